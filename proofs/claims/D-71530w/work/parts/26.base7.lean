/-! BASE 7: rows over the pure world: heap objects -/
set_option maxRecDepth 100000
def hT (v : hV) : Tv := match v with
  | .inl i => ti i
  | .inr (.inl o) => tr o
  | .inr (.inr (.inl u)) => tf u
  | .inr (.inr (.inr l)) => tl l
theorem tv_hT (v : hV) : tv (hT v) = hv v := by
  rcases v with i | o | u | l <;> rfl
/-- a field by its number in the pool: of each class that may come, its place, and the words -/
def FldG (own : String) (index : Nat) (P : List (Nat × Nat)) : Prop := ∀ q ∈ P, ∃ (Cn : String) (T : u_T) (N : Nat) (ref : String), clA[q.1]? = some (Cn, T, N) ∧ (∀ w ∈ u_ws Cn T N, w ∈ lw_all) ∧ q.2 < N ∧ Cond.fieldLink own index ref (T q.2).2.1 (T q.2).2.2.1 ∈ lw_all ∧ ((T q.2).1 = ref ∨ Cond.sameField ref (T q.2).1 (T q.2).2.1 (T q.2).2.2.1 ∈ lw_all)
def FldP (own : String) (index : Nat) (P : List (Nat × Nat)) (ty : FieldType) (init : Bool) : Prop := ∀ q ∈ P, ∃ (Cn : String) (T : u_T) (N : Nat) (ref : String) (ty0 : Nat → FieldType), clA[q.1]? = some (Cn, T, N) ∧ (∀ w ∈ u_ws Cn T N, w ∈ lw_all) ∧ q.2 < N ∧ Cond.fieldLink own index ref (T q.2).2.1 (T q.2).2.2.1 ∈ lw_all ∧ ((T q.2).1 = ref ∨ Cond.sameField ref (T q.2).1 (T q.2).2.1 (T q.2).2.2.1 ∈ lw_all) ∧
  (∀ k, k < N → parseFieldDescriptor (T k).2.2.1 = some (ty0 k)) ∧ (∀ a, a < N → ∀ b, b < N → a ≠ b → (T a).2.1 ≠ (T b).2.1) ∧ ty0 q.2 = ty ∧ ((T q.2).2.2.2 = false ∨ (T q.2).2.2.2 = true ∧ init = true ∧ (T q.2).1 = own) ∧ q.1 ≠ 15
def vOK (ty : FieldType) (v : hV) : Prop := match ty, v with
  | .int, .inl i => rI i
  | .boolean, .inl i => i = 0 ∨ i = 1
  | .object _, .inr (.inl _) => True
  | .array _, .inr (.inl _) => True
  | .float, .inr (.inr (.inl _)) => True
  | _, _ => False
theorem vOK.nar {ty : FieldType} {v : hV} (h : vOK ty v) : narrow ty (hv v) = hv v ∧ fits ty (hv v) = true ∧ ∀ i, v = vi i → rI i := by
  unfold vOK at h
  split at h
  · exact ⟨rfl, rfl, fun i e => by cases e; exact h⟩
  · rcases h with rfl | rfl
    · exact ⟨rfl, rfl, fun i e => by cases e; decide⟩
    · exact ⟨rfl, rfl, fun i e => by cases e; decide⟩
  · rename_i o
    refine ⟨rfl, ?_, fun i e => by cases e⟩
    cases o <;> rfl
  · rename_i o
    refine ⟨rfl, ?_, fun i e => by cases e⟩
    cases o <;> rfl
  · exact ⟨rfl, rfl, fun i e => by cases e⟩
  · exact h.elim
theorem lookup_mem {P : List (Nat × Nat)} {c k : Nat} (h : P.lookup c = some k) : (c, k) ∈ P := by
  induction P with
  | nil => cases h
  | cons q l ih =>
    obtain ⟨a, b⟩ := q
    rw [List.lookup_cons] at h
    by_cases hc : c == a
    · simp only [hc] at h
      cases h
      rw [beq_iff_eq] at hc
      rw [hc]
      exact List.mem_cons_self
    · simp only [Bool.not_eq_true] at hc
      simp only [hc] at h
      exact List.mem_cons_of_mem _ (ih h)
theorem hF_o {st : hS} {a : Nat} {P : List (Nat × Nat)} {v : hV} (h : hF st a P = some v) : ∃ c fs k, st.1 a = some (.inl (c, fs)) ∧ (c, k) ∈ P ∧ fs[k]? = some v := by
  unfold hF at h
  split at h
  · rename_i c fs e
    split at h
    · rename_i k hk
      exact ⟨c, fs, k, e, lookup_mem hk, h⟩
    · cases h
  · cases h
theorem hI_o {st : hS} {o : Option Nat} {P : List (Nat × Nat)} {v : Int} (h : hI st o P = some v) : ∃ a, o = some a ∧ hF st a P = some (vi v) := by
  replace h := nn_o h
  obtain ⟨a, rfl, h⟩ := h
  refine ⟨a, rfl, ?_⟩
  split at h
  · rename_i i e
    cases h
    exact e
  · cases h
theorem hQ_o {st : hS} {o : Option Nat} {P : List (Nat × Nat)} {v : Option Nat} (h : hQ st o P = some v) : ∃ a, o = some a ∧ hF st a P = some (vq v) := by
  replace h := nn_o h
  obtain ⟨a, rfl, h⟩ := h
  refine ⟨a, rfl, ?_⟩
  split at h
  · rename_i i e
    cases h
    exact e
  · cases h
theorem hI_r {sps : List Sp} {σs : List Sg} {st : hS} (rr : RR sps σs st) {o : Option Nat} {P : List (Nat × Nat)} {v : Int} (h : hI st o P = some v) : rI v := by
  replace h := hI_o h
  obtain ⟨a, rfl, h⟩ := h
  obtain ⟨c, fs, k, e, -, hk⟩ := hF_o h
  exact rr.2 a _ e v (List.mem_of_getElem? hk)
theorem aI_o {st : hS} {o : Option Nat} {t : Nat} {i v : Int} (h : aI st o t i = some v) : ∃ a n f, o = some a ∧ st.1 a = some (.inr (t, n, .inl f)) ∧ 0 ≤ i ∧ i < (n : Int) ∧ v = f i := by
  replace h := nn_o h
  obtain ⟨a, rfl, h⟩ := h
  split at h
  · rename_i t' n f e
    split at h
    · rename_i hc
      cases h
      obtain ⟨rfl, h1, h2⟩ := hc
      exact ⟨a, n, f, rfl, e, h1, h2, rfl⟩
    · cases h
  · cases h
theorem aI_r {sps : List Sp} {σs : List Sg} {st : hS} (rr : RR sps σs st) {o : Option Nat} {t : Nat} {i v : Int} (h : aI st o t i = some v) : rI v := by
  obtain ⟨a, n, f, rfl, e, -, -, rfl⟩ := aI_o h
  exact (rr.2 a _ e).1.1 i
theorem aQ_o {st : hS} {o : Option Nat} {t : Nat} {i : Int} {v : Option Nat} (h : aQ st o t i = some v) : ∃ a n f, o = some a ∧ st.1 a = some (.inr (t, n, .inr f)) ∧ 0 ≤ i ∧ i < (n : Int) ∧ v = f i := by
  replace h := nn_o h
  obtain ⟨a, rfl, h⟩ := h
  split at h
  · rename_i t' n f e
    split at h
    · rename_i hc
      cases h
      obtain ⟨rfl, h1, h2⟩ := hc
      exact ⟨a, n, f, rfl, e, h1, h2, rfl⟩
    · cases h
  · cases h
theorem hL_o {st : hS} {o : Option Nat} {t : Nat} {v : Int} (h : hL st o t = some v) : ∃ a n f, o = some a ∧ st.1 a = some (.inr (t, n, f)) ∧ v = (n : Int) := by
  replace h := nn_o h
  obtain ⟨a, rfl, h⟩ := h
  split at h
  · rename_i t' n f e
    split at h
    · rename_i hc
      cases h
      subst hc
      exact ⟨a, n, f, rfl, e, rfl⟩
    · cases h
  · cases h
theorem hL_r {sps : List Sp} {σs : List Sg} {st : hS} (rr : RR sps σs st) {o : Option Nat} {t : Nat} {v : Int} (h : hL st o t = some v) : rI v := by
  obtain ⟨a, n, f, rfl, e, rfl⟩ := hL_o h
  have h1 := rr.2 a _ e
  rcases f with f | f
  · have := h1.2; constructor <;> omega
  · have : n < 2147483648 := h1; constructor <;> omega
theorem hC_o {st : hS} {o : Option Nat} {c : Nat} (h : hC st o = some c) : ∃ a fs, o = some a ∧ st.1 a = some (.inl (c, fs)) := by
  replace h := nn_o h
  obtain ⟨a, rfl, h⟩ := h
  split at h
  · rename_i c' fs e
    cases h
    exact ⟨a, fs, rfl, e⟩
  · cases h
def inC (st : hS) (o : Option Nat) (P : List Nat) : Bool := match hC st o with
  | some c => P.contains c
  | none => false
theorem inC_o {st : hS} {o : Option Nat} {P : List Nat} (h : inC st o P = true) : ∃ c ∈ P, hC st o = some c := by
  unfold inC at h
  split at h
  · rename_i c e
    exact ⟨c, by simpa using h, e⟩
  · cases h
theorem inC_p {st : hS} {o : Option Nat} {P : List Nat} (h : o = none ∨ inC st o P = true) : o = none ∨ ∃ c ∈ P, hC st o = some c := h.imp id inC_o
theorem hW_o {st st' : hS} {o : Option Nat} {P : List (Nat × Nat)} {v : hV} (h : hW st o P v = some st') : ∃ a c fs k, o = some a ∧ st.1 a = some (.inl (c, fs)) ∧ (c, k) ∈ P ∧ k < fs.length ∧ st' = hup st a (.inl (c, fs.set k v)) := by
  replace h := nn_o h
  obtain ⟨a, rfl, h⟩ := h
  split at h
  · rename_i c fs e
    split at h
    · rename_i k hk
      split at h
      · rename_i hl
        cases h
        exact ⟨a, c, fs, k, rfl, e, lookup_mem hk, hl, rfl⟩
      · cases h
    · cases h
  · cases h
theorem aWI_o {st st' : hS} {o : Option Nat} {t : Nat} {i v : Int} (h : aWI st o t i v = some st') : ∃ a n f, o = some a ∧ st.1 a = some (.inr (t, n, .inl f)) ∧ 0 ≤ i ∧ i < (n : Int) ∧ st' = hup st a (.inr (t, n, .inl (upI f i v))) := by
  replace h := nn_o h
  obtain ⟨a, rfl, h⟩ := h
  split at h
  · rename_i t' n f e
    split at h
    · rename_i hc
      cases h
      obtain ⟨rfl, h1, h2⟩ := hc
      exact ⟨a, n, f, rfl, e, h1, h2, rfl⟩
    · cases h
  · cases h
theorem aWQ_o {st st' : hS} {o : Option Nat} {t : Nat} {P : List Nat} {i : Int} {v : Option Nat} (h : aWQ st o t P i v = some st') : ∃ a n f, o = some a ∧ st.1 a = some (.inr (t, n, .inr f)) ∧ 0 ≤ i ∧ i < (n : Int) ∧ (v = none ∨ ∃ c ∈ P, hC st v = some c) ∧ st' = hup st a (.inr (t, n, .inr (upI f i v))) := by
  replace h := nn_o h
  obtain ⟨a, rfl, h⟩ := h
  split at h
  · rename_i t' n f e
    split at h
    · rename_i hc
      cases h
      obtain ⟨rfl, h1, h2, h3⟩ := hc
      exact ⟨a, n, f, rfl, e, h1, h2, h3, rfl⟩
    · cases h
  · cases h
theorem vp_map (fs : List hV) {k : Nat} {v : hV} (h : fs[k]? = some v) : vp_V (fs.map hv) k = hv v := by
  unfold vp_V
  rw [List.getD_eq_getElem?_getD, List.getElem?_map, h]
  rfl
section RW
variable {M : Mx} {N : Nx} {cc : ByteArray} {own : String} {fR lO : Nat} {σs : List Sg} {st : hS} {pc : Nat} {lv : List (Nat × Tv)} {stk : List Tv}
theorem hsame_of (C : Cx M cc own fR lO) {ref O n d : String} (h : O = ref ∨ Cond.sameField ref O n d ∈ lw_all) : ∀ x, (ks (mK M)).fieldFound? O n d = some x → (ks (mK M)).fieldFound? ref n d = some x := by
  intro x hx
  rcases h with rfl | h
  · exact hx
  · exact u_same (C.ts _ h) x hx
theorem Sit.ob {H : Heap} {locs : List Loc} {cells slots : Nat} (s : Sit M σs st H locs cells slots) {a c : Nat} {fs : List hV} (e : st.1 a = some (.inl (c, fs))) : ∃ r : vw_C, clA[c]? = some r ∧ t_OBc c a ((gD (mG M)).1 c) r.2.2 ((gD (mG M)).2 c) H (vp_V (fs.map hv)) := by
  obtain ⟨r, h1, h2⟩ := (s.1.2.2.2.1 a _ e).1
  exact ⟨r, h1, h2⟩
theorem r_getF {a : Nat} {P : List (Nat × Nat)} {v : hV} {index : Nat} (hG : FldG own index P) (hv9 : hF st a P = some v) (hd : decode cc pc = .ok (.getfield index, 3)) (h : AtPc cc own fR lO N σs st (pc + 3) lv (hT v :: stk)) : AtPc cc own fR lO N σs st pc lv (tr (some a) :: stk) := by
  intro rr
  refine ⟨(h rr).1, fun K C H locs cells slots ls s w => ?_⟩
  obtain ⟨c, fs, k, e, hm, hk⟩ := hF_o hv9
  obtain ⟨Cn, T, N9, ref, g1, g2, g3, g4, g5⟩ := hG _ hm
  obtain ⟨r, h1, h2⟩ := s.ob e
  have hr : r = (Cn, T, N9) := Option.some.inj (h1.symm.trans g1)
  subst hr
  refine Wg_get C g1 g2 k g3 g4 (hsame_of C g5) h2 hd ?_
  have k9 := (h rr).2 K C H locs cells slots ls s w
  rw [List.map_cons, tv_hT] at k9
  rw [vp_map fs hk]
  exact k9
theorem r_getI {o : Option Nat} {P : List (Nat × Nat)} {v : Int} {index : Nat} (hG : FldG own index P) (hv9 : hI st o P = some v) (hd : decode cc pc = .ok (.getfield index, 3)) (h : AtPc cc own fR lO N σs st (pc + 3) lv (ti v :: stk)) : AtPc cc own fR lO N σs st pc lv (tr o :: stk) := by
  obtain ⟨a, rfl, h9⟩ := hI_o hv9
  exact r_getF hG h9 hd h
theorem r_getQ {o : Option Nat} {P : List (Nat × Nat)} {v : Option Nat} {index : Nat} (hG : FldG own index P) (hv9 : hQ st o P = some v) (hd : decode cc pc = .ok (.getfield index, 3)) (h : AtPc cc own fR lO N σs st (pc + 3) lv (tr v :: stk)) : AtPc cc own fR lO N σs st pc lv (tr o :: stk) := by
  obtain ⟨a, rfl, h9⟩ := hQ_o hv9
  exact r_getF hG h9 hd h
theorem r_put {o : Option Nat} {P : List (Nat × Nat)} {v : hV} {st' : hS} {index : Nat} {ty : FieldType} {init : Bool} (hG : FldP own index P ty init) (hin : init = true → nnm N = "<init>") (hvt : vOK ty v) (hw : hW st o P v = some st') (hd : decode cc pc = .ok (.putfield index, 3)) (h : AtPc cc own fR lO N σs st' (pc + 3) lv stk) : AtPc cc own fR lO N σs st pc lv (hT v :: tr o :: stk) := by
  obtain ⟨a, c, fs, k, rfl, e, hm, hk, rfl⟩ := hW_o hw
  obtain ⟨Cn, T, N9, ref, ty0, g1, g2, g3, g4, g5, g6, g7, g8, g9, g10⟩ := hG _ hm
  obtain ⟨hn, hf, hr9⟩ := hvt.nar
  have hok : RR (np N) σs st → RR (np N) σs (hup st a (.inl (c, fs.set k v))) := fun rr => rr.up (fun i hi => by
    rcases List.mem_or_eq_of_mem_set hi with q | q
    · exact rr.2 a _ e i q
    · exact hr9 i q.symm)
  intro rr
  have h := h (hok rr)
  refine ⟨h.1, fun K C H locs cells slots ls s w => ?_⟩
  obtain ⟨r, h1, h2⟩ := s.ob e
  have hr : r = (Cn, T, N9) := Option.some.inj (h1.symm.trans g1)
  subst hr
  rw [List.map_cons, List.map_cons, tv_hT]
  refine Wg_put C g1 g2 ty0 g6 g7 k g3 g4 (hsame_of C g5) (g9.imp id fun q => ⟨q.1, C.nm.trans (hin q.2.1), q.2.2⟩) (by rw [g8]; exact hn) (by rw [g8]; exact hf) (h2.s (fun q => g10 q)) hd fun H' x q1 q2 q3 => ?_
  refine h.2 K C H' _ cells slots ls (s.up e (fun q => g10 q) ⟨_, g1, (q1.to fun j _ => ?_).c⟩ q2 q3) w
  rw [vp_updV_set (by simpa using hk)]
  simp
end RW
