/-! BASE 9: rows over the object that is held whole -/
set_option maxRecDepth 100000
section RW
variable {M : Mx} {N : Nx} {cc : ByteArray} {own : String} {fR lO : Nat} {σ : Sg} {σs : List Sg} {st : hS} {pc : Nat} {lv : List (Nat × Tv)} {stk : List Tv} {ci b : Nat} {ad : Nat → Nat}
theorem clA_nf {ci : Nat} (h : ci = 0 ∨ ci = 6) : ∃ Cn T, clA[ci]? = some (Cn, T, nfA ci) := by
  rcases h with rfl | rfl
  · exact ⟨_, _, rfl⟩
  · exact ⟨_, _, rfl⟩
theorem r_sg (hsp : np N = [(ci, b, ad)]) {k index : Nat} (hG : FldG own index [(ci, k)]) {v : Tv} (hv2 : sgV ci ad σ k = tv v) (hd : decode cc pc = .ok (.getfield index, 3)) (h : AtPc cc own fR lO N [σ] st (pc + 3) lv (v :: stk)) : AtPc cc own fR lO N [σ] st pc lv (tr (some b) :: stk) := by
  intro rr
  refine ⟨(h rr).1, fun K C H locs cells slots ls s w => ?_⟩
  obtain ⟨o1, o2, o3⟩ := s.mine hsp
  obtain ⟨Cn, T, N9, ref, g1, g2, g3, g4, g5⟩ := hG (ci, k) List.mem_cons_self
  obtain ⟨Cn', T', hcl⟩ := clA_nf o1.1
  have e9 := g1.symm.trans hcl
  cases e9
  refine Wg_get C g1 g2 k g3 g4 (hsame_of C g5) (o2.1.c (c := 0)) hd ?_
  show WK _ _ _ _ _ _ (F0 _ _ _ (sgV ci ad σ k :: _))
  rw [hv2]
  exact (h rr).2 K C H locs cells slots ls s w
theorem r_sI (hsp : np N = [(ci, b, ad)]) (k : Nat) {index : Nat} (hG : FldG own index [(ci, k)]) (hk : (kdA ci k).1 < 2) (hd : decode cc pc = .ok (.getfield index, 3)) (h : AtPc cc own fR lO N [σ] st (pc + 3) lv (ti (gI σ k) :: stk)) : AtPc cc own fR lO N [σ] st pc lv (tr (some b) :: stk) :=
  r_sg (v := ti (gI σ k)) hsp hG (sgV_I hk ad σ) hd h
theorem r_sL (hsp : np N = [(ci, b, ad)]) (k : Nat) {index : Nat} (hG : FldG own index [(ci, k)]) (hk : (kdA ci k).1 = 2) (hd : decode cc pc = .ok (.getfield index, 3)) (h : AtPc cc own fR lO N [σ] st (pc + 3) lv (tl (gI σ k) :: stk)) : AtPc cc own fR lO N [σ] st pc lv (tr (some b) :: stk) :=
  r_sg (v := tl (gI σ k)) hsp hG (sgV_L hk ad σ) hd h
theorem r_sR (hsp : np N = [(ci, b, ad)]) (k : Nat) {index : Nat} (hG : FldG own index [(ci, k)]) (hk : 3 ≤ (kdA ci k).1) (hd : decode cc pc = .ok (.getfield index, 3)) (h : AtPc cc own fR lO N [σ] st (pc + 3) lv (tr (some (ad k)) :: stk)) : AtPc cc own fR lO N [σ] st pc lv (tr (some b) :: stk) :=
  r_sg (v := tr (some (ad k))) hsp hG (sgV_R hk ad σ) hd h
theorem r_sP (hsp : np N = [(ci, b, ad)]) {k index : Nat} {ty : FieldType} {v : Int} {w : Tv} (hG : FldP own index [(ci, k)] ty false) (hv : (kdA ci k).1 < 2 ∧ w = ti v ∨ (kdA ci k).1 = 2 ∧ w = tl v) (hr : (kdA ci k).1 = 0 ∧ rI v ∨ (kdA ci k).1 = 1 ∧ (v = 0 ∨ v = 1) ∨ (kdA ci k).1 = 2 ∧ rL v) (hn : narrow ty (tv w) = tv w ∧ fits ty (tv w) = true) (hd : decode cc pc = .ok (.putfield index, 3)) (h : AtPc cc own fR lO N [sI σ k v] st (pc + 3) lv stk) : AtPc cc own fR lO N [σ] st pc lv (w :: tr (some b) :: stk) := by
  intro rr
  have h := h (rr.sg hsp ((rr.mine hsp).ui k v hr))
  refine ⟨h.1, fun K C H locs cells slots ls s w9 => ?_⟩
  obtain ⟨o1, o2, o3⟩ := s.mine hsp
  obtain ⟨Cn, T, N9, ref, ty0, g1, g2, g3, g4, g5, g6, g7, g8, g9, g10⟩ := hG (ci, k) List.mem_cons_self
  obtain ⟨Cn', T', hcl⟩ := clA_nf o1.1
  have e9 := g1.symm.trans hcl
  cases e9
  refine Wg_put C g1 g2 ty0 g6 g7 k g3 g4 (hsame_of C g5) (g9.imp id fun q => absurd q.2.1 (by decide)) (by rw [g8]; exact hn.1) (by rw [g8]; exact hn.2) o2.1 hd fun H' x q1 q2 q3 => ?_
  refine h.2 K C H' _ cells slots ls (s.sg hsp (Or.inl rfl) ⟨q1.to fun j _ => sgV_sI (by rcases hv with ⟨a1, rfl⟩ | ⟨a1, rfl⟩; exact Or.inl ⟨a1, rfl⟩; exact Or.inr ⟨a1, rfl⟩) j, fun j hj => ?_⟩ q2 q3) w9
  have h1 := o2.2 j hj
  unfold sgArr at h1 ⊢
  have h4 : 4 ≤ (kdA ci j).1 → H'[ad j]? = H[ad j]? := fun q => q3 _ (o1.2.1 j hj q)
  show match kdA ci j with
    | (4, n, t) => H'[ad j]? = some (vp_cell (gT (nG N) t) (cA (gA (sI σ k v) j) n))
    | (5, n, t) => H'[ad j]? = some (vp_cell (gT (nG N) t) (cQ (gQ (sI σ k v) j) n))
    | _ => True
  have h1 : match kdA ci j with
    | (4, n, t) => H[ad j]? = some (vp_cell (gT (nG N) t) (cA (gA σ j) n))
    | (5, n, t) => H[ad j]? = some (vp_cell (gT (nG N) t) (cQ (gQ σ j) n))
    | _ => True := h1
  generalize kdA ci j = d at h1 h4 ⊢
  split at h1
  · exact (h4 (Nat.le_refl 4)).trans h1
  · exact (h4 (Nat.le_succ 4)).trans h1
  · trivial
theorem r_sPI (hsp : np N = [(ci, b, ad)]) (k : Nat) {index : Nat} {v : Int} (hG : FldP own index [(ci, k)] .int false) (hk : (kdA ci k).1 = 0) (hr : rI v) (hd : decode cc pc = .ok (.putfield index, 3)) (h : AtPc cc own fR lO N [sI σ k v] st (pc + 3) lv stk) : AtPc cc own fR lO N [σ] st pc lv (ti v :: tr (some b) :: stk) :=
  r_sP hsp hG (Or.inl ⟨by omega, rfl⟩) (Or.inl ⟨hk, hr⟩) ⟨rfl, rfl⟩ hd h
theorem r_sPZ (hsp : np N = [(ci, b, ad)]) (k : Nat) {index : Nat} {v : Int} (hG : FldP own index [(ci, k)] .boolean false) (hk : (kdA ci k).1 = 1) (hr : v = 0 ∨ v = 1) (hd : decode cc pc = .ok (.putfield index, 3)) (h : AtPc cc own fR lO N [sI σ k v] st (pc + 3) lv stk) : AtPc cc own fR lO N [σ] st pc lv (ti v :: tr (some b) :: stk) :=
  r_sP hsp hG (Or.inl ⟨by omega, rfl⟩) (Or.inr (Or.inl ⟨hk, hr⟩)) (by rcases hr with rfl | rfl; exact ⟨rfl, rfl⟩; exact ⟨rfl, rfl⟩) hd h
theorem r_sPL (hsp : np N = [(ci, b, ad)]) (k : Nat) {index : Nat} {v : Int} (hG : FldP own index [(ci, k)] .long false) (hk : (kdA ci k).1 = 2) (hr : rL v) (hd : decode cc pc = .ok (.putfield index, 3)) (h : AtPc cc own fR lO N [sI σ k v] st (pc + 3) lv stk) : AtPc cc own fR lO N [σ] st pc lv (tl v :: tr (some b) :: stk) :=
  r_sP hsp hG (Or.inr ⟨hk, rfl⟩) (Or.inr (Or.inr ⟨hk, hr⟩)) ⟨rfl, rfl⟩ hd h
/-- an int array of the object: read, written -/
theorem Sit.arr {H : Heap} {locs : List Loc} {cells slots : Nat} (hsp : mp M = [(ci, b, ad)]) (s : Sit M [σ] st H locs cells slots) (k : Nat) (hk : k < nfA ci) {n t : Nat} (hd : kdA ci k = (4, n, t)) : H[ad k]? = some (vp_cell (gT (mG M) t) (cA (gA σ k) n)) := by
  have h1 := (s.mine hsp).2.1.2 k hk
  unfold sgArr at h1
  have h1 : match kdA ci k with
    | (4, n, t) => H[ad k]? = some (vp_cell (gT (mG M) t) (cA (gA σ k) n))
    | (5, n, t) => H[ad k]? = some (vp_cell (gT (mG M) t) (cQ (gQ σ k) n))
    | _ => True := h1
  rw [hd] at h1
  exact h1
theorem Sit.arq {H : Heap} {locs : List Loc} {cells slots : Nat} (hsp : mp M = [(ci, b, ad)]) (s : Sit M [σ] st H locs cells slots) (k : Nat) (hk : k < nfA ci) {n t : Nat} (hd : kdA ci k = (5, n, t)) : H[ad k]? = some (vp_cell (gT (mG M) t) (cQ (gQ σ k) n)) := by
  have h1 := (s.mine hsp).2.1.2 k hk
  unfold sgArr at h1
  have h1 : match kdA ci k with
    | (4, n, t) => H[ad k]? = some (vp_cell (gT (mG M) t) (cA (gA σ k) n))
    | (5, n, t) => H[ad k]? = some (vp_cell (gT (mG M) t) (cQ (gQ σ k) n))
    | _ => True := h1
  rw [hd] at h1
  exact h1
theorem r_saI (hsp : np N = [(ci, b, ad)]) (k : Nat) {n t : Nat} (hkd : kdA ci k = (4, n, t)) (hk : k < nfA ci) (ht : t < 3) {i : Int} (hi : rI i) (hin : inb i n) {op : Instr} (hop : opL t op) (hd : decode cc pc = .ok (op, 1)) (h : AtPc cc own fR lO N [σ] st (pc + 1) lv (ti (gA σ k i) :: stk)) : AtPc cc own fR lO N [σ] st pc lv (ti i :: tr (some (ad k)) :: stk) := by
  intro rr
  refine ⟨(h rr).1, fun K C H locs cells slots ls s w => ?_⟩
  exact Wa_iald C ht (s.arr hsp k hk hkd) hi hin.1 hin.2 hop hd ((h rr).2 K C H locs cells slots ls s w)
theorem r_saQ (hsp : np N = [(ci, b, ad)]) (k : Nat) {n t : Nat} (hkd : kdA ci k = (5, n, t)) (hk : k < nfA ci) (ht : 3 ≤ t) (ht8 : t < 8) {i : Int} (hi : rI i) (hin : inb i n) (hd : decode cc pc = .ok (.aaload, 1)) (h : AtPc cc own fR lO N [σ] st (pc + 1) lv (tr (gQ σ k i) :: stk)) : AtPc cc own fR lO N [σ] st pc lv (ti i :: tr (some (ad k)) :: stk) := by
  intro rr
  refine ⟨(h rr).1, fun K C H locs cells slots ls s w => ?_⟩
  exact Wa_aald C ht ht8 (arA.mk (s.arq hsp k hk hkd)) hi hin.1 hin.2 hd ((h rr).2 K C H locs cells slots ls s w)
/-- the other arrays and the fields stay -/
theorem sg_other {G : Gx} {σ' : Sg} {H H' : Heap} {k : Nat} (o1 : spOK (ci, b, ad)) (o2 : sgAt G (ci, b, ad) σ H) (hk : k < nfA ci) (hk4 : 4 ≤ (kdA ci k).1) (oq : ∀ q : Nat, q ≠ ad k → H'[q]? = H[q]?) (hI : ∀ j, gI σ' j = gI σ j) (hA : ∀ j, j ≠ k → gA σ' j = gA σ j) (hQ : ∀ j, j ≠ k → gQ σ' j = gQ σ j) (hs : sgArr G ci ad σ' k H') : sgAt G (ci, b, ad) σ' H' := by
  refine ⟨(o2.1.kept (oq _ (o1.2.1 k hk hk4).symm)).to fun j _ => ?_, fun j hj => ?_⟩
  · show sgV ci ad σ j = sgV ci ad σ' j
    unfold sgV
    rw [hI]
  · by_cases hjk : j = k
    · rw [hjk]; exact hs
    · have h1 := o2.2 j hj
      unfold sgArr at h1 ⊢
      have h4 : 4 ≤ (kdA ci j).1 → H'[ad j]? = H[ad j]? := fun q => oq _ (fun e => hjk (o1.2.2 j k hj hk q hk4 e))
      show match kdA ci j with
        | (4, n, t) => H'[ad j]? = some (vp_cell (gT G t) (cA (gA σ' j) n))
        | (5, n, t) => H'[ad j]? = some (vp_cell (gT G t) (cQ (gQ σ' j) n))
        | _ => True
      have h1 : match kdA ci j with
        | (4, n, t) => H[ad j]? = some (vp_cell (gT G t) (cA (gA σ j) n))
        | (5, n, t) => H[ad j]? = some (vp_cell (gT G t) (cQ (gQ σ j) n))
        | _ => True := h1
      rw [hA j hjk, hQ j hjk]
      generalize kdA ci j = d at h1 h4 ⊢
      split at h1
      · exact (h4 (Nat.le_refl 4)).trans h1
      · exact (h4 (Nat.le_succ 4)).trans h1
      · trivial
theorem r_saP (hsp : np N = [(ci, b, ad)]) (k : Nat) {n t : Nat} (hkd : kdA ci k = (4, n, t)) (hk : k < nfA ci) (ht : t < 3) {i v : Int} (hi : rI i) (hin : inb i n) (hv : sOK t v) {op : Instr} (hop : opS t op) (hd : decode cc pc = .ok (op, 1)) (h : AtPc cc own fR lO N [sA σ k i v] st (pc + 1) lv stk) : AtPc cc own fR lO N [σ] st pc lv (ti v :: ti i :: tr (some (ad k)) :: stk) := by
  intro rr
  have h := h (rr.sg hsp ((rr.mine hsp).ua k i v hkd (hv.a ht)))
  refine ⟨h.1, fun K C H locs cells slots ls s w => ?_⟩
  obtain ⟨o1, o2, o3⟩ := s.mine hsp
  refine Wa_iast C ht (s.arr hsp k hk hkd) hi hin.1 hin.2 hv hop hd fun H' x e z oq => ?_
  have hk4 : 4 ≤ (kdA ci k).1 := by rw [hkd]; exact Nat.le_refl 4
  refine h.2 K C H' _ cells slots ls (s.sg hsp (Or.inr ⟨k, hk, hk4, rfl⟩) (sg_other o1 o2 hk hk4 oq (fun _ => rfl) (fun j hj => by funext y; rw [gA_sA, if_neg (fun q => hj q.1)]) (fun _ _ => rfl) ?_) z oq) w
  unfold sgArr
  rw [hkd]
  show H'[ad k]? = some (vp_cell (gT (nG N) t) (cA (gA (sA σ k i v) k) n))
  rw [e]
  congr 3
  funext y
  rw [gA_sA]
  unfold upI
  by_cases hy : y = i
  · rw [if_pos hy, if_pos ⟨rfl, hy⟩]
  · rw [if_neg hy, if_neg (fun q => hy q.2)]
/-- what is stored in an array of references is null, or an object of one of its classes -/
def stoOK (t : Nat) (P : List Nat) : Prop := 15 ∉ P ∧ ∀ c ∈ P, ∃ (r : vw_C) (cj : Nat) (rj : vw_C), clA[c]? = some r ∧ clA[cj]? = some rj ∧ tyN t = .object rj.1 ∧ (r.1 = rj.1 ∨ Cond.castable r.1 rj.1 ∈ lw_tbl)
theorem Wa_sto (C : Cx M cc own fR lO) {H : Heap} {locs : List Loc} {cells slots : Nat} {ls : Array Slot} {rest : List Value} {t n : Nat} (ht : 3 ≤ t) (ht8 : t < 7) {f : Int → Option Nat} {a : Nat} (ha : H[a]? = some (vp_cell (gT (mG M) t) (cQ f n))) {i : Int} (hi : rI i) (h0 : 0 ≤ i) (h1 : i < (n : Int)) {P : List Nat} (hP : stoOK t P) {v : Option Nat} (hv : v = none ∨ ∃ c ∈ P, hC st v = some c) (s : Sit M σs st H locs cells slots) (hd : decode cc pc = .ok (.aastore, 1))
    (kk : ∀ (H' : Heap) (x : Nat), H'[a]? = some (vp_cell (gT (mG M) t) (cQ (upI f i v) n)) → H'.size = H.size → (∀ q : Nat, q ≠ a → H'[q]? = H[q]?) → WK (mK M) H' (locs ++ [⟨a, x⟩]) cells slots (mQ M) (F0 (km (mK M)) (pc + 1) ls rest)) : WK (mK M) H locs cells slots (mQ M) (F0 (km (mK M)) pc ls (va_rf v :: .int (I32 i) :: .ref a :: rest)) := by
  cases v with
  | none => exact Wa_aastN C ht (by omega) ha hi h0 h1 hd kk
  | some y =>
    rcases hv with hv | ⟨c, hc, hv⟩
    · cases hv
    · obtain ⟨y', fs, e, hy⟩ := hC_o hv
      cases e
      obtain ⟨r, cj, rj, g1, g2, g3, g4⟩ := hP.2 c hc
      obtain ⟨r', h9, h10⟩ := s.ob hy
      cases g1.symm.trans h9
      exact Wa_aast C ht ht8 ha hi h0 h1 g1 (h10.s (fun q => hP.1 (q ▸ hc))) ⟨cj, rj, g2, g3, g4⟩ hd kk
theorem r_saPQ (hsp : np N = [(ci, b, ad)]) (k : Nat) {n t : Nat} (hkd : kdA ci k = (5, n, t)) (hk : k < nfA ci) (ht : 3 ≤ t) (ht8 : t < 7) {P : List Nat} (hP : stoOK t P) {i : Int} {v : Option Nat} (hi : rI i) (hin : inb i n) (hv : v = none ∨ ∃ c ∈ P, hC st v = some c) (hd : decode cc pc = .ok (.aastore, 1)) (h : AtPc cc own fR lO N [sQ σ k i v] st (pc + 1) lv stk) : AtPc cc own fR lO N [σ] st pc lv (tr v :: ti i :: tr (some (ad k)) :: stk) := by
  intro rr
  have h := h (rr.sg hsp ((rr.mine hsp).uq k i v))
  refine ⟨h.1, fun K C H locs cells slots ls s w => ?_⟩
  obtain ⟨o1, o2, o3⟩ := s.mine hsp
  refine Wa_sto C ht ht8 (s.arq hsp k hk hkd) hi hin.1 hin.2 hP hv s hd fun H' x e z oq => ?_
  have hk4 : 4 ≤ (kdA ci k).1 := by rw [hkd]; exact Nat.le_succ 4
  refine h.2 K C H' _ cells slots ls (s.sg hsp (Or.inr ⟨k, hk, hk4, rfl⟩) (sg_other o1 o2 hk hk4 oq (fun _ => rfl) (fun _ _ => rfl) (fun j hj => by funext y; rw [gQ_sQ, if_neg (fun q => hj q.1)]) ?_) z oq) w
  unfold sgArr
  rw [hkd]
  show H'[ad k]? = some (vp_cell (gT (nG N) t) (cQ (gQ (sQ σ k i v) k) n))
  rw [e]
  congr 3
  funext y
  rw [gQ_sQ]
  unfold upI
  by_cases hy : y = i
  · rw [if_pos hy, if_pos ⟨rfl, hy⟩]
  · rw [if_neg hy, if_neg (fun q => hy q.2)]
/-! arrays of the heap -/
theorem r_aI {o : Option Nat} {t : Nat} {i v : Int} (hi : rI i) (hv9 : aI st o t i = some v) {op : Instr} (hop : opL t op) (hd : decode cc pc = .ok (op, 1)) (h : AtPc cc own fR lO N σs st (pc + 1) lv (ti v :: stk)) : AtPc cc own fR lO N σs st pc lv (ti i :: tr o :: stk) := by
  obtain ⟨a, n, f, rfl, e, h0, h1, rfl⟩ := aI_o hv9
  intro rr
  refine ⟨(h rr).1, fun K C H locs cells slots ls s w => ?_⟩
  obtain ⟨ht, ha⟩ := (s.1.2.2.2.1 a _ e).1
  exact Wa_iald C ht ha hi h0 h1 hop hd ((h rr).2 K C H locs cells slots ls s w)
theorem r_aQ {o : Option Nat} {t : Nat} {i : Int} {v : Option Nat} (hi : rI i) (hv9 : aQ st o t i = some v) (hd : decode cc pc = .ok (.aaload, 1)) (h : AtPc cc own fR lO N σs st (pc + 1) lv (tr v :: stk)) : AtPc cc own fR lO N σs st pc lv (ti i :: tr o :: stk) := by
  obtain ⟨a, n, f, rfl, e, h0, h1, rfl⟩ := aQ_o hv9
  intro rr
  refine ⟨(h rr).1, fun K C H locs cells slots ls s w => ?_⟩
  obtain ⟨ht, ht8, ha⟩ := (s.1.2.2.2.1 a _ e).1
  exact Wa_aald C ht ht8 ha hi h0 h1 hd ((h rr).2 K C H locs cells slots ls s w)
theorem r_aL {o : Option Nat} {t : Nat} {v : Int} (hv9 : hL st o t = some v) (hd : decode cc pc = .ok (.arraylength, 1)) (h : AtPc cc own fR lO N σs st (pc + 1) lv (ti v :: stk)) : AtPc cc own fR lO N σs st pc lv (tr o :: stk) := by
  obtain ⟨a, n, f, rfl, e, rfl⟩ := hL_o hv9
  intro rr
  refine ⟨(h rr).1, fun K C H locs cells slots ls s w => ?_⟩
  have h9 := (s.1.2.2.2.1 a _ e).1
  rcases f with f | f
  · obtain ⟨ht, ha⟩ := h9
    exact Wa_alen C (by omega) (z := fun j => .int (I32 (f (j : Int)))) ha hd ((h rr).2 K C H locs cells slots ls s w)
  · obtain ⟨ht, ht8, ha⟩ := h9
    exact Wa_alenQ C ht8 ha hd ((h rr).2 K C H locs cells slots ls s w)
theorem r_aPI {o : Option Nat} {t : Nat} {i v : Int} {st' : hS} (hi : rI i) (hv : sOK t v) (hw9 : aWI st o t i v = some st') {op : Instr} (hop : opS t op) (ht3 : t < 3) (hd : decode cc pc = .ok (op, 1)) (h : AtPc cc own fR lO N σs st' (pc + 1) lv stk) : AtPc cc own fR lO N σs st pc lv (ti v :: ti i :: tr o :: stk) := by
  obtain ⟨a, n, f, rfl, e, h0, h1, rfl⟩ := aWI_o hw9
  intro rr
  have hv2 := hv.a ht3
  have hup : ∀ {g : Int → Int}, aOK t g → aOK t (upI g i v) := fun {g} hg => by
    refine ⟨fun x => ?_, fun ht x => ?_, fun ht x => ?_⟩
    · unfold upI; split
      · exact hv2.1
      · exact hg.1 x
    · unfold upI; split
      · exact hv2.2.1 ht
      · exact hg.2.1 ht x
    · unfold upI; split
      · exact hv2.2.2 ht
      · exact hg.2.2 ht x
  have he := rr.2 a _ e
  have h := h (rr.up (e' := .inr (t, n, .inl (upI f i v))) ⟨hup he.1, he.2⟩)
  refine ⟨h.1, fun K C H locs cells slots ls s w => ?_⟩
  obtain ⟨ht, ha⟩ := (s.1.2.2.2.1 a _ e).1
  exact Wa_iast C ht ha hi h0 h1 hv hop hd fun H' x e2 z oq => h.2 K C H' _ cells slots ls (s.up e (fun q => by have q : t = 7 := q; omega) ⟨ht, e2⟩ z oq) w
theorem r_aPQ {o : Option Nat} {t : Nat} {P : List Nat} {i : Int} {v : Option Nat} {st' : hS} (hi : rI i) (hw9 : aWQ st o t P i v = some st') (hP : stoOK t P) (ht7 : t ≠ 7) (hd : decode cc pc = .ok (.aastore, 1)) (h : AtPc cc own fR lO N σs st' (pc + 1) lv stk) : AtPc cc own fR lO N σs st pc lv (tr v :: ti i :: tr o :: stk) := by
  obtain ⟨a, n, f, rfl, e, h0, h1, hv, rfl⟩ := aWQ_o hw9
  intro rr
  have he := rr.2 a _ e
  have h := h (rr.up (e' := .inr (t, n, .inr (upI f i v))) he)
  refine ⟨h.1, fun K C H locs cells slots ls s w => ?_⟩
  obtain ⟨ht, ht8, ha⟩ := (s.1.2.2.2.1 a _ e).1
  exact Wa_sto C ht (by omega) (ha.s (by omega)) hi h0 h1 hP hv s hd fun H' x e2 z oq => h.2 K C H' _ cells slots ls (s.up e (fun q => ht7 q) ⟨ht, ht8, arA.mk e2⟩ z oq) w
end RW
