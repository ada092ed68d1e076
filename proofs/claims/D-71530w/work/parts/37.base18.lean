/-! BASE 18: arrays copied from their start -/
set_option maxRecDepth 100000
def cpI {α : Type} (f g : Int → α) (n : Int) : Int → α := fun j => if 0 ≤ j ∧ j < n then f j else g j
def hCp (st : hS) (o1 o2 : Option Nat) (n : Int) : Option hS := nn o1 fun a1 => nn o2 fun a2 => match st.1 a1, st.1 a2 with
  | some (.inr (t1, n1, .inl f)), some (.inr (t2, n2, .inl g)) => if t1 = 0 ∧ t2 = 0 ∧ 0 ≤ n ∧ n ≤ (n1 : Int) ∧ n ≤ (n2 : Int) then some (hup st a2 (.inr (t2, n2, .inl (cpI f g n)))) else none
  | _, _ => none
def sCA (σ : Sg) (k1 k2 : Nat) (n : Int) : Sg := (σ.1, fun j x => if j = k2 ∧ 0 ≤ x ∧ x < n then σ.2.1 k1 x else σ.2.1 j x, σ.2.2)
def sCQ (σ : Sg) (k1 k2 : Nat) (n : Int) : Sg := (σ.1, σ.2.1, fun j x => if j = k2 ∧ 0 ≤ x ∧ x < n then σ.2.2 k1 x else σ.2.2 j x)
def okQ (st : hS) (σ : Sg) (k n c : Nat) : Bool := (List.range n).all fun i => match gQ σ k (i : Int) with
  | none => true
  | some y => hC st (some y) == some c
theorem gA_sCA (σ : Sg) (k1 k2 j : Nat) (n x : Int) : gA (sCA σ k1 k2 n) j x = if j = k2 ∧ 0 ≤ x ∧ x < n then gA σ k1 x else gA σ j x := rfl
theorem gQ_sCQ (σ : Sg) (k1 k2 j : Nat) (n x : Int) : gQ (sCQ σ k1 k2 n) j x = if j = k2 ∧ 0 ≤ x ∧ x < n then gQ σ k1 x else gQ σ j x := rfl
theorem gI_sCA (σ : Sg) (k1 k2 j : Nat) (n : Int) : gI (sCA σ k1 k2 n) j = gI σ j := rfl
theorem gQ_sCA (σ : Sg) (k1 k2 j : Nat) (n x : Int) : gQ (sCA σ k1 k2 n) j x = gQ σ j x := rfl
theorem gI_sCQ (σ : Sg) (k1 k2 j : Nat) (n : Int) : gI (sCQ σ k1 k2 n) j = gI σ j := rfl
theorem gA_sCQ (σ : Sg) (k1 k2 j : Nat) (n x : Int) : gA (sCQ σ k1 k2 n) j x = gA σ j x := rfl
theorem cpy_I {α β : Type} (mk : α → β) (f g : Int → α) {n : Int} (h0 : 0 ≤ n) : va_cpy (fun j : Nat => mk (f (j : Int))) (fun j : Nat => mk (g (j : Int))) 0 0 n.toNat = fun j : Nat => mk (cpI f g n (j : Int)) := by
  funext k
  unfold va_cpy cpI
  by_cases h : k < n.toNat
  · rw [if_pos ⟨Nat.zero_le _, by omega⟩, if_pos ⟨by omega, by omega⟩]
    simp
  · rw [if_neg (by omega), if_neg (by omega)]
section RW
variable {N : Nx} {cc : ByteArray} {own : String} {fR lO : Nat} {σ : Sg} {σs : List Sg} {st : hS} {pc : Nat} {lv : List (Nat × Tv)} {stk : List Tv} {ci b : Nat} {ad : Nat → Nat}
variable {K : Kx} {H : Heap} {locs : List Loc} {cells slots : Nat} {ls : Array Slot} {rest : List Value}
theorem Sit.lx {M : Mx} (s : Sit M σs st H (locs ++ [⟨b, 0⟩]) cells slots) {L : List Loc} (hL : ∀ l ∈ L, l.base = b) : Sit M σs st H (locs ++ L) cells slots := by
  obtain ⟨h1, h2, h3⟩ := s
  refine ⟨h1, ⟨h2.1, h2.2.1, fun l hl => ?_⟩, h3⟩
  rcases List.mem_append.mp hl with h | h
  · exact h2.2.2 l (List.mem_append_left _ h)
  · rw [hL l h]
    exact h2.2.2 ⟨b, 0⟩ (List.mem_append_right _ List.mem_cons_self)
theorem nfw : nativeFrameWords "java/lang/System" "arraycopy" 5 = 7 := by decide +kernel
/-- a stretch of an array is copied from the start of one to the start of another of its type -/
theorem Wa_copy (C : Cx (mk K N) cc own fR lO) (w9 : ls.size = nL N) {index a0 a t : Nat} {n0 n1 : Nat} {z0 z1 : Nat → Value} (ht8 : t < 7) (hl : Cond.methodLink own index arraycopyName ∈ lw_all) (hnat : Cond.native arraycopyName ∈ lw_all) (hst : Cond.static arraycopyName ∈ lw_all) (hini : Cond.initialized "java/lang/System" ∈ lw_all)
    (h0 : H[a0]? = some (arrV (gT (nG N) t) n0 z0)) (h1 : H[a]? = some (arrV (gT (nG N) t) n1 z1)) {n : Int} (hn0 : 0 ≤ n) (hn1 : n ≤ (n0 : Int)) (hn2 : n ≤ (n1 : Int)) (hr : rI n)
    (hfr : 1 ≤ fR) (hlo : 30 ≤ lO) (hroom : (rest.map fun v => v.category).sum ≤ 8) (hd : decode cc pc = .ok (.invokestatic index, 3))
    (hvals : ∀ i, i < n.toNat → (∃ x, z0 i = .int x ∧ fits (tyN t) (.int x) = true) ∨ (∃ Cn, tyN t = .object Cn) ∧ (z0 i = .null ∨ ∃ y, z0 i = .ref y ∧ ∃ (cellV : Cell) (Cn E1 : String), tyN t = .object E1 ∧ H[y]? = some cellV ∧ cellV.vm.isStatics = false ∧ (ks K).vm.findClass Cn = some cellV.cls ∧ ∀ comp c0 : ClassId, (ks K).vm.findClass E1 = some comp → (ks K).vm.findClass Cn = some c0 → (ks K).vm.assignable c0 comp = true))
    (kk : ∀ (H' : Heap) (L : List Loc), H'[a]? = some (arrV (gT (nG N) t) n1 (va_cpy z0 z1 0 0 n.toNat)) → H'.size = H.size → (∀ q : Nat, q ≠ a → H'[q]? = H[q]?) → (∀ l ∈ L, l.base = a) → WK K H' (locs ++ L) cells slots (mQ (mk K N)) (F0 (km K) (pc + 3) ls rest)) : WK K H locs cells slots (mQ (mk K N)) (F0 (km K) pc ls (.int (I32 n) :: .int 0 :: .ref a :: .int 0 :: .ref a0 :: rest)) := by
  intro T hT X
  have hR1 : (kR K).frames = fR := C.fr
  have hR2 : (kR K).locals = lO := C.lo
  have hix : (I32 n).toNatClampNeg = n.toNat := I_idx hr hn0
  have hti : (I32 n).toInt = n := toI hr
  have hA : ArrOfT (ks K) (gT (nG N) t) (tyN t) := C_arr C (by omega)
  obtain ⟨-, k0, hk0, cm0, hkk0⟩ := hA n0 z0
  obtain ⟨-, k1, hk1, cm1, hkk1⟩ := hA n1 z1
  obtain ⟨vm', X', step⟩ := X.arraycopy C.x C.o (C.ts _ hl) (C.ts _ hnat) (C.ts _ hst) (C.ts _ hini) (src := a0) (dst := a) (cs := arrV (gT (nG N) t) n0 z0) (cd := arrV (gT (nG N) t) n1 z1) (srcPos := 0) (destPos := 0) (n := I32 n) (by rw [hT]; exact h0) (by rw [hT]; exact h1)
    (fun _ h => by cases h) (fun _ h => by cases h) (fun h => by cases h) (fun h => by cases h) hk0 hk1 hkk0 hkk1 (by simp) (by decide) (by decide) (fun q => by have := (I_lt hr (y := 0) (by decide)).mp q; omega)
    (by rw [hti]; show ¬ _ > ((arrV (gT (nG N) t) n0 z0).slots.size : Int); rw [arrV_size]; show ¬ (0 : Int) + n > n0; omega)
    (by rw [hti]; show ¬ _ > ((arrV (gT (nG N) t) n1 z1).slots.size : Int); rw [arrV_size]; show ¬ (0 : Int) + n > n1; omega)
    (fun vm₁ hal i hi => by
      rw [hix] at hi
      have e : (arrV (gT (nG N) t) n0 z0).slots.getD ((0 : Int32).toNatClampNeg + i) .null = z0 i := by
        rw [Array.getD_eq_getD_getElem?, show (0 : Int32).toNatClampNeg + i = i from Nat.zero_add i, arrV_read _ _ (by omega)]
        rfl
      rw [e]
      rcases hvals i hi with ⟨x, hx, hf⟩ | ⟨⟨Cn, hCn⟩, hx | ⟨y, hx, cellV, Cn2, E1, hE1, g1, g2, g3, g4⟩⟩
      · rw [hx]
        exact ⟨hf, trivial⟩
      · rw [hx, hCn]
        exact ⟨rfl, trivial⟩
      · rw [hx, hE1]
        have hra := (C.k.2 t _ (tysA_at _ ht8)).2
        simp only [hE1] at hra
        obtain ⟨kA, comp, r1, r2, r3, -⟩ := hra
        cases hk1.symm.trans r1
        have hcc := hkk1.symm.trans r2
        injection hcc with hcc1 hcc2
        subst hcc1
        obtain ⟨kC, hkC, -⟩ := Vm.findClass_spec g3
        obtain ⟨kE, hkE, -⟩ := Vm.findClass_spec r3
        obtain ⟨kC', hkC', -⟩ := hal.2.2 _ _ hkC
        obtain ⟨kE', hkE', -⟩ := hal.2.2 _ _ hkE
        refine ⟨rfl, cellV, (show T.heap[y]? = some cellV by rw [hT]; exact g1), (fun q h => by rw [h] at g2; cases g2), ⟨kC', hkC'⟩, ⟨kE', hkE'⟩, ?_⟩
        show vm₁.assignable _ _ = true
        rw [hal.assignable]
        exact g4 _ _ r3 g3)
    (g := F0 (km K) pc ls (.int (I32 n) :: .int 0 :: .ref a :: .int 0 :: .ref a0 :: rest)) rfl (by rw [w9]; exact C.ml.symm) (rest := rest) rfl (by rw [C.b]; exact hd) (by rw [hR1]; exact hfr) (by rw [hR2, nfw]; show 2 * 0 + _ + (7 + 11) ≤ _; omega)
  have e1 : copied (arrV (gT (nG N) t) n0 z0) (arrV (gT (nG N) t) n1 z1) 0 0 (I32 n) = arrV (gT (nG N) t) n1 (va_cpy z0 z1 0 0 n.toNat) := by
    have := va_copied (fun z : Value => z) (gT (nG N) t) (gT (nG N) t) (n0 := n0) (n1 := n1) (sp := 0) (dp := 0) (n := n.toNat) z0 z1 (by omega)
    rw [← hix] at this ⊢
    exact this
  rw [e1] at X' step
  have hlt : a < H.size := (Array.getElem?_eq_some_iff.mp h1).1
  have hheap : ((T.setVm vm').setCell a (arrV (gT (nG N) t) n1 (va_cpy z0 z1 0 0 n.toNat))).heap = H.setIfInBounds a (arrV (gT (nG N) t) n1 (va_cpy z0 z1 0 0 n.toNat)) := by rw [← hT]; rfl
  obtain ⟨t2, a1, b1⟩ := kk _ _ (by simp [Array.getElem?_setIfInBounds, hlt]) (by simp) (fun q hq => by simp [Array.getElem?_setIfInBounds, Ne.symm hq]) (fun l hl => by obtain ⟨z, -, hz⟩ := List.mem_map.mp hl; rw [← hz]) _ hheap X'
  exact ⟨t2, step t2 a1, b1⟩
theorem cA_cp (f g : Int → Int) (cI : ClassId) (n1 : Nat) {n : Int} (h0 : 0 ≤ n) : arrV cI n1 (va_cpy (fun j : Nat => .int (I32 (f (j : Int)))) (fun j : Nat => .int (I32 (g (j : Int)))) 0 0 n.toNat) = vp_cell cI (cA (cpI f g n) n1) := by
  rw [cpy_I (fun x => Value.int (I32 x)) f g h0]
  rfl
theorem cQ_cp (f g : Int → Option Nat) (cI : ClassId) (n1 : Nat) {n : Int} (h0 : 0 ≤ n) : arrV cI n1 (va_cpy (fun j : Nat => va_rf (f (j : Int))) (fun j : Nat => va_rf (g (j : Int))) 0 0 n.toNat) = vp_cell cI (cQ (cpI f g n) n1) := by
  rw [cpy_I (fun x => va_rf x) f g h0]
  rfl
theorem aOK_cp {t : Nat} {f g : Int → Int} {n : Int} (hf : aOK t f) (hg : aOK t g) : aOK t (cpI f g n) := by
  refine ⟨fun j => ?_, fun ht j => ?_, fun ht j => ?_⟩
  · unfold cpI; split
    · exact hf.1 j
    · exact hg.1 j
  · unfold cpI; split
    · exact hf.2.1 ht j
    · exact hg.2.1 ht j
  · unfold cpI; split
    · exact hf.2.2 ht j
    · exact hg.2.2 ht j
theorem fits_t {t : Nat} (ht : t < 2) {f : Int → Int} (hf : aOK t f) (j : Int) : fits (tyN t) (.int (I32 (f j))) = true := by
  rcases (by omega : t = 0 ∨ t = 1) with rfl | rfl
  · rfl
  · rcases hf.2.1 rfl j with q | q <;> rw [q] <;> rfl
theorem r_copyH {index : Nat} {o1 o2 : Option Nat} {n : Int} {st' : hS} (hw : hCp st o1 o2 n = some st') (hr : rI n) (hl : Cond.methodLink own index arraycopyName ∈ lw_all) (hnat : Cond.native arraycopyName ∈ lw_all) (hst : Cond.static arraycopyName ∈ lw_all) (hini : Cond.initialized "java/lang/System" ∈ lw_all) (hfr : 1 ≤ fR) (hlo : 30 ≤ lO) (hroom : (stk.map tc).sum ≤ 8) (hd : decode cc pc = .ok (.invokestatic index, 3)) (h : AtPc cc own fR lO N σs st' (pc + 3) lv stk) : AtPc cc own fR lO N σs st pc lv (ti n :: ti 0 :: tr o2 :: ti 0 :: tr o1 :: stk) := by
  replace hw := nn_o hw
  obtain ⟨a1, rfl, hw⟩ := hw
  replace hw := nn_o hw
  obtain ⟨a2, rfl, hw⟩ := hw
  split at hw
  · rename_i t1 n1 f t2 n2 g e1 e2
    split at hw
    · rename_i hc
      cases hw
      obtain ⟨rfl, rfl, c0, c1, c2⟩ := hc
      intro rr
      have r1 := rr.2 a1 _ e1
      have r2 := rr.2 a2 _ e2
      have h := h (rr.up (e' := .inr (0, n2, .inl (cpI f g n))) ⟨aOK_cp r1.1 r2.1, r2.2⟩)
      refine ⟨h.1, fun K C H locs cells slots ls s w => ?_⟩
      obtain ⟨-, ha1⟩ := (s.1.2.2.2.1 a1 _ e1).1
      obtain ⟨ht, ha2⟩ := (s.1.2.2.2.1 a2 _ e2).1
      refine Wa_copy C w.1 (t := 0) (n0 := n1) (n1 := n2) (by decide) hl hnat hst hini (z0 := fun j => .int (I32 (f (j : Int)))) (z1 := fun j => .int (I32 (g (j : Int)))) ha1 ha2 c0 c1 c2 hr hfr hlo (tc_sum hroom) hd (fun i _ => Or.inl ⟨_, rfl, rfl⟩) fun H' L q1 q2 q3 q4 => ?_
      rw [cA_cp f g _ n2 c0] at q1
      exact h.2 K C H' _ cells slots ls (Sit.lx (b := a2) (s.up (x := 0) (e' := .inr (0, n2, .inl (cpI f g n))) e2 (fun q => by have q : (0 : Nat) = 7 := q; omega) ⟨ht, q1⟩ q2 q3) q4) w
    · cases hw
  · cases hw
theorem r_copyS {index k1 k2 n1 n2 t : Nat} {n : Int} (hsp : np N = [(ci, b, ad)]) (hk1 : kdA ci k1 = (4, n1, t)) (hk2 : kdA ci k2 = (4, n2, t)) (hk1n : k1 < nfA ci) (hk2n : k2 < nfA ci) (ht : t < 2) (hn : 0 ≤ n ∧ n ≤ (n1 : Int) ∧ n ≤ (n2 : Int)) (hr : rI n) (hl : Cond.methodLink own index arraycopyName ∈ lw_all) (hnat : Cond.native arraycopyName ∈ lw_all) (hst : Cond.static arraycopyName ∈ lw_all) (hini : Cond.initialized "java/lang/System" ∈ lw_all) (hfr : 1 ≤ fR) (hlo : 30 ≤ lO) (hroom : (stk.map tc).sum ≤ 8) (hd : decode cc pc = .ok (.invokestatic index, 3)) (h : AtPc cc own fR lO N [sCA σ k1 k2 n] st (pc + 3) lv stk) : AtPc cc own fR lO N [σ] st pc lv (ti n :: ti 0 :: tr (some (ad k2)) :: ti 0 :: tr (some (ad k1)) :: stk) := by
  intro rr
  have r0 := rr.mine hsp
  have a1 := r0.a k1 hk1n hk1
  have a2 := r0.a k2 hk2n hk2
  have hcp : gA (sCA σ k1 k2 n) k2 = cpI (gA σ k1) (gA σ k2) n := by
    funext x
    rw [gA_sCA]
    unfold cpI
    by_cases hx : 0 ≤ x ∧ x < n
    · rw [if_pos ⟨rfl, hx⟩, if_pos hx]
    · rw [if_neg (fun q => hx q.2), if_neg hx]
  have hne : ∀ j, j ≠ k2 → gA (sCA σ k1 k2 n) j = gA σ j := fun j hj => by
    funext x
    rw [gA_sCA, if_neg (fun q => hj q.1)]
  have hRR : RRs ci (sCA σ k1 k2 n) := by
    intro j hj
    by_cases hjk : j = k2
    · subst hjk
      rw [hk2]
      show aOK t (gA (sCA σ k1 j n) j)
      rw [hcp]
      exact aOK_cp a1 a2
    · have h1 := r0 j hj
      rw [← hne j hjk] at h1
      exact h1
  have h := h (rr.sg hsp hRR)
  refine ⟨h.1, fun K C H locs cells slots ls s w => ?_⟩
  obtain ⟨o1, o2, o3⟩ := s.mine hsp
  refine Wa_copy C w.1 (t := t) (n0 := n1) (n1 := n2) (by omega) hl hnat hst hini (z0 := fun j => .int (I32 (gA σ k1 (j : Int)))) (z1 := fun j => .int (I32 (gA σ k2 (j : Int)))) (s.arr hsp k1 hk1n hk1) (s.arr hsp k2 hk2n hk2) hn.1 hn.2.1 hn.2.2 hr hfr hlo (tc_sum hroom) hd (fun i _ => Or.inl ⟨_, rfl, fits_t ht a1 _⟩) fun H' L q1 q2 q3 q4 => ?_
  rw [cA_cp _ _ _ n2 hn.1] at q1
  have hk4 : 4 ≤ (kdA ci k2).1 := by rw [hk2]; exact Nat.le_refl 4
  refine h.2 K C H' _ cells slots ls (Sit.lx (b := ad k2) (s.sg (x := 0) hsp (Or.inr ⟨k2, hk2n, hk4, rfl⟩) (sg_other (σ' := sCA σ k1 k2 n) o1 o2 hk2n hk4 q3 (fun _ => rfl) hne (fun _ _ => rfl) ?_) q2 q3) q4) w
  unfold sgArr
  rw [hk2]
  show H'[ad k2]? = some (vp_cell (gT (nG N) t) (cA (gA (sCA σ k1 k2 n) k2) n2))
  rw [q1, hcp]
theorem r_copyQ {index k1 k2 n1 n2 t c : Nat} {n : Nat} {r : vw_C} (hsp : np N = [(ci, b, ad)]) (hk1 : kdA ci k1 = (5, n1, t)) (hk2 : kdA ci k2 = (5, n2, t)) (hk1n : k1 < nfA ci) (hk2n : k2 < nfA ci) (ht : t < 7) (hcl : clA[c]? = some r) (hty : tyN t = .object r.1) (hok : okQ st σ k1 n c = true) (hn : n ≤ n1 ∧ n ≤ n2 ∧ n < 2147483648) (hl : Cond.methodLink own index arraycopyName ∈ lw_all) (hnat : Cond.native arraycopyName ∈ lw_all) (hst : Cond.static arraycopyName ∈ lw_all) (hini : Cond.initialized "java/lang/System" ∈ lw_all) (hfr : 1 ≤ fR) (hlo : 30 ≤ lO) (hroom : (stk.map tc).sum ≤ 8) (hd : decode cc pc = .ok (.invokestatic index, 3)) (h : AtPc cc own fR lO N [sCQ σ k1 k2 (n : Int)] st (pc + 3) lv stk) : AtPc cc own fR lO N [σ] st pc lv (ti (n : Int) :: ti 0 :: tr (some (ad k2)) :: ti 0 :: tr (some (ad k1)) :: stk) := by
  intro rr
  have r0 : RRs ci σ := rr.mine hsp
  have h := h (rr.sg hsp (show RRs ci (sCQ σ k1 k2 (n : Int)) from r0))
  have hcp : gQ (sCQ σ k1 k2 (n : Int)) k2 = cpI (gQ σ k1) (gQ σ k2) (n : Int) := by
    funext x
    rw [gQ_sCQ]
    unfold cpI
    by_cases hx : 0 ≤ x ∧ x < (n : Int)
    · rw [if_pos ⟨rfl, hx⟩, if_pos hx]
    · rw [if_neg (fun q => hx q.2), if_neg hx]
  have hne : ∀ j, j ≠ k2 → gQ (sCQ σ k1 k2 (n : Int)) j = gQ σ j := fun j hj => by
    funext x
    rw [gQ_sCQ, if_neg (fun q => hj q.1)]
  refine ⟨h.1, fun K C H locs cells slots ls s w => ?_⟩
  obtain ⟨o1, o2, o3⟩ := s.mine hsp
  have hr : rI (n : Int) := ⟨by omega, by omega⟩
  refine Wa_copy C w.1 (t := t) (n0 := n1) (n1 := n2) ht hl hnat hst hini (z0 := fun j => va_rf (gQ σ k1 (j : Int))) (z1 := fun j => va_rf (gQ σ k2 (j : Int))) (s.arq hsp k1 hk1n hk1) (s.arq hsp k2 hk2n hk2) (by omega) (by omega) (by omega) hr hfr hlo (tc_sum hroom) hd (fun i hi => Or.inr ⟨⟨_, hty⟩, ?_⟩) fun H' L q1 q2 q3 q4 => ?_
  · have h9 := List.all_eq_true.mp hok i (List.mem_range.mpr (by omega))
    cases hy : gQ σ k1 (i : Int) with
    | none => exact Or.inl rfl
    | some y =>
      rw [hy] at h9
      have h9 : hC st (some y) = some c := by simpa using h9
      obtain ⟨cell, g1, g2, g3⟩ := rec_ob (N := N) (cc := cc) (own := own) (fR := fR) (lO := lO) (σs := [σ]) hcl h9 K H locs cells slots C s
      refine Or.inr ⟨y, rfl, cell, r.1, r.1, hty, g1, g2, g3, fun comp c0 f1 f2 => ?_⟩
      cases f1.symm.trans f2
      exact va_asg _ _
  · rw [cQ_cp _ _ _ n2 (by omega)] at q1
    have hk4 : 4 ≤ (kdA ci k2).1 := by rw [hk2]; exact Nat.le_succ 4
    refine h.2 K C H' _ cells slots ls (Sit.lx (b := ad k2) (s.sg (x := 0) hsp (Or.inr ⟨k2, hk2n, hk4, rfl⟩) (sg_other (σ' := sCQ σ k1 k2 (n : Int)) o1 o2 hk2n hk4 q3 (fun _ => rfl) (fun _ _ => rfl) hne ?_) q2 q3) q4) w
    unfold sgArr
    rw [hk2]
    show H'[ad k2]? = some (vp_cell (gT (nG N) t) (cQ (gQ (sCQ σ k1 k2 (n : Int)) k2) n2))
    rw [q1, hcp]
end RW
