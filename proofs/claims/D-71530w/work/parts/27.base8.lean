/-! BASE 8: rows over the object that is held whole; arrays of the heap; new cells -/
set_option maxRecDepth 100000
theorem sgV_I {ci k : Nat} (h : (kdA ci k).1 < 2) (ad : Nat → Nat) (σ : Sg) : sgV ci ad σ k = .int (I32 (gI σ k)) := by
  unfold sgV
  generalize kdA ci k = d at h
  obtain ⟨x, y⟩ := d
  have h : x < 2 := h
  rcases (by omega : x = 0 ∨ x = 1) with rfl | rfl <;> rfl
theorem sgV_L {ci k : Nat} (h : (kdA ci k).1 = 2) (ad : Nat → Nat) (σ : Sg) : sgV ci ad σ k = .long (I64 (gI σ k)) := by
  unfold sgV
  rw [h]
  rfl
theorem sgV_R {ci k : Nat} (h : 3 ≤ (kdA ci k).1) (ad : Nat → Nat) (σ : Sg) : sgV ci ad σ k = .ref (ad k) := by
  unfold sgV
  generalize kdA ci k = d at h
  obtain ⟨x, y⟩ := d
  have h : 3 ≤ x := h
  match x, h with
  | n + 3, _ => rfl
theorem sgV_sI {ci k : Nat} {ad : Nat → Nat} {σ : Sg} {v : Int} {w : Value} (h : (kdA ci k).1 < 2 ∧ w = .int (I32 v) ∨ (kdA ci k).1 = 2 ∧ w = .long (I64 v)) (j : Nat) : updV (sgV ci ad σ) k w j = sgV ci ad (sI σ k v) j := by
  unfold updV
  by_cases hj : j = k
  · subst hj
    rw [if_pos rfl]
    rcases h with ⟨h, rfl⟩ | ⟨h, rfl⟩
    · rw [sgV_I h, gI_sI, if_pos rfl]
    · rw [sgV_L h, gI_sI, if_pos rfl]
  · rw [if_neg hj]
    unfold sgV
    rw [gI_sI, if_neg hj]
section RW
variable {M : Mx} {cc : ByteArray} {own : String} {fR lO : Nat} {σ : Sg} {st : hS} {pc : Nat} {lv : List (Nat × Tv)} {stk : List Tv} {ci b : Nat} {ad : Nat → Nat}
variable {H H' : Heap} {locs : List Loc} {cells slots : Nat}
theorem Sit.mine (hsp : mp M = [(ci, b, ad)]) (s : Sit M [σ] st H locs cells slots) : spOK (ci, b, ad) ∧ sgAt (mG M) (ci, b, ad) σ H ∧ ∀ a, ownS (ci, b, ad) a → (gO (mG M)).size ≤ a ∧ st.1 a = none := by
  obtain ⟨v1, ⟨σ', v2, v3⟩, v4⟩ := s.1.2.2.2.2.1 0 (ci, b, ad) (by rw [hsp]; rfl)
  cases v2
  exact ⟨v1, v3, v4⟩
theorem Sit.sg (hsp : mp M = [(ci, b, ad)]) (s : Sit M [σ] st H locs cells slots) {a x : Nat} {σ' : Sg} (ha : ownS (ci, b, ad) a) (h1 : sgAt (mG M) (ci, b, ad) σ' H') (z : H'.size = H.size) (oq : ∀ q : Nat, q ≠ a → H'[q]? = H[q]?) : Sit M [σ'] st H' (locs ++ [⟨a, x⟩]) cells slots := by
  have ho := s.mine hsp
  obtain ⟨⟨w1, w2, w3, w4, w5, w6⟩, hS, hc, hs, hd⟩ := s
  have hge := (ho.2.2 a ha).1
  refine ⟨⟨by rw [z]; exact w1, by rw [z]; exact w2, fun q hq => by rw [oq q (by omega)]; exact w3 q hq, fun c e0 hb => ?_, fun i sp hi => ?_, w6⟩, hS.put z oq ?_, hc, hs, hd⟩
  · have hne : c ≠ a := fun e9 => by
      have := (ho.2.2 a ha).2
      rw [← e9, hb] at this
      cases this
    exact ⟨(w4 c e0 hb).1.kept (oq c hne), (w4 c e0 hb).2⟩
  · obtain ⟨v1, ⟨σ9, v2, v3⟩, v4⟩ := w5 i sp hi
    rw [hsp] at hi
    have hi0 : i < 1 := (List.getElem?_eq_some_iff.mp hi).1
    obtain rfl : i = 0 := by omega
    cases hi
    exact ⟨v1, ⟨σ', rfl, h1⟩, v4⟩
  · exact Or.inl ⟨0, _, by rw [hsp]; rfl, ha⟩
theorem RR.mine {sps : List Sp} (hsp : sps = [(ci, b, ad)]) (rr : RR sps [σ] st) : RRs ci σ := rr.1 0 (ci, b, ad) σ (by rw [hsp]; rfl) rfl
theorem RR.sg {sps : List Sp} (hsp : sps = [(ci, b, ad)]) (rr : RR sps [σ] st) {σ' : Sg} (h : RRs ci σ') : RR sps [σ'] st := by
  refine ⟨fun i sp σ9 hi h9 => ?_, rr.2⟩
  rw [hsp] at hi
  have hi0 : i < 1 := (List.getElem?_eq_some_iff.mp hi).1
  obtain rfl : i = 0 := by omega
  cases hi
  cases h9
  exact h
theorem RRs.i {ci : Nat} {σ : Sg} (h : RRs ci σ) (k : Nat) (hk : k < nfA ci) (hd : (kdA ci k).1 < 2) : rI (gI σ k) := by
  have h1 := h k hk
  generalize kdA ci k = d at h1 hd
  obtain ⟨x, y, z⟩ := d
  have hd : x < 2 := hd
  rcases (by omega : x = 0 ∨ x = 1) with rfl | rfl
  · exact h1
  · have h1 : gI σ k = 0 ∨ gI σ k = 1 := h1
    rcases h1 with q | q <;> rw [q] <;> decide
theorem RRs.z {ci : Nat} {σ : Sg} (h : RRs ci σ) (k : Nat) (hk : k < nfA ci) (hd : (kdA ci k).1 = 1) : gI σ k = 0 ∨ gI σ k = 1 := by
  have h1 := h k hk
  generalize kdA ci k = d at h1 hd
  obtain ⟨x, y, z⟩ := d
  have hd : x = 1 := hd
  subst hd
  exact h1
theorem RRs.l {ci : Nat} {σ : Sg} (h : RRs ci σ) (k : Nat) (hk : k < nfA ci) (hd : (kdA ci k).1 = 2) : rL (gI σ k) := by
  have h1 := h k hk
  generalize kdA ci k = d at h1 hd
  obtain ⟨x, y, z⟩ := d
  have hd : x = 2 := hd
  subst hd
  exact h1
theorem RRs.a {ci : Nat} {σ : Sg} (h : RRs ci σ) (k : Nat) (hk : k < nfA ci) {n t : Nat} (hd : kdA ci k = (4, n, t)) : aOK t (gA σ k) := by
  have h1 := h k hk
  rw [hd] at h1
  exact h1
theorem RRs.ui {ci : Nat} {σ : Sg} (h : RRs ci σ) (k : Nat) (v : Int) (hv : (kdA ci k).1 = 0 ∧ rI v ∨ (kdA ci k).1 = 1 ∧ (v = 0 ∨ v = 1) ∨ (kdA ci k).1 = 2 ∧ rL v) : RRs ci (sI σ k v) := by
  intro j hj
  have h1 := h j hj
  by_cases hjk : j = k
  · subst hjk
    generalize kdA ci j = d at h1 hv
    obtain ⟨x, y, z⟩ := d
    rcases hv with ⟨e, q⟩ | ⟨e, q⟩ | ⟨e, q⟩
    · have e : x = 0 := e
      subst e
      show rI (gI (sI σ j v) j)
      rw [gI_sI, if_pos rfl]; exact q
    · have e : x = 1 := e
      subst e
      show gI (sI σ j v) j = 0 ∨ gI (sI σ j v) j = 1
      rw [gI_sI, if_pos rfl]; exact q
    · have e : x = 2 := e
      subst e
      show rL (gI (sI σ j v) j)
      rw [gI_sI, if_pos rfl]; exact q
  · have e : gI (sI σ k v) j = gI σ j := by rw [gI_sI, if_neg hjk]
    have e2 : gA (sI σ k v) j = gA σ j := rfl
    rw [e, e2]
    exact h1
theorem RRs.ua {ci : Nat} {σ : Sg} (h : RRs ci σ) (k : Nat) (i v : Int) {n t : Nat} (hd : kdA ci k = (4, n, t)) (hv : rI v ∧ (t = 1 → v = 0 ∨ v = 1) ∧ (t = 2 → -128 ≤ v ∧ v ≤ 127)) : RRs ci (sA σ k i v) := by
  intro j hj
  have h1 := h j hj
  by_cases hjk : j = k
  · subst hjk
    rw [hd] at h1 ⊢
    have h1 : aOK t (gA σ j) := h1
    show aOK t (gA (sA σ j i v) j)
    have e : ∀ x, gA (sA σ j i v) j x = v ∨ gA (sA σ j i v) j x = gA σ j x := fun x => by
      rw [gA_sA]
      split
      · exact Or.inl rfl
      · exact Or.inr rfl
    refine ⟨fun x => ?_, fun ht x => ?_, fun ht x => ?_⟩
    · rcases e x with q | q <;> rw [q]
      · exact hv.1
      · exact h1.1 x
    · rcases e x with q | q <;> rw [q]
      · exact hv.2.1 ht
      · exact h1.2.1 ht x
    · rcases e x with q | q <;> rw [q]
      · exact hv.2.2 ht
      · exact h1.2.2 ht x
  · have e : gI (sA σ k i v) j = gI σ j := rfl
    have e2 : gA (sA σ k i v) j = gA σ j := by
      funext x
      rw [gA_sA, if_neg (fun q => hjk q.1)]
    rw [e, e2]
    exact h1
theorem RRs.uq {ci : Nat} {σ : Sg} (h : RRs ci σ) (k : Nat) (i : Int) (v : Option Nat) : RRs ci (sQ σ k i v) := h
end RW
