/-! BASE 6: the rows of fields, arrays, new objects, over the pure world -/
set_option maxRecDepth 100000
theorem t_OB.toV {o : Nat} {cC : ClassId} {N : Nat} {iS : Nat → Nat} {H : Heap} {V V' : Nat → Value} (h : t_OB o cC N iS H V) (hv : ∀ k, k < N → V k = V' k) : t_OB o cC N iS H V' := h.to hv
theorem getD_all {α : Type} {P : α → Prop} {l : List α} {d : α} (h : ∀ q ∈ l, P q) (hd : P d) (k : Nat) : P (l.getD k d) := by
  rw [List.getD_eq_getElem?_getD]
  cases hk : l[k]? with
  | none => exact hd
  | some q => exact h q (List.mem_of_getElem? hk)
theorem kdA_le (c k : Nat) : (kdA c k).1 ≤ 5 := by
  unfold kdA
  refine getD_all (P := fun (q : Nat × Nat × Nat) => q.1 ≤ 5) ?_ (by decide) k
  split
  · decide +kernel
  · decide +kernel
theorem sgAt.kept {G : Gx} {sp : Sp} {σ : Sg} {H H1 : Heap} (h : sgAt G sp σ H) (hq : ∀ a, ownS sp a → H1[a]? = H[a]?) : sgAt G sp σ H1 := by
  refine ⟨h.1.kept (hq _ (Or.inl rfl)), fun k hk => ?_⟩
  have h1 := h.2 k hk
  unfold sgArr at h1 ⊢
  have h4 : 4 ≤ (kdA sp.1 k).1 → H1[sp.2.2 k]? = H[sp.2.2 k]? := fun q => hq _ (Or.inr ⟨k, hk, q, rfl⟩)
  generalize kdA sp.1 k = d at h1 h4 ⊢
  split at h1
  · exact (h4 (Nat.le_refl 4)).trans h1
  · exact (h4 (Nat.le_succ 4)).trans h1
  · trivial
theorem sgAt.lt {G : Gx} {sp : Sp} {σ : Sg} {H : Heap} (h : sgAt G sp σ H) {a : Nat} (ha : ownS sp a) : a < H.size := by
  rcases ha with rfl | ⟨k, hk, h4, rfl⟩
  · obtain ⟨cell, q1, -⟩ := h.1
    exact (Array.getElem?_eq_some_iff.mp q1).1
  · have h1 := h.2 k hk
    unfold sgArr at h1
    generalize hd : kdA sp.1 k = d at h1 h4
    split at h1
    · exact (Array.getElem?_eq_some_iff.mp h1).1
    · exact (Array.getElem?_eq_some_iff.mp h1).1
    · rename_i d1 d2
      have h5 := kdA_le sp.1 k
      rw [hd] at h5
      obtain ⟨x, y, z⟩ := d
      have h4 : 4 ≤ x := h4
      have h5 : x ≤ 5 := h5
      rcases (by omega : x = 4 ∨ x = 5) with rfl | rfl
      · exact absurd rfl (d1 y z)
      · exact absurd rfl (d2 y z)
section PW
variable {M : Mx} {σs : List Sg} {st : hS} {H H' : Heap} {locs : List Loc} {cells slots : Nat}
/-- a cell of the world is written -/
theorem Sit.up (s : Sit M σs st H locs cells slots) {a x : Nat} {e e' : hE} (he : st.1 a = some e) (ho : ¬ oldK e) (h1 : hat (mG M) clA a e' H') (z : H'.size = H.size) (oq : ∀ q : Nat, q ≠ a → H'[q]? = H[q]?) :
    Sit M σs (hup st a e') H' (locs ++ [⟨a, x⟩]) cells slots := by
  obtain ⟨⟨w1, w2, w3, w4, w5, w6⟩, hS, hc, hs, hd⟩ := s
  have hge : (gO (mG M)).size ≤ a := (w4 a e he).2.resolve_left ho
  refine ⟨⟨by rw [z]; exact w1, by rw [z]; exact w2, fun q hq => by rw [oq q (by omega)]; exact w3 q hq, fun b e0 hb => ?_, fun i sp hi => ?_, w6⟩, hS.put z oq ?_, hc, hs, fun b e0 hb => ?_⟩
  · by_cases hba : b = a
    · subst hba
      have : some e' = some e0 := by simpa [hup] using hb
      cases this
      exact ⟨h1, Or.inr hge⟩
    · have hb' : st.1 b = some e0 := by simpa [hup, hba] using hb
      exact ⟨(w4 b e0 hb').1.kept (oq b hba), (w4 b e0 hb').2⟩
  · obtain ⟨v1, ⟨σ, v2, v3⟩, v4⟩ := w5 i sp hi
    have hne : ∀ q, ownS sp q → q ≠ a := fun q hq e9 => by
      have := (v4 q hq).2
      rw [e9, he] at this
      cases this
    refine ⟨v1, ⟨σ, v2, v3.kept fun q hq => oq q (hne q hq)⟩, fun q hq => ⟨(v4 q hq).1, ?_⟩⟩
    simp [hup, hne q hq, (v4 q hq).2]
  · rcases hd a e he with q | q
    · exact Or.inr (Or.inl ⟨hge, q⟩)
    · exact Or.inr (Or.inr ⟨hge, q⟩)
  · by_cases hba : b = a
    · subst hba
      exact hd b e he
    · exact hd b e0 (by simpa [hup, hba] using hb)
theorem RR.up {sps : List Sp} (rr : RR sps σs st) {a : Nat} {e' : hE} (h : eOK e') : RR sps σs (hup st a e') := by
  refine ⟨rr.1, fun b e0 hb => ?_⟩
  by_cases hba : b = a
  · subst hba
    have : some e' = some e0 := by simpa [hup] using hb
    cases this
    exact h
  · exact rr.2 b e0 (by simpa [hup, hba] using hb)
/-- a new cell -/
theorem Sit.push (s : Sit M σs st H locs cells slots) {e : hE} {n : Nat} (h1 : hat (mG M) clA st.2.1 e H') (z : H'.size = H.size + 1) (oq : ∀ q : Nat, q < H.size → H'[q]? = H[q]?) :
    Sit M σs (fun b => if b = st.2.1 then some e else st.1 b, st.2.1 + 1, st.2.2 + n) H' locs (cells + 1) (slots + n) := by
  obtain ⟨⟨w1, w2, w3, w4, w5, w6⟩, hS, hc, hs, hd⟩ := s
  refine ⟨⟨by rw [z, w1], by rw [z]; omega, fun q hq => by rw [oq q (by omega)]; exact w3 q hq, fun b e0 hb => ?_, fun i sp hi => ?_, w6⟩, ⟨Nat.le_trans hS.1 (by omega), fun q g1 g2 => (oq q (Nat.lt_of_lt_of_le g1 hS.1)).trans (hS.2.1 q g1 g2), hS.2.2⟩, by show _ = st.2.1 + 1; omega, by show _ = st.2.2 + n; omega, fun b e0 hb => ?_⟩
  · by_cases hba : b = st.2.1
    · have : some e = some e0 := by simpa [hba] using hb
      cases this
      rw [hba]
      exact ⟨h1, Or.inr (by omega)⟩
    · have hb' : st.1 b = some e0 := by simpa [hba] using hb
      exact ⟨(w4 b e0 hb').1.kept (oq b (w4 b e0 hb').1.lt), (w4 b e0 hb').2⟩
  · obtain ⟨v1, ⟨σ, v2, v3⟩, v4⟩ := w5 i sp hi
    have hlt : ∀ q, ownS sp q → q < H.size := fun q hq => v3.lt hq
    refine ⟨v1, ⟨σ, v2, v3.kept fun q hq => oq q (hlt q hq)⟩, fun q hq => ⟨(v4 q hq).1, ?_⟩⟩
    have : ¬ q = st.2.1 := by have := hlt q hq; omega
    simp [this, (v4 q hq).2]
  · by_cases hba : b = st.2.1
    · right; omega
    · exact hd b e0 (by simpa [hba] using hb)
theorem RR.push {sps : List Sp} (rr : RR sps σs st) {n a : Nat} {e' : hE} (h : eOK e') : RR sps σs (fun b => if b = st.2.1 then some e' else st.1 b, a, n) := by
  refine ⟨rr.1, fun b e0 hb => ?_⟩
  by_cases hba : b = st.2.1
  · have : some e' = some e0 := by simpa [hba] using hb
    cases this
    exact h
  · exact rr.2 b e0 (by simpa [hba] using hb)
end PW
