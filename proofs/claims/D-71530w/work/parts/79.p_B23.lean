/-! the pure laws: B23 B24 B25 -/
set_option maxRecDepth 100000
/-! PURE: the model reads a page: classes, heads -/
def Pg6 (s : Sg) (P : List Int) : Prop := gI s 19 = (P.length : Int) ∧ P.length ≤ 84 ∧ (∀ c ∈ P, 32 ≤ c ∧ c ≤ 126) ∧ ∀ j : Nat, ∀ c, P[j]? = some c → gA s 20 (j : Int) = c
theorem Pg6.keep {s s' : Sg} {P : List Int} {L : List Nat} (h : Pg6 s P) (hk : keepS L s s') (h1 : 19 ∉ L) (h2 : 20 ∉ L) : Pg6 s' P := ⟨(hk.I h1).trans h.1, h.2.1, h.2.2.1, fun j c hj => (hk.A h2 _).trans (h.2.2.2 j c hj)⟩
theorem pl_r {P : List Int} (h : ∀ c ∈ P, 32 ≤ c ∧ c ≤ 126) (k : Nat) : 0 ≤ pl P k ∧ pl P k ≤ 126 := by
  unfold pl
  rw [List.getD_eq_getElem?_getD]
  cases e : P[k]? with
  | none => simp
  | some c => have := h c (List.mem_of_getElem? e); simp; omega
theorem p6_at {s : Sg} {P : List Int} (h : Pg6 s P) (k : Nat) : fX6_at s k = some (pl P k) := by
  obtain ⟨h1, h2, h3, h4⟩ := h
  unfold fX6_at fX6_at_b18 pl
  rw [h1]
  by_cases hk : k < P.length
  · rw [if_neg (by omega), gd_t (by omega), h4 k _ (List.getElem?_eq_getElem hk), List.getD_eq_getElem?_getD, List.getElem?_eq_getElem hk]; rfl
  · rw [if_pos (by omega), List.getD_eq_getElem?_getD, List.getElem?_eq_none (by omega)]; rfl
theorem p6_figure {s : Sg} {P : List Int} (h : Pg6 s P) (k : Nat) : fX6_figure s k = some (pl P k - 48) := by
  have := pl_r h.2.2.1 k
  unfold fX6_figure
  rw [p6_at h, bd_s, wr_id (by omega) (by omega)]
theorem p6_wants2 (c : Int) : fX6_wants c = some (wnt c) := by
  unfold fX6_wants fX6_wants_b60 wnt
  (repeat' split) <;> rfl
theorem p6_readClass {s : Sg} {P : List Int} (h : Pg6 s P) {C k : Nat} (hC : C < 4) (h23 : gI s 23 = (C : Int)) (hk : k ≤ 90) :
    ∃ s', fX6_readClass s k = some (((rdC P C k).1 : Int), s') ∧ keepS [22, 23, 25] s s' ∧ (∀ j : Nat, j < C → gA s' 25 (j : Int) = gA s 25 (j : Int)) ∧
      ((rdC P C k).2.1 = true → gI s' 22 = gI s 22 ∧ gI s' 23 = (C : Int) + 1 ∧ gA s' 25 (C : Int) = ((rdC P C k).2.2 : Int)) ∧ ((rdC P C k).2.1 = false → gI s' 22 = 1) := by
  have hr0 := pl_r h.2.2.1 k
  have hr1 := pl_r h.2.2.1 (k + 1)
  unfold fX6_readClass rdC
  obtain ⟨s0, hs0⟩ : ∃ s0, s0 = sA s 25 (C : Int) 0 := ⟨_, rfl⟩
  have k0 : keepS [22, 23, 25] s s0 := by rw [hs0]; exact keepA _ s (by decide) _ _
  have h0 : Pg6 s0 P := h.keep k0 (by decide) (by decide)
  have z23 : gI s0 23 = (C : Int) := by rw [hs0]; exact h23
  have z22 : gI s0 22 = gI s 22 := by rw [hs0]; rfl
  have z25 : gA s0 25 (C : Int) = 0 := by rw [hs0]; simp [gA_sA]
  have zj : ∀ j : Nat, j < C → gA s0 25 (j : Int) = gA s 25 (j : Int) := by
    intro j hj; rw [hs0, gA_sA, if_neg (by omega)]
  rw [h23, gd_t (by omega), ← hs0, p6_at h0, bd_s, z23]
  by_cases hd : pl P k = 45
  · rw [if_neg (by simp [hd]), if_pos hd, wr_id (by omega) (by omega), wr_id (by omega) (by omega)]
    refine ⟨_, rfl, k0.sI (by decide) _, fun j hj => by rw [gA_sI]; exact zj j hj, fun _ => ⟨by simp [gI_sI, z22], by simp [gI_sI], by rw [gA_sI]; exact z25⟩, fun q => by cases q⟩
  · rw [if_pos hd, if_neg hd]
    obtain ⟨n0, hn0⟩ := FU_3
    rw [hn0]
    have w1 : wr (-1 + 1) = 0 := by decide
    have f0 := p6_figure h0 k
    -- the loop's body at its first letter
    have st1 : fX6_readClass_L38 (n0 + 1 + 1 + 1) s0 k k (-1) = fX6_readClass_b64 (fX6_readClass_L38 (n0 + 1 + 1)) s0 k k (-1) := by
      rw [fX6_readClass_L38_s, fX6_readClass_b38, wr_id (by omega) (by omega), if_neg (by omega), if_pos rfl]
    rw [st1]
    unfold fX6_readClass_b64
    rw [f0, bd_s, w1, z23, wr_id (x := (C : Int) - 1) (by omega) (by omega), p6_within, bd_s]
    by_cases hc0 : 0 ≤ pl P k - 48 ∧ pl P k - 48 < C
    · rw [if_pos (fun q => b01_0.mp q (by omega)), if_neg (by simpa using hc0), bd_s, gd_t (by omega), gd_t (by omega), z25]
      obtain ⟨d0, hd0⟩ : ∃ d : Nat, pl P k - 48 = (d : Int) := ⟨(pl P k - 48).toNat, by omega⟩
      rw [hd0, Int.toNat_natCast, p_one_shl (by omega), wr_id (x := (k : Int) + 1) (by omega) (by omega)]
      have p0 : 2 ^ d0 < 2147483648 := Nat.lt_of_le_of_lt (Nat.pow_le_pow_right (by omega) (show d0 ≤ 4 by omega)) (by decide)
      have e0 : ior 0 ((2 ^ d0 : Nat) : Int) = ((2 ^ d0 : Nat) : Int) := by
        have := p_ior (a := 0) (b := 2 ^ d0) (by omega) p0
        rw [Nat.zero_or] at this; exact this
      rw [e0]
      obtain ⟨s1, hs1⟩ : ∃ s1, s1 = sA s0 25 (C : Int) ((2 ^ d0 : Nat) : Int) := ⟨_, rfl⟩
      have k1 : keepS [22, 23, 25] s s1 := by rw [hs1]; exact k0.sA (by decide) _ _
      have h1 : Pg6 s1 P := h.keep k1 (by decide) (by decide)
      have y23 : gI s1 23 = (C : Int) := by rw [hs1]; exact z23
      have y22 : gI s1 22 = gI s 22 := by rw [hs1]; exact z22
      have y25 : gA s1 25 (C : Int) = ((2 ^ d0 : Nat) : Int) := by rw [hs1]; simp [gA_sA]
      have yj : ∀ j : Nat, j < C → gA s1 25 (j : Int) = gA s 25 (j : Int) := by
        intro j hj; rw [hs1, gA_sA, if_neg (by omega)]; exact zj j hj
      rw [← hs1]
      have f1 := p6_figure h1 (k + 1)
      rw [show ((k + 1 : Nat) : Int) = (k : Int) + 1 by omega] at f1
      rw [fX6_readClass_L38_s, fX6_readClass_b38, wr_id (x := (k : Int) + 2) (by omega) (by omega), if_neg (by omega), if_neg (by omega), f1, bd_s, p6_within, bd_s]
      unfold fX6_readClass_b117
      by_cases hdg : 0 ≤ pl P (k + 1) - 48 ∧ pl P (k + 1) - 48 ≤ 9
      · rw [if_neg (fun q => b01_0.mp q hdg), if_neg (by simpa using hdg)]
        unfold fX6_readClass_b64
        rw [f1, bd_s, y23, wr_id (x := (C : Int) - 1) (by omega) (by omega), wr_id (x := (d0 : Int) + 1) (by omega) (by omega), p6_within, bd_s]
        by_cases hc1 : (d0 : Int) < pl P (k + 1) - 48 ∧ pl P (k + 1) - 48 < C
        · rw [if_pos (fun q => b01_0.mp q (by omega)), if_neg (by simpa using hc1), bd_s, gd_t (by omega), gd_t (by omega), y25]
          obtain ⟨d1, hd1⟩ : ∃ d : Nat, pl P (k + 1) - 48 = (d : Int) := ⟨(pl P (k + 1) - 48).toNat, by omega⟩
          rw [hd1, Int.toNat_natCast, p_one_shl (by omega), wr_id (x := (k : Int) + 1 + 1) (by omega) (by omega)]
          have p1 : 2 ^ d1 < 2147483648 := Nat.lt_of_le_of_lt (Nat.pow_le_pow_right (by omega) (show d1 ≤ 4 by omega)) (by decide)
          rw [p_ior p0 p1, fX6_readClass_L38_s, fX6_readClass_b38, wr_id (x := (k : Int) + 2) (by omega) (by omega), if_pos (by omega)]
          unfold fX6_readClass_b117
          rw [show gI (sA s1 25 (C : Int) ((2 ^ d0 ||| 2 ^ d1 : Nat) : Int)) 23 = (C : Int) from y23, wr_id (by omega) (by omega)]
          refine ⟨_, rfl, (k1.sA (by decide) _ _).sI (by decide) _, fun j hj => ?_, fun _ => ⟨?_, by simp [gI_sI], ?_⟩, fun q => by cases q⟩
          · rw [gA_sI, gA_sA, if_neg (by omega)]; exact yj j hj
          · rw [gI_sI, if_neg (by decide), gI_sA]; exact y22
          · rw [gA_sI, gA_sA, if_pos ⟨rfl, rfl⟩]
        · rw [if_neg (fun q => q (b01_0.mpr (by omega))), if_pos (by simpa using hc1)]
          unfold fX6_broken
          rw [bd_s]
          refine ⟨_, rfl, k1.sI (by decide) _, fun j hj => by rw [gA_sI]; exact yj j hj, fun q => (by cases q), fun _ => by simp [gI_sI]⟩
      · rw [if_pos (b01_0.mpr hdg), if_pos (by simpa using hdg), y23, wr_id (by omega) (by omega)]
        refine ⟨_, rfl, k1.sI (by decide) _, fun j hj => by rw [gA_sI]; exact yj j hj, fun _ => ⟨by rw [gI_sI, if_neg (by decide)]; exact y22, by simp [gI_sI], by rw [gA_sI]; exact y25⟩, fun q => by cases q⟩
    · rw [if_neg (fun q => q (b01_0.mpr (by omega))), if_pos (by simpa using hc0)]
      unfold fX6_broken
      rw [bd_s]
      refine ⟨_, rfl, k0.sI (by decide) _, fun j hj => by rw [gA_sI]; exact zj j hj, fun q => (by cases q), fun _ => by simp [gI_sI]⟩
theorem rdC_le (P : List Int) (C k : Nat) : (rdC P C k).1 ≤ k + 2 := by
  unfold rdC; (repeat' split) <;> simp
theorem p6_readClasses_L {P : List Int} : ∀ (f k : Nat) (L : List Nat) (s : Sg) (n : Nat), f < n → L.length + f = 4 → k + 3 * f ≤ 90 → 0 < f → Pg6 s P → gI s 22 = 0 → gI s 23 = (L.length : Int) → (∀ j : Nat, j < L.length → gA s 25 (j : Int) = (L.getD j 0 : Nat)) →
    ∃ s', (bd (fX6_readClass s k) fun p => fX6_readClasses_L6 n p.2 p.1) = some (((rdCs P f k L).1 : Int), s') ∧ keepS [22, 23, 25] s s' ∧
      ((rdCs P f k L).2.1 = true → gI s' 22 = 0 ∧ gI s' 23 = ((rdCs P f k L).2.2.length : Int) ∧ ∀ j : Nat, j < (rdCs P f k L).2.2.length → gA s' 25 (j : Int) = ((rdCs P f k L).2.2.getD j 0 : Nat)) ∧ ((rdCs P f k L).2.1 = false → gI s' 22 = 1) := by
  intro f
  induction f with
  | zero => intro k L s n _ _ _ h0; omega
  | succ f ih =>
    intro k L s n hn hf hk _ h h22 h23 h25
    obtain ⟨n, rfl⟩ : ∃ m, n = m + 1 := ⟨n - 1, by omega⟩
    obtain ⟨s1, e1, k1, j1, y1, b1⟩ := p6_readClass h (C := L.length) (k := k) (by omega) h23 (by omega)
    have hle := rdC_le P L.length k
    have h1 : Pg6 s1 P := h.keep k1 (by decide) (by decide)
    rw [e1, bd_s]
    simp only [rdCs]
    rw [fX6_readClasses_L6_s, fX6_readClasses_b6]
    unfold fX6_readClasses_b42
    cases hb : (rdC P L.length k).2.1
    · rw [if_pos (by rw [b1 hb]; decide), if_pos rfl]
      exact ⟨s1, rfl, k1, fun q => (by cases q), fun _ => b1 hb⟩
    · obtain ⟨a1, a2, a3⟩ := y1 hb
      rw [if_neg (by rw [a1, h22]; simp), a2, if_neg (show ¬ (true = false) by decide)]
      have hL' : ∀ j : Nat, j < (L ++ [(rdC P L.length k).2.2]).length → gA s1 25 (j : Int) = ((L ++ [(rdC P L.length k).2.2]).getD j 0 : Nat) := by
        intro j hj
        simp only [List.length_append, List.length_cons, List.length_nil] at hj
        rw [List.getD_eq_getElem?_getD]
        by_cases hjl : j < L.length
        · rw [List.getElem?_append_left hjl, ← List.getD_eq_getElem?_getD, j1 j hjl]; exact h25 j hjl
        · have : j = L.length := by omega
          subst this
          rw [a3, List.getElem?_append_right (Nat.le_refl _)]; simp
      by_cases hc : L.length + 1 < 4 ∧ pl P (rdC P L.length k).1 = 44
      · rw [if_neg (by omega), if_pos hc, p6_at h1, bd_s, if_neg (by simp [hc.2]), wr_id (by omega) (by omega)]
        have := ih ((rdC P L.length k).1 + 1) (L ++ [(rdC P L.length k).2.2]) s1 n (by omega) (by simp; omega) (by omega) (by omega) h1 (by rw [a1]; exact h22) (by rw [a2]; simp) hL'
        rw [show ((((rdC P L.length k).1 + 1 : Nat)) : Int) = ((rdC P L.length k).1 : Int) + 1 by omega] at this
        obtain ⟨s2, e2, k2, y2, b2⟩ := this
        exact ⟨s2, e2, k1.trans k2, y2, b2⟩
      · rw [if_neg hc]
        have fin : ∃ s', some (((rdC P L.length k).1 : Int), s1) = some (((rdC P L.length k).1 : Int), s') ∧ keepS [22, 23, 25] s s' ∧ (true = true → gI s' 22 = 0 ∧ gI s' 23 = ((L ++ [(rdC P L.length k).2.2]).length : Int) ∧ ∀ j : Nat, j < (L ++ [(rdC P L.length k).2.2]).length → gA s' 25 (j : Int) = ((L ++ [(rdC P L.length k).2.2]).getD j 0 : Nat)) ∧ (true = false → gI s' 22 = 1) :=
          ⟨s1, rfl, k1, fun _ => ⟨by rw [a1]; exact h22, by rw [a2]; simp, hL'⟩, fun q => by cases q⟩
        by_cases h4 : L.length + 1 < 4
        · rw [if_neg (by omega), p6_at h1, bd_s, if_pos (fun q => hc ⟨h4, q⟩)]
          exact fin
        · rw [if_pos (by omega)]
          exact fin
/-- a head's letters -/
theorem p6_readHead_L {P : List Int} {a i : Nat} (hi : i < 6) (ha : a ≤ 90) : ∀ (f k la n : Nat) (s : Sg), f < n → k + la ≤ a + 5 ∧ a ≤ k → 6 ≤ f + (k - a) → Pg6 s P →
    ∃ s', fX6_readHead_L5 n s a i k la = some (((scS P 5 f k (k - a) la).1 : Int), s') ∧ keepS [22, 28, 29] s s' ∧ (∀ j : Nat, j ≠ i → gA s' 28 (j : Int) = gA s 28 (j : Int) ∧ gA s' 29 (j : Int) = gA s 29 (j : Int)) ∧
      ((scS P 5 f k (k - a) la).2 = true → gI s' 22 = gI s 22 ∧ gA s' 28 (i : Int) = (a : Int) ∧ gA s' 29 (i : Int) = ((scS P 5 f k (k - a) la).1 : Int) - a) ∧ ((scS P 5 f k (k - a) la).2 = false → gI s' 22 = 1) := by
  intro f
  induction f with
  | zero => intro k la n s _ h1 h2; omega
  | succ f ih =>
    intro k la n s hn h1 h2 h
    obtain ⟨n, rfl⟩ : ∃ m, n = m + 1 := ⟨n - 1, by omega⟩
    rw [fX6_readHead_L5_s, fX6_readHead_b5]
    simp only [scS]
    by_cases hl : la = 0
    · rw [if_pos (by omega), if_pos hl, gd_t (by omega), gd_t (by omega), wr_id (by omega) (by omega)]
      refine ⟨_, rfl, (keepA _ s (by decide) _ _).sA (by decide) _ _, fun j hj => ⟨?_, ?_⟩, fun _ => ⟨rfl, ?_, ?_⟩, fun q => by cases q⟩
      · rw [gA_sA, if_neg (by omega), gA_sA, if_neg (by omega)]
      · rw [gA_sA, if_neg (by omega), gA_sA, if_neg (by omega)]
      · simp [gA_sA]
      · simp [gA_sA]
    · have hwr : -1 ≤ wnt (pl P k) ∧ wnt (pl P k) ≤ 2 := by unfold wnt; (repeat' split) <;> decide
      rw [if_neg (by omega), if_neg hl, p6_at h, bd_s, p6_wants2, bd_s]
      unfold fX6_readHead_b39 fX6_broken
      rw [wr_id (x := (k : Int) - (a : Int)) (by omega) (by omega), wr_id (x := (k : Int) - (a : Int) + (la : Int)) (by omega) (by omega), wr_id (x := (k : Int) - (a : Int) + (la : Int) + wnt (pl P k)) (by omega) (by omega), wr_id (x := wnt (pl P k) - 1) (by omega) (by omega), wr_id (x := (la : Int) + (wnt (pl P k) - 1)) (by omega) (by omega), wr_id (x := (k : Int) + 1) (by omega) (by omega), bd_s]
      by_cases hw : wnt (pl P k) = -1
      · rw [if_pos hw, if_pos (Or.inl hw)]
        exact ⟨_, rfl, keepI _ s (by decide) _, fun j _ => ⟨rfl, rfl⟩, fun q => (by cases q), fun _ => by simp [gI_sI]⟩
      · rw [if_neg hw]
        by_cases hb : ((5 : Nat) : Int) < ((k - a : Nat) : Int) + la + wnt (pl P k)
        · rw [if_neg (by omega), if_pos (Or.inr hb)]
          exact ⟨_, rfl, keepI _ s (by decide) _, fun j _ => ⟨rfl, rfl⟩, fun q => (by cases q), fun _ => by simp [gI_sI]⟩
        · rw [if_pos (by omega), if_neg (by rintro (q | q); exact hw q; exact hb q)]
          have := ih (k + 1) (la + (wnt (pl P k)).toNat - 1) n s (by omega) (by omega) (by omega) h
          rw [show k + 1 - a = k - a + 1 by omega] at this
          rw [show ((k + 1 : Nat) : Int) = (k : Int) + 1 by omega, show ((la + (wnt (pl P k)).toNat - 1 : Nat) : Int) = (la : Int) + (wnt (pl P k) - 1) by omega] at this
          exact this
theorem p6_readHead {P : List Int} {a i : Nat} (hi : i < 6) (ha : a ≤ 90) {s : Sg} (h : Pg6 s P) :
    ∃ s', fX6_readHead s a i = some (((scS P 5 6 a 0 1).1 : Int), s') ∧ keepS [22, 28, 29] s s' ∧ (∀ j : Nat, j ≠ i → gA s' 28 (j : Int) = gA s 28 (j : Int) ∧ gA s' 29 (j : Int) = gA s 29 (j : Int)) ∧
      ((scS P 5 6 a 0 1).2 = true → gI s' 22 = gI s 22 ∧ gA s' 28 (i : Int) = (a : Int) ∧ gA s' 29 (i : Int) = ((scS P 5 6 a 0 1).1 : Int) - a) ∧ ((scS P 5 6 a 0 1).2 = false → gI s' 22 = 1) := by
  have := p6_readHead_L (P := P) hi ha 6 a 1 FU s (by unfold FU; omega) (by omega) (by omega) h
  rw [Nat.sub_self] at this
  exact this
theorem occ_ltr : ∀ (t : Tm) (v : Nat), okT t → v < 2 → (occ v t = true ↔ ∃ j, j < szT t ∧ ltr t j = 120 + (v : Int)) := by
  intro t
  induction t with
  | num c =>
    intro v ht hv
    simp only [occ, szT]
    constructor
    · intro h; cases h
    · rintro ⟨j, hj, e⟩
      have : j = 0 := by omega
      subst this
      have e' : (c : Int) = 120 + (v : Int) := e
      rcases ht with rfl | rfl <;> omega
  | var w =>
    intro v ht hv
    simp only [occ, szT]
    constructor
    · intro h
      have : w = v := by simpa using h
      exact ⟨0, by omega, by rw [← this]; rfl⟩
    · rintro ⟨j, hj, e⟩
      have : j = 0 := by omega
      subst this
      have e' : 120 + (w : Int) = 120 + (v : Int) := e
      have : w = v := by
        have h2 : ((w : Nat) : Int) = (v : Int) := by omega
        exact Int.ofNat.inj h2
      simp [this]
  | mulR a k ih => intro v ht; cases ht
  | mulL k a ih =>
    intro v ht hv
    have := ih v ht.2 hv
    show occ v a = true ↔ _
    rw [this]
    simp only [szT]
    constructor
    · rintro ⟨j, hj, e⟩; exact ⟨j + 1, by omega, e⟩
    · rintro ⟨j, hj, e⟩
      cases j with
      | zero => have e' : (108 : Int) = 120 + (v : Int) := e; omega
      | succ j => exact ⟨j, by omega, e⟩
  | add a c iha ihc =>
    intro v ht hv
    have h1 := iha v ht.1 hv
    have h2 := ihc v ht.2 hv
    have la := flat_len a ht.1
    show (occ v a || occ v c) = true ↔ _
    rw [Bool.or_eq_true, h1, h2]
    simp only [szT]
    have g1 : ∀ j, j < szT a → ltr (.add a c) (j + 1) = ltr a j := by
      intro j hj
      unfold ltr
      simp only [flat, List.getD_cons_succ]
      rw [List.getD_eq_getElem?_getD, List.getD_eq_getElem?_getD, List.getElem?_append_left (by omega)]
    have g2 : ∀ j, ltr (.add a c) (j + szT a + 1) = ltr c j := by
      intro j
      unfold ltr
      simp only [flat, List.getD_cons_succ]
      rw [List.getD_eq_getElem?_getD, List.getD_eq_getElem?_getD, List.getElem?_append_right (by omega), la, Nat.add_sub_cancel]
    constructor
    · rintro (⟨j, hj, e⟩ | ⟨j, hj, e⟩)
      · exact ⟨j + 1, by omega, by rw [g1 j hj]; exact e⟩
      · exact ⟨j + szT a + 1, by omega, by rw [g2 j]; exact e⟩
    · rintro ⟨j, hj, e⟩
      cases j with
      | zero => have e' : (112 : Int) = 120 + (v : Int) := e; omega
      | succ j =>
        by_cases hja : j < szT a
        · exact Or.inl ⟨j, hja, by rw [← g1 j hja]; exact e⟩
        · right
          refine ⟨j - szT a, by omega, ?_⟩
          rw [← g2 (j - szT a), show j - szT a + szT a + 1 = j + 1 by omega]; exact e

set_option maxRecDepth 100000
/-! PURE: the model reads a page: instances -/
/-- an instance as it is read: where its head stands, where its conditions -/
def NewI (s : Sg) (P : List Int) (i : Nat) (x : Ist) : Prop := gA s 26 (i : Int) = iK x ∧ gA s 27 (i : Int) = iO x ∧ okT (iH x) ∧ szT (iH x) ≤ 5 ∧ (∃ a : Nat, a ≤ 90 ∧ gA s 28 (i : Int) = (a : Int) ∧ gA s 29 (i : Int) = (szT (iH x) : Int) ∧ ∀ j, j < szT (iH x) → pl P (a + j) = ltr (iH x) j) ∧
  gA s 30 (i : Int) = ((iC x).length : Int) ∧ (iC x).length ≤ 2 ∧ ∀ j : Nat, j < (iC x).length → ∃ q : Nat, q ≤ 100 ∧ gA s 31 (2 * (i : Int) + j) = (q : Int) ∧ pl P q - 48 = (cg x j).1 ∧ pl P (q + 1) - 120 = ((cg x j).2 : Int)
theorem NewI.keep {s s' : Sg} {P : List Int} {i : Nat} {x : Ist} (h : NewI s P i x) (h26 : ∀ k, k ∈ [26, 27, 28, 29, 30] → gA s' k (i : Int) = gA s k (i : Int)) (h31 : ∀ j : Nat, j < 2 → gA s' 31 (2 * (i : Int) + j) = gA s 31 (2 * (i : Int) + j)) : NewI s' P i x := by
  obtain ⟨a1, a2, a3, a4, ⟨a, b1, b2, b3, b4⟩, a6, a7, a8⟩ := h
  refine ⟨(h26 26 (by decide)).trans a1, (h26 27 (by decide)).trans a2, a3, a4, ⟨a, b1, (h26 28 (by decide)).trans b2, (h26 29 (by decide)).trans b3, b4⟩, (h26 30 (by decide)).trans a6, a7, fun j hj => ?_⟩
  obtain ⟨q, q1, q2, q3, q4⟩ := a8 j hj
  exact ⟨q, q1, (h31 j (by omega)).trans q2, q3, q4⟩
theorem p6_isInHead {s : Sg} {P : List Int} (h : Pg6 s P) {i a z : Nat} (hi : i < 6) (ha : a ≤ 90) (hz : z ≤ 9) (h28 : gA s 28 (i : Int) = (a : Int)) (h29 : gA s 29 (i : Int) = (z : Int)) (c : Int) : fX6_isInHead s i c = some (bI (anyN (fun j => decide (pl P (a + j) = c)) z)) := by
  refine loopE (fun f j v => fX6_isInHead_L5 f s i c v j) z (fun j => bI (anyN (fun j => decide (pl P (a + j) = c)) j)) _ ?_ ?_ (by unfold FU; omega)
  · intro f j hj
    show fX6_isInHead_L5 (f + 1) s i c _ j = fX6_isInHead_L5 f s i c _ ((j + 1 : Nat) : Int)
    rw [fX6_isInHead_L5_s, fX6_isInHead_b5, gd_t (by omega), h29, if_neg (by omega), gd_t (by omega), h28, wr_id (x := (a : Int) + (j : Int)) (by omega) (by omega), show (a : Int) + (j : Int) = ((a + j : Nat) : Int) by omega, p6_at h, bd_s, anyN_s]
    unfold fX6_isInHead_b37 fX6_isInHead_b42
    rw [wr_id (by omega) (by omega), show ((j + 1 : Nat) : Int) = (j : Int) + 1 by omega]
    cases anyN (fun j => decide (pl P (a + j) = c)) j <;> by_cases hc : pl P (a + j) = c <;> simp [bI, hc]
  · intro f
    show fX6_isInHead_L5 (f + 1) s i c _ z = _
    rw [fX6_isInHead_L5_s, fX6_isInHead_b5, gd_t (by omega), h29, if_pos (by omega), gd_t bI_or]
theorem inHead_occ {P : List Int} {a : Nat} {t : Tm} (ht : okT t) (h : ∀ j, j < szT t → pl P (a + j) = ltr t j) {v : Nat} (hv : v < 2) : anyN (fun j => decide (pl P (a + j) = 120 + (v : Int))) (szT t) = occ v t := by
  rw [Bool.eq_iff_iff, anyN_iff, occ_ltr t v ht hv]
  constructor
  · rintro ⟨j, hj, e⟩; exact ⟨j, hj, by rw [← h j hj]; simpa using e⟩
  · rintro ⟨j, hj, e⟩; exact ⟨j, hj, by rw [h j hj]; simpa using e⟩
/-- the conditions of the one that is read -/
def Cnd6 (s : Sg) (P : List Int) (i : Nat) (D : List (Int × Nat)) : Prop := gA s 30 (i : Int) = (D.length : Int) ∧ ∀ j : Nat, j < D.length → ∃ q : Nat, q ≤ 100 ∧ gA s 31 (2 * (i : Int) + j) = (q : Int) ∧ pl P q - 48 = (D.getD j (0, 0)).1 ∧ pl P (q + 1) - 120 = ((D.getD j (0, 0)).2 : Int)
/-- what of others isn't touched -/
def oth (i : Nat) (s s' : Sg) : Prop := (∀ j : Nat, j ≠ i → ∀ k, k ∈ [26, 27, 28, 29, 30] → gA s' k (j : Int) = gA s k (j : Int)) ∧ ∀ j e : Nat, j ≠ i → e < 2 → gA s' 31 (2 * (j : Int) + e) = gA s 31 (2 * (j : Int) + e)
theorem oth.refl (i : Nat) (s : Sg) : oth i s s := ⟨fun _ _ _ _ => rfl, fun _ _ _ _ => rfl⟩
theorem oth.trans {i : Nat} {s s' s'' : Sg} (h : oth i s s') (h' : oth i s' s'') : oth i s s'' := ⟨fun j hj k hk => (h'.1 j hj k hk).trans (h.1 j hj k hk), fun j e hj he => (h'.2 j e hj he).trans (h.2 j e hj he)⟩
theorem rdD_bd (P : List Int) (C : Nat) (h : Tm) : ∀ (m k : Nat) (D : List (Int × Nat)), (rdD P C h m k D).1 ≤ k + 2 * m := by
  intro m
  induction m with
  | zero => intro k D; simp [rdD]
  | succ m ih =>
    intro k D
    simp only [rdD]
    split
    · simp only; omega
    · split
      · simp only; omega
      · split
        · simp only; omega
        · have := ih (k + 2) (D ++ [(pl P k - 48, (pl P (k + 1) - 120).toNat)]); omega
theorem p6_readConditions_L {P : List Int} {C a i : Nat} {t : Tm} (hi : i < 6) (ha : a ≤ 90) (ht : okT t) (hz : szT t ≤ 5) (hl : ∀ j, j < szT t → pl P (a + j) = ltr t j) :
    ∀ (m k : Nat) (D : List (Int × Nat)) (s : Sg) (n : Nat), m < n → m + D.length = 2 → k + 2 * m ≤ 100 → Pg6 s P → gI s 23 = (C : Int) → gA s 28 (i : Int) = (a : Int) → gA s 29 (i : Int) = (szT t : Int) → Cnd6 s P i D →
    ∃ s', fX6_readConditions_L36 n s i k (bI (occ 0 t || occ 1 t)) = some (((rdD P C t m k D).1 : Int), s') ∧ keepS [22, 30, 31] s s' ∧ oth i s s' ∧
      ((rdD P C t m k D).2.1 = true → gI s' 22 = gI s 22 ∧ Cnd6 s' P i (rdD P C t m k D).2.2) ∧ ((rdD P C t m k D).2.1 = false → gI s' 22 = 1) := by
  intro m
  induction m with
  | zero =>
    intro k D s n hn hm hk h h23 h28 h29 hc
    obtain ⟨n, rfl⟩ : ∃ m, n = m + 1 := ⟨n - 1, by omega⟩
    rw [fX6_readConditions_L36_s, fX6_readConditions_b36, gd_t (by omega), hc.1, if_pos (by omega), fX6_readConditions_b151]
    exact ⟨s, rfl, keepS.refl _ _, oth.refl _ _, fun _ => ⟨rfl, hc⟩, fun q => (by cases q)⟩
  | succ m ih =>
    intro k D s n hn hm hk h h23 h28 h29 hc
    obtain ⟨n, rfl⟩ : ∃ m, n = m + 1 := ⟨n - 1, by omega⟩
    have hr0 := pl_r h.2.2.1 k
    have hr1 := pl_r h.2.2.1 (k + 1)
    have f0 := p6_figure h k
    have a1 := p6_at h (k + 1)
    rw [show ((k + 1 : Nat) : Int) = (k : Int) + 1 by omega] at a1
    rw [fX6_readConditions_L36_s, fX6_readConditions_b36, gd_t (by omega), hc.1, if_neg (by omega)]
    unfold fX6_readConditions_b151 fX6_readConditions_b111 fX6_broken
    simp only [rdD]
    have stop : ∃ s', some ((k : Int), s) = some ((k : Int), s') ∧ keepS [22, 30, 31] s s' ∧ oth i s s' ∧ (true = true → gI s' 22 = gI s 22 ∧ Cnd6 s' P i D) ∧ (true = false → gI s' 22 = 1) :=
      ⟨s, rfl, keepS.refl _ _, oth.refl _ _, fun _ => ⟨rfl, hc⟩, fun q => (by cases q)⟩
    have brk : ∀ q : Nat, ∃ s', some ((q : Int), sI s 22 1) = some ((q : Int), s') ∧ keepS [22, 30, 31] s s' ∧ oth i s s' ∧ (false = true → gI s' 22 = gI s 22 ∧ Cnd6 s' P i D) ∧ (false = false → gI s' 22 = 1) :=
      fun q => ⟨_, rfl, keepI _ s (by decide) _, ⟨fun _ _ _ _ => rfl, fun _ _ _ _ => rfl⟩, fun q => (by cases q), fun _ => by simp [gI_sI]⟩
    by_cases hmay : occ 0 t = true ∨ occ 1 t = true
    · have hm1 : (occ 0 t || occ 1 t) = true := by rcases hmay with q | q <;> simp [q]
      rw [hm1, if_neg (show ¬ bI true = 0 by decide), f0, bd_s, p6_within, bd_s]
      by_cases hdg : 0 ≤ pl P k - 48 ∧ pl P k - 48 ≤ 9
      · rw [if_neg (fun q => b01_0.mp q hdg), bd_s, h23, if_neg (show ¬ ¬ ((occ 0 t = true ∨ occ 1 t = true) ∧ 0 ≤ pl P k - 48 ∧ pl P k - 48 ≤ 9) from fun q => q ⟨hmay, hdg⟩)]
        by_cases hC : pl P k - 48 < (C : Int)
        · rw [if_pos hC, if_neg (show ¬ ¬ (pl P k - 48 < (C : Int)) from fun q => q hC), wr_id (x := (k : Int) + 1) (by omega) (by omega), a1, bd_s, p6_isVar, bd_s]
          by_cases hv : pl P (k + 1) = 120 ∨ pl P (k + 1) = 121
          · rw [if_neg (fun q => b01_0.mp q hv), bd_s, p6_isInHead h hi ha (by omega) h28 h29, bd_s]
            obtain ⟨v, hvv, hv2⟩ : ∃ v : Nat, pl P (k + 1) = 120 + (v : Int) ∧ v < 2 := ⟨(pl P (k + 1) - 120).toNat, by omega, by omega⟩
            rw [hvv, inHead_occ ht hl hv2]
            have hvt : (120 + (v : Int) - 120).toNat = v := by omega
            rw [hvt]
            cases ho : occ v t
            · rw [if_neg (by simp [bI]), bd_s, if_pos (by rintro ⟨-, q⟩; cases q)]
              exact brk (k + 1)
            · rw [if_pos (by simp [bI]), if_neg (show ¬ ¬ ((120 + (v : Int) = 120 ∨ 120 + (v : Int) = 121) ∧ true = true) from fun q => q ⟨by omega, rfl⟩)]
              rw [wr_id (x := 2 * (i : Int)) (by omega) (by omega), wr_id (x := 2 * (i : Int) + (D.length : Int)) (by omega) (by omega), gd_t (by omega), gd_t (by omega), gd_t (by omega), gd_t (by omega)]
              have e30 : gA (sA s 31 (2 * (i : Int) + (D.length : Int)) (k : Int)) 30 (i : Int) = (D.length : Int) := by rw [gA_sA, if_neg (by omega)]; exact hc.1
              rw [e30, wr_id (x := (D.length : Int) + 1) (by omega) (by omega), wr_id (x := (k : Int) + 2) (by omega) (by omega)]
              obtain ⟨s1, hs1⟩ : ∃ s1, s1 = sA (sA s 31 (2 * (i : Int) + (D.length : Int)) (k : Int)) 30 (i : Int) ((D.length : Int) + 1) := ⟨_, rfl⟩
              rw [← hs1]
              have k1 : keepS [22, 30, 31] s s1 := by rw [hs1]; exact (keepA _ s (by decide) _ _).sA (by decide) _ _
              have o1 : oth i s s1 := by
                rw [hs1]
                refine ⟨fun j hj q hq => ?_, fun j e hj he => ?_⟩
                · rw [gA_sA, if_neg (by omega), gA_sA, if_neg (by rintro ⟨q1, -⟩; rw [q1] at hq; simp at hq)]
                · rw [gA_sA, if_neg (by omega), gA_sA, if_neg (by omega)]
              have c1 : Cnd6 s1 P i (D ++ [(pl P k - 48, v)]) := by
                refine ⟨by rw [hs1]; simp [gA_sA], fun j hj => ?_⟩
                simp only [List.length_append, List.length_cons, List.length_nil] at hj
                by_cases hjD : j < D.length
                · obtain ⟨q, q1, q2, q3, q4⟩ := hc.2 j hjD
                  have e : (D ++ [(pl P k - 48, v)]).getD j (0, 0) = D.getD j (0, 0) := by
                    rw [List.getD_eq_getElem?_getD, List.getD_eq_getElem?_getD, List.getElem?_append_left hjD]
                  refine ⟨q, q1, ?_, by rw [e]; exact q3, by rw [e]; exact q4⟩
                  rw [hs1, gA_sA, if_neg (by omega), gA_sA, if_neg (by omega)]; exact q2
                · have : j = D.length := by omega
                  subst this
                  have e : (D ++ [(pl P k - 48, v)]).getD D.length (0, 0) = (pl P k - 48, v) := by
                    rw [List.getD_eq_getElem?_getD, List.getElem?_append_right (Nat.le_refl _)]; simp
                  refine ⟨k, by omega, ?_, by rw [e], by rw [e, hvv]; simp only; omega⟩
                  rw [hs1, gA_sA, if_neg (by omega), gA_sA, if_pos ⟨rfl, rfl⟩]
              have := ih (k + 2) (D ++ [(pl P k - 48, v)]) s1 n (by omega) (by simp; omega) (by omega) (h.keep k1 (by decide) (by decide)) ((k1.I (by decide)).trans h23) ((k1.A (by decide) _).trans h28) ((k1.A (by decide) _).trans h29) c1
              rw [hm1, show ((k + 2 : Nat) : Int) = (k : Int) + 2 by omega] at this
              obtain ⟨s2, e2, k2, o2, y2, b2⟩ := this
              have hk22 : gI s1 22 = gI s 22 := by rw [hs1]; rfl
              exact ⟨s2, e2, k1.trans k2, o1.trans o2, fun q => ⟨(y2 q).1.trans hk22, (y2 q).2⟩, b2⟩
          · rw [if_pos (b01_0.mpr hv), bd_s, if_pos (fun q => hv q.1)]
            exact brk (k + 1)
        · rw [if_neg hC, bd_s, if_pos (show ¬ (pl P k - 48 < (C : Int)) from hC)]
          exact brk k
      · rw [if_pos (b01_0.mpr hdg), if_pos (fun q => hdg q.2)]
        exact stop
    · have hm0 : (occ 0 t || occ 1 t) = false := by
        cases h0 : occ 0 t <;> cases h1 : occ 1 t <;> simp_all
      rw [hm0, if_pos (show bI false = 0 from rfl), if_pos (fun q => hmay q.1)]
      exact stop
theorem p6_readConditions {P : List Int} {C a i k : Nat} {t : Tm} {s : Sg} (hi : i < 6) (ha : a ≤ 90) (hk : k ≤ 95) (ht : okT t) (hz : szT t ≤ 5) (hl : ∀ j, j < szT t → pl P (a + j) = ltr t j) (h : Pg6 s P) (h23 : gI s 23 = (C : Int)) (h28 : gA s 28 (i : Int) = (a : Int)) (h29 : gA s 29 (i : Int) = (szT t : Int)) :
    ∃ s', fX6_readConditions s k i = some (((rdD P C t 2 k []).1 : Int), s') ∧ keepS [22, 30, 31] s s' ∧ oth i s s' ∧
      ((rdD P C t 2 k []).2.1 = true → gI s' 22 = gI s 22 ∧ Cnd6 s' P i (rdD P C t 2 k []).2.2) ∧ ((rdD P C t 2 k []).2.1 = false → gI s' 22 = 1) := by
  unfold fX6_readConditions fX6_readConditions_b29 fX6_readConditions_b34
  obtain ⟨s1, hs1⟩ : ∃ s1, s1 = sA s 30 (i : Int) 0 := ⟨_, rfl⟩
  have k1 : keepS [30] s s1 := by rw [hs1]; exact keepA _ s (by decide) _ _
  have h1 := h.keep k1 (by decide) (by decide)
  have g28 : gA s1 28 (i : Int) = (a : Int) := (k1.A (by decide) _).trans h28
  have g29 : gA s1 29 (i : Int) = (szT t : Int) := (k1.A (by decide) _).trans h29
  have c1 : Cnd6 s1 P i [] := ⟨by rw [hs1]; simp [gA_sA], fun j hj => by simp at hj⟩
  have o1 : oth i s s1 := by
    rw [hs1]
    refine ⟨fun j hj q hq => ?_, fun j e hj he => ?_⟩
    · rw [gA_sA, if_neg (by omega)]
    · rw [gA_sA, if_neg (by omega)]
  have e0 := inHead_occ ht hl (v := 0) (by omega)
  have e1 := inHead_occ ht hl (v := 1) (by omega)
  rw [show (120 : Int) + ((0 : Nat) : Int) = 120 from rfl] at e0
  rw [show (120 : Int) + ((1 : Nat) : Int) = 121 from rfl] at e1
  rw [gd_t (by omega), ← hs1, p6_isInHead h1 hi ha (by omega) g28 g29, bd_s, e0, p6_isInHead h1 hi ha (by omega) g28 g29, bd_s, e1]
  obtain ⟨s2, e2, k2, o2, y2, b2⟩ := p6_readConditions_L hi ha ht hz hl 2 k [] s1 FU (by unfold FU; omega) (by simp) (by omega) h1 ((k1.I (by decide)).trans h23) g28 g29 c1
  have hk22 : gI s1 22 = gI s 22 := k1.I (by decide)
  refine ⟨s2, ?_, (k1.mono (by decide)).trans k2, o1.trans o2, fun q => ⟨(y2 q).1.trans hk22, (y2 q).2⟩, b2⟩
  rw [← e2]
  cases occ 0 t <;> cases occ 1 t <;> simp [bI]
theorem p6_readInstance {s : Sg} {P : List Int} {C k i : Nat} (h : Pg6 s P) (hC : C ≤ 4) (h23 : gI s 23 = (C : Int)) (h24 : gI s 24 = (i : Int)) (h22 : gI s 22 = 0) (hi : i < 6) (hk : k ≤ 85) :
    ∃ s', fX6_readInstance s k = some (((rdI P C k).1 : Int), s') ∧ keepS [22, 24, 26, 27, 28, 29, 30, 31] s s' ∧ oth i s s' ∧
      ((rdI P C k).2.1 = true → gI s' 22 = 0 ∧ gI s' 24 = (i : Int) + 1 ∧ NewI s' P i (rdI P C k).2.2 ∧ okI C (rdI P C k).2.2) ∧ ((rdI P C k).2.1 = false → gI s' 22 = 1) := by
  have hr1 := pl_r h.2.2.1 (k + 1)
  have hkd : ∀ c, fX6_kindBy c = some (kdB c) := fun c => by unfold fX6_kindBy kdB; (repeat' split) <;> rfl
  have hkr : ∀ c, -1 ≤ kdB c ∧ kdB c ≤ 4 := fun c => by unfold kdB; (repeat' split) <;> decide
  unfold fX6_readInstance rdI
  rw [p6_at h, bd_s, hkd, bd_s, h24, gd_t (by omega), gd_t (by omega)]
  obtain ⟨s1, hs1⟩ : ∃ s1, s1 = sA s 26 (i : Int) (kdB (pl P k)) := ⟨_, rfl⟩
  have k1 : keepS [22, 24, 26, 27, 28, 29, 30, 31] s s1 := by rw [hs1]; exact keepA _ s (by decide) _ _
  have o1 : oth i s s1 := by
    rw [hs1]
    refine ⟨fun j hj q hq => ?_, fun j e hj he => ?_⟩
    · rw [gA_sA, if_neg (by omega)]
    · rw [gA_sA, if_neg (by omega)]
  have h1 := h.keep k1 (by decide) (by decide)
  have z26 : gA s1 26 (i : Int) = kdB (pl P k) := by rw [hs1]; simp [gA_sA]
  have z22 : gI s1 22 = 0 := by rw [hs1]; exact h22
  have z24 : gI s1 24 = (i : Int) := by rw [hs1]; exact h24
  have z23 : gI s1 23 = (C : Int) := by rw [hs1]; exact h23
  rw [← hs1, z26]
  have f1 := p6_figure h1 (k + 1)
  rw [show ((k + 1 : Nat) : Int) = (k : Int) + 1 by omega] at f1
  by_cases hkb : kdB (pl P k) = -1
  · rw [if_neg (by simp [hkb]), if_pos hkb]
    unfold fX6_broken
    rw [bd_s]
    exact ⟨_, rfl, k1.sI (by decide) _, o1.trans ⟨fun _ _ _ _ => rfl, fun _ _ _ _ => rfl⟩, fun q => (by cases q), fun _ => by simp [gI_sI]⟩
  · rw [if_pos hkb, if_neg hkb, wr_id (x := (k : Int) + 1) (by omega) (by omega), f1, bd_s, gd_t (by omega), gd_t (by omega)]
    obtain ⟨s2, hs2⟩ : ∃ s2, s2 = sA s1 27 (i : Int) (pl P (k + 1) - 48) := ⟨_, rfl⟩
    have k2 : keepS [22, 24, 26, 27, 28, 29, 30, 31] s s2 := by rw [hs2]; exact k1.sA (by decide) _ _
    have o2 : oth i s s2 := by
      refine o1.trans ?_
      rw [hs2]
      refine ⟨fun j hj q hq => ?_, fun j e hj he => ?_⟩
      · rw [gA_sA, if_neg (by omega)]
      · rw [gA_sA, if_neg (by omega)]
    have h2 := h.keep k2 (by decide) (by decide)
    have y26 : gA s2 26 (i : Int) = kdB (pl P k) := by rw [hs2, gA_sA, if_neg (by omega)]; exact z26
    have y27 : gA s2 27 (i : Int) = pl P (k + 1) - 48 := by rw [hs2]; simp [gA_sA]
    have y22 : gI s2 22 = 0 := by rw [hs2]; exact z22
    have y24 : gI s2 24 = (i : Int) := by rw [hs2]; exact z24
    have y23 : gI s2 23 = (C : Int) := by rw [hs2]; exact z23
    rw [← hs2, y27, y23, wr_id (x := (C : Int) - 1) (by omega) (by omega), p6_within, bd_s]
    by_cases hcl : 0 ≤ pl P (k + 1) - 48 ∧ pl P (k + 1) - 48 < (C : Int)
    · rw [if_pos (fun q => b01_0.mp q (by omega)), if_neg (show ¬ ¬ (0 ≤ pl P (k + 1) - 48 ∧ pl P (k + 1) - 48 < (C : Int)) from fun q => q hcl), wr_id (x := (k : Int) + 2) (by omega) (by omega), show (k : Int) + 2 = ((k + 2 : Nat) : Int) by omega]
      obtain ⟨s3, e3, k3, j3, yy3, b3⟩ := p6_readHead (P := P) (a := k + 2) hi (by omega) h2
      have k3' : keepS [22, 24, 26, 27, 28, 29, 30, 31] s s3 := k2.trans (k3.mono (by decide))
      have o3 : oth i s s3 := by
        refine o2.trans ⟨fun j hj q hq => ?_, fun j e hj he => k3.A (by decide) _⟩
        simp only [List.mem_cons, List.not_mem_nil, or_false] at hq
        rcases hq with rfl | rfl | rfl | rfl | rfl
        · exact k3.A (by decide) _
        · exact k3.A (by decide) _
        · exact (j3 j hj).1
        · exact (j3 j hj).2
        · exact k3.A (by decide) _
      rw [e3, bd_s]
      have x24 : gI s3 24 = (i : Int) := (k3.I (by decide)).trans y24
      unfold fX6_readInstance_b98
      cases hsc : (scS P 5 6 (k + 2) 0 1).2
      · rw [if_pos rfl, if_pos (by rw [b3 hsc]; decide)]
        exact ⟨_, rfl, k3'.sI (by decide) _, o3.trans ⟨fun _ _ _ _ => rfl, fun _ _ _ _ => rfl⟩, fun q => (by cases q), fun _ => by rw [gI_sI, if_neg (by decide)]; exact b3 hsc⟩
      · obtain ⟨w1, w2, w3⟩ := yy3 hsc
        have hpair : scS P 5 6 (k + 2) 0 1 = ((scS P 5 6 (k + 2) 0 1).1, true) := by rw [← hsc]
        obtain ⟨t, p1, p2, p3⟩ := scS_one hpair
        obtain ⟨-, -, pl3⟩ := ptr_ok P 6 (k + 2) t _ p1
        have hz5 : szT t ≤ 5 := by
          -- at most five letters
          have : ∀ (f k sz la k' : Nat), scS P 5 f k sz la = (k', true) → sz + la ≤ 5 → k' ≤ k + (5 - sz) := by
            intro f
            induction f with
            | zero => intro k sz la k' e; simp [scS] at e
            | succ f ih =>
              intro k sz la k' e hle
              simp only [scS] at e
              split at e
              · simp at e; omega
              · split at e
                · simp at e
                · rename_i q
                  have q1 : ¬ wnt (pl P k) = -1 := fun r => q (Or.inl r)
                  have q2 : ¬ ((5 : Nat) : Int) < (sz : Int) + la + wnt (pl P k) := fun r => q (Or.inr r)
                  have hwr : -1 ≤ wnt (pl P k) := by unfold wnt; (repeat' split) <;> decide
                  have := ih (k + 1) (sz + 1) _ k' e (by omega)
                  omega
          have := this 6 (k + 2) 0 1 _ hpair (by omega)
          omega
        rw [if_neg (show ¬ (true = false) by decide), p1]
        simp only
        rw [if_neg (by rw [w1, y22]; simp)]
        have w3' : gA s3 29 (i : Int) = (szT t : Int) := by rw [w3]; omega
        obtain ⟨s4, e4, k4, o4, yy4, b4⟩ := p6_readConditions (C := C) (k := (scS P 5 6 (k + 2) 0 1).1) hi (show k + 2 ≤ 90 by omega) (by omega) p2 hz5 pl3 (h2.keep k3 (by decide) (by decide)) ((k3.I (by decide)).trans y23) w2 w3'
        have k4' : keepS [22, 24, 26, 27, 28, 29, 30, 31] s s4 := k3'.trans (k4.mono (by decide))
        have x24' : gI s4 24 = (i : Int) := (k4.I (by decide)).trans x24
        rw [e4, bd_s, x24', wr_id (by omega) (by omega)]
        refine ⟨_, rfl, k4'.sI (by decide) _, (o3.trans o4).trans ⟨fun _ _ _ _ => rfl, fun _ _ _ _ => rfl⟩, fun q => ?_, fun q => by rw [gI_sI, if_neg (by decide)]; exact b4 q⟩
        obtain ⟨v1, v2⟩ := yy4 q
        refine ⟨by rw [gI_sI, if_neg (by decide), v1, w1]; exact y22, by simp [gI_sI], ?_, ?_⟩
        · refine ⟨?_, ?_, p2, hz5, ⟨k + 2, by omega, ?_, ?_, pl3⟩, v2.1, ?_, fun j hj => v2.2 j hj⟩
          · rw [gA_sI, k4.A (by decide), k3.A (by decide)]; exact y26
          · rw [gA_sI, k4.A (by decide), k3.A (by decide)]; exact y27
          · rw [gA_sI, k4.A (by decide)]; exact w2
          · rw [gA_sI, k4.A (by decide)]; exact w3'
          · have len : ∀ (m k : Nat) (D : List (Int × Nat)), (rdD P C t m k D).2.2.length ≤ D.length + m := by
              intro m
              induction m with
              | zero => intro k D; simp [rdD]
              | succ m ih =>
                intro k D
                simp only [rdD]
                split
                · simp only; omega
                · split
                  · simp only; omega
                  · split
                    · simp only; omega
                    · have := ih (k + 2) (D ++ [(pl P k - 48, (pl P (k + 1) - 120).toNat)]); simp at this; omega
            exact len 2 _ []
        · have cd : ∀ (m k : Nat) (D : List (Int × Nat)), (∀ j, j < D.length → (0 ≤ (D.getD j (0, 0)).1 ∧ (D.getD j (0, 0)).1 < (C : Int)) ∧ (D.getD j (0, 0)).2 < 2 ∧ occ (D.getD j (0, 0)).2 t = true) → ∀ j, j < (rdD P C t m k D).2.2.length → (0 ≤ ((rdD P C t m k D).2.2.getD j (0, 0)).1 ∧ ((rdD P C t m k D).2.2.getD j (0, 0)).1 < (C : Int)) ∧ ((rdD P C t m k D).2.2.getD j (0, 0)).2 < 2 ∧ occ ((rdD P C t m k D).2.2.getD j (0, 0)).2 t = true := by
            intro m
            induction m with
            | zero => intro k D hD j hj; exact hD j hj
            | succ m ih =>
              intro k D hD
              simp only [rdD]
              split
              · exact hD
              · split
                · exact hD
                · split
                  · exact hD
                  · rename_i q1 q2 q3
                    apply ih
                    intro j hj
                    simp only [List.length_append, List.length_cons, List.length_nil] at hj
                    by_cases hjD : j < D.length
                    · have e : (D ++ [(pl P k - 48, (pl P (k + 1) - 120).toNat)]).getD j (0, 0) = D.getD j (0, 0) := by
                        rw [List.getD_eq_getElem?_getD, List.getD_eq_getElem?_getD, List.getElem?_append_left hjD]
                      rw [e]; exact hD j hjD
                    · have : j = D.length := by omega
                      subst this
                      have e : (D ++ [(pl P k - 48, (pl P (k + 1) - 120).toNat)]).getD D.length (0, 0) = (pl P k - 48, (pl P (k + 1) - 120).toNat) := by
                        rw [List.getD_eq_getElem?_getD, List.getElem?_append_right (Nat.le_refl _)]; simp
                      rw [e]
                      have q1' := Decidable.not_not.mp q1
                      have q2' := Decidable.not_not.mp q2
                      have q3' := Decidable.not_not.mp q3
                      exact ⟨⟨by omega, q2'⟩, by simp only; omega, q3'.2⟩
          have hk4 := hkr (pl P k)
          have len2 : (rdD P C t 2 (scS P 5 6 (k + 2) 0 1).1 []).2.2.length ≤ 2 := by
            have len : ∀ (m k : Nat) (D : List (Int × Nat)), (rdD P C t m k D).2.2.length ≤ D.length + m := by
              intro m
              induction m with
              | zero => intro k D; simp [rdD]
              | succ m ih =>
                intro k D
                simp only [rdD]
                split
                · simp only; omega
                · split
                  · simp only; omega
                  · split
                    · simp only; omega
                    · have := ih (k + 2) (D ++ [(pl P k - 48, (pl P (k + 1) - 120).toNat)]); simp at this; omega
            exact len 2 _ []
          exact ⟨⟨by show 0 ≤ kdB _; omega, hk4.2⟩, hcl, p2, hz5, len2, fun j hj => cd 2 _ [] (fun j hj => by simp at hj) j hj⟩
    · rw [if_neg (fun q => q (b01_0.mpr (by omega))), if_pos (show ¬ (0 ≤ pl P (k + 1) - 48 ∧ pl P (k + 1) - 48 < (C : Int)) from hcl)]
      unfold fX6_broken
      rw [bd_s]
      exact ⟨_, rfl, k2.sI (by decide) _, o2.trans ⟨fun _ _ _ _ => rfl, fun _ _ _ _ => rfl⟩, fun q => (by cases q), fun _ => by simp [gI_sI]⟩

set_option maxRecDepth 100000
/-! PURE: the model reads a page -/
theorem pl_comma {P : List Int} {k : Nat} {c : Int} (h : pl P k = c) (hc : c ≠ 0) : k < P.length := by
  refine Classical.byContradiction fun hn => hc ?_
  unfold pl at h
  rw [List.getD_eq_getElem?_getD, List.getElem?_eq_none (by omega)] at h
  exact h.symm
theorem getD_app {α : Type} (L : List α) (x d : α) (j : Nat) : (L ++ [x]).getD j d = if j = L.length then x else L.getD j d := by
  rw [List.getD_eq_getElem?_getD, List.getD_eq_getElem?_getD]
  by_cases h : j < L.length
  · rw [List.getElem?_append_left h, if_neg (by omega)]
  · by_cases e : j = L.length
    · subst e; rw [List.getElem?_append_right (Nat.le_refl _)]; simp
    · rw [if_neg e, List.getElem?_eq_none (by simp; omega), List.getElem?_eq_none (by omega)]
theorem p6_readInst_L {P : List Int} {C : Nat} (hC : C ≤ 4) : ∀ (f k : Nat) (I : List Ist) (s : Sg) (n : Nat), f < n → I.length + f = 6 → 0 < f → k ≤ 85 → Pg6 s P → gI s 22 = 0 → gI s 23 = (C : Int) → gI s 24 = (I.length : Int) → (∀ j : Nat, j < I.length → NewI s P j (ig I j) ∧ okI C (ig I j)) →
    ∃ s', (bd (fX6_readInstance s k) fun p => fX6_read_L52 n p.2 p.1) = some (((rdIs P C f k I).1 : Int), s') ∧ keepS [21, 22, 24, 26, 27, 28, 29, 30, 31] s s' ∧
      gI s' 21 = bI ((rdIs P C f k I).2.1 && Nat.beq (rdIs P C f k I).1 P.length) ∧
      ((rdIs P C f k I).2.1 = true → gI s' 24 = ((rdIs P C f k I).2.2.length : Int) ∧ (rdIs P C f k I).2.2.length ≤ 6 ∧ 0 < (rdIs P C f k I).2.2.length ∧ ∀ j : Nat, j < (rdIs P C f k I).2.2.length → NewI s' P j (ig (rdIs P C f k I).2.2 j) ∧ okI C (ig (rdIs P C f k I).2.2 j)) := by
  intro f
  induction f with
  | zero => intro k I s n _ _ h0; omega
  | succ f ih =>
    intro k I s n hn hf _ hk h h22 h23 h24 hI
    obtain ⟨n, rfl⟩ : ∃ m, n = m + 1 := ⟨n - 1, by omega⟩
    obtain ⟨s1, e1, k1, o1, y1, b1⟩ := p6_readInstance h hC h23 h24 h22 (show I.length < 6 by omega) hk
    have h1 : Pg6 s1 P := h.keep k1 (by decide) (by decide)
    have k1' : keepS [21, 22, 24, 26, 27, 28, 29, 30, 31] s s1 := k1.mono (by decide)
    rw [e1, bd_s]
    simp only [rdIs]
    rw [fX6_read_L52_s, fX6_read_b52]
    unfold fX6_read_b89 fX6_read_b109 fX6_read_b110
    rcases (Bool.eq_false_or_eq_true (rdI P C k).2.1).symm with hb | hb
    · rw [if_pos (by rw [b1 hb]; decide), if_pos (by rw [b1 hb]; decide), if_pos hb, gd_t (Or.inl rfl)]
      exact ⟨_, rfl, k1'.sI (by decide) _, by simp [gI_sI, bI], fun q => (by cases q)⟩
    · obtain ⟨a1, a2, a3, a4⟩ := y1 hb
      rw [if_neg (by rw [a1]; simp), a2, if_neg (show ¬ (rdI P C k).2.1 = false by rw [hb]; decide)]
      have hnew : ∀ j : Nat, j < (I ++ [(rdI P C k).2.2]).length → NewI s1 P j (ig (I ++ [(rdI P C k).2.2]) j) ∧ okI C (ig (I ++ [(rdI P C k).2.2]) j) := by
        intro j hj
        simp only [List.length_append, List.length_cons, List.length_nil] at hj
        unfold ig
        rw [getD_app]
        by_cases e : j = I.length
        · rw [if_pos e, e]; exact ⟨a3, a4⟩
        · rw [if_neg e]
          obtain ⟨q1, q2⟩ := hI j (by omega)
          exact ⟨q1.keep (fun k hk => o1.1 j e k hk) (fun x hx => o1.2 j x e hx), q2⟩
      by_cases hc : I.length + 1 < 6 ∧ pl P (rdI P C k).1 = 44
      · have hlt := pl_comma hc.2 (by decide)
        have h84 := h.2.1
        rw [if_neg (by omega), if_pos hc, p6_at h1, bd_s, if_neg (by simp [hc.2]), wr_id (by omega) (by omega)]
        have := ih ((rdI P C k).1 + 1) (I ++ [(rdI P C k).2.2]) s1 n (by omega) (by simp; omega) (by omega) (by omega) h1 a1 ((k1.I (by decide)).trans h23) (by rw [a2]; simp) hnew
        rw [show ((((rdI P C k).1 + 1 : Nat)) : Int) = ((rdI P C k).1 : Int) + 1 by omega] at this
        obtain ⟨s2, e2, k2, y2, z2⟩ := this
        exact ⟨s2, e2, k1'.trans k2, y2, z2⟩
      · rw [if_neg hc]
        have fin : ∃ s', (if ¬ gI s1 22 = 0 then gd ((0 : Int) = 0 ∨ (0 : Int) = 1) (some (((rdI P C k).1 : Int), sI s1 21 0)) else if ¬ ((rdI P C k).1 : Int) = gI s1 19 then gd ((0 : Int) = 0 ∨ (0 : Int) = 1) (some (((rdI P C k).1 : Int), sI s1 21 0)) else gd ((1 : Int) = 0 ∨ (1 : Int) = 1) (some (((rdI P C k).1 : Int), sI s1 21 1))) = some (((rdI P C k).1 : Int), s') ∧ keepS [21, 22, 24, 26, 27, 28, 29, 30, 31] s s' ∧ gI s' 21 = bI (true && Nat.beq (rdI P C k).1 P.length) ∧ (true = true → gI s' 24 = ((I ++ [(rdI P C k).2.2]).length : Int) ∧ (I ++ [(rdI P C k).2.2]).length ≤ 6 ∧ 0 < (I ++ [(rdI P C k).2.2]).length ∧ ∀ j : Nat, j < (I ++ [(rdI P C k).2.2]).length → NewI s' P j (ig (I ++ [(rdI P C k).2.2]) j) ∧ okI C (ig (I ++ [(rdI P C k).2.2]) j)) := by
          rw [if_neg (by rw [a1]; simp), h1.1, gd_t (Or.inl rfl), gd_t (Or.inr rfl)]
          have all : ∀ v : Int, gI (sI s1 21 v) 24 = ((I ++ [(rdI P C k).2.2]).length : Int) ∧ (I ++ [(rdI P C k).2.2]).length ≤ 6 ∧ 0 < (I ++ [(rdI P C k).2.2]).length ∧ ∀ j : Nat, j < (I ++ [(rdI P C k).2.2]).length → NewI (sI s1 21 v) P j (ig (I ++ [(rdI P C k).2.2]) j) ∧ okI C (ig (I ++ [(rdI P C k).2.2]) j) :=
            fun v => ⟨by rw [gI_sI, if_neg (by decide), a2]; simp, by simp; omega, by simp, fun j hj => hnew j hj⟩
          by_cases hlen : (rdI P C k).1 = P.length
          · rw [if_neg (by omega)]
            exact ⟨_, rfl, k1'.sI (by decide) _, by rw [hlen, Nat.beq_refl]; rfl, fun _ => all 1⟩
          · rw [if_pos (by omega)]
            exact ⟨_, rfl, k1'.sI (by decide) _, by rw [show Nat.beq (rdI P C k).1 P.length = false from (by cases hq : Nat.beq (rdI P C k).1 P.length; rfl; exact absurd (Nat.eq_of_beq_eq_true hq) hlen)]; rfl, fun _ => all 0⟩
        by_cases h4 : I.length + 1 < 6
        · rw [if_neg (by omega), p6_at h1, bd_s, if_pos (fun q => hc ⟨h4, q⟩)]
          exact fin
        · rw [if_pos (by omega)]
          exact fin
theorem rdCs_len (P : List Int) : ∀ (f k : Nat) (L : List Nat), L.length + f = 4 → 0 < f → (rdCs P f k L).2.2.length ≤ 4 ∧ ((rdCs P f k L).2.1 = true → 0 < (rdCs P f k L).2.2.length) ∧ (rdCs P f k L).1 ≤ k + 3 * f := by
  intro f
  induction f with
  | zero => intro k L _ h; omega
  | succ f ih =>
    intro k L hf _
    have := rdC_le P L.length k
    simp only [rdCs]
    split
    · exact ⟨by simp only; omega, fun q => (by cases q), by simp only; omega⟩
    · split
      · rename_i hc
        have h1 := ih ((rdC P L.length k).1 + 1) (L ++ [(rdC P L.length k).2.2]) (by simp; omega) (by omega)
        exact ⟨h1.1, h1.2.1, by omega⟩
      · exact ⟨by simp; omega, fun _ => by simp, by simp only; omega⟩
/-- what a page that is read is, in the model's rows -/
def Rd6 (s : Sg) (P : List Int) (L : List Nat) (I : List Ist) : Prop := gI s 23 = (L.length : Int) ∧ (0 < L.length ∧ L.length ≤ 4) ∧ (∀ j : Nat, j < L.length → gA s 25 (j : Int) = (L.getD j 0 : Nat)) ∧ gI s 24 = (I.length : Int) ∧ (0 < I.length ∧ I.length ≤ 6) ∧ ∀ j : Nat, j < I.length → NewI s P j (ig I j) ∧ okI L.length (ig I j)
theorem p6_read {s : Sg} {P : List Int} (h : Pg6 s P) : ∃ s', fX6_read s = some (((rd P).1 : Int), s') ∧ keepS [21, 22, 23, 24, 25, 26, 27, 28, 29, 30, 31] s s' ∧
    match (rd P).2 with
    | none => gI s' 21 = 0
    | some (L, I) => gI s' 21 = 1 ∧ Rd6 s' P L I := by
  obtain ⟨s0, hs0⟩ : ∃ s0, s0 = sI (sI (sI (sI s 21 0) 22 0) 23 0) 24 0 := ⟨_, rfl⟩
  have k0 : keepS [21, 22, 23, 24, 25, 26, 27, 28, 29, 30, 31] s s0 := by rw [hs0]; exact (((keepI _ s (by decide) _).sI (by decide) _).sI (by decide) _).sI (by decide) _
  have h0 := h.keep k0 (by decide) (by decide)
  have z21 : gI s0 21 = 0 := by rw [hs0]; rfl
  have z22 : gI s0 22 = 0 := by rw [hs0]; rfl
  have z23 : gI s0 23 = 0 := by rw [hs0]; rfl
  have z24 : gI s0 24 = 0 := by rw [hs0]; rfl
  obtain ⟨s1, e1, k1, y1, b1⟩ := p6_readClasses_L (P := P) 4 0 [] s0 FU (by unfold FU; omega) (by simp) (by omega) (by omega) h0 z22 (by rw [z23]; simp) (fun j hj => by simp at hj)
  obtain ⟨l1, l2, l3⟩ := rdCs_len P 4 0 [] (by simp) (by omega)
  have h1 := h0.keep k1 (by decide) (by decide)
  have k1' : keepS [21, 22, 23, 24, 25, 26, 27, 28, 29, 30, 31] s s1 := k0.trans (k1.mono (by decide))
  have e1' : fX6_readClasses s0 = some (((rdCs P 4 0 []).1 : Int), s1) := e1
  have x21 : gI s1 21 = 0 := (k1.I (by decide)).trans z21
  unfold fX6_read rd fX6_read_b42
  rw [← hs0, e1', bd_s]
  cases hb : (rdCs P 4 0 []).2.1
  · rw [if_pos (by rw [b1 hb]; decide), if_pos (Or.inl rfl)]
    exact ⟨s1, rfl, k1', x21⟩
  · obtain ⟨a1, a2, a3⟩ := y1 hb
    rw [if_neg (by rw [a1]; simp), p6_at h1, bd_s]
    by_cases hc : pl P (rdCs P 4 0 []).1 = 59
    · have hlt := pl_comma hc (by decide)
      have h84 := h.2.1
      rw [if_pos hc, if_neg (by rintro (q | q); cases q; exact q hc), wr_id (by omega) (by omega)]
      have := p6_readInst_L (P := P) (C := (rdCs P 4 0 []).2.2.length) l1 6 ((rdCs P 4 0 []).1 + 1) [] s1 FU (by unfold FU; omega) (by simp) (by omega) (by omega) h1 a1 a2 (by rw [k1.I (by decide), z24]; simp) (fun j hj => by simp at hj)
      rw [show ((((rdCs P 4 0 []).1 + 1 : Nat)) : Int) = ((rdCs P 4 0 []).1 : Int) + 1 by omega] at this
      obtain ⟨s2, e2, k2, y2, z2⟩ := this
      refine ⟨s2, e2, k1'.trans (k2.mono (by decide)), ?_⟩
      dsimp only
      by_cases hok : (rdIs P (rdCs P 4 0 []).2.2.length 6 ((rdCs P 4 0 []).1 + 1) []).2.1 = true ∧ (rdIs P (rdCs P 4 0 []).2.2.length 6 ((rdCs P 4 0 []).1 + 1) []).1 = P.length
      · rw [if_pos hok]
        obtain ⟨c1, c2, c3, c4⟩ := z2 hok.1
        refine ⟨by rw [y2, hok.1, hok.2, Nat.beq_refl]; rfl, (k2.I (by decide)).trans a2, ⟨l2 hb, l1⟩, fun j hj => (k2.A (by decide) _).trans (a3 j hj), c1, ⟨c3, c2⟩, c4⟩
      · rw [if_neg hok]
        show gI s2 21 = 0
        rw [y2, bI_0]
        cases h1 : (rdIs P (rdCs P 4 0 []).2.2.length 6 ((rdCs P 4 0 []).1 + 1) []).2.1
        · rfl
        · cases h2 : Nat.beq (rdIs P (rdCs P 4 0 []).2.2.length 6 ((rdCs P 4 0 []).1 + 1) []).1 P.length
          · rfl
          · exact absurd ⟨h1, Nat.eq_of_beq_eq_true h2⟩ hok
    · rw [if_neg hc, if_pos (Or.inr hc)]
      exact ⟨s1, rfl, k1', x21⟩
theorem R6.pg {s : Sg} {A : As} (h : R6 s A) : Pg6 s (asP A) := ⟨h.2.2.2.2.2.2.2.1.1, h.1.1.1, h.1.1.2, h.2.2.2.2.2.2.2.1.2⟩
theorem p6_fault {s : Sg} {A : As} (h : R6 s A) : ∃ s', fX6_fault s = some (sp_fault A, s') ∧ R6 s' A := by
  obtain ⟨s', e, k, -⟩ := p6_read h.pg
  unfold fX6_fault sp_fault
  rw [e, bd_s]
  exact ⟨s', rfl, h.kp k (by decide)⟩
/-! a type -/
theorem p6_type_L16 {P : List Int} {s : Sg} (h : Pg6 s P) {sl : Int} : ∀ (f k sz la n : Nat), f < n → 85 ≤ f + k → la ≤ k + 1 → sz = k → (k < P.length → la ≤ k + 1) →
    fX6_type_L16 n s sl la k = bif (scS P 1000 f k sz la).2 then fX6_type_b51 s sl 0 ((scS P 1000 f k sz la).1 : Int) else fX6_type_b70 s := by
  intro f
  induction f with
  | zero =>
    intro k sz la n hn hk hla hsz _
    obtain ⟨n, rfl⟩ : ∃ m, n = m + 1 := ⟨n - 1, by omega⟩
    have h84 := h.2.1
    simp only [scS]
    rw [cond_false, fX6_type_L16_s, fX6_type_b16]
    have hend : pl P k = 0 := by
      refine Classical.byContradiction fun hne => ?_
      have := pl_comma (rfl : pl P k = pl P k) hne
      omega
    by_cases hl : la = 0
    · rw [if_pos (by omega)]
      unfold fX6_type_b51 fX6_type_b70
      have h19 := h.1
      split
      · rfl
      · split
        · rfl
        · rw [if_neg (by omega)]
    · rw [if_neg (by omega), p6_at h, bd_s, p6_wants2, bd_s, hend, if_pos (by decide)]
      unfold fX6_type_b51 fX6_type_b70
      split
      · rfl
      · rw [if_pos (by omega)]
  | succ f ih =>
    intro k sz la n hn hk hla hsz hlim
    obtain ⟨n, rfl⟩ : ∃ m, n = m + 1 := ⟨n - 1, by omega⟩
    have h84 := h.2.1
    simp only [scS]
    rw [fX6_type_L16_s, fX6_type_b16]
    by_cases hl : la = 0
    · rw [if_pos (by omega), if_pos hl, hl]
      rfl
    · have hwr : -1 ≤ wnt (pl P k) ∧ wnt (pl P k) ≤ 2 := by unfold wnt; (repeat' split) <;> decide
      rw [if_neg (by omega), if_neg hl, p6_at h, bd_s, p6_wants2, bd_s]
      by_cases hw : wnt (pl P k) = -1
      · rw [if_pos hw, if_pos (Or.inl hw), cond_false]
        unfold fX6_type_b51 fX6_type_b70
        split
        · rfl
        · rw [if_pos (by omega)]
      · have hklt : k < P.length := by
          refine Classical.byContradiction fun hn' => hw ?_
          have hend : pl P k = 0 := by
            refine Classical.byContradiction fun hne => ?_
            have := pl_comma (rfl : pl P k = pl P k) hne
            omega
          rw [hend]; decide
        rw [if_neg hw, if_neg (by rintro (q | q); exact hw q; omega), bd_s, p6_wants2, bd_s, wr_id (x := wnt (pl P k) - 1) (by omega) (by omega), wr_id (x := (la : Int) + (wnt (pl P k) - 1)) (by omega) (by omega), wr_id (by omega) (by omega)]
        have := ih (k + 1) (sz + 1) (la + (wnt (pl P k)).toNat - 1) n (by omega) (by omega) (by omega) (by omega) (by omega)
        rw [show ((k + 1 : Nat) : Int) = (k : Int) + 1 by omega, show ((la + (wnt (pl P k)).toNat - 1 : Nat) : Int) = (la : Int) + (wnt (pl P k) - 1) by omega] at this
        exact this
theorem p6_type {s : Sg} {A : As} (h : R6 s A) (k : Int) : ∃ s', fX6_type s k = some ((sp_type A k).1, s') ∧ R6 s' (sp_type A k).2 := by
  have hP := h.pg
  have h84 := hP.2.1
  have hB := h.2.1
  unfold fX6_type sp_type
  rw [p6_within, bd_s]
  by_cases hk : 0 ≤ k ∧ k ≤ 3
  · rw [if_pos (fun q => b01_0.mp q hk), if_pos hk]
    have e := p6_type_L16 hP (sl := k) 100 0 0 1 FU (by unfold FU; omega) (by omega) (by omega) rfl (by omega)
    rw [show ((1 : Nat) : Int) = 1 from rfl, show ((0 : Nat) : Int) = 0 from rfl] at e
    rw [e]
    cases hsc : (scS (asP A) 1000 100 0 0 1).2
    · rw [cond_false, if_pos (Or.inr (Or.inl rfl))]
      exact ⟨s, rfl, h⟩
    · rw [cond_true]
      unfold fX6_type_b51 fX6_type_b70
      rw [hB, hP.1]
      by_cases hb : asB A = 0
      · rw [if_pos (by omega), if_pos (Or.inl hb)]
        exact ⟨s, rfl, h⟩
      · rw [if_neg (by omega), if_neg (by omega)]
        by_cases hlen : (scS (asP A) 1000 100 0 0 1).1 = (asP A).length
        · rw [hlen, if_pos rfl]
          have hno : ¬ (asB A = 0 ∨ (scS (asP A) 1000 100 0 0 1).2 = false ∨ (asP A).length ≠ (asP A).length) := by
            rintro (q | q | q)
            · exact hb q
            · rw [hsc] at q; cases q
            · exact q rfl
          simp only [hsc] at hno
          rw [if_neg hno]
          by_cases h9 : 9 < (asP A).length
          · rw [if_neg (by omega), if_pos h9]
            exact ⟨s, rfl, h⟩
          · rw [if_pos (by omega), if_neg h9]
            have hpair : scS (asP A) 1000 100 0 0 1 = ((asP A).length, true) := by rw [← hsc, ← hlen]
            obtain ⟨t, p1, p2, p3⟩ := scS_one hpair
            obtain ⟨-, -, p4⟩ := ptr_ok (asP A) 100 0 t _ p1
            have hz : (asP A).length = szT t := by omega
            rw [p1]
            dsimp only
            obtain ⟨kn, rfl⟩ : ∃ kn : Nat, k = (kn : Int) := ⟨k.toNat, by omega⟩
            rw [Int.toNat_natCast]
            -- the slot is laid
            refine Exists.elim (loopN (fun f p x => fX6_type_L85 f x kn ((asP A).length : Int) p) (asP A).length (fun p x => keepS [13] s x ∧ (∀ q : Nat, q < p → gA x 13 (9 * (kn : Int) + q) = pl (asP A) q) ∧ ∀ (j q : Nat), j ≠ kn → q < 9 → gA x 13 (9 * (j : Int) + q) = gA s 13 (9 * (j : Int) + q)) (fun x => some (((asP A).length : Int), sI (sA x 14 kn ((asP A).length : Int)) 19 0)) ?_ ?_ FU 0 s (by unfold FU; omega) (by omega) ⟨keepS.refl _ _, fun q hq => by omega, fun _ _ _ _ => rfl⟩) ?_
            rotate_left 2
            · rintro x ⟨⟨k1, c1, c2⟩, e2⟩
              refine ⟨_, e2, ?_⟩
              have kk : keepS [13, 14, 19, 20] s (sI (sA x 14 kn ((asP A).length : Int)) 19 0) := ((k1.mono (by decide)).sA (by decide) _ _).sI (by decide) _
              obtain ⟨⟨o1, o2, o3, o4, o5, o6, o7⟩, g2, g3, g4, g5, g6, g7, g8, g9⟩ := h
              refine ⟨⟨⟨by show ([] : List Int).length ≤ 84; simp, fun c hc => by have hc' : c ∈ ([] : List Int) := hc; simp at hc'⟩, o2, o3, ?_, o5, o6, o7⟩, (kk.I (by decide)).trans g2, g3.keep kk (by decide), g4.keep kk (by decide), fun c hc => ⟨(kk.A (by decide) _).trans (g5 c hc).1, (kk.A (by decide) _).trans (g5 c hc).2⟩, ?_, g7.keep kk (by decide) (by decide) (by decide) (by decide), ⟨rfl, fun j c hj => by have hj' : ([] : List Int)[j]? = some c := hj; simp at hj'⟩, ?_⟩
              · intro j hj u hu
                have hu' : (if j = kn then some t else asS A j) = some u := hu
                split at hu'
                · cases hu'; exact ⟨p2, by omega⟩
                · exact o4 j hj u hu'
              · intro j hj
                show match (if j = kn then some t else asS A j) with | none => _ | some u => _
                by_cases e : j = kn
                · subst e
                  rw [if_pos rfl]
                  refine ⟨?_, fun p hp => ?_⟩
                  · rw [gA_sI, gA_sA, if_pos ⟨rfl, rfl⟩, hz]
                  · rw [gA_sI, gA_sA, if_neg (by omega), c1 p (by omega)]
                    have := p4 p hp
                    rw [Nat.zero_add] at this
                    exact this
                · rw [if_neg e]
                  have q6 := g6 j hj
                  revert q6
                  cases hS : asS A j with
                  | none =>
                    intro q6
                    show gA _ 14 (j : Int) = 0
                    rw [gA_sI, gA_sA, if_neg (by omega), k1.A (by decide)]; exact q6
                  | some u =>
                    rintro ⟨q1, q2⟩
                    have hz9 := (o4 j hj u hS).2
                    refine ⟨by rw [gA_sI, gA_sA, if_neg (by omega), k1.A (by decide)]; exact q1, fun p hp => ?_⟩
                    rw [gA_sI, gA_sA, if_neg (by omega), c2 j p e (by omega)]; exact q2 p hp
              · revert g9
                show (match asK A with | none => _ | some (b, Ks, S, E) => _) → (match asK A with | none => _ | some (b, Ks, S, E) => _)
                cases asK A with
                | none => intro q; exact (kk.I (by decide)).trans q
                | some K =>
                  obtain ⟨b, Ks, S, E⟩ := K
                  rintro ⟨a1, a2, a3, a4, a5⟩
                  exact ⟨(kk.I (by decide)).trans a1, (kk.I (by decide)).trans a2, fun e j v hj => (kk.A (by decide) _).trans (a3 e j v hj), a4.keep kk (by decide) (by decide), a5.keep kk (by decide) (by decide) (by decide) (by decide)⟩
            · rintro f p x hp ⟨k1, c1, c2⟩
              show ∃ x', _ ∧ fX6_type_L85 (f + 1) x kn ((asP A).length : Int) p = fX6_type_L85 f x' kn ((asP A).length : Int) ((p + 1 : Nat) : Int)
              rw [fX6_type_L85_s, fX6_type_b85, if_neg (by omega), p6_at (hP.keep k1 (by decide) (by decide)), bd_s, wr9 (by omega) (by omega), gd_t (by omega), wr_id (by omega) (by omega)]
              refine ⟨_, ⟨?_, ?_, ?_⟩, rfl⟩
              · exact k1.sA (by decide) _ _
              · intro q hq
                rw [gA_sA]
                by_cases e : q = p
                · subst e; simp
                · rw [if_neg (by omega)]; exact c1 q (by omega)
              · intro j q hj hq
                rw [gA_sA, if_neg (by omega)]; exact c2 j q hj hq
            · rintro f x -
              show fX6_type_L85 (f + 1) x kn ((asP A).length : Int) ((asP A).length : Int) = _
              rw [fX6_type_L85_s, fX6_type_b85, if_pos (by omega), gd_t (by omega)]
        · rw [if_neg (by omega), if_pos (Or.inr (Or.inr hlen))]
          exact ⟨s, rfl, h⟩
  · rw [if_neg (fun q => q (b01_0.mpr hk)), if_neg hk]; exact ⟨s, rfl, h⟩

