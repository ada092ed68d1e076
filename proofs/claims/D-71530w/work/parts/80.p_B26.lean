/-! the pure laws: B26 B27 H1 H2 -/
set_option maxRecDepth 100000
/-! PURE: the model's book -/
theorem rdC_lt (P : List Int) {C k : Nat} (hC : C ≤ 3) : (rdC P C k).2.2 < 16 := by
  have p : ∀ d : Nat, d < 3 → 2 ^ d < 2 ^ 4 := fun d hd => Nat.pow_lt_pow_right (by omega) (by omega)
  unfold rdC
  split
  · show 0 < 16; omega
  · split
    · show 0 < 16; omega
    · rename_i h
      have h := Decidable.not_not.mp h
      split
      · exact p _ (by omega)
      · split
        · show 0 < 16; omega
        · rename_i h2
          have h2 := Decidable.not_not.mp h2
          exact Nat.or_lt_two_pow (n := 4) (p _ (by omega)) (p _ (by omega))
theorem rdCs_lt (P : List Int) : ∀ (f k : Nat) (L : List Nat), L.length + f = 4 → (∀ x ∈ L, x < 16) → ∀ x ∈ (rdCs P f k L).2.2, x < 16 := by
  intro f
  induction f with
  | zero => intro k L _ h; exact h
  | succ f ih =>
    intro k L hf h
    have hb := rdC_lt P (C := L.length) (k := k) (by omega)
    have h' : ∀ x ∈ L ++ [(rdC P L.length k).2.2], x < 16 := by
      intro x hx
      rcases List.mem_append.mp hx with q | q
      · exact h x q
      · simp at q; omega
    simp only [rdCs]
    split
    · exact h
    · split
      · exact ih _ _ (by simp; omega) h'
      · exact h'
theorem orN_lt {F : Nat → Nat} : ∀ n, (∀ i, i < n → F i < 16) → orN F n < 16 := by
  intro n
  induction n with
  | zero => intro _; simp [orN]
  | succ n ih => intro h; exact Nat.or_lt_two_pow (n := 4) (ih fun i hi => h i (by omega)) (h n (by omega))
theorem abF_lt {ra : Nat → Nat} : ∀ n, (∀ i, i < n → ra i < 16) → ∀ x, abF ra n x < 16 := by
  intro n
  induction n with
  | zero => intro _ x; simp [abF]
  | succ n ih =>
    intro h x
    have ih' := ih fun i hi => h i (by omega)
    simp only [abF]
    split
    · refine Nat.or_lt_two_pow (n := 4) (h n (by omega)) (orN_lt n fun i hi => ?_)
      split
      · exact ih' i
      · omega
    · exact ih' x
theorem abF_st {ra : Nat → Nat} : ∀ (n m x : Nat), x < n → n ≤ m → abF ra m x = abF ra n x := by
  intro n m x hx hm
  induction m with
  | zero => omega
  | succ m ih =>
    by_cases e : n = m + 1
    · rw [e]
    · simp only [abF]
      rw [if_neg (by omega)]
      exact ih (by omega)
theorem p6_bk59 {ra : Nat → Nat} {n c : Nat} (hn : n ≤ 4) (hc : c < n) (hra : ∀ i, i < n → ra i < 16) {K : Sg → Int → Option (Int × Sg)} : ∀ s, gA s 25 (c : Int) = (ra c : Int) → gA s 3 (c : Int) = (ra c : Int) → (∀ j : Nat, j < c → gA s 3 (j : Int) = (abF ra n j : Int)) →
    ∃ s', fX6_book_L59 K FU s c 0 = K s' ((c : Int) + 1) ∧ keepS [3] s s' ∧ ∀ j : Nat, j < c + 1 → gA s' 3 (j : Int) = (abF ra n j : Int) := by
  intro s h25 h3 hj
  have hab := abF_lt (ra := ra) n hra
  refine Exists.elim (loopN (fun f e x => fX6_book_L59 K f x c e) c (fun e x => keepS [3] s x ∧ (∀ j : Nat, j < c → gA x 3 (j : Int) = (abF ra n j : Int)) ∧ gA x 3 (c : Int) = ((ra c ||| orN (fun e => if (ra c).testBit e = true then abF ra c e else 0) e : Nat) : Int)) (fun x => K x ((c : Int) + 1)) ?_ ?_ FU 0 s (by unfold FU; omega) (by omega) ⟨keepS.refl _ _, hj, by rw [h3]; simp [orN]⟩) ?_
  rotate_left 2
  · rintro s' ⟨⟨k, a, b⟩, e⟩
    refine ⟨s', e, k, fun j hj' => ?_⟩
    by_cases hjc : j = c
    · subst hjc
      rw [b, abF_st (j + 1) n j (by omega) (by omega)]
      simp [abF]
    · exact a j (by omega)
  · rintro f e x he ⟨k, a, b⟩
    show ∃ x', _ ∧ fX6_book_L59 K (f + 1) x c e = fX6_book_L59 K f x' c ((e + 1 : Nat) : Int)
    have hb16 : ra c ||| orN (fun e => if (ra c).testBit e = true then abF ra c e else 0) e < 16 := by
      refine Nat.or_lt_two_pow (n := 4) (hra c hc) (orN_lt e fun i hi => ?_)
      split
      · exact abF_lt (ra := ra) c (fun i hi => hra i (by omega)) i
      · omega
    have hac : abF ra c e = abF ra n e := by
      rw [abF_st (e + 1) n e (by omega) (by omega), abF_st (e + 1) c e (by omega) (by omega)]
    have h16 := hab e
    rw [fX6_book_L59_s, fX6_book_b59, if_neg (by omega), gd_t (by omega), gd_t (by omega), (k.A (by decide) _ : gA x 25 (c : Int) = _), h25, p6_isIn (by omega) (by have := hra c hc; omega), bd_s, gd_t (by omega), b, a e he]
    unfold fX6_book_b94
    rw [gd_t (by omega), gd_t (by omega), wr_id (by omega) (by omega)]
    have wv : ∀ v : Nat, v < 16 → ior ((ra c ||| orN (fun e => if (ra c).testBit e = true then abF ra c e else 0) e : Nat) : Int) (v : Int) = (((ra c ||| orN (fun e => if (ra c).testBit e = true then abF ra c e else 0) e) ||| v : Nat) : Int) := fun v hv => p_ior (by omega) (by omega)
    refine ⟨sA x 3 (c : Int) ((ra c ||| orN (fun e => if (ra c).testBit e = true then abF ra c e else 0) (e + 1) : Nat) : Int), ⟨k.sA (by decide) _ _, fun j hj' => by rw [gA_sA, if_neg (by omega)]; exact a j hj', by rw [gA_sA, if_pos ⟨rfl, rfl⟩]⟩, ?_⟩
    have w0 := wv 0 (by omega)
    have w1 := wv (abF ra n e) h16
    rw [Nat.or_assoc] at w0 w1
    rw [show ((0 : Nat) : Int) = 0 from rfl] at w0
    rw [show ((e + 1 : Nat) : Int) = (e : Int) + 1 by omega]
    simp only [orN, hac]
    cases hbit : (ra c).testBit e
    · rw [if_pos (b01_0.mpr (by simp)), w0]; simp
    · rw [if_neg (fun q => b01_0.mp q rfl), w1]; simp
  · rintro f x -
    show fX6_book_L59 K (f + 1) x c c = _
    rw [fX6_book_L59_s, fX6_book_b59, if_pos (by omega), wr_id (by omega) (by omega)]
theorem p6_bk25 {ra : Nat → Nat} {n : Nat} (hn : n ≤ 4) (hra : ∀ i, i < n → ra i < 16) : ∀ s, gI s 1 = (n : Int) → (∀ j : Nat, j < n → gA s 25 (j : Int) = (ra j : Int)) →
    ∃ s', fX6_book_L25 FU s 0 = fX6_book_L118 FU (sI s' 4 (gI s' 24)) 0 ∧ keepS [2, 3] s s' ∧ ∀ j : Nat, j < n → gA s' 2 (j : Int) = (ra j : Int) ∧ gA s' 3 (j : Int) = (abF ra n j : Int) := by
  intro s h1 h25
  refine Exists.elim (loopN (fun f c x => fX6_book_L25 f x c) n (fun c x => keepS [2, 3] s x ∧ ∀ j : Nat, j < c → gA x 2 (j : Int) = (ra j : Int) ∧ gA x 3 (j : Int) = (abF ra n j : Int)) (fun x => fX6_book_L118 FU (sI x 4 (gI x 24)) 0) ?_ ?_ FU 0 s (by unfold FU; omega) (by omega) ⟨keepS.refl _ _, fun j hj => by omega⟩) ?_
  rotate_left 2
  · rintro s' ⟨⟨k, a⟩, e⟩; exact ⟨s', e, k, a⟩
  · rintro f c x hc ⟨k, a⟩
    show ∃ x', _ ∧ fX6_book_L25 (f + 1) x c = fX6_book_L25 f x' ((c + 1 : Nat) : Int)
    have e25 : gA x 25 (c : Int) = (ra c : Int) := (k.A (by decide) _).trans (h25 c hc)
    rw [fX6_book_L25_s, fX6_book_b25, (k.I (by decide) : gI x 1 = gI s 1), h1, if_neg (by omega), gd_t (by omega), gd_t (by omega), gd_t (by omega), gd_t (by omega), e25]
    have e25' : gA (sA x 2 (c : Int) (ra c : Int)) 25 (c : Int) = (ra c : Int) := by rw [gA_sA, if_neg (by omega)]; exact e25
    rw [e25']
    obtain ⟨x1, hx1⟩ : ∃ x1, x1 = sA (sA x 2 (c : Int) (ra c : Int)) 3 (c : Int) (ra c : Int) := ⟨_, rfl⟩
    rw [← hx1]
    have k1 : keepS [2, 3] s x1 := by rw [hx1]; exact (k.sA (by decide) _ _).sA (by decide) _ _
    obtain ⟨x2, e2, k2, a2⟩ := p6_bk59 hn hc hra (K := fX6_book_L25 f) x1 (by rw [hx1, gA_sA, if_neg (by omega)]; exact e25') (by rw [hx1, gA_sA, if_pos ⟨rfl, rfl⟩]) (fun j hj => by rw [hx1, gA_sA, if_neg (by omega), gA_sA, if_neg (by omega)]; exact (a j hj).2)
    refine ⟨x2, ⟨k1.trans (k2.mono (by decide)), fun j hj => ⟨?_, a2 j hj⟩⟩, by rw [e2]; rfl⟩
    rw [k2.A (by decide), hx1, gA_sA, if_neg (by omega), gA_sA]
    by_cases e : j = c
    · subst e; simp
    · rw [if_neg (by omega)]; exact (a j (by omega)).1
  · rintro f x ⟨k, a⟩
    show fX6_book_L25 (f + 1) x n = _
    rw [fX6_book_L25_s, fX6_book_b25, (k.I (by decide) : gI x 1 = gI s 1), h1, if_pos (by omega)]
/-- an instance's rows -/
def Row6 (s : Sg) (i : Nat) (x : Ist) : Prop := Hd6 s i (iH x) ∧ gA s 5 (i : Int) = iK x ∧ gA s 6 (i : Int) = iO x ∧ gA s 9 (i : Int) = ((iC x).length : Int) ∧ ∀ j : Nat, j < (iC x).length → gA s 10 (2 * (i : Int) + (j : Int)) = (cg x j).1 ∧ gA s 11 (2 * (i : Int) + (j : Int)) = ((cg x j).2 : Int)
/-- the rows of all others stay -/
def othR (i : Nat) (s s' : Sg) : Prop := ∀ j : Nat, j ≠ i → (∀ k, k ∈ [5, 6, 8, 9] → gA s' k (j : Int) = gA s k (j : Int)) ∧ (∀ e : Nat, e < 5 → gA s' 7 (5 * (j : Int) + e) = gA s 7 (5 * (j : Int) + e)) ∧ ∀ e : Nat, e < 2 → gA s' 10 (2 * (j : Int) + e) = gA s 10 (2 * (j : Int) + e) ∧ gA s' 11 (2 * (j : Int) + e) = gA s 11 (2 * (j : Int) + e)
theorem Row6.oth {s s' : Sg} {i j : Nat} {x : Ist} (h : Row6 s j x) (h2 : (iC x).length ≤ 2) (ho : othR i s s') (hj : j ≠ i) : Row6 s' j x := by
  obtain ⟨⟨a1, a2, a3, a4, a5⟩, b, c, d, e⟩ := h
  obtain ⟨o1, o2, o3⟩ := ho j hj
  refine ⟨⟨a1, a2, a3, (o1 8 (by decide)).trans a4, fun k hk => (o2 k (by omega)).trans (a5 k hk)⟩, (o1 5 (by decide)).trans b, (o1 6 (by decide)).trans c, (o1 9 (by decide)).trans d, fun q hq => ?_⟩
  obtain ⟨p1, p2⟩ := o3 q (by omega)
  exact ⟨p1.trans (e q hq).1, p2.trans (e q hq).2⟩
theorem othR.refl (i : Nat) (s : Sg) : othR i s s := fun _ _ => ⟨fun _ _ => rfl, fun _ _ => rfl, fun _ _ => ⟨rfl, rfl⟩⟩
theorem othR.trans {i : Nat} {s s' s'' : Sg} (h : othR i s s') (h' : othR i s' s'') : othR i s s'' := fun j hj => ⟨fun k hk => ((h' j hj).1 k hk).trans ((h j hj).1 k hk), fun e he => ((h' j hj).2.1 e he).trans ((h j hj).2.1 e he), fun e he => ⟨((h' j hj).2.2 e he).1.trans ((h j hj).2.2 e he).1, ((h' j hj).2.2 e he).2.trans ((h j hj).2.2 e he).2⟩⟩
theorem p6_takeInstance {s : Sg} {P : List Int} {i : Nat} {x : Ist} (hP : Pg6 s P) (hi : i < 6) (h : NewI s P i x) : ∃ s', fX6_takeInstance s i = some s' ∧ keepS [5, 6, 7, 8, 9, 10, 11] s s' ∧ Row6 s' i x ∧ othR i s s' := by
  obtain ⟨n26, n27, ht, hz, ⟨a, ha, n28, n29, hl⟩, n30, hlen, hcd⟩ := h
  unfold fX6_takeInstance
  rw [gd_t (by omega), gd_t (by omega), gd_t (by omega), gd_t (by omega), gd_t (by omega), gd_t (by omega)]
  have e1 : gA (sA s 5 (i : Int) (gA s 26 (i : Int))) 27 (i : Int) = iO x := by rw [gA_sA, if_neg (by omega)]; exact n27
  have e2 : gA (sA (sA s 5 (i : Int) (gA s 26 (i : Int))) 6 (i : Int) (iO x)) 29 (i : Int) = (szT (iH x) : Int) := by rw [gA_sA, if_neg (by omega), gA_sA, if_neg (by omega)]; exact n29
  rw [e1, e2, n26]
  obtain ⟨s1, hs1⟩ : ∃ s1, s1 = sA (sA (sA s 5 (i : Int) (iK x)) 6 (i : Int) (iO x)) 8 (i : Int) (szT (iH x) : Int) := ⟨_, rfl⟩
  rw [← hs1]
  have k1 : keepS [5, 6, 7, 8, 9, 10, 11] s s1 := by rw [hs1]; exact ((keepA _ s (by decide) _ _).sA (by decide) _ _).sA (by decide) _ _
  have o1 : othR i s s1 := by
    rw [hs1]
    intro j hj
    refine ⟨fun k hk => ?_, fun e he => ?_, fun e he => ⟨?_, ?_⟩⟩
    · rw [gA_sA, if_neg (by omega), gA_sA, if_neg (by omega), gA_sA, if_neg (by omega)]
    · rw [gA_sA, if_neg (by omega), gA_sA, if_neg (by omega), gA_sA, if_neg (by omega)]
    · rw [gA_sA, if_neg (by omega), gA_sA, if_neg (by omega), gA_sA, if_neg (by omega)]
    · rw [gA_sA, if_neg (by omega), gA_sA, if_neg (by omega), gA_sA, if_neg (by omega)]
  have r5 : gA s1 5 (i : Int) = iK x := by rw [hs1, gA_sA, if_neg (by omega), gA_sA, if_neg (by omega), gA_sA, if_pos ⟨rfl, rfl⟩]
  have r6 : gA s1 6 (i : Int) = iO x := by rw [hs1, gA_sA, if_neg (by omega), gA_sA, if_pos ⟨rfl, rfl⟩]
  have r8 : gA s1 8 (i : Int) = (szT (iH x) : Int) := by rw [hs1, gA_sA, if_pos ⟨rfl, rfl⟩]
  have r28 : gA s1 28 (i : Int) = (a : Int) := (k1.A (by decide) _).trans n28
  have hP1 := hP.keep k1 (by decide) (by decide)
  -- the head's letters
  obtain ⟨s2, e2', k2, l2, o2⟩ : ∃ s2, fX6_takeInstance_L38 FU s1 i 0 = fX6_takeInstance_L90 FU (sA s2 9 (i : Int) (gA s2 30 (i : Int))) i 0 ∧ keepS [7] s1 s2 ∧ (∀ k : Nat, k < szT (iH x) → gA s2 7 (5 * (i : Int) + k) = ltr (iH x) k) ∧ othR i s1 s2 := by
    refine Exists.elim (loopN (fun f k y => fX6_takeInstance_L38 f y i k) (szT (iH x)) (fun k y => keepS [7] s1 y ∧ (∀ q : Nat, q < k → gA y 7 (5 * (i : Int) + q) = ltr (iH x) q) ∧ othR i s1 y) (fun y => fX6_takeInstance_L90 FU (sA y 9 (i : Int) (gA y 30 (i : Int))) i 0) ?_ ?_ FU 0 s1 (by unfold FU; omega) (by omega) ⟨keepS.refl _ _, fun q hq => by omega, othR.refl _ _⟩) ?_
    rotate_left 2
    · rintro y ⟨⟨p1, p2, p3⟩, e⟩; exact ⟨y, e, p1, p2, p3⟩
    · rintro f k y hk ⟨p1, p2, p3⟩
      show ∃ y', _ ∧ fX6_takeInstance_L38 (f + 1) y i k = fX6_takeInstance_L38 f y' i ((k + 1 : Nat) : Int)
      rw [fX6_takeInstance_L38_s, fX6_takeInstance_b38, gd_t (by omega), (p1.A (by decide) _ : gA y 8 (i : Int) = _), r8, if_neg (by omega), gd_t (by omega), (p1.A (by decide) _ : gA y 28 (i : Int) = _), r28, wr_id (x := (a : Int) + (k : Int)) (by omega) (by omega), show (a : Int) + (k : Int) = ((a + k : Nat) : Int) by omega, p6_at (hP1.keep p1 (by decide) (by decide)), bd_s, wr_id (x := 5 * (i : Int)) (by omega) (by omega), wr_id (x := 5 * (i : Int) + (k : Int)) (by omega) (by omega), gd_t (by omega), wr_id (by omega) (by omega), hl k hk]
      refine ⟨_, ⟨p1.sA (by decide) _ _, fun q hq => ?_, p3.trans fun j hj => ⟨fun z hz => ?_, fun e he => ?_, fun e he => ⟨?_, ?_⟩⟩⟩, rfl⟩
      · rw [gA_sA]
        by_cases e : q = k
        · subst e; simp
        · rw [if_neg (by omega)]; exact p2 q (by omega)
      · rw [gA_sA, if_neg (by rintro ⟨q, -⟩; rw [q] at hz; simp at hz)]
      · rw [gA_sA, if_neg (by omega)]
      · rw [gA_sA, if_neg (by omega)]
      · rw [gA_sA, if_neg (by omega)]
    · rintro f y ⟨p1, p2, p3⟩
      show fX6_takeInstance_L38 (f + 1) y i (szT (iH x)) = _
      rw [fX6_takeInstance_L38_s, fX6_takeInstance_b38, gd_t (by omega), (p1.A (by decide) _ : gA y 8 (i : Int) = _), r8, if_pos (by omega), gd_t (by omega), gd_t (by omega)]
  rw [e2']
  have e30 : gA s2 30 (i : Int) = ((iC x).length : Int) := by rw [k2.A (by decide), k1.A (by decide)]; exact n30
  rw [e30]
  obtain ⟨s3, hs3⟩ : ∃ s3, s3 = sA s2 9 (i : Int) ((iC x).length : Int) := ⟨_, rfl⟩
  rw [← hs3]
  have k3 : keepS [5, 6, 7, 8, 9, 10, 11] s s3 := by rw [hs3]; exact (k1.trans (k2.mono (by decide))).sA (by decide) _ _
  have k23 : keepS [7, 9] s1 s3 := by rw [hs3]; exact (k2.mono (by decide)).sA (by decide) _ _
  have o3 : othR i s s3 := by
    refine (o1.trans o2).trans ?_
    rw [hs3]
    intro j hj
    refine ⟨fun k hk => ?_, fun e he => ?_, fun e he => ⟨?_, ?_⟩⟩
    · rw [gA_sA, if_neg (by omega)]
    · rw [gA_sA, if_neg (by omega)]
    · rw [gA_sA, if_neg (by omega)]
    · rw [gA_sA, if_neg (by omega)]
  have r9 : gA s3 9 (i : Int) = ((iC x).length : Int) := by rw [hs3, gA_sA, if_pos ⟨rfl, rfl⟩]
  have hP3 := hP.keep k3 (by decide) (by decide)
  refine Exists.elim (loopN (fun f k y => fX6_takeInstance_L90 f y i k) (iC x).length (fun k y => keepS [10, 11] s3 y ∧ (∀ q : Nat, q < k → gA y 10 (2 * (i : Int) + q) = (cg x q).1 ∧ gA y 11 (2 * (i : Int) + q) = ((cg x q).2 : Int)) ∧ othR i s3 y) (fun y => some y) ?_ ?_ FU 0 s3 (by unfold FU; omega) (by omega) ⟨keepS.refl _ _, fun q hq => by omega, othR.refl _ _⟩) ?_
  rotate_left 2
  · rintro y ⟨⟨p1, p2, p3⟩, e⟩
    have p1' : keepS [7, 9, 10, 11] s1 y := (k23.mono (by decide)).trans (p1.mono (by decide))
    refine ⟨y, e, k3.trans (p1.mono (by decide)), ⟨⟨hi, ht, hz, (p1'.A (by decide) _).trans r8, fun k hk => ?_⟩, (p1'.A (by decide) _).trans r5, (p1'.A (by decide) _).trans r6, (p1.A (by decide) _).trans r9, p2⟩, o3.trans p3⟩
    rw [p1.A (by decide), hs3, gA_sA, if_neg (by omega)]; exact l2 k hk
  · rintro f k y hk ⟨p1, p2, p3⟩
    show ∃ y', _ ∧ fX6_takeInstance_L90 (f + 1) y i k = fX6_takeInstance_L90 f y' i ((k + 1 : Nat) : Int)
    obtain ⟨q, q1, q2, q3, q4⟩ := hcd k hk
    have hP4 := hP3.keep p1 (by decide) (by decide)
    have q2' : gA y 31 (2 * (i : Int) + k) = (q : Int) := by rw [p1.A (by decide), k3.A (by decide)]; exact q2
    have hpr := pl_r hP.2.2.1 (q + 1)
    rw [fX6_takeInstance_L90_s, fX6_takeInstance_b90, gd_t (by omega), (p1.A (by decide) _ : gA y 9 (i : Int) = _), r9, if_neg (by omega), wr_id (x := 2 * (i : Int)) (by omega) (by omega), wr_id (x := 2 * (i : Int) + (k : Int)) (by omega) (by omega), gd_t (by omega), q2', p6_figure hP4, bd_s, gd_t (by omega), wr_id (x := (q : Int) + 1) (by omega) (by omega), show (q : Int) + 1 = ((q + 1 : Nat) : Int) by omega, p6_at (hP4.keep (keepA [10] y (by decide) _ _) (by decide) (by decide)), bd_s, gd_t (by omega), wr_id (x := pl P (q + 1) - 120) (by omega) (by omega), wr_id (by omega) (by omega), q3, q4]
    refine ⟨_, ⟨(p1.sA (by decide) _ _).sA (by decide) _ _, fun z hz' => ?_, p3.trans fun j hj => ⟨fun z hz' => ?_, fun e he => ?_, fun e he => ⟨?_, ?_⟩⟩⟩, rfl⟩
    · by_cases e : z = k
      · subst e
        refine ⟨?_, ?_⟩
        · rw [gA_sA, if_neg (by omega), gA_sA, if_pos ⟨rfl, rfl⟩]
        · rw [gA_sA, if_pos ⟨rfl, rfl⟩]
      · obtain ⟨z1, z2⟩ := p2 z (by omega)
        refine ⟨?_, ?_⟩
        · rw [gA_sA, if_neg (by omega), gA_sA, if_neg (by omega)]; exact z1
        · rw [gA_sA, if_neg (by omega), gA_sA, if_neg (by omega)]; exact z2
    · rw [gA_sA, if_neg (by rintro ⟨q, -⟩; rw [q] at hz'; simp at hz'), gA_sA, if_neg (by rintro ⟨q, -⟩; rw [q] at hz'; simp at hz')]
    · rw [gA_sA, if_neg (by omega), gA_sA, if_neg (by omega)]
    · rw [gA_sA, if_neg (by omega), gA_sA, if_neg (by omega)]
    · rw [gA_sA, if_neg (by omega), gA_sA, if_neg (by omega)]
  · rintro f y ⟨p1, p2, p3⟩
    show fX6_takeInstance_L90 (f + 1) y i ((iC x).length : Int) = _
    rw [fX6_takeInstance_L90_s, fX6_takeInstance_b90, gd_t (by omega), (p1.A (by decide) _ : gA y 9 (i : Int) = _), r9, if_pos (by omega)]

set_option maxRecDepth 100000
/-! PURE: the model's book -/
theorem p6_sp12 {n : Nat} {I : List Ist} {i : Nat} (hi : i < I.length) {K : Sg → Int → Option Sg} : ∀ s, Ins6 s n I → ∃ s', fX6_laySpecial_L12 K FU s i 0 = K s' ((i : Int) + 1) ∧ keepS [12, 32, 33, 34, 35] s s' ∧ (∀ e : Nat, e < I.length → gA s' 12 (6 * (i : Int) + e) = b01 (spc (ig I i) (ig I e) = true)) ∧ ∀ j e : Nat, j ≠ i → e < 6 → gA s' 12 (6 * (j : Int) + e) = gA s 12 (6 * (j : Int) + e) := by
  intro s hs
  have h6 := hs.2.2.2.1
  refine Exists.elim (loopN (fun f e x => fX6_laySpecial_L12 K f x i e) I.length (fun e x => keepS [12, 32, 33, 34, 35] s x ∧ (∀ q : Nat, q < e → gA x 12 (6 * (i : Int) + q) = b01 (spc (ig I i) (ig I q) = true)) ∧ ∀ j q : Nat, j ≠ i → q < 6 → gA x 12 (6 * (j : Int) + q) = gA s 12 (6 * (j : Int) + q)) (fun x => K x ((i : Int) + 1)) ?_ ?_ FU 0 s (by unfold FU; omega) (by omega) ⟨keepS.refl _ _, fun q hq => by omega, fun _ _ _ _ => rfl⟩) ?_
  rotate_left 2
  · rintro x ⟨⟨k, a, b⟩, e⟩; exact ⟨x, e, k, a, b⟩
  · rintro f e x he ⟨k, a, b⟩
    show ∃ x', _ ∧ fX6_laySpecial_L12 K (f + 1) x i e = fX6_laySpecial_L12 K f x' i ((e + 1 : Nat) : Int)
    have hx := hs.keep k (by decide)
    have hdi := (hx.2.2.2.2 i hi).2.1
    have hde := (hx.2.2.2.2 e he).2.1
    obtain ⟨s1, e1, k1, n1, z1⟩ := p6_layHead hdi
    obtain ⟨s2, e2, k2⟩ := p6_fits n1 z1 (hde.keep k1 (by decide) (by decide)) (szT_pos _)
    obtain ⟨s3, e3, k3, n3, z3⟩ := p6_layHead ((hde.keep k1 (by decide) (by decide)).keep k2 (by decide) (by decide))
    obtain ⟨s4, e4, k4⟩ := p6_fits n3 z3 (((hdi.keep k1 (by decide) (by decide)).keep k2 (by decide) (by decide)).keep k3 (by decide) (by decide)) (szT_pos _)
    rw [show ((0 : Nat) : Int) = 0 from rfl, sub_0] at e2 e4
    have kk3 : keepS [12, 32, 33, 34, 35] x s3 := (k1.mono (by decide)).trans ((k2.mono (by decide)).trans (k3.mono (by decide)))
    have kk4 : keepS [12, 32, 33, 34, 35] x s4 := kk3.trans (k4.mono (by decide))
    have kk3' : keepS [32, 33, 34, 35] x s3 := (k1.mono (by decide)).trans ((k2.mono (by decide)).trans (k3.mono (by decide)))
    have kk4' : keepS [32, 33, 34, 35] x s4 := kk3'.trans (k4.mono (by decide))
    rw [fX6_laySpecial_L12_s, fX6_laySpecial_b12, hx.2.2.1, if_neg (by omega), e1, bd_s, e2, bd_s, e3, bd_s, e4, bd_s, wr_id (x := 6 * (i : Int)) (by omega) (by omega), wr_id (x := 6 * (i : Int) + (e : Int)) (by omega) (by omega)]
    unfold fX6_laySpecial_b64 fX6_laySpecial_b65
    rw [gd_t (by omega), gd_t (by omega), gd_t (by omega), wr_id (by omega) (by omega)]
    have fin : ∀ (y : Sg) (v : Int), keepS [12, 32, 33, 34, 35] x y → keepS [32, 33, 34, 35] x y → v = b01 (spc (ig I i) (ig I e) = true) → ∃ x', (keepS [12, 32, 33, 34, 35] s x' ∧ (∀ q : Nat, q < e + 1 → gA x' 12 (6 * (i : Int) + q) = b01 (spc (ig I i) (ig I q) = true)) ∧ ∀ j q : Nat, j ≠ i → q < 6 → gA x' 12 (6 * (j : Int) + q) = gA s 12 (6 * (j : Int) + q)) ∧ fX6_laySpecial_L12 K f (sA y 12 (6 * (i : Int) + e) v) i ((e : Int) + 1) = fX6_laySpecial_L12 K f x' i ((e + 1 : Nat) : Int) := by
      intro y v ky ky' hv
      refine ⟨_, ⟨(k.trans ky).sA (by decide) _ _, fun q hq => ?_, fun j q hj hq => ?_⟩, rfl⟩
      · rw [gA_sA]
        by_cases eq : q = e
        · subst eq; simp [hv]
        · rw [if_neg (by omega), ky'.A (by decide)]; exact a q (by omega)
      · rw [gA_sA, if_neg (by omega), ky'.A (by decide)]; exact b j q hj hq
    unfold spc at fin
    cases hf1 : fits (iH (ig I e)) (iH (ig I i))
    · rw [if_pos (b01_0.mpr (fun q => by cases q))]
      exact fin s3 0 kk3 kk3' (by simp [b01, hf1])
    · rw [if_neg (fun q => b01_0.mp q rfl)]
      cases hf2 : fits (iH (ig I i)) (iH (ig I e))
      · have hq : ¬ ¬ (b01 ((false : Bool) = true) = 0) := fun q => q (b01_0.mpr (fun r => by cases r))
        rw [if_neg hq]
        exact fin s4 1 kk4 kk4' (by simp [b01, hf1, hf2])
      · rw [if_pos (fun q => b01_0.mp q rfl)]
        exact fin s4 0 kk4 kk4' (by simp [b01, hf1, hf2])
  · rintro f x ⟨k, a, b⟩
    have hx := hs.keep k (by decide)
    show fX6_laySpecial_L12 K (f + 1) x i (I.length : Int) = _
    rw [fX6_laySpecial_L12_s, fX6_laySpecial_b12, hx.2.2.1, if_pos (by omega), wr_id (by omega) (by omega)]
theorem p6_laySpecial {n : Nat} {I : List Ist} {s : Sg} (hs : Ins6 s n I) : ∃ s', fX6_laySpecial s = some s' ∧ keepS [12, 32, 33, 34, 35] s s' ∧ Spc6 s' I := by
  have h6 := hs.2.2.2.1
  refine Exists.elim (loopN (fun f i x => fX6_laySpecial_L2 f x i) I.length (fun i x => keepS [12, 32, 33, 34, 35] s x ∧ ∀ j e : Nat, j < i → e < I.length → gA x 12 (6 * (j : Int) + e) = b01 (spc (ig I j) (ig I e) = true)) (fun x => some x) ?_ ?_ FU 0 s (by unfold FU; omega) (by omega) ⟨keepS.refl _ _, fun j e hj => by omega⟩) ?_
  rotate_left 2
  · rintro x ⟨⟨k, a⟩, e⟩; exact ⟨x, e, k, fun i e hi he => a i e hi he⟩
  · rintro f i x hi ⟨k, a⟩
    show ∃ x', _ ∧ fX6_laySpecial_L2 (f + 1) x i = fX6_laySpecial_L2 f x' ((i + 1 : Nat) : Int)
    have hx := hs.keep k (by decide)
    obtain ⟨y, e1, k1, a1, b1⟩ := p6_sp12 hi (K := fX6_laySpecial_L2 f) x hx
    rw [fX6_laySpecial_L2_s, fX6_laySpecial_b2, hx.2.2.1, if_neg (by omega), e1]
    refine ⟨y, ⟨k.trans k1, fun j e hj he => ?_⟩, rfl⟩
    by_cases eq : j = i
    · subst eq; exact a1 e he
    · rw [b1 j e eq (by omega)]; exact a j e (by omega) he
  · rintro f x ⟨k, a⟩
    have hx := hs.keep k (by decide)
    show fX6_laySpecial_L2 (f + 1) x (I.length : Int) = _
    rw [fX6_laySpecial_L2_s, fX6_laySpecial_b2, hx.2.2.1, if_pos (by omega)]
theorem p6_book {s : Sg} {A : As} (h : R6 s A) (hb : asB A + 1 < 1000) : ∃ s', fX6_book s = some ((sp_book A).1, s') ∧ R6 s' (sp_book A).2 := by
  obtain ⟨s1, e1, k1, y1⟩ := p6_read h.pg
  have hR1 := h.kp k1 (by decide)
  unfold fX6_book sp_book
  rw [e1, bd_s]
  revert y1
  cases hrd : (rd (asP A)).2 with
  | none =>
    intro y1
    simp only at y1
    rw [if_neg (by simp [y1])]
    exact ⟨s1, rfl, hR1⟩
  | some LI =>
    obtain ⟨L, I⟩ := LI
    rintro ⟨y21, r23, ⟨rl0, rl4⟩, r25, r24, ⟨ri0, ri6⟩, rI⟩
    dsimp only at y21 r23 rl0 rl4 r25 r24 ri0 ri6 rI ⊢
    rw [if_pos (by simp [y21]), r23]
    -- classes' bits
    have hL16 : ∀ i, i < L.length → L.getD i 0 < 16 := by
      have hall : ∀ x ∈ L, x < 16 := by
        have hq := rdCs_lt (asP A) 4 0 [] (by simp) (by simp)
        have : L = (rdCs (asP A) 4 0 []).2.2 := by
          unfold rd at hrd
          split at hrd
          · cases hrd
          · dsimp only at hrd
            split at hrd
            · cases hrd; rfl
            · cases hrd
        rw [this]; exact hq
      intro i hi
      rw [List.getD_eq_getElem?_getD, List.getElem?_eq_getElem hi]
      exact hall _ (List.getElem_mem hi)
    have k2a : keepS [1] s1 (sI s1 1 (L.length : Int)) := keepI _ s1 (by decide) _
    obtain ⟨s2, e2, k2, a2⟩ := p6_bk25 (ra := fun c => L.getD c 0) rl4 hL16 (sI s1 1 (L.length : Int)) rfl (fun j hj => r25 j hj)
    have k12 : keepS [1, 2, 3] s1 s2 := (k2a.mono (by decide)).trans (k2.mono (by decide))
    have z24 : gI s2 24 = (I.length : Int) := (k12.I (by decide)).trans r24
    rw [e2, z24]
    obtain ⟨s3, hs3⟩ : ∃ s3, s3 = sI s2 4 (I.length : Int) := ⟨_, rfl⟩
    rw [← hs3]
    have k13 : keepS [1, 2, 3, 4] s1 s3 := by rw [hs3]; exact (k12.mono (by decide)).sI (by decide) _
    have hP3 : Pg6 s3 (asP A) := hR1.pg.keep k13 (by decide) (by decide)
    have hnew3 : ∀ j, j < I.length → NewI s3 (asP A) j (ig I j) := fun j hj => (rI j hj).1.keep (fun k hk => k13.A (by rintro q; simp at q hk; omega) _) (fun e he => k13.A (by decide) _)
    -- the instances' rows
    obtain ⟨s4, e4, k4, rows4⟩ : ∃ s4, fX6_book_L118 FU s3 0 = (bd (fX6_laySpecial s4) fun p2 => fX6_book_L143 FU p2 0) ∧ keepS [5, 6, 7, 8, 9, 10, 11] s3 s4 ∧ ∀ j, j < I.length → Row6 s4 j (ig I j) := by
      refine Exists.elim (loopN (fun f i x => fX6_book_L118 f x i) I.length (fun i x => keepS [5, 6, 7, 8, 9, 10, 11] s3 x ∧ ∀ j, j < i → Row6 x j (ig I j)) (fun x => bd (fX6_laySpecial x) fun p2 => fX6_book_L143 FU p2 0) ?_ ?_ FU 0 s3 (by unfold FU; omega) (by omega) ⟨keepS.refl _ _, fun j hj => by omega⟩) ?_
      rotate_left 2
      · rintro x ⟨⟨k, a⟩, e⟩; exact ⟨x, e, k, a⟩
      · rintro f i x hi ⟨k, a⟩
        show ∃ x', _ ∧ fX6_book_L118 (f + 1) x i = fX6_book_L118 f x' ((i + 1 : Nat) : Int)
        have hn : NewI x (asP A) i (ig I i) := (hnew3 i hi).keep (fun z hz => k.A (by rintro q; simp at q hz; omega) _) (fun e he => k.A (by decide) _)
        obtain ⟨y, ey, ky, ry, oy⟩ := p6_takeInstance (hP3.keep k (by decide) (by decide)) (by omega) hn
        have g4 : gI x 4 = (I.length : Int) := by rw [k.I (by decide), hs3]; rfl
        rw [fX6_book_L118_s, fX6_book_b118, g4, if_neg (by omega), ey, bd_s, wr_id (by omega) (by omega)]
        refine ⟨y, ⟨k.trans ky, fun j hj => ?_⟩, rfl⟩
        by_cases e : j = i
        · subst e; exact ry
        · exact (a j (by omega)).oth (rI j (by omega)).2.2.2.2.2.1 oy e
      · rintro f x ⟨k, a⟩
        show fX6_book_L118 (f + 1) x (I.length : Int) = _
        have g4 : gI x 4 = (I.length : Int) := by rw [k.I (by decide), hs3]; rfl
        rw [fX6_book_L118_s, fX6_book_b118, g4, if_pos (by omega)]
    rw [e4]
    have k14 : keepS [1, 2, 3, 4, 5, 6, 7, 8, 9, 10, 11] s1 s4 := (k13.mono (by decide)).trans (k4.mono (by decide))
    have hIns4 : Ins6 s4 L.length I := by
      refine ⟨?_, rl4, ?_, ri6, fun i hi => ?_⟩
      · rw [k4.I (by decide), hs3, gI_sI, if_neg (by decide), k2.I (by decide)]; rfl
      · rw [k4.I (by decide), hs3]; rfl
      · obtain ⟨q1, q2, q3, q4, q5⟩ := rows4 i hi
        exact ⟨(rI i hi).2, q1, q2, q3, q4, q5⟩
    obtain ⟨s5, e5, k5, hsp⟩ := p6_laySpecial hIns4
    rw [e5, bd_s]
    have hIns5 := hIns4.keep k5 (by decide)
    -- slots are emptied
    obtain ⟨s6, e6, k6, a6⟩ : ∃ s6, fX6_book_L143 FU s5 0 = some (gI (sI (sI (sI s6 0 (wr ((gI s6 0) + 1))) 15 0) 19 0) 4, sI (sI (sI s6 0 (wr ((gI s6 0) + 1))) 15 0) 19 0) ∧ keepS [14] s5 s6 ∧ ∀ j : Nat, j < 4 → gA s6 14 (j : Int) = 0 := by
      refine Exists.elim (loopN (fun f i x => fX6_book_L143 f x i) 4 (fun i x => keepS [14] s5 x ∧ ∀ j : Nat, j < i → gA x 14 (j : Int) = 0) (fun x => some (gI (sI (sI (sI x 0 (wr ((gI x 0) + 1))) 15 0) 19 0) 4, sI (sI (sI x 0 (wr ((gI x 0) + 1))) 15 0) 19 0)) ?_ ?_ FU 0 s5 (by unfold FU; omega) (by omega) ⟨keepS.refl _ _, fun j hj => by omega⟩) ?_
      rotate_left 2
      · rintro x ⟨⟨k, a⟩, e⟩; exact ⟨x, e, k, a⟩
      · rintro f i x hi ⟨k, a⟩
        show ∃ x', _ ∧ fX6_book_L143 (f + 1) x i = fX6_book_L143 f x' ((i + 1 : Nat) : Int)
        rw [fX6_book_L143_s, fX6_book_b143, if_neg (by omega), gd_t (by omega), wr_id (by omega) (by omega)]
        refine ⟨_, ⟨k.sA (by decide) _ _, fun j hj => ?_⟩, rfl⟩
        rw [gA_sA]
        by_cases e : j = i
        · subst e; simp
        · rw [if_neg (by omega)]; exact a j (by omega)
      · rintro f x -
        show fX6_book_L143 (f + 1) x ((4 : Nat) : Int) = _
        rw [fX6_book_L143_s, fX6_book_b143, if_pos (by omega)]
    rw [e6]
    have k16 : keepS [1, 2, 3, 4, 5, 6, 7, 8, 9, 10, 11, 12, 14, 32, 33, 34, 35] s1 s6 := (k14.mono (by decide)).trans ((k5.mono (by decide)).trans (k6.mono (by decide)))
    have b6 : gI s6 0 = (asB A : Int) := (k16.I (by decide)).trans hR1.2.1
    have hIns6 := hIns5.keep k6 (by decide)
    have hsp6 := hsp.keep k6 (by decide)
    rw [b6, wr_id (by omega) (by omega)]
    have i4 : gI (sI (sI (sI s6 0 ((asB A : Int) + 1)) 15 0) 19 0) 4 = (I.length : Int) := hIns6.2.2.1
    rw [i4]
    have kz : keepS [0, 15, 19] s6 (sI (sI (sI s6 0 ((asB A : Int) + 1)) 15 0) 19 0) := ((keepI _ s6 (by decide) _).sI (by decide) _).sI (by decide) _
    have kzz : keepS [0, 1, 2, 3, 4, 5, 6, 7, 8, 9, 10, 11, 12, 14, 15, 19, 32, 33, 34, 35] s1 (sI (sI (sI s6 0 ((asB A : Int) + 1)) 15 0) 19 0) := (k16.mono (by decide)).trans (kz.mono (by decide))
    obtain ⟨⟨o1, o2, o3, o4, o5, o6, o7⟩, g2, g3, g4, g5, g6, g7, g8, g9⟩ := hR1
    have hab := abF_lt (ra := fun c => L.getD c 0) L.length hL16
    refine ⟨_, rfl, ⟨⟨by show ([] : List Int).length ≤ 84; simp, fun c hc => by have hc' : c ∈ ([] : List Int) := hc; simp at hc'⟩, ⟨rl4, fun c hc => ⟨hL16 c hc, hab c⟩⟩, ⟨ri6, fun i hi => (rI i hi).2⟩, fun k hk t ht => (by cases ht), ⟨by show ([] : List (Nat × Nat × Bool)).length ≤ 6; simp, fun e he => by have he' : e ∈ ([] : List (Nat × Nat × Bool)) := he; simp at he'⟩, ⟨hb, ?_⟩, ?_⟩, ?_, hIns6.keep kz (by decide), hsp6.keep kz (by decide), fun c hc => ?_, fun k hk => ?_, ⟨rfl, fun j e he => by have he' : ([] : List (Nat × Nat × Bool))[j]? = some e := he; simp at he'⟩, ⟨rfl, fun j c hj => by have hj' : ([] : List Int)[j]? = some c := hj; simp at hj'⟩, ?_⟩
    · show asB A + 1 = 0 ↔ I.length = 0
      omega
    · intro b Ks S E he
      have he' : asK A = some (b, Ks, S, E) := he
      obtain ⟨q1, q2, q3, q4, q5⟩ := o7 b Ks S E he'
      refine ⟨?_, q2, q3, fun e => ?_, q5⟩
      · show b ≤ asB A + 1; omega
      · have e' : b = asB A + 1 := e
        omega
    · show gI _ 0 = ((asB A + 1 : Nat) : Int)
      rw [gI_sI, if_neg (by decide), gI_sI, if_neg (by decide), gI_sI, if_pos rfl]; omega
    · obtain ⟨q1, q2⟩ := a2 c hc
      have kq : keepS [0, 4, 5, 6, 7, 8, 9, 10, 11, 12, 14, 15, 19, 32, 33, 34, 35] s2 (sI (sI (sI s6 0 ((asB A : Int) + 1)) 15 0) 19 0) := by
        refine keepS.trans ?_ (kz.mono (by decide))
        refine keepS.trans ?_ (k6.mono (by decide))
        refine keepS.trans ?_ (k5.mono (by decide))
        refine keepS.trans ?_ (k4.mono (by decide))
        rw [hs3]; exact keepI _ s2 (by decide) _
      exact ⟨(kq.A (by decide) _).trans q1, (kq.A (by decide) _).trans q2⟩
    · show gA _ 14 (k : Int) = 0
      rw [kz.A (by decide)]; exact a6 k hk
    · revert g9
      show (match asK A with | none => _ | some (b, Ks, S, E) => _) → (match asK A with | none => _ | some (b, Ks, S, E) => _)
      cases hK : asK A with
      | none => intro q; exact (kzz.I (by decide)).trans q
      | some K =>
        obtain ⟨b, Ks, S, E⟩ := K
        rintro ⟨c1, c2, c3, c4, c5⟩
        have hle := (o7 b Ks S E hK).1
        refine ⟨(kzz.I (by decide)).trans c1, (kzz.I (by decide)).trans c2, fun e j v hj => ?_, c4.keep kzz (by decide) (by decide), c5.keep kzz (by decide) (by decide) (by decide) (by decide)⟩
        have e' : b = asB A + 1 := e
        omega

set_option maxRecDepth 100000
/-! PURE: tree bins: rows of nodes, the search tree by local conditions -/
/-- a node's references: 5 next, 6 parent, 7 left, 8 right, 9 previous -/
abbrev TR : Type := Nat → Nat → Option Nat
def trU (R : TR) (a i : Nat) (x : Option Nat) : TR := fun b j => if b = a ∧ j = i then x else R b j
theorem trU_e (R : TR) (a i b j : Nat) (x : Option Nat) : trU R a i x b j = if b = a ∧ j = i then x else R b j := rfl
/-- the search tree: which nodes, their hashes, the open bounds of what may stand below each one -/
def BT (N : Nat → Prop) (R : TR) (H lo hi : Nat → Int) (r : Nat) : Prop :=
  N r ∧ R r 6 = none ∧ (lo r < -2147483648 ∧ 2147483648 ≤ hi r) ∧
  (∀ a, N a → lo a < H a ∧ H a < hi a) ∧
  (∀ a b, N a → R a 7 = some b → N b ∧ R b 6 = some a ∧ lo b = lo a ∧ hi b = H a) ∧
  (∀ a b, N a → R a 8 = some b → N b ∧ R b 6 = some a ∧ lo b = H a ∧ hi b = hi a) ∧
  (∀ a p, N a → R a 6 = some p → N p ∧ (R p 7 = some a ∨ R p 8 = some a)) ∧
  (∀ a, N a → R a 6 = none → a = r)
/-- left turn: what it does to the references -/
def rotL (R : TR) (p q : Nat) : TR :=
  let R1 := trU R p 8 (R q 7)
  let R2 := match R q 7 with | some x => trU R1 x 6 (some p) | none => R1
  let R3 := trU R2 q 6 (R p 6)
  let R4 := match R p 6 with | none => R3 | some z => if R z 7 = some p then trU R3 z 7 (some q) else trU R3 z 8 (some q)
  trU (trU R4 q 7 (some p)) p 6 (some q)
def rotR (R : TR) (p q : Nat) : TR :=
  let R1 := trU R p 7 (R q 8)
  let R2 := match R q 8 with | some x => trU R1 x 6 (some p) | none => R1
  let R3 := trU R2 q 6 (R p 6)
  let R4 := match R p 6 with | none => R3 | some z => if R z 8 = some p then trU R3 z 8 (some q) else trU R3 z 7 (some q)
  trU (trU R4 q 8 (some p)) p 6 (some q)
def upN (f : Nat → Int) (a : Nat) (v : Int) : Nat → Int := fun b => if b = a then v else f b
theorem BT.lr {N : Nat → Prop} {R : TR} {H lo hi : Nat → Int} {r : Nat} (h : BT N R H lo hi r) {a b : Nat} (ha : N a) (h7 : R a 7 = some b) (h8 : R a 8 = some b) : False := by
  obtain ⟨h1, h2, h3, h4, h5, h6, h7', h8'⟩ := h
  have := h5 a b ha h7; have := h6 a b ha h8; have := h4 a ha; omega
theorem BT.ne {N : Nat → Prop} {R : TR} {H lo hi : Nat → Int} {r : Nat} (h : BT N R H lo hi r) {a b : Nat} (ha : N a) (hb : R a 7 = some b ∨ R a 8 = some b) : a ≠ b := by
  rintro rfl
  obtain ⟨h1, h2, h3, h4, h5, h6, h7, h8⟩ := h
  have := h4 a ha
  rcases hb with e | e
  · have := h5 a a ha e; omega
  · have := h6 a a ha e; omega
/-- no node stands under its own child -/
theorem BT.ne2 {N : Nat → Prop} {R : TR} {H lo hi : Nat → Int} {r : Nat} (h : BT N R H lo hi r) {a b c : Nat} (ha : N a) (hb : R a 7 = some b ∨ R a 8 = some b) (hc : R b 7 = some c ∨ R b 8 = some c) : a ≠ c := by
  rintro rfl
  have hN := h
  obtain ⟨h1, h2, h3, h4, h5, h6, h7, h8⟩ := h
  have g := h4 a ha
  rcases hb with e | e
  · have e1 := h5 a b ha e
    have g2 := h4 b e1.1
    rcases hc with f | f
    · have := h5 b a e1.1 f; omega
    · have := h6 b a e1.1 f; omega
  · have e1 := h6 a b ha e
    have g2 := h4 b e1.1
    rcases hc with f | f
    · have := h5 b a e1.1 f; omega
    · have := h6 b a e1.1 f; omega
theorem rotL_at (R : TR) (p q : Nat) (b j : Nat) : rotL R p q b j = if b = p ∧ j = 6 then some q else if b = q ∧ j = 7 then some p else if R p 6 = some b ∧ ((j = 7 ∧ R b 7 = some p) ∨ (j = 8 ∧ ¬ R b 7 = some p)) then some q else if b = q ∧ j = 6 then R p 6 else if R q 7 = some b ∧ j = 6 then some p else if b = p ∧ j = 8 then R q 7 else R b j := by
  unfold rotL
  cases h7 : R q 7 <;> cases h6 : R p 6
  · simp only [trU_e]; grind
  · rename_i z
    by_cases hz : R z 7 = some p <;> simp only [hz, if_true, if_false, trU_e] <;> grind
  · simp only [trU_e]; grind
  · rename_i z
    by_cases hz : R z 7 = some p <;> simp only [hz, if_true, if_false, trU_e] <;> grind
theorem rotL_BT {N : Nat → Prop} {R : TR} {H lo hi : Nat → Int} {r p q : Nat} (h : BT N R H lo hi r) (hp : N p) (hq : R p 8 = some q) :
    BT N (rotL R p q) H (upN lo q (lo p)) (upN hi p (H q)) (if R p 6 = none then q else r) := by
  have hpq : p ≠ q := h.ne hp (Or.inr hq)
  have hne2 : ∀ c, R q 7 = some c ∨ R q 8 = some c → p ≠ c := fun c => h.ne2 hp (Or.inr hq)
  have hlr := fun a b => @BT.lr N R H lo hi r h a b
  obtain ⟨h1, h2, h3, h4, h5, h6, h7, h8⟩ := h
  obtain ⟨nq, q6, ql, qh⟩ := h6 p q hp hq
  have gp := h4 p hp
  have gq := h4 q nq
  have hx : ∀ x, R q 7 = some x → N x ∧ R x 6 = some q ∧ lo x = lo q ∧ hi x = H q := fun x e => h5 q x nq e
  refine ⟨?_, ?_, ?_, ?_, ?_, ?_, ?_, ?_⟩
  · split
    · exact nq
    · exact h1
  · rw [rotL_at]
    by_cases e : R p 6 = none
    · simp only [e, if_true]; grind
    · simp only [e, if_false]; grind
  · unfold upN
    by_cases e : R p 6 = none
    · have := h8 p hp e
      simp only [e, if_true]; grind
    · simp only [e, if_false]; grind
  · intro a ha
    have := h4 a ha
    unfold upN; grind
  · intro a b ha hab
    rw [rotL_at] at hab
    rw [rotL_at]
    unfold upN
    have A5 := h5 a b ha
    have A6 := h6 a b ha
    have P5 := h5 a p ha
    have P6 := h6 a p ha
    have L1 := hlr a b ha
    have L2 := hlr a p ha
    have L3 := hlr q b nq
    grind
  · intro a b ha hab
    rw [rotL_at] at hab
    rw [rotL_at]
    unfold upN
    have A5 := h5 a b ha
    have A6 := h6 a b ha
    have P5 := h5 a p ha
    have P6 := h6 a p ha
    have L1 := hlr a b ha
    have L2 := hlr a p ha
    have L3 := hlr q b nq
    have X := hx b
    grind
  · intro a z ha haz
    rw [rotL_at] at haz
    rw [rotL_at, rotL_at]
    have A7 := h7 a z ha
    have P7 := h7 p z hp
    have X := hx a
    have A5 := h5 z a
    have A6 := h6 z a
    have L1 := hlr z a
    grind
  · intro a ha haz
    rw [rotL_at] at haz
    have A8 := h8 a ha
    have P8 := h8 p hp
    grind
theorem rotR_at (R : TR) (p q : Nat) (b j : Nat) : rotR R p q b j = if b = p ∧ j = 6 then some q else if b = q ∧ j = 8 then some p else if R p 6 = some b ∧ ((j = 8 ∧ R b 8 = some p) ∨ (j = 7 ∧ ¬ R b 8 = some p)) then some q else if b = q ∧ j = 6 then R p 6 else if R q 8 = some b ∧ j = 6 then some p else if b = p ∧ j = 7 then R q 8 else R b j := by
  unfold rotR
  cases h7 : R q 8 <;> cases h6 : R p 6
  · simp only [trU_e]; grind
  · rename_i z
    by_cases hz : R z 8 = some p <;> simp only [hz, if_true, if_false, trU_e] <;> grind
  · simp only [trU_e]; grind
  · rename_i z
    by_cases hz : R z 8 = some p <;> simp only [hz, if_true, if_false, trU_e] <;> grind
theorem rotR_BT {N : Nat → Prop} {R : TR} {H lo hi : Nat → Int} {r p q : Nat} (h : BT N R H lo hi r) (hp : N p) (hq : R p 7 = some q) :
    BT N (rotR R p q) H (upN lo p (H q)) (upN hi q (hi p)) (if R p 6 = none then q else r) := by
  have hpq : p ≠ q := h.ne hp (Or.inl hq)
  have hne2 : ∀ c, R q 8 = some c ∨ R q 7 = some c → p ≠ c := fun c hc => h.ne2 hp (Or.inl hq) hc.symm
  have hlr := fun a b => @BT.lr N R H lo hi r h a b
  obtain ⟨h1, h2, h3, h4, h5, h6, h7, h8⟩ := h
  obtain ⟨nq, q6, ql, qh⟩ := h5 p q hp hq
  have gp := h4 p hp
  have gq := h4 q nq
  have hx : ∀ x, R q 8 = some x → N x ∧ R x 6 = some q ∧ lo x = H q ∧ hi x = hi q := fun x e => h6 q x nq e
  refine ⟨?_, ?_, ?_, ?_, ?_, ?_, ?_, ?_⟩
  · split
    · exact nq
    · exact h1
  · rw [rotR_at]
    by_cases e : R p 6 = none
    · simp only [e, if_true]; grind
    · simp only [e, if_false]; grind
  · unfold upN
    by_cases e : R p 6 = none
    · have := h8 p hp e
      simp only [e, if_true]; grind
    · simp only [e, if_false]; grind
  · intro a ha
    have := h4 a ha
    unfold upN; grind
  · intro a b ha hab
    rw [rotR_at] at hab
    rw [rotR_at]
    unfold upN
    have A5 := h5 a b ha
    have A6 := h6 a b ha
    have P5 := h5 a p ha
    have P6 := h6 a p ha
    have L1 := hlr a b ha
    have L2 := hlr a p ha
    have L3 := hlr q b nq
    have X := hx b
    grind
  · intro a b ha hab
    rw [rotR_at] at hab
    rw [rotR_at]
    unfold upN
    have A5 := h5 a b ha
    have A6 := h6 a b ha
    have P5 := h5 a p ha
    have P6 := h6 a p ha
    have L1 := hlr a b ha
    have L2 := hlr a p ha
    have L3 := hlr q b nq
    have X := hx b
    grind
  · intro a z ha haz
    rw [rotR_at] at haz
    rw [rotR_at, rotR_at]
    have A7 := h7 a z ha
    have P7 := h7 p z hp
    have X := hx a
    have A5 := h5 z a
    have A6 := h6 z a
    have L1 := hlr z a
    grind
  · intro a ha haz
    rw [rotR_at] at haz
    have A8 := h8 a ha
    have P8 := h8 p hp
    grind

set_option maxRecDepth 100000
/-! PURE: tree bins in the heap; turns -/
def tnL (H : Nat → Int) (K V : Nat → Option Nat) (R : TR) (C : Nat → Int) (a : Nat) : List hV := [vq none, vq none, vi (H a), vq (K a), vq (V a), vq (R a 5), vq (R a 6), vq (R a 7), vq (R a 8), vq (R a 9), vi (C a)]
/-- the nodes as they lie in the heap -/
def TS (h : hS) (N : Nat → Prop) (H : Nat → Int) (K V : Nat → Option Nat) (R : TR) (C : Nat → Int) : Prop := ∀ a, N a → h.1 a = some (.inl (13, tnL H K V R C a))
/-- only these change, and nothing is made -/
def onlyN (N : Nat → Prop) (h h' : hS) : Prop := (∀ b, ¬ N b → h'.1 b = h.1 b) ∧ h'.2 = h.2
theorem onlyN.refl (N : Nat → Prop) (h : hS) : onlyN N h h := ⟨fun _ _ => rfl, rfl⟩
theorem onlyN.trans {N : Nat → Prop} {h h' h'' : hS} (a : onlyN N h h') (b : onlyN N h' h'') : onlyN N h h'' := ⟨fun x hx => (b.1 x hx).trans (a.1 x hx), b.2.trans a.2⟩
section
variable {h : hS} {N : Nat → Prop} {H : Nat → Int} {K V : Nat → Option Nat} {R : TR} {C : Nat → Int} {a : Nat}
theorem TS.q (T : TS h N H K V R C) (ha : N a) {i : Nat} (P : List (Nat × Nat)) (hP : P.lookup 13 = some i) (hi : i = 5 ∨ i = 6 ∨ i = 7 ∨ i = 8 ∨ i = 9) : hQ h (some a) P = some (R a i) := by
  unfold hQ nn hF
  simp only
  rw [T a ha]
  simp only [hP, tnL]
  rcases hi with rfl | rfl | rfl | rfl | rfl <;> rfl
theorem TS.k (T : TS h N H K V R C) (ha : N a) (P : List (Nat × Nat)) (hP : P.lookup 13 = some 3) : hQ h (some a) P = some (K a) := by
  unfold hQ nn hF
  simp only
  rw [T a ha]
  simp only [hP, tnL]
  rfl
theorem TS.v (T : TS h N H K V R C) (ha : N a) (P : List (Nat × Nat)) (hP : P.lookup 13 = some 4) : hQ h (some a) P = some (V a) := by
  unfold hQ nn hF
  simp only
  rw [T a ha]
  simp only [hP, tnL]
  rfl
theorem TS.hh (T : TS h N H K V R C) (ha : N a) (P : List (Nat × Nat)) (hP : P.lookup 13 = some 2) : hI h (some a) P = some (H a) := by
  unfold hI nn hF
  simp only
  rw [T a ha]
  simp only [hP, tnL]
  rfl
theorem TS.c (T : TS h N H K V R C) (ha : N a) (P : List (Nat × Nat)) (hP : P.lookup 13 = some 10) : hI h (some a) P = some (C a) := by
  unfold hI nn hF
  simp only
  rw [T a ha]
  simp only [hP, tnL]
  rfl
theorem TS.cl (T : TS h N H K V R C) (ha : N a) : hC h (some a) = some 13 := by
  unfold hC nn
  simp only
  rw [T a ha]
theorem TS.in3 (T : TS h N H K V R C) (ha : N a) : inC h (some a) [13] = true := by
  unfold inC
  rw [T.cl ha]
  rfl
theorem TS.w (T : TS h N H K V R C) (ha : N a) {i : Nat} (P : List (Nat × Nat)) (hP : P.lookup 13 = some i) (hi : i = 5 ∨ i = 6 ∨ i = 7 ∨ i = 8 ∨ i = 9) (x : Option Nat) :
    ∃ h', hW h (some a) P (vq x) = some h' ∧ TS h' N H K V (trU R a i x) C ∧ onlyN N h h' := by
  unfold hW nn
  simp only
  rw [T a ha]
  simp only [hP]
  rw [if_pos (by simp only [tnL, List.length_cons, List.length_nil]; omega)]
  refine ⟨_, rfl, fun b hb => ?_, fun b hb => ?_, rfl⟩
  · unfold hup
    simp only
    by_cases e : b = a
    · subst e
      rw [if_pos rfl]
      rcases hi with rfl | rfl | rfl | rfl | rfl <;> simp [tnL, trU]
    · rw [if_neg e, T b hb]
      simp [tnL, trU, e]
  · unfold hup
    simp only
    rw [if_neg (show ¬ b = a from fun e => hb (by rw [e]; exact ha))]
theorem TS.wc (T : TS h N H K V R C) (ha : N a) (P : List (Nat × Nat)) (hP : P.lookup 13 = some 10) (x : Int) :
    ∃ h', hW h (some a) P (vi x) = some h' ∧ TS h' N H K V R (upN C a x) ∧ onlyN N h h' := by
  unfold hW nn
  simp only
  rw [T a ha]
  simp only [hP]
  rw [if_pos (by simp only [tnL, List.length_cons, List.length_nil]; omega)]
  refine ⟨_, rfl, fun b hb => ?_, fun b hb => ?_, rfl⟩
  · unfold hup
    simp only
    by_cases e : b = a
    · subst e
      rw [if_pos rfl]
      simp [tnL, upN]
    · rw [if_neg e, T b hb]
      simp [tnL, upN, e]
  · unfold hup
    simp only
    rw [if_neg (show ¬ b = a from fun e => hb (by rw [e]; exact ha))]
end
/-- left turn -/
theorem pH_rotL {h : hS} {N : Nat → Prop} {H lo hi : Nat → Int} {K V : Nat → Option Nat} {R : TR} {C : Nat → Int} {r p q : Nat} (T : TS h N H K V R C) (B : BT N R H lo hi r) (hp : N p) (hq : R p 8 = some q) :
    ∃ h', fJ6_rotateLeft h (some r) (some p) = some (some (if R p 6 = none then q else r), h') ∧ TS h' N H K V (rotL R p q) (if R p 6 = none then upN C q 0 else C) ∧ onlyN N h h' := by
  have B0 := B
  have hpq : p ≠ q := B.ne hp (Or.inr hq)
  have hne2 : ∀ c, R q 7 = some c ∨ R q 8 = some c → p ≠ c := fun c => B.ne2 hp (Or.inr hq)
  obtain ⟨h1, h2, h3, h4, h5, h6, h7, h8⟩ := B
  obtain ⟨nq, q6, ql, qh⟩ := h6 p q hp hq
  unfold fJ6_rotateLeft ifN
  simp only
  rw [T.q hp [(13, 8)] rfl (by simp), bd_s, hq]
  simp only
  rw [T.q nq [(13, 7)] rfl (by simp), bd_s]
  obtain ⟨ha, ea, Ta, oa⟩ := T.w hp [(13, 8)] rfl (by simp) (R q 7)
  rw [ea, bd_s]
  -- behind the child that changes sides
  have key : ∀ (h2 : hS) (R2 : TR), TS h2 N H K V R2 C → onlyN N h h2 → (∀ b j, R2 b j = if R q 7 = some b ∧ j = 6 then some p else if b = p ∧ j = 8 then R q 7 else R b j) →
      ∃ h', fJ6_rotateLeft_b34 h2 (some r) (some p) (some q) = some (some (if R p 6 = none then q else r), h') ∧ TS h' N H K V (rotL R p q) (if R p 6 = none then upN C q 0 else C) ∧ onlyN N h h' := by
    intro h2 R2 T2 o2 hR2
    have e6 : R2 p 6 = R p 6 := by
      rw [hR2, if_neg (fun e => hne2 p (Or.inl e.1) rfl), if_neg (by simp)]
    unfold fJ6_rotateLeft_b34 ifN
    rw [T2.q hp [(13, 6)] rfl (by simp), bd_s, e6]
    obtain ⟨hb, eb, Tb, ob⟩ := T2.w nq [(13, 6)] rfl (by simp) (R p 6)
    rw [eb, bd_s]
    have fin : ∀ (h3 : hS) (R3 : TR) (C3 : Nat → Int) (r3 : Nat), TS h3 N H K V R3 C3 → onlyN N h h3 → (∀ b j, trU (trU R3 q 7 (some p)) p 6 (some q) b j = rotL R p q b j) →
        ∃ h', fJ6_rotateLeft_b79 h3 (some r3) (some p) (some q) = some (some r3, h') ∧ TS h' N H K V (rotL R p q) C3 ∧ onlyN N h h' := by
      intro h3 R3 C3 r3 T3 o3 hR3
      unfold fJ6_rotateLeft_b79 fJ6_rotateLeft_b89
      obtain ⟨hc, ec, Tc, oc⟩ := T3.w nq [(13, 7)] rfl (by simp) (some p)
      obtain ⟨hd, ed, Td, od⟩ := Tc.w hp [(13, 6)] rfl (by simp) (some q)
      rw [ec, bd_s, ed, bd_s]
      refine ⟨hd, rfl, ?_, (o3.trans oc).trans od⟩
      have : trU (trU R3 q 7 (some p)) p 6 (some q) = rotL R p q := by funext b j; exact hR3 b j
      rw [← this]; exact Td
    cases hz : R p 6 with
    | none =>
      simp only [if_true]
      obtain ⟨hc, ec, Tc, oc⟩ := Tb.wc nq [(13, 10)] rfl 0
      rw [ec, bd_s]
      refine fin hc _ _ q Tc ((o2.trans ob).trans oc) ?_
      intro b j
      rw [rotL_at]
      simp only [trU_e, hR2, hz]
      grind
    | some z =>
      simp only
      obtain ⟨nz, zc⟩ := h7 p z hp hz
      have hzp : z ≠ p := fun e => by rw [e] at zc; exact B0.ne hp zc rfl
      have hzq : z ≠ q := fun e => by rw [e] at zc; exact B0.ne2 hp (Or.inr hq) zc rfl
      have e7 : trU R2 q 6 (R p 6) z 7 = R z 7 := by
        rw [trU_e, if_neg (by simp), hR2, if_neg (by simp), if_neg (by simp)]
      rw [hz] at eb Tb
      rw [show hQ hb (some z) [(13, 7)] = some (R z 7) from by rw [← e7, hz]; exact Tb.q nz [(13, 7)] rfl (by simp), bd_s]
      have pre : ∀ b j, trU R2 q 6 (some z) b j = if b = q ∧ j = 6 then some z else if R q 7 = some b ∧ j = 6 then some p else if b = p ∧ j = 8 then R q 7 else R b j := by
        intro b j; rw [trU_e, hR2]
      by_cases hz7 : R z 7 = some p
      · rw [if_neg (by simp [hz7])]
        obtain ⟨hc, ec, Tc, oc⟩ := Tb.w nz [(13, 7)] rfl (by simp) (some q)
        rw [ec, bd_s, if_neg (by simp)]
        obtain ⟨hd, ed, Td, od⟩ := fin hc _ _ r Tc ((o2.trans ob).trans oc) (by
          intro b j
          rw [rotL_at]
          simp only [trU_e, pre, hz]
          grind)
        exact ⟨hd, ed, by rw [if_neg (by simp)]; exact Td, od⟩
      · rw [if_pos hz7]
        obtain ⟨hc, ec, Tc, oc⟩ := Tb.w nz [(13, 8)] rfl (by simp) (some q)
        rw [ec, bd_s, if_neg (by simp)]
        obtain ⟨hd, ed, Td, od⟩ := fin hc _ _ r Tc ((o2.trans ob).trans oc) (by
          intro b j
          rw [rotL_at]
          simp only [trU_e, pre, hz]
          grind)
        exact ⟨hd, ed, by rw [if_neg (by simp)]; exact Td, od⟩
  cases hx : R q 7 with
  | none =>
    simp only
    refine key ha _ (by rw [hx] at Ta; exact Ta) oa ?_
    intro b j
    rw [trU_e]; simp [hx]
  | some x =>
    simp only
    obtain ⟨nx, -⟩ := h5 q x nq hx
    rw [hx] at Ta
    obtain ⟨hc, ec, Tc, oc⟩ := Ta.w nx [(13, 6)] rfl (by simp) (some p)
    rw [ec, bd_s]
    refine key hc _ Tc (oa.trans oc) ?_
    intro b j
    rw [trU_e, trU_e]
    grind
/-- right turn -/
theorem pH_rotR {h : hS} {N : Nat → Prop} {H lo hi : Nat → Int} {K V : Nat → Option Nat} {R : TR} {C : Nat → Int} {r p q : Nat} (T : TS h N H K V R C) (B : BT N R H lo hi r) (hp : N p) (hq : R p 7 = some q) :
    ∃ h', fJ6_rotateRight h (some r) (some p) = some (some (if R p 6 = none then q else r), h') ∧ TS h' N H K V (rotR R p q) (if R p 6 = none then upN C q 0 else C) ∧ onlyN N h h' := by
  have B0 := B
  have hpq : p ≠ q := B.ne hp (Or.inl hq)
  have hne2 : ∀ c, R q 8 = some c ∨ R q 7 = some c → p ≠ c := fun c hc => B.ne2 hp (Or.inl hq) hc.symm
  obtain ⟨h1, h2, h3, h4, h5, h6, h7, h8⟩ := B
  obtain ⟨nq, q6, ql, qh⟩ := h5 p q hp hq
  unfold fJ6_rotateRight ifN
  simp only
  rw [T.q hp [(13, 7)] rfl (by simp), bd_s, hq]
  simp only
  rw [T.q nq [(13, 8)] rfl (by simp), bd_s]
  obtain ⟨ha, ea, Ta, oa⟩ := T.w hp [(13, 7)] rfl (by simp) (R q 8)
  rw [ea, bd_s]
  -- behind the child that changes sides
  have key : ∀ (h2 : hS) (R2 : TR), TS h2 N H K V R2 C → onlyN N h h2 → (∀ b j, R2 b j = if R q 8 = some b ∧ j = 6 then some p else if b = p ∧ j = 7 then R q 8 else R b j) →
      ∃ h', fJ6_rotateRight_b34 h2 (some r) (some p) (some q) = some (some (if R p 6 = none then q else r), h') ∧ TS h' N H K V (rotR R p q) (if R p 6 = none then upN C q 0 else C) ∧ onlyN N h h' := by
    intro h2 R2 T2 o2 hR2
    have e6 : R2 p 6 = R p 6 := by
      rw [hR2, if_neg (fun e => hne2 p (Or.inl e.1) rfl), if_neg (by simp)]
    unfold fJ6_rotateRight_b34 ifN
    rw [T2.q hp [(13, 6)] rfl (by simp), bd_s, e6]
    obtain ⟨hb, eb, Tb, ob⟩ := T2.w nq [(13, 6)] rfl (by simp) (R p 6)
    rw [eb, bd_s]
    have fin : ∀ (h3 : hS) (R3 : TR) (C3 : Nat → Int) (r3 : Nat), TS h3 N H K V R3 C3 → onlyN N h h3 → (∀ b j, trU (trU R3 q 8 (some p)) p 6 (some q) b j = rotR R p q b j) →
        ∃ h', fJ6_rotateRight_b79 h3 (some r3) (some p) (some q) = some (some r3, h') ∧ TS h' N H K V (rotR R p q) C3 ∧ onlyN N h h' := by
      intro h3 R3 C3 r3 T3 o3 hR3
      unfold fJ6_rotateRight_b79 fJ6_rotateRight_b89
      obtain ⟨hc, ec, Tc, oc⟩ := T3.w nq [(13, 8)] rfl (by simp) (some p)
      obtain ⟨hd, ed, Td, od⟩ := Tc.w hp [(13, 6)] rfl (by simp) (some q)
      rw [ec, bd_s, ed, bd_s]
      refine ⟨hd, rfl, ?_, (o3.trans oc).trans od⟩
      have : trU (trU R3 q 8 (some p)) p 6 (some q) = rotR R p q := by funext b j; exact hR3 b j
      rw [← this]; exact Td
    cases hz : R p 6 with
    | none =>
      simp only [if_true]
      obtain ⟨hc, ec, Tc, oc⟩ := Tb.wc nq [(13, 10)] rfl 0
      rw [ec, bd_s]
      refine fin hc _ _ q Tc ((o2.trans ob).trans oc) ?_
      intro b j
      rw [rotR_at]
      simp only [trU_e, hR2, hz]
      grind
    | some z =>
      simp only
      obtain ⟨nz, zc⟩ := h7 p z hp hz
      have hzp : z ≠ p := fun e => by rw [e] at zc; exact B0.ne hp zc rfl
      have hzq : z ≠ q := fun e => by rw [e] at zc; exact B0.ne2 hp (Or.inl hq) zc rfl
      have e7 : trU R2 q 6 (R p 6) z 8 = R z 8 := by
        rw [trU_e, if_neg (by simp), hR2, if_neg (by simp), if_neg (by simp)]
      rw [hz] at eb Tb
      rw [show hQ hb (some z) [(13, 8)] = some (R z 8) from by rw [← e7, hz]; exact Tb.q nz [(13, 8)] rfl (by simp), bd_s]
      have pre : ∀ b j, trU R2 q 6 (some z) b j = if b = q ∧ j = 6 then some z else if R q 8 = some b ∧ j = 6 then some p else if b = p ∧ j = 7 then R q 8 else R b j := by
        intro b j; rw [trU_e, hR2]
      by_cases hz7 : R z 8 = some p
      · rw [if_neg (by simp [hz7])]
        obtain ⟨hc, ec, Tc, oc⟩ := Tb.w nz [(13, 8)] rfl (by simp) (some q)
        rw [ec, bd_s, if_neg (by simp)]
        obtain ⟨hd, ed, Td, od⟩ := fin hc _ _ r Tc ((o2.trans ob).trans oc) (by
          intro b j
          rw [rotR_at]
          simp only [trU_e, pre, hz]
          grind)
        exact ⟨hd, ed, by rw [if_neg (by simp)]; exact Td, od⟩
      · rw [if_pos hz7]
        obtain ⟨hc, ec, Tc, oc⟩ := Tb.w nz [(13, 7)] rfl (by simp) (some q)
        rw [ec, bd_s, if_neg (by simp)]
        obtain ⟨hd, ed, Td, od⟩ := fin hc _ _ r Tc ((o2.trans ob).trans oc) (by
          intro b j
          rw [rotR_at]
          simp only [trU_e, pre, hz]
          grind)
        exact ⟨hd, ed, by rw [if_neg (by simp)]; exact Td, od⟩
  cases hx : R q 8 with
  | none =>
    simp only
    refine key ha _ (by rw [hx] at Ta; exact Ta) oa ?_
    intro b j
    rw [trU_e]; simp [hx]
  | some x =>
    simp only
    obtain ⟨nx, -⟩ := h6 q x nq hx
    rw [hx] at Ta
    obtain ⟨hc, ec, Tc, oc⟩ := Ta.w nx [(13, 6)] rfl (by simp) (some p)
    rw [ec, bd_s]
    refine key hc _ Tc (oa.trans oc) ?_
    intro b j
    rw [trU_e, trU_e]
    grind

