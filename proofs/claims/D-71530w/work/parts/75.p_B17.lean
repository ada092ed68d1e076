/-! the pure laws: B17 C5 -/
set_option maxRecDepth 100000
/-! PURE: the model's image and restore -/
theorem p6_image_L33 {s0 : Sg} : ∀ s, keepS [53, 54, 55] s0 s → ∃ s', fX6_image_L33 FU s 0 = fX6_image_L95 FU s' 0 ∧ keepS [53, 54, 55, 56, 59, 60, 61] s0 s' ∧ keepS [56, 59, 60, 61] s s' ∧ ∀ j : Nat, j < 6 → gA s' 56 (j : Int) = gA s0 5 (j : Int) ∧ gA s' 59 (j : Int) = gA s0 16 (j : Int) ∧ gA s' 60 (j : Int) = gA s0 17 (j : Int) ∧ gA s' 61 (j : Int) = gA s0 18 (j : Int) := by
  intro s hs
  refine Exists.elim (loopN (fun f k x => fX6_image_L33 f x k) 6 (fun k x => keepS [56, 59, 60, 61] s x ∧ ∀ j : Nat, j < k → gA x 56 (j : Int) = gA s0 5 (j : Int) ∧ gA x 59 (j : Int) = gA s0 16 (j : Int) ∧ gA x 60 (j : Int) = gA s0 17 (j : Int) ∧ gA x 61 (j : Int) = gA s0 18 (j : Int)) (fun x => fX6_image_L95 FU x 0) ?_ ?_ FU 0 s (by unfold FU; omega) (by omega) ⟨keepS.refl _ _, fun j hj => by omega⟩) ?_
  rotate_left 2
  · rintro s' ⟨⟨h1, h2⟩, h3⟩
    exact ⟨s', h3, (hs.mono (by decide)).trans (h1.mono (by decide)), h1, h2⟩
  · rintro f k x hk ⟨h1, h2⟩
    show ∃ x', _ ∧ fX6_image_L33 (f + 1) x k = fX6_image_L33 f x' ((k + 1 : Nat) : Int)
    rw [fX6_image_L33_s, fX6_image_b33, if_neg (by omega), wr_id (by omega) (by omega)]
    simp (disch := omega) only [gd_t]
    refine ⟨_, ⟨?_, ?_⟩, rfl⟩
    · exact (((h1.sA (by decide) _ _).sA (by decide) _ _).sA (by decide) _ _).sA (by decide) _ _
    · have e5 : gA x 5 (k : Int) = gA s0 5 (k : Int) := (h1.A (by decide) _).trans (hs.A (by decide) _)
      have e16 : gA x 16 (k : Int) = gA s0 16 (k : Int) := (h1.A (by decide) _).trans (hs.A (by decide) _)
      have e17 : gA x 17 (k : Int) = gA s0 17 (k : Int) := (h1.A (by decide) _).trans (hs.A (by decide) _)
      have e18 : gA x 18 (k : Int) = gA s0 18 (k : Int) := (h1.A (by decide) _).trans (hs.A (by decide) _)
      intro j hj
      by_cases e : j = k
      · subst e; simp [gA_sA, e5, e16, e17, e18]
      · have hne : ¬ ((j : Int) = (k : Int)) := by omega
        simp [gA_sA, hne]
        exact h2 j (by omega)
  · intro f x _
    show fX6_image_L33 (f + 1) x ((6 : Nat) : Int) = _
    rw [fX6_image_L33_s, fX6_image_b33, if_pos (by omega)]
theorem p6_image_L95 (s : Sg) : ∃ s', fX6_image_L95 FU s 0 = fX6_image_L121 FU s' 0 ∧ keepS [57] s s' ∧ ∀ j : Nat, j < 36 → gA s' 57 (j : Int) = gA s 13 (j : Int) := by
  refine Exists.elim (loopN (fun f k x => fX6_image_L95 f x k) 36 (fun k x => keepS [57] s x ∧ ∀ j : Nat, j < k → gA x 57 (j : Int) = gA s 13 (j : Int)) (fun x => fX6_image_L121 FU x 0) ?_ ?_ FU 0 s (by unfold FU; omega) (by omega) ⟨keepS.refl _ _, fun j hj => by omega⟩) ?_
  rotate_left 2
  · rintro s' ⟨⟨h1, h2⟩, h3⟩
    exact ⟨s', h3, h1, h2⟩
  · rintro f k x hk ⟨h1, h2⟩
    show ∃ x', _ ∧ fX6_image_L95 (f + 1) x k = fX6_image_L95 f x' ((k + 1 : Nat) : Int)
    rw [fX6_image_L95_s, fX6_image_b95, if_neg (by omega), wr_id (by omega) (by omega), gd_t (by omega), gd_t (by omega)]
    refine ⟨_, ⟨?_, ?_⟩, rfl⟩
    · exact h1.sA (by decide) _ _
    · have e5 : gA x 13 (k : Int) = gA s 13 (k : Int) := h1.A (by decide) _
      intro j hj
      by_cases e : j = k
      · subst e; simp [gA_sA, e5]
      · have hne : ¬ ((j : Int) = (k : Int)) := by omega
        simp [gA_sA, hne]
        exact h2 j (by omega)
  · intro f x _
    show fX6_image_L95 (f + 1) x ((36 : Nat) : Int) = _
    rw [fX6_image_L95_s, fX6_image_b95, if_pos (by omega)]
theorem p6_image_L121 (s : Sg) : ∃ s', fX6_image_L121 FU s 0 = (bd (fX6_filled s') fun p2 => some (p2, s')) ∧ keepS [58] s s' ∧ ∀ j : Nat, j < 4 → gA s' 58 (j : Int) = gA s 14 (j : Int) := by
  refine Exists.elim (loopN (fun f k x => fX6_image_L121 f x k) 4 (fun k x => keepS [58] s x ∧ ∀ j : Nat, j < k → gA x 58 (j : Int) = gA s 14 (j : Int)) (fun x => bd (fX6_filled x) fun p2 => some (p2, x)) ?_ ?_ FU 0 s (by unfold FU; omega) (by omega) ⟨keepS.refl _ _, fun j hj => by omega⟩) ?_
  rotate_left 2
  · rintro s' ⟨⟨h1, h2⟩, h3⟩
    exact ⟨s', h3, h1, h2⟩
  · rintro f k x hk ⟨h1, h2⟩
    show ∃ x', _ ∧ fX6_image_L121 (f + 1) x k = fX6_image_L121 f x' ((k + 1 : Nat) : Int)
    rw [fX6_image_L121_s, fX6_image_b121, if_neg (by omega), wr_id (by omega) (by omega), gd_t (by omega), gd_t (by omega)]
    refine ⟨_, ⟨?_, ?_⟩, rfl⟩
    · exact h1.sA (by decide) _ _
    · have e5 : gA x 14 (k : Int) = gA s 14 (k : Int) := h1.A (by decide) _
      intro j hj
      by_cases e : j = k
      · subst e; simp [gA_sA, e5]
      · have hne : ¬ ((j : Int) = (k : Int)) := by omega
        simp [gA_sA, hne]
        exact h2 j (by omega)
  · intro f x _
    show fX6_image_L121 (f + 1) x ((4 : Nat) : Int) = _
    rw [fX6_image_L121_s, fX6_image_b121, if_pos (by omega)]
theorem Slt6.copy {s s' : Sg} {k3 k4 j3 j4 : Nat} {S : Nat → Option Tm} (hS : okSl S) (h : Slt6 s k3 k4 S) (h3 : ∀ j : Nat, j < 36 → gA s' j3 (j : Int) = gA s k3 (j : Int)) (h4 : ∀ j : Nat, j < 4 → gA s' j4 (j : Int) = gA s k4 (j : Int)) : Slt6 s' j3 j4 S := by
  intro k hk
  have := h k hk
  have hS := hS k hk
  revert this hS
  cases S k with
  | none => intro q _; rw [h4 k hk]; exact q
  | some t =>
    rintro ⟨a, b⟩ hS
    have hz := (hS t rfl).2
    refine ⟨by rw [h4 k hk]; exact a, fun p hp => ?_⟩
    have e := h3 (9 * k + p) (by omega)
    rw [show ((9 * k + p : Nat) : Int) = 9 * (k : Int) + p by omega] at e
    rw [e]; exact b p hp
theorem Sn6.copy {s s' : Sg} {k0 k1 k2 k3 j0 j1 j2 j3 : Nat} {E : List (Nat × Nat × Bool)} (hE : E.length ≤ 6) (h : Sn6 s k0 k1 k2 k3 E) (h0 : gI s' j0 = gI s k0) (h1 : ∀ j : Nat, j < 6 → gA s' j1 (j : Int) = gA s k1 (j : Int) ∧ gA s' j2 (j : Int) = gA s k2 (j : Int) ∧ gA s' j3 (j : Int) = gA s k3 (j : Int)) : Sn6 s' j0 j1 j2 j3 E := by
  refine ⟨h0.trans h.1, fun j e he => ?_⟩
  have hj := (List.getElem?_eq_some_iff.mp he).1
  obtain ⟨a, b, c⟩ := h1 j (by omega)
  obtain ⟨a', b', c'⟩ := h.2 j e he
  exact ⟨a.trans a', b.trans b', c.trans c'⟩
theorem p6_image {s : Sg} {A : As} (h : R6 s A) : ∃ s', fX6_image s = some ((sp_image A).1, s') ∧ R6 s' (sp_image A).2 := by
  have hbooks := h.2.1
  unfold fX6_image sp_image
  by_cases hb : asB A = 0
  · rw [if_neg (by omega), if_pos hb]; exact ⟨s, rfl, h⟩
  · rw [if_pos (by omega), if_neg hb]
    have k0 : keepS [53, 54, 55] s (sI (sI (sI s 53 1) 54 (gI (sI s 53 1) 0)) 55 (gI (sI (sI s 53 1) 54 (gI (sI s 53 1) 0)) 15)) := ((keepI _ s (by decide) _).sI (by decide) _).sI (by decide) _
    obtain ⟨s1, e1, k1, k1', c1⟩ := p6_image_L33 _ k0
    obtain ⟨s2, e2, k2, c2⟩ := p6_image_L95 s1
    obtain ⟨s3, e3, k3, c3⟩ := p6_image_L121 s2
    have kk : keepS [53, 54, 55, 56, 57, 58, 59, 60, 61] s s3 := (k1.mono (by decide)).trans ((k2.mono (by decide)).trans (k3.mono (by decide)))
    obtain ⟨⟨o1, o2, o3, o4, o5, o6, o7⟩, g2, g3, g4, g5, g6, g7, g8, g9⟩ := h
    have hsl : Slt6 s3 13 14 (asS A) := g6.keep kk (by decide) (by decide)
    rw [e1, e2, e3, p6_filled hsl, bd_s]
    refine ⟨s3, rfl, ⟨o1, o2, o3, o4, o5, o6, ?_⟩, (kk.I (by decide)).trans g2, g3.keep kk (by decide), g4.keep kk (by decide), fun c hc => ⟨(kk.A (by decide) _).trans (g5 c hc).1, (kk.A (by decide) _).trans (g5 c hc).2⟩, hsl, g7.keep kk (by decide) (by decide) (by decide) (by decide), ⟨(kk.I (by decide)).trans g8.1, fun j c hj => (kk.A (by decide) _).trans (g8.2 j c hj)⟩, ?_⟩
    · intro b Ks S E he
      have he' : some (asB A, kinds (asI A), asS A, asE A) = some (b, Ks, S, E) := he
      cases he'
      refine ⟨Nat.le_refl _, o4, o5.1, fun _ => ⟨by unfold kinds; rw [List.length_map]; rfl, o5⟩, fun k hk => ?_⟩
      obtain ⟨x, hx, rfl⟩ := List.mem_map.mp hk
      obtain ⟨i, hi, e⟩ := List.mem_iff_getElem.mp hx
      have := (o3.2 i hi).1
      have ei : ig (asI A) i = x := by unfold ig; rw [List.getD_eq_getElem?_getD, List.getElem?_eq_getElem hi, e]; rfl
      rw [ei] at this; exact this
    · show gI s3 53 = 1 ∧ gI s3 54 = (asB A : Int) ∧ (asB A = asB A → ∀ j : Nat, ∀ v, (kinds (asI A))[j]? = some v → gA s3 56 (j : Int) = v) ∧ Slt6 s3 57 58 (asS A) ∧ Sn6 s3 55 59 60 61 (asE A)
      refine ⟨?_, ?_, fun _ j v hv => ?_, ?_, ?_⟩
      · rw [k3.I (by decide), k2.I (by decide), k1'.I (by decide)]; simp [gI_sI]
      · rw [k3.I (by decide), k2.I (by decide), k1'.I (by decide)]; simp [gI_sI]; exact g2
      · have hj : j < (asI A).length := by have := (List.getElem?_eq_some_iff.mp hv).1; simpa [kinds] using this
        rw [k3.A (by decide), k2.A (by decide), (c1 j (by omega)).1, (g3.2.2.2.2 j hj).2.2.1]
        unfold kinds at hv
        rw [List.getElem?_map, List.getElem?_eq_getElem hj] at hv
        simp at hv
        rw [← hv]; unfold ig; rw [List.getD_eq_getElem?_getD, List.getElem?_eq_getElem hj]; rfl
      · refine Slt6.copy o4 hsl ?_ ?_
        · intro j hj; rw [k3.A (by decide), c2 j hj, k3.A (by decide), k2.A (by decide)]
        · intro j hj; rw [c3 j hj, k3.A (by decide)]
      · refine Sn6.copy o5.1 g7 ?_ ?_
        · rw [k3.I (by decide), k2.I (by decide), k1'.I (by decide)]; simp [gI_sI]
        · intro j hj
          obtain ⟨q1, q2, q3, q4⟩ := c1 j hj
          rw [k3.A (by decide), k2.A (by decide), k3.A (by decide), k2.A (by decide), k3.A (by decide), k2.A (by decide)]
          exact ⟨q2, q3, q4⟩
theorem p6_restore_L31 {s0 : Sg} : ∀ s, keepS [15] s0 s → ∃ s', fX6_restore_L31 FU s 0 = fX6_restore_L93 FU s' 0 ∧ keepS [5, 16, 17, 18] s s' ∧ ∀ j : Nat, j < 6 → gA s' 5 (j : Int) = gA s0 56 (j : Int) ∧ gA s' 16 (j : Int) = gA s0 59 (j : Int) ∧ gA s' 17 (j : Int) = gA s0 60 (j : Int) ∧ gA s' 18 (j : Int) = gA s0 61 (j : Int) := by
  intro s hs
  refine Exists.elim (loopN (fun f k x => fX6_restore_L31 f x k) 6 (fun k x => keepS [5, 16, 17, 18] s x ∧ ∀ j : Nat, j < k → gA x 5 (j : Int) = gA s0 56 (j : Int) ∧ gA x 16 (j : Int) = gA s0 59 (j : Int) ∧ gA x 17 (j : Int) = gA s0 60 (j : Int) ∧ gA x 18 (j : Int) = gA s0 61 (j : Int)) (fun x => fX6_restore_L93 FU x 0) ?_ ?_ FU 0 s (by unfold FU; omega) (by omega) ⟨keepS.refl _ _, fun j hj => by omega⟩) ?_
  rotate_left 2
  · rintro s' ⟨⟨h1, h2⟩, h3⟩
    exact ⟨s', h3, h1, h2⟩
  · rintro f k x hk ⟨h1, h2⟩
    show ∃ x', _ ∧ fX6_restore_L31 (f + 1) x k = fX6_restore_L31 f x' ((k + 1 : Nat) : Int)
    rw [fX6_restore_L31_s, fX6_restore_b31, if_neg (by omega), wr_id (by omega) (by omega)]
    simp (disch := omega) only [gd_t]
    refine ⟨_, ⟨?_, ?_⟩, rfl⟩
    · exact (((h1.sA (by decide) _ _).sA (by decide) _ _).sA (by decide) _ _).sA (by decide) _ _
    · have e5 : gA x 56 (k : Int) = gA s0 56 (k : Int) := (h1.A (by decide) _).trans (hs.A (by decide) _)
      have e16 : gA x 59 (k : Int) = gA s0 59 (k : Int) := (h1.A (by decide) _).trans (hs.A (by decide) _)
      have e17 : gA x 60 (k : Int) = gA s0 60 (k : Int) := (h1.A (by decide) _).trans (hs.A (by decide) _)
      have e18 : gA x 61 (k : Int) = gA s0 61 (k : Int) := (h1.A (by decide) _).trans (hs.A (by decide) _)
      intro j hj
      by_cases e : j = k
      · subst e; simp [gA_sA, e5, e16, e17, e18]
      · have hne : ¬ ((j : Int) = (k : Int)) := by omega
        simp [gA_sA, hne]
        exact h2 j (by omega)
  · intro f x _
    show fX6_restore_L31 (f + 1) x ((6 : Nat) : Int) = _
    rw [fX6_restore_L31_s, fX6_restore_b31, if_pos (by omega)]
theorem p6_restore_L93 (s : Sg) : ∃ s', fX6_restore_L93 FU s 0 = fX6_restore_L119 FU s' 0 ∧ keepS [13] s s' ∧ ∀ j : Nat, j < 36 → gA s' 13 (j : Int) = gA s 57 (j : Int) := by
  refine Exists.elim (loopN (fun f k x => fX6_restore_L93 f x k) 36 (fun k x => keepS [13] s x ∧ ∀ j : Nat, j < k → gA x 13 (j : Int) = gA s 57 (j : Int)) (fun x => fX6_restore_L119 FU x 0) ?_ ?_ FU 0 s (by unfold FU; omega) (by omega) ⟨keepS.refl _ _, fun j hj => by omega⟩) ?_
  rotate_left 2
  · rintro s' ⟨⟨h1, h2⟩, h3⟩
    exact ⟨s', h3, h1, h2⟩
  · rintro f k x hk ⟨h1, h2⟩
    show ∃ x', _ ∧ fX6_restore_L93 (f + 1) x k = fX6_restore_L93 f x' ((k + 1 : Nat) : Int)
    rw [fX6_restore_L93_s, fX6_restore_b93, if_neg (by omega), wr_id (by omega) (by omega), gd_t (by omega), gd_t (by omega)]
    refine ⟨_, ⟨?_, ?_⟩, rfl⟩
    · exact h1.sA (by decide) _ _
    · have e5 : gA x 57 (k : Int) = gA s 57 (k : Int) := h1.A (by decide) _
      intro j hj
      by_cases e : j = k
      · subst e; simp [gA_sA, e5]
      · have hne : ¬ ((j : Int) = (k : Int)) := by omega
        simp [gA_sA, hne]
        exact h2 j (by omega)
  · intro f x _
    show fX6_restore_L93 (f + 1) x ((36 : Nat) : Int) = _
    rw [fX6_restore_L93_s, fX6_restore_b93, if_pos (by omega)]
theorem p6_restore_L119 (s : Sg) : ∃ s', fX6_restore_L119 FU s 0 = (bd (fX6_filled s') fun p2 => some (p2, s')) ∧ keepS [14] s s' ∧ ∀ j : Nat, j < 4 → gA s' 14 (j : Int) = gA s 58 (j : Int) := by
  refine Exists.elim (loopN (fun f k x => fX6_restore_L119 f x k) 4 (fun k x => keepS [14] s x ∧ ∀ j : Nat, j < k → gA x 14 (j : Int) = gA s 58 (j : Int)) (fun x => bd (fX6_filled x) fun p2 => some (p2, x)) ?_ ?_ FU 0 s (by unfold FU; omega) (by omega) ⟨keepS.refl _ _, fun j hj => by omega⟩) ?_
  rotate_left 2
  · rintro s' ⟨⟨h1, h2⟩, h3⟩
    exact ⟨s', h3, h1, h2⟩
  · rintro f k x hk ⟨h1, h2⟩
    show ∃ x', _ ∧ fX6_restore_L119 (f + 1) x k = fX6_restore_L119 f x' ((k + 1 : Nat) : Int)
    rw [fX6_restore_L119_s, fX6_restore_b119, if_neg (by omega), wr_id (by omega) (by omega), gd_t (by omega), gd_t (by omega)]
    refine ⟨_, ⟨?_, ?_⟩, rfl⟩
    · exact h1.sA (by decide) _ _
    · have e5 : gA x 58 (k : Int) = gA s 58 (k : Int) := h1.A (by decide) _
      intro j hj
      by_cases e : j = k
      · subst e; simp [gA_sA, e5]
      · have hne : ¬ ((j : Int) = (k : Int)) := by omega
        simp [gA_sA, hne]
        exact h2 j (by omega)
  · intro f x _
    show fX6_restore_L119 (f + 1) x ((4 : Nat) : Int) = _
    rw [fX6_restore_L119_s, fX6_restore_b119, if_pos (by omega)]
theorem p6_restore {s : Sg} {A : As} (h : R6 s A) : ∃ s', fX6_restore s = some ((sp_restore A).1, s') ∧ R6 s' (sp_restore A).2 := by
  obtain ⟨⟨o1, o2, o3, o4, o5, o6, o7⟩, g2, g3, g4, g5, g6, g7, g8, g9⟩ := id h
  unfold fX6_restore sp_restore fX6_restore_b18
  cases hK : asK A with
  | none =>
    rw [hK] at g9
    simp only at g9
    rw [if_pos g9]; exact ⟨s, rfl, h⟩
  | some K =>
    obtain ⟨b, Ks, S, E⟩ := K
    rw [hK] at g9
    obtain ⟨a1, a2, a3, a4, a5⟩ := g9
    obtain ⟨p1, p2, p3, p4, p5⟩ := o7 b Ks S E hK
    rw [if_neg (by omega), a2, g2]
    simp only
    by_cases hb : b = asB A
    · rw [if_pos (by omega), if_pos hb]
      obtain ⟨r1, r2⟩ := p4 hb
      have k0 : keepS [15] s (sI s 15 (gI s 55)) := keepI _ s (by decide) _
      obtain ⟨s1, e1, k1, c1⟩ := p6_restore_L31 _ k0
      obtain ⟨s2, e2, k2, c2⟩ := p6_restore_L93 s1
      obtain ⟨s3, e3, k3, c3⟩ := p6_restore_L119 s2
      -- kinds first
      have hlen := g3.2.2.2.1
      have hsl : Slt6 s3 13 14 S := by
        refine Slt6.copy p2 a4 ?_ ?_
        · intro j hj; rw [k3.A (by decide), c2 j hj, k1.A (by decide), k0.A (by decide)]
        · intro j hj; rw [c3 j hj, k2.A (by decide), k1.A (by decide), k0.A (by decide)]
      have hsn : Sn6 s3 15 16 17 18 E := by
        refine Sn6.copy p3 a5 ?_ ?_
        · rw [k3.I (by decide), k2.I (by decide), k1.I (by decide)]; simp [gI_sI]
        · intro j hj
          obtain ⟨q1, q2, q3, q4⟩ := c1 j hj
          rw [k3.A (by decide), k2.A (by decide), k3.A (by decide), k2.A (by decide), k3.A (by decide), k2.A (by decide)]
          exact ⟨q2, q3, q4⟩
      have kk : keepS [5, 13, 14, 15, 16, 17, 18] s s3 := (k0.mono (by decide)).trans ((k1.mono (by decide)).trans ((k2.mono (by decide)).trans (k3.mono (by decide))))
      rw [e1, e2, e3, p6_filled hsl, bd_s]
      refine ⟨s3, rfl, ?_⟩
      -- the same state but for kinds, slots, what is seen
      have hx : ∀ i, i < (asI A).length → ig (setK (asI A) Ks) i = (Ks.getD i 0, (ig (asI A) i).2) := fun i hi => ig_setK hi
      have hkd : ∀ i, i < (asI A).length → (0 ≤ Ks.getD i 0 ∧ Ks.getD i 0 ≤ 4) ∧ gA s3 5 (i : Int) = Ks.getD i 0 := by
        intro i hi
        have hi' : i < Ks.length := by omega
        have e : Ks.getD i 0 = Ks[i] := by rw [List.getD_eq_getElem?_getD, List.getElem?_eq_getElem hi']; rfl
        refine ⟨by rw [e]; exact p5 _ (List.getElem_mem hi'), ?_⟩
        rw [k3.A (by decide), k2.A (by decide), (c1 i (by omega)).1, a3 hb i (Ks.getD i 0) (by rw [e]; exact List.getElem?_eq_getElem hi')]
      refine ⟨⟨o1, o2, ⟨by show (setK (asI A) Ks).length ≤ 6; rw [setK_len]; exact hlen, fun i hi => ?_⟩, p2, by show okSn (setK (asI A) Ks).length E; rw [setK_len]; exact r2, by show asB A < 1000 ∧ (asB A = 0 ↔ (setK (asI A) Ks).length = 0); rw [setK_len]; exact o6, ?_⟩, (kk.I (by decide)).trans g2, ?_, ?_, fun c hc => ⟨(kk.A (by decide) _).trans (g5 c hc).1, (kk.A (by decide) _).trans (g5 c hc).2⟩, hsl, hsn, ⟨(kk.I (by decide)).trans g8.1, fun j c hj => (kk.A (by decide) _).trans (g8.2 j c hj)⟩, ?_⟩
      · have hi' : i < (asI A).length := by have : i < (setK (asI A) Ks).length := hi; rw [setK_len] at this; exact this
        show okI _ (ig (setK (asI A) Ks) i)
        rw [hx i hi']; exact okI_k (o3.2 i hi') (hkd i hi').1
      · intro b' Ks' S' E' he
        have he' : asK A = some (b', Ks', S', E') := he
        obtain ⟨q1, q2, q3, q4, q5⟩ := o7 b' Ks' S' E' he'
        refine ⟨q1, q2, q3, fun e => ?_, q5⟩
        show Ks'.length = (setK (asI A) Ks).length ∧ okSn (setK (asI A) Ks).length E'
        rw [setK_len]; exact q4 e
      · refine ⟨(kk.I (by decide)).trans g3.1, g3.2.1, ?_, ?_, fun i hi => ?_⟩
        · show _ = ((setK (asI A) Ks).length : Int)
          rw [setK_len]; exact (kk.I (by decide)).trans g3.2.2.1
        · show (setK (asI A) Ks).length ≤ 6
          rw [setK_len]; exact hlen
        · have hi' : i < (asI A).length := by have : i < (setK (asI A) Ks).length := hi; rw [setK_len] at this; exact this
          obtain ⟨b1, b2, b3, b4, b5, b6⟩ := g3.2.2.2.2 i hi'
          show okI _ (ig (setK (asI A) Ks) i) ∧ _
          rw [show ig (asI (asE' (asS' (asI' A (setK (asI A) Ks)) S) E)) i = (Ks.getD i 0, (ig (asI A) i).2) from hx i hi', hx i hi']
          refine ⟨okI_k b1 (hkd i hi').1, b2.keep kk (by decide) (by decide), (hkd i hi').2, (kk.A (by decide) _).trans b4, (kk.A (by decide) _).trans b5, fun j hj => ?_⟩
          have := b6 j hj
          exact ⟨(kk.A (by decide) _).trans this.1, (kk.A (by decide) _).trans this.2⟩
      · intro i e hi he
        have hi' : i < (asI A).length := by have : i < (setK (asI A) Ks).length := hi; rw [setK_len] at this; exact this
        have he' : e < (asI A).length := by have : e < (setK (asI A) Ks).length := he; rw [setK_len] at this; exact this
        show _ = b01 (spc (ig (setK (asI A) Ks) i) (ig (setK (asI A) Ks) e) = true)
        have : spc (ig (setK (asI A) Ks) i) (ig (setK (asI A) Ks) e) = spc (ig (asI A) i) (ig (asI A) e) := by
          rw [hx i hi', hx e he']; rfl
        simp only [this]
        exact (kk.A (by decide) _).trans (g4 i e hi' he')
      · show match asK A with | none => _ | some (b, Ks, S, E) => _
        rw [hK]
        exact ⟨(kk.I (by decide)).trans a1, (kk.I (by decide)).trans a2, fun e j v hj => (kk.A (by decide) _).trans (a3 e j v hj), a4.keep kk (by decide) (by decide), a5.keep kk (by decide) (by decide) (by decide) (by decide)⟩
    · rw [if_neg (by omega), if_neg hb]; exact ⟨s, rfl, h⟩

set_option maxRecDepth 100000
/-! PURE: two heads made one -/
/-- a type, and whose variables are in it (0 or 2) -/
abbrev Nd : Type := Tm × Nat
/-- what is bound: four names -/
abbrev Bn : Type := Nat → Option Nd
def nmN (x : Nd) : Option Nat := match x.1 with
  | .var v => some (v + x.2)
  | _ => none
def bnU (b : Bn) (v : Nat) (x : Nd) : Bn := fun w => bif Nat.beq w v then some x else b w
/-- what a type stands for -/
def rootN (b : Bn) : Nat → Nd → Option Nd
  | 0, _ => none
  | f + 1, x => match nmN x with
    | none => some x
    | some v => match b v with
      | none => some x
      | some y => rootN b f y
def insN (b : Bn) (v : Nat) : Nat → Nd → Option Bool
  | 0, _ => none
  | f + 1, x => match rootN b 6 x with
    | none => none
    | some y => match y.1 with
      | .var w => some (Nat.beq (w + y.2) v)
      | .mulL _ a => insN b v f (a, y.2)
      | .add a c => match insN b v f (a, y.2), insN b v f (c, y.2) with
        | some p, some q => some (p || q)
        | _, _ => none
      | _ => some false
/-- made one: none: out of fuel; some none: they can't be -/
def mkN : Nat → Bn → Nd → Nd → Option (Option Bn)
  | 0, _, _, _ => none
  | f + 1, b, x, y => match rootN b 6 x, rootN b 6 y with
    | some x, some y => match nmN x, nmN y with
      | some v, some w => bif Nat.beq v w then some (some b) else (match insN b v 8 y with
        | none => none
        | some true => some none
        | some false => some (some (bnU b v y)))
      | some v, none => (match insN b v 8 y with
        | none => none
        | some true => some none
        | some false => some (some (bnU b v y)))
      | none, some w => (match insN b w 8 x with
        | none => none
        | some true => some none
        | some false => some (some (bnU b w x)))
      | none, none => match x.1, y.1 with
        | .num c, .num d => bif Nat.beq c d then some (some b) else some none
        | .mulL _ a, .mulL _ c => mkN f b (a, x.2) (c, y.2)
        | .add a1 a2, .add c1 c2 => match mkN f b (a1, x.2) (c1, y.2) with
          | none => none
          | some none => some none
          | some (some b') => mkN f b' (a2, x.2) (c2, y.2)
        | _, _ => some none
    | _, _ => none
def allH : Nat → List Tm
  | 0 => []
  | 1 => [.num 105, .num 98, .var 0, .var 1]
  | n + 2 => [.num 105, .num 98, .var 0, .var 1] ++ (allH (n + 1)).map (.mulL 0) ++ (allH n).flatMap fun a => ((allH n).filter fun c => Nat.ble (szT a + szT c) (n + 1)).map (.add a)
def bn0 : Bn := fun _ => none
def mkOK (h g : Tm) : Bool := (mkN 6 bn0 (h, 0) (g, 2)).isSome
def alk (h g : Tm) : Bool := match mkN 6 bn0 (h, 0) (g, 2) with
  | some (some _) => true
  | _ => false
def ovl (x y : Ist) : Bool := decide (iO x = iO y) && (decide (iK x ≠ 2) && (decide (iK y ≠ 2) && alk (iH x) (iH y)))
def clsh (x y : Ist) : Bool := ovl x y && ((!spc x y && !spc y x) || (decide (iK x = 4) || decide (iK y = 4)))
def pairV (x y : Ist) (w : Int) : Bool := if w = 0 then ovl x y else if w = 1 then clsh x y else spc x y
def sp_pair (A : As) (i e w : Int) : Int := if isIn9 A i ∧ isIn9 A e ∧ i ≠ e then (if 0 ≤ w ∧ w ≤ 2 then bI (pairV (ig (asI A) i.toNat) (ig (asI A) e.toNat) w) else -102) else -101

