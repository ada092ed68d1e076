/-! the pure laws: X29 X30 X31 X32 -/
set_option maxRecDepth 100000
/-! PURE: class DictProof: types are drawn and proved -/
theorem p_newTerm {k h : hS} {F : Nat → Prop} (K : Kp k h F) (sg : Int) (o2 o3 : Option Nat) :
    ∃ h' k', fX7_init (nwO h 7 [vi 0, vq none, vq none]) (some h.2.1) sg o2 o3 = some h' ∧ ext k k' ∧ Kp k' h' F ∧ k'.1 h.2.1 = some (.inl (7, [vi sg, vq o2, vq o3])) ∧ ol h h' 1 := by
  obtain ⟨h1, e1, a1, o1, s1⟩ := hW_at (P := [(7, 0)]) (v := vi sg) (nwO_at h 7 [vi 0, vq none, vq none]) rfl (by simp)
  obtain ⟨h2, e2, a2, o2', s2⟩ := hW_at (P := [(7, 1)]) (v := vq o2) a1 rfl (by simp)
  obtain ⟨h3, e3, a3, o3', s3⟩ := hW_at (P := [(7, 2)]) (v := vq o3) a2 rfl (by simp)
  have O : ol h h3 1 := ol_at (ol_nwO h 7 [vi 0, vq none, vq none] (by simp)) (Nat.le_refl _) (fun c hc => by rw [o3' c hc, o2' c hc, o1 c hc]) (by rw [s3, s2, s1])
  have nF : ¬ F h.2.1 := fun q => by have := K.2 _ q; omega
  obtain ⟨K', X⟩ := (K.ol O).add (a := h.2.1) (K.nk (Nat.le_refl _)) a3 (by rw [s3, s2, s1]; show h.2.1 < h.2.1 + 1; omega) nF
  refine ⟨h3, _, ?_, X, K', hup_at _ _ _, O⟩
  unfold fX7_init
  rw [gd_t (by simp), e1, bd_s, e2, bd_s, e3, bd_s]
theorem p0_partsOf (c : Int) : fX0_partsOf c = some (if c = 108 then 1 else if c = 112 then 2 else 0) := by
  unfold fX0_partsOf fX0_partsOf_b21
  by_cases h1 : c = 108
  · rw [if_neg (by simpa using h1), if_pos h1]
  · rw [if_pos h1, if_neg h1]
    by_cases h2 : c = 112
    · rw [if_neg (by simpa using h2), if_pos h2]
    · rw [if_pos h2, if_neg h2]
theorem drT_r : ∀ (l : Nat) (x : Int), (0 ≤ x ∧ x < 2147483648) → 0 ≤ (drT l x).2 ∧ (drT l x).2 < 2147483648 := by
  have lc : ∀ x, 0 ≤ lcg x ∧ lcg x < 2147483648 := fun x => by unfold lcg; omega
  intro l
  induction l with
  | zero => intro x _; exact lc x
  | succ l ih =>
    intro x hx
    simp only [drT]
    split
    · exact lc x
    · split
      · exact ih _ (lc x)
      · exact ih _ (ih _ (lc x))
theorem drw0_r {x d : Int} (hd : 0 < d) : 0 ≤ drw x d ∧ drw x d < d := by
  unfold drw
  exact ⟨Int.emod_nonneg _ (by omega), Int.emod_lt_of_pos _ hd⟩
theorem p_drawType : ∀ (l d : Nat) (s : Sg) (h k : hS) (F : Nat → Prop), l < d → l ≤ 2 → Kp k h F → (0 ≤ gI s 27 ∧ gI s 27 < 2147483648) →
    ∃ s' h' k' a, fX0_drawType d s h (2 - (l : Int)) = some (some a, s', h') ∧ keepS [27] s s' ∧ gI s' 27 = (drT l (gI s 27)).2 ∧ ext k k' ∧ Kp k' h' F ∧ isT k' a (drT l (gI s 27)).1 ∧ ol h h' (2 ^ (l + 1) - 1) := by
  intro l
  -- a leaf
  have leaf : ∀ (R9 : Sg → hS → Int → Option (Option Nat × Sg × hS)) (s : Sg) (h k : hS) (F : Nat → Prop) (a1 : Int) (c : Nat), (c = 105 ∨ c = 98) → Kp k h F → ∃ h' k' a, fX0_drawType_b46 R9 s h a1 (c : Int) = some (some a, s, h') ∧ ext k k' ∧ Kp k' h' F ∧ isT k' a (.num c) ∧ ol h h' 1 := by
    intro R9 s h k F a1 c hc K
    obtain ⟨h', k', e, X, K', ea, O⟩ := p_newTerm K (c : Int) none none
    refine ⟨h', k', h.2.1, ?_, X, K', ea, O⟩
    unfold fX0_drawType_b46 fX0_drawType_b65 fX0_drawType_b86
    rw [p0_partsOf, if_neg (by omega), if_neg (by omega), bd_s, if_pos (by decide), bd_s, if_pos (by decide), nwS_e, bd_s]
    dsimp only
    rw [e, bd_s]
  induction l with
  | zero =>
    intro d s h k F hd _ K hx
    obtain ⟨d, rfl⟩ : ∃ m, d = m + 1 := ⟨d - 1, by omega⟩
    show ∃ s' h' k' a, fX0_drawType_B (fX0_drawType d) s h (2 - ((0 : Nat) : Int)) = some (some a, s', h') ∧ _
    unfold fX0_drawType_B fX0_drawType_b11
    obtain ⟨w0, w1⟩ := drw0_r (x := lcg (gI s 27)) (d := 2) (by omega)
    rw [if_pos (by decide), p0_draw hx (by omega), bd_s]
    dsimp only
    have k27 : keepS [27] s (sI s 27 (lcg (gI s 27))) := keepI _ s (by decide) _
    by_cases c0 : drw (lcg (gI s 27)) 2 = 0
    · obtain ⟨h', k', a, e, X, K', T, O⟩ := leaf (fX0_drawType d) (sI s 27 (lcg (gI s 27))) h k F (2 - ((0 : Nat) : Int)) 105 (Or.inl rfl) K
      refine ⟨sI s 27 (lcg (gI s 27)), h', k', a, ?_, k27, by rw [gI_sI, if_pos rfl]; rfl, X, K', ?_, O⟩
      · rw [if_neg (by simpa using c0)]; exact e
      · simp only [drT, lfT]; rw [if_pos c0]; exact T
    · have c1 : drw (lcg (gI s 27)) 2 = 1 := by omega
      obtain ⟨h', k', a, e, X, K', T, O⟩ := leaf (fX0_drawType d) (sI s 27 (lcg (gI s 27))) h k F (2 - ((0 : Nat) : Int)) 98 (Or.inr rfl) K
      refine ⟨sI s 27 (lcg (gI s 27)), h', k', a, ?_, k27, by rw [gI_sI, if_pos rfl]; rfl, X, K', ?_, O⟩
      · rw [if_pos c0, if_neg (by simpa using c1)]; exact e
      · simp only [drT, lfT]; rw [if_neg c0]; exact T
  | succ l ih =>
    intro d s h k F hd hl K hx
    obtain ⟨d, rfl⟩ : ∃ m, d = m + 1 := ⟨d - 1, by omega⟩
    have p2 : 2 ^ (l + 1 + 1) = 2 ^ (l + 1) + 2 ^ (l + 1) := by rw [Nat.pow_succ]; omega
    have p1 : 0 < 2 ^ (l + 1) := Nat.pow_pos (by omega)
    show ∃ s' h' k' a, fX0_drawType_B (fX0_drawType d) s h (2 - ((l + 1 : Nat) : Int)) = some (some a, s', h') ∧ _
    unfold fX0_drawType_B fX0_drawType_b11
    obtain ⟨w0, w1⟩ := drw0_r (x := lcg (gI s 27)) (d := 4) (by omega)
    have l0 : 0 ≤ lcg (gI s 27) ∧ lcg (gI s 27) < 2147483648 := by unfold lcg; omega
    rw [if_neg (by omega), p0_draw hx (by omega), bd_s]
    dsimp only
    have k27 : keepS [27] s (sI s 27 (lcg (gI s 27))) := keepI _ s (by decide) _
    have g27 : gI (sI s 27 (lcg (gI s 27))) 27 = lcg (gI s 27) := by rw [gI_sI, if_pos rfl]
    by_cases c0 : drw (lcg (gI s 27)) 4 = 0
    · obtain ⟨h', k', a, e, X, K', T, O⟩ := leaf (fX0_drawType d) (sI s 27 (lcg (gI s 27))) h k F (2 - ((l + 1 : Nat) : Int)) 105 (Or.inl rfl) K
      refine ⟨sI s 27 (lcg (gI s 27)), h', k', a, ?_, k27, ?_, X, K', ?_, O.mono (by omega)⟩
      · rw [if_neg (by simpa using c0)]; exact e
      · rw [g27]; simp only [drT]; rw [if_pos (Or.inl c0)]
      · simp only [drT, lfT]; rw [if_pos (Or.inl c0), if_pos c0]; exact T
    · by_cases c1 : drw (lcg (gI s 27)) 4 = 1
      · obtain ⟨h', k', a, e, X, K', T, O⟩ := leaf (fX0_drawType d) (sI s 27 (lcg (gI s 27))) h k F (2 - ((l + 1 : Nat) : Int)) 98 (Or.inr rfl) K
        refine ⟨sI s 27 (lcg (gI s 27)), h', k', a, ?_, k27, ?_, X, K', ?_, O.mono (by omega)⟩
        · rw [if_pos c0, if_neg (by simpa using c1)]; exact e
        · rw [g27]; simp only [drT]; rw [if_pos (Or.inr c1)]
        · simp only [drT, lfT]; rw [if_pos (Or.inr c1), if_neg c0]; exact T
      · obtain ⟨s1, h1, k1, a1, e1, kp1, g1, X1, K1, T1, O1⟩ := ih d (sI s 27 (lcg (gI s 27))) h k F (by omega) (by omega) K (by rw [g27]; exact l0)
        rw [g27] at g1 T1
        have wrl : wr (2 - ((l + 1 : Nat) : Int) + 1) = 2 - (l : Int) := by rw [wr_id (by omega) (by omega)]; omega
        by_cases c2 : drw (lcg (gI s 27)) 4 = 2
        · obtain ⟨h2, k2, e2, X2, K2, ea2, O2⟩ := p_newTerm K1 108 (some a1) none
          refine ⟨s1, h2, k2, h1.2.1, ?_, k27.trans kp1, ?_, X1.trans X2, K2, ?_, O1.trans O2 (by omega)⟩
          · rw [if_pos c0, if_pos c1, if_neg (by simpa using c2)]
            unfold fX0_drawType_b46 fX0_drawType_b65 fX0_drawType_b86
            rw [p0_partsOf, if_pos rfl, bd_s, if_neg (by decide), wrl, e1, bd_s]
            dsimp only
            rw [bd_s, if_pos (by decide), nwS_e, bd_s]
            dsimp only
            rw [e2, bd_s]
          · rw [g1]; simp only [drT]; rw [if_neg (by rintro (q | q); exact c0 q; exact c1 q), if_pos c2]
          · simp only [drT]; rw [if_neg (by rintro (q | q); exact c0 q; exact c1 q), if_pos c2]
            exact ⟨a1, ea2, T1.mono X2⟩
        · obtain ⟨s2, h2, k2, a2, e2, kp2, g2, X2, K2, T2, O2⟩ := ih d s1 h1 k1 F (by omega) (by omega) K1 (by rw [g1]; exact drT_r l _ l0)
          rw [g1] at g2 T2
          obtain ⟨h3, k3, e3, X3, K3, ea3, O3⟩ := p_newTerm K2 112 (some a1) (some a2)
          refine ⟨s2, h3, k3, h2.2.1, ?_, k27.trans (kp1.trans kp2), ?_, X1.trans (X2.trans X3), K3, ?_, O1.trans (O2.trans O3 (Nat.le_refl _)) (by omega)⟩
          · rw [if_pos c0, if_pos c1, if_pos c2]
            unfold fX0_drawType_b46 fX0_drawType_b65 fX0_drawType_b86
            rw [p0_partsOf, if_neg (by decide), if_pos rfl, bd_s, if_neg (by decide), wrl, e1, bd_s]
            dsimp only
            rw [bd_s, if_neg (by decide), e2, bd_s, nwS_e, bd_s]
            dsimp only
            rw [e3, bd_s]
          · rw [g2]; simp only [drT]; rw [if_neg (by rintro (q | q); exact c0 q; exact c1 q), if_neg c2]
          · simp only [drT]; rw [if_neg (by rintro (q | q); exact c0 q; exact c1 q), if_neg c2]
            exact ⟨a1, a2, ea3, T1.mono (X2.trans X3), T2.mono X3⟩
theorem drT0_ok : ∀ (l : Nat) (x : Int), okT (drT l x).1 ∧ szT (drT l x).1 < 2 ^ (l + 1) := by
  have lf : ∀ x, okT (lfT x) ∧ szT (lfT x) = 1 := by intro x; unfold lfT; split <;> simp [okT, szT]
  intro l
  induction l with
  | zero => intro x; exact ⟨(lf _).1, by simp only [drT]; rw [(lf _).2]; decide⟩
  | succ l ih =>
    intro x
    have p2 : 2 ^ (l + 1 + 1) = 2 ^ (l + 1) + 2 ^ (l + 1) := by rw [Nat.pow_succ]; omega
    have p1 : 0 < 2 ^ (l + 1) := Nat.pow_pos (by omega)
    simp only [drT]
    split
    · exact ⟨(lf _).1, by rw [(lf _).2]; omega⟩
    · split
      · exact ⟨⟨rfl, (ih _).1⟩, by have := (ih (lcg x)).2; simp only [szT]; omega⟩
      · exact ⟨⟨(ih _).1, (ih _).1⟩, by have := (ih (lcg x)).2; have := (ih (drT l (lcg x)).2).2; simp only [szT]; omega⟩
theorem W_drawn {s : Sg} {gs : Option Nat × Option Nat} {ca : Nat → Nat} {A : As} {U : Tm → Prop} {mp : Nat} {w : Wd} (hA : okA A) (hU : UOK U) (hB : UBd U) (hUd : ∀ x, U (drT 2 x).1) (hnn : asB A ≠ 0 → 0 < asN A) (h : okW (asI A) U mp w) (r : R0 s (wk w) gs ca A) (times seed x : Int) (hs : seed < 2147483648) :
    ∃ s' w', fX0_drawn (some mp) s (wh w) times seed x = some (sp_drawn A times seed x, s', wh w') ∧ R0 s' (wk w') gs ca A ∧ okW (asI A) U mp w' ∧ stW w w' 240 := by
  have same : ∀ v : Int, ∃ s' w', some (v, s, wh w) = some (v, s', wh w') ∧ R0 s' (wk w') gs ca A ∧ okW (asI A) U mp w' ∧ stW w w' 240 := fun v => ⟨s, w, rfl, r, h, (stW.refl w).mono (by omega)⟩
  have hb := hA.2.2.2.2.2.1.2
  have h5 := r.2.1.1
  have hn4 := r.1.2.1
  unfold fX0_drawn fX0_drawn_b28 fX0_drawn_b50 sp_drawn
  rw [p0_isIn, bd_s]
  by_cases ht : 1 ≤ times ∧ times ≤ 30
  · rw [decide_eq_true ht, if_neg (show ¬ bI true = 0 by decide)]
    by_cases h0 : 0 ≤ seed
    · rw [if_neg (by omega), p0_isIn, bd_s]
      by_cases hx : 0 ≤ x ∧ x ≤ 2
      · rw [decide_eq_true hx, if_pos (show ¬ bI true = 0 by decide), if_pos (show (1 ≤ times ∧ times ≤ 30) ∧ 0 ≤ seed ∧ 0 ≤ x ∧ x ≤ 2 from ⟨ht, h0, hx.1, hx.2⟩)]
        by_cases b0 : asB A = 0
        · rw [if_pos (show gI s 5 ≤ 0 by rw [h5]; have := hb.mp b0; omega), if_pos b0]
          exact same _
        · have n0 := hnn b0
          rw [if_neg (show ¬ gI s 5 ≤ 0 by rw [h5]; intro q; exact b0 (hb.mpr (by omega))), if_neg b0]
          have sd : ∀ k, 0 ≤ (drK (asI A) (asN A) seed k).2.2 ∧ (drK (asI A) (asN A) seed k).2.2 < 2147483648 := by
            intro k
            induction k with
            | zero => exact ⟨h0, hs⟩
            | succ k _ =>
              simp only [drK]
              exact drT_r 2 _ (by unfold lcg; omega)
          have bnd : ∀ k : Nat, (0 ≤ (drK (asI A) (asN A) seed k).1 ∧ (drK (asI A) (asN A) seed k).1 ≤ (k : Int)) ∧ 0 ≤ (drK (asI A) (asN A) seed k).2.1 ∧ (drK (asI A) (asN A) seed k).2.1 ≤ 8 * (k : Int) := by
            intro k
            induction k with
            | zero => simp [drK]
            | succ k ih =>
              simp only [drK]
              have b1 : ∀ z : Bool, 0 ≤ bI z ∧ bI z ≤ 1 := by intro z; cases z <;> decide
              have := b1 (decide (rS (res (asI A) (drw (lcg (drK (asI A) (asN A) seed k).2.2) (asN A)) (drT 2 (lcg (drK (asI A) (asN A) seed k).2.2)).1) = 1))
              have := (drT0_ok 2 (lcg (drK (asI A) (asN A) seed k).2.2)).2
              omega
          obtain ⟨⟨s1, w1⟩, ⟨r1, g1, o1, st1⟩, e1⟩ := loopN (fun f k (y : Sg × Wd) => fX0_drawnBy_L14 f (some mp) y.1 (wh y.2) times x (drK (asI A) (asN A) seed k).1 (drK (asI A) (asN A) seed k).2.1 (k : Int)) times.toNat (fun k y => R0 y.1 (wk y.2) gs ca A ∧ gI y.1 27 = (drK (asI A) (asN A) seed k).2.2 ∧ okW (asI A) U mp y.2 ∧ stW w y.2 (k * 8)) (fun y => some (if x = 0 then (drK (asI A) (asN A) seed times.toNat).1 else if x = 1 then (drK (asI A) (asN A) seed times.toNat).2.1 else (drK (asI A) (asN A) seed times.toNat).2.2, y.1, wh y.2)) (fun f k y hk hy => by
              obtain ⟨s2, w2⟩ := y
              obtain ⟨r2, g2, o2, st2⟩ := hy
              have r2 : R0 s2 (wk w2) gs ca A := r2
              have g2 : gI s2 27 = (drK (asI A) (asN A) seed k).2.2 := g2
              have o2 : okW (asI A) U mp w2 := o2
              have st2 : stW w w2 (k * 8) := st2
              have sdk := sd k
              rw [← g2] at sdk
              have lc0 : 0 ≤ lcg (gI s2 27) ∧ lcg (gI s2 27) < 2147483648 := by unfold lcg; omega
              obtain ⟨d0, d1⟩ := drw0_r (x := lcg (gI s2 27)) (d := (asN A : Int)) (by omega)
              have k27 : keepS [27] s2 (sI s2 27 (lcg (gI s2 27))) := keepI _ s2 (by decide) _
              have g27 : gI (sI s2 27 (lcg (gI s2 27))) 27 = lcg (gI s2 27) := by rw [gI_sI, if_pos rfl]
              obtain ⟨s3, h3, k3, a3, e3, kp3, g3, X3, K3, T3, O3⟩ := p_drawType 2 16 (sI s2 27 (lcg (gI s2 27))) (wh w2) (wk w2) (wF w2) (by omega) (by omega) o2.1 (by rw [g27]; exact lc0)
              rw [g27] at g3 T3
              obtain ⟨o3, st3⟩ := o2.kW X3 K3 O3
              have kp : keepS [27] s2 s3 := k27.trans kp3
              have r3 : R0 s3 k3 gs ca A := (r2.mono X3).keep kp (by decide)
              obtain ⟨w4, e4, o4, st4, G4⟩ := W_goal o3 (drw (lcg (gI s2 27)) (asN A)) T3
              obtain ⟨q, w5, e5, o5, st5, P5⟩ := W_prove hU hB hn4 r3.2.2.1 o4 (r3.2.1.mono st4.1) (hUd _) ⟨d0, d1⟩ G4
              have ot := (hU.1 _ (hUd (lcg (gI s2 27)))).1
              have h9 := (hU.1 _ (hUd (lcg (gI s2 27)))).2
              have hI9 : ∀ i, i < (asI A).length → okI (asN A) (ig (asI A) i) := fun i hi => (r3.2.1.2.2 i hi).1
              have P16 := (P5 16 (by omega)).mono o5.1.ext
              have T5 : isT (wh w5) a3 (drT 2 (lcg (gI s2 27))).1 := T3.mono ((st4.1.trans st5.1).trans o5.1.ext)
              have st25 : stW w w5 ((k + 1) * 8) := st2.trans (st3.trans (st4.trans st5 (C := 1) (by omega)) (C := 8) (by omega)) (by omega)
              refine ⟨(s3, w5), ⟨r3.mono (st4.1.trans st5.1), by show gI s3 27 = (drT 2 (lcg (drK (asI A) (asN A) seed k).2.2)).2; rw [g3, g2], o5, st25⟩, ?_⟩
              obtain ⟨⟨b1, b2⟩, b3, b4⟩ := bnd k
              show fX0_drawnBy_L14 (f + 1) (some mp) s2 (wh w2) times x (drK (asI A) (asN A) seed k).1 (drK (asI A) (asN A) seed k).2.1 (k : Int) = fX0_drawnBy_L14 f (some mp) s3 (wh w5) times x ((drK (asI A) (asN A) seed k).1 + bI (decide (rS (res (asI A) (drw (lcg (drK (asI A) (asN A) seed k).2.2) (asN A)) (drT 2 (lcg (drK (asI A) (asN A) seed k).2.2)).1) = 1))) ((drK (asI A) (asN A) seed k).2.1 + (szT (drT 2 (lcg (drK (asI A) (asN A) seed k).2.2)).1 : Int)) ((k + 1 : Nat) : Int)
              rw [← g2]
              have h3s : gI s2 3 = (asN A : Int) := r2.1.1
              have e3 : fX0_drawType 16 (sI s2 27 (lcg (gI s2 27))) (wh w2) 0 = some (some a3, s3, h3) := e3
              have e4 : fX9_init (nwO h3 9 [vi 0, vq none]) (some h3.2.1) (drw (lcg (gI s2 27)) (asN A)) (some a3) = some (wh w4) := e4
              have e5 : fX0_prove 16 (some mp) s3 (wh w4) (some h3.2.1) = some (some q, wh w5) := e5
              have sz8 := (drT0_ok 2 (lcg (gI s2 27))).2
              have fin : ∀ z : Bool, fX0_drawnBy_b66 (fX0_drawnBy_L14 f) (some mp) s3 (wh w5) times x (drK (asI A) (asN A) seed k).2.1 (k : Int) (some a3) (drK (asI A) (asN A) seed k).1 (bI z) = fX0_drawnBy_L14 f (some mp) s3 (wh w5) times x ((drK (asI A) (asN A) seed k).1 + bI z) ((drK (asI A) (asN A) seed k).2.1 + (szT (drT 2 (lcg (gI s2 27))).1 : Int)) ((k + 1 : Nat) : Int) := by
                intro z
                have b1' : 0 ≤ bI z ∧ bI z ≤ 1 := by cases z <;> decide
                unfold fX0_drawnBy_b66
                rw [gd_t T5.c, p_sizeT 16 _ _ _ ot (by omega) (by have := dpT_le _ ot; omega) T5, bd_s, wr_id (x := (drK (asI A) (asN A) seed k).1 + bI z) (by omega) (by omega), wr_id (x := (drK (asI A) (asN A) seed k).2.1 + _) (by omega) (by omega), wr_id (x := (k : Int) + 1) (by omega) (by omega)]
                rfl
              rw [fX0_drawnBy_L14_s]
              unfold fX0_drawnBy_b14
              rw [if_neg (by omega), h3s, p0_draw sdk (by omega), bd_s]
              dsimp only
              rw [e3, bd_s]
              dsimp only
              rw [nwS_e, bd_s]
              dsimp only
              rw [e4, bd_s, e5, bd_s]
              dsimp only
              rw [P16.o hI9 ot, bd_s]
              by_cases f1 : rS (res (asI A) (drw (lcg (gI s2 27)) (asN A)) (drT 2 (lcg (gI s2 27))).1) = 1
              · rw [if_neg (by simpa using f1), decide_eq_true f1]
                exact fin true
              · rw [if_pos f1, decide_eq_false f1]
                exact fin false) (fun f y hy => by
              show fX0_drawnBy_L14 (f + 1) (some mp) y.1 (wh y.2) times x (drK (asI A) (asN A) seed times.toNat).1 (drK (asI A) (asN A) seed times.toNat).2.1 (times.toNat : Int) = _
              rw [fX0_drawnBy_L14_s]
              unfold fX0_drawnBy_b14 fX0_drawnBy_b108
              rw [if_pos (by omega)]
              by_cases x0 : x = 0
              · rw [if_neg (by simpa using x0), if_pos x0]
              · by_cases x1 : x = 1
                · rw [if_pos x0, if_neg (by simpa using x1), if_neg x0, if_pos x1]
                · rw [if_pos x0, if_pos x1, if_neg x0, if_neg x1, hy.2.1]) FU 0 (sI s 27 seed, w) (by unfold FU; omega) (by omega) ⟨r.keep (keepI [27] s (by decide) _) (by decide), rfl, h, (stW.refl w).mono (by omega)⟩
          have e1 : fX0_drawnBy_L14 FU (some mp) (sI s 27 seed) (wh w) times x 0 0 0 = _ := e1
          unfold fX0_drawnBy
          rw [e1, bd_s]
          exact ⟨s1, w1, rfl, r1, o1, st1.mono (by omega)⟩
      · rw [decide_eq_false hx, if_neg (show ¬ ¬ bI false = 0 by decide), if_neg (by rintro ⟨-, -, q1, q2⟩; exact hx ⟨q1, q2⟩)]
        exact same _
    · rw [if_pos (by omega), if_neg (by rintro ⟨-, q, -⟩; exact h0 q)]
      exact same _
  · rw [decide_eq_false ht, if_pos (show bI false = 0 from rfl), if_neg (by rintro ⟨q, -⟩; exact ht q)]
    exact same _

set_option maxRecDepth 100000
/-! PURE: class DictProof: a page is looked through: its classes -/
abbrev LF : List Nat := [10, 11, 12, 13, 14, 15, 16, 17, 18]
theorem pl_get {P : List Int} {k : Nat} (h : k < P.length) : P[k]? = some (pl P k) := by
  unfold pl; rw [List.getD_eq_getElem?_getD, List.getElem?_eq_getElem h]; rfl
theorem pl_end {P : List Int} {k : Nat} (h : P.length ≤ k) : pl P k = 0 := by
  unfold pl; rw [List.getD_eq_getElem?_getD, List.getElem?_eq_none h]; rfl
theorem Pg0.at {s : Sg} {P : List Int} (h : Pg0 s P) {k : Nat} (hk : k < P.length) : gA s 8 (k : Int) = pl P k := h.2 k _ (pl_get hk)
/-- classes are looked through: how many there are, how many letters of this one -/
def CS (s : Sg) (C H : Nat) : Prop := gI s 10 = (C : Int) ∧ gI s 11 = (H : Int) ∧ gI s 12 = -1 ∧ gI s 13 = 0
section FLT
variable {P : List Int}
theorem flt_end {s : Sg} {f k : Nat} (h : Pg0 s P) (hk : P.length ≤ k) : fX0_fault_L22 (f + 1) s (k : Int) = some ((k : Int), s) := by
  rw [fX0_fault_L22_s]
  unfold fX0_fault_b22 fX0_fault_b75
  rw [if_pos (by rw [h.1]; omega)]
theorem flt_c {s : Sg} {f k : Nat} (h : Pg0 s P) (hl : P.length ≤ 84) (hk : k < P.length) (h12 : gI s 12 = -1) {v : Int} {s' : Sg} (e : fX0_isClassSign s (k : Int) (pl P k) = some (v, s')) : fX0_fault_L22 (f + 1) s (k : Int) = if v = 0 then some ((k : Int), s') else fX0_fault_L22 f s' ((k + 1 : Nat) : Int) := by
  rw [fX0_fault_L22_s]
  unfold fX0_fault_b22 fX0_fault_b75 fX0_fault_b69
  rw [if_neg (by rw [h.1]; omega), if_neg (by rw [h12]; decide), gd_t (by omega), h.at hk, e, bd_s, wr_id (by omega) (by omega)]
  rfl
theorem flt_i {s : Sg} {f k : Nat} (h : Pg0 s P) (hl : P.length ≤ 84) (hk : k < P.length) (h12 : gI s 12 ≠ -1) {v : Int} {s' : Sg} (e : fX0_isInstanceSign s (k : Int) (pl P k) = some (v, s')) : fX0_fault_L22 (f + 1) s (k : Int) = if v = 0 then some ((k : Int), s') else fX0_fault_L22 f s' ((k + 1 : Nat) : Int) := by
  rw [fX0_fault_L22_s]
  unfold fX0_fault_b22 fX0_fault_b75 fX0_fault_b69
  rw [if_neg (by rw [h.1]; omega), if_pos (by exact h12), gd_t (by omega), h.at hk, e, bd_s, wr_id (by omega) (by omega)]
  rfl
/-- the sign that ends a class -/
theorem cs_end {s : Sg} {C H k : Nat} {c : Int} (S : CS s C H) (hH : 0 < H) (hC : C < 4) (hH3 : H < 5) (hk : k < 84) (hc : (c = 44 ∧ C < 3) ∨ c = 59) : ∃ s', fX0_isClassSign s (k : Int) c = some (1, s') ∧ keepS LF s s' ∧ gI s' 10 = ((C + 1 : Nat) : Int) ∧ gI s' 11 = 0 ∧ gI s' 12 = (if c = 59 then (k : Int) else -1) ∧ gI s' 13 = 0 := by
  obtain ⟨h10, h11, h12, h13⟩ := S
  unfold fX0_isClassSign fX0_isClassSign_b21 fX0_isClassSign_b27 fX0_isClassSign_b54
  rw [if_neg (by rw [h11]; omega)]
  have e10 : wr (gI s 10 + 1) = ((C + 1 : Nat) : Int) := by rw [h10, wr_id (by omega) (by omega)]; rfl
  have kp : ∀ v : Int, keepS LF s (sI (sI (sI s 10 (wr (gI s 10 + 1))) 11 0) 12 v) := fun v => ((keepI _ s (by decide) _).sI (by decide) _).sI (by decide) _
  rcases hc with ⟨q, q2⟩ | q
  · rw [if_neg (by simpa using q), if_pos (by rw [h10]; omega), if_pos (by omega), if_neg (by omega)]
    exact ⟨_, rfl, kp _, by rw [← e10]; rfl, rfl, rfl, h13⟩
  · rw [if_pos (by omega), if_neg (by simpa using q), if_neg (by simpa using q), if_pos q]
    exact ⟨_, rfl, kp _, by rw [← e10]; rfl, rfl, rfl, h13⟩
/-- a sign that ends no class -/
theorem cs_mid {s : Sg} {C H k : Nat} {c : Int} (S : CS s C H) (hp : Pg0 s P) (hk1 : k ≤ P.length) (hr : ∀ j, j < P.length → 32 ≤ pl P j ∧ pl P j ≤ 126) (hC : C < 4) (hH3 : H < 3) (hk : k < 84) (hc0 : 32 ≤ c ∧ c ≤ 126) (hk0 : 0 < H → 0 < k) (hc : 0 < H → ¬ ((c = 44 ∧ C < 3) ∨ c = 59)) :
    ∃ s', fX0_isClassSign s (k : Int) c = some (bI (if c = 45 then decide (H = 0) else if H = 0 then decide (48 ≤ c ∧ c < 48 + (C : Int)) else if H = 1 then decide (pl P (k - 1) + 1 ≤ c ∧ c < 48 + (C : Int)) && decide (pl P (k - 1) ≠ 45) else false), s') ∧ keepS LF s s' ∧ CS s' C (if c = 45 then H + 2 else H + 1) := by
  obtain ⟨h10, h11, h12, h13⟩ := S
  have b59 : fX0_isClassSign s (k : Int) c = fX0_isClassSign_b59 s (k : Int) c := by
    unfold fX0_isClassSign fX0_isClassSign_b21
    by_cases H0 : H = 0
    · rw [if_pos (by rw [h11]; omega)]
    · have hc := hc (by omega)
      rw [if_neg (by rw [h11]; omega)]
      by_cases q : c = 44
      · rw [if_neg (by simpa using q), if_neg (by rw [h10]; omega), if_pos (by omega)]
      · rw [if_pos q, if_pos (fun w => hc (Or.inr w))]
  rw [b59]
  unfold fX0_isClassSign_b59
  have e11 : wr (gI s 11 + 1) = ((H + 1 : Nat) : Int) := by rw [h11, wr_id (by omega) (by omega)]; rfl
  rw [e11]
  have g11 : gI (sI s 11 ((H + 1 : Nat) : Int)) 11 = ((H + 1 : Nat) : Int) := by rw [gI_sI, if_pos rfl]
  have g10 : gI (sI s 11 ((H + 1 : Nat) : Int)) 10 = (C : Int) := h10
  have k1 : keepS LF s (sI s 11 ((H + 1 : Nat) : Int)) := keepI _ s (by decide) _
  by_cases c45 : c = 45
  · have e12 : wr (gI (sI s 11 ((H + 1 : Nat) : Int)) 11 + 1) = ((H + 2 : Nat) : Int) := by rw [g11, wr_id (by omega) (by omega)]; omega
    have g12 : gI (sI (sI s 11 ((H + 1 : Nat) : Int)) 11 ((H + 2 : Nat) : Int)) 11 = ((H + 2 : Nat) : Int) := by rw [gI_sI, if_pos rfl]
    rw [if_neg (by simpa using c45), e12, g12, if_pos c45, if_pos c45]
    unfold fX0_isClassSign_b98
    refine ⟨sI (sI s 11 ((H + 1 : Nat) : Int)) 11 ((H + 2 : Nat) : Int), ?_, k1.sI (by decide) _, h10, g12, h12, h13⟩
    by_cases H0 : H = 0
    · rw [if_neg (by omega), gd_t (by simp), decide_eq_true H0]; rfl
    · rw [if_pos (by omega), gd_t (by simp), decide_eq_false H0]; rfl
  · rw [if_pos c45, g11, if_neg c45, if_neg c45]
    refine ⟨sI s 11 ((H + 1 : Nat) : Int), ?_, k1, h10, g11, h12, h13⟩
    unfold fX0_isClassSign_b134 fX0_isClassSign_b171 fX0_isClassSign_b175 fX0_isClassSign_b176
    have b134 : ∀ lo : Int, -1000 < lo → lo < 1000 → (bd (fX0_isIn c lo (wr (wr (48 + gI (sI s 11 ((H + 1 : Nat) : Int)) 10) - 1))) fun p1 => if p1 = 0 then gd ((0 : Int) = 0 ∨ (0 : Int) = 1) (some ((0 : Int), sI s 11 ((H + 1 : Nat) : Int))) else if gI (sI s 11 ((H + 1 : Nat) : Int)) 11 = 1 then gd ((1 : Int) = 0 ∨ (1 : Int) = 1) (some ((1 : Int), sI s 11 ((H + 1 : Nat) : Int))) else gd (inb (wr ((k : Int) - 1)) 84) (if gA (sI s 11 ((H + 1 : Nat) : Int)) 8 (wr ((k : Int) - 1)) = 45 then gd ((0 : Int) = 0 ∨ (0 : Int) = 1) (some ((0 : Int), sI s 11 ((H + 1 : Nat) : Int))) else gd ((1 : Int) = 0 ∨ (1 : Int) = 1) (some ((1 : Int), sI s 11 ((H + 1 : Nat) : Int))))) = some (bI (decide (lo ≤ c ∧ c < 48 + (C : Int)) && (decide (H = 0) || decide (pl P (k - 1) ≠ 45))), sI s 11 ((H + 1 : Nat) : Int)) := by
      intro lo l1 l2
      rw [g10, wr_id (x := 48 + (C : Int)) (by omega) (by omega), wr_id (x := 48 + (C : Int) - 1) (by omega) (by omega), p0_isIn, bd_s]
      by_cases q : lo ≤ c ∧ c < 48 + (C : Int)
      · rw [decide_eq_true (show lo ≤ c ∧ c ≤ 48 + (C : Int) - 1 by omega), if_neg (show ¬ bI true = 0 by decide), g11, decide_eq_true q]
        by_cases H0 : H = 0
        · rw [if_pos (by omega), gd_t (by simp), decide_eq_true H0]; rfl
        · rw [if_neg (by omega), decide_eq_false H0, wr_id (by omega) (by omega), gd_t (by omega)]
          have hk0 := hk0 (by omega)
          have ea : gA (sI s 11 ((H + 1 : Nat) : Int)) 8 ((k : Int) - 1) = pl P (k - 1) := by
            rw [gA_sI, show ((k : Int) - 1) = ((k - 1 : Nat) : Int) by omega]
            exact hp.at (by omega)
          rw [ea]
          by_cases q2 : pl P (k - 1) = 45
          · rw [if_pos q2, gd_t (by simp), decide_eq_false (by simpa using q2)]; rfl
          · rw [if_neg q2, gd_t (by simp), decide_eq_true q2]; rfl
      · rw [decide_eq_false (show ¬ (lo ≤ c ∧ c ≤ 48 + (C : Int) - 1) by omega), if_pos (show bI false = 0 from rfl), gd_t (by simp), decide_eq_false q]; rfl
    have Hc : H = 0 ∨ H = 1 ∨ H = 2 := by omega
    rcases Hc with rfl | rfl | rfl
    · rw [if_neg (by omega), if_neg (by simp), if_pos rfl]
      refine (b134 48 (by omega) (by omega)).trans ?_
      simp
    · have hk0 := hk0 (by omega)
      have ea : gA (sI s 11 ((1 + 1 : Nat) : Int)) 8 ((k : Int) - 1) = pl P (k - 1) := by
        rw [gA_sI, show ((k : Int) - 1) = ((k - 1 : Nat) : Int) by omega]
        exact hp.at (by omega)
      have hr1 := hr (k - 1) (by omega)
      rw [if_neg (by omega), if_pos (by simp), wr_id (x := (k : Int) - 1) (by omega) (by omega), gd_t (by omega), ea, wr_id (x := pl P (k - 1) + 1) (by omega) (by omega), if_neg (show ¬ (1 : Nat) = 0 by decide), if_pos (show (1 : Nat) = 1 from rfl)]
      have := b134 (pl P (k - 1) + 1) (by omega) (by omega)
      rw [wr_id (x := (k : Int) - 1) (by omega) (by omega), ea] at this
      refine this.trans ?_
      simp
    · rw [if_pos (by omega), gd_t (by simp), if_neg (show ¬ (2 : Nat) = 0 by decide), if_neg (show ¬ (2 : Nat) = 1 by decide)]
      rfl
end FLT

set_option maxRecDepth 100000
/-! PURE: class DictProof: the classes of a page are looked through -/
def accC (P : List Int) (C H k : Nat) : Bool := if pl P k = 45 then decide (H = 0) else if H = 0 then decide (48 ≤ pl P k ∧ pl P k < 48 + (C : Int)) else if H = 1 then decide (pl P (k - 1) + 1 ≤ pl P k ∧ pl P k < 48 + (C : Int)) && decide (pl P (k - 1) ≠ 45) else false
section FLT
variable {P : List Int}
/-- a sign in the middle of a class: one step -/
theorem flt_mid (hl : P.length ≤ 84) (hr : ∀ j, j < P.length → 32 ≤ pl P j ∧ pl P j ≤ 126) {s : Sg} {C H k f : Nat} (S : CS s C H) (hp : Pg0 s P) (hC : C < 4) (hH : H < 3) (hk : k < P.length) (hk0 : 0 < H → 0 < k) (hc : 0 < H → ¬ ((pl P k = 44 ∧ C < 3) ∨ pl P k = 59)) :
    ∃ s', keepS LF s s' ∧ CS s' C (if pl P k = 45 then H + 2 else H + 1) ∧ fX0_fault_L22 (f + 1) s (k : Int) = if accC P C H k = true then fX0_fault_L22 f s' ((k + 1 : Nat) : Int) else some ((k : Int), s') := by
  obtain ⟨s', e, kp, S'⟩ := cs_mid (k := k) (c := pl P k) S hp (by omega) hr hC hH (by omega) (hr k hk) hk0 hc
  refine ⟨s', kp, S', ?_⟩
  rw [flt_c hp hl hk S.2.2.1 e]
  change (if bI (accC P C H k) = 0 then _ else _) = _
  cases accC P C H k with
  | true => rw [if_neg (show ¬ bI true = 0 by decide), if_pos rfl]
  | false => rw [if_pos (show bI false = 0 from rfl), if_neg (by decide)]
theorem flt_class (hl : P.length ≤ 84) (hr : ∀ j, j < P.length → 32 ≤ pl P j ∧ pl P j ≤ 126) {s : Sg} {C k f : Nat} (S : CS s C 0) (hp : Pg0 s P) (hC : C < 4) (hk : k ≤ P.length) (hf : P.length + 2 ≤ f + k) :
    ((rdC P C k).2.1 = false → ∃ s', fX0_fault_L22 f s (k : Int) = some (((rdC P C k).1 : Int), s') ∧ keepS LF s s' ∧ gI s' 12 = -1) ∧
    ((rdC P C k).2.1 = true → (rdC P C k).1 ≤ P.length ∧ k < (rdC P C k).1 ∧ ∃ s' f' H, fX0_fault_L22 f s (k : Int) = fX0_fault_L22 f' s' (((rdC P C k).1 : Nat) : Int) ∧ keepS LF s s' ∧ CS s' C H ∧ 0 < H ∧ H < 3 ∧ P.length + 2 ≤ f' + (rdC P C k).1 ∧ ((rdC P C k).1 < P.length → ¬ ((pl P (rdC P C k).1 = 44 ∧ C < 3) ∨ pl P (rdC P C k).1 = 59) → accC P C H (rdC P C k).1 = false)) := by
  have hp8 : ∀ s', keepS LF s s' → Pg0 s' P := fun s' h => hp.keep h (by decide) (by decide)
  obtain ⟨f, rfl⟩ : ∃ m, f = m + 1 := ⟨f - 1, by omega⟩
  by_cases hkl : k < P.length
  · obtain ⟨s1, kp1, S1, e1⟩ := flt_mid (f := f) hl hr S hp hC (by omega) hkl (by omega) (by omega)
    unfold rdC
    by_cases c45 : pl P k = 45
    · rw [if_pos c45]
      refine ⟨(fun q => by cases q), fun _ => ⟨by omega, by omega, s1, f, 2, ?_, kp1, by rw [if_pos c45] at S1; exact S1, by omega, by omega, by simp only; omega, fun _ _ => ?_⟩⟩
      · rw [e1, if_pos (by unfold accC; rw [if_pos c45]; rfl)]
      · unfold accC
        split
        · rfl
        · rw [if_neg (by decide), if_neg (by decide)]
    · rw [if_neg c45]
      rw [if_neg c45] at S1
      by_cases cd : 0 ≤ pl P k - 48 ∧ pl P k - 48 < (C : Int)
      · have a1 : accC P C 0 k = true := by unfold accC; rw [if_neg c45, if_pos rfl]; exact decide_eq_true (by omega)
        rw [if_neg (by simpa using cd)]
        rw [if_pos a1] at e1
        by_cases cd2 : 0 ≤ pl P (k + 1) - 48 ∧ pl P (k + 1) - 48 ≤ 9
        · rw [if_neg (by simpa using cd2)]
          have hk1 : k + 1 < P.length := by
            rcases Nat.lt_or_ge (k + 1) P.length with w | w
            · exact w
            · rw [pl_end w] at cd2; omega
          obtain ⟨f, rfl⟩ : ∃ m, f = m + 1 := ⟨f - 1, by omega⟩
          obtain ⟨s2, kp2, S2, e2⟩ := flt_mid (f := f) hl hr S1 (hp8 _ kp1) hC (by omega) hk1 (by omega) (by omega)
          have a2 : accC P C (0 + 1) (k + 1) = decide (pl P k - 48 < pl P (k + 1) - 48 ∧ pl P (k + 1) - 48 < (C : Int)) := by
            unfold accC
            rw [if_neg (by omega), if_neg (by decide), if_pos (by decide), Nat.add_sub_cancel, decide_eq_true c45, Bool.and_true]
            exact decide_eq_decide.mpr (by omega)
          by_cases c3 : pl P k - 48 < pl P (k + 1) - 48 ∧ pl P (k + 1) - 48 < (C : Int)
          · rw [if_neg (by simpa using c3)]
            rw [decide_eq_true c3] at a2
            rw [if_pos a2] at e2
            rw [if_neg (by omega)] at S2
            refine ⟨(fun q => by cases q), fun _ => ⟨by simp only; omega, by simp only; omega, s2, f, 2, e1.trans e2, kp1.trans kp2, S2, by omega, by omega, by simp only; omega, fun _ _ => ?_⟩⟩
            unfold accC
            split
            · rfl
            · rw [if_neg (by decide), if_neg (by decide)]
          · rw [if_pos (by simpa using c3)]
            rw [decide_eq_false c3] at a2
            rw [if_neg (by rw [a2]; decide)] at e2
            exact ⟨fun _ => ⟨s2, e1.trans e2, kp1.trans kp2, S2.2.2.1⟩, (fun q => by cases q)⟩
        · rw [if_pos (by simpa using cd2)]
          refine ⟨(fun q => by cases q), fun _ => ⟨by simp only; omega, by simp only; omega, s1, f, 1, e1, kp1, S1, by omega, by omega, by simp only; omega, fun _ _ => ?_⟩⟩
          simp only
          unfold accC
          split
          · rfl
          · rw [if_neg (by decide), if_pos rfl, Nat.add_sub_cancel, decide_eq_false (show ¬ (pl P k + 1 ≤ pl P (k + 1) ∧ pl P (k + 1) < 48 + (C : Int)) by omega)]
            rfl
      · rw [if_pos (by simpa using cd)]
        have a1 : accC P C 0 k = false := by unfold accC; rw [if_neg c45, if_pos rfl]; exact decide_eq_false (by omega)
        rw [if_neg (by rw [a1]; decide)] at e1
        exact ⟨fun _ => ⟨s1, e1, kp1, S1.2.2.1⟩, (fun q => by cases q)⟩
  · have e0 := pl_end (P := P) (k := k) (by omega)
    have er : rdC P C k = (k, false, 0) := by
      unfold rdC
      rw [e0, if_neg (by decide), if_pos (by omega)]
    rw [er]
    refine ⟨fun _ => ⟨s, flt_end hp (by omega), keepS.refl _ _, S.2.2.1⟩, (fun q => by cases q)⟩
/-- all classes -/
theorem flt_classes (hl : P.length ≤ 84) (hr : ∀ j, j < P.length → 32 ≤ pl P j ∧ pl P j ≤ 126) : ∀ (m k : Nat) (L : List Nat) (s : Sg) (f : Nat), m + L.length = 4 → 0 < m → CS s L.length 0 → Pg0 s P → k ≤ P.length → P.length + 2 ≤ f + k →
    (((rdCs P m k L).2.1 = false ∨ pl P (rdCs P m k L).1 ≠ 59) → ∃ s', fX0_fault_L22 f s (k : Int) = some (((rdCs P m k L).1 : Int), s') ∧ keepS LF s s' ∧ gI s' 12 = -1) ∧
    ((rdCs P m k L).2.1 = true → pl P (rdCs P m k L).1 = 59 → (rdCs P m k L).1 < P.length ∧ ∃ s' f', fX0_fault_L22 f s (k : Int) = fX0_fault_L22 f' s' (((rdCs P m k L).1 + 1 : Nat) : Int) ∧ keepS LF s s' ∧ gI s' 10 = ((rdCs P m k L).2.2.length : Int) ∧ gI s' 11 = 0 ∧ gI s' 12 = ((rdCs P m k L).1 : Int) ∧ gI s' 13 = 0 ∧ (rdCs P m k L).2.2.length ≤ 4 ∧ L.length < (rdCs P m k L).2.2.length ∧ P.length + 2 ≤ f' + ((rdCs P m k L).1 + 1)) := by
  intro m
  induction m with
  | zero => intro k L s f _ h; omega
  | succ m ih =>
    intro k L s f hm _ S hp hk hf
    obtain ⟨c1, c2⟩ := flt_class (f := f) hl hr S hp (by omega) hk hf
    simp only [rdCs]
    cases ok : (rdC P L.length k).2.1 with
    | false =>
      rw [if_pos rfl]
      obtain ⟨s', e, kp, e12⟩ := c1 ok
      exact ⟨fun _ => ⟨s', e, kp, e12⟩, (fun q => by cases q)⟩
    | true =>
      rw [if_neg (by decide)]
      obtain ⟨le, lt, s1, f1, H, e1, kp1, S1, H0, H3, hf1, acc⟩ := c2 ok
      generalize hk' : (rdC P L.length k).1 = k' at *
      have hp1 : Pg0 s1 P := hp.keep kp1 (by decide) (by decide)
      obtain ⟨f1, rfl⟩ : ∃ x, f1 = x + 1 := ⟨f1 - 1, by omega⟩
      by_cases cc : L.length + 1 < 4 ∧ pl P k' = 44
      · rw [if_pos cc]
        have hkl : k' < P.length := by
          rcases Nat.lt_or_ge k' P.length with w | w
          · exact w
          · rw [pl_end w] at cc; omega
        obtain ⟨s2, e2, kp2, g10, g11, g12, g13⟩ := cs_end (k := k') (c := pl P k') S1 H0 (by omega) (by omega) (by omega) (Or.inl ⟨cc.2, by omega⟩)
        have st := flt_c (f := f1) hp1 hl hkl S1.2.2.1 e2
        rw [if_neg (by decide)] at st
        rw [if_neg (by omega)] at g12
        obtain ⟨d1, d2⟩ := ih (k' + 1) (L ++ [(rdC P L.length k).2.2]) s2 f1 (by simp; omega) (by omega) ⟨by rw [g10]; simp, g11, g12, g13⟩ (hp1.keep kp2 (by decide) (by decide)) (by omega) (by omega)
        refine ⟨fun q => ?_, fun q1 q2 => ?_⟩
        · obtain ⟨s', e, kp, e12⟩ := d1 q
          exact ⟨s', (e1.trans st).trans e, kp1.trans (kp2.trans kp), e12⟩
        · obtain ⟨z1, s', f', e, kp, z2, z3, z4, z5, z6, z7, z8⟩ := d2 q1 q2
          refine ⟨z1, s', f', (e1.trans st).trans e, kp1.trans (kp2.trans kp), z2, z3, z4, z5, z6, ?_, z8⟩
          rw [List.length_append] at z7
          omega
      · rw [if_neg cc]
        refine ⟨fun q => ?_, fun _ q2 => ?_⟩
        · have n59 : pl P k' ≠ 59 := by
            rcases q with q | q
            · cases q
            · exact q
          by_cases hkl : k' < P.length
          · have ne : ¬ ((pl P k' = 44 ∧ L.length < 3) ∨ pl P k' = 59) := by
              rintro (⟨x, y⟩ | x)
              · exact cc ⟨by omega, x⟩
              · exact n59 x
            obtain ⟨s2, kp2, S2, e2⟩ := flt_mid (f := f1) hl hr S1 hp1 (by omega) H3 hkl (by omega) (fun _ => ne)
            rw [if_neg (by rw [acc hkl ne]; decide)] at e2
            exact ⟨s2, e1.trans e2, kp1.trans kp2, S2.2.2.1⟩
          · have : k' = P.length := by omega
            exact ⟨s1, e1.trans (flt_end hp1 (by omega)), kp1, S1.2.2.1⟩
        · have q2 : pl P k' = 59 := q2
          have hkl : k' < P.length := by
            rcases Nat.lt_or_ge k' P.length with w | w
            · exact w
            · rw [pl_end w] at q2; omega
          obtain ⟨s2, e2, kp2, g10, g11, g12, g13⟩ := cs_end (k := k') (c := pl P k') S1 H0 (by omega) (by omega) (by omega) (Or.inr q2)
          have st := flt_c (f := f1) hp1 hl hkl S1.2.2.1 e2
          rw [if_neg (by decide)] at st
          rw [if_pos q2] at g12
          exact ⟨hkl, s2, f1, e1.trans st, kp1.trans kp2, by rw [g10]; simp, g11, g12, g13, by simp; omega, by simp, by omega⟩
end FLT

set_option maxRecDepth 100000
/-! PURE: class DictProof: the instances of a page are looked through -/
/-- classes, the ";", instances begun; letters of this one's sign, what its head lacks, its size, its variables, letters of conditions -/
def IS (s : Sg) (C E m H la sz va cd : Nat) : Prop := gI s 10 = (C : Int) ∧ gI s 11 = (H : Int) ∧ gI s 12 = (E : Int) ∧ gI s 13 = (m : Int) ∧ gI s 14 = (la : Int) ∧ gI s 15 = (sz : Int) ∧ gI s 16 = (va : Int) ∧ gI s 17 = (cd : Int)
theorem p0_kindOf (c : Int) : fX0_kindOf c = some (kdB c) := by
  unfold fX0_kindOf kdB
  split
  · rfl
  · split
    · rfl
    · split
      · rfl
      · split
        · rfl
        · split <;> rfl
theorem p0_typeSign (c : Int) : fX0_isTypeSign c = some (bI (decide (wnt c ≠ -1))) := by
  unfold fX0_isTypeSign fX0_isTypeSign_b26 fX0_isTypeSign_b31 wnt
  by_cases h1 : c = 105
  · rw [if_pos h1, gd_t (by simp)]; subst h1; rfl
  · rw [if_neg h1]
    by_cases h2 : c = 98
    · rw [if_pos h2, gd_t (by simp)]; subst h2; rfl
    · rw [if_neg h2, p0_partsOf, bd_s]
      by_cases h3 : c = 108
      · subst h3; rfl
      · by_cases h4 : c = 112
        · subst h4; rfl
        · rw [if_neg h3, if_neg h4, if_neg (show ¬ (0 : Int) < 0 by decide), p0_isV, bd_s]
          by_cases h5 : c = 120
          · subst h5; rfl
          · by_cases h6 : c = 121
            · subst h6; rfl
            · rw [(b01_0 (p := c = 120 ∨ c = 121)).mpr (by rintro (q | q); exact h5 q; exact h6 q), if_pos rfl, gd_t (by simp), if_neg h2, if_neg h1, if_neg h3, if_neg h4, if_neg h5, if_neg h6]
              rfl
theorem wnt_parts {c : Int} (h : wnt c ≠ -1) : (if c = 108 then (1 : Int) else if c = 112 then 2 else 0) = wnt c ∧ 0 ≤ wnt c ∧ wnt c ≤ 2 := by
  unfold wnt at *
  by_cases h2 : c = 98
  · subst h2; decide
  · by_cases h1 : c = 105
    · subst h1; decide
    · by_cases h3 : c = 108
      · subst h3; decide
      · by_cases h4 : c = 112
        · subst h4; decide
        · by_cases h5 : c = 120
          · subst h5; decide
          · by_cases h6 : c = 121
            · subst h6; decide
            · rw [if_neg h2, if_neg h1, if_neg h3, if_neg h4, if_neg h5, if_neg h6] at h; exact absurd rfl h
/-- the variables' bits with one letter more -/
def vaU (va : Nat) (c : Int) : Nat := if c = 120 then va ||| 1 else if c = 121 then va ||| 2 else va
theorem vaU_lt {va : Nat} {c : Int} (h : va < 4) : vaU va c < 4 := by
  unfold vaU
  split
  · exact Nat.or_lt_two_pow (n := 2) h (by omega)
  · split
    · exact Nat.or_lt_two_pow (n := 2) h (by omega)
    · exact h
theorem vaU_bit {va : Nat} {c : Int} {v : Nat} (hv : v < 2) : (vaU va c).testBit v = (va.testBit v || decide (c = 120 + (v : Int))) := by
  unfold vaU
  have t10 : Nat.testBit 1 0 = true := by decide
  have t11 : Nat.testBit 1 1 = false := by decide
  have t20 : Nat.testBit 2 0 = false := by decide
  have t21 : Nat.testBit 2 1 = true := by decide
  have hv' : v = 0 ∨ v = 1 := by omega
  by_cases h1 : c = 120
  · rw [if_pos h1, Nat.testBit_or]
    rcases hv' with rfl | rfl
    · rw [t10, decide_eq_true (by omega)]
    · rw [t11, decide_eq_false (by omega)]
  · rw [if_neg h1]
    by_cases h2 : c = 121
    · rw [if_pos h2, Nat.testBit_or]
      rcases hv' with rfl | rfl
      · rw [t20, decide_eq_false (by omega)]
      · rw [t21, decide_eq_true (by omega)]
    · rw [if_neg h2]
      have : ¬ c = 120 + (v : Int) := by rcases hv' with rfl | rfl <;> omega
      rw [decide_eq_false this, Bool.or_false]
section FLT
variable {P : List Int}
theorem hd_sign {s : Sg} {C E m la sz va cd : Nat} {c : Int} (S : IS s C E m 2 la sz va cd) (hla : 0 < la ∧ la < 10) (hsz : sz < 10) (hva : va < 4) :
    ∃ s', fX0_isHeadSign s c = some (bI (decide (wnt c ≠ -1 ∧ (sz : Int) + la + wnt c ≤ 5)), s') ∧ keepS LF s s' ∧ (∀ i, gA s' 18 i = gA s 18 i) ∧ gI s' 12 = (E : Int) ∧ (wnt c ≠ -1 → IS s' C E m 2 (la + (wnt c).toNat - 1) (sz + 1) (vaU va c) cd) := by
  obtain ⟨h10, h11, h12, h13, h14, h15, h16, h17⟩ := S
  unfold fX0_isHeadSign
  have e15 : wr (gI s 15 + 1) = ((sz + 1 : Nat) : Int) := by rw [h15, wr_id (by omega) (by omega)]; rfl
  rw [p0_partsOf, bd_s, p0_isV, bd_s, e15]
  have pr : ∃ p : Int, (if c = 108 then (1 : Int) else if c = 112 then 2 else 0) = p ∧ 0 ≤ p ∧ p ≤ 2 := by
    refine ⟨_, rfl, ?_⟩
    split
    · decide
    · split <;> decide
  obtain ⟨p, ep, p0, p2⟩ := pr
  rw [ep]
  have e14 : wr (gI (sI s 15 ((sz + 1 : Nat) : Int)) 14 + wr (p - 1)) = (la : Int) + p - 1 := by
    rw [show gI (sI s 15 ((sz + 1 : Nat) : Int)) 14 = (la : Int) from h14, wr_id (x := p - 1) (by omega) (by omega), wr_id (by omega) (by omega)]
    omega
  rw [e14]
  have e16 : gI (sI (sI s 15 ((sz + 1 : Nat) : Int)) 14 ((la : Int) + p - 1)) 16 = (va : Int) := h16
  rw [e16]
  have b47 : ∀ k2 : Int, ior (va : Int) k2 = ((vaU va c : Nat) : Int) → ∃ s', fX0_isHeadSign_b47 (sI (sI s 15 ((sz + 1 : Nat) : Int)) 14 ((la : Int) + p - 1)) c (va : Int) k2 = some (bI (decide (wnt c ≠ -1 ∧ (sz : Int) + la + wnt c ≤ 5)), s') ∧ keepS LF s s' ∧ (∀ i, gA s' 18 i = gA s 18 i) ∧ gI s' 12 = (E : Int) ∧ (wnt c ≠ -1 → IS s' C E m 2 (la + (wnt c).toNat - 1) (sz + 1) (vaU va c) cd) := by
    intro k2 hk2
    unfold fX0_isHeadSign_b47 fX0_isHeadSign_b75 fX0_isHeadSign_b76
    rw [hk2, p0_typeSign, bd_s]
    refine ⟨sI (sI (sI s 15 ((sz + 1 : Nat) : Int)) 14 ((la : Int) + p - 1)) 16 ((vaU va c : Nat) : Int), ?_, ((keepI _ s (by decide) _).sI (by decide) _).sI (by decide) _, fun _ => rfl, h12, fun hw => ?_⟩
    · have g1 : gI (sI (sI (sI s 15 ((sz + 1 : Nat) : Int)) 14 ((la : Int) + p - 1)) 16 ((vaU va c : Nat) : Int)) 15 = ((sz + 1 : Nat) : Int) := rfl
      have g2 : gI (sI (sI (sI s 15 ((sz + 1 : Nat) : Int)) 14 ((la : Int) + p - 1)) 16 ((vaU va c : Nat) : Int)) 14 = (la : Int) + p - 1 := rfl
      rw [g1, g2, wr_id (by omega) (by omega)]
      by_cases hw : wnt c ≠ -1
      · obtain ⟨ew, w0, w2⟩ := wnt_parts hw
        rw [ep] at ew
        rw [decide_eq_true hw, if_neg (show ¬ bI true = 0 by decide)]
        by_cases h5 : (sz : Int) + la + wnt c ≤ 5
        · rw [if_neg (by omega), gd_t (by simp), decide_eq_true ⟨hw, h5⟩]; rfl
        · rw [if_pos (by omega), gd_t (by simp), decide_eq_false (fun q => h5 q.2)]; rfl
      · rw [decide_eq_false hw, if_pos (show bI false = 0 from rfl), gd_t (by simp), decide_eq_false (fun q => hw q.1)]; rfl
    · obtain ⟨ew, w0, w2⟩ := wnt_parts hw
      rw [ep] at ew
      refine ⟨h10, h11, h12, h13, ?_, rfl, rfl, h17⟩
      show (la : Int) + p - 1 = ((la + (wnt c).toNat - 1 : Nat) : Int)
      omega
  by_cases hx : c = 120 ∨ c = 121
  · rw [(b01_1 (p := c = 120 ∨ c = 121)).mpr hx, if_neg (by decide)]
    refine b47 _ ?_
    unfold vaU
    rcases hx with q | q
    · rw [if_pos q, q, wr_id (by omega) (by omega), show (120 : Int) - 120 = ((0 : Nat) : Int) by decide, p_one_shl (by omega), p_ior (by omega) (by decide)]
    · rw [if_neg (by omega), if_pos q, q, wr_id (by omega) (by omega), show (121 : Int) - 120 = ((1 : Nat) : Int) by decide, p_one_shl (by omega), p_ior (by omega) (by decide)]
  · rw [(b01_0 (p := c = 120 ∨ c = 121)).mpr hx, if_pos rfl]
    refine b47 _ ?_
    unfold vaU
    rw [if_neg (fun q => hx (Or.inl q)), if_neg (fun q => hx (Or.inr q)), show (0 : Int) = ((0 : Nat) : Int) from rfl, p_ior (by omega) (by omega), Nat.or_zero]
/-- a head is looked through -/
theorem flt_head (hl : P.length ≤ 84) : ∀ (g k sz la va : Nat) (s : Sg) (f C E m cd : Nat), g + sz = 6 → sz + la ≤ 5 → IS s C E m 2 la sz va cd → va < 4 → Pg0 s P → k ≤ P.length → P.length + 2 ≤ f + k →
    ((scS P 5 g k sz la).2 = false → ∃ s', fX0_fault_L22 f s (k : Int) = some (((scS P 5 g k sz la).1 : Int), s') ∧ keepS LF s s' ∧ gI s' 12 = (E : Int) ∧ ((scS P 5 g k sz la).1 < P.length ∨ ((scS P 5 g k sz la).1 = P.length ∧ 0 < gI s' 14))) ∧
    ((scS P 5 g k sz la).2 = true → k ≤ (scS P 5 g k sz la).1 ∧ (scS P 5 g k sz la).1 ≤ P.length ∧ ∃ s' f' sz' va', fX0_fault_L22 f s (k : Int) = fX0_fault_L22 f' s' (((scS P 5 g k sz la).1 : Nat) : Int) ∧ keepS LF s s' ∧ (∀ i, gA s' 18 i = gA s 18 i) ∧ IS s' C E m 2 0 sz' va' cd ∧ va' < 4 ∧ (∀ v, v < 2 → va'.testBit v = (va.testBit v || anyN (fun j => decide (pl P (k + j) = 120 + (v : Int))) ((scS P 5 g k sz la).1 - k))) ∧ P.length + 2 ≤ f' + (scS P 5 g k sz la).1) := by
  intro g
  induction g with
  | zero => intro k sz la va s f C E m cd h1 h2; omega
  | succ g ih =>
    intro k sz la va s f C E m cd h1 h2 S hva hp hk hf
    simp only [scS]
    by_cases la0 : la = 0
    · rw [if_pos la0]
      refine ⟨(fun q => by cases q), fun _ => ⟨Nat.le_refl _, hk, s, f, sz, va, rfl, keepS.refl _ _, fun _ => rfl, by rw [la0] at S; exact S, hva, fun v hv => ?_, hf⟩⟩
      rw [Nat.sub_self]
      simp [anyN]
    · rw [if_neg la0]
      obtain ⟨f, rfl⟩ : ∃ x, f = x + 1 := ⟨f - 1, by omega⟩
      by_cases hkl : k < P.length
      · obtain ⟨s1, e1, kp1, g18, g12, S1⟩ := hd_sign (c := pl P k) S ⟨by omega, by omega⟩ (by omega) hva
        obtain ⟨h10, h11, h12, h13, h14, h15, h16, h17⟩ := S
        have ei : fX0_isInstanceSign s (k : Int) (pl P k) = some (bI (decide (wnt (pl P k) ≠ -1 ∧ (sz : Int) + la + wnt (pl P k) ≤ 5)), s1) := by
          unfold fX0_isInstanceSign
          rw [if_pos (by rw [h11]; decide), if_pos (by rw [h11]; decide), if_neg (by rw [h14]; omega), e1, bd_s]
        have st := flt_i (f := f) hp hl hkl (by rw [h12]; omega) ei
        by_cases bad : wnt (pl P k) = -1 ∨ ((5 : Nat) : Int) < (sz : Int) + la + wnt (pl P k)
        · rw [if_pos bad]
          rw [decide_eq_false (by rintro ⟨q1, q2⟩; rcases bad with b | b; exact q1 b; omega), if_pos (show bI false = 0 from rfl)] at st
          exact ⟨fun _ => ⟨s1, st, kp1, g12, Or.inl hkl⟩, (fun q => by cases q)⟩
        · rw [if_neg bad]
          have w1 : wnt (pl P k) ≠ -1 := fun q => bad (Or.inl q)
          have w5 : (sz : Int) + la + wnt (pl P k) ≤ 5 := by
            rcases Int.lt_or_le 5 ((sz : Int) + la + wnt (pl P k)) with q | q
            · exact absurd (Or.inr q) bad
            · exact q
          obtain ⟨-, w0, w2⟩ := wnt_parts w1
          rw [decide_eq_true ⟨w1, w5⟩, if_neg (show ¬ bI true = 0 by decide)] at st
          obtain ⟨d1, d2⟩ := ih (k + 1) (sz + 1) (la + (wnt (pl P k)).toNat - 1) (vaU va (pl P k)) s1 f C E m cd (by omega) (by omega) (S1 w1) (vaU_lt hva) (hp.keep kp1 (by decide) (by decide)) (by omega) (by omega)
          refine ⟨fun q => ?_, fun q => ?_⟩
          · obtain ⟨s', e, kp, z1, z2⟩ := d1 q
            exact ⟨s', st.trans e, kp1.trans kp, z1, z2⟩
          · obtain ⟨z1, z2, s', f', sz', va', e, kp, z3, z4, z5, z6, z7⟩ := d2 q
            refine ⟨by omega, z2, s', f', sz', va', st.trans e, kp1.trans kp, fun i => (z3 i).trans (g18 i), z4, z5, fun v hv => ?_, z7⟩
            rw [z6 v hv, vaU_bit hv, Bool.or_assoc]
            congr 1
            generalize (scS P 5 g (k + 1) (sz + 1) (la + (wnt (pl P k)).toNat - 1)).1 = k' at *
            obtain ⟨n, rfl⟩ : ∃ n, k' = k + 1 + n := ⟨k' - (k + 1), by omega⟩
            rw [show k + 1 + n - (k + 1) = n by omega, show k + 1 + n - k = n + 1 by omega]
            rw [Bool.eq_iff_iff]
            simp only [Bool.or_eq_true, decide_eq_true_eq, anyN_iff]
            constructor
            · rintro (q | ⟨i, hi, q⟩)
              · exact ⟨0, by omega, q⟩
              · exact ⟨i + 1, by omega, by rw [show k + (i + 1) = k + 1 + i by omega]; exact q⟩
            · rintro ⟨i, hi, q⟩
              cases i with
              | zero => exact Or.inl q
              | succ i => exact Or.inr ⟨i, by omega, by rw [show k + 1 + i = k + (i + 1) by omega]; exact q⟩
      · have hkl' : k = P.length := by omega
        have e0 := pl_end (P := P) (k := k) (by omega)
        rw [e0, if_pos (Or.inl (by decide))]
        obtain ⟨h10, h11, h12, h13, h14, h15, h16, h17⟩ := S
        refine ⟨fun _ => ⟨s, flt_end hp (by omega), keepS.refl _ _, h12, Or.inr ⟨hkl', by rw [h14]; omega⟩⟩, (fun q => by cases q)⟩
end FLT

