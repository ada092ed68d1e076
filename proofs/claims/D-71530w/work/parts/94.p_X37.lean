/-! the pure laws: X37 X38 X39 X40 -/
set_option maxRecDepth 100000
/-! PURE: class DictProof: an instance is laid -/
theorem cg_get {x : Ist} {j : Nat} (h : j < (iC x).length) : (iC x)[j]? = some (cg x j) := by
  unfold cg
  rw [List.getD_eq_getElem?_getD, List.getElem?_eq_getElem h]; rfl
theorem p_layInstance {P : List Int} (hl : P.length ≤ 84) {s : Sg} {h k : hS} {F : Nat → Prop} {C i st e : Nat} {x : Ist} (hp : Pg0 s P) (hr : ∀ j, j < P.length → 32 ≤ pl P j ∧ pl P j ≤ 126) (K : Kp k h F) (hi : i < 6) (hst : gA s 18 (i : Int) = (st : Int)) (hs : st < P.length) (hx : rdI P C st = (e, true, x)) (hC : C ≤ 4) :
    ∃ s' h' k' a, fX0_layInstance s h (i : Int) (e : Int) = some (s', h') ∧ keepS [4, 19] s s' ∧ gQ s' 4 (i : Int) = some a ∧ (∀ j : Int, j ≠ (i : Int) → gQ s' 4 j = gQ s 4 j) ∧ ext k k' ∧ Kp k' h' F ∧ isI k' a i x ∧ ol h h' (3 + szT (iH x)) := by
  obtain ⟨eK, nK, eO, ⟨o0, o1⟩, k1, ep, ed⟩ := rdI_o hx
  obtain ⟨kd0, kd4⟩ := kdB_r nK
  obtain ⟨D, eD, e2, l2, dD⟩ := rdD_o P C (iH x) 2 k1 [] e (iC x) ed
  rw [List.nil_append] at eD
  subst eD
  have hs1 : st + 1 < P.length := by
    rcases Nat.lt_or_ge (st + 1) P.length with w | w
    · exact w
    · rw [pl_end w] at eO; omega
  have hst0 := hr (st + 1) hs1
  -- the object
  obtain ⟨h1, e1, N0, N1, N2, N3, N4, N5⟩ := p_madeI h (kd := iK x) (by rw [← eK]; exact ⟨kd0, kd4⟩)
  have kk : 0 ≤ iK x ∧ iK x ≤ 4 := by rw [← eK]; exact ⟨kd0, kd4⟩
  have hc : (iK x).toNat + 1 = 1 ∨ (iK x).toNat + 1 = 2 ∨ (iK x).toNat + 1 = 3 ∨ (iK x).toNat + 1 = 4 ∨ (iK x).toNat + 1 = 5 := by omega
  obtain ⟨h2, w2, a2, o2, s2⟩ := hW_at (P := [(1, 0), (2, 0), (3, 0), (4, 0), (5, 0)]) (v := vi (i : Int)) N0 (lk5 hc) (by simp)
  obtain ⟨h3, w3, a3, o3, s3⟩ := hW_at (P := [(1, 1), (2, 1), (3, 1), (4, 1), (5, 1)]) (v := vi (iO x)) a2 (lk5 hc) (by simp)
  have sz3 : h3.2 = h1.2 := s3.trans s2
  have O3 : ol h h3 3 := ⟨by rw [sz3, N4]; omega, fun b hb => by rw [o3 b (by omega), o2 b (by omega), N3 b hb], by rw [sz3, N4]; omega, by rw [sz3, N5]; omega⟩
  have K3 := K.ol O3
  have kp19 : keepS [19] s (sI s 19 ((st + 2 : Nat) : Int)) := keepI _ s (by decide) _
  obtain ⟨s4, h4, k4, ah, e4, kp4, g19, X4, K4, T4, O4, d4⟩ := p_read hl 6 16 (sI s 19 ((st + 2 : Nat) : Int)) h3 k F (st + 2) (iH x) k1 (by omega) ep (by rw [gI_sI, if_pos rfl]) (hp.keep kp19 (by decide) (by decide)) K3
  have l3 : h3.2.1 = h.2.1 + 3 := by rw [sz3, N4]
  have a4 : h4.1 h.2.1 = h3.1 h.2.1 := O4.2.1 _ (by omega)
  obtain ⟨h5, w5, a5, o5, s5⟩ := hW_at (h := h4) (a := h.2.1) (P := [(1, 2), (2, 2), (3, 2), (4, 2), (5, 2)]) (v := vq (some ah)) (by rw [a4]; exact a3) (lk5 hc) (by simp)
  obtain ⟨h6, w6, a6, o6, s6⟩ := hW_at (P := [(1, 5), (2, 5), (3, 5), (4, 5), (5, 5)]) (v := vi ((iC x).length : Int)) a5 (lk5 hc) (by simp)
  have a6' : h6.1 h.2.1 = some (.inl ((iK x).toNat + 1, [vi (i : Int), vi (iO x), vq (some ah), vq (some (h.2.1 + 1)), vq (some (h.2.1 + 2)), vi ((iC x).length : Int)])) := a6
  have b1 : h6.1 (h.2.1 + 1) = some (.inr (0, 2, .inl fun _ => 0)) := by rw [o6 _ (by omega), o5 _ (by omega), O4.2.1 _ (by omega), o3 _ (by omega), o2 _ (by omega)]; exact N1
  have b2 : h6.1 (h.2.1 + 2) = some (.inr (0, 2, .inl fun _ => 0)) := by rw [o6 _ (by omega), o5 _ (by omega), O4.2.1 _ (by omega), o3 _ (by omega), o2 _ (by omega)]; exact N2
  have kp : keepS [4, 19] s s4 := (kp19.trans kp4).mono (by decide)
  have hp4 := hp.keep kp (by decide) (by decide)
  -- its conditions
  have loop : ∀ (m f n : Nat) (y : hS) (fc fv : Int → Int), m < f → m + n = (iC x).length → y.1 h.2.1 = h6.1 h.2.1 → y.1 (h.2.1 + 1) = some (.inr (0, 2, .inl fc)) → y.1 (h.2.1 + 2) = some (.inr (0, 2, .inl fv)) → (∀ j : Nat, j < n → fc (j : Int) = (cg x j).1 ∧ fv (j : Int) = ((cg x j).2 : Int)) → (∀ b, b ≠ h.2.1 + 1 → b ≠ h.2.1 + 2 → y.1 b = h6.1 b) → y.2 = h6.2 →
      ∃ h' fc fv, fX0_layInstance_L78 f s4 y (i : Int) (some h.2.1) (n : Int) = some (sQ s4 4 (i : Int) (some h.2.1), h') ∧ h'.1 h.2.1 = h6.1 h.2.1 ∧ h'.1 (h.2.1 + 1) = some (.inr (0, 2, .inl fc)) ∧ h'.1 (h.2.1 + 2) = some (.inr (0, 2, .inl fv)) ∧ (∀ j : Nat, j < (iC x).length → fc (j : Int) = (cg x j).1 ∧ fv (j : Int) = ((cg x j).2 : Int)) ∧ (∀ b, b ≠ h.2.1 + 1 → b ≠ h.2.1 + 2 → h'.1 b = h6.1 b) ∧ h'.2 = h6.2 := by
    intro m
    induction m with
    | zero =>
      intro f n y fc fv hf hn y0 y1 y2 yc yo ys
      obtain ⟨f, rfl⟩ : ∃ z, f = z + 1 := ⟨f - 1, by omega⟩
      obtain ⟨-, -, -, -, -, r5, -, r7⟩ := rdI_c hc (y0.trans a6')
      refine ⟨y, fc, fv, ?_, y0, y1, y2, fun j hj => yc j (by omega), yo, ys⟩
      rw [fX0_layInstance_L78_s]
      unfold fX0_layInstance_b78
      rw [r5, bd_s, if_pos (by omega), gd_t (by omega), gd_t (Or.inr r7)]
    | succ m im =>
      intro f n y fc fv hf hn y0 y1 y2 yc yo ys
      obtain ⟨f, rfl⟩ : ∃ z, f = z + 1 := ⟨f - 1, by omega⟩
      obtain ⟨-, -, -, r3, -, r5, -, -⟩ := rdI_c hc (y0.trans a6')
      obtain ⟨q1, q2, z1, z2⟩ := dD n (cg x n) (cg_get (by omega))
      have p1 : k1 + 2 * n < P.length := by
        rcases Nat.lt_or_ge (k1 + 2 * n) P.length with w | w
        · exact w
        · exact absurd (pl_end w) z1
      have p2 : k1 + 2 * n + 1 < P.length := by
        rcases Nat.lt_or_ge (k1 + 2 * n + 1) P.length with w | w
        · exact w
        · exact absurd (pl_end w) z2
      have ra := hr _ p1
      have rb := hr _ p2
      obtain ⟨y', u1, v1, v2, v3⟩ := aWI_at (i := (n : Int)) (v := (cg x n).1) y1 (by omega) (by omega)
      have yo' : y'.1 h.2.1 = h6.1 h.2.1 := (v2 _ (by omega)).trans y0
      obtain ⟨-, -, -, -, r4, -, -, -⟩ := rdI_c hc (yo'.trans a6')
      obtain ⟨y'', u2, t1, t2, t3⟩ := aWI_at (h := y') (a := h.2.1 + 2) (i := (n : Int)) (v := ((cg x n).2 : Int)) (by rw [v2 _ (by omega)]; exact y2) (by omega) (by omega)
      obtain ⟨h', fc', fv', ee, rest⟩ := im f (n + 1) y'' _ _ (by omega) (by omega) ((t2 _ (by omega)).trans yo') ((t2 _ (by omega)).trans v1) t1 (fun j hj => by
        unfold upI
        by_cases q : j = n
        · subst q; rw [if_pos rfl, if_pos rfl]; exact ⟨rfl, rfl⟩
        · rw [if_neg (by omega), if_neg (by omega)]; exact yc j (by omega)) (fun b w1 w2 => by rw [t2 b w2, v2 b w1, yo b w1 w2]) (t3.trans (v3.trans ys))
      refine ⟨h', fc', fv', ?_, rest⟩
      rw [fX0_layInstance_L78_s]
      unfold fX0_layInstance_b78
      rw [r5, bd_s, if_neg (by omega), r3, bd_s, g19, wr_id (x := 2 * (n : Int)) (by omega) (by omega), wr_id (x := (k1 : Int) + 2 * (n : Int)) (by omega) (by omega), wr_id (x := (k1 : Int) + 2 * (n : Int) + 1) (by omega) (by omega), gd_t (by omega), show (k1 : Int) + 2 * (n : Int) = ((k1 + 2 * n : Nat) : Int) by omega, hp4.at p1, show (((k1 + 2 * n : Nat) : Int) + 1) = ((k1 + 2 * n + 1 : Nat) : Int) by omega, hp4.at p2, wr_id (x := pl P (k1 + 2 * n) - 48) (by omega) (by omega), wr_id (x := pl P (k1 + 2 * n + 1) - 120) (by omega) (by omega), ← q1, ← q2, u1, bd_s, r4, bd_s, gd_t (by omega), u2, bd_s, wr_id (by omega) (by omega)]
      exact ee
  obtain ⟨h7, fc, fv, e7, y0, y1, y2, yc, yo, ys⟩ := loop (iC x).length FU 0 h6 _ _ (by unfold FU; omega) (by omega) rfl b1 b2 (fun j hj => by omega) (fun _ _ _ => rfl) rfl
  have y0' := y0.trans a6'
  have sz7 : h7.2 = h4.2 := by rw [ys, s6, s5]
  have l4 := O4.1
  have O7 : ol h h7 (3 + szT (iH x)) := by
    refine ⟨by rw [sz7]; omega, fun b hb => ?_, ?_, ?_⟩
    · rw [yo b (by omega) (by omega), o6 b (by omega), o5 b (by omega), O4.2.1 b (by omega), O3.2.1 b hb]
    · rw [sz7]; have := O4.2.2.1; have := O3.2.2.1; omega
    · rw [sz7]; have := O4.2.2.2; have := O3.2.2.2; omega
  have k4n : ∀ b, h.2.1 ≤ b → b < h3.2.1 → k4.1 b = none := fun b hb1 hb2 => by rw [d4 b hb2]; exact K.nk hb1
  have K7 : Kp k4 h7 F := K4.go (fun b hb => by
    have n0 : b ≠ h.2.1 := fun q => hb (by rw [q]; exact k4n _ (Nat.le_refl _) (by omega))
    have n1 : b ≠ h.2.1 + 1 := fun q => hb (by rw [q]; exact k4n _ (by omega) (by omega))
    have n2 : b ≠ h.2.1 + 2 := fun q => hb (by rw [q]; exact k4n _ (by omega) (by omega))
    rw [yo b n1 n2, o6 b n0, o5 b n0]) (by rw [sz7]; exact Nat.le_refl _)
  have nF : ∀ j, ¬ F (h.2.1 + j) := fun j q => by have := K.2 _ q; omega
  obtain ⟨K8, X8⟩ := K7.add (a := h.2.1) (k4n _ (Nat.le_refl _) (by omega)) y0' (by rw [sz7]; omega) (nF 0)
  have X8 : ext k4 (hup k4 h.2.1 (.inl ((iK x).toNat + 1, [vi (i : Int), vi (iO x), vq (some ah), vq (some (h.2.1 + 1)), vq (some (h.2.1 + 2)), vi ((iC x).length : Int)]))) := X8
  obtain ⟨K9, X9⟩ := K8.add (a := h.2.1 + 1) (by rw [hup_ne _ _ (by omega)]; exact k4n _ (by omega) (by omega)) y1 (by rw [sz7]; omega) (nF 1)
  obtain ⟨K10, X10⟩ := K9.add (a := h.2.1 + 2) (by rw [hup_ne _ _ (by omega), hup_ne _ _ (by omega)]; exact k4n _ (by omega) (by omega)) y2 (by rw [sz7]; omega) (nF 2)
  have XX : ext k4 _ := X8.trans (ext.trans X9 X10)
  refine ⟨_, h7, _, h.2.1, ?_, kp.sQ (k := 4) (by decide) (i : Int) (some h.2.1), by rw [gQ_sQ, if_pos ⟨rfl, rfl⟩], fun j hj => ?_, X4.trans XX, K10, ⟨ah, h.2.1 + 1, h.2.1 + 2, fc, fv, ?_, T4.mono XX, ?_, hup_at _ _ _, yc⟩, O7⟩
  · unfold fX0_layInstance
    rw [hst, gd_t (by omega), gd_t (by omega), hp.at hs, p0_kindOf, bd_s, eK, e1, bd_s]
    dsimp only
    rw [w2, bd_s, gd_t (by omega), wr_id (x := (st : Int) + 1) (by omega) (by omega), gd_t (by omega), show ((st : Int) + 1) = ((st + 1 : Nat) : Int) by omega, hp.at hs1, wr_id (x := pl P (st + 1) - 48) (by omega) (by omega), ← eO, w3, bd_s, gd_t (by omega), wr_id (x := (st : Int) + 2) (by omega) (by omega), show ((st : Int) + 2) = ((st + 2 : Nat) : Int) by omega, e4, bd_s]
    dsimp only
    rw [w5, bd_s, g19, show idv (wr ((e : Int) - (k1 : Int))) 2 = ((iC x).length : Int) by
      have := ptr_ok P _ _ _ _ ep
      rw [wr_id (by omega) (by omega), p_idv (by omega) (by omega) (by omega) (by omega)]; omega, w6, bd_s]
    exact e7
  · rw [gQ_sQ, if_neg (by rintro ⟨-, z⟩; exact hj z)]
    exact (kp19.trans kp4).Q (by decide) j
  · rw [hup_ne _ _ (by omega), hup_ne _ _ (by omega), hup_at]
  · rw [hup_ne _ _ (by omega), hup_at]

set_option maxRecDepth 100000
/-! PURE: class DictProof: pairs are laid; a book is read -/
theorem p_pair1 {s : Sg} {k h : hS} {F : Nat → Prop} {gs : Option Nat × Option Nat} {ca : Nat → Nat} {n : Nat} {I : List Ist} (K : Kp k h F) (C : Cch k gs ca) (J : Ins0 s k n I) {q : Nat} (hq : q < 36) (K2 : Option Nat × Option Nat → Sg → hS → Int → Option (Sg × hS)) :
    ∃ s' h', fX0_layPairs_b2 K2 gs s h (q : Int) = K2 gs s' h' ((q : Int) + 1) ∧ keepS [21, 22] s s' ∧ (∀ j : Int, j ≠ (q : Int) → gA s' 21 j = gA s 21 j ∧ gA s' 22 j = gA s 22 j) ∧ ol h h' 898 ∧
      (q / 6 < I.length → q % 6 < I.length → gA s' 22 (q : Int) = bI (spc (ig I (q / 6)) (ig I (q % 6))) ∧ (q / 6 ≠ q % 6 → gA s' 21 (q : Int) = bI (alk (iH (ig I (q / 6))) (iH (ig I (q % 6)))))) := by
  have h5 := J.1
  have h6 := J.2.1
  have hd : idv (q : Int) 6 = ((q / 6 : Nat) : Int) := by rw [p_idv (by omega) (by omega) (by omega) (by omega)]; omega
  have hm : irm (q : Int) 6 = ((q % 6 : Nat) : Int) := by rw [p_irm (by omega) (by omega) (by omega) (by omega)]; omega
  unfold fX0_layPairs_b2 fX0_layPairs_b43
  rw [if_neg (by omega), hd, hm, h5]
  -- what is written
  have wr2 : ∀ (v u : Int), keepS [21, 22] s (sA (sA s 21 (q : Int) v) 22 (q : Int) u) ∧ (∀ j : Int, j ≠ (q : Int) → gA (sA (sA s 21 (q : Int) v) 22 (q : Int) u) 21 j = gA s 21 j ∧ gA (sA (sA s 21 (q : Int) v) 22 (q : Int) u) 22 j = gA s 22 j) ∧ gA (sA (sA s 21 (q : Int) v) 22 (q : Int) u) 22 (q : Int) = u ∧ gA (sA (sA s 21 (q : Int) v) 22 (q : Int) u) 21 (q : Int) = v := by
    intro v u
    refine ⟨(keepA _ s (by decide) _ _).sA (by decide) _ _, fun j hj => ⟨?_, ?_⟩, ?_, ?_⟩
    · rw [gA_sA, if_neg (by rintro ⟨z, -⟩; omega), gA_sA, if_neg (by rintro ⟨-, z⟩; exact hj z)]
    · rw [gA_sA, if_neg (by rintro ⟨-, z⟩; exact hj z), gA_sA, if_neg (by rintro ⟨z, -⟩; omega)]
    · rw [gA_sA, if_pos ⟨rfl, rfl⟩]
    · rw [gA_sA, if_neg (by rintro ⟨z, -⟩; omega), gA_sA, if_pos ⟨rfl, rfl⟩]
  have no : ∃ s' h', fX0_layPairs_b44 K2 gs s h (q : Int) ((q / 6 : Nat) : Int) ((q % 6 : Nat) : Int) 0 = K2 gs s' h' ((q : Int) + 1) ∧ keepS [21, 22] s s' ∧ (∀ j : Int, j ≠ (q : Int) → gA s' 21 j = gA s 21 j ∧ gA s' 22 j = gA s 22 j) ∧ ol h h' 898 ∧ gA s' 22 (q : Int) = 0 := by
    obtain ⟨z1, z2, z3, -⟩ := wr2 0 0
    refine ⟨_, h, ?_, z1, z2, (ol.refl h).mono (by omega), z3⟩
    unfold fX0_layPairs_b44 fX0_layPairs_b93 fX0_layPairs_b94 fX0_layPairs_b133 fX0_layPairs_b134
    rw [if_pos rfl, gd_t (by omega), gd_t (by simp), if_pos rfl, gd_t (by omega), gd_t (by simp), wr_id (by omega) (by omega)]
  by_cases c1 : (I.length : Int) ≤ ((q / 6 : Nat) : Int)
  · rw [if_pos c1]
    obtain ⟨s', h', e, z1, z2, z3, -⟩ := no
    exact ⟨s', h', e, z1, z2, z3, fun w => by omega⟩
  · rw [if_neg c1]
    by_cases c2 : (I.length : Int) ≤ ((q % 6 : Nat) : Int)
    · rw [if_pos c2]
      obtain ⟨s', h', e, z1, z2, z3, -⟩ := no
      exact ⟨s', h', e, z1, z2, z3, fun _ w => by omega⟩
    · rw [if_neg c2]
      by_cases c3 : ((q / 6 : Nat) : Int) = ((q % 6 : Nat) : Int)
      · rw [if_pos c3]
        obtain ⟨s', h', e, z1, z2, z3, z4⟩ := no
        refine ⟨s', h', e, z1, z2, z3, fun _ _ => ⟨?_, fun w => absurd (by omega) w⟩⟩
        rw [z4, show q / 6 = q % 6 by omega]
        unfold spc
        cases fits (iH (ig I (q % 6))) (iH (ig I (q % 6))) <;> rfl
      · rw [if_neg c3]
        obtain ⟨oka, a, ea, Pa⟩ := J.2.2 (q / 6) (by omega)
        obtain ⟨okb, b, eb, Pb⟩ := J.2.2 (q % 6) (by omega)
        obtain ⟨hda, caa, vaa, fca, fva, epa, Ta, -⟩ := id Pa
        obtain ⟨hdb, cab, vab, fcb, fvb, epb, Tb, -⟩ := id Pb
        obtain ⟨-, -, ra, -⟩ := rdI_c oka.k.c (K.ext _ _ epa)
        obtain ⟨-, -, rb, -⟩ := rdI_c okb.k.c (K.ext _ _ epb)
        obtain ⟨h1, h2, e1, e2, O2⟩ := p_alike K C Ta Tb oka.2.2.1 okb.2.2.1 oka.2.2.2.1 okb.2.2.2.1
        obtain ⟨-, -, ra2, -⟩ := rdI_c oka.k.c ((K.ol O2).ext _ _ epa)
        obtain ⟨-, -, rb2, -⟩ := rdI_c okb.k.c ((K.ol O2).ext _ _ epb)
        obtain ⟨h3, e3, O3⟩ := p_moreSpecial (K.ol O2) oka.2.2.1 okb.2.2.1 (by have := oka.2.2.2.1; omega) (by have := okb.2.2.2.1; omega) Ta Tb
        have b94 : ∀ v : Bool, fX0_layPairs_b94 K2 gs s h2 (q : Int) ((q / 6 : Nat) : Int) ((q % 6 : Nat) : Int) 1 (q : Int) (bI v) = K2 gs (sA (sA s 21 (q : Int) (bI v)) 22 (q : Int) (bI (fits (iH (ig I (q % 6))) (iH (ig I (q / 6))) && !fits (iH (ig I (q / 6))) (iH (ig I (q % 6)))))) h3 ((q : Int) + 1) := by
          intro v
          unfold fX0_layPairs_b94 fX0_layPairs_b133 fX0_layPairs_b134
          have ea' : gQ (sA s 21 (q : Int) (bI v)) 4 ((q / 6 : Nat) : Int) = some a := ea
          have eb' : gQ (sA s 21 (q : Int) (bI v)) 4 ((q % 6 : Nat) : Int) = some b := eb
          rw [gd_t (by omega), gd_t bI_or, if_neg (by decide), gd_t (by omega), ea', ra2, bd_s, gd_t (by omega), eb', rb2, bd_s, e3, bd_s]
          dsimp only
          cases (fits (iH (ig I (q % 6))) (iH (ig I (q / 6))) && !fits (iH (ig I (q / 6))) (iH (ig I (q % 6)))) with
          | false => rw [if_pos (show bI false = 0 from rfl), gd_t (by omega), gd_t (by simp), wr_id (by omega) (by omega)]; rfl
          | true => rw [if_neg (show ¬ bI true = 0 by decide), gd_t (by omega), gd_t (by simp), wr_id (by omega) (by omega)]; rfl
        obtain ⟨z1, z2, z3, z4⟩ := wr2 (bI (alk (iH (ig I (q / 6))) (iH (ig I (q % 6))))) (bI (fits (iH (ig I (q % 6))) (iH (ig I (q / 6))) && !fits (iH (ig I (q / 6))) (iH (ig I (q % 6)))))
        refine ⟨_, h3, ?_, z1, z2, O2.trans O3 (by omega), fun _ _ => ⟨z3, fun _ => z4⟩⟩
        rw [← b94]
        unfold fX0_layPairs_b44 fX0_layPairs_b93
        rw [if_neg (by decide), gd_t (by omega), ea, ra, bd_s, gd_t (by omega), eb, rb, bd_s, nwS_e, bd_s]
        dsimp only
        rw [e1, bd_s, e2, bd_s]
        cases alk (iH (ig I (q / 6))) (iH (ig I (q % 6))) with
        | false => rw [if_pos (by show bI false = 0; rfl)]; rfl
        | true => rw [if_neg (by show ¬ bI true = 0; decide)]; rfl
theorem p_layPairs {s : Sg} {k h : hS} {F : Nat → Prop} {gs : Option Nat × Option Nat} {ca : Nat → Nat} {n : Nat} {I : List Ist} (K : Kp k h F) (C : Cch k gs ca) (J : Ins0 s k n I) :
    ∃ s' h', fX0_layPairs gs s h = some (s', h') ∧ keepS [21, 22] s s' ∧ Spc0 s' I ∧ Alk0 s' alk I ∧ ol h h' 32328 := by
  obtain ⟨⟨s', h'⟩, ⟨kp, O, z⟩, e⟩ := loopN (fun f q (y : Sg × hS) => fX0_layPairs_L2 f gs y.1 y.2 (q : Int)) 36 (fun q y => keepS [21, 22] s y.1 ∧ ol h y.2 (q * 898) ∧ ∀ p : Nat, p < q → p / 6 < I.length → p % 6 < I.length → gA y.1 22 (p : Int) = bI (spc (ig I (p / 6)) (ig I (p % 6))) ∧ (p / 6 ≠ p % 6 → gA y.1 21 (p : Int) = bI (alk (iH (ig I (p / 6))) (iH (ig I (p % 6)))))) (fun y => some y) (fun f q y hq hy => by
      obtain ⟨s1, h1⟩ := y
      obtain ⟨kp, O, z⟩ := hy
      have kp : keepS [21, 22] s s1 := kp
      have O : ol h h1 (q * 898) := O
      obtain ⟨s2, h2, e, kp2, oth, O2, new⟩ := p_pair1 (K.ol O) C (J.keep kp (by decide) (by decide)) hq (fX0_layPairs_L2 f)
      refine ⟨(s2, h2), ⟨kp.trans kp2, O.trans O2 (by omega), fun p hp h1 h2 => ?_⟩, ?_⟩
      · by_cases pq : p = q
        · subst pq; exact new h1 h2
        · obtain ⟨o1, o2⟩ := oth (p : Int) (by omega)
          have := z p (by omega) h1 h2
          exact ⟨o2.trans this.1, fun w => o1.trans (this.2 w)⟩
      · show fX0_layPairs_L2 (f + 1) gs s1 h1 (q : Int) = _
        rw [fX0_layPairs_L2_s, e]
        rfl) (fun f y hy => by
      show fX0_layPairs_L2 (f + 1) gs y.1 y.2 36 = _
      rw [fX0_layPairs_L2_s]
      unfold fX0_layPairs_b2
      rw [if_pos (by decide)]) FU 0 (s, h) (by unfold FU; omega) (by omega) ⟨keepS.refl _ _, (ol.refl h).mono (by omega), fun p hp => by omega⟩
  have h6 := J.2.1
  refine ⟨s', h', e, kp, fun i e hi he => ?_, fun i e hi he hne => ?_, O.mono (by omega)⟩
  · have := z (6 * i + e) (by omega) (by omega) (by omega)
    rw [show (6 * i + e) / 6 = i by omega, show (6 * i + e) % 6 = e by omega] at this
    rw [show 6 * (i : Int) + (e : Int) = ((6 * i + e : Nat) : Int) by omega]
    exact this.1
  · have := z (6 * i + e) (by omega) (by omega) (by omega)
    rw [show (6 * i + e) / 6 = i by omega, show (6 * i + e) % 6 = e by omega] at this
    rw [show 6 * (i : Int) + (e : Int) = ((6 * i + e : Nat) : Int) by omega]
    exact this.2 hne

set_option maxRecDepth 100000
/-! PURE: class DictProof: a book is read -/
theorem W_book {s : Sg} {gs : Option Nat × Option Nat} {ca : Nat → Nat} {A : As} {U : Tm → Prop} {mp : Nat} {w : Wd} (hA : okA A) (hA' : okA (sp_book A).2) (h : okW (asI A) U mp w) (r : R0 s (wk w) gs ca A) :
    ∃ s' w', fX0_book gs (some mp) s (wh w) = some ((sp_book A).1, s', wh w') ∧ R0 s' (wk w') gs ca (sp_book A).2 ∧ okW (asI (sp_book A).2) U mp w' ∧ cW w w' 33000 := by
  obtain ⟨s1, e1, kp1, z⟩ := p0_fault_P hA.1.1 hA.pgr r.2.2.2.2.2.2.1
  have r1 := r.keep kp1 (by decide)
  obtain ⟨h9, h8⟩ := r1.2.2.2.2.2.2.1
  have hp1 : Pg0 s1 (asP A) := ⟨h9, h8⟩
  have hl := hA.1.1
  have hr := hA.pgr
  unfold fX0_book fX0_book_b51 sp_book
  unfold sp_book at hA'
  rw [e1, bd_s]
  dsimp only
  cases eR : (rd (asP A)).2 with
  | none =>
    rw [eR] at z
    have fin : ∃ s' w', some ((-103 : Int), s1, wh w) = some (-103, s', wh w') ∧ R0 s' (wk w') gs ca A ∧ okW (asI A) U mp w' ∧ cW w w' 33000 := ⟨s1, w, rfl, r1, h, by unfold cW; omega⟩
    rw [h9]
    by_cases c1 : (((rd (asP A)).1 : Nat) : Int) < ((asP A).length : Int)
    · rw [if_pos c1]; exact fin
    · rw [if_neg c1]
      by_cases c2 : gI s1 12 = -1
      · rw [if_pos c2]; exact fin
      · rw [if_neg c2]
        by_cases c3 : gI s1 13 = 0
        · rw [if_pos c3]; exact fin
        · rw [if_neg c3]
          by_cases c4 : gI s1 11 = 2
          · rw [if_neg (by simpa using c4)]
            by_cases c5 : 0 < gI s1 14
            · rw [if_pos c5]; exact fin
            · rw [if_neg c5]
              have c6 : irm (gI s1 17) 2 = 1 := by
                rcases z with z | z | z | z | z
                · exact absurd (by omega) c1
                · exact absurd z c2
                · exact absurd c4 z
                · exact absurd z c5
                · exact z
              rw [if_neg (by simpa using c6)]; exact fin
          · rw [if_pos c4]; exact fin
  | some LI =>
    obtain ⟨L, I⟩ := LI
    rw [eR] at z hA'
    simp only at hA'
    obtain ⟨y0, yL, yok, y10, l4, l0, y12, ylt, y13, i0, i6, y11, y14, y17, st⟩ := z
    have okI' : ∀ i, i < I.length → okI L.length (ig I i) := fun i hi => hA'.2.2.1.2 i hi
    rw [h9, if_neg (by omega), if_neg (by rw [y12]; omega), if_neg (by rw [y13]; omega), if_neg (by rw [y11]; decide), if_neg (by rw [y14]; decide), if_pos (by rw [y17]; decide)]
    -- the classes
    unfold fX0_layClasses
    have kq : keepS [1, 3] s1 (sA (sI s1 3 (gI s1 10)) 1 0 0) := (keepI _ s1 (by decide) _).sA (by decide) _ _
    obtain ⟨-, s2, e2, kp2, g2⟩ := lay_L19 (E := (rdCs (asP A) 4 0 []).1) hl (by omega) 4 0 [] (sA (sI s1 3 (gI s1 10)) 1 0 0) FU rfl (by omega) yok rfl ⟨(fun j hj => by cases hj), by rw [gA_sA, if_pos ⟨rfl, rfl⟩]; rfl⟩ (hp1.keep kq (by decide) (by decide)) ((kq.I (by decide)).trans y12) (by unfold FU; omega)
    rw [← yL] at g2
    have e2 : fX0_layClasses_L19 FU (sA (sI s1 3 (gI s1 10)) 1 0 0) 0 0 = _ := e2
    have g3 : gI s2 3 = (L.length : Int) := by rw [kp2.I (by decide)]; exact y10
    have lra : ∀ i, i < L.length → L.getD i 0 < 16 := by
      intro i hi
      rw [List.getD_eq_getElem?_getD, List.getElem?_eq_getElem hi]
      have := rdCs_lt (asP A) 4 0 [] rfl (fun x hx => by cases hx)
      rw [← yL] at this
      exact this _ (List.getElem_mem hi)
    obtain ⟨s3, e3, kp3, g33⟩ := lay_L90 (ra := fun c => L.getD c 0) l4 lra g3 g2
    rw [e2, e3, bd_s]
    have kp13 : keepS [1, 2, 3] s1 s3 := (kq.mono (by decide)).trans ((kp2.mono (by decide)).trans (kp3.mono (by decide)))
    have g13 : gI s3 13 = (I.length : Int) := (kp13.I (by decide)).trans y13
    rw [g13]
    -- the instances
    have kp14 : keepS [1, 2, 3, 5] s1 (sI s3 5 (I.length : Int)) := (kp13.mono (by decide)).sI (by decide) _
    have Cch0 := r.2.2.2.2.2.2.2.2.2.2
    obtain ⟨⟨s5, k5, h5⟩, ⟨kp5, X5, K5, ii, O5⟩, e5⟩ := loopN (fun f i (y : Sg × hS × hS) => fX0_book_L68 f gs (some mp) y.1 y.2.2 (i : Int)) I.length (fun i y => keepS [4, 19] (sI s3 5 (I.length : Int)) y.1 ∧ ext (wk w) y.2.1 ∧ Kp y.2.1 y.2.2 (wF w) ∧ (∀ j : Nat, j < i → ∃ a, gQ y.1 4 (j : Int) = some a ∧ isI y.2.1 a j (ig I j)) ∧ ol (wh w) y.2.2 (i * 8)) (fun y => bd (fX0_layPairs gs y.1 y.2.2) fun p2 => fX0_book_L120 FU gs (some mp) p2.1 p2.2 0) (fun f i y hi hy => by
        obtain ⟨s4, k4, h4⟩ := y
        obtain ⟨kp4, X4, K4, ii, O4⟩ := hy
        have kp4 : keepS [4, 19] (sI s3 5 (I.length : Int)) s4 := kp4
        have K4 : Kp k4 h4 (wF w) := K4
        have O4 : ol (wh w) h4 (i * 8) := O4
        have X4 : ext (wk w) k4 := X4
        have kp15 : keepS [1, 2, 3, 4, 5, 19] s1 s4 := (kp14.mono (by decide)).trans (kp4.mono (by decide))
        obtain ⟨sti, e, t1, t2, t3, t4, t5⟩ := st i hi
        have hp4 := hp1.keep kp15 (by decide) (by decide)
        have ez5 : szT (iH (ig I i)) ≤ 5 := (okI' i hi).2.2.2.1
        obtain ⟨s5, h5, k5, a, e5, kp5, ga, go, X5, K5, P5, O5⟩ := p_layInstance hl (i := i) (st := sti) (e := e) (x := ig I i) hp4 hr K4 (by omega) ((kp15.A (by decide) _).trans t1) t2 t3 l4
        refine ⟨(s5, k5, h5), ⟨kp4.trans kp5, X4.trans X5, K5, fun j hj => ?_, O4.trans O5 (by omega)⟩, ?_⟩
        · by_cases q : j = i
          · subst q; exact ⟨a, ga, P5⟩
          · obtain ⟨b, eb, Pb⟩ := ii j (by omega)
            exact ⟨b, (go _ (by omega)).trans eb, Pb.mono X5⟩
        · show fX0_book_L68 (f + 1) gs (some mp) s4 h4 (i : Int) = fX0_book_L68 f gs (some mp) s5 h5 ((i + 1 : Nat) : Int)
          have g5 : gI s4 5 = (I.length : Int) := (kp4.I (by decide)).trans (by rw [gI_sI, if_pos rfl])
          have b105 : ∀ k2 : Int, k2 = (e : Int) → fX0_book_b105 (fX0_book_L68 f) gs (some mp) s4 h4 (i : Int) (i : Int) k2 = fX0_book_L68 f gs (some mp) s5 h5 ((i + 1 : Nat) : Int) := by
            rintro k2 rfl
            unfold fX0_book_b105
            rw [e5, bd_s, wr_id (by omega) (by omega)]
            rfl
          rw [fX0_book_L68_s]
          unfold fX0_book_b68
          rw [if_neg (by rw [g5]; omega), g5, wr_id (x := (I.length : Int) - 1) (by omega) (by omega)]
          by_cases q : (i : Int) = (I.length : Int) - 1
          · rw [if_neg (by simpa using q)]
            refine b105 _ ?_
            rw [hp4.1, t5 (by omega)]
          · rw [if_pos q, wr_id (x := (i : Int) + 1) (by omega) (by omega), gd_t (by omega)]
            refine b105 _ ?_
            have tt := t4 (by omega)
            have lte : e + 1 < 2147483648 := by
              obtain ⟨st2, e2, u1, u2, -⟩ := st (i + 1) (by omega)
              rw [u1] at tt
              omega
            rw [kp15.A (by decide), show (i : Int) + 1 = ((i + 1 : Nat) : Int) by omega, tt, wr_id (by omega) (by omega)]
            omega) (fun f y hy => by
        show fX0_book_L68 (f + 1) gs (some mp) y.1 y.2.2 (I.length : Int) = _
        have g5 : gI y.1 5 = (I.length : Int) := (hy.1.I (by decide)).trans (by rw [gI_sI, if_pos rfl])
        rw [fX0_book_L68_s]
        unfold fX0_book_b68
        rw [if_pos (by rw [g5]; omega)]) FU 0 (sI s3 5 (I.length : Int), wk w, wh w) (by unfold FU; omega) (by omega) ⟨keepS.refl _ _, ext.refl _, h.1, fun j hj => by omega, (ol.refl _).mono (by omega)⟩
    have kp5 : keepS [4, 19] (sI s3 5 (I.length : Int)) s5 := kp5
    have X5 : ext (wk w) k5 := X5
    have K5 : Kp k5 h5 (wF w) := K5
    have O5 : ol (wh w) h5 (I.length * 8) := O5
    have e5 : fX0_book_L68 FU gs (some mp) (sI s3 5 (I.length : Int)) (wh w) 0 = bd (fX0_layPairs gs s5 h5) fun p2 => fX0_book_L120 FU gs (some mp) p2.1 p2.2 0 := e5
    rw [e5]
    have kp15 : keepS [1, 2, 3, 4, 5, 19] s1 s5 := (kp14.mono (by decide)).trans (kp5.mono (by decide))
    have g55 : gI s5 5 = (I.length : Int) := (kp5.I (by decide)).trans (by rw [gI_sI, if_pos rfl])
    have J5 : Ins0 s5 k5 L.length I := ⟨g55, i6, fun i hi => ⟨okI' i hi, ii i hi⟩⟩
    obtain ⟨s6, h6, e6, kp6, S6, L6, O6⟩ := p_layPairs K5 (Cch0.mono X5) J5
    rw [e6, bd_s]
    dsimp only
    -- the slots are emptied
    have O56 : ol (wh w) h6 32400 := O5.trans O6 (by omega)
    obtain ⟨o7, -⟩ := h.kW X5 (K5.ol O6) O56
    obtain ⟨h7, e7, o8, s7, cM⟩ := o7.clear (I' := I)
    have e7 : fJ1_clear h6 (some mp) = some h7 := e7
    have cM : hC h6 (some mp) = some 11 := cM
    have s7 : h7.2 = h6.2 := s7
    obtain ⟨s8, ⟨kp8, sl8⟩, e8⟩ := loopN (fun f i (y : Sg) => fX0_book_L120 f gs (some mp) y h6 (i : Int)) 4 (fun i y => keepS [6] s6 y ∧ ∀ j : Nat, j < i → gQ y 6 (j : Int) = none) (fun y => some (gI (sI (sI (sI y 26 0) 7 (wr ((gI (sI y 26 0) 7) + 1))) 9 0) 5, sI (sI (sI y 26 0) 7 (wr ((gI (sI y 26 0) 7) + 1))) 9 0, h7)) (fun f i y hi hy => by
        obtain ⟨kp, z⟩ := hy
        refine ⟨sQ y 6 (i : Int) none, ⟨kp.sQ (by decide) _ _, fun j hj => ?_⟩, ?_⟩
        · rw [gQ_sQ]
          by_cases q : (j : Int) = (i : Int)
          · rw [if_pos ⟨rfl, q⟩]
          · rw [if_neg (fun w => q w.2)]; exact z j (by omega)
        · show fX0_book_L120 (f + 1) gs (some mp) y h6 (i : Int) = _
          rw [fX0_book_L120_s]
          unfold fX0_book_b120
          rw [if_neg (by omega), gd_t (by omega), wr_id (by omega) (by omega)]
          rfl) (fun f y hy => by
        show fX0_book_L120 (f + 1) gs (some mp) y h6 4 = _
        rw [fX0_book_L120_s]
        unfold fX0_book_b120
        rw [if_pos (by decide), gd_t cM, e7, bd_s]) FU 0 s6 (by unfold FU; omega) (by omega) ⟨keepS.refl _ _, fun j hj => by omega⟩
    have e8 : fX0_book_L120 FU gs (some mp) s6 h6 0 = _ := e8
    rw [e8]
    have kp18 : keepS [1, 2, 3, 4, 5, 6, 19, 21, 22] s1 s8 := (kp15.mono (by decide)).trans ((kp6.mono (by decide)).trans (kp8.mono (by decide)))
    have b7 : gI s1 7 = (asB A : Int) := r1.2.2.2.2.2.2.2.1
    have bl := hA'.2.2.2.2.2.1.1
    have bl : asB A + 1 < 1000 := bl
    have w7 : wr (gI (sI s8 26 0) 7 + 1) = ((asB A + 1 : Nat) : Int) := by
      rw [show gI (sI s8 26 0) 7 = gI s8 7 from rfl, kp18.I (by decide), b7, wr_id (by omega) (by omega)]; rfl
    rw [w7]
    have kp9 : keepS [7, 9, 26] s8 (sI (sI (sI s8 26 0) 7 ((asB A + 1 : Nat) : Int)) 9 0) := ((keepI _ s8 (by decide) _).sI (by decide) _).sI (by decide) _
    have kA : keepS [1, 2, 3, 4, 5, 6, 7, 9, 19, 21, 22, 26] s1 (sI (sI (sI s8 26 0) 7 ((asB A + 1 : Nat) : Int)) 9 0) := (kp18.mono (by decide)).trans (kp9.mono (by decide))
    have k89 : keepS [6, 7, 9, 26] s6 (sI (sI (sI s8 26 0) 7 ((asB A + 1 : Nat) : Int)) 9 0) := (kp8.mono (by decide)).trans (kp9.mono (by decide))
    have k59 : keepS [6, 7, 9, 21, 22, 26] s5 (sI (sI (sI s8 26 0) 7 ((asB A + 1 : Nat) : Int)) 9 0) := (kp6.mono (by decide)).trans (k89.mono (by decide))
    have k39 : keepS [4, 5, 6, 7, 9, 19, 21, 22, 26] s3 (sI (sI (sI s8 26 0) 7 ((asB A + 1 : Nat) : Int)) 9 0) := ((keepI [4, 5, 6, 7, 9, 19, 21, 22, 26] s3 (k := 5) (by decide) (I.length : Int)).trans (kp5.mono (by decide))).trans (k59.mono (by decide))
    have g5e : gI (sI (sI (sI s8 26 0) 7 ((asB A + 1 : Nat) : Int)) 9 0) 5 = (I.length : Int) := (k59.I (by decide)).trans g55
    rw [g5e]
    obtain ⟨q1, q2, q3, q4, q5, q6, q7, q8, q9, q10, q11⟩ := r1.mono X5
    refine ⟨_, (k5, h7, [], wF w, wQ w), rfl, ⟨⟨?_, l4, fun c hc => ⟨?_, ?_, lra c hc, abF_lt L.length lra c⟩⟩, J5.keep k59 (by decide) (by decide), fun i e hi he => (k89.A (by decide) _).trans (S6 i e hi he), fun i e hi he hne => (k89.A (by decide) _).trans (L6 i e hi he hne), fun i hi => ?_, ⟨rfl, fun j e he => by cases he⟩, ⟨rfl, fun j c hj => by cases hj⟩, rfl, ?_, q10.keep kA (by decide), q11⟩, o8, ?_⟩
    · exact (k39.I (by decide)).trans ((kp3.I (by decide)).trans g3)
    · exact (k39.A (by decide) _).trans ((kp3.A (by decide) _).trans (g2 c hc))
    · exact (k39.A (by decide) _).trans (g33 c hc)
    · exact (kp9.Q (by decide) _).trans (sl8 i hi)
    · have hK := hA.2.2.2.2.2.2
      unfold Kpt0 at q9 ⊢
      show (match asK A with | none => _ | some (b, Ks, S, E) => _)
      cases eK : asK A with
      | none =>
        rw [eK] at q9
        exact (kA.I (by decide)).trans q9
      | some KK =>
        obtain ⟨b, Ks, S, E⟩ := KK
        rw [eK] at q9
        obtain ⟨x1, x2, x3, x4⟩ := q9
        have := (hK b Ks S E eK).1
        exact ⟨(kA.I (by decide)).trans x1, fun w => by have w : b = asB A + 1 := w; omega, x3.keep kA (by decide), x4.keep kA (by decide) (by decide) (by decide) (by decide)⟩
    · have a1 := O56.2.2.1
      have a2 := O56.2.2.2
      unfold cW
      show h7.2.1 + wQ w ≤ _ ∧ h7.2.2 + 4 * wQ w ≤ _
      rw [s7]
      omega

set_option maxRecDepth 100000
/-! PURE: class DictProof: a type is kept -/
theorem ptr_sz (P : List Int) : ∀ (f k : Nat) (t : Tm) (k1 : Nat), ptr P f k = some (t, k1) → ptr P (szT t) k = some (t, k1) := by
  intro f
  induction f with
  | zero => intro k t k1 e; cases e
  | succ f ih =>
    intro k t k1 e
    obtain ⟨n, hn⟩ : ∃ n, szT t = n + 1 := ⟨szT t - 1, by have := szT_pos t; omega⟩
    rw [hn]
    simp only [ptr] at e ⊢
    by_cases c1 : pl P k = 105 ∨ pl P k = 98
    · rw [if_pos c1] at e ⊢; exact e
    · rw [if_neg c1] at e ⊢
      by_cases c2 : pl P k = 120 ∨ pl P k = 121
      · rw [if_pos c2] at e ⊢; exact e
      · rw [if_neg c2] at e ⊢
        by_cases c3 : pl P k = 108
        · rw [if_pos c3] at e ⊢
          cases e1 : ptr P f (k + 1) with
          | none => rw [e1] at e; cases e
          | some q =>
            obtain ⟨a, k2⟩ := q
            rw [e1] at e
            simp only [Option.some.injEq, Prod.mk.injEq] at e
            obtain ⟨rfl, rfl⟩ := e
            simp only [szT] at hn
            rw [ptr_mono P (szT a) n (k + 1) (a, k2) (by omega) (ih _ _ _ e1)]
        · rw [if_neg c3] at e ⊢
          by_cases c4 : pl P k = 112
          · rw [if_pos c4] at e ⊢
            cases e1 : ptr P f (k + 1) with
            | none => rw [e1] at e; cases e
            | some q =>
              obtain ⟨a, k2⟩ := q
              rw [e1] at e
              simp only at e
              cases e2 : ptr P f k2 with
              | none => rw [e2] at e; cases e
              | some q2 =>
                obtain ⟨c, k3⟩ := q2
                rw [e2] at e
                simp only [Option.some.injEq, Prod.mk.injEq] at e
                obtain ⟨rfl, rfl⟩ := e
                simp only [szT] at hn
                rw [ptr_mono P (szT a) n (k + 1) (a, k2) (by omega) (ih _ _ _ e1)]
                simp only
                rw [ptr_mono P (szT c) n k2 (c, k3) (by omega) (ih _ _ _ e2)]
          · rw [if_neg c4] at e; cases e
theorem p_typed {P : List Int} (hl : P.length ≤ 84) {s : Sg} (hp : Pg0 s P) : ∀ (g k sz la f : Nat), 100 ≤ g + k → k ≤ P.length → la ≤ k + 1 → sz ≤ k → P.length + 2 ≤ f + k →
    fX0_typed_L4 f s (la : Int) (k : Int) = some (if (scS P 1000 g k sz la).2 = true ∧ (scS P 1000 g k sz la).1 = P.length then (P.length : Int) else 0) := by
  intro g
  induction g with
  | zero => intro k sz la f h1 h2; omega
  | succ g ih =>
    intro k sz la f h1 h2 h3 h4 h5
    obtain ⟨f, rfl⟩ : ∃ x, f = x + 1 := ⟨f - 1, by omega⟩
    rw [fX0_typed_L4_s]
    unfold fX0_typed_b4 fX0_typed_b48 fX0_typed_b64 fX0_typed_b65
    rw [hp.1]
    have es : scS P 1000 (g + 1) k sz la = if la = 0 then (k, true) else if wnt (pl P k) = -1 ∨ ((1000 : Nat) : Int) < (sz : Int) + la + wnt (pl P k) then (k, false) else scS P 1000 g (k + 1) (sz + 1) (la + (wnt (pl P k)).toNat - 1) := rfl
    rw [es]
    by_cases la0 : la = 0
    · rw [if_pos la0]
      by_cases ke : k = P.length
      · rw [if_pos (show (P.length : Int) ≤ (k : Int) by omega), if_neg (show ¬ ¬ (la : Int) = 0 by omega), if_neg (show ¬ ¬ (k : Int) = (P.length : Int) by omega), if_pos ⟨rfl, ke⟩, ke]
      · rw [if_neg (show ¬ (P.length : Int) ≤ (k : Int) by omega), if_pos (show (la : Int) ≤ 0 by omega), if_neg (show ¬ ¬ (la : Int) = 0 by omega), if_pos (show ¬ (k : Int) = (P.length : Int) by omega), if_neg (fun q => ke q.2)]
    · rw [if_neg la0]
      by_cases kl : k < P.length
      · rw [if_neg (by omega), if_neg (by omega), gd_t (by omega), hp.at kl, p0_typeSign, bd_s]
        by_cases w1 : wnt (pl P k) = -1
        · rw [decide_eq_false (by simpa using w1), if_pos (show bI false = 0 from rfl), if_pos (show ¬ (la : Int) = 0 by omega), if_pos (Or.inl w1), if_neg (by rintro ⟨q, -⟩; cases q)]
        · obtain ⟨ew, w0, w2⟩ := wnt_parts w1
          rw [decide_eq_true w1, if_neg (show ¬ bI true = 0 by decide), gd_t (by omega), p0_partsOf, bd_s, ew, if_neg (show ¬ (wnt (pl P k) = -1 ∨ ((1000 : Nat) : Int) < (sz : Int) + la + wnt (pl P k)) by rintro (q | q); exact w1 q; omega), wr_id (x := wnt (pl P k) - 1) (by omega) (by omega), wr_id (x := (la : Int) + _) (by omega) (by omega), wr_id (x := (k : Int) + 1) (by omega) (by omega)]
          have := ih (k + 1) (sz + 1) (la + (wnt (pl P k)).toNat - 1) f (by omega) (by omega) (by omega) (by omega) (by omega)
          rw [← this]
          rw [show (la : Int) + (wnt (pl P k) - 1) = ((la + (wnt (pl P k)).toNat - 1 : Nat) : Int) by omega]
          rfl
      · rw [pl_end (P := P) (k := k) (by omega), if_pos (show (P.length : Int) ≤ (k : Int) by omega), if_pos (show ¬ (la : Int) = 0 by omega), if_pos (Or.inl (by decide)), if_neg (by rintro ⟨q, -⟩; cases q)]
theorem W_type {s : Sg} {gs : Option Nat × Option Nat} {ca : Nat → Nat} {A : As} {U : Tm → Prop} {mp : Nat} {w : Wd} (hA : okA A) (h : okW (asI A) U mp w) (r : R0 s (wk w) gs ca A) (j : Int) :
    ∃ s' w', fX0_type s (wh w) j = some ((sp_type A j).1, s', wh w') ∧ R0 s' (wk w') gs ca (sp_type A j).2 ∧ okW (asI (sp_type A j).2) U mp w' ∧ stW w w' 9 := by
  have same : ∀ v : Int, ∃ s' w', some (v, s, wh w) = some (v, s', wh w') ∧ R0 s' (wk w') gs ca A ∧ okW (asI A) U mp w' ∧ stW w w' 9 := fun v => ⟨s, w, rfl, r, h, (stW.refl w).mono (by omega)⟩
  have h5 := r.2.1.1
  have hb := hA.2.2.2.2.2.1.2
  have hp := r.2.2.2.2.2.2.1
  have hl := hA.1.1
  have ty := p_typed hl hp 100 0 0 1 FU (by omega) (by omega) (by omega) (by omega) (by unfold FU; omega)
  have ty : fX0_typed s = _ := ty
  unfold fX0_type fX0_type_b29 sp_type
  rw [p0_isIn, bd_s]
  by_cases hj : 0 ≤ j ∧ j ≤ 3
  · rw [decide_eq_true hj, if_pos (show ¬ bI true = 0 by decide), if_pos hj]
    by_cases b0 : asB A = 0
    · rw [if_pos (show gI s 5 = 0 by rw [h5]; have := hb.mp b0; omega), if_pos (Or.inl b0)]
      exact same _
    · rw [if_neg (show ¬ gI s 5 = 0 by rw [h5]; intro q; exact b0 (hb.mpr (by omega))), ty, bd_s]
      by_cases ok : (scS (asP A) 1000 100 0 0 1).2 = true ∧ (scS (asP A) 1000 100 0 0 1).1 = (asP A).length
      · obtain ⟨t, et, ot, ek⟩ := scS_one (P := asP A) (B := 1000) (n := 100) (k := 0) (sz := 0) (k' := (asP A).length) (Prod.ext ok.2 ok.1)
        have sl : szT t = (asP A).length := by omega
        have sp := szT_pos t
        have nb : ¬ (asB A = 0 ∨ (scS (asP A) 1000 100 0 0 1).2 = false ∨ (scS (asP A) 1000 100 0 0 1).1 ≠ (asP A).length) := by
          rintro (q | q | q)
          · exact b0 q
          · rw [ok.1] at q; cases q
          · exact q ok.2
        rw [if_pos ok, if_pos (show ¬ ((asP A).length : Int) = 0 by omega), bd_s, if_neg nb]
        by_cases l9 : (asP A).length ≤ 9
        · have kp19 : keepS [19] s (sI s 19 0) := keepI _ s (by decide) _
          obtain ⟨s1, h1, k1, a, e1, kp1, g19, X1, K1, T1, O1, -⟩ := p_read hl (szT t) 16 (sI s 19 0) (wh w) (wk w) (wF w) 0 t (asP A).length (by omega) (ptr_sz _ _ _ _ _ et) (by rw [gI_sI, if_pos rfl]; rfl) (hp.keep kp19 (by decide) (by decide)) h.1
          obtain ⟨o1, st1⟩ := h.kW X1 K1 O1
          obtain ⟨-, -, -, -, -, -, -, -, ti, tc⟩ := (T1.mono K1.ext).rd ot
          have kp : keepS [19] s s1 := kp19.trans kp1
          have gq : gQ (sI (sQ s1 6 j (some a)) 9 0) 6 j = some a := by rw [gQ_sI, gQ_sQ, if_pos ⟨rfl, rfl⟩]
          rw [if_pos (show ((asP A).length : Int) ≤ 9 by omega), if_neg (show ¬ 9 < (asP A).length by omega), e1, bd_s]
          dsimp only
          rw [gd_t (by omega), gd_t (Or.inr ti), gd_t (by omega), gq, gd_t tc, p_sizeT 16 t h1 a ot (by omega) (by have := dpT_le t ot; omega) (T1.mono K1.ext), bd_s, et, sl]
          simp only
          have kA : keepS [6, 9, 19] s (sI (sQ s1 6 j (some a)) 9 0) := ((kp.mono (by decide)).sQ (by decide) _ _).sI (by decide) _
          obtain ⟨q1, q2, q3, q4, q5, q6, q7, q8, q9, q10, q11⟩ := r.mono X1
          refine ⟨_, (k1, h1, wE w, wF w, wQ w), rfl, ⟨q1.keep kA (by decide) (by decide) (by decide), q2.keep kA (by decide) (by decide), fun i e hi he => (kA.A (by decide) _).trans (q3 i e hi he), fun i e hi he hne => (kA.A (by decide) _).trans (q4 i e hi he hne), fun i hi => ?_, q6.keep kA (by decide) (by decide) (by decide) (by decide), ⟨rfl, fun j c hj => by cases hj⟩, (kA.I (by decide)).trans q8, Kpt0.keep (A := asP' (asS' A (fun i => if i = j.toNat then some t else asS A i)) []) q9 kA (by decide), q10.keep kA (by decide), q11⟩, o1, st1.mono (by omega)⟩
          show opT k1 (gQ (sI (sQ s1 6 j (some a)) 9 0) 6 (i : Int)) (if i = j.toNat then some t else asS A i)
          by_cases ij : i = j.toNat
          · rw [if_pos ij, show (i : Int) = j by omega, gq]
            exact ⟨a, rfl, T1⟩
          · rw [if_neg ij, gQ_sI, gQ_sQ, if_neg (by rintro ⟨-, z⟩; omega), kp.Q (by decide)]
            exact q5 i hi
        · rw [if_neg (show ¬ ((asP A).length : Int) ≤ 9 by omega), if_pos (show 9 < (asP A).length by omega)]
          exact same _
      · have yb : asB A = 0 ∨ (scS (asP A) 1000 100 0 0 1).2 = false ∨ (scS (asP A) 1000 100 0 0 1).1 ≠ (asP A).length := by
          by_cases q : (scS (asP A) 1000 100 0 0 1).2 = true
          · exact Or.inr (Or.inr (fun z => ok ⟨q, z⟩))
          · exact Or.inr (Or.inl (by simpa using q))
        rw [if_neg ok, if_neg (show ¬ ¬ (0 : Int) = 0 by decide), if_pos yb]
        exact same _
  · rw [decide_eq_false hj, if_neg (show ¬ ¬ bI false = 0 by decide), if_neg hj]
    exact same _

