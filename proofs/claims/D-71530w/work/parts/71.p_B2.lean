/-! the pure laws: B2 B3 B4 C1 -/
set_option maxRecDepth 100000
/-! PURE: the model class, a head against a type -/
/-- what is put for the variables -/
abbrev Bd : Type := Nat → Option Tm
def bd0 : Bd := fun _ => none
def bdU (b : Bd) (v : Nat) (t : Tm) : Bd := fun w => if w = v then some t else b w
def fit : Tm → Tm → Bd → Option Bd
  | .var v, t, b => match b v with
    | none => some (bdU b v t)
    | some u => if flat u = flat t then some (bdU b v t) else none
  | .num c, t, b => if sgT t = (c : Int) then some b else none
  | .mulL _ a, t, b => match t with
    | .mulL _ a' => fit a a' b
    | _ => none
  | .add a1 a2, t, b => match t with
    | .add b1 b2 => match fit a1 b1 b with
      | none => none
      | some b' => fit a2 b2 b'
    | _ => none
  | .mulR _ _, _, _ => none
theorem p6_isSameAt_L {s : Sg} {t : Tm} (hN : NowT s t) (hS : Szs s t) {p q : Nat} (hp : p < szT t) (hq : q < szT t) (hz : szT (sub t p) = szT (sub t q)) :
    ∀ (m n : Nat) (k : Nat), m < n → m + k = szT (sub t p) → fX6_isSameAt_L24 n s p q 1 k = some (b01 (∀ j, j < szT (sub t p) → k ≤ j → ltr (sub t p) j = ltr (sub t q) j)) := by
  intro m
  induction m with
  | zero =>
    intro n k hn hk
    obtain ⟨n, rfl⟩ : ∃ k, n = k + 1 := ⟨n - 1, by omega⟩
    have h9 := hN.2.1
    rw [fX6_isSameAt_L24_s, fX6_isSameAt_b24, gd_t (by omega), hS p hp, if_pos (by omega), fX6_isSameAt_b72, gd_t (by omega)]
    unfold b01
    rw [if_pos (fun j h1 h2 => by omega)]
  | succ m ih =>
    intro n k hn hk
    obtain ⟨n, rfl⟩ : ∃ k, n = k + 1 := ⟨n - 1, by omega⟩
    have h9 := hN.2.1
    have e1 := sub_end t p hN.2.2.1 hp
    have e2 := sub_end t q hN.2.2.1 hq
    rw [fX6_isSameAt_L24_s, fX6_isSameAt_b24, gd_t (by omega), hS p hp, if_neg (by omega), if_neg (by omega), wr_id (by omega) (by omega), wr_id (by omega) (by omega), gd_t (by omega), gd_t (by omega)]
    have g1 := hN.2.2.2 (p + k) (by omega)
    have g2 := hN.2.2.2 (q + k) (by omega)
    rw [ltr_sub hN.2.2.1 hp (by omega)] at g1
    rw [ltr_sub hN.2.2.1 hq (by omega)] at g2
    rw [show ((p + k : Nat) : Int) = (p : Int) + (k : Int) by omega] at g1
    rw [show ((q + k : Nat) : Int) = (q : Int) + (k : Int) by omega] at g2
    rw [g1, g2]
    split
    · rename_i hne
      unfold fX6_isSameAt_b65
      rw [wr_id (by omega) (by omega)]
      obtain ⟨n, rfl⟩ : ∃ k, n = k + 1 := ⟨n - 1, by omega⟩
      rw [fX6_isSameAt_L24_s, fX6_isSameAt_b24, gd_t (by omega)]
      have : b01 (∀ j, j < szT (sub t p) → k ≤ j → ltr (sub t p) j = ltr (sub t q) j) = 0 := b01_0.mpr (fun h => hne (h k (by omega) (Nat.le_refl _)))
      rw [this]
      split
      · rw [fX6_isSameAt_b72, gd_t (by omega)]
      · rw [if_pos rfl, fX6_isSameAt_b72, gd_t (by omega)]
    · rename_i he
      unfold fX6_isSameAt_b65
      rw [wr_id (by omega) (by omega), show (k : Int) + 1 = ((k + 1 : Nat) : Int) by omega, ih n (k + 1) (by omega) (by omega)]
      congr 1
      unfold b01
      have he' : ltr (sub t p) k = ltr (sub t q) k := Decidable.not_not.mp he
      by_cases hh : ∀ j, j < szT (sub t p) → k + 1 ≤ j → ltr (sub t p) j = ltr (sub t q) j
      · rw [if_pos hh, if_pos]
        intro j h1 h2
        by_cases hj : j = k
        · subst hj; exact he'
        · exact hh j h1 (by omega)
      · rw [if_neg hh, if_neg]
        intro h
        exact hh (fun j h1 h2 => h j h1 (by omega))
theorem p6_isSameAt {s : Sg} {t : Tm} (hN : NowT s t) (hS : Szs s t) {p q : Nat} (hp : p < szT t) (hq : q < szT t) : fX6_isSameAt s p q = some (b01 (flat (sub t p) = flat (sub t q))) := by
  have h9 := hN.2.1
  unfold fX6_isSameAt
  rw [gd_t (by omega), gd_t (by omega), hS p hp, hS q hq]
  have op := sub_ok t p hN.2.2.1 hp
  have oq := sub_ok t q hN.2.2.1 hq
  split
  · rename_i hne
    have : ¬ flat (sub t p) = flat (sub t q) := fun e => hne (by rw [(flat_eq op oq).mp e])
    rw [b01_0.mpr this, fX6_isSameAt_b20, show FU = 99999 + 1 from rfl, fX6_isSameAt_L24_s, fX6_isSameAt_b24, gd_t (by omega)]
    split
    · rw [fX6_isSameAt_b72, gd_t (by omega)]
    · rw [if_pos rfl, fX6_isSameAt_b72, gd_t (by omega)]
  · rename_i he
    have hz : szT (sub t p) = szT (sub t q) := by omega
    rw [fX6_isSameAt_b20]
    have := p6_isSameAt_L hN hS hp hq hz (szT (sub t p)) FU 0 (by have := sub_end t p hN.2.2.1 hp; unfold FU; omega) (by omega)
    rw [show ((0 : Nat) : Int) = 0 from rfl] at this
    rw [this]
    congr 1
    unfold b01
    by_cases hh : flat (sub t p) = flat (sub t q)
    · rw [if_pos hh, if_pos]
      intro j _ _
      unfold ltr
      rw [hh]
    · rw [if_neg hh, if_neg]
      intro h
      exact hh ((flat_eq op oq).mpr (ltr_ext op oq hz (fun k hk => h k hk (by omega))))
/-- a head in the model's arrays -/
def Hd6 (s : Sg) (i : Nat) (hd : Tm) : Prop := i < 6 ∧ okT hd ∧ szT hd ≤ 5 ∧ gA s 8 (i : Int) = (szT hd : Int) ∧ ∀ k : Nat, k < szT hd → gA s 7 (5 * (i : Int) + (k : Int)) = ltr hd k
theorem Hd6.keep {s s' : Sg} {i : Nat} {t : Tm} {L : List Nat} (h : Hd6 s i t) (hk : keepS L s s') (h1 : 7 ∉ L) (h2 : 8 ∉ L) : Hd6 s' i t :=
  ⟨h.1, h.2.1, h.2.2.1, (hk.A h2 _).trans h.2.2.2.1, fun k hk' => (hk.A h1 _).trans (h.2.2.2.2 k hk')⟩
/-- the places that are put, and the types -/
def Bnd (s : Sg) (t : Tm) (lo : Nat) (b : Bd) : Prop := ∀ v : Nat, v < 2 → match b v with
  | none => gA s 35 (v : Int) = -1
  | some u => ∃ q : Nat, q < szT t ∧ sub t q = u ∧ gA s 35 (v : Int) = (q : Int) ∧ lo ≤ q
theorem Bnd.put {s : Sg} {t : Tm} {lo : Nat} {b : Bd} (h : Bnd s t lo b) {v q : Nat} (hv : v < 2) (hq : q < szT t) (hl : lo ≤ q) : Bnd (sA s 35 (v : Int) (q : Int)) t lo (bdU b v (sub t q)) := by
  intro w hw
  unfold bdU
  by_cases e : w = v
  · subst e
    rw [if_pos rfl]
    exact ⟨q, hq, rfl, by rw [gA_sA, if_pos ⟨rfl, rfl⟩], hl⟩
  · rw [if_neg e]
    have := h w hw
    rw [gA_sA, if_neg (by omega)]
    exact this
theorem keep35 {s : Sg} {i v : Int} : keepS [35] s (sA s 35 i v) := keepS.sA (keepS.refl _ _) (by decide) _ _
theorem keepI (L : List Nat) (s : Sg) {k : Nat} (hk : k ∈ L) (v : Int) : keepS L s (sI s k v) := keepS.sI (keepS.refl _ _) hk v
theorem keepA (L : List Nat) (s : Sg) {k : Nat} (hk : k ∈ L) (i v : Int) : keepS L s (sA s k i v) := keepS.sA (keepS.refl _ _) hk i v
/-- one piece of the head against one piece of the type -/
theorem p6_fitsAt_L {t : Tm} {lo : Nat} {i : Nat} {hd : Tm} : ∀ (g : Tm) (k : Nat) (n : Nat) (s : Sg) (p : Nat) (b : Bd), NowT s t → Szs s t → Hd6 s i hd → Bnd s t lo b → k < szT hd → sub hd k = g → p < szT t → szT g ≤ n → lo ≤ p →
    match fit g (sub t p) b with
    | none => ∃ s', fX6_fitsAt_L19 n s i p k = some (0, s') ∧ keepS [35] s s'
    | some b' => ∃ s', fX6_fitsAt_L19 n s i p k = fX6_fitsAt_L19 (n - szT g) s' i ((p + szT (sub t p) : Nat) : Int) ((k + szT g : Nat) : Int) ∧ keepS [35] s s' ∧ Bnd s' t lo b' := by
  intro g
  induction g with
  | mulR a k ih => intro k n s p b hN hS hH hB hk hg hp hn hlo; have := sub_ok hd k hH.2.1 hk; rw [hg] at this; cases this
  | num c =>
    intro k n s p b hN hS hH hB hk hg hp hn hlo
    obtain ⟨n, rfl⟩ : ∃ k, n = k + 1 := ⟨n - 1, by simp only [szT] at hn; omega⟩
    obtain ⟨h1, h2, h3, h4, h5⟩ := hH
    have h9 := hN.2.1
    have hl : gA s 7 (5 * (i : Int) + (k : Int)) = (c : Int) := by rw [h5 k hk, ltr_sg h2 hk, hg]; rfl
    have hc : c = 105 ∨ c = 98 := by have := sub_ok hd k h2 hk; rw [hg] at this; exact this
    have hcv : ¬ ((c : Int) = 120 ∨ (c : Int) = 121) := by omega
    have hlet : gA s 32 (p : Int) = sgT (sub t p) := by rw [hN.2.2.2 p hp, ltr_sg hN.2.2.1 hp]
    have key : fX6_fitsAt_L19 (n + 1) s i p k = if sgT (sub t p) = (c : Int) then fX6_fitsAt_L19 n s i ((p : Int) + 1) ((k : Int) + 1) else some (0, s) := by
      rw [fX6_fitsAt_L19_s, fX6_fitsAt_b19]
      simp (disch := omega) only [gd_t, h4, if_neg, wr_id, hl, p6_isVar, b01, hcv, bd_s, hlet, fX6_fitsAt_b122, if_false]
      simp
    simp only [fit]
    by_cases hs : sgT (sub t p) = (c : Int)
    · rw [if_pos hs]
      have hsz : szT (sub t p) = 1 := by
        have := sub_ok t p hN.2.2.1 hp
        cases hh : sub t p with
        | num _ => rfl
        | var _ => rfl
        | mulL k a => rw [hh] at hs; simp [sgT] at hs; omega
        | add a b => rw [hh] at hs; simp [sgT] at hs; omega
        | mulR _ _ => rfl
      refine ⟨s, ?_, keepS.refl _ _, hB⟩
      rw [key, if_pos hs, hsz]
      simp only [szT]
      rfl
    · rw [if_neg hs]
      exact ⟨s, by rw [key, if_neg hs], keepS.refl _ _⟩
  | var v =>
    intro k n s p b hN hS hH hB hk hg hp hn hlo
    obtain ⟨n, rfl⟩ : ∃ k, n = k + 1 := ⟨n - 1, by simp only [szT] at hn; omega⟩
    obtain ⟨h1, h2, h3, h4, h5⟩ := hH
    have h9 := hN.2.1
    have hl : gA s 7 (5 * (i : Int) + (k : Int)) = 120 + (v : Int) := by rw [h5 k hk, ltr_sg h2 hk, hg]; rfl
    have hv : (v : Nat) < 2 := by have := sub_ok hd k h2 hk; rw [hg] at this; exact this
    have hv' : (v : Int) = 0 ∨ (v : Int) = 1 := by have := okV hv; omega
    have hcv : (120 + (v : Int) = 120 ∨ 120 + (v : Int) = 121) := by omega
    have hse := sub_end t p hN.2.2.1 hp
    have hsv : 120 + (v : Int) - 120 = (v : Int) := by omega
    have fin : ∀ n, fX6_fitsAt_b105 (fX6_fitsAt_L19 n) s i p k (v : Int) = fX6_fitsAt_L19 n (sA s 35 (v : Int) (p : Int)) i ((p + szT (sub t p) : Nat) : Int) ((k + 1 : Nat) : Int) := by
      intro n
      unfold fX6_fitsAt_b105 fX6_fitsAt_b122
      rw [gd_t (by omega), gd_t (by omega), gA_sA, if_neg (by omega), hS p hp, wr_id (by omega) (by omega), wr_id (by omega) (by omega)]
      congr 1
    have hb := hB v hv
    rw [fX6_fitsAt_L19_s, fX6_fitsAt_b19]
    simp (disch := omega) only [gd_t, h4, if_neg, wr_id, hl, p6_isVar, b01, hcv, bd_s, if_true, hsv]
    simp only [fit]
    cases hbv : b v with
    | none =>
      rw [hbv] at hb
      simp only at hb
      refine ⟨sA s 35 (v : Int) (p : Int), ?_, keep35, hB.put hv hp hlo⟩
      simp (disch := omega) only [hb, if_true, fin, if_neg, szT, Nat.add_sub_cancel]
      simp
    | some u =>
      rw [hbv] at hb
      obtain ⟨q, hq, rfl, hbq, -⟩ := hb
      simp (disch := omega) only [hbq, if_neg]
      rw [p6_isSameAt hN hS hq hp, bd_s]
      by_cases hh : flat (sub t q) = flat (sub t p)
      · rw [if_pos hh]
        refine ⟨sA s 35 (v : Int) (p : Int), ?_, keep35, ?_⟩
        · simp (disch := omega) only [b01, hh, if_true, fin, szT, Nat.add_sub_cancel]
          simp
        · exact hB.put hv hp hlo
      · rw [if_neg hh]
        exact ⟨s, by simp [b01, hh], keepS.refl _ _⟩
  | mulL k0 a ih =>
    intro k n s p b hN hS hH hB hk hg hp hn hlo
    obtain ⟨n, rfl⟩ : ∃ k, n = k + 1 := ⟨n - 1, by simp only [szT] at hn; omega⟩
    have hH0 := hH
    obtain ⟨h1, h2, h3, h4, h5⟩ := hH
    have h9 := hN.2.1
    obtain ⟨q1, q2, q3⟩ := sub_l h2 hk hg
    have hl : gA s 7 (5 * (i : Int) + (k : Int)) = 108 := by rw [h5 k hk, ltr_sg h2 hk, hg]; rfl
    have hcv : ¬ ((108 : Int) = 120 ∨ (108 : Int) = 121) := by omega
    have hlet : gA s 32 (p : Int) = sgT (sub t p) := by rw [hN.2.2.2 p hp, ltr_sg hN.2.2.1 hp]
    have key : fX6_fitsAt_L19 (n + 1) s i p k = if sgT (sub t p) = 108 then fX6_fitsAt_L19 n s i ((p + 1 : Nat) : Int) ((k + 1 : Nat) : Int) else some (0, s) := by
      rw [fX6_fitsAt_L19_s, fX6_fitsAt_b19]
      simp (disch := omega) only [gd_t, h4, if_neg, wr_id, hl, p6_isVar, b01, hcv, bd_s, hlet, fX6_fitsAt_b122, if_false]
      simp
    have hso := sub_ok t p hN.2.2.1 hp
    have bad : sgT (sub t p) ≠ 108 → ∃ s', fX6_fitsAt_L19 (n + 1) s i p k = some (0, s') ∧ keepS [35] s s' := fun hne => ⟨s, by rw [key, if_neg hne], keepS.refl _ _⟩
    cases hh : sub t p with
    | num c => simp only [fit]; rw [hh] at hso bad; simp only [okT] at hso; exact bad (by simp only [sgT]; omega)
    | var c => simp only [fit]; rw [hh] at hso bad; have hso' : (c : Nat) < 2 := hso; exact bad (by simp only [sgT]; omega)
    | mulR a k => rw [hh] at hso; cases hso
    | add a b => simp only [fit]; rw [hh] at bad; exact bad (by simp only [sgT]; omega)
    | mulL k1 a' =>
      simp only [fit]
      obtain ⟨r1, r2, r3⟩ := sub_l hN.2.2.1 hp hh
      have := ih (k + 1) n s (p + 1) b hN hS hH0 hB q2 q1 r2 (by simp only [szT] at hn; omega) (by omega)
      rw [r1] at this
      rw [key, hh, if_pos (show sgT (.mulL k1 a') = 108 from rfl)]
      revert this
      cases fit a a' b with
      | none => exact id
      | some b' =>
        rintro ⟨s', e, e2, e3⟩
        refine ⟨s', ?_, e2, e3⟩
        rw [e]
        simp only [szT]
        rw [show n + 1 - (szT a + 1) = n - szT a by omega, show p + (szT a' + 1) = p + 1 + szT a' by omega, show k + (szT a + 1) = k + 1 + szT a by omega]
  | add a1 a2 ih1 ih2 =>
    intro k n s p b hN hS hH hB hk hg hp hn hlo
    obtain ⟨n, rfl⟩ : ∃ k, n = k + 1 := ⟨n - 1, by simp only [szT] at hn; omega⟩
    have hH0 := hH
    obtain ⟨h1, h2, h3, h4, h5⟩ := hH
    have h9 := hN.2.1
    obtain ⟨q1, q2, q3, q4⟩ := sub_p h2 hk hg
    have hl : gA s 7 (5 * (i : Int) + (k : Int)) = 112 := by rw [h5 k hk, ltr_sg h2 hk, hg]; rfl
    have hcv : ¬ ((112 : Int) = 120 ∨ (112 : Int) = 121) := by omega
    have hlet : gA s 32 (p : Int) = sgT (sub t p) := by rw [hN.2.2.2 p hp, ltr_sg hN.2.2.1 hp]
    have key : fX6_fitsAt_L19 (n + 1) s i p k = if sgT (sub t p) = 112 then fX6_fitsAt_L19 n s i ((p + 1 : Nat) : Int) ((k + 1 : Nat) : Int) else some (0, s) := by
      rw [fX6_fitsAt_L19_s, fX6_fitsAt_b19]
      simp (disch := omega) only [gd_t, h4, if_neg, wr_id, hl, p6_isVar, b01, hcv, bd_s, hlet, fX6_fitsAt_b122, if_false]
      simp
    have hso := sub_ok t p hN.2.2.1 hp
    have bad : sgT (sub t p) ≠ 112 → ∃ s', fX6_fitsAt_L19 (n + 1) s i p k = some (0, s') ∧ keepS [35] s s' := fun hne => ⟨s, by rw [key, if_neg hne], keepS.refl _ _⟩
    cases hh : sub t p with
    | num c => simp only [fit]; rw [hh] at hso bad; simp only [okT] at hso; exact bad (by simp only [sgT]; omega)
    | var c => simp only [fit]; rw [hh] at hso bad; have hso' : (c : Nat) < 2 := hso; exact bad (by simp only [sgT]; omega)
    | mulR a k => rw [hh] at hso; cases hso
    | mulL a b => simp only [fit]; rw [hh] at bad; exact bad (by simp only [sgT]; omega)
    | add c1 c2 =>
      simp only [fit]
      obtain ⟨r1, r2, r3, r4⟩ := sub_p hN.2.2.1 hp hh
      have pa1 := szT_pos a1
      have pc1 := szT_pos c1
      simp only [szT] at hn
      have := ih1 (k + 1) n s (p + 1) b hN hS hH0 hB (by omega) q1 (by omega) (by omega) (by omega)
      rw [r1] at this
      rw [key, hh, if_pos (show sgT (.add c1 c2) = 112 from rfl)]
      revert this
      cases fit a1 c1 b with
      | none => exact id
      | some b' =>
        rintro ⟨s', e, e2, e3⟩
        have := ih2 (k + 1 + szT a1) (n - szT a1) s' (p + 1 + szT c1) b' (hN.keep e2 (by decide) (by decide)) (hS.keep e2 (by decide)) (hH0.keep e2 (by decide) (by decide)) e3 q3 q2 r3 (by omega) (by omega)
        rw [r2] at this
        simp only
        rw [e]
        revert this
        cases fit a2 c2 b' with
        | none =>
          rintro ⟨s'', f, f2⟩
          exact ⟨s'', f, e2.trans f2⟩
        | some b'' =>
          rintro ⟨s'', f, f2, f3⟩
          refine ⟨s'', ?_, e2.trans f2, f3⟩
          rw [f]
          simp only [szT]
          rw [show n + 1 - (szT a1 + szT a2 + 1) = n - szT a1 - szT a2 by omega, show p + (szT c1 + szT c2 + 1) = p + 1 + szT c1 + szT c2 by omega, show k + (szT a1 + szT a2 + 1) = k + 1 + szT a1 + szT a2 by omega]
theorem p6_fitsAt {t : Tm} {i : Nat} {hd : Tm} {s : Sg} {p : Nat} (hN : NowT s t) (hS : Szs s t) (hH : Hd6 s i hd) (hp : p < szT t) :
    match fit hd (sub t p) bd0 with
    | none => ∃ s', fX6_fitsAt s i p = some (0, s') ∧ keepS [35] s s'
    | some b' => ∃ s', fX6_fitsAt s i p = some (1, s') ∧ keepS [35] s s' ∧ Bnd s' t p b' := by
  have k0 : keepS [35] s (sA (sA s 35 0 (-1)) 35 1 (-1)) := keep35.trans keep35
  have hB : Bnd (sA (sA s 35 0 (-1)) 35 1 (-1)) t p bd0 := by
    intro v hv
    rcases okV hv with rfl | rfl
    · rfl
    · rfl
  have h := p6_fitsAt_L (i := i) (hd := hd) hd 0 FU _ p bd0 (hN.keep k0 (by decide) (by decide)) (hS.keep k0 (by decide)) (hH.keep k0 (by decide) (by decide)) hB (szT_pos _) (sub_0 _) hp (by have := hH.2.2.1; unfold FU; omega) (Nat.le_refl _)
  unfold fX6_fitsAt
  revert h
  cases fit hd (sub t p) bd0 with
  | none => rintro ⟨s', e, e2⟩; exact ⟨s', e, k0.trans e2⟩
  | some b' =>
    rintro ⟨s', e, e2, e3⟩
    refine ⟨s', ?_, k0.trans e2, e3⟩
    have hH' := (hH.keep (k0.trans e2) (by decide) (by decide))
    have e' : fX6_fitsAt_L19 FU (sA (sA s 35 0 (-1)) 35 1 (-1)) i p 0 = fX6_fitsAt_L19 (FU - szT hd) s' i ((p + szT (sub t p) : Nat) : Int) ((0 + szT hd : Nat) : Int) := e
    rw [e']
    obtain ⟨n, hn⟩ : ∃ n, FU - szT hd = n + 1 := ⟨FU - szT hd - 1, by have := hH.2.2.1; unfold FU; omega⟩
    obtain ⟨h1, h2, h3, h4, h5⟩ := hH'
    rw [hn, fX6_fitsAt_L19_s, fX6_fitsAt_b19, gd_t (by omega), h4, if_pos (by omega)]

set_option maxRecDepth 100000
/-! PURE: instances; which one is taken (model) -/
/-- an instance: its kind, its class, its head, its conditions -/
abbrev Ist : Type := Int × Int × Tm × List (Int × Nat)
abbrev iK (x : Ist) : Int := x.1
abbrev iO (x : Ist) : Int := x.2.1
abbrev iH (x : Ist) : Tm := x.2.2.1
abbrev iC (x : Ist) : List (Int × Nat) := x.2.2.2
def ist0 : Ist := (0, 0, .num 105, [])
def ig (I : List Ist) (i : Nat) : Ist := I.getD i ist0
def cg (x : Ist) (j : Nat) : Int × Nat := (iC x).getD j (0, 0)
def occ (v : Nat) : Tm → Bool
  | .var w => w == v
  | .mulL _ a => occ v a
  | .add a b => occ v a || occ v b
  | _ => false
def okI (n : Nat) (x : Ist) : Prop := (0 ≤ iK x ∧ iK x ≤ 4) ∧ (0 ≤ iO x ∧ iO x < n) ∧ okT (iH x) ∧ szT (iH x) ≤ 5 ∧ (iC x).length ≤ 2 ∧ ∀ j, j < (iC x).length → (0 ≤ (cg x j).1 ∧ (cg x j).1 < n) ∧ (cg x j).2 < 2 ∧ occ (cg x j).2 (iH x) = true
def fits (h t : Tm) : Bool := (fit h t bd0).isSome
def spc (x y : Ist) : Bool := fits (iH y) (iH x) && !fits (iH x) (iH y)
def snd9 (x : Ist) : Bool := decide ((iC x).length = 0) || !isV (iH x)
def rk (x : Ist) : Nat := if iK x = 3 ∨ iK x = 4 then 0 else if iK x = 1 then 2 else 1
def mt (I : List Ist) (c : Int) (t : Tm) (i : Nat) : Bool := decide (iO (ig I i) = c) && (decide (iK (ig I i) ≠ 2) && (snd9 (ig I i) && fits (iH (ig I i)) t))
def bitsOf (P : Nat → Bool) : Nat → Nat
  | 0 => 0
  | n + 1 => bitsOf P n ||| (if P n then 2 ^ n else 0)
theorem bitsOf_lt (P : Nat → Bool) : ∀ n, bitsOf P n < 2 ^ n := by
  intro n
  induction n with
  | zero => simp [bitsOf]
  | succ n ih =>
    unfold bitsOf
    refine Nat.or_lt_two_pow ?_ ?_
    · exact Nat.lt_of_lt_of_le ih (Nat.pow_le_pow_right (by omega) (by omega))
    · split
      · exact Nat.pow_lt_pow_right (by omega) (by omega)
      · exact Nat.two_pow_pos _
theorem bitsOf_bit (P : Nat → Bool) : ∀ n k, (bitsOf P n).testBit k = (decide (k < n) && P k) := by
  intro n
  induction n with
  | zero => intro k; simp [bitsOf]
  | succ n ih =>
    intro k
    unfold bitsOf
    rw [Nat.testBit_or, ih]
    by_cases hk : k = n
    · subst hk
      cases hP : P k <;> simp
    · have : (if P n = true then 2 ^ n else 0 : Nat).testBit k = false := by
        split
        · rw [Nat.testBit_two_pow]; simp; omega
        · simp
      rw [this]
      by_cases h2 : k < n <;> simp [h2] <;> omega
theorem bitsOf_ext {P Q : Nat → Bool} {n : Nat} (h : ∀ i, i < n → P i = Q i) : bitsOf P n = bitsOf Q n := by
  apply Nat.eq_of_testBit_eq
  intro k
  rw [bitsOf_bit, bitsOf_bit]
  by_cases hk : k < n
  · rw [h k hk]
  · simp [hk]
theorem bitsOf_31 {P : Nat → Bool} {n : Nat} (hn : n ≤ 31) : bitsOf P n < 2147483648 := Nat.lt_of_lt_of_le (bitsOf_lt P n) (Nat.pow_le_pow_right (n := 2) (by omega) hn)
/-- a bit more -/
theorem ior_bit {P : Nat → Bool} {n : Nat} (hn : n < 31) : ior ((bitsOf P n : Nat) : Int) (if P n then ishl 1 (n : Int) else 0) = ((bitsOf P (n + 1) : Nat) : Int) := by
  have h0 : (bitsOf P n) < 2147483648 := bitsOf_31 (by omega)
  have h2 : 2 ^ n < 2 ^ 31 := Nat.pow_lt_pow_right (by omega) hn
  have e31 : (2 : Nat) ^ 31 = 2147483648 := by decide
  rw [e31] at h2
  show _ = ((bitsOf P n ||| (if P n then 2 ^ n else 0) : Nat) : Int)
  split
  · rw [p_one_shl hn, p_ior h0 h2]
  · have := p_ior (a := bitsOf P n) (b := 0) h0 (by omega)
    rw [show ((0 : Nat) : Int) = 0 from rfl] at this
    rw [this]
theorem bitsOf_0 {P : Nat → Bool} {n : Nat} : bitsOf P n = 0 ↔ ∀ i, i < n → P i = false := by
  constructor
  · intro h i hi
    have := bitsOf_bit P n i
    rw [h] at this
    simp [hi] at this
    exact this
  · intro h
    rw [bitsOf_ext (Q := fun _ => false) h]
    clear h
    induction n with
    | zero => rfl
    | succ n ih => simp [bitsOf, ih]
def Ins6 (s : Sg) (n : Nat) (I : List Ist) : Prop := gI s 1 = (n : Int) ∧ n ≤ 4 ∧ gI s 4 = (I.length : Int) ∧ I.length ≤ 6 ∧ ∀ i : Nat, i < I.length → okI n (ig I i) ∧ Hd6 s i (iH (ig I i)) ∧ gA s 5 (i : Int) = iK (ig I i) ∧ gA s 6 (i : Int) = iO (ig I i) ∧ gA s 9 (i : Int) = ((iC (ig I i)).length : Int) ∧ ∀ j : Nat, j < (iC (ig I i)).length → gA s 10 (2 * (i : Int) + (j : Int)) = (cg (ig I i) j).1 ∧ gA s 11 (2 * (i : Int) + (j : Int)) = ((cg (ig I i) j).2 : Int)
def Spc6 (s : Sg) (I : List Ist) : Prop := ∀ i e : Nat, i < I.length → e < I.length → gA s 12 (6 * (i : Int) + (e : Int)) = b01 (spc (ig I i) (ig I e) = true)
theorem Ins6.keep {s s' : Sg} {n : Nat} {I : List Ist} {L : List Nat} (h : Ins6 s n I) (hk : keepS L s s') (hL : ∀ k ∈ [1, 4, 5, 6, 7, 8, 9, 10, 11], k ∉ L) : Ins6 s' n I := by
  obtain ⟨h1, h2, h3, h4, h5⟩ := h
  refine ⟨(hk.I (hL 1 (by decide))).trans h1, h2, (hk.I (hL 4 (by decide))).trans h3, h4, fun i hi => ?_⟩
  obtain ⟨g1, g2, g3, g4, g5, g6⟩ := h5 i hi
  refine ⟨g1, g2.keep hk (hL 7 (by decide)) (hL 8 (by decide)), (hk.A (hL 5 (by decide)) _).trans g3, (hk.A (hL 6 (by decide)) _).trans g4, (hk.A (hL 9 (by decide)) _).trans g5, fun j hj => ?_⟩
  obtain ⟨f1, f2⟩ := g6 j hj
  exact ⟨(hk.A (hL 10 (by decide)) _).trans f1, (hk.A (hL 11 (by decide)) _).trans f2⟩
theorem Spc6.keep {s s' : Sg} {I : List Ist} {L : List Nat} (h : Spc6 s I) (hk : keepS L s s') (hL : 12 ∉ L) : Spc6 s' I := fun i e hi he => (hk.A hL _).trans (h i e hi he)
theorem p6_isSound {s : Sg} {n : Nat} {I : List Ist} (h : Ins6 s n I) {i : Nat} (hi : i < I.length) : fX6_isSound s i = some (b01 (snd9 (ig I i) = true)) := by
  obtain ⟨h1, h2, h3, h4, h5⟩ := h
  obtain ⟨g1, ⟨d1, d2, d3, d4, d5⟩, g3, g4, g5, g6⟩ := h5 i hi
  unfold fX6_isSound fX6_isSound_b33 fX6_isSound_b38 snd9
  rw [gd_t (by omega), g5]
  split
  · rename_i h0
    rw [gd_t (Or.inr rfl), b01, if_pos (by simp; left; exact List.eq_nil_of_length_eq_zero (by omega))]
  · rename_i h0
    rw [gd_t (by omega), d4]
    have h0' : ¬ (iC (ig I i)).length = 0 := by omega
    split
    · rename_i hs
      rw [gd_t (Or.inr rfl), b01, if_pos]
      have : isV (iH (ig I i)) = false := by
        cases hh : iH (ig I i) <;> simp [isV]
        rw [hh] at hs; simp [szT] at hs
      simp [this]
    · rename_i hs
      have hz := szT_pos (iH (ig I i))
      have := d5 0 (by omega)
      rw [wr_id (by omega) (by omega), gd_t (by omega)]
      rw [show 5 * (i : Int) + ((0 : Nat) : Int) = 5 * (i : Int) by omega, ltr_sg d2 hz, sub_0] at this
      rw [this, p6_isVar, bd_s]
      have hsg := sg_var d2
      by_cases hv : isV (iH (ig I i)) = true
      · have := hsg.mpr hv
        simp [b01, this, h0', hv, gd]
      · have h8 : ¬ (sgT (iH (ig I i)) = 120 ∨ sgT (iH (ig I i)) = 121) := fun q => hv (hsg.mp q)
        simp [b01, h8, h0', hv, gd]
theorem fits_s {h t : Tm} : fits h t = true ↔ ∃ b, fit h t bd0 = some b := by unfold fits; exact Option.isSome_iff_exists
theorem p6_fits {t : Tm} {i : Nat} {hd : Tm} {s : Sg} {p : Nat} (hN : NowT s t) (hS : Szs s t) (hH : Hd6 s i hd) (hp : p < szT t) :
    ∃ s', fX6_fitsAt s i p = some (b01 (fits hd (sub t p) = true), s') ∧ keepS [35] s s' := by
  have h := p6_fitsAt hN hS hH hp
  unfold fits
  revert h
  cases fit hd (sub t p) bd0 with
  | none => rintro ⟨s', e, e2⟩; exact ⟨s', by rw [e]; simp [b01], e2⟩
  | some b => rintro ⟨s', e, e2, e3⟩; exact ⟨s', by rw [e]; simp [b01], e2⟩
theorem p6_meantFor_L {t : Tm} {p : Nat} {N : Nat} {I : List Ist} {c : Int} (hp : p < szT t) : ∀ (m n k : Nat) (s : Sg), m < n → m + k = I.length → NowT s t → Szs s t → Ins6 s N I →
    ∃ s', fX6_meantFor_L5 n s c p ((bitsOf (mt I c (sub t p)) k : Nat) : Int) k = some (((bitsOf (mt I c (sub t p)) I.length : Nat) : Int), s') ∧ keepS [35] s s' := by
  intro m
  induction m with
  | zero =>
    intro n k s hn hk hN hS hI
    obtain ⟨n, rfl⟩ : ∃ k, n = k + 1 := ⟨n - 1, by omega⟩
    refine ⟨s, ?_, keepS.refl _ _⟩
    rw [fX6_meantFor_L5_s, fX6_meantFor_b5, hI.2.2.1, if_pos (by omega), show I.length = k by omega]
  | succ m ih =>
    intro n k s hn hk hN hS hI
    obtain ⟨n, rfl⟩ : ∃ k, n = k + 1 := ⟨n - 1, by omega⟩
    have hkl : k < I.length := by omega
    have hI0 := hI
    have hsnd := p6_isSound hI hkl
    obtain ⟨h1, h2, h3, h4, h5⟩ := hI
    obtain ⟨g1, g2, g3, g4, g5, g6⟩ := h5 k hkl
    obtain ⟨s1, f1, f2⟩ := p6_fits hN hS g2 hp
    have step : ∀ s' : Sg, keepS [35] s s' → ∃ s'', fX6_meantFor_L5 n s' c p ((bitsOf (mt I c (sub t p)) (k + 1) : Nat) : Int) (wr ((k : Int) + 1)) = some (((bitsOf (mt I c (sub t p)) I.length : Nat) : Int), s'') ∧ keepS [35] s s'' := by
      intro s' hk'
      rw [wr_id (by omega) (by omega)]
      obtain ⟨s'', e, e2⟩ := ih n (k + 1) s' (by omega) (by omega) (hN.keep hk' (by decide) (by decide)) (hS.keep hk' (by decide)) (hI0.keep hk' (by decide))
      exact ⟨s'', e, hk'.trans e2⟩
    have hb := ior_bit (P := mt I c (sub t p)) (n := k) (by omega)
    rw [fX6_meantFor_L5_s, fX6_meantFor_b5, h3, if_neg (by omega), gd_t (by omega), g4]
    unfold fX6_meantFor_b59 fX6_meantFor_b60 fX6_meantFor_b76
    have no : mt I c (sub t p) k = false → ∀ s', keepS [35] s s' → ∃ s'', fX6_meantFor_L5 n s' c p (ior ((bitsOf (mt I c (sub t p)) k : Nat) : Int) 0) (wr ((k : Int) + 1)) = some (((bitsOf (mt I c (sub t p)) I.length : Nat) : Int), s'') ∧ keepS [35] s s'' := by
      intro h0 s' hs'
      rw [h0] at hb
      simp only [Bool.false_eq_true, if_false] at hb
      rw [hb]
      exact step s' hs'
    have yes : mt I c (sub t p) k = true → ∀ s', keepS [35] s s' → ∃ s'', fX6_meantFor_L5 n s' c p (ior ((bitsOf (mt I c (sub t p)) k : Nat) : Int) (ishl 1 (k : Int))) (wr ((k : Int) + 1)) = some (((bitsOf (mt I c (sub t p)) I.length : Nat) : Int), s'') ∧ keepS [35] s s'' := by
      intro h0 s' hs'
      rw [h0] at hb
      simp only [if_true] at hb
      rw [hb]
      exact step s' hs'
    simp only [if_true]
    split
    · rename_i hc
      exact no (by simp [mt, hc]) s (keepS.refl _ _)
    · rename_i hc
      rw [gd_t (by omega), g3]
      split
      · rename_i hk2
        exact no (by simp [mt, hk2]) s (keepS.refl _ _)
      · rename_i hk2
        rw [hsnd, bd_s]
        split
        · rename_i hs0
          have := b01_0.mp hs0
          exact no (by simp [mt, this]) s (keepS.refl _ _)
        · rename_i hs0
          have hs1 : snd9 (ig I k) = true := by
            cases hq : snd9 (ig I k)
            · exact absurd (b01_0.mpr (by simp [hq])) hs0
            · rfl
          rw [f1, bd_s]
          split
          · rename_i hf0
            have := b01_0.mp hf0
            exact no (by simp [mt, this]) s1 f2
          · rename_i hf0
            have hf1 : fits (iH (ig I k)) (sub t p) = true := by
              cases hq : fits (iH (ig I k)) (sub t p)
              · exact absurd (b01_0.mpr (by simp [hq])) hf0
              · rfl
            have hc' : iO (ig I k) = c := Decidable.not_not.mp hc
            rw [if_neg (by decide)]
            exact yes (by simp [mt, hs1, hf1, hc', hk2]) s1 f2
theorem p6_meantFor {t : Tm} {p : Nat} {N : Nat} {I : List Ist} {c : Int} {s : Sg} (hp : p < szT t) (hN : NowT s t) (hS : Szs s t) (hI : Ins6 s N I) :
    ∃ s', fX6_meantFor s c p = some (((bitsOf (mt I c (sub t p)) I.length : Nat) : Int), s') ∧ keepS [35] s s' := by
  have := p6_meantFor_L (N := N) (I := I) (c := c) hp I.length FU 0 s (by have := hI.2.2.2.1; unfold FU; omega) (by omega) hN hS hI
  exact this

set_option maxRecDepth 100000
/-! PURE: which instance is taken (model) -/
def anyN (P : Nat → Bool) : Nat → Bool
  | 0 => false
  | n + 1 => anyN P n || P n
def allN (P : Nat → Bool) : Nat → Bool
  | 0 => true
  | n + 1 => allN P n && P n
def cntN (P : Nat → Bool) : Nat → Nat
  | 0 => 0
  | n + 1 => cntN P n + (if P n then 1 else 0)
def lstN (P : Nat → Bool) : Nat → Int
  | 0 => -1
  | n + 1 => if P n then (n : Int) else lstN P n
theorem anyN_iff {P : Nat → Bool} {n : Nat} : anyN P n = true ↔ ∃ i, i < n ∧ P i = true := by
  induction n with
  | zero => simp [anyN]
  | succ n ih =>
    simp only [anyN, Bool.or_eq_true, ih]
    constructor
    · rintro (⟨i, h1, h2⟩ | h)
      · exact ⟨i, by omega, h2⟩
      · exact ⟨n, by omega, h⟩
    · rintro ⟨i, h1, h2⟩
      by_cases h : i = n
      · subst h; exact Or.inr h2
      · exact Or.inl ⟨i, by omega, h2⟩
theorem allN_iff {P : Nat → Bool} {n : Nat} : allN P n = true ↔ ∀ i, i < n → P i = true := by
  induction n with
  | zero => simp [allN]
  | succ n ih =>
    simp only [allN, Bool.and_eq_true, ih]
    constructor
    · rintro ⟨h1, h2⟩ i hi
      by_cases h : i = n
      · subst h; exact h2
      · exact h1 i (by omega)
    · intro h
      exact ⟨fun i hi => h i (by omega), h n (by omega)⟩
theorem cntN_le (P : Nat → Bool) (n : Nat) : cntN P n ≤ n := by
  induction n with
  | zero => simp [cntN]
  | succ n ih => simp only [cntN]; split <;> omega
theorem cntN_ext {P Q : Nat → Bool} {n : Nat} (h : ∀ i, i < n → P i = Q i) : cntN P n = cntN Q n := by
  induction n with
  | zero => rfl
  | succ n ih => simp only [cntN]; rw [ih (fun i hi => h i (by omega)), h n (by omega)]
theorem p6_size_L {M : Nat} (hM : M < 2147483648) : ∀ (m n k : Nat), m < n → m + k = 16 → fX6_size_L4 n (M : Int) ((cntN M.testBit k : Nat) : Int) k = some ((cntN M.testBit 16 : Nat) : Int) := by
  intro m
  induction m with
  | zero =>
    intro n k hn hk
    obtain ⟨n, rfl⟩ : ∃ k, n = k + 1 := ⟨n - 1, by omega⟩
    rw [fX6_size_L4_s, fX6_size_b4, if_pos (by omega), show k = 16 by omega]
  | succ m ih =>
    intro n k hn hk
    obtain ⟨n, rfl⟩ : ∃ k, n = k + 1 := ⟨n - 1, by omega⟩
    have := cntN_le M.testBit k
    rw [fX6_size_L4_s, fX6_size_b4, if_neg (by omega), p_bit (by omega) hM, wr_id (x := (k : Int) + 1) (by omega) (by omega)]
    have e : wr (((cntN M.testBit k : Nat) : Int) + if M.testBit k = true then 1 else 0) = ((cntN M.testBit (k + 1) : Nat) : Int) := by
      simp only [cntN]
      split
      · rw [wr_id (by omega) (by omega)]; omega
      · rw [wr_id (by omega) (by omega)]; omega
    rw [e, show (k : Int) + 1 = ((k + 1 : Nat) : Int) by omega]
    exact ih n (k + 1) (by omega) (by omega)
theorem p6_size {M : Nat} (hM : M < 2147483648) : fX6_size (M : Int) = some ((cntN M.testBit 16 : Nat) : Int) := p6_size_L hM 16 FU 0 (by unfold FU; omega) (by omega)
theorem p6_ofRank_L {s : Sg} {N : Nat} {I : List Ist} (hI : Ins6 s N I) {M : Nat} (hM : M < 2147483648) {r : Nat} : ∀ (m n k : Nat), m < n → m + k = I.length →
    fX6_ofRank_L5 n s M r ((bitsOf (fun i => M.testBit i && decide (rk (ig I i) = r)) k : Nat) : Int) k = some ((bitsOf (fun i => M.testBit i && decide (rk (ig I i) = r)) I.length : Nat) : Int) := by
  intro m
  have h6 := hI.2.2.2.1
  induction m with
  | zero =>
    intro n k hn hk
    obtain ⟨n, rfl⟩ : ∃ k, n = k + 1 := ⟨n - 1, by omega⟩
    rw [fX6_ofRank_L5_s, fX6_ofRank_b5, hI.2.2.1, if_pos (by omega), show I.length = k by omega]
  | succ m ih =>
    intro n k hn hk
    obtain ⟨n, rfl⟩ : ∃ k, n = k + 1 := ⟨n - 1, by omega⟩
    obtain ⟨g1, g2, g3, g4, g5, g6⟩ := hI.2.2.2.2 k (by omega)
    have hb := ior_bit (P := fun i => M.testBit i && decide (rk (ig I i) = r)) (n := k) (by omega)
    have ih' := ih n (k + 1) (by omega) (by omega)
    rw [show ((k + 1 : Nat) : Int) = (k : Int) + 1 by omega] at ih'
    have fin : ∀ q : Nat, rk (ig I k) = q → fX6_ofRank_b56 (fX6_ofRank_L5 n) s M r ((bitsOf (fun i => M.testBit i && decide (rk (ig I i) = r)) k : Nat) : Int) k q = some ((bitsOf (fun i => M.testBit i && decide (rk (ig I i) = r)) I.length : Nat) : Int) := by
      intro q hq
      unfold fX6_ofRank_b56 fX6_ofRank_b81 fX6_ofRank_b82
      rw [p6_isIn (by omega) hM, bd_s, wr_id (by omega) (by omega)]
      cases hbit : M.testBit k
      · rw [hbit] at hb
        simp only [Bool.false_and, Bool.false_eq_true, if_false] at hb
        simp only [b01, Bool.false_eq_true, if_false, if_true, hb]
        exact ih'
      · rw [hbit, hq] at hb
        by_cases hqr : q = r
        · subst hqr
          simp only [Bool.true_and, decide_true, if_true] at hb
          simp only [b01, if_true, hb, not_true, if_false, show ¬ (1 : Int) = 0 by decide]
          exact ih'
        · simp only [Bool.true_and, hqr, decide_false, Bool.false_eq_true, if_false] at hb
          simp only [b01, if_true, hb, show ¬ (1 : Int) = 0 by decide, if_false, show ¬ (q : Int) = (r : Int) by omega, not_false_eq_true]
          exact ih'
    rw [fX6_ofRank_L5_s, fX6_ofRank_b5, hI.2.2.1, if_neg (by omega), gd_t (by omega), g3]
    unfold fX6_ofRank_b36
    split
    · exact fin 0 (by simp [rk, *])
    · rw [gd_t (by omega)]
      split
      · rw [gd_t (by omega)]
        split
        · exact fin 1 (by simp [rk, *])
        · exact fin 2 (by simp only [rk]; rw [if_neg (by omega), if_pos (by omega)])
      · exact fin 0 (by simp only [rk]; rw [if_pos (by omega)])
theorem p6_ofRank {s : Sg} {N : Nat} {I : List Ist} (hI : Ins6 s N I) {M : Nat} (hM : M < 2147483648) {r : Nat} :
    fX6_ofRank s M r = some ((bitsOf (fun i => M.testBit i && decide (rk (ig I i) = r)) I.length : Nat) : Int) := p6_ofRank_L hI hM I.length FU 0 (by have := hI.2.2.2.1; unfold FU; omega) (by omega)
theorem p6_isOneSole_L {s : Sg} {N : Nat} {I : List Ist} (hI : Ins6 s N I) {M : Nat} (hM : M < 2147483648) : ∀ (m n k : Nat), m < n → m + k = I.length →
    fX6_isOneSole_L4 n s M (b01 (anyN (fun i => M.testBit i && decide (iK (ig I i) = 4)) k = true)) k = some (b01 (anyN (fun i => M.testBit i && decide (iK (ig I i) = 4)) I.length = true)) := by
  intro m
  have h6 := hI.2.2.2.1
  induction m with
  | zero =>
    intro n k hn hk
    obtain ⟨n, rfl⟩ : ∃ k, n = k + 1 := ⟨n - 1, by omega⟩
    rw [fX6_isOneSole_L4_s, fX6_isOneSole_b4, hI.2.2.1, if_pos (by omega), show I.length = k by omega, gd_t b01_or]
  | succ m ih =>
    intro n k hn hk
    obtain ⟨n, rfl⟩ : ∃ k, n = k + 1 := ⟨n - 1, by omega⟩
    obtain ⟨g1, g2, g3, g4, g5, g6⟩ := hI.2.2.2.2 k (by omega)
    have ih' := ih n (k + 1) (by omega) (by omega)
    rw [show ((k + 1 : Nat) : Int) = (k : Int) + 1 by omega] at ih'
    simp only [anyN] at ih'
    rw [fX6_isOneSole_L4_s, fX6_isOneSole_b4, hI.2.2.1, if_neg (by omega), p6_isIn (by omega) hM, bd_s, gd_t (by omega), g3]
    unfold fX6_isOneSole_b34 fX6_isOneSole_b38 fX6_isOneSole_b39
    rw [wr_id (by omega) (by omega)]
    rcases Bool.eq_false_or_eq_true (anyN (fun i => M.testBit i && decide (iK (ig I i) = 4)) k) with hA | hA <;> cases hbit : M.testBit k <;> by_cases h4 : iK (ig I k) = 4 <;> simp [b01, hA, hbit, h4] at ih' ⊢ <;> exact ih'
theorem p6_isOneSole {s : Sg} {N : Nat} {I : List Ist} (hI : Ins6 s N I) {M : Nat} (hM : M < 2147483648) :
    fX6_isOneSole s M = some (b01 (anyN (fun i => M.testBit i && decide (iK (ig I i) = 4)) I.length = true)) := p6_isOneSole_L hI hM I.length FU 0 (by have := hI.2.2.2.1; unfold FU; omega) (by omega)
/-- in a set: more special than each other one -/
def most (I : List Ist) (M : Nat) (i : Nat) : Bool := M.testBit i && allN (fun e => decide (e = i) || (!M.testBit e || spc (ig I i) (ig I e))) I.length
theorem p6_mostSpecial_L22 {s : Sg} {N : Nat} {I : List Ist} (hI : Ins6 s N I) (hS : Spc6 s I) {M : Nat} (hM : M < 2147483648) {K : Sg → Int → Int → Int → Option Int} {best : Int} {i : Nat} (hi : i < I.length) : ∀ (m n k : Nat), m < n → m + k = I.length →
    fX6_mostSpecial_L22 K n s M best i (b01 ((M.testBit i && allN (fun e => decide (e = i) || (!M.testBit e || spc (ig I i) (ig I e))) k) = true)) k = K s M (if most I M i then (i : Int) else best) ((i : Int) + 1) := by
  intro m
  have h6 := hI.2.2.2.1
  induction m with
  | zero =>
    intro n k hn hk
    obtain ⟨n, rfl⟩ : ∃ k, n = k + 1 := ⟨n - 1, by omega⟩
    rw [fX6_mostSpecial_L22_s, fX6_mostSpecial_b22, hI.2.2.1, if_pos (by omega), show k = I.length by omega]
    unfold fX6_mostSpecial_b90
    rw [wr_id (by omega) (by omega)]
    unfold most
    split
    · rename_i h0
      rw [if_neg (b01_0.mp h0)]
    · rename_i h0
      rw [if_pos]
      rcases b01_or (p := (M.testBit i && allN (fun e => decide (e = i) || (!M.testBit e || spc (ig I i) (ig I e))) I.length) = true) with q | q
      · exact absurd q h0
      · exact b01_1.mp q
  | succ m ih =>
    intro n k hn hk
    obtain ⟨n, rfl⟩ : ∃ k, n = k + 1 := ⟨n - 1, by omega⟩
    have ih' := ih n (k + 1) (by omega) (by omega)
    rw [show ((k + 1 : Nat) : Int) = (k : Int) + 1 by omega] at ih'
    simp only [allN] at ih'
    have hs := hS i k hi (by omega)
    rw [fX6_mostSpecial_L22_s, fX6_mostSpecial_b22, hI.2.2.1, if_neg (by omega), p6_isIn (by omega) hM, bd_s]
    unfold fX6_mostSpecial_b67 fX6_mostSpecial_b71 fX6_mostSpecial_b72
    rw [wr_id (by omega) (by omega), wr_id (x := 6 * (i : Int)) (by omega) (by omega), wr_id (x := 6 * (i : Int) + (k : Int)) (by omega) (by omega), gd_t (by omega), hs]
    have ek : ((k : Int) = (i : Int)) ↔ k = i := by omega
    by_cases hki : k = i
    · subst hki
      rcases Bool.eq_false_or_eq_true (allN (fun e => decide (e = k) || (!M.testBit e || spc (ig I k) (ig I e))) k) with hA | hA <;> cases hbit : M.testBit k <;> simp [b01, hA, hbit] at ih' ⊢ <;> exact ih'
    · rcases Bool.eq_false_or_eq_true (allN (fun e => decide (e = i) || (!M.testBit e || spc (ig I i) (ig I e))) k) with hA | hA <;> cases hbit : M.testBit i <;> cases hbk : M.testBit k <;> cases hsp : spc (ig I i) (ig I k) <;> simp [b01, hA, hbit, hbk, hsp, ek, hki] at ih' ⊢ <;> exact ih'
theorem p6_mostSpecial_L4 {s : Sg} {N : Nat} {I : List Ist} (hI : Ins6 s N I) (hS : Spc6 s I) {M : Nat} (hM : M < 2147483648) : ∀ (m n k : Nat), m < n → m + k = I.length →
    fX6_mostSpecial_L4 n s M (lstN (most I M) k) k = some (lstN (most I M) I.length) := by
  intro m
  have h6 := hI.2.2.2.1
  induction m with
  | zero =>
    intro n k hn hk
    obtain ⟨n, rfl⟩ : ∃ k, n = k + 1 := ⟨n - 1, by omega⟩
    rw [fX6_mostSpecial_L4_s, fX6_mostSpecial_b4, hI.2.2.1, if_pos (by omega), show k = I.length by omega]
  | succ m ih =>
    intro n k hn hk
    obtain ⟨n, rfl⟩ : ∃ k, n = k + 1 := ⟨n - 1, by omega⟩
    have ih' := ih n (k + 1) (by omega) (by omega)
    rw [show ((k + 1 : Nat) : Int) = (k : Int) + 1 by omega] at ih'
    rw [fX6_mostSpecial_L4_s, fX6_mostSpecial_b4, hI.2.2.1, if_neg (by omega), p6_isIn (by omega) hM, bd_s]
    have := p6_mostSpecial_L22 hI hS hM (K := fX6_mostSpecial_L4 n) (best := lstN (most I M) k) (i := k) (by omega) I.length FU 0 (by unfold FU; omega) (by omega)
    simp only [allN, Bool.and_true] at this
    rw [show ((0 : Nat) : Int) = 0 from rfl] at this
    rw [this]
    exact ih'
theorem p6_mostSpecial {s : Sg} {N : Nat} {I : List Ist} (hI : Ins6 s N I) (hS : Spc6 s I) {M : Nat} (hM : M < 2147483648) : fX6_mostSpecial s M = some (lstN (most I M) I.length) := by
  unfold fX6_mostSpecial
  exact p6_mostSpecial_L4 hI hS hM I.length FU 0 (by have := hI.2.2.2.1; unfold FU; omega) (by omega)
/-- who goes ahead of whom -/
def bef (I : List Ist) (k e : Nat) : Bool := decide (k = e) || (decide (rk (ig I k) < rk (ig I e)) || (decide (rk (ig I k) = rk (ig I e)) && spc (ig I k) (ig I e)))
def best (I : List Ist) (M : Nat) (k : Nat) : Bool := M.testBit k && allN (fun e => !M.testBit e || bef I k e) I.length
/-- what is taken of those that are meant: -1 none, -2 unclear -/
def tkM (I : List Ist) (M : Nat) : Int := if M = 0 then -1 else if M &&& (M - 1) ≠ 0 ∧ anyN (fun i => M.testBit i && decide (iK (ig I i) = 4)) I.length = true then -2 else match (List.range I.length).find? (best I M) with
  | some k => (k : Int)
  | none => -2
def tk (I : List Ist) (c : Int) (t : Tm) : Int := tkM I (bitsOf (mt I c t) I.length)
theorem spc_anti {x y : Ist} (h : spc x y = true) : spc y x = false := by
  unfold spc at *
  simp at h ⊢
  intro q
  rw [h.2] at q; cases q
theorem lstN_spec {P : Nat → Bool} : ∀ n, (lstN P n = -1 ∧ ∀ i, i < n → P i = false) ∨ ∃ k : Nat, k < n ∧ P k = true ∧ lstN P n = (k : Int) := by
  intro n
  induction n with
  | zero => left; exact ⟨rfl, fun i hi => by omega⟩
  | succ n ih =>
    simp only [lstN]
    cases hP : P n
    · simp only [Bool.false_eq_true, if_false]
      rcases ih with ⟨h1, h2⟩ | ⟨k, h1, h2, h3⟩
      · left
        refine ⟨h1, fun i hi => ?_⟩
        by_cases e : i = n
        · subst e; exact hP
        · exact h2 i (by omega)
      · right; exact ⟨k, by omega, h2, h3⟩
    · right; exact ⟨n, by omega, hP, by simp⟩
theorem pop6 : ∀ M : Fin 64, (cntN M.val.testBit 16 ≤ 1 ↔ M.val &&& (M.val - 1) = 0) := by decide
/-- of a set of one rank -/
theorem most_best {I : List Ist} {M r k : Nat} (hk : k < I.length) (hM : ∃ i, i < I.length ∧ M.testBit i = true ∧ rk (ig I i) = r) (hr : ∀ i, i < I.length → M.testBit i = true → r ≤ rk (ig I i)) :
    most I (bitsOf (fun i => M.testBit i && decide (rk (ig I i) = r)) I.length) k = best I M k := by
  rw [Bool.eq_iff_iff]
  unfold most best
  simp only [Bool.and_eq_true, allN_iff, bitsOf_bit, decide_eq_true_eq]
  obtain ⟨i0, h1, h2, h3⟩ := hM
  constructor
  · rintro ⟨⟨a1, a2, a3⟩, a4⟩
    refine ⟨a2, fun e he => ?_⟩
    have q := a4 e he
    unfold bef
    by_cases hek : k = e
    · simp [hek]
    cases hbe : M.testBit e
    · simp
    · have q9 := hr e he hbe
      by_cases hre : rk (ig I e) = r
      · simp [he, hbe, hre, show ¬ e = k from fun q => hek q.symm] at q
        simp [hek, a3, hre, q]
      · have : r < rk (ig I e) := by omega
        simp [a3, this]
  · rintro ⟨a1, a2⟩
    have hrk : rk (ig I k) = r := by
      have q := a2 i0 h1
      have q9 := hr k hk a1
      unfold bef at q
      simp [h2] at q
      rcases q with q | q | q
      · rw [q]; exact h3
      · omega
      · omega
    refine ⟨⟨hk, a1, hrk⟩, fun e he => ?_⟩
    have q := a2 e he
    unfold bef at q
    by_cases hek : e = k
    · simp [hek]
    · cases hbe : M.testBit e
      · simp [hek]
      · by_cases hre : rk (ig I e) = r
        · simp [hbe, hre, hrk, show ¬ k = e from fun q => hek q.symm] at q
          simp [q]
        · simp [hre]
theorem best_uniq {I : List Ist} {M i j : Nat} (hi : i < I.length) (hj : j < I.length) (h1 : best I M i = true) (h2 : best I M j = true) : i = j := by
  unfold best at h1 h2
  simp only [Bool.and_eq_true, allN_iff] at h1 h2
  have a := h1.2 j hj
  have b := h2.2 i hi
  unfold bef at a b
  simp [h1.1, h2.1] at a b
  rcases a with a | a | a
  · exact a
  · rcases b with b | b | b
    · exact b.symm
    · omega
    · omega
  · rcases b with b | b | b
    · exact b.symm
    · omega
    · have := spc_anti a.2
      rw [b.2] at this; cases this
theorem lst_find {I : List Ist} {M : Nat} {P : Nat → Bool} (hP : ∀ k, k < I.length → P k = best I M k) : (if lstN P I.length = -1 then -2 else lstN P I.length) = match (List.range I.length).find? (best I M) with
    | some k => (k : Int)
    | none => -2 := by
  rcases lstN_spec (P := P) I.length with ⟨h1, h2⟩ | ⟨k, h1, h2, h3⟩
  · rw [h1, if_pos rfl]
    have : (List.range I.length).find? (best I M) = none := by
      rw [List.find?_eq_none]
      intro x hx
      rw [← hP x (List.mem_range.mp hx), h2 x (List.mem_range.mp hx)]
      simp
    rw [this]
  · rw [h3, if_neg (by omega)]
    rw [hP k h1] at h2
    cases hf : (List.range I.length).find? (best I M) with
    | none =>
      rw [List.find?_eq_none] at hf
      exact absurd h2 (hf k (List.mem_range.mpr h1))
    | some j =>
      have g1 := List.find?_some hf
      have g2 := List.mem_range.mp (List.mem_of_find?_eq_some hf)
      rw [best_uniq h1 g2 h2 g1]
theorem p6_takes {t : Tm} {p : Nat} {N : Nat} {I : List Ist} {c : Int} {s : Sg} (hp : p < szT t) (hN : NowT s t) (hS : Szs s t) (hI : Ins6 s N I) (hX : Spc6 s I) :
    ∃ s', fX6_takes s c p = some (tk I c (sub t p), s') ∧ keepS [35] s s' := by
  obtain ⟨s', e, k⟩ := p6_meantFor (c := c) hp hN hS hI
  have hI' := hI.keep k (by decide)
  have hX' := hX.keep k (by decide)
  refine ⟨s', ?_, k⟩
  have h6 := hI.2.2.2.1
  unfold fX6_takes tk tkM
  rw [e, bd_s]
  have hlt : bitsOf (mt I c (sub t p)) I.length < 64 := Nat.lt_of_lt_of_le (bitsOf_lt _ _) (Nat.le_trans (Nat.pow_le_pow_right (by omega) h6) (by decide))
  generalize hM : bitsOf (mt I c (sub t p)) I.length = M at *
  have hM31 : M < 2147483648 := by omega
  by_cases h0 : M = 0
  · simp only [h0, if_true]; simp
  · simp only [show ¬ (M : Int) = 0 by omega, not_false_eq_true, if_true, h0, if_false]
    rw [p6_size hM31, bd_s]
    have hpop := pop6 ⟨M, hlt⟩
    simp only at hpop
    have low : ∀ i, M.testBit i = true → i < I.length := by
      intro i hi
      rw [← hM, bitsOf_bit] at hi
      simp at hi; exact hi.1
    have fin : fX6_takes_b32 s' (M : Int) = some ((match (List.range I.length).find? (best I M) with
        | some k => (k : Int)
        | none => -2), s') := by
      have end9 : ∀ (r : Nat), (∃ i, i < I.length ∧ M.testBit i = true ∧ rk (ig I i) = r) → (∀ i, i < I.length → M.testBit i = true → r ≤ rk (ig I i)) → fX6_takes_b64 s' ((bitsOf (fun i => M.testBit i && decide (rk (ig I i) = r)) I.length : Nat) : Int) = some ((match (List.range I.length).find? (best I M) with
        | some k => (k : Int)
        | none => -2), s') := by
        intro r hr1 hr2
        unfold fX6_takes_b64 fX6_takes_b85
        have hb : bitsOf (fun i => M.testBit i && decide (rk (ig I i) = r)) I.length < 2147483648 := bitsOf_31 (by omega)
        rw [p6_mostSpecial hI' hX' hb, bd_s]
        have := lst_find (I := I) (M := M) (P := most I (bitsOf (fun i => M.testBit i && decide (rk (ig I i) = r)) I.length)) (fun k hk => most_best hk hr1 hr2)
        rw [← this]
        by_cases hq : lstN (most I (bitsOf (fun i => M.testBit i && decide (rk (ig I i) = r)) I.length)) I.length = -1
        · simp [hq]
        · simp [hq]
      have hne : ∃ i, i < I.length ∧ M.testBit i = true := by
        refine Classical.byContradiction fun hn => h0 ?_
        rw [← hM, bitsOf_0]
        intro i hi
        cases hb : mt I c (sub t p) i
        · rfl
        · exfalso; apply hn
          refine ⟨i, hi, ?_⟩
          rw [← hM, bitsOf_bit]; simp [hi, hb]
      have rle : ∀ i, rk (ig I i) ≤ 2 := by intro i; unfold rk; (repeat' split) <;> omega
      unfold fX6_takes_b32
      obtain ⟨n0, hn0⟩ : ∃ n, FU = n + 1 + 1 + 1 + 1 := ⟨99996, rfl⟩
      rw [hn0]
      simp only [fX6_takes_L38_s, fX6_takes_b38]
      have r0 := p6_ofRank hI' hM31 (r := 0)
      have r1 := p6_ofRank hI' hM31 (r := 1)
      have r2 := p6_ofRank hI' hM31 (r := 2)
      rw [show ((0 : Nat) : Int) = 0 from rfl] at r0
      rw [show ((1 : Nat) : Int) = 1 from rfl] at r1
      rw [show ((2 : Nat) : Int) = 2 from rfl] at r2
      have w0 : wr (0 + 1) = 1 := by decide
      have w1 : wr (1 + 1) = 2 := by decide
      have w2 : wr (2 + 1) = 3 := by decide
      have none_of : ∀ r, bitsOf (fun i => M.testBit i && decide (rk (ig I i) = r)) I.length = 0 → ∀ i, i < I.length → M.testBit i = true → rk (ig I i) ≠ r := by
        intro r h i hi hb hr
        have := bitsOf_0.mp h i hi
        simp [hb, hr] at this
      have some_of : ∀ r, bitsOf (fun i => M.testBit i && decide (rk (ig I i) = r)) I.length ≠ 0 → ∃ i, i < I.length ∧ M.testBit i = true ∧ rk (ig I i) = r := by
        intro r h
        refine Classical.byContradiction fun hn => h ?_
        rw [bitsOf_0]
        intro i hi
        cases hb : M.testBit i
        · simp
        · simp; intro hr; exact hn ⟨i, hi, hb, hr⟩
      simp only [show ¬ (3 : Int) ≤ 0 by decide, show ¬ (3 : Int) ≤ 1 by decide, show ¬ (3 : Int) ≤ 2 by decide, if_false, not_true, r0, r1, r2, bd_s, w0, w1, w2, show (3 : Int) ≤ 3 by decide, if_true, Int.natCast_eq_zero, ite_not]
      split
      · rename_i z0
        split
        · rename_i z1
          refine end9 2 ?_ ?_
          · obtain ⟨i, a, b⟩ := hne
            exact ⟨i, a, b, by have := none_of 0 z0 i a b; have := none_of 1 z1 i a b; have := rle i; omega⟩
          · intro i a b
            have := none_of 0 z0 i a b; have := none_of 1 z1 i a b; omega
        · rename_i z1
          refine end9 1 (some_of 1 z1) ?_
          intro i a b
          have := none_of 0 z0 i a b; omega
      · rename_i z0
        exact end9 0 (some_of 0 z0) (fun i a b => Nat.zero_le _)
    split
    · rename_i hle
      rw [if_neg]
      · exact fin
      · rintro ⟨h, -⟩
        exact h (hpop.mp (by omega))
    · rename_i hle
      rw [p6_isOneSole hI' hM31, bd_s]
      have hm : M &&& (M - 1) ≠ 0 := fun h => hle (by have := hpop.mpr h; omega)
      cases ha : anyN (fun i => M.testBit i && decide (iK (ig I i) = 4)) I.length
      · simp [b01]
        exact fin
      · simp [b01, hm]

set_option maxRecDepth 100000
/-! PURE: what is found of a goal -/
/-- outcome, entries, worth, depth, needs, goals -/
abbrev Rr : Type := Int × List Int × Int × Int × Nat × List (Int × Tm)
def rS (r : Rr) : Int := r.1
def rQ (r : Rr) : List Int := r.2.1
def rW (r : Rr) : Int := r.2.2.1
def rD (r : Rr) : Int := r.2.2.2.1
def rN (r : Rr) : Nat := r.2.2.2.2.1
def rG (r : Rr) : List (Int × Tm) := r.2.2.2.2.2
def vaT : Tm → Nat
  | .var v => v
  | _ => 0
def stL : List Rr → Int → Int
  | [], o => o
  | r :: l, o => stL l (if o = 1 then rS r else o)
def woL : List Rr → Int → Int → Int
  | [], _, o => o
  | r :: l, n, o => woL l (n + 1) (o + n * rW r)
def dpL : List Rr → Int → Int
  | [], o => o
  | r :: l, o => dpL l (mmax o (rD r))
def neL : List Rr → Nat → Nat
  | [], o => o
  | r :: l, o => neL l (o ||| rN r)
def rNeed (c : Int) (t : Tm) : Rr := (1, [10 + 2 * c + (vaT t : Int)], 10 + 2 * c + (vaT t : Int), 1, 2 ^ (2 * c.toNat + vaT t), [(c, t)])
def rBad (o : Int) (c : Int) (t : Tm) : Rr := (o, [], 0, 0, 0, [(c, t)])
def rNode (k : Int) (c : Int) (t : Tm) (l : List Rr) : Rr := (stL l 1, k :: (l.map rQ).flatten, (woL l 2 (7 * (k + 1))) % 1009, dpL l 0 + 1, neL l 0, (c, t) :: (l.map rG).flatten)
theorem rS_rNeed (c : Int) (t : Tm) : rS (rNeed c t) = 1 := rfl
theorem rQ_rNeed (c : Int) (t : Tm) : rQ (rNeed c t) = [10 + 2 * c + (vaT t : Int)] := rfl
theorem rW_rNeed (c : Int) (t : Tm) : rW (rNeed c t) = 10 + 2 * c + (vaT t : Int) := rfl
theorem rD_rNeed (c : Int) (t : Tm) : rD (rNeed c t) = 1 := rfl
theorem rN_rNeed (c : Int) (t : Tm) : rN (rNeed c t) = 2 ^ (2 * c.toNat + vaT t) := rfl
theorem rG_rNeed (c : Int) (t : Tm) : rG (rNeed c t) = [(c, t)] := rfl
theorem rS_rBad (o : Int) (c : Int) (t : Tm) : rS (rBad o c t) = o := rfl
theorem rQ_rBad (o : Int) (c : Int) (t : Tm) : rQ (rBad o c t) = [] := rfl
theorem rW_rBad (o : Int) (c : Int) (t : Tm) : rW (rBad o c t) = 0 := rfl
theorem rD_rBad (o : Int) (c : Int) (t : Tm) : rD (rBad o c t) = 0 := rfl
theorem rN_rBad (o : Int) (c : Int) (t : Tm) : rN (rBad o c t) = 0 := rfl
theorem rG_rBad (o : Int) (c : Int) (t : Tm) : rG (rBad o c t) = [(c, t)] := rfl
theorem rS_rNode (k : Int) (c : Int) (t : Tm) (l : List Rr) : rS (rNode k c t l) = stL l 1 := rfl
theorem rQ_rNode (k : Int) (c : Int) (t : Tm) (l : List Rr) : rQ (rNode k c t l) = k :: (l.map rQ).flatten := rfl
theorem rW_rNode (k : Int) (c : Int) (t : Tm) (l : List Rr) : rW (rNode k c t l) = (woL l 2 (7 * (k + 1))) % 1009 := rfl
theorem rD_rNode (k : Int) (c : Int) (t : Tm) (l : List Rr) : rD (rNode k c t l) = dpL l 0 + 1 := rfl
theorem rN_rNode (k : Int) (c : Int) (t : Tm) (l : List Rr) : rN (rNode k c t l) = neL l 0 := rfl
theorem rG_rNode (k : Int) (c : Int) (t : Tm) (l : List Rr) : rG (rNode k c t l) = (c, t) :: (l.map rG).flatten := rfl
/-- what is put in a head that fits -/
def bdOf (h t : Tm) : Bd := (fit h t bd0).getD bd0
/-- the goals below -/
def prts (I : List Ist) (k : Nat) (t : Tm) : List (Int × Tm) := (iC (ig I k)).map fun q => (q.1, (bdOf (iH (ig I k)) t q.2).getD t)
def resF (I : List Ist) : Nat → Int → Tm → Rr
  | 0, c, t => rBad 0 c t
  | f + 1, c, t => if isV t = true then rNeed c t else if tk I c t = -1 then rBad 0 c t else if tk I c t = -2 then rBad (-2) c t else rNode (tk I c t) c t ((prts I (tk I c t).toNat t).map fun g => resF I f g.1 g.2)
def res (I : List Ist) (c : Int) (t : Tm) : Rr := resF I (szT t) c t
theorem fit_occ : ∀ (h t : Tm) (b b' : Bd), okT h → okT t → fit h t b = some b' → (∀ v, occ v h = true → ∃ q, q < szT t ∧ b' v = some (sub t q) ∧ (isV h = false → 0 < q)) ∧ ∀ v, occ v h = false → b' v = b v := by
  intro h
  induction h with
  | num c =>
    intro t b b' oh ot e
    simp only [fit] at e
    split at e
    · cases e; exact ⟨fun v hv => by simp [occ] at hv, fun v _ => rfl⟩
    · cases e
  | mulR a k ih => intro t b b' oh; cases oh
  | var w =>
    intro t b b' oh ot e
    have hb : b' = bdU b w t := by
      simp only [fit] at e
      split at e
      · cases e; rfl
      · split at e
        · cases e; rfl
        · cases e
    refine ⟨fun v hv => ⟨0, szT_pos t, ?_, fun h => by simp [isV] at h⟩, fun v hv => ?_⟩
    · simp [occ] at hv
      rw [hb, sub_0]; simp [bdU, hv]
    · simp [occ] at hv
      rw [hb]; simp [bdU]; intro h; exact absurd h.symm hv
  | mulL k a ih =>
    intro t b b' oh ot e
    cases t with
    | mulL k' a' =>
      simp only [fit] at e
      obtain ⟨h1, h2⟩ := ih a' b b' oh.2 ot.2 e
      refine ⟨fun v hv => ?_, fun v hv => h2 v hv⟩
      obtain ⟨q, q1, q2, q3⟩ := h1 v hv
      exact ⟨q + 1, by simp only [szT]; omega, by simp only [sub]; exact q2, fun _ => by omega⟩
    | num _ => simp [fit] at e
    | var _ => simp [fit] at e
    | add _ _ => simp [fit] at e
    | mulR _ _ => simp [fit] at e
  | add a1 a2 ih1 ih2 =>
    intro t b b' oh ot e
    cases t with
    | add c1 c2 =>
      simp only [fit] at e
      split at e
      · cases e
      · rename_i b1 e1
        obtain ⟨h1, h2⟩ := ih1 c1 b b1 oh.1 ot.1 e1
        obtain ⟨g1, g2⟩ := ih2 c2 b1 b' oh.2 ot.2 e
        have pc := szT_pos c1
        refine ⟨fun v hv => ?_, fun v hv => ?_⟩
        · cases ho : occ v a2
          · simp [occ, ho] at hv
            obtain ⟨q, q1, q2, q3⟩ := h1 v hv
            refine ⟨q + 1, by simp only [szT]; omega, ?_, fun _ => by omega⟩
            rw [g2 v ho, q2]
            simp only [sub]
            rw [if_pos q1]
          · obtain ⟨q, q1, q2, q3⟩ := g1 v ho
            refine ⟨q + szT c1 + 1, by simp only [szT]; omega, ?_, fun _ => by omega⟩
            rw [q2]
            simp only [sub]
            rw [if_neg (by omega), Nat.add_sub_cancel]
        · simp [occ] at hv
          rw [g2 v hv.2, h2 v hv.1]
    | num _ => simp [fit] at e
    | var _ => simp [fit] at e
    | mulL _ _ => simp [fit] at e
    | mulR _ _ => simp [fit] at e
theorem sub_lt {t : Tm} {q : Nat} (h : okT t) (hq : q < szT t) (h0 : 0 < q) : szT (sub t q) < szT t := by
  have := sub_end t q h hq; omega
theorem tk_ge {I : List Ist} {c : Int} {t : Tm} {k : Nat} (h : tk I c t = (k : Int)) : k < I.length ∧ mt I c t k = true := by
  unfold tk tkM at h
  split at h
  · omega
  · split at h
    · omega
    · split at h
      · rename_i j hf
        have hj : j = k := by omega
        subst hj
        have g1 := List.find?_some hf
        have g2 := List.mem_range.mp (List.mem_of_find?_eq_some hf)
        unfold best at g1
        rw [bitsOf_bit] at g1
        simp [g2] at g1
        exact ⟨g2, g1.1⟩
      · omega
theorem tk_cases (I : List Ist) (c : Int) (t : Tm) : tk I c t = -1 ∨ tk I c t = -2 ∨ ∃ k : Nat, tk I c t = (k : Int) := by
  unfold tk tkM
  split
  · exact Or.inl rfl
  · split
    · exact Or.inr (Or.inl rfl)
    · split
      · exact Or.inr (Or.inr ⟨_, rfl⟩)
      · exact Or.inr (Or.inl rfl)
theorem mt_o {I : List Ist} {c : Int} {t : Tm} {k : Nat} (h : mt I c t k = true) : iO (ig I k) = c ∧ iK (ig I k) ≠ 2 ∧ snd9 (ig I k) = true ∧ fits (iH (ig I k)) t = true := by
  unfold mt at h
  simp at h
  exact ⟨h.1, h.2.1, h.2.2.1, h.2.2.2⟩
/-- the goals below are of lesser types -/
theorem prts_lt {I : List Ist} {n : Nat} {c : Int} {t : Tm} {k : Nat} (hI : ∀ i, i < I.length → okI n (ig I i)) (ht : okT t) (h : tk I c t = (k : Int)) :
    (prts I k t).length = (iC (ig I k)).length ∧ ∀ j, j < (iC (ig I k)).length → ∃ q, 0 < q ∧ q < szT t ∧ bdOf (iH (ig I k)) t (cg (ig I k) j).2 = some (sub t q) ∧ (prts I k t)[j]? = some ((cg (ig I k) j).1, sub t q) := by
  refine ⟨by simp [prts], fun j hj => ?_⟩
  obtain ⟨h1, h2⟩ := tk_ge h
  obtain ⟨d1, d2, d3, d4, d5, d6⟩ := hI k h1
  obtain ⟨m1, m2, m3, m4⟩ := mt_o h2
  obtain ⟨b, hb⟩ := fits_s.mp m4
  have hv : isV (iH (ig I k)) = false := by
    unfold snd9 at m3
    simp at m3
    rcases m3 with m | m
    · rw [m] at hj; simp at hj
    · exact m
  obtain ⟨e1, e2, e3⟩ := d6 j hj
  obtain ⟨q, q1, q2, q3⟩ := (fit_occ _ _ _ _ d3 ht hb).1 _ e3
  have hbd : bdOf (iH (ig I k)) t = b := by unfold bdOf; rw [hb]; rfl
  refine ⟨q, q3 hv, q1, by rw [hbd]; exact q2, ?_⟩
  unfold prts
  rw [List.getElem?_map]
  have : (iC (ig I k))[j]? = some (cg (ig I k) j) := by
    unfold cg
    rw [List.getD_eq_getElem?_getD, List.getElem?_eq_getElem hj]; rfl
  rw [this]
  simp only [Option.map_some, hbd, q2, Option.getD_some]
theorem prts_mem {I : List Ist} {n : Nat} {c : Int} {t : Tm} {k : Nat} (hI : ∀ i, i < I.length → okI n (ig I i)) (ht : okT t) (h : tk I c t = (k : Int)) {g : Int × Tm} (hg : g ∈ prts I k t) :
    ∃ q, 0 < q ∧ q < szT t ∧ g.2 = sub t q ∧ 0 ≤ g.1 ∧ g.1 < n := by
  obtain ⟨h1, h2⟩ := prts_lt hI ht h
  obtain ⟨j, hj, e⟩ := List.mem_iff_getElem.mp hg
  obtain ⟨q, q1, q2, q3, q4⟩ := h2 j (by omega)
  have h5 := ((hI k (tk_ge h).1).2.2.2.2.2 j (by omega)).1
  rw [List.getElem?_eq_getElem hj, e] at q4
  cases q4
  exact ⟨q, q1, q2, rfl, h5⟩
theorem resF_mono {I : List Ist} {n : Nat} (hI : ∀ i, i < I.length → okI n (ig I i)) : ∀ (f : Nat) (c : Int) (t : Tm), okT t → szT t ≤ f → resF I f c t = res I c t := by
  intro f
  induction f using Nat.strongRecOn with
  | _ f ih =>
    intro c t ht hf
    unfold res
    obtain ⟨f, rfl⟩ : ∃ g, f = g + 1 := ⟨f - 1, by have := szT_pos t; omega⟩
    obtain ⟨z, hz⟩ : ∃ g, szT t = g + 1 := ⟨szT t - 1, by have := szT_pos t; omega⟩
    rw [hz]
    simp only [resF]
    split
    · rfl
    · split
      · rfl
      · split
        · rfl
        · rename_i h1 h2
          rcases tk_cases I c t with e | e | ⟨k, e⟩
          · exact absurd e h1
          · exact absurd e h2
          · rw [e]
            congr 1
            apply List.map_congr_left
            intro g hg
            simp only [Int.toNat_natCast] at hg
            obtain ⟨q, q1, q2, q3, q4⟩ := prts_mem hI ht e hg
            have := sub_lt ht q2 q1
            rw [q3, ih f (by omega) _ _ (sub_ok t q ht q2) (by omega), ih z (by omega) _ _ (sub_ok t q ht q2) (by omega)]
/-- what is found, by what is found below -/
theorem res_eq {I : List Ist} {n : Nat} (hI : ∀ i, i < I.length → okI n (ig I i)) {c : Int} {t : Tm} (ht : okT t) :
    res I c t = if isV t = true then rNeed c t else if tk I c t = -1 then rBad 0 c t else if tk I c t = -2 then rBad (-2) c t else rNode (tk I c t) c t ((prts I (tk I c t).toNat t).map fun g => res I g.1 g.2) := by
  obtain ⟨z, hz⟩ : ∃ g, szT t = g + 1 := ⟨szT t - 1, by have := szT_pos t; omega⟩
  unfold res
  rw [hz]
  simp only [resF]
  split
  · rfl
  · split
    · rfl
    · split
      · rfl
      · rename_i h1 h2
        rcases tk_cases I c t with e | e | ⟨k, e⟩
        · exact absurd e h1
        · exact absurd e h2
        · rw [e]
          congr 1
          apply List.map_congr_left
          intro g hg
          simp only [Int.toNat_natCast] at hg
          obtain ⟨q, q1, q2, q3, q4⟩ := prts_mem hI ht e hg
          have := sub_lt ht q2 q1
          rw [q3]
          exact resF_mono hI z _ _ (sub_ok t q ht q2) (by omega)

