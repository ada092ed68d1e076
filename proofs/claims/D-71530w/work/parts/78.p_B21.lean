/-! the pure laws: B21 B22 C8 -/
set_option maxRecDepth 100000
/-! PURE: the model's digest -/
theorem p6_mix {s : Sg} {A : As} (h : R6 s A) (v : Int) : fX6_mix s v = some (sI s 62 (mx (gI s 62) v)) ∧ R6 (sI s 62 (mx (gI s 62) v)) A := ⟨rfl, h.h62 _⟩
/-- a loop that mixes -/
theorem mixN {R : Type} {A : As} (L : Nat → Nat → Sg → Option R) (N : Nat) (G : Nat → Int → Int) (E : Sg → Option R)
    (step : ∀ f k s, k < N → R6 s A → ∃ s', R6 s' A ∧ gI s' 62 = G k (gI s 62) ∧ L (f + 1) k s = L f (k + 1) s') (done : ∀ f s, R6 s A → L (f + 1) N s = E s) (hN : N < FU) :
    ∀ s, R6 s A → ∃ s', R6 s' A ∧ gI s' 62 = itN G N (gI s 62) ∧ L FU 0 s = E s' := by
  intro s hs
  obtain ⟨s', ⟨h1, h2⟩, h3⟩ := loopN L N (fun k x => R6 x A ∧ gI x 62 = itN G k (gI s 62)) E (fun f k x hk hx => by
    obtain ⟨x', a, b, c⟩ := step f k x hk hx.1
    exact ⟨x', ⟨a, by rw [b, hx.2]; rfl⟩, c⟩) (fun f x hx => done f x hx.1) FU 0 s (by omega) (by omega) ⟨hs, rfl⟩
  exact ⟨s', h1, h2, h3⟩
theorem p6_dg19 {A : As} {c : Nat} (hc : c < asN A) {K : Sg → Int → Option (Int × Sg)} : ∀ s, R6 s A → ∃ s', R6 s' A ∧ gI s' 62 = itN (fun w h => mx h (aboutV A c w)) 3 (gI s 62) ∧ fX6_digest_L19 K FU s c 0 = K s' ((c : Int) + 1) := by
  refine mixN (fun f k s => fX6_digest_L19 K f s c k) 3 _ _ ?_ ?_ (by unfold FU; omega)
  · intro f k s hk h
    show ∃ s', R6 s' A ∧ _ ∧ fX6_digest_L19 K (f + 1) s c k = fX6_digest_L19 K f s' c ((k + 1 : Nat) : Int)
    rw [fX6_digest_L19_s, fX6_digest_b19, if_neg (by omega), p6_aboutNow h hc, bd_s, (p6_mix h _).1, bd_s, wr_id (by omega) (by omega)]
    exact ⟨_, (p6_mix h _).2, rfl, rfl⟩
  · intro f s h
    have hn := h.1.2.1.1
    show fX6_digest_L19 K (f + 1) s c ((3 : Nat) : Int) = _
    rw [fX6_digest_L19_s, fX6_digest_b19, if_pos (by omega), wr_id (by omega) (by omega)]
theorem p6_dg9 {A : As} : ∀ s, R6 s A → ∃ s', R6 s' A ∧ gI s' 62 = dgA A (gI s 62) ∧ fX6_digest_L9 FU s 0 = fX6_digest_L49 FU s' 0 := by
  intro s0 h0
  refine mixN (fun f k s => fX6_digest_L9 f s k) (asN A) _ (fun s => fX6_digest_L49 FU s 0) ?_ ?_ (by have := h0.1.2.1.1; unfold FU; omega) s0 h0
  · intro f k s hk h
    show ∃ s', R6 s' A ∧ _ ∧ fX6_digest_L9 (f + 1) s k = fX6_digest_L9 f s' ((k + 1 : Nat) : Int)
    rw [fX6_digest_L9_s, fX6_digest_b9, h.2.2.1.1, if_neg (by omega)]
    obtain ⟨s', a, b, c⟩ := p6_dg19 hk (K := fX6_digest_L9 f) s h
    exact ⟨s', a, b, by rw [c]; rfl⟩
  · intro f s h
    show fX6_digest_L9 (f + 1) s (asN A : Int) = _
    rw [fX6_digest_L9_s, fX6_digest_b9, h.2.2.1.1, if_pos (by omega)]
theorem p6_dg59 {A : As} {i : Nat} (hi : i < (asI A).length) {K : Sg → Int → Option (Int × Sg)} : ∀ s, R6 s A → ∃ s', R6 s' A ∧ gI s' 62 = itN (fun w h => mx h (instV A i w)) 8 (gI s 62) ∧ fX6_digest_L59 K FU s i 0 = K s' ((i : Int) + 1) := by
  refine mixN (fun f k s => fX6_digest_L59 K f s i k) 8 _ _ ?_ ?_ (by unfold FU; omega)
  · intro f k s hk h
    show ∃ s', R6 s' A ∧ _ ∧ fX6_digest_L59 K (f + 1) s i k = fX6_digest_L59 K f s' i ((k + 1 : Nat) : Int)
    obtain ⟨s1, e1, k1⟩ := p6_instanceNow (w := (k : Int)) h hi (by omega)
    have h1 := h.keep k1
    have h62 : gI s1 62 = gI s 62 := k1.I (by decide)
    rw [fX6_digest_L59_s, fX6_digest_b59, if_neg (by omega), e1, bd_s, (p6_mix h1 _).1, bd_s, wr_id (by omega) (by omega)]
    exact ⟨_, (p6_mix h1 _).2, by rw [h62]; rfl, rfl⟩
  · intro f s h
    have hn := h.1.2.2.1.1
    show fX6_digest_L59 K (f + 1) s i ((8 : Nat) : Int) = _
    rw [fX6_digest_L59_s, fX6_digest_b59, if_pos (by omega), wr_id (by omega) (by omega)]
theorem p6_dg49 {A : As} : ∀ s, R6 s A → ∃ s', R6 s' A ∧ gI s' 62 = dgI A (gI s 62) ∧ fX6_digest_L49 FU s 0 = fX6_digest_L90 FU s' 0 := by
  intro s0 h0
  refine mixN (fun f k s => fX6_digest_L49 f s k) (asI A).length _ (fun s => fX6_digest_L90 FU s 0) ?_ ?_ (by have := h0.1.2.2.1.1; unfold FU; omega) s0 h0
  · intro f k s hk h
    show ∃ s', R6 s' A ∧ _ ∧ fX6_digest_L49 (f + 1) s k = fX6_digest_L49 f s' ((k + 1 : Nat) : Int)
    rw [fX6_digest_L49_s, fX6_digest_b49, h.2.2.1.2.2.1, if_neg (by omega)]
    obtain ⟨s', a, b, c⟩ := p6_dg59 hk (K := fX6_digest_L49 f) s h
    exact ⟨s', a, b, by rw [c]; rfl⟩
  · intro f s h
    show fX6_digest_L49 (f + 1) s ((asI A).length : Int) = _
    rw [fX6_digest_L49_s, fX6_digest_b49, h.2.2.1.2.2.1, if_pos (by omega)]
theorem p6_goalNow2 {s : Sg} {A : As} {t : Tm} {c : Nat} {w : Int} (h : R6 s A) (hL : Laid s (asI A) (asN A) t) (hc : c < asN A) : ∃ s', fX6_goalNow s c w = some (goalVal A (res (asI A) c t) w, s') ∧ R6 s' A ∧ Laid s' (asI A) (asN A) t ∧ gI s' 62 = gI s 62 := by
  obtain ⟨s', e, k⟩ := p6_goalNow (w := w) h hL hc
  exact ⟨s', e, h.kp k (by decide), hL.keep44 k, k.I (by decide)⟩
theorem Laid.h62 {s : Sg} {I : List Ist} {n : Nat} {t : Tm} (h : Laid s I n t) (v : Int) : Laid (sI s 62 v) I n t := by
  obtain ⟨h1, h2, h3, h4, h5⟩ := h
  have hk : keepS [62] s (sI s 62 v) := keepI _ s (by decide) v
  refine ⟨h1.keep hk (by decide), h2.keep hk (by decide), h3.keep hk (by decide) (by decide), h4.keep hk (by decide), fun c q a b => ?_⟩
  exact h5 c q a b
theorem p6_dgT {A : As} {t : Tm} : ∀ s, R6 s A → Laid s (asI A) (asN A) t → ∃ s', R6 s' A ∧ gI s' 62 = dgT A t (gI s 62) ∧ fX6_mixSlot_L11 FU s 0 = some s' := by
  intro s0 h0 l0
  have inner : ∀ (c : Nat), c < asN A → ∀ (K : Sg → Int → Option Sg) (s : Sg), R6 s A → Laid s (asI A) (asN A) t → ∃ s', (R6 s' A ∧ Laid s' (asI A) (asN A) t) ∧ gI s' 62 = dgT2 A t c (gI s 62) ∧ fX6_mixSlot_L21 K FU s c 0 = K s' ((c : Int) + 1) := by
    intro c hc K s hs ls
    have hn := hs.1.2.1.1
    refine Exists.elim (loopN (fun f w s => fX6_mixSlot_L21 K f s c w) 7 (fun w x => (R6 x A ∧ Laid x (asI A) (asN A) t) ∧ gI x 62 = itN (dgT1 A t c) w (gI s 62)) (fun x => K x ((c : Int) + 1)) ?_ ?_ FU 0 s (by unfold FU; omega) (by omega) ⟨⟨hs, ls⟩, rfl⟩) ?_
    rotate_left 2
    · rintro s' ⟨⟨h1, h2⟩, h3⟩; exact ⟨s', h1, h2, h3⟩
    · rintro f w x hw ⟨⟨h1, h2⟩, h3⟩
      show ∃ x', _ ∧ fX6_mixSlot_L21 K (f + 1) x c w = fX6_mixSlot_L21 K f x' c ((w + 1 : Nat) : Int)
      obtain ⟨s1, e1, k1, l1, g1⟩ := p6_goalNow2 (w := (w : Int)) h1 h2 hc
      rw [fX6_mixSlot_L21_s, fX6_mixSlot_b21, if_neg (by omega), e1, bd_s, (p6_mix k1 _).1, bd_s, wr_id (by omega) (by omega)]
      exact ⟨_, ⟨⟨(p6_mix k1 _).2, l1.h62 _⟩, by rw [gI_sI, if_pos rfl, g1, h3, itN_s]; rfl⟩, rfl⟩
    · rintro f x -
      show fX6_mixSlot_L21 K (f + 1) x c ((7 : Nat) : Int) = _
      rw [fX6_mixSlot_L21_s, fX6_mixSlot_b21, if_pos (by omega), wr_id (by omega) (by omega)]
  refine Exists.elim (loopN (fun f c s => fX6_mixSlot_L11 f s c) (asN A) (fun c x => (R6 x A ∧ Laid x (asI A) (asN A) t) ∧ gI x 62 = itN (dgT2 A t) c (gI s0 62)) (fun x => some x) ?_ ?_ FU 0 s0 (by have := h0.1.2.1.1; unfold FU; omega) (by omega) ⟨⟨h0, l0⟩, rfl⟩) ?_
  rotate_left 2
  · rintro s' ⟨⟨h1, h2⟩, h3⟩; exact ⟨s', h1.1, h2, h3⟩
  · rintro f c x hc ⟨⟨h1, h2⟩, h3⟩
    show ∃ x', _ ∧ fX6_mixSlot_L11 (f + 1) x c = fX6_mixSlot_L11 f x' ((c + 1 : Nat) : Int)
    obtain ⟨s1, ⟨a1, a2⟩, b, d⟩ := inner c hc (fX6_mixSlot_L11 f) x h1 h2
    rw [fX6_mixSlot_L11_s, fX6_mixSlot_b11, h1.2.2.1.1, if_neg (by omega), d]
    exact ⟨s1, ⟨⟨a1, a2⟩, by rw [b, h3, itN_s]⟩, rfl⟩
  · rintro f x ⟨⟨h1, h2⟩, h3⟩
    show fX6_mixSlot_L11 (f + 1) x (asN A : Int) = _
    rw [fX6_mixSlot_L11_s, fX6_mixSlot_b11, h1.2.2.1.1, if_pos (by omega)]
theorem p6_dg90 {A : As} : ∀ s, R6 s A → ∃ s', R6 s' A ∧ gI s' 62 = dgS A (gI s 62) ∧ fX6_digest_L90 FU s 0 = fX6_digest_L117 FU s' 0 := by
  refine mixN (fun f k s => fX6_digest_L90 f s k) 4 _ (fun s => fX6_digest_L117 FU s 0) ?_ ?_ (by unfold FU; omega)
  · intro f k s hk h
    show ∃ s', R6 s' A ∧ _ ∧ fX6_digest_L90 (f + 1) s k = fX6_digest_L90 f s' ((k + 1 : Nat) : Int)
    have hle := (h.2.2.2.2.2.1).le hk
    rw [fX6_digest_L90_s, fX6_digest_b90, if_neg (by omega), gd_t (by omega)]
    unfold fX6_digest_b109
    rw [wr_id (by omega) (by omega)]
    cases hS : asS A k with
    | none =>
      rw [hS] at hle
      rw [if_pos (hle.mpr rfl)]
      exact ⟨s, h, rfl, rfl⟩
    | some t =>
      rw [hS] at hle
      rw [if_neg (fun q => by have := hle.mp q; simp at this)]
      obtain ⟨s1, s2, e1, e2, k2, h2, L⟩ := p6_laid (a := (k : Int)) h (by unfold slotOf; rw [if_pos (by omega), Int.toNat_natCast]; exact hS)
      obtain ⟨s3, a, b, d⟩ := p6_dgT s2 h2 L
      unfold fX6_mixSlot
      rw [e1, bd_s, e2, bd_s, d, bd_s]
      exact ⟨s3, a, by rw [b, k2.I (by decide)], rfl⟩
  · intro f s h
    show fX6_digest_L90 (f + 1) s ((4 : Nat) : Int) = _
    rw [fX6_digest_L90_s, fX6_digest_b90, if_pos (by omega)]
theorem p6_dg117 {A : As} : ∀ s, R6 s A → ∃ s', R6 s' A ∧ gI s' 62 = dgP A (gI s 62) ∧ fX6_digest_L117 FU s 0 = fX6_digest_L144 FU s' 0 := by
  intro s0 h0
  refine mixN (fun f k s => fX6_digest_L117 f s k) (asP A).length _ (fun s => fX6_digest_L144 FU s 0) ?_ ?_ (by have := h0.1.1.1; unfold FU; omega) s0 h0
  · intro f k s hk h
    show ∃ s', R6 s' A ∧ _ ∧ fX6_digest_L117 (f + 1) s k = fX6_digest_L117 f s' ((k + 1 : Nat) : Int)
    have h84 := h.1.1.1
    obtain ⟨h19, h20⟩ := h.2.2.2.2.2.2.2.1
    have hv : gA s 20 (k : Int) = (asP A).getD k 0 := by
      rw [h20 k _ (List.getElem?_eq_getElem hk), List.getD_eq_getElem?_getD, List.getElem?_eq_getElem hk]; rfl
    rw [fX6_digest_L117_s, fX6_digest_b117, h19, if_neg (by omega), gd_t (by omega), (p6_mix h _).1, bd_s, wr_id (by omega) (by omega), hv]
    exact ⟨_, (p6_mix h _).2, rfl, rfl⟩
  · intro f s h
    show fX6_digest_L117 (f + 1) s ((asP A).length : Int) = _
    rw [fX6_digest_L117_s, fX6_digest_b117, h.2.2.2.2.2.2.2.1.1, if_pos (by omega)]
theorem p6_dg144 {A : As} : ∀ s, R6 s A → ∃ s', R6 s' A ∧ gI s' 62 = dgC A (gI s 62) ∧ fX6_digest_L144 FU s 0 = some (gI s' 62, s') := by
  refine mixN (fun f k s => fX6_digest_L144 f s k) 11 _ (fun s => some (gI s 62, s)) ?_ ?_ (by unfold FU; omega)
  · intro f k s hk h
    show ∃ s', R6 s' A ∧ _ ∧ fX6_digest_L144 (f + 1) s k = fX6_digest_L144 f s' ((k + 1 : Nat) : Int)
    obtain ⟨s1, e1, k1, g1⟩ := p6_howMany h (k : Int) (by omega)
    rw [fX6_digest_L144_s, fX6_digest_b144, if_neg (by omega), e1, bd_s, (p6_mix k1 _).1, bd_s, wr_id (by omega) (by omega)]
    exact ⟨_, (p6_mix k1 _).2, by rw [gI_sI, if_pos rfl, g1], rfl⟩
  · intro f s h
    show fX6_digest_L144 (f + 1) s ((11 : Nat) : Int) = _
    rw [fX6_digest_L144_s, fX6_digest_b144, if_pos (by omega)]
theorem p6_digest {s : Sg} {A : As} (h : R6 s A) : ∃ s', fX6_digest s = some (sp_digest A, s') ∧ R6 s' A := by
  unfold fX6_digest
  obtain ⟨s1, a1, b1, c1⟩ := p6_dg9 _ (h.h62 1367)
  obtain ⟨s2, a2, b2, c2⟩ := p6_dg49 s1 a1
  obtain ⟨s3, a3, b3, c3⟩ := p6_dg90 s2 a2
  obtain ⟨s4, a4, b4, c4⟩ := p6_dg117 s3 a3
  obtain ⟨s5, a5, b5, c5⟩ := p6_dg144 s4 a4
  rw [c1, c2, c3, c4, c5]
  refine ⟨s5, ?_, a5⟩
  unfold sp_digest
  rw [b5, b4, b3, b2, b1]
  rfl

set_option maxRecDepth 100000
/-! PURE: the model's drawn -/
theorem p_land31 {y : Int} (h0 : 0 ≤ y) (h1 : y < 9223372036854775808) : land y 2147483647 = y % 2147483648 := by
  obtain ⟨n, rfl⟩ : ∃ n : Nat, y = (n : Int) := ⟨y.toNat, by omega⟩
  unfold land
  have e1 : (I64 (n : Int)).toBitVec = BitVec.ofNat 64 n := by
    show (Int64.ofInt (n : Int)).toBitVec = _
    rw [Int64.toBitVec_ofInt]; simp
  have e2 : (I64 2147483647).toBitVec = BitVec.ofNat 64 2147483647 := by decide
  show (I64 (n : Int) &&& I64 2147483647).toBitVec.toInt = _
  rw [Int64.toBitVec_and, e1, e2, ← BitVec.ofNat_and, BitVec.toInt_eq_toNat_cond]
  have hm : n &&& 2147483647 = n % 2147483648 := Nat.and_two_pow_sub_one_eq_mod n 31
  rw [hm]
  simp only [BitVec.toNat_ofNat]
  rw [Nat.mod_eq_of_lt (by omega), if_pos (by omega)]
  omega
theorem p_ldiv {a b : Int} (ha : 0 ≤ a) (ha' : a < 9223372036854775808) (hb : 0 < b) (hb' : b < 9223372036854775808) : I64 a / I64 b = I64 (a / b) := by
  have h1 : 0 ≤ a / b := Int.ediv_nonneg ha (by omega)
  have h2 : a / b ≤ a := Int.ediv_le_self b ha
  apply Int64.toInt_inj.mp
  have hne : I64 b ≠ -1 := by
    intro h
    have := congrArg Int64.toInt h
    rw [toL ⟨by omega, by omega⟩] at this
    rw [show (-1 : Int64).toInt = -1 by decide] at this
    omega
  rw [Int64.toInt_div_of_ne_right _ _ hne, toL ⟨by omega, by omega⟩, toL ⟨by omega, by omega⟩, toL ⟨by omega, by omega⟩, Int.tdiv_eq_ediv_of_nonneg ha]
theorem p_ldv {a b : Int} (ha : 0 ≤ a) (ha' : a < 9223372036854775808) (hb : 0 < b) (hb' : b < 9223372036854775808) : ldv a b = a / b := by
  have h1 : 0 ≤ a / b := Int.ediv_nonneg ha (by omega)
  have h2 : a / b ≤ a := Int.ediv_le_self b ha
  unfold ldv
  rw [p_ldiv ha ha' hb hb', toL ⟨by omega, by omega⟩]
theorem p_lrm {a b : Int} (ha : 0 ≤ a) (ha' : a < 9223372036854775808) (hb : 0 < b) (hb' : b < 9223372036854775808) : lrm a b = a % b := by
  have h1 : 0 ≤ a / b := Int.ediv_nonneg ha (by omega)
  have h2 : a / b ≤ a := Int.ediv_le_self b ha
  have h3 : 0 ≤ a % b := Int.emod_nonneg a (by omega)
  have h4 : a % b < b := Int.emod_lt_of_pos a hb
  unfold lrm
  rw [p_ldiv ha ha' hb hb']
  have e1 : I64 (a / b) * I64 b = I64 (a / b * b) := by
    unfold I64; rw [Int64.ofInt_mul]
  rw [e1]
  have e2 : I64 a - I64 (a / b * b) = I64 (a - a / b * b) := by
    unfold I64; rw [Int64.ofInt_sub]
  have e3 : a - a / b * b = a % b := by
    have := Int.emod_add_mul_ediv a b
    rw [Int.mul_comm b] at this
    omega
  rw [e2, e3, toL ⟨by omega, by omega⟩]
theorem lcg_land {x : Int} (h : 0 ≤ x ∧ x < 2147483648) : land (wl (wl (1103515245 * x) + 12345)) 2147483647 = lcg x := by
  rw [wl_id (x := 1103515245 * x) (by omega) (by omega), wl_id (by omega) (by omega), p_land31 (by omega) (by omega)]
  rfl
theorem p6_draw {s : Sg} {d : Int} (h : 0 ≤ gI s 52 ∧ gI s 52 < 2147483648) (hd : 0 < d ∧ d < 1000) : fX6_draw s d = some (drw (lcg (gI s 52)) d, sI s 52 (lcg (gI s 52))) := by
  unfold fX6_draw
  rw [gd_t (by omega), lcg_land h]
  have e : gI (sI s 52 (lcg (gI s 52))) 52 = lcg (gI s 52) := rfl
  have hr := lcg_r (gI s 52)
  have h1 : 0 ≤ lcg (gI s 52) / 65536 := by omega
  have h3 : 0 ≤ lcg (gI s 52) / 65536 % d := Int.emod_nonneg _ (by omega)
  have h4 : lcg (gI s 52) / 65536 % d < d := Int.emod_lt_of_pos _ (by omega)
  rw [e, p_ldv (by omega) (by omega) (by omega) (by omega), p_lrm (by omega) (by omega) (by omega) (by omega), wr_id (by omega) (by omega)]
  rfl
theorem drw_r {x d : Int} (h : 0 ≤ x) (hd : 0 < d) : 0 ≤ drw x d ∧ drw x d < d := ⟨Int.emod_nonneg _ (by omega), Int.emod_lt_of_pos _ hd⟩
/-- the letters that are laid so far -/
def NowL (s : Sg) (l : List Int) : Prop := gI s 34 = (l.length : Int) ∧ ∀ p : Nat, ∀ c, l[p]? = some c → gA s 32 (p : Int) = c
theorem p6_addLetter {s : Sg} {l : List Int} {c : Int} (h : NowL s l) (h9 : l.length < 9) : ∃ s', fX6_addLetter s c = some s' ∧ NowL s' (l ++ [c]) ∧ keepS [32, 34] s s' := by
  unfold fX6_addLetter
  rw [h.1, gd_t (by omega)]
  have e : gI (sA s 32 (l.length : Int) c) 34 = (l.length : Int) := h.1
  rw [e, wr_id (by omega) (by omega)]
  refine ⟨_, rfl, ⟨by simp [gI_sI], fun p x hx => ?_⟩, (keepA _ s (by decide) _ _).sI (by decide) _⟩
  rw [gA_sI, gA_sA]
  by_cases hp : p = l.length
  · subst hp; simp at hx; simp [hx]
  · have hpl : p < l.length := by
      have := (List.getElem?_eq_some_iff.mp hx).1
      simp at this; omega
    rw [if_neg (by omega)]
    rw [List.getElem?_append_left hpl] at hx
    exact h.2 p x hx
def lb (no : Int) : Int := if no = 0 then 105 else if no = 1 then 98 else if no = 2 then 108 else 112
theorem p6_letterBy (no : Int) : fX6_letterBy no = some (lb no) := by
  unfold fX6_letterBy lb
  split
  · rfl
  · split
    · rfl
    · split <;> rfl
/-- a letter is drawn and laid -/
theorem p6_lay {R : Type} {s : Sg} {l : List Int} {d : Int} (h : NowL s l) (h9 : l.length < 9) (hx : 0 ≤ gI s 52 ∧ gI s 52 < 2147483648) (hd : 0 < d ∧ d < 1000) (K : Int → Sg → Option R) :
    ∃ s', (bd (fX6_draw s d) fun p => bd (fX6_letterBy p.1) fun q => bd (fX6_addLetter p.2 q) fun r => K q r) = K (lb (drw (lcg (gI s 52)) d)) s' ∧ NowL s' (l ++ [lb (drw (lcg (gI s 52)) d)]) ∧ keepS [32, 34, 52] s s' ∧ gI s' 52 = lcg (gI s 52) := by
  have h1 : NowL (sI s 52 (lcg (gI s 52))) l := h
  obtain ⟨s', e, n, k⟩ := p6_addLetter (c := lb (drw (lcg (gI s 52)) d)) h1 h9
  refine ⟨s', ?_, n, (keepI [32, 34, 52] s (by decide) _).trans (k.mono (by decide)), ?_⟩
  · rw [p6_draw hx hd, bd_s, p6_letterBy, bd_s, e, bd_s]
  · rw [k.I (by decide)]; rfl
theorem lb2 {x : Int} (h : 0 ≤ x ∧ x < 2) : lb x = sgT (lfT x) ∧ flat (lfT x) = [lb x] := by
  have : x = 0 ∨ x = 1 := by omega
  rcases this with rfl | rfl <;> exact ⟨rfl, rfl⟩
theorem lb4 {x : Int} (h : 0 ≤ x ∧ x < 4) : ((x = 0 ∨ x = 1) ∧ flat (lfT x) = [lb x] ∧ fX6_wants (lb x) = some 0) ∨ (x = 2 ∧ lb x = 108) ∨ (x = 3 ∧ lb x = 112) := by
  have : x = 0 ∨ x = 1 ∨ x = 2 ∨ x = 3 := by omega
  rcases this with rfl | rfl | rfl | rfl
  · left; exact ⟨Or.inl rfl, rfl, rfl⟩
  · left; exact ⟨Or.inr rfl, rfl, rfl⟩
  · right; left; exact ⟨rfl, rfl⟩
  · right; right; exact ⟨rfl, rfl⟩
/-- the lowest level: so many letters -/
theorem p6_leaf {K29 : Sg → Int → Int → Option Sg} {a1 : Int} {a2 : Nat} {c : Int} {w : Nat} (hw : fX6_wants c = some (w : Int)) (hw2 : w ≤ 2) (ha2 : a2 < 10) : ∀ (m f : Nat) (s : Sg) (l : List Int) (j : Nat), m < f → m + j = w → NowL s l → l.length + m ≤ 9 → (0 ≤ gI s 52 ∧ gI s 52 < 2147483648) →
    match m with
    | 0 => fX6_drawType_L51 K29 f s a1 a2 c j = K29 s a1 ((a2 : Int) + 1)
    | 1 => ∃ s', fX6_drawType_L51 K29 f s a1 a2 c j = K29 s' a1 ((a2 : Int) + 1) ∧ NowL s' (l ++ flat (drT 0 (gI s 52)).1) ∧ keepS [32, 34, 52] s s' ∧ gI s' 52 = (drT 0 (gI s 52)).2
    | _ => ∃ s', fX6_drawType_L51 K29 f s a1 a2 c j = K29 s' a1 ((a2 : Int) + 1) ∧ NowL s' (l ++ flat (drT 0 (gI s 52)).1 ++ flat (drT 0 (drT 0 (gI s 52)).2).1) ∧ keepS [32, 34, 52] s s' ∧ gI s' 52 = (drT 0 (drT 0 (gI s 52)).2).2 := by
  have last : ∀ (f : Nat) (s : Sg) (j : Nat), 0 < f → j = w → fX6_drawType_L51 K29 f s a1 a2 c j = K29 s a1 ((a2 : Int) + 1) := by
    intro f s j hf hj
    obtain ⟨f, rfl⟩ : ∃ k, f = k + 1 := ⟨f - 1, by omega⟩
    rw [fX6_drawType_L51_s, fX6_drawType_b51, hw, bd_s, if_pos (by omega), wr_id (by omega) (by omega)]
  have one : ∀ (f : Nat) (s : Sg) (l : List Int) (j : Nat), 0 < f → j < w → NowL s l → l.length < 9 → (0 ≤ gI s 52 ∧ gI s 52 < 2147483648) → ∃ s', fX6_drawType_L51 K29 f s a1 a2 c j = fX6_drawType_L51 K29 (f - 1) s' a1 a2 c ((j + 1 : Nat) : Int) ∧ NowL s' (l ++ flat (drT 0 (gI s 52)).1) ∧ keepS [32, 34, 52] s s' ∧ gI s' 52 = (drT 0 (gI s 52)).2 := by
    intro f s l j hf hj hN hl hx
    obtain ⟨f, rfl⟩ : ∃ k, f = k + 1 := ⟨f - 1, by omega⟩
    obtain ⟨s', e, n, k, g⟩ := p6_lay (R := Sg) (d := 2) hN hl hx (by omega) (fun _ r => fX6_drawType_L51 K29 f r a1 a2 c (wr ((j : Int) + 1)))
    refine ⟨s', ?_, ?_, k, g⟩
    · rw [fX6_drawType_L51_s, fX6_drawType_b51, hw, bd_s, if_neg (by omega), e, wr_id (by omega) (by omega)]
      rfl
    · have hd := drw_r (lcg_r (gI s 52)).1 (show (0 : Int) < 2 by omega)
      have := (lb2 hd).2
      show NowL s' (l ++ flat (lfT (drw (lcg (gI s 52)) 2)))
      rw [this]; exact n
  intro m f s l j hf hm hN hl hx
  match m, hf, hm, hl with
  | 0, hf, hm, hl => exact last f s j (by omega) (by omega)
  | 1, hf, hm, hl =>
    obtain ⟨s', e, n, k, g⟩ := one f s l j (by omega) (by omega) hN (by omega) hx
    exact ⟨s', by rw [e]; exact last (f - 1) s' (j + 1) (by omega) (by omega), n, k, g⟩
  | m + 2, hf, hm, hl =>
    have : m = 0 := by omega
    subst this
    obtain ⟨s', e, n, k, g⟩ := one f s l j (by omega) (by omega) hN (by omega) hx
    have hz := flat_len _ (drT_ok 0 (gI s 52)).1
    have hz2 := (drT_ok 0 (gI s 52)).2.2
    have hx' : 0 ≤ gI s' 52 ∧ gI s' 52 < 2147483648 := by rw [g]; exact (drT_ok 0 (gI s 52)).2.1
    obtain ⟨s'', e', n', k', g'⟩ := one (f - 1) s' (l ++ flat (drT 0 (gI s 52)).1) (j + 1) (by omega) (by omega) n (by simp only [List.length_append]; omega) hx'
    rw [g] at n' g'
    exact ⟨s'', by rw [e, e']; exact last (f - 1 - 1) s'' (j + 1 + 1) (by omega) (by omega), n', k.trans k', g'⟩
/-- the middle level: one type -/
theorem p6_mid {a1 : Int} {a2 f : Nat} {s : Sg} {l : List Int} (h2 : ¬ a1 ≤ (a2 : Int)) (ha2 : a2 < 10) (hN : NowL s l) (hl : l.length + 3 ≤ 9) (hx : 0 ≤ gI s 52 ∧ gI s 52 < 2147483648) :
    ∃ s', fX6_drawType_L29 (f + 1) s a1 a2 = fX6_drawType_L29 f s' a1 ((a2 + 1 : Nat) : Int) ∧ NowL s' (l ++ flat (drT 1 (gI s 52)).1) ∧ keepS [32, 34, 52] s s' ∧ gI s' 52 = (drT 1 (gI s 52)).2 := by
  obtain ⟨s1, e, n, k, g⟩ := p6_lay (R := Sg) (d := 4) hN (by omega) hx (by omega) (fun q r => fX6_drawType_L51 (fX6_drawType_L29 f) FU r a1 a2 q 0)
  have hd := drw_r (lcg_r (gI s 52)).1 (show (0 : Int) < 4 by omega)
  have hx1 : 0 ≤ gI s1 52 ∧ gI s1 52 < 2147483648 := by rw [g]; exact lcg_r _
  have eq : fX6_drawType_L29 (f + 1) s a1 a2 = fX6_drawType_L51 (fX6_drawType_L29 f) FU s1 a1 a2 (lb (drw (lcg (gI s 52)) 4)) 0 := by
    rw [fX6_drawType_L29_s, fX6_drawType_b29, if_neg h2, e]
  rw [eq]
  rcases lb4 hd with ⟨h01, hfl, hwt⟩ | ⟨h2', hlb⟩ | ⟨h3', hlb⟩
  · have hdr : drT 1 (gI s 52) = (lfT (drw (lcg (gI s 52)) 4), lcg (gI s 52)) := by
      simp only [drT]; rw [if_pos h01]
    have := p6_leaf (K29 := fX6_drawType_L29 f) (a1 := a1) (a2 := a2) (w := 0) hwt (by omega) ha2 0 FU s1 _ 0 (by unfold FU; omega) rfl n (by simp only [List.length_append, List.length_cons, List.length_nil]; omega) hx1
    refine ⟨s1, this, ?_, k, by rw [hdr]; exact g⟩
    rw [hdr]
    show NowL s1 (l ++ flat (lfT _))
    rw [hfl]; exact n
  · have hdr : drT 1 (gI s 52) = (.mulL 0 (drT 0 (lcg (gI s 52))).1, (drT 0 (lcg (gI s 52))).2) := by
      simp only [drT]; rw [if_neg (by omega), if_pos h2']
    have hwt : fX6_wants (lb (drw (lcg (gI s 52)) 4)) = some ((1 : Nat) : Int) := by rw [hlb]; rfl
    obtain ⟨s2, e2, n2, k2, g2⟩ := p6_leaf (K29 := fX6_drawType_L29 f) (a1 := a1) (a2 := a2) (w := 1) hwt (by omega) ha2 1 FU s1 _ 0 (by unfold FU; omega) rfl n (by simp only [List.length_append, List.length_cons, List.length_nil]; omega) hx1
    rw [g] at n2 g2
    refine ⟨s2, e2, ?_, k.trans k2, by rw [hdr]; exact g2⟩
    rw [hdr]
    rw [hlb, List.append_assoc] at n2
    exact n2
  · have hdr : drT 1 (gI s 52) = (.add (drT 0 (lcg (gI s 52))).1 (drT 0 (drT 0 (lcg (gI s 52))).2).1, (drT 0 (drT 0 (lcg (gI s 52))).2).2) := by
      simp only [drT]; rw [if_neg (by omega), if_neg (by omega)]
    have hwt : fX6_wants (lb (drw (lcg (gI s 52)) 4)) = some ((2 : Nat) : Int) := by rw [hlb]; rfl
    obtain ⟨s2, e2, n2, k2, g2⟩ := p6_leaf (K29 := fX6_drawType_L29 f) (a1 := a1) (a2 := a2) (w := 2) hwt (by omega) ha2 2 FU s1 _ 0 (by unfold FU; omega) rfl n (by simp only [List.length_append, List.length_cons, List.length_nil]; omega) hx1
    rw [g] at n2 g2
    refine ⟨s2, e2, ?_, k.trans k2, by rw [hdr]; exact g2⟩
    rw [hdr]
    rw [hlb, List.append_assoc, List.append_assoc] at n2
    exact n2
theorem NowL.now {s : Sg} {t : Tm} (h : NowL s (flat t)) (ht : okT t) (h9 : szT t ≤ 9) : NowT s t := by
  refine ⟨by rw [h.1, flat_len t ht], h9, ht, fun p hp => ?_⟩
  have hp' : p < (flat t).length := by rw [flat_len t ht]; exact hp
  unfold ltr
  rw [List.getD_eq_getElem?_getD, List.getElem?_eq_getElem hp']
  exact h.2 p _ (List.getElem?_eq_getElem hp')
theorem p6_drawType {s : Sg} (hx : 0 ≤ gI s 52 ∧ gI s 52 < 2147483648) : ∃ s', fX6_drawType s = some s' ∧ NowT s' (drT 2 (gI s 52)).1 ∧ Szs s' (drT 2 (gI s 52)).1 ∧ keepS [32, 33, 34, 52] s s' ∧ gI s' 52 = (drT 2 (gI s 52)).2 := by
  have hN0 : NowL (sI s 34 0) [] := ⟨rfl, fun p c h => by cases h⟩
  have k0 : keepS [32, 34, 52] s (sI s 34 0) := keepI _ s (by decide) _
  obtain ⟨s1, e, n, k, g⟩ := p6_lay (R := Sg) (d := 4) hN0 (by simp) hx (by omega) (fun q r => bd (fX6_wants (gA r 32 0)) fun p16 => fX6_drawType_L29 FU r p16 0)
  have e52 : gI (sI s 34 0) 52 = gI s 52 := rfl
  rw [e52] at n g
  have hd := drw_r (lcg_r (gI s 52)).1 (show (0 : Int) < 4 by omega)
  have hx1 : 0 ≤ gI s1 52 ∧ gI s1 52 < 2147483648 := by rw [g]; exact lcg_r _
  have h32 : gA s1 32 0 = lb (drw (lcg (gI s 52)) 4) := n.2 0 _ rfl
  have eq : fX6_drawType s = bd (fX6_wants (lb (drw (lcg (gI s 52)) 4))) fun p16 => fX6_drawType_L29 FU s1 p16 0 := by
    unfold fX6_drawType
    rw [e, h32]
  have hok := drT_ok 2 (gI s 52)
  have h8 : (2 : Nat) ^ (2 + 1) = 8 := by decide
  have h4 : (2 : Nat) ^ (1 + 1) = 4 := by decide
  have fin : ∀ (s' : Sg) (w : Nat) (f : Nat), NowL s' (flat (drT 2 (gI s 52)).1) → keepS [32, 34, 52] s s' → gI s' 52 = (drT 2 (gI s 52)).2 → 0 < f → ∃ s'', fX6_drawType_L29 f s' w w = some s'' ∧ NowT s'' (drT 2 (gI s 52)).1 ∧ Szs s'' (drT 2 (gI s 52)).1 ∧ keepS [32, 33, 34, 52] s s'' ∧ gI s'' 52 = (drT 2 (gI s 52)).2 := by
    intro s' w f hn hk hg hf
    obtain ⟨f, rfl⟩ : ∃ k, f = k + 1 := ⟨f - 1, by omega⟩
    have hT := hn.now hok.1 (by omega)
    obtain ⟨s'', e, k, S⟩ := p6_laySizes hT
    refine ⟨s'', ?_, hT.keep k (by decide) (by decide), S, (hk.mono (by decide)).trans (k.mono (by decide)), by rw [k.I (by decide)]; exact hg⟩
    rw [fX6_drawType_L29_s, fX6_drawType_b29, if_pos (by omega), e]
    rfl
  rw [eq]
  rcases lb4 hd with ⟨h01, hfl, hwt⟩ | ⟨h2', hlb⟩ | ⟨h3', hlb⟩
  · have hdr : drT 2 (gI s 52) = (lfT (drw (lcg (gI s 52)) 4), lcg (gI s 52)) := by
      rw [drT, if_pos h01]
    rw [hwt, bd_s]
    refine fin s1 0 FU ?_ (k0.trans k) (by rw [hdr]; exact g) (by unfold FU; omega)
    rw [hdr]
    show NowL s1 (flat (lfT _))
    rw [hfl]; exact n
  · have hdr : drT 2 (gI s 52) = (.mulL 0 (drT 1 (lcg (gI s 52))).1, (drT 1 (lcg (gI s 52))).2) := by
      rw [drT, if_neg (by omega), if_pos h2']
    have hwt : fX6_wants (lb (drw (lcg (gI s 52)) 4)) = some ((1 : Nat) : Int) := by rw [hlb]; rfl
    rw [hwt, bd_s]
    obtain ⟨n0, hn0⟩ : ∃ n0, FU = n0 + 1 + 1 := ⟨99998, rfl⟩
    rw [hn0]
    obtain ⟨s2, e2, n2, k2, g2⟩ := p6_mid (a1 := ((1 : Nat) : Int)) (a2 := 0) (f := n0 + 1) (by omega) (by omega) n (by simp) hx1
    rw [g] at n2 g2
    rw [show ((0 : Nat) : Int) = 0 from rfl] at e2
    rw [e2]
    refine fin s2 1 (n0 + 1) ?_ ((k0.trans k).trans k2) (by rw [hdr]; exact g2) (by omega)
    rw [hdr, hlb] at *
    exact n2
  · have hdr : drT 2 (gI s 52) = (.add (drT 1 (lcg (gI s 52))).1 (drT 1 (drT 1 (lcg (gI s 52))).2).1, (drT 1 (drT 1 (lcg (gI s 52))).2).2) := by
      rw [drT, if_neg (by omega), if_neg (by omega)]
    have hwt : fX6_wants (lb (drw (lcg (gI s 52)) 4)) = some ((2 : Nat) : Int) := by rw [hlb]; rfl
    rw [hwt, bd_s]
    obtain ⟨n0, hn0⟩ : ∃ n0, FU = n0 + 1 + 1 + 1 := ⟨99997, rfl⟩
    rw [hn0]
    obtain ⟨s2, e2, n2, k2, g2⟩ := p6_mid (a1 := ((2 : Nat) : Int)) (a2 := 0) (f := n0 + 1 + 1) (by omega) (by omega) n (by simp) hx1
    rw [g] at n2 g2
    have o1 := drT_ok 1 (lcg (gI s 52))
    have z1 := flat_len _ o1.1
    obtain ⟨s3, e3, n3, k3, g3⟩ := p6_mid (a1 := ((2 : Nat) : Int)) (a2 := 1) (f := n0 + 1) (by omega) (by omega) n2 (by simp only [List.length_append, List.length_cons, List.length_nil]; omega) (by rw [g2]; exact o1.2.1)
    rw [g2] at n3 g3
    rw [show ((0 : Nat) : Int) = 0 from rfl] at e2
    rw [e2, show ((0 + 1 : Nat) : Int) = ((1 : Nat) : Int) from rfl, e3]
    refine fin s3 2 (n0 + 1) ?_ (((k0.trans k).trans k2).trans k3) (by rw [hdr]; exact g3) (by omega)
    rw [hdr]
    rw [hlb, List.nil_append, List.append_assoc] at n3
    exact n3
theorem p6_drawnNow {s : Sg} {A : As} (h : R6 s A) (hn : 0 < asN A) {times : Nat} (ht : times ≤ 30) {seed w : Int} (hs : 0 ≤ seed ∧ seed < 2147483648) :
    ∃ s', fX6_drawnNow s times seed w = some ((if w = 0 then (drK (asI A) (asN A) seed times).1 else if w = 1 then (drK (asI A) (asN A) seed times).2.1 else (drK (asI A) (asN A) seed times).2.2), s') ∧ R6 s' A := by
  have hn4 := h.1.2.1.1
  have dk := drK_ok (asI A) (asN A) hs
  refine Exists.elim (loopN (fun f k (v : Int × Int × Sg) => fX6_drawnNow_L15 f v.2.2 times w v.1 v.2.1 k) times (fun k v => (R6 v.2.2 A ∧ gI v.2.2 52 = (drK (asI A) (asN A) seed k).2.2) ∧ v.1 = (drK (asI A) (asN A) seed k).1 ∧ v.2.1 = (drK (asI A) (asN A) seed k).2.1) (fun v => some ((if w = 0 then v.1 else if w = 1 then v.2.1 else gI v.2.2 52), v.2.2)) ?_ ?_ FU 0 (0, 0, sI s 52 seed) (by unfold FU; omega) (by omega) ⟨⟨h.kp (keepI [52] s (by decide) seed) (by decide), rfl⟩, rfl, rfl⟩) ?_
  rotate_left 2
  · rintro ⟨a, b, s'⟩ ⟨⟨⟨h1, h2⟩, h3, h4⟩, h5⟩
    dsimp only at h1 h2 h3 h4 h5
    subst h3 h4
    rw [h2] at h5
    exact ⟨s', h5, h1⟩
  · rintro f k ⟨a, b, s'⟩ hk ⟨⟨h1, h2⟩, h3, h4⟩
    dsimp only at h1 h2 h3 h4
    show ∃ v' : Int × Int × Sg, _ ∧ fX6_drawnNow_L15 (f + 1) s' times w a b k = fX6_drawnNow_L15 f v'.2.2 times w v'.1 v'.2.1 ((k + 1 : Nat) : Int)
    obtain ⟨d1, d2, d3⟩ := dk k
    have hx : 0 ≤ gI s' 52 ∧ gI s' 52 < 2147483648 := by rw [h2]; exact d3
    have k1 : keepS [52] s' (sI s' 52 (lcg (gI s' 52))) := keepI _ s' (by decide) _
    have r1 := h1.kp k1 (by decide)
    have hx1 : 0 ≤ gI (sI s' 52 (lcg (gI s' 52))) 52 ∧ gI (sI s' 52 (lcg (gI s' 52))) 52 < 2147483648 := lcg_r _
    obtain ⟨s2, e2, n2, z2, k2, g2⟩ := p6_drawType hx1
    have e52 : gI (sI s' 52 (lcg (gI s' 52))) 52 = lcg (gI s' 52) := rfl
    rw [e52] at n2 z2 g2
    have r2 := r1.kp k2 (by decide)
    obtain ⟨s3, e3, k3, gg⟩ := p6_layGoals r2.2.2.1 r2.2.2.2.1 n2 z2
    have r3 := r2.kp k3 (by decide)
    have L : Laid s3 (asI A) (asN A) (drT 2 (lcg (gI s' 52))).1 := ⟨r3.2.2.1, r3.2.2.2.1, n2.keep k3 (by decide) (by decide), z2.keep k3 (by decide), gg⟩
    have hc := drw_r (lcg_r (gI s' 52)).1 (show (0 : Int) < (asN A : Int) by omega)
    obtain ⟨c, hcc⟩ : ∃ c : Nat, drw (lcg (gI s' 52)) (asN A) = (c : Int) := ⟨(drw (lcg (gI s' 52)) (asN A)).toNat, by omega⟩
    have hcn : c < asN A := by omega
    have h34 : gI s3 34 = (szT (drT 2 (lcg (gI s' 52))).1 : Int) := (L.2.2.1).1
    have h52 : gI s3 52 = (drT 2 (lcg (gI s' 52))).2 := by rw [k3.I (by decide)]; exact g2
    have hz := (drT_ok 2 (lcg (gI s' 52))).2.2
    have h8 : (2 : Nat) ^ (2 + 1) = 8 := by decide
    rw [fX6_drawnNow_L15_s, fX6_drawnNow_b15, if_neg (by omega), h1.2.2.1.1, p6_draw hx (by omega), bd_s]
    dsimp only
    rw [e2, bd_s, e3, bd_s, hcc, wr_id (x := 9 * (c : Int)) (by omega) (by omega), gd_t (by omega), (L.at0 hcn).1]
    unfold fX6_drawnNow_b60
    rw [h34, h3, h4, wr_id (x := (drK (asI A) (asN A) seed k).2.1 + (szT (drT 2 (lcg (gI s' 52))).1 : Int)) (by omega) (by omega), wr_id (x := (k : Int) + 1) (by omega) (by omega)]
    have hk1 : drK (asI A) (asN A) seed (k + 1) = ((drK (asI A) (asN A) seed k).1 + bI (decide (rS (res (asI A) (c : Int) (drT 2 (lcg (gI s' 52))).1) = 1)), (drK (asI A) (asN A) seed k).2.1 + (szT (drT 2 (lcg (gI s' 52))).1 : Int), (drT 2 (lcg (gI s' 52))).2) := by
      simp only [drK]
      rw [← h2, hcc]
    refine ⟨((drK (asI A) (asN A) seed (k + 1)).1, (drK (asI A) (asN A) seed (k + 1)).2.1, s3), ⟨⟨r3, by rw [hk1]; exact h52⟩, rfl, rfl⟩, ?_⟩
    rw [hk1, show ((k + 1 : Nat) : Int) = (k : Int) + 1 by omega]
    dsimp only
    by_cases hf : rS (res (asI A) (c : Int) (drT 2 (lcg (gI s' 52))).1) = 1
    · rw [if_neg (by simp [hf]), wr_id (by omega) (by omega)]; simp [bI, hf]
    · rw [if_pos hf, wr_id (by omega) (by omega)]; simp [bI, hf]
  · rintro f ⟨a, b, s'⟩ ⟨⟨h1, h2⟩, h3, h4⟩
    dsimp only at h1 h2 h3 h4
    show fX6_drawnNow_L15 (f + 1) s' times w a b times = _
    have := (dk times).2.2
    rw [fX6_drawnNow_L15_s, fX6_drawnNow_b15, if_pos (by omega)]
    unfold fX6_drawnNow_b102
    rw [h2, wr_id (by omega) (by omega)]
    dsimp only
    by_cases w0 : w = 0
    · rw [if_neg (by simp [w0]), if_pos w0]
    · rw [if_pos w0, if_neg w0]
      by_cases w1 : w = 1
      · rw [if_neg (by simp [w1]), if_pos w1]
      · rw [if_pos w1, if_neg w1]
theorem p6_drawn {s : Sg} {A : As} (h : R6 s A) (hnn : asB A ≠ 0 → 0 < asN A) (times seed w : Int) (hs : seed < 2147483648) : ∃ s', fX6_drawn s times seed w = some (sp_drawn A times seed w, s') ∧ R6 s' A := by
  unfold fX6_drawn sp_drawn fX6_drawn_b23 fX6_drawn_b45
  rw [p6_within, bd_s]
  by_cases h1 : 1 ≤ times ∧ times ≤ 30
  · rw [if_neg (fun q => b01_0.mp q h1)]
    by_cases h2 : seed < 0
    · rw [if_pos h2, if_neg (by omega)]; exact ⟨s, rfl, h⟩
    · rw [if_neg h2, p6_within, bd_s]
      by_cases h3 : 0 ≤ w ∧ w ≤ 2
      · rw [if_pos (fun q => b01_0.mp q h3), h.2.1]
        have hcond : (1 ≤ times ∧ times ≤ 30) ∧ 0 ≤ seed ∧ 0 ≤ w ∧ w ≤ 2 := ⟨h1, by omega, h3⟩
        simp only [if_pos hcond]
        by_cases hb : asB A = 0
        · rw [if_neg (by omega), if_pos hb]; exact ⟨s, rfl, h⟩
        · rw [if_pos (by omega), if_neg hb]
          obtain ⟨tn, rfl⟩ : ∃ tn : Nat, times = (tn : Int) := ⟨times.toNat, by omega⟩
          obtain ⟨s', e, k⟩ := p6_drawnNow (w := w) h (hnn hb) (show tn ≤ 30 by omega) (seed := seed) ⟨by omega, hs⟩
          rw [e, bd_s, Int.toNat_natCast]
          exact ⟨s', rfl, k⟩
      · rw [if_neg (fun q => q (b01_0.mpr h3)), if_neg (fun q => h3 q.2.2)]; exact ⟨s, rfl, h⟩
  · rw [if_pos (b01_0.mpr h1), if_neg (fun q => h1 q.1)]; exact ⟨s, rfl, h⟩

set_option maxRecDepth 100000
/-! PURE: a page read -/
def pl (P : List Int) (k : Nat) : Int := P.getD k 0
def wnt (c : Int) : Int := if c = 98 then 0 else if c = 105 then 0 else if c = 108 then 1 else if c = 112 then 2 else if c = 120 then 0 else if c = 121 then 0 else -1
/-- letters of a type, at most B with those that are lacked; where it ends, whether all is there -/
def scS (P : List Int) (B : Nat) : Nat → Nat → Nat → Nat → Nat × Bool
  | 0, k, _, _ => (k, false)
  | f + 1, k, sz, la => if la = 0 then (k, true) else if wnt (pl P k) = -1 ∨ (B : Int) < (sz : Int) + la + wnt (pl P k) then (k, false) else scS P B f (k + 1) (sz + 1) (la + (wnt (pl P k)).toNat - 1)
/-- the type that begins at a place; where it ends -/
def ptr (P : List Int) : Nat → Nat → Option (Tm × Nat)
  | 0, _ => none
  | f + 1, k => if pl P k = 105 ∨ pl P k = 98 then some (.num (pl P k).toNat, k + 1) else if pl P k = 120 ∨ pl P k = 121 then some (.var (pl P k - 120).toNat, k + 1) else if pl P k = 108 then (match ptr P f (k + 1) with
    | none => none
    | some (a, k1) => some (.mulL 0 a, k1)) else if pl P k = 112 then (match ptr P f (k + 1) with
    | none => none
    | some (a, k1) => match ptr P f k1 with
      | none => none
      | some (c, k2) => some (.add a c, k2)) else none
theorem ptr_mono (P : List Int) : ∀ (f g k : Nat) (r : Tm × Nat), f ≤ g → ptr P f k = some r → ptr P g k = some r := by
  intro f
  induction f with
  | zero => intro g k r _ e; cases e
  | succ f ih =>
    intro g k r hg e
    obtain ⟨g, rfl⟩ : ∃ h, g = h + 1 := ⟨g - 1, by omega⟩
    simp only [ptr] at e ⊢
    split at e
    · rename_i h; rw [if_pos h]; exact e
    · rename_i h
      rw [if_neg h]
      split at e
      · rename_i h1; rw [if_pos h1]; exact e
      · rename_i h1
        rw [if_neg h1]
        split at e
        · rename_i h2
          rw [if_pos h2]
          cases h3 : ptr P f (k + 1) with
          | none => rw [h3] at e; cases e
          | some a => rw [h3] at e; rw [ih g (k + 1) a (by omega) h3]; exact e
        · rename_i h2
          rw [if_neg h2]
          split at e
          · rename_i h3
            rw [if_pos h3]
            cases h4 : ptr P f (k + 1) with
            | none => rw [h4] at e; cases e
            | some a =>
              rw [h4] at e
              rw [ih g (k + 1) a (by omega) h4]
              dsimp only at e ⊢
              cases h5 : ptr P f a.2 with
              | none => rw [h5] at e; cases e
              | some c => rw [h5] at e; rw [ih g a.2 c (by omega) h5]; exact e
          · cases e
/-- what is read is there -/
theorem ptr_ok (P : List Int) : ∀ (f k : Nat) (t : Tm) (k1 : Nat), ptr P f k = some (t, k1) → okT t ∧ k1 = k + szT t ∧ ∀ j, j < szT t → pl P (k + j) = ltr t j := by
  intro f
  induction f with
  | zero => intro k t k1 e; cases e
  | succ f ih =>
    intro k t k1 e
    simp only [ptr] at e
    split at e
    · rename_i h
      cases e
      refine ⟨by simp only [okT]; omega, rfl, fun j hj => ?_⟩
      simp only [szT] at hj
      have : j = 0 := by omega
      subst this
      show pl P k = ((pl P k).toNat : Int)
      omega
    · split at e
      · rename_i h
        cases e
        refine ⟨by show (pl P k - 120).toNat < 2; omega, rfl, fun j hj => ?_⟩
        simp only [szT] at hj
        have : j = 0 := by omega
        subst this
        show pl P k = 120 + (((pl P k - 120).toNat : Nat) : Int)
        omega
      · split at e
        · rename_i h
          cases h3 : ptr P f (k + 1) with
          | none => rw [h3] at e; cases e
          | some a =>
            rw [h3] at e
            obtain ⟨a, k2⟩ := a
            cases e
            obtain ⟨q1, q2, q3⟩ := ih (k + 1) a k1 h3
            refine ⟨⟨rfl, q1⟩, by simp only [szT]; omega, fun j hj => ?_⟩
            simp only [szT] at hj
            cases j with
            | zero => exact h
            | succ j =>
              have := q3 j (by omega)
              rw [show k + 1 + j = k + (j + 1) by omega] at this
              rw [this]
              rfl
        · split at e
          · rename_i h
            cases h4 : ptr P f (k + 1) with
            | none => rw [h4] at e; cases e
            | some a =>
              rw [h4] at e
              obtain ⟨a, k2⟩ := a
              dsimp only at e
              cases h5 : ptr P f k2 with
              | none => rw [h5] at e; cases e
              | some c =>
                rw [h5] at e
                obtain ⟨c, k3⟩ := c
                cases e
                obtain ⟨q1, q2, q3⟩ := ih (k + 1) a k2 h4
                obtain ⟨r1, r2, r3⟩ := ih k2 c k1 h5
                refine ⟨⟨q1, r1⟩, by simp only [szT]; omega, fun j hj => ?_⟩
                simp only [szT] at hj
                have la := flat_len a q1
                cases j with
                | zero => exact h
                | succ j =>
                  unfold ltr
                  simp only [flat, List.getD_cons_succ]
                  by_cases hja : j < szT a
                  · have := q3 j hja
                    rw [show k + 1 + j = k + (j + 1) by omega] at this
                    rw [this]
                    unfold ltr
                    rw [List.getD_eq_getElem?_getD, List.getD_eq_getElem?_getD, List.getElem?_append_left (by omega)]
                  · have := r3 (j - szT a) (by omega)
                    rw [show k2 + (j - szT a) = k + (j + 1) by omega] at this
                    rw [this]
                    unfold ltr
                    rw [List.getD_eq_getElem?_getD, List.getD_eq_getElem?_getD, List.getElem?_append_right (by omega), la]
          · cases e
/-- letters that are all there are a type -/
theorem scS_ptr (P : List Int) (B : Nat) : ∀ (n k sz la k' : Nat), scS P B n k sz (la + 1) = (k', true) → ∃ t k1 n1, n1 < n ∧ ptr P n k = some (t, k1) ∧ scS P B n1 k1 (sz + szT t) la = (k', true) := by
  intro n
  induction n using Nat.strongRecOn with
  | _ n ih =>
    intro k sz la k' e
    cases n with
    | zero => simp [scS] at e
    | succ n =>
      simp only [scS] at e
      rw [if_neg (by omega)] at e
      split at e
      · simp at e
      · rename_i hw
        have hw1 : ¬ wnt (pl P k) = -1 := fun q => hw (Or.inl q)
        simp only [ptr]
        by_cases l1 : pl P k = 105 ∨ pl P k = 98
        · have w0 : wnt (pl P k) = 0 := by rcases l1 with q | q <;> rw [q] <;> rfl
          rw [if_pos l1]
          rw [w0] at e
          exact ⟨_, _, n, by omega, rfl, by simpa [szT] using e⟩
        · rw [if_neg l1]
          by_cases l2 : pl P k = 120 ∨ pl P k = 121
          · have w0 : wnt (pl P k) = 0 := by rcases l2 with q | q <;> rw [q] <;> rfl
            rw [if_pos l2]
            rw [w0] at e
            exact ⟨_, _, n, by omega, rfl, by simpa [szT] using e⟩
          · rw [if_neg l2]
            by_cases l3 : pl P k = 108
            · have w0 : wnt (pl P k) = 1 := by rw [l3]; rfl
              rw [if_pos l3]
              rw [w0] at e
              obtain ⟨t, k1, n1, h1, h2, h3⟩ := ih n (by omega) (k + 1) (sz + 1) la k' (by simpa using e)
              rw [h2]
              exact ⟨_, _, n1, by omega, rfl, by simp only [szT]; rw [show sz + (szT t + 1) = sz + 1 + szT t by omega]; exact h3⟩
            · rw [if_neg l3]
              by_cases l4 : pl P k = 112
              · have w0 : wnt (pl P k) = 2 := by rw [l4]; rfl
                rw [if_pos l4]
                rw [w0] at e
                obtain ⟨t, k1, n1, h1, h2, h3⟩ := ih n (by omega) (k + 1) (sz + 1) (la + 1) k' (by simpa using e)
                obtain ⟨u, k2, n2, g1, g2, g3⟩ := ih n1 (by omega) k1 (sz + 1 + szT t) la k' h3
                rw [h2]
                dsimp only
                rw [ptr_mono P n1 n k1 _ (by omega) g2]
                exact ⟨_, _, n2, by omega, rfl, by simp only [szT]; rw [show sz + (szT t + szT u + 1) = sz + 1 + szT t + szT u by omega]; exact g3⟩
              · exfalso
                apply hw1
                unfold wnt
                rw [if_neg (fun q => l1 (Or.inr q)), if_neg (fun q => l1 (Or.inl q)), if_neg l3, if_neg l4, if_neg (fun q => l2 (Or.inl q)), if_neg (fun q => l2 (Or.inr q))]
theorem scS_0 (P : List Int) (B : Nat) : ∀ (n k sz : Nat) (k' : Nat), scS P B n k sz 0 = (k', true) → k' = k := by
  intro n k sz k' e
  cases n with
  | zero => simp [scS] at e
  | succ n => simp [scS] at e; exact e.symm
theorem scS_one {P : List Int} {B n k sz k' : Nat} (e : scS P B n k sz 1 = (k', true)) : ∃ t, ptr P n k = some (t, k') ∧ okT t ∧ k' = k + szT t := by
  obtain ⟨t, k1, n1, h1, h2, h3⟩ := scS_ptr P B n k sz 0 k' e
  have := scS_0 P B n1 k1 _ k' h3
  subst this
  obtain ⟨q1, q2, q3⟩ := ptr_ok P n k t k' h2
  exact ⟨t, h2, q1, q2⟩
/-! the book -/
def rdC (P : List Int) (C k : Nat) : Nat × Bool × Nat :=
  if pl P k = 45 then (k + 1, true, 0) else if ¬ (0 ≤ pl P k - 48 ∧ pl P k - 48 < C) then (k, false, 0) else if ¬ (0 ≤ pl P (k + 1) - 48 ∧ pl P (k + 1) - 48 ≤ 9) then (k + 1, true, 2 ^ (pl P k - 48).toNat) else if ¬ (pl P k - 48 < pl P (k + 1) - 48 ∧ pl P (k + 1) - 48 < C) then (k + 1, false, 0) else (k + 2, true, 2 ^ (pl P k - 48).toNat ||| 2 ^ (pl P (k + 1) - 48).toNat)
def rdCs (P : List Int) : Nat → Nat → List Nat → Nat × Bool × List Nat
  | 0, k, L => (k, false, L)
  | f + 1, k, L => if (rdC P L.length k).2.1 = false then ((rdC P L.length k).1, false, L) else if (L.length + 1 < 4 ∧ pl P (rdC P L.length k).1 = 44) then rdCs P f ((rdC P L.length k).1 + 1) (L ++ [(rdC P L.length k).2.2]) else ((rdC P L.length k).1, true, L ++ [(rdC P L.length k).2.2])
def kdB (c : Int) : Int := if c = 100 then 1 else if c = 102 then 3 else if c = 104 then 2 else if c = 110 then 0 else if c = 115 then 4 else -1
/-- conditions: so many more -/
def rdD (P : List Int) (C : Nat) (h : Tm) : Nat → Nat → List (Int × Nat) → Nat × Bool × List (Int × Nat)
  | 0, k, D => (k, true, D)
  | m + 1, k, D => if ¬ ((occ 0 h = true ∨ occ 1 h = true) ∧ 0 ≤ pl P k - 48 ∧ pl P k - 48 ≤ 9) then (k, true, D) else if ¬ pl P k - 48 < C then (k, false, D) else if ¬ ((pl P (k + 1) = 120 ∨ pl P (k + 1) = 121) ∧ occ (pl P (k + 1) - 120).toNat h = true) then (k + 1, false, D) else rdD P C h m (k + 2) (D ++ [(pl P k - 48, (pl P (k + 1) - 120).toNat)])
def rdI (P : List Int) (C k : Nat) : Nat × Bool × Ist :=
  if kdB (pl P k) = -1 then (k, false, ist0) else if ¬ (0 ≤ pl P (k + 1) - 48 ∧ pl P (k + 1) - 48 < C) then (k + 1, false, ist0) else if (scS P 5 6 (k + 2) 0 1).2 = false then ((scS P 5 6 (k + 2) 0 1).1, false, ist0) else match ptr P 6 (k + 2) with
    | none => (k, false, ist0)
    | some (h, k1) => ((rdD P C h 2 k1 []).1, (rdD P C h 2 k1 []).2.1, (kdB (pl P k), pl P (k + 1) - 48, h, (rdD P C h 2 k1 []).2.2))
def rdIs (P : List Int) (C : Nat) : Nat → Nat → List Ist → Nat × Bool × List Ist
  | 0, k, I => (k, false, I)
  | f + 1, k, I => if (rdI P C k).2.1 = false then ((rdI P C k).1, false, I) else if (I.length + 1 < 6 ∧ pl P (rdI P C k).1 = 44) then rdIs P C f ((rdI P C k).1 + 1) (I ++ [(rdI P C k).2.2]) else ((rdI P C k).1, true, I ++ [(rdI P C k).2.2])
def rd (P : List Int) : Nat × Option (List Nat × List Ist) :=
  if (rdCs P 4 0 []).2.1 = false ∨ pl P (rdCs P 4 0 []).1 ≠ 59 then ((rdCs P 4 0 []).1, none) else ((rdIs P (rdCs P 4 0 []).2.2.length 6 ((rdCs P 4 0 []).1 + 1) []).1, if (rdIs P (rdCs P 4 0 []).2.2.length 6 ((rdCs P 4 0 []).1 + 1) []).2.1 = true ∧ (rdIs P (rdCs P 4 0 []).2.2.length 6 ((rdCs P 4 0 []).1 + 1) []).1 = P.length then some ((rdCs P 4 0 []).2.2, (rdIs P (rdCs P 4 0 []).2.2.length 6 ((rdCs P 4 0 []).1 + 1) []).2.2) else none)
def sp_fault (A : As) : Int := ((rd (asP A)).1 : Int)
def orN (F : Nat → Nat) : Nat → Nat
  | 0 => 0
  | n + 1 => orN F n ||| F n
def abF (ra : Nat → Nat) : Nat → Nat → Nat
  | 0, _ => 0
  | c + 1, x => if x = c then ra c ||| orN (fun e => if (ra c).testBit e = true then abF ra c e else 0) c else abF ra c x
def sp_book (A : As) : Int × As := match (rd (asP A)).2 with
  | none => (-103, A)
  | some (L, I) => ((I.length : Int), ([], (L.length, (fun c => L.getD c 0), abF (fun c => L.getD c 0) L.length), I, (fun _ => none), [], asB A + 1, asK A))
def sp_type (A : As) (k : Int) : Int × As := if 0 ≤ k ∧ k ≤ 3 then (if asB A = 0 ∨ (scS (asP A) 1000 100 0 0 1).2 = false ∨ (scS (asP A) 1000 100 0 0 1).1 ≠ (asP A).length then (-103, A) else if 9 < (asP A).length then (-104, A) else match ptr (asP A) 100 0 with
  | none => (-103, A)
  | some (t, _) => (((asP A).length : Int), asP' (asS' A (fun j => if j = k.toNat then some t else asS A j)) [])) else (-101, A)

