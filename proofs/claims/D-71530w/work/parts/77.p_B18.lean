/-! the pure laws: B18 B19 B20 C7 -/
set_option maxRecDepth 100000
/-! PURE: two heads brought together (model) -/
/-- the two heads that are looked at -/
def Two (s : Sg) (h g : Tm) : Prop := ∃ i e : Nat, gI s 45 = (i : Int) ∧ gI s 46 = (e : Int) ∧ Hd6 s i h ∧ Hd6 s e g
def rep (h g : Tm) (n : Nat) (x : Nd) : Prop := (∃ p, p < szT h ∧ n = p ∧ x = (sub h p, 0)) ∨ ∃ p, p < szT g ∧ n = 5 + p ∧ x = (sub g p, 2)
def Bn6 (s : Sg) (h g : Tm) (b : Bn) : Prop := ∀ v : Nat, v < 4 → match b v with
  | none => gA s 47 (v : Int) = -1
  | some y => ∃ n : Nat, rep h g n y ∧ gA s 47 (v : Int) = (n : Int)
theorem Two.ok {s : Sg} {h g : Tm} (H : Two s h g) : okT h ∧ szT h ≤ 5 ∧ okT g ∧ szT g ≤ 5 := by
  obtain ⟨i, e, -, -, a, b⟩ := H
  exact ⟨a.2.1, a.2.2.1, b.2.1, b.2.2.1⟩
theorem Two.keep {s s' : Sg} {h g : Tm} {L : List Nat} (H : Two s h g) (hk : keepS L s s') (hL : ∀ k ∈ [7, 8, 45, 46], k ∉ L) : Two s' h g := by
  obtain ⟨i, e, a, b, c, d⟩ := H
  exact ⟨i, e, (hk.I (hL 45 (by decide))).trans a, (hk.I (hL 46 (by decide))).trans b, c.keep hk (hL 7 (by decide)) (hL 8 (by decide)), d.keep hk (hL 7 (by decide)) (hL 8 (by decide))⟩
theorem Bn6.keep {s s' : Sg} {h g : Tm} {b : Bn} {L : List Nat} (H : Bn6 s h g b) (hk : keepS L s s') (hL : 47 ∉ L) : Bn6 s' h g b := by
  intro v hv
  have := H v hv
  revert this
  cases b v with
  | none => intro q; exact (hk.A hL _).trans q
  | some y => rintro ⟨n, r, q⟩; exact ⟨n, r, (hk.A hL _).trans q⟩
theorem rep_lt {s : Sg} {h g : Tm} (H : Two s h g) {n : Nat} {x : Nd} (r : rep h g n x) : n < 10 ∧ okT x.1 ∧ szT x.1 ≤ 5 ∧ n + szT x.1 ≤ 10 ∧ (x.2 = 0 ∨ x.2 = 2) := by
  obtain ⟨h1, h2, h3, h4⟩ := H.ok
  rcases r with ⟨p, hp, rfl, rfl⟩ | ⟨p, hp, rfl, rfl⟩
  · have := sub_ok h n h1 hp; have := sub_end h n h1 hp
    exact ⟨by omega, by assumption, by simp only; omega, by simp only; omega, Or.inl rfl⟩
  · have := sub_ok g p h3 hp; have := sub_end g p h3 hp
    exact ⟨by omega, by assumption, by simp only; omega, by simp only; omega, Or.inr rfl⟩
theorem rep_l {s : Sg} {h g : Tm} (H : Two s h g) {n : Nat} {a : Tm} {k fr : Nat} (r : rep h g n (.mulL k a, fr)) : rep h g (n + 1) (a, fr) := by
  obtain ⟨h1, h2, h3, h4⟩ := H.ok
  rcases r with ⟨p, hp, rfl, e⟩ | ⟨p, hp, rfl, e⟩
  · obtain ⟨e1, e2⟩ := Prod.mk.injEq .. ▸ e
    obtain ⟨q1, q2, q3⟩ := sub_l h1 hp e1.symm
    exact Or.inl ⟨n + 1, q2, rfl, by rw [q1, e2]⟩
  · obtain ⟨e1, e2⟩ := Prod.mk.injEq .. ▸ e
    obtain ⟨q1, q2, q3⟩ := sub_l h3 hp e1.symm
    exact Or.inr ⟨p + 1, q2, rfl, by rw [q1, e2]⟩
theorem rep_p {s : Sg} {h g : Tm} (H : Two s h g) {n : Nat} {a c : Tm} {fr : Nat} (r : rep h g n (.add a c, fr)) : rep h g (n + 1) (a, fr) ∧ rep h g (n + 1 + szT a) (c, fr) := by
  obtain ⟨h1, h2, h3, h4⟩ := H.ok
  rcases r with ⟨p, hp, rfl, e⟩ | ⟨p, hp, rfl, e⟩
  · obtain ⟨e1, e2⟩ := Prod.mk.injEq .. ▸ e
    obtain ⟨q1, q2, q3, q4⟩ := sub_p h1 hp e1.symm
    exact ⟨Or.inl ⟨n + 1, by omega, rfl, by rw [q1, e2]⟩, Or.inl ⟨n + 1 + szT a, q3, rfl, by rw [q2, e2]⟩⟩
  · obtain ⟨e1, e2⟩ := Prod.mk.injEq .. ▸ e
    obtain ⟨q1, q2, q3, q4⟩ := sub_p h3 hp e1.symm
    exact ⟨Or.inr ⟨p + 1, by omega, rfl, by rw [q1, e2]⟩, Or.inr ⟨p + 1 + szT a, q3, by omega, by rw [q2, e2]⟩⟩
theorem p6_letterOf {s : Sg} {h g : Tm} (H : Two s h g) {n : Nat} {x : Nd} (r : rep h g n x) : fX6_letterOf s n = some (sgT x.1) := by
  obtain ⟨i, e, a, b, ⟨c1, c2, c3, c4, c5⟩, ⟨d1, d2, d3, d4, d5⟩⟩ := H
  unfold fX6_letterOf fX6_letterOf_b21
  rcases r with ⟨p, hp, rfl, rfl⟩ | ⟨p, hp, rfl, rfl⟩
  · rw [if_neg (by omega), a, p_irm (by omega) (by omega) (by omega) (by omega), wr_id (x := 5 * (i : Int)) (by omega) (by omega), wr_id (by omega) (by omega), gd_t (by omega), show (n : Int) % 5 = (n : Int) by omega, c5 n hp, ltr_sg c2 hp]
  · rw [if_pos (by omega), b, p_irm (by omega) (by omega) (by omega) (by omega), wr_id (x := 5 * (e : Int)) (by omega) (by omega), wr_id (by omega) (by omega), gd_t (by omega), show ((5 + p : Nat) : Int) % 5 = (p : Int) by omega, d5 p hp, ltr_sg d2 hp]
theorem p6_variableOf {s : Sg} {h g : Tm} (H : Two s h g) {n : Nat} {v fr : Nat} (r : rep h g n (.var v, fr)) : fX6_variableOf s n = some ((v + fr : Nat) : Int) ∧ v + fr < 4 := by
  obtain ⟨l1, l2, l3, l4, l5⟩ := rep_lt H r
  have hv : (v : Nat) < 2 := l2
  unfold fX6_variableOf
  rw [p6_letterOf H r, bd_s]
  have hd : idv (n : Int) 5 * 2 = (fr : Int) := by
    rw [p_idv (by omega) (by omega) (by omega) (by omega)]
    obtain ⟨h1, h2, h3, h4⟩ := H.ok
    rcases r with ⟨p, hp, rfl, e⟩ | ⟨p, hp, rfl, e⟩
    · obtain ⟨e1, e2⟩ := Prod.mk.injEq .. ▸ e
      omega
    · obtain ⟨e1, e2⟩ := Prod.mk.injEq .. ▸ e
      omega
  rw [hd]
  have hsg : sgT (.var v) = 120 + (v : Int) := rfl
  rw [hsg]
  simp only at l5
  rw [wr_id (x := (fr : Int)) (by omega) (by omega), wr_id (x := (fr : Int) + (120 + (v : Int))) (by omega) (by omega), wr_id (by omega) (by omega)]
  exact ⟨by congr 1; omega, by omega⟩
theorem nmN_v {x : Nd} {v : Nat} (h : nmN x = some v) : ∃ w, x.1 = .var w ∧ v = w + x.2 := by
  unfold nmN at h
  split at h
  · rename_i w e; cases h; exact ⟨w, e, rfl⟩
  · cases h
theorem nmN_n {x : Nd} (h : nmN x = none) : isV x.1 = false := by
  unfold nmN at h
  split at h
  · cases h
  · rename_i e; cases hh : x.1 <;> simp_all [isV]
theorem p6_isV {s : Sg} {t : Tm} (h : okT t) : fX6_isVariable (sgT t) = some (bI (isV t)) := by
  rw [p6_isVar]
  congr 1
  unfold b01 bI
  have := sg_var h
  cases hv : isV t
  · rw [if_neg (fun q => by rw [this.mp q] at hv; cases hv)]; rfl
  · rw [if_pos (this.mpr hv)]; rfl
theorem p6_standsFor_L {s : Sg} {h g : Tm} (H : Two s h g) {b : Bn} (B : Bn6 s h g b) : ∀ (f n : Nat) (x y : Nd) (nd : Nat), f ≤ n → rep h g nd x → rootN b f x = some y → ∃ nd' : Nat, fX6_standsFor_L2 n s nd = some (nd' : Int) ∧ rep h g nd' y ∧ (∀ v, nmN y = some v → b v = none) := by
  intro f
  induction f with
  | zero => intro n x y nd _ _ e; cases e
  | succ f ih =>
    intro n x y nd hn r e
    obtain ⟨n, rfl⟩ : ∃ k, n = k + 1 := ⟨n - 1, by omega⟩
    obtain ⟨l1, l2, l3, l4, l5⟩ := rep_lt H r
    rw [fX6_standsFor_L2_s, fX6_standsFor_b2, p6_letterOf H r, bd_s, p6_isV (s := s) l2, bd_s]
    unfold fX6_standsFor_b41
    simp only [rootN] at e
    cases hx : nmN x with
    | none =>
      rw [hx] at e
      cases e
      rw [nmN_n hx, if_pos (show bI false = 0 from rfl)]
      exact ⟨nd, rfl, r, fun v hv => by rw [hx] at hv; cases hv⟩
    | some v =>
      rw [hx] at e
      simp only at e
      obtain ⟨w, hw, hvw⟩ := nmN_v hx
      have r' : rep h g nd (.var w, x.2) := by rw [← hw]; exact r
      obtain ⟨q1, q2⟩ := p6_variableOf H r'
      rw [hw, show isV (.var w) = true from rfl, if_neg (by decide), q1, bd_s, bd_s, gd_t (by omega), gd_t (by omega), ← hvw]
      have hb := B v (by omega)
      cases hbv : b v with
      | none =>
        rw [hbv] at hb e
        cases e
        simp only at hb
        rw [if_pos hb]
        exact ⟨nd, rfl, r, fun v' hv' => by rw [hx] at hv'; cases hv'; exact hbv⟩
      | some y' =>
        rw [hbv] at hb e
        obtain ⟨nd', r1, e1⟩ := hb
        rw [if_neg (by omega), e1]
        exact ih n y' y nd' (by omega) r1 e
theorem p6_standsFor {s : Sg} {h g : Tm} (H : Two s h g) {b : Bn} (B : Bn6 s h g b) {x y : Nd} {nd : Nat} (r : rep h g nd x) (e : rootN b 6 x = some y) : ∃ nd' : Nat, fX6_standsFor s nd = some (nd' : Int) ∧ rep h g nd' y ∧ (∀ v, nmN y = some v → b v = none) :=
  p6_standsFor_L H B 6 FU x y nd (by unfold FU; omega) r e
theorem p6_behind_L {s : Sg} {h g : Tm} (H : Two s h g) : ∀ (t : Tm) (f k fr n : Nat), szT t ≤ f → k + szT t < 100 → rep h g n (t, fr) → fX6_behind_L4 f s ((k : Int) + 1) n = fX6_behind_L4 (f - szT t) s k ((n + szT t : Nat) : Int) := by
  intro t
  induction t with
  | mulR a k ih => intro f k fr n _ _ r; cases (rep_lt H r).2.1
  | num c =>
    intro f k fr n hf hk r
    obtain ⟨f, rfl⟩ : ∃ k, f = k + 1 := ⟨f - 1, by simp only [szT] at hf; omega⟩
    obtain ⟨l1, l2, l3, l4, l5⟩ := rep_lt H r
    rw [fX6_behind_L4_s, fX6_behind_b4, if_neg (by omega), p6_letterOf H r, bd_s, p6_wants _ l2, bd_s]
    simp only [arT, szT, Nat.add_sub_cancel]
    rw [show wr (0 - 1) = -1 by decide, wr_id (by omega) (by omega), wr_id (by omega) (by omega)]
    congr 1; omega
  | var c =>
    intro f k fr n hf hk r
    obtain ⟨f, rfl⟩ : ∃ k, f = k + 1 := ⟨f - 1, by simp only [szT] at hf; omega⟩
    obtain ⟨l1, l2, l3, l4, l5⟩ := rep_lt H r
    rw [fX6_behind_L4_s, fX6_behind_b4, if_neg (by omega), p6_letterOf H r, bd_s, p6_wants _ l2, bd_s]
    simp only [arT, szT, Nat.add_sub_cancel]
    rw [show wr (0 - 1) = -1 by decide, wr_id (by omega) (by omega), wr_id (by omega) (by omega)]
    congr 1; omega
  | mulL k0 a ih =>
    intro f k fr n hf hk r
    obtain ⟨f, rfl⟩ : ∃ k, f = k + 1 := ⟨f - 1, by simp only [szT] at hf; omega⟩
    obtain ⟨l1, l2, l3, l4, l5⟩ := rep_lt H r
    have r1 := rep_l H r
    rw [fX6_behind_L4_s, fX6_behind_b4, if_neg (by omega), p6_letterOf H r, bd_s, p6_wants _ l2, bd_s]
    simp only [arT, szT] at hf ⊢
    rw [show wr (1 - 1) = 0 by decide, wr_id (by omega) (by omega), wr_id (by omega) (by omega), Int.add_zero, show (n : Int) + 1 = ((n + 1 : Nat) : Int) by omega, ih f k fr (n + 1) (by omega) (by simp only [szT] at hk; omega) r1]
    congr 1
    · omega
    · omega
  | add a c iha ihc =>
    intro f k fr n hf hk r
    obtain ⟨f, rfl⟩ : ∃ k, f = k + 1 := ⟨f - 1, by simp only [szT] at hf; omega⟩
    obtain ⟨l1, l2, l3, l4, l5⟩ := rep_lt H r
    obtain ⟨r1, r2⟩ := rep_p H r
    rw [fX6_behind_L4_s, fX6_behind_b4, if_neg (by omega), p6_letterOf H r, bd_s, p6_wants _ l2, bd_s]
    simp only [arT, szT] at hf ⊢
    rw [show wr (2 - 1) = 1 by decide, wr_id (by omega) (by omega), wr_id (by omega) (by omega), show (k : Int) + 1 + 1 = ((k + 1 : Nat) : Int) + 1 by omega, show (n : Int) + 1 = ((n + 1 : Nat) : Int) by omega, iha f (k + 1) fr (n + 1) (by omega) (by simp only [szT] at hk; omega) r1, show ((k + 1 : Nat) : Int) = (k : Int) + 1 by omega, ihc (f - szT a) k fr (n + 1 + szT a) (by omega) (by simp only [szT] at hk; omega) r2]
    congr 1
    · omega
    · omega
theorem p6_behind {s : Sg} {h g : Tm} (H : Two s h g) {n : Nat} {x : Nd} (r : rep h g n x) : fX6_behind s n = some ((n + szT x.1 : Nat) : Int) := by
  obtain ⟨l1, l2, l3, l4, l5⟩ := rep_lt H r
  have := p6_behind_L H x.1 FU 0 x.2 n (by unfold FU; omega) (by omega) r
  unfold fX6_behind
  rw [show ((0 : Nat) : Int) + 1 = 1 from rfl] at this
  rw [this]
  obtain ⟨m, hm⟩ : ∃ m, FU - szT x.1 = m + 1 := ⟨FU - szT x.1 - 1, by unfold FU; omega⟩
  rw [hm, fX6_behind_L4_s, fX6_behind_b4, if_pos (by omega)]

set_option maxRecDepth 100000
/-! PURE: two heads brought together (model): what occurs, what joins -/
theorem bV {w : Nat} : ¬ bI (isV (.var w)) = 0 := by simp [isV, bI]
theorem bV1 {w : Nat} : bI (isV (.var w)) = 1 := rfl
theorem ar_n {c : Nat} : arT (.num c) = 0 := rfl
theorem ar_v {c : Nat} : arT (.var c) = 0 := rfl
theorem ar_l {k : Nat} {a : Tm} : arT (.mulL k a) = 1 := rfl
theorem ar_p {a c : Tm} : arT (.add a c) = 2 := rfl
theorem p6_occurs_L {h g : Tm} {b : Bn} {v : Nat} (hv : v < 4) : ∀ (f : Nat) (x : Nd) (r : Bool), insN b v f x = some r → ∀ (n m nd : Nat) (s : Sg), Two s h g → Bn6 s h g b → rep h g nd x → gA s 51 (m : Int) = (nd : Int) → m + f ≤ 60 → 2 ^ f ≤ n →
    match r with
    | true => ∃ s', fX6_occurs_L9 n s v ((m : Int) + 1) = some (1, s') ∧ keepS [51] s s'
    | false => ∃ (s' : Sg) (n' : Nat), fX6_occurs_L9 n s v ((m : Int) + 1) = fX6_occurs_L9 n' s' v m ∧ keepS [51] s s' ∧ (∀ j : Nat, j < m → gA s' 51 (j : Int) = gA s 51 (j : Int)) ∧ n + 1 ≤ n' + 2 ^ f := by
  intro f
  induction f with
  | zero => intro x r e; cases e
  | succ f ih =>
    intro x r e n m nd s H B rp hw hm hn
    obtain ⟨n, rfl⟩ : ∃ k, n = k + 1 := ⟨n - 1, by have := Nat.two_pow_pos (f + 1); omega⟩
    have p2 : 2 ^ (f + 1) = 2 ^ f + 2 ^ f := by rw [Nat.pow_succ]; omega
    have pf := Nat.two_pow_pos f
    simp only [insN] at e
    cases hr : rootN b 6 x with
    | none => rw [hr] at e; cases e
    | some y =>
      rw [hr] at e
      simp only at e
      obtain ⟨nd', e1, rp', hub⟩ := p6_standsFor H B rp hr
      obtain ⟨l1, l2, l3, l4, l5⟩ := rep_lt H rp'
      have w1 : wr ((m : Int) + 1 + (-1)) = (m : Int) := by rw [wr_id (by omega) (by omega)]; omega
      have step : fX6_occurs_L9 (n + 1) s v ((m : Int) + 1) = (if bI (isV y.1) = 0 then fX6_occurs_b56 (fX6_occurs_L9 n) s v m nd' (sgT y.1) else bd (fX6_variableOf s nd') fun p16 => if ¬ p16 = v then fX6_occurs_b56 (fX6_occurs_L9 n) s v m nd' (sgT y.1) else some (1, s)) := by
        rw [fX6_occurs_L9_s, fX6_occurs_b9, if_neg (by omega), w1, gd_t (by omega), hw, e1, bd_s, p6_letterOf H rp', bd_s, p6_isV (s := s) l2, bd_s]
      obtain ⟨yt, yf⟩ := y
      dsimp only at l2 l3 l4 l5 step e
      rw [step]
      have leaf : arT yt = 0 → fX6_occurs_b56 (fX6_occurs_L9 n) s v m nd' (sgT yt) = fX6_occurs_L9 n s v m := by
        intro ha
        unfold fX6_occurs_b56 fX6_occurs_b77 fX6_occurs_b103
        rw [p6_wants _ l2, bd_s, ha, if_pos (by omega), bd_s, if_pos (by omega)]
      cases yt with
      | mulR a k => cases l2
      | num c =>
        cases e
        rw [if_pos (show bI (isV (.num c)) = 0 from rfl), leaf rfl]
        exact ⟨s, n, rfl, keepS.refl _ _, fun _ _ => rfl, by omega⟩
      | var w =>
        obtain ⟨q1, q2⟩ := p6_variableOf H rp'
        rw [if_neg bV, q1, bd_s]
        simp only [Option.some.injEq] at e
        obtain ⟨u, hu⟩ : ∃ u : Nat, u = w + yf := ⟨_, rfl⟩
        rw [← hu] at e q2 ⊢
        by_cases hwv : u = v
        · have : r = true := by rw [← e, hwv]; exact Nat.beq_refl v
          subst this
          rw [if_neg (by omega)]
          exact ⟨s, rfl, keepS.refl _ _⟩
        · have : r = false := by
            rw [← e]
            cases hb : Nat.beq u v
            · rfl
            · exact absurd (Nat.eq_of_beq_eq_true hb) hwv
          subst this
          rw [if_pos (by omega), leaf rfl]
          exact ⟨s, n, rfl, keepS.refl _ _, fun _ _ => rfl, by omega⟩
      | mulL k a =>
        have r1 := rep_l H rp'
        have hs1 : keepS [51] s (sA s 51 (m : Int) ((nd' : Int) + 1)) := keepA _ s (by decide) _ _
        have key : fX6_occurs_b56 (fX6_occurs_L9 n) s v m nd' (sgT (.mulL k a)) = fX6_occurs_L9 n (sA s 51 (m : Int) ((nd' : Int) + 1)) v ((m : Int) + 1) := by
          unfold fX6_occurs_b56 fX6_occurs_b77 fX6_occurs_b103
          rw [p6_wants _ l2, bd_s]
          rw [ar_l]
          rw [if_neg (by omega), gd_t (by omega), bd_s, if_pos (by omega), wr_id (by omega) (by omega), wr_id (by omega) (by omega)]
        rw [if_pos (show bI (isV (.mulL k a)) = 0 from rfl), key]
        have := ih (a, yf) r e n m (nd' + 1) _ (H.keep hs1 (by decide)) (B.keep hs1 (by decide)) r1 (by simp [gA_sA]) (by omega) (by omega)
        revert this
        cases r with
        | true => rintro ⟨s', a1, a2⟩; exact ⟨s', a1, hs1.trans a2⟩
        | false =>
          rintro ⟨s', n', a1, a2, a3, a4⟩
          refine ⟨s', n', a1, hs1.trans a2, fun j hj => ?_, by omega⟩
          rw [a3 j hj, gA_sA, if_neg (by omega)]
      | add a c =>
        obtain ⟨r1, r2⟩ := rep_p H rp'
        dsimp only at e
        simp only [szT] at l3 l4
        have pa := szT_pos a
        have pc := szT_pos c
        have hs1 : keepS [51] s (sA s 51 (m : Int) ((nd' : Int) + 1)) := keepA _ s (by decide) _ _
        have hs2 : keepS [51] s (sA (sA s 51 (m : Int) ((nd' : Int) + 1)) 51 ((m : Int) + 1) ((nd' + 1 + szT a : Nat) : Int)) := hs1.sA (by decide) _ _
        have hb := p6_behind (H.keep hs1 (by decide)) r1
        have key : fX6_occurs_b56 (fX6_occurs_L9 n) s v m nd' (sgT (.add a c)) = fX6_occurs_L9 n (sA (sA s 51 (m : Int) ((nd' : Int) + 1)) 51 ((m : Int) + 1) ((nd' + 1 + szT a : Nat) : Int)) v (((m + 1 : Nat) : Int) + 1) := by
          unfold fX6_occurs_b56 fX6_occurs_b77 fX6_occurs_b103
          rw [p6_wants _ l2, bd_s]
          rw [ar_p]
          rw [if_neg (by omega), gd_t (by omega), bd_s, if_neg (by omega), wr_id (x := (nd' : Int) + 1) (by omega) (by omega), wr_id (x := (m : Int) + 1) (by omega) (by omega)]
          rw [show ((nd' + 1 : Nat) : Int) = (nd' : Int) + 1 by omega] at hb
          rw [hb, bd_s, gd_t (by omega), wr_id (by omega) (by omega), show ((m + 1 : Nat) : Int) = (m : Int) + 1 by omega]
        rw [if_pos (show bI (isV (.add a c)) = 0 from rfl), key]
        cases ha : insN b v f (a, yf) with
        | none => rw [ha] at e; cases e
        | some ra =>
          cases hc : insN b v f (c, yf) with
          | none => rw [ha, hc] at e; cases e
          | some rc =>
            rw [ha, hc] at e
            simp only [Option.some.injEq] at e
            subst e
            have := ih (c, yf) rc hc n (m + 1) (nd' + 1 + szT a) _ (H.keep hs2 (by decide)) (B.keep hs2 (by decide)) r2 (by simp [gA_sA]) (by omega) (by omega)
            revert this
            cases rc with
            | true => rintro ⟨s', a1, a2⟩; rw [Bool.or_true]; exact ⟨s', a1, hs2.trans a2⟩
            | false =>
              rintro ⟨s', n', a1, a2, a3, a4⟩
              rw [Bool.or_false, a1, show ((m + 1 : Nat) : Int) = (m : Int) + 1 by omega]
              have hk : keepS [51] s s' := hs2.trans a2
              have hwm : gA s' 51 (m : Int) = ((nd' + 1 : Nat) : Int) := by
                rw [a3 m (by omega), gA_sA, if_neg (by omega), gA_sA, if_pos ⟨rfl, rfl⟩]; omega
              have := ih (a, yf) ra ha n' m (nd' + 1) s' (H.keep hk (by decide)) (B.keep hk (by decide)) r1 hwm (by omega) (by omega)
              revert this
              cases ra with
              | true => rintro ⟨s'', b1, b2⟩; exact ⟨s'', b1, hk.trans b2⟩
              | false =>
                rintro ⟨s'', n'', b1, b2, b3, b4⟩
                refine ⟨s'', n'', b1, hk.trans b2, fun j hj => ?_, by omega⟩
                rw [b3 j hj, a3 j (by omega), gA_sA, if_neg (by omega), gA_sA, if_neg (by omega)]
theorem p6_occurs {s : Sg} {h g : Tm} {b : Bn} (H : Two s h g) (B : Bn6 s h g b) {v nd : Nat} {x : Nd} {r : Bool} (hv : v < 4) (rp : rep h g nd x) (e : insN b v 8 x = some r) : ∃ s', fX6_occurs s v nd = some (bI r, s') ∧ keepS [51] s s' := by
  have hs : keepS [51] s (sA s 51 0 (nd : Int)) := keepA _ s (by decide) _ _
  have := p6_occurs_L hv 8 x r e FU 0 nd _ (H.keep hs (by decide)) (B.keep hs (by decide)) rp (by simp [gA_sA]) (by omega) (by unfold FU; decide)
  unfold fX6_occurs
  rw [show ((0 : Nat) : Int) + 1 = 1 from rfl] at this
  revert this
  cases r with
  | true => rintro ⟨s', a1, a2⟩; exact ⟨s', a1, hs.trans a2⟩
  | false =>
    rintro ⟨s', n', a1, a2, a3, a4⟩
    rw [a1]
    have h256 : (2 : Nat) ^ 8 = 256 := by decide
    unfold FU at a4
    obtain ⟨n', rfl⟩ : ∃ k, n' = k + 1 := ⟨n' - 1, by omega⟩
    rw [fX6_occurs_L9_s, fX6_occurs_b9, if_pos (by omega)]
    exact ⟨s', rfl, hs.trans a2⟩
theorem Bn6.put {s : Sg} {h g : Tm} {b : Bn} (B : Bn6 s h g b) {v nd : Nat} {y : Nd} (hv : v < 4) (rp : rep h g nd y) : Bn6 (sA s 47 (v : Int) (nd : Int)) h g (bnU b v y) := by
  intro w hw
  unfold bnU
  cases e : Nat.beq w v
  · have hne : w ≠ v := fun q => by rw [q, Nat.beq_refl] at e; cases e
    have := B w hw
    simp only [cond_false]
    rw [gA_sA, if_neg (by omega)]
    exact this
  · have := Nat.eq_of_beq_eq_true e
    subst this
    simp only [cond_true]
    exact ⟨nd, rp, by simp [gA_sA]⟩
theorem p6_addPair {s : Sg} {m : Nat} {p q : Int} (h50 : gI s 50 = (m : Int)) (hm : m < 64) : fX6_addPair s p q = some (sI (sA (sA s 48 (m : Int) p) 49 (m : Int) q) 50 ((m : Int) + 1)) := by
  unfold fX6_addPair
  have e1 : gI (sA s 48 (gI s 50) p) 50 = (m : Int) := h50
  have e2 : gI (sA (sA s 48 (gI s 50) p) 49 (gI (sA s 48 (gI s 50) p) 50) q) 50 = (m : Int) := h50
  rw [e2, e1, h50, gd_t (by omega), gd_t (by omega), wr_id (by omega) (by omega)]
def oneG (h g : Tm) (s : Sg) (n f m : Nat) (Z : Option (Int × Sg)) (r : Option Bn) : Prop := match r with
  | none => ∃ s', Z = some (0, s') ∧ keepS [47, 48, 49, 50, 51] s s'
  | some b' => ∃ (s' : Sg) (n' : Nat), Z = fX6_areOne_L41 n' s' ∧ keepS [47, 48, 49, 50, 51] s s' ∧ Bn6 s' h g b' ∧ gI s' 50 = (m : Int) ∧ (∀ j : Nat, j < m → gA s' 48 (j : Int) = gA s 48 (j : Int) ∧ gA s' 49 (j : Int) = gA s 49 (j : Int)) ∧ n + 1 ≤ n' + 2 ^ f
/-- one pair taken from those that wait -/
theorem p6_areOne_L {h g : Tm} : ∀ (f : Nat) (b : Bn) (x y : Nd) (r : Option Bn), mkN f b x y = some r → ∀ (n m p q : Nat) (s : Sg), Two s h g → Bn6 s h g b → rep h g p x → rep h g q y → gI s 50 = (m : Int) + 1 → gA s 48 (m : Int) = (p : Int) → gA s 49 (m : Int) = (q : Int) → m + f ≤ 60 → 2 ^ f ≤ n → oneG h g s n f m (fX6_areOne_L41 n s) r := by
  intro f
  induction f with
  | zero => intro b x y r e; cases e
  | succ f ih =>
    intro b x y r e n m p q s H B rx ry h50 h48 h49 hm hn
    obtain ⟨n, rfl⟩ : ∃ k, n = k + 1 := ⟨n - 1, by have := Nat.two_pow_pos (f + 1); omega⟩
    have p2 : 2 ^ (f + 1) = 2 ^ f + 2 ^ f := by rw [Nat.pow_succ]; omega
    have pf := Nat.two_pow_pos f
    simp only [mkN] at e
    cases hx : rootN b 6 x with
    | none => rw [hx] at e; cases e
    | some x' =>
    cases hy : rootN b 6 y with
    | none => rw [hx, hy] at e; cases e
    | some y' =>
    rw [hx, hy] at e
    simp only at e
    have w1 : wr ((m : Int) + 1 - 1) = (m : Int) := by rw [wr_id (by omega) (by omega)]; omega
    have k0 : keepS [47, 48, 49, 50, 51] s (sI s 50 (m : Int)) := keepI _ s (by decide) _
    obtain ⟨s0, hs0⟩ : ∃ s0, s0 = sI s 50 (m : Int) := ⟨_, rfl⟩
    rw [← hs0] at k0
    have H0 : Two s0 h g := H.keep k0 (by decide)
    have B0 : Bn6 s0 h g b := B.keep (L := [50]) (by rw [hs0]; exact keepI _ s (by decide) _) (by decide)
    have z50 : gI s0 50 = (m : Int) := by rw [hs0]; rfl
    have z48 : gA s0 48 (m : Int) = (p : Int) := by rw [hs0]; exact h48
    have z49 : gA s0 49 (m : Int) = (q : Int) := by rw [hs0]; exact h49
    have zb : ∀ j : Nat, gA s0 48 (j : Int) = gA s 48 (j : Int) ∧ gA s0 49 (j : Int) = gA s 49 (j : Int) := by intro j; rw [hs0]; exact ⟨rfl, rfl⟩
    obtain ⟨p', ep, rp, up⟩ := p6_standsFor H0 B0 rx hx
    obtain ⟨q', eq, rq, uq⟩ := p6_standsFor H0 B0 ry hy
    have step : fX6_areOne_L41 (n + 1) s = bd (fX6_joins s0 p' q') fun p13 => if ¬ p13.1 = 0 then fX6_areOne_L41 n p13.2 else some (0, p13.2) := by
      rw [fX6_areOne_L41_s, fX6_areOne_b41, h50, if_neg (by omega), w1, ← hs0, z50, gd_t (by omega), z48, ep, bd_s, gd_t (by omega), z49, eq, bd_s]
    rw [step]
    obtain ⟨l1, l2, l3, l4, l5⟩ := rep_lt H0 rp
    obtain ⟨m1, m2, m3, m4, m5⟩ := rep_lt H0 rq
    -- yes, and nothing changed
    have yes0 : r = some b → fX6_joins s0 p' q' = some (1, s0) → oneG h g s (n + 1) (f + 1) m (bd (fX6_joins s0 p' q') fun p13 => if ¬ p13.1 = 0 then fX6_areOne_L41 n p13.2 else some (0, p13.2)) r := by
      intro hr hj
      subst hr
      rw [hj, bd_s]
      exact ⟨s0, n, by rw [if_pos (by simp)], k0, B0, z50, fun j _ => zb j, by omega⟩
    have no0 : r = none → (∃ s', fX6_joins s0 p' q' = some (0, s') ∧ keepS [51] s0 s') → oneG h g s (n + 1) (f + 1) m (bd (fX6_joins s0 p' q') fun p13 => if ¬ p13.1 = 0 then fX6_areOne_L41 n p13.2 else some (0, p13.2)) r := by
      rintro hr ⟨s', hj, hk⟩
      subst hr
      rw [hj, bd_s]
      exact ⟨s', by rw [if_neg (by simp)], k0.trans (hk.mono (by decide))⟩
    -- a variable is bound
    have bind : ∀ (v : Nat) (o : Nd) (o' : Nat), v < 4 → rep h g o' o → (match insN b v 8 o with
        | none => none
        | some true => some none
        | some false => some (some (bnU b v o))) = some r → fX6_joins s0 p' q' = fX6_joins_b76 s0 v o' → oneG h g s (n + 1) (f + 1) m (bd (fX6_joins s0 p' q') fun p13 => if ¬ p13.1 = 0 then fX6_areOne_L41 n p13.2 else some (0, p13.2)) r := by
      intro v o o' hv ro he hj
      cases hi : insN b v 8 o with
      | none => rw [hi] at he; cases he
      | some rr =>
        obtain ⟨s1, e1, k1⟩ := p6_occurs H0 B0 hv ro hi
        rw [hi] at he
        cases rr with
        | true =>
          cases he
          exact no0 rfl ⟨s1, by rw [hj, fX6_joins_b76, e1, bd_s, if_neg (by simp [bI])], k1⟩
        | false =>
          cases he
          rw [hj, fX6_joins_b76, e1, bd_s, if_pos (by rfl), gd_t (by omega), bd_s, if_pos (by simp)]
          refine ⟨_, n, rfl, k0.trans ((k1.mono (by decide)).sA (by decide) _ _), (B0.keep k1 (by decide)).put hv ro, ?_, fun j hjm => ?_, by omega⟩
          · rw [gI_sA, k1.I (by decide)]; exact z50
          · rw [gA_sA, if_neg (by omega), gA_sA, if_neg (by omega), k1.A (by decide), k1.A (by decide)]; exact zb j
    have jo : fX6_joins s0 p' q' = if bI (isV x'.1) = 0 then fX6_joins_b43 s0 p' q' (bI (isV x'.1)) (bI (isV y'.1)) else if bI (isV y'.1) = 0 then fX6_joins_b43 s0 p' q' (bI (isV x'.1)) (bI (isV y'.1)) else bd (fX6_variableOf s0 p') fun p19 => bd (fX6_variableOf s0 q') fun p23 => if ¬ p19 = p23 then fX6_joins_b43 s0 p' q' (bI (isV x'.1)) (bI (isV y'.1)) else some (1, s0) := by
      unfold fX6_joins
      rw [p6_letterOf H0 rp, bd_s, p6_isV (s := s0) l2, bd_s, p6_letterOf H0 rq, bd_s, p6_isV (s := s0) m2, bd_s]
    cases hnx : nmN x' with
    | some v =>
      obtain ⟨w, hw, hvw⟩ := nmN_v hnx
      have rp' : rep h g p' (.var w, x'.2) := by rw [← hw]; exact rp
      obtain ⟨v1, v2⟩ := p6_variableOf H0 rp'
      rw [← hvw] at v1 v2
      have hbx : bI (isV x'.1) = 1 := by rw [hw]; rfl
      rw [hbx] at jo
      have jb : fX6_joins_b43 s0 p' q' 1 (bI (isV y'.1)) = fX6_joins_b76 s0 v q' := by
        unfold fX6_joins_b43 fX6_joins_b52 fX6_joins_b62
        rw [if_pos (by decide), if_neg (by decide), v1, bd_s, if_neg (by decide)]
      rw [hnx] at e
      cases hny : nmN y' with
      | some u =>
        obtain ⟨w', hw', hvw'⟩ := nmN_v hny
        have rq' : rep h g q' (.var w', y'.2) := by rw [← hw']; exact rq
        obtain ⟨u1, u2⟩ := p6_variableOf H0 rq'
        rw [← hvw'] at u1 u2
        rw [hny] at e
        simp only at e
        by_cases huv : v = u
        · subst huv
          rw [Nat.beq_refl] at e
          cases e
          refine yes0 rfl ?_
          have hby : bI (isV y'.1) = 1 := by rw [hw']; rfl
          rw [jo, hby, v1, u1, bd_s, bd_s, if_neg (by decide), if_neg (by decide), if_neg (by simp)]
        · have hbf : Nat.beq v u = false := by
            cases hb : Nat.beq v u
            · rfl
            · exact absurd (Nat.eq_of_beq_eq_true hb) huv
          rw [hbf] at e
          refine bind v y' q' v2 rq e ?_
          rw [jo, v1, u1, bd_s, bd_s, jb, if_pos (show ¬ (v : Int) = (u : Int) by omega), if_neg (by decide)]
          split <;> rfl
      | none =>
        rw [hny] at e
        refine bind v y' q' v2 rq e ?_
        have hby : bI (isV y'.1) = 0 := by rw [nmN_n hny]; rfl
        rw [jo, jb, if_neg (by decide), if_pos hby]
    | none =>
      have hvx := nmN_n hnx
      rw [hnx] at e
      rw [hvx] at jo
      rw [if_pos (show bI false = 0 from rfl)] at jo
      cases hny : nmN y' with
      | some u =>
        obtain ⟨w', hw', hvw'⟩ := nmN_v hny
        have rq' : rep h g q' (.var w', y'.2) := by rw [← hw']; exact rq
        obtain ⟨u1, u2⟩ := p6_variableOf H0 rq'
        rw [← hvw'] at u1 u2
        rw [hny] at e
        refine bind u x' p' u2 rp e ?_
        have hby : bI (isV y'.1) = 1 := by rw [hw']; rfl
        rw [jo, hby]
        unfold fX6_joins_b43 fX6_joins_b52 fX6_joins_b62
        rw [if_neg (show ¬ ¬ bI false = 0 by decide), if_neg (by decide), if_pos (show bI false = 0 from rfl), u1, bd_s, if_pos (show bI false = 0 from rfl)]
      | none =>
        have hvy := nmN_n hny
        rw [hny] at e
        rw [hvy] at jo
        have jo2 : fX6_joins s0 p' q' = if sgT x'.1 = sgT y'.1 then (if arT x'.1 ≤ 1 then fX6_joins_b147 s0 p' q' else bd (fX6_behind s0 (wr ((p' : Int) + 1))) fun p21 => bd (fX6_behind s0 (wr ((q' : Int) + 1))) fun p25 => bd (fX6_addPair s0 p21 p25) fun p29 => fX6_joins_b147 p29 p' q') else some (0, s0) := by
          rw [jo]
          unfold fX6_joins_b43
          rw [if_neg (show ¬ ¬ bI false = 0 by decide), if_pos (show bI false = 0 from rfl), p6_letterOf H0 rp, bd_s, p6_letterOf H0 rq, bd_s, bd_s, p6_wants _ l2, bd_s]
        obtain ⟨xt, xf⟩ := x'
        obtain ⟨yt, yf⟩ := y'
        simp only at e jo2 l2 l3 l4 m2 m3 m4
        have clash : sgT xt ≠ sgT yt → ∃ s', fX6_joins s0 p' q' = some (0, s') ∧ keepS [51] s0 s' := fun hne => ⟨s0, by rw [jo2, if_neg hne], keepS.refl _ _⟩
        cases xt with
        | mulR a k => cases l2
        | var w => simp [nmN] at hnx
        | num c =>
          cases yt with
          | mulR a k => cases m2
          | var w => simp [nmN] at hny
          | num d =>
            simp only at e
            by_cases hcd : c = d
            · subst hcd
              rw [Nat.beq_refl] at e
              cases e
              refine yes0 rfl ?_
              rw [jo2, if_pos rfl]
              rw [ar_n]
              rw [if_pos (by omega)]
              unfold fX6_joins_b147 fX6_joins_b168
              rw [p6_letterOf H0 rp, bd_s, p6_wants _ l2, bd_s]
              rw [ar_n]
              rw [if_pos (by omega)]
            · have hbf : Nat.beq c d = false := by
                cases hb : Nat.beq c d
                · rfl
                · exact absurd (Nat.eq_of_beq_eq_true hb) hcd
              rw [hbf] at e
              cases e
              exact no0 rfl (clash (by simp only [sgT]; omega))
          | mulL k a => cases e; rcases l2 with rfl | rfl <;> exact no0 rfl (clash (by simp only [sgT]; decide))
          | add a a' => cases e; rcases l2 with rfl | rfl <;> exact no0 rfl (clash (by simp only [sgT]; decide))
        | mulL k a =>
          cases yt with
          | mulR a k => cases m2
          | var w => simp [nmN] at hny
          | num d => cases e; rcases m2 with rfl | rfl <;> exact no0 rfl (clash (by simp only [sgT]; decide))
          | add c c' => cases e; exact no0 rfl (clash (by simp only [sgT]; decide))
          | mulL k' c =>
            simp only at e
            have ra := rep_l H0 rp
            have rc := rep_l H0 rq
            have j3 : fX6_joins s0 p' q' = some (1, sI (sA (sA s0 48 (m : Int) ((p' : Int) + 1)) 49 (m : Int) ((q' : Int) + 1)) 50 ((m : Int) + 1)) := by
              rw [jo2, if_pos (show sgT (.mulL k a) = sgT (.mulL k' c) from rfl)]
              rw [ar_l]
              rw [if_pos (by omega)]
              unfold fX6_joins_b147 fX6_joins_b168
              rw [p6_letterOf H0 rp, bd_s, p6_wants _ l2, bd_s]
              rw [ar_l]
              rw [if_neg (by omega), wr_id (by omega) (by omega), wr_id (by omega) (by omega), p6_addPair z50 (by omega), bd_s]
            rw [j3, bd_s, if_pos (by simp)]
            have ks : keepS [48, 49, 50] s0 (sI (sA (sA s0 48 (m : Int) ((p' : Int) + 1)) 49 (m : Int) ((q' : Int) + 1)) 50 ((m : Int) + 1)) := ((keepA _ s0 (by decide) _ _).sA (by decide) _ _).sI (by decide) _
            have := ih b (a, xf) (c, yf) r e n m (p' + 1) (q' + 1) _ (H0.keep ks (by decide)) (B0.keep ks (by decide)) ra rc rfl (by simp [gA_sI, gA_sA]) (by simp [gA_sI, gA_sA]) (by omega) (by omega)
            revert this
            cases r with
            | none => rintro ⟨s', a1, a2⟩; exact ⟨s', a1, k0.trans ((ks.mono (by decide)).trans a2)⟩
            | some b' =>
              rintro ⟨s', n', a1, a2, a3, a4, a5, a6⟩
              refine ⟨s', n', a1, k0.trans ((ks.mono (by decide)).trans a2), a3, a4, fun j hj => ?_, by omega⟩
              obtain ⟨c1, c2⟩ := a5 j hj
              have hne : ¬ ((j : Int) = (m : Int)) := by omega
              rw [c1, c2]
              simp only [gA_sI, gA_sA, hne, and_false, if_false]
              exact zb j
        | add a a' =>
          cases yt with
          | mulR a k => cases m2
          | var w => simp [nmN] at hny
          | num d => cases e; rcases m2 with rfl | rfl <;> exact no0 rfl (clash (by simp only [sgT]; decide))
          | mulL c c' => cases e; exact no0 rfl (clash (by simp only [sgT]; decide))
          | add c c' =>
            simp only at e
            obtain ⟨ra, ra'⟩ := rep_p H0 rp
            obtain ⟨rc, rc'⟩ := rep_p H0 rq
            simp only [szT] at l3 l4 m3 m4
            have pa := szT_pos a
            have pc := szT_pos c
            have pa' := szT_pos a'
            have pc' := szT_pos c'
            have bp := p6_behind H0 ra
            have bq := p6_behind H0 rc
            obtain ⟨s1, hs1⟩ : ∃ s1, s1 = sI (sA (sA s0 48 (m : Int) ((p' + 1 + szT a : Nat) : Int)) 49 (m : Int) ((q' + 1 + szT c : Nat) : Int)) 50 ((m : Int) + 1) := ⟨_, rfl⟩
            have ks1 : keepS [48, 49, 50] s0 s1 := by rw [hs1]; exact ((keepA _ s0 (by decide) _ _).sA (by decide) _ _).sI (by decide) _
            have y50 : gI s1 50 = ((m + 1 : Nat) : Int) := by rw [hs1]; simp [gI_sI]
            obtain ⟨s2, hs2⟩ : ∃ s2, s2 = sI (sA (sA s1 48 ((m + 1 : Nat) : Int) ((p' : Int) + 1)) 49 ((m + 1 : Nat) : Int) ((q' : Int) + 1)) 50 (((m + 1 : Nat) : Int) + 1) := ⟨_, rfl⟩
            have ks2 : keepS [48, 49, 50] s0 s2 := by rw [hs2]; exact ((ks1.sA (by decide) _ _).sA (by decide) _ _).sI (by decide) _
            have j3 : fX6_joins s0 p' q' = some (1, s2) := by
              rw [jo2, if_pos (show sgT (.add a a') = sgT (.add c c') from rfl)]
              rw [ar_p]
              rw [if_neg (by omega), wr_id (by omega) (by omega), wr_id (by omega) (by omega)]
              rw [show ((p' + 1 : Nat) : Int) = (p' : Int) + 1 by omega] at bp
              rw [show ((q' + 1 : Nat) : Int) = (q' : Int) + 1 by omega] at bq
              rw [bp, bd_s, bq, bd_s, p6_addPair z50 (by omega), bd_s, ← hs1]
              unfold fX6_joins_b147 fX6_joins_b168
              rw [p6_letterOf (H0.keep ks1 (by decide)) rp, bd_s, p6_wants _ l2, bd_s]
              rw [ar_p]
              rw [if_neg (by omega), wr_id (by omega) (by omega), wr_id (by omega) (by omega), p6_addPair y50 (by omega), bd_s, ← hs2]
            rw [j3, bd_s, if_pos (by simp)]
            cases hA : mkN f b (a, xf) (c, yf) with
            | none => rw [hA] at e; cases e
            | some rA =>
              have := ih b (a, xf) (c, yf) rA hA n (m + 1) (p' + 1) (q' + 1) s2 (H0.keep ks2 (by decide)) (B0.keep ks2 (by decide)) ra rc (by rw [hs2]; rfl) (by rw [hs2]; simp [gA_sI, gA_sA]) (by rw [hs2]; simp [gA_sI, gA_sA]) (by omega) (by omega)
              rw [hA] at e
              revert this
              cases rA with
              | none => cases e; rintro ⟨s', a1, a2⟩; exact ⟨s', a1, k0.trans ((ks2.mono (by decide)).trans a2)⟩
              | some bA =>
                simp only at e
                rintro ⟨s', n', a1, a2, a3, a4, a5, a6⟩
                rw [a1]
                have kk : keepS [47, 48, 49, 50, 51] s0 s' := (ks2.mono (by decide)).trans a2
                have st48 : gA s' 48 (m : Int) = ((p' + 1 + szT a : Nat) : Int) := by
                  rw [(a5 m (by omega)).1, hs2, gA_sI, gA_sA, if_neg (by omega), gA_sA, if_neg (by omega), hs1, gA_sI, gA_sA, if_neg (by omega), gA_sA, if_pos ⟨rfl, rfl⟩]
                have st49 : gA s' 49 (m : Int) = ((q' + 1 + szT c : Nat) : Int) := by
                  rw [(a5 m (by omega)).2, hs2, gA_sI, gA_sA, if_neg (by omega), gA_sA, if_neg (by omega), hs1, gA_sI, gA_sA, if_pos ⟨rfl, rfl⟩]
                have := ih bA (a', xf) (c', yf) r e n' m (p' + 1 + szT a) (q' + 1 + szT c) s' (H0.keep kk (by decide)) a3 ra' rc' (by rw [a4]; omega) st48 st49 (by omega) (by omega)
                revert this
                cases r with
                | none => rintro ⟨s'', b1, b2⟩; exact ⟨s'', b1, k0.trans (kk.trans b2)⟩
                | some b' =>
                  rintro ⟨s'', n'', b1, b2, b3, b4, b5, b6⟩
                  refine ⟨s'', n'', b1, k0.trans (kk.trans b2), b3, b4, fun j hj => ?_, by omega⟩
                  obtain ⟨c1, c2⟩ := b5 j hj
                  obtain ⟨d1, d2⟩ := a5 j (by omega)
                  have hne : ¬ ((j : Int) = (m : Int)) := by omega
                  have hne2 : ¬ ((j : Int) = ((m + 1 : Nat) : Int)) := by omega
                  rw [c1, c2, d1, d2, hs2, hs1]
                  simp only [gA_sI, gA_sA, hne, hne2, and_false, if_false]
                  exact zb j

set_option maxRecDepth 100000
/-! PURE: the model's answers on pairs; counts -/
theorem p6_areOne_L12 (s : Sg) : ∃ s', fX6_areOne_L12 FU s 0 = (bd (fX6_addPair (sI s' 50 0) 0 5) fun p3 => fX6_areOne_L41 FU p3) ∧ keepS [47] s s' ∧ ∀ j : Nat, j < 4 → gA s' 47 (j : Int) = -1 := by
  refine Exists.elim (loopN (fun f k x => fX6_areOne_L12 f x k) 4 (fun k x => keepS [47] s x ∧ ∀ j : Nat, j < k → gA x 47 (j : Int) = -1) (fun x => bd (fX6_addPair (sI x 50 0) 0 5) fun p3 => fX6_areOne_L41 FU p3) ?_ ?_ FU 0 s (by unfold FU; omega) (by omega) ⟨keepS.refl _ _, fun j hj => by omega⟩) ?_
  rotate_left 2
  · rintro s' ⟨⟨h1, h2⟩, h3⟩
    exact ⟨s', h3, h1, h2⟩
  · rintro f k x hk ⟨h1, h2⟩
    show ∃ x', _ ∧ fX6_areOne_L12 (f + 1) x k = fX6_areOne_L12 f x' ((k + 1 : Nat) : Int)
    rw [fX6_areOne_L12_s, fX6_areOne_b12, if_neg (by omega), wr_id (by omega) (by omega), gd_t (by omega)]
    refine ⟨_, ⟨?_, ?_⟩, rfl⟩
    · exact h1.sA (by decide) _ _
    · intro j hj
      by_cases e : j = k
      · subst e; simp [gA_sA]
      · have hne : ¬ ((j : Int) = (k : Int)) := by omega
        simp [gA_sA, hne]
        exact h2 j (by omega)
  · intro f x _
    show fX6_areOne_L12 (f + 1) x ((4 : Nat) : Int) = _
    rw [fX6_areOne_L12_s, fX6_areOne_b12, if_pos (by omega)]
theorem p6_areOne {s : Sg} {n : Nat} {I : List Ist} (hI : Ins6 s n I) {i e : Nat} (hi : i < I.length) (he : e < I.length) : ∃ s', fX6_areOne s i e = some (bI (alk (iH (ig I i)) (iH (ig I e))), s') ∧ keepS [45, 46, 47, 48, 49, 50, 51] s s' := by
  have h6 := hI.2.2.2.1
  have hi2 := (hI.2.2.2.2 i hi).2.1
  have he2 := (hI.2.2.2.2 e he).2.1
  have k0 : keepS [45, 46] s (sI (sI s 45 (i : Int)) 46 (e : Int)) := (keepI _ s (by decide) _).sI (by decide) _
  obtain ⟨s1, e1, k1, c1⟩ := p6_areOne_L12 (sI (sI s 45 (i : Int)) 46 (e : Int))
  have k01 : keepS [45, 46, 47] s s1 := (k0.mono (by decide)).trans (k1.mono (by decide))
  obtain ⟨s2, hs2⟩ : ∃ s2, s2 = sI (sA (sA (sI s1 50 0) 48 ((0 : Nat) : Int) 0) 49 ((0 : Nat) : Int) 5) 50 (((0 : Nat) : Int) + 1) := ⟨_, rfl⟩
  have k2 : keepS [48, 49, 50] s1 s2 := by rw [hs2]; exact (((keepI _ s1 (by decide) _).sA (by decide) _ _).sA (by decide) _ _).sI (by decide) _
  have k02 : keepS [45, 46, 47, 48, 49, 50] s s2 := (k01.mono (by decide)).trans (k2.mono (by decide))
  have hT : Two s2 (iH (ig I i)) (iH (ig I e)) := by
    refine ⟨i, e, ?_, ?_, hi2.keep k02 (by decide) (by decide), he2.keep k02 (by decide) (by decide)⟩
    · rw [k2.I (by decide), k1.I (by decide)]; simp [gI_sI]
    · rw [k2.I (by decide), k1.I (by decide)]; simp [gI_sI]
  have hB : Bn6 s2 (iH (ig I i)) (iH (ig I e)) bn0 := by
    intro v hv
    show gA s2 47 (v : Int) = -1
    rw [k2.A (by decide)]; exact c1 v hv
  obtain ⟨r, hr⟩ := mk_some hi2.2.1 he2.2.1 hi2.2.2.1 he2.2.2.1
  have r1 : rep (iH (ig I i)) (iH (ig I e)) 0 (iH (ig I i), 0) := Or.inl ⟨0, szT_pos _, rfl, by rw [sub_0]⟩
  have r2 : rep (iH (ig I i)) (iH (ig I e)) 5 (iH (ig I e), 2) := Or.inr ⟨0, szT_pos _, rfl, by rw [sub_0]⟩
  have key := p6_areOne_L 6 bn0 _ _ r hr FU 0 0 5 s2 hT hB r1 r2 (by rw [hs2]; rfl) (by rw [hs2]; simp [gA_sI, gA_sA]) (by rw [hs2]; simp [gA_sI, gA_sA]) (by omega) (by unfold FU; decide)
  have st : fX6_areOne s i e = fX6_areOne_L41 FU s2 := by
    unfold fX6_areOne
    rw [e1, p6_addPair (m := 0) rfl (by omega), bd_s, ← hs2]
  rw [st]
  unfold alk
  rw [hr]
  revert key
  unfold oneG
  cases r with
  | none => rintro ⟨s', a1, a2⟩; exact ⟨s', a1, (k02.mono (by decide)).trans (a2.mono (by decide))⟩
  | some b' =>
    rintro ⟨s', n', a1, a2, a3, a4, a5, a6⟩
    have h64 : (2 : Nat) ^ 6 = 64 := by decide
    unfold FU at a6
    obtain ⟨n', rfl⟩ : ∃ k, n' = k + 1 := ⟨n' - 1, by omega⟩
    refine ⟨s', ?_, (k02.mono (by decide)).trans (a2.mono (by decide))⟩
    rw [a1, fX6_areOne_L41_s, fX6_areOne_b41, a4, if_pos (by omega)]
    rfl
theorem p6_overlap {s : Sg} {n : Nat} {I : List Ist} (hI : Ins6 s n I) {i e : Nat} (hi : i < I.length) (he : e < I.length) : ∃ s', fX6_overlap s i e = some (bI (ovl (ig I i) (ig I e)), s') ∧ keepS [45, 46, 47, 48, 49, 50, 51] s s' := by
  have h6 := hI.2.2.2.1
  obtain ⟨a1, a2, a3, a4, a5, a6⟩ := hI.2.2.2.2 i hi
  obtain ⟨b1, b2, b3, b4, b5, b6⟩ := hI.2.2.2.2 e he
  unfold fX6_overlap fX6_overlap_b48 fX6_overlap_b49 ovl
  rw [gd_t (by omega), gd_t (by omega), a4, b4]
  by_cases h1 : iO (ig I i) = iO (ig I e)
  · rw [if_neg (by simp [h1]), gd_t (by omega), a3]
    by_cases h2 : iK (ig I i) = 2
    · rw [if_pos h2, gd_t (Or.inl rfl)]
      exact ⟨s, by simp [h2, bI], keepS.refl _ _⟩
    · rw [if_neg h2, gd_t (by omega), b3]
      by_cases h3 : iK (ig I e) = 2
      · rw [if_pos h3, gd_t (Or.inl rfl)]
        exact ⟨s, by simp [h3, bI], keepS.refl _ _⟩
      · rw [if_neg h3]
        obtain ⟨s', e1, k1⟩ := p6_areOne hI hi he
        rw [e1, bd_s]
        refine ⟨s', ?_, k1⟩
        cases alk (iH (ig I i)) (iH (ig I e)) <;> simp [bI, gd, h1, h2, h3]
  · rw [if_pos h1, gd_t (Or.inl rfl)]
    exact ⟨s, by simp [h1, bI], keepS.refl _ _⟩
theorem p6_isSpecial {s : Sg} {I : List Ist} (hX : Spc6 s I) (h6 : I.length ≤ 6) {i e : Nat} (hi : i < I.length) (he : e < I.length) : fX6_isSpecial s i e = some (bI (spc (ig I i) (ig I e))) := by
  unfold fX6_isSpecial fX6_isSpecial_b20
  rw [wr_id (x := 6 * (i : Int)) (by omega) (by omega), wr_id (by omega) (by omega), gd_t (by omega), hX i e hi he, bI_b]
  cases spc (ig I i) (ig I e) <;> simp [bI, gd]
theorem p6_clash {s : Sg} {n : Nat} {I : List Ist} (hI : Ins6 s n I) (hX : Spc6 s I) {i e : Nat} (hi : i < I.length) (he : e < I.length) : ∃ s', fX6_clash s i e = some (bI (clsh (ig I i) (ig I e)), s') ∧ keepS [45, 46, 47, 48, 49, 50, 51] s s' := by
  have h6 := hI.2.2.2.1
  obtain ⟨s', e1, k1⟩ := p6_overlap hI hi he
  have hI' := hI.keep k1 (by decide)
  obtain ⟨a1, a2, a3, a4, a5, a6⟩ := hI'.2.2.2.2 i hi
  obtain ⟨b1, b2, b3, b4, b5, b6⟩ := hI'.2.2.2.2 e he
  refine ⟨s', ?_, k1⟩
  have key : ∀ v : Bool, fX6_clash_b23 s i e (bI v) = some (bI (ovl (ig I i) (ig I e) && (v || (decide (iK (ig I i) = 4) || decide (iK (ig I e) = 4)))), s') := by
    intro v
    unfold fX6_clash_b23 fX6_clash_b57 fX6_clash_b61 fX6_clash_b62
    rw [e1, bd_s, gd_t (show inb (i : Int) 6 by omega), gd_t (show inb (e : Int) 6 by omega), a3, b3]
    cases ovl (ig I i) (ig I e)
    · simp [bI, gd]
    · cases v
      · by_cases q1 : iK (ig I i) = 4
        · simp [bI, gd, q1]
        · by_cases q2 : iK (ig I e) = 4
          · simp [bI, gd, q1, q2]
          · simp [bI, gd, q1, q2]
      · simp [bI, gd]
  unfold fX6_clash fX6_clash_b22 clsh
  rw [p6_isSpecial hX h6 hi he, bd_s, p6_isSpecial hX h6 he hi, bd_s]
  have k0 := key false
  have k1' := key true
  cases spc (ig I i) (ig I e)
  · cases spc (ig I e) (ig I i)
    · rw [if_neg (by simp [bI]), if_neg (by simp [bI])]; exact k1'
    · rw [if_neg (by simp [bI]), if_pos (by simp [bI])]; exact k0
  · rw [if_pos (by simp [bI])]; simp only [Bool.not_true, Bool.false_and]; exact k0
theorem p6_pairNow {s : Sg} {n : Nat} {I : List Ist} (hI : Ins6 s n I) (hX : Spc6 s I) {i e : Nat} (hi : i < I.length) (he : e < I.length) (w : Int) : ∃ s', fX6_pairNow s i e w = some (bI (pairV (ig I i) (ig I e) w), s') ∧ keepS [45, 46, 47, 48, 49, 50, 51] s s' := by
  have h6 := hI.2.2.2.1
  unfold fX6_pairNow fX6_pairNow_b33 pairV
  by_cases w0 : w = 0
  · rw [if_neg (by simp [w0]), if_pos w0]
    obtain ⟨s', e1, k1⟩ := p6_overlap hI hi he
    rw [e1, bd_s, gd_t bI_or]
    exact ⟨s', rfl, k1⟩
  · rw [if_pos w0, if_neg w0]
    by_cases w1 : w = 1
    · rw [if_neg (by simp [w1]), if_pos w1]
      obtain ⟨s', e1, k1⟩ := p6_clash hI hX hi he
      rw [e1, bd_s, gd_t bI_or]
      exact ⟨s', rfl, k1⟩
    · rw [if_pos w1, if_neg w1, p6_isSpecial hX h6 hi he, bd_s, gd_t bI_or]
      exact ⟨s, rfl, keepS.refl _ _⟩
theorem p6_pair {s : Sg} {A : As} (h : R6 s A) (i e w : Int) : ∃ s', fX6_pair s i e w = some (sp_pair A i e w, s') ∧ R6 s' A := by
  unfold fX6_pair sp_pair fX6_pair_b21 fX6_pair_b53
  rw [p6_isInstance h, bd_s, p6_isInstance h, bd_s]
  by_cases h1 : isIn9 A i
  · rw [if_neg (fun q => b01_0.mp q h1)]
    by_cases h2 : isIn9 A e
    · rw [if_neg (fun q => b01_0.mp q h2)]
      by_cases h3 : i = e
      · rw [if_neg (by simp [h3]), if_neg (fun q => q.2.2 h3)]; exact ⟨s, rfl, h⟩
      · rw [if_pos h3, if_pos ⟨h1, h2, h3⟩, p6_within, bd_s]
        by_cases hw : 0 ≤ w ∧ w ≤ 2
        · rw [if_pos (fun q => b01_0.mp q hw), if_pos hw]
          obtain ⟨a, rfl⟩ : ∃ a : Nat, i = (a : Int) := ⟨i.toNat, by have := h1.1; omega⟩
          obtain ⟨b, rfl⟩ : ∃ b : Nat, e = (b : Int) := ⟨e.toNat, by have := h2.1; omega⟩
          obtain ⟨s', e1, k1⟩ := p6_pairNow h.2.2.1 h.2.2.2.1 (show a < (asI A).length by have := h1.2; omega) (show b < (asI A).length by have := h2.2; omega) w
          rw [e1, bd_s, Int.toNat_natCast, Int.toNat_natCast]
          have h' := h.kp k1 (by decide)
          cases pairV (ig (asI A) a) (ig (asI A) b) w <;> exact ⟨s', rfl, h'⟩
        · rw [if_neg (fun q => q (b01_0.mpr hw)), if_neg hw]; exact ⟨s, rfl, h⟩
    · rw [if_pos (b01_0.mpr h2), if_neg (fun q => h2 q.2.1)]; exact ⟨s, rfl, h⟩
  · rw [if_pos (b01_0.mpr h1), if_neg (fun q => h1 q.1)]; exact ⟨s, rfl, h⟩
/-! counts -/
def sumN (F : Nat → Nat) : Nat → Nat
  | 0 => 0
  | n + 1 => sumN F n + F n
def pairsN (I : List Ist) (w : Int) : Nat := sumN (fun i => cntN (fun e => pairV (ig I i) (ig I e) w) i) I.length
def lackN (A : As) : Nat := sumN (fun i => pcN (lck A (ig (asI A) i))) (asI A).length
def countV (A : As) (w : Int) : Int := if w = 0 then (asN A : Int) else if w = 1 then ((asI A).length : Int) else if w = 2 then ((unsnd (asI A) : Nat) : Int) else if w = 3 ∨ w = 4 then ((pairsN (asI A) (w - 3) : Nat) : Int) else if w = 5 then ((lackN A : Nat) : Int) else if w = 6 then ((filldN (asS A) : Nat) : Int) else if w = 7 then ((diffT (asS A) : Nat) : Int) else if w = 8 then ((asE A).length : Int) else if w = 9 then ((asP A).length : Int) else if w = 10 then (asB A : Int) else -102
theorem sumN_le (F : Nat → Nat) (b : Nat) : ∀ n, (∀ i, i < n → F i ≤ b) → sumN F n ≤ n * b := by
  intro n
  induction n with
  | zero => intro _; simp [sumN]
  | succ n ih =>
    intro h
    simp only [sumN]
    have h1 := ih (fun i hi => h i (by omega))
    have h2 := h n (by omega)
    rw [Nat.succ_mul]
    omega
theorem p6_pairs_L15 {w : Int} {A : As} {i : Nat} (hi : i < (asI A).length) {K4 : Sg → Int → Int → Int → Option (Int × Sg)} {x : Nat} (hx : x ≤ 100) : ∀ s, R6 s A → ∃ s', fX6_pairsOf_L15 K4 FU s w x i 0 = K4 s' w ((x + cntN (fun e => pairV (ig (asI A) i) (ig (asI A) e) w) i : Nat) : Int) ((i : Int) + 1) ∧ R6 s' A ∧ gI s' 62 = gI s 62 := by
  intro s hs
  have h6 := hs.1.2.2.1.1
  refine Exists.elim (loopN (fun f e (v : Int × Sg) => fX6_pairsOf_L15 K4 f v.2 w v.1 i e) i (fun e v => (R6 v.2 A ∧ gI v.2 62 = gI s 62) ∧ v.1 = ((x + cntN (fun e => pairV (ig (asI A) i) (ig (asI A) e) w) e : Nat) : Int)) (fun v => K4 v.2 w v.1 ((i : Int) + 1)) ?_ ?_ FU 0 ((x : Int), s) (by unfold FU; omega) (by omega) ⟨⟨hs, rfl⟩, by simp [cntN]⟩) ?_
  rotate_left 2
  · rintro ⟨y, s'⟩ ⟨⟨h1, h2⟩, h3⟩
    dsimp only at h1 h2
    subst h2
    exact ⟨s', h3, h1.1, h1.2⟩
  · rintro f e ⟨y, s'⟩ he ⟨⟨h1, h62⟩, h2⟩
    dsimp only at h1 h2 h62
    show ∃ v' : Int × Sg, _ ∧ fX6_pairsOf_L15 K4 (f + 1) s' w y i e = fX6_pairsOf_L15 K4 f v'.2 w v'.1 i ((e + 1 : Nat) : Int)
    have hle := cntN_le (fun e => pairV (ig (asI A) i) (ig (asI A) e) w) e
    obtain ⟨s'', e1, k1⟩ := p6_pairNow h1.2.2.1 h1.2.2.2.1 hi (show e < (asI A).length by omega) w
    rw [fX6_pairsOf_L15_s, fX6_pairsOf_b15, if_neg (by omega), e1, bd_s]
    unfold fX6_pairsOf_b38
    rw [h2, wr_id (x := (e : Int) + 1) (by omega) (by omega), wr_id (by omega) (by omega), wr_id (by omega) (by omega)]
    refine ⟨(((x + cntN (fun e => pairV (ig (asI A) i) (ig (asI A) e) w) (e + 1) : Nat) : Int), s''), ⟨⟨h1.kp k1 (by decide), (k1.I (by decide)).trans h62⟩, rfl⟩, ?_⟩
    have := cntN_s (fun e => pairV (ig (asI A) i) (ig (asI A) e) w) e
    rw [show ((e + 1 : Nat) : Int) = (e : Int) + 1 by omega]
    cases hp : pairV (ig (asI A) i) (ig (asI A) e) w
    · rw [hp] at this; simp only [bI] at this ⊢
      simp only [Bool.false_eq_true, if_false] at this ⊢
      simp only [if_true]
      congr 1; omega
    · rw [hp] at this; simp only [bI] at this ⊢
      simp only [if_true] at this ⊢
      rw [if_neg (by decide)]
      congr 1; omega
  · rintro f ⟨y, s'⟩ _
    show fX6_pairsOf_L15 K4 (f + 1) s' w y i i = _
    rw [fX6_pairsOf_L15_s, fX6_pairsOf_b15, if_pos (by omega), wr_id (by omega) (by omega)]
theorem p6_pairsOf {s : Sg} {A : As} (hs : R6 s A) (w : Int) : ∃ s', fX6_pairsOf s w = some (((pairsN (asI A) w : Nat) : Int), s') ∧ R6 s' A ∧ gI s' 62 = gI s 62 := by
  have h6 := hs.1.2.2.1.1
  refine Exists.elim (loopN (fun f i (v : Int × Sg) => fX6_pairsOf_L4 f v.2 w v.1 i) (asI A).length (fun i v => (R6 v.2 A ∧ gI v.2 62 = gI s 62) ∧ v.1 = ((sumN (fun i => cntN (fun e => pairV (ig (asI A) i) (ig (asI A) e) w) i) i : Nat) : Int)) (fun v => some v) ?_ ?_ FU 0 ((0 : Int), s) (by unfold FU; omega) (by omega) ⟨⟨hs, rfl⟩, by simp [sumN]⟩) ?_
  rotate_left 2
  · rintro ⟨y, s'⟩ ⟨⟨h1, h2⟩, h3⟩
    dsimp only at h1 h2
    subst h2
    exact ⟨s', h3, h1.1, h1.2⟩
  · rintro f i ⟨y, s'⟩ hi ⟨⟨h1, h62⟩, h2⟩
    dsimp only at h1 h2 h62
    show ∃ v' : Int × Sg, _ ∧ fX6_pairsOf_L4 (f + 1) s' w y i = fX6_pairsOf_L4 f v'.2 w v'.1 ((i + 1 : Nat) : Int)
    have hle := sumN_le (fun i => cntN (fun e => pairV (ig (asI A) i) (ig (asI A) e) w) i) 6 i (fun j hj => Nat.le_trans (cntN_le _ _) (by omega))
    have h4 := h1.2.2.1.2.2.1
    obtain ⟨s'', e1, k1, k62⟩ := p6_pairs_L15 (w := w) hi (K4 := fX6_pairsOf_L4 f) (x := sumN (fun i => cntN (fun e => pairV (ig (asI A) i) (ig (asI A) e) w) i) i) (by omega) s' h1
    rw [fX6_pairsOf_L4_s, fX6_pairsOf_b4, h4, if_neg (by omega), h2, e1]
    exact ⟨(((sumN (fun i => cntN (fun e => pairV (ig (asI A) i) (ig (asI A) e) w) i) (i + 1) : Nat) : Int), s''), ⟨⟨k1, k62.trans h62⟩, rfl⟩, by rw [show ((i + 1 : Nat) : Int) = (i : Int) + 1 by omega]; rfl⟩
  · rintro f ⟨y, s'⟩ ⟨⟨h1, h62⟩, h2⟩
    dsimp only at h1
    have h4 := h1.2.2.1.2.2.1
    show fX6_pairsOf_L4 (f + 1) s' w y ((asI A).length : Int) = _
    rw [fX6_pairsOf_L4_s, fX6_pairsOf_b4, h4, if_pos (by omega)]
theorem p6_lacksOfAll {s : Sg} {A : As} (hs : R6 s A) : ∃ s', fX6_lacksOfAll s = some (((lackN A : Nat) : Int), s') ∧ R6 s' A ∧ gI s' 62 = gI s 62 := by
  have h6 := hs.1.2.2.1.1
  refine Exists.elim (loopN (fun f i (v : Int × Sg) => fX6_lacksOfAll_L4 f v.2 v.1 i) (asI A).length (fun i v => (R6 v.2 A ∧ gI v.2 62 = gI s 62) ∧ v.1 = ((sumN (fun i => pcN (lck A (ig (asI A) i))) i : Nat) : Int)) (fun v => some v) ?_ ?_ FU 0 ((0 : Int), s) (by unfold FU; omega) (by omega) ⟨⟨hs, rfl⟩, by simp [sumN]⟩) ?_
  rotate_left 2
  · rintro ⟨y, s'⟩ ⟨⟨h1, h2⟩, h3⟩
    dsimp only at h1 h2
    subst h2
    exact ⟨s', h3, h1.1, h1.2⟩
  · rintro f i ⟨y, s'⟩ hi ⟨⟨h1, h62⟩, h2⟩
    dsimp only at h1 h2 h62
    show ∃ v' : Int × Sg, _ ∧ fX6_lacksOfAll_L4 (f + 1) s' y i = fX6_lacksOfAll_L4 f v'.2 v'.1 ((i + 1 : Nat) : Int)
    have hle := sumN_le (fun i => pcN (lck A (ig (asI A) i))) 16 i (fun j hj => cntN_le _ _)
    have hle2 : pcN (lck A (ig (asI A) i)) ≤ 16 := cntN_le _ _
    have h4 := h1.2.2.1.2.2.1
    have hl := lck_lt (A := A) (ig (asI A) i) h1.1.2.1.1
    obtain ⟨s'', e1, k1⟩ := p6_lacksOf h1 hi
    rw [fX6_lacksOfAll_L4_s, fX6_lacksOfAll_b4, h4, if_neg (by omega), e1, bd_s, p6_size (by omega), bd_s, h2, wr_id (x := (i : Int) + 1) (by omega) (by omega)]
    have hpc : cntN (lck A (ig (asI A) i)).testBit 16 = pcN (lck A (ig (asI A) i)) := rfl
    rw [hpc, wr_id (by omega) (by omega)]
    refine ⟨(((sumN (fun i => pcN (lck A (ig (asI A) i))) (i + 1) : Nat) : Int), s''), ⟨⟨h1.keep k1, (k1.I (by decide)).trans h62⟩, rfl⟩, ?_⟩
    simp only [sumN]
    congr 1
  · rintro f ⟨y, s'⟩ ⟨⟨h1, h62⟩, h2⟩
    dsimp only at h1
    have h4 := h1.2.2.1.2.2.1
    show fX6_lacksOfAll_L4 (f + 1) s' y ((asI A).length : Int) = _
    rw [fX6_lacksOfAll_L4_s, fX6_lacksOfAll_b4, h4, if_pos (by omega)]
theorem p6_howMany {s : Sg} {A : As} (h : R6 s A) (w : Int) (hw : rI w) : ∃ s', fX6_howMany s w = some (countV A w, s') ∧ R6 s' A ∧ gI s' 62 = gI s 62 := by
  unfold fX6_howMany countV fX6_howMany_b75
  by_cases w0 : w = 0
  · rw [if_pos w0, if_pos w0, h.2.2.1.1]; exact ⟨s, rfl, h, rfl⟩
  rw [if_neg w0, if_neg w0]
  by_cases w1 : w = 1
  · rw [if_pos w1, if_pos w1, h.2.2.1.2.2.1]; exact ⟨s, rfl, h, rfl⟩
  rw [if_neg w1, if_neg w1]
  by_cases w2 : w = 2
  · rw [if_pos w2, if_pos w2, p6_unsound h.2.2.1]; exact ⟨s, rfl, h, rfl⟩
  rw [if_neg w2, if_neg w2]
  by_cases w3 : w = 3
  · rw [if_pos w3, if_pos (Or.inl w3), wr_id (by omega) (by omega)]
    obtain ⟨s', e, k, k62⟩ := p6_pairsOf h (w - 3)
    rw [e, bd_s]; exact ⟨s', rfl, k, k62⟩
  rw [if_neg w3]
  by_cases w4 : w = 4
  · rw [if_pos w4, if_pos (Or.inr w4), wr_id (by omega) (by omega)]
    obtain ⟨s', e, k, k62⟩ := p6_pairsOf h (w - 3)
    rw [e, bd_s]; exact ⟨s', rfl, k, k62⟩
  rw [if_neg w4, if_neg (show ¬ (w = 3 ∨ w = 4) by omega)]
  by_cases w5 : w = 5
  · rw [if_pos w5, if_pos w5]
    obtain ⟨s', e, k, k62⟩ := p6_lacksOfAll h
    rw [e, bd_s]; exact ⟨s', rfl, k, k62⟩
  rw [if_neg w5, if_neg w5]
  by_cases w6 : w = 6
  · rw [if_pos w6, if_pos w6, p6_filled h.2.2.2.2.2.1]; exact ⟨s, rfl, h, rfl⟩
  rw [if_neg w6, if_neg w6]
  by_cases w7 : w = 7
  · rw [if_pos w7, if_pos w7, p6_differentTypes h.1.2.2.2.1 h.2.2.2.2.2.1]; exact ⟨s, rfl, h, rfl⟩
  rw [if_neg w7, if_neg w7]
  by_cases w8 : w = 8
  · rw [if_pos w8, if_pos w8, h.2.2.2.2.2.2.1.1]; exact ⟨s, rfl, h, rfl⟩
  rw [if_neg w8, if_neg w8]
  by_cases w9 : w = 9
  · rw [if_pos w9, if_pos w9, h.2.2.2.2.2.2.2.1.1]; exact ⟨s, rfl, h, rfl⟩
  rw [if_neg w9, if_neg w9]
  by_cases w10 : w = 10
  · rw [if_pos w10, if_pos w10, h.2.1]; exact ⟨s, rfl, h, rfl⟩
  rw [if_neg w10, if_neg w10]
  exact ⟨s, rfl, h, rfl⟩
theorem p6_count {s : Sg} {A : As} (h : R6 s A) (w : Int) (hw : rI w) : ∃ s', fX6_count s w = some (countV A w, s') ∧ R6 s' A := by
  unfold fX6_count
  obtain ⟨s', e, k, -⟩ := p6_howMany h w hw
  rw [e, bd_s]; exact ⟨s', rfl, k⟩

set_option maxRecDepth 100000
/-! PURE: drawn; the digest -/
def lcg (x : Int) : Int := (1103515245 * x + 12345) % 2147483648
def drw (x d : Int) : Int := x / 65536 % d
def lfT (no : Int) : Tm := if no = 0 then .num 105 else .num 98
/-- a type is drawn: so many levels below -/
def drT : Nat → Int → Tm × Int
  | 0, x => (lfT (drw (lcg x) 2), lcg x)
  | l + 1, x => if drw (lcg x) 4 = 0 ∨ drw (lcg x) 4 = 1 then (lfT (drw (lcg x) 4), lcg x) else if drw (lcg x) 4 = 2 then (.mulL 0 (drT l (lcg x)).1, (drT l (lcg x)).2) else (.add (drT l (lcg x)).1 (drT l (drT l (lcg x)).2).1, (drT l (drT l (lcg x)).2).2)
/-- so many drawn: found, letters, where it is -/
def drK (I : List Ist) (n : Nat) (seed : Int) : Nat → Int × Int × Int
  | 0 => (0, 0, seed)
  | k + 1 => ((drK I n seed k).1 + bI (decide (rS (res I (drw (lcg (drK I n seed k).2.2) n) (drT 2 (lcg (drK I n seed k).2.2)).1) = 1)), (drK I n seed k).2.1 + (szT (drT 2 (lcg (drK I n seed k).2.2)).1 : Int), (drT 2 (lcg (drK I n seed k).2.2)).2)
def sp_drawn (A : As) (times seed w : Int) : Int := if (1 ≤ times ∧ times ≤ 30) ∧ 0 ≤ seed ∧ 0 ≤ w ∧ w ≤ 2 then (if asB A = 0 then -103 else if w = 0 then (drK (asI A) (asN A) seed times.toNat).1 else if w = 1 then (drK (asI A) (asN A) seed times.toNat).2.1 else (drK (asI A) (asN A) seed times.toNat).2.2) else -102
theorem lcg_r (x : Int) : 0 ≤ lcg x ∧ lcg x < 2147483648 := by unfold lcg; omega
theorem drT_ok : ∀ (l : Nat) (x : Int), okT (drT l x).1 ∧ (0 ≤ (drT l x).2 ∧ (drT l x).2 < 2147483648) ∧ szT (drT l x).1 + 1 ≤ 2 ^ (l + 1) := by
  intro l
  induction l with
  | zero =>
    intro x
    refine ⟨?_, lcg_r x, ?_⟩
    · unfold drT lfT; split <;> simp [okT]
    · unfold drT lfT; split <;> simp [szT]
  | succ l ih =>
    intro x
    have p2 : 2 ^ (l + 1 + 1) = 2 ^ (l + 1) + 2 ^ (l + 1) := by rw [Nat.pow_succ 2 (l + 1)]; omega
    have pp : 2 ≤ 2 ^ (l + 1) := by rw [Nat.pow_succ]; have := Nat.two_pow_pos l; omega
    obtain ⟨a1, a2, a3⟩ := ih (lcg x)
    obtain ⟨b1, b2, b3⟩ := ih (drT l (lcg x)).2
    simp only [drT]
    split
    · refine ⟨?_, lcg_r x, ?_⟩
      · simp only [lfT]; split <;> simp [okT]
      · simp only [lfT]; split <;> simp only [szT] <;> omega
    · split
      · exact ⟨⟨rfl, a1⟩, a2, by simp only [szT]; omega⟩
      · exact ⟨⟨a1, b1⟩, b2, by simp only [szT]; omega⟩
theorem drK_ok (I : List Ist) (n : Nat) {seed : Int} (h : 0 ≤ seed ∧ seed < 2147483648) : ∀ k : Nat, (0 ≤ (drK I n seed k).1 ∧ (drK I n seed k).1 ≤ k) ∧ (0 ≤ (drK I n seed k).2.1 ∧ (drK I n seed k).2.1 ≤ 7 * k) ∧ 0 ≤ (drK I n seed k).2.2 ∧ (drK I n seed k).2.2 < 2147483648 := by
  intro k
  induction k with
  | zero => exact ⟨by simp [drK], by simp [drK], h⟩
  | succ k ih =>
    obtain ⟨a, b, c⟩ := ih
    have hd := drT_ok 2 (lcg (drK I n seed k).2.2)
    have h8 : (2 : Nat) ^ (2 + 1) = 8 := by decide
    have hb : ∀ q : Bool, 0 ≤ bI q ∧ bI q ≤ 1 := by intro q; cases q <;> simp [bI]
    have := hb (decide (rS (res I (drw (lcg (drK I n seed k).2.2) n) (drT 2 (lcg (drK I n seed k).2.2)).1) = 1))
    refine ⟨?_, ?_, ?_⟩
    · simp only [drK]; omega
    · simp only [drK]; omega
    · simp only [drK]; exact hd.2.1
/-! the digest -/
def mx (h v : Int) : Int := wl (wl (31 * h) + v)
def itN (G : Nat → Int → Int) : Nat → Int → Int
  | 0, h => h
  | n + 1, h => G n (itN G n h)
def dgA (A : As) (h : Int) : Int := itN (fun c h => itN (fun w h => mx h (aboutV A c w)) 3 h) (asN A) h
def dgI (A : As) (h : Int) : Int := itN (fun i h => itN (fun w h => mx h (instV A i w)) 8 h) (asI A).length h
def dgT1 (A : As) (t : Tm) (c w : Nat) (h : Int) : Int := mx h (goalVal A (res (asI A) (c : Int) t) (w : Int))
def dgT2 (A : As) (t : Tm) (c : Nat) (h : Int) : Int := itN (dgT1 A t c) 7 h
def dgT (A : As) (t : Tm) (h : Int) : Int := itN (dgT2 A t) (asN A) h
theorem itN_s (G : Nat → Int → Int) (n : Nat) (h : Int) : itN G (n + 1) h = G n (itN G n h) := rfl
def dgS (A : As) (h : Int) : Int := itN (fun k h => match asS A k with
  | none => h
  | some t => dgT A t h) 4 h
def dgP (A : As) (h : Int) : Int := itN (fun k h => mx h ((asP A).getD k 0)) (asP A).length h
def dgC (A : As) (h : Int) : Int := itN (fun w h => mx h (countV A w)) 11 h
def sp_digest (A : As) : Int := dgC A (dgP A (dgS A (dgI A (dgA A 1367))))

