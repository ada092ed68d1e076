/-! the pure laws: H3 H4 H5 H6 H7 -/
set_option maxRecDepth 100000
/-! PURE: tree bins: a new node is balanced -/
theorem countP_lt {α : Type} {p q : α → Bool} : ∀ {l : List α}, (∀ a, p a = true → q a = true) → (∃ a, a ∈ l ∧ q a = true ∧ p a = false) → l.countP p < l.countP q := by
  intro l
  induction l with
  | nil => rintro _ ⟨a, h, -⟩; cases h
  | cons b l ih =>
    rintro hpq ⟨a, ha, h1, h2⟩
    have hle : l.countP p ≤ l.countP q := List.countP_mono_left fun x _ => hpq x
    rw [List.countP_cons, List.countP_cons]
    rcases List.mem_cons.mp ha with e | e
    · subst e
      rw [h1, h2]; simp; omega
    · have := ih hpq ⟨a, e, h1, h2⟩
      cases hb : p b
      · cases q b <;> simp <;> omega
      · rw [hpq b hb]; simp; omega
/-- how many have wider bounds -/
def wcnt (NL : List Nat) (lo hi : Nat → Int) (x : Nat) : Nat := NL.countP fun a => decide (hi x - lo x < hi a - lo a)
theorem wcnt_lt {NL : List Nat} {lo hi : Nat → Int} {x z : Nat} (hz : z ∈ NL) (h : hi x - lo x < hi z - lo z) : wcnt NL lo hi z < wcnt NL lo hi x := by
  refine countP_lt (fun a ha => ?_) ⟨z, hz, by simpa using h, by simp⟩
  simp at ha ⊢; omega
theorem BT.up {N : Nat → Prop} {R : TR} {H lo hi : Nat → Int} {r a p : Nat} (B : BT N R H lo hi r) (ha : N a) (h : R a 6 = some p) : N p ∧ hi a - lo a < hi p - lo p ∧ (R p 7 = some a ∨ R p 8 = some a) := by
  obtain ⟨h1, h2, h3, h4, h5, h6, h7, h8⟩ := B
  obtain ⟨np, e⟩ := h7 a p ha h
  have gp := h4 p np
  refine ⟨np, ?_, e⟩
  rcases e with e | e
  · have := h5 p a np e; omega
  · have := h6 p a np e; omega
/-- what the balancing leaves -/
def balR (h : hS) (NL : List Nat) (H : Nat → Int) (K V : Nat → Option Nat) (R : TR) (Z : Option (Option Nat × hS)) : Prop :=
  ∃ h' R' C' r' lo' hi', Z = some (some r', h') ∧ TS h' (fun a => a ∈ NL) H K V R' C' ∧ BT (fun a => a ∈ NL) R' H lo' hi' r' ∧ onlyN (fun a => a ∈ NL) h h' ∧ ∀ a i, i = 5 ∨ i = 9 → R' a i = R a i
theorem bal_end {h : hS} {NL : List Nat} {H : Nat → Int} {K V : Nat → Option Nat} {R : TR} {C : Nat → Int} {r x v f : Nat} (T : TS h (fun a => a ∈ NL) H K V R C) (hx : x ∈ NL) (hv : v ∈ NL) (h6 : R x 6 = some v) (hc : C v = 0) : fJ6_balanceInsertion_L5 (f + 1) h (some r) (some x) = some (some r, h) := by
  rw [fJ6_balanceInsertion_L5_s, fJ6_balanceInsertion_b5, T.q hx [(13, 6)] rfl (by simp), bd_s, h6]
  unfold ifN
  simp only
  rw [T.c hv [(13, 10)] rfl, bd_s, hc, if_pos rfl, fJ6_balanceInsertion_b37]
theorem rotL_59 (R : TR) (p q a i : Nat) (h : i = 5 ∨ i = 9) : rotL R p q a i = R a i := by
  rw [rotL_at]
  rcases h with rfl | rfl <;> simp
theorem rotR_59 (R : TR) (p q a i : Nat) (h : i = 5 ∨ i = 9) : rotR R p q a i = R a i := by
  rw [rotR_at]
  rcases h with rfl | rfl <;> simp
theorem pH_b123 {h0 h : hS} {NL : List Nat} {H lo hi : Nat → Int} {K V : Nat → Option Nat} {R0 R : TR} {C : Nat → Int} {r x v f : Nat} (T : TS h (fun a => a ∈ NL) H K V R C) (B : BT (fun a => a ∈ NL) R H lo hi r) (hx : x ∈ NL) (h6 : R x 6 = some v) (h7 : R v 7 = some x) (o0 : onlyN (fun a => a ∈ NL) h0 h) (h59 : ∀ a i, i = 5 ∨ i = 9 → R a i = R0 a i) :
    balR h0 NL H K V R0 (fJ6_balanceInsertion_b123 (fJ6_balanceInsertion_L5 (f + 1)) h (some r) (some x) (some v) (R v 6)) := by
  obtain ⟨hv, -, -⟩ := B.up hx h6
  unfold fJ6_balanceInsertion_b123 ifN
  simp only
  obtain ⟨h1, e1, T1, o1⟩ := T.wc hv [(13, 10)] rfl 0
  rw [e1, bd_s]
  have c1 : upN C v 0 v = 0 := by simp [upN]
  cases hz : R v 6 with
  | none =>
    simp only
    rw [bal_end T1 hx hv h6 c1]
    exact ⟨h1, R, _, r, lo, hi, rfl, T1, B, o0.trans o1, h59⟩
  | some z =>
    simp only
    obtain ⟨nz, -, zc⟩ := B.up hv hz
    have hvz : v ≠ z := fun e => B.ne nz zc e.symm
    obtain ⟨h2, e2, T2, o2⟩ := T1.wc nz [(13, 10)] rfl 1
    rw [e2, bd_s]
    have c2 : upN (upN C v 0) z 1 v = 0 := by simp [upN, hvz]
    cases hq : R z 7 with
    | none =>
      have : fJ6_rotateRight h2 (some r) (some z) = some (some r, h2) := by
        unfold fJ6_rotateRight ifN
        simp only
        rw [T2.q nz [(13, 7)] rfl (by simp), bd_s, hq, fJ6_rotateRight_b89]
      rw [this, bd_s, bal_end T2 hx hv h6 c2]
      exact ⟨h2, R, _, r, lo, hi, rfl, T2, B, (o0.trans o1).trans o2, h59⟩
    | some q =>
      obtain ⟨h3, e3, T3, o3⟩ := pH_rotR T2 B nz hq
      have B3 := rotR_BT B nz hq
      have p3 : rotR R z q x 6 = some v := by
        rw [rotR_at]
        have a1 : x ≠ z := fun e => by
          have := B.ne2 nz zc (Or.inl h7); exact this e.symm
        have a2 : x ≠ q := fun e => by
          have := (B.2.2.2.2.1 z q nz hq).2.1
          rw [← e, h6] at this
          exact hvz (Option.some.inj this)
        have a3 : ¬ R q 8 = some x := fun e => by
          have n1 := B.2.2.2.2.1 z q nz hq
          have := (B.2.2.2.2.2.1 q x n1.1 e).2.1
          rw [h6] at this
          have hvq := Option.some.inj this
          rw [← hvq] at e
          exact B.lr hv h7 e
        simp [a1, a2, a3, h6]
      have c3 : (if R z 6 = none then upN (upN (upN C v 0) z 1) q 0 else upN (upN C v 0) z 1) v = 0 := by
        split
        · simp only [upN]; split
          · rfl
          · simp [hvz]
        · exact c2
      rw [e3, bd_s, bal_end T3 hx hv p3 c3]
      exact ⟨h3, _, _, _, _, _, rfl, T3, B3, ((o0.trans o1).trans o2).trans o3, fun a i hi => (rotR_59 R z q a i hi).trans (h59 a i hi)⟩
theorem pH_b218 {h0 h : hS} {NL : List Nat} {H lo hi : Nat → Int} {K V : Nat → Option Nat} {R0 R : TR} {C : Nat → Int} {r x v f : Nat} (T : TS h (fun a => a ∈ NL) H K V R C) (B : BT (fun a => a ∈ NL) R H lo hi r) (hx : x ∈ NL) (h6 : R x 6 = some v) (h7 : R v 8 = some x) (o0 : onlyN (fun a => a ∈ NL) h0 h) (h59 : ∀ a i, i = 5 ∨ i = 9 → R a i = R0 a i) :
    balR h0 NL H K V R0 (fJ6_balanceInsertion_b218 (fJ6_balanceInsertion_L5 (f + 1)) h (some r) (some x) (some v) (R v 6)) := by
  obtain ⟨hv, -, -⟩ := B.up hx h6
  unfold fJ6_balanceInsertion_b218 ifN
  simp only
  obtain ⟨h1, e1, T1, o1⟩ := T.wc hv [(13, 10)] rfl 0
  rw [e1, bd_s]
  have c1 : upN C v 0 v = 0 := by simp [upN]
  cases hz : R v 6 with
  | none =>
    simp only
    rw [bal_end T1 hx hv h6 c1]
    exact ⟨h1, R, _, r, lo, hi, rfl, T1, B, o0.trans o1, h59⟩
  | some z =>
    simp only
    obtain ⟨nz, -, zc⟩ := B.up hv hz
    have hvz : v ≠ z := fun e => B.ne nz zc e.symm
    obtain ⟨h2, e2, T2, o2⟩ := T1.wc nz [(13, 10)] rfl 1
    rw [e2, bd_s]
    have c2 : upN (upN C v 0) z 1 v = 0 := by simp [upN, hvz]
    cases hq : R z 8 with
    | none =>
      have : fJ6_rotateLeft h2 (some r) (some z) = some (some r, h2) := by
        unfold fJ6_rotateLeft ifN
        simp only
        rw [T2.q nz [(13, 8)] rfl (by simp), bd_s, hq, fJ6_rotateLeft_b89]
      rw [this, bd_s, bal_end T2 hx hv h6 c2]
      exact ⟨h2, R, _, r, lo, hi, rfl, T2, B, (o0.trans o1).trans o2, h59⟩
    | some q =>
      obtain ⟨h3, e3, T3, o3⟩ := pH_rotL T2 B nz hq
      have B3 := rotL_BT B nz hq
      have p3 : rotL R z q x 6 = some v := by
        rw [rotL_at]
        have a1 : x ≠ z := fun e => by
          have := B.ne2 nz zc (Or.inr h7); exact this e.symm
        have a2 : x ≠ q := fun e => by
          have := (B.2.2.2.2.2.1 z q nz hq).2.1
          rw [← e, h6] at this
          exact hvz (Option.some.inj this)
        have a3 : ¬ R q 7 = some x := fun e => by
          have n1 := B.2.2.2.2.2.1 z q nz hq
          have := (B.2.2.2.2.1 q x n1.1 e).2.1
          rw [h6] at this
          have hvq := Option.some.inj this
          rw [← hvq] at e
          exact B.lr hv e h7
        simp [a1, a2, a3, h6]
      have c3 : (if R z 6 = none then upN (upN (upN C v 0) z 1) q 0 else upN (upN C v 0) z 1) v = 0 := by
        split
        · simp only [upN]; split
          · rfl
          · simp [hvz]
        · exact c2
      rw [e3, bd_s, bal_end T3 hx hv p3 c3]
      exact ⟨h3, _, _, _, _, _, rfl, T3, B3, ((o0.trans o1).trans o2).trans o3, fun a i hi => (rotL_59 R z q a i hi).trans (h59 a i hi)⟩
theorem pH_bal_L {NL : List Nat} {H : Nat → Int} {K V : Nat → Option Nat} {R0 : TR} {h0 : hS} {lo hi : Nat → Int} {R : TR} {r : Nat} (B : BT (fun a => a ∈ NL) R H lo hi r) (h59 : ∀ a i, i = 5 ∨ i = 9 → R a i = R0 a i) : ∀ (m : Nat) (h : hS) (C : Nat → Int) (x f : Nat), wcnt NL lo hi x ≤ m → m + 2 < f → TS h (fun a => a ∈ NL) H K V R C → x ∈ NL → onlyN (fun a => a ∈ NL) h0 h →
    balR h0 NL H K V R0 (fJ6_balanceInsertion_L5 f h (some r) (some x)) := by
  intro m
  induction m with
  | zero =>
    intro h C x f hm hf T hx o0
    obtain ⟨f, rfl⟩ : ∃ k, f = k + 1 := ⟨f - 1, by omega⟩
    have hnone : R x 6 = none := by
      cases e : R x 6 with
      | none => rfl
      | some v =>
        obtain ⟨hv, hw, -⟩ := B.up hx e
        have := wcnt_lt hv hw
        omega
    rw [fJ6_balanceInsertion_L5_s, fJ6_balanceInsertion_b5, T.q hx [(13, 6)] rfl (by simp), bd_s, hnone]
    unfold ifN
    simp only
    obtain ⟨h1, e1, T1, o1⟩ := T.wc hx [(13, 10)] rfl 0
    rw [e1, bd_s]
    have hr : x = r := B.2.2.2.2.2.2.2 x hx hnone
    exact ⟨h1, R, _, x, lo, hi, rfl, T1, by rw [hr]; exact B, o0.trans o1, h59⟩
  | succ m ih =>
    intro h C x f hm hf T hx o0
    obtain ⟨f, rfl⟩ : ∃ k, f = k + 1 := ⟨f - 1, by omega⟩
    obtain ⟨f', rfl⟩ : ∃ k, f = k + 1 := ⟨f - 1, by omega⟩
    rw [fJ6_balanceInsertion_L5_s, fJ6_balanceInsertion_b5, T.q hx [(13, 6)] rfl (by simp), bd_s]
    cases h6 : R x 6 with
    | none =>
      unfold ifN
      simp only
      obtain ⟨h1, e1, T1, o1⟩ := T.wc hx [(13, 10)] rfl 0
      rw [e1, bd_s]
      have hr : x = r := B.2.2.2.2.2.2.2 x hx h6
      exact ⟨h1, R, _, x, lo, hi, rfl, T1, by rw [hr]; exact B, o0.trans o1, h59⟩
    | some v =>
      obtain ⟨hv, hw, vc⟩ := B.up hx h6
      unfold ifN
      simp only
      rw [T.c hv [(13, 10)] rfl, bd_s]
      unfold fJ6_balanceInsertion_b37
      by_cases hc : C v = 0
      · rw [if_pos hc]
        exact ⟨h, R, C, r, lo, hi, rfl, T, B, o0, h59⟩
      · rw [if_neg hc, T.q hv [(13, 6)] rfl (by simp), bd_s]
        cases hz : R v 6 with
        | none => simp only; exact ⟨h, R, C, r, lo, hi, rfl, T, B, o0, h59⟩
        | some z =>
          simp only
          obtain ⟨nz, hw2, zc⟩ := B.up hv hz
          rw [T.q nz [(13, 7)] rfl (by simp), bd_s]
          -- recoloured: on with the one above
          have reco : ∀ u, u ∈ NL → balR h0 NL H K V R0 (bd (hW h (some u) [(13, 10)] (vi 0)) fun h39 => bd (hW h39 (some v) [(13, 10)] (vi 0)) fun h42 => bd (hW h42 (some z) [(13, 10)] (vi 1)) fun h45 => fJ6_balanceInsertion_L5 (f' + 1) h45 (some r) (some z)) := by
            intro u hu
            obtain ⟨h1, e1, T1, o1⟩ := T.wc hu [(13, 10)] rfl 0
            obtain ⟨h2, e2, T2, o2⟩ := T1.wc hv [(13, 10)] rfl 0
            obtain ⟨h3, e3, T3, o3⟩ := T2.wc nz [(13, 10)] rfl 1
            rw [e1, bd_s, e2, bd_s, e3, bd_s]
            have hlt := wcnt_lt (lo := lo) (hi := hi) (x := x) nz (by omega)
            exact ih h3 _ z (f' + 1) (by omega) (by omega) T3 nz (((o0.trans o1).trans o2).trans o3)
          -- the side of the left
          have left : R z 7 = some v → balR h0 NL H K V R0 (fJ6_balanceInsertion_b89 (fJ6_balanceInsertion_L5 (f' + 1)) h (some r) (some x) (some v) (some z)) := by
            intro hzl
            unfold fJ6_balanceInsertion_b89
            rw [T.q hv [(13, 8)] rfl (by simp), bd_s]
            by_cases hx8 : R v 8 = some x
            · rw [if_neg (by simp [hx8])]
              obtain ⟨h1, e1, T1, o1⟩ := pH_rotL T B hv hx8
              have B1 := rotL_BT B hv hx8
              have hvx := B.ne hv (Or.inr hx8)
              have q1 : rotL R v x v 6 = some x := by rw [rotL_at]; simp
              have q2 : rotL R v x x 7 = some v := by
                rw [rotL_at, if_neg (by simp), if_pos ⟨rfl, rfl⟩]
              rw [e1, bd_s]
              dsimp only
              rw [T1.q hv [(13, 6)] rfl (by simp), bd_s, q1]
              unfold ifN
              simp only
              rw [T1.q hx [(13, 6)] rfl (by simp), bd_s]
              unfold fJ6_balanceInsertion_b122
              exact pH_b123 T1 B1 hv q1 q2 (o0.trans o1) (fun a i hi => (rotL_59 R v x a i hi).trans (h59 a i hi))
            · rw [if_pos (fun e => hx8 e.symm)]
              have hx7 : R v 7 = some x := vc.resolve_right hx8
              have := pH_b123 (f := f') T B hx h6 hx7 o0 h59
              rw [hz] at this
              exact this
          have right : R z 8 = some v → balR h0 NL H K V R0 (fJ6_balanceInsertion_b184 (fJ6_balanceInsertion_L5 (f' + 1)) h (some r) (some x) (some v) (some z)) := by
            intro hzl
            unfold fJ6_balanceInsertion_b184
            rw [T.q hv [(13, 7)] rfl (by simp), bd_s]
            by_cases hx8 : R v 7 = some x
            · rw [if_neg (by simp [hx8])]
              obtain ⟨h1, e1, T1, o1⟩ := pH_rotR T B hv hx8
              have B1 := rotR_BT B hv hx8
              have hvx := B.ne hv (Or.inl hx8)
              have q1 : rotR R v x v 6 = some x := by rw [rotR_at]; simp
              have q2 : rotR R v x x 8 = some v := by
                rw [rotR_at, if_neg (by simp), if_pos ⟨rfl, rfl⟩]
              rw [e1, bd_s]
              dsimp only
              rw [T1.q hv [(13, 6)] rfl (by simp), bd_s, q1]
              unfold ifN
              simp only
              rw [T1.q hx [(13, 6)] rfl (by simp), bd_s]
              unfold fJ6_balanceInsertion_b217
              exact pH_b218 T1 B1 hv q1 q2 (o0.trans o1) (fun a i hi => (rotR_59 R v x a i hi).trans (h59 a i hi))
            · rw [if_pos (fun e => hx8 e.symm)]
              have hx7 : R v 8 = some x := vc.resolve_left hx8
              have := pH_b218 (f := f') T B hx h6 hx7 o0 h59
              rw [hz] at this
              exact this
          by_cases hside : R z 7 = some v
          · rw [if_neg (by simp [hside]), T.q nz [(13, 8)] rfl (by simp), bd_s]
            cases hu : R z 8 with
            | none => simp only; exact left hside
            | some u =>
              simp only
              have nu := (B.2.2.2.2.2.1 z u nz hu).1
              rw [T.c nu [(13, 10)] rfl, bd_s]
              by_cases hcu : C u = 0
              · rw [if_pos hcu]; exact left hside
              · rw [if_neg hcu]; exact reco u nu
          · rw [if_pos (fun e => hside e.symm)]
            have hside2 : R z 8 = some v := zc.resolve_left hside
            cases hu : R z 7 with
            | none => simp only; exact right hside2
            | some u =>
              simp only
              have nu := (B.2.2.2.2.1 z u nz hu).1
              rw [T.c nu [(13, 10)] rfl, bd_s]
              by_cases hcu : C u = 0
              · rw [if_pos hcu]; exact right hside2
              · rw [if_neg hcu]; exact reco u nu
theorem pH_bal {NL : List Nat} {H lo hi : Nat → Int} {K V : Nat → Option Nat} {R : TR} {C : Nat → Int} {h : hS} {r x : Nat} (hl : NL.length < 90000) (T : TS h (fun a => a ∈ NL) H K V R C) (B : BT (fun a => a ∈ NL) R H lo hi r) (hx : x ∈ NL) : balR h NL H K V R (fJ6_balanceInsertion h (some r) (some x)) := by
  unfold fJ6_balanceInsertion
  obtain ⟨h1, e1, T1, o1⟩ := T.wc hx [(13, 10)] rfl 1
  rw [e1, bd_s]
  have : wcnt NL lo hi x ≤ NL.length := List.countP_le_length
  exact pH_bal_L B (fun _ _ _ => rfl) (wcnt NL lo hi x) h1 _ x FU (Nat.le_refl _) (by unfold FU; omega) T1 hx o1

set_option maxRecDepth 100000
/-! PURE: tree bins: a node is looked for -/
def upR (R : TR) : Nat → Nat → Option Nat
  | 0, a => some a
  | k + 1, a => match upR R k a with
    | none => none
    | some b => R b 6
theorem up_in {N : Nat → Prop} {R : TR} {H lo hi : Nat → Int} {r : Nat} (B : BT N R H lo hi r) {a : Nat} (ha : N a) : ∀ (k y : Nat), upR R k a = some y → N y ∧ lo y ≤ lo a ∧ hi a ≤ hi y := by
  intro k
  induction k with
  | zero => intro y e; cases e; exact ⟨ha, Int.le_refl _, Int.le_refl _⟩
  | succ k ih =>
    intro y e
    simp only [upR] at e
    cases hb : upR R k a with
    | none => rw [hb] at e; cases e
    | some b =>
      rw [hb] at e
      simp only at e
      obtain ⟨nb, l1, l2⟩ := ih b hb
      obtain ⟨ny, -, hc⟩ := B.up nb e
      have gy := B.2.2.2.1 y ny
      have gb := B.2.2.2.1 b nb
      rcases hc with c | c
      · have := B.2.2.2.2.1 y b ny c
        exact ⟨ny, by omega, by omega⟩
      · have := B.2.2.2.2.2.1 y b ny c
        exact ⟨ny, by omega, by omega⟩
theorem up_root {NL : List Nat} {R : TR} {H lo hi : Nat → Int} {r : Nat} (B : BT (fun a => a ∈ NL) R H lo hi r) : ∀ (m a : Nat), wcnt NL lo hi a ≤ m → a ∈ NL → ∃ k, upR R k a = some r := by
  intro m
  induction m with
  | zero =>
    intro a hm ha
    cases e : R a 6 with
    | none => exact ⟨0, by rw [← B.2.2.2.2.2.2.2 a ha e]; rfl⟩
    | some p =>
      obtain ⟨hp, hw, -⟩ := B.up ha e
      have := wcnt_lt hp hw; omega
  | succ m ih =>
    intro a hm ha
    cases e : R a 6 with
    | none => exact ⟨0, by rw [← B.2.2.2.2.2.2.2 a ha e]; rfl⟩
    | some p =>
      obtain ⟨hp, hw, -⟩ := B.up ha e
      have := wcnt_lt hp hw
      obtain ⟨k, hk⟩ := ih p (by omega) hp
      have sh : ∀ k, upR R (k + 1) a = upR R k p := by
        intro k
        induction k with
        | zero => simp only [upR]; exact e
        | succ k ihk => rw [upR, ihk]; rfl
      exact ⟨k + 1, by rw [sh]; exact hk⟩
/-- what stands within a node's bounds stands below it -/
theorem up_of {NL : List Nat} {R : TR} {H lo hi : Nat → Int} {r : Nat} (B : BT (fun a => a ∈ NL) R H lo hi r) {a : Nat} (ha : a ∈ NL) : ∀ (m y : Nat), wcnt NL lo hi y ≤ m → y ∈ NL → lo y < H a → H a < hi y → ∃ k, upR R k a = some y := by
  have stepc : ∀ (y p k : Nat), y ∈ NL → R y 6 = some p → upR R k a = some p → lo y < H a → H a < hi y → ∃ k, upR R k a = some y := by
    intro y p k hy e hk h1 h2
    obtain ⟨hp, hw, hc⟩ := B.up hy e
    have gp := B.2.2.2.1 p hp
    cases k with
    | zero =>
      have : a = p := by simpa [upR] using hk
      subst this
      rcases hc with c | c
      · have := B.2.2.2.2.1 a y hp c; omega
      · have := B.2.2.2.2.2.1 a y hp c; omega
    | succ k =>
      simp only [upR] at hk
      cases hb : upR R k a with
      | none => rw [hb] at hk; cases hk
      | some b =>
        rw [hb] at hk
        simp only at hk
        obtain ⟨nb, l1, l2⟩ := up_in B ha k b hb
        have ga := B.2.2.2.1 a ha
        by_cases hby : b = y
        · exact ⟨k, by rw [hb, hby]⟩
        · exfalso
          obtain ⟨-, -, hcb⟩ := B.up nb hk
          rcases hc with c | c
          · rcases hcb with c' | c'
            · rw [c] at c'; exact hby (Option.some.inj c').symm
            · have e1 := B.2.2.2.2.1 p y hp c
              have e2 := B.2.2.2.2.2.1 p b hp c'
              omega
          · rcases hcb with c' | c'
            · have e1 := B.2.2.2.2.2.1 p y hp c
              have e2 := B.2.2.2.2.1 p b hp c'
              omega
            · rw [c] at c'; exact hby (Option.some.inj c').symm
  intro m
  induction m with
  | zero =>
    intro y hm hy h1 h2
    cases e : R y 6 with
    | none => rw [B.2.2.2.2.2.2.2 y hy e]; exact up_root B _ a (Nat.le_refl _) ha
    | some p =>
      obtain ⟨hp, hw, -⟩ := B.up hy e
      have := wcnt_lt hp hw; omega
  | succ m ih =>
    intro y hm hy h1 h2
    cases e : R y 6 with
    | none => rw [B.2.2.2.2.2.2.2 y hy e]; exact up_root B _ a (Nat.le_refl _) ha
    | some p =>
      obtain ⟨hp, hw, hc⟩ := B.up hy e
      have := wcnt_lt hp hw
      have gp := B.2.2.2.1 p hp
      have hb : lo p ≤ lo y ∧ hi y ≤ hi p := by
        rcases hc with c | c
        · have := B.2.2.2.2.1 p y hp c; omega
        · have := B.2.2.2.2.2.1 p y hp c; omega
      obtain ⟨k, hk⟩ := ih p (by omega) hp (by omega) (by omega)
      exact stepc y p k hy e hk h1 h2
/-- where no child is, nothing stands -/
theorem BT.noL {NL : List Nat} {R : TR} {H lo hi : Nat → Int} {r : Nat} (B : BT (fun a => a ∈ NL) R H lo hi r) {y a : Nat} (hy : y ∈ NL) (ha : a ∈ NL) (h7 : R y 7 = none) (h1 : lo y < H a) (h2 : H a < H y) : False := by
  have gy := B.2.2.2.1 y hy
  obtain ⟨k, hk⟩ := up_of B ha _ y (Nat.le_refl _) hy h1 (by omega)
  cases k with
  | zero => have : a = y := by simpa [upR] using hk
            subst this; omega
  | succ k =>
    simp only [upR] at hk
    cases hb : upR R k a with
    | none => rw [hb] at hk; cases hk
    | some b =>
      rw [hb] at hk
      simp only at hk
      obtain ⟨nb, l1, l2⟩ := up_in B ha k b hb
      obtain ⟨-, -, hcb⟩ := B.up nb hk
      have ga := B.2.2.2.1 a ha
      rcases hcb with c | c
      · rw [h7] at c; cases c
      · have := B.2.2.2.2.2.1 y b hy c; omega
theorem BT.noR {NL : List Nat} {R : TR} {H lo hi : Nat → Int} {r : Nat} (B : BT (fun a => a ∈ NL) R H lo hi r) {y a : Nat} (hy : y ∈ NL) (ha : a ∈ NL) (h8 : R y 8 = none) (h1 : H y < H a) (h2 : H a < hi y) : False := by
  have gy := B.2.2.2.1 y hy
  obtain ⟨k, hk⟩ := up_of B ha _ y (Nat.le_refl _) hy (by omega) h2
  cases k with
  | zero => have : a = y := by simpa [upR] using hk
            subst this; omega
  | succ k =>
    simp only [upR] at hk
    cases hb : upR R k a with
    | none => rw [hb] at hk; cases hk
    | some b =>
      rw [hb] at hk
      simp only at hk
      obtain ⟨nb, l1, l2⟩ := up_in B ha k b hb
      obtain ⟨-, -, hcb⟩ := B.up nb hk
      have ga := B.2.2.2.1 a ha
      rcases hcb with c | c
      · have := B.2.2.2.2.1 y b hy c; omega
      · rw [h8] at c; cases c
/-- how many have narrower bounds -/
def ncnt (NL : List Nat) (lo hi : Nat → Int) (x : Nat) : Nat := NL.countP fun a => decide (hi a - lo a < hi x - lo x)
theorem ncnt_lt {NL : List Nat} {lo hi : Nat → Int} {x z : Nat} (hz : z ∈ NL) (h : hi z - lo z < hi x - lo x) : ncnt NL lo hi z < ncnt NL lo hi x := by
  refine countP_lt (fun a ha => ?_) ⟨z, hz, by simpa using h, by simp⟩
  simp at ha ⊢; omega
theorem pH_find_L {NL : List Nat} {H lo hi : Nat → Int} {K V : Nat → Option Nat} {R : TR} {C : Nat → Int} {h : hS} {r : Nat} (T : TS h (fun a => a ∈ NL) H K V R C) (B : BT (fun a => a ∈ NL) R H lo hi r) {hv : Int} {o : Nat}
    (hk : ∀ a, a ∈ NL → H a = hv → K a = some o ∨ ∃ v, v ≠ 0 ∧ D1_equals h (some o) (K a) = some v) : ∀ (m y f : Nat), ncnt NL lo hi y ≤ m → m < f → y ∈ NL → lo y < hv → hv < hi y →
    ∃ z, fJ6_find_L3 f h hv (some o) none (some y) = some z ∧ (match z with
      | none => ∀ a, a ∈ NL → H a ≠ hv
      | some a => a ∈ NL ∧ H a = hv) := by
  intro m
  induction m with
  | zero =>
    intro y f hm hf hy h1 h2
    obtain ⟨f, rfl⟩ : ∃ k, f = k + 1 := ⟨f - 1, by omega⟩
    have gy := B.2.2.2.1 y hy
    rw [fJ6_find_L3_s, fJ6_find_b3, T.q hy [(13, 7)] rfl (by simp), bd_s, T.q hy [(13, 8)] rfl (by simp), bd_s, T.hh hy [(13, 2)] rfl, bd_s]
    have n7 : R y 7 = none := by
      cases e : R y 7 with
      | none => rfl
      | some c =>
        have := B.2.2.2.2.1 y c hy e
        have := ncnt_lt (lo := lo) (hi := hi) (x := y) this.1 (by omega)
        omega
    have n8 : R y 8 = none := by
      cases e : R y 8 with
      | none => rfl
      | some c =>
        have := B.2.2.2.2.2.1 y c hy e
        have := ncnt_lt (lo := lo) (hi := hi) (x := y) this.1 (by omega)
        omega
    unfold fJ6_find_b165 fJ6_find_b74 ifN
    rw [n7, n8]
    simp only
    by_cases c1 : H y ≤ hv
    · rw [if_pos c1]
      by_cases c2 : hv ≤ H y
      · have he : H y = hv := by omega
        rw [if_pos c2, T.k hy [(13, 3)] rfl, bd_s]
        by_cases ck : K y = some o
        · rw [if_pos ck]; exact ⟨_, rfl, hy, he⟩
        · obtain ⟨v, v0, ve⟩ := (hk y hy he).resolve_left ck
          rw [if_neg ck, ve, bd_s, if_neg v0]; exact ⟨_, rfl, hy, he⟩
      · rw [if_neg c2]; exact ⟨none, rfl, fun a ha e => B.noR hy ha n8 (by omega) (by omega)⟩
    · rw [if_neg c1]; exact ⟨none, rfl, fun a ha e => B.noL hy ha n7 (by omega) (by omega)⟩
  | succ m ih =>
    intro y f hm hf hy h1 h2
    obtain ⟨f, rfl⟩ : ∃ k, f = k + 1 := ⟨f - 1, by omega⟩
    have gy := B.2.2.2.1 y hy
    rw [fJ6_find_L3_s, fJ6_find_b3, T.q hy [(13, 7)] rfl (by simp), bd_s, T.q hy [(13, 8)] rfl (by simp), bd_s, T.hh hy [(13, 2)] rfl, bd_s]
    unfold fJ6_find_b165 fJ6_find_b74 ifN
    simp only
    by_cases c1 : H y ≤ hv
    · rw [if_pos c1]
      by_cases c2 : hv ≤ H y
      · have he : H y = hv := by omega
        rw [if_pos c2, T.k hy [(13, 3)] rfl, bd_s]
        by_cases ck : K y = some o
        · rw [if_pos ck]; exact ⟨_, rfl, hy, he⟩
        · obtain ⟨v, v0, ve⟩ := (hk y hy he).resolve_left ck
          rw [if_neg ck, ve, bd_s, if_neg v0]; exact ⟨_, rfl, hy, he⟩
      · rw [if_neg c2]
        cases e : R y 8 with
        | none => exact ⟨none, rfl, fun a ha e' => B.noR hy ha e (by omega) (by omega)⟩
        | some c =>
          have q := B.2.2.2.2.2.1 y c hy e
          have lt := ncnt_lt (lo := lo) (hi := hi) (x := y) q.1 (by omega)
          exact ih c f (by omega) (by omega) q.1 (by omega) (by omega)
    · rw [if_neg c1]
      cases e : R y 7 with
      | none => exact ⟨none, rfl, fun a ha e' => B.noL hy ha e (by omega) (by omega)⟩
      | some c =>
        have q := B.2.2.2.2.1 y c hy e
        have lt := ncnt_lt (lo := lo) (hi := hi) (x := y) q.1 (by omega)
        exact ih c f (by omega) (by omega) q.1 (by omega) (by omega)
theorem pH_root_L {NL : List Nat} {H lo hi : Nat → Int} {K V : Nat → Option Nat} {R : TR} {C : Nat → Int} {h : hS} {r : Nat} (T : TS h (fun a => a ∈ NL) H K V R C) (B : BT (fun a => a ∈ NL) R H lo hi r) : ∀ (m y f : Nat), wcnt NL lo hi y ≤ m → m < f → y ∈ NL → fJ6_root_L2 f h (some y) = some (some r) := by
  intro m
  induction m with
  | zero =>
    intro y f hm hf hy
    obtain ⟨f, rfl⟩ : ∃ k, f = k + 1 := ⟨f - 1, by omega⟩
    rw [fJ6_root_L2_s, fJ6_root_b2, T.q hy [(13, 6)] rfl (by simp), bd_s]
    cases e : R y 6 with
    | none => rw [B.2.2.2.2.2.2.2 y hy e]; rfl
    | some p =>
      obtain ⟨hp, hw, -⟩ := B.up hy e
      have := wcnt_lt hp hw; omega
  | succ m ih =>
    intro y f hm hf hy
    obtain ⟨f, rfl⟩ : ∃ k, f = k + 1 := ⟨f - 1, by omega⟩
    rw [fJ6_root_L2_s, fJ6_root_b2, T.q hy [(13, 6)] rfl (by simp), bd_s]
    cases e : R y 6 with
    | none => rw [B.2.2.2.2.2.2.2 y hy e]; rfl
    | some p =>
      obtain ⟨hp, hw, -⟩ := B.up hy e
      have := wcnt_lt hp hw
      exact ih p f (by omega) (by omega) hp
theorem pH_getTreeNode {NL : List Nat} {H lo hi : Nat → Int} {K V : Nat → Option Nat} {R : TR} {C : Nat → Int} {h : hS} {r y : Nat} (hl : NL.length < 90000) (T : TS h (fun a => a ∈ NL) H K V R C) (B : BT (fun a => a ∈ NL) R H lo hi r) (hy : y ∈ NL) {hv : Int} (hr : rI hv) {o : Nat}
    (hk : ∀ a, a ∈ NL → H a = hv → K a = some o ∨ ∃ v, v ≠ 0 ∧ D1_equals h (some o) (K a) = some v) :
    ∃ z, fJ6_getTreeNode h (some y) hv (some o) = some z ∧ (match z with
      | none => ∀ a, a ∈ NL → H a ≠ hv
      | some a => a ∈ NL ∧ H a = hv) := by
  have hrt := B.1
  have hb := B.2.2.1
  have hr1 := hr.1
  have hr2 := hr.2
  have hnc : ncnt NL lo hi r ≤ NL.length := List.countP_le_length
  obtain ⟨z, e, hz⟩ := pH_find_L T B hk (ncnt NL lo hi r) r FU (Nat.le_refl _) (by unfold FU; omega) hrt (by omega) (by omega)
  have b15 : fJ6_getTreeNode_b15 h hv (some o) (some r) = some z := by
    unfold fJ6_getTreeNode_b15 fJ6_find
    rw [gd_t (T.cl hrt), e, bd_s]
  refine ⟨z, ?_, hz⟩
  unfold fJ6_getTreeNode
  rw [T.q hy [(13, 6)] rfl (by simp), bd_s]
  cases e6 : R y 6 with
  | none =>
    rw [B.2.2.2.2.2.2.2 y hy e6]
    exact b15
  | some p =>
    unfold ifN fJ6_root
    simp only
    have hwc : wcnt NL lo hi y ≤ NL.length := List.countP_le_length
    rw [gd_t (T.cl hy), pH_root_L T B (wcnt NL lo hi y) y FU (Nat.le_refl _) (by unfold FU; omega) hy, bd_s]
    exact b15

set_option maxRecDepth 100000
/-! PURE: tree bins: the row of nodes; the root goes to its front -/
/-- the first of a row, or what follows it -/
def hdO (l : List Nat) (q : Option Nat) : Option Nat := match l with
  | [] => q
  | a :: _ => some a
/-- a row: each one's previous and next -/
def DL (R : TR) (q : Option Nat) : Option Nat → List Nat → Prop
  | _, [] => True
  | p, a :: l => R a 9 = p ∧ R a 5 = hdO l q ∧ DL R q (some a) l
def lsO (p : Option Nat) : List Nat → Option Nat
  | [] => p
  | a :: l => lsO (some a) l
theorem DL_app {R : TR} {q : Option Nat} : ∀ (A : List Nat) (p : Option Nat) (B : List Nat), DL R q p (A ++ B) ↔ DL R (hdO B q) p A ∧ DL R q (lsO p A) B := by
  intro A
  induction A with
  | nil => intro p B; simp [DL, lsO]
  | cons a A ih =>
    intro p B
    simp only [List.cons_append, DL, ih, lsO]
    have : hdO (A ++ B) q = hdO A (hdO B q) := by cases A <;> rfl
    rw [this]
    constructor
    · rintro ⟨h1, h2, h3, h4⟩; exact ⟨⟨h1, h2, h3⟩, h4⟩
    · rintro ⟨⟨h1, h2, h3⟩, h4⟩; exact ⟨h1, h2, h3, h4⟩
theorem DL_cg {R R' : TR} {q : Option Nat} : ∀ (A : List Nat) (p : Option Nat), (∀ a, a ∈ A → R' a 5 = R a 5 ∧ R' a 9 = R a 9) → DL R q p A → DL R' q p A := by
  intro A
  induction A with
  | nil => intro p _ _; trivial
  | cons a A ih =>
    rintro p h ⟨h1, h2, h3⟩
    obtain ⟨e1, e2⟩ := h a (by simp)
    exact ⟨e2.trans h1, e1.trans h2, ih _ (fun b hb => h b (by simp [hb])) h3⟩
theorem DL_hd {R : TR} {q p p' : Option Nat} {a : Nat} {A : List Nat} (hn : a ∉ A) (h : DL R q p (a :: A)) : DL (trU R a 9 p') q p' (a :: A) := by
  obtain ⟨h1, h2, h3⟩ := h
  refine ⟨by simp [trU], by rw [trU_e, if_neg (by simp)]; exact h2, DL_cg A _ (fun b hb => ⟨by rw [trU_e, if_neg (by simp)], ?_⟩) h3⟩
  rw [trU_e, if_neg (by rintro ⟨e, -⟩; rw [e] at hb; exact hn hb)]
theorem lsO_some {p : Option Nat} : ∀ (A : List Nat), A ≠ [] → ∃ A' z, A = A' ++ [z] ∧ lsO p A = some z := by
  intro A
  induction A generalizing p with
  | nil => intro h; exact absurd rfl h
  | cons a A ih =>
    intro _
    cases A with
    | nil => exact ⟨[], a, rfl, rfl⟩
    | cons b B =>
      obtain ⟨A', z, e1, e2⟩ := ih (p := some a) (by simp)
      exact ⟨a :: A', z, by rw [e1]; rfl, e2⟩
theorem DL_ls {R : TR} {q q' p : Option Nat} {z : Nat} {A : List Nat} (hn : z ∉ A) (h : DL R q p (A ++ [z])) : DL (trU R z 5 q') q' p (A ++ [z]) := by
  rw [DL_app] at h ⊢
  obtain ⟨h1, h2, h3, -⟩ := h
  refine ⟨DL_cg A _ (fun b hb => ⟨?_, by rw [trU_e, if_neg (by simp)]⟩) h1, ?_, ?_, trivial⟩
  · rw [trU_e, if_neg (by rintro ⟨e, -⟩; rw [e] at hb; exact hn hb)]
  · rw [trU_e, if_neg (by simp)]; exact h2
  · rw [trU_e, if_pos ⟨rfl, rfl⟩]; rfl
/-- an array of references in the heap -/
def arQ (h : hS) (t n a : Nat) (f : Int → Option Nat) : Prop := h.1 a = some (.inr (t, n, .inr f))
theorem arQ.l {h : hS} {t n a : Nat} {f : Int → Option Nat} (A : arQ h t n a f) : hL h (some a) t = some (n : Int) := by
  unfold hL nn; simp only; rw [A]; simp
theorem arQ.q {h : hS} {t n a : Nat} {f : Int → Option Nat} (A : arQ h t n a f) {i : Int} (h0 : 0 ≤ i) (h1 : i < n) : aQ h (some a) t i = some (f i) := by
  unfold aQ nn; simp only; rw [A]; simp [h0, h1]
theorem arQ.w {h : hS} {t n a : Nat} {f : Int → Option Nat} (A : arQ h t n a f) {i : Int} (h0 : 0 ≤ i) (h1 : i < n) {P : List Nat} {v : Option Nat} (hv : v = none ∨ ∃ c ∈ P, hC h v = some c) :
    ∃ h', aWQ h (some a) t P i v = some h' ∧ arQ h' t n a (upI f i v) ∧ (∀ b, b ≠ a → h'.1 b = h.1 b) ∧ h'.2 = h.2 := by
  unfold aWQ nn; simp only; rw [A]
  simp only
  rw [if_pos ⟨trivial, h0, h1, hv⟩]
  refine ⟨_, rfl, ?_, fun b hb => ?_, rfl⟩
  · unfold arQ hup; simp
  · unfold hup; simp [hb]
theorem TS.cg {h h' : hS} {N : Nat → Prop} {H : Nat → Int} {K V : Nat → Option Nat} {R : TR} {C : Nat → Int} (T : TS h N H K V R C) (e : ∀ a, N a → h'.1 a = h.1 a) : TS h' N H K V R C := fun a ha => by rw [e a ha]; exact T a ha
theorem pH_move {h : hS} {Ch : List Nat} {H : Nat → Int} {K V : Nat → Option Nat} {R : TR} {C : Nat → Int} {r tab n : Nat} {f : Int → Option Nat} {i : Int} (hn : Ch.Nodup) (T : TS h (fun a => a ∈ Ch) H K V R C) (D : DL R none none Ch) (hr : r ∈ Ch)
    (A : arQ h 6 n tab f) (ht : tab ∉ Ch) (hi : iand (wr ((n : Int) - 1)) (H r) = i) (h0 : 0 ≤ i) (h1 : i < n) (hf : f i = Ch.head?) :
    ∃ h' Ch' R' f', fJ6_moveRootToFront h (some tab) (some r) = some h' ∧ TS h' (fun a => a ∈ Ch') H K V R' C ∧ DL R' none none Ch' ∧ Ch'.head? = some r ∧ Ch'.Nodup ∧ (∀ a, a ∈ Ch' ↔ a ∈ Ch) ∧ (∀ a j, j = 6 ∨ j = 7 ∨ j = 8 → R' a j = R a j) ∧
      arQ h' 6 n tab f' ∧ f' i = some r ∧ (∀ j, j ≠ i → f' j = f j) ∧ (∀ b, b ∉ Ch → b ≠ tab → h'.1 b = h.1 b) ∧ h'.2 = h.2 := by
  unfold fJ6_moveRootToFront ifN fJ6_moveRootToFront_b123 fJ6_moveRootToFront_b102 fJ6_moveRootToFront_b123
  simp only
  rw [A.l, bd_s, if_neg (by omega), T.hh hr [(13, 2)] rfl, bd_s, hi, A.q h0 h1, bd_s, hf]
  obtain ⟨X, Y, rfl⟩ := List.append_of_mem hr
  have hin : inC h (X ++ r :: Y).head? [13] = true := by
    cases X with
    | nil => exact T.in3 hr
    | cons x X => exact T.in3 (show x ∈ x :: X ++ r :: Y by simp)
  rw [gd_t (Or.inr hin)]
  cases X with
  | nil =>
    rw [if_pos (by simp)]
    refine ⟨h, r :: Y, R, f, rfl, T, D, rfl, hn, fun _ => Iff.rfl, fun _ _ _ => rfl, A, by rw [hf]; rfl, fun _ _ => rfl, fun _ _ _ => rfl, rfl⟩
  | cons x X =>
    have hnd := hn
    rw [List.nodup_append] at hnd
    obtain ⟨n1, n2, n3⟩ := hnd
    have hrY : r ∉ Y := (List.nodup_cons.mp n2).1
    have hrX : r ∉ x :: X := fun q => n3 r q r (by simp) rfl
    have hrx : ¬ (some r = some x) := fun e => hrX (by rw [Option.some.inj e]; simp)
    have hrw : ¬ (some r = (x :: X ++ r :: Y).head?) := hrx
    rw [if_neg hrw]
    obtain ⟨h2, e2, A2, o2, s2⟩ := A.w h0 h1 (P := [12, 13]) (v := some r) (Or.inr ⟨13, by simp, T.cl hr⟩)
    have T2 : TS h2 (fun a => a ∈ x :: X ++ r :: Y) H K V R C := T.cg fun a ha => o2 a (fun e => ht (e ▸ ha))
    rw [e2, bd_s, T2.q hr [(13, 9)] rfl (by simp), bd_s, T2.q hr [(13, 5)] rfl (by simp), bd_s]
    -- the row around the root
    have D0 := D
    rw [DL_app] at D0
    obtain ⟨dX, dr9, dr5, dY⟩ := D0
    obtain ⟨X', z, eX, ez⟩ := lsO_some (p := none) (x :: X) (by simp)
    rw [ez] at dr9
    have hz : z ∈ x :: X ++ r :: Y := by rw [eX]; simp
    have hzX' : z ∉ X' := by
      rw [eX] at n1
      rw [List.nodup_append] at n1
      exact fun q => n1.2.2 z q z (by simp) rfl
    have hzY : z ∉ Y := fun q => n3 z (by rw [eX]; simp) z (by simp [q]) rfl
    rw [dr9]
    have hxm : x ∈ x :: X ++ r :: Y := by simp
    have hxY : x ∉ Y := fun q => n3 x (by simp) x (by simp [q]) rfl
    have hxX : x ∉ X := (List.nodup_cons.mp n1).1
    -- after the one behind the root is linked back
    have fin : ∀ (h3 : hS) (R3 : TR), TS h3 (fun a => a ∈ x :: X ++ r :: Y) H K V R3 C → (∀ b, b ∉ x :: X ++ r :: Y → h3.1 b = h2.1 b) → h3.2 = h2.2 → (∀ a j, j = 6 ∨ j = 7 ∨ j = 8 → R3 a j = R a j) → DL R3 none (some z) Y → DL R3 (some r) none (x :: X) →
        ∃ h' Ch' R' f', fJ6_moveRootToFront_b68 h3 (some r) (some x) (hdO Y none) (some z) = some h' ∧ TS h' (fun a => a ∈ Ch') H K V R' C ∧ DL R' none none Ch' ∧ Ch'.head? = some r ∧ Ch'.Nodup ∧ (∀ a, a ∈ Ch' ↔ a ∈ x :: X ++ r :: Y) ∧ (∀ a j, j = 6 ∨ j = 7 ∨ j = 8 → R' a j = R a j) ∧
          arQ h' 6 n tab f' ∧ f' i = some r ∧ (∀ j, j ≠ i → f' j = f j) ∧ (∀ b, b ∉ x :: X ++ r :: Y → b ≠ tab → h'.1 b = h.1 b) ∧ h'.2 = h.2 := by
      intro h3 R3 T3 o3 s3 g3 dY3 dX3
      unfold fJ6_moveRootToFront_b68 fJ6_moveRootToFront_b80 fJ6_moveRootToFront_b91 fJ6_moveRootToFront_b102 fJ6_moveRootToFront_b123 ifN
      simp only
      obtain ⟨h4, e4, T4, o4⟩ := T3.w hz [(13, 5)] rfl (by simp) (hdO Y none)
      obtain ⟨h5, e5, T5, o5⟩ := T4.w hxm [(13, 9)] rfl (by simp) (some r)
      obtain ⟨h6, e6, T6, o6⟩ := T5.w hr [(13, 5)] rfl (by simp) (some x)
      obtain ⟨h7, e7, T7, o7⟩ := T6.w hr [(13, 9)] rfl (by simp) none
      rw [e4, bd_s, e5, bd_s, e6, bd_s, e7, bd_s]
      have mem : ∀ a, a ∈ r :: (x :: X ++ Y) ↔ a ∈ x :: X ++ r :: Y := by intro a; simp; grind
      refine ⟨h7, r :: (x :: X ++ Y), _, upI f i (some r), rfl, fun a ha => T7 a ((mem a).mp ha), ?_, rfl, ?_, mem, ?_, ?_, by simp [upI], fun j hj => by simp [upI, hj], ?_, ?_⟩
      · refine ⟨by simp [trU], by rw [trU_e, if_neg (by simp), trU_e, if_pos ⟨rfl, rfl⟩]; rfl, ?_⟩
        -- the rest of the row
        have d1 : DL (trU R3 z 5 (hdO Y none)) (hdO Y none) none (x :: X) := by
          rw [eX] at dX3 ⊢; exact DL_ls hzX' dX3
        have d2 : DL (trU (trU R3 z 5 (hdO Y none)) x 9 (some r)) (hdO Y none) (some r) (x :: X) := DL_hd hxX d1
        have d3 : DL (trU (trU R3 z 5 (hdO Y none)) x 9 (some r)) none (some z) Y := DL_cg Y _ (fun b hb => ⟨by rw [trU_e, if_neg (by simp), trU_e, if_neg (by rintro ⟨e, -⟩; rw [e] at hb; exact hzY hb)], by rw [trU_e, if_neg (by rintro ⟨e, -⟩; rw [e] at hb; exact hxY hb), trU_e, if_neg (by simp)]⟩) dY3
        have d4 : DL (trU (trU R3 z 5 (hdO Y none)) x 9 (some r)) none (some r) (x :: X ++ Y) := by
          rw [DL_app]
          refine ⟨d2, ?_⟩
          have : lsO (some r) (x :: X) = some z := ez
          rw [this]; exact d3
        refine DL_cg _ _ (fun b hb => ?_) d4
        have hbr : b ≠ r := by
          rintro rfl
          rcases List.mem_append.mp hb with q | q
          · exact hrX q
          · exact hrY q
        exact ⟨by rw [trU_e, if_neg (by simp), trU_e, if_neg (by rintro ⟨e, -⟩; exact hbr e)], by rw [trU_e, if_neg (by rintro ⟨e, -⟩; exact hbr e), trU_e, if_neg (by simp)]⟩
      · refine List.nodup_cons.mpr ⟨fun q => ?_, ?_⟩
        · rcases List.mem_append.mp q with q | q
          · exact hrX q
          · exact hrY q
        · rw [List.nodup_append]
          exact ⟨n1, (List.nodup_cons.mp n2).2, fun a ha b hb => n3 a ha b (by simp [hb])⟩
      · intro a j hj
        rw [trU_e, if_neg (by omega), trU_e, if_neg (by omega), trU_e, if_neg (by omega), trU_e, if_neg (by omega)]
        exact g3 a j hj
      · unfold arQ
        rw [o7.1 tab ht, o6.1 tab ht, o5.1 tab ht, o4.1 tab ht, o3 tab ht]
        exact A2
      · intro b hb hbt
        rw [o7.1 b hb, o6.1 b hb, o5.1 b hb, o4.1 b hb, o3 b hb, o2 b hbt]
      · rw [o7.2, o6.2, o5.2, o4.2, s3, s2]
    cases Y with
    | nil =>
      have dr5' : R r 5 = none := dr5
      rw [dr5']
      simp only
      exact fin h2 R T2 (fun _ _ => rfl) rfl (fun _ _ _ => rfl) trivial dX
    | cons y Y =>
      have dr5' : R r 5 = some y := dr5
      rw [dr5']
      simp only
      have hy : y ∈ x :: X ++ r :: y :: Y := by simp
      rw [gd_t (Or.inr (T2.in3 hy))]
      obtain ⟨h3, e3, T3, o3⟩ := T2.w hy [(13, 9)] rfl (by simp) (some z)
      rw [e3, bd_s]
      have hyY : y ∉ Y := (List.nodup_cons.mp (List.nodup_cons.mp n2).2).1
      have hyX : y ∉ x :: X := fun q => n3 y q y (by simp) rfl
      refine fin h3 _ T3 o3.1 o3.2 (fun a j hj => by rw [trU_e, if_neg (by omega)]) (DL_hd hyY dY) (DL_cg _ _ (fun b hb => ⟨by rw [trU_e, if_neg (by simp)], by rw [trU_e, if_neg (by rintro ⟨e, -⟩; rw [e] at hb; exact hyX hb)]⟩) dX)

set_option maxRecDepth 100000
/-! PURE: tree bins: a node is hung in -/
theorem BT.cgN {N N' : Nat → Prop} {R : TR} {H lo hi : Nat → Int} {r : Nat} (B : BT N R H lo hi r) (h : ∀ a, N' a ↔ N a) : BT N' R H lo hi r := by
  have : N' = N := by funext a; exact propext (h a)
  rw [this]; exact B
theorem BT.cgR {N : Nat → Prop} {R R' : TR} {H lo hi : Nat → Int} {r : Nat} (B : BT N R H lo hi r) (h : ∀ a j, N a → j = 6 ∨ j = 7 ∨ j = 8 → R' a j = R a j) : BT N R' H lo hi r := by
  obtain ⟨h1, h2, h3, h4, h5, h6, h7, h8⟩ := B
  refine ⟨h1, by rw [h r 6 h1 (by simp)]; exact h2, h3, h4, fun a b ha e => ?_, fun a b ha e => ?_, fun a p ha e => ?_, fun a ha e => ?_⟩
  · rw [h a 7 ha (by simp)] at e
    obtain ⟨q1, q2⟩ := h5 a b ha e
    exact ⟨q1, by rw [h b 6 q1 (by simp)]; exact q2⟩
  · rw [h a 8 ha (by simp)] at e
    obtain ⟨q1, q2⟩ := h6 a b ha e
    exact ⟨q1, by rw [h b 6 q1 (by simp)]; exact q2⟩
  · rw [h a 6 ha (by simp)] at e
    obtain ⟨q1, q2⟩ := h7 a p ha e
    exact ⟨q1, by rw [h p 7 q1 (by simp), h p 8 q1 (by simp)]; exact q2⟩
  · rw [h a 6 ha (by simp)] at e
    exact h8 a ha e
theorem BT.insL {N : Nat → Prop} {R : TR} {H lo hi : Nat → Int} {r p x : Nat} (B : BT N R H lo hi r) (hp : N p) (hx : ¬ N x) (h7 : R p 7 = none) (x7 : R x 7 = none) (x8 : R x 8 = none) (h1 : lo p < H x) (h2 : H x < H p) :
    BT (fun a => a = x ∨ N a) (trU (trU R x 6 (some p)) p 7 (some x)) H (upN lo x (lo p)) (upN hi x (H p)) r := by
  obtain ⟨g1, g2, g3, g4, g5, g6, g7, g8⟩ := B
  have hxp : x ≠ p := fun e => hx (e ▸ hp)
  have hxr : x ≠ r := fun e => hx (e ▸ g1)
  have hpi := g4 p hp
  refine ⟨Or.inr g1, ?_, ?_, ?_, ?_, ?_, ?_, ?_⟩
  · simp only [trU_e]; grind
  · unfold upN; grind
  · intro a ha
    have := g4 a
    unfold upN; grind
  · intro a b ha e
    have A := g5 a b
    simp only [trU_e] at e ⊢
    unfold upN
    grind
  · intro a b ha e
    have A := g6 a b
    simp only [trU_e] at e ⊢
    unfold upN
    grind
  · intro a z ha e
    have A := g7 a z
    simp only [trU_e] at e ⊢
    grind
  · intro a ha e
    have A := g8 a
    simp only [trU_e] at e
    grind
theorem BT.insR {N : Nat → Prop} {R : TR} {H lo hi : Nat → Int} {r p x : Nat} (B : BT N R H lo hi r) (hp : N p) (hx : ¬ N x) (h8 : R p 8 = none) (x7 : R x 7 = none) (x8 : R x 8 = none) (h1 : H p < H x) (h2 : H x < hi p) :
    BT (fun a => a = x ∨ N a) (trU (trU R x 6 (some p)) p 8 (some x)) H (upN lo x (H p)) (upN hi x (hi p)) r := by
  obtain ⟨g1, g2, g3, g4, g5, g6, g7, g8⟩ := B
  have hxp : x ≠ p := fun e => hx (e ▸ hp)
  have hxr : x ≠ r := fun e => hx (e ▸ g1)
  have hpi := g4 p hp
  refine ⟨Or.inr g1, ?_, ?_, ?_, ?_, ?_, ?_, ?_⟩
  · simp only [trU_e]; grind
  · unfold upN; grind
  · intro a ha
    have := g4 a
    unfold upN; grind
  · intro a b ha e
    have A := g5 a b
    simp only [trU_e] at e ⊢
    unfold upN
    grind
  · intro a b ha e
    have A := g6 a b
    simp only [trU_e] at e ⊢
    unfold upN
    grind
  · intro a z ha e
    have A := g7 a z
    simp only [trU_e] at e ⊢
    grind
  · intro a ha e
    have A := g8 a
    simp only [trU_e] at e
    grind
/-- the first node alone -/
theorem BT.one {R : TR} {H : Nat → Int} {x : Nat} (hr : rI (H x)) (x6 : R x 6 = none) (x7 : R x 7 = none) (x8 : R x 8 = none) : BT (fun a => a = x) R H (fun _ => -2147483649) (fun _ => 2147483648) x := by
  have h1 := hr.1
  have h2 := hr.2
  refine ⟨rfl, x6, ⟨by simp only; omega, by simp only; omega⟩, ?_, ?_, ?_, ?_, ?_⟩
  · rintro a rfl; exact ⟨by simp only; omega, by simp only; omega⟩
  · rintro a b rfl e; rw [x7] at e; cases e
  · rintro a b rfl e; rw [x8] at e; cases e
  · rintro a b rfl e; rw [x6] at e; cases e
  · rintro a rfl _; rfl
/-- a node finds its place in the tree, hangs there, and the tree is balanced -/
theorem pH_tfy64 {K4 : hS → Option Nat → Option Nat → Option Nat → Option hS} {o1 o4 o7 : Option Nat} {x : Nat} {NL : List Nat} {H lo hi : Nat → Int} {K V : Nat → Option Nat} {R : TR} {C : Nat → Int} {h : hS} {r : Nat} (hl : NL.length < 80000)
    (T : TS h (fun a => a = x ∨ a ∈ NL) H K V R C) (B : BT (fun a => a ∈ NL) R H lo hi r) (hx : x ∉ NL) (x7 : R x 7 = none) (x8 : R x 8 = none) (hH : ∀ a, a ∈ NL → H a ≠ H x) :
    ∀ (m y f : Nat), ncnt NL lo hi y ≤ m → m < f → y ∈ NL → lo y < H x → H x < hi y →
    ∃ h' R' C' r' lo' hi', fJ6_treeify_L64 K4 f h o1 (some r) (some x) o4 (H x) o7 (some y) = K4 h' o1 (some r') o4 ∧ TS h' (fun a => a ∈ x :: NL) H K V R' C' ∧ BT (fun a => a ∈ x :: NL) R' H lo' hi' r' ∧ onlyN (fun a => a ∈ x :: NL) h h' ∧ ∀ a i, i = 5 ∨ i = 9 → R' a i = R a i := by
  have T' : TS h (fun a => a ∈ x :: NL) H K V R C := fun a ha => T a (by simpa using ha)
  have hang : ∀ (y : Nat), y ∈ NL → ∀ (R2 : TR) (h2 : hS) (lo2 hi2 : Nat → Int), TS h2 (fun a => a ∈ x :: NL) H K V R2 C → BT (fun a => a = x ∨ a ∈ NL) R2 H lo2 hi2 r → onlyN (fun a => a ∈ x :: NL) h h2 → (∀ a i, i = 5 ∨ i = 9 → R2 a i = R a i) →
      ∃ h' R' C' r' lo' hi', fJ6_treeify_b197 K4 h2 o1 (some r) (some x) o4 = K4 h' o1 (some r') o4 ∧ TS h' (fun a => a ∈ x :: NL) H K V R' C' ∧ BT (fun a => a ∈ x :: NL) R' H lo' hi' r' ∧ onlyN (fun a => a ∈ x :: NL) h h' ∧ ∀ a i, i = 5 ∨ i = 9 → R' a i = R a i := by
    intro y hy R2 h2 lo2 hi2 T2 B2 o2 e2
    have B2' : BT (fun a => a ∈ x :: NL) R2 H lo2 hi2 r := B2.cgN (fun a => by simp)
    obtain ⟨h3, R3, C3, r3, lo3, hi3, e3, T3, B3, o3, e59⟩ := pH_bal (by simp; omega) T2 B2' (show x ∈ x :: NL by simp)
    unfold fJ6_treeify_b197 fJ6_treeify_b209
    rw [e3, bd_s]
    exact ⟨h3, R3, C3, r3, lo3, hi3, rfl, T3, B3, o2.trans o3, fun a i hi => (e59 a i hi).trans (e2 a i hi)⟩
  -- a place is found at y, on its left or on its right
  have left : ∀ y, y ∈ NL → R y 7 = none → lo y < H x → H x < H y → ∃ h' R' C' r' lo' hi', (bd (hW h (some x) [(13, 6)] (vq (some y))) fun h3 => bd (hW h3 (some y) [(13, 7)] (vq (some x))) fun h10 => fJ6_treeify_b197 K4 h10 o1 (some r) (some x) o4) = K4 h' o1 (some r') o4 ∧ TS h' (fun a => a ∈ x :: NL) H K V R' C' ∧ BT (fun a => a ∈ x :: NL) R' H lo' hi' r' ∧ onlyN (fun a => a ∈ x :: NL) h h' ∧ ∀ a i, i = 5 ∨ i = 9 → R' a i = R a i := by
    intro y hy e7 h1 h2
    obtain ⟨ha, ea, Ta, oa⟩ := T'.w (show x ∈ x :: NL by simp) [(13, 6)] rfl (by simp) (some y)
    obtain ⟨hb, eb, Tb, ob⟩ := Ta.w (show y ∈ x :: NL by simp [hy]) [(13, 7)] rfl (by simp) (some x)
    rw [ea, bd_s, eb, bd_s]
    exact hang y hy _ hb _ _ Tb (B.insL hy hx e7 x7 x8 h1 h2) (oa.trans ob) (fun a i hi => by rw [trU_e, if_neg (by omega), trU_e, if_neg (by omega)])
  have right : ∀ y, y ∈ NL → R y 8 = none → H y < H x → H x < hi y → ∃ h' R' C' r' lo' hi', (bd (hW h (some x) [(13, 6)] (vq (some y))) fun h3 => bd (hW h3 (some y) [(13, 8)] (vq (some x))) fun h7 => fJ6_treeify_b197 K4 h7 o1 (some r) (some x) o4) = K4 h' o1 (some r') o4 ∧ TS h' (fun a => a ∈ x :: NL) H K V R' C' ∧ BT (fun a => a ∈ x :: NL) R' H lo' hi' r' ∧ onlyN (fun a => a ∈ x :: NL) h h' ∧ ∀ a i, i = 5 ∨ i = 9 → R' a i = R a i := by
    intro y hy e8 h1 h2
    obtain ⟨ha, ea, Ta, oa⟩ := T'.w (show x ∈ x :: NL by simp) [(13, 6)] rfl (by simp) (some y)
    obtain ⟨hb, eb, Tb, ob⟩ := Ta.w (show y ∈ x :: NL by simp [hy]) [(13, 8)] rfl (by simp) (some x)
    rw [ea, bd_s, eb, bd_s]
    exact hang y hy _ hb _ _ Tb (B.insR hy hx e8 x7 x8 h1 h2) (oa.trans ob) (fun a i hi => by rw [trU_e, if_neg (by omega), trU_e, if_neg (by omega)])
  intro m
  induction m with
  | zero =>
    intro y f hm hf hy h1 h2
    obtain ⟨f, rfl⟩ : ∃ k, f = k + 1 := ⟨f - 1, by omega⟩
    have gy := B.2.2.2.1 y hy
    have hyx : y ∈ x :: NL := by simp [hy]
    have hne := hH y hy
    have n7 : R y 7 = none := by
      cases e : R y 7 with
      | none => rfl
      | some c =>
        have := B.2.2.2.2.1 y c hy e
        have := ncnt_lt (lo := lo) (hi := hi) (x := y) this.1 (by omega)
        omega
    have n8 : R y 8 = none := by
      cases e : R y 8 with
      | none => rfl
      | some c =>
        have := B.2.2.2.2.2.1 y c hy e
        have := ncnt_lt (lo := lo) (hi := hi) (x := y) this.1 (by omega)
        omega
    rw [fJ6_treeify_L64_s, fJ6_treeify_b64, T'.k hyx [(13, 3)] rfl, bd_s, T'.hh hyx [(13, 2)] rfl, bd_s]
    unfold fJ6_treeify_b143 fJ6_treeify_b165 ifN
    by_cases c1 : H y ≤ H x
    · rw [if_pos c1, if_neg (by omega), if_pos (by decide), T'.q hyx [(13, 8)] rfl (by simp), bd_s, n8]
      simp only
      simp only [show (0 : Int) < 1 from by decide, if_true]
      exact right y hy n8 (by omega) h2
    · rw [if_neg c1, if_neg (by decide), T'.q hyx [(13, 7)] rfl (by simp), bd_s, n7]
      simp only
      simp only [show ¬ (0 : Int) < -1 from by decide, if_false]
      exact left y hy n7 h1 (by omega)
  | succ m ih =>
    intro y f hm hf hy h1 h2
    obtain ⟨f, rfl⟩ : ∃ k, f = k + 1 := ⟨f - 1, by omega⟩
    have gy := B.2.2.2.1 y hy
    have hyx : y ∈ x :: NL := by simp [hy]
    have hne := hH y hy
    rw [fJ6_treeify_L64_s, fJ6_treeify_b64, T'.k hyx [(13, 3)] rfl, bd_s, T'.hh hyx [(13, 2)] rfl, bd_s]
    unfold fJ6_treeify_b143 fJ6_treeify_b165 ifN
    by_cases c1 : H y ≤ H x
    · rw [if_pos c1, if_neg (by omega), if_pos (by decide), T'.q hyx [(13, 8)] rfl (by simp), bd_s]
      cases e : R y 8 with
      | none =>
        simp only
        simp only [show (0 : Int) < 1 from by decide, if_true]
        exact right y hy e (by omega) h2
      | some c =>
        simp only
        have q := B.2.2.2.2.2.1 y c hy e
        have lt := ncnt_lt (lo := lo) (hi := hi) (x := y) q.1 (by omega)
        exact ih c f (by omega) (by omega) q.1 (by omega) (by omega)
    · rw [if_neg c1, if_neg (by decide), T'.q hyx [(13, 7)] rfl (by simp), bd_s]
      cases e : R y 7 with
      | none =>
        simp only
        simp only [show ¬ (0 : Int) < -1 from by decide, if_false]
        exact left y hy e h1 (by omega)
      | some c =>
        simp only
        have q := B.2.2.2.2.1 y c hy e
        have lt := ncnt_lt (lo := lo) (hi := hi) (x := y) q.1 (by omega)
        exact ih c f (by omega) (by omega) q.1 (by omega) (by omega)

set_option maxRecDepth 100000
/-! PURE: tree bins: a row becomes a tree -/
/-- a bin that is a tree, its root first -/
def TB (h : hS) (Ch : List Nat) (H : Nat → Int) (K V : Nat → Option Nat) (R : TR) (C : Nat → Int) : Prop :=
  Ch.Nodup ∧ TS h (fun a => a ∈ Ch) H K V R C ∧ DL R none none Ch ∧ ∃ r lo hi, Ch.head? = some r ∧ BT (fun a => a ∈ Ch) R H lo hi r
theorem ncnt_le {NL : List Nat} {lo hi : Nat → Int} {x : Nat} : ncnt NL lo hi x ≤ NL.length := List.countP_le_length
/-- the rest of the row is hung in -/
theorem pH_tfy_L4 {tab : Nat} {Ch : List Nat} {H : Nat → Int} {K V : Nat → Option Nat} {R0 : TR} (hlen : Ch.length < 80000) (hn : Ch.Nodup) (D : DL R0 none none Ch) (hH : ∀ a b, a ∈ Ch → b ∈ Ch → a ≠ b → H a ≠ H b) (hrI : ∀ a, a ∈ Ch → rI (H a)) :
    ∀ (Rest Done : List Nat) (f : Nat) (h0 h : hS) (R : TR) (C : Nat → Int) (lo hi : Nat → Int) (r : Nat), Ch = Done ++ Rest → Rest.length < f → TS h (fun a => a ∈ Ch) H K V R C → (∀ a i, i = 5 ∨ i = 9 → R a i = R0 a i) → BT (fun a => a ∈ Done.reverse) R H lo hi r → onlyN (fun a => a ∈ Ch) h0 h →
    ∃ h' R' C' lo' hi' r', fJ6_treeify_L4 f h (some tab) (some r) (hdO Rest none) = fJ6_moveRootToFront h' (some tab) (some r') ∧ TS h' (fun a => a ∈ Ch) H K V R' C' ∧ (∀ a i, i = 5 ∨ i = 9 → R' a i = R0 a i) ∧ BT (fun a => a ∈ Ch) R' H lo' hi' r' ∧ onlyN (fun a => a ∈ Ch) h0 h' := by
  intro Rest
  induction Rest with
  | nil =>
    intro Done f h0 h R C lo hi r hC hf T h59 B o0
    obtain ⟨f, rfl⟩ : ∃ k, f = k + 1 := ⟨f - 1, by omega⟩
    refine ⟨h, R, C, lo, hi, r, ?_, T, h59, B.cgN (fun a => by rw [hC]; simp), o0⟩
    rw [fJ6_treeify_L4_s, fJ6_treeify_b4]
    unfold ifN hdO
    simp only
    cases fJ6_moveRootToFront h (some tab) (some r) <;> rfl
  | cons x Rest ih =>
    intro Done f h0 h R C lo hi r hC hf T h59 B o0
    obtain ⟨f, rfl⟩ : ∃ k, f = k + 1 := ⟨f - 1, by simp at hf; omega⟩
    have hx : x ∈ Ch := by rw [hC]; simp
    have hnd := hn
    rw [hC, List.nodup_append] at hnd
    obtain ⟨n1, n2, n3⟩ := hnd
    have hxD : x ∉ Done := fun q => n3 x q x (by simp) rfl
    have hd := D
    rw [hC, DL_app] at hd
    obtain ⟨dD, d9, d5, dR⟩ := hd
    have e5 : R x 5 = hdO Rest none := by rw [h59 x 5 (by simp)]; exact d5
    rw [fJ6_treeify_L4_s, fJ6_treeify_b4]
    unfold ifN
    simp only [hdO]
    rw [T.q hx [(13, 5)] rfl (by simp), bd_s, e5]
    have hcast : hdO Rest none = none ∨ inC h (hdO Rest none) [13] = true := by
      cases Rest with
      | nil => exact Or.inl rfl
      | cons y Y => exact Or.inr (T.in3 (show y ∈ Ch by rw [hC]; simp))
    rw [gd_t hcast]
    obtain ⟨h1, e1, T1, o1⟩ := T.w hx [(13, 8)] rfl (by simp) none
    obtain ⟨h2, e2, T2, o2⟩ := T1.w hx [(13, 7)] rfl (by simp) none
    rw [e1, bd_s, e2, bd_s, T2.k hx [(13, 3)] rfl, bd_s, T2.hh hx [(13, 2)] rfl, bd_s]
    have hr := B.1
    have hrD : r ∈ Done := by simpa using hr
    -- the tree of those before isn't touched
    have B2 : BT (fun a => a ∈ Done.reverse) (trU (trU R x 8 none) x 7 none) H lo hi r := by
      refine B.cgR (fun a j ha hj => ?_)
      have hax : a ≠ x := by rintro rfl; exact hxD (by simpa using ha)
      rw [trU_e, if_neg (fun q => hax q.1), trU_e, if_neg (fun q => hax q.1)]
    have hbd := B.2.2.1
    have hri := hrI x hx
    have hri1 := hri.1
    have hri2 := hri.2
    have hlD : Done.reverse.length < 80000 := by rw [List.length_reverse]; rw [hC] at hlen; simp at hlen; omega
    obtain ⟨h3, R3, C3, r3, lo3, hi3, e3, T3, B3, o3, e59⟩ := pH_tfy64 (K4 := fJ6_treeify_L4 f) (o1 := some tab) (o4 := hdO Rest none) (o7 := none) (x := x) (NL := Done.reverse) hlD
      (fun a ha => T2 a (by rcases ha with rfl | ha; exact hx; rw [hC]; simp at ha; simp [ha])) B2 (by simpa using hxD) (by simp [trU]) (by simp [trU])
      (fun a ha e => hH a x (by rw [hC]; simp at ha; simp [ha]) hx (by rintro rfl; exact hxD (by simpa using ha)) e) (ncnt Done.reverse lo hi r) r FU (Nat.le_refl _) (by have := ncnt_le (NL := Done.reverse) (lo := lo) (hi := hi) (x := r); unfold FU; omega) hr (by omega) (by omega)
    rw [e3]
    -- all the nodes together again
    have hsub : ∀ a, a ∈ x :: Done.reverse → a ∈ Ch := by
      intro a ha
      rw [hC]
      rcases List.mem_cons.mp ha with q | q
      · simp [q]
      · simp at q; simp [q]
    have R4e : ∃ R4 : TR, (∀ a, a ∈ x :: Done.reverse → ∀ j, R4 a j = R3 a j) ∧ (∀ a, a ∉ x :: Done.reverse → ∀ j, R4 a j = trU (trU R x 8 none) x 7 none a j) := by
      refine ⟨fun a j => if a ∈ x :: Done.reverse then R3 a j else trU (trU R x 8 none) x 7 none a j, fun a ha j => if_pos ha, fun a ha j => if_neg ha⟩
    obtain ⟨R4, r4a, r4b⟩ := R4e
    have C4e : ∃ C4 : Nat → Int, (∀ a, a ∈ x :: Done.reverse → C4 a = C3 a) ∧ (∀ a, a ∉ x :: Done.reverse → C4 a = C a) :=
      ⟨fun a => if a ∈ x :: Done.reverse then C3 a else C a, fun a ha => if_pos ha, fun a ha => if_neg ha⟩
    obtain ⟨C4, c4a, c4b⟩ := C4e
    have T4 : TS h3 (fun a => a ∈ Ch) H K V R4 C4 := by
      intro a ha
      by_cases hm : a ∈ x :: Done.reverse
      · rw [T3 a hm]; unfold tnL; simp only [r4a a hm, c4a a hm]
      · rw [o3.1 a hm, T2 a ha]; unfold tnL; simp only [r4b a hm, c4b a hm]
    have h59' : ∀ a i, i = 5 ∨ i = 9 → R4 a i = R0 a i := by
      intro a i hi
      have base : trU (trU R x 8 none) x 7 none a i = R0 a i := by
        rw [trU_e, if_neg (by omega), trU_e, if_neg (by omega)]; exact h59 a i hi
      by_cases hm : a ∈ x :: Done.reverse
      · rw [r4a a hm, e59 a i hi]; exact base
      · rw [r4b a hm]; exact base
    have B4 : BT (fun a => a ∈ (Done ++ [x]).reverse) R4 H lo3 hi3 r3 := by
      have : (Done ++ [x]).reverse = x :: Done.reverse := by simp
      rw [this]
      exact B3.cgR (fun a j ha _ => r4a a ha j)
    have o4 : onlyN (fun a => a ∈ Ch) h0 h3 := by
      refine ((o0.trans o1).trans o2).trans ⟨fun b hb => o3.1 b (fun q => hb (hsub b q)), o3.2⟩
    exact ih (Done ++ [x]) f h0 h3 R4 C4 lo3 hi3 r3 (by rw [hC]; simp) (by simp at hf; omega) T4 h59' B4 o4
theorem pH_treeify {h : hS} {Ch : List Nat} {H : Nat → Int} {K V : Nat → Option Nat} {R : TR} {C : Nat → Int} {x tab n : Nat} {f : Int → Option Nat} {i : Int} (hlen : Ch.length < 80000) (hn : Ch.Nodup) (T : TS h (fun a => a ∈ Ch) H K V R C) (D : DL R none none Ch) (hx : Ch.head? = some x)
    (hH : ∀ a b, a ∈ Ch → b ∈ Ch → a ≠ b → H a ≠ H b) (hrI : ∀ a, a ∈ Ch → rI (H a)) (A : arQ h 6 n tab f) (ht : tab ∉ Ch) (hi : ∀ a, a ∈ Ch → iand (wr ((n : Int) - 1)) (H a) = i) (h0 : 0 ≤ i) (h1 : i < n) (hf : f i = Ch.head?) :
    ∃ h' Ch' R' C' f', fJ6_treeify h (some x) (some tab) = some h' ∧ TB h' Ch' H K V R' C' ∧ (∀ a, a ∈ Ch' ↔ a ∈ Ch) ∧ arQ h' 6 n tab f' ∧ f' i = Ch'.head? ∧ (∀ j, j ≠ i → f' j = f j) ∧ (∀ b, b ∉ Ch → b ≠ tab → h'.1 b = h.1 b) ∧ h'.2 = h.2 := by
  cases Ch with
  | nil => cases hx
  | cons y Rest =>
    have : y = x := by simpa using hx
    subst this
    have hy : y ∈ y :: Rest := by simp
    unfold fJ6_treeify
    obtain ⟨f0, hf0⟩ : ∃ k, FU = k + 1 := ⟨99999, rfl⟩
    rw [hf0, fJ6_treeify_L4_s, fJ6_treeify_b4]
    unfold ifN
    simp only
    obtain ⟨d9, d5, dR⟩ := D
    have D' : DL R none none (y :: Rest) := ⟨d9, d5, dR⟩
    rw [T.q hy [(13, 5)] rfl (by simp), bd_s, d5]
    have hcast : hdO Rest none = none ∨ inC h (hdO Rest none) [13] = true := by
      cases Rest with
      | nil => exact Or.inl rfl
      | cons z Z => exact Or.inr (T.in3 (show z ∈ y :: z :: Z by simp))
    rw [gd_t hcast]
    obtain ⟨ha, ea, Ta, oa⟩ := T.w hy [(13, 8)] rfl (by simp) none
    obtain ⟨hb, eb, Tb, ob⟩ := Ta.w hy [(13, 7)] rfl (by simp) none
    obtain ⟨hc, ec, Tc, oc⟩ := Tb.w hy [(13, 6)] rfl (by simp) none
    obtain ⟨hd, ed, Td, od⟩ := Tc.wc hy [(13, 10)] rfl 0
    rw [ea, bd_s, eb, bd_s, ec, bd_s, ed, bd_s]
    unfold fJ6_treeify_b209
    have B1 : BT (fun a => a ∈ ([y] : List Nat).reverse) (trU (trU (trU R y 8 none) y 7 none) y 6 none) H (fun _ => -2147483649) (fun _ => 2147483648) y :=
      (BT.one (hrI y hy) (by simp [trU]) (by simp [trU]) (by simp [trU])).cgN (fun a => by simp)
    have hf9 : Rest.length < f0 := by
      have : f0 = 99999 := by unfold FU at hf0; omega
      simp at hlen; omega
    obtain ⟨h2, R2, C2, lo2, hi2, r2, e2, T2, h59, B2, o2⟩ := pH_tfy_L4 (tab := tab) hlen hn D' hH hrI Rest [y] f0 h hd _ _ _ _ y rfl hf9 Td (fun a i hi => by rw [trU_e, if_neg (by omega), trU_e, if_neg (by omega), trU_e, if_neg (by omega)]) B1 (((oa.trans ob).trans oc).trans od)
    rw [e2]
    have D2 : DL R2 none none (y :: Rest) := DL_cg _ _ (fun b hb => ⟨h59 b 5 (by simp), h59 b 9 (by simp)⟩) D'
    have A2 : arQ h2 6 n tab f := by unfold arQ; rw [o2.1 tab ht]; exact A
    obtain ⟨h3, Ch3, R3, f3, e3, T3, D3, hd3, n3, m3, g3, A3, fi3, fj3, o3, s3⟩ := pH_move hn T2 D2 B2.1 A2 ht (hi r2 B2.1) h0 h1 hf
    refine ⟨h3, Ch3, R3, C2, f3, e3, ⟨n3, T3, D3, r2, lo2, hi2, hd3, ?_⟩, m3, A3, by rw [fi3, hd3], fj3, fun b hb hbt => by rw [o3 b hb hbt, o2.1 b hb], by rw [s3, o2.2]⟩
    exact (B2.cgN m3).cgR (fun a j _ hj => g3 a j hj)

