/-! the pure laws: B5 B6 B7 B8 B9 B10 -/
set_option maxRecDepth 100000
/-! PURE: all goals of a type (model) -/
def prL (I : List Ist) (c : Int) (t : Tm) : List (Int × Tm) := if isV t = true then [] else if tk I c t < 0 then [] else prts I (tk I c t).toNat t
theorem prL_lt {I : List Ist} {n : Nat} {c : Int} {t : Tm} (hI : ∀ i, i < I.length → okI n (ig I i)) (ht : okT t) {g : Int × Tm} (hg : g ∈ prL I c t) :
    ∃ q, 0 < q ∧ q < szT t ∧ g.2 = sub t q ∧ 0 ≤ g.1 ∧ g.1 < n := by
  unfold prL at hg
  split at hg
  · cases hg
  · split at hg
    · cases hg
    · rcases tk_cases I c t with e | e | ⟨k, e⟩
      · omega
      · omega
      · rw [e] at hg
        simp only [Int.toNat_natCast] at hg
        exact prts_mem hI ht e hg
theorem prL_len {I : List Ist} {n : Nat} {c : Int} {t : Tm} (hI : ∀ i, i < I.length → okI n (ig I i)) : (prL I c t).length ≤ 2 := by
  unfold prL
  split
  · simp
  · split
    · simp
    · rcases tk_cases I c t with e | e | ⟨k, e⟩
      · omega
      · omega
      · rw [e]; simp only [Int.toNat_natCast, prts, List.length_map]
        exact (hI k (tk_ge e).1).2.2.2.2.1
theorem res_node {I : List Ist} {n : Nat} (hI : ∀ i, i < I.length → okI n (ig I i)) {c : Int} {t : Tm} (ht : okT t) {k : Nat} (hv : isV t = false) (hk : tk I c t = (k : Int)) :
    res I c t = rNode k c t ((prL I c t).map fun g => res I g.1 g.2) := by
  rw [res_eq hI ht, if_neg (by simp [hv]), if_neg (by omega), if_neg (by omega), prL, if_neg (by simp [hv]), if_neg (by omega), hk]
theorem res_bad {I : List Ist} {n : Nat} (hI : ∀ i, i < I.length → okI n (ig I i)) {c : Int} {t : Tm} (ht : okT t) (hv : isV t = false) (hk : tk I c t < 0) :
    (tk I c t = -1 ∧ res I c t = rBad 0 c t) ∨ (tk I c t = -2 ∧ res I c t = rBad (-2) c t) := by
  rw [res_eq hI ht, if_neg (by simp [hv])]
  rcases tk_cases I c t with e | e | ⟨k, e⟩
  · left; exact ⟨e, by rw [if_pos e]⟩
  · right; exact ⟨e, by rw [if_neg (by omega), if_pos e]⟩
  · omega
theorem res_var {I : List Ist} {n : Nat} (hI : ∀ i, i < I.length → okI n (ig I i)) {c : Int} {t : Tm} (ht : okT t) (hv : isV t = true) : res I c t = rNeed c t := by
  rw [res_eq hI ht, if_pos hv]
def rOK (z : Nat) (r : Rr) : Prop := (rS r = 1 ∨ rS r = 0 ∨ rS r = -2) ∧ (rQ r).length < 2 ^ z ∧ (0 ≤ rW r ∧ rW r < 1009) ∧ (0 ≤ rD r ∧ rD r ≤ z) ∧ rN r < 256
theorem rOK.mono {z z' : Nat} {r : Rr} (h : rOK z r) (hz : z ≤ z') : rOK z' r := by
  obtain ⟨h1, h2, h3, h4, h5⟩ := h
  exact ⟨h1, Nat.lt_of_lt_of_le h2 (Nat.pow_le_pow_right (by omega) hz), h3, ⟨h4.1, by omega⟩, h5⟩
theorem res_ok {I : List Ist} {n : Nat} (hn : n ≤ 4) (hI : ∀ i, i < I.length → okI n (ig I i)) : ∀ (z : Nat) (c : Int) (t : Tm), szT t = z → okT t → 0 ≤ c → c < n → rOK z (res I c t) := by
  intro z
  induction z using Nat.strongRecOn with
  | _ z ih =>
    intro c t hz ht h0 hc
    have hp := szT_pos t
    have one : 1 < 2 ^ z := Nat.one_lt_two_pow (by omega)
    cases hv : isV t
    · rcases tk_cases I c t with e | e | ⟨k, e⟩
      · rcases res_bad (c := c) hI ht hv (by omega) with ⟨_, q⟩ | ⟨q, _⟩
        · rw [q]; refine ⟨by simp [rS_rBad], ?_, ?_, ?_, ?_⟩ <;> simp only [rS_rBad, rQ_rBad, rW_rBad, rD_rBad, rN_rBad, List.length_nil] <;> omega
        · omega
      · rcases res_bad (c := c) hI ht hv (by omega) with ⟨q, _⟩ | ⟨_, q⟩
        · omega
        · rw [q]; refine ⟨by simp [rS_rBad], ?_, ?_, ?_, ?_⟩ <;> simp only [rS_rBad, rQ_rBad, rW_rBad, rD_rBad, rN_rBad, List.length_nil] <;> omega
      · rw [res_node hI ht hv e]
        have hl := prL_len hI (c := c) (t := t)
        have hm : ∀ g ∈ prL I c t, rOK (z - 1) (res I g.1 g.2) := by
          intro g hg
          obtain ⟨q, q1, q2, q3, q4, q5⟩ := prL_lt hI ht hg
          rw [q3]
          have := sub_lt ht q2 q1
          exact (ih _ (by omega) g.1 (sub t q) rfl (sub_ok t q ht q2) q4 q5).mono (by omega)
        have hkk := (tk_ge e).1
        obtain ⟨y, rfl⟩ : ∃ y, z = y + 1 := ⟨z - 1, by omega⟩
        simp only [Nat.add_sub_cancel] at hm
        have py : 2 ^ (y + 1) = 2 ^ y + 2 ^ y := by rw [Nat.pow_succ]; omega
        match hL : prL I c t with
        | [] =>
          unfold rOK
          simp only [rS_rNode, rQ_rNode, rW_rNode, rD_rNode, rN_rNode, List.map, stL, dpL, neL, List.flatten_cons, List.flatten_nil, List.length_cons, List.length_nil]
          refine ⟨by simp, ?_, ?_, ?_, ?_⟩ <;> omega
        | [g] =>
          rw [hL] at hm
          obtain ⟨h1, h2, h3, h4, h5⟩ := hm g (by simp)
          unfold rOK
          simp only [rS_rNode, rQ_rNode, rW_rNode, rD_rNode, rN_rNode, List.map, stL, dpL, neL, List.flatten_cons, List.flatten_nil, List.length_cons, List.length_nil, List.append_nil, if_true, mmax, Nat.zero_or]
          refine ⟨h1, by omega, by omega, ?_, h5⟩
          split <;> omega
        | [g, g'] =>
          rw [hL] at hm
          obtain ⟨h1, h2, h3, h4, h5⟩ := hm g (by simp)
          obtain ⟨f1, f2, f3, f4, f5⟩ := hm g' (by simp)
          unfold rOK
          simp only [rS_rNode, rQ_rNode, rW_rNode, rD_rNode, rN_rNode, List.map, stL, dpL, neL, List.flatten_cons, List.flatten_nil, List.length_cons, List.length_nil, List.append_nil, if_true, mmax, Nat.zero_or, List.length_append]
          refine ⟨?_, by omega, by omega, ?_, Nat.or_lt_two_pow (n := 8) h5 f5⟩
          · split
            · exact f1
            · exact h1
          · (repeat' split) <;> omega
        | _ :: _ :: _ :: _ => rw [hL] at hl; simp at hl
    · rw [res_var hI ht hv]
      have hva : vaT t < 2 := by cases t <;> simp_all [isV, okT, vaT]
      unfold rOK
      simp only [rS_rNeed, rQ_rNeed, rW_rNeed, rD_rNeed, rN_rNeed, List.length_cons, List.length_nil]
      refine ⟨by simp, by omega, by omega, by omega, ?_⟩
      show _ < 2 ^ 8
      exact Nat.pow_lt_pow_right (by omega) (by omega)
/-- what the model's tables say of a goal -/
def GOK (s : Sg) (I : List Ist) (t : Tm) (c p : Nat) : Prop :=
  gA s 36 (9 * (c : Int) + p) = rS (res I c (sub t p)) ∧ gA s 37 (9 * (c : Int) + p) = (if isV (sub t p) = true then -1 else tk I c (sub t p)) ∧
  (rS (res I c (sub t p)) = 1 → gA s 40 (9 * (c : Int) + p) = ((rQ (res I c (sub t p))).length : Int) ∧ gA s 41 (9 * (c : Int) + p) = rW (res I c (sub t p)) ∧ gA s 42 (9 * (c : Int) + p) = rD (res I c (sub t p)) ∧ gA s 43 (9 * (c : Int) + p) = (rN (res I c (sub t p)) : Int)) ∧
  ∀ j : Nat, j < 2 → match (prL I c (sub t p))[j]? with
    | none => gA s (38 + j) (9 * (c : Int) + p) = -1
    | some g => ∃ q : Nat, p < q ∧ q < szT t ∧ sub t q = g.2 ∧ gA s (38 + j) (9 * (c : Int) + p) = 9 * g.1 + q
/-- only one goal's rows change -/
def keepG (g : Int) (s s' : Sg) : Prop := keepS [35, 36, 37, 38, 39, 40, 41, 42, 43] s s' ∧ ∀ k, 36 ≤ k → ∀ x, x ≠ g → gA s' k x = gA s k x
theorem keepG.refl (g : Int) (s : Sg) : keepG g s s := ⟨keepS.refl _ _, fun _ _ _ _ => rfl⟩
theorem keepG.trans {g : Int} {s s' s'' : Sg} (h : keepG g s s') (h' : keepG g s' s'') : keepG g s s'' := ⟨h.1.trans h'.1, fun k hk x hx => (h'.2 k hk x hx).trans (h.2 k hk x hx)⟩
theorem keepG.sA {g : Int} {s s' : Sg} (h : keepG g s s') {k : Nat} (hk : k ∈ [36, 37, 38, 39, 40, 41, 42, 43]) (v : Int) : keepG g s (sA s' k g v) := by
  refine ⟨keepS.sA h.1 (List.mem_cons_of_mem _ hk) _ _, fun j hj x hx => ?_⟩
  rw [gA_sA, if_neg (fun q => hx q.2)]
  exact h.2 j hj x hx
theorem keepG.of35 {g : Int} {s s' : Sg} (h : keepS [35] s s') : keepG g s s' := ⟨h.mono (by decide), fun k hk x hx => h.A (by simp; omega) x⟩
theorem GOK.keepG {s s' : Sg} {I : List Ist} {t : Tm} {c p : Nat} {g : Int} (h : GOK s I t c p) (hk : keepG g s s') (hg : 9 * (c : Int) + p ≠ g) : GOK s' I t c p := by
  obtain ⟨h1, h2, h3, h4⟩ := h
  refine ⟨(hk.2 36 (by omega) _ hg).trans h1, (hk.2 37 (by omega) _ hg).trans h2, fun e => ?_, fun j hj => ?_⟩
  · obtain ⟨a, b, c, d⟩ := h3 e
    exact ⟨(hk.2 40 (by omega) _ hg).trans a, (hk.2 41 (by omega) _ hg).trans b, (hk.2 42 (by omega) _ hg).trans c, (hk.2 43 (by omega) _ hg).trans d⟩
  · have := h4 j hj
    have q := hk.2 (38 + j) (by omega) _ hg
    rw [q]
    exact this
theorem p6_layNeed {s : Sg} {I : List Ist} {n : Nat} {t : Tm} {c p : Nat} (hn : n ≤ 4) (hI : ∀ i, i < I.length → okI n (ig I i)) (hN : NowT s t) (hc : c < n) (hp : p < szT t) (hv : isV (sub t p) = true) :
    ∃ s', fX6_layNeed s c p = some s' ∧ keepG (9 * (c : Int) + p) s s' ∧ GOK s' I t c p := by
  have h9 := hN.2.1
  have hok := sub_ok t p hN.2.2.1 hp
  unfold fX6_layNeed
  have hlet : gA s 32 (p : Int) = sgT (sub t p) := by rw [hN.2.2.2 p hp, ltr_sg hN.2.2.1 hp]
  have hsg : sgT (sub t p) = 120 + (vaT (sub t p) : Int) := by cases hh : sub t p <;> simp_all [isV, sgT, vaT]
  have hva : vaT (sub t p) < 2 := by cases hh : sub t p <;> simp_all [isV, okT, vaT]
  have hr := res_var hI hok hv (c := c)
  have hs : ishl 1 (2 * (c : Int) + (vaT (sub t p) : Int)) = ((2 ^ (2 * c + vaT (sub t p)) : Nat) : Int) := by
    rw [show 2 * (c : Int) + (vaT (sub t p) : Int) = ((2 * c + vaT (sub t p) : Nat) : Int) by omega]
    exact p_one_shl (by omega)
  have e120 : 120 + (vaT (sub t p) : Int) - 120 = (vaT (sub t p) : Int) := by omega
  simp (disch := omega) only [gd_t, wr_id, hlet, hsg, e120, hs]
  refine ⟨_, rfl, ?_, ?_⟩
  · exact (((((((((keepG.refl _ s).sA (by decide) _).sA (by decide) _).sA (by decide) _).sA (by decide) _).sA (by decide) _).sA (by decide) _).sA (by decide) _).sA (by decide) _)
  · refine ⟨?_, ?_, fun _ => ⟨?_, ?_, ?_, ?_⟩, ?_⟩
    · rw [hr]; simp [gA_sA, rS_rNeed, rQ_rNeed, rW_rNeed, rD_rNeed, rN_rNeed]
    · rw [if_pos hv]; simp [gA_sA]
    · rw [hr]; simp [gA_sA, rS_rNeed, rQ_rNeed, rW_rNeed, rD_rNeed, rN_rNeed]
    · rw [hr]; simp [gA_sA, rS_rNeed, rQ_rNeed, rW_rNeed, rD_rNeed, rN_rNeed]
    · rw [hr]; simp [gA_sA, rS_rNeed, rQ_rNeed, rW_rNeed, rD_rNeed, rN_rNeed]
    · rw [hr]; simp [gA_sA, rS_rNeed, rQ_rNeed, rW_rNeed, rD_rNeed, rN_rNeed]
    · intro j hj
      have : prL I c (sub t p) = [] := by rw [prL, if_pos hv]
      rw [this]
      simp only [List.getElem?_nil]
      rcases okV hj with rfl | rfl <;> simp [gA_sA]

set_option maxRecDepth 100000
/-! PURE: a goal laid by those below (model) -/
/-- a goal's rows as a result that is being made: outcome, entries, worth, depth, needs -/
def Row (s : Sg) (g : Int) (o z w d : Int) (b : Nat) : Prop := gA s 36 g = o ∧ (o = 1 → gA s 40 g = z ∧ gA s 41 g = w ∧ gA s 42 g = d ∧ gA s 43 g = (b : Int))
theorem Row.keep {s s' : Sg} {g x : Int} {o z w d : Int} {b : Nat} (h : Row s x o z w d b) (hk : keepG g s s') (hg : x ≠ g) : Row s' x o z w d b := by
  refine ⟨(hk.2 36 (by omega) _ hg).trans h.1, fun e => ?_⟩
  obtain ⟨a, b, c, d⟩ := h.2 e
  exact ⟨(hk.2 40 (by omega) _ hg).trans a, (hk.2 41 (by omega) _ hg).trans b, (hk.2 42 (by omega) _ hg).trans c, (hk.2 43 (by omega) _ hg).trans d⟩
theorem p6_addBelow {s : Sg} {g x n o z w d o' z' w' d' : Int} {b b' : Nat} (h : Row s g o z w d b) (h' : Row s x o' z' w' d' b') (hg : inb g 36) (hx : inb x 36) (hne : x ≠ g)
    (hn : 0 ≤ n ∧ n < 10) (hz : 0 ≤ z ∧ z < 100000) (hz' : 0 ≤ z' ∧ z' < 100000) (hw : 0 ≤ w ∧ w < 1000000) (hw' : 0 ≤ w' ∧ w' < 10000) (hd : 0 ≤ d ∧ d < 100) (hd' : 0 ≤ d' ∧ d' < 100) (hb : b < 256) (hb' : b' < 256) :
    ∃ s', fX6_addBelow s g x n = some s' ∧ keepG g s s' ∧ (∀ k, k = 35 ∨ k = 37 ∨ k = 38 ∨ k = 39 → ∀ y, gA s' k y = gA s k y) ∧ Row s' g (if o = 1 then o' else o) (z + z') (w + n * w') (mmax d (d' + 1)) (b ||| b') := by
  obtain ⟨h1, h2⟩ := h
  obtain ⟨f1, f2⟩ := h'
  have hnw : n * w' < 100000 := by
    have : n * w' ≤ 10 * w' := Int.mul_le_mul_of_nonneg_right (by omega) (by omega)
    omega
  have hnw0 : 0 ≤ n * w' := Int.mul_nonneg (by omega) (by omega)
  unfold fX6_addBelow
  rw [gd_t hg, h1]
  by_cases ho : o = 1
  · subst ho
    obtain ⟨a1, a2, a3, a4⟩ := h2 rfl
    simp only [not_true, if_false, if_true]
    rw [gd_t hx, f1]
    by_cases ho' : o' = 1
    · subst ho'
      obtain ⟨c1, c2, c3, c4⟩ := f2 rfl
      simp only [if_true]
      unfold fX6_addBelow_b32
      rw [gd_t hg, h1]
      simp only [not_true, if_false]
      have e1 : wr (n * w') = n * w' := wr_id (by omega) (by omega)
      have e2 : wr (w + n * w') = w + n * w' := wr_id (by omega) (by omega)
      have e3 : wr (z + z') = z + z' := wr_id (by omega) (by omega)
      have e4 : wr (d' + 1) = d' + 1 := wr_id (by omega) (by omega)
      have e5 : ior (b : Int) (b' : Int) = ((b ||| b' : Nat) : Int) := p_ior (by omega) (by omega)
      simp (disch := first | omega | decide) only [gd_t, a1, a2, a3, a4, c1, c2, c3, c4, gA_sA, hne, and_false, if_false, and_true, e1, e2, e3, e4, show ¬ (41 : Nat) = 40 by decide, show ¬ (42 : Nat) = 41 by decide, show ¬ (42 : Nat) = 40 by decide, false_and]
      unfold fX6_addBelow_b113 fX6_addBelow_b129
      split
      · rename_i hle
        simp (disch := omega) only [gd_t]
        refine ⟨_, rfl, ((((keepG.refl g s).sA (by decide) _).sA (by decide) _).sA (by decide) _).sA (by decide) _, ?_, ?_⟩
        · intro k hk y
          simp only [gA_sA]
          rw [if_neg (by omega), if_neg (by omega), if_neg (by omega), if_neg (by omega)]
        · refine ⟨by simp [gA_sA, h1], fun _ => ⟨by simp [gA_sA], by simp [gA_sA], ?_, ?_⟩⟩
          · simp [gA_sA, mmax]; omega
          · simp [gA_sA, a4, c4, hne, e5]
      · rename_i hle
        simp (disch := omega) only [gd_t]
        refine ⟨_, rfl, ((((keepG.refl g s).sA (by decide) _).sA (by decide) _).sA (by decide) _).sA (by decide) _, ?_, ?_⟩
        · intro k hk y
          simp only [gA_sA]
          rw [if_neg (by omega), if_neg (by omega), if_neg (by omega), if_neg (by omega)]
        · refine ⟨by simp [gA_sA, h1], fun _ => ⟨by simp [gA_sA], by simp [gA_sA], ?_, ?_⟩⟩
          · simp [gA_sA, mmax]; omega
          · simp [gA_sA, a4, c4, hne, e5]
    · rw [if_neg ho', gd_t hx, gd_t hg]
      unfold fX6_addBelow_b32 fX6_addBelow_b129
      rw [gd_t hg, gA_sA, if_pos (show 36 = 36 ∧ g = g from ⟨rfl, rfl⟩), if_pos ho']
      refine ⟨_, rfl, (keepG.refl g s).sA (by decide) _, ?_, ?_⟩
      · intro k hk y
        rw [gA_sA, if_neg (by omega)]
      · exact ⟨by rw [gA_sA, if_pos ⟨rfl, rfl⟩], fun e => absurd e ho'⟩
  · rw [if_pos ho]
    unfold fX6_addBelow_b32 fX6_addBelow_b129
    rw [gd_t hg, h1, if_pos ho]
    refine ⟨s, rfl, keepG.refl _ _, fun _ _ _ => rfl, ?_, ?_⟩
    · rw [if_neg ho]; exact h1
    · rw [if_neg ho]; exact fun e => absurd e ho
theorem layGoal_c (s : Sg) (a1 a2 : Int) : fX6_layGoal s a1 a2 = bd (fX6_takes s a1 a2) fun p1 => (fun g => gd (inb g 36) (gd (inb g 36) (gd (inb g 36) ((fun s2 => if 0 ≤ p1.1 then bd (fX6_fitsAt s2 p1.1 a2) fun p13 => gd (inb g 36) (gd (inb g 36) (gd (inb g 36) (gd (inb g 36) (gd (inb g 36) (gd (inb p1.1 6) ((fun s4 => if gA s4 9 p1.1 ≤ 0 then fX6_layGoal_b165 s4 g p1.1 else gd (inb (wr (2 * p1.1)) 12) (gd (inb (wr (2 * p1.1)) 12) (gd (inb (gA s4 11 (wr (2 * p1.1))) 2) (gd (inb g 36) (gd (inb g 36) ((fun s5 => bd (fX6_addBelow s5 g (gA s5 38 g) 2) fun p36 => fX6_layGoal_b165 p36 g p1.1) (sA s4 38 g (wr ((wr (9 * (gA s4 10 (wr (2 * p1.1))))) + (gA s4 35 (gA s4 11 (wr (2 * p1.1))))))))))))) (sA (sA (sA (sA (sA p13.2 36 g 1) 40 g 1) 41 g (wr (7 * (wr (p1.1 + 1))))) 42 g 1) 43 g 0))))))) else if ¬ p1.1 = (-1) then fX6_layGoal_b59 s2 g (-2) else fX6_layGoal_b59 s2 g 0) (sA (sA (sA p1.2 37 g p1.1) 38 g (-1)) 39 g (-1)))))) (wr ((wr (9 * a1)) + a2)) := rfl
theorem layGoal_165 (s : Sg) (a3 a4 : Int) : fX6_layGoal_b165 s a3 a4 = gd (inb a4 6) (if (gA s 9 a4) ≤ 1 then fX6_layGoal_b225 s a3 else (fun y => gd (inb y 12) (gd (inb y 12) (gd (inb (gA s 11 y) 2) (gd (inb a3 36) (gd (inb a3 36) ((fun s5 => bd (fX6_addBelow s5 a3 (gA s5 39 a3) 3) fun p9 => fX6_layGoal_b225 p9 a3) (sA s 39 a3 (wr ((wr (9 * (gA s 10 y))) + (gA s 35 (gA s 11 y))))))))))) (wr ((wr (2 * a4)) + 1))) := rfl

theorem Bnd.keep {s s' : Sg} {t : Tm} {lo : Nat} {b : Bd} {L : List Nat} (h : Bnd s t lo b) (hk : keepS L s s') (hL : 35 ∉ L) : Bnd s' t lo b := by
  intro v hv
  have := h v hv
  revert this
  cases b v with
  | none => intro q; exact (hk.A hL _).trans q
  | some u => rintro ⟨q, q1, q2, q3, q4⟩; exact ⟨q, q1, q2, (hk.A hL _).trans q3, q4⟩
theorem wr9 {c p : Nat} (hc : c < 4) (hp : p < 9) : wr (wr (9 * (c : Int)) + (p : Int)) = 9 * (c : Int) + p := by
  rw [wr_id (x := 9 * (c : Int)) (by omega) (by omega), wr_id (by omega) (by omega)]
theorem p6_225 {s : Sg} {g o z w d : Int} {b : Nat} (hg : inb g 36) (h : Row s g o z w d b) (hw : 0 ≤ w ∧ w < 1000000) :
    ∃ s', fX6_layGoal_b225 s g = some s' ∧ keepG g s s' ∧ (∀ k, k = 37 ∨ k = 38 ∨ k = 39 → ∀ y, gA s' k y = gA s k y) ∧ Row s' g o z (w % 1009) d b := by
  unfold fX6_layGoal_b225
  rw [gd_t hg, gd_t hg]
  refine ⟨_, rfl, (keepG.refl g s).sA (by decide) _, ?_, ?_⟩
  · intro k hk y
    rw [gA_sA, if_neg (by omega)]
  · refine ⟨by rw [gA_sA, if_neg (by omega)]; exact h.1, fun e => ?_⟩
    obtain ⟨h1, h2, h3, h4⟩ := h.2 e
    refine ⟨by simp [gA_sA, h1], ?_, by simp [gA_sA, h3], by simp [gA_sA, h4]⟩
    simp only [gA_sA, and_self, if_true]
    rw [h2]
    have : irm w 1009 = w % 1009 := p_irm hw.1 (by omega) (by omega) (by omega)
    exact this

set_option maxRecDepth 100000
/-! PURE: a goal laid by those below (model) -/
theorem GOK.row {s : Sg} {I : List Ist} {t : Tm} {c p : Nat} (h : GOK s I t c p) : Row s (9 * (c : Int) + p) (rS (res I c (sub t p))) ((rQ (res I c (sub t p))).length : Int) (rW (res I c (sub t p))) (rD (res I c (sub t p))) (rN (res I c (sub t p))) := ⟨h.1, h.2.2.1⟩
theorem cond_pos {s : Sg} {I : List Ist} {n : Nat} {t : Tm} {c p k j : Nat} (hI : ∀ i, i < I.length → okI n (ig I i)) (ht : okT t) (hp : p < szT t) (hk : tk I c (sub t p) = (k : Int)) (hv : isV (sub t p) = false)
    (hB : Bnd s t p (bdOf (iH (ig I k)) (sub t p))) (hj : j < (iC (ig I k)).length) :
    ∃ r : Nat, p < r ∧ r < szT t ∧ gA s 35 ((cg (ig I k) j).2 : Int) = (r : Int) ∧ (prL I c (sub t p))[j]? = some ((cg (ig I k) j).1, sub t r) := by
  have hok := sub_ok t p ht hp
  obtain ⟨h1, h2⟩ := prts_lt hI hok hk
  obtain ⟨q, q0, q1, q2, q3⟩ := h2 j hj
  have hb := hB (cg (ig I k) j).2 (((hI k (tk_ge hk).1).2.2.2.2.2 j hj).2.1)
  rw [q2] at hb
  obtain ⟨r, r1, r2, r3, r4⟩ := hb
  have hlt := sub_lt hok q1 q0
  refine ⟨r, ?_, r1, r3, ?_⟩
  · by_cases e : p = r
    · subst e; have := congrArg szT r2; omega
    · omega
  · rw [prL, if_neg (by simp [hv]), if_neg (by omega), hk, Int.toNat_natCast, q3, r2]
theorem p6_layGoal {s : Sg} {I : List Ist} {n : Nat} {t : Tm} {c p : Nat} (hI : Ins6 s n I) (hX : Spc6 s I) (hN : NowT s t) (hS : Szs s t) (hc : c < n) (hp : p < szT t) (hv : isV (sub t p) = false)
    (hprev : ∀ c' q : Nat, c' < n → p < q → q < szT t → GOK s I t c' q) :
    ∃ s', fX6_layGoal s c p = some s' ∧ keepG (9 * (c : Int) + p) s s' ∧ GOK s' I t c p := by
  have h9 := hN.2.1
  have ht := hN.2.2.1
  have hn := hI.2.1
  have hok := sub_ok t p ht hp
  have hIi := fun i (hi : i < I.length) => (hI.2.2.2.2 i hi).1
  have hG : inb (9 * (c : Int) + p) 36 := by omega
  obtain ⟨s1, e1, k1⟩ := p6_takes (c := c) hp hN hS hI hX
  rw [layGoal_c, e1, bd_s, wr9 (by omega) (by omega)]
  simp only []
  rw [gd_t hG, gd_t hG, gd_t hG]
  have k2 : keepG (9 * (c : Int) + p) s (sA (sA (sA s1 37 (9 * (c : Int) + p) (tk I c (sub t p))) 38 (9 * (c : Int) + p) (-1)) 39 (9 * (c : Int) + p) (-1)) := (((keepG.of35 k1).sA (by decide) _).sA (by decide) _).sA (by decide) _
  by_cases hneg : tk I c (sub t p) < 0
  · rw [if_neg (by omega)]
    unfold fX6_layGoal_b59
    rw [gd_t hG, gd_t hG]
    have hpr : prL I c (sub t p) = [] := by rw [prL, if_neg (by simp [hv]), if_pos hneg]
    have common : ∀ v : Int, v ≠ 1 → rS (res I c (sub t p)) = v → ∃ s', some (sA (sA (sA (sA s1 37 (9 * (c : Int) + p) (tk I c (sub t p))) 38 (9 * (c : Int) + p) (-1)) 39 (9 * (c : Int) + p) (-1)) 36 (9 * (c : Int) + p) v) = some s' ∧ keepG (9 * (c : Int) + p) s s' ∧ GOK s' I t c p := by
      intro v hv1 hv2
      refine ⟨_, rfl, k2.sA (by decide) _, ?_, ?_, ?_, ?_⟩
      · rw [hv2]; simp [gA_sA]
      · rw [if_neg (by simp [hv])]; simp [gA_sA]
      · intro e; rw [hv2] at e; exact absurd e hv1
      · intro j hj
        rw [hpr]
        simp only [List.getElem?_nil]
        rcases okV hj with rfl | rfl <;> simp [gA_sA]
    rcases res_bad hIi hok hv hneg with ⟨a, b⟩ | ⟨a, b⟩
    · rw [if_neg (by omega)]
      exact common 0 (by decide) (by rw [b]; rfl)
    · rw [if_pos (by omega)]
      exact common (-2) (by decide) (by rw [b]; rfl)
  · obtain ⟨k, hk⟩ : ∃ k : Nat, tk I c (sub t p) = (k : Int) := ⟨(tk I c (sub t p)).toNat, by omega⟩
    rw [hk] at k2 ⊢
    obtain ⟨hkI, hmt⟩ := tk_ge hk
    obtain ⟨m1, m2, m3, m4⟩ := mt_o hmt
    obtain ⟨b', hb'⟩ := fits_s.mp m4
    have hbd : bdOf (iH (ig I k)) (sub t p) = b' := by unfold bdOf; rw [hb']; rfl
    rw [if_pos (by omega)]
    generalize hs2 : sA (sA (sA s1 37 (9 * (c : Int) + p) (k : Int)) 38 (9 * (c : Int) + p) (-1)) 39 (9 * (c : Int) + p) (-1) = s2 at k2 ⊢
    have hf := p6_fitsAt (hN.keep k2.1 (by decide) (by decide)) (hS.keep k2.1 (by decide)) ((hI.2.2.2.2 k hkI).2.1.keep k2.1 (by decide) (by decide)) hp
    rw [hb'] at hf
    obtain ⟨s3, e3, k3, hB3⟩ := hf
    rw [e3, bd_s, gd_t hG, gd_t hG, gd_t hG, gd_t hG, gd_t hG, gd_t (by have := hI.2.2.2.1; omega)]
    have k4 : keepG (9 * (c : Int) + p) s (sA (sA (sA (sA (sA s3 36 (9 * (c : Int) + p) 1) 40 (9 * (c : Int) + p) 1) 41 (9 * (c : Int) + p) (wr (7 * (wr ((k : Int) + 1))))) 42 (9 * (c : Int) + p) 1) 43 (9 * (c : Int) + p) 0) :=
      (((((k2.trans (keepG.of35 k3)).sA (by decide) _).sA (by decide) _).sA (by decide) _).sA (by decide) _).sA (by decide) _
    have b4 : Bnd (sA (sA (sA (sA (sA s3 36 (9 * (c : Int) + p) 1) 40 (9 * (c : Int) + p) 1) 41 (9 * (c : Int) + p) (wr (7 * (wr ((k : Int) + 1))))) 42 (9 * (c : Int) + p) 1) 43 (9 * (c : Int) + p) 0) t p b' :=
      hB3.keep (L := [36, 40, 41, 42, 43]) (((((keepA _ s3 (by decide) _ _).sA (by decide) _ _).sA (by decide) _ _).sA (by decide) _ _).sA (by decide) _ _) (by decide)
    have hkI6 := hI.2.2.2.1
    have w7 : wr (7 * (wr ((k : Int) + 1))) = 7 * ((k : Int) + 1) := by rw [wr_id (x := (k : Int) + 1) (by omega) (by omega), wr_id (by omega) (by omega)]
    have r4 : Row (sA (sA (sA (sA (sA s3 36 (9 * (c : Int) + p) 1) 40 (9 * (c : Int) + p) 1) 41 (9 * (c : Int) + p) (wr (7 * (wr ((k : Int) + 1))))) 42 (9 * (c : Int) + p) 1) 43 (9 * (c : Int) + p) 0) (9 * (c : Int) + p) 1 1 (7 * ((k : Int) + 1)) 1 0 := by
      refine ⟨by simp [gA_sA], fun _ => ⟨by simp [gA_sA], ?_, by simp [gA_sA], by simp [gA_sA]⟩⟩
      rw [w7]; simp [gA_sA]
    have g37 : gA (sA (sA (sA (sA (sA s3 36 (9 * (c : Int) + p) 1) 40 (9 * (c : Int) + p) 1) 41 (9 * (c : Int) + p) (wr (7 * (wr ((k : Int) + 1))))) 42 (9 * (c : Int) + p) 1) 43 (9 * (c : Int) + p) 0) 37 (9 * (c : Int) + p) = (k : Int) := by
      simp [gA_sA]; rw [k3.A (by decide), ← hs2]; simp [gA_sA]
    have g38 : gA (sA (sA (sA (sA (sA s3 36 (9 * (c : Int) + p) 1) 40 (9 * (c : Int) + p) 1) 41 (9 * (c : Int) + p) (wr (7 * (wr ((k : Int) + 1))))) 42 (9 * (c : Int) + p) 1) 43 (9 * (c : Int) + p) 0) 38 (9 * (c : Int) + p) = -1 := by
      simp [gA_sA]; rw [k3.A (by decide), ← hs2]; simp [gA_sA]
    have g39 : gA (sA (sA (sA (sA (sA s3 36 (9 * (c : Int) + p) 1) 40 (9 * (c : Int) + p) 1) 41 (9 * (c : Int) + p) (wr (7 * (wr ((k : Int) + 1))))) 42 (9 * (c : Int) + p) 1) 43 (9 * (c : Int) + p) 0) 39 (9 * (c : Int) + p) = -1 := by
      simp [gA_sA]; rw [k3.A (by decide), ← hs2]; simp [gA_sA]
    generalize sA (sA (sA (sA (sA s3 36 (9 * (c : Int) + p) 1) 40 (9 * (c : Int) + p) 1) 41 (9 * (c : Int) + p) (wr (7 * (wr ((k : Int) + 1))))) 42 (9 * (c : Int) + p) 1) 43 (9 * (c : Int) + p) 0 = s4 at *
    have hnode := res_node hIi hok hv hk
    have hpl : (prL I c (sub t p)).length = (iC (ig I k)).length := by
      rw [prL, if_neg (by simp [hv]), if_neg (by omega), hk, Int.toNat_natCast]; exact (prts_lt hIi hok hk).1
    have hI4 := hI.keep k4.1 (by decide)
    obtain ⟨d1, d2, d3, d4, d5, d6⟩ := hI4.2.2.2.2 k hkI
    have hok6 := d1.2.2.2.2
    rw [← hbd] at b4
    rw [d5]
    have goks : ∀ {s' : Sg}, keepG (9 * (c : Int) + p) s s' → ∀ (a r : Nat), a < n → p < r → r < szT t → GOK s' I t a r := fun hk' a r h1 h2 h3 => (hprev a r h1 h2 h3).keepG hk' (by omega)
    -- the end, of all
    have fin : ∀ (s' : Sg) (o z w d : Int) (b : Nat), keepG (9 * (c : Int) + p) s s' → Row s' (9 * (c : Int) + p) o z w d b → gA s' 37 (9 * (c : Int) + p) = (k : Int) → 0 ≤ w ∧ w < 1000000 →
        (∀ j : Nat, j < 2 → match (prL I c (sub t p))[j]? with
          | none => gA s' (38 + j) (9 * (c : Int) + p) = -1
          | some g => ∃ q : Nat, p < q ∧ q < szT t ∧ sub t q = g.2 ∧ gA s' (38 + j) (9 * (c : Int) + p) = 9 * g.1 + q) →
        rS (res I c (sub t p)) = o → (o = 1 → ((rQ (res I c (sub t p))).length : Int) = z ∧ rW (res I c (sub t p)) = w % 1009 ∧ rD (res I c (sub t p)) = d ∧ rN (res I c (sub t p)) = b) →
        ∃ s'', fX6_layGoal_b225 s' (9 * (c : Int) + p) = some s'' ∧ keepG (9 * (c : Int) + p) s s'' ∧ GOK s'' I t c p := by
      intro s' o z w d b hk' hR h37 hw hbl hrs hrr
      obtain ⟨s'', e, ke, kk, hR2⟩ := p6_225 hG hR hw
      refine ⟨s'', e, hk'.trans ke, hR2.1.trans hrs.symm, ?_, ?_, ?_⟩
      · rw [if_neg (by simp [hv]), kk 37 (Or.inl rfl), h37, hk]
      · intro h1
        rw [hrs] at h1
        obtain ⟨a1, a2, a3, a4⟩ := hrr h1
        obtain ⟨f1, f2, f3, f4⟩ := hR2.2 h1
        rw [a1, a2, a3, a4]
        exact ⟨f1, f2, f3, f4⟩
      · intro j hj
        have := hbl j hj
        rw [kk (38 + j) (by omega)]
        exact this
    have bounds : ∀ (a : Int) (r : Nat), 0 ≤ a → a < n → r < szT t → rOK 9 (res I a (sub t r)) := by
      intro a r h1 h2 h3
      have hso := sub_ok t r ht h3
      have hse := sub_end t r ht h3
      exact (res_ok hn hIi _ a (sub t r) rfl hso h1 h2).mono (by omega)
    have p29 : (2 : Nat) ^ 9 = 512 := by decide
    rcases Nat.lt_or_ge 0 (iC (ig I k)).length with hm | hm
    · rw [if_neg (by omega)]
      have w2 : wr (2 * (k : Int)) = 2 * (k : Int) := wr_id (by omega) (by omega)
      obtain ⟨c10, c11⟩ := d6 0 hm
      rw [show 2 * (k : Int) + ((0 : Nat) : Int) = 2 * (k : Int) by omega] at c10 c11
      obtain ⟨x1, x2, x3⟩ := hok6.2 0 hm
      obtain ⟨r, rp, rt, r35, rpl⟩ := cond_pos hIi ht hp hk hv b4 hm
      have wA : wr (wr (9 * (cg (ig I k) 0).1) + (r : Int)) = 9 * (cg (ig I k) 0).1 + r := by rw [wr_id (x := 9 * (cg (ig I k) 0).1) (by omega) (by omega), wr_id (by omega) (by omega)]
      rw [w2, gd_t (by omega), gd_t (by omega), c11, gd_t (by omega), gd_t hG, gd_t hG, c10, r35, wA, gA_sA, if_pos ⟨rfl, rfl⟩]
      have k5 : keepG (9 * (c : Int) + p) s (sA s4 38 (9 * (c : Int) + p) (9 * (cg (ig I k) 0).1 + r)) := k4.sA (by decide) _
      have r5 : Row (sA s4 38 (9 * (c : Int) + p) (9 * (cg (ig I k) 0).1 + r)) (9 * (c : Int) + p) 1 1 (7 * ((k : Int) + 1)) 1 0 := by
        refine ⟨by simp [gA_sA, r4.1], fun e => ?_⟩
        obtain ⟨a1, a2, a3, a4⟩ := r4.2 e
        exact ⟨by simp [gA_sA, a1], by simp [gA_sA, a2], by simp [gA_sA, a3], by simp [gA_sA, a4]⟩
      have gk := (goks k5 (cg (ig I k) 0).1.toNat r (by omega) rp rt).row
      rw [show (((cg (ig I k) 0).1.toNat : Nat) : Int) = (cg (ig I k) 0).1 by omega] at gk
      obtain ⟨bo1, bo2, bo3, bo4, bo5⟩ := bounds (cg (ig I k) 0).1 r (by omega) (by omega) rt
      obtain ⟨s6, e6, k6, f6, r6⟩ := p6_addBelow (n := 2) r5 gk hG (by omega) (by omega) (by omega) (by omega) (by omega) (by omega) (by omega) (by omega) (by omega) (by omega) bo5
      rw [e6, bd_s, layGoal_165, gd_t (by omega)]
      have h6 := hI.keep (k5.trans k6).1 (by decide)
      obtain ⟨y1, y2, y3, y4, y5, y6⟩ := h6.2.2.2.2 k hkI
      rw [y5]
      rw [if_pos rfl, Nat.zero_or] at r6
      have f37 : gA s6 37 (9 * (c : Int) + p) = (k : Int) := by rw [f6 37 (by omega), gA_sA, if_neg (by omega)]; exact g37
      have f38 : gA s6 38 (9 * (c : Int) + p) = 9 * (cg (ig I k) 0).1 + r := by rw [f6 38 (by omega), gA_sA, if_pos ⟨rfl, rfl⟩]
      have f39 : gA s6 39 (9 * (c : Int) + p) = -1 := by rw [f6 39 (by omega), gA_sA, if_neg (by omega)]; exact g39
      rcases Nat.lt_or_ge 1 (iC (ig I k)).length with hm2 | hm2
      · rw [if_neg (by omega)]
        have hlen : (iC (ig I k)).length = 2 := by have := hok6.1; omega
        have w3 : wr (wr (2 * (k : Int)) + 1) = 2 * (k : Int) + 1 := by rw [w2, wr_id (by omega) (by omega)]
        obtain ⟨v10, v11⟩ := y6 1 hm2
        rw [show 2 * (k : Int) + ((1 : Nat) : Int) = 2 * (k : Int) + 1 by omega] at v10 v11
        obtain ⟨z1, z2, z3⟩ := hok6.2 1 hm2
        have b6 : Bnd s6 t p (bdOf (iH (ig I k)) (sub t p)) := by
          intro v hv'
          have q := b4 v hv'
          have e35 : ∀ y, gA s6 35 y = gA s4 35 y := by
            intro y
            rw [f6 35 (Or.inl rfl), gA_sA, if_neg (by omega)]
          revert q
          cases bdOf (iH (ig I k)) (sub t p) v with
          | none => intro q; rw [e35]; exact q
          | some u => rintro ⟨q, q1, q2, q3, q4⟩; exact ⟨q, q1, q2, by rw [e35]; exact q3, q4⟩
        obtain ⟨r', rp', rt', r35', rpl'⟩ := cond_pos hIi ht hp hk hv b6 hm2
        have wA' : wr (wr (9 * (cg (ig I k) 1).1) + (r' : Int)) = 9 * (cg (ig I k) 1).1 + r' := by rw [wr_id (x := 9 * (cg (ig I k) 1).1) (by omega) (by omega), wr_id (by omega) (by omega)]
        rw [w3]
        simp only []
        rw [gd_t (by omega), gd_t (by omega), v11, gd_t (by omega), gd_t hG, gd_t hG, v10, r35', wA', gA_sA, if_pos ⟨rfl, rfl⟩]
        have k7 : keepG (9 * (c : Int) + p) s (sA s6 39 (9 * (c : Int) + p) (9 * (cg (ig I k) 1).1 + r')) := (k5.trans k6).sA (by decide) _
        have r7 : Row (sA s6 39 (9 * (c : Int) + p) (9 * (cg (ig I k) 1).1 + r')) (9 * (c : Int) + p) (rS (res I (cg (ig I k) 0).1 (sub t r))) (1 + ((rQ (res I (cg (ig I k) 0).1 (sub t r))).length : Int)) (7 * ((k : Int) + 1) + 2 * rW (res I (cg (ig I k) 0).1 (sub t r))) (mmax 1 (rD (res I (cg (ig I k) 0).1 (sub t r)) + 1)) (rN (res I (cg (ig I k) 0).1 (sub t r))) := by
          refine ⟨by simp [gA_sA, r6.1], fun e => ?_⟩
          obtain ⟨a1, a2, a3, a4⟩ := r6.2 e
          exact ⟨by simp [gA_sA, a1], by simp [gA_sA, a2], by simp [gA_sA, a3], by simp [gA_sA, a4]⟩
        have gk' := (goks k7 (cg (ig I k) 1).1.toNat r' (by omega) rp' rt').row
        rw [show (((cg (ig I k) 1).1.toNat : Nat) : Int) = (cg (ig I k) 1).1 by omega] at gk'
        obtain ⟨co1, co2, co3, co4, co5⟩ := bounds (cg (ig I k) 1).1 r' (by omega) (by omega) rt'
        have hmx : 0 ≤ mmax 1 (rD (res I (cg (ig I k) 0).1 (sub t r)) + 1) ∧ mmax 1 (rD (res I (cg (ig I k) 0).1 (sub t r)) + 1) < 100 := by unfold mmax; split <;> omega
        obtain ⟨s8, e8, k8, f8, r8⟩ := p6_addBelow (n := 3) r7 gk' hG (by omega) (by omega) (by omega) (by omega) (by omega) (by omega) (by omega) hmx (by omega) bo5 co5
        rw [e8, bd_s]
        have hl2 : prL I c (sub t p) = [((cg (ig I k) 0).1, sub t r), ((cg (ig I k) 1).1, sub t r')] := by
          apply List.ext_getElem?
          intro i
          match i with
          | 0 => rw [rpl]; rfl
          | 1 => rw [rpl']; rfl
          | i + 2 => rw [List.getElem?_eq_none (by omega), List.getElem?_eq_none (by simp)]
        refine fin s8 _ _ _ _ _ (k7.trans k8) r8 (by rw [f8 37 (by omega), gA_sA, if_neg (by omega)]; exact f37) (by omega) ?_ ?_ ?_
        · intro j hj
          rw [hl2]
          rcases okV hj with rfl | rfl
          · exact ⟨r, rp, rt, rfl, by rw [f8 _ (by omega), gA_sA, if_neg (by omega)]; exact f38⟩
          · exact ⟨r', rp', rt', rfl, by rw [f8 _ (by omega), gA_sA, if_pos ⟨rfl, rfl⟩]⟩
        · rw [hnode, hl2]
          simp only [rS_rNode, List.map, stL, if_true]
        · intro _
          rw [hnode, hl2]
          simp only [rQ_rNode, rW_rNode, rD_rNode, rN_rNode, List.map, woL, dpL, neL, Nat.zero_or, List.flatten_cons, List.flatten_nil, List.append_nil, List.length_cons, List.length_append]
          refine ⟨by omega, by rw [show (2 : Int) + 1 = 3 from rfl], ?_, trivial⟩
          unfold mmax
          (repeat' split) <;> omega
      · rw [if_pos (by omega)]
        have hl1 : prL I c (sub t p) = [((cg (ig I k) 0).1, sub t r)] := by
          apply List.ext_getElem?
          intro i
          match i with
          | 0 => rw [rpl]; rfl
          | i + 1 => rw [List.getElem?_eq_none (by omega), List.getElem?_eq_none (by simp)]
        refine fin s6 _ _ _ _ _ (k5.trans k6) r6 f37 (by omega) ?_ ?_ ?_
        · intro j hj
          rw [hl1]
          rcases okV hj with rfl | rfl
          · exact ⟨r, rp, rt, rfl, f38⟩
          · exact f39
        · rw [hnode, hl1]
          simp only [rS_rNode, List.map, stL, if_true]
        · intro _
          rw [hnode, hl1]
          simp only [rQ_rNode, rW_rNode, rD_rNode, rN_rNode, List.map, woL, dpL, neL, Nat.zero_or, List.flatten_cons, List.flatten_nil, List.append_nil, List.length_cons]
          refine ⟨by omega, trivial, ?_, trivial⟩
          unfold mmax
          (repeat' split) <;> omega
    · have hl0 : prL I c (sub t p) = [] := List.eq_nil_of_length_eq_zero (by omega)
      rw [if_pos (by omega), layGoal_165, gd_t (by omega), d5, if_pos (by omega)]
      refine fin s4 _ _ _ _ _ k4 r4 g37 (by omega) ?_ ?_ ?_
      · intro j hj
        rw [hl0]
        simp only [List.getElem?_nil]
        rcases okV hj with rfl | rfl
        · exact g38
        · exact g39
      · rw [hnode, hl0]; rfl
      · intro _
        rw [hnode, hl0]
        simp [rQ_rNode, rW_rNode, rD_rNode, rN_rNode, woL, dpL, neL]

set_option maxRecDepth 100000
/-! PURE: all goals of a type (model) -/
theorem keepG.all {g : Int} {s s' : Sg} (h : keepG g s s') : keepS [35, 36, 37, 38, 39, 40, 41, 42, 43] s s' := h.1
theorem p6_layGoals_L13 {I : List Ist} {n : Nat} {t : Tm} {p : Nat} {K : Sg → Int → Option Sg} (hp : p < szT t) : ∀ (m f c : Nat) (s : Sg), m < f → m + c = n → Ins6 s n I → Spc6 s I → NowT s t → Szs s t →
    (∀ c' q : Nat, c' < n → p < q → q < szT t → GOK s I t c' q) → (∀ c' : Nat, c' < c → GOK s I t c' p) →
    ∃ s', fX6_layGoals_L13 K f s p c = K s' ((p : Int) - 1) ∧ keepS [35, 36, 37, 38, 39, 40, 41, 42, 43] s s' ∧ ∀ c' q : Nat, c' < n → p ≤ q → q < szT t → GOK s' I t c' q := by
  intro m
  induction m with
  | zero =>
    intro f c s hf hm hI hX hN hS h1 h2
    obtain ⟨f, rfl⟩ : ∃ k, f = k + 1 := ⟨f - 1, by omega⟩
    have h9 := hN.2.1
    refine ⟨s, ?_, keepS.refl _ _, fun c' q a b d => ?_⟩
    · rw [fX6_layGoals_L13_s, fX6_layGoals_b13, hI.1, if_pos (by omega), wr_id (by omega) (by omega)]
      rfl
    · rcases Nat.lt_or_ge p q with e | e
      · exact h1 c' q a e d
      · have : q = p := by omega
        subst this; exact h2 c' (by omega)
  | succ m ih =>
    intro f c s hf hm hI hX hN hS h1 h2
    obtain ⟨f, rfl⟩ : ∃ k, f = k + 1 := ⟨f - 1, by omega⟩
    have h9 := hN.2.1
    have hn := hI.2.1
    have hlet : gA s 32 (p : Int) = sgT (sub t p) := by rw [hN.2.2.2 p hp, ltr_sg hN.2.2.1 hp]
    have hsv := sg_var (sub_ok t p hN.2.2.1 hp)
    have go : ∀ s' : Sg, keepG (9 * (c : Int) + p) s s' → GOK s' I t c p → ∃ s'', fX6_layGoals_L13 K f s' p (wr ((c : Int) + 1)) = K s'' ((p : Int) - 1) ∧ keepS [35, 36, 37, 38, 39, 40, 41, 42, 43] s s'' ∧ ∀ c' q : Nat, c' < n → p ≤ q → q < szT t → GOK s'' I t c' q := by
      intro s' hk hg
      rw [wr_id (by omega) (by omega)]
      obtain ⟨s'', e, k, g⟩ := ih f (c + 1) s' (by omega) (by omega) (hI.keep hk.1 (by decide)) (hX.keep hk.1 (by decide)) (hN.keep hk.1 (by decide) (by decide)) (hS.keep hk.1 (by decide))
        (fun c' q a b d => (h1 c' q a b d).keepG hk (by omega))
        (fun c' a => by
          rcases Nat.lt_or_ge c' c with e | e
          · exact (h2 c' e).keepG hk (by omega)
          · have : c' = c := by omega
            subst this; exact hg)
      exact ⟨s'', e, hk.1.trans k, g⟩
    rw [fX6_layGoals_L13_s, fX6_layGoals_b13, hI.1, if_neg (by omega), gd_t (by omega), hlet, p6_isVar, bd_s]
    unfold fX6_layGoals_b48
    cases hv : isV (sub t p)
    · rw [if_pos (b01_0.mpr (fun q => by rw [hsv.mp q] at hv; cases hv))]
      obtain ⟨s', e, k, g⟩ := p6_layGoal hI hX hN hS (show c < n by omega) hp hv h1
      rw [e, bd_s]
      exact go s' k g
    · rw [if_neg (fun q => b01_0.mp q (hsv.mpr hv))]
      obtain ⟨s', e, k, g⟩ := p6_layNeed hn (fun i hi => (hI.2.2.2.2 i hi).1) hN (show c < n by omega) hp hv
      rw [e, bd_s]
      exact go s' k g
theorem p6_layGoals_L7 {I : List Ist} {n : Nat} {t : Tm} : ∀ (m f : Nat) (s : Sg), m < f → m ≤ szT t → Ins6 s n I → Spc6 s I → NowT s t → Szs s t →
    (∀ c' q : Nat, c' < n → m ≤ q → q < szT t → GOK s I t c' q) →
    ∃ s', fX6_layGoals_L7 f s ((m : Int) - 1) = some s' ∧ keepS [35, 36, 37, 38, 39, 40, 41, 42, 43] s s' ∧ ∀ c' q : Nat, c' < n → q < szT t → GOK s' I t c' q := by
  intro m
  induction m with
  | zero =>
    intro f s hf hm hI hX hN hS h1
    obtain ⟨f, rfl⟩ : ∃ k, f = k + 1 := ⟨f - 1, by omega⟩
    exact ⟨s, by rw [fX6_layGoals_L7_s, fX6_layGoals_b7, if_pos (by omega)], keepS.refl _ _, fun c' q a b => h1 c' q a (by omega) b⟩
  | succ m ih =>
    intro f s hf hm hI hX hN hS h1
    obtain ⟨f, rfl⟩ : ∃ k, f = k + 1 := ⟨f - 1, by omega⟩
    obtain ⟨s', e, k, g⟩ := p6_layGoals_L13 (K := fX6_layGoals_L7 f) (show m < szT t by omega) n FU 0 s (by have := hI.2.1; unfold FU; omega) (by omega) hI hX hN hS (fun c' q a b d => h1 c' q a (by omega) d) (fun c' a => by omega)
    obtain ⟨s'', e2, k2, g2⟩ := ih f s' (by omega) (by omega) (hI.keep k (by decide)) (hX.keep k (by decide)) (hN.keep k (by decide) (by decide)) (hS.keep k (by decide)) g
    refine ⟨s'', ?_, k.trans k2, g2⟩
    rw [fX6_layGoals_L7_s, fX6_layGoals_b7, if_neg (by omega), show ((m + 1 : Nat) : Int) - 1 = (m : Int) by omega]
    rw [show ((0 : Nat) : Int) = 0 from rfl] at e
    rw [e]; exact e2
theorem p6_layGoals {s : Sg} {I : List Ist} {n : Nat} {t : Tm} (hI : Ins6 s n I) (hX : Spc6 s I) (hN : NowT s t) (hS : Szs s t) :
    ∃ s', fX6_layGoals s = some s' ∧ keepS [35, 36, 37, 38, 39, 40, 41, 42, 43] s s' ∧ ∀ c q : Nat, c < n → q < szT t → GOK s' I t c q := by
  have h9 := hN.2.1
  unfold fX6_layGoals
  rw [hN.1, wr_id (by omega) (by omega)]
  exact p6_layGoals_L7 (szT t) FU s (by unfold FU; omega) (Nat.le_refl _) hI hX hN hS (fun c q a b d => by omega)

set_option maxRecDepth 100000
/-! PURE: what the model tells of a goal -/
theorem stL_ne : ∀ (l : List Rr) (o : Int), o ≠ 1 → stL l o = o := by
  intro l
  induction l with
  | nil => intro o _; rfl
  | cons r l ih => intro o h; simp only [stL, h, if_false]; exact ih o h
theorem stL_all : ∀ (l : List Rr), stL l 1 = 1 → ∀ r ∈ l, rS r = 1 := by
  intro l
  induction l with
  | nil => intro _ r hr; cases hr
  | cons r l ih =>
    intro h x hx
    simp only [stL, if_true] at h
    by_cases h1 : rS r = 1
    · rw [h1] at h
      cases hx with
      | head => exact h1
      | tail _ hx => exact ih h x hx
    · rw [stL_ne l _ h1] at h
      exact absurd h h1
/-- all of a type is laid -/
def Laid (s : Sg) (I : List Ist) (n : Nat) (t : Tm) : Prop := Ins6 s n I ∧ Spc6 s I ∧ NowT s t ∧ Szs s t ∧ ∀ c q : Nat, c < n → q < szT t → GOK s I t c q
theorem found_cases {I : List Ist} {n : Nat} (hI : ∀ i, i < I.length → okI n (ig I i)) {c : Int} {t : Tm} (ht : okT t) (h : rS (res I c t) = 1) :
    (isV t = true ∧ res I c t = rNeed c t) ∨ (isV t = false ∧ ∃ k : Nat, tk I c t = (k : Int) ∧ res I c t = rNode k c t ((prL I c t).map fun g => res I g.1 g.2) ∧ ∀ g ∈ prL I c t, rS (res I g.1 g.2) = 1) := by
  cases hv : isV t
  · right
    refine ⟨rfl, ?_⟩
    rcases tk_cases I c t with e | e | ⟨k, e⟩
    · rcases res_bad (c := c) hI ht hv (by omega) with ⟨_, q⟩ | ⟨_, q⟩ <;> rw [q, rS_rBad] at h <;> omega
    · rcases res_bad (c := c) hI ht hv (by omega) with ⟨_, q⟩ | ⟨_, q⟩ <;> rw [q, rS_rBad] at h <;> omega
    · have hn := res_node hI ht hv e
      refine ⟨k, e, hn, fun g hg => ?_⟩
      rw [hn, rS_rNode] at h
      exact stL_all _ h _ (List.mem_map.mpr ⟨g, hg, rfl⟩)
  · exact Or.inl ⟨rfl, res_var hI ht hv⟩
theorem p6_entryAt_L {s : Sg} {I : List Ist} {n : Nat} {t : Tm} (hL : Laid s I n t) : ∀ (left f c p : Nat), left < f → c < n → p < szT t → rS (res I c (sub t p)) = 1 → left < (rQ (res I c (sub t p))).length →
    fX6_entryAt_L5 f s (9 * (c : Int) + p) left = some ((rQ (res I c (sub t p))).getD left 0) := by
  obtain ⟨hI, hX, hN, hS, hG⟩ := hL
  have hIi := fun i (hi : i < I.length) => (hI.2.2.2.2 i hi).1
  have h9 := hN.2.1
  have ht := hN.2.2.1
  have hn := hI.2.1
  intro left
  induction left using Nat.strongRecOn with
  | _ left ih =>
    intro f c p hf hc hp h1 hl
    obtain ⟨f, rfl⟩ : ∃ k, f = k + 1 := ⟨f - 1, by omega⟩
    have hok := sub_ok t p ht hp
    obtain ⟨g1, g2, g3, g4⟩ := hG c p hc hp
    have hin : inb (9 * (c : Int) + p) 36 := by omega
    have hsz : (rQ (res I c (sub t p))).length < 512 := by
      have hse := sub_end t p ht hp
      have := ((res_ok hn hIi _ (c : Int) (sub t p) rfl hok (by omega) (by omega)).mono (z' := 9) (by omega)).2.1
      rw [show (2 : Nat) ^ 9 = 512 by decide] at this
      exact this
    have hleft : left < 512 := by omega
    rw [fX6_entryAt_L5_s, fX6_entryAt_b5]
    unfold fX6_entryAt_b105
    rcases found_cases hIi hok h1 with ⟨hv, hr⟩ | ⟨hv, k, hk, hr, hall⟩
    · rw [hr, rQ_rNeed] at hl ⊢
      simp only [List.length_cons, List.length_nil] at hl
      have h0 : left = 0 := by omega
      subst h0
      rw [if_pos (by omega), gd_t hin, g2, if_pos hv, if_neg (by omega), gd_t hin, (g3 h1).2.1, hr]
      rfl
    · rw [if_neg (by simp [hv]), hk] at g2
      have hlen := prL_len hIi (c := (c : Int)) (t := sub t p)
      rcases Nat.eq_zero_or_pos left with h0 | h0
      · subst h0
        rw [if_pos (by omega), gd_t hin, g2, if_pos (by omega), gd_t hin, hr]
        rfl
      · rw [if_neg (by omega), gd_t hin]
        have wl1 : wr ((left : Int) + (-1)) = ((left - 1 : Nat) : Int) := by rw [wr_id (by omega) (by omega)]; omega
        rw [wl1]
        have b0 := g4 0 (by omega)
        have b1 := g4 1 (by omega)
        rw [show (38 + 0 : Nat) = 38 from rfl] at b0
        rw [show (38 + 1 : Nat) = 39 from rfl] at b1
        rw [hr, rQ_rNode] at hl ⊢
        match hq : prL I c (sub t p) with
        | [] => rw [hq] at hl; simp at hl; omega
        | [a] =>
          rw [hq] at hl b0 b1
          simp only [List.map, List.flatten_cons, List.flatten_nil, List.append_nil, List.length_cons] at hl ⊢
          obtain ⟨q, q1, q2, q3, q4⟩ := b0
          obtain ⟨y, y1, y2, y3, y4, y5⟩ := prL_lt hIi hok (g := a) (by rw [hq]; simp)
          have ha := hall a (by rw [hq]; simp)
          obtain ⟨f1, f2, f3, f4⟩ := hG a.1.toNat q (by omega) q2
          rw [show ((a.1.toNat : Nat) : Int) = a.1 by omega, q3] at f3
          rw [q4, gd_t (by omega), (f3 ha).1, if_neg (by omega)]
          unfold fX6_entryAt_b38 fX6_entryAt_b53 fX6_entryAt_b76
          rw [if_neg (by decide), if_neg (by decide), gd_t hin, q4, wr_id (by omega) (by omega), Int.sub_zero]
          have := ih (left - 1) (by omega) f a.1.toNat q (by omega) (by omega) q2
          rw [show ((a.1.toNat : Nat) : Int) = a.1 by omega, q3] at this
          rw [this ha (by omega), show left = left - 1 + 1 by omega]
          simp
        | [a, b] =>
          rw [hq] at hl b0 b1
          simp only [List.map, List.flatten_cons, List.flatten_nil, List.append_nil, List.length_cons, List.length_append] at hl ⊢
          obtain ⟨q, q1, q2, q3, q4⟩ := b0
          obtain ⟨q', p1, p2, p3, p4⟩ := b1
          obtain ⟨y, y1, y2, y3, y4, y5⟩ := prL_lt hIi hok (g := a) (by rw [hq]; simp)
          obtain ⟨x, x1, x2, x3, x4, x5⟩ := prL_lt hIi hok (g := b) (by rw [hq]; simp)
          have ha := hall a (by rw [hq]; simp)
          have hb := hall b (by rw [hq]; simp)
          obtain ⟨f1, f2, f3, f4⟩ := hG a.1.toNat q (by omega) q2
          rw [show ((a.1.toNat : Nat) : Int) = a.1 by omega, q3] at f3
          rw [q4, gd_t (by omega), (f3 ha).1]
          unfold fX6_entryAt_b38 fX6_entryAt_b53 fX6_entryAt_b76
          split
          · rename_i hge
            rw [if_pos rfl, if_pos rfl, gd_t hin, p4, wr_id (by omega) (by omega)]
            have := ih (left - 1 - (rQ (res I a.1 a.2)).length) (by omega) f b.1.toNat q' (by omega) (by omega) p2
            rw [show ((b.1.toNat : Nat) : Int) = b.1 by omega, p3] at this
            rw [show (((left - 1 : Nat) : Int) - ((rQ (res I a.1 a.2)).length : Int)) = ((left - 1 - (rQ (res I a.1 a.2)).length : Nat) : Int) by omega]
            rw [this hb (by omega)]
            congr 1
            obtain ⟨m, hm⟩ : ∃ m, left = m + 1 := ⟨left - 1, by omega⟩
            subst hm
            simp only [Nat.add_sub_cancel, List.getD_eq_getElem?_getD, List.getElem?_cons_succ]
            rw [List.getElem?_append_right (by omega)]
          · rename_i hge
            rw [if_neg (by decide), if_neg (by decide), gd_t hin, q4, wr_id (by omega) (by omega), Int.sub_zero]
            have := ih (left - 1) (by omega) f a.1.toNat q (by omega) (by omega) q2
            rw [show ((a.1.toNat : Nat) : Int) = a.1 by omega, q3] at this
            rw [this ha (by omega)]
            congr 1
            obtain ⟨m, hm⟩ : ∃ m, left = m + 1 := ⟨left - 1, by omega⟩
            subst hm
            simp only [Nat.add_sub_cancel, List.getD_eq_getElem?_getD, List.getElem?_cons_succ]
            rw [List.getElem?_append_left (by omega)]
        | _ :: _ :: _ :: _ => rw [hq] at hlen; simp at hlen
theorem p6_entryAt {s : Sg} {I : List Ist} {n : Nat} {t : Tm} (hL : Laid s I n t) {c k : Nat} (hc : c < n) (h1 : rS (res I c t) = 1) (hl : k < (rQ (res I c t)).length) : fX6_entryAt s (9 * (c : Int)) k = some ((rQ (res I c t)).getD k 0) := by
  have h := p6_entryAt_L hL k FU c 0 ?_ hc (szT_pos t) (by rw [sub_0]; exact h1) (by rw [sub_0]; exact hl)
  · rw [sub_0, show 9 * (c : Int) + ((0 : Nat) : Int) = 9 * (c : Int) by omega] at h
    exact h
  · obtain ⟨hI, hX, hN, hS, hG⟩ := hL
    have := ((res_ok hI.2.1 (fun i (hi : i < I.length) => (hI.2.2.2.2 i hi).1) _ (c : Int) t rfl hN.2.2.1 (by omega) (by omega)).mono (z' := 9) hN.2.1).2.1
    rw [show (2 : Nat) ^ 9 = 512 by decide] at this
    unfold FU; omega

set_option maxRecDepth 100000
/-! PURE: how many different goals (model) -/
def gk (g : Int × Tm) : Int × List Int := (g.1, flat g.2)
def dd : List (Int × List Int) → List (Int × List Int)
  | [] => []
  | x :: l => if x ∈ dd l then dd l else x :: dd l
def dst (l : List (Int × Tm)) : Nat := (dd (l.map gk)).length
theorem dd_mem : ∀ (l : List (Int × List Int)) (x : Int × List Int), x ∈ dd l ↔ x ∈ l := by
  intro l
  induction l with
  | nil => intro x; simp [dd]
  | cons y l ih =>
    intro x
    simp only [dd]
    split
    · rename_i h
      rw [ih] at h
      simp only [ih, List.mem_cons]
      constructor
      · exact Or.inr
      · rintro (e | e)
        · rw [e]; exact h
        · exact e
    · simp only [List.mem_cons, ih]
theorem dd_nodup : ∀ l : List (Int × List Int), (dd l).Nodup := by
  intro l
  induction l with
  | nil => simp [dd]
  | cons y l ih =>
    simp only [dd]
    split
    · exact ih
    · rename_i h
      exact List.nodup_cons.mpr ⟨h, ih⟩
theorem nodup_len {α : Type} {l m : List α} (hl : l.Nodup) (hm : m.Nodup) (h : ∀ x, x ∈ l ↔ x ∈ m) : l.length = m.length :=
  ((List.perm_ext_iff_of_nodup hl hm).mpr h).length_eq
theorem rG_eq {I : List Ist} {n : Nat} (hI : ∀ i, i < I.length → okI n (ig I i)) {c : Int} {t : Tm} (ht : okT t) :
    rG (res I c t) = (c, t) :: ((prL I c t).map fun g => rG (res I g.1 g.2)).flatten := by
  cases hv : isV t
  · rcases tk_cases I c t with e | e | ⟨k, e⟩
    · rcases res_bad (c := c) hI ht hv (by omega) with ⟨_, q⟩ | ⟨_, q⟩ <;> rw [q, rG_rBad, prL, if_neg (by simp [hv]), if_pos (by omega)] <;> rfl
    · rcases res_bad (c := c) hI ht hv (by omega) with ⟨_, q⟩ | ⟨_, q⟩ <;> rw [q, rG_rBad, prL, if_neg (by simp [hv]), if_pos (by omega)] <;> rfl
    · rw [res_node hI ht hv e, rG_rNode, List.map_map]
      rfl
  · rw [res_var hI ht hv, rG_rNeed, prL, if_pos hv]; rfl
theorem rG_trans {I : List Ist} {n : Nat} (hI : ∀ i, i < I.length → okI n (ig I i)) : ∀ (z : Nat) (c : Int) (t : Tm), szT t = z → okT t → ∀ x ∈ rG (res I c t), ∀ g ∈ prL I x.1 x.2, g ∈ rG (res I c t) := by
  intro z
  induction z using Nat.strongRecOn with
  | _ z ih =>
    intro c t hz ht x hx g hg
    rw [rG_eq hI ht] at hx ⊢
    rcases List.mem_cons.mp hx with e | e
    · subst e
      refine List.mem_cons_of_mem _ (List.mem_flatten.mpr ⟨rG (res I g.1 g.2), List.mem_map.mpr ⟨g, hg, rfl⟩, ?_⟩)
      obtain ⟨q, q1, q2, q3, q4⟩ := prL_lt hI ht hg
      rw [rG_eq hI (by rw [q3]; exact sub_ok t q ht q2)]
      exact List.mem_cons_self
    · obtain ⟨l, hl, hxl⟩ := List.mem_flatten.mp e
      obtain ⟨g', hg', rfl⟩ := List.mem_map.mp hl
      obtain ⟨q, q1, q2, q3, q4⟩ := prL_lt hI ht hg'
      have := sub_lt ht q2 q1
      refine List.mem_cons_of_mem _ (List.mem_flatten.mpr ⟨_, hl, ?_⟩)
      exact ih (szT g'.2) (by rw [q3]; omega) g'.1 g'.2 rfl (by rw [q3]; exact sub_ok t q ht q2) x hxl g hg
theorem p6_isNew_L {s : Sg} {t : Tm} (hN : NowT s t) (hS : Szs s t) {c p : Nat} (hc : c < 4) (hp : p < szT t) : ∀ (m f k : Nat), m < f → m + k = p →
    fX6_isNew_L5 f s c p (b01 (allN (fun q => decide (gA s 44 (9 * (c : Int) + q) = 0) || !decide (flat (sub t q) = flat (sub t p))) k = true)) k = some (b01 (allN (fun q => decide (gA s 44 (9 * (c : Int) + q) = 0) || !decide (flat (sub t q) = flat (sub t p))) p = true)) := by
  intro m
  have h9 := hN.2.1
  induction m with
  | zero =>
    intro f k hf hk
    obtain ⟨f, rfl⟩ : ∃ k, f = k + 1 := ⟨f - 1, by omega⟩
    rw [fX6_isNew_L5_s, fX6_isNew_b5, if_pos (by omega), show k = p by omega, gd_t b01_or]
  | succ m ih =>
    intro f k hf hk
    obtain ⟨f, rfl⟩ : ∃ k, f = k + 1 := ⟨f - 1, by omega⟩
    have ih' := ih f (k + 1) (by omega) (by omega)
    rw [show ((k + 1 : Nat) : Int) = (k : Int) + 1 by omega] at ih'
    simp only [allN] at ih'
    rw [fX6_isNew_L5_s, fX6_isNew_b5, if_neg (by omega), wr9 hc (by omega), gd_t (by omega), p6_isSameAt hN hS (show k < szT t by omega) hp, bd_s]
    unfold fX6_isNew_b44 fX6_isNew_b40 fX6_isNew_b45
    rw [wr_id (by omega) (by omega)]
    rcases Bool.eq_false_or_eq_true (allN (fun q => decide (gA s 44 (9 * (c : Int) + q) = 0) || !decide (flat (sub t q) = flat (sub t p))) k) with hA | hA <;> by_cases h0 : gA s 44 (9 * (c : Int) + k) = 0 <;> by_cases h1 : flat (sub t k) = flat (sub t p) <;> simp [b01, hA, h0, h1] at ih' ⊢ <;> exact ih'
theorem p6_isNew {s : Sg} {t : Tm} (hN : NowT s t) (hS : Szs s t) {c p : Nat} (hc : c < 4) (hp : p < szT t) :
    fX6_isNew s c p = some (b01 (allN (fun q => decide (gA s 44 (9 * (c : Int) + q) = 0) || !decide (flat (sub t q) = flat (sub t p))) p = true)) := by
  have := p6_isNew_L hN hS hc hp p FU 0 (by have := hN.2.1; unfold FU; omega) (by omega)
  exact this
/-- the goals that are marked: on the way at place p, class c -/
def MkI (s : Sg) (I : List Ist) (n : Nat) (t : Tm) (c0 p c : Nat) (K : List (Int × List Int)) : Prop :=
  (∀ c' q : Nat, c' < n → q < szT t → gA s 44 (9 * (c' : Int) + q) = 0 ∨ gA s 44 (9 * (c' : Int) + q) = 1) ∧
  (∀ c' q : Nat, c' < n → q < szT t → gA s 44 (9 * (c' : Int) + q) = 1 → ((c' : Int), sub t q) ∈ rG (res I c0 t)) ∧
  gA s 44 (9 * (c0 : Int)) = 1 ∧
  (∀ c' q : Nat, c' < n → q < szT t → (q < p ∨ (q = p ∧ c' < c)) → gA s 44 (9 * (c' : Int) + q) = 1 → ∀ g ∈ prL I c' (sub t q), ∃ q' : Nat, q < q' ∧ q' < szT t ∧ sub t q' = g.2 ∧ gA s 44 (9 * g.1 + q') = 1) ∧
  K.Nodup ∧ ∀ x, x ∈ K ↔ ∃ c' q : Nat, c' < n ∧ q < szT t ∧ (q < p ∨ (q = p ∧ c' < c)) ∧ gA s 44 (9 * (c' : Int) + q) = 1 ∧ x = gk ((c' : Int), sub t q)
theorem MkI.len {s : Sg} {I : List Ist} {n : Nat} {t : Tm} {c0 p c : Nat} {K : List (Int × List Int)} (h : MkI s I n t c0 p c K) : K.length = K.length := rfl
theorem keep44 {s : Sg} {i v : Int} : keepS [44] s (sA s 44 i v) := keepA _ s (by decide) _ _
theorem p6_mark {s : Sg} {y : Int} : y = -1 ∨ inb y 36 → ∃ s', fX6_mark s y = some s' ∧ keepS [44] s s' ∧ ∀ x, gA s' 44 x = if x = y ∧ y ≠ -1 then 1 else gA s 44 x := by
  intro h
  unfold fX6_mark fX6_mark_b12
  by_cases e : y = -1
  · rw [if_pos e]
    exact ⟨s, rfl, keepS.refl _ _, fun x => by simp [e]⟩
  · rw [if_neg e, gd_t (by omega)]
    exact ⟨_, rfl, keep44, fun x => by simp [gA_sA, e]⟩
theorem Laid.keep44 {s s' : Sg} {I : List Ist} {n : Nat} {t : Tm} (h : Laid s I n t) (hk : keepS [44] s s') : Laid s' I n t := by
  obtain ⟨h1, h2, h3, h4, h5⟩ := h
  refine ⟨h1.keep hk (by decide), h2.keep hk (by decide), h3.keep hk (by decide) (by decide), h4.keep hk (by decide), fun c q a b => ?_⟩
  obtain ⟨g1, g2, g3, g4⟩ := h5 c q a b
  refine ⟨(hk.A (by decide) _).trans g1, (hk.A (by decide) _).trans g2, fun e => ?_, fun j hj => ?_⟩
  · obtain ⟨a1, a2, a3, a4⟩ := g3 e
    exact ⟨(hk.A (by decide) _).trans a1, (hk.A (by decide) _).trans a2, (hk.A (by decide) _).trans a3, (hk.A (by decide) _).trans a4⟩
  · have := g4 j hj
    rw [hk.A (by simp; omega)]
    exact this
theorem MkI.step0 {s : Sg} {I : List Ist} {n : Nat} {t : Tm} {c0 p c : Nat} {K : List (Int × List Int)} (h : MkI s I n t c0 p c K) (hm : gA s 44 (9 * (c : Int) + p) ≠ 1) : MkI s I n t c0 p (c + 1) K := by
  obtain ⟨h1, h2, h3, h4, h5, h6⟩ := h
  refine ⟨h1, h2, h3, fun c' q a b d e => ?_, h5, fun x => ?_⟩
  · refine h4 c' q a b ?_ e
    rcases d with d | ⟨d1, d2⟩
    · exact Or.inl d
    · right; refine ⟨d1, ?_⟩
      rcases Nat.lt_or_ge c' c with f | f
      · exact f
      · exfalso; apply hm; rw [← d1, show c = c' by omega]; exact e
  · rw [h6]
    constructor
    · rintro ⟨c', q, a, b, d, e, f⟩
      exact ⟨c', q, a, b, by omega, e, f⟩
    · rintro ⟨c', q, a, b, d, e, f⟩
      refine ⟨c', q, a, b, ?_, e, f⟩
      rcases d with d | ⟨d1, d2⟩
      · exact Or.inl d
      · right; refine ⟨d1, ?_⟩
        rcases Nat.lt_or_ge c' c with f | f
        · exact f
        · exfalso; apply hm; rw [← d1, show c = c' by omega]; exact e
theorem MkI.next {s : Sg} {I : List Ist} {n : Nat} {t : Tm} {c0 p : Nat} {K : List (Int × List Int)} (h : MkI s I n t c0 p n K) : MkI s I n t c0 (p + 1) 0 K := by
  obtain ⟨h1, h2, h3, h4, h5, h6⟩ := h
  refine ⟨h1, h2, h3, fun c' q a b d e => h4 c' q a b (by omega) e, h5, fun x => ?_⟩
  rw [h6]
  constructor
  · rintro ⟨c', q, a, b, d, e, f⟩; exact ⟨c', q, a, b, by omega, e, f⟩
  · rintro ⟨c', q, a, b, d, e, f⟩; exact ⟨c', q, a, b, by omega, e, f⟩
/-- a marked goal is passed; those below it are marked -/
theorem MkI.step1 {s s' : Sg} {I : List Ist} {n : Nat} {t : Tm} {c0 p c : Nat} {K : List (Int × List Int)} (hI : ∀ i, i < I.length → okI n (ig I i)) (ht : okT t) (h9 : szT t ≤ 9) (hn : n ≤ 4) (h : MkI s I n t c0 p c K) (hc : c < n) (hp : p < szT t) (hm : gA s 44 (9 * (c : Int) + p) = 1) {y1 y2 : Int}
    (hs' : ∀ x, gA s' 44 x = if (x = y1 ∧ y1 ≠ -1) ∨ (x = y2 ∧ y2 ≠ -1) then 1 else gA s 44 x)
    (hy1 : match (prL I c (sub t p))[0]? with
      | none => y1 = -1
      | some g => ∃ q : Nat, p < q ∧ q < szT t ∧ sub t q = g.2 ∧ y1 = 9 * g.1 + q)
    (hy2 : match (prL I c (sub t p))[1]? with
      | none => y2 = -1
      | some g => ∃ q : Nat, p < q ∧ q < szT t ∧ sub t q = g.2 ∧ y2 = 9 * g.1 + q) :
    MkI s' I n t c0 p (c + 1) (if allN (fun q => decide (gA s 44 (9 * (c : Int) + q) = 0) || !decide (flat (sub t q) = flat (sub t p))) p = true then gk ((c : Int), sub t p) :: K else K) := by
  obtain ⟨h1, h2, h3, h4, h5, h6⟩ := h
  have hok := sub_ok t p ht hp
  -- a place that is marked anew: it is a part
  have new : ∀ x, gA s' 44 x = gA s 44 x ∨ (gA s' 44 x = 1 ∧ ∃ g ∈ prL I c (sub t p), ∃ q : Nat, p < q ∧ q < szT t ∧ sub t q = g.2 ∧ x = 9 * g.1 + q) := by
    intro x
    rw [hs']
    split
    · rename_i hx
      right
      refine ⟨rfl, ?_⟩
      rcases hx with ⟨hx, hne⟩ | ⟨hx, hne⟩
      · match hg : (prL I c (sub t p))[0]? with
        | none => rw [hg] at hy1; exact absurd hy1 hne
        | some g =>
          rw [hg] at hy1
          obtain ⟨q, q1, q2, q3, q4⟩ := hy1
          exact ⟨g, List.mem_of_getElem? hg, q, q1, q2, q3, by rw [hx, q4]⟩
      · match hg : (prL I c (sub t p))[1]? with
        | none => rw [hg] at hy2; exact absurd hy2 hne
        | some g =>
          rw [hg] at hy2
          obtain ⟨q, q1, q2, q3, q4⟩ := hy2
          exact ⟨g, List.mem_of_getElem? hg, q, q1, q2, q3, by rw [hx, q4]⟩
    · exact Or.inl rfl
  have grow : ∀ x, gA s 44 x = 1 → gA s' 44 x = 1 := by
    intro x hx
    rcases new x with e | ⟨e, -⟩
    · rw [e]; exact hx
    · exact e
  have same : ∀ c' q : Nat, c' < n → q < szT t → q ≤ p → gA s' 44 (9 * (c' : Int) + q) = gA s 44 (9 * (c' : Int) + q) := by
    intro c' q a b d
    rcases new (9 * (c' : Int) + q) with e | ⟨e, g, hg, q', q1, q2, q3, q4⟩
    · exact e
    · exfalso
      obtain ⟨y, z1, z2, z3, z4, z5⟩ := prL_lt hI hok hg
      omega
  refine ⟨?_, ?_, grow _ h3, ?_, ?_, ?_⟩
  · intro c' q a b
    rcases new (9 * (c' : Int) + q) with e | ⟨e, -⟩
    · rw [e]; exact h1 c' q a b
    · exact Or.inr e
  · intro c' q a b e
    rcases new (9 * (c' : Int) + q) with f | ⟨f, g, hg, q', q1, q2, q3, q4⟩
    · rw [f] at e; exact h2 c' q a b e
    · obtain ⟨y, z1, z2, z3, z4, z5⟩ := prL_lt hI hok hg
      have e1 : (c' : Int) = g.1 := by omega
      have e2 : q = q' := by omega
      rw [e1, e2, q3]
      exact rG_trans hI _ c0 t rfl ht _ (h2 c p hc hp hm) g hg
  · intro c' q a b d e g hg
    have hqp : q ≤ p := by omega
    rw [same c' q a b hqp] at e
    by_cases hlast : q = p ∧ c' = c
    · obtain ⟨rfl, rfl⟩ := hlast
      obtain ⟨j, hj⟩ := List.mem_iff_getElem?.mp hg
      have hl := prL_len hI (c := (c' : Int)) (t := sub t q)
      have hjl : j < 2 := by
        have := (List.getElem?_eq_some_iff.mp hj).1
        omega
      rcases okV hjl with rfl | rfl
      · rw [hj] at hy1
        obtain ⟨r, r1, r2, r3, r4⟩ := hy1
        refine ⟨r, r1, r2, r3, ?_⟩
        obtain ⟨y, z1, z2, z3, z4, z5⟩ := prL_lt hI hok hg
        rw [hs', if_pos (Or.inl ⟨r4.symm, by omega⟩)]
      · rw [hj] at hy2
        obtain ⟨r, r1, r2, r3, r4⟩ := hy2
        refine ⟨r, r1, r2, r3, ?_⟩
        obtain ⟨y, z1, z2, z3, z4, z5⟩ := prL_lt hI hok hg
        rw [hs', if_pos (Or.inr ⟨r4.symm, by omega⟩)]
    · obtain ⟨r, r1, r2, r3, r4⟩ := h4 c' q a b (by omega) e g hg
      exact ⟨r, r1, r2, r3, grow _ r4⟩
  · split
    · rename_i hA
      refine List.nodup_cons.mpr ⟨fun hin => ?_, h5⟩
      obtain ⟨c', q, a, b, d, e, f⟩ := (h6 _).mp hin
      have f1 : (c : Int) = c' := congrArg Prod.fst f
      have f2 : flat (sub t p) = flat (sub t q) := congrArg Prod.snd f
      have hcc : c' = c := by omega
      subst hcc
      have := (allN_iff.mp hA) q (by omega)
      simp [e, f2] at this
    · exact h5
  · intro x
    have old : (∃ c' q : Nat, c' < n ∧ q < szT t ∧ (q < p ∨ (q = p ∧ c' < c)) ∧ gA s 44 (9 * (c' : Int) + q) = 1 ∧ x = gk ((c' : Int), sub t q)) ↔ (∃ c' q : Nat, c' < n ∧ q < szT t ∧ (q < p ∨ (q = p ∧ c' < c)) ∧ gA s' 44 (9 * (c' : Int) + q) = 1 ∧ x = gk ((c' : Int), sub t q)) := by
      constructor
      · rintro ⟨c', q, a, b, d, e, f⟩; exact ⟨c', q, a, b, d, by rw [same c' q a b (by omega)]; exact e, f⟩
      · rintro ⟨c', q, a, b, d, e, f⟩; exact ⟨c', q, a, b, d, by rw [← same c' q a b (by omega)]; exact e, f⟩
    split
    · rename_i hA
      rw [List.mem_cons, h6, old]
      constructor
      · rintro (e | ⟨c', q, a, b, d, e, f⟩)
        · exact ⟨c, p, hc, hp, by omega, by rw [same c p hc hp (by omega)]; exact hm, e⟩
        · exact ⟨c', q, a, b, by omega, e, f⟩
      · rintro ⟨c', q, a, b, d, e, f⟩
        by_cases hlast : q = p ∧ c' = c
        · obtain ⟨rfl, rfl⟩ := hlast; exact Or.inl f
        · exact Or.inr ⟨c', q, a, b, by omega, e, f⟩
    · rename_i hA
      rw [h6, old]
      constructor
      · rintro ⟨c', q, a, b, d, e, f⟩; exact ⟨c', q, a, b, by omega, e, f⟩
      · rintro ⟨c', q, a, b, d, e, f⟩
        by_cases hlast : q = p ∧ c' = c
        · obtain ⟨rfl, rfl⟩ := hlast
          have : ¬ ∀ r, r < q → (decide (gA s 44 (9 * (c' : Int) + r) = 0) || !decide (flat (sub t r) = flat (sub t q))) = true := fun h => hA (allN_iff.mpr h)
          obtain ⟨r, hr⟩ := Classical.not_forall.mp this
          obtain ⟨hr1, hr2⟩ := Classical.not_imp.mp hr
          simp at hr2
          have hr1' : gA s 44 (9 * (c' : Int) + r) = 1 := (h1 c' r a (by omega)).resolve_left hr2.1
          refine ⟨c', r, a, by omega, by omega, by rw [same c' r a (by omega) (by omega)]; exact hr1', ?_⟩
          rw [f]; unfold gk; rw [hr2.2]
        · exact ⟨c', q, a, b, by omega, e, f⟩

