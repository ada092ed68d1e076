/-! the pure laws: B11 C2 B12 B13 C3 -/
set_option maxRecDepth 100000
/-! PURE: how many different goals (model), the loops -/
theorem p6_diff_L2 {from0 : Int} (hf0 : inb from0 36) : ∀ (m f k : Nat) (s : Sg), m < f → m + k = 36 → (∀ x : Nat, x < k → gA s 44 (x : Int) = if (x : Int) = from0 then 1 else 0) →
    ∃ s', fX6_differentGoals_L2 f s from0 k = fX6_differentGoals_L34 FU s' 0 0 ∧ keepS [44] s s' ∧ ∀ x : Nat, x < 36 → gA s' 44 (x : Int) = if (x : Int) = from0 then 1 else 0 := by
  intro m
  induction m with
  | zero =>
    intro f k s hf hk h
    obtain ⟨f, rfl⟩ : ∃ k, f = k + 1 := ⟨f - 1, by omega⟩
    refine ⟨s, ?_, keepS.refl _ _, fun x hx => h x (by omega)⟩
    rw [fX6_differentGoals_L2_s, fX6_differentGoals_b2, if_pos (by omega)]
  | succ m ih =>
    intro f k s hf hk h
    obtain ⟨f, rfl⟩ : ∃ k, f = k + 1 := ⟨f - 1, by omega⟩
    have go : ∀ v : Int, v = (if (k : Int) = from0 then 1 else 0) → ∃ s', fX6_differentGoals_b23 (fX6_differentGoals_L2 f) s from0 k k v = fX6_differentGoals_L34 FU s' 0 0 ∧ keepS [44] s s' ∧ ∀ x : Nat, x < 36 → gA s' 44 (x : Int) = if (x : Int) = from0 then 1 else 0 := by
      intro v hv
      unfold fX6_differentGoals_b23
      rw [gd_t (by omega), wr_id (by omega) (by omega)]
      obtain ⟨s', e, k', g⟩ := ih f (k + 1) (sA s 44 (k : Int) v) (by omega) (by omega) (fun x hx => by
        rw [gA_sA]
        by_cases hxk : x = k
        · subst hxk; simp [hv]
        · rw [if_neg (by omega)]; exact h x (by omega))
      exact ⟨s', e, keep44.trans k', g⟩
    rw [fX6_differentGoals_L2_s, fX6_differentGoals_b2, if_neg (by omega)]
    by_cases e : (k : Int) = from0
    · rw [if_neg (by simp [e])]; exact go 1 (by simp [e])
    · rw [if_pos e]; exact go 0 (by simp [e])
theorem p6_diff_L45 {I : List Ist} {n : Nat} {t : Tm} {c0 p : Nat} {R : Int → Sg → Int → Option (Int × Sg)} {K34 : Sg → Int → Int → Option (Int × Sg)} (hp : p < szT t) : ∀ (m f c : Nat) (s : Sg) (K : List (Int × List Int)), m < f → m + c = n → Laid s I n t → MkI s I n t c0 p c K → K.length ≤ 4 * p + c →
    ∃ s' K', fX6_differentGoals_L45 K34 f s (K.length : Int) p c = K34 s' (K'.length : Int) ((p : Int) + 1) ∧ keepS [44] s s' ∧ MkI s' I n t c0 p n K' ∧ K'.length ≤ 4 * p + n := by
  intro m
  induction m with
  | zero =>
    intro f c s K hf hm hL hM hKl
    obtain ⟨f, rfl⟩ : ∃ k, f = k + 1 := ⟨f - 1, by omega⟩
    have h9 := hL.2.2.1.2.1
    have hc : c = n := by omega
    subst hc
    refine ⟨s, K, ?_, keepS.refl _ _, hM, hKl⟩
    rw [fX6_differentGoals_L45_s, fX6_differentGoals_b45, hL.1.1, if_pos (by omega), wr_id (by omega) (by omega)]
  | succ m ih =>
    intro f c s K hf hm hL hM hKl
    obtain ⟨f, rfl⟩ : ∃ k, f = k + 1 := ⟨f - 1, by omega⟩
    have h9 := hL.2.2.1.2.1
    have ht := hL.2.2.1.2.2.1
    have hn := hL.1.2.1
    have hIi := fun i (hi : i < I.length) => (hL.1.2.2.2.2 i hi).1
    have hG : inb (9 * (c : Int) + p) 36 := by omega
    rw [fX6_differentGoals_L45_s, fX6_differentGoals_b45, hL.1.1, if_neg (by omega), wr9 (by omega) (by omega), gd_t hG]
    unfold fX6_differentGoals_b114
    by_cases hm1 : gA s 44 (9 * (c : Int) + p) = 1
    · rw [if_neg (by simp [hm1]), p6_isNew hL.2.2.1 hL.2.2.2.1 (show c < 4 by omega) hp, bd_s]
      have g4 := (hL.2.2.2.2 c p (by omega) hp).2.2.2
      have b0 := g4 0 (by omega)
      have b1 := g4 1 (by omega)
      rw [show (38 + 0 : Nat) = 38 from rfl] at b0
      rw [show (38 + 1 : Nat) = 39 from rfl] at b1
      have hok := sub_ok t p ht hp
      have ok1 : gA s 38 (9 * (c : Int) + p) = -1 ∨ inb (gA s 38 (9 * (c : Int) + p)) 36 := by
        revert b0
        match hg : (prL I c (sub t p))[0]? with
        | none => exact Or.inl
        | some g =>
          rintro ⟨q, q1, q2, q3, q4⟩
          obtain ⟨y, z1, z2, z3, z4, z5⟩ := prL_lt hIi hok (List.mem_of_getElem? hg)
          right; omega
      have ok2 : gA s 39 (9 * (c : Int) + p) = -1 ∨ inb (gA s 39 (9 * (c : Int) + p)) 36 := by
        revert b1
        match hg : (prL I c (sub t p))[1]? with
        | none => exact Or.inl
        | some g =>
          rintro ⟨q, q1, q2, q3, q4⟩
          obtain ⟨y, z1, z2, z3, z4, z5⟩ := prL_lt hIi hok (List.mem_of_getElem? hg)
          right; omega
      obtain ⟨s1, e1, k1, f1⟩ := p6_mark (s := s) ok1
      have h39 : gA s1 39 (9 * (c : Int) + p) = gA s 39 (9 * (c : Int) + p) := k1.A (by decide) _
      obtain ⟨s2, e2, k2, f2⟩ := p6_mark (s := s1) ok2
      have hall : ∀ x, gA s2 44 x = if (x = gA s 38 (9 * (c : Int) + p) ∧ gA s 38 (9 * (c : Int) + p) ≠ -1) ∨ (x = gA s 39 (9 * (c : Int) + p) ∧ gA s 39 (9 * (c : Int) + p) ≠ -1) then 1 else gA s 44 x := by
        intro x
        rw [f2, f1]
        by_cases a : x = gA s 39 (9 * (c : Int) + p) ∧ gA s 39 (9 * (c : Int) + p) ≠ -1
        · rw [if_pos a, if_pos (Or.inr a)]
        · rw [if_neg a]
          by_cases b : x = gA s 38 (9 * (c : Int) + p) ∧ gA s 38 (9 * (c : Int) + p) ≠ -1
          · rw [if_pos b, if_pos (Or.inl b)]
          · rw [if_neg b, if_neg (by rintro (q | q); exact b q; exact a q)]
      have hM' := hM.step1 hIi ht h9 hn (show c < n by omega) hp hm1 hall b0 b1
      have fin : ∀ (v : Int) (K' : List (Int × List Int)), (K'.length : Int) = (K.length : Int) + v → (v = 0 ∨ v = 1) → MkI s2 I n t c0 p (c + 1) K' → ∃ s' K'', fX6_differentGoals_b90 K34 (fX6_differentGoals_L45 K34 f) s p c (9 * (c : Int) + p) (K.length : Int) v = K34 s' (K''.length : Int) ((p : Int) + 1) ∧ keepS [44] s s' ∧ MkI s' I n t c0 p n K'' ∧ K''.length ≤ 4 * p + n := by
        intro v K' hl hv hMk
        unfold fX6_differentGoals_b90 fX6_differentGoals_b114
        rw [gd_t hG, e1, bd_s, gd_t hG, h39, e2, bd_s, wr_id (by omega) (by omega), wr_id (by omega) (by omega), ← hl]
        obtain ⟨s', K'', e, k, g, g2⟩ := ih f (c + 1) s2 K' (by omega) (by omega) (hL.keep44 (k1.trans k2)) hMk (by omega)
        exact ⟨s', K'', e, (k1.trans k2).trans k, g, g2⟩
      by_cases hA : allN (fun q => decide (gA s 44 (9 * (c : Int) + q) = 0) || !decide (flat (sub t q) = flat (sub t p))) p = true
      · rw [if_neg (fun q => b01_0.mp q hA)]
        rw [if_pos hA] at hM'
        exact fin 1 _ (by simp) (Or.inr rfl) hM'
      · rw [if_pos (b01_0.mpr hA)]
        rw [if_neg hA] at hM'
        exact fin 0 _ (by simp) (Or.inl rfl) hM'
    · rw [if_pos hm1, wr_id (by omega) (by omega)]
      exact ih f (c + 1) s K (by omega) (by omega) hL (hM.step0 hm1) (by omega)
theorem p6_diff_L34 {I : List Ist} {n : Nat} {t : Tm} {c0 : Nat} : ∀ (m f p : Nat) (s : Sg) (K : List (Int × List Int)), m < f → m + p = szT t → Laid s I n t → MkI s I n t c0 p 0 K → K.length ≤ 4 * p →
    ∃ s' K', fX6_differentGoals_L34 f s (K.length : Int) p = some ((K'.length : Int), s') ∧ keepS [44] s s' ∧ MkI s' I n t c0 (szT t) 0 K' := by
  intro m
  induction m with
  | zero =>
    intro f p s K hf hm hL hM hKl
    obtain ⟨f, rfl⟩ : ∃ k, f = k + 1 := ⟨f - 1, by omega⟩
    have hc : p = szT t := by omega
    subst hc
    refine ⟨s, K, ?_, keepS.refl _ _, hM⟩
    rw [fX6_differentGoals_L34_s, fX6_differentGoals_b34, hL.2.2.1.1, if_pos (by omega)]
  | succ m ih =>
    intro f p s K hf hm hL hM hKl
    obtain ⟨f, rfl⟩ : ∃ k, f = k + 1 := ⟨f - 1, by omega⟩
    rw [fX6_differentGoals_L34_s, fX6_differentGoals_b34, hL.2.2.1.1, if_neg (by omega)]
    have hn := hL.1.2.1
    obtain ⟨s1, K1, e1, k1, M1, l1⟩ := p6_diff_L45 (R := fun _ _ _ => none) (K34 := fX6_differentGoals_L34 f) (show p < szT t by omega) n FU 0 s K (by unfold FU; omega) (by omega) hL hM (by omega)
    rw [show ((0 : Nat) : Int) = 0 from rfl] at e1
    rw [e1]
    obtain ⟨s2, K2, e2, k2, M2⟩ := ih f (p + 1) s1 K1 (by omega) (by omega) (hL.keep44 k1) M1.next (by omega)
    exact ⟨s2, K2, e2, k1.trans k2, M2⟩
theorem p6_different {s : Sg} {I : List Ist} {n : Nat} {t : Tm} {c0 : Nat} (hL : Laid s I n t) (hc : c0 < n) :
    ∃ s', fX6_differentGoals s (9 * (c0 : Int)) = some (((dst (rG (res I c0 t)) : Nat) : Int), s') ∧ keepS [44] s s' := by
  have hn := hL.1.2.1
  have h9 := hL.2.2.1.2.1
  have ht := hL.2.2.1.2.2.1
  have hIi := fun i (hi : i < I.length) => (hL.1.2.2.2.2 i hi).1
  obtain ⟨s1, e1, k1, f1⟩ := p6_diff_L2 (from0 := 9 * (c0 : Int)) (by omega) 36 FU 0 s (by unfold FU; omega) (by omega) (fun x hx => by omega)
  have one : ∀ c' q : Nat, c' < n → q < szT t → (gA s1 44 (9 * (c' : Int) + q) = if c' = c0 ∧ q = 0 then 1 else 0) := by
    intro c' q a b
    have := f1 (9 * c' + q) (by omega)
    rw [show ((9 * c' + q : Nat) : Int) = 9 * (c' : Int) + q by omega] at this
    rw [this]
    by_cases e : c' = c0 ∧ q = 0
    · rw [if_pos (by omega), if_pos e]
    · rw [if_neg (by omega), if_neg e]
  have hM0 : MkI s1 I n t c0 0 0 [] := by
    refine ⟨fun c' q a b => ?_, fun c' q a b e => ?_, ?_, fun c' q a b d => by omega, List.nodup_nil, fun x => ?_⟩
    · rw [one c' q a b]; split
      · exact Or.inr rfl
      · exact Or.inl rfl
    · rw [one c' q a b] at e
      split at e
      · rename_i h
        rw [h.1, h.2, sub_0, rG_eq hIi ht]
        exact List.mem_cons_self
      · cases e
    · have := one c0 0 hc (szT_pos t)
      rw [if_pos ⟨rfl, rfl⟩] at this
      rw [← this]; congr 1
    · constructor
      · intro h; cases h
      · rintro ⟨c', q, a, b, d, -⟩; omega
  obtain ⟨s2, K, e2, k2, M⟩ := p6_diff_L34 (szT t) FU 0 s1 [] (by unfold FU; omega) (by omega) (hL.keep44 k1) hM0 (by simp)
  refine ⟨s2, ?_, k1.trans k2⟩
  unfold fX6_differentGoals
  rw [show ((0 : Nat) : Int) = 0 from rfl] at e1 e2
  rw [e1]
  rw [show (([] : List (Int × List Int)).length : Int) = 0 from rfl] at e2
  rw [e2]
  congr 2
  unfold dst
  obtain ⟨M1, M2, M3, M4, M5, M6⟩ := M
  rw [nodup_len M5 (dd_nodup _)]
  intro x
  rw [dd_mem, M6, List.mem_map]
  constructor
  · rintro ⟨c', q, a, b, d, e, f⟩
    exact ⟨_, M2 c' q a b e, f.symm⟩
  · rintro ⟨g, hg, rfl⟩
    have cl : ∀ (z : Nat) (c' q : Nat), c' < n → q < szT t → szT (sub t q) = z → gA s2 44 (9 * (c' : Int) + q) = 1 → ∀ y ∈ rG (res I c' (sub t q)), ∃ a b : Nat, a < n ∧ b < szT t ∧ gA s2 44 (9 * (a : Int) + b) = 1 ∧ y = ((a : Int), sub t b) := by
      intro z
      induction z using Nat.strongRecOn with
      | _ z ih =>
        intro c' q a b hz e y hy
        have hok := sub_ok t q ht b
        rw [rG_eq hIi hok] at hy
        rcases List.mem_cons.mp hy with h | h
        · exact ⟨c', q, a, b, e, h⟩
        · obtain ⟨l, hl, hyl⟩ := List.mem_flatten.mp h
          obtain ⟨g', hg', rfl⟩ := List.mem_map.mp hl
          obtain ⟨r, r1, r2, r3, r4⟩ := M4 c' q a b (by omega) e g' hg'
          obtain ⟨w, w1, w2, w3, w4, w5⟩ := prL_lt hIi hok hg'
          have hlt := sub_lt hok w2 w1
          have h1 : ((g'.1.toNat : Nat) : Int) = g'.1 := by omega
          refine ih (szT (sub t r)) (by rw [r3, w3]; omega) g'.1.toNat r (by omega) r2 rfl (by rw [h1]; exact r4) y ?_
          rw [h1, r3]; exact hyl
    obtain ⟨a, b, h1, h2, h3, h4⟩ := cl (szT (sub t 0)) c0 0 hc (szT_pos t) rfl (by rw [show 9 * (c0 : Int) + ((0 : Nat) : Int) = 9 * (c0 : Int) by omega]; exact M3) g (by rw [sub_0]; exact hg)
    exact ⟨a, b, h1, h2, by omega, h3, by rw [h4]⟩

set_option maxRecDepth 100000
/-! PURE: what there is, and what is told of it (all of it but the reading of a page) -/
/-- page; classes: how many, right above, above; instances; slots; what is seen (instance, what, so); books; what is kept (book, kinds, slots, what is seen) -/
abbrev As : Type := List Int × (Nat × (Nat → Nat) × (Nat → Nat)) × List Ist × (Nat → Option Tm) × List (Nat × Nat × Bool) × Nat × Option (Nat × List Int × (Nat → Option Tm) × List (Nat × Nat × Bool))
abbrev asP (A : As) : List Int := A.1
abbrev asN (A : As) : Nat := A.2.1.1
abbrev asR (A : As) : Nat → Nat := A.2.1.2.1
abbrev asA (A : As) : Nat → Nat := A.2.1.2.2
abbrev asI (A : As) : List Ist := A.2.2.1
abbrev asS (A : As) : Nat → Option Tm := A.2.2.2.1
abbrev asE (A : As) : List (Nat × Nat × Bool) := A.2.2.2.2.1
abbrev asB (A : As) : Nat := A.2.2.2.2.2.1
abbrev asK (A : As) : Option (Nat × List Int × (Nat → Option Tm) × List (Nat × Nat × Bool)) := A.2.2.2.2.2.2
def asP' (A : As) (p : List Int) : As := (p, A.2)
def asI' (A : As) (I : List Ist) : As := (A.1, A.2.1, I, A.2.2.2)
def asS' (A : As) (S : Nat → Option Tm) : As := (A.1, A.2.1, A.2.2.1, S, A.2.2.2.2)
def asE' (A : As) (E : List (Nat × Nat × Bool)) : As := (A.1, A.2.1, A.2.2.1, A.2.2.2.1, E, A.2.2.2.2.2)
def asK' (A : As) (K : Option (Nat × List Int × (Nat → Option Tm) × List (Nat × Nat × Bool))) : As := (A.1, A.2.1, A.2.2.1, A.2.2.2.1, A.2.2.2.2.1, A.2.2.2.2.2.1, K)
def okSl (S : Nat → Option Tm) : Prop := ∀ k, k < 4 → ∀ t, S k = some t → okT t ∧ szT t ≤ 9
def okSn (m : Nat) (E : List (Nat × Nat × Bool)) : Prop := E.length ≤ 6 ∧ ∀ e ∈ E, e.1 < m ∧ e.2.1 < 4
def okA (A : As) : Prop := ((asP A).length ≤ 84 ∧ ∀ c ∈ asP A, 32 ≤ c ∧ c ≤ 126) ∧ (asN A ≤ 4 ∧ ∀ c, c < asN A → asR A c < 16 ∧ asA A c < 16) ∧ ((asI A).length ≤ 6 ∧ ∀ i, i < (asI A).length → okI (asN A) (ig (asI A) i)) ∧ okSl (asS A) ∧ okSn (asI A).length (asE A) ∧ (asB A < 1000 ∧ (asB A = 0 ↔ (asI A).length = 0)) ∧
  ∀ b Ks S E, asK A = some (b, Ks, S, E) → b ≤ asB A ∧ okSl S ∧ E.length ≤ 6 ∧ (b = asB A → Ks.length = (asI A).length ∧ okSn (asI A).length E) ∧ ∀ k ∈ Ks, 0 ≤ k ∧ k ≤ 4
def slotOf (A : As) (k : Int) : Option Tm := if 0 ≤ k ∧ k < 4 then asS A k.toNat else none
abbrev isCl (A : As) (c : Int) : Prop := 0 ≤ c ∧ c < (asN A : Int)
abbrev isIn9 (A : As) (i : Int) : Prop := 0 ≤ i ∧ i < ((asI A).length : Int)
def pcN (N : Nat) : Nat := cntN N.testBit 16
/-- needs of whose class none other of the same variable has a class below -/
def plain (n : Nat) (ab : Nat → Nat) (N : Nat) : Nat := bitsOf (fun k => N.testBit k && allN (fun c => !N.testBit (2 * c + k % 2) || !(ab c).testBit (k / 2)) n) (2 * n)
def goalVal (A : As) (r : Rr) (w : Int) : Int := if w = 0 then rS r else if rS r = 1 then (if w = 1 then ((rQ r).length : Int) else if w = 2 then rW r else if w = 3 then ((dst (rG r) : Nat) : Int) else if w = 4 then rD r else if w = 5 then ((pcN (rN r) : Nat) : Int) else ((pcN (plain (asN A) (asA A) (rN r)) : Nat) : Int)) else -1
def sp_fits (A : As) (i k : Int) : Int := if isIn9 A i then (match slotOf A k with
  | none => -101
  | some t => b01 (fits (iH (ig (asI A) i.toNat)) t = true)) else -101
def sp_goal (A : As) (c k w : Int) : Int := if isCl A c then (match slotOf A k with
  | none => -101
  | some t => if 0 ≤ w ∧ w ≤ 6 then goalVal A (res (asI A) c t) w else -102) else -101
def sp_entry (A : As) (c k pl : Int) : Int := if isCl A c then (match slotOf A k with
  | none => -101
  | some t => if rS (res (asI A) c t) = 1 ∧ 0 ≤ pl ∧ pl < ((rQ (res (asI A) c t)).length : Int) then (rQ (res (asI A) c t)).getD pl.toNat 0 else -101) else -101
def needVal (A : As) (r : Rr) (k : Nat) : Int := if rS r = 1 then (if (plain (asN A) (asA A) (rN r)).testBit k = true then 2 else if (rN r).testBit k = true then 1 else 0) else 0
def sp_need (A : As) (c k nd v : Int) : Int := if isCl A c then (match slotOf A k with
  | none => -101
  | some t => if isCl A nd ∧ 0 ≤ v ∧ v ≤ 1 then needVal A (res (asI A) c t) (2 * nd + v).toNat else -102) else -101
/-! what the model's object says -/
def Slt6 (s : Sg) (k3 k4 : Nat) (S : Nat → Option Tm) : Prop := ∀ k : Nat, k < 4 → match S k with
  | none => gA s k4 (k : Int) = 0
  | some t => gA s k4 (k : Int) = (szT t : Int) ∧ ∀ p : Nat, p < szT t → gA s k3 (9 * (k : Int) + p) = ltr t p
def Sn6 (s : Sg) (k0 k1 k2 k3 : Nat) (E : List (Nat × Nat × Bool)) : Prop := gI s k0 = (E.length : Int) ∧ ∀ j : Nat, ∀ e, E[j]? = some e → gA s k1 (j : Int) = (e.1 : Int) ∧ gA s k2 (j : Int) = (e.2.1 : Int) ∧ gA s k3 (j : Int) = b01 (e.2.2 = true)
def R6 (s : Sg) (A : As) : Prop := okA A ∧ gI s 0 = (asB A : Int) ∧ Ins6 s (asN A) (asI A) ∧ Spc6 s (asI A) ∧ (∀ c : Nat, c < asN A → gA s 2 (c : Int) = (asR A c : Int) ∧ gA s 3 (c : Int) = (asA A c : Int)) ∧ Slt6 s 13 14 (asS A) ∧ Sn6 s 15 16 17 18 (asE A) ∧
  (gI s 19 = ((asP A).length : Int) ∧ ∀ j : Nat, ∀ c, (asP A)[j]? = some c → gA s 20 (j : Int) = c) ∧
  match asK A with
  | none => gI s 53 = 0
  | some (b, Ks, S, E) => gI s 53 = 1 ∧ gI s 54 = (b : Int) ∧ (b = asB A → ∀ j : Nat, ∀ v, Ks[j]? = some v → gA s 56 (j : Int) = v) ∧ Slt6 s 57 58 S ∧ Sn6 s 55 59 60 61 E
abbrev L6 : List Nat := [21, 22, 23, 24, 25, 26, 27, 28, 29, 30, 31, 32, 33, 34, 35, 36, 37, 38, 39, 40, 41, 42, 43, 44, 45, 46, 47, 48, 49, 50, 51, 52]
theorem Slt6.keep {s s' : Sg} {k3 k4 : Nat} {S : Nat → Option Tm} {L : List Nat} (h : Slt6 s k3 k4 S) (hk : keepS L s s') (h3 : k3 ∉ L) (h4 : k4 ∉ L) : Slt6 s' k3 k4 S := by
  intro k hk4
  have := h k hk4
  revert this
  cases S k with
  | none => intro q; exact (hk.A h4 _).trans q
  | some t => rintro ⟨a, b⟩; exact ⟨(hk.A h4 _).trans a, fun p hp => (hk.A h3 _).trans (b p hp)⟩
theorem Sn6.keep {s s' : Sg} {k0 k1 k2 k3 : Nat} {E : List (Nat × Nat × Bool)} {L : List Nat} (h : Sn6 s k0 k1 k2 k3 E) (hk : keepS L s s') (h0 : k0 ∉ L) (h1 : k1 ∉ L) (h2 : k2 ∉ L) (h3 : k3 ∉ L) : Sn6 s' k0 k1 k2 k3 E := by
  refine ⟨(hk.I h0).trans h.1, fun j e he => ?_⟩
  obtain ⟨a, b, c⟩ := h.2 j e he
  exact ⟨(hk.A h1 _).trans a, (hk.A h2 _).trans b, (hk.A h3 _).trans c⟩
theorem R6.keep {s s' : Sg} {A : As} (h : R6 s A) (hk : keepS L6 s s') : R6 s' A := by
  obtain ⟨h1, h2, h3, h4, h5, h6, h7, h8, h9⟩ := h
  refine ⟨h1, (hk.I (by decide)).trans h2, h3.keep hk (by decide), h4.keep hk (by decide), fun c hc => ⟨(hk.A (by decide) _).trans (h5 c hc).1, (hk.A (by decide) _).trans (h5 c hc).2⟩, h6.keep hk (by decide) (by decide), h7.keep hk (by decide) (by decide) (by decide) (by decide), ⟨(hk.I (by decide)).trans h8.1, fun j c hj => (hk.A (by decide) _).trans (h8.2 j c hj)⟩, ?_⟩
  revert h9
  cases asK A with
  | none => intro q; exact (hk.I (by decide)).trans q
  | some K =>
    obtain ⟨b, Ks, S, E⟩ := K
    rintro ⟨a1, a2, a3, a4, a5⟩
    exact ⟨(hk.I (by decide)).trans a1, (hk.I (by decide)).trans a2, fun e j v hj => (hk.A (by decide) _).trans (a3 e j v hj), a4.keep hk (by decide) (by decide), a5.keep hk (by decide) (by decide) (by decide) (by decide)⟩
theorem R6.h62 {s : Sg} {A : As} (h : R6 s A) (v : Int) : R6 (sI s 62 v) A := by
  obtain ⟨h1, h2, h3, h4, h5, h6, h7, h8, h9⟩ := h
  have hk : keepS [62] s (sI s 62 v) := keepI _ s (by decide) v
  refine ⟨h1, (hk.I (by decide)).trans h2, h3.keep hk (by decide), h4.keep hk (by decide), fun c hc => ⟨(hk.A (by decide) _).trans (h5 c hc).1, (hk.A (by decide) _).trans (h5 c hc).2⟩, h6.keep hk (by decide) (by decide), h7.keep hk (by decide) (by decide) (by decide) (by decide), ⟨(hk.I (by decide)).trans h8.1, fun j c hj => (hk.A (by decide) _).trans (h8.2 j c hj)⟩, ?_⟩
  revert h9
  cases asK A with
  | none => intro q; exact (hk.I (by decide)).trans q
  | some K =>
    obtain ⟨b, Ks, S, E⟩ := K
    rintro ⟨a1, a2, a3, a4, a5⟩
    exact ⟨(hk.I (by decide)).trans a1, (hk.I (by decide)).trans a2, fun e j v hj => (hk.A (by decide) _).trans (a3 e j v hj), a4.keep hk (by decide) (by decide), a5.keep hk (by decide) (by decide) (by decide) (by decide)⟩
theorem R6.kp {s s' : Sg} {A : As} {L : List Nat} (h : R6 s A) (hk : keepS L s s') (hL : ∀ k ∈ L, k ∈ L6) : R6 s' A := h.keep (hk.mono hL)

set_option maxRecDepth 100000
/-! PURE: goals told of (model) -/
theorem p6_laySlot_L {s0 : Sg} {t : Tm} {k : Nat} (hk4 : k < 4) (ht : okT t) (h9 : szT t ≤ 9) (hsl : ∀ p : Nat, p < szT t → gA s0 13 (9 * (k : Int) + p) = ltr t p) : ∀ (m f p : Nat) (s : Sg), m < f → m + p = szT t → keepS [32, 34] s0 s → gI s 34 = (szT t : Int) → (∀ q : Nat, q < p → gA s 32 (q : Int) = ltr t q) →
    ∃ s', fX6_laySlot_L12 f s k p = some s' ∧ keepS [32, 33, 34] s0 s' ∧ NowT s' t ∧ Szs s' t := by
  intro m
  induction m with
  | zero =>
    intro f p s hf hm hk h34 h
    obtain ⟨f, rfl⟩ : ∃ k, f = k + 1 := ⟨f - 1, by omega⟩
    have hN : NowT s t := ⟨h34, h9, ht, fun q hq => h q (by omega)⟩
    obtain ⟨s', e, k', S⟩ := p6_laySizes hN
    refine ⟨s', ?_, (hk.mono (by decide)).trans (k'.mono (by decide)), hN.keep k' (by decide) (by decide), S⟩
    rw [fX6_laySlot_L12_s, fX6_laySlot_b12, h34, if_pos (by omega), e]
    rfl
  | succ m ih =>
    intro f p s hf hm hk h34 h
    obtain ⟨f, rfl⟩ : ∃ k, f = k + 1 := ⟨f - 1, by omega⟩
    rw [fX6_laySlot_L12_s, fX6_laySlot_b12, h34, if_neg (by omega), wr9 hk4 (by omega), gd_t (by omega), gd_t (by omega), hk.A (by decide), hsl p (by omega), wr_id (by omega) (by omega)]
    exact ih f (p + 1) _ (by omega) (by omega) (hk.sA (by decide) _ _) h34 (fun q hq => by
      rw [gA_sA]
      by_cases e : q = p
      · subst e; simp
      · rw [if_neg (by omega)]; exact h q (by omega))
theorem p6_laySlot {s : Sg} {A : As} {k : Nat} {t : Tm} (h : R6 s A) (hk4 : k < 4) (hs : asS A k = some t) : ∃ s', fX6_laySlot s k = some s' ∧ keepS [32, 33, 34] s s' ∧ NowT s' t ∧ Szs s' t := by
  obtain ⟨h1, h2, h3, h4, h5, h6, h7, h8, h9⟩ := h
  have := h6 k hk4
  rw [hs] at this
  obtain ⟨ht, hz⟩ := h1.2.2.2.1 k hk4 t hs
  unfold fX6_laySlot
  rw [gd_t (by omega), this.1]
  exact p6_laySlot_L hk4 ht hz this.2 (szT t) FU 0 _ (by unfold FU; omega) (by omega) (keepI _ s (by decide) _) rfl (fun q hq => by omega)
theorem p6_layHead_L {s0 : Sg} {t : Tm} {i : Nat} (hH : Hd6 s0 i t) : ∀ (m f p : Nat) (s : Sg), m < f → m + p = szT t → keepS [32, 34] s0 s → gI s 34 = (szT t : Int) → (∀ q : Nat, q < p → gA s 32 (q : Int) = ltr t q) →
    ∃ s', fX6_layHead_L12 f s i p = some s' ∧ keepS [32, 33, 34] s0 s' ∧ NowT s' t ∧ Szs s' t := by
  obtain ⟨hi, ht, h5, h8, h7⟩ := hH
  intro m
  induction m with
  | zero =>
    intro f p s hf hm hk h34 h
    obtain ⟨f, rfl⟩ : ∃ k, f = k + 1 := ⟨f - 1, by omega⟩
    have hN : NowT s t := ⟨h34, by omega, ht, fun q hq => h q (by omega)⟩
    obtain ⟨s', e, k', S⟩ := p6_laySizes hN
    refine ⟨s', ?_, (hk.mono (by decide)).trans (k'.mono (by decide)), hN.keep k' (by decide) (by decide), S⟩
    rw [fX6_layHead_L12_s, fX6_layHead_b12, h34, if_pos (by omega), e]
    rfl
  | succ m ih =>
    intro f p s hf hm hk h34 h
    obtain ⟨f, rfl⟩ : ∃ k, f = k + 1 := ⟨f - 1, by omega⟩
    rw [fX6_layHead_L12_s, fX6_layHead_b12, h34, if_neg (by omega), wr_id (x := 5 * (i : Int)) (by omega) (by omega), wr_id (x := 5 * (i : Int) + (p : Int)) (by omega) (by omega), gd_t (by omega), gd_t (by omega), hk.A (by decide), h7 p (by omega), wr_id (by omega) (by omega)]
    exact ih f (p + 1) _ (by omega) (by omega) (hk.sA (by decide) _ _) h34 (fun q hq => by
      rw [gA_sA]
      by_cases e : q = p
      · subst e; simp
      · rw [if_neg (by omega)]; exact h q (by omega))
theorem p6_layHead {s : Sg} {i : Nat} {t : Tm} (hH : Hd6 s i t) : ∃ s', fX6_layHead s i = some s' ∧ keepS [32, 33, 34] s s' ∧ NowT s' t ∧ Szs s' t := by
  have h5 := hH.2.2.1
  unfold fX6_layHead
  rw [gd_t (by have := hH.1; omega), hH.2.2.2.1]
  exact p6_layHead_L hH (szT t) FU 0 _ (by unfold FU; omega) (by omega) (keepI _ s (by decide) _) rfl (fun q hq => by omega)
theorem rN_lt {I : List Ist} {n : Nat} (hI : ∀ i, i < I.length → okI n (ig I i)) : ∀ (z : Nat) (c : Int) (t : Tm), szT t = z → okT t → 0 ≤ c → c < n → rN (res I c t) < 2 ^ (2 * n) := by
  intro z
  induction z using Nat.strongRecOn with
  | _ z ih =>
    intro c t hz ht h0 hc
    cases hv : isV t
    · rcases tk_cases I c t with e | e | ⟨k, e⟩
      · rcases res_bad (c := c) hI ht hv (by omega) with ⟨_, q⟩ | ⟨_, q⟩ <;> rw [q, rN_rBad] <;> exact Nat.two_pow_pos _
      · rcases res_bad (c := c) hI ht hv (by omega) with ⟨_, q⟩ | ⟨_, q⟩ <;> rw [q, rN_rBad] <;> exact Nat.two_pow_pos _
      · rw [res_node hI ht hv e, rN_rNode]
        have hm : ∀ g ∈ prL I c t, rN (res I g.1 g.2) < 2 ^ (2 * n) := by
          intro g hg
          obtain ⟨q, q1, q2, q3, q4, q5⟩ := prL_lt hI ht hg
          have := sub_lt ht q2 q1
          exact ih (szT g.2) (by rw [q3]; omega) g.1 g.2 rfl (by rw [q3]; exact sub_ok t q ht q2) q4 q5
        have : ∀ (l : List (Int × Tm)) (o : Nat), o < 2 ^ (2 * n) → (∀ g ∈ l, rN (res I g.1 g.2) < 2 ^ (2 * n)) → neL (l.map fun g => res I g.1 g.2) o < 2 ^ (2 * n) := by
          intro l
          induction l with
          | nil => intro o ho _; exact ho
          | cons g l ihl =>
            intro o ho hl
            simp only [List.map, neL]
            exact ihl _ (Nat.or_lt_two_pow ho (hl g (by simp))) (fun g' hg' => hl g' (by simp [hg']))
        exact this _ 0 (Nat.two_pow_pos _) hm
    · rw [res_var hI ht hv, rN_rNeed]
      have hva : vaT t < 2 := by cases t <;> simp_all [isV, okT, vaT]
      exact Nat.pow_lt_pow_right (by omega) (by omega)
/-- needs as the model looks at them -/
def plain8 (ab : Nat → Nat) (N : Nat) (k e : Nat) : Bool := !(N.testBit e && (decide (e % 2 = k % 2) && (ab (e / 2)).testBit (k / 2)))
theorem plain_8 {n : Nat} (hn : n ≤ 4) {ab : Nat → Nat} {N : Nat} (hN : N < 2 ^ (2 * n)) : bitsOf (fun k => N.testBit k && allN (plain8 ab N k) 8) 8 = plain n ab N := by
  have hi : ∀ k, 2 * n ≤ k → N.testBit k = false := fun k hk => Nat.testBit_lt_two_pow (Nat.lt_of_lt_of_le hN (Nat.pow_le_pow_right (by omega) hk))
  apply Nat.eq_of_testBit_eq
  intro k
  unfold plain
  rw [bitsOf_bit, bitsOf_bit]
  by_cases hk : k < 2 * n
  · have hk8 : k < 8 := by omega
    simp only [hk, hk8, decide_true, Bool.true_and]
    congr 1
    rw [Bool.eq_iff_iff, allN_iff, allN_iff]
    constructor
    · intro h c hc
      have := h (2 * c + k % 2) (by omega)
      unfold plain8 at this
      rw [show (2 * c + k % 2) % 2 = k % 2 by omega, show (2 * c + k % 2) / 2 = c by omega] at this
      revert this
      cases N.testBit (2 * c + k % 2) <;> cases (ab c).testBit (k / 2) <;> simp
    · intro h e he
      unfold plain8
      by_cases h2 : e % 2 = k % 2
      · by_cases h3 : e < 2 * n
        · have := h (e / 2) (by omega)
          rw [show 2 * (e / 2) + k % 2 = e by omega] at this
          revert this
          cases N.testBit e <;> cases (ab (e / 2)).testBit (k / 2) <;> simp
        · rw [hi e (by omega)]; simp
      · simp [h2]
  · rw [hi k (by omega)]
    simp [hk]
theorem allN_s (P : Nat → Bool) (n : Nat) : allN P (n + 1) = (allN P n && P n) := rfl
theorem lt_256 {n N : Nat} (hn : n ≤ 4) (hN : N < 2 ^ (2 * n)) : N < 256 := by
  have h1 : 2 ^ (2 * n) ≤ 2 ^ 8 := Nat.pow_le_pow_right (by omega) (by omega)
  have h2 : (2 : Nat) ^ 8 = 256 := by decide
  omega
theorem p6_plain_L20 {s : Sg} {n : Nat} {ab : Nat → Nat} (hn : n ≤ 4) (hab : ∀ c : Nat, c < n → gA s 3 (c : Int) = (ab c : Int) ∧ ab c < 16) {N : Nat} (hN : N < 2 ^ (2 * n)) {K : Sg → Int → Int → Int → Option Int} {b : Int} {k : Nat} (hk : k < 8) : ∀ (m f e : Nat), m < f → m + e = 8 →
    fX6_plainOf_L20 K f s N b k (b01 ((N.testBit k && allN (plain8 ab N k) e) = true)) e = K s N (ior b (if (N.testBit k && allN (plain8 ab N k) 8) = true then ishl 1 (k : Int) else 0)) ((k : Int) + 1) := by
  have h8 : N < 256 := lt_256 hn hN
  intro m
  induction m with
  | zero =>
    intro f e hf he
    obtain ⟨f, rfl⟩ : ∃ k, f = k + 1 := ⟨f - 1, by omega⟩
    rw [fX6_plainOf_L20_s, fX6_plainOf_b20, if_pos (by omega), show e = 8 by omega]
    unfold fX6_plainOf_b95
    rw [wr_id (by omega) (by omega)]
    split
    · rename_i h0; rw [if_neg (b01_0.mp h0)]
    · rename_i h0
      rw [if_pos]
      rcases Bool.eq_false_or_eq_true (N.testBit k && allN (plain8 ab N k) 8) with q | q
      · exact q
      · exact absurd (b01_0.mpr (by simp [q])) h0
  | succ m ih =>
    intro f e hf he
    obtain ⟨f, rfl⟩ : ∃ k, f = k + 1 := ⟨f - 1, by omega⟩
    have ih' := ih f (e + 1) (by omega) (by omega)
    rw [show ((e + 1 : Nat) : Int) = (e : Int) + 1 by omega] at ih'
    generalize K s N (ior b (if (N.testBit k && allN (plain8 ab N k) 8) = true then ishl 1 (k : Int) else 0)) ((k : Int) + 1) = T at ih' ⊢
    simp only [allN_s] at ih'
    rw [fX6_plainOf_L20_s, fX6_plainOf_b20, if_neg (by omega), p6_isIn (by omega) (by omega), bd_s, p_irm (by omega) (by omega) (by omega) (by omega), p_irm (by omega) (by omega) (by omega) (by omega), p_idv (by omega) (by omega) (by omega) (by omega), p_idv (by omega) (by omega) (by omega) (by omega)]
    unfold fX6_plainOf_b69 fX6_plainOf_b73 fX6_plainOf_b74
    rw [wr_id (by omega) (by omega)]
    have hp8 : plain8 ab N k e = (!(N.testBit e && (decide (e % 2 = k % 2) && (ab (e / 2)).testBit (k / 2)))) := rfl
    simp only [hp8] at ih'
    rw [show (e : Int) / 2 = ((e / 2 : Nat) : Int) by omega, show (k : Int) / 2 = ((k / 2 : Nat) : Int) by omega, gd_t (by omega)]
    have em : ((e : Int) % 2 = (k : Int) % 2) ↔ e % 2 = k % 2 := by omega
    simp only [em]
    cases hbe : N.testBit e
    · rcases Bool.eq_false_or_eq_true (allN (plain8 ab N k) e) with hA | hA <;> cases hbk : N.testBit k <;> simp [b01, hA, hbe, hbk] at ih' ⊢ <;> exact ih'
    · have hen : e / 2 < n := by
        rcases Nat.lt_or_ge e (2 * n) with q | q
        · omega
        · rw [Nat.testBit_lt_two_pow (Nat.lt_of_lt_of_le hN (Nat.pow_le_pow_right (by omega) q))] at hbe; cases hbe
      obtain ⟨a1, a2⟩ := hab (e / 2) hen
      rw [a1, p6_isIn (by omega) (by omega), bd_s]
      rcases Bool.eq_false_or_eq_true (allN (plain8 ab N k) e) with hA | hA <;> cases hbk : N.testBit k <;> by_cases h2 : e % 2 = k % 2 <;> cases h3 : (ab (e / 2)).testBit (k / 2) <;> simp [b01, hA, hbe, hbk, h2, h3] at ih' ⊢ <;> exact ih'
theorem p6_plain_L4 {s : Sg} {n : Nat} {ab : Nat → Nat} (hn : n ≤ 4) (hab : ∀ c : Nat, c < n → gA s 3 (c : Int) = (ab c : Int) ∧ ab c < 16) {N : Nat} (hN : N < 2 ^ (2 * n)) : ∀ (m f k : Nat), m < f → m + k = 8 →
    fX6_plainOf_L4 f s N ((bitsOf (fun k => N.testBit k && allN (plain8 ab N k) 8) k : Nat) : Int) k = some ((plain n ab N : Nat) : Int) := by
  have h8 : N < 256 := lt_256 hn hN
  intro m
  induction m with
  | zero =>
    intro f k hf hk
    obtain ⟨f, rfl⟩ : ∃ k, f = k + 1 := ⟨f - 1, by omega⟩
    rw [fX6_plainOf_L4_s, fX6_plainOf_b4, if_pos (by omega), show k = 8 by omega, plain_8 hn hN]
  | succ m ih =>
    intro f k hf hk
    obtain ⟨f, rfl⟩ : ∃ k, f = k + 1 := ⟨f - 1, by omega⟩
    have ih' := ih f (k + 1) (by omega) (by omega)
    rw [show ((k + 1 : Nat) : Int) = (k : Int) + 1 by omega] at ih'
    rw [fX6_plainOf_L4_s, fX6_plainOf_b4, if_neg (by omega), p6_isIn (by omega) (by omega), bd_s]
    have := p6_plain_L20 hn hab hN (K := fX6_plainOf_L4 f) (b := ((bitsOf (fun k => N.testBit k && allN (plain8 ab N k) 8) k : Nat) : Int)) (k := k) (by omega) 8 FU 0 (by unfold FU; omega) (by omega)
    have e0 : (N.testBit k && allN (plain8 ab N k) 0) = N.testBit k := by simp [allN]
    simp only [e0] at this
    rw [show ((0 : Nat) : Int) = 0 from rfl] at this
    rw [this, ← ih', ← ior_bit (by omega)]
theorem p6_plainOf {s : Sg} {n : Nat} {ab : Nat → Nat} (hn : n ≤ 4) (hab : ∀ c : Nat, c < n → gA s 3 (c : Int) = (ab c : Int) ∧ ab c < 16) {N : Nat} (hN : N < 2 ^ (2 * n)) : fX6_plainOf s N = some ((plain n ab N : Nat) : Int) := by
  have := p6_plain_L4 hn hab hN 8 FU 0 (by unfold FU; omega) (by omega)
  exact this
theorem plain_lt {n : Nat} {ab : Nat → Nat} {N : Nat} (hn : n ≤ 4) : plain n ab N < 256 := lt_256 hn (bitsOf_lt _ _)

set_option maxRecDepth 100000
/-! PURE: the model's answers on goals -/
theorem p6_isClass {s : Sg} {A : As} (h : R6 s A) (a : Int) : fX6_isClass s a = some (b01 (isCl A a)) := by
  have h1 := h.2.2.1.1
  have h2 := h.2.2.1.2.1
  unfold fX6_isClass
  rw [h1, wr_id (by omega) (by omega), p6_within, bd_s]
  congr 1
  unfold b01 isCl
  by_cases e : 0 ≤ a ∧ a < (asN A : Int)
  · rw [if_pos e, if_pos (by omega)]
  · rw [if_neg e, if_neg (by omega)]
theorem p6_isInstance {s : Sg} {A : As} (h : R6 s A) (a : Int) : fX6_isInstance s a = some (b01 (isIn9 A a)) := by
  have h1 := h.2.2.1.2.2.1
  have h2 := h.2.2.1.2.2.2.1
  unfold fX6_isInstance
  rw [h1, wr_id (by omega) (by omega), p6_within, bd_s]
  congr 1
  unfold b01 isIn9
  by_cases e : 0 ≤ a ∧ a < ((asI A).length : Int)
  · rw [if_pos e, if_pos (by omega)]
  · rw [if_neg e, if_neg (by omega)]
theorem p6_isFilled {s : Sg} {A : As} (h : R6 s A) (a : Int) : fX6_isFilled s a = some (b01 ((slotOf A a).isSome = true)) := by
  unfold fX6_isFilled fX6_isFilled_b22 fX6_isFilled_b23 slotOf
  rw [p6_within, bd_s]
  by_cases e : 0 ≤ a ∧ a ≤ 3
  · have e' : 0 ≤ a ∧ a < 4 := by omega
    rw [if_neg (fun q => b01_0.mp q e), gd_t (by omega)]
    simp only [if_pos e']
    obtain ⟨k, rfl⟩ : ∃ k : Nat, a = (k : Int) := ⟨a.toNat, by omega⟩
    have := h.2.2.2.2.2.1 k (by omega)
    rw [Int.toNat_natCast]
    revert this
    cases asS A k with
    | none => intro q; rw [q, if_pos (by omega), gd_t (by simp)]; rfl
    | some t => rintro ⟨q, -⟩; have := szT_pos t; rw [q, if_neg (by omega), gd_t (by simp)]; rfl
  · have e' : ¬ (0 ≤ a ∧ a < 4) := by omega
    rw [if_pos (b01_0.mpr e), gd_t (by simp)]
    simp only [if_neg e']
    rfl
theorem slotOf_o {A : As} {a : Int} {t : Tm} (h : slotOf A a = some t) : ∃ k : Nat, a = (k : Int) ∧ k < 4 ∧ asS A k = some t := by
  unfold slotOf at h
  split at h
  · rename_i e
    exact ⟨a.toNat, by omega, by omega, h⟩
  · cases h
theorem p6_laid {s : Sg} {A : As} {a : Int} {t : Tm} (h : R6 s A) (hs : slotOf A a = some t) : ∃ s1 s2, fX6_laySlot s a = some s1 ∧ fX6_layGoals s1 = some s2 ∧ keepS L6 s s2 ∧ R6 s2 A ∧ Laid s2 (asI A) (asN A) t := by
  obtain ⟨k, rfl, hk, hs⟩ := slotOf_o hs
  obtain ⟨s1, e1, k1, N1, S1⟩ := p6_laySlot h hk hs
  have h1 := h.kp k1 (by decide)
  obtain ⟨s2, e2, k2, g2⟩ := p6_layGoals h1.2.2.1 h1.2.2.2.1 N1 S1
  have h2 := h1.kp k2 (by decide)
  exact ⟨s1, s2, e1, e2, (k1.mono (by decide)).trans (k2.mono (by decide)), h2, h2.2.2.1, h2.2.2.2.1, N1.keep k2 (by decide) (by decide), S1.keep k2 (by decide), g2⟩
theorem Laid.at0 {s : Sg} {I : List Ist} {n : Nat} {t : Tm} {c : Nat} (h : Laid s I n t) (hc : c < n) : gA s 36 (9 * (c : Int)) = rS (res I c t) ∧ (rS (res I c t) = 1 → gA s 40 (9 * (c : Int)) = ((rQ (res I c t)).length : Int) ∧ gA s 41 (9 * (c : Int)) = rW (res I c t) ∧ gA s 42 (9 * (c : Int)) = rD (res I c t) ∧ gA s 43 (9 * (c : Int)) = (rN (res I c t) : Int)) := by
  obtain ⟨g1, g2, g3, g4⟩ := h.2.2.2.2 c 0 hc (szT_pos t)
  rw [sub_0, show 9 * (c : Int) + ((0 : Nat) : Int) = 9 * (c : Int) by omega] at g1 g3
  exact ⟨g1, g3⟩
theorem Laid.ok {s : Sg} {I : List Ist} {n : Nat} {t : Tm} (h : Laid s I n t) : ∀ i, i < I.length → okI n (ig I i) := fun i hi => (h.1.2.2.2.2 i hi).1
theorem Laid.rok {s : Sg} {I : List Ist} {n : Nat} {t : Tm} (h : Laid s I n t) {c : Nat} (hc : c < n) : rOK 9 (res I c t) ∧ rN (res I c t) < 2 ^ (2 * n) :=
  ⟨(res_ok h.1.2.1 h.ok _ (c : Int) t rfl h.2.2.1.2.2.1 (by omega) (by omega)).mono h.2.2.1.2.1, rN_lt h.ok _ (c : Int) t rfl h.2.2.1.2.2.1 (by omega) (by omega)⟩
theorem R6.ab {s : Sg} {A : As} (h : R6 s A) : ∀ c : Nat, c < asN A → gA s 3 (c : Int) = (asA A c : Int) ∧ asA A c < 16 := fun c hc => ⟨(h.2.2.2.2.1 c hc).2, (h.1.2.1.2 c hc).2⟩
theorem p6_goalNow {s : Sg} {A : As} {t : Tm} {c : Nat} {w : Int} (h : R6 s A) (hL : Laid s (asI A) (asN A) t) (hc : c < asN A) : ∃ s', fX6_goalNow s c w = some (goalVal A (res (asI A) c t) w, s') ∧ keepS [44] s s' := by
  have hn := hL.1.2.1
  obtain ⟨a1, a2⟩ := hL.at0 hc
  obtain ⟨b1, b2⟩ := hL.rok hc
  have b3 := lt_256 hn b2
  unfold fX6_goalNow goalVal
  rw [wr_id (by omega) (by omega), a1]
  by_cases h0 : w = 0
  · rw [if_neg (by simp [h0]), gd_t (by omega), if_pos h0]
    exact ⟨s, rfl, keepS.refl _ _⟩
  · rw [if_pos h0, gd_t (by omega), if_neg h0]
    by_cases h1 : rS (res (asI A) c t) = 1
    · rw [if_pos h1, if_pos h1]
      obtain ⟨c1, c2, c3, c4⟩ := a2 h1
      rw [c1, c2, c3, c4]
      by_cases w1 : w = 1
      · rw [if_pos w1, if_pos w1, gd_t (by omega)]; exact ⟨s, rfl, keepS.refl _ _⟩
      rw [if_neg w1, if_neg w1]
      by_cases w2 : w = 2
      · rw [if_pos w2, if_pos w2, gd_t (by omega)]; exact ⟨s, rfl, keepS.refl _ _⟩
      rw [if_neg w2, if_neg w2]
      by_cases w3 : w = 3
      · rw [if_pos w3, if_pos w3]
        obtain ⟨s', e, k⟩ := p6_different hL hc
        rw [e, bd_s]; exact ⟨s', rfl, k⟩
      rw [if_neg w3, if_neg w3]
      by_cases w4 : w = 4
      · rw [if_pos w4, if_pos w4, gd_t (by omega)]; exact ⟨s, rfl, keepS.refl _ _⟩
      rw [if_neg w4, if_neg w4]
      by_cases w5 : w = 5
      · rw [if_pos w5, if_pos w5, gd_t (by omega), p6_size (by omega)]; exact ⟨s, rfl, keepS.refl _ _⟩
      rw [if_neg w5, if_neg w5, gd_t (by omega), p6_plainOf hn h.ab b2, bd_s, p6_size (by have := plain_lt (ab := asA A) (N := rN (res (asI A) c t)) hn; omega)]
      exact ⟨s, rfl, keepS.refl _ _⟩
    · rw [if_neg h1, if_neg h1]; exact ⟨s, rfl, keepS.refl _ _⟩
theorem p6_goal {s : Sg} {A : As} (h : R6 s A) (c k w : Int) : ∃ s', fX6_goal s c k w = some (sp_goal A c k w, s') ∧ R6 s' A := by
  unfold fX6_goal sp_goal fX6_goal_b16
  rw [p6_isClass h, bd_s]
  by_cases hc : isCl A c
  · rw [if_neg (fun q => b01_0.mp q hc), if_pos hc, p6_isFilled h, bd_s]
    cases hs : slotOf A k with
    | none => rw [if_neg (by simp [b01])]; exact ⟨s, rfl, h⟩
    | some t =>
      rw [if_pos (by simp [b01]), p6_within, bd_s]
      simp only
      by_cases hw : 0 ≤ w ∧ w ≤ 6
      · rw [if_pos (fun q => b01_0.mp q hw), if_pos hw]
        obtain ⟨s1, s2, e1, e2, k2, h2, L⟩ := p6_laid h hs
        obtain ⟨cn, rfl⟩ : ∃ cn : Nat, c = (cn : Int) := ⟨c.toNat, by have := hc.1; omega⟩
        obtain ⟨s3, e3, k3⟩ := p6_goalNow (w := w) h2 L (show cn < asN A by have := hc.2; omega)
        rw [e1, bd_s, e2, bd_s, e3, bd_s]
        exact ⟨s3, rfl, h2.kp k3 (by decide)⟩
      · rw [if_neg (fun q => q (b01_0.mpr hw)), if_neg hw]; exact ⟨s, rfl, h⟩
  · rw [if_pos (b01_0.mpr hc), if_neg hc]; exact ⟨s, rfl, h⟩
theorem p6_entry {s : Sg} {A : As} (h : R6 s A) (c k w : Int) : ∃ s', fX6_entry s c k w = some (sp_entry A c k w, s') ∧ R6 s' A := by
  unfold fX6_entry sp_entry fX6_entry_b16 fX6_entry_b72 fX6_entry_b74
  rw [p6_isClass h, bd_s]
  by_cases hc : isCl A c
  · rw [if_neg (fun q => b01_0.mp q hc), if_pos hc, p6_isFilled h, bd_s]
    cases hs : slotOf A k with
    | none => rw [if_neg (by simp [b01])]; exact ⟨s, rfl, h⟩
    | some t =>
      rw [if_pos (by simp [b01])]
      simp only
      obtain ⟨s1, s2, e1, e2, k2, h2, L⟩ := p6_laid h hs
      obtain ⟨cn, rfl⟩ : ∃ cn : Nat, c = (cn : Int) := ⟨c.toNat, by have := hc.1; omega⟩
      have hcn : cn < asN A := by have := hc.2; omega
      have hn := L.1.2.1
      obtain ⟨a1, a2⟩ := L.at0 hcn
      have hsz := (L.rok hcn).1.2.1
      rw [show (2 : Nat) ^ 9 = 512 by decide] at hsz
      rw [e1, bd_s, e2, bd_s, wr_id (by omega) (by omega), gd_t (by omega), a1]
      by_cases h1 : rS (res (asI A) cn t) = 1
      · rw [if_neg (by simp [h1]), gd_t (by omega), (a2 h1).1, wr_id (by omega) (by omega), p6_within, bd_s]
        by_cases hw : 0 ≤ w ∧ w ≤ ((rQ (res (asI A) cn t)).length : Int) - 1
        · rw [if_neg (fun q => b01_0.mp q hw), if_pos ⟨h1, hw.1, by omega⟩]
          obtain ⟨wn, rfl⟩ : ∃ wn : Nat, w = (wn : Int) := ⟨w.toNat, by omega⟩
          rw [p6_entryAt L hcn h1 (by omega), bd_s, Int.toNat_natCast]
          exact ⟨s2, rfl, h2⟩
        · rw [if_pos (b01_0.mpr hw), if_neg (by omega)]; exact ⟨s2, rfl, h2⟩
      · rw [if_pos h1, if_neg (fun q => h1 q.1)]; exact ⟨s2, rfl, h2⟩
  · rw [if_pos (b01_0.mpr hc), if_neg hc]; exact ⟨s, rfl, h⟩
theorem p6_need {s : Sg} {A : As} (h : R6 s A) (c k d v : Int) : ∃ s', fX6_need s c k d v = some (sp_need A c k d v, s') ∧ R6 s' A := by
  unfold fX6_need sp_need fX6_need_b16 fX6_need_b37
  rw [p6_isClass h, bd_s]
  by_cases hc : isCl A c
  · rw [if_neg (fun q => b01_0.mp q hc), if_pos hc, p6_isFilled h, bd_s]
    cases hs : slotOf A k with
    | none => rw [if_neg (by simp [b01])]; exact ⟨s, rfl, h⟩
    | some t =>
      rw [if_pos (by simp [b01]), p6_isClass h, bd_s]
      simp only
      by_cases hd : isCl A d
      · rw [if_neg (fun q => b01_0.mp q hd), p6_within, bd_s]
        by_cases hv : 0 ≤ v ∧ v ≤ 1
        · rw [if_pos (fun q => b01_0.mp q hv), if_pos ⟨hd, hv⟩]
          obtain ⟨s1, s2, e1, e2, k2, h2, L⟩ := p6_laid h hs
          obtain ⟨cn, rfl⟩ : ∃ cn : Nat, c = (cn : Int) := ⟨c.toNat, by have := hc.1; omega⟩
          have hcn : cn < asN A := by have := hc.2; omega
          have hn := L.1.2.1
          obtain ⟨a1, a2⟩ := L.at0 hcn
          obtain ⟨b1, b2⟩ := L.rok hcn
          rw [e1, bd_s, e2, bd_s, wr_id (by omega) (by omega), gd_t (by omega), a1]
          have hd2 := hd.2
          have hd1 := hd.1
          have wn : wr (wr (2 * d) + v) = (((2 * d + v).toNat : Nat) : Int) := by rw [wr_id (x := 2 * d) (by omega) (by omega), wr_id (by omega) (by omega)]; omega
          have key : ∀ N : Nat, N < 2 ^ (2 * asN A) → ∃ s', fX6_need_b77 s2 d v (N : Int) = some ((if (plain (asN A) (asA A) N).testBit (2 * d + v).toNat = true then 2 else if N.testBit (2 * d + v).toNat = true then 1 else 0), s') ∧ R6 s' A := by
            intro N hN
            unfold fX6_need_b77 fX6_need_b120
            have := plain_lt (ab := asA A) (N := N) hn
            have := lt_256 hn hN
            rw [p6_plainOf hn h2.ab hN, bd_s, wn, p6_isIn (by omega) (by omega), bd_s, p6_isIn (by omega) (by omega), bd_s]
            cases (plain (asN A) (asA A) N).testBit (2 * d + v).toNat <;> cases N.testBit (2 * d + v).toNat <;> exact ⟨s2, rfl, h2⟩
          unfold needVal
          by_cases h1 : rS (res (asI A) cn t) = 1
          · rw [if_neg (by simp [h1]), gd_t (by omega), (a2 h1).2.2.2, if_pos h1]
            exact key _ b2
          · rw [if_pos h1, if_neg h1]
            have := key 0 (Nat.two_pow_pos _)
            rw [show ((0 : Nat) : Int) = 0 from rfl] at this
            have z : plain (asN A) (asA A) 0 = 0 := by unfold plain; rw [bitsOf_0]; intro i hi; simp
            rw [z] at this
            simp only [Nat.zero_testBit, Bool.false_eq_true, if_false] at this
            exact this
        · rw [if_neg (fun q => q (b01_0.mpr hv)), if_neg (fun q => hv q.2)]; exact ⟨s, rfl, h⟩
      · rw [if_pos (b01_0.mpr hd), if_neg (fun q => hd q.1)]; exact ⟨s, rfl, h⟩
  · rw [if_pos (b01_0.mpr hc), if_neg hc]; exact ⟨s, rfl, h⟩
theorem p6_fits_op {s : Sg} {A : As} (h : R6 s A) (i k : Int) : ∃ s', fX6_fits s i k = some (sp_fits A i k, s') ∧ R6 s' A := by
  unfold fX6_fits sp_fits fX6_fits_b16 fX6_fits_b38
  rw [p6_isInstance h, bd_s]
  by_cases hc : isIn9 A i
  · rw [if_neg (fun q => b01_0.mp q hc), if_pos hc, p6_isFilled h, bd_s]
    cases hs : slotOf A k with
    | none => rw [if_neg (by simp [b01])]; exact ⟨s, rfl, h⟩
    | some t =>
      rw [if_pos (by simp [b01])]
      simp only
      obtain ⟨kn, rfl, hk, hs⟩ := slotOf_o hs
      obtain ⟨s1, e1, k1, N1, S1⟩ := p6_laySlot h hk hs
      have h1 := h.kp k1 (by decide)
      obtain ⟨cn, rfl⟩ : ∃ cn : Nat, i = (cn : Int) := ⟨i.toNat, by have := hc.1; omega⟩
      have hcn : cn < (asI A).length := by have := hc.2; omega
      obtain ⟨s2, e2, k2⟩ := p6_fits N1 S1 (h1.2.2.1.2.2.2.2 cn hcn).2.1 (szT_pos t)
      rw [show ((0 : Nat) : Int) = 0 from rfl, sub_0] at e2
      rw [e1, bd_s, e2, bd_s, Int.toNat_natCast]
      have h2 := h1.kp k2 (by decide)
      cases fits (iH (ig (asI A) cn)) t <;> exact ⟨s2, rfl, h2⟩
  · rw [if_pos (b01_0.mpr hc), if_neg hc]; exact ⟨s, rfl, h⟩

set_option maxRecDepth 100000
/-! PURE: a loop's law; what is told of instances -/
theorem loopN {σ R : Type} (L : Nat → Nat → σ → Option R) (N : Nat) (inv : Nat → σ → Prop) (E : σ → Option R)
    (step : ∀ f k x, k < N → inv k x → ∃ x', inv (k + 1) x' ∧ L (f + 1) k x = L f (k + 1) x') (done : ∀ f x, inv N x → L (f + 1) N x = E x) :
    ∀ (f k : Nat) (x : σ), N - k < f → k ≤ N → inv k x → ∃ x', inv N x' ∧ L f k x = E x' := by
  intro f
  induction f with
  | zero => intro k x h; omega
  | succ f ih =>
    intro k x hf hk hi
    by_cases e : k = N
    · subst e; exact ⟨x, hi, done f x hi⟩
    · obtain ⟨x', h1, h2⟩ := step f k x (by omega) hi
      obtain ⟨x'', h3, h4⟩ := ih (k + 1) x' (by omega) (by omega) h1
      exact ⟨x'', h3, h2.trans h4⟩
/-- a loop that leaves what it is at known -/
theorem loopE {σ R : Type} (L : Nat → Nat → σ → Option R) (N : Nat) (val : Nat → σ) (r : Option R)
    (step : ∀ f k, k < N → L (f + 1) k (val k) = L f (k + 1) (val (k + 1))) (done : ∀ f, L (f + 1) N (val N) = r) (h : N < FU) : L FU 0 (val 0) = r := by
  obtain ⟨x', h1, h2⟩ := loopN L N (fun k x => x = val k) (fun _ => r) (fun f k x hk hx => ⟨val (k + 1), rfl, by rw [hx]; exact step f k hk⟩) (fun f x hx => by rw [hx]; exact done f) FU 0 (val 0) (by omega) (by omega) rfl
  exact h2
def bI (b : Bool) : Int := if b then 1 else 0
theorem bI_b01 {p : Prop} [Decidable p] : b01 p = bI (decide p) := by unfold b01 bI; by_cases h : p <;> simp [h]
theorem bI_b (b : Bool) : b01 (b = true) = bI b := by cases b <;> rfl
theorem bI_0 {b : Bool} : bI b = 0 ↔ b = false := by cases b <;> simp [bI]
theorem bI_1 {b : Bool} : bI b = 1 ↔ b = true := by cases b <;> simp [bI]
theorem bI_or {b : Bool} : bI b = 0 ∨ bI b = 1 := by cases b <;> simp [bI]
theorem cntN_s (P : Nat → Bool) (k : Nat) : ((cntN P (k + 1) : Nat) : Int) = ((cntN P k : Nat) : Int) + bI (P k) := by
  simp only [cntN, bI]; split <;> omega
theorem anyN_s (P : Nat → Bool) (n : Nat) : anyN P (n + 1) = (anyN P n || P n) := rfl
def instOf (I : List Ist) (c : Int) : Nat := cntN (fun i => decide (iO (ig I i) = c)) I.length
def unsnd (I : List Ist) : Nat := cntN (fun i => !snd9 (ig I i)) I.length
def filldN (S : Nat → Option Tm) : Nat := cntN (fun k => (S k).isSome) 4
def likeS (S : Nat → Option Tm) (k e : Nat) : Bool := decide ((S k).map flat = (S e).map flat)
def diffT (S : Nat → Option Tm) : Nat := cntN (fun k => (S k).isSome && allN (fun e => !likeS S k e) k) 4
/-- whether a kind answers so -/
def cld (kd w : Nat) : Bool := if w = 0 then decide (kd = 3) else if w = 1 then decide (kd ≠ 2) else if w = 2 then decide (kd = 0 ∨ kd = 3) else decide (kd = 0 ∨ kd = 4)
def sOK1 (i kd : Nat) (e : Nat × Nat × Bool) : Bool := !decide (e.1 = i) || (cld kd e.2.1 == e.2.2)
def srt (E : List (Nat × Nat × Bool)) (i : Nat) : Nat := bitsOf (fun kd => E.all (sOK1 i kd)) 5
def yesN (B w : Nat) : Nat := cntN (fun kd => B.testBit kd && cld kd w) 5
def worstN (B w : Nat) : Nat := if pcN B - yesN B w < yesN B w then yesN B w else pcN B - yesN B w
def askR (B : Nat) : Nat → Int × Int
  | 0 => (-1, 268435456)
  | w + 1 => if ((worstN B w : Nat) : Int) < (askR B w).2 then ((w : Int), ((worstN B w : Nat) : Int)) else askR B w
def askS (B : Nat) : Int := if B = 0 then -1 else (askR B 4).1
def gvn (ab : Nat → Nat) (x : Ist) (nd : Nat) : Bool := anyN (fun j => decide (((cg x j).2) = nd % 2) && (decide ((cg x j).1 = ((nd / 2 : Nat) : Int)) || (ab (cg x j).1.toNat).testBit (nd / 2))) (iC x).length
def lck1 (A : As) (x : Ist) (r : Rr) : Bool := decide (rS r = 1) && allN (fun nd => !(rN r).testBit nd || gvn (asA A) x nd) 8
def lck (A : As) (x : Ist) : Nat := bitsOf (fun c => (asR A (iO x).toNat).testBit c && !lck1 A x (res (asI A) (c : Int) (iH x))) (asN A)
def aboutV (A : As) (c w : Int) : Int := if w = 0 then (asR A c.toNat : Int) else if w = 1 then (asA A c.toNat : Int) else ((instOf (asI A) c : Nat) : Int)
def sp_about (A : As) (c w : Int) : Int := if isCl A c then (if 0 ≤ w ∧ w ≤ 2 then aboutV A c w else -102) else -101
def instV (A : As) (i : Nat) (w : Int) : Int := if w = 0 then iK (ig (asI A) i) else if w = 1 then iO (ig (asI A) i) else if w = 2 then (szT (iH (ig (asI A) i)) : Int) else if w = 3 then ((iC (ig (asI A) i)).length : Int) else if w = 4 then bI (snd9 (ig (asI A) i)) else if w = 5 then ((srt (asE A) i : Nat) : Int) else if w = 6 then askS (srt (asE A) i) else ((lck A (ig (asI A) i) : Nat) : Int)
def sp_instance (A : As) (i w : Int) : Int := if isIn9 A i then (if 0 ≤ w ∧ w ≤ 7 then instV A i.toNat w else -102) else -101
def sp_as (A : As) (i k : Int) : Int := if isIn9 A i then (if 0 ≤ k ∧ k ≤ 4 then (if k = 0 ∨ iK (ig (asI A) i.toNat) = k ∨ (k = 3 ∧ iK (ig (asI A) i.toNat) = 4) then i else -1) else -102) else -101

