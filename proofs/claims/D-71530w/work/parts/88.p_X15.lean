/-! the pure laws: X15 X16 X17 X18 -/
set_option maxRecDepth 100000
/-! PURE: class DictProof: what a proof's object tells -/
/-- what is read of a proof with something taken -/
def ndR (h : hS) (p a pa kk len : Nat) (fa : Int → Option Nat) : Prop := hQ h (some p) [(10, 2)] = some (some a) ∧ hI h (some a) [(1, 5), (2, 5), (3, 5), (4, 5), (5, 5)] = some (len : Int) ∧ hQ h (some p) [(10, 3)] = some (some pa) ∧ (∀ i : Nat, i < len → aQ h (some pa) 5 (i : Int) = some (fa (i : Int))) ∧ hI h (some a) [(1, 0), (2, 0), (3, 0), (4, 0), (5, 0)] = some (kk : Int)
def fndV (h : hS) (I : List Ist) (p : Nat) (c : Int) (t : Tm) (g : Nat) : Prop := isV t = true ∧ res I c t = rNeed c t ∧ hQ h (some p) [(10, 2)] = some none ∧ hQ h (some p) [(10, 0)] = some (some g)
def fndN (h : hS) (I : List Ist) (n f p : Nat) (c : Int) (t : Tm) (g kk : Nat) (L : List (Int × Tm)) : Prop := ∃ (a pa : Nat) (fa : Int → Option Nat), kk < 6 ∧ L.length ≤ 2 ∧ ndR h p a pa kk L.length fa ∧ hQ h (some p) [(10, 0)] = some (some g) ∧ res I c t = rNode (kk : Int) c t (L.map fun g => res I g.1 g.2) ∧ ∀ (j : Nat) (e : Int × Tm), L[j]? = some e → okT e.2 ∧ szT e.2 < szT t ∧ (0 ≤ e.1 ∧ e.1 < (n : Int)) ∧ rS (res I e.1 e.2) = 1 ∧ ∃ q, fa (j : Int) = some q ∧ isP h I f q e.1 e.2 ∧ hC h (some q) = some 10
theorem isP.found {h : hS} {I : List Ist} {n f p : Nat} {c : Int} {t : Tm} (h6 : I.length ≤ 6) (hI9 : ∀ i, i < I.length → okI n (ig I i)) (ot : okT t) (P : isP h I (f + 1) p c t) (h1 : rS (res I c t) = 1) :
    ∃ g, isG h g c t ∧ (fndV h I p c t g ∨ ∃ kk L, (∀ e, e ∈ L → ∃ q, 0 < q ∧ q < szT t ∧ e.2 = sub t q) ∧ fndN h I n f p c t g kk L) := by
  obtain ⟨g, G, r⟩ := P
  refine ⟨g, G, ?_⟩
  rcases r with ⟨v, e⟩ | ⟨v, w, e⟩ | ⟨v, kk, a, pa, fa, hk, Pa, e2, e3, r⟩
  · obtain ⟨r0, -, r2, -⟩ := rdP e
    exact Or.inl ⟨v, res_var hI9 ot v, r2, r0⟩
  · exfalso
    have rb := res_eq hI9 ot (c := c)
    rw [if_neg (by rw [v]; simp)] at rb
    rcases w with w | w
    · rw [if_pos w] at rb; rw [rb, rS_rBad] at h1; omega
    · rw [if_neg (by omega), if_pos w] at rb; rw [rb, rS_rBad] at h1; omega
  · right
    have rb := res_eq hI9 ot (c := c)
    rw [if_neg (by rw [v]; simp), if_neg (by omega), if_neg (by omega), hk, Int.toNat_natCast] at rb
    obtain ⟨hkk, -⟩ := tk_ge hk
    have okx := hI9 kk hkk
    have l2 : (iC (ig I kk)).length ≤ 2 := okx.2.2.2.2.1
    obtain ⟨pl, pq⟩ := prts_lt hI9 ot hk
    obtain ⟨r0, -, r2, r3, -, -⟩ := rdP e2
    obtain ⟨_, _, _, ⟨q0, -, -, -, -, q5, -, -⟩, -, -⟩ := Pa.rd okx.k
    refine ⟨kk, prts I kk t, fun e he => ?_, a, pa, fa, by omega, by omega, ⟨r2, by rw [pl]; exact q5, r3, fun i hi => ?_, q0⟩, r0, rb, fun j e he => ?_⟩
    · obtain ⟨q, q1, q2, q3, -⟩ := prts_mem hI9 ot hk he
      exact ⟨q, q1, q2, q3⟩
    · have A : arQ h 5 (prts I kk t).length pa fa := e3
      exact A.q (by omega) (by omega)
    · have hj : j < (prts I kk t).length := (List.getElem?_eq_some_iff.mp he).1
      obtain ⟨q, q0, q1, -, qe⟩ := pq j (by omega)
      have cv := (okx.2.2.2.2.2 j (by omega)).1
      obtain ⟨z, z1, z2⟩ := r j e he
      rw [rb, rS_rNode] at h1
      have := stL_all _ h1 (res I e.1 e.2) (List.mem_map.mpr ⟨e, List.mem_of_getElem? he, rfl⟩)
      rw [qe] at he
      cases he
      exact ⟨sub_ok t q ot q1, sub_lt ot q1 q0, cv, this, z, z1, z2, z2.c.1⟩
theorem drop_s {α : Type} {L : List α} {i : Nat} {e : α} (h : L[i]? = some e) : L.drop i = e :: L.drop (i + 1) := by
  obtain ⟨l, q⟩ := List.getElem?_eq_some_iff.mp h
  rw [List.drop_eq_getElem_cons l, q]
theorem ltL {α : Type} {L : List α} {i : Nat} (h : i < L.length) : ∃ e, L[i]? = some e := ⟨_, List.getElem?_eq_getElem h⟩
/-- so many numbers in it -/
def szL (I : List Ist) (L : List (Int × Tm)) : Nat := (L.map fun e => (rQ (res I e.1 e.2)).length).sum
theorem szL_c (I : List Ist) (e : Int × Tm) (L : List (Int × Tm)) : szL I (e :: L) = (rQ (res I e.1 e.2)).length + szL I L := by simp [szL]
theorem rQ_len (I : List Ist) (kk c : Int) (t : Tm) (L : List (Int × Tm)) : (rQ (rNode kk c t (L.map fun g => res I g.1 g.2))).length = 1 + szL I L := by
  rw [rQ_rNode, List.length_cons, List.length_flatten, List.map_map, List.map_map]
  unfold szL
  rw [Nat.add_comm]
  rfl
theorem need_of {h : hS} {g : Nat} {c : Int} {t : Tm} (G : isG h g c t) (ot : okT t) (hv : isV t = true) (hc : 0 ≤ c ∧ c < 4) : fX9_need h (some g) = some (10 + 2 * c + (vaT t : Int)) := by
  obtain ⟨b, e, T⟩ := G
  obtain ⟨r0, r1, -, -⟩ := rdG e
  unfold fX9_need
  rw [r0, bd_s, r1, bd_s, gd_t T.c, p_variable T ot, bd_s]
  cases t with
  | var v =>
    have hw : @LT.lt Nat instLTNat v 2 := ot
    show some (wr (wr (10 + wr (2 * c)) + (v : Int))) = some (10 + 2 * c + (v : Int))
    rw [wr_id (x := 2 * c) (by omega) (by omega), wr_id (x := 10 + 2 * c) (by omega) (by omega), wr_id (by omega) (by omega)]
  | num c => cases hv
  | mulL k t => cases hv
  | add t u => cases hv
  | mulR t k => cases hv
section FND
variable {h : hS} {I : List Ist} {n : Nat}
theorem p_size10 (h6 : I.length ≤ 6) (hn : n ≤ 4) (hI9 : ∀ i, i < I.length → okI n (ig I i)) : ∀ (d p : Nat) (c : Int) (t : Tm), okT t → szT t ≤ 9 → (0 ≤ c ∧ c < (n : Int)) → isP h I d p c t → rS (res I c t) = 1 → fX10_size d h (some p) = some ((rQ (res I c t)).length : Int) := by
  intro d
  induction d with
  | zero => intro p c t _ _ _ P; exact P.elim
  | succ d ih =>
    intro p c t ot h9 hc P h1
    obtain ⟨g, G, r⟩ := P.found h6 hI9 ot h1
    have rok := (res_ok hn hI9 (szT t) c t rfl ot hc.1 hc.2).2.1
    have p9 : 2 ^ szT t ≤ 512 := Nat.pow_le_pow_right (n := 2) (by omega) h9
    show fX10_size_L4 (fX10_size d) FU h (some p) 1 0 = _
    rcases r with ⟨hv, re, r2, r0⟩ | ⟨kk, L, -, a, pa, fa, hk6, l2, ⟨r2, r5, r3, ra, rn⟩, r0, re, parts⟩
    · obtain ⟨m, hm⟩ := FU_3
      rw [hm, fX10_size_L4_s]
      unfold fX10_size_b4 fX10_size_b40
      rw [r2, bd_s, re]
      rfl
    · rw [re, rQ_len] at rok ⊢
      have main : ∀ (m f i acc : Nat), m < f → m + i = L.length → acc + szL I (L.drop i) ≤ 1000 → fX10_size_L4 (fX10_size d) f h (some p) (acc : Int) (i : Int) = some (((acc + szL I (L.drop i) : Nat)) : Int) := by
        intro m
        induction m with
        | zero =>
          intro f i acc hf hi hb
          obtain ⟨f, rfl⟩ : ∃ x, f = x + 1 := ⟨f - 1, by omega⟩
          rw [fX10_size_L4_s]
          unfold fX10_size_b4 fX10_size_b40
          rw [r2, bd_s]; simp only [ifN]
          rw [bd_s, r5, bd_s, if_pos (by omega), List.drop_of_length_le (by omega)]
          rfl
        | succ m im =>
          intro f i acc hf hi hb
          obtain ⟨f, rfl⟩ : ∃ x, f = x + 1 := ⟨f - 1, by omega⟩
          obtain ⟨e, he⟩ := ltL (L := L) (i := i) (by omega)
          obtain ⟨oe, ze, ce, fe, q, qe, Pq, cq⟩ := parts i e he
          rw [drop_s he, szL_c] at hb ⊢
          rw [fX10_size_L4_s]
          unfold fX10_size_b4
          rw [r2, bd_s]; simp only [ifN]
          rw [bd_s, r5, bd_s, if_neg (by omega), r3, bd_s, ra i (by omega), bd_s, qe, gd_t cq, ih q e.1 e.2 oe (by omega) ce Pq fe, bd_s, wr_id (x := (acc : Int) + _) (by omega) (by omega), wr_id (x := (i : Int) + 1) (by omega) (by omega)]
          have := im f (i + 1) (acc + (rQ (res I e.1 e.2)).length) (by omega) (by omega) (by omega)
          rw [Nat.add_assoc] at this
          exact this
      have := main L.length FU 0 1 (by unfold FU; omega) (by omega) (by rw [List.drop_zero]; omega)
      rw [List.drop_zero] at this
      exact this
theorem dpL_b : ∀ (l : List Rr) (o : Int), 0 ≤ o → o ≤ 9 → (∀ r ∈ l, 0 ≤ rD r ∧ rD r ≤ 9) → 0 ≤ dpL l o ∧ dpL l o ≤ 9 := by
  intro l
  induction l with
  | nil => intro o h0 h1 _; exact ⟨h0, h1⟩
  | cons r l ih =>
    intro o h0 h1 hr
    have := hr r (List.mem_cons_self ..)
    refine ih _ ?_ ?_ (fun x hx => hr x (List.mem_cons_of_mem _ hx)) <;> (unfold mmax; split <;> omega)
theorem p_depth10 (h6 : I.length ≤ 6) (hn : n ≤ 4) (hI9 : ∀ i, i < I.length → okI n (ig I i)) : ∀ (d p : Nat) (c : Int) (t : Tm), okT t → szT t ≤ 9 → (0 ≤ c ∧ c < (n : Int)) → isP h I d p c t → rS (res I c t) = 1 → fX10_depth d h (some p) = some (rD (res I c t)) := by
  intro d
  induction d with
  | zero => intro p c t _ _ _ P; exact P.elim
  | succ d ih =>
    intro p c t ot h9 hc P h1
    obtain ⟨g, G, r⟩ := P.found h6 hI9 ot h1
    show fX10_depth_L4 (fX10_depth d) FU h (some p) 0 0 = _
    rcases r with ⟨hv, re, r2, r0⟩ | ⟨kk, L, -, a, pa, fa, hk6, l2, ⟨r2, r5, r3, ra, rn⟩, r0, re, parts⟩
    · obtain ⟨m, hm⟩ := FU_3
      rw [hm, fX10_depth_L4_s]
      unfold fX10_depth_b4 fX10_depth_b42
      rw [r2, bd_s, re]
      rfl
    · rw [re, rD_rNode]
      have bb : ∀ r ∈ L.map (fun g => res I g.1 g.2), 0 ≤ rD r ∧ rD r ≤ 9 := by
        intro r hr
        obtain ⟨e, he, rfl⟩ := List.mem_map.mp hr
        obtain ⟨j, he⟩ := List.mem_iff_getElem?.mp he
        obtain ⟨oe, ze, ce, -⟩ := parts j e he
        have := (res_ok hn hI9 (szT e.2) e.1 e.2 rfl oe ce.1 ce.2).2.2.2.1
        omega
      obtain ⟨b0, b1⟩ := dpL_b _ 0 (by omega) (by omega) bb
      have main : ∀ (m f i : Nat) (acc : Int), m < f → m + i = L.length → dpL ((L.drop i).map fun g => res I g.1 g.2) acc = dpL (L.map fun g => res I g.1 g.2) 0 → fX10_depth_L4 (fX10_depth d) f h (some p) acc (i : Int) = some (dpL (L.map fun g => res I g.1 g.2) 0 + 1) := by
        intro m
        induction m with
        | zero =>
          intro f i acc hf hi hb
          obtain ⟨f, rfl⟩ : ∃ x, f = x + 1 := ⟨f - 1, by omega⟩
          rw [List.drop_of_length_le (by omega)] at hb
          have hb : acc = _ := hb
          rw [fX10_depth_L4_s]
          unfold fX10_depth_b4 fX10_depth_b42
          rw [r2, bd_s]; simp only [ifN]
          rw [bd_s, r5, bd_s, if_pos (by omega), hb, wr_id (by omega) (by omega)]
        | succ m im =>
          intro f i acc hf hi hb
          obtain ⟨f, rfl⟩ : ∃ x, f = x + 1 := ⟨f - 1, by omega⟩
          obtain ⟨e, he⟩ := ltL (L := L) (i := i) (by omega)
          obtain ⟨oe, ze, ce, fe, q, qe, Pq, cq⟩ := parts i e he
          rw [drop_s he, List.map_cons] at hb
          rw [fX10_depth_L4_s]
          unfold fX10_depth_b4
          rw [r2, bd_s]; simp only [ifN]
          rw [bd_s, r5, bd_s, if_neg (by omega), r3, bd_s, ra i (by omega), bd_s, qe, gd_t cq, ih q e.1 e.2 oe (by omega) ce Pq fe, bd_s, wr_id (x := (i : Int) + 1) (by omega) (by omega)]
          exact im f (i + 1) _ (by omega) (by omega) hb
      exact main L.length FU 0 0 (by unfold FU; omega) (by omega) (by rw [List.drop_zero])
theorem neL_b : ∀ (l : List Rr) (o : Nat), o < 256 → (∀ r ∈ l, rN r < 256) → neL l o < 256 := by
  intro l
  induction l with
  | nil => intro o h1 _; exact h1
  | cons r l ih =>
    intro o h1 hr
    exact ih _ (Nat.or_lt_two_pow (n := 8) h1 (hr r (List.mem_cons_self ..))) (fun x hx => hr x (List.mem_cons_of_mem _ hx))
theorem p_needs10 (h6 : I.length ≤ 6) (hn : n ≤ 4) (hI9 : ∀ i, i < I.length → okI n (ig I i)) : ∀ (d p : Nat) (c : Int) (t : Tm), okT t → szT t ≤ 9 → (0 ≤ c ∧ c < (n : Int)) → isP h I d p c t → rS (res I c t) = 1 → fX10_needs d h (some p) = some ((rN (res I c t) : Nat) : Int) := by
  intro d
  induction d with
  | zero => intro p c t _ _ _ P; exact P.elim
  | succ d ih =>
    intro p c t ot h9 hc P h1
    obtain ⟨g, G, r⟩ := P.found h6 hI9 ot h1
    show fX10_needs_B (fX10_needs d) h (some p) = _
    unfold fX10_needs_B fX10_needs_b23
    rcases r with ⟨hv, re, r2, r0⟩ | ⟨kk, L, -, a, pa, fa, hk6, l2, ⟨r2, r5, r3, ra, rn⟩, r0, re, parts⟩
    · have gc : hC h (some g) = some 9 := by obtain ⟨b, e, -⟩ := G; exact (rdG e).2.2.2
      have vb : vaT t < 2 := by cases t <;> first | exact ot | simp [vaT]
      rw [r2, bd_s]
      simp only [ifN]
      rw [r0, bd_s, gd_t gc, need_of G ot hv ⟨hc.1, by omega⟩, bd_s, wr_id (by omega) (by omega)]
      obtain ⟨m, hm⟩ := FU_3
      rw [hm, fX10_needs_L26_s]
      unfold fX10_needs_b26 fX10_needs_b62
      rw [r2, bd_s, re, rN_rNeed]
      simp only [ifN]
      rw [show (10 + 2 * c + (vaT t : Int) - 10) = ((2 * c.toNat + vaT t : Nat) : Int) by omega, p_one_shl (by omega)]
    · rw [r2, bd_s, re, rN_rNode]
      simp only [ifN]
      have bb : ∀ r ∈ L.map (fun g => res I g.1 g.2), rN r < 256 := by
        intro r hr
        obtain ⟨e, he, rfl⟩ := List.mem_map.mp hr
        obtain ⟨j, he⟩ := List.mem_iff_getElem?.mp he
        obtain ⟨oe, ze, ce, -⟩ := parts j e he
        exact (res_ok hn hI9 (szT e.2) e.1 e.2 rfl oe ce.1 ce.2).2.2.2.2
      have main : ∀ (m f i acc : Nat), m < f → m + i = L.length → acc < 256 → fX10_needs_L26 (fX10_needs d) f h (some p) (acc : Int) (i : Int) = some ((neL ((L.drop i).map fun g => res I g.1 g.2) acc : Nat) : Int) := by
        intro m
        induction m with
        | zero =>
          intro f i acc hf hi hb
          obtain ⟨f, rfl⟩ : ∃ x, f = x + 1 := ⟨f - 1, by omega⟩
          rw [List.drop_of_length_le (by omega)]
          rw [fX10_needs_L26_s]
          unfold fX10_needs_b26 fX10_needs_b62
          rw [r2, bd_s]; simp only [ifN]
          rw [bd_s, r5, bd_s, if_pos (by omega)]
          rfl
        | succ m im =>
          intro f i acc hf hi hb
          obtain ⟨f, rfl⟩ : ∃ x, f = x + 1 := ⟨f - 1, by omega⟩
          obtain ⟨e, he⟩ := ltL (L := L) (i := i) (by omega)
          obtain ⟨oe, ze, ce, fe, q, qe, Pq, cq⟩ := parts i e he
          have b1 : rN (res I e.1 e.2) < 256 := bb _ (List.mem_map.mpr ⟨e, List.mem_of_getElem? he, rfl⟩)
          rw [drop_s he, List.map_cons]
          rw [fX10_needs_L26_s]
          unfold fX10_needs_b26
          rw [r2, bd_s]; simp only [ifN]
          rw [bd_s, r5, bd_s, if_neg (by omega), r3, bd_s, ra i (by omega), bd_s, qe, gd_t cq, ih q e.1 e.2 oe (by omega) ce Pq fe, bd_s, wr_id (x := (i : Int) + 1) (by omega) (by omega), p_ior (by omega) (by omega)]
          exact im f (i + 1) _ (by omega) (by omega) (Nat.or_lt_two_pow (n := 8) hb b1)
      have := main L.length FU 0 0 (by unfold FU; omega) (by omega) (by omega)
      rw [List.drop_zero] at this
      exact this
theorem woL_b : ∀ (l : List Rr) (m o : Int), 0 ≤ m → m ≤ 10 → 0 ≤ o → (∀ r ∈ l, 0 ≤ rW r ∧ rW r < 1009) → l.length + m ≤ 10 → 0 ≤ woL l m o ∧ woL l m o ≤ o + 10090 * l.length := by
  intro l
  induction l with
  | nil => intro m o _ _ h0 _ _; exact ⟨h0, by simp [woL]⟩
  | cons r l ih =>
    intro m o m0 m1 h0 hr hl
    obtain ⟨w0, w1⟩ := hr r (List.mem_cons_self ..)
    have : 0 ≤ m * rW r := Int.mul_nonneg m0 w0
    have h2 : m * rW r ≤ 10 * 1009 := Int.mul_le_mul m1 (by omega) w0 (by omega)
    simp only [List.length_cons] at hl ⊢
    obtain ⟨a, b⟩ := ih (m + 1) (o + m * rW r) (by omega) (by omega) (by omega) (fun x hx => hr x (List.mem_cons_of_mem _ hx)) (by omega)
    refine ⟨a, ?_⟩
    show woL l (m + 1) (o + m * rW r) ≤ _
    omega
theorem p_worth10 (h6 : I.length ≤ 6) (hn : n ≤ 4) (hI9 : ∀ i, i < I.length → okI n (ig I i)) : ∀ (d p : Nat) (c : Int) (t : Tm), okT t → szT t ≤ 9 → (0 ≤ c ∧ c < (n : Int)) → isP h I d p c t → rS (res I c t) = 1 → fX10_worth d h (some p) = some (rW (res I c t)) := by
  intro d
  induction d with
  | zero => intro p c t _ _ _ P; exact P.elim
  | succ d ih =>
    intro p c t ot h9 hc P h1
    obtain ⟨g, G, r⟩ := P.found h6 hI9 ot h1
    show fX10_worth_B (fX10_worth d) h (some p) = _
    unfold fX10_worth_B
    rcases r with ⟨hv, re, r2, r0⟩ | ⟨kk, L, -, a, pa, fa, hk6, l2, ⟨r2, r5, r3, ra, rn⟩, r0, re, parts⟩
    · have gc : hC h (some g) = some 9 := by obtain ⟨b, e, -⟩ := G; exact (rdG e).2.2.2
      rw [r2, bd_s]
      simp only [ifN]
      rw [r0, bd_s, gd_t gc, need_of G ot hv ⟨hc.1, by omega⟩, bd_s, re, rW_rNeed]
    · rw [r2, bd_s, re, rW_rNode]
      simp only [ifN]
      rw [bd_s, rn, bd_s, wr_id (x := (kk : Int) + 1) (by omega) (by omega), wr_id (by omega) (by omega)]
      have bb : ∀ r ∈ L.map (fun g => res I g.1 g.2), 0 ≤ rW r ∧ rW r < 1009 := by
        intro r hr
        obtain ⟨e, he, rfl⟩ := List.mem_map.mp hr
        obtain ⟨j, he⟩ := List.mem_iff_getElem?.mp he
        obtain ⟨oe, ze, ce, -⟩ := parts j e he
        exact (res_ok hn hI9 (szT e.2) e.1 e.2 rfl oe ce.1 ce.2).2.2.1
      have main : ∀ (m f i : Nat) (acc : Int), m < f → m + i = L.length → 0 ≤ acc → acc ≤ 100000 + 10090 * (i : Int) → fX10_worth_L30 (fX10_worth d) f h (some p) acc (i : Int) = some (woL ((L.drop i).map fun g => res I g.1 g.2) (2 + (i : Int)) acc % 1009) := by
        intro m
        induction m with
        | zero =>
          intro f i acc hf hi hb0 hb1
          obtain ⟨f, rfl⟩ : ∃ x, f = x + 1 := ⟨f - 1, by omega⟩
          rw [List.drop_of_length_le (by omega)]
          rw [fX10_worth_L30_s]
          unfold fX10_worth_b30
          rw [r2, bd_s, r5, bd_s, if_pos (by omega), p_irm hb0 (by omega) (by omega) (by omega)]
          rfl
        | succ m im =>
          intro f i acc hf hi hb0 hb1
          obtain ⟨f, rfl⟩ : ∃ x, f = x + 1 := ⟨f - 1, by omega⟩
          obtain ⟨e, he⟩ := ltL (L := L) (i := i) (by omega)
          obtain ⟨oe, ze, ce, fe, q, qe, Pq, cq⟩ := parts i e he
          obtain ⟨w0, w1⟩ := bb _ (List.mem_map.mpr ⟨e, List.mem_of_getElem? he, rfl⟩)
          have hm : 0 ≤ (2 + (i : Int)) * rW (res I e.1 e.2) := Int.mul_nonneg (by omega) w0
          have hm2 : (2 + (i : Int)) * rW (res I e.1 e.2) ≤ 10 * 1009 := Int.mul_le_mul (by omega) (by omega) w0 (by omega)
          rw [drop_s he, List.map_cons]
          rw [fX10_worth_L30_s]
          unfold fX10_worth_b30
          rw [r2, bd_s, r5, bd_s, if_neg (by omega), r3, bd_s, ra i (by omega), bd_s, qe, gd_t cq, ih q e.1 e.2 oe (by omega) ce Pq fe, bd_s, wr_id (x := (i : Int) + 2) (by omega) (by omega), Int.add_comm (i : Int) 2, wr_id (x := (2 + (i : Int)) * _) (by omega) (by omega), wr_id (x := acc + _) (by omega) (by omega), wr_id (x := (i : Int) + 1) (by omega) (by omega)]
          have := im f (i + 1) (acc + (2 + (i : Int)) * rW (res I e.1 e.2)) (by omega) (by omega) (by omega) (by omega)
          rw [show (2 + ((i + 1 : Nat) : Int)) = 2 + (i : Int) + 1 by omega] at this
          exact this
      have := main L.length FU 0 (7 * ((kk : Int) + 1)) (by unfold FU; omega) (by omega) (by omega) (by omega)
      rw [List.drop_zero] at this
      exact this
end FND

set_option maxRecDepth 100000
/-! PURE: class DictProof: an entry of a proof; how many different goals -/
theorem isP.s {h : hS} {I : List Ist} : ∀ {f p : Nat} {c : Int} {t : Tm}, isP h I f p c t → isP h I (f + 1) p c t := by
  intro f
  induction f with
  | zero => intro p c t h; exact h.elim
  | succ f ih =>
    rintro p c t ⟨g, G, r⟩
    refine ⟨g, G, ?_⟩
    rcases r with r | r | ⟨v, kk, a, pa, fa, e1, P, e2, e3, r⟩
    · exact Or.inl r
    · exact Or.inr (Or.inl r)
    · refine Or.inr (Or.inr ⟨v, kk, a, pa, fa, e1, P, e2, e3, fun j e he => ?_⟩)
      obtain ⟨q, e4, R⟩ := r j e he
      exact ⟨q, e4, ih R⟩
theorem isP.up {h : hS} {I : List Ist} {f f' p : Nat} {c : Int} {t : Tm} (hf : f ≤ f') (P : isP h I f p c t) : isP h I f' p c t := by
  induction hf with
  | refl => exact P
  | step _ ih => exact ih.s
theorem p_entry10 {h : hS} {I : List Ist} {n : Nat} (h6 : I.length ≤ 6) (hn : n ≤ 4) (hI9 : ∀ i, i < I.length → okI n (ig I i)) : ∀ (d p : Nat) (c : Int) (t : Tm) (k : Nat), d ≤ 16 → okT t → szT t ≤ 9 → (0 ≤ c ∧ c < (n : Int)) → isP h I d p c t → rS (res I c t) = 1 → k < (rQ (res I c t)).length → fX10_entry d h (some p) (k : Int) = some ((rQ (res I c t)).getD k 0) := by
  intro d
  induction d with
  | zero => intro p c t k _ _ _ _ P; exact P.elim
  | succ d ih =>
    intro p c t k hd16 ot h9 hc P h1 hk
    obtain ⟨g, G, r⟩ := P.found h6 hI9 ot h1
    have rok := (res_ok hn hI9 (szT t) c t rfl ot hc.1 hc.2).2.1
    have p9 : 2 ^ szT t ≤ 512 := Nat.pow_le_pow_right (n := 2) (by omega) h9
    show fX10_entry_B (fX10_entry d) h (some p) (k : Int) = _
    unfold fX10_entry_B fX10_entry_b28
    rcases r with ⟨hv, re, r2, r0⟩ | ⟨kk, L, -, a, pa, fa, hk6, l2, ⟨r2, r5, r3, ra, rn⟩, r0, re, parts⟩
    · rw [re, rQ_rNeed] at hk ⊢
      have k0 : k = 0 := by simpa using hk
      subst k0
      have gc : hC h (some g) = some 9 := by obtain ⟨b, e, -⟩ := G; exact (rdG e).2.2.2
      rw [if_neg (by simp), r2, bd_s]
      simp only [ifN]
      rw [r0, bd_s, gd_t gc, need_of G ot hv ⟨hc.1, by omega⟩, bd_s]
      rfl
    · rw [re, rQ_len] at rok
      rw [re] at hk ⊢
      rw [rQ_len] at hk
      rw [rQ_rNode]
      by_cases k0 : k = 0
      · subst k0
        rw [if_neg (by simp), r2, bd_s]
        simp only [ifN]
        rw [bd_s, rn, bd_s]
        rfl
      · obtain ⟨k, rfl⟩ : ∃ x, k = x + 1 := ⟨k - 1, by omega⟩
        rw [if_pos (by omega), show ((k + 1 : Nat) : Int) - 1 = (k : Int) by omega, wr_id (by omega) (by omega), List.getD_cons_succ]
        have main : ∀ (m f i left : Nat), m < f → m + i = L.length → left < szL I (L.drop i) → szL I (L.drop i) ≤ 1000 → fX10_entry_L35 (fX10_entry d) f h (some p) (left : Int) (i : Int) = some ((((L.drop i).map fun g => res I g.1 g.2).map rQ).flatten.getD left 0) := by
          intro m
          induction m with
          | zero =>
            intro f i left hf hi hl
            rw [List.drop_of_length_le (by omega)] at hl
            simp [szL] at hl
          | succ m im =>
            intro f i left hf hi hl hb
            obtain ⟨f, rfl⟩ : ∃ x, f = x + 1 := ⟨f - 1, by omega⟩
            obtain ⟨e, he⟩ := ltL (L := L) (i := i) (by omega)
            obtain ⟨oe, ze, ce, fe, q, qe, Pq, cq⟩ := parts i e he
            rw [drop_s he] at hl hb ⊢
            rw [szL_c] at hl hb
            rw [List.map_cons, List.map_cons, List.flatten_cons]
            have es := p_size10 h6 hn hI9 16 q e.1 e.2 oe (by omega) ce (Pq.up (by omega)) fe
            rw [fX10_entry_L35_s]
            unfold fX10_entry_b35
            rw [r3, bd_s, ra i (by omega), bd_s, qe, gd_t cq, es, bd_s]
            by_cases c1 : left < (rQ (res I e.1 e.2)).length
            · rw [if_pos (by omega), bd_s, ra i (by omega), bd_s, qe, gd_t cq, ih q e.1 e.2 left (by omega) oe (by omega) ce Pq fe c1, bd_s]
              congr 1
              rw [List.getD_eq_getElem?_getD, List.getD_eq_getElem?_getD, List.getElem?_append_left c1]
            · rw [if_neg (by omega), bd_s, ra i (by omega), bd_s, qe, gd_t cq, es, bd_s, wr_id (x := (i : Int) + 1) (by omega) (by omega), wr_id (by omega) (by omega)]
              have := im f (i + 1) (left - (rQ (res I e.1 e.2)).length) (by omega) (by omega) (by omega) (by omega)
              rw [show (left : Int) - ((rQ (res I e.1 e.2)).length : Int) = ((left - (rQ (res I e.1 e.2)).length : Nat) : Int) by omega]
              refine this.trans ?_
              congr 1
              rw [List.getD_eq_getElem?_getD, List.getD_eq_getElem?_getD, List.getElem?_append_right (by omega)]
        have := main L.length FU 0 k (by unfold FU; omega) (by omega) (by rw [List.drop_zero]; omega) (by rw [List.drop_zero]; omega)
        rw [List.drop_zero] at this
        exact this
/-! how many different goals -/
theorem dst_ext {A B : List (Int × Tm)} (h : ∀ x, x ∈ A ↔ x ∈ B) : dst A = dst B := by
  unfold dst
  refine nodup_len (dd_nodup _) (dd_nodup _) (fun x => ?_)
  rw [dd_mem, dd_mem]
  constructor <;> intro hx <;> obtain ⟨y, hy, e⟩ := List.mem_map.mp hx
  · exact List.mem_map.mpr ⟨y, (h y).mp hy, e⟩
  · exact List.mem_map.mpr ⟨y, (h y).mpr hy, e⟩
/-- a set of goals below a type -/
def GS (k h : hS) (U : Tm → Prop) (t0 : Tm) (hs mp : Nat) (F : Nat → Prop) (E : List En) (Q : Nat) (G : List (Int × Tm)) : Prop :=
  Kp k h F ∧ k.1 hs = some (.inl (14, [vq (some mp)])) ∧ HM 64 h mp E F Q ∧ E.length = dst G ∧ (∀ e, e ∈ E → ∃ (c : Int) (t : Tm) (a : Nat) (v : Option Nat), (0 ≤ c ∧ c < 4) ∧ U t ∧ e = (spH (hhG c t), some a, v) ∧ isG k a c t) ∧ (∀ hv, (∃ e, e ∈ E ∧ e.1 = hv) ↔ ∃ g, g ∈ G ∧ hv = spH (hhG g.1 g.2)) ∧ ∀ g, g ∈ G → (0 ≤ g.1 ∧ g.1 < 4) ∧ ∃ p, p < szT t0 ∧ g.2 = sub t0 p
theorem GS.len {k h : hS} {U : Tm → Prop} {t0 : Tm} {hs mp : Nat} {F : Nat → Prop} {E : List En} {Q : Nat} {G : List (Int × Tm)} (S : GS k h U t0 hs mp F E Q G) (h9 : szT t0 ≤ 9) : E.length ≤ 36 := by
  obtain ⟨K, ek, M, el, hE, hm, hG⟩ := S
  obtain ⟨_, _, _, _, _, _, _, nd, -⟩ := M
  have := nodup_le (E.map (·.1)) ((List.range 4).flatMap (fun c : Nat => (List.range 9).map (fun p : Nat => spH (hhG (c : Int) (sub t0 p))))) nd (fun x hx => by
    obtain ⟨e, he, rfl⟩ := List.mem_map.mp hx
    obtain ⟨g, hg, e1⟩ := (hm e.1).mp ⟨e, he, rfl⟩
    obtain ⟨c1, p, hp, e2⟩ := hG g hg
    refine List.mem_flatMap.mpr ⟨g.1.toNat, List.mem_range.mpr (by omega), List.mem_map.mpr ⟨p, List.mem_range.mpr (by omega), ?_⟩⟩
    rw [e1, e2, show ((g.1.toNat : Nat) : Int) = g.1 by omega])
  rw [List.length_map] at this
  refine Nat.le_trans this ?_
  have : ∀ L : List Nat, (L.flatMap (fun c : Nat => (List.range 9).map (fun p : Nat => spH (hhG (c : Int) (sub t0 p))))).length = 9 * L.length := by
    intro L
    induction L with
    | nil => rfl
    | cons a L ih => rw [List.flatMap_cons, List.length_append, ih, List.length_map, List.length_range, List.length_cons]; omega
  rw [this, List.length_range]
  omega
theorem rd14 {h : hS} {a : Nat} {m : Option Nat} (e : h.1 a = some (.inl (14, [vq m]))) : hQ h (some a) [(14, 0)] = some m ∧ hC h (some a) = some 14 := by
  unfold hQ hF hC nn
  simp only [e]
  exact ⟨rfl, trivial⟩
/-- a goal is added -/
theorem GS.add {k h : hS} {U : Tm → Prop} {t0 : Tm} {hs mp : Nat} {F : Nat → Prop} {E : List En} {Q : Nat} {G : List (Int × Tm)} (hU : UOK U) (ht0 : U t0) (gs : Option Nat × Option Nat) (S : GS k h U t0 hs mp F E Q G) {g p : Nat} {c : Int} {t : Tm} (hc : 0 ≤ c ∧ c < 4) (hp : p < szT t0) (et : t = sub t0 p) (Gg : isG k g c t) :
    ∃ z h' F' E' Q', fJ15_add gs h (some hs) (some g) = some (z, h') ∧ GS k h' U t0 hs mp F' E' Q' ((c, t) :: G) ∧ fr h h' F F' ∧ h'.2.1 + Q' + 4 * E.length ≤ h.2.1 + Q + 4 * E'.length ∧ h'.2.2 + 4 * Q' + 16 * E.length ≤ h.2.2 + 4 * Q + 16 * E'.length := by
  have l36 := S.len (hU.1 t0 ht0).2
  obtain ⟨K, ek, M, el, hE, hm, hG⟩ := S
  have ht : U t := by rw [et]; exact hU.2.1 t0 p ht0 hp
  obtain ⟨ot, h9⟩ := hU.1 t ht
  have d16 : dpT t ≤ 16 := by have := dpT_le t ot; omega
  have key : ∀ e, e ∈ E → e.1 = spH (hhG c t) → ∃ a v, e = (spH (hhG c t), some a, v) ∧ isG k a c t := by
    intro e he h1
    obtain ⟨c', t', a, v, hc', hu', e1, Ga⟩ := hE e he
    have : spH (hhG c' t') = spH (hhG c t) := by rw [← h1, e1]
    obtain ⟨rfl, rfl⟩ := hU.2.2 c' c t' t hc' hc hu' ht (spH_inj (hhG_r _ _) (hhG_r _ _) this)
    exact ⟨a, v, e1, Ga⟩
  obtain ⟨h', F', Q', e1, M', ff, c1, c2⟩ := pH_put (kN := 6) (v := gs.2) M rfl (by omega) (by omega) (p_hashG (Gg.mono K.ext) d16) (spH_r _) (fun e he h1 => by
    obtain ⟨a, v, e2, Ga⟩ := key e he h1
    right
    refine ⟨1, by decide, ?_⟩
    rw [e2]
    exact p_eqG (Gg.mono K.ext) (Ga.mono K.ext) d16) (by omega)
  have Fl' : ∀ a, F' a → a < h'.2.1 := by obtain ⟨_, _, _, _, _, _, Fl, -⟩ := M'; exact Fl
  have cM : hC h (some mp) = some 11 := by obtain ⟨_, _, _, _, M1, -⟩ := M; exact MO.c M1
  obtain ⟨z, ez⟩ : ∃ z, fJ15_add gs h (some hs) (some g) = some (z, h') := by
    unfold fJ15_add fJ15_add_b19
    rw [(rd14 (K.ext _ _ ek)).1, bd_s, gd_t cM, e1, bd_s]
    cases mgt E (spH (hhG c t)) with
    | none => exact ⟨1, by simp only [ifN]; rw [gd_t (by simp)]⟩
    | some q => exact ⟨0, by simp only [ifN]; rw [gd_t (by simp)]⟩
  have inG : (∃ e, e ∈ E ∧ e.1 = spH (hhG c t)) ↔ (c, t) ∈ G := by
    rw [hm]
    constructor
    · rintro ⟨g', hg', e2⟩
      obtain ⟨c1, p', hp', e3⟩ := hG g' hg'
      obtain ⟨x, y⟩ := hU.2.2 c g'.1 t g'.2 hc c1 ht (by rw [e3]; exact hU.2.1 t0 p' ht0 hp') (spH_inj (hhG_r _ _) (hhG_r _ _) e2)
      rw [show (c, t) = g' from Prod.ext x y]
      exact hg'
    · intro w
      exact ⟨(c, t), w, rfl⟩
  have inD : gk (c, t) ∈ dd (G.map gk) ↔ (c, t) ∈ G := by
    rw [dd_mem]
    constructor
    · intro w
      obtain ⟨g', hg', e2⟩ := List.mem_map.mp w
      obtain ⟨c1, p', hp', e3⟩ := hG g' hg'
      have a1 : g'.1 = c := congrArg Prod.fst e2
      have a2 : flat g'.2 = flat t := congrArg Prod.snd e2
      have og : okT g'.2 := by rw [e3]; exact (hU.1 _ (hU.2.1 t0 p' ht0 hp')).1
      rw [show (c, t) = g' from Prod.ext a1.symm ((flat_eq og ot).mp a2).symm]
      exact hg'
    · intro w
      exact List.mem_map.mpr ⟨(c, t), w, rfl⟩
  refine ⟨z, h', F', putE E (spH (hhG c t)) g gs.2, Q', ez, ⟨K.frm ff Fl', ek, M', ?_, fun e he => ?_, fun hv => ?_, fun g' hg' => ?_⟩, ff, c1, c2⟩
  · unfold dst
    rw [List.map_cons]
    simp only [dd]
    by_cases w : (c, t) ∈ G
    · rw [if_pos (inD.mpr w), putE_y (inG.mpr w), List.length_map]; exact el
    · rw [if_neg (fun q => w (inD.mp q)), putE_n (fun e he q => w (inG.mp ⟨e, he, q⟩)), List.length_cons, List.length_cons, el]; rfl
  · rcases putE_mem he with rfl | ⟨he2, -⟩ | ⟨e0, he2, h1, rfl⟩
    · exact ⟨c, t, g, _, hc, ht, rfl, Gg⟩
    · exact hE e he2
    · obtain ⟨a, v, e2, Ga⟩ := key e0 he2 h1
      exact ⟨c, t, a, gs.2, hc, ht, by rw [e2], Ga⟩
  · have pm : (∃ e, e ∈ putE E (spH (hhG c t)) g gs.2 ∧ e.1 = hv) ↔ (∃ e, e ∈ E ∧ e.1 = hv) ∨ hv = spH (hhG c t) := by
      by_cases w : ∃ e, e ∈ E ∧ e.1 = spH (hhG c t)
      · rw [putE_y w]
        constructor
        · rintro ⟨e, he, e1⟩
          obtain ⟨e0, he0, rfl⟩ := List.mem_map.mp he
          have : (upE (spH (hhG c t)) gs.2 e0).1 = e0.1 := by unfold upE; split <;> rfl
          exact Or.inl ⟨e0, he0, by rw [← this]; exact e1⟩
        · rintro (⟨e, he, e1⟩ | e1)
          · have : (upE (spH (hhG c t)) gs.2 e).1 = e.1 := by unfold upE; split <;> rfl
            exact ⟨_, List.mem_map.mpr ⟨e, he, rfl⟩, by rw [this]; exact e1⟩
          · obtain ⟨e, he, e2⟩ := w
            have : (upE (spH (hhG c t)) gs.2 e).1 = e.1 := by unfold upE; split <;> rfl
            exact ⟨_, List.mem_map.mpr ⟨e, he, rfl⟩, by rw [this, e2, e1]⟩
      · rw [putE_n (fun e he q => w ⟨e, he, q⟩)]
        constructor
        · rintro ⟨e, he, e1⟩
          rcases List.mem_cons.mp he with rfl | he
          · exact Or.inr e1.symm
          · exact Or.inl ⟨e, he, e1⟩
        · rintro (⟨e, he, e1⟩ | e1)
          · exact ⟨e, List.mem_cons_of_mem _ he, e1⟩
          · exact ⟨_, List.mem_cons_self .., e1.symm⟩
    rw [pm, hm]
    constructor
    · rintro (⟨g', hg', e1⟩ | e1)
      · exact ⟨g', List.mem_cons_of_mem _ hg', e1⟩
      · exact ⟨(c, t), List.mem_cons_self .., e1⟩
    · rintro ⟨g', hg', e1⟩
      rcases List.mem_cons.mp hg' with rfl | hg'
      · exact Or.inr e1
      · exact Or.inl ⟨g', hg', e1⟩
  · rcases List.mem_cons.mp hg' with rfl | hg'
    · exact ⟨hc, p, hp, et⟩
    · exact hG g' hg'
theorem p_gather {k : hS} {I : List Ist} {n : Nat} {U : Tm → Prop} {t0 : Tm} {hs mp : Nat} (gs : Option Nat × Option Nat) (hU : UOK U) (ht0 : U t0) (h6 : I.length ≤ 6) (hn : n ≤ 4) (hI9 : ∀ i, i < I.length → okI n (ig I i)) :
    ∀ (d pr : Nat) (c : Int) (t : Tm) (p : Nat) (h : hS) (F : Nat → Prop) (E : List En) (Q : Nat) (G : List (Int × Tm)), (0 ≤ c ∧ c < (n : Int)) → p < szT t0 → t = sub t0 p → isP k I d pr c t → rS (res I c t) = 1 → GS k h U t0 hs mp F E Q G →
      ∃ h' F' E' Q' G', fX10_gather d gs h (some pr) (some hs) = some h' ∧ GS k h' U t0 hs mp F' E' Q' G' ∧ (∀ x, x ∈ G' ↔ x ∈ G ∨ x ∈ rG (res I c t)) ∧ fr h h' F F' ∧ h'.2.1 + Q' + 4 * E.length ≤ h.2.1 + Q + 4 * E'.length ∧ h'.2.2 + 4 * Q' + 16 * E.length ≤ h.2.2 + 4 * Q + 16 * E'.length := by
  intro d
  induction d with
  | zero => intro pr c t p h F E Q G _ _ _ P; exact P.elim
  | succ d ih =>
    intro pr c t p h F E Q G hc hp et P h1 S
    have ot0 := (hU.1 t0 ht0).1
    have ot : okT t := by rw [et]; exact sub_ok t0 p ot0 hp
    have Pk := P
    obtain ⟨g, Gg, r⟩ := P.found h6 hI9 ot h1
    obtain ⟨z, h1', F1, E1, Q1, e1, S1, f1, c1, c2⟩ := S.add hU ht0 gs ⟨hc.1, by omega⟩ hp et Gg
    have cs : hC h (some hs) = some 14 := (rd14 (S.1.ext _ _ S.2.1)).2
    show ∃ h' F' E' Q' G', fX10_gather_B (fX10_gather d) gs h (some pr) (some hs) = some h' ∧ _
    unfold fX10_gather_B
    obtain ⟨g', Gg', r'⟩ := (Pk.mono S.1.ext).found h6 hI9 ot h1
    -- the same goal object
    have r0 : hQ h (some pr) [(10, 0)] = some (some g) := by
      obtain ⟨g2, G2, r2⟩ := Pk
      have eg : g2 = g := by
        rcases r with ⟨-, -, -, r0⟩ | ⟨_, _, -, _, _, _, -, -, -, r0, -⟩ <;> rcases r2 with ⟨-, e⟩ | ⟨-, -, e⟩ | ⟨-, _, _, _, _, -, -, e, -⟩ <;> rw [(rdP e).1] at r0 <;> exact Option.some.inj (Option.some.inj r0)
      rcases r2 with ⟨-, e⟩ | ⟨-, -, e⟩ | ⟨-, _, _, _, _, -, -, e, -⟩ <;> rw [← eg] <;> exact (rdP (S.1.ext _ _ e)).1
    rw [r0, bd_s, gd_t cs, e1, bd_s]
    dsimp only
    have P1 := Pk.mono S1.1.ext
    obtain ⟨g3, Gg3, r3⟩ := P1.found h6 hI9 ot h1
    rcases r3 with ⟨hv, re, r2, -⟩ | ⟨kk, L, hL, a, pa, fa, hk6, l2, ⟨r2, r5, r3, ra, rn⟩, -, re, -⟩
    · obtain ⟨m, hm⟩ := FU_3
      rw [hm, fX10_gather_L11_s]
      unfold fX10_gather_b11 fX10_gather_b45
      rw [r2, bd_s]
      refine ⟨h1', F1, E1, Q1, _, rfl, S1, fun x => ?_, f1, c1, c2⟩
      rw [re, rG_rNeed]
      simp only [List.mem_cons, List.not_mem_nil, or_false]
      exact or_comm
    · -- the parts, as they are in k
      rcases r with ⟨hv, re', -⟩ | ⟨kk', L', hL', a', pa', fa', -, -, ⟨q2, q5, q3, qa, -⟩, -, re', parts⟩
      · rw [re] at re'
        have := congrArg (fun r => (rQ r)) re'
        exfalso
        obtain ⟨g4, G4, r4⟩ := Pk
        rcases r4 with ⟨v4, e4⟩ | ⟨-, -, e4⟩ | ⟨v4, _, _, _, _, -, -, e4, -⟩
        · rw [(rdP (S1.1.ext _ _ e4)).2.2.1] at r2; cases r2
        · rw [(rdP (S1.1.ext _ _ e4)).2.2.1] at r2; cases r2
        · rw [v4] at hv; cases hv
      · have mo : ∀ h9 : hS, ext k h9 → hQ h9 (some pr) [(10, 2)] = some (some a') ∧ hI h9 (some a') [(1, 5), (2, 5), (3, 5), (4, 5), (5, 5)] = some (L'.length : Int) ∧ hQ h9 (some pr) [(10, 3)] = some (some pa') ∧ ∀ i : Nat, i < L'.length → aQ h9 (some pa') 5 (i : Int) = some (fa' (i : Int)) := by
          intro h9 X
          obtain ⟨g4, G4, r4⟩ := Pk
          rcases r4 with ⟨v4, e4⟩ | ⟨-, -, e4⟩ | ⟨v4, kk4, a4, pa4, fa4, hk4, Pa4, e4, e5, -⟩
          · rw [(rdP e4).2.2.1] at q2; cases q2
          · rw [(rdP e4).2.2.1] at q2; cases q2
          · obtain ⟨-, -, s2, s3, -, -⟩ := rdP e4
            obtain ⟨-, -, t2, t3, -, -⟩ := rdP (X _ _ e4)
            rw [s2] at q2
            rw [s3] at q3
            obtain rfl : a4 = a' := Option.some.inj (Option.some.inj q2)
            obtain rfl : pa4 = pa' := Option.some.inj (Option.some.inj q3)
            obtain ⟨hkk, -⟩ := tk_ge hk4
            obtain ⟨_, _, _, ⟨-, -, -, -, -, u5, -, -⟩, -, -⟩ := Pa4.rd (hI9 kk4 hkk).k
            obtain ⟨_, _, _, ⟨-, -, -, -, -, v5, -, -⟩, -, -⟩ := (Pa4.mono X).rd (hI9 kk4 hkk).k
            rw [u5] at q5
            have A : arQ k 5 (prts I kk4 t).length pa4 fa4 := e5
            have B : arQ h9 5 (prts I kk4 t).length pa4 fa4 := X _ _ e5
            have pl := (prts_lt hI9 ot hk4).1
            have q5' := Option.some.inj q5
            refine ⟨t2, by rw [v5]; exact congrArg some q5', t3, fun i hi => ?_⟩
            have := qa i hi
            rw [A.q (by omega) (by omega)] at this
            rw [B.q (by omega) (by omega)]
            exact this
        have l2' : L'.length ≤ 2 := by
          obtain ⟨-, r5', -, -⟩ := mo h1' S1.1.ext
          obtain ⟨r2', -⟩ := mo h1' S1.1.ext
          rw [r2] at r2'
          obtain rfl : a = a' := Option.some.inj (Option.some.inj r2')
          rw [r5] at r5'
          have := Option.some.inj r5'
          omega
        rw [re', rG_rNode]
        have main : ∀ (m f i : Nat) (h2 : hS) (F2 : Nat → Prop) (E2 : List En) (Q2 : Nat) (G2 : List (Int × Tm)), m < f → m + i = L'.length → GS k h2 U t0 hs mp F2 E2 Q2 G2 →
            ∃ h' F' E' Q' G', fX10_gather_L11 (fX10_gather d) f gs h2 (some pr) (some hs) (i : Int) = some h' ∧ GS k h' U t0 hs mp F' E' Q' G' ∧ (∀ x, x ∈ G' ↔ x ∈ G2 ∨ x ∈ (((L'.drop i).map fun g => res I g.1 g.2).map rG).flatten) ∧ fr h2 h' F2 F' ∧ h'.2.1 + Q' + 4 * E2.length ≤ h2.2.1 + Q2 + 4 * E'.length ∧ h'.2.2 + 4 * Q' + 16 * E2.length ≤ h2.2.2 + 4 * Q2 + 16 * E'.length := by
          intro m
          induction m with
          | zero =>
            intro f i h2 F2 E2 Q2 G2 hf hi S2
            obtain ⟨f, rfl⟩ : ∃ x, f = x + 1 := ⟨f - 1, by omega⟩
            obtain ⟨r2, r5, r3, ra⟩ := mo h2 S2.1.ext
            rw [fX10_gather_L11_s]
            unfold fX10_gather_b11 fX10_gather_b45
            rw [r2, bd_s]; simp only [ifN]
            rw [bd_s, r5, bd_s, if_pos (by omega), List.drop_of_length_le (by omega)]
            exact ⟨h2, F2, E2, Q2, G2, rfl, S2, fun x => by simp, fr.ofol (ol.refl h2), by omega, by omega⟩
          | succ m im =>
            intro f i h2 F2 E2 Q2 G2 hf hi S2
            obtain ⟨f, rfl⟩ : ∃ x, f = x + 1 := ⟨f - 1, by omega⟩
            obtain ⟨r2, r5, r3, ra⟩ := mo h2 S2.1.ext
            obtain ⟨e, he⟩ := ltL (L := L') (i := i) (by omega)
            obtain ⟨oe, ze, ce, fe, q, qe, Pq, cq⟩ := parts i e he
            obtain ⟨q', q0, q1, e2⟩ := hL' e (List.mem_of_getElem? he)
            have send := sub_end t0 p ot0 hp
            rw [← et] at send
            obtain ⟨h3, F3, E3, Q3, G3, e3, S3, m3, f3, c3, c4⟩ := ih q e.1 e.2 (p + q') h2 F2 E2 Q2 G2 ce (by omega) (by rw [e2, et, sub_sub t0 p q' ot0 hp (by rw [← et]; exact q1)]) Pq fe S2
            obtain ⟨h4, F4, E4, Q4, G4, e4, S4, m4, f4, c5, c6⟩ := im f (i + 1) h3 F3 E3 Q3 G3 (by omega) (by omega) S3
            refine ⟨h4, F4, E4, Q4, G4, ?_, S4, fun x => ?_, f3.trans f4, by omega, by omega⟩
            · rw [fX10_gather_L11_s]
              unfold fX10_gather_b11
              rw [r2, bd_s]; simp only [ifN]
              rw [bd_s, r5, bd_s, if_neg (by omega), r3, bd_s, ra i (by omega), bd_s, qe, gd_t (Pq.mono S2.1.ext).c.1, e3, bd_s, wr_id (x := (i : Int) + 1) (by omega) (by omega)]
              exact e4
            · rw [m4, m3, drop_s he, List.map_cons, List.map_cons, List.flatten_cons, List.mem_append, or_assoc]
        obtain ⟨h4, F4, E4, Q4, G4, e4, S4, m4, f4, c5, c6⟩ := main L'.length FU 0 h1' F1 E1 Q1 _ (by unfold FU; omega) (by omega) S1
        refine ⟨h4, F4, E4, Q4, G4, e4, S4, fun x => ?_, f1.trans f4, by omega, by omega⟩
        rw [m4, List.drop_zero, List.mem_cons, List.mem_cons]
        constructor
        · rintro ((w | w) | w)
          · exact Or.inr (Or.inl w)
          · exact Or.inl w
          · exact Or.inr (Or.inr w)
        · rintro (w | w | w)
          · exact Or.inl (Or.inr w)
          · exact Or.inl (Or.inl w)
          · exact Or.inr w

set_option maxRecDepth 100000
/-! PURE: class DictProof: a set of goals; bits; plain needs -/
theorem p_different {k h : hS} {F : Nat → Prop} {I : List Ist} {n : Nat} {U : Tm → Prop} {mp : Nat} (gs : Option Nat × Option Nat) (hU : UOK U) (h6 : I.length ≤ 6) (hn : n ≤ 4) (hI9 : ∀ i, i < I.length → okI n (ig I i)) (K : Kp k h F) {p : Nat} {c : Int} {t : Tm} (ht : U t) (hc : 0 ≤ c ∧ c < (n : Int)) (P : isP k I 16 p c t) (h1 : rS (res I c t) = 1) :
    ∃ h', fX0_different gs h (some p) = some (((dst (rG (res I c t)) : Nat) : Int), h') ∧ ol h h' 404 := by
  obtain ⟨ot, h9⟩ := hU.1 t ht
  -- the set
  have OA := ol_nwO h 14 [vq none] (by simp)
  obtain ⟨hB, eB, MB, oB, sB, sB'⟩ := pH_new' 64 (nwO h 14 [vq none])
  have eA := nwO_at h 14 [vq none]
  have lA : (nwO h 14 [vq none]).2.1 = h.2.1 + 1 := rfl
  rw [lA] at eB MB oB sB
  have eB1 : hB.1 h.2.1 = some (.inl (14, [vq none])) := by rw [oB h.2.1 (by omega)]; exact eA
  obtain ⟨h9C, eC, aC, oC, sC⟩ := hW_at (P := [(14, 0)]) (v := vq (some (h.2.1 + 1))) eB1 rfl (by simp)
  have e15 : fJ15_init (nwO h 14 [vq none]) (some h.2.1) = some h9C := by
    unfold fJ15_init fJ14_init fJ13_init
    rw [gd_t (by simp), gd_t (by simp), gd_t (by simp), bd_s, bd_s, nwS_e, bd_s]
    dsimp only
    rw [lA, eB, bd_s, eC, bd_s]
  have MC : HM 64 h9C (h.2.1 + 1) [] (fun a => a = h.2.1 + 1) (4 * 64) := MB.cg (fun b hb => oC b (by omega)) (by rw [sC]; omega)
  have lC : h9C.2.1 = h.2.1 + 2 := by rw [sC, sB]
  have lC2 : h9C.2.2 = h.2.2 + 9 := by rw [sC, sB']; rfl
  have KC : Kp k h9C (fun a => a = h.2.1 + 1) := by
    refine ⟨fun a e q => ?_, fun a ha => by omega⟩
    obtain ⟨x, y, -⟩ := K.1 a e q
    exact ⟨by rw [oC a (by omega), oB a (by omega), nwO_ne h 14 _ (by omega)]; exact x, by omega, by omega⟩
  obtain ⟨K1, X1⟩ := KC.add (a := h.2.1) (K.nk (Nat.le_refl _)) aC (by omega) (by omega)
  have X1 : ext k (hup k h.2.1 (.inl (14, [vq (some (h.2.1 + 1))]))) := X1
  have S0 : GS (hup k h.2.1 (.inl (14, [vq (some (h.2.1 + 1))]))) h9C U t h.2.1 (h.2.1 + 1) (fun a => a = h.2.1 + 1) [] (4 * 64) [] := ⟨K1, hup_at _ _ _, MC, rfl, (fun e he => by cases he), (fun hv => ⟨fun ⟨e, he, _⟩ => (by cases he), fun ⟨g, hg, _⟩ => (by cases hg)⟩), (fun g hg => by cases hg)⟩
  obtain ⟨h4, F4, E4, Q4, G4, e4, S4, m4, f4, c1, c2⟩ := p_gather gs hU ht h6 hn hI9 16 p c t 0 h9C _ [] (4 * 64) [] hc (szT_pos t) (sub_0 t).symm (P.mono X1) h1 S0
  have l36 := S4.len h9
  obtain ⟨K4, ek4, M4, el4, -⟩ := S4
  have cM : hC h4 (some (h.2.1 + 1)) = some 11 := by obtain ⟨_, _, _, _, M1, -⟩ := M4; exact MO.c M1
  have hS4 := rd14 (K4.ext _ _ ek4)
  refine ⟨h4, ?_, ?_, fun b hb => ?_, ?_, ?_⟩
  · unfold fX0_different fJ15_size
    rw [nwS_e, bd_s]
    dsimp only
    rw [e15, bd_s, gd_t (P.mono (X1.trans K1.ext)).c.1, e4, bd_s, gd_t hS4.2, hS4.1, bd_s, gd_t cM, pH_size M4, bd_s, bd_s, el4]
    congr 2
    congr 1
    refine dst_ext (fun x => ?_)
    rw [m4]
    simp
  · have := f4.2.2; omega
  · rw [f4.2.1 b (by omega) (by omega), oC b (by omega), oB b (by omega), nwO_ne h 14 _ (by omega)]
  · simp only [List.length_nil] at c1; omega
  · simp only [List.length_nil] at c2; omega
theorem bitCount8 : ∀ a : Fin 256, fJ3_bitCount (a.val : Int) = some ((cntN a.val.testBit 16 : Nat) : Int) := by decide +kernel
theorem p_bitCount {a : Nat} (h : a < 256) : fJ3_bitCount (a : Int) = some ((pcN a : Nat) : Int) := bitCount8 ⟨a, h⟩
theorem p0_isIn (a b c : Int) : fX0_isIn a b c = some (bI (decide (b ≤ a ∧ a ≤ c))) := by
  unfold fX0_isIn fX0_isIn_b17 fX0_isIn_b18
  have e1 : (lcm3 a b < 0) ↔ a < b := by unfold lcm3; split <;> (try split) <;> omega
  have e2 : (0 < lcm3 a c) ↔ c < a := by unfold lcm3; split <;> (try split) <;> omega
  by_cases h1 : a < b
  · rw [if_pos (e1.mpr h1), gd_t (by simp), decide_eq_false (by omega)]; rfl
  · rw [if_neg (fun q => h1 (e1.mp q))]
    by_cases h2 : c < a
    · rw [if_pos (e2.mpr h2), gd_t (by simp), decide_eq_false (by omega)]; rfl
    · rw [if_neg (fun q => h2 (e2.mp q)), gd_t (by simp), decide_eq_true (by omega)]; rfl
/-- the classes -/
def Cls0 (s : Sg) (n : Nat) (ra ab : Nat → Nat) : Prop := gI s 3 = (n : Int) ∧ n ≤ 4 ∧ ∀ c : Nat, c < n → gA s 1 (c : Int) = (ra c : Int) ∧ gA s 2 (c : Int) = (ab c : Int) ∧ ra c < 16 ∧ ab c < 16
theorem iand_bI (a b : Bool) : iand (bI a) (bI b) = bI (a && b) := by cases a <;> cases b <;> decide
theorem p_plainOf {s : Sg} {n : Nat} {ra ab : Nat → Nat} (C : Cls0 s n ra ab) {N : Nat} (hN : N < 256) : fX0_plainOf s (N : Int) = some ((plain n ab N : Nat) : Int) := by
  obtain ⟨h3, h4, hc⟩ := C
  have inn : ∀ (K4 : Sg → Int → Int → Int → Option Int) (a2 : Int) (k : Nat), k < 8 → fX0_plainOf_L24 K4 FU s (N : Int) a2 (k : Int) (bI (N.testBit k)) 0 = fX0_plainOf_b93 K4 s (N : Int) (k : Int) a2 (if (N.testBit k && allN (fun c => !N.testBit (2 * c + k % 2) || !(ab c).testBit (k / 2)) n) then ishl 1 (k : Int) else 0) := by
    intro K4 a2 k hk
    have hm : irm (k : Int) 2 = ((k % 2 : Nat) : Int) := by rw [p_irm (by omega) (by omega) (by omega) (by omega)]; omega
    have hd : idv (k : Int) 2 = ((k / 2 : Nat) : Int) := by rw [p_idv (by omega) (by omega) (by omega) (by omega)]; omega
    have := loopE (fun f c (x : Int) => fX0_plainOf_L24 K4 f s (N : Int) a2 (k : Int) x (c : Int)) n (fun c => bI (N.testBit k && allN (fun c => !N.testBit (2 * c + k % 2) || !(ab c).testBit (k / 2)) c)) (fX0_plainOf_b93 K4 s (N : Int) (k : Int) a2 (if (N.testBit k && allN (fun c => !N.testBit (2 * c + k % 2) || !(ab c).testBit (k / 2)) n) then ishl 1 (k : Int) else 0)) (fun f c hcn => ?_) (fun f => ?_) (by unfold FU; omega)
    · rw [show (N.testBit k && allN (fun c => !N.testBit (2 * c + k % 2) || !(ab c).testBit (k / 2)) 0) = N.testBit k by simp [allN]] at this
      exact this
    · obtain ⟨-, ha, -, hab⟩ := hc c hcn
      rw [fX0_plainOf_L24_s]
      unfold fX0_plainOf_b24 fX0_plainOf_b66 fX0_plainOf_b71
      rw [if_neg (by rw [h3]; omega), hm, wr_id (x := 2 * (c : Int)) (by omega) (by omega), wr_id (x := 2 * (c : Int) + _) (by omega) (by omega), wr_id (x := (c : Int) + 1) (by omega) (by omega), show 2 * (c : Int) + ((k % 2 : Nat) : Int) = ((2 * c + k % 2 : Nat) : Int) by omega, p_has (by omega) (by omega), bd_s]
      have st : (N.testBit k && allN (fun c => !N.testBit (2 * c + k % 2) || !(ab c).testBit (k / 2)) (c + 1)) = ((N.testBit k && allN (fun c => !N.testBit (2 * c + k % 2) || !(ab c).testBit (k / 2)) c) && (!N.testBit (2 * c + k % 2) || !(ab c).testBit (k / 2))) := by
        show (N.testBit k && (allN _ c && _)) = _
        rw [Bool.and_assoc]
      have st2 : ∀ X Y : Bool, bI (X && Y) = iand (bI X) (bI Y) := fun X Y => (iand_bI X Y).symm
      rw [st, st2 (N.testBit k && allN (fun c => !N.testBit (2 * c + k % 2) || !(ab c).testBit (k / 2)) c) (!N.testBit (2 * c + k % 2) || !(ab c).testBit (k / 2))]
      cases N.testBit (2 * c + k % 2) with
      | false => rw [if_pos (show bI false = 0 from rfl)]; rfl
      | true =>
        rw [if_neg (show ¬ bI true = 0 by decide), gd_t (by omega), ha, hd, p_has (by omega) (by omega), bd_s]
        cases (ab c).testBit (k / 2) with
        | false => rw [if_neg (show ¬ ¬ bI false = 0 by decide)]; rfl
        | true => rw [if_pos (show ¬ bI true = 0 by decide)]; rfl
    · rw [fX0_plainOf_L24_s]
      unfold fX0_plainOf_b24
      rw [if_pos (by rw [h3]; omega)]
      cases (N.testBit k && allN (fun c => !N.testBit (2 * c + k % 2) || !(ab c).testBit (k / 2)) n) with
      | false => rw [if_pos (show bI false = 0 from rfl)]; rfl
      | true => rw [if_neg (show ¬ bI true = 0 by decide)]; rfl
  have := loopE (fun f k (x : Int) => fX0_plainOf_L4 f s (N : Int) x (k : Int)) (2 * n) (fun k => ((bitsOf (fun k => N.testBit k && allN (fun c => !N.testBit (2 * c + k % 2) || !(ab c).testBit (k / 2)) n) k : Nat) : Int)) (some ((plain n ab N : Nat) : Int)) (fun f k hk => ?_) (fun f => ?_) (by unfold FU; omega)
  · exact this
  · rw [fX0_plainOf_L4_s]
    unfold fX0_plainOf_b4
    rw [if_neg (by rw [h3, wr_id (by omega) (by omega)]; omega), p_has (by omega) (by omega), bd_s, inn _ _ _ (by omega)]
    unfold fX0_plainOf_b93
    rw [wr_id (by omega) (by omega), ior_bit (by omega)]
    rfl
  · rw [fX0_plainOf_L4_s]
    unfold fX0_plainOf_b4
    rw [if_pos (by rw [h3, wr_id (by omega) (by omega)]; omega)]
    rfl

set_option maxRecDepth 100000
/-! PURE: class DictProof: the heap with its map of proofs; what is told of a goal -/
/-- what stays, the heap, the map's entries, its cells, its credit -/
abbrev Wd : Type := hS × hS × List En × (Nat → Prop) × Nat
abbrev wk (w : Wd) : hS := w.1
abbrev wh (w : Wd) : hS := w.2.1
abbrev wE (w : Wd) : List En := w.2.2.1
abbrev wF (w : Wd) : Nat → Prop := w.2.2.2.1
abbrev wQ (w : Wd) : Nat := w.2.2.2.2
def okW (I : List Ist) (U : Tm → Prop) (mp : Nat) (w : Wd) : Prop := Kp (wk w) (wh w) (wF w) ∧ HM 32768 (wh w) mp (wE w) (wF w) (wQ w) ∧ EOK (wk w) I U (wE w)
/-- at most c cells more, and those of the entries that are new -/
def stW (w w' : Wd) (c : Nat) : Prop := ext (wk w) (wk w') ∧ (wh w').2.1 + wQ w' + 15 * (wE w).length ≤ (wh w).2.1 + wQ w + 15 * (wE w').length + c ∧ (wh w').2.2 + 4 * wQ w' + 60 * (wE w).length ≤ (wh w).2.2 + 4 * wQ w + 60 * (wE w').length + 4 * c
theorem stW.refl (w : Wd) : stW w w 0 := ⟨ext.refl _, Nat.le_refl _, Nat.le_refl _⟩
theorem stW.mono {w w' : Wd} {c c' : Nat} (h : stW w w' c) (hc : c ≤ c') : stW w w' c' := by
  obtain ⟨a, y, z⟩ := h
  exact ⟨a, by omega, by omega⟩
theorem stW.trans {w w' w'' : Wd} {c c' C : Nat} (h : stW w w' c) (h' : stW w' w'' c') (hc : c + c' ≤ C) : stW w w'' C := by
  obtain ⟨a, y, z⟩ := h
  obtain ⟨a', y', z'⟩ := h'
  exact ⟨a.trans a', by omega, by omega⟩
/-- the types are of a list of at most 400 -/
def UBd (U : Tm → Prop) : Prop := ∃ L : List Tm, (∀ t, U t → t ∈ L) ∧ L.length ≤ 400
theorem okW.len {I : List Ist} {U : Tm → Prop} {mp : Nat} {w : Wd} (h : okW I U mp w) (hB : UBd U) : (wE w).length ≤ 1600 := by
  obtain ⟨L, hL, l4⟩ := hB
  obtain ⟨-, M, E⟩ := h
  obtain ⟨_, _, _, _, _, _, _, nd, -⟩ := M
  have := nodup_le ((wE w).map (·.1)) ((List.range 4).flatMap (fun c : Nat => L.map (fun t : Tm => spH (hhG (c : Int) t)))) nd (fun x hx => by
    obtain ⟨e, he, rfl⟩ := List.mem_map.mp hx
    obtain ⟨c, t, a, p, hc, ht, e1, -⟩ := E e he
    refine List.mem_flatMap.mpr ⟨c.toNat, List.mem_range.mpr (by omega), List.mem_map.mpr ⟨t, hL t ht, ?_⟩⟩
    rw [e1, show ((c.toNat : Nat) : Int) = c by omega])
  rw [List.length_map] at this
  refine Nat.le_trans this ?_
  have : ∀ M : List Nat, (M.flatMap (fun c : Nat => L.map (fun t : Tm => spH (hhG (c : Int) t)))).length = L.length * M.length := by
    intro M
    induction M with
    | nil => rfl
    | cons a M ih => rw [List.flatMap_cons, List.length_append, ih, List.length_map, List.length_cons, Nat.mul_succ]; omega
  rw [this, List.length_range]
  omega
theorem okW.olW {I : List Ist} {U : Tm → Prop} {mp : Nat} {w : Wd} (h : okW I U mp w) {h' : hS} {c : Nat} (O : ol (wh w) h' c) : okW I U mp (wk w, h', wE w, wF w, wQ w) ∧ stW w (wk w, h', wE w, wF w, wQ w) c := by
  obtain ⟨K, M, E⟩ := h
  refine ⟨⟨K.ol O, M.ol K.2 O, E⟩, ext.refl _, ?_, ?_⟩
  · have := O.2.2.1; show h'.2.1 + wQ w + 15 * (wE w).length ≤ (wh w).2.1 + wQ w + 15 * (wE w).length + c; omega
  · have := O.2.2.2; show h'.2.2 + 4 * wQ w + 60 * (wE w).length ≤ (wh w).2.2 + 4 * wQ w + 60 * (wE w).length + 4 * c; omega
theorem okW.kW {I : List Ist} {U : Tm → Prop} {mp : Nat} {w : Wd} (h : okW I U mp w) {k' h' : hS} {c : Nat} (X : ext (wk w) k') (K' : Kp k' h' (wF w)) (O : ol (wh w) h' c) : okW I U mp (k', h', wE w, wF w, wQ w) ∧ stW w (k', h', wE w, wF w, wQ w) c := by
  obtain ⟨-, s⟩ := h.olW O
  obtain ⟨K, M, E⟩ := h
  exact ⟨⟨K', M.ol K.2 O, E.mono X⟩, X, s.2⟩
theorem W_goal {I : List Ist} {U : Tm → Prop} {mp : Nat} {w : Wd} (h : okW I U mp w) (c : Int) {t : Tm} {b : Nat} (T : isT (wk w) b t) :
    ∃ w', fX9_init (nwO (wh w) 9 [vi 0, vq none]) (some (wh w).2.1) c (some b) = some (wh w') ∧ okW I U mp w' ∧ stW w w' 1 ∧ isG (wk w') (wh w).2.1 c t := by
  obtain ⟨h', k', e, X, K', G, O, -⟩ := p_newGoal h.1 c T
  obtain ⟨a, b⟩ := h.kW X K' O
  exact ⟨_, e, a, b, G⟩
theorem W_prove {s : Sg} {I : List Ist} {U : Tm → Prop} {mp n : Nat} {w : Wd} (hU : UOK U) (hB : UBd U) (hn : n ≤ 4) (S : Spc0 s I) (h : okW I U mp w) (J : Ins0 s (wk w) n I) {t : Tm} {c : Int} {g : Nat} (ht : U t) (hc : 0 ≤ c ∧ c < (n : Int)) (G : isG (wk w) g c t) :
    ∃ q w', fX0_prove 16 (some mp) s (wh w) (some g) = some (some q, wh w') ∧ okW I U mp w' ∧ stW w w' 0 ∧ ∀ m, szT t ≤ m → isP (wk w') I m q c t := by
  obtain ⟨ot, h9⟩ := hU.1 t ht
  have p9 : 2 ^ szT t ≤ 512 := Nat.pow_le_pow_right (n := 2) (by omega) h9
  have hl := h.len hB
  obtain ⟨q, h', k', Nw, F', Q', e, X, K', M', E', R, ff, -, sb, -, c1, c2⟩ := p_prove hU hn (fun i hi => (J.2.2 i hi).1) S 16 t c (wk w) (wh w) (wE w) (wF w) (wQ w) g (by omega) ht hc h.1 h.2.1 h.2.2 J G (by omega)
  have la : (Nw ++ wE w).length = Nw.length + (wE w).length := List.length_append ..
  refine ⟨q, (k', h', Nw ++ wE w, F', Q'), e, ⟨K', M', E'⟩, ⟨X, ?_, ?_⟩, R⟩
  · show h'.2.1 + Q' + 15 * (wE w).length ≤ (wh w).2.1 + wQ w + 15 * (Nw ++ wE w).length + 0; omega
  · show h'.2.2 + 4 * Q' + 60 * (wE w).length ≤ (wh w).2.2 + 4 * wQ w + 60 * (Nw ++ wE w).length + 4 * 0; omega
/-- what is told of a goal, by its proof -/
theorem W_found {s : Sg} {I : List Ist} {U : Tm → Prop} {mp n : Nat} {ra ab : Nat → Nat} {w : Wd} (gs : Option Nat × Option Nat) (hU : UOK U) (C : Cls0 s n ra ab) (h : okW I U mp w) (h6 : I.length ≤ 6) (hI9 : ∀ i, i < I.length → okI n (ig I i)) {t : Tm} {c : Int} {p : Nat} (ht : U t) (hc : 0 ≤ c ∧ c < (n : Int)) (P : ∀ m, szT t ≤ m → isP (wk w) I m p c t) (h1 : rS (res I c t) = 1) {x : Int} (hx : 1 ≤ x ∧ x ≤ 6) :
    ∃ w', fX0_tellFound gs s (wh w) (some p) x = some ((if x = 1 then ((rQ (res I c t)).length : Int) else if x = 2 then rW (res I c t) else if x = 3 then ((dst (rG (res I c t)) : Nat) : Int) else if x = 4 then rD (res I c t) else if x = 5 then ((pcN (rN (res I c t)) : Nat) : Int) else ((pcN (plain n ab (rN (res I c t))) : Nat) : Int)), wh w') ∧ okW I U mp w' ∧ stW w w' (if x = 3 then 404 else 0) := by
  obtain ⟨ot, h9⟩ := hU.1 t ht
  have hn := C.2.1
  have P16 := (P 16 (by omega)).mono h.1.ext
  have c10 := P16.c.1
  have rok := (res_ok hn hI9 (szT t) c t rfl ot hc.1 hc.2).2.2.2.2
  have st0 : ∀ y : Int, ¬ y = 3 → stW w w (if y = 3 then 404 else 0) := fun y hy => by rw [if_neg hy]; exact stW.refl w
  unfold fX0_tellFound
  have hx6 : x = 1 ∨ x = 2 ∨ x = 3 ∨ x = 4 ∨ x = 5 ∨ x = 6 := by omega
  rcases hx6 with rfl | rfl | rfl | rfl | rfl | rfl
  · rw [if_pos rfl, if_pos rfl, gd_t c10, p_size10 h6 hn hI9 16 p c t ot h9 hc P16 h1, bd_s]
    exact ⟨w, rfl, h, st0 _ (by decide)⟩
  · rw [if_neg (by decide), if_pos rfl, if_neg (by decide), if_pos rfl, gd_t c10, p_worth10 h6 hn hI9 16 p c t ot h9 hc P16 h1, bd_s]
    exact ⟨w, rfl, h, st0 _ (by decide)⟩
  · obtain ⟨h', e, O⟩ := p_different gs (mp := mp) hU h6 hn hI9 h.1 ht hc (P 16 (by omega)) h1
    obtain ⟨a, b⟩ := h.olW O
    rw [if_neg (by decide), if_neg (by decide), if_pos rfl, if_neg (by decide), if_neg (by decide), if_pos rfl, e, bd_s]
    exact ⟨_, rfl, a, by rw [if_pos rfl]; exact b⟩
  · rw [if_neg (by decide), if_neg (by decide), if_neg (by decide), if_pos rfl, if_neg (by decide), if_neg (by decide), if_neg (by decide), if_pos rfl, gd_t c10, p_depth10 h6 hn hI9 16 p c t ot h9 hc P16 h1, bd_s]
    exact ⟨w, rfl, h, st0 _ (by decide)⟩
  · rw [if_neg (by decide), if_neg (by decide), if_neg (by decide), if_neg (by decide), if_pos rfl, if_neg (by decide), if_neg (by decide), if_neg (by decide), if_neg (by decide), if_pos rfl, gd_t c10, p_needs10 h6 hn hI9 16 p c t ot h9 hc P16 h1, bd_s, p_bitCount rok, bd_s]
    exact ⟨w, rfl, h, st0 _ (by decide)⟩
  · have pb : plain n ab (rN (res I c t)) < 256 := by
      have : plain n ab (rN (res I c t)) < 2 ^ (2 * n) := bitsOf_lt _ _
      have := Nat.pow_le_pow_right (n := 2) (by omega) (show 2 * n ≤ 8 by omega)
      omega
    rw [if_neg (by decide), if_neg (by decide), if_neg (by decide), if_neg (by decide), if_neg (by decide), if_neg (by decide), if_neg (by decide), if_neg (by decide), if_neg (by decide), if_neg (by decide), gd_t c10, p_needs10 h6 hn hI9 16 p c t ot h9 hc P16 h1, bd_s, p_plainOf C rok, bd_s, p_bitCount pb, bd_s]
    exact ⟨w, rfl, h, st0 _ (by decide)⟩
/-- as goalVal, of classes -/
def gVal (n : Nat) (ab : Nat → Nat) (r : Rr) (w : Int) : Int := if w = 0 then rS r else if rS r = 1 then (if w = 1 then ((rQ r).length : Int) else if w = 2 then rW r else if w = 3 then ((dst (rG r) : Nat) : Int) else if w = 4 then rD r else if w = 5 then ((pcN (rN r) : Nat) : Int) else ((pcN (plain n ab (rN r)) : Nat) : Int)) else -1
theorem gVal_A (A : As) (r : Rr) (w : Int) : gVal (asN A) (asA A) r w = goalVal A r w := rfl
theorem W_tellGoal {s : Sg} {I : List Ist} {U : Tm → Prop} {mp n : Nat} {ra ab : Nat → Nat} {w : Wd} (gs : Option Nat × Option Nat) (hU : UOK U) (hB : UBd U) (C : Cls0 s n ra ab) (S : Spc0 s I) (h : okW I U mp w) (J : Ins0 s (wk w) n I) {t : Tm} {c : Int} {k a : Nat} (hk : k < 4) (ea : gQ s 6 (k : Int) = some a) (T : isT (wk w) a t) (ht : U t) (hc : 0 ≤ c ∧ c < (n : Int)) {x : Int} (hx : 0 ≤ x ∧ x ≤ 6) :
    ∃ w', fX0_tellGoal gs (some mp) s (wh w) c (k : Int) x = some (gVal n ab (res I c t) x, wh w') ∧ okW I U mp w' ∧ stW w w' (if x = 3 then 405 else 1) := by
  obtain ⟨ot, h9⟩ := hU.1 t ht
  have hI9 : ∀ i, i < I.length → okI n (ig I i) := fun i hi => (J.2.2 i hi).1
  obtain ⟨w1, e1, o1, s1, G⟩ := W_goal h c T
  obtain ⟨q, w2, e2, o2, s2, P⟩ := W_prove hU hB C.2.1 S o1 (J.mono s1.1) ht hc G
  have s12 := s1.trans s2 (C := 1) (by omega)
  have ho := (P (szT t) (Nat.le_refl _)).mono o2.1.ext |>.o hI9 ot
  unfold fX0_tellGoal fX0_tellGoal_b52 gVal
  rw [nwS_e, bd_s]
  dsimp only
  rw [gd_t (by omega), ea, e1, bd_s, e2, bd_s]
  dsimp only
  by_cases x0 : x = 0
  · rw [if_neg (by simpa using x0), ho, bd_s, if_pos x0]
    exact ⟨w2, rfl, o2, s12.mono (by split <;> omega)⟩
  · rw [if_pos x0, ho, bd_s, if_neg x0]
    by_cases h1 : rS (res I c t) = 1
    · obtain ⟨w3, e3, o3, s3⟩ := W_found gs hU C o2 J.2.1 hI9 ht hc P h1 (x := x) (by omega)
      rw [if_neg (by simpa using h1), e3, bd_s, if_pos h1]
      exact ⟨w3, rfl, o3, s12.trans s3 (by split <;> omega)⟩
    · rw [if_pos h1, if_neg h1]
      exact ⟨w2, rfl, o2, s12.mono (by split <;> omega)⟩

