/-! the pure laws: X33 X34 X35 X36 -/
set_option maxRecDepth 100000
/-! PURE: class DictProof: a page is looked through: conditions, instances -/
section FLT
variable {P : List Int}
theorem irm2 {n : Nat} (h : n < 100) : irm (n : Int) 2 = ((n % 2 : Nat) : Int) := by rw [p_irm (by omega) (by omega) (by omega) (by omega)]; omega
theorem cd_sign {s : Sg} {C E m sz va cd : Nat} {c : Int} (S : IS s C E m 2 0 sz va cd) (hC : C ≤ 4) (hva : va < 4) (hcd : cd < 10) :
    ∃ s', fX0_isConditionSign s c = some (bI (if cd % 2 = 0 then decide (va ≠ 0 ∧ cd + 1 < 4 ∧ 48 ≤ c ∧ c < 48 + (C : Int)) else decide ((c = 120 ∨ c = 121) ∧ va.testBit (c - 120).toNat = true)), s') ∧ keepS LF s s' ∧ (∀ i, gA s' 18 i = gA s 18 i) ∧ IS s' C E m 2 0 sz va (cd + 1) := by
  obtain ⟨h10, h11, h12, h13, h14, h15, h16, h17⟩ := S
  have e17 : wr (gI s 17 + 1) = ((cd + 1 : Nat) : Int) := by rw [h17, wr_id (by omega) (by omega)]; rfl
  have g17 : gI (sI s 17 ((cd + 1 : Nat) : Int)) 17 = ((cd + 1 : Nat) : Int) := by rw [gI_sI, if_pos rfl]
  have g16 : gI (sI s 17 ((cd + 1 : Nat) : Int)) 16 = (va : Int) := h16
  have g10 : gI (sI s 17 ((cd + 1 : Nat) : Int)) 10 = (C : Int) := h10
  refine ⟨sI s 17 ((cd + 1 : Nat) : Int), ?_, keepI _ s (by decide) _, fun _ => rfl, h10, h11, h12, h13, h14, h15, h16, g17⟩
  unfold fX0_isConditionSign fX0_isConditionSign_b60 fX0_isConditionSign_b61 fX0_isConditionSign_b87 fX0_isConditionSign_b88
  rw [e17, g17, g16, irm2 (by omega)]
  by_cases ev : cd % 2 = 0
  · rw [if_neg (by omega), if_pos ev]
    by_cases v0 : va = 0
    · rw [if_pos (by omega), gd_t (by simp), decide_eq_false (by rintro ⟨q, -⟩; exact q v0)]; rfl
    · rw [if_neg (by omega)]
      by_cases c4 : cd + 1 < 4
      · rw [if_neg (by omega), g10, wr_id (x := 48 + (C : Int)) (by omega) (by omega), wr_id (by omega) (by omega), p0_isIn, bd_s]
        by_cases cc : 48 ≤ c ∧ c < 48 + (C : Int)
        · rw [decide_eq_true (show 48 ≤ c ∧ c ≤ 48 + (C : Int) - 1 by omega), if_neg (show ¬ bI true = 0 by decide), gd_t (by simp), decide_eq_true ⟨v0, c4, cc.1, cc.2⟩]; rfl
        · rw [decide_eq_false (show ¬ (48 ≤ c ∧ c ≤ 48 + (C : Int) - 1) by omega), if_pos (show bI false = 0 from rfl), gd_t (by simp), decide_eq_false (by rintro ⟨-, -, q1, q2⟩; exact cc ⟨q1, q2⟩)]; rfl
      · rw [if_pos (by omega), gd_t (by simp), decide_eq_false (by rintro ⟨-, q, -⟩; exact c4 q)]; rfl
  · rw [if_pos (by omega), if_neg ev, p0_isV, bd_s]
    by_cases cx : c = 120 ∨ c = 121
    · rw [(b01_1 (p := c = 120 ∨ c = 121)).mpr cx, if_neg (by decide), wr_id (by omega) (by omega), show c - 120 = (((c - 120).toNat : Nat) : Int) by omega, p_has (by omega) (by omega), bd_s]
      simp only [Int.toNat_natCast]
      by_cases q : va.testBit (c - 120).toNat = true
      · rw [if_neg (by rw [q]; decide), gd_t (by simp), decide_eq_true ⟨cx, q⟩]; rfl
      · rw [if_pos (by rw [show va.testBit (c - 120).toNat = false by simpa using q]; rfl), gd_t (by simp), decide_eq_false (fun z => q z.2)]; rfl
    · rw [(b01_0 (p := c = 120 ∨ c = 121)).mpr cx, if_pos rfl, gd_t (by simp), decide_eq_false (fun q => cx q.1)]; rfl
/-- an instance's sign after its head, that begins no other instance -/
theorem is_sign {s s' : Sg} {C E m sz va cd k : Nat} {c : Int} {v : Int} (S : IS s C E m 2 0 sz va cd) (hcd : cd < 10) (h : ¬ (c = 44 ∧ cd % 2 = 0 ∧ m < 6)) (e : fX0_isConditionSign s c = some (v, s')) : fX0_isInstanceSign s (k : Int) c = some (v, s') := by
  obtain ⟨h10, h11, h12, h13, h14, h15, h16, h17⟩ := S
  unfold fX0_isInstanceSign fX0_isInstanceSign_b90
  rw [if_pos (by rw [h11]; decide), if_pos (by rw [h11]; decide), if_pos (by rw [h14]; decide), e, bd_s]
  by_cases c1 : c = 44
  · rw [if_neg (by simpa using c1), h17, irm2 (by omega)]
    by_cases c2 : cd % 2 = 0
    · rw [if_neg (by omega), if_pos (by rw [h13]; have : ¬ m < 6 := fun q => h ⟨c1, c2, q⟩; omega)]
    · rw [if_pos (by omega)]
  · rw [if_pos c1]
/-- a page's fault that lies in an instance: it isn't whole -/
def Bad (P : List Int) (k : Nat) (s : Sg) : Prop := k < P.length ∨ (k = P.length ∧ (gI s 11 ≠ 2 ∨ 0 < gI s 14 ∨ irm (gI s 17) 2 = 1))
theorem flt_conds (hl : P.length ≤ 84) {C : Nat} (hC : C ≤ 4) {t : Tm} {va : Nat} (hva : va < 4) (hoc : ∀ v, v < 2 → va.testBit v = occ v t) :
    ∀ (m k : Nat) (D : List (Int × Nat)) (s : Sg) (f E mm sz : Nat), D.length + m = 2 → IS s C E mm 2 0 sz va (2 * D.length) → Pg0 s P → k ≤ P.length → P.length + 2 ≤ f + k →
    ((rdD P C t m k D).2.1 = false → ∃ s', fX0_fault_L22 f s (k : Int) = some (((rdD P C t m k D).1 : Int), s') ∧ keepS LF s s' ∧ gI s' 12 = (E : Int) ∧ Bad P (rdD P C t m k D).1 s') ∧
    ((rdD P C t m k D).2.1 = true → k ≤ (rdD P C t m k D).1 ∧ (rdD P C t m k D).1 ≤ P.length ∧ ∃ s' f', fX0_fault_L22 f s (k : Int) = fX0_fault_L22 f' s' (((rdD P C t m k D).1 : Nat) : Int) ∧ keepS LF s s' ∧ (∀ i, gA s' 18 i = gA s 18 i) ∧ IS s' C E mm 2 0 sz va (2 * (rdD P C t m k D).2.2.length) ∧ (rdD P C t m k D).2.2.length ≤ 2 ∧ ((rdD P C t m k D).2.2.length = 2 ∨ va = 0 ∨ ¬ (48 ≤ pl P (rdD P C t m k D).1 ∧ pl P (rdD P C t m k D).1 ≤ 57)) ∧ P.length + 2 ≤ f' + (rdD P C t m k D).1) := by
  have v0 : (occ 0 t = true ∨ occ 1 t = true) ↔ va ≠ 0 := by
    rw [← hoc 0 (by omega), ← hoc 1 (by omega)]
    have : va = 0 ∨ va = 1 ∨ va = 2 ∨ va = 3 := by omega
    rcases this with rfl | rfl | rfl | rfl <;> decide
  intro m
  induction m with
  | zero =>
    intro k D s f E mm sz hm S hp hk hf
    simp only [rdD]
    exact ⟨(fun q => by cases q), fun _ => ⟨Nat.le_refl _, hk, s, f, rfl, keepS.refl _ _, fun _ => rfl, S, by omega, Or.inl (by omega), hf⟩⟩
  | succ m ih =>
    intro k D s f E mm sz hm S hp hk hf
    simp only [rdD]
    by_cases c1 : (occ 0 t = true ∨ occ 1 t = true) ∧ 0 ≤ pl P k - 48 ∧ pl P k - 48 ≤ 9
    · rw [if_neg (fun q => q c1)]
      have hkl : k < P.length := by
        rcases Nat.lt_or_ge k P.length with w | w
        · exact w
        · have := c1.2.1; rw [pl_end w] at this; omega
      obtain ⟨f, rfl⟩ : ∃ x, f = x + 1 := ⟨f - 1, by omega⟩
      have E12 := S.2.2.1
      obtain ⟨s1, e1, kp1, g18, S1⟩ := cd_sign (c := pl P k) S hC hva (by omega)
      rw [if_pos (by omega)] at e1
      have st := flt_i (f := f) hp hl hkl (by rw [E12]; omega) (is_sign (k := k) S (by omega) (by rintro ⟨q, -⟩; omega) e1)
      by_cases c2 : pl P k - 48 < (C : Int)
      · rw [if_neg (by omega)]
        rw [decide_eq_true ⟨v0.mp c1.1, by omega, by omega, by omega⟩, if_neg (show ¬ bI true = 0 by decide)] at st
        have hp1 := hp.keep kp1 (by decide) (by decide)
        by_cases c3 : (pl P (k + 1) = 120 ∨ pl P (k + 1) = 121) ∧ occ (pl P (k + 1) - 120).toNat t = true
        · rw [if_neg (fun q => q c3)]
          have hkl1 : k + 1 < P.length := by
            rcases Nat.lt_or_ge (k + 1) P.length with w | w
            · exact w
            · have := c3.1; rw [pl_end w] at this; omega
          obtain ⟨f, rfl⟩ : ∃ x, f = x + 1 := ⟨f - 1, by omega⟩
          obtain ⟨s2, e2, kp2, g18', S2⟩ := cd_sign (c := pl P (k + 1)) S1 hC hva (by omega)
          rw [if_neg (by omega)] at e2
          have st2 := flt_i (f := f) hp1 hl hkl1 (by rw [S1.2.2.1]; omega) (is_sign (k := k + 1) S1 (by omega) (by rintro ⟨q, -⟩; rcases c3.1 with z | z <;> omega) e2)
          rw [decide_eq_true ⟨c3.1, by rw [hoc _ (by rcases c3.1 with z | z <;> omega)]; exact c3.2⟩, if_neg (show ¬ bI true = 0 by decide)] at st2
          have S2' : IS s2 C E mm 2 0 sz va (2 * (D ++ [(pl P k - 48, (pl P (k + 1) - 120).toNat)]).length) := by
            rw [List.length_append]
            have : 2 * (D.length + [(pl P k - 48, (pl P (k + 1) - 120).toNat)].length) = 2 * D.length + 1 + 1 := by simp; omega
            rw [this]; exact S2
          obtain ⟨d1, d2⟩ := ih (k + 1 + 1) (D ++ [(pl P k - 48, (pl P (k + 1) - 120).toNat)]) s2 f E mm sz (by rw [List.length_append]; simp; omega) S2' (hp1.keep kp2 (by decide) (by decide)) (by omega) (by omega)
          refine ⟨fun q => ?_, fun q => ?_⟩
          · obtain ⟨s', e, kp, z1, z2⟩ := d1 q
            exact ⟨s', (st.trans st2).trans e, kp1.trans (kp2.trans kp), z1, z2⟩
          · obtain ⟨z1, z2, s', f', e, kp, z3, z4⟩ := d2 q
            exact ⟨Nat.le_trans (by omega) z1, z2, s', f', (st.trans st2).trans e, kp1.trans (kp2.trans kp), fun i => (z3 i).trans ((g18' i).trans (g18 i)), z4⟩
        · rw [if_pos c3]
          refine ⟨fun _ => ?_, (fun q => by cases q)⟩
          obtain ⟨f, rfl⟩ : ∃ x, f = x + 1 := ⟨f - 1, by omega⟩
          by_cases hkl1 : k + 1 < P.length
          · obtain ⟨s2, e2, kp2, g18', S2⟩ := cd_sign (c := pl P (k + 1)) S1 hC hva (by omega)
            rw [if_neg (by omega)] at e2
            have st2 := flt_i (f := f) hp1 hl hkl1 (by rw [S1.2.2.1]; omega) (is_sign (k := k + 1) S1 (by omega) (by rintro ⟨-, q, -⟩; omega) e2)
            rw [decide_eq_false (by rintro ⟨q1, q2⟩; exact c3 ⟨q1, by rw [← hoc _ (by rcases q1 with z | z <;> omega)]; exact q2⟩), if_pos (show bI false = 0 from rfl)] at st2
            exact ⟨s2, st.trans st2, kp1.trans kp2, S2.2.2.1, Or.inl hkl1⟩
          · have : k + 1 = P.length := by omega
            refine ⟨s1, st.trans (flt_end hp1 (by omega)), kp1, S1.2.2.1, Or.inr ⟨this, Or.inr (Or.inr ?_)⟩⟩
            rw [S1.2.2.2.2.2.2.2, irm2 (by omega)]
            omega
      · rw [if_pos c2]
        rw [decide_eq_false (by rintro ⟨-, -, -, q⟩; omega), if_pos (show bI false = 0 from rfl)] at st
        exact ⟨fun _ => ⟨s1, st, kp1, S1.2.2.1, Or.inl hkl⟩, (fun q => by cases q)⟩
    · rw [if_pos c1]
      refine ⟨(fun q => by cases q), fun _ => ⟨Nat.le_refl _, hk, s, f, rfl, keepS.refl _ _, fun _ => rfl, S, by simp only; omega, ?_, hf⟩⟩
      right
      by_cases q : va = 0
      · exact Or.inl q
      · right
        rintro ⟨q1, q2⟩
        have q1 : 48 ≤ pl P k := q1
        have q2 : pl P k ≤ 57 := q2
        exact c1 ⟨v0.mpr q, by omega, by omega⟩
/-- an instance begins -/
def IB (s : Sg) (C E m : Nat) : Prop := gI s 10 = (C : Int) ∧ gI s 11 = 0 ∧ gI s 12 = (E : Int) ∧ gI s 13 = (m : Int)
theorem flt_inst (hl : P.length ≤ 84) {C E m k f : Nat} {s : Sg} (hC : C ≤ 4) (hm : m < 6) (S : IB s C E m) (hp : Pg0 s P) (hk : k ≤ P.length) (hf : P.length + 2 ≤ f + k) :
    ((rdI P C k).2.1 = false → ∃ s', fX0_fault_L22 f s (k : Int) = some (((rdI P C k).1 : Int), s') ∧ keepS LF s s' ∧ gI s' 12 = (E : Int) ∧ Bad P (rdI P C k).1 s') ∧
    ((rdI P C k).2.1 = true → k < (rdI P C k).1 ∧ (rdI P C k).1 ≤ P.length ∧ ∃ s' f' sz va cd, fX0_fault_L22 f s (k : Int) = fX0_fault_L22 f' s' (((rdI P C k).1 : Nat) : Int) ∧ keepS LF s s' ∧ (∀ i : Nat, i < m → gA s' 18 (i : Int) = gA s 18 (i : Int)) ∧ gA s' 18 (m : Int) = (k : Int) ∧ IS s' C E (m + 1) 2 0 sz va cd ∧ cd % 2 = 0 ∧ cd < 6 ∧ va < 4 ∧ (cd = 4 ∨ va = 0 ∨ ¬ (48 ≤ pl P (rdI P C k).1 ∧ pl P (rdI P C k).1 ≤ 57)) ∧ P.length + 2 ≤ f' + (rdI P C k).1) := by
  obtain ⟨h10, h11, h12, h13⟩ := S
  obtain ⟨f, rfl⟩ : ∃ x, f = x + 1 := ⟨f - 1, by omega⟩
  by_cases hkl : k < P.length
  · -- its kind
    have ib : fX0_isInstanceSign s (k : Int) (pl P k) = some (bI (decide (kdB (pl P k) ≠ -1)), sI (sI (sI (sI (sI (sI (sA s 18 (m : Int) (k : Int)) 13 ((m : Int) + 1)) 14 1) 15 0) 16 0) 17 0) 11 1) := by
      have e13 : wr (gI (sA s 18 (m : Int) (k : Int)) 13 + 1) = (m : Int) + 1 := by rw [show gI (sA s 18 (m : Int) (k : Int)) 13 = (m : Int) from h13, wr_id (by omega) (by omega)]
      unfold fX0_isInstanceSign fX0_isBegun fX0_isBegun_b58
      rw [if_neg (by rw [h11]; decide), h13, gd_t (by omega), p0_kindOf, bd_s, e13]
      by_cases q : kdB (pl P k) = -1
      · rw [if_pos q, gd_t (by simp), bd_s, decide_eq_false (by simpa using q)]; rfl
      · rw [if_neg q, gd_t (by simp), bd_s, decide_eq_true q]; rfl
    have st := flt_i (f := f) hp hl hkl (by rw [h12]; omega) ib
    have kp1 : keepS LF s (sI (sI (sI (sI (sI (sI (sA s 18 (m : Int) (k : Int)) 13 ((m : Int) + 1)) 14 1) 15 0) 16 0) 17 0) 11 1) := ((((((keepA _ s (by decide) _ _).sI (by decide) _).sI (by decide) _).sI (by decide) _).sI (by decide) _).sI (by decide) _).sI (by decide) _
    have a18 : ∀ i : Nat, i < m → gA (sI (sI (sI (sI (sI (sI (sA s 18 (m : Int) (k : Int)) 13 ((m : Int) + 1)) 14 1) 15 0) 16 0) 17 0) 11 1) 18 (i : Int) = gA s 18 (i : Int) := fun i hi => by
      show gA (sA s 18 (m : Int) (k : Int)) 18 (i : Int) = _
      rw [gA_sA, if_neg (by rintro ⟨-, z⟩; omega)]
    have b18 : gA (sI (sI (sI (sI (sI (sI (sA s 18 (m : Int) (k : Int)) 13 ((m : Int) + 1)) 14 1) 15 0) 16 0) 17 0) 11 1) 18 (m : Int) = (k : Int) := by
      show gA (sA s 18 (m : Int) (k : Int)) 18 (m : Int) = _
      rw [gA_sA, if_pos ⟨rfl, rfl⟩]
    have S1 : IS (sI (sI (sI (sI (sI (sI (sA s 18 (m : Int) (k : Int)) 13 ((m : Int) + 1)) 14 1) 15 0) 16 0) 17 0) 11 1) C E (m + 1) 1 1 0 0 0 := ⟨h10, rfl, h12, rfl, rfl, rfl, rfl, rfl⟩
    generalize (sI (sI (sI (sI (sI (sI (sA s 18 (m : Int) (k : Int)) 13 ((m : Int) + 1)) 14 1) 15 0) 16 0) 17 0) 11 1) = s1 at *
    have hp1 := hp.keep kp1 (by decide) (by decide)
    unfold rdI
    by_cases c1 : kdB (pl P k) = -1
    · rw [if_pos c1]
      rw [decide_eq_false (by simpa using c1), if_pos (show bI false = 0 from rfl)] at st
      exact ⟨fun _ => ⟨s1, st, kp1, S1.2.2.1, Or.inl hkl⟩, (fun q => by cases q)⟩
    · rw [if_neg c1]
      rw [decide_eq_true c1, if_neg (show ¬ bI true = 0 by decide)] at st
      -- its class
      by_cases hkl1 : k + 1 < P.length
      · obtain ⟨f, rfl⟩ : ∃ x, f = x + 1 := ⟨f - 1, by omega⟩
        obtain ⟨g10, g11, g12, g13, g14, g15, g16, g17⟩ := S1
        have ic : fX0_isInstanceSign s1 ((k + 1 : Nat) : Int) (pl P (k + 1)) = some (bI (decide (48 ≤ pl P (k + 1) ∧ pl P (k + 1) < 48 + (C : Int))), sI s1 11 2) := by
          unfold fX0_isInstanceSign
          rw [if_pos (by rw [g11]; decide), if_neg (by rw [g11]; decide), show gI (sI s1 11 2) 10 = (C : Int) from g10, wr_id (x := 48 + (C : Int)) (by omega) (by omega), wr_id (by omega) (by omega), p0_isIn, bd_s]
          congr 3
          exact decide_eq_decide.mpr (by omega)
        have st2 := flt_i (f := f) hp1 hl hkl1 (by rw [g12]; omega) ic
        have kp2 : keepS LF s1 (sI s1 11 2) := keepI _ s1 (by decide) _
        have S2 : IS (sI s1 11 2) C E (m + 1) 2 1 0 0 0 := ⟨g10, rfl, g12, g13, g14, g15, g16, g17⟩
        by_cases c2 : 0 ≤ pl P (k + 1) - 48 ∧ pl P (k + 1) - 48 < (C : Int)
        · rw [if_neg (fun q => q c2)]
          rw [decide_eq_true (show 48 ≤ pl P (k + 1) ∧ pl P (k + 1) < 48 + (C : Int) by omega), if_neg (show ¬ bI true = 0 by decide)] at st2
          have hp2 := hp1.keep kp2 (by decide) (by decide)
          obtain ⟨d1, d2⟩ := flt_head hl 6 (k + 2) 0 1 0 (sI s1 11 2) f C E (m + 1) 0 (by omega) (by omega) S2 (by omega) hp2 (by omega) (by omega)
          have st12 := st.trans st2
          cases ok : (scS P 5 6 (k + 2) 0 1).2 with
          | false =>
            rw [if_pos rfl]
            obtain ⟨s', e, kp, z1, z2⟩ := d1 ok
            refine ⟨fun _ => ⟨s', st12.trans e, kp1.trans (kp2.trans kp), z1, ?_⟩, (fun q => by cases q)⟩
            rcases z2 with z | ⟨z, z'⟩
            · exact Or.inl z
            · exact Or.inr ⟨z, Or.inr (Or.inl z')⟩
          | true =>
            rw [if_neg (by decide)]
            obtain ⟨z1, z2, s3, f3, sz3, va3, e3, kp3, z3, S3, z5, z6, z7⟩ := d2 ok
            obtain ⟨t, et, ot, ek⟩ := scS_one (k' := (scS P 5 6 (k + 2) 0 1).1) (Prod.ext rfl ok)
            rw [et]
            simp only
            generalize (scS P 5 6 (k + 2) 0 1).1 = k1 at *
            have hlt := (ptr_ok P _ _ _ _ et).2.2
            have hoc : ∀ v, v < 2 → va3.testBit v = occ v t := by
              intro v hv
              rw [z6 v hv, Nat.zero_testBit, Bool.false_or, ← inHead_occ ot hlt hv, ek, show k + 2 + szT t - (k + 2) = szT t by omega]
            obtain ⟨q1, q2⟩ := flt_conds hl hC z5 hoc 2 k1 [] s3 f3 E (m + 1) sz3 (by simp) S3 (hp2.keep kp3 (by decide) (by decide)) z2 z7
            refine ⟨fun q => ?_, fun q => ?_⟩
            · obtain ⟨s', e, kp, y1, y2⟩ := q1 q
              exact ⟨s', (st12.trans e3).trans e, kp1.trans (kp2.trans (kp3.trans kp)), y1, y2⟩
            · obtain ⟨y1, y2, s', f', e, kp, y3, y4, y5, y6, y7⟩ := q2 q
              refine ⟨by omega, y2, s', f', sz3, va3, _, (st12.trans e3).trans e, kp1.trans (kp2.trans (kp3.trans kp)), fun i hi => (y3 _).trans ((z3 _).trans (a18 i hi)), (y3 _).trans ((z3 _).trans b18), y4, by omega, by omega, z5, ?_, y7⟩
              rcases y6 with y | y | y
              · exact Or.inl (by omega)
              · exact Or.inr (Or.inl y)
              · exact Or.inr (Or.inr y)
        · rw [if_pos c2]
          rw [decide_eq_false (show ¬ (48 ≤ pl P (k + 1) ∧ pl P (k + 1) < 48 + (C : Int)) by omega), if_pos (show bI false = 0 from rfl)] at st2
          exact ⟨fun _ => ⟨_, st.trans st2, kp1.trans kp2, g12, Or.inl hkl1⟩, (fun q => by cases q)⟩
      · have e0 := pl_end (P := P) (k := k + 1) (by omega)
        have hkl1' : k + 1 = P.length := by omega
        obtain ⟨f, rfl⟩ : ∃ x, f = x + 1 := ⟨f - 1, by omega⟩
        rw [e0, if_pos (by omega)]
        refine ⟨fun _ => ⟨s1, st.trans (flt_end hp1 (by omega)), kp1, S1.2.2.1, Or.inr ⟨hkl1', Or.inl (by rw [S1.2.1]; decide)⟩⟩, (fun q => by cases q)⟩
  · have hkl' : k = P.length := by omega
    have e0 := pl_end (P := P) (k := k) (by omega)
    have er : rdI P C k = (k, false, ist0) := by
      unfold rdI
      rw [e0, if_pos (by decide)]
    rw [er]
    exact ⟨fun _ => ⟨s, flt_end hp (by omega), keepS.refl _ _, h12, Or.inr ⟨hkl', Or.inl (by rw [h11]; decide)⟩⟩, (fun q => by cases q)⟩
end FLT

set_option maxRecDepth 100000
/-! PURE: class DictProof: fault -/
theorem ig_pre {I : List Ist} {x : Ist} {i : Nat} (hi : i < I.length) : ig (I ++ [x]) i = ig I i := by
  unfold ig
  rw [List.getD_eq_getElem?_getD, List.getD_eq_getElem?_getD, List.getElem?_append_left hi]
theorem ig_last {I : List Ist} {x : Ist} : ig (I ++ [x]) I.length = x := by
  unfold ig
  rw [List.getD_eq_getElem?_getD, List.getElem?_append_right (Nat.le_refl _)]
  simp
/-- where an instance lies on the page -/
def StI (s : Sg) (P : List Int) (C : Nat) (I : List Ist) (i : Nat) : Prop := ∃ st e : Nat, gA s 18 (i : Int) = (st : Int) ∧ st < P.length ∧ rdI P C st = (e, true, ig I i) ∧ (i + 1 < I.length → gA s 18 ((i + 1 : Nat) : Int) = ((e + 1 : Nat) : Int)) ∧ (i + 1 = I.length → e = P.length)
theorem flt_insts {P : List Int} (hl : P.length ≤ 84) {C E : Nat} (hC : C ≤ 4) : ∀ (m k : Nat) (I : List Ist) (s : Sg) (f : Nat), I.length + m = 6 → 0 < m → IB s C E I.length → Pg0 s P → k ≤ P.length → P.length + 2 ≤ f + k →
    (¬ ((rdIs P C m k I).2.1 = true ∧ (rdIs P C m k I).1 = P.length) → ∃ s', fX0_fault_L22 f s (k : Int) = some (((rdIs P C m k I).1 : Int), s') ∧ keepS LF s s' ∧ gI s' 12 = (E : Int) ∧ Bad P (rdIs P C m k I).1 s') ∧
    ((rdIs P C m k I).2.1 = true → (rdIs P C m k I).1 = P.length → ∃ s', fX0_fault_L22 f s (k : Int) = some ((P.length : Int), s') ∧ keepS LF s s' ∧ gI s' 10 = (C : Int) ∧ gI s' 11 = 2 ∧ gI s' 12 = (E : Int) ∧ gI s' 13 = ((rdIs P C m k I).2.2.length : Int) ∧ gI s' 14 = 0 ∧ irm (gI s' 17) 2 = 0 ∧ (rdIs P C m k I).2.2.length ≤ 6 ∧ I.length < (rdIs P C m k I).2.2.length ∧ (∀ i : Nat, i < I.length → gA s' 18 (i : Int) = gA s 18 (i : Int) ∧ ig (rdIs P C m k I).2.2 i = ig I i) ∧ gA s' 18 (I.length : Int) = (k : Int) ∧ ∀ i, I.length ≤ i → i < (rdIs P C m k I).2.2.length → StI s' P C (rdIs P C m k I).2.2 i) := by
  intro m
  induction m with
  | zero => intro k I s f _ h; omega
  | succ m ih =>
    intro k I s f hm _ S hp hk hf
    obtain ⟨c1, c2⟩ := flt_inst (f := f) hl hC (by omega) S hp hk hf
    simp only [rdIs]
    cases ok : (rdI P C k).2.1 with
    | false =>
      rw [if_pos rfl]
      obtain ⟨s', e, kp, z⟩ := c1 ok
      exact ⟨fun _ => ⟨s', e, kp, z⟩, (fun q => by cases q)⟩
    | true =>
      rw [if_neg (by decide)]
      obtain ⟨lt, le, s1, f1, sz, va, cd, e1, kp1, a18, b18, S1, cde, cd6, va4, stop, hf1⟩ := c2 ok
      have er : rdI P C k = ((rdI P C k).1, true, (rdI P C k).2.2) := by rw [← ok]
      generalize hk' : (rdI P C k).1 = k' at *
      generalize hx : (rdI P C k).2.2 = x at *
      have hp1 : Pg0 s1 P := hp.keep kp1 (by decide) (by decide)
      obtain ⟨f1, rfl⟩ : ∃ z, f1 = z + 1 := ⟨f1 - 1, by omega⟩
      obtain ⟨g10, g11, g12, g13, g14, g15, g16, g17⟩ := id S1
      by_cases cc : I.length + 1 < 6 ∧ pl P k' = 44
      · rw [if_pos cc]
        have hkl : k' < P.length := by
          rcases Nat.lt_or_ge k' P.length with w | w
          · exact w
          · have := cc.2; rw [pl_end w] at this; omega
        have ic : fX0_isInstanceSign s1 (k' : Int) (pl P k') = some (1, sI s1 11 0) := by
          unfold fX0_isInstanceSign
          rw [if_pos (by rw [g11]; decide), if_pos (by rw [g11]; decide), if_pos (by rw [g14]; decide), if_neg (by rw [cc.2]; decide), g17, irm2 (by omega), if_neg (by omega), if_neg (by rw [g13]; omega)]
        have st := flt_i (f := f1) hp1 hl hkl (by rw [g12]; omega) ic
        rw [if_neg (by decide)] at st
        have kp2 : keepS LF s1 (sI s1 11 0) := keepI _ s1 (by decide) _
        obtain ⟨d1, d2⟩ := ih (k' + 1) (I ++ [x]) (sI s1 11 0) f1 (by simp; omega) (by omega) ⟨g10, rfl, g12, by rw [List.length_append]; exact g13⟩ (hp1.keep kp2 (by decide) (by decide)) (by omega) (by omega)
        refine ⟨fun q => ?_, fun q1 q2 => ?_⟩
        · obtain ⟨s', e, kp, z⟩ := d1 q
          exact ⟨s', (e1.trans st).trans e, kp1.trans (kp2.trans kp), z⟩
        · obtain ⟨s', e, kp, y10, y11, y12, y13, y14, y17, y6, ylt, ypre, yst, yall⟩ := d2 q1 q2
          have ll : (I ++ [x]).length = I.length + 1 := by simp
          rw [ll] at ylt ypre yst yall
          have p1 := ypre I.length (by omega)
          have im : gA s' 18 (I.length : Int) = (k : Int) := by rw [p1.1]; exact b18
          refine ⟨s', (e1.trans st).trans e, kp1.trans (kp2.trans kp), y10, y11, y12, y13, y14, y17, y6, by omega, fun i hi => ?_, im, fun i hi1 hi2 => ?_⟩
          · have := ypre i (by omega)
            exact ⟨this.1.trans (a18 i hi), this.2.trans (ig_pre hi)⟩
          · by_cases ii : i = I.length
            · subst ii
              refine ⟨k, k', im, by omega, ?_, fun _ => yst, fun q => by omega⟩
              rw [p1.2, ig_last]; exact er
            · exact yall i (by omega) hi2
      · rw [if_neg cc]
        have stopped : k' < P.length → ∃ s', fX0_fault_L22 (f1 + 1) s1 (k' : Int) = some ((k' : Int), s') ∧ keepS LF s1 s' ∧ gI s' 12 = (E : Int) := by
          intro hkl
          obtain ⟨s2, e2, kp2, g18, S2⟩ := cd_sign (c := pl P k') S1 hC va4 (by omega)
          rw [if_pos cde] at e2
          have ns : ¬ (pl P k' = 44 ∧ cd % 2 = 0 ∧ I.length + 1 < 6) := by rintro ⟨q, -, q2⟩; exact cc ⟨q2, q⟩
          have st := flt_i (f := f1) hp1 hl hkl (by rw [g12]; omega) (is_sign (k := k') S1 (by omega) ns e2)
          rw [decide_eq_false (by
            rintro ⟨q1, q2, q3, q4⟩
            rcases stop with z | z | z
            · omega
            · exact q1 z
            · exact z ⟨q3, by omega⟩), if_pos (show bI false = 0 from rfl)] at st
          exact ⟨s2, st, kp2, S2.2.2.1⟩
        refine ⟨fun q => ?_, fun _ q2 => ?_⟩
        · have hkl : k' < P.length := by
            rcases Nat.lt_or_ge k' P.length with w | w
            · exact w
            · exact absurd ⟨rfl, by simp only; omega⟩ q
          obtain ⟨s', e, kp, z⟩ := stopped hkl
          exact ⟨s', e1.trans e, kp1.trans kp, z, Or.inl hkl⟩
        · have q2 : k' = P.length := q2
          have ll : (I ++ [x]).length = I.length + 1 := by simp
          have fe : fX0_fault_L22 (f1 + 1) s1 (k' : Int) = some ((P.length : Int), s1) := by rw [flt_end hp1 (by omega), q2]
          refine ⟨s1, e1.trans fe, kp1, g10, g11, g12, by rw [ll]; exact g13, g14, by rw [g17, irm2 (by omega)]; omega, by rw [ll]; omega, by rw [ll]; omega, fun i hi => ⟨a18 i hi, ig_pre hi⟩, b18, fun i hi1 hi2 => ?_⟩
          rw [ll] at hi2
          have : i = I.length := by omega
          subst this
          refine ⟨k, k', b18, by omega, ?_, fun q => ?_, fun _ => q2⟩
          · rw [ig_last]; exact er
          · rw [ll] at q; omega
/-- a page is looked through -/
def FltR (P : List Int) (s : Sg) (Z : Option (Int × Sg)) : Prop := ∃ s', Z = some (((rd P).1 : Int), s') ∧ keepS LF s s' ∧ match (rd P).2 with
  | none => ((rd P).1 < P.length ∨ gI s' 12 = -1 ∨ gI s' 11 ≠ 2 ∨ 0 < gI s' 14 ∨ irm (gI s' 17) 2 = 1)
  | some (L, I) => (rd P).1 = P.length ∧ L = (rdCs P 4 0 []).2.2 ∧ (rdCs P 4 0 []).2.1 = true ∧ gI s' 10 = (L.length : Int) ∧ L.length ≤ 4 ∧ 0 < L.length ∧ gI s' 12 = ((rdCs P 4 0 []).1 : Int) ∧ (rdCs P 4 0 []).1 < P.length ∧ gI s' 13 = (I.length : Int) ∧ 0 < I.length ∧ I.length ≤ 6 ∧ gI s' 11 = 2 ∧ gI s' 14 = 0 ∧ irm (gI s' 17) 2 = 0 ∧ ∀ i, i < I.length → StI s' P L.length I i
theorem p0_fault_P {P : List Int} (hl : P.length ≤ 84) (hr : ∀ j, j < P.length → 32 ≤ pl P j ∧ pl P j ≤ 126) {s : Sg} (hp : Pg0 s P) : FltR P s (fX0_fault s) := by
  unfold fX0_fault
  have kp0 : keepS LF s (sI (sI (sI (sI s 10 0) 11 0) 12 (-1)) 13 0) := (((keepI _ s (by decide) _).sI (by decide) _).sI (by decide) _).sI (by decide) _
  have S0 : CS (sI (sI (sI (sI s 10 0) 11 0) 12 (-1)) 13 0) ([] : List Nat).length 0 := ⟨rfl, rfl, rfl, rfl⟩
  have hp0 := hp.keep kp0 (by decide) (by decide)
  obtain ⟨c1, c2⟩ := flt_classes hl hr 4 0 [] _ FU rfl (by omega) S0 hp0 (by omega) (by unfold FU; omega)
  unfold FltR rd
  by_cases cc : (rdCs P 4 0 []).2.1 = false ∨ pl P (rdCs P 4 0 []).1 ≠ 59
  · rw [if_pos cc]
    obtain ⟨s', e, kp, z⟩ := c1 cc
    exact ⟨s', e, kp0.trans kp, Or.inr (Or.inl z)⟩
  · rw [if_neg cc]
    have q1 : (rdCs P 4 0 []).2.1 = true := by
      cases q : (rdCs P 4 0 []).2.1 with
      | true => rfl
      | false => exact absurd (Or.inl q) cc
    have q2 : pl P (rdCs P 4 0 []).1 = 59 := by
      by_cases q : pl P (rdCs P 4 0 []).1 = 59
      · exact q
      · exact absurd (Or.inr q) cc
    obtain ⟨lt, s1, f1, e1, kp1, g10, g11, g12, g13, l4, l0, hf1⟩ := c2 q1 q2
    obtain ⟨d1, d2⟩ := flt_insts (E := (rdCs P 4 0 []).1) hl l4 6 ((rdCs P 4 0 []).1 + 1) [] s1 f1 rfl (by omega) ⟨g10, g11, g12, g13⟩ (hp0.keep kp1 (by decide) (by decide)) (by omega) hf1
    have l0' : 0 < (rdCs P 4 0 []).2.2.length := l0
    generalize rdIs P (rdCs P 4 0 []).2.2.length 6 ((rdCs P 4 0 []).1 + 1) [] = Z at *
    by_cases ok : Z.2.1 = true ∧ Z.1 = P.length
    · rw [if_pos ok]
      obtain ⟨s', e, kp, y10, y11, y12, y13, y14, y17, y6, ylt, ypre, yst, yall⟩ := d2 ok.1 ok.2
      have ylt : 0 < Z.2.2.length := ylt
      refine ⟨s', ?_, kp0.trans (kp1.trans kp), ok.2, rfl, q1, y10, l4, l0', y12, lt, y13, ylt, y6, y11, y14, y17, fun i hi => yall i (Nat.zero_le _) hi⟩
      have e1 : fX0_fault_L22 FU (sI (sI (sI (sI s 10 0) 11 0) 12 (-1)) 13 0) 0 = _ := e1
      rw [e1, e, ok.2]
    · rw [if_neg ok]
      obtain ⟨s', e, kp, z, b⟩ := d1 ok
      refine ⟨s', ?_, kp0.trans (kp1.trans kp), ?_⟩
      · have e1 : fX0_fault_L22 FU (sI (sI (sI (sI s 10 0) 11 0) 12 (-1)) 13 0) 0 = _ := e1
        rw [e1, e]
      · rcases b with b | ⟨-, b | b | b⟩
        · exact Or.inl b
        · exact Or.inr (Or.inr (Or.inl b))
        · exact Or.inr (Or.inr (Or.inr (Or.inl b)))
        · exact Or.inr (Or.inr (Or.inr (Or.inr b)))
theorem okA.pgr {A : As} (hA : okA A) : ∀ j, j < (asP A).length → 32 ≤ pl (asP A) j ∧ pl (asP A) j ≤ 126 := fun j hj => hA.1.2 _ (List.mem_of_getElem? (pl_get hj))
theorem p0_fault {s : Sg} {k : hS} {gs : Option Nat × Option Nat} {ca : Nat → Nat} {A : As} (hA : okA A) (r : R0 s k gs ca A) : ∃ s', fX0_fault s = some (sp_fault A, s') ∧ R0 s' k gs ca A := by
  obtain ⟨s', e, kp, -⟩ := p0_fault_P hA.1.1 hA.pgr r.2.2.2.2.2.2.1
  exact ⟨s', e, r.keep kp (by decide)⟩

set_option maxRecDepth 100000
/-! PURE: class DictProof: the classes of a book are laid -/
section LAY
variable {P : List Int}
/-- letters of one class are laid -/
def LC (s : Sg) (L : List Nat) (v : Nat) : Prop := (∀ j : Nat, j < L.length → gA s 1 (j : Int) = (L.getD j 0 : Nat)) ∧ gA s 1 (L.length : Int) = (v : Int)
theorem lc_step (hl : P.length ≤ 84) {s : Sg} {L : List Nat} {v k E f d : Nat} (hp : Pg0 s P) (h12 : gI s 12 = (E : Int)) (hE : E ≤ P.length) (hk : k < E) (hL : L.length < 4) (hv : v < 16) (S : LC s L v) (hd : d < 4) (hc : pl P k = 48 + (d : Int)) :
    ∃ s', fX0_layClasses_L19 (f + 1) s (L.length : Int) (k : Int) = fX0_layClasses_L19 f s' (L.length : Int) ((k + 1 : Nat) : Int) ∧ keepS [1] s s' ∧ LC s' L (v ||| 2 ^ d) := by
  refine ⟨sA s 1 (L.length : Int) ((v ||| 2 ^ d : Nat) : Int), ?_, keepA _ s (by decide) _ _, fun j hj => ?_, ?_⟩
  · rw [fX0_layClasses_L19_s]
    unfold fX0_layClasses_b19 fX0_layClasses_b82
    have p2 : 2 ^ d < 16 := Nat.pow_lt_pow_right (n := 4) (by omega) hd
    rw [if_neg (by rw [h12]; omega), gd_t (by omega), hp.at (by omega), if_pos (by omega), gd_t (by omega), if_neg (by omega), gd_t (by omega), gd_t (by omega), gd_t (by omega), S.2, hc, show 48 + (d : Int) - 48 = (d : Int) by omega, wr_id (x := (d : Int)) (by omega) (by omega), p_one_shl (by omega), p_ior (by omega) (by omega), wr_id (by omega) (by omega)]
    rfl
  · rw [gA_sA, if_neg (by rintro ⟨-, z⟩; omega)]; exact S.1 j hj
  · rw [gA_sA, if_pos ⟨rfl, rfl⟩]
theorem lay_L19 (hl : P.length ≤ 84) {E : Nat} (hE : E ≤ P.length) : ∀ (m k : Nat) (L : List Nat) (s : Sg) (f : Nat), m + L.length = 4 → 0 < m → (rdCs P m k L).2.1 = true → (rdCs P m k L).1 = E → LC s L 0 → Pg0 s P → gI s 12 = (E : Int) → E + 2 ≤ f + k →
    k ≤ E ∧ ∃ s', fX0_layClasses_L19 f s (L.length : Int) (k : Int) = fX0_layClasses_L90 FU s' 0 ∧ keepS [1] s s' ∧ ∀ j : Nat, j < (rdCs P m k L).2.2.length → gA s' 1 (j : Int) = ((rdCs P m k L).2.2.getD j 0 : Nat) := by
  intro m
  induction m with
  | zero => intro k L s f _ h; omega
  | succ m ih =>
    intro k L s f hm _ h1 h2 S hp h12 hf
    have hl0 : 4 ≤ m + 1 + L.length ∧ L.length < 4 := by omega
    simp only [rdCs] at h1 h2 ⊢
    cases ok : (rdC P L.length k).2.1 with
    | false => rw [if_pos ok] at h1; cases h1
    | true =>
      rw [if_neg (by rw [ok]; decide)] at h1 h2
      rw [if_neg (by decide)]
      -- one class
      have one : ∀ (s : Sg) (f : Nat), (rdC P L.length k).1 ≤ E → LC s L 0 → Pg0 s P → gI s 12 = (E : Int) → E + 2 ≤ f + k → ∃ s' f', fX0_layClasses_L19 f s (L.length : Int) (k : Int) = fX0_layClasses_L19 f' s' (L.length : Int) (((rdC P L.length k).1 : Nat) : Int) ∧ keepS [1] s s' ∧ LC s' L (rdC P L.length k).2.2 ∧ E + 2 ≤ f' + (rdC P L.length k).1 ∧ k < (rdC P L.length k).1 := by
        intro s f hle S hp h12 hf
        obtain ⟨f, rfl⟩ : ∃ x, f = x + 1 := ⟨f - 1, by
          have : k < (rdC P L.length k).1 := by
            unfold rdC at ok ⊢
            split
            · simp only; omega
            · split
              · rename_i q1 q2; rw [if_neg q1, if_pos q2] at ok; cases ok
              · split
                · simp only; omega
                · split
                  · rename_i q1 q2 q3 q4; rw [if_neg q1, if_neg q2, if_neg q3, if_pos q4] at ok; cases ok
                  · simp only; omega
          omega⟩
        unfold rdC at ok hle ⊢
        by_cases c45 : pl P k = 45
        · rw [if_pos c45] at hle ⊢
          have hle : k + 1 ≤ E := hle
          refine ⟨s, f, ?_, keepS.refl _ _, S, by simp only; omega, by simp only; omega⟩
          rw [fX0_layClasses_L19_s]
          unfold fX0_layClasses_b19 fX0_layClasses_b82
          rw [if_neg (by rw [h12]; omega), gd_t (by omega), hp.at (by omega), if_pos (by omega), gd_t (by omega), if_pos c45, wr_id (by omega) (by omega)]
          rfl
        · rw [if_neg c45] at ok hle ⊢
          by_cases cd : ¬ (0 ≤ pl P k - 48 ∧ pl P k - 48 < (L.length : Int))
          · rw [if_pos cd] at ok; cases ok
          · rw [if_neg cd] at ok hle ⊢
            have cd := Decidable.not_not.mp cd
            by_cases c2 : ¬ (0 ≤ pl P (k + 1) - 48 ∧ pl P (k + 1) - 48 ≤ 9)
            · rw [if_pos c2] at hle ⊢
              have hle : k + 1 ≤ E := hle
              obtain ⟨s1, e1, kp1, S1⟩ := lc_step (f := f) (k := k) (d := (pl P k - 48).toNat) hl hp h12 hE (by omega) hl0.2 (by omega) S (by omega) (by omega)
              rw [Nat.zero_or] at S1
              exact ⟨s1, f, e1, kp1, S1, by simp only; omega, by simp only; omega⟩
            · rw [if_neg c2] at ok hle ⊢
              have c2 := Decidable.not_not.mp c2
              by_cases c3 : ¬ (pl P k - 48 < pl P (k + 1) - 48 ∧ pl P (k + 1) - 48 < (L.length : Int))
              · rw [if_pos c3] at ok; cases ok
              · rw [if_neg c3] at ok hle ⊢
                have c3 := Decidable.not_not.mp c3
                have hle : k + 2 ≤ E := hle
                obtain ⟨f, rfl⟩ : ∃ x, f = x + 1 := ⟨f - 1, by omega⟩
                obtain ⟨s1, e1, kp1, S1⟩ := lc_step (f := f + 1) (k := k) (d := (pl P k - 48).toNat) hl hp h12 hE (by omega) hl0.2 (by omega) S (by omega) (by omega)
                rw [Nat.zero_or] at S1
                have p2 : 2 ^ (pl P k - 48).toNat < 16 := Nat.pow_lt_pow_right (n := 4) (by omega) (by omega)
                obtain ⟨s2, e2, kp2, S2⟩ := lc_step (f := f) (k := k + 1) (d := (pl P (k + 1) - 48).toNat) hl (hp.keep kp1 (by decide) (by decide)) ((kp1.I (by decide)).trans h12) hE (by omega) hl0.2 p2 S1 (by omega) (by omega)
                exact ⟨s2, f, e1.trans e2, kp1.trans kp2, S2, by simp only; omega, by simp only; omega⟩
      by_cases cc : L.length + 1 < 4 ∧ pl P (rdC P L.length k).1 = 44
      · rw [if_pos cc] at h1 h2 ⊢
        have lE : (rdC P L.length k).1 + 1 ≤ E := by
          have key : ∀ (m k : Nat) (L : List Nat), (rdCs P m k L).2.1 = true → k ≤ (rdCs P m k L).1 := by
            intro m
            induction m with
            | zero => intro k L q; simp only [rdCs] at q; cases q
            | succ m im =>
              intro k L q
              simp only [rdCs] at q ⊢
              cases ok2 : (rdC P L.length k).2.1 with
              | false => rw [if_pos ok2] at q; cases q
              | true =>
                rw [if_neg (by rw [ok2]; decide)] at q
                rw [if_neg (by decide)]
                have lt : k < (rdC P L.length k).1 := by
                  unfold rdC at ok2 ⊢
                  split
                  · simp only; omega
                  · split
                    · rename_i q1 q2; rw [if_neg q1, if_pos q2] at ok2; cases ok2
                    · split
                      · simp only; omega
                      · split
                        · rename_i q1 q2 q3 q4; rw [if_neg q1, if_neg q2, if_neg q3, if_pos q4] at ok2; cases ok2
                        · simp only; omega
                by_cases c : L.length + 1 < 4 ∧ pl P (rdC P L.length k).1 = 44
                · rw [if_pos c] at q ⊢
                  have := im _ _ q
                  omega
                · rw [if_neg c]; simp only; omega
          rw [← h2]
          exact key _ _ _ h1
        obtain ⟨s1, f1, e1, kp1, S1, hf1, lt⟩ := one s f (by omega) S hp h12 hf
        obtain ⟨f1, rfl⟩ : ∃ x, f1 = x + 1 := ⟨f1 - 1, by omega⟩
        have hp1 := hp.keep kp1 (by decide) (by decide)
        have h121 := (kp1.I (by decide)).trans h12
        have st : fX0_layClasses_L19 (f1 + 1) s1 (L.length : Int) (((rdC P L.length k).1 : Nat) : Int) = fX0_layClasses_L19 f1 (sA s1 1 ((L.length : Int) + 1) 0) ((L.length : Int) + 1) (((rdC P L.length k).1 + 1 : Nat) : Int) := by
          rw [fX0_layClasses_L19_s]
          unfold fX0_layClasses_b19 fX0_layClasses_b82
          rw [if_neg (by rw [h121]; omega), gd_t (by omega), hp1.at (by omega), if_neg (by simpa using cc.2), wr_id (x := (L.length : Int) + 1) (by omega) (by omega), gd_t (by omega), wr_id (by omega) (by omega)]
          rfl
        have ll : (L ++ [(rdC P L.length k).2.2]).length = L.length + 1 := by simp
        have kp2 : keepS [1] s1 (sA s1 1 ((L.length : Int) + 1) 0) := keepA _ s1 (by decide) _ _
        obtain ⟨-, s', e, kp, z⟩ := ih ((rdC P L.length k).1 + 1) (L ++ [(rdC P L.length k).2.2]) (sA s1 1 ((L.length : Int) + 1) 0) f1 (by rw [ll]; omega) (by omega) h1 h2 ⟨fun j hj => by
            rw [ll] at hj
            rw [gA_sA, if_neg (by rintro ⟨-, z⟩; omega), getD_app]
            by_cases q : j = L.length
            · rw [if_pos q, q]; exact S1.2
            · rw [if_neg q]; exact S1.1 j (by omega), by rw [ll, gA_sA, if_pos ⟨rfl, by omega⟩]; rfl⟩ (hp1.keep kp2 (by decide) (by decide)) ((kp2.I (by decide)).trans h121) (by omega)
        refine ⟨by omega, s', (e1.trans st).trans ?_, kp1.trans (kp2.trans kp), z⟩
        rw [ll] at e
        exact e
      · rw [if_neg cc] at h1 h2 ⊢
        have h2 : (rdC P L.length k).1 = E := h2
        obtain ⟨s1, f1, e1, kp1, S1, hf1, lt⟩ := one s f (by omega) S hp h12 hf
        obtain ⟨f1, rfl⟩ : ∃ x, f1 = x + 1 := ⟨f1 - 1, by omega⟩
        refine ⟨by omega, s1, e1.trans ?_, kp1, fun j hj => ?_⟩
        · rw [fX0_layClasses_L19_s]
          unfold fX0_layClasses_b19
          rw [if_pos (by rw [(kp1.I (by decide)).trans h12]; omega)]
        · simp only [List.length_append, List.length_singleton] at hj
          rw [getD_app]
          by_cases q : j = L.length
          · rw [if_pos q, q]; exact S1.2
          · rw [if_neg q]; exact S1.1 j (by omega)
/-- what lies above -/
theorem lay_L90 {ra : Nat → Nat} {n : Nat} (hn : n ≤ 4) (hra : ∀ i, i < n → ra i < 16) {s : Sg} (h3 : gI s 3 = (n : Int)) (h1 : ∀ j : Nat, j < n → gA s 1 (j : Int) = (ra j : Int)) : ∃ s', fX0_layClasses_L90 FU s 0 = some s' ∧ keepS [2] s s' ∧ ∀ c : Nat, c < n → gA s' 2 (c : Int) = (abF ra n c : Int) := by
  have inn : ∀ (K : Sg → Int → Option Sg) (c : Nat), c < n → ∀ x : Sg, gA x 2 (c : Int) = (ra c : Int) → (∀ j : Nat, j < n → gA x 1 (j : Int) = (ra j : Int)) → (∀ j : Nat, j < c → gA x 2 (j : Int) = (abF ra n j : Int)) → ∃ x', fX0_layClasses_L112 K FU x (c : Int) 0 = K x' ((c : Int) + 1) ∧ keepS [2] x x' ∧ gA x' 2 (c : Int) = (abF ra n c : Int) ∧ ∀ j : Nat, j < c → gA x' 2 (j : Int) = gA x 2 (j : Int) := by
    intro K c hc x g2 g1 gj
    have al := abF_lt n hra
    have ol : ∀ d, d ≤ c → orN (fun e => if (ra c).testBit e = true then abF ra c e else 0) d < 16 := fun d hd => orN_lt d (fun i hi => by
      split
      · rw [← abF_st c n i (by omega) (by omega)]; exact al i
      · omega)
    obtain ⟨x', ⟨kp, y1, y2⟩, e⟩ := loopN (fun f d (y : Sg) => fX0_layClasses_L112 K f y (c : Int) (d : Int)) c (fun d y => keepS [2] x y ∧ gA y 2 (c : Int) = ((ra c ||| orN (fun e => if (ra c).testBit e = true then abF ra c e else 0) d : Nat) : Int) ∧ ∀ j : Nat, j < c → gA y 2 (j : Int) = gA x 2 (j : Int)) (fun y => K y ((c : Int) + 1)) (fun f d y hd hy => by
        obtain ⟨kp, y1, y2⟩ := hy
        have rb := hra c hc
        have o1 := ol d (by omega)
        have o2 : ra c ||| orN (fun e => if (ra c).testBit e = true then abF ra c e else 0) d < 16 := Nat.or_lt_two_pow (n := 4) rb o1
        have b147 : ∀ z : Nat, z < 16 → z = (if (ra c).testBit d = true then abF ra c d else 0) → fX0_layClasses_b147 K (fX0_layClasses_L112 K f) y (c : Int) (d : Int) (c : Int) (gA y 2 (c : Int)) (z : Int) = fX0_layClasses_L112 K f (sA y 2 (c : Int) ((ra c ||| orN (fun e => if (ra c).testBit e = true then abF ra c e else 0) (d + 1) : Nat) : Int)) (c : Int) ((d + 1 : Nat) : Int) := by
          intro z hz ez
          unfold fX0_layClasses_b147
          rw [gd_t (by omega), y1, p_ior (by omega) (by omega), wr_id (by omega) (by omega), Nat.or_assoc, ez]
          rfl
        refine ⟨sA y 2 (c : Int) ((ra c ||| orN (fun e => if (ra c).testBit e = true then abF ra c e else 0) (d + 1) : Nat) : Int), ⟨kp.sA (by decide) _ _, by rw [gA_sA, if_pos ⟨rfl, rfl⟩], fun j hj => by rw [gA_sA, if_neg (by rintro ⟨-, z⟩; omega)]; exact y2 j hj⟩, ?_⟩
        show fX0_layClasses_L112 K (f + 1) y (c : Int) (d : Int) = _
        rw [fX0_layClasses_L112_s]
        unfold fX0_layClasses_b112
        rw [if_neg (by omega), gd_t (by omega), gd_t (by omega), kp.A (by decide), g1 c hc, p_has (by omega) (by omega), bd_s]
        by_cases tb : (ra c).testBit d = true
        · rw [tb, if_neg (show ¬ bI true = 0 by decide), gd_t (by omega), y2 d hd, gj d hd]
          exact b147 (abF ra n d) (al d) (by rw [if_pos tb, abF_st c n d hd (by omega)])
        · rw [show (ra c).testBit d = false by simpa using tb, if_pos (show bI false = 0 from rfl)]
          exact b147 0 (by omega) (by rw [if_neg tb])) (fun f y hy => by
        show fX0_layClasses_L112 K (f + 1) y (c : Int) (c : Int) = _
        rw [fX0_layClasses_L112_s]
        unfold fX0_layClasses_b112
        rw [if_pos (by omega), wr_id (by omega) (by omega)]) FU 0 x (by unfold FU; omega) (by omega) ⟨keepS.refl _ _, by rw [g2]; simp [orN], fun j hj => rfl⟩
    refine ⟨x', e, kp, ?_, y2⟩
    rw [y1, abF_st (c + 1) n c (by omega) (by omega)]
    simp only [abF, if_true]
  obtain ⟨x', ⟨kp, z⟩, e⟩ := loopN (fun f c (y : Sg) => fX0_layClasses_L90 f y (c : Int)) n (fun c y => keepS [2] s y ∧ ∀ j : Nat, j < c → gA y 2 (j : Int) = (abF ra n j : Int)) (fun y => some y) (fun f c y hc hy => by
      obtain ⟨kp, z⟩ := hy
      have g1 : ∀ j : Nat, j < n → gA y 1 (j : Int) = (ra j : Int) := fun j hj => (kp.A (by decide) _).trans (h1 j hj)
      obtain ⟨y', e1, kp1, a1, a2⟩ := inn (fX0_layClasses_L90 f) c hc (sA y 2 (c : Int) (ra c : Int)) (by rw [gA_sA, if_pos ⟨rfl, rfl⟩]) (fun j hj => g1 j hj) (fun j hj => by rw [gA_sA, if_neg (by rintro ⟨-, z⟩; omega)]; exact z j hj)
      refine ⟨y', ⟨(kp.sA (by decide) _ _).trans kp1, fun j hj => ?_⟩, ?_⟩
      · by_cases q : j = c
        · rw [q]; exact a1
        · rw [a2 j (by omega), gA_sA, if_neg (by rintro ⟨-, z⟩; omega)]; exact z j (by omega)
      · show fX0_layClasses_L90 (f + 1) y (c : Int) = _
        rw [fX0_layClasses_L90_s]
        unfold fX0_layClasses_b90
        rw [if_neg (by rw [kp.I (by decide), h3]; omega), gd_t (by omega), gd_t (by omega), g1 c hc, e1]
        rfl) (fun f y hy => by
      show fX0_layClasses_L90 (f + 1) y (n : Int) = _
      rw [fX0_layClasses_L90_s]
      unfold fX0_layClasses_b90
      rw [if_pos (by rw [hy.1.I (by decide), h3]; omega)]) FU 0 s (by unfold FU; omega) (by omega) ⟨keepS.refl _ _, fun j hj => by omega⟩
  exact ⟨x', e, kp, z⟩
end LAY

set_option maxRecDepth 100000
/-! PURE: class DictProof: a type is read; an instance is laid -/
theorem p_newTerm2 {k h : hS} {F : Nat → Prop} (K : Kp k h F) (sg : Int) (o2 o3 : Option Nat) :
    ∃ h' k', fX7_init (nwO h 7 [vi 0, vq none, vq none]) (some h.2.1) sg o2 o3 = some h' ∧ ext k k' ∧ Kp k' h' F ∧ k'.1 h.2.1 = some (.inl (7, [vi sg, vq o2, vq o3])) ∧ ol h h' 1 ∧ ∀ b, b < h.2.1 → k'.1 b = k.1 b := by
  obtain ⟨h1, e1, a1, o1, s1⟩ := hW_at (P := [(7, 0)]) (v := vi sg) (nwO_at h 7 [vi 0, vq none, vq none]) rfl (by simp)
  obtain ⟨h2, e2, a2, o2', s2⟩ := hW_at (P := [(7, 1)]) (v := vq o2) a1 rfl (by simp)
  obtain ⟨h3, e3, a3, o3', s3⟩ := hW_at (P := [(7, 2)]) (v := vq o3) a2 rfl (by simp)
  have O : ol h h3 1 := ol_at (ol_nwO h 7 [vi 0, vq none, vq none] (by simp)) (Nat.le_refl _) (fun c hc => by rw [o3' c hc, o2' c hc, o1 c hc]) (by rw [s3, s2, s1])
  have nF : ¬ F h.2.1 := fun q => by have := K.2 _ q; omega
  obtain ⟨K', X⟩ := (K.ol O).add (a := h.2.1) (K.nk (Nat.le_refl _)) a3 (by rw [s3, s2, s1]; show h.2.1 < h.2.1 + 1; omega) nF
  refine ⟨h3, _, ?_, X, K', hup_at _ _ _, O, fun b hb => hup_ne _ _ (by omega)⟩
  unfold fX7_init
  rw [gd_t (by simp), e1, bd_s, e2, bd_s, e3, bd_s]
theorem p_read {P : List Int} (hl : P.length ≤ 84) : ∀ (f d : Nat) (s : Sg) (h k : hS) (F : Nat → Prop) (j : Nat) (t : Tm) (k1 : Nat), f ≤ d → ptr P f j = some (t, k1) → gI s 19 = (j : Int) → Pg0 s P → Kp k h F →
    ∃ s' h' k' a, fX0_read d s h = some (some a, s', h') ∧ keepS [19] s s' ∧ gI s' 19 = (k1 : Int) ∧ ext k k' ∧ Kp k' h' F ∧ isT k' a t ∧ ol h h' (szT t) ∧ ∀ b, b < h.2.1 → k'.1 b = k.1 b := by
  intro f
  induction f with
  | zero => intro d s h k F j t k1 _ e; cases e
  | succ f ih =>
    intro d s h k F j t k1 hd e h19 hp K
    obtain ⟨d, rfl⟩ : ∃ x, d = x + 1 := ⟨d - 1, by omega⟩
    have hj : j < P.length := by
      rcases Nat.lt_or_ge j P.length with w | w
      · exact w
      · simp only [ptr, pl_end w] at e
        rw [if_neg (by decide), if_neg (by decide), if_neg (by decide), if_neg (by decide)] at e
        cases e
    show ∃ s' h' k' a, fX0_read_B (fX0_read d) s h = some (some a, s', h') ∧ _
    unfold fX0_read_B fX0_read_b35 fX0_read_b52
    have w19 : wr (gI s 19 + 1) = ((j + 1 : Nat) : Int) := by rw [h19, wr_id (by omega) (by omega)]; rfl
    have kp1 : keepS [19] s (sI s 19 ((j + 1 : Nat) : Int)) := keepI _ s (by decide) _
    rw [w19, h19, gd_t (by omega), hp.at hj]
    simp only [ptr] at e
    by_cases c1 : pl P j = 105 ∨ pl P j = 98
    · rw [if_pos c1] at e
      cases e
      obtain ⟨h', k', e2, X, K', ea, O, dk⟩ := p_newTerm2 K (pl P j) none none
      rw [p0_partsOf, if_neg (by omega), if_neg (by omega), bd_s, if_pos (by decide), bd_s, if_pos (by decide), nwS_e, bd_s]
      dsimp only
      rw [e2, bd_s]
      refine ⟨_, h', k', _, rfl, kp1, by rw [gI_sI, if_pos rfl], X, K', ?_, O, dk⟩
      show k'.1 h.2.1 = some (.inl (7, [vi (((pl P j).toNat : Nat) : Int), vq none, vq none]))
      rw [show (((pl P j).toNat : Nat) : Int) = pl P j by omega]
      exact ea
    · rw [if_neg c1] at e
      by_cases c2 : pl P j = 120 ∨ pl P j = 121
      · rw [if_pos c2] at e
        cases e
        obtain ⟨h', k', e2, X, K', ea, O, dk⟩ := p_newTerm2 K (pl P j) none none
        rw [p0_partsOf, if_neg (by omega), if_neg (by omega), bd_s, if_pos (by decide), bd_s, if_pos (by decide), nwS_e, bd_s]
        dsimp only
        rw [e2, bd_s]
        refine ⟨_, h', k', _, rfl, kp1, by rw [gI_sI, if_pos rfl], X, K', ?_, O, dk⟩
        show k'.1 h.2.1 = some (.inl (7, [vi (120 + (((pl P j - 120).toNat : Nat) : Int)), vq none, vq none]))
        rw [show 120 + (((pl P j - 120).toNat : Nat) : Int) = pl P j by omega]
        exact ea
      · rw [if_neg c2] at e
        by_cases c3 : pl P j = 108
        · rw [if_pos c3] at e
          cases e1 : ptr P f (j + 1) with
          | none => rw [e1] at e; cases e
          | some q =>
            obtain ⟨a, k2⟩ := q
            rw [e1] at e
            cases e
            obtain ⟨s1, h1, kk1, b1, r1, kpp, g19, X1, K1, T1, O1, dk1⟩ := ih d (sI s 19 ((j + 1 : Nat) : Int)) h k F (j + 1) a k1 (by omega) e1 (by rw [gI_sI, if_pos rfl]) (hp.keep kp1 (by decide) (by decide)) K
            obtain ⟨h', k', e2, X, K', ea, O, dk⟩ := p_newTerm2 K1 108 (some b1) none
            rw [p0_partsOf, if_pos c3, bd_s, if_neg (by decide), r1, bd_s]
            dsimp only
            rw [bd_s, if_pos (by decide), nwS_e, bd_s]
            dsimp only
            rw [c3, e2, bd_s]
            exact ⟨_, h', k', _, rfl, kp1.trans kpp, g19, X1.trans X, K', ⟨b1, ea, T1.mono X⟩, O1.trans O (by simp [szT]), fun b hb => by rw [dk b (by have := O1.1; omega), dk1 b hb]⟩
        · rw [if_neg c3] at e
          by_cases c4 : pl P j = 112
          · rw [if_pos c4] at e
            cases e1 : ptr P f (j + 1) with
            | none => rw [e1] at e; cases e
            | some q =>
              obtain ⟨a, k2⟩ := q
              rw [e1] at e
              simp only at e
              cases e3 : ptr P f k2 with
              | none => rw [e3] at e; cases e
              | some q3 =>
                obtain ⟨c, k3⟩ := q3
                rw [e3] at e
                cases e
                obtain ⟨s1, h1, kk1, b1, r1, kpp, g19, X1, K1, T1, O1, dk1⟩ := ih d (sI s 19 ((j + 1 : Nat) : Int)) h k F (j + 1) a k2 (by omega) e1 (by rw [gI_sI, if_pos rfl]) (hp.keep kp1 (by decide) (by decide)) K
                obtain ⟨s2, h2, kk2, b2, r2, kpp2, g192, X2, K2, T2, O2, dk2⟩ := ih d s1 h1 kk1 F k2 c k1 (by omega) e3 g19 ((hp.keep kp1 (by decide) (by decide)).keep kpp (by decide) (by decide)) K1
                obtain ⟨h', k', e2, X, K', ea, O, dk⟩ := p_newTerm2 K2 112 (some b1) (some b2)
                rw [p0_partsOf, if_neg c3, if_pos c4, bd_s, if_neg (by decide), r1, bd_s]
                dsimp only
                rw [bd_s, if_neg (by decide), r2, bd_s, nwS_e, bd_s]
                dsimp only
                rw [c4, e2, bd_s]
                exact ⟨_, h', k', _, rfl, kp1.trans (kpp.trans kpp2), g192, X1.trans (X2.trans X), K', ⟨b1, b2, ea, T1.mono (X2.trans X), T2.mono X⟩, O1.trans (O2.trans O (Nat.le_refl _)) (by simp [szT]; omega), fun b hb => by rw [dk b (by have := O1.1; have := O2.1; omega), dk2 b (by have := O1.1; omega), dk1 b hb]⟩
          · rw [if_neg c4] at e; cases e
theorem rdD_o (P : List Int) (C : Nat) (t : Tm) : ∀ (m k : Nat) (D : List (Int × Nat)) (k' : Nat) (D' : List (Int × Nat)), rdD P C t m k D = (k', true, D') → ∃ X, D' = D ++ X ∧ k' = k + 2 * X.length ∧ X.length ≤ m ∧ ∀ (j : Nat) (q : Int × Nat), X[j]? = some q → q.1 = pl P (k + 2 * j) - 48 ∧ (q.2 : Int) = pl P (k + 2 * j + 1) - 120 ∧ (pl P (k + 2 * j) ≠ 0 ∧ pl P (k + 2 * j + 1) ≠ 0) := by
  intro m
  induction m with
  | zero =>
    intro k D k' D' e
    simp only [rdD] at e
    cases e
    exact ⟨[], by simp, by simp, by simp, fun j q h => by cases h⟩
  | succ m ih =>
    intro k D k' D' e
    simp only [rdD] at e
    by_cases c1 : (occ 0 t = true ∨ occ 1 t = true) ∧ 0 ≤ pl P k - 48 ∧ pl P k - 48 ≤ 9
    · rw [if_neg (fun q => q c1)] at e
      by_cases c2 : pl P k - 48 < (C : Int)
      · rw [if_neg (fun q => q c2)] at e
        by_cases c3 : (pl P (k + 1) = 120 ∨ pl P (k + 1) = 121) ∧ occ (pl P (k + 1) - 120).toNat t = true
        · rw [if_neg (fun q => q c3)] at e
          obtain ⟨X, e1, e2, e3, e4⟩ := ih _ _ _ _ e
          refine ⟨(pl P k - 48, (pl P (k + 1) - 120).toNat) :: X, by rw [e1]; simp, by simp only [List.length_cons]; omega, by simp only [List.length_cons]; omega, fun j q hq => ?_⟩
          cases j with
          | zero =>
            simp at hq
            subst hq
            have := c1.2
            rcases c3.1 with z | z <;> refine ⟨by simp, ?_, ?_, ?_⟩ <;> simp only [Nat.mul_zero, Nat.add_zero] <;> omega
          | succ j =>
            simp at hq
            have := e4 j q hq
            rw [show k + 2 + 2 * j = k + 2 * (j + 1) by omega] at this
            exact this
        · rw [if_pos c3] at e; cases e
      · rw [if_pos c2] at e; cases e
    · rw [if_pos c1] at e
      cases e
      exact ⟨[], by simp, by simp, by simp, fun j q h => by cases h⟩
theorem rdI_o {P : List Int} {C st e : Nat} {x : Ist} (h : rdI P C st = (e, true, x)) : kdB (pl P st) = iK x ∧ kdB (pl P st) ≠ -1 ∧ iO x = pl P (st + 1) - 48 ∧ (0 ≤ iO x ∧ iO x < (C : Int)) ∧ ∃ k1, ptr P 6 (st + 2) = some (iH x, k1) ∧ rdD P C (iH x) 2 k1 [] = (e, true, iC x) := by
  unfold rdI at h
  by_cases c1 : kdB (pl P st) = -1
  · rw [if_pos c1] at h; cases h
  · rw [if_neg c1] at h
    by_cases c2 : 0 ≤ pl P (st + 1) - 48 ∧ pl P (st + 1) - 48 < (C : Int)
    · rw [if_neg (fun q => q c2)] at h
      cases c3 : (scS P 5 6 (st + 2) 0 1).2 with
      | false => rw [if_pos c3] at h; cases h
      | true =>
        rw [if_neg (by rw [c3]; decide)] at h
        cases c4 : ptr P 6 (st + 2) with
        | none => rw [c4] at h; cases h
        | some q =>
          obtain ⟨t, k1⟩ := q
          rw [c4] at h
          simp only [Prod.mk.injEq] at h
          obtain ⟨e1, e2, e3⟩ := h
          subst e3
          exact ⟨rfl, c1, rfl, c2, k1, rfl, by rw [← e1, ← e2]⟩
    · rw [if_pos c2] at h; cases h
theorem kdB_r {c : Int} (h : kdB c ≠ -1) : 0 ≤ kdB c ∧ kdB c ≤ 4 := by
  unfold kdB at *
  split at h
  · rw [if_pos (by assumption)]; decide
  · rw [if_neg (by assumption)]
    split at h
    · rw [if_pos (by assumption)]; decide
    · rw [if_neg (by assumption)]
      split at h
      · rw [if_pos (by assumption)]; decide
      · rw [if_neg (by assumption)]
        split at h
        · rw [if_pos (by assumption)]; decide
        · rw [if_neg (by assumption)]
          split at h
          · rw [if_pos (by assumption)]; decide
          · exact absurd rfl h
/-- a number is put in a row -/
theorem aWI_at {h : hS} {a n : Nat} {f : Int → Int} (e : h.1 a = some (.inr (0, n, .inl f))) {i v : Int} (h0 : 0 ≤ i) (h1 : i < (n : Int)) : ∃ h', aWI h (some a) 0 i v = some h' ∧ h'.1 a = some (.inr (0, n, .inl (upI f i v))) ∧ (∀ b, b ≠ a → h'.1 b = h.1 b) ∧ h'.2 = h.2 := by
  unfold aWI nn
  simp only [e]
  rw [if_pos ⟨by first | trivial | rfl, h0, h1⟩]
  refine ⟨_, rfl, ?_, fun b hb => ?_, rfl⟩
  · unfold hup; simp
  · unfold hup; simp [hb]

