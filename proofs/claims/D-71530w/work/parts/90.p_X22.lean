/-! the pure laws: X22 X23 X24 -/
set_option maxRecDepth 100000
/-! PURE: class DictProof: what conditions give; what an instance lacks -/
/-- a condition gives a need -/
def gq (ab : Nat → Nat) (x : Ist) (j nd : Nat) : Bool := decide (((cg x j).2) = nd % 2) && (decide ((cg x j).1 = ((nd / 2 : Nat) : Int)) || (ab (cg x j).1.toNat).testBit (nd / 2))
theorem gvn_q (ab : Nat → Nat) (x : Ist) (nd : Nat) : gvn ab x nd = anyN (fun j => gq ab x j nd) (iC x).length := rfl
def gPn (n : Nat) (ab : Nat → Nat) (x : Ist) (m k nd : Nat) : Bool := decide (nd < 2 * n) && (anyN (fun j => gq ab x j nd) m || (decide (nd / 2 < k) && gq ab x m nd))
theorem p_givenBy {s : Sg} {h : hS} {n : Nat} {ra ab : Nat → Nat} (C : Cls0 s n ra ab) {a i : Nat} {x : Ist} (P : isI h a i x) (ok : okI n x) : fX0_givenBy s h (some a) = some ((bitsOf (gPn n ab x (iC x).length 0) 8 : Nat) : Int) := by
  obtain ⟨h3, h4, hc⟩ := C
  have l2 : (iC x).length ≤ 2 := ok.2.2.2.2.1
  obtain ⟨hd, ca, va, ⟨r0, r1, r2, r3, r4, r5, -⟩, -, rr⟩ := P.rd ok.k
  have inn : ∀ (K4 : Sg → hS → Option Nat → Int → Int → Option Int) (m : Nat), m < (iC x).length → fX0_givenBy_L15 K4 FU s h (some a) ((bitsOf (gPn n ab x m 0) 8 : Nat) : Int) (m : Int) 0 = K4 s h (some a) ((bitsOf (gPn n ab x (m + 1) 0) 8 : Nat) : Int) ((m : Int) + 1) := by
    intro K4 m hm
    obtain ⟨ec, ev⟩ := rr m hm (by omega)
    obtain ⟨⟨c0, c1⟩, v2, -⟩ := ok.2.2.2.2.2 m hm
    have := loopE (fun f k (z : Int) => fX0_givenBy_L15 K4 f s h (some a) z (m : Int) (k : Int)) n (fun k => ((bitsOf (gPn n ab x m k) 8 : Nat) : Int)) (K4 s h (some a) ((bitsOf (gPn n ab x (m + 1) 0) 8 : Nat) : Int) ((m : Int) + 1)) (fun f k hk => ?_) (fun f => ?_) (by unfold FU; omega)
    · exact this
    · obtain ⟨-, -, -, hab⟩ := hc (cg x m).1.toNat (by omega)
      have ha2 := (hc (cg x m).1.toNat (by omega)).2.1
      rw [show (((cg x m).1.toNat : Nat) : Int) = (cg x m).1 by omega] at ha2
      rw [fX0_givenBy_L15_s]
      unfold fX0_givenBy_b15 fX0_givenBy_b54 fX0_givenBy_b59 fX0_givenBy_b84
      rw [if_neg (by rw [h3]; omega), r3, bd_s, ec, bd_s]
      have b8 : ∀ Q : Nat → Bool, bitsOf Q 8 < 2147483648 := fun Q => bitsOf_31 (by omega)
      have no : ((k : Int) ≠ (cg x m).1 ∧ (ab (cg x m).1.toNat).testBit k = false) → bitsOf (gPn n ab x m (k + 1)) 8 = bitsOf (gPn n ab x m k) 8 := by
        rintro ⟨q1, q2⟩
        apply bitsOf_ext
        intro nd _
        unfold gPn
        by_cases e : nd / 2 = k
        · have : gq ab x m nd = false := by
            unfold gq
            rw [e, q2, decide_eq_false (show ¬ (cg x m).1 = ((k : Nat) : Int) from fun w => q1 w.symm)]
            simp
          rw [this]; simp
        · rw [show decide (nd / 2 < k + 1) = decide (nd / 2 < k) from decide_eq_decide.mpr (by omega)]
      have yes : ((k : Int) = (cg x m).1 ∨ (ab (cg x m).1.toNat).testBit k = true) → bitsOf (gPn n ab x m (k + 1)) 8 = bitsOf (gPn n ab x m k) 8 ||| 2 ^ (2 * k + (cg x m).2) := by
        intro q
        apply Nat.eq_of_testBit_eq
        intro nd
        rw [Nat.testBit_or, bitsOf_bit, bitsOf_bit, Nat.testBit_two_pow]
        unfold gPn
        by_cases e : nd / 2 = k
        · have g1 : gq ab x m nd = decide (nd = 2 * k + (cg x m).2) := by
            unfold gq
            rw [e]
            rcases q with q | q
            · rw [decide_eq_true q.symm]; simp only [Bool.true_or, Bool.and_true]; exact decide_eq_decide.mpr (by omega)
            · rw [q]; simp only [Bool.or_true, Bool.and_true]; exact decide_eq_decide.mpr (by omega)
          rw [g1, decide_eq_true (show nd / 2 < k + 1 by omega), decide_eq_false (show ¬ nd / 2 < k by omega)]
          by_cases e2 : nd = 2 * k + (cg x m).2
          · subst e2
            simp [show 2 * k + (cg x m).2 < 8 by omega, show 2 * k + (cg x m).2 < 2 * n by omega]
          · have e3 : ¬ 2 * k + (cg x m).2 = nd := fun w => e2 w.symm
            simp [e2, e3]
        · have e3 : ¬ 2 * k + (cg x m).2 = nd := by omega
          rw [show decide (nd / 2 < k + 1) = decide (nd / 2 < k) from decide_eq_decide.mpr (by omega)]
          simp [e3]
      have put : ((k : Int) = (cg x m).1 ∨ (ab (cg x m).1.toNat).testBit k = true) → (bd (hQ h (some a) [(1, 4), (2, 4), (3, 4), (4, 4), (5, 4)]) fun v2 => bd (aI h v2 0 (m : Int)) fun v4 => fX0_givenBy_L15 K4 f s h (some a) (ior ((bitsOf (gPn n ab x m k) 8 : Nat) : Int) (ishl 1 (wr ((wr (2 * (k : Int))) + v4)))) (m : Int) (wr ((k : Int) + 1))) = fX0_givenBy_L15 K4 f s h (some a) ((bitsOf (gPn n ab x m (k + 1)) 8 : Nat) : Int) (m : Int) ((k + 1 : Nat) : Int) := by
        intro q
        rw [r4, bd_s, ev, bd_s, wr_id (x := 2 * (k : Int)) (by omega) (by omega), wr_id (x := 2 * (k : Int) + _) (by omega) (by omega), show 2 * (k : Int) + ((cg x m).2 : Int) = ((2 * k + (cg x m).2 : Nat) : Int) by omega, p_one_shl (by omega), p_ior (b8 _) (Nat.lt_of_le_of_lt (Nat.pow_le_pow_right (n := 2) (by omega) (show 2 * k + (cg x m).2 ≤ 8 by omega)) (by omega)), ← yes q, wr_id (by omega) (by omega)]
        rfl
      by_cases e : (k : Int) = (cg x m).1
      · rw [if_pos e, if_neg (by decide)]
        exact put (Or.inl e)
      · rw [if_neg e, bd_s, ec, bd_s, gd_t (by omega), ha2, p_has (by omega) (by omega), bd_s]
        cases q : (ab (cg x m).1.toNat).testBit k with
        | true =>
          rw [if_neg (show ¬ bI true = 0 by decide), if_neg (by decide)]
          exact put (Or.inr q)
        | false =>
          rw [if_pos (show bI false = 0 from rfl), if_pos rfl, ← no ⟨e, q⟩, wr_id (by omega) (by omega), show (0 : Int) = ((0 : Nat) : Int) from rfl, p_ior (b8 _) (by omega), Nat.or_zero]
          rfl
    · rw [fX0_givenBy_L15_s]
      unfold fX0_givenBy_b15
      rw [if_pos (by rw [h3]; omega), wr_id (by omega) (by omega)]
      congr 2
      apply bitsOf_ext
      intro nd hnd
      unfold gPn
      rw [anyN_s]
      by_cases e : nd < 2 * n
      · rw [decide_eq_true (show nd / 2 < n by omega)]; simp
      · rw [decide_eq_false e]; simp
  have := loopE (fun f k (z : Int) => fX0_givenBy_L4 f s h (some a) z (k : Int)) (iC x).length (fun k => ((bitsOf (gPn n ab x k 0) 8 : Nat) : Int)) (some ((bitsOf (gPn n ab x (iC x).length 0) 8 : Nat) : Int)) (fun f k hk => ?_) (fun f => ?_) (by unfold FU; omega)
  · have e0 : bitsOf (gPn n ab x 0 0) 8 = 0 := bitsOf_0.mpr (fun i _ => by simp [gPn, anyN])
    rw [e0] at this
    exact this
  · rw [fX0_givenBy_L4_s]
    unfold fX0_givenBy_b4
    rw [r5, bd_s, if_neg (by omega), inn _ k hk]
    rfl
  · rw [fX0_givenBy_L4_s]
    unfold fX0_givenBy_b4
    rw [r5, bd_s, if_pos (by omega)]
theorem gPn_bit {n : Nat} {ab : Nat → Nat} {x : Ist} {nd : Nat} (hn : n ≤ 4) : (bitsOf (gPn n ab x (iC x).length 0) 8).testBit nd = (decide (nd < 2 * n) && gvn ab x nd) := by
  rw [bitsOf_bit, gvn_q]
  unfold gPn
  by_cases e : nd < 2 * n
  · rw [decide_eq_true (show nd < 8 by omega), decide_eq_true e]; simp
  · rw [decide_eq_false e]; simp
/-- what of a class is lacked -/
theorem lack_c {n N : Nat} {ab : Nat → Nat} {x : Ist} (hn : n ≤ 4) (hN : N < 2 ^ (2 * n)) : iand (N : Int) (ixor ((bitsOf (gPn n ab x (iC x).length 0) 8 : Nat) : Int) (-1)) = 0 ↔ allN (fun nd => !N.testBit nd || gvn ab x nd) 8 = true := by
  have n8 := Nat.pow_le_pow_right (n := 2) (by omega) (show 2 * n ≤ 8 by omega)
  rw [iandn (by omega) (bitsOf_31 (by omega)), allN_iff]
  constructor
  · intro h nd hnd
    have h0 : N &&& (2147483647 ^^^ bitsOf (gPn n ab x (iC x).length 0) 8) = 0 := by omega
    have := congrArg (fun z => z.testBit nd) h0
    simp only [Nat.testBit_and, Nat.testBit_xor, Nat.zero_testBit, gPn_bit hn, show (2147483647 : Nat).testBit nd = decide (nd < 31) from Nat.testBit_two_pow_sub_one 31 nd, decide_eq_true (show nd < 31 by omega)] at this
    cases hb : N.testBit nd with
    | false => rfl
    | true =>
      rw [hb] at this
      cases hg : gvn ab x nd with
      | true => rfl
      | false => rw [hg] at this; simp at this
  · intro h
    have h0 : N &&& (2147483647 ^^^ bitsOf (gPn n ab x (iC x).length 0) 8) = 0 := by
      apply Nat.eq_of_testBit_eq
      intro nd
      rw [Nat.testBit_and, Nat.testBit_xor, Nat.zero_testBit, gPn_bit hn, show (2147483647 : Nat).testBit nd = decide (nd < 31) from Nat.testBit_two_pow_sub_one 31 nd]
      cases hb : N.testBit nd with
      | false => rfl
      | true =>
        have hnd : nd < 2 * n := by
          rcases Nat.lt_or_ge nd (2 * n) with q | q
          · exact q
          · have := Nat.testBit_lt_two_pow (Nat.lt_of_lt_of_le hN (Nat.pow_le_pow_right (n := 2) (by omega) q))
            rw [hb] at this; cases this
        have := h nd (by omega)
        rw [hb] at this
        have : gvn ab x nd = true := by simpa using this
        rw [this, decide_eq_true hnd, decide_eq_true (show nd < 31 by omega)]
        rfl
    rw [h0]; rfl
theorem W_lackedBy {s : Sg} {gs : Option Nat × Option Nat} {ca : Nat → Nat} {A : As} {U : Tm → Prop} {mp : Nat} {w : Wd} (hU : UOK U) (hB : UBd U) (hU5 : ∀ t, okT t → szT t ≤ 5 → U t) (h : okW (asI A) U mp w) (r : R0 s (wk w) gs ca A) {i a : Nat} (hi : i < (asI A).length) (ea : gQ s 4 (i : Int) = some a) :
    ∃ w', fX0_lackedBy (some mp) s (wh w) (some a) = some (((lck A (ig (asI A) i) : Nat) : Int), wh w') ∧ okW (asI A) U mp w' ∧ stW w w' 4 := by
  obtain ⟨C, J, S, -⟩ := r
  have hn := C.2.1
  have h6 := J.2.1
  have hI9 : ∀ i, i < (asI A).length → okI (asN A) (ig (asI A) i) := fun i hi => (J.2.2 i hi).1
  obtain ⟨ok, a', ea', P⟩ := J.2.2 i hi
  obtain rfl : a' = a := Option.some.inj (ea'.symm.trans ea)
  have ot : okT (iH (ig (asI A) i)) := ok.2.2.1
  have h5 : szT (iH (ig (asI A) i)) ≤ 5 := ok.2.2.2.1
  have ht := hU5 _ ot h5
  obtain ⟨o0, on⟩ := ok.2.1
  unfold fX0_lackedBy
  rw [p_givenBy C (P.mono h.1.ext) ok, bd_s]
  have main : ∀ (m f c : Nat) (w1 : Wd), m < f → m + c = asN A → okW (asI A) U mp w1 → ext (wk w) (wk w1) → ∃ w', fX0_lackedBy_L11 f (some mp) s (wh w1) (some a') ((bitsOf (fun c => (asR A (iO (ig (asI A) i)).toNat).testBit c && !lck1 A (ig (asI A) i) (res (asI A) (c : Int) (iH (ig (asI A) i)))) c : Nat) : Int) ((bitsOf (gPn (asN A) (asA A) (ig (asI A) i) (iC (ig (asI A) i)).length 0) 8 : Nat) : Int) (c : Int) = some (((lck A (ig (asI A) i) : Nat) : Int), wh w') ∧ okW (asI A) U mp w' ∧ stW w1 w' m := by
    intro m
    induction m with
    | zero =>
      intro f c w1 hf hc o1 X1
      obtain ⟨f, rfl⟩ : ∃ z, f = z + 1 := ⟨f - 1, by omega⟩
      rw [fX0_lackedBy_L11_s]
      unfold fX0_lackedBy_b11
      rw [if_pos (by rw [C.1]; omega), show c = asN A by omega]
      exact ⟨w1, rfl, o1, stW.refl w1⟩
    | succ m ih =>
      intro f c w1 hf hc o1 X1
      obtain ⟨f, rfl⟩ : ∃ z, f = z + 1 := ⟨f - 1, by omega⟩
      have P1 := P.mono X1
      obtain ⟨cR, -, cR2, -⟩ := C.2.2 (iO (ig (asI A) i)).toNat (by omega)
      rw [show (((iO (ig (asI A) i)).toNat : Nat) : Int) = iO (ig (asI A) i) by omega] at cR
      obtain ⟨hd, _, _, ⟨r0, r1, r2, -⟩, T, -⟩ := (P1.mono o1.1.ext).rd ok.k
      have ib := ior_bit (P := fun c => (asR A (iO (ig (asI A) i)).toNat).testBit c && !lck1 A (ig (asI A) i) (res (asI A) (c : Int) (iH (ig (asI A) i)))) (n := c) (by omega)
      rw [fX0_lackedBy_L11_s]
      unfold fX0_lackedBy_b11 fX0_lackedBy_b78 fX0_lackedBy_b86 fX0_lackedBy_b88
      rw [if_neg (by rw [C.1]; omega), r1, bd_s, gd_t (by omega), cR, p_has (by omega) (by omega), bd_s]
      have goal0 : ∀ z : Bool, ((asR A (iO (ig (asI A) i)).toNat).testBit c && !lck1 A (ig (asI A) i) (res (asI A) (c : Int) (iH (ig (asI A) i)))) = z → ior ((bitsOf (fun c => (asR A (iO (ig (asI A) i)).toNat).testBit c && !lck1 A (ig (asI A) i) (res (asI A) (c : Int) (iH (ig (asI A) i)))) c : Nat) : Int) (if z = true then ishl 1 (c : Int) else 0) = ((bitsOf (fun c => (asR A (iO (ig (asI A) i)).toNat).testBit c && !lck1 A (ig (asI A) i) (res (asI A) (c : Int) (iH (ig (asI A) i)))) (c + 1) : Nat) : Int) := by
        intro z hz
        rw [← hz]
        exact ib
      cases hb : (asR A (iO (ig (asI A) i)).toNat).testBit c with
      | false =>
        rw [if_pos (show bI false = 0 from rfl), wr_id (by omega) (by omega)]
        obtain ⟨w2, e2, o2, s2⟩ := ih f (c + 1) w1 (by omega) (by omega) o1 X1
        refine ⟨w2, ?_, o2, s2.mono (by omega)⟩
        have := goal0 false (by rw [hb]; rfl)
        rw [if_neg (by decide), show (0 : Int) = ((0 : Nat) : Int) from rfl, p_ior (bitsOf_31 (by omega)) (by omega), Nat.or_zero] at this
        rw [← this] at e2
        exact e2
      | true =>
        rw [if_neg (show ¬ bI true = 0 by decide), nwS_e, bd_s]
        dsimp only
        obtain ⟨hd1, ca1, va1, fc1, fv1, ep1, T1, -⟩ := id P1
        have q2 := (rdI_c ok.k.c ((o1.1.ol (ol_nwO (wh w1) 9 [vi 0, vq none] (by simp))).ext _ _ ep1)).2.2.1
        obtain ⟨w2, e2, o2, s2, G⟩ := W_goal o1 (c : Int) T1
        have X2 := X1.trans s2.1
        obtain ⟨q, w3, e3, o3, s3, Pq⟩ := W_prove hU hB hn S o2 (J.mono X2) ht (by omega) G
        have s23 := s2.trans s3 (C := 1) (by omega)
        have X3 := X2.trans s3.1
        have P16 := (Pq 16 (by omega)).mono o3.1.ext
        rw [q2, bd_s, e2, bd_s, e3, bd_s]
        dsimp only
        rw [P16.o hI9 ot, bd_s, wr_id (x := (c : Int) + 1) (by omega) (by omega)]
        obtain ⟨w4, e4, o4, s4⟩ := ih f (c + 1) w3 (by omega) (by omega) o3 X3
        refine ⟨w4, ?_, o4, s23.trans s4 (by omega)⟩
        by_cases f1 : rS (res (asI A) (c : Int) (iH (ig (asI A) i))) = 1
        · have nlt := rN_lt hI9 (szT (iH (ig (asI A) i))) (c : Int) (iH (ig (asI A) i)) rfl ot (by omega) (by omega)
          rw [if_neg (by simpa using f1), gd_t P16.c.1, p_needs10 h6 hn hI9 16 q _ _ ot (by omega) (by omega) P16 f1, bd_s]
          have lc := lack_c (ab := asA A) (x := ig (asI A) i) hn nlt
          by_cases l0 : iand ((rN (res (asI A) (c : Int) (iH (ig (asI A) i))) : Nat) : Int) (ixor ((bitsOf (gPn (asN A) (asA A) (ig (asI A) i) (iC (ig (asI A) i)).length 0) 8 : Nat) : Int) (-1)) = 0
          · have := goal0 false (by unfold lck1; rw [hb, decide_eq_true f1, lc.mp l0]; rfl)
            rw [if_neg (by decide)] at this
            rw [if_pos l0, this]
            exact e4
          · have : allN (fun nd => !(rN (res (asI A) (c : Int) (iH (ig (asI A) i)))).testBit nd || gvn (asA A) (ig (asI A) i) nd) 8 = false := by
              cases q : allN (fun nd => !(rN (res (asI A) (c : Int) (iH (ig (asI A) i)))).testBit nd || gvn (asA A) (ig (asI A) i) nd) 8 with
              | false => rfl
              | true => exact absurd (lc.mpr q) l0
            have := goal0 true (by unfold lck1; rw [hb, decide_eq_true f1, this]; rfl)
            rw [if_pos rfl] at this
            rw [if_neg l0, this]
            exact e4
        · have := goal0 true (by unfold lck1; rw [hb, decide_eq_false f1]; rfl)
          rw [if_pos rfl] at this
          rw [if_pos f1, this]
          exact e4
  obtain ⟨w', e, o, st⟩ := main (asN A) FU 0 w (by unfold FU; omega) (by omega) h (ext.refl _)
  exact ⟨w', e, o, st.mono hn⟩
theorem W_tellInstance {s : Sg} {gs : Option Nat × Option Nat} {ca : Nat → Nat} {A : As} {U : Tm → Prop} {mp : Nat} {w : Wd} (hA : okA A) (hU : UOK U) (hB : UBd U) (hU5 : ∀ t, okT t → szT t ≤ 5 → U t) (h : okW (asI A) U mp w) (r : R0 s (wk w) gs ca A) {i a : Nat} (hi : i < (asI A).length) (ea : gQ s 4 (i : Int) = some a) {x : Int} (hx : 0 ≤ x ∧ x ≤ 7) :
    ∃ w', fX0_tellInstance (some mp) s (wh w) (some a) x = some (instV A i x, wh w') ∧ okW (asI A) U mp w' ∧ stW w w' 4 := by
  have rk := r
  obtain ⟨C, J, S, L, -, Sn, -, -, -, So, -⟩ := r
  obtain ⟨hl6, hw4⟩ := hA.2.2.2.2.1
  obtain ⟨a', hd, ea', P, ok, T, r0, r1, r2, r5, rc, ri⟩ := (J.mono h.1.ext).rd hi
  obtain rfl : a' = a := Option.some.inj (ea'.symm.trans ea)
  have ot : okT (iH (ig (asI A) i)) := ok.2.2.1
  have h5 : szT (iH (ig (asI A) i)) ≤ 5 := ok.2.2.2.1
  have So' : Sor0 s (wh w) := fun kd hk => by
    obtain ⟨b, fs, e1, e2⟩ := So kd hk
    exact ⟨b, fs, e1, h.1.ext _ _ e2⟩
  have here : ∀ v : Int, ∃ w', some (v, wh w) = some (v, wh w') ∧ okW (asI A) U mp w' ∧ stW w w' 4 := fun v => ⟨w, rfl, h, (stW.refl w).mono (by omega)⟩
  unfold fX0_tellInstance fX0_tellInstance_b83 instV
  have hx7 : x = 0 ∨ x = 1 ∨ x = 2 ∨ x = 3 ∨ x = 4 ∨ x = 5 ∨ x = 6 ∨ x = 7 := by omega
  rcases hx7 with rfl | rfl | rfl | rfl | rfl | rfl | rfl | rfl
  · rw [if_pos rfl, if_pos rfl, (p_kinds P ok.k).2.2.2, bd_s]; exact here _
  · rw [if_neg (by decide), if_pos rfl, if_neg (by decide), if_pos rfl, r1, bd_s]; exact here _
  · rw [if_neg (by decide), if_neg (by decide), if_pos rfl, if_neg (by decide), if_neg (by decide), if_pos rfl, r2, bd_s, gd_t T.c, p_sizeT 16 _ _ _ ot (by omega) (by have := dpT_le _ ot; omega) T, bd_s]; exact here _
  · rw [if_neg (by decide), if_neg (by decide), if_neg (by decide), if_pos rfl, if_neg (by decide), if_neg (by decide), if_neg (by decide), if_pos rfl, r5, bd_s]; exact here _
  · rw [if_neg (by decide), if_neg (by decide), if_neg (by decide), if_neg (by decide), if_pos rfl, if_neg (by decide), if_neg (by decide), if_neg (by decide), if_neg (by decide), if_pos rfl, p_soundD P ok.k ot, bd_s]
    cases snd9 (ig (asI A) i) with
    | false => rw [if_pos (show bI false = 0 from rfl)]; exact here _
    | true => rw [if_neg (show ¬ bI true = 0 by decide)]; exact here _
  · rw [if_neg (by decide), if_neg (by decide), if_neg (by decide), if_neg (by decide), if_neg (by decide), if_pos rfl, if_neg (by decide), if_neg (by decide), if_neg (by decide), if_neg (by decide), if_neg (by decide), if_pos rfl, r0, bd_s, p_sortsOf So' hl6 (fun e he => (hw4 e he).2) Sn, bd_s]; exact here _
  · rw [if_neg (by decide), if_neg (by decide), if_neg (by decide), if_neg (by decide), if_neg (by decide), if_neg (by decide), if_pos rfl, if_neg (by decide), if_neg (by decide), if_neg (by decide), if_neg (by decide), if_neg (by decide), if_neg (by decide), if_pos rfl, r0, bd_s, p_toAsk So' hl6 (fun e he => (hw4 e he).2) Sn, bd_s]; exact here _
  · obtain ⟨w', e, o, st⟩ := W_lackedBy hU hB hU5 h rk hi ea
    rw [if_neg (by decide), if_neg (by decide), if_neg (by decide), if_neg (by decide), if_neg (by decide), if_neg (by decide), if_neg (by decide), if_pos rfl, if_neg (by decide), if_neg (by decide), if_neg (by decide), if_neg (by decide), if_neg (by decide), if_neg (by decide), if_neg (by decide), e, bd_s]
    exact ⟨w', rfl, o, st⟩

set_option maxRecDepth 100000
/-! PURE: class DictProof: instance, goal, entry, need, count -/
/-- the types that the slots hold are allowed -/
def Usl (U : Tm → Prop) (S : Nat → Option Tm) : Prop := ∀ k, k < 4 → ∀ t, S k = some t → U t
section OPS
variable {s : Sg} {gs : Option Nat × Option Nat} {ca : Nat → Nat} {A : As} {U : Tm → Prop} {mp : Nat} {w : Wd}
theorem W_instance (hA : okA A) (hU : UOK U) (hB : UBd U) (hU5 : ∀ t, okT t → szT t ≤ 5 → U t) (h : okW (asI A) U mp w) (r : R0 s (wk w) gs ca A) (i x : Int) :
    ∃ w', fX0_instance (some mp) s (wh w) i x = some (sp_instance A i x, wh w') ∧ okW (asI A) U mp w' ∧ stW w w' 4 := by
  unfold fX0_instance fX0_instance_b24 sp_instance
  rw [p0_isInstance r, bd_s]
  by_cases hi : isIn9 A i
  · have a1 := hi.1
    have a2 := hi.2
    have h6 := r.2.1.2.1
    obtain ⟨ok, a, ea, Pa⟩ := r.2.1.2.2 i.toNat (by omega)
    have ea' := ea
    rw [show ((i.toNat : Nat) : Int) = i by omega] at ea'
    rw [decide_eq_true hi, if_neg (show ¬ bI true = 0 by decide), gd_t (by omega), ea', if_pos hi]
    by_cases hx : 0 ≤ x ∧ x ≤ 7
    · obtain ⟨w', e, o, st⟩ := W_tellInstance hA hU hB hU5 h r (i := i.toNat) (by omega) ea hx
      rw [e, bd_s, if_pos hx]
      exact ⟨w', rfl, o, st⟩
    · unfold fX0_tellInstance
      rw [if_neg (by omega), if_neg (by omega), if_neg (by omega), if_neg (by omega), if_neg (by omega), if_neg (by omega), if_neg (by omega), if_neg (by omega), bd_s, if_neg hx]
      exact ⟨w, rfl, h, (stW.refl w).mono (by omega)⟩
  · rw [decide_eq_false hi, if_pos (show bI false = 0 from rfl), if_neg hi]
    exact ⟨w, rfl, h, (stW.refl w).mono (by omega)⟩
theorem W_goal_op (hU : UOK U) (hB : UBd U) (hS : Usl U (asS A)) (h : okW (asI A) U mp w) (r : R0 s (wk w) gs ca A) (c k x : Int) :
    ∃ w', fX0_goal gs (some mp) s (wh w) c k x = some (sp_goal A c k x, wh w') ∧ okW (asI A) U mp w' ∧ stW w w' 405 := by
  have here : ∀ v : Int, ∃ w', some (v, wh w) = some (v, wh w') ∧ okW (asI A) U mp w' ∧ stW w w' 405 := fun v => ⟨w, rfl, h, (stW.refl w).mono (by omega)⟩
  unfold fX0_goal fX0_goal_b16 fX0_goal_b43 sp_goal
  rw [p0_isClass r, bd_s]
  by_cases hc : isCl A c
  · rw [decide_eq_true hc, if_neg (show ¬ bI true = 0 by decide), p0_isSlot r, bd_s, if_pos hc]
    cases q : slotOf A k with
    | none =>
      rw [show (none : Option Tm).isSome = false from rfl, if_neg (show ¬ ¬ bI false = 0 by decide)]
      exact here _
    | some t =>
      obtain ⟨j, b, hj, rfl, eS, ej, T⟩ := r.slot q
      rw [show (some t).isSome = true from rfl, if_pos (show ¬ bI true = 0 by decide), p0_isIn, bd_s]
      by_cases hx : 0 ≤ x ∧ x ≤ 6
      · obtain ⟨w', e, o, st⟩ := W_tellGoal gs hU hB r.1 r.2.2.1 h r.2.1 hj ej T (hS j hj t eS) hc hx
        rw [decide_eq_true hx, if_neg (show ¬ bI true = 0 by decide), e, bd_s]
        simp only
        rw [if_pos hx, gVal_A]
        exact ⟨w', rfl, o, st.mono (by split <;> omega)⟩
      · rw [decide_eq_false hx, if_pos (show bI false = 0 from rfl)]
        simp only
        rw [if_neg hx]
        exact here _
  · rw [decide_eq_false hc, if_pos (show bI false = 0 from rfl), if_neg hc]
    exact here _
theorem W_entry (hU : UOK U) (hB : UBd U) (hS : Usl U (asS A)) (h : okW (asI A) U mp w) (r : R0 s (wk w) gs ca A) (c k x : Int) :
    ∃ w', fX0_entry (some mp) s (wh w) c k x = some (sp_entry A c k x, wh w') ∧ okW (asI A) U mp w' ∧ stW w w' 1 := by
  have here : ∀ v : Int, ∃ w', some (v, wh w) = some (v, wh w') ∧ okW (asI A) U mp w' ∧ stW w w' 1 := fun v => ⟨w, rfl, h, (stW.refl w).mono (by omega)⟩
  have hI9 : ∀ i, i < (asI A).length → okI (asN A) (ig (asI A) i) := fun i hi => (r.2.1.2.2 i hi).1
  unfold fX0_entry fX0_entry_b16 fX0_entry_b74 fX0_entry_b76 sp_entry
  rw [p0_isClass r, bd_s]
  by_cases hc : isCl A c
  · rw [decide_eq_true hc, if_neg (show ¬ bI true = 0 by decide), p0_isSlot r, bd_s, if_pos hc]
    cases q : slotOf A k with
    | none =>
      rw [show (none : Option Tm).isSome = false from rfl, if_neg (show ¬ ¬ bI false = 0 by decide)]
      exact here _
    | some t =>
      obtain ⟨j, b, hj, rfl, eS, ej, T⟩ := r.slot q
      have ht := hS j hj t eS
      obtain ⟨ot, h9⟩ := hU.1 t ht
      obtain ⟨w1, e1, o1, s1, G⟩ := W_goal h c T
      obtain ⟨p, w2, e2, o2, s2, P⟩ := W_prove hU hB r.1.2.1 r.2.2.1 o1 (r.2.1.mono s1.1) ht hc G
      have s12 := s1.trans s2 (C := 1) (by omega)
      have P16 := (P 16 (by omega)).mono o2.1.ext
      have rok := (res_ok r.1.2.1 hI9 (szT t) c t rfl ot hc.1 hc.2).2.1
      have p9 : 2 ^ szT t ≤ 512 := Nat.pow_le_pow_right (n := 2) (by omega) h9
      rw [show (some t).isSome = true from rfl, if_pos (show ¬ bI true = 0 by decide), nwS_e, bd_s]
      dsimp only
      rw [gd_t (by omega), ej, e1, bd_s, e2, bd_s]
      dsimp only
      rw [P16.o hI9 ot, bd_s]
      by_cases h1 : rS (res (asI A) c t) = 1
      · rw [if_neg (by simpa using h1), gd_t P16.c.1, p_size10 r.2.1.2.1 r.1.2.1 hI9 16 p c t ot h9 hc P16 h1, bd_s, p0_isIn, bd_s, wr_id (by omega) (by omega)]
        by_cases hx : 0 ≤ x ∧ x < ((rQ (res (asI A) c t)).length : Int)
        · have e10 := p_entry10 r.2.1.2.1 r.1.2.1 hI9 16 p c t x.toNat (by omega) ot h9 hc P16 h1 (by omega)
          rw [show ((x.toNat : Nat) : Int) = x by omega] at e10
          rw [decide_eq_true (by omega), if_neg (show ¬ bI true = 0 by decide), gd_t P16.c.1, e10, bd_s, if_pos ⟨h1, hx⟩]
          exact ⟨w2, rfl, o2, s12⟩
        · rw [decide_eq_false (by omega), if_pos (show bI false = 0 from rfl), if_neg (fun w => hx w.2)]
          exact ⟨w2, rfl, o2, s12⟩
      · rw [if_pos h1, if_neg (fun w => h1 w.1)]
        exact ⟨w2, rfl, o2, s12⟩
  · rw [decide_eq_false hc, if_pos (show bI false = 0 from rfl), if_neg hc]
    exact here _
theorem W_need (hU : UOK U) (hB : UBd U) (hS : Usl U (asS A)) (h : okW (asI A) U mp w) (r : R0 s (wk w) gs ca A) (c k d v : Int) :
    ∃ w', fX0_need (some mp) s (wh w) c k d v = some (sp_need A c k d v, wh w') ∧ okW (asI A) U mp w' ∧ stW w w' 1 := by
  have here : ∀ v : Int, ∃ w', some (v, wh w) = some (v, wh w') ∧ okW (asI A) U mp w' ∧ stW w w' 1 := fun v => ⟨w, rfl, h, (stW.refl w).mono (by omega)⟩
  have hI9 : ∀ i, i < (asI A).length → okI (asN A) (ig (asI A) i) := fun i hi => (r.2.1.2.2 i hi).1
  have hn := r.1.2.1
  unfold fX0_need fX0_need_b16 fX0_need_b69 fX0_need_b71 sp_need
  rw [p0_isClass r, bd_s]
  by_cases hc : isCl A c
  · rw [decide_eq_true hc, if_neg (show ¬ bI true = 0 by decide), p0_isSlot r, bd_s, if_pos hc]
    cases q : slotOf A k with
    | none =>
      rw [show (none : Option Tm).isSome = false from rfl, if_neg (show ¬ ¬ bI false = 0 by decide)]
      exact here _
    | some t =>
      rw [show (some t).isSome = true from rfl, if_pos (show ¬ bI true = 0 by decide), p0_isClass r, bd_s]
      simp only
      by_cases hd : isCl A d
      · rw [decide_eq_true hd, if_neg (show ¬ bI true = 0 by decide), p0_isIn, bd_s]
        by_cases hv : 0 ≤ v ∧ v ≤ 1
        · obtain ⟨j, b, hj, rfl, eS, ej, T⟩ := r.slot q
          have ht := hS j hj t eS
          obtain ⟨ot, h9⟩ := hU.1 t ht
          obtain ⟨w1, e1, o1, s1, G⟩ := W_goal h c T
          obtain ⟨p, w2, e2, o2, s2, P⟩ := W_prove hU hB r.1.2.1 r.2.2.1 o1 (r.2.1.mono s1.1) ht hc G
          have s12 := s1.trans s2 (C := 1) (by omega)
          have P16 := (P 16 (by omega)).mono o2.1.ext
          have rok := (res_ok r.1.2.1 hI9 (szT t) c t rfl ot hc.1 hc.2).2.2.2.2
          have d0 := hd.1
          have d1 := hd.2
          rw [decide_eq_true hv, if_neg (show ¬ bI true = 0 by decide), nwS_e, bd_s]
          dsimp only
          rw [gd_t (by omega), ej, e1, bd_s, e2, bd_s]
          dsimp only
          rw [wr_id (x := 2 * d) (by omega) (by omega), wr_id (by omega) (by omega), if_pos ⟨hd, hv.1, hv.2⟩]
          have kk : 2 * d + v = (((2 * d + v).toNat : Nat) : Int) := by omega
          have k8 : (2 * d + v).toNat < 8 := by omega
          have tn : ∀ N : Nat, N < 256 → fX0_tellNeed_b16 s (wh w2) (2 * d + v) (N : Int) = some (if (plain (asN A) (asA A) N).testBit (2 * d + v).toNat = true then 2 else if N.testBit (2 * d + v).toNat = true then 1 else 0) := by
            intro N hN
            have pb : plain (asN A) (asA A) N < 256 := by
              have : plain (asN A) (asA A) N < 2 ^ (2 * asN A) := bitsOf_lt _ _
              have := Nat.pow_le_pow_right (n := 2) (by omega) (show 2 * asN A ≤ 8 by omega)
              omega
            unfold fX0_tellNeed_b16 fX0_tellNeed_b46
            rw [p_plainOf r.1 hN, bd_s, kk, p_has (by omega) (by omega), bd_s, p_has (by omega) (by omega)]
            simp only [Int.toNat_natCast]
            cases (plain (asN A) (asA A) N).testBit (2 * d + v).toNat with
            | true => rw [if_neg (show ¬ bI true = 0 by decide), if_pos rfl]
            | false =>
              rw [if_pos (show bI false = 0 from rfl), bd_s, if_neg (show ¬ (false = true) by decide)]
              by_cases hb : N.testBit (2 * d + v).toNat = true
              · rw [if_pos hb, if_neg (by rw [hb]; decide)]
              · rw [if_neg hb, if_pos (by rw [show N.testBit (2 * d + v).toNat = false by simpa using hb]; rfl)]
          unfold fX0_tellNeed needVal
          rw [P16.o hI9 ot, bd_s]
          by_cases h1 : rS (res (asI A) c t) = 1
          · rw [if_neg (by simpa using h1), gd_t P16.c.1, p_needs10 r.2.1.2.1 r.1.2.1 hI9 16 p c t ot h9 hc P16 h1, bd_s, tn _ rok, bd_s, if_pos h1]
            exact ⟨w2, rfl, o2, s12⟩
          · have z := tn 0 (by omega)
            have p0 : plain (asN A) (asA A) 0 = 0 := bitsOf_0.mpr (fun i _ => by simp)
            rw [p0, Nat.zero_testBit, if_neg (by decide), if_neg (by decide)] at z
            rw [if_pos h1, if_neg h1, show fX0_tellNeed_b16 s (wh w2) (2 * d + v) 0 = some 0 from z, bd_s]
            exact ⟨w2, rfl, o2, s12⟩
        · rw [decide_eq_false hv, if_pos (show bI false = 0 from rfl), if_neg (fun w => hv w.2)]
          exact here _
      · rw [decide_eq_false hd, if_pos (show bI false = 0 from rfl), if_neg (fun w => hd w.1)]
        exact here _
  · rw [decide_eq_false hc, if_pos (show bI false = 0 from rfl), if_neg hc]
    exact here _
theorem p0_slotsUsed {k : hS} {S : Nat → Option Tm} (L : Sl0 s k 6 S) : fX0_slotsUsed s = some ((filldN S : Nat) : Int) := by
  have := loopE (fun f k (x : Int) => fX0_slotsUsed_L4 f s x (k : Int)) 4 (fun k => ((cntN (fun k => (S k).isSome) k : Nat) : Int)) (some ((filldN S : Nat) : Int)) (fun f k hk => ?_) (fun f => ?_) (by unfold FU; omega)
  · exact this
  · have Lk := L k hk
    have cl := cntN_le (fun k => (S k).isSome) k
    rw [fX0_slotsUsed_L4_s]
    unfold fX0_slotsUsed_b4 fX0_slotsUsed_b24
    rw [if_neg (by omega), gd_t (by omega), wr_id (x := (k : Int) + 1) (by omega) (by omega), ← cntN_b]
    cases q : S k with
    | none =>
      rw [q] at Lk
      rw [show gQ s 6 (k : Int) = none from Lk]
      simp only [ifN]
      rw [wr_id (by omega) (by omega)]
      rfl
    | some t =>
      rw [q] at Lk
      obtain ⟨a, e, -⟩ := Lk
      rw [e]
      simp only [ifN]
      rw [wr_id (by omega) (by omega)]
      rfl
  · rw [fX0_slotsUsed_L4_s]
    unfold fX0_slotsUsed_b4
    rw [if_pos (by decide)]
    rfl
theorem W_lackedAll (hU : UOK U) (hB : UBd U) (hU5 : ∀ t, okT t → szT t ≤ 5 → U t) (h : okW (asI A) U mp w) (r : R0 s (wk w) gs ca A) :
    ∃ w', fX0_lackedAll (some mp) s (wh w) = some (((lackN A : Nat) : Int), wh w') ∧ okW (asI A) U mp w' ∧ stW w w' 24 := by
  have h5 := r.2.1.1
  have h6 := r.2.1.2.1
  have hn := r.1.2.1
  have pc16 : ∀ i, pcN (lck A (ig (asI A) i)) ≤ 16 := fun i => cntN_le _ _
  obtain ⟨w', ⟨o, st⟩, e⟩ := loopN (fun f k (x : Wd) => fX0_lackedAll_L4 f (some mp) s (wh x) ((sumN (fun i => pcN (lck A (ig (asI A) i))) k : Nat) : Int) (k : Int)) (asI A).length (fun k x => okW (asI A) U mp x ∧ stW w x (4 * k)) (fun x => some (((lackN A : Nat) : Int), wh x)) (fun f k x hk hx => by
      obtain ⟨ox, sx⟩ := hx
      obtain ⟨ok, a, ea, -⟩ := r.2.1.2.2 k hk
      obtain ⟨w1, e1, o1, s1⟩ := W_lackedBy hU hB hU5 ox (r.mono sx.1) hk ea
      refine ⟨w1, ⟨o1, sx.trans s1 (by omega)⟩, ?_⟩
      have sl := sumN_le (fun i => pcN (lck A (ig (asI A) i))) 16 k (fun i _ => pc16 i)
      have lb : lck A (ig (asI A) k) < 256 := by
        have : lck A (ig (asI A) k) < 2 ^ asN A := bitsOf_lt _ _
        have := Nat.pow_le_pow_right (n := 2) (by omega) (show asN A ≤ 8 by omega)
        omega
      have := pc16 k
      show fX0_lackedAll_L4 (f + 1) (some mp) s (wh x) _ (k : Int) = fX0_lackedAll_L4 f (some mp) s (wh w1) _ ((k + 1 : Nat) : Int)
      rw [fX0_lackedAll_L4_s]
      unfold fX0_lackedAll_b4
      rw [if_neg (by rw [h5]; omega), gd_t (by omega), ea, e1, bd_s]
      dsimp only
      rw [p_bitCount lb, bd_s, wr_id (x := (k : Int) + 1) (by omega) (by omega), wr_id (by omega) (by omega)]
      rfl) (fun f x hx => by
      show fX0_lackedAll_L4 (f + 1) (some mp) s (wh x) _ ((asI A).length : Int) = _
      rw [fX0_lackedAll_L4_s]
      unfold fX0_lackedAll_b4
      rw [if_pos (by rw [h5]; omega)]
      rfl) FU 0 w (by unfold FU; omega) (by omega) ⟨h, (stW.refl w).mono (by omega)⟩
  exact ⟨w', e, o, st.mono (by omega)⟩
end OPS

set_option maxRecDepth 100000
/-! PURE: class DictProof: how many different types; count -/
theorem p_hashTm {h : hS} {a : Nat} {t : Tm} (T : isT h a t) (hd : dpT t ≤ 16) : fJ1_hash h (some a) = some (spH (hhT t)) := by
  unfold fJ1_hash fJ1_hash_b19 D0_hashCode
  simp only [ifN]
  rw [if_pos T.c, p_hashT t 16 h a hd T, bd_s]
  rfl
theorem hhT_inj {U : Tm → Prop} (hU : UOK U) {t u : Tm} (ht : U t) (hu : U u) (e : spH (hhT t) = spH (hhT u)) (rt : rI (hhT t)) (ru : rI (hhT u)) : t = u := by
  have e1 := spH_inj rt ru e
  exact (hU.2.2 0 0 t u (by omega) (by omega) ht hu (by unfold hhG; rw [e1])).2
theorem hhT_r (t : Tm) : rI (hhT t) := by
  cases t <;> exact rI_to _
theorem cntN_t {P : Nat → Bool} {n : Nat} (h : P n = true) : cntN P (n + 1) = cntN P n + 1 := by show cntN P n + _ = _; rw [h]; rfl
theorem cntN_f {P : Nat → Bool} {n : Nat} (h : P n = false) : cntN P (n + 1) = cntN P n := by show cntN P n + _ = _; rw [h]; rfl
/-- a set of types of slots -/
def TS9 (k h : hS) (U : Tm → Prop) (hs mp : Nat) (F : Nat → Prop) (E : List En) (Q : Nat) (S : Nat → Option Tm) (m : Nat) : Prop :=
  Kp k h F ∧ k.1 hs = some (.inl (14, [vq (some mp)])) ∧ HM 64 h mp E F Q ∧ E.length = cntN (fun k => (S k).isSome && allN (fun e => !likeS S k e) k) m ∧ (∀ e, e ∈ E → ∃ (t : Tm) (a : Nat) (v : Option Nat), U t ∧ e = (spH (hhT t), some a, v) ∧ isT k a t) ∧ ∀ hv, (∃ e, e ∈ E ∧ e.1 = hv) ↔ ∃ j t, j < m ∧ S j = some t ∧ hv = spH (hhT t)
theorem putE_hv {E : List En} {x hv : Int} {o : Nat} {v : Option Nat} : (∃ e, e ∈ putE E x o v ∧ e.1 = hv) ↔ (∃ e, e ∈ E ∧ e.1 = hv) ∨ hv = x := by
  by_cases w : ∃ e, e ∈ E ∧ e.1 = x
  · rw [putE_y w]
    constructor
    · rintro ⟨e, he, e1⟩
      obtain ⟨e0, he0, rfl⟩ := List.mem_map.mp he
      have : (upE x v e0).1 = e0.1 := by unfold upE; split <;> rfl
      exact Or.inl ⟨e0, he0, by rw [← this]; exact e1⟩
    · rintro (⟨e, he, e1⟩ | e1)
      · have : (upE x v e).1 = e.1 := by unfold upE; split <;> rfl
        exact ⟨_, List.mem_map.mpr ⟨e, he, rfl⟩, by rw [this]; exact e1⟩
      · obtain ⟨e, he, e2⟩ := w
        have : (upE x v e).1 = e.1 := by unfold upE; split <;> rfl
        exact ⟨_, List.mem_map.mpr ⟨e, he, rfl⟩, by rw [this, e2, e1]⟩
  · rw [putE_n (fun e he q => w ⟨e, he, q⟩)]
    constructor
    · rintro ⟨e, he, e1⟩
      rcases List.mem_cons.mp he with rfl | he
      · exact Or.inr e1.symm
      · exact Or.inl ⟨e, he, e1⟩
    · rintro (⟨e, he, e1⟩ | e1)
      · exact ⟨e, List.mem_cons_of_mem _ he, e1⟩
      · exact ⟨_, List.mem_cons_self .., e1.symm⟩
theorem TS9.add {k h : hS} {U : Tm → Prop} {hs mp : Nat} {F : Nat → Prop} {E : List En} {Q : Nat} {S : Nat → Option Tm} {m : Nat} (hU : UOK U) (hSl : Usl U S) (gs : Option Nat × Option Nat) (T9 : TS9 k h U hs mp F E Q S m) (hm : m < 4) {a : Nat} {t : Tm} (es : S m = some t) (Ta : isT k a t) :
    ∃ z h' F' E' Q', fJ15_add gs h (some hs) (some a) = some (z, h') ∧ TS9 k h' U hs mp F' E' Q' S (m + 1) ∧ fr h h' F F' ∧ h'.2.1 + Q' ≤ h.2.1 + Q + 4 ∧ h'.2.2 + 4 * Q' ≤ h.2.2 + 4 * Q + 16 := by
  obtain ⟨K, ek, M, el, hE, hM⟩ := T9
  have ht := hSl m hm t es
  obtain ⟨ot, h9⟩ := hU.1 t ht
  have d16 : dpT t ≤ 16 := by have := dpT_le t ot; omega
  have l4 : E.length ≤ 4 := by rw [el]; have := cntN_le (fun k => (S k).isSome && allN (fun e => !likeS S k e) k) m; omega
  have key : ∀ e, e ∈ E → e.1 = spH (hhT t) → ∃ b v, e = (spH (hhT t), some b, v) ∧ isT k b t := by
    intro e he h1
    obtain ⟨t', b, v, hu', e1, Tb⟩ := hE e he
    have : spH (hhT t') = spH (hhT t) := by rw [← h1, e1]
    obtain rfl := hhT_inj hU hu' ht this (hhT_r _) (hhT_r _)
    exact ⟨b, v, e1, Tb⟩
  obtain ⟨h', F', Q', e1, M', ff, c1, c2⟩ := pH_put (kN := 6) (v := gs.2) M rfl (by omega) (by omega) (p_hashTm (Ta.mono K.ext) d16) (spH_r _) (fun e he h1 => by
    obtain ⟨b, v, e2, Tb⟩ := key e he h1
    right
    refine ⟨1, by decide, ?_⟩
    rw [e2]
    unfold D1_equals
    rw [if_pos (Ta.mono K.ext).c, p_equalsT 16 t t h a b ot ot d16 (Ta.mono K.ext) (Tb.mono K.ext), (b01_1 (p := flat t = flat t)).mpr rfl]) (by omega)
  have Fl' : ∀ a, F' a → a < h'.2.1 := by obtain ⟨_, _, _, _, _, _, Fl, -⟩ := M'; exact Fl
  have cM : hC h (some mp) = some 11 := by obtain ⟨_, _, _, _, M1, -⟩ := M; exact MO.c M1
  obtain ⟨z, ez⟩ : ∃ z, fJ15_add gs h (some hs) (some a) = some (z, h') := by
    unfold fJ15_add fJ15_add_b19
    rw [(rd14 (K.ext _ _ ek)).1, bd_s, gd_t cM, e1, bd_s]
    cases mgt E (spH (hhT t)) with
    | none => exact ⟨1, by simp only [ifN]; rw [gd_t (by simp)]⟩
    | some q => exact ⟨0, by simp only [ifN]; rw [gd_t (by simp)]⟩
  have inE : (∃ e, e ∈ E ∧ e.1 = spH (hhT t)) ↔ ∃ j, j < m ∧ S j = some t := by
    rw [hM]
    constructor
    · rintro ⟨j, u, hj, eu, q⟩
      obtain rfl := hhT_inj hU (hSl j (by omega) u eu) ht q.symm (hhT_r _) (hhT_r _)
      exact ⟨j, hj, eu⟩
    · rintro ⟨j, hj, eu⟩
      exact ⟨j, t, hj, eu, rfl⟩
  have ps : (putE E (spH (hhT t)) a gs.2).length ≤ E.length + 1 := by
    unfold putE; split
    · rw [List.length_map]; omega
    · rw [List.length_cons]; omega
  refine ⟨z, h', F', putE E (spH (hhT t)) a gs.2, Q', ez, ⟨K.frm ff Fl', ek, M', ?_, fun e he => ?_, fun hv => ?_⟩, ff, by omega, by omega⟩
  · by_cases w : ∃ j, j < m ∧ S j = some t
    · rw [putE_y (inE.mpr w), List.length_map, el]
      have : ((S m).isSome && allN (fun e => !likeS S m e) m) = false := by
        obtain ⟨j, hj, ej⟩ := w
        have : allN (fun e => !likeS S m e) m = false := by
          cases q : allN (fun e => !likeS S m e) m with
          | false => rfl
          | true =>
            have := (allN_iff.mp q) j hj
            unfold likeS at this
            rw [es, ej] at this
            simp at this
        rw [this]; simp
      exact (cntN_f (P := fun k => (S k).isSome && allN (fun e => !likeS S k e) k) this).symm
    · rw [putE_n (fun e he q => w (inE.mp ⟨e, he, q⟩)), List.length_cons, el]
      have : ((S m).isSome && allN (fun e => !likeS S m e) m) = true := by
        rw [es]
        simp only [Option.isSome_some, Bool.true_and]
        refine allN_iff.mpr (fun j hj => ?_)
        unfold likeS
        cases ej : S j with
        | none => rw [es]; simp
        | some u =>
          rw [es]
          simp only [Option.map_some, Option.some.injEq, Bool.not_eq_true', decide_eq_false_iff_not]
          intro q
          have ou := (hU.1 u (hSl j (by omega) u ej)).1
          exact w ⟨j, hj, by rw [ej, (flat_eq ot ou).mp q]⟩
      exact (cntN_t (P := fun k => (S k).isSome && allN (fun e => !likeS S k e) k) this).symm
  · rcases putE_mem he with rfl | ⟨he2, -⟩ | ⟨e0, he2, h1, rfl⟩
    · exact ⟨t, a, _, ht, rfl, Ta⟩
    · exact hE e he2
    · obtain ⟨b, v, e2, Tb⟩ := key e0 he2 h1
      exact ⟨t, b, gs.2, ht, by rw [e2], Tb⟩
  · rw [putE_hv, hM]
    constructor
    · rintro (⟨j, u, hj, eu, q⟩ | q)
      · exact ⟨j, u, by omega, eu, q⟩
      · exact ⟨m, t, by omega, es, q⟩
    · rintro ⟨j, u, hj, eu, q⟩
      by_cases jm : j = m
      · subst jm
        rw [es] at eu
        cases eu
        exact Or.inr q
      · exact Or.inl ⟨j, u, by omega, eu, q⟩
theorem p_differentTypes {s : Sg} {k h : hS} {F : Nat → Prop} {U : Tm → Prop} {S : Nat → Option Tm} (gs : Option Nat × Option Nat) (hU : UOK U) (hSl : Usl U S) (K : Kp k h F) (L : Sl0 s k 6 S) :
    ∃ h', fX0_differentTypes gs s h = some (((diffT S : Nat) : Int), h') ∧ ol h h' 280 := by
  have eA := nwO_at h 14 [vq none]
  obtain ⟨hB, eB, MB, oB, sB, sB'⟩ := pH_new' 64 (nwO h 14 [vq none])
  have lA : (nwO h 14 [vq none]).2.1 = h.2.1 + 1 := rfl
  rw [lA] at eB MB oB sB
  have eB1 : hB.1 h.2.1 = some (.inl (14, [vq none])) := by rw [oB h.2.1 (by omega)]; exact eA
  obtain ⟨h9C, eC, aC, oC, sC⟩ := hW_at (P := [(14, 0)]) (v := vq (some (h.2.1 + 1))) eB1 rfl (by simp)
  have e15 : fJ15_init (nwO h 14 [vq none]) (some h.2.1) = some h9C := by
    unfold fJ15_init fJ14_init fJ13_init
    rw [gd_t (by simp), gd_t (by simp), gd_t (by simp), bd_s, bd_s, nwS_e, bd_s]
    dsimp only
    rw [lA, eB, bd_s, eC, bd_s]
  have MC : HM 64 h9C (h.2.1 + 1) [] (fun a => a = h.2.1 + 1) (4 * 64) := MB.cg (fun b hb => oC b (by omega)) (by rw [sC]; omega)
  have lC : h9C.2.1 = h.2.1 + 2 := by rw [sC, sB]
  have lC2 : h9C.2.2 = h.2.2 + 9 := by rw [sC, sB']; rfl
  have KC : Kp k h9C (fun a => a = h.2.1 + 1) := by
    refine ⟨fun a e q => ?_, fun a ha => by omega⟩
    obtain ⟨x, y, -⟩ := K.1 a e q
    exact ⟨by rw [oC a (by omega), oB a (by omega), nwO_ne h 14 _ (by omega)]; exact x, by omega, by omega⟩
  obtain ⟨K1, X1⟩ := KC.add (a := h.2.1) (K.nk (Nat.le_refl _)) aC (by omega) (by omega)
  have X1 : ext k (hup k h.2.1 (.inl (14, [vq (some (h.2.1 + 1))]))) := X1
  have S0 : TS9 (hup k h.2.1 (.inl (14, [vq (some (h.2.1 + 1))]))) h9C U h.2.1 (h.2.1 + 1) (fun a => a = h.2.1 + 1) [] (4 * 64) S 0 := ⟨K1, hup_at _ _ _, MC, rfl, (fun e he => by cases he), (fun hv => ⟨fun ⟨e, he, _⟩ => (by cases he), fun ⟨j, t, hj, _⟩ => (by omega)⟩)⟩
  have main : ∀ (r f m : Nat) (h1 : hS) (F1 : Nat → Prop) (E1 : List En) (Q1 : Nat), r < f → r + m = 4 → TS9 (hup k h.2.1 (.inl (14, [vq (some (h.2.1 + 1))]))) h1 U h.2.1 (h.2.1 + 1) F1 E1 Q1 S m →
      ∃ h' F' E' Q', fX0_differentTypes_L10 f gs s h1 (some h.2.1) (m : Int) = some (((diffT S : Nat) : Int), h') ∧ fr h1 h' F1 F' ∧ h'.2.1 + Q' ≤ h1.2.1 + Q1 + 4 * r ∧ h'.2.2 + 4 * Q' ≤ h1.2.2 + 4 * Q1 + 16 * r ∧ TS9 (hup k h.2.1 (.inl (14, [vq (some (h.2.1 + 1))]))) h' U h.2.1 (h.2.1 + 1) F' E' Q' S 4 := by
    intro r
    induction r with
    | zero =>
      intro f m h1 F1 E1 Q1 hf hm T9
      obtain ⟨f, rfl⟩ : ∃ x, f = x + 1 := ⟨f - 1, by omega⟩
      have : m = 4 := by omega
      subst this
      have T9' := T9
      obtain ⟨K4, ek4, M4, el4, -⟩ := T9
      have cM : hC h1 (some (h.2.1 + 1)) = some 11 := by obtain ⟨_, _, _, _, M1, -⟩ := M4; exact MO.c M1
      have r14 := rd14 (K4.ext _ _ ek4)
      rw [fX0_differentTypes_L10_s]
      unfold fX0_differentTypes_b10 fJ15_size
      rw [if_pos (by decide), gd_t r14.2, r14.1, bd_s, gd_t cM, pH_size M4, bd_s, bd_s, el4]
      exact ⟨h1, F1, E1, Q1, rfl, fr.ofol (ol.refl h1), by omega, by omega, T9'⟩
    | succ r ih =>
      intro f m h1 F1 E1 Q1 hf hm T9
      obtain ⟨f, rfl⟩ : ∃ x, f = x + 1 := ⟨f - 1, by omega⟩
      have Lm := L m (by omega)
      have r14 := rd14 (T9.1.ext _ _ T9.2.1)
      cases es : S m with
      | none =>
        rw [es] at Lm
        have T10 : TS9 (hup k h.2.1 (.inl (14, [vq (some (h.2.1 + 1))]))) h1 U h.2.1 (h.2.1 + 1) F1 E1 Q1 S (m + 1) := by
          obtain ⟨t1, t2, t3, t4, t5, t6⟩ := T9
          refine ⟨t1, t2, t3, ?_, t5, fun hv => ?_⟩
          · rw [t4]; exact (cntN_f (P := fun k => (S k).isSome && allN (fun e => !likeS S k e) k) (by simp [es])).symm
          · rw [t6]
            constructor
            · rintro ⟨j, u, hj, eu, q⟩; exact ⟨j, u, by omega, eu, q⟩
            · rintro ⟨j, u, hj, eu, q⟩
              by_cases jm : j = m
              · subst jm; rw [es] at eu; cases eu
              · exact ⟨j, u, by omega, eu, q⟩
        obtain ⟨h', F', E', Q', e, ff, c1, c2, T'⟩ := ih f (m + 1) h1 F1 E1 Q1 (by omega) (by omega) T10
        refine ⟨h', F', E', Q', ?_, ff, by omega, by omega, T'⟩
        rw [fX0_differentTypes_L10_s]
        unfold fX0_differentTypes_b10 fX0_differentTypes_b35
        rw [if_neg (by omega), gd_t (by omega), show gQ s 6 (m : Int) = none from Lm]
        simp only [ifN]
        rw [wr_id (by omega) (by omega)]
        exact e
      | some t =>
        rw [es] at Lm
        obtain ⟨a, ea, Ta⟩ := Lm
        obtain ⟨z, h2, F2, E2, Q2, e2, T2, f2, d1, d2⟩ := T9.add hU hSl gs (by omega) es (Ta.mono X1)
        obtain ⟨h', F', E', Q', e, ff, c1, c2, T'⟩ := ih f (m + 1) h2 F2 E2 Q2 (by omega) (by omega) T2
        refine ⟨h', F', E', Q', ?_, f2.trans ff, by omega, by omega, T'⟩
        rw [fX0_differentTypes_L10_s]
        unfold fX0_differentTypes_b10 fX0_differentTypes_b35
        rw [if_neg (by omega), gd_t (by omega), ea]
        simp only [ifN]
        rw [gd_t (by omega), gd_t r14.2, e2, bd_s, wr_id (by omega) (by omega)]
        exact e
  obtain ⟨h4, F4, E4, Q4, e4, f4, c1, c2, -⟩ := main 4 FU 0 h9C _ [] (4 * 64) (by unfold FU; omega) (by omega) S0
  refine ⟨h4, ?_, ?_, fun b hb => ?_, by omega, by omega⟩
  · unfold fX0_differentTypes
    rw [nwS_e, bd_s]
    dsimp only
    rw [e15, bd_s]
    exact e4
  · have := f4.2.2; omega
  · rw [f4.2.1 b (by omega) (by omega), oC b (by omega), oB b (by omega), nwO_ne h 14 _ (by omega)]
section OPS
variable {s : Sg} {gs : Option Nat × Option Nat} {ca : Nat → Nat} {A : As} {U : Tm → Prop} {mp : Nat} {w : Wd}
theorem W_count (hU : UOK U) (hB : UBd U) (hU5 : ∀ t, okT t → szT t ≤ 5 → U t) (hSl : Usl U (asS A)) (h : okW (asI A) U mp w) (r : R0 s (wk w) gs ca A) (x : Int) :
    ∃ w', fX0_count gs (some mp) s (wh w) x = some (countV A x, wh w') ∧ okW (asI A) U mp w' ∧ stW w w' 280 := by
  have here : ∀ v : Int, ∃ w', some (v, wh w) = some (v, wh w') ∧ okW (asI A) U mp w' ∧ stW w w' 280 := fun v => ⟨w, rfl, h, (stW.refl w).mono (by omega)⟩
  have r0 := r
  obtain ⟨C, J, S, L, Sl, Sn, Pg, Bk, -, -, -⟩ := r
  have J' := J.mono h.1.ext
  unfold fX0_count fX0_count_b75 countV
  by_cases x0 : x = 0
  · rw [if_pos x0, if_pos x0, C.1]; exact here _
  rw [if_neg x0, if_neg x0]
  by_cases x1 : x = 1
  · rw [if_pos x1, if_pos x1, J.1]; exact here _
  rw [if_neg x1, if_neg x1]
  by_cases x2 : x = 2
  · rw [if_pos x2, if_pos x2, p0_unsound J', bd_s]; exact here _
  rw [if_neg x2, if_neg x2]
  by_cases x3 : x = 3
  · rw [if_pos x3, if_pos (Or.inl x3), wr_id (by omega) (by omega), p0_pairsBy J' S L, bd_s]; exact here _
  rw [if_neg x3]
  by_cases x4 : x = 4
  · rw [if_pos x4, if_pos (Or.inr x4), wr_id (by omega) (by omega), p0_pairsBy J' S L, bd_s]; exact here _
  rw [if_neg x4, if_neg (show ¬ (x = 3 ∨ x = 4) by omega)]
  by_cases x5 : x = 5
  · obtain ⟨w', e, o, st⟩ := W_lackedAll hU hB hU5 h r0
    rw [if_pos x5, if_pos x5, e, bd_s]
    exact ⟨w', rfl, o, st.mono (by omega)⟩
  rw [if_neg x5, if_neg x5]
  by_cases x6 : x = 6
  · rw [if_pos x6, if_pos x6, p0_slotsUsed Sl, bd_s]; exact here _
  rw [if_neg x6, if_neg x6]
  by_cases x7 : x = 7
  · obtain ⟨h', e, O⟩ := p_differentTypes gs hU hSl h.1 Sl
    obtain ⟨a, b⟩ := h.olW O
    rw [if_pos x7, if_pos x7, e, bd_s]
    exact ⟨_, rfl, a, b⟩
  rw [if_neg x7, if_neg x7]
  by_cases x8 : x = 8
  · rw [if_pos x8, if_pos x8, Sn.1]; exact here _
  rw [if_neg x8, if_neg x8]
  by_cases x9 : x = 9
  · rw [if_pos x9, if_pos x9, Pg.1]; exact here _
  rw [if_neg x9, if_neg x9]
  by_cases x10 : x = 10
  · rw [if_pos x10, if_pos x10, Bk]; exact here _
  rw [if_neg x10, if_neg x10]
  exact here _
end OPS

