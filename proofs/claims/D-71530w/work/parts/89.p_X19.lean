/-! the pure laws: X19 X20 X21 -/
set_option maxRecDepth 100000
/-! PURE: class DictProof: all that the object holds; calls that only write numbers -/
def Alk0 (s : Sg) (alkf : Tm → Tm → Bool) (I : List Ist) : Prop := ∀ i e : Nat, i < I.length → e < I.length → i ≠ e → gA s 21 (6 * (i : Int) + (e : Int)) = bI (alkf (iH (ig I i)) (iH (ig I e)))
def Sl0 (s : Sg) (k : hS) (j : Nat) (S : Nat → Option Tm) : Prop := ∀ i : Nat, i < 4 → opT k (gQ s j (i : Int)) (S i)
def Pg0 (s : Sg) (P : List Int) : Prop := gI s 9 = (P.length : Int) ∧ ∀ j : Nat, ∀ c, P[j]? = some c → gA s 8 (j : Int) = c
def Kpt0 (s : Sg) (k : hS) (A : As) : Prop := match asK A with
  | none => gI s 34 = -1
  | some (b, Ks, S, E) => gI s 34 = (b : Int) ∧ (b = asB A → ∀ j : Nat, ∀ v, Ks[j]? = some v → gA s 28 (j : Int) = v) ∧ Sl0 s k 29 S ∧ Sn6 s 33 30 31 32 E
def Sor0 (s : Sg) (k : hS) : Prop := ∀ kd : Nat, kd < 5 → ∃ a fs, gQ s 0 (kd : Int) = some a ∧ k.1 a = some (.inl (kd + 1, fs))
def R0 (s : Sg) (k : hS) (gs : Option Nat × Option Nat) (ca : Nat → Nat) (A : As) : Prop :=
  Cls0 s (asN A) (asR A) (asA A) ∧ Ins0 s k (asN A) (asI A) ∧ Spc0 s (asI A) ∧ Alk0 s alk (asI A) ∧ Sl0 s k 6 (asS A) ∧ Sn6 s 26 23 24 25 (asE A) ∧ Pg0 s (asP A) ∧ gI s 7 = (asB A : Int) ∧ Kpt0 s k A ∧ Sor0 s k ∧ Cch k gs ca
theorem opT.mono {k h : hS} (X : ext k h) {o : Option Nat} {t : Option Tm} (P : opT k o t) : opT h o t := by
  cases t with
  | none => exact P
  | some u => obtain ⟨a, e, T⟩ := P; exact ⟨a, e, T.mono X⟩
theorem Sl0.mono {s : Sg} {k h : hS} (X : ext k h) {j : Nat} {S : Nat → Option Tm} (P : Sl0 s k j S) : Sl0 s h j S := fun i hi => (P i hi).mono X
theorem R0.mono {s : Sg} {k h : hS} {gs : Option Nat × Option Nat} {ca : Nat → Nat} {A : As} (X : ext k h) (r : R0 s k gs ca A) : R0 s h gs ca A := by
  obtain ⟨r1, r2, r3, r4, r5, r6, r7, r8, r9, r10, r11⟩ := r
  refine ⟨r1, r2.mono X, r3, r4, r5.mono X, r6, r7, r8, ?_, fun kd hk => ?_, r11.mono X⟩
  · unfold Kpt0 at r9 ⊢
    cases q : asK A with
    | none => rw [q] at r9; exact r9
    | some K =>
      obtain ⟨b, Ks, S, E⟩ := K
      rw [q] at r9
      obtain ⟨a1, a2, a3, a4⟩ := r9
      exact ⟨a1, a2, a3.mono X, a4⟩
  · obtain ⟨a, fs, e1, e2⟩ := r10 kd hk
    exact ⟨a, fs, e1, X _ _ e2⟩
theorem Cls0.keep {s s' : Sg} {n : Nat} {ra ab : Nat → Nat} {L : List Nat} (C : Cls0 s n ra ab) (hk : keepS L s s') (h1 : 1 ∉ L) (h2 : 2 ∉ L) (h3 : 3 ∉ L) : Cls0 s' n ra ab :=
  ⟨(hk.I h3).trans C.1, C.2.1, fun c hc => by obtain ⟨a, b, r⟩ := C.2.2 c hc; exact ⟨(hk.A h1 _).trans a, (hk.A h2 _).trans b, r⟩⟩
theorem Ins0.keep {s s' : Sg} {k : hS} {n : Nat} {I : List Ist} {L : List Nat} (J : Ins0 s k n I) (hk : keepS L s s') (h4 : 4 ∉ L) (h5 : 5 ∉ L) : Ins0 s' k n I :=
  ⟨(hk.I h5).trans J.1, J.2.1, fun i hi => by obtain ⟨o, a, e, P⟩ := J.2.2 i hi; exact ⟨o, a, (hk.Q h4 _).trans e, P⟩⟩
theorem Sl0.keep {s s' : Sg} {k : hS} {j : Nat} {S : Nat → Option Tm} {L : List Nat} (P : Sl0 s k j S) (hk : keepS L s s') (hj : j ∉ L) : Sl0 s' k j S := fun i hi => by rw [hk.Q hj]; exact P i hi
theorem Kpt0.keep {s s' : Sg} {k : hS} {A : As} {L : List Nat} (P : Kpt0 s k A) (hk : keepS L s s') (hL : ∀ x ∈ L, x < 28 ∨ 34 < x) : Kpt0 s' k A := by
  have nm : ∀ x, 28 ≤ x → x ≤ 34 → x ∉ L := fun x h1 h2 h3 => by have := hL x h3; omega
  unfold Kpt0 at P ⊢
  cases q : asK A with
  | none => rw [q] at P; exact (hk.I (nm 34 (by omega) (by omega))).trans P
  | some K =>
    obtain ⟨b, Ks, S, E⟩ := K
    rw [q] at P
    obtain ⟨a1, a2, a3, a4⟩ := P
    exact ⟨(hk.I (nm 34 (by omega) (by omega))).trans a1, fun e j v hv => (hk.A (nm 28 (by omega) (by omega)) _).trans (a2 e j v hv), a3.keep hk (nm 29 (by omega) (by omega)), a4.keep hk (nm 33 (by omega) (by omega)) (nm 30 (by omega) (by omega)) (nm 31 (by omega) (by omega)) (nm 32 (by omega) (by omega))⟩
theorem Sor0.keep {s s' : Sg} {k : hS} {L : List Nat} (P : Sor0 s k) (hk : keepS L s s') (h0 : 0 ∉ L) : Sor0 s' k := fun kd h => by
  obtain ⟨a, fs, e1, e2⟩ := P kd h
  exact ⟨a, fs, (hk.Q h0 _).trans e1, e2⟩
theorem Pg0.keep {s s' : Sg} {P : List Int} {L : List Nat} (h : Pg0 s P) (hk : keepS L s s') (h8 : 8 ∉ L) (h9 : 9 ∉ L) : Pg0 s' P := ⟨(hk.I h9).trans h.1, fun j c hj => (hk.A h8 _).trans (h.2 j c hj)⟩
/-- what is written on the way -/
abbrev L0 : List Nat := [10, 11, 12, 13, 14, 15, 16, 17, 18, 19, 27, 35]
theorem R0.keep {s s' : Sg} {k : hS} {gs : Option Nat × Option Nat} {ca : Nat → Nat} {A : As} {L : List Nat} (r : R0 s k gs ca A) (hk : keepS L s s') (hL : ∀ x ∈ L, x ∈ L0) : R0 s' k gs ca A := by
  have hk : keepS L0 s s' := hk.mono hL
  obtain ⟨r1, r2, r3, r4, r5, r6, r7, r8, r9, r10, r11⟩ := r
  exact ⟨r1.keep hk (by decide) (by decide) (by decide), r2.keep hk (by decide) (by decide), fun i e hi he => (hk.A (by decide) _).trans (r3 i e hi he), fun i e hi he hne => (hk.A (by decide) _).trans (r4 i e hi he hne), r5.keep hk (by decide), r6.keep hk (by decide) (by decide) (by decide) (by decide), r7.keep hk (by decide) (by decide), (hk.I (by decide)).trans r8, r9.keep hk (by decide), r10.keep hk (by decide), r11⟩
theorem p0_isClass {s : Sg} {k : hS} {gs : Option Nat × Option Nat} {ca : Nat → Nat} {A : As} (r : R0 s k gs ca A) (a : Int) : fX0_isClass s a = some (bI (decide (isCl A a))) := by
  obtain ⟨h3, h4, -⟩ := r.1
  unfold fX0_isClass
  rw [h3, wr_id (by omega) (by omega), p0_isIn, bd_s]
  congr 2
  apply decide_eq_decide.mpr
  unfold isCl
  omega
theorem p0_isInstance {s : Sg} {k : hS} {gs : Option Nat × Option Nat} {ca : Nat → Nat} {A : As} (r : R0 s k gs ca A) (a : Int) : fX0_isInstance s a = some (bI (decide (isIn9 A a))) := by
  obtain ⟨h5, h6, -⟩ := r.2.1
  unfold fX0_isInstance
  rw [h5, wr_id (by omega) (by omega), p0_isIn, bd_s]
  congr 2
  apply decide_eq_decide.mpr
  unfold isIn9
  omega
theorem p0_isSlot {s : Sg} {k : hS} {gs : Option Nat × Option Nat} {ca : Nat → Nat} {A : As} (r : R0 s k gs ca A) (a : Int) : fX0_isSlot s a = some (bI (slotOf A a).isSome) := by
  have r5 := r.2.2.2.2.1
  unfold fX0_isSlot fX0_isSlot_b25 fX0_isSlot_b26 slotOf
  rw [p0_isIn, bd_s]
  by_cases h : 0 ≤ a ∧ a ≤ 3
  · have := r5 a.toNat (by omega)
    rw [show ((a.toNat : Nat) : Int) = a by omega] at this
    rw [decide_eq_true h, if_neg (show ¬ bI true = 0 by decide), gd_t (by omega), if_pos (by omega)]
    cases q : asS A a.toNat with
    | none =>
      rw [q] at this
      rw [show gQ s 6 a = none from this]
      rfl
    | some t =>
      rw [q] at this
      obtain ⟨b, e, -⟩ := this
      rw [e]
      rfl
  · rw [decide_eq_false h, if_pos (show bI false = 0 from rfl), if_neg (by omega)]
    rfl
/-- a slot that is filled -/
theorem R0.slot {s : Sg} {k : hS} {gs : Option Nat × Option Nat} {ca : Nat → Nat} {A : As} (r : R0 s k gs ca A) {a : Int} {t : Tm} (h : slotOf A a = some t) : ∃ j b : Nat, j < 4 ∧ a = (j : Int) ∧ asS A j = some t ∧ gQ s 6 a = some b ∧ isT k b t := by
  have r5 := r.2.2.2.2.1
  unfold slotOf at h
  split at h
  · rename_i hc
    have := r5 a.toNat (by omega)
    rw [show ((a.toNat : Nat) : Int) = a by omega, h] at this
    obtain ⟨b, e, T⟩ := this
    exact ⟨a.toNat, b, by omega, by omega, h, e, T⟩
  · cases h
theorem p0_letter {s : Sg} {k : hS} {gs : Option Nat × Option Nat} {ca : Nat → Nat} {A : As} (hA : okA A) (r : R0 s k gs ca A) (c : Int) : ∃ s', fX0_letter s c = some ((sp_letter A c).1, s') ∧ R0 s' k gs ca (sp_letter A c).2 := by
  obtain ⟨h9, h8⟩ := r.2.2.2.2.2.2.1
  obtain ⟨hl, hr⟩ := hA.1
  unfold fX0_letter sp_letter
  rw [p0_isIn, bd_s]
  by_cases hc : 32 ≤ c ∧ c ≤ 126
  · rw [decide_eq_true hc, if_pos (show ¬ bI true = 0 by decide), if_pos hc, h9]
    by_cases hf : (asP A).length = 84
    · rw [if_neg (by omega), if_pos hf]; exact ⟨s, rfl, r⟩
    · rw [if_pos (by omega), if_neg hf, gd_t (by omega)]
      have w : wr (gI (sA s 8 ((asP A).length : Int) c) 9 + 1) = ((asP A).length : Int) + 1 := by
        rw [show gI (sA s 8 ((asP A).length : Int) c) 9 = gI s 9 from rfl, h9, wr_id (by omega) (by omega)]
      rw [w]
      have hk : keepS [8, 9] s (sI (sA s 8 ((asP A).length : Int) c) 9 (((asP A).length : Int) + 1)) := (keepA _ s (by decide) _ _).sI (by decide) _
      obtain ⟨r1, r2, r3, r4, r5, r6, r7, r8, r9, r10, r11⟩ := r
      refine ⟨_, rfl, r1.keep hk (by decide) (by decide) (by decide), r2.keep hk (by decide) (by decide), fun i e hi he => (hk.A (by decide) _).trans (r3 i e hi he), fun i e hi he hne => (hk.A (by decide) _).trans (r4 i e hi he hne), r5.keep hk (by decide), r6.keep hk (by decide) (by decide) (by decide) (by decide), ⟨?_, fun j x hx => ?_⟩, (hk.I (by decide)).trans r8, r9.keep hk (by decide), r10.keep hk (by decide), r11⟩
      · show gI _ 9 = ((asP A ++ [c]).length : Int)
        simp [gI_sI]
      · rw [gA_sI, gA_sA]
        have hx : (asP A ++ [c])[j]? = some x := hx
        by_cases hj : j = (asP A).length
        · subst hj; simp at hx; simp [hx]
        · have hjl : j < (asP A).length := by
            have := (List.getElem?_eq_some_iff.mp hx).1
            simp at this; omega
          rw [if_neg (by omega)]
          rw [List.getElem?_append_left hjl] at hx
          exact h8 j x hx
  · rw [decide_eq_false hc, if_neg (show ¬ ¬ bI false = 0 by decide), if_neg hc]; exact ⟨s, rfl, r⟩
/-- the page is emptied -/
theorem R0.blank {s s' : Sg} {k : hS} {gs : Option Nat × Option Nat} {ca : Nat → Nat} {A : As} (r : R0 s k gs ca A) (hk : keepS [9] s s') (h9 : gI s' 9 = 0) : R0 s' k gs ca (asP' A []) := by
  obtain ⟨r1, r2, r3, r4, r5, r6, r7, r8, r9, r10, r11⟩ := r
  exact ⟨r1.keep hk (by decide) (by decide) (by decide), r2.keep hk (by decide) (by decide), fun i e hi he => (hk.A (by decide) _).trans (r3 i e hi he), fun i e hi he hne => (hk.A (by decide) _).trans (r4 i e hi he hne), r5.keep hk (by decide), r6.keep hk (by decide) (by decide) (by decide) (by decide), ⟨h9, fun j x hx => by cases hx⟩, (hk.I (by decide)).trans r8, r9.keep hk (by decide), r10.keep hk (by decide), r11⟩
theorem p0_blank {s : Sg} {k : hS} {gs : Option Nat × Option Nat} {ca : Nat → Nat} {A : As} (r : R0 s k gs ca A) : ∃ s', fX0_blank s = some ((sp_blank A).1, s') ∧ R0 s' k gs ca (sp_blank A).2 := by
  unfold fX0_blank sp_blank
  rw [r.2.2.2.2.2.2.1.1]
  exact ⟨_, rfl, r.blank (keepI _ s (by decide) _) rfl⟩
theorem R0.seen {s s' : Sg} {k : hS} {gs : Option Nat × Option Nat} {ca : Nat → Nat} {A : As} {E : List (Nat × Nat × Bool)} (r : R0 s k gs ca A) (hk : keepS [23, 24, 25, 26] s s') (h : Sn6 s' 26 23 24 25 E) : R0 s' k gs ca (asE' A E) := by
  obtain ⟨r1, r2, r3, r4, r5, r6, r7, r8, r9, r10, r11⟩ := r
  exact ⟨r1.keep hk (by decide) (by decide) (by decide), r2.keep hk (by decide) (by decide), fun i e hi he => (hk.A (by decide) _).trans (r3 i e hi he), fun i e hi he hne => (hk.A (by decide) _).trans (r4 i e hi he hne), r5.keep hk (by decide), h, r7.keep hk (by decide) (by decide), (hk.I (by decide)).trans r8, r9.keep hk (by decide), r10.keep hk (by decide), r11⟩
theorem p0_forget {s : Sg} {k : hS} {gs : Option Nat × Option Nat} {ca : Nat → Nat} {A : As} (r : R0 s k gs ca A) : ∃ s', fX0_forget s = some ((sp_forget A).1, s') ∧ R0 s' k gs ca (sp_forget A).2 := by
  unfold fX0_forget sp_forget
  rw [r.2.2.2.2.2.1.1]
  exact ⟨_, rfl, r.seen (keepI _ s (by decide) _) ⟨rfl, by simp⟩⟩
theorem p0_see {s : Sg} {k : hS} {gs : Option Nat × Option Nat} {ca : Nat → Nat} {A : As} (hA : okA A) (r : R0 s k gs ca A) (i w so : Int) (hso : so = 0 ∨ so = 1) : ∃ s', fX0_see s i w so = some ((sp_see A i w so).1, s') ∧ R0 s' k gs ca (sp_see A i w so).2 := by
  obtain ⟨h26, h23⟩ := r.2.2.2.2.2.1
  obtain ⟨hl, hr⟩ := hA.2.2.2.2.1
  unfold fX0_see sp_see
  rw [p0_isInstance r, bd_s]
  by_cases hc : isIn9 A i
  · rw [decide_eq_true hc, if_pos (show ¬ bI true = 0 by decide), if_pos hc, p0_isIn, bd_s]
    by_cases hw : 0 ≤ w ∧ w ≤ 3
    · rw [decide_eq_true hw, if_pos (show ¬ bI true = 0 by decide), if_pos hw, h26]
      by_cases hf : (asE A).length = 6
      · rw [if_neg (by omega), if_pos hf]; exact ⟨s, rfl, r⟩
      · rw [if_pos (by omega), if_neg hf, gd_t (by omega)]
        have e1 : gI (sA s 23 ((asE A).length : Int) i) 26 = ((asE A).length : Int) := h26
        have e2 : gI (sA (sA s 23 ((asE A).length : Int) i) 24 ((asE A).length : Int) w) 26 = ((asE A).length : Int) := h26
        have e3 : gI (sA (sA (sA s 23 ((asE A).length : Int) i) 24 ((asE A).length : Int) w) 25 ((asE A).length : Int) so) 26 = ((asE A).length : Int) := h26
        rw [e1, gd_t (by omega), e2, gd_t (by omega), gd_t hso, e3, wr_id (by omega) (by omega)]
        refine ⟨_, rfl, r.seen ((((keepA _ s (by decide) _ _).sA (by decide) _ _).sA (by decide) _ _).sI (by decide) _) ⟨by simp [gI_sI], fun j e he => ?_⟩⟩
        by_cases hj : j = (asE A).length
        · subst hj
          rw [List.getElem?_append_right (Nat.le_refl _)] at he
          simp at he
          subst he
          have := hc.1
          refine ⟨?_, ?_, ?_⟩
          · simp [gA_sI, gA_sA]; omega
          · simp [gA_sI, gA_sA]; omega
          · rcases hso with q | q <;> simp [gA_sI, gA_sA, q, b01]
        · have hjl : j < (asE A).length := by
            have := (List.getElem?_eq_some_iff.mp he).1
            simp at this; omega
          rw [List.getElem?_append_left hjl] at he
          obtain ⟨q1, q2, q3⟩ := h23 j e he
          have hne : ¬ ((j : Int) = ((asE A).length : Int)) := by omega
          refine ⟨?_, ?_, ?_⟩
          · simp [gA_sI, gA_sA, hne, q1]
          · simp [gA_sI, gA_sA, hne, q2]
          · simp [gA_sI, gA_sA, hne, q3]
    · rw [decide_eq_false hw, if_neg (show ¬ ¬ bI false = 0 by decide), if_neg hw]; exact ⟨s, rfl, r⟩
  · rw [decide_eq_false hc, if_neg (show ¬ ¬ bI false = 0 by decide), if_neg hc]; exact ⟨s, rfl, r⟩

set_option maxRecDepth 100000
/-! PURE: class DictProof: what is told of classes, pairs; fits; as -/
/-- what is read of an instance of the row -/
theorem Ins0.rd {s : Sg} {h : hS} {n : Nat} {I : List Ist} (J : Ins0 s h n I) {i : Nat} (hi : i < I.length) : ∃ a hd, gQ s 4 (i : Int) = some a ∧ isI h a i (ig I i) ∧ okI n (ig I i) ∧ isT h hd (iH (ig I i)) ∧
    hI h (some a) [(1, 0), (2, 0), (3, 0), (4, 0), (5, 0)] = some (i : Int) ∧ hI h (some a) [(1, 1), (2, 1), (3, 1), (4, 1), (5, 1)] = some (iO (ig I i)) ∧ hQ h (some a) [(1, 2), (2, 2), (3, 2), (4, 2), (5, 2)] = some (some hd) ∧ hI h (some a) [(1, 5), (2, 5), (3, 5), (4, 5), (5, 5)] = some ((iC (ig I i)).length : Int) ∧ hC h (some a) = some ((iK (ig I i)).toNat + 1) ∧ inC h (some a) [1, 2, 3, 4, 5] = true := by
  obtain ⟨ok, a, ea, P⟩ := J.2.2 i hi
  obtain ⟨hd, ca, va, ⟨r0, r1, r2, r3, r4, r5, r6, r7⟩, T, -⟩ := P.rd ok.k
  exact ⟨a, hd, ea, P, ok, T, r0, r1, r2, r5, r6, r7⟩
theorem cntN_b (P : Nat → Bool) (k : Nat) : ((cntN P k : Nat) : Int) + bI (P k) = ((cntN P (k + 1) : Nat) : Int) := (cntN_s P k).symm
theorem p0_instancesOf {s : Sg} {h : hS} {n : Nat} {I : List Ist} (J : Ins0 s h n I) (c : Int) : fX0_instancesOf s h c = some ((instOf I c : Nat) : Int) := by
  have h5 := J.1
  have h6 := J.2.1
  have := loopE (fun f k (x : Int) => fX0_instancesOf_L4 f s h c x (k : Int)) I.length (fun k => ((cntN (fun i => decide (iO (ig I i) = c)) k : Nat) : Int)) (some ((instOf I c : Nat) : Int)) (fun f k hk => ?_) (fun f => ?_) (by unfold FU; omega)
  · exact this
  · obtain ⟨a, hd, ea, -, -, -, -, r1, -⟩ := J.rd hk
    have cl := cntN_le (fun i => decide (iO (ig I i) = c)) k
    rw [fX0_instancesOf_L4_s]
    unfold fX0_instancesOf_b4 fX0_instancesOf_b31
    rw [if_neg (by rw [h5]; omega), gd_t (by omega), ea, r1, bd_s, wr_id (x := (k : Int) + 1) (by omega) (by omega), ← cntN_b]
    by_cases e : iO (ig I k) = c
    · rw [if_neg (by simpa using e), wr_id (by omega) (by omega), decide_eq_true e]; rfl
    · rw [if_pos e, wr_id (by omega) (by omega), decide_eq_false e]; rfl
  · rw [fX0_instancesOf_L4_s]
    unfold fX0_instancesOf_b4
    rw [if_pos (by rw [h5]; omega)]
    rfl
theorem p0_about {s : Sg} {k h : hS} {gs : Option Nat × Option Nat} {ca : Nat → Nat} {A : As} (X : ext k h) (r : R0 s k gs ca A) (c w : Int) : fX0_about s h c w = some (sp_about A c w) := by
  obtain ⟨h3, h4, hc4⟩ := r.1
  unfold fX0_about sp_about aboutV
  rw [p0_isClass r, bd_s]
  by_cases hc : isCl A c
  · obtain ⟨a1, a2, -, -⟩ := hc4 c.toNat (by unfold isCl at hc; omega)
    have := hc.1
    have := hc.2
    rw [show ((c.toNat : Nat) : Int) = c by omega] at a1 a2
    rw [decide_eq_true hc, if_pos (show ¬ bI true = 0 by decide), if_pos hc]
    by_cases w0 : w = 0
    · rw [if_pos w0, gd_t (by omega), if_pos (by omega), if_pos w0, a1]
    · by_cases w1 : w = 1
      · rw [if_neg w0, if_pos w1, gd_t (by omega), if_pos (by omega), if_neg w0, if_pos w1, a2]
      · by_cases w2 : w = 2
        · rw [if_neg w0, if_neg w1, if_pos w2, p0_instancesOf (r.2.1.mono X), bd_s, if_pos (by omega), if_neg w0, if_neg w1]
        · rw [if_neg w0, if_neg w1, if_neg w2, if_neg (by omega)]
  · rw [decide_eq_false hc, if_neg (show ¬ ¬ bI false = 0 by decide), if_neg hc]
section PAIR
variable {s : Sg} {h : hS} {n : Nat} {I : List Ist}
theorem p_isOverlap (J : Ins0 s h n I) (L : Alk0 s alk I) {i e a b : Nat} (hi : i < I.length) (he : e < I.length) (hne : i ≠ e) (ha : gQ s 4 (i : Int) = some a) (hb : gQ s 4 (e : Int) = some b) : fX0_isOverlap s h (some a) (some b) = some (bI (ovl (ig I i) (ig I e))) := by
  have h6 := J.2.1
  obtain ⟨a', hda, ea, Pa, oka, -, n1, o1, -⟩ := J.rd hi
  obtain ⟨b', hdb, eb, Pb, okb, -, n2, o2, -⟩ := J.rd he
  obtain rfl : a' = a := Option.some.inj (ea.symm.trans ha)
  obtain rfl : b' = b := Option.some.inj (eb.symm.trans hb)
  obtain ⟨ka, -, -, -⟩ := p_kinds Pa oka.k
  obtain ⟨kb, -, -, -⟩ := p_kinds Pb okb.k
  unfold fX0_isOverlap fX0_isOverlap_b49 fX0_isOverlap_b50 ovl
  rw [o1, bd_s, o2, bd_s]
  by_cases c1 : iO (ig I i) = iO (ig I e)
  · rw [if_neg (by simpa using c1), ka, bd_s, decide_eq_true c1]
    cases decide (iK (ig I i) ≠ 2) with
    | false => rw [if_pos (show bI false = 0 from rfl)]; rfl
    | true =>
      rw [if_neg (show ¬ bI true = 0 by decide), kb, bd_s]
      cases decide (iK (ig I e) ≠ 2) with
      | false => rw [if_pos (show bI false = 0 from rfl)]; rfl
      | true =>
        rw [if_neg (show ¬ bI true = 0 by decide), n1, bd_s, n2, bd_s, wr_id (x := 6 * (i : Int)) (by omega) (by omega), wr_id (x := 6 * (i : Int) + (e : Int)) (by omega) (by omega), gd_t (by omega), L i e hi he hne]
        cases alk (iH (ig I i)) (iH (ig I e)) with
        | false => rw [if_pos (show bI false = 0 from rfl)]; rfl
        | true => rw [if_neg (show ¬ bI true = 0 by decide)]; rfl
  · rw [if_pos c1, decide_eq_false c1]; rfl
theorem p_isClash (J : Ins0 s h n I) (S : Spc0 s I) (L : Alk0 s alk I) {i e a b : Nat} (hi : i < I.length) (he : e < I.length) (hne : i ≠ e) (ha : gQ s 4 (i : Int) = some a) (hb : gQ s 4 (e : Int) = some b) : fX0_isClash s h (some a) (some b) = some (bI (clsh (ig I i) (ig I e))) := by
  obtain ⟨a', hda, ea, Pa, oka, -⟩ := J.rd hi
  obtain ⟨b', hdb, eb, Pb, okb, -⟩ := J.rd he
  obtain rfl : a' = a := Option.some.inj (ea.symm.trans ha)
  obtain rfl : b' = b := Option.some.inj (eb.symm.trans hb)
  obtain ⟨-, ka, -, -⟩ := p_kinds Pa oka.k
  obtain ⟨-, kb, -, -⟩ := p_kinds Pb okb.k
  have b23 : ∀ z : Bool, fX0_isClash_b23 s h (some a') (some b') (bI z) = some (bI (ovl (ig I i) (ig I e) && (z || (decide (iK (ig I i) = 4) || decide (iK (ig I e) = 4))))) := by
    intro z
    unfold fX0_isClash_b23 fX0_isClash_b51 fX0_isClash_b55 fX0_isClash_b56
    rw [p_isOverlap J L hi he hne ha hb, bd_s]
    cases ovl (ig I i) (ig I e) with
    | false => rw [if_pos (show bI false = 0 from rfl)]; rfl
    | true =>
      rw [if_neg (show ¬ bI true = 0 by decide)]
      cases z with
      | true => rw [if_pos (show ¬ bI true = 0 by decide)]; rfl
      | false =>
        rw [if_neg (show ¬ ¬ bI false = 0 by decide), ka, bd_s]
        cases decide (iK (ig I i) = 4) with
        | true => rw [if_pos (show ¬ bI true = 0 by decide)]; rfl
        | false =>
          rw [if_neg (show ¬ ¬ bI false = 0 by decide), kb, bd_s]
          cases decide (iK (ig I e) = 4) with
          | true => rw [if_neg (show ¬ bI true = 0 by decide)]; rfl
          | false => rw [if_pos (show bI false = 0 from rfl)]; rfl
  unfold fX0_isClash fX0_isClash_b22 clsh
  rw [p_isSpecial J S hi he Pa Pb, bd_s, p_isSpecial J S he hi Pb Pa]
  cases spc (ig I i) (ig I e) with
  | true => rw [if_pos (show ¬ bI true = 0 by decide)]; exact b23 false
  | false =>
    rw [if_neg (show ¬ ¬ bI false = 0 by decide), bd_s]
    cases spc (ig I e) (ig I i) with
    | true => rw [if_pos (show ¬ bI true = 0 by decide)]; exact b23 false
    | false => rw [if_neg (show ¬ ¬ bI false = 0 by decide)]; exact b23 true
theorem p_tellPair (J : Ins0 s h n I) (S : Spc0 s I) (L : Alk0 s alk I) {i e a b : Nat} (hi : i < I.length) (he : e < I.length) (hne : i ≠ e) (ha : gQ s 4 (i : Int) = some a) (hb : gQ s 4 (e : Int) = some b) (w : Int) : fX0_tellPair s h (some a) (some b) w = some (bI (pairV (ig I i) (ig I e) w)) := by
  obtain ⟨a', hda, ea, Pa, oka, -⟩ := J.rd hi
  obtain ⟨b', hdb, eb, Pb, okb, -⟩ := J.rd he
  obtain rfl : a' = a := Option.some.inj (ea.symm.trans ha)
  obtain rfl : b' = b := Option.some.inj (eb.symm.trans hb)
  unfold fX0_tellPair fX0_tellPair_b33 fX0_tellPair_b45 pairV
  have fin : ∀ z : Bool, (bd (some (bI z)) fun p => if p = 0 then some (0 : Int) else some 1) = some (bI z) := by intro z; cases z <;> rfl
  by_cases w0 : w = 0
  · rw [if_neg (by simpa using w0), if_pos w0, p_isOverlap J L hi he hne ha hb]; exact fin _
  · by_cases w1 : w = 1
    · rw [if_pos w0, if_neg (by simpa using w1), if_neg w0, if_pos w1, p_isClash J S L hi he hne ha hb]; exact fin _
    · rw [if_pos w0, if_pos w1, if_neg w0, if_neg w1, p_isSpecial J S hi he Pa Pb]; exact fin _
theorem p0_unsound (J : Ins0 s h n I) : fX0_unsound s h = some ((unsnd I : Nat) : Int) := by
  have h5 := J.1
  have h6 := J.2.1
  have := loopE (fun f k (x : Int) => fX0_unsound_L4 f s h x (k : Int)) I.length (fun k => ((cntN (fun i => !snd9 (ig I i)) k : Nat) : Int)) (some ((unsnd I : Nat) : Int)) (fun f k hk => ?_) (fun f => ?_) (by unfold FU; omega)
  · exact this
  · obtain ⟨a, hd, ea, P, ok, -⟩ := J.rd hk
    have cl := cntN_le (fun i => !snd9 (ig I i)) k
    rw [fX0_unsound_L4_s]
    unfold fX0_unsound_b4 fX0_unsound_b30
    rw [if_neg (by rw [h5]; omega), gd_t (by omega), ea, p_soundD P ok.k ok.2.2.1, bd_s, wr_id (x := (k : Int) + 1) (by omega) (by omega), ← cntN_b]
    cases snd9 (ig I k) with
    | true => rw [if_neg (show ¬ bI true = 0 by decide), wr_id (by omega) (by omega)]; rfl
    | false => rw [if_pos (show bI false = 0 from rfl), wr_id (by omega) (by omega)]; rfl
  · rw [fX0_unsound_L4_s]
    unfold fX0_unsound_b4
    rw [if_pos (by rw [h5]; omega)]
    rfl
theorem p0_pairsBy (J : Ins0 s h n I) (S : Spc0 s I) (L : Alk0 s alk I) (w : Int) : fX0_pairsBy s h w = some ((pairsN I w : Nat) : Int) := by
  have h5 := J.1
  have h6 := J.2.1
  have sb : ∀ k, k ≤ I.length → sumN (fun i => cntN (fun e => pairV (ig I i) (ig I e) w) i) k ≤ 36 := by
    intro k hk
    have := sumN_le (fun i => cntN (fun e => pairV (ig I i) (ig I e) w) i) 6 k (fun i hi => by have := cntN_le (fun e => pairV (ig I i) (ig I e) w) i; omega)
    omega
  have inn : ∀ (K4 : Sg → hS → Int → Int → Int → Option Int) (i acc : Nat), i < I.length → acc ≤ 36 → fX0_pairsBy_L15 K4 FU s h w (acc : Int) (i : Int) 0 = K4 s h w ((acc + cntN (fun e => pairV (ig I i) (ig I e) w) i : Nat) : Int) ((i : Int) + 1) := by
    intro K4 i acc hi hacc
    have := loopE (fun f k (x : Int) => fX0_pairsBy_L15 K4 f s h w x (i : Int) (k : Int)) i (fun k => ((acc + cntN (fun e => pairV (ig I i) (ig I e) w) k : Nat) : Int)) (K4 s h w ((acc + cntN (fun e => pairV (ig I i) (ig I e) w) i : Nat) : Int) ((i : Int) + 1)) (fun f k hk => ?_) (fun f => ?_) (by unfold FU; omega)
    · exact this
    · obtain ⟨a, hd, ea, -⟩ := J.rd hi
      obtain ⟨b, hd', eb, -⟩ := J.rd (i := k) (by omega)
      have cl := cntN_le (fun e => pairV (ig I i) (ig I e) w) k
      have b1 : ∀ z : Bool, 0 ≤ bI z ∧ bI z ≤ 1 := by intro z; cases z <;> decide
      have := b1 (pairV (ig I i) (ig I k) w)
      rw [fX0_pairsBy_L15_s]
      unfold fX0_pairsBy_b15
      rw [if_neg (by omega), gd_t (by omega), gd_t (by omega), ea, eb, p_tellPair J S L hi (by omega) (by omega) ea eb, bd_s, wr_id (x := (k : Int) + 1) (by omega) (by omega), wr_id (by omega) (by omega)]
      have e1 : ((acc + cntN (fun e => pairV (ig I i) (ig I e) w) (k + 1) : Nat) : Int) = ((acc + cntN (fun e => pairV (ig I i) (ig I e) w) k : Nat) : Int) + bI (pairV (ig I i) (ig I k) w) := by
        have := cntN_s (fun e => pairV (ig I i) (ig I e) w) k
        omega
      rw [e1]
      rfl
    · rw [fX0_pairsBy_L15_s]
      unfold fX0_pairsBy_b15
      rw [if_pos (by omega), wr_id (by omega) (by omega)]
  have := loopE (fun f k (x : Int) => fX0_pairsBy_L4 f s h w x (k : Int)) I.length (fun k => ((sumN (fun i => cntN (fun e => pairV (ig I i) (ig I e) w) i) k : Nat) : Int)) (some ((pairsN I w : Nat) : Int)) (fun f k hk => ?_) (fun f => ?_) (by unfold FU; omega)
  · exact this
  · rw [fX0_pairsBy_L4_s]
    unfold fX0_pairsBy_b4
    rw [if_neg (by rw [h5]; omega), inn _ k _ hk (sb k (by omega))]
    rfl
  · rw [fX0_pairsBy_L4_s]
    unfold fX0_pairsBy_b4
    rw [if_pos (by rw [h5]; omega)]
    rfl
end PAIR
theorem p0_pair {s : Sg} {k h : hS} {gs : Option Nat × Option Nat} {ca : Nat → Nat} {A : As} (X : ext k h) (r : R0 s k gs ca A) (i e w : Int) : fX0_pair s h i e w = some (sp_pair A i e w) := by
  have J := r.2.1.mono X
  unfold fX0_pair fX0_pair_b21 fX0_pair_b58 sp_pair
  rw [p0_isInstance r, bd_s]
  by_cases hi : isIn9 A i
  · rw [decide_eq_true hi, if_neg (show ¬ bI true = 0 by decide), p0_isInstance r, bd_s]
    by_cases he : isIn9 A e
    · rw [decide_eq_true he, if_neg (show ¬ bI true = 0 by decide)]
      by_cases hne : i = e
      · rw [if_neg (by simpa using hne), if_neg (by rintro ⟨-, -, q⟩; exact q hne)]
      · have a1 := hi.1
        have a2 := hi.2
        have b1 := he.1
        have b2 := he.2
        have h6 := J.2.1
        rw [if_pos hne, if_pos ⟨hi, he, hne⟩, p0_isIn, bd_s]
        by_cases hw : 0 ≤ w ∧ w ≤ 2
        · obtain ⟨a, hd, ea, -⟩ := J.rd (i := i.toNat) (by omega)
          obtain ⟨b, hd', eb, -⟩ := J.rd (i := e.toNat) (by omega)
          have := p_tellPair J r.2.2.1 r.2.2.2.1 (i := i.toNat) (e := e.toNat) (by omega) (by omega) (by omega) ea eb w
          rw [show ((i.toNat : Nat) : Int) = i by omega] at ea
          rw [show ((e.toNat : Nat) : Int) = e by omega] at eb
          rw [decide_eq_true hw, if_neg (show ¬ bI true = 0 by decide), gd_t (by omega), gd_t (by omega), ea, eb, this, bd_s, if_pos hw]
        · rw [decide_eq_false hw, if_pos (show bI false = 0 from rfl), if_neg hw]
    · rw [decide_eq_false he, if_pos (show bI false = 0 from rfl), if_neg (by rintro ⟨-, q, -⟩; exact he q)]
  · rw [decide_eq_false hi, if_pos (show bI false = 0 from rfl), if_neg (by rintro ⟨q, -⟩; exact hi q)]
theorem p0_fits {s : Sg} {k h : hS} {F : Nat → Prop} {gs : Option Nat × Option Nat} {ca : Nat → Nat} {A : As} (hA : okA A) (K : Kp k h F) (r : R0 s k gs ca A) (i j : Int) : ∃ h', fX0_fits s h i j = some (sp_fits A i j, h') ∧ ol h h' 1 := by
  unfold fX0_fits fX0_fits_b16 fX0_fits_b49 sp_fits
  rw [p0_isInstance r, bd_s]
  by_cases hi : isIn9 A i
  · rw [decide_eq_true hi, if_neg (show ¬ bI true = 0 by decide), p0_isSlot r, bd_s, if_pos hi]
    cases q : slotOf A j with
    | none =>
      rw [show (none : Option Tm).isSome = false from rfl, if_neg (show ¬ ¬ bI false = 0 by decide)]
      exact ⟨h, rfl, (ol.refl h).mono (by omega)⟩
    | some t =>
      obtain ⟨j', b, hj, rfl, eS, ej, T⟩ := r.slot q
      obtain ⟨ot, h9⟩ := hA.2.2.2.1 j' hj t eS
      have a1 := hi.1
      have a2 := hi.2
      have J := r.2.1
      have h6 := J.2.1
      obtain ⟨ok, a, ea, Pa⟩ := J.2.2 i.toNat (by omega)
      obtain ⟨hd, ca', va', fc, fv, ep, Th, -⟩ := id Pa
      obtain ⟨-, -, q2, -, -, -, -, -⟩ := rdI_c ok.k.c (K.ext _ _ ep)
      rw [show ((i.toNat : Nat) : Int) = i by omega] at ea
      obtain ⟨h', e, O, -⟩ := p_fitNew K ok.2.2.1 ot (by have := ok.2.2.2.1; omega) h9 Th T
      rw [show (some t).isSome = true from rfl, if_pos (show ¬ bI true = 0 by decide), gd_t (by omega), ea, q2, bd_s, gd_t (by omega), nwQ_2 h 4 (by omega) (by omega), bd_s]
      simp only [Int.reduceToNat]
      rw [ej, e, bd_s]
      refine ⟨h', ?_, O⟩
      cases fits (iH (ig (asI A) i.toNat)) t with
      | false => rw [if_pos (by show (0 : Int) = 0; rfl)]; rfl
      | true => rw [if_neg (by show ¬ (1 : Int) = 0; decide)]; rfl
  · rw [decide_eq_false hi, if_pos (show bI false = 0 from rfl), if_neg hi]
    exact ⟨h, rfl, (ol.refl h).mono (by omega)⟩
theorem p0_as {s : Sg} {k h : hS} {gs : Option Nat × Option Nat} {ca : Nat → Nat} {A : As} (X : ext k h) (r : R0 s k gs ca A) (i kd : Int) : ∃ h', fX0_as s h i kd = some (sp_as A i kd, h') ∧ ol h h' 250 := by
  unfold fX0_as sp_as
  rw [p0_isInstance r, bd_s]
  by_cases hi : isIn9 A i
  · rw [decide_eq_true hi, if_pos (show ¬ bI true = 0 by decide), p0_isIn, bd_s, if_pos hi]
    by_cases hk : 0 ≤ kd ∧ kd ≤ 4
    · have J := r.2.1.mono X
      have a1 := hi.1
      have a2 := hi.2
      have h6 := J.2.1
      obtain ⟨a, hd, ea, P, ok, -, r0, -, -, -, rc, ri⟩ := J.rd (i := i.toNat) (by omega)
      rw [show ((i.toNat : Nat) : Int) = i by omega] at ea r0
      rw [decide_eq_true hk, if_pos (show ¬ bI true = 0 by decide), gd_t (by omega), ea, rc, bd_s, if_pos hk]
      obtain ⟨k0, k4⟩ := ok.k
      have hI1 : ∀ c, (iK (ig (asI A) i.toNat)).toNat + 1 = c → ∀ P : List (Nat × Nat), P.lookup c = some 0 → hI h (some a) P = some i := by
        intro c hc P hP
        subst hc
        unfold hI hF nn at r0 ⊢
        obtain ⟨hd1, ca1, va1, fc, fv, e1, -⟩ := id ‹isI h a i.toNat (ig (asI A) i.toNat)›
        simp only [e1] at r0 ⊢
        rw [hP]
        show some (i.toNat : Int) = some i
        congr 1
        omega
      have hin : ∀ c, (iK (ig (asI A) i.toNat)).toNat + 1 = c → ∀ P : List Nat, P.contains c = true → inC h (some a) P = true := by
        intro c hc P hP
        unfold inC
        rw [rc, hc]
        exact hP
      have hkk : kd = 0 ∨ kd = 1 ∨ kd = 2 ∨ kd = 3 ∨ kd = 4 := by omega
      have hxx : iK (ig (asI A) i.toNat) = 0 ∨ iK (ig (asI A) i.toNat) = 1 ∨ iK (ig (asI A) i.toNat) = 2 ∨ iK (ig (asI A) i.toNat) = 3 ∨ iK (ig (asI A) i.toNat) = 4 := by omega
      have bad : ∀ v : Int, v = -1 → ∃ h', some (-1, ((h.1, h.2.1 + 3, h.2.2 + 1000) : hS)) = some (v, h') ∧ ol h h' 250 := by
        rintro v rfl
        exact ⟨_, rfl, by show h.2.1 ≤ h.2.1 + 3; omega, fun b hb => rfl, by show h.2.1 + 3 ≤ _; omega, by show h.2.2 + 1000 ≤ _; omega⟩
      have good : ∀ v : Int, v = i → ∃ h', some (i, h) = some (v, h') ∧ ol h h' 250 := by
        rintro v rfl
        exact ⟨h, rfl, (ol.refl h).mono (by omega)⟩
      unfold fX0_castTo
      rcases hxx with x | x | x | x | x <;> rcases hkk with rfl | rfl | rfl | rfl | rfl <;> rw [x] at hI1 hin ⊢ <;> first
        | (rw [if_pos (by decide)]; exact bad _ (by simp))
        | (rw [if_neg (by decide), if_pos rfl, gd_t (Or.inr (hin _ rfl _ (by decide))), hI1 _ rfl _ (by decide), bd_s, bd_s]; exact good _ (by simp))
        | (rw [if_neg (by decide), if_neg (by decide), if_pos rfl, gd_t (Or.inr (hin _ rfl _ (by decide))), hI1 _ rfl _ (by decide), bd_s, bd_s]; exact good _ (by simp))
        | (rw [if_neg (by decide), if_neg (by decide), if_neg (by decide), if_pos rfl, gd_t (Or.inr (hin _ rfl _ (by decide))), hI1 _ rfl _ (by decide), bd_s, bd_s]; exact good _ (by simp))
        | (rw [if_neg (by decide), if_neg (by decide), if_neg (by decide), if_neg (by decide), if_pos rfl, gd_t (Or.inr (hin _ rfl _ (by decide))), hI1 _ rfl _ (by decide), bd_s, bd_s]; exact good _ (by simp))
        | (rw [if_neg (by decide), if_neg (by decide), if_neg (by decide), if_neg (by decide), if_neg (by decide), gd_t (Or.inr (hin _ rfl _ (by decide))), hI1 _ rfl _ (by decide), bd_s, bd_s]; exact good _ (by simp))
    · rw [decide_eq_false hk, if_neg (show ¬ ¬ bI false = 0 by decide), if_neg hk]
      exact ⟨h, rfl, (ol.refl h).mono (by omega)⟩
  · rw [decide_eq_false hi, if_neg (show ¬ ¬ bI false = 0 by decide), if_neg hi]
    exact ⟨h, rfl, (ol.refl h).mono (by omega)⟩

set_option maxRecDepth 100000
/-! PURE: class DictProof: sorts; what to ask -/
theorem iandn {a b : Nat} (ha : a < 2147483648) (hb : b < 2147483648) : iand (a : Int) (ixor (b : Int) (-1)) = ((a &&& (2147483647 ^^^ b) : Nat) : Int) := by
  have hx : (2147483647 ^^^ b) < 2147483648 := Nat.xor_lt_two_pow (n := 31) (by omega) (by omega)
  have hc : (a &&& (2147483647 ^^^ b)) < 2147483648 := Nat.lt_of_le_of_lt Nat.and_le_left ha
  unfold iand ixor
  rw [I_of, p_i32bv]
  have : (I32 (a : Int) &&& (I32 (b : Int) ^^^ I32 (-1))).toBitVec = BitVec.ofNat 32 (a &&& (2147483647 ^^^ b)) := by
    rw [Int32.toBitVec_and, Int32.toBitVec_xor, p_I32nat ha, p_I32nat hb]
    apply BitVec.eq_of_getLsbD_eq
    intro i hi
    rw [BitVec.getLsbD_and, BitVec.getLsbD_xor, BitVec.getLsbD_ofNat, BitVec.getLsbD_ofNat, BitVec.getLsbD_ofNat, Nat.testBit_and, Nat.testBit_xor]
    have e1 : (I32 (-1)).toBitVec.getLsbD i = true := by
      have : (I32 (-1)).toBitVec = BitVec.allOnes 32 := by decide
      rw [this, BitVec.getLsbD_allOnes]; simpa using hi
    have e2 : (2147483647 : Nat).testBit i = decide (i < 31) := Nat.testBit_two_pow_sub_one 31 i
    rw [e1, e2]
    by_cases h31 : i < 31
    · simp [hi, h31]
    · have : i = 31 := by omega
      subst this
      have : a.testBit 31 = false := Nat.testBit_lt_two_pow (by omega)
      simp [this]
  rw [this, p_bvnat hc]
/-- how a kind answers -/
theorem p_isSo {h : hS} {a kd : Nat} (hk : kd < 5) {w : Nat} (hw : w < 4) (c : hC h (some a) = some (kd + 1)) : fX0_isSo h (some a) (w : Int) = some (bI (cld kd w)) := by
  have i45 : inC h (some a) [4, 5] = [4, 5].contains (kd + 1) := by unfold inC; rw [c]
  have i15 : inC h (some a) [1, 2, 3, 4, 5] = [1, 2, 3, 4, 5].contains (kd + 1) := by unfold inC; rw [c]
  unfold fX0_isSo fX0_isSo_b42 fX0_isSo_b62 fX0_isSo_b77 fX11_besides fX11_besides_b28 fX11_besides_b32 fX11_besides_b51 fX11_besides_b56 D2_isUsed D6_isUsed D7_isAlone D8_rank fX1_isUsed fX3_isUsed fX3_isUsed_b12 fX1_isAlone fX5_isAlone fX5_isAlone_b12 fX1_rank fX2_rank fX4_rank fX1_isUsed fX1_isAlone fX1_rank
  rw [i45, i15, c]
  have hk' : kd = 0 ∨ kd = 1 ∨ kd = 2 ∨ kd = 3 ∨ kd = 4 := by omega
  have hw' : w = 0 ∨ w = 1 ∨ w = 2 ∨ w = 3 := by omega
  rcases hk' with rfl | rfl | rfl | rfl | rfl <;> rcases hw' with rfl | rfl | rfl | rfl <;> decide
theorem p_sortsBy {s : Sg} {h : hS} (R : Sor0 s h) {w : Nat} (hw : w < 4) : fX0_sortsBy s h (w : Int) = some ((bitsOf (fun kd => cld kd w) 5 : Nat) : Int) := by
  have := loopE (fun f k (x : Int) => fX0_sortsBy_L4 f s h (w : Int) x (k : Int)) 5 (fun k => ((bitsOf (fun kd => cld kd w) k : Nat) : Int)) (some ((bitsOf (fun kd => cld kd w) 5 : Nat) : Int)) (fun f k hk => ?_) (fun f => ?_) (by unfold FU; omega)
  · exact this
  · obtain ⟨a, fs, e1, e2⟩ := R k hk
    have c : hC h (some a) = some (k + 1) := by unfold hC nn; simp only [e2]
    have ib := ior_bit (P := fun kd => cld kd w) (n := k) (by omega)
    rw [fX0_sortsBy_L4_s]
    unfold fX0_sortsBy_b4 fX0_sortsBy_b31
    rw [if_neg (by omega), gd_t (by omega), e1, p_isSo hk hw c, bd_s, wr_id (x := (k : Int) + 1) (by omega) (by omega)]
    have ib : ior ((bitsOf (fun kd => cld kd w) k : Nat) : Int) (if cld k w = true then ishl 1 (k : Int) else 0) = ((bitsOf (fun kd => cld kd w) (k + 1) : Nat) : Int) := ib
    cases q : cld k w with
    | false => rw [q] at ib; rw [if_pos (show bI false = 0 from rfl), show (0 : Int) = if (false = true) then ishl 1 (k : Int) else 0 from rfl, ib]; rfl
    | true => rw [q] at ib; rw [if_neg (show ¬ bI true = 0 by decide), show ishl 1 (k : Int) = if (true = true) then ishl 1 (k : Int) else 0 from rfl, ib]; rfl
  · rw [fX0_sortsBy_L4_s]
    unfold fX0_sortsBy_b4
    rw [if_pos (by decide)]
theorem bits5 {P Q : Nat → Bool} {n : Nat} : bitsOf P n &&& bitsOf Q n = bitsOf (fun i => P i && Q i) n := by
  apply Nat.eq_of_testBit_eq
  intro i
  rw [Nat.testBit_and, bitsOf_bit, bitsOf_bit, bitsOf_bit]
  cases decide (i < n) <;> simp
theorem bits5n {P Q : Nat → Bool} {n : Nat} (hn : n ≤ 31) : bitsOf P n &&& (2147483647 ^^^ bitsOf Q n) = bitsOf (fun i => P i && !Q i) n := by
  apply Nat.eq_of_testBit_eq
  intro i
  rw [Nat.testBit_and, Nat.testBit_xor, bitsOf_bit, bitsOf_bit, bitsOf_bit, show (2147483647 : Nat).testBit i = decide (i < 31) from Nat.testBit_two_pow_sub_one 31 i]
  by_cases h : i < n
  · simp [h, show i < 31 by omega]
  · simp [h]
theorem p_sortsOf {s : Sg} {h : hS} (R : Sor0 s h) {E : List (Nat × Nat × Bool)} (hE : E.length ≤ 6) (hw4 : ∀ e ∈ E, e.2.1 < 4) (N : Sn6 s 26 23 24 25 E) (i : Nat) : fX0_sortsOf s h (i : Int) = some ((srt E i : Nat) : Int) := by
  obtain ⟨h26, hn⟩ := N
  have := loopE (fun f k (x : Int) => fX0_sortsOf_L5 f s h (i : Int) x (k : Int)) E.length (fun k => ((bitsOf (fun kd => (E.take k).all (sOK1 i kd)) 5 : Nat) : Int)) (some ((srt E i : Nat) : Int)) (fun f k hk => ?_) (fun f => ?_) (by unfold FU; omega)
  · rw [show bitsOf (fun kd => (E.take 0).all (sOK1 i kd)) 5 = 31 by simp only [List.take_zero, List.all_nil]; decide] at this
    exact this
  · obtain ⟨e, he⟩ := ltL hk
    obtain ⟨a1, a2, a3⟩ := hn k e he
    have h4 := hw4 e (List.mem_of_getElem? he)
    rw [fX0_sortsOf_L5_s]
    unfold fX0_sortsOf_b5 fX0_sortsOf_b58
    rw [if_neg (by rw [h26]; omega), gd_t (by omega), a2, p_sortsBy R h4, bd_s, gd_t (by omega), a1, wr_id (x := (k : Int) + 1) (by omega) (by omega)]
    have st : ∀ kd, (E.take (k + 1)).all (sOK1 i kd) = ((E.take k).all (sOK1 i kd) && sOK1 i kd e) := by
      intro kd
      rw [List.take_add_one, he, List.all_append]
      simp
    have b5 : ∀ P : Nat → Bool, bitsOf P 5 < 2147483648 := fun P => bitsOf_31 (by omega)
    by_cases c : e.1 = i
    · rw [if_pos (by rw [c]), gd_t (by omega), a3]
      cases es : e.2.2 with
      | true =>
        rw [if_neg (by simp [b01]), p_iand (b5 _) (b5 _), bits5]
        congr 1
        congr 1
        apply bitsOf_ext
        intro kd _
        rw [st]
        simp [sOK1, c, es]
      | false =>
        rw [if_pos (by simp [b01]), iandn (b5 _) (b5 _), bits5n (by omega)]
        congr 1
        congr 1
        apply bitsOf_ext
        intro kd _
        rw [st]
        simp [sOK1, c, es]
    · rw [if_neg (by omega), p_iand (b5 _) (b5 _), Nat.and_self]
      congr 1
      congr 1
      apply bitsOf_ext
      intro kd _
      rw [st]
      simp [sOK1, c]
  · rw [fX0_sortsOf_L5_s]
    unfold fX0_sortsOf_b5
    rw [if_pos (by rw [h26]; omega), List.take_length]
    rfl
theorem yes_pc : ∀ (B : Fin 32) (w : Fin 4), pcN (B.val &&& bitsOf (fun kd => cld kd w.val) 5) = yesN B.val w.val ∧ yesN B.val w.val ≤ pcN B.val ∧ pcN B.val ≤ 5 := by decide
theorem pc_0 : ∀ B : Fin 32, (pcN B.val = 0 ↔ B.val = 0) := by decide
theorem p_toAsk {s : Sg} {h : hS} (R : Sor0 s h) {E : List (Nat × Nat × Bool)} (hE : E.length ≤ 6) (hw4 : ∀ e ∈ E, e.2.1 < 4) (N : Sn6 s 26 23 24 25 E) (i : Nat) : fX0_toAsk s h (i : Int) = some (askS (srt E i)) := by
  unfold fX0_toAsk
  have hB : srt E i < 32 := bitsOf_lt _ 5
  rw [p_sortsOf R hE hw4 N, bd_s]
  generalize srt E i = B at *
  rw [p_bitCount (by omega), bd_s]
  unfold askS
  by_cases b0 : B = 0
  · subst b0
    obtain ⟨m, hm⟩ := FU_3
    rw [hm, fX0_toAsk_L22_s]
    unfold fX0_toAsk_b22 fX0_toAsk_b87
    rw [if_neg (by decide), if_pos (show ((pcN 0 : Nat) : Int) ≤ 0 by decide), if_pos rfl]
  · rw [if_neg b0]
    have pB := (pc_0 ⟨B, hB⟩)
    simp only at pB
    have val : ∀ k, k < 4 → fX0_toAsk_L22 = fX0_toAsk_L22 := fun _ _ => rfl
    have wst : ∀ w : Nat, w < 4 → mmax ((yesN B w : Nat) : Int) (wr (((pcN B : Nat) : Int) - ((yesN B w : Nat) : Int))) = ((worstN B w : Nat) : Int) ∧ worstN B w ≤ 5 := by
      intro w hw
      obtain ⟨-, y1, y2⟩ := yes_pc ⟨B, hB⟩ ⟨w, hw⟩
      simp only at y1 y2
      rw [wr_id (by omega) (by omega)]
      unfold mmax worstN
      constructor
      · split <;> split <;> omega
      · split <;> omega
    have step : ∀ (f w : Nat) (best least : Int), w < 4 → fX0_toAsk_L22 (f + 1) s h (B : Int) ((pcN B : Nat) : Int) best least (w : Int) = fX0_toAsk_L22 f s h (B : Int) ((pcN B : Nat) : Int) (if ((worstN B w : Nat) : Int) < least then (w : Int) else best) (mmin least ((worstN B w : Nat) : Int)) ((w + 1 : Nat) : Int) := by
      intro f w best least hw
      obtain ⟨y0, -, -⟩ := yes_pc ⟨B, hB⟩ ⟨w, hw⟩
      simp only at y0
      have bl : (B &&& bitsOf (fun kd => cld kd w) 5) < 256 := Nat.lt_of_le_of_lt Nat.and_le_left (by omega)
      rw [fX0_toAsk_L22_s]
      unfold fX0_toAsk_b22 fX0_toAsk_b70
      rw [if_neg (by omega), if_neg (by omega), p_sortsBy R hw, bd_s, p_iand (by omega) (bitsOf_31 (by omega)), p_bitCount bl, bd_s, y0, (wst w hw).1, wr_id (x := (w : Int) + 1) (by omega) (by omega)]
      by_cases c : least ≤ ((worstN B w : Nat) : Int)
      · rw [if_pos c, if_neg (by omega)]; rfl
      · rw [if_neg c, if_pos (by omega)]; rfl
    have ar : ∀ w : Nat, askR B (w + 1) = if ((worstN B w : Nat) : Int) < (askR B w).2 then ((w : Int), ((worstN B w : Nat) : Int)) else askR B w := fun w => rfl
    have st2 : ∀ (f w : Nat), w < 4 → fX0_toAsk_L22 (f + 1) s h (B : Int) ((pcN B : Nat) : Int) (askR B w).1 (askR B w).2 (w : Int) = fX0_toAsk_L22 f s h (B : Int) ((pcN B : Nat) : Int) (askR B (w + 1)).1 (askR B (w + 1)).2 ((w + 1 : Nat) : Int) := by
      intro f w hw
      rw [step f w _ _ hw, ar]
      unfold mmin
      by_cases c : ((worstN B w : Nat) : Int) < (askR B w).2
      · rw [if_pos c, if_pos c, if_pos c]
      · rw [if_neg c, if_neg c, if_neg c]
    rw [show FU = 99995 + 1 + 1 + 1 + 1 + 1 from rfl]
    have w5 := (wst 0 (by omega)).2
    refine (step _ 0 (-1) 9999 (by omega)).trans ?_
    have a1 : askR B 1 = (((0 : Nat) : Int), ((worstN B 0 : Nat) : Int)) := by
      rw [ar, if_pos (by show ((worstN B 0 : Nat) : Int) < 268435456; omega)]
    rw [if_pos (by omega), show mmin 9999 ((worstN B 0 : Nat) : Int) = ((worstN B 0 : Nat) : Int) by unfold mmin; rw [if_pos (by omega)]]
    have z1 := st2 (99995 + 1 + 1 + 1) 1 (by omega)
    rw [a1] at z1
    refine z1.trans ?_
    refine (st2 _ 2 (by omega)).trans ?_
    refine (st2 _ 3 (by omega)).trans ?_
    rw [fX0_toAsk_L22_s]
    unfold fX0_toAsk_b22 fX0_toAsk_b87
    rw [if_pos (by decide)]

