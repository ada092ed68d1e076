/-! the pure laws: X10 X11 X12 X13 X14 -/
set_option maxRecDepth 100000
/-! PURE: class DictProof: who is meant, who is taken -/
theorem p_has {a k : Nat} (hk : k < 32) (ha : a < 2147483648) : fX0_has (a : Int) (k : Int) = some (bI (a.testBit k)) := by
  unfold fX0_has fX0_has_b14
  rw [p_bit hk ha]
  cases a.testBit k with
  | true => rw [if_neg (by simp)]; rfl
  | false => rw [if_pos (by simp)]; rfl
theorem p_sound {h : hS} {a n : Nat} {x : Ist} (P : isI h a n x) (ok : okK x) (oh : okT (iH x)) : fX1_isSound h (some a) = some (bI (snd9 x)) := by
  obtain ⟨hd, ca, va, ⟨-, -, r2, -, -, r5, -⟩, T, -⟩ := P.rd ok
  unfold fX1_isSound fX1_isSound_b18 fX1_isSound_b23 snd9
  rw [r5, bd_s]
  by_cases c : (iC x).length = 0
  · rw [if_pos (by omega), gd_t (by simp), decide_eq_true c]; rfl
  · rw [if_neg (by omega), r2, bd_s, gd_t T.c, p_variable T oh, bd_s, decide_eq_false c]
    cases e : isV (iH x) with
    | false => rw [if_neg (by simpa using (vr_v oh).mpr e), gd_t (by simp)]; rfl
    | true => rw [if_pos (fun q => by have := (vr_v oh).mp q; rw [e] at this; cases this), gd_t (by simp)]; rfl
theorem p_soundD {h : hS} {a n : Nat} {x : Ist} (P : isI h a n x) (ok : okK x) (oh : okT (iH x)) : D3_isSound h (some a) = some (bI (snd9 x)) := by
  have e := p_sound P ok oh
  obtain ⟨hd, ca, va, ⟨-, -, -, -, -, -, c, -⟩, -, -⟩ := P.rd ok
  unfold D3_isSound
  rw [c]
  rcases ok.c with q | q | q | q | q <;> rw [q] <;> simpa using e
/-- the instances that the object holds -/
def Ins0 (s : Sg) (k : hS) (n : Nat) (I : List Ist) : Prop := gI s 5 = (I.length : Int) ∧ I.length ≤ 6 ∧ ∀ i : Nat, i < I.length → okI n (ig I i) ∧ ∃ a, gQ s 4 (i : Int) = some a ∧ isI k a i (ig I i)
theorem Ins0.mono {s : Sg} {k h : hS} {n : Nat} {I : List Ist} (X : ext k h) (J : Ins0 s k n I) : Ins0 s h n I := by
  refine ⟨J.1, J.2.1, fun i hi => ?_⟩
  obtain ⟨o, a, e, P⟩ := J.2.2 i hi
  exact ⟨o, a, e, P.mono X⟩
theorem okI.k {n : Nat} {x : Ist} (h : okI n x) : okK x := h.1
/-- whether one head is more special: laid -/
def Spc0 (s : Sg) (I : List Ist) : Prop := ∀ i e : Nat, i < I.length → e < I.length → gA s 22 (6 * (i : Int) + (e : Int)) = bI (spc (ig I i) (ig I e))
theorem p_isMeant {k h : hS} {F : Nat → Prop} (K : Kp k h F) {a g n m : Nat} {x : Ist} {c : Int} {t : Tm} (P : isI k a n x) (ok : okI m x) (G : isG k g c t) (ot : okT t) (h9 : szT t ≤ 9) :
    ∃ h', fX0_isMeant h (some a) (some g) = some (bI (decide (iO x = c) && (decide (iK x ≠ 2) && (snd9 x && fits (iH x) t))), h') ∧ ol h h' 1 := by
  have oh : okT (iH x) := ok.2.2.1
  have hz : szT (iH x) ≤ 5 := ok.2.2.2.1
  have Ph := P.mono K.ext
  obtain ⟨k1, -, -, -⟩ := p_kinds Ph ok.k
  have k2 := p_soundD Ph ok.k oh
  obtain ⟨hd, ca, va, ⟨-, r1, r2, -⟩, T, -⟩ := P.rd ok.k
  obtain ⟨hd', ca', va', ⟨-, r1', r2', -⟩, T', -⟩ := Ph.rd ok.k
  have hh : hd' = hd := by
    obtain ⟨hd1, ca1, va1, fc, fv, e, T1, -⟩ := P
    have a1 := (rdI_c ok.k.c e).2.2.1
    have a2 := (rdI_c ok.k.c (K.ext _ _ e)).2.2.1
    rw [a1] at r2
    rw [a2] at r2'
    exact (Option.some.inj (Option.some.inj r2')).symm.trans (Option.some.inj (Option.some.inj r2))
  subst hh
  obtain ⟨b, eg, Tg⟩ := G
  obtain ⟨g0, g1, -⟩ := rdG (K.ext _ _ eg)
  unfold fX0_isMeant fX0_isMeant_b47 fX0_isMeant_b48
  rw [r1', bd_s, g0, bd_s]
  by_cases c1 : iO x = c
  · rw [if_neg (by simpa using c1), k1, bd_s, decide_eq_true c1]
    by_cases c2 : iK x = 2
    · rw [show decide (iK x ≠ 2) = false by simp [c2], if_pos (show bI false = 0 from rfl), gd_t (by simp)]
      exact ⟨h, rfl, (ol.refl h).mono (by omega)⟩
    · rw [show decide (iK x ≠ 2) = true by simp [c2], if_neg (by decide), k2, bd_s]
      cases snd9 x with
      | false =>
        rw [if_pos (show bI false = 0 from rfl), gd_t (by simp)]
        exact ⟨h, rfl, (ol.refl h).mono (by omega)⟩
      | true =>
        rw [if_neg (by decide), r2', bd_s, g1, bd_s, nwQ_2 h 4 (by omega) (by omega), bd_s]
        simp only [Int.reduceToNat]
        obtain ⟨h', e, o, -⟩ := p_fitNew K oh ot (by omega) h9 T Tg
        rw [e, bd_s]
        cases fits (iH x) t with
        | false => rw [if_pos (by show (0 : Int) = 0; rfl), gd_t (by simp)]; exact ⟨h', rfl, o⟩
        | true => rw [if_neg (by show ¬ (1 : Int) = 0; decide), gd_t (by simp)]; exact ⟨h', rfl, o⟩
  · rw [if_pos c1, gd_t (by simp), decide_eq_false c1]
    exact ⟨h, rfl, (ol.refl h).mono (by omega)⟩
theorem ior_bI (a b : Bool) : ior (bI a) (bI b) = bI (a || b) := by cases a <;> cases b <;> decide
theorem p_isAnyAlone {s : Sg} {h : hS} {n : Nat} {I : List Ist} (J : Ins0 s h n I) {M : Nat} (hM : M < 2147483648) : fX0_isAnyAlone s h (M : Int) = some (bI (anyN (fun i => M.testBit i && decide (iK (ig I i) = 4)) I.length)) := by
  obtain ⟨h5, h6, J⟩ := J
  unfold fX0_isAnyAlone
  have := loopE (fun f k (x : Int) => fX0_isAnyAlone_L4 f s h (M : Int) x (k : Int)) I.length (fun k => bI (anyN (fun i => M.testBit i && decide (iK (ig I i) = 4)) k)) (some (bI (anyN (fun i => M.testBit i && decide (iK (ig I i) = 4)) I.length))) (fun f k hk => ?_) (fun f => ?_) (by unfold FU; omega)
  · exact this
  · obtain ⟨ok, a, e, P⟩ := J k hk
    rw [fX0_isAnyAlone_L4_s]
    unfold fX0_isAnyAlone_b4 fX0_isAnyAlone_b37 fX0_isAnyAlone_b38
    rw [if_neg (by rw [h5]; omega), p_has (by omega) hM, bd_s, wr_id (x := (k : Int) + 1) (by omega) (by omega), anyN_s]
    cases M.testBit k with
    | false => rw [if_pos (show bI false = 0 from rfl), show (0 : Int) = bI false from rfl, ior_bI]; rfl
    | true =>
      obtain ⟨-, k2, -, -⟩ := p_kinds P ok.k
      rw [if_neg (by decide), gd_t (by omega), e, k2, bd_s]
      cases decide (iK (ig I k) = 4) with
      | false => rw [if_pos (show bI false = 0 from rfl), show (0 : Int) = bI false from rfl, ior_bI]; rfl
      | true => rw [if_neg (by decide), show (1 : Int) = bI true from rfl, ior_bI]; rfl
  · rw [fX0_isAnyAlone_L4_s]
    unfold fX0_isAnyAlone_b4
    rw [if_pos (by rw [h5]; omega), gd_t bI_or]
theorem p_isSpecial {s : Sg} {h : hS} {n : Nat} {I : List Ist} (J : Ins0 s h n I) (S : Spc0 s I) {i e a b : Nat} (hi : i < I.length) (he : e < I.length) (Pa : isI h a i (ig I i)) (Pb : isI h b e (ig I e)) : fX0_isSpecial s h (some a) (some b) = some (bI (spc (ig I i) (ig I e))) := by
  obtain ⟨_, _, _, ⟨r0, -⟩, -, -⟩ := Pa.rd (J.2.2 i hi).1.k
  obtain ⟨_, _, _, ⟨q0, -⟩, -, -⟩ := Pb.rd (J.2.2 e he).1.k
  have := J.2.1
  unfold fX0_isSpecial
  rw [r0, bd_s, q0, bd_s, wr_id (x := 6 * (i : Int)) (by omega) (by omega), wr_id (by omega) (by omega), gd_t (by omega), S i e hi he]
theorem p_isBefore {s : Sg} {h : hS} {n : Nat} {I : List Ist} (J : Ins0 s h n I) (S : Spc0 s I) {i e a b : Nat} (hi : i < I.length) (he : e < I.length) (ha : gQ s 4 (i : Int) = some a) (hb : gQ s 4 (e : Int) = some b) (Pa : isI h a i (ig I i)) (Pb : isI h b e (ig I e)) : fX0_isBefore s h (some a) (some b) = some (bI (bef I i e)) := by
  obtain ⟨_, _, _, ⟨r0, -⟩, -, -⟩ := Pa.rd (J.2.2 i hi).1.k
  obtain ⟨_, _, _, ⟨q0, -⟩, -, -⟩ := Pb.rd (J.2.2 e he).1.k
  obtain ⟨-, -, ra, -⟩ := p_kinds Pa (J.2.2 i hi).1.k
  obtain ⟨-, -, rb, -⟩ := p_kinds Pb (J.2.2 e he).1.k
  unfold fX0_isBefore fX0_isBefore_b36 fX0_isBefore_b40 fX0_isBefore_b41 bef
  by_cases c : a = b
  · subst c
    rw [r0] at q0
    have : i = e := by have := Option.some.inj q0; omega
    rw [if_pos rfl, gd_t (by simp), decide_eq_true this]; rfl
  · have ne : i ≠ e := by
      rintro rfl
      rw [ha] at hb
      exact c (Option.some.inj hb)
    rw [if_neg (by simpa using c), ra, bd_s, rb, bd_s, decide_eq_false ne]
    by_cases c1 : rk (ig I i) < rk (ig I e)
    · rw [if_pos (by omega), gd_t (by simp), decide_eq_true c1]; rfl
    · rw [if_neg (by omega), bd_s, bd_s, decide_eq_false c1]
      by_cases c2 : rk (ig I i) = rk (ig I e)
      · rw [if_neg (by simp [c2]), p_isSpecial J S hi he Pa Pb, bd_s, decide_eq_true c2]
        cases spc (ig I i) (ig I e) with
        | false => rw [if_pos (show bI false = 0 from rfl), gd_t (by simp)]; rfl
        | true => rw [if_neg (by decide), gd_t (by simp)]; rfl
      · rw [if_pos (by omega), gd_t (by simp), decide_eq_false c2]; rfl

set_option maxRecDepth 100000
/-! PURE: class DictProof: who is taken -/
theorem allN_f {P : Nat → Bool} : ∀ {n m : Nat}, n ≤ m → allN P n = false → allN P m = false := by
  intro n m h
  induction h with
  | refl => exact fun h => h
  | step _ ih => intro h; show (allN P _ && P _) = false; rw [ih h]; rfl
theorem p_taken_in {s : Sg} {h : hS} {n : Nat} {I : List Ist} (J : Ins0 s h n I) (S : Spc0 s I) {M : Nat} (hM : M < 2147483648) {K2 : Sg → hS → Int → Int → Option (Option Nat)} {i : Nat} (hi : i < I.length) (B : Bool) :
    ∀ (m f e : Nat), m < f → m + e = I.length → fX0_taken_L19 K2 f s h (M : Int) (i : Int) (bI (B && allN (fun e => !M.testBit e || bef I i e) e)) (e : Int) = fX0_taken_b73 K2 s h (M : Int) (i : Int) (bI (B && allN (fun e => !M.testBit e || bef I i e) I.length)) := by
  have h6 := J.2.1
  have h5 := J.1
  intro m
  induction m with
  | zero =>
    intro f e hf he
    obtain ⟨f, rfl⟩ : ∃ k, f = k + 1 := ⟨f - 1, by omega⟩
    rw [fX0_taken_L19_s]
    unfold fX0_taken_b19
    rw [if_pos (by rw [h5]; omega), show e = I.length by omega]
  | succ m ih =>
    intro f e hf he
    obtain ⟨f, rfl⟩ : ∃ k, f = k + 1 := ⟨f - 1, by omega⟩
    rw [fX0_taken_L19_s]
    unfold fX0_taken_b19 fX0_taken_b61 fX0_taken_b66
    rw [if_neg (by rw [h5]; omega)]
    cases q : (B && allN (fun e => !M.testBit e || bef I i e) e) with
    | false =>
      rw [if_pos (show bI false = 0 from rfl)]
      have : (B && allN (fun e => !M.testBit e || bef I i e) I.length) = false := by
        cases B with
        | false => rfl
        | true => rw [Bool.true_and] at q ⊢; exact allN_f (by omega) q
      rw [this]
    | true =>
      have st : (B && allN (fun e => !M.testBit e || bef I i e) (e + 1)) = (!M.testBit e || bef I i e) := by
        cases B with
        | false => cases q
        | true => rw [Bool.true_and] at q ⊢; show (allN _ e && _) = _; rw [q, Bool.true_and]
      have ih := ih f (e + 1) (by omega) (by omega)
      rw [if_neg (show ¬ bI true = 0 by decide), p_has (by omega) hM, bd_s, wr_id (x := (e : Int) + 1) (by omega) (by omega)]
      rw [st] at ih
      cases mb : M.testBit e with
      | false => rw [if_pos (show bI false = 0 from rfl)]; rw [mb] at ih; exact ih
      | true =>
        rw [mb] at ih
        obtain ⟨ok1, a, ea, Pa⟩ := J.2.2 i hi
        obtain ⟨ok2, b, eb, Pb⟩ := J.2.2 e (by omega)
        rw [if_neg (show ¬ bI true = 0 by decide), gd_t (by omega), gd_t (by omega), ea, eb, p_isBefore J S hi (by omega) ea eb Pa Pb, bd_s]
        cases hb : bef I i e with
        | false => rw [if_pos (show bI false = 0 from rfl)]; rw [hb] at ih; exact ih
        | true => rw [if_neg (show ¬ bI true = 0 by decide)]; rw [hb] at ih; exact ih
theorem p_taken {s : Sg} {h : hS} {n : Nat} {I : List Ist} (J : Ins0 s h n I) (S : Spc0 s I) {M : Nat} (hM : M < 2147483648) : fX0_taken s h (M : Int) = some (match (List.range I.length).find? (best I M) with
    | some k => gQ s 4 (k : Int)
    | none => none) := by
  have h6 := J.2.1
  have h5 := J.1
  have main : ∀ (m f k : Nat), m < f → m + k = I.length → (∀ j, j < k → best I M j = false) → fX0_taken_L2 f s h (M : Int) (k : Int) = some (match (List.range I.length).find? (best I M) with
    | some k => gQ s 4 (k : Int)
    | none => none) := by
    intro m
    induction m with
    | zero =>
      intro f k hf hk hb
      obtain ⟨f, rfl⟩ : ∃ k, f = k + 1 := ⟨f - 1, by omega⟩
      rw [fX0_taken_L2_s]
      unfold fX0_taken_b2
      rw [if_pos (by rw [h5]; omega)]
      have : (List.range I.length).find? (best I M) = none := List.find?_eq_none.mpr (fun x hx => by
        have := List.mem_range.mp hx
        rw [hb x (by omega)]; simp)
      rw [this]
    | succ m ih =>
      intro f k hf hk hb
      obtain ⟨f, rfl⟩ : ∃ k, f = k + 1 := ⟨f - 1, by omega⟩
      rw [fX0_taken_L2_s]
      unfold fX0_taken_b2
      rw [if_neg (by rw [h5]; omega), p_has (by omega) hM, bd_s]
      have := p_taken_in J S hM (K2 := fX0_taken_L2 f) (i := k) (by omega) (M.testBit k) I.length FU 0 (by unfold FU; omega) (by omega)
      rw [show (M.testBit k && allN (fun e => !M.testBit e || bef I k e) 0) = M.testBit k by simp [allN]] at this
      refine this.trans ?_
      show fX0_taken_b73 (fX0_taken_L2 f) s h (M : Int) (k : Int) (bI (best I M k)) = _
      unfold fX0_taken_b73
      cases bk : best I M k with
      | false =>
        rw [if_pos (show bI false = 0 from rfl), wr_id (by omega) (by omega)]
        refine ih f (k + 1) (by omega) (by omega) (fun j hj => ?_)
        by_cases q : j = k
        · rw [q]; exact bk
        · exact hb j (by omega)
      | true =>
        rw [if_neg (show ¬ bI true = 0 by decide), gd_t (by omega)]
        have : (List.range I.length).find? (best I M) = some k := by
          rw [List.find?_range_eq_some]
          exact ⟨bk, List.mem_range.mpr (by omega), fun j hj => by rw [hb j hj]; rfl⟩
        rw [this]
  exact main I.length FU 0 (by unfold FU; omega) (by omega) (fun j hj => by omega)
/-- a new proof with nothing in it -/
theorem p_newProof {k h : hS} {F : Nat → Prop} (K : Kp k h F) (g : Option Nat) (o : Int) (ta pa : Option Nat) :
    ∃ h' k', fX10_init (nwO h 10 [vq none, vi 0, vq none, vq none]) (some h.2.1) g o ta pa = some h' ∧ ext k k' ∧ Kp k' h' F ∧ k'.1 h.2.1 = some (.inl (10, [vq g, vi o, vq ta, vq pa])) ∧ ol h h' 1 ∧ ∀ a, a < h.2.1 → k'.1 a = k.1 a := by
  obtain ⟨h1, e1, a1, o1, s1⟩ := hW_at (P := [(10, 0)]) (v := vq g) (nwO_at h 10 [vq none, vi 0, vq none, vq none]) rfl (by simp)
  obtain ⟨h2, e2, a2, o2, s2⟩ := hW_at (P := [(10, 1)]) (v := vi o) a1 rfl (by simp)
  obtain ⟨h3, e3, a3, o3, s3⟩ := hW_at (P := [(10, 2)]) (v := vq ta) a2 rfl (by simp)
  obtain ⟨h4, e4, a4, o4, s4⟩ := hW_at (P := [(10, 3)]) (v := vq pa) a3 rfl (by simp)
  have O : ol h h4 1 := ol_at (ol_nwO h 10 [vq none, vi 0, vq none, vq none] (by simp)) (Nat.le_refl _) (fun c hc => by rw [o4 c hc, o3 c hc, o2 c hc, o1 c hc]) (by rw [s4, s3, s2, s1])
  have nF : ¬ F h.2.1 := fun q => by have := K.2 _ q; omega
  obtain ⟨K', X⟩ := (K.ol O).add (a := h.2.1) (K.nk (Nat.le_refl _)) a4 (by rw [s4, s3, s2, s1]; show h.2.1 < h.2.1 + 1; omega) nF
  refine ⟨h4, _, ?_, X, K', hup_at _ _ _, O, fun a ha => hup_ne _ _ (by omega)⟩
  unfold fX10_init
  rw [gd_t (by simp), e1, bd_s, e2, bd_s, e3, bd_s, e4, bd_s]
theorem p_newGoal {k h : hS} {F : Nat → Prop} (K : Kp k h F) (c : Int) {t : Tm} {b : Nat} (T : isT k b t) :
    ∃ h' k', fX9_init (nwO h 9 [vi 0, vq none]) (some h.2.1) c (some b) = some h' ∧ ext k k' ∧ Kp k' h' F ∧ isG k' h.2.1 c t ∧ ol h h' 1 ∧ ∀ a, a < h.2.1 → k'.1 a = k.1 a := by
  obtain ⟨h1, e1, a1, o1, s1⟩ := hW_at (P := [(9, 0)]) (v := vi c) (nwO_at h 9 [vi 0, vq none]) rfl (by simp)
  obtain ⟨h2, e2, a2, o2, s2⟩ := hW_at (P := [(9, 1)]) (v := vq (some b)) a1 rfl (by simp)
  have O : ol h h2 1 := ol_at (ol_nwO h 9 [vi 0, vq none] (by simp)) (Nat.le_refl _) (fun c hc => by rw [o2 c hc, o1 c hc]) (by rw [s2, s1])
  have nF : ¬ F h.2.1 := fun q => by have := K.2 _ q; omega
  obtain ⟨K', X⟩ := (K.ol O).add (a := h.2.1) (K.nk (Nat.le_refl _)) a2 (by rw [s2, s1]; show h.2.1 < h.2.1 + 1; omega) nF
  refine ⟨h2, _, ?_, X, K', ⟨b, hup_at _ _ _, T.mono X⟩, O, fun a ha => hup_ne _ _ (by omega)⟩
  unfold fX9_init
  rw [gd_t (by simp), e1, bd_s, e2, bd_s]
theorem p_meantAll {s : Sg} {k : hS} {F : Nat → Prop} {n : Nat} {I : List Ist} (J : Ins0 s k n I) {g : Nat} {c : Int} {t : Tm} (G : isG k g c t) (ot : okT t) (h9 : szT t ≤ 9) (R9 : Option Nat → Sg → hS → Option Nat → Option (Option Nat × hS)) (pm : Option Nat) :
    ∀ (m f i : Nat) (h : hS), Kp k h F → m < f → m + i = I.length → ∃ h', ol h h' m ∧ fX0_proved_L27 R9 f pm s h (some g) ((bitsOf (mt I c t) i : Nat) : Int) (i : Int) = fX0_proved_L27 R9 1 pm s h' (some g) ((bitsOf (mt I c t) I.length : Nat) : Int) (I.length : Int) := by
  have h5 := J.1
  have h6 := J.2.1
  intro m
  induction m with
  | zero =>
    intro f i h K hf hi
    obtain ⟨f, rfl⟩ : ∃ k, f = k + 1 := ⟨f - 1, by omega⟩
    have : i = I.length := by omega
    subst this
    refine ⟨h, ol.refl h, ?_⟩
    have hle : gI s 5 ≤ (I.length : Int) := by rw [h5]; omega
    have key : ∀ K K', fX0_proved_b27 R9 K pm s h (some g) ((bitsOf (mt I c t) I.length : Nat) : Int) (I.length : Int) = fX0_proved_b27 R9 K' pm s h (some g) ((bitsOf (mt I c t) I.length : Nat) : Int) (I.length : Int) := by
      intro K K'
      unfold fX0_proved_b27
      rw [if_pos hle, if_pos hle]
    rw [fX0_proved_L27_s, fX0_proved_L27_s]
    exact key _ _
  | succ m ih =>
    intro f i h K hf hi
    obtain ⟨f, rfl⟩ : ∃ k, f = k + 1 := ⟨f - 1, by omega⟩
    obtain ⟨ok, a, ea, Pa⟩ := J.2.2 i (by omega)
    obtain ⟨h1, e1, O1⟩ := p_isMeant K Pa ok G ot h9
    obtain ⟨h2, O2, e2⟩ := ih f (i + 1) h1 (K.ol O1) (by omega) (by omega)
    refine ⟨h2, O1.trans O2 (by omega), ?_⟩
    rw [fX0_proved_L27_s]
    unfold fX0_proved_b27 fX0_proved_b57
    have ib := ior_bit (P := mt I c t) (n := i) (by omega)
    rw [if_neg (by rw [h5]; omega), gd_t (by omega), ea, e1, bd_s, wr_id (x := (i : Int) + 1) (by omega) (by omega)]
    have emt : mt I c t i = (decide (iO (ig I i) = c) && (decide (iK (ig I i) ≠ 2) && (snd9 (ig I i) && fits (iH (ig I i)) t))) := rfl
    rw [emt] at ib
    cases q : (decide (iO (ig I i) = c) && (decide (iK (ig I i) ≠ 2) && (snd9 (ig I i) && fits (iH (ig I i)) t))) with
    | false =>
      rw [q] at ib
      rw [if_pos (by show bI false = 0; rfl)]
      rw [show (0 : Int) = if (false = true) then ishl 1 (i : Int) else 0 from rfl, ib]
      exact e2
    | true =>
      rw [q] at ib
      rw [if_neg (by show ¬ bI true = 0; decide)]
      rw [show ishl 1 (i : Int) = if (true = true) then ishl 1 (i : Int) else 0 from rfl, ib]
      exact e2

set_option maxRecDepth 100000
/-! PURE: class DictProof: proofs as objects; what the map of proofs holds -/
theorem xs_inj (b c : BitVec 32) (h : b ^^^ (b >>> 16) = c ^^^ (c >>> 16)) : b = c := by
  have g : ∀ i, i < 32 → (b.getLsbD i ^^ b.getLsbD (16 + i)) = (c.getLsbD i ^^ c.getLsbD (16 + i)) := by
    intro i hi
    have := congrArg (fun x => x.getLsbD i) h
    simpa [BitVec.getLsbD_xor, BitVec.getLsbD_ushiftRight] using this
  have hi : ∀ i, 16 ≤ i → i < 32 → b.getLsbD i = c.getLsbD i := by
    intro i h1 h2
    have := g i h2
    rw [BitVec.getLsbD_of_ge b (16 + i) (by omega), BitVec.getLsbD_of_ge c (16 + i) (by omega)] at this
    simpa using this
  apply BitVec.eq_of_getLsbD_eq
  intro i h1
  by_cases q : 16 ≤ i
  · exact hi i q h1
  · have := g i h1
    rw [hi (16 + i) (by omega) (by omega)] at this
    simpa using this
theorem spH_bv (x : Int) : spH x = ((I32 x).toBitVec ^^^ ((I32 x).toBitVec >>> 16)).toInt := by
  unfold spH ixor iush
  rw [I_of]
  rfl
theorem spH_inj {x y : Int} (hx : rI x) (hy : rI y) (h : spH x = spH y) : x = y := by
  rw [spH_bv, spH_bv] at h
  have := xs_inj _ _ (BitVec.eq_of_toInt_eq h)
  have e : I32 x = I32 y := Int32.toBitVec_inj.mp this
  rw [← toI hx, ← toI hy, e]
theorem spH_r (x : Int) : rI (spH x) := rI_to _
theorem hhG_r (c : Int) (t : Tm) : rI (hhG c t) := wr_r _
/-- the object at p is the proof of a goal -/
def isP (h : hS) (I : List Ist) : Nat → Nat → Int → Tm → Prop
  | 0, _, _, _ => False
  | f + 1, p, c, t => ∃ g, isG h g c t ∧ ((isV t = true ∧ h.1 p = some (.inl (10, [vq (some g), vi 1, vq none, vq none]))) ∨ (isV t = false ∧ (tk I c t = -1 ∨ tk I c t = -2) ∧ h.1 p = some (.inl (10, [vq (some g), vi (rS (res I c t)), vq none, vq none]))) ∨
    (isV t = false ∧ ∃ (kk a pa : Nat) (fa : Int → Option Nat), tk I c t = (kk : Int) ∧ isI h a kk (ig I kk) ∧ h.1 p = some (.inl (10, [vq (some g), vi (rS (res I c t)), vq (some a), vq (some pa)])) ∧ h.1 pa = some (.inr (5, (prts I kk t).length, .inr fa)) ∧ ∀ (j : Nat) (e : Int × Tm), (prts I kk t)[j]? = some e → ∃ q, fa (j : Int) = some q ∧ isP h I f q e.1 e.2))
theorem isP.mono {k h : hS} {I : List Ist} (X : ext k h) : ∀ {f p : Nat} {c : Int} {t : Tm}, isP k I f p c t → isP h I f p c t := by
  intro f
  induction f with
  | zero => intro p c t h; exact h
  | succ f ih =>
    rintro p c t ⟨g, G, r⟩
    refine ⟨g, G.mono X, ?_⟩
    rcases r with ⟨v, e⟩ | ⟨v, w, e⟩ | ⟨v, kk, a, pa, fa, e1, P, e2, e3, r⟩
    · exact Or.inl ⟨v, X _ _ e⟩
    · exact Or.inr (Or.inl ⟨v, w, X _ _ e⟩)
    · refine Or.inr (Or.inr ⟨v, kk, a, pa, fa, e1, P.mono X, X _ _ e2, X _ _ e3, fun j e he => ?_⟩)
      obtain ⟨q, e4, R⟩ := r j e he
      exact ⟨q, e4, ih R⟩
theorem rdP {h : hS} {p : Nat} {g ta pa : Option Nat} {o : Int} (e : h.1 p = some (.inl (10, [vq g, vi o, vq ta, vq pa]))) : hQ h (some p) [(10, 0)] = some g ∧ hI h (some p) [(10, 1)] = some o ∧ hQ h (some p) [(10, 2)] = some ta ∧ hQ h (some p) [(10, 3)] = some pa ∧ hC h (some p) = some 10 ∧ inC h (some p) [10] = true := by
  unfold hI hQ hF inC hC nn
  simp only [e]
  exact ⟨rfl, rfl, rfl, rfl, trivial, rfl⟩
theorem isP.c {h : hS} {I : List Ist} {f p : Nat} {c : Int} {t : Tm} (P : isP h I f p c t) : hC h (some p) = some 10 ∧ inC h (some p) [10] = true := by
  cases f with
  | zero => exact P.elim
  | succ f =>
    obtain ⟨g, G, r⟩ := P
    rcases r with ⟨v, e⟩ | ⟨v, w, e⟩ | ⟨v, kk, a, pa, fa, e1, P, e2, e3, r⟩
    · exact (rdP e).2.2.2.2
    · exact (rdP e).2.2.2.2
    · exact (rdP e2).2.2.2.2
/-- its outcome -/
theorem isP.o {h : hS} {I : List Ist} {n f p : Nat} {c : Int} {t : Tm} (hI9 : ∀ i, i < I.length → okI n (ig I i)) (ot : okT t) (P : isP h I f p c t) : hI h (some p) [(10, 1)] = some (rS (res I c t)) := by
  cases f with
  | zero => exact P.elim
  | succ f =>
    obtain ⟨g, G, r⟩ := P
    rcases r with ⟨v, e⟩ | ⟨v, w, e⟩ | ⟨v, kk, a, pa, fa, e1, P, e2, e3, r⟩
    · rw [(rdP e).2.1, res_var hI9 ot v]; rfl
    · exact (rdP e).2.1
    · exact (rdP e2).2.1
/-- types that may be in the map: no two goals of equal hash -/
def UOK (U : Tm → Prop) : Prop := (∀ t, U t → okT t ∧ szT t ≤ 9) ∧ (∀ t p, U t → p < szT t → U (sub t p)) ∧ ∀ (c c' : Int) (t u : Tm), (0 ≤ c ∧ c < 4) → (0 ≤ c' ∧ c' < 4) → U t → U u → hhG c t = hhG c' u → c = c' ∧ t = u
def EOK (k : hS) (I : List Ist) (U : Tm → Prop) (E : List En) : Prop := ∀ e, e ∈ E → ∃ (c : Int) (t : Tm) (a p : Nat), (0 ≤ c ∧ c < 4) ∧ U t ∧ e = (spH (hhG c t), some a, some p) ∧ isG k a c t ∧ ∀ m, szT t ≤ m → isP k I m p c t
theorem EOK.mono {k k' : hS} {I : List Ist} {U : Tm → Prop} {E : List En} (X : ext k k') (h : EOK k I U E) : EOK k' I U E := by
  intro e he
  obtain ⟨c, t, a, p, hc, hu, e1, G, P⟩ := h e he
  exact ⟨c, t, a, p, hc, hu, e1, G.mono X, fun m hm => (P m hm).mono X⟩
theorem EOK.sp {k : hS} {I : List Ist} {U : Tm → Prop} {E : List En} (hU : UOK U) (h : EOK k I U E) {c : Int} {t : Tm} (hc : 0 ≤ c ∧ c < 4) (ht : U t) {e : En} (he : e ∈ E) (h1 : e.1 = spH (hhG c t)) : ∃ a p, e = (spH (hhG c t), some a, some p) ∧ isG k a c t ∧ ∀ m, szT t ≤ m → isP k I m p c t := by
  obtain ⟨c', t', a, p, hc', hu', e1, G, P⟩ := h e he
  have : spH (hhG c' t') = spH (hhG c t) := by rw [← h1, e1]
  obtain ⟨rfl, rfl⟩ := hU.2.2 c' c t' t hc' hc hu' ht (spH_inj (hhG_r _ _) (hhG_r _ _) this)
  exact ⟨a, p, e1, G, P⟩
theorem EOK.ke {k h : hS} {F : Nat → Prop} (K : Kp k h F) {I : List Ist} {U : Tm → Prop} {E : List En} (hU : UOK U) (hE : EOK k I U E) {c : Int} {t : Tm} (hc : 0 ≤ c ∧ c < 4) (ht : U t) {g : Nat} (G : isG k g c t) : KE h g (spH (hhG c t)) E := by
  intro e he h1
  obtain ⟨a, p, e1, Ga, -⟩ := hE.sp hU hc ht he h1
  right
  obtain ⟨ot, h9⟩ := hU.1 t ht
  refine ⟨1, by decide, ?_⟩
  rw [e1]
  exact p_eqG (G.mono K.ext) (Ga.mono K.ext) (by have := dpT_le t ot; omega)
/-- the map is asked for a goal -/
theorem p_asked {k h : hS} {F : Nat → Prop} {Q N mp : Nat} (hN : N ≤ 65536) (K : Kp k h F) {I : List Ist} {U : Tm → Prop} {E : List En} (hU : UOK U) (hE : EOK k I U E) (M : HM N h mp E F Q) {c : Int} {t : Tm} (hc : 0 ≤ c ∧ c < 4) (ht : U t) {g : Nat} (G : isG k g c t) :
    (fJ1_get h (some mp) (some g) = some none ∧ ∀ e, e ∈ E → e.1 ≠ spH (hhG c t)) ∨ ∃ p, fJ1_get h (some mp) (some g) = some (some p) ∧ ∀ m, szT t ≤ m → isP k I m p c t := by
  obtain ⟨ot, h9⟩ := hU.1 t ht
  have e0 := pH_get hN M (p_hashG (G.mono K.ext) (by have := dpT_le t ot; omega)) (spH_r _) (hE.ke K hU hc ht G)
  obtain ⟨_, _, _, _, _, _, _, nd, _⟩ := M
  by_cases q : ∃ e, e ∈ E ∧ e.1 = spH (hhG c t)
  · obtain ⟨e, he, h1⟩ := q
    obtain ⟨a, p, e1, -, P⟩ := hE.sp hU hc ht he h1
    right
    refine ⟨p, ?_, P⟩
    rw [e0, mgt_of nd he h1, e1]
  · left
    have : ∀ e, e ∈ E → e.1 ≠ spH (hhG c t) := fun e he h1 => q ⟨e, he, h1⟩
    exact ⟨by rw [e0, mgt_no this], this⟩

set_option maxRecDepth 100000
/-! PURE: class DictProof: a goal is proved: what is taken; the parts -/
theorem p_take {s : Sg} {h : hS} {n : Nat} {I : List Ist} (J : Ins0 s h n I) (S : Spc0 s I) {g : Nat} {c : Int} {t : Tm} (R9 : Option Nat → Sg → hS → Option Nat → Option (Option Nat × hS)) (pm : Option Nat) :
    (tk I c t = -1 → fX0_proved_L27 R9 1 pm s h (some g) ((bitsOf (mt I c t) I.length : Nat) : Int) (I.length : Int) = bd (nwS h 10 [vq none, vi 0, vq none, vq none]) fun p4 => bd (fX10_init p4.2 (some p4.1) (some g) 0 none none) fun p7 => some ((some p4.1), p7)) ∧
    (tk I c t = -2 → fX0_proved_L27 R9 1 pm s h (some g) ((bitsOf (mt I c t) I.length : Nat) : Int) (I.length : Int) = fX0_proved_b116 R9 pm s h (some g) none) ∧
    ∀ kk : Nat, tk I c t = (kk : Int) → fX0_proved_L27 R9 1 pm s h (some g) ((bitsOf (mt I c t) I.length : Nat) : Int) (I.length : Int) = fX0_proved_b116 R9 pm s h (some g) (gQ s 4 (kk : Int)) := by
  have h5 := J.1
  have h6 := J.2.1
  have hM : bitsOf (mt I c t) I.length < 2147483648 := bitsOf_31 (by omega)
  have eA := p_isAnyAlone J hM
  have eT := p_taken J S hM
  unfold tk
  generalize bitsOf (mt I c t) I.length = M at *
  rw [fX0_proved_L27_s]
  unfold fX0_proved_b27 fX0_proved_b94 fX0_proved_b111
  rw [if_pos (show gI s 5 ≤ (I.length : Int) by rw [h5]; omega)]
  by_cases m0 : M = 0
  · have hT : tkM I M = -1 := by unfold tkM; rw [if_pos m0]
    rw [hT, if_neg (show ¬ ¬ (M : Int) = 0 by simp [m0])]
    exact ⟨fun _ => rfl, fun q => by omega, fun kk q => by omega⟩
  · rw [if_pos (show ¬ (M : Int) = 0 by omega), eA, eT]
    have ei : iand (M : Int) (wr ((M : Int) - 1)) = ((M &&& (M - 1) : Nat) : Int) := by
      have e1 : ((M : Int) - 1) = ((M - 1 : Nat) : Int) := by omega
      rw [wr_id (x := (M : Int) - 1) (by omega) (by omega), e1]
      exact p_iand hM (by omega)
    rw [ei]
    have fin : ∀ z : Option Nat, (List.range I.length).find? (best I M) = z → ¬ (M &&& (M - 1) ≠ 0 ∧ anyN (fun i => M.testBit i && decide (iK (ig I i) = 4)) I.length = true) → tkM I M = match z with
        | some k => (k : Int)
        | none => -2 := by
      intro z hz hn
      unfold tkM
      rw [if_neg m0, if_neg hn, hz]
      cases z <;> rfl
    by_cases a : M &&& (M - 1) = 0
    · rw [if_neg (show ¬ ¬ ((M &&& (M - 1) : Nat) : Int) = 0 by rw [a]; simp), if_pos (show ¬ (1 : Int) = 0 by decide), bd_s]
      cases q : (List.range I.length).find? (best I M) with
      | none => rw [fin _ q (fun w => w.1 a)]; exact ⟨fun q => by simp only at q; omega, fun _ => rfl, fun kk q => by simp only at q; omega⟩
      | some k => rw [fin _ q (fun w => w.1 a)]; exact ⟨fun q => by simp only at q; omega, fun q => by simp only at q; omega, fun kk q => by simp only at q ⊢; rw [q]⟩
    · rw [if_pos (show ¬ ((M &&& (M - 1) : Nat) : Int) = 0 by omega), if_neg (show ¬ ¬ (0 : Int) = 0 by decide), bd_s]
      cases an : anyN (fun i => M.testBit i && decide (iK (ig I i) = 4)) I.length with
      | true =>
        have hT : tkM I M = -2 := by unfold tkM; rw [if_neg m0, if_pos ⟨a, an⟩]
        rw [hT, if_neg (show ¬ bI true = 0 by decide)]
        exact ⟨fun q => by omega, fun _ => rfl, fun kk q => by omega⟩
      | false =>
        have na : ¬ (M &&& (M - 1) ≠ 0 ∧ anyN (fun i => M.testBit i && decide (iK (ig I i) = 4)) I.length = true) := by rw [an]; rintro ⟨-, q⟩; cases q
        rw [if_pos (show bI false = 0 from rfl), bd_s]
        cases q : (List.range I.length).find? (best I M) with
        | none => rw [fin _ q na]; exact ⟨fun q => by simp only at q; omega, fun _ => rfl, fun kk q => by simp only at q; omega⟩
        | some k => rw [fin _ q na]; exact ⟨fun q => by simp only at q; omega, fun q => by simp only at q; omega, fun kk q => by simp only at q ⊢; rw [q]⟩
def sbK (t : Tm) (lo : Nat) (Nw : List En) : Prop := ∀ e, e ∈ Nw → ∃ (c' : Int) (p : Nat), (0 ≤ c' ∧ c' < 4) ∧ lo ≤ p ∧ p < szT t ∧ e.1 = spH (hhG c' (sub t p))
/-- what proving gives -/
def prvR (I : List Ist) (U : Tm → Prop) (mp : Nat) (k h : hS) (E : List En) (F : Nat → Prop) (Q : Nat) (c : Int) (t : Tm) (Z : Option (Option Nat × hS)) : Prop :=
  ∃ q h' k' Nw F' Q', Z = some (some q, h') ∧ ext k k' ∧ Kp k' h' F' ∧ HM 32768 h' mp (Nw ++ E) F' Q' ∧ EOK k' I U (Nw ++ E) ∧ (∀ m, szT t ≤ m → isP k' I m q c t) ∧ fr h h' F F' ∧ (∀ a, a < h.2.1 → k'.1 a = k.1 a) ∧ sbK t 0 Nw ∧ Nw.length + 1 ≤ 2 ^ szT t ∧ h'.2.1 + Q' ≤ h.2.1 + Q + 15 * Nw.length ∧ h'.2.2 + 4 * Q' ≤ h.2.2 + 4 * Q + 60 * Nw.length
def frx (h h' : hS) (F F' : Nat → Prop) (x : Nat) : Prop := (∀ a, F' a → F a ∨ h.2.1 ≤ a) ∧ (∀ b, ¬ F b → b < h.2.1 → b ≠ x → h'.1 b = h.1 b) ∧ h.2.1 ≤ h'.2.1
theorem frx.pre {h h1 h' : hS} {F F1 F' : Nat → Prop} {x : Nat} (a : fr h h1 F F1) (b : frx h1 h' F1 F' x) : frx h h' F F' x := by
  refine ⟨fun y hy => ?_, fun y hy hl hx => ?_, Nat.le_trans a.2.2 b.2.2⟩
  · rcases b.1 y hy with w | w
    · exact a.1 y w
    · right; have := a.2.2; omega
  · have := a.2.2
    rw [b.2.1 y (fun w => by rcases a.1 y w with z | z; exact hy z; omega) (by omega) hx, a.2.1 y hy hl]
theorem sbK.mono {t : Tm} {lo lo' : Nat} {N : List En} (h : sbK t lo N) (hl : lo' ≤ lo) : sbK t lo' N := by
  intro e he
  obtain ⟨c, p, h1, h2, h3, h4⟩ := h e he
  exact ⟨c, p, h1, by omega, h3, h4⟩
theorem sbK.sub {t : Tm} {q : Nat} {N : List En} (ht : okT t) (hq : q < szT t) (h : sbK (sub t q) 0 N) : sbK t q N := by
  intro e he
  obtain ⟨c, p, h1, h2, h3, h4⟩ := h e he
  have := sub_end t q ht hq
  exact ⟨c, q + p, h1, by omega, by omega, by rw [← sub_sub t q p ht hq h3]; exact h4⟩
theorem p_parts {s : Sg} {I : List Ist} {U : Tm → Prop} {mp n kk g a pa pb : Nat} {c : Int} {t : Tm} {b : Bd} {E : List En} {R9 : Option Nat → Sg → hS → Option Nat → Option (Option Nat × hS)}
    (hU : UOK U) (ht : U t) (hn : n ≤ 4) (hI9 : ∀ i, i < I.length → okI n (ig I i)) (hk : tk I c t = (kk : Int)) (hv : isV t = false) (hb : fit (iH (ig I kk)) t bd0 = some b) (hcap : E.length + 2 ^ szT t ≤ 24576) (hpp : pa ≠ pb)
    (hR9 : ∀ (u : Tm) (c' : Int) (k h : hS) (E : List En) (F : Nat → Prop) (Q g' : Nat), U u → szT u < szT t → (0 ≤ c' ∧ c' < (n : Int)) → Kp k h F → HM 32768 h mp E F Q → EOK k I U E → Ins0 s k n I → isG k g' c' u → E.length + 2 ^ szT u ≤ 24576 → prvR I U mp k h E F Q c' u (R9 (some mp) s h (some g'))) :
    ∀ (m f i : Nat) (h k : hS) (Nw : List En) (F : Nat → Prop) (Q : Nat) (fa : Int → Option Nat) (o : Int), m < f → m + i = (prts I kk t).length → Kp k h F → HM 32768 h mp (Nw ++ E) F Q → EOK k I U (Nw ++ E) → Ins0 s k n I → isI k a kk (ig I kk) → isG k g c t → putA k h pa b → ¬ F pa → pa < h.2.1 → arQ h 5 (prts I kk t).length pb fa → k.1 pb = none → ¬ F pb → pb < h.2.1 →
      (∀ (j : Nat) (e : Int × Tm), j < i → (prts I kk t)[j]? = some e → ∃ q, fa (j : Int) = some q ∧ ∀ m, szT e.2 ≤ m → isP k I m q e.1 e.2) → stL (((prts I kk t).drop i).map fun g => res I g.1 g.2) o = rS (res I c t) → sbK t 1 Nw → Nw.length + i ≤ i * 2 ^ (szT t - 1) →
      ∃ q h' k' Nw' F' Q', fX0_proved_L173 R9 f (some mp) s h (some g) (some a) (some pa) (some pb) o (i : Int) = some (some q, h') ∧ ext k k' ∧ Kp k' h' F' ∧ HM 32768 h' mp (Nw' ++ E) F' Q' ∧ EOK k' I U (Nw' ++ E) ∧ (∀ m, szT t ≤ m → isP k' I m q c t) ∧ frx h h' F F' pb ∧ (∀ a, a < h.2.1 → a ≠ pb → k'.1 a = k.1 a) ∧ sbK t 1 Nw' ∧ Nw'.length + (prts I kk t).length ≤ (prts I kk t).length * 2 ^ (szT t - 1) ∧ h'.2.1 + Q' + 15 * Nw.length ≤ h.2.1 + Q + 15 * Nw'.length + m + 1 ∧ h'.2.2 + 4 * Q' + 60 * Nw.length ≤ h.2.2 + 4 * Q + 60 * Nw'.length + 4 * m + 4 := by
  obtain ⟨ot, h9⟩ := hU.1 t ht
  obtain ⟨pl, pq⟩ := prts_lt hI9 ot hk
  obtain ⟨hkk, -⟩ := tk_ge hk
  have okx := hI9 kk hkk
  have l2 : (iC (ig I kk)).length ≤ 2 := okx.2.2.2.2.1
  have hbd : bdOf (iH (ig I kk)) t = b := by unfold bdOf; rw [hb]; rfl
  intro m
  induction m with
  | zero =>
    intro f i h k Nw F Q fa o hf hi K M hE J Pa G PA nFa la AB kb nFb lb fil hst hs hl
    obtain ⟨f, rfl⟩ : ∃ x, f = x + 1 := ⟨f - 1, by omega⟩
    have hi : i = (prts I kk t).length := by omega
    subst hi
    rw [fX0_proved_L173_s]
    unfold fX0_proved_b173
    obtain ⟨_, _, _, ⟨-, -, -, -, -, r5, -⟩, -, -⟩ := (Pa.mono K.ext).rd okx.k
    rw [r5, bd_s, if_pos (by rw [pl]; omega), nwS_e, bd_s]
    dsimp only
    obtain ⟨K1, X1'⟩ := K.add (a := pb) (e := .inr (5, (prts I kk t).length, .inr fa)) kb AB lb nFb
    have X1 : ext k (hup k pb (.inr (5, (prts I kk t).length, .inr fa))) := X1'
    obtain ⟨h', k', e, X2, K2, ep, O, dk⟩ := p_newProof K1 (some g) o (some a) (some pb)
    rw [e, bd_s]
    have ho : o = rS (res I c t) := by
      rw [List.drop_length] at hst
      exact hst
    have X := X1.trans X2
    refine ⟨h.2.1, h', k', Nw, F, Q, rfl, X, K2, M.ol K.2 O, hE.mono X, fun m hm => ?_, ⟨fun a ha => Or.inl ha, fun b _ hb _ => O.2.1 b hb, O.1⟩, fun a ha hne => by rw [dk a ha, hup_ne _ _ hne], hs, hl, ?_, ?_⟩
    · obtain ⟨m, rfl⟩ : ∃ x, m = x + 1 := ⟨m - 1, by have := szT_pos t; omega⟩
      refine ⟨g, G.mono X, Or.inr (Or.inr ⟨hv, kk, a, pb, fa, hk, Pa.mono X, by rw [← ho]; exact ep, X2 _ _ (hup_at _ _ _), fun j e he => ?_⟩)⟩
      have hj : j < (prts I kk t).length := (List.getElem?_eq_some_iff.mp he).1
      obtain ⟨q, e1, R⟩ := fil j e hj he
      obtain ⟨q', q0, q1, -, e2⟩ := pq j (by omega)
      rw [e2] at he
      cases he
      exact ⟨q, e1, (R m (by have := sub_lt ot q1 q0; show szT (sub t q') ≤ m; omega)).mono X⟩
    · have := O.2.2.1; omega
    · have := O.2.2.2; omega
  | succ m ih =>
    intro f i h k Nw F Q fa o hf hi K M hE J Pa G PA nFa la AB kb nFb lb fil hst hs hl
    obtain ⟨f, rfl⟩ : ∃ x, f = x + 1 := ⟨f - 1, by omega⟩
    have hi' : i < (iC (ig I kk)).length := by omega
    obtain ⟨p, p0, p1, p2, p3⟩ := pq i hi'
    have zlt := sub_lt ot p1 p0
    have Up := hU.2.1 t p ht p1
    have w1 : 0 < 2 ^ (szT t - 1) := Nat.pow_pos (by omega)
    have w2 : 2 ^ szT t = 2 ^ (szT t - 1) + 2 ^ (szT t - 1) := by
      have := szT_pos t
      have e : szT t = (szT t - 1) + 1 := by omega
      rw [e, Nat.pow_succ]; simp; omega
    have w3 : 2 ^ szT (sub t p) ≤ 2 ^ (szT t - 1) := Nat.pow_le_pow_right (by omega) (by omega)
    obtain ⟨cv, vv, oc⟩ := okx.2.2.2.2.2 i hi'
    -- a new goal
    have O0 := ol_nwO h 9 [vi 0, vq none] (by simp)
    have K0 := K.ol O0
    obtain ⟨hd, ca, va, ⟨r0, r1, r2, r3, r4, r5, -⟩, -, rr⟩ := (Pa.mono K0.ext).rd okx.k
    obtain ⟨rc, rv⟩ := rr i hi' (by omega)
    obtain ⟨fp, Ap, PP⟩ := PA.up (h' := nwO h 9 [vi 0, vq none]) (nwO_ne h 9 _ (by omega))
    have Pv := PP (cg (ig I kk) i).2 vv
    rw [hbd] at p2
    rw [p2] at Pv
    obtain ⟨ap, fe, Tp, -, -⟩ := Pv
    obtain ⟨h1, k1, e1, X1, K1, G1, O1, d1⟩ := p_newGoal K (cg (ig I kk) i).1 Tp
    have c4 : 0 ≤ (cg (ig I kk) i).1 ∧ (cg (ig I kk) i).1 < (n : Int) := cv
    have i1 : i ≤ 1 := by omega
    have cap1 : (Nw ++ E).length + 2 ^ szT (sub t p) ≤ 24576 := by
      rw [List.length_append]
      have : i * 2 ^ (szT t - 1) ≤ i + (2 ^ (szT t - 1) - 1) := by
        rcases Nat.le_one_iff_eq_zero_or_eq_one.mp i1 with q | q <;> subst q <;> omega
      omega
    obtain ⟨q, h2, k2, N2, F2, Q2, e2, X2, K2, M2, E2, R2, f2, d2, s2, l2', c1, c2⟩ := hR9 (sub t p) (cg (ig I kk) i).1 k1 h1 (Nw ++ E) F Q h.2.1 Up zlt c4 K1 (M.ol K.2 O1) (hE.mono X1) (J.mono X1) G1 cap1
    have lh1 := O1.1
    have lh2 := f2.2.2
    have hpb2 : h2.1 pb = h.1 pb := by rw [f2.2.1 pb nFb (by omega), O1.2.1 pb lb]
    have hpa2 : h2.1 pa = h.1 pa := by rw [f2.2.1 pa nFa (by omega), O1.2.1 pa la]
    have AB2 : arQ h2 5 (prts I kk t).length pb fa := by unfold arQ; rw [hpb2]; exact AB
    have Rq := R2 (szT (sub t p)) (Nat.le_refl _)
    obtain ⟨h3, e3, AB3, o3, s3⟩ := AB2.w (i := (i : Int)) (by omega) (by omega) (P := [10]) (v := some q) (Or.inr ⟨10, by simp, (Rq.mono K2.ext).c.1⟩)
    have X12 := X1.trans X2
    have kb2 : k2.1 pb = none := by rw [d2 pb (by omega), d1 pb lb]; exact kb
    have ne2 : ∀ x, k2.1 x ≠ none → x ≠ pb := fun x hx q => by subst q; exact hx kb2
    have K3 : Kp k2 h3 F2 := K2.go (fun x hx => o3 x (ne2 x hx)) (by rw [s3]; omega)
    have nFb2 : ¬ F2 pb := fun w => by rcases f2.1 pb w with z | z; exact nFb z; omega
    have nFa2 : ¬ F2 pa := fun w => by rcases f2.1 pa w with z | z; exact nFa z; omega
    have M3 : HM 32768 h3 mp (N2 ++ (Nw ++ E)) F2 Q2 := M2.cg (fun x hx => o3 x (fun q => by subst q; exact nFb2 hx)) (by rw [s3]; omega)
    have oq := (Rq.mono K3.ext).o hI9 (hU.1 _ Up).1
    rw [← List.append_assoc] at M3 E2
    have PA3 : putA k2 h3 pa b := by
      obtain ⟨f', A', P'⟩ := PA
      refine ⟨f', by unfold arQ; rw [o3 pa hpp, hpa2]; exact A', fun v hv => ?_⟩
      have := P' v hv
      cases eb : b v with
      | none => rw [eb] at this; exact this
      | some u =>
        rw [eb] at this
        obtain ⟨x, y, z, w⟩ := this
        exact ⟨x, y, z.mono X12, w⟩
    have hd1 : ((prts I kk t).drop i).map (fun g => res I g.1 g.2) = res I (cg (ig I kk) i).1 (sub t p) :: ((prts I kk t).drop (i + 1)).map (fun g => res I g.1 g.2) := by
      have := List.getElem?_eq_some_iff.mp p3
      obtain ⟨l, e⟩ := this
      rw [List.drop_eq_getElem_cons l, List.map_cons, e]
    rw [hd1] at hst
    have hst : stL (((prts I kk t).drop (i + 1)).map fun g => res I g.1 g.2) (if o = 1 then rS (res I (cg (ig I kk) i).1 (sub t p)) else o) = rS (res I c t) := hst
    have i2 : (i + 1) * 2 ^ (szT t - 1) = i * 2 ^ (szT t - 1) + 2 ^ (szT t - 1) := by rw [Nat.succ_mul]
    obtain ⟨q4, h4, k4, N4, F4, Q4, e4, X4, K4, M4, E4, R4, f4, d4, s4, l4, c3, c5⟩ := ih f (i + 1) h3 k2 (N2 ++ Nw) F2 Q2 _ _ (by omega) (by omega) K3 M3 E2 (J.mono X12) (Pa.mono X12) (G.mono X12) PA3 nFa2 (by rw [s3]; omega) AB3 kb2 nFb2 (by rw [s3]; omega) (fun j e hj he => by
        unfold upI
        by_cases qj : j = i
        · subst qj
          rw [p3] at he
          cases he
          exact ⟨q, by rw [if_pos rfl], R2⟩
        · obtain ⟨x, y, z⟩ := fil j e (by omega) he
          exact ⟨x, by rw [if_neg (by omega)]; exact y, fun m hm => (z m hm).mono X12⟩) hst (fun e he => by
        rcases List.mem_append.mp he with w | w
        · obtain ⟨c', p', x1, x2, x3, x4⟩ := s2.sub ot p1 e w
          exact ⟨c', p', x1, by omega, x3, x4⟩
        · exact hs e w) (by rw [List.length_append, i2]; omega)
    refine ⟨q4, h4, k4, N4, F4, Q4, ?_, X12.trans X4, K4, M4, E4, R4, ?_, fun x hx hne => ?_, s4, l4, ?_, ?_⟩
    · rw [fX0_proved_L173_s]
      unfold fX0_proved_b173 fX0_proved_b237
      obtain ⟨_, _, _, ⟨-, -, -, -, -, r5', -⟩, -, -⟩ := (Pa.mono K.ext).rd okx.k
      rw [r5', bd_s, if_neg (by omega), nwS_e, bd_s]
      dsimp only
      rw [r3, bd_s, rc, bd_s, r4, bd_s, rv, bd_s, Ap.q (by omega) (by omega), bd_s, fe, e1, bd_s, e2, bd_s]
      dsimp only
      rw [e3, bd_s, wr_id (x := (i : Int) + 1) (by omega) (by omega)]
      by_cases o1 : o = 1
      · rw [if_neg (by simpa using o1), AB3.q (by omega) (by omega), bd_s]
        rw [show upI fa (i : Int) (some q) (i : Int) = some q by simp [upI], oq, bd_s]
        rw [if_pos o1] at e4
        exact e4
      · rw [if_pos o1]
        rw [if_neg o1] at e4
        exact e4
    · have a1 : frx h1 h3 F F2 pb := ⟨fun x hx => f2.1 x hx, fun x hx hl hne => by rw [o3 x hne, f2.2.1 x hx hl], by rw [s3]; exact f2.2.2⟩
      have a2 : frx h h3 F F2 pb := frx.pre (fr.ofol O1) a1
      refine ⟨fun x hx => ?_, fun x hx hl hne => ?_, Nat.le_trans a2.2.2 f4.2.2⟩
      · rcases f4.1 x hx with w | w
        · exact a2.1 x w
        · right; have := a2.2.2; omega
      · have := a2.2.2
        rw [f4.2.1 x (fun w => by rcases a2.1 x w with z | z; exact hx z; omega) (by omega) hne, a2.2.1 x hx hl hne]
    · rw [d4 x (by rw [s3]; omega) hne, d2 x (by omega), d1 x hx]
    · rw [List.length_append] at c3
      have := O1.2.2.1
      rw [s3] at c3
      omega
    · rw [List.length_append] at c5
      have := O1.2.2.2
      rw [s3] at c5
      omega

set_option maxRecDepth 100000
/-! PURE: class DictProof: a goal is proved -/
def prR (I : List Ist) (U : Tm → Prop) (mp : Nat) (k h : hS) (E : List En) (F : Nat → Prop) (Q : Nat) (c : Int) (t : Tm) (Z : Option (Option Nat × hS)) : Prop :=
  ∃ q h' k' Nw F' Q', Z = some (some q, h') ∧ ext k k' ∧ Kp k' h' F' ∧ HM 32768 h' mp (Nw ++ E) F' Q' ∧ EOK k' I U (Nw ++ E) ∧ (∀ m, szT t ≤ m → isP k' I m q c t) ∧ fr h h' F F' ∧ (∀ a, a < h.2.1 → k'.1 a = k.1 a) ∧ sbK t 1 Nw ∧ Nw.length + 2 ≤ 2 ^ szT t ∧ h'.2.1 + Q' ≤ h.2.1 + Q + 15 * Nw.length + 11 ∧ h'.2.2 + 4 * Q' ≤ h.2.2 + 4 * Q + 60 * Nw.length + 44
theorem two_le {t : Tm} : 2 ≤ 2 ^ szT t := by
  have := szT_pos t
  have := Nat.pow_le_pow_right (n := 2) (by omega) this
  simpa using this
theorem prR.simple {I : List Ist} {U : Tm → Prop} {mp : Nat} {k h h1 : hS} {E : List En} {F : Nat → Prop} {Q g : Nat} {c o : Int} {t : Tm} (K : Kp k h F) (M : HM 32768 h mp E F Q) (hE : EOK k I U E) (O1 : ol h h1 6)
    (iP : ∀ (k' : hS) (q : Nat), ext k k' → k'.1 q = some (.inl (10, [vq (some g), vi o, vq none, vq none])) → ∀ m, szT t ≤ m → isP k' I m q c t) :
    prR I U mp k h E F Q c t (bd (nwS h1 10 [vq none, vi 0, vq none, vq none]) fun p4 => bd (fX10_init p4.2 (some p4.1) (some g) o none none) fun p7 => some ((some p4.1), p7)) := by
  obtain ⟨h', k', e, X, K', ep, O, dk⟩ := p_newProof (K.ol O1) (some g) o none none
  have O2 := O1.trans O (Nat.le_refl _)
  rw [nwS_e, bd_s]
  dsimp only
  rw [e, bd_s]
  refine ⟨_, h', k', [], F, Q, rfl, X, K', M.ol K.2 O2, hE.mono X, iP k' _ X ep, fr.ofol O2, fun a ha => dk a (by have := O1.1; omega), (fun e he => by cases he), by have := two_le (t := t); simpa using this, ?_, ?_⟩
  · have := O2.2.2.1; simp only [List.length_nil]; omega
  · have := O2.2.2.2; simp only [List.length_nil]; omega
theorem p_prove {s : Sg} {I : List Ist} {U : Tm → Prop} {mp n : Nat} (hU : UOK U) (hn : n ≤ 4) (hI9 : ∀ i, i < I.length → okI n (ig I i)) (S : Spc0 s I) :
    ∀ (d : Nat) (t : Tm) (c : Int) (k h : hS) (E : List En) (F : Nat → Prop) (Q g : Nat), szT t ≤ d → U t → (0 ≤ c ∧ c < (n : Int)) → Kp k h F → HM 32768 h mp E F Q → EOK k I U E → Ins0 s k n I → isG k g c t → E.length + 2 ^ szT t ≤ 24576 → prvR I U mp k h E F Q c t (fX0_prove d (some mp) s h (some g)) := by
  intro d
  induction d with
  | zero => intro t c k h E F Q g hd; have := szT_pos t; omega
  | succ d ih =>
    intro t c k h E F Q g hd ht hc K M hE J G hcap
    obtain ⟨ot, h9⟩ := hU.1 t ht
    have hc4 : 0 ≤ c ∧ c < 4 := ⟨hc.1, by omega⟩
    have two := two_le (t := t)
    have cM : ∀ {h : hS} {E : List En} {F : Nat → Prop} {Q : Nat}, HM 32768 h mp E F Q → hC h (some mp) = some 11 := by
      rintro h E F Q ⟨_, _, _, _, M, -⟩
      exact MO.c M
    show prvR I U mp k h E F Q c t (fX0_prove_B (fX0_prove d) (some mp) s h (some g))
    unfold fX0_prove_B fX0_prove_b32
    rw [gd_t (cM M)]
    rcases p_asked (by omega) K hU hE M hc4 ht G with ⟨e0, hno⟩ | ⟨p, e0, P⟩
    · rw [e0, bd_s, gd_t (Or.inl rfl)]
      simp only [ifN]
      -- what is proved
      have main : prR I U mp k h E F Q c t (fX0_proved (fX0_prove d) (some mp) s h (some g)) := by
        obtain ⟨b, eg, T⟩ := G
        obtain ⟨g0, g1, -, -⟩ := rdG (K.ext _ _ eg)
        unfold fX0_proved
        rw [g1, bd_s, gd_t (T.mono K.ext).c, p_variable (T.mono K.ext) ot, bd_s]
        cases hv : isV t with
        | true =>
          rw [if_neg (fun q => by have := (vr_v ot).mp q; rw [hv] at this; cases this)]
          refine prR.simple K M hE ((ol.refl h).mono (by omega)) (fun k' q X ep m hm => ?_)
          obtain ⟨m, rfl⟩ : ∃ x, m = x + 1 := ⟨m - 1, by have := szT_pos t; omega⟩
          exact ⟨g, isG.mono X ⟨b, eg, T⟩, Or.inl ⟨hv, ep⟩⟩
        | false =>
          rw [if_pos ((vr_v ot).mpr hv)]
          have l6 := J.2.1
          obtain ⟨h1, O1, e1⟩ := p_meantAll J (⟨b, eg, T⟩ : isG k g c t) ot h9 (fX0_prove d) (some mp) I.length FU 0 h K (by unfold FU; omega) (by omega)
          have e1 : fX0_proved_L27 (fX0_prove d) FU (some mp) s h (some g) 0 0 = _ := e1
          rw [e1]
          have O1 := O1.mono l6
          have K1 := K.ol O1
          obtain ⟨t1, t2, t3⟩ := p_take (J.mono K1.ext) S (g := g) (c := c) (t := t) (fX0_prove d) (some mp)
          have bad : (tk I c t = -1 ∨ tk I c t = -2) → ∀ o, o = rS (res I c t) → prR I U mp k h E F Q c t (bd (nwS h1 10 [vq none, vi 0, vq none, vq none]) fun p4 => bd (fX10_init p4.2 (some p4.1) (some g) o none none) fun p7 => some ((some p4.1), p7)) := by
            intro hk o ho
            refine prR.simple K M hE O1 (fun k' q X ep m hm => ?_)
            obtain ⟨m, rfl⟩ : ∃ x, m = x + 1 := ⟨m - 1, by have := szT_pos t; omega⟩
            exact ⟨g, isG.mono X ⟨b, eg, T⟩, Or.inr (Or.inl ⟨hv, hk, by rw [← ho]; exact ep⟩)⟩
          have rb := res_eq hI9 ot (c := c)
          rw [if_neg (by rw [hv]; simp)] at rb
          rcases tk_cases I c t with hk | hk | ⟨kk, hk⟩
          · rw [t1 hk]
            exact bad (Or.inl hk) 0 (by rw [rb, if_pos hk]; rfl)
          · rw [t2 hk]
            unfold fX0_proved_b116
            simp only [ifN]
            exact bad (Or.inr hk) (-2) (by rw [rb, if_neg (by omega), if_pos hk]; rfl)
          · rw [t3 kk hk]
            obtain ⟨hkk, hmt⟩ := tk_ge hk
            obtain ⟨okx, a, ea, Pa⟩ := J.2.2 kk hkk
            obtain ⟨-, -, -, hfit⟩ := mt_o hmt
            obtain ⟨bn, hb⟩ := Option.isSome_iff_exists.mp hfit
            have oh : okT (iH (ig I kk)) := okx.2.2.1
            have hz : szT (iH (ig I kk)) ≤ 5 := okx.2.2.2.1
            have l2 : (iC (ig I kk)).length ≤ 2 := okx.2.2.2.2.1
            have hpl : (prts I kk t).length = (iC (ig I kk)).length := (prts_lt hI9 ot hk).1
            obtain ⟨hd, ca, va, fc, fv, ep, Th, -⟩ := id Pa
            obtain ⟨h2, e2, O2, p2⟩ := p_fitNew K1 oh ot (by omega) h9 Th T
            have K1' := K1.ol (ol_nwQ h1 4 2 (by omega))
            obtain ⟨-, -, q2, -, -, -, -, -⟩ := rdI_c okx.k.c (K1'.ext _ _ ep)
            obtain ⟨-, gq, -, -⟩ := rdG (K1'.ext _ _ eg)
            have K2 := K1.ol O2
            obtain ⟨-, -, -, -, -, q5, -, -⟩ := rdI_c okx.k.c (K2.ext _ _ ep)
            have PA := p2 bn hb
            have O3 := ol_nwQ h2 5 (prts I kk t).length (by omega)
            have K3 := K2.ol O3
            have lO1 := O1.1
            have lO2 := O2.1
            have lO3 := O3.1
            have pa2 : h1.2.1 < h2.2.1 := by
              obtain ⟨f', A', -⟩ := PA
              rcases Nat.lt_or_ge h1.2.1 h2.2.1 with w | w
              · exact w
              · exfalso
                have : h2.2.1 = h1.2.1 := by omega
                obtain ⟨h9', e9', s9⟩ : ∃ h9 : hS, fX0_isFitting 16 (nwQ h1 4 2) (some hd) (some b) (some h1.2.1) = some (bI (fits (iH (ig I kk)) t), h9) ∧ h9.2 = (nwQ h1 4 2).2 := by
                  obtain ⟨hh, ee, oo, ss, -⟩ := p_fitting (K1.nk (Nat.le_refl _)) (iH (ig I kk)) t 16 (nwQ h1 4 2) bd0 hd b oh ot h9 (by have := dpT_le _ oh; omega) K1'.ext Th T (putA_new k h1)
                  exact ⟨hh, ee, ss⟩
                rw [e2] at e9'
                cases e9'
                rw [s9] at this
                have : h1.2.1 + 1 = h1.2.1 := this
                omega
            obtain ⟨q, h4, k4, N4, F4, Q4, e4, X4, K4, M4, E4, R4, f4, d4, s4, l4, c1, c2⟩ := p_parts (R9 := fX0_prove d) (g := g) (a := a) (pa := h1.2.1) (pb := h2.2.1) (E := E) hU ht hn hI9 hk hv hb hcap (by omega)
              (fun u c' k h E F Q g' hu hz hc' K M hE J G hcap' => ih u c' k h E F Q g' (by omega) hu hc' K M hE J G hcap')
              (prts I kk t).length FU 0 (nwQ h2 5 (prts I kk t).length) k [] F Q (fun _ => none) 1 (by unfold FU; omega) (by omega) K3 ((M.ol K.2 (O1.trans O2 (Nat.le_refl _))).ol K2.2 O3) hE J Pa ⟨b, eg, T⟩ (PA.up (nwQ_ne h2 5 _ (by omega)))
              (fun w => by have := K.2 _ w; omega) (by omega) (nwQ_at h2 5 _) (K2.nk (Nat.le_refl _)) (fun w => by have := K2.2 _ w; omega) (by show h2.2.1 < h2.2.1 + 1; omega) (fun j e hj => by omega)
              (by
                rw [rb, if_neg (by omega), if_neg (by omega), hk]
                simp only [List.drop_zero, Int.toNat_natCast]
                rfl) (fun e he => by cases he) (by simp)
            have w1 : 0 < 2 ^ (szT t - 1) := Nat.pow_pos (by omega)
            have w2 : 2 ^ szT t = 2 ^ (szT t - 1) + 2 ^ (szT t - 1) := by
              have := szT_pos t
              have e : szT t = (szT t - 1) + 1 := by omega
              rw [e, Nat.pow_succ]; simp; omega
            have l3 : N4.length + 2 ≤ 2 ^ szT t := by
              have : (prts I kk t).length ≤ 2 := by omega
              generalize (prts I kk t).length = L at *
              rcases (show L = 0 ∨ L = 1 ∨ L = 2 by omega) with w | w | w <;> subst w <;> omega
            refine ⟨q, h4, k4, N4, F4, Q4, ?_, X4, K4, M4, E4, R4, ?_, fun x hx => d4 x (by show x < h2.2.1 + 1; omega) (by omega), s4, l3, ?_, ?_⟩
            · unfold fX0_proved_b116
              rw [ea]
              simp only [ifN]
              rw [nwQ_2 h1 4 (by omega) (by omega), bd_s]
              simp only [Int.reduceToNat]
              rw [q2, bd_s, gq, bd_s, e2, bd_s]
              dsimp only
              rw [q5, bd_s, nwQ_2 h2 5 (by omega) (by omega), bd_s]
              simp only [Int.toNat_natCast]
              rw [← hpl]
              exact e4
            · have a1 : fr h (nwQ h2 5 (prts I kk t).length) F F := fr.ofol (O1.trans (O2.trans O3 (Nat.le_refl _)) (Nat.le_refl _))
              refine ⟨fun x hx => ?_, fun x hx hl => ?_, Nat.le_trans a1.2.2 f4.2.2⟩
              · rcases f4.1 x hx with w | w
                · exact Or.inl w
                · right; have := a1.2.2; omega
              · rw [f4.2.1 x hx (by show x < h2.2.1 + 1; omega) (by omega), a1.2.1 x hx hl]
            · have a := O1.2.2.1
              have b := O2.2.2.1
              have c1' : h4.2.1 + Q4 + 15 * 0 ≤ (h2.2.1 + 1) + Q + 15 * N4.length + (prts I kk t).length + 1 := c1
              omega
            · have a := O1.2.2.2
              have b := O2.2.2.2
              have c2' : h4.2.2 + 4 * Q4 + 60 * 0 ≤ (h2.2.2 + (prts I kk t).length) + 4 * Q + 60 * N4.length + 4 * (prts I kk t).length + 4 := c2
              omega
      obtain ⟨q, h1, k1, N1, F1, Q1, e1, X1, K1, M1, E1, R1, f1, d1, s1, l1, c1, c2⟩ := main
      rw [e1, bd_s, gd_t (cM M1)]
      have nin : ∀ e, e ∈ N1 ++ E → e.1 ≠ spH (hhG c t) := by
        intro e he
        rcases List.mem_append.mp he with w | w
        · obtain ⟨c', p, hc', p1, p2, e2⟩ := s1 e w
          intro q
          rw [e2] at q
          obtain ⟨-, w2⟩ := hU.2.2 c' c (sub t p) t hc' hc4 (hU.2.1 t p ht p2) ht (spH_inj (hhG_r _ _) (hhG_r _ _) q)
          have := sub_lt ot p2 p1
          rw [w2] at this
          omega
        · exact hno e w
      obtain ⟨h2, F2, Q2, e2, M2, f2, c3, c4⟩ := pH_put (kN := 15) (v := some q) M1 rfl (by omega) (by omega) (p_hashG ((G.mono X1).mono K1.ext) (by have := dpT_le t ot; omega)) (spH_r _) (E1.ke K1 hU hc4 ht (G.mono X1)) (by rw [List.length_append]; omega)
      rw [putE_n nin] at M2 c3 c4
      have Fl2 : ∀ a, F2 a → a < h2.2.1 := by obtain ⟨_, _, _, _, _, _, Fl, -⟩ := M2; exact Fl
      rw [e2, bd_s]
      refine ⟨q, h2, k1, (spH (hhG c t), some g, some q) :: N1, F2, Q2, rfl, X1, K1.frm f2 Fl2, M2, fun e he => ?_, R1, f1.trans f2, d1, fun e he => ?_, ?_, ?_, ?_⟩
      · rcases List.mem_cons.mp he with rfl | he
        · exact ⟨c, t, g, q, hc4, ht, rfl, G.mono X1, R1⟩
        · exact E1 e he
      · rcases List.mem_cons.mp he with rfl | he
        · exact ⟨c, 0, hc4, by omega, szT_pos t, by rw [sub_0]⟩
        · exact (s1.mono (by omega)) e he
      · simp only [List.length_cons]; omega
      · simp only [List.length_cons] at c3 ⊢; omega
      · simp only [List.length_cons] at c4 ⊢; omega
    · have Pc := (P (szT t) (Nat.le_refl _)).mono K.ext
      rw [e0, bd_s, gd_t (Or.inr Pc.c.2)]
      simp only [ifN]
      exact ⟨p, h, k, [], F, Q, rfl, ext.refl k, K, M, hE, P, fr.ofol (ol.refl h), fun _ _ => rfl, (fun e he => by cases he), by simp only [List.length_nil]; omega, by simp, by simp⟩

