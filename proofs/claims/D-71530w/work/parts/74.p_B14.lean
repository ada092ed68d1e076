/-! the pure laws: B14 B15 C4 B16 -/
set_option maxRecDepth 100000
/-! PURE: the model's answers on instances -/
theorem p6_instancesOf {s : Sg} {n : Nat} {I : List Ist} (hI : Ins6 s n I) (c : Int) : fX6_instancesOf s c = some ((instOf I c : Nat) : Int) := by
  have h6 := hI.2.2.2.1
  refine loopE (fun f k x => fX6_instancesOf_L4 f s c x k) I.length (fun k => ((cntN (fun i => decide (iO (ig I i) = c)) k : Nat) : Int)) _ ?_ ?_ (by unfold FU; omega)
  · intro f k hk
    have hle := cntN_le (fun i => decide (iO (ig I i) = c)) k
    obtain ⟨g1, g2, g3, g4, g5, g6⟩ := hI.2.2.2.2 k hk
    show fX6_instancesOf_L4 (f + 1) s c _ k = fX6_instancesOf_L4 f s c _ ((k + 1 : Nat) : Int)
    rw [fX6_instancesOf_L4_s, fX6_instancesOf_b4, hI.2.2.1, if_neg (by omega), gd_t (by omega), g4, cntN_s]
    unfold fX6_instancesOf_b28
    rw [wr_id (x := (k : Int) + 1) (by omega) (by omega)]
    by_cases e : iO (ig I k) = c
    · rw [if_neg (by simp [e]), wr_id (by omega) (by omega)]; simp [e, bI]
    · rw [if_pos e, wr_id (by omega) (by omega)]; simp [e, bI]
  · intro f
    show fX6_instancesOf_L4 (f + 1) s c _ (I.length : Int) = _
    rw [fX6_instancesOf_L4_s, fX6_instancesOf_b4, hI.2.2.1, if_pos (by omega)]; rfl
theorem p6_unsound {s : Sg} {n : Nat} {I : List Ist} (hI : Ins6 s n I) : fX6_unsound s = some ((unsnd I : Nat) : Int) := by
  have h6 := hI.2.2.2.1
  refine loopE (fun f k x => fX6_unsound_L4 f s x k) I.length (fun k => ((cntN (fun i => !snd9 (ig I i)) k : Nat) : Int)) _ ?_ ?_ (by unfold FU; omega)
  · intro f k hk
    have hle := cntN_le (fun i => !snd9 (ig I i)) k
    show fX6_unsound_L4 (f + 1) s _ k = fX6_unsound_L4 f s _ ((k + 1 : Nat) : Int)
    rw [fX6_unsound_L4_s, fX6_unsound_b4, hI.2.2.1, if_neg (by omega), p6_isSound hI hk, bd_s, cntN_s, bI_b]
    unfold fX6_unsound_b26
    rw [wr_id (x := (k : Int) + 1) (by omega) (by omega), wr_id (by omega) (by omega), wr_id (by omega) (by omega)]
    cases snd9 (ig I k) <;> simp [bI]
  · intro f
    show fX6_unsound_L4 (f + 1) s _ (I.length : Int) = _
    rw [fX6_unsound_L4_s, fX6_unsound_b4, hI.2.2.1, if_pos (by omega)]; rfl
theorem Slt6.le {s : Sg} {k3 k4 : Nat} {S : Nat → Option Tm} (h : Slt6 s k3 k4 S) {k : Nat} (hk : k < 4) : (gA s k4 (k : Int) ≤ 0) ↔ (S k).isSome = false := by
  have := h k hk
  revert this
  cases S k with
  | none => intro q; simp at q ⊢; omega
  | some t => rintro ⟨q, -⟩; have := szT_pos t; simp at q ⊢; omega
theorem p6_filled {s : Sg} {S : Nat → Option Tm} (h : Slt6 s 13 14 S) : fX6_filled s = some ((filldN S : Nat) : Int) := by
  refine loopE (fun f k x => fX6_filled_L4 f s x k) 4 (fun k => ((cntN (fun k => (S k).isSome) k : Nat) : Int)) _ ?_ ?_ (by unfold FU; omega)
  · intro f k hk
    have hle := cntN_le (fun k => (S k).isSome) k
    have := h.le hk
    show fX6_filled_L4 (f + 1) s _ k = fX6_filled_L4 f s _ ((k + 1 : Nat) : Int)
    rw [fX6_filled_L4_s, fX6_filled_b4, if_neg (by omega), gd_t (by omega), cntN_s]
    unfold fX6_filled_b24
    rw [wr_id (x := (k : Int) + 1) (by omega) (by omega), wr_id (by omega) (by omega), wr_id (by omega) (by omega)]
    cases hS : (S k).isSome <;> simp [hS] at this <;> simp [bI, this]
    omega
  · intro f
    show fX6_filled_L4 (f + 1) s _ ((4 : Nat) : Int) = _
    rw [fX6_filled_L4_s, fX6_filled_b4, if_pos (by omega)]; rfl
theorem p6_isSlotLike_L {s : Sg} {t u : Tm} {k e : Nat} (hk : k < 4) (he : e < 4) (h9 : szT t ≤ 9) (hz : szT t = szT u) (k1 : gA s 14 (k : Int) = (szT t : Int)) (k2 : ∀ p : Nat, p < szT t → gA s 13 (9 * (k : Int) + p) = ltr t p) (e2 : ∀ p : Nat, p < szT u → gA s 13 (9 * (e : Int) + p) = ltr u p) : ∀ (m f j : Nat), m < f → m + j = szT t →
    fX6_isSlotLike_L24 f s k e (bI (allN (fun p => decide (ltr t p = ltr u p)) j)) j = some (bI (allN (fun p => decide (ltr t p = ltr u p)) (szT t))) := by
  intro m
  induction m with
  | zero =>
    intro f j hf hj
    obtain ⟨f, rfl⟩ : ∃ k, f = k + 1 := ⟨f - 1, by omega⟩
    rw [fX6_isSlotLike_L24_s, fX6_isSlotLike_b24, gd_t (by omega), k1, if_pos (by omega), fX6_isSlotLike_b78, gd_t bI_or, show j = szT t by omega]
  | succ m ih =>
    intro f j hf hj
    obtain ⟨f, rfl⟩ : ∃ k, f = k + 1 := ⟨f - 1, by omega⟩
    have ih' := ih f (j + 1) (by omega) (by omega)
    rw [show ((j + 1 : Nat) : Int) = (j : Int) + 1 by omega, allN_s] at ih'
    rw [fX6_isSlotLike_L24_s, fX6_isSlotLike_b24, gd_t (by omega), k1, if_neg (by omega), wr9 hk (by omega), wr9 he (by omega), gd_t (by omega), gd_t (by omega), k2 j (by omega), e2 j (by omega)]
    unfold fX6_isSlotLike_b71
    rw [wr_id (by omega) (by omega)]
    cases hA : allN (fun p => decide (ltr t p = ltr u p)) j
    · rw [if_pos (by simp [bI]), fX6_isSlotLike_b78, gd_t bI_or]
      congr 1
      have : allN (fun p => decide (ltr t p = ltr u p)) (szT t) = false := by
        cases hB : allN (fun p => decide (ltr t p = ltr u p)) (szT t)
        · rfl
        · exfalso
          have : allN (fun p => decide (ltr t p = ltr u p)) j = true := allN_iff.mpr fun i hi => allN_iff.mp hB i (by omega)
          rw [hA] at this; cases this
      rw [this]
    · rw [if_neg (by simp [bI])]
      rw [hA] at ih'
      by_cases hh : ltr t j = ltr u j
      · rw [if_neg (by simp [hh])]
        simp [hh, bI] at ih' ⊢
        exact ih'
      · rw [if_pos hh]
        simp [hh, bI] at ih' ⊢
        exact ih'
theorem p6_isSlotLike {s : Sg} {S : Nat → Option Tm} (hS : okSl S) (h : Slt6 s 13 14 S) {k e : Nat} (hk : k < 4) (he : e < 4) (hf : (S k).isSome = true) : fX6_isSlotLike s k e = some (bI (likeS S k e)) := by
  obtain ⟨t, ht⟩ := Option.isSome_iff_exists.mp hf
  obtain ⟨ot, zt⟩ := hS k hk t ht
  have hkk := h k hk
  have hee := h e he
  rw [ht] at hkk
  obtain ⟨k1, k2⟩ := hkk
  have pt := szT_pos t
  unfold fX6_isSlotLike fX6_isSlotLike_b20
  rw [gd_t (by omega), gd_t (by omega), k1]
  have stop : ∀ v : Int, v = 0 → fX6_isSlotLike_L24 FU s k e v 0 = some 0 := by
    intro v hv
    rw [show FU = 99999 + 1 from rfl, fX6_isSlotLike_L24_s, fX6_isSlotLike_b24, gd_t (by omega), hv]
    unfold fX6_isSlotLike_b78
    split
    · rw [gd_t (by simp)]
    · rw [if_pos rfl, gd_t (by simp)]
  cases hse : S e with
  | none =>
    rw [hse] at hee
    simp only at hee
    rw [hee, if_pos (by omega), stop 0 rfl]
    simp [likeS, ht, hse, bI]
  | some u =>
    rw [hse] at hee
    obtain ⟨e1, e2⟩ := hee
    obtain ⟨ou, zu⟩ := hS e he u hse
    rw [e1]
    by_cases hz : szT t = szT u
    · rw [if_neg (by omega)]
      have := p6_isSlotLike_L hk he zt hz k1 k2 e2 (szT t) FU 0 (by unfold FU; omega) (by omega)
      rw [show ((0 : Nat) : Int) = 0 from rfl] at this
      refine Eq.trans this ?_
      congr 2
      unfold likeS
      rw [ht, hse, Bool.eq_iff_iff, allN_iff]
      simp only [Option.map_some, Option.some.injEq, decide_eq_true_eq]
      constructor
      · intro q; rw [flat_eq ot ou]; exact ltr_ext ot ou hz q
      · intro q i _; unfold ltr; rw [q]
    · rw [if_pos (by omega), stop 0 rfl]
      have : flat t ≠ flat u := fun q => hz (by rw [(flat_eq ot ou).mp q])
      simp [likeS, ht, hse, bI, this]
theorem p6_differentTypes_L27 {s : Sg} {S : Nat → Option Tm} (hS : okSl S) (h : Slt6 s 13 14 S) {K : Sg → Int → Int → Option Int} {x : Nat} {k : Nat} (hk : k < 4) (hx : x ≤ k) :
    fX6_differentTypes_L27 K FU s x k (bI (S k).isSome) 0 = K s ((x : Int) + bI ((S k).isSome && allN (fun e => !likeS S k e) k)) ((k : Int) + 1) := by
  have := loopE (fun f e v => fX6_differentTypes_L27 K f s x k v e) k (fun e => bI ((S k).isSome && allN (fun e => !likeS S k e) e)) (K s ((x : Int) + bI ((S k).isSome && allN (fun e => !likeS S k e) k)) ((k : Int) + 1)) ?_ ?_ (by unfold FU; omega)
  · have e0 : ((S k).isSome && allN (fun e => !likeS S k e) 0) = (S k).isSome := by simp [allN]
    rw [e0] at this
    exact this
  · intro f e he
    show fX6_differentTypes_L27 K (f + 1) s x k _ e = fX6_differentTypes_L27 K f s x k _ ((e + 1 : Nat) : Int)
    rw [fX6_differentTypes_L27_s, fX6_differentTypes_b27, if_neg (by omega), allN_s]
    unfold fX6_differentTypes_b51 fX6_differentTypes_b52
    rw [wr_id (by omega) (by omega), show ((e + 1 : Nat) : Int) = (e : Int) + 1 by omega]
    cases hs : (S k).isSome
    · simp [bI]
    · rw [p6_isSlotLike hS h hk (by omega) hs, bd_s]
      cases allN (fun e => !likeS S k e) e <;> cases likeS S k e <;> simp [bI]
  · intro f
    show fX6_differentTypes_L27 K (f + 1) s x k _ k = _
    rw [fX6_differentTypes_L27_s, fX6_differentTypes_b27, if_pos (by omega)]
    unfold fX6_differentTypes_b69
    rw [wr_id (x := (k : Int) + 1) (by omega) (by omega), wr_id (by omega) (by omega), wr_id (by omega) (by omega)]
    cases (S k).isSome && allN (fun e => !likeS S k e) k <;> simp [bI]
theorem p6_differentTypes {s : Sg} {S : Nat → Option Tm} (hS : okSl S) (h : Slt6 s 13 14 S) : fX6_differentTypes s = some ((diffT S : Nat) : Int) := by
  refine loopE (fun f k x => fX6_differentTypes_L4 f s x k) 4 (fun k => ((cntN (fun k => (S k).isSome && allN (fun e => !likeS S k e) k) k : Nat) : Int)) _ ?_ ?_ (by unfold FU; omega)
  · intro f k hk
    have hle := cntN_le (fun k => (S k).isSome && allN (fun e => !likeS S k e) k) k
    have := h.le hk
    show fX6_differentTypes_L4 (f + 1) s _ k = fX6_differentTypes_L4 f s _ ((k + 1 : Nat) : Int)
    rw [fX6_differentTypes_L4_s, fX6_differentTypes_b4, if_neg (by omega), gd_t (by omega), cntN_s]
    unfold fX6_differentTypes_b23
    have hL := p6_differentTypes_L27 hS h (K := fX6_differentTypes_L4 f) (x := cntN (fun k => (S k).isSome && allN (fun e => !likeS S k e) k) k) hk hle
    rw [show ((k + 1 : Nat) : Int) = (k : Int) + 1 by omega, ← hL]
    cases hs : (S k).isSome
    · rw [if_pos (this.mpr hs)]; rfl
    · rw [if_neg (fun q => by rw [this.mp q] at hs; cases hs)]; rfl
  · intro f
    show fX6_differentTypes_L4 (f + 1) s _ ((4 : Nat) : Int) = _
    rw [fX6_differentTypes_L4_s, fX6_differentTypes_b4, if_pos (by omega)]; rfl
theorem p6_could {kd w : Nat} : fX6_could kd w = some (bI (cld kd w)) := by
  unfold fX6_could fX6_could_b38 fX6_could_b49 fX6_could_b59 fX6_could_b64 fX6_could_b74 fX6_could_b79 cld bI gd
  by_cases w0 : w = 0
  · subst w0; by_cases e : kd = 3
    · subst e; rfl
    · simp [e]; omega
  · rw [if_neg (by omega), if_neg w0]
    by_cases w1 : w = 1
    · subst w1; by_cases e : kd = 2
      · subst e; rfl
      · simp [e]; omega
    · rw [if_neg (by omega), if_neg w1]
      by_cases w2 : w = 2
      · subst w2; by_cases e : kd = 0
        · subst e; rfl
        · by_cases e3 : kd = 3
          · subst e3; rfl
          · simp [e, e3]; omega
      · rw [if_neg (by omega), if_neg w2]
        by_cases e : kd = 0
        · subst e; rfl
        · by_cases e3 : kd = 4
          · subst e3; rfl
          · simp [e, e3]; omega
theorem p6_sorts_L15 {s : Sg} {E : List (Nat × Nat × Bool)} (hE : E.length ≤ 6) (h : Sn6 s 15 16 17 18 E) {i kd : Nat} {b : Int} {K : Sg → Int → Int → Int → Option Int} (hk : kd < 5) :
    fX6_sortsOf_L15 K FU s i b kd 1 0 = K s i (ior b (if E.all (sOK1 i kd) = true then ishl 1 (kd : Int) else 0)) ((kd : Int) + 1) := by
  have := loopE (fun f j v => fX6_sortsOf_L15 K f s i b kd v j) E.length (fun j => bI ((E.take j).all (sOK1 i kd))) (K s i (ior b (if E.all (sOK1 i kd) = true then ishl 1 (kd : Int) else 0)) ((kd : Int) + 1)) ?_ ?_ (by unfold FU; omega)
  · exact this
  · intro f j hj
    show fX6_sortsOf_L15 K (f + 1) s i b kd _ j = fX6_sortsOf_L15 K f s i b kd _ ((j + 1 : Nat) : Int)
    obtain ⟨a1, a2, a3⟩ := h.2 j E[j] (List.getElem?_eq_getElem hj)
    have ht : (E.take (j + 1)).all (sOK1 i kd) = ((E.take j).all (sOK1 i kd) && sOK1 i kd E[j]) := by
      rw [List.take_succ, List.getElem?_eq_getElem hj, List.all_append]; simp only [Option.toList, List.all_cons, List.all_nil, Bool.and_true]
    rw [fX6_sortsOf_L15_s, fX6_sortsOf_b15, h.1, if_neg (by omega), ht]
    unfold fX6_sortsOf_b70 fX6_sortsOf_b74 fX6_sortsOf_b67 fX6_sortsOf_b70 fX6_sortsOf_b74 fX6_sortsOf_b75
    rw [wr_id (by omega) (by omega), gd_t (by omega), gd_t (by omega), a1, a2, p6_could, bd_s, gd_t (by omega), a3, show ((j + 1 : Nat) : Int) = (j : Int) + 1 by omega, bI_b]
    have hs1 : sOK1 i kd E[j] = (!decide (E[j].1 = i) || (cld kd E[j].2.1 == E[j].2.2)) := rfl
    rw [hs1]
    by_cases e : E[j].1 = i
    · rw [if_neg (show ¬ ¬ (E[j].1 : Int) = (i : Int) by omega)]
      cases (E.take j).all (sOK1 i kd) <;> cases E[j].2.2 <;> cases cld kd E[j].2.1 <;> simp [bI, e]
    · rw [if_pos (show ¬ (E[j].1 : Int) = (i : Int) by omega)]
      cases (E.take j).all (sOK1 i kd) <;> simp [bI, e]
  · intro f
    show fX6_sortsOf_L15 K (f + 1) s i b kd _ (E.length : Int) = _
    rw [fX6_sortsOf_L15_s, fX6_sortsOf_b15, h.1, if_pos (by omega), List.take_length]
    unfold fX6_sortsOf_b96
    rw [wr_id (by omega) (by omega)]
    cases E.all (sOK1 i kd) <;> simp [bI]
theorem p6_sortsOf {s : Sg} {E : List (Nat × Nat × Bool)} (hE : E.length ≤ 6) (h : Sn6 s 15 16 17 18 E) (i : Nat) : fX6_sortsOf s i = some ((srt E i : Nat) : Int) := by
  refine loopE (fun f k x => fX6_sortsOf_L4 f s i x k) 5 (fun k => ((bitsOf (fun kd => E.all (sOK1 i kd)) k : Nat) : Int)) _ ?_ ?_ (by unfold FU; omega)
  · intro f k hk
    show fX6_sortsOf_L4 (f + 1) s i _ k = fX6_sortsOf_L4 f s i _ ((k + 1 : Nat) : Int)
    rw [fX6_sortsOf_L4_s, fX6_sortsOf_b4, if_neg (by omega), p6_sorts_L15 hE h hk, ← ior_bit (by omega), show ((k + 1 : Nat) : Int) = (k : Int) + 1 by omega]
  · intro f
    show fX6_sortsOf_L4 (f + 1) s i _ ((5 : Nat) : Int) = _
    rw [fX6_sortsOf_L4_s, fX6_sortsOf_b4, if_pos (by omega)]; rfl

set_option maxRecDepth 100000
/-! PURE: the model's answers on instances -/
theorem srt_lt (E : List (Nat × Nat × Bool)) (i : Nat) : srt E i < 32 := bitsOf_lt _ _
theorem askR_ok (B : Nat) (w : Nat) : (-1 ≤ (askR B w).1 ∧ (askR B w).1 < (w : Int)) ∧ (0 ≤ (askR B w).2 ∧ (askR B w).2 ≤ 268435456) := by
  induction w with
  | zero => simp [askR]
  | succ w ih =>
    simp only [askR]
    split
    · rename_i h
      refine ⟨⟨?_, ?_⟩, ?_, ?_⟩ <;> simp only <;> omega
    · omega
theorem p6_ask_L32 {s : Sg} {B w : Nat} (hB : B < 32) (hw : w < 4) {K : Sg → Int → Int → Int → Int → Option Int} :
    fX6_askOf_L32 K FU s B (askR B w).1 (askR B w).2 w 0 0 = K s B (askR B (w + 1)).1 (askR B (w + 1)).2 ((w : Int) + 1) := by
  have hp := cntN_le B.testBit 16
  have := loopE (fun f j v => fX6_askOf_L32 K f s B (askR B w).1 (askR B w).2 w v j) 5 (fun j => ((cntN (fun kd => B.testBit kd && cld kd w) j : Nat) : Int)) (K s B (askR B (w + 1)).1 (askR B (w + 1)).2 ((w : Int) + 1)) ?_ ?_ (by unfold FU; omega)
  · exact this
  · intro f j hj
    have hle := cntN_le (fun kd => B.testBit kd && cld kd w) j
    show fX6_askOf_L32 K (f + 1) s B _ _ w _ j = fX6_askOf_L32 K f s B _ _ w _ ((j + 1 : Nat) : Int)
    rw [fX6_askOf_L32_s, fX6_askOf_b32, if_neg (by omega), p6_isIn (by omega) (by omega), bd_s, p6_could, bd_s, cntN_s, bI_b]
    unfold fX6_askOf_b63 fX6_askOf_b64
    rw [wr_id (x := (j : Int) + 1) (by omega) (by omega), wr_id (by omega) (by omega), wr_id (by omega) (by omega)]
    cases B.testBit j <;> cases cld j w <;> simp [bI]
  · intro f
    have hy := cntN_le (fun kd => B.testBit kd && cld kd w) 5
    have hyp : yesN B w ≤ pcN B := by
      have hc : ∀ B : Fin 32, ∀ w : Fin 4, yesN B.val w.val ≤ pcN B.val := by decide
      exact hc ⟨B, hB⟩ ⟨w, hw⟩
    show fX6_askOf_L32 K (f + 1) s B _ _ w ((yesN B w : Nat) : Int) ((5 : Nat) : Int) = _
    rw [fX6_askOf_L32_s, fX6_askOf_b32, if_pos (by omega), p6_size (by omega), bd_s]
    have hpc : cntN B.testBit 16 = pcN B := rfl
    rw [hpc] at hp ⊢
    have hy' : yesN B w ≤ 5 := hy
    rw [wr_id (by omega) (by omega)]
    have hwst : (if ((yesN B w : Nat) : Int) ≤ ((pcN B : Nat) : Int) - ((yesN B w : Nat) : Int) then ((pcN B : Nat) : Int) - ((yesN B w : Nat) : Int) else ((yesN B w : Nat) : Int)) = ((worstN B w : Nat) : Int) := by
      unfold worstN; (repeat' split) <;> omega
    have fin : ∀ v : Int, v = ((worstN B w : Nat) : Int) → fX6_askOf_b96 K s B (askR B w).1 (askR B w).2 w v = K s B (askR B (w + 1)).1 (askR B (w + 1)).2 ((w : Int) + 1) := by
      intro v hv
      unfold fX6_askOf_b96 fX6_askOf_b111 fX6_askOf_b126
      rw [wr_id (by omega) (by omega), hv]
      simp only [askR]
      by_cases h : ((worstN B w : Nat) : Int) < (askR B w).2
      · rw [if_neg (by omega), if_neg (by omega), if_pos h]
      · rw [if_pos (by omega), if_pos (by omega), if_neg h]
    split
    · rename_i h; rw [if_pos h] at hwst; exact fin _ hwst
    · rename_i h; rw [if_neg h] at hwst; exact fin _ hwst
theorem p6_ask_L16 {s : Sg} {B : Nat} (hlt : B < 32) (h0 : B ≠ 0) : fX6_askOf_L16 FU s B (askR B 0).1 (askR B 0).2 ((0 : Nat) : Int) = some (askR B 4).1 := by
  refine loopE (fun f w (v : Int × Int) => fX6_askOf_L16 f s B v.1 v.2 w) 4 (askR B) (some (askR B 4).1) ?_ ?_ (by unfold FU; omega)
  · intro f w hw
    show fX6_askOf_L16 (f + 1) s B _ _ w = fX6_askOf_L16 f s B _ _ ((w + 1 : Nat) : Int)
    rw [fX6_askOf_L16_s, fX6_askOf_b16, if_neg (by omega), if_neg (by omega)]
    have := p6_ask_L32 (s := s) hlt hw (K := fX6_askOf_L16 f)
    rw [this, show ((w + 1 : Nat) : Int) = (w : Int) + 1 by omega]
  · intro f
    show fX6_askOf_L16 (f + 1) s B _ _ ((4 : Nat) : Int) = _
    rw [fX6_askOf_L16_s, fX6_askOf_b16, if_pos (by omega), fX6_askOf_b134]
theorem p6_ask_0 (s : Sg) : fX6_askOf_L16 FU s ((0 : Nat) : Int) (-1) 268435456 0 = some (-1) := by
  obtain ⟨n0, hn0⟩ : ∃ n, FU = n + 1 := ⟨99999, rfl⟩
  rw [hn0, fX6_askOf_L16_s, fX6_askOf_b16, if_neg (by decide), if_pos (by simp), fX6_askOf_b134]
theorem p6_askOf {s : Sg} {E : List (Nat × Nat × Bool)} (hE : E.length ≤ 6) (h : Sn6 s 15 16 17 18 E) (i : Nat) : fX6_askOf s i = some (askS (srt E i)) := by
  unfold fX6_askOf askS
  rw [p6_sortsOf hE h, bd_s]
  by_cases h0 : srt E i = 0
  · rw [if_pos h0, h0]; exact p6_ask_0 s
  · rw [if_neg h0]; exact p6_ask_L16 (srt_lt E i) h0
theorem p6_isGiven {s : Sg} {A : As} (h : R6 s A) {i nd : Nat} (hi : i < (asI A).length) (hnd : nd < 8) : fX6_isGiven s i nd = some (bI (gvn (asA A) (ig (asI A) i) nd)) := by
  obtain ⟨g1, g2, g3, g4, g5, g6⟩ := h.2.2.1.2.2.2.2 i hi
  have h6 := h.2.2.1.2.2.2.1
  have hn := h.2.2.1.2.1
  have hc2 := g1.2.2.2.2
  refine loopE (fun f j v => fX6_isGiven_L5 f s i nd v j) (iC (ig (asI A) i)).length (fun j => bI (anyN (fun j => decide (((cg (ig (asI A) i) j).2) = nd % 2) && (decide ((cg (ig (asI A) i) j).1 = ((nd / 2 : Nat) : Int)) || (asA A (cg (ig (asI A) i) j).1.toNat).testBit (nd / 2))) j)) _ ?_ ?_ (by unfold FU; omega)
  · intro f j hj
    show fX6_isGiven_L5 (f + 1) s i nd _ j = fX6_isGiven_L5 f s i nd _ ((j + 1 : Nat) : Int)
    obtain ⟨a1, a2⟩ := g6 j hj
    obtain ⟨c1, c2, c3⟩ := hc2.2 j hj
    have hab := h.ab (cg (ig (asI A) i) j).1.toNat (by omega)
    rw [show (((cg (ig (asI A) i) j).1.toNat : Nat) : Int) = (cg (ig (asI A) i) j).1 by omega] at hab
    rw [fX6_isGiven_L5_s, fX6_isGiven_b5, gd_t (by omega), g5, if_neg (by omega), wr_id (x := 2 * (i : Int)) (by omega) (by omega), wr_id (x := 2 * (i : Int) + (j : Int)) (by omega) (by omega), gd_t (by omega), a1, p_idv (by omega) (by omega) (by omega) (by omega), show (nd : Int) / 2 = ((nd / 2 : Nat) : Int) by omega, gd_t (by omega), hab.1, p6_isIn (by omega) (by omega), bd_s, anyN_s]
    unfold fX6_isGiven_b53 fX6_isGiven_b58 fX6_isGiven_b86 fX6_isGiven_b90 fX6_isGiven_b91
    rw [wr_id (x := (j : Int) + 1) (by omega) (by omega), wr_id (x := 2 * (i : Int)) (by omega) (by omega), wr_id (x := 2 * (i : Int) + (j : Int)) (by omega) (by omega), gd_t (by omega), a2, p_irm (by omega) (by omega) (by omega) (by omega), gd_t (by omega), bI_b]
    have e2 : (((cg (ig (asI A) i) j).2 : Int) = (nd : Int) % 2) ↔ (cg (ig (asI A) i) j).2 = nd % 2 := by omega
    simp only [e2]
    generalize ((nd / 2 : Nat) : Int) = m at *
    cases anyN (fun j => decide (((cg (ig (asI A) i) j).2) = nd % 2) && (decide ((cg (ig (asI A) i) j).1 = m) || (asA A (cg (ig (asI A) i) j).1.toNat).testBit (nd / 2))) j <;> by_cases q1 : (cg (ig (asI A) i) j).2 = nd % 2 <;> by_cases q2 : (cg (ig (asI A) i) j).1 = m <;> cases (asA A (cg (ig (asI A) i) j).1.toNat).testBit (nd / 2) <;> simp [bI, q1, q2]
  · intro f
    show fX6_isGiven_L5 (f + 1) s i nd _ ((iC (ig (asI A) i)).length : Int) = _
    rw [fX6_isGiven_L5_s, fX6_isGiven_b5, gd_t (by omega), g5, if_pos (by omega), gd_t bI_or]; rfl
theorem p6_lacks_L48 {s : Sg} {A : As} (h : R6 s A) {i c : Nat} (hi : i < (asI A).length) (hL : Laid s (asI A) (asN A) (iH (ig (asI A) i))) (hc : c < asN A) {b : Int} {K : Sg → Int → Int → Int → Option (Int × Sg)} :
    fX6_lacksOf_L48 K FU s i b c (9 * (c : Int)) (b01 (rS (res (asI A) c (iH (ig (asI A) i))) = 1)) 0 = K s i (ior b (if (!lck1 A (ig (asI A) i) (res (asI A) c (iH (ig (asI A) i))) && (asR A (iO (ig (asI A) i)).toNat).testBit c) = true then ishl 1 (c : Int) else 0)) ((c : Int) + 1) := by
  obtain ⟨g1, g2, g3, g4, g5, g6⟩ := h.2.2.1.2.2.2.2 i hi
  have h6 := h.2.2.1.2.2.2.1
  have hn := h.2.2.1.2.1
  obtain ⟨a1, a2⟩ := hL.at0 hc
  obtain ⟨b1, b2⟩ := hL.rok hc
  have b3 := lt_256 hn b2
  have hra := h.2.2.2.2.1 (iO (ig (asI A) i)).toNat (by have := g1.2.1; omega)
  have hra2 := (h.1.2.1.2 (iO (ig (asI A) i)).toNat (by have := g1.2.1; omega)).1
  rw [show (((iO (ig (asI A) i)).toNat : Nat) : Int) = iO (ig (asI A) i) by have := g1.2.1; omega] at hra
  generalize hr : res (asI A) (c : Int) (iH (ig (asI A) i)) = r at *
  have fin : ∀ v : Bool, v = lck1 A (ig (asI A) i) r → fX6_lacksOf_b98 K s i b c (bI v) = K s i (ior b (if (!lck1 A (ig (asI A) i) r && (asR A (iO (ig (asI A) i)).toNat).testBit c) = true then ishl 1 (c : Int) else 0)) ((c : Int) + 1) := by
    intro v hv
    have hio := g1.2.1
    unfold fX6_lacksOf_b98 fX6_lacksOf_b128 fX6_lacksOf_b129
    rw [gd_t (by omega), g4, gd_t (by omega), hra.1, p6_isIn (by omega) (by omega), bd_s, wr_id (by omega) (by omega), bI_b, ← hv]
    cases v <;> cases (asR A (iO (ig (asI A) i)).toNat).testBit c <;> simp [bI]
  rw [bI_b01]
  have hlast : ∀ (f : Nat) (v : Bool) (k : Int), (v = false ∨ 8 ≤ k) → v = lck1 A (ig (asI A) i) r → fX6_lacksOf_L48 K (f + 1) s i b c (9 * (c : Int)) (bI v) k = K s i (ior b (if (!lck1 A (ig (asI A) i) r && (asR A (iO (ig (asI A) i)).toNat).testBit c) = true then ishl 1 (c : Int) else 0)) ((c : Int) + 1) := by
    intro f v k hv hv2
    rw [fX6_lacksOf_L48_s, fX6_lacksOf_b48]
    by_cases h8 : 8 ≤ k
    · rw [if_pos h8]; exact fin v hv2
    · rcases hv with hv | hv
      · rw [if_neg h8, if_pos (by simp [hv, bI])]; exact fin v hv2
      · exact absurd hv h8
  by_cases h1 : rS r = 1
  · have gen : ∀ (m f k : Nat), m < f → m + k = 8 → fX6_lacksOf_L48 K f s i b c (9 * (c : Int)) (bI (allN (fun nd => !(rN r).testBit nd || gvn (asA A) (ig (asI A) i) nd) k)) k = K s i (ior b (if (!lck1 A (ig (asI A) i) r && (asR A (iO (ig (asI A) i)).toNat).testBit c) = true then ishl 1 (c : Int) else 0)) ((c : Int) + 1) := by
      intro m
      induction m with
      | zero =>
        intro f k hf hk
        obtain ⟨f, rfl⟩ : ∃ k, f = k + 1 := ⟨f - 1, by omega⟩
        refine hlast f _ _ (Or.inr (by omega)) ?_
        unfold lck1
        simp [h1, show k = 8 by omega]
      | succ m ih =>
        intro f k hf hk
        obtain ⟨f, rfl⟩ : ∃ k, f = k + 1 := ⟨f - 1, by omega⟩
        cases hA : allN (fun nd => !(rN r).testBit nd || gvn (asA A) (ig (asI A) i) nd) k
        · refine hlast f _ _ (Or.inl rfl) ?_
          unfold lck1
          have : allN (fun nd => !(rN r).testBit nd || gvn (asA A) (ig (asI A) i) nd) 8 = false := by
            cases hB : allN (fun nd => !(rN r).testBit nd || gvn (asA A) (ig (asI A) i) nd) 8
            · rfl
            · exfalso
              have q : allN (fun nd => !(rN r).testBit nd || gvn (asA A) (ig (asI A) i) nd) k = true := allN_iff.mpr fun x hx => allN_iff.mp hB x (by omega)
              rw [hA] at q; cases q
          rw [this]; simp
        · have ih' := ih f (k + 1) (by omega) (by omega)
          rw [show ((k + 1 : Nat) : Int) = (k : Int) + 1 by omega, allN_s, hA] at ih'
          rw [fX6_lacksOf_L48_s, fX6_lacksOf_b48, if_neg (by omega), if_neg (by simp [bI]), gd_t (by omega), (a2 h1).2.2.2, p6_isIn (by omega) (by omega), bd_s, p6_isGiven h hi (by omega), bd_s]
          unfold fX6_lacksOf_b85 fX6_lacksOf_b90
          rw [wr_id (by omega) (by omega), bI_b]
          cases h2 : (rN r).testBit k <;> cases h3 : gvn (asA A) (ig (asI A) i) k <;> simp [bI, h2, h3] at ih' ⊢ <;> exact ih'
    have := gen 8 FU 0 (by unfold FU; omega) (by omega)
    simp only [h1, decide_true]
    exact this
  · have hd : decide (rS r = 1) = false := by simp [h1]
    rw [hd, show FU = 99999 + 1 from rfl]
    refine hlast 99999 false 0 (Or.inl rfl) ?_
    unfold lck1
    simp [h1]
theorem p6_lacksOf {s : Sg} {A : As} (h : R6 s A) {i : Nat} (hi : i < (asI A).length) : ∃ s', fX6_lacksOf s i = some (((lck A (ig (asI A) i) : Nat) : Int), s') ∧ keepS L6 s s' := by
  obtain ⟨g1, g2, g3, g4, g5, g6⟩ := h.2.2.1.2.2.2.2 i hi
  have hn := h.2.2.1.2.1
  obtain ⟨s1, e1, k1, N1, S1⟩ := p6_layHead g2
  have h1 := h.kp k1 (by decide)
  obtain ⟨s2, e2, k2, gg⟩ := p6_layGoals h1.2.2.1 h1.2.2.2.1 N1 S1
  have h2 := h1.kp k2 (by decide)
  have L : Laid s2 (asI A) (asN A) (iH (ig (asI A) i)) := ⟨h2.2.2.1, h2.2.2.2.1, N1.keep k2 (by decide) (by decide), S1.keep k2 (by decide), gg⟩
  refine ⟨s2, ?_, (k1.mono (by decide)).trans (k2.mono (by decide))⟩
  unfold fX6_lacksOf
  rw [e1, bd_s, e2, bd_s]
  have := loopE (fun f c v => fX6_lacksOf_L13 f s2 i v c) (asN A) (fun c => ((bitsOf (fun c => (asR A (iO (ig (asI A) i)).toNat).testBit c && !lck1 A (ig (asI A) i) (res (asI A) (c : Int) (iH (ig (asI A) i)))) c : Nat) : Int)) (some (((lck A (ig (asI A) i) : Nat) : Int), s2)) ?_ ?_ (by unfold FU; omega)
  · exact this
  · intro f c hc
    show fX6_lacksOf_L13 (f + 1) s2 i _ c = fX6_lacksOf_L13 f s2 i _ ((c + 1 : Nat) : Int)
    have h48 := fun b => p6_lacks_L48 h2 hi L hc (b := b) (K := fX6_lacksOf_L13 f)
    rw [fX6_lacksOf_L13_s, fX6_lacksOf_b13, h2.2.2.1.1, if_neg (by omega), wr_id (by omega) (by omega), gd_t (by omega), (L.at0 hc).1, ← ior_bit (by omega), show ((c + 1 : Nat) : Int) = (c : Int) + 1 by omega]
    unfold fX6_lacksOf_b43
    have hcm : ((asR A (iO (ig (asI A) i)).toNat).testBit c && !lck1 A (ig (asI A) i) (res (asI A) (c : Int) (iH (ig (asI A) i)))) = (!lck1 A (ig (asI A) i) (res (asI A) (c : Int) (iH (ig (asI A) i))) && (asR A (iO (ig (asI A) i)).toNat).testBit c) := Bool.and_comm _ _
    rw [hcm, ← h48]
    by_cases e : rS (res (asI A) (c : Int) (iH (ig (asI A) i))) = 1
    · rw [if_neg (by simp [e])]; simp [b01, e]
    · rw [if_pos e]; simp [b01, e]
  · intro f
    show fX6_lacksOf_L13 (f + 1) s2 i _ (asN A : Int) = _
    rw [fX6_lacksOf_L13_s, fX6_lacksOf_b13, h2.2.2.1.1, if_pos (by omega)]; rfl
theorem lck_lt {A : As} (x : Ist) (hn : asN A ≤ 4) : lck A x < 16 := by
  have h1 : 2 ^ asN A ≤ 2 ^ 4 := Nat.pow_le_pow_right (by omega) hn
  have h2 : (2 : Nat) ^ 4 = 16 := by decide
  have := bitsOf_lt (fun c => (asR A (iO x).toNat).testBit c && !lck1 A x (res (asI A) (c : Int) (iH x))) (asN A)
  unfold lck
  omega
theorem p6_instanceNow {s : Sg} {A : As} (h : R6 s A) {i : Nat} (hi : i < (asI A).length) {w : Int} (hw : 0 ≤ w ∧ w ≤ 7) : ∃ s', fX6_instanceNow s i w = some (instV A i w, s') ∧ keepS L6 s s' := by
  obtain ⟨g1, g2, g3, g4, g5, g6⟩ := h.2.2.1.2.2.2.2 i hi
  have h6 := h.2.2.1.2.2.2.1
  have hin : inb (i : Int) 6 := by omega
  unfold fX6_instanceNow instV fX6_instanceNow_b85
  by_cases w0 : w = 0
  · rw [if_pos w0, if_pos w0, gd_t hin, g3]; exact ⟨s, rfl, keepS.refl _ _⟩
  rw [if_neg w0, if_neg w0]
  by_cases w1 : w = 1
  · rw [if_pos w1, if_pos w1, gd_t hin, g4]; exact ⟨s, rfl, keepS.refl _ _⟩
  rw [if_neg w1, if_neg w1]
  by_cases w2 : w = 2
  · rw [if_pos w2, if_pos w2, gd_t hin, g2.2.2.2.1]; exact ⟨s, rfl, keepS.refl _ _⟩
  rw [if_neg w2, if_neg w2]
  by_cases w3 : w = 3
  · rw [if_pos w3, if_pos w3, gd_t hin, g5]; exact ⟨s, rfl, keepS.refl _ _⟩
  rw [if_neg w3, if_neg w3]
  by_cases w4 : w = 4
  · rw [if_pos w4, if_pos w4, p6_isSound h.2.2.1 hi, bd_s, bI_b]
    cases snd9 (ig (asI A) i) <;> exact ⟨s, rfl, keepS.refl _ _⟩
  rw [if_neg w4, if_neg w4]
  have hE := h.1.2.2.2.2.1.1
  by_cases w5 : w = 5
  · rw [if_pos w5, if_pos w5, p6_sortsOf hE h.2.2.2.2.2.2.1, bd_s]; exact ⟨s, rfl, keepS.refl _ _⟩
  rw [if_neg w5, if_neg w5]
  by_cases w6 : w = 6
  · rw [if_pos w6, if_pos w6, p6_askOf hE h.2.2.2.2.2.2.1, bd_s]; exact ⟨s, rfl, keepS.refl _ _⟩
  rw [if_neg w6, if_neg w6]
  obtain ⟨s', e, k⟩ := p6_lacksOf h hi
  rw [e, bd_s]; exact ⟨s', rfl, k⟩
theorem p6_instance {s : Sg} {A : As} (h : R6 s A) (i w : Int) : ∃ s', fX6_instance s i w = some (sp_instance A i w, s') ∧ R6 s' A := by
  unfold fX6_instance sp_instance fX6_instance_b34
  rw [p6_isInstance h, bd_s]
  by_cases hc : isIn9 A i
  · rw [if_pos (fun q => b01_0.mp q hc), if_pos hc, p6_within, bd_s]
    by_cases hw : 0 ≤ w ∧ w ≤ 7
    · rw [if_neg (fun q => b01_0.mp q hw), if_pos hw]
      obtain ⟨cn, rfl⟩ : ∃ cn : Nat, i = (cn : Int) := ⟨i.toNat, by have := hc.1; omega⟩
      obtain ⟨s', e, k⟩ := p6_instanceNow h (show cn < (asI A).length by have := hc.2; omega) hw
      rw [e, bd_s]; exact ⟨s', rfl, h.keep k⟩
    · rw [if_pos (b01_0.mpr hw), if_neg hw]; exact ⟨s, rfl, h⟩
  · rw [if_neg (fun q => q (b01_0.mpr hc)), if_neg hc]; exact ⟨s, rfl, h⟩
theorem p6_aboutNow {s : Sg} {A : As} (h : R6 s A) {c : Nat} (hc : c < asN A) {w : Int} : fX6_aboutNow s c w = some (aboutV A c w) := by
  have hn := h.2.2.1.2.1
  obtain ⟨a1, a2⟩ := h.2.2.2.2.1 c hc
  unfold fX6_aboutNow fX6_aboutNow_b32 aboutV
  rw [gd_t (by omega), gd_t (by omega), a1, a2, p6_instancesOf h.2.2.1, bd_s, Int.toNat_natCast]
  by_cases w0 : w = 0
  · rw [if_neg (by simp [w0]), if_pos w0]
  · rw [if_pos w0, if_neg w0]
    by_cases w1 : w = 1
    · rw [if_neg (by simp [w1]), if_pos w1]
    · rw [if_pos w1, if_neg w1]
theorem p6_about {s : Sg} {A : As} (h : R6 s A) (c w : Int) : fX6_about s c w = some (sp_about A c w) := by
  unfold fX6_about sp_about fX6_about_b33
  rw [p6_isClass h, bd_s]
  by_cases hc : isCl A c
  · rw [if_pos (fun q => b01_0.mp q hc), if_pos hc, p6_within, bd_s]
    by_cases hw : 0 ≤ w ∧ w ≤ 2
    · rw [if_neg (fun q => b01_0.mp q hw), if_pos hw]
      obtain ⟨cn, rfl⟩ : ∃ cn : Nat, c = (cn : Int) := ⟨c.toNat, by have := hc.1; omega⟩
      rw [p6_aboutNow h (show cn < asN A by have := hc.2; omega), bd_s]
    · rw [if_pos (b01_0.mpr hw), if_neg hw]
  · rw [if_neg (fun q => q (b01_0.mpr hc)), if_neg hc]
theorem p6_as {s : Sg} {A : As} (h : R6 s A) (i k : Int) : fX6_as s i k = some (sp_as A i k) := by
  have h6 := h.2.2.1.2.2.2.1
  unfold fX6_as sp_as fX6_as_b49 fX6_as_b53 fX6_as_b54
  rw [p6_isInstance h, bd_s]
  by_cases hc : isIn9 A i
  · rw [if_pos (fun q => b01_0.mp q hc), if_pos hc, p6_within, bd_s]
    by_cases hw : 0 ≤ k ∧ k ≤ 4
    · rw [if_pos (fun q => b01_0.mp q hw), if_pos hw]
      obtain ⟨cn, rfl⟩ : ∃ cn : Nat, i = (cn : Int) := ⟨i.toNat, by have := hc.1; omega⟩
      have hcn : cn < (asI A).length := by have := hc.2; omega
      obtain ⟨g1, g2, g3, g4, g5, g6⟩ := h.2.2.1.2.2.2.2 cn hcn
      rw [gd_t (by omega), g3, Int.toNat_natCast]
      by_cases k0 : k = 0
      · rw [if_pos k0, if_pos (Or.inl k0)]
      · rw [if_neg k0]
        by_cases k1 : iK (ig (asI A) cn) = k
        · rw [if_pos k1, if_pos (Or.inr (Or.inl k1))]
        · rw [if_neg k1]
          by_cases k3 : k = 3
          · rw [if_neg (by simp [k3])]
            by_cases k4 : iK (ig (asI A) cn) = 4
            · rw [if_neg (by simp [k4]), if_pos (Or.inr (Or.inr ⟨k3, k4⟩))]
            · rw [if_pos k4, if_neg (by rintro (q | q | q); exact k0 q; exact k1 q; exact k4 q.2)]
          · rw [if_pos k3, if_neg (by rintro (q | q | q); exact k0 q; exact k1 q; exact k3 q.1)]
    · rw [if_neg (fun q => q (b01_0.mpr hw)), if_neg hw]
  · rw [if_neg (fun q => q (b01_0.mpr hc)), if_neg hc]

set_option maxRecDepth 100000
/-! PURE: what the calls do that change what there is -/
def sp_letter (A : As) (c : Int) : Int × As := if 32 ≤ c ∧ c ≤ 126 then (if (asP A).length = 84 then (-104, A) else (((asP A).length : Int) + 1, asP' A (asP A ++ [c]))) else (-102, A)
def sp_blank (A : As) : Int × As := (((asP A).length : Int), asP' A [])
def sp_see (A : As) (i w so : Int) : Int × As := if isIn9 A i then (if 0 ≤ w ∧ w ≤ 3 then (if (asE A).length = 6 then (-104, A) else (((asE A).length : Int) + 1, asE' A (asE A ++ [(i.toNat, w.toNat, decide (so ≠ 0))]))) else (-102, A)) else (-101, A)
def sp_forget (A : As) : Int × As := (((asE A).length : Int), asE' A [])
def setK (I : List Ist) (Ks : List Int) : List Ist := (List.range I.length).map fun i => (Ks.getD i 0, (ig I i).2)
def kinds (I : List Ist) : List Int := I.map iK
def sp_change (A : As) (i k : Int) : Int × As := if isIn9 A i then (if 0 ≤ k ∧ k ≤ 4 then (iK (ig (asI A) i.toNat), asI' A ((asI A).set i.toNat (k, (ig (asI A) i.toNat).2))) else (-102, A)) else (-101, A)
def sp_image (A : As) : Int × As := if asB A = 0 then (-103, A) else (((filldN (asS A) : Nat) : Int), asK' A (some (asB A, kinds (asI A), asS A, asE A)))
def sp_restore (A : As) : Int × As := match asK A with
  | none => (-103, A)
  | some (b, Ks, S, E) => if b = asB A then (((filldN S : Nat) : Int), asE' (asS' (asI' A (setK (asI A) Ks)) S) E) else (-103, A)
theorem ig_set {I : List Ist} {i j : Nat} {x : Ist} (hi : i < I.length) : ig (I.set i x) j = if j = i then x else ig I j := by
  unfold ig
  rw [List.getD_eq_getElem?_getD, List.getD_eq_getElem?_getD, List.getElem?_set]
  by_cases h : i = j
  · subst h; simp [hi]
  · rw [if_neg h, if_neg (fun q => h q.symm)]
theorem setK_len (I : List Ist) (Ks : List Int) : (setK I Ks).length = I.length := by simp [setK]
theorem ig_setK {I : List Ist} {Ks : List Int} {j : Nat} (hj : j < I.length) : ig (setK I Ks) j = (Ks.getD j 0, (ig I j).2) := by
  unfold ig setK
  rw [List.getD_eq_getElem?_getD, List.getElem?_map, List.getElem?_range hj]; rfl
theorem okI_k {n : Nat} {x : Ist} (h : okI n x) {k : Int} (hk : 0 ≤ k ∧ k ≤ 4) : okI n (k, x.2) := ⟨hk, h.2⟩
theorem spc_k {x y : Ist} {k k' : Int} : spc (k, x.2) (k', y.2) = spc x y := rfl

set_option maxRecDepth 100000
/-! PURE: the model's calls that change what there is -/
theorem p_i2b {c : Int} (h : 0 ≤ c) (h' : c ≤ 127) : i2b c = c := by
  have : ∀ n : Fin 128, i2b ((n.val : Nat) : Int) = ((n.val : Nat) : Int) := by decide
  have := this ⟨c.toNat, by omega⟩
  rw [show ((c.toNat : Nat) : Int) = c by omega] at this
  exact this
theorem R6.page {s : Sg} {A : As} (h : R6 s A) {s' : Sg} {p : List Int} (hk : keepS [19, 20] s s') (hp : p.length ≤ 84 ∧ ∀ c ∈ p, 32 ≤ c ∧ c ≤ 126) (h1 : gI s' 19 = (p.length : Int)) (h2 : ∀ j : Nat, ∀ c, p[j]? = some c → gA s' 20 (j : Int) = c) : R6 s' (asP' A p) := by
  obtain ⟨g1, g2, g3, g4, g5, g6, g7, g8, g9⟩ := h
  refine ⟨⟨hp, g1.2⟩, (hk.I (by decide)).trans g2, g3.keep hk (by decide), g4.keep hk (by decide), fun c hc => ⟨(hk.A (by decide) _).trans (g5 c hc).1, (hk.A (by decide) _).trans (g5 c hc).2⟩, g6.keep hk (by decide) (by decide), g7.keep hk (by decide) (by decide) (by decide) (by decide), ⟨h1, h2⟩, ?_⟩
  revert g9
  show (match asK A with | none => _ | some (b, Ks, S, E) => _) → (match asK A with | none => _ | some (b, Ks, S, E) => _)
  cases asK A with
  | none => intro q; exact (hk.I (by decide)).trans q
  | some K =>
    obtain ⟨b, Ks, S, E⟩ := K
    rintro ⟨a1, a2, a3, a4, a5⟩
    exact ⟨(hk.I (by decide)).trans a1, (hk.I (by decide)).trans a2, fun e j v hj => (hk.A (by decide) _).trans (a3 e j v hj), a4.keep hk (by decide) (by decide), a5.keep hk (by decide) (by decide) (by decide) (by decide)⟩
theorem p6_letter {s : Sg} {A : As} (h : R6 s A) (c : Int) : ∃ s', fX6_letter s c = some ((sp_letter A c).1, s') ∧ R6 s' (sp_letter A c).2 := by
  obtain ⟨h19, h20⟩ := h.2.2.2.2.2.2.2.1
  obtain ⟨hl, hr⟩ := h.1.1
  unfold fX6_letter sp_letter
  rw [p6_within, bd_s]
  by_cases hc : 32 ≤ c ∧ c ≤ 126
  · rw [if_pos (fun q => b01_0.mp q hc), if_pos hc, h19]
    by_cases hf : (asP A).length = 84
    · rw [if_neg (by omega), if_pos hf]; exact ⟨s, rfl, h⟩
    · rw [if_pos (by omega), if_neg hf, gd_t (by omega)]
      rw [p_i2b (by omega) (by omega)]
      have w : wr (gI (sA s 20 ((asP A).length : Int) c) 19 + 1) = ((asP A).length : Int) + 1 := by
        rw [show gI (sA s 20 ((asP A).length : Int) c) 19 = gI s 19 from rfl, h19, wr_id (by omega) (by omega)]
      rw [w]
      refine ⟨_, rfl, h.page ((keepA _ s (by decide) _ _).sI (by decide) _) ⟨by simp; omega, fun x hx => ?_⟩ (by simp [gI_sI]) (fun j x hx => ?_)⟩
      · rcases List.mem_append.mp hx with q | q
        · exact hr x q
        · simp at q; omega
      · rw [gA_sI, gA_sA]
        by_cases hj : j = (asP A).length
        · subst hj; simp at hx; simp [hx]
        · have hjl : j < (asP A).length := by
            have := (List.getElem?_eq_some_iff.mp hx).1
            simp at this; omega
          rw [if_neg (by omega)]
          rw [List.getElem?_append_left hjl] at hx
          exact h20 j x hx
  · rw [if_neg (fun q => q (b01_0.mpr hc)), if_neg hc]; exact ⟨s, rfl, h⟩
theorem p6_blank {s : Sg} {A : As} (h : R6 s A) : ∃ s', fX6_blank s = some ((sp_blank A).1, s') ∧ R6 s' (sp_blank A).2 := by
  unfold fX6_blank sp_blank
  rw [h.2.2.2.2.2.2.2.1.1]
  exact ⟨_, rfl, h.page (keepI _ s (by decide) _) ⟨by simp, by simp⟩ rfl (by simp)⟩
theorem R6.seen {s : Sg} {A : As} (h : R6 s A) {s' : Sg} {E : List (Nat × Nat × Bool)} (hk : keepS [15, 16, 17, 18] s s') (hE : okSn (asI A).length E) (h1 : Sn6 s' 15 16 17 18 E) : R6 s' (asE' A E) := by
  obtain ⟨⟨o1, o2, o3, o4, o5, o6, o7⟩, g2, g3, g4, g5, g6, g7, g8, g9⟩ := h
  refine ⟨⟨o1, o2, o3, o4, hE, o6, o7⟩, (hk.I (by decide)).trans g2, g3.keep hk (by decide), g4.keep hk (by decide), fun c hc => ⟨(hk.A (by decide) _).trans (g5 c hc).1, (hk.A (by decide) _).trans (g5 c hc).2⟩, g6.keep hk (by decide) (by decide), h1, ⟨(hk.I (by decide)).trans g8.1, fun j c hj => (hk.A (by decide) _).trans (g8.2 j c hj)⟩, ?_⟩
  revert g9
  show (match asK A with | none => _ | some (b, Ks, S, E) => _) → (match asK A with | none => _ | some (b, Ks, S, E) => _)
  cases asK A with
  | none => intro q; exact (hk.I (by decide)).trans q
  | some K =>
    obtain ⟨b, Ks, S, E⟩ := K
    rintro ⟨a1, a2, a3, a4, a5⟩
    exact ⟨(hk.I (by decide)).trans a1, (hk.I (by decide)).trans a2, fun e j v hj => (hk.A (by decide) _).trans (a3 e j v hj), a4.keep hk (by decide) (by decide), a5.keep hk (by decide) (by decide) (by decide) (by decide)⟩
theorem p6_see {s : Sg} {A : As} (h : R6 s A) (i w so : Int) : ∃ s', fX6_see s i w so = some ((sp_see A i w so).1, s') ∧ R6 s' (sp_see A i w so).2 := by
  obtain ⟨h15, h16⟩ := h.2.2.2.2.2.2.1
  obtain ⟨hl, hr⟩ := h.1.2.2.2.2.1
  unfold fX6_see sp_see
  rw [p6_isInstance h, bd_s]
  by_cases hc : isIn9 A i
  · rw [if_pos (fun q => b01_0.mp q hc), if_pos hc, p6_within, bd_s]
    by_cases hw : 0 ≤ w ∧ w ≤ 3
    · rw [if_pos (fun q => b01_0.mp q hw), if_pos hw, h15]
      by_cases hf : (asE A).length = 6
      · rw [if_neg (by omega), if_pos hf]; exact ⟨s, rfl, h⟩
      · rw [if_pos (by omega), if_neg hf, gd_t (by omega)]
        have e15 : gI (sA s 16 ((asE A).length : Int) i) 15 = ((asE A).length : Int) := h15
        have e15' : gI (sA (sA s 16 ((asE A).length : Int) i) 17 ((asE A).length : Int) w) 15 = ((asE A).length : Int) := h15
        rw [e15, gd_t (by omega), e15']
        have fin : ∀ v : Int, v = b01 (so ≠ 0) → ∃ s', fX6_see_b72 (sA (sA s 16 ((asE A).length : Int) i) 17 ((asE A).length : Int) w) ((asE A).length : Int) v = some (((asE A).length : Int) + 1, s') ∧ R6 s' (asE' A (asE A ++ [(i.toNat, w.toNat, decide (so ≠ 0))])) := by
          intro v hv
          unfold fX6_see_b72
          have e15'' : gI (sA (sA (sA s 16 ((asE A).length : Int) i) 17 ((asE A).length : Int) w) 18 ((asE A).length : Int) v) 15 = ((asE A).length : Int) := h15
          rw [gd_t (by omega), e15'', wr_id (by omega) (by omega)]
          refine ⟨_, rfl, h.seen ((((keepA _ s (by decide) _ _).sA (by decide) _ _).sA (by decide) _ _).sI (by decide) _) ⟨by simp; omega, fun e he => ?_⟩ ⟨by simp [gI_sI], fun j e he => ?_⟩⟩
          · rcases List.mem_append.mp he with q | q
            · exact hr e q
            · simp only [List.mem_singleton] at q
              subst q
              have := hc.1; have := hc.2
              exact ⟨by simp only; omega, by simp only; omega⟩
          · by_cases hj : j = (asE A).length
            · subst hj
              rw [List.getElem?_append_right (Nat.le_refl _)] at he
              simp at he
              subst he
              have := hc.1
              refine ⟨?_, ?_, ?_⟩
              · simp [gA_sI, gA_sA]; omega
              · simp [gA_sI, gA_sA]; omega
              · simp [gA_sI, gA_sA, hv, b01]
            · have hjl : j < (asE A).length := by
                have := (List.getElem?_eq_some_iff.mp he).1
                simp at this; omega
              rw [List.getElem?_append_left hjl] at he
              obtain ⟨q1, q2, q3⟩ := h16 j e he
              have hne : ¬ ((j : Int) = ((asE A).length : Int)) := by omega
              refine ⟨?_, ?_, ?_⟩
              · simp [gA_sI, gA_sA, hne, q1]
              · simp [gA_sI, gA_sA, hne, q2]
              · simp [gA_sI, gA_sA, hne, q3]
        by_cases hs : so = 0
        · rw [if_pos hs]; exact fin 0 (by simp [b01, hs])
        · rw [if_neg hs]; exact fin 1 (by simp [b01, hs])
    · rw [if_neg (fun q => q (b01_0.mpr hw)), if_neg hw]; exact ⟨s, rfl, h⟩
  · rw [if_neg (fun q => q (b01_0.mpr hc)), if_neg hc]; exact ⟨s, rfl, h⟩
theorem p6_forget {s : Sg} {A : As} (h : R6 s A) : ∃ s', fX6_forget s = some ((sp_forget A).1, s') ∧ R6 s' (sp_forget A).2 := by
  unfold fX6_forget sp_forget
  rw [h.2.2.2.2.2.2.1.1]
  exact ⟨_, rfl, h.seen (keepI _ s (by decide) _) ⟨by simp, by simp⟩ ⟨rfl, by simp⟩⟩
/-- other kinds -/
theorem R6.kinds {s : Sg} {A : As} (h : R6 s A) {s' : Sg} {I : List Ist} (hk : keepS [5] s s') (hl : I.length = (asI A).length) (hI : ∀ i, i < I.length → (ig I i).2 = (ig (asI A) i).2 ∧ (0 ≤ iK (ig I i) ∧ iK (ig I i) ≤ 4) ∧ gA s' 5 (i : Int) = iK (ig I i)) : R6 s' (asI' A I) := by
  obtain ⟨⟨o1, o2, o3, o4, o5, o6, o7⟩, g2, g3, g4, g5, g6, g7, g8, g9⟩ := h
  have hx : ∀ i, i < I.length → ig I i = (iK (ig I i), (ig (asI A) i).2) := fun i hi => by rw [← (hI i hi).1]
  refine ⟨⟨o1, o2, ⟨by rw [show asI (asI' A I) = I from rfl]; omega, fun i hi => ?_⟩, o4, by rw [show asI (asI' A I) = I from rfl, hl]; exact o5, by rw [show asI (asI' A I) = I from rfl, hl]; exact o6, ?_⟩, (hk.I (by decide)).trans g2, ?_, ?_, fun c hc => ⟨(hk.A (by decide) _).trans (g5 c hc).1, (hk.A (by decide) _).trans (g5 c hc).2⟩, g6.keep hk (by decide) (by decide), g7.keep hk (by decide) (by decide) (by decide) (by decide), ⟨(hk.I (by decide)).trans g8.1, fun j c hj => (hk.A (by decide) _).trans (g8.2 j c hj)⟩, ?_⟩
  · show okI _ (ig I i)
    rw [hx i hi]; exact okI_k (o3.2 i (by rw [← hl]; exact hi)) (hI i hi).2.1
  · intro b Ks S E he
    obtain ⟨q1, q2, q3, q4, q5⟩ := o7 b Ks S E he
    refine ⟨q1, q2, q3, fun e => ?_, q5⟩
    rw [show asI (asI' A I) = I from rfl, hl]; exact q4 e
  · obtain ⟨a1, a2, a3, a4, a5⟩ := g3
    refine ⟨(hk.I (by decide)).trans a1, a2, ?_, ?_, fun i hi => ?_⟩
    · rw [show asI (asI' A I) = I from rfl, hl]; exact (hk.I (by decide)).trans a3
    · rw [show asI (asI' A I) = I from rfl, hl]; exact a4
    · obtain ⟨b1, b2, b3, b4, b5, b6⟩ := a5 i (by rw [← hl]; exact hi)
      obtain ⟨c1, c2, c3⟩ := hI i hi
      refine ⟨?_, ?_, c3, ?_, ?_, fun j hj => ?_⟩
      · show okI _ (ig I i)
        rw [hx i hi]; exact okI_k b1 c2
      · show Hd6 _ _ (ig I i).2.2.1
        rw [c1]; exact b2.keep hk (by decide) (by decide)
      · show _ = (ig I i).2.1
        rw [c1]; exact (hk.A (by decide) _).trans b4
      · show _ = (((ig I i).2.2.2).length : Int)
        rw [c1]; exact (hk.A (by decide) _).trans b5
      · have e : ∀ j, cg (ig I i) j = cg (ig (asI A) i) j := by intro j; unfold cg; show (ig I i).2.2.2.getD _ _ = _; rw [c1]
        show gA s' 10 _ = (cg (ig I i) j).1 ∧ gA s' 11 _ = ((cg (ig I i) j).2 : Int)
        rw [e]
        have := b6 j (by have hj' : j < ((ig I i).2.2.2).length := hj; rw [c1] at hj'; exact hj')
        exact ⟨(hk.A (by decide) _).trans this.1, (hk.A (by decide) _).trans this.2⟩
  · intro i e hi he
    show _ = b01 (spc (ig I i) (ig I e) = true)
    have : spc (ig I i) (ig I e) = spc (ig (asI A) i) (ig (asI A) e) := by
      rw [hx i hi, hx e he]; rfl
    simp only [this]
    exact (hk.A (by decide) _).trans (g4 i e (by rw [← hl]; exact hi) (by rw [← hl]; exact he))
  · revert g9
    show (match asK A with | none => _ | some (b, Ks, S, E) => _) → (match asK A with | none => _ | some (b, Ks, S, E) => _)
    cases asK A with
    | none => intro q; exact (hk.I (by decide)).trans q
    | some K =>
      obtain ⟨b, Ks, S, E⟩ := K
      rintro ⟨a1, a2, a3, a4, a5⟩
      exact ⟨(hk.I (by decide)).trans a1, (hk.I (by decide)).trans a2, fun e j v hj => (hk.A (by decide) _).trans (a3 e j v hj), a4.keep hk (by decide) (by decide), a5.keep hk (by decide) (by decide) (by decide) (by decide)⟩
theorem p6_change {s : Sg} {A : As} (h : R6 s A) (i k : Int) : ∃ s', fX6_change s i k = some ((sp_change A i k).1, s') ∧ R6 s' (sp_change A i k).2 := by
  have h6 := h.2.2.1.2.2.2.1
  unfold fX6_change sp_change
  rw [p6_isInstance h, bd_s]
  by_cases hc : isIn9 A i
  · rw [if_pos (fun q => b01_0.mp q hc), if_pos hc, p6_within, bd_s]
    by_cases hw : 0 ≤ k ∧ k ≤ 4
    · rw [if_pos (fun q => b01_0.mp q hw), if_pos hw]
      obtain ⟨cn, rfl⟩ : ∃ cn : Nat, i = (cn : Int) := ⟨i.toNat, by have := hc.1; omega⟩
      have hcn : cn < (asI A).length := by have := hc.2; omega
      obtain ⟨g1, g2, g3, g4, g5, g6⟩ := h.2.2.1.2.2.2.2 cn hcn
      rw [gd_t (by omega), gd_t (by omega), g3, Int.toNat_natCast]
      refine ⟨_, rfl, h.kinds (keepA _ s (by decide) _ _) (by simp) (fun j hj => ?_)⟩
      have hj' : j < (asI A).length := by simpa using hj
      rw [ig_set hcn]
      by_cases e : j = cn
      · subst e
        rw [if_pos rfl]
        exact ⟨rfl, hw, by simp [gA_sA]⟩
      · rw [if_neg e, gA_sA, if_neg (by omega)]
        obtain ⟨f1, f2, f3, f4, f5, f6⟩ := h.2.2.1.2.2.2.2 j hj'
        exact ⟨rfl, f1.1, f3⟩
    · rw [if_neg (fun q => q (b01_0.mpr hw)), if_neg hw]; exact ⟨s, rfl, h⟩
  · rw [if_neg (fun q => q (b01_0.mpr hc)), if_neg hc]; exact ⟨s, rfl, h⟩

