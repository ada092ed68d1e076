/-! the pure laws: X4 X5 X6 X7 X8 X9 -/
set_option maxRecDepth 100000
/-! PURE: class DictProof: whether a head fits a type -/
theorem ext.ne {k h h' : hS} {pa : Nat} (x : ext k h) (hk : k.1 pa = none) (o : ∀ c, c ≠ pa → h'.1 c = h.1 c) : ext k h' := by
  intro a e q
  have : a ≠ pa := fun w => by subst w; rw [hk] at q; cases q
  exact (o a this).trans (x a e q)
/-- what is put for the variables, in a row of types -/
def putA (k h : hS) (pa : Nat) (b : Bd) : Prop := ∃ f : Int → Option Nat, arQ h 4 2 pa f ∧ ∀ v : Nat, v < 2 → match b v with
  | none => f (v : Int) = none
  | some u => ∃ a, f (v : Int) = some a ∧ isT k a u ∧ okT u ∧ szT u ≤ 9
theorem putA.up {k h h' : hS} {pa : Nat} {b : Bd} (P : putA k h pa b) (e : h'.1 pa = h.1 pa) : putA k h' pa b := by
  obtain ⟨f, A, P⟩ := P
  exact ⟨f, by unfold arQ; rw [e]; exact A, P⟩
def fitR (k h : hS) (pa : Nat) (z : Option Bd) (Z : Option (Int × hS)) : Prop :=
  ∃ h', Z = some (bI z.isSome, h') ∧ (∀ c, c ≠ pa → h'.1 c = h.1 c) ∧ h'.2 = h.2 ∧ ∀ b', z = some b' → putA k h' pa b'
theorem bI_t : bI true = 1 := rfl
theorem bI_f : bI false = 0 := rfl
theorem p_fitting {k : hS} {pa : Nat} (hk : k.1 pa = none) : ∀ (hd t : Tm) (d : Nat) (h : hS) (b : Bd) (x y : Nat), okT hd → okT t → szT t ≤ 9 → dpT hd ≤ d → ext k h → isT k x hd → isT k y t → putA k h pa b →
    fitR k h pa (fit hd t b) (fX0_isFitting d h (some x) (some y) (some pa)) := by
  intro hd
  -- a head that is no variable
  have start : ∀ (hd t : Tm) (d : Nat) (h : hS) (b : Bd) (x y : Nat), okT hd → isV hd = false → okT t → ext k h → isT k x hd → isT k y t →
      (sgT hd ≠ sgT t → fit hd t b = none) →
      (sgT hd = sgT t → ∀ p q p' q', opT k p (tO hd) → opT k q (tW hd) → opT k p' (tO t) → opT k q' (tW t) →
        (∀ h' : hS, ext k h' → hQ h' (some x) [(7, 1)] = some p ∧ hQ h' (some x) [(7, 2)] = some q ∧ hQ h' (some y) [(7, 1)] = some p' ∧ hQ h' (some y) [(7, 2)] = some q') →
        fitR k h pa (fit hd t b) (ifN p (fX0_isFitting_b87 (fX0_isFitting d) h (some x) (some y) (some pa)) (fun _ => bd (some p) fun v16 => bd (some p') fun v18 => bd (fX0_isFitting d h v16 v18 (some pa)) fun p20 => if p20.1 = 0 then fX0_isFitting_b113 (fX0_isFitting d) p20.2 else fX0_isFitting_b87 (fX0_isFitting d) p20.2 (some x) (some y) (some pa)))) →
      fitR k h pa (fit hd t b) (fX0_isFitting (d + 1) h (some x) (some y) (some pa)) := by
    intro hd t d h b x y o1 nv o2 ek T1 T2 ne eq
    obtain ⟨p1, q1, e1, po1, pw1, -⟩ := T1.rd o1
    obtain ⟨p2, q2, e2, po2, pw2, -⟩ := T2.rd o2
    obtain ⟨r0, r1, r2, r3⟩ := rdT (ek _ _ e1)
    obtain ⟨s0, s1, s2, s3⟩ := rdT (ek _ _ e2)
    show fitR k h pa (fit hd t b) (fX0_isFitting_B (fX0_isFitting d) h (some x) (some y) (some pa))
    unfold fX0_isFitting_B
    rw [gd_t (T1.mono ek).c, p_variable (T1.mono ek) o1, bd_s, if_pos ((vr_v o1).mpr nv), r0, bd_s, s0, bd_s]
    by_cases c : sgT hd = sgT t
    · rw [if_pos c, r1, bd_s, s1]
      exact eq c p1 q1 p2 q2 po1 pw1 po2 pw2 (fun h' ek' => by
        obtain ⟨a0, a1, a2, a3⟩ := rdT (ek' _ _ e1)
        obtain ⟨c0, c1, c2, c3⟩ := rdT (ek' _ _ e2)
        exact ⟨a1, a2, c1, c2⟩)
    · rw [if_neg c]
      exact ⟨h, by rw [ne c]; rfl, fun _ _ => rfl, rfl, fun b' hb => by rw [ne c] at hb; cases hb⟩
  induction hd with
  | mulR t c => intro t d h b x y o; exact o.elim
  | num c =>
    intro t d h b x y o1 o2 h9 hd ek T1 T2 P
    obtain ⟨d, rfl⟩ : ∃ m, d = m + 1 := ⟨d - 1, by simp [dpT] at hd; omega⟩
    refine start (.num c) t d h b x y o1 rfl o2 ek T1 T2 (fun q => ?_) (fun q p q' p2 q2 po pw po2 pw2 rd => ?_)
    · simp only [fit]; rw [if_neg (fun w => q (by simp only [sgT]; exact w.symm))]
    · rw [show p = none from po]
      simp only [ifN]
      unfold fX0_isFitting_b87 fX0_isFitting_b109 fX0_isFitting_b114
      rw [(rd h ek).2.1, bd_s, show q' = none from pw]
      simp only [ifN, fit]
      rw [if_pos (by simp only [sgT] at q; exact q.symm), gd_t (by simp)]
      exact ⟨h, rfl, fun _ _ => rfl, rfl, fun b' hb => by cases hb; exact P⟩
  | var v =>
    intro t d h b x y o1 o2 h9 hd ek T1 T2 P
    obtain ⟨d, rfl⟩ : ∃ m, d = m + 1 := ⟨d - 1, by simp [dpT] at hd; omega⟩
    have hv : @LT.lt Nat instLTNat v 2 := o1
    obtain ⟨f, A, PP⟩ := P
    show fitR k h pa (fit (.var v) t b) (fX0_isFitting_B (fX0_isFitting d) h (some x) (some y) (some pa))
    unfold fX0_isFitting_B fX0_isFitting_b26 fX0_isFitting_b31 fX0_isFitting_b48
    rw [gd_t (T1.mono ek).c, p_variable (T1.mono ek) o1, bd_s]
    simp only [vrT]
    rw [if_neg (by omega), A.q (by omega) (by omega), bd_s]
    have Pv := PP v hv
    cases eb : b v with
    | none =>
      rw [eb] at Pv
      rw [show f (v : Int) = none from Pv]
      simp only [ifN]
      rw [bd_s]
      simp only
      obtain ⟨h', e1, A1, n1, s1⟩ := A.w (i := (v : Int)) (by omega) (by omega) (P := [7]) (v := some y) (Or.inr ⟨7, by simp, (T2.mono ek).c⟩)
      rw [e1, bd_s, gd_t (by simp)]
      simp only [fit, eb]
      refine ⟨h', rfl, n1, s1, fun b' hb => ?_⟩
      cases hb
      refine ⟨_, A1, fun w hw => ?_⟩
      have := PP w hw
      unfold bdU upI
      by_cases c : w = v
      · rw [if_pos c, if_pos (by rw [c])]; exact ⟨y, rfl, T2, o2, h9⟩
      · rw [if_neg c, if_neg (by intro q; exact c (by omega))]; exact this
    | some u =>
      rw [eb] at Pv
      obtain ⟨a, fa, Ta, ou, hu⟩ := Pv
      rw [fa]
      simp only [ifN]
      rw [bd_s, gd_t (Ta.mono ek).c, p_equalsT 16 u t h a y ou o2 (by have := dpT_le u ou; omega) (Ta.mono ek) (T2.mono ek), bd_s]
      obtain ⟨h', e1, A1, n1, s1⟩ := A.w (i := (v : Int)) (by omega) (by omega) (P := [7]) (v := some a) (Or.inr ⟨7, by simp, (Ta.mono ek).c⟩)
      have fin : putA k h' pa b := by
        refine ⟨_, A1, fun w hw => ?_⟩
        have := PP w hw
        unfold upI
        by_cases c : w = v
        · rw [if_pos (by rw [c]), c, eb]; exact ⟨a, rfl, Ta, ou, hu⟩
        · rw [if_neg (by intro q; exact c (by omega))]; exact this
      have ef : fit (.var v) t b = if flat u = flat t then some (bdU b v t) else none := by simp only [fit, eb]
      rw [ef]
      by_cases c : flat u = flat t
      · rw [(b01_1 (p := flat u = flat t)).mpr c, if_neg (show ¬ (1 : Int) = 0 by decide), bd_s]
        simp only
        rw [bd_s, e1, bd_s, gd_t (by simp), if_pos c]
        refine ⟨h', rfl, n1, s1, fun b' hb => ?_⟩
        cases hb
        have e : u = t := (flat_eq ou o2).mp c
        have : bdU b v t = b := by funext w; unfold bdU; split
                                   · rename_i q; rw [q, eb, e]
                                   · rfl
        rw [this]; exact fin
      · rw [(b01_0 (p := flat u = flat t)).mpr c, if_pos (show (0 : Int) = 0 from rfl), bd_s]
        simp only
        rw [bd_s, e1, bd_s, gd_t (by simp), if_neg c]
        exact ⟨h', rfl, n1, s1, fun b' hb => by cases hb⟩
  | mulL c a ih =>
    intro t d h b x y o1 o2 h9 hd ek T1 T2 P
    obtain ⟨d, rfl⟩ : ∃ m, d = m + 1 := ⟨d - 1, by simp [dpT] at hd; omega⟩
    refine start (.mulL c a) t d h b x y o1 rfl o2 ek T1 T2 (fun q => ?_) (fun q p q' p2 q2 po pw po2 pw2 rd => ?_)
    · cases t <;> first | rfl | exact absurd rfl q
    · obtain ⟨i1, i2⟩ := sg_ow o1 o2 q
      cases t with
      | num c => cases i1
      | var c => cases i1
      | mulR t c => exact o2.elim
      | add t u => cases i2
      | mulL c' a' =>
        obtain ⟨pa1, rfl, Ta1⟩ := po
        obtain ⟨pa2, rfl, Ta2⟩ := po2
        simp only [dpT, szT] at hd h9
        simp only [ifN]
        rw [bd_s, bd_s]
        obtain ⟨h', e1, n1, s1, f1⟩ := ih a' d h b pa1 pa2 o1.2 o2.2 (by omega) (by omega) ek Ta1 Ta2 P
        rw [e1, bd_s]
        simp only [fit]
        cases ef : fit a a' b with
        | none =>
          rw [ef] at f1
          rw [if_pos (by show (0 : Int) = 0; rfl)]
          unfold fX0_isFitting_b113 fX0_isFitting_b114
          rw [gd_t (by simp)]
          exact ⟨h', rfl, n1, s1, f1⟩
        | some b' =>
          rw [ef] at f1
          rw [if_neg (by show ¬ (1 : Int) = 0; decide)]
          unfold fX0_isFitting_b87 fX0_isFitting_b109 fX0_isFitting_b114
          rw [(rd h' (ek.ne hk n1)).2.1, bd_s, show q' = none from pw]
          simp only [ifN]
          rw [gd_t (by simp)]
          exact ⟨h', rfl, n1, s1, f1⟩
  | add a1 a2 ih1 ih2 =>
    intro t d h b x y o1 o2 h9 hd ek T1 T2 P
    obtain ⟨d, rfl⟩ : ∃ m, d = m + 1 := ⟨d - 1, by simp [dpT] at hd; omega⟩
    refine start (.add a1 a2) t d h b x y o1 rfl o2 ek T1 T2 (fun q => ?_) (fun q p q' p2 q2 po pw po2 pw2 rd => ?_)
    · cases t <;> first | rfl | exact absurd rfl q
    · obtain ⟨i1, i2⟩ := sg_ow o1 o2 q
      cases t with
      | num c => cases i1
      | var c => cases i1
      | mulR t c => exact o2.elim
      | mulL t u => cases i2
      | add c1 c2 =>
        obtain ⟨pa1, rfl, Ta1⟩ := po
        obtain ⟨pa2, rfl, Ta2⟩ := po2
        obtain ⟨qa1, rfl, Tw1⟩ := pw
        obtain ⟨qa2, rfl, Tw2⟩ := pw2
        simp only [dpT, szT] at hd h9
        simp only [ifN]
        rw [bd_s, bd_s]
        obtain ⟨h', e1, n1, s1, f1⟩ := ih1 c1 d h b pa1 pa2 o1.1 o2.1 (by omega) (by omega) ek Ta1 Ta2 P
        rw [e1, bd_s]
        simp only [fit]
        cases ef : fit a1 c1 b with
        | none =>
          rw [ef] at f1
          rw [if_pos (by show (0 : Int) = 0; rfl)]
          unfold fX0_isFitting_b113 fX0_isFitting_b114
          rw [gd_t (by simp)]
          exact ⟨h', rfl, n1, s1, f1⟩
        | some b' =>
          rw [ef] at f1
          rw [if_neg (by show ¬ (1 : Int) = 0; decide)]
          unfold fX0_isFitting_b87 fX0_isFitting_b109 fX0_isFitting_b113 fX0_isFitting_b114
          obtain ⟨-, rq, -, rq2⟩ := rd h' (ek.ne hk n1)
          rw [rq, bd_s]
          simp only [ifN]
          rw [bd_s, rq2, bd_s]
          obtain ⟨h2, e2, n2, s2, f2⟩ := ih2 c2 d h' b' qa1 qa2 o1.2 o2.2 (by omega) (by omega) (ek.ne hk n1) Tw1 Tw2 (f1 b' rfl)
          rw [e2, bd_s]
          cases eg : fit a2 c2 b' with
          | none =>
            rw [if_pos (by show (0 : Int) = 0; rfl), gd_t (by simp)]
            exact ⟨h2, rfl, fun c hc => (n2 c hc).trans (n1 c hc), s2.trans s1, fun b' hb => by cases hb⟩
          | some b2 =>
            rw [if_neg (by show ¬ (1 : Int) = 0; decide), gd_t (by simp)]
            exact ⟨h2, rfl, fun c hc => (n2 c hc).trans (n1 c hc), s2.trans s1, fun b9 hb => by rw [eg] at f2; exact f2 b9 hb⟩

set_option maxRecDepth 100000
/-! PURE: class DictProof: what is older stays; whether a head fits, is more special -/
/-- what is older stays; so many cells more at most -/
def ol (h h' : hS) (n : Nat) : Prop := h.2.1 ≤ h'.2.1 ∧ (∀ b, b < h.2.1 → h'.1 b = h.1 b) ∧ h'.2.1 ≤ h.2.1 + n ∧ h'.2.2 ≤ h.2.2 + 4 * n
theorem ol.refl (h : hS) : ol h h 0 := ⟨Nat.le_refl _, fun _ _ => rfl, Nat.le_refl _, Nat.le_refl _⟩
theorem ol.mono {h h' : hS} {n m : Nat} (x : ol h h' n) (hm : n ≤ m) : ol h h' m := ⟨x.1, x.2.1, by have := x.2.2.1; omega, by have := x.2.2.2; omega⟩
theorem ol.trans {h h' h'' : hS} {n m l : Nat} (x : ol h h' n) (y : ol h' h'' m) (hl : n + m ≤ l) : ol h h'' l := by
  obtain ⟨a, b, c, d⟩ := x
  obtain ⟨a', b', c', d'⟩ := y
  exact ⟨by omega, fun i hi => (b' i (by omega)).trans (b i hi), by omega, by omega⟩
theorem Kp.ol {k h h' : hS} {F : Nat → Prop} {n : Nat} (K : Kp k h F) (x : ol h h' n) : Kp k h' F :=
  K.go (fun b hb => x.2.1 b (by
    cases q : k.1 b with
    | none => exact absurd q hb
    | some e => exact (K.1 b e q).2.1)) x.1
theorem HM.ol {N : Nat} {h h' : hS} {mp : Nat} {E : List En} {F : Nat → Prop} {Q n : Nat} (P : HM N h mp E F Q) (Flt : ∀ a, F a → a < h.2.1) (x : ol h h' n) : HM N h' mp E F Q :=
  P.cg (fun b hb => x.2.1 b (Flt b hb)) x.1
theorem nwQ_2 (h : hS) (t : Nat) {n : Int} (h0 : 0 ≤ n) (h1 : n ≤ 1000000) : nwQS h t n = some (h.2.1, nwQ h t n.toNat) := by
  unfold nwQS; rw [if_pos ⟨h0, h1⟩]
theorem nwQ_at (h : hS) (t n : Nat) : arQ (nwQ h t n) t n h.2.1 (fun _ => none) := by unfold arQ nwQ; simp
theorem nwQ_ne (h : hS) (t n : Nat) {b : Nat} (hb : b ≠ h.2.1) : (nwQ h t n).1 b = h.1 b := by unfold nwQ; simp [hb]
theorem ol_nwQ (h : hS) (t n : Nat) (hn : n ≤ 4) : ol h (nwQ h t n) 1 := ⟨by show h.2.1 ≤ h.2.1 + 1; omega, fun b hb => nwQ_ne h t n (by omega), by show h.2.1 + 1 ≤ _; omega, by show h.2.2 + n ≤ _; omega⟩
theorem ol_nwO (h : hS) (c : Nat) (fs : List hV) (hn : fs.length ≤ 4) : ol h (nwO h c fs) 1 := ⟨by show h.2.1 ≤ h.2.1 + 1; omega, fun b hb => nwO_ne h c fs (by omega), by show h.2.1 + 1 ≤ _; omega, by show h.2.2 + fs.length ≤ _; omega⟩
theorem ol_at {h h1 h2 : hS} {n pa : Nat} (x : ol h h1 n) (hp : h.2.1 ≤ pa) (o : ∀ c, c ≠ pa → h2.1 c = h1.1 c) (s : h2.2 = h1.2) : ol h h2 n := by
  obtain ⟨a, b, c, d⟩ := x
  exact ⟨by rw [s]; exact a, fun i hi => (o i (by omega)).trans (b i hi), by rw [s]; exact c, by rw [s]; exact d⟩
theorem putA_new (k h : hS) : putA k (nwQ h 4 2) h.2.1 bd0 := ⟨_, nwQ_at h 4 2, fun _ _ => rfl⟩
/-- a new row is put -/
theorem p_fitNew {k h : hS} {F : Nat → Prop} (K : Kp k h F) {x y : Nat} {hd t : Tm} (o1 : okT hd) (o2 : okT t) (h1 : szT hd ≤ 9) (h2 : szT t ≤ 9) (T1 : isT k x hd) (T2 : isT k y t) :
    ∃ h', fX0_isFitting 16 (nwQ h 4 2) (some x) (some y) (some h.2.1) = some (bI (fits hd t), h') ∧ ol h h' 1 ∧ ∀ b, fit hd t bd0 = some b → putA k h' h.2.1 b := by
  have K1 := K.ol (ol_nwQ h 4 2 (by omega))
  obtain ⟨h', e, o, s, p⟩ := p_fitting (K.nk (Nat.le_refl _)) hd t 16 (nwQ h 4 2) bd0 x y o1 o2 h2 (by have := dpT_le hd o1; omega) K1.ext T1 T2 (putA_new k h)
  exact ⟨h', e, ol_at (ol_nwQ h 4 2 (by omega)) (Nat.le_refl _) o s, p⟩
theorem p_moreSpecial {k h : hS} {F : Nat → Prop} (K : Kp k h F) {x y : Nat} {t u : Tm} (o1 : okT t) (o2 : okT u) (h1 : szT t ≤ 9) (h2 : szT u ≤ 9) (T1 : isT k x t) (T2 : isT k y u) :
    ∃ h', fX0_isMoreSpecial h (some x) (some y) = some (bI (fits u t && !fits t u), h') ∧ ol h h' 2 := by
  unfold fX0_isMoreSpecial fX0_isMoreSpecial_b28 fX0_isMoreSpecial_b29
  obtain ⟨ha, ea, oa, -⟩ := p_fitNew K o2 o1 h2 h1 T2 T1
  rw [nwQ_2 h 4 (by omega) (by omega), bd_s]
  simp only [Int.reduceToNat]
  rw [ea, bd_s]
  cases fits u t with
  | false =>
    rw [if_pos (by show (0 : Int) = 0; rfl), gd_t (by simp)]
    exact ⟨ha, rfl, oa.mono (by omega)⟩
  | true =>
    rw [if_neg (by show ¬ (1 : Int) = 0; decide), nwQ_2 ha 4 (by omega) (by omega), bd_s]
    simp only [Int.reduceToNat]
    obtain ⟨hb, eb, ob, -⟩ := p_fitNew (K.ol oa) o1 o2 h1 h2 T1 T2
    rw [eb, bd_s]
    cases fits t u with
    | false =>
      rw [if_neg (by show ¬ ¬ (0 : Int) = 0; decide), gd_t (by simp)]
      exact ⟨hb, rfl, oa.trans ob (by omega)⟩
    | true =>
      rw [if_pos (by show ¬ (1 : Int) = 0; decide), gd_t (by simp)]
      exact ⟨hb, rfl, oa.trans ob (by omega)⟩
/-! a list without doubles is no longer than what it is in -/
theorem nodup_le {α : Type} [DecidableEq α] : ∀ (L M : List α), L.Nodup → (∀ x, x ∈ L → x ∈ M) → L.length ≤ M.length := by
  intro L
  induction L with
  | nil => intro M _ _; exact Nat.zero_le _
  | cons a L ih =>
    intro M nd sub
    rw [List.nodup_cons] at nd
    have ha := sub a (List.mem_cons_self ..)
    have := ih (M.erase a) nd.2 (fun x hx => (List.mem_erase_of_ne (fun e => nd.1 (by subst e; exact hx))).mpr (sub x (List.mem_cons_of_mem _ hx)))
    rw [List.length_erase_of_mem ha] at this
    have := List.length_pos_of_mem ha
    simp only [List.length_cons]
    omega
theorem mgt_put (E : List En) (hv x : Int) (o : Nat) (v : Option Nat) : mgt (putE E hv o v) x = if x = hv then v else mgt E x := by
  unfold putE
  split
  · rename_i c
    obtain ⟨e0, he0, c⟩ := List.any_eq_true.mp c
    have c : e0.1 = hv := of_decide_eq_true c
    have key : ∀ L : List En, (L.map (upE hv v)).find? (fun e => decide (e.1 = x)) = (L.find? (fun e => decide (e.1 = x))).map (upE hv v) := by
      intro L
      induction L with
      | nil => rfl
      | cons a L ih =>
        have : (upE hv v a).1 = a.1 := by unfold upE; split <;> rfl
        simp only [List.map_cons, List.find?_cons, this]
        split
        · rfl
        · exact ih
    unfold mgt
    rw [key]
    cases q : E.find? (fun e => decide (e.1 = x)) with
    | none =>
      have := List.find?_eq_none.mp q e0 he0
      have n : ¬ x = hv := by rintro rfl; exact this (by simpa using c)
      rw [if_neg n]; rfl
    | some e =>
      have ex : e.1 = x := by simpa using List.find?_some q
      show (upE hv v e).2.2 = _
      unfold upE
      by_cases n : x = hv
      · rw [if_pos n, if_pos (ex.trans n)]
      · rw [if_neg n, if_neg (by rw [ex]; exact n)]
  · unfold mgt
    simp only [List.find?_cons]
    by_cases n : x = hv
    · rw [if_pos n, show decide (hv = x) = true by simp [n]]
    · rw [if_neg n, show decide (hv = x) = false by simp; exact fun w => n w.symm]
theorem putE_mem {E : List En} {hv : Int} {o : Nat} {v : Option Nat} {e : En} (h : e ∈ putE E hv o v) : e = (hv, some o, v) ∨ (e ∈ E ∧ e.1 ≠ hv) ∨ ∃ e0, e0 ∈ E ∧ e0.1 = hv ∧ e = (hv, e0.2.1, v) := by
  unfold putE at h
  split at h
  · obtain ⟨e0, he0, rfl⟩ := List.mem_map.mp h
    unfold upE
    by_cases c : e0.1 = hv
    · rw [if_pos c]; exact Or.inr (Or.inr ⟨e0, he0, c, by rw [← c]⟩)
    · rw [if_neg c]; exact Or.inr (Or.inl ⟨he0, c⟩)
  · rename_i c
    rcases List.mem_cons.mp h with rfl | he
    · exact Or.inl rfl
    · refine Or.inr (Or.inl ⟨he, fun q => c (List.any_eq_true.mpr ⟨e, he, by simpa using q⟩)⟩)

set_option maxRecDepth 100000
/-! PURE: class DictProof: parts, what is bound -/
/-- the numbers that are kept, 0 to 3 of them -/
def Cch (k : hS) (gs : Option Nat × Option Nat) (ca : Nat → Nat) : Prop := ∃ c f, gs.1 = some c ∧ arQ k 7 256 c f ∧ ∀ v : Nat, v < 4 → f ((v : Int) + 128) = some (ca v) ∧ k.1 (ca v) = some (.inl (15, [vi (v : Int)]))
theorem Cch.mono {k h : hS} {gs : Option Nat × Option Nat} {ca : Nat → Nat} (x : ext k h) (C : Cch k gs ca) : Cch h gs ca := by
  obtain ⟨c, f, e, A, P⟩ := C
  exact ⟨c, f, e, x _ _ A, fun v hv => ⟨(P v hv).1, x _ _ (P v hv).2⟩⟩
theorem p_valueOf {h : hS} {gs : Option Nat × Option Nat} {ca : Nat → Nat} (C : Cch h gs ca) {v : Nat} (hv : v < 4) : fJ3_valueOf gs h (v : Int) = some (some (ca v)) := by
  obtain ⟨c, f, e, A, P⟩ := C
  unfold fJ3_valueOf
  rw [if_neg (by omega), if_neg (by omega), wr_id (by omega) (by omega), e, A.q (by omega) (by omega), bd_s, (P v hv).1]
theorem spH_lt {v : Nat} (hv : v < 4) : spH (v : Int) = (v : Int) := by
  have : v = 0 ∨ v = 1 ∨ v = 2 ∨ v = 3 := by omega
  rcases this with rfl | rfl | rfl | rfl <;> decide
theorem p_hashI {h : hS} {a v : Nat} (hv : v < 4) (e : h.1 a = some (.inl (15, [vi (v : Int)]))) : fJ1_hash h (some a) = some (v : Int) := by
  have r : hI h (some a) [(15, 0)] = some (v : Int) := by unfold hI hF nn; simp only [e]; rfl
  have c : hC h (some a) = some 15 := by unfold hC nn; simp only [e]
  unfold fJ1_hash fJ1_hash_b19 D0_hashCode fJ3_hashCode fJ3_hashCode_2
  simp only [ifN]
  rw [if_neg (by rw [c]; decide), if_neg (by rw [c]; decide), if_pos c, r, bd_s, bd_s, bd_s]
  exact congrArg some (spH_lt hv)
/-- a part: a type and whose variables are in it -/
def isPt (h : hS) (a : Nat) (x : Nd) : Prop := ∃ b, h.1 a = some (.inl (8, [vq (some b), vi (x.2 : Int)])) ∧ isT h b x.1
theorem isPt.mono {k h : hS} (x : ext k h) {a : Nat} {y : Nd} (P : isPt k a y) : isPt h a y := by
  obtain ⟨b, e, T⟩ := P
  exact ⟨b, x _ _ e, T.mono x⟩
def okN (x : Nd) : Prop := okT x.1 ∧ (x.2 = 0 ∨ x.2 = 2) ∧ szT x.1 ≤ 9
theorem nm_lt' {w n : Nat} (h : w < 2) (h2 : n = 0 ∨ n = 2) : w + n < 4 := by omega
theorem nm_lt {x : Nd} (h : okN x) {v : Nat} (e : nmN x = some v) : v < 4 := by
  obtain ⟨x, n⟩ := x
  cases x with
  | var w =>
    have hw : @LT.lt Nat instLTNat w 2 := h.1
    have h2 : n = 0 ∨ n = 2 := h.2.1
    cases e
    exact nm_lt' hw h2
  | num c => cases e
  | mulL k t => cases e
  | add t u => cases e
  | mulR t k => cases e
def nmI (x : Nd) : Int := match nmN x with
  | some v => (v : Int)
  | none => -1
theorem nm_i {x : Nd} : (nmI x = -1 ↔ nmN x = none) := by
  unfold nmI
  cases nmN x with
  | none => simp
  | some v => simp only; constructor
              · intro h; omega
              · intro h; cases h
theorem rdPt {h : hS} {a b : Nat} {n : Int} (e : h.1 a = some (.inl (8, [vq (some b), vi n]))) : hQ h (some a) [(8, 0)] = some (some b) ∧ hI h (some a) [(8, 1)] = some n ∧ hC h (some a) = some 8 ∧ inC h (some a) [8] = true := by
  unfold hI hQ hF inC hC nn
  simp only [e]
  exact ⟨rfl, rfl, trivial, rfl⟩
theorem p_name {h : hS} {a : Nat} {x : Nd} (P : isPt h a x) (ox : okN x) : fX8_name h (some a) = some (nmI x) := by
  obtain ⟨b, e, T⟩ := P
  obtain ⟨r0, r1, r2, r3⟩ := rdPt e
  unfold fX8_name fX0_nameOf fX0_nameOf_b18
  rw [r0, bd_s, r1, bd_s, gd_t T.c, p_variable T ox.1, bd_s]
  obtain ⟨x, n⟩ := x
  have hn := ox.2.1
  cases x with
  | var w =>
    have hw : @LT.lt Nat instLTNat w 2 := ox.1
    have h2 : n = 0 ∨ n = 2 := hn
    rw [if_pos (by show ¬ (w : Int) = -1; omega), gd_t T.c, bd_s]
    show (bd (some (wr ((w : Int) + (n : Int)))) fun p5 => some p5) = some (nmI (Nat.Internal.Linear.Expr.var w, n))
    rw [wr_id (x := (w : Int) + (n : Int)) (by omega) (by omega), bd_s]
    rfl
  | num c => rw [if_neg (by simp [vrT]), bd_s]; rfl
  | mulL k t => rw [if_neg (by simp [vrT]), bd_s]; rfl
  | add t u => rw [if_neg (by simp [vrT]), bd_s]; rfl
  | mulR t k => exact ox.1.elim
/-- what is bound is in the map -/
def BM (k h : hS) (ca : Nat → Nat) (mp : Nat) (F : Nat → Prop) (b : Bn) (Q : Nat) : Prop := ∃ E, HM 64 h mp E F Q ∧ (∀ e, e ∈ E → ∃ v : Nat, v < 4 ∧ e.1 = (v : Int) ∧ e.2.1 = some (ca v)) ∧ ∀ v : Nat, v < 4 → match b v with
  | none => mgt E (v : Int) = none
  | some x => ∃ a, mgt E (v : Int) = some a ∧ isPt k a x ∧ okN x
theorem BM.len {E : List En} {ca : Nat → Nat} (nd : (E.map (·.1)).Nodup) (h : ∀ e, e ∈ E → ∃ v : Nat, v < 4 ∧ e.1 = (v : Int) ∧ e.2.1 = some (ca v)) : E.length ≤ 4 := by
  have := nodup_le (E.map (·.1)) [0, 1, 2, 3] nd (fun x hx => by
    obtain ⟨e, he, rfl⟩ := List.mem_map.mp hx
    obtain ⟨v, hv, e1, -⟩ := h e he
    simp only [e1, List.mem_cons, List.not_mem_nil, or_false]
    omega)
  simpa using this
theorem BM.c {k h : hS} {ca : Nat → Nat} {mp : Nat} {F : Nat → Prop} {b : Bn} {Q : Nat} (B : BM k h ca mp F b Q) : hC h (some mp) = some 11 := by
  obtain ⟨E, ⟨tq, mc, thr, lf, M, r⟩, r2⟩ := B
  exact MO.c M
theorem BM.lt {k h : hS} {ca : Nat → Nat} {mp : Nat} {F : Nat → Prop} {b : Bn} {Q : Nat} (B : BM k h ca mp F b Q) : ∀ a, F a → a < h.2.1 := by
  obtain ⟨E, ⟨tq, mc, thr, lf, M, Fm, Fl, r⟩, r2⟩ := B
  exact Fl
theorem BM.ol {k h h' : hS} {ca : Nat → Nat} {mp : Nat} {F : Nat → Prop} {b : Bn} {Q n : Nat} (B : BM k h ca mp F b Q) (x : ol h h' n) : BM k h' ca mp F b Q := by
  have Fl := B.lt
  obtain ⟨E, M, r⟩ := B
  exact ⟨E, M.ol Fl x, r⟩
theorem BM.mono {k k' h : hS} {ca : Nat → Nat} {mp : Nat} {F : Nat → Prop} {b : Bn} {Q : Nat} (B : BM k h ca mp F b Q) (x : ext k k') : BM k' h ca mp F b Q := by
  obtain ⟨E, M, r1, r2⟩ := B
  refine ⟨E, M, r1, fun v hv => ?_⟩
  have := r2 v hv
  cases hb : b v with
  | none => rw [hb] at this; exact this
  | some y =>
    rw [hb] at this
    obtain ⟨a, e, p, o⟩ := this
    exact ⟨a, e, p.mono x, o⟩
theorem BM.get {k h : hS} {gs : Option Nat × Option Nat} {ca : Nat → Nat} {mp : Nat} {F : Nat → Prop} {b : Bn} {Q : Nat} (B : BM k h ca mp F b Q) (C : Cch h gs ca) {v : Nat} (hv : v < 4) : ∃ z, fJ1_get h (some mp) (some (ca v)) = some z ∧ match b v with
  | none => z = none
  | some x => ∃ a, z = some a ∧ isPt k a x ∧ okN x := by
  obtain ⟨E, M, r1, r2⟩ := B
  obtain ⟨c, f, e, A, P⟩ := C
  refine ⟨mgt E (v : Int), pH_get (by omega) M (p_hashI hv (P v hv).2) (by constructor <;> omega) (fun e he h1 => ?_), ?_⟩
  · left
    obtain ⟨w, hw, e1, e2⟩ := r1 e he
    have : w = v := by omega
    rw [e2, this]
  · have := r2 v hv
    cases hb : b v with
    | none => rw [hb] at this; exact this
    | some y => rw [hb] at this; exact this
theorem BM.put {k h : hS} {gs : Option Nat × Option Nat} {ca : Nat → Nat} {mp : Nat} {F : Nat → Prop} {b : Bn} {Q : Nat} (B : BM k h ca mp F b Q) (C : Cch h gs ca) {v : Nat} (hv : v < 4) {a : Nat} {x : Nd} (P : isPt k a x) (ox : okN x) :
    ∃ z h' F' Q', fJ1_put h (some mp) (some (ca v)) (some a) = some (z, h') ∧ BM k h' ca mp F' (bnU b v x) Q' ∧ fr h h' F F' ∧ h'.2.1 + Q' ≤ h.2.1 + Q + 4 ∧ h'.2.2 + 4 * Q' ≤ h.2.2 + 4 * Q + 16 := by
  obtain ⟨E, M, r1, r2⟩ := B
  have M0 := M
  obtain ⟨c, f, e, A, PC⟩ := C
  obtain ⟨tq, mc, thr, lf, M1, Fm, Fl, nd, rst⟩ := M0
  have l4 := BM.len nd r1
  have key : ∀ e, e ∈ E → e.1 = (v : Int) → e.2.1 = some (ca v) := by
    intro e he h1
    obtain ⟨w, hw, e1, e2⟩ := r1 e he
    have : w = v := by omega
    rw [e2, this]
  obtain ⟨h', F', Q', e1, M', ff, c1, c2⟩ := pH_put (kN := 6) (v := some a) M rfl (by omega) (by omega) (p_hashI hv (PC v hv).2) (by constructor <;> omega) (fun e he h1 => Or.inl (key e he h1)) (by omega)
  have M9 := M'
  obtain ⟨tq', mc', thr', lf', M1', Fm', Fl', nd', rst'⟩ := M9
  have pl : (putE E (v : Int) (ca v) (some a)).length ≤ E.length + 1 := by
    unfold putE; split
    · rw [List.length_map]; omega
    · rw [List.length_cons]; omega
  refine ⟨_, h', F', Q', e1, ⟨_, M', fun e he => ?_, fun w hw => ?_⟩, ff, by omega, by omega⟩
  · rcases putE_mem he with rfl | ⟨he2, -⟩ | ⟨e0, he2, h1, rfl⟩
    · exact ⟨v, hv, rfl, rfl⟩
    · exact r1 e he2
    · exact ⟨v, hv, rfl, key e0 he2 h1⟩
  · rw [mgt_put]
    unfold bnU
    by_cases q : w = v
    · subst q
      rw [show Nat.beq w w = true by simp, cond_true, if_pos rfl]
      exact ⟨a, rfl, P, ox⟩
    · rw [show Nat.beq w v = false by cases q2 : Nat.beq w v with
        | true => exact absurd (Nat.eq_of_beq_eq_true q2) q
        | false => rfl, cond_false, if_neg (by omega)]
      exact r2 w hw
theorem nwS_e (h : hS) (c : Nat) (fs : List hV) : nwS h c fs = some (h.2.1, nwO h c fs) := rfl
/-- a new part -/
theorem p_part {k h : hS} {F : Nat → Prop} (K : Kp k h F) {b : Nat} {t : Tm} {n : Nat} (T : isT k b t) :
    ∃ h' k', fX8_init (nwO h 8 [vq none, vi 0]) (some h.2.1) (some b) (n : Int) = some h' ∧ ext k k' ∧ Kp k' h' F ∧ isPt k' h.2.1 (t, n) ∧ ol h h' 1 := by
  have K0 := K.ol (ol_nwO h 8 [vq none, vi 0] (by simp))
  obtain ⟨h1, e1, a1, o1, s1⟩ := hW_at (P := [(8, 0)]) (v := vq (some b)) (nwO_at h 8 [vq none, vi 0]) rfl (by simp)
  obtain ⟨h2, e2, a2, o2, s2⟩ := hW_at (P := [(8, 1)]) (v := vi (n : Int)) a1 rfl (by simp)
  have O : ol h h2 1 := ol_at (ol_nwO h 8 [vq none, vi 0] (by simp)) (Nat.le_refl _) (fun c hc => (o2 c hc).trans (o1 c hc)) (s2.trans s1)
  have nF : ¬ F h.2.1 := fun q => by have := K.2 _ q; omega
  obtain ⟨K', X⟩ := (K.ol O).add (a := h.2.1) (K.nk (Nat.le_refl _)) a2 (by rw [s2, s1]; show h.2.1 < h.2.1 + 1; omega) nF
  refine ⟨h2, _, ?_, X, K', ⟨b, hup_at _ _ _, T.mono X⟩, O⟩
  unfold fX8_init
  rw [gd_t (by simp), e1, bd_s, e2, bd_s]
theorem p_rooted_L {k h : hS} {gs : Option Nat × Option Nat} {ca : Nat → Nat} {mp : Nat} {F : Nat → Prop} {b : Bn} {Q : Nat} (X : ext k h) (C : Cch h gs ca) (B : BM k h ca mp F b Q) :
    ∀ (f n p : Nat) (x y : Nd), f ≤ n → isPt k p x → okN x → rootN b f x = some y → ∃ p', fX0_rooted_L2 n gs h (some mp) (some p) = some (some p') ∧ isPt k p' y ∧ okN y := by
  intro f
  induction f with
  | zero => intro n p x y _ _ _ h; cases h
  | succ f ih =>
    intro n p x y hn P ox hr
    obtain ⟨n, rfl⟩ : ∃ m, n = m + 1 := ⟨n - 1, by omega⟩
    have Ph := P.mono X
    have c8 : hC h (some p) = some 8 := by obtain ⟨b, e, -⟩ := Ph; exact (rdPt e).2.2.1
    rw [fX0_rooted_L2_s]
    unfold fX0_rooted_b2 fX0_rooted_b42
    rw [gd_t c8, p_name Ph ox, bd_s]
    simp only [rootN] at hr
    cases en : nmN x with
    | none =>
      rw [en] at hr
      cases (show some x = some y from hr)
      rw [if_pos (nm_i.mpr en)]
      exact ⟨p, rfl, P, ox⟩
    | some v =>
      rw [en] at hr
      have hv := nm_lt ox en
      have ei : nmI x = (v : Int) := by unfold nmI; rw [en]
      rw [if_neg (by rw [ei]; omega), gd_t c8, bd_s, ei, p_valueOf C hv, bd_s, gd_t B.c]
      obtain ⟨z, ez, gz⟩ := B.get C hv
      rw [ez, bd_s]
      cases eb : b v with
      | none =>
        simp only [eb] at hr gz
        cases hr
        rw [gz]
        exact ⟨p, rfl, P, ox⟩
      | some y1 =>
        simp only [eb] at hr gz
        obtain ⟨a, rfl, Pa, oa⟩ := gz
        simp only [ifN]
        have Pah := Pa.mono X
        have ia : inC h (some a) [8] = true := by obtain ⟨b, e, -⟩ := Pah; exact (rdPt e).2.2.2
        rw [gd_t c8, bd_s, p_valueOf C hv, bd_s, gd_t B.c, ez, bd_s, gd_t (Or.inr ia)]
        exact ih n a y1 y (by omega) Pa oa hr
theorem p_rooted {k h : hS} {gs : Option Nat × Option Nat} {ca : Nat → Nat} {mp : Nat} {F : Nat → Prop} {b : Bn} {Q : Nat} (X : ext k h) (C : Cch h gs ca) (B : BM k h ca mp F b Q) {p : Nat} {x y : Nd} (P : isPt k p x) (ox : okN x) (hr : rootN b 6 x = some y) :
    ∃ p', fX0_rooted gs h (some p) (some mp) = some (some p') ∧ isPt k p' y ∧ okN y := p_rooted_L X C B 6 FU p x y (by unfold FU; omega) P ox hr

set_option maxRecDepth 100000
/-! PURE: class DictProof: whether two heads can be made one -/
theorem isPt.c {h : hS} {a : Nat} {x : Nd} (P : isPt h a x) : hC h (some a) = some 8 := by
  obtain ⟨b, e, -⟩ := P
  exact (rdPt e).2.2.1
theorem isPt.rd {h : hS} {a : Nat} {x : Nd} (P : isPt h a x) : ∃ b, hQ h (some a) [(8, 0)] = some (some b) ∧ hI h (some a) [(8, 1)] = some (x.2 : Int) ∧ isT h b x.1 := by
  obtain ⟨b, e, T⟩ := P
  exact ⟨b, (rdPt e).1, (rdPt e).2.1, T⟩
/-- what lies in a part's type -/
theorem isPt.rr {k : hS} {a : Nat} {x : Nd} (P : isPt k a x) (o : okN x) : ∃ b p q, opT k p (tO x.1) ∧ opT k q (tW x.1) ∧ ∀ h : hS, ext k h → hQ h (some a) [(8, 0)] = some (some b) ∧ hI h (some a) [(8, 1)] = some (x.2 : Int) ∧ hI h (some b) [(7, 0)] = some (sgT x.1) ∧ hQ h (some b) [(7, 1)] = some p ∧ hQ h (some b) [(7, 2)] = some q := by
  obtain ⟨b, e, T⟩ := P
  obtain ⟨p, q, e1, po, pw, -⟩ := T.rd o.1
  refine ⟨b, p, q, po, pw, fun h X => ?_⟩
  obtain ⟨r0, r1, -⟩ := rdPt (X _ _ e)
  obtain ⟨s0, s1, s2, -⟩ := rdT (X _ _ e1)
  exact ⟨r0, r1, s0, s1, s2⟩
theorem ok_No {x : Nd} {u : Tm} (h : okN x) (e : tO x.1 = some u) : okN (u, x.2) := ⟨(ok_o h.1 e).1, h.2.1, by have := (ok_o h.1 e).2.2; have := h.2.2; show szT u ≤ 9; omega⟩
theorem ok_Nw {x : Nd} {u : Tm} (h : okN x) (e : tW x.1 = some u) : okN (u, x.2) := ⟨(ok_w h.1 e).1, h.2.1, by have := (ok_w h.1 e).2.2; have := h.2.2; show szT u ≤ 9; omega⟩
theorem p_inside {gs : Option Nat × Option Nat} {ca : Nat → Nat} {mp v : Nat} {b : Bn} {F : Nat → Prop} {Q : Nat} :
    ∀ (f : Nat) (x : Nd) (r : Bool), insN b v f x = some r → ∀ (d a : Nat) (h k : hS), f < d → Kp k h F → Cch k gs ca → BM k h ca mp F b Q → isT k a x.1 → okN x →
    ∃ h', fX0_isInside d gs h (v : Int) (some a) (x.2 : Int) (some mp) = some (bI r, h') ∧ ol h h' (2 ^ f - 1) := by
  intro f
  induction f with
  | zero => intro x r h; cases h
  | succ f ih =>
    intro x r hr d a h k hd K C B T ox
    obtain ⟨d, rfl⟩ : ∃ m, d = m + 1 := ⟨d - 1, by omega⟩
    obtain ⟨h1, k1, e1, X, K1, P1, O1⟩ := p_part (n := x.2) K T
    have C1 := C.mono X
    have B1 := (B.ol O1).mono X
    have pw : 2 ^ (f + 1) = 2 ^ f + 2 ^ f := by rw [Nat.pow_succ]; omega
    have p1 : 0 < 2 ^ f := Nat.pow_pos (by omega)
    simp only [insN] at hr
    cases er : rootN b 6 x with
    | none => rw [er] at hr; cases (show none = some r from hr)
    | some y =>
      rw [er] at hr
      obtain ⟨p', e2, Py, oy⟩ := p_rooted (gs := gs) K1.ext (C1.mono K1.ext) B1 P1 ox er
      show ∃ h', fX0_isInside_B (fX0_isInside d) gs h (v : Int) (some a) (x.2 : Int) (some mp) = some (bI r, h') ∧ ol h h' _
      unfold fX0_isInside_B fX0_isInside_b44 fX0_isInside_b87 fX0_isInside_b92
      simp only [ifN]
      rw [nwS_e, bd_s]
      dsimp only
      rw [e1, bd_s, e2, bd_s, gd_t (Py.mono K1.ext).c, p_name (Py.mono K1.ext) oy, bd_s]
      obtain ⟨b1, p, q, po, pw', rd⟩ := Py.rr oy
      obtain ⟨i0, i1, i2, i3, i4⟩ := rd h1 K1.ext
      obtain ⟨y, n⟩ := y
      -- no variable
      have noV : ∀ z : Option Nd, nmN (y, n) = none → ∀ (r1 r2 : Bool), r = (r1 || r2) →
          (∃ h2, fX0_isInside d gs h1 (v : Int) p (n : Int) (some mp) = some (bI r1, h2) ∧ ol h1 h2 (2 ^ f - 1)) →
          (∀ h2, ol h1 h2 (2 ^ f - 1) → ∃ h3, fX0_isInside d gs h2 (v : Int) q (n : Int) (some mp) = some (bI r2, h3) ∧ ol h2 h3 (2 ^ f - 1)) →
          ∃ h', (if nmI (y, n) = -1 then bd (hQ h1 (some p') [(8, 0)]) fun v21 => bd (hQ h1 v21 [(7, 1)]) fun v23 => bd (hI h1 (some p') [(8, 1)]) fun v25 => bd (fX0_isInside d gs h1 (v : Int) v23 v25 (some mp)) fun p27 => if ¬ p27.1 = 0 then gd ((1 : Int) = 0 ∨ (1 : Int) = 1) (some ((1 : Int), p27.2)) else bd (hQ p27.2 (some p') [(8, 0)]) fun v33 => bd (hQ p27.2 v33 [(7, 2)]) fun v35 => bd (hI p27.2 (some p') [(8, 1)]) fun v37 => bd (fX0_isInside d gs p27.2 (v : Int) v35 v37 (some mp)) fun p39 => if p39.1 = 0 then gd ((0 : Int) = 0 ∨ (0 : Int) = 1) (some ((0 : Int), p39.2)) else gd ((1 : Int) = 0 ∨ (1 : Int) = 1) (some ((1 : Int), p39.2))
            else gd (hC h1 (some p') = some 8) (bd (fX8_name h1 (some p')) fun p45 => if ¬ p45 = (v : Int) then gd ((0 : Int) = 0 ∨ (0 : Int) = 1) (some ((0 : Int), h1)) else gd ((1 : Int) = 0 ∨ (1 : Int) = 1) (some ((1 : Int), h1)))) = some (bI r, h') ∧ ol h h' (2 ^ (f + 1) - 1) := by
        rintro - nn0 r1 r2 rfl ⟨h2, e3, O2⟩ hw
        rw [if_pos (nm_i.mpr nn0), i0, bd_s, i3, bd_s, i1, bd_s]
        rw [e3, bd_s]
        cases r1 with
        | true =>
          rw [if_pos (by show ¬ (1 : Int) = 0; decide), gd_t (by simp)]
          exact ⟨h2, rfl, O1.trans O2 (by omega)⟩
        | false =>
          rw [if_neg (by show ¬ ¬ (0 : Int) = 0; decide)]
          obtain ⟨j0, j1, j2, j3, j4⟩ := rd h2 (K1.ol O2).ext
          dsimp only
          rw [j0, bd_s, j4, bd_s, j1, bd_s]
          obtain ⟨h3, e4, O3⟩ := hw h2 O2
          rw [e4, bd_s]
          cases r2 with
          | true =>
            rw [if_neg (by show ¬ (1 : Int) = 0; decide), gd_t (by simp)]
            exact ⟨h3, rfl, O1.trans (O2.trans O3 (Nat.le_refl _)) (by omega)⟩
          | false =>
            rw [if_pos (by show (0 : Int) = 0; decide), gd_t (by simp)]
            exact ⟨h3, rfl, O1.trans (O2.trans O3 (Nat.le_refl _)) (by omega)⟩
      obtain ⟨d, rfl⟩ : ∃ m, d = m + 1 := ⟨d - 1, by omega⟩
      have nul : ∀ (h2 : hS), ∃ h3, fX0_isInside (d + 1) gs h2 (v : Int) none (n : Int) (some mp) = some (bI false, h3) ∧ ol h2 h3 (2 ^ f - 1) := fun h2 => ⟨h2, rfl, (ol.refl h2).mono (by omega)⟩
      cases y with
      | num c =>
        cases (show some false = some r from hr)
        rw [show p = none from po] at i3 rd noV
        rw [show q = none from pw'] at i4 rd noV
        exact noV none rfl false false rfl (nul h1) (fun h2 _ => nul h2)
      | mulR t c => exact oy.1.elim
      | var w =>
        cases (show some (Nat.beq (w + n) v) = some r from hr)
        have en : nmI (.var w, n) = ((w + n : Nat) : Int) := rfl
        rw [if_neg (by rw [en]; omega), gd_t (Py.mono K1.ext).c, bd_s, en]
        by_cases c : w + n = v
        · rw [if_neg (by rw [c]; simp), gd_t (by simp), show Nat.beq (w + n) v = true by rw [c]; simp]
          exact ⟨h1, rfl, O1.mono (by omega)⟩
        · rw [if_pos (fun q => c (Int.ofNat_inj.mp q)), gd_t (by simp), show Nat.beq (w + n) v = false by cases q2 : Nat.beq (w + n) v with
            | true => exact absurd (Nat.eq_of_beq_eq_true q2) c
            | false => rfl]
          exact ⟨h1, rfl, O1.mono (by omega)⟩
      | mulL c t =>
        obtain ⟨pa, rfl, Ta⟩ := po
        rw [show q = none from pw'] at i4 rd noV
        refine noV none rfl r false (by simp) ?_ (fun h2 _ => nul h2)
        exact ih (t, n) r hr (d + 1) pa h1 k1 (by omega) K1 C1 B1 Ta (ok_No oy rfl)
      | add t u =>
        obtain ⟨pa, rfl, Ta⟩ := po
        obtain ⟨qa, rfl, Tb⟩ := pw'
        simp only at hr
        cases h1' : insN b v f (t, n) with
        | none => rw [h1'] at hr; cases (show none = some r from hr)
        | some r1 =>
          cases h2' : insN b v f (u, n) with
          | none => rw [h1', h2'] at hr; cases (show none = some r from hr)
          | some r2 =>
            rw [h1', h2'] at hr
            cases (show some (r1 || r2) = some r from hr)
            refine noV none rfl r1 r2 rfl ?_ ?_
            · exact ih (t, n) r1 h1' (d + 1) pa h1 k1 (by omega) K1 C1 B1 Ta (ok_No oy rfl)
            · intro h2 O2
              exact ih (u, n) r2 h2' (d + 1) qa h2 k1 (by omega) (K1.ol O2) C1 (B1.ol O2) Tb (ok_Nw oy rfl)

set_option maxRecDepth 100000
/-! PURE: class DictProof: two heads are made one -/
theorem fr.ofol {h h' : hS} {F : Nat → Prop} {n : Nat} (x : ol h h' n) : fr h h' F F := ⟨fun a ha => Or.inl ha, fun b _ hb => x.2.1 b hb, x.1⟩
theorem p_bound {gs : Option Nat × Option Nat} {ca : Nat → Nat} {mp v : Nat} {b : Bn} {F : Nat → Prop} {Q : Nat} {h k : hS} {pz pw : Nat} {z w : Nd} {r : Bool}
    (K : Kp k h F) (C : Cch k gs ca) (B : BM k h ca mp F b Q) (Pz : isPt k pz z) (Pw : isPt k pw w) (oz : okN z) (ow : okN w) (en : nmN z = some v) (hr : insN b v 5 w = some r) :
    ∃ h' F' Q', fX0_isBound gs h (some pz) (some pw) (some mp) = some (bI (!r), h') ∧ fr h h' F F' ∧ Kp k h' F' ∧ (r = false → BM k h' ca mp F' (bnU b v w) Q') ∧ h'.2.1 + Q' ≤ h.2.1 + Q + 35 ∧ h'.2.2 + 4 * Q' ≤ h.2.2 + 4 * Q + 140 := by
  have hv := nm_lt oz en
  have ei : nmI z = (v : Int) := by unfold nmI; rw [en]
  obtain ⟨bw, i0, i1, Tw⟩ := (Pw.mono K.ext).rd
  obtain ⟨bw', ew, Tw'⟩ := Pw
  have ebw : bw' = bw := by
    have := (rdPt (K.ext _ _ ew)).1
    rw [i0] at this
    exact (Option.some.inj (Option.some.inj this)).symm
  subst ebw
  obtain ⟨h1, e1, O1⟩ := p_inside 5 w r hr 16 bw' h k (by omega) K C B Tw' ow
  have C1 := C.mono (K.ol O1).ext
  unfold fX0_isBound
  rw [gd_t (Pz.mono K.ext).c, p_name (Pz.mono K.ext) oz, bd_s, i0, bd_s, i1, bd_s, ei, e1, bd_s]
  cases r with
  | true =>
    rw [if_neg (by show ¬ (1 : Int) = 0; decide)]
    refine ⟨h1, F, Q, rfl, fr.ofol O1, K.ol O1, (fun q => by cases q), ?_, ?_⟩
    · have := O1.2.2.1; omega
    · have := O1.2.2.2; omega
  | false =>
    rw [if_pos (by show (0 : Int) = 0; rfl)]
    have K1 := K.ol O1
    obtain ⟨z1, h2, F2, Q2, e2, B2, f2, c1, c2⟩ := (B.ol O1).put C1 hv (show isPt k pw w from ⟨bw', ew, Tw'⟩) ow
    rw [gd_t (Pz.mono K1.ext).c, p_name (Pz.mono K1.ext) oz, bd_s, ei, p_valueOf C1 hv, bd_s, gd_t (B.ol O1).c, e2, bd_s]
    refine ⟨h2, F2, Q2, rfl, (fr.ofol O1).trans f2, K1.frm f2 B2.lt, fun _ => B2, ?_, ?_⟩
    · have := O1.2.2.1; omega
    · have := O1.2.2.2; omega
def madeR (k h : hS) (ca : Nat → Nat) (mp : Nat) (F : Nat → Prop) (Q f : Nat) (r : Option Bn) (Z : Option (Int × hS)) : Prop :=
  ∃ h' k' F' Q', Z = some (bI r.isSome, h') ∧ ext k k' ∧ Kp k' h' F' ∧ fr h h' F F' ∧ (∀ b', r = some b' → BM k' h' ca mp F' b' Q') ∧ h'.2.1 + Q' + 2 ≤ h.2.1 + Q + 20 * 2 ^ f ∧ h'.2.2 + 4 * Q' + 8 ≤ h.2.2 + 4 * Q + 80 * 2 ^ f
theorem p_made {gs : Option Nat × Option Nat} {ca : Nat → Nat} {mp : Nat} :
    ∀ (f : Nat) (b : Bn) (x y : Nd) (r : Option Bn), mkG 5 f b x y = some r → ∀ (d a c : Nat) (h k : hS) (F : Nat → Prop) (Q : Nat), f < d → Kp k h F → Cch k gs ca → BM k h ca mp F b Q → isT k a x.1 → isT k c y.1 → okN x → okN y →
    madeR k h ca mp F Q f r (fX0_isMade d gs h (some a) (x.2 : Int) (some c) (y.2 : Int) (some mp)) := by
  intro f
  induction f with
  | zero => intro b x y r h; cases h
  | succ f ih =>
    intro b x y r hr d a c h k F Q hd K C B Ta Tc ox oy
    obtain ⟨d, rfl⟩ : ∃ m, d = m + 1 := ⟨d - 1, by omega⟩
    have pw : 2 ^ (f + 1) = 2 ^ f + 2 ^ f := by rw [Nat.pow_succ]; omega
    have p1 : 0 < 2 ^ f := Nat.pow_pos (by omega)
    simp only [mkG] at hr
    cases erx : rootN b 6 x with
    | none => rw [erx] at hr; cases (show none = some r from hr)
    | some x' =>
    cases ery : rootN b 6 y with
    | none => rw [erx, ery] at hr; cases (show none = some r from hr)
    | some y' =>
    rw [erx, ery] at hr
    simp only at hr
    -- the first part
    obtain ⟨h1, k1, e1, X1, K1, P1, O1⟩ := p_part (n := x.2) K Ta
    have B1 := (B.ol O1).mono X1
    obtain ⟨px, e2, Px, oxx⟩ := p_rooted (gs := gs) K1.ext ((C.mono X1).mono K1.ext) B1 P1 ox erx
    -- the second one
    obtain ⟨h2, k2, e3, X2, K2, P2, O2⟩ := p_part (n := y.2) K1 (Tc.mono X1)
    have B2 := (B1.ol O2).mono X2
    have C2 := (C.mono X1).mono X2
    obtain ⟨py, e4, Py, oyy⟩ := p_rooted (gs := gs) K2.ext (C2.mono K2.ext) B2 P2 oy ery
    have Px := Px.mono X2
    have XX := X1.trans X2
    have O12 : ol h h2 2 := O1.trans O2 (by omega)
    have lb : h2.2.1 ≤ h.2.1 + 2 ∧ h2.2.2 ≤ h.2.2 + 8 := ⟨O12.2.2.1, O12.2.2.2⟩
    -- what remains
    have fin : ∀ Z, (∃ h' k' F' Q', Z = some (bI r.isSome, h') ∧ ext k2 k' ∧ Kp k' h' F' ∧ fr h2 h' F F' ∧ (∀ b', r = some b' → BM k' h' ca mp F' b' Q') ∧ h'.2.1 + Q' + 4 ≤ h2.2.1 + Q + 20 * 2 ^ (f + 1) ∧ h'.2.2 + 4 * Q' + 16 ≤ h2.2.2 + 4 * Q + 80 * 2 ^ (f + 1)) → madeR k h ca mp F Q (f + 1) r Z := by
      rintro Z ⟨h', k', F', Q', e, X, K', f', B', c1, c2⟩
      exact ⟨h', k', F', Q', e, XX.trans X, K', (fr.ofol O12).trans f', B', by omega, by omega⟩
    show madeR k h ca mp F Q (f + 1) r (fX0_isMade_B (fX0_isMade d) gs h (some a) (x.2 : Int) (some c) (y.2 : Int) (some mp))
    refine fin _ ?_
    unfold fX0_isMade_B
    simp only [ifN]
    rw [nwS_e, bd_s]
    dsimp only
    rw [e1, bd_s, e2, bd_s, nwS_e, bd_s]
    dsimp only
    rw [e3, bd_s, e4, bd_s, gd_t (Px.mono K2.ext).c, p_name (Px.mono K2.ext) oxx, bd_s]
    -- one is bound
    have bnd : ∀ (v : Nat) (z w : Nd) (pz pw : Nat), isPt k2 pz z → isPt k2 pw w → okN z → okN w → nmN z = some v → (match insN b v 5 w with
        | none => none
        | some true => some none
        | some false => some (some (bnU b v w))) = some r →
        ∃ h' k' F' Q', (bd (fX0_isBound gs h2 (some pz) (some pw) (some mp)) fun p63 => some (p63.1, p63.2)) = some (bI r.isSome, h') ∧ ext k2 k' ∧ Kp k' h' F' ∧ fr h2 h' F F' ∧ (∀ b', r = some b' → BM k' h' ca mp F' b' Q') ∧ h'.2.1 + Q' + 4 ≤ h2.2.1 + Q + 20 * 2 ^ (f + 1) ∧ h'.2.2 + 4 * Q' + 16 ≤ h2.2.2 + 4 * Q + 80 * 2 ^ (f + 1) := by
      intro v z w pz pw Pz Pw oz ow en hz
      cases ei : insN b v 5 w with
      | none => rw [ei] at hz; cases (show none = some r from hz)
      | some q =>
        obtain ⟨h', F', Q', e, ff, K', BB, c1, c2⟩ := p_bound K2 C2 B2 Pz Pw oz ow en ei
        rw [e, bd_s]
        rw [ei] at hz
        cases q with
        | true =>
          cases (show some none = some r from hz)
          exact ⟨h', k2, F', Q', rfl, ext.refl _, K', ff, (fun b' hb => by cases hb), by omega, by omega⟩
        | false =>
          cases (show some (some (bnU b v w)) = some r from hz)
          exact ⟨h', k2, F', Q', rfl, ext.refl _, K', ff, (fun b' hb => by cases hb; exact BB rfl), by omega, by omega⟩
    -- the second look
    have b62 : ∀ (z : Option Bn), z = r → (nmI x' = -1 ∨ nmI x' ≠ nmI y') → ∃ h' k' F' Q', fX0_isMade_b62 (fX0_isMade d) gs h2 (some mp) (some px) (some py) = some (bI r.isSome, h') ∧ ext k2 k' ∧ Kp k' h' F' ∧ fr h2 h' F F' ∧ (∀ b', r = some b' → BM k' h' ca mp F' b' Q') ∧ h'.2.1 + Q' + 4 ≤ h2.2.1 + Q + 20 * 2 ^ (f + 1) ∧ h'.2.2 + 4 * Q' + 16 ≤ h2.2.2 + 4 * Q + 80 * 2 ^ (f + 1) := by
      intro _ _ hnn
      unfold fX0_isMade_b62 fX0_isMade_b191 fX0_isMade_b192
      rw [gd_t (Px.mono K2.ext).c, p_name (Px.mono K2.ext) oxx, bd_s]
      cases en : nmN x' with
      | some v =>
        have ei : nmI x' = (v : Int) := by unfold nmI; rw [en]
        rw [en] at hr
        rw [if_neg (by rw [ei]; omega)]
        cases en2 : nmN y' with
        | none => rw [en2] at hr; exact bnd v x' y' px py Px Py oxx oyy en hr
        | some w =>
          rw [en2] at hr
          have ei2 : nmI y' = (w : Int) := by unfold nmI; rw [en2]
          have ne : Nat.beq v w = false := by
            cases q2 : Nat.beq v w with
            | false => rfl
            | true =>
              have := Nat.eq_of_beq_eq_true q2
              rcases hnn with q | q
              · rw [ei] at q; omega
              · rw [ei, ei2, this] at q; exact absurd rfl q
          simp only [ne, cond_false] at hr
          exact bnd v x' y' px py Px Py oxx oyy en hr
      | none =>
        rw [if_pos (nm_i.mpr en), gd_t (Py.mono K2.ext).c, p_name (Py.mono K2.ext) oyy, bd_s]
        cases en2 : nmN y' with
        | some w =>
          have ei2 : nmI y' = (w : Int) := by unfold nmI; rw [en2]
          rw [en, en2] at hr
          rw [if_neg (by rw [ei2]; omega)]
          exact bnd w y' x' py px Py Px oyy oxx en2 hr
        | none =>
          rw [en, en2] at hr
          simp only at hr
          rw [if_pos (nm_i.mpr en2)]
          obtain ⟨bx, p, q, po, pw', rdx⟩ := Px.rr oxx
          obtain ⟨by', p', q', po', pw'', rdy⟩ := Py.rr oyy
          obtain ⟨i0, i1, i2, i3, i4⟩ := rdx h2 K2.ext
          obtain ⟨j0, j1, j2, j3, j4⟩ := rdy h2 K2.ext
          rw [i0, bd_s, i2, bd_s, j0, bd_s, j2, bd_s]
          by_cases sg : sgT x'.1 = sgT y'.1
          · rw [if_neg (by simpa using sg), bd_s, i3, bd_s, i1, bd_s, bd_s, j3, bd_s, j1, bd_s]
            obtain ⟨s1, s2⟩ := sg_ow oxx.1 oyy.1 sg
            obtain ⟨x', n⟩ := x'
            obtain ⟨y', m⟩ := y'
            obtain ⟨d, rfl⟩ : ∃ m, d = m + 1 := ⟨d - 1, by omega⟩
            cases x' with
            | mulR t c => exact oxx.1.elim
            | var w => cases en
            | num cx =>
              cases y' with
              | mulR t c => exact oyy.1.elim
              | var w => cases en2
              | mulL k t => cases s1
              | add t u => cases s1
              | num cy =>
                have ec : cx = cy := by simp only [sgT] at sg; omega
                subst ec
                simp only [show Nat.beq cx cx = true by simp, cond_true] at hr
                cases hr
                rw [show p = none from po, show fX0_isMade (d + 1) gs h2 none (n : Int) p' (m : Int) (some mp) = some (1, h2) from rfl, bd_s, if_neg (by show ¬ (1 : Int) = 0; decide)]
                dsimp only
                rw [i0, bd_s, i4, bd_s, i1, bd_s, j0, bd_s, j4, bd_s, j1, bd_s, show q = none from pw', show fX0_isMade (d + 1) gs h2 none (n : Int) q' (m : Int) (some mp) = some (1, h2) from rfl, bd_s, if_neg (by show ¬ (1 : Int) = 0; decide), gd_t (by simp)]
                exact ⟨h2, k2, F, Q, rfl, ext.refl _, K2, fr.ofol (ol.refl h2), (fun b' hb => by cases hb; exact B2), by omega, by omega⟩
            | mulL k t =>
              cases y' with
              | mulR t c => exact oyy.1.elim
              | var w => cases en2
              | num k => cases s1
              | add t u => cases s2
              | mulL k' t' =>
                obtain ⟨pa, rfl, Tpa⟩ := po
                obtain ⟨pb, rfl, Tpb⟩ := po'
                obtain ⟨h3, k3, F3, Q3, e5, X3, K3, f3, B3, c1, c2⟩ := ih b (t, n) (t', m) r hr (d + 1) pa pb h2 k2 F Q (by omega) K2 C2 B2 Tpa Tpb (ok_No oxx rfl) (ok_No oyy rfl)
                rw [e5, bd_s]
                cases r with
                | none =>
                  rw [if_pos (by show (0 : Int) = 0; rfl), gd_t (by simp)]
                  exact ⟨h3, k3, F3, Q3, rfl, X3, K3, f3, (fun b' hb => by cases hb), by omega, by omega⟩
                | some b' =>
                  rw [if_neg (by show ¬ (1 : Int) = 0; decide)]
                  obtain ⟨i0, i1, i2, i3, i4⟩ := rdx h3 (X3.trans K3.ext)
                  obtain ⟨j0, j1, j2, j3, j4⟩ := rdy h3 (X3.trans K3.ext)
                  dsimp only
                  rw [i0, bd_s, i4, bd_s, i1, bd_s, j0, bd_s, j4, bd_s, j1, bd_s, show q = none from pw', show fX0_isMade (d + 1) gs h3 none (n : Int) q' (m : Int) (some mp) = some (1, h3) from rfl, bd_s, if_neg (by show ¬ (1 : Int) = 0; decide), gd_t (by simp)]
                  exact ⟨h3, k3, F3, Q3, rfl, X3, K3, f3, B3, by omega, by omega⟩
            | add t u =>
              cases y' with
              | mulR t c => exact oyy.1.elim
              | var w => cases en2
              | num k => cases s1
              | mulL t u => cases s2
              | add t' u' =>
                obtain ⟨pa, rfl, Tpa⟩ := po
                obtain ⟨pb, rfl, Tpb⟩ := po'
                obtain ⟨qa, rfl, Tqa⟩ := pw'
                obtain ⟨qb, rfl, Tqb⟩ := pw''
                simp only at hr
                cases em : mkG 5 f b (t, n) (t', m) with
                | none => rw [em] at hr; cases (show none = some r from hr)
                | some r1 =>
                rw [em] at hr
                obtain ⟨h3, k3, F3, Q3, e5, X3, K3, f3, B3, c1, c2⟩ := ih b (t, n) (t', m) r1 em (d + 1) pa pb h2 k2 F Q (by omega) K2 C2 B2 Tpa Tpb (ok_No oxx rfl) (ok_No oyy rfl)
                rw [e5, bd_s]
                cases r1 with
                | none =>
                  cases (show some none = some r from hr)
                  rw [if_pos (by show (0 : Int) = 0; rfl), gd_t (by simp)]
                  exact ⟨h3, k3, F3, Q3, rfl, X3, K3, f3, (fun b' hb => by cases hb), by omega, by omega⟩
                | some b' =>
                  rw [if_neg (by show ¬ (1 : Int) = 0; decide)]
                  obtain ⟨i0, i1, i2, i3, i4⟩ := rdx h3 (X3.trans K3.ext)
                  obtain ⟨j0, j1, j2, j3, j4⟩ := rdy h3 (X3.trans K3.ext)
                  dsimp only
                  rw [i0, bd_s, i4, bd_s, i1, bd_s, j0, bd_s, j4, bd_s, j1, bd_s]
                  obtain ⟨h4, k4, F4, Q4, e6, X4, K4, f4, B4, c3, c4⟩ := ih b' (u, n) (u', m) r hr (d + 1) qa qb h3 k3 F3 Q3 (by omega) K3 (C2.mono X3) (B3 b' rfl) (Tqa.mono X3) (Tqb.mono X3) (ok_Nw oxx rfl) (ok_Nw oyy rfl)
                  rw [e6, bd_s]
                  have ff := f3.trans f4
                  cases r with
                  | none =>
                    rw [if_pos (by show (0 : Int) = 0; rfl), gd_t (by simp)]
                    exact ⟨h4, k4, F4, Q4, rfl, X3.trans X4, K4, ff, (fun b' hb => by cases hb), by omega, by omega⟩
                  | some b2 =>
                    rw [if_neg (by show ¬ (1 : Int) = 0; decide), gd_t (by simp)]
                    exact ⟨h4, k4, F4, Q4, rfl, X3.trans X4, K4, ff, B4, by omega, by omega⟩
          · rw [if_pos sg, gd_t (by simp)]
            have : r = none := by
              obtain ⟨x', n⟩ := x'
              obtain ⟨y', m⟩ := y'
              cases x' with
              | mulR t c => exact oxx.1.elim
              | var w => cases en
              | num v1 =>
                cases y' with
                | mulR t c => exact oyy.1.elim
                | var w => cases en2
                | mulL k t => cases hr; rfl
                | add t u => cases hr; rfl
                | num v2 =>
                  have ne : Nat.beq v1 v2 = false := by
                    cases q2 : Nat.beq v1 v2 with
                    | false => rfl
                    | true => exact absurd (by rw [Nat.eq_of_beq_eq_true q2]) sg
                  simp only [ne, cond_false] at hr
                  cases hr; rfl
              | mulL k t =>
                cases y' with
                | mulR t c => exact oyy.1.elim
                | var w => cases en2
                | num v => cases hr; rfl
                | add t u => cases hr; rfl
                | mulL k' t' => exact absurd rfl sg
              | add t u =>
                cases y' with
                | mulR t c => exact oyy.1.elim
                | var w => cases en2
                | num v => cases hr; rfl
                | mulL k' t' => cases hr; rfl
                | add t' u' => exact absurd rfl sg
            subst this
            exact ⟨h2, k2, F, Q, rfl, ext.refl _, K2, fr.ofol (ol.refl h2), (fun b' hb => by cases hb), by omega, by omega⟩
    by_cases n1 : nmI x' = -1
    · rw [if_pos n1]
      exact b62 r rfl (Or.inl n1)
    · rw [if_neg n1, gd_t (Px.mono K2.ext).c, bd_s, gd_t (Py.mono K2.ext).c, p_name (Py.mono K2.ext) oyy, bd_s]
      by_cases n2 : nmI x' = nmI y'
      · rw [if_neg (by simpa using n2)]
        cases en : nmN x' with
        | none => exact absurd (nm_i.mpr en) n1
        | some v =>
          cases en2 : nmN y' with
          | none => exact absurd (n2.trans (nm_i.mpr en2)) n1
          | some w =>
            have : v = w := by
              unfold nmI at n2
              rw [en, en2] at n2
              exact Int.ofNat_inj.mp n2
            subst this
            rw [en, en2] at hr
            simp only [show Nat.beq v v = true by simp, cond_true] at hr
            cases hr
            exact ⟨h2, k2, F, Q, rfl, ext.refl _, K2, fr.ofol (ol.refl h2), (fun b' hb => by cases hb; exact B2), by omega, by omega⟩
      · rw [if_pos n2]
        exact b62 r rfl (Or.inr n2)

set_option maxRecDepth 100000
/-! PURE: class DictProof: alike; instances as objects -/
theorem pH_new' (N : Nat) (h : hS) : ∃ h', fJ1_init (nwO h 11 [vq none, vq none, vq none, vq none, vi 0, vi 0, vi 0, .inr (.inr (.inl 0))]) (some h.2.1) = some h' ∧ HM N h' h.2.1 [] (fun a => a = h.2.1) (4 * N) ∧ (∀ b, b ≠ h.2.1 → h'.1 b = h.1 b) ∧ h'.2.1 = h.2.1 + 1 ∧ h'.2.2 = h.2.2 + 8 := by
  obtain ⟨h', e, r⟩ := pH_new N h
  rw [nwS_e, bd_s] at e
  obtain ⟨h'', e1, e2⟩ := bd_o e
  cases e2
  exact ⟨h', e1, r⟩
/-- a map for a while -/
theorem Kp.tmp {k h h' : hS} {F : Nat → Prop} (K : Kp k h F) (o : ∀ b, b ≠ h.2.1 → h'.1 b = h.1 b) (s : h'.2.1 = h.2.1 + 1) : Kp k h' (fun a => a = h.2.1) := by
  refine ⟨fun a e q => ?_, fun a ha => by omega⟩
  obtain ⟨x, y, z⟩ := K.1 a e q
  exact ⟨(o a (by omega)).trans x, by omega, by omega⟩
theorem p_alike {k h : hS} {F : Nat → Prop} {gs : Option Nat × Option Nat} {ca : Nat → Nat} (K : Kp k h F) (C : Cch k gs ca) {a c : Nat} {x y : Tm} (Tx : isT k a x) (Ty : isT k c y) (ox : okT x) (oy : okT y) (zx : szT x ≤ 5) (zy : szT y ≤ 5) :
    ∃ h1 h', fJ1_init (nwO h 11 [vq none, vq none, vq none, vq none, vi 0, vi 0, vi 0, .inr (.inr (.inl 0))]) (some h.2.1) = some h1 ∧ fX0_isMade 16 gs h1 (some a) 0 (some c) 2 (some h.2.1) = some (bI (alk x y), h') ∧ ol h h' 896 := by
  obtain ⟨h1, e1, M, o1, s1, s1'⟩ := pH_new' 64 h
  have K1 := K.tmp o1 s1
  obtain ⟨r, er⟩ := mk_some2 ox oy zx zy
  obtain ⟨h2, k2, F2, Q2, e2, X2, K2, f2, -, c1, c2⟩ := p_made (gs := gs) (ca := ca) (mp := h.2.1) 5 bn0 (x, 0) (y, 2) r er 16 a c h1 k _ _ (by omega) K1 C ⟨[], M, (fun e he => by cases he), fun v hv => rfl⟩ Tx Ty ⟨ox, Or.inl rfl, by show szT x ≤ 9; omega⟩ ⟨oy, Or.inr rfl, by show szT y ≤ 9; omega⟩
  refine ⟨h1, h2, e1, ?_, ?_, fun b hb => ?_, by omega, by omega⟩
  · have : alk x y = r.isSome := by
      unfold alk
      rw [mkG_mkN 5 (by omega) 5 6 bn0 _ _ r (by omega) er]
      cases r <;> rfl
    rw [this]; exact e2
  · have := f2.2.2; omega
  · rw [f2.2.1 b (by omega) (by omega), o1 b (by omega)]
/-- an instance's object: its number, what it is -/
def isI (h : hS) (a : Nat) (n : Nat) (x : Ist) : Prop := ∃ hd ca va fc fv, h.1 a = some (.inl ((iK x).toNat + 1, [vi (n : Int), vi (iO x), vq (some hd), vq (some ca), vq (some va), vi ((iC x).length : Int)])) ∧ isT h hd (iH x) ∧ h.1 ca = some (.inr (0, 2, .inl fc)) ∧ h.1 va = some (.inr (0, 2, .inl fv)) ∧ ∀ j : Nat, j < (iC x).length → fc (j : Int) = (cg x j).1 ∧ fv (j : Int) = ((cg x j).2 : Int)
theorem isI.mono {k h : hS} (X : ext k h) {a n : Nat} {x : Ist} (P : isI k a n x) : isI h a n x := by
  obtain ⟨hd, ca, va, fc, fv, e, T, e1, e2, r⟩ := P
  exact ⟨hd, ca, va, fc, fv, X _ _ e, T.mono X, X _ _ e1, X _ _ e2, r⟩
def rdIn (h : hS) (a c : Nat) (n o m : Int) (hd ca va : Option Nat) : Prop := hI h (some a) [(1, 0), (2, 0), (3, 0), (4, 0), (5, 0)] = some n ∧ hI h (some a) [(1, 1), (2, 1), (3, 1), (4, 1), (5, 1)] = some o ∧ hQ h (some a) [(1, 2), (2, 2), (3, 2), (4, 2), (5, 2)] = some hd ∧ hQ h (some a) [(1, 3), (2, 3), (3, 3), (4, 3), (5, 3)] = some ca ∧ hQ h (some a) [(1, 4), (2, 4), (3, 4), (4, 4), (5, 4)] = some va ∧ hI h (some a) [(1, 5), (2, 5), (3, 5), (4, 5), (5, 5)] = some m ∧ hC h (some a) = some c ∧ inC h (some a) [1, 2, 3, 4, 5] = true
theorem rdI_c {h : hS} {a c : Nat} {n o m : Int} {hd ca va : Option Nat} (hc : c = 1 ∨ c = 2 ∨ c = 3 ∨ c = 4 ∨ c = 5) (e : h.1 a = some (.inl (c, [vi n, vi o, vq hd, vq ca, vq va, vi m]))) : rdIn h a c n o m hd ca va := by
  unfold rdIn hI hQ hF inC hC nn
  simp only [e]
  rcases hc with rfl | rfl | rfl | rfl | rfl <;> exact ⟨rfl, rfl, rfl, rfl, rfl, rfl, trivial, rfl⟩
def okK (x : Ist) : Prop := 0 ≤ iK x ∧ iK x ≤ 4
theorem okK.c {x : Ist} (h : okK x) : (iK x).toNat + 1 = 1 ∨ (iK x).toNat + 1 = 2 ∨ (iK x).toNat + 1 = 3 ∨ (iK x).toNat + 1 = 4 ∨ (iK x).toNat + 1 = 5 := by
  have := h.1; have := h.2; omega
theorem isI.rd {h : hS} {a n : Nat} {x : Ist} (P : isI h a n x) (ok : okK x) : ∃ hd ca va, rdIn h a ((iK x).toNat + 1) (n : Int) (iO x) ((iC x).length : Int) (some hd) (some ca) (some va) ∧ isT h hd (iH x) ∧ ∀ j : Nat, j < (iC x).length → j < 2 → aI h (some ca) 0 (j : Int) = some (cg x j).1 ∧ aI h (some va) 0 (j : Int) = some ((cg x j).2 : Int) := by
  obtain ⟨hd, ca, va, fc, fv, e, T, e1, e2, r⟩ := P
  refine ⟨hd, ca, va, rdI_c ok.c e, T, fun j hj h2 => ?_⟩
  obtain ⟨r1, r2⟩ := r j hj
  unfold aI nn
  simp only [e1, e2]
  rw [if_pos ⟨by first | trivial | rfl, by omega, by omega⟩, if_pos ⟨by first | trivial | rfl, by omega, by omega⟩, r1, r2]
  exact ⟨rfl, rfl⟩
/-- what is told by its kind -/
theorem p_kinds {h : hS} {a n : Nat} {x : Ist} (P : isI h a n x) (ok : okK x) :
    D2_isUsed h (some a) = some (bI (decide (iK x ≠ 2))) ∧ D4_isAlone h (some a) = some (bI (decide (iK x = 4))) ∧ D5_rank h (some a) = some (rk x : Int) ∧ D9_kind h (some a) = some (iK x) := by
  obtain ⟨hd, ca, va, ⟨-, -, -, -, -, -, c, -⟩, -, -⟩ := P.rd ok
  obtain ⟨k0, k4⟩ := ok
  have hk : iK x = 0 ∨ iK x = 1 ∨ iK x = 2 ∨ iK x = 3 ∨ iK x = 4 := by omega
  have i45 : inC h (some a) [4, 5] = match hC h (some a) with
    | some c => [4, 5].contains c
    | none => false := rfl
  unfold D2_isUsed D4_isAlone D5_rank D9_kind fX1_isUsed fX3_isUsed fX3_isUsed_b12 fX1_isAlone fX5_isAlone fX5_isAlone_b12 fX1_rank fX2_rank fX4_rank fX1_kind fX2_kind fX3_kind fX4_kind fX5_kind fX1_isUsed fX1_isAlone fX1_rank fX4_kind rk
  rw [i45]
  rcases hk with q | q | q | q | q <;> rw [q] at c ⊢ <;> rw [c] <;> refine ⟨?_, ?_, ?_, ?_⟩ <;> decide

