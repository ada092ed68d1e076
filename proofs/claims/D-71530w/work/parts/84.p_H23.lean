/-! the pure laws: H23 H24 H25 H26 H27 H28 H29 H30 -/
set_option maxRecDepth 100000
/-! PURE: the hash map; a plain bin is split, all of it -/
theorem pl_half {h : hS} {H : Nat → Int} {K V : Nat → Option Nat} {q : Option Nat} {A : List Nat} {tab m : Nat} {f : Int → Option Nat} {i : Int} (P : PB h H K V q A) (nd : A.Nodup) (AQ : arQ h 6 m tab f) (h0 : 0 ≤ i) (h1 : i < m) (f0 : f i = none) (Kc : hS → Option (Option Nat × hS)) :
    ∃ h' f', (ifN (lsO none A) (Kc h) (fun _ => bd (hW h (lsO none A) [(12, 3), (13, 5)] (vq none)) fun h3 => bd (aWQ h3 (some tab) 6 [12, 13] i (hdO A none)) fun h6 => Kc h6)) = Kc h' ∧ PB h' H K V none A ∧ arQ h' 6 m tab f' ∧ f' i = A.head? ∧ (∀ x, x ≠ i → f' x = f x) ∧ (∀ b, b ∉ A → b ≠ tab → h'.1 b = h.1 b) ∧ h'.2 = h.2 := by
  rcases List.eq_nil_or_concat A with rfl | ⟨B, z, rfl⟩
  · exact ⟨h, f, rfl, trivial, AQ, by rw [f0]; rfl, fun _ _ => rfl, fun _ _ _ => rfl, rfl⟩
  · rw [List.concat_eq_append] at *
    have hzB : z ∉ B := fun q => by
      rw [List.nodup_append] at nd
      exact nd.2.2 z q z (by simp) rfl
    rw [lsO_app]
    simp only [ifN]
    have P0 := P
    rw [PB_app] at P
    obtain ⟨pB, pz, -⟩ := P
    obtain ⟨h2, e2, a2, o2, s2⟩ := hW_at (P := [(12, 3), (13, 5)]) (v := vq none) pz rfl (by simp)
    rw [e2, bd_s]
    have P2 : PB h2 H K V none (B ++ [z]) := by
      rw [PB_app]
      refine ⟨PB_cg B (fun b hb => ⟨o2 b (fun e => hzB (e ▸ hb)), rfl, rfl, rfl⟩) pB, ?_, trivial⟩
      rw [a2]; simp [hdO]
    have htab : ∀ {h : hS} {q : Option Nat}, PB h H K V q (B ++ [z]) → arQ h 6 m tab f → tab ∉ B ++ [z] := by
      intro h q P A w
      obtain ⟨nx, e⟩ := PB_at P w
      unfold arQ at A
      rw [A] at e; cases e
    have ht := htab P0 AQ
    have A2 : arQ h2 6 m tab f := by unfold arQ; rw [o2 tab (fun e => ht (by simp [e]))]; exact AQ
    obtain ⟨y, Y, ey⟩ : ∃ y Y, B ++ [z] = y :: Y := by cases B with | nil => exact ⟨z, [], rfl⟩ | cons y Y => exact ⟨y, Y ++ [z], rfl⟩
    have hc : hC h2 (hdO (B ++ [z]) none) = some 12 := by
      rw [ey] at P2 ⊢
      exact (ndA_p P2.1).2.2.2.2
    obtain ⟨h3, e3, A3, o3, s3⟩ := A2.w h0 h1 (P := [12, 13]) (v := hdO (B ++ [z]) none) (Or.inr ⟨12, by simp, hc⟩)
    rw [e3, bd_s]
    refine ⟨h3, _, rfl, PB_cg _ (fun a ha => ⟨o3 a (fun e => ht (e ▸ ha)), rfl, rfl, rfl⟩) P2, A3, by simp [upI, hdO_head], fun x hx => by simp [upI, hx], fun b hb hbt => by rw [o3 b hbt, o2 b (fun e => hb (by simp [e]))], by rw [s3, s2]⟩
theorem pH_splitP {K151 : hS → Option Nat → Option Nat → Int → Int → Option Nat → Int → Option (Option Nat × hS)} {h : hS} {mp tab x k n m : Nat} {old : Option Nat} {L : List Nat} {E : List En} {f : Int → Option Nat} {j : Int} (B : BC h true L E) (hx : L.head? = some x) (hlen : L.length < 80000) (hn : n = 2 ^ k) (hk : k ≤ 29) (hm2 : m = 2 ^ (k + 1))
    (AQ : arQ h 6 m tab f) (h0 : 0 ≤ j) (h1 : j < n) (hi : ∀ e, e ∈ E → ix n e.1 = j) (f0 : f j = none) (f1 : f (j + n) = none) :
    ∃ h', fJ1_resize_L235 K151 FU h (some mp) old n m (some tab) j (some x) none none none none = fJ1_resize_b347 K151 h' (some mp) old n m (some tab) j ∧ spR h h' L E tab n m f j (j + n) := by
  obtain ⟨H, K, V, ⟨nd, P⟩, hp, hlt⟩ := B
  have hmn : m = 2 * n := by rw [hm2, hn, Nat.pow_succ]; omega
  have hn29 : n ≤ 536870912 := by
    have : 2 ^ k ≤ 2 ^ 29 := Nat.pow_le_pow_right (by omega) hk
    have e : (2 : Nat) ^ 29 = 536870912 := rfl
    omega
  have hn0 : 0 < n := by rw [hn]; exact Nat.pow_pos (by omega)
  have hj : ∀ x : Int, ix n x = j → (iand x (n : Int) = 0 → ix m x = j) ∧ (¬ iand x (n : Int) = 0 → ix m x = j + n) := by
    intro x e
    have := ix_2 hk x
    rw [← hn, ← hm2, e] at this
    exact this
  obtain ⟨y, Rest, rfl⟩ : ∃ y R, L = y :: R := by cases L with | nil => cases hx | cons y R => exact ⟨y, R, rfl⟩
  have : y = x := by simpa using hx
  subst this
  obtain ⟨h1', q1, q2, e1, PL1, PH1, o1, s1⟩ := pH_235 (K151 := K151) (n := (n : Int)) (m := (m : Int)) (mp := some mp) (old := old) (tab := some tab) (j := j) Rest y FU h [] [] none none P trivial trivial (by simpa using nd) (by simp at hlen; unfold FU; omega)
  simp only [List.nil_append] at e1 PL1 PH1 o1
  obtain ⟨LO, hLO⟩ : ∃ LO, LO = (y :: Rest).filter (fun a => decide (iand (H a) (n : Int) = 0)) := ⟨_, rfl⟩
  obtain ⟨HI, hHI⟩ : ∃ HI, HI = (y :: Rest).filter (fun a => decide (¬ iand (H a) (n : Int) = 0)) := ⟨_, rfl⟩
  rw [← hLO, ← hHI] at e1
  rw [← hLO] at PL1
  rw [← hHI] at PH1
  have mLO : ∀ a, a ∈ LO → a ∈ y :: Rest := fun a ha => by rw [hLO] at ha; exact (List.mem_filter.mp ha).1
  have mHI : ∀ a, a ∈ HI → a ∈ y :: Rest := fun a ha => by rw [hHI] at ha; exact (List.mem_filter.mp ha).1
  have dis : ∀ a, a ∈ HI → a ∉ LO := by
    intro a ha hb
    rw [hLO] at hb
    rw [hHI] at ha
    have q1 := (List.mem_filter.mp ha).2
    have q2 := (List.mem_filter.mp hb).2
    simp at q1 q2
    exact q1 q2
  have pLO : (LO.map (tE H K V)).Perm (E.filter fun e => decide (ix m e.1 = j)) := by
    have e : E.filter (fun e => decide (ix m e.1 = j)) = E.filter (fun e => decide (iand e.1 (n : Int) = 0)) := by
      apply List.filter_congr
      intro e he
      have := hj e.1 (hi e he)
      by_cases q : iand e.1 (n : Int) = 0
      · simp [q, this.1 q]
      · have w := this.2 q
        simp only [q, decide_false, decide_eq_false_iff_not]
        omega
    rw [e, hLO]
    have := hp.filter (fun e => decide (iand e.1 (n : Int) = 0))
    rw [List.filter_map] at this
    exact this
  have pHI : (HI.map (tE H K V)).Perm (E.filter fun e => decide (ix m e.1 = j + n)) := by
    have e : E.filter (fun e => decide (ix m e.1 = j + n)) = E.filter (fun e => decide (¬ iand e.1 (n : Int) = 0)) := by
      apply List.filter_congr
      intro e he
      have := hj e.1 (hi e he)
      by_cases q : iand e.1 (n : Int) = 0
      · have w := this.1 q
        simp only [q, not_true_eq_false, decide_false, decide_eq_false_iff_not]
        omega
      · simp [q, this.2 q]
    rw [e, hHI]
    have := hp.filter (fun e => decide (¬ iand e.1 (n : Int) = 0))
    rw [List.filter_map] at this
    exact this
  have nLO : LO.Nodup := by rw [hLO]; exact nd.filter _
  have nHI : HI.Nodup := by rw [hHI]; exact nd.filter _
  have htabL : tab ∉ y :: Rest := by
    intro q
    obtain ⟨nx, e⟩ := PB_at P q
    unfold arQ at AQ
    rw [AQ] at e; cases e
  have A1 : arQ h1' 6 m tab f := by unfold arQ; rw [o1 tab htabL]; exact AQ
  obtain ⟨h2, f2, e2, P2, A2, fi2, fj2, o2, s2⟩ := pl_half PL1 nLO A1 (i := j) h0 (by omega) f0 (fun h => fJ1_resize_b327 K151 h (some mp) old n m (some tab) j (hdO HI none) (lsO none HI))
  have PH2 : PB h2 H K V q2 HI := PB_cg HI (fun a ha => ⟨o2 a (dis a ha) (fun e => htabL (e ▸ mHI a ha)), rfl, rfl, rfl⟩) PH1
  obtain ⟨h3, f3, e3, P3, A3, fi3, fj3, o3, s3⟩ := pl_half PH2 nHI A2 (i := j + n) (by omega) (by omega) (by rw [fj2 _ (by omega)]; exact f1) (fun h => fJ1_resize_b347 K151 h (some mp) old n m (some tab) j)
  have wj : wr (j + n) = j + n := wr_id (by omega) (by omega)
  have e3' : fJ1_resize_b327 K151 h2 (some mp) old n m (some tab) j (hdO HI none) (lsO none HI) = fJ1_resize_b347 K151 h3 (some mp) old n m (some tab) j := by
    unfold fJ1_resize_b327
    rw [wj]; exact e3
  refine ⟨h3, e1.trans (e2.trans e3'), true, LO, true, HI, f3, ⟨H, K, V, ⟨nLO, PB_cg LO (fun a ha => ⟨o3 a (fun q => dis a q ha) (fun e => htabL (e ▸ mLO a ha)), rfl, rfl, rfl⟩) P2⟩, pLO, fun a ha => by rw [s3, s2, s1]; exact hlt a (mLO a ha)⟩, ⟨H, K, V, ⟨nHI, P3⟩, pHI, fun a ha => by rw [s3, s2, s1]; exact hlt a (mHI a ha)⟩, A3, by rw [fj3 _ (by omega), fi2], fi3, fun x hx1 hx2 => by rw [fj3 x hx2, fj2 x hx1], ?_, ?_, by rw [s3, s2, s1]; exact Nat.le_refl _, by rw [s3, s2, s1]; omega, by rw [s3, s2, s1]; omega⟩
  · intro a ha
    rcases ha with ha | ha
    · exact Or.inl (mLO a ha)
    · exact Or.inl (mHI a ha)
  · intro b hb hbt _
    rw [o3 b (fun q => hb (mHI b q)) hbt, o2 b (fun q => hb (mLO b q)) hbt, o1 b (by simpa using hb)]

set_option maxRecDepth 100000
/-! PURE: the hash map; one bin of the old table goes over -/
def stR (h h' : hS) (L : List Nat) (E : List En) (tab old n m : Nat) (f f0 : Int → Option Nat) (j j2 : Int) : Prop :=
  ∃ b0 L0 b1 L1 f' g, BC h' b0 L0 (E.filter fun e => decide (ix m e.1 = j)) ∧ BC h' b1 L1 (E.filter fun e => decide (ix m e.1 = j2)) ∧ arQ h' 6 m tab f' ∧ f' j = L0.head? ∧ f' j2 = L1.head? ∧ (∀ x, x ≠ j → x ≠ j2 → f' x = f x) ∧ (∀ a, a ∈ L0 ∨ a ∈ L1 → a ∈ L ∨ h.2.1 ≤ a) ∧ (∀ b, b ∉ L → b ≠ tab → b ≠ old → b < h.2.1 → h'.1 b = h.1 b) ∧ h.2.1 ≤ h'.2.1 ∧ h'.2.1 ≤ h.2.1 + L.length ∧ h'.2.2 ≤ h.2.2 + 4 * L.length ∧ arQ h' 6 n old g ∧ (∀ x, x ≠ j → g x = f0 x)
theorem BC.nt {h : hS} {b : Bool} {L : List Nat} {E : List En} {t m tab : Nat} {f : Int → Option Nat} (B : BC h b L E) (A : arQ h t m tab f) : tab ∉ L := by
  intro ha
  obtain ⟨e, nx, c, he, n, -⟩ := B.at ha
  have q := n.2.2.2.2
  unfold hC nn at q
  unfold arQ at A
  simp only [A] at q
  cases q
theorem BC.hd {h : hS} {b : Bool} {x : Nat} {Y : List Nat} {E : List En} (B : BC h b (x :: Y) E) : ∃ e, e ∈ E ∧ ndA h x e (hdO Y none) (if b then 12 else 13) := by
  obtain ⟨H, K, V, K0, hp, hlt⟩ := B
  have hm : tE H K V x ∈ E := hp.mem_iff.mp (List.mem_map.mpr ⟨x, by simp, rfl⟩)
  cases b with
  | true => exact ⟨_, hm, ndA_p K0.2.1⟩
  | false =>
    obtain ⟨R, C, T⟩ := K0
    have := ndA_t T.2.1 (show x ∈ x :: Y by simp)
    rw [T.2.2.1.2.1] at this
    exact ⟨_, hm, this⟩
theorem arQ_ne {h : hS} {mp tab t n : Nat} {f : Int → Option Nat} (A : arQ h t n tab f) (hm : hC h (some mp) = some 11) : mp ≠ tab := by
  rintro rfl
  unfold arQ at A
  unfold hC nn at hm
  simp only [A] at hm
  cases hm
theorem BC.nm {h : hS} {b : Bool} {L : List Nat} {E : List En} {mp : Nat} (B : BC h b L E) (hm : hC h (some mp) = some 11) : mp ∉ L := by
  intro ha
  obtain ⟨e, nx, c, he, n, hc⟩ := B.at ha
  have q := n.2.2.2.2
  rw [hm] at q
  rcases hc with rfl | rfl <;> cases q
theorem pH_151 {K151 : hS → Option Nat → Option Nat → Int → Int → Option Nat → Int → Option (Option Nat × hS)} {h : hS} {mp tab old k n m : Nat} {b : Bool} {L : List Nat} {E : List En} {f f0 : Int → Option Nat} {j : Int} (B : BC h b L E) (hL : f0 j = L.head?) (hlen : L.length < 80000) (hn : n = 2 ^ k) (hk : k ≤ 29) (hm2 : m = 2 ^ (k + 1))
    (AQ : arQ h 6 m tab f) (AO : arQ h 6 n old f0) (hto : tab ≠ old) (h0 : 0 ≤ j) (h1 : j < n) (ndE : (E.map (·.1)).Nodup) (hr : ∀ e, e ∈ E → rI e.1) (hi : ∀ e, e ∈ E → ix n e.1 = j) (hm : hC h (some mp) = some 11) (hmp : mp < h.2.1) (htab : tab < h.2.1) (hold : old < h.2.1) (z0 : f j = none) (z1 : f (j + n) = none) :
    ∃ h', fJ1_resize_b151 K151 h (some mp) (some old) n m (some tab) j = fJ1_resize_b347 K151 h' (some mp) (some old) n m (some tab) j ∧ stR h h' L E tab old n m f f0 j (j + n) := by
  have hmn : m = 2 * n := by rw [hm2, hn, Nat.pow_succ]; omega
  have hn29 : n ≤ 536870912 := by
    have : 2 ^ k ≤ 2 ^ 29 := Nat.pow_le_pow_right (by omega) hk
    have e : (2 : Nat) ^ 29 = 536870912 := rfl
    omega
  unfold fJ1_resize_b151
  rw [if_neg (by omega), AO.q h0 h1, bd_s, hL]
  cases L with
  | nil =>
    have hE : E = [] := by
      have := B.len
      simp at this
      exact List.eq_nil_of_length_eq_zero this.symm
    subst hE
    refine ⟨h, rfl, true, [], true, [], f, f0, BC.nil h, BC.nil h, AQ, by rw [z0]; rfl, by rw [z1]; rfl, fun _ _ _ => rfl, fun a ha => ?_, fun _ _ _ _ _ => rfl, Nat.le_refl _, by omega, by omega, AO, fun _ _ => rfl⟩
    rcases ha with ha | ha <;> cases ha
  | cons x Y =>
    have eH : (x :: Y).head? = some x := rfl
    rw [eH]
    simp only [ifN]
    obtain ⟨h6, e6, A6, o6, s6⟩ := AO.w h0 h1 (P := [12, 13]) (v := none) (Or.inl rfl)
    rw [e6, bd_s]
    have hoL : old ∉ x :: Y := B.nt AO
    have B6 : BC h6 b (x :: Y) E := B.cg (fun a ha => o6 a (fun e => hoL (e ▸ ha))) (by rw [s6]; exact Nat.le_refl _)
    have Q6 : arQ h6 6 m tab f := by unfold arQ; rw [o6 tab hto]; exact AQ
    have hm6 : hC h6 (some mp) = some 11 := by rw [hC_cg (o6 mp (arQ_ne AO hm))]; exact hm
    have htL : tab ∉ x :: Y := B.nt AQ
    obtain ⟨e, he, n1, n2, n3, n4, n5⟩ := B6.hd
    rw [n4, bd_s]
    have fin : ∀ h', spR h6 h' (x :: Y) E tab n m f j (j + n) → stR h h' (x :: Y) E tab old n m f f0 j (j + n) := by
      rintro h' ⟨b0, L0, b1, L1, f', g1, g2, g3, g4, g5, g6, g7, g8, g9, g10, g11⟩
      rw [s6] at g7 g8 g9 g10 g11
      refine ⟨b0, L0, b1, L1, f', upI f0 j none, g1, g2, g3, g4, g5, g6, g7, fun c hc hct hco hcl => by rw [g8 c hc hct hcl, o6 c hco], g9, g10, g11, ?_, fun y hy => by simp [upI, hy]⟩
      unfold arQ
      rw [g8 old hoL hto.symm hold]
      exact A6
    cases Y with
    | nil =>
      simp only [hdO]
      rw [n1, bd_s]
      have hE : E = [e] := by
        have := B.len
        simp at this
        obtain ⟨y, rfl⟩ := List.length_eq_one_iff.mp this.symm
        simp at he; rw [he]
      subst hE
      have hix : iand e.1 (wr ((m : Int) - 1)) = ix m e.1 := by unfold ix; exact iand_c _ _
      have hj2 := ix_2 hk e.1
      rw [← hn, ← hm2, hi e (by simp)] at hj2
      have hcx : hC h6 (some x) = some (if b then 12 else 13) := n5
      have hcx' : ∃ c ∈ [12, 13], hC h6 (some x) = some c := ⟨if b then 12 else 13, by cases b <;> simp, hcx⟩
      rw [hix]
      have iv : 0 ≤ ix m e.1 ∧ ix m e.1 < m := by rw [hm2]; exact ix_lt (by omega) e.1
      obtain ⟨h7, e7, A7, o7, s7⟩ := Q6.w iv.1 iv.2 (P := [12, 13]) (v := some x) (Or.inr hcx')
      rw [e7, bd_s]
      have B7 : BC h7 b [x] [e] := B6.tab Q6 o7 (by rw [s7]; exact Nat.le_refl _)
      refine ⟨h7, rfl, fin h7 ?_⟩
      by_cases q : iand e.1 (n : Int) = 0
      · have w := hj2.1 q
        have f1 : [e].filter (fun e => decide (ix m e.1 = j)) = [e] := by simp [w]
        have f2 : [e].filter (fun e => decide (ix m e.1 = j + n)) = [] := by
          have : ¬ ix m e.1 = j + n := by omega
          simp [this]
        refine ⟨b, [x], true, [], _, by rw [f1]; exact B7, by rw [f2]; exact BC.nil h7, A7, by simp [upI, w], ?_, fun y hy1 hy2 => ?_, fun a ha => Or.inl (by simpa using ha), fun c hc hct _ => o7 c hct, by rw [s7]; exact Nat.le_refl _, by rw [s7]; omega, by rw [s7]; omega⟩
        · have : ¬ j + (n : Int) = ix m e.1 := by omega
          simp [upI, this, z1]
        · have : ¬ y = ix m e.1 := by omega
          simp [upI, this]
      · have w := hj2.2 q
        have f1 : [e].filter (fun e => decide (ix m e.1 = j)) = [] := by
          have : ¬ ix m e.1 = j := by omega
          simp [this]
        have f2 : [e].filter (fun e => decide (ix m e.1 = j + n)) = [e] := by simp [w]
        refine ⟨true, [], b, [x], _, by rw [f1]; exact BC.nil h7, by rw [f2]; exact B7, A7, ?_, by simp [upI, w], fun y hy1 hy2 => ?_, fun a ha => Or.inl (by simpa using ha), fun c hc hct _ => o7 c hct, by rw [s7]; exact Nat.le_refl _, by rw [s7]; omega, by rw [s7]; omega⟩
        · have : ¬ j = ix m e.1 := by omega
          simp [upI, this, z0]
        · have : ¬ y = ix m e.1 := by omega
          simp [upI, this]
    | cons y Y =>
      simp only [hdO]
      cases b with
      | true =>
        have n5 : hC h6 (some x) = some 12 := n5
        rw [if_neg (inC_12 n5), gd_t n5]
        obtain ⟨h', e', S⟩ := pH_splitP (K151 := K151) (mp := mp) (old := some old) B6 rfl hlen hn hk hm2 Q6 h0 h1 hi z0 z1
        exact ⟨h', e', fin h' S⟩
      | false =>
        have n5 : hC h6 (some x) = some 13 := n5
        rw [if_pos (inC_13 n5), gd_t (Or.inr (inC_13 n5)), gd_t n5]
        obtain ⟨h', e', S⟩ := pH_split (mp := mp) B6 rfl hlen hn hk hm2 Q6 h0 h1 ndE hr hi hm6 (by rw [s6]; exact hmp) (by rw [s6]; exact htab) z0 z1
        rw [e', bd_s]
        exact ⟨h', rfl, fin h' S⟩

set_option maxRecDepth 100000
/-! PURE: the hash map; the table doubles -/
/-- the old place of a new one -/
def od (n : Nat) (i : Int) : Int := if i < n then i else i - n
/-- how many of the entries lie before j -/
def cb (E : List En) (n : Nat) (j : Int) : Nat := E.countP fun e => decide (ix n e.1 < j)
theorem cb_step (E : List En) (n : Nat) (j : Int) : cb E n (j + 1) = cb E n j + (E.filter fun e => decide (ix n e.1 = j)).length := by
  unfold cb
  rw [← List.countP_eq_length_filter]
  induction E with
  | nil => rfl
  | cons e E ih =>
    simp only [List.countP_cons, ih]
    have d1 : decide (ix n e.1 < j + 1) = (decide (ix n e.1 < j) || decide (ix n e.1 = j)) := by
      rw [Bool.eq_iff_iff]; simp; omega
    have d2 : decide (ix n e.1 < j) = true → decide (ix n e.1 = j) = false := by
      simp; omega
    rw [d1]
    cases c1 : decide (ix n e.1 < j) <;> cases c2 : decide (ix n e.1 = j)
    · simp
    · simp; omega
    · simp; omega
    · rw [d2 c1] at c2; cases c2
theorem cb_le (E : List En) (n : Nat) (j : Int) : cb E n j ≤ E.length := List.countP_le_length
/-- the walk along the old table, at j -/
def rsI (h0 h : hS) (mp : Nat) (Ls : Int → List Nat) (pl : Int → Bool) (E : List En) (tab old n m : Nat) (f0 : Int → Option Nat) (j : Int) : Prop :=
  ∃ (g f : Int → Option Nat) (Ls2 : Int → List Nat) (pl2 : Int → Bool), arQ h 6 n old g ∧ (∀ x : Int, j ≤ x → g x = f0 x) ∧ arQ h 6 m tab f ∧ (∀ i : Int, 0 ≤ i → i < (m : Int) → f i = (Ls2 i).head?) ∧
    (∀ i : Int, 0 ≤ i → i < (m : Int) → od n i < j → BC h (pl2 i) (Ls2 i) (E.filter fun e => decide (ix m e.1 = i))) ∧ (∀ i : Int, 0 ≤ i → i < (m : Int) → j ≤ od n i → Ls2 i = []) ∧
    (∀ i : Int, j ≤ i → i < (n : Int) → BC h (pl i) (Ls i) (E.filter fun e => decide (ix n e.1 = i))) ∧
    (∀ (i : Int) (a : Nat), 0 ≤ i → i < (m : Int) → a ∈ Ls2 i → (∃ i0 : Int, 0 ≤ i0 ∧ i0 < (n : Int) ∧ a ∈ Ls i0) ∨ h0.2.1 ≤ a) ∧
    (∀ b, (∀ i : Int, 0 ≤ i → i < (n : Int) → b ∉ Ls i) → b ≠ tab → b ≠ old → b < h0.2.1 → h.1 b = h0.1 b) ∧ h0.2.1 ≤ h.2.1 ∧ h.2.1 ≤ h0.2.1 + cb E n j ∧ h.2.2 ≤ h0.2.2 + 4 * cb E n j ∧ hC h (some mp) = some 11
theorem BC.lt {h : hS} {b : Bool} {L : List Nat} {E : List En} (B : BC h b L E) {a : Nat} (ha : a ∈ L) : a < h.2.1 := by
  obtain ⟨H, K, V, K0, hp, hlt⟩ := B
  exact hlt a ha
/-- bins of entries that share no hash share no node -/
theorem BC.dj {h : hS} {b b' : Bool} {L L' : List Nat} {E E' : List En} (B : BC h b L E) (B' : BC h b' L' E') (d : ∀ e e', e ∈ E → e' ∈ E' → e.1 ≠ e'.1) : ∀ a, a ∈ L → a ∉ L' := by
  intro a ha ha'
  obtain ⟨e, nx, c, he, n, -⟩ := B.at ha
  obtain ⟨e', nx', c', he', n', -⟩ := B'.at ha'
  have := n.1.symm.trans n'.1
  exact d e e' he he' (Option.some.inj this)
theorem pH_step {K151 : hS → Option Nat → Option Nat → Int → Int → Option Nat → Int → Option (Option Nat × hS)} {h0 h : hS} {mp tab old k n m : Nat} {Ls : Int → List Nat} {pl : Int → Bool} {E : List En} {f0 : Int → Option Nat} {j : Int} (I : rsI h0 h mp Ls pl E tab old n m f0 j)
    (hL : ∀ i : Int, 0 ≤ i → i < (n : Int) → f0 i = (Ls i).head?) (hlen : E.length < 80000) (hn : n = 2 ^ k) (hk : k ≤ 29) (hm2 : m = 2 ^ (k + 1)) (hto : tab ≠ old) (hj0 : 0 ≤ j) (hj1 : j < n) (ndE : (E.map (·.1)).Nodup) (hr : ∀ e, e ∈ E → rI e.1) (hmp : mp < h0.2.1) (htab : tab < h0.2.1) (hold : old < h0.2.1) (hmn : ∀ i : Int, 0 ≤ i → i < (n : Int) → mp ∉ Ls i) :
    ∃ h', fJ1_resize_b151 K151 h (some mp) (some old) n m (some tab) j = fJ1_resize_b347 K151 h' (some mp) (some old) n m (some tab) j ∧ rsI h0 h' mp Ls pl E tab old n m f0 (j + 1) := by
  have hmn2 : m = 2 * n := by rw [hm2, hn, Nat.pow_succ]; omega
  obtain ⟨g, f, Ls2, pl2, i1, i2, i3, i4, i5, i6, i7, i8, i9, i10, i11, i12, i13⟩ := I
  have ixm : ∀ e : En, ix m e.1 = ix n e.1 ∨ ix m e.1 = ix n e.1 + n := by
    intro e
    have := ix_2 hk e.1
    rw [← hn, ← hm2] at this
    by_cases q : iand e.1 (n : Int) = 0
    · exact Or.inl (this.1 q)
    · exact Or.inr (this.2 q)
  have ixn : ∀ e : En, 0 ≤ ix n e.1 ∧ ix n e.1 < n := fun e => by rw [hn]; exact ix_lt (by omega) e.1
  have odj : od n j = j := by unfold od; rw [if_pos hj1]
  have odj2 : od n (j + n) = j := by unfold od; rw [if_neg (by omega)]; omega
  have ndF : ((E.filter fun e => decide (ix n e.1 = j)).map (·.1)).Nodup := ndE.sublist (List.Sublist.map _ List.filter_sublist)
  have B := i7 j (Int.le_refl _) hj1
  have hlenL : (Ls j).length < 80000 := by
    rw [B.len]
    have : (E.filter (fun e => decide (ix n e.1 = j))).length ≤ E.length := List.length_filter_le _ _
    omega
  obtain ⟨h', e', b0, L0, b1, L1, f', g', s1, s2, s3, s4, s5, s6, s7, s8, s9, s10, s11, s12, s13⟩ := pH_151 (K151 := K151) (mp := mp) B (by rw [i2 j (Int.le_refl _)]; exact hL j hj0 hj1) hlenL hn hk hm2 i3 i1 hto hj0 hj1 ndF (fun e he => hr e (List.mem_filter.mp he).1) (fun e he => by simpa using (List.mem_filter.mp he).2) i13 (by omega) (by omega) (by omega) (by rw [i4 j hj0 (by omega), i6 j hj0 (by omega) (by omega)]; rfl) (by rw [i4 (j + n) (by omega) (by omega), i6 (j + n) (by omega) (by omega) (by omega)]; rfl)
  have ff : ∀ i : Int, i = j ∨ i = j + n → ((E.filter fun e => decide (ix n e.1 = j)).filter fun e => decide (ix m e.1 = i)) = E.filter fun e => decide (ix m e.1 = i) := by
    intro i hi
    rw [List.filter_filter]
    apply List.filter_congr
    intro e _
    by_cases q : ix m e.1 = i
    · have q2 : ix n e.1 = j := by
        have := ixm e
        have := ixn e
        omega
      simp [q, q2]
    · simp [q]
  rw [ff j (Or.inl rfl)] at s1
  rw [ff (j + n) (Or.inr rfl)] at s2
  refine ⟨h', e', g', f', fun i => if i = j then L0 else if i = j + n then L1 else Ls2 i, fun i => if i = j then b0 else if i = j + n then b1 else pl2 i, s12, fun x hx => by rw [s13 x (by omega), i2 x (by omega)], s3, ?_, ?_, ?_, ?_, ?_, ?_, by omega, ?_, ?_, ?_⟩
  · intro i hi0 hi1
    simp only
    by_cases q1 : i = j
    · rw [if_pos q1, q1]; exact s4
    · rw [if_neg q1]
      by_cases q2 : i = j + n
      · rw [if_pos q2, q2]; exact s5
      · rw [if_neg q2, s6 i q1 q2]; exact i4 i hi0 hi1
  · intro i hi0 hi1 hod
    simp only
    by_cases q1 : i = j
    · rw [if_pos q1, if_pos q1, q1]; exact s1
    · rw [if_neg q1, if_neg q1]
      by_cases q2 : i = j + n
      · rw [if_pos q2, if_pos q2, q2]; exact s2
      · rw [if_neg q2, if_neg q2]
        have hod2 : od n i < j := by unfold od at hod ⊢; split at hod <;> rename_i w <;> (first | rw [if_pos w] | rw [if_neg w]) <;> omega
        have Bi := i5 i hi0 hi1 hod2
        refine Bi.cg (fun a ha => s8 a ?_ (fun e => Bi.nt i3 (e ▸ ha)) (fun e => Bi.nt i1 (e ▸ ha)) (Bi.lt ha)) s9
        refine BC.dj Bi B (fun e e2 he he2 q => ?_) a ha
        have w1 : ix m e.1 = i := by simpa using (List.mem_filter.mp he).2
        have w2 : ix n e2.1 = j := by simpa using (List.mem_filter.mp he2).2
        rw [← q] at w2
        have := ixm e
        omega
  · intro i hi0 hi1 hod
    simp only
    have q1 : i ≠ j := by rintro rfl; omega
    have q2 : i ≠ j + n := by rintro rfl; omega
    rw [if_neg q1, if_neg q2]
    exact i6 i hi0 hi1 (by omega)
  · intro i hi0 hi1
    have Bi := i7 i (by omega) hi1
    refine Bi.cg (fun a ha => s8 a ?_ (fun e => Bi.nt i3 (e ▸ ha)) (fun e => Bi.nt i1 (e ▸ ha)) (Bi.lt ha)) s9
    refine BC.dj Bi B (fun e e2 he he2 q => ?_) a ha
    have w1 : ix n e.1 = i := by simpa using (List.mem_filter.mp he).2
    have w2 : ix n e2.1 = j := by simpa using (List.mem_filter.mp he2).2
    rw [← q] at w2
    omega
  · intro i a hi0 hi1 ha
    simp only at ha
    by_cases q1 : i = j
    · rw [if_pos q1] at ha
      rcases s7 a (Or.inl ha) with w | w
      · exact Or.inl ⟨j, hj0, hj1, w⟩
      · right; omega
    · rw [if_neg q1] at ha
      by_cases q2 : i = j + n
      · rw [if_pos q2] at ha
        rcases s7 a (Or.inr ha) with w | w
        · exact Or.inl ⟨j, hj0, hj1, w⟩
        · right; omega
      · rw [if_neg q2] at ha
        exact i8 i a hi0 hi1 ha
  · intro b hb hbt hbo hbl
    rw [s8 b (hb j hj0 hj1) hbt hbo (by omega), i9 b hb hbt hbo hbl]
  · rw [cb_step, ← B.len]; omega
  · rw [cb_step, ← B.len]; omega
  · rw [hC_cg (s8 mp (hmn j hj0 hj1) (arQ_ne i3 i13) (arQ_ne i1 i13) (by omega))]; exact i13

set_option maxRecDepth 100000
/-! PURE: the hash map; resize -/
theorem pH_L151 {h0 : hS} {mp tab old k n m : Nat} {Ls : Int → List Nat} {pl : Int → Bool} {E : List En} {f0 : Int → Option Nat}
    (hL : ∀ i : Int, 0 ≤ i → i < (n : Int) → f0 i = (Ls i).head?) (hlen : E.length < 80000) (hn : n = 2 ^ k) (hk : k ≤ 29) (hm2 : m = 2 ^ (k + 1)) (hto : tab ≠ old) (ndE : (E.map (·.1)).Nodup) (hr : ∀ e, e ∈ E → rI e.1) (hmp : mp < h0.2.1) (htab : tab < h0.2.1) (hold : old < h0.2.1) (hmn : ∀ i : Int, 0 ≤ i → i < (n : Int) → mp ∉ Ls i) :
    ∀ (r f : Nat) (j : Int) (h : hS), 0 ≤ j → j + r = n → r < f → rsI h0 h mp Ls pl E tab old n m f0 j → ∃ h', fJ1_resize_L151 f h (some mp) (some old) n m (some tab) j = some (some tab, h') ∧ rsI h0 h' mp Ls pl E tab old n m f0 n := by
  have hn29 : n ≤ 536870912 := by
    have : 2 ^ k ≤ 2 ^ 29 := Nat.pow_le_pow_right (by omega) hk
    have e : (2 : Nat) ^ 29 = 536870912 := rfl
    omega
  intro r
  induction r with
  | zero =>
    intro f j h h0 hj hf I
    obtain ⟨f, rfl⟩ : ∃ k, f = k + 1 := ⟨f - 1, by omega⟩
    have : j = n := by omega
    subst this
    refine ⟨h, ?_, I⟩
    rw [fJ1_resize_L151_s, fJ1_resize_b151, if_pos (Int.le_refl _)]
    rfl
  | succ r ih =>
    intro f j h h0 hj hf I
    obtain ⟨f, rfl⟩ : ∃ k, f = k + 1 := ⟨f - 1, by omega⟩
    obtain ⟨h1, e1, I1⟩ := pH_step (K151 := fJ1_resize_L151 f) I hL hlen hn hk hm2 hto h0 (by omega) ndE hr hmp htab hold hmn
    obtain ⟨h2, e2, I2⟩ := ih f (j + 1) h1 (by omega) (by omega) (by omega) I1
    refine ⟨h2, ?_, I2⟩
    rw [fJ1_resize_L151_s, e1]
    unfold fJ1_resize_b347
    rw [wr_id (by omega) (by omega)]
    exact e2
/-- the map's own object -/
def MO (h : hS) (mp : Nat) (tq : Option Nat) (sz mc thr : Int) (lf : hV) : Prop := h.1 mp = some (.inl (11, [vq none, vq none, vq tq, vq none, vi sz, vi mc, vi thr, lf]))
theorem MO.c {h : hS} {mp : Nat} {tq : Option Nat} {sz mc thr : Int} {lf : hV} (M : MO h mp tq sz mc thr lf) : hC h (some mp) = some 11 := by
  unfold MO at M; unfold hC nn; simp only [M]
theorem MO.t {h : hS} {mp : Nat} {tq : Option Nat} {sz mc thr : Int} {lf : hV} (M : MO h mp tq sz mc thr lf) : hQ h (some mp) [(11, 2)] = some tq := by
  unfold MO at M; unfold hQ hF nn; simp only [M]; rfl
theorem MO.s {h : hS} {mp : Nat} {tq : Option Nat} {sz mc thr : Int} {lf : hV} (M : MO h mp tq sz mc thr lf) : hI h (some mp) [(11, 4)] = some sz := by
  unfold MO at M; unfold hI hF nn; simp only [M]; rfl
theorem MO.m {h : hS} {mp : Nat} {tq : Option Nat} {sz mc thr : Int} {lf : hV} (M : MO h mp tq sz mc thr lf) : hI h (some mp) [(11, 5)] = some mc := by
  unfold MO at M; unfold hI hF nn; simp only [M]; rfl
theorem MO.th {h : hS} {mp : Nat} {tq : Option Nat} {sz mc thr : Int} {lf : hV} (M : MO h mp tq sz mc thr lf) : hI h (some mp) [(11, 6)] = some thr := by
  unfold MO at M; unfold hI hF nn; simp only [M]; rfl
theorem MO.w {h : hS} {mp : Nat} {tq : Option Nat} {sz mc thr : Int} {lf : hV} (M : MO h mp tq sz mc thr lf) {k : Nat} (v : hV) (hk : k < 8) : ∃ h', hW h (some mp) [(11, k)] v = some h' ∧ h'.1 mp = some (.inl (11, [vq none, vq none, vq tq, vq none, vi sz, vi mc, vi thr, lf].set k v)) ∧ (∀ b, b ≠ mp → h'.1 b = h.1 b) ∧ h'.2 = h.2 :=
  hW_at M rfl (by simpa using hk)

set_option maxRecDepth 100000
/-! PURE: the hash map; resize, all of it -/
/-- a new table, put in the map's object -/
theorem pH_b85 {h : hS} {mp : Nat} {tq : Option Nat} {sz mc thr : Int} {lf : hV} (M : MO h mp tq sz mc thr lf) (hmp : mp < h.2.1) {a4 a5 : Int} {m : Nat} (hm : a4 = (m : Int)) (hm9 : m ≤ 1000000) (h5 : ¬ a5 = 0) (o1 : Option Nat) (a2 : Int) :
    ∃ h', fJ1_resize_b85 h (some mp) o1 a2 a4 a5 = ifN o1 (fJ1_resize_b353 h' (some h.2.1)) (fun _ => fJ1_resize_L151 FU h' (some mp) o1 a2 a4 (some h.2.1) 0) ∧ MO h' mp (some h.2.1) sz mc a5 lf ∧ arQ h' 6 m h.2.1 (fun _ => none) ∧ (∀ b, b ≠ mp → b ≠ h.2.1 → h'.1 b = h.1 b) ∧ h'.2.1 = h.2.1 + 1 ∧ h'.2.2 = h.2.2 + m := by
  subst hm
  unfold fJ1_resize_b85
  rw [if_pos h5]
  obtain ⟨h1, e1, a1, o1', s1⟩ := M.w (k := 6) (vi a5) (by omega)
  rw [e1, bd_s]
  unfold nwQS
  rw [if_pos (by omega), bd_s]
  simp only [Int.toNat_natCast]
  rw [s1]
  have ne : mp ≠ h.2.1 := by omega
  have a2' : (nwQ h1 6 m).1 mp = some (.inl (11, [vq none, vq none, vq tq, vq none, vi sz, vi mc, vi a5, lf])) := by
    unfold nwQ
    simp only
    rw [if_neg (by rw [s1]; exact ne), a1]; rfl
  obtain ⟨h3, e3, a3, o3, s3⟩ := MO.w (h := nwQ h1 6 m) a2' (k := 2) (vq (some h.2.1)) (by omega)
  rw [e3, bd_s]
  refine ⟨h3, rfl, by unfold MO; rw [a3]; rfl, ?_, ?_, ?_, ?_⟩
  · unfold arQ
    rw [o3 _ ne.symm]
    unfold nwQ
    simp [s1]
  · intro b hb hb2
    rw [o3 b hb]
    unfold nwQ
    simp only
    rw [if_neg (by rw [s1]; exact hb2), o1' b hb]
  · rw [s3]; unfold nwQ; simp [s1]
  · rw [s3]; unfold nwQ; simp [s1]
/-- the first table -/
theorem pH_resize0 {h : hS} {mp : Nat} {sz mc : Int} {lf : hV} (M : MO h mp none sz mc 0 lf) (hmp : mp < h.2.1) :
    ∃ h', fJ1_resize h (some mp) = some (some h.2.1, h') ∧ MO h' mp (some h.2.1) sz mc 12 lf ∧ arQ h' 6 16 h.2.1 (fun _ => none) ∧ (∀ b, b ≠ mp → b ≠ h.2.1 → h'.1 b = h.1 b) ∧ h'.2.1 = h.2.1 + 1 ∧ h'.2.2 = h.2.2 + 16 := by
  unfold fJ1_resize fJ1_resize_b15
  rw [M.t, bd_s]
  simp only [ifN]
  rw [M.th, bd_s, if_pos (by decide), if_pos (by decide)]
  obtain ⟨h', e, r⟩ := pH_b85 M hmp (a4 := 16) (a5 := 12) (m := 16) rfl (by omega) (by decide) none 0
  exact ⟨h', e, r⟩
theorem BC.some {h : hS} {b : Bool} {L : List Nat} {E : List En} (B : BC h b L E) {a : Nat} (ha : a ∈ L) : h.1 a ≠ none := by
  intro q
  obtain ⟨e, nx, c, he, n, -⟩ := B.at ha
  have w := n.2.2.2.2
  unfold hC nn at w
  simp only [q] at w
  cases w
/-- the table doubles -/
theorem pH_resize {h : hS} {mp old k n : Nat} {sz mc thr : Int} {lf : hV} {Ls : Int → List Nat} {pl : Int → Bool} {E : List En} {f0 : Int → Option Nat} (M : MO h mp (some old) sz mc thr lf) (hmp : mp < h.2.1) (T : HT h old n f0 Ls pl E) (hn : n = 2 ^ k) (hk4 : 4 ≤ k) (hk : k ≤ 16) (hthr : 4 * thr = 3 * (n : Int)) (hlen : E.length < 80000) (ndE : (E.map (·.1)).Nodup) (hr : ∀ e, e ∈ E → rI e.1) :
    ∃ h' f' Ls' pl', fJ1_resize h (some mp) = some (some h.2.1, h') ∧ MO h' mp (some h.2.1) sz mc (2 * thr) lf ∧ HT h' h.2.1 (2 * n) f' Ls' pl' E ∧
      (∀ (i : Int) (a : Nat), 0 ≤ i → i < ((2 * n : Nat) : Int) → a ∈ Ls' i → (∃ i0 : Int, 0 ≤ i0 ∧ i0 < (n : Int) ∧ a ∈ Ls i0) ∨ h.2.1 < a) ∧
      (∀ b, (∀ i : Int, 0 ≤ i → i < (n : Int) → b ∉ Ls i) → b ≠ mp → b ≠ old → b < h.2.1 → h'.1 b = h.1 b) ∧ h.2.1 < h'.2.1 ∧ h'.2.1 ≤ h.2.1 + 1 + E.length ∧ h'.2.2 ≤ h.2.2 + 2 * n + 4 * E.length := by
  obtain ⟨AO, hold, hb⟩ := T
  have hp16 : 2 ^ k ≤ 2 ^ 16 := Nat.pow_le_pow_right (by omega) hk
  have hp4 : 2 ^ 4 ≤ 2 ^ k := Nat.pow_le_pow_right (by omega) hk4
  have e16 : (2 : Nat) ^ 16 = 65536 := rfl
  have e4 : (2 : Nat) ^ 4 = 16 := rfl
  have sh : ∀ x : Int, 0 ≤ x → x < 1073741824 → ishl x 1 = 2 * x := by
    intro x h0 h1
    obtain ⟨a, rfl⟩ := Int.eq_ofNat_of_zero_le h0
    have := p_ishl (a := a) (k := 1) (by omega) (by rw [Nat.shiftLeft_eq]; omega)
    refine Eq.trans this ?_
    rw [Nat.shiftLeft_eq]; omega
  unfold fJ1_resize fJ1_resize_b15
  rw [M.t, bd_s]
  simp only [ifN]
  rw [AO.l, bd_s, M.th, bd_s, if_neg (by omega), if_pos (by omega), sh n (by omega) (by omega), sh thr (by omega) (by omega), if_neg (by omega), if_neg (by omega)]
  have ne : mp ≠ old := arQ_ne AO M.c
  obtain ⟨h1, e1, M1, A1, o1, s1, s1'⟩ := pH_b85 M hmp (a4 := 2 * (n : Int)) (a5 := 2 * thr) (m := 2 * n) (by omega) (by omega) (by omega) (some old) n
  simp only [ifN] at e1
  rw [e1]
  have AO1 : arQ h1 6 n old f0 := by unfold arQ; rw [o1 old ne.symm (by omega)]; exact AO
  have mpL : ∀ i : Int, 0 ≤ i → i < (n : Int) → mp ∉ Ls i := fun i h0 h1 => (hb i h0 h1).2.nm M.c
  have I0 : rsI h1 h1 mp Ls pl E h.2.1 old n (2 * n) f0 0 := by
    refine ⟨f0, fun _ => none, fun _ => [], fun _ => true, AO1, fun _ _ => rfl, A1, fun _ _ _ => rfl, fun i h0 h2 hod => ?_, fun _ _ _ _ => rfl, fun i h0 h2 => ?_, fun i a _ _ ha => (by cases ha), fun _ _ _ _ _ => rfl, Nat.le_refl _, by omega, by omega, M1.c⟩
    · exfalso; unfold od at hod; split at hod <;> omega
    · have B := (hb i h0 h2).2
      exact B.cg (fun a ha => o1 a (fun e => mpL i h0 h2 (e ▸ ha)) (by have := B.lt ha; omega)) (by omega)
  obtain ⟨h2, e2, I2⟩ := pH_L151 (h0 := h1) (mp := mp) (tab := h.2.1) (old := old) (m := 2 * n) (fun i h0 h1 => (hb i h0 h1).1) hlen hn (by omega) (by rw [Nat.pow_succ, hn]; omega) (by omega) ndE hr (by omega) (by omega) (by omega) mpL n FU 0 h1 (by omega) (by omega) (by unfold FU; omega) I0
  obtain ⟨g, f, Ls2, pl2, i1, i2, i3, i4, i5, i6, i7, i8, i9, i10, i11, i12, i13⟩ := I2
  have c1 := cb_le E n (n : Int)
  refine ⟨h2, f, Ls2, pl2, e2, ?_, ⟨i3, by omega, fun i h0 h3 => ⟨i4 i h0 h3, i5 i h0 h3 ?_⟩⟩, fun i a h0 h3 ha => ?_, fun b hb1 hb2 hb3 hb4 => ?_, by omega, by omega, by omega⟩
  · unfold MO
    rw [i9 mp mpL (by omega) ne (by omega)]
    exact M1
  · unfold od; split <;> omega
  · rcases i8 i a h0 h3 ha with w | w
    · exact Or.inl w
    · right; omega
  · rw [i9 b hb1 (by omega) hb3 (by omega), o1 b hb2 (by omega)]

set_option maxRecDepth 100000
/-! PURE: the hash map; its state while a value is put -/
def HP (N : Nat) (h : hS) (mp sz : Nat) (E : List En) (F : Nat → Prop) (Q : Nat) (tab n : Nat) : Prop :=
  ∃ (mc thr : Int) (lf : hV) (k : Nat) (f : Int → Option Nat) (Ls : Int → List Nat) (pl : Int → Bool), MO h mp (some tab) sz mc thr lf ∧ n = 2 ^ k ∧ 4 ≤ k ∧ n ≤ N ∧ HT h tab n f Ls pl E ∧ 4 * thr = 3 * (n : Int) ∧ 4 * sz ≤ 3 * n ∧ F mp ∧ F tab ∧ (∀ (i : Int) (a : Nat), 0 ≤ i → i < (n : Int) → a ∈ Ls i → F a) ∧ (∀ a, F a → a < h.2.1) ∧ (E.map (·.1)).Nodup ∧ (∀ e, e ∈ E → rI e.1) ∧ 3 * E.countP (fun e => pl (ix n e.1)) + 4 * (N - n) ≤ Q
/-- how an operation may change heap and cells -/
def fr (h h' : hS) (F F' : Nat → Prop) : Prop := (∀ a, F' a → F a ∨ h.2.1 ≤ a) ∧ (∀ b, ¬ F b → b < h.2.1 → h'.1 b = h.1 b) ∧ h.2.1 ≤ h'.2.1
theorem fr.trans {h h' h'' : hS} {F F' F'' : Nat → Prop} (a : fr h h' F F') (b : fr h' h'' F' F'') : fr h h'' F F'' := by
  refine ⟨fun x hx => ?_, fun x hx hl => ?_, Nat.le_trans a.2.2 b.2.2⟩
  · rcases b.1 x hx with w | w
    · exact a.1 x w
    · right; have := a.2.2; omega
  · have := a.2.2
    have nx : ¬ F' x := fun q => by rcases a.1 x q with w | w; exact hx w; omega
    rw [b.2.1 x nx (by omega), a.2.1 x hx hl]
theorem HP_resize {N : Nat} {h : hS} {mp sz : Nat} {E : List En} {F : Nat → Prop} {Q tab n kN : Nat} (hN : N = 2 ^ kN) (hN16 : kN ≤ 16) (P : HP N h mp sz E F Q tab n) (hE : E.length = sz + 1) (hn : n < N) :
    ∃ h' F' Q', fJ1_resize h (some mp) = some (some h.2.1, h') ∧ HP N h' mp sz E F' Q' h.2.1 (2 * n) ∧ fr h h' F F' ∧ h'.2.1 + Q' ≤ h.2.1 + Q ∧ h'.2.2 + 4 * Q' ≤ h.2.2 + 4 * Q := by
  obtain ⟨mc, thr, lf, k, f, Ls, pl, M, hk, hk4, hnN, T, hthr, hsz, Fm, Ft, Fn, Flt, nd, hr, hQ⟩ := P
  have hkN : k < kN := by
    rcases Nat.lt_or_ge k kN with q | q
    · exact q
    · have := Nat.pow_le_pow_right (n := 2) (by omega) q
      omega
  have h2N : 2 * n ≤ N := by
    have := Nat.pow_le_pow_right (n := 2) (by omega) (show k + 1 ≤ kN from hkN)
    rw [Nat.pow_succ] at this
    omega
  have hp4 : 2 ^ 4 ≤ 2 ^ k := Nat.pow_le_pow_right (by omega) hk4
  have hN65 : N ≤ 65536 := by
    have := Nat.pow_le_pow_right (n := 2) (by omega) hN16
    have e : (2 : Nat) ^ 16 = 65536 := rfl
    omega
  have e4 : (2 : Nat) ^ 4 = 16 := rfl
  obtain ⟨h', f', Ls', pl', e, M', T', mem, frm, l1, l2, l3⟩ := pH_resize M (Flt _ Fm) T hk hk4 (by omega) hthr (by omega) nd hr
  have cp : E.countP (fun e => pl' (ix (2 * n) e.1)) ≤ E.length := List.countP_le_length
  refine ⟨h', fun a => a = mp ∨ a = h.2.1 ∨ ∃ i : Int, 0 ≤ i ∧ i < ((2 * n : Nat) : Int) ∧ a ∈ Ls' i, 3 * E.length + 4 * (N - 2 * n), e, ⟨mc, 2 * thr, lf, k + 1, f', Ls', pl', M', by rw [Nat.pow_succ]; omega, by omega, h2N, T', by omega, by omega, Or.inl rfl, Or.inr (Or.inl rfl), fun i a h0 h1 ha => Or.inr (Or.inr ⟨i, h0, h1, ha⟩), ?_, nd, hr, by omega⟩, ⟨?_, ?_, by omega⟩, by omega, by omega⟩
  · intro a ha
    rcases ha with rfl | rfl | ⟨i, h0, h1, ha⟩
    · have := Flt _ Fm; omega
    · exact l1
    · exact (T'.2.2 i h0 h1).2.lt ha
  · intro a ha
    rcases ha with rfl | rfl | ⟨i, h0, h1, ha⟩
    · exact Or.inl Fm
    · right; omega
    · rcases mem i a h0 h1 ha with ⟨i0, g0, g1, w⟩ | w
      · exact Or.inl (Fn i0 a g0 g1 w)
      · right; omega
  · intro b hb hlb
    exact frm b (fun i h0 h1 q => hb (Fn i b h0 h1 q)) (fun e => hb (e ▸ Fm)) (fun e => hb (e ▸ Ft)) hlb
theorem HT.mo {h h' : hS} {mp tab n : Nat} {f : Int → Option Nat} {Ls : Int → List Nat} {pl : Int → Bool} {E : List En} (T : HT h tab n f Ls pl E) (hm : hC h (some mp) = some 11) (o : ∀ b, b ≠ mp → h'.1 b = h.1 b) (s : h'.2 = h.2) : HT h' tab n f Ls pl E := by
  obtain ⟨A, ht, hb⟩ := T
  refine ⟨?_, by rw [s]; exact ht, fun i h0 h1 => ?_⟩
  · unfold arQ
    rw [o tab (arQ_ne A hm).symm]; exact A
  · obtain ⟨e, B⟩ := hb i h0 h1
    exact ⟨e, B.cg (fun a ha => o a (fun q => B.nm hm (q ▸ ha))) (by rw [s]; exact Nat.le_refl _)⟩
/-- after a node is hung in -/
theorem pH_259 {N : Nat} {h : hS} {mp sz : Nat} {E : List En} {F : Nat → Prop} {Q tab n kN : Nat} (hN : N = 2 ^ kN) (hN16 : kN ≤ 16) (P : HP N h mp sz E F Q tab n) (hE : E.length = sz + 1) (hfit : 4 * (sz + 1) ≤ 3 * N) :
    ∃ h' F' Q', fJ1_putVal_b259 h (some mp) 1 = some (none, h') ∧ HM N h' mp E F' Q' ∧ fr h h' F F' ∧ h'.2.1 + Q' ≤ h.2.1 + Q ∧ h'.2.2 + 4 * Q' ≤ h.2.2 + 4 * Q := by
  obtain ⟨mc, thr, lf, k, f, Ls, pl, M, hk, hk4, hnN, T, hthr, hsz, Fm, Ft, Fn, Flt, nd, hr, hQ⟩ := P
  have hN65 : N ≤ 65536 := by
    have := Nat.pow_le_pow_right (n := 2) (by omega) hN16
    have e : (2 : Nat) ^ 16 = 65536 := rfl
    omega
  have ww : wr ((sz : Int) + 1) = ((sz + 1 : Nat) : Int) := by rw [wr_id (by omega) (by omega)]; omega
  unfold fJ1_putVal_b259 fJ1_putVal_b292 fJ1_afterNodeInsertion
  rw [M.m, bd_s]
  obtain ⟨h1, e1, a1, o1, s1⟩ := M.w (k := 5) (vi (wr (mc + 1))) (by omega)
  have M1 : MO h1 mp (some tab) sz (wr (mc + 1)) thr lf := by unfold MO; rw [a1]; rfl
  rw [e1, bd_s, M1.s, bd_s, ww]
  obtain ⟨h2, e2, a2, o2, s2⟩ := M1.w (k := 4) (vi ((sz + 1 : Nat) : Int)) (by omega)
  have M2 : MO h2 mp (some tab) ((sz + 1 : Nat) : Int) (wr (mc + 1)) thr lf := by unfold MO; rw [a2]; rfl
  rw [e2, bd_s, M2.th, bd_s]
  have T2 : HT h2 tab n f Ls pl E := (T.mo M.c o1 s1).mo M1.c o2 s2
  have s12 : h2.2 = h.2 := by rw [s2, s1]
  by_cases q : ((sz + 1 : Nat) : Int) ≤ thr
  · rw [if_pos q, gd_t M2.c, bd_s]
    refine ⟨h2, F, Q, rfl, ⟨some tab, wr (mc + 1), thr, lf, by rw [hE]; exact M2, Fm, fun a ha => by rw [s12]; exact Flt a ha, nd, hr, k, n, f, Ls, pl, hk, hk4, hnN, Ft, Fn, T2, hthr, by omega, hQ⟩, ⟨fun a ha => Or.inl ha, fun b hb _ => ?_, by rw [s12]; exact Nat.le_refl _⟩, by rw [s12]; exact Nat.le_refl _, by rw [s12]; exact Nat.le_refl _⟩
    have : b ≠ mp := fun e => hb (e ▸ Fm)
    rw [o2 b this, o1 b this]
  · rw [if_neg q, gd_t M2.c]
    -- the resize, as the state before counts the node
    have hkN : k < kN := by
      rcases Nat.lt_or_ge k kN with w | w
      · exact w
      · have := Nat.pow_le_pow_right (n := 2) (by omega) w
        omega
    have h2N : 2 * n ≤ N := by
      have := Nat.pow_le_pow_right (n := 2) (by omega) (show k + 1 ≤ kN from hkN)
      rw [Nat.pow_succ] at this
      omega
    have hp4 : 2 ^ 4 ≤ 2 ^ k := Nat.pow_le_pow_right (by omega) hk4
    have e4 : (2 : Nat) ^ 4 = 16 := rfl
    obtain ⟨h', f', Ls', pl', e, M', T', mem, frm, l1, l2, l3⟩ := pH_resize M2 (by rw [s12]; exact Flt _ Fm) T2 hk hk4 (by omega) hthr (by omega) nd hr
    rw [e, bd_s]
    simp only
    rw [gd_t M'.c, bd_s]
    rw [s12] at mem frm l1 l2 l3 M' T'
    have cp : E.countP (fun e => pl' (ix (2 * n) e.1)) ≤ E.length := List.countP_le_length
    refine ⟨h', fun a => a = mp ∨ a = h.2.1 ∨ ∃ i : Int, 0 ≤ i ∧ i < ((2 * n : Nat) : Int) ∧ a ∈ Ls' i, 3 * E.length + 4 * (N - 2 * n), rfl, ⟨some h.2.1, wr (mc + 1), 2 * thr, lf, by rw [hE]; exact M', Or.inl rfl, ?_, nd, hr, k + 1, 2 * n, f', Ls', pl', by rw [Nat.pow_succ]; omega, by omega, h2N, Or.inr (Or.inl rfl), fun i a h0 h1 ha => Or.inr (Or.inr ⟨i, h0, h1, ha⟩), T', by omega, by omega, by omega⟩, ⟨?_, ?_, by omega⟩, by omega, by omega⟩
    · intro a ha
      rcases ha with rfl | rfl | ⟨i, h0, h1, ha⟩
      · have := Flt _ Fm; omega
      · exact l1
      · exact (T'.2.2 i h0 h1).2.lt ha
    · intro a ha
      rcases ha with rfl | rfl | ⟨i, h0, h1, ha⟩
      · exact Or.inl Fm
      · right; omega
      · rcases mem i a h0 h1 ha with ⟨i0, g0, g1, w⟩ | w
        · exact Or.inl (Fn i0 a g0 g1 w)
        · right; omega
    · intro b hb hlb
      have bm : b ≠ mp := fun e => hb (e ▸ Fm)
      rw [frm b (fun i h0 h1 q => hb (Fn i b h0 h1 q)) bm (fun e => hb (e ▸ Ft)) hlb, o2 b bm, o1 b bm]

set_option maxRecDepth 100000
/-! PURE: the hash map; one bin is changed -/
theorem HT.upd {h h' : hS} {tab n : Nat} {f f' : Int → Option Nat} {Ls : Int → List Nat} {pl : Int → Bool} {E E' : List En} {i : Int} {b' : Bool} {L' : List Nat} (T : HT h tab n f Ls pl E) (A' : arQ h' 6 n tab f') (hle : h.2.1 ≤ h'.2.1) (hi : f' i = L'.head?) (hj : ∀ j, j ≠ i → f' j = f j) (B' : BC h' b' L' (E'.filter fun e => decide (ix n e.1 = i)))
    (hE : ∀ j : Int, j ≠ i → 0 ≤ j → j < (n : Int) → E'.filter (fun e => decide (ix n e.1 = j)) = E.filter (fun e => decide (ix n e.1 = j))) (keep : ∀ (j : Int) (a : Nat), j ≠ i → 0 ≤ j → j < (n : Int) → a ∈ Ls j → h'.1 a = h.1 a) :
    HT h' tab n f' (fun j => if j = i then L' else Ls j) (fun j => if j = i then b' else pl j) E' := by
  obtain ⟨A, ht, hb⟩ := T
  refine ⟨A', by omega, fun j h0 h1 => ?_⟩
  dsimp only
  by_cases q : j = i
  · subst q
    rw [if_pos rfl, if_pos rfl]
    exact ⟨hi, B'⟩
  · rw [if_neg q, if_neg q, hE j q h0 h1, hj j q]
    obtain ⟨e, B⟩ := hb j h0 h1
    exact ⟨e, B.cg (fun a ha => keep j a q h0 h1 ha) hle⟩
/-- nodes of different bins differ -/
theorem HT.dj {h : hS} {tab n : Nat} {f : Int → Option Nat} {Ls : Int → List Nat} {pl : Int → Bool} {E : List En} (T : HT h tab n f Ls pl E) {i j : Int} (hij : j ≠ i) (i0 : 0 ≤ i) (i1 : i < n) (j0 : 0 ≤ j) (j1 : j < n) : ∀ a, a ∈ Ls j → a ∉ Ls i := by
  refine BC.dj (T.2.2 j j0 j1).2 (T.2.2 i i0 i1).2 (fun e e' he he' q => hij ?_)
  have w1 : ix n e.1 = j := by simpa using (List.mem_filter.mp he).2
  have w2 : ix n e'.1 = i := by simpa using (List.mem_filter.mp he').2
  rw [q] at w1
  exact w1.symm.trans w2
theorem upE_1 (hv : Int) (v : Option Nat) (e : En) : (upE hv v e).1 = e.1 := by
  unfold upE; split <;> rfl
theorem filter_upE (E : List En) (hv : Int) (v : Option Nat) (n : Nat) (j : Int) : (E.map (upE hv v)).filter (fun e => decide (ix n e.1 = j)) = (E.filter fun e => decide (ix n e.1 = j)).map (upE hv v) := by
  rw [List.filter_map]
  congr 1
  apply List.filter_congr
  intro e _
  simp only [Function.comp, upE_1]
theorem map_upE (E : List En) (hv : Int) (v : Option Nat) (h : ∀ e, e ∈ E → e.1 ≠ hv) : E.map (upE hv v) = E := by
  induction E with
  | nil => rfl
  | cons e E ih =>
    rw [List.map_cons, ih (fun x hx => h x (List.mem_cons_of_mem _ hx))]
    unfold upE
    rw [if_neg (h e (by simp))]
theorem map1_upE (E : List En) (hv : Int) (v : Option Nat) : (E.map (upE hv v)).map (·.1) = E.map (·.1) := by
  rw [List.map_map]
  apply List.map_congr_left
  intro e _
  exact upE_1 hv v e
theorem cnt_upE (E : List En) (hv : Int) (v : Option Nat) (n : Nat) (pl : Int → Bool) : (E.map (upE hv v)).countP (fun e => pl (ix n e.1)) = E.countP (fun e => pl (ix n e.1)) := by
  rw [List.countP_map]
  apply List.countP_congr
  intro e _
  simp only [Function.comp, upE_1]
/-- a key is there: its value is replaced -/
theorem pH_found {N : Nat} {h : hS} {mp : Nat} {E : List En} {F : Nat → Prop} {Q tab n k a : Nat} {hv : Int} {mc thr : Int} {lf : hV} {f : Int → Option Nat} {Ls : Int → List Nat} {pl : Int → Bool}
    (M : MO h mp (some tab) E.length mc thr lf) (hk : n = 2 ^ k) (hk4 : 4 ≤ k) (hnN : n ≤ N) (T : HT h tab n f Ls pl E) (hthr : 4 * thr = 3 * (n : Int)) (hsz : 4 * E.length ≤ 3 * n) (Fm : F mp) (Ft : F tab) (Fn : ∀ (i : Int) (a : Nat), 0 ≤ i → i < (n : Int) → a ∈ Ls i → F a) (Flt : ∀ a, F a → a < h.2.1) (nd : (E.map (·.1)).Nodup) (hr : ∀ e, e ∈ E → rI e.1) (hQ : 3 * E.countP (fun e => pl (ix n e.1)) + 4 * (N - n) ≤ Q)
    (hN : N ≤ 65536) (v : Option Nat) (aL : a ∈ Ls (ix n hv)) (hI' : hI h (some a) [(12, 0), (13, 2)] = some hv) :
    ∃ h', fJ1_putVal_b222 h (some mp) v 0 1 (some a) = some (mgt E hv, h') ∧ HM N h' mp (E.map (upE hv v)) F Q ∧ fr h h' F F ∧ h'.2 = h.2 ∧ ∃ e, e ∈ E ∧ e.1 = hv := by
  have hk16 : k ≤ 16 := pow_le_of (by omega)
  obtain ⟨l0, l1, ea, B⟩ := T.at hk (by omega) hv
  obtain ⟨e, nx, c, he, nA, -⟩ := B.at aL
  have e1 : e.1 = hv := by
    have := nA.1
    rw [hI'] at this
    exact (Option.some.inj this).symm
  have heE := (List.mem_filter.mp he).1
  have ndF : ((E.filter fun e => decide (ix n e.1 = ix n hv)).map (·.1)).Nodup := nd.sublist (List.Sublist.map _ List.filter_sublist)
  obtain ⟨h', ew, B', o', s'⟩ := B.upd ndF aL hI' v
  unfold fJ1_putVal_b222 fJ1_putVal_b244 fJ1_putVal_b250 fJ1_afterNodeAccess
  simp only [ifN]
  rw [nA.2.2.1, bd_s, if_pos trivial, ew, bd_s]
  have am : a ≠ mp := by
    rintro rfl
    exact B.nm M.c aL
  have hm' : hC h' (some mp) = some 11 := by rw [hC_cg (o' mp am.symm)]; exact M.c
  rw [gd_t hm', bd_s, mgt_of nd heE e1]
  have M' : MO h' mp (some tab) E.length mc thr lf := by unfold MO; rw [o' mp am.symm]; exact M
  have T' := T.upd (h' := h') (f' := f) (E' := E.map (upE hv v)) (i := ix n hv) (b' := pl (ix n hv)) (L' := Ls (ix n hv)) (by unfold arQ; rw [o' tab (fun q => B.nt T.1 (q ▸ aL))]; exact T.1) (by rw [s']; exact Nat.le_refl _) (T.2.2 _ l0 l1).1 (fun _ _ => rfl) (by rw [filter_upE]; exact B')
    (fun j hj _ _ => by
      rw [filter_upE]
      refine map_upE _ _ _ (fun e he q => hj ?_)
      have w := (List.mem_filter.mp he).2
      rw [q] at w
      have w : ix n hv = j := by simpa using w
      exact w.symm) (fun j b hj j0 j1 hb => o' b (fun q => T.dj hj l0 l1 j0 j1 b hb (q ▸ aL)))
  have p1 : (fun j => if j = ix n hv then Ls (ix n hv) else Ls j) = Ls := by funext j; split; rename_i q; rw [q]; rfl
  have p2 : (fun j => if j = ix n hv then pl (ix n hv) else pl j) = pl := by funext j; split; rename_i q; rw [q]; rfl
  rw [p1, p2] at T'
  refine ⟨h', rfl, ⟨some tab, mc, thr, lf, by rw [List.length_map]; exact M', Fm, fun b hb => by rw [s']; exact Flt b hb, by rw [map1_upE]; exact nd, fun e he => ?_, k, n, f, Ls, pl, hk, hk4, hnN, Ft, Fn, T', hthr, by rw [List.length_map]; exact hsz, by rw [cnt_upE]; exact hQ⟩, ⟨fun b hb => Or.inl hb, fun b hb _ => o' b (fun q => hb (q ▸ Fn _ a l0 l1 aL)), by rw [s']; exact Nat.le_refl _⟩, s', e, heE, e1⟩
  obtain ⟨e0, h0, rfl⟩ := List.mem_map.mp he
  rw [upE_1]; exact hr e0 h0

set_option maxRecDepth 100000
/-! PURE: the hash map; a new entry -/
/-- a new entry hangs in its bin: what follows -/
theorem HP_hung {N : Nat} {h h2 : hS} {mp kN : Nat} {E : List En} {F : Nat → Prop} {Q tab n k : Nat} {hv : Int} {o : Nat} {v : Option Nat} {mc thr : Int} {lf : hV} {f f2 : Int → Option Nat} {Ls : Int → List Nat} {pl : Int → Bool} {b2 : Bool} {L2 : List Nat}
    (M : MO h mp (some tab) E.length mc thr lf) (hk : n = 2 ^ k) (hk4 : 4 ≤ k) (hnN : n ≤ N) (T : HT h tab n f Ls pl E) (hthr : 4 * thr = 3 * (n : Int)) (hsz : 4 * E.length ≤ 3 * n) (Fm : F mp) (Ft : F tab) (Fn : ∀ (i : Int) (a : Nat), 0 ≤ i → i < (n : Int) → a ∈ Ls i → F a) (Flt : ∀ a, F a → a < h.2.1) (nd : (E.map (·.1)).Nodup) (hr : ∀ e, e ∈ E → rI e.1) (hQ : 3 * E.countP (fun e => pl (ix n e.1)) + 4 * (N - n) ≤ Q)
    (hN : N = 2 ^ kN) (hN16 : kN ≤ 16) (hrv : rI hv) (hno : ∀ e, e ∈ E → e.1 ≠ hv)
    (A2 : arQ h2 6 n tab f2) (fi : f2 (ix n hv) = L2.head?) (fj : ∀ j, j ≠ ix n hv → f2 j = f j) (B2 : BC h2 b2 L2 ((hv, some o, v) :: E.filter fun e => decide (ix n e.1 = ix n hv))) (mem : ∀ a, a ∈ L2 → a ∈ Ls (ix n hv) ∨ h.2.1 ≤ a) (frm : ∀ b, b ∉ Ls (ix n hv) → b ≠ tab → b < h.2.1 → h2.1 b = h.1 b) (hle : h.2.1 ≤ h2.2.1)
    (c1 : h2.2.1 + 3 * (((hv, some o, v) :: E).countP fun e => if ix n e.1 = ix n hv then b2 else pl (ix n e.1)) ≤ h.2.1 + 3 * E.countP (fun e => pl (ix n e.1)) + 4) (c2 : h2.2.2 + 12 * (((hv, some o, v) :: E).countP fun e => if ix n e.1 = ix n hv then b2 else pl (ix n e.1)) ≤ h.2.2 + 12 * E.countP (fun e => pl (ix n e.1)) + 16) :
    ∃ F2 Q2, HP N h2 mp E.length ((hv, some o, v) :: E) F2 Q2 tab n ∧ fr h h2 F F2 ∧ h2.2.1 + Q2 ≤ h.2.1 + Q + 4 ∧ h2.2.2 + 4 * Q2 ≤ h.2.2 + 4 * Q + 16 := by
  have hN65 : N ≤ 65536 := by
    have := Nat.pow_le_pow_right (n := 2) (by omega) hN16
    have e : (2 : Nat) ^ 16 = 65536 := rfl
    omega
  have hk16 : k ≤ 16 := pow_le_of (by omega)
  obtain ⟨l0, l1, ea, B⟩ := T.at hk (by omega) hv
  have T2 := T.upd (E' := (hv, some o, v) :: E) (i := ix n hv) A2 hle fi fj (by simpa using B2)
    (fun j hj _ _ => by
      have : ¬ ix n hv = j := fun q => hj q.symm
      simp [this])
    (fun j a hj j0 j1 ha => frm a (T.dj hj l0 l1 j0 j1 a ha) (fun q => by
      have := (T.2.2 j j0 j1).2.nt T.1
      exact this (q ▸ ha)) ((T.2.2 j j0 j1).2.lt ha))
  have mpL : mp ∉ Ls (ix n hv) := B.nm M.c
  have M2 : MO h2 mp (some tab) E.length mc thr lf := by
    unfold MO
    rw [frm mp mpL (arQ_ne T.1 M.c) (Flt _ Fm)]
    exact M
  have P : HP N h2 mp E.length ((hv, some o, v) :: E) (fun a => F a ∨ a ∈ L2) (3 * (((hv, some o, v) :: E).countP fun e => if ix n e.1 = ix n hv then b2 else pl (ix n e.1)) + 4 * (N - n)) tab n := by
    refine ⟨mc, thr, lf, k, f2, _, _, M2, hk, hk4, hnN, T2, hthr, hsz, Or.inl Fm, Or.inl Ft, fun i a i0 i1 ha => ?_, fun a ha => ?_, ?_, ?_, Nat.le_refl _⟩
    · by_cases q : i = ix n hv
      · rw [if_pos q] at ha; exact Or.inr ha
      · rw [if_neg q] at ha; exact Or.inl (Fn i a i0 i1 ha)
    · rcases ha with ha | ha
      · have := Flt a ha; omega
      · exact B2.lt ha
    · rw [List.map_cons, List.nodup_cons]
      refine ⟨fun q => ?_, nd⟩
      obtain ⟨e, he, e1⟩ := List.mem_map.mp q
      exact hno e he e1
    · intro e he
      rcases List.mem_cons.mp he with rfl | he
      · exact hrv
      · exact hr e he
  refine ⟨_, _, P, ⟨fun a ha => ?_, fun b hb hlb => ?_, hle⟩, by omega, by omega⟩
  · rcases ha with ha | ha
    · exact Or.inl ha
    · rcases mem a ha with w | w
      · exact Or.inl (Fn _ a l0 l1 w)
      · exact Or.inr w
  · exact frm b (fun q => hb (Fn _ b l0 l1 q)) (fun q => hb (q ▸ Ft)) hlb
/-- and the count goes up -/
theorem pH_fin {N : Nat} {h h2 : hS} {mp kN : Nat} {E : List En} {F F2 : Nat → Prop} {Q Q2 tab n : Nat} {e0 : En} (hN : N = 2 ^ kN) (hN16 : kN ≤ 16) (hfit : 4 * (E.length + 1) ≤ 3 * N) (P : HP N h2 mp E.length (e0 :: E) F2 Q2 tab n) (ff : fr h h2 F F2) (d1 : h2.2.1 + Q2 ≤ h.2.1 + Q + 4) (d2 : h2.2.2 + 4 * Q2 ≤ h.2.2 + 4 * Q + 16) :
    ∃ h' F' Q', fJ1_putVal_b259 h2 (some mp) 1 = some (none, h') ∧ HM N h' mp (e0 :: E) F' Q' ∧ fr h h' F F' ∧ h'.2.1 + Q' ≤ h.2.1 + Q + 4 ∧ h'.2.2 + 4 * Q' ≤ h.2.2 + 4 * Q + 16 := by
  obtain ⟨h', F', Q', e, M', f2, g1, g2⟩ := pH_259 hN hN16 P rfl hfit
  exact ⟨h', F', Q', e, M', ff.trans f2, by omega, by omega⟩
theorem cnt_cons {E : List En} {n : Nat} {pl : Int → Bool} {hv : Int} {e0 : En} {b2 : Bool} (h0 : e0.1 = hv) (hb : pl (ix n hv) = b2 ∨ E.filter (fun e => decide (ix n e.1 = ix n hv)) = []) :
    ((e0 :: E).countP fun e => if ix n e.1 = ix n hv then b2 else pl (ix n e.1)) = (if b2 then 1 else 0) + E.countP (fun e => pl (ix n e.1)) := by
  rw [List.countP_cons, h0, if_pos rfl]
  have : E.countP (fun e => if ix n e.1 = ix n hv then b2 else pl (ix n e.1)) = E.countP (fun e => pl (ix n e.1)) := by
    apply List.countP_congr
    intro e he
    by_cases q : ix n e.1 = ix n hv
    · rw [if_pos q]
      rcases hb with w | w
      · rw [q, w]
      · have := List.filter_eq_nil_iff.mp w e he
        simp [q] at this
    · rw [if_neg q]
  rw [this]
  cases b2 <;> simp; omega
theorem cnt_tree {E : List En} {n : Nat} {pl : Int → Bool} {hv : Int} {e0 : En} (h0 : e0.1 = hv) (hb : pl (ix n hv) = true) :
    ((e0 :: E).countP fun e => if ix n e.1 = ix n hv then false else pl (ix n e.1)) + (E.filter fun e => decide (ix n e.1 = ix n hv)).length = E.countP (fun e => pl (ix n e.1)) := by
  rw [List.countP_cons, h0, if_pos rfl, ← List.countP_eq_length_filter]
  simp only [Bool.false_eq_true, if_false, Nat.add_zero]
  induction E with
  | nil => rfl
  | cons e E ih =>
    rw [List.countP_cons, List.countP_cons, List.countP_cons, ← ih]
    by_cases q : ix n e.1 = ix n hv
    · simp [q, hb]; omega
    · simp [q]; omega
/-- a new entry in an empty bin -/
theorem BC_one {h : hS} {x : Nat} {e : En} (a : h.1 x = some (.inl (12, [vi e.1, vq e.2.1, vq e.2.2, vq none]))) (hx : x < h.2.1) : BC h true [x] [e] := by
  refine ⟨fun _ => e.1, fun _ => e.2.1, fun _ => e.2.2, ⟨by simp, ⟨a, trivial⟩⟩, List.Perm.refl _, fun b hb => by simp at hb; omega⟩

