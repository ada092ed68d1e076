/-! the pure laws: S5 -/
set_option maxRecDepth 100000
/-! PURE: the pure law -/
theorem rI_00 : rI 0 := by decide
theorem eOK_in (c o : Nat) : eOK (.inl (c, inF o)) := by
  intro i hi
  have hi : vi i ∈ [vi 0, vi 0, vq none, vq (some (o + 1)), vq (some (o + 2)), vi 0] := hi
  simp at hi
  subst hi; exact rI_00
theorem eOK_ar : eOK (.inr (0, 2, .inl fun _ => 0)) := ⟨⟨fun _ => rI_00, fun _ _ => Or.inl rfl, fun _ _ => (by decide : -128 ≤ (0 : Int) ∧ (0 : Int) ≤ 127)⟩, by decide⟩
theorem eOK_mp : eOK (.inl (11, mpF)) := by
  intro i hi
  have hi : vi i ∈ [vq none, vq none, vq none, vq none, vi 0, vi 0, vi 0, .inr (.inr (.inl 1061158912))] := hi
  simp at hi
  subst hi; exact rI_00
theorem eOK_LX (o : Nat) : ∀ i, (kpX i || (true && (i == 23))) = true → ∀ e, (LX o)[i]? = some e → eOK e := by
  intro i hi e he
  have hl : i < 17 ∨ i = 23 := by
    simp [kpX] at hi; omega
  obtain rfl | rfl | rfl | rfl | rfl | rfl | rfl | rfl | rfl | rfl | rfl | rfl | rfl | rfl | rfl | rfl | rfl | rfl : i = 0 ∨ i = 1 ∨ i = 2 ∨ i = 3 ∨ i = 4 ∨ i = 5 ∨ i = 6 ∨ i = 7 ∨ i = 8 ∨ i = 9 ∨ i = 10 ∨ i = 11 ∨ i = 12 ∨ i = 13 ∨ i = 14 ∨ i = 15 ∨ i = 16 ∨ i = 23 := by omega
  all_goals first | (exact absurd hi (by decide)) | (cases he; first | exact eOK_in _ _ | exact eOK_ar | exact eOK_mp)
theorem LI.start {gs : Option Nat × Option Nat} {ca : Nat → Nat} {mp c0 s0 : Nat} {sx sm : Sg} {h k : hS} {A : As} {E : List En} {F : Nat → Prop} {Q : Nat} {H : List Tm} (h6 : R6 sm A) (h0 : R0 sx k gs ca A) (hw : okW (asI A) (UH H) mp (k, h, E, F, Q)) (hp : LHy 0 A H) (b1 : h.2.1 + Q ≤ c0) (b2 : h.2.2 + 4 * Q ≤ s0) : LI gs ca mp c0 s0 0 sx sm h :=
  ⟨A, (k, h, E, F, Q), H, rfl, h6, h0, hw, hp, Nat.le_trans b1 (Nat.le_add_right _ _), Nat.le_trans b2 (Nat.le_add_right _ _)⟩
theorem law_pure {G : Gx} {st0 : hS} {ca : Nat → Nat} (hL : xL G ≤ 120) (hg : (gO G).size ≤ st0.2.1) (hn : ∀ a, st0.2.1 ≤ a → st0.1 a = none) (rr : RR [] [] st0) (hc : Cch st0 G.2.2.2 ca) : lawPure G st0 := by
  obtain ⟨h2, e1, b1, b2, c0, cx, cm⟩ := new_pair hn
  obtain ⟨o, ho⟩ : ∃ o, o = st0.2.1 := ⟨_, rfl⟩
  have st2 : ∀ a e, (st9 st0 true h2.2.2).1 a = some e → h2.1 a = some e := by
    intro a e he
    by_cases q : a < st0.2.1
    · rw [st9_old q] at he; rw [c0 a q]; exact he
    · obtain ⟨i, rfl⟩ := Nat.le.dest (show st0.2.1 ≤ a by omega)
      rw [st9_new] at he
      split at he
      · have : i < 34 := by
          have := (List.getElem?_eq_some_iff.mp he).1
          rwa [LX_len] at this
        rw [cx i this]; exact he
      · cases he
  have none9 : ∀ a, ownS (0, st0.2.1, fun k => st0.2.1 + ixX k) a ∨ ownS (6, st0.2.1 + 34, fun k => st0.2.1 + 34 + ixM k) a → (st9 st0 true h2.2.2).1 a = none := by
    intro a ha
    rcases ha with ha | ha
    · obtain ⟨i, rfl, -, hk⟩ := ownX_at ha
      rw [st9_new, if_neg (by rw [hk]; decide)]
    · obtain ⟨i, rfl, hi⟩ := ownM_at ha
      rw [Nat.add_assoc, st9_new]
      split
      · exact List.getElem?_eq_none (by rw [LX_len]; omega)
      · rfl
  have hX : ext st0 (st9 st0 false h2.2.2) := by
    intro a e he
    by_cases q : a < st0.2.1
    · rw [st9_old q]; exact he
    · rw [hn a (by omega)] at he; cases he
  have hr0 : R0 (sX0 st0.2.1) (st9 st0 false h2.2.2) G.2.2.2 ca A00 := by
    refine ⟨⟨rfl, Nat.zero_le _, fun c hc => absurd hc (Nat.not_lt_zero c)⟩, ⟨rfl, Nat.zero_le _, fun i hi => absurd hi (Nat.not_lt_zero i)⟩, fun i e hi => absurd hi (Nat.not_lt_zero i), fun i e hi => absurd hi (Nat.not_lt_zero i), fun i hi => rfl, ⟨rfl, fun j e hj => by cases hj⟩, ⟨rfl, fun j c hj => by cases hj⟩, rfl, rfl, ?_, hc.mono hX⟩
    intro kd hk
    obtain rfl | rfl | rfl | rfl | rfl : kd = 0 ∨ kd = 1 ∨ kd = 2 ∨ kd = 3 ∨ kd = 4 := by omega
    · exact ⟨st0.2.1 + 2, inF (st0.2.1 + 2), rfl, by rw [st9_new]; rfl⟩
    · exact ⟨st0.2.1 + 5, inF (st0.2.1 + 5), rfl, by rw [st9_new]; rfl⟩
    · exact ⟨st0.2.1 + 8, inF (st0.2.1 + 8), rfl, by rw [st9_new]; rfl⟩
    · exact ⟨st0.2.1 + 11, inF (st0.2.1 + 11), rfl, by rw [st9_new]; rfl⟩
    · exact ⟨st0.2.1 + 14, inF (st0.2.1 + 14), rfl, by rw [st9_new]; rfl⟩
  have hkp : Kp (st9 st0 false h2.2.2) (st9 st0 true h2.2.2) (fun a => a = st0.2.1 + 23) := by
    refine ⟨fun a e he => ?_, fun a ha => by subst ha; show st0.2.1 + 23 < st0.2.1 + 80; omega⟩
    by_cases q : a < st0.2.1
    · rw [st9_old q] at he
      exact ⟨by rw [st9_old q]; exact he, show a < st0.2.1 + 80 by omega, show ¬ a = st0.2.1 + 23 by omega⟩
    · obtain ⟨i, rfl⟩ := Nat.le.dest (show st0.2.1 ≤ a by omega)
      rw [st9_new] at he ⊢
      split at he
      · rename_i hk
        have hk' : kpX i = true := by simpa using hk
        have hi : 2 ≤ i ∧ i < 17 := by simpa [kpX] using hk'
        exact ⟨by rw [if_pos (by rw [hk']; rfl)]; exact he, show st0.2.1 + i < st0.2.1 + 80 by omega, show ¬ st0.2.1 + i = st0.2.1 + 23 by omega⟩
      · cases he
  have hhm : HM 32768 (st9 st0 true h2.2.2) (st0.2.1 + 23) [] (fun a => a = st0.2.1 + 23) 131072 := by
    refine ⟨none, 0, 0, .inr (.inr (.inl 1061158912)), ?_, rfl, hkp.2, List.nodup_nil, fun e he => (by cases he), rfl, rfl, by decide⟩
    rw [st9_new]; rfl
  have hw : okW (asI A00) (UH []) (st0.2.1 + 23) (st9 st0 false h2.2.2, st9 st0 true h2.2.2, [], (fun a => a = st0.2.1 + 23), 131072) := ⟨hkp, hhm, fun e he => by cases he⟩
  have hp : LHy 0 A00 [] := ⟨fun u hu => (by cases hu), fun k hk t e => (by cases e), fun b Ks S E e => (by cases e), Nat.le_refl _, fun _ => rfl, Nat.le_refl _, fun q => absurd rfl q⟩
  have hI : LI G.2.2.2 ca ((fun k => st0.2.1 + ixX k) 20) (st0.2.1 + 80 + 131072) (h2.2.2 + 4 * 131072) 0 (sX0 st0.2.1) sM0 (st9 st0 true h2.2.2) :=
    LI.start R6_00 hr0 hw hp (Nat.le_refl _) (Nat.le_refl _)
  obtain ⟨z, m, e2, hm, I2⟩ := ls_loop (adx := fun k => st0.2.1 + ixX k) (ca := ca) (c0 := st0.2.1 + 80 + 131072) (s0 := h2.2.2 + 4 * 131072) hL 25 0 (sX0 st0.2.1) sM0 (st9 st0 true h2.2.2) hI (by decide) (by decide)
  refine ⟨(st0.2.1, st0.2.1 + 34, h2), fun k => st0.2.1 + ixX k, fun k => st0.2.1 + 34 + ixM k, sX0 st0.2.1, sM0, st9 st0 true h2.2.2, z, 25, e1, apart_XM hg, ?_, held_X cx, held_M cm, ?_, st2, none9, ?_, e2, ?_, ?_⟩
  · intro a ha
    rcases ha with ha | ha
    · obtain ⟨i, q, -⟩ := ownX_at (o := st0.2.1) ha; omega
    · obtain ⟨i, q, -⟩ := ownM_at (o := st0.2.1 + 34) ha; omega
  · show (st0.2.1 + 80, h2.2.2) = h2.2
    exact Prod.ext b2.symm rfl
  · refine ⟨fun i sp σ h1 h2 => ?_, fun a e he => ?_⟩
    · have hi : i < 2 := (List.getElem?_eq_some_iff.mp h1).1
      match i, hi with
      | 0, _ => cases h1; cases h2; exact RRs_X _
      | 1, _ => cases h1; cases h2; exact RRs_M
    · by_cases q : a < st0.2.1
      · rw [st9_old q] at he; exact rr.2 a e he
      · obtain ⟨i, rfl⟩ := Nat.le.dest (show st0.2.1 ≤ a by omega)
        rw [st9_new] at he
        split at he
        · rename_i hk
          exact eOK_LX _ i hk e he
        · cases he
  · obtain ⟨A, w, H, q0, -, -, -, -, q1, -⟩ := I2
    rw [← q0]
    omega
  · obtain ⟨A, w, H, q0, -, -, -, -, -, q1⟩ := I2
    rw [← q0]
    omega

