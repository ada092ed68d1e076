/-! the start's facts -/
set_option maxRecDepth 100000
section ST
variable {s : State} {args : Array Value}
theorem st_cls (hts : ∀ w ∈ lw_all, w.before args s = true) : ∃ D : va_G, ∀ (c : Nat) (q : vw_C), clA[c]? = some q → u_Kn s q.1 q.2.1 q.2.2 (D.1 c) (D.2 c) := by
  have h : ∀ c : Nat, ∃ p : ClassId × (Nat → Nat), ∀ q : vw_C, clA[c]? = some q → u_Kn s q.1 q.2.1 q.2.2 p.1 p.2 := by
    intro c
    by_cases hc : c < 16
    · have k : ∀ (q : vw_C), clA[c]? = some q → ∃ (cC : ClassId) (iS : Nat → Nat), u_Kn s q.1 q.2.1 q.2.2 cC iS := by
        match c, hc with
        | 0, _ => intro q h; cases h; exact u_known hts in_X0 (hts _ q145)
        | 1, _ => intro q h; cases h; exact u_known hts in_X1 (hts _ q154)
        | 2, _ => intro q h; cases h; exact u_known hts in_X2 (hts _ q196)
        | 3, _ => intro q h; cases h; exact u_known hts in_X3 (hts _ q209)
        | 4, _ => intro q h; cases h; exact u_known hts in_X4 (hts _ q222)
        | 5, _ => intro q h; cases h; exact u_known hts in_X5 (hts _ q235)
        | 6, _ => intro q h; cases h; exact u_known hts in_X6 (hts _ q1400)
        | 7, _ => intro q h; cases h; exact u_known hts in_X7 (hts _ q464)
        | 8, _ => intro q h; cases h; exact u_known hts in_X8 (hts _ q490)
        | 9, _ => intro q h; cases h; exact u_known hts in_X9 (hts _ q863)
        | 10, _ => intro q h; cases h; exact u_known hts in_X10 (hts _ q886)
        | 11, _ => intro q h; cases h; exact u_known hts in_J1 (hts _ q250)
        | 12, _ => intro q h; cases h; exact u_known hts in_J4 (hts _ q710)
        | 13, _ => intro q h; cases h; exact u_known hts in_J6 (hts _ q770)
        | 14, _ => intro q h; cases h; exact u_known hts in_J15 (hts _ q1000)
        | 15, _ => intro q h; cases h; exact u_known hts in_J3 (hts _ q527)
        | k + 16, h => omega
      obtain ⟨q, hq⟩ : ∃ q, clA[c]? = some q := ⟨_, List.getElem?_eq_getElem (show c < clA.length from hc)⟩
      obtain ⟨a, b, h⟩ := k q hq
      exact ⟨(a, b), fun q' h' => by cases hq.symm.trans h'; exact h⟩
    · exact ⟨(0, fun _ => 0), fun q h => absurd (show c < 16 from (List.getElem?_eq_some_iff.mp h).1) hc⟩
  obtain ⟨f, hf⟩ := Classical.axiomOfChoice h
  exact ⟨(fun c => (f c).1, fun c => (f c).2), fun c q hq => hf c q hq⟩
theorem st_arr (hts : ∀ w ∈ lw_tbl, w.before args s = true) : ∃ T : Nat → ClassId, ∀ t, t < 7 → ArrOfT s (T t) (tyN t) ∧ va_RA s (T t) (tyN t) := by
  have h : ∀ t : Nat, ∃ c : ClassId, t < 7 → ArrOfT s c (tyN t) ∧ va_RA s c (tyN t) := by
    intro t
    by_cases ht : t < 7
    · have p : ∀ ty : FieldType, (Cond.arrayClass ty).before args s = true → (∀ C, ty ≠ .object C) → ∃ c : ClassId, ArrOfT s c ty ∧ va_RA s c ty := by
        intro ty h hn
        obtain ⟨cB, kB, comp, hcB, hkB, hkind⟩ := Cond.arrayClass_spec h
        refine ⟨cB, fun N z => ⟨(fun k h => by cases h), kB, hkB, comp, hkind⟩, ?_⟩
        cases ty with
        | object C => exact absurd rfl (hn C)
        | _ => exact hcB
      have o : ∀ C : String, (Cond.arrayOver (.object C)).before args s = true → ∃ c : ClassId, ArrOfT s c (.object C) ∧ va_RA s c (.object C) := by
        intro C h
        obtain ⟨comp, c, k, h1, h2, h3, h4, h5⟩ := Cond.arrayOver_spec h
        exact ⟨c, fun N z => ⟨(fun k h => by cases h), k, h3, comp, h4⟩, k, comp, h3, h4, h1, h5⟩
      match t, ht with
      | 0, _ => obtain ⟨c, h⟩ := p .int (hts _ (lw_all_tbl q194)) (fun C h => by cases h); exact ⟨c, fun _ => h⟩
      | 1, _ => obtain ⟨c, h⟩ := p .boolean (hts _ (lw_all_tbl q390)) (fun C h => by cases h); exact ⟨c, fun _ => h⟩
      | 2, _ => obtain ⟨c, h⟩ := p .byte (hts _ (lw_all_tbl q1274)) (fun C h => by cases h); exact ⟨c, fun _ => h⟩
      | 3, _ => obtain ⟨c, h⟩ := o _ (hts _ q153); exact ⟨c, fun _ => h⟩
      | 4, _ => obtain ⟨c, h⟩ := o _ (hts _ q248); exact ⟨c, fun _ => h⟩
      | 5, _ => obtain ⟨c, h⟩ := o _ (hts _ q976); exact ⟨c, fun _ => h⟩
      | 6, _ => obtain ⟨c, h⟩ := o _ (hts _ q696); exact ⟨c, fun _ => h⟩
    · exact ⟨0, fun h => absurd h ht⟩
  obtain ⟨f, hf⟩ := Classical.axiomOfChoice h
  exact ⟨f, fun t ht => hf t ht⟩
theorem st_nw (hts : ∀ w ∈ lw_tbl, w.before args s = true) : ∀ w ∈ lw_tbl, nwOf w = true → va_Nw w s := by
  intro w hw hn
  have h := hts w hw
  cases w with
  | methodLinkNest a b c d => exact va_Nw.of rfl h
  | castable a b => exact va_Nw.of rfl h
  | declares a => exact va_Nw.of rfl h
  | _ => cases hn
theorem st_ao (hts : ∀ w ∈ lw_tbl, w.before args s = true) : ∀ C ∈ ["DictProof$Instance", "DictProof$Term", "DictProof$Proof", "java/util/HashMap$Node"], va_AO C s := by
  intro C hC
  simp only [List.mem_cons, List.not_mem_nil, or_false] at hC
  rcases hC with rfl | rfl | rfl | rfl
  · exact va_AO.of (hts _ q153)
  · exact va_AO.of (hts _ q248)
  · exact va_AO.of (hts _ q976)
  · exact va_AO.of (hts _ q696)
theorem st_nc (hn : (Jvm.Cond.and given_1 narrow_1).before args s = true) : ∀ q ∈ ncL, va_Nc q.1 q.2 s := by
  have hs := flat_of_before _ hn
  intro q hq
  refine va_Nc.of (args := args) ?_
  exact hs _ (by revert q; decide +kernel)
theorem st_fw (hts : ∀ w ∈ lw_tbl, w.before args s = true) : ∀ q ∈ fwL, va_Fw q.1 q.2.1 q.2.2 s := by
  have h : fwL.all (fun q => lw_tbl.contains (.declares q.2.1) && lw_tbl.contains (.interfaceMethod q.2.1.cls q.2.1.cls q.2.1.name q.2.1.desc) && lw_tbl.contains (.publicMethod q.2.2) && lw_tbl.contains (.unhidden q.1 q.2.1.name q.2.1.desc) && lw_tbl.contains (.castable q.1 q.2.1.cls)) = true := by decide +kernel
  intro q hq
  have h1 := List.all_eq_true.mp h q hq
  simp only [Bool.and_eq_true, List.contains_iff_mem] at h1
  obtain ⟨⟨⟨⟨a1, a2⟩, a3⟩, a4⟩, a5⟩ := h1
  exact va_Fw.of (hts _ a1) (hts _ a2) (hts _ a3) (hts _ a4) (hts _ a5)
theorem st_bes (hn : (Jvm.Cond.and given_1 narrow_1).before args s = true) : besW s := by
  have hs := flat_of_before _ hn
  refine ⟨va_tabs rfl rfl (hs _ (by decide +kernel)), va_tabs rfl rfl (hs _ (by decide +kernel)), fun C hC => ?_⟩
  have h : (Cond.landsInDefault C bsX bsY).before args s = true := hs _ (by revert C; decide +kernel)
  exact lid_set h
theorem st_thr (hts : ∀ w ∈ lw_tbl, w.before args s = true) (hn : (Jvm.Cond.and given_1 narrow_1).before args s = true) {G : Gx} (hO : gO G = s.heap) (h7 : ArrOfT s (gT G 7) (.object "java/lang/Integer")) : thrW G s := by
  have hs := flat_of_before _ hn
  have hA : ∀ a : Nat, a < s.heap.size → ¬ (gO G).size ≤ a := fun a h => by rw [hO]; omega
  unfold thrW
  refine ⟨?_, ?_, h7⟩
  · have h := vx_Zqof (A := fun a => (gO G).size ≤ a) (hts _ q1225) (hts _ (lw_all_tbl q135)) (hs (Cond.isRef (.static Bundle.tN "UNASSIGNED_STACK" Bundle.steD)) (by decide +kernel)) hA
    rw [← hO] at h; exact h
  · have h := vx_Zqof (A := fun a => (gO G).size ≤ a) (hts _ q1227) (hts _ (lw_all_tbl q135)) (hs (Cond.isRef (.static Bundle.tN "SUPPRESSED_SENTINEL" Bundle.listD)) (by decide +kernel)) hA
    rw [← hO] at h; exact h
end ST
