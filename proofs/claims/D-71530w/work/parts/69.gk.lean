/-! what the tables say at the start -/
set_option maxRecDepth 100000
theorem st_GK {s : State} {args : Array Value} (hts : ∀ w ∈ lw_tbl, w.before args s = true) (hn : (Jvm.Cond.and given_1 narrow_1).before args s = true) (hm9 : modulesRight_1 s = true) {b L : Nat} {xs : Nat → Int32} (hX : va_X b L xs s s.heap) (hb : b < s.heap.size) :
    ∃ (D : va_G) (T : Nat → ClassId) (ca pr : Nat) (cell : Cell), s.heap[ca]? = some cell ∧ cell.cls = T 7 ∧ s.isArrayOf cell (.object "java/lang/Integer") ∧ cell.vm ≠ .unknown ∧ tCache.eval args s none [] s = some (.ref ca) ∧ tPres.eval args s none [] s = some (.ref pr) ∧
      GK ((D, T, (s.heap, b, L, xs), some ca, some pr) : Gx) s := by
  have hta : ∀ w ∈ lw_all, w.before args s = true := fun w hw => hts w (lw_all_tbl hw)
  obtain ⟨D, hD⟩ := st_cls hta
  obtain ⟨T, hT⟩ := st_arr hts
  obtain ⟨ca, cell, c1, c2, c3, c4⟩ := st_cache hn
  obtain ⟨pr, p1⟩ := st_pres hn
  let T' : Nat → ClassId := fun t => if t = 7 then cell.cls else T t
  have hT' : ∀ t, t < 7 → T' t = T t := fun t ht => if_neg (by omega)
  have h7 : T' 7 = cell.cls := if_pos rfl
  refine ⟨D, T', ca, pr, cell, c2, h7.symm, c3, c4, c1, p1, ⟨hD, fun k q hk => ?_⟩, st_nw hts, st_ao hts, st_sz hts hn (G := (D, T', (s.heap, b, L, xs), some ca, some pr)) rfl rfl rfl c1 p1, st_nc hn, st_fw hts, st_bes hn, hX, hb, st_msg hm9, st_thr hts hn (G := (D, T', (s.heap, b, L, xs), some ca, some pr)) rfl (by rw [show gT ((D, T', (s.heap, b, L, xs), some ca, some pr) : Gx) 7 = cell.cls from h7]; exact st_arr7 c3)⟩
  have hk7 : k < 7 := by
    have := (List.getElem?_eq_some_iff.mp hk).1
    rw [List.length_map, List.length_range] at this
    exact this
  rw [tysA_at _ hk7] at hk
  cases hk
  show ArrOfT s (T' k) (tyN k) ∧ va_RA s (T' k) (tyN k)
  rw [hT' k hk7]
  exact hT k hk7
