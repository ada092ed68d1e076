/-! the start's statics -/
set_option maxRecDepth 100000
section ST
variable {s : State} {args : Array Value}
abbrev tCache : Term := .static "java/lang/Integer$IntegerCache" "cache" "[Ljava/lang/Integer;"
abbrev tPres : Term := .static "java/util/HashSet" "PRESENT" "Ljava/lang/Object;"
theorem st_cache (hn : (Jvm.Cond.and given_1 narrow_1).before args s = true) : ∃ (ca : Nat) (cell : Cell), tCache.eval args s none [] s = some (.ref ca) ∧ s.heap[ca]? = some cell ∧ s.isArrayOf cell (.object "java/lang/Integer") ∧ cell.vm ≠ .unknown := by
  have hs := flat_of_before _ hn
  have h1 : (Cond.isRef tCache).before args s = true := hs _ (by decide +kernel)
  have h2 : (Cond.arrayOf tCache (.object "java/lang/Integer")).before args s = true := hs _ (by decide +kernel)
  obtain ⟨v, hv, hr⟩ := Cond.isRef_spec h1
  cases v with
  | ref a =>
    cases hc : s.heap[a]? with
    | none =>
      have h3 : (Cond.arrayOf tCache (.object "java/lang/Integer")).holds args s none s [] = true := h2
      simp [Cond.holds, Cond.value, hv, hc] at h3
    | some cell =>
      obtain ⟨g1, g2⟩ := Cond.arrayOf_spec h2 hv hc
      exact ⟨a, cell, hv, hc, g1, g2⟩
  | null =>
    have h3 : (Cond.arrayOf tCache (.object "java/lang/Integer")).holds args s none s [] = true := h2
    simp [Cond.holds, Cond.value, hv] at h3
  | _ => cases hr
theorem st_pres (hn : (Jvm.Cond.and given_1 narrow_1).before args s = true) : ∃ pr : Nat, tPres.eval args s none [] s = some (.ref pr) := by
  have hs := flat_of_before _ hn
  have h1 : (Cond.exactly tPres "java/lang/Object").before args s = true := hs _ (by decide +kernel)
  obtain ⟨a, c, cell, k, h, -⟩ := Cond.exactly_spec h1
  exact ⟨a, h⟩
theorem st_arr7 {cell : Cell} (h : s.isArrayOf cell (.object "java/lang/Integer")) : ArrOfT s cell.cls (.object "java/lang/Integer") := by
  obtain ⟨-, k, h1, comp, h2⟩ := h
  exact fun N z => ⟨(fun k h => by cases h), k, h1, comp, h2⟩
theorem st_sz (hts : ∀ w ∈ lw_tbl, w.before args s = true) (hn : (Jvm.Cond.and given_1 narrow_1).before args s = true) {G : Gx} (hO : gO G = s.heap) {ca pr : Nat} (hc : gC G = some ca) (hp : gP G = some pr) (h1 : tCache.eval args s none [] s = some (.ref ca)) (h2 : tPres.eval args s none [] s = some (.ref pr)) : SZ G s := by
  have hs := flat_of_before _ hn
  have hA : ∀ a : Nat, a < s.heap.size → ¬ (gO G).size ≤ a := fun a h => by rw [hO]; omega
  have e1 : (Term.static "java/lang/Integer$IntegerCache" "high" "I").eval args s none [] s = some (.int 127) := Cond.eq_int (hs (Cond.eq (.static "java/lang/Integer$IntegerCache" "high" "I") (.int 127)) (by decide +kernel)) rfl
  have e2 : (Term.static "java/util/HashMap$TreeNode" "$assertionsDisabled" "Z").eval args s none [] s = some (.int 1) := Cond.eq_int (hs (Cond.eq (.static "java/util/HashMap$TreeNode" "$assertionsDisabled" "Z") (.int 1)) (by decide +kernel)) rfl
  unfold SZ
  rw [hc, hp, hO] at *
  exact ⟨va_Zof (hts _ q523) (hts _ (lw_all_tbl q128)) e1 hA, va_Zof (hts _ q525) (hts _ (lw_all_tbl q128)) h1 hA, va_Zof (hts _ q1026) (hts _ (lw_all_tbl q143)) h2 hA, va_Zof (hts _ q757) (hts _ (lw_all_tbl q131)) e2 hA⟩
end ST
