/-! the words of a cast that fails are short -/
set_option maxRecDepth 100000
def hm (b : Bool) : String := (if b then "module " ++ "java.base" else "unnamed module") ++ " of loader " ++ "'bootstrap'"
def msgOf (q : String × String) (f b1 b2 : Bool) : String := "class " ++ dotted q.1 ++ " cannot be cast to class " ++ dotted q.2 ++ " (" ++ (if f then dotted q.1 ++ " and " ++ dotted q.2 ++ " are in " ++ hm b1 else dotted q.1 ++ " is in " ++ hm b1 ++ "; " ++ dotted q.2 ++ " is in " ++ hm b2) ++ ")"
theorem dotted_len (s : String) : (dotted s).toList.length = s.toList.length := by
  unfold dotted turned
  rw [String.toList_ofList, List.length_map]
theorem lens_ok : ncL.all (fun q => decide (q.1.toList.length ≤ 26) && decide (q.2.toList.length ≤ 26)) = true := by decide +kernel
theorem hm_len (b : Bool) : (hm b).toList.length ≤ 40 := by cases b <;> (unfold hm; simp only [String.toList_append, List.length_append]; decide)
theorem msgOf_len {q : String × String} (h1 : q.1.toList.length ≤ 26) (h2 : q.2.toList.length ≤ 26) (f b1 b2 : Bool) : (msgOf q f b1 b2).toList.length ≤ 240 := by
  have d1 := dotted_len q.1
  have d2 := dotted_len q.2
  have e1 := hm_len b1
  have e2 := hm_len b2
  have a1 : "class ".toList.length = 6 := by decide
  have a2 : " cannot be cast to class ".toList.length = 25 := by decide
  have a3 : " (".toList.length = 2 := by decide
  have a4 : ")".toList.length = 1 := by decide
  have a5 : " and ".toList.length = 5 := by decide
  have a6 : " are in ".toList.length = 8 := by decide
  have a7 : " is in ".toList.length = 7 := by decide
  have a8 : "; ".toList.length = 2 := by decide
  unfold msgOf
  cases f
  · rw [if_neg (by decide)]
    simp only [String.toList_append, List.length_append]
    omega
  · rw [if_pos rfl]
    simp only [String.toList_append, List.length_append]
    omega
theorem msgs_ok {q : String × String} (hq : q ∈ ncL) (f b1 b2 : Bool) : (msgOf q f b1 b2 == notModelled) = false ∧ (stringBytes (stringToUtf16 (msgOf q f b1 b2))).size ≤ 990 := by
  have h := List.all_eq_true.mp lens_ok q hq
  rw [Bool.and_eq_true, decide_eq_true_eq, decide_eq_true_eq] at h
  have h1 := msgOf_len h.1 h.2 f b1 b2
  have h2 := stringBytes_size_le (stringToUtf16 (msgOf q f b1 b2))
  have h3 := utf16_size_le (msgOf q f b1 b2)
  refine ⟨?_, by omega⟩
  rw [beq_eq_false_iff_ne]
  intro he
  have h4 := congrArg (fun s : String => s.toList.head?) he
  have h5 : notModelled.toList.head? = some '\u0000' := by decide
  have h6 : (msgOf q f b1 b2).toList.head? = some 'c' := by
    unfold msgOf
    simp only [String.toList_append]
    rfl
  simp only [h5, h6] at h4
  exact absurd h4 (by decide)
theorem names_ok : ncL.all (fun q => (castPackages_1.contains (packageOf q.1) && castPackages_1.contains (packageOf q.2)) && !((withoutBrackets q.1).length == 1) && !((withoutBrackets q.2).length == 1)) = true := by decide +kernel
theorem st_home {s : State} (hm9 : modulesRight_1 s = true) {k : Class} {nm : String} (hn : k.name = nm) (hp : castPackages_1.contains (packageOf nm) = true) (hw : ((withoutBrackets nm).length == 1) = false) (hl : k.loader = none) (hk : ∀ t, k.kind ≠ .primitive t) : ∃ b, s.vm.home k = hm b := by
  have ho : k.ofPrimitives = false := by
    unfold Class.ofPrimitives
    split
    · rename_i t h; exact absurd h (hk t)
    · rw [hn]; exact hw
    · rfl
  unfold Vm.home
  have hln : s.vm.loaderName k.loader = "'bootstrap'" := by rw [hl]; rfl
  rw [hln]
  cases hmo : s.vm.moduleOf k with
  | none => exact ⟨false, rfl⟩
  | some m =>
    refine ⟨true, ?_⟩
    unfold Vm.moduleOf at hmo
    rw [ho] at hmo
    simp only [Bool.false_eq_true, if_false] at hmo
    have h1 := List.find?_some hmo
    have h2 := List.mem_of_find?_eq_some hmo
    rw [Bool.and_eq_true, hl, hn] at h1
    unfold modulesRight_1 at hm9
    have h3 := List.all_eq_true.mp hm9 m h2
    have hl2 : m.loader = none := by simpa using h1.1
    rw [hl2] at h3
    have h4 : (castPackages_1.any fun p => m.packages.contains p) = true := List.any_eq_true.mpr ⟨_, List.contains_iff_mem.mp hp, h1.2⟩
    rw [h4] at h3
    have h5 : m.name = "java.base" := by simpa using h3
    show "module " ++ m.name ++ _ ++ _ = _
    rw [h5]
    rfl
theorem st_msg {s : State} (hm9 : modulesRight_1 s = true) : msgW s := by
  intro q hq a b k1 k2 ha hb h1 h2
  have hok := List.all_eq_true.mp names_ok q hq
  simp only [Bool.and_eq_true, Bool.not_eq_true'] at hok
  obtain ⟨⟨⟨p1, p2⟩, w1⟩, w2⟩ := hok
  have fs : ∀ (nm : String) (c : ClassId) (k : Class), s.vm.findClass nm = some c → s.vm.classes[c]? = some k → k.name = nm ∧ k.hidden = none ∧ k.loader = none ∧ ∀ t, k.kind ≠ .primitive t := by
    intro nm c k hf hk
    unfold Vm.findClass at hf
    obtain ⟨hlt, hpr, -⟩ := Array.findIdx?_eq_some_iff_getElem.mp hf
    have e : s.vm.classes[c] = k := by rw [Array.getElem?_eq_getElem hlt] at hk; exact Option.some.inj hk
    rw [e] at hpr
    simp only [Bool.and_eq_true, beq_iff_eq, Option.isNone_iff_eq_none] at hpr
    obtain ⟨⟨⟨n1, n2⟩, n3⟩, n4⟩ := hpr
    exact ⟨n1, n2, n4, fun t h => by rw [h] at n3; cases n3⟩
  obtain ⟨a1, a2, a3, a4⟩ := fs _ _ _ ha h1
  obtain ⟨b1, b2, b3, b4⟩ := fs _ _ _ hb h2
  obtain ⟨x, hx⟩ := st_home hm9 a1 p1 w1 a3 a4
  obtain ⟨y, hy⟩ := st_home hm9 b1 p2 w2 b3 b4
  have s1 : k1.shown = dotted q.1 := by unfold Class.shown; rw [a2, a1]
  have s2 : k2.shown = dotted q.2 := by unfold Class.shown; rw [b2, b1]
  have hmsg : ∃ f, Op.checkcast.message s.vm k1 k2 = msgOf q f x y := by
    cases hsm : s.vm.sameModule k1 k2 with
    | true => exact ⟨true, by unfold Op.checkcast.message Vm.homes msgOf; rw [hsm, hx, s1, s2]; rfl⟩
    | false => exact ⟨false, by unfold Op.checkcast.message Vm.homes msgOf; rw [hsm, hx, hy, s1, s2]; rfl⟩
  obtain ⟨f, hf⟩ := hmsg
  rw [hf]
  exact msgs_ok hq f x y
