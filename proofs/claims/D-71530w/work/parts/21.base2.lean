/-! BASE 2: a method's place, and the rows of plain instructions -/
set_option maxRecDepth 100000
abbrev Tv : Type := Int ⊕ (Int ⊕ (Option Nat ⊕ UInt32))
abbrev ti (x : Int) : Tv := .inl x
abbrev tl (x : Int) : Tv := .inr (.inl x)
abbrev tr (o : Option Nat) : Tv := .inr (.inr (.inl o))
abbrev tf (u : UInt32) : Tv := .inr (.inr (.inr u))
def tv : Tv → Value := fun t => match t with
  | .inl x => .int (I32 x)
  | .inr (.inl x) => .long (I64 x)
  | .inr (.inr (.inl o)) => va_rf o
  | .inr (.inr (.inr u)) => .float u
def tc : Tv → Nat := fun t => match t with
  | .inr (.inl _) => 2
  | _ => 1
theorem tv_cat (t : Tv) : (tv t).category = tc t := by
  rcases t with x | x | o | u
  · rfl
  · rfl
  · cases o <;> rfl
  · rfl
abbrev Lv (lv : List (Nat × Tv)) : List (Nat × Value) := lv.map (fun q => (q.1, tv q.2))
def lvS (lv : List (Nat × Tv)) (i : Nat) (v : Tv) : List (Nat × Tv) := (i, v) :: lv.filter (fun q => !(q.1 == i) && !(q.1 + 1 == i && tc q.2 == 2))
theorem Lv_S (lv : List (Nat × Tv)) (i : Nat) (v : Tv) : (i, tv v) :: (Lv lv).filter (fun q => !(q.1 == i) && !(q.1 + 1 == i && q.2.category == 2)) = Lv (lvS lv i v) := by
  show _ = (i, tv v) :: List.map _ _
  congr 1
  rw [List.filter_map]
  congr 1
  apply List.filter_congr
  intro q _
  simp [tv_cat]
theorem Lv_at {ls : Array Slot} {nL : Nat} {lv : List (Nat × Tv)} (h : lv_has ls nL (Lv lv)) (j : Nat) {i : Nat} {v : Tv} (hj : lv[j]? = some (i, v)) : ls[i]? = some (.val (tv v)) := by
  refine lv_at h j ?_
  rw [List.getElem?_map, hj]
  rfl
theorem Lv_sub {ls : Array Slot} {nL : Nat} {lv lv' : List (Nat × Tv)} (h : lv_has ls nL (Lv lv)) (ks : List Nat) (hl : ks.filterMap (fun k => lv[k]?) = lv') : lv_has ls nL (Lv lv') := by
  refine lv_sub h ks ?_
  subst hl
  unfold lv_pick
  show _ = List.map _ _
  rw [List.map_filterMap]
  congr 1
  funext k
  rw [List.getElem?_map]
/-! the frame's fixed part -/
abbrev Kx : Type := Program × Launch × Env × Room × State × MethodId × Array Value × List Frame × Method × Code
abbrev kp (K : Kx) : Program := K.1
abbrev kl (K : Kx) : Launch := K.2.1
abbrev ke (K : Kx) : Env := K.2.2.1
abbrev kR (K : Kx) : Room := K.2.2.2.1
abbrev ks (K : Kx) : State := K.2.2.2.2.1
abbrev km (K : Kx) : MethodId := K.2.2.2.2.2.1
abbrev ka (K : Kx) : Array Value := K.2.2.2.2.2.2.1
abbrev kb (K : Kx) : List Frame := K.2.2.2.2.2.2.2.1
abbrev kme (K : Kx) : Method := K.2.2.2.2.2.2.2.2.1
abbrev kc (K : Kx) : Code := K.2.2.2.2.2.2.2.2.2
abbrev WK (K : Kx) (H : Heap) (locs : List Loc) (cells slots : Nat) (Q : State → Prop) (g : JFrame) : Prop := W (kp K) (kl K) (ke K) (kR K) (ks K) (km K) (ka K) (kb K) (kme K) (kc K) H locs cells slots Q g
/-- classes, array classes, the heap at the law's start, two old cells -/
abbrev Gx : Type := va_G × (Nat → ClassId) × (Heap × Nat × Nat × (Nat → Int32)) × Option Nat × Option Nat
abbrev gD (G : Gx) : va_G := G.1
abbrev gT (G : Gx) : Nat → ClassId := G.2.1
abbrev gO (G : Gx) : Heap := G.2.2.1.1
/-- the law's script: its address, its length, its ints -/
abbrev gX (G : Gx) : Nat × Nat × (Nat → Int32) := G.2.2.1.2
/-- the cache of Integers, the set's value -/
abbrev gC (G : Gx) : Option Nat := G.2.2.2.1
abbrev gP (G : Gx) : Option Nat := G.2.2.2.2
abbrev tyN (t : Nat) : FieldType := match t with
  | 0 => .int
  | 1 => .boolean
  | 2 => .byte
  | 3 => .object "DictProof$Instance"
  | 4 => .object "DictProof$Term"
  | 5 => .object "DictProof$Proof"
  | 6 => .object "java/util/HashMap$Node"
  | _ => .object "java/lang/Integer"
abbrev tysA (G : Gx) : List (ClassId × FieldType) := (List.range 7).map fun t => (gT G t, tyN t)
/-- int arrays' contents -/
def aOK (t : Nat) (f : Int → Int) : Prop := (∀ j, rI (f j)) ∧ (t = 1 → ∀ j, f j = 0 ∨ f j = 1) ∧ (t = 2 → ∀ j, -128 ≤ f j ∧ f j ≤ 127)
def eOK (e : hE) : Prop := match e with
  | .inl (_, fs) => ∀ i : Int, vi i ∈ fs → rI i
  | .inr (t, n, .inl f) => aOK t f ∧ n < 2147483648
  | .inr (_, n, .inr _) => n < 2147483648
/-- a cell that was there before the law began -/
def oldK (e : hE) : Prop := match e with
  | .inl (c, _) => c = 15
  | .inr (t, _, _) => t = 7
def cA (f : Int → Int) (n : Nat) : vp_A := (n, .inl fun j => I32 (f (j : Int)))
def cQ (f : Int → Option Nat) (n : Nat) : vp_A := (n, .inr (.inr (.inr (.inr fun j => f (j : Int)))))
/-- an object; of an old one (class 15) less is known -/
def t_OBc (c o : Nat) (cC : ClassId) (N : Nat) (iS : Nat → Nat) (H : Heap) (V : Nat → Value) : Prop := ∃ cell : Cell, H[o]? = some cell ∧ cell.cls = cC ∧ cell.vm ≠ .unknown ∧ cell.vm.isStatics = false ∧ (c ≠ 15 → cell.vm = .none) ∧ ∀ k, k < N → cell.slots[iS k]? = some (V k)
theorem t_OB.c {c o : Nat} {cC : ClassId} {N : Nat} {iS : Nat → Nat} {H : Heap} {V : Nat → Value} (h : t_OB o cC N iS H V) : t_OBc c o cC N iS H V := by
  obtain ⟨cell, q1, q2, q3, q4⟩ := h
  exact ⟨cell, q1, q2, by rw [q3]; exact fun h => (by cases h), by rw [q3]; rfl, fun _ => q3, q4⟩
theorem t_OBc.s {c o : Nat} {cC : ClassId} {N : Nat} {iS : Nat → Nat} {H : Heap} {V : Nat → Value} (h : t_OBc c o cC N iS H V) (hc : c ≠ 15) : t_OB o cC N iS H V := by
  obtain ⟨cell, q1, q2, -, -, q3, q4⟩ := h
  exact ⟨cell, q1, q2, q3 hc, q4⟩
/-- an array of references; of an old one (type 7) less is known -/
def arA (t : Nat) (cI : ClassId) (a n : Nat) (f : Int → Option Nat) (H : Heap) : Prop := ∃ cell : Cell, H[a]? = some cell ∧ (t < 7 → cell = vp_cell cI (cQ f n)) ∧ cell.cls = cI ∧ cell.vm ≠ .unknown ∧ (∀ k, cell.vm ≠ .statics k) ∧ cell.slots.size = n ∧ ∀ j : Nat, j < n → cell.slots[j]? = some (va_rf (f (j : Int)))
theorem arA.mk {t n : Nat} {cI : ClassId} {a : Nat} {f : Int → Option Nat} {H : Heap} (h : H[a]? = some (vp_cell cI (cQ f n))) : arA t cI a n f H :=
  ⟨_, h, fun _ => rfl, rfl, (fun q => by cases q), (fun k q => by cases q), arrV_size _ _ _, fun j hj => arrV_read _ _ hj⟩
theorem arA.s {t n : Nat} {cI : ClassId} {a : Nat} {f : Int → Option Nat} {H : Heap} (h : arA t cI a n f H) (ht : t < 7) : H[a]? = some (vp_cell cI (cQ f n)) := by
  obtain ⟨cell, q1, q2, -⟩ := h
  rw [q1, q2 ht]
def hat (G : Gx) (cl : List vw_C) (a : Nat) (e : hE) (H : Heap) : Prop := match e with
  | .inl (c, fs) => ∃ r : vw_C, cl[c]? = some r ∧ t_OBc c a ((gD G).1 c) r.2.2 ((gD G).2 c) H (vp_V (fs.map hv))
  | .inr (t, n, .inl f) => t < 3 ∧ H[a]? = some (vp_cell (gT G t) (cA f n))
  | .inr (t, n, .inr f) => 3 ≤ t ∧ t < 8 ∧ arA t (gT G t) a n f H
theorem hat.kept {G : Gx} {cl : List vw_C} {a : Nat} {e : hE} {H H1 : Heap} (h : hat G cl a e H) (hq : H1[a]? = H[a]?) : hat G cl a e H1 := by
  rcases e with ⟨c, fs⟩ | ⟨t, n, f | f⟩
  · obtain ⟨r, h1, cell, h2, h3⟩ := h
    exact ⟨r, h1, cell, hq.trans h2, h3⟩
  · exact ⟨h.1, hq.trans h.2⟩
  · obtain ⟨h1, h2, cell, h3, h4⟩ := h
    exact ⟨h1, h2, cell, hq.trans h3, h4⟩
theorem hat.lt {G : Gx} {cl : List vw_C} {a : Nat} {e : hE} {H : Heap} (h : hat G cl a e H) : a < H.size := by
  rcases e with ⟨c, fs⟩ | ⟨t, n, f | f⟩
  · obtain ⟨r, h1, cell, h2, h3⟩ := h
    exact (Array.getElem?_eq_some_iff.mp h2).1
  · exact (Array.getElem?_eq_some_iff.mp h.2).1
  · obtain ⟨h1, h2, cell, h3, h4⟩ := h
    exact (Array.getElem?_eq_some_iff.mp h3).1
/-! the classes: 0 DictProof, 1..5 Instance and its kinds, 6 DictProofModel, 7 Term, 8 Part, 9 Goal, 10 Proof, 11 HashMap, 12 Node, 13 TreeNode, 14 HashSet, 15 Integer -/
def clA : List vw_C := [(RX0, TX0, 36), (RX1, TX1, 6), (RX2, TX2, 6), (RX3, TX3, 6), (RX4, TX4, 6), (RX5, TX5, 6), (RX6, TX6, 63), (RX7, TX7, 3), (RX8, TX8, 2), (RX9, TX9, 2), (RX10, TX10, 4), (RJ1, TJ1, 8), (RJ4, TJ4, 4), (RJ6, TJ6, 11), (RJ15, TJ15, 1), (RJ3, TJ3, 1)]
/-- of the two objects that are held whole: a field's kind (0 int, 1 boolean, 2 long, 3 a reference that stays, 4 an int array, 5 a reference array), its length, its array type -/
def kdX0 : List (Nat × Nat × Nat) := [(5, 5, 3), (4, 4, 0), (4, 4, 0), (0, 0, 0), (5, 6, 3), (0, 0, 0), (5, 4, 4), (0, 0, 0), (4, 84, 0), (0, 0, 0), (0, 0, 0), (0, 0, 0), (0, 0, 0), (0, 0, 0), (0, 0, 0), (0, 0, 0), (0, 0, 0), (0, 0, 0), (4, 6, 0), (0, 0, 0), (3, 0, 0), (4, 36, 1), (4, 36, 1), (4, 6, 0), (4, 6, 0), (4, 6, 1), (0, 0, 0), (0, 0, 0), (4, 6, 0), (5, 4, 4), (4, 6, 0), (4, 6, 0), (4, 6, 1), (0, 0, 0), (0, 0, 0), (2, 0, 0)]
def kdX6 : List (Nat × Nat × Nat) := [(0, 0, 0), (0, 0, 0), (4, 4, 0), (4, 4, 0), (0, 0, 0), (4, 6, 0), (4, 6, 0), (4, 30, 0), (4, 6, 0), (4, 6, 0), (4, 12, 0), (4, 12, 0), (4, 36, 0), (4, 36, 0), (4, 4, 0), (0, 0, 0), (4, 6, 0), (4, 6, 0), (4, 6, 0), (0, 0, 0), (4, 84, 2), (1, 0, 0), (1, 0, 0), (0, 0, 0), (0, 0, 0), (4, 4, 0), (4, 6, 0), (4, 6, 0), (4, 6, 0), (4, 6, 0), (4, 6, 0), (4, 12, 0), (4, 9, 0), (4, 9, 0), (0, 0, 0), (4, 2, 0), (4, 36, 0), (4, 36, 0), (4, 36, 0), (4, 36, 0), (4, 36, 0), (4, 36, 0), (4, 36, 0), (4, 36, 0), (4, 36, 0), (0, 0, 0), (0, 0, 0), (4, 4, 0), (4, 64, 0), (4, 64, 0), (0, 0, 0), (4, 64, 0), (2, 0, 0), (1, 0, 0), (0, 0, 0), (0, 0, 0), (4, 6, 0), (4, 36, 0), (4, 4, 0), (4, 6, 0), (4, 6, 0), (4, 6, 0), (2, 0, 0)]
def kdA (ci k : Nat) : Nat × Nat × Nat := (match ci with
  | 0 => kdX0
  | _ => kdX6).getD k (3, 0, 0)
def nfA (ci : Nat) : Nat := match ci with
  | 0 => 36
  | _ => 63
def sgV (ci : Nat) (ad : Nat → Nat) (σ : Sg) (k : Nat) : Value := match (kdA ci k).1 with
  | 0 => .int (I32 (gI σ k))
  | 1 => .int (I32 (gI σ k))
  | 2 => .long (I64 (gI σ k))
  | _ => .ref (ad k)
def sgArr (G : Gx) (ci : Nat) (ad : Nat → Nat) (σ : Sg) (k : Nat) (H : Heap) : Prop := match kdA ci k with
  | (4, n, t) => H[ad k]? = some (vp_cell (gT G t) (cA (gA σ k) n))
  | (5, n, t) => H[ad k]? = some (vp_cell (gT G t) (cQ (gQ σ k) n))
  | _ => True
def sgAt (G : Gx) (sp : Sp) (σ : Sg) (H : Heap) : Prop := t_OB sp.2.1 ((gD G).1 sp.1) (nfA sp.1) ((gD G).2 sp.1) H (sgV sp.1 sp.2.2 σ) ∧ ∀ k, k < nfA sp.1 → sgArr G sp.1 sp.2.2 σ k H
def ownS (sp : Sp) (a : Nat) : Prop := a = sp.2.1 ∨ ∃ k, k < nfA sp.1 ∧ 4 ≤ (kdA sp.1 k).1 ∧ a = sp.2.2 k
def spOK (sp : Sp) : Prop := (sp.1 = 0 ∨ sp.1 = 6) ∧ (∀ k, k < nfA sp.1 → 4 ≤ (kdA sp.1 k).1 → sp.2.2 k ≠ sp.2.1) ∧ ∀ i j, i < nfA sp.1 → j < nfA sp.1 → 4 ≤ (kdA sp.1 i).1 → 4 ≤ (kdA sp.1 j).1 → sp.2.2 i = sp.2.2 j → i = j
def RRs (ci : Nat) (σ : Sg) : Prop := ∀ k, k < nfA ci → match kdA ci k with
  | (0, _, _) => rI (gI σ k)
  | (1, _, _) => gI σ k = 0 ∨ gI σ k = 1
  | (2, _, _) => rL (gI σ k)
  | (4, _, t) => aOK t (gA σ k)
  | _ => True
/-- what is pure in a world -/
def RR (sps : List Sp) (σs : List Sg) (st : hS) : Prop := (∀ (i : Nat) (sp : Sp) (σ : Sg), sps[i]? = some sp → σs[i]? = some σ → RRs sp.1 σ) ∧ ∀ (a : Nat) (e : hE), st.1 a = some e → eOK e
/-- a world's cells are in a heap -/
def WM (G : Gx) (sps : List Sp) (σs : List Sg) (st : hS) (H : Heap) : Prop :=
  H.size = st.2.1 ∧ (gO G).size ≤ H.size ∧ (∀ a, a < (gO G).size → H[a]? = (gO G)[a]?) ∧
  (∀ (a : Nat) (e : hE), st.1 a = some e → hat G clA a e H ∧ (oldK e ∨ (gO G).size ≤ a)) ∧
  (∀ (i : Nat) (sp : Sp), sps[i]? = some sp → spOK sp ∧ (∃ σ, σs[i]? = some σ ∧ sgAt G sp σ H) ∧ ∀ a, ownS sp a → (gO G).size ≤ a ∧ st.1 a = none) ∧
  ∀ (i j : Nat) (sp sp' : Sp) (a : Nat), sps[i]? = some sp → sps[j]? = some sp' → ownS sp a → ownS sp' a → i = j
/-- what a method may write -/
def AA (G : Gx) (sps : List Sp) (st : hS) (a : Nat) : Prop := (∃ (i : Nat) (sp : Sp), sps[i]? = some sp ∧ ownS sp a) ∨ ((gO G).size ≤ a ∧ st.1 a ≠ none) ∨ (gO G).size ≤ a ∧ st.2.1 ≤ a
def SZ (G : Gx) (U : State) : Prop := va_Z "java/lang/Integer$IntegerCache" "high" "I" (.int 127) (fun a => (gO G).size ≤ a) U (gO G) ∧ va_Z "java/lang/Integer$IntegerCache" "cache" "[Ljava/lang/Integer;" (va_rf (gC G)) (fun a => (gO G).size ≤ a) U (gO G) ∧ va_Z "java/util/HashSet" "PRESENT" "Ljava/lang/Object;" (va_rf (gP G)) (fun a => (gO G).size ≤ a) U (gO G) ∧ va_Z "java/util/HashMap$TreeNode" "$assertionsDisabled" "Z" (.int 1) (fun a => (gO G).size ≤ a) U (gO G)
def nwOf (w : Cond) : Bool := match w with
  | .methodLinkNest .. => true
  | .castable .. => true
  | .declares .. => true
  | _ => false
/-- classes whose objects can't be cast -/
def ncL : List (String × String) := [("DictProof$Instance", "DictProof$Spare"), ("DictProof$Instance", "DictProof$Hidden"), ("DictProof$Instance", "DictProof$First"), ("DictProof$Instance", "DictProof$Sole"), ("DictProof$Spare", "DictProof$Hidden"), ("DictProof$Spare", "DictProof$First"), ("DictProof$Spare", "DictProof$Sole"), ("DictProof$Hidden", "DictProof$Spare"), ("DictProof$Hidden", "DictProof$First"), ("DictProof$Hidden", "DictProof$Sole"), ("DictProof$First", "DictProof$Spare"), ("DictProof$First", "DictProof$Hidden"), ("DictProof$First", "DictProof$Sole"), ("DictProof$Sole", "DictProof$Spare"), ("DictProof$Sole", "DictProof$Hidden"), ("java/util/HashMap$Node", "java/util/HashMap$TreeNode")]
/-- the interface's methods: class, the interface's method, the class's own -/
def fwL : List (String × MethodName × MethodName) := ["DictProof$Instance", "DictProof$Spare", "DictProof$Hidden", "DictProof$First", "DictProof$Sole"].flatMap fun C => [(C, ⟨"DictProof$Ranked", "isUsed", "()Z"⟩, ⟨if C = "DictProof$Hidden" then C else "DictProof$Instance", "isUsed", "()Z"⟩), (C, ⟨"DictProof$Ranked", "isAlone", "()Z"⟩, ⟨if C = "DictProof$Sole" then C else "DictProof$Instance", "isAlone", "()Z"⟩), (C, ⟨"DictProof$Ranked", "rank", "()I"⟩, ⟨if C = "DictProof$Spare" then C else if C = "DictProof$First" then C else if C = "DictProof$Sole" then "DictProof$First" else "DictProof$Instance", "rank", "()I"⟩)]
abbrev bsX : MethodName := ⟨"DictProof$Instance", "besides", "(I)I"⟩
abbrev bsY : MethodName := ⟨"DictProof$Ranked", "besides", "(I)I"⟩
/-- the interface's default that the objects have -/
def besW (U : State) : Prop := (Cond.methodLink "DictProof" 457 bsX).before #[] U = true ∧ (Cond.sameMethod "DictProof$Instance" "DictProof$Ranked" "besides" "(I)I").before #[] U = true ∧ ∀ C ∈ ["DictProof$Instance", "DictProof$Spare", "DictProof$Hidden", "DictProof$First", "DictProof$Sole"], (Cond.landsInDefault C bsX bsY).before #[] U = true
/-- the words of a cast that fails are short -/
def msgW (U : State) : Prop := ∀ q ∈ ncL, ∀ (a b : ClassId) (k1 k2 : Class), U.vm.findClass q.1 = some a → U.vm.findClass q.2 = some b → U.vm.classes[a]? = some k1 → U.vm.classes[b]? = some k2 → (Op.checkcast.message U.vm k1 k2 == notModelled) = false ∧ (stringBytes (stringToUtf16 (Op.checkcast.message U.vm k1 k2))).size ≤ 990
def thrW (G : Gx) (U : State) : Prop := vx_Zq Bundle.tN "UNASSIGNED_STACK" Bundle.steD (fun a => (gO G).size ≤ a) U (gO G) ∧ vx_Zq Bundle.tN "SUPPRESSED_SENTINEL" Bundle.listD (fun a => (gO G).size ≤ a) U (gO G) ∧ ArrOfT U (gT G 7) (.object "java/lang/Integer")
/-- what the tables say at every state of the run -/
def GK (G : Gx) (U : State) : Prop := va_K (gD G) clA (tysA G) U ∧ (∀ w ∈ lw_tbl, nwOf w = true → va_Nw w U) ∧ (∀ C ∈ ["DictProof$Instance", "DictProof$Term", "DictProof$Proof", "java/util/HashMap$Node"], va_AO C U) ∧ SZ G U ∧ (∀ q ∈ ncL, va_Nc q.1 q.2 U) ∧ (∀ q ∈ fwL, va_Fw q.1 q.2.1 q.2.2 U) ∧ besW U ∧ va_X (gX G).1 (gX G).2.1 (gX G).2.2 U (gO G) ∧ (gX G).1 < (gO G).size ∧ msgW U ∧ thrW G U
