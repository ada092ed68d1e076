/-! BASE 3: a place in a method, and the rows of plain instructions -/
set_option maxRecDepth 100000
theorem lid_set {u U : State} {C : String} {x y : MethodName} (h : (Cond.landsInDefault C x y).before #[] (u.setVm U.vm) = true) : (Cond.landsInDefault C x y).before #[] U = true := by
  simp only [Cond.before, Cond.holds, Cond.value] at h ⊢
  exact h
theorem lid_vm {u U : State} {C : String} {x y : MethodName} (e : u.vm = U.vm) (h : (Cond.landsInDefault C x y).before #[] u = true) : (Cond.landsInDefault C x y).before #[] U = true := by
  have e1 : u.setVm U.vm = u := by rw [← e]; rfl
  exact lid_set (u := u) (by rw [e1]; exact h)
theorem besW.warm {u U : State} (hW : u.WarmedH U.vm) (h : besW u) : besW U := by
  obtain ⟨h1, h2, h3⟩ := h
  have g1 := word_at (a' := #[]) hW (Or.inl rfl) h1
  have g2 := word_at (a' := #[]) hW (Or.inl rfl) h2
  refine ⟨g1, g2, fun C hC => ?_⟩
  have g3 : (Cond.sameMethod "DictProof$Instance" "DictProof$Ranked" "besides" "(I)I").before #[] (u.setVm U.vm) = true := va_tabs rfl (rfl : U.vm = (u.setVm U.vm).vm) g2
  obtain ⟨_, _, r1, -, -, -, f1, n1⟩ := Cond.sameMethod_found h2
  obtain ⟨_, _, r2, -, -, -, f2, n2⟩ := Cond.sameMethod_found g3
  have hr : r2 = r1 := by
    rw [State.methodNamed?_setVm hW.alike] at n2
    exact Option.some.inj (n2.symm.trans n1)
  have hf : (u.setVm U.vm).methodFound? bsX.cls bsX.name bsX.desc = u.methodFound? bsX.cls bsX.name bsX.desc := by
    show (u.setVm U.vm).methodFound? "DictProof$Instance" "besides" "(I)I" = u.methodFound? "DictProof$Instance" "besides" "(I)I"
    rw [f1, f2, hr]
  have h9 : (Cond.landsInDefault C bsX bsY).before #[] (u.setVm U.vm) = true := by
    rw [Cond.landsInDefault_setVm (args := #[]) (args' := #[]) hW.alike hf]
    exact h3 C hC
  exact lid_set h9
theorem besW.vm {u U : State} (e : u.vm = U.vm) (h : besW u) : besW U := ⟨va_tabs rfl e h.1, va_tabs rfl e h.2.1, fun C hC => lid_vm e (h.2.2 C hC)⟩
theorem fwL_ok : ∀ q ∈ fwL, q.2.1.cls ≠ "java/lang/invoke/MethodHandle" ∧ q.2.1.cls ≠ "java/lang/invoke/VarHandle" := by decide +kernel
theorem msg_alike {vm vm' : Vm} (h : vm.Alike vm') {c1 c2 : ClassId} {k1 k2 j1 j2 : Class} (h1 : vm.classes[c1]? = some k1) (h2 : vm.classes[c2]? = some k2) (g1 : vm'.classes[c1]? = some j1) (g2 : vm'.classes[c2]? = some j2) : Op.checkcast.message vm' j1 j2 = Op.checkcast.message vm k1 k2 := by
  obtain ⟨e, -, h3⟩ := h
  obtain ⟨x1, a1, b1⟩ := h3 _ _ h1
  obtain ⟨x2, a2, b2⟩ := h3 _ _ h2
  cases Option.some.inj (a1.symm.trans g1)
  cases Option.some.inj (a2.symm.trans g2)
  generalize j1.resolved = r1 at b1
  rw [b1, b2, e]
  rfl
theorem msgW.moved {u U : State} (h : u.vm.Alike U.vm) (w : msgW u) : msgW U := by
  intro q hq a b k1 k2 ha hb h1 h2
  have ha' : u.vm.findClass q.1 = some a := by rw [← ha]; exact (h.findClass q.1 none).symm
  have hb' : u.vm.findClass q.2 = some b := by rw [← hb]; exact (h.findClass q.2 none).symm
  obtain ⟨i1, hi1, -⟩ := Vm.findClass_spec ha'
  obtain ⟨i2, hi2, -⟩ := Vm.findClass_spec hb'
  rw [msg_alike h hi1 hi2 h1 h2]
  exact w q hq a b i1 i2 ha' hb' hi1 hi2
theorem GK.warm {G : Gx} {u U : State} (hW : u.WarmedH U.vm) (h : GK G u) : GK G U := by
  obtain ⟨h1, h2, h3, h4, h5, h6, h7, h8, h9x, h10x, h11x⟩ := h
  have hvm := hW.alike
  refine ⟨h1.moved hvm, fun w hw hn => ?_, fun C hC => (h3 C hC).moved hvm, ⟨h4.1.moved hvm, h4.2.1.moved hvm, h4.2.2.1.moved hvm, h4.2.2.2.moved hvm⟩, fun q hq => (h5 q hq).moved hvm, fun q hq => (h6 q hq).moved (fwL_ok q hq) hvm, h7.warm hW, h8.moved hvm, h9x, h10x.moved hvm, h11x.1.moved hvm, h11x.2.1.moved hvm, arrOfT_moved hvm h11x.2.2⟩
  have h9 := h2 w hw hn
  cases w with
  | methodLinkNest a b c d => exact va_Nw.warmM hW h9
  | castable a b => exact va_Nw.warmC hW h9
  | declares a => exact va_Nw.warmD hW h9
  | _ => cases hn
theorem GK.vm {G : Gx} {u U : State} (e : u.vm = U.vm) (h : GK G u) : GK G U := by
  obtain ⟨h1, h2, h3, h4, h5, h6, h7, h8, h9x, h10x, h11x⟩ := h
  have hvm : u.vm.Alike U.vm := by rw [e]; exact Vm.Alike.refl _
  refine ⟨h1.moved hvm, fun w hw hn => ?_, fun C hC => (h3 C hC).moved hvm, ⟨h4.1.moved hvm, h4.2.1.moved hvm, h4.2.2.1.moved hvm, h4.2.2.2.moved hvm⟩, fun q hq => (h5 q hq).moved hvm, fun q hq => by obtain ⟨a1, a2, a3, a4, a5⟩ := h6 q hq; exact ⟨va_tabs rfl e a1, va_tabs rfl e a2, va_tabs rfl e a3, va_tabs rfl e a4, va_tabs rfl e a5⟩, h7.vm e, h8.moved hvm, h9x, h10x.moved hvm, h11x.1.moved hvm, h11x.2.1.moved hvm, arrOfT_moved hvm h11x.2.2⟩
  have h9 := h2 w hw hn
  cases w with
  | methodLinkNest a b c d => exact va_tabs rfl e h9
  | castable a b => exact va_tabs rfl e h9
  | declares a => exact va_tabs rfl e h9
  | _ => cases hn
def rtOK (ret : Option FieldType) (r : Option Tv) : Prop := match ret, r with
  | none, none => True
  | some .int, some (.inl x) => rI x
  | some .boolean, some (.inl x) => x = 0 ∨ x = 1
  | some .long, some (.inr (.inl x)) => rL x
  | some (.object _), some (.inr (.inr (.inl _))) => True
  | some (.array _), some (.inr (.inr (.inl _))) => True
  | _, _ => False
/-- frame, tables, locals, end, objects held whole, the heap at the entry, the world and the answer at the end -/
abbrev Mx : Type := Kx × Gx × Nat × (State → Prop) × List Sp × hS × List Sg × hS × Option FieldType × Option Tv × String
abbrev mK (M : Mx) : Kx := M.1
abbrev mG (M : Mx) : Gx := M.2.1
abbrev mn (M : Mx) : Nat := M.2.2.1
abbrev mQ (M : Mx) : State → Prop := M.2.2.2.1
abbrev mp (M : Mx) : List Sp := M.2.2.2.2.1
abbrev m0 (M : Mx) : hS := M.2.2.2.2.2.1
abbrev mσF (M : Mx) : List Sg := M.2.2.2.2.2.2.1
abbrev mF (M : Mx) : hS := M.2.2.2.2.2.2.2.1
abbrev mrt (M : Mx) : Option FieldType := M.2.2.2.2.2.2.2.2.1
abbrev mr (M : Mx) : Option Tv := M.2.2.2.2.2.2.2.2.2.1
abbrev mnm (M : Mx) : String := M.2.2.2.2.2.2.2.2.2.2
/-- the same without the frame: tables, locals, objects held whole, the heap at the entry, world and answer at the end, the method's name -/
abbrev Nx : Type := Gx × Nat × List Sp × hS × List Sg × hS × Option FieldType × Option Tv × String
abbrev nG (N : Nx) : Gx := N.1
abbrev nL (N : Nx) : Nat := N.2.1
abbrev np (N : Nx) : List Sp := N.2.2.1
abbrev n0 (N : Nx) : hS := N.2.2.2.1
abbrev nσF (N : Nx) : List Sg := N.2.2.2.2.1
abbrev nF (N : Nx) : hS := N.2.2.2.2.2.1
abbrev nrt (N : Nx) : Option FieldType := N.2.2.2.2.2.2.1
abbrev nr (N : Nx) : Option Tv := N.2.2.2.2.2.2.2.1
abbrev nnm (N : Nx) : String := N.2.2.2.2.2.2.2.2
/-- what is pure at the end -/
def PF (N : Nx) (st : hS) : Prop := st.2.1 ≤ (nF N).2.1 ∧ st.2.2 ≤ (nF N).2.2 ∧ RR (np N) (nσF N) (nF N) ∧ rtOK (nrt N) (nr N)
def Sit (M : Mx) (σs : List Sg) (st : hS) (H : Heap) (locs : List Loc) (cells slots : Nat) : Prop :=
  WM (mG M) (mp M) σs st H ∧ va_S (AA (mG M) (mp M) (m0 M)) (ks (mK M)).heap H locs ∧ (m0 M).2.1 + cells = st.2.1 ∧ (m0 M).2.2 + slots = st.2.2 ∧ ∀ (a : Nat) (e : hE), st.1 a = some e → (m0 M).1 a ≠ none ∨ (m0 M).2.1 ≤ a
def QcX (G : Gx) (sps : List Sp) (st : hS) (r : Option Tv) (σs' : List Sg) (st' : hS) : Array Value → State → Outcome → State → Prop := fun _ s o t =>
  (o = .returned (r.map tv) ∧ WM G sps σs' st' t.heap ∧ ∀ (a : Nat) (e : hE), st'.1 a = some e → st.1 a ≠ none ∨ st.2.1 ≤ a) ∧ va_F (AA G sps st) s t
/-- the methods that catch, or that call one -/
def xN (own nm : String) : Bool := (own == "DictProof" && nm == "as") || own == "DictProofLaw"
def Cx (M : Mx) (cc : ByteArray) (own : String) (fR lO : Nat) : Prop :=
  (kp (mK M)).tables.exec = Jvm.exec ∧ (kc (mK M)).code = cc ∧ (kc (mK M)).maxLocals = mn M ∧ (ks (mK M)).vm.findClass own = some (km (mK M)).cls ∧ (∀ w ∈ lw_all, w.before (ka (mK M)) (ks (mK M)) = true) ∧
  (kme (mK M)).sig.returnType = mrt M ∧ (kme (mK M)).locks = false ∧ GK (mG M) (ks (mK M)) ∧ (ks (mK M)).heap.size = (m0 M).2.1 ∧
  mQ M = MQ (kb (mK M)) (QcX (mG M) (mp M) (m0 M) (mr M) (mσF M) (mF M)) (ka (mK M)) (ks (mK M)) ((mF M).2.1 - (m0 M).2.1) ((mF M).2.2 - (m0 M).2.2) (AA (mG M) (mp M) (m0 M)) ∧
  (mF M).2.1 - (m0 M).2.1 ≤ (kR (mK M)).cells ∧ (mF M).2.2 - (m0 M).2.2 ≤ (kR (mK M)).slots ∧ (kR (mK M)).frames = fR ∧ (kR (mK M)).locals = lO ∧ (kme (mK M)).name = mnm M ∧ (xN own (mnm M) = true → (kl (mK M)).stackTraces = false ∧ (own = "DictProof" → (kc (mK M)).exceptionTable.toList = tableOf [(26, 36, 37, 433)]))
abbrev mk (K : Kx) (N : Nx) : Mx := (K, nG N, nL N, MQ (kb K) (QcX (nG N) (np N) (n0 N) (nr N) (nσF N) (nF N)) (ka K) (ks K) ((nF N).2.1 - (n0 N).2.1) ((nF N).2.2 - (n0 N).2.2) (AA (nG N) (np N) (n0 N)), np N, n0 N, nσF N, nF N, nrt N, nr N, nnm N)
/-- from a place of the method on: what is pure, and for every frame the run to the method's end -/
def AtPc (cc : ByteArray) (own : String) (fR lO : Nat) (N : Nx) (σs : List Sg) (st : hS) (pc : Nat) (lv : List (Nat × Tv)) (stk : List Tv) : Prop :=
  RR (np N) σs st → PF N st ∧ ∀ K : Kx, Cx (mk K N) cc own fR lO → ∀ (H : Heap) (locs : List Loc) (cells slots : Nat) (ls : Array Slot), Sit (mk K N) σs st H locs cells slots → lv_has ls (nL N) (Lv lv) →
    WK K H locs cells slots (mQ (mk K N)) (F0 (km K) pc ls (stk.map tv))
section CX
variable {M : Mx} {cc : ByteArray} {own : String} {fR lO : Nat}
theorem Cx.x (C : Cx M cc own fR lO) : (kp (mK M)).tables.exec = Jvm.exec := C.1
theorem Cx.b (C : Cx M cc own fR lO) : (kc (mK M)).code = cc := C.2.1
theorem Cx.ml (C : Cx M cc own fR lO) : (kc (mK M)).maxLocals = mn M := C.2.2.1
theorem Cx.o (C : Cx M cc own fR lO) : (ks (mK M)).vm.findClass own = some (km (mK M)).cls := C.2.2.2.1
theorem Cx.ts (C : Cx M cc own fR lO) : ∀ w ∈ lw_all, w.before (ka (mK M)) (ks (mK M)) = true := C.2.2.2.2.1
theorem Cx.rt (C : Cx M cc own fR lO) : (kme (mK M)).sig.returnType = mrt M := C.2.2.2.2.2.1
theorem Cx.lk (C : Cx M cc own fR lO) : (kme (mK M)).locks = false := C.2.2.2.2.2.2.1
theorem Cx.g (C : Cx M cc own fR lO) : GK (mG M) (ks (mK M)) := C.2.2.2.2.2.2.2.1
theorem Cx.k (C : Cx M cc own fR lO) : va_K (gD (mG M)) clA (tysA (mG M)) (ks (mK M)) := C.g.1
theorem Cx.sz (C : Cx M cc own fR lO) : (ks (mK M)).heap.size = (m0 M).2.1 := C.2.2.2.2.2.2.2.2.1
theorem Cx.q (C : Cx M cc own fR lO) : mQ M = MQ (kb (mK M)) (QcX (mG M) (mp M) (m0 M) (mr M) (mσF M) (mF M)) (ka (mK M)) (ks (mK M)) ((mF M).2.1 - (m0 M).2.1) ((mF M).2.2 - (m0 M).2.2) (AA (mG M) (mp M) (m0 M)) := C.2.2.2.2.2.2.2.2.2.1
theorem Cx.rc (C : Cx M cc own fR lO) : (mF M).2.1 - (m0 M).2.1 ≤ (kR (mK M)).cells := C.2.2.2.2.2.2.2.2.2.2.1
theorem Cx.rs (C : Cx M cc own fR lO) : (mF M).2.2 - (m0 M).2.2 ≤ (kR (mK M)).slots := C.2.2.2.2.2.2.2.2.2.2.2.1
theorem Cx.fr (C : Cx M cc own fR lO) : (kR (mK M)).frames = fR := C.2.2.2.2.2.2.2.2.2.2.2.2.1
theorem Cx.lo (C : Cx M cc own fR lO) : (kR (mK M)).locals = lO := C.2.2.2.2.2.2.2.2.2.2.2.2.2.1
theorem Cx.nm (C : Cx M cc own fR lO) : (kme (mK M)).name = mnm M := C.2.2.2.2.2.2.2.2.2.2.2.2.2.2.1
theorem Cx.xt (C : Cx M cc own fR lO) : xN own (mnm M) = true → (kl (mK M)).stackTraces = false ∧ (own = "DictProof" → (kc (mK M)).exceptionTable.toList = tableOf [(26, 36, 37, 433)]) := C.2.2.2.2.2.2.2.2.2.2.2.2.2.2.2
end CX
section RW
variable {N : Nx} {cc : ByteArray} {own : String} {fR lO : Nat} {σs : List Sg} {st : hS} {pc : Nat} {lv : List (Nat × Tv)} {stk : List Tv}
/-- the pure facts may be taken -/
theorem r_rr (h : RR (np N) σs st → AtPc cc own fR lO N σs st pc lv stk) : AtPc cc own fR lO N σs st pc lv stk := fun rr => h rr rr
theorem r_lift {pc' : Nat} {lv' : List (Nat × Tv)} {stk' : List Tv} (h : AtPc cc own fR lO N σs st pc' lv' stk')
    (f : ∀ (K : Kx), Cx (mk K N) cc own fR lO → ∀ (H : Heap) (locs : List Loc) (cells slots : Nat) (ls : Array Slot), lv_has ls (nL N) (Lv lv) → (∀ ls' : Array Slot, lv_has ls' (nL N) (Lv lv') → WK K H locs cells slots (mQ (mk K N)) (F0 (km K) pc' ls' (stk'.map tv))) → WK K H locs cells slots (mQ (mk K N)) (F0 (km K) pc ls (stk.map tv))) : AtPc cc own fR lO N σs st pc lv stk :=
  fun rr => ⟨(h rr).1, fun K C H locs cells slots ls s w => f K C H locs cells slots ls w fun ls' w' => (h rr).2 K C H locs cells slots ls' s w'⟩
theorem r_liftS {pc' : Nat} {stk' : List Tv} (h : AtPc cc own fR lO N σs st pc' lv stk')
    (f : ∀ (K : Kx), Cx (mk K N) cc own fR lO → ∀ (H : Heap) (locs : List Loc) (cells slots : Nat) (ls : Array Slot), lv_has ls (nL N) (Lv lv) → WK K H locs cells slots (mQ (mk K N)) (F0 (km K) pc' ls (stk'.map tv)) → WK K H locs cells slots (mQ (mk K N)) (F0 (km K) pc ls (stk.map tv))) : AtPc cc own fR lO N σs st pc lv stk :=
  r_lift h fun K C H locs cells slots ls w k => f K C H locs cells slots ls w (k ls w)
/-- fewer locals -/
theorem r_sub {lv' : List (Nat × Tv)} (is : List Nat) (hl : is.filterMap (fun k => lv[k]?) = lv') (h : AtPc cc own fR lO N σs st pc lv' stk) : AtPc cc own fR lO N σs st pc lv stk :=
  r_lift h fun K C _ _ _ _ ls w k => k ls (Lv_sub w is hl)
theorem r_iconst {n : Int} (hd : decode cc pc = .ok (.iconst n, 1)) (h : AtPc cc own fR lO N σs st (pc + 1) lv (ti n :: stk)) : AtPc cc own fR lO N σs st pc lv stk :=
  r_liftS h fun K C _ _ _ _ _ _ k => lv_iconst C.x C.b hd rfl k
theorem r_bipush {n : Int} (hd : decode cc pc = .ok (.bipush n, 2)) (hv : (Int8.ofInt n).toInt32 = I32 n) (h : AtPc cc own fR lO N σs st (pc + 2) lv (ti n :: stk)) : AtPc cc own fR lO N σs st pc lv stk :=
  r_liftS h fun K C _ _ _ _ _ _ k => lv_bipush C.x C.b hd hv k
theorem r_sipush {n : Int} (hd : decode cc pc = .ok (.sipush n, 3)) (hv : (Int16.ofInt n).toInt32 = I32 n) (h : AtPc cc own fR lO N σs st (pc + 3) lv (ti n :: stk)) : AtPc cc own fR lO N σs st pc lv stk :=
  r_liftS h fun K C _ _ _ _ _ _ k => lv_sipush C.x C.b hd hv k
theorem r_ldc {i : Nat} (n : Int) {v : Int32} (hc : Jvm.Cond.constant own i v ∈ lw_all) (hv : v = I32 n) (hd : decode cc pc = .ok (.ldc i, 2)) (h : AtPc cc own fR lO N σs st (pc + 2) lv (ti n :: stk)) : AtPc cc own fR lO N σs st pc lv stk :=
  r_liftS h fun K C _ _ _ _ _ _ k => lv_ldc C.x C.b C.o (C.ts _ hc) hd (by rw [hv]; exact k)
theorem r_ldcw {i : Nat} (n : Int) {v : Int32} (hc : Jvm.Cond.constant own i v ∈ lw_all) (hv : v = I32 n) (hd : decode cc pc = .ok (.ldc_w i, 3)) (h : AtPc cc own fR lO N σs st (pc + 3) lv (ti n :: stk)) : AtPc cc own fR lO N σs st pc lv stk :=
  r_liftS h fun K C _ _ _ _ _ _ k => lv_ldcw C.x C.b C.o (C.ts _ hc) hd (by rw [hv]; exact k)
theorem r_ldcf {i : Nat} {v : UInt32} (hc : Jvm.Cond.constantFloat own i v ∈ lw_all) (hd : decode cc pc = .ok (.ldc i, 2)) (h : AtPc cc own fR lO N σs st (pc + 2) lv (tf v :: stk)) : AtPc cc own fR lO N σs st pc lv stk :=
  r_liftS h fun K C _ _ _ _ _ _ k => lv_ldcf C.x C.b C.o (C.ts _ hc) hd k
theorem r_ldc2 {i : Nat} (n : Int) {v : Int64} (hc : Jvm.Cond.constantLong own i v ∈ lw_all) (hv : v = I64 n) (hd : decode cc pc = .ok (.ldc2_w i, 3)) (h : AtPc cc own fR lO N σs st (pc + 3) lv (tl n :: stk)) : AtPc cc own fR lO N σs st pc lv stk :=
  r_liftS h fun K C _ _ _ _ _ _ k => lv_ldc2 C.x C.b C.o (C.ts _ hc) hd (by rw [hv]; exact k)
theorem r_lconst {n : Fin 2} (z : Int) (hd : decode cc pc = .ok (.lconst n, 1)) (hz : Int64.ofNat (n : Nat) = I64 z) (h : AtPc cc own fR lO N σs st (pc + 1) lv (tl z :: stk)) : AtPc cc own fR lO N σs st pc lv stk :=
  r_liftS h fun K C _ _ _ _ _ _ k => lv_lconst C.x C.b hd hz k
theorem r_null (hd : decode cc pc = .ok (.aconst_null, 1)) (h : AtPc cc own fR lO N σs st (pc + 1) lv (tr none :: stk)) : AtPc cc own fR lO N σs st pc lv stk :=
  r_liftS h fun K C _ _ _ _ _ _ k => lv_null C.x C.b hd k
theorem r_iload_n {k : Fin 4} {i : Nat} {x : Int} (hd : decode cc pc = .ok (.iload_n k, 1)) (hi : (k : Nat) = i) (j : Nat) (hl : lv[j]? = some (i, ti x)) (h : AtPc cc own fR lO N σs st (pc + 1) lv (ti x :: stk)) : AtPc cc own fR lO N σs st pc lv stk :=
  r_liftS h fun K C _ _ _ _ _ w k => lv_iload_n C.x C.b hd hi (Lv_at w j hl) k
theorem r_iload {i : Nat} {x : Int} (hd : decode cc pc = .ok (.iload i, 2)) (j : Nat) (hl : lv[j]? = some (i, ti x)) (h : AtPc cc own fR lO N σs st (pc + 2) lv (ti x :: stk)) : AtPc cc own fR lO N σs st pc lv stk :=
  r_liftS h fun K C _ _ _ _ _ w k => lv_iload C.x C.b hd (Lv_at w j hl) k
theorem r_lload_n {k : Fin 4} {i : Nat} {x : Int} (hd : decode cc pc = .ok (.lload_n k, 1)) (hi : (k : Nat) = i) (j : Nat) (hl : lv[j]? = some (i, tl x)) (h : AtPc cc own fR lO N σs st (pc + 1) lv (tl x :: stk)) : AtPc cc own fR lO N σs st pc lv stk :=
  r_liftS h fun K C _ _ _ _ _ w k => lv_lload_n C.x C.b hd hi (Lv_at w j hl) k
theorem r_lload {i : Nat} {x : Int} (hd : decode cc pc = .ok (.lload i, 2)) (j : Nat) (hl : lv[j]? = some (i, tl x)) (h : AtPc cc own fR lO N σs st (pc + 2) lv (tl x :: stk)) : AtPc cc own fR lO N σs st pc lv stk :=
  r_liftS h fun K C _ _ _ _ _ w k => lv_lload C.x C.b hd (Lv_at w j hl) k
theorem r_aload_n {k : Fin 4} {i : Nat} {x : Option Nat} (hd : decode cc pc = .ok (.aload_n k, 1)) (hi : (k : Nat) = i) (j : Nat) (hl : lv[j]? = some (i, tr x)) (h : AtPc cc own fR lO N σs st (pc + 1) lv (tr x :: stk)) : AtPc cc own fR lO N σs st pc lv stk := by
  refine r_liftS h fun K C _ _ _ _ _ w k => ?_
  have h9 := Lv_at w j hl
  cases x with
  | none => exact lv_aload_nN C.x C.b hd hi h9 k
  | some a => exact lv_aload_n C.x C.b hd hi h9 k
theorem r_aload {i : Nat} {x : Option Nat} (hd : decode cc pc = .ok (.aload i, 2)) (j : Nat) (hl : lv[j]? = some (i, tr x)) (h : AtPc cc own fR lO N σs st (pc + 2) lv (tr x :: stk)) : AtPc cc own fR lO N σs st pc lv stk := by
  refine r_liftS h fun K C _ _ _ _ _ w k => ?_
  have h9 := Lv_at w j hl
  cases x with
  | none => exact lv_aloadN C.x C.b hd h9 k
  | some a => exact lv_aload C.x C.b hd h9 k
theorem r_istore_n {k : Fin 4} {i : Nat} {x : Int} {lv' : List (Nat × Tv)} (hd : decode cc pc = .ok (.istore_n k, 1)) (hi : (k : Nat) = i) (hn : i < nL N) (hl : lvS lv i (ti x) = lv') (h : AtPc cc own fR lO N σs st (pc + 1) lv' stk) : AtPc cc own fR lO N σs st pc lv (ti x :: stk) :=
  r_lift h fun K C _ _ _ _ _ w k => lv_istore_n C.x C.b hd hi w hn ((Lv_S lv i (ti x)).trans (by rw [hl])) k
theorem r_istore {i : Nat} {x : Int} {lv' : List (Nat × Tv)} (hd : decode cc pc = .ok (.istore i, 2)) (hn : i < nL N) (hl : lvS lv i (ti x) = lv') (h : AtPc cc own fR lO N σs st (pc + 2) lv' stk) : AtPc cc own fR lO N σs st pc lv (ti x :: stk) :=
  r_lift h fun K C _ _ _ _ _ w k => lv_istore C.x C.b hd w hn ((Lv_S lv i (ti x)).trans (by rw [hl])) k
theorem r_astore_n {k : Fin 4} {i : Nat} {x : Option Nat} {lv' : List (Nat × Tv)} (hd : decode cc pc = .ok (.astore_n k, 1)) (hi : (k : Nat) = i) (hn : i < nL N) (hl : lvS lv i (tr x) = lv') (h : AtPc cc own fR lO N σs st (pc + 1) lv' stk) : AtPc cc own fR lO N σs st pc lv (tr x :: stk) := by
  refine r_lift h fun K C _ _ _ _ _ w k => ?_
  have h9 := (Lv_S lv i (tr x)).trans (by rw [hl])
  cases x with
  | none => exact lv_astore_nN C.x C.b hd hi w hn h9 k
  | some a => exact lv_astore_n C.x C.b hd hi w hn h9 k
theorem r_astore {i : Nat} {x : Option Nat} {lv' : List (Nat × Tv)} (hd : decode cc pc = .ok (.astore i, 2)) (hn : i < nL N) (hl : lvS lv i (tr x) = lv') (h : AtPc cc own fR lO N σs st (pc + 2) lv' stk) : AtPc cc own fR lO N σs st pc lv (tr x :: stk) := by
  refine r_lift h fun K C _ _ _ _ _ w k => ?_
  have h9 := (Lv_S lv i (tr x)).trans (by rw [hl])
  cases x with
  | none => exact lv_astoreN C.x C.b hd w hn h9 k
  | some a => exact lv_astore C.x C.b hd w hn h9 k
theorem r_iinc {i : Nat} {n x : Int} {lv' : List (Nat × Tv)} (hd : decode cc pc = .ok (.iinc i n, 3)) (j : Nat) (hj : lv[j]? = some (i, ti x)) (hn : i < nL N) (hl : lvS lv i (ti (wr (x + n))) = lv') (h : AtPc cc own fR lO N σs st (pc + 3) lv' stk) : AtPc cc own fR lO N σs st pc lv stk := by
  refine r_lift h fun K C _ _ _ _ _ w k => ?_
  refine lv_iinc (x := I32 x) (v := I32 (wr (x + n))) C.x C.b hd w (k := j) ?_ ?_ hn ((Lv_S lv i (ti (wr (x + n)))).trans (by rw [hl])) k
  · rw [List.getElem?_map, hj]; rfl
  · rw [I_wr]; exact (Int32.ofInt_add x n).symm
theorem r_goto {off : Int} (tgt : Nat) (hd : decode cc pc = .ok (.goto off, 3)) (ht : (pc : Int) + off = (tgt : Int)) (h : AtPc cc own fR lO N σs st tgt lv stk) : AtPc cc own fR lO N σs st pc lv stk :=
  r_liftS h fun K C _ _ _ _ _ _ k => lv_goto C.x C.b hd ht k
theorem r_dup {v : Tv} (hd : decode cc pc = .ok (.dup, 1)) (hc : tc v = 1) (h : AtPc cc own fR lO N σs st (pc + 1) lv (v :: v :: stk)) : AtPc cc own fR lO N σs st pc lv (v :: stk) :=
  r_liftS h fun K C _ _ _ _ _ _ k => lv_dup C.x C.b hd (by rw [tv_cat]; exact hc) k
theorem r_pop {v : Tv} (hd : decode cc pc = .ok (.pop, 1)) (hc : tc v = 1) (h : AtPc cc own fR lO N σs st (pc + 1) lv stk) : AtPc cc own fR lO N σs st pc lv (v :: stk) :=
  r_liftS h fun K C _ _ _ _ _ _ k => lv_pop C.x C.b hd (by rw [tv_cat]; exact hc) k
theorem r_dup_x1 {v u : Tv} (hd : decode cc pc = .ok (.dup_x1, 1)) (hc : tc v = 1) (hc' : tc u = 1) (h : AtPc cc own fR lO N σs st (pc + 1) lv (v :: u :: v :: stk)) : AtPc cc own fR lO N σs st pc lv (v :: u :: stk) :=
  r_liftS h fun K C _ _ _ _ _ _ k => lv_dup_x1 C.x C.b hd (by rw [tv_cat]; exact hc) (by rw [tv_cat]; exact hc') k
theorem r_dup_x2 {v u w : Tv} (hd : decode cc pc = .ok (.dup_x2, 1)) (hc : tc v = 1) (hc' : tc u = 1) (hc2 : tc w = 1) (h : AtPc cc own fR lO N σs st (pc + 1) lv (v :: u :: w :: v :: stk)) : AtPc cc own fR lO N σs st pc lv (v :: u :: w :: stk) :=
  r_liftS h fun K C _ _ _ _ _ _ k => lv_dup_x2 C.x C.b hd (by rw [tv_cat]; exact hc) (by rw [tv_cat]; exact hc') (by rw [tv_cat]; exact hc2) k
theorem r_dup2 {v u : Tv} (hd : decode cc pc = .ok (.dup2, 1)) (hc : tc v = 1) (hc' : tc u = 1) (h : AtPc cc own fR lO N σs st (pc + 1) lv (v :: u :: v :: u :: stk)) : AtPc cc own fR lO N σs st pc lv (v :: u :: stk) :=
  r_liftS h fun K C _ _ _ _ _ _ k => lv_dup2_11 C.x C.b hd (by rw [tv_cat]; exact hc) (by rw [tv_cat]; exact hc') k
end RW
