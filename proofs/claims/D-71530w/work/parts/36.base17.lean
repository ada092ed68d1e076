/-! BASE 17: a method of the class above that it has inherited; Math's two; arrays copied -/
set_option maxRecDepth 100000
theorem va_callSX {p : Program} {l : Launch} {e : Env} {R : Room} {s : State} {m : MethodId} {args : Array Value} {below : List Frame} {meth : Method} {c : Code} {T : State} {locs : List Loc} {cells slots : Nat} (X : Stand p l e R s m args below meth c T locs cells slots) (hexec : p.tables.exec = Jvm.exec) {own : String} {index : Nat} {x y : MethodName} {bytes : ByteArray} {maxL : Nat} {ret : Option FieldType}
    (hown : s.vm.findClass own = some m.cls) (hlink : (Cond.methodLink own index x).before args s = true) (hsame : (Cond.sameMethod x.cls y.cls x.name x.desc).before args s = true) (hsup : (Cond.superclass own x.cls).before args s = true) (hsup2 : (Cond.superclass x.cls y.cls).before args s = true)
    (hinst : (Cond.instanceMethod y).before args s = true) (hcode : (Cond.code y bytes maxL ret).before args s = true) (hyx : y = ⟨y.cls, x.name, x.desc⟩) (hno : x.name ≠ "<init>")
    {W : Nat} {Pre : Pt → Array Value → Prop} {Post : Pt → Array Value → Option Value → Pt → Prop} (hK : Back l R p e below s args y 3 W Pre Post)
    {b : Addr} {cellB : Cell} {kB : Class} (hcell : T.heap[b]? = some cellB) (hobj : cellB.vm.isStatics = false) (hkB : s.vm.classes[cellB.cls]? = some kB)
    {g : JFrame} (hg : g.method = m) (hsize : g.locals.size = c.maxLocals) {argsL rest : List Value} (hlen : ∀ sig, parseMethodDescriptor y.desc = some sig → argsL.length = sig.parameters.length)
    (hstack : g.stack = argsL.reverse ++ .ref b :: rest) (hW : 2 * g.monitorRoom + (rest.map fun v => v.category).sum ≤ W) (hdg : decode c.code g.pc = .ok (.invokespecial index, 3))
    (hpre : ∀ vm₁, s.WarmedH vm₁ → Pre ⟨T.setVm vm₁, locs, cells, slots⟩ (Value.ref b :: argsL).toArray) :
    ∃ (v : Option Value) (vm₁ : Vm) (B : Pt), s.WarmedH vm₁ ∧ Stand p l e R s m args below meth c B.U B.locs B.cells B.slots ∧ Post ⟨T.setVm vm₁, locs, cells, slots⟩ (Value.ref b :: argsL).toArray v B ∧
      ∀ target, Steps p.tables e below (B.U.setTop { g with pc := g.pc + 3, stack := v.toList ++ rest }) target → Steps p.tables e below (T.setTop g) target := by
  obtain ⟨mk, methM, hnamed, hmethM, hstM, habM⟩ := Cond.instanceMethod_spec hinst
  obtain ⟨methM', cM, hmethM', -, -, -, -, -, -, hsigM⟩ := Cond.code_spec hnamed hcode
  cases hmethM.symm.trans hmethM'
  obtain ⟨ps, dk, kp, hps, hdk, hkp, hsuper, -, -, hnid⟩ := Cond.superclass_spec hown hsup
  have hn : s.methodNamed? ⟨y.cls, x.name, x.desc⟩ = some mk := by rw [← hyx]; exact hnamed
  obtain ⟨ps2, dk2, kp2, hps2, hdk2, -, hsuper2, -, -, -⟩ := Cond.superclass_spec hps hsup2
  have hpm : ps2 = mk.cls := Option.some.inj (hps2.symm.trans (findClass_of_methodNamed hnamed))
  have hsub : s.vm.isSubclass ps mk.cls = true := by rw [← hpm]; simp [Vm.isSubclass, Vm.isSubclassAux, hdk2, hsuper2]; right; have hz : 0 < s.vm.classes.size := Nat.lt_of_le_of_lt (Nat.zero_le _) (Array.getElem?_eq_some_iff.mp hdk2).1; revert hz; generalize s.vm.classes.size = n; intro hz; cases n with | zero => exact absurd hz (Nat.lt_irrefl 0) | succ n => simp [Vm.isSubclassAux]
  have hlen2 : argsL.length = methM.sig.parameters.length := hlen _ hsigM
  obtain ⟨vm₁, X₁, hstep₁⟩ := X.invokespecialUp hexec hown hlink hsame hn hmethM hstM habM hno hdk hnid hps hsuper hsub (a := b) (cell := cellB) hcell
    (fun z h => by rw [h] at hobj; cases hobj) hkB (g := g) hg (argsL := argsL) (rest := rest) hlen2 hstack hdg
  obtain ⟨v, B, X', hpost, hsteps⟩ := hK m meth c ⟨T.setVm vm₁, locs, cells, slots⟩ { g with stack := rest } (.invokespecial index) mk (Value.ref b :: argsL).toArray X₁ hg hsize hdg hW (X₁.named hnamed) (hpre vm₁ X₁.warmed)
  exact ⟨v, vm₁, B, X₁.warmed, X', hpost, fun target h => hstep₁ _ (by rw [doInvoke_state]; exact hsteps.trans h)⟩
section RW
variable {N : Nx} {cc : ByteArray} {own : String} {fR lO : Nat} {σs : List Sg} {st : hS} {pc : Nat} {lv : List (Nat × Tv)} {stk : List Tv}
section CALL
variable {y : MethodName} {code : ByteArray} {maxL f' l' index : Nat} {ret : Option FieldType} {sps' : List Sp} {σs' σs1 σsN : List Sg} {st1 : hS} {r : Option Tv} {stk0 : List Tv} {j : Option Nat}
theorem r_callSX (n : Nat) (av : List Tv) {c : Nat} {rc : vw_C} {o : Option Nat} (hcl : clA[c]? = some rc) (he : hC st o = some c) {x : MethodName} (hyx : y = ⟨y.cls, x.name, x.desc⟩) (hxn : x.name ≠ "<init>") (h1 : Cond.methodLink own index x ∈ lw_all) (h2 : Cond.sameMethod x.cls y.cls x.name x.desc ∈ lw_all) (h3 : Cond.superclass own x.cls ∈ lw_all) (h4 : Cond.superclass x.cls y.cls ∈ lw_all) (h5 : Cond.instanceMethod y ∈ lw_all) (h6 : Cond.initialized y.cls ∈ lw_all) (h7 : Cond.code y code maxL ret ∈ lw_all) (hc : CtX (nG N) y code maxL ret f' l' sps' σs' st (tr o :: av) r σs1 st1) (hinj : injO N) (hsub : subO N j sps') (hget : getO j σs σs') (hset : setO j σs σs1 σsN)
    (hd9 : y.cls ≠ "java/lang/invoke/MethodHandle" ∧ y.cls ≠ "java/lang/invoke/VarHandle" ∧ (parseMethodDescriptor y.desc).map (fun d => d.parameters.length) = some n) (hn : av.length = n) (hfr : f' + 1 ≤ fR) (hlo : 8 + (maxL + 11) + l' ≤ lO) (hstk : stk0 = av.reverse ++ tr o :: stk) (hroom : (stk.map tc).sum ≤ 8) (hd : decode cc pc = .ok (.invokespecial index, 3))
    {stk1 : List Tv} (hs1 : r.toList ++ stk = stk1) (h : AtPc cc own fR lO N σsN st1 (pc + 3) lv stk1) : AtPc cc own fR lO N σs st pc lv stk0 := by
  obtain ⟨b, fs, rfl, -⟩ := hC_o he
  have hrec := rec_ob (N := N) (cc := cc) (own := own) (fR := fR) (lO := lO) (σs := σs) hcl he
  refine r_go (ava := ((tr (some b) :: av).map tv).toArray) hsub.sub (new_of (H := #[]) hsub hget hset hinj) (fun rr => ?_) (fun rr K C H locs cells slots ls s w hroom9 => ?_) hs1 h
  · obtain ⟨⟨p1, p2, p3, -⟩, -⟩ := hc (rr.cut hsub hget)
    exact ⟨⟨p1, p2⟩, rr.paste hsub hset p3⟩
  · have hM := (hc (rr.cut hsub hget)).2 (kl K)
    have hR1 : (kR K).frames = fR := C.fr
    have hR2 : (kR K).locals = lO := C.lo
    have hp := Sit.pre (locs := locs) (cells := cells) (slots := slots) C (WM.cut hsub hget s.1) (tr (some b) :: av |>.map tv)
    obtain ⟨cellB, hcB, hoB, hclB⟩ := hrec K H locs cells slots C s
    obtain ⟨kB, hkB, -⟩ := (C.k.1 c _ hcl).2.2
    have e9 : cellB.cls = (gD (nG N)).1 c := Option.some.inj (hclB.symm.trans (C.k.1 c _ hcl).2.1)
    have hK : Back (kl K) (kR K) (kp K) (ke K) (kb K) (ks K) (ka K) y 3 8 (PreOf (kR K) (st1.2.1 - st.2.1) (st1.2.2 - st.2.2) (va_Pc ((tr (some b) :: av).map tv) (fun U => WM (nG N) sps' σs' st U.heap ∧ GK (nG N) U))) (PostOf (QcX (nG N) sps' st r σs1 st1) (st1.2.1 - st.2.1) (st1.2.2 - st.2.2) (AA (nG N) sps' st)) :=
      back_of (bytes := code) (maxL := maxL) (ret := ret) hM FB_of rfl rfl (by rw [hR1]; exact hfr) (by rw [hR2]; exact hlo) (pay_in C.ts (lw_meth h7)) List.mem_cons_self (fun a' U hW => word_at hW (Or.inl (by first | rfl | simp [Cond.onTables, Cond.keeps, Cond.steady])) (C.ts _ h6))
    intro T hT X
    obtain ⟨v, vm₁, ⟨U', l2, c2, s2⟩, hW₁, X', ⟨g', mk9, t, L, e1, e2, hq, q1, hL, q2, q3⟩, go⟩ := va_callSX X C.x (bytes := code) (maxL := maxL) (ret := ret) C.o (C.ts _ h1) (C.ts _ h2) (C.ts _ h3) (C.ts _ h4) (C.ts _ h5) (C.ts _ h7) hyx hxn hK (by rw [hT]; exact hcB) hoB (by rw [e9]; exact hkB) rfl (w.1.trans C.ml.symm) (argsL := av.map tv) (rest := stk.map tv) (fun sig h => by
      have h2 := hd9.2.2
      rw [h] at h2
      rw [List.length_map, hn]
      exact (Option.some.inj h2).symm) (av_stk av hstk) (lv_room (tc_sum hroom)) (by rw [C.b]; exact hd) (fun vm₁ hW₁ => ⟨hroom9.1, hroom9.2, hp (T.setVm vm₁) hT hW₁⟩)
    dsimp only [Pt.U, Pt.locs, Pt.cells, Pt.slots] at X' e1 e2 q1 q2 q3 go
    subst q1; subst q2; subst q3
    exact ⟨v, (T.setVm vm₁).calling g' mk9 _, t, U', L, hT, X', hL, e1, hq, go⟩
theorem lid_any {A A' : Array Value} {U : State} {C : String} {x y : MethodName} (h : (Cond.landsInDefault C x y).before A U = true) : (Cond.landsInDefault C x y).before A' U = true := h
theorem r_callD (n : Nat) (av : List Tv) {c : Nat} {rc : vw_C} {o : Option Nat} (hcl : clA[c]? = some rc) (he : hC st o = some c) (hyc : y = bsY) (hoi : own = "DictProof" ∧ index = 457) (hC5 : rc.1 ∈ ["DictProof$Instance", "DictProof$Spare", "DictProof$Hidden", "DictProof$First", "DictProof$Sole"]) (h2 : Cond.declares bsY ∈ lw_tbl) (h5 : Cond.instanceMethod y ∈ lw_all) (h6 : Cond.initialized y.cls ∈ lw_all) (h7 : Cond.code y code maxL ret ∈ lw_all) (hc : CtX (nG N) y code maxL ret f' l' sps' σs' st (tr o :: av) r σs1 st1) (hinj : injO N) (hsub : subO N j sps') (hget : getO j σs σs') (hset : setO j σs σs1 σsN)
    (hd9 : y.cls ≠ "java/lang/invoke/MethodHandle" ∧ y.cls ≠ "java/lang/invoke/VarHandle" ∧ (parseMethodDescriptor y.desc).map (fun d => d.parameters.length) = some n) (hn : av.length = n) (hfr : f' + 1 ≤ fR) (hlo : 8 + (maxL + 11) + l' ≤ lO) (hstk : stk0 = av.reverse ++ tr o :: stk) (hroom : (stk.map tc).sum ≤ 8) (hd : decode cc pc = .ok (.invokevirtual index, 3))
    {stk1 : List Tv} (hs1 : r.toList ++ stk = stk1) (h : AtPc cc own fR lO N σsN st1 (pc + 3) lv stk1) : AtPc cc own fR lO N σs st pc lv stk0 := by
  obtain ⟨b, fs, rfl, -⟩ := hC_o he
  have hrec := rec_ob (N := N) (cc := cc) (own := own) (fR := fR) (lO := lO) (σs := σs) hcl he
  refine r_go (ava := ((tr (some b) :: av).map tv).toArray) hsub.sub (new_of (H := #[]) hsub hget hset hinj) (fun rr => ?_) (fun rr K C H locs cells slots ls s w hroom9 => ?_) hs1 h
  · obtain ⟨⟨p1, p2, p3, -⟩, -⟩ := hc (rr.cut hsub hget)
    exact ⟨⟨p1, p2⟩, rr.paste hsub hset p3⟩
  · have hM := (hc (rr.cut hsub hget)).2 (kl K)
    have hR1 : (kR K).frames = fR := C.fr
    have hR2 : (kR K).locals = lO := C.lo
    have hp := Sit.pre (locs := locs) (cells := cells) (slots := slots) C (WM.cut hsub hget s.1) (tr (some b) :: av |>.map tv)
    obtain ⟨cellB, hcB, hoB, hclB⟩ := hrec K H locs cells slots C s
    have hK : Back (kl K) (kR K) (kp K) (ke K) (kb K) (ks K) (ka K) y 3 8 (PreOf (kR K) (st1.2.1 - st.2.1) (st1.2.2 - st.2.2) (va_Pc ((tr (some b) :: av).map tv) (fun U => WM (nG N) sps' σs' st U.heap ∧ GK (nG N) U))) (PostOf (QcX (nG N) sps' st r σs1 st1) (st1.2.1 - st.2.1) (st1.2.2 - st.2.2) (AA (nG N) sps' st)) :=
      back_of (bytes := code) (maxL := maxL) (ret := ret) hM FB_of rfl rfl (by rw [hR1]; exact hfr) (by rw [hR2]; exact hlo) (pay_in C.ts (lw_meth h7)) List.mem_cons_self (fun a' U hW => word_at hW (Or.inl (by first | rfl | simp [Cond.onTables, Cond.keeps, Cond.steady])) (C.ts _ h6))
    obtain ⟨rfl, rfl⟩ := hoi
    subst hyc
    have hbw := C.g.2.2.2.2.2.2.1
    intro T hT X
    obtain ⟨v, vm₁, ⟨U', l2, c2, s2⟩, hW₁, X', ⟨g', mk9, t, L, e1, e2, hq, q1, hL, q2, q3⟩, go⟩ := X.virtualBackUpD C.x (C := rc.1) (owner := "DictProof$Ranked") (x := bsX) (y := bsY) C.o (va_tabs rfl rfl hbw.1) (va_tabs rfl rfl hbw.2.1) (va_Nw.use rfl (C.g.2.1 _ h2 rfl)) ⟨by decide, by decide⟩ (lid_any (hbw.2.2 _ hC5)) (C.ts _ h5) hK hclB ⟨cellB, by rw [hT]; exact hcB, rfl, hoB⟩ rfl (w.1.trans C.ml.symm) (g := F0 (km K) pc ls (stk0.map tv)) (Steps.refl _) (argsL := av.map tv) (rest := stk.map tv) (fun sig h => by
      have h2 := hd9.2.2
      have h : parseMethodDescriptor bsY.desc = some sig := h
      rw [h] at h2
      rw [List.length_map, hn]
      exact (Option.some.inj h2).symm) (av_stk av hstk) (lv_room (tc_sum hroom)) (by rw [C.b]; exact hd) (fun vm₁ hW₁ => ⟨hroom9.1, hroom9.2, hp (T.setVm vm₁) hT hW₁⟩)
    dsimp only [Pt.U, Pt.locs, Pt.cells, Pt.slots] at X' e1 e2 q1 q2 q3 go
    subst q1; subst q2; subst q3
    exact ⟨v, (T.setVm vm₁).calling g' mk9 _, t, U', L, hT, X', hL, e1, hq, fun tg h => go.trans h⟩
end CALL
def mmax (x y : Int) : Int := if x < y then y else x
def mmin (x y : Int) : Int := if y < x then y else x
theorem mmax_r {x y : Int} (hx : rI x) (hy : rI y) : rI (mmax x y) := by unfold mmax; split <;> assumption
theorem mmin_r {x y : Int} (hx : rI x) (hy : rI y) : rI (mmin x y) := by unfold mmin; split <;> assumption
theorem r_mmax {x y : Int} {index : Nat} (hx : rI x) (hy : rI y) (hl : Cond.methodLink own index Lib.Math.max.name ∈ lw_all) (hst : Cond.static Lib.Math.max.name ∈ lw_all) (hini : Cond.initialized "java/lang/Math" ∈ lw_all) (hco : Cond.code Lib.Math.max.name Lib.Math.max.code 2 (some .int) ∈ lw_all) (hfr : 1 ≤ fR) (hlo : 21 ≤ lO) (hroom : (stk.map tc).sum ≤ 8) (hd : decode cc pc = .ok (.invokestatic index, 3)) (h : AtPc cc own fR lO N σs st (pc + 3) lv (ti (mmax x y) :: stk)) : AtPc cc own fR lO N σs st pc lv (ti y :: ti x :: stk) := by
  intro rr
  have hm := (h rr).1
  have hm1 : st.2.1 ≤ (nF N).2.1 := hm.1
  have hm2 : st.2.2 ≤ (nF N).2.2 := hm.2.1
  refine ⟨hm, fun K C H locs cells slots ls s w => ?_⟩
  have k : WK K H locs cells slots (mQ (mk K N)) (F0 (km K) (pc + 3) ls (.int (I32 (mmax x y)) :: stk.map tv)) := (h rr).2 K C H locs cells slots ls s w
  have hcc : (nF N).2.1 - (n0 N).2.1 ≤ (kR K).cells := C.rc
  have hcs : (nF N).2.2 - (n0 N).2.2 ≤ (kR K).slots := C.rs
  have hc1 : (n0 N).2.1 + cells = st.2.1 := s.2.2.1
  have hc2 : (n0 N).2.2 + slots = st.2.2 := s.2.2.2.1
  have hR1 : (kR K).frames = fR := C.fr
  have hR2 : (kR K).locals = lO := C.lo
  have hr := tc_sum hroom
  refine va_mmax C.x C.b (by rw [C.ml]; exact w.1.symm) C.o (C.ts _ hl) (C.ts _ hst) (C.ts _ hini) (C.ts _ hco) (by rw [hR1]; exact hfr) (by rw [hR2]; omega) (by omega) (by omega) hd ?_
  have e : (if I32 x < I32 y then I32 y else I32 x) = I32 (mmax x y) := by
    unfold mmax
    by_cases c : x < y
    · rw [if_pos c, if_pos ((I_lt hx hy).mpr c)]
    · rw [if_neg c, if_neg (fun q => c ((I_lt hx hy).mp q))]
  rw [e]
  exact k
theorem r_mmin {x y : Int} {index : Nat} (hx : rI x) (hy : rI y) (hl : Cond.methodLink own index Lib.Math.min.name ∈ lw_all) (hst : Cond.static Lib.Math.min.name ∈ lw_all) (hini : Cond.initialized "java/lang/Math" ∈ lw_all) (hco : Cond.code Lib.Math.min.name Lib.Math.min.code 2 (some .int) ∈ lw_all) (hfr : 1 ≤ fR) (hlo : 21 ≤ lO) (hroom : (stk.map tc).sum ≤ 8) (hd : decode cc pc = .ok (.invokestatic index, 3)) (h : AtPc cc own fR lO N σs st (pc + 3) lv (ti (mmin x y) :: stk)) : AtPc cc own fR lO N σs st pc lv (ti y :: ti x :: stk) := by
  intro rr
  have hm := (h rr).1
  have hm1 : st.2.1 ≤ (nF N).2.1 := hm.1
  have hm2 : st.2.2 ≤ (nF N).2.2 := hm.2.1
  refine ⟨hm, fun K C H locs cells slots ls s w => ?_⟩
  have k : WK K H locs cells slots (mQ (mk K N)) (F0 (km K) (pc + 3) ls (.int (I32 (mmin x y)) :: stk.map tv)) := (h rr).2 K C H locs cells slots ls s w
  have hcc : (nF N).2.1 - (n0 N).2.1 ≤ (kR K).cells := C.rc
  have hcs : (nF N).2.2 - (n0 N).2.2 ≤ (kR K).slots := C.rs
  have hc1 : (n0 N).2.1 + cells = st.2.1 := s.2.2.1
  have hc2 : (n0 N).2.2 + slots = st.2.2 := s.2.2.2.1
  have hR1 : (kR K).frames = fR := C.fr
  have hR2 : (kR K).locals = lO := C.lo
  have hr := tc_sum hroom
  refine va_mmin C.x C.b (by rw [C.ml]; exact w.1.symm) C.o (C.ts _ hl) (C.ts _ hst) (C.ts _ hini) (C.ts _ hco) (by rw [hR1]; exact hfr) (by rw [hR2]; omega) (by omega) (by omega) hd ?_
  have e : (if I32 y < I32 x then I32 y else I32 x) = I32 (mmin x y) := by
    unfold mmin
    by_cases c : y < x
    · rw [if_pos c, if_pos ((I_lt hy hx).mpr c)]
    · rw [if_neg c, if_neg (fun q => c ((I_lt hy hx).mp q))]
  rw [e]
  exact k
end RW
