/-! BASE 12: calls through an object, constructors, nest mates; casts, statics -/
set_option maxRecDepth 100000
section RW
variable {N : Nx} {cc : ByteArray} {own : String} {fR lO : Nat} {σs : List Sg} {st : hS} {pc : Nat} {lv : List (Nat × Tv)} {stk : List Tv}
/-- the receiver is an object of the class -/
def RecO (N : Nx) (cc : ByteArray) (own : String) (fR lO : Nat) (σs : List Sg) (st : hS) (Cn : String) (b : Nat) : Prop := ∀ (K : Kx) (H : Heap) (locs : List Loc) (cells slots : Nat), Cx (mk K N) cc own fR lO → Sit (mk K N) σs st H locs cells slots → ∃ cellB : Cell, H[b]? = some cellB ∧ cellB.vm.isStatics = false ∧ (ks K).vm.findClass Cn = some cellB.cls
theorem rec_ob {c b : Nat} {r : vw_C} (hc : clA[c]? = some r) (he : hC st (some b) = some c) : RecO N cc own fR lO σs st r.1 b := by
  intro K H locs cells slots C s
  obtain ⟨b', fs, e, hb⟩ := hC_o he
  cases e
  obtain ⟨r', h1, cell, g1, g2, -, g3, -⟩ := s.ob hb
  cases hc.symm.trans h1
  exact ⟨cell, g1, g3, by rw [g2]; exact (C.k.1 c _ hc).2.1⟩
theorem rec_sg {j ci b : Nat} {ad : Nat → Nat} {r : vw_C} (hc : clA[ci]? = some r) (hsp : (np N)[j]? = some (ci, b, ad)) : RecO N cc own fR lO σs st r.1 b := by
  intro K H locs cells slots C s
  obtain ⟨v1, ⟨σ, v2, v3⟩, v4⟩ := s.1.2.2.2.2.1 j (ci, b, ad) hsp
  obtain ⟨cell, g1, g2, g3, -⟩ := v3.1
  exact ⟨cell, g1, by rw [g3]; rfl, by rw [g2]; exact (C.k.1 ci _ hc).2.1⟩
section CALL
variable {y : MethodName} {code : ByteArray} {maxL f' l' index : Nat} {ret : Option FieldType} {sps' : List Sp} {σs' σs1 σsN : List Sg} {st1 : hS} {r : Option Tv} {stk0 : List Tv} {j : Option Nat}
theorem r_callV (n : Nat) (av : List Tv) {b : Nat} {Cn : String} (hrec : RecO N cc own fR lO σs st Cn b) (hyc : y.cls = Cn) (hc : CtX (nG N) y code maxL ret f' l' sps' σs' st (tr (some b) :: av) r σs1 st1) (hinj : injO N) (hsub : subO N j sps') (hget : getO j σs σs') (hset : setO j σs σs1 σsN)
    (hg : GoodIn lw_all (wsV own index Cn y (ws_ y code maxL ret))) (hd9 : y.cls ≠ "java/lang/invoke/MethodHandle" ∧ y.cls ≠ "java/lang/invoke/VarHandle" ∧ (parseMethodDescriptor y.desc).map (fun d => d.parameters.length) = some n) (hn : av.length = n) (hfr : f' + 1 ≤ fR) (hlo : 8 + (maxL + 11) + l' ≤ lO) (hstk : stk0 = av.reverse ++ tr (some b) :: stk) (hroom : (stk.map tc).sum ≤ 8) (hd : decode cc pc = .ok (.invokevirtual index, 3))
    {stk1 : List Tv} (hs1 : r.toList ++ stk = stk1) (h : AtPc cc own fR lO N σsN st1 (pc + 3) lv stk1) : AtPc cc own fR lO N σs st pc lv stk0 := by
  refine r_go (ava := ((tr (some b) :: av).map tv).toArray) hsub.sub (new_of (H := #[]) hsub hget hset hinj) (fun rr => ?_) (fun rr K C H locs cells slots ls s w hroom9 => ?_) hs1 h
  · obtain ⟨⟨p1, p2, p3, -⟩, -⟩ := hc (rr.cut hsub hget)
    exact ⟨⟨p1, p2⟩, rr.paste hsub hset p3⟩
  · have hM := (hc (rr.cut hsub hget)).2 (kl K)
    have hR1 : (kR K).frames = fR := C.fr
    have hR2 : (kR K).locals = lO := C.lo
    have hrun := va_runV (p := kp K) (e := ke K) (R := kR K) (s := ks K) (m := km K) (args := ka K) (below := kb K) (meth := kme K) (c := kc K) (H := H) (locs := locs) (cells := cells) (slots := slots) (g := F0 (km K) pc ls (stk0.map tv)) (b := b) (As := av.map tv) (rest := stk.map tv) ⟨C.x, C.b, C.ml, C.o, C.ts⟩ hM (cwV n C.ts hg rfl rfl rfl ⟨hyc, hd9⟩ ⟨by rw [hR1]; exact hfr, by rw [hR2]; exact hlo⟩) ⟨FB_of, hrec K H locs cells slots C s, Sit.pre (locs := locs) (cells := cells) (slots := slots) C (WM.cut hsub hget s.1) _⟩ rfl (by rw [List.length_map]; exact hn) w.1 (av_stk av hstk) (lv_room (tc_sum hroom)) hd hroom9
    intro T hT X
    obtain ⟨v, st₀, t, T', L, h0, X', hL, e1, e2, hq, go⟩ := hrun T hT X
    exact ⟨v, st₀, t, T', L, h0, X', hL, e1, hq, go⟩
theorem r_callI (n : Nat) (av : List Tv) {b : Nat} (hyn : y.name = "<init>") (hret : ret = none) (hc : CtX (nG N) y code maxL ret f' l' sps' σs' st (tr (some b) :: av) r σs1 st1) (hinj : injO N) (hsub : subO N j sps') (hget : getO j σs σs') (hset : setO j σs σs1 σsN)
    (hco : Cond.code y code maxL ret ∈ lw_all) (hini : Cond.initialized y.cls ∈ lw_all) (hl : Cond.methodLink own index y ∈ lw_all) (hins : Cond.instanceMethod y ∈ lw_all) (hd9 : y.cls ≠ "java/lang/invoke/MethodHandle" ∧ y.cls ≠ "java/lang/invoke/VarHandle" ∧ (parseMethodDescriptor y.desc).map (fun d => d.parameters.length) = some n) (hn : av.length = n) (hfr : f' + 1 ≤ fR) (hlo : 8 + (maxL + 11) + l' ≤ lO) (hstk : stk0 = av.reverse ++ tr (some b) :: stk) (hroom : (stk.map tc).sum ≤ 8) (hd : decode cc pc = .ok (.invokespecial index, 3))
    {stk1 : List Tv} (hs1 : r.toList ++ stk = stk1) (h : AtPc cc own fR lO N σsN st1 (pc + 3) lv stk1) : AtPc cc own fR lO N σs st pc lv stk0 := by
  subst hret
  refine r_go (ava := ((tr (some b) :: av).map tv).toArray) hsub.sub (new_of (H := #[]) hsub hget hset hinj) (fun rr => ?_) (fun rr K C H locs cells slots ls s w hroom9 => ?_) hs1 h
  · obtain ⟨⟨p1, p2, p3, -⟩, -⟩ := hc (rr.cut hsub hget)
    exact ⟨⟨p1, p2⟩, rr.paste hsub hset p3⟩
  · have hM := (hc (rr.cut hsub hget)).2 (kl K)
    have hR1 : (kR K).frames = fR := C.fr
    have hR2 : (kR K).locals = lO := C.lo
    have hrun := va_runI (p := kp K) (e := ke K) (R := kR K) (s := ks K) (m := km K) (args := ka K) (below := kb K) (meth := kme K) (c := kc K) (H := H) (locs := locs) (cells := cells) (slots := slots) (g := F0 (km K) pc ls (stk0.map tv)) (b := b) (As := av.map tv) (rest := stk.map tv) ⟨C.x, C.b, C.ml, C.o, C.ts⟩ hM (cwI n C.ts (lw_meth hco) rfl rfl rfl (C.ts _ hini) (C.ts _ hl) (C.ts _ hins) hyn hd9 ⟨by rw [hR1]; exact hfr, by rw [hR2]; exact hlo⟩) ⟨FB_of, Sit.pre (locs := locs) (cells := cells) (slots := slots) C (WM.cut hsub hget s.1) _⟩ rfl (by rw [List.length_map]; exact hn) w.1 (av_stk av hstk) (lv_room (tc_sum hroom)) hd hroom9
    intro T hT X
    obtain ⟨v, st₀, t, T', L, h0, X', hL, e1, e2, hq, go⟩ := hrun T hT X
    exact ⟨v, st₀, t, T', L, h0, X', hL, e1, hq, go⟩
theorem r_callSN (n : Nat) (av : List Tv) {host : String} (hc : CtX (nG N) y code maxL ret f' l' sps' σs' st av r σs1 st1) (hinj : injO N) (hsub : subO N j sps') (hget : getO j σs σs') (hset : setO j σs σs1 σsN)
    (hco : Cond.code y code maxL ret ∈ lw_all) (hini : Cond.initialized y.cls ∈ lw_all) (hl : Cond.methodLinkNest own index y host ∈ lw_tbl) (hst : Cond.static y ∈ lw_all) (hd9 : y.cls ≠ "java/lang/invoke/MethodHandle" ∧ y.cls ≠ "java/lang/invoke/VarHandle" ∧ (parseMethodDescriptor y.desc).map (fun d => d.parameters.length) = some n) (hn : av.length = n) (hfr : f' + 1 ≤ fR) (hlo : 8 + (maxL + 11) + l' ≤ lO) (hstk : stk0 = av.reverse ++ stk) (hroom : (stk.map tc).sum ≤ 8) (hd : decode cc pc = .ok (.invokestatic index, 3))
    {stk1 : List Tv} (hs1 : r.toList ++ stk = stk1) (h : AtPc cc own fR lO N σsN st1 (pc + 3) lv stk1) : AtPc cc own fR lO N σs st pc lv stk0 := by
  refine r_go (ava := (av.map tv).toArray) hsub.sub (new_of (H := #[]) hsub hget hset hinj) (fun rr => ?_) (fun rr K C H locs cells slots ls s w hroom9 => ?_) hs1 h
  · obtain ⟨⟨p1, p2, p3, -⟩, -⟩ := hc (rr.cut hsub hget)
    exact ⟨⟨p1, p2⟩, rr.paste hsub hset p3⟩
  · have hM := (hc (rr.cut hsub hget)).2 (kl K)
    have hR1 : (kR K).frames = fR := C.fr
    have hR2 : (kR K).locals = lO := C.lo
    have hrun := va_runSN (p := kp K) (e := ke K) (R := kR K) (s := ks K) (m := km K) (args := ka K) (below := kb K) (meth := kme K) (c := kc K) (H := H) (locs := locs) (cells := cells) (slots := slots) (g := F0 (km K) pc ls (stk0.map tv)) (As := av.map tv) (rest := stk.map tv) ⟨C.x, C.b, C.ml, C.o, C.ts⟩ hM ⟨va_cnB n C.ts (lw_meth hco) rfl rfl rfl (C.g.2.1 _ hl rfl) (C.ts _ hini) hd9 ⟨by rw [hR1]; exact hfr, by rw [hR2]; exact hlo⟩, C.ts _ hst, trivial⟩ ⟨FB_of, Sit.pre (locs := locs) (cells := cells) (slots := slots) C (WM.cut hsub hget s.1) _⟩ rfl (by rw [List.length_map]; exact hn) w.1 (av_stk av hstk) (lv_room (tc_sum hroom)) hd hroom9
    intro T hT X
    obtain ⟨v, st₀, t, T', L, h0, X', hL, e1, e2, hq, go⟩ := hrun T hT X
    exact ⟨v, st₀, t, T', L, h0, X', hL, e1, hq, go⟩
theorem r_callIN (n : Nat) (av : List Tv) {host : String} {b : Nat} (hyn : y.name = "<init>") (hret : ret = none) (hc : CtX (nG N) y code maxL ret f' l' sps' σs' st (tr (some b) :: av) r σs1 st1) (hinj : injO N) (hsub : subO N j sps') (hget : getO j σs σs') (hset : setO j σs σs1 σsN)
    (hco : Cond.code y code maxL ret ∈ lw_all) (hini : Cond.initialized y.cls ∈ lw_all) (hl : Cond.methodLinkNest own index y host ∈ lw_tbl) (hins : Cond.instanceMethod y ∈ lw_all) (hd9 : y.cls ≠ "java/lang/invoke/MethodHandle" ∧ y.cls ≠ "java/lang/invoke/VarHandle" ∧ (parseMethodDescriptor y.desc).map (fun d => d.parameters.length) = some n) (hn : av.length = n) (hfr : f' + 1 ≤ fR) (hlo : 8 + (maxL + 11) + l' ≤ lO) (hstk : stk0 = av.reverse ++ tr (some b) :: stk) (hroom : (stk.map tc).sum ≤ 8) (hd : decode cc pc = .ok (.invokespecial index, 3))
    {stk1 : List Tv} (hs1 : r.toList ++ stk = stk1) (h : AtPc cc own fR lO N σsN st1 (pc + 3) lv stk1) : AtPc cc own fR lO N σs st pc lv stk0 := by
  subst hret
  refine r_go (ava := ((tr (some b) :: av).map tv).toArray) hsub.sub (new_of (H := #[]) hsub hget hset hinj) (fun rr => ?_) (fun rr K C H locs cells slots ls s w hroom9 => ?_) hs1 h
  · obtain ⟨⟨p1, p2, p3, -⟩, -⟩ := hc (rr.cut hsub hget)
    exact ⟨⟨p1, p2⟩, rr.paste hsub hset p3⟩
  · have hM := (hc (rr.cut hsub hget)).2 (kl K)
    have hR1 : (kR K).frames = fR := C.fr
    have hR2 : (kR K).locals = lO := C.lo
    have hrun := va_runIN (p := kp K) (e := ke K) (R := kR K) (s := ks K) (m := km K) (args := ka K) (below := kb K) (meth := kme K) (c := kc K) (H := H) (locs := locs) (cells := cells) (slots := slots) (g := F0 (km K) pc ls (stk0.map tv)) (b := b) (As := av.map tv) (rest := stk.map tv) ⟨C.x, C.b, C.ml, C.o, C.ts⟩ hM ⟨va_cnB n C.ts (lw_meth hco) rfl rfl rfl (C.g.2.1 _ hl rfl) (C.ts _ hini) hd9 ⟨by rw [hR1]; exact hfr, by rw [hR2]; exact hlo⟩, hyn, C.ts _ hins⟩ ⟨FB_of, Sit.pre (locs := locs) (cells := cells) (slots := slots) C (WM.cut hsub hget s.1) _⟩ rfl (by rw [List.length_map]; exact hn) w.1 (av_stk av hstk) (lv_room (tc_sum hroom)) hd hroom9
    intro T hT X
    obtain ⟨v, st₀, t, T', L, h0, X', hL, e1, e2, hq, go⟩ := hrun T hT X
    exact ⟨v, st₀, t, T', L, h0, X', hL, e1, hq, go⟩
end CALL
theorem r_objInit {index b : Nat} (hl : Cond.methodLink own index Lib.objectInit ∈ lw_all) (hi : Cond.instanceMethod Lib.objectInit ∈ lw_all) (hco : Cond.code Lib.objectInit ⟨#[0xb1]⟩ 1 none ∈ lw_all) (hfr : 1 ≤ fR) (hlo : 20 ≤ lO) (hroom : (stk.map tc).sum ≤ 8) (hd : decode cc pc = .ok (.invokespecial index, 3)) (h : AtPc cc own fR lO N σs st (pc + 3) lv stk) : AtPc cc own fR lO N σs st pc lv (tr (some b) :: stk) := by
  refine r_liftS h fun K C H locs cells slots ls w k => ?_
  have hR1 : (kR K).frames = fR := C.fr
  have hR2 : (kR K).locals = lO := C.lo
  have hr := tc_sum hroom
  refine W.objInit C.x C.b C.o (C.ts _ hl) (C.ts _ hi) (C.ts _ hco) rfl (by rw [C.ml]; exact w.1) rfl hd (by rw [hR1]; exact hfr) (by rw [hR2]; show 2 * 0 + _ + 12 ≤ lO; omega) ?_
  exact k
/-! casts -/
/-- classes of objects that can be cast: the class itself, or a word of the tables -/
def cstOK (nm : String) (P : List Nat) : Prop := ∀ c ∈ P, ∃ r : vw_C, clA[c]? = some r ∧ (r.1 = nm ∨ Cond.castable r.1 nm ∈ lw_tbl)
theorem r_cast {index : Nat} {nm : String} {P : List Nat} (hP : cstOK nm P) (hl : Cond.classLink own index nm ∈ lw_all) {o : Option Nat} (ho : o = none ∨ ∃ c ∈ P, hC st o = some c) (hd : decode cc pc = .ok (.checkcast index, 3)) (h : AtPc cc own fR lO N σs st (pc + 3) lv (tr o :: stk)) : AtPc cc own fR lO N σs st pc lv (tr o :: stk) := by
  intro rr
  refine ⟨(h rr).1, fun K C H locs cells slots ls s w => ?_⟩
  have k := (h rr).2 K C H locs cells slots ls s w
  cases o with
  | none => exact lv_castN C.x C.b hd k
  | some b =>
    rcases ho with ho | ⟨c, hc, ho⟩
    · cases ho
    · obtain ⟨r, g1, g2⟩ := hP c hc
      have hrec := rec_ob (N := N) (cc := cc) (own := own) (fR := fR) (lO := lO) (σs := σs) g1 ho K H locs cells slots C s
      rcases g2 with rfl | g2
      · exact va_castS C.x C.b C.o (C.ts _ hl) (C.k.1 c _ g1).2 hrec hd k
      · exact va_castY C.x C.b C.o (C.ts _ hl) (C.g.2.1 _ g2 rfl) hrec hd k
theorem r_inst1 {index : Nat} {nm : String} {P : List Nat} (hP : cstOK nm P) (hl : Cond.classLink own index nm ∈ lw_all) {o : Option Nat} (ho : ∃ c ∈ P, hC st o = some c) (hd : decode cc pc = .ok (.instanceof index, 3)) (h : AtPc cc own fR lO N σs st (pc + 3) lv (ti 1 :: stk)) : AtPc cc own fR lO N σs st pc lv (tr o :: stk) := by
  intro rr
  refine ⟨(h rr).1, fun K C H locs cells slots ls s w => ?_⟩
  have k := (h rr).2 K C H locs cells slots ls s w
  obtain ⟨c, hc, ho⟩ := ho
  obtain ⟨b, fs, rfl, -⟩ := hC_o ho
  obtain ⟨r, g1, g2⟩ := hP c hc
  have hrec := rec_ob (N := N) (cc := cc) (own := own) (fR := fR) (lO := lO) (σs := σs) g1 ho K H locs cells slots C s
  rcases g2 with rfl | g2
  · exact va_instS C.x C.b C.o (C.ts _ hl) (C.k.1 c _ g1).2 hrec hd k
  · exact va_instY C.x C.b C.o (C.ts _ hl) (C.g.2.1 _ g2 rfl) hrec hd k
end RW
