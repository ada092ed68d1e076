/-! BASE 14: calls through objects of the heap: own, inherited, overridden, by an interface, of the class above -/
set_option maxRecDepth 100000
theorem lw_U {own : String} {idx : Nat} {C owner : String} {x y : MethodName} {b : ByteArray} {L : Nat} {r : Option FieldType} (h1 : Cond.methodLink own idx x ∈ lw_all) (h2 : Cond.sameMethod x.cls owner x.name x.desc ∈ lw_all) (h3 : Cond.selects C x y ∈ lw_all) (h4 : Cond.instanceMethod y ∈ lw_all) (h5 : Cond.initialized y.cls ∈ lw_all) (h6 : Cond.code y b L r ∈ lw_all) : GoodIn lw_all (va_wsU own idx C owner x y (ws_ y b L r)) := by
  refine lw_app ?_ (lw_meth h6)
  intro w hw
  simp only [List.mem_cons, List.not_mem_nil, or_false] at hw
  rcases hw with e | e | e | e | e
  · rw [e]; exact h1
  · rw [e]; exact h2
  · rw [e]; exact h3
  · rw [e]; exact h4
  · rw [e]; exact h5
theorem lw_O {own : String} {idx : Nat} {C owner : String} {x y : MethodName} {b : ByteArray} {L : Nat} {r : Option FieldType} (h1 : Cond.methodLink own idx x ∈ lw_all) (h2 : Cond.sameMethod x.cls owner x.name x.desc ∈ lw_all) (h7 : Cond.instanceMethod ⟨owner, x.name, x.desc⟩ ∈ lw_all) (h3 : Cond.selects C x y ∈ lw_all) (h4 : Cond.instanceMethod y ∈ lw_all) (h5 : Cond.initialized y.cls ∈ lw_all) (h6 : Cond.code y b L r ∈ lw_all) : GoodIn lw_all (va_wsO own idx C owner x y (ws_ y b L r)) := by
  refine lw_app ?_ (lw_meth h6)
  intro w hw
  simp only [List.mem_cons, List.not_mem_nil, or_false] at hw
  rcases hw with e | e | e | e | e | e
  · rw [e]; exact h1
  · rw [e]; exact h2
  · rw [e]; exact h7
  · rw [e]; exact h3
  · rw [e]; exact h4
  · rw [e]; exact h5
theorem lw_F {own : String} {idx : Nat} {C : String} {x y : MethodName} {b : ByteArray} {L : Nat} {r : Option FieldType} (h1 : Cond.methodLink own idx x ∈ lw_all) (h3 : Cond.selects C x y ∈ lw_all) (h4 : Cond.instanceMethod y ∈ lw_all) (h5 : Cond.initialized y.cls ∈ lw_all) (h6 : Cond.code y b L r ∈ lw_all) : GoodIn lw_all (va_wsF own idx C x y (ws_ y b L r)) := by
  refine lw_app ?_ (lw_meth h6)
  intro w hw
  simp only [List.mem_cons, List.not_mem_nil, or_false] at hw
  rcases hw with e | e | e | e
  · rw [e]; exact h1
  · rw [e]; exact h3
  · rw [e]; exact h4
  · rw [e]; exact h5
theorem lw_SU {own : String} {idx : Nat} {y : MethodName} {b : ByteArray} {L : Nat} {r : Option FieldType} (h1 : Cond.methodLink own idx y ∈ lw_all) (h2 : Cond.sameMethod y.cls y.cls y.name y.desc ∈ lw_all) (h3 : Cond.superclass own y.cls ∈ lw_all) (h4 : Cond.instanceMethod y ∈ lw_all) (h5 : Cond.initialized y.cls ∈ lw_all) (h6 : Cond.code y b L r ∈ lw_all) : GoodIn lw_all (va_wsSU own idx y (ws_ y b L r)) := by
  refine lw_app ?_ (lw_meth h6)
  intro w hw
  simp only [List.mem_cons, List.not_mem_nil, or_false] at hw
  rcases hw with e | e | e | e | e
  · rw [e]; exact h1
  · rw [e]; exact h2
  · rw [e]; exact h3
  · rw [e]; exact h4
  · rw [e]; exact h5
section RW
variable {N : Nx} {cc : ByteArray} {own : String} {fR lO : Nat} {σs : List Sg} {st : hS} {pc : Nat} {lv : List (Nat × Tv)} {stk : List Tv}
section CALL
variable {y : MethodName} {code : ByteArray} {maxL f' l' index : Nat} {ret : Option FieldType} {sps' : List Sp} {σs' σs1 σsN : List Sg} {st1 : hS} {r : Option Tv} {stk0 : List Tv} {j : Option Nat}
theorem r_callVo (n : Nat) (av : List Tv) {c : Nat} {rc : vw_C} {o : Option Nat} (hcl : clA[c]? = some rc) (he : hC st o = some c) (hyc : y.cls = rc.1) (hc : CtX (nG N) y code maxL ret f' l' sps' σs' st (tr o :: av) r σs1 st1) (hinj : injO N) (hsub : subO N j sps') (hget : getO j σs σs') (hset : setO j σs σs1 σsN)
    (hg : GoodIn lw_all (wsV own index rc.1 y (ws_ y code maxL ret))) (hd9 : y.cls ≠ "java/lang/invoke/MethodHandle" ∧ y.cls ≠ "java/lang/invoke/VarHandle" ∧ (parseMethodDescriptor y.desc).map (fun d => d.parameters.length) = some n) (hn : av.length = n) (hfr : f' + 1 ≤ fR) (hlo : 8 + (maxL + 11) + l' ≤ lO) (hstk : stk0 = av.reverse ++ tr o :: stk) (hroom : (stk.map tc).sum ≤ 8) (hd : decode cc pc = .ok (.invokevirtual index, 3))
    {stk1 : List Tv} (hs1 : r.toList ++ stk = stk1) (h : AtPc cc own fR lO N σsN st1 (pc + 3) lv stk1) : AtPc cc own fR lO N σs st pc lv stk0 := by
  obtain ⟨b, fs, rfl, -⟩ := hC_o he
  have hrec := rec_ob (N := N) (cc := cc) (own := own) (fR := fR) (lO := lO) (σs := σs) hcl he
  refine r_go (ava := ((tr (some b) :: av).map tv).toArray) hsub.sub (new_of (H := #[]) hsub hget hset hinj) (fun rr => ?_) (fun rr K C H locs cells slots ls s w hroom9 => ?_) hs1 h
  · obtain ⟨⟨p1, p2, p3, -⟩, -⟩ := hc (rr.cut hsub hget)
    exact ⟨⟨p1, p2⟩, rr.paste hsub hset p3⟩
  · have hM := (hc (rr.cut hsub hget)).2 (kl K)
    have hR1 : (kR K).frames = fR := C.fr
    have hR2 : (kR K).locals = lO := C.lo
    have hrun := va_runV (p := kp K) (e := ke K) (R := kR K) (s := ks K) (m := km K) (args := ka K) (below := kb K) (meth := kme K) (c := kc K) (H := H) (locs := locs) (cells := cells) (slots := slots) (g := F0 (km K) pc ls (stk0.map tv)) (b := b) (As := av.map tv) (rest := stk.map tv) ⟨C.x, C.b, C.ml, C.o, C.ts⟩ hM (cwV n C.ts hg rfl rfl rfl ⟨hyc, hd9⟩ ⟨by rw [hR1]; exact hfr, by rw [hR2]; exact hlo⟩) ⟨FB_of, hrec K H locs cells slots C s, Sit.pre (locs := locs) (cells := cells) (slots := slots) C (WM.cut hsub hget s.1) _⟩ rfl (by rw [List.length_map]; exact hn) w.1 (av_stk av hstk) (lv_room (tc_sum hroom)) hd hroom9
    intro T hT X
    obtain ⟨v, st₀, t, T', L, h0, X', hL, e1, e2, hq, go⟩ := hrun T hT X
    exact ⟨v, st₀, t, T', L, h0, X', hL, e1, hq, go⟩
theorem r_callU (n : Nat) (av : List Tv) {c : Nat} {rc : vw_C} {o : Option Nat} (hcl : clA[c]? = some rc) (he : hC st o = some c) {x : MethodName} {owner : String} (hyx : y = ⟨owner, x.name, x.desc⟩) (hc : CtX (nG N) y code maxL ret f' l' sps' σs' st (tr o :: av) r σs1 st1) (hinj : injO N) (hsub : subO N j sps') (hget : getO j σs σs') (hset : setO j σs σs1 σsN)
    (hg : GoodIn lw_all (va_wsU own index rc.1 owner x y (ws_ y code maxL ret))) (hd9 : owner ≠ "java/lang/invoke/MethodHandle" ∧ owner ≠ "java/lang/invoke/VarHandle" ∧ (parseMethodDescriptor x.desc).map (fun d => d.parameters.length) = some n) (hn : av.length = n) (hfr : f' + 1 ≤ fR) (hlo : 8 + (maxL + 11) + l' ≤ lO) (hstk : stk0 = av.reverse ++ tr o :: stk) (hroom : (stk.map tc).sum ≤ 8) (hd : decode cc pc = .ok (.invokevirtual index, 3))
    {stk1 : List Tv} (hs1 : r.toList ++ stk = stk1) (h : AtPc cc own fR lO N σsN st1 (pc + 3) lv stk1) : AtPc cc own fR lO N σs st pc lv stk0 := by
  obtain ⟨b, fs, rfl, -⟩ := hC_o he
  have hrec := rec_ob (N := N) (cc := cc) (own := own) (fR := fR) (lO := lO) (σs := σs) hcl he
  refine r_go (ava := ((tr (some b) :: av).map tv).toArray) hsub.sub (new_of (H := #[]) hsub hget hset hinj) (fun rr => ?_) (fun rr K C H locs cells slots ls s w hroom9 => ?_) hs1 h
  · obtain ⟨⟨p1, p2, p3, -⟩, -⟩ := hc (rr.cut hsub hget)
    exact ⟨⟨p1, p2⟩, rr.paste hsub hset p3⟩
  · have hM := (hc (rr.cut hsub hget)).2 (kl K)
    have hR1 : (kR K).frames = fR := C.fr
    have hR2 : (kR K).locals = lO := C.lo
    have hrun := va_runU (p := kp K) (e := ke K) (R := kR K) (s := ks K) (m := km K) (args := ka K) (below := kb K) (meth := kme K) (c := kc K) (H := H) (locs := locs) (cells := cells) (slots := slots) (g := F0 (km K) pc ls (stk0.map tv)) (b := b) (As := av.map tv) (rest := stk.map tv) ⟨C.x, C.b, C.ml, C.o, C.ts⟩ hM (va_cwU n C.ts hg rfl rfl rfl hyx hd9 ⟨by rw [hR1]; exact hfr, by rw [hR2]; exact hlo⟩) ⟨FB_of, hrec K H locs cells slots C s, Sit.pre (locs := locs) (cells := cells) (slots := slots) C (WM.cut hsub hget s.1) _⟩ rfl (by rw [List.length_map]; exact hn) w.1 (av_stk av hstk) (lv_room (tc_sum hroom)) hd hroom9
    intro T hT X
    obtain ⟨v, st₀, t, T', L, h0, X', hL, e1, e2, hq, go⟩ := hrun T hT X
    exact ⟨v, st₀, t, T', L, h0, X', hL, e1, hq, go⟩
theorem r_callO (n : Nat) (av : List Tv) {c : Nat} {rc : vw_C} {o : Option Nat} (hcl : clA[c]? = some rc) (he : hC st o = some c) {x : MethodName} {owner : String} {b0 : ByteArray} {m0 : Nat} {r0 : Option FieldType} (h0 : Cond.code ⟨owner, x.name, x.desc⟩ b0 m0 r0 ∈ lw_all) (hc : CtX (nG N) y code maxL ret f' l' sps' σs' st (tr o :: av) r σs1 st1) (hinj : injO N) (hsub : subO N j sps') (hget : getO j σs σs') (hset : setO j σs σs1 σsN)
    (hg : GoodIn lw_all (va_wsO own index rc.1 owner x y (ws_ y code maxL ret))) (hd9 : owner ≠ "java/lang/invoke/MethodHandle" ∧ owner ≠ "java/lang/invoke/VarHandle" ∧ (parseMethodDescriptor x.desc).map (fun d => d.parameters.length) = some n) (hn : av.length = n) (hfr : f' + 1 ≤ fR) (hlo : 8 + (maxL + 11) + l' ≤ lO) (hstk : stk0 = av.reverse ++ tr o :: stk) (hroom : (stk.map tc).sum ≤ 8) (hd : decode cc pc = .ok (.invokevirtual index, 3))
    {stk1 : List Tv} (hs1 : r.toList ++ stk = stk1) (h : AtPc cc own fR lO N σsN st1 (pc + 3) lv stk1) : AtPc cc own fR lO N σs st pc lv stk0 := by
  obtain ⟨b, fs, rfl, -⟩ := hC_o he
  have hrec := rec_ob (N := N) (cc := cc) (own := own) (fR := fR) (lO := lO) (σs := σs) hcl he
  refine r_go (ava := ((tr (some b) :: av).map tv).toArray) hsub.sub (new_of (H := #[]) hsub hget hset hinj) (fun rr => ?_) (fun rr K C H locs cells slots ls s w hroom9 => ?_) hs1 h
  · obtain ⟨⟨p1, p2, p3, -⟩, -⟩ := hc (rr.cut hsub hget)
    exact ⟨⟨p1, p2⟩, rr.paste hsub hset p3⟩
  · have hM := (hc (rr.cut hsub hget)).2 (kl K)
    have hR1 : (kR K).frames = fR := C.fr
    have hR2 : (kR K).locals = lO := C.lo
    have hrun := va_runU (p := kp K) (e := ke K) (R := kR K) (s := ks K) (m := km K) (args := ka K) (below := kb K) (meth := kme K) (c := kc K) (H := H) (locs := locs) (cells := cells) (slots := slots) (g := F0 (km K) pc ls (stk0.map tv)) (b := b) (As := av.map tv) (rest := stk.map tv) ⟨C.x, C.b, C.ml, C.o, C.ts⟩ hM (va_cwO n C.ts hg rfl rfl rfl h0 hd9 ⟨by rw [hR1]; exact hfr, by rw [hR2]; exact hlo⟩) ⟨FB_of, hrec K H locs cells slots C s, Sit.pre (locs := locs) (cells := cells) (slots := slots) C (WM.cut hsub hget s.1) _⟩ rfl (by rw [List.length_map]; exact hn) w.1 (av_stk av hstk) (lv_room (tc_sum hroom)) hd hroom9
    intro T hT X
    obtain ⟨v, st₀, t, T', L, h0, X', hL, e1, e2, hq, go⟩ := hrun T hT X
    exact ⟨v, st₀, t, T', L, h0, X', hL, e1, hq, go⟩
theorem r_callA (n : Nat) (av : List Tv) {c : Nat} {rc : vw_C} {o : Option Nat} (hcl : clA[c]? = some rc) (he : hC st o = some c) {x : MethodName} {owner : String} (h0 : Cond.declares ⟨owner, x.name, x.desc⟩ ∈ lw_tbl) (hc : CtX (nG N) y code maxL ret f' l' sps' σs' st (tr o :: av) r σs1 st1) (hinj : injO N) (hsub : subO N j sps') (hget : getO j σs σs') (hset : setO j σs σs1 σsN)
    (hg : GoodIn lw_all (va_wsU own index rc.1 owner x y (ws_ y code maxL ret))) (hd9 : owner ≠ "java/lang/invoke/MethodHandle" ∧ owner ≠ "java/lang/invoke/VarHandle" ∧ (parseMethodDescriptor x.desc).map (fun d => d.parameters.length) = some n) (hn : av.length = n) (hfr : f' + 1 ≤ fR) (hlo : 8 + (maxL + 11) + l' ≤ lO) (hstk : stk0 = av.reverse ++ tr o :: stk) (hroom : (stk.map tc).sum ≤ 8) (hd : decode cc pc = .ok (.invokevirtual index, 3))
    {stk1 : List Tv} (hs1 : r.toList ++ stk = stk1) (h : AtPc cc own fR lO N σsN st1 (pc + 3) lv stk1) : AtPc cc own fR lO N σs st pc lv stk0 := by
  obtain ⟨b, fs, rfl, -⟩ := hC_o he
  have hrec := rec_ob (N := N) (cc := cc) (own := own) (fR := fR) (lO := lO) (σs := σs) hcl he
  refine r_go (ava := ((tr (some b) :: av).map tv).toArray) hsub.sub (new_of (H := #[]) hsub hget hset hinj) (fun rr => ?_) (fun rr K C H locs cells slots ls s w hroom9 => ?_) hs1 h
  · obtain ⟨⟨p1, p2, p3, -⟩, -⟩ := hc (rr.cut hsub hget)
    exact ⟨⟨p1, p2⟩, rr.paste hsub hset p3⟩
  · have hM := (hc (rr.cut hsub hget)).2 (kl K)
    have hR1 : (kR K).frames = fR := C.fr
    have hR2 : (kR K).locals = lO := C.lo
    have hrun := va_runU (p := kp K) (e := ke K) (R := kR K) (s := ks K) (m := km K) (args := ka K) (below := kb K) (meth := kme K) (c := kc K) (H := H) (locs := locs) (cells := cells) (slots := slots) (g := F0 (km K) pc ls (stk0.map tv)) (b := b) (As := av.map tv) (rest := stk.map tv) ⟨C.x, C.b, C.ml, C.o, C.ts⟩ hM (va_cwA n C.ts hg rfl rfl rfl (C.g.2.1 _ h0 rfl) hd9 ⟨by rw [hR1]; exact hfr, by rw [hR2]; exact hlo⟩) ⟨FB_of, hrec K H locs cells slots C s, Sit.pre (locs := locs) (cells := cells) (slots := slots) C (WM.cut hsub hget s.1) _⟩ rfl (by rw [List.length_map]; exact hn) w.1 (av_stk av hstk) (lv_room (tc_sum hroom)) hd hroom9
    intro T hT X
    obtain ⟨v, st₀, t, T', L, h0, X', hL, e1, e2, hq, go⟩ := hrun T hT X
    exact ⟨v, st₀, t, T', L, h0, X', hL, e1, hq, go⟩
theorem r_callF (n : Nat) (av : List Tv) {c : Nat} {rc : vw_C} {o : Option Nat} (hcl : clA[c]? = some rc) (he : hC st o = some c) {x : MethodName} {cnt : Nat} (hfw : (rc.1, x, y) ∈ fwL) (hc : CtX (nG N) y code maxL ret f' l' sps' σs' st (tr o :: av) r σs1 st1) (hinj : injO N) (hsub : subO N j sps') (hget : getO j σs σs') (hset : setO j σs σs1 σsN)
    (hg : GoodIn lw_all (va_wsF own index rc.1 x y (ws_ y code maxL ret))) (hd9 : x.cls ≠ "java/lang/invoke/MethodHandle" ∧ x.cls ≠ "java/lang/invoke/VarHandle" ∧ (parseMethodDescriptor x.desc).map (fun d => d.parameters.length) = some n) (hn : av.length = n) (hfr : f' + 1 ≤ fR) (hlo : 8 + (maxL + 11) + l' ≤ lO) (hstk : stk0 = av.reverse ++ tr o :: stk) (hroom : (stk.map tc).sum ≤ 8) (hd : decode cc pc = .ok (.invokeinterface index cnt, 5))
    {stk1 : List Tv} (hs1 : r.toList ++ stk = stk1) (h : AtPc cc own fR lO N σsN st1 (pc + 5) lv stk1) : AtPc cc own fR lO N σs st pc lv stk0 := by
  obtain ⟨b, fs, rfl, -⟩ := hC_o he
  have hrec := rec_ob (N := N) (cc := cc) (own := own) (fR := fR) (lO := lO) (σs := σs) hcl he
  refine r_go (ava := ((tr (some b) :: av).map tv).toArray) hsub.sub (new_of (H := #[]) hsub hget hset hinj) (fun rr => ?_) (fun rr K C H locs cells slots ls s w hroom9 => ?_) hs1 h
  · obtain ⟨⟨p1, p2, p3, -⟩, -⟩ := hc (rr.cut hsub hget)
    exact ⟨⟨p1, p2⟩, rr.paste hsub hset p3⟩
  · have hM := (hc (rr.cut hsub hget)).2 (kl K)
    have hR1 : (kR K).frames = fR := C.fr
    have hR2 : (kR K).locals = lO := C.lo
    have hrun := va_runF (p := kp K) (e := ke K) (R := kR K) (s := ks K) (m := km K) (args := ka K) (below := kb K) (meth := kme K) (c := kc K) (H := H) (locs := locs) (cells := cells) (slots := slots) (g := F0 (km K) pc ls (stk0.map tv)) (b := b) (As := av.map tv) (rest := stk.map tv) (C.k.1 c _ hcl).2 ⟨C.x, C.b, C.ml, C.o, C.ts⟩ hM (va_cwF n C.ts hg rfl rfl rfl (C.g.2.2.2.2.2.1 _ hfw) hd9 ⟨by rw [hR1]; exact hfr, by rw [hR2]; exact hlo⟩) ⟨FB_of, hrec K H locs cells slots C s, Sit.pre (locs := locs) (cells := cells) (slots := slots) C (WM.cut hsub hget s.1) _⟩ rfl (by rw [List.length_map]; exact hn) w.1 (av_stk av hstk) (lv_room (tc_sum hroom)) hd hroom9
    intro T hT X
    obtain ⟨v, st₀, t, T', L, h0, X', hL, e1, e2, hq, go⟩ := hrun T hT X
    exact ⟨v, st₀, t, T', L, h0, X', hL, e1, hq, go⟩
theorem r_callSU (n : Nat) (av : List Tv) {c : Nat} {rc : vw_C} {o : Option Nat} (hcl : clA[c]? = some rc) (he : hC st o = some c) (hyn : y.name ≠ "<init>") (hc : CtX (nG N) y code maxL ret f' l' sps' σs' st (tr o :: av) r σs1 st1) (hinj : injO N) (hsub : subO N j sps') (hget : getO j σs σs') (hset : setO j σs σs1 σsN)
    (hg : GoodIn lw_all (va_wsSU own index y (ws_ y code maxL ret))) (hd9 : y.cls ≠ "java/lang/invoke/MethodHandle" ∧ y.cls ≠ "java/lang/invoke/VarHandle" ∧ (parseMethodDescriptor y.desc).map (fun d => d.parameters.length) = some n) (hn : av.length = n) (hfr : f' + 1 ≤ fR) (hlo : 8 + (maxL + 11) + l' ≤ lO) (hstk : stk0 = av.reverse ++ tr o :: stk) (hroom : (stk.map tc).sum ≤ 8) (hd : decode cc pc = .ok (.invokespecial index, 3))
    {stk1 : List Tv} (hs1 : r.toList ++ stk = stk1) (h : AtPc cc own fR lO N σsN st1 (pc + 3) lv stk1) : AtPc cc own fR lO N σs st pc lv stk0 := by
  obtain ⟨b, fs, rfl, -⟩ := hC_o he
  have hrec := rec_ob (N := N) (cc := cc) (own := own) (fR := fR) (lO := lO) (σs := σs) hcl he
  refine r_go (ava := ((tr (some b) :: av).map tv).toArray) hsub.sub (new_of (H := #[]) hsub hget hset hinj) (fun rr => ?_) (fun rr K C H locs cells slots ls s w hroom9 => ?_) hs1 h
  · obtain ⟨⟨p1, p2, p3, -⟩, -⟩ := hc (rr.cut hsub hget)
    exact ⟨⟨p1, p2⟩, rr.paste hsub hset p3⟩
  · have hM := (hc (rr.cut hsub hget)).2 (kl K)
    have hR1 : (kR K).frames = fR := C.fr
    have hR2 : (kR K).locals = lO := C.lo
    have hrun := va_runSU (p := kp K) (e := ke K) (R := kR K) (s := ks K) (m := km K) (args := ka K) (below := kb K) (meth := kme K) (c := kc K) (H := H) (locs := locs) (cells := cells) (slots := slots) (g := F0 (km K) pc ls (stk0.map tv)) (b := b) (As := av.map tv) (rest := stk.map tv) (C.k.1 c _ hcl).2 ⟨C.x, C.b, C.ml, C.o, C.ts⟩ hM (va_cwSU n C.ts hg rfl rfl rfl ⟨hyn, hd9.2.2⟩ ⟨by rw [hR1]; exact hfr, by rw [hR2]; exact hlo⟩) ⟨FB_of, hrec K H locs cells slots C s, Sit.pre (locs := locs) (cells := cells) (slots := slots) C (WM.cut hsub hget s.1) _⟩ rfl (by rw [List.length_map]; exact hn) w.1 (av_stk av hstk) (lv_room (tc_sum hroom)) hd hroom9
    intro T hT X
    obtain ⟨v, st₀, t, T', L, h0, X', hL, e1, e2, hq, go⟩ := hrun T hT X
    exact ⟨v, st₀, t, T', L, h0, X', hL, e1, hq, go⟩
end CALL
end RW
