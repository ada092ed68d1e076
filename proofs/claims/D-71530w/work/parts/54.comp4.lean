/-! the class with what it needs: functions and walks, printed by gen/run0.py -/
set_option maxRecDepth 100000
theorem fP_X8_7i : FldP RX8 7 [(8, 0)] (.object "DictProof$Term") true := List.forall_mem_cons.mpr ⟨⟨RX8, TX8, 2, "DictProof$Part", tyX8, rfl, in_X8, by decide, q495, Or.inl rfl, tyX8_ok, nmX8, rfl, Or.inr ⟨rfl, rfl, rfl⟩, by decide⟩, fun _ h => absurd h List.not_mem_nil⟩
theorem fP_X8_13i : FldP RX8 13 [(8, 1)] .int true := List.forall_mem_cons.mpr ⟨⟨RX8, TX8, 2, "DictProof$Part", tyX8, rfl, in_X8, by decide, q497, Or.inl rfl, tyX8_ok, nmX8, rfl, Or.inr ⟨rfl, rfl, rfl⟩, by decide⟩, fun _ h => absurd h List.not_mem_nil⟩
def fX8_init  (h : hS) (o0 : Option Nat) (o1 : Option Nat) (a2 : Int) : Option (hS) := gd (¬ o0 = none) (bd (hW h o0 [(8, 0)] (vq o1)) fun h2 => bd (hW h2 o0 [(8, 1)] (vi a2)) fun h5 => some h5)
theorem kX8_init {G : Gx}  {h' : hS} {h : hS} {o0 : Option Nat} {o1 : Option Nat} {a2 : Int}  (ha2 : rI a2) (e : fX8_init h o0 o1 a2 = some (h')) : CtX G yX8_init cX8_init 3 none 1 20 [] [] h [tr o0, tr o1, ti a2] none [] h' := by
  refine CtX.of (by decide) (Nat.le_of_ble_eq_true rfl) [(0, tr o0), (1, tr o1), (2, ti a2)] rfl ?_
  have E : EndX (G, 3, [], h, [], h', none, none, yX8_init.name) [] 3 none none [] h' := ⟨rfl, rfl, rfl, rfl, rfl, rfl⟩
  unfold fX8_init at e
  refine r_rrs E.p (fun rr => ?_)
  refine r_aload_n dX8_init_0 rfl 0 rfl ?_
  obtain ⟨g1, e⟩ := gd_o e
  refine r_objInitO g1 q494 q150 q151 (Nat.le_of_ble_eq_true rfl) (Nat.le_of_ble_eq_true rfl) (Nat.le_of_ble_eq_true rfl) dX8_init_1 ?_
  refine r_aload_n dX8_init_4 rfl 0 rfl ?_
  refine r_aload_n dX8_init_5 rfl 1 rfl ?_
  obtain ⟨h2, q3, e⟩ := bd_o e
  refine r_put (v := vq o1) fP_X8_7i (by first | exact fun q => absurd q (by decide) | exact fun _ => rfl) trivial q3 dX8_init_6 ?_
  refine r_rrs E.p (fun rr4 => ?_)
  refine r_aload_n dX8_init_9 rfl 0 rfl ?_
  refine r_iload_n dX8_init_10 rfl 2 rfl ?_
  obtain ⟨h5, q6, e⟩ := bd_o e
  refine r_put (v := vi a2) fP_X8_13i (by first | exact fun q => absurd q (by decide) | exact fun _ => rfl) ha2 q6 dX8_init_11 ?_
  refine r_rrs E.p (fun rr7 => ?_)
  cases e
  exact r_vret E.σ E.st E.rt E.r dX8_init_14
def fX7_variable_b21 (h : hS) (k0 : Int) : Option (Int) := some k0
theorem wX7_variable_b21 {N : Nx} {h : hS} {r : Int} (E : EndX N [] 1 (some .int) (some (ti r)) [] h)  (k0 : Int) (hk0 : rI k0) (e : fX7_variable_b21 h k0 = some (r)) : AtPc cX7_variable RX7 1 20 N [] h 21 [] [ti k0] := by
  unfold fX7_variable_b21 at e
  refine r_rrs E.p (fun rr => ?_)
  cases e
  exact r_iret E.σ E.st E.rt E.r hk0 dX7_variable_21
def fX7_variable  (h : hS) (o0 : Option Nat) : Option (Int) := bd (hI h o0 [(7, 0)]) fun v1 => bd (fX0_isVariableSign v1) fun p3 => if p3 = 0 then fX7_variable_b21 h (-1) else bd (hI h o0 [(7, 0)]) fun v8 => fX7_variable_b21 h (wr (v8 - 120))
theorem kX7_variable {G : Gx}  {h : hS} {r : Int} {o0 : Option Nat}   (e : fX7_variable h o0 = some (r)) : CtX G yX7_variable cX7_variable 1 (some .int) 1 20 [] [] h [tr o0] (some (ti r)) [] h := by
  refine CtX.of (by decide) (Nat.le_of_ble_eq_true rfl) [(0, tr o0)] rfl ?_
  have E : EndX (G, 1, [], h, [], h, (some .int), (some (ti r)), yX7_variable.name) [] 1 (some .int) (some (ti r)) [] h := ⟨rfl, rfl, rfl, rfl, rfl, rfl⟩
  unfold fX7_variable at e
  refine r_rrs E.p (fun rr => ?_)
  refine r_aload_n dX7_variable_0 rfl 0 rfl ?_
  obtain ⟨v1, q2, e⟩ := bd_o e
  refine r_getI fG_X7_9 q2 dX7_variable_1 ?_
  obtain ⟨p3, q4, e⟩ := bd_o e
  have k5 := kX0_isVariableSign (G := G) (h := h) (hI_r rr q2) q4
  have z6 := (k5 rr).1.2.2.2
  refine r_callSN (j := none) 1 [ti v1] (host := "DictProof") k5 (injO_0 E.p) subO_0 getO_0 setO_0 q433 q115 q518 q432 (by decide +kernel) rfl (Nat.le_of_ble_eq_true rfl) (Nat.le_of_ble_eq_true rfl) rfl (Nat.le_of_ble_eq_true rfl) dX7_variable_4 rfl ?_
  have eT := (r_ifo e).1
  have eF := (r_ifo e).2
  refine r_if_eq (rI_z z6) 20 dX7_variable_7 (by decide) (fun c7 => ?_) (fun c7 => ?_)
  · have e := eT c7
    refine r_iconst dX7_variable_20 ?_
    refine r_sub [] rfl ?_
    exact wX7_variable_b21 E (-1) (by decide) e
  · have e := eF c7
    refine r_aload_n dX7_variable_10 rfl 0 rfl ?_
    obtain ⟨v8, q9, e⟩ := bd_o e
    refine r_getI fG_X7_9 q9 dX7_variable_11 ?_
    refine r_bipush dX7_variable_14 (by decide) ?_
    refine r_isub dX7_variable_16 ?_
    refine r_goto 21 dX7_variable_17 (by decide) ?_
    refine r_sub [] rfl ?_
    exact wX7_variable_b21 E (wr (v8 - 120)) (wr_r _) e
def fX0_nameOf_b18 (h : hS) (k0 : Int) : Option (Int) := some k0
theorem wX0_nameOf_b18 {N : Nx} {h : hS} {r : Int} (E : EndX N [] 2 (some .int) (some (ti r)) [] h)  (k0 : Int) (hk0 : rI k0) (e : fX0_nameOf_b18 h k0 = some (r)) : AtPc cX0_nameOf RX0 2 40 N [] h 18 [] [ti k0] := by
  unfold fX0_nameOf_b18 at e
  refine r_rrs E.p (fun rr => ?_)
  cases e
  exact r_iret E.σ E.st E.rt E.r hk0 dX0_nameOf_18
def fX0_nameOf  (h : hS) (o0 : Option Nat) (a1 : Int) : Option (Int) := gd (hC h o0 = some 7) (bd (fX7_variable h o0) fun p1 => if ¬ p1 = (-1) then gd (hC h o0 = some 7) (bd (fX7_variable h o0) fun p7 => fX0_nameOf_b18 h (wr (p7 + a1))) else fX0_nameOf_b18 h (-1))
theorem kX0_nameOf {G : Gx}  {h : hS} {r : Int} {o0 : Option Nat} {a1 : Int}  (ha1 : rI a1) (e : fX0_nameOf h o0 a1 = some (r)) : CtX G yX0_nameOf cX0_nameOf 2 (some .int) 2 40 [] [] h [tr o0, ti a1] (some (ti r)) [] h := by
  refine CtX.of (by decide) (Nat.le_of_ble_eq_true rfl) [(0, tr o0), (1, ti a1)] rfl ?_
  have E : EndX (G, 2, [], h, [], h, (some .int), (some (ti r)), yX0_nameOf.name) [] 2 (some .int) (some (ti r)) [] h := ⟨rfl, rfl, rfl, rfl, rfl, rfl⟩
  unfold fX0_nameOf at e
  refine r_rrs E.p (fun rr => ?_)
  refine r_aload_n dX0_nameOf_0 rfl 0 rfl ?_
  obtain ⟨g3, e⟩ := gd_o e
  obtain ⟨p1, q2, e⟩ := bd_o e
  have k4 := kX7_variable (G := G)  q2
  have z5 := (k4 rr).1.2.2.2
  refine r_callVo (j := none) 0 [] (c := 7) (rc := (RX7, TX7, 3)) rfl g3 rfl k4 (injO_0 E.p) subO_0 getO_0 setO_0 (lw_V q514 q515 q516 q124 q517) (by decide +kernel) rfl (Nat.le_of_ble_eq_true rfl) (Nat.le_of_ble_eq_true rfl) rfl (Nat.le_of_ble_eq_true rfl) dX0_nameOf_1 rfl ?_
  refine r_iconst dX0_nameOf_4 ?_
  have eT := (r_ifo e).1
  have eF := (r_ifo e).2
  refine r_icmp_ne z5 (by decide) 12 dX0_nameOf_5 (by decide) (fun c6 => ?_) (fun c6 => ?_)
  · have e := eT c6
    refine r_aload_n dX0_nameOf_12 rfl 0 rfl ?_
    obtain ⟨g9, e⟩ := gd_o e
    obtain ⟨p7, q8, e⟩ := bd_o e
    have k10 := kX7_variable (G := G)  q8
    have z11 := (k10 rr).1.2.2.2
    refine r_callVo (j := none) 0 [] (c := 7) (rc := (RX7, TX7, 3)) rfl g9 rfl k10 (injO_0 E.p) subO_0 getO_0 setO_0 (lw_V q514 q515 q516 q124 q517) (by decide +kernel) rfl (Nat.le_of_ble_eq_true rfl) (Nat.le_of_ble_eq_true rfl) rfl (Nat.le_of_ble_eq_true rfl) dX0_nameOf_13 rfl ?_
    refine r_iload_n dX0_nameOf_16 rfl 1 rfl ?_
    refine r_iadd dX0_nameOf_17 ?_
    refine r_sub [] rfl ?_
    exact wX0_nameOf_b18 E (wr (p7 + a1)) (wr_r _) e
  · have e := eF c6
    refine r_iconst dX0_nameOf_8 ?_
    refine r_goto 18 dX0_nameOf_9 (by decide) ?_
    refine r_sub [] rfl ?_
    exact wX0_nameOf_b18 E (-1) (by decide) e
theorem fG_X8_7 : FldG RX8 7 [(8, 0)] := List.forall_mem_cons.mpr ⟨⟨RX8, TX8, 2, "DictProof$Part", rfl, in_X8, by decide, q495, Or.inl rfl⟩, fun _ h => absurd h List.not_mem_nil⟩
theorem fG_X8_13 : FldG RX8 13 [(8, 1)] := List.forall_mem_cons.mpr ⟨⟨RX8, TX8, 2, "DictProof$Part", rfl, in_X8, by decide, q497, Or.inl rfl⟩, fun _ h => absurd h List.not_mem_nil⟩
def fX8_name  (h : hS) (o0 : Option Nat) : Option (Int) := bd (hQ h o0 [(8, 0)]) fun v1 => bd (hI h o0 [(8, 1)]) fun v3 => bd (fX0_nameOf h v1 v3) fun p5 => some p5
theorem kX8_name {G : Gx}  {h : hS} {r : Int} {o0 : Option Nat}   (e : fX8_name h o0 = some (r)) : CtX G yX8_name cX8_name 1 (some .int) 3 61 [] [] h [tr o0] (some (ti r)) [] h := by
  refine CtX.of (by decide) (Nat.le_of_ble_eq_true rfl) [(0, tr o0)] rfl ?_
  have E : EndX (G, 1, [], h, [], h, (some .int), (some (ti r)), yX8_name.name) [] 1 (some .int) (some (ti r)) [] h := ⟨rfl, rfl, rfl, rfl, rfl, rfl⟩
  unfold fX8_name at e
  refine r_rrs E.p (fun rr => ?_)
  refine r_aload_n dX8_name_0 rfl 0 rfl ?_
  obtain ⟨v1, q2, e⟩ := bd_o e
  refine r_getQ fG_X8_7 q2 dX8_name_1 ?_
  refine r_aload_n dX8_name_4 rfl 0 rfl ?_
  obtain ⟨v3, q4, e⟩ := bd_o e
  refine r_getI fG_X8_13 q4 dX8_name_5 ?_
  obtain ⟨p5, q6, e⟩ := bd_o e
  have k7 := kX0_nameOf (G := G) (hI_r rr q4) q6
  have z8 := (k7 rr).1.2.2.2
  refine r_callSN (j := none) 2 [tr v1, ti v3] (host := "DictProof") k7 (injO_0 E.p) subO_0 getO_0 setO_0 q513 q115 q511 q512 (by decide +kernel) rfl (Nat.le_of_ble_eq_true rfl) (Nat.le_of_ble_eq_true rfl) rfl (Nat.le_of_ble_eq_true rfl) dX8_name_8 rfl ?_
  cases e
  exact r_iret E.σ E.st E.rt E.r z8 dX8_name_11
theorem cst_4 : cstOK "DictProof$Part" [8] := List.forall_mem_cons.mpr ⟨⟨(RX8, TX8, 2), rfl, Or.inl rfl⟩, fun _ h => absurd h List.not_mem_nil⟩
def fX0_rooted_b42 (gs : Option Nat × Option Nat) (h : hS) (o2 : Option Nat) : Option (Option Nat) := some o2
theorem wX0_rooted_b42 {N : Nx} {h : hS} {r : Option Nat} (E : EndX N [] 3 (some (.object "DictProof$Part")) (some (tr r)) [] h)  (o2 : Option Nat) (e : fX0_rooted_b42 (nG N).2.2.2 h o2 = some (r)) : AtPc cX0_rooted RX0 22 497 N [] h 42 [(2, tr o2)] [] := by
  unfold fX0_rooted_b42 at e
  refine r_rrs E.p (fun rr => ?_)
  refine r_aload_n dX0_rooted_42 rfl 0 rfl ?_
  cases e
  exact r_aret E.σ E.st E.rt (by first | exact Or.inl ⟨_, rfl⟩ | exact Or.inr ⟨_, rfl⟩) E.r dX0_rooted_43
def fX0_rooted_b2 (K2 : Option Nat × Option Nat → hS → Option Nat → Option Nat → Option (Option Nat)) (gs : Option Nat × Option Nat) (h : hS) (o1 : Option Nat) (o2 : Option Nat) : Option (Option Nat) := gd (hC h o2 = some 8) (bd (fX8_name h o2) fun p1 => if p1 = (-1) then fX0_rooted_b42 gs h o2 else gd (hC h o2 = some 8) (bd (fX8_name h o2) fun p7 => bd (fJ3_valueOf gs h p7) fun p12 => gd (hC h o1 = some 11) (bd (fJ1_get h o1 p12) fun p16 => ifN p16 (fX0_rooted_b42 gs h o2) (fun _ => gd (hC h o2 = some 8) (bd (fX8_name h o2) fun p23 => bd (fJ3_valueOf gs h p23) fun p28 => gd (hC h o1 = some 11) (bd (fJ1_get h o1 p28) fun p32 => gd (p32 = none ∨ inC h p32 [8] = true) (K2 gs h o1 p32)))))))
theorem wX0_rooted_b2 {N : Nx} {h : hS} {r : Option Nat} (E : EndX N [] 3 (some (.object "DictProof$Part")) (some (tr r)) [] h) (K2 : Option Nat × Option Nat → hS → Option Nat → Option Nat → Option (Option Nat)) (hK2 : ∀ (o1 : Option Nat) (o2 : Option Nat), K2 (nG N).2.2.2 h o1 o2 = some (r) → AtPc cX0_rooted RX0 22 497 N [] h 2 [(1, tr o1), (2, tr o2)] []) (o1 : Option Nat) (o2 : Option Nat) (e : fX0_rooted_b2 K2 (nG N).2.2.2 h o1 o2 = some (r)) : AtPc cX0_rooted RX0 22 497 N [] h 2 [(1, tr o1), (2, tr o2)] [] := by
  unfold fX0_rooted_b2 at e
  refine r_rrs E.p (fun rr => ?_)
  refine r_aload_n dX0_rooted_2 rfl 1 rfl ?_
  obtain ⟨g3, e⟩ := gd_o e
  obtain ⟨p1, q2, e⟩ := bd_o e
  have k4 := kX8_name (G := nG N)  q2
  have z5 := (k4 rr).1.2.2.2
  refine r_callVo (j := none) 0 [] (c := 8) (rc := (RX8, TX8, 2)) rfl g3 rfl k4 (injO_0 E.p) subO_0 getO_0 setO_0 (lw_V q507 q508 q509 q125 q510) (by decide +kernel) rfl (Nat.le_of_ble_eq_true rfl) (Nat.le_of_ble_eq_true rfl) rfl (Nat.le_of_ble_eq_true rfl) dX0_rooted_3 rfl ?_
  refine r_iconst dX0_rooted_6 ?_
  have eT := (r_ifo e).1
  have eF := (r_ifo e).2
  refine r_icmp_eq z5 (by decide) 42 dX0_rooted_7 (by decide) (fun c6 => ?_) (fun c6 => ?_)
  · have e := eT c6
    refine r_sub [1] rfl ?_
    exact wX0_rooted_b42 E o2 e
  · have e := eF c6
    refine r_aload_n dX0_rooted_10 rfl 0 rfl ?_
    refine r_aload_n dX0_rooted_11 rfl 1 rfl ?_
    obtain ⟨g9, e⟩ := gd_o e
    obtain ⟨p7, q8, e⟩ := bd_o e
    have k10 := kX8_name (G := nG N)  q8
    have z11 := (k10 rr).1.2.2.2
    refine r_callVo (j := none) 0 [] (c := 8) (rc := (RX8, TX8, 2)) rfl g9 rfl k10 (injO_0 E.p) subO_0 getO_0 setO_0 (lw_V q507 q508 q509 q125 q510) (by decide +kernel) rfl (Nat.le_of_ble_eq_true rfl) (Nat.le_of_ble_eq_true rfl) rfl (Nat.le_of_ble_eq_true rfl) dX0_rooted_12 rfl ?_
    obtain ⟨p12, q13, e⟩ := bd_o e
    have k14 := kJ3_valueOf (G := nG N) z11 q13
    have z15 := (k14 rr).1.2.2.2
    refine r_callS (j := none) 1 [ti p7] k14 (injO_0 E.p) subO_0 getO_0 setO_0 (lw_S q519 q520 q127 q521) (by decide +kernel) rfl (Nat.le_of_ble_eq_true rfl) (Nat.le_of_ble_eq_true rfl) rfl (Nat.le_of_ble_eq_true rfl) dX0_rooted_15 rfl ?_
    obtain ⟨g18, e⟩ := gd_o e
    obtain ⟨p16, q17, e⟩ := bd_o e
    have k19 := kJ1_get (G := nG N)  q17
    have z20 := (k19 rr).1.2.2.2
    refine r_callVo (j := none) 1 [tr p12] (c := 11) (rc := (RJ1, TJ1, 8)) rfl g18 rfl k19 (injO_0 E.p) subO_0 getO_0 setO_0 (lw_V q539 q540 q541 q122 q542) (by decide +kernel) rfl (Nat.le_of_ble_eq_true rfl) (Nat.le_of_ble_eq_true rfl) rfl (Nat.le_of_ble_eq_true rfl) dX0_rooted_18 rfl ?_
    have eT := (r_ifno e).1
    have eF := (r_ifno e).2
    refine r_ifnull 42 dX0_rooted_21 (by decide) (fun c21 => ?_) (fun x22 c21 => ?_)
    · have e := eT c21
      refine r_sub [1] rfl ?_
      exact wX0_rooted_b42 E o2 e
    · have e := eF x22 c21
      refine r_aload_n dX0_rooted_24 rfl 0 rfl ?_
      refine r_aload_n dX0_rooted_25 rfl 1 rfl ?_
      obtain ⟨g25, e⟩ := gd_o e
      obtain ⟨p23, q24, e⟩ := bd_o e
      have k26 := kX8_name (G := nG N)  q24
      have z27 := (k26 rr).1.2.2.2
      refine r_callVo (j := none) 0 [] (c := 8) (rc := (RX8, TX8, 2)) rfl g25 rfl k26 (injO_0 E.p) subO_0 getO_0 setO_0 (lw_V q507 q508 q509 q125 q510) (by decide +kernel) rfl (Nat.le_of_ble_eq_true rfl) (Nat.le_of_ble_eq_true rfl) rfl (Nat.le_of_ble_eq_true rfl) dX0_rooted_26 rfl ?_
      obtain ⟨p28, q29, e⟩ := bd_o e
      have k30 := kJ3_valueOf (G := nG N) z27 q29
      have z31 := (k30 rr).1.2.2.2
      refine r_callS (j := none) 1 [ti p23] k30 (injO_0 E.p) subO_0 getO_0 setO_0 (lw_S q519 q520 q127 q521) (by decide +kernel) rfl (Nat.le_of_ble_eq_true rfl) (Nat.le_of_ble_eq_true rfl) rfl (Nat.le_of_ble_eq_true rfl) dX0_rooted_29 rfl ?_
      obtain ⟨g34, e⟩ := gd_o e
      obtain ⟨p32, q33, e⟩ := bd_o e
      have k35 := kJ1_get (G := nG N)  q33
      have z36 := (k35 rr).1.2.2.2
      refine r_callVo (j := none) 1 [tr p28] (c := 11) (rc := (RJ1, TJ1, 8)) rfl g34 rfl k35 (injO_0 E.p) subO_0 getO_0 setO_0 (lw_V q539 q540 q541 q122 q542) (by decide +kernel) rfl (Nat.le_of_ble_eq_true rfl) (Nat.le_of_ble_eq_true rfl) rfl (Nat.le_of_ble_eq_true rfl) dX0_rooted_32 rfl ?_
      obtain ⟨g37, e⟩ := gd_o e
      refine r_cast cst_4 q489 (inC_p g37) dX0_rooted_35 ?_
      refine r_astore_n (lv' := [(2, tr p32), (1, tr o1)]) dX0_rooted_38 rfl (E.lt (by decide)) rfl ?_
      refine r_goto 2 dX0_rooted_39 (by decide) ?_
      refine r_sub [1, 0] rfl ?_
      exact hK2 o1 p32 e
def fX0_rooted_L2  : Nat → Option Nat × Option Nat → hS → Option Nat → Option Nat → Option (Option Nat)
  | 0, _, _, _, _ => none
  | n9 + 1, gs, h, o1, o2 => fX0_rooted_b2 (fX0_rooted_L2 n9) gs h o1 o2
theorem wX0_rooted_L2 {N : Nx} {h : hS} {r : Option Nat} (E : EndX N [] 3 (some (.object "DictProof$Part")) (some (tr r)) [] h)  : ∀ (n9 : Nat), ∀ (o1 : Option Nat) (o2 : Option Nat), fX0_rooted_L2 n9 (nG N).2.2.2 h o1 o2 = some (r) → AtPc cX0_rooted RX0 22 497 N [] h 2 [(1, tr o1), (2, tr o2)] [] := by
  intro n9
  induction n9 with
  | zero => intro o1 o2 e; cases e
  | succ n9 ih => intro o1 o2 e; exact wX0_rooted_b2 E _ ih o1 o2 e
def fX0_rooted  (gs : Option Nat × Option Nat) (h : hS) (o0 : Option Nat) (o1 : Option Nat) : Option (Option Nat) := fX0_rooted_L2 FU gs h o1 o0
theorem kX0_rooted {G : Gx}  {h : hS} {r : Option Nat} {o0 : Option Nat} {o1 : Option Nat}   (e : fX0_rooted G.2.2.2 h o0 o1 = some (r)) : CtX G yX0_rooted cX0_rooted 3 (some (.object "DictProof$Part")) 22 497 [] [] h [tr o0, tr o1] (some (tr r)) [] h := by
  refine CtX.of (by decide) (Nat.le_of_ble_eq_true rfl) [(0, tr o0), (1, tr o1)] rfl ?_
  have E : EndX (G, 3, [], h, [], h, (some (.object "DictProof$Part")), (some (tr r)), yX0_rooted.name) [] 3 (some (.object "DictProof$Part")) (some (tr r)) [] h := ⟨rfl, rfl, rfl, rfl, rfl, rfl⟩
  unfold fX0_rooted at e
  refine r_rrs E.p (fun rr => ?_)
  refine r_aload_n dX0_rooted_0 rfl 0 rfl ?_
  refine r_astore_n (lv' := [(2, tr o0), (0, tr o0), (1, tr o1)]) dX0_rooted_1 rfl (E.lt (by decide)) rfl ?_
  refine r_sub [2, 0] rfl ?_
  exact wX0_rooted_L2 E FU o1 o0 e
theorem fG_X0_61 : FldG RX0 61 [(8, 0)] := List.forall_mem_cons.mpr ⟨⟨RX8, TX8, 2, "DictProof$Part", rfl, in_X8, by decide, q496, Or.inl rfl⟩, fun _ h => absurd h List.not_mem_nil⟩
theorem fG_X0_25 : FldG RX0 25 [(7, 1)] := List.forall_mem_cons.mpr ⟨⟨RX7, TX7, 3, "DictProof$Term", rfl, in_X7, by decide, q472, Or.inl rfl⟩, fun _ h => absurd h List.not_mem_nil⟩
theorem fG_X0_64 : FldG RX0 64 [(8, 1)] := List.forall_mem_cons.mpr ⟨⟨RX8, TX8, 2, "DictProof$Part", rfl, in_X8, by decide, q498, Or.inl rfl⟩, fun _ h => absurd h List.not_mem_nil⟩
theorem fG_X0_33 : FldG RX0 33 [(7, 2)] := List.forall_mem_cons.mpr ⟨⟨RX7, TX7, 3, "DictProof$Term", rfl, in_X7, by decide, q474, Or.inl rfl⟩, fun _ h => absurd h List.not_mem_nil⟩
def fX0_isInside_b44 (R9 : Option Nat × Option Nat → hS → Int → Option Nat → Int → Option Nat → Option (Int × hS)) (gs : Option Nat × Option Nat) (h : hS) (k0 : Int) : Option (Int × hS) := gd (k0 = 0 ∨ k0 = 1) (some (k0, h))
theorem wX0_isInside_b44 {N : Nx} {h' : hS} {r : Int} (d9 : Nat) (R9 : Option Nat × Option Nat → hS → Int → Option Nat → Int → Option Nat → Option (Int × hS)) (hR9 : ∀  {h' : hS} {r : Int} {h : hS} {a0 : Int} {o1 : Option Nat} {a2 : Int} {o3 : Option Nat} (ha0 : rI a0) (ha2 : rI a2), R9 (nG N).2.2.2 h a0 o1 a2 o3 = some (r, h') → CtX (nG N) yX0_isInside cX0_isInside 5 (some .boolean) (d9 + 23) (24 * d9 + 519) [] [] h [ti a0, tr o1, ti a2, tr o3] (some (ti r)) [] h') (E : EndX N [] 5 (some .boolean) (some (ti r)) [] h')  (h : hS) (k0 : Int) (hk0 : rI k0) (e : fX0_isInside_b44 R9 (nG N).2.2.2 h k0 = some (r, h')) : AtPc cX0_isInside RX0 ((d9 + 1) + 23) (24 * (d9 + 1) + 519) N [] h 44 [] [ti k0] := by
  unfold fX0_isInside_b44 at e
  refine r_rrs E.p (fun rr => ?_)
  obtain ⟨g1, e⟩ := gd_o e
  cases e
  exact r_zret E.σ E.st E.rt E.r g1 dX0_isInside_44
def fX0_isInside_b92 (R9 : Option Nat × Option Nat → hS → Int → Option Nat → Int → Option Nat → Option (Int × hS)) (gs : Option Nat × Option Nat) (h : hS) (k0 : Int) : Option (Int × hS) := gd (k0 = 0 ∨ k0 = 1) (some (k0, h))
theorem wX0_isInside_b92 {N : Nx} {h' : hS} {r : Int} (d9 : Nat) (R9 : Option Nat × Option Nat → hS → Int → Option Nat → Int → Option Nat → Option (Int × hS)) (hR9 : ∀  {h' : hS} {r : Int} {h : hS} {a0 : Int} {o1 : Option Nat} {a2 : Int} {o3 : Option Nat} (ha0 : rI a0) (ha2 : rI a2), R9 (nG N).2.2.2 h a0 o1 a2 o3 = some (r, h') → CtX (nG N) yX0_isInside cX0_isInside 5 (some .boolean) (d9 + 23) (24 * d9 + 519) [] [] h [ti a0, tr o1, ti a2, tr o3] (some (ti r)) [] h') (E : EndX N [] 5 (some .boolean) (some (ti r)) [] h')  (h : hS) (k0 : Int) (hk0 : rI k0) (e : fX0_isInside_b92 R9 (nG N).2.2.2 h k0 = some (r, h')) : AtPc cX0_isInside RX0 ((d9 + 1) + 23) (24 * (d9 + 1) + 519) N [] h 92 [] [ti k0] := by
  unfold fX0_isInside_b92 at e
  refine r_rrs E.p (fun rr => ?_)
  obtain ⟨g1, e⟩ := gd_o e
  cases e
  exact r_zret E.σ E.st E.rt E.r g1 dX0_isInside_92
def fX0_isInside_b87 (R9 : Option Nat × Option Nat → hS → Int → Option Nat → Int → Option Nat → Option (Int × hS)) (gs : Option Nat × Option Nat) (h : hS) : Option (Int × hS) := fX0_isInside_b92 R9 gs h 1
theorem wX0_isInside_b87 {N : Nx} {h' : hS} {r : Int} (d9 : Nat) (R9 : Option Nat × Option Nat → hS → Int → Option Nat → Int → Option Nat → Option (Int × hS)) (hR9 : ∀  {h' : hS} {r : Int} {h : hS} {a0 : Int} {o1 : Option Nat} {a2 : Int} {o3 : Option Nat} (ha0 : rI a0) (ha2 : rI a2), R9 (nG N).2.2.2 h a0 o1 a2 o3 = some (r, h') → CtX (nG N) yX0_isInside cX0_isInside 5 (some .boolean) (d9 + 23) (24 * d9 + 519) [] [] h [ti a0, tr o1, ti a2, tr o3] (some (ti r)) [] h') (E : EndX N [] 5 (some .boolean) (some (ti r)) [] h')  (h : hS) (e : fX0_isInside_b87 R9 (nG N).2.2.2 h = some (r, h')) : AtPc cX0_isInside RX0 ((d9 + 1) + 23) (24 * (d9 + 1) + 519) N [] h 87 [] [] := by
  unfold fX0_isInside_b87 at e
  refine r_rrs E.p (fun rr => ?_)
  refine r_iconst dX0_isInside_87 ?_
  refine r_goto 92 dX0_isInside_88 (by decide) ?_
  exact wX0_isInside_b92 d9 R9 hR9 E h 1 (by decide) e
def fX0_isInside_B (R9 : Option Nat × Option Nat → hS → Int → Option Nat → Int → Option Nat → Option (Int × hS)) (gs : Option Nat × Option Nat) (h : hS) (a0 : Int) (o1 : Option Nat) (a2 : Int) (o3 : Option Nat) : Option (Int × hS) := ifN o1 (some (0, h)) (fun _ => bd (nwS h 8 [vq none, vi 0]) fun p3 => bd (fX8_init p3.2 (some p3.1) o1 a2) fun p6 => bd (fX0_rooted gs p6 (some p3.1) o3) fun p11 => gd (hC p6 p11 = some 8) (bd (fX8_name p6 p11) fun p15 => if p15 = (-1) then bd (hQ p6 p11 [(8, 0)]) fun v21 => bd (hQ p6 v21 [(7, 1)]) fun v23 => bd (hI p6 p11 [(8, 1)]) fun v25 => bd (R9 gs p6 a0 v23 v25 o3) fun p27 => if ¬ p27.1 = 0 then fX0_isInside_b87 R9 gs p27.2 else bd (hQ p27.2 p11 [(8, 0)]) fun v33 => bd (hQ p27.2 v33 [(7, 2)]) fun v35 => bd (hI p27.2 p11 [(8, 1)]) fun v37 => bd (R9 gs p27.2 a0 v35 v37 o3) fun p39 => if p39.1 = 0 then fX0_isInside_b92 R9 gs p39.2 0 else fX0_isInside_b87 R9 gs p39.2 else gd (hC p6 p11 = some 8) (bd (fX8_name p6 p11) fun p45 => if ¬ p45 = a0 then fX0_isInside_b44 R9 gs p6 0 else fX0_isInside_b44 R9 gs p6 1)))
theorem kX0_isInside_B {G : Gx}  {h' : hS} {r : Int} {h : hS} {a0 : Int} {o1 : Option Nat} {a2 : Int} {o3 : Option Nat} (d9 : Nat) (R9 : Option Nat × Option Nat → hS → Int → Option Nat → Int → Option Nat → Option (Int × hS)) (hR9 : ∀  {h' : hS} {r : Int} {h : hS} {a0 : Int} {o1 : Option Nat} {a2 : Int} {o3 : Option Nat} (ha0 : rI a0) (ha2 : rI a2), R9 G.2.2.2 h a0 o1 a2 o3 = some (r, h') → CtX G yX0_isInside cX0_isInside 5 (some .boolean) (d9 + 23) (24 * d9 + 519) [] [] h [ti a0, tr o1, ti a2, tr o3] (some (ti r)) [] h') (ha0 : rI a0) (ha2 : rI a2) (e : fX0_isInside_B R9 G.2.2.2 h a0 o1 a2 o3 = some (r, h')) : CtX G yX0_isInside cX0_isInside 5 (some .boolean) ((d9 + 1) + 23) (24 * (d9 + 1) + 519) [] [] h [ti a0, tr o1, ti a2, tr o3] (some (ti r)) [] h' := by
  refine CtX.of (by decide) (Nat.le_of_ble_eq_true rfl) [(0, ti a0), (1, tr o1), (2, ti a2), (3, tr o3)] rfl ?_
  have E : EndX (G, 5, [], h, [], h', (some .boolean), (some (ti r)), yX0_isInside.name) [] 5 (some .boolean) (some (ti r)) [] h' := ⟨rfl, rfl, rfl, rfl, rfl, rfl⟩
  unfold fX0_isInside_B at e
  refine r_rrs E.p (fun rr => ?_)
  refine r_aload_n dX0_isInside_0 rfl 1 rfl ?_
  have eT := (r_ifno e).1
  have eF := (r_ifno e).2
  refine r_ifnonnull 6 dX0_isInside_1 (by decide) (fun c1 => ?_) (fun x2 c1 => ?_)
  · have e := eT c1
    refine r_iconst dX0_isInside_4 ?_
    cases e
    exact r_zret E.σ E.st E.rt E.r (Or.inl rfl) dX0_isInside_5
  · have e := eF x2 c1
    obtain ⟨p3, q4, e⟩ := bd_o e
    refine r_newS [vq none, vi 0] q4 rfl in_X8 tyX8_ok q489 q490 q125 (by decide +kernel) rfl (by decide +kernel) dX0_isInside_6 ?_
    refine r_rrs E.p (fun rr5 => ?_)
    refine r_dup dX0_isInside_9 rfl ?_
    refine r_aload_n dX0_isInside_10 rfl 1 rfl ?_
    refine r_iload_n dX0_isInside_11 rfl 2 rfl ?_
    obtain ⟨p6, q7, e⟩ := bd_o e
    have k8 := kX8_init (G := G) ha2 q7
    have z9 := (k8 rr5).1.2.2.2
    refine r_callIo (j := none) 2 [tr o1, ti a2] (fun q => by cases q) rfl rfl k8 (injO_0 E.p) subO_0 getO_0 setO_0 q493 q125 q491 q492 (by decide +kernel) rfl (by omega) (by omega) rfl (Nat.le_of_ble_eq_true rfl) dX0_isInside_12 rfl ?_
    refine r_rrs E.p (fun rr10 => ?_)
    refine r_aload_n dX0_isInside_15 rfl 3 rfl ?_
    obtain ⟨p11, q12, e⟩ := bd_o e
    have k13 := kX0_rooted (G := G)  q12
    have z14 := (k13 rr10).1.2.2.2
    refine r_callS (j := none) 2 [tr (some p3.1), tr o3] k13 (injO_0 E.p) subO_0 getO_0 setO_0 (lw_S q504 q505 q115 q506) (by decide +kernel) rfl (by omega) (by omega) rfl (Nat.le_of_ble_eq_true rfl) dX0_isInside_16 rfl ?_
    refine r_astore (lv' := [(4, tr p11), (0, ti a0), (1, tr o1), (2, ti a2), (3, tr o3)]) dX0_isInside_19 (E.lt (by decide)) rfl ?_
    refine r_aload dX0_isInside_21 0 rfl ?_
    obtain ⟨g17, e⟩ := gd_o e
    obtain ⟨p15, q16, e⟩ := bd_o e
    have k18 := kX8_name (G := G)  q16
    have z19 := (k18 rr10).1.2.2.2
    refine r_callVo (j := none) 0 [] (c := 8) (rc := (RX8, TX8, 2)) rfl g17 rfl k18 (injO_0 E.p) subO_0 getO_0 setO_0 (lw_V q507 q508 q509 q125 q510) (by decide +kernel) rfl (by omega) (by omega) rfl (Nat.le_of_ble_eq_true rfl) dX0_isInside_23 rfl ?_
    refine r_iconst dX0_isInside_26 ?_
    have eT := (r_ifo e).1
    have eF := (r_ifo e).2
    refine r_icmp_eq z19 (by decide) 45 dX0_isInside_27 (by decide) (fun c20 => ?_) (fun c20 => ?_)
    · have e := eT c20
      refine r_iload_n dX0_isInside_45 rfl 1 rfl ?_
      refine r_aload dX0_isInside_46 0 rfl ?_
      obtain ⟨v21, q22, e⟩ := bd_o e
      refine r_getQ fG_X0_61 q22 dX0_isInside_48 ?_
      obtain ⟨v23, q24, e⟩ := bd_o e
      refine r_getQ fG_X0_25 q24 dX0_isInside_51 ?_
      refine r_aload dX0_isInside_54 0 rfl ?_
      obtain ⟨v25, q26, e⟩ := bd_o e
      refine r_getI fG_X0_64 q26 dX0_isInside_56 ?_
      refine r_aload_n dX0_isInside_59 rfl 4 rfl ?_
      obtain ⟨p27, q28, e⟩ := bd_o e
      have k29 := hR9 ha0 (hI_r rr10 q26) q28
      have z30 := (k29 rr10).1.2.2.2
      refine r_callS (j := none) 4 [ti a0, tr v23, ti v25, tr o3] k29 (injO_0 E.p) subO_0 getO_0 setO_0 (lw_S q677 q678 q115 q679) (by decide +kernel) rfl (by omega) (by omega) rfl (Nat.le_of_ble_eq_true rfl) dX0_isInside_60 rfl ?_
      refine r_rrs E.p (fun rr31 => ?_)
      have eT := (r_ifo e).1
      have eF := (r_ifo e).2
      refine r_if_ne (rI_z z30) 87 dX0_isInside_63 (by decide) (fun c32 => ?_) (fun c32 => ?_)
      · have e := eT c32
        refine r_sub [] rfl ?_
        exact wX0_isInside_b87 d9 R9 hR9 E p27.2 e
      · have e := eF c32
        refine r_iload_n dX0_isInside_66 rfl 1 rfl ?_
        refine r_aload dX0_isInside_67 0 rfl ?_
        obtain ⟨v33, q34, e⟩ := bd_o e
        refine r_getQ fG_X0_61 q34 dX0_isInside_69 ?_
        obtain ⟨v35, q36, e⟩ := bd_o e
        refine r_getQ fG_X0_33 q36 dX0_isInside_72 ?_
        refine r_aload dX0_isInside_75 0 rfl ?_
        obtain ⟨v37, q38, e⟩ := bd_o e
        refine r_getI fG_X0_64 q38 dX0_isInside_77 ?_
        refine r_aload_n dX0_isInside_80 rfl 4 rfl ?_
        obtain ⟨p39, q40, e⟩ := bd_o e
        have k41 := hR9 ha0 (hI_r rr31 q38) q40
        have z42 := (k41 rr31).1.2.2.2
        refine r_callS (j := none) 4 [ti a0, tr v35, ti v37, tr o3] k41 (injO_0 E.p) subO_0 getO_0 setO_0 (lw_S q677 q678 q115 q679) (by decide +kernel) rfl (by omega) (by omega) rfl (Nat.le_of_ble_eq_true rfl) dX0_isInside_81 rfl ?_
        refine r_rrs E.p (fun rr43 => ?_)
        have eT := (r_ifo e).1
        have eF := (r_ifo e).2
        refine r_if_eq (rI_z z42) 91 dX0_isInside_84 (by decide) (fun c44 => ?_) (fun c44 => ?_)
        · have e := eT c44
          refine r_iconst dX0_isInside_91 ?_
          refine r_sub [] rfl ?_
          exact wX0_isInside_b92 d9 R9 hR9 E p39.2 0 (by decide) e
        · have e := eF c44
          refine r_sub [] rfl ?_
          exact wX0_isInside_b87 d9 R9 hR9 E p39.2 e
    · have e := eF c20
      refine r_aload dX0_isInside_30 0 rfl ?_
      obtain ⟨g47, e⟩ := gd_o e
      obtain ⟨p45, q46, e⟩ := bd_o e
      have k48 := kX8_name (G := G)  q46
      have z49 := (k48 rr10).1.2.2.2
      refine r_callVo (j := none) 0 [] (c := 8) (rc := (RX8, TX8, 2)) rfl g47 rfl k48 (injO_0 E.p) subO_0 getO_0 setO_0 (lw_V q507 q508 q509 q125 q510) (by decide +kernel) rfl (by omega) (by omega) rfl (Nat.le_of_ble_eq_true rfl) dX0_isInside_32 rfl ?_
      refine r_iload_n dX0_isInside_35 rfl 1 rfl ?_
      have eT := (r_ifo e).1
      have eF := (r_ifo e).2
      refine r_icmp_ne z49 ha0 43 dX0_isInside_36 (by decide) (fun c50 => ?_) (fun c50 => ?_)
      · have e := eT c50
        refine r_iconst dX0_isInside_43 ?_
        refine r_sub [] rfl ?_
        exact wX0_isInside_b44 d9 R9 hR9 E p6 0 (by decide) e
      · have e := eF c50
        refine r_iconst dX0_isInside_39 ?_
        refine r_goto 44 dX0_isInside_40 (by decide) ?_
        refine r_sub [] rfl ?_
        exact wX0_isInside_b44 d9 R9 hR9 E p6 1 (by decide) e
def fX0_isInside : Nat → Option Nat × Option Nat → hS → Int → Option Nat → Int → Option Nat → Option (Int × hS)
  | 0, _, _, _, _, _, _ => none
  | d9 + 1, gs, h, a0, o1, a2, o3 => fX0_isInside_B (fX0_isInside d9) gs h a0 o1 a2 o3
theorem kX0_isInside {G : Gx} : ∀ (d9 : Nat), ∀  {h' : hS} {r : Int} {h : hS} {a0 : Int} {o1 : Option Nat} {a2 : Int} {o3 : Option Nat} (ha0 : rI a0) (ha2 : rI a2), fX0_isInside d9 G.2.2.2 h a0 o1 a2 o3 = some (r, h') → CtX G yX0_isInside cX0_isInside 5 (some .boolean) (d9 + 23) (24 * d9 + 519) [] [] h [ti a0, tr o1, ti a2, tr o3] (some (ti r)) [] h' := by
  intro d9
  induction d9 with
  | zero => intros; rename_i e; cases e
  | succ d9 ih => intros; exact kX0_isInside_B d9 _ ih (by assumption) (by assumption) (by assumption)
def fX0_isBound  (gs : Option Nat × Option Nat) (h : hS) (o0 : Option Nat) (o1 : Option Nat) (o2 : Option Nat) : Option (Int × hS) := gd (hC h o0 = some 8) (bd (fX8_name h o0) fun p1 => bd (hQ h o1 [(8, 0)]) fun v6 => bd (hI h o1 [(8, 1)]) fun v8 => bd (fX0_isInside 16 gs h p1 v6 v8 o2) fun p10 => if p10.1 = 0 then gd (hC p10.2 o0 = some 8) (bd (fX8_name p10.2 o0) fun p16 => bd (fJ3_valueOf gs p10.2 p16) fun p21 => gd (hC p10.2 o2 = some 11) (bd (fJ1_put p10.2 o2 p21 o1) fun p25 => some (1, p25.2))) else some (0, p10.2))
theorem kX0_isBound {G : Gx}  {h' : hS} {r : Int} {h : hS} {o0 : Option Nat} {o1 : Option Nat} {o2 : Option Nat}   (e : fX0_isBound G.2.2.2 h o0 o1 o2 = some (r, h')) : CtX G yX0_isBound cX0_isBound 3 (some .boolean) 40 927 [] [] h [tr o0, tr o1, tr o2] (some (ti r)) [] h' := by
  refine CtX.of (by decide) (Nat.le_of_ble_eq_true rfl) [(0, tr o0), (1, tr o1), (2, tr o2)] rfl ?_
  have E : EndX (G, 3, [], h, [], h', (some .boolean), (some (ti r)), yX0_isBound.name) [] 3 (some .boolean) (some (ti r)) [] h' := ⟨rfl, rfl, rfl, rfl, rfl, rfl⟩
  unfold fX0_isBound at e
  refine r_rrs E.p (fun rr => ?_)
  refine r_aload_n dX0_isBound_0 rfl 0 rfl ?_
  obtain ⟨g3, e⟩ := gd_o e
  obtain ⟨p1, q2, e⟩ := bd_o e
  have k4 := kX8_name (G := G)  q2
  have z5 := (k4 rr).1.2.2.2
  refine r_callVo (j := none) 0 [] (c := 8) (rc := (RX8, TX8, 2)) rfl g3 rfl k4 (injO_0 E.p) subO_0 getO_0 setO_0 (lw_V q507 q508 q509 q125 q510) (by decide +kernel) rfl (Nat.le_of_ble_eq_true rfl) (Nat.le_of_ble_eq_true rfl) rfl (Nat.le_of_ble_eq_true rfl) dX0_isBound_1 rfl ?_
  refine r_aload_n dX0_isBound_4 rfl 1 rfl ?_
  obtain ⟨v6, q7, e⟩ := bd_o e
  refine r_getQ fG_X0_61 q7 dX0_isBound_5 ?_
  refine r_aload_n dX0_isBound_8 rfl 1 rfl ?_
  obtain ⟨v8, q9, e⟩ := bd_o e
  refine r_getI fG_X0_64 q9 dX0_isBound_9 ?_
  refine r_aload_n dX0_isBound_12 rfl 2 rfl ?_
  obtain ⟨p10, q11, e⟩ := bd_o e
  have k12 := kX0_isInside (G := G) 16 z5 (hI_r rr q9) q11
  have z13 := (k12 rr).1.2.2.2
  refine r_callS (j := none) 4 [ti p1, tr v6, ti v8, tr o2] k12 (injO_0 E.p) subO_0 getO_0 setO_0 (lw_S q677 q678 q115 q679) (by decide +kernel) rfl (Nat.le_of_ble_eq_true rfl) (Nat.le_of_ble_eq_true rfl) rfl (Nat.le_of_ble_eq_true rfl) dX0_isBound_13 rfl ?_
  refine r_rrs E.p (fun rr14 => ?_)
  have eT := (r_ifo e).1
  have eF := (r_ifo e).2
  refine r_if_eq (rI_z z13) 21 dX0_isBound_16 (by decide) (fun c15 => ?_) (fun c15 => ?_)
  · have e := eT c15
    refine r_aload_n dX0_isBound_21 rfl 2 rfl ?_
    refine r_aload_n dX0_isBound_22 rfl 0 rfl ?_
    obtain ⟨g18, e⟩ := gd_o e
    obtain ⟨p16, q17, e⟩ := bd_o e
    have k19 := kX8_name (G := G)  q17
    have z20 := (k19 rr14).1.2.2.2
    refine r_callVo (j := none) 0 [] (c := 8) (rc := (RX8, TX8, 2)) rfl g18 rfl k19 (injO_0 E.p) subO_0 getO_0 setO_0 (lw_V q507 q508 q509 q125 q510) (by decide +kernel) rfl (Nat.le_of_ble_eq_true rfl) (Nat.le_of_ble_eq_true rfl) rfl (Nat.le_of_ble_eq_true rfl) dX0_isBound_23 rfl ?_
    obtain ⟨p21, q22, e⟩ := bd_o e
    have k23 := kJ3_valueOf (G := G) z20 q22
    have z24 := (k23 rr14).1.2.2.2
    refine r_callS (j := none) 1 [ti p16] k23 (injO_0 E.p) subO_0 getO_0 setO_0 (lw_S q519 q520 q127 q521) (by decide +kernel) rfl (Nat.le_of_ble_eq_true rfl) (Nat.le_of_ble_eq_true rfl) rfl (Nat.le_of_ble_eq_true rfl) dX0_isBound_26 rfl ?_
    refine r_aload_n dX0_isBound_29 rfl 1 rfl ?_
    obtain ⟨g27, e⟩ := gd_o e
    obtain ⟨p25, q26, e⟩ := bd_o e
    have k28 := kJ1_put (G := G)  q26
    have z29 := (k28 rr14).1.2.2.2
    refine r_callVo (j := none) 2 [tr p21, tr o1] (c := 11) (rc := (RJ1, TJ1, 8)) rfl g27 rfl k28 (injO_0 E.p) subO_0 getO_0 setO_0 (lw_V q680 q681 q682 q122 q683) (by decide +kernel) rfl (Nat.le_of_ble_eq_true rfl) (Nat.le_of_ble_eq_true rfl) rfl (Nat.le_of_ble_eq_true rfl) dX0_isBound_30 rfl ?_
    refine r_rrs E.p (fun rr30 => ?_)
    refine r_pop dX0_isBound_33 rfl ?_
    refine r_iconst dX0_isBound_34 ?_
    cases e
    exact r_zret E.σ E.st E.rt E.r (Or.inr rfl) dX0_isBound_35
  · have e := eF c15
    refine r_iconst dX0_isBound_19 ?_
    cases e
    exact r_zret E.σ E.st E.rt E.r (Or.inl rfl) dX0_isBound_20
theorem fG_X0_21 : FldG RX0 21 [(7, 0)] := List.forall_mem_cons.mpr ⟨⟨RX7, TX7, 3, "DictProof$Term", rfl, in_X7, by decide, q470, Or.inl rfl⟩, fun _ h => absurd h List.not_mem_nil⟩
def fX0_isMade_b192 (R9 : Option Nat × Option Nat → hS → Option Nat → Int → Option Nat → Int → Option Nat → Option (Int × hS)) (gs : Option Nat × Option Nat) (h : hS) (k0 : Int) : Option (Int × hS) := gd (k0 = 0 ∨ k0 = 1) (some (k0, h))
theorem wX0_isMade_b192 {N : Nx} {h' : hS} {r : Int} (d9 : Nat) (R9 : Option Nat × Option Nat → hS → Option Nat → Int → Option Nat → Int → Option Nat → Option (Int × hS)) (hR9 : ∀  {h' : hS} {r : Int} {h : hS} {o0 : Option Nat} {a1 : Int} {o2 : Option Nat} {a3 : Int} {o4 : Option Nat} (ha1 : rI a1) (ha3 : rI a3), R9 (nG N).2.2.2 h o0 a1 o2 a3 o4 = some (r, h') → CtX (nG N) yX0_isMade cX0_isMade 7 (some .boolean) (d9 + 41) (26 * d9 + 949) [] [] h [tr o0, ti a1, tr o2, ti a3, tr o4] (some (ti r)) [] h') (E : EndX N [] 7 (some .boolean) (some (ti r)) [] h')  (h : hS) (k0 : Int) (hk0 : rI k0) (e : fX0_isMade_b192 R9 (nG N).2.2.2 h k0 = some (r, h')) : AtPc cX0_isMade RX0 ((d9 + 1) + 41) (26 * (d9 + 1) + 949) N [] h 192 [] [ti k0] := by
  unfold fX0_isMade_b192 at e
  refine r_rrs E.p (fun rr => ?_)
  obtain ⟨g1, e⟩ := gd_o e
  cases e
  exact r_zret E.σ E.st E.rt E.r g1 dX0_isMade_192
def fX0_isMade_b191 (R9 : Option Nat × Option Nat → hS → Option Nat → Int → Option Nat → Int → Option Nat → Option (Int × hS)) (gs : Option Nat × Option Nat) (h : hS) : Option (Int × hS) := fX0_isMade_b192 R9 gs h 0
theorem wX0_isMade_b191 {N : Nx} {h' : hS} {r : Int} (d9 : Nat) (R9 : Option Nat × Option Nat → hS → Option Nat → Int → Option Nat → Int → Option Nat → Option (Int × hS)) (hR9 : ∀  {h' : hS} {r : Int} {h : hS} {o0 : Option Nat} {a1 : Int} {o2 : Option Nat} {a3 : Int} {o4 : Option Nat} (ha1 : rI a1) (ha3 : rI a3), R9 (nG N).2.2.2 h o0 a1 o2 a3 o4 = some (r, h') → CtX (nG N) yX0_isMade cX0_isMade 7 (some .boolean) (d9 + 41) (26 * d9 + 949) [] [] h [tr o0, ti a1, tr o2, ti a3, tr o4] (some (ti r)) [] h') (E : EndX N [] 7 (some .boolean) (some (ti r)) [] h')  (h : hS) (e : fX0_isMade_b191 R9 (nG N).2.2.2 h = some (r, h')) : AtPc cX0_isMade RX0 ((d9 + 1) + 41) (26 * (d9 + 1) + 949) N [] h 191 [] [] := by
  unfold fX0_isMade_b191 at e
  refine r_rrs E.p (fun rr => ?_)
  refine r_iconst dX0_isMade_191 ?_
  exact wX0_isMade_b192 d9 R9 hR9 E h 0 (by decide) e
def fX0_isMade_b62 (R9 : Option Nat × Option Nat → hS → Option Nat → Int → Option Nat → Int → Option Nat → Option (Int × hS)) (gs : Option Nat × Option Nat) (h : hS) (o4 : Option Nat) (o5 : Option Nat) (o6 : Option Nat) : Option (Int × hS) := gd (hC h o5 = some 8) (bd (fX8_name h o5) fun p1 => if p1 = (-1) then gd (hC h o6 = some 8) (bd (fX8_name h o6) fun p7 => if p7 = (-1) then bd (hQ h o5 [(8, 0)]) fun v13 => bd (hI h v13 [(7, 0)]) fun v15 => bd (hQ h o6 [(8, 0)]) fun v17 => bd (hI h v17 [(7, 0)]) fun v19 => if ¬ v15 = v19 then fX0_isMade_b191 R9 gs h else bd (hQ h o5 [(8, 0)]) fun v22 => bd (hQ h v22 [(7, 1)]) fun v24 => bd (hI h o5 [(8, 1)]) fun v26 => bd (hQ h o6 [(8, 0)]) fun v28 => bd (hQ h v28 [(7, 1)]) fun v30 => bd (hI h o6 [(8, 1)]) fun v32 => bd (R9 gs h v24 v26 v30 v32 o4) fun p34 => if p34.1 = 0 then fX0_isMade_b191 R9 gs p34.2 else bd (hQ p34.2 o5 [(8, 0)]) fun v40 => bd (hQ p34.2 v40 [(7, 2)]) fun v42 => bd (hI p34.2 o5 [(8, 1)]) fun v44 => bd (hQ p34.2 o6 [(8, 0)]) fun v46 => bd (hQ p34.2 v46 [(7, 2)]) fun v48 => bd (hI p34.2 o6 [(8, 1)]) fun v50 => bd (R9 gs p34.2 v42 v44 v48 v50 o4) fun p52 => if p52.1 = 0 then fX0_isMade_b191 R9 gs p52.2 else fX0_isMade_b192 R9 gs p52.2 1 else bd (fX0_isBound gs h o6 o5 o4) fun p58 => some (p58.1, p58.2)) else bd (fX0_isBound gs h o5 o6 o4) fun p63 => some (p63.1, p63.2))
theorem wX0_isMade_b62 {N : Nx} {h' : hS} {r : Int} (d9 : Nat) (R9 : Option Nat × Option Nat → hS → Option Nat → Int → Option Nat → Int → Option Nat → Option (Int × hS)) (hR9 : ∀  {h' : hS} {r : Int} {h : hS} {o0 : Option Nat} {a1 : Int} {o2 : Option Nat} {a3 : Int} {o4 : Option Nat} (ha1 : rI a1) (ha3 : rI a3), R9 (nG N).2.2.2 h o0 a1 o2 a3 o4 = some (r, h') → CtX (nG N) yX0_isMade cX0_isMade 7 (some .boolean) (d9 + 41) (26 * d9 + 949) [] [] h [tr o0, ti a1, tr o2, ti a3, tr o4] (some (ti r)) [] h') (E : EndX N [] 7 (some .boolean) (some (ti r)) [] h')  (h : hS) (o4 : Option Nat) (o5 : Option Nat) (o6 : Option Nat) (e : fX0_isMade_b62 R9 (nG N).2.2.2 h o4 o5 o6 = some (r, h')) : AtPc cX0_isMade RX0 ((d9 + 1) + 41) (26 * (d9 + 1) + 949) N [] h 62 [(4, tr o4), (5, tr o5), (6, tr o6)] [] := by
  unfold fX0_isMade_b62 at e
  refine r_rrs E.p (fun rr => ?_)
  refine r_aload dX0_isMade_62 1 rfl ?_
  obtain ⟨g3, e⟩ := gd_o e
  obtain ⟨p1, q2, e⟩ := bd_o e
  have k4 := kX8_name (G := nG N)  q2
  have z5 := (k4 rr).1.2.2.2
  refine r_callVo (j := none) 0 [] (c := 8) (rc := (RX8, TX8, 2)) rfl g3 rfl k4 (injO_0 E.p) subO_0 getO_0 setO_0 (lw_V q507 q508 q509 q125 q510) (by decide +kernel) rfl (by omega) (by omega) rfl (Nat.le_of_ble_eq_true rfl) dX0_isMade_64 rfl ?_
  refine r_iconst dX0_isMade_67 ?_
  have eT := (r_ifo e).1
  have eF := (r_ifo e).2
  refine r_icmp_eq z5 (by decide) 81 dX0_isMade_68 (by decide) (fun c6 => ?_) (fun c6 => ?_)
  · have e := eT c6
    refine r_aload dX0_isMade_81 2 rfl ?_
    obtain ⟨g9, e⟩ := gd_o e
    obtain ⟨p7, q8, e⟩ := bd_o e
    have k10 := kX8_name (G := nG N)  q8
    have z11 := (k10 rr).1.2.2.2
    refine r_callVo (j := none) 0 [] (c := 8) (rc := (RX8, TX8, 2)) rfl g9 rfl k10 (injO_0 E.p) subO_0 getO_0 setO_0 (lw_V q507 q508 q509 q125 q510) (by decide +kernel) rfl (by omega) (by omega) rfl (Nat.le_of_ble_eq_true rfl) dX0_isMade_83 rfl ?_
    refine r_iconst dX0_isMade_86 ?_
    have eT := (r_ifo e).1
    have eF := (r_ifo e).2
    refine r_icmp_eq z11 (by decide) 100 dX0_isMade_87 (by decide) (fun c12 => ?_) (fun c12 => ?_)
    · have e := eT c12
      refine r_aload dX0_isMade_100 1 rfl ?_
      obtain ⟨v13, q14, e⟩ := bd_o e
      refine r_getQ fG_X0_61 q14 dX0_isMade_102 ?_
      obtain ⟨v15, q16, e⟩ := bd_o e
      refine r_getI fG_X0_21 q16 dX0_isMade_105 ?_
      refine r_aload dX0_isMade_108 2 rfl ?_
      obtain ⟨v17, q18, e⟩ := bd_o e
      refine r_getQ fG_X0_61 q18 dX0_isMade_110 ?_
      obtain ⟨v19, q20, e⟩ := bd_o e
      refine r_getI fG_X0_21 q20 dX0_isMade_113 ?_
      have eT := (r_ifo e).1
      have eF := (r_ifo e).2
      refine r_icmp_ne (hI_r rr q16) (hI_r rr q20) 191 dX0_isMade_116 (by decide) (fun c21 => ?_) (fun c21 => ?_)
      · have e := eT c21
        refine r_sub [] rfl ?_
        exact wX0_isMade_b191 d9 R9 hR9 E h e
      · have e := eF c21
        refine r_aload dX0_isMade_119 1 rfl ?_
        obtain ⟨v22, q23, e⟩ := bd_o e
        refine r_getQ fG_X0_61 q23 dX0_isMade_121 ?_
        obtain ⟨v24, q25, e⟩ := bd_o e
        refine r_getQ fG_X0_25 q25 dX0_isMade_124 ?_
        refine r_aload dX0_isMade_127 1 rfl ?_
        obtain ⟨v26, q27, e⟩ := bd_o e
        refine r_getI fG_X0_64 q27 dX0_isMade_129 ?_
        refine r_aload dX0_isMade_132 2 rfl ?_
        obtain ⟨v28, q29, e⟩ := bd_o e
        refine r_getQ fG_X0_61 q29 dX0_isMade_134 ?_
        obtain ⟨v30, q31, e⟩ := bd_o e
        refine r_getQ fG_X0_25 q31 dX0_isMade_137 ?_
        refine r_aload dX0_isMade_140 2 rfl ?_
        obtain ⟨v32, q33, e⟩ := bd_o e
        refine r_getI fG_X0_64 q33 dX0_isMade_142 ?_
        refine r_aload dX0_isMade_145 0 rfl ?_
        obtain ⟨p34, q35, e⟩ := bd_o e
        have k36 := hR9 (hI_r rr q27) (hI_r rr q33) q35
        have z37 := (k36 rr).1.2.2.2
        refine r_callS (j := none) 5 [tr v24, ti v26, tr v30, ti v32, tr o4] k36 (injO_0 E.p) subO_0 getO_0 setO_0 (lw_S q486 q487 q115 q488) (by decide +kernel) rfl (by omega) (by omega) rfl (Nat.le_of_ble_eq_true rfl) dX0_isMade_147 rfl ?_
        refine r_rrs E.p (fun rr38 => ?_)
        have eT := (r_ifo e).1
        have eF := (r_ifo e).2
        refine r_if_eq (rI_z z37) 191 dX0_isMade_150 (by decide) (fun c39 => ?_) (fun c39 => ?_)
        · have e := eT c39
          refine r_sub [] rfl ?_
          exact wX0_isMade_b191 d9 R9 hR9 E p34.2 e
        · have e := eF c39
          refine r_aload dX0_isMade_153 1 rfl ?_
          obtain ⟨v40, q41, e⟩ := bd_o e
          refine r_getQ fG_X0_61 q41 dX0_isMade_155 ?_
          obtain ⟨v42, q43, e⟩ := bd_o e
          refine r_getQ fG_X0_33 q43 dX0_isMade_158 ?_
          refine r_aload dX0_isMade_161 1 rfl ?_
          obtain ⟨v44, q45, e⟩ := bd_o e
          refine r_getI fG_X0_64 q45 dX0_isMade_163 ?_
          refine r_aload dX0_isMade_166 2 rfl ?_
          obtain ⟨v46, q47, e⟩ := bd_o e
          refine r_getQ fG_X0_61 q47 dX0_isMade_168 ?_
          obtain ⟨v48, q49, e⟩ := bd_o e
          refine r_getQ fG_X0_33 q49 dX0_isMade_171 ?_
          refine r_aload dX0_isMade_174 2 rfl ?_
          obtain ⟨v50, q51, e⟩ := bd_o e
          refine r_getI fG_X0_64 q51 dX0_isMade_176 ?_
          refine r_aload dX0_isMade_179 0 rfl ?_
          obtain ⟨p52, q53, e⟩ := bd_o e
          have k54 := hR9 (hI_r rr38 q45) (hI_r rr38 q51) q53
          have z55 := (k54 rr38).1.2.2.2
          refine r_callS (j := none) 5 [tr v42, ti v44, tr v48, ti v50, tr o4] k54 (injO_0 E.p) subO_0 getO_0 setO_0 (lw_S q486 q487 q115 q488) (by decide +kernel) rfl (by omega) (by omega) rfl (Nat.le_of_ble_eq_true rfl) dX0_isMade_181 rfl ?_
          refine r_rrs E.p (fun rr56 => ?_)
          have eT := (r_ifo e).1
          have eF := (r_ifo e).2
          refine r_if_eq (rI_z z55) 191 dX0_isMade_184 (by decide) (fun c57 => ?_) (fun c57 => ?_)
          · have e := eT c57
            refine r_sub [] rfl ?_
            exact wX0_isMade_b191 d9 R9 hR9 E p52.2 e
          · have e := eF c57
            refine r_iconst dX0_isMade_187 ?_
            refine r_goto 192 dX0_isMade_188 (by decide) ?_
            refine r_sub [] rfl ?_
            exact wX0_isMade_b192 d9 R9 hR9 E p52.2 1 (by decide) e
    · have e := eF c12
      refine r_aload dX0_isMade_90 2 rfl ?_
      refine r_aload dX0_isMade_92 1 rfl ?_
      refine r_aload dX0_isMade_94 0 rfl ?_
      obtain ⟨p58, q59, e⟩ := bd_o e
      have k60 := kX0_isBound (G := nG N)  q59
      have z61 := (k60 rr).1.2.2.2
      refine r_callS (j := none) 3 [tr o6, tr o5, tr o4] k60 (injO_0 E.p) subO_0 getO_0 setO_0 (lw_S q674 q675 q115 q676) (by decide +kernel) rfl (by omega) (by omega) rfl (Nat.le_of_ble_eq_true rfl) dX0_isMade_96 rfl ?_
      refine r_rrs E.p (fun rr62 => ?_)
      cases e
      exact r_zret E.σ E.st E.rt E.r z61 dX0_isMade_99
  · have e := eF c6
    refine r_aload dX0_isMade_71 1 rfl ?_
    refine r_aload dX0_isMade_73 2 rfl ?_
    refine r_aload dX0_isMade_75 0 rfl ?_
    obtain ⟨p63, q64, e⟩ := bd_o e
    have k65 := kX0_isBound (G := nG N)  q64
    have z66 := (k65 rr).1.2.2.2
    refine r_callS (j := none) 3 [tr o5, tr o6, tr o4] k65 (injO_0 E.p) subO_0 getO_0 setO_0 (lw_S q674 q675 q115 q676) (by decide +kernel) rfl (by omega) (by omega) rfl (Nat.le_of_ble_eq_true rfl) dX0_isMade_77 rfl ?_
    refine r_rrs E.p (fun rr67 => ?_)
    cases e
    exact r_zret E.σ E.st E.rt E.r z66 dX0_isMade_80
def fX0_isMade_B (R9 : Option Nat × Option Nat → hS → Option Nat → Int → Option Nat → Int → Option Nat → Option (Int × hS)) (gs : Option Nat × Option Nat) (h : hS) (o0 : Option Nat) (a1 : Int) (o2 : Option Nat) (a3 : Int) (o4 : Option Nat) : Option (Int × hS) := ifN o0 (some (1, h)) (fun _ => bd (nwS h 8 [vq none, vi 0]) fun p3 => bd (fX8_init p3.2 (some p3.1) o0 a1) fun p6 => bd (fX0_rooted gs p6 (some p3.1) o4) fun p11 => bd (nwS p6 8 [vq none, vi 0]) fun p15 => bd (fX8_init p15.2 (some p15.1) o2 a3) fun p18 => bd (fX0_rooted gs p18 (some p15.1) o4) fun p23 => gd (hC p18 p11 = some 8) (bd (fX8_name p18 p11) fun p27 => if p27 = (-1) then fX0_isMade_b62 R9 gs p18 o4 p11 p23 else gd (hC p18 p11 = some 8) (bd (fX8_name p18 p11) fun p33 => gd (hC p18 p23 = some 8) (bd (fX8_name p18 p23) fun p38 => if ¬ p33 = p38 then fX0_isMade_b62 R9 gs p18 o4 p11 p23 else some (1, p18)))))
theorem kX0_isMade_B {G : Gx}  {h' : hS} {r : Int} {h : hS} {o0 : Option Nat} {a1 : Int} {o2 : Option Nat} {a3 : Int} {o4 : Option Nat} (d9 : Nat) (R9 : Option Nat × Option Nat → hS → Option Nat → Int → Option Nat → Int → Option Nat → Option (Int × hS)) (hR9 : ∀  {h' : hS} {r : Int} {h : hS} {o0 : Option Nat} {a1 : Int} {o2 : Option Nat} {a3 : Int} {o4 : Option Nat} (ha1 : rI a1) (ha3 : rI a3), R9 G.2.2.2 h o0 a1 o2 a3 o4 = some (r, h') → CtX G yX0_isMade cX0_isMade 7 (some .boolean) (d9 + 41) (26 * d9 + 949) [] [] h [tr o0, ti a1, tr o2, ti a3, tr o4] (some (ti r)) [] h') (ha1 : rI a1) (ha3 : rI a3) (e : fX0_isMade_B R9 G.2.2.2 h o0 a1 o2 a3 o4 = some (r, h')) : CtX G yX0_isMade cX0_isMade 7 (some .boolean) ((d9 + 1) + 41) (26 * (d9 + 1) + 949) [] [] h [tr o0, ti a1, tr o2, ti a3, tr o4] (some (ti r)) [] h' := by
  refine CtX.of (by decide) (Nat.le_of_ble_eq_true rfl) [(0, tr o0), (1, ti a1), (2, tr o2), (3, ti a3), (4, tr o4)] rfl ?_
  have E : EndX (G, 7, [], h, [], h', (some .boolean), (some (ti r)), yX0_isMade.name) [] 7 (some .boolean) (some (ti r)) [] h' := ⟨rfl, rfl, rfl, rfl, rfl, rfl⟩
  unfold fX0_isMade_B at e
  refine r_rrs E.p (fun rr => ?_)
  refine r_aload_n dX0_isMade_0 rfl 0 rfl ?_
  have eT := (r_ifno e).1
  have eF := (r_ifno e).2
  refine r_ifnonnull 6 dX0_isMade_1 (by decide) (fun c1 => ?_) (fun x2 c1 => ?_)
  · have e := eT c1
    refine r_iconst dX0_isMade_4 ?_
    cases e
    exact r_zret E.σ E.st E.rt E.r (Or.inr rfl) dX0_isMade_5
  · have e := eF x2 c1
    obtain ⟨p3, q4, e⟩ := bd_o e
    refine r_newS [vq none, vi 0] q4 rfl in_X8 tyX8_ok q489 q490 q125 (by decide +kernel) rfl (by decide +kernel) dX0_isMade_6 ?_
    refine r_rrs E.p (fun rr5 => ?_)
    refine r_dup dX0_isMade_9 rfl ?_
    refine r_aload_n dX0_isMade_10 rfl 0 rfl ?_
    refine r_iload_n dX0_isMade_11 rfl 1 rfl ?_
    obtain ⟨p6, q7, e⟩ := bd_o e
    have k8 := kX8_init (G := G) ha1 q7
    have z9 := (k8 rr5).1.2.2.2
    refine r_callIo (j := none) 2 [tr o0, ti a1] (fun q => by cases q) rfl rfl k8 (injO_0 E.p) subO_0 getO_0 setO_0 q493 q125 q491 q492 (by decide +kernel) rfl (by omega) (by omega) rfl (Nat.le_of_ble_eq_true rfl) dX0_isMade_12 rfl ?_
    refine r_rrs E.p (fun rr10 => ?_)
    refine r_aload dX0_isMade_15 4 rfl ?_
    obtain ⟨p11, q12, e⟩ := bd_o e
    have k13 := kX0_rooted (G := G)  q12
    have z14 := (k13 rr10).1.2.2.2
    refine r_callS (j := none) 2 [tr (some p3.1), tr o4] k13 (injO_0 E.p) subO_0 getO_0 setO_0 (lw_S q504 q505 q115 q506) (by decide +kernel) rfl (by omega) (by omega) rfl (Nat.le_of_ble_eq_true rfl) dX0_isMade_17 rfl ?_
    refine r_astore (lv' := [(5, tr p11), (0, tr o0), (1, ti a1), (2, tr o2), (3, ti a3), (4, tr o4)]) dX0_isMade_20 (E.lt (by decide)) rfl ?_
    obtain ⟨p15, q16, e⟩ := bd_o e
    refine r_newS [vq none, vi 0] q16 rfl in_X8 tyX8_ok q489 q490 q125 (by decide +kernel) rfl (by decide +kernel) dX0_isMade_22 ?_
    refine r_rrs E.p (fun rr17 => ?_)
    refine r_dup dX0_isMade_25 rfl ?_
    refine r_aload_n dX0_isMade_26 rfl 3 rfl ?_
    refine r_iload_n dX0_isMade_27 rfl 4 rfl ?_
    obtain ⟨p18, q19, e⟩ := bd_o e
    have k20 := kX8_init (G := G) ha3 q19
    have z21 := (k20 rr17).1.2.2.2
    refine r_callIo (j := none) 2 [tr o2, ti a3] (fun q => by cases q) rfl rfl k20 (injO_0 E.p) subO_0 getO_0 setO_0 q493 q125 q491 q492 (by decide +kernel) rfl (by omega) (by omega) rfl (Nat.le_of_ble_eq_true rfl) dX0_isMade_28 rfl ?_
    refine r_rrs E.p (fun rr22 => ?_)
    refine r_aload dX0_isMade_31 5 rfl ?_
    obtain ⟨p23, q24, e⟩ := bd_o e
    have k25 := kX0_rooted (G := G)  q24
    have z26 := (k25 rr22).1.2.2.2
    refine r_callS (j := none) 2 [tr (some p15.1), tr o4] k25 (injO_0 E.p) subO_0 getO_0 setO_0 (lw_S q504 q505 q115 q506) (by decide +kernel) rfl (by omega) (by omega) rfl (Nat.le_of_ble_eq_true rfl) dX0_isMade_33 rfl ?_
    refine r_astore (lv' := [(6, tr p23), (5, tr p11), (0, tr o0), (1, ti a1), (2, tr o2), (3, ti a3), (4, tr o4)]) dX0_isMade_36 (E.lt (by decide)) rfl ?_
    refine r_aload dX0_isMade_38 1 rfl ?_
    obtain ⟨g29, e⟩ := gd_o e
    obtain ⟨p27, q28, e⟩ := bd_o e
    have k30 := kX8_name (G := G)  q28
    have z31 := (k30 rr22).1.2.2.2
    refine r_callVo (j := none) 0 [] (c := 8) (rc := (RX8, TX8, 2)) rfl g29 rfl k30 (injO_0 E.p) subO_0 getO_0 setO_0 (lw_V q507 q508 q509 q125 q510) (by decide +kernel) rfl (by omega) (by omega) rfl (Nat.le_of_ble_eq_true rfl) dX0_isMade_40 rfl ?_
    refine r_iconst dX0_isMade_43 ?_
    have eT := (r_ifo e).1
    have eF := (r_ifo e).2
    refine r_icmp_eq z31 (by decide) 62 dX0_isMade_44 (by decide) (fun c32 => ?_) (fun c32 => ?_)
    · have e := eT c32
      refine r_sub [6, 1, 0] rfl ?_
      exact wX0_isMade_b62 d9 R9 hR9 E p18 o4 p11 p23 e
    · have e := eF c32
      refine r_aload dX0_isMade_47 1 rfl ?_
      obtain ⟨g35, e⟩ := gd_o e
      obtain ⟨p33, q34, e⟩ := bd_o e
      have k36 := kX8_name (G := G)  q34
      have z37 := (k36 rr22).1.2.2.2
      refine r_callVo (j := none) 0 [] (c := 8) (rc := (RX8, TX8, 2)) rfl g35 rfl k36 (injO_0 E.p) subO_0 getO_0 setO_0 (lw_V q507 q508 q509 q125 q510) (by decide +kernel) rfl (by omega) (by omega) rfl (Nat.le_of_ble_eq_true rfl) dX0_isMade_49 rfl ?_
      refine r_aload dX0_isMade_52 0 rfl ?_
      obtain ⟨g40, e⟩ := gd_o e
      obtain ⟨p38, q39, e⟩ := bd_o e
      have k41 := kX8_name (G := G)  q39
      have z42 := (k41 rr22).1.2.2.2
      refine r_callVo (j := none) 0 [] (c := 8) (rc := (RX8, TX8, 2)) rfl g40 rfl k41 (injO_0 E.p) subO_0 getO_0 setO_0 (lw_V q507 q508 q509 q125 q510) (by decide +kernel) rfl (by omega) (by omega) rfl (Nat.le_of_ble_eq_true rfl) dX0_isMade_54 rfl ?_
      have eT := (r_ifo e).1
      have eF := (r_ifo e).2
      refine r_icmp_ne z37 z42 62 dX0_isMade_57 (by decide) (fun c43 => ?_) (fun c43 => ?_)
      · have e := eT c43
        refine r_sub [6, 1, 0] rfl ?_
        exact wX0_isMade_b62 d9 R9 hR9 E p18 o4 p11 p23 e
      · have e := eF c43
        refine r_iconst dX0_isMade_60 ?_
        cases e
        exact r_zret E.σ E.st E.rt E.r (Or.inr rfl) dX0_isMade_61
def fX0_isMade : Nat → Option Nat × Option Nat → hS → Option Nat → Int → Option Nat → Int → Option Nat → Option (Int × hS)
  | 0, _, _, _, _, _, _, _ => none
  | d9 + 1, gs, h, o0, a1, o2, a3, o4 => fX0_isMade_B (fX0_isMade d9) gs h o0 a1 o2 a3 o4
theorem kX0_isMade {G : Gx} : ∀ (d9 : Nat), ∀  {h' : hS} {r : Int} {h : hS} {o0 : Option Nat} {a1 : Int} {o2 : Option Nat} {a3 : Int} {o4 : Option Nat} (ha1 : rI a1) (ha3 : rI a3), fX0_isMade d9 G.2.2.2 h o0 a1 o2 a3 o4 = some (r, h') → CtX G yX0_isMade cX0_isMade 7 (some .boolean) (d9 + 41) (26 * d9 + 949) [] [] h [tr o0, ti a1, tr o2, ti a3, tr o4] (some (ti r)) [] h' := by
  intro d9
  induction d9 with
  | zero => intros; rename_i e; cases e
  | succ d9 ih => intros; exact kX0_isMade_B d9 _ ih (by assumption) (by assumption) (by assumption)
def fX0_isFitting_b48 (R9 : hS → Option Nat → Option Nat → Option Nat → Option (Int × hS)) (h : hS) (a4 : Int) (k0 : Option Nat) (k1 : Int) (k2 : Option Nat) : Option (Int × hS) := bd (aWQ h k0 4 [7] k1 k2) fun h1 => gd (a4 = 0 ∨ a4 = 1) (some (a4, h1))
theorem wX0_isFitting_b48 {N : Nx} {h' : hS} {r : Int} (d9 : Nat) (R9 : hS → Option Nat → Option Nat → Option Nat → Option (Int × hS)) (hR9 : ∀  {h' : hS} {r : Int} {h : hS} {o0 : Option Nat} {o1 : Option Nat} {o2 : Option Nat} , R9 h o0 o1 o2 = some (r, h') → CtX (nG N) yX0_isFitting cX0_isFitting 5 (some .boolean) (d9 + 17) (24 * d9 + 374) [] [] h [tr o0, tr o1, tr o2] (some (ti r)) [] h') (E : EndX N [] 5 (some .boolean) (some (ti r)) [] h')  (h : hS) (a4 : Int) (k0 : Option Nat) (k1 : Int) (k2 : Option Nat) (ha4 : rI a4) (hk1 : rI k1) (e : fX0_isFitting_b48 R9 h a4 k0 k1 k2 = some (r, h')) : AtPc cX0_isFitting RX0 ((d9 + 1) + 17) (24 * (d9 + 1) + 374) N [] h 48 [(4, ti a4)] [tr k2, ti k1, tr k0] := by
  unfold fX0_isFitting_b48 at e
  refine r_rrs E.p (fun rr => ?_)
  obtain ⟨h1, q2, e⟩ := bd_o e
  refine r_aPQ (t := 4) hk1 q2 sto_4 (by decide) dX0_isFitting_48 ?_
  refine r_rrs E.p (fun rr3 => ?_)
  refine r_iload dX0_isFitting_49 0 rfl ?_
  obtain ⟨g4, e⟩ := gd_o e
  cases e
  exact r_zret E.σ E.st E.rt E.r g4 dX0_isFitting_51
def fX0_isFitting_b31 (R9 : hS → Option Nat → Option Nat → Option Nat → Option (Int × hS)) (h : hS) (o1 : Option Nat) (o2 : Option Nat) (a3 : Int) (k0 : Int) : Option (Int × hS) := bd (aQ h o2 4 a3) fun v1 => ifN v1 (fX0_isFitting_b48 R9 h k0 o2 a3 o1) (fun _ => bd (aQ h o2 4 a3) fun v5 => fX0_isFitting_b48 R9 h k0 o2 a3 v5)
theorem wX0_isFitting_b31 {N : Nx} {h' : hS} {r : Int} (d9 : Nat) (R9 : hS → Option Nat → Option Nat → Option Nat → Option (Int × hS)) (hR9 : ∀  {h' : hS} {r : Int} {h : hS} {o0 : Option Nat} {o1 : Option Nat} {o2 : Option Nat} , R9 h o0 o1 o2 = some (r, h') → CtX (nG N) yX0_isFitting cX0_isFitting 5 (some .boolean) (d9 + 17) (24 * d9 + 374) [] [] h [tr o0, tr o1, tr o2] (some (ti r)) [] h') (E : EndX N [] 5 (some .boolean) (some (ti r)) [] h')  (h : hS) (o1 : Option Nat) (o2 : Option Nat) (a3 : Int) (k0 : Int) (ha3 : rI a3) (hk0 : rI k0) (e : fX0_isFitting_b31 R9 h o1 o2 a3 k0 = some (r, h')) : AtPc cX0_isFitting RX0 ((d9 + 1) + 17) (24 * (d9 + 1) + 374) N [] h 31 [(1, tr o1), (2, tr o2), (3, ti a3)] [ti k0] := by
  unfold fX0_isFitting_b31 at e
  refine r_rrs E.p (fun rr => ?_)
  refine r_istore (lv' := [(4, ti k0), (1, tr o1), (2, tr o2), (3, ti a3)]) dX0_isFitting_31 (E.lt (by decide)) rfl ?_
  refine r_aload_n dX0_isFitting_33 rfl 2 rfl ?_
  refine r_iload_n dX0_isFitting_34 rfl 3 rfl ?_
  refine r_aload_n dX0_isFitting_35 rfl 2 rfl ?_
  refine r_iload_n dX0_isFitting_36 rfl 3 rfl ?_
  obtain ⟨v1, q2, e⟩ := bd_o e
  refine r_aQ ha3 q2 dX0_isFitting_37 ?_
  have eT := (r_ifno e).1
  have eF := (r_ifno e).2
  refine r_ifnonnull 45 dX0_isFitting_38 (by decide) (fun c3 => ?_) (fun x4 c3 => ?_)
  · have e := eT c3
    refine r_aload_n dX0_isFitting_41 rfl 1 rfl ?_
    refine r_goto 48 dX0_isFitting_42 (by decide) ?_
    refine r_sub [0] rfl ?_
    exact wX0_isFitting_b48 d9 R9 hR9 E h k0 o2 a3 o1 hk0 ha3 e
  · have e := eF x4 c3
    refine r_aload_n dX0_isFitting_45 rfl 2 rfl ?_
    refine r_iload_n dX0_isFitting_46 rfl 3 rfl ?_
    obtain ⟨v5, q6, e⟩ := bd_o e
    refine r_aQ ha3 q6 dX0_isFitting_47 ?_
    refine r_sub [0] rfl ?_
    exact wX0_isFitting_b48 d9 R9 hR9 E h k0 o2 a3 v5 hk0 ha3 e
def fX0_isFitting_b26 (R9 : hS → Option Nat → Option Nat → Option Nat → Option (Int × hS)) (h : hS) (o1 : Option Nat) (o2 : Option Nat) (a3 : Int) : Option (Int × hS) := fX0_isFitting_b31 R9 h o1 o2 a3 1
theorem wX0_isFitting_b26 {N : Nx} {h' : hS} {r : Int} (d9 : Nat) (R9 : hS → Option Nat → Option Nat → Option Nat → Option (Int × hS)) (hR9 : ∀  {h' : hS} {r : Int} {h : hS} {o0 : Option Nat} {o1 : Option Nat} {o2 : Option Nat} , R9 h o0 o1 o2 = some (r, h') → CtX (nG N) yX0_isFitting cX0_isFitting 5 (some .boolean) (d9 + 17) (24 * d9 + 374) [] [] h [tr o0, tr o1, tr o2] (some (ti r)) [] h') (E : EndX N [] 5 (some .boolean) (some (ti r)) [] h')  (h : hS) (o1 : Option Nat) (o2 : Option Nat) (a3 : Int) (ha3 : rI a3) (e : fX0_isFitting_b26 R9 h o1 o2 a3 = some (r, h')) : AtPc cX0_isFitting RX0 ((d9 + 1) + 17) (24 * (d9 + 1) + 374) N [] h 26 [(1, tr o1), (2, tr o2), (3, ti a3)] [] := by
  unfold fX0_isFitting_b26 at e
  refine r_rrs E.p (fun rr => ?_)
  refine r_iconst dX0_isFitting_26 ?_
  refine r_goto 31 dX0_isFitting_27 (by decide) ?_
  exact wX0_isFitting_b31 d9 R9 hR9 E h o1 o2 a3 1 ha3 (by decide) e
def fX0_isFitting_b114 (R9 : hS → Option Nat → Option Nat → Option Nat → Option (Int × hS)) (h : hS) (k0 : Int) : Option (Int × hS) := gd (k0 = 0 ∨ k0 = 1) (some (k0, h))
theorem wX0_isFitting_b114 {N : Nx} {h' : hS} {r : Int} (d9 : Nat) (R9 : hS → Option Nat → Option Nat → Option Nat → Option (Int × hS)) (hR9 : ∀  {h' : hS} {r : Int} {h : hS} {o0 : Option Nat} {o1 : Option Nat} {o2 : Option Nat} , R9 h o0 o1 o2 = some (r, h') → CtX (nG N) yX0_isFitting cX0_isFitting 5 (some .boolean) (d9 + 17) (24 * d9 + 374) [] [] h [tr o0, tr o1, tr o2] (some (ti r)) [] h') (E : EndX N [] 5 (some .boolean) (some (ti r)) [] h')  (h : hS) (k0 : Int) (hk0 : rI k0) (e : fX0_isFitting_b114 R9 h k0 = some (r, h')) : AtPc cX0_isFitting RX0 ((d9 + 1) + 17) (24 * (d9 + 1) + 374) N [] h 114 [] [ti k0] := by
  unfold fX0_isFitting_b114 at e
  refine r_rrs E.p (fun rr => ?_)
  obtain ⟨g1, e⟩ := gd_o e
  cases e
  exact r_zret E.σ E.st E.rt E.r g1 dX0_isFitting_114
def fX0_isFitting_b109 (R9 : hS → Option Nat → Option Nat → Option Nat → Option (Int × hS)) (h : hS) : Option (Int × hS) := fX0_isFitting_b114 R9 h 1
theorem wX0_isFitting_b109 {N : Nx} {h' : hS} {r : Int} (d9 : Nat) (R9 : hS → Option Nat → Option Nat → Option Nat → Option (Int × hS)) (hR9 : ∀  {h' : hS} {r : Int} {h : hS} {o0 : Option Nat} {o1 : Option Nat} {o2 : Option Nat} , R9 h o0 o1 o2 = some (r, h') → CtX (nG N) yX0_isFitting cX0_isFitting 5 (some .boolean) (d9 + 17) (24 * d9 + 374) [] [] h [tr o0, tr o1, tr o2] (some (ti r)) [] h') (E : EndX N [] 5 (some .boolean) (some (ti r)) [] h')  (h : hS) (e : fX0_isFitting_b109 R9 h = some (r, h')) : AtPc cX0_isFitting RX0 ((d9 + 1) + 17) (24 * (d9 + 1) + 374) N [] h 109 [] [] := by
  unfold fX0_isFitting_b109 at e
  refine r_rrs E.p (fun rr => ?_)
  refine r_iconst dX0_isFitting_109 ?_
  refine r_goto 114 dX0_isFitting_110 (by decide) ?_
  exact wX0_isFitting_b114 d9 R9 hR9 E h 1 (by decide) e
def fX0_isFitting_b113 (R9 : hS → Option Nat → Option Nat → Option Nat → Option (Int × hS)) (h : hS) : Option (Int × hS) := fX0_isFitting_b114 R9 h 0
theorem wX0_isFitting_b113 {N : Nx} {h' : hS} {r : Int} (d9 : Nat) (R9 : hS → Option Nat → Option Nat → Option Nat → Option (Int × hS)) (hR9 : ∀  {h' : hS} {r : Int} {h : hS} {o0 : Option Nat} {o1 : Option Nat} {o2 : Option Nat} , R9 h o0 o1 o2 = some (r, h') → CtX (nG N) yX0_isFitting cX0_isFitting 5 (some .boolean) (d9 + 17) (24 * d9 + 374) [] [] h [tr o0, tr o1, tr o2] (some (ti r)) [] h') (E : EndX N [] 5 (some .boolean) (some (ti r)) [] h')  (h : hS) (e : fX0_isFitting_b113 R9 h = some (r, h')) : AtPc cX0_isFitting RX0 ((d9 + 1) + 17) (24 * (d9 + 1) + 374) N [] h 113 [] [] := by
  unfold fX0_isFitting_b113 at e
  refine r_rrs E.p (fun rr => ?_)
  refine r_iconst dX0_isFitting_113 ?_
  exact wX0_isFitting_b114 d9 R9 hR9 E h 0 (by decide) e
def fX0_isFitting_b87 (R9 : hS → Option Nat → Option Nat → Option Nat → Option (Int × hS)) (h : hS) (o0 : Option Nat) (o1 : Option Nat) (o2 : Option Nat) : Option (Int × hS) := bd (hQ h o0 [(7, 2)]) fun v1 => ifN v1 (fX0_isFitting_b109 R9 h) (fun _ => bd (hQ h o0 [(7, 2)]) fun v5 => bd (hQ h o1 [(7, 2)]) fun v7 => bd (R9 h v5 v7 o2) fun p9 => if p9.1 = 0 then fX0_isFitting_b113 R9 p9.2 else fX0_isFitting_b109 R9 p9.2)
theorem wX0_isFitting_b87 {N : Nx} {h' : hS} {r : Int} (d9 : Nat) (R9 : hS → Option Nat → Option Nat → Option Nat → Option (Int × hS)) (hR9 : ∀  {h' : hS} {r : Int} {h : hS} {o0 : Option Nat} {o1 : Option Nat} {o2 : Option Nat} , R9 h o0 o1 o2 = some (r, h') → CtX (nG N) yX0_isFitting cX0_isFitting 5 (some .boolean) (d9 + 17) (24 * d9 + 374) [] [] h [tr o0, tr o1, tr o2] (some (ti r)) [] h') (E : EndX N [] 5 (some .boolean) (some (ti r)) [] h')  (h : hS) (o0 : Option Nat) (o1 : Option Nat) (o2 : Option Nat) (e : fX0_isFitting_b87 R9 h o0 o1 o2 = some (r, h')) : AtPc cX0_isFitting RX0 ((d9 + 1) + 17) (24 * (d9 + 1) + 374) N [] h 87 [(0, tr o0), (1, tr o1), (2, tr o2)] [] := by
  unfold fX0_isFitting_b87 at e
  refine r_rrs E.p (fun rr => ?_)
  refine r_aload_n dX0_isFitting_87 rfl 0 rfl ?_
  obtain ⟨v1, q2, e⟩ := bd_o e
  refine r_getQ fG_X0_33 q2 dX0_isFitting_88 ?_
  have eT := (r_ifno e).1
  have eF := (r_ifno e).2
  refine r_ifnull 109 dX0_isFitting_91 (by decide) (fun c3 => ?_) (fun x4 c3 => ?_)
  · have e := eT c3
    refine r_sub [] rfl ?_
    exact wX0_isFitting_b109 d9 R9 hR9 E h e
  · have e := eF x4 c3
    refine r_aload_n dX0_isFitting_94 rfl 0 rfl ?_
    obtain ⟨v5, q6, e⟩ := bd_o e
    refine r_getQ fG_X0_33 q6 dX0_isFitting_95 ?_
    refine r_aload_n dX0_isFitting_98 rfl 1 rfl ?_
    obtain ⟨v7, q8, e⟩ := bd_o e
    refine r_getQ fG_X0_33 q8 dX0_isFitting_99 ?_
    refine r_aload_n dX0_isFitting_102 rfl 2 rfl ?_
    obtain ⟨p9, q10, e⟩ := bd_o e
    have k11 := hR9  q10
    have z12 := (k11 rr).1.2.2.2
    refine r_callS (j := none) 3 [tr v5, tr v7, tr o2] k11 (injO_0 E.p) subO_0 getO_0 setO_0 (lw_S q823 q824 q115 q825) (by decide +kernel) rfl (by omega) (by omega) rfl (Nat.le_of_ble_eq_true rfl) dX0_isFitting_103 rfl ?_
    refine r_rrs E.p (fun rr13 => ?_)
    have eT := (r_ifo e).1
    have eF := (r_ifo e).2
    refine r_if_eq (rI_z z12) 113 dX0_isFitting_106 (by decide) (fun c14 => ?_) (fun c14 => ?_)
    · have e := eT c14
      refine r_sub [] rfl ?_
      exact wX0_isFitting_b113 d9 R9 hR9 E p9.2 e
    · have e := eF c14
      refine r_sub [] rfl ?_
      exact wX0_isFitting_b109 d9 R9 hR9 E p9.2 e
def fX0_isFitting_B (R9 : hS → Option Nat → Option Nat → Option Nat → Option (Int × hS)) (h : hS) (o0 : Option Nat) (o1 : Option Nat) (o2 : Option Nat) : Option (Int × hS) := gd (hC h o0 = some 7) (bd (fX7_variable h o0) fun p1 => if p1 = (-1) then bd (hI h o0 [(7, 0)]) fun v7 => bd (hI h o1 [(7, 0)]) fun v9 => if v7 = v9 then bd (hQ h o0 [(7, 1)]) fun v12 => ifN v12 (fX0_isFitting_b87 R9 h o0 o1 o2) (fun _ => bd (hQ h o0 [(7, 1)]) fun v16 => bd (hQ h o1 [(7, 1)]) fun v18 => bd (R9 h v16 v18 o2) fun p20 => if p20.1 = 0 then fX0_isFitting_b113 R9 p20.2 else fX0_isFitting_b87 R9 p20.2 o0 o1 o2) else some (0, h) else bd (aQ h o2 4 p1) fun v26 => ifN v26 (fX0_isFitting_b26 R9 h o1 o2 p1) (fun _ => bd (aQ h o2 4 p1) fun v30 => gd (hC h v30 = some 7) (bd (fX7_equals 16 h v30 o1) fun p32 => if p32 = 0 then fX0_isFitting_b31 R9 h o1 o2 p1 0 else fX0_isFitting_b26 R9 h o1 o2 p1)))
theorem kX0_isFitting_B {G : Gx}  {h' : hS} {r : Int} {h : hS} {o0 : Option Nat} {o1 : Option Nat} {o2 : Option Nat} (d9 : Nat) (R9 : hS → Option Nat → Option Nat → Option Nat → Option (Int × hS)) (hR9 : ∀  {h' : hS} {r : Int} {h : hS} {o0 : Option Nat} {o1 : Option Nat} {o2 : Option Nat} , R9 h o0 o1 o2 = some (r, h') → CtX G yX0_isFitting cX0_isFitting 5 (some .boolean) (d9 + 17) (24 * d9 + 374) [] [] h [tr o0, tr o1, tr o2] (some (ti r)) [] h')  (e : fX0_isFitting_B R9 h o0 o1 o2 = some (r, h')) : CtX G yX0_isFitting cX0_isFitting 5 (some .boolean) ((d9 + 1) + 17) (24 * (d9 + 1) + 374) [] [] h [tr o0, tr o1, tr o2] (some (ti r)) [] h' := by
  refine CtX.of (by decide) (Nat.le_of_ble_eq_true rfl) [(0, tr o0), (1, tr o1), (2, tr o2)] rfl ?_
  have E : EndX (G, 5, [], h, [], h', (some .boolean), (some (ti r)), yX0_isFitting.name) [] 5 (some .boolean) (some (ti r)) [] h' := ⟨rfl, rfl, rfl, rfl, rfl, rfl⟩
  unfold fX0_isFitting_B at e
  refine r_rrs E.p (fun rr => ?_)
  refine r_aload_n dX0_isFitting_0 rfl 0 rfl ?_
  obtain ⟨g3, e⟩ := gd_o e
  obtain ⟨p1, q2, e⟩ := bd_o e
  have k4 := kX7_variable (G := G)  q2
  have z5 := (k4 rr).1.2.2.2
  refine r_callVo (j := none) 0 [] (c := 7) (rc := (RX7, TX7, 3)) rfl g3 rfl k4 (injO_0 E.p) subO_0 getO_0 setO_0 (lw_V q514 q515 q516 q124 q517) (by decide +kernel) rfl (by omega) (by omega) rfl (Nat.le_of_ble_eq_true rfl) dX0_isFitting_1 rfl ?_
  refine r_istore_n (lv' := [(3, ti p1), (0, tr o0), (1, tr o1), (2, tr o2)]) dX0_isFitting_4 rfl (E.lt (by decide)) rfl ?_
  refine r_iload_n dX0_isFitting_5 rfl 0 rfl ?_
  refine r_iconst dX0_isFitting_6 ?_
  have eT := (r_ifo e).1
  have eF := (r_ifo e).2
  refine r_icmp_eq z5 (by decide) 52 dX0_isFitting_7 (by decide) (fun c6 => ?_) (fun c6 => ?_)
  · have e := eT c6
    refine r_aload_n dX0_isFitting_52 rfl 1 rfl ?_
    obtain ⟨v7, q8, e⟩ := bd_o e
    refine r_getI fG_X0_21 q8 dX0_isFitting_53 ?_
    refine r_aload_n dX0_isFitting_56 rfl 2 rfl ?_
    obtain ⟨v9, q10, e⟩ := bd_o e
    refine r_getI fG_X0_21 q10 dX0_isFitting_57 ?_
    have eT := (r_ifo e).1
    have eF := (r_ifo e).2
    refine r_icmp_eq (hI_r rr q8) (hI_r rr q10) 65 dX0_isFitting_60 (by decide) (fun c11 => ?_) (fun c11 => ?_)
    · have e := eT c11
      refine r_aload_n dX0_isFitting_65 rfl 1 rfl ?_
      obtain ⟨v12, q13, e⟩ := bd_o e
      refine r_getQ fG_X0_25 q13 dX0_isFitting_66 ?_
      have eT := (r_ifno e).1
      have eF := (r_ifno e).2
      refine r_ifnull 87 dX0_isFitting_69 (by decide) (fun c14 => ?_) (fun x15 c14 => ?_)
      · have e := eT c14
        refine r_sub [1, 2, 3] rfl ?_
        exact wX0_isFitting_b87 d9 R9 hR9 E h o0 o1 o2 e
      · have e := eF x15 c14
        refine r_aload_n dX0_isFitting_72 rfl 1 rfl ?_
        obtain ⟨v16, q17, e⟩ := bd_o e
        refine r_getQ fG_X0_25 q17 dX0_isFitting_73 ?_
        refine r_aload_n dX0_isFitting_76 rfl 2 rfl ?_
        obtain ⟨v18, q19, e⟩ := bd_o e
        refine r_getQ fG_X0_25 q19 dX0_isFitting_77 ?_
        refine r_aload_n dX0_isFitting_80 rfl 3 rfl ?_
        obtain ⟨p20, q21, e⟩ := bd_o e
        have k22 := hR9  q21
        have z23 := (k22 rr).1.2.2.2
        refine r_callS (j := none) 3 [tr v16, tr v18, tr o2] k22 (injO_0 E.p) subO_0 getO_0 setO_0 (lw_S q823 q824 q115 q825) (by decide +kernel) rfl (by omega) (by omega) rfl (Nat.le_of_ble_eq_true rfl) dX0_isFitting_81 rfl ?_
        refine r_rrs E.p (fun rr24 => ?_)
        have eT := (r_ifo e).1
        have eF := (r_ifo e).2
        refine r_if_eq (rI_z z23) 113 dX0_isFitting_84 (by decide) (fun c25 => ?_) (fun c25 => ?_)
        · have e := eT c25
          refine r_sub [] rfl ?_
          exact wX0_isFitting_b113 d9 R9 hR9 E p20.2 e
        · have e := eF c25
          refine r_sub [1, 2, 3] rfl ?_
          exact wX0_isFitting_b87 d9 R9 hR9 E p20.2 o0 o1 o2 e
    · have e := eF c11
      refine r_iconst dX0_isFitting_63 ?_
      cases e
      exact r_zret E.σ E.st E.rt E.r (Or.inl rfl) dX0_isFitting_64
  · have e := eF c6
    refine r_aload_n dX0_isFitting_10 rfl 3 rfl ?_
    refine r_iload_n dX0_isFitting_11 rfl 0 rfl ?_
    obtain ⟨v26, q27, e⟩ := bd_o e
    refine r_aQ z5 q27 dX0_isFitting_12 ?_
    have eT := (r_ifno e).1
    have eF := (r_ifno e).2
    refine r_ifnull 26 dX0_isFitting_13 (by decide) (fun c28 => ?_) (fun x29 c28 => ?_)
    · have e := eT c28
      refine r_sub [2, 3, 0] rfl ?_
      exact wX0_isFitting_b26 d9 R9 hR9 E h o1 o2 p1 z5 e
    · have e := eF x29 c28
      refine r_aload_n dX0_isFitting_16 rfl 3 rfl ?_
      refine r_iload_n dX0_isFitting_17 rfl 0 rfl ?_
      obtain ⟨v30, q31, e⟩ := bd_o e
      refine r_aQ z5 q31 dX0_isFitting_18 ?_
      refine r_aload_n dX0_isFitting_19 rfl 2 rfl ?_
      obtain ⟨g34, e⟩ := gd_o e
      obtain ⟨p32, q33, e⟩ := bd_o e
      have k35 := kX7_equals (G := G) 16  q33
      have z36 := (k35 rr).1.2.2.2
      refine r_callVo (j := none) 1 [tr o1] (c := 7) (rc := (RX7, TX7, 3)) rfl g34 rfl k35 (injO_0 E.p) subO_0 getO_0 setO_0 (lw_V q826 q592 q593 q124 q594) (by decide +kernel) rfl (by omega) (by omega) rfl (Nat.le_of_ble_eq_true rfl) dX0_isFitting_20 rfl ?_
      have eT := (r_ifo e).1
      have eF := (r_ifo e).2
      refine r_if_eq (rI_z z36) 30 dX0_isFitting_23 (by decide) (fun c37 => ?_) (fun c37 => ?_)
      · have e := eT c37
        refine r_iconst dX0_isFitting_30 ?_
        refine r_sub [2, 3, 0] rfl ?_
        exact wX0_isFitting_b31 d9 R9 hR9 E h o1 o2 p1 0 z5 (by decide) e
      · have e := eF c37
        refine r_sub [2, 3, 0] rfl ?_
        exact wX0_isFitting_b26 d9 R9 hR9 E h o1 o2 p1 z5 e
def fX0_isFitting : Nat → hS → Option Nat → Option Nat → Option Nat → Option (Int × hS)
  | 0, _, _, _, _ => none
  | d9 + 1, h, o0, o1, o2 => fX0_isFitting_B (fX0_isFitting d9) h o0 o1 o2
theorem kX0_isFitting {G : Gx} : ∀ (d9 : Nat), ∀  {h' : hS} {r : Int} {h : hS} {o0 : Option Nat} {o1 : Option Nat} {o2 : Option Nat} , fX0_isFitting d9 h o0 o1 o2 = some (r, h') → CtX G yX0_isFitting cX0_isFitting 5 (some .boolean) (d9 + 17) (24 * d9 + 374) [] [] h [tr o0, tr o1, tr o2] (some (ti r)) [] h' := by
  intro d9
  induction d9 with
  | zero => intros; rename_i e; cases e
  | succ d9 ih => intros; exact kX0_isFitting_B d9 _ ih (by assumption)
def fX0_isMoreSpecial_b29 (h : hS) (k0 : Int) : Option (Int × hS) := gd (k0 = 0 ∨ k0 = 1) (some (k0, h))
theorem wX0_isMoreSpecial_b29 {N : Nx} {h' : hS} {r : Int} (E : EndX N [] 2 (some .boolean) (some (ti r)) [] h')  (h : hS) (k0 : Int) (hk0 : rI k0) (e : fX0_isMoreSpecial_b29 h k0 = some (r, h')) : AtPc cX0_isMoreSpecial RX0 34 782 N [] h 29 [] [ti k0] := by
  unfold fX0_isMoreSpecial_b29 at e
  refine r_rrs E.p (fun rr => ?_)
  obtain ⟨g1, e⟩ := gd_o e
  cases e
  exact r_zret E.σ E.st E.rt E.r g1 dX0_isMoreSpecial_29
def fX0_isMoreSpecial_b28 (h : hS) : Option (Int × hS) := fX0_isMoreSpecial_b29 h 0
theorem wX0_isMoreSpecial_b28 {N : Nx} {h' : hS} {r : Int} (E : EndX N [] 2 (some .boolean) (some (ti r)) [] h')  (h : hS) (e : fX0_isMoreSpecial_b28 h = some (r, h')) : AtPc cX0_isMoreSpecial RX0 34 782 N [] h 28 [] [] := by
  unfold fX0_isMoreSpecial_b28 at e
  refine r_rrs E.p (fun rr => ?_)
  refine r_iconst dX0_isMoreSpecial_28 ?_
  exact wX0_isMoreSpecial_b29 E h 0 (by decide) e
def fX0_isMoreSpecial  (h : hS) (o0 : Option Nat) (o1 : Option Nat) : Option (Int × hS) := bd (nwQS h 4 2) fun p1 => bd (fX0_isFitting 16 p1.2 o1 o0 (some p1.1)) fun p4 => if p4.1 = 0 then fX0_isMoreSpecial_b28 p4.2 else bd (nwQS p4.2 4 2) fun p10 => bd (fX0_isFitting 16 p10.2 o0 o1 (some p10.1)) fun p13 => if ¬ p13.1 = 0 then fX0_isMoreSpecial_b28 p13.2 else fX0_isMoreSpecial_b29 p13.2 1
theorem kX0_isMoreSpecial {G : Gx}  {h' : hS} {r : Int} {h : hS} {o0 : Option Nat} {o1 : Option Nat}   (e : fX0_isMoreSpecial h o0 o1 = some (r, h')) : CtX G yX0_isMoreSpecial cX0_isMoreSpecial 2 (some .boolean) 34 782 [] [] h [tr o0, tr o1] (some (ti r)) [] h' := by
  refine CtX.of (by decide) (Nat.le_of_ble_eq_true rfl) [(0, tr o0), (1, tr o1)] rfl ?_
  have E : EndX (G, 2, [], h, [], h', (some .boolean), (some (ti r)), yX0_isMoreSpecial.name) [] 2 (some .boolean) (some (ti r)) [] h' := ⟨rfl, rfl, rfl, rfl, rfl, rfl⟩
  unfold fX0_isMoreSpecial at e
  refine r_rrs E.p (fun rr => ?_)
  refine r_aload_n dX0_isMoreSpecial_0 rfl 1 rfl ?_
  refine r_aload_n dX0_isMoreSpecial_1 rfl 0 rfl ?_
  refine r_iconst dX0_isMoreSpecial_2 ?_
  obtain ⟨p1, q2, e⟩ := bd_o e
  refine r_newQS (t := 4) q2 (by decide) (by decide) rfl q247 (by decide) dX0_isMoreSpecial_3 ?_
  refine r_rrs E.p (fun rr3 => ?_)
  obtain ⟨p4, q5, e⟩ := bd_o e
  have k6 := kX0_isFitting (G := G) 16  q5
  have z7 := (k6 rr3).1.2.2.2
  refine r_callS (j := none) 3 [tr o1, tr o0, tr (some p1.1)] k6 (injO_0 E.p) subO_0 getO_0 setO_0 (lw_S q823 q824 q115 q825) (by decide +kernel) rfl (Nat.le_of_ble_eq_true rfl) (Nat.le_of_ble_eq_true rfl) rfl (Nat.le_of_ble_eq_true rfl) dX0_isMoreSpecial_6 rfl ?_
  refine r_rrs E.p (fun rr8 => ?_)
  have eT := (r_ifo e).1
  have eF := (r_ifo e).2
  refine r_if_eq (rI_z z7) 28 dX0_isMoreSpecial_9 (by decide) (fun c9 => ?_) (fun c9 => ?_)
  · have e := eT c9
    refine r_sub [] rfl ?_
    exact wX0_isMoreSpecial_b28 E p4.2 e
  · have e := eF c9
    refine r_aload_n dX0_isMoreSpecial_12 rfl 0 rfl ?_
    refine r_aload_n dX0_isMoreSpecial_13 rfl 1 rfl ?_
    refine r_iconst dX0_isMoreSpecial_14 ?_
    obtain ⟨p10, q11, e⟩ := bd_o e
    refine r_newQS (t := 4) q11 (by decide) (by decide) rfl q247 (by decide) dX0_isMoreSpecial_15 ?_
    refine r_rrs E.p (fun rr12 => ?_)
    obtain ⟨p13, q14, e⟩ := bd_o e
    have k15 := kX0_isFitting (G := G) 16  q14
    have z16 := (k15 rr12).1.2.2.2
    refine r_callS (j := none) 3 [tr o0, tr o1, tr (some p10.1)] k15 (injO_0 E.p) subO_0 getO_0 setO_0 (lw_S q823 q824 q115 q825) (by decide +kernel) rfl (Nat.le_of_ble_eq_true rfl) (Nat.le_of_ble_eq_true rfl) rfl (Nat.le_of_ble_eq_true rfl) dX0_isMoreSpecial_18 rfl ?_
    refine r_rrs E.p (fun rr17 => ?_)
    have eT := (r_ifo e).1
    have eF := (r_ifo e).2
    refine r_if_ne (rI_z z16) 28 dX0_isMoreSpecial_21 (by decide) (fun c18 => ?_) (fun c18 => ?_)
    · have e := eT c18
      refine r_sub [] rfl ?_
      exact wX0_isMoreSpecial_b28 E p13.2 e
    · have e := eF c18
      refine r_iconst dX0_isMoreSpecial_24 ?_
      refine r_goto 29 dX0_isMoreSpecial_25 (by decide) ?_
      refine r_sub [] rfl ?_
      exact wX0_isMoreSpecial_b29 E p13.2 1 (by decide) e
theorem fG_X0_268 : FldG RX0 268 [(0, 5)] := List.forall_mem_cons.mpr ⟨⟨RX0, TX0, 36, "DictProof", rfl, in_X0, by decide, q286, Or.inl rfl⟩, fun _ h => absurd h List.not_mem_nil⟩
theorem fG_X0_132 : FldG RX0 132 [(0, 21)] := List.forall_mem_cons.mpr ⟨⟨RX0, TX0, 36, "DictProof", rfl, in_X0, by decide, q302, Or.inl rfl⟩, fun _ h => absurd h List.not_mem_nil⟩
theorem fG_X0_251 : FldG RX0 251 [(1, 2), (2, 2), (3, 2), (4, 2), (5, 2)] := List.forall_mem_cons.mpr ⟨⟨RX1, TX1, 6, "DictProof$Instance", rfl, in_X1, by decide, q173, Or.inl rfl⟩, List.forall_mem_cons.mpr ⟨⟨RX2, TX2, 6, "DictProof$Instance", rfl, in_X2, by decide, q173, Or.inl rfl⟩, List.forall_mem_cons.mpr ⟨⟨RX3, TX3, 6, "DictProof$Instance", rfl, in_X3, by decide, q173, Or.inl rfl⟩, List.forall_mem_cons.mpr ⟨⟨RX4, TX4, 6, "DictProof$Instance", rfl, in_X4, by decide, q173, Or.inl rfl⟩, List.forall_mem_cons.mpr ⟨⟨RX5, TX5, 6, "DictProof$Instance", rfl, in_X5, by decide, q173, Or.inl rfl⟩, fun _ h => absurd h List.not_mem_nil⟩⟩⟩⟩⟩
theorem fG_X0_136 : FldG RX0 136 [(0, 22)] := List.forall_mem_cons.mpr ⟨⟨RX0, TX0, 36, "DictProof", rfl, in_X0, by decide, q303, Or.inl rfl⟩, fun _ h => absurd h List.not_mem_nil⟩
def fX0_layPairs_b134 (K2 : Option Nat × Option Nat → Sg → hS → Int → Option (Sg × hS)) (gs : Option Nat × Option Nat) (s : Sg) (h : hS) (a1 : Int) (k1 : Int) (k2 : Int) : Option (Sg × hS) := gd (inb k1 36) (gd (k2 = 0 ∨ k2 = 1) (K2 gs (sA s 22 k1 k2) h (wr (a1 + 1))))
theorem wX0_layPairs_b134 {N : Nx} {b : Nat} {ad : Nat → Nat} {s' : Sg} {h' : hS} (E : EndX N [(0, b, ad)] 5 none none [s'] h') (K2 : Option Nat × Option Nat → Sg → hS → Int → Option (Sg × hS)) (hK2 : ∀ (s : Sg) (h : hS) (a1 : Int) (ha1 : rI a1), K2 (nG N).2.2.2 s h a1 = some (s', h') → AtPc cX0_layPairs RX0 58 1391 N [s] h 2 [(0, tr (some b)), (1, ti a1)] []) (s : Sg) (h : hS) (a1 : Int) (k1 : Int) (k2 : Int) (ha1 : rI a1) (hk1 : rI k1) (hk2 : rI k2) (e : fX0_layPairs_b134 K2 (nG N).2.2.2 s h a1 k1 k2 = some (s', h')) : AtPc cX0_layPairs RX0 58 1391 N [s] h 134 [(0, tr (some b)), (1, ti a1)] [ti k2, ti k1, tr (some (ad 22))] := by
  unfold fX0_layPairs_b134 at e
  refine r_rrs E.p (fun rr => ?_)
  obtain ⟨g1, e⟩ := gd_o e
  obtain ⟨g2, e⟩ := gd_o e
  refine r_saP E.p 22 rfl (by decide) (by decide) hk1 g1 g2 rfl dX0_layPairs_134 ?_
  refine r_rrs E.p (fun rr3 => ?_)
  refine r_iinc (lv' := [(1, ti (wr (a1 + 1))), (0, tr (some b))]) dX0_layPairs_135 1 rfl (E.lt (by decide)) rfl ?_
  refine r_goto 2 dX0_layPairs_138 (by decide) ?_
  refine r_sub [1, 0] rfl ?_
  exact hK2 (sA s 22 k1 k2) h (wr (a1 + 1)) (wr_r _) e
def fX0_layPairs_b133 (K2 : Option Nat × Option Nat → Sg → hS → Int → Option (Sg × hS)) (gs : Option Nat × Option Nat) (s : Sg) (h : hS) (a1 : Int) (k1 : Int) : Option (Sg × hS) := fX0_layPairs_b134 K2 gs s h a1 k1 0
theorem wX0_layPairs_b133 {N : Nx} {b : Nat} {ad : Nat → Nat} {s' : Sg} {h' : hS} (E : EndX N [(0, b, ad)] 5 none none [s'] h') (K2 : Option Nat × Option Nat → Sg → hS → Int → Option (Sg × hS)) (hK2 : ∀ (s : Sg) (h : hS) (a1 : Int) (ha1 : rI a1), K2 (nG N).2.2.2 s h a1 = some (s', h') → AtPc cX0_layPairs RX0 58 1391 N [s] h 2 [(0, tr (some b)), (1, ti a1)] []) (s : Sg) (h : hS) (a1 : Int) (k1 : Int) (ha1 : rI a1) (hk1 : rI k1) (e : fX0_layPairs_b133 K2 (nG N).2.2.2 s h a1 k1 = some (s', h')) : AtPc cX0_layPairs RX0 58 1391 N [s] h 133 [(0, tr (some b)), (1, ti a1)] [ti k1, tr (some (ad 22))] := by
  unfold fX0_layPairs_b133 at e
  refine r_rrs E.p (fun rr => ?_)
  refine r_iconst dX0_layPairs_133 ?_
  exact wX0_layPairs_b134 E K2 hK2 s h a1 k1 0 ha1 hk1 (by decide) e
def fX0_layPairs_b94 (K2 : Option Nat × Option Nat → Sg → hS → Int → Option (Sg × hS)) (gs : Option Nat × Option Nat) (s : Sg) (h : hS) (a1 : Int) (a2 : Int) (a3 : Int) (a4 : Int) (k1 : Int) (k2 : Int) : Option (Sg × hS) := gd (inb k1 36) (gd (k2 = 0 ∨ k2 = 1) (if a4 = 0 then fX0_layPairs_b133 K2 gs (sA s 21 k1 k2) h a1 a1 else gd (inb a2 6) (bd (hQ h (gQ (sA s 21 k1 k2) 4 a2) [(1, 2), (2, 2), (3, 2), (4, 2), (5, 2)]) fun v6 => gd (inb a3 6) (bd (hQ h (gQ (sA s 21 k1 k2) 4 a3) [(1, 2), (2, 2), (3, 2), (4, 2), (5, 2)]) fun v9 => bd (fX0_isMoreSpecial h v6 v9) fun p11 => if p11.1 = 0 then fX0_layPairs_b133 K2 gs (sA s 21 k1 k2) p11.2 a1 a1 else fX0_layPairs_b134 K2 gs (sA s 21 k1 k2) p11.2 a1 a1 1))))
theorem wX0_layPairs_b94 {N : Nx} {b : Nat} {ad : Nat → Nat} {s' : Sg} {h' : hS} (E : EndX N [(0, b, ad)] 5 none none [s'] h') (K2 : Option Nat × Option Nat → Sg → hS → Int → Option (Sg × hS)) (hK2 : ∀ (s : Sg) (h : hS) (a1 : Int) (ha1 : rI a1), K2 (nG N).2.2.2 s h a1 = some (s', h') → AtPc cX0_layPairs RX0 58 1391 N [s] h 2 [(0, tr (some b)), (1, ti a1)] []) (s : Sg) (h : hS) (a1 : Int) (a2 : Int) (a3 : Int) (a4 : Int) (k1 : Int) (k2 : Int) (ha1 : rI a1) (ha2 : rI a2) (ha3 : rI a3) (ha4 : rI a4) (hk1 : rI k1) (hk2 : rI k2) (e : fX0_layPairs_b94 K2 (nG N).2.2.2 s h a1 a2 a3 a4 k1 k2 = some (s', h')) : AtPc cX0_layPairs RX0 58 1391 N [s] h 94 [(0, tr (some b)), (1, ti a1), (2, ti a2), (3, ti a3), (4, ti a4)] [ti k2, ti k1, tr (some (ad 21))] := by
  unfold fX0_layPairs_b94 at e
  refine r_rrs E.p (fun rr => ?_)
  obtain ⟨g1, e⟩ := gd_o e
  obtain ⟨g2, e⟩ := gd_o e
  refine r_saP E.p 21 rfl (by decide) (by decide) hk1 g1 g2 rfl dX0_layPairs_94 ?_
  refine r_rrs E.p (fun rr3 => ?_)
  refine r_aload_n dX0_layPairs_95 rfl 0 rfl ?_
  refine r_sR E.p 22 fG_X0_136 (by decide) dX0_layPairs_96 ?_
  refine r_iload_n dX0_layPairs_99 rfl 1 rfl ?_
  refine r_iload dX0_layPairs_100 4 rfl ?_
  have eT := (r_ifo e).1
  have eF := (r_ifo e).2
  refine r_if_eq ha4 133 dX0_layPairs_102 (by decide) (fun c4 => ?_) (fun c4 => ?_)
  · have e := eT c4
    refine r_sub [0, 1] rfl ?_
    exact wX0_layPairs_b133 E K2 hK2 (sA s 21 k1 k2) h a1 a1 ha1 ha1 e
  · have e := eF c4
    refine r_aload_n dX0_layPairs_105 rfl 0 rfl ?_
    refine r_sR E.p 4 fG_X0_114 (by decide) dX0_layPairs_106 ?_
    refine r_iload_n dX0_layPairs_109 rfl 2 rfl ?_
    obtain ⟨g5, e⟩ := gd_o e
    refine r_saQ E.p 4 rfl (by decide) (by decide) (by decide) ha2 g5 dX0_layPairs_110 ?_
    obtain ⟨v6, q7, e⟩ := bd_o e
    refine r_getQ fG_X0_251 q7 dX0_layPairs_111 ?_
    refine r_aload_n dX0_layPairs_114 rfl 0 rfl ?_
    refine r_sR E.p 4 fG_X0_114 (by decide) dX0_layPairs_115 ?_
    refine r_iload_n dX0_layPairs_118 rfl 3 rfl ?_
    obtain ⟨g8, e⟩ := gd_o e
    refine r_saQ E.p 4 rfl (by decide) (by decide) (by decide) ha3 g8 dX0_layPairs_119 ?_
    obtain ⟨v9, q10, e⟩ := bd_o e
    refine r_getQ fG_X0_251 q10 dX0_layPairs_120 ?_
    obtain ⟨p11, q12, e⟩ := bd_o e
    have k13 := kX0_isMoreSpecial (G := nG N)  q12
    have z14 := (k13 rr3.none).1.2.2.2
    refine r_callS (j := none) 2 [tr v6, tr v9] k13 (injO_1 E.p) subO_0 getO_0 setO_0 (lw_S q820 q821 q115 q822) (by decide +kernel) rfl (Nat.le_of_ble_eq_true rfl) (Nat.le_of_ble_eq_true rfl) rfl (Nat.le_of_ble_eq_true rfl) dX0_layPairs_123 rfl ?_
    refine r_rrs E.p (fun rr15 => ?_)
    have eT := (r_ifo e).1
    have eF := (r_ifo e).2
    refine r_if_eq (rI_z z14) 133 dX0_layPairs_126 (by decide) (fun c16 => ?_) (fun c16 => ?_)
    · have e := eT c16
      refine r_sub [0, 1] rfl ?_
      exact wX0_layPairs_b133 E K2 hK2 (sA s 21 k1 k2) p11.2 a1 a1 ha1 ha1 e
    · have e := eF c16
      refine r_iconst dX0_layPairs_129 ?_
      refine r_goto 134 dX0_layPairs_130 (by decide) ?_
      refine r_sub [0, 1] rfl ?_
      exact wX0_layPairs_b134 E K2 hK2 (sA s 21 k1 k2) p11.2 a1 a1 1 ha1 ha1 (by decide) e
def fX0_layPairs_b93 (K2 : Option Nat × Option Nat → Sg → hS → Int → Option (Sg × hS)) (gs : Option Nat × Option Nat) (s : Sg) (h : hS) (a1 : Int) (a2 : Int) (a3 : Int) (a4 : Int) (k1 : Int) : Option (Sg × hS) := fX0_layPairs_b94 K2 gs s h a1 a2 a3 a4 k1 0
theorem wX0_layPairs_b93 {N : Nx} {b : Nat} {ad : Nat → Nat} {s' : Sg} {h' : hS} (E : EndX N [(0, b, ad)] 5 none none [s'] h') (K2 : Option Nat × Option Nat → Sg → hS → Int → Option (Sg × hS)) (hK2 : ∀ (s : Sg) (h : hS) (a1 : Int) (ha1 : rI a1), K2 (nG N).2.2.2 s h a1 = some (s', h') → AtPc cX0_layPairs RX0 58 1391 N [s] h 2 [(0, tr (some b)), (1, ti a1)] []) (s : Sg) (h : hS) (a1 : Int) (a2 : Int) (a3 : Int) (a4 : Int) (k1 : Int) (ha1 : rI a1) (ha2 : rI a2) (ha3 : rI a3) (ha4 : rI a4) (hk1 : rI k1) (e : fX0_layPairs_b93 K2 (nG N).2.2.2 s h a1 a2 a3 a4 k1 = some (s', h')) : AtPc cX0_layPairs RX0 58 1391 N [s] h 93 [(0, tr (some b)), (1, ti a1), (2, ti a2), (3, ti a3), (4, ti a4)] [ti k1, tr (some (ad 21))] := by
  unfold fX0_layPairs_b93 at e
  refine r_rrs E.p (fun rr => ?_)
  refine r_iconst dX0_layPairs_93 ?_
  exact wX0_layPairs_b94 E K2 hK2 s h a1 a2 a3 a4 k1 0 ha1 ha2 ha3 ha4 hk1 (by decide) e
def fX0_layPairs_b44 (K2 : Option Nat × Option Nat → Sg → hS → Int → Option (Sg × hS)) (gs : Option Nat × Option Nat) (s : Sg) (h : hS) (a1 : Int) (a2 : Int) (a3 : Int) (k0 : Int) : Option (Sg × hS) := if k0 = 0 then fX0_layPairs_b93 K2 gs s h a1 a2 a3 k0 a1 else gd (inb a2 6) (bd (hQ h (gQ s 4 a2) [(1, 2), (2, 2), (3, 2), (4, 2), (5, 2)]) fun v3 => gd (inb a3 6) (bd (hQ h (gQ s 4 a3) [(1, 2), (2, 2), (3, 2), (4, 2), (5, 2)]) fun v6 => bd (nwS h 11 [vq none, vq none, vq none, vq none, vi 0, vi 0, vi 0, .inr (.inr (.inl 0))]) fun p8 => bd (fJ1_init p8.2 (some p8.1)) fun p11 => bd (fX0_isMade 16 gs p11 v3 0 v6 2 (some p8.1)) fun p16 => if p16.1 = 0 then fX0_layPairs_b93 K2 gs s p16.2 a1 a2 a3 k0 a1 else fX0_layPairs_b94 K2 gs s p16.2 a1 a2 a3 k0 a1 1))
theorem wX0_layPairs_b44 {N : Nx} {b : Nat} {ad : Nat → Nat} {s' : Sg} {h' : hS} (E : EndX N [(0, b, ad)] 5 none none [s'] h') (K2 : Option Nat × Option Nat → Sg → hS → Int → Option (Sg × hS)) (hK2 : ∀ (s : Sg) (h : hS) (a1 : Int) (ha1 : rI a1), K2 (nG N).2.2.2 s h a1 = some (s', h') → AtPc cX0_layPairs RX0 58 1391 N [s] h 2 [(0, tr (some b)), (1, ti a1)] []) (s : Sg) (h : hS) (a1 : Int) (a2 : Int) (a3 : Int) (k0 : Int) (ha1 : rI a1) (ha2 : rI a2) (ha3 : rI a3) (hk0 : rI k0) (e : fX0_layPairs_b44 K2 (nG N).2.2.2 s h a1 a2 a3 k0 = some (s', h')) : AtPc cX0_layPairs RX0 58 1391 N [s] h 44 [(0, tr (some b)), (1, ti a1), (2, ti a2), (3, ti a3)] [ti k0] := by
  unfold fX0_layPairs_b44 at e
  refine r_rrs E.p (fun rr => ?_)
  refine r_istore (lv' := [(4, ti k0), (0, tr (some b)), (1, ti a1), (2, ti a2), (3, ti a3)]) dX0_layPairs_44 (E.lt (by decide)) rfl ?_
  refine r_aload_n dX0_layPairs_46 rfl 1 rfl ?_
  refine r_sR E.p 21 fG_X0_132 (by decide) dX0_layPairs_47 ?_
  refine r_iload_n dX0_layPairs_50 rfl 2 rfl ?_
  refine r_iload dX0_layPairs_51 0 rfl ?_
  have eT := (r_ifo e).1
  have eF := (r_ifo e).2
  refine r_if_eq hk0 93 dX0_layPairs_53 (by decide) (fun c1 => ?_) (fun c1 => ?_)
  · have e := eT c1
    refine r_sub [1, 2, 3, 4, 0] rfl ?_
    exact wX0_layPairs_b93 E K2 hK2 s h a1 a2 a3 k0 a1 ha1 ha2 ha3 hk0 ha1 e
  · have e := eF c1
    refine r_aload_n dX0_layPairs_56 rfl 1 rfl ?_
    refine r_sR E.p 4 fG_X0_114 (by decide) dX0_layPairs_57 ?_
    refine r_iload_n dX0_layPairs_60 rfl 3 rfl ?_
    obtain ⟨g2, e⟩ := gd_o e
    refine r_saQ E.p 4 rfl (by decide) (by decide) (by decide) ha2 g2 dX0_layPairs_61 ?_
    obtain ⟨v3, q4, e⟩ := bd_o e
    refine r_getQ fG_X0_251 q4 dX0_layPairs_62 ?_
    refine r_iconst dX0_layPairs_65 ?_
    refine r_aload_n dX0_layPairs_66 rfl 1 rfl ?_
    refine r_sR E.p 4 fG_X0_114 (by decide) dX0_layPairs_67 ?_
    refine r_iload_n dX0_layPairs_70 rfl 4 rfl ?_
    obtain ⟨g5, e⟩ := gd_o e
    refine r_saQ E.p 4 rfl (by decide) (by decide) (by decide) ha3 g5 dX0_layPairs_71 ?_
    obtain ⟨v6, q7, e⟩ := bd_o e
    refine r_getQ fG_X0_251 q7 dX0_layPairs_72 ?_
    refine r_iconst dX0_layPairs_75 ?_
    obtain ⟨p8, q9, e⟩ := bd_o e
    refine r_newS [vq none, vq none, vq none, vq none, vi 0, vi 0, vi 0, .inr (.inr (.inl 0))] q9 rfl in_J1 tyJ1_ok q249 q250 q122 (by decide +kernel) rfl (by decide +kernel) dX0_layPairs_76 ?_
    refine r_rrs E.p (fun rr10 => ?_)
    refine r_dup dX0_layPairs_79 rfl ?_
    obtain ⟨p11, q12, e⟩ := bd_o e
    have k13 := kJ1_init (G := nG N)  q12
    have z14 := (k13 rr10.none).1.2.2.2
    refine r_callIo (j := none) 0 [] (fun q => by cases q) rfl rfl k13 (injO_1 E.p) subO_0 getO_0 setO_0 q253 q122 q251 q252 (by decide +kernel) rfl (Nat.le_of_ble_eq_true rfl) (Nat.le_of_ble_eq_true rfl) rfl (Nat.le_of_ble_eq_true rfl) dX0_layPairs_80 rfl ?_
    refine r_rrs E.p (fun rr15 => ?_)
    obtain ⟨p16, q17, e⟩ := bd_o e
    have k18 := kX0_isMade (G := nG N) 16 (by decide) (by decide) q17
    have z19 := (k18 rr15.none).1.2.2.2
    refine r_callS (j := none) 5 [tr v3, ti 0, tr v6, ti 2, tr (some p8.1)] k18 (injO_1 E.p) subO_0 getO_0 setO_0 (lw_S q486 q487 q115 q488) (by decide +kernel) rfl (Nat.le_of_ble_eq_true rfl) (Nat.le_of_ble_eq_true rfl) rfl (Nat.le_of_ble_eq_true rfl) dX0_layPairs_83 rfl ?_
    refine r_rrs E.p (fun rr20 => ?_)
    have eT := (r_ifo e).1
    have eF := (r_ifo e).2
    refine r_if_eq (rI_z z19) 93 dX0_layPairs_86 (by decide) (fun c21 => ?_) (fun c21 => ?_)
    · have e := eT c21
      refine r_sub [1, 2, 3, 4, 0] rfl ?_
      exact wX0_layPairs_b93 E K2 hK2 s p16.2 a1 a2 a3 k0 a1 ha1 ha2 ha3 hk0 ha1 e
    · have e := eF c21
      refine r_iconst dX0_layPairs_89 ?_
      refine r_goto 94 dX0_layPairs_90 (by decide) ?_
      refine r_sub [1, 2, 3, 4, 0] rfl ?_
      exact wX0_layPairs_b94 E K2 hK2 s p16.2 a1 a2 a3 k0 a1 1 ha1 ha2 ha3 hk0 ha1 (by decide) e
def fX0_layPairs_b43 (K2 : Option Nat × Option Nat → Sg → hS → Int → Option (Sg × hS)) (gs : Option Nat × Option Nat) (s : Sg) (h : hS) (a1 : Int) (a2 : Int) (a3 : Int) : Option (Sg × hS) := fX0_layPairs_b44 K2 gs s h a1 a2 a3 0
theorem wX0_layPairs_b43 {N : Nx} {b : Nat} {ad : Nat → Nat} {s' : Sg} {h' : hS} (E : EndX N [(0, b, ad)] 5 none none [s'] h') (K2 : Option Nat × Option Nat → Sg → hS → Int → Option (Sg × hS)) (hK2 : ∀ (s : Sg) (h : hS) (a1 : Int) (ha1 : rI a1), K2 (nG N).2.2.2 s h a1 = some (s', h') → AtPc cX0_layPairs RX0 58 1391 N [s] h 2 [(0, tr (some b)), (1, ti a1)] []) (s : Sg) (h : hS) (a1 : Int) (a2 : Int) (a3 : Int) (ha1 : rI a1) (ha2 : rI a2) (ha3 : rI a3) (e : fX0_layPairs_b43 K2 (nG N).2.2.2 s h a1 a2 a3 = some (s', h')) : AtPc cX0_layPairs RX0 58 1391 N [s] h 43 [(0, tr (some b)), (1, ti a1), (2, ti a2), (3, ti a3)] [] := by
  unfold fX0_layPairs_b43 at e
  refine r_rrs E.p (fun rr => ?_)
  refine r_iconst dX0_layPairs_43 ?_
  exact wX0_layPairs_b44 E K2 hK2 s h a1 a2 a3 0 ha1 ha2 ha3 (by decide) e
def fX0_layPairs_b2 (K2 : Option Nat × Option Nat → Sg → hS → Int → Option (Sg × hS)) (gs : Option Nat × Option Nat) (s : Sg) (h : hS) (a1 : Int) : Option (Sg × hS) := if 36 ≤ a1 then some (s, h) else if (gI s 5) ≤ (idv a1 6) then fX0_layPairs_b43 K2 gs s h a1 (idv a1 6) (irm a1 6) else if (gI s 5) ≤ (irm a1 6) then fX0_layPairs_b43 K2 gs s h a1 (idv a1 6) (irm a1 6) else if (idv a1 6) = (irm a1 6) then fX0_layPairs_b43 K2 gs s h a1 (idv a1 6) (irm a1 6) else fX0_layPairs_b44 K2 gs s h a1 (idv a1 6) (irm a1 6) 1
theorem wX0_layPairs_b2 {N : Nx} {b : Nat} {ad : Nat → Nat} {s' : Sg} {h' : hS} (E : EndX N [(0, b, ad)] 5 none none [s'] h') (K2 : Option Nat × Option Nat → Sg → hS → Int → Option (Sg × hS)) (hK2 : ∀ (s : Sg) (h : hS) (a1 : Int) (ha1 : rI a1), K2 (nG N).2.2.2 s h a1 = some (s', h') → AtPc cX0_layPairs RX0 58 1391 N [s] h 2 [(0, tr (some b)), (1, ti a1)] []) (s : Sg) (h : hS) (a1 : Int) (ha1 : rI a1) (e : fX0_layPairs_b2 K2 (nG N).2.2.2 s h a1 = some (s', h')) : AtPc cX0_layPairs RX0 58 1391 N [s] h 2 [(0, tr (some b)), (1, ti a1)] [] := by
  unfold fX0_layPairs_b2 at e
  refine r_rrs E.p (fun rr => ?_)
  refine r_iload_n dX0_layPairs_2 rfl 1 rfl ?_
  refine r_bipush dX0_layPairs_3 (by decide) ?_
  have eT := (r_ifo e).1
  have eF := (r_ifo e).2
  refine r_icmp_ge ha1 (by decide) 141 dX0_layPairs_5 (by decide) (fun c1 => ?_) (fun c1 => ?_)
  · have e := eT c1
    cases e
    exact r_vret E.σ E.st E.rt E.r dX0_layPairs_141
  · have e := eF c1
    refine r_iload_n dX0_layPairs_8 rfl 1 rfl ?_
    refine r_bipush dX0_layPairs_9 (by decide) ?_
    refine r_idiv (by decide) (by decide) dX0_layPairs_11 ?_
    refine r_istore_n (lv' := [(2, ti (idv a1 6)), (0, tr (some b)), (1, ti a1)]) dX0_layPairs_12 rfl (E.lt (by decide)) rfl ?_
    refine r_iload_n dX0_layPairs_13 rfl 2 rfl ?_
    refine r_bipush dX0_layPairs_14 (by decide) ?_
    refine r_irem (by decide) (by decide) dX0_layPairs_16 ?_
    refine r_istore_n (lv' := [(3, ti (irm a1 6)), (2, ti (idv a1 6)), (0, tr (some b)), (1, ti a1)]) dX0_layPairs_17 rfl (E.lt (by decide)) rfl ?_
    refine r_iload_n dX0_layPairs_18 rfl 1 rfl ?_
    refine r_aload_n dX0_layPairs_19 rfl 2 rfl ?_
    refine r_sI E.p 5 fG_X0_268 (by decide) dX0_layPairs_20 ?_
    have eT := (r_ifo e).1
    have eF := (r_ifo e).2
    refine r_icmp_ge (idv_r _ _) ((rr.mine rfl).i 5 (by decide) (by decide)) 43 dX0_layPairs_23 (by decide) (fun c2 => ?_) (fun c2 => ?_)
    · have e := eT c2
      refine r_sub [2, 3, 1, 0] rfl ?_
      exact wX0_layPairs_b43 E K2 hK2 s h a1 (idv a1 6) (irm a1 6) ha1 (idv_r _ _) (irm_r _ _) e
    · have e := eF c2
      refine r_iload_n dX0_layPairs_26 rfl 0 rfl ?_
      refine r_aload_n dX0_layPairs_27 rfl 2 rfl ?_
      refine r_sI E.p 5 fG_X0_268 (by decide) dX0_layPairs_28 ?_
      have eT := (r_ifo e).1
      have eF := (r_ifo e).2
      refine r_icmp_ge (irm_r _ _) ((rr.mine rfl).i 5 (by decide) (by decide)) 43 dX0_layPairs_31 (by decide) (fun c3 => ?_) (fun c3 => ?_)
      · have e := eT c3
        refine r_sub [2, 3, 1, 0] rfl ?_
        exact wX0_layPairs_b43 E K2 hK2 s h a1 (idv a1 6) (irm a1 6) ha1 (idv_r _ _) (irm_r _ _) e
      · have e := eF c3
        refine r_iload_n dX0_layPairs_34 rfl 1 rfl ?_
        refine r_iload_n dX0_layPairs_35 rfl 0 rfl ?_
        have eT := (r_ifo e).1
        have eF := (r_ifo e).2
        refine r_icmp_eq (idv_r _ _) (irm_r _ _) 43 dX0_layPairs_36 (by decide) (fun c4 => ?_) (fun c4 => ?_)
        · have e := eT c4
          refine r_sub [2, 3, 1, 0] rfl ?_
          exact wX0_layPairs_b43 E K2 hK2 s h a1 (idv a1 6) (irm a1 6) ha1 (idv_r _ _) (irm_r _ _) e
        · have e := eF c4
          refine r_iconst dX0_layPairs_39 ?_
          refine r_goto 44 dX0_layPairs_40 (by decide) ?_
          refine r_sub [2, 3, 1, 0] rfl ?_
          exact wX0_layPairs_b44 E K2 hK2 s h a1 (idv a1 6) (irm a1 6) 1 ha1 (idv_r _ _) (irm_r _ _) (by decide) e
def fX0_layPairs_L2  : Nat → Option Nat × Option Nat → Sg → hS → Int → Option (Sg × hS)
  | 0, _, _, _, _ => none
  | n9 + 1, gs, s, h, a1 => fX0_layPairs_b2 (fX0_layPairs_L2 n9) gs s h a1
theorem wX0_layPairs_L2 {N : Nx} {b : Nat} {ad : Nat → Nat} {s' : Sg} {h' : hS} (E : EndX N [(0, b, ad)] 5 none none [s'] h')  : ∀ (n9 : Nat), ∀ (s : Sg) (h : hS) (a1 : Int) (ha1 : rI a1), fX0_layPairs_L2 n9 (nG N).2.2.2 s h a1 = some (s', h') → AtPc cX0_layPairs RX0 58 1391 N [s] h 2 [(0, tr (some b)), (1, ti a1)] [] := by
  intro n9
  induction n9 with
  | zero => intro s h a1 ha1 e; cases e
  | succ n9 ih => intro s h a1 ha1 e; exact wX0_layPairs_b2 E _ ih s h a1 ha1 e
def fX0_layPairs  (gs : Option Nat × Option Nat) (s : Sg) (h : hS) : Option (Sg × hS) := fX0_layPairs_L2 FU gs s h 0
theorem kX0_layPairs {G : Gx}  {b : Nat} {ad : Nat → Nat} {s' : Sg} {h' : hS} {s : Sg} {h : hS}    (e : fX0_layPairs G.2.2.2 s h = some (s', h')) : CtX G yX0_layPairs cX0_layPairs 5 none 58 1391 [(0, b, ad)] [s] h [tr (some b)] none [s'] h' := by
  refine CtX.of (by decide) (Nat.le_of_ble_eq_true rfl) [(0, tr (some b))] rfl ?_
  have E : EndX (G, 5, [(0, b, ad)], h, [s'], h', none, none, yX0_layPairs.name) [(0, b, ad)] 5 none none [s'] h' := ⟨rfl, rfl, rfl, rfl, rfl, rfl⟩
  unfold fX0_layPairs at e
  refine r_rrs E.p (fun rr => ?_)
  refine r_iconst dX0_layPairs_0 ?_
  refine r_istore_n (lv' := [(1, ti 0), (0, tr (some b))]) dX0_layPairs_1 rfl (E.lt (by decide)) rfl ?_
  refine r_sub [1, 0] rfl ?_
  exact wX0_layPairs_L2 E FU s h 0 (by decide) e
theorem fP_X0_268 : FldP RX0 268 [(0, 5)] .int false := List.forall_mem_cons.mpr ⟨⟨RX0, TX0, 36, "DictProof", tyX0, rfl, in_X0, by decide, q286, Or.inl rfl, tyX0_ok, nmX0, rfl, Or.inl rfl, by decide⟩, fun _ h => absurd h List.not_mem_nil⟩
theorem fP_X0_276 : FldP RX0 276 [(0, 26)] .int false := List.forall_mem_cons.mpr ⟨⟨RX0, TX0, 36, "DictProof", tyX0, rfl, in_X0, by decide, q307, Or.inl rfl, tyX0_ok, nmX0, rfl, Or.inl rfl, by decide⟩, fun _ h => absurd h List.not_mem_nil⟩
theorem fG_X0_279 : FldG RX0 279 [(0, 7)] := List.forall_mem_cons.mpr ⟨⟨RX0, TX0, 36, "DictProof", rfl, in_X0, by decide, q288, Or.inl rfl⟩, fun _ h => absurd h List.not_mem_nil⟩
theorem fP_X0_279 : FldP RX0 279 [(0, 7)] .int false := List.forall_mem_cons.mpr ⟨⟨RX0, TX0, 36, "DictProof", tyX0, rfl, in_X0, by decide, q288, Or.inl rfl, tyX0_ok, nmX0, rfl, Or.inl rfl, by decide⟩, fun _ h => absurd h List.not_mem_nil⟩
theorem fG_X0_128 : FldG RX0 128 [(0, 20)] := List.forall_mem_cons.mpr ⟨⟨RX0, TX0, 36, "DictProof", rfl, in_X0, by decide, q301, Or.inl rfl⟩, fun _ h => absurd h List.not_mem_nil⟩
theorem fG_X0_117 : FldG RX0 117 [(0, 6)] := List.forall_mem_cons.mpr ⟨⟨RX0, TX0, 36, "DictProof", rfl, in_X0, by decide, q287, Or.inl rfl⟩, fun _ h => absurd h List.not_mem_nil⟩
def fX0_book_b51 (gs : Option Nat × Option Nat) (pm : Option Nat) (s : Sg) (h : hS) : Option (Int × Sg × hS) := some ((-103), s, h)
theorem wX0_book_b51 {N : Nx} {b : Nat} {ad : Nat → Nat} {s' : Sg} {h' : hS} {r : Int} (E : EndX N [(0, b, ad)] 2 (some .int) (some (ti r)) [s'] h')  (s : Sg) (h : hS) (e : fX0_book_b51 (nG N).2.2.2 (some (ad 20)) s h = some (r, s', h')) : AtPc cX0_book RX0 59 1415 N [s] h 51 [] [] := by
  unfold fX0_book_b51 at e
  refine r_rrs E.p (fun rr => ?_)
  refine r_bipush dX0_book_51 (by decide) ?_
  cases e
  exact r_iret E.σ E.st E.rt E.r (by decide) dX0_book_53
def fX0_book_b105 (K68 : Option Nat × Option Nat → Option Nat → Sg → hS → Int → Option (Int × Sg × hS)) (gs : Option Nat × Option Nat) (pm : Option Nat) (s : Sg) (h : hS) (a1 : Int) (k1 : Int) (k2 : Int) : Option (Int × Sg × hS) := bd (fX0_layInstance s h k1 k2) fun p1 => K68 gs pm p1.1 p1.2 (wr (a1 + 1))
theorem wX0_book_b105 {N : Nx} {b : Nat} {ad : Nat → Nat} {s' : Sg} {h' : hS} {r : Int} (E : EndX N [(0, b, ad)] 2 (some .int) (some (ti r)) [s'] h') (K68 : Option Nat × Option Nat → Option Nat → Sg → hS → Int → Option (Int × Sg × hS)) (hK68 : ∀ (s : Sg) (h : hS) (a1 : Int) (ha1 : rI a1), K68 (nG N).2.2.2 (some (ad 20)) s h a1 = some (r, s', h') → AtPc cX0_book RX0 59 1415 N [s] h 68 [(0, tr (some b)), (1, ti a1)] []) (s : Sg) (h : hS) (a1 : Int) (k1 : Int) (k2 : Int) (ha1 : rI a1) (hk1 : rI k1) (hk2 : rI k2) (e : fX0_book_b105 K68 (nG N).2.2.2 (some (ad 20)) s h a1 k1 k2 = some (r, s', h')) : AtPc cX0_book RX0 59 1415 N [s] h 105 [(0, tr (some b)), (1, ti a1)] [ti k2, ti k1, tr (some b)] := by
  unfold fX0_book_b105 at e
  refine r_rrs E.p (fun rr => ?_)
  obtain ⟨p1, q2, e⟩ := bd_o e
  have k3 := kX0_layInstance (G := nG N) (b := b) (ad := ad) hk1 hk2 q2
  have z4 := (k3 rr).1.2.2.2
  refine r_callV (j := some 0) 2 [ti k1, ti k2] (rec_sg (j := 0) (r := (RX0, TX0, 36)) rfl (by rw [E.p]; rfl)) rfl k3 (injO_1 E.p) (subO_1 E.p) getO_1 setO_1 (lw_V q453 q455 qs6 q115 q456) (by decide +kernel) rfl (Nat.le_of_ble_eq_true rfl) (Nat.le_of_ble_eq_true rfl) rfl (Nat.le_of_ble_eq_true rfl) dX0_book_105 rfl ?_
  refine r_rrs E.p (fun rr5 => ?_)
  refine r_iinc (lv' := [(1, ti (wr (a1 + 1))), (0, tr (some b))]) dX0_book_108 1 rfl (E.lt (by decide)) rfl ?_
  refine r_goto 68 dX0_book_111 (by decide) ?_
  refine r_sub [1, 0] rfl ?_
  exact hK68 p1.1 p1.2 (wr (a1 + 1)) (wr_r _) e
def fX0_book_b120 (K120 : Option Nat × Option Nat → Option Nat → Sg → hS → Int → Option (Int × Sg × hS)) (gs : Option Nat × Option Nat) (pm : Option Nat) (s : Sg) (h : hS) (a1 : Int) : Option (Int × Sg × hS) := if 4 ≤ a1 then gd (hC h pm = some 11) (bd (fJ1_clear h pm) fun p5 => some (gI (sI (sI (sI s 26 0) 7 (wr ((gI (sI s 26 0) 7) + 1))) 9 0) 5, sI (sI (sI s 26 0) 7 (wr ((gI (sI s 26 0) 7) + 1))) 9 0, p5)) else gd (inb a1 4) (K120 gs pm (sQ s 6 a1 none) h (wr (a1 + 1)))
theorem wX0_book_b120 {N : Nx} {b : Nat} {ad : Nat → Nat} {s' : Sg} {h' : hS} {r : Int} (E : EndX N [(0, b, ad)] 2 (some .int) (some (ti r)) [s'] h') (K120 : Option Nat × Option Nat → Option Nat → Sg → hS → Int → Option (Int × Sg × hS)) (hK120 : ∀ (s : Sg) (h : hS) (a1 : Int) (ha1 : rI a1), K120 (nG N).2.2.2 (some (ad 20)) s h a1 = some (r, s', h') → AtPc cX0_book RX0 59 1415 N [s] h 120 [(0, tr (some b)), (1, ti a1)] []) (s : Sg) (h : hS) (a1 : Int) (ha1 : rI a1) (e : fX0_book_b120 K120 (nG N).2.2.2 (some (ad 20)) s h a1 = some (r, s', h')) : AtPc cX0_book RX0 59 1415 N [s] h 120 [(0, tr (some b)), (1, ti a1)] [] := by
  unfold fX0_book_b120 at e
  refine r_rrs E.p (fun rr => ?_)
  refine r_iload_n dX0_book_120 rfl 1 rfl ?_
  refine r_iconst dX0_book_121 ?_
  have eT := (r_ifo e).1
  have eF := (r_ifo e).2
  refine r_icmp_ge ha1 (by decide) 138 dX0_book_122 (by decide) (fun c1 => ?_) (fun c1 => ?_)
  · have e := eT c1
    refine r_aload_n dX0_book_138 rfl 0 rfl ?_
    refine r_iconst dX0_book_139 ?_
    refine r_sPI E.p 26 fP_X0_276 rfl (by decide) dX0_book_140 ?_
    refine r_rrs E.p (fun rr2 => ?_)
    refine r_aload_n dX0_book_143 rfl 0 rfl ?_
    refine r_dup dX0_book_144 rfl ?_
    refine r_sI E.p 7 fG_X0_279 (by decide) dX0_book_145 ?_
    refine r_iconst dX0_book_148 ?_
    refine r_iadd dX0_book_149 ?_
    refine r_sPI E.p 7 fP_X0_279 rfl (wr_r _) dX0_book_150 ?_
    refine r_rrs E.p (fun rr3 => ?_)
    refine r_aload_n dX0_book_153 rfl 0 rfl ?_
    refine r_iconst dX0_book_154 ?_
    refine r_sPI E.p 9 fP_X0_174 rfl (by decide) dX0_book_155 ?_
    refine r_rrs E.p (fun rr4 => ?_)
    refine r_aload_n dX0_book_158 rfl 0 rfl ?_
    refine r_sR E.p 20 fG_X0_128 (by decide) dX0_book_159 ?_
    obtain ⟨g7, e⟩ := gd_o e
    obtain ⟨p5, q6, e⟩ := bd_o e
    have k8 := kJ1_clear (G := nG N)  q6
    have z9 := (k8 rr4.none).1.2.2.2
    refine r_callVo (j := none) 0 [] (c := 11) (rc := (RJ1, TJ1, 8)) rfl g7 rfl k8 (injO_1 E.p) subO_0 getO_0 setO_0 (lw_V q827 q828 q829 q122 q830) (by decide +kernel) rfl (Nat.le_of_ble_eq_true rfl) (Nat.le_of_ble_eq_true rfl) rfl (Nat.le_of_ble_eq_true rfl) dX0_book_162 rfl ?_
    refine r_rrs E.p (fun rr10 => ?_)
    refine r_aload_n dX0_book_165 rfl 0 rfl ?_
    refine r_sI E.p 5 fG_X0_268 (by decide) dX0_book_166 ?_
    cases e
    exact r_iret E.σ E.st E.rt E.r ((rr10.mine rfl).i 5 (by decide) (by decide)) dX0_book_169
  · have e := eF c1
    refine r_aload_n dX0_book_125 rfl 0 rfl ?_
    refine r_sR E.p 6 fG_X0_117 (by decide) dX0_book_126 ?_
    refine r_iload_n dX0_book_129 rfl 1 rfl ?_
    refine r_null dX0_book_130 ?_
    obtain ⟨g11, e⟩ := gd_o e
    refine r_saPQ (P := [7]) E.p 6 rfl (by decide) (by decide) (by decide) sto_4 ha1 g11 (Or.inl rfl) dX0_book_131 ?_
    refine r_rrs E.p (fun rr12 => ?_)
    refine r_iinc (lv' := [(1, ti (wr (a1 + 1))), (0, tr (some b))]) dX0_book_132 1 rfl (E.lt (by decide)) rfl ?_
    refine r_goto 120 dX0_book_135 (by decide) ?_
    refine r_sub [1, 0] rfl ?_
    exact hK120 (sQ s 6 a1 none) h (wr (a1 + 1)) (wr_r _) e
def fX0_book_L120  : Nat → Option Nat × Option Nat → Option Nat → Sg → hS → Int → Option (Int × Sg × hS)
  | 0, _, _, _, _, _ => none
  | n9 + 1, gs, pm, s, h, a1 => fX0_book_b120 (fX0_book_L120 n9) gs pm s h a1
theorem wX0_book_L120 {N : Nx} {b : Nat} {ad : Nat → Nat} {s' : Sg} {h' : hS} {r : Int} (E : EndX N [(0, b, ad)] 2 (some .int) (some (ti r)) [s'] h')  : ∀ (n9 : Nat), ∀ (s : Sg) (h : hS) (a1 : Int) (ha1 : rI a1), fX0_book_L120 n9 (nG N).2.2.2 (some (ad 20)) s h a1 = some (r, s', h') → AtPc cX0_book RX0 59 1415 N [s] h 120 [(0, tr (some b)), (1, ti a1)] [] := by
  intro n9
  induction n9 with
  | zero => intro s h a1 ha1 e; cases e
  | succ n9 ih => intro s h a1 ha1 e; exact wX0_book_b120 E _ ih s h a1 ha1 e
def fX0_book_b68 (K68 : Option Nat × Option Nat → Option Nat → Sg → hS → Int → Option (Int × Sg × hS)) (gs : Option Nat × Option Nat) (pm : Option Nat) (s : Sg) (h : hS) (a1 : Int) : Option (Int × Sg × hS) := if (gI s 5) ≤ a1 then bd (fX0_layPairs gs s h) fun p2 => fX0_book_L120 FU gs pm p2.1 p2.2 0 else if ¬ a1 = (wr ((gI s 5) - 1)) then gd (inb (wr (a1 + 1)) 6) (fX0_book_b105 K68 gs pm s h a1 a1 (wr ((gA s 18 (wr (a1 + 1))) - 1))) else fX0_book_b105 K68 gs pm s h a1 a1 (gI s 9)
theorem wX0_book_b68 {N : Nx} {b : Nat} {ad : Nat → Nat} {s' : Sg} {h' : hS} {r : Int} (E : EndX N [(0, b, ad)] 2 (some .int) (some (ti r)) [s'] h') (K68 : Option Nat × Option Nat → Option Nat → Sg → hS → Int → Option (Int × Sg × hS)) (hK68 : ∀ (s : Sg) (h : hS) (a1 : Int) (ha1 : rI a1), K68 (nG N).2.2.2 (some (ad 20)) s h a1 = some (r, s', h') → AtPc cX0_book RX0 59 1415 N [s] h 68 [(0, tr (some b)), (1, ti a1)] []) (s : Sg) (h : hS) (a1 : Int) (ha1 : rI a1) (e : fX0_book_b68 K68 (nG N).2.2.2 (some (ad 20)) s h a1 = some (r, s', h')) : AtPc cX0_book RX0 59 1415 N [s] h 68 [(0, tr (some b)), (1, ti a1)] [] := by
  unfold fX0_book_b68 at e
  refine r_rrs E.p (fun rr => ?_)
  refine r_iload_n dX0_book_68 rfl 1 rfl ?_
  refine r_aload_n dX0_book_69 rfl 0 rfl ?_
  refine r_sI E.p 5 fG_X0_268 (by decide) dX0_book_70 ?_
  have eT := (r_ifo e).1
  have eF := (r_ifo e).2
  refine r_icmp_ge ha1 ((rr.mine rfl).i 5 (by decide) (by decide)) 114 dX0_book_73 (by decide) (fun c1 => ?_) (fun c1 => ?_)
  · have e := eT c1
    refine r_aload_n dX0_book_114 rfl 0 rfl ?_
    obtain ⟨p2, q3, e⟩ := bd_o e
    have k4 := kX0_layPairs (G := nG N) (b := b) (ad := ad)  q3
    have z5 := (k4 rr).1.2.2.2
    refine r_callV (j := some 0) 0 [] (rec_sg (j := 0) (r := (RX0, TX0, 36)) rfl (by rw [E.p]; rfl)) rfl k4 (injO_1 E.p) (subO_1 E.p) getO_1 setO_1 (lw_V q482 q484 qs8 q115 q485) (by decide +kernel) rfl (Nat.le_of_ble_eq_true rfl) (Nat.le_of_ble_eq_true rfl) rfl (Nat.le_of_ble_eq_true rfl) dX0_book_115 rfl ?_
    refine r_rrs E.p (fun rr6 => ?_)
    refine r_iconst dX0_book_118 ?_
    refine r_istore_n (lv' := [(1, ti 0), (0, tr (some b))]) dX0_book_119 rfl (E.lt (by decide)) rfl ?_
    refine r_sub [1, 0] rfl ?_
    exact wX0_book_L120 E FU p2.1 p2.2 0 (by decide) e
  · have e := eF c1
    refine r_aload_n dX0_book_76 rfl 0 rfl ?_
    refine r_iload_n dX0_book_77 rfl 1 rfl ?_
    refine r_iload_n dX0_book_78 rfl 1 rfl ?_
    refine r_aload_n dX0_book_79 rfl 0 rfl ?_
    refine r_sI E.p 5 fG_X0_268 (by decide) dX0_book_80 ?_
    refine r_iconst dX0_book_83 ?_
    refine r_isub dX0_book_84 ?_
    have eT := (r_ifo e).1
    have eF := (r_ifo e).2
    refine r_icmp_ne ha1 (wr_r _) 95 dX0_book_85 (by decide) (fun c7 => ?_) (fun c7 => ?_)
    · have e := eT c7
      refine r_aload_n dX0_book_95 rfl 0 rfl ?_
      refine r_sR E.p 18 fG_X0_124 (by decide) dX0_book_96 ?_
      refine r_iload_n dX0_book_99 rfl 1 rfl ?_
      refine r_iconst dX0_book_100 ?_
      refine r_iadd dX0_book_101 ?_
      obtain ⟨g8, e⟩ := gd_o e
      refine r_saI E.p 18 rfl (by decide) (by decide) (wr_r _) g8 rfl dX0_book_102 ?_
      refine r_iconst dX0_book_103 ?_
      refine r_isub dX0_book_104 ?_
      exact wX0_book_b105 E K68 hK68 s h a1 a1 (wr ((gA s 18 (wr (a1 + 1))) - 1)) ha1 ha1 (wr_r _) e
    · have e := eF c7
      refine r_aload_n dX0_book_88 rfl 0 rfl ?_
      refine r_sI E.p 9 fG_X0_174 (by decide) dX0_book_89 ?_
      refine r_goto 105 dX0_book_92 (by decide) ?_
      exact wX0_book_b105 E K68 hK68 s h a1 a1 (gI s 9) ha1 ha1 ((rr.mine rfl).i 9 (by decide) (by decide)) e
def fX0_book_L68  : Nat → Option Nat × Option Nat → Option Nat → Sg → hS → Int → Option (Int × Sg × hS)
  | 0, _, _, _, _, _ => none
  | n9 + 1, gs, pm, s, h, a1 => fX0_book_b68 (fX0_book_L68 n9) gs pm s h a1
theorem wX0_book_L68 {N : Nx} {b : Nat} {ad : Nat → Nat} {s' : Sg} {h' : hS} {r : Int} (E : EndX N [(0, b, ad)] 2 (some .int) (some (ti r)) [s'] h')  : ∀ (n9 : Nat), ∀ (s : Sg) (h : hS) (a1 : Int) (ha1 : rI a1), fX0_book_L68 n9 (nG N).2.2.2 (some (ad 20)) s h a1 = some (r, s', h') → AtPc cX0_book RX0 59 1415 N [s] h 68 [(0, tr (some b)), (1, ti a1)] [] := by
  intro n9
  induction n9 with
  | zero => intro s h a1 ha1 e; cases e
  | succ n9 ih => intro s h a1 ha1 e; exact wX0_book_b68 E _ ih s h a1 ha1 e
def fX0_book  (gs : Option Nat × Option Nat) (pm : Option Nat) (s : Sg) (h : hS) : Option (Int × Sg × hS) := bd (fX0_fault s) fun p1 => if p1.1 < (gI p1.2 9) then fX0_book_b51 gs pm p1.2 h else if (gI p1.2 12) = (-1) then fX0_book_b51 gs pm p1.2 h else if (gI p1.2 13) = 0 then fX0_book_b51 gs pm p1.2 h else if ¬ (gI p1.2 11) = 2 then fX0_book_b51 gs pm p1.2 h else if 0 < (gI p1.2 14) then fX0_book_b51 gs pm p1.2 h else if ¬ (irm (gI p1.2 17) 2) = 1 then bd (fX0_layClasses p1.2) fun p12 => fX0_book_L68 FU gs pm (sI p12 5 (gI p12 13)) h 0 else fX0_book_b51 gs pm p1.2 h
theorem kX0_book {G : Gx}  {b : Nat} {ad : Nat → Nat} {s' : Sg} {h' : hS} {r : Int} {s : Sg} {h : hS}    (e : fX0_book G.2.2.2 (some (ad 20)) s h = some (r, s', h')) : CtX G yX0_book cX0_book 2 (some .int) 59 1415 [(0, b, ad)] [s] h [tr (some b)] (some (ti r)) [s'] h' := by
  refine CtX.of (by decide) (Nat.le_of_ble_eq_true rfl) [(0, tr (some b))] rfl ?_
  have E : EndX (G, 2, [(0, b, ad)], h, [s'], h', (some .int), (some (ti r)), yX0_book.name) [(0, b, ad)] 2 (some .int) (some (ti r)) [s'] h' := ⟨rfl, rfl, rfl, rfl, rfl, rfl⟩
  unfold fX0_book at e
  refine r_rrs E.p (fun rr => ?_)
  refine r_aload_n dX0_book_0 rfl 0 rfl ?_
  obtain ⟨p1, q2, e⟩ := bd_o e
  have k3 := kX0_fault (G := G) (b := b) (ad := ad) (h := h)  q2
  have z4 := (k3 rr).1.2.2.2
  refine r_callV (j := some 0) 0 [] (rec_sg (j := 0) (r := (RX0, TX0, 36)) rfl (by rw [E.p]; rfl)) rfl k3 (injO_1 E.p) (subO_1 E.p) getO_1 setO_1 (lw_V q448 q405 q406 q115 q407) (by decide +kernel) rfl (Nat.le_of_ble_eq_true rfl) (Nat.le_of_ble_eq_true rfl) rfl (Nat.le_of_ble_eq_true rfl) dX0_book_1 rfl ?_
  refine r_rrs E.p (fun rr5 => ?_)
  refine r_aload_n dX0_book_4 rfl 0 rfl ?_
  refine r_sI E.p 9 fG_X0_174 (by decide) dX0_book_5 ?_
  have eT := (r_ifo e).1
  have eF := (r_ifo e).2
  refine r_icmp_lt z4 ((rr5.mine rfl).i 9 (by decide) (by decide)) 51 dX0_book_8 (by decide) (fun c6 => ?_) (fun c6 => ?_)
  · have e := eT c6
    refine r_sub [] rfl ?_
    exact wX0_book_b51 E p1.2 h e
  · have e := eF c6
    refine r_aload_n dX0_book_11 rfl 0 rfl ?_
    refine r_sI E.p 12 fG_X0_183 (by decide) dX0_book_12 ?_
    refine r_iconst dX0_book_15 ?_
    have eT := (r_ifo e).1
    have eF := (r_ifo e).2
    refine r_icmp_eq ((rr5.mine rfl).i 12 (by decide) (by decide)) (by decide) 51 dX0_book_16 (by decide) (fun c7 => ?_) (fun c7 => ?_)
    · have e := eT c7
      refine r_sub [] rfl ?_
      exact wX0_book_b51 E p1.2 h e
    · have e := eF c7
      refine r_aload_n dX0_book_19 rfl 0 rfl ?_
      refine r_sI E.p 13 fG_X0_188 (by decide) dX0_book_20 ?_
      have eT := (r_ifo e).1
      have eF := (r_ifo e).2
      refine r_if_eq ((rr5.mine rfl).i 13 (by decide) (by decide)) 51 dX0_book_23 (by decide) (fun c8 => ?_) (fun c8 => ?_)
      · have e := eT c8
        refine r_sub [] rfl ?_
        exact wX0_book_b51 E p1.2 h e
      · have e := eF c8
        refine r_aload_n dX0_book_26 rfl 0 rfl ?_
        refine r_sI E.p 11 fG_X0_177 (by decide) dX0_book_27 ?_
        refine r_iconst dX0_book_30 ?_
        have eT := (r_ifo e).1
        have eF := (r_ifo e).2
        refine r_icmp_ne ((rr5.mine rfl).i 11 (by decide) (by decide)) (by decide) 51 dX0_book_31 (by decide) (fun c9 => ?_) (fun c9 => ?_)
        · have e := eT c9
          refine r_sub [] rfl ?_
          exact wX0_book_b51 E p1.2 h e
        · have e := eF c9
          refine r_aload_n dX0_book_34 rfl 0 rfl ?_
          refine r_sI E.p 14 fG_X0_191 (by decide) dX0_book_35 ?_
          have eT := (r_ifo e).1
          have eF := (r_ifo e).2
          refine r_if_gt ((rr5.mine rfl).i 14 (by decide) (by decide)) 51 dX0_book_38 (by decide) (fun c10 => ?_) (fun c10 => ?_)
          · have e := eT c10
            refine r_sub [] rfl ?_
            exact wX0_book_b51 E p1.2 h e
          · have e := eF c10
            refine r_aload_n dX0_book_41 rfl 0 rfl ?_
            refine r_sI E.p 17 fG_X0_200 (by decide) dX0_book_42 ?_
            refine r_iconst dX0_book_45 ?_
            refine r_irem (by decide) (by decide) dX0_book_46 ?_
            refine r_iconst dX0_book_47 ?_
            have eT := (r_ifo e).1
            have eF := (r_ifo e).2
            refine r_icmp_ne (irm_r _ _) (by decide) 54 dX0_book_48 (by decide) (fun c11 => ?_) (fun c11 => ?_)
            · have e := eT c11
              refine r_aload_n dX0_book_54 rfl 0 rfl ?_
              obtain ⟨p12, q13, e⟩ := bd_o e
              have k14 := kX0_layClasses (G := G) (b := b) (ad := ad) (h := h)  q13
              have z15 := (k14 rr5).1.2.2.2
              refine r_callV (j := some 0) 0 [] (rec_sg (j := 0) (r := (RX0, TX0, 36)) rfl (by rw [E.p]; rfl)) rfl k14 (injO_1 E.p) (subO_1 E.p) getO_1 setO_1 (lw_V q449 q451 qs5 q115 q452) (by decide +kernel) rfl (Nat.le_of_ble_eq_true rfl) (Nat.le_of_ble_eq_true rfl) rfl (Nat.le_of_ble_eq_true rfl) dX0_book_55 rfl ?_
              refine r_rrs E.p (fun rr16 => ?_)
              refine r_aload_n dX0_book_58 rfl 0 rfl ?_
              refine r_aload_n dX0_book_59 rfl 0 rfl ?_
              refine r_sI E.p 13 fG_X0_188 (by decide) dX0_book_60 ?_
              refine r_sPI E.p 5 fP_X0_268 rfl ((rr16.mine rfl).i 13 (by decide) (by decide)) dX0_book_63 ?_
              refine r_rrs E.p (fun rr17 => ?_)
              refine r_iconst dX0_book_66 ?_
              refine r_istore_n (lv' := [(1, ti 0), (0, tr (some b))]) dX0_book_67 rfl (E.lt (by decide)) rfl ?_
              refine r_sub [1, 0] rfl ?_
              exact wX0_book_L68 E FU (sI p12 5 (gI p12 13)) h 0 (by decide) e
            · have e := eF c11
              refine r_sub [] rfl ?_
              exact wX0_book_b51 E p1.2 h e
def fX0_typed_b65 (s : Sg) (k0 : Int) : Option (Int) := some k0
theorem wX0_typed_b65 {N : Nx} {b : Nat} {ad : Nat → Nat} {s : Sg} {h : hS} {r : Int} (E : EndX N [(0, b, ad)] 3 (some .int) (some (ti r)) [s] h)  (k0 : Int) (hk0 : rI k0) (e : fX0_typed_b65 s k0 = some (r)) : AtPc cX0_typed RX0 2 40 N [s] h 65 [] [ti k0] := by
  unfold fX0_typed_b65 at e
  refine r_rrs E.p (fun rr => ?_)
  cases e
  exact r_iret E.σ E.st E.rt E.r hk0 dX0_typed_65
def fX0_typed_b64 (s : Sg) : Option (Int) := fX0_typed_b65 s 0
theorem wX0_typed_b64 {N : Nx} {b : Nat} {ad : Nat → Nat} {s : Sg} {h : hS} {r : Int} (E : EndX N [(0, b, ad)] 3 (some .int) (some (ti r)) [s] h)   (e : fX0_typed_b64 s = some (r)) : AtPc cX0_typed RX0 2 40 N [s] h 64 [] [] := by
  unfold fX0_typed_b64 at e
  refine r_rrs E.p (fun rr => ?_)
  refine r_iconst dX0_typed_64 ?_
  exact wX0_typed_b65 E 0 (by decide) e
def fX0_typed_b48 (s : Sg) (a1 : Int) (a2 : Int) : Option (Int) := if ¬ a1 = 0 then fX0_typed_b64 s else if ¬ a2 = (gI s 9) then fX0_typed_b64 s else fX0_typed_b65 s a2
theorem wX0_typed_b48 {N : Nx} {b : Nat} {ad : Nat → Nat} {s : Sg} {h : hS} {r : Int} (E : EndX N [(0, b, ad)] 3 (some .int) (some (ti r)) [s] h)  (a1 : Int) (a2 : Int) (ha1 : rI a1) (ha2 : rI a2) (e : fX0_typed_b48 s a1 a2 = some (r)) : AtPc cX0_typed RX0 2 40 N [s] h 48 [(0, tr (some b)), (1, ti a1), (2, ti a2)] [] := by
  unfold fX0_typed_b48 at e
  refine r_rrs E.p (fun rr => ?_)
  refine r_iload_n dX0_typed_48 rfl 1 rfl ?_
  have eT := (r_ifo e).1
  have eF := (r_ifo e).2
  refine r_if_ne ha1 64 dX0_typed_49 (by decide) (fun c1 => ?_) (fun c1 => ?_)
  · have e := eT c1
    refine r_sub [] rfl ?_
    exact wX0_typed_b64 E e
  · have e := eF c1
    refine r_iload_n dX0_typed_52 rfl 2 rfl ?_
    refine r_aload_n dX0_typed_53 rfl 0 rfl ?_
    refine r_sI E.p 9 fG_X0_174 (by decide) dX0_typed_54 ?_
    have eT := (r_ifo e).1
    have eF := (r_ifo e).2
    refine r_icmp_ne ha2 ((rr.mine rfl).i 9 (by decide) (by decide)) 64 dX0_typed_57 (by decide) (fun c2 => ?_) (fun c2 => ?_)
    · have e := eT c2
      refine r_sub [] rfl ?_
      exact wX0_typed_b64 E e
    · have e := eF c2
      refine r_iload_n dX0_typed_60 rfl 2 rfl ?_
      refine r_goto 65 dX0_typed_61 (by decide) ?_
      refine r_sub [] rfl ?_
      exact wX0_typed_b65 E a2 ha2 e
def fX0_typed_b4 (K4 : Sg → Int → Int → Option (Int)) (s : Sg) (a1 : Int) (a2 : Int) : Option (Int) := if (gI s 9) ≤ a2 then fX0_typed_b48 s a1 a2 else if a1 ≤ 0 then fX0_typed_b48 s a1 a2 else gd (inb a2 84) (bd (fX0_isTypeSign (gA s 8 a2)) fun p4 => if p4 = 0 then fX0_typed_b48 s a1 a2 else gd (inb a2 84) (bd (fX0_partsOf (gA s 8 a2)) fun p10 => K4 s (wr (a1 + (wr (p10 - 1)))) (wr (a2 + 1))))
theorem wX0_typed_b4 {N : Nx} {b : Nat} {ad : Nat → Nat} {s : Sg} {h : hS} {r : Int} (E : EndX N [(0, b, ad)] 3 (some .int) (some (ti r)) [s] h) (K4 : Sg → Int → Int → Option (Int)) (hK4 : ∀ (a1 : Int) (a2 : Int) (ha1 : rI a1) (ha2 : rI a2), K4 s a1 a2 = some (r) → AtPc cX0_typed RX0 2 40 N [s] h 4 [(0, tr (some b)), (1, ti a1), (2, ti a2)] []) (a1 : Int) (a2 : Int) (ha1 : rI a1) (ha2 : rI a2) (e : fX0_typed_b4 K4 s a1 a2 = some (r)) : AtPc cX0_typed RX0 2 40 N [s] h 4 [(0, tr (some b)), (1, ti a1), (2, ti a2)] [] := by
  unfold fX0_typed_b4 at e
  refine r_rrs E.p (fun rr => ?_)
  refine r_iload_n dX0_typed_4 rfl 2 rfl ?_
  refine r_aload_n dX0_typed_5 rfl 0 rfl ?_
  refine r_sI E.p 9 fG_X0_174 (by decide) dX0_typed_6 ?_
  have eT := (r_ifo e).1
  have eF := (r_ifo e).2
  refine r_icmp_ge ha2 ((rr.mine rfl).i 9 (by decide) (by decide)) 48 dX0_typed_9 (by decide) (fun c1 => ?_) (fun c1 => ?_)
  · have e := eT c1
    exact wX0_typed_b48 E a1 a2 ha1 ha2 e
  · have e := eF c1
    refine r_iload_n dX0_typed_12 rfl 1 rfl ?_
    have eT := (r_ifo e).1
    have eF := (r_ifo e).2
    refine r_if_le ha1 48 dX0_typed_13 (by decide) (fun c2 => ?_) (fun c2 => ?_)
    · have e := eT c2
      exact wX0_typed_b48 E a1 a2 ha1 ha2 e
    · have e := eF c2
      refine r_aload_n dX0_typed_16 rfl 0 rfl ?_
      refine r_sR E.p 8 fG_X0_121 (by decide) dX0_typed_17 ?_
      refine r_iload_n dX0_typed_20 rfl 2 rfl ?_
      obtain ⟨g3, e⟩ := gd_o e
      refine r_saI E.p 8 rfl (by decide) (by decide) ha2 g3 rfl dX0_typed_21 ?_
      obtain ⟨p4, q5, e⟩ := bd_o e
      have k6 := kX0_isTypeSign (G := nG N) (h := h) (((rr.mine rfl).a 8 (by decide) rfl).1 _) q5
      have z7 := (k6 rr.none).1.2.2.2
      refine r_callS (j := none) 1 [ti (gA s 8 a2)] k6 (injO_1 E.p) subO_0 getO_0 setO_0 (lw_S q434 q435 q115 q436) (by decide +kernel) rfl (Nat.le_of_ble_eq_true rfl) (Nat.le_of_ble_eq_true rfl) rfl (Nat.le_of_ble_eq_true rfl) dX0_typed_22 rfl ?_
      have eT := (r_ifo e).1
      have eF := (r_ifo e).2
      refine r_if_eq (rI_z z7) 48 dX0_typed_25 (by decide) (fun c8 => ?_) (fun c8 => ?_)
      · have e := eT c8
        exact wX0_typed_b48 E a1 a2 ha1 ha2 e
      · have e := eF c8
        refine r_iload_n dX0_typed_28 rfl 1 rfl ?_
        refine r_aload_n dX0_typed_29 rfl 0 rfl ?_
        refine r_sR E.p 8 fG_X0_121 (by decide) dX0_typed_30 ?_
        refine r_iload_n dX0_typed_33 rfl 2 rfl ?_
        obtain ⟨g9, e⟩ := gd_o e
        refine r_saI E.p 8 rfl (by decide) (by decide) ha2 g9 rfl dX0_typed_34 ?_
        obtain ⟨p10, q11, e⟩ := bd_o e
        have k12 := kX0_partsOf (G := nG N) (h := h) (((rr.mine rfl).a 8 (by decide) rfl).1 _) q11
        have z13 := (k12 rr.none).1.2.2.2
        refine r_callS (j := none) 1 [ti (gA s 8 a2)] k12 (injO_1 E.p) subO_0 getO_0 setO_0 (lw_S q428 q429 q115 q430) (by decide +kernel) rfl (Nat.le_of_ble_eq_true rfl) (Nat.le_of_ble_eq_true rfl) rfl (Nat.le_of_ble_eq_true rfl) dX0_typed_35 rfl ?_
        refine r_iconst dX0_typed_38 ?_
        refine r_isub dX0_typed_39 ?_
        refine r_iadd dX0_typed_40 ?_
        refine r_istore_n (lv' := [(1, ti (wr (a1 + (wr (p10 - 1))))), (0, tr (some b)), (2, ti a2)]) dX0_typed_41 rfl (E.lt (by decide)) rfl ?_
        refine r_iinc (lv' := [(2, ti (wr (a2 + 1))), (1, ti (wr (a1 + (wr (p10 - 1))))), (0, tr (some b))]) dX0_typed_42 2 rfl (E.lt (by decide)) rfl ?_
        refine r_goto 4 dX0_typed_45 (by decide) ?_
        refine r_sub [2, 1, 0] rfl ?_
        exact hK4 (wr (a1 + (wr (p10 - 1)))) (wr (a2 + 1)) (wr_r _) (wr_r _) e
def fX0_typed_L4  : Nat → Sg → Int → Int → Option (Int)
  | 0, _, _, _ => none
  | n9 + 1, s, a1, a2 => fX0_typed_b4 (fX0_typed_L4 n9) s a1 a2
theorem wX0_typed_L4 {N : Nx} {b : Nat} {ad : Nat → Nat} {s : Sg} {h : hS} {r : Int} (E : EndX N [(0, b, ad)] 3 (some .int) (some (ti r)) [s] h)  : ∀ (n9 : Nat), ∀ (a1 : Int) (a2 : Int) (ha1 : rI a1) (ha2 : rI a2), fX0_typed_L4 n9 s a1 a2 = some (r) → AtPc cX0_typed RX0 2 40 N [s] h 4 [(0, tr (some b)), (1, ti a1), (2, ti a2)] [] := by
  intro n9
  induction n9 with
  | zero => intro a1 a2 ha1 ha2 e; cases e
  | succ n9 ih => intro a1 a2 ha1 ha2 e; exact wX0_typed_b4 E _ ih a1 a2 ha1 ha2 e
def fX0_typed  (s : Sg) : Option (Int) := fX0_typed_L4 FU s 1 0
theorem kX0_typed {G : Gx}  {b : Nat} {ad : Nat → Nat} {s : Sg} {h : hS} {r : Int}    (e : fX0_typed s = some (r)) : CtX G yX0_typed cX0_typed 3 (some .int) 2 40 [(0, b, ad)] [s] h [tr (some b)] (some (ti r)) [s] h := by
  refine CtX.of (by decide) (Nat.le_of_ble_eq_true rfl) [(0, tr (some b))] rfl ?_
  have E : EndX (G, 3, [(0, b, ad)], h, [s], h, (some .int), (some (ti r)), yX0_typed.name) [(0, b, ad)] 3 (some .int) (some (ti r)) [s] h := ⟨rfl, rfl, rfl, rfl, rfl, rfl⟩
  unfold fX0_typed at e
  refine r_rrs E.p (fun rr => ?_)
  refine r_iconst dX0_typed_0 ?_
  refine r_istore_n (lv' := [(1, ti 1), (0, tr (some b))]) dX0_typed_1 rfl (E.lt (by decide)) rfl ?_
  refine r_iconst dX0_typed_2 ?_
  refine r_istore_n (lv' := [(2, ti 0), (1, ti 1), (0, tr (some b))]) dX0_typed_3 rfl (E.lt (by decide)) rfl ?_
  refine r_sub [2, 1, 0] rfl ?_
  exact wX0_typed_L4 E FU 1 0 (by decide) (by decide) e
def fX7_size_b38 (R9 : hS → Option Nat → Option (Int)) (h : hS) (k0 : Int) (k1 : Int) : Option (Int) := some (wr (k0 + k1))
theorem wX7_size_b38 {N : Nx} {h : hS} {r : Int} (d9 : Nat) (R9 : hS → Option Nat → Option (Int)) (hR9 : ∀  {h : hS} {r : Int} {o0 : Option Nat} , R9 h o0 = some (r) → CtX (nG N) yX7_size cX7_size 1 (some .int) (d9 + 0) (20 * d9 + 0) [] [] h [tr o0] (some (ti r)) [] h) (E : EndX N [] 1 (some .int) (some (ti r)) [] h)  (k0 : Int) (k1 : Int) (hk0 : rI k0) (hk1 : rI k1) (e : fX7_size_b38 R9 h k0 k1 = some (r)) : AtPc cX7_size RX7 ((d9 + 1) + 0) (20 * (d9 + 1) + 0) N [] h 38 [] [ti k1, ti k0] := by
  unfold fX7_size_b38 at e
  refine r_rrs E.p (fun rr => ?_)
  refine r_iadd dX7_size_38 ?_
  cases e
  exact r_iret E.σ E.st E.rt E.r (wr_r _) dX7_size_39
def fX7_size_b19 (R9 : hS → Option Nat → Option (Int)) (h : hS) (o0 : Option Nat) (k0 : Int) (k1 : Int) : Option (Int) := bd (hQ h o0 [(7, 2)]) fun v1 => ifN v1 (fX7_size_b38 R9 h (wr (k0 + k1)) 0) (fun _ => bd (hQ h o0 [(7, 2)]) fun v5 => gd (hC h v5 = some 7) (bd (R9 h v5) fun p7 => fX7_size_b38 R9 h (wr (k0 + k1)) p7))
theorem wX7_size_b19 {N : Nx} {h : hS} {r : Int} (d9 : Nat) (R9 : hS → Option Nat → Option (Int)) (hR9 : ∀  {h : hS} {r : Int} {o0 : Option Nat} , R9 h o0 = some (r) → CtX (nG N) yX7_size cX7_size 1 (some .int) (d9 + 0) (20 * d9 + 0) [] [] h [tr o0] (some (ti r)) [] h) (E : EndX N [] 1 (some .int) (some (ti r)) [] h)  (o0 : Option Nat) (k0 : Int) (k1 : Int) (hk0 : rI k0) (hk1 : rI k1) (e : fX7_size_b19 R9 h o0 k0 k1 = some (r)) : AtPc cX7_size RX7 ((d9 + 1) + 0) (20 * (d9 + 1) + 0) N [] h 19 [(0, tr o0)] [ti k1, ti k0] := by
  unfold fX7_size_b19 at e
  refine r_rrs E.p (fun rr => ?_)
  refine r_iadd dX7_size_19 ?_
  refine r_aload_n dX7_size_20 rfl 0 rfl ?_
  obtain ⟨v1, q2, e⟩ := bd_o e
  refine r_getQ fG_X7_19 q2 dX7_size_21 ?_
  have eT := (r_ifno e).1
  have eF := (r_ifno e).2
  refine r_ifnonnull 31 dX7_size_24 (by decide) (fun c3 => ?_) (fun x4 c3 => ?_)
  · have e := eT c3
    refine r_iconst dX7_size_27 ?_
    refine r_goto 38 dX7_size_28 (by decide) ?_
    refine r_sub [] rfl ?_
    exact wX7_size_b38 d9 R9 hR9 E (wr (k0 + k1)) 0 (wr_r _) (by decide) e
  · have e := eF x4 c3
    refine r_aload_n dX7_size_31 rfl 0 rfl ?_
    obtain ⟨v5, q6, e⟩ := bd_o e
    refine r_getQ fG_X7_19 q6 dX7_size_32 ?_
    obtain ⟨g9, e⟩ := gd_o e
    obtain ⟨p7, q8, e⟩ := bd_o e
    have k10 := hR9  q8
    have z11 := (k10 rr).1.2.2.2
    refine r_callVo (j := none) 0 [] (c := 7) (rc := (RX7, TX7, 3)) rfl g9 rfl k10 (injO_0 E.p) subO_0 getO_0 setO_0 (lw_V q844 q841 q842 q124 q843) (by decide +kernel) rfl (by omega) (by omega) rfl (Nat.le_of_ble_eq_true rfl) dX7_size_35 rfl ?_
    refine r_sub [] rfl ?_
    exact wX7_size_b38 d9 R9 hR9 E (wr (k0 + k1)) p7 (wr_r _) z11 e
def fX7_size_B (R9 : hS → Option Nat → Option (Int)) (h : hS) (o0 : Option Nat) : Option (Int) := bd (hQ h o0 [(7, 1)]) fun v1 => ifN v1 (fX7_size_b19 R9 h o0 1 0) (fun _ => bd (hQ h o0 [(7, 1)]) fun v5 => gd (hC h v5 = some 7) (bd (R9 h v5) fun p7 => fX7_size_b19 R9 h o0 1 p7))
theorem kX7_size_B {G : Gx}  {h : hS} {r : Int} {o0 : Option Nat} (d9 : Nat) (R9 : hS → Option Nat → Option (Int)) (hR9 : ∀  {h : hS} {r : Int} {o0 : Option Nat} , R9 h o0 = some (r) → CtX G yX7_size cX7_size 1 (some .int) (d9 + 0) (20 * d9 + 0) [] [] h [tr o0] (some (ti r)) [] h)  (e : fX7_size_B R9 h o0 = some (r)) : CtX G yX7_size cX7_size 1 (some .int) ((d9 + 1) + 0) (20 * (d9 + 1) + 0) [] [] h [tr o0] (some (ti r)) [] h := by
  refine CtX.of (by decide) (Nat.le_of_ble_eq_true rfl) [(0, tr o0)] rfl ?_
  have E : EndX (G, 1, [], h, [], h, (some .int), (some (ti r)), yX7_size.name) [] 1 (some .int) (some (ti r)) [] h := ⟨rfl, rfl, rfl, rfl, rfl, rfl⟩
  unfold fX7_size_B at e
  refine r_rrs E.p (fun rr => ?_)
  refine r_iconst dX7_size_0 ?_
  refine r_aload_n dX7_size_1 rfl 0 rfl ?_
  obtain ⟨v1, q2, e⟩ := bd_o e
  refine r_getQ fG_X7_15 q2 dX7_size_2 ?_
  have eT := (r_ifno e).1
  have eF := (r_ifno e).2
  refine r_ifnonnull 12 dX7_size_5 (by decide) (fun c3 => ?_) (fun x4 c3 => ?_)
  · have e := eT c3
    refine r_iconst dX7_size_8 ?_
    refine r_goto 19 dX7_size_9 (by decide) ?_
    exact wX7_size_b19 d9 R9 hR9 E o0 1 0 (by decide) (by decide) e
  · have e := eF x4 c3
    refine r_aload_n dX7_size_12 rfl 0 rfl ?_
    obtain ⟨v5, q6, e⟩ := bd_o e
    refine r_getQ fG_X7_15 q6 dX7_size_13 ?_
    obtain ⟨g9, e⟩ := gd_o e
    obtain ⟨p7, q8, e⟩ := bd_o e
    have k10 := hR9  q8
    have z11 := (k10 rr).1.2.2.2
    refine r_callVo (j := none) 0 [] (c := 7) (rc := (RX7, TX7, 3)) rfl g9 rfl k10 (injO_0 E.p) subO_0 getO_0 setO_0 (lw_V q844 q841 q842 q124 q843) (by decide +kernel) rfl (by omega) (by omega) rfl (Nat.le_of_ble_eq_true rfl) dX7_size_16 rfl ?_
    exact wX7_size_b19 d9 R9 hR9 E o0 1 p7 (by decide) z11 e
