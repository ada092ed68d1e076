/-! the class with what it needs: functions and walks, printed by gen/run0.py -/
set_option maxRecDepth 100000
def fJ0_init  (o0 : Option Nat) : Option (Unit) := gd (¬ o0 = none) (some ())
theorem kJ0_init {G : Gx}  {h : hS} {o0 : Option Nat}   (e : fJ0_init o0 = some ()) : CtX G yJ0_init cJ0_init 1 none 1 20 [] [] h [tr o0] none [] h := by
  refine CtX.of (by decide) (Nat.le_of_ble_eq_true rfl) [(0, tr o0)] rfl ?_
  have E : EndX (G, 1, [], h, [], h, none, none, yJ0_init.name) [] 1 none none [] h := ⟨rfl, rfl, rfl, rfl, rfl, rfl⟩
  unfold fJ0_init at e
  refine r_rrs E.p (fun rr => ?_)
  refine r_aload_n dJ0_init_0 rfl 0 rfl ?_
  obtain ⟨g1, e⟩ := gd_o e
  refine r_objInitO g1 q257 q150 q151 (Nat.le_of_ble_eq_true rfl) (Nat.le_of_ble_eq_true rfl) (Nat.le_of_ble_eq_true rfl) dJ0_init_1 ?_
  cases e
  exact r_vret E.σ E.st E.rt E.r dJ0_init_4
theorem fP_J1_81i : FldP RJ1 81 [(11, 7)] .float true := List.forall_mem_cons.mpr ⟨⟨RJ1, TJ1, 8, "java/util/HashMap", tyJ1, rfl, in_J1, by decide, q263, Or.inl rfl, tyJ1_ok, nmJ1, rfl, Or.inr ⟨rfl, rfl, rfl⟩, by decide⟩, fun _ h => absurd h List.not_mem_nil⟩
def fJ1_init  (h : hS) (o0 : Option Nat) : Option (hS) := gd (¬ o0 = none) (bd (fJ0_init o0) fun _ => bd (hW h o0 [(11, 7)] ((.inr (.inr (.inl 1061158912)) : hV))) fun h6 => some h6)
theorem kJ1_init {G : Gx}  {h' : hS} {h : hS} {o0 : Option Nat}   (e : fJ1_init h o0 = some (h')) : CtX G yJ1_init cJ1_init 1 none 2 40 [] [] h [tr o0] none [] h' := by
  refine CtX.of (by decide) (Nat.le_of_ble_eq_true rfl) [(0, tr o0)] rfl ?_
  have E : EndX (G, 1, [], h, [], h', none, none, yJ1_init.name) [] 1 none none [] h' := ⟨rfl, rfl, rfl, rfl, rfl, rfl⟩
  unfold fJ1_init at e
  refine r_rrs E.p (fun rr => ?_)
  refine r_aload_n dJ1_init_0 rfl 0 rfl ?_
  obtain ⟨g3, e⟩ := gd_o e
  obtain ⟨p1, q2, e⟩ := bd_o e
  have k4 := kJ0_init (G := G) (h := h)  q2
  have z5 := (k4 rr).1.2.2.2
  refine r_callIo (j := none) 0 [] g3 rfl rfl k4 (injO_0 E.p) subO_0 getO_0 setO_0 q256 q121 q254 q255 (by decide +kernel) rfl (Nat.le_of_ble_eq_true rfl) (Nat.le_of_ble_eq_true rfl) rfl (Nat.le_of_ble_eq_true rfl) dJ1_init_1 rfl ?_
  refine r_aload_n dJ1_init_4 rfl 0 rfl ?_
  refine r_ldcf q258 dJ1_init_5 ?_
  obtain ⟨h6, q7, e⟩ := bd_o e
  refine r_put (v := (.inr (.inr (.inl 1061158912)) : hV)) fP_J1_81i (by first | exact fun q => absurd q (by decide) | exact fun _ => rfl) trivial q7 dJ1_init_7 ?_
  refine r_rrs E.p (fun rr8 => ?_)
  cases e
  exact r_vret E.σ E.st E.rt E.r dJ1_init_10
def fJ3_hashCode_2  (a0 : Int) : Option (Int) := some a0
theorem kJ3_hashCode_2 {G : Gx}  {h : hS} {r : Int} {a0 : Int}  (ha0 : rI a0) (e : fJ3_hashCode_2 a0 = some (r)) : CtX G yJ3_hashCode_2 cJ3_hashCode_2 1 (some .int) 0 0 [] [] h [ti a0] (some (ti r)) [] h := by
  refine CtX.of (by decide) (Nat.le_of_ble_eq_true rfl) [(0, ti a0)] rfl ?_
  have E : EndX (G, 1, [], h, [], h, (some .int), (some (ti r)), yJ3_hashCode_2.name) [] 1 (some .int) (some (ti r)) [] h := ⟨rfl, rfl, rfl, rfl, rfl, rfl⟩
  unfold fJ3_hashCode_2 at e
  refine r_rrs E.p (fun rr => ?_)
  refine r_iload_n dJ3_hashCode_2_0 rfl 0 rfl ?_
  cases e
  exact r_iret E.σ E.st E.rt E.r ha0 dJ3_hashCode_2_1
theorem fG_J3_205 : FldG RJ3 205 [(15, 0)] := List.forall_mem_cons.mpr ⟨⟨RJ3, TJ3, 1, "java/lang/Integer", rfl, in_J3, by decide, q535, Or.inl rfl⟩, fun _ h => absurd h List.not_mem_nil⟩
def fJ3_hashCode  (h : hS) (o0 : Option Nat) : Option (Int) := bd (hI h o0 [(15, 0)]) fun v1 => bd (fJ3_hashCode_2 v1) fun p3 => some p3
theorem kJ3_hashCode {G : Gx}  {h : hS} {r : Int} {o0 : Option Nat}   (e : fJ3_hashCode h o0 = some (r)) : CtX G yJ3_hashCode cJ3_hashCode 1 (some .int) 1 20 [] [] h [tr o0] (some (ti r)) [] h := by
  refine CtX.of (by decide) (Nat.le_of_ble_eq_true rfl) [(0, tr o0)] rfl ?_
  have E : EndX (G, 1, [], h, [], h, (some .int), (some (ti r)), yJ3_hashCode.name) [] 1 (some .int) (some (ti r)) [] h := ⟨rfl, rfl, rfl, rfl, rfl, rfl⟩
  unfold fJ3_hashCode at e
  refine r_rrs E.p (fun rr => ?_)
  refine r_aload_n dJ3_hashCode_0 rfl 0 rfl ?_
  obtain ⟨v1, q2, e⟩ := bd_o e
  refine r_getI fG_J3_205 q2 dJ3_hashCode_1 ?_
  obtain ⟨p3, q4, e⟩ := bd_o e
  have k5 := kJ3_hashCode_2 (G := G) (h := h) (hI_r rr q2) q4
  have z6 := (k5 rr).1.2.2.2
  refine r_callS (j := none) 1 [ti v1] k5 (injO_0 E.p) subO_0 getO_0 setO_0 (lw_S q577 q578 q127 q579) (by decide +kernel) rfl (Nat.le_of_ble_eq_true rfl) (Nat.le_of_ble_eq_true rfl) rfl (Nat.le_of_ble_eq_true rfl) dJ3_hashCode_4 rfl ?_
  cases e
  exact r_iret E.σ E.st E.rt E.r z6 dJ3_hashCode_7
theorem fG_X7_9 : FldG RX7 9 [(7, 0)] := List.forall_mem_cons.mpr ⟨⟨RX7, TX7, 3, "DictProof$Term", rfl, in_X7, by decide, q469, Or.inl rfl⟩, fun _ h => absurd h List.not_mem_nil⟩
theorem fG_X7_15 : FldG RX7 15 [(7, 1)] := List.forall_mem_cons.mpr ⟨⟨RX7, TX7, 3, "DictProof$Term", rfl, in_X7, by decide, q471, Or.inl rfl⟩, fun _ h => absurd h List.not_mem_nil⟩
theorem fG_X7_19 : FldG RX7 19 [(7, 2)] := List.forall_mem_cons.mpr ⟨⟨RX7, TX7, 3, "DictProof$Term", rfl, in_X7, by decide, q473, Or.inl rfl⟩, fun _ h => absurd h List.not_mem_nil⟩
def fX7_hashCode_b47 (R9 : hS → Option Nat → Option (Int)) (h : hS) (k0 : Int) (k1 : Int) (k2 : Int) : Option (Int) := some (ixor (wr ((wr (k0 + (wr (k1 * k2)))) * (-1640531535))) (iush (wr (k0 + (wr (k1 * k2)))) 13))
theorem wX7_hashCode_b47 {N : Nx} {h : hS} {r : Int} (d9 : Nat) (R9 : hS → Option Nat → Option (Int)) (hR9 : ∀  {h : hS} {r : Int} {o0 : Option Nat} , R9 h o0 = some (r) → CtX (nG N) yX7_hashCode cX7_hashCode 2 (some .int) (d9 + 0) (21 * d9 + 0) [] [] h [tr o0] (some (ti r)) [] h) (E : EndX N [] 2 (some .int) (some (ti r)) [] h)  (k0 : Int) (k1 : Int) (k2 : Int) (hk0 : rI k0) (hk1 : rI k1) (hk2 : rI k2) (e : fX7_hashCode_b47 R9 h k0 k1 k2 = some (r)) : AtPc cX7_hashCode RX7 ((d9 + 1) + 0) (21 * (d9 + 1) + 0) N [] h 47 [] [ti k2, ti k1, ti k0] := by
  unfold fX7_hashCode_b47 at e
  refine r_rrs E.p (fun rr => ?_)
  refine r_imul dX7_hashCode_47 ?_
  refine r_iadd dX7_hashCode_48 ?_
  refine r_istore_n (lv' := [(1, ti (wr (k0 + (wr (k1 * k2)))))]) dX7_hashCode_49 rfl (E.lt (by decide)) rfl ?_
  refine r_iload_n dX7_hashCode_50 rfl 0 rfl ?_
  refine r_ldc (-1640531535) q564 (by decide) dX7_hashCode_51 ?_
  refine r_imul dX7_hashCode_53 ?_
  refine r_iload_n dX7_hashCode_54 rfl 0 rfl ?_
  refine r_bipush dX7_hashCode_55 (by decide) ?_
  refine r_iushr dX7_hashCode_57 ?_
  refine r_ixor dX7_hashCode_58 ?_
  cases e
  exact r_iret E.σ E.st E.rt E.r (ixor_r _ _) dX7_hashCode_59
def fX7_hashCode_b24 (R9 : hS → Option Nat → Option (Int)) (h : hS) (o0 : Option Nat) (k0 : Int) (k1 : Int) (k2 : Int) : Option (Int) := bd (hQ h o0 [(7, 2)]) fun v1 => ifN v1 (fX7_hashCode_b47 R9 h (wr (k0 + (wr (k1 * k2)))) 1009 0) (fun _ => bd (hQ h o0 [(7, 2)]) fun v5 => gd (hC h v5 = some 7) (bd (R9 h v5) fun p7 => fX7_hashCode_b47 R9 h (wr (k0 + (wr (k1 * k2)))) 1009 p7))
theorem wX7_hashCode_b24 {N : Nx} {h : hS} {r : Int} (d9 : Nat) (R9 : hS → Option Nat → Option (Int)) (hR9 : ∀  {h : hS} {r : Int} {o0 : Option Nat} , R9 h o0 = some (r) → CtX (nG N) yX7_hashCode cX7_hashCode 2 (some .int) (d9 + 0) (21 * d9 + 0) [] [] h [tr o0] (some (ti r)) [] h) (E : EndX N [] 2 (some .int) (some (ti r)) [] h)  (o0 : Option Nat) (k0 : Int) (k1 : Int) (k2 : Int) (hk0 : rI k0) (hk1 : rI k1) (hk2 : rI k2) (e : fX7_hashCode_b24 R9 h o0 k0 k1 k2 = some (r)) : AtPc cX7_hashCode RX7 ((d9 + 1) + 0) (21 * (d9 + 1) + 0) N [] h 24 [(0, tr o0)] [ti k2, ti k1, ti k0] := by
  unfold fX7_hashCode_b24 at e
  refine r_rrs E.p (fun rr => ?_)
  refine r_imul dX7_hashCode_24 ?_
  refine r_iadd dX7_hashCode_25 ?_
  refine r_sipush dX7_hashCode_26 (by decide) ?_
  refine r_aload_n dX7_hashCode_29 rfl 0 rfl ?_
  obtain ⟨v1, q2, e⟩ := bd_o e
  refine r_getQ fG_X7_19 q2 dX7_hashCode_30 ?_
  have eT := (r_ifno e).1
  have eF := (r_ifno e).2
  refine r_ifnonnull 40 dX7_hashCode_33 (by decide) (fun c3 => ?_) (fun x4 c3 => ?_)
  · have e := eT c3
    refine r_iconst dX7_hashCode_36 ?_
    refine r_goto 47 dX7_hashCode_37 (by decide) ?_
    refine r_sub [] rfl ?_
    exact wX7_hashCode_b47 d9 R9 hR9 E (wr (k0 + (wr (k1 * k2)))) 1009 0 (wr_r _) (by decide) (by decide) e
  · have e := eF x4 c3
    refine r_aload_n dX7_hashCode_40 rfl 0 rfl ?_
    obtain ⟨v5, q6, e⟩ := bd_o e
    refine r_getQ fG_X7_19 q6 dX7_hashCode_41 ?_
    obtain ⟨g9, e⟩ := gd_o e
    obtain ⟨p7, q8, e⟩ := bd_o e
    have k10 := hR9  q8
    have z11 := (k10 rr).1.2.2.2
    refine r_callVo (j := none) 0 [] (c := 7) (rc := (RX7, TX7, 3)) rfl g9 rfl k10 (injO_0 E.p) subO_0 getO_0 setO_0 (lw_V q563 q560 q561 q124 q562) (by decide +kernel) rfl (by omega) (by omega) rfl (Nat.le_of_ble_eq_true rfl) dX7_hashCode_44 rfl ?_
    refine r_sub [] rfl ?_
    exact wX7_hashCode_b47 d9 R9 hR9 E (wr (k0 + (wr (k1 * k2)))) 1009 p7 (wr_r _) (by decide) z11 e
def fX7_hashCode_B (R9 : hS → Option Nat → Option (Int)) (h : hS) (o0 : Option Nat) : Option (Int) := bd (hI h o0 [(7, 0)]) fun v1 => bd (hQ h o0 [(7, 1)]) fun v3 => ifN v3 (fX7_hashCode_b24 R9 h o0 v1 31 0) (fun _ => bd (hQ h o0 [(7, 1)]) fun v7 => gd (hC h v7 = some 7) (bd (R9 h v7) fun p9 => fX7_hashCode_b24 R9 h o0 v1 31 p9))
theorem kX7_hashCode_B {G : Gx}  {h : hS} {r : Int} {o0 : Option Nat} (d9 : Nat) (R9 : hS → Option Nat → Option (Int)) (hR9 : ∀  {h : hS} {r : Int} {o0 : Option Nat} , R9 h o0 = some (r) → CtX G yX7_hashCode cX7_hashCode 2 (some .int) (d9 + 0) (21 * d9 + 0) [] [] h [tr o0] (some (ti r)) [] h)  (e : fX7_hashCode_B R9 h o0 = some (r)) : CtX G yX7_hashCode cX7_hashCode 2 (some .int) ((d9 + 1) + 0) (21 * (d9 + 1) + 0) [] [] h [tr o0] (some (ti r)) [] h := by
  refine CtX.of (by decide) (Nat.le_of_ble_eq_true rfl) [(0, tr o0)] rfl ?_
  have E : EndX (G, 2, [], h, [], h, (some .int), (some (ti r)), yX7_hashCode.name) [] 2 (some .int) (some (ti r)) [] h := ⟨rfl, rfl, rfl, rfl, rfl, rfl⟩
  unfold fX7_hashCode_B at e
  refine r_rrs E.p (fun rr => ?_)
  refine r_aload_n dX7_hashCode_0 rfl 0 rfl ?_
  obtain ⟨v1, q2, e⟩ := bd_o e
  refine r_getI fG_X7_9 q2 dX7_hashCode_1 ?_
  refine r_bipush dX7_hashCode_4 (by decide) ?_
  refine r_aload_n dX7_hashCode_6 rfl 0 rfl ?_
  obtain ⟨v3, q4, e⟩ := bd_o e
  refine r_getQ fG_X7_15 q4 dX7_hashCode_7 ?_
  have eT := (r_ifno e).1
  have eF := (r_ifno e).2
  refine r_ifnonnull 17 dX7_hashCode_10 (by decide) (fun c5 => ?_) (fun x6 c5 => ?_)
  · have e := eT c5
    refine r_iconst dX7_hashCode_13 ?_
    refine r_goto 24 dX7_hashCode_14 (by decide) ?_
    exact wX7_hashCode_b24 d9 R9 hR9 E o0 v1 31 0 (hI_r rr q2) (by decide) (by decide) e
  · have e := eF x6 c5
    refine r_aload_n dX7_hashCode_17 rfl 0 rfl ?_
    obtain ⟨v7, q8, e⟩ := bd_o e
    refine r_getQ fG_X7_15 q8 dX7_hashCode_18 ?_
    obtain ⟨g11, e⟩ := gd_o e
    obtain ⟨p9, q10, e⟩ := bd_o e
    have k12 := hR9  q10
    have z13 := (k12 rr).1.2.2.2
    refine r_callVo (j := none) 0 [] (c := 7) (rc := (RX7, TX7, 3)) rfl g11 rfl k12 (injO_0 E.p) subO_0 getO_0 setO_0 (lw_V q563 q560 q561 q124 q562) (by decide +kernel) rfl (by omega) (by omega) rfl (Nat.le_of_ble_eq_true rfl) dX7_hashCode_21 rfl ?_
    exact wX7_hashCode_b24 d9 R9 hR9 E o0 v1 31 p9 (hI_r rr q2) (by decide) z13 e
def fX7_hashCode : Nat → hS → Option Nat → Option (Int)
  | 0, _, _ => none
  | d9 + 1, h, o0 => fX7_hashCode_B (fX7_hashCode d9) h o0
theorem kX7_hashCode {G : Gx} : ∀ (d9 : Nat), ∀  {h : hS} {r : Int} {o0 : Option Nat} , fX7_hashCode d9 h o0 = some (r) → CtX G yX7_hashCode cX7_hashCode 2 (some .int) (d9 + 0) (21 * d9 + 0) [] [] h [tr o0] (some (ti r)) [] h := by
  intro d9
  induction d9 with
  | zero => intros; rename_i e; cases e
  | succ d9 ih => intros; exact kX7_hashCode_B d9 _ ih (by assumption)
theorem fG_X9_15 : FldG RX9 15 [(9, 1)] := List.forall_mem_cons.mpr ⟨⟨RX9, TX9, 2, "DictProof$Goal", rfl, in_X9, by decide, q870, Or.inl rfl⟩, fun _ h => absurd h List.not_mem_nil⟩
theorem fG_X9_9 : FldG RX9 9 [(9, 0)] := List.forall_mem_cons.mpr ⟨⟨RX9, TX9, 2, "DictProof$Goal", rfl, in_X9, by decide, q868, Or.inl rfl⟩, fun _ h => absurd h List.not_mem_nil⟩
def fX9_hashCode  (h : hS) (o0 : Option Nat) : Option (Int) := bd (hQ h o0 [(9, 1)]) fun v1 => gd (hC h v1 = some 7) (bd (fX7_hashCode 16 h v1) fun p3 => bd (hI h o0 [(9, 0)]) fun v8 => some (wr ((wr (31 * p3)) + v8)))
theorem kX9_hashCode {G : Gx}  {h : hS} {r : Int} {o0 : Option Nat}   (e : fX9_hashCode h o0 = some (r)) : CtX G yX9_hashCode cX9_hashCode 1 (some .int) 17 357 [] [] h [tr o0] (some (ti r)) [] h := by
  refine CtX.of (by decide) (Nat.le_of_ble_eq_true rfl) [(0, tr o0)] rfl ?_
  have E : EndX (G, 1, [], h, [], h, (some .int), (some (ti r)), yX9_hashCode.name) [] 1 (some .int) (some (ti r)) [] h := ⟨rfl, rfl, rfl, rfl, rfl, rfl⟩
  unfold fX9_hashCode at e
  refine r_rrs E.p (fun rr => ?_)
  refine r_bipush dX9_hashCode_0 (by decide) ?_
  refine r_aload_n dX9_hashCode_2 rfl 0 rfl ?_
  obtain ⟨v1, q2, e⟩ := bd_o e
  refine r_getQ fG_X9_15 q2 dX9_hashCode_3 ?_
  obtain ⟨g5, e⟩ := gd_o e
  obtain ⟨p3, q4, e⟩ := bd_o e
  have k6 := kX7_hashCode (G := G) 16  q4
  have z7 := (k6 rr).1.2.2.2
  refine r_callVo (j := none) 0 [] (c := 7) (rc := (RX7, TX7, 3)) rfl g5 rfl k6 (injO_0 E.p) subO_0 getO_0 setO_0 (lw_V q559 q560 q561 q124 q562) (by decide +kernel) rfl (Nat.le_of_ble_eq_true rfl) (Nat.le_of_ble_eq_true rfl) rfl (Nat.le_of_ble_eq_true rfl) dX9_hashCode_6 rfl ?_
  refine r_imul dX9_hashCode_9 ?_
  refine r_aload_n dX9_hashCode_10 rfl 0 rfl ?_
  obtain ⟨v8, q9, e⟩ := bd_o e
  refine r_getI fG_X9_9 q9 dX9_hashCode_11 ?_
  refine r_iadd dX9_hashCode_14 ?_
  cases e
  exact r_iret E.σ E.st E.rt E.r (wr_r _) dX9_hashCode_15
def D0_hashCode (h : hS) (o : Option Nat)  : Option (Int) := if hC h o = some 7 then fX7_hashCode 16 h o else if hC h o = some 9 then fX9_hashCode h o else if hC h o = some 15 then fJ3_hashCode h o else none
theorem zD0_hashCode {G : Gx} {h : hS} {o : Option Nat}  {p : Int}  (q : D0_hashCode h o  = some p) (rr : RR [] [] h) : rtOK (some .int) (some (ti p)) := by
  unfold D0_hashCode at q
  split at q
  · exact ((kX7_hashCode (G := G) 16 q) rr).1.2.2.2
  split at q
  · exact ((kX9_hashCode (G := G)  q) rr).1.2.2.2
  split at q
  · exact ((kJ3_hashCode (G := G)  q) rr).1.2.2.2
  cases q
theorem rD_J1_1 {N : Nx} {cc : ByteArray} {fR lO : Nat} {σs : List Sg} {h : hS} {pc : Nat} {lv : List (Nat × Tv)} {stk stk0 stk1 : List Tv} {o : Option Nat}  {p : Int}  (q : D0_hashCode h o  = some p) (hinj : injO N) (hfr : 18 ≤ fR) (hlo : 377 ≤ lO) (hstk : stk0 = [].reverse ++ tr o :: stk) (hroom : (stk.map tc).sum ≤ 8) (hd : decode cc pc = .ok (.invokevirtual 1, 3)) (hs1 : ti p :: stk = stk1) (k : AtPc cc RJ1 fR lO N σs h (pc + 3) lv stk1) : AtPc cc RJ1 fR lO N σs h pc lv stk0 := by
  unfold D0_hashCode at q
  split at q
  · rename_i g1; exact r_callA (j := none) 0 [] (c := 7) (rc := (RX7, TX7, 3)) rfl g1 (x := ⟨"java/lang/Object", "hashCode", "()I"⟩) (owner := "java/lang/Object") q550 (kX7_hashCode (G := nG N) 16 q) hinj subO_0 getO_0 setO_0 (lw_U q551 q553 q571 q560 q124 q562) (by decide +kernel) rfl (by omega) (by omega) hstk hroom hd hs1 k
  split at q
  · rename_i g1; exact r_callA (j := none) 0 [] (c := 9) (rc := (RX9, TX9, 2)) rfl g1 (x := ⟨"java/lang/Object", "hashCode", "()I"⟩) (owner := "java/lang/Object") q550 (kX9_hashCode (G := nG N)  q) hinj subO_0 getO_0 setO_0 (lw_U q551 q553 q556 q557 q133 q558) (by decide +kernel) rfl (by omega) (by omega) hstk hroom hd hs1 k
  split at q
  · rename_i g1; exact r_callA (j := none) 0 [] (c := 15) (rc := (RJ3, TJ3, 1)) rfl g1 (x := ⟨"java/lang/Object", "hashCode", "()I"⟩) (owner := "java/lang/Object") q550 (kJ3_hashCode (G := nG N)  q) hinj subO_0 getO_0 setO_0 (lw_U q551 q553 q574 q575 q127 q576) (by decide +kernel) rfl (by omega) (by omega) hstk hroom hd hs1 k
  cases q
def fJ1_hash_b19 (h : hS) (k0 : Int) : Option (Int) := some k0
theorem wJ1_hash_b19 {N : Nx} {h : hS} {r : Int} (E : EndX N [] 2 (some .int) (some (ti r)) [] h)  (k0 : Int) (hk0 : rI k0) (e : fJ1_hash_b19 h k0 = some (r)) : AtPc cJ1_hash RJ1 18 377 N [] h 19 [] [ti k0] := by
  unfold fJ1_hash_b19 at e
  refine r_rrs E.p (fun rr => ?_)
  cases e
  exact r_iret E.σ E.st E.rt E.r hk0 dJ1_hash_19
def fJ1_hash  (h : hS) (o0 : Option Nat) : Option (Int) := ifN o0 (fJ1_hash_b19 h 0) (fun _ => bd (D0_hashCode h o0) fun p3 => fJ1_hash_b19 h (ixor p3 (iush p3 16)))
theorem kJ1_hash {G : Gx}  {h : hS} {r : Int} {o0 : Option Nat}   (e : fJ1_hash h o0 = some (r)) : CtX G yJ1_hash cJ1_hash 2 (some .int) 18 377 [] [] h [tr o0] (some (ti r)) [] h := by
  refine CtX.of (by decide) (Nat.le_of_ble_eq_true rfl) [(0, tr o0)] rfl ?_
  have E : EndX (G, 2, [], h, [], h, (some .int), (some (ti r)), yJ1_hash.name) [] 2 (some .int) (some (ti r)) [] h := ⟨rfl, rfl, rfl, rfl, rfl, rfl⟩
  unfold fJ1_hash at e
  refine r_rrs E.p (fun rr => ?_)
  refine r_aload_n dJ1_hash_0 rfl 0 rfl ?_
  have eT := (r_ifno e).1
  have eF := (r_ifno e).2
  refine r_ifnonnull 8 dJ1_hash_1 (by decide) (fun c1 => ?_) (fun x2 c1 => ?_)
  · have e := eT c1
    refine r_iconst dJ1_hash_4 ?_
    refine r_goto 19 dJ1_hash_5 (by decide) ?_
    refine r_sub [] rfl ?_
    exact wJ1_hash_b19 E 0 (by decide) e
  · have e := eF x2 c1
    refine r_aload_n dJ1_hash_8 rfl 0 rfl ?_
    obtain ⟨p3, q4, e⟩ := bd_o e
    have z5 := zD0_hashCode (G := G)  q4 rr.none
    refine rD_J1_1  q4 (injO_0 E.p) (Nat.le_of_ble_eq_true rfl) (Nat.le_of_ble_eq_true rfl) rfl (Nat.le_of_ble_eq_true rfl) dJ1_hash_9 rfl ?_
    refine r_dup dJ1_hash_12 rfl ?_
    refine r_istore_n (lv' := [(1, ti p3), (0, tr o0)]) dJ1_hash_13 rfl (E.lt (by decide)) rfl ?_
    refine r_iload_n dJ1_hash_14 rfl 0 rfl ?_
    refine r_bipush dJ1_hash_15 (by decide) ?_
    refine r_iushr dJ1_hash_17 ?_
    refine r_ixor dJ1_hash_18 ?_
    refine r_sub [] rfl ?_
    exact wJ1_hash_b19 E (ixor p3 (iush p3 16)) (ixor_r _ _) e
def fJ3_intValue  (h : hS) (o0 : Option Nat) : Option (Int) := bd (hI h o0 [(15, 0)]) fun v1 => some v1
theorem kJ3_intValue {G : Gx}  {h : hS} {r : Int} {o0 : Option Nat}   (e : fJ3_intValue h o0 = some (r)) : CtX G yJ3_intValue cJ3_intValue 1 (some .int) 0 0 [] [] h [tr o0] (some (ti r)) [] h := by
  refine CtX.of (by decide) (Nat.le_of_ble_eq_true rfl) [(0, tr o0)] rfl ?_
  have E : EndX (G, 1, [], h, [], h, (some .int), (some (ti r)), yJ3_intValue.name) [] 1 (some .int) (some (ti r)) [] h := ⟨rfl, rfl, rfl, rfl, rfl, rfl⟩
  unfold fJ3_intValue at e
  refine r_rrs E.p (fun rr => ?_)
  refine r_aload_n dJ3_intValue_0 rfl 0 rfl ?_
  obtain ⟨v1, q2, e⟩ := bd_o e
  refine r_getI fG_J3_205 q2 dJ3_intValue_1 ?_
  cases e
  exact r_iret E.σ E.st E.rt E.r (hI_r rr q2) dJ3_intValue_4
theorem cst_0 : cstOK "java/lang/Integer" [15] := List.forall_mem_cons.mpr ⟨⟨(RJ3, TJ3, 1), rfl, Or.inl rfl⟩, fun _ h => absurd h List.not_mem_nil⟩
def fJ3_equals_b26 (h : hS) (k0 : Int) : Option (Int) := gd (k0 = 0 ∨ k0 = 1) (some k0)
theorem wJ3_equals_b26 {N : Nx} {h : hS} {r : Int} (E : EndX N [] 2 (some .boolean) (some (ti r)) [] h)  (k0 : Int) (hk0 : rI k0) (e : fJ3_equals_b26 h k0 = some (r)) : AtPc cJ3_equals RJ3 1 20 N [] h 26 [] [ti k0] := by
  unfold fJ3_equals_b26 at e
  refine r_rrs E.p (fun rr => ?_)
  obtain ⟨g1, e⟩ := gd_o e
  cases e
  exact r_zret E.σ E.st E.rt E.r g1 dJ3_equals_26
def fJ3_equals  (h : hS) (o0 : Option Nat) (o1 : Option Nat) : Option (Int) := gd (inC h o1 [15] = true) (bd (hI h o0 [(15, 0)]) fun v4 => gd (o1 = none ∨ inC h o1 [15] = true) (gd (hC h o1 = some 15) (bd (fJ3_intValue h o1) fun p7 => if ¬ v4 = p7 then fJ3_equals_b26 h 0 else fJ3_equals_b26 h 1)))
theorem kJ3_equals {G : Gx}  {h : hS} {r : Int} {o0 : Option Nat} {o1 : Option Nat}   (e : fJ3_equals h o0 o1 = some (r)) : CtX G yJ3_equals cJ3_equals 2 (some .boolean) 1 20 [] [] h [tr o0, tr o1] (some (ti r)) [] h := by
  refine CtX.of (by decide) (Nat.le_of_ble_eq_true rfl) [(0, tr o0), (1, tr o1)] rfl ?_
  have E : EndX (G, 2, [], h, [], h, (some .boolean), (some (ti r)), yJ3_equals.name) [] 2 (some .boolean) (some (ti r)) [] h := ⟨rfl, rfl, rfl, rfl, rfl, rfl⟩
  unfold fJ3_equals at e
  refine r_rrs E.p (fun rr => ?_)
  refine r_aload_n dJ3_equals_0 rfl 1 rfl ?_
  obtain ⟨g2, e⟩ := gd_o e
  refine r_inst1 cst_0 q526 (inC_o g2) dJ3_equals_1 ?_
  refine r_if_eq (by decide) 27 dJ3_equals_4 (by decide) (fun c3 => absurd c3 (by decide)) (fun c3 => ?_)
  refine r_aload_n dJ3_equals_7 rfl 0 rfl ?_
  obtain ⟨v4, q5, e⟩ := bd_o e
  refine r_getI fG_J3_205 q5 dJ3_equals_8 ?_
  refine r_aload_n dJ3_equals_11 rfl 1 rfl ?_
  obtain ⟨g6, e⟩ := gd_o e
  refine r_cast cst_0 q526 (inC_p g6) dJ3_equals_12 ?_
  obtain ⟨g9, e⟩ := gd_o e
  obtain ⟨p7, q8, e⟩ := bd_o e
  have k10 := kJ3_intValue (G := G)  q8
  have z11 := (k10 rr).1.2.2.2
  refine r_callVo (j := none) 0 [] (c := 15) (rc := (RJ3, TJ3, 1)) rfl g9 rfl k10 (injO_0 E.p) subO_0 getO_0 setO_0 (lw_V q609 q610 q611 q127 q612) (by decide +kernel) rfl (Nat.le_of_ble_eq_true rfl) (Nat.le_of_ble_eq_true rfl) rfl (Nat.le_of_ble_eq_true rfl) dJ3_equals_15 rfl ?_
  have eT := (r_ifo e).1
  have eF := (r_ifo e).2
  refine r_icmp_ne (hI_r rr q5) z11 25 dJ3_equals_18 (by decide) (fun c12 => ?_) (fun c12 => ?_)
  · have e := eT c12
    refine r_iconst dJ3_equals_25 ?_
    refine r_sub [] rfl ?_
    exact wJ3_equals_b26 E 0 (by decide) e
  · have e := eF c12
    refine r_iconst dJ3_equals_21 ?_
    refine r_goto 26 dJ3_equals_22 (by decide) ?_
    refine r_sub [] rfl ?_
    exact wJ3_equals_b26 E 1 (by decide) e
theorem cst_1 : cstOK "DictProof$Term" [7] := List.forall_mem_cons.mpr ⟨⟨(RX7, TX7, 3), rfl, Or.inl rfl⟩, fun _ h => absurd h List.not_mem_nil⟩
def fX7_equals_b23 (R9 : hS → Option Nat → Option Nat → Option (Int)) (h : hS) : Option (Int) := some 0
theorem wX7_equals_b23 {N : Nx} {h : hS} {r : Int} (d9 : Nat) (R9 : hS → Option Nat → Option Nat → Option (Int)) (hR9 : ∀  {h : hS} {r : Int} {o0 : Option Nat} {o1 : Option Nat} , R9 h o0 o1 = some (r) → CtX (nG N) yX7_equals cX7_equals 3 (some .boolean) (d9 + 0) (22 * d9 + 0) [] [] h [tr o0, tr o1] (some (ti r)) [] h) (E : EndX N [] 3 (some .boolean) (some (ti r)) [] h)   (e : fX7_equals_b23 R9 h = some (r)) : AtPc cX7_equals RX7 ((d9 + 1) + 0) (22 * (d9 + 1) + 0) N [] h 23 [] [] := by
  unfold fX7_equals_b23 at e
  refine r_rrs E.p (fun rr => ?_)
  refine r_iconst dX7_equals_23 ?_
  cases e
  exact r_zret E.σ E.st E.rt E.r (Or.inl rfl) dX7_equals_24
def fX7_equals_b72 (R9 : hS → Option Nat → Option Nat → Option (Int)) (h : hS) (k0 : Int) : Option (Int) := gd (k0 = 0 ∨ k0 = 1) (some k0)
theorem wX7_equals_b72 {N : Nx} {h : hS} {r : Int} (d9 : Nat) (R9 : hS → Option Nat → Option Nat → Option (Int)) (hR9 : ∀  {h : hS} {r : Int} {o0 : Option Nat} {o1 : Option Nat} , R9 h o0 o1 = some (r) → CtX (nG N) yX7_equals cX7_equals 3 (some .boolean) (d9 + 0) (22 * d9 + 0) [] [] h [tr o0, tr o1] (some (ti r)) [] h) (E : EndX N [] 3 (some .boolean) (some (ti r)) [] h)  (k0 : Int) (hk0 : rI k0) (e : fX7_equals_b72 R9 h k0 = some (r)) : AtPc cX7_equals RX7 ((d9 + 1) + 0) (22 * (d9 + 1) + 0) N [] h 72 [] [ti k0] := by
  unfold fX7_equals_b72 at e
  refine r_rrs E.p (fun rr => ?_)
  obtain ⟨g1, e⟩ := gd_o e
  cases e
  exact r_zret E.σ E.st E.rt E.r g1 dX7_equals_72
def fX7_equals_b67 (R9 : hS → Option Nat → Option Nat → Option (Int)) (h : hS) : Option (Int) := fX7_equals_b72 R9 h 1
theorem wX7_equals_b67 {N : Nx} {h : hS} {r : Int} (d9 : Nat) (R9 : hS → Option Nat → Option Nat → Option (Int)) (hR9 : ∀  {h : hS} {r : Int} {o0 : Option Nat} {o1 : Option Nat} , R9 h o0 o1 = some (r) → CtX (nG N) yX7_equals cX7_equals 3 (some .boolean) (d9 + 0) (22 * d9 + 0) [] [] h [tr o0, tr o1] (some (ti r)) [] h) (E : EndX N [] 3 (some .boolean) (some (ti r)) [] h)   (e : fX7_equals_b67 R9 h = some (r)) : AtPc cX7_equals RX7 ((d9 + 1) + 0) (22 * (d9 + 1) + 0) N [] h 67 [] [] := by
  unfold fX7_equals_b67 at e
  refine r_rrs E.p (fun rr => ?_)
  refine r_iconst dX7_equals_67 ?_
  refine r_goto 72 dX7_equals_68 (by decide) ?_
  exact wX7_equals_b72 d9 R9 hR9 E 1 (by decide) e
def fX7_equals_b71 (R9 : hS → Option Nat → Option Nat → Option (Int)) (h : hS) : Option (Int) := fX7_equals_b72 R9 h 0
theorem wX7_equals_b71 {N : Nx} {h : hS} {r : Int} (d9 : Nat) (R9 : hS → Option Nat → Option Nat → Option (Int)) (hR9 : ∀  {h : hS} {r : Int} {o0 : Option Nat} {o1 : Option Nat} , R9 h o0 o1 = some (r) → CtX (nG N) yX7_equals cX7_equals 3 (some .boolean) (d9 + 0) (22 * d9 + 0) [] [] h [tr o0, tr o1] (some (ti r)) [] h) (E : EndX N [] 3 (some .boolean) (some (ti r)) [] h)   (e : fX7_equals_b71 R9 h = some (r)) : AtPc cX7_equals RX7 ((d9 + 1) + 0) (22 * (d9 + 1) + 0) N [] h 71 [] [] := by
  unfold fX7_equals_b71 at e
  refine r_rrs E.p (fun rr => ?_)
  refine r_iconst dX7_equals_71 ?_
  exact wX7_equals_b72 d9 R9 hR9 E 0 (by decide) e
def fX7_equals_b46 (R9 : hS → Option Nat → Option Nat → Option (Int)) (h : hS) (o0 : Option Nat) (o2 : Option Nat) : Option (Int) := bd (hQ h o0 [(7, 2)]) fun v1 => ifN v1 (fX7_equals_b67 R9 h) (fun _ => bd (hQ h o0 [(7, 2)]) fun v5 => bd (hQ h o2 [(7, 2)]) fun v7 => gd (hC h v5 = some 7) (bd (R9 h v5 v7) fun p9 => if p9 = 0 then fX7_equals_b71 R9 h else fX7_equals_b67 R9 h))
theorem wX7_equals_b46 {N : Nx} {h : hS} {r : Int} (d9 : Nat) (R9 : hS → Option Nat → Option Nat → Option (Int)) (hR9 : ∀  {h : hS} {r : Int} {o0 : Option Nat} {o1 : Option Nat} , R9 h o0 o1 = some (r) → CtX (nG N) yX7_equals cX7_equals 3 (some .boolean) (d9 + 0) (22 * d9 + 0) [] [] h [tr o0, tr o1] (some (ti r)) [] h) (E : EndX N [] 3 (some .boolean) (some (ti r)) [] h)  (o0 : Option Nat) (o2 : Option Nat) (e : fX7_equals_b46 R9 h o0 o2 = some (r)) : AtPc cX7_equals RX7 ((d9 + 1) + 0) (22 * (d9 + 1) + 0) N [] h 46 [(0, tr o0), (2, tr o2)] [] := by
  unfold fX7_equals_b46 at e
  refine r_rrs E.p (fun rr => ?_)
  refine r_aload_n dX7_equals_46 rfl 0 rfl ?_
  obtain ⟨v1, q2, e⟩ := bd_o e
  refine r_getQ fG_X7_19 q2 dX7_equals_47 ?_
  have eT := (r_ifno e).1
  have eF := (r_ifno e).2
  refine r_ifnull 67 dX7_equals_50 (by decide) (fun c3 => ?_) (fun x4 c3 => ?_)
  · have e := eT c3
    refine r_sub [] rfl ?_
    exact wX7_equals_b67 d9 R9 hR9 E e
  · have e := eF x4 c3
    refine r_aload_n dX7_equals_53 rfl 0 rfl ?_
    obtain ⟨v5, q6, e⟩ := bd_o e
    refine r_getQ fG_X7_19 q6 dX7_equals_54 ?_
    refine r_aload_n dX7_equals_57 rfl 1 rfl ?_
    obtain ⟨v7, q8, e⟩ := bd_o e
    refine r_getQ fG_X7_19 q8 dX7_equals_58 ?_
    obtain ⟨g11, e⟩ := gd_o e
    obtain ⟨p9, q10, e⟩ := bd_o e
    have k12 := hR9  q10
    have z13 := (k12 rr).1.2.2.2
    refine r_callVo (j := none) 1 [tr v7] (c := 7) (rc := (RX7, TX7, 3)) rfl g11 rfl k12 (injO_0 E.p) subO_0 getO_0 setO_0 (lw_V q596 q592 q593 q124 q594) (by decide +kernel) rfl (by omega) (by omega) rfl (Nat.le_of_ble_eq_true rfl) dX7_equals_61 rfl ?_
    have eT := (r_ifo e).1
    have eF := (r_ifo e).2
    refine r_if_eq (rI_z z13) 71 dX7_equals_64 (by decide) (fun c14 => ?_) (fun c14 => ?_)
    · have e := eT c14
      refine r_sub [] rfl ?_
      exact wX7_equals_b71 d9 R9 hR9 E e
    · have e := eF c14
      refine r_sub [] rfl ?_
      exact wX7_equals_b67 d9 R9 hR9 E e
def fX7_equals_B (R9 : hS → Option Nat → Option Nat → Option (Int)) (h : hS) (o0 : Option Nat) (o1 : Option Nat) : Option (Int) := gd (inC h o1 [7] = true) (gd (o1 = none ∨ inC h o1 [7] = true) (bd (hI h o1 [(7, 0)]) fun v5 => bd (hI h o0 [(7, 0)]) fun v7 => if v5 = v7 then bd (hQ h o0 [(7, 1)]) fun v10 => ifN v10 (fX7_equals_b46 R9 h o0 o1) (fun _ => bd (hQ h o0 [(7, 1)]) fun v14 => bd (hQ h o1 [(7, 1)]) fun v16 => gd (hC h v14 = some 7) (bd (R9 h v14 v16) fun p18 => if p18 = 0 then fX7_equals_b71 R9 h else fX7_equals_b46 R9 h o0 o1)) else fX7_equals_b23 R9 h))
theorem kX7_equals_B {G : Gx}  {h : hS} {r : Int} {o0 : Option Nat} {o1 : Option Nat} (d9 : Nat) (R9 : hS → Option Nat → Option Nat → Option (Int)) (hR9 : ∀  {h : hS} {r : Int} {o0 : Option Nat} {o1 : Option Nat} , R9 h o0 o1 = some (r) → CtX G yX7_equals cX7_equals 3 (some .boolean) (d9 + 0) (22 * d9 + 0) [] [] h [tr o0, tr o1] (some (ti r)) [] h)  (e : fX7_equals_B R9 h o0 o1 = some (r)) : CtX G yX7_equals cX7_equals 3 (some .boolean) ((d9 + 1) + 0) (22 * (d9 + 1) + 0) [] [] h [tr o0, tr o1] (some (ti r)) [] h := by
  refine CtX.of (by decide) (Nat.le_of_ble_eq_true rfl) [(0, tr o0), (1, tr o1)] rfl ?_
  have E : EndX (G, 3, [], h, [], h, (some .boolean), (some (ti r)), yX7_equals.name) [] 3 (some .boolean) (some (ti r)) [] h := ⟨rfl, rfl, rfl, rfl, rfl, rfl⟩
  unfold fX7_equals_B at e
  refine r_rrs E.p (fun rr => ?_)
  refine r_aload_n dX7_equals_0 rfl 1 rfl ?_
  obtain ⟨g2, e⟩ := gd_o e
  refine r_inst1 cst_1 q595 (inC_o g2) dX7_equals_1 ?_
  refine r_if_eq (by decide) 23 dX7_equals_4 (by decide) (fun c3 => absurd c3 (by decide)) (fun c3 => ?_)
  refine r_aload_n dX7_equals_7 rfl 1 rfl ?_
  obtain ⟨g4, e⟩ := gd_o e
  refine r_cast cst_1 q595 (inC_p g4) dX7_equals_8 ?_
  refine r_astore_n (lv' := [(2, tr o1), (0, tr o0), (1, tr o1)]) dX7_equals_11 rfl (E.lt (by decide)) rfl ?_
  refine r_aload_n dX7_equals_12 rfl 0 rfl ?_
  obtain ⟨v5, q6, e⟩ := bd_o e
  refine r_getI fG_X7_9 q6 dX7_equals_13 ?_
  refine r_aload_n dX7_equals_16 rfl 1 rfl ?_
  obtain ⟨v7, q8, e⟩ := bd_o e
  refine r_getI fG_X7_9 q8 dX7_equals_17 ?_
  have eT := (r_ifo e).1
  have eF := (r_ifo e).2
  refine r_icmp_eq (hI_r rr q6) (hI_r rr q8) 25 dX7_equals_20 (by decide) (fun c9 => ?_) (fun c9 => ?_)
  · have e := eT c9
    refine r_aload_n dX7_equals_25 rfl 1 rfl ?_
    obtain ⟨v10, q11, e⟩ := bd_o e
    refine r_getQ fG_X7_15 q11 dX7_equals_26 ?_
    have eT := (r_ifno e).1
    have eF := (r_ifno e).2
    refine r_ifnull 46 dX7_equals_29 (by decide) (fun c12 => ?_) (fun x13 c12 => ?_)
    · have e := eT c12
      refine r_sub [1, 0] rfl ?_
      exact wX7_equals_b46 d9 R9 hR9 E o0 o1 e
    · have e := eF x13 c12
      refine r_aload_n dX7_equals_32 rfl 1 rfl ?_
      obtain ⟨v14, q15, e⟩ := bd_o e
      refine r_getQ fG_X7_15 q15 dX7_equals_33 ?_
      refine r_aload_n dX7_equals_36 rfl 0 rfl ?_
      obtain ⟨v16, q17, e⟩ := bd_o e
      refine r_getQ fG_X7_15 q17 dX7_equals_37 ?_
      obtain ⟨g20, e⟩ := gd_o e
      obtain ⟨p18, q19, e⟩ := bd_o e
      have k21 := hR9  q19
      have z22 := (k21 rr).1.2.2.2
      refine r_callVo (j := none) 1 [tr v16] (c := 7) (rc := (RX7, TX7, 3)) rfl g20 rfl k21 (injO_0 E.p) subO_0 getO_0 setO_0 (lw_V q596 q592 q593 q124 q594) (by decide +kernel) rfl (by omega) (by omega) rfl (Nat.le_of_ble_eq_true rfl) dX7_equals_40 rfl ?_
      have eT := (r_ifo e).1
      have eF := (r_ifo e).2
      refine r_if_eq (rI_z z22) 71 dX7_equals_43 (by decide) (fun c23 => ?_) (fun c23 => ?_)
      · have e := eT c23
        refine r_sub [] rfl ?_
        exact wX7_equals_b71 d9 R9 hR9 E e
      · have e := eF c23
        refine r_sub [1, 0] rfl ?_
        exact wX7_equals_b46 d9 R9 hR9 E o0 o1 e
  · have e := eF c9
    refine r_sub [] rfl ?_
    exact wX7_equals_b23 d9 R9 hR9 E e
def fX7_equals : Nat → hS → Option Nat → Option Nat → Option (Int)
  | 0, _, _, _ => none
  | d9 + 1, h, o0, o1 => fX7_equals_B (fX7_equals d9) h o0 o1
theorem kX7_equals {G : Gx} : ∀ (d9 : Nat), ∀  {h : hS} {r : Int} {o0 : Option Nat} {o1 : Option Nat} , fX7_equals d9 h o0 o1 = some (r) → CtX G yX7_equals cX7_equals 3 (some .boolean) (d9 + 0) (22 * d9 + 0) [] [] h [tr o0, tr o1] (some (ti r)) [] h := by
  intro d9
  induction d9 with
  | zero => intros; rename_i e; cases e
  | succ d9 ih => intros; exact kX7_equals_B d9 _ ih (by assumption)
theorem cst_2 : cstOK "DictProof$Goal" [9] := List.forall_mem_cons.mpr ⟨⟨(RX9, TX9, 2), rfl, Or.inl rfl⟩, fun _ h => absurd h List.not_mem_nil⟩
def fX9_equals_b42 (h : hS) (k0 : Int) : Option (Int) := gd (k0 = 0 ∨ k0 = 1) (some k0)
theorem wX9_equals_b42 {N : Nx} {h : hS} {r : Int} (E : EndX N [] 3 (some .boolean) (some (ti r)) [] h)  (k0 : Int) (hk0 : rI k0) (e : fX9_equals_b42 h k0 = some (r)) : AtPc cX9_equals RX9 17 374 N [] h 42 [] [ti k0] := by
  unfold fX9_equals_b42 at e
  refine r_rrs E.p (fun rr => ?_)
  obtain ⟨g1, e⟩ := gd_o e
  cases e
  exact r_zret E.σ E.st E.rt E.r g1 dX9_equals_42
def fX9_equals_b41 (h : hS) : Option (Int) := fX9_equals_b42 h 0
theorem wX9_equals_b41 {N : Nx} {h : hS} {r : Int} (E : EndX N [] 3 (some .boolean) (some (ti r)) [] h)   (e : fX9_equals_b41 h = some (r)) : AtPc cX9_equals RX9 17 374 N [] h 41 [] [] := by
  unfold fX9_equals_b41 at e
  refine r_rrs E.p (fun rr => ?_)
  refine r_iconst dX9_equals_41 ?_
  exact wX9_equals_b42 E 0 (by decide) e
def fX9_equals  (h : hS) (o0 : Option Nat) (o1 : Option Nat) : Option (Int) := gd (inC h o1 [9] = true) (gd (o1 = none ∨ inC h o1 [9] = true) (bd (hI h o1 [(9, 0)]) fun v5 => bd (hI h o0 [(9, 0)]) fun v7 => if ¬ v5 = v7 then fX9_equals_b41 h else bd (hQ h o1 [(9, 1)]) fun v10 => bd (hQ h o0 [(9, 1)]) fun v12 => gd (hC h v10 = some 7) (bd (fX7_equals 16 h v10 v12) fun p14 => if p14 = 0 then fX9_equals_b41 h else fX9_equals_b42 h 1)))
theorem kX9_equals {G : Gx}  {h : hS} {r : Int} {o0 : Option Nat} {o1 : Option Nat}   (e : fX9_equals h o0 o1 = some (r)) : CtX G yX9_equals cX9_equals 3 (some .boolean) 17 374 [] [] h [tr o0, tr o1] (some (ti r)) [] h := by
  refine CtX.of (by decide) (Nat.le_of_ble_eq_true rfl) [(0, tr o0), (1, tr o1)] rfl ?_
  have E : EndX (G, 3, [], h, [], h, (some .boolean), (some (ti r)), yX9_equals.name) [] 3 (some .boolean) (some (ti r)) [] h := ⟨rfl, rfl, rfl, rfl, rfl, rfl⟩
  unfold fX9_equals at e
  refine r_rrs E.p (fun rr => ?_)
  refine r_aload_n dX9_equals_0 rfl 1 rfl ?_
  obtain ⟨g2, e⟩ := gd_o e
  refine r_inst1 cst_2 q590 (inC_o g2) dX9_equals_1 ?_
  refine r_if_eq (by decide) 41 dX9_equals_4 (by decide) (fun c3 => absurd c3 (by decide)) (fun c3 => ?_)
  refine r_aload_n dX9_equals_7 rfl 1 rfl ?_
  obtain ⟨g4, e⟩ := gd_o e
  refine r_cast cst_2 q590 (inC_p g4) dX9_equals_8 ?_
  refine r_astore_n (lv' := [(2, tr o1), (0, tr o0), (1, tr o1)]) dX9_equals_11 rfl (E.lt (by decide)) rfl ?_
  refine r_aload_n dX9_equals_12 rfl 0 rfl ?_
  obtain ⟨v5, q6, e⟩ := bd_o e
  refine r_getI fG_X9_9 q6 dX9_equals_13 ?_
  refine r_aload_n dX9_equals_16 rfl 1 rfl ?_
  obtain ⟨v7, q8, e⟩ := bd_o e
  refine r_getI fG_X9_9 q8 dX9_equals_17 ?_
  have eT := (r_ifo e).1
  have eF := (r_ifo e).2
  refine r_icmp_ne (hI_r rr q6) (hI_r rr q8) 41 dX9_equals_20 (by decide) (fun c9 => ?_) (fun c9 => ?_)
  · have e := eT c9
    refine r_sub [] rfl ?_
    exact wX9_equals_b41 E e
  · have e := eF c9
    refine r_aload_n dX9_equals_23 rfl 0 rfl ?_
    obtain ⟨v10, q11, e⟩ := bd_o e
    refine r_getQ fG_X9_15 q11 dX9_equals_24 ?_
    refine r_aload_n dX9_equals_27 rfl 1 rfl ?_
    obtain ⟨v12, q13, e⟩ := bd_o e
    refine r_getQ fG_X9_15 q13 dX9_equals_28 ?_
    obtain ⟨g16, e⟩ := gd_o e
    obtain ⟨p14, q15, e⟩ := bd_o e
    have k17 := kX7_equals (G := G) 16  q15
    have z18 := (k17 rr).1.2.2.2
    refine r_callVo (j := none) 1 [tr v12] (c := 7) (rc := (RX7, TX7, 3)) rfl g16 rfl k17 (injO_0 E.p) subO_0 getO_0 setO_0 (lw_V q591 q592 q593 q124 q594) (by decide +kernel) rfl (Nat.le_of_ble_eq_true rfl) (Nat.le_of_ble_eq_true rfl) rfl (Nat.le_of_ble_eq_true rfl) dX9_equals_31 rfl ?_
    have eT := (r_ifo e).1
    have eF := (r_ifo e).2
    refine r_if_eq (rI_z z18) 41 dX9_equals_34 (by decide) (fun c19 => ?_) (fun c19 => ?_)
    · have e := eT c19
      refine r_sub [] rfl ?_
      exact wX9_equals_b41 E e
    · have e := eF c19
      refine r_iconst dX9_equals_37 ?_
      refine r_goto 42 dX9_equals_38 (by decide) ?_
      refine r_sub [] rfl ?_
      exact wX9_equals_b42 E 1 (by decide) e
theorem fG_J6_9 : FldG RJ6 9 [(13, 6)] := List.forall_mem_cons.mpr ⟨⟨RJ6, TJ6, 11, "java/util/HashMap$TreeNode", rfl, in_J6, by decide, q778, Or.inl rfl⟩, fun _ h => absurd h List.not_mem_nil⟩
def fJ6_root_b2 (K2 : hS → Option Nat → Option (Option Nat)) (h : hS) (o1 : Option Nat) : Option (Option Nat) := bd (hQ h o1 [(13, 6)]) fun v1 => ifN v1 (some o1) (fun _ => K2 h v1)
theorem wJ6_root_b2 {N : Nx} {h : hS} {r : Option Nat} (E : EndX N [] 3 (some (.object "java/util/HashMap$TreeNode")) (some (tr r)) [] h) (K2 : hS → Option Nat → Option (Option Nat)) (hK2 : ∀ (o1 : Option Nat), K2 h o1 = some (r) → AtPc cJ6_root RJ6 0 0 N [] h 2 [(1, tr o1)] []) (o1 : Option Nat) (e : fJ6_root_b2 K2 h o1 = some (r)) : AtPc cJ6_root RJ6 0 0 N [] h 2 [(1, tr o1)] [] := by
  unfold fJ6_root_b2 at e
  refine r_rrs E.p (fun rr => ?_)
  refine r_aload_n dJ6_root_2 rfl 0 rfl ?_
  obtain ⟨v1, q2, e⟩ := bd_o e
  refine r_getQ fG_J6_9 q2 dJ6_root_3 ?_
  refine r_dup dJ6_root_6 rfl ?_
  refine r_astore_n (lv' := [(2, tr v1), (1, tr o1)]) dJ6_root_7 rfl (E.lt (by decide)) rfl ?_
  have eT := (r_ifno e).1
  have eF := (r_ifno e).2
  refine r_ifnonnull 13 dJ6_root_8 (by decide) (fun c3 => ?_) (fun x4 c3 => ?_)
  · have e := eT c3
    refine r_aload_n dJ6_root_11 rfl 1 rfl ?_
    cases e
    exact r_aret E.σ E.st E.rt (by first | exact Or.inl ⟨_, rfl⟩ | exact Or.inr ⟨_, rfl⟩) E.r dJ6_root_12
  · have e := eF x4 c3
    refine r_aload_n dJ6_root_13 rfl 0 rfl ?_
    refine r_astore_n (lv' := [(1, tr v1), (2, tr v1)]) dJ6_root_14 rfl (E.lt (by decide)) rfl ?_
    refine r_goto 2 dJ6_root_15 (by decide) ?_
    refine r_sub [0] rfl ?_
    exact hK2 v1 e
def fJ6_root_L2  : Nat → hS → Option Nat → Option (Option Nat)
  | 0, _, _ => none
  | n9 + 1, h, o1 => fJ6_root_b2 (fJ6_root_L2 n9) h o1
theorem wJ6_root_L2 {N : Nx} {h : hS} {r : Option Nat} (E : EndX N [] 3 (some (.object "java/util/HashMap$TreeNode")) (some (tr r)) [] h)  : ∀ (n9 : Nat), ∀ (o1 : Option Nat), fJ6_root_L2 n9 h o1 = some (r) → AtPc cJ6_root RJ6 0 0 N [] h 2 [(1, tr o1)] [] := by
  intro n9
  induction n9 with
  | zero => intro o1 e; cases e
  | succ n9 ih => intro o1 e; exact wJ6_root_b2 E _ ih o1 e
def fJ6_root  (h : hS) (o0 : Option Nat) : Option (Option Nat) := fJ6_root_L2 FU h o0
theorem kJ6_root {G : Gx}  {h : hS} {r : Option Nat} {o0 : Option Nat}   (e : fJ6_root h o0 = some (r)) : CtX G yJ6_root cJ6_root 3 (some (.object "java/util/HashMap$TreeNode")) 0 0 [] [] h [tr o0] (some (tr r)) [] h := by
  refine CtX.of (by decide) (Nat.le_of_ble_eq_true rfl) [(0, tr o0)] rfl ?_
  have E : EndX (G, 3, [], h, [], h, (some (.object "java/util/HashMap$TreeNode")), (some (tr r)), yJ6_root.name) [] 3 (some (.object "java/util/HashMap$TreeNode")) (some (tr r)) [] h := ⟨rfl, rfl, rfl, rfl, rfl, rfl⟩
  unfold fJ6_root at e
  refine r_rrs E.p (fun rr => ?_)
  refine r_aload_n dJ6_root_0 rfl 0 rfl ?_
  refine r_astore_n (lv' := [(1, tr o0), (0, tr o0)]) dJ6_root_1 rfl (E.lt (by decide)) rfl ?_
  refine r_sub [0] rfl ?_
  exact wJ6_root_L2 E FU o0 e
theorem fG_J6_39 : FldG RJ6 39 [(13, 7)] := List.forall_mem_cons.mpr ⟨⟨RJ6, TJ6, 11, "java/util/HashMap$TreeNode", rfl, in_J6, by decide, q779, Or.inl rfl⟩, fun _ h => absurd h List.not_mem_nil⟩
theorem fG_J6_42 : FldG RJ6 42 [(13, 8)] := List.forall_mem_cons.mpr ⟨⟨RJ6, TJ6, 11, "java/util/HashMap$TreeNode", rfl, in_J6, by decide, q780, Or.inl rfl⟩, fun _ h => absurd h List.not_mem_nil⟩
theorem fG_J6_15 : FldG RJ6 15 [(13, 2)] := List.forall_mem_cons.mpr ⟨⟨RJ6, TJ6, 11, "java/util/HashMap$TreeNode", rfl, in_J6, by decide, q716, Or.inr q717⟩, fun _ h => absurd h List.not_mem_nil⟩
theorem fG_J6_45 : FldG RJ6 45 [(13, 3)] := List.forall_mem_cons.mpr ⟨⟨RJ6, TJ6, 11, "java/util/HashMap$TreeNode", rfl, in_J6, by decide, q720, Or.inr q721⟩, fun _ h => absurd h List.not_mem_nil⟩
def D1_equals (h : hS) (o : Option Nat) (o1 : Option Nat) : Option (Int) := if hC h o = some 7 then fX7_equals 16 h o o1 else if hC h o = some 9 then fX9_equals h o o1 else if hC h o = some 15 then fJ3_equals h o o1 else none
theorem zD1_equals {G : Gx} {h : hS} {o : Option Nat} {o1 : Option Nat} {p : Int}  (q : D1_equals h o o1 = some p) (rr : RR [] [] h) : rtOK (some .boolean) (some (ti p)) := by
  unfold D1_equals at q
  split at q
  · exact ((kX7_equals (G := G) 16 q) rr).1.2.2.2
  split at q
  · exact ((kX9_equals (G := G)  q) rr).1.2.2.2
  split at q
  · exact ((kJ3_equals (G := G)  q) rr).1.2.2.2
  cases q
theorem rD_J6_49 {N : Nx} {cc : ByteArray} {fR lO : Nat} {σs : List Sg} {h : hS} {pc : Nat} {lv : List (Nat × Tv)} {stk stk0 stk1 : List Tv} {o : Option Nat} {o1 : Option Nat} {p : Int}  (q : D1_equals h o o1 = some p) (hinj : injO N) (hfr : 18 ≤ fR) (hlo : 396 ≤ lO) (hstk : stk0 = [tr o1].reverse ++ tr o :: stk) (hroom : (stk.map tc).sum ≤ 8) (hd : decode cc pc = .ok (.invokevirtual 49, 3)) (hs1 : ti p :: stk = stk1) (k : AtPc cc RJ6 fR lO N σs h (pc + 3) lv stk1) : AtPc cc RJ6 fR lO N σs h pc lv stk0 := by
  unfold D1_equals at q
  split at q
  · rename_i g1; exact r_callO (j := none) 1 [tr o1] (c := 7) (rc := (RX7, TX7, 3)) rfl g1 (x := ⟨"java/lang/Object", "equals", "(Ljava/lang/Object;)Z"⟩) (owner := "java/lang/Object") q613 (kX7_equals (G := nG N) 16 q) hinj subO_0 getO_0 setO_0 (lw_O q627 q584 q583 q603 q592 q124 q594) (by decide +kernel) rfl (by omega) (by omega) hstk hroom hd hs1 k
  split at q
  · rename_i g1; exact r_callO (j := none) 1 [tr o1] (c := 9) (rc := (RX9, TX9, 2)) rfl g1 (x := ⟨"java/lang/Object", "equals", "(Ljava/lang/Object;)Z"⟩) (owner := "java/lang/Object") q613 (kX9_equals (G := nG N)  q) hinj subO_0 getO_0 setO_0 (lw_O q627 q584 q583 q587 q588 q133 q589) (by decide +kernel) rfl (by omega) (by omega) hstk hroom hd hs1 k
  split at q
  · rename_i g1; exact r_callO (j := none) 1 [tr o1] (c := 15) (rc := (RJ3, TJ3, 1)) rfl g1 (x := ⟨"java/lang/Object", "equals", "(Ljava/lang/Object;)Z"⟩) (owner := "java/lang/Object") q613 (kJ3_equals (G := nG N)  q) hinj subO_0 getO_0 setO_0 (lw_O q627 q584 q583 q606 q607 q127 q608) (by decide +kernel) rfl (by omega) (by omega) hstk hroom hd hs1 k
  cases q
def fJ6_find_b74 (h : hS) (o4 : Option Nat) : Option (Option Nat) := some o4
theorem wJ6_find_b74 {N : Nx} {h : hS} {r : Option Nat} (E : EndX N [] 11 (some (.object "java/util/HashMap$TreeNode")) (some (tr r)) [] h)  (o4 : Option Nat) (e : fJ6_find_b74 h o4 = some (r)) : AtPc cJ6_find RJ6 18 396 N [] h 74 [(4, tr o4)] [] := by
  unfold fJ6_find_b74 at e
  refine r_rrs E.p (fun rr => ?_)
  refine r_aload dJ6_find_74 0 rfl ?_
  cases e
  exact r_aret E.σ E.st E.rt (by first | exact Or.inl ⟨_, rfl⟩ | exact Or.inr ⟨_, rfl⟩) E.r dJ6_find_76
def fJ6_find_b165 (K3 : hS → Int → Option Nat → Option Nat → Option Nat → Option (Option Nat)) (h : hS) (a1 : Int) (o2 : Option Nat) (o3 : Option Nat) (o4 : Option Nat) : Option (Option Nat) := ifN o4 (some none) (fun _ => K3 h a1 o2 o3 o4)
theorem wJ6_find_b165 {N : Nx} {h : hS} {r : Option Nat} (E : EndX N [] 11 (some (.object "java/util/HashMap$TreeNode")) (some (tr r)) [] h) (K3 : hS → Int → Option Nat → Option Nat → Option Nat → Option (Option Nat)) (hK3 : ∀ (a1 : Int) (o2 : Option Nat) (o3 : Option Nat) (o4 : Option Nat) (ha1 : rI a1), K3 h a1 o2 o3 o4 = some (r) → AtPc cJ6_find RJ6 18 396 N [] h 3 [(1, ti a1), (2, tr o2), (3, tr o3), (4, tr o4)] []) (a1 : Int) (o2 : Option Nat) (o3 : Option Nat) (o4 : Option Nat) (ha1 : rI a1) (e : fJ6_find_b165 K3 h a1 o2 o3 o4 = some (r)) : AtPc cJ6_find RJ6 18 396 N [] h 165 [(1, ti a1), (2, tr o2), (3, tr o3), (4, tr o4)] [] := by
  unfold fJ6_find_b165 at e
  refine r_rrs E.p (fun rr => ?_)
  refine r_aload dJ6_find_165 3 rfl ?_
  have eT := (r_ifno e).1
  have eF := (r_ifno e).2
  refine r_ifnonnull 3 dJ6_find_167 (by decide) (fun c1 => ?_) (fun x2 c1 => ?_)
  · have e := eT c1
    refine r_null dJ6_find_170 ?_
    cases e
    exact r_aret E.σ E.st E.rt (by first | exact Or.inl ⟨_, rfl⟩ | exact Or.inr ⟨_, rfl⟩) E.r dJ6_find_171
  · have e := eF x2 c1
    exact hK3 a1 o2 o3 o4 ha1 e
def fJ6_find_b77 (K3 : hS → Int → Option Nat → Option Nat → Option Nat → Option (Option Nat)) (h : hS) (a1 : Int) (o2 : Option Nat) (o3 : Option Nat) (o8 : Option Nat) (o9 : Option Nat) : Option (Option Nat) := ifN o8 (fJ6_find_b165 K3 h a1 o2 o3 o9) (fun _ => ifN o9 (fJ6_find_b165 K3 h a1 o2 o3 o8) (fun _ => none))
theorem wJ6_find_b77 {N : Nx} {h : hS} {r : Option Nat} (E : EndX N [] 11 (some (.object "java/util/HashMap$TreeNode")) (some (tr r)) [] h) (K3 : hS → Int → Option Nat → Option Nat → Option Nat → Option (Option Nat)) (hK3 : ∀ (a1 : Int) (o2 : Option Nat) (o3 : Option Nat) (o4 : Option Nat) (ha1 : rI a1), K3 h a1 o2 o3 o4 = some (r) → AtPc cJ6_find RJ6 18 396 N [] h 3 [(1, ti a1), (2, tr o2), (3, tr o3), (4, tr o4)] []) (a1 : Int) (o2 : Option Nat) (o3 : Option Nat) (o8 : Option Nat) (o9 : Option Nat) (ha1 : rI a1) (e : fJ6_find_b77 K3 h a1 o2 o3 o8 o9 = some (r)) : AtPc cJ6_find RJ6 18 396 N [] h 77 [(1, ti a1), (2, tr o2), (3, tr o3), (8, tr o8), (9, tr o9)] [] := by
  unfold fJ6_find_b77 at e
  refine r_rrs E.p (fun rr => ?_)
  refine r_aload dJ6_find_77 3 rfl ?_
  have eT := (r_ifno e).1
  have eF := (r_ifno e).2
  refine r_ifnonnull 89 dJ6_find_79 (by decide) (fun c1 => ?_) (fun x2 c1 => ?_)
  · have e := eT c1
    refine r_aload dJ6_find_82 4 rfl ?_
    refine r_astore (lv' := [(4, tr o9), (1, ti a1), (2, tr o2), (3, tr o3), (8, tr o8), (9, tr o9)]) dJ6_find_84 (E.lt (by decide)) rfl ?_
    refine r_goto 165 dJ6_find_86 (by decide) ?_
    refine r_sub [1, 2, 3, 0] rfl ?_
    exact wJ6_find_b165 E K3 hK3 a1 o2 o3 o9 ha1 e
  · have e := eF x2 c1
    refine r_aload dJ6_find_89 4 rfl ?_
    have eT := (r_ifno e).1
    have eF := (r_ifno e).2
    refine r_ifnonnull 101 dJ6_find_91 (by decide) (fun c3 => ?_) (fun x4 c3 => ?_)
    · have e := eT c3
      refine r_aload dJ6_find_94 3 rfl ?_
      refine r_astore (lv' := [(4, tr o8), (1, ti a1), (2, tr o2), (3, tr o3), (8, tr o8), (9, tr o9)]) dJ6_find_96 (E.lt (by decide)) rfl ?_
      refine r_goto 165 dJ6_find_98 (by decide) ?_
      refine r_sub [1, 2, 3, 0] rfl ?_
      exact wJ6_find_b165 E K3 hK3 a1 o2 o3 o8 ha1 e
    · have e := eF x4 c3
      cases e
def fJ6_find_b3 (K3 : hS → Int → Option Nat → Option Nat → Option Nat → Option (Option Nat)) (h : hS) (a1 : Int) (o2 : Option Nat) (o3 : Option Nat) (o4 : Option Nat) : Option (Option Nat) := bd (hQ h o4 [(13, 7)]) fun v1 => bd (hQ h o4 [(13, 8)]) fun v3 => bd (hI h o4 [(13, 2)]) fun v5 => if v5 ≤ a1 then if a1 ≤ v5 then bd (hQ h o4 [(13, 3)]) fun v9 => if v9 = o2 then fJ6_find_b74 h o4 else ifN o2 (fJ6_find_b77 K3 h a1 o2 o3 v1 v3) (fun _ => bd (D1_equals h o2 v9) fun p14 => if p14 = 0 then fJ6_find_b77 K3 h a1 o2 o3 v1 v3 else fJ6_find_b74 h o4) else fJ6_find_b165 K3 h a1 o2 o3 v3 else fJ6_find_b165 K3 h a1 o2 o3 v1
theorem wJ6_find_b3 {N : Nx} {h : hS} {r : Option Nat} (E : EndX N [] 11 (some (.object "java/util/HashMap$TreeNode")) (some (tr r)) [] h) (K3 : hS → Int → Option Nat → Option Nat → Option Nat → Option (Option Nat)) (hK3 : ∀ (a1 : Int) (o2 : Option Nat) (o3 : Option Nat) (o4 : Option Nat) (ha1 : rI a1), K3 h a1 o2 o3 o4 = some (r) → AtPc cJ6_find RJ6 18 396 N [] h 3 [(1, ti a1), (2, tr o2), (3, tr o3), (4, tr o4)] []) (a1 : Int) (o2 : Option Nat) (o3 : Option Nat) (o4 : Option Nat) (ha1 : rI a1) (e : fJ6_find_b3 K3 h a1 o2 o3 o4 = some (r)) : AtPc cJ6_find RJ6 18 396 N [] h 3 [(1, ti a1), (2, tr o2), (3, tr o3), (4, tr o4)] [] := by
  unfold fJ6_find_b3 at e
  refine r_rrs E.p (fun rr => ?_)
  refine r_aload dJ6_find_3 3 rfl ?_
  obtain ⟨v1, q2, e⟩ := bd_o e
  refine r_getQ fG_J6_39 q2 dJ6_find_5 ?_
  refine r_astore (lv' := [(8, tr v1), (1, ti a1), (2, tr o2), (3, tr o3), (4, tr o4)]) dJ6_find_8 (E.lt (by decide)) rfl ?_
  refine r_aload dJ6_find_10 4 rfl ?_
  obtain ⟨v3, q4, e⟩ := bd_o e
  refine r_getQ fG_J6_42 q4 dJ6_find_12 ?_
  refine r_astore (lv' := [(9, tr v3), (8, tr v1), (1, ti a1), (2, tr o2), (3, tr o3), (4, tr o4)]) dJ6_find_15 (E.lt (by decide)) rfl ?_
  refine r_aload dJ6_find_17 5 rfl ?_
  obtain ⟨v5, q6, e⟩ := bd_o e
  refine r_getI fG_J6_15 q6 dJ6_find_19 ?_
  refine r_dup dJ6_find_22 rfl ?_
  refine r_istore (lv' := [(5, ti v5), (9, tr v3), (8, tr v1), (1, ti a1), (2, tr o2), (3, tr o3), (4, tr o4)]) dJ6_find_23 (E.lt (by decide)) rfl ?_
  refine r_iload_n dJ6_find_25 rfl 3 rfl ?_
  have eT := (r_ifo e).1
  have eF := (r_ifo e).2
  refine r_icmp_le (hI_r rr q6) ha1 36 dJ6_find_26 (by decide) (fun c7 => ?_) (fun c7 => ?_)
  · have e := eT c7
    refine r_iload dJ6_find_36 0 rfl ?_
    refine r_iload_n dJ6_find_38 rfl 3 rfl ?_
    have eT := (r_ifo e).1
    have eF := (r_ifo e).2
    refine r_icmp_ge (hI_r rr q6) ha1 49 dJ6_find_39 (by decide) (fun c8 => ?_) (fun c8 => ?_)
    · have e := eT c8
      refine r_aload dJ6_find_49 6 rfl ?_
      obtain ⟨v9, q10, e⟩ := bd_o e
      refine r_getQ fG_J6_45 q10 dJ6_find_51 ?_
      refine r_dup dJ6_find_54 rfl ?_
      refine r_astore (lv' := [(7, tr v9), (5, ti v5), (9, tr v3), (8, tr v1), (1, ti a1), (2, tr o2), (3, tr o3), (4, tr o4)]) dJ6_find_55 (E.lt (by decide)) rfl ?_
      refine r_aload_n dJ6_find_57 rfl 5 rfl ?_
      have eT := (r_ifo e).1
      have eF := (r_ifo e).2
      refine r_acmp_eq 74 dJ6_find_58 (by decide) (fun c11 => ?_) (fun c11 => ?_)
      · have e := eT c11
        refine r_sub [7] rfl ?_
        exact wJ6_find_b74 E o4 e
      · have e := eF c11
        refine r_aload_n dJ6_find_61 rfl 5 rfl ?_
        have eT := (r_ifno e).1
        have eF := (r_ifno e).2
        refine r_ifnull 77 dJ6_find_62 (by decide) (fun c12 => ?_) (fun x13 c12 => ?_)
        · have e := eT c12
          refine r_sub [4, 5, 6, 3, 2] rfl ?_
          exact wJ6_find_b77 E K3 hK3 a1 o2 o3 v1 v3 ha1 e
        · have e := eF x13 c12
          refine r_aload_n dJ6_find_65 rfl 5 rfl ?_
          refine r_aload dJ6_find_66 0 rfl ?_
          obtain ⟨p14, q15, e⟩ := bd_o e
          have z16 := zD1_equals (G := nG N)  q15 rr.none
          refine rD_J6_49  q15 (injO_0 E.p) (Nat.le_of_ble_eq_true rfl) (Nat.le_of_ble_eq_true rfl) rfl (Nat.le_of_ble_eq_true rfl) dJ6_find_68 rfl ?_
          have eT := (r_ifo e).1
          have eF := (r_ifo e).2
          refine r_if_eq (rI_z z16) 77 dJ6_find_71 (by decide) (fun c17 => ?_) (fun c17 => ?_)
          · have e := eT c17
            refine r_sub [4, 5, 6, 3, 2] rfl ?_
            exact wJ6_find_b77 E K3 hK3 a1 o2 o3 v1 v3 ha1 e
          · have e := eF c17
            refine r_sub [7] rfl ?_
            exact wJ6_find_b74 E o4 e
    · have e := eF c8
      refine r_aload dJ6_find_42 1 rfl ?_
      refine r_astore (lv' := [(4, tr v3), (5, ti v5), (9, tr v3), (8, tr v1), (1, ti a1), (2, tr o2), (3, tr o3)]) dJ6_find_44 (E.lt (by decide)) rfl ?_
      refine r_goto 165 dJ6_find_46 (by decide) ?_
      refine r_sub [4, 5, 6, 0] rfl ?_
      exact wJ6_find_b165 E K3 hK3 a1 o2 o3 v3 ha1 e
  · have e := eF c7
    refine r_aload dJ6_find_29 2 rfl ?_
    refine r_astore (lv' := [(4, tr v1), (5, ti v5), (9, tr v3), (8, tr v1), (1, ti a1), (2, tr o2), (3, tr o3)]) dJ6_find_31 (E.lt (by decide)) rfl ?_
    refine r_goto 165 dJ6_find_33 (by decide) ?_
    refine r_sub [4, 5, 6, 0] rfl ?_
    exact wJ6_find_b165 E K3 hK3 a1 o2 o3 v1 ha1 e
def fJ6_find_L3  : Nat → hS → Int → Option Nat → Option Nat → Option Nat → Option (Option Nat)
  | 0, _, _, _, _, _ => none
  | n9 + 1, h, a1, o2, o3, o4 => fJ6_find_b3 (fJ6_find_L3 n9) h a1 o2 o3 o4
theorem wJ6_find_L3 {N : Nx} {h : hS} {r : Option Nat} (E : EndX N [] 11 (some (.object "java/util/HashMap$TreeNode")) (some (tr r)) [] h)  : ∀ (n9 : Nat), ∀ (a1 : Int) (o2 : Option Nat) (o3 : Option Nat) (o4 : Option Nat) (ha1 : rI a1), fJ6_find_L3 n9 h a1 o2 o3 o4 = some (r) → AtPc cJ6_find RJ6 18 396 N [] h 3 [(1, ti a1), (2, tr o2), (3, tr o3), (4, tr o4)] [] := by
  intro n9
  induction n9 with
  | zero => intro a1 o2 o3 o4 ha1 e; cases e
  | succ n9 ih => intro a1 o2 o3 o4 ha1 e; exact wJ6_find_b3 E _ ih a1 o2 o3 o4 ha1 e
def fJ6_find  (h : hS) (o0 : Option Nat) (a1 : Int) (o2 : Option Nat) (o3 : Option Nat) : Option (Option Nat) := fJ6_find_L3 FU h a1 o2 o3 o0
theorem kJ6_find {G : Gx}  {h : hS} {r : Option Nat} {o0 : Option Nat} {a1 : Int} {o2 : Option Nat} {o3 : Option Nat}  (ha1 : rI a1) (e : fJ6_find h o0 a1 o2 o3 = some (r)) : CtX G yJ6_find cJ6_find 11 (some (.object "java/util/HashMap$TreeNode")) 18 396 [] [] h [tr o0, ti a1, tr o2, tr o3] (some (tr r)) [] h := by
  refine CtX.of (by decide) (Nat.le_of_ble_eq_true rfl) [(0, tr o0), (1, ti a1), (2, tr o2), (3, tr o3)] rfl ?_
  have E : EndX (G, 11, [], h, [], h, (some (.object "java/util/HashMap$TreeNode")), (some (tr r)), yJ6_find.name) [] 11 (some (.object "java/util/HashMap$TreeNode")) (some (tr r)) [] h := ⟨rfl, rfl, rfl, rfl, rfl, rfl⟩
  unfold fJ6_find at e
  refine r_rrs E.p (fun rr => ?_)
  refine r_aload_n dJ6_find_0 rfl 0 rfl ?_
  refine r_astore (lv' := [(4, tr o0), (0, tr o0), (1, ti a1), (2, tr o2), (3, tr o3)]) dJ6_find_1 (E.lt (by decide)) rfl ?_
  refine r_sub [2, 3, 4, 0] rfl ?_
  exact wJ6_find_L3 E FU a1 o2 o3 o0 ha1 e
def fJ6_getTreeNode_b15 (h : hS) (a1 : Int) (o2 : Option Nat) (k0 : Option Nat) : Option (Option Nat) := gd (hC h k0 = some 13) (bd (fJ6_find h k0 a1 o2 none) fun p1 => some p1)
theorem wJ6_getTreeNode_b15 {N : Nx} {h : hS} {r : Option Nat} (E : EndX N [] 3 (some (.object "java/util/HashMap$TreeNode")) (some (tr r)) [] h)  (a1 : Int) (o2 : Option Nat) (k0 : Option Nat) (ha1 : rI a1) (e : fJ6_getTreeNode_b15 h a1 o2 k0 = some (r)) : AtPc cJ6_getTreeNode RJ6 19 426 N [] h 15 [(1, ti a1), (2, tr o2)] [tr k0] := by
  unfold fJ6_getTreeNode_b15 at e
  refine r_rrs E.p (fun rr => ?_)
  refine r_iload_n dJ6_getTreeNode_15 rfl 0 rfl ?_
  refine r_aload_n dJ6_getTreeNode_16 rfl 1 rfl ?_
  refine r_null dJ6_getTreeNode_17 ?_
  obtain ⟨g3, e⟩ := gd_o e
  obtain ⟨p1, q2, e⟩ := bd_o e
  have k4 := kJ6_find (G := nG N) ha1 q2
  have z5 := (k4 rr).1.2.2.2
  refine r_callVo (j := none) 3 [ti a1, tr o2, tr none] (c := 13) (rc := (RJ6, TJ6, 11)) rfl g3 rfl k4 (injO_0 E.p) subO_0 getO_0 setO_0 (lw_V q623 q624 q625 q131 q626) (by decide +kernel) rfl (Nat.le_of_ble_eq_true rfl) (Nat.le_of_ble_eq_true rfl) rfl (Nat.le_of_ble_eq_true rfl) dJ6_getTreeNode_18 rfl ?_
  cases e
  exact r_aret E.σ E.st E.rt (by first | exact Or.inl ⟨_, rfl⟩ | exact Or.inr ⟨_, rfl⟩) E.r dJ6_getTreeNode_21
def fJ6_getTreeNode  (h : hS) (o0 : Option Nat) (a1 : Int) (o2 : Option Nat) : Option (Option Nat) := bd (hQ h o0 [(13, 6)]) fun v1 => ifN v1 (fJ6_getTreeNode_b15 h a1 o2 o0) (fun _ => gd (hC h o0 = some 13) (bd (fJ6_root h o0) fun p5 => fJ6_getTreeNode_b15 h a1 o2 p5))
theorem kJ6_getTreeNode {G : Gx}  {h : hS} {r : Option Nat} {o0 : Option Nat} {a1 : Int} {o2 : Option Nat}  (ha1 : rI a1) (e : fJ6_getTreeNode h o0 a1 o2 = some (r)) : CtX G yJ6_getTreeNode cJ6_getTreeNode 3 (some (.object "java/util/HashMap$TreeNode")) 19 426 [] [] h [tr o0, ti a1, tr o2] (some (tr r)) [] h := by
  refine CtX.of (by decide) (Nat.le_of_ble_eq_true rfl) [(0, tr o0), (1, ti a1), (2, tr o2)] rfl ?_
  have E : EndX (G, 3, [], h, [], h, (some (.object "java/util/HashMap$TreeNode")), (some (tr r)), yJ6_getTreeNode.name) [] 3 (some (.object "java/util/HashMap$TreeNode")) (some (tr r)) [] h := ⟨rfl, rfl, rfl, rfl, rfl, rfl⟩
  unfold fJ6_getTreeNode at e
  refine r_rrs E.p (fun rr => ?_)
  refine r_aload_n dJ6_getTreeNode_0 rfl 0 rfl ?_
  obtain ⟨v1, q2, e⟩ := bd_o e
  refine r_getQ fG_J6_9 q2 dJ6_getTreeNode_1 ?_
  have eT := (r_ifno e).1
  have eF := (r_ifno e).2
  refine r_ifnull 14 dJ6_getTreeNode_4 (by decide) (fun c3 => ?_) (fun x4 c3 => ?_)
  · have e := eT c3
    refine r_aload_n dJ6_getTreeNode_14 rfl 0 rfl ?_
    refine r_sub [1, 2] rfl ?_
    exact wJ6_getTreeNode_b15 E a1 o2 o0 ha1 e
  · have e := eF x4 c3
    refine r_aload_n dJ6_getTreeNode_7 rfl 0 rfl ?_
    obtain ⟨g7, e⟩ := gd_o e
    obtain ⟨p5, q6, e⟩ := bd_o e
    have k8 := kJ6_root (G := G)  q6
    have z9 := (k8 rr).1.2.2.2
    refine r_callVo (j := none) 0 [] (c := 13) (rc := (RJ6, TJ6, 11)) rfl g7 rfl k8 (injO_0 E.p) subO_0 getO_0 setO_0 (lw_V q619 q620 q621 q131 q622) (by decide +kernel) rfl (Nat.le_of_ble_eq_true rfl) (Nat.le_of_ble_eq_true rfl) rfl (Nat.le_of_ble_eq_true rfl) dJ6_getTreeNode_8 rfl ?_
    refine r_goto 15 dJ6_getTreeNode_11 (by decide) ?_
    refine r_sub [1, 2] rfl ?_
    exact wJ6_getTreeNode_b15 E a1 o2 p5 ha1 e
theorem fG_J1_105 : FldG RJ1 105 [(11, 2)] := List.forall_mem_cons.mpr ⟨⟨RJ1, TJ1, 8, "java/util/HashMap", rfl, in_J1, by decide, q259, Or.inl rfl⟩, fun _ h => absurd h List.not_mem_nil⟩
theorem fG_J1_168 : FldG RJ1 168 [(12, 0), (13, 2)] := List.forall_mem_cons.mpr ⟨⟨RJ4, TJ4, 4, "java/util/HashMap$Node", rfl, in_J4, by decide, q718, Or.inl rfl⟩, List.forall_mem_cons.mpr ⟨⟨RJ6, TJ6, 11, "java/util/HashMap$Node", rfl, in_J6, by decide, q718, Or.inl rfl⟩, fun _ h => absurd h List.not_mem_nil⟩⟩
theorem fG_J1_170 : FldG RJ1 170 [(12, 1), (13, 3)] := List.forall_mem_cons.mpr ⟨⟨RJ4, TJ4, 4, "java/util/HashMap$Node", rfl, in_J4, by decide, q722, Or.inl rfl⟩, List.forall_mem_cons.mpr ⟨⟨RJ6, TJ6, 11, "java/util/HashMap$Node", rfl, in_J6, by decide, q722, Or.inl rfl⟩, fun _ h => absurd h List.not_mem_nil⟩⟩
theorem rD_J1_173 {N : Nx} {cc : ByteArray} {fR lO : Nat} {σs : List Sg} {h : hS} {pc : Nat} {lv : List (Nat × Tv)} {stk stk0 stk1 : List Tv} {o : Option Nat} {o1 : Option Nat} {p : Int}  (q : D1_equals h o o1 = some p) (hinj : injO N) (hfr : 18 ≤ fR) (hlo : 396 ≤ lO) (hstk : stk0 = [tr o1].reverse ++ tr o :: stk) (hroom : (stk.map tc).sum ≤ 8) (hd : decode cc pc = .ok (.invokevirtual 173, 3)) (hs1 : ti p :: stk = stk1) (k : AtPc cc RJ1 fR lO N σs h (pc + 3) lv stk1) : AtPc cc RJ1 fR lO N σs h pc lv stk0 := by
  unfold D1_equals at q
  split at q
  · rename_i g1; exact r_callO (j := none) 1 [tr o1] (c := 7) (rc := (RX7, TX7, 3)) rfl g1 (x := ⟨"java/lang/Object", "equals", "(Ljava/lang/Object;)Z"⟩) (owner := "java/lang/Object") q613 (kX7_equals (G := nG N) 16 q) hinj subO_0 getO_0 setO_0 (lw_O q582 q584 q583 q603 q592 q124 q594) (by decide +kernel) rfl (by omega) (by omega) hstk hroom hd hs1 k
  split at q
  · rename_i g1; exact r_callO (j := none) 1 [tr o1] (c := 9) (rc := (RX9, TX9, 2)) rfl g1 (x := ⟨"java/lang/Object", "equals", "(Ljava/lang/Object;)Z"⟩) (owner := "java/lang/Object") q613 (kX9_equals (G := nG N)  q) hinj subO_0 getO_0 setO_0 (lw_O q582 q584 q583 q587 q588 q133 q589) (by decide +kernel) rfl (by omega) (by omega) hstk hroom hd hs1 k
  split at q
  · rename_i g1; exact r_callO (j := none) 1 [tr o1] (c := 15) (rc := (RJ3, TJ3, 1)) rfl g1 (x := ⟨"java/lang/Object", "equals", "(Ljava/lang/Object;)Z"⟩) (owner := "java/lang/Object") q613 (kJ3_equals (G := nG N)  q) hinj subO_0 getO_0 setO_0 (lw_O q582 q584 q583 q606 q607 q127 q608) (by decide +kernel) rfl (by omega) (by omega) hstk hroom hd hs1 k
  cases q
theorem fG_J1_177 : FldG RJ1 177 [(12, 3), (13, 5)] := List.forall_mem_cons.mpr ⟨⟨RJ4, TJ4, 4, "java/util/HashMap$Node", rfl, in_J4, by decide, q729, Or.inl rfl⟩, List.forall_mem_cons.mpr ⟨⟨RJ6, TJ6, 11, "java/util/HashMap$Node", rfl, in_J6, by decide, q729, Or.inl rfl⟩, fun _ h => absurd h List.not_mem_nil⟩⟩
theorem cst_3 : cstOK "java/util/HashMap$TreeNode" [13] := List.forall_mem_cons.mpr ⟨⟨(RJ6, TJ6, 11), rfl, Or.inl rfl⟩, fun _ h => absurd h List.not_mem_nil⟩
def fJ1_getNode_b69 (h : hS) (o3 : Option Nat) : Option (Option Nat) := some o3
theorem wJ1_getNode_b69 {N : Nx} {h : hS} {r : Option Nat} (E : EndX N [] 8 (some (.object "java/util/HashMap$Node")) (some (tr r)) [] h)  (o3 : Option Nat) (e : fJ1_getNode_b69 h o3 = some (r)) : AtPc cJ1_getNode RJ1 20 448 N [] h 69 [(3, tr o3)] [] := by
  unfold fJ1_getNode_b69 at e
  refine r_rrs E.p (fun rr => ?_)
  refine r_aload_n dJ1_getNode_69 rfl 0 rfl ?_
  cases e
  exact r_aret E.σ E.st E.rt (by first | exact Or.inl ⟨_, rfl⟩ | exact Or.inr ⟨_, rfl⟩) E.r dJ1_getNode_70
def fJ1_getNode_b134 (h : hS) (o4 : Option Nat) : Option (Option Nat) := some o4
theorem wJ1_getNode_b134 {N : Nx} {h : hS} {r : Option Nat} (E : EndX N [] 8 (some (.object "java/util/HashMap$Node")) (some (tr r)) [] h)  (o4 : Option Nat) (e : fJ1_getNode_b134 h o4 = some (r)) : AtPc cJ1_getNode RJ1 20 448 N [] h 134 [(4, tr o4)] [] := by
  unfold fJ1_getNode_b134 at e
  refine r_rrs E.p (fun rr => ?_)
  refine r_aload dJ1_getNode_134 0 rfl ?_
  cases e
  exact r_aret E.σ E.st E.rt (by first | exact Or.inl ⟨_, rfl⟩ | exact Or.inr ⟨_, rfl⟩) E.r dJ1_getNode_136
def fJ1_getNode_b148 (h : hS) : Option (Option Nat) := some none
theorem wJ1_getNode_b148 {N : Nx} {h : hS} {r : Option Nat} (E : EndX N [] 8 (some (.object "java/util/HashMap$Node")) (some (tr r)) [] h)   (e : fJ1_getNode_b148 h = some (r)) : AtPc cJ1_getNode RJ1 20 448 N [] h 148 [] [] := by
  unfold fJ1_getNode_b148 at e
  refine r_rrs E.p (fun rr => ?_)
  refine r_null dJ1_getNode_148 ?_
  cases e
  exact r_aret E.σ E.st E.rt (by first | exact Or.inl ⟨_, rfl⟩ | exact Or.inr ⟨_, rfl⟩) E.r dJ1_getNode_149
def fJ1_getNode_b137 (K99 : hS → Option Nat → Option Nat → Int → Option (Option Nat)) (h : hS) (o1 : Option Nat) (o4 : Option Nat) (a6 : Int) : Option (Option Nat) := bd (hQ h o4 [(12, 3), (13, 5)]) fun v1 => ifN v1 (fJ1_getNode_b148 h) (fun _ => K99 h o1 v1 a6)
theorem wJ1_getNode_b137 {N : Nx} {h : hS} {r : Option Nat} (E : EndX N [] 8 (some (.object "java/util/HashMap$Node")) (some (tr r)) [] h) (K99 : hS → Option Nat → Option Nat → Int → Option (Option Nat)) (hK99 : ∀ (o1 : Option Nat) (o4 : Option Nat) (a6 : Int) (ha6 : rI a6), K99 h o1 o4 a6 = some (r) → AtPc cJ1_getNode RJ1 20 448 N [] h 99 [(1, tr o1), (4, tr o4), (6, ti a6)] []) (o1 : Option Nat) (o4 : Option Nat) (a6 : Int) (ha6 : rI a6) (e : fJ1_getNode_b137 K99 h o1 o4 a6 = some (r)) : AtPc cJ1_getNode RJ1 20 448 N [] h 137 [(1, tr o1), (4, tr o4), (6, ti a6)] [] := by
  unfold fJ1_getNode_b137 at e
  refine r_rrs E.p (fun rr => ?_)
  refine r_aload dJ1_getNode_137 1 rfl ?_
  obtain ⟨v1, q2, e⟩ := bd_o e
  refine r_getQ fG_J1_177 q2 dJ1_getNode_139 ?_
  refine r_dup dJ1_getNode_142 rfl ?_
  refine r_astore (lv' := [(4, tr v1), (1, tr o1), (6, ti a6)]) dJ1_getNode_143 (E.lt (by decide)) rfl ?_
  have eT := (r_ifno e).1
  have eF := (r_ifno e).2
  refine r_ifnonnull 99 dJ1_getNode_145 (by decide) (fun c3 => ?_) (fun x4 c3 => ?_)
  · have e := eT c3
    refine r_sub [] rfl ?_
    exact wJ1_getNode_b148 E e
  · have e := eF x4 c3
    refine r_sub [1, 0, 2] rfl ?_
    exact hK99 o1 v1 a6 ha6 e
def fJ1_getNode_b99 (K99 : hS → Option Nat → Option Nat → Int → Option (Option Nat)) (h : hS) (o1 : Option Nat) (o4 : Option Nat) (a6 : Int) : Option (Option Nat) := bd (hI h o4 [(12, 0), (13, 2)]) fun v1 => if ¬ v1 = a6 then fJ1_getNode_b137 K99 h o1 o4 a6 else bd (hQ h o4 [(12, 1), (13, 3)]) fun v4 => if v4 = o1 then fJ1_getNode_b134 h o4 else ifN o1 (fJ1_getNode_b137 K99 h o1 o4 a6) (fun _ => bd (D1_equals h o1 v4) fun p9 => if p9 = 0 then fJ1_getNode_b137 K99 h o1 o4 a6 else fJ1_getNode_b134 h o4)
theorem wJ1_getNode_b99 {N : Nx} {h : hS} {r : Option Nat} (E : EndX N [] 8 (some (.object "java/util/HashMap$Node")) (some (tr r)) [] h) (K99 : hS → Option Nat → Option Nat → Int → Option (Option Nat)) (hK99 : ∀ (o1 : Option Nat) (o4 : Option Nat) (a6 : Int) (ha6 : rI a6), K99 h o1 o4 a6 = some (r) → AtPc cJ1_getNode RJ1 20 448 N [] h 99 [(1, tr o1), (4, tr o4), (6, ti a6)] []) (o1 : Option Nat) (o4 : Option Nat) (a6 : Int) (ha6 : rI a6) (e : fJ1_getNode_b99 K99 h o1 o4 a6 = some (r)) : AtPc cJ1_getNode RJ1 20 448 N [] h 99 [(1, tr o1), (4, tr o4), (6, ti a6)] [] := by
  unfold fJ1_getNode_b99 at e
  refine r_rrs E.p (fun rr => ?_)
  refine r_aload dJ1_getNode_99 1 rfl ?_
  obtain ⟨v1, q2, e⟩ := bd_o e
  refine r_getI fG_J1_168 q2 dJ1_getNode_101 ?_
  refine r_iload dJ1_getNode_104 2 rfl ?_
  have eT := (r_ifo e).1
  have eF := (r_ifo e).2
  refine r_icmp_ne (hI_r rr q2) ha6 137 dJ1_getNode_106 (by decide) (fun c3 => ?_) (fun c3 => ?_)
  · have e := eT c3
    exact wJ1_getNode_b137 E K99 hK99 o1 o4 a6 ha6 e
  · have e := eF c3
    refine r_aload dJ1_getNode_109 1 rfl ?_
    obtain ⟨v4, q5, e⟩ := bd_o e
    refine r_getQ fG_J1_170 q5 dJ1_getNode_111 ?_
    refine r_dup dJ1_getNode_114 rfl ?_
    refine r_astore (lv' := [(7, tr v4), (1, tr o1), (4, tr o4), (6, ti a6)]) dJ1_getNode_115 (E.lt (by decide)) rfl ?_
    refine r_aload_n dJ1_getNode_117 rfl 1 rfl ?_
    have eT := (r_ifo e).1
    have eF := (r_ifo e).2
    refine r_acmp_eq 134 dJ1_getNode_118 (by decide) (fun c6 => ?_) (fun c6 => ?_)
    · have e := eT c6
      refine r_sub [2] rfl ?_
      exact wJ1_getNode_b134 E o4 e
    · have e := eF c6
      refine r_aload_n dJ1_getNode_121 rfl 1 rfl ?_
      have eT := (r_ifno e).1
      have eF := (r_ifno e).2
      refine r_ifnull 137 dJ1_getNode_122 (by decide) (fun c7 => ?_) (fun x8 c7 => ?_)
      · have e := eT c7
        refine r_sub [1, 2, 3] rfl ?_
        exact wJ1_getNode_b137 E K99 hK99 o1 o4 a6 ha6 e
      · have e := eF x8 c7
        refine r_aload_n dJ1_getNode_125 rfl 1 rfl ?_
        refine r_aload dJ1_getNode_126 0 rfl ?_
        obtain ⟨p9, q10, e⟩ := bd_o e
        have z11 := zD1_equals (G := nG N)  q10 rr.none
        refine rD_J1_173  q10 (injO_0 E.p) (Nat.le_of_ble_eq_true rfl) (Nat.le_of_ble_eq_true rfl) rfl (Nat.le_of_ble_eq_true rfl) dJ1_getNode_128 rfl ?_
        have eT := (r_ifo e).1
        have eF := (r_ifo e).2
        refine r_if_eq (rI_z z11) 137 dJ1_getNode_131 (by decide) (fun c12 => ?_) (fun c12 => ?_)
        · have e := eT c12
          refine r_sub [1, 2, 3] rfl ?_
          exact wJ1_getNode_b137 E K99 hK99 o1 o4 a6 ha6 e
        · have e := eF c12
          refine r_sub [2] rfl ?_
          exact wJ1_getNode_b134 E o4 e
def fJ1_getNode_L99  : Nat → hS → Option Nat → Option Nat → Int → Option (Option Nat)
  | 0, _, _, _, _ => none
  | n9 + 1, h, o1, o4, a6 => fJ1_getNode_b99 (fJ1_getNode_L99 n9) h o1 o4 a6
theorem wJ1_getNode_L99 {N : Nx} {h : hS} {r : Option Nat} (E : EndX N [] 8 (some (.object "java/util/HashMap$Node")) (some (tr r)) [] h)  : ∀ (n9 : Nat), ∀ (o1 : Option Nat) (o4 : Option Nat) (a6 : Int) (ha6 : rI a6), fJ1_getNode_L99 n9 h o1 o4 a6 = some (r) → AtPc cJ1_getNode RJ1 20 448 N [] h 99 [(1, tr o1), (4, tr o4), (6, ti a6)] [] := by
  intro n9
  induction n9 with
  | zero => intro o1 o4 a6 ha6 e; cases e
  | succ n9 ih => intro o1 o4 a6 ha6 e; exact wJ1_getNode_b99 E _ ih o1 o4 a6 ha6 e
def fJ1_getNode_b71 (h : hS) (o1 : Option Nat) (o3 : Option Nat) (a6 : Int) : Option (Option Nat) := bd (hQ h o3 [(12, 3), (13, 5)]) fun v1 => ifN v1 (fJ1_getNode_b148 h) (fun _ => if inC h o3 [13] = true then gd (o3 = none ∨ inC h o3 [13] = true) (gd (hC h o3 = some 13) (bd (fJ6_getTreeNode h o3 a6 o1) fun p8 => some p8)) else gd (hC h o3 = some 12) (fJ1_getNode_L99 FU h o1 v1 a6))
theorem wJ1_getNode_b71 {N : Nx} {h : hS} {r : Option Nat} (E : EndX N [] 8 (some (.object "java/util/HashMap$Node")) (some (tr r)) [] h)  (o1 : Option Nat) (o3 : Option Nat) (a6 : Int) (ha6 : rI a6) (e : fJ1_getNode_b71 h o1 o3 a6 = some (r)) : AtPc cJ1_getNode RJ1 20 448 N [] h 71 [(1, tr o1), (3, tr o3), (6, ti a6)] [] := by
  unfold fJ1_getNode_b71 at e
  refine r_rrs E.p (fun rr => ?_)
  refine r_aload_n dJ1_getNode_71 rfl 1 rfl ?_
  obtain ⟨v1, q2, e⟩ := bd_o e
  refine r_getQ fG_J1_177 q2 dJ1_getNode_72 ?_
  refine r_dup dJ1_getNode_75 rfl ?_
  refine r_astore (lv' := [(4, tr v1), (1, tr o1), (3, tr o3), (6, ti a6)]) dJ1_getNode_76 (E.lt (by decide)) rfl ?_
  have eT := (r_ifno e).1
  have eF := (r_ifno e).2
  refine r_ifnull 148 dJ1_getNode_78 (by decide) (fun c3 => ?_) (fun x4 c3 => ?_)
  · have e := eT c3
    refine r_sub [] rfl ?_
    exact wJ1_getNode_b148 E e
  · have e := eF x4 c3
    refine r_aload_n dJ1_getNode_81 rfl 2 rfl ?_
    have eT := (r_ifo e).1
    have eF := (r_ifo e).2
    by_cases c5 : inC h o3 [13] = true
    · have e := eT c5
      refine r_inst1 cst_3 q614 (inC_o c5) dJ1_getNode_82 ?_
      refine r_if_eq (by decide) 99 dJ1_getNode_85 (by decide) (fun c6 => absurd c6 (by decide)) (fun c6 => ?_)
      refine r_aload_n dJ1_getNode_88 rfl 2 rfl ?_
      obtain ⟨g7, e⟩ := gd_o e
      refine r_cast cst_3 q614 (inC_p g7) dJ1_getNode_89 ?_
      refine r_iload dJ1_getNode_92 3 rfl ?_
      refine r_aload_n dJ1_getNode_94 rfl 1 rfl ?_
      obtain ⟨g10, e⟩ := gd_o e
      obtain ⟨p8, q9, e⟩ := bd_o e
      have k11 := kJ6_getTreeNode (G := nG N) ha6 q9
      have z12 := (k11 rr).1.2.2.2
      refine r_callVo (j := none) 2 [ti a6, tr o1] (c := 13) (rc := (RJ6, TJ6, 11)) rfl g10 rfl k11 (injO_0 E.p) subO_0 getO_0 setO_0 (lw_V q615 q616 q617 q131 q618) (by decide +kernel) rfl (Nat.le_of_ble_eq_true rfl) (Nat.le_of_ble_eq_true rfl) rfl (Nat.le_of_ble_eq_true rfl) dJ1_getNode_95 rfl ?_
      cases e
      exact r_aret E.σ E.st E.rt (by first | exact Or.inl ⟨_, rfl⟩ | exact Or.inr ⟨_, rfl⟩) E.r dJ1_getNode_98
    · have e := eF c5
      obtain ⟨g13, e⟩ := gd_o e
      refine r_inst0 (c := 12) (r := (RJ4, TJ4, 4)) rfl (by decide) q614 g13 dJ1_getNode_82 ?_
      refine r_if_eq (by decide) 99 dJ1_getNode_85 (by decide) (fun c14 => ?_) (fun c14 => absurd (by decide) c14)
      refine r_sub [1, 0, 3] rfl ?_
      exact wJ1_getNode_L99 E FU o1 v1 a6 ha6 e
def fJ1_getNode  (h : hS) (o0 : Option Nat) (o1 : Option Nat) : Option (Option Nat) := bd (hQ h o0 [(11, 2)]) fun v1 => ifN v1 (fJ1_getNode_b148 h) (fun _ => bd (hL h v1 6) fun v5 => if v5 ≤ 0 then fJ1_getNode_b148 h else bd (fJ1_hash h o1) fun p8 => bd (aQ h v1 6 (iand (wr (v5 - 1)) p8)) fun v12 => ifN v12 (fJ1_getNode_b148 h) (fun _ => bd (hI h v12 [(12, 0), (13, 2)]) fun v16 => if ¬ v16 = p8 then fJ1_getNode_b71 h o1 v12 p8 else bd (hQ h v12 [(12, 1), (13, 3)]) fun v19 => if v19 = o1 then fJ1_getNode_b69 h v12 else ifN o1 (fJ1_getNode_b71 h o1 v12 p8) (fun _ => bd (D1_equals h o1 v19) fun p24 => if p24 = 0 then fJ1_getNode_b71 h o1 v12 p8 else fJ1_getNode_b69 h v12)))
theorem kJ1_getNode {G : Gx}  {h : hS} {r : Option Nat} {o0 : Option Nat} {o1 : Option Nat}   (e : fJ1_getNode h o0 o1 = some (r)) : CtX G yJ1_getNode cJ1_getNode 8 (some (.object "java/util/HashMap$Node")) 20 448 [] [] h [tr o0, tr o1] (some (tr r)) [] h := by
  refine CtX.of (by decide) (Nat.le_of_ble_eq_true rfl) [(0, tr o0), (1, tr o1)] rfl ?_
  have E : EndX (G, 8, [], h, [], h, (some (.object "java/util/HashMap$Node")), (some (tr r)), yJ1_getNode.name) [] 8 (some (.object "java/util/HashMap$Node")) (some (tr r)) [] h := ⟨rfl, rfl, rfl, rfl, rfl, rfl⟩
  unfold fJ1_getNode at e
  refine r_rrs E.p (fun rr => ?_)
  refine r_aload_n dJ1_getNode_0 rfl 0 rfl ?_
  obtain ⟨v1, q2, e⟩ := bd_o e
  refine r_getQ fG_J1_105 q2 dJ1_getNode_1 ?_
  refine r_dup dJ1_getNode_4 rfl ?_
  refine r_astore_n (lv' := [(2, tr v1), (0, tr o0), (1, tr o1)]) dJ1_getNode_5 rfl (E.lt (by decide)) rfl ?_
  have eT := (r_ifno e).1
  have eF := (r_ifno e).2
  refine r_ifnull 148 dJ1_getNode_6 (by decide) (fun c3 => ?_) (fun x4 c3 => ?_)
  · have e := eT c3
    refine r_sub [] rfl ?_
    exact wJ1_getNode_b148 E e
  · have e := eF x4 c3
    refine r_aload_n dJ1_getNode_9 rfl 0 rfl ?_
    obtain ⟨v5, q6, e⟩ := bd_o e
    refine r_aL q6 dJ1_getNode_10 ?_
    refine r_dup dJ1_getNode_11 rfl ?_
    refine r_istore (lv' := [(5, ti v5), (2, tr v1), (0, tr o0), (1, tr o1)]) dJ1_getNode_12 (E.lt (by decide)) rfl ?_
    have eT := (r_ifo e).1
    have eF := (r_ifo e).2
    refine r_if_le (hL_r rr q6) 148 dJ1_getNode_14 (by decide) (fun c7 => ?_) (fun c7 => ?_)
    · have e := eT c7
      refine r_sub [] rfl ?_
      exact wJ1_getNode_b148 E e
    · have e := eF c7
      refine r_aload_n dJ1_getNode_17 rfl 1 rfl ?_
      refine r_iload dJ1_getNode_18 0 rfl ?_
      refine r_iconst dJ1_getNode_20 ?_
      refine r_isub dJ1_getNode_21 ?_
      refine r_aload_n dJ1_getNode_22 rfl 3 rfl ?_
      obtain ⟨p8, q9, e⟩ := bd_o e
      have k10 := kJ1_hash (G := G)  q9
      have z11 := (k10 rr).1.2.2.2
      refine r_callS (j := none) 1 [tr o1] k10 (injO_0 E.p) subO_0 getO_0 setO_0 (lw_S q547 q548 q122 q549) (by decide +kernel) rfl (Nat.le_of_ble_eq_true rfl) (Nat.le_of_ble_eq_true rfl) rfl (Nat.le_of_ble_eq_true rfl) dJ1_getNode_23 rfl ?_
      refine r_dup dJ1_getNode_26 rfl ?_
      refine r_istore (lv' := [(6, ti p8), (5, ti v5), (2, tr v1), (0, tr o0), (1, tr o1)]) dJ1_getNode_27 (E.lt (by decide)) rfl ?_
      refine r_iand dJ1_getNode_29 ?_
      obtain ⟨v12, q13, e⟩ := bd_o e
      refine r_aQ (iand_r _ _) q13 dJ1_getNode_30 ?_
      refine r_dup dJ1_getNode_31 rfl ?_
      refine r_astore_n (lv' := [(3, tr v12), (6, ti p8), (5, ti v5), (2, tr v1), (0, tr o0), (1, tr o1)]) dJ1_getNode_32 rfl (E.lt (by decide)) rfl ?_
      have eT := (r_ifno e).1
      have eF := (r_ifno e).2
      refine r_ifnull 148 dJ1_getNode_33 (by decide) (fun c14 => ?_) (fun x15 c14 => ?_)
      · have e := eT c14
        refine r_sub [] rfl ?_
        exact wJ1_getNode_b148 E e
      · have e := eF x15 c14
        refine r_aload_n dJ1_getNode_36 rfl 0 rfl ?_
        obtain ⟨v16, q17, e⟩ := bd_o e
        refine r_getI fG_J1_168 q17 dJ1_getNode_37 ?_
        refine r_iload dJ1_getNode_40 1 rfl ?_
        have eT := (r_ifo e).1
        have eF := (r_ifo e).2
        refine r_icmp_ne (hI_r rr q17) z11 71 dJ1_getNode_42 (by decide) (fun c18 => ?_) (fun c18 => ?_)
        · have e := eT c18
          refine r_sub [5, 0, 1] rfl ?_
          exact wJ1_getNode_b71 E o1 v12 p8 z11 e
        · have e := eF c18
          refine r_aload_n dJ1_getNode_45 rfl 0 rfl ?_
          obtain ⟨v19, q20, e⟩ := bd_o e
          refine r_getQ fG_J1_170 q20 dJ1_getNode_46 ?_
          refine r_dup dJ1_getNode_49 rfl ?_
          refine r_astore (lv' := [(7, tr v19), (3, tr v12), (6, ti p8), (5, ti v5), (2, tr v1), (0, tr o0), (1, tr o1)]) dJ1_getNode_50 (E.lt (by decide)) rfl ?_
          refine r_aload_n dJ1_getNode_52 rfl 6 rfl ?_
          have eT := (r_ifo e).1
          have eF := (r_ifo e).2
          refine r_acmp_eq 69 dJ1_getNode_53 (by decide) (fun c21 => ?_) (fun c21 => ?_)
          · have e := eT c21
            refine r_sub [1] rfl ?_
            exact wJ1_getNode_b69 E v12 e
          · have e := eF c21
            refine r_aload_n dJ1_getNode_56 rfl 6 rfl ?_
            have eT := (r_ifno e).1
            have eF := (r_ifno e).2
            refine r_ifnull 71 dJ1_getNode_57 (by decide) (fun c22 => ?_) (fun x23 c22 => ?_)
            · have e := eT c22
              refine r_sub [6, 1, 2] rfl ?_
              exact wJ1_getNode_b71 E o1 v12 p8 z11 e
            · have e := eF x23 c22
              refine r_aload_n dJ1_getNode_60 rfl 6 rfl ?_
              refine r_aload dJ1_getNode_61 0 rfl ?_
              obtain ⟨p24, q25, e⟩ := bd_o e
              have z26 := zD1_equals (G := G)  q25 rr.none
              refine rD_J1_173  q25 (injO_0 E.p) (Nat.le_of_ble_eq_true rfl) (Nat.le_of_ble_eq_true rfl) rfl (Nat.le_of_ble_eq_true rfl) dJ1_getNode_63 rfl ?_
              have eT := (r_ifo e).1
              have eF := (r_ifo e).2
              refine r_if_eq (rI_z z26) 71 dJ1_getNode_66 (by decide) (fun c27 => ?_) (fun c27 => ?_)
              · have e := eT c27
                refine r_sub [6, 1, 2] rfl ?_
                exact wJ1_getNode_b71 E o1 v12 p8 z11 e
              · have e := eF c27
                refine r_sub [1] rfl ?_
                exact wJ1_getNode_b69 E v12 e
theorem fG_J1_162 : FldG RJ1 162 [(12, 2), (13, 4)] := List.forall_mem_cons.mpr ⟨⟨RJ4, TJ4, 4, "java/util/HashMap$Node", rfl, in_J4, by decide, q724, Or.inl rfl⟩, List.forall_mem_cons.mpr ⟨⟨RJ6, TJ6, 11, "java/util/HashMap$Node", rfl, in_J6, by decide, q724, Or.inl rfl⟩, fun _ h => absurd h List.not_mem_nil⟩⟩
def fJ1_get_b18 (h : hS) (k0 : Option Nat) : Option (Option Nat) := some k0
theorem wJ1_get_b18 {N : Nx} {h : hS} {r : Option Nat} (E : EndX N [] 3 (some (.object "java/lang/Object")) (some (tr r)) [] h)  (k0 : Option Nat) (e : fJ1_get_b18 h k0 = some (r)) : AtPc cJ1_get RJ1 21 475 N [] h 18 [] [tr k0] := by
  unfold fJ1_get_b18 at e
  refine r_rrs E.p (fun rr => ?_)
  cases e
  exact r_aret E.σ E.st E.rt (by first | exact Or.inl ⟨_, rfl⟩ | exact Or.inr ⟨_, rfl⟩) E.r dJ1_get_18
def fJ1_get  (h : hS) (o0 : Option Nat) (o1 : Option Nat) : Option (Option Nat) := gd (hC h o0 = some 11) (bd (fJ1_getNode h o0 o1) fun p1 => ifN p1 (fJ1_get_b18 h none) (fun _ => bd (hQ h p1 [(12, 2), (13, 4)]) fun v8 => fJ1_get_b18 h v8))
theorem kJ1_get {G : Gx}  {h : hS} {r : Option Nat} {o0 : Option Nat} {o1 : Option Nat}   (e : fJ1_get h o0 o1 = some (r)) : CtX G yJ1_get cJ1_get 3 (some (.object "java/lang/Object")) 21 475 [] [] h [tr o0, tr o1] (some (tr r)) [] h := by
  refine CtX.of (by decide) (Nat.le_of_ble_eq_true rfl) [(0, tr o0), (1, tr o1)] rfl ?_
  have E : EndX (G, 3, [], h, [], h, (some (.object "java/lang/Object")), (some (tr r)), yJ1_get.name) [] 3 (some (.object "java/lang/Object")) (some (tr r)) [] h := ⟨rfl, rfl, rfl, rfl, rfl, rfl⟩
  unfold fJ1_get at e
  refine r_rrs E.p (fun rr => ?_)
  refine r_aload_n dJ1_get_0 rfl 0 rfl ?_
  refine r_aload_n dJ1_get_1 rfl 1 rfl ?_
  obtain ⟨g3, e⟩ := gd_o e
  obtain ⟨p1, q2, e⟩ := bd_o e
  have k4 := kJ1_getNode (G := G)  q2
  have z5 := (k4 rr).1.2.2.2
  refine r_callVo (j := none) 1 [tr o1] (c := 11) (rc := (RJ1, TJ1, 8)) rfl g3 rfl k4 (injO_0 E.p) subO_0 getO_0 setO_0 (lw_V q543 q544 q545 q122 q546) (by decide +kernel) rfl (Nat.le_of_ble_eq_true rfl) (Nat.le_of_ble_eq_true rfl) rfl (Nat.le_of_ble_eq_true rfl) dJ1_get_2 rfl ?_
  refine r_dup dJ1_get_5 rfl ?_
  refine r_astore_n (lv' := [(2, tr p1), (0, tr o0), (1, tr o1)]) dJ1_get_6 rfl (E.lt (by decide)) rfl ?_
  have eT := (r_ifno e).1
  have eF := (r_ifno e).2
  refine r_ifnonnull 14 dJ1_get_7 (by decide) (fun c6 => ?_) (fun x7 c6 => ?_)
  · have e := eT c6
    refine r_null dJ1_get_10 ?_
    refine r_goto 18 dJ1_get_11 (by decide) ?_
    refine r_sub [] rfl ?_
    exact wJ1_get_b18 E none e
  · have e := eF x7 c6
    refine r_aload_n dJ1_get_14 rfl 0 rfl ?_
    obtain ⟨v8, q9, e⟩ := bd_o e
    refine r_getQ fG_J1_162 q9 dJ1_get_15 ?_
    refine r_sub [] rfl ?_
    exact wJ1_get_b18 E v8 e
theorem fP_J4_7i : FldP RJ4 7 [(12, 0), (13, 2)] .int true := List.forall_mem_cons.mpr ⟨⟨RJ4, TJ4, 4, "java/util/HashMap$Node", tyJ4, rfl, in_J4, by decide, q715, Or.inl rfl, tyJ4_ok, nmJ4, rfl, Or.inr ⟨rfl, rfl, rfl⟩, by decide⟩, List.forall_mem_cons.mpr ⟨⟨RJ6, TJ6, 11, "java/util/HashMap$Node", tyJ6, rfl, in_J6, by decide, q715, Or.inl rfl, tyJ6_ok, nmJ6, rfl, Or.inr ⟨rfl, rfl, rfl⟩, by decide⟩, fun _ h => absurd h List.not_mem_nil⟩⟩
theorem fP_J4_13i : FldP RJ4 13 [(12, 1), (13, 3)] (.object "java/lang/Object") true := List.forall_mem_cons.mpr ⟨⟨RJ4, TJ4, 4, "java/util/HashMap$Node", tyJ4, rfl, in_J4, by decide, q719, Or.inl rfl, tyJ4_ok, nmJ4, rfl, Or.inr ⟨rfl, rfl, rfl⟩, by decide⟩, List.forall_mem_cons.mpr ⟨⟨RJ6, TJ6, 11, "java/util/HashMap$Node", tyJ6, rfl, in_J6, by decide, q719, Or.inl rfl, tyJ6_ok, nmJ6, rfl, Or.inr ⟨rfl, rfl, rfl⟩, by decide⟩, fun _ h => absurd h List.not_mem_nil⟩⟩
theorem fP_J4_17i : FldP RJ4 17 [(12, 2), (13, 4)] (.object "java/lang/Object") true := List.forall_mem_cons.mpr ⟨⟨RJ4, TJ4, 4, "java/util/HashMap$Node", tyJ4, rfl, in_J4, by decide, q723, Or.inl rfl, tyJ4_ok, nmJ4, rfl, Or.inl rfl, by decide⟩, List.forall_mem_cons.mpr ⟨⟨RJ6, TJ6, 11, "java/util/HashMap$Node", tyJ6, rfl, in_J6, by decide, q723, Or.inl rfl, tyJ6_ok, nmJ6, rfl, Or.inl rfl, by decide⟩, fun _ h => absurd h List.not_mem_nil⟩⟩
theorem fP_J4_20i : FldP RJ4 20 [(12, 3), (13, 5)] (.object "java/util/HashMap$Node") true := List.forall_mem_cons.mpr ⟨⟨RJ4, TJ4, 4, "java/util/HashMap$Node", tyJ4, rfl, in_J4, by decide, q725, Or.inl rfl, tyJ4_ok, nmJ4, rfl, Or.inl rfl, by decide⟩, List.forall_mem_cons.mpr ⟨⟨RJ6, TJ6, 11, "java/util/HashMap$Node", tyJ6, rfl, in_J6, by decide, q725, Or.inl rfl, tyJ6_ok, nmJ6, rfl, Or.inl rfl, by decide⟩, fun _ h => absurd h List.not_mem_nil⟩⟩
def fJ4_init  (h : hS) (o0 : Option Nat) (a1 : Int) (o2 : Option Nat) (o3 : Option Nat) (o4 : Option Nat) : Option (hS) := gd (¬ o0 = none) (bd (hW h o0 [(12, 0), (13, 2)] (vi a1)) fun h2 => bd (hW h2 o0 [(12, 1), (13, 3)] (vq o2)) fun h5 => bd (hW h5 o0 [(12, 2), (13, 4)] (vq o3)) fun h8 => bd (hW h8 o0 [(12, 3), (13, 5)] (vq o4)) fun h11 => some h11)
theorem kJ4_init {G : Gx}  {h' : hS} {h : hS} {o0 : Option Nat} {a1 : Int} {o2 : Option Nat} {o3 : Option Nat} {o4 : Option Nat}  (ha1 : rI a1) (e : fJ4_init h o0 a1 o2 o3 o4 = some (h')) : CtX G yJ4_init cJ4_init 5 none 1 20 [] [] h [tr o0, ti a1, tr o2, tr o3, tr o4] none [] h' := by
  refine CtX.of (by decide) (Nat.le_of_ble_eq_true rfl) [(0, tr o0), (1, ti a1), (2, tr o2), (3, tr o3), (4, tr o4)] rfl ?_
  have E : EndX (G, 5, [], h, [], h', none, none, yJ4_init.name) [] 5 none none [] h' := ⟨rfl, rfl, rfl, rfl, rfl, rfl⟩
  unfold fJ4_init at e
  refine r_rrs E.p (fun rr => ?_)
  refine r_aload_n dJ4_init_0 rfl 0 rfl ?_
  obtain ⟨g1, e⟩ := gd_o e
  refine r_objInitO g1 q714 q150 q151 (Nat.le_of_ble_eq_true rfl) (Nat.le_of_ble_eq_true rfl) (Nat.le_of_ble_eq_true rfl) dJ4_init_1 ?_
  refine r_aload_n dJ4_init_4 rfl 0 rfl ?_
  refine r_iload_n dJ4_init_5 rfl 1 rfl ?_
  obtain ⟨h2, q3, e⟩ := bd_o e
  refine r_put (v := vi a1) fP_J4_7i (by first | exact fun q => absurd q (by decide) | exact fun _ => rfl) ha1 q3 dJ4_init_6 ?_
  refine r_rrs E.p (fun rr4 => ?_)
  refine r_aload_n dJ4_init_9 rfl 0 rfl ?_
  refine r_aload_n dJ4_init_10 rfl 2 rfl ?_
  obtain ⟨h5, q6, e⟩ := bd_o e
  refine r_put (v := vq o2) fP_J4_13i (by first | exact fun q => absurd q (by decide) | exact fun _ => rfl) trivial q6 dJ4_init_11 ?_
  refine r_rrs E.p (fun rr7 => ?_)
  refine r_aload_n dJ4_init_14 rfl 0 rfl ?_
  refine r_aload_n dJ4_init_15 rfl 3 rfl ?_
  obtain ⟨h8, q9, e⟩ := bd_o e
  refine r_put (v := vq o3) fP_J4_17i (by first | exact fun q => absurd q (by decide) | exact fun _ => rfl) trivial q9 dJ4_init_16 ?_
  refine r_rrs E.p (fun rr10 => ?_)
  refine r_aload_n dJ4_init_19 rfl 0 rfl ?_
  refine r_aload dJ4_init_20 4 rfl ?_
  obtain ⟨h11, q12, e⟩ := bd_o e
  refine r_put (v := vq o4) fP_J4_20i (by first | exact fun q => absurd q (by decide) | exact fun _ => rfl) trivial q12 dJ4_init_22 ?_
  refine r_rrs E.p (fun rr13 => ?_)
  cases e
  exact r_vret E.σ E.st E.rt E.r dJ4_init_25
def fJ1_replacementNode  (h : hS) (o0 : Option Nat) (o1 : Option Nat) (o2 : Option Nat) : Option (Option Nat × hS) := bd (nwS h 12 [vi 0, vq none, vq none, vq none]) fun p1 => bd (hI p1.2 o1 [(12, 0), (13, 2)]) fun v4 => bd (hQ p1.2 o1 [(12, 1), (13, 3)]) fun v6 => bd (hQ p1.2 o1 [(12, 2), (13, 4)]) fun v8 => bd (fJ4_init p1.2 (some p1.1) v4 v6 v8 o2) fun p10 => some ((some p1.1), p10)
theorem kJ1_replacementNode {G : Gx}  {h' : hS} {r : Option Nat} {h : hS} {o0 : Option Nat} {o1 : Option Nat} {o2 : Option Nat}   (e : fJ1_replacementNode h o0 o1 o2 = some (r, h')) : CtX G yJ1_replacementNode cJ1_replacementNode 3 (some (.object "java/util/HashMap$Node")) 2 44 [] [] h [tr o0, tr o1, tr o2] (some (tr r)) [] h' := by
  refine CtX.of (by decide) (Nat.le_of_ble_eq_true rfl) [(0, tr o0), (1, tr o1), (2, tr o2)] rfl ?_
  have E : EndX (G, 3, [], h, [], h', (some (.object "java/util/HashMap$Node")), (some (tr r)), yJ1_replacementNode.name) [] 3 (some (.object "java/util/HashMap$Node")) (some (tr r)) [] h' := ⟨rfl, rfl, rfl, rfl, rfl, rfl⟩
  unfold fJ1_replacementNode at e
  refine r_rrs E.p (fun rr => ?_)
  obtain ⟨p1, q2, e⟩ := bd_o e
  refine r_newS [vi 0, vq none, vq none, vq none] q2 rfl in_J4 tyJ4_ok q695 q710 q129 (by decide +kernel) rfl (by decide +kernel) dJ1_replacementNode_0 ?_
  refine r_rrs E.p (fun rr3 => ?_)
  refine r_dup dJ1_replacementNode_3 rfl ?_
  refine r_aload_n dJ1_replacementNode_4 rfl 1 rfl ?_
  obtain ⟨v4, q5, e⟩ := bd_o e
  refine r_getI fG_J1_168 q5 dJ1_replacementNode_5 ?_
  refine r_aload_n dJ1_replacementNode_8 rfl 1 rfl ?_
  obtain ⟨v6, q7, e⟩ := bd_o e
  refine r_getQ fG_J1_170 q7 dJ1_replacementNode_9 ?_
  refine r_aload_n dJ1_replacementNode_12 rfl 1 rfl ?_
  obtain ⟨v8, q9, e⟩ := bd_o e
  refine r_getQ fG_J1_162 q9 dJ1_replacementNode_13 ?_
  refine r_aload_n dJ1_replacementNode_16 rfl 2 rfl ?_
  obtain ⟨p10, q11, e⟩ := bd_o e
  have k12 := kJ4_init (G := G) (hI_r rr3 q5) q11
  have z13 := (k12 rr3).1.2.2.2
  refine r_callIo (j := none) 4 [ti v4, tr v6, tr v8, tr o2] (fun q => by cases q) rfl rfl k12 (injO_0 E.p) subO_0 getO_0 setO_0 q713 q129 q711 q712 (by decide +kernel) rfl (Nat.le_of_ble_eq_true rfl) (Nat.le_of_ble_eq_true rfl) rfl (Nat.le_of_ble_eq_true rfl) dJ1_replacementNode_17 rfl ?_
  refine r_rrs E.p (fun rr14 => ?_)
  cases e
  exact r_aret E.σ E.st E.rt (by first | exact Or.inl ⟨_, rfl⟩ | exact Or.inr ⟨_, rfl⟩) E.r dJ1_replacementNode_20
theorem fP_J6_112 : FldP RJ6 112 [(12, 3), (13, 5)] (.object "java/util/HashMap$Node") false := List.forall_mem_cons.mpr ⟨⟨RJ4, TJ4, 4, "java/util/HashMap$Node", tyJ4, rfl, in_J4, by decide, q728, Or.inl rfl, tyJ4_ok, nmJ4, rfl, Or.inl rfl, by decide⟩, List.forall_mem_cons.mpr ⟨⟨RJ6, TJ6, 11, "java/util/HashMap$Node", tyJ6, rfl, in_J6, by decide, q728, Or.inl rfl, tyJ6_ok, nmJ6, rfl, Or.inl rfl, by decide⟩, fun _ h => absurd h List.not_mem_nil⟩⟩
theorem fG_J6_112 : FldG RJ6 112 [(12, 3), (13, 5)] := List.forall_mem_cons.mpr ⟨⟨RJ4, TJ4, 4, "java/util/HashMap$Node", rfl, in_J4, by decide, q728, Or.inl rfl⟩, List.forall_mem_cons.mpr ⟨⟨RJ6, TJ6, 11, "java/util/HashMap$Node", rfl, in_J6, by decide, q728, Or.inl rfl⟩, fun _ h => absurd h List.not_mem_nil⟩⟩
def fJ6_untreeify_b37 (K7 : hS → Option Nat → Option Nat → Option Nat → Option Nat → Option (Option Nat × hS)) (h : hS) (o1 : Option Nat) (o2 : Option Nat) (o4 : Option Nat) (o5 : Option Nat) : Option (Option Nat × hS) := bd (hQ h o4 [(12, 3), (13, 5)]) fun v1 => K7 h o1 o2 o5 v1
theorem wJ6_untreeify_b37 {N : Nx} {h' : hS} {r : Option Nat} (E : EndX N [] 6 (some (.object "java/util/HashMap$Node")) (some (tr r)) [] h') (K7 : hS → Option Nat → Option Nat → Option Nat → Option Nat → Option (Option Nat × hS)) (hK7 : ∀ (h : hS) (o1 : Option Nat) (o2 : Option Nat) (o3 : Option Nat) (o4 : Option Nat), K7 h o1 o2 o3 o4 = some (r, h') → AtPc cJ6_untreeify RJ6 3 66 N [] h 7 [(1, tr o1), (2, tr o2), (3, tr o3), (4, tr o4)] []) (h : hS) (o1 : Option Nat) (o2 : Option Nat) (o4 : Option Nat) (o5 : Option Nat) (e : fJ6_untreeify_b37 K7 h o1 o2 o4 o5 = some (r, h')) : AtPc cJ6_untreeify RJ6 3 66 N [] h 37 [(1, tr o1), (2, tr o2), (4, tr o4), (5, tr o5)] [] := by
  unfold fJ6_untreeify_b37 at e
  refine r_rrs E.p (fun rr => ?_)
  refine r_aload dJ6_untreeify_37 3 rfl ?_
  refine r_astore_n (lv' := [(3, tr o5), (1, tr o1), (2, tr o2), (4, tr o4), (5, tr o5)]) dJ6_untreeify_39 rfl (E.lt (by decide)) rfl ?_
  refine r_aload dJ6_untreeify_40 3 rfl ?_
  obtain ⟨v1, q2, e⟩ := bd_o e
  refine r_getQ fG_J6_112 q2 dJ6_untreeify_42 ?_
  refine r_astore (lv' := [(4, tr v1), (3, tr o5), (1, tr o1), (2, tr o2), (5, tr o5)]) dJ6_untreeify_45 (E.lt (by decide)) rfl ?_
  refine r_goto 7 dJ6_untreeify_47 (by decide) ?_
  refine r_sub [2, 3, 1, 0] rfl ?_
  exact hK7 h o1 o2 o5 v1 e
def fJ6_untreeify_b7 (K7 : hS → Option Nat → Option Nat → Option Nat → Option Nat → Option (Option Nat × hS)) (h : hS) (o1 : Option Nat) (o2 : Option Nat) (o3 : Option Nat) (o4 : Option Nat) : Option (Option Nat × hS) := ifN o4 (some (o2, h)) (fun _ => gd (hC h o1 = some 11) (bd (fJ1_replacementNode h o1 o4 none) fun p3 => ifN o3 (fJ6_untreeify_b37 K7 p3.2 o1 p3.1 o4 p3.1) (fun _ => bd (hW p3.2 o3 [(12, 3), (13, 5)] (vq p3.1)) fun h11 => fJ6_untreeify_b37 K7 h11 o1 o2 o4 p3.1)))
theorem wJ6_untreeify_b7 {N : Nx} {h' : hS} {r : Option Nat} (E : EndX N [] 6 (some (.object "java/util/HashMap$Node")) (some (tr r)) [] h') (K7 : hS → Option Nat → Option Nat → Option Nat → Option Nat → Option (Option Nat × hS)) (hK7 : ∀ (h : hS) (o1 : Option Nat) (o2 : Option Nat) (o3 : Option Nat) (o4 : Option Nat), K7 h o1 o2 o3 o4 = some (r, h') → AtPc cJ6_untreeify RJ6 3 66 N [] h 7 [(1, tr o1), (2, tr o2), (3, tr o3), (4, tr o4)] []) (h : hS) (o1 : Option Nat) (o2 : Option Nat) (o3 : Option Nat) (o4 : Option Nat) (e : fJ6_untreeify_b7 K7 h o1 o2 o3 o4 = some (r, h')) : AtPc cJ6_untreeify RJ6 3 66 N [] h 7 [(1, tr o1), (2, tr o2), (3, tr o3), (4, tr o4)] [] := by
  unfold fJ6_untreeify_b7 at e
  refine r_rrs E.p (fun rr => ?_)
  refine r_aload dJ6_untreeify_7 3 rfl ?_
  have eT := (r_ifno e).1
  have eF := (r_ifno e).2
  refine r_ifnull 50 dJ6_untreeify_9 (by decide) (fun c1 => ?_) (fun x2 c1 => ?_)
  · have e := eT c1
    refine r_aload_n dJ6_untreeify_50 rfl 1 rfl ?_
    cases e
    exact r_aret E.σ E.st E.rt (by first | exact Or.inl ⟨_, rfl⟩ | exact Or.inr ⟨_, rfl⟩) E.r dJ6_untreeify_51
  · have e := eF x2 c1
    refine r_aload_n dJ6_untreeify_12 rfl 0 rfl ?_
    refine r_aload dJ6_untreeify_13 3 rfl ?_
    refine r_null dJ6_untreeify_15 ?_
    obtain ⟨g5, e⟩ := gd_o e
    obtain ⟨p3, q4, e⟩ := bd_o e
    have k6 := kJ1_replacementNode (G := nG N)  q4
    have z7 := (k6 rr).1.2.2.2
    refine r_callVo (j := none) 2 [tr o4, tr none] (c := 11) (rc := (RJ1, TJ1, 8)) rfl g5 rfl k6 (injO_0 E.p) subO_0 getO_0 setO_0 (lw_V q706 q707 q708 q122 q709) (by decide +kernel) rfl (Nat.le_of_ble_eq_true rfl) (Nat.le_of_ble_eq_true rfl) rfl (Nat.le_of_ble_eq_true rfl) dJ6_untreeify_16 rfl ?_
    refine r_rrs E.p (fun rr8 => ?_)
    refine r_astore (lv' := [(5, tr p3.1), (1, tr o1), (2, tr o2), (3, tr o3), (4, tr o4)]) dJ6_untreeify_19 (E.lt (by decide)) rfl ?_
    refine r_aload_n dJ6_untreeify_21 rfl 3 rfl ?_
    have eT := (r_ifno e).1
    have eF := (r_ifno e).2
    refine r_ifnonnull 31 dJ6_untreeify_22 (by decide) (fun c9 => ?_) (fun x10 c9 => ?_)
    · have e := eT c9
      refine r_aload dJ6_untreeify_25 0 rfl ?_
      refine r_astore_n (lv' := [(2, tr p3.1), (5, tr p3.1), (1, tr o1), (3, tr o3), (4, tr o4)]) dJ6_untreeify_27 rfl (E.lt (by decide)) rfl ?_
      refine r_goto 37 dJ6_untreeify_28 (by decide) ?_
      refine r_sub [2, 0, 4, 1] rfl ?_
      exact wJ6_untreeify_b37 E K7 hK7 p3.2 o1 p3.1 o4 p3.1 e
    · have e := eF x10 c9
      refine r_aload_n dJ6_untreeify_31 rfl 3 rfl ?_
      refine r_aload dJ6_untreeify_32 0 rfl ?_
      obtain ⟨h11, q12, e⟩ := bd_o e
      refine r_put (v := vq p3.1) fP_J6_112 (by first | exact fun q => absurd q (by decide) | exact fun _ => rfl) trivial q12 dJ6_untreeify_34 ?_
      refine r_rrs E.p (fun rr13 => ?_)
      refine r_sub [1, 2, 4, 0] rfl ?_
      exact wJ6_untreeify_b37 E K7 hK7 h11 o1 o2 o4 p3.1 e
def fJ6_untreeify_L7  : Nat → hS → Option Nat → Option Nat → Option Nat → Option Nat → Option (Option Nat × hS)
  | 0, _, _, _, _, _ => none
  | n9 + 1, h, o1, o2, o3, o4 => fJ6_untreeify_b7 (fJ6_untreeify_L7 n9) h o1 o2 o3 o4
theorem wJ6_untreeify_L7 {N : Nx} {h' : hS} {r : Option Nat} (E : EndX N [] 6 (some (.object "java/util/HashMap$Node")) (some (tr r)) [] h')  : ∀ (n9 : Nat), ∀ (h : hS) (o1 : Option Nat) (o2 : Option Nat) (o3 : Option Nat) (o4 : Option Nat), fJ6_untreeify_L7 n9 h o1 o2 o3 o4 = some (r, h') → AtPc cJ6_untreeify RJ6 3 66 N [] h 7 [(1, tr o1), (2, tr o2), (3, tr o3), (4, tr o4)] [] := by
  intro n9
  induction n9 with
  | zero => intro h o1 o2 o3 o4 e; cases e
  | succ n9 ih => intro h o1 o2 o3 o4 e; exact wJ6_untreeify_b7 E _ ih h o1 o2 o3 o4 e
def fJ6_untreeify  (h : hS) (o0 : Option Nat) (o1 : Option Nat) : Option (Option Nat × hS) := fJ6_untreeify_L7 FU h o1 none none o0
theorem kJ6_untreeify {G : Gx}  {h' : hS} {r : Option Nat} {h : hS} {o0 : Option Nat} {o1 : Option Nat}   (e : fJ6_untreeify h o0 o1 = some (r, h')) : CtX G yJ6_untreeify cJ6_untreeify 6 (some (.object "java/util/HashMap$Node")) 3 66 [] [] h [tr o0, tr o1] (some (tr r)) [] h' := by
  refine CtX.of (by decide) (Nat.le_of_ble_eq_true rfl) [(0, tr o0), (1, tr o1)] rfl ?_
  have E : EndX (G, 6, [], h, [], h', (some (.object "java/util/HashMap$Node")), (some (tr r)), yJ6_untreeify.name) [] 6 (some (.object "java/util/HashMap$Node")) (some (tr r)) [] h' := ⟨rfl, rfl, rfl, rfl, rfl, rfl⟩
  unfold fJ6_untreeify at e
  refine r_rrs E.p (fun rr => ?_)
  refine r_null dJ6_untreeify_0 ?_
  refine r_astore_n (lv' := [(2, tr none), (0, tr o0), (1, tr o1)]) dJ6_untreeify_1 rfl (E.lt (by decide)) rfl ?_
  refine r_null dJ6_untreeify_2 ?_
  refine r_astore_n (lv' := [(3, tr none), (2, tr none), (0, tr o0), (1, tr o1)]) dJ6_untreeify_3 rfl (E.lt (by decide)) rfl ?_
  refine r_aload_n dJ6_untreeify_4 rfl 2 rfl ?_
  refine r_astore (lv' := [(4, tr o0), (3, tr none), (2, tr none), (0, tr o0), (1, tr o1)]) dJ6_untreeify_5 (E.lt (by decide)) rfl ?_
  refine r_sub [4, 2, 1, 0] rfl ?_
  exact wJ6_untreeify_L7 E FU h o1 none none o0 e
theorem fP_J6_42 : FldP RJ6 42 [(13, 8)] (.object "java/util/HashMap$TreeNode") false := List.forall_mem_cons.mpr ⟨⟨RJ6, TJ6, 11, "java/util/HashMap$TreeNode", tyJ6, rfl, in_J6, by decide, q780, Or.inl rfl, tyJ6_ok, nmJ6, rfl, Or.inl rfl, by decide⟩, fun _ h => absurd h List.not_mem_nil⟩
theorem fP_J6_9 : FldP RJ6 9 [(13, 6)] (.object "java/util/HashMap$TreeNode") false := List.forall_mem_cons.mpr ⟨⟨RJ6, TJ6, 11, "java/util/HashMap$TreeNode", tyJ6, rfl, in_J6, by decide, q778, Or.inl rfl, tyJ6_ok, nmJ6, rfl, Or.inl rfl, by decide⟩, fun _ h => absurd h List.not_mem_nil⟩
theorem fP_J6_93 : FldP RJ6 93 [(13, 10)] .boolean false := List.forall_mem_cons.mpr ⟨⟨RJ6, TJ6, 11, "java/util/HashMap$TreeNode", tyJ6, rfl, in_J6, by decide, q783, Or.inl rfl, tyJ6_ok, nmJ6, rfl, Or.inl rfl, by decide⟩, fun _ h => absurd h List.not_mem_nil⟩
theorem fP_J6_39 : FldP RJ6 39 [(13, 7)] (.object "java/util/HashMap$TreeNode") false := List.forall_mem_cons.mpr ⟨⟨RJ6, TJ6, 11, "java/util/HashMap$TreeNode", tyJ6, rfl, in_J6, by decide, q779, Or.inl rfl, tyJ6_ok, nmJ6, rfl, Or.inl rfl, by decide⟩, fun _ h => absurd h List.not_mem_nil⟩
def fJ6_rotateLeft_b89 (h : hS) (o0 : Option Nat) : Option (Option Nat × hS) := some (o0, h)
theorem wJ6_rotateLeft_b89 {N : Nx} {h' : hS} {r : Option Nat} (E : EndX N [] 5 (some (.object "java/util/HashMap$TreeNode")) (some (tr r)) [] h')  (h : hS) (o0 : Option Nat) (e : fJ6_rotateLeft_b89 h o0 = some (r, h')) : AtPc cJ6_rotateLeft RJ6 0 0 N [] h 89 [(0, tr o0)] [] := by
  unfold fJ6_rotateLeft_b89 at e
  refine r_rrs E.p (fun rr => ?_)
  refine r_aload_n dJ6_rotateLeft_89 rfl 0 rfl ?_
  cases e
  exact r_aret E.σ E.st E.rt (by first | exact Or.inl ⟨_, rfl⟩ | exact Or.inr ⟨_, rfl⟩) E.r dJ6_rotateLeft_90
def fJ6_rotateLeft_b79 (h : hS) (o0 : Option Nat) (o1 : Option Nat) (o2 : Option Nat) : Option (Option Nat × hS) := bd (hW h o2 [(13, 7)] (vq o1)) fun h1 => bd (hW h1 o1 [(13, 6)] (vq o2)) fun h4 => fJ6_rotateLeft_b89 h4 o0
theorem wJ6_rotateLeft_b79 {N : Nx} {h' : hS} {r : Option Nat} (E : EndX N [] 5 (some (.object "java/util/HashMap$TreeNode")) (some (tr r)) [] h')  (h : hS) (o0 : Option Nat) (o1 : Option Nat) (o2 : Option Nat) (e : fJ6_rotateLeft_b79 h o0 o1 o2 = some (r, h')) : AtPc cJ6_rotateLeft RJ6 0 0 N [] h 79 [(0, tr o0), (1, tr o1), (2, tr o2)] [] := by
  unfold fJ6_rotateLeft_b79 at e
  refine r_rrs E.p (fun rr => ?_)
  refine r_aload_n dJ6_rotateLeft_79 rfl 2 rfl ?_
  refine r_aload_n dJ6_rotateLeft_80 rfl 1 rfl ?_
  obtain ⟨h1, q2, e⟩ := bd_o e
  refine r_put (v := vq o1) fP_J6_39 (by first | exact fun q => absurd q (by decide) | exact fun _ => rfl) trivial q2 dJ6_rotateLeft_81 ?_
  refine r_rrs E.p (fun rr3 => ?_)
  refine r_aload_n dJ6_rotateLeft_84 rfl 1 rfl ?_
  refine r_aload_n dJ6_rotateLeft_85 rfl 2 rfl ?_
  obtain ⟨h4, q5, e⟩ := bd_o e
  refine r_put (v := vq o2) fP_J6_9 (by first | exact fun q => absurd q (by decide) | exact fun _ => rfl) trivial q5 dJ6_rotateLeft_86 ?_
  refine r_rrs E.p (fun rr6 => ?_)
  refine r_sub [0] rfl ?_
  exact wJ6_rotateLeft_b89 E h4 o0 e
def fJ6_rotateLeft_b34 (h : hS) (o0 : Option Nat) (o1 : Option Nat) (o2 : Option Nat) : Option (Option Nat × hS) := bd (hQ h o1 [(13, 6)]) fun v1 => bd (hW h o2 [(13, 6)] (vq v1)) fun h3 => ifN v1 (bd (hW h3 o2 [(13, 10)] (vi 0)) fun h8 => fJ6_rotateLeft_b79 h8 o2 o1 o2) (fun _ => bd (hQ h3 v1 [(13, 7)]) fun v11 => if ¬ v11 = o1 then bd (hW h3 v1 [(13, 8)] (vq o2)) fun h14 => fJ6_rotateLeft_b79 h14 o0 o1 o2 else bd (hW h3 v1 [(13, 7)] (vq o2)) fun h17 => fJ6_rotateLeft_b79 h17 o0 o1 o2)
theorem wJ6_rotateLeft_b34 {N : Nx} {h' : hS} {r : Option Nat} (E : EndX N [] 5 (some (.object "java/util/HashMap$TreeNode")) (some (tr r)) [] h')  (h : hS) (o0 : Option Nat) (o1 : Option Nat) (o2 : Option Nat) (e : fJ6_rotateLeft_b34 h o0 o1 o2 = some (r, h')) : AtPc cJ6_rotateLeft RJ6 0 0 N [] h 34 [(0, tr o0), (1, tr o1), (2, tr o2)] [] := by
  unfold fJ6_rotateLeft_b34 at e
  refine r_rrs E.p (fun rr => ?_)
  refine r_aload_n dJ6_rotateLeft_34 rfl 2 rfl ?_
  refine r_aload_n dJ6_rotateLeft_35 rfl 1 rfl ?_
  obtain ⟨v1, q2, e⟩ := bd_o e
  refine r_getQ fG_J6_9 q2 dJ6_rotateLeft_36 ?_
  refine r_dup_x1 dJ6_rotateLeft_39 rfl rfl ?_
  obtain ⟨h3, q4, e⟩ := bd_o e
  refine r_put (v := vq v1) fP_J6_9 (by first | exact fun q => absurd q (by decide) | exact fun _ => rfl) trivial q4 dJ6_rotateLeft_40 ?_
  refine r_rrs E.p (fun rr5 => ?_)
  refine r_dup dJ6_rotateLeft_43 rfl ?_
  refine r_astore_n (lv' := [(3, tr v1), (0, tr o0), (1, tr o1), (2, tr o2)]) dJ6_rotateLeft_44 rfl (E.lt (by decide)) rfl ?_
  have eT := (r_ifno e).1
  have eF := (r_ifno e).2
  refine r_ifnonnull 58 dJ6_rotateLeft_45 (by decide) (fun c6 => ?_) (fun x7 c6 => ?_)
  · have e := eT c6
    refine r_aload_n dJ6_rotateLeft_48 rfl 3 rfl ?_
    refine r_dup dJ6_rotateLeft_49 rfl ?_
    refine r_astore_n (lv' := [(0, tr o2), (3, tr v1), (1, tr o1), (2, tr o2)]) dJ6_rotateLeft_50 rfl (E.lt (by decide)) rfl ?_
    refine r_iconst dJ6_rotateLeft_51 ?_
    obtain ⟨h8, q9, e⟩ := bd_o e
    refine r_put (v := vi 0) fP_J6_93 (by first | exact fun q => absurd q (by decide) | exact fun _ => rfl) (Or.inl rfl) q9 dJ6_rotateLeft_52 ?_
    refine r_rrs E.p (fun rr10 => ?_)
    refine r_goto 79 dJ6_rotateLeft_55 (by decide) ?_
    refine r_sub [0, 2, 3] rfl ?_
    exact wJ6_rotateLeft_b79 E h8 o2 o1 o2 e
  · have e := eF x7 c6
    refine r_aload_n dJ6_rotateLeft_58 rfl 0 rfl ?_
    obtain ⟨v11, q12, e⟩ := bd_o e
    refine r_getQ fG_J6_39 q12 dJ6_rotateLeft_59 ?_
    refine r_aload_n dJ6_rotateLeft_62 rfl 2 rfl ?_
    have eT := (r_ifo e).1
    have eF := (r_ifo e).2
    refine r_acmp_ne 74 dJ6_rotateLeft_63 (by decide) (fun c13 => ?_) (fun c13 => ?_)
    · have e := eT c13
      refine r_aload_n dJ6_rotateLeft_74 rfl 0 rfl ?_
      refine r_aload_n dJ6_rotateLeft_75 rfl 3 rfl ?_
      obtain ⟨h14, q15, e⟩ := bd_o e
      refine r_put (v := vq o2) fP_J6_42 (by first | exact fun q => absurd q (by decide) | exact fun _ => rfl) trivial q15 dJ6_rotateLeft_76 ?_
      refine r_rrs E.p (fun rr16 => ?_)
      refine r_sub [1, 2, 3] rfl ?_
      exact wJ6_rotateLeft_b79 E h14 o0 o1 o2 e
    · have e := eF c13
      refine r_aload_n dJ6_rotateLeft_66 rfl 0 rfl ?_
      refine r_aload_n dJ6_rotateLeft_67 rfl 3 rfl ?_
      obtain ⟨h17, q18, e⟩ := bd_o e
      refine r_put (v := vq o2) fP_J6_39 (by first | exact fun q => absurd q (by decide) | exact fun _ => rfl) trivial q18 dJ6_rotateLeft_68 ?_
      refine r_rrs E.p (fun rr19 => ?_)
      refine r_goto 79 dJ6_rotateLeft_71 (by decide) ?_
      refine r_sub [1, 2, 3] rfl ?_
      exact wJ6_rotateLeft_b79 E h17 o0 o1 o2 e
def fJ6_rotateLeft  (h : hS) (o0 : Option Nat) (o1 : Option Nat) : Option (Option Nat × hS) := ifN o1 (fJ6_rotateLeft_b89 h o0) (fun _ => bd (hQ h o1 [(13, 8)]) fun v3 => ifN v3 (fJ6_rotateLeft_b89 h o0) (fun _ => bd (hQ h v3 [(13, 7)]) fun v7 => bd (hW h o1 [(13, 8)] (vq v7)) fun h9 => ifN v7 (fJ6_rotateLeft_b34 h9 o0 o1 v3) (fun _ => bd (hW h9 v7 [(13, 6)] (vq o1)) fun h14 => fJ6_rotateLeft_b34 h14 o0 o1 v3)))
theorem kJ6_rotateLeft {G : Gx}  {h' : hS} {r : Option Nat} {h : hS} {o0 : Option Nat} {o1 : Option Nat}   (e : fJ6_rotateLeft h o0 o1 = some (r, h')) : CtX G yJ6_rotateLeft cJ6_rotateLeft 5 (some (.object "java/util/HashMap$TreeNode")) 0 0 [] [] h [tr o0, tr o1] (some (tr r)) [] h' := by
  refine CtX.of (by decide) (Nat.le_of_ble_eq_true rfl) [(0, tr o0), (1, tr o1)] rfl ?_
  have E : EndX (G, 5, [], h, [], h', (some (.object "java/util/HashMap$TreeNode")), (some (tr r)), yJ6_rotateLeft.name) [] 5 (some (.object "java/util/HashMap$TreeNode")) (some (tr r)) [] h' := ⟨rfl, rfl, rfl, rfl, rfl, rfl⟩
  unfold fJ6_rotateLeft at e
  refine r_rrs E.p (fun rr => ?_)
  refine r_aload_n dJ6_rotateLeft_0 rfl 1 rfl ?_
  have eT := (r_ifno e).1
  have eF := (r_ifno e).2
  refine r_ifnull 89 dJ6_rotateLeft_1 (by decide) (fun c1 => ?_) (fun x2 c1 => ?_)
  · have e := eT c1
    refine r_sub [0] rfl ?_
    exact wJ6_rotateLeft_b89 E h o0 e
  · have e := eF x2 c1
    refine r_aload_n dJ6_rotateLeft_4 rfl 1 rfl ?_
    obtain ⟨v3, q4, e⟩ := bd_o e
    refine r_getQ fG_J6_42 q4 dJ6_rotateLeft_5 ?_
    refine r_dup dJ6_rotateLeft_8 rfl ?_
    refine r_astore_n (lv' := [(2, tr v3), (0, tr o0), (1, tr o1)]) dJ6_rotateLeft_9 rfl (E.lt (by decide)) rfl ?_
    have eT := (r_ifno e).1
    have eF := (r_ifno e).2
    refine r_ifnull 89 dJ6_rotateLeft_10 (by decide) (fun c5 => ?_) (fun x6 c5 => ?_)
    · have e := eT c5
      refine r_sub [1] rfl ?_
      exact wJ6_rotateLeft_b89 E h o0 e
    · have e := eF x6 c5
      refine r_aload_n dJ6_rotateLeft_13 rfl 2 rfl ?_
      refine r_aload_n dJ6_rotateLeft_14 rfl 0 rfl ?_
      obtain ⟨v7, q8, e⟩ := bd_o e
      refine r_getQ fG_J6_39 q8 dJ6_rotateLeft_15 ?_
      refine r_dup_x1 dJ6_rotateLeft_18 rfl rfl ?_
      obtain ⟨h9, q10, e⟩ := bd_o e
      refine r_put (v := vq v7) fP_J6_42 (by first | exact fun q => absurd q (by decide) | exact fun _ => rfl) trivial q10 dJ6_rotateLeft_19 ?_
      refine r_rrs E.p (fun rr11 => ?_)
      refine r_dup dJ6_rotateLeft_22 rfl ?_
      refine r_astore (lv' := [(4, tr v7), (2, tr v3), (0, tr o0), (1, tr o1)]) dJ6_rotateLeft_23 (E.lt (by decide)) rfl ?_
      have eT := (r_ifno e).1
      have eF := (r_ifno e).2
      refine r_ifnull 34 dJ6_rotateLeft_25 (by decide) (fun c12 => ?_) (fun x13 c12 => ?_)
      · have e := eT c12
        refine r_sub [2, 3, 1] rfl ?_
        exact wJ6_rotateLeft_b34 E h9 o0 o1 v3 e
      · have e := eF x13 c12
        refine r_aload dJ6_rotateLeft_28 0 rfl ?_
        refine r_aload_n dJ6_rotateLeft_30 rfl 3 rfl ?_
        obtain ⟨h14, q15, e⟩ := bd_o e
        refine r_put (v := vq o1) fP_J6_9 (by first | exact fun q => absurd q (by decide) | exact fun _ => rfl) trivial q15 dJ6_rotateLeft_31 ?_
        refine r_rrs E.p (fun rr16 => ?_)
        refine r_sub [2, 3, 1] rfl ?_
        exact wJ6_rotateLeft_b34 E h14 o0 o1 v3 e
def fJ6_rotateRight_b89 (h : hS) (o0 : Option Nat) : Option (Option Nat × hS) := some (o0, h)
theorem wJ6_rotateRight_b89 {N : Nx} {h' : hS} {r : Option Nat} (E : EndX N [] 5 (some (.object "java/util/HashMap$TreeNode")) (some (tr r)) [] h')  (h : hS) (o0 : Option Nat) (e : fJ6_rotateRight_b89 h o0 = some (r, h')) : AtPc cJ6_rotateRight RJ6 0 0 N [] h 89 [(0, tr o0)] [] := by
  unfold fJ6_rotateRight_b89 at e
  refine r_rrs E.p (fun rr => ?_)
  refine r_aload_n dJ6_rotateRight_89 rfl 0 rfl ?_
  cases e
  exact r_aret E.σ E.st E.rt (by first | exact Or.inl ⟨_, rfl⟩ | exact Or.inr ⟨_, rfl⟩) E.r dJ6_rotateRight_90
def fJ6_rotateRight_b79 (h : hS) (o0 : Option Nat) (o1 : Option Nat) (o2 : Option Nat) : Option (Option Nat × hS) := bd (hW h o2 [(13, 8)] (vq o1)) fun h1 => bd (hW h1 o1 [(13, 6)] (vq o2)) fun h4 => fJ6_rotateRight_b89 h4 o0
theorem wJ6_rotateRight_b79 {N : Nx} {h' : hS} {r : Option Nat} (E : EndX N [] 5 (some (.object "java/util/HashMap$TreeNode")) (some (tr r)) [] h')  (h : hS) (o0 : Option Nat) (o1 : Option Nat) (o2 : Option Nat) (e : fJ6_rotateRight_b79 h o0 o1 o2 = some (r, h')) : AtPc cJ6_rotateRight RJ6 0 0 N [] h 79 [(0, tr o0), (1, tr o1), (2, tr o2)] [] := by
  unfold fJ6_rotateRight_b79 at e
  refine r_rrs E.p (fun rr => ?_)
  refine r_aload_n dJ6_rotateRight_79 rfl 2 rfl ?_
  refine r_aload_n dJ6_rotateRight_80 rfl 1 rfl ?_
  obtain ⟨h1, q2, e⟩ := bd_o e
  refine r_put (v := vq o1) fP_J6_42 (by first | exact fun q => absurd q (by decide) | exact fun _ => rfl) trivial q2 dJ6_rotateRight_81 ?_
  refine r_rrs E.p (fun rr3 => ?_)
  refine r_aload_n dJ6_rotateRight_84 rfl 1 rfl ?_
  refine r_aload_n dJ6_rotateRight_85 rfl 2 rfl ?_
  obtain ⟨h4, q5, e⟩ := bd_o e
  refine r_put (v := vq o2) fP_J6_9 (by first | exact fun q => absurd q (by decide) | exact fun _ => rfl) trivial q5 dJ6_rotateRight_86 ?_
  refine r_rrs E.p (fun rr6 => ?_)
  refine r_sub [0] rfl ?_
  exact wJ6_rotateRight_b89 E h4 o0 e
def fJ6_rotateRight_b34 (h : hS) (o0 : Option Nat) (o1 : Option Nat) (o2 : Option Nat) : Option (Option Nat × hS) := bd (hQ h o1 [(13, 6)]) fun v1 => bd (hW h o2 [(13, 6)] (vq v1)) fun h3 => ifN v1 (bd (hW h3 o2 [(13, 10)] (vi 0)) fun h8 => fJ6_rotateRight_b79 h8 o2 o1 o2) (fun _ => bd (hQ h3 v1 [(13, 8)]) fun v11 => if ¬ v11 = o1 then bd (hW h3 v1 [(13, 7)] (vq o2)) fun h14 => fJ6_rotateRight_b79 h14 o0 o1 o2 else bd (hW h3 v1 [(13, 8)] (vq o2)) fun h17 => fJ6_rotateRight_b79 h17 o0 o1 o2)
theorem wJ6_rotateRight_b34 {N : Nx} {h' : hS} {r : Option Nat} (E : EndX N [] 5 (some (.object "java/util/HashMap$TreeNode")) (some (tr r)) [] h')  (h : hS) (o0 : Option Nat) (o1 : Option Nat) (o2 : Option Nat) (e : fJ6_rotateRight_b34 h o0 o1 o2 = some (r, h')) : AtPc cJ6_rotateRight RJ6 0 0 N [] h 34 [(0, tr o0), (1, tr o1), (2, tr o2)] [] := by
  unfold fJ6_rotateRight_b34 at e
  refine r_rrs E.p (fun rr => ?_)
  refine r_aload_n dJ6_rotateRight_34 rfl 2 rfl ?_
  refine r_aload_n dJ6_rotateRight_35 rfl 1 rfl ?_
  obtain ⟨v1, q2, e⟩ := bd_o e
  refine r_getQ fG_J6_9 q2 dJ6_rotateRight_36 ?_
  refine r_dup_x1 dJ6_rotateRight_39 rfl rfl ?_
  obtain ⟨h3, q4, e⟩ := bd_o e
  refine r_put (v := vq v1) fP_J6_9 (by first | exact fun q => absurd q (by decide) | exact fun _ => rfl) trivial q4 dJ6_rotateRight_40 ?_
  refine r_rrs E.p (fun rr5 => ?_)
  refine r_dup dJ6_rotateRight_43 rfl ?_
  refine r_astore_n (lv' := [(3, tr v1), (0, tr o0), (1, tr o1), (2, tr o2)]) dJ6_rotateRight_44 rfl (E.lt (by decide)) rfl ?_
  have eT := (r_ifno e).1
  have eF := (r_ifno e).2
  refine r_ifnonnull 58 dJ6_rotateRight_45 (by decide) (fun c6 => ?_) (fun x7 c6 => ?_)
  · have e := eT c6
    refine r_aload_n dJ6_rotateRight_48 rfl 3 rfl ?_
    refine r_dup dJ6_rotateRight_49 rfl ?_
    refine r_astore_n (lv' := [(0, tr o2), (3, tr v1), (1, tr o1), (2, tr o2)]) dJ6_rotateRight_50 rfl (E.lt (by decide)) rfl ?_
    refine r_iconst dJ6_rotateRight_51 ?_
    obtain ⟨h8, q9, e⟩ := bd_o e
    refine r_put (v := vi 0) fP_J6_93 (by first | exact fun q => absurd q (by decide) | exact fun _ => rfl) (Or.inl rfl) q9 dJ6_rotateRight_52 ?_
    refine r_rrs E.p (fun rr10 => ?_)
    refine r_goto 79 dJ6_rotateRight_55 (by decide) ?_
    refine r_sub [0, 2, 3] rfl ?_
    exact wJ6_rotateRight_b79 E h8 o2 o1 o2 e
  · have e := eF x7 c6
    refine r_aload_n dJ6_rotateRight_58 rfl 0 rfl ?_
    obtain ⟨v11, q12, e⟩ := bd_o e
    refine r_getQ fG_J6_42 q12 dJ6_rotateRight_59 ?_
    refine r_aload_n dJ6_rotateRight_62 rfl 2 rfl ?_
    have eT := (r_ifo e).1
    have eF := (r_ifo e).2
    refine r_acmp_ne 74 dJ6_rotateRight_63 (by decide) (fun c13 => ?_) (fun c13 => ?_)
    · have e := eT c13
      refine r_aload_n dJ6_rotateRight_74 rfl 0 rfl ?_
      refine r_aload_n dJ6_rotateRight_75 rfl 3 rfl ?_
      obtain ⟨h14, q15, e⟩ := bd_o e
      refine r_put (v := vq o2) fP_J6_39 (by first | exact fun q => absurd q (by decide) | exact fun _ => rfl) trivial q15 dJ6_rotateRight_76 ?_
      refine r_rrs E.p (fun rr16 => ?_)
      refine r_sub [1, 2, 3] rfl ?_
      exact wJ6_rotateRight_b79 E h14 o0 o1 o2 e
    · have e := eF c13
      refine r_aload_n dJ6_rotateRight_66 rfl 0 rfl ?_
      refine r_aload_n dJ6_rotateRight_67 rfl 3 rfl ?_
      obtain ⟨h17, q18, e⟩ := bd_o e
      refine r_put (v := vq o2) fP_J6_42 (by first | exact fun q => absurd q (by decide) | exact fun _ => rfl) trivial q18 dJ6_rotateRight_68 ?_
      refine r_rrs E.p (fun rr19 => ?_)
      refine r_goto 79 dJ6_rotateRight_71 (by decide) ?_
      refine r_sub [1, 2, 3] rfl ?_
      exact wJ6_rotateRight_b79 E h17 o0 o1 o2 e
def fJ6_rotateRight  (h : hS) (o0 : Option Nat) (o1 : Option Nat) : Option (Option Nat × hS) := ifN o1 (fJ6_rotateRight_b89 h o0) (fun _ => bd (hQ h o1 [(13, 7)]) fun v3 => ifN v3 (fJ6_rotateRight_b89 h o0) (fun _ => bd (hQ h v3 [(13, 8)]) fun v7 => bd (hW h o1 [(13, 7)] (vq v7)) fun h9 => ifN v7 (fJ6_rotateRight_b34 h9 o0 o1 v3) (fun _ => bd (hW h9 v7 [(13, 6)] (vq o1)) fun h14 => fJ6_rotateRight_b34 h14 o0 o1 v3)))
theorem kJ6_rotateRight {G : Gx}  {h' : hS} {r : Option Nat} {h : hS} {o0 : Option Nat} {o1 : Option Nat}   (e : fJ6_rotateRight h o0 o1 = some (r, h')) : CtX G yJ6_rotateRight cJ6_rotateRight 5 (some (.object "java/util/HashMap$TreeNode")) 0 0 [] [] h [tr o0, tr o1] (some (tr r)) [] h' := by
  refine CtX.of (by decide) (Nat.le_of_ble_eq_true rfl) [(0, tr o0), (1, tr o1)] rfl ?_
  have E : EndX (G, 5, [], h, [], h', (some (.object "java/util/HashMap$TreeNode")), (some (tr r)), yJ6_rotateRight.name) [] 5 (some (.object "java/util/HashMap$TreeNode")) (some (tr r)) [] h' := ⟨rfl, rfl, rfl, rfl, rfl, rfl⟩
  unfold fJ6_rotateRight at e
  refine r_rrs E.p (fun rr => ?_)
  refine r_aload_n dJ6_rotateRight_0 rfl 1 rfl ?_
  have eT := (r_ifno e).1
  have eF := (r_ifno e).2
  refine r_ifnull 89 dJ6_rotateRight_1 (by decide) (fun c1 => ?_) (fun x2 c1 => ?_)
  · have e := eT c1
    refine r_sub [0] rfl ?_
    exact wJ6_rotateRight_b89 E h o0 e
  · have e := eF x2 c1
    refine r_aload_n dJ6_rotateRight_4 rfl 1 rfl ?_
    obtain ⟨v3, q4, e⟩ := bd_o e
    refine r_getQ fG_J6_39 q4 dJ6_rotateRight_5 ?_
    refine r_dup dJ6_rotateRight_8 rfl ?_
    refine r_astore_n (lv' := [(2, tr v3), (0, tr o0), (1, tr o1)]) dJ6_rotateRight_9 rfl (E.lt (by decide)) rfl ?_
    have eT := (r_ifno e).1
    have eF := (r_ifno e).2
    refine r_ifnull 89 dJ6_rotateRight_10 (by decide) (fun c5 => ?_) (fun x6 c5 => ?_)
    · have e := eT c5
      refine r_sub [1] rfl ?_
      exact wJ6_rotateRight_b89 E h o0 e
    · have e := eF x6 c5
      refine r_aload_n dJ6_rotateRight_13 rfl 2 rfl ?_
      refine r_aload_n dJ6_rotateRight_14 rfl 0 rfl ?_
      obtain ⟨v7, q8, e⟩ := bd_o e
      refine r_getQ fG_J6_42 q8 dJ6_rotateRight_15 ?_
      refine r_dup_x1 dJ6_rotateRight_18 rfl rfl ?_
      obtain ⟨h9, q10, e⟩ := bd_o e
      refine r_put (v := vq v7) fP_J6_39 (by first | exact fun q => absurd q (by decide) | exact fun _ => rfl) trivial q10 dJ6_rotateRight_19 ?_
      refine r_rrs E.p (fun rr11 => ?_)
      refine r_dup dJ6_rotateRight_22 rfl ?_
      refine r_astore (lv' := [(4, tr v7), (2, tr v3), (0, tr o0), (1, tr o1)]) dJ6_rotateRight_23 (E.lt (by decide)) rfl ?_
      have eT := (r_ifno e).1
      have eF := (r_ifno e).2
      refine r_ifnull 34 dJ6_rotateRight_25 (by decide) (fun c12 => ?_) (fun x13 c12 => ?_)
      · have e := eT c12
        refine r_sub [2, 3, 1] rfl ?_
        exact wJ6_rotateRight_b34 E h9 o0 o1 v3 e
      · have e := eF x13 c12
        refine r_aload dJ6_rotateRight_28 0 rfl ?_
        refine r_aload_n dJ6_rotateRight_30 rfl 3 rfl ?_
        obtain ⟨h14, q15, e⟩ := bd_o e
        refine r_put (v := vq o1) fP_J6_9 (by first | exact fun q => absurd q (by decide) | exact fun _ => rfl) trivial q15 dJ6_rotateRight_31 ?_
        refine r_rrs E.p (fun rr16 => ?_)
        refine r_sub [2, 3, 1] rfl ?_
        exact wJ6_rotateRight_b34 E h14 o0 o1 v3 e
theorem fG_J6_93 : FldG RJ6 93 [(13, 10)] := List.forall_mem_cons.mpr ⟨⟨RJ6, TJ6, 11, "java/util/HashMap$TreeNode", rfl, in_J6, by decide, q783, Or.inl rfl⟩, fun _ h => absurd h List.not_mem_nil⟩
def fJ6_balanceInsertion_b37 (h : hS) (o0 : Option Nat) : Option (Option Nat × hS) := some (o0, h)
theorem wJ6_balanceInsertion_b37 {N : Nx} {h' : hS} {r : Option Nat} (E : EndX N [] 6 (some (.object "java/util/HashMap$TreeNode")) (some (tr r)) [] h')  (h : hS) (o0 : Option Nat) (e : fJ6_balanceInsertion_b37 h o0 = some (r, h')) : AtPc cJ6_balanceInsertion RJ6 1 24 N [] h 37 [(0, tr o0)] [] := by
  unfold fJ6_balanceInsertion_b37 at e
  refine r_rrs E.p (fun rr => ?_)
  refine r_aload_n dJ6_balanceInsertion_37 rfl 0 rfl ?_
  cases e
  exact r_aret E.σ E.st E.rt (by first | exact Or.inl ⟨_, rfl⟩ | exact Or.inr ⟨_, rfl⟩) E.r dJ6_balanceInsertion_38
def fJ6_balanceInsertion_b123 (K5 : hS → Option Nat → Option Nat → Option (Option Nat × hS)) (h : hS) (o0 : Option Nat) (o1 : Option Nat) (o2 : Option Nat) (o3 : Option Nat) : Option (Option Nat × hS) := ifN o2 (K5 h o0 o1) (fun _ => bd (hW h o2 [(13, 10)] (vi 0)) fun h3 => ifN o3 (K5 h3 o0 o1) (fun _ => bd (hW h3 o3 [(13, 10)] (vi 1)) fun h8 => bd (fJ6_rotateRight h8 o0 o3) fun p11 => K5 p11.2 p11.1 o1))
theorem wJ6_balanceInsertion_b123 {N : Nx} {h' : hS} {r : Option Nat} (E : EndX N [] 6 (some (.object "java/util/HashMap$TreeNode")) (some (tr r)) [] h') (K5 : hS → Option Nat → Option Nat → Option (Option Nat × hS)) (hK5 : ∀ (h : hS) (o0 : Option Nat) (o1 : Option Nat), K5 h o0 o1 = some (r, h') → AtPc cJ6_balanceInsertion RJ6 1 24 N [] h 5 [(0, tr o0), (1, tr o1)] []) (h : hS) (o0 : Option Nat) (o1 : Option Nat) (o2 : Option Nat) (o3 : Option Nat) (e : fJ6_balanceInsertion_b123 K5 h o0 o1 o2 o3 = some (r, h')) : AtPc cJ6_balanceInsertion RJ6 1 24 N [] h 123 [(0, tr o0), (1, tr o1), (2, tr o2), (3, tr o3)] [] := by
  unfold fJ6_balanceInsertion_b123 at e
  refine r_rrs E.p (fun rr => ?_)
  refine r_aload_n dJ6_balanceInsertion_123 rfl 2 rfl ?_
  have eT := (r_ifno e).1
  have eF := (r_ifno e).2
  refine r_ifnull 5 dJ6_balanceInsertion_124 (by decide) (fun c1 => ?_) (fun x2 c1 => ?_)
  · have e := eT c1
    refine r_sub [0, 1] rfl ?_
    exact hK5 h o0 o1 e
  · have e := eF x2 c1
    refine r_aload_n dJ6_balanceInsertion_127 rfl 2 rfl ?_
    refine r_iconst dJ6_balanceInsertion_128 ?_
    obtain ⟨h3, q4, e⟩ := bd_o e
    refine r_put (v := vi 0) fP_J6_93 (by first | exact fun q => absurd q (by decide) | exact fun _ => rfl) (Or.inl rfl) q4 dJ6_balanceInsertion_129 ?_
    refine r_rrs E.p (fun rr5 => ?_)
    refine r_aload_n dJ6_balanceInsertion_132 rfl 3 rfl ?_
    have eT := (r_ifno e).1
    have eF := (r_ifno e).2
    refine r_ifnull 5 dJ6_balanceInsertion_133 (by decide) (fun c6 => ?_) (fun x7 c6 => ?_)
    · have e := eT c6
      refine r_sub [0, 1] rfl ?_
      exact hK5 h3 o0 o1 e
    · have e := eF x7 c6
      refine r_aload_n dJ6_balanceInsertion_136 rfl 3 rfl ?_
      refine r_iconst dJ6_balanceInsertion_137 ?_
      obtain ⟨h8, q9, e⟩ := bd_o e
      refine r_put (v := vi 1) fP_J6_93 (by first | exact fun q => absurd q (by decide) | exact fun _ => rfl) (Or.inr rfl) q9 dJ6_balanceInsertion_138 ?_
      refine r_rrs E.p (fun rr10 => ?_)
      refine r_aload_n dJ6_balanceInsertion_141 rfl 0 rfl ?_
      refine r_aload_n dJ6_balanceInsertion_142 rfl 3 rfl ?_
      obtain ⟨p11, q12, e⟩ := bd_o e
      have k13 := kJ6_rotateRight (G := nG N)  q12
      have z14 := (k13 rr10).1.2.2.2
      refine r_callS (j := none) 2 [tr o0, tr o3] k13 (injO_0 E.p) subO_0 getO_0 setO_0 (lw_S q750 q751 q131 q752) (by decide +kernel) rfl (Nat.le_of_ble_eq_true rfl) (Nat.le_of_ble_eq_true rfl) rfl (Nat.le_of_ble_eq_true rfl) dJ6_balanceInsertion_143 rfl ?_
      refine r_rrs E.p (fun rr15 => ?_)
      refine r_astore_n (lv' := [(0, tr p11.1), (1, tr o1), (2, tr o2), (3, tr o3)]) dJ6_balanceInsertion_146 rfl (E.lt (by decide)) rfl ?_
      refine r_goto 5 dJ6_balanceInsertion_147 (by decide) ?_
      refine r_sub [0, 1] rfl ?_
      exact hK5 p11.2 p11.1 o1 e
def fJ6_balanceInsertion_b122 (K5 : hS → Option Nat → Option Nat → Option (Option Nat × hS)) (h : hS) (o0 : Option Nat) (o1 : Option Nat) (o2 : Option Nat) (k0 : Option Nat) : Option (Option Nat × hS) := fJ6_balanceInsertion_b123 K5 h o0 o1 o2 k0
theorem wJ6_balanceInsertion_b122 {N : Nx} {h' : hS} {r : Option Nat} (E : EndX N [] 6 (some (.object "java/util/HashMap$TreeNode")) (some (tr r)) [] h') (K5 : hS → Option Nat → Option Nat → Option (Option Nat × hS)) (hK5 : ∀ (h : hS) (o0 : Option Nat) (o1 : Option Nat), K5 h o0 o1 = some (r, h') → AtPc cJ6_balanceInsertion RJ6 1 24 N [] h 5 [(0, tr o0), (1, tr o1)] []) (h : hS) (o0 : Option Nat) (o1 : Option Nat) (o2 : Option Nat) (k0 : Option Nat) (e : fJ6_balanceInsertion_b122 K5 h o0 o1 o2 k0 = some (r, h')) : AtPc cJ6_balanceInsertion RJ6 1 24 N [] h 122 [(0, tr o0), (1, tr o1), (2, tr o2)] [tr k0] := by
  unfold fJ6_balanceInsertion_b122 at e
  refine r_rrs E.p (fun rr => ?_)
  refine r_astore_n (lv' := [(3, tr k0), (0, tr o0), (1, tr o1), (2, tr o2)]) dJ6_balanceInsertion_122 rfl (E.lt (by decide)) rfl ?_
  refine r_sub [1, 2, 3, 0] rfl ?_
  exact wJ6_balanceInsertion_b123 E K5 hK5 h o0 o1 o2 k0 e
def fJ6_balanceInsertion_b89 (K5 : hS → Option Nat → Option Nat → Option (Option Nat × hS)) (h : hS) (o0 : Option Nat) (o1 : Option Nat) (o2 : Option Nat) (o3 : Option Nat) : Option (Option Nat × hS) := bd (hQ h o2 [(13, 8)]) fun v1 => if ¬ o1 = v1 then fJ6_balanceInsertion_b123 K5 h o0 o1 o2 o3 else bd (fJ6_rotateLeft h o0 o2) fun p4 => bd (hQ p4.2 o2 [(13, 6)]) fun v9 => ifN v9 (fJ6_balanceInsertion_b122 K5 p4.2 p4.1 o2 v9 none) (fun _ => bd (hQ p4.2 v9 [(13, 6)]) fun v13 => fJ6_balanceInsertion_b122 K5 p4.2 p4.1 o2 v9 v13)
theorem wJ6_balanceInsertion_b89 {N : Nx} {h' : hS} {r : Option Nat} (E : EndX N [] 6 (some (.object "java/util/HashMap$TreeNode")) (some (tr r)) [] h') (K5 : hS → Option Nat → Option Nat → Option (Option Nat × hS)) (hK5 : ∀ (h : hS) (o0 : Option Nat) (o1 : Option Nat), K5 h o0 o1 = some (r, h') → AtPc cJ6_balanceInsertion RJ6 1 24 N [] h 5 [(0, tr o0), (1, tr o1)] []) (h : hS) (o0 : Option Nat) (o1 : Option Nat) (o2 : Option Nat) (o3 : Option Nat) (e : fJ6_balanceInsertion_b89 K5 h o0 o1 o2 o3 = some (r, h')) : AtPc cJ6_balanceInsertion RJ6 1 24 N [] h 89 [(0, tr o0), (1, tr o1), (2, tr o2), (3, tr o3)] [] := by
  unfold fJ6_balanceInsertion_b89 at e
  refine r_rrs E.p (fun rr => ?_)
  refine r_aload_n dJ6_balanceInsertion_89 rfl 1 rfl ?_
  refine r_aload_n dJ6_balanceInsertion_90 rfl 2 rfl ?_
  obtain ⟨v1, q2, e⟩ := bd_o e
  refine r_getQ fG_J6_42 q2 dJ6_balanceInsertion_91 ?_
  have eT := (r_ifo e).1
  have eF := (r_ifo e).2
  refine r_acmp_ne 123 dJ6_balanceInsertion_94 (by decide) (fun c3 => ?_) (fun c3 => ?_)
  · have e := eT c3
    exact wJ6_balanceInsertion_b123 E K5 hK5 h o0 o1 o2 o3 e
  · have e := eF c3
    refine r_aload_n dJ6_balanceInsertion_97 rfl 0 rfl ?_
    refine r_aload_n dJ6_balanceInsertion_98 rfl 2 rfl ?_
    refine r_dup dJ6_balanceInsertion_99 rfl ?_
    refine r_astore_n (lv' := [(1, tr o2), (0, tr o0), (2, tr o2), (3, tr o3)]) dJ6_balanceInsertion_100 rfl (E.lt (by decide)) rfl ?_
    obtain ⟨p4, q5, e⟩ := bd_o e
    have k6 := kJ6_rotateLeft (G := nG N)  q5
    have z7 := (k6 rr).1.2.2.2
    refine r_callS (j := none) 2 [tr o0, tr o2] k6 (injO_0 E.p) subO_0 getO_0 setO_0 (lw_S q747 q748 q131 q749) (by decide +kernel) rfl (Nat.le_of_ble_eq_true rfl) (Nat.le_of_ble_eq_true rfl) rfl (Nat.le_of_ble_eq_true rfl) dJ6_balanceInsertion_101 rfl ?_
    refine r_rrs E.p (fun rr8 => ?_)
    refine r_astore_n (lv' := [(0, tr p4.1), (1, tr o2), (2, tr o2), (3, tr o3)]) dJ6_balanceInsertion_104 rfl (E.lt (by decide)) rfl ?_
    refine r_aload_n dJ6_balanceInsertion_105 rfl 1 rfl ?_
    obtain ⟨v9, q10, e⟩ := bd_o e
    refine r_getQ fG_J6_9 q10 dJ6_balanceInsertion_106 ?_
    refine r_dup dJ6_balanceInsertion_109 rfl ?_
    refine r_astore_n (lv' := [(2, tr v9), (0, tr p4.1), (1, tr o2), (3, tr o3)]) dJ6_balanceInsertion_110 rfl (E.lt (by decide)) rfl ?_
    have eT := (r_ifno e).1
    have eF := (r_ifno e).2
    refine r_ifnonnull 118 dJ6_balanceInsertion_111 (by decide) (fun c11 => ?_) (fun x12 c11 => ?_)
    · have e := eT c11
      refine r_null dJ6_balanceInsertion_114 ?_
      refine r_goto 122 dJ6_balanceInsertion_115 (by decide) ?_
      refine r_sub [1, 2, 0] rfl ?_
      exact wJ6_balanceInsertion_b122 E K5 hK5 p4.2 p4.1 o2 v9 none e
    · have e := eF x12 c11
      refine r_aload_n dJ6_balanceInsertion_118 rfl 0 rfl ?_
      obtain ⟨v13, q14, e⟩ := bd_o e
      refine r_getQ fG_J6_9 q14 dJ6_balanceInsertion_119 ?_
      refine r_sub [1, 2, 0] rfl ?_
      exact wJ6_balanceInsertion_b122 E K5 hK5 p4.2 p4.1 o2 v9 v13 e
def fJ6_balanceInsertion_b218 (K5 : hS → Option Nat → Option Nat → Option (Option Nat × hS)) (h : hS) (o0 : Option Nat) (o1 : Option Nat) (o2 : Option Nat) (o3 : Option Nat) : Option (Option Nat × hS) := ifN o2 (K5 h o0 o1) (fun _ => bd (hW h o2 [(13, 10)] (vi 0)) fun h3 => ifN o3 (K5 h3 o0 o1) (fun _ => bd (hW h3 o3 [(13, 10)] (vi 1)) fun h8 => bd (fJ6_rotateLeft h8 o0 o3) fun p11 => K5 p11.2 p11.1 o1))
theorem wJ6_balanceInsertion_b218 {N : Nx} {h' : hS} {r : Option Nat} (E : EndX N [] 6 (some (.object "java/util/HashMap$TreeNode")) (some (tr r)) [] h') (K5 : hS → Option Nat → Option Nat → Option (Option Nat × hS)) (hK5 : ∀ (h : hS) (o0 : Option Nat) (o1 : Option Nat), K5 h o0 o1 = some (r, h') → AtPc cJ6_balanceInsertion RJ6 1 24 N [] h 5 [(0, tr o0), (1, tr o1)] []) (h : hS) (o0 : Option Nat) (o1 : Option Nat) (o2 : Option Nat) (o3 : Option Nat) (e : fJ6_balanceInsertion_b218 K5 h o0 o1 o2 o3 = some (r, h')) : AtPc cJ6_balanceInsertion RJ6 1 24 N [] h 218 [(0, tr o0), (1, tr o1), (2, tr o2), (3, tr o3)] [] := by
  unfold fJ6_balanceInsertion_b218 at e
  refine r_rrs E.p (fun rr => ?_)
  refine r_aload_n dJ6_balanceInsertion_218 rfl 2 rfl ?_
  have eT := (r_ifno e).1
  have eF := (r_ifno e).2
  refine r_ifnull 5 dJ6_balanceInsertion_219 (by decide) (fun c1 => ?_) (fun x2 c1 => ?_)
  · have e := eT c1
    refine r_sub [0, 1] rfl ?_
    exact hK5 h o0 o1 e
  · have e := eF x2 c1
    refine r_aload_n dJ6_balanceInsertion_222 rfl 2 rfl ?_
    refine r_iconst dJ6_balanceInsertion_223 ?_
    obtain ⟨h3, q4, e⟩ := bd_o e
    refine r_put (v := vi 0) fP_J6_93 (by first | exact fun q => absurd q (by decide) | exact fun _ => rfl) (Or.inl rfl) q4 dJ6_balanceInsertion_224 ?_
    refine r_rrs E.p (fun rr5 => ?_)
    refine r_aload_n dJ6_balanceInsertion_227 rfl 3 rfl ?_
    have eT := (r_ifno e).1
    have eF := (r_ifno e).2
    refine r_ifnull 5 dJ6_balanceInsertion_228 (by decide) (fun c6 => ?_) (fun x7 c6 => ?_)
    · have e := eT c6
      refine r_sub [0, 1] rfl ?_
      exact hK5 h3 o0 o1 e
    · have e := eF x7 c6
      refine r_aload_n dJ6_balanceInsertion_231 rfl 3 rfl ?_
      refine r_iconst dJ6_balanceInsertion_232 ?_
      obtain ⟨h8, q9, e⟩ := bd_o e
      refine r_put (v := vi 1) fP_J6_93 (by first | exact fun q => absurd q (by decide) | exact fun _ => rfl) (Or.inr rfl) q9 dJ6_balanceInsertion_233 ?_
      refine r_rrs E.p (fun rr10 => ?_)
      refine r_aload_n dJ6_balanceInsertion_236 rfl 0 rfl ?_
      refine r_aload_n dJ6_balanceInsertion_237 rfl 3 rfl ?_
      obtain ⟨p11, q12, e⟩ := bd_o e
      have k13 := kJ6_rotateLeft (G := nG N)  q12
      have z14 := (k13 rr10).1.2.2.2
      refine r_callS (j := none) 2 [tr o0, tr o3] k13 (injO_0 E.p) subO_0 getO_0 setO_0 (lw_S q747 q748 q131 q749) (by decide +kernel) rfl (Nat.le_of_ble_eq_true rfl) (Nat.le_of_ble_eq_true rfl) rfl (Nat.le_of_ble_eq_true rfl) dJ6_balanceInsertion_238 rfl ?_
      refine r_rrs E.p (fun rr15 => ?_)
      refine r_astore_n (lv' := [(0, tr p11.1), (1, tr o1), (2, tr o2), (3, tr o3)]) dJ6_balanceInsertion_241 rfl (E.lt (by decide)) rfl ?_
      refine r_goto 5 dJ6_balanceInsertion_242 (by decide) ?_
      refine r_sub [0, 1] rfl ?_
      exact hK5 p11.2 p11.1 o1 e
