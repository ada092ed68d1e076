/-! the class with what it needs: functions and walks, printed by gen/run0.py -/
set_option maxRecDepth 100000
def fX0_plainOf_L24 (K4 : Sg → Int → Int → Int → Option (Int)) : Nat → Sg → Int → Int → Int → Int → Int → Option (Int)
  | 0, _, _, _, _, _, _ => none
  | n9 + 1, s, a1, a2, a3, a4, a5 => fX0_plainOf_b24 K4 (fX0_plainOf_L24 K4 n9) s a1 a2 a3 a4 a5
theorem wX0_plainOf_L24 {N : Nx} {b : Nat} {ad : Nat → Nat} {s : Sg} {h : hS} {r : Int} (E : EndX N [(0, b, ad)] 6 (some .int) (some (ti r)) [s] h) (K4 : Sg → Int → Int → Int → Option (Int)) (hK4 : ∀ (a1 : Int) (a2 : Int) (a3 : Int) (ha1 : rI a1) (ha2 : rI a2) (ha3 : rI a3), K4 s a1 a2 a3 = some (r) → AtPc cX0_plainOf RX0 1 21 N [s] h 4 [(0, tr (some b)), (1, ti a1), (2, ti a2), (3, ti a3)] []) : ∀ (n9 : Nat), ∀ (a1 : Int) (a2 : Int) (a3 : Int) (a4 : Int) (a5 : Int) (ha1 : rI a1) (ha2 : rI a2) (ha3 : rI a3) (ha4 : rI a4) (ha5 : rI a5), fX0_plainOf_L24 K4 n9 s a1 a2 a3 a4 a5 = some (r) → AtPc cX0_plainOf RX0 1 21 N [s] h 24 [(0, tr (some b)), (1, ti a1), (2, ti a2), (3, ti a3), (4, ti a4), (5, ti a5)] [] := by
  intro n9
  induction n9 with
  | zero => intro a1 a2 a3 a4 a5 ha1 ha2 ha3 ha4 ha5 e; cases e
  | succ n9 ih => intro a1 a2 a3 a4 a5 ha1 ha2 ha3 ha4 ha5 e; exact wX0_plainOf_b24 E K4 hK4 _ ih a1 a2 a3 a4 a5 ha1 ha2 ha3 ha4 ha5 e
def fX0_plainOf_b4 (K4 : Sg → Int → Int → Int → Option (Int)) (s : Sg) (a1 : Int) (a2 : Int) (a3 : Int) : Option (Int) := if (wr (2 * (gI s 3))) ≤ a3 then some a2 else bd (fX0_has a1 a3) fun p2 => fX0_plainOf_L24 K4 FU s a1 a2 a3 p2 0
theorem wX0_plainOf_b4 {N : Nx} {b : Nat} {ad : Nat → Nat} {s : Sg} {h : hS} {r : Int} (E : EndX N [(0, b, ad)] 6 (some .int) (some (ti r)) [s] h) (K4 : Sg → Int → Int → Int → Option (Int)) (hK4 : ∀ (a1 : Int) (a2 : Int) (a3 : Int) (ha1 : rI a1) (ha2 : rI a2) (ha3 : rI a3), K4 s a1 a2 a3 = some (r) → AtPc cX0_plainOf RX0 1 21 N [s] h 4 [(0, tr (some b)), (1, ti a1), (2, ti a2), (3, ti a3)] []) (a1 : Int) (a2 : Int) (a3 : Int) (ha1 : rI a1) (ha2 : rI a2) (ha3 : rI a3) (e : fX0_plainOf_b4 K4 s a1 a2 a3 = some (r)) : AtPc cX0_plainOf RX0 1 21 N [s] h 4 [(0, tr (some b)), (1, ti a1), (2, ti a2), (3, ti a3)] [] := by
  unfold fX0_plainOf_b4 at e
  refine r_rrs E.p (fun rr => ?_)
  refine r_iload_n dX0_plainOf_4 rfl 3 rfl ?_
  refine r_iconst dX0_plainOf_5 ?_
  refine r_aload_n dX0_plainOf_6 rfl 0 rfl ?_
  refine r_sI E.p 3 fG_X0_238 (by decide) dX0_plainOf_7 ?_
  refine r_imul dX0_plainOf_10 ?_
  have eT := (r_ifo e).1
  have eF := (r_ifo e).2
  refine r_icmp_ge ha3 (wr_r _) 101 dX0_plainOf_11 (by decide) (fun c1 => ?_) (fun c1 => ?_)
  · have e := eT c1
    refine r_iload_n dX0_plainOf_101 rfl 2 rfl ?_
    cases e
    exact r_iret E.σ E.st E.rt E.r ha2 dX0_plainOf_102
  · have e := eF c1
    refine r_iload_n dX0_plainOf_14 rfl 1 rfl ?_
    refine r_iload_n dX0_plainOf_15 rfl 3 rfl ?_
    obtain ⟨p2, q3, e⟩ := bd_o e
    have k4 := kX0_has (G := nG N) (h := h) ha1 ha3 q3
    have z5 := (k4 rr.none).1.2.2.2
    refine r_callS (j := none) 2 [ti a1, ti a3] k4 (injO_1 E.p) subO_0 getO_0 setO_0 (lw_S q441 q442 q115 q443) (by decide +kernel) rfl (Nat.le_of_ble_eq_true rfl) (Nat.le_of_ble_eq_true rfl) rfl (Nat.le_of_ble_eq_true rfl) dX0_plainOf_16 rfl ?_
    refine r_istore (lv' := [(4, ti p2), (0, tr (some b)), (1, ti a1), (2, ti a2), (3, ti a3)]) dX0_plainOf_19 (E.lt (by decide)) rfl ?_
    refine r_iconst dX0_plainOf_21 ?_
    refine r_istore (lv' := [(5, ti 0), (4, ti p2), (0, tr (some b)), (1, ti a1), (2, ti a2), (3, ti a3)]) dX0_plainOf_22 (E.lt (by decide)) rfl ?_
    refine r_sub [2, 3, 4, 5, 1, 0] rfl ?_
    exact wX0_plainOf_L24 E K4 hK4 FU a1 a2 a3 p2 0 ha1 ha2 ha3 (rI_z z5) (by decide) e
def fX0_plainOf_L4  : Nat → Sg → Int → Int → Int → Option (Int)
  | 0, _, _, _, _ => none
  | n9 + 1, s, a1, a2, a3 => fX0_plainOf_b4 (fX0_plainOf_L4 n9) s a1 a2 a3
theorem wX0_plainOf_L4 {N : Nx} {b : Nat} {ad : Nat → Nat} {s : Sg} {h : hS} {r : Int} (E : EndX N [(0, b, ad)] 6 (some .int) (some (ti r)) [s] h)  : ∀ (n9 : Nat), ∀ (a1 : Int) (a2 : Int) (a3 : Int) (ha1 : rI a1) (ha2 : rI a2) (ha3 : rI a3), fX0_plainOf_L4 n9 s a1 a2 a3 = some (r) → AtPc cX0_plainOf RX0 1 21 N [s] h 4 [(0, tr (some b)), (1, ti a1), (2, ti a2), (3, ti a3)] [] := by
  intro n9
  induction n9 with
  | zero => intro a1 a2 a3 ha1 ha2 ha3 e; cases e
  | succ n9 ih => intro a1 a2 a3 ha1 ha2 ha3 e; exact wX0_plainOf_b4 E _ ih a1 a2 a3 ha1 ha2 ha3 e
def fX0_plainOf  (s : Sg) (a1 : Int) : Option (Int) := fX0_plainOf_L4 FU s a1 0 0
theorem kX0_plainOf {G : Gx}  {b : Nat} {ad : Nat → Nat} {s : Sg} {h : hS} {r : Int} {a1 : Int}  (ha1 : rI a1) (e : fX0_plainOf s a1 = some (r)) : CtX G yX0_plainOf cX0_plainOf 6 (some .int) 1 21 [(0, b, ad)] [s] h [tr (some b), ti a1] (some (ti r)) [s] h := by
  refine CtX.of (by decide) (Nat.le_of_ble_eq_true rfl) [(0, tr (some b)), (1, ti a1)] rfl ?_
  have E : EndX (G, 6, [(0, b, ad)], h, [s], h, (some .int), (some (ti r)), yX0_plainOf.name) [(0, b, ad)] 6 (some .int) (some (ti r)) [s] h := ⟨rfl, rfl, rfl, rfl, rfl, rfl⟩
  unfold fX0_plainOf at e
  refine r_rrs E.p (fun rr => ?_)
  refine r_iconst dX0_plainOf_0 ?_
  refine r_istore_n (lv' := [(2, ti 0), (0, tr (some b)), (1, ti a1)]) dX0_plainOf_1 rfl (E.lt (by decide)) rfl ?_
  refine r_iconst dX0_plainOf_2 ?_
  refine r_istore_n (lv' := [(3, ti 0), (2, ti 0), (0, tr (some b)), (1, ti a1)]) dX0_plainOf_3 rfl (E.lt (by decide)) rfl ?_
  refine r_sub [2, 3, 1, 0] rfl ?_
  exact wX0_plainOf_L4 E FU a1 0 0 ha1 (by decide) (by decide) e
def fX0_tellFound  (gs : Option Nat × Option Nat) (s : Sg) (h : hS) (o1 : Option Nat) (a2 : Int) : Option (Int × hS) := if a2 = 1 then gd (hC h o1 = some 10) (bd (fX10_size 16 h o1) fun p2 => some (p2, h)) else if a2 = 2 then gd (hC h o1 = some 10) (bd (fX10_worth 16 h o1) fun p8 => some (p8, h)) else if a2 = 3 then bd (fX0_different gs h o1) fun p14 => some (p14.1, p14.2) else if a2 = 4 then gd (hC h o1 = some 10) (bd (fX10_depth 16 h o1) fun p20 => some (p20, h)) else if a2 = 5 then gd (hC h o1 = some 10) (bd (fX10_needs 16 h o1) fun p26 => bd (fJ3_bitCount p26) fun p31 => some (p31, h)) else gd (hC h o1 = some 10) (bd (fX10_needs 16 h o1) fun p35 => bd (fX0_plainOf s p35) fun p40 => bd (fJ3_bitCount p40) fun p44 => some (p44, h))
theorem kX0_tellFound {G : Gx}  {b : Nat} {ad : Nat → Nat} {s : Sg} {h' : hS} {r : Int} {h : hS} {o1 : Option Nat} {a2 : Int}  (ha2 : rI a2) (e : fX0_tellFound G.2.2.2 s h o1 a2 = some (r, h')) : CtX G yX0_tellFound cX0_tellFound 3 (some .int) 40 901 [(0, b, ad)] [s] h [tr (some b), tr o1, ti a2] (some (ti r)) [s] h' := by
  refine CtX.of (by decide) (Nat.le_of_ble_eq_true rfl) [(0, tr (some b)), (1, tr o1), (2, ti a2)] rfl ?_
  have E : EndX (G, 3, [(0, b, ad)], h, [s], h', (some .int), (some (ti r)), yX0_tellFound.name) [(0, b, ad)] 3 (some .int) (some (ti r)) [s] h' := ⟨rfl, rfl, rfl, rfl, rfl, rfl⟩
  unfold fX0_tellFound at e
  refine r_rrs E.p (fun rr => ?_)
  refine r_iload_n dX0_tellFound_0 rfl 2 rfl ?_
  have eT := (r_ifo e).1
  have eF := (r_ifo e).2
  by_cases c1 : a2 = 1
  · have e := eT c1
    refine r_tswI ha2 dX0_tellFound_1 1 c1 36 (by decide) (by decide) rfl (by decide) ?_
    refine r_aload_n dX0_tellFound_36 rfl 1 rfl ?_
    obtain ⟨g4, e⟩ := gd_o e
    obtain ⟨p2, q3, e⟩ := bd_o e
    have k5 := kX10_size (G := G) 16  q3
    have z6 := (k5 rr.none).1.2.2.2
    refine r_callVo (j := none) 0 [] (c := 10) (rc := (RX10, TX10, 4)) rfl g4 rfl k5 (injO_1 E.p) subO_0 getO_0 setO_0 (lw_V q981 q982 q983 q134 q984) (by decide +kernel) rfl (Nat.le_of_ble_eq_true rfl) (Nat.le_of_ble_eq_true rfl) rfl (Nat.le_of_ble_eq_true rfl) dX0_tellFound_37 rfl ?_
    cases e
    exact r_iret E.σ E.st E.rt E.r z6 dX0_tellFound_40
  · have e := eF c1
    have eT := (r_ifo e).1
    have eF := (r_ifo e).2
    by_cases c7 : a2 = 2
    · have e := eT c7
      refine r_tswI ha2 dX0_tellFound_1 2 c7 41 (by decide) (by decide) rfl (by decide) ?_
      refine r_aload_n dX0_tellFound_41 rfl 1 rfl ?_
      obtain ⟨g10, e⟩ := gd_o e
      obtain ⟨p8, q9, e⟩ := bd_o e
      have k11 := kX10_worth (G := G) 16  q9
      have z12 := (k11 rr.none).1.2.2.2
      refine r_callVo (j := none) 0 [] (c := 10) (rc := (RX10, TX10, 4)) rfl g10 rfl k11 (injO_1 E.p) subO_0 getO_0 setO_0 (lw_V q986 q987 q988 q134 q989) (by decide +kernel) rfl (Nat.le_of_ble_eq_true rfl) (Nat.le_of_ble_eq_true rfl) rfl (Nat.le_of_ble_eq_true rfl) dX0_tellFound_42 rfl ?_
      cases e
      exact r_iret E.σ E.st E.rt E.r z12 dX0_tellFound_45
    · have e := eF c7
      have eT := (r_ifo e).1
      have eF := (r_ifo e).2
      by_cases c13 : a2 = 3
      · have e := eT c13
        refine r_tswI ha2 dX0_tellFound_1 3 c13 46 (by decide) (by decide) rfl (by decide) ?_
        refine r_aload_n dX0_tellFound_46 rfl 1 rfl ?_
        obtain ⟨p14, q15, e⟩ := bd_o e
        have k16 := kX0_different (G := G)  q15
        have z17 := (k16 rr.none).1.2.2.2
        refine r_callS (j := none) 1 [tr o1] k16 (injO_1 E.p) subO_0 getO_0 setO_0 (lw_S q996 q997 q115 q998) (by decide +kernel) rfl (Nat.le_of_ble_eq_true rfl) (Nat.le_of_ble_eq_true rfl) rfl (Nat.le_of_ble_eq_true rfl) dX0_tellFound_47 rfl ?_
        refine r_rrs E.p (fun rr18 => ?_)
        cases e
        exact r_iret E.σ E.st E.rt E.r z17 dX0_tellFound_50
      · have e := eF c13
        have eT := (r_ifo e).1
        have eF := (r_ifo e).2
        by_cases c19 : a2 = 4
        · have e := eT c19
          refine r_tswI ha2 dX0_tellFound_1 4 c19 51 (by decide) (by decide) rfl (by decide) ?_
          refine r_aload_n dX0_tellFound_51 rfl 1 rfl ?_
          obtain ⟨g22, e⟩ := gd_o e
          obtain ⟨p20, q21, e⟩ := bd_o e
          have k23 := kX10_depth (G := G) 16  q21
          have z24 := (k23 rr.none).1.2.2.2
          refine r_callVo (j := none) 0 [] (c := 10) (rc := (RX10, TX10, 4)) rfl g22 rfl k23 (injO_1 E.p) subO_0 getO_0 setO_0 (lw_V q1037 q1038 q1039 q134 q1040) (by decide +kernel) rfl (Nat.le_of_ble_eq_true rfl) (Nat.le_of_ble_eq_true rfl) rfl (Nat.le_of_ble_eq_true rfl) dX0_tellFound_52 rfl ?_
          cases e
          exact r_iret E.σ E.st E.rt E.r z24 dX0_tellFound_55
        · have e := eF c19
          have eT := (r_ifo e).1
          have eF := (r_ifo e).2
          by_cases c25 : a2 = 5
          · have e := eT c25
            refine r_tswI ha2 dX0_tellFound_1 5 c25 56 (by decide) (by decide) rfl (by decide) ?_
            refine r_aload_n dX0_tellFound_56 rfl 1 rfl ?_
            obtain ⟨g28, e⟩ := gd_o e
            obtain ⟨p26, q27, e⟩ := bd_o e
            have k29 := kX10_needs (G := G) 16  q27
            have z30 := (k29 rr.none).1.2.2.2
            refine r_callVo (j := none) 0 [] (c := 10) (rc := (RX10, TX10, 4)) rfl g28 rfl k29 (injO_1 E.p) subO_0 getO_0 setO_0 (lw_V q1045 q1046 q1047 q134 q1048) (by decide +kernel) rfl (Nat.le_of_ble_eq_true rfl) (Nat.le_of_ble_eq_true rfl) rfl (Nat.le_of_ble_eq_true rfl) dX0_tellFound_57 rfl ?_
            obtain ⟨p31, q32, e⟩ := bd_o e
            have k33 := kJ3_bitCount (G := G) (h := h) z30 q32
            have z34 := (k33 rr.none).1.2.2.2
            refine r_callS (j := none) 1 [ti p26] k33 (injO_1 E.p) subO_0 getO_0 setO_0 (lw_S q1050 q1051 q127 q1052) (by decide +kernel) rfl (Nat.le_of_ble_eq_true rfl) (Nat.le_of_ble_eq_true rfl) rfl (Nat.le_of_ble_eq_true rfl) dX0_tellFound_60 rfl ?_
            cases e
            exact r_iret E.σ E.st E.rt E.r z34 dX0_tellFound_63
          · have e := eF c25
            refine r_tswO ha2 dX0_tellFound_1 64 (by omega) (by decide) ?_
            refine r_aload_n dX0_tellFound_64 rfl 0 rfl ?_
            refine r_aload_n dX0_tellFound_65 rfl 1 rfl ?_
            obtain ⟨g37, e⟩ := gd_o e
            obtain ⟨p35, q36, e⟩ := bd_o e
            have k38 := kX10_needs (G := G) 16  q36
            have z39 := (k38 rr.none).1.2.2.2
            refine r_callVo (j := none) 0 [] (c := 10) (rc := (RX10, TX10, 4)) rfl g37 rfl k38 (injO_1 E.p) subO_0 getO_0 setO_0 (lw_V q1045 q1046 q1047 q134 q1048) (by decide +kernel) rfl (Nat.le_of_ble_eq_true rfl) (Nat.le_of_ble_eq_true rfl) rfl (Nat.le_of_ble_eq_true rfl) dX0_tellFound_66 rfl ?_
            obtain ⟨p40, q41, e⟩ := bd_o e
            have k42 := kX0_plainOf (G := G) (b := b) (ad := ad) (h := h) z39 q41
            have z43 := (k42 rr).1.2.2.2
            refine r_callV (j := some 0) 1 [ti p35] (rec_sg (j := 0) (r := (RX0, TX0, 36)) rfl (by rw [E.p]; rfl)) rfl k42 (injO_1 E.p) (subO_1 E.p) getO_1 setO_1 (lw_V q1056 q1058 qs21 q115 q1059) (by decide +kernel) rfl (Nat.le_of_ble_eq_true rfl) (Nat.le_of_ble_eq_true rfl) rfl (Nat.le_of_ble_eq_true rfl) dX0_tellFound_69 rfl ?_
            obtain ⟨p44, q45, e⟩ := bd_o e
            have k46 := kJ3_bitCount (G := G) (h := h) z43 q45
            have z47 := (k46 rr.none).1.2.2.2
            refine r_callS (j := none) 1 [ti p40] k46 (injO_1 E.p) subO_0 getO_0 setO_0 (lw_S q1050 q1051 q127 q1052) (by decide +kernel) rfl (Nat.le_of_ble_eq_true rfl) (Nat.le_of_ble_eq_true rfl) rfl (Nat.le_of_ble_eq_true rfl) dX0_tellFound_72 rfl ?_
            cases e
            exact r_iret E.σ E.st E.rt E.r z47 dX0_tellFound_75
theorem fG_X0_341 : FldG RX0 341 [(10, 1)] := List.forall_mem_cons.mpr ⟨⟨RX10, TX10, 4, "DictProof$Proof", rfl, in_X10, by decide, q893, Or.inl rfl⟩, fun _ h => absurd h List.not_mem_nil⟩
def fX0_proved_b57 (R9 : Option Nat → Sg → hS → Option Nat → Option (Option Nat × hS)) (K27 : Option Nat → Sg → hS → Option Nat → Int → Int → Option (Option Nat × hS)) (pm : Option Nat) (s : Sg) (h : hS) (o1 : Option Nat) (a3 : Int) (k0 : Int) (k1 : Int) : Option (Option Nat × hS) := K27 pm s h o1 (ior k0 k1) (wr (a3 + 1))
theorem wX0_proved_b57 {N : Nx} {b : Nat} {ad : Nat → Nat} {s : Sg} {h' : hS} {r : Option Nat} (d9 : Nat) (R9 : Option Nat → Sg → hS → Option Nat → Option (Option Nat × hS)) (hR9 : ∀  {b : Nat} {ad : Nat → Nat} {s : Sg} {h' : hS} {r : Option Nat} {h : hS} {o1 : Option Nat} , R9 (some (ad 20)) s h o1 = some (r, h') → CtX (nG N) yX0_prove cX0_prove 3 (some (.object "DictProof$Proof")) (2 * d9 + 50) (100 * d9 + 1200) [(0, b, ad)] [s] h [tr (some b), tr o1] (some (tr r)) [s] h') (E : EndX N [(0, b, ad)] 9 (some (.object "DictProof$Proof")) (some (tr r)) [s] h') (K27 : Option Nat → Sg → hS → Option Nat → Int → Int → Option (Option Nat × hS)) (hK27 : ∀ (h : hS) (o1 : Option Nat) (a2 : Int) (a3 : Int) (ha2 : rI a2) (ha3 : rI a3), K27 (some (ad 20)) s h o1 a2 a3 = some (r, h') → AtPc cX0_proved RX0 (2 * d9 + 51) (100 * d9 + 1250) N [s] h 27 [(0, tr (some b)), (1, tr o1), (2, ti a2), (3, ti a3)] []) (h : hS) (o1 : Option Nat) (a3 : Int) (k0 : Int) (k1 : Int) (ha3 : rI a3) (hk0 : rI k0) (hk1 : rI k1) (e : fX0_proved_b57 R9 K27 (some (ad 20)) s h o1 a3 k0 k1 = some (r, h')) : AtPc cX0_proved RX0 (2 * d9 + 51) (100 * d9 + 1250) N [s] h 57 [(0, tr (some b)), (1, tr o1), (3, ti a3)] [ti k1, ti k0] := by
  unfold fX0_proved_b57 at e
  refine r_rrs E.p (fun rr => ?_)
  refine r_ior dX0_proved_57 ?_
  refine r_istore_n (lv' := [(2, ti (ior k0 k1)), (0, tr (some b)), (1, tr o1), (3, ti a3)]) dX0_proved_58 rfl (E.lt (by decide)) rfl ?_
  refine r_iinc (lv' := [(3, ti (wr (a3 + 1))), (2, ti (ior k0 k1)), (0, tr (some b)), (1, tr o1)]) dX0_proved_59 3 rfl (E.lt (by decide)) rfl ?_
  refine r_goto 27 dX0_proved_62 (by decide) ?_
  refine r_sub [2, 3, 1, 0] rfl ?_
  exact hK27 h o1 (ior k0 k1) (wr (a3 + 1)) (ior_r _ _) (wr_r _) e
def fX0_proved_b237 (R9 : Option Nat → Sg → hS → Option Nat → Option (Option Nat × hS)) (K173 : Option Nat → Sg → hS → Option Nat → Option Nat → Option Nat → Option Nat → Int → Int → Option (Option Nat × hS)) (pm : Option Nat) (s : Sg) (h : hS) (o1 : Option Nat) (o4 : Option Nat) (o5 : Option Nat) (o6 : Option Nat) (a8 : Int) (k0 : Int) : Option (Option Nat × hS) := K173 pm s h o1 o4 o5 o6 k0 (wr (a8 + 1))
theorem wX0_proved_b237 {N : Nx} {b : Nat} {ad : Nat → Nat} {s : Sg} {h' : hS} {r : Option Nat} (d9 : Nat) (R9 : Option Nat → Sg → hS → Option Nat → Option (Option Nat × hS)) (hR9 : ∀  {b : Nat} {ad : Nat → Nat} {s : Sg} {h' : hS} {r : Option Nat} {h : hS} {o1 : Option Nat} , R9 (some (ad 20)) s h o1 = some (r, h') → CtX (nG N) yX0_prove cX0_prove 3 (some (.object "DictProof$Proof")) (2 * d9 + 50) (100 * d9 + 1200) [(0, b, ad)] [s] h [tr (some b), tr o1] (some (tr r)) [s] h') (E : EndX N [(0, b, ad)] 9 (some (.object "DictProof$Proof")) (some (tr r)) [s] h') (K173 : Option Nat → Sg → hS → Option Nat → Option Nat → Option Nat → Option Nat → Int → Int → Option (Option Nat × hS)) (hK173 : ∀ (h : hS) (o1 : Option Nat) (o4 : Option Nat) (o5 : Option Nat) (o6 : Option Nat) (a7 : Int) (a8 : Int) (ha7 : rI a7) (ha8 : rI a8), K173 (some (ad 20)) s h o1 o4 o5 o6 a7 a8 = some (r, h') → AtPc cX0_proved RX0 (2 * d9 + 51) (100 * d9 + 1250) N [s] h 173 [(0, tr (some b)), (1, tr o1), (4, tr o4), (5, tr o5), (6, tr o6), (7, ti a7), (8, ti a8)] []) (h : hS) (o1 : Option Nat) (o4 : Option Nat) (o5 : Option Nat) (o6 : Option Nat) (a8 : Int) (k0 : Int) (ha8 : rI a8) (hk0 : rI k0) (e : fX0_proved_b237 R9 K173 (some (ad 20)) s h o1 o4 o5 o6 a8 k0 = some (r, h')) : AtPc cX0_proved RX0 (2 * d9 + 51) (100 * d9 + 1250) N [s] h 237 [(0, tr (some b)), (1, tr o1), (4, tr o4), (5, tr o5), (6, tr o6), (8, ti a8)] [ti k0] := by
  unfold fX0_proved_b237 at e
  refine r_rrs E.p (fun rr => ?_)
  refine r_istore (lv' := [(7, ti k0), (0, tr (some b)), (1, tr o1), (4, tr o4), (5, tr o5), (6, tr o6), (8, ti a8)]) dX0_proved_237 (E.lt (by decide)) rfl ?_
  refine r_iinc (lv' := [(8, ti (wr (a8 + 1))), (7, ti k0), (0, tr (some b)), (1, tr o1), (4, tr o4), (5, tr o5), (6, tr o6)]) dX0_proved_239 6 rfl (E.lt (by decide)) rfl ?_
  refine r_goto 173 dX0_proved_242 (by decide) ?_
  refine r_sub [2, 3, 4, 5, 6, 1, 0] rfl ?_
  exact hK173 h o1 o4 o5 o6 k0 (wr (a8 + 1)) hk0 (wr_r _) e
def fX0_proved_b173 (R9 : Option Nat → Sg → hS → Option Nat → Option (Option Nat × hS)) (K173 : Option Nat → Sg → hS → Option Nat → Option Nat → Option Nat → Option Nat → Int → Int → Option (Option Nat × hS)) (pm : Option Nat) (s : Sg) (h : hS) (o1 : Option Nat) (o4 : Option Nat) (o5 : Option Nat) (o6 : Option Nat) (a7 : Int) (a8 : Int) : Option (Option Nat × hS) := bd (hI h o4 [(1, 5), (2, 5), (3, 5), (4, 5), (5, 5)]) fun v1 => if v1 ≤ a8 then bd (nwS h 10 [vq none, vi 0, vq none, vq none]) fun p4 => bd (fX10_init p4.2 (some p4.1) o1 a7 o4 o6) fun p7 => some ((some p4.1), p7) else bd (nwS h 9 [vi 0, vq none]) fun p12 => bd (hQ p12.2 o4 [(1, 3), (2, 3), (3, 3), (4, 3), (5, 3)]) fun v15 => bd (aI p12.2 v15 0 a8) fun v17 => bd (hQ p12.2 o4 [(1, 4), (2, 4), (3, 4), (4, 4), (5, 4)]) fun v19 => bd (aI p12.2 v19 0 a8) fun v21 => bd (aQ p12.2 o5 4 v21) fun v23 => bd (fX9_init p12.2 (some p12.1) v17 v23) fun p25 => bd (R9 pm s p25 (some p12.1)) fun p30 => bd (aWQ p30.2 o6 5 [10] a8 p30.1) fun h35 => if ¬ a7 = 1 then fX0_proved_b237 R9 K173 pm s h35 o1 o4 o5 o6 a8 a7 else bd (aQ h35 o6 5 a8) fun v39 => bd (hI h35 v39 [(10, 1)]) fun v41 => fX0_proved_b237 R9 K173 pm s h35 o1 o4 o5 o6 a8 v41
theorem wX0_proved_b173 {N : Nx} {b : Nat} {ad : Nat → Nat} {s : Sg} {h' : hS} {r : Option Nat} (d9 : Nat) (R9 : Option Nat → Sg → hS → Option Nat → Option (Option Nat × hS)) (hR9 : ∀  {b : Nat} {ad : Nat → Nat} {s : Sg} {h' : hS} {r : Option Nat} {h : hS} {o1 : Option Nat} , R9 (some (ad 20)) s h o1 = some (r, h') → CtX (nG N) yX0_prove cX0_prove 3 (some (.object "DictProof$Proof")) (2 * d9 + 50) (100 * d9 + 1200) [(0, b, ad)] [s] h [tr (some b), tr o1] (some (tr r)) [s] h') (E : EndX N [(0, b, ad)] 9 (some (.object "DictProof$Proof")) (some (tr r)) [s] h') (K173 : Option Nat → Sg → hS → Option Nat → Option Nat → Option Nat → Option Nat → Int → Int → Option (Option Nat × hS)) (hK173 : ∀ (h : hS) (o1 : Option Nat) (o4 : Option Nat) (o5 : Option Nat) (o6 : Option Nat) (a7 : Int) (a8 : Int) (ha7 : rI a7) (ha8 : rI a8), K173 (some (ad 20)) s h o1 o4 o5 o6 a7 a8 = some (r, h') → AtPc cX0_proved RX0 (2 * d9 + 51) (100 * d9 + 1250) N [s] h 173 [(0, tr (some b)), (1, tr o1), (4, tr o4), (5, tr o5), (6, tr o6), (7, ti a7), (8, ti a8)] []) (h : hS) (o1 : Option Nat) (o4 : Option Nat) (o5 : Option Nat) (o6 : Option Nat) (a7 : Int) (a8 : Int) (ha7 : rI a7) (ha8 : rI a8) (e : fX0_proved_b173 R9 K173 (some (ad 20)) s h o1 o4 o5 o6 a7 a8 = some (r, h')) : AtPc cX0_proved RX0 (2 * d9 + 51) (100 * d9 + 1250) N [s] h 173 [(0, tr (some b)), (1, tr o1), (4, tr o4), (5, tr o5), (6, tr o6), (7, ti a7), (8, ti a8)] [] := by
  unfold fX0_proved_b173 at e
  refine r_rrs E.p (fun rr => ?_)
  refine r_iload dX0_proved_173 6 rfl ?_
  refine r_aload dX0_proved_175 2 rfl ?_
  obtain ⟨v1, q2, e⟩ := bd_o e
  refine r_getI fG_X0_254 q2 dX0_proved_177 ?_
  have eT := (r_ifo e).1
  have eF := (r_ifo e).2
  refine r_icmp_ge ha8 (hI_r rr q2) 245 dX0_proved_180 (by decide) (fun c3 => ?_) (fun c3 => ?_)
  · have e := eT c3
    obtain ⟨p4, q5, e⟩ := bd_o e
    refine r_newS [vq none, vi 0, vq none, vq none] q5 rfl in_X10 tyX10_ok q881 q886 q134 (by decide +kernel) rfl (by decide +kernel) dX0_proved_245 ?_
    refine r_rrs E.p (fun rr6 => ?_)
    refine r_dup dX0_proved_248 rfl ?_
    refine r_aload_n dX0_proved_249 rfl 1 rfl ?_
    refine r_iload dX0_proved_250 5 rfl ?_
    refine r_aload dX0_proved_252 2 rfl ?_
    refine r_aload dX0_proved_254 4 rfl ?_
    obtain ⟨p7, q8, e⟩ := bd_o e
    have k9 := kX10_init (G := nG N) ha7 q8
    have z10 := (k9 rr6.none).1.2.2.2
    refine r_callIo (j := none) 4 [tr o1, ti a7, tr o4, tr o6] (fun q => by cases q) rfl rfl k9 (injO_1 E.p) subO_0 getO_0 setO_0 q889 q134 q887 q888 (by decide +kernel) rfl (by omega) (by omega) rfl (Nat.le_of_ble_eq_true rfl) dX0_proved_256 rfl ?_
    refine r_rrs E.p (fun rr11 => ?_)
    cases e
    exact r_aret E.σ E.st E.rt (by first | exact Or.inl ⟨_, rfl⟩ | exact Or.inr ⟨_, rfl⟩) E.r dX0_proved_259
  · have e := eF c3
    refine r_aload dX0_proved_183 4 rfl ?_
    refine r_iload dX0_proved_185 6 rfl ?_
    refine r_aload_n dX0_proved_187 rfl 0 rfl ?_
    obtain ⟨p12, q13, e⟩ := bd_o e
    refine r_newS [vi 0, vq none] q13 rfl in_X9 tyX9_ok q862 q863 q133 (by decide +kernel) rfl (by decide +kernel) dX0_proved_188 ?_
    refine r_rrs E.p (fun rr14 => ?_)
    refine r_dup dX0_proved_191 rfl ?_
    refine r_aload dX0_proved_192 2 rfl ?_
    obtain ⟨v15, q16, e⟩ := bd_o e
    refine r_getQ fG_X0_257 q16 dX0_proved_194 ?_
    refine r_iload dX0_proved_197 6 rfl ?_
    obtain ⟨v17, q18, e⟩ := bd_o e
    refine r_aI ha8 q18 rfl dX0_proved_199 ?_
    refine r_aload dX0_proved_200 3 rfl ?_
    refine r_aload dX0_proved_202 2 rfl ?_
    obtain ⟨v19, q20, e⟩ := bd_o e
    refine r_getQ fG_X0_260 q20 dX0_proved_204 ?_
    refine r_iload dX0_proved_207 6 rfl ?_
    obtain ⟨v21, q22, e⟩ := bd_o e
    refine r_aI ha8 q22 rfl dX0_proved_209 ?_
    obtain ⟨v23, q24, e⟩ := bd_o e
    refine r_aQ (aI_r rr14 q22) q24 dX0_proved_210 ?_
    obtain ⟨p25, q26, e⟩ := bd_o e
    have k27 := kX9_init (G := nG N) (aI_r rr14 q18) q26
    have z28 := (k27 rr14.none).1.2.2.2
    refine r_callIo (j := none) 2 [ti v17, tr v23] (fun q => by cases q) rfl rfl k27 (injO_1 E.p) subO_0 getO_0 setO_0 q866 q133 q864 q865 (by decide +kernel) rfl (by omega) (by omega) rfl (Nat.le_of_ble_eq_true rfl) dX0_proved_211 rfl ?_
    refine r_rrs E.p (fun rr29 => ?_)
    obtain ⟨p30, q31, e⟩ := bd_o e
    have k32 := hR9 (b := b) (ad := ad)  q31
    have z33 := (k32 rr29).1.2.2.2
    refine r_callV (j := some 0) 1 [tr (some p12.1)] (rec_sg (j := 0) (r := (RX0, TX0, 36)) rfl (by rw [E.p]; rfl)) rfl k32 (injO_1 E.p) (subO_1 E.p) getO_1 setO_1 (lw_V q877 q879 qs13 q115 q880) (by decide +kernel) rfl (by omega) (by omega) rfl (Nat.le_of_ble_eq_true rfl) dX0_proved_214 rfl ?_
    refine r_rrs E.p (fun rr34 => ?_)
    obtain ⟨h35, q36, e⟩ := bd_o e
    refine r_aPQ (t := 5) ha8 q36 sto_5 (by decide) dX0_proved_217 ?_
    refine r_rrs E.p (fun rr37 => ?_)
    refine r_iload dX0_proved_218 5 rfl ?_
    refine r_iconst dX0_proved_220 ?_
    have eT := (r_ifo e).1
    have eF := (r_ifo e).2
    refine r_icmp_ne ha7 (by decide) 235 dX0_proved_221 (by decide) (fun c38 => ?_) (fun c38 => ?_)
    · have e := eT c38
      refine r_iload dX0_proved_235 5 rfl ?_
      refine r_sub [0, 1, 2, 3, 4, 6] rfl ?_
      exact wX0_proved_b237 d9 R9 hR9 E K173 hK173 h35 o1 o4 o5 o6 a8 a7 ha8 ha7 e
    · have e := eF c38
      refine r_aload dX0_proved_224 4 rfl ?_
      refine r_iload dX0_proved_226 6 rfl ?_
      obtain ⟨v39, q40, e⟩ := bd_o e
      refine r_aQ ha8 q40 dX0_proved_228 ?_
      obtain ⟨v41, q42, e⟩ := bd_o e
      refine r_getI fG_X0_341 q42 dX0_proved_229 ?_
      refine r_goto 237 dX0_proved_232 (by decide) ?_
      refine r_sub [0, 1, 2, 3, 4, 6] rfl ?_
      exact wX0_proved_b237 d9 R9 hR9 E K173 hK173 h35 o1 o4 o5 o6 a8 v41 ha8 (hI_r rr37 q42) e
def fX0_proved_L173 (R9 : Option Nat → Sg → hS → Option Nat → Option (Option Nat × hS)) : Nat → Option Nat → Sg → hS → Option Nat → Option Nat → Option Nat → Option Nat → Int → Int → Option (Option Nat × hS)
  | 0, _, _, _, _, _, _, _, _, _ => none
  | n9 + 1, pm, s, h, o1, o4, o5, o6, a7, a8 => fX0_proved_b173 R9 (fX0_proved_L173 R9 n9) pm s h o1 o4 o5 o6 a7 a8
theorem wX0_proved_L173 {N : Nx} {b : Nat} {ad : Nat → Nat} {s : Sg} {h' : hS} {r : Option Nat} (d9 : Nat) (R9 : Option Nat → Sg → hS → Option Nat → Option (Option Nat × hS)) (hR9 : ∀  {b : Nat} {ad : Nat → Nat} {s : Sg} {h' : hS} {r : Option Nat} {h : hS} {o1 : Option Nat} , R9 (some (ad 20)) s h o1 = some (r, h') → CtX (nG N) yX0_prove cX0_prove 3 (some (.object "DictProof$Proof")) (2 * d9 + 50) (100 * d9 + 1200) [(0, b, ad)] [s] h [tr (some b), tr o1] (some (tr r)) [s] h') (E : EndX N [(0, b, ad)] 9 (some (.object "DictProof$Proof")) (some (tr r)) [s] h')  : ∀ (n9 : Nat), ∀ (h : hS) (o1 : Option Nat) (o4 : Option Nat) (o5 : Option Nat) (o6 : Option Nat) (a7 : Int) (a8 : Int) (ha7 : rI a7) (ha8 : rI a8), fX0_proved_L173 R9 n9 (some (ad 20)) s h o1 o4 o5 o6 a7 a8 = some (r, h') → AtPc cX0_proved RX0 (2 * d9 + 51) (100 * d9 + 1250) N [s] h 173 [(0, tr (some b)), (1, tr o1), (4, tr o4), (5, tr o5), (6, tr o6), (7, ti a7), (8, ti a8)] [] := by
  intro n9
  induction n9 with
  | zero => intro h o1 o4 o5 o6 a7 a8 ha7 ha8 e; cases e
  | succ n9 ih => intro h o1 o4 o5 o6 a7 a8 ha7 ha8 e; exact wX0_proved_b173 d9 R9 hR9 E _ ih h o1 o4 o5 o6 a7 a8 ha7 ha8 e
def fX0_proved_b116 (R9 : Option Nat → Sg → hS → Option Nat → Option (Option Nat × hS)) (pm : Option Nat) (s : Sg) (h : hS) (o1 : Option Nat) (k0 : Option Nat) : Option (Option Nat × hS) := ifN k0 (bd (nwS h 10 [vq none, vi 0, vq none, vq none]) fun p3 => bd (fX10_init p3.2 (some p3.1) o1 (-2) none none) fun p6 => some ((some p3.1), p6)) (fun _ => bd (nwQS h 4 2) fun p11 => bd (hQ p11.2 k0 [(1, 2), (2, 2), (3, 2), (4, 2), (5, 2)]) fun v14 => bd (hQ p11.2 o1 [(9, 1)]) fun v16 => bd (fX0_isFitting 16 p11.2 v14 v16 (some p11.1)) fun p18 => bd (hI p18.2 k0 [(1, 5), (2, 5), (3, 5), (4, 5), (5, 5)]) fun v23 => bd (nwQS p18.2 5 v23) fun p25 => fX0_proved_L173 R9 FU pm s p25.2 o1 k0 (some p11.1) (some p25.1) 1 0)
theorem wX0_proved_b116 {N : Nx} {b : Nat} {ad : Nat → Nat} {s : Sg} {h' : hS} {r : Option Nat} (d9 : Nat) (R9 : Option Nat → Sg → hS → Option Nat → Option (Option Nat × hS)) (hR9 : ∀  {b : Nat} {ad : Nat → Nat} {s : Sg} {h' : hS} {r : Option Nat} {h : hS} {o1 : Option Nat} , R9 (some (ad 20)) s h o1 = some (r, h') → CtX (nG N) yX0_prove cX0_prove 3 (some (.object "DictProof$Proof")) (2 * d9 + 50) (100 * d9 + 1200) [(0, b, ad)] [s] h [tr (some b), tr o1] (some (tr r)) [s] h') (E : EndX N [(0, b, ad)] 9 (some (.object "DictProof$Proof")) (some (tr r)) [s] h')  (h : hS) (o1 : Option Nat) (k0 : Option Nat) (e : fX0_proved_b116 R9 (some (ad 20)) s h o1 k0 = some (r, h')) : AtPc cX0_proved RX0 (2 * d9 + 51) (100 * d9 + 1250) N [s] h 116 [(0, tr (some b)), (1, tr o1)] [tr k0] := by
  unfold fX0_proved_b116 at e
  refine r_rrs E.p (fun rr => ?_)
  refine r_astore (lv' := [(4, tr k0), (0, tr (some b)), (1, tr o1)]) dX0_proved_116 (E.lt (by decide)) rfl ?_
  refine r_aload dX0_proved_118 0 rfl ?_
  have eT := (r_ifno e).1
  have eF := (r_ifno e).2
  refine r_ifnonnull 136 dX0_proved_120 (by decide) (fun c1 => ?_) (fun x2 c1 => ?_)
  · have e := eT c1
    obtain ⟨p3, q4, e⟩ := bd_o e
    refine r_newS [vq none, vi 0, vq none, vq none] q4 rfl in_X10 tyX10_ok q881 q886 q134 (by decide +kernel) rfl (by decide +kernel) dX0_proved_123 ?_
    refine r_rrs E.p (fun rr5 => ?_)
    refine r_dup dX0_proved_126 rfl ?_
    refine r_aload_n dX0_proved_127 rfl 2 rfl ?_
    refine r_bipush dX0_proved_128 (by decide) ?_
    refine r_null dX0_proved_130 ?_
    refine r_null dX0_proved_131 ?_
    obtain ⟨p6, q7, e⟩ := bd_o e
    have k8 := kX10_init (G := nG N) (by decide) q7
    have z9 := (k8 rr5.none).1.2.2.2
    refine r_callIo (j := none) 4 [tr o1, ti (-2), tr none, tr none] (fun q => by cases q) rfl rfl k8 (injO_1 E.p) subO_0 getO_0 setO_0 q889 q134 q887 q888 (by decide +kernel) rfl (by omega) (by omega) rfl (Nat.le_of_ble_eq_true rfl) dX0_proved_132 rfl ?_
    refine r_rrs E.p (fun rr10 => ?_)
    cases e
    exact r_aret E.σ E.st E.rt (by first | exact Or.inl ⟨_, rfl⟩ | exact Or.inr ⟨_, rfl⟩) E.r dX0_proved_135
  · have e := eF x2 c1
    refine r_iconst dX0_proved_136 ?_
    obtain ⟨p11, q12, e⟩ := bd_o e
    refine r_newQS (t := 4) q12 (by decide) (by decide) rfl q247 (by decide) dX0_proved_137 ?_
    refine r_rrs E.p (fun rr13 => ?_)
    refine r_astore (lv' := [(5, tr (some p11.1)), (4, tr k0), (0, tr (some b)), (1, tr o1)]) dX0_proved_140 (E.lt (by decide)) rfl ?_
    refine r_aload dX0_proved_142 1 rfl ?_
    obtain ⟨v14, q15, e⟩ := bd_o e
    refine r_getQ fG_X0_251 q15 dX0_proved_144 ?_
    refine r_aload_n dX0_proved_147 rfl 3 rfl ?_
    obtain ⟨v16, q17, e⟩ := bd_o e
    refine r_getQ fG_X0_303 q17 dX0_proved_148 ?_
    refine r_aload dX0_proved_151 0 rfl ?_
    obtain ⟨p18, q19, e⟩ := bd_o e
    have k20 := kX0_isFitting (G := nG N) 16  q19
    have z21 := (k20 rr13.none).1.2.2.2
    refine r_callS (j := none) 3 [tr v14, tr v16, tr (some p11.1)] k20 (injO_1 E.p) subO_0 getO_0 setO_0 (lw_S q823 q824 q115 q825) (by decide +kernel) rfl (by omega) (by omega) rfl (Nat.le_of_ble_eq_true rfl) dX0_proved_153 rfl ?_
    refine r_rrs E.p (fun rr22 => ?_)
    refine r_pop dX0_proved_156 rfl ?_
    refine r_aload dX0_proved_157 1 rfl ?_
    obtain ⟨v23, q24, e⟩ := bd_o e
    refine r_getI fG_X0_254 q24 dX0_proved_159 ?_
    obtain ⟨p25, q26, e⟩ := bd_o e
    refine r_newQS (t := 5) q26 (by decide) (by decide) rfl q881 (by decide) dX0_proved_162 ?_
    refine r_rrs E.p (fun rr27 => ?_)
    refine r_astore (lv' := [(6, tr (some p25.1)), (5, tr (some p11.1)), (4, tr k0), (0, tr (some b)), (1, tr o1)]) dX0_proved_165 (E.lt (by decide)) rfl ?_
    refine r_iconst dX0_proved_167 ?_
    refine r_istore (lv' := [(7, ti 1), (6, tr (some p25.1)), (5, tr (some p11.1)), (4, tr k0), (0, tr (some b)), (1, tr o1)]) dX0_proved_168 (E.lt (by decide)) rfl ?_
    refine r_iconst dX0_proved_170 ?_
    refine r_istore (lv' := [(8, ti 0), (7, ti 1), (6, tr (some p25.1)), (5, tr (some p11.1)), (4, tr k0), (0, tr (some b)), (1, tr o1)]) dX0_proved_171 (E.lt (by decide)) rfl ?_
    refine r_sub [5, 6, 4, 3, 2, 1, 0] rfl ?_
    exact wX0_proved_L173 d9 R9 hR9 E FU p25.2 o1 k0 (some p11.1) (some p25.1) 1 0 (by decide) (by decide) e
def fX0_proved_b111 (R9 : Option Nat → Sg → hS → Option Nat → Option (Option Nat × hS)) (pm : Option Nat) (s : Sg) (h : hS) (o1 : Option Nat) (a2 : Int) : Option (Option Nat × hS) := bd (fX0_taken s h a2) fun p1 => fX0_proved_b116 R9 pm s h o1 p1
theorem wX0_proved_b111 {N : Nx} {b : Nat} {ad : Nat → Nat} {s : Sg} {h' : hS} {r : Option Nat} (d9 : Nat) (R9 : Option Nat → Sg → hS → Option Nat → Option (Option Nat × hS)) (hR9 : ∀  {b : Nat} {ad : Nat → Nat} {s : Sg} {h' : hS} {r : Option Nat} {h : hS} {o1 : Option Nat} , R9 (some (ad 20)) s h o1 = some (r, h') → CtX (nG N) yX0_prove cX0_prove 3 (some (.object "DictProof$Proof")) (2 * d9 + 50) (100 * d9 + 1200) [(0, b, ad)] [s] h [tr (some b), tr o1] (some (tr r)) [s] h') (E : EndX N [(0, b, ad)] 9 (some (.object "DictProof$Proof")) (some (tr r)) [s] h')  (h : hS) (o1 : Option Nat) (a2 : Int) (ha2 : rI a2) (e : fX0_proved_b111 R9 (some (ad 20)) s h o1 a2 = some (r, h')) : AtPc cX0_proved RX0 (2 * d9 + 51) (100 * d9 + 1250) N [s] h 111 [(0, tr (some b)), (1, tr o1), (2, ti a2)] [] := by
  unfold fX0_proved_b111 at e
  refine r_rrs E.p (fun rr => ?_)
  refine r_aload_n dX0_proved_111 rfl 0 rfl ?_
  refine r_iload_n dX0_proved_112 rfl 2 rfl ?_
  obtain ⟨p1, q2, e⟩ := bd_o e
  have k3 := kX0_taken (G := nG N) (b := b) (ad := ad) ha2 q2
  have z4 := (k3 rr).1.2.2.2
  refine r_callV (j := some 0) 1 [ti a2] (rec_sg (j := 0) (r := (RX0, TX0, 36)) rfl (by rw [E.p]; rfl)) rfl k3 (injO_1 E.p) (subO_1 E.p) getO_1 setO_1 (lw_V q949 q951 qs17 q115 q952) (by decide +kernel) rfl (by omega) (by omega) rfl (Nat.le_of_ble_eq_true rfl) dX0_proved_113 rfl ?_
  refine r_sub [0, 1] rfl ?_
  exact wX0_proved_b116 d9 R9 hR9 E h o1 p1 e
def fX0_proved_b94 (R9 : Option Nat → Sg → hS → Option Nat → Option (Option Nat × hS)) (pm : Option Nat) (s : Sg) (h : hS) (o1 : Option Nat) (a2 : Int) (k0 : Int) : Option (Option Nat × hS) := if ¬ k0 = 0 then fX0_proved_b111 R9 pm s h o1 a2 else bd (fX0_isAnyAlone s h a2) fun p2 => if p2 = 0 then fX0_proved_b111 R9 pm s h o1 a2 else fX0_proved_b116 R9 pm s h o1 none
theorem wX0_proved_b94 {N : Nx} {b : Nat} {ad : Nat → Nat} {s : Sg} {h' : hS} {r : Option Nat} (d9 : Nat) (R9 : Option Nat → Sg → hS → Option Nat → Option (Option Nat × hS)) (hR9 : ∀  {b : Nat} {ad : Nat → Nat} {s : Sg} {h' : hS} {r : Option Nat} {h : hS} {o1 : Option Nat} , R9 (some (ad 20)) s h o1 = some (r, h') → CtX (nG N) yX0_prove cX0_prove 3 (some (.object "DictProof$Proof")) (2 * d9 + 50) (100 * d9 + 1200) [(0, b, ad)] [s] h [tr (some b), tr o1] (some (tr r)) [s] h') (E : EndX N [(0, b, ad)] 9 (some (.object "DictProof$Proof")) (some (tr r)) [s] h')  (h : hS) (o1 : Option Nat) (a2 : Int) (k0 : Int) (ha2 : rI a2) (hk0 : rI k0) (e : fX0_proved_b94 R9 (some (ad 20)) s h o1 a2 k0 = some (r, h')) : AtPc cX0_proved RX0 (2 * d9 + 51) (100 * d9 + 1250) N [s] h 94 [(0, tr (some b)), (1, tr o1), (2, ti a2)] [ti k0] := by
  unfold fX0_proved_b94 at e
  refine r_rrs E.p (fun rr => ?_)
  refine r_istore_n (lv' := [(3, ti k0), (0, tr (some b)), (1, tr o1), (2, ti a2)]) dX0_proved_94 rfl (E.lt (by decide)) rfl ?_
  refine r_iload_n dX0_proved_95 rfl 0 rfl ?_
  have eT := (r_ifo e).1
  have eF := (r_ifo e).2
  refine r_if_ne hk0 111 dX0_proved_96 (by decide) (fun c1 => ?_) (fun c1 => ?_)
  · have e := eT c1
    refine r_sub [1, 2, 3] rfl ?_
    exact wX0_proved_b111 d9 R9 hR9 E h o1 a2 ha2 e
  · have e := eF c1
    refine r_aload_n dX0_proved_99 rfl 1 rfl ?_
    refine r_iload_n dX0_proved_100 rfl 3 rfl ?_
    obtain ⟨p2, q3, e⟩ := bd_o e
    have k4 := kX0_isAnyAlone (G := nG N) (b := b) (ad := ad) ha2 q3
    have z5 := (k4 rr).1.2.2.2
    refine r_callV (j := some 0) 1 [ti a2] (rec_sg (j := 0) (r := (RX0, TX0, 36)) rfl (by rw [E.p]; rfl)) rfl k4 (injO_1 E.p) (subO_1 E.p) getO_1 setO_1 (lw_V q931 q933 qs16 q115 q934) (by decide +kernel) rfl (by omega) (by omega) rfl (Nat.le_of_ble_eq_true rfl) dX0_proved_101 rfl ?_
    have eT := (r_ifo e).1
    have eF := (r_ifo e).2
    refine r_if_eq (rI_z z5) 111 dX0_proved_104 (by decide) (fun c6 => ?_) (fun c6 => ?_)
    · have e := eT c6
      refine r_sub [1, 2, 3] rfl ?_
      exact wX0_proved_b111 d9 R9 hR9 E h o1 a2 ha2 e
    · have e := eF c6
      refine r_null dX0_proved_107 ?_
      refine r_goto 116 dX0_proved_108 (by decide) ?_
      refine r_sub [1, 2] rfl ?_
      exact wX0_proved_b116 d9 R9 hR9 E h o1 none e
def fX0_proved_b27 (R9 : Option Nat → Sg → hS → Option Nat → Option (Option Nat × hS)) (K27 : Option Nat → Sg → hS → Option Nat → Int → Int → Option (Option Nat × hS)) (pm : Option Nat) (s : Sg) (h : hS) (o1 : Option Nat) (a2 : Int) (a3 : Int) : Option (Option Nat × hS) := if (gI s 5) ≤ a3 then if ¬ a2 = 0 then if ¬ (iand a2 (wr (a2 - 1))) = 0 then fX0_proved_b94 R9 pm s h o1 a2 0 else fX0_proved_b94 R9 pm s h o1 a2 1 else bd (nwS h 10 [vq none, vi 0, vq none, vq none]) fun p4 => bd (fX10_init p4.2 (some p4.1) o1 0 none none) fun p7 => some ((some p4.1), p7) else gd (inb a3 6) (bd (fX0_isMeant h (gQ s 4 a3) o1) fun p13 => if p13.1 = 0 then fX0_proved_b57 R9 K27 pm s p13.2 o1 a3 a2 0 else fX0_proved_b57 R9 K27 pm s p13.2 o1 a3 a2 (ishl 1 a3))
theorem wX0_proved_b27 {N : Nx} {b : Nat} {ad : Nat → Nat} {s : Sg} {h' : hS} {r : Option Nat} (d9 : Nat) (R9 : Option Nat → Sg → hS → Option Nat → Option (Option Nat × hS)) (hR9 : ∀  {b : Nat} {ad : Nat → Nat} {s : Sg} {h' : hS} {r : Option Nat} {h : hS} {o1 : Option Nat} , R9 (some (ad 20)) s h o1 = some (r, h') → CtX (nG N) yX0_prove cX0_prove 3 (some (.object "DictProof$Proof")) (2 * d9 + 50) (100 * d9 + 1200) [(0, b, ad)] [s] h [tr (some b), tr o1] (some (tr r)) [s] h') (E : EndX N [(0, b, ad)] 9 (some (.object "DictProof$Proof")) (some (tr r)) [s] h') (K27 : Option Nat → Sg → hS → Option Nat → Int → Int → Option (Option Nat × hS)) (hK27 : ∀ (h : hS) (o1 : Option Nat) (a2 : Int) (a3 : Int) (ha2 : rI a2) (ha3 : rI a3), K27 (some (ad 20)) s h o1 a2 a3 = some (r, h') → AtPc cX0_proved RX0 (2 * d9 + 51) (100 * d9 + 1250) N [s] h 27 [(0, tr (some b)), (1, tr o1), (2, ti a2), (3, ti a3)] []) (h : hS) (o1 : Option Nat) (a2 : Int) (a3 : Int) (ha2 : rI a2) (ha3 : rI a3) (e : fX0_proved_b27 R9 K27 (some (ad 20)) s h o1 a2 a3 = some (r, h')) : AtPc cX0_proved RX0 (2 * d9 + 51) (100 * d9 + 1250) N [s] h 27 [(0, tr (some b)), (1, tr o1), (2, ti a2), (3, ti a3)] [] := by
  unfold fX0_proved_b27 at e
  refine r_rrs E.p (fun rr => ?_)
  refine r_iload_n dX0_proved_27 rfl 3 rfl ?_
  refine r_aload_n dX0_proved_28 rfl 0 rfl ?_
  refine r_sI E.p 5 fG_X0_268 (by decide) dX0_proved_29 ?_
  have eT := (r_ifo e).1
  have eF := (r_ifo e).2
  refine r_icmp_ge ha3 ((rr.mine rfl).i 5 (by decide) (by decide)) 65 dX0_proved_32 (by decide) (fun c1 => ?_) (fun c1 => ?_)
  · have e := eT c1
    refine r_iload_n dX0_proved_65 rfl 2 rfl ?_
    have eT := (r_ifo e).1
    have eF := (r_ifo e).2
    refine r_if_ne ha2 81 dX0_proved_66 (by decide) (fun c2 => ?_) (fun c2 => ?_)
    · have e := eT c2
      refine r_iload_n dX0_proved_81 rfl 2 rfl ?_
      refine r_iload_n dX0_proved_82 rfl 2 rfl ?_
      refine r_iconst dX0_proved_83 ?_
      refine r_isub dX0_proved_84 ?_
      refine r_iand dX0_proved_85 ?_
      have eT := (r_ifo e).1
      have eF := (r_ifo e).2
      refine r_if_ne (iand_r _ _) 93 dX0_proved_86 (by decide) (fun c3 => ?_) (fun c3 => ?_)
      · have e := eT c3
        refine r_iconst dX0_proved_93 ?_
        refine r_sub [0, 1, 2] rfl ?_
        exact wX0_proved_b94 d9 R9 hR9 E h o1 a2 0 ha2 (by decide) e
      · have e := eF c3
        refine r_iconst dX0_proved_89 ?_
        refine r_goto 94 dX0_proved_90 (by decide) ?_
        refine r_sub [0, 1, 2] rfl ?_
        exact wX0_proved_b94 d9 R9 hR9 E h o1 a2 1 ha2 (by decide) e
    · have e := eF c2
      obtain ⟨p4, q5, e⟩ := bd_o e
      refine r_newS [vq none, vi 0, vq none, vq none] q5 rfl in_X10 tyX10_ok q881 q886 q134 (by decide +kernel) rfl (by decide +kernel) dX0_proved_69 ?_
      refine r_rrs E.p (fun rr6 => ?_)
      refine r_dup dX0_proved_72 rfl ?_
      refine r_aload_n dX0_proved_73 rfl 1 rfl ?_
      refine r_iconst dX0_proved_74 ?_
      refine r_null dX0_proved_75 ?_
      refine r_null dX0_proved_76 ?_
      obtain ⟨p7, q8, e⟩ := bd_o e
      have k9 := kX10_init (G := nG N) (by decide) q8
      have z10 := (k9 rr6.none).1.2.2.2
      refine r_callIo (j := none) 4 [tr o1, ti 0, tr none, tr none] (fun q => by cases q) rfl rfl k9 (injO_1 E.p) subO_0 getO_0 setO_0 q889 q134 q887 q888 (by decide +kernel) rfl (by omega) (by omega) rfl (Nat.le_of_ble_eq_true rfl) dX0_proved_77 rfl ?_
      refine r_rrs E.p (fun rr11 => ?_)
      cases e
      exact r_aret E.σ E.st E.rt (by first | exact Or.inl ⟨_, rfl⟩ | exact Or.inr ⟨_, rfl⟩) E.r dX0_proved_80
  · have e := eF c1
    refine r_iload_n dX0_proved_35 rfl 2 rfl ?_
    refine r_aload_n dX0_proved_36 rfl 0 rfl ?_
    refine r_aload_n dX0_proved_37 rfl 0 rfl ?_
    refine r_sR E.p 4 fG_X0_114 (by decide) dX0_proved_38 ?_
    refine r_iload_n dX0_proved_41 rfl 3 rfl ?_
    obtain ⟨g12, e⟩ := gd_o e
    refine r_saQ E.p 4 rfl (by decide) (by decide) (by decide) ha3 g12 dX0_proved_42 ?_
    refine r_aload_n dX0_proved_43 rfl 1 rfl ?_
    obtain ⟨p13, q14, e⟩ := bd_o e
    have k15 := kX0_isMeant (G := nG N) (b := b) (ad := ad) (s := s)  q14
    have z16 := (k15 rr).1.2.2.2
    refine r_callV (j := some 0) 2 [tr (gQ s 4 a3), tr o1] (rec_sg (j := 0) (r := (RX0, TX0, 36)) rfl (by rw [E.p]; rfl)) rfl k15 (injO_1 E.p) (subO_1 E.p) getO_1 setO_1 (lw_V q905 q907 qs15 q115 q908) (by decide +kernel) rfl (by omega) (by omega) rfl (Nat.le_of_ble_eq_true rfl) dX0_proved_44 rfl ?_
    refine r_rrs E.p (fun rr17 => ?_)
    have eT := (r_ifo e).1
    have eF := (r_ifo e).2
    refine r_if_eq (rI_z z16) 56 dX0_proved_47 (by decide) (fun c18 => ?_) (fun c18 => ?_)
    · have e := eT c18
      refine r_iconst dX0_proved_56 ?_
      refine r_sub [0, 1, 3] rfl ?_
      exact wX0_proved_b57 d9 R9 hR9 E K27 hK27 p13.2 o1 a3 a2 0 ha3 ha2 (by decide) e
    · have e := eF c18
      refine r_iconst dX0_proved_50 ?_
      refine r_iload_n dX0_proved_51 rfl 3 rfl ?_
      refine r_ishl dX0_proved_52 ?_
      refine r_goto 57 dX0_proved_53 (by decide) ?_
      refine r_sub [0, 1, 3] rfl ?_
      exact wX0_proved_b57 d9 R9 hR9 E K27 hK27 p13.2 o1 a3 a2 (ishl 1 a3) ha3 ha2 (ishl_r _ _) e
def fX0_proved_L27 (R9 : Option Nat → Sg → hS → Option Nat → Option (Option Nat × hS)) : Nat → Option Nat → Sg → hS → Option Nat → Int → Int → Option (Option Nat × hS)
  | 0, _, _, _, _, _, _ => none
  | n9 + 1, pm, s, h, o1, a2, a3 => fX0_proved_b27 R9 (fX0_proved_L27 R9 n9) pm s h o1 a2 a3
theorem wX0_proved_L27 {N : Nx} {b : Nat} {ad : Nat → Nat} {s : Sg} {h' : hS} {r : Option Nat} (d9 : Nat) (R9 : Option Nat → Sg → hS → Option Nat → Option (Option Nat × hS)) (hR9 : ∀  {b : Nat} {ad : Nat → Nat} {s : Sg} {h' : hS} {r : Option Nat} {h : hS} {o1 : Option Nat} , R9 (some (ad 20)) s h o1 = some (r, h') → CtX (nG N) yX0_prove cX0_prove 3 (some (.object "DictProof$Proof")) (2 * d9 + 50) (100 * d9 + 1200) [(0, b, ad)] [s] h [tr (some b), tr o1] (some (tr r)) [s] h') (E : EndX N [(0, b, ad)] 9 (some (.object "DictProof$Proof")) (some (tr r)) [s] h')  : ∀ (n9 : Nat), ∀ (h : hS) (o1 : Option Nat) (a2 : Int) (a3 : Int) (ha2 : rI a2) (ha3 : rI a3), fX0_proved_L27 R9 n9 (some (ad 20)) s h o1 a2 a3 = some (r, h') → AtPc cX0_proved RX0 (2 * d9 + 51) (100 * d9 + 1250) N [s] h 27 [(0, tr (some b)), (1, tr o1), (2, ti a2), (3, ti a3)] [] := by
  intro n9
  induction n9 with
  | zero => intro h o1 a2 a3 ha2 ha3 e; cases e
  | succ n9 ih => intro h o1 a2 a3 ha2 ha3 e; exact wX0_proved_b27 d9 R9 hR9 E _ ih h o1 a2 a3 ha2 ha3 e
def fX0_proved (R9 : Option Nat → Sg → hS → Option Nat → Option (Option Nat × hS)) (pm : Option Nat) (s : Sg) (h : hS) (o1 : Option Nat) : Option (Option Nat × hS) := bd (hQ h o1 [(9, 1)]) fun v1 => gd (hC h v1 = some 7) (bd (fX7_variable h v1) fun p3 => if p3 = (-1) then fX0_proved_L27 R9 FU pm s h o1 0 0 else bd (nwS h 10 [vq none, vi 0, vq none, vq none]) fun p9 => bd (fX10_init p9.2 (some p9.1) o1 1 none none) fun p12 => some ((some p9.1), p12))
theorem kX0_proved {G : Gx}  {b : Nat} {ad : Nat → Nat} {s : Sg} {h' : hS} {r : Option Nat} {h : hS} {o1 : Option Nat} (d9 : Nat) (R9 : Option Nat → Sg → hS → Option Nat → Option (Option Nat × hS)) (hR9 : ∀  {b : Nat} {ad : Nat → Nat} {s : Sg} {h' : hS} {r : Option Nat} {h : hS} {o1 : Option Nat} , R9 (some (ad 20)) s h o1 = some (r, h') → CtX G yX0_prove cX0_prove 3 (some (.object "DictProof$Proof")) (2 * d9 + 50) (100 * d9 + 1200) [(0, b, ad)] [s] h [tr (some b), tr o1] (some (tr r)) [s] h')  (e : fX0_proved R9 (some (ad 20)) s h o1 = some (r, h')) : CtX G yX0_proved cX0_proved 9 (some (.object "DictProof$Proof")) (2 * d9 + 51) (100 * d9 + 1250) [(0, b, ad)] [s] h [tr (some b), tr o1] (some (tr r)) [s] h' := by
  refine CtX.of (by decide) (Nat.le_of_ble_eq_true rfl) [(0, tr (some b)), (1, tr o1)] rfl ?_
  have E : EndX (G, 9, [(0, b, ad)], h, [s], h', (some (.object "DictProof$Proof")), (some (tr r)), yX0_proved.name) [(0, b, ad)] 9 (some (.object "DictProof$Proof")) (some (tr r)) [s] h' := ⟨rfl, rfl, rfl, rfl, rfl, rfl⟩
  unfold fX0_proved at e
  refine r_rrs E.p (fun rr => ?_)
  refine r_aload_n dX0_proved_0 rfl 1 rfl ?_
  obtain ⟨v1, q2, e⟩ := bd_o e
  refine r_getQ fG_X0_303 q2 dX0_proved_1 ?_
  obtain ⟨g5, e⟩ := gd_o e
  obtain ⟨p3, q4, e⟩ := bd_o e
  have k6 := kX7_variable (G := G)  q4
  have z7 := (k6 rr.none).1.2.2.2
  refine r_callVo (j := none) 0 [] (c := 7) (rc := (RX7, TX7, 3)) rfl g5 rfl k6 (injO_1 E.p) subO_0 getO_0 setO_0 (lw_V q514 q515 q516 q124 q517) (by decide +kernel) rfl (by omega) (by omega) rfl (Nat.le_of_ble_eq_true rfl) dX0_proved_4 rfl ?_
  refine r_iconst dX0_proved_7 ?_
  have eT := (r_ifo e).1
  have eF := (r_ifo e).2
  refine r_icmp_eq z7 (by decide) 23 dX0_proved_8 (by decide) (fun c8 => ?_) (fun c8 => ?_)
  · have e := eT c8
    refine r_iconst dX0_proved_23 ?_
    refine r_istore_n (lv' := [(2, ti 0), (0, tr (some b)), (1, tr o1)]) dX0_proved_24 rfl (E.lt (by decide)) rfl ?_
    refine r_iconst dX0_proved_25 ?_
    refine r_istore_n (lv' := [(3, ti 0), (2, ti 0), (0, tr (some b)), (1, tr o1)]) dX0_proved_26 rfl (E.lt (by decide)) rfl ?_
    refine r_sub [2, 3, 1, 0] rfl ?_
    exact wX0_proved_L27 d9 R9 hR9 E FU h o1 0 0 (by decide) (by decide) e
  · have e := eF c8
    obtain ⟨p9, q10, e⟩ := bd_o e
    refine r_newS [vq none, vi 0, vq none, vq none] q10 rfl in_X10 tyX10_ok q881 q886 q134 (by decide +kernel) rfl (by decide +kernel) dX0_proved_11 ?_
    refine r_rrs E.p (fun rr11 => ?_)
    refine r_dup dX0_proved_14 rfl ?_
    refine r_aload_n dX0_proved_15 rfl 1 rfl ?_
    refine r_iconst dX0_proved_16 ?_
    refine r_null dX0_proved_17 ?_
    refine r_null dX0_proved_18 ?_
    obtain ⟨p12, q13, e⟩ := bd_o e
    have k14 := kX10_init (G := G) (by decide) q13
    have z15 := (k14 rr11.none).1.2.2.2
    refine r_callIo (j := none) 4 [tr o1, ti 1, tr none, tr none] (fun q => by cases q) rfl rfl k14 (injO_1 E.p) subO_0 getO_0 setO_0 q889 q134 q887 q888 (by decide +kernel) rfl (by omega) (by omega) rfl (Nat.le_of_ble_eq_true rfl) dX0_proved_19 rfl ?_
    refine r_rrs E.p (fun rr16 => ?_)
    cases e
    exact r_aret E.σ E.st E.rt (by first | exact Or.inl ⟨_, rfl⟩ | exact Or.inr ⟨_, rfl⟩) E.r dX0_proved_22
theorem cst_5 : cstOK "DictProof$Proof" [10] := List.forall_mem_cons.mpr ⟨⟨(RX10, TX10, 4), rfl, Or.inl rfl⟩, fun _ h => absurd h List.not_mem_nil⟩
def fX0_prove_b32 (R9 : Option Nat → Sg → hS → Option Nat → Option (Option Nat × hS)) (pm : Option Nat) (s : Sg) (h : hS) (o2 : Option Nat) : Option (Option Nat × hS) := some (o2, h)
theorem wX0_prove_b32 {N : Nx} {b : Nat} {ad : Nat → Nat} {s : Sg} {h' : hS} {r : Option Nat} (d9 : Nat) (R9 : Option Nat → Sg → hS → Option Nat → Option (Option Nat × hS)) (hR9 : ∀  {b : Nat} {ad : Nat → Nat} {s : Sg} {h' : hS} {r : Option Nat} {h : hS} {o1 : Option Nat} , R9 (some (ad 20)) s h o1 = some (r, h') → CtX (nG N) yX0_prove cX0_prove 3 (some (.object "DictProof$Proof")) (2 * d9 + 50) (100 * d9 + 1200) [(0, b, ad)] [s] h [tr (some b), tr o1] (some (tr r)) [s] h') (E : EndX N [(0, b, ad)] 3 (some (.object "DictProof$Proof")) (some (tr r)) [s] h')  (h : hS) (o2 : Option Nat) (e : fX0_prove_b32 R9 (some (ad 20)) s h o2 = some (r, h')) : AtPc cX0_prove RX0 (2 * (d9 + 1) + 50) (100 * (d9 + 1) + 1200) N [s] h 32 [(2, tr o2)] [] := by
  unfold fX0_prove_b32 at e
  refine r_rrs E.p (fun rr => ?_)
  refine r_aload_n dX0_prove_32 rfl 0 rfl ?_
  cases e
  exact r_aret E.σ E.st E.rt (by first | exact Or.inl ⟨_, rfl⟩ | exact Or.inr ⟨_, rfl⟩) E.r dX0_prove_33
def fX0_prove_B (R9 : Option Nat → Sg → hS → Option Nat → Option (Option Nat × hS)) (pm : Option Nat) (s : Sg) (h : hS) (o1 : Option Nat) : Option (Option Nat × hS) := gd (hC h pm = some 11) (bd (fJ1_get h pm o1) fun p1 => gd (p1 = none ∨ inC h p1 [10] = true) (ifN p1 (bd (fX0_proved R9 pm s h o1) fun p9 => gd (hC p9.2 pm = some 11) (bd (fJ1_put p9.2 pm o1 p9.1) fun p14 => fX0_prove_b32 R9 pm s p14.2 p9.1)) (fun _ => fX0_prove_b32 R9 pm s h p1)))
theorem kX0_prove_B {G : Gx}  {b : Nat} {ad : Nat → Nat} {s : Sg} {h' : hS} {r : Option Nat} {h : hS} {o1 : Option Nat} (d9 : Nat) (R9 : Option Nat → Sg → hS → Option Nat → Option (Option Nat × hS)) (hR9 : ∀  {b : Nat} {ad : Nat → Nat} {s : Sg} {h' : hS} {r : Option Nat} {h : hS} {o1 : Option Nat} , R9 (some (ad 20)) s h o1 = some (r, h') → CtX G yX0_prove cX0_prove 3 (some (.object "DictProof$Proof")) (2 * d9 + 50) (100 * d9 + 1200) [(0, b, ad)] [s] h [tr (some b), tr o1] (some (tr r)) [s] h')  (e : fX0_prove_B R9 (some (ad 20)) s h o1 = some (r, h')) : CtX G yX0_prove cX0_prove 3 (some (.object "DictProof$Proof")) (2 * (d9 + 1) + 50) (100 * (d9 + 1) + 1200) [(0, b, ad)] [s] h [tr (some b), tr o1] (some (tr r)) [s] h' := by
  refine CtX.of (by decide) (Nat.le_of_ble_eq_true rfl) [(0, tr (some b)), (1, tr o1)] rfl ?_
  have E : EndX (G, 3, [(0, b, ad)], h, [s], h', (some (.object "DictProof$Proof")), (some (tr r)), yX0_prove.name) [(0, b, ad)] 3 (some (.object "DictProof$Proof")) (some (tr r)) [s] h' := ⟨rfl, rfl, rfl, rfl, rfl, rfl⟩
  unfold fX0_prove_B at e
  refine r_rrs E.p (fun rr => ?_)
  refine r_aload_n dX0_prove_0 rfl 0 rfl ?_
  refine r_sR E.p 20 fG_X0_128 (by decide) dX0_prove_1 ?_
  refine r_aload_n dX0_prove_4 rfl 1 rfl ?_
  obtain ⟨g3, e⟩ := gd_o e
  obtain ⟨p1, q2, e⟩ := bd_o e
  have k4 := kJ1_get (G := G)  q2
  have z5 := (k4 rr.none).1.2.2.2
  refine r_callVo (j := none) 1 [tr o1] (c := 11) (rc := (RJ1, TJ1, 8)) rfl g3 rfl k4 (injO_1 E.p) subO_0 getO_0 setO_0 (lw_V q539 q540 q541 q122 q542) (by decide +kernel) rfl (by omega) (by omega) rfl (Nat.le_of_ble_eq_true rfl) dX0_prove_5 rfl ?_
  obtain ⟨g6, e⟩ := gd_o e
  refine r_cast cst_5 q881 (inC_p g6) dX0_prove_8 ?_
  refine r_astore_n (lv' := [(2, tr p1), (0, tr (some b)), (1, tr o1)]) dX0_prove_11 rfl (E.lt (by decide)) rfl ?_
  refine r_aload_n dX0_prove_12 rfl 0 rfl ?_
  have eT := (r_ifno e).1
  have eF := (r_ifno e).2
  refine r_ifnonnull 32 dX0_prove_13 (by decide) (fun c7 => ?_) (fun x8 c7 => ?_)
  · have e := eT c7
    refine r_aload_n dX0_prove_16 rfl 1 rfl ?_
    refine r_aload_n dX0_prove_17 rfl 2 rfl ?_
    obtain ⟨p9, q10, e⟩ := bd_o e
    have k11 := kX0_proved (G := G) (b := b) (ad := ad) d9 R9 hR9  q10
    have z12 := (k11 rr).1.2.2.2
    refine r_callV (j := some 0) 1 [tr o1] (rec_sg (j := 0) (r := (RX0, TX0, 36)) rfl (by rw [E.p]; rfl)) rfl k11 (injO_1 E.p) (subO_1 E.p) getO_1 setO_1 (lw_V q882 q884 qs14 q115 q885) (by decide +kernel) rfl (by omega) (by omega) rfl (Nat.le_of_ble_eq_true rfl) dX0_prove_18 rfl ?_
    refine r_rrs E.p (fun rr13 => ?_)
    refine r_astore_n (lv' := [(2, tr p9.1), (0, tr (some b)), (1, tr o1)]) dX0_prove_21 rfl (E.lt (by decide)) rfl ?_
    refine r_aload_n dX0_prove_22 rfl 1 rfl ?_
    refine r_sR E.p 20 fG_X0_128 (by decide) dX0_prove_23 ?_
    refine r_aload_n dX0_prove_26 rfl 2 rfl ?_
    refine r_aload_n dX0_prove_27 rfl 0 rfl ?_
    obtain ⟨g16, e⟩ := gd_o e
    obtain ⟨p14, q15, e⟩ := bd_o e
    have k17 := kJ1_put (G := G)  q15
    have z18 := (k17 rr13.none).1.2.2.2
    refine r_callVo (j := none) 2 [tr o1, tr p9.1] (c := 11) (rc := (RJ1, TJ1, 8)) rfl g16 rfl k17 (injO_1 E.p) subO_0 getO_0 setO_0 (lw_V q680 q681 q682 q122 q683) (by decide +kernel) rfl (by omega) (by omega) rfl (Nat.le_of_ble_eq_true rfl) dX0_prove_28 rfl ?_
    refine r_rrs E.p (fun rr19 => ?_)
    refine r_pop dX0_prove_31 rfl ?_
    refine r_sub [0] rfl ?_
    exact wX0_prove_b32 d9 R9 hR9 E p14.2 p9.1 e
  · have e := eF x8 c7
    refine r_sub [0] rfl ?_
    exact wX0_prove_b32 d9 R9 hR9 E h p1 e
def fX0_prove : Nat → Option Nat → Sg → hS → Option Nat → Option (Option Nat × hS)
  | 0, _, _, _, _ => none
  | d9 + 1, pm, s, h, o1 => fX0_prove_B (fX0_prove d9) pm s h o1
theorem kX0_prove {G : Gx} : ∀ (d9 : Nat), ∀  {b : Nat} {ad : Nat → Nat} {s : Sg} {h' : hS} {r : Option Nat} {h : hS} {o1 : Option Nat} , fX0_prove d9 (some (ad 20)) s h o1 = some (r, h') → CtX G yX0_prove cX0_prove 3 (some (.object "DictProof$Proof")) (2 * d9 + 50) (100 * d9 + 1200) [(0, b, ad)] [s] h [tr (some b), tr o1] (some (tr r)) [s] h' := by
  intro d9
  induction d9 with
  | zero => intros; rename_i e; cases e
  | succ d9 ih => intros; exact kX0_prove_B d9 _ ih (by assumption)
def fX0_tellGoal_b52 (gs : Option Nat × Option Nat) (pm : Option Nat) (s : Sg) (h : hS) (k0 : Int) : Option (Int × hS) := some (k0, h)
theorem wX0_tellGoal_b52 {N : Nx} {b : Nat} {ad : Nat → Nat} {s : Sg} {h' : hS} {r : Int} (E : EndX N [(0, b, ad)] 5 (some .int) (some (ti r)) [s] h')  (h : hS) (k0 : Int) (hk0 : rI k0) (e : fX0_tellGoal_b52 (nG N).2.2.2 (some (ad 20)) s h k0 = some (r, h')) : AtPc cX0_tellGoal RX0 83 2822 N [s] h 52 [] [ti k0] := by
  unfold fX0_tellGoal_b52 at e
  refine r_rrs E.p (fun rr => ?_)
  cases e
  exact r_iret E.σ E.st E.rt E.r hk0 dX0_tellGoal_52
def fX0_tellGoal  (gs : Option Nat × Option Nat) (pm : Option Nat) (s : Sg) (h : hS) (a1 : Int) (a2 : Int) (a3 : Int) : Option (Int × hS) := bd (nwS h 9 [vi 0, vq none]) fun p1 => gd (inb a2 4) (bd (fX9_init p1.2 (some p1.1) a1 (gQ s 6 a2)) fun p5 => bd (fX0_prove 16 pm s p5 (some p1.1)) fun p10 => if ¬ a3 = 0 then bd (hI p10.2 p10.1 [(10, 1)]) fun v16 => if ¬ v16 = 1 then fX0_tellGoal_b52 gs pm s p10.2 (-1) else bd (fX0_tellFound gs s p10.2 p10.1 a3) fun p19 => fX0_tellGoal_b52 gs pm s p19.2 p19.1 else bd (hI p10.2 p10.1 [(10, 1)]) fun v24 => fX0_tellGoal_b52 gs pm s p10.2 v24)
theorem kX0_tellGoal {G : Gx}  {b : Nat} {ad : Nat → Nat} {s : Sg} {h' : hS} {r : Int} {h : hS} {a1 : Int} {a2 : Int} {a3 : Int}  (ha1 : rI a1) (ha2 : rI a2) (ha3 : rI a3) (e : fX0_tellGoal G.2.2.2 (some (ad 20)) s h a1 a2 a3 = some (r, h')) : CtX G yX0_tellGoal cX0_tellGoal 5 (some .int) 83 2822 [(0, b, ad)] [s] h [tr (some b), ti a1, ti a2, ti a3] (some (ti r)) [s] h' := by
  refine CtX.of (by decide) (Nat.le_of_ble_eq_true rfl) [(0, tr (some b)), (1, ti a1), (2, ti a2), (3, ti a3)] rfl ?_
  have E : EndX (G, 5, [(0, b, ad)], h, [s], h', (some .int), (some (ti r)), yX0_tellGoal.name) [(0, b, ad)] 5 (some .int) (some (ti r)) [s] h' := ⟨rfl, rfl, rfl, rfl, rfl, rfl⟩
  unfold fX0_tellGoal at e
  refine r_rrs E.p (fun rr => ?_)
  refine r_aload_n dX0_tellGoal_0 rfl 0 rfl ?_
  obtain ⟨p1, q2, e⟩ := bd_o e
  refine r_newS [vi 0, vq none] q2 rfl in_X9 tyX9_ok q862 q863 q133 (by decide +kernel) rfl (by decide +kernel) dX0_tellGoal_1 ?_
  refine r_rrs E.p (fun rr3 => ?_)
  refine r_dup dX0_tellGoal_4 rfl ?_
  refine r_iload_n dX0_tellGoal_5 rfl 1 rfl ?_
  refine r_aload_n dX0_tellGoal_6 rfl 0 rfl ?_
  refine r_sR E.p 6 fG_X0_117 (by decide) dX0_tellGoal_7 ?_
  refine r_iload_n dX0_tellGoal_10 rfl 2 rfl ?_
  obtain ⟨g4, e⟩ := gd_o e
  refine r_saQ E.p 6 rfl (by decide) (by decide) (by decide) ha2 g4 dX0_tellGoal_11 ?_
  obtain ⟨p5, q6, e⟩ := bd_o e
  have k7 := kX9_init (G := G) ha1 q6
  have z8 := (k7 rr3.none).1.2.2.2
  refine r_callIo (j := none) 2 [ti a1, tr (gQ s 6 a2)] (fun q => by cases q) rfl rfl k7 (injO_1 E.p) subO_0 getO_0 setO_0 q866 q133 q864 q865 (by decide +kernel) rfl (Nat.le_of_ble_eq_true rfl) (Nat.le_of_ble_eq_true rfl) rfl (Nat.le_of_ble_eq_true rfl) dX0_tellGoal_12 rfl ?_
  refine r_rrs E.p (fun rr9 => ?_)
  obtain ⟨p10, q11, e⟩ := bd_o e
  have k12 := kX0_prove (G := G) 16 (b := b) (ad := ad)  q11
  have z13 := (k12 rr9).1.2.2.2
  refine r_callV (j := some 0) 1 [tr (some p1.1)] (rec_sg (j := 0) (r := (RX0, TX0, 36)) rfl (by rw [E.p]; rfl)) rfl k12 (injO_1 E.p) (subO_1 E.p) getO_1 setO_1 (lw_V q877 q879 qs13 q115 q880) (by decide +kernel) rfl (Nat.le_of_ble_eq_true rfl) (Nat.le_of_ble_eq_true rfl) rfl (Nat.le_of_ble_eq_true rfl) dX0_tellGoal_15 rfl ?_
  refine r_rrs E.p (fun rr14 => ?_)
  refine r_astore (lv' := [(4, tr p10.1), (0, tr (some b)), (1, ti a1), (2, ti a2), (3, ti a3)]) dX0_tellGoal_18 (E.lt (by decide)) rfl ?_
  refine r_iload_n dX0_tellGoal_20 rfl 4 rfl ?_
  have eT := (r_ifo e).1
  have eF := (r_ifo e).2
  refine r_if_ne ha3 32 dX0_tellGoal_21 (by decide) (fun c15 => ?_) (fun c15 => ?_)
  · have e := eT c15
    refine r_aload dX0_tellGoal_32 0 rfl ?_
    obtain ⟨v16, q17, e⟩ := bd_o e
    refine r_getI fG_X0_341 q17 dX0_tellGoal_34 ?_
    refine r_iconst dX0_tellGoal_37 ?_
    have eT := (r_ifo e).1
    have eF := (r_ifo e).2
    refine r_icmp_ne (hI_r rr14 q17) (by decide) 51 dX0_tellGoal_38 (by decide) (fun c18 => ?_) (fun c18 => ?_)
    · have e := eT c18
      refine r_iconst dX0_tellGoal_51 ?_
      refine r_sub [] rfl ?_
      exact wX0_tellGoal_b52 E p10.2 (-1) (by decide) e
    · have e := eF c18
      refine r_aload_n dX0_tellGoal_41 rfl 1 rfl ?_
      refine r_aload dX0_tellGoal_42 0 rfl ?_
      refine r_iload_n dX0_tellGoal_44 rfl 4 rfl ?_
      obtain ⟨p19, q20, e⟩ := bd_o e
      have k21 := kX0_tellFound (G := G) (b := b) (ad := ad) ha3 q20
      have z22 := (k21 rr14).1.2.2.2
      refine r_callV (j := some 0) 2 [tr p10.1, ti a3] (rec_sg (j := 0) (r := (RX0, TX0, 36)) rfl (by rw [E.p]; rfl)) rfl k21 (injO_1 E.p) (subO_1 E.p) getO_1 setO_1 (lw_V q977 q979 qs20 q115 q980) (by decide +kernel) rfl (Nat.le_of_ble_eq_true rfl) (Nat.le_of_ble_eq_true rfl) rfl (Nat.le_of_ble_eq_true rfl) dX0_tellGoal_45 rfl ?_
      refine r_rrs E.p (fun rr23 => ?_)
      refine r_goto 52 dX0_tellGoal_48 (by decide) ?_
      refine r_sub [] rfl ?_
      exact wX0_tellGoal_b52 E p19.2 p19.1 z22 e
  · have e := eF c15
    refine r_aload dX0_tellGoal_24 0 rfl ?_
    obtain ⟨v24, q25, e⟩ := bd_o e
    refine r_getI fG_X0_341 q25 dX0_tellGoal_26 ?_
    refine r_goto 52 dX0_tellGoal_29 (by decide) ?_
    refine r_sub [] rfl ?_
    exact wX0_tellGoal_b52 E p10.2 v24 (hI_r rr14 q25) e
def fX0_goal_b16 (gs : Option Nat × Option Nat) (pm : Option Nat) (s : Sg) (h : hS) : Option (Int × hS) := some ((-101), h)
theorem wX0_goal_b16 {N : Nx} {b : Nat} {ad : Nat → Nat} {s : Sg} {h' : hS} {r : Int} (E : EndX N [(0, b, ad)] 4 (some .int) (some (ti r)) [s] h')  (h : hS) (e : fX0_goal_b16 (nG N).2.2.2 (some (ad 20)) s h = some (r, h')) : AtPc cX0_goal RX0 84 2846 N [s] h 16 [] [] := by
  unfold fX0_goal_b16 at e
  refine r_rrs E.p (fun rr => ?_)
  refine r_bipush dX0_goal_16 (by decide) ?_
  cases e
  exact r_iret E.σ E.st E.rt E.r (by decide) dX0_goal_18
def fX0_goal_b43 (gs : Option Nat × Option Nat) (pm : Option Nat) (s : Sg) (h : hS) (k0 : Int) : Option (Int × hS) := some (k0, h)
theorem wX0_goal_b43 {N : Nx} {b : Nat} {ad : Nat → Nat} {s : Sg} {h' : hS} {r : Int} (E : EndX N [(0, b, ad)] 4 (some .int) (some (ti r)) [s] h')  (h : hS) (k0 : Int) (hk0 : rI k0) (e : fX0_goal_b43 (nG N).2.2.2 (some (ad 20)) s h k0 = some (r, h')) : AtPc cX0_goal RX0 84 2846 N [s] h 43 [] [ti k0] := by
  unfold fX0_goal_b43 at e
  refine r_rrs E.p (fun rr => ?_)
  cases e
  exact r_iret E.σ E.st E.rt E.r hk0 dX0_goal_43
def fX0_goal  (gs : Option Nat × Option Nat) (pm : Option Nat) (s : Sg) (h : hS) (a1 : Int) (a2 : Int) (a3 : Int) : Option (Int × hS) := bd (fX0_isClass s a1) fun p1 => if p1 = 0 then fX0_goal_b16 gs pm s h else bd (fX0_isSlot s a2) fun p6 => if ¬ p6 = 0 then bd (fX0_isIn a3 0 6) fun p11 => if p11 = 0 then fX0_goal_b43 gs pm s h (-102) else bd (fX0_tellGoal gs pm s h a1 a2 a3) fun p16 => fX0_goal_b43 gs pm s p16.2 p16.1 else fX0_goal_b16 gs pm s h
theorem kX0_goal {G : Gx}  {b : Nat} {ad : Nat → Nat} {s : Sg} {h' : hS} {r : Int} {h : hS} {a1 : Int} {a2 : Int} {a3 : Int}  (ha1 : rI a1) (ha2 : rI a2) (ha3 : rI a3) (e : fX0_goal G.2.2.2 (some (ad 20)) s h a1 a2 a3 = some (r, h')) : CtX G yX0_goal cX0_goal 4 (some .int) 84 2846 [(0, b, ad)] [s] h [tr (some b), ti a1, ti a2, ti a3] (some (ti r)) [s] h' := by
  refine CtX.of (by decide) (Nat.le_of_ble_eq_true rfl) [(0, tr (some b)), (1, ti a1), (2, ti a2), (3, ti a3)] rfl ?_
  have E : EndX (G, 4, [(0, b, ad)], h, [s], h', (some .int), (some (ti r)), yX0_goal.name) [(0, b, ad)] 4 (some .int) (some (ti r)) [s] h' := ⟨rfl, rfl, rfl, rfl, rfl, rfl⟩
  unfold fX0_goal at e
  refine r_rrs E.p (fun rr => ?_)
  refine r_aload_n dX0_goal_0 rfl 0 rfl ?_
  refine r_iload_n dX0_goal_1 rfl 1 rfl ?_
  obtain ⟨p1, q2, e⟩ := bd_o e
  have k3 := kX0_isClass (G := G) (b := b) (ad := ad) (h := h) ha1 q2
  have z4 := (k3 rr).1.2.2.2
  refine r_callV (j := some 0) 1 [ti a1] (rec_sg (j := 0) (r := (RX0, TX0, 36)) rfl (by rw [E.p]; rfl)) rfl k3 (injO_1 E.p) (subO_1 E.p) getO_1 setO_1 (lw_V q849 q851 qs10 q115 q852) (by decide +kernel) rfl (Nat.le_of_ble_eq_true rfl) (Nat.le_of_ble_eq_true rfl) rfl (Nat.le_of_ble_eq_true rfl) dX0_goal_2 rfl ?_
  have eT := (r_ifo e).1
  have eF := (r_ifo e).2
  refine r_if_eq (rI_z z4) 16 dX0_goal_5 (by decide) (fun c5 => ?_) (fun c5 => ?_)
  · have e := eT c5
    refine r_sub [] rfl ?_
    exact wX0_goal_b16 E h e
  · have e := eF c5
    refine r_aload_n dX0_goal_8 rfl 0 rfl ?_
    refine r_iload_n dX0_goal_9 rfl 2 rfl ?_
    obtain ⟨p6, q7, e⟩ := bd_o e
    have k8 := kX0_isSlot (G := G) (b := b) (ad := ad) (h := h) ha2 q7
    have z9 := (k8 rr).1.2.2.2
    refine r_callV (j := some 0) 1 [ti a2] (rec_sg (j := 0) (r := (RX0, TX0, 36)) rfl (by rw [E.p]; rfl)) rfl k8 (injO_1 E.p) (subO_1 E.p) getO_1 setO_1 (lw_V q853 q855 qs11 q115 q856) (by decide +kernel) rfl (Nat.le_of_ble_eq_true rfl) (Nat.le_of_ble_eq_true rfl) rfl (Nat.le_of_ble_eq_true rfl) dX0_goal_10 rfl ?_
    have eT := (r_ifo e).1
    have eF := (r_ifo e).2
    refine r_if_ne (rI_z z9) 19 dX0_goal_13 (by decide) (fun c10 => ?_) (fun c10 => ?_)
    · have e := eT c10
      refine r_iload_n dX0_goal_19 rfl 3 rfl ?_
      refine r_i2l ha3 dX0_goal_20 ?_
      refine r_lconst 0 dX0_goal_21 rfl ?_
      refine r_ldc2 6 q857 (by decide) dX0_goal_22 ?_
      obtain ⟨p11, q12, e⟩ := bd_o e
      have k13 := kX0_isIn (G := G) (h := h) (rI_L ha3) (by decide) (by decide) q12
      have z14 := (k13 rr.none).1.2.2.2
      refine r_callS (j := none) 3 [tl a3, tl 0, tl 6] k13 (injO_1 E.p) subO_0 getO_0 setO_0 (lw_S q397 q398 q115 q399) (by decide +kernel) rfl (Nat.le_of_ble_eq_true rfl) (Nat.le_of_ble_eq_true rfl) rfl (Nat.le_of_ble_eq_true rfl) dX0_goal_25 rfl ?_
      have eT := (r_ifo e).1
      have eF := (r_ifo e).2
      refine r_if_eq (rI_z z14) 41 dX0_goal_28 (by decide) (fun c15 => ?_) (fun c15 => ?_)
      · have e := eT c15
        refine r_bipush dX0_goal_41 (by decide) ?_
        refine r_sub [] rfl ?_
        exact wX0_goal_b43 E h (-102) (by decide) e
      · have e := eF c15
        refine r_aload_n dX0_goal_31 rfl 0 rfl ?_
        refine r_iload_n dX0_goal_32 rfl 1 rfl ?_
        refine r_iload_n dX0_goal_33 rfl 2 rfl ?_
        refine r_iload_n dX0_goal_34 rfl 3 rfl ?_
        obtain ⟨p16, q17, e⟩ := bd_o e
        have k18 := kX0_tellGoal (G := G) (b := b) (ad := ad) ha1 ha2 ha3 q17
        have z19 := (k18 rr).1.2.2.2
        refine r_callV (j := some 0) 3 [ti a1, ti a2, ti a3] (rec_sg (j := 0) (r := (RX0, TX0, 36)) rfl (by rw [E.p]; rfl)) rfl k18 (injO_1 E.p) (subO_1 E.p) getO_1 setO_1 (lw_V q858 q860 qs12 q115 q861) (by decide +kernel) rfl (Nat.le_of_ble_eq_true rfl) (Nat.le_of_ble_eq_true rfl) rfl (Nat.le_of_ble_eq_true rfl) dX0_goal_35 rfl ?_
        refine r_rrs E.p (fun rr20 => ?_)
        refine r_goto 43 dX0_goal_38 (by decide) ?_
        refine r_sub [] rfl ?_
        exact wX0_goal_b43 E p16.2 p16.1 z19 e
    · have e := eF c10
      refine r_sub [] rfl ?_
      exact wX0_goal_b16 E h e
def fX10_entry_b28 (R9 : hS → Option Nat → Int → Option (Int)) (h : hS) (k0 : Int) : Option (Int) := some k0
theorem wX10_entry_b28 {N : Nx} {h : hS} {r : Int} (d9 : Nat) (R9 : hS → Option Nat → Int → Option (Int)) (hR9 : ∀  {h : hS} {r : Int} {o0 : Option Nat} {a1 : Int} (ha1 : rI a1), R9 h o0 a1 = some (r) → CtX (nG N) yX10_entry cX10_entry 4 (some .int) (d9 + 17) (23 * d9 + 374) [] [] h [tr o0, ti a1] (some (ti r)) [] h) (E : EndX N [] 4 (some .int) (some (ti r)) [] h)  (k0 : Int) (hk0 : rI k0) (e : fX10_entry_b28 R9 h k0 = some (r)) : AtPc cX10_entry RX10 ((d9 + 1) + 17) (23 * (d9 + 1) + 374) N [] h 28 [] [ti k0] := by
  unfold fX10_entry_b28 at e
  refine r_rrs E.p (fun rr => ?_)
  cases e
  exact r_iret E.σ E.st E.rt E.r hk0 dX10_entry_28
def fX10_entry_b35 (R9 : hS → Option Nat → Int → Option (Int)) (K35 : hS → Option Nat → Int → Int → Option (Int)) (h : hS) (o0 : Option Nat) (a2 : Int) (a3 : Int) : Option (Int) := bd (hQ h o0 [(10, 3)]) fun v1 => bd (aQ h v1 5 a3) fun v3 => gd (hC h v3 = some 10) (bd (fX10_size 16 h v3) fun p5 => if a2 < p5 then bd (hQ h o0 [(10, 3)]) fun v11 => bd (aQ h v11 5 a3) fun v13 => gd (hC h v13 = some 10) (bd (R9 h v13 a2) fun p15 => some p15) else bd (hQ h o0 [(10, 3)]) fun v20 => bd (aQ h v20 5 a3) fun v22 => gd (hC h v22 = some 10) (bd (fX10_size 16 h v22) fun p24 => K35 h o0 (wr (a2 - p24)) (wr (a3 + 1))))
theorem wX10_entry_b35 {N : Nx} {h : hS} {r : Int} (d9 : Nat) (R9 : hS → Option Nat → Int → Option (Int)) (hR9 : ∀  {h : hS} {r : Int} {o0 : Option Nat} {a1 : Int} (ha1 : rI a1), R9 h o0 a1 = some (r) → CtX (nG N) yX10_entry cX10_entry 4 (some .int) (d9 + 17) (23 * d9 + 374) [] [] h [tr o0, ti a1] (some (ti r)) [] h) (E : EndX N [] 4 (some .int) (some (ti r)) [] h) (K35 : hS → Option Nat → Int → Int → Option (Int)) (hK35 : ∀ (o0 : Option Nat) (a2 : Int) (a3 : Int) (ha2 : rI a2) (ha3 : rI a3), K35 h o0 a2 a3 = some (r) → AtPc cX10_entry RX10 ((d9 + 1) + 17) (23 * (d9 + 1) + 374) N [] h 35 [(0, tr o0), (2, ti a2), (3, ti a3)] []) (o0 : Option Nat) (a2 : Int) (a3 : Int) (ha2 : rI a2) (ha3 : rI a3) (e : fX10_entry_b35 R9 K35 h o0 a2 a3 = some (r)) : AtPc cX10_entry RX10 ((d9 + 1) + 17) (23 * (d9 + 1) + 374) N [] h 35 [(0, tr o0), (2, ti a2), (3, ti a3)] [] := by
  unfold fX10_entry_b35 at e
  refine r_rrs E.p (fun rr => ?_)
  refine r_iload_n dX10_entry_35 rfl 1 rfl ?_
  refine r_aload_n dX10_entry_36 rfl 0 rfl ?_
  obtain ⟨v1, q2, e⟩ := bd_o e
  refine r_getQ fG_X10_23 q2 dX10_entry_37 ?_
  refine r_iload_n dX10_entry_40 rfl 2 rfl ?_
  obtain ⟨v3, q4, e⟩ := bd_o e
  refine r_aQ ha3 q4 dX10_entry_41 ?_
  obtain ⟨g7, e⟩ := gd_o e
  obtain ⟨p5, q6, e⟩ := bd_o e
  have k8 := kX10_size (G := nG N) 16  q6
  have z9 := (k8 rr).1.2.2.2
  refine r_callVo (j := none) 0 [] (c := 10) (rc := (RX10, TX10, 4)) rfl g7 rfl k8 (injO_0 E.p) subO_0 getO_0 setO_0 (lw_V q985 q982 q983 q134 q984) (by decide +kernel) rfl (by omega) (by omega) rfl (Nat.le_of_ble_eq_true rfl) dX10_entry_42 rfl ?_
  have eT := (r_ifo e).1
  have eF := (r_ifo e).2
  refine r_icmp_lt ha2 z9 66 dX10_entry_45 (by decide) (fun c10 => ?_) (fun c10 => ?_)
  · have e := eT c10
    refine r_aload_n dX10_entry_66 rfl 0 rfl ?_
    obtain ⟨v11, q12, e⟩ := bd_o e
    refine r_getQ fG_X10_23 q12 dX10_entry_67 ?_
    refine r_iload_n dX10_entry_70 rfl 2 rfl ?_
    obtain ⟨v13, q14, e⟩ := bd_o e
    refine r_aQ ha3 q14 dX10_entry_71 ?_
    refine r_iload_n dX10_entry_72 rfl 1 rfl ?_
    obtain ⟨g17, e⟩ := gd_o e
    obtain ⟨p15, q16, e⟩ := bd_o e
    have k18 := hR9 ha2 q16
    have z19 := (k18 rr).1.2.2.2
    refine r_callVo (j := none) 1 [ti a2] (c := 10) (rc := (RX10, TX10, 4)) rfl g17 rfl k18 (injO_0 E.p) subO_0 getO_0 setO_0 (lw_V q1068 q1065 q1066 q134 q1067) (by decide +kernel) rfl (by omega) (by omega) rfl (Nat.le_of_ble_eq_true rfl) dX10_entry_73 rfl ?_
    cases e
    exact r_iret E.σ E.st E.rt E.r z19 dX10_entry_76
  · have e := eF c10
    refine r_iload_n dX10_entry_48 rfl 1 rfl ?_
    refine r_aload_n dX10_entry_49 rfl 0 rfl ?_
    obtain ⟨v20, q21, e⟩ := bd_o e
    refine r_getQ fG_X10_23 q21 dX10_entry_50 ?_
    refine r_iload_n dX10_entry_53 rfl 2 rfl ?_
    obtain ⟨v22, q23, e⟩ := bd_o e
    refine r_aQ ha3 q23 dX10_entry_54 ?_
    obtain ⟨g26, e⟩ := gd_o e
    obtain ⟨p24, q25, e⟩ := bd_o e
    have k27 := kX10_size (G := nG N) 16  q25
    have z28 := (k27 rr).1.2.2.2
    refine r_callVo (j := none) 0 [] (c := 10) (rc := (RX10, TX10, 4)) rfl g26 rfl k27 (injO_0 E.p) subO_0 getO_0 setO_0 (lw_V q985 q982 q983 q134 q984) (by decide +kernel) rfl (by omega) (by omega) rfl (Nat.le_of_ble_eq_true rfl) dX10_entry_55 rfl ?_
    refine r_isub dX10_entry_58 ?_
    refine r_istore_n (lv' := [(2, ti (wr (a2 - p24))), (0, tr o0), (3, ti a3)]) dX10_entry_59 rfl (E.lt (by decide)) rfl ?_
    refine r_iinc (lv' := [(3, ti (wr (a3 + 1))), (2, ti (wr (a2 - p24))), (0, tr o0)]) dX10_entry_60 2 rfl (E.lt (by decide)) rfl ?_
    refine r_goto 35 dX10_entry_63 (by decide) ?_
    refine r_sub [2, 1, 0] rfl ?_
    exact hK35 o0 (wr (a2 - p24)) (wr (a3 + 1)) (wr_r _) (wr_r _) e
def fX10_entry_L35 (R9 : hS → Option Nat → Int → Option (Int)) : Nat → hS → Option Nat → Int → Int → Option (Int)
  | 0, _, _, _, _ => none
  | n9 + 1, h, o0, a2, a3 => fX10_entry_b35 R9 (fX10_entry_L35 R9 n9) h o0 a2 a3
theorem wX10_entry_L35 {N : Nx} {h : hS} {r : Int} (d9 : Nat) (R9 : hS → Option Nat → Int → Option (Int)) (hR9 : ∀  {h : hS} {r : Int} {o0 : Option Nat} {a1 : Int} (ha1 : rI a1), R9 h o0 a1 = some (r) → CtX (nG N) yX10_entry cX10_entry 4 (some .int) (d9 + 17) (23 * d9 + 374) [] [] h [tr o0, ti a1] (some (ti r)) [] h) (E : EndX N [] 4 (some .int) (some (ti r)) [] h)  : ∀ (n9 : Nat), ∀ (o0 : Option Nat) (a2 : Int) (a3 : Int) (ha2 : rI a2) (ha3 : rI a3), fX10_entry_L35 R9 n9 h o0 a2 a3 = some (r) → AtPc cX10_entry RX10 ((d9 + 1) + 17) (23 * (d9 + 1) + 374) N [] h 35 [(0, tr o0), (2, ti a2), (3, ti a3)] [] := by
  intro n9
  induction n9 with
  | zero => intro o0 a2 a3 ha2 ha3 e; cases e
  | succ n9 ih => intro o0 a2 a3 ha2 ha3 e; exact wX10_entry_b35 d9 R9 hR9 E _ ih o0 a2 a3 ha2 ha3 e
def fX10_entry_B (R9 : hS → Option Nat → Int → Option (Int)) (h : hS) (o0 : Option Nat) (a1 : Int) : Option (Int) := if ¬ a1 = 0 then fX10_entry_L35 R9 FU h o0 (wr (a1 - 1)) 0 else bd (hQ h o0 [(10, 2)]) fun v2 => ifN v2 (bd (hQ h o0 [(10, 0)]) fun v6 => gd (hC h v6 = some 9) (bd (fX9_need h v6) fun p8 => fX10_entry_b28 R9 h p8)) (fun _ => bd (hQ h o0 [(10, 2)]) fun v13 => bd (hI h v13 [(1, 0), (2, 0), (3, 0), (4, 0), (5, 0)]) fun v15 => fX10_entry_b28 R9 h v15)
theorem kX10_entry_B {G : Gx}  {h : hS} {r : Int} {o0 : Option Nat} {a1 : Int} (d9 : Nat) (R9 : hS → Option Nat → Int → Option (Int)) (hR9 : ∀  {h : hS} {r : Int} {o0 : Option Nat} {a1 : Int} (ha1 : rI a1), R9 h o0 a1 = some (r) → CtX G yX10_entry cX10_entry 4 (some .int) (d9 + 17) (23 * d9 + 374) [] [] h [tr o0, ti a1] (some (ti r)) [] h) (ha1 : rI a1) (e : fX10_entry_B R9 h o0 a1 = some (r)) : CtX G yX10_entry cX10_entry 4 (some .int) ((d9 + 1) + 17) (23 * (d9 + 1) + 374) [] [] h [tr o0, ti a1] (some (ti r)) [] h := by
  refine CtX.of (by decide) (Nat.le_of_ble_eq_true rfl) [(0, tr o0), (1, ti a1)] rfl ?_
  have E : EndX (G, 4, [], h, [], h, (some .int), (some (ti r)), yX10_entry.name) [] 4 (some .int) (some (ti r)) [] h := ⟨rfl, rfl, rfl, rfl, rfl, rfl⟩
  unfold fX10_entry_B at e
  refine r_rrs E.p (fun rr => ?_)
  refine r_iload_n dX10_entry_0 rfl 1 rfl ?_
  have eT := (r_ifo e).1
  have eF := (r_ifo e).2
  refine r_if_ne ha1 29 dX10_entry_1 (by decide) (fun c1 => ?_) (fun c1 => ?_)
  · have e := eT c1
    refine r_iload_n dX10_entry_29 rfl 1 rfl ?_
    refine r_iconst dX10_entry_30 ?_
    refine r_isub dX10_entry_31 ?_
    refine r_istore_n (lv' := [(2, ti (wr (a1 - 1))), (0, tr o0), (1, ti a1)]) dX10_entry_32 rfl (E.lt (by decide)) rfl ?_
    refine r_iconst dX10_entry_33 ?_
    refine r_istore_n (lv' := [(3, ti 0), (2, ti (wr (a1 - 1))), (0, tr o0), (1, ti a1)]) dX10_entry_34 rfl (E.lt (by decide)) rfl ?_
    refine r_sub [2, 1, 0] rfl ?_
    exact wX10_entry_L35 d9 R9 hR9 E FU o0 (wr (a1 - 1)) 0 (wr_r _) (by decide) e
  · have e := eF c1
    refine r_aload_n dX10_entry_4 rfl 0 rfl ?_
    obtain ⟨v2, q3, e⟩ := bd_o e
    refine r_getQ fG_X10_19 q3 dX10_entry_5 ?_
    have eT := (r_ifno e).1
    have eF := (r_ifno e).2
    refine r_ifnonnull 21 dX10_entry_8 (by decide) (fun c4 => ?_) (fun x5 c4 => ?_)
    · have e := eT c4
      refine r_aload_n dX10_entry_11 rfl 0 rfl ?_
      obtain ⟨v6, q7, e⟩ := bd_o e
      refine r_getQ fG_X10_9 q7 dX10_entry_12 ?_
      obtain ⟨g10, e⟩ := gd_o e
      obtain ⟨p8, q9, e⟩ := bd_o e
      have k11 := kX9_need (G := G)  q9
      have z12 := (k11 rr).1.2.2.2
      refine r_callVo (j := none) 0 [] (c := 9) (rc := (RX9, TX9, 2)) rfl g10 rfl k11 (injO_0 E.p) subO_0 getO_0 setO_0 (lw_V q990 q991 q992 q133 q993) (by decide +kernel) rfl (by omega) (by omega) rfl (Nat.le_of_ble_eq_true rfl) dX10_entry_15 rfl ?_
      refine r_goto 28 dX10_entry_18 (by decide) ?_
      refine r_sub [] rfl ?_
      exact wX10_entry_b28 d9 R9 hR9 E p8 z12 e
    · have e := eF x5 c4
      refine r_aload_n dX10_entry_21 rfl 0 rfl ?_
      obtain ⟨v13, q14, e⟩ := bd_o e
      refine r_getQ fG_X10_19 q14 dX10_entry_22 ?_
      obtain ⟨v15, q16, e⟩ := bd_o e
      refine r_getI fG_X10_41 q16 dX10_entry_25 ?_
      refine r_sub [] rfl ?_
      exact wX10_entry_b28 d9 R9 hR9 E v15 (hI_r rr q16) e
def fX10_entry : Nat → hS → Option Nat → Int → Option (Int)
  | 0, _, _, _ => none
  | d9 + 1, h, o0, a1 => fX10_entry_B (fX10_entry d9) h o0 a1
theorem kX10_entry {G : Gx} : ∀ (d9 : Nat), ∀  {h : hS} {r : Int} {o0 : Option Nat} {a1 : Int} (ha1 : rI a1), fX10_entry d9 h o0 a1 = some (r) → CtX G yX10_entry cX10_entry 4 (some .int) (d9 + 17) (23 * d9 + 374) [] [] h [tr o0, ti a1] (some (ti r)) [] h := by
  intro d9
  induction d9 with
  | zero => intros; rename_i e; cases e
  | succ d9 ih => intros; exact kX10_entry_B d9 _ ih (by assumption) (by assumption)
def fX0_entry_b16 (pm : Option Nat) (s : Sg) (h : hS) : Option (Int × hS) := some ((-101), h)
theorem wX0_entry_b16 {N : Nx} {b : Nat} {ad : Nat → Nat} {s : Sg} {h' : hS} {r : Int} (E : EndX N [(0, b, ad)] 5 (some .int) (some (ti r)) [s] h')  (h : hS) (e : fX0_entry_b16 (some (ad 20)) s h = some (r, h')) : AtPc cX0_entry RX0 83 2822 N [s] h 16 [] [] := by
  unfold fX0_entry_b16 at e
  refine r_rrs E.p (fun rr => ?_)
  refine r_bipush dX0_entry_16 (by decide) ?_
  cases e
  exact r_iret E.σ E.st E.rt E.r (by decide) dX0_entry_18
def fX0_entry_b76 (pm : Option Nat) (s : Sg) (h : hS) (k0 : Int) : Option (Int × hS) := some (k0, h)
theorem wX0_entry_b76 {N : Nx} {b : Nat} {ad : Nat → Nat} {s : Sg} {h' : hS} {r : Int} (E : EndX N [(0, b, ad)] 5 (some .int) (some (ti r)) [s] h')  (h : hS) (k0 : Int) (hk0 : rI k0) (e : fX0_entry_b76 (some (ad 20)) s h k0 = some (r, h')) : AtPc cX0_entry RX0 83 2822 N [s] h 76 [] [ti k0] := by
  unfold fX0_entry_b76 at e
  refine r_rrs E.p (fun rr => ?_)
  cases e
  exact r_iret E.σ E.st E.rt E.r hk0 dX0_entry_76
def fX0_entry_b74 (pm : Option Nat) (s : Sg) (h : hS) : Option (Int × hS) := fX0_entry_b76 pm s h (-101)
theorem wX0_entry_b74 {N : Nx} {b : Nat} {ad : Nat → Nat} {s : Sg} {h' : hS} {r : Int} (E : EndX N [(0, b, ad)] 5 (some .int) (some (ti r)) [s] h')  (h : hS) (e : fX0_entry_b74 (some (ad 20)) s h = some (r, h')) : AtPc cX0_entry RX0 83 2822 N [s] h 74 [] [] := by
  unfold fX0_entry_b74 at e
  refine r_rrs E.p (fun rr => ?_)
  refine r_bipush dX0_entry_74 (by decide) ?_
  exact wX0_entry_b76 E h (-101) (by decide) e
def fX0_entry  (pm : Option Nat) (s : Sg) (h : hS) (a1 : Int) (a2 : Int) (a3 : Int) : Option (Int × hS) := bd (fX0_isClass s a1) fun p1 => if p1 = 0 then fX0_entry_b16 pm s h else bd (fX0_isSlot s a2) fun p6 => if ¬ p6 = 0 then bd (nwS h 9 [vi 0, vq none]) fun p11 => gd (inb a2 4) (bd (fX9_init p11.2 (some p11.1) a1 (gQ s 6 a2)) fun p15 => bd (fX0_prove 16 pm s p15 (some p11.1)) fun p20 => bd (hI p20.2 p20.1 [(10, 1)]) fun v25 => if ¬ v25 = 1 then fX0_entry_b74 pm s p20.2 else gd (hC p20.2 p20.1 = some 10) (bd (fX10_size 16 p20.2 p20.1) fun p28 => bd (fX0_isIn a3 0 (wr (p28 - 1))) fun p33 => if p33 = 0 then fX0_entry_b74 pm s p20.2 else gd (hC p20.2 p20.1 = some 10) (bd (fX10_entry 16 p20.2 p20.1 a3) fun p38 => fX0_entry_b76 pm s p20.2 p38))) else fX0_entry_b16 pm s h
theorem kX0_entry {G : Gx}  {b : Nat} {ad : Nat → Nat} {s : Sg} {h' : hS} {r : Int} {h : hS} {a1 : Int} {a2 : Int} {a3 : Int}  (ha1 : rI a1) (ha2 : rI a2) (ha3 : rI a3) (e : fX0_entry (some (ad 20)) s h a1 a2 a3 = some (r, h')) : CtX G yX0_entry cX0_entry 5 (some .int) 83 2822 [(0, b, ad)] [s] h [tr (some b), ti a1, ti a2, ti a3] (some (ti r)) [s] h' := by
  refine CtX.of (by decide) (Nat.le_of_ble_eq_true rfl) [(0, tr (some b)), (1, ti a1), (2, ti a2), (3, ti a3)] rfl ?_
  have E : EndX (G, 5, [(0, b, ad)], h, [s], h', (some .int), (some (ti r)), yX0_entry.name) [(0, b, ad)] 5 (some .int) (some (ti r)) [s] h' := ⟨rfl, rfl, rfl, rfl, rfl, rfl⟩
  unfold fX0_entry at e
  refine r_rrs E.p (fun rr => ?_)
  refine r_aload_n dX0_entry_0 rfl 0 rfl ?_
  refine r_iload_n dX0_entry_1 rfl 1 rfl ?_
  obtain ⟨p1, q2, e⟩ := bd_o e
  have k3 := kX0_isClass (G := G) (b := b) (ad := ad) (h := h) ha1 q2
  have z4 := (k3 rr).1.2.2.2
  refine r_callV (j := some 0) 1 [ti a1] (rec_sg (j := 0) (r := (RX0, TX0, 36)) rfl (by rw [E.p]; rfl)) rfl k3 (injO_1 E.p) (subO_1 E.p) getO_1 setO_1 (lw_V q849 q851 qs10 q115 q852) (by decide +kernel) rfl (Nat.le_of_ble_eq_true rfl) (Nat.le_of_ble_eq_true rfl) rfl (Nat.le_of_ble_eq_true rfl) dX0_entry_2 rfl ?_
  have eT := (r_ifo e).1
  have eF := (r_ifo e).2
  refine r_if_eq (rI_z z4) 16 dX0_entry_5 (by decide) (fun c5 => ?_) (fun c5 => ?_)
  · have e := eT c5
    refine r_sub [] rfl ?_
    exact wX0_entry_b16 E h e
  · have e := eF c5
    refine r_aload_n dX0_entry_8 rfl 0 rfl ?_
    refine r_iload_n dX0_entry_9 rfl 2 rfl ?_
    obtain ⟨p6, q7, e⟩ := bd_o e
    have k8 := kX0_isSlot (G := G) (b := b) (ad := ad) (h := h) ha2 q7
    have z9 := (k8 rr).1.2.2.2
    refine r_callV (j := some 0) 1 [ti a2] (rec_sg (j := 0) (r := (RX0, TX0, 36)) rfl (by rw [E.p]; rfl)) rfl k8 (injO_1 E.p) (subO_1 E.p) getO_1 setO_1 (lw_V q853 q855 qs11 q115 q856) (by decide +kernel) rfl (Nat.le_of_ble_eq_true rfl) (Nat.le_of_ble_eq_true rfl) rfl (Nat.le_of_ble_eq_true rfl) dX0_entry_10 rfl ?_
    have eT := (r_ifo e).1
    have eF := (r_ifo e).2
    refine r_if_ne (rI_z z9) 19 dX0_entry_13 (by decide) (fun c10 => ?_) (fun c10 => ?_)
    · have e := eT c10
      refine r_aload_n dX0_entry_19 rfl 0 rfl ?_
      obtain ⟨p11, q12, e⟩ := bd_o e
      refine r_newS [vi 0, vq none] q12 rfl in_X9 tyX9_ok q862 q863 q133 (by decide +kernel) rfl (by decide +kernel) dX0_entry_20 ?_
      refine r_rrs E.p (fun rr13 => ?_)
      refine r_dup dX0_entry_23 rfl ?_
      refine r_iload_n dX0_entry_24 rfl 1 rfl ?_
      refine r_aload_n dX0_entry_25 rfl 0 rfl ?_
      refine r_sR E.p 6 fG_X0_117 (by decide) dX0_entry_26 ?_
      refine r_iload_n dX0_entry_29 rfl 2 rfl ?_
      obtain ⟨g14, e⟩ := gd_o e
      refine r_saQ E.p 6 rfl (by decide) (by decide) (by decide) ha2 g14 dX0_entry_30 ?_
      obtain ⟨p15, q16, e⟩ := bd_o e
      have k17 := kX9_init (G := G) ha1 q16
      have z18 := (k17 rr13.none).1.2.2.2
      refine r_callIo (j := none) 2 [ti a1, tr (gQ s 6 a2)] (fun q => by cases q) rfl rfl k17 (injO_1 E.p) subO_0 getO_0 setO_0 q866 q133 q864 q865 (by decide +kernel) rfl (Nat.le_of_ble_eq_true rfl) (Nat.le_of_ble_eq_true rfl) rfl (Nat.le_of_ble_eq_true rfl) dX0_entry_31 rfl ?_
      refine r_rrs E.p (fun rr19 => ?_)
      obtain ⟨p20, q21, e⟩ := bd_o e
      have k22 := kX0_prove (G := G) 16 (b := b) (ad := ad)  q21
      have z23 := (k22 rr19).1.2.2.2
      refine r_callV (j := some 0) 1 [tr (some p11.1)] (rec_sg (j := 0) (r := (RX0, TX0, 36)) rfl (by rw [E.p]; rfl)) rfl k22 (injO_1 E.p) (subO_1 E.p) getO_1 setO_1 (lw_V q877 q879 qs13 q115 q880) (by decide +kernel) rfl (Nat.le_of_ble_eq_true rfl) (Nat.le_of_ble_eq_true rfl) rfl (Nat.le_of_ble_eq_true rfl) dX0_entry_34 rfl ?_
      refine r_rrs E.p (fun rr24 => ?_)
      refine r_astore (lv' := [(4, tr p20.1), (0, tr (some b)), (1, ti a1), (2, ti a2), (3, ti a3)]) dX0_entry_37 (E.lt (by decide)) rfl ?_
      refine r_aload dX0_entry_39 0 rfl ?_
      obtain ⟨v25, q26, e⟩ := bd_o e
      refine r_getI fG_X0_341 q26 dX0_entry_41 ?_
      refine r_iconst dX0_entry_44 ?_
      have eT := (r_ifo e).1
      have eF := (r_ifo e).2
      refine r_icmp_ne (hI_r rr24 q26) (by decide) 74 dX0_entry_45 (by decide) (fun c27 => ?_) (fun c27 => ?_)
      · have e := eT c27
        refine r_sub [] rfl ?_
        exact wX0_entry_b74 E p20.2 e
      · have e := eF c27
        refine r_iload_n dX0_entry_48 rfl 4 rfl ?_
        refine r_i2l ha3 dX0_entry_49 ?_
        refine r_lconst 0 dX0_entry_50 rfl ?_
        refine r_aload dX0_entry_51 0 rfl ?_
        obtain ⟨g30, e⟩ := gd_o e
        obtain ⟨p28, q29, e⟩ := bd_o e
        have k31 := kX10_size (G := G) 16  q29
        have z32 := (k31 rr24.none).1.2.2.2
        refine r_callVo (j := none) 0 [] (c := 10) (rc := (RX10, TX10, 4)) rfl g30 rfl k31 (injO_1 E.p) subO_0 getO_0 setO_0 (lw_V q981 q982 q983 q134 q984) (by decide +kernel) rfl (Nat.le_of_ble_eq_true rfl) (Nat.le_of_ble_eq_true rfl) rfl (Nat.le_of_ble_eq_true rfl) dX0_entry_53 rfl ?_
        refine r_iconst dX0_entry_56 ?_
        refine r_isub dX0_entry_57 ?_
        refine r_i2l (wr_r _) dX0_entry_58 ?_
        obtain ⟨p33, q34, e⟩ := bd_o e
        have k35 := kX0_isIn (G := G) (h := p20.2) (rI_L ha3) (by decide) (rI_L (wr_r _)) q34
        have z36 := (k35 rr24.none).1.2.2.2
        refine r_callS (j := none) 3 [tl a3, tl 0, tl (wr (p28 - 1))] k35 (injO_1 E.p) subO_0 getO_0 setO_0 (lw_S q397 q398 q115 q399) (by decide +kernel) rfl (Nat.le_of_ble_eq_true rfl) (Nat.le_of_ble_eq_true rfl) rfl (Nat.le_of_ble_eq_true rfl) dX0_entry_59 rfl ?_
        have eT := (r_ifo e).1
        have eF := (r_ifo e).2
        refine r_if_eq (rI_z z36) 74 dX0_entry_62 (by decide) (fun c37 => ?_) (fun c37 => ?_)
        · have e := eT c37
          refine r_sub [] rfl ?_
          exact wX0_entry_b74 E p20.2 e
        · have e := eF c37
          refine r_aload dX0_entry_65 0 rfl ?_
          refine r_iload_n dX0_entry_67 rfl 4 rfl ?_
          obtain ⟨g40, e⟩ := gd_o e
          obtain ⟨p38, q39, e⟩ := bd_o e
          have k41 := kX10_entry (G := G) 16 ha3 q39
          have z42 := (k41 rr24.none).1.2.2.2
          refine r_callVo (j := none) 1 [ti a3] (c := 10) (rc := (RX10, TX10, 4)) rfl g40 rfl k41 (injO_1 E.p) subO_0 getO_0 setO_0 (lw_V q1064 q1065 q1066 q134 q1067) (by decide +kernel) rfl (Nat.le_of_ble_eq_true rfl) (Nat.le_of_ble_eq_true rfl) rfl (Nat.le_of_ble_eq_true rfl) dX0_entry_68 rfl ?_
          refine r_goto 76 dX0_entry_71 (by decide) ?_
          refine r_sub [] rfl ?_
          exact wX0_entry_b76 E p20.2 p38 z42 e
    · have e := eF c10
      refine r_sub [] rfl ?_
      exact wX0_entry_b16 E h e
def fX0_tellNeed_b46 (s : Sg) (h : hS) (k0 : Int) : Option (Int) := some k0
theorem wX0_tellNeed_b46 {N : Nx} {b : Nat} {ad : Nat → Nat} {s : Sg} {h : hS} {r : Int} (E : EndX N [(0, b, ad)] 4 (some .int) (some (ti r)) [s] h)  (k0 : Int) (hk0 : rI k0) (e : fX0_tellNeed_b46 s h k0 = some (r)) : AtPc cX0_tellNeed RX0 20 434 N [s] h 46 [] [ti k0] := by
  unfold fX0_tellNeed_b46 at e
  refine r_rrs E.p (fun rr => ?_)
  cases e
  exact r_iret E.σ E.st E.rt E.r hk0 dX0_tellNeed_46
def fX0_tellNeed_b16 (s : Sg) (h : hS) (a2 : Int) (k0 : Int) : Option (Int) := bd (fX0_plainOf s k0) fun p1 => bd (fX0_has p1 a2) fun p5 => if p5 = 0 then bd (fX0_has k0 a2) fun p10 => if p10 = 0 then fX0_tellNeed_b46 s h 0 else fX0_tellNeed_b46 s h 1 else fX0_tellNeed_b46 s h 2
theorem wX0_tellNeed_b16 {N : Nx} {b : Nat} {ad : Nat → Nat} {s : Sg} {h : hS} {r : Int} (E : EndX N [(0, b, ad)] 4 (some .int) (some (ti r)) [s] h)  (a2 : Int) (k0 : Int) (ha2 : rI a2) (hk0 : rI k0) (e : fX0_tellNeed_b16 s h a2 k0 = some (r)) : AtPc cX0_tellNeed RX0 20 434 N [s] h 16 [(0, tr (some b)), (2, ti a2)] [ti k0] := by
  unfold fX0_tellNeed_b16 at e
  refine r_rrs E.p (fun rr => ?_)
  refine r_istore_n (lv' := [(3, ti k0), (0, tr (some b)), (2, ti a2)]) dX0_tellNeed_16 rfl (E.lt (by decide)) rfl ?_
  refine r_aload_n dX0_tellNeed_17 rfl 1 rfl ?_
  refine r_iload_n dX0_tellNeed_18 rfl 0 rfl ?_
  obtain ⟨p1, q2, e⟩ := bd_o e
  have k3 := kX0_plainOf (G := nG N) (b := b) (ad := ad) (h := h) hk0 q2
  have z4 := (k3 rr).1.2.2.2
  refine r_callV (j := some 0) 1 [ti k0] (rec_sg (j := 0) (r := (RX0, TX0, 36)) rfl (by rw [E.p]; rfl)) rfl k3 (injO_1 E.p) (subO_1 E.p) getO_1 setO_1 (lw_V q1056 q1058 qs21 q115 q1059) (by decide +kernel) rfl (Nat.le_of_ble_eq_true rfl) (Nat.le_of_ble_eq_true rfl) rfl (Nat.le_of_ble_eq_true rfl) dX0_tellNeed_19 rfl ?_
  refine r_iload_n dX0_tellNeed_22 rfl 2 rfl ?_
  obtain ⟨p5, q6, e⟩ := bd_o e
  have k7 := kX0_has (G := nG N) (h := h) z4 ha2 q6
  have z8 := (k7 rr.none).1.2.2.2
  refine r_callS (j := none) 2 [ti p1, ti a2] k7 (injO_1 E.p) subO_0 getO_0 setO_0 (lw_S q441 q442 q115 q443) (by decide +kernel) rfl (Nat.le_of_ble_eq_true rfl) (Nat.le_of_ble_eq_true rfl) rfl (Nat.le_of_ble_eq_true rfl) dX0_tellNeed_23 rfl ?_
  have eT := (r_ifo e).1
  have eF := (r_ifo e).2
  refine r_if_eq (rI_z z8) 33 dX0_tellNeed_26 (by decide) (fun c9 => ?_) (fun c9 => ?_)
  · have e := eT c9
    refine r_iload_n dX0_tellNeed_33 rfl 0 rfl ?_
    refine r_iload_n dX0_tellNeed_34 rfl 2 rfl ?_
    obtain ⟨p10, q11, e⟩ := bd_o e
    have k12 := kX0_has (G := nG N) (h := h) hk0 ha2 q11
    have z13 := (k12 rr.none).1.2.2.2
    refine r_callS (j := none) 2 [ti k0, ti a2] k12 (injO_1 E.p) subO_0 getO_0 setO_0 (lw_S q441 q442 q115 q443) (by decide +kernel) rfl (Nat.le_of_ble_eq_true rfl) (Nat.le_of_ble_eq_true rfl) rfl (Nat.le_of_ble_eq_true rfl) dX0_tellNeed_35 rfl ?_
    have eT := (r_ifo e).1
    have eF := (r_ifo e).2
    refine r_if_eq (rI_z z13) 45 dX0_tellNeed_38 (by decide) (fun c14 => ?_) (fun c14 => ?_)
    · have e := eT c14
      refine r_iconst dX0_tellNeed_45 ?_
      refine r_sub [] rfl ?_
      exact wX0_tellNeed_b46 E 0 (by decide) e
    · have e := eF c14
      refine r_iconst dX0_tellNeed_41 ?_
      refine r_goto 46 dX0_tellNeed_42 (by decide) ?_
      refine r_sub [] rfl ?_
      exact wX0_tellNeed_b46 E 1 (by decide) e
  · have e := eF c9
    refine r_iconst dX0_tellNeed_29 ?_
    refine r_goto 46 dX0_tellNeed_30 (by decide) ?_
    refine r_sub [] rfl ?_
    exact wX0_tellNeed_b46 E 2 (by decide) e
def fX0_tellNeed  (s : Sg) (h : hS) (o1 : Option Nat) (a2 : Int) : Option (Int) := bd (hI h o1 [(10, 1)]) fun v1 => if ¬ v1 = 1 then fX0_tellNeed_b16 s h a2 0 else gd (hC h o1 = some 10) (bd (fX10_needs 16 h o1) fun p4 => fX0_tellNeed_b16 s h a2 p4)
theorem kX0_tellNeed {G : Gx}  {b : Nat} {ad : Nat → Nat} {s : Sg} {h : hS} {r : Int} {o1 : Option Nat} {a2 : Int}  (ha2 : rI a2) (e : fX0_tellNeed s h o1 a2 = some (r)) : CtX G yX0_tellNeed cX0_tellNeed 4 (some .int) 20 434 [(0, b, ad)] [s] h [tr (some b), tr o1, ti a2] (some (ti r)) [s] h := by
  refine CtX.of (by decide) (Nat.le_of_ble_eq_true rfl) [(0, tr (some b)), (1, tr o1), (2, ti a2)] rfl ?_
  have E : EndX (G, 4, [(0, b, ad)], h, [s], h, (some .int), (some (ti r)), yX0_tellNeed.name) [(0, b, ad)] 4 (some .int) (some (ti r)) [s] h := ⟨rfl, rfl, rfl, rfl, rfl, rfl⟩
  unfold fX0_tellNeed at e
  refine r_rrs E.p (fun rr => ?_)
  refine r_aload_n dX0_tellNeed_0 rfl 1 rfl ?_
  obtain ⟨v1, q2, e⟩ := bd_o e
  refine r_getI fG_X0_341 q2 dX0_tellNeed_1 ?_
  refine r_iconst dX0_tellNeed_4 ?_
  have eT := (r_ifo e).1
  have eF := (r_ifo e).2
  refine r_icmp_ne (hI_r rr q2) (by decide) 15 dX0_tellNeed_5 (by decide) (fun c3 => ?_) (fun c3 => ?_)
  · have e := eT c3
    refine r_iconst dX0_tellNeed_15 ?_
    refine r_sub [0, 2] rfl ?_
    exact wX0_tellNeed_b16 E a2 0 ha2 (by decide) e
  · have e := eF c3
    refine r_aload_n dX0_tellNeed_8 rfl 1 rfl ?_
    obtain ⟨g6, e⟩ := gd_o e
    obtain ⟨p4, q5, e⟩ := bd_o e
    have k7 := kX10_needs (G := G) 16  q5
    have z8 := (k7 rr.none).1.2.2.2
    refine r_callVo (j := none) 0 [] (c := 10) (rc := (RX10, TX10, 4)) rfl g6 rfl k7 (injO_1 E.p) subO_0 getO_0 setO_0 (lw_V q1045 q1046 q1047 q134 q1048) (by decide +kernel) rfl (Nat.le_of_ble_eq_true rfl) (Nat.le_of_ble_eq_true rfl) rfl (Nat.le_of_ble_eq_true rfl) dX0_tellNeed_9 rfl ?_
    refine r_goto 16 dX0_tellNeed_12 (by decide) ?_
    refine r_sub [0, 2] rfl ?_
    exact wX0_tellNeed_b16 E a2 p4 ha2 z8 e
def fX0_need_b16 (pm : Option Nat) (s : Sg) (h : hS) : Option (Int × hS) := some ((-101), h)
theorem wX0_need_b16 {N : Nx} {b : Nat} {ad : Nat → Nat} {s : Sg} {h' : hS} {r : Int} (E : EndX N [(0, b, ad)] 5 (some .int) (some (ti r)) [s] h')  (h : hS) (e : fX0_need_b16 (some (ad 20)) s h = some (r, h')) : AtPc cX0_need RX0 83 2822 N [s] h 16 [] [] := by
  unfold fX0_need_b16 at e
  refine r_rrs E.p (fun rr => ?_)
  refine r_bipush dX0_need_16 (by decide) ?_
  cases e
  exact r_iret E.σ E.st E.rt E.r (by decide) dX0_need_18
def fX0_need_b71 (pm : Option Nat) (s : Sg) (h : hS) (k0 : Int) : Option (Int × hS) := some (k0, h)
theorem wX0_need_b71 {N : Nx} {b : Nat} {ad : Nat → Nat} {s : Sg} {h' : hS} {r : Int} (E : EndX N [(0, b, ad)] 5 (some .int) (some (ti r)) [s] h')  (h : hS) (k0 : Int) (hk0 : rI k0) (e : fX0_need_b71 (some (ad 20)) s h k0 = some (r, h')) : AtPc cX0_need RX0 83 2822 N [s] h 71 [] [ti k0] := by
  unfold fX0_need_b71 at e
  refine r_rrs E.p (fun rr => ?_)
  cases e
  exact r_iret E.σ E.st E.rt E.r hk0 dX0_need_71
def fX0_need_b69 (pm : Option Nat) (s : Sg) (h : hS) : Option (Int × hS) := fX0_need_b71 pm s h (-102)
theorem wX0_need_b69 {N : Nx} {b : Nat} {ad : Nat → Nat} {s : Sg} {h' : hS} {r : Int} (E : EndX N [(0, b, ad)] 5 (some .int) (some (ti r)) [s] h')  (h : hS) (e : fX0_need_b69 (some (ad 20)) s h = some (r, h')) : AtPc cX0_need RX0 83 2822 N [s] h 69 [] [] := by
  unfold fX0_need_b69 at e
  refine r_rrs E.p (fun rr => ?_)
  refine r_bipush dX0_need_69 (by decide) ?_
  exact wX0_need_b71 E h (-102) (by decide) e
def fX0_need  (pm : Option Nat) (s : Sg) (h : hS) (a1 : Int) (a2 : Int) (a3 : Int) (a4 : Int) : Option (Int × hS) := bd (fX0_isClass s a1) fun p1 => if p1 = 0 then fX0_need_b16 pm s h else bd (fX0_isSlot s a2) fun p6 => if ¬ p6 = 0 then bd (fX0_isClass s a3) fun p11 => if p11 = 0 then fX0_need_b69 pm s h else bd (fX0_isIn a4 0 1) fun p16 => if p16 = 0 then fX0_need_b69 pm s h else bd (nwS h 9 [vi 0, vq none]) fun p21 => gd (inb a2 4) (bd (fX9_init p21.2 (some p21.1) a1 (gQ s 6 a2)) fun p25 => bd (fX0_prove 16 pm s p25 (some p21.1)) fun p30 => bd (fX0_tellNeed s p30.2 p30.1 (wr ((wr (2 * a3)) + a4))) fun p35 => fX0_need_b71 pm s p30.2 p35) else fX0_need_b16 pm s h
theorem kX0_need {G : Gx}  {b : Nat} {ad : Nat → Nat} {s : Sg} {h' : hS} {r : Int} {h : hS} {a1 : Int} {a2 : Int} {a3 : Int} {a4 : Int}  (ha1 : rI a1) (ha2 : rI a2) (ha3 : rI a3) (ha4 : rI a4) (e : fX0_need (some (ad 20)) s h a1 a2 a3 a4 = some (r, h')) : CtX G yX0_need cX0_need 5 (some .int) 83 2822 [(0, b, ad)] [s] h [tr (some b), ti a1, ti a2, ti a3, ti a4] (some (ti r)) [s] h' := by
  refine CtX.of (by decide) (Nat.le_of_ble_eq_true rfl) [(0, tr (some b)), (1, ti a1), (2, ti a2), (3, ti a3), (4, ti a4)] rfl ?_
  have E : EndX (G, 5, [(0, b, ad)], h, [s], h', (some .int), (some (ti r)), yX0_need.name) [(0, b, ad)] 5 (some .int) (some (ti r)) [s] h' := ⟨rfl, rfl, rfl, rfl, rfl, rfl⟩
  unfold fX0_need at e
  refine r_rrs E.p (fun rr => ?_)
  refine r_aload_n dX0_need_0 rfl 0 rfl ?_
  refine r_iload_n dX0_need_1 rfl 1 rfl ?_
  obtain ⟨p1, q2, e⟩ := bd_o e
  have k3 := kX0_isClass (G := G) (b := b) (ad := ad) (h := h) ha1 q2
  have z4 := (k3 rr).1.2.2.2
  refine r_callV (j := some 0) 1 [ti a1] (rec_sg (j := 0) (r := (RX0, TX0, 36)) rfl (by rw [E.p]; rfl)) rfl k3 (injO_1 E.p) (subO_1 E.p) getO_1 setO_1 (lw_V q849 q851 qs10 q115 q852) (by decide +kernel) rfl (Nat.le_of_ble_eq_true rfl) (Nat.le_of_ble_eq_true rfl) rfl (Nat.le_of_ble_eq_true rfl) dX0_need_2 rfl ?_
  have eT := (r_ifo e).1
  have eF := (r_ifo e).2
  refine r_if_eq (rI_z z4) 16 dX0_need_5 (by decide) (fun c5 => ?_) (fun c5 => ?_)
  · have e := eT c5
    refine r_sub [] rfl ?_
    exact wX0_need_b16 E h e
  · have e := eF c5
    refine r_aload_n dX0_need_8 rfl 0 rfl ?_
    refine r_iload_n dX0_need_9 rfl 2 rfl ?_
    obtain ⟨p6, q7, e⟩ := bd_o e
    have k8 := kX0_isSlot (G := G) (b := b) (ad := ad) (h := h) ha2 q7
    have z9 := (k8 rr).1.2.2.2
    refine r_callV (j := some 0) 1 [ti a2] (rec_sg (j := 0) (r := (RX0, TX0, 36)) rfl (by rw [E.p]; rfl)) rfl k8 (injO_1 E.p) (subO_1 E.p) getO_1 setO_1 (lw_V q853 q855 qs11 q115 q856) (by decide +kernel) rfl (Nat.le_of_ble_eq_true rfl) (Nat.le_of_ble_eq_true rfl) rfl (Nat.le_of_ble_eq_true rfl) dX0_need_10 rfl ?_
    have eT := (r_ifo e).1
    have eF := (r_ifo e).2
    refine r_if_ne (rI_z z9) 19 dX0_need_13 (by decide) (fun c10 => ?_) (fun c10 => ?_)
    · have e := eT c10
      refine r_aload_n dX0_need_19 rfl 0 rfl ?_
      refine r_iload_n dX0_need_20 rfl 3 rfl ?_
      obtain ⟨p11, q12, e⟩ := bd_o e
      have k13 := kX0_isClass (G := G) (b := b) (ad := ad) (h := h) ha3 q12
      have z14 := (k13 rr).1.2.2.2
      refine r_callV (j := some 0) 1 [ti a3] (rec_sg (j := 0) (r := (RX0, TX0, 36)) rfl (by rw [E.p]; rfl)) rfl k13 (injO_1 E.p) (subO_1 E.p) getO_1 setO_1 (lw_V q849 q851 qs10 q115 q852) (by decide +kernel) rfl (Nat.le_of_ble_eq_true rfl) (Nat.le_of_ble_eq_true rfl) rfl (Nat.le_of_ble_eq_true rfl) dX0_need_21 rfl ?_
      have eT := (r_ifo e).1
      have eF := (r_ifo e).2
      refine r_if_eq (rI_z z14) 69 dX0_need_24 (by decide) (fun c15 => ?_) (fun c15 => ?_)
      · have e := eT c15
        refine r_sub [] rfl ?_
        exact wX0_need_b69 E h e
      · have e := eF c15
        refine r_iload dX0_need_27 4 rfl ?_
        refine r_i2l ha4 dX0_need_29 ?_
        refine r_lconst 0 dX0_need_30 rfl ?_
        refine r_lconst 1 dX0_need_31 rfl ?_
        obtain ⟨p16, q17, e⟩ := bd_o e
        have k18 := kX0_isIn (G := G) (h := h) (rI_L ha4) (by decide) (by decide) q17
        have z19 := (k18 rr.none).1.2.2.2
        refine r_callS (j := none) 3 [tl a4, tl 0, tl 1] k18 (injO_1 E.p) subO_0 getO_0 setO_0 (lw_S q397 q398 q115 q399) (by decide +kernel) rfl (Nat.le_of_ble_eq_true rfl) (Nat.le_of_ble_eq_true rfl) rfl (Nat.le_of_ble_eq_true rfl) dX0_need_32 rfl ?_
        have eT := (r_ifo e).1
        have eF := (r_ifo e).2
        refine r_if_eq (rI_z z19) 69 dX0_need_35 (by decide) (fun c20 => ?_) (fun c20 => ?_)
        · have e := eT c20
          refine r_sub [] rfl ?_
          exact wX0_need_b69 E h e
        · have e := eF c20
          refine r_aload_n dX0_need_38 rfl 0 rfl ?_
          refine r_aload_n dX0_need_39 rfl 0 rfl ?_
          obtain ⟨p21, q22, e⟩ := bd_o e
          refine r_newS [vi 0, vq none] q22 rfl in_X9 tyX9_ok q862 q863 q133 (by decide +kernel) rfl (by decide +kernel) dX0_need_40 ?_
          refine r_rrs E.p (fun rr23 => ?_)
          refine r_dup dX0_need_43 rfl ?_
          refine r_iload_n dX0_need_44 rfl 1 rfl ?_
          refine r_aload_n dX0_need_45 rfl 0 rfl ?_
          refine r_sR E.p 6 fG_X0_117 (by decide) dX0_need_46 ?_
          refine r_iload_n dX0_need_49 rfl 2 rfl ?_
          obtain ⟨g24, e⟩ := gd_o e
          refine r_saQ E.p 6 rfl (by decide) (by decide) (by decide) ha2 g24 dX0_need_50 ?_
          obtain ⟨p25, q26, e⟩ := bd_o e
          have k27 := kX9_init (G := G) ha1 q26
          have z28 := (k27 rr23.none).1.2.2.2
          refine r_callIo (j := none) 2 [ti a1, tr (gQ s 6 a2)] (fun q => by cases q) rfl rfl k27 (injO_1 E.p) subO_0 getO_0 setO_0 q866 q133 q864 q865 (by decide +kernel) rfl (Nat.le_of_ble_eq_true rfl) (Nat.le_of_ble_eq_true rfl) rfl (Nat.le_of_ble_eq_true rfl) dX0_need_51 rfl ?_
          refine r_rrs E.p (fun rr29 => ?_)
          obtain ⟨p30, q31, e⟩ := bd_o e
          have k32 := kX0_prove (G := G) 16 (b := b) (ad := ad)  q31
          have z33 := (k32 rr29).1.2.2.2
          refine r_callV (j := some 0) 1 [tr (some p21.1)] (rec_sg (j := 0) (r := (RX0, TX0, 36)) rfl (by rw [E.p]; rfl)) rfl k32 (injO_1 E.p) (subO_1 E.p) getO_1 setO_1 (lw_V q877 q879 qs13 q115 q880) (by decide +kernel) rfl (Nat.le_of_ble_eq_true rfl) (Nat.le_of_ble_eq_true rfl) rfl (Nat.le_of_ble_eq_true rfl) dX0_need_54 rfl ?_
          refine r_rrs E.p (fun rr34 => ?_)
          refine r_iconst dX0_need_57 ?_
          refine r_iload_n dX0_need_58 rfl 3 rfl ?_
          refine r_imul dX0_need_59 ?_
          refine r_iload dX0_need_60 4 rfl ?_
          refine r_iadd dX0_need_62 ?_
          obtain ⟨p35, q36, e⟩ := bd_o e
          have k37 := kX0_tellNeed (G := G) (b := b) (ad := ad) (wr_r _) q36
          have z38 := (k37 rr34).1.2.2.2
          refine r_callV (j := some 0) 2 [tr p30.1, ti (wr ((wr (2 * a3)) + a4))] (rec_sg (j := 0) (r := (RX0, TX0, 36)) rfl (by rw [E.p]; rfl)) rfl k37 (injO_1 E.p) (subO_1 E.p) getO_1 setO_1 (lw_V q1073 q1075 qs22 q115 q1076) (by decide +kernel) rfl (Nat.le_of_ble_eq_true rfl) (Nat.le_of_ble_eq_true rfl) rfl (Nat.le_of_ble_eq_true rfl) dX0_need_63 rfl ?_
          refine r_goto 71 dX0_need_66 (by decide) ?_
          refine r_sub [] rfl ?_
          exact wX0_need_b71 E p30.2 p35 z38 e
    · have e := eF c10
      refine r_sub [] rfl ?_
      exact wX0_need_b16 E h e
def fX0_instancesOf_b31 (K4 : Sg → hS → Int → Int → Int → Option (Int)) (s : Sg) (h : hS) (a1 : Int) (a3 : Int) (k0 : Int) (k1 : Int) : Option (Int) := K4 s h a1 (wr (k0 + k1)) (wr (a3 + 1))
theorem wX0_instancesOf_b31 {N : Nx} {b : Nat} {ad : Nat → Nat} {s : Sg} {h : hS} {r : Int} (E : EndX N [(0, b, ad)] 4 (some .int) (some (ti r)) [s] h) (K4 : Sg → hS → Int → Int → Int → Option (Int)) (hK4 : ∀ (a1 : Int) (a2 : Int) (a3 : Int) (ha1 : rI a1) (ha2 : rI a2) (ha3 : rI a3), K4 s h a1 a2 a3 = some (r) → AtPc cX0_instancesOf RX0 0 0 N [s] h 4 [(0, tr (some b)), (1, ti a1), (2, ti a2), (3, ti a3)] []) (a1 : Int) (a3 : Int) (k0 : Int) (k1 : Int) (ha1 : rI a1) (ha3 : rI a3) (hk0 : rI k0) (hk1 : rI k1) (e : fX0_instancesOf_b31 K4 s h a1 a3 k0 k1 = some (r)) : AtPc cX0_instancesOf RX0 0 0 N [s] h 31 [(0, tr (some b)), (1, ti a1), (3, ti a3)] [ti k1, ti k0] := by
  unfold fX0_instancesOf_b31 at e
  refine r_rrs E.p (fun rr => ?_)
  refine r_iadd dX0_instancesOf_31 ?_
  refine r_istore_n (lv' := [(2, ti (wr (k0 + k1))), (0, tr (some b)), (1, ti a1), (3, ti a3)]) dX0_instancesOf_32 rfl (E.lt (by decide)) rfl ?_
  refine r_iinc (lv' := [(3, ti (wr (a3 + 1))), (2, ti (wr (k0 + k1))), (0, tr (some b)), (1, ti a1)]) dX0_instancesOf_33 3 rfl (E.lt (by decide)) rfl ?_
  refine r_goto 4 dX0_instancesOf_36 (by decide) ?_
  refine r_sub [2, 3, 1, 0] rfl ?_
  exact hK4 a1 (wr (k0 + k1)) (wr (a3 + 1)) ha1 (wr_r _) (wr_r _) e
def fX0_instancesOf_b4 (K4 : Sg → hS → Int → Int → Int → Option (Int)) (s : Sg) (h : hS) (a1 : Int) (a2 : Int) (a3 : Int) : Option (Int) := if (gI s 5) ≤ a3 then some a2 else gd (inb a3 6) (bd (hI h (gQ s 4 a3) [(1, 1), (2, 1), (3, 1), (4, 1), (5, 1)]) fun v3 => if ¬ v3 = a1 then fX0_instancesOf_b31 K4 s h a1 a3 a2 0 else fX0_instancesOf_b31 K4 s h a1 a3 a2 1)
theorem wX0_instancesOf_b4 {N : Nx} {b : Nat} {ad : Nat → Nat} {s : Sg} {h : hS} {r : Int} (E : EndX N [(0, b, ad)] 4 (some .int) (some (ti r)) [s] h) (K4 : Sg → hS → Int → Int → Int → Option (Int)) (hK4 : ∀ (a1 : Int) (a2 : Int) (a3 : Int) (ha1 : rI a1) (ha2 : rI a2) (ha3 : rI a3), K4 s h a1 a2 a3 = some (r) → AtPc cX0_instancesOf RX0 0 0 N [s] h 4 [(0, tr (some b)), (1, ti a1), (2, ti a2), (3, ti a3)] []) (a1 : Int) (a2 : Int) (a3 : Int) (ha1 : rI a1) (ha2 : rI a2) (ha3 : rI a3) (e : fX0_instancesOf_b4 K4 s h a1 a2 a3 = some (r)) : AtPc cX0_instancesOf RX0 0 0 N [s] h 4 [(0, tr (some b)), (1, ti a1), (2, ti a2), (3, ti a3)] [] := by
  unfold fX0_instancesOf_b4 at e
  refine r_rrs E.p (fun rr => ?_)
  refine r_iload_n dX0_instancesOf_4 rfl 3 rfl ?_
  refine r_aload_n dX0_instancesOf_5 rfl 0 rfl ?_
  refine r_sI E.p 5 fG_X0_268 (by decide) dX0_instancesOf_6 ?_
  have eT := (r_ifo e).1
  have eF := (r_ifo e).2
  refine r_icmp_ge ha3 ((rr.mine rfl).i 5 (by decide) (by decide)) 39 dX0_instancesOf_9 (by decide) (fun c1 => ?_) (fun c1 => ?_)
  · have e := eT c1
    refine r_iload_n dX0_instancesOf_39 rfl 2 rfl ?_
    cases e
    exact r_iret E.σ E.st E.rt E.r ha2 dX0_instancesOf_40
  · have e := eF c1
    refine r_iload_n dX0_instancesOf_12 rfl 2 rfl ?_
    refine r_aload_n dX0_instancesOf_13 rfl 0 rfl ?_
    refine r_sR E.p 4 fG_X0_114 (by decide) dX0_instancesOf_14 ?_
    refine r_iload_n dX0_instancesOf_17 rfl 3 rfl ?_
    obtain ⟨g2, e⟩ := gd_o e
    refine r_saQ E.p 4 rfl (by decide) (by decide) (by decide) ha3 g2 dX0_instancesOf_18 ?_
    obtain ⟨v3, q4, e⟩ := bd_o e
    refine r_getI fG_X0_248 q4 dX0_instancesOf_19 ?_
    refine r_iload_n dX0_instancesOf_22 rfl 1 rfl ?_
    have eT := (r_ifo e).1
    have eF := (r_ifo e).2
    refine r_icmp_ne (hI_r rr q4) ha1 30 dX0_instancesOf_23 (by decide) (fun c5 => ?_) (fun c5 => ?_)
    · have e := eT c5
      refine r_iconst dX0_instancesOf_30 ?_
      refine r_sub [0, 1, 3] rfl ?_
      exact wX0_instancesOf_b31 E K4 hK4 a1 a3 a2 0 ha1 ha3 ha2 (by decide) e
    · have e := eF c5
      refine r_iconst dX0_instancesOf_26 ?_
      refine r_goto 31 dX0_instancesOf_27 (by decide) ?_
      refine r_sub [0, 1, 3] rfl ?_
      exact wX0_instancesOf_b31 E K4 hK4 a1 a3 a2 1 ha1 ha3 ha2 (by decide) e
def fX0_instancesOf_L4  : Nat → Sg → hS → Int → Int → Int → Option (Int)
  | 0, _, _, _, _, _ => none
  | n9 + 1, s, h, a1, a2, a3 => fX0_instancesOf_b4 (fX0_instancesOf_L4 n9) s h a1 a2 a3
theorem wX0_instancesOf_L4 {N : Nx} {b : Nat} {ad : Nat → Nat} {s : Sg} {h : hS} {r : Int} (E : EndX N [(0, b, ad)] 4 (some .int) (some (ti r)) [s] h)  : ∀ (n9 : Nat), ∀ (a1 : Int) (a2 : Int) (a3 : Int) (ha1 : rI a1) (ha2 : rI a2) (ha3 : rI a3), fX0_instancesOf_L4 n9 s h a1 a2 a3 = some (r) → AtPc cX0_instancesOf RX0 0 0 N [s] h 4 [(0, tr (some b)), (1, ti a1), (2, ti a2), (3, ti a3)] [] := by
  intro n9
  induction n9 with
  | zero => intro a1 a2 a3 ha1 ha2 ha3 e; cases e
  | succ n9 ih => intro a1 a2 a3 ha1 ha2 ha3 e; exact wX0_instancesOf_b4 E _ ih a1 a2 a3 ha1 ha2 ha3 e
def fX0_instancesOf  (s : Sg) (h : hS) (a1 : Int) : Option (Int) := fX0_instancesOf_L4 FU s h a1 0 0
theorem kX0_instancesOf {G : Gx}  {b : Nat} {ad : Nat → Nat} {s : Sg} {h : hS} {r : Int} {a1 : Int}  (ha1 : rI a1) (e : fX0_instancesOf s h a1 = some (r)) : CtX G yX0_instancesOf cX0_instancesOf 4 (some .int) 0 0 [(0, b, ad)] [s] h [tr (some b), ti a1] (some (ti r)) [s] h := by
  refine CtX.of (by decide) (Nat.le_of_ble_eq_true rfl) [(0, tr (some b)), (1, ti a1)] rfl ?_
  have E : EndX (G, 4, [(0, b, ad)], h, [s], h, (some .int), (some (ti r)), yX0_instancesOf.name) [(0, b, ad)] 4 (some .int) (some (ti r)) [s] h := ⟨rfl, rfl, rfl, rfl, rfl, rfl⟩
  unfold fX0_instancesOf at e
  refine r_rrs E.p (fun rr => ?_)
  refine r_iconst dX0_instancesOf_0 ?_
  refine r_istore_n (lv' := [(2, ti 0), (0, tr (some b)), (1, ti a1)]) dX0_instancesOf_1 rfl (E.lt (by decide)) rfl ?_
  refine r_iconst dX0_instancesOf_2 ?_
  refine r_istore_n (lv' := [(3, ti 0), (2, ti 0), (0, tr (some b)), (1, ti a1)]) dX0_instancesOf_3 rfl (E.lt (by decide)) rfl ?_
  refine r_sub [2, 3, 1, 0] rfl ?_
  exact wX0_instancesOf_L4 E FU a1 0 0 ha1 (by decide) (by decide) e
def fX0_about  (s : Sg) (h : hS) (a1 : Int) (a2 : Int) : Option (Int) := bd (fX0_isClass s a1) fun p1 => if ¬ p1 = 0 then if a2 = 0 then gd (inb a1 4) (some (gA s 1 a1)) else if a2 = 1 then gd (inb a1 4) (some (gA s 2 a1)) else if a2 = 2 then bd (fX0_instancesOf s h a1) fun p11 => some p11 else some (-102) else some (-101)
theorem kX0_about {G : Gx}  {b : Nat} {ad : Nat → Nat} {s : Sg} {h : hS} {r : Int} {a1 : Int} {a2 : Int}  (ha1 : rI a1) (ha2 : rI a2) (e : fX0_about s h a1 a2 = some (r)) : CtX G yX0_about cX0_about 3 (some .int) 2 46 [(0, b, ad)] [s] h [tr (some b), ti a1, ti a2] (some (ti r)) [s] h := by
  refine CtX.of (by decide) (Nat.le_of_ble_eq_true rfl) [(0, tr (some b)), (1, ti a1), (2, ti a2)] rfl ?_
  have E : EndX (G, 3, [(0, b, ad)], h, [s], h, (some .int), (some (ti r)), yX0_about.name) [(0, b, ad)] 3 (some .int) (some (ti r)) [s] h := ⟨rfl, rfl, rfl, rfl, rfl, rfl⟩
  unfold fX0_about at e
  refine r_rrs E.p (fun rr => ?_)
  refine r_aload_n dX0_about_0 rfl 0 rfl ?_
  refine r_iload_n dX0_about_1 rfl 1 rfl ?_
  obtain ⟨p1, q2, e⟩ := bd_o e
  have k3 := kX0_isClass (G := G) (b := b) (ad := ad) (h := h) ha1 q2
  have z4 := (k3 rr).1.2.2.2
  refine r_callV (j := some 0) 1 [ti a1] (rec_sg (j := 0) (r := (RX0, TX0, 36)) rfl (by rw [E.p]; rfl)) rfl k3 (injO_1 E.p) (subO_1 E.p) getO_1 setO_1 (lw_V q849 q851 qs10 q115 q852) (by decide +kernel) rfl (Nat.le_of_ble_eq_true rfl) (Nat.le_of_ble_eq_true rfl) rfl (Nat.le_of_ble_eq_true rfl) dX0_about_2 rfl ?_
  have eT := (r_ifo e).1
  have eF := (r_ifo e).2
  refine r_if_ne (rI_z z4) 11 dX0_about_5 (by decide) (fun c5 => ?_) (fun c5 => ?_)
  · have e := eT c5
    refine r_iload_n dX0_about_11 rfl 2 rfl ?_
    have eT := (r_ifo e).1
    have eF := (r_ifo e).2
    by_cases c6 : a2 = 0
    · have e := eT c6
      refine r_tswI ha2 dX0_about_12 0 c6 40 (by decide) (by decide) rfl (by decide) ?_
      refine r_aload_n dX0_about_40 rfl 0 rfl ?_
      refine r_sR E.p 1 fG_X0_107 (by decide) dX0_about_41 ?_
      refine r_iload_n dX0_about_44 rfl 1 rfl ?_
      obtain ⟨g7, e⟩ := gd_o e
      refine r_saI E.p 1 rfl (by decide) (by decide) ha1 g7 rfl dX0_about_45 ?_
      cases e
      exact r_iret E.σ E.st E.rt E.r (((rr.mine rfl).a 1 (by decide) rfl).1 _) dX0_about_46
    · have e := eF c6
      have eT := (r_ifo e).1
      have eF := (r_ifo e).2
      by_cases c8 : a2 = 1
      · have e := eT c8
        refine r_tswI ha2 dX0_about_12 1 c8 47 (by decide) (by decide) rfl (by decide) ?_
        refine r_aload_n dX0_about_47 rfl 0 rfl ?_
        refine r_sR E.p 2 fG_X0_111 (by decide) dX0_about_48 ?_
        refine r_iload_n dX0_about_51 rfl 1 rfl ?_
        obtain ⟨g9, e⟩ := gd_o e
        refine r_saI E.p 2 rfl (by decide) (by decide) ha1 g9 rfl dX0_about_52 ?_
        cases e
        exact r_iret E.σ E.st E.rt E.r (((rr.mine rfl).a 2 (by decide) rfl).1 _) dX0_about_53
      · have e := eF c8
        have eT := (r_ifo e).1
        have eF := (r_ifo e).2
        by_cases c10 : a2 = 2
        · have e := eT c10
          refine r_tswI ha2 dX0_about_12 2 c10 54 (by decide) (by decide) rfl (by decide) ?_
          refine r_aload_n dX0_about_54 rfl 0 rfl ?_
          refine r_iload_n dX0_about_55 rfl 1 rfl ?_
          obtain ⟨p11, q12, e⟩ := bd_o e
          have k13 := kX0_instancesOf (G := G) (b := b) (ad := ad) ha1 q12
          have z14 := (k13 rr).1.2.2.2
          refine r_callV (j := some 0) 1 [ti a1] (rec_sg (j := 0) (r := (RX0, TX0, 36)) rfl (by rw [E.p]; rfl)) rfl k13 (injO_1 E.p) (subO_1 E.p) getO_1 setO_1 (lw_V q1081 q1083 qs23 q115 q1084) (by decide +kernel) rfl (Nat.le_of_ble_eq_true rfl) (Nat.le_of_ble_eq_true rfl) rfl (Nat.le_of_ble_eq_true rfl) dX0_about_56 rfl ?_
          cases e
          exact r_iret E.σ E.st E.rt E.r z14 dX0_about_59
        · have e := eF c10
          refine r_tswO ha2 dX0_about_12 60 (by omega) (by decide) ?_
          refine r_bipush dX0_about_60 (by decide) ?_
          cases e
          exact r_iret E.σ E.st E.rt E.r (by decide) dX0_about_62
  · have e := eF c5
    refine r_bipush dX0_about_8 (by decide) ?_
    cases e
    exact r_iret E.σ E.st E.rt E.r (by decide) dX0_about_10
def fX0_isInstance  (s : Sg) (a1 : Int) : Option (Int) := bd (fX0_isIn a1 0 (wr ((gI s 5) - 1))) fun p1 => some p1
theorem kX0_isInstance {G : Gx}  {b : Nat} {ad : Nat → Nat} {s : Sg} {h : hS} {r : Int} {a1 : Int}  (ha1 : rI a1) (e : fX0_isInstance s a1 = some (r)) : CtX G yX0_isInstance cX0_isInstance 2 (some .boolean) 1 25 [(0, b, ad)] [s] h [tr (some b), ti a1] (some (ti r)) [s] h := by
  refine CtX.of (by decide) (Nat.le_of_ble_eq_true rfl) [(0, tr (some b)), (1, ti a1)] rfl ?_
  have E : EndX (G, 2, [(0, b, ad)], h, [s], h, (some .boolean), (some (ti r)), yX0_isInstance.name) [(0, b, ad)] 2 (some .boolean) (some (ti r)) [s] h := ⟨rfl, rfl, rfl, rfl, rfl, rfl⟩
  unfold fX0_isInstance at e
  refine r_rrs E.p (fun rr => ?_)
  refine r_iload_n dX0_isInstance_0 rfl 1 rfl ?_
  refine r_i2l ha1 dX0_isInstance_1 ?_
  refine r_lconst 0 dX0_isInstance_2 rfl ?_
  refine r_aload_n dX0_isInstance_3 rfl 0 rfl ?_
  refine r_sI E.p 5 fG_X0_268 (by decide) dX0_isInstance_4 ?_
  refine r_iconst dX0_isInstance_7 ?_
  refine r_isub dX0_isInstance_8 ?_
  refine r_i2l (wr_r _) dX0_isInstance_9 ?_
  obtain ⟨p1, q2, e⟩ := bd_o e
  have k3 := kX0_isIn (G := G) (h := h) (rI_L ha1) (by decide) (rI_L (wr_r _)) q2
  have z4 := (k3 rr.none).1.2.2.2
  refine r_callS (j := none) 3 [tl a1, tl 0, tl (wr ((gI s 5) - 1))] k3 (injO_1 E.p) subO_0 getO_0 setO_0 (lw_S q397 q398 q115 q399) (by decide +kernel) rfl (Nat.le_of_ble_eq_true rfl) (Nat.le_of_ble_eq_true rfl) rfl (Nat.le_of_ble_eq_true rfl) dX0_isInstance_10 rfl ?_
  cases e
  exact r_zret E.σ E.st E.rt E.r z4 dX0_isInstance_13
def fX1_kind  (o0 : Option Nat) : Option (Int) := some 0
theorem kX1_kind {G : Gx}  {h : hS} {r : Int} {o0 : Option Nat}   (e : fX1_kind o0 = some (r)) : CtX G yX1_kind cX1_kind 1 (some .int) 0 0 [] [] h [tr o0] (some (ti r)) [] h := by
  refine CtX.of (by decide) (Nat.le_of_ble_eq_true rfl) [(0, tr o0)] rfl ?_
  have E : EndX (G, 1, [], h, [], h, (some .int), (some (ti r)), yX1_kind.name) [] 1 (some .int) (some (ti r)) [] h := ⟨rfl, rfl, rfl, rfl, rfl, rfl⟩
  unfold fX1_kind at e
  refine r_rrs E.p (fun rr => ?_)
  refine r_iconst dX1_kind_0 ?_
  cases e
  exact r_iret E.σ E.st E.rt E.r (by decide) dX1_kind_1
def fX2_kind  (o0 : Option Nat) : Option (Int) := some 1
theorem kX2_kind {G : Gx}  {h : hS} {r : Int} {o0 : Option Nat}   (e : fX2_kind o0 = some (r)) : CtX G yX2_kind cX2_kind 1 (some .int) 0 0 [] [] h [tr o0] (some (ti r)) [] h := by
  refine CtX.of (by decide) (Nat.le_of_ble_eq_true rfl) [(0, tr o0)] rfl ?_
  have E : EndX (G, 1, [], h, [], h, (some .int), (some (ti r)), yX2_kind.name) [] 1 (some .int) (some (ti r)) [] h := ⟨rfl, rfl, rfl, rfl, rfl, rfl⟩
  unfold fX2_kind at e
  refine r_rrs E.p (fun rr => ?_)
  refine r_iconst dX2_kind_0 ?_
  cases e
  exact r_iret E.σ E.st E.rt E.r (by decide) dX2_kind_1
def fX3_kind  (o0 : Option Nat) : Option (Int) := some 2
theorem kX3_kind {G : Gx}  {h : hS} {r : Int} {o0 : Option Nat}   (e : fX3_kind o0 = some (r)) : CtX G yX3_kind cX3_kind 1 (some .int) 0 0 [] [] h [tr o0] (some (ti r)) [] h := by
  refine CtX.of (by decide) (Nat.le_of_ble_eq_true rfl) [(0, tr o0)] rfl ?_
  have E : EndX (G, 1, [], h, [], h, (some .int), (some (ti r)), yX3_kind.name) [] 1 (some .int) (some (ti r)) [] h := ⟨rfl, rfl, rfl, rfl, rfl, rfl⟩
  unfold fX3_kind at e
  refine r_rrs E.p (fun rr => ?_)
  refine r_iconst dX3_kind_0 ?_
  cases e
  exact r_iret E.σ E.st E.rt E.r (by decide) dX3_kind_1
def fX4_kind  (o0 : Option Nat) : Option (Int) := some 3
theorem kX4_kind {G : Gx}  {h : hS} {r : Int} {o0 : Option Nat}   (e : fX4_kind o0 = some (r)) : CtX G yX4_kind cX4_kind 1 (some .int) 0 0 [] [] h [tr o0] (some (ti r)) [] h := by
  refine CtX.of (by decide) (Nat.le_of_ble_eq_true rfl) [(0, tr o0)] rfl ?_
  have E : EndX (G, 1, [], h, [], h, (some .int), (some (ti r)), yX4_kind.name) [] 1 (some .int) (some (ti r)) [] h := ⟨rfl, rfl, rfl, rfl, rfl, rfl⟩
  unfold fX4_kind at e
  refine r_rrs E.p (fun rr => ?_)
  refine r_iconst dX4_kind_0 ?_
  cases e
  exact r_iret E.σ E.st E.rt E.r (by decide) dX4_kind_1
def fX5_kind  (h : hS) (o0 : Option Nat) : Option (Int) := gd (hC h o0 = some 5) (bd (fX4_kind o0) fun p1 => some (wr (1 + p1)))
theorem kX5_kind {G : Gx}  {h : hS} {r : Int} {o0 : Option Nat}   (e : fX5_kind h o0 = some (r)) : CtX G yX5_kind cX5_kind 1 (some .int) 1 20 [] [] h [tr o0] (some (ti r)) [] h := by
  refine CtX.of (by decide) (Nat.le_of_ble_eq_true rfl) [(0, tr o0)] rfl ?_
  have E : EndX (G, 1, [], h, [], h, (some .int), (some (ti r)), yX5_kind.name) [] 1 (some .int) (some (ti r)) [] h := ⟨rfl, rfl, rfl, rfl, rfl, rfl⟩
  unfold fX5_kind at e
  refine r_rrs E.p (fun rr => ?_)
  refine r_iconst dX5_kind_0 ?_
  refine r_aload_n dX5_kind_1 rfl 0 rfl ?_
  obtain ⟨g3, e⟩ := gd_o e
  obtain ⟨p1, q2, e⟩ := bd_o e
  have k4 := kX4_kind (G := G) (h := h)  q2
  have z5 := (k4 rr).1.2.2.2
  refine r_callSU (j := none) 0 [] (c := 5) (rc := (RX5, TX5, 6)) rfl g3 (by decide) k4 (injO_0 E.p) subO_0 getO_0 setO_0 (lw_SU q1110 q1982 q246 q1102 q119 q1103) (by decide +kernel) rfl (Nat.le_of_ble_eq_true rfl) (Nat.le_of_ble_eq_true rfl) rfl (Nat.le_of_ble_eq_true rfl) dX5_kind_2 rfl ?_
  refine r_iadd dX5_kind_5 ?_
  cases e
  exact r_iret E.σ E.st E.rt E.r (wr_r _) dX5_kind_6
def D6_isUsed (h : hS) (o : Option Nat)  : Option (Int) := if hC h o = some 1 then fX1_isUsed o else if hC h o = some 2 then fX1_isUsed o else if hC h o = some 3 then fX3_isUsed h o else if hC h o = some 4 then fX1_isUsed o else if hC h o = some 5 then fX1_isUsed o else none
theorem zD6_isUsed {G : Gx} {h : hS} {o : Option Nat}  {p : Int}  (q : D6_isUsed h o  = some p) (rr : RR [] [] h) : rtOK (some .boolean) (some (ti p)) := by
  unfold D6_isUsed at q
  split at q
  · exact ((kX1_isUsed (G := G) (h := h)  q) rr).1.2.2.2
  split at q
  · exact ((kX1_isUsed (G := G) (h := h)  q) rr).1.2.2.2
  split at q
  · exact ((kX3_isUsed (G := G)  q) rr).1.2.2.2
  split at q
  · exact ((kX1_isUsed (G := G) (h := h)  q) rr).1.2.2.2
  split at q
  · exact ((kX1_isUsed (G := G) (h := h)  q) rr).1.2.2.2
  cases q
theorem rD_X11_1 {N : Nx} {cc : ByteArray} {fR lO : Nat} {σs : List Sg} {h : hS} {pc : Nat} {lv : List (Nat × Tv)} {stk stk0 stk1 : List Tv} {o : Option Nat}  {p : Int}  (q : D6_isUsed h o  = some p) (hinj : injO N) (hfr : 2 ≤ fR) (hlo : 40 ≤ lO) (hstk : stk0 = [].reverse ++ tr o :: stk) (hroom : (stk.map tc).sum ≤ 8) (hd : decode cc pc = .ok (.invokeinterface 1 1, 5)) (hs1 : ti p :: stk = stk1) (k : AtPc cc RX11 fR lO N σs h (pc + 5) lv stk1) : AtPc cc RX11 fR lO N σs h pc lv stk0 := by
  unfold D6_isUsed at q
  split at q
  · rename_i g1; exact r_callF (j := none) 0 [] (c := 1) (rc := (RX1, TX1, 6)) rfl g1 (x := ⟨"DictProof$Ranked", "isUsed", "()Z"⟩) (by decide +kernel) (kX1_isUsed (G := nG N) (h := h)  q) hinj subO_0 getO_0 setO_0 (lw_F q1137 q1149 q910 q116 q918) (by decide +kernel) rfl (by omega) (by omega) hstk hroom hd hs1 k
  split at q
  · rename_i g1; exact r_callF (j := none) 0 [] (c := 2) (rc := (RX2, TX2, 6)) rfl g1 (x := ⟨"DictProof$Ranked", "isUsed", "()Z"⟩) (by decide +kernel) (kX1_isUsed (G := nG N) (h := h)  q) hinj subO_0 getO_0 setO_0 (lw_F q1137 q1155 q910 q116 q918) (by decide +kernel) rfl (by omega) (by omega) hstk hroom hd hs1 k
  split at q
  · rename_i g1; exact r_callF (j := none) 0 [] (c := 3) (rc := (RX3, TX3, 6)) rfl g1 (x := ⟨"DictProof$Ranked", "isUsed", "()Z"⟩) (by decide +kernel) (kX3_isUsed (G := nG N)  q) hinj subO_0 getO_0 setO_0 (lw_F q1137 q1145 q915 q118 q916) (by decide +kernel) rfl (by omega) (by omega) hstk hroom hd hs1 k
  split at q
  · rename_i g1; exact r_callF (j := none) 0 [] (c := 4) (rc := (RX4, TX4, 6)) rfl g1 (x := ⟨"DictProof$Ranked", "isUsed", "()Z"⟩) (by decide +kernel) (kX1_isUsed (G := nG N) (h := h)  q) hinj subO_0 getO_0 setO_0 (lw_F q1137 q1141 q910 q116 q918) (by decide +kernel) rfl (by omega) (by omega) hstk hroom hd hs1 k
  split at q
  · rename_i g1; exact r_callF (j := none) 0 [] (c := 5) (rc := (RX5, TX5, 6)) rfl g1 (x := ⟨"DictProof$Ranked", "isUsed", "()Z"⟩) (by decide +kernel) (kX1_isUsed (G := nG N) (h := h)  q) hinj subO_0 getO_0 setO_0 (lw_F q1137 q1152 q910 q116 q918) (by decide +kernel) rfl (by omega) (by omega) hstk hroom hd hs1 k
  cases q
def D7_isAlone (h : hS) (o : Option Nat)  : Option (Int) := if hC h o = some 1 then fX1_isAlone o else if hC h o = some 2 then fX1_isAlone o else if hC h o = some 3 then fX1_isAlone o else if hC h o = some 4 then fX1_isAlone o else if hC h o = some 5 then fX5_isAlone h o else none
theorem zD7_isAlone {G : Gx} {h : hS} {o : Option Nat}  {p : Int}  (q : D7_isAlone h o  = some p) (rr : RR [] [] h) : rtOK (some .boolean) (some (ti p)) := by
  unfold D7_isAlone at q
  split at q
  · exact ((kX1_isAlone (G := G) (h := h)  q) rr).1.2.2.2
  split at q
  · exact ((kX1_isAlone (G := G) (h := h)  q) rr).1.2.2.2
  split at q
  · exact ((kX1_isAlone (G := G) (h := h)  q) rr).1.2.2.2
  split at q
  · exact ((kX1_isAlone (G := G) (h := h)  q) rr).1.2.2.2
  split at q
  · exact ((kX5_isAlone (G := G)  q) rr).1.2.2.2
  cases q
theorem rD_X11_7 {N : Nx} {cc : ByteArray} {fR lO : Nat} {σs : List Sg} {h : hS} {pc : Nat} {lv : List (Nat × Tv)} {stk stk0 stk1 : List Tv} {o : Option Nat}  {p : Int}  (q : D7_isAlone h o  = some p) (hinj : injO N) (hfr : 2 ≤ fR) (hlo : 40 ≤ lO) (hstk : stk0 = [].reverse ++ tr o :: stk) (hroom : (stk.map tc).sum ≤ 8) (hd : decode cc pc = .ok (.invokeinterface 7 1, 5)) (hs1 : ti p :: stk = stk1) (k : AtPc cc RX11 fR lO N σs h (pc + 5) lv stk1) : AtPc cc RX11 fR lO N σs h pc lv stk0 := by
  unfold D7_isAlone at q
  split at q
  · rename_i g1; exact r_callF (j := none) 0 [] (c := 1) (rc := (RX1, TX1, 6)) rfl g1 (x := ⟨"DictProof$Ranked", "isAlone", "()Z"⟩) (by decide +kernel) (kX1_isAlone (G := nG N) (h := h)  q) hinj subO_0 getO_0 setO_0 (lw_F q1158 q1166 q936 q116 q947) (by decide +kernel) rfl (by omega) (by omega) hstk hroom hd hs1 k
  split at q
  · rename_i g1; exact r_callF (j := none) 0 [] (c := 2) (rc := (RX2, TX2, 6)) rfl g1 (x := ⟨"DictProof$Ranked", "isAlone", "()Z"⟩) (by decide +kernel) (kX1_isAlone (G := nG N) (h := h)  q) hinj subO_0 getO_0 setO_0 (lw_F q1158 q1171 q936 q116 q947) (by decide +kernel) rfl (by omega) (by omega) hstk hroom hd hs1 k
  split at q
  · rename_i g1; exact r_callF (j := none) 0 [] (c := 3) (rc := (RX3, TX3, 6)) rfl g1 (x := ⟨"DictProof$Ranked", "isAlone", "()Z"⟩) (by decide +kernel) (kX1_isAlone (G := nG N) (h := h)  q) hinj subO_0 getO_0 setO_0 (lw_F q1158 q1164 q936 q116 q947) (by decide +kernel) rfl (by omega) (by omega) hstk hroom hd hs1 k
  split at q
  · rename_i g1; exact r_callF (j := none) 0 [] (c := 4) (rc := (RX4, TX4, 6)) rfl g1 (x := ⟨"DictProof$Ranked", "isAlone", "()Z"⟩) (by decide +kernel) (kX1_isAlone (G := nG N) (h := h)  q) hinj subO_0 getO_0 setO_0 (lw_F q1158 q1161 q936 q116 q947) (by decide +kernel) rfl (by omega) (by omega) hstk hroom hd hs1 k
  split at q
  · rename_i g1; exact r_callF (j := none) 0 [] (c := 5) (rc := (RX5, TX5, 6)) rfl g1 (x := ⟨"DictProof$Ranked", "isAlone", "()Z"⟩) (by decide +kernel) (kX5_isAlone (G := nG N)  q) hinj subO_0 getO_0 setO_0 (lw_F q1158 q1168 q942 q120 q943) (by decide +kernel) rfl (by omega) (by omega) hstk hroom hd hs1 k
  cases q
def D8_rank (h : hS) (o : Option Nat)  : Option (Int) := if hC h o = some 1 then fX1_rank o else if hC h o = some 2 then fX2_rank h o else if hC h o = some 3 then fX1_rank o else if hC h o = some 4 then fX4_rank h o else if hC h o = some 5 then fX4_rank h o else none
theorem zD8_rank {G : Gx} {h : hS} {o : Option Nat}  {p : Int}  (q : D8_rank h o  = some p) (rr : RR [] [] h) : rtOK (some .int) (some (ti p)) := by
  unfold D8_rank at q
  split at q
  · exact ((kX1_rank (G := G) (h := h)  q) rr).1.2.2.2
  split at q
  · exact ((kX2_rank (G := G)  q) rr).1.2.2.2
  split at q
  · exact ((kX1_rank (G := G) (h := h)  q) rr).1.2.2.2
  split at q
  · exact ((kX4_rank (G := G)  q) rr).1.2.2.2
  split at q
  · exact ((kX4_rank (G := G)  q) rr).1.2.2.2
  cases q
theorem rD_X11_10 {N : Nx} {cc : ByteArray} {fR lO : Nat} {σs : List Sg} {h : hS} {pc : Nat} {lv : List (Nat × Tv)} {stk stk0 stk1 : List Tv} {o : Option Nat}  {p : Int}  (q : D8_rank h o  = some p) (hinj : injO N) (hfr : 2 ≤ fR) (hlo : 40 ≤ lO) (hstk : stk0 = [].reverse ++ tr o :: stk) (hroom : (stk.map tc).sum ≤ 8) (hd : decode cc pc = .ok (.invokeinterface 10 1, 5)) (hs1 : ti p :: stk = stk1) (k : AtPc cc RX11 fR lO N σs h (pc + 5) lv stk1) : AtPc cc RX11 fR lO N σs h pc lv stk0 := by
  unfold D8_rank at q
  split at q
  · rename_i g1; exact r_callF (j := none) 0 [] (c := 1) (rc := (RX1, TX1, 6)) rfl g1 (x := ⟨"DictProof$Ranked", "rank", "()I"⟩) (by decide +kernel) (kX1_rank (G := nG N) (h := h)  q) hinj subO_0 getO_0 setO_0 (lw_F q1174 q1183 q958 q116 q965) (by decide +kernel) rfl (by omega) (by omega) hstk hroom hd hs1 k
  split at q
  · rename_i g1; exact r_callF (j := none) 0 [] (c := 2) (rc := (RX2, TX2, 6)) rfl g1 (x := ⟨"DictProof$Ranked", "rank", "()I"⟩) (by decide +kernel) (kX2_rank (G := nG N)  q) hinj subO_0 getO_0 setO_0 (lw_F q1174 q1187 q969 q117 q970) (by decide +kernel) rfl (by omega) (by omega) hstk hroom hd hs1 k
  split at q
  · rename_i g1; exact r_callF (j := none) 0 [] (c := 3) (rc := (RX3, TX3, 6)) rfl g1 (x := ⟨"DictProof$Ranked", "rank", "()I"⟩) (by decide +kernel) (kX1_rank (G := nG N) (h := h)  q) hinj subO_0 getO_0 setO_0 (lw_F q1174 q1180 q958 q116 q965) (by decide +kernel) rfl (by omega) (by omega) hstk hroom hd hs1 k
  split at q
  · rename_i g1; exact r_callF (j := none) 0 [] (c := 4) (rc := (RX4, TX4, 6)) rfl g1 (x := ⟨"DictProof$Ranked", "rank", "()I"⟩) (by decide +kernel) (kX4_rank (G := nG N)  q) hinj subO_0 getO_0 setO_0 (lw_F q1174 q1177 q962 q119 q963) (by decide +kernel) rfl (by omega) (by omega) hstk hroom hd hs1 k
  split at q
  · rename_i g1; exact r_callF (j := none) 0 [] (c := 5) (rc := (RX5, TX5, 6)) rfl g1 (x := ⟨"DictProof$Ranked", "rank", "()I"⟩) (by decide +kernel) (kX4_rank (G := nG N)  q) hinj subO_0 getO_0 setO_0 (lw_F q1174 q1185 q962 q119 q963) (by decide +kernel) rfl (by omega) (by omega) hstk hroom hd hs1 k
  cases q
def fX11_besides_b56 (h : hS) (k0 : Int) : Option (Int) := some k0
theorem wX11_besides_b56 {N : Nx} {h : hS} {r : Int} (E : EndX N [] 2 (some .int) (some (ti r)) [] h)  (k0 : Int) (hk0 : rI k0) (e : fX11_besides_b56 h k0 = some (r)) : AtPc cX11_besides RX11 2 40 N [] h 56 [] [ti k0] := by
  unfold fX11_besides_b56 at e
  refine r_rrs E.p (fun rr => ?_)
  cases e
  exact r_iret E.σ E.st E.rt E.r hk0 dX11_besides_56
def fX11_besides_b28 (h : hS) : Option (Int) := fX11_besides_b56 h 0
theorem wX11_besides_b28 {N : Nx} {h : hS} {r : Int} (E : EndX N [] 2 (some .int) (some (ti r)) [] h)   (e : fX11_besides_b28 h = some (r)) : AtPc cX11_besides RX11 2 40 N [] h 28 [] [] := by
  unfold fX11_besides_b28 at e
  refine r_rrs E.p (fun rr => ?_)
  refine r_iconst dX11_besides_28 ?_
  refine r_goto 56 dX11_besides_29 (by decide) ?_
  exact wX11_besides_b56 E 0 (by decide) e
def fX11_besides_b51 (h : hS) : Option (Int) := fX11_besides_b56 h 2
theorem wX11_besides_b51 {N : Nx} {h : hS} {r : Int} (E : EndX N [] 2 (some .int) (some (ti r)) [] h)   (e : fX11_besides_b51 h = some (r)) : AtPc cX11_besides RX11 2 40 N [] h 51 [] [] := by
  unfold fX11_besides_b51 at e
  refine r_rrs E.p (fun rr => ?_)
  refine r_iconst dX11_besides_51 ?_
  refine r_goto 56 dX11_besides_52 (by decide) ?_
  exact wX11_besides_b56 E 2 (by decide) e
def fX11_besides_b32 (h : hS) (o0 : Option Nat) (a1 : Int) : Option (Int) := bd (D7_isAlone h o0) fun p1 => if ¬ p1 = 0 then fX11_besides_b51 h else bd (D8_rank h o0) fun p5 => if ¬ a1 = p5 then fX11_besides_b56 h 1 else fX11_besides_b51 h
theorem wX11_besides_b32 {N : Nx} {h : hS} {r : Int} (E : EndX N [] 2 (some .int) (some (ti r)) [] h)  (o0 : Option Nat) (a1 : Int) (ha1 : rI a1) (e : fX11_besides_b32 h o0 a1 = some (r)) : AtPc cX11_besides RX11 2 40 N [] h 32 [(0, tr o0), (1, ti a1)] [] := by
  unfold fX11_besides_b32 at e
  refine r_rrs E.p (fun rr => ?_)
  refine r_aload_n dX11_besides_32 rfl 0 rfl ?_
  obtain ⟨p1, q2, e⟩ := bd_o e
  have z3 := zD7_isAlone (G := nG N)  q2 rr.none
  refine rD_X11_7  q2 (injO_0 E.p) (Nat.le_of_ble_eq_true rfl) (Nat.le_of_ble_eq_true rfl) rfl (Nat.le_of_ble_eq_true rfl) dX11_besides_33 rfl ?_
  have eT := (r_ifo e).1
  have eF := (r_ifo e).2
  refine r_if_ne (rI_z z3) 51 dX11_besides_38 (by decide) (fun c4 => ?_) (fun c4 => ?_)
  · have e := eT c4
    refine r_sub [] rfl ?_
    exact wX11_besides_b51 E e
  · have e := eF c4
    refine r_iload_n dX11_besides_41 rfl 1 rfl ?_
    refine r_aload_n dX11_besides_42 rfl 0 rfl ?_
    obtain ⟨p5, q6, e⟩ := bd_o e
    have z7 := zD8_rank (G := nG N)  q6 rr.none
    refine rD_X11_10  q6 (injO_0 E.p) (Nat.le_of_ble_eq_true rfl) (Nat.le_of_ble_eq_true rfl) rfl (Nat.le_of_ble_eq_true rfl) dX11_besides_43 rfl ?_
    have eT := (r_ifo e).1
    have eF := (r_ifo e).2
    refine r_icmp_ne ha1 z7 55 dX11_besides_48 (by decide) (fun c8 => ?_) (fun c8 => ?_)
    · have e := eT c8
      refine r_iconst dX11_besides_55 ?_
      refine r_sub [] rfl ?_
      exact wX11_besides_b56 E 1 (by decide) e
    · have e := eF c8
      refine r_sub [] rfl ?_
      exact wX11_besides_b51 E e
def fX11_besides  (h : hS) (o0 : Option Nat) (a1 : Int) : Option (Int) := bd (D6_isUsed h o0) fun p1 => if p1 = 0 then fX11_besides_b28 h else bd (D7_isAlone h o0) fun p5 => if ¬ p5 = 0 then fX11_besides_b32 h o0 a1 else bd (D8_rank h o0) fun p9 => if p9 ≤ a1 then fX11_besides_b32 h o0 a1 else fX11_besides_b28 h
theorem kX11_besides {G : Gx}  {h : hS} {r : Int} {o0 : Option Nat} {a1 : Int}  (ha1 : rI a1) (e : fX11_besides h o0 a1 = some (r)) : CtX G yX11_besides cX11_besides 2 (some .int) 2 40 [] [] h [tr o0, ti a1] (some (ti r)) [] h := by
  refine CtX.of (by decide) (Nat.le_of_ble_eq_true rfl) [(0, tr o0), (1, ti a1)] rfl ?_
  have E : EndX (G, 2, [], h, [], h, (some .int), (some (ti r)), yX11_besides.name) [] 2 (some .int) (some (ti r)) [] h := ⟨rfl, rfl, rfl, rfl, rfl, rfl⟩
  unfold fX11_besides at e
  refine r_rrs E.p (fun rr => ?_)
  refine r_aload_n dX11_besides_0 rfl 0 rfl ?_
  obtain ⟨p1, q2, e⟩ := bd_o e
  have z3 := zD6_isUsed (G := G)  q2 rr.none
  refine rD_X11_1  q2 (injO_0 E.p) (Nat.le_of_ble_eq_true rfl) (Nat.le_of_ble_eq_true rfl) rfl (Nat.le_of_ble_eq_true rfl) dX11_besides_1 rfl ?_
  have eT := (r_ifo e).1
  have eF := (r_ifo e).2
  refine r_if_eq (rI_z z3) 28 dX11_besides_6 (by decide) (fun c4 => ?_) (fun c4 => ?_)
  · have e := eT c4
    refine r_sub [] rfl ?_
    exact wX11_besides_b28 E e
  · have e := eF c4
    refine r_aload_n dX11_besides_9 rfl 0 rfl ?_
    obtain ⟨p5, q6, e⟩ := bd_o e
    have z7 := zD7_isAlone (G := G)  q6 rr.none
    refine rD_X11_7  q6 (injO_0 E.p) (Nat.le_of_ble_eq_true rfl) (Nat.le_of_ble_eq_true rfl) rfl (Nat.le_of_ble_eq_true rfl) dX11_besides_10 rfl ?_
    have eT := (r_ifo e).1
    have eF := (r_ifo e).2
    refine r_if_ne (rI_z z7) 32 dX11_besides_15 (by decide) (fun c8 => ?_) (fun c8 => ?_)
    · have e := eT c8
      exact wX11_besides_b32 E o0 a1 ha1 e
    · have e := eF c8
      refine r_iload_n dX11_besides_18 rfl 1 rfl ?_
      refine r_aload_n dX11_besides_19 rfl 0 rfl ?_
      obtain ⟨p9, q10, e⟩ := bd_o e
      have z11 := zD8_rank (G := G)  q10 rr.none
      refine rD_X11_10  q10 (injO_0 E.p) (Nat.le_of_ble_eq_true rfl) (Nat.le_of_ble_eq_true rfl) rfl (Nat.le_of_ble_eq_true rfl) dX11_besides_20 rfl ?_
      have eT := (r_ifo e).1
      have eF := (r_ifo e).2
      refine r_icmp_ge ha1 z11 32 dX11_besides_25 (by decide) (fun c12 => ?_) (fun c12 => ?_)
      · have e := eT c12
        exact wX11_besides_b32 E o0 a1 ha1 e
      · have e := eF c12
        refine r_sub [] rfl ?_
        exact wX11_besides_b28 E e
theorem rD_bes {N : Nx} {cc : ByteArray} {fR lO : Nat} {σs : List Sg} {h : hS} {pc : Nat} {lv : List (Nat × Tv)} {stk stk0 stk1 : List Tv} {o : Option Nat} {a1 : Int} {p : Int} (ha1 : rI a1) (g : inC h o [1, 2, 3, 4, 5] = true) (q : fX11_besides h o a1 = some p) (hinj : injO N) (hfr : 3 ≤ fR) (hlo : 61 ≤ lO) (hstk : stk0 = [ti a1].reverse ++ tr o :: stk) (hroom : (stk.map tc).sum ≤ 8) (hd : decode cc pc = .ok (.invokevirtual 457, 3)) (hs1 : ti p :: stk = stk1) (k : AtPc cc RX0 fR lO N σs h (pc + 3) lv stk1) : AtPc cc RX0 fR lO N σs h pc lv stk0 := by
  obtain ⟨c, hc, he⟩ := inC_o g
  have hk := kX11_besides (G := nG N) ha1 q
  simp only [List.mem_cons, List.not_mem_nil, or_false] at hc
  rcases hc with rfl | rfl | rfl | rfl | rfl
  · exact r_callD (j := none) 1 [ti a1] (c := 1) (rc := (RX1, TX1, 6)) rfl he rfl ⟨rfl, rfl⟩ (by decide) q1127 q1133 q1985 q1135 hk hinj subO_0 getO_0 setO_0 (by decide +kernel) rfl (by omega) (by omega) hstk hroom hd hs1 k
  · exact r_callD (j := none) 1 [ti a1] (c := 2) (rc := (RX2, TX2, 6)) rfl he rfl ⟨rfl, rfl⟩ (by decide) q1127 q1133 q1985 q1135 hk hinj subO_0 getO_0 setO_0 (by decide +kernel) rfl (by omega) (by omega) hstk hroom hd hs1 k
  · exact r_callD (j := none) 1 [ti a1] (c := 3) (rc := (RX3, TX3, 6)) rfl he rfl ⟨rfl, rfl⟩ (by decide) q1127 q1133 q1985 q1135 hk hinj subO_0 getO_0 setO_0 (by decide +kernel) rfl (by omega) (by omega) hstk hroom hd hs1 k
  · exact r_callD (j := none) 1 [ti a1] (c := 4) (rc := (RX4, TX4, 6)) rfl he rfl ⟨rfl, rfl⟩ (by decide) q1127 q1133 q1985 q1135 hk hinj subO_0 getO_0 setO_0 (by decide +kernel) rfl (by omega) (by omega) hstk hroom hd hs1 k
  · exact r_callD (j := none) 1 [ti a1] (c := 5) (rc := (RX5, TX5, 6)) rfl he rfl ⟨rfl, rfl⟩ (by decide) q1127 q1133 q1985 q1135 hk hinj subO_0 getO_0 setO_0 (by decide +kernel) rfl (by omega) (by omega) hstk hroom hd hs1 k
