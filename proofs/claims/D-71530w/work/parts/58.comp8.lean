/-! the class with what it needs: functions and walks, printed by gen/run0.py -/
set_option maxRecDepth 100000
def fX0_see  (s : Sg) (a1 : Int) (a2 : Int) (a3 : Int) : Option (Int × Sg) := bd (fX0_isInstance s a1) fun p1 => if ¬ p1 = 0 then bd (fX0_isIn a2 0 3) fun p6 => if ¬ p6 = 0 then if ¬ (gI s 26) = 6 then gd (inb (gI s 26) 6) (gd (inb (gI (sA s 23 (gI s 26) a1) 26) 6) (gd (inb (gI (sA (sA s 23 (gI s 26) a1) 24 (gI (sA s 23 (gI s 26) a1) 26) a2) 26) 6) (gd (a3 = 0 ∨ a3 = 1) (some (gI (sI (sA (sA (sA s 23 (gI s 26) a1) 24 (gI (sA s 23 (gI s 26) a1) 26) a2) 25 (gI (sA (sA s 23 (gI s 26) a1) 24 (gI (sA s 23 (gI s 26) a1) 26) a2) 26) a3) 26 (wr ((gI (sA (sA (sA s 23 (gI s 26) a1) 24 (gI (sA s 23 (gI s 26) a1) 26) a2) 25 (gI (sA (sA s 23 (gI s 26) a1) 24 (gI (sA s 23 (gI s 26) a1) 26) a2) 26) a3) 26) + 1))) 26, sI (sA (sA (sA s 23 (gI s 26) a1) 24 (gI (sA s 23 (gI s 26) a1) 26) a2) 25 (gI (sA (sA s 23 (gI s 26) a1) 24 (gI (sA s 23 (gI s 26) a1) 26) a2) 26) a3) 26 (wr ((gI (sA (sA (sA s 23 (gI s 26) a1) 24 (gI (sA s 23 (gI s 26) a1) 26) a2) 25 (gI (sA (sA s 23 (gI s 26) a1) 24 (gI (sA s 23 (gI s 26) a1) 26) a2) 26) a3) 26) + 1))))))) else some ((-104), s) else some ((-102), s) else some ((-101), s)
theorem kX0_see {G : Gx}  {b : Nat} {ad : Nat → Nat} {s' : Sg} {h : hS} {r : Int} {s : Sg} {a1 : Int} {a2 : Int} {a3 : Int}  (ha1 : rI a1) (ha2 : rI a2) (ha3 : rI a3) (e : fX0_see s a1 a2 a3 = some (r, s')) : CtX G yX0_see cX0_see 4 (some .int) 2 46 [(0, b, ad)] [s] h [tr (some b), ti a1, ti a2, ti a3] (some (ti r)) [s'] h := by
  refine CtX.of (by decide) (Nat.le_of_ble_eq_true rfl) [(0, tr (some b)), (1, ti a1), (2, ti a2), (3, ti a3)] rfl ?_
  have E : EndX (G, 4, [(0, b, ad)], h, [s'], h, (some .int), (some (ti r)), yX0_see.name) [(0, b, ad)] 4 (some .int) (some (ti r)) [s'] h := ⟨rfl, rfl, rfl, rfl, rfl, rfl⟩
  unfold fX0_see at e
  refine r_rrs E.p (fun rr => ?_)
  refine r_aload_n dX0_see_0 rfl 0 rfl ?_
  refine r_iload_n dX0_see_1 rfl 1 rfl ?_
  obtain ⟨p1, q2, e⟩ := bd_o e
  have k3 := kX0_isInstance (G := G) (b := b) (ad := ad) (h := h) ha1 q2
  have z4 := (k3 rr).1.2.2.2
  refine r_callV (j := some 0) 1 [ti a1] (rec_sg (j := 0) (r := (RX0, TX0, 36)) rfl (by rw [E.p]; rfl)) rfl k3 (injO_1 E.p) (subO_1 E.p) getO_1 setO_1 (lw_V q1089 q1091 qs24 q115 q1092) (by decide +kernel) rfl (Nat.le_of_ble_eq_true rfl) (Nat.le_of_ble_eq_true rfl) rfl (Nat.le_of_ble_eq_true rfl) dX0_see_2 rfl ?_
  have eT := (r_ifo e).1
  have eF := (r_ifo e).2
  refine r_if_ne (rI_z z4) 11 dX0_see_5 (by decide) (fun c5 => ?_) (fun c5 => ?_)
  · have e := eT c5
    refine r_iload_n dX0_see_11 rfl 2 rfl ?_
    refine r_i2l ha2 dX0_see_12 ?_
    refine r_lconst 0 dX0_see_13 rfl ?_
    refine r_ldc2 3 q835 (by decide) dX0_see_14 ?_
    obtain ⟨p6, q7, e⟩ := bd_o e
    have k8 := kX0_isIn (G := G) (h := h) (rI_L ha2) (by decide) (by decide) q7
    have z9 := (k8 rr.none).1.2.2.2
    refine r_callS (j := none) 3 [tl a2, tl 0, tl 3] k8 (injO_1 E.p) subO_0 getO_0 setO_0 (lw_S q397 q398 q115 q399) (by decide +kernel) rfl (Nat.le_of_ble_eq_true rfl) (Nat.le_of_ble_eq_true rfl) rfl (Nat.le_of_ble_eq_true rfl) dX0_see_17 rfl ?_
    have eT := (r_ifo e).1
    have eF := (r_ifo e).2
    refine r_if_ne (rI_z z9) 26 dX0_see_20 (by decide) (fun c10 => ?_) (fun c10 => ?_)
    · have e := eT c10
      refine r_aload_n dX0_see_26 rfl 0 rfl ?_
      refine r_sI E.p 26 fG_X0_276 (by decide) dX0_see_27 ?_
      refine r_bipush dX0_see_30 (by decide) ?_
      have eT := (r_ifo e).1
      have eF := (r_ifo e).2
      refine r_icmp_ne ((rr.mine rfl).i 26 (by decide) (by decide)) (by decide) 38 dX0_see_32 (by decide) (fun c11 => ?_) (fun c11 => ?_)
      · have e := eT c11
        refine r_aload_n dX0_see_38 rfl 0 rfl ?_
        refine r_sR E.p 23 fG_X0_139 (by decide) dX0_see_39 ?_
        refine r_aload_n dX0_see_42 rfl 0 rfl ?_
        refine r_sI E.p 26 fG_X0_276 (by decide) dX0_see_43 ?_
        refine r_iload_n dX0_see_46 rfl 1 rfl ?_
        obtain ⟨g12, e⟩ := gd_o e
        refine r_saP E.p 23 rfl (by decide) (by decide) ((rr.mine rfl).i 26 (by decide) (by decide)) g12 ha1 rfl dX0_see_47 ?_
        refine r_rrs E.p (fun rr13 => ?_)
        refine r_aload_n dX0_see_48 rfl 0 rfl ?_
        refine r_sR E.p 24 fG_X0_142 (by decide) dX0_see_49 ?_
        refine r_aload_n dX0_see_52 rfl 0 rfl ?_
        refine r_sI E.p 26 fG_X0_276 (by decide) dX0_see_53 ?_
        refine r_iload_n dX0_see_56 rfl 2 rfl ?_
        obtain ⟨g14, e⟩ := gd_o e
        refine r_saP E.p 24 rfl (by decide) (by decide) ((rr13.mine rfl).i 26 (by decide) (by decide)) g14 ha2 rfl dX0_see_57 ?_
        refine r_rrs E.p (fun rr15 => ?_)
        refine r_aload_n dX0_see_58 rfl 0 rfl ?_
        refine r_sR E.p 25 fG_X0_145 (by decide) dX0_see_59 ?_
        refine r_aload_n dX0_see_62 rfl 0 rfl ?_
        refine r_sI E.p 26 fG_X0_276 (by decide) dX0_see_63 ?_
        refine r_iload_n dX0_see_66 rfl 3 rfl ?_
        obtain ⟨g16, e⟩ := gd_o e
        obtain ⟨g17, e⟩ := gd_o e
        refine r_saP E.p 25 rfl (by decide) (by decide) ((rr15.mine rfl).i 26 (by decide) (by decide)) g16 g17 rfl dX0_see_67 ?_
        refine r_rrs E.p (fun rr18 => ?_)
        refine r_aload_n dX0_see_68 rfl 0 rfl ?_
        refine r_dup dX0_see_69 rfl ?_
        refine r_sI E.p 26 fG_X0_276 (by decide) dX0_see_70 ?_
        refine r_iconst dX0_see_73 ?_
        refine r_iadd dX0_see_74 ?_
        refine r_sPI E.p 26 fP_X0_276 rfl (wr_r _) dX0_see_75 ?_
        refine r_rrs E.p (fun rr19 => ?_)
        refine r_aload_n dX0_see_78 rfl 0 rfl ?_
        refine r_sI E.p 26 fG_X0_276 (by decide) dX0_see_79 ?_
        cases e
        exact r_iret E.σ E.st E.rt E.r ((rr19.mine rfl).i 26 (by decide) (by decide)) dX0_see_82
      · have e := eF c11
        refine r_bipush dX0_see_35 (by decide) ?_
        cases e
        exact r_iret E.σ E.st E.rt E.r (by decide) dX0_see_37
    · have e := eF c10
      refine r_bipush dX0_see_23 (by decide) ?_
      cases e
      exact r_iret E.σ E.st E.rt E.r (by decide) dX0_see_25
  · have e := eF c5
    refine r_bipush dX0_see_8 (by decide) ?_
    cases e
    exact r_iret E.σ E.st E.rt E.r (by decide) dX0_see_10
def fX0_forget  (s : Sg) : Option (Int × Sg) := some (gI s 26, sI s 26 0)
theorem kX0_forget {G : Gx}  {b : Nat} {ad : Nat → Nat} {s' : Sg} {h : hS} {r : Int} {s : Sg}    (e : fX0_forget s = some (r, s')) : CtX G yX0_forget cX0_forget 2 (some .int) 0 0 [(0, b, ad)] [s] h [tr (some b)] (some (ti r)) [s'] h := by
  refine CtX.of (by decide) (Nat.le_of_ble_eq_true rfl) [(0, tr (some b))] rfl ?_
  have E : EndX (G, 2, [(0, b, ad)], h, [s'], h, (some .int), (some (ti r)), yX0_forget.name) [(0, b, ad)] 2 (some .int) (some (ti r)) [s'] h := ⟨rfl, rfl, rfl, rfl, rfl, rfl⟩
  unfold fX0_forget at e
  refine r_rrs E.p (fun rr => ?_)
  refine r_aload_n dX0_forget_0 rfl 0 rfl ?_
  refine r_sI E.p 26 fG_X0_276 (by decide) dX0_forget_1 ?_
  refine r_istore_n (lv' := [(1, ti (gI s 26)), (0, tr (some b))]) dX0_forget_4 rfl (E.lt (by decide)) rfl ?_
  refine r_aload_n dX0_forget_5 rfl 1 rfl ?_
  refine r_iconst dX0_forget_6 ?_
  refine r_sPI E.p 26 fP_X0_276 rfl (by decide) dX0_forget_7 ?_
  refine r_rrs E.p (fun rr1 => ?_)
  refine r_iload_n dX0_forget_10 rfl 0 rfl ?_
  cases e
  exact r_iret E.σ E.st E.rt E.r ((rr.mine rfl).i 26 (by decide) (by decide)) dX0_forget_11
theorem fG_X0_478 : FldG RX0 478 [(0, 27)] := List.forall_mem_cons.mpr ⟨⟨RX0, TX0, 36, "DictProof", rfl, in_X0, by decide, q308, Or.inl rfl⟩, fun _ h => absurd h List.not_mem_nil⟩
theorem fP_X0_478 : FldP RX0 478 [(0, 27)] .int false := List.forall_mem_cons.mpr ⟨⟨RX0, TX0, 36, "DictProof", tyX0, rfl, in_X0, by decide, q308, Or.inl rfl, tyX0_ok, nmX0, rfl, Or.inl rfl, by decide⟩, fun _ h => absurd h List.not_mem_nil⟩
def fX0_draw  (s : Sg) (a1 : Int) : Option (Int × Sg) := gd (¬ a1 = 0) (some (irm (idv (gI (sI s 27 (wr (land (wl ((wl (1103515245 * (gI s 27))) + 12345)) 2147483647))) 27) 65536) a1, sI s 27 (wr (land (wl ((wl (1103515245 * (gI s 27))) + 12345)) 2147483647))))
theorem kX0_draw {G : Gx}  {b : Nat} {ad : Nat → Nat} {s' : Sg} {h : hS} {r : Int} {s : Sg} {a1 : Int}  (ha1 : rI a1) (e : fX0_draw s a1 = some (r, s')) : CtX G yX0_draw cX0_draw 2 (some .int) 0 0 [(0, b, ad)] [s] h [tr (some b), ti a1] (some (ti r)) [s'] h := by
  refine CtX.of (by decide) (Nat.le_of_ble_eq_true rfl) [(0, tr (some b)), (1, ti a1)] rfl ?_
  have E : EndX (G, 2, [(0, b, ad)], h, [s'], h, (some .int), (some (ti r)), yX0_draw.name) [(0, b, ad)] 2 (some .int) (some (ti r)) [s'] h := ⟨rfl, rfl, rfl, rfl, rfl, rfl⟩
  unfold fX0_draw at e
  refine r_rrs E.p (fun rr => ?_)
  refine r_aload_n dX0_draw_0 rfl 0 rfl ?_
  refine r_ldc2 1103515245 q1345 (by decide) dX0_draw_1 ?_
  refine r_aload_n dX0_draw_4 rfl 0 rfl ?_
  refine r_sI E.p 27 fG_X0_478 (by decide) dX0_draw_5 ?_
  refine r_i2l ((rr.mine rfl).i 27 (by decide) (by decide)) dX0_draw_8 ?_
  refine r_lmul dX0_draw_9 ?_
  refine r_ldc2 12345 q1346 (by decide) dX0_draw_10 ?_
  refine r_ladd dX0_draw_13 ?_
  refine r_ldc2 2147483647 q1347 (by decide) dX0_draw_14 ?_
  refine r_land dX0_draw_17 ?_
  refine r_l2i dX0_draw_18 ?_
  refine r_sPI E.p 27 fP_X0_478 rfl (wr_r _) dX0_draw_19 ?_
  refine r_rrs E.p (fun rr1 => ?_)
  refine r_aload_n dX0_draw_22 rfl 0 rfl ?_
  refine r_sI E.p 27 fG_X0_478 (by decide) dX0_draw_23 ?_
  refine r_ldcw 65536 q1348 (by decide) dX0_draw_26 ?_
  refine r_idiv (by decide) (by decide) dX0_draw_29 ?_
  refine r_iload_n dX0_draw_30 rfl 1 rfl ?_
  obtain ⟨g2, e⟩ := gd_o e
  refine r_irem ha1 g2 dX0_draw_31 ?_
  cases e
  exact r_iret E.σ E.st E.rt E.r (irm_r _ _) dX0_draw_32
def fX0_drawType_b86 (R9 : Sg → hS → Int → Option (Option Nat × Sg × hS)) (s : Sg) (h : hS) (a3 : Int) (o4 : Option Nat) (k0 : Option Nat) : Option (Option Nat × Sg × hS) := bd (nwS h 7 [vi 0, vq none, vq none]) fun p1 => bd (fX7_init p1.2 (some p1.1) a3 o4 k0) fun p4 => some ((some p1.1), s, p4)
theorem wX0_drawType_b86 {N : Nx} {b : Nat} {ad : Nat → Nat} {s' : Sg} {h' : hS} {r : Option Nat} (d9 : Nat) (R9 : Sg → hS → Int → Option (Option Nat × Sg × hS)) (hR9 : ∀  {b : Nat} {ad : Nat → Nat} {s' : Sg} {h' : hS} {r : Option Nat} {s : Sg} {h : hS} {a1 : Int} (ha1 : rI a1), R9 s h a1 = some (r, s', h') → CtX (nG N) yX0_drawType cX0_drawType 6 (some (.object "DictProof$Term")) (d9 + 2) (25 * d9 + 43) [(0, b, ad)] [s] h [tr (some b), ti a1] (some (tr r)) [s'] h') (E : EndX N [(0, b, ad)] 6 (some (.object "DictProof$Term")) (some (tr r)) [s'] h')  (s : Sg) (h : hS) (a3 : Int) (o4 : Option Nat) (k0 : Option Nat) (ha3 : rI a3) (e : fX0_drawType_b86 R9 s h a3 o4 k0 = some (r, s', h')) : AtPc cX0_drawType RX0 ((d9 + 1) + 2) (25 * (d9 + 1) + 43) N [s] h 86 [(3, ti a3), (4, tr o4)] [tr k0] := by
  unfold fX0_drawType_b86 at e
  refine r_rrs E.p (fun rr => ?_)
  refine r_astore (lv' := [(5, tr k0), (3, ti a3), (4, tr o4)]) dX0_drawType_86 (E.lt (by decide)) rfl ?_
  obtain ⟨p1, q2, e⟩ := bd_o e
  refine r_newS [vi 0, vq none, vq none] q2 rfl in_X7 tyX7_ok q247 q464 q124 (by decide +kernel) rfl (by decide +kernel) dX0_drawType_88 ?_
  refine r_rrs E.p (fun rr3 => ?_)
  refine r_dup dX0_drawType_91 rfl ?_
  refine r_iload_n dX0_drawType_92 rfl 1 rfl ?_
  refine r_aload dX0_drawType_93 2 rfl ?_
  refine r_aload dX0_drawType_95 0 rfl ?_
  obtain ⟨p4, q5, e⟩ := bd_o e
  have k6 := kX7_init (G := nG N) ha3 q5
  have z7 := (k6 rr3.none).1.2.2.2
  refine r_callIo (j := none) 3 [ti a3, tr o4, tr k0] (fun q => by cases q) rfl rfl k6 (injO_1 E.p) subO_0 getO_0 setO_0 q467 q124 q465 q466 (by decide +kernel) rfl (by omega) (by omega) rfl (Nat.le_of_ble_eq_true rfl) dX0_drawType_97 rfl ?_
  refine r_rrs E.p (fun rr8 => ?_)
  cases e
  exact r_aret E.σ E.st E.rt (by first | exact Or.inl ⟨_, rfl⟩ | exact Or.inr ⟨_, rfl⟩) E.r dX0_drawType_100
def fX0_drawType_b65 (R9 : Sg → hS → Int → Option (Option Nat × Sg × hS)) (s : Sg) (h : hS) (a1 : Int) (a3 : Int) (k0 : Option Nat) : Option (Option Nat × Sg × hS) := bd (fX0_partsOf a3) fun p1 => if p1 ≤ 1 then fX0_drawType_b86 R9 s h a3 k0 none else bd (R9 s h (wr (a1 + 1))) fun p6 => fX0_drawType_b86 R9 p6.2.1 p6.2.2 a3 k0 p6.1
theorem wX0_drawType_b65 {N : Nx} {b : Nat} {ad : Nat → Nat} {s' : Sg} {h' : hS} {r : Option Nat} (d9 : Nat) (R9 : Sg → hS → Int → Option (Option Nat × Sg × hS)) (hR9 : ∀  {b : Nat} {ad : Nat → Nat} {s' : Sg} {h' : hS} {r : Option Nat} {s : Sg} {h : hS} {a1 : Int} (ha1 : rI a1), R9 s h a1 = some (r, s', h') → CtX (nG N) yX0_drawType cX0_drawType 6 (some (.object "DictProof$Term")) (d9 + 2) (25 * d9 + 43) [(0, b, ad)] [s] h [tr (some b), ti a1] (some (tr r)) [s'] h') (E : EndX N [(0, b, ad)] 6 (some (.object "DictProof$Term")) (some (tr r)) [s'] h')  (s : Sg) (h : hS) (a1 : Int) (a3 : Int) (k0 : Option Nat) (ha1 : rI a1) (ha3 : rI a3) (e : fX0_drawType_b65 R9 s h a1 a3 k0 = some (r, s', h')) : AtPc cX0_drawType RX0 ((d9 + 1) + 2) (25 * (d9 + 1) + 43) N [s] h 65 [(0, tr (some b)), (1, ti a1), (3, ti a3)] [tr k0] := by
  unfold fX0_drawType_b65 at e
  refine r_rrs E.p (fun rr => ?_)
  refine r_astore (lv' := [(4, tr k0), (0, tr (some b)), (1, ti a1), (3, ti a3)]) dX0_drawType_65 (E.lt (by decide)) rfl ?_
  refine r_iload_n dX0_drawType_67 rfl 3 rfl ?_
  obtain ⟨p1, q2, e⟩ := bd_o e
  have k3 := kX0_partsOf (G := nG N) (h := h) ha3 q2
  have z4 := (k3 rr.none).1.2.2.2
  refine r_callS (j := none) 1 [ti a3] k3 (injO_1 E.p) subO_0 getO_0 setO_0 (lw_S q428 q429 q115 q430) (by decide +kernel) rfl (by omega) (by omega) rfl (Nat.le_of_ble_eq_true rfl) dX0_drawType_68 rfl ?_
  refine r_iconst dX0_drawType_71 ?_
  have eT := (r_ifo e).1
  have eF := (r_ifo e).2
  refine r_icmp_le z4 (by decide) 85 dX0_drawType_72 (by decide) (fun c5 => ?_) (fun c5 => ?_)
  · have e := eT c5
    refine r_null dX0_drawType_85 ?_
    refine r_sub [3, 0] rfl ?_
    exact wX0_drawType_b86 d9 R9 hR9 E s h a3 k0 none ha3 e
  · have e := eF c5
    refine r_aload_n dX0_drawType_75 rfl 1 rfl ?_
    refine r_iload_n dX0_drawType_76 rfl 2 rfl ?_
    refine r_iconst dX0_drawType_77 ?_
    refine r_iadd dX0_drawType_78 ?_
    obtain ⟨p6, q7, e⟩ := bd_o e
    have k8 := hR9 (b := b) (ad := ad) (wr_r _) q7
    have z9 := (k8 rr).1.2.2.2
    refine r_callV (j := some 0) 1 [ti (wr (a1 + 1))] (rec_sg (j := 0) (r := (RX0, TX0, 36)) rfl (by rw [E.p]; rfl)) rfl k8 (injO_1 E.p) (subO_1 E.p) getO_1 setO_1 (lw_V q1349 q1351 qs39 q115 q1352) (by decide +kernel) rfl (by omega) (by omega) rfl (Nat.le_of_ble_eq_true rfl) dX0_drawType_79 rfl ?_
    refine r_rrs E.p (fun rr10 => ?_)
    refine r_goto 86 dX0_drawType_82 (by decide) ?_
    refine r_sub [3, 0] rfl ?_
    exact wX0_drawType_b86 d9 R9 hR9 E p6.2.1 p6.2.2 a3 k0 p6.1 ha3 e
def fX0_drawType_b46 (R9 : Sg → hS → Int → Option (Option Nat × Sg × hS)) (s : Sg) (h : hS) (a1 : Int) (k0 : Int) : Option (Option Nat × Sg × hS) := bd (fX0_partsOf k0) fun p1 => if p1 ≤ 0 then fX0_drawType_b65 R9 s h a1 k0 none else bd (R9 s h (wr (a1 + 1))) fun p6 => fX0_drawType_b65 R9 p6.2.1 p6.2.2 a1 k0 p6.1
theorem wX0_drawType_b46 {N : Nx} {b : Nat} {ad : Nat → Nat} {s' : Sg} {h' : hS} {r : Option Nat} (d9 : Nat) (R9 : Sg → hS → Int → Option (Option Nat × Sg × hS)) (hR9 : ∀  {b : Nat} {ad : Nat → Nat} {s' : Sg} {h' : hS} {r : Option Nat} {s : Sg} {h : hS} {a1 : Int} (ha1 : rI a1), R9 s h a1 = some (r, s', h') → CtX (nG N) yX0_drawType cX0_drawType 6 (some (.object "DictProof$Term")) (d9 + 2) (25 * d9 + 43) [(0, b, ad)] [s] h [tr (some b), ti a1] (some (tr r)) [s'] h') (E : EndX N [(0, b, ad)] 6 (some (.object "DictProof$Term")) (some (tr r)) [s'] h')  (s : Sg) (h : hS) (a1 : Int) (k0 : Int) (ha1 : rI a1) (hk0 : rI k0) (e : fX0_drawType_b46 R9 s h a1 k0 = some (r, s', h')) : AtPc cX0_drawType RX0 ((d9 + 1) + 2) (25 * (d9 + 1) + 43) N [s] h 46 [(0, tr (some b)), (1, ti a1)] [ti k0] := by
  unfold fX0_drawType_b46 at e
  refine r_rrs E.p (fun rr => ?_)
  refine r_istore_n (lv' := [(3, ti k0), (0, tr (some b)), (1, ti a1)]) dX0_drawType_46 rfl (E.lt (by decide)) rfl ?_
  refine r_iload_n dX0_drawType_47 rfl 0 rfl ?_
  obtain ⟨p1, q2, e⟩ := bd_o e
  have k3 := kX0_partsOf (G := nG N) (h := h) hk0 q2
  have z4 := (k3 rr.none).1.2.2.2
  refine r_callS (j := none) 1 [ti k0] k3 (injO_1 E.p) subO_0 getO_0 setO_0 (lw_S q428 q429 q115 q430) (by decide +kernel) rfl (by omega) (by omega) rfl (Nat.le_of_ble_eq_true rfl) dX0_drawType_48 rfl ?_
  have eT := (r_ifo e).1
  have eF := (r_ifo e).2
  refine r_if_le z4 64 dX0_drawType_51 (by decide) (fun c5 => ?_) (fun c5 => ?_)
  · have e := eT c5
    refine r_null dX0_drawType_64 ?_
    refine r_sub [1, 2, 0] rfl ?_
    exact wX0_drawType_b65 d9 R9 hR9 E s h a1 k0 none ha1 hk0 e
  · have e := eF c5
    refine r_aload_n dX0_drawType_54 rfl 1 rfl ?_
    refine r_iload_n dX0_drawType_55 rfl 2 rfl ?_
    refine r_iconst dX0_drawType_56 ?_
    refine r_iadd dX0_drawType_57 ?_
    obtain ⟨p6, q7, e⟩ := bd_o e
    have k8 := hR9 (b := b) (ad := ad) (wr_r _) q7
    have z9 := (k8 rr).1.2.2.2
    refine r_callV (j := some 0) 1 [ti (wr (a1 + 1))] (rec_sg (j := 0) (r := (RX0, TX0, 36)) rfl (by rw [E.p]; rfl)) rfl k8 (injO_1 E.p) (subO_1 E.p) getO_1 setO_1 (lw_V q1349 q1351 qs39 q115 q1352) (by decide +kernel) rfl (by omega) (by omega) rfl (Nat.le_of_ble_eq_true rfl) dX0_drawType_58 rfl ?_
    refine r_rrs E.p (fun rr10 => ?_)
    refine r_goto 65 dX0_drawType_61 (by decide) ?_
    refine r_sub [1, 2, 0] rfl ?_
    exact wX0_drawType_b65 d9 R9 hR9 E p6.2.1 p6.2.2 a1 k0 p6.1 ha1 hk0 e
def fX0_drawType_b11 (R9 : Sg → hS → Int → Option (Option Nat × Sg × hS)) (s : Sg) (h : hS) (a1 : Int) (k1 : Int) : Option (Option Nat × Sg × hS) := bd (fX0_draw s k1) fun p1 => if ¬ p1.1 = 0 then if ¬ p1.1 = 1 then if ¬ p1.1 = 2 then fX0_drawType_b46 R9 p1.2 h a1 112 else fX0_drawType_b46 R9 p1.2 h a1 108 else fX0_drawType_b46 R9 p1.2 h a1 98 else fX0_drawType_b46 R9 p1.2 h a1 105
theorem wX0_drawType_b11 {N : Nx} {b : Nat} {ad : Nat → Nat} {s' : Sg} {h' : hS} {r : Option Nat} (d9 : Nat) (R9 : Sg → hS → Int → Option (Option Nat × Sg × hS)) (hR9 : ∀  {b : Nat} {ad : Nat → Nat} {s' : Sg} {h' : hS} {r : Option Nat} {s : Sg} {h : hS} {a1 : Int} (ha1 : rI a1), R9 s h a1 = some (r, s', h') → CtX (nG N) yX0_drawType cX0_drawType 6 (some (.object "DictProof$Term")) (d9 + 2) (25 * d9 + 43) [(0, b, ad)] [s] h [tr (some b), ti a1] (some (tr r)) [s'] h') (E : EndX N [(0, b, ad)] 6 (some (.object "DictProof$Term")) (some (tr r)) [s'] h')  (s : Sg) (h : hS) (a1 : Int) (k1 : Int) (ha1 : rI a1) (hk1 : rI k1) (e : fX0_drawType_b11 R9 s h a1 k1 = some (r, s', h')) : AtPc cX0_drawType RX0 ((d9 + 1) + 2) (25 * (d9 + 1) + 43) N [s] h 11 [(0, tr (some b)), (1, ti a1)] [ti k1, tr (some b)] := by
  unfold fX0_drawType_b11 at e
  refine r_rrs E.p (fun rr => ?_)
  obtain ⟨p1, q2, e⟩ := bd_o e
  have k3 := kX0_draw (G := nG N) (b := b) (ad := ad) (h := h) hk1 q2
  have z4 := (k3 rr).1.2.2.2
  refine r_callV (j := some 0) 1 [ti k1] (rec_sg (j := 0) (r := (RX0, TX0, 36)) rfl (by rw [E.p]; rfl)) rfl k3 (injO_1 E.p) (subO_1 E.p) getO_1 setO_1 (lw_V q1341 q1343 qs38 q115 q1344) (by decide +kernel) rfl (by omega) (by omega) rfl (Nat.le_of_ble_eq_true rfl) dX0_drawType_11 rfl ?_
  refine r_rrs E.p (fun rr5 => ?_)
  refine r_istore_n (lv' := [(2, ti p1.1), (0, tr (some b)), (1, ti a1)]) dX0_drawType_14 rfl (E.lt (by decide)) rfl ?_
  refine r_iload_n dX0_drawType_15 rfl 0 rfl ?_
  have eT := (r_ifo e).1
  have eF := (r_ifo e).2
  refine r_if_ne z4 24 dX0_drawType_16 (by decide) (fun c6 => ?_) (fun c6 => ?_)
  · have e := eT c6
    refine r_iload_n dX0_drawType_24 rfl 0 rfl ?_
    refine r_iconst dX0_drawType_25 ?_
    have eT := (r_ifo e).1
    have eF := (r_ifo e).2
    refine r_icmp_ne z4 (by decide) 34 dX0_drawType_26 (by decide) (fun c7 => ?_) (fun c7 => ?_)
    · have e := eT c7
      refine r_iload_n dX0_drawType_34 rfl 0 rfl ?_
      refine r_iconst dX0_drawType_35 ?_
      have eT := (r_ifo e).1
      have eF := (r_ifo e).2
      refine r_icmp_ne z4 (by decide) 44 dX0_drawType_36 (by decide) (fun c8 => ?_) (fun c8 => ?_)
      · have e := eT c8
        refine r_bipush dX0_drawType_44 (by decide) ?_
        refine r_sub [1, 2] rfl ?_
        exact wX0_drawType_b46 d9 R9 hR9 E p1.2 h a1 112 ha1 (by decide) e
      · have e := eF c8
        refine r_bipush dX0_drawType_39 (by decide) ?_
        refine r_goto 46 dX0_drawType_41 (by decide) ?_
        refine r_sub [1, 2] rfl ?_
        exact wX0_drawType_b46 d9 R9 hR9 E p1.2 h a1 108 ha1 (by decide) e
    · have e := eF c7
      refine r_bipush dX0_drawType_29 (by decide) ?_
      refine r_goto 46 dX0_drawType_31 (by decide) ?_
      refine r_sub [1, 2] rfl ?_
      exact wX0_drawType_b46 d9 R9 hR9 E p1.2 h a1 98 ha1 (by decide) e
  · have e := eF c6
    refine r_bipush dX0_drawType_19 (by decide) ?_
    refine r_goto 46 dX0_drawType_21 (by decide) ?_
    refine r_sub [1, 2] rfl ?_
    exact wX0_drawType_b46 d9 R9 hR9 E p1.2 h a1 105 ha1 (by decide) e
def fX0_drawType_B (R9 : Sg → hS → Int → Option (Option Nat × Sg × hS)) (s : Sg) (h : hS) (a1 : Int) : Option (Option Nat × Sg × hS) := if 2 ≤ a1 then fX0_drawType_b11 R9 s h a1 2 else fX0_drawType_b11 R9 s h a1 4
theorem kX0_drawType_B {G : Gx}  {b : Nat} {ad : Nat → Nat} {s' : Sg} {h' : hS} {r : Option Nat} {s : Sg} {h : hS} {a1 : Int} (d9 : Nat) (R9 : Sg → hS → Int → Option (Option Nat × Sg × hS)) (hR9 : ∀  {b : Nat} {ad : Nat → Nat} {s' : Sg} {h' : hS} {r : Option Nat} {s : Sg} {h : hS} {a1 : Int} (ha1 : rI a1), R9 s h a1 = some (r, s', h') → CtX G yX0_drawType cX0_drawType 6 (some (.object "DictProof$Term")) (d9 + 2) (25 * d9 + 43) [(0, b, ad)] [s] h [tr (some b), ti a1] (some (tr r)) [s'] h') (ha1 : rI a1) (e : fX0_drawType_B R9 s h a1 = some (r, s', h')) : CtX G yX0_drawType cX0_drawType 6 (some (.object "DictProof$Term")) ((d9 + 1) + 2) (25 * (d9 + 1) + 43) [(0, b, ad)] [s] h [tr (some b), ti a1] (some (tr r)) [s'] h' := by
  refine CtX.of (by decide) (Nat.le_of_ble_eq_true rfl) [(0, tr (some b)), (1, ti a1)] rfl ?_
  have E : EndX (G, 6, [(0, b, ad)], h, [s'], h', (some (.object "DictProof$Term")), (some (tr r)), yX0_drawType.name) [(0, b, ad)] 6 (some (.object "DictProof$Term")) (some (tr r)) [s'] h' := ⟨rfl, rfl, rfl, rfl, rfl, rfl⟩
  unfold fX0_drawType_B at e
  refine r_rrs E.p (fun rr => ?_)
  refine r_aload_n dX0_drawType_0 rfl 0 rfl ?_
  refine r_iload_n dX0_drawType_1 rfl 1 rfl ?_
  refine r_iconst dX0_drawType_2 ?_
  have eT := (r_ifo e).1
  have eF := (r_ifo e).2
  refine r_icmp_ge ha1 (by decide) 10 dX0_drawType_3 (by decide) (fun c1 => ?_) (fun c1 => ?_)
  · have e := eT c1
    refine r_iconst dX0_drawType_10 ?_
    exact wX0_drawType_b11 d9 R9 hR9 E s h a1 2 ha1 (by decide) e
  · have e := eF c1
    refine r_iconst dX0_drawType_6 ?_
    refine r_goto 11 dX0_drawType_7 (by decide) ?_
    exact wX0_drawType_b11 d9 R9 hR9 E s h a1 4 ha1 (by decide) e
def fX0_drawType : Nat → Sg → hS → Int → Option (Option Nat × Sg × hS)
  | 0, _, _, _ => none
  | d9 + 1, s, h, a1 => fX0_drawType_B (fX0_drawType d9) s h a1
theorem kX0_drawType {G : Gx} : ∀ (d9 : Nat), ∀  {b : Nat} {ad : Nat → Nat} {s' : Sg} {h' : hS} {r : Option Nat} {s : Sg} {h : hS} {a1 : Int} (ha1 : rI a1), fX0_drawType d9 s h a1 = some (r, s', h') → CtX G yX0_drawType cX0_drawType 6 (some (.object "DictProof$Term")) (d9 + 2) (25 * d9 + 43) [(0, b, ad)] [s] h [tr (some b), ti a1] (some (tr r)) [s'] h' := by
  intro d9
  induction d9 with
  | zero => intros; rename_i e; cases e
  | succ d9 ih => intros; exact kX0_drawType_B d9 _ ih (by assumption) (by assumption)
def fX0_drawnBy_b66 (K14 : Option Nat → Sg → hS → Int → Int → Int → Int → Int → Option (Int × Sg × hS)) (pm : Option Nat) (s : Sg) (h : hS) (a1 : Int) (a3 : Int) (a5 : Int) (a6 : Int) (o8 : Option Nat) (k0 : Int) (k1 : Int) : Option (Int × Sg × hS) := gd (hC h o8 = some 7) (bd (fX7_size 16 h o8) fun p1 => K14 pm s h a1 a3 (wr (k0 + k1)) (wr (a5 + p1)) (wr (a6 + 1)))
theorem wX0_drawnBy_b66 {N : Nx} {b : Nat} {ad : Nat → Nat} {s' : Sg} {h' : hS} {r : Int} (E : EndX N [(0, b, ad)] 9 (some .int) (some (ti r)) [s'] h') (K14 : Option Nat → Sg → hS → Int → Int → Int → Int → Int → Option (Int × Sg × hS)) (hK14 : ∀ (s : Sg) (h : hS) (a1 : Int) (a3 : Int) (a4 : Int) (a5 : Int) (a6 : Int) (ha1 : rI a1) (ha3 : rI a3) (ha4 : rI a4) (ha5 : rI a5) (ha6 : rI a6), K14 (some (ad 20)) s h a1 a3 a4 a5 a6 = some (r, s', h') → AtPc cX0_drawnBy RX0 83 2822 N [s] h 14 [(0, tr (some b)), (1, ti a1), (3, ti a3), (4, ti a4), (5, ti a5), (6, ti a6)] []) (s : Sg) (h : hS) (a1 : Int) (a3 : Int) (a5 : Int) (a6 : Int) (o8 : Option Nat) (k0 : Int) (k1 : Int) (ha1 : rI a1) (ha3 : rI a3) (ha5 : rI a5) (ha6 : rI a6) (hk0 : rI k0) (hk1 : rI k1) (e : fX0_drawnBy_b66 K14 (some (ad 20)) s h a1 a3 a5 a6 o8 k0 k1 = some (r, s', h')) : AtPc cX0_drawnBy RX0 83 2822 N [s] h 66 [(0, tr (some b)), (1, ti a1), (3, ti a3), (5, ti a5), (6, ti a6), (8, tr o8)] [ti k1, ti k0] := by
  unfold fX0_drawnBy_b66 at e
  refine r_rrs E.p (fun rr => ?_)
  refine r_iadd dX0_drawnBy_66 ?_
  refine r_istore (lv' := [(4, ti (wr (k0 + k1))), (0, tr (some b)), (1, ti a1), (3, ti a3), (5, ti a5), (6, ti a6), (8, tr o8)]) dX0_drawnBy_67 (E.lt (by decide)) rfl ?_
  refine r_iload dX0_drawnBy_69 4 rfl ?_
  refine r_aload dX0_drawnBy_71 6 rfl ?_
  obtain ⟨g3, e⟩ := gd_o e
  obtain ⟨p1, q2, e⟩ := bd_o e
  have k4 := kX7_size (G := nG N) 16  q2
  have z5 := (k4 rr.none).1.2.2.2
  refine r_callVo (j := none) 0 [] (c := 7) (rc := (RX7, TX7, 3)) rfl g3 rfl k4 (injO_1 E.p) subO_0 getO_0 setO_0 (lw_V q840 q841 q842 q124 q843) (by decide +kernel) rfl (Nat.le_of_ble_eq_true rfl) (Nat.le_of_ble_eq_true rfl) rfl (Nat.le_of_ble_eq_true rfl) dX0_drawnBy_73 rfl ?_
  refine r_iadd dX0_drawnBy_76 ?_
  refine r_istore (lv' := [(5, ti (wr (a5 + p1))), (4, ti (wr (k0 + k1))), (0, tr (some b)), (1, ti a1), (3, ti a3), (6, ti a6), (8, tr o8)]) dX0_drawnBy_77 (E.lt (by decide)) rfl ?_
  refine r_iinc (lv' := [(6, ti (wr (a6 + 1))), (5, ti (wr (a5 + p1))), (4, ti (wr (k0 + k1))), (0, tr (some b)), (1, ti a1), (3, ti a3), (8, tr o8)]) dX0_drawnBy_79 5 rfl (E.lt (by decide)) rfl ?_
  refine r_goto 14 dX0_drawnBy_82 (by decide) ?_
  refine r_sub [3, 4, 5, 2, 1, 0] rfl ?_
  exact hK14 s h a1 a3 (wr (k0 + k1)) (wr (a5 + p1)) (wr (a6 + 1)) ha1 ha3 (wr_r _) (wr_r _) (wr_r _) e
def fX0_drawnBy_b108 (pm : Option Nat) (s : Sg) (h : hS) (k0 : Int) : Option (Int × Sg × hS) := some (k0, s, h)
theorem wX0_drawnBy_b108 {N : Nx} {b : Nat} {ad : Nat → Nat} {s' : Sg} {h' : hS} {r : Int} (E : EndX N [(0, b, ad)] 9 (some .int) (some (ti r)) [s'] h')  (s : Sg) (h : hS) (k0 : Int) (hk0 : rI k0) (e : fX0_drawnBy_b108 (some (ad 20)) s h k0 = some (r, s', h')) : AtPc cX0_drawnBy RX0 83 2822 N [s] h 108 [] [ti k0] := by
  unfold fX0_drawnBy_b108 at e
  refine r_rrs E.p (fun rr => ?_)
  cases e
  exact r_iret E.σ E.st E.rt E.r hk0 dX0_drawnBy_108
def fX0_drawnBy_b14 (K14 : Option Nat → Sg → hS → Int → Int → Int → Int → Int → Option (Int × Sg × hS)) (pm : Option Nat) (s : Sg) (h : hS) (a1 : Int) (a3 : Int) (a4 : Int) (a5 : Int) (a6 : Int) : Option (Int × Sg × hS) := if a1 ≤ a6 then if ¬ a3 = 0 then if ¬ a3 = 1 then fX0_drawnBy_b108 pm s h (gI s 27) else fX0_drawnBy_b108 pm s h a5 else fX0_drawnBy_b108 pm s h a4 else bd (fX0_draw s (gI s 3)) fun p4 => bd (fX0_drawType 16 p4.2 h 0) fun p9 => bd (nwS p9.2.2 9 [vi 0, vq none]) fun p14 => bd (fX9_init p14.2 (some p14.1) p4.1 p9.1) fun p17 => bd (fX0_prove 16 pm p9.2.1 p17 (some p14.1)) fun p22 => bd (hI p22.2 p22.1 [(10, 1)]) fun v27 => if ¬ v27 = 1 then fX0_drawnBy_b66 K14 pm p9.2.1 p22.2 a1 a3 a5 a6 p9.1 a4 0 else fX0_drawnBy_b66 K14 pm p9.2.1 p22.2 a1 a3 a5 a6 p9.1 a4 1
theorem wX0_drawnBy_b14 {N : Nx} {b : Nat} {ad : Nat → Nat} {s' : Sg} {h' : hS} {r : Int} (E : EndX N [(0, b, ad)] 9 (some .int) (some (ti r)) [s'] h') (K14 : Option Nat → Sg → hS → Int → Int → Int → Int → Int → Option (Int × Sg × hS)) (hK14 : ∀ (s : Sg) (h : hS) (a1 : Int) (a3 : Int) (a4 : Int) (a5 : Int) (a6 : Int) (ha1 : rI a1) (ha3 : rI a3) (ha4 : rI a4) (ha5 : rI a5) (ha6 : rI a6), K14 (some (ad 20)) s h a1 a3 a4 a5 a6 = some (r, s', h') → AtPc cX0_drawnBy RX0 83 2822 N [s] h 14 [(0, tr (some b)), (1, ti a1), (3, ti a3), (4, ti a4), (5, ti a5), (6, ti a6)] []) (s : Sg) (h : hS) (a1 : Int) (a3 : Int) (a4 : Int) (a5 : Int) (a6 : Int) (ha1 : rI a1) (ha3 : rI a3) (ha4 : rI a4) (ha5 : rI a5) (ha6 : rI a6) (e : fX0_drawnBy_b14 K14 (some (ad 20)) s h a1 a3 a4 a5 a6 = some (r, s', h')) : AtPc cX0_drawnBy RX0 83 2822 N [s] h 14 [(0, tr (some b)), (1, ti a1), (3, ti a3), (4, ti a4), (5, ti a5), (6, ti a6)] [] := by
  unfold fX0_drawnBy_b14 at e
  refine r_rrs E.p (fun rr => ?_)
  refine r_iload dX0_drawnBy_14 5 rfl ?_
  refine r_iload_n dX0_drawnBy_16 rfl 1 rfl ?_
  have eT := (r_ifo e).1
  have eF := (r_ifo e).2
  refine r_icmp_ge ha6 ha1 85 dX0_drawnBy_17 (by decide) (fun c1 => ?_) (fun c1 => ?_)
  · have e := eT c1
    refine r_iload_n dX0_drawnBy_85 rfl 2 rfl ?_
    have eT := (r_ifo e).1
    have eF := (r_ifo e).2
    refine r_if_ne ha3 94 dX0_drawnBy_86 (by decide) (fun c2 => ?_) (fun c2 => ?_)
    · have e := eT c2
      refine r_iload_n dX0_drawnBy_94 rfl 2 rfl ?_
      refine r_iconst dX0_drawnBy_95 ?_
      have eT := (r_ifo e).1
      have eF := (r_ifo e).2
      refine r_icmp_ne ha3 (by decide) 104 dX0_drawnBy_96 (by decide) (fun c3 => ?_) (fun c3 => ?_)
      · have e := eT c3
        refine r_aload_n dX0_drawnBy_104 rfl 0 rfl ?_
        refine r_sI E.p 27 fG_X0_478 (by decide) dX0_drawnBy_105 ?_
        refine r_sub [] rfl ?_
        exact wX0_drawnBy_b108 E s h (gI s 27) ((rr.mine rfl).i 27 (by decide) (by decide)) e
      · have e := eF c3
        refine r_iload dX0_drawnBy_99 4 rfl ?_
        refine r_goto 108 dX0_drawnBy_101 (by decide) ?_
        refine r_sub [] rfl ?_
        exact wX0_drawnBy_b108 E s h a5 ha5 e
    · have e := eF c2
      refine r_iload dX0_drawnBy_89 3 rfl ?_
      refine r_goto 108 dX0_drawnBy_91 (by decide) ?_
      refine r_sub [] rfl ?_
      exact wX0_drawnBy_b108 E s h a4 ha4 e
  · have e := eF c1
    refine r_aload_n dX0_drawnBy_20 rfl 0 rfl ?_
    refine r_aload_n dX0_drawnBy_21 rfl 0 rfl ?_
    refine r_sI E.p 3 fG_X0_238 (by decide) dX0_drawnBy_22 ?_
    obtain ⟨p4, q5, e⟩ := bd_o e
    have k6 := kX0_draw (G := nG N) (b := b) (ad := ad) (h := h) ((rr.mine rfl).i 3 (by decide) (by decide)) q5
    have z7 := (k6 rr).1.2.2.2
    refine r_callV (j := some 0) 1 [ti (gI s 3)] (rec_sg (j := 0) (r := (RX0, TX0, 36)) rfl (by rw [E.p]; rfl)) rfl k6 (injO_1 E.p) (subO_1 E.p) getO_1 setO_1 (lw_V q1341 q1343 qs38 q115 q1344) (by decide +kernel) rfl (Nat.le_of_ble_eq_true rfl) (Nat.le_of_ble_eq_true rfl) rfl (Nat.le_of_ble_eq_true rfl) dX0_drawnBy_25 rfl ?_
    refine r_rrs E.p (fun rr8 => ?_)
    refine r_istore (lv' := [(7, ti p4.1), (0, tr (some b)), (1, ti a1), (3, ti a3), (4, ti a4), (5, ti a5), (6, ti a6)]) dX0_drawnBy_28 (E.lt (by decide)) rfl ?_
    refine r_aload_n dX0_drawnBy_30 rfl 1 rfl ?_
    refine r_iconst dX0_drawnBy_31 ?_
    obtain ⟨p9, q10, e⟩ := bd_o e
    have k11 := kX0_drawType (G := nG N) 16 (b := b) (ad := ad) (by decide) q10
    have z12 := (k11 rr8).1.2.2.2
    refine r_callV (j := some 0) 1 [ti 0] (rec_sg (j := 0) (r := (RX0, TX0, 36)) rfl (by rw [E.p]; rfl)) rfl k11 (injO_1 E.p) (subO_1 E.p) getO_1 setO_1 (lw_V q1349 q1351 qs39 q115 q1352) (by decide +kernel) rfl (Nat.le_of_ble_eq_true rfl) (Nat.le_of_ble_eq_true rfl) rfl (Nat.le_of_ble_eq_true rfl) dX0_drawnBy_32 rfl ?_
    refine r_rrs E.p (fun rr13 => ?_)
    refine r_astore (lv' := [(8, tr p9.1), (7, ti p4.1), (0, tr (some b)), (1, ti a1), (3, ti a3), (4, ti a4), (5, ti a5), (6, ti a6)]) dX0_drawnBy_35 (E.lt (by decide)) rfl ?_
    refine r_iload dX0_drawnBy_37 5 rfl ?_
    refine r_aload_n dX0_drawnBy_39 rfl 2 rfl ?_
    obtain ⟨p14, q15, e⟩ := bd_o e
    refine r_newS [vi 0, vq none] q15 rfl in_X9 tyX9_ok q862 q863 q133 (by decide +kernel) rfl (by decide +kernel) dX0_drawnBy_40 ?_
    refine r_rrs E.p (fun rr16 => ?_)
    refine r_dup dX0_drawnBy_43 rfl ?_
    refine r_iload dX0_drawnBy_44 1 rfl ?_
    refine r_aload dX0_drawnBy_46 0 rfl ?_
    obtain ⟨p17, q18, e⟩ := bd_o e
    have k19 := kX9_init (G := nG N) z7 q18
    have z20 := (k19 rr16.none).1.2.2.2
    refine r_callIo (j := none) 2 [ti p4.1, tr p9.1] (fun q => by cases q) rfl rfl k19 (injO_1 E.p) subO_0 getO_0 setO_0 q866 q133 q864 q865 (by decide +kernel) rfl (Nat.le_of_ble_eq_true rfl) (Nat.le_of_ble_eq_true rfl) rfl (Nat.le_of_ble_eq_true rfl) dX0_drawnBy_48 rfl ?_
    refine r_rrs E.p (fun rr21 => ?_)
    obtain ⟨p22, q23, e⟩ := bd_o e
    have k24 := kX0_prove (G := nG N) 16 (b := b) (ad := ad)  q23
    have z25 := (k24 rr21).1.2.2.2
    refine r_callV (j := some 0) 1 [tr (some p14.1)] (rec_sg (j := 0) (r := (RX0, TX0, 36)) rfl (by rw [E.p]; rfl)) rfl k24 (injO_1 E.p) (subO_1 E.p) getO_1 setO_1 (lw_V q877 q879 qs13 q115 q880) (by decide +kernel) rfl (Nat.le_of_ble_eq_true rfl) (Nat.le_of_ble_eq_true rfl) rfl (Nat.le_of_ble_eq_true rfl) dX0_drawnBy_51 rfl ?_
    refine r_rrs E.p (fun rr26 => ?_)
    obtain ⟨v27, q28, e⟩ := bd_o e
    refine r_getI fG_X0_341 q28 dX0_drawnBy_54 ?_
    refine r_iconst dX0_drawnBy_57 ?_
    have eT := (r_ifo e).1
    have eF := (r_ifo e).2
    refine r_icmp_ne (hI_r rr26 q28) (by decide) 65 dX0_drawnBy_58 (by decide) (fun c29 => ?_) (fun c29 => ?_)
    · have e := eT c29
      refine r_iconst dX0_drawnBy_65 ?_
      refine r_sub [2, 3, 4, 6, 7, 0] rfl ?_
      exact wX0_drawnBy_b66 E K14 hK14 p9.2.1 p22.2 a1 a3 a5 a6 p9.1 a4 0 ha1 ha3 ha5 ha6 ha4 (by decide) e
    · have e := eF c29
      refine r_iconst dX0_drawnBy_61 ?_
      refine r_goto 66 dX0_drawnBy_62 (by decide) ?_
      refine r_sub [2, 3, 4, 6, 7, 0] rfl ?_
      exact wX0_drawnBy_b66 E K14 hK14 p9.2.1 p22.2 a1 a3 a5 a6 p9.1 a4 1 ha1 ha3 ha5 ha6 ha4 (by decide) e
def fX0_drawnBy_L14  : Nat → Option Nat → Sg → hS → Int → Int → Int → Int → Int → Option (Int × Sg × hS)
  | 0, _, _, _, _, _, _, _, _ => none
  | n9 + 1, pm, s, h, a1, a3, a4, a5, a6 => fX0_drawnBy_b14 (fX0_drawnBy_L14 n9) pm s h a1 a3 a4 a5 a6
theorem wX0_drawnBy_L14 {N : Nx} {b : Nat} {ad : Nat → Nat} {s' : Sg} {h' : hS} {r : Int} (E : EndX N [(0, b, ad)] 9 (some .int) (some (ti r)) [s'] h')  : ∀ (n9 : Nat), ∀ (s : Sg) (h : hS) (a1 : Int) (a3 : Int) (a4 : Int) (a5 : Int) (a6 : Int) (ha1 : rI a1) (ha3 : rI a3) (ha4 : rI a4) (ha5 : rI a5) (ha6 : rI a6), fX0_drawnBy_L14 n9 (some (ad 20)) s h a1 a3 a4 a5 a6 = some (r, s', h') → AtPc cX0_drawnBy RX0 83 2822 N [s] h 14 [(0, tr (some b)), (1, ti a1), (3, ti a3), (4, ti a4), (5, ti a5), (6, ti a6)] [] := by
  intro n9
  induction n9 with
  | zero => intro s h a1 a3 a4 a5 a6 ha1 ha3 ha4 ha5 ha6 e; cases e
  | succ n9 ih => intro s h a1 a3 a4 a5 a6 ha1 ha3 ha4 ha5 ha6 e; exact wX0_drawnBy_b14 E _ ih s h a1 a3 a4 a5 a6 ha1 ha3 ha4 ha5 ha6 e
def fX0_drawnBy  (pm : Option Nat) (s : Sg) (h : hS) (a1 : Int) (a2 : Int) (a3 : Int) : Option (Int × Sg × hS) := fX0_drawnBy_L14 FU pm (sI s 27 a2) h a1 a3 0 0 0
theorem kX0_drawnBy {G : Gx}  {b : Nat} {ad : Nat → Nat} {s' : Sg} {h' : hS} {r : Int} {s : Sg} {h : hS} {a1 : Int} {a2 : Int} {a3 : Int}  (ha1 : rI a1) (ha2 : rI a2) (ha3 : rI a3) (e : fX0_drawnBy (some (ad 20)) s h a1 a2 a3 = some (r, s', h')) : CtX G yX0_drawnBy cX0_drawnBy 9 (some .int) 83 2822 [(0, b, ad)] [s] h [tr (some b), ti a1, ti a2, ti a3] (some (ti r)) [s'] h' := by
  refine CtX.of (by decide) (Nat.le_of_ble_eq_true rfl) [(0, tr (some b)), (1, ti a1), (2, ti a2), (3, ti a3)] rfl ?_
  have E : EndX (G, 9, [(0, b, ad)], h, [s'], h', (some .int), (some (ti r)), yX0_drawnBy.name) [(0, b, ad)] 9 (some .int) (some (ti r)) [s'] h' := ⟨rfl, rfl, rfl, rfl, rfl, rfl⟩
  unfold fX0_drawnBy at e
  refine r_rrs E.p (fun rr => ?_)
  refine r_aload_n dX0_drawnBy_0 rfl 0 rfl ?_
  refine r_iload_n dX0_drawnBy_1 rfl 2 rfl ?_
  refine r_sPI E.p 27 fP_X0_478 rfl ha2 dX0_drawnBy_2 ?_
  refine r_rrs E.p (fun rr1 => ?_)
  refine r_iconst dX0_drawnBy_5 ?_
  refine r_istore (lv' := [(4, ti 0), (0, tr (some b)), (1, ti a1), (2, ti a2), (3, ti a3)]) dX0_drawnBy_6 (E.lt (by decide)) rfl ?_
  refine r_iconst dX0_drawnBy_8 ?_
  refine r_istore (lv' := [(5, ti 0), (4, ti 0), (0, tr (some b)), (1, ti a1), (2, ti a2), (3, ti a3)]) dX0_drawnBy_9 (E.lt (by decide)) rfl ?_
  refine r_iconst dX0_drawnBy_11 ?_
  refine r_istore (lv' := [(6, ti 0), (5, ti 0), (4, ti 0), (0, tr (some b)), (1, ti a1), (2, ti a2), (3, ti a3)]) dX0_drawnBy_12 (E.lt (by decide)) rfl ?_
  refine r_sub [3, 4, 6, 2, 1, 0] rfl ?_
  exact wX0_drawnBy_L14 E FU (sI s 27 a2) h a1 a3 0 0 0 ha1 ha3 (by decide) (by decide) (by decide) e
def fX0_drawn_b28 (pm : Option Nat) (s : Sg) (h : hS) : Option (Int × Sg × hS) := some ((-102), s, h)
theorem wX0_drawn_b28 {N : Nx} {b : Nat} {ad : Nat → Nat} {s' : Sg} {h' : hS} {r : Int} (E : EndX N [(0, b, ad)] 4 (some .int) (some (ti r)) [s'] h')  (s : Sg) (h : hS) (e : fX0_drawn_b28 (some (ad 20)) s h = some (r, s', h')) : AtPc cX0_drawn RX0 84 2850 N [s] h 28 [] [] := by
  unfold fX0_drawn_b28 at e
  refine r_rrs E.p (fun rr => ?_)
  refine r_bipush dX0_drawn_28 (by decide) ?_
  cases e
  exact r_iret E.σ E.st E.rt E.r (by decide) dX0_drawn_30
def fX0_drawn_b50 (pm : Option Nat) (s : Sg) (h : hS) (k0 : Int) : Option (Int × Sg × hS) := some (k0, s, h)
theorem wX0_drawn_b50 {N : Nx} {b : Nat} {ad : Nat → Nat} {s' : Sg} {h' : hS} {r : Int} (E : EndX N [(0, b, ad)] 4 (some .int) (some (ti r)) [s'] h')  (s : Sg) (h : hS) (k0 : Int) (hk0 : rI k0) (e : fX0_drawn_b50 (some (ad 20)) s h k0 = some (r, s', h')) : AtPc cX0_drawn RX0 84 2850 N [s] h 50 [] [ti k0] := by
  unfold fX0_drawn_b50 at e
  refine r_rrs E.p (fun rr => ?_)
  cases e
  exact r_iret E.σ E.st E.rt E.r hk0 dX0_drawn_50
def fX0_drawn  (pm : Option Nat) (s : Sg) (h : hS) (a1 : Int) (a2 : Int) (a3 : Int) : Option (Int × Sg × hS) := bd (fX0_isIn a1 1 30) fun p1 => if p1 = 0 then fX0_drawn_b28 pm s h else if a2 < 0 then fX0_drawn_b28 pm s h else bd (fX0_isIn a3 0 2) fun p7 => if ¬ p7 = 0 then if (gI s 5) ≤ 0 then fX0_drawn_b50 pm s h (-103) else bd (fX0_drawnBy pm s h a1 a2 a3) fun p13 => fX0_drawn_b50 pm p13.2.1 p13.2.2 p13.1 else fX0_drawn_b28 pm s h
theorem kX0_drawn {G : Gx}  {b : Nat} {ad : Nat → Nat} {s' : Sg} {h' : hS} {r : Int} {s : Sg} {h : hS} {a1 : Int} {a2 : Int} {a3 : Int}  (ha1 : rI a1) (ha2 : rI a2) (ha3 : rI a3) (e : fX0_drawn (some (ad 20)) s h a1 a2 a3 = some (r, s', h')) : CtX G yX0_drawn cX0_drawn 4 (some .int) 84 2850 [(0, b, ad)] [s] h [tr (some b), ti a1, ti a2, ti a3] (some (ti r)) [s'] h' := by
  refine CtX.of (by decide) (Nat.le_of_ble_eq_true rfl) [(0, tr (some b)), (1, ti a1), (2, ti a2), (3, ti a3)] rfl ?_
  have E : EndX (G, 4, [(0, b, ad)], h, [s'], h', (some .int), (some (ti r)), yX0_drawn.name) [(0, b, ad)] 4 (some .int) (some (ti r)) [s'] h' := ⟨rfl, rfl, rfl, rfl, rfl, rfl⟩
  unfold fX0_drawn at e
  refine r_rrs E.p (fun rr => ?_)
  refine r_iload_n dX0_drawn_0 rfl 1 rfl ?_
  refine r_i2l ha1 dX0_drawn_1 ?_
  refine r_lconst 1 dX0_drawn_2 rfl ?_
  refine r_ldc2 30 q1336 (by decide) dX0_drawn_3 ?_
  obtain ⟨p1, q2, e⟩ := bd_o e
  have k3 := kX0_isIn (G := G) (h := h) (rI_L ha1) (by decide) (by decide) q2
  have z4 := (k3 rr.none).1.2.2.2
  refine r_callS (j := none) 3 [tl a1, tl 1, tl 30] k3 (injO_1 E.p) subO_0 getO_0 setO_0 (lw_S q397 q398 q115 q399) (by decide +kernel) rfl (Nat.le_of_ble_eq_true rfl) (Nat.le_of_ble_eq_true rfl) rfl (Nat.le_of_ble_eq_true rfl) dX0_drawn_6 rfl ?_
  have eT := (r_ifo e).1
  have eF := (r_ifo e).2
  refine r_if_eq (rI_z z4) 28 dX0_drawn_9 (by decide) (fun c5 => ?_) (fun c5 => ?_)
  · have e := eT c5
    refine r_sub [] rfl ?_
    exact wX0_drawn_b28 E s h e
  · have e := eF c5
    refine r_iload_n dX0_drawn_12 rfl 2 rfl ?_
    have eT := (r_ifo e).1
    have eF := (r_ifo e).2
    refine r_if_lt ha2 28 dX0_drawn_13 (by decide) (fun c6 => ?_) (fun c6 => ?_)
    · have e := eT c6
      refine r_sub [] rfl ?_
      exact wX0_drawn_b28 E s h e
    · have e := eF c6
      refine r_iload_n dX0_drawn_16 rfl 3 rfl ?_
      refine r_i2l ha3 dX0_drawn_17 ?_
      refine r_lconst 0 dX0_drawn_18 rfl ?_
      refine r_ldc2 2 q1307 (by decide) dX0_drawn_19 ?_
      obtain ⟨p7, q8, e⟩ := bd_o e
      have k9 := kX0_isIn (G := G) (h := h) (rI_L ha3) (by decide) (by decide) q8
      have z10 := (k9 rr.none).1.2.2.2
      refine r_callS (j := none) 3 [tl a3, tl 0, tl 2] k9 (injO_1 E.p) subO_0 getO_0 setO_0 (lw_S q397 q398 q115 q399) (by decide +kernel) rfl (Nat.le_of_ble_eq_true rfl) (Nat.le_of_ble_eq_true rfl) rfl (Nat.le_of_ble_eq_true rfl) dX0_drawn_22 rfl ?_
      have eT := (r_ifo e).1
      have eF := (r_ifo e).2
      refine r_if_ne (rI_z z10) 31 dX0_drawn_25 (by decide) (fun c11 => ?_) (fun c11 => ?_)
      · have e := eT c11
        refine r_aload_n dX0_drawn_31 rfl 0 rfl ?_
        refine r_sI E.p 5 fG_X0_268 (by decide) dX0_drawn_32 ?_
        have eT := (r_ifo e).1
        have eF := (r_ifo e).2
        refine r_if_le ((rr.mine rfl).i 5 (by decide) (by decide)) 48 dX0_drawn_35 (by decide) (fun c12 => ?_) (fun c12 => ?_)
        · have e := eT c12
          refine r_bipush dX0_drawn_48 (by decide) ?_
          refine r_sub [] rfl ?_
          exact wX0_drawn_b50 E s h (-103) (by decide) e
        · have e := eF c12
          refine r_aload_n dX0_drawn_38 rfl 0 rfl ?_
          refine r_iload_n dX0_drawn_39 rfl 1 rfl ?_
          refine r_iload_n dX0_drawn_40 rfl 2 rfl ?_
          refine r_iload_n dX0_drawn_41 rfl 3 rfl ?_
          obtain ⟨p13, q14, e⟩ := bd_o e
          have k15 := kX0_drawnBy (G := G) (b := b) (ad := ad) ha1 ha2 ha3 q14
          have z16 := (k15 rr).1.2.2.2
          refine r_callV (j := some 0) 3 [ti a1, ti a2, ti a3] (rec_sg (j := 0) (r := (RX0, TX0, 36)) rfl (by rw [E.p]; rfl)) rfl k15 (injO_1 E.p) (subO_1 E.p) getO_1 setO_1 (lw_V q1337 q1339 qs37 q115 q1340) (by decide +kernel) rfl (Nat.le_of_ble_eq_true rfl) (Nat.le_of_ble_eq_true rfl) rfl (Nat.le_of_ble_eq_true rfl) dX0_drawn_42 rfl ?_
          refine r_rrs E.p (fun rr17 => ?_)
          refine r_goto 50 dX0_drawn_45 (by decide) ?_
          refine r_sub [] rfl ?_
          exact wX0_drawn_b50 E p13.2.1 p13.2.2 p13.1 z16 e
      · have e := eF c11
        refine r_sub [] rfl ?_
        exact wX0_drawn_b28 E s h e
def fX0_slotsUsed_b24 (K4 : Sg → Int → Int → Option (Int)) (s : Sg) (a2 : Int) (k0 : Int) (k1 : Int) : Option (Int) := K4 s (wr (k0 + k1)) (wr (a2 + 1))
theorem wX0_slotsUsed_b24 {N : Nx} {b : Nat} {ad : Nat → Nat} {s : Sg} {h : hS} {r : Int} (E : EndX N [(0, b, ad)] 3 (some .int) (some (ti r)) [s] h) (K4 : Sg → Int → Int → Option (Int)) (hK4 : ∀ (a1 : Int) (a2 : Int) (ha1 : rI a1) (ha2 : rI a2), K4 s a1 a2 = some (r) → AtPc cX0_slotsUsed RX0 0 0 N [s] h 4 [(0, tr (some b)), (1, ti a1), (2, ti a2)] []) (a2 : Int) (k0 : Int) (k1 : Int) (ha2 : rI a2) (hk0 : rI k0) (hk1 : rI k1) (e : fX0_slotsUsed_b24 K4 s a2 k0 k1 = some (r)) : AtPc cX0_slotsUsed RX0 0 0 N [s] h 24 [(0, tr (some b)), (2, ti a2)] [ti k1, ti k0] := by
  unfold fX0_slotsUsed_b24 at e
  refine r_rrs E.p (fun rr => ?_)
  refine r_iadd dX0_slotsUsed_24 ?_
  refine r_istore_n (lv' := [(1, ti (wr (k0 + k1))), (0, tr (some b)), (2, ti a2)]) dX0_slotsUsed_25 rfl (E.lt (by decide)) rfl ?_
  refine r_iinc (lv' := [(2, ti (wr (a2 + 1))), (1, ti (wr (k0 + k1))), (0, tr (some b))]) dX0_slotsUsed_26 2 rfl (E.lt (by decide)) rfl ?_
  refine r_goto 4 dX0_slotsUsed_29 (by decide) ?_
  refine r_sub [2, 1, 0] rfl ?_
  exact hK4 (wr (k0 + k1)) (wr (a2 + 1)) (wr_r _) (wr_r _) e
def fX0_slotsUsed_b4 (K4 : Sg → Int → Int → Option (Int)) (s : Sg) (a1 : Int) (a2 : Int) : Option (Int) := if 4 ≤ a2 then some a1 else gd (inb a2 4) (ifN (gQ s 6 a2) (fX0_slotsUsed_b24 K4 s a2 a1 0) (fun _ => fX0_slotsUsed_b24 K4 s a2 a1 1))
theorem wX0_slotsUsed_b4 {N : Nx} {b : Nat} {ad : Nat → Nat} {s : Sg} {h : hS} {r : Int} (E : EndX N [(0, b, ad)] 3 (some .int) (some (ti r)) [s] h) (K4 : Sg → Int → Int → Option (Int)) (hK4 : ∀ (a1 : Int) (a2 : Int) (ha1 : rI a1) (ha2 : rI a2), K4 s a1 a2 = some (r) → AtPc cX0_slotsUsed RX0 0 0 N [s] h 4 [(0, tr (some b)), (1, ti a1), (2, ti a2)] []) (a1 : Int) (a2 : Int) (ha1 : rI a1) (ha2 : rI a2) (e : fX0_slotsUsed_b4 K4 s a1 a2 = some (r)) : AtPc cX0_slotsUsed RX0 0 0 N [s] h 4 [(0, tr (some b)), (1, ti a1), (2, ti a2)] [] := by
  unfold fX0_slotsUsed_b4 at e
  refine r_rrs E.p (fun rr => ?_)
  refine r_iload_n dX0_slotsUsed_4 rfl 2 rfl ?_
  refine r_iconst dX0_slotsUsed_5 ?_
  have eT := (r_ifo e).1
  have eF := (r_ifo e).2
  refine r_icmp_ge ha2 (by decide) 32 dX0_slotsUsed_6 (by decide) (fun c1 => ?_) (fun c1 => ?_)
  · have e := eT c1
    refine r_iload_n dX0_slotsUsed_32 rfl 1 rfl ?_
    cases e
    exact r_iret E.σ E.st E.rt E.r ha1 dX0_slotsUsed_33
  · have e := eF c1
    refine r_iload_n dX0_slotsUsed_9 rfl 1 rfl ?_
    refine r_aload_n dX0_slotsUsed_10 rfl 0 rfl ?_
    refine r_sR E.p 6 fG_X0_117 (by decide) dX0_slotsUsed_11 ?_
    refine r_iload_n dX0_slotsUsed_14 rfl 2 rfl ?_
    obtain ⟨g2, e⟩ := gd_o e
    refine r_saQ E.p 6 rfl (by decide) (by decide) (by decide) ha2 g2 dX0_slotsUsed_15 ?_
    have eT := (r_ifno e).1
    have eF := (r_ifno e).2
    refine r_ifnonnull 23 dX0_slotsUsed_16 (by decide) (fun c3 => ?_) (fun x4 c3 => ?_)
    · have e := eT c3
      refine r_iconst dX0_slotsUsed_19 ?_
      refine r_goto 24 dX0_slotsUsed_20 (by decide) ?_
      refine r_sub [0, 2] rfl ?_
      exact wX0_slotsUsed_b24 E K4 hK4 a2 a1 0 ha2 ha1 (by decide) e
    · have e := eF x4 c3
      refine r_iconst dX0_slotsUsed_23 ?_
      refine r_sub [0, 2] rfl ?_
      exact wX0_slotsUsed_b24 E K4 hK4 a2 a1 1 ha2 ha1 (by decide) e
def fX0_slotsUsed_L4  : Nat → Sg → Int → Int → Option (Int)
  | 0, _, _, _ => none
  | n9 + 1, s, a1, a2 => fX0_slotsUsed_b4 (fX0_slotsUsed_L4 n9) s a1 a2
theorem wX0_slotsUsed_L4 {N : Nx} {b : Nat} {ad : Nat → Nat} {s : Sg} {h : hS} {r : Int} (E : EndX N [(0, b, ad)] 3 (some .int) (some (ti r)) [s] h)  : ∀ (n9 : Nat), ∀ (a1 : Int) (a2 : Int) (ha1 : rI a1) (ha2 : rI a2), fX0_slotsUsed_L4 n9 s a1 a2 = some (r) → AtPc cX0_slotsUsed RX0 0 0 N [s] h 4 [(0, tr (some b)), (1, ti a1), (2, ti a2)] [] := by
  intro n9
  induction n9 with
  | zero => intro a1 a2 ha1 ha2 e; cases e
  | succ n9 ih => intro a1 a2 ha1 ha2 e; exact wX0_slotsUsed_b4 E _ ih a1 a2 ha1 ha2 e
def fX0_slotsUsed  (s : Sg) : Option (Int) := fX0_slotsUsed_L4 FU s 0 0
theorem kX0_slotsUsed {G : Gx}  {b : Nat} {ad : Nat → Nat} {s : Sg} {h : hS} {r : Int}    (e : fX0_slotsUsed s = some (r)) : CtX G yX0_slotsUsed cX0_slotsUsed 3 (some .int) 0 0 [(0, b, ad)] [s] h [tr (some b)] (some (ti r)) [s] h := by
  refine CtX.of (by decide) (Nat.le_of_ble_eq_true rfl) [(0, tr (some b))] rfl ?_
  have E : EndX (G, 3, [(0, b, ad)], h, [s], h, (some .int), (some (ti r)), yX0_slotsUsed.name) [(0, b, ad)] 3 (some .int) (some (ti r)) [s] h := ⟨rfl, rfl, rfl, rfl, rfl, rfl⟩
  unfold fX0_slotsUsed at e
  refine r_rrs E.p (fun rr => ?_)
  refine r_iconst dX0_slotsUsed_0 ?_
  refine r_istore_n (lv' := [(1, ti 0), (0, tr (some b))]) dX0_slotsUsed_1 rfl (E.lt (by decide)) rfl ?_
  refine r_iconst dX0_slotsUsed_2 ?_
  refine r_istore_n (lv' := [(2, ti 0), (1, ti 0), (0, tr (some b))]) dX0_slotsUsed_3 rfl (E.lt (by decide)) rfl ?_
  refine r_sub [2, 1, 0] rfl ?_
  exact wX0_slotsUsed_L4 E FU 0 0 (by decide) (by decide) e
theorem fG_X0_151 : FldG RX0 151 [(0, 29)] := List.forall_mem_cons.mpr ⟨⟨RX0, TX0, 36, "DictProof", rfl, in_X0, by decide, q310, Or.inl rfl⟩, fun _ h => absurd h List.not_mem_nil⟩
theorem fG_X0_154 : FldG RX0 154 [(0, 30)] := List.forall_mem_cons.mpr ⟨⟨RX0, TX0, 36, "DictProof", rfl, in_X0, by decide, q311, Or.inl rfl⟩, fun _ h => absurd h List.not_mem_nil⟩
theorem fG_X0_157 : FldG RX0 157 [(0, 31)] := List.forall_mem_cons.mpr ⟨⟨RX0, TX0, 36, "DictProof", rfl, in_X0, by decide, q312, Or.inl rfl⟩, fun _ h => absurd h List.not_mem_nil⟩
theorem fG_X0_160 : FldG RX0 160 [(0, 32)] := List.forall_mem_cons.mpr ⟨⟨RX0, TX0, 36, "DictProof", rfl, in_X0, by decide, q313, Or.inl rfl⟩, fun _ h => absurd h List.not_mem_nil⟩
theorem fP_X0_504 : FldP RX0 504 [(0, 33)] .int false := List.forall_mem_cons.mpr ⟨⟨RX0, TX0, 36, "DictProof", tyX0, rfl, in_X0, by decide, q314, Or.inl rfl, tyX0_ok, nmX0, rfl, Or.inl rfl, by decide⟩, fun _ h => absurd h List.not_mem_nil⟩
theorem fP_X0_163 : FldP RX0 163 [(0, 34)] .int false := List.forall_mem_cons.mpr ⟨⟨RX0, TX0, 36, "DictProof", tyX0, rfl, in_X0, by decide, q315, Or.inl rfl, tyX0_ok, nmX0, rfl, Or.inl rfl, by decide⟩, fun _ h => absurd h List.not_mem_nil⟩
theorem fG_X0_148 : FldG RX0 148 [(0, 28)] := List.forall_mem_cons.mpr ⟨⟨RX0, TX0, 36, "DictProof", rfl, in_X0, by decide, q309, Or.inl rfl⟩, fun _ h => absurd h List.not_mem_nil⟩
def fX0_image_b12 (K12 : Sg → hS → Int → Option (Int × Sg)) (s : Sg) (h : hS) (a1 : Int) : Option (Int × Sg) := if (gI s 5) ≤ a1 then gd (okQ h s 6 4 7 = true) (bd (fX0_slotsUsed (sI (sI (sCA (sCA (sCA (sCQ s 6 29 ((4 : Nat) : Int)) 23 30 6) 24 31 6) 25 32 6) 33 (gI (sCA (sCA (sCA (sCQ s 6 29 ((4 : Nat) : Int)) 23 30 6) 24 31 6) 25 32 6) 26)) 34 (gI (sI (sCA (sCA (sCA (sCQ s 6 29 ((4 : Nat) : Int)) 23 30 6) 24 31 6) 25 32 6) 33 (gI (sCA (sCA (sCA (sCQ s 6 29 ((4 : Nat) : Int)) 23 30 6) 24 31 6) 25 32 6) 26)) 7))) fun p9 => some (p9, sI (sI (sCA (sCA (sCA (sCQ s 6 29 ((4 : Nat) : Int)) 23 30 6) 24 31 6) 25 32 6) 33 (gI (sCA (sCA (sCA (sCQ s 6 29 ((4 : Nat) : Int)) 23 30 6) 24 31 6) 25 32 6) 26)) 34 (gI (sI (sCA (sCA (sCA (sCQ s 6 29 ((4 : Nat) : Int)) 23 30 6) 24 31 6) 25 32 6) 33 (gI (sCA (sCA (sCA (sCQ s 6 29 ((4 : Nat) : Int)) 23 30 6) 24 31 6) 25 32 6) 26)) 7))) else gd (inb a1 6) (bd (D9_kind h (gQ s 4 a1)) fun p14 => gd (inb a1 6) (K12 (sA s 28 a1 p14) h (wr (a1 + 1))))
theorem wX0_image_b12 {N : Nx} {b : Nat} {ad : Nat → Nat} {s' : Sg} {h : hS} {r : Int} (E : EndX N [(0, b, ad)] 2 (some .int) (some (ti r)) [s'] h) (K12 : Sg → hS → Int → Option (Int × Sg)) (hK12 : ∀ (s : Sg) (a1 : Int) (ha1 : rI a1), K12 s h a1 = some (r, s') → AtPc cX0_image RX0 2 40 N [s] h 12 [(0, tr (some b)), (1, ti a1)] []) (s : Sg) (a1 : Int) (ha1 : rI a1) (e : fX0_image_b12 K12 s h a1 = some (r, s')) : AtPc cX0_image RX0 2 40 N [s] h 12 [(0, tr (some b)), (1, ti a1)] [] := by
  unfold fX0_image_b12 at e
  refine r_rrs E.p (fun rr => ?_)
  refine r_iload_n dX0_image_12 rfl 1 rfl ?_
  refine r_aload_n dX0_image_13 rfl 0 rfl ?_
  refine r_sI E.p 5 fG_X0_268 (by decide) dX0_image_14 ?_
  have eT := (r_ifo e).1
  have eF := (r_ifo e).2
  refine r_icmp_ge ha1 ((rr.mine rfl).i 5 (by decide) (by decide)) 41 dX0_image_17 (by decide) (fun c1 => ?_) (fun c1 => ?_)
  · have e := eT c1
    refine r_aload_n dX0_image_41 rfl 0 rfl ?_
    refine r_sR E.p 6 fG_X0_117 (by decide) dX0_image_42 ?_
    refine r_iconst dX0_image_45 ?_
    refine r_aload_n dX0_image_46 rfl 0 rfl ?_
    refine r_sR E.p 29 fG_X0_151 (by decide) dX0_image_47 ?_
    refine r_iconst dX0_image_50 ?_
    refine r_iconst dX0_image_51 ?_
    obtain ⟨g2, e⟩ := gd_o e
    refine r_copyQ (k1 := 6) (k2 := 29) (n := 4) (c := 7) (r := (RX7, TX7, 3)) E.p rfl rfl (by decide) (by decide) (by decide) rfl rfl g2 (by decide) q1357 q1302 q1301 q140 (Nat.le_of_ble_eq_true rfl) (Nat.le_of_ble_eq_true rfl) (Nat.le_of_ble_eq_true rfl) dX0_image_52 ?_
    refine r_rrs E.p (fun rr3 => ?_)
    refine r_aload_n dX0_image_55 rfl 0 rfl ?_
    refine r_sR E.p 23 fG_X0_139 (by decide) dX0_image_56 ?_
    refine r_iconst dX0_image_59 ?_
    refine r_aload_n dX0_image_60 rfl 0 rfl ?_
    refine r_sR E.p 30 fG_X0_154 (by decide) dX0_image_61 ?_
    refine r_iconst dX0_image_64 ?_
    refine r_bipush dX0_image_65 (by decide) ?_
    refine r_copyS (k1 := 23) (k2 := 30) E.p rfl rfl (by decide) (by decide) (by decide) (by decide) (by decide) q1357 q1302 q1301 q140 (Nat.le_of_ble_eq_true rfl) (Nat.le_of_ble_eq_true rfl) (Nat.le_of_ble_eq_true rfl) dX0_image_67 ?_
    refine r_rrs E.p (fun rr4 => ?_)
    refine r_aload_n dX0_image_70 rfl 0 rfl ?_
    refine r_sR E.p 24 fG_X0_142 (by decide) dX0_image_71 ?_
    refine r_iconst dX0_image_74 ?_
    refine r_aload_n dX0_image_75 rfl 0 rfl ?_
    refine r_sR E.p 31 fG_X0_157 (by decide) dX0_image_76 ?_
    refine r_iconst dX0_image_79 ?_
    refine r_bipush dX0_image_80 (by decide) ?_
    refine r_copyS (k1 := 24) (k2 := 31) E.p rfl rfl (by decide) (by decide) (by decide) (by decide) (by decide) q1357 q1302 q1301 q140 (Nat.le_of_ble_eq_true rfl) (Nat.le_of_ble_eq_true rfl) (Nat.le_of_ble_eq_true rfl) dX0_image_82 ?_
    refine r_rrs E.p (fun rr5 => ?_)
    refine r_aload_n dX0_image_85 rfl 0 rfl ?_
    refine r_sR E.p 25 fG_X0_145 (by decide) dX0_image_86 ?_
    refine r_iconst dX0_image_89 ?_
    refine r_aload_n dX0_image_90 rfl 0 rfl ?_
    refine r_sR E.p 32 fG_X0_160 (by decide) dX0_image_91 ?_
    refine r_iconst dX0_image_94 ?_
    refine r_bipush dX0_image_95 (by decide) ?_
    refine r_copyS (k1 := 25) (k2 := 32) E.p rfl rfl (by decide) (by decide) (by decide) (by decide) (by decide) q1357 q1302 q1301 q140 (Nat.le_of_ble_eq_true rfl) (Nat.le_of_ble_eq_true rfl) (Nat.le_of_ble_eq_true rfl) dX0_image_97 ?_
    refine r_rrs E.p (fun rr6 => ?_)
    refine r_aload_n dX0_image_100 rfl 0 rfl ?_
    refine r_aload_n dX0_image_101 rfl 0 rfl ?_
    refine r_sI E.p 26 fG_X0_276 (by decide) dX0_image_102 ?_
    refine r_sPI E.p 33 fP_X0_504 rfl ((rr6.mine rfl).i 26 (by decide) (by decide)) dX0_image_105 ?_
    refine r_rrs E.p (fun rr7 => ?_)
    refine r_aload_n dX0_image_108 rfl 0 rfl ?_
    refine r_aload_n dX0_image_109 rfl 0 rfl ?_
    refine r_sI E.p 7 fG_X0_279 (by decide) dX0_image_110 ?_
    refine r_sPI E.p 34 fP_X0_163 rfl ((rr7.mine rfl).i 7 (by decide) (by decide)) dX0_image_113 ?_
    refine r_rrs E.p (fun rr8 => ?_)
    refine r_aload_n dX0_image_116 rfl 0 rfl ?_
    obtain ⟨p9, q10, e⟩ := bd_o e
    have k11 := kX0_slotsUsed (G := nG N) (b := b) (ad := ad) (h := h)  q10
    have z12 := (k11 rr8).1.2.2.2
    refine r_callV (j := some 0) 0 [] (rec_sg (j := 0) (r := (RX0, TX0, 36)) rfl (by rw [E.p]; rfl)) rfl k11 (injO_1 E.p) (subO_1 E.p) getO_1 setO_1 (lw_V q1358 q1360 qs40 q115 q1361) (by decide +kernel) rfl (Nat.le_of_ble_eq_true rfl) (Nat.le_of_ble_eq_true rfl) rfl (Nat.le_of_ble_eq_true rfl) dX0_image_117 rfl ?_
    cases e
    exact r_iret E.σ E.st E.rt E.r z12 dX0_image_120
  · have e := eF c1
    refine r_aload_n dX0_image_20 rfl 0 rfl ?_
    refine r_sR E.p 28 fG_X0_148 (by decide) dX0_image_21 ?_
    refine r_iload_n dX0_image_24 rfl 1 rfl ?_
    refine r_aload_n dX0_image_25 rfl 0 rfl ?_
    refine r_sR E.p 4 fG_X0_114 (by decide) dX0_image_26 ?_
    refine r_iload_n dX0_image_29 rfl 1 rfl ?_
    obtain ⟨g13, e⟩ := gd_o e
    refine r_saQ E.p 4 rfl (by decide) (by decide) (by decide) ha1 g13 dX0_image_30 ?_
    obtain ⟨p14, q15, e⟩ := bd_o e
    have z16 := zD9_kind (G := nG N)  q15 rr.none
    refine rD_X0_404  q15 (injO_1 E.p) (Nat.le_of_ble_eq_true rfl) (Nat.le_of_ble_eq_true rfl) rfl (Nat.le_of_ble_eq_true rfl) dX0_image_31 rfl ?_
    obtain ⟨g17, e⟩ := gd_o e
    refine r_saP E.p 28 rfl (by decide) (by decide) ha1 g17 z16 rfl dX0_image_34 ?_
    refine r_rrs E.p (fun rr18 => ?_)
    refine r_iinc (lv' := [(1, ti (wr (a1 + 1))), (0, tr (some b))]) dX0_image_35 1 rfl (E.lt (by decide)) rfl ?_
    refine r_goto 12 dX0_image_38 (by decide) ?_
    refine r_sub [1, 0] rfl ?_
    exact hK12 (sA s 28 a1 p14) (wr (a1 + 1)) (wr_r _) e
def fX0_image_L12  : Nat → Sg → hS → Int → Option (Int × Sg)
  | 0, _, _, _ => none
  | n9 + 1, s, h, a1 => fX0_image_b12 (fX0_image_L12 n9) s h a1
theorem wX0_image_L12 {N : Nx} {b : Nat} {ad : Nat → Nat} {s' : Sg} {h : hS} {r : Int} (E : EndX N [(0, b, ad)] 2 (some .int) (some (ti r)) [s'] h)  : ∀ (n9 : Nat), ∀ (s : Sg) (a1 : Int) (ha1 : rI a1), fX0_image_L12 n9 s h a1 = some (r, s') → AtPc cX0_image RX0 2 40 N [s] h 12 [(0, tr (some b)), (1, ti a1)] [] := by
  intro n9
  induction n9 with
  | zero => intro s a1 ha1 e; cases e
  | succ n9 ih => intro s a1 ha1 e; exact wX0_image_b12 E _ ih s a1 ha1 e
def fX0_image  (s : Sg) (h : hS) : Option (Int × Sg) := if ¬ (gI s 5) = 0 then fX0_image_L12 FU s h 0 else some ((-103), s)
theorem kX0_image {G : Gx}  {b : Nat} {ad : Nat → Nat} {s' : Sg} {h : hS} {r : Int} {s : Sg}    (e : fX0_image s h = some (r, s')) : CtX G yX0_image cX0_image 2 (some .int) 2 40 [(0, b, ad)] [s] h [tr (some b)] (some (ti r)) [s'] h := by
  refine CtX.of (by decide) (Nat.le_of_ble_eq_true rfl) [(0, tr (some b))] rfl ?_
  have E : EndX (G, 2, [(0, b, ad)], h, [s'], h, (some .int), (some (ti r)), yX0_image.name) [(0, b, ad)] 2 (some .int) (some (ti r)) [s'] h := ⟨rfl, rfl, rfl, rfl, rfl, rfl⟩
  unfold fX0_image at e
  refine r_rrs E.p (fun rr => ?_)
  refine r_aload_n dX0_image_0 rfl 0 rfl ?_
  refine r_sI E.p 5 fG_X0_268 (by decide) dX0_image_1 ?_
  have eT := (r_ifo e).1
  have eF := (r_ifo e).2
  refine r_if_ne ((rr.mine rfl).i 5 (by decide) (by decide)) 10 dX0_image_4 (by decide) (fun c1 => ?_) (fun c1 => ?_)
  · have e := eT c1
    refine r_iconst dX0_image_10 ?_
    refine r_istore_n (lv' := [(1, ti 0), (0, tr (some b))]) dX0_image_11 rfl (E.lt (by decide)) rfl ?_
    refine r_sub [1, 0] rfl ?_
    exact wX0_image_L12 E FU s 0 (by decide) e
  · have e := eF c1
    refine r_bipush dX0_image_7 (by decide) ?_
    cases e
    exact r_iret E.σ E.st E.rt E.r (by decide) dX0_image_9
theorem fG_X0_163 : FldG RX0 163 [(0, 34)] := List.forall_mem_cons.mpr ⟨⟨RX0, TX0, 36, "DictProof", rfl, in_X0, by decide, q315, Or.inl rfl⟩, fun _ h => absurd h List.not_mem_nil⟩
theorem fG_X0_504 : FldG RX0 504 [(0, 33)] := List.forall_mem_cons.mpr ⟨⟨RX0, TX0, 36, "DictProof", rfl, in_X0, by decide, q314, Or.inl rfl⟩, fun _ h => absurd h List.not_mem_nil⟩
def fX0_restore_b16 (K16 : Option Nat → Sg → hS → Int → Option (Int × Sg × hS)) (pm : Option Nat) (s : Sg) (h : hS) (a1 : Int) : Option (Int × Sg × hS) := if (gI s 5) ≤ a1 then gd (okQ h s 29 4 7 = true) (gd (hC h pm = some 11) (bd (fJ1_clear h pm) fun p8 => bd (fX0_slotsUsed (sI (sCA (sCA (sCA (sCQ s 29 6 ((4 : Nat) : Int)) 30 23 6) 31 24 6) 32 25 6) 26 (gI (sCA (sCA (sCA (sCQ s 29 6 ((4 : Nat) : Int)) 30 23 6) 31 24 6) 32 25 6) 33))) fun p14 => some (p14, sI (sCA (sCA (sCA (sCQ s 29 6 ((4 : Nat) : Int)) 30 23 6) 31 24 6) 32 25 6) 26 (gI (sCA (sCA (sCA (sCQ s 29 6 ((4 : Nat) : Int)) 30 23 6) 31 24 6) 32 25 6) 33), p8))) else gd (inb a1 6) (bd (fX0_be s h a1 (gA s 28 a1)) fun p19 => K16 pm p19.1 p19.2 (wr (a1 + 1)))
theorem wX0_restore_b16 {N : Nx} {b : Nat} {ad : Nat → Nat} {s' : Sg} {h' : hS} {r : Int} (E : EndX N [(0, b, ad)] 2 (some .int) (some (ti r)) [s'] h') (K16 : Option Nat → Sg → hS → Int → Option (Int × Sg × hS)) (hK16 : ∀ (s : Sg) (h : hS) (a1 : Int) (ha1 : rI a1), K16 (some (ad 20)) s h a1 = some (r, s', h') → AtPc cX0_restore RX0 6 123 N [s] h 16 [(0, tr (some b)), (1, ti a1)] []) (s : Sg) (h : hS) (a1 : Int) (ha1 : rI a1) (e : fX0_restore_b16 K16 (some (ad 20)) s h a1 = some (r, s', h')) : AtPc cX0_restore RX0 6 123 N [s] h 16 [(0, tr (some b)), (1, ti a1)] [] := by
  unfold fX0_restore_b16 at e
  refine r_rrs E.p (fun rr => ?_)
  refine r_iload_n dX0_restore_16 rfl 1 rfl ?_
  refine r_aload_n dX0_restore_17 rfl 0 rfl ?_
  refine r_sI E.p 5 fG_X0_268 (by decide) dX0_restore_18 ?_
  have eT := (r_ifo e).1
  have eF := (r_ifo e).2
  refine r_icmp_ge ha1 ((rr.mine rfl).i 5 (by decide) (by decide)) 41 dX0_restore_21 (by decide) (fun c1 => ?_) (fun c1 => ?_)
  · have e := eT c1
    refine r_aload_n dX0_restore_41 rfl 0 rfl ?_
    refine r_sR E.p 29 fG_X0_151 (by decide) dX0_restore_42 ?_
    refine r_iconst dX0_restore_45 ?_
    refine r_aload_n dX0_restore_46 rfl 0 rfl ?_
    refine r_sR E.p 6 fG_X0_117 (by decide) dX0_restore_47 ?_
    refine r_iconst dX0_restore_50 ?_
    refine r_iconst dX0_restore_51 ?_
    obtain ⟨g2, e⟩ := gd_o e
    refine r_copyQ (k1 := 29) (k2 := 6) (n := 4) (c := 7) (r := (RX7, TX7, 3)) E.p rfl rfl (by decide) (by decide) (by decide) rfl rfl g2 (by decide) q1357 q1302 q1301 q140 (Nat.le_of_ble_eq_true rfl) (Nat.le_of_ble_eq_true rfl) (Nat.le_of_ble_eq_true rfl) dX0_restore_52 ?_
    refine r_rrs E.p (fun rr3 => ?_)
    refine r_aload_n dX0_restore_55 rfl 0 rfl ?_
    refine r_sR E.p 30 fG_X0_154 (by decide) dX0_restore_56 ?_
    refine r_iconst dX0_restore_59 ?_
    refine r_aload_n dX0_restore_60 rfl 0 rfl ?_
    refine r_sR E.p 23 fG_X0_139 (by decide) dX0_restore_61 ?_
    refine r_iconst dX0_restore_64 ?_
    refine r_bipush dX0_restore_65 (by decide) ?_
    refine r_copyS (k1 := 30) (k2 := 23) E.p rfl rfl (by decide) (by decide) (by decide) (by decide) (by decide) q1357 q1302 q1301 q140 (Nat.le_of_ble_eq_true rfl) (Nat.le_of_ble_eq_true rfl) (Nat.le_of_ble_eq_true rfl) dX0_restore_67 ?_
    refine r_rrs E.p (fun rr4 => ?_)
    refine r_aload_n dX0_restore_70 rfl 0 rfl ?_
    refine r_sR E.p 31 fG_X0_157 (by decide) dX0_restore_71 ?_
    refine r_iconst dX0_restore_74 ?_
    refine r_aload_n dX0_restore_75 rfl 0 rfl ?_
    refine r_sR E.p 24 fG_X0_142 (by decide) dX0_restore_76 ?_
    refine r_iconst dX0_restore_79 ?_
    refine r_bipush dX0_restore_80 (by decide) ?_
    refine r_copyS (k1 := 31) (k2 := 24) E.p rfl rfl (by decide) (by decide) (by decide) (by decide) (by decide) q1357 q1302 q1301 q140 (Nat.le_of_ble_eq_true rfl) (Nat.le_of_ble_eq_true rfl) (Nat.le_of_ble_eq_true rfl) dX0_restore_82 ?_
    refine r_rrs E.p (fun rr5 => ?_)
    refine r_aload_n dX0_restore_85 rfl 0 rfl ?_
    refine r_sR E.p 32 fG_X0_160 (by decide) dX0_restore_86 ?_
    refine r_iconst dX0_restore_89 ?_
    refine r_aload_n dX0_restore_90 rfl 0 rfl ?_
    refine r_sR E.p 25 fG_X0_145 (by decide) dX0_restore_91 ?_
    refine r_iconst dX0_restore_94 ?_
    refine r_bipush dX0_restore_95 (by decide) ?_
    refine r_copyS (k1 := 32) (k2 := 25) E.p rfl rfl (by decide) (by decide) (by decide) (by decide) (by decide) q1357 q1302 q1301 q140 (Nat.le_of_ble_eq_true rfl) (Nat.le_of_ble_eq_true rfl) (Nat.le_of_ble_eq_true rfl) dX0_restore_97 ?_
    refine r_rrs E.p (fun rr6 => ?_)
    refine r_aload_n dX0_restore_100 rfl 0 rfl ?_
    refine r_aload_n dX0_restore_101 rfl 0 rfl ?_
    refine r_sI E.p 33 fG_X0_504 (by decide) dX0_restore_102 ?_
    refine r_sPI E.p 26 fP_X0_276 rfl ((rr6.mine rfl).i 33 (by decide) (by decide)) dX0_restore_105 ?_
    refine r_rrs E.p (fun rr7 => ?_)
    refine r_aload_n dX0_restore_108 rfl 0 rfl ?_
    refine r_sR E.p 20 fG_X0_128 (by decide) dX0_restore_109 ?_
    obtain ⟨g10, e⟩ := gd_o e
    obtain ⟨p8, q9, e⟩ := bd_o e
    have k11 := kJ1_clear (G := nG N)  q9
    have z12 := (k11 rr7.none).1.2.2.2
    refine r_callVo (j := none) 0 [] (c := 11) (rc := (RJ1, TJ1, 8)) rfl g10 rfl k11 (injO_1 E.p) subO_0 getO_0 setO_0 (lw_V q827 q828 q829 q122 q830) (by decide +kernel) rfl (Nat.le_of_ble_eq_true rfl) (Nat.le_of_ble_eq_true rfl) rfl (Nat.le_of_ble_eq_true rfl) dX0_restore_112 rfl ?_
    refine r_rrs E.p (fun rr13 => ?_)
    refine r_aload_n dX0_restore_115 rfl 0 rfl ?_
    obtain ⟨p14, q15, e⟩ := bd_o e
    have k16 := kX0_slotsUsed (G := nG N) (b := b) (ad := ad) (h := p8)  q15
    have z17 := (k16 rr13).1.2.2.2
    refine r_callV (j := some 0) 0 [] (rec_sg (j := 0) (r := (RX0, TX0, 36)) rfl (by rw [E.p]; rfl)) rfl k16 (injO_1 E.p) (subO_1 E.p) getO_1 setO_1 (lw_V q1358 q1360 qs40 q115 q1361) (by decide +kernel) rfl (Nat.le_of_ble_eq_true rfl) (Nat.le_of_ble_eq_true rfl) rfl (Nat.le_of_ble_eq_true rfl) dX0_restore_116 rfl ?_
    cases e
    exact r_iret E.σ E.st E.rt E.r z17 dX0_restore_119
  · have e := eF c1
    refine r_aload_n dX0_restore_24 rfl 0 rfl ?_
    refine r_iload_n dX0_restore_25 rfl 1 rfl ?_
    refine r_aload_n dX0_restore_26 rfl 0 rfl ?_
    refine r_sR E.p 28 fG_X0_148 (by decide) dX0_restore_27 ?_
    refine r_iload_n dX0_restore_30 rfl 1 rfl ?_
    obtain ⟨g18, e⟩ := gd_o e
    refine r_saI E.p 28 rfl (by decide) (by decide) ha1 g18 rfl dX0_restore_31 ?_
    obtain ⟨p19, q20, e⟩ := bd_o e
    have k21 := kX0_be (G := nG N) (b := b) (ad := ad) ha1 (((rr.mine rfl).a 28 (by decide) rfl).1 _) q20
    have z22 := (k21 rr).1.2.2.2
    refine r_callV (j := some 0) 2 [ti a1, ti (gA s 28 a1)] (rec_sg (j := 0) (r := (RX0, TX0, 36)) rfl (by rw [E.p]; rfl)) rfl k21 (injO_1 E.p) (subO_1 E.p) getO_1 setO_1 (lw_V q1287 q1289 qs33 q115 q1290) (by decide +kernel) rfl (Nat.le_of_ble_eq_true rfl) (Nat.le_of_ble_eq_true rfl) rfl (Nat.le_of_ble_eq_true rfl) dX0_restore_32 rfl ?_
    refine r_rrs E.p (fun rr23 => ?_)
    refine r_iinc (lv' := [(1, ti (wr (a1 + 1))), (0, tr (some b))]) dX0_restore_35 1 rfl (E.lt (by decide)) rfl ?_
    refine r_goto 16 dX0_restore_38 (by decide) ?_
    refine r_sub [1, 0] rfl ?_
    exact hK16 p19.1 p19.2 (wr (a1 + 1)) (wr_r _) e
def fX0_restore_L16  : Nat → Option Nat → Sg → hS → Int → Option (Int × Sg × hS)
  | 0, _, _, _, _ => none
  | n9 + 1, pm, s, h, a1 => fX0_restore_b16 (fX0_restore_L16 n9) pm s h a1
theorem wX0_restore_L16 {N : Nx} {b : Nat} {ad : Nat → Nat} {s' : Sg} {h' : hS} {r : Int} (E : EndX N [(0, b, ad)] 2 (some .int) (some (ti r)) [s'] h')  : ∀ (n9 : Nat), ∀ (s : Sg) (h : hS) (a1 : Int) (ha1 : rI a1), fX0_restore_L16 n9 (some (ad 20)) s h a1 = some (r, s', h') → AtPc cX0_restore RX0 6 123 N [s] h 16 [(0, tr (some b)), (1, ti a1)] [] := by
  intro n9
  induction n9 with
  | zero => intro s h a1 ha1 e; cases e
  | succ n9 ih => intro s h a1 ha1 e; exact wX0_restore_b16 E _ ih s h a1 ha1 e
def fX0_restore  (pm : Option Nat) (s : Sg) (h : hS) : Option (Int × Sg × hS) := if (gI s 34) = (gI s 7) then fX0_restore_L16 FU pm s h 0 else some ((-103), s, h)
theorem kX0_restore {G : Gx}  {b : Nat} {ad : Nat → Nat} {s' : Sg} {h' : hS} {r : Int} {s : Sg} {h : hS}    (e : fX0_restore (some (ad 20)) s h = some (r, s', h')) : CtX G yX0_restore cX0_restore 2 (some .int) 6 123 [(0, b, ad)] [s] h [tr (some b)] (some (ti r)) [s'] h' := by
  refine CtX.of (by decide) (Nat.le_of_ble_eq_true rfl) [(0, tr (some b))] rfl ?_
  have E : EndX (G, 2, [(0, b, ad)], h, [s'], h', (some .int), (some (ti r)), yX0_restore.name) [(0, b, ad)] 2 (some .int) (some (ti r)) [s'] h' := ⟨rfl, rfl, rfl, rfl, rfl, rfl⟩
  unfold fX0_restore at e
  refine r_rrs E.p (fun rr => ?_)
  refine r_aload_n dX0_restore_0 rfl 0 rfl ?_
  refine r_sI E.p 34 fG_X0_163 (by decide) dX0_restore_1 ?_
  refine r_aload_n dX0_restore_4 rfl 0 rfl ?_
  refine r_sI E.p 7 fG_X0_279 (by decide) dX0_restore_5 ?_
  have eT := (r_ifo e).1
  have eF := (r_ifo e).2
  refine r_icmp_eq ((rr.mine rfl).i 34 (by decide) (by decide)) ((rr.mine rfl).i 7 (by decide) (by decide)) 14 dX0_restore_8 (by decide) (fun c1 => ?_) (fun c1 => ?_)
  · have e := eT c1
    refine r_iconst dX0_restore_14 ?_
    refine r_istore_n (lv' := [(1, ti 0), (0, tr (some b))]) dX0_restore_15 rfl (E.lt (by decide)) rfl ?_
    refine r_sub [1, 0] rfl ?_
    exact wX0_restore_L16 E FU s h 0 (by decide) e
  · have e := eF c1
    refine r_bipush dX0_restore_11 (by decide) ?_
    cases e
    exact r_iret E.σ E.st E.rt E.r (by decide) dX0_restore_13
def fX0_unsound_b30 (K4 : Sg → hS → Int → Int → Option (Int)) (s : Sg) (h : hS) (a2 : Int) (k0 : Int) (k1 : Int) : Option (Int) := K4 s h (wr (k0 + k1)) (wr (a2 + 1))
theorem wX0_unsound_b30 {N : Nx} {b : Nat} {ad : Nat → Nat} {s : Sg} {h : hS} {r : Int} (E : EndX N [(0, b, ad)] 3 (some .int) (some (ti r)) [s] h) (K4 : Sg → hS → Int → Int → Option (Int)) (hK4 : ∀ (a1 : Int) (a2 : Int) (ha1 : rI a1) (ha2 : rI a2), K4 s h a1 a2 = some (r) → AtPc cX0_unsound RX0 3 60 N [s] h 4 [(0, tr (some b)), (1, ti a1), (2, ti a2)] []) (a2 : Int) (k0 : Int) (k1 : Int) (ha2 : rI a2) (hk0 : rI k0) (hk1 : rI k1) (e : fX0_unsound_b30 K4 s h a2 k0 k1 = some (r)) : AtPc cX0_unsound RX0 3 60 N [s] h 30 [(0, tr (some b)), (2, ti a2)] [ti k1, ti k0] := by
  unfold fX0_unsound_b30 at e
  refine r_rrs E.p (fun rr => ?_)
  refine r_iadd dX0_unsound_30 ?_
  refine r_istore_n (lv' := [(1, ti (wr (k0 + k1))), (0, tr (some b)), (2, ti a2)]) dX0_unsound_31 rfl (E.lt (by decide)) rfl ?_
  refine r_iinc (lv' := [(2, ti (wr (a2 + 1))), (1, ti (wr (k0 + k1))), (0, tr (some b))]) dX0_unsound_32 2 rfl (E.lt (by decide)) rfl ?_
  refine r_goto 4 dX0_unsound_35 (by decide) ?_
  refine r_sub [2, 1, 0] rfl ?_
  exact hK4 (wr (k0 + k1)) (wr (a2 + 1)) (wr_r _) (wr_r _) e
def fX0_unsound_b4 (K4 : Sg → hS → Int → Int → Option (Int)) (s : Sg) (h : hS) (a1 : Int) (a2 : Int) : Option (Int) := if (gI s 5) ≤ a2 then some a1 else gd (inb a2 6) (bd (D3_isSound h (gQ s 4 a2)) fun p3 => if p3 = 0 then fX0_unsound_b30 K4 s h a2 a1 1 else fX0_unsound_b30 K4 s h a2 a1 0)
theorem wX0_unsound_b4 {N : Nx} {b : Nat} {ad : Nat → Nat} {s : Sg} {h : hS} {r : Int} (E : EndX N [(0, b, ad)] 3 (some .int) (some (ti r)) [s] h) (K4 : Sg → hS → Int → Int → Option (Int)) (hK4 : ∀ (a1 : Int) (a2 : Int) (ha1 : rI a1) (ha2 : rI a2), K4 s h a1 a2 = some (r) → AtPc cX0_unsound RX0 3 60 N [s] h 4 [(0, tr (some b)), (1, ti a1), (2, ti a2)] []) (a1 : Int) (a2 : Int) (ha1 : rI a1) (ha2 : rI a2) (e : fX0_unsound_b4 K4 s h a1 a2 = some (r)) : AtPc cX0_unsound RX0 3 60 N [s] h 4 [(0, tr (some b)), (1, ti a1), (2, ti a2)] [] := by
  unfold fX0_unsound_b4 at e
  refine r_rrs E.p (fun rr => ?_)
  refine r_iload_n dX0_unsound_4 rfl 2 rfl ?_
  refine r_aload_n dX0_unsound_5 rfl 0 rfl ?_
  refine r_sI E.p 5 fG_X0_268 (by decide) dX0_unsound_6 ?_
  have eT := (r_ifo e).1
  have eF := (r_ifo e).2
  refine r_icmp_ge ha2 ((rr.mine rfl).i 5 (by decide) (by decide)) 38 dX0_unsound_9 (by decide) (fun c1 => ?_) (fun c1 => ?_)
  · have e := eT c1
    refine r_iload_n dX0_unsound_38 rfl 1 rfl ?_
    cases e
    exact r_iret E.σ E.st E.rt E.r ha1 dX0_unsound_39
  · have e := eF c1
    refine r_iload_n dX0_unsound_12 rfl 1 rfl ?_
    refine r_aload_n dX0_unsound_13 rfl 0 rfl ?_
    refine r_sR E.p 4 fG_X0_114 (by decide) dX0_unsound_14 ?_
    refine r_iload_n dX0_unsound_17 rfl 2 rfl ?_
    obtain ⟨g2, e⟩ := gd_o e
    refine r_saQ E.p 4 rfl (by decide) (by decide) (by decide) ha2 g2 dX0_unsound_18 ?_
    obtain ⟨p3, q4, e⟩ := bd_o e
    have z5 := zD3_isSound (G := nG N)  q4 rr.none
    refine rD_X0_300  q4 (injO_1 E.p) (Nat.le_of_ble_eq_true rfl) (Nat.le_of_ble_eq_true rfl) rfl (Nat.le_of_ble_eq_true rfl) dX0_unsound_19 rfl ?_
    have eT := (r_ifo e).1
    have eF := (r_ifo e).2
    refine r_if_eq (rI_z z5) 29 dX0_unsound_22 (by decide) (fun c6 => ?_) (fun c6 => ?_)
    · have e := eT c6
      refine r_iconst dX0_unsound_29 ?_
      refine r_sub [0, 2] rfl ?_
      exact wX0_unsound_b30 E K4 hK4 a2 a1 1 ha2 ha1 (by decide) e
    · have e := eF c6
      refine r_iconst dX0_unsound_25 ?_
      refine r_goto 30 dX0_unsound_26 (by decide) ?_
      refine r_sub [0, 2] rfl ?_
      exact wX0_unsound_b30 E K4 hK4 a2 a1 0 ha2 ha1 (by decide) e
def fX0_unsound_L4  : Nat → Sg → hS → Int → Int → Option (Int)
  | 0, _, _, _, _ => none
  | n9 + 1, s, h, a1, a2 => fX0_unsound_b4 (fX0_unsound_L4 n9) s h a1 a2
theorem wX0_unsound_L4 {N : Nx} {b : Nat} {ad : Nat → Nat} {s : Sg} {h : hS} {r : Int} (E : EndX N [(0, b, ad)] 3 (some .int) (some (ti r)) [s] h)  : ∀ (n9 : Nat), ∀ (a1 : Int) (a2 : Int) (ha1 : rI a1) (ha2 : rI a2), fX0_unsound_L4 n9 s h a1 a2 = some (r) → AtPc cX0_unsound RX0 3 60 N [s] h 4 [(0, tr (some b)), (1, ti a1), (2, ti a2)] [] := by
  intro n9
  induction n9 with
  | zero => intro a1 a2 ha1 ha2 e; cases e
  | succ n9 ih => intro a1 a2 ha1 ha2 e; exact wX0_unsound_b4 E _ ih a1 a2 ha1 ha2 e
def fX0_unsound  (s : Sg) (h : hS) : Option (Int) := fX0_unsound_L4 FU s h 0 0
theorem kX0_unsound {G : Gx}  {b : Nat} {ad : Nat → Nat} {s : Sg} {h : hS} {r : Int}    (e : fX0_unsound s h = some (r)) : CtX G yX0_unsound cX0_unsound 3 (some .int) 3 60 [(0, b, ad)] [s] h [tr (some b)] (some (ti r)) [s] h := by
  refine CtX.of (by decide) (Nat.le_of_ble_eq_true rfl) [(0, tr (some b))] rfl ?_
  have E : EndX (G, 3, [(0, b, ad)], h, [s], h, (some .int), (some (ti r)), yX0_unsound.name) [(0, b, ad)] 3 (some .int) (some (ti r)) [s] h := ⟨rfl, rfl, rfl, rfl, rfl, rfl⟩
  unfold fX0_unsound at e
  refine r_rrs E.p (fun rr => ?_)
  refine r_iconst dX0_unsound_0 ?_
  refine r_istore_n (lv' := [(1, ti 0), (0, tr (some b))]) dX0_unsound_1 rfl (E.lt (by decide)) rfl ?_
  refine r_iconst dX0_unsound_2 ?_
  refine r_istore_n (lv' := [(2, ti 0), (1, ti 0), (0, tr (some b))]) dX0_unsound_3 rfl (E.lt (by decide)) rfl ?_
  refine r_sub [2, 1, 0] rfl ?_
  exact wX0_unsound_L4 E FU 0 0 (by decide) (by decide) e
def fX0_pairsBy_b15 (K4 : Sg → hS → Int → Int → Int → Option (Int)) (K15 : Sg → hS → Int → Int → Int → Int → Option (Int)) (s : Sg) (h : hS) (a1 : Int) (a2 : Int) (a3 : Int) (a4 : Int) : Option (Int) := if a3 ≤ a4 then K4 s h a1 a2 (wr (a3 + 1)) else gd (inb a3 6) (gd (inb a4 6) (bd (fX0_tellPair s h (gQ s 4 a3) (gQ s 4 a4) a1) fun p4 => K15 s h a1 (wr (a2 + p4)) a3 (wr (a4 + 1))))
theorem wX0_pairsBy_b15 {N : Nx} {b : Nat} {ad : Nat → Nat} {s : Sg} {h : hS} {r : Int} (E : EndX N [(0, b, ad)] 5 (some .int) (some (ti r)) [s] h) (K4 : Sg → hS → Int → Int → Int → Option (Int)) (hK4 : ∀ (a1 : Int) (a2 : Int) (a3 : Int) (ha1 : rI a1) (ha2 : rI a2) (ha3 : rI a3), K4 s h a1 a2 a3 = some (r) → AtPc cX0_pairsBy RX0 5 109 N [s] h 4 [(0, tr (some b)), (1, ti a1), (2, ti a2), (3, ti a3)] []) (K15 : Sg → hS → Int → Int → Int → Int → Option (Int)) (hK15 : ∀ (a1 : Int) (a2 : Int) (a3 : Int) (a4 : Int) (ha1 : rI a1) (ha2 : rI a2) (ha3 : rI a3) (ha4 : rI a4), K15 s h a1 a2 a3 a4 = some (r) → AtPc cX0_pairsBy RX0 5 109 N [s] h 15 [(0, tr (some b)), (1, ti a1), (2, ti a2), (3, ti a3), (4, ti a4)] []) (a1 : Int) (a2 : Int) (a3 : Int) (a4 : Int) (ha1 : rI a1) (ha2 : rI a2) (ha3 : rI a3) (ha4 : rI a4) (e : fX0_pairsBy_b15 K4 K15 s h a1 a2 a3 a4 = some (r)) : AtPc cX0_pairsBy RX0 5 109 N [s] h 15 [(0, tr (some b)), (1, ti a1), (2, ti a2), (3, ti a3), (4, ti a4)] [] := by
  unfold fX0_pairsBy_b15 at e
  refine r_rrs E.p (fun rr => ?_)
  refine r_iload dX0_pairsBy_15 4 rfl ?_
  refine r_iload_n dX0_pairsBy_17 rfl 3 rfl ?_
  have eT := (r_ifo e).1
  have eF := (r_ifo e).2
  refine r_icmp_ge ha4 ha3 48 dX0_pairsBy_18 (by decide) (fun c1 => ?_) (fun c1 => ?_)
  · have e := eT c1
    refine r_iinc (lv' := [(3, ti (wr (a3 + 1))), (0, tr (some b)), (1, ti a1), (2, ti a2), (4, ti a4)]) dX0_pairsBy_48 3 rfl (E.lt (by decide)) rfl ?_
    refine r_goto 4 dX0_pairsBy_51 (by decide) ?_
    refine r_sub [1, 2, 3, 0] rfl ?_
    exact hK4 a1 a2 (wr (a3 + 1)) ha1 ha2 (wr_r _) e
  · have e := eF c1
    refine r_iload_n dX0_pairsBy_21 rfl 2 rfl ?_
    refine r_aload_n dX0_pairsBy_22 rfl 0 rfl ?_
    refine r_aload_n dX0_pairsBy_23 rfl 0 rfl ?_
    refine r_sR E.p 4 fG_X0_114 (by decide) dX0_pairsBy_24 ?_
    refine r_iload_n dX0_pairsBy_27 rfl 3 rfl ?_
    obtain ⟨g2, e⟩ := gd_o e
    refine r_saQ E.p 4 rfl (by decide) (by decide) (by decide) ha3 g2 dX0_pairsBy_28 ?_
    refine r_aload_n dX0_pairsBy_29 rfl 0 rfl ?_
    refine r_sR E.p 4 fG_X0_114 (by decide) dX0_pairsBy_30 ?_
    refine r_iload dX0_pairsBy_33 4 rfl ?_
    obtain ⟨g3, e⟩ := gd_o e
    refine r_saQ E.p 4 rfl (by decide) (by decide) (by decide) ha4 g3 dX0_pairsBy_35 ?_
    refine r_iload_n dX0_pairsBy_36 rfl 1 rfl ?_
    obtain ⟨p4, q5, e⟩ := bd_o e
    have k6 := kX0_tellPair (G := nG N) (b := b) (ad := ad) ha1 q5
    have z7 := (k6 rr).1.2.2.2
    refine r_callV (j := some 0) 3 [tr (gQ s 4 a3), tr (gQ s 4 a4), ti a1] (rec_sg (j := 0) (r := (RX0, TX0, 36)) rfl (by rw [E.p]; rfl)) rfl k6 (injO_1 E.p) (subO_1 E.p) getO_1 setO_1 (lw_V q1308 q1310 qs34 q115 q1311) (by decide +kernel) rfl (Nat.le_of_ble_eq_true rfl) (Nat.le_of_ble_eq_true rfl) rfl (Nat.le_of_ble_eq_true rfl) dX0_pairsBy_37 rfl ?_
    refine r_iadd dX0_pairsBy_40 ?_
    refine r_istore_n (lv' := [(2, ti (wr (a2 + p4))), (0, tr (some b)), (1, ti a1), (3, ti a3), (4, ti a4)]) dX0_pairsBy_41 rfl (E.lt (by decide)) rfl ?_
    refine r_iinc (lv' := [(4, ti (wr (a4 + 1))), (2, ti (wr (a2 + p4))), (0, tr (some b)), (1, ti a1), (3, ti a3)]) dX0_pairsBy_42 4 rfl (E.lt (by decide)) rfl ?_
    refine r_goto 15 dX0_pairsBy_45 (by decide) ?_
    refine r_sub [2, 3, 1, 4, 0] rfl ?_
    exact hK15 a1 (wr (a2 + p4)) a3 (wr (a4 + 1)) ha1 (wr_r _) ha3 (wr_r _) e
def fX0_pairsBy_L15 (K4 : Sg → hS → Int → Int → Int → Option (Int)) : Nat → Sg → hS → Int → Int → Int → Int → Option (Int)
  | 0, _, _, _, _, _, _ => none
  | n9 + 1, s, h, a1, a2, a3, a4 => fX0_pairsBy_b15 K4 (fX0_pairsBy_L15 K4 n9) s h a1 a2 a3 a4
theorem wX0_pairsBy_L15 {N : Nx} {b : Nat} {ad : Nat → Nat} {s : Sg} {h : hS} {r : Int} (E : EndX N [(0, b, ad)] 5 (some .int) (some (ti r)) [s] h) (K4 : Sg → hS → Int → Int → Int → Option (Int)) (hK4 : ∀ (a1 : Int) (a2 : Int) (a3 : Int) (ha1 : rI a1) (ha2 : rI a2) (ha3 : rI a3), K4 s h a1 a2 a3 = some (r) → AtPc cX0_pairsBy RX0 5 109 N [s] h 4 [(0, tr (some b)), (1, ti a1), (2, ti a2), (3, ti a3)] []) : ∀ (n9 : Nat), ∀ (a1 : Int) (a2 : Int) (a3 : Int) (a4 : Int) (ha1 : rI a1) (ha2 : rI a2) (ha3 : rI a3) (ha4 : rI a4), fX0_pairsBy_L15 K4 n9 s h a1 a2 a3 a4 = some (r) → AtPc cX0_pairsBy RX0 5 109 N [s] h 15 [(0, tr (some b)), (1, ti a1), (2, ti a2), (3, ti a3), (4, ti a4)] [] := by
  intro n9
  induction n9 with
  | zero => intro a1 a2 a3 a4 ha1 ha2 ha3 ha4 e; cases e
  | succ n9 ih => intro a1 a2 a3 a4 ha1 ha2 ha3 ha4 e; exact wX0_pairsBy_b15 E K4 hK4 _ ih a1 a2 a3 a4 ha1 ha2 ha3 ha4 e
def fX0_pairsBy_b4 (K4 : Sg → hS → Int → Int → Int → Option (Int)) (s : Sg) (h : hS) (a1 : Int) (a2 : Int) (a3 : Int) : Option (Int) := if (gI s 5) ≤ a3 then some a2 else fX0_pairsBy_L15 K4 FU s h a1 a2 a3 0
theorem wX0_pairsBy_b4 {N : Nx} {b : Nat} {ad : Nat → Nat} {s : Sg} {h : hS} {r : Int} (E : EndX N [(0, b, ad)] 5 (some .int) (some (ti r)) [s] h) (K4 : Sg → hS → Int → Int → Int → Option (Int)) (hK4 : ∀ (a1 : Int) (a2 : Int) (a3 : Int) (ha1 : rI a1) (ha2 : rI a2) (ha3 : rI a3), K4 s h a1 a2 a3 = some (r) → AtPc cX0_pairsBy RX0 5 109 N [s] h 4 [(0, tr (some b)), (1, ti a1), (2, ti a2), (3, ti a3)] []) (a1 : Int) (a2 : Int) (a3 : Int) (ha1 : rI a1) (ha2 : rI a2) (ha3 : rI a3) (e : fX0_pairsBy_b4 K4 s h a1 a2 a3 = some (r)) : AtPc cX0_pairsBy RX0 5 109 N [s] h 4 [(0, tr (some b)), (1, ti a1), (2, ti a2), (3, ti a3)] [] := by
  unfold fX0_pairsBy_b4 at e
  refine r_rrs E.p (fun rr => ?_)
  refine r_iload_n dX0_pairsBy_4 rfl 3 rfl ?_
  refine r_aload_n dX0_pairsBy_5 rfl 0 rfl ?_
  refine r_sI E.p 5 fG_X0_268 (by decide) dX0_pairsBy_6 ?_
  have eT := (r_ifo e).1
  have eF := (r_ifo e).2
  refine r_icmp_ge ha3 ((rr.mine rfl).i 5 (by decide) (by decide)) 54 dX0_pairsBy_9 (by decide) (fun c1 => ?_) (fun c1 => ?_)
  · have e := eT c1
    refine r_iload_n dX0_pairsBy_54 rfl 2 rfl ?_
    cases e
    exact r_iret E.σ E.st E.rt E.r ha2 dX0_pairsBy_55
  · have e := eF c1
    refine r_iconst dX0_pairsBy_12 ?_
    refine r_istore (lv' := [(4, ti 0), (0, tr (some b)), (1, ti a1), (2, ti a2), (3, ti a3)]) dX0_pairsBy_13 (E.lt (by decide)) rfl ?_
    refine r_sub [1, 2, 3, 4, 0] rfl ?_
    exact wX0_pairsBy_L15 E K4 hK4 FU a1 a2 a3 0 ha1 ha2 ha3 (by decide) e
def fX0_pairsBy_L4  : Nat → Sg → hS → Int → Int → Int → Option (Int)
  | 0, _, _, _, _, _ => none
  | n9 + 1, s, h, a1, a2, a3 => fX0_pairsBy_b4 (fX0_pairsBy_L4 n9) s h a1 a2 a3
theorem wX0_pairsBy_L4 {N : Nx} {b : Nat} {ad : Nat → Nat} {s : Sg} {h : hS} {r : Int} (E : EndX N [(0, b, ad)] 5 (some .int) (some (ti r)) [s] h)  : ∀ (n9 : Nat), ∀ (a1 : Int) (a2 : Int) (a3 : Int) (ha1 : rI a1) (ha2 : rI a2) (ha3 : rI a3), fX0_pairsBy_L4 n9 s h a1 a2 a3 = some (r) → AtPc cX0_pairsBy RX0 5 109 N [s] h 4 [(0, tr (some b)), (1, ti a1), (2, ti a2), (3, ti a3)] [] := by
  intro n9
  induction n9 with
  | zero => intro a1 a2 a3 ha1 ha2 ha3 e; cases e
  | succ n9 ih => intro a1 a2 a3 ha1 ha2 ha3 e; exact wX0_pairsBy_b4 E _ ih a1 a2 a3 ha1 ha2 ha3 e
def fX0_pairsBy  (s : Sg) (h : hS) (a1 : Int) : Option (Int) := fX0_pairsBy_L4 FU s h a1 0 0
theorem kX0_pairsBy {G : Gx}  {b : Nat} {ad : Nat → Nat} {s : Sg} {h : hS} {r : Int} {a1 : Int}  (ha1 : rI a1) (e : fX0_pairsBy s h a1 = some (r)) : CtX G yX0_pairsBy cX0_pairsBy 5 (some .int) 5 109 [(0, b, ad)] [s] h [tr (some b), ti a1] (some (ti r)) [s] h := by
  refine CtX.of (by decide) (Nat.le_of_ble_eq_true rfl) [(0, tr (some b)), (1, ti a1)] rfl ?_
  have E : EndX (G, 5, [(0, b, ad)], h, [s], h, (some .int), (some (ti r)), yX0_pairsBy.name) [(0, b, ad)] 5 (some .int) (some (ti r)) [s] h := ⟨rfl, rfl, rfl, rfl, rfl, rfl⟩
  unfold fX0_pairsBy at e
  refine r_rrs E.p (fun rr => ?_)
  refine r_iconst dX0_pairsBy_0 ?_
  refine r_istore_n (lv' := [(2, ti 0), (0, tr (some b)), (1, ti a1)]) dX0_pairsBy_1 rfl (E.lt (by decide)) rfl ?_
  refine r_iconst dX0_pairsBy_2 ?_
  refine r_istore_n (lv' := [(3, ti 0), (2, ti 0), (0, tr (some b)), (1, ti a1)]) dX0_pairsBy_3 rfl (E.lt (by decide)) rfl ?_
  refine r_sub [2, 3, 1, 0] rfl ?_
  exact wX0_pairsBy_L4 E FU a1 0 0 ha1 (by decide) (by decide) e
def fX0_lackedAll_b4 (K4 : Option Nat → Sg → hS → Int → Int → Option (Int × hS)) (pm : Option Nat) (s : Sg) (h : hS) (a1 : Int) (a2 : Int) : Option (Int × hS) := if (gI s 5) ≤ a2 then some (a1, h) else gd (inb a2 6) (bd (fX0_lackedBy pm s h (gQ s 4 a2)) fun p3 => bd (fJ3_bitCount p3.1) fun p8 => K4 pm s p3.2 (wr (a1 + p8)) (wr (a2 + 1)))
theorem wX0_lackedAll_b4 {N : Nx} {b : Nat} {ad : Nat → Nat} {s : Sg} {h' : hS} {r : Int} (E : EndX N [(0, b, ad)] 3 (some .int) (some (ti r)) [s] h') (K4 : Option Nat → Sg → hS → Int → Int → Option (Int × hS)) (hK4 : ∀ (h : hS) (a1 : Int) (a2 : Int) (ha1 : rI a1) (ha2 : rI a2), K4 (some (ad 20)) s h a1 a2 = some (r, h') → AtPc cX0_lackedAll RX0 84 2847 N [s] h 4 [(0, tr (some b)), (1, ti a1), (2, ti a2)] []) (h : hS) (a1 : Int) (a2 : Int) (ha1 : rI a1) (ha2 : rI a2) (e : fX0_lackedAll_b4 K4 (some (ad 20)) s h a1 a2 = some (r, h')) : AtPc cX0_lackedAll RX0 84 2847 N [s] h 4 [(0, tr (some b)), (1, ti a1), (2, ti a2)] [] := by
  unfold fX0_lackedAll_b4 at e
  refine r_rrs E.p (fun rr => ?_)
  refine r_iload_n dX0_lackedAll_4 rfl 2 rfl ?_
  refine r_aload_n dX0_lackedAll_5 rfl 0 rfl ?_
  refine r_sI E.p 5 fG_X0_268 (by decide) dX0_lackedAll_6 ?_
  have eT := (r_ifo e).1
  have eF := (r_ifo e).2
  refine r_icmp_ge ha2 ((rr.mine rfl).i 5 (by decide) (by decide)) 34 dX0_lackedAll_9 (by decide) (fun c1 => ?_) (fun c1 => ?_)
  · have e := eT c1
    refine r_iload_n dX0_lackedAll_34 rfl 1 rfl ?_
    cases e
    exact r_iret E.σ E.st E.rt E.r ha1 dX0_lackedAll_35
  · have e := eF c1
    refine r_iload_n dX0_lackedAll_12 rfl 1 rfl ?_
    refine r_aload_n dX0_lackedAll_13 rfl 0 rfl ?_
    refine r_aload_n dX0_lackedAll_14 rfl 0 rfl ?_
    refine r_sR E.p 4 fG_X0_114 (by decide) dX0_lackedAll_15 ?_
    refine r_iload_n dX0_lackedAll_18 rfl 2 rfl ?_
    obtain ⟨g2, e⟩ := gd_o e
    refine r_saQ E.p 4 rfl (by decide) (by decide) (by decide) ha2 g2 dX0_lackedAll_19 ?_
    obtain ⟨p3, q4, e⟩ := bd_o e
    have k5 := kX0_lackedBy (G := nG N) (b := b) (ad := ad)  q4
    have z6 := (k5 rr).1.2.2.2
    refine r_callV (j := some 0) 1 [tr (gQ s 4 a2)] (rec_sg (j := 0) (r := (RX0, TX0, 36)) rfl (by rw [E.p]; rfl)) rfl k5 (injO_1 E.p) (subO_1 E.p) getO_1 setO_1 (lw_V q1198 q1200 qs30 q115 q1201) (by decide +kernel) rfl (Nat.le_of_ble_eq_true rfl) (Nat.le_of_ble_eq_true rfl) rfl (Nat.le_of_ble_eq_true rfl) dX0_lackedAll_20 rfl ?_
    refine r_rrs E.p (fun rr7 => ?_)
    obtain ⟨p8, q9, e⟩ := bd_o e
    have k10 := kJ3_bitCount (G := nG N) (h := p3.2) z6 q9
    have z11 := (k10 rr7.none).1.2.2.2
    refine r_callS (j := none) 1 [ti p3.1] k10 (injO_1 E.p) subO_0 getO_0 setO_0 (lw_S q1050 q1051 q127 q1052) (by decide +kernel) rfl (Nat.le_of_ble_eq_true rfl) (Nat.le_of_ble_eq_true rfl) rfl (Nat.le_of_ble_eq_true rfl) dX0_lackedAll_23 rfl ?_
    refine r_iadd dX0_lackedAll_26 ?_
    refine r_istore_n (lv' := [(1, ti (wr (a1 + p8))), (0, tr (some b)), (2, ti a2)]) dX0_lackedAll_27 rfl (E.lt (by decide)) rfl ?_
    refine r_iinc (lv' := [(2, ti (wr (a2 + 1))), (1, ti (wr (a1 + p8))), (0, tr (some b))]) dX0_lackedAll_28 2 rfl (E.lt (by decide)) rfl ?_
    refine r_goto 4 dX0_lackedAll_31 (by decide) ?_
    refine r_sub [2, 1, 0] rfl ?_
    exact hK4 p3.2 (wr (a1 + p8)) (wr (a2 + 1)) (wr_r _) (wr_r _) e
def fX0_lackedAll_L4  : Nat → Option Nat → Sg → hS → Int → Int → Option (Int × hS)
  | 0, _, _, _, _, _ => none
  | n9 + 1, pm, s, h, a1, a2 => fX0_lackedAll_b4 (fX0_lackedAll_L4 n9) pm s h a1 a2
theorem wX0_lackedAll_L4 {N : Nx} {b : Nat} {ad : Nat → Nat} {s : Sg} {h' : hS} {r : Int} (E : EndX N [(0, b, ad)] 3 (some .int) (some (ti r)) [s] h')  : ∀ (n9 : Nat), ∀ (h : hS) (a1 : Int) (a2 : Int) (ha1 : rI a1) (ha2 : rI a2), fX0_lackedAll_L4 n9 (some (ad 20)) s h a1 a2 = some (r, h') → AtPc cX0_lackedAll RX0 84 2847 N [s] h 4 [(0, tr (some b)), (1, ti a1), (2, ti a2)] [] := by
  intro n9
  induction n9 with
  | zero => intro h a1 a2 ha1 ha2 e; cases e
  | succ n9 ih => intro h a1 a2 ha1 ha2 e; exact wX0_lackedAll_b4 E _ ih h a1 a2 ha1 ha2 e
def fX0_lackedAll  (pm : Option Nat) (s : Sg) (h : hS) : Option (Int × hS) := fX0_lackedAll_L4 FU pm s h 0 0
theorem kX0_lackedAll {G : Gx}  {b : Nat} {ad : Nat → Nat} {s : Sg} {h' : hS} {r : Int} {h : hS}    (e : fX0_lackedAll (some (ad 20)) s h = some (r, h')) : CtX G yX0_lackedAll cX0_lackedAll 3 (some .int) 84 2847 [(0, b, ad)] [s] h [tr (some b)] (some (ti r)) [s] h' := by
  refine CtX.of (by decide) (Nat.le_of_ble_eq_true rfl) [(0, tr (some b))] rfl ?_
  have E : EndX (G, 3, [(0, b, ad)], h, [s], h', (some .int), (some (ti r)), yX0_lackedAll.name) [(0, b, ad)] 3 (some .int) (some (ti r)) [s] h' := ⟨rfl, rfl, rfl, rfl, rfl, rfl⟩
  unfold fX0_lackedAll at e
  refine r_rrs E.p (fun rr => ?_)
  refine r_iconst dX0_lackedAll_0 ?_
  refine r_istore_n (lv' := [(1, ti 0), (0, tr (some b))]) dX0_lackedAll_1 rfl (E.lt (by decide)) rfl ?_
  refine r_iconst dX0_lackedAll_2 ?_
  refine r_istore_n (lv' := [(2, ti 0), (1, ti 0), (0, tr (some b))]) dX0_lackedAll_3 rfl (E.lt (by decide)) rfl ?_
  refine r_sub [2, 1, 0] rfl ?_
  exact wX0_lackedAll_L4 E FU h 0 0 (by decide) (by decide) e
def fX0_differentTypes_b35 (K10 : Option Nat × Option Nat → Sg → hS → Option Nat → Int → Option (Int × hS)) (gs : Option Nat × Option Nat) (s : Sg) (h : hS) (o1 : Option Nat) (a2 : Int) : Option (Int × hS) := K10 gs s h o1 (wr (a2 + 1))
theorem wX0_differentTypes_b35 {N : Nx} {b : Nat} {ad : Nat → Nat} {s : Sg} {h' : hS} {r : Int} (E : EndX N [(0, b, ad)] 3 (some .int) (some (ti r)) [s] h') (K10 : Option Nat × Option Nat → Sg → hS → Option Nat → Int → Option (Int × hS)) (hK10 : ∀ (h : hS) (o1 : Option Nat) (a2 : Int) (ha2 : rI a2), K10 (nG N).2.2.2 s h o1 a2 = some (r, h') → AtPc cX0_differentTypes RX0 22 506 N [s] h 10 [(0, tr (some b)), (1, tr o1), (2, ti a2)] []) (h : hS) (o1 : Option Nat) (a2 : Int) (ha2 : rI a2) (e : fX0_differentTypes_b35 K10 (nG N).2.2.2 s h o1 a2 = some (r, h')) : AtPc cX0_differentTypes RX0 22 506 N [s] h 35 [(0, tr (some b)), (1, tr o1), (2, ti a2)] [] := by
  unfold fX0_differentTypes_b35 at e
  refine r_rrs E.p (fun rr => ?_)
  refine r_iinc (lv' := [(2, ti (wr (a2 + 1))), (0, tr (some b)), (1, tr o1)]) dX0_differentTypes_35 2 rfl (E.lt (by decide)) rfl ?_
  refine r_goto 10 dX0_differentTypes_38 (by decide) ?_
  refine r_sub [1, 2, 0] rfl ?_
  exact hK10 h o1 (wr (a2 + 1)) (wr_r _) e
def fX0_differentTypes_b10 (K10 : Option Nat × Option Nat → Sg → hS → Option Nat → Int → Option (Int × hS)) (gs : Option Nat × Option Nat) (s : Sg) (h : hS) (o1 : Option Nat) (a2 : Int) : Option (Int × hS) := if 4 ≤ a2 then gd (hC h o1 = some 14) (bd (fJ15_size h o1) fun p2 => some (p2, h)) else gd (inb a2 4) (ifN (gQ s 6 a2) (fX0_differentTypes_b35 K10 gs s h o1 a2) (fun _ => gd (inb a2 4) (gd (hC h o1 = some 14) (bd (fJ15_add gs h o1 (gQ s 6 a2)) fun p11 => fX0_differentTypes_b35 K10 gs s p11.2 o1 a2))))
theorem wX0_differentTypes_b10 {N : Nx} {b : Nat} {ad : Nat → Nat} {s : Sg} {h' : hS} {r : Int} (E : EndX N [(0, b, ad)] 3 (some .int) (some (ti r)) [s] h') (K10 : Option Nat × Option Nat → Sg → hS → Option Nat → Int → Option (Int × hS)) (hK10 : ∀ (h : hS) (o1 : Option Nat) (a2 : Int) (ha2 : rI a2), K10 (nG N).2.2.2 s h o1 a2 = some (r, h') → AtPc cX0_differentTypes RX0 22 506 N [s] h 10 [(0, tr (some b)), (1, tr o1), (2, ti a2)] []) (h : hS) (o1 : Option Nat) (a2 : Int) (ha2 : rI a2) (e : fX0_differentTypes_b10 K10 (nG N).2.2.2 s h o1 a2 = some (r, h')) : AtPc cX0_differentTypes RX0 22 506 N [s] h 10 [(0, tr (some b)), (1, tr o1), (2, ti a2)] [] := by
  unfold fX0_differentTypes_b10 at e
  refine r_rrs E.p (fun rr => ?_)
  refine r_iload_n dX0_differentTypes_10 rfl 2 rfl ?_
  refine r_iconst dX0_differentTypes_11 ?_
  have eT := (r_ifo e).1
  have eF := (r_ifo e).2
  refine r_icmp_ge ha2 (by decide) 41 dX0_differentTypes_12 (by decide) (fun c1 => ?_) (fun c1 => ?_)
  · have e := eT c1
    refine r_aload_n dX0_differentTypes_41 rfl 1 rfl ?_
    obtain ⟨g4, e⟩ := gd_o e
    obtain ⟨p2, q3, e⟩ := bd_o e
    have k5 := kJ15_size (G := nG N)  q3
    have z6 := (k5 rr.none).1.2.2.2
    refine r_callVo (j := none) 0 [] (c := 14) (rc := (RJ15, TJ15, 1)) rfl g4 rfl k5 (injO_1 E.p) subO_0 getO_0 setO_0 (lw_V q1029 q1030 q1031 q143 q1032) (by decide +kernel) rfl (Nat.le_of_ble_eq_true rfl) (Nat.le_of_ble_eq_true rfl) rfl (Nat.le_of_ble_eq_true rfl) dX0_differentTypes_42 rfl ?_
    cases e
    exact r_iret E.σ E.st E.rt E.r z6 dX0_differentTypes_45
  · have e := eF c1
    refine r_aload_n dX0_differentTypes_15 rfl 0 rfl ?_
    refine r_sR E.p 6 fG_X0_117 (by decide) dX0_differentTypes_16 ?_
    refine r_iload_n dX0_differentTypes_19 rfl 2 rfl ?_
    obtain ⟨g7, e⟩ := gd_o e
    refine r_saQ E.p 6 rfl (by decide) (by decide) (by decide) ha2 g7 dX0_differentTypes_20 ?_
    have eT := (r_ifno e).1
    have eF := (r_ifno e).2
    refine r_ifnull 35 dX0_differentTypes_21 (by decide) (fun c8 => ?_) (fun x9 c8 => ?_)
    · have e := eT c8
      exact wX0_differentTypes_b35 E K10 hK10 h o1 a2 ha2 e
    · have e := eF x9 c8
      refine r_aload_n dX0_differentTypes_24 rfl 1 rfl ?_
      refine r_aload_n dX0_differentTypes_25 rfl 0 rfl ?_
      refine r_sR E.p 6 fG_X0_117 (by decide) dX0_differentTypes_26 ?_
      refine r_iload_n dX0_differentTypes_29 rfl 2 rfl ?_
      obtain ⟨g10, e⟩ := gd_o e
      refine r_saQ E.p 6 rfl (by decide) (by decide) (by decide) ha2 g10 dX0_differentTypes_30 ?_
      obtain ⟨g13, e⟩ := gd_o e
      obtain ⟨p11, q12, e⟩ := bd_o e
      have k14 := kJ15_add (G := nG N)  q12
      have z15 := (k14 rr.none).1.2.2.2
      refine r_callVo (j := none) 1 [tr (gQ s 6 a2)] (c := 14) (rc := (RJ15, TJ15, 1)) rfl g13 rfl k14 (injO_1 E.p) subO_0 getO_0 setO_0 (lw_V q1386 q1022 q1023 q143 q1024) (by decide +kernel) rfl (Nat.le_of_ble_eq_true rfl) (Nat.le_of_ble_eq_true rfl) rfl (Nat.le_of_ble_eq_true rfl) dX0_differentTypes_31 rfl ?_
      refine r_rrs E.p (fun rr16 => ?_)
      refine r_pop dX0_differentTypes_34 rfl ?_
      exact wX0_differentTypes_b35 E K10 hK10 p11.2 o1 a2 ha2 e
def fX0_differentTypes_L10  : Nat → Option Nat × Option Nat → Sg → hS → Option Nat → Int → Option (Int × hS)
  | 0, _, _, _, _, _ => none
  | n9 + 1, gs, s, h, o1, a2 => fX0_differentTypes_b10 (fX0_differentTypes_L10 n9) gs s h o1 a2
theorem wX0_differentTypes_L10 {N : Nx} {b : Nat} {ad : Nat → Nat} {s : Sg} {h' : hS} {r : Int} (E : EndX N [(0, b, ad)] 3 (some .int) (some (ti r)) [s] h')  : ∀ (n9 : Nat), ∀ (h : hS) (o1 : Option Nat) (a2 : Int) (ha2 : rI a2), fX0_differentTypes_L10 n9 (nG N).2.2.2 s h o1 a2 = some (r, h') → AtPc cX0_differentTypes RX0 22 506 N [s] h 10 [(0, tr (some b)), (1, tr o1), (2, ti a2)] [] := by
  intro n9
  induction n9 with
  | zero => intro h o1 a2 ha2 e; cases e
  | succ n9 ih => intro h o1 a2 ha2 e; exact wX0_differentTypes_b10 E _ ih h o1 a2 ha2 e
def fX0_differentTypes  (gs : Option Nat × Option Nat) (s : Sg) (h : hS) : Option (Int × hS) := bd (nwS h 14 [vq none]) fun p1 => bd (fJ15_init p1.2 (some p1.1)) fun p4 => fX0_differentTypes_L10 FU gs s p4 (some p1.1) 0
theorem kX0_differentTypes {G : Gx}  {b : Nat} {ad : Nat → Nat} {s : Sg} {h' : hS} {r : Int} {h : hS}    (e : fX0_differentTypes G.2.2.2 s h = some (r, h')) : CtX G yX0_differentTypes cX0_differentTypes 3 (some .int) 22 506 [(0, b, ad)] [s] h [tr (some b)] (some (ti r)) [s] h' := by
  refine CtX.of (by decide) (Nat.le_of_ble_eq_true rfl) [(0, tr (some b))] rfl ?_
  have E : EndX (G, 3, [(0, b, ad)], h, [s], h', (some .int), (some (ti r)), yX0_differentTypes.name) [(0, b, ad)] 3 (some .int) (some (ti r)) [s] h' := ⟨rfl, rfl, rfl, rfl, rfl, rfl⟩
  unfold fX0_differentTypes at e
  refine r_rrs E.p (fun rr => ?_)
  obtain ⟨p1, q2, e⟩ := bd_o e
  refine r_newS [vq none] q2 rfl in_J15 tyJ15_ok q999 q1000 q143 (by decide +kernel) rfl (by decide +kernel) dX0_differentTypes_0 ?_
  refine r_rrs E.p (fun rr3 => ?_)
  refine r_dup dX0_differentTypes_3 rfl ?_
  obtain ⟨p4, q5, e⟩ := bd_o e
  have k6 := kJ15_init (G := G)  q5
  have z7 := (k6 rr3.none).1.2.2.2
  refine r_callIo (j := none) 0 [] (fun q => by cases q) rfl rfl k6 (injO_1 E.p) subO_0 getO_0 setO_0 q1003 q143 q1001 q1002 (by decide +kernel) rfl (Nat.le_of_ble_eq_true rfl) (Nat.le_of_ble_eq_true rfl) rfl (Nat.le_of_ble_eq_true rfl) dX0_differentTypes_4 rfl ?_
  refine r_rrs E.p (fun rr8 => ?_)
  refine r_astore_n (lv' := [(1, tr (some p1.1)), (0, tr (some b))]) dX0_differentTypes_7 rfl (E.lt (by decide)) rfl ?_
  refine r_iconst dX0_differentTypes_8 ?_
  refine r_istore_n (lv' := [(2, ti 0), (1, tr (some p1.1)), (0, tr (some b))]) dX0_differentTypes_9 rfl (E.lt (by decide)) rfl ?_
  refine r_sub [2, 1, 0] rfl ?_
  exact wX0_differentTypes_L10 E FU p4 (some p1.1) 0 (by decide) e
def fX0_count_b75 (gs : Option Nat × Option Nat) (pm : Option Nat) (s : Sg) (h : hS) (a1 : Int) : Option (Int × hS) := bd (fX0_pairsBy s h (wr (a1 - 3))) fun p1 => some (p1, h)
theorem wX0_count_b75 {N : Nx} {b : Nat} {ad : Nat → Nat} {s : Sg} {h' : hS} {r : Int} (E : EndX N [(0, b, ad)] 2 (some .int) (some (ti r)) [s] h')  (h : hS) (a1 : Int) (ha1 : rI a1) (e : fX0_count_b75 (nG N).2.2.2 (some (ad 20)) s h a1 = some (r, h')) : AtPc cX0_count RX0 85 2869 N [s] h 75 [(0, tr (some b)), (1, ti a1)] [] := by
  unfold fX0_count_b75 at e
  refine r_rrs E.p (fun rr => ?_)
  refine r_aload_n dX0_count_75 rfl 0 rfl ?_
  refine r_iload_n dX0_count_76 rfl 1 rfl ?_
  refine r_iconst dX0_count_77 ?_
  refine r_isub dX0_count_78 ?_
  obtain ⟨p1, q2, e⟩ := bd_o e
  have k3 := kX0_pairsBy (G := nG N) (b := b) (ad := ad) (wr_r _) q2
  have z4 := (k3 rr).1.2.2.2
  refine r_callV (j := some 0) 1 [ti (wr (a1 - 3))] (rec_sg (j := 0) (r := (RX0, TX0, 36)) rfl (by rw [E.p]; rfl)) rfl k3 (injO_1 E.p) (subO_1 E.p) getO_1 setO_1 (lw_V q1374 q1376 qs42 q115 q1377) (by decide +kernel) rfl (Nat.le_of_ble_eq_true rfl) (Nat.le_of_ble_eq_true rfl) rfl (Nat.le_of_ble_eq_true rfl) dX0_count_79 rfl ?_
  cases e
  exact r_iret E.σ E.st E.rt E.r z4 dX0_count_82
def fX0_count  (gs : Option Nat × Option Nat) (pm : Option Nat) (s : Sg) (h : hS) (a1 : Int) : Option (Int × hS) := if a1 = 0 then some (gI s 3, h) else if a1 = 1 then some (gI s 5, h) else if a1 = 2 then bd (fX0_unsound s h) fun p4 => some (p4, h) else if a1 = 3 then fX0_count_b75 gs pm s h a1 else if a1 = 4 then fX0_count_b75 gs pm s h a1 else if a1 = 5 then bd (fX0_lackedAll pm s h) fun p11 => some (p11.1, p11.2) else if a1 = 6 then bd (fX0_slotsUsed s) fun p17 => some (p17, h) else if a1 = 7 then bd (fX0_differentTypes gs s h) fun p22 => some (p22.1, p22.2) else if a1 = 8 then some (gI s 26, h) else if a1 = 9 then some (gI s 9, h) else if a1 = 10 then some (gI s 7, h) else some ((-102), h)
theorem kX0_count {G : Gx}  {b : Nat} {ad : Nat → Nat} {s : Sg} {h' : hS} {r : Int} {h : hS} {a1 : Int}  (ha1 : rI a1) (e : fX0_count G.2.2.2 (some (ad 20)) s h a1 = some (r, h')) : CtX G yX0_count cX0_count 2 (some .int) 85 2869 [(0, b, ad)] [s] h [tr (some b), ti a1] (some (ti r)) [s] h' := by
  refine CtX.of (by decide) (Nat.le_of_ble_eq_true rfl) [(0, tr (some b)), (1, ti a1)] rfl ?_
  have E : EndX (G, 2, [(0, b, ad)], h, [s], h', (some .int), (some (ti r)), yX0_count.name) [(0, b, ad)] 2 (some .int) (some (ti r)) [s] h' := ⟨rfl, rfl, rfl, rfl, rfl, rfl⟩
  unfold fX0_count at e
  refine r_rrs E.p (fun rr => ?_)
  refine r_iload_n dX0_count_0 rfl 1 rfl ?_
  have eT := (r_ifo e).1
  have eF := (r_ifo e).2
  by_cases c1 : a1 = 0
  · have e := eT c1
    refine r_tswI ha1 dX0_count_1 0 c1 60 (by decide) (by decide) rfl (by decide) ?_
    refine r_aload_n dX0_count_60 rfl 0 rfl ?_
    refine r_sI E.p 3 fG_X0_238 (by decide) dX0_count_61 ?_
    cases e
    exact r_iret E.σ E.st E.rt E.r ((rr.mine rfl).i 3 (by decide) (by decide)) dX0_count_64
  · have e := eF c1
    have eT := (r_ifo e).1
    have eF := (r_ifo e).2
    by_cases c2 : a1 = 1
    · have e := eT c2
      refine r_tswI ha1 dX0_count_1 1 c2 65 (by decide) (by decide) rfl (by decide) ?_
      refine r_aload_n dX0_count_65 rfl 0 rfl ?_
      refine r_sI E.p 5 fG_X0_268 (by decide) dX0_count_66 ?_
      cases e
      exact r_iret E.σ E.st E.rt E.r ((rr.mine rfl).i 5 (by decide) (by decide)) dX0_count_69
    · have e := eF c2
      have eT := (r_ifo e).1
      have eF := (r_ifo e).2
      by_cases c3 : a1 = 2
      · have e := eT c3
        refine r_tswI ha1 dX0_count_1 2 c3 70 (by decide) (by decide) rfl (by decide) ?_
        refine r_aload_n dX0_count_70 rfl 0 rfl ?_
        obtain ⟨p4, q5, e⟩ := bd_o e
        have k6 := kX0_unsound (G := G) (b := b) (ad := ad)  q5
        have z7 := (k6 rr).1.2.2.2
        refine r_callV (j := some 0) 0 [] (rec_sg (j := 0) (r := (RX0, TX0, 36)) rfl (by rw [E.p]; rfl)) rfl k6 (injO_1 E.p) (subO_1 E.p) getO_1 setO_1 (lw_V q1370 q1372 qs41 q115 q1373) (by decide +kernel) rfl (Nat.le_of_ble_eq_true rfl) (Nat.le_of_ble_eq_true rfl) rfl (Nat.le_of_ble_eq_true rfl) dX0_count_71 rfl ?_
        cases e
        exact r_iret E.σ E.st E.rt E.r z7 dX0_count_74
      · have e := eF c3
        have eT := (r_ifo e).1
        have eF := (r_ifo e).2
        by_cases c8 : a1 = 3
        · have e := eT c8
          refine r_tswI ha1 dX0_count_1 3 c8 75 (by decide) (by decide) rfl (by decide) ?_
          exact wX0_count_b75 E h a1 ha1 e
        · have e := eF c8
          have eT := (r_ifo e).1
          have eF := (r_ifo e).2
          by_cases c9 : a1 = 4
          · have e := eT c9
            refine r_tswI ha1 dX0_count_1 4 c9 75 (by decide) (by decide) rfl (by decide) ?_
            exact wX0_count_b75 E h a1 ha1 e
          · have e := eF c9
            have eT := (r_ifo e).1
            have eF := (r_ifo e).2
            by_cases c10 : a1 = 5
            · have e := eT c10
              refine r_tswI ha1 dX0_count_1 5 c10 83 (by decide) (by decide) rfl (by decide) ?_
              refine r_aload_n dX0_count_83 rfl 0 rfl ?_
              obtain ⟨p11, q12, e⟩ := bd_o e
              have k13 := kX0_lackedAll (G := G) (b := b) (ad := ad)  q12
              have z14 := (k13 rr).1.2.2.2
              refine r_callV (j := some 0) 0 [] (rec_sg (j := 0) (r := (RX0, TX0, 36)) rfl (by rw [E.p]; rfl)) rfl k13 (injO_1 E.p) (subO_1 E.p) getO_1 setO_1 (lw_V q1378 q1380 qs43 q115 q1381) (by decide +kernel) rfl (Nat.le_of_ble_eq_true rfl) (Nat.le_of_ble_eq_true rfl) rfl (Nat.le_of_ble_eq_true rfl) dX0_count_84 rfl ?_
              refine r_rrs E.p (fun rr15 => ?_)
              cases e
              exact r_iret E.σ E.st E.rt E.r z14 dX0_count_87
            · have e := eF c10
              have eT := (r_ifo e).1
              have eF := (r_ifo e).2
              by_cases c16 : a1 = 6
              · have e := eT c16
                refine r_tswI ha1 dX0_count_1 6 c16 88 (by decide) (by decide) rfl (by decide) ?_
                refine r_aload_n dX0_count_88 rfl 0 rfl ?_
                obtain ⟨p17, q18, e⟩ := bd_o e
                have k19 := kX0_slotsUsed (G := G) (b := b) (ad := ad) (h := h)  q18
                have z20 := (k19 rr).1.2.2.2
                refine r_callV (j := some 0) 0 [] (rec_sg (j := 0) (r := (RX0, TX0, 36)) rfl (by rw [E.p]; rfl)) rfl k19 (injO_1 E.p) (subO_1 E.p) getO_1 setO_1 (lw_V q1358 q1360 qs40 q115 q1361) (by decide +kernel) rfl (Nat.le_of_ble_eq_true rfl) (Nat.le_of_ble_eq_true rfl) rfl (Nat.le_of_ble_eq_true rfl) dX0_count_89 rfl ?_
                cases e
                exact r_iret E.σ E.st E.rt E.r z20 dX0_count_92
              · have e := eF c16
                have eT := (r_ifo e).1
                have eF := (r_ifo e).2
                by_cases c21 : a1 = 7
                · have e := eT c21
                  refine r_tswI ha1 dX0_count_1 7 c21 93 (by decide) (by decide) rfl (by decide) ?_
                  refine r_aload_n dX0_count_93 rfl 0 rfl ?_
                  obtain ⟨p22, q23, e⟩ := bd_o e
                  have k24 := kX0_differentTypes (G := G) (b := b) (ad := ad)  q23
                  have z25 := (k24 rr).1.2.2.2
                  refine r_callV (j := some 0) 0 [] (rec_sg (j := 0) (r := (RX0, TX0, 36)) rfl (by rw [E.p]; rfl)) rfl k24 (injO_1 E.p) (subO_1 E.p) getO_1 setO_1 (lw_V q1382 q1384 qs44 q115 q1385) (by decide +kernel) rfl (Nat.le_of_ble_eq_true rfl) (Nat.le_of_ble_eq_true rfl) rfl (Nat.le_of_ble_eq_true rfl) dX0_count_94 rfl ?_
                  refine r_rrs E.p (fun rr26 => ?_)
                  cases e
                  exact r_iret E.σ E.st E.rt E.r z25 dX0_count_97
                · have e := eF c21
                  have eT := (r_ifo e).1
                  have eF := (r_ifo e).2
                  by_cases c27 : a1 = 8
                  · have e := eT c27
                    refine r_tswI ha1 dX0_count_1 8 c27 98 (by decide) (by decide) rfl (by decide) ?_
                    refine r_aload_n dX0_count_98 rfl 0 rfl ?_
                    refine r_sI E.p 26 fG_X0_276 (by decide) dX0_count_99 ?_
                    cases e
                    exact r_iret E.σ E.st E.rt E.r ((rr.mine rfl).i 26 (by decide) (by decide)) dX0_count_102
                  · have e := eF c27
                    have eT := (r_ifo e).1
                    have eF := (r_ifo e).2
                    by_cases c28 : a1 = 9
                    · have e := eT c28
                      refine r_tswI ha1 dX0_count_1 9 c28 103 (by decide) (by decide) rfl (by decide) ?_
                      refine r_aload_n dX0_count_103 rfl 0 rfl ?_
                      refine r_sI E.p 9 fG_X0_174 (by decide) dX0_count_104 ?_
                      cases e
                      exact r_iret E.σ E.st E.rt E.r ((rr.mine rfl).i 9 (by decide) (by decide)) dX0_count_107
                    · have e := eF c28
                      have eT := (r_ifo e).1
                      have eF := (r_ifo e).2
                      by_cases c29 : a1 = 10
                      · have e := eT c29
                        refine r_tswI ha1 dX0_count_1 10 c29 108 (by decide) (by decide) rfl (by decide) ?_
                        refine r_aload_n dX0_count_108 rfl 0 rfl ?_
                        refine r_sI E.p 7 fG_X0_279 (by decide) dX0_count_109 ?_
                        cases e
                        exact r_iret E.σ E.st E.rt E.r ((rr.mine rfl).i 7 (by decide) (by decide)) dX0_count_112
                      · have e := eF c29
                        refine r_tswO ha1 dX0_count_1 113 (by omega) (by decide) ?_
                        refine r_bipush dX0_count_113 (by decide) ?_
                        cases e
                        exact r_iret E.σ E.st E.rt E.r (by decide) dX0_count_115
theorem fG_X0_527 : FldG RX0 527 [(0, 35)] := List.forall_mem_cons.mpr ⟨⟨RX0, TX0, 36, "DictProof", rfl, in_X0, by decide, q316, Or.inl rfl⟩, fun _ h => absurd h List.not_mem_nil⟩
theorem fP_X0_527 : FldP RX0 527 [(0, 35)] .long false := List.forall_mem_cons.mpr ⟨⟨RX0, TX0, 36, "DictProof", tyX0, rfl, in_X0, by decide, q316, Or.inl rfl, tyX0_ok, nmX0, rfl, Or.inl rfl, by decide⟩, fun _ h => absurd h List.not_mem_nil⟩
def fX0_note  (s : Sg) (l1 : Int) : Option (Sg) := some (sI s 35 (wl ((wl (31 * (gI s 35))) + l1)))
theorem kX0_note {G : Gx}  {b : Nat} {ad : Nat → Nat} {s' : Sg} {h : hS} {s : Sg} {l1 : Int}  (hl1 : rL l1) (e : fX0_note s l1 = some (s')) : CtX G yX0_note cX0_note 3 none 0 0 [(0, b, ad)] [s] h [tr (some b), tl l1] none [s'] h := by
  refine CtX.of (by decide) (Nat.le_of_ble_eq_true rfl) [(0, tr (some b)), (1, tl l1)] rfl ?_
  have E : EndX (G, 3, [(0, b, ad)], h, [s'], h, none, none, yX0_note.name) [(0, b, ad)] 3 none none [s'] h := ⟨rfl, rfl, rfl, rfl, rfl, rfl⟩
  unfold fX0_note at e
  refine r_rrs E.p (fun rr => ?_)
  refine r_aload_n dX0_note_0 rfl 0 rfl ?_
  refine r_ldc2 31 q1397 (by decide) dX0_note_1 ?_
  refine r_aload_n dX0_note_4 rfl 0 rfl ?_
  refine r_sL E.p 35 fG_X0_527 rfl dX0_note_5 ?_
  refine r_lmul dX0_note_8 ?_
  refine r_lload_n dX0_note_9 rfl 1 rfl ?_
  refine r_ladd dX0_note_10 ?_
  refine r_sPL E.p 35 fP_X0_527 rfl (wl_r _) dX0_note_11 ?_
  refine r_rrs E.p (fun rr1 => ?_)
  cases e
  exact r_vret E.σ E.st E.rt E.r dX0_note_14
def fX0_digest_b19 (K9 : Option Nat × Option Nat → Option Nat → Sg → hS → Int → Option (Int × Sg × hS)) (K19 : Option Nat × Option Nat → Option Nat → Sg → hS → Int → Int → Option (Int × Sg × hS)) (gs : Option Nat × Option Nat) (pm : Option Nat) (s : Sg) (h : hS) (a1 : Int) (a2 : Int) : Option (Int × Sg × hS) := if 3 ≤ a2 then K9 gs pm s h (wr (a1 + 1)) else bd (fX0_about s h a1 a2) fun p2 => bd (fX0_note s p2) fun p6 => K19 gs pm p6 h a1 (wr (a2 + 1))
theorem wX0_digest_b19 {N : Nx} {b : Nat} {ad : Nat → Nat} {s' : Sg} {h' : hS} {r : Int} (E : EndX N [(0, b, ad)] 3 (some .long) (some (tl r)) [s'] h') (K9 : Option Nat × Option Nat → Option Nat → Sg → hS → Int → Option (Int × Sg × hS)) (hK9 : ∀ (s : Sg) (h : hS) (a1 : Int) (ha1 : rI a1), K9 (nG N).2.2.2 (some (ad 20)) s h a1 = some (r, s', h') → AtPc cX0_digest RX0 86 2890 N [s] h 9 [(0, tr (some b)), (1, ti a1)] []) (K19 : Option Nat × Option Nat → Option Nat → Sg → hS → Int → Int → Option (Int × Sg × hS)) (hK19 : ∀ (s : Sg) (h : hS) (a1 : Int) (a2 : Int) (ha1 : rI a1) (ha2 : rI a2), K19 (nG N).2.2.2 (some (ad 20)) s h a1 a2 = some (r, s', h') → AtPc cX0_digest RX0 86 2890 N [s] h 19 [(0, tr (some b)), (1, ti a1), (2, ti a2)] []) (s : Sg) (h : hS) (a1 : Int) (a2 : Int) (ha1 : rI a1) (ha2 : rI a2) (e : fX0_digest_b19 K9 K19 (nG N).2.2.2 (some (ad 20)) s h a1 a2 = some (r, s', h')) : AtPc cX0_digest RX0 86 2890 N [s] h 19 [(0, tr (some b)), (1, ti a1), (2, ti a2)] [] := by
  unfold fX0_digest_b19 at e
  refine r_rrs E.p (fun rr => ?_)
  refine r_iload_n dX0_digest_19 rfl 2 rfl ?_
  refine r_iconst dX0_digest_20 ?_
  have eT := (r_ifo e).1
  have eF := (r_ifo e).2
  refine r_icmp_ge ha2 (by decide) 41 dX0_digest_21 (by decide) (fun c1 => ?_) (fun c1 => ?_)
  · have e := eT c1
    refine r_iinc (lv' := [(1, ti (wr (a1 + 1))), (0, tr (some b)), (2, ti a2)]) dX0_digest_41 1 rfl (E.lt (by decide)) rfl ?_
    refine r_goto 9 dX0_digest_44 (by decide) ?_
    refine r_sub [1, 0] rfl ?_
    exact hK9 s h (wr (a1 + 1)) (wr_r _) e
  · have e := eF c1
    refine r_aload_n dX0_digest_24 rfl 0 rfl ?_
    refine r_aload_n dX0_digest_25 rfl 0 rfl ?_
    refine r_iload_n dX0_digest_26 rfl 1 rfl ?_
    refine r_iload_n dX0_digest_27 rfl 2 rfl ?_
    obtain ⟨p2, q3, e⟩ := bd_o e
    have k4 := kX0_about (G := nG N) (b := b) (ad := ad) ha1 ha2 q3
    have z5 := (k4 rr).1.2.2.2
    refine r_callV (j := some 0) 2 [ti a1, ti a2] (rec_sg (j := 0) (r := (RX0, TX0, 36)) rfl (by rw [E.p]; rfl)) rfl k4 (injO_1 E.p) (subO_1 E.p) getO_1 setO_1 (lw_V q1392 q1078 q1079 q115 q1080) (by decide +kernel) rfl (Nat.le_of_ble_eq_true rfl) (Nat.le_of_ble_eq_true rfl) rfl (Nat.le_of_ble_eq_true rfl) dX0_digest_28 rfl ?_
    refine r_i2l z5 dX0_digest_31 ?_
    obtain ⟨p6, q7, e⟩ := bd_o e
    have k8 := kX0_note (G := nG N) (b := b) (ad := ad) (h := h) (rI_L z5) q7
    have z9 := (k8 rr).1.2.2.2
    refine r_callV (j := some 0) 1 [tl p2] (rec_sg (j := 0) (r := (RX0, TX0, 36)) rfl (by rw [E.p]; rfl)) rfl k8 (injO_1 E.p) (subO_1 E.p) getO_1 setO_1 (lw_V q1393 q1395 qs45 q115 q1396) (by decide +kernel) rfl (Nat.le_of_ble_eq_true rfl) (Nat.le_of_ble_eq_true rfl) rfl (Nat.le_of_ble_eq_true rfl) dX0_digest_32 rfl ?_
    refine r_rrs E.p (fun rr10 => ?_)
    refine r_iinc (lv' := [(2, ti (wr (a2 + 1))), (0, tr (some b)), (1, ti a1)]) dX0_digest_35 2 rfl (E.lt (by decide)) rfl ?_
    refine r_goto 19 dX0_digest_38 (by decide) ?_
    refine r_sub [1, 2, 0] rfl ?_
    exact hK19 p6 h a1 (wr (a2 + 1)) ha1 (wr_r _) e
def fX0_digest_L19 (K9 : Option Nat × Option Nat → Option Nat → Sg → hS → Int → Option (Int × Sg × hS)) : Nat → Option Nat × Option Nat → Option Nat → Sg → hS → Int → Int → Option (Int × Sg × hS)
  | 0, _, _, _, _, _, _ => none
  | n9 + 1, gs, pm, s, h, a1, a2 => fX0_digest_b19 K9 (fX0_digest_L19 K9 n9) gs pm s h a1 a2
theorem wX0_digest_L19 {N : Nx} {b : Nat} {ad : Nat → Nat} {s' : Sg} {h' : hS} {r : Int} (E : EndX N [(0, b, ad)] 3 (some .long) (some (tl r)) [s'] h') (K9 : Option Nat × Option Nat → Option Nat → Sg → hS → Int → Option (Int × Sg × hS)) (hK9 : ∀ (s : Sg) (h : hS) (a1 : Int) (ha1 : rI a1), K9 (nG N).2.2.2 (some (ad 20)) s h a1 = some (r, s', h') → AtPc cX0_digest RX0 86 2890 N [s] h 9 [(0, tr (some b)), (1, ti a1)] []) : ∀ (n9 : Nat), ∀ (s : Sg) (h : hS) (a1 : Int) (a2 : Int) (ha1 : rI a1) (ha2 : rI a2), fX0_digest_L19 K9 n9 (nG N).2.2.2 (some (ad 20)) s h a1 a2 = some (r, s', h') → AtPc cX0_digest RX0 86 2890 N [s] h 19 [(0, tr (some b)), (1, ti a1), (2, ti a2)] [] := by
  intro n9
  induction n9 with
  | zero => intro s h a1 a2 ha1 ha2 e; cases e
  | succ n9 ih => intro s h a1 a2 ha1 ha2 e; exact wX0_digest_b19 E K9 hK9 _ ih s h a1 a2 ha1 ha2 e
def fX0_digest_b59 (K49 : Option Nat × Option Nat → Option Nat → Sg → hS → Int → Option (Int × Sg × hS)) (K59 : Option Nat × Option Nat → Option Nat → Sg → hS → Int → Int → Option (Int × Sg × hS)) (gs : Option Nat × Option Nat) (pm : Option Nat) (s : Sg) (h : hS) (a1 : Int) (a2 : Int) : Option (Int × Sg × hS) := if 8 ≤ a2 then K49 gs pm s h (wr (a1 + 1)) else gd (inb a1 6) (bd (fX0_tellInstance pm s h (gQ s 4 a1) a2) fun p3 => bd (fX0_note s p3.1) fun p8 => K59 gs pm p8 p3.2 a1 (wr (a2 + 1)))
theorem wX0_digest_b59 {N : Nx} {b : Nat} {ad : Nat → Nat} {s' : Sg} {h' : hS} {r : Int} (E : EndX N [(0, b, ad)] 3 (some .long) (some (tl r)) [s'] h') (K49 : Option Nat × Option Nat → Option Nat → Sg → hS → Int → Option (Int × Sg × hS)) (hK49 : ∀ (s : Sg) (h : hS) (a1 : Int) (ha1 : rI a1), K49 (nG N).2.2.2 (some (ad 20)) s h a1 = some (r, s', h') → AtPc cX0_digest RX0 86 2890 N [s] h 49 [(0, tr (some b)), (1, ti a1)] []) (K59 : Option Nat × Option Nat → Option Nat → Sg → hS → Int → Int → Option (Int × Sg × hS)) (hK59 : ∀ (s : Sg) (h : hS) (a1 : Int) (a2 : Int) (ha1 : rI a1) (ha2 : rI a2), K59 (nG N).2.2.2 (some (ad 20)) s h a1 a2 = some (r, s', h') → AtPc cX0_digest RX0 86 2890 N [s] h 59 [(0, tr (some b)), (1, ti a1), (2, ti a2)] []) (s : Sg) (h : hS) (a1 : Int) (a2 : Int) (ha1 : rI a1) (ha2 : rI a2) (e : fX0_digest_b59 K49 K59 (nG N).2.2.2 (some (ad 20)) s h a1 a2 = some (r, s', h')) : AtPc cX0_digest RX0 86 2890 N [s] h 59 [(0, tr (some b)), (1, ti a1), (2, ti a2)] [] := by
  unfold fX0_digest_b59 at e
  refine r_rrs E.p (fun rr => ?_)
  refine r_iload_n dX0_digest_59 rfl 2 rfl ?_
  refine r_bipush dX0_digest_60 (by decide) ?_
  have eT := (r_ifo e).1
  have eF := (r_ifo e).2
  refine r_icmp_ge ha2 (by decide) 87 dX0_digest_62 (by decide) (fun c1 => ?_) (fun c1 => ?_)
  · have e := eT c1
    refine r_iinc (lv' := [(1, ti (wr (a1 + 1))), (0, tr (some b)), (2, ti a2)]) dX0_digest_87 1 rfl (E.lt (by decide)) rfl ?_
    refine r_goto 49 dX0_digest_90 (by decide) ?_
    refine r_sub [1, 0] rfl ?_
    exact hK49 s h (wr (a1 + 1)) (wr_r _) e
  · have e := eF c1
    refine r_aload_n dX0_digest_65 rfl 0 rfl ?_
    refine r_aload_n dX0_digest_66 rfl 0 rfl ?_
    refine r_aload_n dX0_digest_67 rfl 0 rfl ?_
    refine r_sR E.p 4 fG_X0_114 (by decide) dX0_digest_68 ?_
    refine r_iload_n dX0_digest_71 rfl 1 rfl ?_
    obtain ⟨g2, e⟩ := gd_o e
    refine r_saQ E.p 4 rfl (by decide) (by decide) (by decide) ha1 g2 dX0_digest_72 ?_
    refine r_iload_n dX0_digest_73 rfl 2 rfl ?_
    obtain ⟨p3, q4, e⟩ := bd_o e
    have k5 := kX0_tellInstance (G := nG N) (b := b) (ad := ad) ha2 q4
    have z6 := (k5 rr).1.2.2.2
    refine r_callV (j := some 0) 2 [tr (gQ s 4 a1), ti a2] (rec_sg (j := 0) (r := (RX0, TX0, 36)) rfl (by rw [E.p]; rfl)) rfl k5 (injO_1 E.p) (subO_1 E.p) getO_1 setO_1 (lw_V q1093 q1095 qs25 q115 q1096) (by decide +kernel) rfl (Nat.le_of_ble_eq_true rfl) (Nat.le_of_ble_eq_true rfl) rfl (Nat.le_of_ble_eq_true rfl) dX0_digest_74 rfl ?_
    refine r_rrs E.p (fun rr7 => ?_)
    refine r_i2l z6 dX0_digest_77 ?_
    obtain ⟨p8, q9, e⟩ := bd_o e
    have k10 := kX0_note (G := nG N) (b := b) (ad := ad) (h := p3.2) (rI_L z6) q9
    have z11 := (k10 rr7).1.2.2.2
    refine r_callV (j := some 0) 1 [tl p3.1] (rec_sg (j := 0) (r := (RX0, TX0, 36)) rfl (by rw [E.p]; rfl)) rfl k10 (injO_1 E.p) (subO_1 E.p) getO_1 setO_1 (lw_V q1393 q1395 qs45 q115 q1396) (by decide +kernel) rfl (Nat.le_of_ble_eq_true rfl) (Nat.le_of_ble_eq_true rfl) rfl (Nat.le_of_ble_eq_true rfl) dX0_digest_78 rfl ?_
    refine r_rrs E.p (fun rr12 => ?_)
    refine r_iinc (lv' := [(2, ti (wr (a2 + 1))), (0, tr (some b)), (1, ti a1)]) dX0_digest_81 2 rfl (E.lt (by decide)) rfl ?_
    refine r_goto 59 dX0_digest_84 (by decide) ?_
    refine r_sub [1, 2, 0] rfl ?_
    exact hK59 p8 p3.2 a1 (wr (a2 + 1)) ha1 (wr_r _) e
def fX0_digest_L59 (K49 : Option Nat × Option Nat → Option Nat → Sg → hS → Int → Option (Int × Sg × hS)) : Nat → Option Nat × Option Nat → Option Nat → Sg → hS → Int → Int → Option (Int × Sg × hS)
  | 0, _, _, _, _, _, _ => none
  | n9 + 1, gs, pm, s, h, a1, a2 => fX0_digest_b59 K49 (fX0_digest_L59 K49 n9) gs pm s h a1 a2
theorem wX0_digest_L59 {N : Nx} {b : Nat} {ad : Nat → Nat} {s' : Sg} {h' : hS} {r : Int} (E : EndX N [(0, b, ad)] 3 (some .long) (some (tl r)) [s'] h') (K49 : Option Nat × Option Nat → Option Nat → Sg → hS → Int → Option (Int × Sg × hS)) (hK49 : ∀ (s : Sg) (h : hS) (a1 : Int) (ha1 : rI a1), K49 (nG N).2.2.2 (some (ad 20)) s h a1 = some (r, s', h') → AtPc cX0_digest RX0 86 2890 N [s] h 49 [(0, tr (some b)), (1, ti a1)] []) : ∀ (n9 : Nat), ∀ (s : Sg) (h : hS) (a1 : Int) (a2 : Int) (ha1 : rI a1) (ha2 : rI a2), fX0_digest_L59 K49 n9 (nG N).2.2.2 (some (ad 20)) s h a1 a2 = some (r, s', h') → AtPc cX0_digest RX0 86 2890 N [s] h 59 [(0, tr (some b)), (1, ti a1), (2, ti a2)] [] := by
  intro n9
  induction n9 with
  | zero => intro s h a1 a2 ha1 ha2 e; cases e
  | succ n9 ih => intro s h a1 a2 ha1 ha2 e; exact wX0_digest_b59 E K49 hK49 _ ih s h a1 a2 ha1 ha2 e
def fX0_digest_b155 (K95 : Option Nat × Option Nat → Option Nat → Sg → hS → Int → Option (Int × Sg × hS)) (gs : Option Nat × Option Nat) (pm : Option Nat) (s : Sg) (h : hS) (a1 : Int) : Option (Int × Sg × hS) := K95 gs pm s h (wr (a1 + 1))
theorem wX0_digest_b155 {N : Nx} {b : Nat} {ad : Nat → Nat} {s' : Sg} {h' : hS} {r : Int} (E : EndX N [(0, b, ad)] 3 (some .long) (some (tl r)) [s'] h') (K95 : Option Nat × Option Nat → Option Nat → Sg → hS → Int → Option (Int × Sg × hS)) (hK95 : ∀ (s : Sg) (h : hS) (a1 : Int) (ha1 : rI a1), K95 (nG N).2.2.2 (some (ad 20)) s h a1 = some (r, s', h') → AtPc cX0_digest RX0 86 2890 N [s] h 95 [(0, tr (some b)), (1, ti a1)] []) (s : Sg) (h : hS) (a1 : Int) (ha1 : rI a1) (e : fX0_digest_b155 K95 (nG N).2.2.2 (some (ad 20)) s h a1 = some (r, s', h')) : AtPc cX0_digest RX0 86 2890 N [s] h 155 [(0, tr (some b)), (1, ti a1)] [] := by
  unfold fX0_digest_b155 at e
  refine r_rrs E.p (fun rr => ?_)
  refine r_iinc (lv' := [(1, ti (wr (a1 + 1))), (0, tr (some b))]) dX0_digest_155 1 rfl (E.lt (by decide)) rfl ?_
  refine r_goto 95 dX0_digest_158 (by decide) ?_
  refine r_sub [1, 0] rfl ?_
  exact hK95 s h (wr (a1 + 1)) (wr_r _) e
def fX0_digest_b107 (K95 : Option Nat × Option Nat → Option Nat → Sg → hS → Int → Option (Int × Sg × hS)) (K107 : Option Nat × Option Nat → Option Nat → Sg → hS → Int → Int → Option (Int × Sg × hS)) (gs : Option Nat × Option Nat) (pm : Option Nat) (s : Sg) (h : hS) (a1 : Int) (a2 : Int) : Option (Int × Sg × hS) := if 7 ≤ a2 then fX0_digest_b155 K95 gs pm s h a1 else gd (¬ (gI s 3) = 0) (gd (inb (idv a1 (gI s 3)) 4) (ifN (gQ s 6 (idv a1 (gI s 3))) (fX0_digest_b155 K95 gs pm s h a1) (fun _ => gd (¬ (gI s 3) = 0) (gd (¬ (gI s 3) = 0) (bd (fX0_tellGoal gs pm s h (irm a1 (gI s 3)) (idv a1 (gI s 3)) a2) fun p8 => bd (fX0_note s p8.1) fun p13 => K107 gs pm p13 p8.2 a1 (wr (a2 + 1)))))))
theorem wX0_digest_b107 {N : Nx} {b : Nat} {ad : Nat → Nat} {s' : Sg} {h' : hS} {r : Int} (E : EndX N [(0, b, ad)] 3 (some .long) (some (tl r)) [s'] h') (K95 : Option Nat × Option Nat → Option Nat → Sg → hS → Int → Option (Int × Sg × hS)) (hK95 : ∀ (s : Sg) (h : hS) (a1 : Int) (ha1 : rI a1), K95 (nG N).2.2.2 (some (ad 20)) s h a1 = some (r, s', h') → AtPc cX0_digest RX0 86 2890 N [s] h 95 [(0, tr (some b)), (1, ti a1)] []) (K107 : Option Nat × Option Nat → Option Nat → Sg → hS → Int → Int → Option (Int × Sg × hS)) (hK107 : ∀ (s : Sg) (h : hS) (a1 : Int) (a2 : Int) (ha1 : rI a1) (ha2 : rI a2), K107 (nG N).2.2.2 (some (ad 20)) s h a1 a2 = some (r, s', h') → AtPc cX0_digest RX0 86 2890 N [s] h 107 [(0, tr (some b)), (1, ti a1), (2, ti a2)] []) (s : Sg) (h : hS) (a1 : Int) (a2 : Int) (ha1 : rI a1) (ha2 : rI a2) (e : fX0_digest_b107 K95 K107 (nG N).2.2.2 (some (ad 20)) s h a1 a2 = some (r, s', h')) : AtPc cX0_digest RX0 86 2890 N [s] h 107 [(0, tr (some b)), (1, ti a1), (2, ti a2)] [] := by
  unfold fX0_digest_b107 at e
  refine r_rrs E.p (fun rr => ?_)
  refine r_iload_n dX0_digest_107 rfl 2 rfl ?_
  refine r_bipush dX0_digest_108 (by decide) ?_
  have eT := (r_ifo e).1
  have eF := (r_ifo e).2
  refine r_icmp_ge ha2 (by decide) 155 dX0_digest_110 (by decide) (fun c1 => ?_) (fun c1 => ?_)
  · have e := eT c1
    refine r_sub [0, 1] rfl ?_
    exact wX0_digest_b155 E K95 hK95 s h a1 ha1 e
  · have e := eF c1
    refine r_aload_n dX0_digest_113 rfl 0 rfl ?_
    refine r_sR E.p 6 fG_X0_117 (by decide) dX0_digest_114 ?_
    refine r_iload_n dX0_digest_117 rfl 1 rfl ?_
    refine r_aload_n dX0_digest_118 rfl 0 rfl ?_
    refine r_sI E.p 3 fG_X0_238 (by decide) dX0_digest_119 ?_
    obtain ⟨g2, e⟩ := gd_o e
    refine r_idiv ((rr.mine rfl).i 3 (by decide) (by decide)) g2 dX0_digest_122 ?_
    obtain ⟨g3, e⟩ := gd_o e
    refine r_saQ E.p 6 rfl (by decide) (by decide) (by decide) (idv_r _ _) g3 dX0_digest_123 ?_
    have eT := (r_ifno e).1
    have eF := (r_ifno e).2
    refine r_ifnull 155 dX0_digest_124 (by decide) (fun c4 => ?_) (fun x5 c4 => ?_)
    · have e := eT c4
      refine r_sub [0, 1] rfl ?_
      exact wX0_digest_b155 E K95 hK95 s h a1 ha1 e
    · have e := eF x5 c4
      refine r_aload_n dX0_digest_127 rfl 0 rfl ?_
      refine r_aload_n dX0_digest_128 rfl 0 rfl ?_
      refine r_iload_n dX0_digest_129 rfl 1 rfl ?_
      refine r_aload_n dX0_digest_130 rfl 0 rfl ?_
      refine r_sI E.p 3 fG_X0_238 (by decide) dX0_digest_131 ?_
      obtain ⟨g6, e⟩ := gd_o e
      refine r_irem ((rr.mine rfl).i 3 (by decide) (by decide)) g6 dX0_digest_134 ?_
      refine r_iload_n dX0_digest_135 rfl 1 rfl ?_
      refine r_aload_n dX0_digest_136 rfl 0 rfl ?_
      refine r_sI E.p 3 fG_X0_238 (by decide) dX0_digest_137 ?_
      obtain ⟨g7, e⟩ := gd_o e
      refine r_idiv ((rr.mine rfl).i 3 (by decide) (by decide)) g7 dX0_digest_140 ?_
      refine r_iload_n dX0_digest_141 rfl 2 rfl ?_
      obtain ⟨p8, q9, e⟩ := bd_o e
      have k10 := kX0_tellGoal (G := nG N) (b := b) (ad := ad) (irm_r _ _) (idv_r _ _) ha2 q9
      have z11 := (k10 rr).1.2.2.2
      refine r_callV (j := some 0) 3 [ti (irm a1 (gI s 3)), ti (idv a1 (gI s 3)), ti a2] (rec_sg (j := 0) (r := (RX0, TX0, 36)) rfl (by rw [E.p]; rfl)) rfl k10 (injO_1 E.p) (subO_1 E.p) getO_1 setO_1 (lw_V q858 q860 qs12 q115 q861) (by decide +kernel) rfl (Nat.le_of_ble_eq_true rfl) (Nat.le_of_ble_eq_true rfl) rfl (Nat.le_of_ble_eq_true rfl) dX0_digest_142 rfl ?_
      refine r_rrs E.p (fun rr12 => ?_)
      refine r_i2l z11 dX0_digest_145 ?_
      obtain ⟨p13, q14, e⟩ := bd_o e
      have k15 := kX0_note (G := nG N) (b := b) (ad := ad) (h := p8.2) (rI_L z11) q14
      have z16 := (k15 rr12).1.2.2.2
      refine r_callV (j := some 0) 1 [tl p8.1] (rec_sg (j := 0) (r := (RX0, TX0, 36)) rfl (by rw [E.p]; rfl)) rfl k15 (injO_1 E.p) (subO_1 E.p) getO_1 setO_1 (lw_V q1393 q1395 qs45 q115 q1396) (by decide +kernel) rfl (Nat.le_of_ble_eq_true rfl) (Nat.le_of_ble_eq_true rfl) rfl (Nat.le_of_ble_eq_true rfl) dX0_digest_146 rfl ?_
      refine r_rrs E.p (fun rr17 => ?_)
      refine r_iinc (lv' := [(2, ti (wr (a2 + 1))), (0, tr (some b)), (1, ti a1)]) dX0_digest_149 2 rfl (E.lt (by decide)) rfl ?_
      refine r_goto 107 dX0_digest_152 (by decide) ?_
      refine r_sub [1, 2, 0] rfl ?_
      exact hK107 p13 p8.2 a1 (wr (a2 + 1)) ha1 (wr_r _) e
def fX0_digest_L107 (K95 : Option Nat × Option Nat → Option Nat → Sg → hS → Int → Option (Int × Sg × hS)) : Nat → Option Nat × Option Nat → Option Nat → Sg → hS → Int → Int → Option (Int × Sg × hS)
  | 0, _, _, _, _, _, _ => none
  | n9 + 1, gs, pm, s, h, a1, a2 => fX0_digest_b107 K95 (fX0_digest_L107 K95 n9) gs pm s h a1 a2
theorem wX0_digest_L107 {N : Nx} {b : Nat} {ad : Nat → Nat} {s' : Sg} {h' : hS} {r : Int} (E : EndX N [(0, b, ad)] 3 (some .long) (some (tl r)) [s'] h') (K95 : Option Nat × Option Nat → Option Nat → Sg → hS → Int → Option (Int × Sg × hS)) (hK95 : ∀ (s : Sg) (h : hS) (a1 : Int) (ha1 : rI a1), K95 (nG N).2.2.2 (some (ad 20)) s h a1 = some (r, s', h') → AtPc cX0_digest RX0 86 2890 N [s] h 95 [(0, tr (some b)), (1, ti a1)] []) : ∀ (n9 : Nat), ∀ (s : Sg) (h : hS) (a1 : Int) (a2 : Int) (ha1 : rI a1) (ha2 : rI a2), fX0_digest_L107 K95 n9 (nG N).2.2.2 (some (ad 20)) s h a1 a2 = some (r, s', h') → AtPc cX0_digest RX0 86 2890 N [s] h 107 [(0, tr (some b)), (1, ti a1), (2, ti a2)] [] := by
  intro n9
  induction n9 with
  | zero => intro s h a1 a2 ha1 ha2 e; cases e
  | succ n9 ih => intro s h a1 a2 ha1 ha2 e; exact wX0_digest_b107 E K95 hK95 _ ih s h a1 a2 ha1 ha2 e
def fX0_digest_b190 (K190 : Option Nat × Option Nat → Option Nat → Sg → hS → Int → Option (Int × Sg × hS)) (gs : Option Nat × Option Nat) (pm : Option Nat) (s : Sg) (h : hS) (a1 : Int) : Option (Int × Sg × hS) := if 11 ≤ a1 then some (gI s 35, s, h) else bd (fX0_count gs pm s h a1) fun p2 => bd (fX0_note s p2.1) fun p7 => K190 gs pm p7 p2.2 (wr (a1 + 1))
theorem wX0_digest_b190 {N : Nx} {b : Nat} {ad : Nat → Nat} {s' : Sg} {h' : hS} {r : Int} (E : EndX N [(0, b, ad)] 3 (some .long) (some (tl r)) [s'] h') (K190 : Option Nat × Option Nat → Option Nat → Sg → hS → Int → Option (Int × Sg × hS)) (hK190 : ∀ (s : Sg) (h : hS) (a1 : Int) (ha1 : rI a1), K190 (nG N).2.2.2 (some (ad 20)) s h a1 = some (r, s', h') → AtPc cX0_digest RX0 86 2890 N [s] h 190 [(0, tr (some b)), (1, ti a1)] []) (s : Sg) (h : hS) (a1 : Int) (ha1 : rI a1) (e : fX0_digest_b190 K190 (nG N).2.2.2 (some (ad 20)) s h a1 = some (r, s', h')) : AtPc cX0_digest RX0 86 2890 N [s] h 190 [(0, tr (some b)), (1, ti a1)] [] := by
  unfold fX0_digest_b190 at e
  refine r_rrs E.p (fun rr => ?_)
  refine r_iload_n dX0_digest_190 rfl 1 rfl ?_
  refine r_bipush dX0_digest_191 (by decide) ?_
  have eT := (r_ifo e).1
  have eF := (r_ifo e).2
  refine r_icmp_ge ha1 (by decide) 212 dX0_digest_193 (by decide) (fun c1 => ?_) (fun c1 => ?_)
  · have e := eT c1
    refine r_aload_n dX0_digest_212 rfl 0 rfl ?_
    refine r_sL E.p 35 fG_X0_527 rfl dX0_digest_213 ?_
    cases e
    exact r_lret E.σ E.st E.rt E.r ((rr.mine rfl).l 35 (by decide) rfl) dX0_digest_216
  · have e := eF c1
    refine r_aload_n dX0_digest_196 rfl 0 rfl ?_
    refine r_aload_n dX0_digest_197 rfl 0 rfl ?_
    refine r_iload_n dX0_digest_198 rfl 1 rfl ?_
    obtain ⟨p2, q3, e⟩ := bd_o e
    have k4 := kX0_count (G := nG N) (b := b) (ad := ad) ha1 q3
    have z5 := (k4 rr).1.2.2.2
    refine r_callV (j := some 0) 1 [ti a1] (rec_sg (j := 0) (r := (RX0, TX0, 36)) rfl (by rw [E.p]; rfl)) rfl k4 (injO_1 E.p) (subO_1 E.p) getO_1 setO_1 (lw_V q1398 q1367 q1368 q115 q1369) (by decide +kernel) rfl (Nat.le_of_ble_eq_true rfl) (Nat.le_of_ble_eq_true rfl) rfl (Nat.le_of_ble_eq_true rfl) dX0_digest_199 rfl ?_
    refine r_rrs E.p (fun rr6 => ?_)
    refine r_i2l z5 dX0_digest_202 ?_
    obtain ⟨p7, q8, e⟩ := bd_o e
    have k9 := kX0_note (G := nG N) (b := b) (ad := ad) (h := p2.2) (rI_L z5) q8
    have z10 := (k9 rr6).1.2.2.2
    refine r_callV (j := some 0) 1 [tl p2.1] (rec_sg (j := 0) (r := (RX0, TX0, 36)) rfl (by rw [E.p]; rfl)) rfl k9 (injO_1 E.p) (subO_1 E.p) getO_1 setO_1 (lw_V q1393 q1395 qs45 q115 q1396) (by decide +kernel) rfl (Nat.le_of_ble_eq_true rfl) (Nat.le_of_ble_eq_true rfl) rfl (Nat.le_of_ble_eq_true rfl) dX0_digest_203 rfl ?_
    refine r_rrs E.p (fun rr11 => ?_)
    refine r_iinc (lv' := [(1, ti (wr (a1 + 1))), (0, tr (some b))]) dX0_digest_206 1 rfl (E.lt (by decide)) rfl ?_
    refine r_goto 190 dX0_digest_209 (by decide) ?_
    refine r_sub [1, 0] rfl ?_
    exact hK190 p7 p2.2 (wr (a1 + 1)) (wr_r _) e
def fX0_digest_L190  : Nat → Option Nat × Option Nat → Option Nat → Sg → hS → Int → Option (Int × Sg × hS)
  | 0, _, _, _, _, _ => none
  | n9 + 1, gs, pm, s, h, a1 => fX0_digest_b190 (fX0_digest_L190 n9) gs pm s h a1
theorem wX0_digest_L190 {N : Nx} {b : Nat} {ad : Nat → Nat} {s' : Sg} {h' : hS} {r : Int} (E : EndX N [(0, b, ad)] 3 (some .long) (some (tl r)) [s'] h')  : ∀ (n9 : Nat), ∀ (s : Sg) (h : hS) (a1 : Int) (ha1 : rI a1), fX0_digest_L190 n9 (nG N).2.2.2 (some (ad 20)) s h a1 = some (r, s', h') → AtPc cX0_digest RX0 86 2890 N [s] h 190 [(0, tr (some b)), (1, ti a1)] [] := by
  intro n9
  induction n9 with
  | zero => intro s h a1 ha1 e; cases e
  | succ n9 ih => intro s h a1 ha1 e; exact wX0_digest_b190 E _ ih s h a1 ha1 e
def fX0_digest_b163 (K163 : Option Nat × Option Nat → Option Nat → Sg → hS → Int → Option (Int × Sg × hS)) (gs : Option Nat × Option Nat) (pm : Option Nat) (s : Sg) (h : hS) (a1 : Int) : Option (Int × Sg × hS) := if (gI s 9) ≤ a1 then fX0_digest_L190 FU gs pm s h 0 else gd (inb a1 84) (bd (fX0_note s (gA s 8 a1)) fun p3 => K163 gs pm p3 h (wr (a1 + 1)))
theorem wX0_digest_b163 {N : Nx} {b : Nat} {ad : Nat → Nat} {s' : Sg} {h' : hS} {r : Int} (E : EndX N [(0, b, ad)] 3 (some .long) (some (tl r)) [s'] h') (K163 : Option Nat × Option Nat → Option Nat → Sg → hS → Int → Option (Int × Sg × hS)) (hK163 : ∀ (s : Sg) (h : hS) (a1 : Int) (ha1 : rI a1), K163 (nG N).2.2.2 (some (ad 20)) s h a1 = some (r, s', h') → AtPc cX0_digest RX0 86 2890 N [s] h 163 [(0, tr (some b)), (1, ti a1)] []) (s : Sg) (h : hS) (a1 : Int) (ha1 : rI a1) (e : fX0_digest_b163 K163 (nG N).2.2.2 (some (ad 20)) s h a1 = some (r, s', h')) : AtPc cX0_digest RX0 86 2890 N [s] h 163 [(0, tr (some b)), (1, ti a1)] [] := by
  unfold fX0_digest_b163 at e
  refine r_rrs E.p (fun rr => ?_)
  refine r_iload_n dX0_digest_163 rfl 1 rfl ?_
  refine r_aload_n dX0_digest_164 rfl 0 rfl ?_
  refine r_sI E.p 9 fG_X0_174 (by decide) dX0_digest_165 ?_
  have eT := (r_ifo e).1
  have eF := (r_ifo e).2
  refine r_icmp_ge ha1 ((rr.mine rfl).i 9 (by decide) (by decide)) 188 dX0_digest_168 (by decide) (fun c1 => ?_) (fun c1 => ?_)
  · have e := eT c1
    refine r_iconst dX0_digest_188 ?_
    refine r_istore_n (lv' := [(1, ti 0), (0, tr (some b))]) dX0_digest_189 rfl (E.lt (by decide)) rfl ?_
    refine r_sub [1, 0] rfl ?_
    exact wX0_digest_L190 E FU s h 0 (by decide) e
  · have e := eF c1
    refine r_aload_n dX0_digest_171 rfl 0 rfl ?_
    refine r_aload_n dX0_digest_172 rfl 0 rfl ?_
    refine r_sR E.p 8 fG_X0_121 (by decide) dX0_digest_173 ?_
    refine r_iload_n dX0_digest_176 rfl 1 rfl ?_
    obtain ⟨g2, e⟩ := gd_o e
    refine r_saI E.p 8 rfl (by decide) (by decide) ha1 g2 rfl dX0_digest_177 ?_
    refine r_i2l (((rr.mine rfl).a 8 (by decide) rfl).1 _) dX0_digest_178 ?_
    obtain ⟨p3, q4, e⟩ := bd_o e
    have k5 := kX0_note (G := nG N) (b := b) (ad := ad) (h := h) (rI_L (((rr.mine rfl).a 8 (by decide) rfl).1 _)) q4
    have z6 := (k5 rr).1.2.2.2
    refine r_callV (j := some 0) 1 [tl (gA s 8 a1)] (rec_sg (j := 0) (r := (RX0, TX0, 36)) rfl (by rw [E.p]; rfl)) rfl k5 (injO_1 E.p) (subO_1 E.p) getO_1 setO_1 (lw_V q1393 q1395 qs45 q115 q1396) (by decide +kernel) rfl (Nat.le_of_ble_eq_true rfl) (Nat.le_of_ble_eq_true rfl) rfl (Nat.le_of_ble_eq_true rfl) dX0_digest_179 rfl ?_
    refine r_rrs E.p (fun rr7 => ?_)
    refine r_iinc (lv' := [(1, ti (wr (a1 + 1))), (0, tr (some b))]) dX0_digest_182 1 rfl (E.lt (by decide)) rfl ?_
    refine r_goto 163 dX0_digest_185 (by decide) ?_
    refine r_sub [1, 0] rfl ?_
    exact hK163 p3 h (wr (a1 + 1)) (wr_r _) e
def fX0_digest_L163  : Nat → Option Nat × Option Nat → Option Nat → Sg → hS → Int → Option (Int × Sg × hS)
  | 0, _, _, _, _, _ => none
  | n9 + 1, gs, pm, s, h, a1 => fX0_digest_b163 (fX0_digest_L163 n9) gs pm s h a1
theorem wX0_digest_L163 {N : Nx} {b : Nat} {ad : Nat → Nat} {s' : Sg} {h' : hS} {r : Int} (E : EndX N [(0, b, ad)] 3 (some .long) (some (tl r)) [s'] h')  : ∀ (n9 : Nat), ∀ (s : Sg) (h : hS) (a1 : Int) (ha1 : rI a1), fX0_digest_L163 n9 (nG N).2.2.2 (some (ad 20)) s h a1 = some (r, s', h') → AtPc cX0_digest RX0 86 2890 N [s] h 163 [(0, tr (some b)), (1, ti a1)] [] := by
  intro n9
  induction n9 with
  | zero => intro s h a1 ha1 e; cases e
  | succ n9 ih => intro s h a1 ha1 e; exact wX0_digest_b163 E _ ih s h a1 ha1 e
def fX0_digest_b95 (K95 : Option Nat × Option Nat → Option Nat → Sg → hS → Int → Option (Int × Sg × hS)) (gs : Option Nat × Option Nat) (pm : Option Nat) (s : Sg) (h : hS) (a1 : Int) : Option (Int × Sg × hS) := if (wr (4 * (gI s 3))) ≤ a1 then fX0_digest_L163 FU gs pm s h 0 else fX0_digest_L107 K95 FU gs pm s h a1 0
theorem wX0_digest_b95 {N : Nx} {b : Nat} {ad : Nat → Nat} {s' : Sg} {h' : hS} {r : Int} (E : EndX N [(0, b, ad)] 3 (some .long) (some (tl r)) [s'] h') (K95 : Option Nat × Option Nat → Option Nat → Sg → hS → Int → Option (Int × Sg × hS)) (hK95 : ∀ (s : Sg) (h : hS) (a1 : Int) (ha1 : rI a1), K95 (nG N).2.2.2 (some (ad 20)) s h a1 = some (r, s', h') → AtPc cX0_digest RX0 86 2890 N [s] h 95 [(0, tr (some b)), (1, ti a1)] []) (s : Sg) (h : hS) (a1 : Int) (ha1 : rI a1) (e : fX0_digest_b95 K95 (nG N).2.2.2 (some (ad 20)) s h a1 = some (r, s', h')) : AtPc cX0_digest RX0 86 2890 N [s] h 95 [(0, tr (some b)), (1, ti a1)] [] := by
  unfold fX0_digest_b95 at e
  refine r_rrs E.p (fun rr => ?_)
  refine r_iload_n dX0_digest_95 rfl 1 rfl ?_
  refine r_iconst dX0_digest_96 ?_
  refine r_aload_n dX0_digest_97 rfl 0 rfl ?_
  refine r_sI E.p 3 fG_X0_238 (by decide) dX0_digest_98 ?_
  refine r_imul dX0_digest_101 ?_
  have eT := (r_ifo e).1
  have eF := (r_ifo e).2
  refine r_icmp_ge ha1 (wr_r _) 161 dX0_digest_102 (by decide) (fun c1 => ?_) (fun c1 => ?_)
  · have e := eT c1
    refine r_iconst dX0_digest_161 ?_
    refine r_istore_n (lv' := [(1, ti 0), (0, tr (some b))]) dX0_digest_162 rfl (E.lt (by decide)) rfl ?_
    refine r_sub [1, 0] rfl ?_
    exact wX0_digest_L163 E FU s h 0 (by decide) e
  · have e := eF c1
    refine r_iconst dX0_digest_105 ?_
    refine r_istore_n (lv' := [(2, ti 0), (0, tr (some b)), (1, ti a1)]) dX0_digest_106 rfl (E.lt (by decide)) rfl ?_
    refine r_sub [1, 2, 0] rfl ?_
    exact wX0_digest_L107 E K95 hK95 FU s h a1 0 ha1 (by decide) e
