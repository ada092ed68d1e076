/-! DictProofModel: functions and walks, printed by gen/run6.py -/
set_option maxRecDepth 100000
def fX6_need_b16 (s : Sg) : Option (Int × Sg) := some ((-101), s)
theorem wX6_need_b16 {N : Nx} {b : Nat} {ad : Nat → Nat} {s' : Sg} {h : hS} {r : Int} (E : EndX N [(6, b, ad)] 8 (some .int) (some (ti r)) [s'] h)  (s : Sg) (e : fX6_need_b16 s = some (r, s')) : AtPc cX6_need RX6 6 146 N [s] h 16 [] [] := by
  unfold fX6_need_b16 at e
  refine r_rrs E.p (fun rr => ?_)
  refine r_bipush dX6_need_16 (by decide) ?_
  cases e
  exact r_iret E.σ E.st E.rt E.r (by decide) dX6_need_18
def fX6_need_b37 (s : Sg) : Option (Int × Sg) := some ((-102), s)
theorem wX6_need_b37 {N : Nx} {b : Nat} {ad : Nat → Nat} {s' : Sg} {h : hS} {r : Int} (E : EndX N [(6, b, ad)] 8 (some .int) (some (ti r)) [s'] h)  (s : Sg) (e : fX6_need_b37 s = some (r, s')) : AtPc cX6_need RX6 6 146 N [s] h 37 [] [] := by
  unfold fX6_need_b37 at e
  refine r_rrs E.p (fun rr => ?_)
  refine r_bipush dX6_need_37 (by decide) ?_
  cases e
  exact r_iret E.σ E.st E.rt E.r (by decide) dX6_need_39
def fX6_need_b120 (s : Sg) (k0 : Int) : Option (Int × Sg) := some (k0, s)
theorem wX6_need_b120 {N : Nx} {b : Nat} {ad : Nat → Nat} {s' : Sg} {h : hS} {r : Int} (E : EndX N [(6, b, ad)] 8 (some .int) (some (ti r)) [s'] h)  (s : Sg) (k0 : Int) (hk0 : rI k0) (e : fX6_need_b120 s k0 = some (r, s')) : AtPc cX6_need RX6 6 146 N [s] h 120 [] [ti k0] := by
  unfold fX6_need_b120 at e
  refine r_rrs E.p (fun rr => ?_)
  cases e
  exact r_iret E.σ E.st E.rt E.r hk0 dX6_need_120
def fX6_need_b77 (s : Sg) (a3 : Int) (a4 : Int) (k0 : Int) : Option (Int × Sg) := bd (fX6_plainOf s k0) fun p1 => bd (fX6_isIn p1 (wr ((wr (2 * a3)) + a4))) fun p5 => if p5 = 0 then bd (fX6_isIn k0 (wr ((wr (2 * a3)) + a4))) fun p10 => if p10 = 0 then fX6_need_b120 s 0 else fX6_need_b120 s 1 else fX6_need_b120 s 2
theorem wX6_need_b77 {N : Nx} {b : Nat} {ad : Nat → Nat} {s' : Sg} {h : hS} {r : Int} (E : EndX N [(6, b, ad)] 8 (some .int) (some (ti r)) [s'] h)  (s : Sg) (a3 : Int) (a4 : Int) (k0 : Int) (ha3 : rI a3) (ha4 : rI a4) (hk0 : rI k0) (e : fX6_need_b77 s a3 a4 k0 = some (r, s')) : AtPc cX6_need RX6 6 146 N [s] h 77 [(0, tr (some b)), (3, ti a3), (4, ti a4)] [ti k0] := by
  unfold fX6_need_b77 at e
  refine r_rrs E.p (fun rr => ?_)
  refine r_istore (lv' := [(6, ti k0), (0, tr (some b)), (3, ti a3), (4, ti a4)]) dX6_need_77 (E.lt (by decide)) rfl ?_
  refine r_iconst dX6_need_79 ?_
  refine r_iload_n dX6_need_80 rfl 2 rfl ?_
  refine r_imul dX6_need_81 ?_
  refine r_iload dX6_need_82 3 rfl ?_
  refine r_iadd dX6_need_84 ?_
  refine r_istore (lv' := [(7, ti (wr ((wr (2 * a3)) + a4))), (6, ti k0), (0, tr (some b)), (3, ti a3), (4, ti a4)]) dX6_need_85 (E.lt (by decide)) rfl ?_
  refine r_aload_n dX6_need_87 rfl 2 rfl ?_
  refine r_iload dX6_need_88 1 rfl ?_
  obtain ⟨p1, q2, e⟩ := bd_o e
  have k3 := kX6_plainOf (G := nG N) (b := b) (ad := ad) (h := h) hk0 q2
  have z4 := (k3 rr).1.2.2.2
  refine r_callV (j := some 0) 1 [ti k0] (rec_sg (j := 0) (r := (RX6, TX6, 63)) rfl (by rw [E.p]; rfl)) rfl k3 (injO_1 E.p) (subO_1 E.p) getO_1 setO_1 (lw_V q1877 q1879 qs99 q123 q1880) (by decide +kernel) rfl (Nat.le_of_ble_eq_true rfl) (Nat.le_of_ble_eq_true rfl) rfl (Nat.le_of_ble_eq_true rfl) dX6_need_90 rfl ?_
  refine r_iload dX6_need_93 0 rfl ?_
  obtain ⟨p5, q6, e⟩ := bd_o e
  have k7 := kX6_isIn (G := nG N) (h := h) z4 (wr_r _) q6
  have z8 := (k7 rr.none).1.2.2.2
  refine r_callS (j := none) 2 [ti p1, ti (wr ((wr (2 * a3)) + a4))] k7 (injO_1 E.p) subO_0 getO_0 setO_0 (lw_S q1663 q1664 q123 q1665) (by decide +kernel) rfl (Nat.le_of_ble_eq_true rfl) (Nat.le_of_ble_eq_true rfl) rfl (Nat.le_of_ble_eq_true rfl) dX6_need_95 rfl ?_
  have eT := (r_ifo e).1
  have eF := (r_ifo e).2
  refine r_if_eq (rI_z z8) 105 dX6_need_98 (by decide) (fun c9 => ?_) (fun c9 => ?_)
  · have e := eT c9
    refine r_iload dX6_need_105 1 rfl ?_
    refine r_iload dX6_need_107 0 rfl ?_
    obtain ⟨p10, q11, e⟩ := bd_o e
    have k12 := kX6_isIn (G := nG N) (h := h) hk0 (wr_r _) q11
    have z13 := (k12 rr.none).1.2.2.2
    refine r_callS (j := none) 2 [ti k0, ti (wr ((wr (2 * a3)) + a4))] k12 (injO_1 E.p) subO_0 getO_0 setO_0 (lw_S q1663 q1664 q123 q1665) (by decide +kernel) rfl (Nat.le_of_ble_eq_true rfl) (Nat.le_of_ble_eq_true rfl) rfl (Nat.le_of_ble_eq_true rfl) dX6_need_109 rfl ?_
    have eT := (r_ifo e).1
    have eF := (r_ifo e).2
    refine r_if_eq (rI_z z13) 119 dX6_need_112 (by decide) (fun c14 => ?_) (fun c14 => ?_)
    · have e := eT c14
      refine r_iconst dX6_need_119 ?_
      refine r_sub [] rfl ?_
      exact wX6_need_b120 E s 0 (by decide) e
    · have e := eF c14
      refine r_iconst dX6_need_115 ?_
      refine r_goto 120 dX6_need_116 (by decide) ?_
      refine r_sub [] rfl ?_
      exact wX6_need_b120 E s 1 (by decide) e
  · have e := eF c9
    refine r_iconst dX6_need_101 ?_
    refine r_goto 120 dX6_need_102 (by decide) ?_
    refine r_sub [] rfl ?_
    exact wX6_need_b120 E s 2 (by decide) e
def fX6_need  (s : Sg) (a1 : Int) (a2 : Int) (a3 : Int) (a4 : Int) : Option (Int × Sg) := bd (fX6_isClass s a1) fun p1 => if p1 = 0 then fX6_need_b16 s else bd (fX6_isFilled s a2) fun p6 => if ¬ p6 = 0 then bd (fX6_isClass s a3) fun p11 => if p11 = 0 then fX6_need_b37 s else bd (fX6_within a4 0 1) fun p16 => if ¬ p16 = 0 then bd (fX6_laySlot s a2) fun p21 => bd (fX6_layGoals p21) fun p26 => gd (inb (wr (9 * a1)) 36) (if ¬ (gA p26 36 (wr (9 * a1))) = 1 then fX6_need_b77 p26 a3 a4 0 else gd (inb (wr (9 * a1)) 36) (fX6_need_b77 p26 a3 a4 (gA p26 43 (wr (9 * a1))))) else fX6_need_b37 s else fX6_need_b16 s
theorem kX6_need {G : Gx}  {b : Nat} {ad : Nat → Nat} {s' : Sg} {h : hS} {r : Int} {s : Sg} {a1 : Int} {a2 : Int} {a3 : Int} {a4 : Int}  (ha1 : rI a1) (ha2 : rI a2) (ha3 : rI a3) (ha4 : rI a4) (e : fX6_need s a1 a2 a3 a4 = some (r, s')) : CtX G yX6_need cX6_need 8 (some .int) 6 146 [(6, b, ad)] [s] h [tr (some b), ti a1, ti a2, ti a3, ti a4] (some (ti r)) [s'] h := by
  refine CtX.of (by decide) (Nat.le_of_ble_eq_true rfl) [(0, tr (some b)), (1, ti a1), (2, ti a2), (3, ti a3), (4, ti a4)] rfl ?_
  have E : EndX (G, 8, [(6, b, ad)], h, [s'], h, (some .int), (some (ti r)), yX6_need.name) [(6, b, ad)] 8 (some .int) (some (ti r)) [s'] h := ⟨rfl, rfl, rfl, rfl, rfl, rfl⟩
  unfold fX6_need at e
  refine r_rrs E.p (fun rr => ?_)
  refine r_aload_n dX6_need_0 rfl 0 rfl ?_
  refine r_iload_n dX6_need_1 rfl 1 rfl ?_
  obtain ⟨p1, q2, e⟩ := bd_o e
  have k3 := kX6_isClass (G := G) (b := b) (ad := ad) (h := h) ha1 q2
  have z4 := (k3 rr).1.2.2.2
  refine r_callV (j := some 0) 1 [ti a1] (rec_sg (j := 0) (r := (RX6, TX6, 63)) rfl (by rw [E.p]; rfl)) rfl k3 (injO_1 E.p) (subO_1 E.p) getO_1 setO_1 (lw_V q1698 q1700 qs62 q123 q1701) (by decide +kernel) rfl (Nat.le_of_ble_eq_true rfl) (Nat.le_of_ble_eq_true rfl) rfl (Nat.le_of_ble_eq_true rfl) dX6_need_2 rfl ?_
  have eT := (r_ifo e).1
  have eF := (r_ifo e).2
  refine r_if_eq (rI_z z4) 16 dX6_need_5 (by decide) (fun c5 => ?_) (fun c5 => ?_)
  · have e := eT c5
    refine r_sub [] rfl ?_
    exact wX6_need_b16 E s e
  · have e := eF c5
    refine r_aload_n dX6_need_8 rfl 0 rfl ?_
    refine r_iload_n dX6_need_9 rfl 2 rfl ?_
    obtain ⟨p6, q7, e⟩ := bd_o e
    have k8 := kX6_isFilled (G := G) (b := b) (ad := ad) (h := h) ha2 q7
    have z9 := (k8 rr).1.2.2.2
    refine r_callV (j := some 0) 1 [ti a2] (rec_sg (j := 0) (r := (RX6, TX6, 63)) rfl (by rw [E.p]; rfl)) rfl k8 (injO_1 E.p) (subO_1 E.p) getO_1 setO_1 (lw_V q1849 q1851 qs93 q123 q1852) (by decide +kernel) rfl (Nat.le_of_ble_eq_true rfl) (Nat.le_of_ble_eq_true rfl) rfl (Nat.le_of_ble_eq_true rfl) dX6_need_10 rfl ?_
    have eT := (r_ifo e).1
    have eF := (r_ifo e).2
    refine r_if_ne (rI_z z9) 19 dX6_need_13 (by decide) (fun c10 => ?_) (fun c10 => ?_)
    · have e := eT c10
      refine r_aload_n dX6_need_19 rfl 0 rfl ?_
      refine r_iload_n dX6_need_20 rfl 3 rfl ?_
      obtain ⟨p11, q12, e⟩ := bd_o e
      have k13 := kX6_isClass (G := G) (b := b) (ad := ad) (h := h) ha3 q12
      have z14 := (k13 rr).1.2.2.2
      refine r_callV (j := some 0) 1 [ti a3] (rec_sg (j := 0) (r := (RX6, TX6, 63)) rfl (by rw [E.p]; rfl)) rfl k13 (injO_1 E.p) (subO_1 E.p) getO_1 setO_1 (lw_V q1698 q1700 qs62 q123 q1701) (by decide +kernel) rfl (Nat.le_of_ble_eq_true rfl) (Nat.le_of_ble_eq_true rfl) rfl (Nat.le_of_ble_eq_true rfl) dX6_need_21 rfl ?_
      have eT := (r_ifo e).1
      have eF := (r_ifo e).2
      refine r_if_eq (rI_z z14) 37 dX6_need_24 (by decide) (fun c15 => ?_) (fun c15 => ?_)
      · have e := eT c15
        refine r_sub [] rfl ?_
        exact wX6_need_b37 E s e
      · have e := eF c15
        refine r_iload dX6_need_27 4 rfl ?_
        refine r_iconst dX6_need_29 ?_
        refine r_iconst dX6_need_30 ?_
        obtain ⟨p16, q17, e⟩ := bd_o e
        have k18 := kX6_within (G := G) (h := h) ha4 (by decide) (by decide) q17
        have z19 := (k18 rr.none).1.2.2.2
        refine r_callS (j := none) 3 [ti a4, ti 0, ti 1] k18 (injO_1 E.p) subO_0 getO_0 setO_0 (lw_S q1599 q1600 q123 q1601) (by decide +kernel) rfl (Nat.le_of_ble_eq_true rfl) (Nat.le_of_ble_eq_true rfl) rfl (Nat.le_of_ble_eq_true rfl) dX6_need_31 rfl ?_
        have eT := (r_ifo e).1
        have eF := (r_ifo e).2
        refine r_if_ne (rI_z z19) 40 dX6_need_34 (by decide) (fun c20 => ?_) (fun c20 => ?_)
        · have e := eT c20
          refine r_aload_n dX6_need_40 rfl 0 rfl ?_
          refine r_iload_n dX6_need_41 rfl 2 rfl ?_
          obtain ⟨p21, q22, e⟩ := bd_o e
          have k23 := kX6_laySlot (G := G) (b := b) (ad := ad) (h := h) ha2 q22
          have z24 := (k23 rr).1.2.2.2
          refine r_callV (j := some 0) 1 [ti a2] (rec_sg (j := 0) (r := (RX6, TX6, 63)) rfl (by rw [E.p]; rfl)) rfl k23 (injO_1 E.p) (subO_1 E.p) getO_1 setO_1 (lw_V q1853 q1855 qs94 q123 q1856) (by decide +kernel) rfl (Nat.le_of_ble_eq_true rfl) (Nat.le_of_ble_eq_true rfl) rfl (Nat.le_of_ble_eq_true rfl) dX6_need_42 rfl ?_
          refine r_rrs E.p (fun rr25 => ?_)
          refine r_aload_n dX6_need_45 rfl 0 rfl ?_
          obtain ⟨p26, q27, e⟩ := bd_o e
          have k28 := kX6_layGoals (G := G) (b := b) (ad := ad) (h := h)  q27
          have z29 := (k28 rr25).1.2.2.2
          refine r_callV (j := some 0) 0 [] (rec_sg (j := 0) (r := (RX6, TX6, 63)) rfl (by rw [E.p]; rfl)) rfl k28 (injO_1 E.p) (subO_1 E.p) getO_1 setO_1 (lw_V q1745 q1747 qs71 q123 q1748) (by decide +kernel) rfl (Nat.le_of_ble_eq_true rfl) (Nat.le_of_ble_eq_true rfl) rfl (Nat.le_of_ble_eq_true rfl) dX6_need_46 rfl ?_
          refine r_rrs E.p (fun rr30 => ?_)
          refine r_bipush dX6_need_49 (by decide) ?_
          refine r_iload_n dX6_need_51 rfl 1 rfl ?_
          refine r_imul dX6_need_52 ?_
          refine r_istore (lv' := [(5, ti (wr (9 * a1))), (0, tr (some b)), (1, ti a1), (2, ti a2), (3, ti a3), (4, ti a4)]) dX6_need_53 (E.lt (by decide)) rfl ?_
          refine r_aload_n dX6_need_55 rfl 1 rfl ?_
          refine r_sR E.p 36 fG_X6_89 (by decide) dX6_need_56 ?_
          refine r_iload dX6_need_59 0 rfl ?_
          obtain ⟨g31, e⟩ := gd_o e
          refine r_saI E.p 36 rfl (by decide) (by decide) (wr_r _) g31 rfl dX6_need_61 ?_
          refine r_iconst dX6_need_62 ?_
          have eT := (r_ifo e).1
          have eF := (r_ifo e).2
          refine r_icmp_ne (((rr30.mine rfl).a 36 (by decide) rfl).1 _) (by decide) 76 dX6_need_63 (by decide) (fun c32 => ?_) (fun c32 => ?_)
          · have e := eT c32
            refine r_iconst dX6_need_76 ?_
            refine r_sub [1, 4, 5] rfl ?_
            exact wX6_need_b77 E p26 a3 a4 0 ha3 ha4 (by decide) e
          · have e := eF c32
            refine r_aload_n dX6_need_66 rfl 1 rfl ?_
            refine r_sR E.p 43 fG_X6_110 (by decide) dX6_need_67 ?_
            refine r_iload dX6_need_70 0 rfl ?_
            obtain ⟨g33, e⟩ := gd_o e
            refine r_saI E.p 43 rfl (by decide) (by decide) (wr_r _) g33 rfl dX6_need_72 ?_
            refine r_goto 77 dX6_need_73 (by decide) ?_
            refine r_sub [1, 4, 5] rfl ?_
            exact wX6_need_b77 E p26 a3 a4 (gA p26 43 (wr (9 * a1))) ha3 ha4 (((rr30.mine rfl).a 43 (by decide) rfl).1 _) e
        · have e := eF c20
          refine r_sub [] rfl ?_
          exact wX6_need_b37 E s e
    · have e := eF c10
      refine r_sub [] rfl ?_
      exact wX6_need_b16 E s e
def fX6_see_b72 (s : Sg) (k1 : Int) (k2 : Int) : Option (Int × Sg) := gd (inb k1 6) (some (gI (sI (sA s 18 k1 k2) 15 (wr ((gI (sA s 18 k1 k2) 15) + 1))) 15, sI (sA s 18 k1 k2) 15 (wr ((gI (sA s 18 k1 k2) 15) + 1))))
theorem wX6_see_b72 {N : Nx} {b : Nat} {ad : Nat → Nat} {s' : Sg} {h : hS} {r : Int} (E : EndX N [(6, b, ad)] 4 (some .int) (some (ti r)) [s'] h)  (s : Sg) (k1 : Int) (k2 : Int) (hk1 : rI k1) (hk2 : rI k2) (e : fX6_see_b72 s k1 k2 = some (r, s')) : AtPc cX6_see RX6 2 43 N [s] h 72 [(0, tr (some b))] [ti k2, ti k1, tr (some (ad 18))] := by
  unfold fX6_see_b72 at e
  refine r_rrs E.p (fun rr => ?_)
  obtain ⟨g1, e⟩ := gd_o e
  refine r_saP E.p 18 rfl (by decide) (by decide) hk1 g1 hk2 rfl dX6_see_72 ?_
  refine r_rrs E.p (fun rr2 => ?_)
  refine r_aload_n dX6_see_73 rfl 0 rfl ?_
  refine r_dup dX6_see_74 rfl ?_
  refine r_sI E.p 15 fG_X6_230 (by decide) dX6_see_75 ?_
  refine r_iconst dX6_see_78 ?_
  refine r_iadd dX6_see_79 ?_
  refine r_sPI E.p 15 fP_X6_230 rfl (wr_r _) dX6_see_80 ?_
  refine r_rrs E.p (fun rr3 => ?_)
  refine r_aload_n dX6_see_83 rfl 0 rfl ?_
  refine r_sI E.p 15 fG_X6_230 (by decide) dX6_see_84 ?_
  cases e
  exact r_iret E.σ E.st E.rt E.r ((rr3.mine rfl).i 15 (by decide) (by decide)) dX6_see_87
def fX6_see  (s : Sg) (a1 : Int) (a2 : Int) (a3 : Int) : Option (Int × Sg) := bd (fX6_isInstance s a1) fun p1 => if ¬ p1 = 0 then bd (fX6_within a2 0 3) fun p6 => if ¬ p6 = 0 then if ¬ (gI s 15) = 6 then gd (inb (gI s 15) 6) (gd (inb (gI (sA s 16 (gI s 15) a1) 15) 6) (if a3 = 0 then fX6_see_b72 (sA (sA s 16 (gI s 15) a1) 17 (gI (sA s 16 (gI s 15) a1) 15) a2) (gI (sA (sA s 16 (gI s 15) a1) 17 (gI (sA s 16 (gI s 15) a1) 15) a2) 15) 0 else fX6_see_b72 (sA (sA s 16 (gI s 15) a1) 17 (gI (sA s 16 (gI s 15) a1) 15) a2) (gI (sA (sA s 16 (gI s 15) a1) 17 (gI (sA s 16 (gI s 15) a1) 15) a2) 15) 1)) else some ((-104), s) else some ((-102), s) else some ((-101), s)
theorem kX6_see {G : Gx}  {b : Nat} {ad : Nat → Nat} {s' : Sg} {h : hS} {r : Int} {s : Sg} {a1 : Int} {a2 : Int} {a3 : Int}  (ha1 : rI a1) (ha2 : rI a2) (ha3 : rI a3) (e : fX6_see s a1 a2 a3 = some (r, s')) : CtX G yX6_see cX6_see 4 (some .int) 2 43 [(6, b, ad)] [s] h [tr (some b), ti a1, ti a2, ti a3] (some (ti r)) [s'] h := by
  refine CtX.of (by decide) (Nat.le_of_ble_eq_true rfl) [(0, tr (some b)), (1, ti a1), (2, ti a2), (3, ti a3)] rfl ?_
  have E : EndX (G, 4, [(6, b, ad)], h, [s'], h, (some .int), (some (ti r)), yX6_see.name) [(6, b, ad)] 4 (some .int) (some (ti r)) [s'] h := ⟨rfl, rfl, rfl, rfl, rfl, rfl⟩
  unfold fX6_see at e
  refine r_rrs E.p (fun rr => ?_)
  refine r_aload_n dX6_see_0 rfl 0 rfl ?_
  refine r_iload_n dX6_see_1 rfl 1 rfl ?_
  obtain ⟨p1, q2, e⟩ := bd_o e
  have k3 := kX6_isInstance (G := G) (b := b) (ad := ad) (h := h) ha1 q2
  have z4 := (k3 rr).1.2.2.2
  refine r_callV (j := some 0) 1 [ti a1] (rec_sg (j := 0) (r := (RX6, TX6, 63)) rfl (by rw [E.p]; rfl)) rfl k3 (injO_1 E.p) (subO_1 E.p) getO_1 setO_1 (lw_V q1714 q1716 qs65 q123 q1717) (by decide +kernel) rfl (Nat.le_of_ble_eq_true rfl) (Nat.le_of_ble_eq_true rfl) rfl (Nat.le_of_ble_eq_true rfl) dX6_see_2 rfl ?_
  have eT := (r_ifo e).1
  have eF := (r_ifo e).2
  refine r_if_ne (rI_z z4) 11 dX6_see_5 (by decide) (fun c5 => ?_) (fun c5 => ?_)
  · have e := eT c5
    refine r_iload_n dX6_see_11 rfl 2 rfl ?_
    refine r_iconst dX6_see_12 ?_
    refine r_iconst dX6_see_13 ?_
    obtain ⟨p6, q7, e⟩ := bd_o e
    have k8 := kX6_within (G := G) (h := h) ha2 (by decide) (by decide) q7
    have z9 := (k8 rr.none).1.2.2.2
    refine r_callS (j := none) 3 [ti a2, ti 0, ti 3] k8 (injO_1 E.p) subO_0 getO_0 setO_0 (lw_S q1599 q1600 q123 q1601) (by decide +kernel) rfl (Nat.le_of_ble_eq_true rfl) (Nat.le_of_ble_eq_true rfl) rfl (Nat.le_of_ble_eq_true rfl) dX6_see_14 rfl ?_
    have eT := (r_ifo e).1
    have eF := (r_ifo e).2
    refine r_if_ne (rI_z z9) 23 dX6_see_17 (by decide) (fun c10 => ?_) (fun c10 => ?_)
    · have e := eT c10
      refine r_aload_n dX6_see_23 rfl 0 rfl ?_
      refine r_sI E.p 15 fG_X6_230 (by decide) dX6_see_24 ?_
      refine r_bipush dX6_see_27 (by decide) ?_
      have eT := (r_ifo e).1
      have eF := (r_ifo e).2
      refine r_icmp_ne ((rr.mine rfl).i 15 (by decide) (by decide)) (by decide) 35 dX6_see_29 (by decide) (fun c11 => ?_) (fun c11 => ?_)
      · have e := eT c11
        refine r_aload_n dX6_see_35 rfl 0 rfl ?_
        refine r_sR E.p 16 fG_X6_46 (by decide) dX6_see_36 ?_
        refine r_aload_n dX6_see_39 rfl 0 rfl ?_
        refine r_sI E.p 15 fG_X6_230 (by decide) dX6_see_40 ?_
        refine r_iload_n dX6_see_43 rfl 1 rfl ?_
        obtain ⟨g12, e⟩ := gd_o e
        refine r_saP E.p 16 rfl (by decide) (by decide) ((rr.mine rfl).i 15 (by decide) (by decide)) g12 ha1 rfl dX6_see_44 ?_
        refine r_rrs E.p (fun rr13 => ?_)
        refine r_aload_n dX6_see_45 rfl 0 rfl ?_
        refine r_sR E.p 17 fG_X6_49 (by decide) dX6_see_46 ?_
        refine r_aload_n dX6_see_49 rfl 0 rfl ?_
        refine r_sI E.p 15 fG_X6_230 (by decide) dX6_see_50 ?_
        refine r_iload_n dX6_see_53 rfl 2 rfl ?_
        obtain ⟨g14, e⟩ := gd_o e
        refine r_saP E.p 17 rfl (by decide) (by decide) ((rr13.mine rfl).i 15 (by decide) (by decide)) g14 ha2 rfl dX6_see_54 ?_
        refine r_rrs E.p (fun rr15 => ?_)
        refine r_aload_n dX6_see_55 rfl 0 rfl ?_
        refine r_sR E.p 18 fG_X6_52 (by decide) dX6_see_56 ?_
        refine r_aload_n dX6_see_59 rfl 0 rfl ?_
        refine r_sI E.p 15 fG_X6_230 (by decide) dX6_see_60 ?_
        refine r_iload_n dX6_see_63 rfl 3 rfl ?_
        have eT := (r_ifo e).1
        have eF := (r_ifo e).2
        refine r_if_eq ha3 71 dX6_see_64 (by decide) (fun c16 => ?_) (fun c16 => ?_)
        · have e := eT c16
          refine r_iconst dX6_see_71 ?_
          refine r_sub [0] rfl ?_
          exact wX6_see_b72 E (sA (sA s 16 (gI s 15) a1) 17 (gI (sA s 16 (gI s 15) a1) 15) a2) (gI (sA (sA s 16 (gI s 15) a1) 17 (gI (sA s 16 (gI s 15) a1) 15) a2) 15) 0 ((rr15.mine rfl).i 15 (by decide) (by decide)) (by decide) e
        · have e := eF c16
          refine r_iconst dX6_see_67 ?_
          refine r_goto 72 dX6_see_68 (by decide) ?_
          refine r_sub [0] rfl ?_
          exact wX6_see_b72 E (sA (sA s 16 (gI s 15) a1) 17 (gI (sA s 16 (gI s 15) a1) 15) a2) (gI (sA (sA s 16 (gI s 15) a1) 17 (gI (sA s 16 (gI s 15) a1) 15) a2) 15) 1 ((rr15.mine rfl).i 15 (by decide) (by decide)) (by decide) e
      · have e := eF c11
        refine r_bipush dX6_see_32 (by decide) ?_
        cases e
        exact r_iret E.σ E.st E.rt E.r (by decide) dX6_see_34
    · have e := eF c10
      refine r_bipush dX6_see_20 (by decide) ?_
      cases e
      exact r_iret E.σ E.st E.rt E.r (by decide) dX6_see_22
  · have e := eF c5
    refine r_bipush dX6_see_8 (by decide) ?_
    cases e
    exact r_iret E.σ E.st E.rt E.r (by decide) dX6_see_10
def fX6_forget  (s : Sg) : Option (Int × Sg) := some (gI s 15, sI s 15 0)
theorem kX6_forget {G : Gx}  {b : Nat} {ad : Nat → Nat} {s' : Sg} {h : hS} {r : Int} {s : Sg}    (e : fX6_forget s = some (r, s')) : CtX G yX6_forget cX6_forget 2 (some .int) 0 0 [(6, b, ad)] [s] h [tr (some b)] (some (ti r)) [s'] h := by
  refine CtX.of (by decide) (Nat.le_of_ble_eq_true rfl) [(0, tr (some b))] rfl ?_
  have E : EndX (G, 2, [(6, b, ad)], h, [s'], h, (some .int), (some (ti r)), yX6_forget.name) [(6, b, ad)] 2 (some .int) (some (ti r)) [s'] h := ⟨rfl, rfl, rfl, rfl, rfl, rfl⟩
  unfold fX6_forget at e
  refine r_rrs E.p (fun rr => ?_)
  refine r_aload_n dX6_forget_0 rfl 0 rfl ?_
  refine r_sI E.p 15 fG_X6_230 (by decide) dX6_forget_1 ?_
  refine r_istore_n (lv' := [(1, ti (gI s 15)), (0, tr (some b))]) dX6_forget_4 rfl (E.lt (by decide)) rfl ?_
  refine r_aload_n dX6_forget_5 rfl 1 rfl ?_
  refine r_iconst dX6_forget_6 ?_
  refine r_sPI E.p 15 fP_X6_230 rfl (by decide) dX6_forget_7 ?_
  refine r_rrs E.p (fun rr1 => ?_)
  refine r_iload_n dX6_forget_10 rfl 0 rfl ?_
  cases e
  exact r_iret E.σ E.st E.rt E.r ((rr.mine rfl).i 15 (by decide) (by decide)) dX6_forget_11
theorem fG_X6_385 : FldG RX6 385 [(6, 52)] := List.forall_mem_cons.mpr ⟨⟨RX6, TX6, 63, "DictProofModel", rfl, in_X6, by decide, q1457, Or.inl rfl⟩, fun _ h => absurd h List.not_mem_nil⟩
theorem fP_X6_385 : FldP RX6 385 [(6, 52)] .long false := List.forall_mem_cons.mpr ⟨⟨RX6, TX6, 63, "DictProofModel", tyX6, rfl, in_X6, by decide, q1457, Or.inl rfl, tyX6_ok, nmX6, rfl, Or.inl rfl, by decide⟩, fun _ h => absurd h List.not_mem_nil⟩
def fX6_draw  (s : Sg) (a1 : Int) : Option (Int × Sg) := gd (¬ a1 = 0) (some (wr (lrm (ldv (gI (sI s 52 (land (wl ((wl (1103515245 * (gI s 52))) + 12345)) 2147483647)) 52) 65536) a1), sI s 52 (land (wl ((wl (1103515245 * (gI s 52))) + 12345)) 2147483647)))
theorem kX6_draw {G : Gx}  {b : Nat} {ad : Nat → Nat} {s' : Sg} {h : hS} {r : Int} {s : Sg} {a1 : Int}  (ha1 : rI a1) (e : fX6_draw s a1 = some (r, s')) : CtX G yX6_draw cX6_draw 2 (some .int) 0 0 [(6, b, ad)] [s] h [tr (some b), ti a1] (some (ti r)) [s'] h := by
  refine CtX.of (by decide) (Nat.le_of_ble_eq_true rfl) [(0, tr (some b)), (1, ti a1)] rfl ?_
  have E : EndX (G, 2, [(6, b, ad)], h, [s'], h, (some .int), (some (ti r)), yX6_draw.name) [(6, b, ad)] 2 (some .int) (some (ti r)) [s'] h := ⟨rfl, rfl, rfl, rfl, rfl, rfl⟩
  unfold fX6_draw at e
  refine r_rrs E.p (fun rr => ?_)
  refine r_aload_n dX6_draw_0 rfl 0 rfl ?_
  refine r_ldc2 1103515245 q1913 (by decide) dX6_draw_1 ?_
  refine r_aload_n dX6_draw_4 rfl 0 rfl ?_
  refine r_sL E.p 52 fG_X6_385 rfl dX6_draw_5 ?_
  refine r_lmul dX6_draw_8 ?_
  refine r_ldc2 12345 q1914 (by decide) dX6_draw_9 ?_
  refine r_ladd dX6_draw_12 ?_
  refine r_ldc2 2147483647 q1915 (by decide) dX6_draw_13 ?_
  refine r_land dX6_draw_16 ?_
  refine r_sPL E.p 52 fP_X6_385 rfl (land_r _ _) dX6_draw_17 ?_
  refine r_rrs E.p (fun rr1 => ?_)
  refine r_aload_n dX6_draw_20 rfl 0 rfl ?_
  refine r_sL E.p 52 fG_X6_385 rfl dX6_draw_21 ?_
  refine r_ldc2 65536 q1916 (by decide) dX6_draw_24 ?_
  refine r_ldiv (by decide) (by decide) dX6_draw_27 ?_
  refine r_iload_n dX6_draw_28 rfl 1 rfl ?_
  refine r_i2l ha1 dX6_draw_29 ?_
  obtain ⟨g2, e⟩ := gd_o e
  refine r_lrem (rI_L ha1) g2 dX6_draw_30 ?_
  refine r_l2i dX6_draw_31 ?_
  cases e
  exact r_iret E.σ E.st E.rt E.r (wr_r _) dX6_draw_32
def fX6_letterBy  (a0 : Int) : Option (Int) := if a0 = 0 then some 105 else if a0 = 1 then some 98 else if a0 = 2 then some 108 else some 112
theorem kX6_letterBy {G : Gx}  {h : hS} {r : Int} {a0 : Int}  (ha0 : rI a0) (e : fX6_letterBy a0 = some (r)) : CtX G yX6_letterBy cX6_letterBy 1 (some .int) 0 0 [] [] h [ti a0] (some (ti r)) [] h := by
  refine CtX.of (by decide) (Nat.le_of_ble_eq_true rfl) [(0, ti a0)] rfl ?_
  have E : EndX (G, 1, [], h, [], h, (some .int), (some (ti r)), yX6_letterBy.name) [] 1 (some .int) (some (ti r)) [] h := ⟨rfl, rfl, rfl, rfl, rfl, rfl⟩
  unfold fX6_letterBy at e
  refine r_rrs E.p (fun rr => ?_)
  refine r_iload_n dX6_letterBy_0 rfl 0 rfl ?_
  have eT := (r_ifo e).1
  have eF := (r_ifo e).2
  by_cases c1 : a0 = 0
  · have e := eT c1
    refine r_tswI ha0 dX6_letterBy_1 0 c1 28 (by decide) (by decide) rfl (by decide) ?_
    refine r_bipush dX6_letterBy_28 (by decide) ?_
    cases e
    exact r_iret E.σ E.st E.rt E.r (by decide) dX6_letterBy_30
  · have e := eF c1
    have eT := (r_ifo e).1
    have eF := (r_ifo e).2
    by_cases c2 : a0 = 1
    · have e := eT c2
      refine r_tswI ha0 dX6_letterBy_1 1 c2 31 (by decide) (by decide) rfl (by decide) ?_
      refine r_bipush dX6_letterBy_31 (by decide) ?_
      cases e
      exact r_iret E.σ E.st E.rt E.r (by decide) dX6_letterBy_33
    · have e := eF c2
      have eT := (r_ifo e).1
      have eF := (r_ifo e).2
      by_cases c3 : a0 = 2
      · have e := eT c3
        refine r_tswI ha0 dX6_letterBy_1 2 c3 34 (by decide) (by decide) rfl (by decide) ?_
        refine r_bipush dX6_letterBy_34 (by decide) ?_
        cases e
        exact r_iret E.σ E.st E.rt E.r (by decide) dX6_letterBy_36
      · have e := eF c3
        refine r_tswO ha0 dX6_letterBy_1 37 (by omega) (by decide) ?_
        refine r_bipush dX6_letterBy_37 (by decide) ?_
        cases e
        exact r_iret E.σ E.st E.rt E.r (by decide) dX6_letterBy_39
def fX6_addLetter  (s : Sg) (a1 : Int) : Option (Sg) := gd (inb (gI s 34) 9) (some (sI (sA s 32 (gI s 34) a1) 34 (wr ((gI (sA s 32 (gI s 34) a1) 34) + 1))))
theorem kX6_addLetter {G : Gx}  {b : Nat} {ad : Nat → Nat} {s' : Sg} {h : hS} {s : Sg} {a1 : Int}  (ha1 : rI a1) (e : fX6_addLetter s a1 = some (s')) : CtX G yX6_addLetter cX6_addLetter 2 none 0 0 [(6, b, ad)] [s] h [tr (some b), ti a1] none [s'] h := by
  refine CtX.of (by decide) (Nat.le_of_ble_eq_true rfl) [(0, tr (some b)), (1, ti a1)] rfl ?_
  have E : EndX (G, 2, [(6, b, ad)], h, [s'], h, none, none, yX6_addLetter.name) [(6, b, ad)] 2 none none [s'] h := ⟨rfl, rfl, rfl, rfl, rfl, rfl⟩
  unfold fX6_addLetter at e
  refine r_rrs E.p (fun rr => ?_)
  refine r_aload_n dX6_addLetter_0 rfl 0 rfl ?_
  refine r_sR E.p 32 fG_X6_80 (by decide) dX6_addLetter_1 ?_
  refine r_aload_n dX6_addLetter_4 rfl 0 rfl ?_
  refine r_sI E.p 34 fG_X6_233 (by decide) dX6_addLetter_5 ?_
  refine r_iload_n dX6_addLetter_8 rfl 1 rfl ?_
  obtain ⟨g1, e⟩ := gd_o e
  refine r_saP E.p 32 rfl (by decide) (by decide) ((rr.mine rfl).i 34 (by decide) (by decide)) g1 ha1 rfl dX6_addLetter_9 ?_
  refine r_rrs E.p (fun rr2 => ?_)
  refine r_aload_n dX6_addLetter_10 rfl 0 rfl ?_
  refine r_dup dX6_addLetter_11 rfl ?_
  refine r_sI E.p 34 fG_X6_233 (by decide) dX6_addLetter_12 ?_
  refine r_iconst dX6_addLetter_15 ?_
  refine r_iadd dX6_addLetter_16 ?_
  refine r_sPI E.p 34 fP_X6_233 rfl (wr_r _) dX6_addLetter_17 ?_
  refine r_rrs E.p (fun rr3 => ?_)
  cases e
  exact r_vret E.σ E.st E.rt E.r dX6_addLetter_20
def fX6_drawType_b51 (K29 : Sg → Int → Int → Option (Sg)) (K51 : Sg → Int → Int → Int → Int → Option (Sg)) (s : Sg) (a1 : Int) (a2 : Int) (a3 : Int) (a4 : Int) : Option (Sg) := bd (fX6_wants a3) fun p1 => if p1 ≤ a4 then K29 s a1 (wr (a2 + 1)) else bd (fX6_draw s 2) fun p6 => bd (fX6_letterBy p6.1) fun p11 => bd (fX6_addLetter p6.2 p11) fun p15 => K51 p15 a1 a2 a3 (wr (a4 + 1))
theorem wX6_drawType_b51 {N : Nx} {b : Nat} {ad : Nat → Nat} {s' : Sg} {h : hS} (E : EndX N [(6, b, ad)] 5 none none [s'] h) (K29 : Sg → Int → Int → Option (Sg)) (hK29 : ∀ (s : Sg) (a1 : Int) (a2 : Int) (ha1 : rI a1) (ha2 : rI a2), K29 s a1 a2 = some (s') → AtPc cX6_drawType RX6 2 43 N [s] h 29 [(0, tr (some b)), (1, ti a1), (2, ti a2)] []) (K51 : Sg → Int → Int → Int → Int → Option (Sg)) (hK51 : ∀ (s : Sg) (a1 : Int) (a2 : Int) (a3 : Int) (a4 : Int) (ha1 : rI a1) (ha2 : rI a2) (ha3 : rI a3) (ha4 : rI a4), K51 s a1 a2 a3 a4 = some (s') → AtPc cX6_drawType RX6 2 43 N [s] h 51 [(0, tr (some b)), (1, ti a1), (2, ti a2), (3, ti a3), (4, ti a4)] []) (s : Sg) (a1 : Int) (a2 : Int) (a3 : Int) (a4 : Int) (ha1 : rI a1) (ha2 : rI a2) (ha3 : rI a3) (ha4 : rI a4) (e : fX6_drawType_b51 K29 K51 s a1 a2 a3 a4 = some (s')) : AtPc cX6_drawType RX6 2 43 N [s] h 51 [(0, tr (some b)), (1, ti a1), (2, ti a2), (3, ti a3), (4, ti a4)] [] := by
  unfold fX6_drawType_b51 at e
  refine r_rrs E.p (fun rr => ?_)
  refine r_iload dX6_drawType_51 4 rfl ?_
  refine r_iload_n dX6_drawType_53 rfl 3 rfl ?_
  obtain ⟨p1, q2, e⟩ := bd_o e
  have k3 := kX6_wants (G := nG N) (h := h) ha3 q2
  have z4 := (k3 rr.none).1.2.2.2
  refine r_callS (j := none) 1 [ti a3] k3 (injO_1 E.p) subO_0 getO_0 setO_0 (lw_S q1645 q1646 q123 q1647) (by decide +kernel) rfl (Nat.le_of_ble_eq_true rfl) (Nat.le_of_ble_eq_true rfl) rfl (Nat.le_of_ble_eq_true rfl) dX6_drawType_54 rfl ?_
  have eT := (r_ifo e).1
  have eF := (r_ifo e).2
  refine r_icmp_ge ha4 z4 78 dX6_drawType_57 (by decide) (fun c5 => ?_) (fun c5 => ?_)
  · have e := eT c5
    refine r_iinc (lv' := [(2, ti (wr (a2 + 1))), (0, tr (some b)), (1, ti a1), (3, ti a3), (4, ti a4)]) dX6_drawType_78 2 rfl (E.lt (by decide)) rfl ?_
    refine r_goto 29 dX6_drawType_81 (by decide) ?_
    refine r_sub [1, 2, 0] rfl ?_
    exact hK29 s a1 (wr (a2 + 1)) ha1 (wr_r _) e
  · have e := eF c5
    refine r_aload_n dX6_drawType_60 rfl 0 rfl ?_
    refine r_aload_n dX6_drawType_61 rfl 0 rfl ?_
    refine r_iconst dX6_drawType_62 ?_
    obtain ⟨p6, q7, e⟩ := bd_o e
    have k8 := kX6_draw (G := nG N) (b := b) (ad := ad) (h := h) (by decide) q7
    have z9 := (k8 rr).1.2.2.2
    refine r_callV (j := some 0) 1 [ti 2] (rec_sg (j := 0) (r := (RX6, TX6, 63)) rfl (by rw [E.p]; rfl)) rfl k8 (injO_1 E.p) (subO_1 E.p) getO_1 setO_1 (lw_V q1909 q1911 qs102 q123 q1912) (by decide +kernel) rfl (Nat.le_of_ble_eq_true rfl) (Nat.le_of_ble_eq_true rfl) rfl (Nat.le_of_ble_eq_true rfl) dX6_drawType_63 rfl ?_
    refine r_rrs E.p (fun rr10 => ?_)
    obtain ⟨p11, q12, e⟩ := bd_o e
    have k13 := kX6_letterBy (G := nG N) (h := h) z9 q12
    have z14 := (k13 rr10.none).1.2.2.2
    refine r_callS (j := none) 1 [ti p6.1] k13 (injO_1 E.p) subO_0 getO_0 setO_0 (lw_S q1921 q1922 q123 q1923) (by decide +kernel) rfl (Nat.le_of_ble_eq_true rfl) (Nat.le_of_ble_eq_true rfl) rfl (Nat.le_of_ble_eq_true rfl) dX6_drawType_66 rfl ?_
    obtain ⟨p15, q16, e⟩ := bd_o e
    have k17 := kX6_addLetter (G := nG N) (b := b) (ad := ad) (h := h) z14 q16
    have z18 := (k17 rr10).1.2.2.2
    refine r_callV (j := some 0) 1 [ti p11] (rec_sg (j := 0) (r := (RX6, TX6, 63)) rfl (by rw [E.p]; rfl)) rfl k17 (injO_1 E.p) (subO_1 E.p) getO_1 setO_1 (lw_V q1924 q1926 qs104 q123 q1927) (by decide +kernel) rfl (Nat.le_of_ble_eq_true rfl) (Nat.le_of_ble_eq_true rfl) rfl (Nat.le_of_ble_eq_true rfl) dX6_drawType_69 rfl ?_
    refine r_rrs E.p (fun rr19 => ?_)
    refine r_iinc (lv' := [(4, ti (wr (a4 + 1))), (0, tr (some b)), (1, ti a1), (2, ti a2), (3, ti a3)]) dX6_drawType_72 4 rfl (E.lt (by decide)) rfl ?_
    refine r_goto 51 dX6_drawType_75 (by decide) ?_
    refine r_sub [1, 2, 3, 4, 0] rfl ?_
    exact hK51 p15 a1 a2 a3 (wr (a4 + 1)) ha1 ha2 ha3 (wr_r _) e
def fX6_drawType_L51 (K29 : Sg → Int → Int → Option (Sg)) : Nat → Sg → Int → Int → Int → Int → Option (Sg)
  | 0, _, _, _, _, _ => none
  | n9 + 1, s, a1, a2, a3, a4 => fX6_drawType_b51 K29 (fX6_drawType_L51 K29 n9) s a1 a2 a3 a4
theorem wX6_drawType_L51 {N : Nx} {b : Nat} {ad : Nat → Nat} {s' : Sg} {h : hS} (E : EndX N [(6, b, ad)] 5 none none [s'] h) (K29 : Sg → Int → Int → Option (Sg)) (hK29 : ∀ (s : Sg) (a1 : Int) (a2 : Int) (ha1 : rI a1) (ha2 : rI a2), K29 s a1 a2 = some (s') → AtPc cX6_drawType RX6 2 43 N [s] h 29 [(0, tr (some b)), (1, ti a1), (2, ti a2)] []) : ∀ (n9 : Nat), ∀ (s : Sg) (a1 : Int) (a2 : Int) (a3 : Int) (a4 : Int) (ha1 : rI a1) (ha2 : rI a2) (ha3 : rI a3) (ha4 : rI a4), fX6_drawType_L51 K29 n9 s a1 a2 a3 a4 = some (s') → AtPc cX6_drawType RX6 2 43 N [s] h 51 [(0, tr (some b)), (1, ti a1), (2, ti a2), (3, ti a3), (4, ti a4)] [] := by
  intro n9
  induction n9 with
  | zero => intro s a1 a2 a3 a4 ha1 ha2 ha3 ha4 e; cases e
  | succ n9 ih => intro s a1 a2 a3 a4 ha1 ha2 ha3 ha4 e; exact wX6_drawType_b51 E K29 hK29 _ ih s a1 a2 a3 a4 ha1 ha2 ha3 ha4 e
def fX6_drawType_b29 (K29 : Sg → Int → Int → Option (Sg)) (s : Sg) (a1 : Int) (a2 : Int) : Option (Sg) := if a1 ≤ a2 then bd (fX6_laySizes s) fun p2 => some p2 else bd (fX6_draw s 4) fun p7 => bd (fX6_letterBy p7.1) fun p12 => bd (fX6_addLetter p7.2 p12) fun p16 => fX6_drawType_L51 K29 FU p16 a1 a2 p12 0
theorem wX6_drawType_b29 {N : Nx} {b : Nat} {ad : Nat → Nat} {s' : Sg} {h : hS} (E : EndX N [(6, b, ad)] 5 none none [s'] h) (K29 : Sg → Int → Int → Option (Sg)) (hK29 : ∀ (s : Sg) (a1 : Int) (a2 : Int) (ha1 : rI a1) (ha2 : rI a2), K29 s a1 a2 = some (s') → AtPc cX6_drawType RX6 2 43 N [s] h 29 [(0, tr (some b)), (1, ti a1), (2, ti a2)] []) (s : Sg) (a1 : Int) (a2 : Int) (ha1 : rI a1) (ha2 : rI a2) (e : fX6_drawType_b29 K29 s a1 a2 = some (s')) : AtPc cX6_drawType RX6 2 43 N [s] h 29 [(0, tr (some b)), (1, ti a1), (2, ti a2)] [] := by
  unfold fX6_drawType_b29 at e
  refine r_rrs E.p (fun rr => ?_)
  refine r_iload_n dX6_drawType_29 rfl 2 rfl ?_
  refine r_iload_n dX6_drawType_30 rfl 1 rfl ?_
  have eT := (r_ifo e).1
  have eF := (r_ifo e).2
  refine r_icmp_ge ha2 ha1 84 dX6_drawType_31 (by decide) (fun c1 => ?_) (fun c1 => ?_)
  · have e := eT c1
    refine r_aload_n dX6_drawType_84 rfl 0 rfl ?_
    obtain ⟨p2, q3, e⟩ := bd_o e
    have k4 := kX6_laySizes (G := nG N) (b := b) (ad := ad) (h := h)  q3
    have z5 := (k4 rr).1.2.2.2
    refine r_callV (j := some 0) 0 [] (rec_sg (j := 0) (r := (RX6, TX6, 63)) rfl (by rw [E.p]; rfl)) rfl k4 (injO_1 E.p) (subO_1 E.p) getO_1 setO_1 (lw_V q1678 q1680 qs59 q123 q1681) (by decide +kernel) rfl (Nat.le_of_ble_eq_true rfl) (Nat.le_of_ble_eq_true rfl) rfl (Nat.le_of_ble_eq_true rfl) dX6_drawType_85 rfl ?_
    refine r_rrs E.p (fun rr6 => ?_)
    cases e
    exact r_vret E.σ E.st E.rt E.r dX6_drawType_88
  · have e := eF c1
    refine r_aload_n dX6_drawType_34 rfl 0 rfl ?_
    refine r_iconst dX6_drawType_35 ?_
    obtain ⟨p7, q8, e⟩ := bd_o e
    have k9 := kX6_draw (G := nG N) (b := b) (ad := ad) (h := h) (by decide) q8
    have z10 := (k9 rr).1.2.2.2
    refine r_callV (j := some 0) 1 [ti 4] (rec_sg (j := 0) (r := (RX6, TX6, 63)) rfl (by rw [E.p]; rfl)) rfl k9 (injO_1 E.p) (subO_1 E.p) getO_1 setO_1 (lw_V q1909 q1911 qs102 q123 q1912) (by decide +kernel) rfl (Nat.le_of_ble_eq_true rfl) (Nat.le_of_ble_eq_true rfl) rfl (Nat.le_of_ble_eq_true rfl) dX6_drawType_36 rfl ?_
    refine r_rrs E.p (fun rr11 => ?_)
    obtain ⟨p12, q13, e⟩ := bd_o e
    have k14 := kX6_letterBy (G := nG N) (h := h) z10 q13
    have z15 := (k14 rr11.none).1.2.2.2
    refine r_callS (j := none) 1 [ti p7.1] k14 (injO_1 E.p) subO_0 getO_0 setO_0 (lw_S q1921 q1922 q123 q1923) (by decide +kernel) rfl (Nat.le_of_ble_eq_true rfl) (Nat.le_of_ble_eq_true rfl) rfl (Nat.le_of_ble_eq_true rfl) dX6_drawType_39 rfl ?_
    refine r_istore_n (lv' := [(3, ti p12), (0, tr (some b)), (1, ti a1), (2, ti a2)]) dX6_drawType_42 rfl (E.lt (by decide)) rfl ?_
    refine r_aload_n dX6_drawType_43 rfl 1 rfl ?_
    refine r_iload_n dX6_drawType_44 rfl 0 rfl ?_
    obtain ⟨p16, q17, e⟩ := bd_o e
    have k18 := kX6_addLetter (G := nG N) (b := b) (ad := ad) (h := h) z15 q17
    have z19 := (k18 rr11).1.2.2.2
    refine r_callV (j := some 0) 1 [ti p12] (rec_sg (j := 0) (r := (RX6, TX6, 63)) rfl (by rw [E.p]; rfl)) rfl k18 (injO_1 E.p) (subO_1 E.p) getO_1 setO_1 (lw_V q1924 q1926 qs104 q123 q1927) (by decide +kernel) rfl (Nat.le_of_ble_eq_true rfl) (Nat.le_of_ble_eq_true rfl) rfl (Nat.le_of_ble_eq_true rfl) dX6_drawType_45 rfl ?_
    refine r_rrs E.p (fun rr20 => ?_)
    refine r_iconst dX6_drawType_48 ?_
    refine r_istore (lv' := [(4, ti 0), (3, ti p12), (0, tr (some b)), (1, ti a1), (2, ti a2)]) dX6_drawType_49 (E.lt (by decide)) rfl ?_
    refine r_sub [2, 3, 4, 1, 0] rfl ?_
    exact wX6_drawType_L51 E K29 hK29 FU p16 a1 a2 p12 0 ha1 ha2 z15 (by decide) e
def fX6_drawType_L29  : Nat → Sg → Int → Int → Option (Sg)
  | 0, _, _, _ => none
  | n9 + 1, s, a1, a2 => fX6_drawType_b29 (fX6_drawType_L29 n9) s a1 a2
theorem wX6_drawType_L29 {N : Nx} {b : Nat} {ad : Nat → Nat} {s' : Sg} {h : hS} (E : EndX N [(6, b, ad)] 5 none none [s'] h)  : ∀ (n9 : Nat), ∀ (s : Sg) (a1 : Int) (a2 : Int) (ha1 : rI a1) (ha2 : rI a2), fX6_drawType_L29 n9 s a1 a2 = some (s') → AtPc cX6_drawType RX6 2 43 N [s] h 29 [(0, tr (some b)), (1, ti a1), (2, ti a2)] [] := by
  intro n9
  induction n9 with
  | zero => intro s a1 a2 ha1 ha2 e; cases e
  | succ n9 ih => intro s a1 a2 ha1 ha2 e; exact wX6_drawType_b29 E _ ih s a1 a2 ha1 ha2 e
def fX6_drawType  (s : Sg) : Option (Sg) := bd (fX6_draw (sI s 34 0) 4) fun p2 => bd (fX6_letterBy p2.1) fun p7 => bd (fX6_addLetter p2.2 p7) fun p11 => bd (fX6_wants (gA p11 32 0)) fun p16 => fX6_drawType_L29 FU p11 p16 0
theorem kX6_drawType {G : Gx}  {b : Nat} {ad : Nat → Nat} {s' : Sg} {h : hS} {s : Sg}    (e : fX6_drawType s = some (s')) : CtX G yX6_drawType cX6_drawType 5 none 2 43 [(6, b, ad)] [s] h [tr (some b)] none [s'] h := by
  refine CtX.of (by decide) (Nat.le_of_ble_eq_true rfl) [(0, tr (some b))] rfl ?_
  have E : EndX (G, 5, [(6, b, ad)], h, [s'], h, none, none, yX6_drawType.name) [(6, b, ad)] 5 none none [s'] h := ⟨rfl, rfl, rfl, rfl, rfl, rfl⟩
  unfold fX6_drawType at e
  refine r_rrs E.p (fun rr => ?_)
  refine r_aload_n dX6_drawType_0 rfl 0 rfl ?_
  refine r_iconst dX6_drawType_1 ?_
  refine r_sPI E.p 34 fP_X6_233 rfl (by decide) dX6_drawType_2 ?_
  refine r_rrs E.p (fun rr1 => ?_)
  refine r_aload_n dX6_drawType_5 rfl 0 rfl ?_
  refine r_aload_n dX6_drawType_6 rfl 0 rfl ?_
  refine r_iconst dX6_drawType_7 ?_
  obtain ⟨p2, q3, e⟩ := bd_o e
  have k4 := kX6_draw (G := G) (b := b) (ad := ad) (h := h) (by decide) q3
  have z5 := (k4 rr1).1.2.2.2
  refine r_callV (j := some 0) 1 [ti 4] (rec_sg (j := 0) (r := (RX6, TX6, 63)) rfl (by rw [E.p]; rfl)) rfl k4 (injO_1 E.p) (subO_1 E.p) getO_1 setO_1 (lw_V q1909 q1911 qs102 q123 q1912) (by decide +kernel) rfl (Nat.le_of_ble_eq_true rfl) (Nat.le_of_ble_eq_true rfl) rfl (Nat.le_of_ble_eq_true rfl) dX6_drawType_8 rfl ?_
  refine r_rrs E.p (fun rr6 => ?_)
  obtain ⟨p7, q8, e⟩ := bd_o e
  have k9 := kX6_letterBy (G := G) (h := h) z5 q8
  have z10 := (k9 rr6.none).1.2.2.2
  refine r_callS (j := none) 1 [ti p2.1] k9 (injO_1 E.p) subO_0 getO_0 setO_0 (lw_S q1921 q1922 q123 q1923) (by decide +kernel) rfl (Nat.le_of_ble_eq_true rfl) (Nat.le_of_ble_eq_true rfl) rfl (Nat.le_of_ble_eq_true rfl) dX6_drawType_11 rfl ?_
  obtain ⟨p11, q12, e⟩ := bd_o e
  have k13 := kX6_addLetter (G := G) (b := b) (ad := ad) (h := h) z10 q12
  have z14 := (k13 rr6).1.2.2.2
  refine r_callV (j := some 0) 1 [ti p7] (rec_sg (j := 0) (r := (RX6, TX6, 63)) rfl (by rw [E.p]; rfl)) rfl k13 (injO_1 E.p) (subO_1 E.p) getO_1 setO_1 (lw_V q1924 q1926 qs104 q123 q1927) (by decide +kernel) rfl (Nat.le_of_ble_eq_true rfl) (Nat.le_of_ble_eq_true rfl) rfl (Nat.le_of_ble_eq_true rfl) dX6_drawType_14 rfl ?_
  refine r_rrs E.p (fun rr15 => ?_)
  refine r_aload_n dX6_drawType_17 rfl 0 rfl ?_
  refine r_sR E.p 32 fG_X6_80 (by decide) dX6_drawType_18 ?_
  refine r_iconst dX6_drawType_21 ?_
  refine r_saI E.p 32 rfl (by decide) (by decide) (by decide) (by decide) rfl dX6_drawType_22 ?_
  obtain ⟨p16, q17, e⟩ := bd_o e
  have k18 := kX6_wants (G := G) (h := h) (((rr15.mine rfl).a 32 (by decide) rfl).1 _) q17
  have z19 := (k18 rr15.none).1.2.2.2
  refine r_callS (j := none) 1 [ti (gA p11 32 0)] k18 (injO_1 E.p) subO_0 getO_0 setO_0 (lw_S q1645 q1646 q123 q1647) (by decide +kernel) rfl (Nat.le_of_ble_eq_true rfl) (Nat.le_of_ble_eq_true rfl) rfl (Nat.le_of_ble_eq_true rfl) dX6_drawType_23 rfl ?_
  refine r_istore_n (lv' := [(1, ti p16), (0, tr (some b))]) dX6_drawType_26 rfl (E.lt (by decide)) rfl ?_
  refine r_iconst dX6_drawType_27 ?_
  refine r_istore_n (lv' := [(2, ti 0), (1, ti p16), (0, tr (some b))]) dX6_drawType_28 rfl (E.lt (by decide)) rfl ?_
  refine r_sub [2, 1, 0] rfl ?_
  exact wX6_drawType_L29 E FU p11 p16 0 z19 (by decide) e
def fX6_drawnNow_b60 (K15 : Sg → Int → Int → Int → Int → Int → Option (Int × Sg)) (s : Sg) (a1 : Int) (a3 : Int) (a5 : Int) (a6 : Int) (k0 : Int) (k1 : Int) : Option (Int × Sg) := K15 s a1 a3 (wr (k0 + k1)) (wr (a5 + (gI s 34))) (wr (a6 + 1))
theorem wX6_drawnNow_b60 {N : Nx} {b : Nat} {ad : Nat → Nat} {s' : Sg} {h : hS} {r : Int} (E : EndX N [(6, b, ad)] 8 (some .int) (some (ti r)) [s'] h) (K15 : Sg → Int → Int → Int → Int → Int → Option (Int × Sg)) (hK15 : ∀ (s : Sg) (a1 : Int) (a3 : Int) (a4 : Int) (a5 : Int) (a6 : Int) (ha1 : rI a1) (ha3 : rI a3) (ha4 : rI a4) (ha5 : rI a5) (ha6 : rI a6), K15 s a1 a3 a4 a5 a6 = some (r, s') → AtPc cX6_drawnNow RX6 6 146 N [s] h 15 [(0, tr (some b)), (1, ti a1), (3, ti a3), (4, ti a4), (5, ti a5), (6, ti a6)] []) (s : Sg) (a1 : Int) (a3 : Int) (a5 : Int) (a6 : Int) (k0 : Int) (k1 : Int) (ha1 : rI a1) (ha3 : rI a3) (ha5 : rI a5) (ha6 : rI a6) (hk0 : rI k0) (hk1 : rI k1) (e : fX6_drawnNow_b60 K15 s a1 a3 a5 a6 k0 k1 = some (r, s')) : AtPc cX6_drawnNow RX6 6 146 N [s] h 60 [(0, tr (some b)), (1, ti a1), (3, ti a3), (5, ti a5), (6, ti a6)] [ti k1, ti k0] := by
  unfold fX6_drawnNow_b60 at e
  refine r_rrs E.p (fun rr => ?_)
  refine r_iadd dX6_drawnNow_60 ?_
  refine r_istore (lv' := [(4, ti (wr (k0 + k1))), (0, tr (some b)), (1, ti a1), (3, ti a3), (5, ti a5), (6, ti a6)]) dX6_drawnNow_61 (E.lt (by decide)) rfl ?_
  refine r_iload dX6_drawnNow_63 4 rfl ?_
  refine r_aload_n dX6_drawnNow_65 rfl 1 rfl ?_
  refine r_sI E.p 34 fG_X6_233 (by decide) dX6_drawnNow_66 ?_
  refine r_iadd dX6_drawnNow_69 ?_
  refine r_istore (lv' := [(5, ti (wr (a5 + (gI s 34)))), (4, ti (wr (k0 + k1))), (0, tr (some b)), (1, ti a1), (3, ti a3), (6, ti a6)]) dX6_drawnNow_70 (E.lt (by decide)) rfl ?_
  refine r_iinc (lv' := [(6, ti (wr (a6 + 1))), (5, ti (wr (a5 + (gI s 34)))), (4, ti (wr (k0 + k1))), (0, tr (some b)), (1, ti a1), (3, ti a3)]) dX6_drawnNow_72 5 rfl (E.lt (by decide)) rfl ?_
  refine r_goto 15 dX6_drawnNow_75 (by decide) ?_
  refine r_sub [3, 4, 5, 2, 1, 0] rfl ?_
  exact hK15 s a1 a3 (wr (k0 + k1)) (wr (a5 + (gI s 34))) (wr (a6 + 1)) ha1 ha3 (wr_r _) (wr_r _) (wr_r _) e
def fX6_drawnNow_b102 (s : Sg) (k0 : Int) : Option (Int × Sg) := some (k0, s)
theorem wX6_drawnNow_b102 {N : Nx} {b : Nat} {ad : Nat → Nat} {s' : Sg} {h : hS} {r : Int} (E : EndX N [(6, b, ad)] 8 (some .int) (some (ti r)) [s'] h)  (s : Sg) (k0 : Int) (hk0 : rI k0) (e : fX6_drawnNow_b102 s k0 = some (r, s')) : AtPc cX6_drawnNow RX6 6 146 N [s] h 102 [] [ti k0] := by
  unfold fX6_drawnNow_b102 at e
  refine r_rrs E.p (fun rr => ?_)
  cases e
  exact r_iret E.σ E.st E.rt E.r hk0 dX6_drawnNow_102
def fX6_drawnNow_b15 (K15 : Sg → Int → Int → Int → Int → Int → Option (Int × Sg)) (s : Sg) (a1 : Int) (a3 : Int) (a4 : Int) (a5 : Int) (a6 : Int) : Option (Int × Sg) := if a1 ≤ a6 then if ¬ a3 = 0 then if ¬ a3 = 1 then fX6_drawnNow_b102 s (wr (gI s 52)) else fX6_drawnNow_b102 s a5 else fX6_drawnNow_b102 s a4 else bd (fX6_draw s (gI s 1)) fun p4 => bd (fX6_drawType p4.2) fun p9 => bd (fX6_layGoals p9) fun p14 => gd (inb (wr (9 * p4.1)) 36) (if ¬ (gA p14 36 (wr (9 * p4.1))) = 1 then fX6_drawnNow_b60 K15 p14 a1 a3 a5 a6 a4 0 else fX6_drawnNow_b60 K15 p14 a1 a3 a5 a6 a4 1)
theorem wX6_drawnNow_b15 {N : Nx} {b : Nat} {ad : Nat → Nat} {s' : Sg} {h : hS} {r : Int} (E : EndX N [(6, b, ad)] 8 (some .int) (some (ti r)) [s'] h) (K15 : Sg → Int → Int → Int → Int → Int → Option (Int × Sg)) (hK15 : ∀ (s : Sg) (a1 : Int) (a3 : Int) (a4 : Int) (a5 : Int) (a6 : Int) (ha1 : rI a1) (ha3 : rI a3) (ha4 : rI a4) (ha5 : rI a5) (ha6 : rI a6), K15 s a1 a3 a4 a5 a6 = some (r, s') → AtPc cX6_drawnNow RX6 6 146 N [s] h 15 [(0, tr (some b)), (1, ti a1), (3, ti a3), (4, ti a4), (5, ti a5), (6, ti a6)] []) (s : Sg) (a1 : Int) (a3 : Int) (a4 : Int) (a5 : Int) (a6 : Int) (ha1 : rI a1) (ha3 : rI a3) (ha4 : rI a4) (ha5 : rI a5) (ha6 : rI a6) (e : fX6_drawnNow_b15 K15 s a1 a3 a4 a5 a6 = some (r, s')) : AtPc cX6_drawnNow RX6 6 146 N [s] h 15 [(0, tr (some b)), (1, ti a1), (3, ti a3), (4, ti a4), (5, ti a5), (6, ti a6)] [] := by
  unfold fX6_drawnNow_b15 at e
  refine r_rrs E.p (fun rr => ?_)
  refine r_iload dX6_drawnNow_15 5 rfl ?_
  refine r_iload_n dX6_drawnNow_17 rfl 1 rfl ?_
  have eT := (r_ifo e).1
  have eF := (r_ifo e).2
  refine r_icmp_ge ha6 ha1 78 dX6_drawnNow_18 (by decide) (fun c1 => ?_) (fun c1 => ?_)
  · have e := eT c1
    refine r_iload_n dX6_drawnNow_78 rfl 2 rfl ?_
    have eT := (r_ifo e).1
    have eF := (r_ifo e).2
    refine r_if_ne ha3 87 dX6_drawnNow_79 (by decide) (fun c2 => ?_) (fun c2 => ?_)
    · have e := eT c2
      refine r_iload_n dX6_drawnNow_87 rfl 2 rfl ?_
      refine r_iconst dX6_drawnNow_88 ?_
      have eT := (r_ifo e).1
      have eF := (r_ifo e).2
      refine r_icmp_ne ha3 (by decide) 97 dX6_drawnNow_89 (by decide) (fun c3 => ?_) (fun c3 => ?_)
      · have e := eT c3
        refine r_aload_n dX6_drawnNow_97 rfl 0 rfl ?_
        refine r_sL E.p 52 fG_X6_385 rfl dX6_drawnNow_98 ?_
        refine r_l2i dX6_drawnNow_101 ?_
        refine r_sub [] rfl ?_
        exact wX6_drawnNow_b102 E s (wr (gI s 52)) (wr_r _) e
      · have e := eF c3
        refine r_iload dX6_drawnNow_92 4 rfl ?_
        refine r_goto 102 dX6_drawnNow_94 (by decide) ?_
        refine r_sub [] rfl ?_
        exact wX6_drawnNow_b102 E s a5 ha5 e
    · have e := eF c2
      refine r_iload dX6_drawnNow_82 3 rfl ?_
      refine r_goto 102 dX6_drawnNow_84 (by decide) ?_
      refine r_sub [] rfl ?_
      exact wX6_drawnNow_b102 E s a4 ha4 e
  · have e := eF c1
    refine r_aload_n dX6_drawnNow_21 rfl 0 rfl ?_
    refine r_aload_n dX6_drawnNow_22 rfl 0 rfl ?_
    refine r_sI E.p 1 fG_X6_211 (by decide) dX6_drawnNow_23 ?_
    obtain ⟨p4, q5, e⟩ := bd_o e
    have k6 := kX6_draw (G := nG N) (b := b) (ad := ad) (h := h) ((rr.mine rfl).i 1 (by decide) (by decide)) q5
    have z7 := (k6 rr).1.2.2.2
    refine r_callV (j := some 0) 1 [ti (gI s 1)] (rec_sg (j := 0) (r := (RX6, TX6, 63)) rfl (by rw [E.p]; rfl)) rfl k6 (injO_1 E.p) (subO_1 E.p) getO_1 setO_1 (lw_V q1909 q1911 qs102 q123 q1912) (by decide +kernel) rfl (Nat.le_of_ble_eq_true rfl) (Nat.le_of_ble_eq_true rfl) rfl (Nat.le_of_ble_eq_true rfl) dX6_drawnNow_26 rfl ?_
    refine r_rrs E.p (fun rr8 => ?_)
    refine r_istore (lv' := [(7, ti p4.1), (0, tr (some b)), (1, ti a1), (3, ti a3), (4, ti a4), (5, ti a5), (6, ti a6)]) dX6_drawnNow_29 (E.lt (by decide)) rfl ?_
    refine r_aload_n dX6_drawnNow_31 rfl 1 rfl ?_
    obtain ⟨p9, q10, e⟩ := bd_o e
    have k11 := kX6_drawType (G := nG N) (b := b) (ad := ad) (h := h)  q10
    have z12 := (k11 rr8).1.2.2.2
    refine r_callV (j := some 0) 0 [] (rec_sg (j := 0) (r := (RX6, TX6, 63)) rfl (by rw [E.p]; rfl)) rfl k11 (injO_1 E.p) (subO_1 E.p) getO_1 setO_1 (lw_V q1917 q1919 qs103 q123 q1920) (by decide +kernel) rfl (Nat.le_of_ble_eq_true rfl) (Nat.le_of_ble_eq_true rfl) rfl (Nat.le_of_ble_eq_true rfl) dX6_drawnNow_32 rfl ?_
    refine r_rrs E.p (fun rr13 => ?_)
    refine r_aload_n dX6_drawnNow_35 rfl 1 rfl ?_
    obtain ⟨p14, q15, e⟩ := bd_o e
    have k16 := kX6_layGoals (G := nG N) (b := b) (ad := ad) (h := h)  q15
    have z17 := (k16 rr13).1.2.2.2
    refine r_callV (j := some 0) 0 [] (rec_sg (j := 0) (r := (RX6, TX6, 63)) rfl (by rw [E.p]; rfl)) rfl k16 (injO_1 E.p) (subO_1 E.p) getO_1 setO_1 (lw_V q1745 q1747 qs71 q123 q1748) (by decide +kernel) rfl (Nat.le_of_ble_eq_true rfl) (Nat.le_of_ble_eq_true rfl) rfl (Nat.le_of_ble_eq_true rfl) dX6_drawnNow_36 rfl ?_
    refine r_rrs E.p (fun rr18 => ?_)
    refine r_iload dX6_drawnNow_39 4 rfl ?_
    refine r_aload_n dX6_drawnNow_41 rfl 1 rfl ?_
    refine r_sR E.p 36 fG_X6_89 (by decide) dX6_drawnNow_42 ?_
    refine r_bipush dX6_drawnNow_45 (by decide) ?_
    refine r_iload dX6_drawnNow_47 0 rfl ?_
    refine r_imul dX6_drawnNow_49 ?_
    obtain ⟨g19, e⟩ := gd_o e
    refine r_saI E.p 36 rfl (by decide) (by decide) (wr_r _) g19 rfl dX6_drawnNow_50 ?_
    refine r_iconst dX6_drawnNow_51 ?_
    have eT := (r_ifo e).1
    have eF := (r_ifo e).2
    refine r_icmp_ne (((rr18.mine rfl).a 36 (by decide) rfl).1 _) (by decide) 59 dX6_drawnNow_52 (by decide) (fun c20 => ?_) (fun c20 => ?_)
    · have e := eT c20
      refine r_iconst dX6_drawnNow_59 ?_
      refine r_sub [1, 2, 3, 5, 6] rfl ?_
      exact wX6_drawnNow_b60 E K15 hK15 p14 a1 a3 a5 a6 a4 0 ha1 ha3 ha5 ha6 ha4 (by decide) e
    · have e := eF c20
      refine r_iconst dX6_drawnNow_55 ?_
      refine r_goto 60 dX6_drawnNow_56 (by decide) ?_
      refine r_sub [1, 2, 3, 5, 6] rfl ?_
      exact wX6_drawnNow_b60 E K15 hK15 p14 a1 a3 a5 a6 a4 1 ha1 ha3 ha5 ha6 ha4 (by decide) e
def fX6_drawnNow_L15  : Nat → Sg → Int → Int → Int → Int → Int → Option (Int × Sg)
  | 0, _, _, _, _, _, _ => none
  | n9 + 1, s, a1, a3, a4, a5, a6 => fX6_drawnNow_b15 (fX6_drawnNow_L15 n9) s a1 a3 a4 a5 a6
theorem wX6_drawnNow_L15 {N : Nx} {b : Nat} {ad : Nat → Nat} {s' : Sg} {h : hS} {r : Int} (E : EndX N [(6, b, ad)] 8 (some .int) (some (ti r)) [s'] h)  : ∀ (n9 : Nat), ∀ (s : Sg) (a1 : Int) (a3 : Int) (a4 : Int) (a5 : Int) (a6 : Int) (ha1 : rI a1) (ha3 : rI a3) (ha4 : rI a4) (ha5 : rI a5) (ha6 : rI a6), fX6_drawnNow_L15 n9 s a1 a3 a4 a5 a6 = some (r, s') → AtPc cX6_drawnNow RX6 6 146 N [s] h 15 [(0, tr (some b)), (1, ti a1), (3, ti a3), (4, ti a4), (5, ti a5), (6, ti a6)] [] := by
  intro n9
  induction n9 with
  | zero => intro s a1 a3 a4 a5 a6 ha1 ha3 ha4 ha5 ha6 e; cases e
  | succ n9 ih => intro s a1 a3 a4 a5 a6 ha1 ha3 ha4 ha5 ha6 e; exact wX6_drawnNow_b15 E _ ih s a1 a3 a4 a5 a6 ha1 ha3 ha4 ha5 ha6 e
def fX6_drawnNow  (s : Sg) (a1 : Int) (a2 : Int) (a3 : Int) : Option (Int × Sg) := fX6_drawnNow_L15 FU (sI s 52 a2) a1 a3 0 0 0
theorem kX6_drawnNow {G : Gx}  {b : Nat} {ad : Nat → Nat} {s' : Sg} {h : hS} {r : Int} {s : Sg} {a1 : Int} {a2 : Int} {a3 : Int}  (ha1 : rI a1) (ha2 : rI a2) (ha3 : rI a3) (e : fX6_drawnNow s a1 a2 a3 = some (r, s')) : CtX G yX6_drawnNow cX6_drawnNow 8 (some .int) 6 146 [(6, b, ad)] [s] h [tr (some b), ti a1, ti a2, ti a3] (some (ti r)) [s'] h := by
  refine CtX.of (by decide) (Nat.le_of_ble_eq_true rfl) [(0, tr (some b)), (1, ti a1), (2, ti a2), (3, ti a3)] rfl ?_
  have E : EndX (G, 8, [(6, b, ad)], h, [s'], h, (some .int), (some (ti r)), yX6_drawnNow.name) [(6, b, ad)] 8 (some .int) (some (ti r)) [s'] h := ⟨rfl, rfl, rfl, rfl, rfl, rfl⟩
  unfold fX6_drawnNow at e
  refine r_rrs E.p (fun rr => ?_)
  refine r_aload_n dX6_drawnNow_0 rfl 0 rfl ?_
  refine r_iload_n dX6_drawnNow_1 rfl 2 rfl ?_
  refine r_i2l ha2 dX6_drawnNow_2 ?_
  refine r_sPL E.p 52 fP_X6_385 rfl (rI_L ha2) dX6_drawnNow_3 ?_
  refine r_rrs E.p (fun rr1 => ?_)
  refine r_iconst dX6_drawnNow_6 ?_
  refine r_istore (lv' := [(4, ti 0), (0, tr (some b)), (1, ti a1), (2, ti a2), (3, ti a3)]) dX6_drawnNow_7 (E.lt (by decide)) rfl ?_
  refine r_iconst dX6_drawnNow_9 ?_
  refine r_istore (lv' := [(5, ti 0), (4, ti 0), (0, tr (some b)), (1, ti a1), (2, ti a2), (3, ti a3)]) dX6_drawnNow_10 (E.lt (by decide)) rfl ?_
  refine r_iconst dX6_drawnNow_12 ?_
  refine r_istore (lv' := [(6, ti 0), (5, ti 0), (4, ti 0), (0, tr (some b)), (1, ti a1), (2, ti a2), (3, ti a3)]) dX6_drawnNow_13 (E.lt (by decide)) rfl ?_
  refine r_sub [3, 4, 6, 2, 1, 0] rfl ?_
  exact wX6_drawnNow_L15 E FU (sI s 52 a2) a1 a3 0 0 0 ha1 ha3 (by decide) (by decide) (by decide) e
def fX6_drawn_b23 (s : Sg) : Option (Int × Sg) := some ((-102), s)
theorem wX6_drawn_b23 {N : Nx} {b : Nat} {ad : Nat → Nat} {s' : Sg} {h : hS} {r : Int} (E : EndX N [(6, b, ad)] 4 (some .int) (some (ti r)) [s'] h)  (s : Sg) (e : fX6_drawn_b23 s = some (r, s')) : AtPc cX6_drawn RX6 7 173 N [s] h 23 [] [] := by
  unfold fX6_drawn_b23 at e
  refine r_rrs E.p (fun rr => ?_)
  refine r_bipush dX6_drawn_23 (by decide) ?_
  cases e
  exact r_iret E.σ E.st E.rt E.r (by decide) dX6_drawn_25
def fX6_drawn_b45 (s : Sg) (k0 : Int) : Option (Int × Sg) := some (k0, s)
theorem wX6_drawn_b45 {N : Nx} {b : Nat} {ad : Nat → Nat} {s' : Sg} {h : hS} {r : Int} (E : EndX N [(6, b, ad)] 4 (some .int) (some (ti r)) [s'] h)  (s : Sg) (k0 : Int) (hk0 : rI k0) (e : fX6_drawn_b45 s k0 = some (r, s')) : AtPc cX6_drawn RX6 7 173 N [s] h 45 [] [ti k0] := by
  unfold fX6_drawn_b45 at e
  refine r_rrs E.p (fun rr => ?_)
  cases e
  exact r_iret E.σ E.st E.rt E.r hk0 dX6_drawn_45
def fX6_drawn  (s : Sg) (a1 : Int) (a2 : Int) (a3 : Int) : Option (Int × Sg) := bd (fX6_within a1 1 30) fun p1 => if p1 = 0 then fX6_drawn_b23 s else if a2 < 0 then fX6_drawn_b23 s else bd (fX6_within a3 0 2) fun p7 => if ¬ p7 = 0 then if ¬ (gI s 0) = 0 then bd (fX6_drawnNow s a1 a2 a3) fun p13 => fX6_drawn_b45 p13.2 p13.1 else fX6_drawn_b45 s (-103) else fX6_drawn_b23 s
theorem kX6_drawn {G : Gx}  {b : Nat} {ad : Nat → Nat} {s' : Sg} {h : hS} {r : Int} {s : Sg} {a1 : Int} {a2 : Int} {a3 : Int}  (ha1 : rI a1) (ha2 : rI a2) (ha3 : rI a3) (e : fX6_drawn s a1 a2 a3 = some (r, s')) : CtX G yX6_drawn cX6_drawn 4 (some .int) 7 173 [(6, b, ad)] [s] h [tr (some b), ti a1, ti a2, ti a3] (some (ti r)) [s'] h := by
  refine CtX.of (by decide) (Nat.le_of_ble_eq_true rfl) [(0, tr (some b)), (1, ti a1), (2, ti a2), (3, ti a3)] rfl ?_
  have E : EndX (G, 4, [(6, b, ad)], h, [s'], h, (some .int), (some (ti r)), yX6_drawn.name) [(6, b, ad)] 4 (some .int) (some (ti r)) [s'] h := ⟨rfl, rfl, rfl, rfl, rfl, rfl⟩
  unfold fX6_drawn at e
  refine r_rrs E.p (fun rr => ?_)
  refine r_iload_n dX6_drawn_0 rfl 1 rfl ?_
  refine r_iconst dX6_drawn_1 ?_
  refine r_bipush dX6_drawn_2 (by decide) ?_
  obtain ⟨p1, q2, e⟩ := bd_o e
  have k3 := kX6_within (G := G) (h := h) ha1 (by decide) (by decide) q2
  have z4 := (k3 rr.none).1.2.2.2
  refine r_callS (j := none) 3 [ti a1, ti 1, ti 30] k3 (injO_1 E.p) subO_0 getO_0 setO_0 (lw_S q1599 q1600 q123 q1601) (by decide +kernel) rfl (Nat.le_of_ble_eq_true rfl) (Nat.le_of_ble_eq_true rfl) rfl (Nat.le_of_ble_eq_true rfl) dX6_drawn_4 rfl ?_
  have eT := (r_ifo e).1
  have eF := (r_ifo e).2
  refine r_if_eq (rI_z z4) 23 dX6_drawn_7 (by decide) (fun c5 => ?_) (fun c5 => ?_)
  · have e := eT c5
    refine r_sub [] rfl ?_
    exact wX6_drawn_b23 E s e
  · have e := eF c5
    refine r_iload_n dX6_drawn_10 rfl 2 rfl ?_
    have eT := (r_ifo e).1
    have eF := (r_ifo e).2
    refine r_if_lt ha2 23 dX6_drawn_11 (by decide) (fun c6 => ?_) (fun c6 => ?_)
    · have e := eT c6
      refine r_sub [] rfl ?_
      exact wX6_drawn_b23 E s e
    · have e := eF c6
      refine r_iload_n dX6_drawn_14 rfl 3 rfl ?_
      refine r_iconst dX6_drawn_15 ?_
      refine r_iconst dX6_drawn_16 ?_
      obtain ⟨p7, q8, e⟩ := bd_o e
      have k9 := kX6_within (G := G) (h := h) ha3 (by decide) (by decide) q8
      have z10 := (k9 rr.none).1.2.2.2
      refine r_callS (j := none) 3 [ti a3, ti 0, ti 2] k9 (injO_1 E.p) subO_0 getO_0 setO_0 (lw_S q1599 q1600 q123 q1601) (by decide +kernel) rfl (Nat.le_of_ble_eq_true rfl) (Nat.le_of_ble_eq_true rfl) rfl (Nat.le_of_ble_eq_true rfl) dX6_drawn_17 rfl ?_
      have eT := (r_ifo e).1
      have eF := (r_ifo e).2
      refine r_if_ne (rI_z z10) 26 dX6_drawn_20 (by decide) (fun c11 => ?_) (fun c11 => ?_)
      · have e := eT c11
        refine r_aload_n dX6_drawn_26 rfl 0 rfl ?_
        refine r_sI E.p 0 fG_X6_227 (by decide) dX6_drawn_27 ?_
        have eT := (r_ifo e).1
        have eF := (r_ifo e).2
        refine r_if_ne ((rr.mine rfl).i 0 (by decide) (by decide)) 38 dX6_drawn_30 (by decide) (fun c12 => ?_) (fun c12 => ?_)
        · have e := eT c12
          refine r_aload_n dX6_drawn_38 rfl 0 rfl ?_
          refine r_iload_n dX6_drawn_39 rfl 1 rfl ?_
          refine r_iload_n dX6_drawn_40 rfl 2 rfl ?_
          refine r_iload_n dX6_drawn_41 rfl 3 rfl ?_
          obtain ⟨p13, q14, e⟩ := bd_o e
          have k15 := kX6_drawnNow (G := G) (b := b) (ad := ad) (h := h) ha1 ha2 ha3 q14
          have z16 := (k15 rr).1.2.2.2
          refine r_callV (j := some 0) 3 [ti a1, ti a2, ti a3] (rec_sg (j := 0) (r := (RX6, TX6, 63)) rfl (by rw [E.p]; rfl)) rfl k15 (injO_1 E.p) (subO_1 E.p) getO_1 setO_1 (lw_V q1905 q1907 qs101 q123 q1908) (by decide +kernel) rfl (Nat.le_of_ble_eq_true rfl) (Nat.le_of_ble_eq_true rfl) rfl (Nat.le_of_ble_eq_true rfl) dX6_drawn_42 rfl ?_
          refine r_rrs E.p (fun rr17 => ?_)
          refine r_sub [] rfl ?_
          exact wX6_drawn_b45 E p13.2 p13.1 z16 e
        · have e := eF c12
          refine r_bipush dX6_drawn_33 (by decide) ?_
          refine r_goto 45 dX6_drawn_35 (by decide) ?_
          refine r_sub [] rfl ?_
          exact wX6_drawn_b45 E s (-103) (by decide) e
      · have e := eF c11
        refine r_sub [] rfl ?_
        exact wX6_drawn_b23 E s e
def fX6_filled_b24 (K4 : Sg → Int → Int → Option (Int)) (s : Sg) (a2 : Int) (k0 : Int) (k1 : Int) : Option (Int) := K4 s (wr (k0 + k1)) (wr (a2 + 1))
theorem wX6_filled_b24 {N : Nx} {b : Nat} {ad : Nat → Nat} {s : Sg} {h : hS} {r : Int} (E : EndX N [(6, b, ad)] 3 (some .int) (some (ti r)) [s] h) (K4 : Sg → Int → Int → Option (Int)) (hK4 : ∀ (a1 : Int) (a2 : Int) (ha1 : rI a1) (ha2 : rI a2), K4 s a1 a2 = some (r) → AtPc cX6_filled RX6 0 0 N [s] h 4 [(0, tr (some b)), (1, ti a1), (2, ti a2)] []) (a2 : Int) (k0 : Int) (k1 : Int) (ha2 : rI a2) (hk0 : rI k0) (hk1 : rI k1) (e : fX6_filled_b24 K4 s a2 k0 k1 = some (r)) : AtPc cX6_filled RX6 0 0 N [s] h 24 [(0, tr (some b)), (2, ti a2)] [ti k1, ti k0] := by
  unfold fX6_filled_b24 at e
  refine r_rrs E.p (fun rr => ?_)
  refine r_iadd dX6_filled_24 ?_
  refine r_istore_n (lv' := [(1, ti (wr (k0 + k1))), (0, tr (some b)), (2, ti a2)]) dX6_filled_25 rfl (E.lt (by decide)) rfl ?_
  refine r_iinc (lv' := [(2, ti (wr (a2 + 1))), (1, ti (wr (k0 + k1))), (0, tr (some b))]) dX6_filled_26 2 rfl (E.lt (by decide)) rfl ?_
  refine r_goto 4 dX6_filled_29 (by decide) ?_
  refine r_sub [2, 1, 0] rfl ?_
  exact hK4 (wr (k0 + k1)) (wr (a2 + 1)) (wr_r _) (wr_r _) e
def fX6_filled_b4 (K4 : Sg → Int → Int → Option (Int)) (s : Sg) (a1 : Int) (a2 : Int) : Option (Int) := if 4 ≤ a2 then some a1 else gd (inb a2 4) (if (gA s 14 a2) ≤ 0 then fX6_filled_b24 K4 s a2 a1 0 else fX6_filled_b24 K4 s a2 a1 1)
theorem wX6_filled_b4 {N : Nx} {b : Nat} {ad : Nat → Nat} {s : Sg} {h : hS} {r : Int} (E : EndX N [(6, b, ad)] 3 (some .int) (some (ti r)) [s] h) (K4 : Sg → Int → Int → Option (Int)) (hK4 : ∀ (a1 : Int) (a2 : Int) (ha1 : rI a1) (ha2 : rI a2), K4 s a1 a2 = some (r) → AtPc cX6_filled RX6 0 0 N [s] h 4 [(0, tr (some b)), (1, ti a1), (2, ti a2)] []) (a1 : Int) (a2 : Int) (ha1 : rI a1) (ha2 : rI a2) (e : fX6_filled_b4 K4 s a1 a2 = some (r)) : AtPc cX6_filled RX6 0 0 N [s] h 4 [(0, tr (some b)), (1, ti a1), (2, ti a2)] [] := by
  unfold fX6_filled_b4 at e
  refine r_rrs E.p (fun rr => ?_)
  refine r_iload_n dX6_filled_4 rfl 2 rfl ?_
  refine r_iconst dX6_filled_5 ?_
  have eT := (r_ifo e).1
  have eF := (r_ifo e).2
  refine r_icmp_ge ha2 (by decide) 32 dX6_filled_6 (by decide) (fun c1 => ?_) (fun c1 => ?_)
  · have e := eT c1
    refine r_iload_n dX6_filled_32 rfl 1 rfl ?_
    cases e
    exact r_iret E.σ E.st E.rt E.r ha1 dX6_filled_33
  · have e := eF c1
    refine r_iload_n dX6_filled_9 rfl 1 rfl ?_
    refine r_aload_n dX6_filled_10 rfl 0 rfl ?_
    refine r_sR E.p 14 fG_X6_43 (by decide) dX6_filled_11 ?_
    refine r_iload_n dX6_filled_14 rfl 2 rfl ?_
    obtain ⟨g2, e⟩ := gd_o e
    refine r_saI E.p 14 rfl (by decide) (by decide) ha2 g2 rfl dX6_filled_15 ?_
    have eT := (r_ifo e).1
    have eF := (r_ifo e).2
    refine r_if_le (((rr.mine rfl).a 14 (by decide) rfl).1 _) 23 dX6_filled_16 (by decide) (fun c3 => ?_) (fun c3 => ?_)
    · have e := eT c3
      refine r_iconst dX6_filled_23 ?_
      refine r_sub [0, 2] rfl ?_
      exact wX6_filled_b24 E K4 hK4 a2 a1 0 ha2 ha1 (by decide) e
    · have e := eF c3
      refine r_iconst dX6_filled_19 ?_
      refine r_goto 24 dX6_filled_20 (by decide) ?_
      refine r_sub [0, 2] rfl ?_
      exact wX6_filled_b24 E K4 hK4 a2 a1 1 ha2 ha1 (by decide) e
def fX6_filled_L4  : Nat → Sg → Int → Int → Option (Int)
  | 0, _, _, _ => none
  | n9 + 1, s, a1, a2 => fX6_filled_b4 (fX6_filled_L4 n9) s a1 a2
theorem wX6_filled_L4 {N : Nx} {b : Nat} {ad : Nat → Nat} {s : Sg} {h : hS} {r : Int} (E : EndX N [(6, b, ad)] 3 (some .int) (some (ti r)) [s] h)  : ∀ (n9 : Nat), ∀ (a1 : Int) (a2 : Int) (ha1 : rI a1) (ha2 : rI a2), fX6_filled_L4 n9 s a1 a2 = some (r) → AtPc cX6_filled RX6 0 0 N [s] h 4 [(0, tr (some b)), (1, ti a1), (2, ti a2)] [] := by
  intro n9
  induction n9 with
  | zero => intro a1 a2 ha1 ha2 e; cases e
  | succ n9 ih => intro a1 a2 ha1 ha2 e; exact wX6_filled_b4 E _ ih a1 a2 ha1 ha2 e
def fX6_filled  (s : Sg) : Option (Int) := fX6_filled_L4 FU s 0 0
theorem kX6_filled {G : Gx}  {b : Nat} {ad : Nat → Nat} {s : Sg} {h : hS} {r : Int}    (e : fX6_filled s = some (r)) : CtX G yX6_filled cX6_filled 3 (some .int) 0 0 [(6, b, ad)] [s] h [tr (some b)] (some (ti r)) [s] h := by
  refine CtX.of (by decide) (Nat.le_of_ble_eq_true rfl) [(0, tr (some b))] rfl ?_
  have E : EndX (G, 3, [(6, b, ad)], h, [s], h, (some .int), (some (ti r)), yX6_filled.name) [(6, b, ad)] 3 (some .int) (some (ti r)) [s] h := ⟨rfl, rfl, rfl, rfl, rfl, rfl⟩
  unfold fX6_filled at e
  refine r_rrs E.p (fun rr => ?_)
  refine r_iconst dX6_filled_0 ?_
  refine r_istore_n (lv' := [(1, ti 0), (0, tr (some b))]) dX6_filled_1 rfl (E.lt (by decide)) rfl ?_
  refine r_iconst dX6_filled_2 ?_
  refine r_istore_n (lv' := [(2, ti 0), (1, ti 0), (0, tr (some b))]) dX6_filled_3 rfl (E.lt (by decide)) rfl ?_
  refine r_sub [2, 1, 0] rfl ?_
  exact wX6_filled_L4 E FU 0 0 (by decide) (by decide) e
theorem fP_X6_411 : FldP RX6 411 [(6, 53)] .boolean false := List.forall_mem_cons.mpr ⟨⟨RX6, TX6, 63, "DictProofModel", tyX6, rfl, in_X6, by decide, q1458, Or.inl rfl, tyX6_ok, nmX6, rfl, Or.inl rfl, by decide⟩, fun _ h => absurd h List.not_mem_nil⟩
theorem fP_X6_414 : FldP RX6 414 [(6, 54)] .int false := List.forall_mem_cons.mpr ⟨⟨RX6, TX6, 63, "DictProofModel", tyX6, rfl, in_X6, by decide, q1459, Or.inl rfl, tyX6_ok, nmX6, rfl, Or.inl rfl, by decide⟩, fun _ h => absurd h List.not_mem_nil⟩
theorem fP_X6_417 : FldP RX6 417 [(6, 55)] .int false := List.forall_mem_cons.mpr ⟨⟨RX6, TX6, 63, "DictProofModel", tyX6, rfl, in_X6, by decide, q1460, Or.inl rfl, tyX6_ok, nmX6, rfl, Or.inl rfl, by decide⟩, fun _ h => absurd h List.not_mem_nil⟩
theorem fG_X6_128 : FldG RX6 128 [(6, 56)] := List.forall_mem_cons.mpr ⟨⟨RX6, TX6, 63, "DictProofModel", rfl, in_X6, by decide, q1461, Or.inl rfl⟩, fun _ h => absurd h List.not_mem_nil⟩
theorem fG_X6_137 : FldG RX6 137 [(6, 59)] := List.forall_mem_cons.mpr ⟨⟨RX6, TX6, 63, "DictProofModel", rfl, in_X6, by decide, q1464, Or.inl rfl⟩, fun _ h => absurd h List.not_mem_nil⟩
theorem fG_X6_140 : FldG RX6 140 [(6, 60)] := List.forall_mem_cons.mpr ⟨⟨RX6, TX6, 63, "DictProofModel", rfl, in_X6, by decide, q1465, Or.inl rfl⟩, fun _ h => absurd h List.not_mem_nil⟩
theorem fG_X6_143 : FldG RX6 143 [(6, 61)] := List.forall_mem_cons.mpr ⟨⟨RX6, TX6, 63, "DictProofModel", rfl, in_X6, by decide, q1466, Or.inl rfl⟩, fun _ h => absurd h List.not_mem_nil⟩
theorem fG_X6_131 : FldG RX6 131 [(6, 57)] := List.forall_mem_cons.mpr ⟨⟨RX6, TX6, 63, "DictProofModel", rfl, in_X6, by decide, q1462, Or.inl rfl⟩, fun _ h => absurd h List.not_mem_nil⟩
theorem fG_X6_134 : FldG RX6 134 [(6, 58)] := List.forall_mem_cons.mpr ⟨⟨RX6, TX6, 63, "DictProofModel", rfl, in_X6, by decide, q1463, Or.inl rfl⟩, fun _ h => absurd h List.not_mem_nil⟩
def fX6_image_b121 (K121 : Sg → Int → Option (Int × Sg)) (s : Sg) (a1 : Int) : Option (Int × Sg) := if 4 ≤ a1 then bd (fX6_filled s) fun p2 => some (p2, s) else gd (inb a1 4) (gd (inb a1 4) (K121 (sA s 58 a1 (gA s 14 a1)) (wr (a1 + 1))))
theorem wX6_image_b121 {N : Nx} {b : Nat} {ad : Nat → Nat} {s' : Sg} {h : hS} {r : Int} (E : EndX N [(6, b, ad)] 2 (some .int) (some (ti r)) [s'] h) (K121 : Sg → Int → Option (Int × Sg)) (hK121 : ∀ (s : Sg) (a1 : Int) (ha1 : rI a1), K121 s a1 = some (r, s') → AtPc cX6_image RX6 1 22 N [s] h 121 [(0, tr (some b)), (1, ti a1)] []) (s : Sg) (a1 : Int) (ha1 : rI a1) (e : fX6_image_b121 K121 s a1 = some (r, s')) : AtPc cX6_image RX6 1 22 N [s] h 121 [(0, tr (some b)), (1, ti a1)] [] := by
  unfold fX6_image_b121 at e
  refine r_rrs E.p (fun rr => ?_)
  refine r_iload_n dX6_image_121 rfl 1 rfl ?_
  refine r_iconst dX6_image_122 ?_
  have eT := (r_ifo e).1
  have eF := (r_ifo e).2
  refine r_icmp_ge ha1 (by decide) 144 dX6_image_123 (by decide) (fun c1 => ?_) (fun c1 => ?_)
  · have e := eT c1
    refine r_aload_n dX6_image_144 rfl 0 rfl ?_
    obtain ⟨p2, q3, e⟩ := bd_o e
    have k4 := kX6_filled (G := nG N) (b := b) (ad := ad) (h := h)  q3
    have z5 := (k4 rr).1.2.2.2
    refine r_callV (j := some 0) 0 [] (rec_sg (j := 0) (r := (RX6, TX6, 63)) rfl (by rw [E.p]; rfl)) rfl k4 (injO_1 E.p) (subO_1 E.p) getO_1 setO_1 (lw_V q1932 q1934 qs105 q123 q1935) (by decide +kernel) rfl (Nat.le_of_ble_eq_true rfl) (Nat.le_of_ble_eq_true rfl) rfl (Nat.le_of_ble_eq_true rfl) dX6_image_145 rfl ?_
    cases e
    exact r_iret E.σ E.st E.rt E.r z5 dX6_image_148
  · have e := eF c1
    refine r_aload_n dX6_image_126 rfl 0 rfl ?_
    refine r_sR E.p 58 fG_X6_134 (by decide) dX6_image_127 ?_
    refine r_iload_n dX6_image_130 rfl 1 rfl ?_
    refine r_aload_n dX6_image_131 rfl 0 rfl ?_
    refine r_sR E.p 14 fG_X6_43 (by decide) dX6_image_132 ?_
    refine r_iload_n dX6_image_135 rfl 1 rfl ?_
    obtain ⟨g6, e⟩ := gd_o e
    refine r_saI E.p 14 rfl (by decide) (by decide) ha1 g6 rfl dX6_image_136 ?_
    obtain ⟨g7, e⟩ := gd_o e
    refine r_saP E.p 58 rfl (by decide) (by decide) ha1 g7 (((rr.mine rfl).a 14 (by decide) rfl).1 _) rfl dX6_image_137 ?_
    refine r_rrs E.p (fun rr8 => ?_)
    refine r_iinc (lv' := [(1, ti (wr (a1 + 1))), (0, tr (some b))]) dX6_image_138 1 rfl (E.lt (by decide)) rfl ?_
    refine r_goto 121 dX6_image_141 (by decide) ?_
    refine r_sub [1, 0] rfl ?_
    exact hK121 (sA s 58 a1 (gA s 14 a1)) (wr (a1 + 1)) (wr_r _) e
def fX6_image_L121  : Nat → Sg → Int → Option (Int × Sg)
  | 0, _, _ => none
  | n9 + 1, s, a1 => fX6_image_b121 (fX6_image_L121 n9) s a1
theorem wX6_image_L121 {N : Nx} {b : Nat} {ad : Nat → Nat} {s' : Sg} {h : hS} {r : Int} (E : EndX N [(6, b, ad)] 2 (some .int) (some (ti r)) [s'] h)  : ∀ (n9 : Nat), ∀ (s : Sg) (a1 : Int) (ha1 : rI a1), fX6_image_L121 n9 s a1 = some (r, s') → AtPc cX6_image RX6 1 22 N [s] h 121 [(0, tr (some b)), (1, ti a1)] [] := by
  intro n9
  induction n9 with
  | zero => intro s a1 ha1 e; cases e
  | succ n9 ih => intro s a1 ha1 e; exact wX6_image_b121 E _ ih s a1 ha1 e
def fX6_image_b95 (K95 : Sg → Int → Option (Int × Sg)) (s : Sg) (a1 : Int) : Option (Int × Sg) := if 36 ≤ a1 then fX6_image_L121 FU s 0 else gd (inb a1 36) (gd (inb a1 36) (K95 (sA s 57 a1 (gA s 13 a1)) (wr (a1 + 1))))
theorem wX6_image_b95 {N : Nx} {b : Nat} {ad : Nat → Nat} {s' : Sg} {h : hS} {r : Int} (E : EndX N [(6, b, ad)] 2 (some .int) (some (ti r)) [s'] h) (K95 : Sg → Int → Option (Int × Sg)) (hK95 : ∀ (s : Sg) (a1 : Int) (ha1 : rI a1), K95 s a1 = some (r, s') → AtPc cX6_image RX6 1 22 N [s] h 95 [(0, tr (some b)), (1, ti a1)] []) (s : Sg) (a1 : Int) (ha1 : rI a1) (e : fX6_image_b95 K95 s a1 = some (r, s')) : AtPc cX6_image RX6 1 22 N [s] h 95 [(0, tr (some b)), (1, ti a1)] [] := by
  unfold fX6_image_b95 at e
  refine r_rrs E.p (fun rr => ?_)
  refine r_iload_n dX6_image_95 rfl 1 rfl ?_
  refine r_bipush dX6_image_96 (by decide) ?_
  have eT := (r_ifo e).1
  have eF := (r_ifo e).2
  refine r_icmp_ge ha1 (by decide) 119 dX6_image_98 (by decide) (fun c1 => ?_) (fun c1 => ?_)
  · have e := eT c1
    refine r_iconst dX6_image_119 ?_
    refine r_istore_n (lv' := [(1, ti 0), (0, tr (some b))]) dX6_image_120 rfl (E.lt (by decide)) rfl ?_
    refine r_sub [1, 0] rfl ?_
    exact wX6_image_L121 E FU s 0 (by decide) e
  · have e := eF c1
    refine r_aload_n dX6_image_101 rfl 0 rfl ?_
    refine r_sR E.p 57 fG_X6_131 (by decide) dX6_image_102 ?_
    refine r_iload_n dX6_image_105 rfl 1 rfl ?_
    refine r_aload_n dX6_image_106 rfl 0 rfl ?_
    refine r_sR E.p 13 fG_X6_40 (by decide) dX6_image_107 ?_
    refine r_iload_n dX6_image_110 rfl 1 rfl ?_
    obtain ⟨g2, e⟩ := gd_o e
    refine r_saI E.p 13 rfl (by decide) (by decide) ha1 g2 rfl dX6_image_111 ?_
    obtain ⟨g3, e⟩ := gd_o e
    refine r_saP E.p 57 rfl (by decide) (by decide) ha1 g3 (((rr.mine rfl).a 13 (by decide) rfl).1 _) rfl dX6_image_112 ?_
    refine r_rrs E.p (fun rr4 => ?_)
    refine r_iinc (lv' := [(1, ti (wr (a1 + 1))), (0, tr (some b))]) dX6_image_113 1 rfl (E.lt (by decide)) rfl ?_
    refine r_goto 95 dX6_image_116 (by decide) ?_
    refine r_sub [1, 0] rfl ?_
    exact hK95 (sA s 57 a1 (gA s 13 a1)) (wr (a1 + 1)) (wr_r _) e
def fX6_image_L95  : Nat → Sg → Int → Option (Int × Sg)
  | 0, _, _ => none
  | n9 + 1, s, a1 => fX6_image_b95 (fX6_image_L95 n9) s a1
theorem wX6_image_L95 {N : Nx} {b : Nat} {ad : Nat → Nat} {s' : Sg} {h : hS} {r : Int} (E : EndX N [(6, b, ad)] 2 (some .int) (some (ti r)) [s'] h)  : ∀ (n9 : Nat), ∀ (s : Sg) (a1 : Int) (ha1 : rI a1), fX6_image_L95 n9 s a1 = some (r, s') → AtPc cX6_image RX6 1 22 N [s] h 95 [(0, tr (some b)), (1, ti a1)] [] := by
  intro n9
  induction n9 with
  | zero => intro s a1 ha1 e; cases e
  | succ n9 ih => intro s a1 ha1 e; exact wX6_image_b95 E _ ih s a1 ha1 e
def fX6_image_b33 (K33 : Sg → Int → Option (Int × Sg)) (s : Sg) (a1 : Int) : Option (Int × Sg) := if 6 ≤ a1 then fX6_image_L95 FU s 0 else gd (inb a1 6) (gd (inb a1 6) (gd (inb a1 6) (gd (inb a1 6) (gd (inb a1 6) (gd (inb a1 6) (gd (inb a1 6) (gd (inb a1 6) (K33 (sA (sA (sA (sA s 56 a1 (gA s 5 a1)) 59 a1 (gA (sA s 56 a1 (gA s 5 a1)) 16 a1)) 60 a1 (gA (sA (sA s 56 a1 (gA s 5 a1)) 59 a1 (gA (sA s 56 a1 (gA s 5 a1)) 16 a1)) 17 a1)) 61 a1 (gA (sA (sA (sA s 56 a1 (gA s 5 a1)) 59 a1 (gA (sA s 56 a1 (gA s 5 a1)) 16 a1)) 60 a1 (gA (sA (sA s 56 a1 (gA s 5 a1)) 59 a1 (gA (sA s 56 a1 (gA s 5 a1)) 16 a1)) 17 a1)) 18 a1)) (wr (a1 + 1))))))))))
theorem wX6_image_b33 {N : Nx} {b : Nat} {ad : Nat → Nat} {s' : Sg} {h : hS} {r : Int} (E : EndX N [(6, b, ad)] 2 (some .int) (some (ti r)) [s'] h) (K33 : Sg → Int → Option (Int × Sg)) (hK33 : ∀ (s : Sg) (a1 : Int) (ha1 : rI a1), K33 s a1 = some (r, s') → AtPc cX6_image RX6 1 22 N [s] h 33 [(0, tr (some b)), (1, ti a1)] []) (s : Sg) (a1 : Int) (ha1 : rI a1) (e : fX6_image_b33 K33 s a1 = some (r, s')) : AtPc cX6_image RX6 1 22 N [s] h 33 [(0, tr (some b)), (1, ti a1)] [] := by
  unfold fX6_image_b33 at e
  refine r_rrs E.p (fun rr => ?_)
  refine r_iload_n dX6_image_33 rfl 1 rfl ?_
  refine r_bipush dX6_image_34 (by decide) ?_
  have eT := (r_ifo e).1
  have eF := (r_ifo e).2
  refine r_icmp_ge ha1 (by decide) 93 dX6_image_36 (by decide) (fun c1 => ?_) (fun c1 => ?_)
  · have e := eT c1
    refine r_iconst dX6_image_93 ?_
    refine r_istore_n (lv' := [(1, ti 0), (0, tr (some b))]) dX6_image_94 rfl (E.lt (by decide)) rfl ?_
    refine r_sub [1, 0] rfl ?_
    exact wX6_image_L95 E FU s 0 (by decide) e
  · have e := eF c1
    refine r_aload_n dX6_image_39 rfl 0 rfl ?_
    refine r_sR E.p 56 fG_X6_128 (by decide) dX6_image_40 ?_
    refine r_iload_n dX6_image_43 rfl 1 rfl ?_
    refine r_aload_n dX6_image_44 rfl 0 rfl ?_
    refine r_sR E.p 5 fG_X6_16 (by decide) dX6_image_45 ?_
    refine r_iload_n dX6_image_48 rfl 1 rfl ?_
    obtain ⟨g2, e⟩ := gd_o e
    refine r_saI E.p 5 rfl (by decide) (by decide) ha1 g2 rfl dX6_image_49 ?_
    obtain ⟨g3, e⟩ := gd_o e
    refine r_saP E.p 56 rfl (by decide) (by decide) ha1 g3 (((rr.mine rfl).a 5 (by decide) rfl).1 _) rfl dX6_image_50 ?_
    refine r_rrs E.p (fun rr4 => ?_)
    refine r_aload_n dX6_image_51 rfl 0 rfl ?_
    refine r_sR E.p 59 fG_X6_137 (by decide) dX6_image_52 ?_
    refine r_iload_n dX6_image_55 rfl 1 rfl ?_
    refine r_aload_n dX6_image_56 rfl 0 rfl ?_
    refine r_sR E.p 16 fG_X6_46 (by decide) dX6_image_57 ?_
    refine r_iload_n dX6_image_60 rfl 1 rfl ?_
    obtain ⟨g5, e⟩ := gd_o e
    refine r_saI E.p 16 rfl (by decide) (by decide) ha1 g5 rfl dX6_image_61 ?_
    obtain ⟨g6, e⟩ := gd_o e
    refine r_saP E.p 59 rfl (by decide) (by decide) ha1 g6 (((rr4.mine rfl).a 16 (by decide) rfl).1 _) rfl dX6_image_62 ?_
    refine r_rrs E.p (fun rr7 => ?_)
    refine r_aload_n dX6_image_63 rfl 0 rfl ?_
    refine r_sR E.p 60 fG_X6_140 (by decide) dX6_image_64 ?_
    refine r_iload_n dX6_image_67 rfl 1 rfl ?_
    refine r_aload_n dX6_image_68 rfl 0 rfl ?_
    refine r_sR E.p 17 fG_X6_49 (by decide) dX6_image_69 ?_
    refine r_iload_n dX6_image_72 rfl 1 rfl ?_
    obtain ⟨g8, e⟩ := gd_o e
    refine r_saI E.p 17 rfl (by decide) (by decide) ha1 g8 rfl dX6_image_73 ?_
    obtain ⟨g9, e⟩ := gd_o e
    refine r_saP E.p 60 rfl (by decide) (by decide) ha1 g9 (((rr7.mine rfl).a 17 (by decide) rfl).1 _) rfl dX6_image_74 ?_
    refine r_rrs E.p (fun rr10 => ?_)
    refine r_aload_n dX6_image_75 rfl 0 rfl ?_
    refine r_sR E.p 61 fG_X6_143 (by decide) dX6_image_76 ?_
    refine r_iload_n dX6_image_79 rfl 1 rfl ?_
    refine r_aload_n dX6_image_80 rfl 0 rfl ?_
    refine r_sR E.p 18 fG_X6_52 (by decide) dX6_image_81 ?_
    refine r_iload_n dX6_image_84 rfl 1 rfl ?_
    obtain ⟨g11, e⟩ := gd_o e
    refine r_saI E.p 18 rfl (by decide) (by decide) ha1 g11 rfl dX6_image_85 ?_
    obtain ⟨g12, e⟩ := gd_o e
    refine r_saP E.p 61 rfl (by decide) (by decide) ha1 g12 (((rr10.mine rfl).a 18 (by decide) rfl).1 _) rfl dX6_image_86 ?_
    refine r_rrs E.p (fun rr13 => ?_)
    refine r_iinc (lv' := [(1, ti (wr (a1 + 1))), (0, tr (some b))]) dX6_image_87 1 rfl (E.lt (by decide)) rfl ?_
    refine r_goto 33 dX6_image_90 (by decide) ?_
    refine r_sub [1, 0] rfl ?_
    exact hK33 (sA (sA (sA (sA s 56 a1 (gA s 5 a1)) 59 a1 (gA (sA s 56 a1 (gA s 5 a1)) 16 a1)) 60 a1 (gA (sA (sA s 56 a1 (gA s 5 a1)) 59 a1 (gA (sA s 56 a1 (gA s 5 a1)) 16 a1)) 17 a1)) 61 a1 (gA (sA (sA (sA s 56 a1 (gA s 5 a1)) 59 a1 (gA (sA s 56 a1 (gA s 5 a1)) 16 a1)) 60 a1 (gA (sA (sA s 56 a1 (gA s 5 a1)) 59 a1 (gA (sA s 56 a1 (gA s 5 a1)) 16 a1)) 17 a1)) 18 a1)) (wr (a1 + 1)) (wr_r _) e
def fX6_image_L33  : Nat → Sg → Int → Option (Int × Sg)
  | 0, _, _ => none
  | n9 + 1, s, a1 => fX6_image_b33 (fX6_image_L33 n9) s a1
theorem wX6_image_L33 {N : Nx} {b : Nat} {ad : Nat → Nat} {s' : Sg} {h : hS} {r : Int} (E : EndX N [(6, b, ad)] 2 (some .int) (some (ti r)) [s'] h)  : ∀ (n9 : Nat), ∀ (s : Sg) (a1 : Int) (ha1 : rI a1), fX6_image_L33 n9 s a1 = some (r, s') → AtPc cX6_image RX6 1 22 N [s] h 33 [(0, tr (some b)), (1, ti a1)] [] := by
  intro n9
  induction n9 with
  | zero => intro s a1 ha1 e; cases e
  | succ n9 ih => intro s a1 ha1 e; exact wX6_image_b33 E _ ih s a1 ha1 e
def fX6_image  (s : Sg) : Option (Int × Sg) := if ¬ (gI s 0) = 0 then fX6_image_L33 FU (sI (sI (sI s 53 1) 54 (gI (sI s 53 1) 0)) 55 (gI (sI (sI s 53 1) 54 (gI (sI s 53 1) 0)) 15)) 0 else some ((-103), s)
theorem kX6_image {G : Gx}  {b : Nat} {ad : Nat → Nat} {s' : Sg} {h : hS} {r : Int} {s : Sg}    (e : fX6_image s = some (r, s')) : CtX G yX6_image cX6_image 2 (some .int) 1 22 [(6, b, ad)] [s] h [tr (some b)] (some (ti r)) [s'] h := by
  refine CtX.of (by decide) (Nat.le_of_ble_eq_true rfl) [(0, tr (some b))] rfl ?_
  have E : EndX (G, 2, [(6, b, ad)], h, [s'], h, (some .int), (some (ti r)), yX6_image.name) [(6, b, ad)] 2 (some .int) (some (ti r)) [s'] h := ⟨rfl, rfl, rfl, rfl, rfl, rfl⟩
  unfold fX6_image at e
  refine r_rrs E.p (fun rr => ?_)
  refine r_aload_n dX6_image_0 rfl 0 rfl ?_
  refine r_sI E.p 0 fG_X6_227 (by decide) dX6_image_1 ?_
  have eT := (r_ifo e).1
  have eF := (r_ifo e).2
  refine r_if_ne ((rr.mine rfl).i 0 (by decide) (by decide)) 10 dX6_image_4 (by decide) (fun c1 => ?_) (fun c1 => ?_)
  · have e := eT c1
    refine r_aload_n dX6_image_10 rfl 0 rfl ?_
    refine r_iconst dX6_image_11 ?_
    refine r_sPZ E.p 53 fP_X6_411 rfl (Or.inr rfl) dX6_image_12 ?_
    refine r_rrs E.p (fun rr2 => ?_)
    refine r_aload_n dX6_image_15 rfl 0 rfl ?_
    refine r_aload_n dX6_image_16 rfl 0 rfl ?_
    refine r_sI E.p 0 fG_X6_227 (by decide) dX6_image_17 ?_
    refine r_sPI E.p 54 fP_X6_414 rfl ((rr2.mine rfl).i 0 (by decide) (by decide)) dX6_image_20 ?_
    refine r_rrs E.p (fun rr3 => ?_)
    refine r_aload_n dX6_image_23 rfl 0 rfl ?_
    refine r_aload_n dX6_image_24 rfl 0 rfl ?_
    refine r_sI E.p 15 fG_X6_230 (by decide) dX6_image_25 ?_
    refine r_sPI E.p 55 fP_X6_417 rfl ((rr3.mine rfl).i 15 (by decide) (by decide)) dX6_image_28 ?_
    refine r_rrs E.p (fun rr4 => ?_)
    refine r_iconst dX6_image_31 ?_
    refine r_istore_n (lv' := [(1, ti 0), (0, tr (some b))]) dX6_image_32 rfl (E.lt (by decide)) rfl ?_
    refine r_sub [1, 0] rfl ?_
    exact wX6_image_L33 E FU (sI (sI (sI s 53 1) 54 (gI (sI s 53 1) 0)) 55 (gI (sI (sI s 53 1) 54 (gI (sI s 53 1) 0)) 15)) 0 (by decide) e
  · have e := eF c1
    refine r_bipush dX6_image_7 (by decide) ?_
    cases e
    exact r_iret E.σ E.st E.rt E.r (by decide) dX6_image_9
theorem fG_X6_411 : FldG RX6 411 [(6, 53)] := List.forall_mem_cons.mpr ⟨⟨RX6, TX6, 63, "DictProofModel", rfl, in_X6, by decide, q1458, Or.inl rfl⟩, fun _ h => absurd h List.not_mem_nil⟩
theorem fG_X6_414 : FldG RX6 414 [(6, 54)] := List.forall_mem_cons.mpr ⟨⟨RX6, TX6, 63, "DictProofModel", rfl, in_X6, by decide, q1459, Or.inl rfl⟩, fun _ h => absurd h List.not_mem_nil⟩
theorem fG_X6_417 : FldG RX6 417 [(6, 55)] := List.forall_mem_cons.mpr ⟨⟨RX6, TX6, 63, "DictProofModel", rfl, in_X6, by decide, q1460, Or.inl rfl⟩, fun _ h => absurd h List.not_mem_nil⟩
def fX6_restore_b18 (s : Sg) : Option (Int × Sg) := some ((-103), s)
theorem wX6_restore_b18 {N : Nx} {b : Nat} {ad : Nat → Nat} {s' : Sg} {h : hS} {r : Int} (E : EndX N [(6, b, ad)] 2 (some .int) (some (ti r)) [s'] h)  (s : Sg) (e : fX6_restore_b18 s = some (r, s')) : AtPc cX6_restore RX6 1 22 N [s] h 18 [] [] := by
  unfold fX6_restore_b18 at e
  refine r_rrs E.p (fun rr => ?_)
  refine r_bipush dX6_restore_18 (by decide) ?_
  cases e
  exact r_iret E.σ E.st E.rt E.r (by decide) dX6_restore_20
def fX6_restore_b119 (K119 : Sg → Int → Option (Int × Sg)) (s : Sg) (a1 : Int) : Option (Int × Sg) := if 4 ≤ a1 then bd (fX6_filled s) fun p2 => some (p2, s) else gd (inb a1 4) (gd (inb a1 4) (K119 (sA s 14 a1 (gA s 58 a1)) (wr (a1 + 1))))
theorem wX6_restore_b119 {N : Nx} {b : Nat} {ad : Nat → Nat} {s' : Sg} {h : hS} {r : Int} (E : EndX N [(6, b, ad)] 2 (some .int) (some (ti r)) [s'] h) (K119 : Sg → Int → Option (Int × Sg)) (hK119 : ∀ (s : Sg) (a1 : Int) (ha1 : rI a1), K119 s a1 = some (r, s') → AtPc cX6_restore RX6 1 22 N [s] h 119 [(0, tr (some b)), (1, ti a1)] []) (s : Sg) (a1 : Int) (ha1 : rI a1) (e : fX6_restore_b119 K119 s a1 = some (r, s')) : AtPc cX6_restore RX6 1 22 N [s] h 119 [(0, tr (some b)), (1, ti a1)] [] := by
  unfold fX6_restore_b119 at e
  refine r_rrs E.p (fun rr => ?_)
  refine r_iload_n dX6_restore_119 rfl 1 rfl ?_
  refine r_iconst dX6_restore_120 ?_
  have eT := (r_ifo e).1
  have eF := (r_ifo e).2
  refine r_icmp_ge ha1 (by decide) 142 dX6_restore_121 (by decide) (fun c1 => ?_) (fun c1 => ?_)
  · have e := eT c1
    refine r_aload_n dX6_restore_142 rfl 0 rfl ?_
    obtain ⟨p2, q3, e⟩ := bd_o e
    have k4 := kX6_filled (G := nG N) (b := b) (ad := ad) (h := h)  q3
    have z5 := (k4 rr).1.2.2.2
    refine r_callV (j := some 0) 0 [] (rec_sg (j := 0) (r := (RX6, TX6, 63)) rfl (by rw [E.p]; rfl)) rfl k4 (injO_1 E.p) (subO_1 E.p) getO_1 setO_1 (lw_V q1932 q1934 qs105 q123 q1935) (by decide +kernel) rfl (Nat.le_of_ble_eq_true rfl) (Nat.le_of_ble_eq_true rfl) rfl (Nat.le_of_ble_eq_true rfl) dX6_restore_143 rfl ?_
    cases e
    exact r_iret E.σ E.st E.rt E.r z5 dX6_restore_146
  · have e := eF c1
    refine r_aload_n dX6_restore_124 rfl 0 rfl ?_
    refine r_sR E.p 14 fG_X6_43 (by decide) dX6_restore_125 ?_
    refine r_iload_n dX6_restore_128 rfl 1 rfl ?_
    refine r_aload_n dX6_restore_129 rfl 0 rfl ?_
    refine r_sR E.p 58 fG_X6_134 (by decide) dX6_restore_130 ?_
    refine r_iload_n dX6_restore_133 rfl 1 rfl ?_
    obtain ⟨g6, e⟩ := gd_o e
    refine r_saI E.p 58 rfl (by decide) (by decide) ha1 g6 rfl dX6_restore_134 ?_
    obtain ⟨g7, e⟩ := gd_o e
    refine r_saP E.p 14 rfl (by decide) (by decide) ha1 g7 (((rr.mine rfl).a 58 (by decide) rfl).1 _) rfl dX6_restore_135 ?_
    refine r_rrs E.p (fun rr8 => ?_)
    refine r_iinc (lv' := [(1, ti (wr (a1 + 1))), (0, tr (some b))]) dX6_restore_136 1 rfl (E.lt (by decide)) rfl ?_
    refine r_goto 119 dX6_restore_139 (by decide) ?_
    refine r_sub [1, 0] rfl ?_
    exact hK119 (sA s 14 a1 (gA s 58 a1)) (wr (a1 + 1)) (wr_r _) e
def fX6_restore_L119  : Nat → Sg → Int → Option (Int × Sg)
  | 0, _, _ => none
  | n9 + 1, s, a1 => fX6_restore_b119 (fX6_restore_L119 n9) s a1
theorem wX6_restore_L119 {N : Nx} {b : Nat} {ad : Nat → Nat} {s' : Sg} {h : hS} {r : Int} (E : EndX N [(6, b, ad)] 2 (some .int) (some (ti r)) [s'] h)  : ∀ (n9 : Nat), ∀ (s : Sg) (a1 : Int) (ha1 : rI a1), fX6_restore_L119 n9 s a1 = some (r, s') → AtPc cX6_restore RX6 1 22 N [s] h 119 [(0, tr (some b)), (1, ti a1)] [] := by
  intro n9
  induction n9 with
  | zero => intro s a1 ha1 e; cases e
  | succ n9 ih => intro s a1 ha1 e; exact wX6_restore_b119 E _ ih s a1 ha1 e
def fX6_restore_b93 (K93 : Sg → Int → Option (Int × Sg)) (s : Sg) (a1 : Int) : Option (Int × Sg) := if 36 ≤ a1 then fX6_restore_L119 FU s 0 else gd (inb a1 36) (gd (inb a1 36) (K93 (sA s 13 a1 (gA s 57 a1)) (wr (a1 + 1))))
theorem wX6_restore_b93 {N : Nx} {b : Nat} {ad : Nat → Nat} {s' : Sg} {h : hS} {r : Int} (E : EndX N [(6, b, ad)] 2 (some .int) (some (ti r)) [s'] h) (K93 : Sg → Int → Option (Int × Sg)) (hK93 : ∀ (s : Sg) (a1 : Int) (ha1 : rI a1), K93 s a1 = some (r, s') → AtPc cX6_restore RX6 1 22 N [s] h 93 [(0, tr (some b)), (1, ti a1)] []) (s : Sg) (a1 : Int) (ha1 : rI a1) (e : fX6_restore_b93 K93 s a1 = some (r, s')) : AtPc cX6_restore RX6 1 22 N [s] h 93 [(0, tr (some b)), (1, ti a1)] [] := by
  unfold fX6_restore_b93 at e
  refine r_rrs E.p (fun rr => ?_)
  refine r_iload_n dX6_restore_93 rfl 1 rfl ?_
  refine r_bipush dX6_restore_94 (by decide) ?_
  have eT := (r_ifo e).1
  have eF := (r_ifo e).2
  refine r_icmp_ge ha1 (by decide) 117 dX6_restore_96 (by decide) (fun c1 => ?_) (fun c1 => ?_)
  · have e := eT c1
    refine r_iconst dX6_restore_117 ?_
    refine r_istore_n (lv' := [(1, ti 0), (0, tr (some b))]) dX6_restore_118 rfl (E.lt (by decide)) rfl ?_
    refine r_sub [1, 0] rfl ?_
    exact wX6_restore_L119 E FU s 0 (by decide) e
  · have e := eF c1
    refine r_aload_n dX6_restore_99 rfl 0 rfl ?_
    refine r_sR E.p 13 fG_X6_40 (by decide) dX6_restore_100 ?_
    refine r_iload_n dX6_restore_103 rfl 1 rfl ?_
    refine r_aload_n dX6_restore_104 rfl 0 rfl ?_
    refine r_sR E.p 57 fG_X6_131 (by decide) dX6_restore_105 ?_
    refine r_iload_n dX6_restore_108 rfl 1 rfl ?_
    obtain ⟨g2, e⟩ := gd_o e
    refine r_saI E.p 57 rfl (by decide) (by decide) ha1 g2 rfl dX6_restore_109 ?_
    obtain ⟨g3, e⟩ := gd_o e
    refine r_saP E.p 13 rfl (by decide) (by decide) ha1 g3 (((rr.mine rfl).a 57 (by decide) rfl).1 _) rfl dX6_restore_110 ?_
    refine r_rrs E.p (fun rr4 => ?_)
    refine r_iinc (lv' := [(1, ti (wr (a1 + 1))), (0, tr (some b))]) dX6_restore_111 1 rfl (E.lt (by decide)) rfl ?_
    refine r_goto 93 dX6_restore_114 (by decide) ?_
    refine r_sub [1, 0] rfl ?_
    exact hK93 (sA s 13 a1 (gA s 57 a1)) (wr (a1 + 1)) (wr_r _) e
def fX6_restore_L93  : Nat → Sg → Int → Option (Int × Sg)
  | 0, _, _ => none
  | n9 + 1, s, a1 => fX6_restore_b93 (fX6_restore_L93 n9) s a1
theorem wX6_restore_L93 {N : Nx} {b : Nat} {ad : Nat → Nat} {s' : Sg} {h : hS} {r : Int} (E : EndX N [(6, b, ad)] 2 (some .int) (some (ti r)) [s'] h)  : ∀ (n9 : Nat), ∀ (s : Sg) (a1 : Int) (ha1 : rI a1), fX6_restore_L93 n9 s a1 = some (r, s') → AtPc cX6_restore RX6 1 22 N [s] h 93 [(0, tr (some b)), (1, ti a1)] [] := by
  intro n9
  induction n9 with
  | zero => intro s a1 ha1 e; cases e
  | succ n9 ih => intro s a1 ha1 e; exact wX6_restore_b93 E _ ih s a1 ha1 e
def fX6_restore_b31 (K31 : Sg → Int → Option (Int × Sg)) (s : Sg) (a1 : Int) : Option (Int × Sg) := if 6 ≤ a1 then fX6_restore_L93 FU s 0 else gd (inb a1 6) (gd (inb a1 6) (gd (inb a1 6) (gd (inb a1 6) (gd (inb a1 6) (gd (inb a1 6) (gd (inb a1 6) (gd (inb a1 6) (K31 (sA (sA (sA (sA s 5 a1 (gA s 56 a1)) 16 a1 (gA (sA s 5 a1 (gA s 56 a1)) 59 a1)) 17 a1 (gA (sA (sA s 5 a1 (gA s 56 a1)) 16 a1 (gA (sA s 5 a1 (gA s 56 a1)) 59 a1)) 60 a1)) 18 a1 (gA (sA (sA (sA s 5 a1 (gA s 56 a1)) 16 a1 (gA (sA s 5 a1 (gA s 56 a1)) 59 a1)) 17 a1 (gA (sA (sA s 5 a1 (gA s 56 a1)) 16 a1 (gA (sA s 5 a1 (gA s 56 a1)) 59 a1)) 60 a1)) 61 a1)) (wr (a1 + 1))))))))))
theorem wX6_restore_b31 {N : Nx} {b : Nat} {ad : Nat → Nat} {s' : Sg} {h : hS} {r : Int} (E : EndX N [(6, b, ad)] 2 (some .int) (some (ti r)) [s'] h) (K31 : Sg → Int → Option (Int × Sg)) (hK31 : ∀ (s : Sg) (a1 : Int) (ha1 : rI a1), K31 s a1 = some (r, s') → AtPc cX6_restore RX6 1 22 N [s] h 31 [(0, tr (some b)), (1, ti a1)] []) (s : Sg) (a1 : Int) (ha1 : rI a1) (e : fX6_restore_b31 K31 s a1 = some (r, s')) : AtPc cX6_restore RX6 1 22 N [s] h 31 [(0, tr (some b)), (1, ti a1)] [] := by
  unfold fX6_restore_b31 at e
  refine r_rrs E.p (fun rr => ?_)
  refine r_iload_n dX6_restore_31 rfl 1 rfl ?_
  refine r_bipush dX6_restore_32 (by decide) ?_
  have eT := (r_ifo e).1
  have eF := (r_ifo e).2
  refine r_icmp_ge ha1 (by decide) 91 dX6_restore_34 (by decide) (fun c1 => ?_) (fun c1 => ?_)
  · have e := eT c1
    refine r_iconst dX6_restore_91 ?_
    refine r_istore_n (lv' := [(1, ti 0), (0, tr (some b))]) dX6_restore_92 rfl (E.lt (by decide)) rfl ?_
    refine r_sub [1, 0] rfl ?_
    exact wX6_restore_L93 E FU s 0 (by decide) e
  · have e := eF c1
    refine r_aload_n dX6_restore_37 rfl 0 rfl ?_
    refine r_sR E.p 5 fG_X6_16 (by decide) dX6_restore_38 ?_
    refine r_iload_n dX6_restore_41 rfl 1 rfl ?_
    refine r_aload_n dX6_restore_42 rfl 0 rfl ?_
    refine r_sR E.p 56 fG_X6_128 (by decide) dX6_restore_43 ?_
    refine r_iload_n dX6_restore_46 rfl 1 rfl ?_
    obtain ⟨g2, e⟩ := gd_o e
    refine r_saI E.p 56 rfl (by decide) (by decide) ha1 g2 rfl dX6_restore_47 ?_
    obtain ⟨g3, e⟩ := gd_o e
    refine r_saP E.p 5 rfl (by decide) (by decide) ha1 g3 (((rr.mine rfl).a 56 (by decide) rfl).1 _) rfl dX6_restore_48 ?_
    refine r_rrs E.p (fun rr4 => ?_)
    refine r_aload_n dX6_restore_49 rfl 0 rfl ?_
    refine r_sR E.p 16 fG_X6_46 (by decide) dX6_restore_50 ?_
    refine r_iload_n dX6_restore_53 rfl 1 rfl ?_
    refine r_aload_n dX6_restore_54 rfl 0 rfl ?_
    refine r_sR E.p 59 fG_X6_137 (by decide) dX6_restore_55 ?_
    refine r_iload_n dX6_restore_58 rfl 1 rfl ?_
    obtain ⟨g5, e⟩ := gd_o e
    refine r_saI E.p 59 rfl (by decide) (by decide) ha1 g5 rfl dX6_restore_59 ?_
    obtain ⟨g6, e⟩ := gd_o e
    refine r_saP E.p 16 rfl (by decide) (by decide) ha1 g6 (((rr4.mine rfl).a 59 (by decide) rfl).1 _) rfl dX6_restore_60 ?_
    refine r_rrs E.p (fun rr7 => ?_)
    refine r_aload_n dX6_restore_61 rfl 0 rfl ?_
    refine r_sR E.p 17 fG_X6_49 (by decide) dX6_restore_62 ?_
    refine r_iload_n dX6_restore_65 rfl 1 rfl ?_
    refine r_aload_n dX6_restore_66 rfl 0 rfl ?_
    refine r_sR E.p 60 fG_X6_140 (by decide) dX6_restore_67 ?_
    refine r_iload_n dX6_restore_70 rfl 1 rfl ?_
    obtain ⟨g8, e⟩ := gd_o e
    refine r_saI E.p 60 rfl (by decide) (by decide) ha1 g8 rfl dX6_restore_71 ?_
    obtain ⟨g9, e⟩ := gd_o e
    refine r_saP E.p 17 rfl (by decide) (by decide) ha1 g9 (((rr7.mine rfl).a 60 (by decide) rfl).1 _) rfl dX6_restore_72 ?_
    refine r_rrs E.p (fun rr10 => ?_)
    refine r_aload_n dX6_restore_73 rfl 0 rfl ?_
    refine r_sR E.p 18 fG_X6_52 (by decide) dX6_restore_74 ?_
    refine r_iload_n dX6_restore_77 rfl 1 rfl ?_
    refine r_aload_n dX6_restore_78 rfl 0 rfl ?_
    refine r_sR E.p 61 fG_X6_143 (by decide) dX6_restore_79 ?_
    refine r_iload_n dX6_restore_82 rfl 1 rfl ?_
    obtain ⟨g11, e⟩ := gd_o e
    refine r_saI E.p 61 rfl (by decide) (by decide) ha1 g11 rfl dX6_restore_83 ?_
    obtain ⟨g12, e⟩ := gd_o e
    refine r_saP E.p 18 rfl (by decide) (by decide) ha1 g12 (((rr10.mine rfl).a 61 (by decide) rfl).1 _) rfl dX6_restore_84 ?_
    refine r_rrs E.p (fun rr13 => ?_)
    refine r_iinc (lv' := [(1, ti (wr (a1 + 1))), (0, tr (some b))]) dX6_restore_85 1 rfl (E.lt (by decide)) rfl ?_
    refine r_goto 31 dX6_restore_88 (by decide) ?_
    refine r_sub [1, 0] rfl ?_
    exact hK31 (sA (sA (sA (sA s 5 a1 (gA s 56 a1)) 16 a1 (gA (sA s 5 a1 (gA s 56 a1)) 59 a1)) 17 a1 (gA (sA (sA s 5 a1 (gA s 56 a1)) 16 a1 (gA (sA s 5 a1 (gA s 56 a1)) 59 a1)) 60 a1)) 18 a1 (gA (sA (sA (sA s 5 a1 (gA s 56 a1)) 16 a1 (gA (sA s 5 a1 (gA s 56 a1)) 59 a1)) 17 a1 (gA (sA (sA s 5 a1 (gA s 56 a1)) 16 a1 (gA (sA s 5 a1 (gA s 56 a1)) 59 a1)) 60 a1)) 61 a1)) (wr (a1 + 1)) (wr_r _) e
def fX6_restore_L31  : Nat → Sg → Int → Option (Int × Sg)
  | 0, _, _ => none
  | n9 + 1, s, a1 => fX6_restore_b31 (fX6_restore_L31 n9) s a1
theorem wX6_restore_L31 {N : Nx} {b : Nat} {ad : Nat → Nat} {s' : Sg} {h : hS} {r : Int} (E : EndX N [(6, b, ad)] 2 (some .int) (some (ti r)) [s'] h)  : ∀ (n9 : Nat), ∀ (s : Sg) (a1 : Int) (ha1 : rI a1), fX6_restore_L31 n9 s a1 = some (r, s') → AtPc cX6_restore RX6 1 22 N [s] h 31 [(0, tr (some b)), (1, ti a1)] [] := by
  intro n9
  induction n9 with
  | zero => intro s a1 ha1 e; cases e
  | succ n9 ih => intro s a1 ha1 e; exact wX6_restore_b31 E _ ih s a1 ha1 e
def fX6_restore  (s : Sg) : Option (Int × Sg) := if (gI s 53) = 0 then fX6_restore_b18 s else if (gI s 54) = (gI s 0) then fX6_restore_L31 FU (sI s 15 (gI s 55)) 0 else fX6_restore_b18 s
theorem kX6_restore {G : Gx}  {b : Nat} {ad : Nat → Nat} {s' : Sg} {h : hS} {r : Int} {s : Sg}    (e : fX6_restore s = some (r, s')) : CtX G yX6_restore cX6_restore 2 (some .int) 1 22 [(6, b, ad)] [s] h [tr (some b)] (some (ti r)) [s'] h := by
  refine CtX.of (by decide) (Nat.le_of_ble_eq_true rfl) [(0, tr (some b))] rfl ?_
  have E : EndX (G, 2, [(6, b, ad)], h, [s'], h, (some .int), (some (ti r)), yX6_restore.name) [(6, b, ad)] 2 (some .int) (some (ti r)) [s'] h := ⟨rfl, rfl, rfl, rfl, rfl, rfl⟩
  unfold fX6_restore at e
  refine r_rrs E.p (fun rr => ?_)
  refine r_aload_n dX6_restore_0 rfl 0 rfl ?_
  refine r_sI E.p 53 fG_X6_411 (by decide) dX6_restore_1 ?_
  have eT := (r_ifo e).1
  have eF := (r_ifo e).2
  refine r_if_eq ((rr.mine rfl).i 53 (by decide) (by decide)) 18 dX6_restore_4 (by decide) (fun c1 => ?_) (fun c1 => ?_)
  · have e := eT c1
    refine r_sub [] rfl ?_
    exact wX6_restore_b18 E s e
  · have e := eF c1
    refine r_aload_n dX6_restore_7 rfl 0 rfl ?_
    refine r_sI E.p 54 fG_X6_414 (by decide) dX6_restore_8 ?_
    refine r_aload_n dX6_restore_11 rfl 0 rfl ?_
    refine r_sI E.p 0 fG_X6_227 (by decide) dX6_restore_12 ?_
    have eT := (r_ifo e).1
    have eF := (r_ifo e).2
    refine r_icmp_eq ((rr.mine rfl).i 54 (by decide) (by decide)) ((rr.mine rfl).i 0 (by decide) (by decide)) 21 dX6_restore_15 (by decide) (fun c2 => ?_) (fun c2 => ?_)
    · have e := eT c2
      refine r_aload_n dX6_restore_21 rfl 0 rfl ?_
      refine r_aload_n dX6_restore_22 rfl 0 rfl ?_
      refine r_sI E.p 55 fG_X6_417 (by decide) dX6_restore_23 ?_
      refine r_sPI E.p 15 fP_X6_230 rfl ((rr.mine rfl).i 55 (by decide) (by decide)) dX6_restore_26 ?_
      refine r_rrs E.p (fun rr3 => ?_)
      refine r_iconst dX6_restore_29 ?_
      refine r_istore_n (lv' := [(1, ti 0), (0, tr (some b))]) dX6_restore_30 rfl (E.lt (by decide)) rfl ?_
      refine r_sub [1, 0] rfl ?_
      exact wX6_restore_L31 E FU (sI s 15 (gI s 55)) 0 (by decide) e
    · have e := eF c2
      refine r_sub [] rfl ?_
      exact wX6_restore_b18 E s e
def fX6_unsound_b26 (K4 : Sg → Int → Int → Option (Int)) (s : Sg) (a2 : Int) (k0 : Int) (k1 : Int) : Option (Int) := K4 s (wr (k0 + k1)) (wr (a2 + 1))
theorem wX6_unsound_b26 {N : Nx} {b : Nat} {ad : Nat → Nat} {s : Sg} {h : hS} {r : Int} (E : EndX N [(6, b, ad)] 3 (some .int) (some (ti r)) [s] h) (K4 : Sg → Int → Int → Option (Int)) (hK4 : ∀ (a1 : Int) (a2 : Int) (ha1 : rI a1) (ha2 : rI a2), K4 s a1 a2 = some (r) → AtPc cX6_unsound RX6 2 41 N [s] h 4 [(0, tr (some b)), (1, ti a1), (2, ti a2)] []) (a2 : Int) (k0 : Int) (k1 : Int) (ha2 : rI a2) (hk0 : rI k0) (hk1 : rI k1) (e : fX6_unsound_b26 K4 s a2 k0 k1 = some (r)) : AtPc cX6_unsound RX6 2 41 N [s] h 26 [(0, tr (some b)), (2, ti a2)] [ti k1, ti k0] := by
  unfold fX6_unsound_b26 at e
  refine r_rrs E.p (fun rr => ?_)
  refine r_iadd dX6_unsound_26 ?_
  refine r_istore_n (lv' := [(1, ti (wr (k0 + k1))), (0, tr (some b)), (2, ti a2)]) dX6_unsound_27 rfl (E.lt (by decide)) rfl ?_
  refine r_iinc (lv' := [(2, ti (wr (a2 + 1))), (1, ti (wr (k0 + k1))), (0, tr (some b))]) dX6_unsound_28 2 rfl (E.lt (by decide)) rfl ?_
  refine r_goto 4 dX6_unsound_31 (by decide) ?_
  refine r_sub [2, 1, 0] rfl ?_
  exact hK4 (wr (k0 + k1)) (wr (a2 + 1)) (wr_r _) (wr_r _) e
def fX6_unsound_b4 (K4 : Sg → Int → Int → Option (Int)) (s : Sg) (a1 : Int) (a2 : Int) : Option (Int) := if (gI s 4) ≤ a2 then some a1 else bd (fX6_isSound s a2) fun p2 => if p2 = 0 then fX6_unsound_b26 K4 s a2 a1 1 else fX6_unsound_b26 K4 s a2 a1 0
theorem wX6_unsound_b4 {N : Nx} {b : Nat} {ad : Nat → Nat} {s : Sg} {h : hS} {r : Int} (E : EndX N [(6, b, ad)] 3 (some .int) (some (ti r)) [s] h) (K4 : Sg → Int → Int → Option (Int)) (hK4 : ∀ (a1 : Int) (a2 : Int) (ha1 : rI a1) (ha2 : rI a2), K4 s a1 a2 = some (r) → AtPc cX6_unsound RX6 2 41 N [s] h 4 [(0, tr (some b)), (1, ti a1), (2, ti a2)] []) (a1 : Int) (a2 : Int) (ha1 : rI a1) (ha2 : rI a2) (e : fX6_unsound_b4 K4 s a1 a2 = some (r)) : AtPc cX6_unsound RX6 2 41 N [s] h 4 [(0, tr (some b)), (1, ti a1), (2, ti a2)] [] := by
  unfold fX6_unsound_b4 at e
  refine r_rrs E.p (fun rr => ?_)
  refine r_iload_n dX6_unsound_4 rfl 2 rfl ?_
  refine r_aload_n dX6_unsound_5 rfl 0 rfl ?_
  refine r_sI E.p 4 fG_X6_217 (by decide) dX6_unsound_6 ?_
  have eT := (r_ifo e).1
  have eF := (r_ifo e).2
  refine r_icmp_ge ha2 ((rr.mine rfl).i 4 (by decide) (by decide)) 34 dX6_unsound_9 (by decide) (fun c1 => ?_) (fun c1 => ?_)
  · have e := eT c1
    refine r_iload_n dX6_unsound_34 rfl 1 rfl ?_
    cases e
    exact r_iret E.σ E.st E.rt E.r ha1 dX6_unsound_35
  · have e := eF c1
    refine r_iload_n dX6_unsound_12 rfl 1 rfl ?_
    refine r_aload_n dX6_unsound_13 rfl 0 rfl ?_
    refine r_iload_n dX6_unsound_14 rfl 2 rfl ?_
    obtain ⟨p2, q3, e⟩ := bd_o e
    have k4 := kX6_isSound (G := nG N) (b := b) (ad := ad) (h := h) ha2 q3
    have z5 := (k4 rr).1.2.2.2
    refine r_callV (j := some 0) 1 [ti a2] (rec_sg (j := 0) (r := (RX6, TX6, 63)) rfl (by rw [E.p]; rfl)) rfl k4 (injO_1 E.p) (subO_1 E.p) getO_1 setO_1 (lw_V q1722 q1724 qs67 q123 q1725) (by decide +kernel) rfl (Nat.le_of_ble_eq_true rfl) (Nat.le_of_ble_eq_true rfl) rfl (Nat.le_of_ble_eq_true rfl) dX6_unsound_15 rfl ?_
    have eT := (r_ifo e).1
    have eF := (r_ifo e).2
    refine r_if_eq (rI_z z5) 25 dX6_unsound_18 (by decide) (fun c6 => ?_) (fun c6 => ?_)
    · have e := eT c6
      refine r_iconst dX6_unsound_25 ?_
      refine r_sub [0, 2] rfl ?_
      exact wX6_unsound_b26 E K4 hK4 a2 a1 1 ha2 ha1 (by decide) e
    · have e := eF c6
      refine r_iconst dX6_unsound_21 ?_
      refine r_goto 26 dX6_unsound_22 (by decide) ?_
      refine r_sub [0, 2] rfl ?_
      exact wX6_unsound_b26 E K4 hK4 a2 a1 0 ha2 ha1 (by decide) e
def fX6_unsound_L4  : Nat → Sg → Int → Int → Option (Int)
  | 0, _, _, _ => none
  | n9 + 1, s, a1, a2 => fX6_unsound_b4 (fX6_unsound_L4 n9) s a1 a2
theorem wX6_unsound_L4 {N : Nx} {b : Nat} {ad : Nat → Nat} {s : Sg} {h : hS} {r : Int} (E : EndX N [(6, b, ad)] 3 (some .int) (some (ti r)) [s] h)  : ∀ (n9 : Nat), ∀ (a1 : Int) (a2 : Int) (ha1 : rI a1) (ha2 : rI a2), fX6_unsound_L4 n9 s a1 a2 = some (r) → AtPc cX6_unsound RX6 2 41 N [s] h 4 [(0, tr (some b)), (1, ti a1), (2, ti a2)] [] := by
  intro n9
  induction n9 with
  | zero => intro a1 a2 ha1 ha2 e; cases e
  | succ n9 ih => intro a1 a2 ha1 ha2 e; exact wX6_unsound_b4 E _ ih a1 a2 ha1 ha2 e
def fX6_unsound  (s : Sg) : Option (Int) := fX6_unsound_L4 FU s 0 0
theorem kX6_unsound {G : Gx}  {b : Nat} {ad : Nat → Nat} {s : Sg} {h : hS} {r : Int}    (e : fX6_unsound s = some (r)) : CtX G yX6_unsound cX6_unsound 3 (some .int) 2 41 [(6, b, ad)] [s] h [tr (some b)] (some (ti r)) [s] h := by
  refine CtX.of (by decide) (Nat.le_of_ble_eq_true rfl) [(0, tr (some b))] rfl ?_
  have E : EndX (G, 3, [(6, b, ad)], h, [s], h, (some .int), (some (ti r)), yX6_unsound.name) [(6, b, ad)] 3 (some .int) (some (ti r)) [s] h := ⟨rfl, rfl, rfl, rfl, rfl, rfl⟩
  unfold fX6_unsound at e
  refine r_rrs E.p (fun rr => ?_)
  refine r_iconst dX6_unsound_0 ?_
  refine r_istore_n (lv' := [(1, ti 0), (0, tr (some b))]) dX6_unsound_1 rfl (E.lt (by decide)) rfl ?_
  refine r_iconst dX6_unsound_2 ?_
  refine r_istore_n (lv' := [(2, ti 0), (1, ti 0), (0, tr (some b))]) dX6_unsound_3 rfl (E.lt (by decide)) rfl ?_
  refine r_sub [2, 1, 0] rfl ?_
  exact wX6_unsound_L4 E FU 0 0 (by decide) (by decide) e
def fX6_pairsOf_b38 (K4 : Sg → Int → Int → Int → Option (Int × Sg)) (K15 : Sg → Int → Int → Int → Int → Option (Int × Sg)) (s : Sg) (a1 : Int) (a3 : Int) (a4 : Int) (k0 : Int) (k1 : Int) : Option (Int × Sg) := K15 s a1 (wr (k0 + k1)) a3 (wr (a4 + 1))
theorem wX6_pairsOf_b38 {N : Nx} {b : Nat} {ad : Nat → Nat} {s' : Sg} {h : hS} {r : Int} (E : EndX N [(6, b, ad)] 5 (some .int) (some (ti r)) [s'] h) (K4 : Sg → Int → Int → Int → Option (Int × Sg)) (hK4 : ∀ (s : Sg) (a1 : Int) (a2 : Int) (a3 : Int) (ha1 : rI a1) (ha2 : rI a2) (ha3 : rI a3), K4 s a1 a2 a3 = some (r, s') → AtPc cX6_pairsOf RX6 9 206 N [s] h 4 [(0, tr (some b)), (1, ti a1), (2, ti a2), (3, ti a3)] []) (K15 : Sg → Int → Int → Int → Int → Option (Int × Sg)) (hK15 : ∀ (s : Sg) (a1 : Int) (a2 : Int) (a3 : Int) (a4 : Int) (ha1 : rI a1) (ha2 : rI a2) (ha3 : rI a3) (ha4 : rI a4), K15 s a1 a2 a3 a4 = some (r, s') → AtPc cX6_pairsOf RX6 9 206 N [s] h 15 [(0, tr (some b)), (1, ti a1), (2, ti a2), (3, ti a3), (4, ti a4)] []) (s : Sg) (a1 : Int) (a3 : Int) (a4 : Int) (k0 : Int) (k1 : Int) (ha1 : rI a1) (ha3 : rI a3) (ha4 : rI a4) (hk0 : rI k0) (hk1 : rI k1) (e : fX6_pairsOf_b38 K4 K15 s a1 a3 a4 k0 k1 = some (r, s')) : AtPc cX6_pairsOf RX6 9 206 N [s] h 38 [(0, tr (some b)), (1, ti a1), (3, ti a3), (4, ti a4)] [ti k1, ti k0] := by
  unfold fX6_pairsOf_b38 at e
  refine r_rrs E.p (fun rr => ?_)
  refine r_iadd dX6_pairsOf_38 ?_
  refine r_istore_n (lv' := [(2, ti (wr (k0 + k1))), (0, tr (some b)), (1, ti a1), (3, ti a3), (4, ti a4)]) dX6_pairsOf_39 rfl (E.lt (by decide)) rfl ?_
  refine r_iinc (lv' := [(4, ti (wr (a4 + 1))), (2, ti (wr (k0 + k1))), (0, tr (some b)), (1, ti a1), (3, ti a3)]) dX6_pairsOf_40 4 rfl (E.lt (by decide)) rfl ?_
  refine r_goto 15 dX6_pairsOf_43 (by decide) ?_
  refine r_sub [2, 3, 1, 4, 0] rfl ?_
  exact hK15 s a1 (wr (k0 + k1)) a3 (wr (a4 + 1)) ha1 (wr_r _) ha3 (wr_r _) e
def fX6_pairsOf_b15 (K4 : Sg → Int → Int → Int → Option (Int × Sg)) (K15 : Sg → Int → Int → Int → Int → Option (Int × Sg)) (s : Sg) (a1 : Int) (a2 : Int) (a3 : Int) (a4 : Int) : Option (Int × Sg) := if a3 ≤ a4 then K4 s a1 a2 (wr (a3 + 1)) else bd (fX6_pairNow s a3 a4 a1) fun p2 => if p2.1 = 0 then fX6_pairsOf_b38 K4 K15 p2.2 a1 a3 a4 a2 0 else fX6_pairsOf_b38 K4 K15 p2.2 a1 a3 a4 a2 1
theorem wX6_pairsOf_b15 {N : Nx} {b : Nat} {ad : Nat → Nat} {s' : Sg} {h : hS} {r : Int} (E : EndX N [(6, b, ad)] 5 (some .int) (some (ti r)) [s'] h) (K4 : Sg → Int → Int → Int → Option (Int × Sg)) (hK4 : ∀ (s : Sg) (a1 : Int) (a2 : Int) (a3 : Int) (ha1 : rI a1) (ha2 : rI a2) (ha3 : rI a3), K4 s a1 a2 a3 = some (r, s') → AtPc cX6_pairsOf RX6 9 206 N [s] h 4 [(0, tr (some b)), (1, ti a1), (2, ti a2), (3, ti a3)] []) (K15 : Sg → Int → Int → Int → Int → Option (Int × Sg)) (hK15 : ∀ (s : Sg) (a1 : Int) (a2 : Int) (a3 : Int) (a4 : Int) (ha1 : rI a1) (ha2 : rI a2) (ha3 : rI a3) (ha4 : rI a4), K15 s a1 a2 a3 a4 = some (r, s') → AtPc cX6_pairsOf RX6 9 206 N [s] h 15 [(0, tr (some b)), (1, ti a1), (2, ti a2), (3, ti a3), (4, ti a4)] []) (s : Sg) (a1 : Int) (a2 : Int) (a3 : Int) (a4 : Int) (ha1 : rI a1) (ha2 : rI a2) (ha3 : rI a3) (ha4 : rI a4) (e : fX6_pairsOf_b15 K4 K15 s a1 a2 a3 a4 = some (r, s')) : AtPc cX6_pairsOf RX6 9 206 N [s] h 15 [(0, tr (some b)), (1, ti a1), (2, ti a2), (3, ti a3), (4, ti a4)] [] := by
  unfold fX6_pairsOf_b15 at e
  refine r_rrs E.p (fun rr => ?_)
  refine r_iload dX6_pairsOf_15 4 rfl ?_
  refine r_iload_n dX6_pairsOf_17 rfl 3 rfl ?_
  have eT := (r_ifo e).1
  have eF := (r_ifo e).2
  refine r_icmp_ge ha4 ha3 46 dX6_pairsOf_18 (by decide) (fun c1 => ?_) (fun c1 => ?_)
  · have e := eT c1
    refine r_iinc (lv' := [(3, ti (wr (a3 + 1))), (0, tr (some b)), (1, ti a1), (2, ti a2), (4, ti a4)]) dX6_pairsOf_46 3 rfl (E.lt (by decide)) rfl ?_
    refine r_goto 4 dX6_pairsOf_49 (by decide) ?_
    refine r_sub [1, 2, 3, 0] rfl ?_
    exact hK4 s a1 a2 (wr (a3 + 1)) ha1 ha2 (wr_r _) e
  · have e := eF c1
    refine r_iload_n dX6_pairsOf_21 rfl 2 rfl ?_
    refine r_aload_n dX6_pairsOf_22 rfl 0 rfl ?_
    refine r_iload_n dX6_pairsOf_23 rfl 3 rfl ?_
    refine r_iload dX6_pairsOf_24 4 rfl ?_
    refine r_iload_n dX6_pairsOf_26 rfl 1 rfl ?_
    obtain ⟨p2, q3, e⟩ := bd_o e
    have k4 := kX6_pairNow (G := nG N) (b := b) (ad := ad) (h := h) ha3 ha4 ha1 q3
    have z5 := (k4 rr).1.2.2.2
    refine r_callV (j := some 0) 3 [ti a3, ti a4, ti a1] (rec_sg (j := 0) (r := (RX6, TX6, 63)) rfl (by rw [E.p]; rfl)) rfl k4 (injO_1 E.p) (subO_1 E.p) getO_1 setO_1 (lw_V q1797 q1799 qs81 q123 q1800) (by decide +kernel) rfl (Nat.le_of_ble_eq_true rfl) (Nat.le_of_ble_eq_true rfl) rfl (Nat.le_of_ble_eq_true rfl) dX6_pairsOf_27 rfl ?_
    refine r_rrs E.p (fun rr6 => ?_)
    have eT := (r_ifo e).1
    have eF := (r_ifo e).2
    refine r_if_eq (rI_z z5) 37 dX6_pairsOf_30 (by decide) (fun c7 => ?_) (fun c7 => ?_)
    · have e := eT c7
      refine r_iconst dX6_pairsOf_37 ?_
      refine r_sub [0, 1, 3, 4] rfl ?_
      exact wX6_pairsOf_b38 E K4 hK4 K15 hK15 p2.2 a1 a3 a4 a2 0 ha1 ha3 ha4 ha2 (by decide) e
    · have e := eF c7
      refine r_iconst dX6_pairsOf_33 ?_
      refine r_goto 38 dX6_pairsOf_34 (by decide) ?_
      refine r_sub [0, 1, 3, 4] rfl ?_
      exact wX6_pairsOf_b38 E K4 hK4 K15 hK15 p2.2 a1 a3 a4 a2 1 ha1 ha3 ha4 ha2 (by decide) e
def fX6_pairsOf_L15 (K4 : Sg → Int → Int → Int → Option (Int × Sg)) : Nat → Sg → Int → Int → Int → Int → Option (Int × Sg)
  | 0, _, _, _, _, _ => none
  | n9 + 1, s, a1, a2, a3, a4 => fX6_pairsOf_b15 K4 (fX6_pairsOf_L15 K4 n9) s a1 a2 a3 a4
theorem wX6_pairsOf_L15 {N : Nx} {b : Nat} {ad : Nat → Nat} {s' : Sg} {h : hS} {r : Int} (E : EndX N [(6, b, ad)] 5 (some .int) (some (ti r)) [s'] h) (K4 : Sg → Int → Int → Int → Option (Int × Sg)) (hK4 : ∀ (s : Sg) (a1 : Int) (a2 : Int) (a3 : Int) (ha1 : rI a1) (ha2 : rI a2) (ha3 : rI a3), K4 s a1 a2 a3 = some (r, s') → AtPc cX6_pairsOf RX6 9 206 N [s] h 4 [(0, tr (some b)), (1, ti a1), (2, ti a2), (3, ti a3)] []) : ∀ (n9 : Nat), ∀ (s : Sg) (a1 : Int) (a2 : Int) (a3 : Int) (a4 : Int) (ha1 : rI a1) (ha2 : rI a2) (ha3 : rI a3) (ha4 : rI a4), fX6_pairsOf_L15 K4 n9 s a1 a2 a3 a4 = some (r, s') → AtPc cX6_pairsOf RX6 9 206 N [s] h 15 [(0, tr (some b)), (1, ti a1), (2, ti a2), (3, ti a3), (4, ti a4)] [] := by
  intro n9
  induction n9 with
  | zero => intro s a1 a2 a3 a4 ha1 ha2 ha3 ha4 e; cases e
  | succ n9 ih => intro s a1 a2 a3 a4 ha1 ha2 ha3 ha4 e; exact wX6_pairsOf_b15 E K4 hK4 _ ih s a1 a2 a3 a4 ha1 ha2 ha3 ha4 e
def fX6_pairsOf_b4 (K4 : Sg → Int → Int → Int → Option (Int × Sg)) (s : Sg) (a1 : Int) (a2 : Int) (a3 : Int) : Option (Int × Sg) := if (gI s 4) ≤ a3 then some (a2, s) else fX6_pairsOf_L15 K4 FU s a1 a2 a3 0
theorem wX6_pairsOf_b4 {N : Nx} {b : Nat} {ad : Nat → Nat} {s' : Sg} {h : hS} {r : Int} (E : EndX N [(6, b, ad)] 5 (some .int) (some (ti r)) [s'] h) (K4 : Sg → Int → Int → Int → Option (Int × Sg)) (hK4 : ∀ (s : Sg) (a1 : Int) (a2 : Int) (a3 : Int) (ha1 : rI a1) (ha2 : rI a2) (ha3 : rI a3), K4 s a1 a2 a3 = some (r, s') → AtPc cX6_pairsOf RX6 9 206 N [s] h 4 [(0, tr (some b)), (1, ti a1), (2, ti a2), (3, ti a3)] []) (s : Sg) (a1 : Int) (a2 : Int) (a3 : Int) (ha1 : rI a1) (ha2 : rI a2) (ha3 : rI a3) (e : fX6_pairsOf_b4 K4 s a1 a2 a3 = some (r, s')) : AtPc cX6_pairsOf RX6 9 206 N [s] h 4 [(0, tr (some b)), (1, ti a1), (2, ti a2), (3, ti a3)] [] := by
  unfold fX6_pairsOf_b4 at e
  refine r_rrs E.p (fun rr => ?_)
  refine r_iload_n dX6_pairsOf_4 rfl 3 rfl ?_
  refine r_aload_n dX6_pairsOf_5 rfl 0 rfl ?_
  refine r_sI E.p 4 fG_X6_217 (by decide) dX6_pairsOf_6 ?_
  have eT := (r_ifo e).1
  have eF := (r_ifo e).2
  refine r_icmp_ge ha3 ((rr.mine rfl).i 4 (by decide) (by decide)) 52 dX6_pairsOf_9 (by decide) (fun c1 => ?_) (fun c1 => ?_)
  · have e := eT c1
    refine r_iload_n dX6_pairsOf_52 rfl 2 rfl ?_
    cases e
    exact r_iret E.σ E.st E.rt E.r ha2 dX6_pairsOf_53
  · have e := eF c1
    refine r_iconst dX6_pairsOf_12 ?_
    refine r_istore (lv' := [(4, ti 0), (0, tr (some b)), (1, ti a1), (2, ti a2), (3, ti a3)]) dX6_pairsOf_13 (E.lt (by decide)) rfl ?_
    refine r_sub [1, 2, 3, 4, 0] rfl ?_
    exact wX6_pairsOf_L15 E K4 hK4 FU s a1 a2 a3 0 ha1 ha2 ha3 (by decide) e
def fX6_pairsOf_L4  : Nat → Sg → Int → Int → Int → Option (Int × Sg)
  | 0, _, _, _, _ => none
  | n9 + 1, s, a1, a2, a3 => fX6_pairsOf_b4 (fX6_pairsOf_L4 n9) s a1 a2 a3
theorem wX6_pairsOf_L4 {N : Nx} {b : Nat} {ad : Nat → Nat} {s' : Sg} {h : hS} {r : Int} (E : EndX N [(6, b, ad)] 5 (some .int) (some (ti r)) [s'] h)  : ∀ (n9 : Nat), ∀ (s : Sg) (a1 : Int) (a2 : Int) (a3 : Int) (ha1 : rI a1) (ha2 : rI a2) (ha3 : rI a3), fX6_pairsOf_L4 n9 s a1 a2 a3 = some (r, s') → AtPc cX6_pairsOf RX6 9 206 N [s] h 4 [(0, tr (some b)), (1, ti a1), (2, ti a2), (3, ti a3)] [] := by
  intro n9
  induction n9 with
  | zero => intro s a1 a2 a3 ha1 ha2 ha3 e; cases e
  | succ n9 ih => intro s a1 a2 a3 ha1 ha2 ha3 e; exact wX6_pairsOf_b4 E _ ih s a1 a2 a3 ha1 ha2 ha3 e
def fX6_pairsOf  (s : Sg) (a1 : Int) : Option (Int × Sg) := fX6_pairsOf_L4 FU s a1 0 0
theorem kX6_pairsOf {G : Gx}  {b : Nat} {ad : Nat → Nat} {s' : Sg} {h : hS} {r : Int} {s : Sg} {a1 : Int}  (ha1 : rI a1) (e : fX6_pairsOf s a1 = some (r, s')) : CtX G yX6_pairsOf cX6_pairsOf 5 (some .int) 9 206 [(6, b, ad)] [s] h [tr (some b), ti a1] (some (ti r)) [s'] h := by
  refine CtX.of (by decide) (Nat.le_of_ble_eq_true rfl) [(0, tr (some b)), (1, ti a1)] rfl ?_
  have E : EndX (G, 5, [(6, b, ad)], h, [s'], h, (some .int), (some (ti r)), yX6_pairsOf.name) [(6, b, ad)] 5 (some .int) (some (ti r)) [s'] h := ⟨rfl, rfl, rfl, rfl, rfl, rfl⟩
  unfold fX6_pairsOf at e
  refine r_rrs E.p (fun rr => ?_)
  refine r_iconst dX6_pairsOf_0 ?_
  refine r_istore_n (lv' := [(2, ti 0), (0, tr (some b)), (1, ti a1)]) dX6_pairsOf_1 rfl (E.lt (by decide)) rfl ?_
  refine r_iconst dX6_pairsOf_2 ?_
  refine r_istore_n (lv' := [(3, ti 0), (2, ti 0), (0, tr (some b)), (1, ti a1)]) dX6_pairsOf_3 rfl (E.lt (by decide)) rfl ?_
  refine r_sub [2, 3, 1, 0] rfl ?_
  exact wX6_pairsOf_L4 E FU s a1 0 0 ha1 (by decide) (by decide) e
def fX6_lacksOfAll_b4 (K4 : Sg → Int → Int → Option (Int × Sg)) (s : Sg) (a1 : Int) (a2 : Int) : Option (Int × Sg) := if (gI s 4) ≤ a2 then some (a1, s) else bd (fX6_lacksOf s a2) fun p2 => bd (fX6_size p2.1) fun p7 => K4 p2.2 (wr (a1 + p7)) (wr (a2 + 1))
theorem wX6_lacksOfAll_b4 {N : Nx} {b : Nat} {ad : Nat → Nat} {s' : Sg} {h : hS} {r : Int} (E : EndX N [(6, b, ad)] 3 (some .int) (some (ti r)) [s'] h) (K4 : Sg → Int → Int → Option (Int × Sg)) (hK4 : ∀ (s : Sg) (a1 : Int) (a2 : Int) (ha1 : rI a1) (ha2 : rI a2), K4 s a1 a2 = some (r, s') → AtPc cX6_lacksOfAll RX6 7 172 N [s] h 4 [(0, tr (some b)), (1, ti a1), (2, ti a2)] []) (s : Sg) (a1 : Int) (a2 : Int) (ha1 : rI a1) (ha2 : rI a2) (e : fX6_lacksOfAll_b4 K4 s a1 a2 = some (r, s')) : AtPc cX6_lacksOfAll RX6 7 172 N [s] h 4 [(0, tr (some b)), (1, ti a1), (2, ti a2)] [] := by
  unfold fX6_lacksOfAll_b4 at e
  refine r_rrs E.p (fun rr => ?_)
  refine r_iload_n dX6_lacksOfAll_4 rfl 2 rfl ?_
  refine r_aload_n dX6_lacksOfAll_5 rfl 0 rfl ?_
  refine r_sI E.p 4 fG_X6_217 (by decide) dX6_lacksOfAll_6 ?_
  have eT := (r_ifo e).1
  have eF := (r_ifo e).2
  refine r_icmp_ge ha2 ((rr.mine rfl).i 4 (by decide) (by decide)) 29 dX6_lacksOfAll_9 (by decide) (fun c1 => ?_) (fun c1 => ?_)
  · have e := eT c1
    refine r_iload_n dX6_lacksOfAll_29 rfl 1 rfl ?_
    cases e
    exact r_iret E.σ E.st E.rt E.r ha1 dX6_lacksOfAll_30
  · have e := eF c1
    refine r_iload_n dX6_lacksOfAll_12 rfl 1 rfl ?_
    refine r_aload_n dX6_lacksOfAll_13 rfl 0 rfl ?_
    refine r_iload_n dX6_lacksOfAll_14 rfl 2 rfl ?_
    obtain ⟨p2, q3, e⟩ := bd_o e
    have k4 := kX6_lacksOf (G := nG N) (b := b) (ad := ad) (h := h) ha2 q3
    have z5 := (k4 rr).1.2.2.2
    refine r_callV (j := some 0) 1 [ti a2] (rec_sg (j := 0) (r := (RX6, TX6, 63)) rfl (by rw [E.p]; rfl)) rfl k4 (injO_1 E.p) (subO_1 E.p) getO_1 setO_1 (lw_V q1741 q1743 qs70 q123 q1744) (by decide +kernel) rfl (Nat.le_of_ble_eq_true rfl) (Nat.le_of_ble_eq_true rfl) rfl (Nat.le_of_ble_eq_true rfl) dX6_lacksOfAll_15 rfl ?_
    refine r_rrs E.p (fun rr6 => ?_)
    obtain ⟨p7, q8, e⟩ := bd_o e
    have k9 := kX6_size (G := nG N) (h := h) z5 q8
    have z10 := (k9 rr6.none).1.2.2.2
    refine r_callS (j := none) 1 [ti p2.1] k9 (injO_1 E.p) subO_0 getO_0 setO_0 (lw_S q1738 q1739 q123 q1740) (by decide +kernel) rfl (Nat.le_of_ble_eq_true rfl) (Nat.le_of_ble_eq_true rfl) rfl (Nat.le_of_ble_eq_true rfl) dX6_lacksOfAll_18 rfl ?_
    refine r_iadd dX6_lacksOfAll_21 ?_
    refine r_istore_n (lv' := [(1, ti (wr (a1 + p7))), (0, tr (some b)), (2, ti a2)]) dX6_lacksOfAll_22 rfl (E.lt (by decide)) rfl ?_
    refine r_iinc (lv' := [(2, ti (wr (a2 + 1))), (1, ti (wr (a1 + p7))), (0, tr (some b))]) dX6_lacksOfAll_23 2 rfl (E.lt (by decide)) rfl ?_
    refine r_goto 4 dX6_lacksOfAll_26 (by decide) ?_
    refine r_sub [2, 1, 0] rfl ?_
    exact hK4 p2.2 (wr (a1 + p7)) (wr (a2 + 1)) (wr_r _) (wr_r _) e
def fX6_lacksOfAll_L4  : Nat → Sg → Int → Int → Option (Int × Sg)
  | 0, _, _, _ => none
  | n9 + 1, s, a1, a2 => fX6_lacksOfAll_b4 (fX6_lacksOfAll_L4 n9) s a1 a2
theorem wX6_lacksOfAll_L4 {N : Nx} {b : Nat} {ad : Nat → Nat} {s' : Sg} {h : hS} {r : Int} (E : EndX N [(6, b, ad)] 3 (some .int) (some (ti r)) [s'] h)  : ∀ (n9 : Nat), ∀ (s : Sg) (a1 : Int) (a2 : Int) (ha1 : rI a1) (ha2 : rI a2), fX6_lacksOfAll_L4 n9 s a1 a2 = some (r, s') → AtPc cX6_lacksOfAll RX6 7 172 N [s] h 4 [(0, tr (some b)), (1, ti a1), (2, ti a2)] [] := by
  intro n9
  induction n9 with
  | zero => intro s a1 a2 ha1 ha2 e; cases e
  | succ n9 ih => intro s a1 a2 ha1 ha2 e; exact wX6_lacksOfAll_b4 E _ ih s a1 a2 ha1 ha2 e
def fX6_lacksOfAll  (s : Sg) : Option (Int × Sg) := fX6_lacksOfAll_L4 FU s 0 0
theorem kX6_lacksOfAll {G : Gx}  {b : Nat} {ad : Nat → Nat} {s' : Sg} {h : hS} {r : Int} {s : Sg}    (e : fX6_lacksOfAll s = some (r, s')) : CtX G yX6_lacksOfAll cX6_lacksOfAll 3 (some .int) 7 172 [(6, b, ad)] [s] h [tr (some b)] (some (ti r)) [s'] h := by
  refine CtX.of (by decide) (Nat.le_of_ble_eq_true rfl) [(0, tr (some b))] rfl ?_
  have E : EndX (G, 3, [(6, b, ad)], h, [s'], h, (some .int), (some (ti r)), yX6_lacksOfAll.name) [(6, b, ad)] 3 (some .int) (some (ti r)) [s'] h := ⟨rfl, rfl, rfl, rfl, rfl, rfl⟩
  unfold fX6_lacksOfAll at e
  refine r_rrs E.p (fun rr => ?_)
  refine r_iconst dX6_lacksOfAll_0 ?_
  refine r_istore_n (lv' := [(1, ti 0), (0, tr (some b))]) dX6_lacksOfAll_1 rfl (E.lt (by decide)) rfl ?_
  refine r_iconst dX6_lacksOfAll_2 ?_
  refine r_istore_n (lv' := [(2, ti 0), (1, ti 0), (0, tr (some b))]) dX6_lacksOfAll_3 rfl (E.lt (by decide)) rfl ?_
  refine r_sub [2, 1, 0] rfl ?_
  exact wX6_lacksOfAll_L4 E FU s 0 0 (by decide) (by decide) e
def fX6_isSlotLike_b71 (K24 : Sg → Int → Int → Int → Int → Option (Int)) (s : Sg) (a1 : Int) (a2 : Int) (a4 : Int) (k0 : Int) : Option (Int) := K24 s a1 a2 k0 (wr (a4 + 1))
theorem wX6_isSlotLike_b71 {N : Nx} {b : Nat} {ad : Nat → Nat} {s : Sg} {h : hS} {r : Int} (E : EndX N [(6, b, ad)] 5 (some .boolean) (some (ti r)) [s] h) (K24 : Sg → Int → Int → Int → Int → Option (Int)) (hK24 : ∀ (a1 : Int) (a2 : Int) (a3 : Int) (a4 : Int) (ha1 : rI a1) (ha2 : rI a2) (ha3 : rI a3) (ha4 : rI a4), K24 s a1 a2 a3 a4 = some (r) → AtPc cX6_isSlotLike RX6 0 0 N [s] h 24 [(0, tr (some b)), (1, ti a1), (2, ti a2), (3, ti a3), (4, ti a4)] []) (a1 : Int) (a2 : Int) (a4 : Int) (k0 : Int) (ha1 : rI a1) (ha2 : rI a2) (ha4 : rI a4) (hk0 : rI k0) (e : fX6_isSlotLike_b71 K24 s a1 a2 a4 k0 = some (r)) : AtPc cX6_isSlotLike RX6 0 0 N [s] h 71 [(0, tr (some b)), (1, ti a1), (2, ti a2), (4, ti a4)] [ti k0] := by
  unfold fX6_isSlotLike_b71 at e
  refine r_rrs E.p (fun rr => ?_)
  refine r_istore_n (lv' := [(3, ti k0), (0, tr (some b)), (1, ti a1), (2, ti a2), (4, ti a4)]) dX6_isSlotLike_71 rfl (E.lt (by decide)) rfl ?_
  refine r_iinc (lv' := [(4, ti (wr (a4 + 1))), (3, ti k0), (0, tr (some b)), (1, ti a1), (2, ti a2)]) dX6_isSlotLike_72 4 rfl (E.lt (by decide)) rfl ?_
  refine r_goto 24 dX6_isSlotLike_75 (by decide) ?_
  refine r_sub [2, 3, 4, 1, 0] rfl ?_
  exact hK24 a1 a2 k0 (wr (a4 + 1)) ha1 ha2 hk0 (wr_r _) e
def fX6_isSlotLike_b78 (s : Sg) (a3 : Int) : Option (Int) := gd (a3 = 0 ∨ a3 = 1) (some a3)
theorem wX6_isSlotLike_b78 {N : Nx} {b : Nat} {ad : Nat → Nat} {s : Sg} {h : hS} {r : Int} (E : EndX N [(6, b, ad)] 5 (some .boolean) (some (ti r)) [s] h)  (a3 : Int) (ha3 : rI a3) (e : fX6_isSlotLike_b78 s a3 = some (r)) : AtPc cX6_isSlotLike RX6 0 0 N [s] h 78 [(3, ti a3)] [] := by
  unfold fX6_isSlotLike_b78 at e
  refine r_rrs E.p (fun rr => ?_)
  refine r_iload_n dX6_isSlotLike_78 rfl 0 rfl ?_
  obtain ⟨g1, e⟩ := gd_o e
  cases e
  exact r_zret E.σ E.st E.rt E.r g1 dX6_isSlotLike_79
def fX6_isSlotLike_b24 (K24 : Sg → Int → Int → Int → Int → Option (Int)) (s : Sg) (a1 : Int) (a2 : Int) (a3 : Int) (a4 : Int) : Option (Int) := gd (inb a1 4) (if (gA s 14 a1) ≤ a4 then fX6_isSlotLike_b78 s a3 else if a3 = 0 then fX6_isSlotLike_b78 s a3 else gd (inb (wr ((wr (9 * a1)) + a4)) 36) (gd (inb (wr ((wr (9 * a2)) + a4)) 36) (if ¬ (gA s 13 (wr ((wr (9 * a1)) + a4))) = (gA s 13 (wr ((wr (9 * a2)) + a4))) then fX6_isSlotLike_b71 K24 s a1 a2 a4 0 else fX6_isSlotLike_b71 K24 s a1 a2 a4 1)))
theorem wX6_isSlotLike_b24 {N : Nx} {b : Nat} {ad : Nat → Nat} {s : Sg} {h : hS} {r : Int} (E : EndX N [(6, b, ad)] 5 (some .boolean) (some (ti r)) [s] h) (K24 : Sg → Int → Int → Int → Int → Option (Int)) (hK24 : ∀ (a1 : Int) (a2 : Int) (a3 : Int) (a4 : Int) (ha1 : rI a1) (ha2 : rI a2) (ha3 : rI a3) (ha4 : rI a4), K24 s a1 a2 a3 a4 = some (r) → AtPc cX6_isSlotLike RX6 0 0 N [s] h 24 [(0, tr (some b)), (1, ti a1), (2, ti a2), (3, ti a3), (4, ti a4)] []) (a1 : Int) (a2 : Int) (a3 : Int) (a4 : Int) (ha1 : rI a1) (ha2 : rI a2) (ha3 : rI a3) (ha4 : rI a4) (e : fX6_isSlotLike_b24 K24 s a1 a2 a3 a4 = some (r)) : AtPc cX6_isSlotLike RX6 0 0 N [s] h 24 [(0, tr (some b)), (1, ti a1), (2, ti a2), (3, ti a3), (4, ti a4)] [] := by
  unfold fX6_isSlotLike_b24 at e
  refine r_rrs E.p (fun rr => ?_)
  refine r_iload dX6_isSlotLike_24 4 rfl ?_
  refine r_aload_n dX6_isSlotLike_26 rfl 0 rfl ?_
  refine r_sR E.p 14 fG_X6_43 (by decide) dX6_isSlotLike_27 ?_
  refine r_iload_n dX6_isSlotLike_30 rfl 1 rfl ?_
  obtain ⟨g1, e⟩ := gd_o e
  refine r_saI E.p 14 rfl (by decide) (by decide) ha1 g1 rfl dX6_isSlotLike_31 ?_
  have eT := (r_ifo e).1
  have eF := (r_ifo e).2
  refine r_icmp_ge ha4 (((rr.mine rfl).a 14 (by decide) rfl).1 _) 78 dX6_isSlotLike_32 (by decide) (fun c2 => ?_) (fun c2 => ?_)
  · have e := eT c2
    refine r_sub [3] rfl ?_
    exact wX6_isSlotLike_b78 E a3 ha3 e
  · have e := eF c2
    refine r_iload_n dX6_isSlotLike_35 rfl 3 rfl ?_
    have eT := (r_ifo e).1
    have eF := (r_ifo e).2
    refine r_if_eq ha3 78 dX6_isSlotLike_36 (by decide) (fun c3 => ?_) (fun c3 => ?_)
    · have e := eT c3
      refine r_sub [3] rfl ?_
      exact wX6_isSlotLike_b78 E a3 ha3 e
    · have e := eF c3
      refine r_aload_n dX6_isSlotLike_39 rfl 0 rfl ?_
      refine r_sR E.p 13 fG_X6_40 (by decide) dX6_isSlotLike_40 ?_
      refine r_bipush dX6_isSlotLike_43 (by decide) ?_
      refine r_iload_n dX6_isSlotLike_45 rfl 1 rfl ?_
      refine r_imul dX6_isSlotLike_46 ?_
      refine r_iload dX6_isSlotLike_47 4 rfl ?_
      refine r_iadd dX6_isSlotLike_49 ?_
      obtain ⟨g4, e⟩ := gd_o e
      refine r_saI E.p 13 rfl (by decide) (by decide) (wr_r _) g4 rfl dX6_isSlotLike_50 ?_
      refine r_aload_n dX6_isSlotLike_51 rfl 0 rfl ?_
      refine r_sR E.p 13 fG_X6_40 (by decide) dX6_isSlotLike_52 ?_
      refine r_bipush dX6_isSlotLike_55 (by decide) ?_
      refine r_iload_n dX6_isSlotLike_57 rfl 2 rfl ?_
      refine r_imul dX6_isSlotLike_58 ?_
      refine r_iload dX6_isSlotLike_59 4 rfl ?_
      refine r_iadd dX6_isSlotLike_61 ?_
      obtain ⟨g5, e⟩ := gd_o e
      refine r_saI E.p 13 rfl (by decide) (by decide) (wr_r _) g5 rfl dX6_isSlotLike_62 ?_
      have eT := (r_ifo e).1
      have eF := (r_ifo e).2
      refine r_icmp_ne (((rr.mine rfl).a 13 (by decide) rfl).1 _) (((rr.mine rfl).a 13 (by decide) rfl).1 _) 70 dX6_isSlotLike_63 (by decide) (fun c6 => ?_) (fun c6 => ?_)
      · have e := eT c6
        refine r_iconst dX6_isSlotLike_70 ?_
        refine r_sub [0, 1, 2, 4] rfl ?_
        exact wX6_isSlotLike_b71 E K24 hK24 a1 a2 a4 0 ha1 ha2 ha4 (by decide) e
      · have e := eF c6
        refine r_iconst dX6_isSlotLike_66 ?_
        refine r_goto 71 dX6_isSlotLike_67 (by decide) ?_
        refine r_sub [0, 1, 2, 4] rfl ?_
        exact wX6_isSlotLike_b71 E K24 hK24 a1 a2 a4 1 ha1 ha2 ha4 (by decide) e
def fX6_isSlotLike_L24  : Nat → Sg → Int → Int → Int → Int → Option (Int)
  | 0, _, _, _, _, _ => none
  | n9 + 1, s, a1, a2, a3, a4 => fX6_isSlotLike_b24 (fX6_isSlotLike_L24 n9) s a1 a2 a3 a4
theorem wX6_isSlotLike_L24 {N : Nx} {b : Nat} {ad : Nat → Nat} {s : Sg} {h : hS} {r : Int} (E : EndX N [(6, b, ad)] 5 (some .boolean) (some (ti r)) [s] h)  : ∀ (n9 : Nat), ∀ (a1 : Int) (a2 : Int) (a3 : Int) (a4 : Int) (ha1 : rI a1) (ha2 : rI a2) (ha3 : rI a3) (ha4 : rI a4), fX6_isSlotLike_L24 n9 s a1 a2 a3 a4 = some (r) → AtPc cX6_isSlotLike RX6 0 0 N [s] h 24 [(0, tr (some b)), (1, ti a1), (2, ti a2), (3, ti a3), (4, ti a4)] [] := by
  intro n9
  induction n9 with
  | zero => intro a1 a2 a3 a4 ha1 ha2 ha3 ha4 e; cases e
  | succ n9 ih => intro a1 a2 a3 a4 ha1 ha2 ha3 ha4 e; exact wX6_isSlotLike_b24 E _ ih a1 a2 a3 a4 ha1 ha2 ha3 ha4 e
def fX6_isSlotLike_b20 (s : Sg) (a1 : Int) (a2 : Int) (k0 : Int) : Option (Int) := fX6_isSlotLike_L24 FU s a1 a2 k0 0
theorem wX6_isSlotLike_b20 {N : Nx} {b : Nat} {ad : Nat → Nat} {s : Sg} {h : hS} {r : Int} (E : EndX N [(6, b, ad)] 5 (some .boolean) (some (ti r)) [s] h)  (a1 : Int) (a2 : Int) (k0 : Int) (ha1 : rI a1) (ha2 : rI a2) (hk0 : rI k0) (e : fX6_isSlotLike_b20 s a1 a2 k0 = some (r)) : AtPc cX6_isSlotLike RX6 0 0 N [s] h 20 [(0, tr (some b)), (1, ti a1), (2, ti a2)] [ti k0] := by
  unfold fX6_isSlotLike_b20 at e
  refine r_rrs E.p (fun rr => ?_)
  refine r_istore_n (lv' := [(3, ti k0), (0, tr (some b)), (1, ti a1), (2, ti a2)]) dX6_isSlotLike_20 rfl (E.lt (by decide)) rfl ?_
  refine r_iconst dX6_isSlotLike_21 ?_
  refine r_istore (lv' := [(4, ti 0), (3, ti k0), (0, tr (some b)), (1, ti a1), (2, ti a2)]) dX6_isSlotLike_22 (E.lt (by decide)) rfl ?_
  refine r_sub [2, 3, 4, 1, 0] rfl ?_
  exact wX6_isSlotLike_L24 E FU a1 a2 k0 0 ha1 ha2 hk0 (by decide) e
def fX6_isSlotLike  (s : Sg) (a1 : Int) (a2 : Int) : Option (Int) := gd (inb a1 4) (gd (inb a2 4) (if ¬ (gA s 14 a1) = (gA s 14 a2) then fX6_isSlotLike_b20 s a1 a2 0 else fX6_isSlotLike_b20 s a1 a2 1))
theorem kX6_isSlotLike {G : Gx}  {b : Nat} {ad : Nat → Nat} {s : Sg} {h : hS} {r : Int} {a1 : Int} {a2 : Int}  (ha1 : rI a1) (ha2 : rI a2) (e : fX6_isSlotLike s a1 a2 = some (r)) : CtX G yX6_isSlotLike cX6_isSlotLike 5 (some .boolean) 0 0 [(6, b, ad)] [s] h [tr (some b), ti a1, ti a2] (some (ti r)) [s] h := by
  refine CtX.of (by decide) (Nat.le_of_ble_eq_true rfl) [(0, tr (some b)), (1, ti a1), (2, ti a2)] rfl ?_
  have E : EndX (G, 5, [(6, b, ad)], h, [s], h, (some .boolean), (some (ti r)), yX6_isSlotLike.name) [(6, b, ad)] 5 (some .boolean) (some (ti r)) [s] h := ⟨rfl, rfl, rfl, rfl, rfl, rfl⟩
  unfold fX6_isSlotLike at e
  refine r_rrs E.p (fun rr => ?_)
  refine r_aload_n dX6_isSlotLike_0 rfl 0 rfl ?_
  refine r_sR E.p 14 fG_X6_43 (by decide) dX6_isSlotLike_1 ?_
  refine r_iload_n dX6_isSlotLike_4 rfl 1 rfl ?_
  obtain ⟨g1, e⟩ := gd_o e
  refine r_saI E.p 14 rfl (by decide) (by decide) ha1 g1 rfl dX6_isSlotLike_5 ?_
  refine r_aload_n dX6_isSlotLike_6 rfl 0 rfl ?_
  refine r_sR E.p 14 fG_X6_43 (by decide) dX6_isSlotLike_7 ?_
  refine r_iload_n dX6_isSlotLike_10 rfl 2 rfl ?_
  obtain ⟨g2, e⟩ := gd_o e
  refine r_saI E.p 14 rfl (by decide) (by decide) ha2 g2 rfl dX6_isSlotLike_11 ?_
  have eT := (r_ifo e).1
  have eF := (r_ifo e).2
  refine r_icmp_ne (((rr.mine rfl).a 14 (by decide) rfl).1 _) (((rr.mine rfl).a 14 (by decide) rfl).1 _) 19 dX6_isSlotLike_12 (by decide) (fun c3 => ?_) (fun c3 => ?_)
  · have e := eT c3
    refine r_iconst dX6_isSlotLike_19 ?_
    exact wX6_isSlotLike_b20 E a1 a2 0 ha1 ha2 (by decide) e
  · have e := eF c3
    refine r_iconst dX6_isSlotLike_15 ?_
    refine r_goto 20 dX6_isSlotLike_16 (by decide) ?_
    exact wX6_isSlotLike_b20 E a1 a2 1 ha1 ha2 (by decide) e
def fX6_differentTypes_b52 (K4 : Sg → Int → Int → Option (Int)) (K27 : Sg → Int → Int → Int → Int → Option (Int)) (s : Sg) (a1 : Int) (a2 : Int) (a4 : Int) (k0 : Int) : Option (Int) := K27 s a1 a2 k0 (wr (a4 + 1))
theorem wX6_differentTypes_b52 {N : Nx} {b : Nat} {ad : Nat → Nat} {s : Sg} {h : hS} {r : Int} (E : EndX N [(6, b, ad)] 5 (some .int) (some (ti r)) [s] h) (K4 : Sg → Int → Int → Option (Int)) (hK4 : ∀ (a1 : Int) (a2 : Int) (ha1 : rI a1) (ha2 : rI a2), K4 s a1 a2 = some (r) → AtPc cX6_differentTypes RX6 1 24 N [s] h 4 [(0, tr (some b)), (1, ti a1), (2, ti a2)] []) (K27 : Sg → Int → Int → Int → Int → Option (Int)) (hK27 : ∀ (a1 : Int) (a2 : Int) (a3 : Int) (a4 : Int) (ha1 : rI a1) (ha2 : rI a2) (ha3 : rI a3) (ha4 : rI a4), K27 s a1 a2 a3 a4 = some (r) → AtPc cX6_differentTypes RX6 1 24 N [s] h 27 [(0, tr (some b)), (1, ti a1), (2, ti a2), (3, ti a3), (4, ti a4)] []) (a1 : Int) (a2 : Int) (a4 : Int) (k0 : Int) (ha1 : rI a1) (ha2 : rI a2) (ha4 : rI a4) (hk0 : rI k0) (e : fX6_differentTypes_b52 K4 K27 s a1 a2 a4 k0 = some (r)) : AtPc cX6_differentTypes RX6 1 24 N [s] h 52 [(0, tr (some b)), (1, ti a1), (2, ti a2), (4, ti a4)] [ti k0] := by
  unfold fX6_differentTypes_b52 at e
  refine r_rrs E.p (fun rr => ?_)
  refine r_istore_n (lv' := [(3, ti k0), (0, tr (some b)), (1, ti a1), (2, ti a2), (4, ti a4)]) dX6_differentTypes_52 rfl (E.lt (by decide)) rfl ?_
  refine r_iinc (lv' := [(4, ti (wr (a4 + 1))), (3, ti k0), (0, tr (some b)), (1, ti a1), (2, ti a2)]) dX6_differentTypes_53 4 rfl (E.lt (by decide)) rfl ?_
  refine r_goto 27 dX6_differentTypes_56 (by decide) ?_
  refine r_sub [2, 3, 4, 1, 0] rfl ?_
  exact hK27 a1 a2 k0 (wr (a4 + 1)) ha1 ha2 hk0 (wr_r _) e
def fX6_differentTypes_b51 (K4 : Sg → Int → Int → Option (Int)) (K27 : Sg → Int → Int → Int → Int → Option (Int)) (s : Sg) (a1 : Int) (a2 : Int) (a4 : Int) : Option (Int) := fX6_differentTypes_b52 K4 K27 s a1 a2 a4 0
theorem wX6_differentTypes_b51 {N : Nx} {b : Nat} {ad : Nat → Nat} {s : Sg} {h : hS} {r : Int} (E : EndX N [(6, b, ad)] 5 (some .int) (some (ti r)) [s] h) (K4 : Sg → Int → Int → Option (Int)) (hK4 : ∀ (a1 : Int) (a2 : Int) (ha1 : rI a1) (ha2 : rI a2), K4 s a1 a2 = some (r) → AtPc cX6_differentTypes RX6 1 24 N [s] h 4 [(0, tr (some b)), (1, ti a1), (2, ti a2)] []) (K27 : Sg → Int → Int → Int → Int → Option (Int)) (hK27 : ∀ (a1 : Int) (a2 : Int) (a3 : Int) (a4 : Int) (ha1 : rI a1) (ha2 : rI a2) (ha3 : rI a3) (ha4 : rI a4), K27 s a1 a2 a3 a4 = some (r) → AtPc cX6_differentTypes RX6 1 24 N [s] h 27 [(0, tr (some b)), (1, ti a1), (2, ti a2), (3, ti a3), (4, ti a4)] []) (a1 : Int) (a2 : Int) (a4 : Int) (ha1 : rI a1) (ha2 : rI a2) (ha4 : rI a4) (e : fX6_differentTypes_b51 K4 K27 s a1 a2 a4 = some (r)) : AtPc cX6_differentTypes RX6 1 24 N [s] h 51 [(0, tr (some b)), (1, ti a1), (2, ti a2), (4, ti a4)] [] := by
  unfold fX6_differentTypes_b51 at e
  refine r_rrs E.p (fun rr => ?_)
  refine r_iconst dX6_differentTypes_51 ?_
  exact wX6_differentTypes_b52 E K4 hK4 K27 hK27 a1 a2 a4 0 ha1 ha2 ha4 (by decide) e
def fX6_differentTypes_b69 (K4 : Sg → Int → Int → Option (Int)) (s : Sg) (a2 : Int) (k0 : Int) (k1 : Int) : Option (Int) := K4 s (wr (k0 + k1)) (wr (a2 + 1))
theorem wX6_differentTypes_b69 {N : Nx} {b : Nat} {ad : Nat → Nat} {s : Sg} {h : hS} {r : Int} (E : EndX N [(6, b, ad)] 5 (some .int) (some (ti r)) [s] h) (K4 : Sg → Int → Int → Option (Int)) (hK4 : ∀ (a1 : Int) (a2 : Int) (ha1 : rI a1) (ha2 : rI a2), K4 s a1 a2 = some (r) → AtPc cX6_differentTypes RX6 1 24 N [s] h 4 [(0, tr (some b)), (1, ti a1), (2, ti a2)] []) (a2 : Int) (k0 : Int) (k1 : Int) (ha2 : rI a2) (hk0 : rI k0) (hk1 : rI k1) (e : fX6_differentTypes_b69 K4 s a2 k0 k1 = some (r)) : AtPc cX6_differentTypes RX6 1 24 N [s] h 69 [(0, tr (some b)), (2, ti a2)] [ti k1, ti k0] := by
  unfold fX6_differentTypes_b69 at e
  refine r_rrs E.p (fun rr => ?_)
  refine r_iadd dX6_differentTypes_69 ?_
  refine r_istore_n (lv' := [(1, ti (wr (k0 + k1))), (0, tr (some b)), (2, ti a2)]) dX6_differentTypes_70 rfl (E.lt (by decide)) rfl ?_
  refine r_iinc (lv' := [(2, ti (wr (a2 + 1))), (1, ti (wr (k0 + k1))), (0, tr (some b))]) dX6_differentTypes_71 2 rfl (E.lt (by decide)) rfl ?_
  refine r_goto 4 dX6_differentTypes_74 (by decide) ?_
  refine r_sub [2, 1, 0] rfl ?_
  exact hK4 (wr (k0 + k1)) (wr (a2 + 1)) (wr_r _) (wr_r _) e
def fX6_differentTypes_b27 (K4 : Sg → Int → Int → Option (Int)) (K27 : Sg → Int → Int → Int → Int → Option (Int)) (s : Sg) (a1 : Int) (a2 : Int) (a3 : Int) (a4 : Int) : Option (Int) := if a2 ≤ a4 then if a3 = 0 then fX6_differentTypes_b69 K4 s a2 a1 0 else fX6_differentTypes_b69 K4 s a2 a1 1 else if a3 = 0 then fX6_differentTypes_b51 K4 K27 s a1 a2 a4 else bd (fX6_isSlotLike s a2 a4) fun p4 => if ¬ p4 = 0 then fX6_differentTypes_b51 K4 K27 s a1 a2 a4 else fX6_differentTypes_b52 K4 K27 s a1 a2 a4 1
theorem wX6_differentTypes_b27 {N : Nx} {b : Nat} {ad : Nat → Nat} {s : Sg} {h : hS} {r : Int} (E : EndX N [(6, b, ad)] 5 (some .int) (some (ti r)) [s] h) (K4 : Sg → Int → Int → Option (Int)) (hK4 : ∀ (a1 : Int) (a2 : Int) (ha1 : rI a1) (ha2 : rI a2), K4 s a1 a2 = some (r) → AtPc cX6_differentTypes RX6 1 24 N [s] h 4 [(0, tr (some b)), (1, ti a1), (2, ti a2)] []) (K27 : Sg → Int → Int → Int → Int → Option (Int)) (hK27 : ∀ (a1 : Int) (a2 : Int) (a3 : Int) (a4 : Int) (ha1 : rI a1) (ha2 : rI a2) (ha3 : rI a3) (ha4 : rI a4), K27 s a1 a2 a3 a4 = some (r) → AtPc cX6_differentTypes RX6 1 24 N [s] h 27 [(0, tr (some b)), (1, ti a1), (2, ti a2), (3, ti a3), (4, ti a4)] []) (a1 : Int) (a2 : Int) (a3 : Int) (a4 : Int) (ha1 : rI a1) (ha2 : rI a2) (ha3 : rI a3) (ha4 : rI a4) (e : fX6_differentTypes_b27 K4 K27 s a1 a2 a3 a4 = some (r)) : AtPc cX6_differentTypes RX6 1 24 N [s] h 27 [(0, tr (some b)), (1, ti a1), (2, ti a2), (3, ti a3), (4, ti a4)] [] := by
  unfold fX6_differentTypes_b27 at e
  refine r_rrs E.p (fun rr => ?_)
  refine r_iload dX6_differentTypes_27 4 rfl ?_
  refine r_iload_n dX6_differentTypes_29 rfl 2 rfl ?_
  have eT := (r_ifo e).1
  have eF := (r_ifo e).2
  refine r_icmp_ge ha4 ha2 59 dX6_differentTypes_30 (by decide) (fun c1 => ?_) (fun c1 => ?_)
  · have e := eT c1
    refine r_iload_n dX6_differentTypes_59 rfl 1 rfl ?_
    refine r_iload_n dX6_differentTypes_60 rfl 3 rfl ?_
    have eT := (r_ifo e).1
    have eF := (r_ifo e).2
    refine r_if_eq ha3 68 dX6_differentTypes_61 (by decide) (fun c2 => ?_) (fun c2 => ?_)
    · have e := eT c2
      refine r_iconst dX6_differentTypes_68 ?_
      refine r_sub [0, 2] rfl ?_
      exact wX6_differentTypes_b69 E K4 hK4 a2 a1 0 ha2 ha1 (by decide) e
    · have e := eF c2
      refine r_iconst dX6_differentTypes_64 ?_
      refine r_goto 69 dX6_differentTypes_65 (by decide) ?_
      refine r_sub [0, 2] rfl ?_
      exact wX6_differentTypes_b69 E K4 hK4 a2 a1 1 ha2 ha1 (by decide) e
  · have e := eF c1
    refine r_iload_n dX6_differentTypes_33 rfl 3 rfl ?_
    have eT := (r_ifo e).1
    have eF := (r_ifo e).2
    refine r_if_eq ha3 51 dX6_differentTypes_34 (by decide) (fun c3 => ?_) (fun c3 => ?_)
    · have e := eT c3
      refine r_sub [0, 1, 2, 4] rfl ?_
      exact wX6_differentTypes_b51 E K4 hK4 K27 hK27 a1 a2 a4 ha1 ha2 ha4 e
    · have e := eF c3
      refine r_aload_n dX6_differentTypes_37 rfl 0 rfl ?_
      refine r_iload_n dX6_differentTypes_38 rfl 2 rfl ?_
      refine r_iload dX6_differentTypes_39 4 rfl ?_
      obtain ⟨p4, q5, e⟩ := bd_o e
      have k6 := kX6_isSlotLike (G := nG N) (b := b) (ad := ad) (h := h) ha2 ha4 q5
      have z7 := (k6 rr).1.2.2.2
      refine r_callV (j := some 0) 2 [ti a2, ti a4] (rec_sg (j := 0) (r := (RX6, TX6, 63)) rfl (by rw [E.p]; rfl)) rfl k6 (injO_1 E.p) (subO_1 E.p) getO_1 setO_1 (lw_V q1964 q1966 qs111 q123 q1967) (by decide +kernel) rfl (Nat.le_of_ble_eq_true rfl) (Nat.le_of_ble_eq_true rfl) rfl (Nat.le_of_ble_eq_true rfl) dX6_differentTypes_41 rfl ?_
      have eT := (r_ifo e).1
      have eF := (r_ifo e).2
      refine r_if_ne (rI_z z7) 51 dX6_differentTypes_44 (by decide) (fun c8 => ?_) (fun c8 => ?_)
      · have e := eT c8
        refine r_sub [0, 1, 2, 4] rfl ?_
        exact wX6_differentTypes_b51 E K4 hK4 K27 hK27 a1 a2 a4 ha1 ha2 ha4 e
      · have e := eF c8
        refine r_iconst dX6_differentTypes_47 ?_
        refine r_goto 52 dX6_differentTypes_48 (by decide) ?_
        refine r_sub [0, 1, 2, 4] rfl ?_
        exact wX6_differentTypes_b52 E K4 hK4 K27 hK27 a1 a2 a4 1 ha1 ha2 ha4 (by decide) e
def fX6_differentTypes_L27 (K4 : Sg → Int → Int → Option (Int)) : Nat → Sg → Int → Int → Int → Int → Option (Int)
  | 0, _, _, _, _, _ => none
  | n9 + 1, s, a1, a2, a3, a4 => fX6_differentTypes_b27 K4 (fX6_differentTypes_L27 K4 n9) s a1 a2 a3 a4
theorem wX6_differentTypes_L27 {N : Nx} {b : Nat} {ad : Nat → Nat} {s : Sg} {h : hS} {r : Int} (E : EndX N [(6, b, ad)] 5 (some .int) (some (ti r)) [s] h) (K4 : Sg → Int → Int → Option (Int)) (hK4 : ∀ (a1 : Int) (a2 : Int) (ha1 : rI a1) (ha2 : rI a2), K4 s a1 a2 = some (r) → AtPc cX6_differentTypes RX6 1 24 N [s] h 4 [(0, tr (some b)), (1, ti a1), (2, ti a2)] []) : ∀ (n9 : Nat), ∀ (a1 : Int) (a2 : Int) (a3 : Int) (a4 : Int) (ha1 : rI a1) (ha2 : rI a2) (ha3 : rI a3) (ha4 : rI a4), fX6_differentTypes_L27 K4 n9 s a1 a2 a3 a4 = some (r) → AtPc cX6_differentTypes RX6 1 24 N [s] h 27 [(0, tr (some b)), (1, ti a1), (2, ti a2), (3, ti a3), (4, ti a4)] [] := by
  intro n9
  induction n9 with
  | zero => intro a1 a2 a3 a4 ha1 ha2 ha3 ha4 e; cases e
  | succ n9 ih => intro a1 a2 a3 a4 ha1 ha2 ha3 ha4 e; exact wX6_differentTypes_b27 E K4 hK4 _ ih a1 a2 a3 a4 ha1 ha2 ha3 ha4 e
def fX6_differentTypes_b23 (K4 : Sg → Int → Int → Option (Int)) (s : Sg) (a1 : Int) (a2 : Int) (k0 : Int) : Option (Int) := fX6_differentTypes_L27 K4 FU s a1 a2 k0 0
theorem wX6_differentTypes_b23 {N : Nx} {b : Nat} {ad : Nat → Nat} {s : Sg} {h : hS} {r : Int} (E : EndX N [(6, b, ad)] 5 (some .int) (some (ti r)) [s] h) (K4 : Sg → Int → Int → Option (Int)) (hK4 : ∀ (a1 : Int) (a2 : Int) (ha1 : rI a1) (ha2 : rI a2), K4 s a1 a2 = some (r) → AtPc cX6_differentTypes RX6 1 24 N [s] h 4 [(0, tr (some b)), (1, ti a1), (2, ti a2)] []) (a1 : Int) (a2 : Int) (k0 : Int) (ha1 : rI a1) (ha2 : rI a2) (hk0 : rI k0) (e : fX6_differentTypes_b23 K4 s a1 a2 k0 = some (r)) : AtPc cX6_differentTypes RX6 1 24 N [s] h 23 [(0, tr (some b)), (1, ti a1), (2, ti a2)] [ti k0] := by
  unfold fX6_differentTypes_b23 at e
  refine r_rrs E.p (fun rr => ?_)
  refine r_istore_n (lv' := [(3, ti k0), (0, tr (some b)), (1, ti a1), (2, ti a2)]) dX6_differentTypes_23 rfl (E.lt (by decide)) rfl ?_
  refine r_iconst dX6_differentTypes_24 ?_
  refine r_istore (lv' := [(4, ti 0), (3, ti k0), (0, tr (some b)), (1, ti a1), (2, ti a2)]) dX6_differentTypes_25 (E.lt (by decide)) rfl ?_
  refine r_sub [2, 3, 4, 1, 0] rfl ?_
  exact wX6_differentTypes_L27 E K4 hK4 FU a1 a2 k0 0 ha1 ha2 hk0 (by decide) e
def fX6_differentTypes_b4 (K4 : Sg → Int → Int → Option (Int)) (s : Sg) (a1 : Int) (a2 : Int) : Option (Int) := if 4 ≤ a2 then some a1 else gd (inb a2 4) (if (gA s 14 a2) ≤ 0 then fX6_differentTypes_b23 K4 s a1 a2 0 else fX6_differentTypes_b23 K4 s a1 a2 1)
theorem wX6_differentTypes_b4 {N : Nx} {b : Nat} {ad : Nat → Nat} {s : Sg} {h : hS} {r : Int} (E : EndX N [(6, b, ad)] 5 (some .int) (some (ti r)) [s] h) (K4 : Sg → Int → Int → Option (Int)) (hK4 : ∀ (a1 : Int) (a2 : Int) (ha1 : rI a1) (ha2 : rI a2), K4 s a1 a2 = some (r) → AtPc cX6_differentTypes RX6 1 24 N [s] h 4 [(0, tr (some b)), (1, ti a1), (2, ti a2)] []) (a1 : Int) (a2 : Int) (ha1 : rI a1) (ha2 : rI a2) (e : fX6_differentTypes_b4 K4 s a1 a2 = some (r)) : AtPc cX6_differentTypes RX6 1 24 N [s] h 4 [(0, tr (some b)), (1, ti a1), (2, ti a2)] [] := by
  unfold fX6_differentTypes_b4 at e
  refine r_rrs E.p (fun rr => ?_)
  refine r_iload_n dX6_differentTypes_4 rfl 2 rfl ?_
  refine r_iconst dX6_differentTypes_5 ?_
  have eT := (r_ifo e).1
  have eF := (r_ifo e).2
  refine r_icmp_ge ha2 (by decide) 77 dX6_differentTypes_6 (by decide) (fun c1 => ?_) (fun c1 => ?_)
  · have e := eT c1
    refine r_iload_n dX6_differentTypes_77 rfl 1 rfl ?_
    cases e
    exact r_iret E.σ E.st E.rt E.r ha1 dX6_differentTypes_78
  · have e := eF c1
    refine r_aload_n dX6_differentTypes_9 rfl 0 rfl ?_
    refine r_sR E.p 14 fG_X6_43 (by decide) dX6_differentTypes_10 ?_
    refine r_iload_n dX6_differentTypes_13 rfl 2 rfl ?_
    obtain ⟨g2, e⟩ := gd_o e
    refine r_saI E.p 14 rfl (by decide) (by decide) ha2 g2 rfl dX6_differentTypes_14 ?_
    have eT := (r_ifo e).1
    have eF := (r_ifo e).2
    refine r_if_le (((rr.mine rfl).a 14 (by decide) rfl).1 _) 22 dX6_differentTypes_15 (by decide) (fun c3 => ?_) (fun c3 => ?_)
    · have e := eT c3
      refine r_iconst dX6_differentTypes_22 ?_
      exact wX6_differentTypes_b23 E K4 hK4 a1 a2 0 ha1 ha2 (by decide) e
    · have e := eF c3
      refine r_iconst dX6_differentTypes_18 ?_
      refine r_goto 23 dX6_differentTypes_19 (by decide) ?_
      exact wX6_differentTypes_b23 E K4 hK4 a1 a2 1 ha1 ha2 (by decide) e
def fX6_differentTypes_L4  : Nat → Sg → Int → Int → Option (Int)
  | 0, _, _, _ => none
  | n9 + 1, s, a1, a2 => fX6_differentTypes_b4 (fX6_differentTypes_L4 n9) s a1 a2
theorem wX6_differentTypes_L4 {N : Nx} {b : Nat} {ad : Nat → Nat} {s : Sg} {h : hS} {r : Int} (E : EndX N [(6, b, ad)] 5 (some .int) (some (ti r)) [s] h)  : ∀ (n9 : Nat), ∀ (a1 : Int) (a2 : Int) (ha1 : rI a1) (ha2 : rI a2), fX6_differentTypes_L4 n9 s a1 a2 = some (r) → AtPc cX6_differentTypes RX6 1 24 N [s] h 4 [(0, tr (some b)), (1, ti a1), (2, ti a2)] [] := by
  intro n9
  induction n9 with
  | zero => intro a1 a2 ha1 ha2 e; cases e
  | succ n9 ih => intro a1 a2 ha1 ha2 e; exact wX6_differentTypes_b4 E _ ih a1 a2 ha1 ha2 e
def fX6_differentTypes  (s : Sg) : Option (Int) := fX6_differentTypes_L4 FU s 0 0
theorem kX6_differentTypes {G : Gx}  {b : Nat} {ad : Nat → Nat} {s : Sg} {h : hS} {r : Int}    (e : fX6_differentTypes s = some (r)) : CtX G yX6_differentTypes cX6_differentTypes 5 (some .int) 1 24 [(6, b, ad)] [s] h [tr (some b)] (some (ti r)) [s] h := by
  refine CtX.of (by decide) (Nat.le_of_ble_eq_true rfl) [(0, tr (some b))] rfl ?_
  have E : EndX (G, 5, [(6, b, ad)], h, [s], h, (some .int), (some (ti r)), yX6_differentTypes.name) [(6, b, ad)] 5 (some .int) (some (ti r)) [s] h := ⟨rfl, rfl, rfl, rfl, rfl, rfl⟩
  unfold fX6_differentTypes at e
  refine r_rrs E.p (fun rr => ?_)
  refine r_iconst dX6_differentTypes_0 ?_
  refine r_istore_n (lv' := [(1, ti 0), (0, tr (some b))]) dX6_differentTypes_1 rfl (E.lt (by decide)) rfl ?_
  refine r_iconst dX6_differentTypes_2 ?_
  refine r_istore_n (lv' := [(2, ti 0), (1, ti 0), (0, tr (some b))]) dX6_differentTypes_3 rfl (E.lt (by decide)) rfl ?_
  refine r_sub [2, 1, 0] rfl ?_
  exact wX6_differentTypes_L4 E FU 0 0 (by decide) (by decide) e
def fX6_howMany_b75 (s : Sg) (a1 : Int) : Option (Int × Sg) := bd (fX6_pairsOf s (wr (a1 - 3))) fun p1 => some (p1.1, p1.2)
theorem wX6_howMany_b75 {N : Nx} {b : Nat} {ad : Nat → Nat} {s' : Sg} {h : hS} {r : Int} (E : EndX N [(6, b, ad)] 2 (some .int) (some (ti r)) [s'] h)  (s : Sg) (a1 : Int) (ha1 : rI a1) (e : fX6_howMany_b75 s a1 = some (r, s')) : AtPc cX6_howMany RX6 10 230 N [s] h 75 [(0, tr (some b)), (1, ti a1)] [] := by
  unfold fX6_howMany_b75 at e
  refine r_rrs E.p (fun rr => ?_)
  refine r_aload_n dX6_howMany_75 rfl 0 rfl ?_
  refine r_iload_n dX6_howMany_76 rfl 1 rfl ?_
  refine r_iconst dX6_howMany_77 ?_
  refine r_isub dX6_howMany_78 ?_
  obtain ⟨p1, q2, e⟩ := bd_o e
  have k3 := kX6_pairsOf (G := nG N) (b := b) (ad := ad) (h := h) (wr_r _) q2
  have z4 := (k3 rr).1.2.2.2
  refine r_callV (j := some 0) 1 [ti (wr (a1 - 3))] (rec_sg (j := 0) (r := (RX6, TX6, 63)) rfl (by rw [E.p]; rfl)) rfl k3 (injO_1 E.p) (subO_1 E.p) getO_1 setO_1 (lw_V q1952 q1954 qs108 q123 q1955) (by decide +kernel) rfl (Nat.le_of_ble_eq_true rfl) (Nat.le_of_ble_eq_true rfl) rfl (Nat.le_of_ble_eq_true rfl) dX6_howMany_79 rfl ?_
  refine r_rrs E.p (fun rr5 => ?_)
  cases e
  exact r_iret E.σ E.st E.rt E.r z4 dX6_howMany_82
def fX6_howMany  (s : Sg) (a1 : Int) : Option (Int × Sg) := if a1 = 0 then some (gI s 1, s) else if a1 = 1 then some (gI s 4, s) else if a1 = 2 then bd (fX6_unsound s) fun p4 => some (p4, s) else if a1 = 3 then fX6_howMany_b75 s a1 else if a1 = 4 then fX6_howMany_b75 s a1 else if a1 = 5 then bd (fX6_lacksOfAll s) fun p11 => some (p11.1, p11.2) else if a1 = 6 then bd (fX6_filled s) fun p17 => some (p17, s) else if a1 = 7 then bd (fX6_differentTypes s) fun p22 => some (p22, s) else if a1 = 8 then some (gI s 15, s) else if a1 = 9 then some (gI s 19, s) else if a1 = 10 then some (gI s 0, s) else some ((-102), s)
theorem kX6_howMany {G : Gx}  {b : Nat} {ad : Nat → Nat} {s' : Sg} {h : hS} {r : Int} {s : Sg} {a1 : Int}  (ha1 : rI a1) (e : fX6_howMany s a1 = some (r, s')) : CtX G yX6_howMany cX6_howMany 2 (some .int) 10 230 [(6, b, ad)] [s] h [tr (some b), ti a1] (some (ti r)) [s'] h := by
  refine CtX.of (by decide) (Nat.le_of_ble_eq_true rfl) [(0, tr (some b)), (1, ti a1)] rfl ?_
  have E : EndX (G, 2, [(6, b, ad)], h, [s'], h, (some .int), (some (ti r)), yX6_howMany.name) [(6, b, ad)] 2 (some .int) (some (ti r)) [s'] h := ⟨rfl, rfl, rfl, rfl, rfl, rfl⟩
  unfold fX6_howMany at e
  refine r_rrs E.p (fun rr => ?_)
  refine r_iload_n dX6_howMany_0 rfl 1 rfl ?_
  have eT := (r_ifo e).1
  have eF := (r_ifo e).2
  by_cases c1 : a1 = 0
  · have e := eT c1
    refine r_tswI ha1 dX6_howMany_1 0 c1 60 (by decide) (by decide) rfl (by decide) ?_
    refine r_aload_n dX6_howMany_60 rfl 0 rfl ?_
    refine r_sI E.p 1 fG_X6_211 (by decide) dX6_howMany_61 ?_
    cases e
    exact r_iret E.σ E.st E.rt E.r ((rr.mine rfl).i 1 (by decide) (by decide)) dX6_howMany_64
  · have e := eF c1
    have eT := (r_ifo e).1
    have eF := (r_ifo e).2
    by_cases c2 : a1 = 1
    · have e := eT c2
      refine r_tswI ha1 dX6_howMany_1 1 c2 65 (by decide) (by decide) rfl (by decide) ?_
      refine r_aload_n dX6_howMany_65 rfl 0 rfl ?_
      refine r_sI E.p 4 fG_X6_217 (by decide) dX6_howMany_66 ?_
      cases e
      exact r_iret E.σ E.st E.rt E.r ((rr.mine rfl).i 4 (by decide) (by decide)) dX6_howMany_69
    · have e := eF c2
      have eT := (r_ifo e).1
      have eF := (r_ifo e).2
      by_cases c3 : a1 = 2
      · have e := eT c3
        refine r_tswI ha1 dX6_howMany_1 2 c3 70 (by decide) (by decide) rfl (by decide) ?_
        refine r_aload_n dX6_howMany_70 rfl 0 rfl ?_
        obtain ⟨p4, q5, e⟩ := bd_o e
        have k6 := kX6_unsound (G := G) (b := b) (ad := ad) (h := h)  q5
        have z7 := (k6 rr).1.2.2.2
        refine r_callV (j := some 0) 0 [] (rec_sg (j := 0) (r := (RX6, TX6, 63)) rfl (by rw [E.p]; rfl)) rfl k6 (injO_1 E.p) (subO_1 E.p) getO_1 setO_1 (lw_V q1948 q1950 qs107 q123 q1951) (by decide +kernel) rfl (Nat.le_of_ble_eq_true rfl) (Nat.le_of_ble_eq_true rfl) rfl (Nat.le_of_ble_eq_true rfl) dX6_howMany_71 rfl ?_
        cases e
        exact r_iret E.σ E.st E.rt E.r z7 dX6_howMany_74
      · have e := eF c3
        have eT := (r_ifo e).1
        have eF := (r_ifo e).2
        by_cases c8 : a1 = 3
        · have e := eT c8
          refine r_tswI ha1 dX6_howMany_1 3 c8 75 (by decide) (by decide) rfl (by decide) ?_
          exact wX6_howMany_b75 E s a1 ha1 e
        · have e := eF c8
          have eT := (r_ifo e).1
          have eF := (r_ifo e).2
          by_cases c9 : a1 = 4
          · have e := eT c9
            refine r_tswI ha1 dX6_howMany_1 4 c9 75 (by decide) (by decide) rfl (by decide) ?_
            exact wX6_howMany_b75 E s a1 ha1 e
          · have e := eF c9
            have eT := (r_ifo e).1
            have eF := (r_ifo e).2
            by_cases c10 : a1 = 5
            · have e := eT c10
              refine r_tswI ha1 dX6_howMany_1 5 c10 83 (by decide) (by decide) rfl (by decide) ?_
              refine r_aload_n dX6_howMany_83 rfl 0 rfl ?_
              obtain ⟨p11, q12, e⟩ := bd_o e
              have k13 := kX6_lacksOfAll (G := G) (b := b) (ad := ad) (h := h)  q12
              have z14 := (k13 rr).1.2.2.2
              refine r_callV (j := some 0) 0 [] (rec_sg (j := 0) (r := (RX6, TX6, 63)) rfl (by rw [E.p]; rfl)) rfl k13 (injO_1 E.p) (subO_1 E.p) getO_1 setO_1 (lw_V q1956 q1958 qs109 q123 q1959) (by decide +kernel) rfl (Nat.le_of_ble_eq_true rfl) (Nat.le_of_ble_eq_true rfl) rfl (Nat.le_of_ble_eq_true rfl) dX6_howMany_84 rfl ?_
              refine r_rrs E.p (fun rr15 => ?_)
              cases e
              exact r_iret E.σ E.st E.rt E.r z14 dX6_howMany_87
            · have e := eF c10
              have eT := (r_ifo e).1
              have eF := (r_ifo e).2
              by_cases c16 : a1 = 6
              · have e := eT c16
                refine r_tswI ha1 dX6_howMany_1 6 c16 88 (by decide) (by decide) rfl (by decide) ?_
                refine r_aload_n dX6_howMany_88 rfl 0 rfl ?_
                obtain ⟨p17, q18, e⟩ := bd_o e
                have k19 := kX6_filled (G := G) (b := b) (ad := ad) (h := h)  q18
                have z20 := (k19 rr).1.2.2.2
                refine r_callV (j := some 0) 0 [] (rec_sg (j := 0) (r := (RX6, TX6, 63)) rfl (by rw [E.p]; rfl)) rfl k19 (injO_1 E.p) (subO_1 E.p) getO_1 setO_1 (lw_V q1932 q1934 qs105 q123 q1935) (by decide +kernel) rfl (Nat.le_of_ble_eq_true rfl) (Nat.le_of_ble_eq_true rfl) rfl (Nat.le_of_ble_eq_true rfl) dX6_howMany_89 rfl ?_
                cases e
                exact r_iret E.σ E.st E.rt E.r z20 dX6_howMany_92
              · have e := eF c16
                have eT := (r_ifo e).1
                have eF := (r_ifo e).2
                by_cases c21 : a1 = 7
                · have e := eT c21
                  refine r_tswI ha1 dX6_howMany_1 7 c21 93 (by decide) (by decide) rfl (by decide) ?_
                  refine r_aload_n dX6_howMany_93 rfl 0 rfl ?_
                  obtain ⟨p22, q23, e⟩ := bd_o e
                  have k24 := kX6_differentTypes (G := G) (b := b) (ad := ad) (h := h)  q23
                  have z25 := (k24 rr).1.2.2.2
                  refine r_callV (j := some 0) 0 [] (rec_sg (j := 0) (r := (RX6, TX6, 63)) rfl (by rw [E.p]; rfl)) rfl k24 (injO_1 E.p) (subO_1 E.p) getO_1 setO_1 (lw_V q1960 q1962 qs110 q123 q1963) (by decide +kernel) rfl (Nat.le_of_ble_eq_true rfl) (Nat.le_of_ble_eq_true rfl) rfl (Nat.le_of_ble_eq_true rfl) dX6_howMany_94 rfl ?_
                  cases e
                  exact r_iret E.σ E.st E.rt E.r z25 dX6_howMany_97
                · have e := eF c21
                  have eT := (r_ifo e).1
                  have eF := (r_ifo e).2
                  by_cases c26 : a1 = 8
                  · have e := eT c26
                    refine r_tswI ha1 dX6_howMany_1 8 c26 98 (by decide) (by decide) rfl (by decide) ?_
                    refine r_aload_n dX6_howMany_98 rfl 0 rfl ?_
                    refine r_sI E.p 15 fG_X6_230 (by decide) dX6_howMany_99 ?_
                    cases e
                    exact r_iret E.σ E.st E.rt E.r ((rr.mine rfl).i 15 (by decide) (by decide)) dX6_howMany_102
                  · have e := eF c26
                    have eT := (r_ifo e).1
                    have eF := (r_ifo e).2
                    by_cases c27 : a1 = 9
                    · have e := eT c27
                      refine r_tswI ha1 dX6_howMany_1 9 c27 103 (by decide) (by decide) rfl (by decide) ?_
                      refine r_aload_n dX6_howMany_103 rfl 0 rfl ?_
                      refine r_sI E.p 19 fG_X6_150 (by decide) dX6_howMany_104 ?_
                      cases e
                      exact r_iret E.σ E.st E.rt E.r ((rr.mine rfl).i 19 (by decide) (by decide)) dX6_howMany_107
                    · have e := eF c27
                      have eT := (r_ifo e).1
                      have eF := (r_ifo e).2
                      by_cases c28 : a1 = 10
                      · have e := eT c28
                        refine r_tswI ha1 dX6_howMany_1 10 c28 108 (by decide) (by decide) rfl (by decide) ?_
                        refine r_aload_n dX6_howMany_108 rfl 0 rfl ?_
                        refine r_sI E.p 0 fG_X6_227 (by decide) dX6_howMany_109 ?_
                        cases e
                        exact r_iret E.σ E.st E.rt E.r ((rr.mine rfl).i 0 (by decide) (by decide)) dX6_howMany_112
                      · have e := eF c28
                        refine r_tswO ha1 dX6_howMany_1 113 (by omega) (by decide) ?_
                        refine r_bipush dX6_howMany_113 (by decide) ?_
                        cases e
                        exact r_iret E.σ E.st E.rt E.r (by decide) dX6_howMany_115
def fX6_count  (s : Sg) (a1 : Int) : Option (Int × Sg) := bd (fX6_howMany s a1) fun p1 => some (p1.1, p1.2)
theorem kX6_count {G : Gx}  {b : Nat} {ad : Nat → Nat} {s' : Sg} {h : hS} {r : Int} {s : Sg} {a1 : Int}  (ha1 : rI a1) (e : fX6_count s a1 = some (r, s')) : CtX G yX6_count cX6_count 2 (some .int) 11 251 [(6, b, ad)] [s] h [tr (some b), ti a1] (some (ti r)) [s'] h := by
  refine CtX.of (by decide) (Nat.le_of_ble_eq_true rfl) [(0, tr (some b)), (1, ti a1)] rfl ?_
  have E : EndX (G, 2, [(6, b, ad)], h, [s'], h, (some .int), (some (ti r)), yX6_count.name) [(6, b, ad)] 2 (some .int) (some (ti r)) [s'] h := ⟨rfl, rfl, rfl, rfl, rfl, rfl⟩
  unfold fX6_count at e
  refine r_rrs E.p (fun rr => ?_)
  refine r_aload_n dX6_count_0 rfl 0 rfl ?_
  refine r_iload_n dX6_count_1 rfl 1 rfl ?_
  obtain ⟨p1, q2, e⟩ := bd_o e
  have k3 := kX6_howMany (G := G) (b := b) (ad := ad) (h := h) ha1 q2
  have z4 := (k3 rr).1.2.2.2
  refine r_callV (j := some 0) 1 [ti a1] (rec_sg (j := 0) (r := (RX6, TX6, 63)) rfl (by rw [E.p]; rfl)) rfl k3 (injO_1 E.p) (subO_1 E.p) getO_1 setO_1 (lw_V q1944 q1946 qs106 q123 q1947) (by decide +kernel) rfl (Nat.le_of_ble_eq_true rfl) (Nat.le_of_ble_eq_true rfl) rfl (Nat.le_of_ble_eq_true rfl) dX6_count_2 rfl ?_
  refine r_rrs E.p (fun rr5 => ?_)
  cases e
  exact r_iret E.σ E.st E.rt E.r z4 dX6_count_5
theorem fG_X6_443 : FldG RX6 443 [(6, 62)] := List.forall_mem_cons.mpr ⟨⟨RX6, TX6, 63, "DictProofModel", rfl, in_X6, by decide, q1467, Or.inl rfl⟩, fun _ h => absurd h List.not_mem_nil⟩
theorem fP_X6_443 : FldP RX6 443 [(6, 62)] .long false := List.forall_mem_cons.mpr ⟨⟨RX6, TX6, 63, "DictProofModel", tyX6, rfl, in_X6, by decide, q1467, Or.inl rfl, tyX6_ok, nmX6, rfl, Or.inl rfl, by decide⟩, fun _ h => absurd h List.not_mem_nil⟩
def fX6_mix  (s : Sg) (l1 : Int) : Option (Sg) := some (sI s 62 (wl ((wl (31 * (gI s 62))) + l1)))
theorem kX6_mix {G : Gx}  {b : Nat} {ad : Nat → Nat} {s' : Sg} {h : hS} {s : Sg} {l1 : Int}  (hl1 : rL l1) (e : fX6_mix s l1 = some (s')) : CtX G yX6_mix cX6_mix 3 none 0 0 [(6, b, ad)] [s] h [tr (some b), tl l1] none [s'] h := by
  refine CtX.of (by decide) (Nat.le_of_ble_eq_true rfl) [(0, tr (some b)), (1, tl l1)] rfl ?_
  have E : EndX (G, 3, [(6, b, ad)], h, [s'], h, none, none, yX6_mix.name) [(6, b, ad)] 3 none none [s'] h := ⟨rfl, rfl, rfl, rfl, rfl, rfl⟩
  unfold fX6_mix at e
  refine r_rrs E.p (fun rr => ?_)
  refine r_aload_n dX6_mix_0 rfl 0 rfl ?_
  refine r_ldc2 31 q1977 (by decide) dX6_mix_1 ?_
  refine r_aload_n dX6_mix_4 rfl 0 rfl ?_
  refine r_sL E.p 62 fG_X6_443 rfl dX6_mix_5 ?_
  refine r_lmul dX6_mix_8 ?_
  refine r_lload_n dX6_mix_9 rfl 1 rfl ?_
  refine r_ladd dX6_mix_10 ?_
  refine r_sPL E.p 62 fP_X6_443 rfl (wl_r _) dX6_mix_11 ?_
  refine r_rrs E.p (fun rr1 => ?_)
  cases e
  exact r_vret E.σ E.st E.rt E.r dX6_mix_14
def fX6_mixSlot_b21 (K11 : Sg → Int → Option (Sg)) (K21 : Sg → Int → Int → Option (Sg)) (s : Sg) (a2 : Int) (a3 : Int) : Option (Sg) := if 7 ≤ a3 then K11 s (wr (a2 + 1)) else bd (fX6_goalNow s a2 a3) fun p2 => bd (fX6_mix p2.2 p2.1) fun p7 => K21 p7 a2 (wr (a3 + 1))
theorem wX6_mixSlot_b21 {N : Nx} {b : Nat} {ad : Nat → Nat} {s' : Sg} {h : hS} (E : EndX N [(6, b, ad)] 4 none none [s'] h) (K11 : Sg → Int → Option (Sg)) (hK11 : ∀ (s : Sg) (a2 : Int) (ha2 : rI a2), K11 s a2 = some (s') → AtPc cX6_mixSlot RX6 6 146 N [s] h 11 [(0, tr (some b)), (2, ti a2)] []) (K21 : Sg → Int → Int → Option (Sg)) (hK21 : ∀ (s : Sg) (a2 : Int) (a3 : Int) (ha2 : rI a2) (ha3 : rI a3), K21 s a2 a3 = some (s') → AtPc cX6_mixSlot RX6 6 146 N [s] h 21 [(0, tr (some b)), (2, ti a2), (3, ti a3)] []) (s : Sg) (a2 : Int) (a3 : Int) (ha2 : rI a2) (ha3 : rI a3) (e : fX6_mixSlot_b21 K11 K21 s a2 a3 = some (s')) : AtPc cX6_mixSlot RX6 6 146 N [s] h 21 [(0, tr (some b)), (2, ti a2), (3, ti a3)] [] := by
  unfold fX6_mixSlot_b21 at e
  refine r_rrs E.p (fun rr => ?_)
  refine r_iload_n dX6_mixSlot_21 rfl 2 rfl ?_
  refine r_bipush dX6_mixSlot_22 (by decide) ?_
  have eT := (r_ifo e).1
  have eF := (r_ifo e).2
  refine r_icmp_ge ha3 (by decide) 44 dX6_mixSlot_24 (by decide) (fun c1 => ?_) (fun c1 => ?_)
  · have e := eT c1
    refine r_iinc (lv' := [(2, ti (wr (a2 + 1))), (0, tr (some b)), (3, ti a3)]) dX6_mixSlot_44 1 rfl (E.lt (by decide)) rfl ?_
    refine r_goto 11 dX6_mixSlot_47 (by decide) ?_
    refine r_sub [1, 0] rfl ?_
    exact hK11 s (wr (a2 + 1)) (wr_r _) e
  · have e := eF c1
    refine r_aload_n dX6_mixSlot_27 rfl 0 rfl ?_
    refine r_aload_n dX6_mixSlot_28 rfl 0 rfl ?_
    refine r_iload_n dX6_mixSlot_29 rfl 1 rfl ?_
    refine r_iload_n dX6_mixSlot_30 rfl 2 rfl ?_
    obtain ⟨p2, q3, e⟩ := bd_o e
    have k4 := kX6_goalNow (G := nG N) (b := b) (ad := ad) (h := h) ha2 ha3 q3
    have z5 := (k4 rr).1.2.2.2
    refine r_callV (j := some 0) 2 [ti a2, ti a3] (rec_sg (j := 0) (r := (RX6, TX6, 63)) rfl (by rw [E.p]; rfl)) rfl k4 (injO_1 E.p) (subO_1 E.p) getO_1 setO_1 (lw_V q1861 q1863 qs95 q123 q1864) (by decide +kernel) rfl (Nat.le_of_ble_eq_true rfl) (Nat.le_of_ble_eq_true rfl) rfl (Nat.le_of_ble_eq_true rfl) dX6_mixSlot_31 rfl ?_
    refine r_rrs E.p (fun rr6 => ?_)
    refine r_i2l z5 dX6_mixSlot_34 ?_
    obtain ⟨p7, q8, e⟩ := bd_o e
    have k9 := kX6_mix (G := nG N) (b := b) (ad := ad) (h := h) (rI_L z5) q8
    have z10 := (k9 rr6).1.2.2.2
    refine r_callV (j := some 0) 1 [tl p2.1] (rec_sg (j := 0) (r := (RX6, TX6, 63)) rfl (by rw [E.p]; rfl)) rfl k9 (injO_1 E.p) (subO_1 E.p) getO_1 setO_1 (lw_V q1973 q1975 qs112 q123 q1976) (by decide +kernel) rfl (Nat.le_of_ble_eq_true rfl) (Nat.le_of_ble_eq_true rfl) rfl (Nat.le_of_ble_eq_true rfl) dX6_mixSlot_35 rfl ?_
    refine r_rrs E.p (fun rr11 => ?_)
    refine r_iinc (lv' := [(3, ti (wr (a3 + 1))), (0, tr (some b)), (2, ti a2)]) dX6_mixSlot_38 2 rfl (E.lt (by decide)) rfl ?_
    refine r_goto 21 dX6_mixSlot_41 (by decide) ?_
    refine r_sub [1, 2, 0] rfl ?_
    exact hK21 p7 a2 (wr (a3 + 1)) ha2 (wr_r _) e
def fX6_mixSlot_L21 (K11 : Sg → Int → Option (Sg)) : Nat → Sg → Int → Int → Option (Sg)
  | 0, _, _, _ => none
  | n9 + 1, s, a2, a3 => fX6_mixSlot_b21 K11 (fX6_mixSlot_L21 K11 n9) s a2 a3
theorem wX6_mixSlot_L21 {N : Nx} {b : Nat} {ad : Nat → Nat} {s' : Sg} {h : hS} (E : EndX N [(6, b, ad)] 4 none none [s'] h) (K11 : Sg → Int → Option (Sg)) (hK11 : ∀ (s : Sg) (a2 : Int) (ha2 : rI a2), K11 s a2 = some (s') → AtPc cX6_mixSlot RX6 6 146 N [s] h 11 [(0, tr (some b)), (2, ti a2)] []) : ∀ (n9 : Nat), ∀ (s : Sg) (a2 : Int) (a3 : Int) (ha2 : rI a2) (ha3 : rI a3), fX6_mixSlot_L21 K11 n9 s a2 a3 = some (s') → AtPc cX6_mixSlot RX6 6 146 N [s] h 21 [(0, tr (some b)), (2, ti a2), (3, ti a3)] [] := by
  intro n9
  induction n9 with
  | zero => intro s a2 a3 ha2 ha3 e; cases e
  | succ n9 ih => intro s a2 a3 ha2 ha3 e; exact wX6_mixSlot_b21 E K11 hK11 _ ih s a2 a3 ha2 ha3 e
def fX6_mixSlot_b11 (K11 : Sg → Int → Option (Sg)) (s : Sg) (a2 : Int) : Option (Sg) := if (gI s 1) ≤ a2 then some s else fX6_mixSlot_L21 K11 FU s a2 0
theorem wX6_mixSlot_b11 {N : Nx} {b : Nat} {ad : Nat → Nat} {s' : Sg} {h : hS} (E : EndX N [(6, b, ad)] 4 none none [s'] h) (K11 : Sg → Int → Option (Sg)) (hK11 : ∀ (s : Sg) (a2 : Int) (ha2 : rI a2), K11 s a2 = some (s') → AtPc cX6_mixSlot RX6 6 146 N [s] h 11 [(0, tr (some b)), (2, ti a2)] []) (s : Sg) (a2 : Int) (ha2 : rI a2) (e : fX6_mixSlot_b11 K11 s a2 = some (s')) : AtPc cX6_mixSlot RX6 6 146 N [s] h 11 [(0, tr (some b)), (2, ti a2)] [] := by
  unfold fX6_mixSlot_b11 at e
  refine r_rrs E.p (fun rr => ?_)
  refine r_iload_n dX6_mixSlot_11 rfl 1 rfl ?_
  refine r_aload_n dX6_mixSlot_12 rfl 0 rfl ?_
  refine r_sI E.p 1 fG_X6_211 (by decide) dX6_mixSlot_13 ?_
  have eT := (r_ifo e).1
  have eF := (r_ifo e).2
  refine r_icmp_ge ha2 ((rr.mine rfl).i 1 (by decide) (by decide)) 50 dX6_mixSlot_16 (by decide) (fun c1 => ?_) (fun c1 => ?_)
  · have e := eT c1
    cases e
    exact r_vret E.σ E.st E.rt E.r dX6_mixSlot_50
  · have e := eF c1
    refine r_iconst dX6_mixSlot_19 ?_
    refine r_istore_n (lv' := [(3, ti 0), (0, tr (some b)), (2, ti a2)]) dX6_mixSlot_20 rfl (E.lt (by decide)) rfl ?_
    refine r_sub [1, 2, 0] rfl ?_
    exact wX6_mixSlot_L21 E K11 hK11 FU s a2 0 ha2 (by decide) e
def fX6_mixSlot_L11  : Nat → Sg → Int → Option (Sg)
  | 0, _, _ => none
  | n9 + 1, s, a2 => fX6_mixSlot_b11 (fX6_mixSlot_L11 n9) s a2
theorem wX6_mixSlot_L11 {N : Nx} {b : Nat} {ad : Nat → Nat} {s' : Sg} {h : hS} (E : EndX N [(6, b, ad)] 4 none none [s'] h)  : ∀ (n9 : Nat), ∀ (s : Sg) (a2 : Int) (ha2 : rI a2), fX6_mixSlot_L11 n9 s a2 = some (s') → AtPc cX6_mixSlot RX6 6 146 N [s] h 11 [(0, tr (some b)), (2, ti a2)] [] := by
  intro n9
  induction n9 with
  | zero => intro s a2 ha2 e; cases e
  | succ n9 ih => intro s a2 ha2 e; exact wX6_mixSlot_b11 E _ ih s a2 ha2 e
def fX6_mixSlot  (s : Sg) (a1 : Int) : Option (Sg) := bd (fX6_laySlot s a1) fun p1 => bd (fX6_layGoals p1) fun p6 => fX6_mixSlot_L11 FU p6 0
theorem kX6_mixSlot {G : Gx}  {b : Nat} {ad : Nat → Nat} {s' : Sg} {h : hS} {s : Sg} {a1 : Int}  (ha1 : rI a1) (e : fX6_mixSlot s a1 = some (s')) : CtX G yX6_mixSlot cX6_mixSlot 4 none 6 146 [(6, b, ad)] [s] h [tr (some b), ti a1] none [s'] h := by
  refine CtX.of (by decide) (Nat.le_of_ble_eq_true rfl) [(0, tr (some b)), (1, ti a1)] rfl ?_
  have E : EndX (G, 4, [(6, b, ad)], h, [s'], h, none, none, yX6_mixSlot.name) [(6, b, ad)] 4 none none [s'] h := ⟨rfl, rfl, rfl, rfl, rfl, rfl⟩
  unfold fX6_mixSlot at e
  refine r_rrs E.p (fun rr => ?_)
  refine r_aload_n dX6_mixSlot_0 rfl 0 rfl ?_
  refine r_iload_n dX6_mixSlot_1 rfl 1 rfl ?_
  obtain ⟨p1, q2, e⟩ := bd_o e
  have k3 := kX6_laySlot (G := G) (b := b) (ad := ad) (h := h) ha1 q2
  have z4 := (k3 rr).1.2.2.2
  refine r_callV (j := some 0) 1 [ti a1] (rec_sg (j := 0) (r := (RX6, TX6, 63)) rfl (by rw [E.p]; rfl)) rfl k3 (injO_1 E.p) (subO_1 E.p) getO_1 setO_1 (lw_V q1853 q1855 qs94 q123 q1856) (by decide +kernel) rfl (Nat.le_of_ble_eq_true rfl) (Nat.le_of_ble_eq_true rfl) rfl (Nat.le_of_ble_eq_true rfl) dX6_mixSlot_2 rfl ?_
  refine r_rrs E.p (fun rr5 => ?_)
  refine r_aload_n dX6_mixSlot_5 rfl 0 rfl ?_
  obtain ⟨p6, q7, e⟩ := bd_o e
  have k8 := kX6_layGoals (G := G) (b := b) (ad := ad) (h := h)  q7
  have z9 := (k8 rr5).1.2.2.2
  refine r_callV (j := some 0) 0 [] (rec_sg (j := 0) (r := (RX6, TX6, 63)) rfl (by rw [E.p]; rfl)) rfl k8 (injO_1 E.p) (subO_1 E.p) getO_1 setO_1 (lw_V q1745 q1747 qs71 q123 q1748) (by decide +kernel) rfl (Nat.le_of_ble_eq_true rfl) (Nat.le_of_ble_eq_true rfl) rfl (Nat.le_of_ble_eq_true rfl) dX6_mixSlot_6 rfl ?_
  refine r_rrs E.p (fun rr10 => ?_)
  refine r_iconst dX6_mixSlot_9 ?_
  refine r_istore_n (lv' := [(2, ti 0), (0, tr (some b)), (1, ti a1)]) dX6_mixSlot_10 rfl (E.lt (by decide)) rfl ?_
  refine r_sub [1, 0] rfl ?_
  exact wX6_mixSlot_L11 E FU p6 0 (by decide) e
def fX6_digest_b19 (K9 : Sg → Int → Option (Int × Sg)) (K19 : Sg → Int → Int → Option (Int × Sg)) (s : Sg) (a1 : Int) (a2 : Int) : Option (Int × Sg) := if 3 ≤ a2 then K9 s (wr (a1 + 1)) else bd (fX6_aboutNow s a1 a2) fun p2 => bd (fX6_mix s p2) fun p6 => K19 p6 a1 (wr (a2 + 1))
theorem wX6_digest_b19 {N : Nx} {b : Nat} {ad : Nat → Nat} {s' : Sg} {h : hS} {r : Int} (E : EndX N [(6, b, ad)] 3 (some .long) (some (tl r)) [s'] h) (K9 : Sg → Int → Option (Int × Sg)) (hK9 : ∀ (s : Sg) (a1 : Int) (ha1 : rI a1), K9 s a1 = some (r, s') → AtPc cX6_digest RX6 11 251 N [s] h 9 [(0, tr (some b)), (1, ti a1)] []) (K19 : Sg → Int → Int → Option (Int × Sg)) (hK19 : ∀ (s : Sg) (a1 : Int) (a2 : Int) (ha1 : rI a1) (ha2 : rI a2), K19 s a1 a2 = some (r, s') → AtPc cX6_digest RX6 11 251 N [s] h 19 [(0, tr (some b)), (1, ti a1), (2, ti a2)] []) (s : Sg) (a1 : Int) (a2 : Int) (ha1 : rI a1) (ha2 : rI a2) (e : fX6_digest_b19 K9 K19 s a1 a2 = some (r, s')) : AtPc cX6_digest RX6 11 251 N [s] h 19 [(0, tr (some b)), (1, ti a1), (2, ti a2)] [] := by
  unfold fX6_digest_b19 at e
  refine r_rrs E.p (fun rr => ?_)
  refine r_iload_n dX6_digest_19 rfl 2 rfl ?_
  refine r_iconst dX6_digest_20 ?_
  have eT := (r_ifo e).1
  have eF := (r_ifo e).2
  refine r_icmp_ge ha2 (by decide) 41 dX6_digest_21 (by decide) (fun c1 => ?_) (fun c1 => ?_)
  · have e := eT c1
    refine r_iinc (lv' := [(1, ti (wr (a1 + 1))), (0, tr (some b)), (2, ti a2)]) dX6_digest_41 1 rfl (E.lt (by decide)) rfl ?_
    refine r_goto 9 dX6_digest_44 (by decide) ?_
    refine r_sub [1, 0] rfl ?_
    exact hK9 s (wr (a1 + 1)) (wr_r _) e
  · have e := eF c1
    refine r_aload_n dX6_digest_24 rfl 0 rfl ?_
    refine r_aload_n dX6_digest_25 rfl 0 rfl ?_
    refine r_iload_n dX6_digest_26 rfl 1 rfl ?_
    refine r_iload_n dX6_digest_27 rfl 2 rfl ?_
    obtain ⟨p2, q3, e⟩ := bd_o e
    have k4 := kX6_aboutNow (G := nG N) (b := b) (ad := ad) (h := h) ha1 ha2 q3
    have z5 := (k4 rr).1.2.2.2
    refine r_callV (j := some 0) 2 [ti a1, ti a2] (rec_sg (j := 0) (r := (RX6, TX6, 63)) rfl (by rw [E.p]; rfl)) rfl k4 (injO_1 E.p) (subO_1 E.p) getO_1 setO_1 (lw_V q1702 q1704 qs63 q123 q1705) (by decide +kernel) rfl (Nat.le_of_ble_eq_true rfl) (Nat.le_of_ble_eq_true rfl) rfl (Nat.le_of_ble_eq_true rfl) dX6_digest_28 rfl ?_
    refine r_i2l z5 dX6_digest_31 ?_
    obtain ⟨p6, q7, e⟩ := bd_o e
    have k8 := kX6_mix (G := nG N) (b := b) (ad := ad) (h := h) (rI_L z5) q7
    have z9 := (k8 rr).1.2.2.2
    refine r_callV (j := some 0) 1 [tl p2] (rec_sg (j := 0) (r := (RX6, TX6, 63)) rfl (by rw [E.p]; rfl)) rfl k8 (injO_1 E.p) (subO_1 E.p) getO_1 setO_1 (lw_V q1973 q1975 qs112 q123 q1976) (by decide +kernel) rfl (Nat.le_of_ble_eq_true rfl) (Nat.le_of_ble_eq_true rfl) rfl (Nat.le_of_ble_eq_true rfl) dX6_digest_32 rfl ?_
    refine r_rrs E.p (fun rr10 => ?_)
    refine r_iinc (lv' := [(2, ti (wr (a2 + 1))), (0, tr (some b)), (1, ti a1)]) dX6_digest_35 2 rfl (E.lt (by decide)) rfl ?_
    refine r_goto 19 dX6_digest_38 (by decide) ?_
    refine r_sub [1, 2, 0] rfl ?_
    exact hK19 p6 a1 (wr (a2 + 1)) ha1 (wr_r _) e
def fX6_digest_L19 (K9 : Sg → Int → Option (Int × Sg)) : Nat → Sg → Int → Int → Option (Int × Sg)
  | 0, _, _, _ => none
  | n9 + 1, s, a1, a2 => fX6_digest_b19 K9 (fX6_digest_L19 K9 n9) s a1 a2
theorem wX6_digest_L19 {N : Nx} {b : Nat} {ad : Nat → Nat} {s' : Sg} {h : hS} {r : Int} (E : EndX N [(6, b, ad)] 3 (some .long) (some (tl r)) [s'] h) (K9 : Sg → Int → Option (Int × Sg)) (hK9 : ∀ (s : Sg) (a1 : Int) (ha1 : rI a1), K9 s a1 = some (r, s') → AtPc cX6_digest RX6 11 251 N [s] h 9 [(0, tr (some b)), (1, ti a1)] []) : ∀ (n9 : Nat), ∀ (s : Sg) (a1 : Int) (a2 : Int) (ha1 : rI a1) (ha2 : rI a2), fX6_digest_L19 K9 n9 s a1 a2 = some (r, s') → AtPc cX6_digest RX6 11 251 N [s] h 19 [(0, tr (some b)), (1, ti a1), (2, ti a2)] [] := by
  intro n9
  induction n9 with
  | zero => intro s a1 a2 ha1 ha2 e; cases e
  | succ n9 ih => intro s a1 a2 ha1 ha2 e; exact wX6_digest_b19 E K9 hK9 _ ih s a1 a2 ha1 ha2 e
def fX6_digest_b59 (K49 : Sg → Int → Option (Int × Sg)) (K59 : Sg → Int → Int → Option (Int × Sg)) (s : Sg) (a1 : Int) (a2 : Int) : Option (Int × Sg) := if 8 ≤ a2 then K49 s (wr (a1 + 1)) else bd (fX6_instanceNow s a1 a2) fun p2 => bd (fX6_mix p2.2 p2.1) fun p7 => K59 p7 a1 (wr (a2 + 1))
theorem wX6_digest_b59 {N : Nx} {b : Nat} {ad : Nat → Nat} {s' : Sg} {h : hS} {r : Int} (E : EndX N [(6, b, ad)] 3 (some .long) (some (tl r)) [s'] h) (K49 : Sg → Int → Option (Int × Sg)) (hK49 : ∀ (s : Sg) (a1 : Int) (ha1 : rI a1), K49 s a1 = some (r, s') → AtPc cX6_digest RX6 11 251 N [s] h 49 [(0, tr (some b)), (1, ti a1)] []) (K59 : Sg → Int → Int → Option (Int × Sg)) (hK59 : ∀ (s : Sg) (a1 : Int) (a2 : Int) (ha1 : rI a1) (ha2 : rI a2), K59 s a1 a2 = some (r, s') → AtPc cX6_digest RX6 11 251 N [s] h 59 [(0, tr (some b)), (1, ti a1), (2, ti a2)] []) (s : Sg) (a1 : Int) (a2 : Int) (ha1 : rI a1) (ha2 : rI a2) (e : fX6_digest_b59 K49 K59 s a1 a2 = some (r, s')) : AtPc cX6_digest RX6 11 251 N [s] h 59 [(0, tr (some b)), (1, ti a1), (2, ti a2)] [] := by
  unfold fX6_digest_b59 at e
  refine r_rrs E.p (fun rr => ?_)
  refine r_iload_n dX6_digest_59 rfl 2 rfl ?_
  refine r_bipush dX6_digest_60 (by decide) ?_
  have eT := (r_ifo e).1
  have eF := (r_ifo e).2
  refine r_icmp_ge ha2 (by decide) 82 dX6_digest_62 (by decide) (fun c1 => ?_) (fun c1 => ?_)
  · have e := eT c1
    refine r_iinc (lv' := [(1, ti (wr (a1 + 1))), (0, tr (some b)), (2, ti a2)]) dX6_digest_82 1 rfl (E.lt (by decide)) rfl ?_
    refine r_goto 49 dX6_digest_85 (by decide) ?_
    refine r_sub [1, 0] rfl ?_
    exact hK49 s (wr (a1 + 1)) (wr_r _) e
  · have e := eF c1
    refine r_aload_n dX6_digest_65 rfl 0 rfl ?_
    refine r_aload_n dX6_digest_66 rfl 0 rfl ?_
    refine r_iload_n dX6_digest_67 rfl 1 rfl ?_
    refine r_iload_n dX6_digest_68 rfl 2 rfl ?_
    obtain ⟨p2, q3, e⟩ := bd_o e
    have k4 := kX6_instanceNow (G := nG N) (b := b) (ad := ad) (h := h) ha1 ha2 q3
    have z5 := (k4 rr).1.2.2.2
    refine r_callV (j := some 0) 2 [ti a1, ti a2] (rec_sg (j := 0) (r := (RX6, TX6, 63)) rfl (by rw [E.p]; rfl)) rfl k4 (injO_1 E.p) (subO_1 E.p) getO_1 setO_1 (lw_V q1718 q1720 qs66 q123 q1721) (by decide +kernel) rfl (Nat.le_of_ble_eq_true rfl) (Nat.le_of_ble_eq_true rfl) rfl (Nat.le_of_ble_eq_true rfl) dX6_digest_69 rfl ?_
    refine r_rrs E.p (fun rr6 => ?_)
    refine r_i2l z5 dX6_digest_72 ?_
    obtain ⟨p7, q8, e⟩ := bd_o e
    have k9 := kX6_mix (G := nG N) (b := b) (ad := ad) (h := h) (rI_L z5) q8
    have z10 := (k9 rr6).1.2.2.2
    refine r_callV (j := some 0) 1 [tl p2.1] (rec_sg (j := 0) (r := (RX6, TX6, 63)) rfl (by rw [E.p]; rfl)) rfl k9 (injO_1 E.p) (subO_1 E.p) getO_1 setO_1 (lw_V q1973 q1975 qs112 q123 q1976) (by decide +kernel) rfl (Nat.le_of_ble_eq_true rfl) (Nat.le_of_ble_eq_true rfl) rfl (Nat.le_of_ble_eq_true rfl) dX6_digest_73 rfl ?_
    refine r_rrs E.p (fun rr11 => ?_)
    refine r_iinc (lv' := [(2, ti (wr (a2 + 1))), (0, tr (some b)), (1, ti a1)]) dX6_digest_76 2 rfl (E.lt (by decide)) rfl ?_
    refine r_goto 59 dX6_digest_79 (by decide) ?_
    refine r_sub [1, 2, 0] rfl ?_
    exact hK59 p7 a1 (wr (a2 + 1)) ha1 (wr_r _) e
def fX6_digest_L59 (K49 : Sg → Int → Option (Int × Sg)) : Nat → Sg → Int → Int → Option (Int × Sg)
  | 0, _, _, _ => none
  | n9 + 1, s, a1, a2 => fX6_digest_b59 K49 (fX6_digest_L59 K49 n9) s a1 a2
theorem wX6_digest_L59 {N : Nx} {b : Nat} {ad : Nat → Nat} {s' : Sg} {h : hS} {r : Int} (E : EndX N [(6, b, ad)] 3 (some .long) (some (tl r)) [s'] h) (K49 : Sg → Int → Option (Int × Sg)) (hK49 : ∀ (s : Sg) (a1 : Int) (ha1 : rI a1), K49 s a1 = some (r, s') → AtPc cX6_digest RX6 11 251 N [s] h 49 [(0, tr (some b)), (1, ti a1)] []) : ∀ (n9 : Nat), ∀ (s : Sg) (a1 : Int) (a2 : Int) (ha1 : rI a1) (ha2 : rI a2), fX6_digest_L59 K49 n9 s a1 a2 = some (r, s') → AtPc cX6_digest RX6 11 251 N [s] h 59 [(0, tr (some b)), (1, ti a1), (2, ti a2)] [] := by
  intro n9
  induction n9 with
  | zero => intro s a1 a2 ha1 ha2 e; cases e
  | succ n9 ih => intro s a1 a2 ha1 ha2 e; exact wX6_digest_b59 E K49 hK49 _ ih s a1 a2 ha1 ha2 e
def fX6_digest_b109 (K90 : Sg → Int → Option (Int × Sg)) (s : Sg) (a1 : Int) : Option (Int × Sg) := K90 s (wr (a1 + 1))
theorem wX6_digest_b109 {N : Nx} {b : Nat} {ad : Nat → Nat} {s' : Sg} {h : hS} {r : Int} (E : EndX N [(6, b, ad)] 3 (some .long) (some (tl r)) [s'] h) (K90 : Sg → Int → Option (Int × Sg)) (hK90 : ∀ (s : Sg) (a1 : Int) (ha1 : rI a1), K90 s a1 = some (r, s') → AtPc cX6_digest RX6 11 251 N [s] h 90 [(0, tr (some b)), (1, ti a1)] []) (s : Sg) (a1 : Int) (ha1 : rI a1) (e : fX6_digest_b109 K90 s a1 = some (r, s')) : AtPc cX6_digest RX6 11 251 N [s] h 109 [(0, tr (some b)), (1, ti a1)] [] := by
  unfold fX6_digest_b109 at e
  refine r_rrs E.p (fun rr => ?_)
  refine r_iinc (lv' := [(1, ti (wr (a1 + 1))), (0, tr (some b))]) dX6_digest_109 1 rfl (E.lt (by decide)) rfl ?_
  refine r_goto 90 dX6_digest_112 (by decide) ?_
  refine r_sub [1, 0] rfl ?_
  exact hK90 s (wr (a1 + 1)) (wr_r _) e
def fX6_digest_b144 (K144 : Sg → Int → Option (Int × Sg)) (s : Sg) (a1 : Int) : Option (Int × Sg) := if 11 ≤ a1 then some (gI s 62, s) else bd (fX6_howMany s a1) fun p2 => bd (fX6_mix p2.2 p2.1) fun p7 => K144 p7 (wr (a1 + 1))
theorem wX6_digest_b144 {N : Nx} {b : Nat} {ad : Nat → Nat} {s' : Sg} {h : hS} {r : Int} (E : EndX N [(6, b, ad)] 3 (some .long) (some (tl r)) [s'] h) (K144 : Sg → Int → Option (Int × Sg)) (hK144 : ∀ (s : Sg) (a1 : Int) (ha1 : rI a1), K144 s a1 = some (r, s') → AtPc cX6_digest RX6 11 251 N [s] h 144 [(0, tr (some b)), (1, ti a1)] []) (s : Sg) (a1 : Int) (ha1 : rI a1) (e : fX6_digest_b144 K144 s a1 = some (r, s')) : AtPc cX6_digest RX6 11 251 N [s] h 144 [(0, tr (some b)), (1, ti a1)] [] := by
  unfold fX6_digest_b144 at e
  refine r_rrs E.p (fun rr => ?_)
  refine r_iload_n dX6_digest_144 rfl 1 rfl ?_
  refine r_bipush dX6_digest_145 (by decide) ?_
  have eT := (r_ifo e).1
  have eF := (r_ifo e).2
  refine r_icmp_ge ha1 (by decide) 166 dX6_digest_147 (by decide) (fun c1 => ?_) (fun c1 => ?_)
  · have e := eT c1
    refine r_aload_n dX6_digest_166 rfl 0 rfl ?_
    refine r_sL E.p 62 fG_X6_443 rfl dX6_digest_167 ?_
    cases e
    exact r_lret E.σ E.st E.rt E.r ((rr.mine rfl).l 62 (by decide) rfl) dX6_digest_170
  · have e := eF c1
    refine r_aload_n dX6_digest_150 rfl 0 rfl ?_
    refine r_aload_n dX6_digest_151 rfl 0 rfl ?_
    refine r_iload_n dX6_digest_152 rfl 1 rfl ?_
    obtain ⟨p2, q3, e⟩ := bd_o e
    have k4 := kX6_howMany (G := nG N) (b := b) (ad := ad) (h := h) ha1 q3
    have z5 := (k4 rr).1.2.2.2
    refine r_callV (j := some 0) 1 [ti a1] (rec_sg (j := 0) (r := (RX6, TX6, 63)) rfl (by rw [E.p]; rfl)) rfl k4 (injO_1 E.p) (subO_1 E.p) getO_1 setO_1 (lw_V q1944 q1946 qs106 q123 q1947) (by decide +kernel) rfl (Nat.le_of_ble_eq_true rfl) (Nat.le_of_ble_eq_true rfl) rfl (Nat.le_of_ble_eq_true rfl) dX6_digest_153 rfl ?_
    refine r_rrs E.p (fun rr6 => ?_)
    refine r_i2l z5 dX6_digest_156 ?_
    obtain ⟨p7, q8, e⟩ := bd_o e
    have k9 := kX6_mix (G := nG N) (b := b) (ad := ad) (h := h) (rI_L z5) q8
    have z10 := (k9 rr6).1.2.2.2
    refine r_callV (j := some 0) 1 [tl p2.1] (rec_sg (j := 0) (r := (RX6, TX6, 63)) rfl (by rw [E.p]; rfl)) rfl k9 (injO_1 E.p) (subO_1 E.p) getO_1 setO_1 (lw_V q1973 q1975 qs112 q123 q1976) (by decide +kernel) rfl (Nat.le_of_ble_eq_true rfl) (Nat.le_of_ble_eq_true rfl) rfl (Nat.le_of_ble_eq_true rfl) dX6_digest_157 rfl ?_
    refine r_rrs E.p (fun rr11 => ?_)
    refine r_iinc (lv' := [(1, ti (wr (a1 + 1))), (0, tr (some b))]) dX6_digest_160 1 rfl (E.lt (by decide)) rfl ?_
    refine r_goto 144 dX6_digest_163 (by decide) ?_
    refine r_sub [1, 0] rfl ?_
    exact hK144 p7 (wr (a1 + 1)) (wr_r _) e
