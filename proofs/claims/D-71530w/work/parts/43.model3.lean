/-! DictProofModel: functions and walks, printed by gen/run6.py -/
set_option maxRecDepth 100000
def fX6_occurs_b56 (K9 : Sg → Int → Int → Option (Int × Sg)) (s : Sg) (a1 : Int) (a3 : Int) (a4 : Int) (a5 : Int) : Option (Int × Sg) := bd (fX6_wants a5) fun p1 => if p1 ≤ 0 then fX6_occurs_b77 K9 s a1 a3 a4 a5 else gd (inb a3 64) (fX6_occurs_b77 K9 (sA s 51 a3 (wr (a4 + 1))) a1 (wr (a3 + 1)) a4 a5)
theorem wX6_occurs_b56 {N : Nx} {b : Nat} {ad : Nat → Nat} {s' : Sg} {h : hS} {r : Int} (E : EndX N [(6, b, ad)] 6 (some .boolean) (some (ti r)) [s'] h) (K9 : Sg → Int → Int → Option (Int × Sg)) (hK9 : ∀ (s : Sg) (a1 : Int) (a3 : Int) (ha1 : rI a1) (ha3 : rI a3), K9 s a1 a3 = some (r, s') → AtPc cX6_occurs RX6 3 64 N [s] h 9 [(0, tr (some b)), (1, ti a1), (3, ti a3)] []) (s : Sg) (a1 : Int) (a3 : Int) (a4 : Int) (a5 : Int) (ha1 : rI a1) (ha3 : rI a3) (ha4 : rI a4) (ha5 : rI a5) (e : fX6_occurs_b56 K9 s a1 a3 a4 a5 = some (r, s')) : AtPc cX6_occurs RX6 3 64 N [s] h 56 [(0, tr (some b)), (1, ti a1), (3, ti a3), (4, ti a4), (5, ti a5)] [] := by
  unfold fX6_occurs_b56 at e
  refine r_rrs E.p (fun rr => ?_)
  refine r_iload dX6_occurs_56 4 rfl ?_
  obtain ⟨p1, q2, e⟩ := bd_o e
  have k3 := kX6_wants (G := nG N) (h := h) ha5 q2
  have z4 := (k3 rr.none).1.2.2.2
  refine r_callS (j := none) 1 [ti a5] k3 (injO_1 E.p) subO_0 getO_0 setO_0 (lw_S q1645 q1646 q123 q1647) (by decide +kernel) rfl (Nat.le_of_ble_eq_true rfl) (Nat.le_of_ble_eq_true rfl) rfl (Nat.le_of_ble_eq_true rfl) dX6_occurs_58 rfl ?_
  have eT := (r_ifo e).1
  have eF := (r_ifo e).2
  refine r_if_le z4 77 dX6_occurs_61 (by decide) (fun c5 => ?_) (fun c5 => ?_)
  · have e := eT c5
    exact wX6_occurs_b77 E K9 hK9 s a1 a3 a4 a5 ha1 ha3 ha4 ha5 e
  · have e := eF c5
    refine r_aload_n dX6_occurs_64 rfl 0 rfl ?_
    refine r_sR E.p 51 fG_X6_125 (by decide) dX6_occurs_65 ?_
    refine r_iload_n dX6_occurs_68 rfl 2 rfl ?_
    refine r_iload dX6_occurs_69 3 rfl ?_
    refine r_iconst dX6_occurs_71 ?_
    refine r_iadd dX6_occurs_72 ?_
    obtain ⟨g6, e⟩ := gd_o e
    refine r_saP E.p 51 rfl (by decide) (by decide) ha3 g6 (wr_r _) rfl dX6_occurs_73 ?_
    refine r_rrs E.p (fun rr7 => ?_)
    refine r_iinc (lv' := [(3, ti (wr (a3 + 1))), (0, tr (some b)), (1, ti a1), (4, ti a4), (5, ti a5)]) dX6_occurs_74 2 rfl (E.lt (by decide)) rfl ?_
    refine r_sub [1, 2, 0, 3, 4] rfl ?_
    exact wX6_occurs_b77 E K9 hK9 (sA s 51 a3 (wr (a4 + 1))) a1 (wr (a3 + 1)) a4 a5 ha1 (wr_r _) ha4 ha5 e
def fX6_occurs_b9 (K9 : Sg → Int → Int → Option (Int × Sg)) (s : Sg) (a1 : Int) (a3 : Int) : Option (Int × Sg) := if a3 ≤ 0 then some (0, s) else gd (inb (wr (a3 + (-1))) 64) (bd (fX6_standsFor s (gA s 51 (wr (a3 + (-1))))) fun p3 => bd (fX6_letterOf s p3) fun p7 => bd (fX6_isVariable p7) fun p11 => if p11 = 0 then fX6_occurs_b56 K9 s a1 (wr (a3 + (-1))) p3 p7 else bd (fX6_variableOf s p3) fun p16 => if ¬ p16 = a1 then fX6_occurs_b56 K9 s a1 (wr (a3 + (-1))) p3 p7 else some (1, s))
theorem wX6_occurs_b9 {N : Nx} {b : Nat} {ad : Nat → Nat} {s' : Sg} {h : hS} {r : Int} (E : EndX N [(6, b, ad)] 6 (some .boolean) (some (ti r)) [s'] h) (K9 : Sg → Int → Int → Option (Int × Sg)) (hK9 : ∀ (s : Sg) (a1 : Int) (a3 : Int) (ha1 : rI a1) (ha3 : rI a3), K9 s a1 a3 = some (r, s') → AtPc cX6_occurs RX6 3 64 N [s] h 9 [(0, tr (some b)), (1, ti a1), (3, ti a3)] []) (s : Sg) (a1 : Int) (a3 : Int) (ha1 : rI a1) (ha3 : rI a3) (e : fX6_occurs_b9 K9 s a1 a3 = some (r, s')) : AtPc cX6_occurs RX6 3 64 N [s] h 9 [(0, tr (some b)), (1, ti a1), (3, ti a3)] [] := by
  unfold fX6_occurs_b9 at e
  refine r_rrs E.p (fun rr => ?_)
  refine r_iload_n dX6_occurs_9 rfl 2 rfl ?_
  have eT := (r_ifo e).1
  have eF := (r_ifo e).2
  refine r_if_le ha3 106 dX6_occurs_10 (by decide) (fun c1 => ?_) (fun c1 => ?_)
  · have e := eT c1
    refine r_iconst dX6_occurs_106 ?_
    cases e
    exact r_zret E.σ E.st E.rt E.r (Or.inl rfl) dX6_occurs_107
  · have e := eF c1
    refine r_iinc (lv' := [(3, ti (wr (a3 + (-1)))), (0, tr (some b)), (1, ti a1)]) dX6_occurs_13 2 rfl (E.lt (by decide)) rfl ?_
    refine r_aload_n dX6_occurs_16 rfl 1 rfl ?_
    refine r_aload_n dX6_occurs_17 rfl 1 rfl ?_
    refine r_sR E.p 51 fG_X6_125 (by decide) dX6_occurs_18 ?_
    refine r_iload_n dX6_occurs_21 rfl 0 rfl ?_
    obtain ⟨g2, e⟩ := gd_o e
    refine r_saI E.p 51 rfl (by decide) (by decide) (wr_r _) g2 rfl dX6_occurs_22 ?_
    obtain ⟨p3, q4, e⟩ := bd_o e
    have k5 := kX6_standsFor (G := nG N) (b := b) (ad := ad) (h := h) (((rr.mine rfl).a 51 (by decide) rfl).1 _) q4
    have z6 := (k5 rr).1.2.2.2
    refine r_callV (j := some 0) 1 [ti (gA s 51 (wr (a3 + (-1))))] (rec_sg (j := 0) (r := (RX6, TX6, 63)) rfl (by rw [E.p]; rfl)) rfl k5 (injO_1 E.p) (subO_1 E.p) getO_1 setO_1 (lw_V q1813 q1815 qs85 q123 q1816) (by decide +kernel) rfl (Nat.le_of_ble_eq_true rfl) (Nat.le_of_ble_eq_true rfl) rfl (Nat.le_of_ble_eq_true rfl) dX6_occurs_23 rfl ?_
    refine r_istore (lv' := [(4, ti p3), (3, ti (wr (a3 + (-1)))), (0, tr (some b)), (1, ti a1)]) dX6_occurs_26 (E.lt (by decide)) rfl ?_
    refine r_aload_n dX6_occurs_28 rfl 2 rfl ?_
    refine r_iload dX6_occurs_29 0 rfl ?_
    obtain ⟨p7, q8, e⟩ := bd_o e
    have k9 := kX6_letterOf (G := nG N) (b := b) (ad := ad) (h := h) z6 q8
    have z10 := (k9 rr).1.2.2.2
    refine r_callV (j := some 0) 1 [ti p3] (rec_sg (j := 0) (r := (RX6, TX6, 63)) rfl (by rw [E.p]; rfl)) rfl k9 (injO_1 E.p) (subO_1 E.p) getO_1 setO_1 (lw_V q1817 q1819 qs86 q123 q1820) (by decide +kernel) rfl (Nat.le_of_ble_eq_true rfl) (Nat.le_of_ble_eq_true rfl) rfl (Nat.le_of_ble_eq_true rfl) dX6_occurs_31 rfl ?_
    refine r_istore (lv' := [(5, ti p7), (4, ti p3), (3, ti (wr (a3 + (-1)))), (0, tr (some b)), (1, ti a1)]) dX6_occurs_34 (E.lt (by decide)) rfl ?_
    refine r_iload dX6_occurs_36 0 rfl ?_
    obtain ⟨p11, q12, e⟩ := bd_o e
    have k13 := kX6_isVariable (G := nG N) (h := h) z10 q12
    have z14 := (k13 rr.none).1.2.2.2
    refine r_callS (j := none) 1 [ti p7] k13 (injO_1 E.p) subO_0 getO_0 setO_0 (lw_S q1656 q1657 q123 q1658) (by decide +kernel) rfl (Nat.le_of_ble_eq_true rfl) (Nat.le_of_ble_eq_true rfl) rfl (Nat.le_of_ble_eq_true rfl) dX6_occurs_38 rfl ?_
    have eT := (r_ifo e).1
    have eF := (r_ifo e).2
    refine r_if_eq (rI_z z14) 56 dX6_occurs_41 (by decide) (fun c15 => ?_) (fun c15 => ?_)
    · have e := eT c15
      refine r_sub [3, 4, 2, 1, 0] rfl ?_
      exact wX6_occurs_b56 E K9 hK9 s a1 (wr (a3 + (-1))) p3 p7 ha1 (wr_r _) z6 z10 e
    · have e := eF c15
      refine r_aload_n dX6_occurs_44 rfl 3 rfl ?_
      refine r_iload dX6_occurs_45 1 rfl ?_
      obtain ⟨p16, q17, e⟩ := bd_o e
      have k18 := kX6_variableOf (G := nG N) (b := b) (ad := ad) (h := h) z6 q17
      have z19 := (k18 rr).1.2.2.2
      refine r_callV (j := some 0) 1 [ti p3] (rec_sg (j := 0) (r := (RX6, TX6, 63)) rfl (by rw [E.p]; rfl)) rfl k18 (injO_1 E.p) (subO_1 E.p) getO_1 setO_1 (lw_V q1821 q1823 qs87 q123 q1824) (by decide +kernel) rfl (Nat.le_of_ble_eq_true rfl) (Nat.le_of_ble_eq_true rfl) rfl (Nat.le_of_ble_eq_true rfl) dX6_occurs_47 rfl ?_
      refine r_iload_n dX6_occurs_50 rfl 4 rfl ?_
      have eT := (r_ifo e).1
      have eF := (r_ifo e).2
      refine r_icmp_ne z19 ha1 56 dX6_occurs_51 (by decide) (fun c20 => ?_) (fun c20 => ?_)
      · have e := eT c20
        refine r_sub [3, 4, 2, 1, 0] rfl ?_
        exact wX6_occurs_b56 E K9 hK9 s a1 (wr (a3 + (-1))) p3 p7 ha1 (wr_r _) z6 z10 e
      · have e := eF c20
        refine r_iconst dX6_occurs_54 ?_
        cases e
        exact r_zret E.σ E.st E.rt E.r (Or.inr rfl) dX6_occurs_55
def fX6_occurs_L9  : Nat → Sg → Int → Int → Option (Int × Sg)
  | 0, _, _, _ => none
  | n9 + 1, s, a1, a3 => fX6_occurs_b9 (fX6_occurs_L9 n9) s a1 a3
theorem wX6_occurs_L9 {N : Nx} {b : Nat} {ad : Nat → Nat} {s' : Sg} {h : hS} {r : Int} (E : EndX N [(6, b, ad)] 6 (some .boolean) (some (ti r)) [s'] h)  : ∀ (n9 : Nat), ∀ (s : Sg) (a1 : Int) (a3 : Int) (ha1 : rI a1) (ha3 : rI a3), fX6_occurs_L9 n9 s a1 a3 = some (r, s') → AtPc cX6_occurs RX6 3 64 N [s] h 9 [(0, tr (some b)), (1, ti a1), (3, ti a3)] [] := by
  intro n9
  induction n9 with
  | zero => intro s a1 a3 ha1 ha3 e; cases e
  | succ n9 ih => intro s a1 a3 ha1 ha3 e; exact wX6_occurs_b9 E _ ih s a1 a3 ha1 ha3 e
def fX6_occurs  (s : Sg) (a1 : Int) (a2 : Int) : Option (Int × Sg) := fX6_occurs_L9 FU (sA s 51 0 a2) a1 1
theorem kX6_occurs {G : Gx}  {b : Nat} {ad : Nat → Nat} {s' : Sg} {h : hS} {r : Int} {s : Sg} {a1 : Int} {a2 : Int}  (ha1 : rI a1) (ha2 : rI a2) (e : fX6_occurs s a1 a2 = some (r, s')) : CtX G yX6_occurs cX6_occurs 6 (some .boolean) 3 64 [(6, b, ad)] [s] h [tr (some b), ti a1, ti a2] (some (ti r)) [s'] h := by
  refine CtX.of (by decide) (Nat.le_of_ble_eq_true rfl) [(0, tr (some b)), (1, ti a1), (2, ti a2)] rfl ?_
  have E : EndX (G, 6, [(6, b, ad)], h, [s'], h, (some .boolean), (some (ti r)), yX6_occurs.name) [(6, b, ad)] 6 (some .boolean) (some (ti r)) [s'] h := ⟨rfl, rfl, rfl, rfl, rfl, rfl⟩
  unfold fX6_occurs at e
  refine r_rrs E.p (fun rr => ?_)
  refine r_iconst dX6_occurs_0 ?_
  refine r_istore_n (lv' := [(3, ti 1), (0, tr (some b)), (1, ti a1), (2, ti a2)]) dX6_occurs_1 rfl (E.lt (by decide)) rfl ?_
  refine r_aload_n dX6_occurs_2 rfl 1 rfl ?_
  refine r_sR E.p 51 fG_X6_125 (by decide) dX6_occurs_3 ?_
  refine r_iconst dX6_occurs_6 ?_
  refine r_iload_n dX6_occurs_7 rfl 3 rfl ?_
  refine r_saP E.p 51 rfl (by decide) (by decide) (by decide) (by decide) ha2 rfl dX6_occurs_8 ?_
  refine r_rrs E.p (fun rr1 => ?_)
  refine r_sub [1, 2, 0] rfl ?_
  exact wX6_occurs_L9 E FU (sA s 51 0 a2) a1 1 ha1 (by decide) e
def fX6_joins_b76 (s : Sg) (a5 : Int) (k0 : Int) : Option (Int × Sg) := bd (fX6_occurs s a5 k0) fun p1 => if p1.1 = 0 then gd (inb a5 4) (some (1, sA p1.2 47 a5 k0)) else some (0, p1.2)
theorem wX6_joins_b76 {N : Nx} {b : Nat} {ad : Nat → Nat} {s' : Sg} {h : hS} {r : Int} (E : EndX N [(6, b, ad)] 7 (some .boolean) (some (ti r)) [s'] h)  (s : Sg) (a5 : Int) (k0 : Int) (ha5 : rI a5) (hk0 : rI k0) (e : fX6_joins_b76 s a5 k0 = some (r, s')) : AtPc cX6_joins RX6 4 89 N [s] h 76 [(0, tr (some b)), (5, ti a5)] [ti k0] := by
  unfold fX6_joins_b76 at e
  refine r_rrs E.p (fun rr => ?_)
  refine r_istore (lv' := [(6, ti k0), (0, tr (some b)), (5, ti a5)]) dX6_joins_76 (E.lt (by decide)) rfl ?_
  refine r_aload_n dX6_joins_78 rfl 1 rfl ?_
  refine r_iload dX6_joins_79 2 rfl ?_
  refine r_iload dX6_joins_81 0 rfl ?_
  obtain ⟨p1, q2, e⟩ := bd_o e
  have k3 := kX6_occurs (G := nG N) (b := b) (ad := ad) (h := h) ha5 hk0 q2
  have z4 := (k3 rr).1.2.2.2
  refine r_callV (j := some 0) 2 [ti a5, ti k0] (rec_sg (j := 0) (r := (RX6, TX6, 63)) rfl (by rw [E.p]; rfl)) rfl k3 (injO_1 E.p) (subO_1 E.p) getO_1 setO_1 (lw_V q1829 q1831 qs89 q123 q1832) (by decide +kernel) rfl (Nat.le_of_ble_eq_true rfl) (Nat.le_of_ble_eq_true rfl) rfl (Nat.le_of_ble_eq_true rfl) dX6_joins_83 rfl ?_
  refine r_rrs E.p (fun rr5 => ?_)
  have eT := (r_ifo e).1
  have eF := (r_ifo e).2
  refine r_if_eq (rI_z z4) 91 dX6_joins_86 (by decide) (fun c6 => ?_) (fun c6 => ?_)
  · have e := eT c6
    refine r_aload_n dX6_joins_91 rfl 1 rfl ?_
    refine r_sR E.p 47 fG_X6_116 (by decide) dX6_joins_92 ?_
    refine r_iload dX6_joins_95 2 rfl ?_
    refine r_iload dX6_joins_97 0 rfl ?_
    obtain ⟨g7, e⟩ := gd_o e
    refine r_saP E.p 47 rfl (by decide) (by decide) ha5 g7 hk0 rfl dX6_joins_99 ?_
    refine r_rrs E.p (fun rr8 => ?_)
    refine r_iconst dX6_joins_100 ?_
    cases e
    exact r_zret E.σ E.st E.rt E.r (Or.inr rfl) dX6_joins_101
  · have e := eF c6
    refine r_iconst dX6_joins_89 ?_
    cases e
    exact r_zret E.σ E.st E.rt E.r (Or.inl rfl) dX6_joins_90
def fX6_joins_b62 (s : Sg) (a1 : Int) (a2 : Int) (a3 : Int) (k1 : Int) : Option (Int × Sg) := bd (fX6_variableOf s k1) fun p1 => if a3 = 0 then fX6_joins_b76 s p1 a1 else fX6_joins_b76 s p1 a2
theorem wX6_joins_b62 {N : Nx} {b : Nat} {ad : Nat → Nat} {s' : Sg} {h : hS} {r : Int} (E : EndX N [(6, b, ad)] 7 (some .boolean) (some (ti r)) [s'] h)  (s : Sg) (a1 : Int) (a2 : Int) (a3 : Int) (k1 : Int) (ha1 : rI a1) (ha2 : rI a2) (ha3 : rI a3) (hk1 : rI k1) (e : fX6_joins_b62 s a1 a2 a3 k1 = some (r, s')) : AtPc cX6_joins RX6 4 89 N [s] h 62 [(0, tr (some b)), (1, ti a1), (2, ti a2), (3, ti a3)] [ti k1, tr (some b)] := by
  unfold fX6_joins_b62 at e
  refine r_rrs E.p (fun rr => ?_)
  obtain ⟨p1, q2, e⟩ := bd_o e
  have k3 := kX6_variableOf (G := nG N) (b := b) (ad := ad) (h := h) hk1 q2
  have z4 := (k3 rr).1.2.2.2
  refine r_callV (j := some 0) 1 [ti k1] (rec_sg (j := 0) (r := (RX6, TX6, 63)) rfl (by rw [E.p]; rfl)) rfl k3 (injO_1 E.p) (subO_1 E.p) getO_1 setO_1 (lw_V q1821 q1823 qs87 q123 q1824) (by decide +kernel) rfl (Nat.le_of_ble_eq_true rfl) (Nat.le_of_ble_eq_true rfl) rfl (Nat.le_of_ble_eq_true rfl) dX6_joins_62 rfl ?_
  refine r_istore (lv' := [(5, ti p1), (0, tr (some b)), (1, ti a1), (2, ti a2), (3, ti a3)]) dX6_joins_65 (E.lt (by decide)) rfl ?_
  refine r_iload_n dX6_joins_67 rfl 4 rfl ?_
  have eT := (r_ifo e).1
  have eF := (r_ifo e).2
  refine r_if_eq ha3 75 dX6_joins_68 (by decide) (fun c5 => ?_) (fun c5 => ?_)
  · have e := eT c5
    refine r_iload_n dX6_joins_75 rfl 2 rfl ?_
    refine r_sub [1, 0] rfl ?_
    exact wX6_joins_b76 E s p1 a1 z4 ha1 e
  · have e := eF c5
    refine r_iload_n dX6_joins_71 rfl 3 rfl ?_
    refine r_goto 76 dX6_joins_72 (by decide) ?_
    refine r_sub [1, 0] rfl ?_
    exact wX6_joins_b76 E s p1 a2 z4 ha2 e
def fX6_joins_b52 (s : Sg) (a1 : Int) (a2 : Int) (a3 : Int) : Option (Int × Sg) := if a3 = 0 then fX6_joins_b62 s a1 a2 a3 a2 else fX6_joins_b62 s a1 a2 a3 a1
theorem wX6_joins_b52 {N : Nx} {b : Nat} {ad : Nat → Nat} {s' : Sg} {h : hS} {r : Int} (E : EndX N [(6, b, ad)] 7 (some .boolean) (some (ti r)) [s'] h)  (s : Sg) (a1 : Int) (a2 : Int) (a3 : Int) (ha1 : rI a1) (ha2 : rI a2) (ha3 : rI a3) (e : fX6_joins_b52 s a1 a2 a3 = some (r, s')) : AtPc cX6_joins RX6 4 89 N [s] h 52 [(0, tr (some b)), (1, ti a1), (2, ti a2), (3, ti a3)] [] := by
  unfold fX6_joins_b52 at e
  refine r_rrs E.p (fun rr => ?_)
  refine r_aload_n dX6_joins_52 rfl 0 rfl ?_
  refine r_iload_n dX6_joins_53 rfl 3 rfl ?_
  have eT := (r_ifo e).1
  have eF := (r_ifo e).2
  refine r_if_eq ha3 61 dX6_joins_54 (by decide) (fun c1 => ?_) (fun c1 => ?_)
  · have e := eT c1
    refine r_iload_n dX6_joins_61 rfl 2 rfl ?_
    exact wX6_joins_b62 E s a1 a2 a3 a2 ha1 ha2 ha3 ha2 e
  · have e := eF c1
    refine r_iload_n dX6_joins_57 rfl 1 rfl ?_
    refine r_goto 62 dX6_joins_58 (by decide) ?_
    exact wX6_joins_b62 E s a1 a2 a3 a1 ha1 ha2 ha3 ha1 e
def fX6_joins_b168 (s : Sg) : Option (Int × Sg) := some (1, s)
theorem wX6_joins_b168 {N : Nx} {b : Nat} {ad : Nat → Nat} {s' : Sg} {h : hS} {r : Int} (E : EndX N [(6, b, ad)] 7 (some .boolean) (some (ti r)) [s'] h)  (s : Sg) (e : fX6_joins_b168 s = some (r, s')) : AtPc cX6_joins RX6 4 89 N [s] h 168 [] [] := by
  unfold fX6_joins_b168 at e
  refine r_rrs E.p (fun rr => ?_)
  refine r_iconst dX6_joins_168 ?_
  cases e
  exact r_zret E.σ E.st E.rt E.r (Or.inr rfl) dX6_joins_169
def fX6_joins_b147 (s : Sg) (a1 : Int) (a2 : Int) : Option (Int × Sg) := bd (fX6_letterOf s a1) fun p1 => bd (fX6_wants p1) fun p5 => if p5 ≤ 0 then fX6_joins_b168 s else bd (fX6_addPair s (wr (a1 + 1)) (wr (a2 + 1))) fun p10 => fX6_joins_b168 p10
theorem wX6_joins_b147 {N : Nx} {b : Nat} {ad : Nat → Nat} {s' : Sg} {h : hS} {r : Int} (E : EndX N [(6, b, ad)] 7 (some .boolean) (some (ti r)) [s'] h)  (s : Sg) (a1 : Int) (a2 : Int) (ha1 : rI a1) (ha2 : rI a2) (e : fX6_joins_b147 s a1 a2 = some (r, s')) : AtPc cX6_joins RX6 4 89 N [s] h 147 [(0, tr (some b)), (1, ti a1), (2, ti a2)] [] := by
  unfold fX6_joins_b147 at e
  refine r_rrs E.p (fun rr => ?_)
  refine r_aload_n dX6_joins_147 rfl 0 rfl ?_
  refine r_iload_n dX6_joins_148 rfl 1 rfl ?_
  obtain ⟨p1, q2, e⟩ := bd_o e
  have k3 := kX6_letterOf (G := nG N) (b := b) (ad := ad) (h := h) ha1 q2
  have z4 := (k3 rr).1.2.2.2
  refine r_callV (j := some 0) 1 [ti a1] (rec_sg (j := 0) (r := (RX6, TX6, 63)) rfl (by rw [E.p]; rfl)) rfl k3 (injO_1 E.p) (subO_1 E.p) getO_1 setO_1 (lw_V q1817 q1819 qs86 q123 q1820) (by decide +kernel) rfl (Nat.le_of_ble_eq_true rfl) (Nat.le_of_ble_eq_true rfl) rfl (Nat.le_of_ble_eq_true rfl) dX6_joins_149 rfl ?_
  obtain ⟨p5, q6, e⟩ := bd_o e
  have k7 := kX6_wants (G := nG N) (h := h) z4 q6
  have z8 := (k7 rr.none).1.2.2.2
  refine r_callS (j := none) 1 [ti p1] k7 (injO_1 E.p) subO_0 getO_0 setO_0 (lw_S q1645 q1646 q123 q1647) (by decide +kernel) rfl (Nat.le_of_ble_eq_true rfl) (Nat.le_of_ble_eq_true rfl) rfl (Nat.le_of_ble_eq_true rfl) dX6_joins_152 rfl ?_
  have eT := (r_ifo e).1
  have eF := (r_ifo e).2
  refine r_if_le z8 168 dX6_joins_155 (by decide) (fun c9 => ?_) (fun c9 => ?_)
  · have e := eT c9
    refine r_sub [] rfl ?_
    exact wX6_joins_b168 E s e
  · have e := eF c9
    refine r_aload_n dX6_joins_158 rfl 0 rfl ?_
    refine r_iload_n dX6_joins_159 rfl 1 rfl ?_
    refine r_iconst dX6_joins_160 ?_
    refine r_iadd dX6_joins_161 ?_
    refine r_iload_n dX6_joins_162 rfl 2 rfl ?_
    refine r_iconst dX6_joins_163 ?_
    refine r_iadd dX6_joins_164 ?_
    obtain ⟨p10, q11, e⟩ := bd_o e
    have k12 := kX6_addPair (G := nG N) (b := b) (ad := ad) (h := h) (wr_r _) (wr_r _) q11
    have z13 := (k12 rr).1.2.2.2
    refine r_callV (j := some 0) 2 [ti (wr (a1 + 1)), ti (wr (a2 + 1))] (rec_sg (j := 0) (r := (RX6, TX6, 63)) rfl (by rw [E.p]; rfl)) rfl k12 (injO_1 E.p) (subO_1 E.p) getO_1 setO_1 (lw_V q1809 q1811 qs84 q123 q1812) (by decide +kernel) rfl (Nat.le_of_ble_eq_true rfl) (Nat.le_of_ble_eq_true rfl) rfl (Nat.le_of_ble_eq_true rfl) dX6_joins_165 rfl ?_
    refine r_rrs E.p (fun rr14 => ?_)
    refine r_sub [] rfl ?_
    exact wX6_joins_b168 E p10 e
def fX6_joins_b43 (s : Sg) (a1 : Int) (a2 : Int) (a3 : Int) (a4 : Int) : Option (Int × Sg) := if ¬ a3 = 0 then fX6_joins_b52 s a1 a2 a3 else if a4 = 0 then bd (fX6_letterOf s a1) fun p3 => bd (fX6_letterOf s a2) fun p7 => if p3 = p7 then bd (fX6_letterOf s a1) fun p12 => bd (fX6_wants p12) fun p16 => if p16 ≤ 1 then fX6_joins_b147 s a1 a2 else bd (fX6_behind s (wr (a1 + 1))) fun p21 => bd (fX6_behind s (wr (a2 + 1))) fun p25 => bd (fX6_addPair s p21 p25) fun p29 => fX6_joins_b147 p29 a1 a2 else some (0, s) else fX6_joins_b52 s a1 a2 a3
theorem wX6_joins_b43 {N : Nx} {b : Nat} {ad : Nat → Nat} {s' : Sg} {h : hS} {r : Int} (E : EndX N [(6, b, ad)] 7 (some .boolean) (some (ti r)) [s'] h)  (s : Sg) (a1 : Int) (a2 : Int) (a3 : Int) (a4 : Int) (ha1 : rI a1) (ha2 : rI a2) (ha3 : rI a3) (ha4 : rI a4) (e : fX6_joins_b43 s a1 a2 a3 a4 = some (r, s')) : AtPc cX6_joins RX6 4 89 N [s] h 43 [(0, tr (some b)), (1, ti a1), (2, ti a2), (3, ti a3), (4, ti a4)] [] := by
  unfold fX6_joins_b43 at e
  refine r_rrs E.p (fun rr => ?_)
  refine r_iload_n dX6_joins_43 rfl 3 rfl ?_
  have eT := (r_ifo e).1
  have eF := (r_ifo e).2
  refine r_if_ne ha3 52 dX6_joins_44 (by decide) (fun c1 => ?_) (fun c1 => ?_)
  · have e := eT c1
    refine r_sub [0, 1, 2, 3] rfl ?_
    exact wX6_joins_b52 E s a1 a2 a3 ha1 ha2 ha3 e
  · have e := eF c1
    refine r_iload dX6_joins_47 4 rfl ?_
    have eT := (r_ifo e).1
    have eF := (r_ifo e).2
    refine r_if_eq ha4 102 dX6_joins_49 (by decide) (fun c2 => ?_) (fun c2 => ?_)
    · have e := eT c2
      refine r_aload_n dX6_joins_102 rfl 0 rfl ?_
      refine r_iload_n dX6_joins_103 rfl 1 rfl ?_
      obtain ⟨p3, q4, e⟩ := bd_o e
      have k5 := kX6_letterOf (G := nG N) (b := b) (ad := ad) (h := h) ha1 q4
      have z6 := (k5 rr).1.2.2.2
      refine r_callV (j := some 0) 1 [ti a1] (rec_sg (j := 0) (r := (RX6, TX6, 63)) rfl (by rw [E.p]; rfl)) rfl k5 (injO_1 E.p) (subO_1 E.p) getO_1 setO_1 (lw_V q1817 q1819 qs86 q123 q1820) (by decide +kernel) rfl (Nat.le_of_ble_eq_true rfl) (Nat.le_of_ble_eq_true rfl) rfl (Nat.le_of_ble_eq_true rfl) dX6_joins_104 rfl ?_
      refine r_aload_n dX6_joins_107 rfl 0 rfl ?_
      refine r_iload_n dX6_joins_108 rfl 2 rfl ?_
      obtain ⟨p7, q8, e⟩ := bd_o e
      have k9 := kX6_letterOf (G := nG N) (b := b) (ad := ad) (h := h) ha2 q8
      have z10 := (k9 rr).1.2.2.2
      refine r_callV (j := some 0) 1 [ti a2] (rec_sg (j := 0) (r := (RX6, TX6, 63)) rfl (by rw [E.p]; rfl)) rfl k9 (injO_1 E.p) (subO_1 E.p) getO_1 setO_1 (lw_V q1817 q1819 qs86 q123 q1820) (by decide +kernel) rfl (Nat.le_of_ble_eq_true rfl) (Nat.le_of_ble_eq_true rfl) rfl (Nat.le_of_ble_eq_true rfl) dX6_joins_109 rfl ?_
      have eT := (r_ifo e).1
      have eF := (r_ifo e).2
      refine r_icmp_eq z6 z10 117 dX6_joins_112 (by decide) (fun c11 => ?_) (fun c11 => ?_)
      · have e := eT c11
        refine r_aload_n dX6_joins_117 rfl 0 rfl ?_
        refine r_iload_n dX6_joins_118 rfl 1 rfl ?_
        obtain ⟨p12, q13, e⟩ := bd_o e
        have k14 := kX6_letterOf (G := nG N) (b := b) (ad := ad) (h := h) ha1 q13
        have z15 := (k14 rr).1.2.2.2
        refine r_callV (j := some 0) 1 [ti a1] (rec_sg (j := 0) (r := (RX6, TX6, 63)) rfl (by rw [E.p]; rfl)) rfl k14 (injO_1 E.p) (subO_1 E.p) getO_1 setO_1 (lw_V q1817 q1819 qs86 q123 q1820) (by decide +kernel) rfl (Nat.le_of_ble_eq_true rfl) (Nat.le_of_ble_eq_true rfl) rfl (Nat.le_of_ble_eq_true rfl) dX6_joins_119 rfl ?_
        obtain ⟨p16, q17, e⟩ := bd_o e
        have k18 := kX6_wants (G := nG N) (h := h) z15 q17
        have z19 := (k18 rr.none).1.2.2.2
        refine r_callS (j := none) 1 [ti p12] k18 (injO_1 E.p) subO_0 getO_0 setO_0 (lw_S q1645 q1646 q123 q1647) (by decide +kernel) rfl (Nat.le_of_ble_eq_true rfl) (Nat.le_of_ble_eq_true rfl) rfl (Nat.le_of_ble_eq_true rfl) dX6_joins_122 rfl ?_
        refine r_iconst dX6_joins_125 ?_
        have eT := (r_ifo e).1
        have eF := (r_ifo e).2
        refine r_icmp_le z19 (by decide) 147 dX6_joins_126 (by decide) (fun c20 => ?_) (fun c20 => ?_)
        · have e := eT c20
          refine r_sub [0, 1, 2] rfl ?_
          exact wX6_joins_b147 E s a1 a2 ha1 ha2 e
        · have e := eF c20
          refine r_aload_n dX6_joins_129 rfl 0 rfl ?_
          refine r_aload_n dX6_joins_130 rfl 0 rfl ?_
          refine r_iload_n dX6_joins_131 rfl 1 rfl ?_
          refine r_iconst dX6_joins_132 ?_
          refine r_iadd dX6_joins_133 ?_
          obtain ⟨p21, q22, e⟩ := bd_o e
          have k23 := kX6_behind (G := nG N) (b := b) (ad := ad) (h := h) (wr_r _) q22
          have z24 := (k23 rr).1.2.2.2
          refine r_callV (j := some 0) 1 [ti (wr (a1 + 1))] (rec_sg (j := 0) (r := (RX6, TX6, 63)) rfl (by rw [E.p]; rfl)) rfl k23 (injO_1 E.p) (subO_1 E.p) getO_1 setO_1 (lw_V q1833 q1835 qs90 q123 q1836) (by decide +kernel) rfl (Nat.le_of_ble_eq_true rfl) (Nat.le_of_ble_eq_true rfl) rfl (Nat.le_of_ble_eq_true rfl) dX6_joins_134 rfl ?_
          refine r_aload_n dX6_joins_137 rfl 0 rfl ?_
          refine r_iload_n dX6_joins_138 rfl 2 rfl ?_
          refine r_iconst dX6_joins_139 ?_
          refine r_iadd dX6_joins_140 ?_
          obtain ⟨p25, q26, e⟩ := bd_o e
          have k27 := kX6_behind (G := nG N) (b := b) (ad := ad) (h := h) (wr_r _) q26
          have z28 := (k27 rr).1.2.2.2
          refine r_callV (j := some 0) 1 [ti (wr (a2 + 1))] (rec_sg (j := 0) (r := (RX6, TX6, 63)) rfl (by rw [E.p]; rfl)) rfl k27 (injO_1 E.p) (subO_1 E.p) getO_1 setO_1 (lw_V q1833 q1835 qs90 q123 q1836) (by decide +kernel) rfl (Nat.le_of_ble_eq_true rfl) (Nat.le_of_ble_eq_true rfl) rfl (Nat.le_of_ble_eq_true rfl) dX6_joins_141 rfl ?_
          obtain ⟨p29, q30, e⟩ := bd_o e
          have k31 := kX6_addPair (G := nG N) (b := b) (ad := ad) (h := h) z24 z28 q30
          have z32 := (k31 rr).1.2.2.2
          refine r_callV (j := some 0) 2 [ti p21, ti p25] (rec_sg (j := 0) (r := (RX6, TX6, 63)) rfl (by rw [E.p]; rfl)) rfl k31 (injO_1 E.p) (subO_1 E.p) getO_1 setO_1 (lw_V q1809 q1811 qs84 q123 q1812) (by decide +kernel) rfl (Nat.le_of_ble_eq_true rfl) (Nat.le_of_ble_eq_true rfl) rfl (Nat.le_of_ble_eq_true rfl) dX6_joins_144 rfl ?_
          refine r_rrs E.p (fun rr33 => ?_)
          refine r_sub [0, 1, 2] rfl ?_
          exact wX6_joins_b147 E p29 a1 a2 ha1 ha2 e
      · have e := eF c11
        refine r_iconst dX6_joins_115 ?_
        cases e
        exact r_zret E.σ E.st E.rt E.r (Or.inl rfl) dX6_joins_116
    · have e := eF c2
      refine r_sub [0, 1, 2, 3] rfl ?_
      exact wX6_joins_b52 E s a1 a2 a3 ha1 ha2 ha3 e
def fX6_joins  (s : Sg) (a1 : Int) (a2 : Int) : Option (Int × Sg) := bd (fX6_letterOf s a1) fun p1 => bd (fX6_isVariable p1) fun p5 => bd (fX6_letterOf s a2) fun p9 => bd (fX6_isVariable p9) fun p13 => if p5 = 0 then fX6_joins_b43 s a1 a2 p5 p13 else if p13 = 0 then fX6_joins_b43 s a1 a2 p5 p13 else bd (fX6_variableOf s a1) fun p19 => bd (fX6_variableOf s a2) fun p23 => if ¬ p19 = p23 then fX6_joins_b43 s a1 a2 p5 p13 else some (1, s)
theorem kX6_joins {G : Gx}  {b : Nat} {ad : Nat → Nat} {s' : Sg} {h : hS} {r : Int} {s : Sg} {a1 : Int} {a2 : Int}  (ha1 : rI a1) (ha2 : rI a2) (e : fX6_joins s a1 a2 = some (r, s')) : CtX G yX6_joins cX6_joins 7 (some .boolean) 4 89 [(6, b, ad)] [s] h [tr (some b), ti a1, ti a2] (some (ti r)) [s'] h := by
  refine CtX.of (by decide) (Nat.le_of_ble_eq_true rfl) [(0, tr (some b)), (1, ti a1), (2, ti a2)] rfl ?_
  have E : EndX (G, 7, [(6, b, ad)], h, [s'], h, (some .boolean), (some (ti r)), yX6_joins.name) [(6, b, ad)] 7 (some .boolean) (some (ti r)) [s'] h := ⟨rfl, rfl, rfl, rfl, rfl, rfl⟩
  unfold fX6_joins at e
  refine r_rrs E.p (fun rr => ?_)
  refine r_aload_n dX6_joins_0 rfl 0 rfl ?_
  refine r_iload_n dX6_joins_1 rfl 1 rfl ?_
  obtain ⟨p1, q2, e⟩ := bd_o e
  have k3 := kX6_letterOf (G := G) (b := b) (ad := ad) (h := h) ha1 q2
  have z4 := (k3 rr).1.2.2.2
  refine r_callV (j := some 0) 1 [ti a1] (rec_sg (j := 0) (r := (RX6, TX6, 63)) rfl (by rw [E.p]; rfl)) rfl k3 (injO_1 E.p) (subO_1 E.p) getO_1 setO_1 (lw_V q1817 q1819 qs86 q123 q1820) (by decide +kernel) rfl (Nat.le_of_ble_eq_true rfl) (Nat.le_of_ble_eq_true rfl) rfl (Nat.le_of_ble_eq_true rfl) dX6_joins_2 rfl ?_
  obtain ⟨p5, q6, e⟩ := bd_o e
  have k7 := kX6_isVariable (G := G) (h := h) z4 q6
  have z8 := (k7 rr.none).1.2.2.2
  refine r_callS (j := none) 1 [ti p1] k7 (injO_1 E.p) subO_0 getO_0 setO_0 (lw_S q1656 q1657 q123 q1658) (by decide +kernel) rfl (Nat.le_of_ble_eq_true rfl) (Nat.le_of_ble_eq_true rfl) rfl (Nat.le_of_ble_eq_true rfl) dX6_joins_5 rfl ?_
  refine r_istore_n (lv' := [(3, ti p5), (0, tr (some b)), (1, ti a1), (2, ti a2)]) dX6_joins_8 rfl (E.lt (by decide)) rfl ?_
  refine r_aload_n dX6_joins_9 rfl 1 rfl ?_
  refine r_iload_n dX6_joins_10 rfl 3 rfl ?_
  obtain ⟨p9, q10, e⟩ := bd_o e
  have k11 := kX6_letterOf (G := G) (b := b) (ad := ad) (h := h) ha2 q10
  have z12 := (k11 rr).1.2.2.2
  refine r_callV (j := some 0) 1 [ti a2] (rec_sg (j := 0) (r := (RX6, TX6, 63)) rfl (by rw [E.p]; rfl)) rfl k11 (injO_1 E.p) (subO_1 E.p) getO_1 setO_1 (lw_V q1817 q1819 qs86 q123 q1820) (by decide +kernel) rfl (Nat.le_of_ble_eq_true rfl) (Nat.le_of_ble_eq_true rfl) rfl (Nat.le_of_ble_eq_true rfl) dX6_joins_11 rfl ?_
  obtain ⟨p13, q14, e⟩ := bd_o e
  have k15 := kX6_isVariable (G := G) (h := h) z12 q14
  have z16 := (k15 rr.none).1.2.2.2
  refine r_callS (j := none) 1 [ti p9] k15 (injO_1 E.p) subO_0 getO_0 setO_0 (lw_S q1656 q1657 q123 q1658) (by decide +kernel) rfl (Nat.le_of_ble_eq_true rfl) (Nat.le_of_ble_eq_true rfl) rfl (Nat.le_of_ble_eq_true rfl) dX6_joins_14 rfl ?_
  refine r_istore (lv' := [(4, ti p13), (3, ti p5), (0, tr (some b)), (1, ti a1), (2, ti a2)]) dX6_joins_17 (E.lt (by decide)) rfl ?_
  refine r_iload_n dX6_joins_19 rfl 1 rfl ?_
  have eT := (r_ifo e).1
  have eF := (r_ifo e).2
  refine r_if_eq (rI_z z8) 43 dX6_joins_20 (by decide) (fun c17 => ?_) (fun c17 => ?_)
  · have e := eT c17
    refine r_sub [2, 3, 4, 1, 0] rfl ?_
    exact wX6_joins_b43 E s a1 a2 p5 p13 ha1 ha2 (rI_z z8) (rI_z z16) e
  · have e := eF c17
    refine r_iload dX6_joins_23 0 rfl ?_
    have eT := (r_ifo e).1
    have eF := (r_ifo e).2
    refine r_if_eq (rI_z z16) 43 dX6_joins_25 (by decide) (fun c18 => ?_) (fun c18 => ?_)
    · have e := eT c18
      refine r_sub [2, 3, 4, 1, 0] rfl ?_
      exact wX6_joins_b43 E s a1 a2 p5 p13 ha1 ha2 (rI_z z8) (rI_z z16) e
    · have e := eF c18
      refine r_aload_n dX6_joins_28 rfl 2 rfl ?_
      refine r_iload_n dX6_joins_29 rfl 3 rfl ?_
      obtain ⟨p19, q20, e⟩ := bd_o e
      have k21 := kX6_variableOf (G := G) (b := b) (ad := ad) (h := h) ha1 q20
      have z22 := (k21 rr).1.2.2.2
      refine r_callV (j := some 0) 1 [ti a1] (rec_sg (j := 0) (r := (RX6, TX6, 63)) rfl (by rw [E.p]; rfl)) rfl k21 (injO_1 E.p) (subO_1 E.p) getO_1 setO_1 (lw_V q1821 q1823 qs87 q123 q1824) (by decide +kernel) rfl (Nat.le_of_ble_eq_true rfl) (Nat.le_of_ble_eq_true rfl) rfl (Nat.le_of_ble_eq_true rfl) dX6_joins_30 rfl ?_
      refine r_aload_n dX6_joins_33 rfl 2 rfl ?_
      refine r_iload_n dX6_joins_34 rfl 4 rfl ?_
      obtain ⟨p23, q24, e⟩ := bd_o e
      have k25 := kX6_variableOf (G := G) (b := b) (ad := ad) (h := h) ha2 q24
      have z26 := (k25 rr).1.2.2.2
      refine r_callV (j := some 0) 1 [ti a2] (rec_sg (j := 0) (r := (RX6, TX6, 63)) rfl (by rw [E.p]; rfl)) rfl k25 (injO_1 E.p) (subO_1 E.p) getO_1 setO_1 (lw_V q1821 q1823 qs87 q123 q1824) (by decide +kernel) rfl (Nat.le_of_ble_eq_true rfl) (Nat.le_of_ble_eq_true rfl) rfl (Nat.le_of_ble_eq_true rfl) dX6_joins_35 rfl ?_
      have eT := (r_ifo e).1
      have eF := (r_ifo e).2
      refine r_icmp_ne z22 z26 43 dX6_joins_38 (by decide) (fun c27 => ?_) (fun c27 => ?_)
      · have e := eT c27
        refine r_sub [2, 3, 4, 1, 0] rfl ?_
        exact wX6_joins_b43 E s a1 a2 p5 p13 ha1 ha2 (rI_z z8) (rI_z z16) e
      · have e := eF c27
        refine r_iconst dX6_joins_41 ?_
        cases e
        exact r_zret E.σ E.st E.rt E.r (Or.inr rfl) dX6_joins_42
theorem fP_X6_316 : FldP RX6 316 [(6, 45)] .int false := List.forall_mem_cons.mpr ⟨⟨RX6, TX6, 63, "DictProofModel", tyX6, rfl, in_X6, by decide, q1450, Or.inl rfl, tyX6_ok, nmX6, rfl, Or.inl rfl, by decide⟩, fun _ h => absurd h List.not_mem_nil⟩
theorem fP_X6_319 : FldP RX6 319 [(6, 46)] .int false := List.forall_mem_cons.mpr ⟨⟨RX6, TX6, 63, "DictProofModel", tyX6, rfl, in_X6, by decide, q1451, Or.inl rfl, tyX6_ok, nmX6, rfl, Or.inl rfl, by decide⟩, fun _ h => absurd h List.not_mem_nil⟩
def fX6_areOne_b41 (K41 : Sg → Option (Int × Sg)) (s : Sg) : Option (Int × Sg) := if (gI s 50) ≤ 0 then some (1, s) else gd (inb (gI (sI s 50 (wr ((gI s 50) - 1))) 50) 64) (bd (fX6_standsFor (sI s 50 (wr ((gI s 50) - 1))) (gA (sI s 50 (wr ((gI s 50) - 1))) 48 (gI (sI s 50 (wr ((gI s 50) - 1))) 50))) fun p4 => gd (inb (gI (sI s 50 (wr ((gI s 50) - 1))) 50) 64) (bd (fX6_standsFor (sI s 50 (wr ((gI s 50) - 1))) (gA (sI s 50 (wr ((gI s 50) - 1))) 49 (gI (sI s 50 (wr ((gI s 50) - 1))) 50))) fun p9 => bd (fX6_joins (sI s 50 (wr ((gI s 50) - 1))) p4 p9) fun p13 => if ¬ p13.1 = 0 then K41 p13.2 else some (0, p13.2)))
theorem wX6_areOne_b41 {N : Nx} {b : Nat} {ad : Nat → Nat} {s' : Sg} {h : hS} {r : Int} (E : EndX N [(6, b, ad)] 4 (some .boolean) (some (ti r)) [s'] h) (K41 : Sg → Option (Int × Sg)) (hK41 : ∀ (s : Sg), K41 s = some (r, s') → AtPc cX6_areOne RX6 5 115 N [s] h 41 [(0, tr (some b))] []) (s : Sg) (e : fX6_areOne_b41 K41 s = some (r, s')) : AtPc cX6_areOne RX6 5 115 N [s] h 41 [(0, tr (some b))] [] := by
  unfold fX6_areOne_b41 at e
  refine r_rrs E.p (fun rr => ?_)
  refine r_aload_n dX6_areOne_41 rfl 0 rfl ?_
  refine r_sI E.p 50 fG_X6_334 (by decide) dX6_areOne_42 ?_
  have eT := (r_ifo e).1
  have eF := (r_ifo e).2
  refine r_if_le ((rr.mine rfl).i 50 (by decide) (by decide)) 93 dX6_areOne_45 (by decide) (fun c1 => ?_) (fun c1 => ?_)
  · have e := eT c1
    refine r_iconst dX6_areOne_93 ?_
    cases e
    exact r_zret E.σ E.st E.rt E.r (Or.inr rfl) dX6_areOne_94
  · have e := eF c1
    refine r_aload_n dX6_areOne_48 rfl 0 rfl ?_
    refine r_dup dX6_areOne_49 rfl ?_
    refine r_sI E.p 50 fG_X6_334 (by decide) dX6_areOne_50 ?_
    refine r_iconst dX6_areOne_53 ?_
    refine r_isub dX6_areOne_54 ?_
    refine r_sPI E.p 50 fP_X6_334 rfl (wr_r _) dX6_areOne_55 ?_
    refine r_rrs E.p (fun rr2 => ?_)
    refine r_aload_n dX6_areOne_58 rfl 0 rfl ?_
    refine r_aload_n dX6_areOne_59 rfl 0 rfl ?_
    refine r_aload_n dX6_areOne_60 rfl 0 rfl ?_
    refine r_sR E.p 48 fG_X6_119 (by decide) dX6_areOne_61 ?_
    refine r_aload_n dX6_areOne_64 rfl 0 rfl ?_
    refine r_sI E.p 50 fG_X6_334 (by decide) dX6_areOne_65 ?_
    obtain ⟨g3, e⟩ := gd_o e
    refine r_saI E.p 48 rfl (by decide) (by decide) ((rr2.mine rfl).i 50 (by decide) (by decide)) g3 rfl dX6_areOne_68 ?_
    obtain ⟨p4, q5, e⟩ := bd_o e
    have k6 := kX6_standsFor (G := nG N) (b := b) (ad := ad) (h := h) (((rr2.mine rfl).a 48 (by decide) rfl).1 _) q5
    have z7 := (k6 rr2).1.2.2.2
    refine r_callV (j := some 0) 1 [ti (gA (sI s 50 (wr ((gI s 50) - 1))) 48 (gI (sI s 50 (wr ((gI s 50) - 1))) 50))] (rec_sg (j := 0) (r := (RX6, TX6, 63)) rfl (by rw [E.p]; rfl)) rfl k6 (injO_1 E.p) (subO_1 E.p) getO_1 setO_1 (lw_V q1813 q1815 qs85 q123 q1816) (by decide +kernel) rfl (Nat.le_of_ble_eq_true rfl) (Nat.le_of_ble_eq_true rfl) rfl (Nat.le_of_ble_eq_true rfl) dX6_areOne_69 rfl ?_
    refine r_aload_n dX6_areOne_72 rfl 0 rfl ?_
    refine r_aload_n dX6_areOne_73 rfl 0 rfl ?_
    refine r_sR E.p 49 fG_X6_122 (by decide) dX6_areOne_74 ?_
    refine r_aload_n dX6_areOne_77 rfl 0 rfl ?_
    refine r_sI E.p 50 fG_X6_334 (by decide) dX6_areOne_78 ?_
    obtain ⟨g8, e⟩ := gd_o e
    refine r_saI E.p 49 rfl (by decide) (by decide) ((rr2.mine rfl).i 50 (by decide) (by decide)) g8 rfl dX6_areOne_81 ?_
    obtain ⟨p9, q10, e⟩ := bd_o e
    have k11 := kX6_standsFor (G := nG N) (b := b) (ad := ad) (h := h) (((rr2.mine rfl).a 49 (by decide) rfl).1 _) q10
    have z12 := (k11 rr2).1.2.2.2
    refine r_callV (j := some 0) 1 [ti (gA (sI s 50 (wr ((gI s 50) - 1))) 49 (gI (sI s 50 (wr ((gI s 50) - 1))) 50))] (rec_sg (j := 0) (r := (RX6, TX6, 63)) rfl (by rw [E.p]; rfl)) rfl k11 (injO_1 E.p) (subO_1 E.p) getO_1 setO_1 (lw_V q1813 q1815 qs85 q123 q1816) (by decide +kernel) rfl (Nat.le_of_ble_eq_true rfl) (Nat.le_of_ble_eq_true rfl) rfl (Nat.le_of_ble_eq_true rfl) dX6_areOne_82 rfl ?_
    obtain ⟨p13, q14, e⟩ := bd_o e
    have k15 := kX6_joins (G := nG N) (b := b) (ad := ad) (h := h) z7 z12 q14
    have z16 := (k15 rr2).1.2.2.2
    refine r_callV (j := some 0) 2 [ti p4, ti p9] (rec_sg (j := 0) (r := (RX6, TX6, 63)) rfl (by rw [E.p]; rfl)) rfl k15 (injO_1 E.p) (subO_1 E.p) getO_1 setO_1 (lw_V q1825 q1827 qs88 q123 q1828) (by decide +kernel) rfl (Nat.le_of_ble_eq_true rfl) (Nat.le_of_ble_eq_true rfl) rfl (Nat.le_of_ble_eq_true rfl) dX6_areOne_85 rfl ?_
    refine r_rrs E.p (fun rr17 => ?_)
    have eT := (r_ifo e).1
    have eF := (r_ifo e).2
    refine r_if_ne (rI_z z16) 41 dX6_areOne_88 (by decide) (fun c18 => ?_) (fun c18 => ?_)
    · have e := eT c18
      exact hK41 p13.2 e
    · have e := eF c18
      refine r_iconst dX6_areOne_91 ?_
      cases e
      exact r_zret E.σ E.st E.rt E.r (Or.inl rfl) dX6_areOne_92
def fX6_areOne_L41  : Nat → Sg → Option (Int × Sg)
  | 0, _ => none
  | n9 + 1, s => fX6_areOne_b41 (fX6_areOne_L41 n9) s
theorem wX6_areOne_L41 {N : Nx} {b : Nat} {ad : Nat → Nat} {s' : Sg} {h : hS} {r : Int} (E : EndX N [(6, b, ad)] 4 (some .boolean) (some (ti r)) [s'] h)  : ∀ (n9 : Nat), ∀ (s : Sg), fX6_areOne_L41 n9 s = some (r, s') → AtPc cX6_areOne RX6 5 115 N [s] h 41 [(0, tr (some b))] [] := by
  intro n9
  induction n9 with
  | zero => intro s e; cases e
  | succ n9 ih => intro s e; exact wX6_areOne_b41 E _ ih s e
def fX6_areOne_b12 (K12 : Sg → Int → Option (Int × Sg)) (s : Sg) (a3 : Int) : Option (Int × Sg) := if 4 ≤ a3 then bd (fX6_addPair (sI s 50 0) 0 5) fun p3 => fX6_areOne_L41 FU p3 else gd (inb a3 4) (K12 (sA s 47 a3 (-1)) (wr (a3 + 1)))
theorem wX6_areOne_b12 {N : Nx} {b : Nat} {ad : Nat → Nat} {s' : Sg} {h : hS} {r : Int} (E : EndX N [(6, b, ad)] 4 (some .boolean) (some (ti r)) [s'] h) (K12 : Sg → Int → Option (Int × Sg)) (hK12 : ∀ (s : Sg) (a3 : Int) (ha3 : rI a3), K12 s a3 = some (r, s') → AtPc cX6_areOne RX6 5 115 N [s] h 12 [(0, tr (some b)), (3, ti a3)] []) (s : Sg) (a3 : Int) (ha3 : rI a3) (e : fX6_areOne_b12 K12 s a3 = some (r, s')) : AtPc cX6_areOne RX6 5 115 N [s] h 12 [(0, tr (some b)), (3, ti a3)] [] := by
  unfold fX6_areOne_b12 at e
  refine r_rrs E.p (fun rr => ?_)
  refine r_iload_n dX6_areOne_12 rfl 1 rfl ?_
  refine r_iconst dX6_areOne_13 ?_
  have eT := (r_ifo e).1
  have eF := (r_ifo e).2
  refine r_icmp_ge ha3 (by decide) 30 dX6_areOne_14 (by decide) (fun c1 => ?_) (fun c1 => ?_)
  · have e := eT c1
    refine r_aload_n dX6_areOne_30 rfl 0 rfl ?_
    refine r_iconst dX6_areOne_31 ?_
    refine r_sPI E.p 50 fP_X6_334 rfl (by decide) dX6_areOne_32 ?_
    refine r_rrs E.p (fun rr2 => ?_)
    refine r_aload_n dX6_areOne_35 rfl 0 rfl ?_
    refine r_iconst dX6_areOne_36 ?_
    refine r_iconst dX6_areOne_37 ?_
    obtain ⟨p3, q4, e⟩ := bd_o e
    have k5 := kX6_addPair (G := nG N) (b := b) (ad := ad) (h := h) (by decide) (by decide) q4
    have z6 := (k5 rr2).1.2.2.2
    refine r_callV (j := some 0) 2 [ti 0, ti 5] (rec_sg (j := 0) (r := (RX6, TX6, 63)) rfl (by rw [E.p]; rfl)) rfl k5 (injO_1 E.p) (subO_1 E.p) getO_1 setO_1 (lw_V q1809 q1811 qs84 q123 q1812) (by decide +kernel) rfl (Nat.le_of_ble_eq_true rfl) (Nat.le_of_ble_eq_true rfl) rfl (Nat.le_of_ble_eq_true rfl) dX6_areOne_38 rfl ?_
    refine r_rrs E.p (fun rr7 => ?_)
    refine r_sub [0] rfl ?_
    exact wX6_areOne_L41 E FU p3 e
  · have e := eF c1
    refine r_aload_n dX6_areOne_17 rfl 0 rfl ?_
    refine r_sR E.p 47 fG_X6_116 (by decide) dX6_areOne_18 ?_
    refine r_iload_n dX6_areOne_21 rfl 1 rfl ?_
    refine r_iconst dX6_areOne_22 ?_
    obtain ⟨g8, e⟩ := gd_o e
    refine r_saP E.p 47 rfl (by decide) (by decide) ha3 g8 (by show rI _; decide) rfl dX6_areOne_23 ?_
    refine r_rrs E.p (fun rr9 => ?_)
    refine r_iinc (lv' := [(3, ti (wr (a3 + 1))), (0, tr (some b))]) dX6_areOne_24 1 rfl (E.lt (by decide)) rfl ?_
    refine r_goto 12 dX6_areOne_27 (by decide) ?_
    refine r_sub [1, 0] rfl ?_
    exact hK12 (sA s 47 a3 (-1)) (wr (a3 + 1)) (wr_r _) e
def fX6_areOne_L12  : Nat → Sg → Int → Option (Int × Sg)
  | 0, _, _ => none
  | n9 + 1, s, a3 => fX6_areOne_b12 (fX6_areOne_L12 n9) s a3
theorem wX6_areOne_L12 {N : Nx} {b : Nat} {ad : Nat → Nat} {s' : Sg} {h : hS} {r : Int} (E : EndX N [(6, b, ad)] 4 (some .boolean) (some (ti r)) [s'] h)  : ∀ (n9 : Nat), ∀ (s : Sg) (a3 : Int) (ha3 : rI a3), fX6_areOne_L12 n9 s a3 = some (r, s') → AtPc cX6_areOne RX6 5 115 N [s] h 12 [(0, tr (some b)), (3, ti a3)] [] := by
  intro n9
  induction n9 with
  | zero => intro s a3 ha3 e; cases e
  | succ n9 ih => intro s a3 ha3 e; exact wX6_areOne_b12 E _ ih s a3 ha3 e
def fX6_areOne  (s : Sg) (a1 : Int) (a2 : Int) : Option (Int × Sg) := fX6_areOne_L12 FU (sI (sI s 45 a1) 46 a2) 0
theorem kX6_areOne {G : Gx}  {b : Nat} {ad : Nat → Nat} {s' : Sg} {h : hS} {r : Int} {s : Sg} {a1 : Int} {a2 : Int}  (ha1 : rI a1) (ha2 : rI a2) (e : fX6_areOne s a1 a2 = some (r, s')) : CtX G yX6_areOne cX6_areOne 4 (some .boolean) 5 115 [(6, b, ad)] [s] h [tr (some b), ti a1, ti a2] (some (ti r)) [s'] h := by
  refine CtX.of (by decide) (Nat.le_of_ble_eq_true rfl) [(0, tr (some b)), (1, ti a1), (2, ti a2)] rfl ?_
  have E : EndX (G, 4, [(6, b, ad)], h, [s'], h, (some .boolean), (some (ti r)), yX6_areOne.name) [(6, b, ad)] 4 (some .boolean) (some (ti r)) [s'] h := ⟨rfl, rfl, rfl, rfl, rfl, rfl⟩
  unfold fX6_areOne at e
  refine r_rrs E.p (fun rr => ?_)
  refine r_aload_n dX6_areOne_0 rfl 0 rfl ?_
  refine r_iload_n dX6_areOne_1 rfl 1 rfl ?_
  refine r_sPI E.p 45 fP_X6_316 rfl ha1 dX6_areOne_2 ?_
  refine r_rrs E.p (fun rr1 => ?_)
  refine r_aload_n dX6_areOne_5 rfl 0 rfl ?_
  refine r_iload_n dX6_areOne_6 rfl 2 rfl ?_
  refine r_sPI E.p 46 fP_X6_319 rfl ha2 dX6_areOne_7 ?_
  refine r_rrs E.p (fun rr2 => ?_)
  refine r_iconst dX6_areOne_10 ?_
  refine r_istore_n (lv' := [(3, ti 0), (0, tr (some b)), (1, ti a1), (2, ti a2)]) dX6_areOne_11 rfl (E.lt (by decide)) rfl ?_
  refine r_sub [1, 0] rfl ?_
  exact wX6_areOne_L12 E FU (sI (sI s 45 a1) 46 a2) 0 (by decide) e
def fX6_overlap_b49 (s : Sg) (k0 : Int) : Option (Int × Sg) := gd (k0 = 0 ∨ k0 = 1) (some (k0, s))
theorem wX6_overlap_b49 {N : Nx} {b : Nat} {ad : Nat → Nat} {s' : Sg} {h : hS} {r : Int} (E : EndX N [(6, b, ad)] 3 (some .boolean) (some (ti r)) [s'] h)  (s : Sg) (k0 : Int) (hk0 : rI k0) (e : fX6_overlap_b49 s k0 = some (r, s')) : AtPc cX6_overlap RX6 6 138 N [s] h 49 [] [ti k0] := by
  unfold fX6_overlap_b49 at e
  refine r_rrs E.p (fun rr => ?_)
  obtain ⟨g1, e⟩ := gd_o e
  cases e
  exact r_zret E.σ E.st E.rt E.r g1 dX6_overlap_49
def fX6_overlap_b48 (s : Sg) : Option (Int × Sg) := fX6_overlap_b49 s 0
theorem wX6_overlap_b48 {N : Nx} {b : Nat} {ad : Nat → Nat} {s' : Sg} {h : hS} {r : Int} (E : EndX N [(6, b, ad)] 3 (some .boolean) (some (ti r)) [s'] h)  (s : Sg) (e : fX6_overlap_b48 s = some (r, s')) : AtPc cX6_overlap RX6 6 138 N [s] h 48 [] [] := by
  unfold fX6_overlap_b48 at e
  refine r_rrs E.p (fun rr => ?_)
  refine r_iconst dX6_overlap_48 ?_
  exact wX6_overlap_b49 E s 0 (by decide) e
def fX6_overlap  (s : Sg) (a1 : Int) (a2 : Int) : Option (Int × Sg) := gd (inb a1 6) (gd (inb a2 6) (if ¬ (gA s 6 a1) = (gA s 6 a2) then fX6_overlap_b48 s else gd (inb a1 6) (if (gA s 5 a1) = 2 then fX6_overlap_b48 s else gd (inb a2 6) (if (gA s 5 a2) = 2 then fX6_overlap_b48 s else bd (fX6_areOne s a1 a2) fun p8 => if p8.1 = 0 then fX6_overlap_b48 p8.2 else fX6_overlap_b49 p8.2 1))))
theorem kX6_overlap {G : Gx}  {b : Nat} {ad : Nat → Nat} {s' : Sg} {h : hS} {r : Int} {s : Sg} {a1 : Int} {a2 : Int}  (ha1 : rI a1) (ha2 : rI a2) (e : fX6_overlap s a1 a2 = some (r, s')) : CtX G yX6_overlap cX6_overlap 3 (some .boolean) 6 138 [(6, b, ad)] [s] h [tr (some b), ti a1, ti a2] (some (ti r)) [s'] h := by
  refine CtX.of (by decide) (Nat.le_of_ble_eq_true rfl) [(0, tr (some b)), (1, ti a1), (2, ti a2)] rfl ?_
  have E : EndX (G, 3, [(6, b, ad)], h, [s'], h, (some .boolean), (some (ti r)), yX6_overlap.name) [(6, b, ad)] 3 (some .boolean) (some (ti r)) [s'] h := ⟨rfl, rfl, rfl, rfl, rfl, rfl⟩
  unfold fX6_overlap at e
  refine r_rrs E.p (fun rr => ?_)
  refine r_aload_n dX6_overlap_0 rfl 0 rfl ?_
  refine r_sR E.p 6 fG_X6_19 (by decide) dX6_overlap_1 ?_
  refine r_iload_n dX6_overlap_4 rfl 1 rfl ?_
  obtain ⟨g1, e⟩ := gd_o e
  refine r_saI E.p 6 rfl (by decide) (by decide) ha1 g1 rfl dX6_overlap_5 ?_
  refine r_aload_n dX6_overlap_6 rfl 0 rfl ?_
  refine r_sR E.p 6 fG_X6_19 (by decide) dX6_overlap_7 ?_
  refine r_iload_n dX6_overlap_10 rfl 2 rfl ?_
  obtain ⟨g2, e⟩ := gd_o e
  refine r_saI E.p 6 rfl (by decide) (by decide) ha2 g2 rfl dX6_overlap_11 ?_
  have eT := (r_ifo e).1
  have eF := (r_ifo e).2
  refine r_icmp_ne (((rr.mine rfl).a 6 (by decide) rfl).1 _) (((rr.mine rfl).a 6 (by decide) rfl).1 _) 48 dX6_overlap_12 (by decide) (fun c3 => ?_) (fun c3 => ?_)
  · have e := eT c3
    refine r_sub [] rfl ?_
    exact wX6_overlap_b48 E s e
  · have e := eF c3
    refine r_aload_n dX6_overlap_15 rfl 0 rfl ?_
    refine r_sR E.p 5 fG_X6_16 (by decide) dX6_overlap_16 ?_
    refine r_iload_n dX6_overlap_19 rfl 1 rfl ?_
    obtain ⟨g4, e⟩ := gd_o e
    refine r_saI E.p 5 rfl (by decide) (by decide) ha1 g4 rfl dX6_overlap_20 ?_
    refine r_iconst dX6_overlap_21 ?_
    have eT := (r_ifo e).1
    have eF := (r_ifo e).2
    refine r_icmp_eq (((rr.mine rfl).a 5 (by decide) rfl).1 _) (by decide) 48 dX6_overlap_22 (by decide) (fun c5 => ?_) (fun c5 => ?_)
    · have e := eT c5
      refine r_sub [] rfl ?_
      exact wX6_overlap_b48 E s e
    · have e := eF c5
      refine r_aload_n dX6_overlap_25 rfl 0 rfl ?_
      refine r_sR E.p 5 fG_X6_16 (by decide) dX6_overlap_26 ?_
      refine r_iload_n dX6_overlap_29 rfl 2 rfl ?_
      obtain ⟨g6, e⟩ := gd_o e
      refine r_saI E.p 5 rfl (by decide) (by decide) ha2 g6 rfl dX6_overlap_30 ?_
      refine r_iconst dX6_overlap_31 ?_
      have eT := (r_ifo e).1
      have eF := (r_ifo e).2
      refine r_icmp_eq (((rr.mine rfl).a 5 (by decide) rfl).1 _) (by decide) 48 dX6_overlap_32 (by decide) (fun c7 => ?_) (fun c7 => ?_)
      · have e := eT c7
        refine r_sub [] rfl ?_
        exact wX6_overlap_b48 E s e
      · have e := eF c7
        refine r_aload_n dX6_overlap_35 rfl 0 rfl ?_
        refine r_iload_n dX6_overlap_36 rfl 1 rfl ?_
        refine r_iload_n dX6_overlap_37 rfl 2 rfl ?_
        obtain ⟨p8, q9, e⟩ := bd_o e
        have k10 := kX6_areOne (G := G) (b := b) (ad := ad) (h := h) ha1 ha2 q9
        have z11 := (k10 rr).1.2.2.2
        refine r_callV (j := some 0) 2 [ti a1, ti a2] (rec_sg (j := 0) (r := (RX6, TX6, 63)) rfl (by rw [E.p]; rfl)) rfl k10 (injO_1 E.p) (subO_1 E.p) getO_1 setO_1 (lw_V q1805 q1807 qs83 q123 q1808) (by decide +kernel) rfl (Nat.le_of_ble_eq_true rfl) (Nat.le_of_ble_eq_true rfl) rfl (Nat.le_of_ble_eq_true rfl) dX6_overlap_38 rfl ?_
        refine r_rrs E.p (fun rr12 => ?_)
        have eT := (r_ifo e).1
        have eF := (r_ifo e).2
        refine r_if_eq (rI_z z11) 48 dX6_overlap_41 (by decide) (fun c13 => ?_) (fun c13 => ?_)
        · have e := eT c13
          refine r_sub [] rfl ?_
          exact wX6_overlap_b48 E p8.2 e
        · have e := eF c13
          refine r_iconst dX6_overlap_44 ?_
          refine r_goto 49 dX6_overlap_45 (by decide) ?_
          refine r_sub [] rfl ?_
          exact wX6_overlap_b49 E p8.2 1 (by decide) e
def fX6_isSpecial_b20 (s : Sg) (k0 : Int) : Option (Int) := gd (k0 = 0 ∨ k0 = 1) (some k0)
theorem wX6_isSpecial_b20 {N : Nx} {b : Nat} {ad : Nat → Nat} {s : Sg} {h : hS} {r : Int} (E : EndX N [(6, b, ad)] 3 (some .boolean) (some (ti r)) [s] h)  (k0 : Int) (hk0 : rI k0) (e : fX6_isSpecial_b20 s k0 = some (r)) : AtPc cX6_isSpecial RX6 0 0 N [s] h 20 [] [ti k0] := by
  unfold fX6_isSpecial_b20 at e
  refine r_rrs E.p (fun rr => ?_)
  obtain ⟨g1, e⟩ := gd_o e
  cases e
  exact r_zret E.σ E.st E.rt E.r g1 dX6_isSpecial_20
def fX6_isSpecial  (s : Sg) (a1 : Int) (a2 : Int) : Option (Int) := gd (inb (wr ((wr (6 * a1)) + a2)) 36) (if ¬ (gA s 12 (wr ((wr (6 * a1)) + a2))) = 1 then fX6_isSpecial_b20 s 0 else fX6_isSpecial_b20 s 1)
theorem kX6_isSpecial {G : Gx}  {b : Nat} {ad : Nat → Nat} {s : Sg} {h : hS} {r : Int} {a1 : Int} {a2 : Int}  (ha1 : rI a1) (ha2 : rI a2) (e : fX6_isSpecial s a1 a2 = some (r)) : CtX G yX6_isSpecial cX6_isSpecial 3 (some .boolean) 0 0 [(6, b, ad)] [s] h [tr (some b), ti a1, ti a2] (some (ti r)) [s] h := by
  refine CtX.of (by decide) (Nat.le_of_ble_eq_true rfl) [(0, tr (some b)), (1, ti a1), (2, ti a2)] rfl ?_
  have E : EndX (G, 3, [(6, b, ad)], h, [s], h, (some .boolean), (some (ti r)), yX6_isSpecial.name) [(6, b, ad)] 3 (some .boolean) (some (ti r)) [s] h := ⟨rfl, rfl, rfl, rfl, rfl, rfl⟩
  unfold fX6_isSpecial at e
  refine r_rrs E.p (fun rr => ?_)
  refine r_aload_n dX6_isSpecial_0 rfl 0 rfl ?_
  refine r_sR E.p 12 fG_X6_37 (by decide) dX6_isSpecial_1 ?_
  refine r_bipush dX6_isSpecial_4 (by decide) ?_
  refine r_iload_n dX6_isSpecial_6 rfl 1 rfl ?_
  refine r_imul dX6_isSpecial_7 ?_
  refine r_iload_n dX6_isSpecial_8 rfl 2 rfl ?_
  refine r_iadd dX6_isSpecial_9 ?_
  obtain ⟨g1, e⟩ := gd_o e
  refine r_saI E.p 12 rfl (by decide) (by decide) (wr_r _) g1 rfl dX6_isSpecial_10 ?_
  refine r_iconst dX6_isSpecial_11 ?_
  have eT := (r_ifo e).1
  have eF := (r_ifo e).2
  refine r_icmp_ne (((rr.mine rfl).a 12 (by decide) rfl).1 _) (by decide) 19 dX6_isSpecial_12 (by decide) (fun c2 => ?_) (fun c2 => ?_)
  · have e := eT c2
    refine r_iconst dX6_isSpecial_19 ?_
    refine r_sub [] rfl ?_
    exact wX6_isSpecial_b20 E 0 (by decide) e
  · have e := eF c2
    refine r_iconst dX6_isSpecial_15 ?_
    refine r_goto 20 dX6_isSpecial_16 (by decide) ?_
    refine r_sub [] rfl ?_
    exact wX6_isSpecial_b20 E 1 (by decide) e
def fX6_clash_b62 (s : Sg) (k0 : Int) : Option (Int × Sg) := gd (k0 = 0 ∨ k0 = 1) (some (k0, s))
theorem wX6_clash_b62 {N : Nx} {b : Nat} {ad : Nat → Nat} {s' : Sg} {h : hS} {r : Int} (E : EndX N [(6, b, ad)] 4 (some .boolean) (some (ti r)) [s'] h)  (s : Sg) (k0 : Int) (hk0 : rI k0) (e : fX6_clash_b62 s k0 = some (r, s')) : AtPc cX6_clash RX6 7 160 N [s] h 62 [] [ti k0] := by
  unfold fX6_clash_b62 at e
  refine r_rrs E.p (fun rr => ?_)
  obtain ⟨g1, e⟩ := gd_o e
  cases e
  exact r_zret E.σ E.st E.rt E.r g1 dX6_clash_62
def fX6_clash_b57 (s : Sg) : Option (Int × Sg) := fX6_clash_b62 s 1
theorem wX6_clash_b57 {N : Nx} {b : Nat} {ad : Nat → Nat} {s' : Sg} {h : hS} {r : Int} (E : EndX N [(6, b, ad)] 4 (some .boolean) (some (ti r)) [s'] h)  (s : Sg) (e : fX6_clash_b57 s = some (r, s')) : AtPc cX6_clash RX6 7 160 N [s] h 57 [] [] := by
  unfold fX6_clash_b57 at e
  refine r_rrs E.p (fun rr => ?_)
  refine r_iconst dX6_clash_57 ?_
  refine r_goto 62 dX6_clash_58 (by decide) ?_
  exact wX6_clash_b62 E s 1 (by decide) e
def fX6_clash_b61 (s : Sg) : Option (Int × Sg) := fX6_clash_b62 s 0
theorem wX6_clash_b61 {N : Nx} {b : Nat} {ad : Nat → Nat} {s' : Sg} {h : hS} {r : Int} (E : EndX N [(6, b, ad)] 4 (some .boolean) (some (ti r)) [s'] h)  (s : Sg) (e : fX6_clash_b61 s = some (r, s')) : AtPc cX6_clash RX6 7 160 N [s] h 61 [] [] := by
  unfold fX6_clash_b61 at e
  refine r_rrs E.p (fun rr => ?_)
  refine r_iconst dX6_clash_61 ?_
  exact wX6_clash_b62 E s 0 (by decide) e
def fX6_clash_b23 (s : Sg) (a1 : Int) (a2 : Int) (k0 : Int) : Option (Int × Sg) := bd (fX6_overlap s a1 a2) fun p1 => if p1.1 = 0 then fX6_clash_b61 p1.2 else if ¬ k0 = 0 then fX6_clash_b57 p1.2 else gd (inb a1 6) (if (gA p1.2 5 a1) = 4 then fX6_clash_b57 p1.2 else gd (inb a2 6) (if ¬ (gA p1.2 5 a2) = 4 then fX6_clash_b61 p1.2 else fX6_clash_b57 p1.2))
theorem wX6_clash_b23 {N : Nx} {b : Nat} {ad : Nat → Nat} {s' : Sg} {h : hS} {r : Int} (E : EndX N [(6, b, ad)] 4 (some .boolean) (some (ti r)) [s'] h)  (s : Sg) (a1 : Int) (a2 : Int) (k0 : Int) (ha1 : rI a1) (ha2 : rI a2) (hk0 : rI k0) (e : fX6_clash_b23 s a1 a2 k0 = some (r, s')) : AtPc cX6_clash RX6 7 160 N [s] h 23 [(0, tr (some b)), (1, ti a1), (2, ti a2)] [ti k0] := by
  unfold fX6_clash_b23 at e
  refine r_rrs E.p (fun rr => ?_)
  refine r_istore_n (lv' := [(3, ti k0), (0, tr (some b)), (1, ti a1), (2, ti a2)]) dX6_clash_23 rfl (E.lt (by decide)) rfl ?_
  refine r_aload_n dX6_clash_24 rfl 1 rfl ?_
  refine r_iload_n dX6_clash_25 rfl 2 rfl ?_
  refine r_iload_n dX6_clash_26 rfl 3 rfl ?_
  obtain ⟨p1, q2, e⟩ := bd_o e
  have k3 := kX6_overlap (G := nG N) (b := b) (ad := ad) (h := h) ha1 ha2 q2
  have z4 := (k3 rr).1.2.2.2
  refine r_callV (j := some 0) 2 [ti a1, ti a2] (rec_sg (j := 0) (r := (RX6, TX6, 63)) rfl (by rw [E.p]; rfl)) rfl k3 (injO_1 E.p) (subO_1 E.p) getO_1 setO_1 (lw_V q1801 q1803 qs82 q123 q1804) (by decide +kernel) rfl (Nat.le_of_ble_eq_true rfl) (Nat.le_of_ble_eq_true rfl) rfl (Nat.le_of_ble_eq_true rfl) dX6_clash_27 rfl ?_
  refine r_rrs E.p (fun rr5 => ?_)
  have eT := (r_ifo e).1
  have eF := (r_ifo e).2
  refine r_if_eq (rI_z z4) 61 dX6_clash_30 (by decide) (fun c6 => ?_) (fun c6 => ?_)
  · have e := eT c6
    refine r_sub [] rfl ?_
    exact wX6_clash_b61 E p1.2 e
  · have e := eF c6
    refine r_iload_n dX6_clash_33 rfl 0 rfl ?_
    have eT := (r_ifo e).1
    have eF := (r_ifo e).2
    refine r_if_ne hk0 57 dX6_clash_34 (by decide) (fun c7 => ?_) (fun c7 => ?_)
    · have e := eT c7
      refine r_sub [] rfl ?_
      exact wX6_clash_b57 E p1.2 e
    · have e := eF c7
      refine r_aload_n dX6_clash_37 rfl 1 rfl ?_
      refine r_sR E.p 5 fG_X6_16 (by decide) dX6_clash_38 ?_
      refine r_iload_n dX6_clash_41 rfl 2 rfl ?_
      obtain ⟨g8, e⟩ := gd_o e
      refine r_saI E.p 5 rfl (by decide) (by decide) ha1 g8 rfl dX6_clash_42 ?_
      refine r_iconst dX6_clash_43 ?_
      have eT := (r_ifo e).1
      have eF := (r_ifo e).2
      refine r_icmp_eq (((rr5.mine rfl).a 5 (by decide) rfl).1 _) (by decide) 57 dX6_clash_44 (by decide) (fun c9 => ?_) (fun c9 => ?_)
      · have e := eT c9
        refine r_sub [] rfl ?_
        exact wX6_clash_b57 E p1.2 e
      · have e := eF c9
        refine r_aload_n dX6_clash_47 rfl 1 rfl ?_
        refine r_sR E.p 5 fG_X6_16 (by decide) dX6_clash_48 ?_
        refine r_iload_n dX6_clash_51 rfl 3 rfl ?_
        obtain ⟨g10, e⟩ := gd_o e
        refine r_saI E.p 5 rfl (by decide) (by decide) ha2 g10 rfl dX6_clash_52 ?_
        refine r_iconst dX6_clash_53 ?_
        have eT := (r_ifo e).1
        have eF := (r_ifo e).2
        refine r_icmp_ne (((rr5.mine rfl).a 5 (by decide) rfl).1 _) (by decide) 61 dX6_clash_54 (by decide) (fun c11 => ?_) (fun c11 => ?_)
        · have e := eT c11
          refine r_sub [] rfl ?_
          exact wX6_clash_b61 E p1.2 e
        · have e := eF c11
          refine r_sub [] rfl ?_
          exact wX6_clash_b57 E p1.2 e
def fX6_clash_b22 (s : Sg) (a1 : Int) (a2 : Int) : Option (Int × Sg) := fX6_clash_b23 s a1 a2 0
theorem wX6_clash_b22 {N : Nx} {b : Nat} {ad : Nat → Nat} {s' : Sg} {h : hS} {r : Int} (E : EndX N [(6, b, ad)] 4 (some .boolean) (some (ti r)) [s'] h)  (s : Sg) (a1 : Int) (a2 : Int) (ha1 : rI a1) (ha2 : rI a2) (e : fX6_clash_b22 s a1 a2 = some (r, s')) : AtPc cX6_clash RX6 7 160 N [s] h 22 [(0, tr (some b)), (1, ti a1), (2, ti a2)] [] := by
  unfold fX6_clash_b22 at e
  refine r_rrs E.p (fun rr => ?_)
  refine r_iconst dX6_clash_22 ?_
  exact wX6_clash_b23 E s a1 a2 0 ha1 ha2 (by decide) e
def fX6_clash  (s : Sg) (a1 : Int) (a2 : Int) : Option (Int × Sg) := bd (fX6_isSpecial s a1 a2) fun p1 => if ¬ p1 = 0 then fX6_clash_b22 s a1 a2 else bd (fX6_isSpecial s a2 a1) fun p6 => if ¬ p6 = 0 then fX6_clash_b22 s a1 a2 else fX6_clash_b23 s a1 a2 1
theorem kX6_clash {G : Gx}  {b : Nat} {ad : Nat → Nat} {s' : Sg} {h : hS} {r : Int} {s : Sg} {a1 : Int} {a2 : Int}  (ha1 : rI a1) (ha2 : rI a2) (e : fX6_clash s a1 a2 = some (r, s')) : CtX G yX6_clash cX6_clash 4 (some .boolean) 7 160 [(6, b, ad)] [s] h [tr (some b), ti a1, ti a2] (some (ti r)) [s'] h := by
  refine CtX.of (by decide) (Nat.le_of_ble_eq_true rfl) [(0, tr (some b)), (1, ti a1), (2, ti a2)] rfl ?_
  have E : EndX (G, 4, [(6, b, ad)], h, [s'], h, (some .boolean), (some (ti r)), yX6_clash.name) [(6, b, ad)] 4 (some .boolean) (some (ti r)) [s'] h := ⟨rfl, rfl, rfl, rfl, rfl, rfl⟩
  unfold fX6_clash at e
  refine r_rrs E.p (fun rr => ?_)
  refine r_aload_n dX6_clash_0 rfl 0 rfl ?_
  refine r_iload_n dX6_clash_1 rfl 1 rfl ?_
  refine r_iload_n dX6_clash_2 rfl 2 rfl ?_
  obtain ⟨p1, q2, e⟩ := bd_o e
  have k3 := kX6_isSpecial (G := G) (b := b) (ad := ad) (h := h) ha1 ha2 q2
  have z4 := (k3 rr).1.2.2.2
  refine r_callV (j := some 0) 2 [ti a1, ti a2] (rec_sg (j := 0) (r := (RX6, TX6, 63)) rfl (by rw [E.p]; rfl)) rfl k3 (injO_1 E.p) (subO_1 E.p) getO_1 setO_1 (lw_V q1841 q1843 qs92 q123 q1844) (by decide +kernel) rfl (Nat.le_of_ble_eq_true rfl) (Nat.le_of_ble_eq_true rfl) rfl (Nat.le_of_ble_eq_true rfl) dX6_clash_3 rfl ?_
  have eT := (r_ifo e).1
  have eF := (r_ifo e).2
  refine r_if_ne (rI_z z4) 22 dX6_clash_6 (by decide) (fun c5 => ?_) (fun c5 => ?_)
  · have e := eT c5
    exact wX6_clash_b22 E s a1 a2 ha1 ha2 e
  · have e := eF c5
    refine r_aload_n dX6_clash_9 rfl 0 rfl ?_
    refine r_iload_n dX6_clash_10 rfl 2 rfl ?_
    refine r_iload_n dX6_clash_11 rfl 1 rfl ?_
    obtain ⟨p6, q7, e⟩ := bd_o e
    have k8 := kX6_isSpecial (G := G) (b := b) (ad := ad) (h := h) ha2 ha1 q7
    have z9 := (k8 rr).1.2.2.2
    refine r_callV (j := some 0) 2 [ti a2, ti a1] (rec_sg (j := 0) (r := (RX6, TX6, 63)) rfl (by rw [E.p]; rfl)) rfl k8 (injO_1 E.p) (subO_1 E.p) getO_1 setO_1 (lw_V q1841 q1843 qs92 q123 q1844) (by decide +kernel) rfl (Nat.le_of_ble_eq_true rfl) (Nat.le_of_ble_eq_true rfl) rfl (Nat.le_of_ble_eq_true rfl) dX6_clash_12 rfl ?_
    have eT := (r_ifo e).1
    have eF := (r_ifo e).2
    refine r_if_ne (rI_z z9) 22 dX6_clash_15 (by decide) (fun c10 => ?_) (fun c10 => ?_)
    · have e := eT c10
      exact wX6_clash_b22 E s a1 a2 ha1 ha2 e
    · have e := eF c10
      refine r_iconst dX6_clash_18 ?_
      refine r_goto 23 dX6_clash_19 (by decide) ?_
      exact wX6_clash_b23 E s a1 a2 1 ha1 ha2 (by decide) e
def fX6_pairNow_b33 (s : Sg) (k0 : Int) : Option (Int × Sg) := gd (k0 = 0 ∨ k0 = 1) (some (k0, s))
theorem wX6_pairNow_b33 {N : Nx} {b : Nat} {ad : Nat → Nat} {s' : Sg} {h : hS} {r : Int} (E : EndX N [(6, b, ad)] 4 (some .boolean) (some (ti r)) [s'] h)  (s : Sg) (k0 : Int) (hk0 : rI k0) (e : fX6_pairNow_b33 s k0 = some (r, s')) : AtPc cX6_pairNow RX6 8 183 N [s] h 33 [] [ti k0] := by
  unfold fX6_pairNow_b33 at e
  refine r_rrs E.p (fun rr => ?_)
  obtain ⟨g1, e⟩ := gd_o e
  cases e
  exact r_zret E.σ E.st E.rt E.r g1 dX6_pairNow_33
def fX6_pairNow  (s : Sg) (a1 : Int) (a2 : Int) (a3 : Int) : Option (Int × Sg) := if ¬ a3 = 0 then if ¬ a3 = 1 then bd (fX6_isSpecial s a1 a2) fun p3 => fX6_pairNow_b33 s p3 else bd (fX6_clash s a1 a2) fun p7 => fX6_pairNow_b33 p7.2 p7.1 else bd (fX6_overlap s a1 a2) fun p12 => fX6_pairNow_b33 p12.2 p12.1
theorem kX6_pairNow {G : Gx}  {b : Nat} {ad : Nat → Nat} {s' : Sg} {h : hS} {r : Int} {s : Sg} {a1 : Int} {a2 : Int} {a3 : Int}  (ha1 : rI a1) (ha2 : rI a2) (ha3 : rI a3) (e : fX6_pairNow s a1 a2 a3 = some (r, s')) : CtX G yX6_pairNow cX6_pairNow 4 (some .boolean) 8 183 [(6, b, ad)] [s] h [tr (some b), ti a1, ti a2, ti a3] (some (ti r)) [s'] h := by
  refine CtX.of (by decide) (Nat.le_of_ble_eq_true rfl) [(0, tr (some b)), (1, ti a1), (2, ti a2), (3, ti a3)] rfl ?_
  have E : EndX (G, 4, [(6, b, ad)], h, [s'], h, (some .boolean), (some (ti r)), yX6_pairNow.name) [(6, b, ad)] 4 (some .boolean) (some (ti r)) [s'] h := ⟨rfl, rfl, rfl, rfl, rfl, rfl⟩
  unfold fX6_pairNow at e
  refine r_rrs E.p (fun rr => ?_)
  refine r_iload_n dX6_pairNow_0 rfl 3 rfl ?_
  have eT := (r_ifo e).1
  have eF := (r_ifo e).2
  refine r_if_ne ha3 13 dX6_pairNow_1 (by decide) (fun c1 => ?_) (fun c1 => ?_)
  · have e := eT c1
    refine r_iload_n dX6_pairNow_13 rfl 3 rfl ?_
    refine r_iconst dX6_pairNow_14 ?_
    have eT := (r_ifo e).1
    have eF := (r_ifo e).2
    refine r_icmp_ne ha3 (by decide) 27 dX6_pairNow_15 (by decide) (fun c2 => ?_) (fun c2 => ?_)
    · have e := eT c2
      refine r_aload_n dX6_pairNow_27 rfl 0 rfl ?_
      refine r_iload_n dX6_pairNow_28 rfl 1 rfl ?_
      refine r_iload_n dX6_pairNow_29 rfl 2 rfl ?_
      obtain ⟨p3, q4, e⟩ := bd_o e
      have k5 := kX6_isSpecial (G := G) (b := b) (ad := ad) (h := h) ha1 ha2 q4
      have z6 := (k5 rr).1.2.2.2
      refine r_callV (j := some 0) 2 [ti a1, ti a2] (rec_sg (j := 0) (r := (RX6, TX6, 63)) rfl (by rw [E.p]; rfl)) rfl k5 (injO_1 E.p) (subO_1 E.p) getO_1 setO_1 (lw_V q1841 q1843 qs92 q123 q1844) (by decide +kernel) rfl (Nat.le_of_ble_eq_true rfl) (Nat.le_of_ble_eq_true rfl) rfl (Nat.le_of_ble_eq_true rfl) dX6_pairNow_30 rfl ?_
      refine r_sub [] rfl ?_
      exact wX6_pairNow_b33 E s p3 (rI_z z6) e
    · have e := eF c2
      refine r_aload_n dX6_pairNow_18 rfl 0 rfl ?_
      refine r_iload_n dX6_pairNow_19 rfl 1 rfl ?_
      refine r_iload_n dX6_pairNow_20 rfl 2 rfl ?_
      obtain ⟨p7, q8, e⟩ := bd_o e
      have k9 := kX6_clash (G := G) (b := b) (ad := ad) (h := h) ha1 ha2 q8
      have z10 := (k9 rr).1.2.2.2
      refine r_callV (j := some 0) 2 [ti a1, ti a2] (rec_sg (j := 0) (r := (RX6, TX6, 63)) rfl (by rw [E.p]; rfl)) rfl k9 (injO_1 E.p) (subO_1 E.p) getO_1 setO_1 (lw_V q1837 q1839 qs91 q123 q1840) (by decide +kernel) rfl (Nat.le_of_ble_eq_true rfl) (Nat.le_of_ble_eq_true rfl) rfl (Nat.le_of_ble_eq_true rfl) dX6_pairNow_21 rfl ?_
      refine r_rrs E.p (fun rr11 => ?_)
      refine r_goto 33 dX6_pairNow_24 (by decide) ?_
      refine r_sub [] rfl ?_
      exact wX6_pairNow_b33 E p7.2 p7.1 (rI_z z10) e
  · have e := eF c1
    refine r_aload_n dX6_pairNow_4 rfl 0 rfl ?_
    refine r_iload_n dX6_pairNow_5 rfl 1 rfl ?_
    refine r_iload_n dX6_pairNow_6 rfl 2 rfl ?_
    obtain ⟨p12, q13, e⟩ := bd_o e
    have k14 := kX6_overlap (G := G) (b := b) (ad := ad) (h := h) ha1 ha2 q13
    have z15 := (k14 rr).1.2.2.2
    refine r_callV (j := some 0) 2 [ti a1, ti a2] (rec_sg (j := 0) (r := (RX6, TX6, 63)) rfl (by rw [E.p]; rfl)) rfl k14 (injO_1 E.p) (subO_1 E.p) getO_1 setO_1 (lw_V q1801 q1803 qs82 q123 q1804) (by decide +kernel) rfl (Nat.le_of_ble_eq_true rfl) (Nat.le_of_ble_eq_true rfl) rfl (Nat.le_of_ble_eq_true rfl) dX6_pairNow_7 rfl ?_
    refine r_rrs E.p (fun rr16 => ?_)
    refine r_goto 33 dX6_pairNow_10 (by decide) ?_
    refine r_sub [] rfl ?_
    exact wX6_pairNow_b33 E p12.2 p12.1 (rI_z z15) e
def fX6_pair_b21 (s : Sg) : Option (Int × Sg) := some ((-101), s)
theorem wX6_pair_b21 {N : Nx} {b : Nat} {ad : Nat → Nat} {s' : Sg} {h : hS} {r : Int} (E : EndX N [(6, b, ad)] 4 (some .int) (some (ti r)) [s'] h)  (s : Sg) (e : fX6_pair_b21 s = some (r, s')) : AtPc cX6_pair RX6 9 206 N [s] h 21 [] [] := by
  unfold fX6_pair_b21 at e
  refine r_rrs E.p (fun rr => ?_)
  refine r_bipush dX6_pair_21 (by decide) ?_
  cases e
  exact r_iret E.σ E.st E.rt E.r (by decide) dX6_pair_23
def fX6_pair_b53 (s : Sg) (k0 : Int) : Option (Int × Sg) := some (k0, s)
theorem wX6_pair_b53 {N : Nx} {b : Nat} {ad : Nat → Nat} {s' : Sg} {h : hS} {r : Int} (E : EndX N [(6, b, ad)] 4 (some .int) (some (ti r)) [s'] h)  (s : Sg) (k0 : Int) (hk0 : rI k0) (e : fX6_pair_b53 s k0 = some (r, s')) : AtPc cX6_pair RX6 9 206 N [s] h 53 [] [ti k0] := by
  unfold fX6_pair_b53 at e
  refine r_rrs E.p (fun rr => ?_)
  cases e
  exact r_iret E.σ E.st E.rt E.r hk0 dX6_pair_53
def fX6_pair  (s : Sg) (a1 : Int) (a2 : Int) (a3 : Int) : Option (Int × Sg) := bd (fX6_isInstance s a1) fun p1 => if p1 = 0 then fX6_pair_b21 s else bd (fX6_isInstance s a2) fun p6 => if p6 = 0 then fX6_pair_b21 s else if ¬ a1 = a2 then bd (fX6_within a3 0 2) fun p12 => if ¬ p12 = 0 then bd (fX6_pairNow s a1 a2 a3) fun p17 => if p17.1 = 0 then fX6_pair_b53 p17.2 0 else fX6_pair_b53 p17.2 1 else fX6_pair_b53 s (-102) else fX6_pair_b21 s
theorem kX6_pair {G : Gx}  {b : Nat} {ad : Nat → Nat} {s' : Sg} {h : hS} {r : Int} {s : Sg} {a1 : Int} {a2 : Int} {a3 : Int}  (ha1 : rI a1) (ha2 : rI a2) (ha3 : rI a3) (e : fX6_pair s a1 a2 a3 = some (r, s')) : CtX G yX6_pair cX6_pair 4 (some .int) 9 206 [(6, b, ad)] [s] h [tr (some b), ti a1, ti a2, ti a3] (some (ti r)) [s'] h := by
  refine CtX.of (by decide) (Nat.le_of_ble_eq_true rfl) [(0, tr (some b)), (1, ti a1), (2, ti a2), (3, ti a3)] rfl ?_
  have E : EndX (G, 4, [(6, b, ad)], h, [s'], h, (some .int), (some (ti r)), yX6_pair.name) [(6, b, ad)] 4 (some .int) (some (ti r)) [s'] h := ⟨rfl, rfl, rfl, rfl, rfl, rfl⟩
  unfold fX6_pair at e
  refine r_rrs E.p (fun rr => ?_)
  refine r_aload_n dX6_pair_0 rfl 0 rfl ?_
  refine r_iload_n dX6_pair_1 rfl 1 rfl ?_
  obtain ⟨p1, q2, e⟩ := bd_o e
  have k3 := kX6_isInstance (G := G) (b := b) (ad := ad) (h := h) ha1 q2
  have z4 := (k3 rr).1.2.2.2
  refine r_callV (j := some 0) 1 [ti a1] (rec_sg (j := 0) (r := (RX6, TX6, 63)) rfl (by rw [E.p]; rfl)) rfl k3 (injO_1 E.p) (subO_1 E.p) getO_1 setO_1 (lw_V q1714 q1716 qs65 q123 q1717) (by decide +kernel) rfl (Nat.le_of_ble_eq_true rfl) (Nat.le_of_ble_eq_true rfl) rfl (Nat.le_of_ble_eq_true rfl) dX6_pair_2 rfl ?_
  have eT := (r_ifo e).1
  have eF := (r_ifo e).2
  refine r_if_eq (rI_z z4) 21 dX6_pair_5 (by decide) (fun c5 => ?_) (fun c5 => ?_)
  · have e := eT c5
    refine r_sub [] rfl ?_
    exact wX6_pair_b21 E s e
  · have e := eF c5
    refine r_aload_n dX6_pair_8 rfl 0 rfl ?_
    refine r_iload_n dX6_pair_9 rfl 2 rfl ?_
    obtain ⟨p6, q7, e⟩ := bd_o e
    have k8 := kX6_isInstance (G := G) (b := b) (ad := ad) (h := h) ha2 q7
    have z9 := (k8 rr).1.2.2.2
    refine r_callV (j := some 0) 1 [ti a2] (rec_sg (j := 0) (r := (RX6, TX6, 63)) rfl (by rw [E.p]; rfl)) rfl k8 (injO_1 E.p) (subO_1 E.p) getO_1 setO_1 (lw_V q1714 q1716 qs65 q123 q1717) (by decide +kernel) rfl (Nat.le_of_ble_eq_true rfl) (Nat.le_of_ble_eq_true rfl) rfl (Nat.le_of_ble_eq_true rfl) dX6_pair_10 rfl ?_
    have eT := (r_ifo e).1
    have eF := (r_ifo e).2
    refine r_if_eq (rI_z z9) 21 dX6_pair_13 (by decide) (fun c10 => ?_) (fun c10 => ?_)
    · have e := eT c10
      refine r_sub [] rfl ?_
      exact wX6_pair_b21 E s e
    · have e := eF c10
      refine r_iload_n dX6_pair_16 rfl 1 rfl ?_
      refine r_iload_n dX6_pair_17 rfl 2 rfl ?_
      have eT := (r_ifo e).1
      have eF := (r_ifo e).2
      refine r_icmp_ne ha1 ha2 24 dX6_pair_18 (by decide) (fun c11 => ?_) (fun c11 => ?_)
      · have e := eT c11
        refine r_iload_n dX6_pair_24 rfl 3 rfl ?_
        refine r_iconst dX6_pair_25 ?_
        refine r_iconst dX6_pair_26 ?_
        obtain ⟨p12, q13, e⟩ := bd_o e
        have k14 := kX6_within (G := G) (h := h) ha3 (by decide) (by decide) q13
        have z15 := (k14 rr.none).1.2.2.2
        refine r_callS (j := none) 3 [ti a3, ti 0, ti 2] k14 (injO_1 E.p) subO_0 getO_0 setO_0 (lw_S q1599 q1600 q123 q1601) (by decide +kernel) rfl (Nat.le_of_ble_eq_true rfl) (Nat.le_of_ble_eq_true rfl) rfl (Nat.le_of_ble_eq_true rfl) dX6_pair_27 rfl ?_
        have eT := (r_ifo e).1
        have eF := (r_ifo e).2
        refine r_if_ne (rI_z z15) 38 dX6_pair_30 (by decide) (fun c16 => ?_) (fun c16 => ?_)
        · have e := eT c16
          refine r_aload_n dX6_pair_38 rfl 0 rfl ?_
          refine r_iload_n dX6_pair_39 rfl 1 rfl ?_
          refine r_iload_n dX6_pair_40 rfl 2 rfl ?_
          refine r_iload_n dX6_pair_41 rfl 3 rfl ?_
          obtain ⟨p17, q18, e⟩ := bd_o e
          have k19 := kX6_pairNow (G := G) (b := b) (ad := ad) (h := h) ha1 ha2 ha3 q18
          have z20 := (k19 rr).1.2.2.2
          refine r_callV (j := some 0) 3 [ti a1, ti a2, ti a3] (rec_sg (j := 0) (r := (RX6, TX6, 63)) rfl (by rw [E.p]; rfl)) rfl k19 (injO_1 E.p) (subO_1 E.p) getO_1 setO_1 (lw_V q1797 q1799 qs81 q123 q1800) (by decide +kernel) rfl (Nat.le_of_ble_eq_true rfl) (Nat.le_of_ble_eq_true rfl) rfl (Nat.le_of_ble_eq_true rfl) dX6_pair_42 rfl ?_
          refine r_rrs E.p (fun rr21 => ?_)
          have eT := (r_ifo e).1
          have eF := (r_ifo e).2
          refine r_if_eq (rI_z z20) 52 dX6_pair_45 (by decide) (fun c22 => ?_) (fun c22 => ?_)
          · have e := eT c22
            refine r_iconst dX6_pair_52 ?_
            refine r_sub [] rfl ?_
            exact wX6_pair_b53 E p17.2 0 (by decide) e
          · have e := eF c22
            refine r_iconst dX6_pair_48 ?_
            refine r_goto 53 dX6_pair_49 (by decide) ?_
            refine r_sub [] rfl ?_
            exact wX6_pair_b53 E p17.2 1 (by decide) e
        · have e := eF c16
          refine r_bipush dX6_pair_33 (by decide) ?_
          refine r_goto 53 dX6_pair_35 (by decide) ?_
          refine r_sub [] rfl ?_
          exact wX6_pair_b53 E s (-102) (by decide) e
      · have e := eF c11
        refine r_sub [] rfl ?_
        exact wX6_pair_b21 E s e
def fX6_isFilled_b23 (s : Sg) (k0 : Int) : Option (Int) := gd (k0 = 0 ∨ k0 = 1) (some k0)
theorem wX6_isFilled_b23 {N : Nx} {b : Nat} {ad : Nat → Nat} {s : Sg} {h : hS} {r : Int} (E : EndX N [(6, b, ad)] 2 (some .boolean) (some (ti r)) [s] h)  (k0 : Int) (hk0 : rI k0) (e : fX6_isFilled_b23 s k0 = some (r)) : AtPc cX6_isFilled RX6 1 22 N [s] h 23 [] [ti k0] := by
  unfold fX6_isFilled_b23 at e
  refine r_rrs E.p (fun rr => ?_)
  obtain ⟨g1, e⟩ := gd_o e
  cases e
  exact r_zret E.σ E.st E.rt E.r g1 dX6_isFilled_23
def fX6_isFilled_b22 (s : Sg) : Option (Int) := fX6_isFilled_b23 s 0
theorem wX6_isFilled_b22 {N : Nx} {b : Nat} {ad : Nat → Nat} {s : Sg} {h : hS} {r : Int} (E : EndX N [(6, b, ad)] 2 (some .boolean) (some (ti r)) [s] h)   (e : fX6_isFilled_b22 s = some (r)) : AtPc cX6_isFilled RX6 1 22 N [s] h 22 [] [] := by
  unfold fX6_isFilled_b22 at e
  refine r_rrs E.p (fun rr => ?_)
  refine r_iconst dX6_isFilled_22 ?_
  exact wX6_isFilled_b23 E 0 (by decide) e
def fX6_isFilled  (s : Sg) (a1 : Int) : Option (Int) := bd (fX6_within a1 0 3) fun p1 => if p1 = 0 then fX6_isFilled_b22 s else gd (inb a1 4) (if (gA s 14 a1) ≤ 0 then fX6_isFilled_b22 s else fX6_isFilled_b23 s 1)
theorem kX6_isFilled {G : Gx}  {b : Nat} {ad : Nat → Nat} {s : Sg} {h : hS} {r : Int} {a1 : Int}  (ha1 : rI a1) (e : fX6_isFilled s a1 = some (r)) : CtX G yX6_isFilled cX6_isFilled 2 (some .boolean) 1 22 [(6, b, ad)] [s] h [tr (some b), ti a1] (some (ti r)) [s] h := by
  refine CtX.of (by decide) (Nat.le_of_ble_eq_true rfl) [(0, tr (some b)), (1, ti a1)] rfl ?_
  have E : EndX (G, 2, [(6, b, ad)], h, [s], h, (some .boolean), (some (ti r)), yX6_isFilled.name) [(6, b, ad)] 2 (some .boolean) (some (ti r)) [s] h := ⟨rfl, rfl, rfl, rfl, rfl, rfl⟩
  unfold fX6_isFilled at e
  refine r_rrs E.p (fun rr => ?_)
  refine r_iload_n dX6_isFilled_0 rfl 1 rfl ?_
  refine r_iconst dX6_isFilled_1 ?_
  refine r_iconst dX6_isFilled_2 ?_
  obtain ⟨p1, q2, e⟩ := bd_o e
  have k3 := kX6_within (G := G) (h := h) ha1 (by decide) (by decide) q2
  have z4 := (k3 rr.none).1.2.2.2
  refine r_callS (j := none) 3 [ti a1, ti 0, ti 3] k3 (injO_1 E.p) subO_0 getO_0 setO_0 (lw_S q1599 q1600 q123 q1601) (by decide +kernel) rfl (Nat.le_of_ble_eq_true rfl) (Nat.le_of_ble_eq_true rfl) rfl (Nat.le_of_ble_eq_true rfl) dX6_isFilled_3 rfl ?_
  have eT := (r_ifo e).1
  have eF := (r_ifo e).2
  refine r_if_eq (rI_z z4) 22 dX6_isFilled_6 (by decide) (fun c5 => ?_) (fun c5 => ?_)
  · have e := eT c5
    refine r_sub [] rfl ?_
    exact wX6_isFilled_b22 E e
  · have e := eF c5
    refine r_aload_n dX6_isFilled_9 rfl 0 rfl ?_
    refine r_sR E.p 14 fG_X6_43 (by decide) dX6_isFilled_10 ?_
    refine r_iload_n dX6_isFilled_13 rfl 1 rfl ?_
    obtain ⟨g6, e⟩ := gd_o e
    refine r_saI E.p 14 rfl (by decide) (by decide) ha1 g6 rfl dX6_isFilled_14 ?_
    have eT := (r_ifo e).1
    have eF := (r_ifo e).2
    refine r_if_le (((rr.mine rfl).a 14 (by decide) rfl).1 _) 22 dX6_isFilled_15 (by decide) (fun c7 => ?_) (fun c7 => ?_)
    · have e := eT c7
      refine r_sub [] rfl ?_
      exact wX6_isFilled_b22 E e
    · have e := eF c7
      refine r_iconst dX6_isFilled_18 ?_
      refine r_goto 23 dX6_isFilled_19 (by decide) ?_
      refine r_sub [] rfl ?_
      exact wX6_isFilled_b23 E 1 (by decide) e
def fX6_laySlot_b12 (K12 : Sg → Int → Int → Option (Sg)) (s : Sg) (a1 : Int) (a2 : Int) : Option (Sg) := if (gI s 34) ≤ a2 then bd (fX6_laySizes s) fun p2 => some p2 else gd (inb (wr ((wr (9 * a1)) + a2)) 36) (gd (inb a2 9) (K12 (sA s 32 a2 (gA s 13 (wr ((wr (9 * a1)) + a2)))) a1 (wr (a2 + 1))))
theorem wX6_laySlot_b12 {N : Nx} {b : Nat} {ad : Nat → Nat} {s' : Sg} {h : hS} (E : EndX N [(6, b, ad)] 3 none none [s'] h) (K12 : Sg → Int → Int → Option (Sg)) (hK12 : ∀ (s : Sg) (a1 : Int) (a2 : Int) (ha1 : rI a1) (ha2 : rI a2), K12 s a1 a2 = some (s') → AtPc cX6_laySlot RX6 2 43 N [s] h 12 [(0, tr (some b)), (1, ti a1), (2, ti a2)] []) (s : Sg) (a1 : Int) (a2 : Int) (ha1 : rI a1) (ha2 : rI a2) (e : fX6_laySlot_b12 K12 s a1 a2 = some (s')) : AtPc cX6_laySlot RX6 2 43 N [s] h 12 [(0, tr (some b)), (1, ti a1), (2, ti a2)] [] := by
  unfold fX6_laySlot_b12 at e
  refine r_rrs E.p (fun rr => ?_)
  refine r_iload_n dX6_laySlot_12 rfl 2 rfl ?_
  refine r_aload_n dX6_laySlot_13 rfl 0 rfl ?_
  refine r_sI E.p 34 fG_X6_233 (by decide) dX6_laySlot_14 ?_
  have eT := (r_ifo e).1
  have eF := (r_ifo e).2
  refine r_icmp_ge ha2 ((rr.mine rfl).i 34 (by decide) (by decide)) 43 dX6_laySlot_17 (by decide) (fun c1 => ?_) (fun c1 => ?_)
  · have e := eT c1
    refine r_aload_n dX6_laySlot_43 rfl 0 rfl ?_
    obtain ⟨p2, q3, e⟩ := bd_o e
    have k4 := kX6_laySizes (G := nG N) (b := b) (ad := ad) (h := h)  q3
    have z5 := (k4 rr).1.2.2.2
    refine r_callV (j := some 0) 0 [] (rec_sg (j := 0) (r := (RX6, TX6, 63)) rfl (by rw [E.p]; rfl)) rfl k4 (injO_1 E.p) (subO_1 E.p) getO_1 setO_1 (lw_V q1678 q1680 qs59 q123 q1681) (by decide +kernel) rfl (Nat.le_of_ble_eq_true rfl) (Nat.le_of_ble_eq_true rfl) rfl (Nat.le_of_ble_eq_true rfl) dX6_laySlot_44 rfl ?_
    refine r_rrs E.p (fun rr6 => ?_)
    cases e
    exact r_vret E.σ E.st E.rt E.r dX6_laySlot_47
  · have e := eF c1
    refine r_aload_n dX6_laySlot_20 rfl 0 rfl ?_
    refine r_sR E.p 32 fG_X6_80 (by decide) dX6_laySlot_21 ?_
    refine r_iload_n dX6_laySlot_24 rfl 2 rfl ?_
    refine r_aload_n dX6_laySlot_25 rfl 0 rfl ?_
    refine r_sR E.p 13 fG_X6_40 (by decide) dX6_laySlot_26 ?_
    refine r_bipush dX6_laySlot_29 (by decide) ?_
    refine r_iload_n dX6_laySlot_31 rfl 1 rfl ?_
    refine r_imul dX6_laySlot_32 ?_
    refine r_iload_n dX6_laySlot_33 rfl 2 rfl ?_
    refine r_iadd dX6_laySlot_34 ?_
    obtain ⟨g7, e⟩ := gd_o e
    refine r_saI E.p 13 rfl (by decide) (by decide) (wr_r _) g7 rfl dX6_laySlot_35 ?_
    obtain ⟨g8, e⟩ := gd_o e
    refine r_saP E.p 32 rfl (by decide) (by decide) ha2 g8 (((rr.mine rfl).a 13 (by decide) rfl).1 _) rfl dX6_laySlot_36 ?_
    refine r_rrs E.p (fun rr9 => ?_)
    refine r_iinc (lv' := [(2, ti (wr (a2 + 1))), (0, tr (some b)), (1, ti a1)]) dX6_laySlot_37 2 rfl (E.lt (by decide)) rfl ?_
    refine r_goto 12 dX6_laySlot_40 (by decide) ?_
    refine r_sub [1, 2, 0] rfl ?_
    exact hK12 (sA s 32 a2 (gA s 13 (wr ((wr (9 * a1)) + a2)))) a1 (wr (a2 + 1)) ha1 (wr_r _) e
def fX6_laySlot_L12  : Nat → Sg → Int → Int → Option (Sg)
  | 0, _, _, _ => none
  | n9 + 1, s, a1, a2 => fX6_laySlot_b12 (fX6_laySlot_L12 n9) s a1 a2
theorem wX6_laySlot_L12 {N : Nx} {b : Nat} {ad : Nat → Nat} {s' : Sg} {h : hS} (E : EndX N [(6, b, ad)] 3 none none [s'] h)  : ∀ (n9 : Nat), ∀ (s : Sg) (a1 : Int) (a2 : Int) (ha1 : rI a1) (ha2 : rI a2), fX6_laySlot_L12 n9 s a1 a2 = some (s') → AtPc cX6_laySlot RX6 2 43 N [s] h 12 [(0, tr (some b)), (1, ti a1), (2, ti a2)] [] := by
  intro n9
  induction n9 with
  | zero => intro s a1 a2 ha1 ha2 e; cases e
  | succ n9 ih => intro s a1 a2 ha1 ha2 e; exact wX6_laySlot_b12 E _ ih s a1 a2 ha1 ha2 e
def fX6_laySlot  (s : Sg) (a1 : Int) : Option (Sg) := gd (inb a1 4) (fX6_laySlot_L12 FU (sI s 34 (gA s 14 a1)) a1 0)
theorem kX6_laySlot {G : Gx}  {b : Nat} {ad : Nat → Nat} {s' : Sg} {h : hS} {s : Sg} {a1 : Int}  (ha1 : rI a1) (e : fX6_laySlot s a1 = some (s')) : CtX G yX6_laySlot cX6_laySlot 3 none 2 43 [(6, b, ad)] [s] h [tr (some b), ti a1] none [s'] h := by
  refine CtX.of (by decide) (Nat.le_of_ble_eq_true rfl) [(0, tr (some b)), (1, ti a1)] rfl ?_
  have E : EndX (G, 3, [(6, b, ad)], h, [s'], h, none, none, yX6_laySlot.name) [(6, b, ad)] 3 none none [s'] h := ⟨rfl, rfl, rfl, rfl, rfl, rfl⟩
  unfold fX6_laySlot at e
  refine r_rrs E.p (fun rr => ?_)
  refine r_aload_n dX6_laySlot_0 rfl 0 rfl ?_
  refine r_aload_n dX6_laySlot_1 rfl 0 rfl ?_
  refine r_sR E.p 14 fG_X6_43 (by decide) dX6_laySlot_2 ?_
  refine r_iload_n dX6_laySlot_5 rfl 1 rfl ?_
  obtain ⟨g1, e⟩ := gd_o e
  refine r_saI E.p 14 rfl (by decide) (by decide) ha1 g1 rfl dX6_laySlot_6 ?_
  refine r_sPI E.p 34 fP_X6_233 rfl (((rr.mine rfl).a 14 (by decide) rfl).1 _) dX6_laySlot_7 ?_
  refine r_rrs E.p (fun rr2 => ?_)
  refine r_iconst dX6_laySlot_10 ?_
  refine r_istore_n (lv' := [(2, ti 0), (0, tr (some b)), (1, ti a1)]) dX6_laySlot_11 rfl (E.lt (by decide)) rfl ?_
  refine r_sub [1, 2, 0] rfl ?_
  exact wX6_laySlot_L12 E FU (sI s 34 (gA s 14 a1)) a1 0 ha1 (by decide) e
def fX6_fits_b16 (s : Sg) : Option (Int × Sg) := some ((-101), s)
theorem wX6_fits_b16 {N : Nx} {b : Nat} {ad : Nat → Nat} {s' : Sg} {h : hS} {r : Int} (E : EndX N [(6, b, ad)] 3 (some .int) (some (ti r)) [s'] h)  (s : Sg) (e : fX6_fits_b16 s = some (r, s')) : AtPc cX6_fits RX6 3 65 N [s] h 16 [] [] := by
  unfold fX6_fits_b16 at e
  refine r_rrs E.p (fun rr => ?_)
  refine r_bipush dX6_fits_16 (by decide) ?_
  cases e
  exact r_iret E.σ E.st E.rt E.r (by decide) dX6_fits_18
def fX6_fits_b38 (s : Sg) (k0 : Int) : Option (Int × Sg) := some (k0, s)
theorem wX6_fits_b38 {N : Nx} {b : Nat} {ad : Nat → Nat} {s' : Sg} {h : hS} {r : Int} (E : EndX N [(6, b, ad)] 3 (some .int) (some (ti r)) [s'] h)  (s : Sg) (k0 : Int) (hk0 : rI k0) (e : fX6_fits_b38 s k0 = some (r, s')) : AtPc cX6_fits RX6 3 65 N [s] h 38 [] [ti k0] := by
  unfold fX6_fits_b38 at e
  refine r_rrs E.p (fun rr => ?_)
  cases e
  exact r_iret E.σ E.st E.rt E.r hk0 dX6_fits_38
def fX6_fits  (s : Sg) (a1 : Int) (a2 : Int) : Option (Int × Sg) := bd (fX6_isInstance s a1) fun p1 => if p1 = 0 then fX6_fits_b16 s else bd (fX6_isFilled s a2) fun p6 => if ¬ p6 = 0 then bd (fX6_laySlot s a2) fun p11 => bd (fX6_fitsAt p11 a1 0) fun p16 => if p16.1 = 0 then fX6_fits_b38 p16.2 0 else fX6_fits_b38 p16.2 1 else fX6_fits_b16 s
theorem kX6_fits {G : Gx}  {b : Nat} {ad : Nat → Nat} {s' : Sg} {h : hS} {r : Int} {s : Sg} {a1 : Int} {a2 : Int}  (ha1 : rI a1) (ha2 : rI a2) (e : fX6_fits s a1 a2 = some (r, s')) : CtX G yX6_fits cX6_fits 3 (some .int) 3 65 [(6, b, ad)] [s] h [tr (some b), ti a1, ti a2] (some (ti r)) [s'] h := by
  refine CtX.of (by decide) (Nat.le_of_ble_eq_true rfl) [(0, tr (some b)), (1, ti a1), (2, ti a2)] rfl ?_
  have E : EndX (G, 3, [(6, b, ad)], h, [s'], h, (some .int), (some (ti r)), yX6_fits.name) [(6, b, ad)] 3 (some .int) (some (ti r)) [s'] h := ⟨rfl, rfl, rfl, rfl, rfl, rfl⟩
  unfold fX6_fits at e
  refine r_rrs E.p (fun rr => ?_)
  refine r_aload_n dX6_fits_0 rfl 0 rfl ?_
  refine r_iload_n dX6_fits_1 rfl 1 rfl ?_
  obtain ⟨p1, q2, e⟩ := bd_o e
  have k3 := kX6_isInstance (G := G) (b := b) (ad := ad) (h := h) ha1 q2
  have z4 := (k3 rr).1.2.2.2
  refine r_callV (j := some 0) 1 [ti a1] (rec_sg (j := 0) (r := (RX6, TX6, 63)) rfl (by rw [E.p]; rfl)) rfl k3 (injO_1 E.p) (subO_1 E.p) getO_1 setO_1 (lw_V q1714 q1716 qs65 q123 q1717) (by decide +kernel) rfl (Nat.le_of_ble_eq_true rfl) (Nat.le_of_ble_eq_true rfl) rfl (Nat.le_of_ble_eq_true rfl) dX6_fits_2 rfl ?_
  have eT := (r_ifo e).1
  have eF := (r_ifo e).2
  refine r_if_eq (rI_z z4) 16 dX6_fits_5 (by decide) (fun c5 => ?_) (fun c5 => ?_)
  · have e := eT c5
    refine r_sub [] rfl ?_
    exact wX6_fits_b16 E s e
  · have e := eF c5
    refine r_aload_n dX6_fits_8 rfl 0 rfl ?_
    refine r_iload_n dX6_fits_9 rfl 2 rfl ?_
    obtain ⟨p6, q7, e⟩ := bd_o e
    have k8 := kX6_isFilled (G := G) (b := b) (ad := ad) (h := h) ha2 q7
    have z9 := (k8 rr).1.2.2.2
    refine r_callV (j := some 0) 1 [ti a2] (rec_sg (j := 0) (r := (RX6, TX6, 63)) rfl (by rw [E.p]; rfl)) rfl k8 (injO_1 E.p) (subO_1 E.p) getO_1 setO_1 (lw_V q1849 q1851 qs93 q123 q1852) (by decide +kernel) rfl (Nat.le_of_ble_eq_true rfl) (Nat.le_of_ble_eq_true rfl) rfl (Nat.le_of_ble_eq_true rfl) dX6_fits_10 rfl ?_
    have eT := (r_ifo e).1
    have eF := (r_ifo e).2
    refine r_if_ne (rI_z z9) 19 dX6_fits_13 (by decide) (fun c10 => ?_) (fun c10 => ?_)
    · have e := eT c10
      refine r_aload_n dX6_fits_19 rfl 0 rfl ?_
      refine r_iload_n dX6_fits_20 rfl 2 rfl ?_
      obtain ⟨p11, q12, e⟩ := bd_o e
      have k13 := kX6_laySlot (G := G) (b := b) (ad := ad) (h := h) ha2 q12
      have z14 := (k13 rr).1.2.2.2
      refine r_callV (j := some 0) 1 [ti a2] (rec_sg (j := 0) (r := (RX6, TX6, 63)) rfl (by rw [E.p]; rfl)) rfl k13 (injO_1 E.p) (subO_1 E.p) getO_1 setO_1 (lw_V q1853 q1855 qs94 q123 q1856) (by decide +kernel) rfl (Nat.le_of_ble_eq_true rfl) (Nat.le_of_ble_eq_true rfl) rfl (Nat.le_of_ble_eq_true rfl) dX6_fits_21 rfl ?_
      refine r_rrs E.p (fun rr15 => ?_)
      refine r_aload_n dX6_fits_24 rfl 0 rfl ?_
      refine r_iload_n dX6_fits_25 rfl 1 rfl ?_
      refine r_iconst dX6_fits_26 ?_
      obtain ⟨p16, q17, e⟩ := bd_o e
      have k18 := kX6_fitsAt (G := G) (b := b) (ad := ad) (h := h) ha1 (by decide) q17
      have z19 := (k18 rr15).1.2.2.2
      refine r_callV (j := some 0) 2 [ti a1, ti 0] (rec_sg (j := 0) (r := (RX6, TX6, 63)) rfl (by rw [E.p]; rfl)) rfl k18 (injO_1 E.p) (subO_1 E.p) getO_1 setO_1 (lw_V q1682 q1684 qs60 q123 q1685) (by decide +kernel) rfl (Nat.le_of_ble_eq_true rfl) (Nat.le_of_ble_eq_true rfl) rfl (Nat.le_of_ble_eq_true rfl) dX6_fits_27 rfl ?_
      refine r_rrs E.p (fun rr20 => ?_)
      have eT := (r_ifo e).1
      have eF := (r_ifo e).2
      refine r_if_eq (rI_z z19) 37 dX6_fits_30 (by decide) (fun c21 => ?_) (fun c21 => ?_)
      · have e := eT c21
        refine r_iconst dX6_fits_37 ?_
        refine r_sub [] rfl ?_
        exact wX6_fits_b38 E p16.2 0 (by decide) e
      · have e := eF c21
        refine r_iconst dX6_fits_33 ?_
        refine r_goto 38 dX6_fits_34 (by decide) ?_
        refine r_sub [] rfl ?_
        exact wX6_fits_b38 E p16.2 1 (by decide) e
    · have e := eF c10
      refine r_sub [] rfl ?_
      exact wX6_fits_b16 E s e
theorem fG_X6_113 : FldG RX6 113 [(6, 44)] := List.forall_mem_cons.mpr ⟨⟨RX6, TX6, 63, "DictProofModel", rfl, in_X6, by decide, q1449, Or.inl rfl⟩, fun _ h => absurd h List.not_mem_nil⟩
def fX6_isNew_b45 (K5 : Sg → Int → Int → Int → Int → Option (Int)) (s : Sg) (a1 : Int) (a2 : Int) (a4 : Int) (k0 : Int) : Option (Int) := K5 s a1 a2 k0 (wr (a4 + 1))
theorem wX6_isNew_b45 {N : Nx} {b : Nat} {ad : Nat → Nat} {s : Sg} {h : hS} {r : Int} (E : EndX N [(6, b, ad)] 5 (some .boolean) (some (ti r)) [s] h) (K5 : Sg → Int → Int → Int → Int → Option (Int)) (hK5 : ∀ (a1 : Int) (a2 : Int) (a3 : Int) (a4 : Int) (ha1 : rI a1) (ha2 : rI a2) (ha3 : rI a3) (ha4 : rI a4), K5 s a1 a2 a3 a4 = some (r) → AtPc cX6_isNew RX6 1 24 N [s] h 5 [(0, tr (some b)), (1, ti a1), (2, ti a2), (3, ti a3), (4, ti a4)] []) (a1 : Int) (a2 : Int) (a4 : Int) (k0 : Int) (ha1 : rI a1) (ha2 : rI a2) (ha4 : rI a4) (hk0 : rI k0) (e : fX6_isNew_b45 K5 s a1 a2 a4 k0 = some (r)) : AtPc cX6_isNew RX6 1 24 N [s] h 45 [(0, tr (some b)), (1, ti a1), (2, ti a2), (4, ti a4)] [ti k0] := by
  unfold fX6_isNew_b45 at e
  refine r_rrs E.p (fun rr => ?_)
  refine r_istore_n (lv' := [(3, ti k0), (0, tr (some b)), (1, ti a1), (2, ti a2), (4, ti a4)]) dX6_isNew_45 rfl (E.lt (by decide)) rfl ?_
  refine r_iinc (lv' := [(4, ti (wr (a4 + 1))), (3, ti k0), (0, tr (some b)), (1, ti a1), (2, ti a2)]) dX6_isNew_46 4 rfl (E.lt (by decide)) rfl ?_
  refine r_goto 5 dX6_isNew_49 (by decide) ?_
  refine r_sub [2, 3, 4, 1, 0] rfl ?_
  exact hK5 a1 a2 k0 (wr (a4 + 1)) ha1 ha2 hk0 (wr_r _) e
def fX6_isNew_b40 (K5 : Sg → Int → Int → Int → Int → Option (Int)) (s : Sg) (a1 : Int) (a2 : Int) (a4 : Int) : Option (Int) := fX6_isNew_b45 K5 s a1 a2 a4 1
theorem wX6_isNew_b40 {N : Nx} {b : Nat} {ad : Nat → Nat} {s : Sg} {h : hS} {r : Int} (E : EndX N [(6, b, ad)] 5 (some .boolean) (some (ti r)) [s] h) (K5 : Sg → Int → Int → Int → Int → Option (Int)) (hK5 : ∀ (a1 : Int) (a2 : Int) (a3 : Int) (a4 : Int) (ha1 : rI a1) (ha2 : rI a2) (ha3 : rI a3) (ha4 : rI a4), K5 s a1 a2 a3 a4 = some (r) → AtPc cX6_isNew RX6 1 24 N [s] h 5 [(0, tr (some b)), (1, ti a1), (2, ti a2), (3, ti a3), (4, ti a4)] []) (a1 : Int) (a2 : Int) (a4 : Int) (ha1 : rI a1) (ha2 : rI a2) (ha4 : rI a4) (e : fX6_isNew_b40 K5 s a1 a2 a4 = some (r)) : AtPc cX6_isNew RX6 1 24 N [s] h 40 [(0, tr (some b)), (1, ti a1), (2, ti a2), (4, ti a4)] [] := by
  unfold fX6_isNew_b40 at e
  refine r_rrs E.p (fun rr => ?_)
  refine r_iconst dX6_isNew_40 ?_
  refine r_goto 45 dX6_isNew_41 (by decide) ?_
  exact wX6_isNew_b45 E K5 hK5 a1 a2 a4 1 ha1 ha2 ha4 (by decide) e
def fX6_isNew_b44 (K5 : Sg → Int → Int → Int → Int → Option (Int)) (s : Sg) (a1 : Int) (a2 : Int) (a4 : Int) : Option (Int) := fX6_isNew_b45 K5 s a1 a2 a4 0
theorem wX6_isNew_b44 {N : Nx} {b : Nat} {ad : Nat → Nat} {s : Sg} {h : hS} {r : Int} (E : EndX N [(6, b, ad)] 5 (some .boolean) (some (ti r)) [s] h) (K5 : Sg → Int → Int → Int → Int → Option (Int)) (hK5 : ∀ (a1 : Int) (a2 : Int) (a3 : Int) (a4 : Int) (ha1 : rI a1) (ha2 : rI a2) (ha3 : rI a3) (ha4 : rI a4), K5 s a1 a2 a3 a4 = some (r) → AtPc cX6_isNew RX6 1 24 N [s] h 5 [(0, tr (some b)), (1, ti a1), (2, ti a2), (3, ti a3), (4, ti a4)] []) (a1 : Int) (a2 : Int) (a4 : Int) (ha1 : rI a1) (ha2 : rI a2) (ha4 : rI a4) (e : fX6_isNew_b44 K5 s a1 a2 a4 = some (r)) : AtPc cX6_isNew RX6 1 24 N [s] h 44 [(0, tr (some b)), (1, ti a1), (2, ti a2), (4, ti a4)] [] := by
  unfold fX6_isNew_b44 at e
  refine r_rrs E.p (fun rr => ?_)
  refine r_iconst dX6_isNew_44 ?_
  exact wX6_isNew_b45 E K5 hK5 a1 a2 a4 0 ha1 ha2 ha4 (by decide) e
def fX6_isNew_b5 (K5 : Sg → Int → Int → Int → Int → Option (Int)) (s : Sg) (a1 : Int) (a2 : Int) (a3 : Int) (a4 : Int) : Option (Int) := if a2 ≤ a4 then gd (a3 = 0 ∨ a3 = 1) (some a3) else if a3 = 0 then fX6_isNew_b44 K5 s a1 a2 a4 else gd (inb (wr ((wr (9 * a1)) + a4)) 36) (if (gA s 44 (wr ((wr (9 * a1)) + a4))) = 0 then fX6_isNew_b40 K5 s a1 a2 a4 else bd (fX6_isSameAt s a4 a2) fun p6 => if ¬ p6 = 0 then fX6_isNew_b44 K5 s a1 a2 a4 else fX6_isNew_b40 K5 s a1 a2 a4)
theorem wX6_isNew_b5 {N : Nx} {b : Nat} {ad : Nat → Nat} {s : Sg} {h : hS} {r : Int} (E : EndX N [(6, b, ad)] 5 (some .boolean) (some (ti r)) [s] h) (K5 : Sg → Int → Int → Int → Int → Option (Int)) (hK5 : ∀ (a1 : Int) (a2 : Int) (a3 : Int) (a4 : Int) (ha1 : rI a1) (ha2 : rI a2) (ha3 : rI a3) (ha4 : rI a4), K5 s a1 a2 a3 a4 = some (r) → AtPc cX6_isNew RX6 1 24 N [s] h 5 [(0, tr (some b)), (1, ti a1), (2, ti a2), (3, ti a3), (4, ti a4)] []) (a1 : Int) (a2 : Int) (a3 : Int) (a4 : Int) (ha1 : rI a1) (ha2 : rI a2) (ha3 : rI a3) (ha4 : rI a4) (e : fX6_isNew_b5 K5 s a1 a2 a3 a4 = some (r)) : AtPc cX6_isNew RX6 1 24 N [s] h 5 [(0, tr (some b)), (1, ti a1), (2, ti a2), (3, ti a3), (4, ti a4)] [] := by
  unfold fX6_isNew_b5 at e
  refine r_rrs E.p (fun rr => ?_)
  refine r_iload dX6_isNew_5 4 rfl ?_
  refine r_iload_n dX6_isNew_7 rfl 2 rfl ?_
  have eT := (r_ifo e).1
  have eF := (r_ifo e).2
  refine r_icmp_ge ha4 ha2 52 dX6_isNew_8 (by decide) (fun c1 => ?_) (fun c1 => ?_)
  · have e := eT c1
    refine r_iload_n dX6_isNew_52 rfl 3 rfl ?_
    obtain ⟨g2, e⟩ := gd_o e
    cases e
    exact r_zret E.σ E.st E.rt E.r g2 dX6_isNew_53
  · have e := eF c1
    refine r_iload_n dX6_isNew_11 rfl 3 rfl ?_
    have eT := (r_ifo e).1
    have eF := (r_ifo e).2
    refine r_if_eq ha3 44 dX6_isNew_12 (by decide) (fun c3 => ?_) (fun c3 => ?_)
    · have e := eT c3
      refine r_sub [0, 1, 2, 4] rfl ?_
      exact wX6_isNew_b44 E K5 hK5 a1 a2 a4 ha1 ha2 ha4 e
    · have e := eF c3
      refine r_aload_n dX6_isNew_15 rfl 0 rfl ?_
      refine r_sR E.p 44 fG_X6_113 (by decide) dX6_isNew_16 ?_
      refine r_bipush dX6_isNew_19 (by decide) ?_
      refine r_iload_n dX6_isNew_21 rfl 1 rfl ?_
      refine r_imul dX6_isNew_22 ?_
      refine r_iload dX6_isNew_23 4 rfl ?_
      refine r_iadd dX6_isNew_25 ?_
      obtain ⟨g4, e⟩ := gd_o e
      refine r_saI E.p 44 rfl (by decide) (by decide) (wr_r _) g4 rfl dX6_isNew_26 ?_
      have eT := (r_ifo e).1
      have eF := (r_ifo e).2
      refine r_if_eq (((rr.mine rfl).a 44 (by decide) rfl).1 _) 40 dX6_isNew_27 (by decide) (fun c5 => ?_) (fun c5 => ?_)
      · have e := eT c5
        refine r_sub [0, 1, 2, 4] rfl ?_
        exact wX6_isNew_b40 E K5 hK5 a1 a2 a4 ha1 ha2 ha4 e
      · have e := eF c5
        refine r_aload_n dX6_isNew_30 rfl 0 rfl ?_
        refine r_iload dX6_isNew_31 4 rfl ?_
        refine r_iload_n dX6_isNew_33 rfl 2 rfl ?_
        obtain ⟨p6, q7, e⟩ := bd_o e
        have k8 := kX6_isSameAt (G := nG N) (b := b) (ad := ad) (h := h) ha4 ha2 q7
        have z9 := (k8 rr).1.2.2.2
        refine r_callV (j := some 0) 2 [ti a4, ti a2] (rec_sg (j := 0) (r := (RX6, TX6, 63)) rfl (by rw [E.p]; rfl)) rfl k8 (injO_1 E.p) (subO_1 E.p) getO_1 setO_1 (lw_V q1686 q1688 qs61 q123 q1689) (by decide +kernel) rfl (Nat.le_of_ble_eq_true rfl) (Nat.le_of_ble_eq_true rfl) rfl (Nat.le_of_ble_eq_true rfl) dX6_isNew_34 rfl ?_
        have eT := (r_ifo e).1
        have eF := (r_ifo e).2
        refine r_if_ne (rI_z z9) 44 dX6_isNew_37 (by decide) (fun c10 => ?_) (fun c10 => ?_)
        · have e := eT c10
          refine r_sub [0, 1, 2, 4] rfl ?_
          exact wX6_isNew_b44 E K5 hK5 a1 a2 a4 ha1 ha2 ha4 e
        · have e := eF c10
          refine r_sub [0, 1, 2, 4] rfl ?_
          exact wX6_isNew_b40 E K5 hK5 a1 a2 a4 ha1 ha2 ha4 e
def fX6_isNew_L5  : Nat → Sg → Int → Int → Int → Int → Option (Int)
  | 0, _, _, _, _, _ => none
  | n9 + 1, s, a1, a2, a3, a4 => fX6_isNew_b5 (fX6_isNew_L5 n9) s a1 a2 a3 a4
theorem wX6_isNew_L5 {N : Nx} {b : Nat} {ad : Nat → Nat} {s : Sg} {h : hS} {r : Int} (E : EndX N [(6, b, ad)] 5 (some .boolean) (some (ti r)) [s] h)  : ∀ (n9 : Nat), ∀ (a1 : Int) (a2 : Int) (a3 : Int) (a4 : Int) (ha1 : rI a1) (ha2 : rI a2) (ha3 : rI a3) (ha4 : rI a4), fX6_isNew_L5 n9 s a1 a2 a3 a4 = some (r) → AtPc cX6_isNew RX6 1 24 N [s] h 5 [(0, tr (some b)), (1, ti a1), (2, ti a2), (3, ti a3), (4, ti a4)] [] := by
  intro n9
  induction n9 with
  | zero => intro a1 a2 a3 a4 ha1 ha2 ha3 ha4 e; cases e
  | succ n9 ih => intro a1 a2 a3 a4 ha1 ha2 ha3 ha4 e; exact wX6_isNew_b5 E _ ih a1 a2 a3 a4 ha1 ha2 ha3 ha4 e
def fX6_isNew  (s : Sg) (a1 : Int) (a2 : Int) : Option (Int) := fX6_isNew_L5 FU s a1 a2 1 0
theorem kX6_isNew {G : Gx}  {b : Nat} {ad : Nat → Nat} {s : Sg} {h : hS} {r : Int} {a1 : Int} {a2 : Int}  (ha1 : rI a1) (ha2 : rI a2) (e : fX6_isNew s a1 a2 = some (r)) : CtX G yX6_isNew cX6_isNew 5 (some .boolean) 1 24 [(6, b, ad)] [s] h [tr (some b), ti a1, ti a2] (some (ti r)) [s] h := by
  refine CtX.of (by decide) (Nat.le_of_ble_eq_true rfl) [(0, tr (some b)), (1, ti a1), (2, ti a2)] rfl ?_
  have E : EndX (G, 5, [(6, b, ad)], h, [s], h, (some .boolean), (some (ti r)), yX6_isNew.name) [(6, b, ad)] 5 (some .boolean) (some (ti r)) [s] h := ⟨rfl, rfl, rfl, rfl, rfl, rfl⟩
  unfold fX6_isNew at e
  refine r_rrs E.p (fun rr => ?_)
  refine r_iconst dX6_isNew_0 ?_
  refine r_istore_n (lv' := [(3, ti 1), (0, tr (some b)), (1, ti a1), (2, ti a2)]) dX6_isNew_1 rfl (E.lt (by decide)) rfl ?_
  refine r_iconst dX6_isNew_2 ?_
  refine r_istore (lv' := [(4, ti 0), (3, ti 1), (0, tr (some b)), (1, ti a1), (2, ti a2)]) dX6_isNew_3 (E.lt (by decide)) rfl ?_
  refine r_sub [2, 3, 4, 1, 0] rfl ?_
  exact wX6_isNew_L5 E FU a1 a2 1 0 ha1 ha2 (by decide) (by decide) e
def fX6_mark_b12 (s : Sg) : Option (Sg) := some s
theorem wX6_mark_b12 {N : Nx} {b : Nat} {ad : Nat → Nat} {s' : Sg} {h : hS} (E : EndX N [(6, b, ad)] 2 none none [s'] h)  (s : Sg) (e : fX6_mark_b12 s = some (s')) : AtPc cX6_mark RX6 0 0 N [s] h 12 [] [] := by
  unfold fX6_mark_b12 at e
  refine r_rrs E.p (fun rr => ?_)
  cases e
  exact r_vret E.σ E.st E.rt E.r dX6_mark_12
def fX6_mark  (s : Sg) (a1 : Int) : Option (Sg) := if a1 = (-1) then fX6_mark_b12 s else gd (inb a1 36) (fX6_mark_b12 (sA s 44 a1 1))
theorem kX6_mark {G : Gx}  {b : Nat} {ad : Nat → Nat} {s' : Sg} {h : hS} {s : Sg} {a1 : Int}  (ha1 : rI a1) (e : fX6_mark s a1 = some (s')) : CtX G yX6_mark cX6_mark 2 none 0 0 [(6, b, ad)] [s] h [tr (some b), ti a1] none [s'] h := by
  refine CtX.of (by decide) (Nat.le_of_ble_eq_true rfl) [(0, tr (some b)), (1, ti a1)] rfl ?_
  have E : EndX (G, 2, [(6, b, ad)], h, [s'], h, none, none, yX6_mark.name) [(6, b, ad)] 2 none none [s'] h := ⟨rfl, rfl, rfl, rfl, rfl, rfl⟩
  unfold fX6_mark at e
  refine r_rrs E.p (fun rr => ?_)
  refine r_iload_n dX6_mark_0 rfl 1 rfl ?_
  refine r_iconst dX6_mark_1 ?_
  have eT := (r_ifo e).1
  have eF := (r_ifo e).2
  refine r_icmp_eq ha1 (by decide) 12 dX6_mark_2 (by decide) (fun c1 => ?_) (fun c1 => ?_)
  · have e := eT c1
    refine r_sub [] rfl ?_
    exact wX6_mark_b12 E s e
  · have e := eF c1
    refine r_aload_n dX6_mark_5 rfl 0 rfl ?_
    refine r_sR E.p 44 fG_X6_113 (by decide) dX6_mark_6 ?_
    refine r_iload_n dX6_mark_9 rfl 1 rfl ?_
    refine r_iconst dX6_mark_10 ?_
    obtain ⟨g2, e⟩ := gd_o e
    refine r_saP E.p 44 rfl (by decide) (by decide) ha1 g2 (by show rI _; decide) rfl dX6_mark_11 ?_
    refine r_rrs E.p (fun rr3 => ?_)
    refine r_sub [] rfl ?_
    exact wX6_mark_b12 E (sA s 44 a1 1) e
def fX6_differentGoals_b23 (K2 : Sg → Int → Int → Option (Int × Sg)) (s : Sg) (a1 : Int) (a2 : Int) (k1 : Int) (k2 : Int) : Option (Int × Sg) := gd (inb k1 36) (K2 (sA s 44 k1 k2) a1 (wr (a2 + 1)))
theorem wX6_differentGoals_b23 {N : Nx} {b : Nat} {ad : Nat → Nat} {s' : Sg} {h : hS} {r : Int} (E : EndX N [(6, b, ad)] 6 (some .int) (some (ti r)) [s'] h) (K2 : Sg → Int → Int → Option (Int × Sg)) (hK2 : ∀ (s : Sg) (a1 : Int) (a2 : Int) (ha1 : rI a1) (ha2 : rI a2), K2 s a1 a2 = some (r, s') → AtPc cX6_differentGoals RX6 2 48 N [s] h 2 [(0, tr (some b)), (1, ti a1), (2, ti a2)] []) (s : Sg) (a1 : Int) (a2 : Int) (k1 : Int) (k2 : Int) (ha1 : rI a1) (ha2 : rI a2) (hk1 : rI k1) (hk2 : rI k2) (e : fX6_differentGoals_b23 K2 s a1 a2 k1 k2 = some (r, s')) : AtPc cX6_differentGoals RX6 2 48 N [s] h 23 [(0, tr (some b)), (1, ti a1), (2, ti a2)] [ti k2, ti k1, tr (some (ad 44))] := by
  unfold fX6_differentGoals_b23 at e
  refine r_rrs E.p (fun rr => ?_)
  obtain ⟨g1, e⟩ := gd_o e
  refine r_saP E.p 44 rfl (by decide) (by decide) hk1 g1 hk2 rfl dX6_differentGoals_23 ?_
  refine r_rrs E.p (fun rr2 => ?_)
  refine r_iinc (lv' := [(2, ti (wr (a2 + 1))), (0, tr (some b)), (1, ti a1)]) dX6_differentGoals_24 2 rfl (E.lt (by decide)) rfl ?_
  refine r_goto 2 dX6_differentGoals_27 (by decide) ?_
  refine r_sub [1, 2, 0] rfl ?_
  exact hK2 (sA s 44 k1 k2) a1 (wr (a2 + 1)) ha1 (wr_r _) e
def fX6_differentGoals_b114 (K34 : Sg → Int → Int → Option (Int × Sg)) (K45 : Sg → Int → Int → Int → Option (Int × Sg)) (s : Sg) (a2 : Int) (a3 : Int) (a4 : Int) : Option (Int × Sg) := K45 s a2 a3 (wr (a4 + 1))
theorem wX6_differentGoals_b114 {N : Nx} {b : Nat} {ad : Nat → Nat} {s' : Sg} {h : hS} {r : Int} (E : EndX N [(6, b, ad)] 6 (some .int) (some (ti r)) [s'] h) (K34 : Sg → Int → Int → Option (Int × Sg)) (hK34 : ∀ (s : Sg) (a2 : Int) (a3 : Int) (ha2 : rI a2) (ha3 : rI a3), K34 s a2 a3 = some (r, s') → AtPc cX6_differentGoals RX6 2 48 N [s] h 34 [(0, tr (some b)), (2, ti a2), (3, ti a3)] []) (K45 : Sg → Int → Int → Int → Option (Int × Sg)) (hK45 : ∀ (s : Sg) (a2 : Int) (a3 : Int) (a4 : Int) (ha2 : rI a2) (ha3 : rI a3) (ha4 : rI a4), K45 s a2 a3 a4 = some (r, s') → AtPc cX6_differentGoals RX6 2 48 N [s] h 45 [(0, tr (some b)), (2, ti a2), (3, ti a3), (4, ti a4)] []) (s : Sg) (a2 : Int) (a3 : Int) (a4 : Int) (ha2 : rI a2) (ha3 : rI a3) (ha4 : rI a4) (e : fX6_differentGoals_b114 K34 K45 s a2 a3 a4 = some (r, s')) : AtPc cX6_differentGoals RX6 2 48 N [s] h 114 [(0, tr (some b)), (2, ti a2), (3, ti a3), (4, ti a4)] [] := by
  unfold fX6_differentGoals_b114 at e
  refine r_rrs E.p (fun rr => ?_)
  refine r_iinc (lv' := [(4, ti (wr (a4 + 1))), (0, tr (some b)), (2, ti a2), (3, ti a3)]) dX6_differentGoals_114 3 rfl (E.lt (by decide)) rfl ?_
  refine r_goto 45 dX6_differentGoals_117 (by decide) ?_
  refine r_sub [1, 2, 3, 0] rfl ?_
  exact hK45 s a2 a3 (wr (a4 + 1)) ha2 ha3 (wr_r _) e
def fX6_differentGoals_b90 (K34 : Sg → Int → Int → Option (Int × Sg)) (K45 : Sg → Int → Int → Int → Option (Int × Sg)) (s : Sg) (a3 : Int) (a4 : Int) (a5 : Int) (k0 : Int) (k1 : Int) : Option (Int × Sg) := gd (inb a5 36) (bd (fX6_mark s (gA s 38 a5)) fun p2 => gd (inb a5 36) (bd (fX6_mark p2 (gA p2 39 a5)) fun p8 => fX6_differentGoals_b114 K34 K45 p8 (wr (k0 + k1)) a3 a4))
theorem wX6_differentGoals_b90 {N : Nx} {b : Nat} {ad : Nat → Nat} {s' : Sg} {h : hS} {r : Int} (E : EndX N [(6, b, ad)] 6 (some .int) (some (ti r)) [s'] h) (K34 : Sg → Int → Int → Option (Int × Sg)) (hK34 : ∀ (s : Sg) (a2 : Int) (a3 : Int) (ha2 : rI a2) (ha3 : rI a3), K34 s a2 a3 = some (r, s') → AtPc cX6_differentGoals RX6 2 48 N [s] h 34 [(0, tr (some b)), (2, ti a2), (3, ti a3)] []) (K45 : Sg → Int → Int → Int → Option (Int × Sg)) (hK45 : ∀ (s : Sg) (a2 : Int) (a3 : Int) (a4 : Int) (ha2 : rI a2) (ha3 : rI a3) (ha4 : rI a4), K45 s a2 a3 a4 = some (r, s') → AtPc cX6_differentGoals RX6 2 48 N [s] h 45 [(0, tr (some b)), (2, ti a2), (3, ti a3), (4, ti a4)] []) (s : Sg) (a3 : Int) (a4 : Int) (a5 : Int) (k0 : Int) (k1 : Int) (ha3 : rI a3) (ha4 : rI a4) (ha5 : rI a5) (hk0 : rI k0) (hk1 : rI k1) (e : fX6_differentGoals_b90 K34 K45 s a3 a4 a5 k0 k1 = some (r, s')) : AtPc cX6_differentGoals RX6 2 48 N [s] h 90 [(0, tr (some b)), (3, ti a3), (4, ti a4), (5, ti a5)] [ti k1, ti k0] := by
  unfold fX6_differentGoals_b90 at e
  refine r_rrs E.p (fun rr => ?_)
  refine r_iadd dX6_differentGoals_90 ?_
  refine r_istore_n (lv' := [(2, ti (wr (k0 + k1))), (0, tr (some b)), (3, ti a3), (4, ti a4), (5, ti a5)]) dX6_differentGoals_91 rfl (E.lt (by decide)) rfl ?_
  refine r_aload_n dX6_differentGoals_92 rfl 1 rfl ?_
  refine r_aload_n dX6_differentGoals_93 rfl 1 rfl ?_
  refine r_sR E.p 38 fG_X6_95 (by decide) dX6_differentGoals_94 ?_
  refine r_iload dX6_differentGoals_97 4 rfl ?_
  obtain ⟨g1, e⟩ := gd_o e
  refine r_saI E.p 38 rfl (by decide) (by decide) ha5 g1 rfl dX6_differentGoals_99 ?_
  obtain ⟨p2, q3, e⟩ := bd_o e
  have k4 := kX6_mark (G := nG N) (b := b) (ad := ad) (h := h) (((rr.mine rfl).a 38 (by decide) rfl).1 _) q3
  have z5 := (k4 rr).1.2.2.2
  refine r_callV (j := some 0) 1 [ti (gA s 38 a5)] (rec_sg (j := 0) (r := (RX6, TX6, 63)) rfl (by rw [E.p]; rfl)) rfl k4 (injO_1 E.p) (subO_1 E.p) getO_1 setO_1 (lw_V q1873 q1875 qs98 q123 q1876) (by decide +kernel) rfl (Nat.le_of_ble_eq_true rfl) (Nat.le_of_ble_eq_true rfl) rfl (Nat.le_of_ble_eq_true rfl) dX6_differentGoals_100 rfl ?_
  refine r_rrs E.p (fun rr6 => ?_)
  refine r_aload_n dX6_differentGoals_103 rfl 1 rfl ?_
  refine r_aload_n dX6_differentGoals_104 rfl 1 rfl ?_
  refine r_sR E.p 39 fG_X6_98 (by decide) dX6_differentGoals_105 ?_
  refine r_iload dX6_differentGoals_108 4 rfl ?_
  obtain ⟨g7, e⟩ := gd_o e
  refine r_saI E.p 39 rfl (by decide) (by decide) ha5 g7 rfl dX6_differentGoals_110 ?_
  obtain ⟨p8, q9, e⟩ := bd_o e
  have k10 := kX6_mark (G := nG N) (b := b) (ad := ad) (h := h) (((rr6.mine rfl).a 39 (by decide) rfl).1 _) q9
  have z11 := (k10 rr6).1.2.2.2
  refine r_callV (j := some 0) 1 [ti (gA p2 39 a5)] (rec_sg (j := 0) (r := (RX6, TX6, 63)) rfl (by rw [E.p]; rfl)) rfl k10 (injO_1 E.p) (subO_1 E.p) getO_1 setO_1 (lw_V q1873 q1875 qs98 q123 q1876) (by decide +kernel) rfl (Nat.le_of_ble_eq_true rfl) (Nat.le_of_ble_eq_true rfl) rfl (Nat.le_of_ble_eq_true rfl) dX6_differentGoals_111 rfl ?_
  refine r_rrs E.p (fun rr12 => ?_)
  refine r_sub [1, 0, 2, 3] rfl ?_
  exact wX6_differentGoals_b114 E K34 hK34 K45 hK45 p8 (wr (k0 + k1)) a3 a4 (wr_r _) ha3 ha4 e
def fX6_differentGoals_b45 (K34 : Sg → Int → Int → Option (Int × Sg)) (K45 : Sg → Int → Int → Int → Option (Int × Sg)) (s : Sg) (a2 : Int) (a3 : Int) (a4 : Int) : Option (Int × Sg) := if (gI s 1) ≤ a4 then K34 s a2 (wr (a3 + 1)) else gd (inb (wr ((wr (9 * a4)) + a3)) 36) (if ¬ (gA s 44 (wr ((wr (9 * a4)) + a3))) = 1 then fX6_differentGoals_b114 K34 K45 s a2 a3 a4 else bd (fX6_isNew s a4 a3) fun p4 => if p4 = 0 then fX6_differentGoals_b90 K34 K45 s a3 a4 (wr ((wr (9 * a4)) + a3)) a2 0 else fX6_differentGoals_b90 K34 K45 s a3 a4 (wr ((wr (9 * a4)) + a3)) a2 1)
theorem wX6_differentGoals_b45 {N : Nx} {b : Nat} {ad : Nat → Nat} {s' : Sg} {h : hS} {r : Int} (E : EndX N [(6, b, ad)] 6 (some .int) (some (ti r)) [s'] h) (K34 : Sg → Int → Int → Option (Int × Sg)) (hK34 : ∀ (s : Sg) (a2 : Int) (a3 : Int) (ha2 : rI a2) (ha3 : rI a3), K34 s a2 a3 = some (r, s') → AtPc cX6_differentGoals RX6 2 48 N [s] h 34 [(0, tr (some b)), (2, ti a2), (3, ti a3)] []) (K45 : Sg → Int → Int → Int → Option (Int × Sg)) (hK45 : ∀ (s : Sg) (a2 : Int) (a3 : Int) (a4 : Int) (ha2 : rI a2) (ha3 : rI a3) (ha4 : rI a4), K45 s a2 a3 a4 = some (r, s') → AtPc cX6_differentGoals RX6 2 48 N [s] h 45 [(0, tr (some b)), (2, ti a2), (3, ti a3), (4, ti a4)] []) (s : Sg) (a2 : Int) (a3 : Int) (a4 : Int) (ha2 : rI a2) (ha3 : rI a3) (ha4 : rI a4) (e : fX6_differentGoals_b45 K34 K45 s a2 a3 a4 = some (r, s')) : AtPc cX6_differentGoals RX6 2 48 N [s] h 45 [(0, tr (some b)), (2, ti a2), (3, ti a3), (4, ti a4)] [] := by
  unfold fX6_differentGoals_b45 at e
  refine r_rrs E.p (fun rr => ?_)
  refine r_iload dX6_differentGoals_45 3 rfl ?_
  refine r_aload_n dX6_differentGoals_47 rfl 0 rfl ?_
  refine r_sI E.p 1 fG_X6_211 (by decide) dX6_differentGoals_48 ?_
  have eT := (r_ifo e).1
  have eF := (r_ifo e).2
  refine r_icmp_ge ha4 ((rr.mine rfl).i 1 (by decide) (by decide)) 120 dX6_differentGoals_51 (by decide) (fun c1 => ?_) (fun c1 => ?_)
  · have e := eT c1
    refine r_iinc (lv' := [(3, ti (wr (a3 + 1))), (0, tr (some b)), (2, ti a2), (4, ti a4)]) dX6_differentGoals_120 2 rfl (E.lt (by decide)) rfl ?_
    refine r_goto 34 dX6_differentGoals_123 (by decide) ?_
    refine r_sub [1, 2, 0] rfl ?_
    exact hK34 s a2 (wr (a3 + 1)) ha2 (wr_r _) e
  · have e := eF c1
    refine r_bipush dX6_differentGoals_54 (by decide) ?_
    refine r_iload dX6_differentGoals_56 3 rfl ?_
    refine r_imul dX6_differentGoals_58 ?_
    refine r_iload_n dX6_differentGoals_59 rfl 2 rfl ?_
    refine r_iadd dX6_differentGoals_60 ?_
    refine r_istore (lv' := [(5, ti (wr ((wr (9 * a4)) + a3))), (0, tr (some b)), (2, ti a2), (3, ti a3), (4, ti a4)]) dX6_differentGoals_61 (E.lt (by decide)) rfl ?_
    refine r_aload_n dX6_differentGoals_63 rfl 1 rfl ?_
    refine r_sR E.p 44 fG_X6_113 (by decide) dX6_differentGoals_64 ?_
    refine r_iload dX6_differentGoals_67 0 rfl ?_
    obtain ⟨g2, e⟩ := gd_o e
    refine r_saI E.p 44 rfl (by decide) (by decide) (wr_r _) g2 rfl dX6_differentGoals_69 ?_
    refine r_iconst dX6_differentGoals_70 ?_
    have eT := (r_ifo e).1
    have eF := (r_ifo e).2
    refine r_icmp_ne (((rr.mine rfl).a 44 (by decide) rfl).1 _) (by decide) 114 dX6_differentGoals_71 (by decide) (fun c3 => ?_) (fun c3 => ?_)
    · have e := eT c3
      refine r_sub [1, 2, 3, 4] rfl ?_
      exact wX6_differentGoals_b114 E K34 hK34 K45 hK45 s a2 a3 a4 ha2 ha3 ha4 e
    · have e := eF c3
      refine r_iload_n dX6_differentGoals_74 rfl 2 rfl ?_
      refine r_aload_n dX6_differentGoals_75 rfl 1 rfl ?_
      refine r_iload dX6_differentGoals_76 4 rfl ?_
      refine r_iload_n dX6_differentGoals_78 rfl 3 rfl ?_
      obtain ⟨p4, q5, e⟩ := bd_o e
      have k6 := kX6_isNew (G := nG N) (b := b) (ad := ad) (h := h) ha4 ha3 q5
      have z7 := (k6 rr).1.2.2.2
      refine r_callV (j := some 0) 2 [ti a4, ti a3] (rec_sg (j := 0) (r := (RX6, TX6, 63)) rfl (by rw [E.p]; rfl)) rfl k6 (injO_1 E.p) (subO_1 E.p) getO_1 setO_1 (lw_V q1869 q1871 qs97 q123 q1872) (by decide +kernel) rfl (Nat.le_of_ble_eq_true rfl) (Nat.le_of_ble_eq_true rfl) rfl (Nat.le_of_ble_eq_true rfl) dX6_differentGoals_79 rfl ?_
      have eT := (r_ifo e).1
      have eF := (r_ifo e).2
      refine r_if_eq (rI_z z7) 89 dX6_differentGoals_82 (by decide) (fun c8 => ?_) (fun c8 => ?_)
      · have e := eT c8
        refine r_iconst dX6_differentGoals_89 ?_
        refine r_sub [1, 3, 4, 0] rfl ?_
        exact wX6_differentGoals_b90 E K34 hK34 K45 hK45 s a3 a4 (wr ((wr (9 * a4)) + a3)) a2 0 ha3 ha4 (wr_r _) ha2 (by decide) e
      · have e := eF c8
        refine r_iconst dX6_differentGoals_85 ?_
        refine r_goto 90 dX6_differentGoals_86 (by decide) ?_
        refine r_sub [1, 3, 4, 0] rfl ?_
        exact wX6_differentGoals_b90 E K34 hK34 K45 hK45 s a3 a4 (wr ((wr (9 * a4)) + a3)) a2 1 ha3 ha4 (wr_r _) ha2 (by decide) e
def fX6_differentGoals_L45 (K34 : Sg → Int → Int → Option (Int × Sg)) : Nat → Sg → Int → Int → Int → Option (Int × Sg)
  | 0, _, _, _, _ => none
  | n9 + 1, s, a2, a3, a4 => fX6_differentGoals_b45 K34 (fX6_differentGoals_L45 K34 n9) s a2 a3 a4
theorem wX6_differentGoals_L45 {N : Nx} {b : Nat} {ad : Nat → Nat} {s' : Sg} {h : hS} {r : Int} (E : EndX N [(6, b, ad)] 6 (some .int) (some (ti r)) [s'] h) (K34 : Sg → Int → Int → Option (Int × Sg)) (hK34 : ∀ (s : Sg) (a2 : Int) (a3 : Int) (ha2 : rI a2) (ha3 : rI a3), K34 s a2 a3 = some (r, s') → AtPc cX6_differentGoals RX6 2 48 N [s] h 34 [(0, tr (some b)), (2, ti a2), (3, ti a3)] []) : ∀ (n9 : Nat), ∀ (s : Sg) (a2 : Int) (a3 : Int) (a4 : Int) (ha2 : rI a2) (ha3 : rI a3) (ha4 : rI a4), fX6_differentGoals_L45 K34 n9 s a2 a3 a4 = some (r, s') → AtPc cX6_differentGoals RX6 2 48 N [s] h 45 [(0, tr (some b)), (2, ti a2), (3, ti a3), (4, ti a4)] [] := by
  intro n9
  induction n9 with
  | zero => intro s a2 a3 a4 ha2 ha3 ha4 e; cases e
  | succ n9 ih => intro s a2 a3 a4 ha2 ha3 ha4 e; exact wX6_differentGoals_b45 E K34 hK34 _ ih s a2 a3 a4 ha2 ha3 ha4 e
def fX6_differentGoals_b34 (K34 : Sg → Int → Int → Option (Int × Sg)) (s : Sg) (a2 : Int) (a3 : Int) : Option (Int × Sg) := if (gI s 34) ≤ a3 then some (a2, s) else fX6_differentGoals_L45 K34 FU s a2 a3 0
theorem wX6_differentGoals_b34 {N : Nx} {b : Nat} {ad : Nat → Nat} {s' : Sg} {h : hS} {r : Int} (E : EndX N [(6, b, ad)] 6 (some .int) (some (ti r)) [s'] h) (K34 : Sg → Int → Int → Option (Int × Sg)) (hK34 : ∀ (s : Sg) (a2 : Int) (a3 : Int) (ha2 : rI a2) (ha3 : rI a3), K34 s a2 a3 = some (r, s') → AtPc cX6_differentGoals RX6 2 48 N [s] h 34 [(0, tr (some b)), (2, ti a2), (3, ti a3)] []) (s : Sg) (a2 : Int) (a3 : Int) (ha2 : rI a2) (ha3 : rI a3) (e : fX6_differentGoals_b34 K34 s a2 a3 = some (r, s')) : AtPc cX6_differentGoals RX6 2 48 N [s] h 34 [(0, tr (some b)), (2, ti a2), (3, ti a3)] [] := by
  unfold fX6_differentGoals_b34 at e
  refine r_rrs E.p (fun rr => ?_)
  refine r_iload_n dX6_differentGoals_34 rfl 2 rfl ?_
  refine r_aload_n dX6_differentGoals_35 rfl 0 rfl ?_
  refine r_sI E.p 34 fG_X6_233 (by decide) dX6_differentGoals_36 ?_
  have eT := (r_ifo e).1
  have eF := (r_ifo e).2
  refine r_icmp_ge ha3 ((rr.mine rfl).i 34 (by decide) (by decide)) 126 dX6_differentGoals_39 (by decide) (fun c1 => ?_) (fun c1 => ?_)
  · have e := eT c1
    refine r_iload_n dX6_differentGoals_126 rfl 1 rfl ?_
    cases e
    exact r_iret E.σ E.st E.rt E.r ha2 dX6_differentGoals_127
  · have e := eF c1
    refine r_iconst dX6_differentGoals_42 ?_
    refine r_istore (lv' := [(4, ti 0), (0, tr (some b)), (2, ti a2), (3, ti a3)]) dX6_differentGoals_43 (E.lt (by decide)) rfl ?_
    refine r_sub [1, 2, 3, 0] rfl ?_
    exact wX6_differentGoals_L45 E K34 hK34 FU s a2 a3 0 ha2 ha3 (by decide) e
def fX6_differentGoals_L34  : Nat → Sg → Int → Int → Option (Int × Sg)
  | 0, _, _, _ => none
  | n9 + 1, s, a2, a3 => fX6_differentGoals_b34 (fX6_differentGoals_L34 n9) s a2 a3
theorem wX6_differentGoals_L34 {N : Nx} {b : Nat} {ad : Nat → Nat} {s' : Sg} {h : hS} {r : Int} (E : EndX N [(6, b, ad)] 6 (some .int) (some (ti r)) [s'] h)  : ∀ (n9 : Nat), ∀ (s : Sg) (a2 : Int) (a3 : Int) (ha2 : rI a2) (ha3 : rI a3), fX6_differentGoals_L34 n9 s a2 a3 = some (r, s') → AtPc cX6_differentGoals RX6 2 48 N [s] h 34 [(0, tr (some b)), (2, ti a2), (3, ti a3)] [] := by
  intro n9
  induction n9 with
  | zero => intro s a2 a3 ha2 ha3 e; cases e
  | succ n9 ih => intro s a2 a3 ha2 ha3 e; exact wX6_differentGoals_b34 E _ ih s a2 a3 ha2 ha3 e
def fX6_differentGoals_b2 (K2 : Sg → Int → Int → Option (Int × Sg)) (s : Sg) (a1 : Int) (a2 : Int) : Option (Int × Sg) := if 36 ≤ a2 then fX6_differentGoals_L34 FU s 0 0 else if ¬ a2 = a1 then fX6_differentGoals_b23 K2 s a1 a2 a2 0 else fX6_differentGoals_b23 K2 s a1 a2 a2 1
theorem wX6_differentGoals_b2 {N : Nx} {b : Nat} {ad : Nat → Nat} {s' : Sg} {h : hS} {r : Int} (E : EndX N [(6, b, ad)] 6 (some .int) (some (ti r)) [s'] h) (K2 : Sg → Int → Int → Option (Int × Sg)) (hK2 : ∀ (s : Sg) (a1 : Int) (a2 : Int) (ha1 : rI a1) (ha2 : rI a2), K2 s a1 a2 = some (r, s') → AtPc cX6_differentGoals RX6 2 48 N [s] h 2 [(0, tr (some b)), (1, ti a1), (2, ti a2)] []) (s : Sg) (a1 : Int) (a2 : Int) (ha1 : rI a1) (ha2 : rI a2) (e : fX6_differentGoals_b2 K2 s a1 a2 = some (r, s')) : AtPc cX6_differentGoals RX6 2 48 N [s] h 2 [(0, tr (some b)), (1, ti a1), (2, ti a2)] [] := by
  unfold fX6_differentGoals_b2 at e
  refine r_rrs E.p (fun rr => ?_)
  refine r_iload_n dX6_differentGoals_2 rfl 2 rfl ?_
  refine r_bipush dX6_differentGoals_3 (by decide) ?_
  have eT := (r_ifo e).1
  have eF := (r_ifo e).2
  refine r_icmp_ge ha2 (by decide) 30 dX6_differentGoals_5 (by decide) (fun c1 => ?_) (fun c1 => ?_)
  · have e := eT c1
    refine r_iconst dX6_differentGoals_30 ?_
    refine r_istore_n (lv' := [(2, ti 0), (0, tr (some b)), (1, ti a1)]) dX6_differentGoals_31 rfl (E.lt (by decide)) rfl ?_
    refine r_iconst dX6_differentGoals_32 ?_
    refine r_istore_n (lv' := [(3, ti 0), (2, ti 0), (0, tr (some b)), (1, ti a1)]) dX6_differentGoals_33 rfl (E.lt (by decide)) rfl ?_
    refine r_sub [2, 1, 0] rfl ?_
    exact wX6_differentGoals_L34 E FU s 0 0 (by decide) (by decide) e
  · have e := eF c1
    refine r_aload_n dX6_differentGoals_8 rfl 0 rfl ?_
    refine r_sR E.p 44 fG_X6_113 (by decide) dX6_differentGoals_9 ?_
    refine r_iload_n dX6_differentGoals_12 rfl 2 rfl ?_
    refine r_iload_n dX6_differentGoals_13 rfl 2 rfl ?_
    refine r_iload_n dX6_differentGoals_14 rfl 1 rfl ?_
    have eT := (r_ifo e).1
    have eF := (r_ifo e).2
    refine r_icmp_ne ha2 ha1 22 dX6_differentGoals_15 (by decide) (fun c2 => ?_) (fun c2 => ?_)
    · have e := eT c2
      refine r_iconst dX6_differentGoals_22 ?_
      exact wX6_differentGoals_b23 E K2 hK2 s a1 a2 a2 0 ha1 ha2 ha2 (by decide) e
    · have e := eF c2
      refine r_iconst dX6_differentGoals_18 ?_
      refine r_goto 23 dX6_differentGoals_19 (by decide) ?_
      exact wX6_differentGoals_b23 E K2 hK2 s a1 a2 a2 1 ha1 ha2 ha2 (by decide) e
def fX6_differentGoals_L2  : Nat → Sg → Int → Int → Option (Int × Sg)
  | 0, _, _, _ => none
  | n9 + 1, s, a1, a2 => fX6_differentGoals_b2 (fX6_differentGoals_L2 n9) s a1 a2
theorem wX6_differentGoals_L2 {N : Nx} {b : Nat} {ad : Nat → Nat} {s' : Sg} {h : hS} {r : Int} (E : EndX N [(6, b, ad)] 6 (some .int) (some (ti r)) [s'] h)  : ∀ (n9 : Nat), ∀ (s : Sg) (a1 : Int) (a2 : Int) (ha1 : rI a1) (ha2 : rI a2), fX6_differentGoals_L2 n9 s a1 a2 = some (r, s') → AtPc cX6_differentGoals RX6 2 48 N [s] h 2 [(0, tr (some b)), (1, ti a1), (2, ti a2)] [] := by
  intro n9
  induction n9 with
  | zero => intro s a1 a2 ha1 ha2 e; cases e
  | succ n9 ih => intro s a1 a2 ha1 ha2 e; exact wX6_differentGoals_b2 E _ ih s a1 a2 ha1 ha2 e
def fX6_differentGoals  (s : Sg) (a1 : Int) : Option (Int × Sg) := fX6_differentGoals_L2 FU s a1 0
theorem kX6_differentGoals {G : Gx}  {b : Nat} {ad : Nat → Nat} {s' : Sg} {h : hS} {r : Int} {s : Sg} {a1 : Int}  (ha1 : rI a1) (e : fX6_differentGoals s a1 = some (r, s')) : CtX G yX6_differentGoals cX6_differentGoals 6 (some .int) 2 48 [(6, b, ad)] [s] h [tr (some b), ti a1] (some (ti r)) [s'] h := by
  refine CtX.of (by decide) (Nat.le_of_ble_eq_true rfl) [(0, tr (some b)), (1, ti a1)] rfl ?_
  have E : EndX (G, 6, [(6, b, ad)], h, [s'], h, (some .int), (some (ti r)), yX6_differentGoals.name) [(6, b, ad)] 6 (some .int) (some (ti r)) [s'] h := ⟨rfl, rfl, rfl, rfl, rfl, rfl⟩
  unfold fX6_differentGoals at e
  refine r_rrs E.p (fun rr => ?_)
  refine r_iconst dX6_differentGoals_0 ?_
  refine r_istore_n (lv' := [(2, ti 0), (0, tr (some b)), (1, ti a1)]) dX6_differentGoals_1 rfl (E.lt (by decide)) rfl ?_
  refine r_sub [1, 2, 0] rfl ?_
  exact wX6_differentGoals_L2 E FU s a1 0 ha1 (by decide) e
def fX6_plainOf_b74 (K4 : Sg → Int → Int → Int → Option (Int)) (K20 : Sg → Int → Int → Int → Int → Int → Option (Int)) (s : Sg) (a1 : Int) (a2 : Int) (a3 : Int) (a5 : Int) (k0 : Int) : Option (Int) := K20 s a1 a2 a3 k0 (wr (a5 + 1))
theorem wX6_plainOf_b74 {N : Nx} {b : Nat} {ad : Nat → Nat} {s : Sg} {h : hS} {r : Int} (E : EndX N [(6, b, ad)] 6 (some .int) (some (ti r)) [s] h) (K4 : Sg → Int → Int → Int → Option (Int)) (hK4 : ∀ (a1 : Int) (a2 : Int) (a3 : Int) (ha1 : rI a1) (ha2 : rI a2) (ha3 : rI a3), K4 s a1 a2 a3 = some (r) → AtPc cX6_plainOf RX6 1 21 N [s] h 4 [(0, tr (some b)), (1, ti a1), (2, ti a2), (3, ti a3)] []) (K20 : Sg → Int → Int → Int → Int → Int → Option (Int)) (hK20 : ∀ (a1 : Int) (a2 : Int) (a3 : Int) (a4 : Int) (a5 : Int) (ha1 : rI a1) (ha2 : rI a2) (ha3 : rI a3) (ha4 : rI a4) (ha5 : rI a5), K20 s a1 a2 a3 a4 a5 = some (r) → AtPc cX6_plainOf RX6 1 21 N [s] h 20 [(0, tr (some b)), (1, ti a1), (2, ti a2), (3, ti a3), (4, ti a4), (5, ti a5)] []) (a1 : Int) (a2 : Int) (a3 : Int) (a5 : Int) (k0 : Int) (ha1 : rI a1) (ha2 : rI a2) (ha3 : rI a3) (ha5 : rI a5) (hk0 : rI k0) (e : fX6_plainOf_b74 K4 K20 s a1 a2 a3 a5 k0 = some (r)) : AtPc cX6_plainOf RX6 1 21 N [s] h 74 [(0, tr (some b)), (1, ti a1), (2, ti a2), (3, ti a3), (5, ti a5)] [ti k0] := by
  unfold fX6_plainOf_b74 at e
  refine r_rrs E.p (fun rr => ?_)
  refine r_istore (lv' := [(4, ti k0), (0, tr (some b)), (1, ti a1), (2, ti a2), (3, ti a3), (5, ti a5)]) dX6_plainOf_74 (E.lt (by decide)) rfl ?_
  refine r_iinc (lv' := [(5, ti (wr (a5 + 1))), (4, ti k0), (0, tr (some b)), (1, ti a1), (2, ti a2), (3, ti a3)]) dX6_plainOf_76 5 rfl (E.lt (by decide)) rfl ?_
  refine r_goto 20 dX6_plainOf_79 (by decide) ?_
  refine r_sub [2, 3, 4, 5, 1, 0] rfl ?_
  exact hK20 a1 a2 a3 k0 (wr (a5 + 1)) ha1 ha2 ha3 hk0 (wr_r _) e
def fX6_plainOf_b69 (K4 : Sg → Int → Int → Int → Option (Int)) (K20 : Sg → Int → Int → Int → Int → Int → Option (Int)) (s : Sg) (a1 : Int) (a2 : Int) (a3 : Int) (a5 : Int) : Option (Int) := fX6_plainOf_b74 K4 K20 s a1 a2 a3 a5 1
theorem wX6_plainOf_b69 {N : Nx} {b : Nat} {ad : Nat → Nat} {s : Sg} {h : hS} {r : Int} (E : EndX N [(6, b, ad)] 6 (some .int) (some (ti r)) [s] h) (K4 : Sg → Int → Int → Int → Option (Int)) (hK4 : ∀ (a1 : Int) (a2 : Int) (a3 : Int) (ha1 : rI a1) (ha2 : rI a2) (ha3 : rI a3), K4 s a1 a2 a3 = some (r) → AtPc cX6_plainOf RX6 1 21 N [s] h 4 [(0, tr (some b)), (1, ti a1), (2, ti a2), (3, ti a3)] []) (K20 : Sg → Int → Int → Int → Int → Int → Option (Int)) (hK20 : ∀ (a1 : Int) (a2 : Int) (a3 : Int) (a4 : Int) (a5 : Int) (ha1 : rI a1) (ha2 : rI a2) (ha3 : rI a3) (ha4 : rI a4) (ha5 : rI a5), K20 s a1 a2 a3 a4 a5 = some (r) → AtPc cX6_plainOf RX6 1 21 N [s] h 20 [(0, tr (some b)), (1, ti a1), (2, ti a2), (3, ti a3), (4, ti a4), (5, ti a5)] []) (a1 : Int) (a2 : Int) (a3 : Int) (a5 : Int) (ha1 : rI a1) (ha2 : rI a2) (ha3 : rI a3) (ha5 : rI a5) (e : fX6_plainOf_b69 K4 K20 s a1 a2 a3 a5 = some (r)) : AtPc cX6_plainOf RX6 1 21 N [s] h 69 [(0, tr (some b)), (1, ti a1), (2, ti a2), (3, ti a3), (5, ti a5)] [] := by
  unfold fX6_plainOf_b69 at e
  refine r_rrs E.p (fun rr => ?_)
  refine r_iconst dX6_plainOf_69 ?_
  refine r_goto 74 dX6_plainOf_70 (by decide) ?_
  exact wX6_plainOf_b74 E K4 hK4 K20 hK20 a1 a2 a3 a5 1 ha1 ha2 ha3 ha5 (by decide) e
def fX6_plainOf_b73 (K4 : Sg → Int → Int → Int → Option (Int)) (K20 : Sg → Int → Int → Int → Int → Int → Option (Int)) (s : Sg) (a1 : Int) (a2 : Int) (a3 : Int) (a5 : Int) : Option (Int) := fX6_plainOf_b74 K4 K20 s a1 a2 a3 a5 0
theorem wX6_plainOf_b73 {N : Nx} {b : Nat} {ad : Nat → Nat} {s : Sg} {h : hS} {r : Int} (E : EndX N [(6, b, ad)] 6 (some .int) (some (ti r)) [s] h) (K4 : Sg → Int → Int → Int → Option (Int)) (hK4 : ∀ (a1 : Int) (a2 : Int) (a3 : Int) (ha1 : rI a1) (ha2 : rI a2) (ha3 : rI a3), K4 s a1 a2 a3 = some (r) → AtPc cX6_plainOf RX6 1 21 N [s] h 4 [(0, tr (some b)), (1, ti a1), (2, ti a2), (3, ti a3)] []) (K20 : Sg → Int → Int → Int → Int → Int → Option (Int)) (hK20 : ∀ (a1 : Int) (a2 : Int) (a3 : Int) (a4 : Int) (a5 : Int) (ha1 : rI a1) (ha2 : rI a2) (ha3 : rI a3) (ha4 : rI a4) (ha5 : rI a5), K20 s a1 a2 a3 a4 a5 = some (r) → AtPc cX6_plainOf RX6 1 21 N [s] h 20 [(0, tr (some b)), (1, ti a1), (2, ti a2), (3, ti a3), (4, ti a4), (5, ti a5)] []) (a1 : Int) (a2 : Int) (a3 : Int) (a5 : Int) (ha1 : rI a1) (ha2 : rI a2) (ha3 : rI a3) (ha5 : rI a5) (e : fX6_plainOf_b73 K4 K20 s a1 a2 a3 a5 = some (r)) : AtPc cX6_plainOf RX6 1 21 N [s] h 73 [(0, tr (some b)), (1, ti a1), (2, ti a2), (3, ti a3), (5, ti a5)] [] := by
  unfold fX6_plainOf_b73 at e
  refine r_rrs E.p (fun rr => ?_)
  refine r_iconst dX6_plainOf_73 ?_
  exact wX6_plainOf_b74 E K4 hK4 K20 hK20 a1 a2 a3 a5 0 ha1 ha2 ha3 ha5 (by decide) e
def fX6_plainOf_b95 (K4 : Sg → Int → Int → Int → Option (Int)) (s : Sg) (a1 : Int) (a3 : Int) (k0 : Int) (k1 : Int) : Option (Int) := K4 s a1 (ior k0 k1) (wr (a3 + 1))
theorem wX6_plainOf_b95 {N : Nx} {b : Nat} {ad : Nat → Nat} {s : Sg} {h : hS} {r : Int} (E : EndX N [(6, b, ad)] 6 (some .int) (some (ti r)) [s] h) (K4 : Sg → Int → Int → Int → Option (Int)) (hK4 : ∀ (a1 : Int) (a2 : Int) (a3 : Int) (ha1 : rI a1) (ha2 : rI a2) (ha3 : rI a3), K4 s a1 a2 a3 = some (r) → AtPc cX6_plainOf RX6 1 21 N [s] h 4 [(0, tr (some b)), (1, ti a1), (2, ti a2), (3, ti a3)] []) (a1 : Int) (a3 : Int) (k0 : Int) (k1 : Int) (ha1 : rI a1) (ha3 : rI a3) (hk0 : rI k0) (hk1 : rI k1) (e : fX6_plainOf_b95 K4 s a1 a3 k0 k1 = some (r)) : AtPc cX6_plainOf RX6 1 21 N [s] h 95 [(0, tr (some b)), (1, ti a1), (3, ti a3)] [ti k1, ti k0] := by
  unfold fX6_plainOf_b95 at e
  refine r_rrs E.p (fun rr => ?_)
  refine r_ior dX6_plainOf_95 ?_
  refine r_istore_n (lv' := [(2, ti (ior k0 k1)), (0, tr (some b)), (1, ti a1), (3, ti a3)]) dX6_plainOf_96 rfl (E.lt (by decide)) rfl ?_
  refine r_iinc (lv' := [(3, ti (wr (a3 + 1))), (2, ti (ior k0 k1)), (0, tr (some b)), (1, ti a1)]) dX6_plainOf_97 3 rfl (E.lt (by decide)) rfl ?_
  refine r_goto 4 dX6_plainOf_100 (by decide) ?_
  refine r_sub [2, 3, 1, 0] rfl ?_
  exact hK4 a1 (ior k0 k1) (wr (a3 + 1)) ha1 (ior_r _ _) (wr_r _) e
def fX6_plainOf_b20 (K4 : Sg → Int → Int → Int → Option (Int)) (K20 : Sg → Int → Int → Int → Int → Int → Option (Int)) (s : Sg) (a1 : Int) (a2 : Int) (a3 : Int) (a4 : Int) (a5 : Int) : Option (Int) := if 8 ≤ a5 then if a4 = 0 then fX6_plainOf_b95 K4 s a1 a3 a2 0 else fX6_plainOf_b95 K4 s a1 a3 a2 (ishl 1 a3) else if a4 = 0 then fX6_plainOf_b73 K4 K20 s a1 a2 a3 a5 else bd (fX6_isIn a1 a5) fun p4 => if p4 = 0 then fX6_plainOf_b69 K4 K20 s a1 a2 a3 a5 else if ¬ (irm a5 2) = (irm a3 2) then fX6_plainOf_b69 K4 K20 s a1 a2 a3 a5 else gd (inb (idv a5 2) 4) (bd (fX6_isIn (gA s 3 (idv a5 2)) (idv a3 2)) fun p11 => if ¬ p11 = 0 then fX6_plainOf_b73 K4 K20 s a1 a2 a3 a5 else fX6_plainOf_b69 K4 K20 s a1 a2 a3 a5)
theorem wX6_plainOf_b20 {N : Nx} {b : Nat} {ad : Nat → Nat} {s : Sg} {h : hS} {r : Int} (E : EndX N [(6, b, ad)] 6 (some .int) (some (ti r)) [s] h) (K4 : Sg → Int → Int → Int → Option (Int)) (hK4 : ∀ (a1 : Int) (a2 : Int) (a3 : Int) (ha1 : rI a1) (ha2 : rI a2) (ha3 : rI a3), K4 s a1 a2 a3 = some (r) → AtPc cX6_plainOf RX6 1 21 N [s] h 4 [(0, tr (some b)), (1, ti a1), (2, ti a2), (3, ti a3)] []) (K20 : Sg → Int → Int → Int → Int → Int → Option (Int)) (hK20 : ∀ (a1 : Int) (a2 : Int) (a3 : Int) (a4 : Int) (a5 : Int) (ha1 : rI a1) (ha2 : rI a2) (ha3 : rI a3) (ha4 : rI a4) (ha5 : rI a5), K20 s a1 a2 a3 a4 a5 = some (r) → AtPc cX6_plainOf RX6 1 21 N [s] h 20 [(0, tr (some b)), (1, ti a1), (2, ti a2), (3, ti a3), (4, ti a4), (5, ti a5)] []) (a1 : Int) (a2 : Int) (a3 : Int) (a4 : Int) (a5 : Int) (ha1 : rI a1) (ha2 : rI a2) (ha3 : rI a3) (ha4 : rI a4) (ha5 : rI a5) (e : fX6_plainOf_b20 K4 K20 s a1 a2 a3 a4 a5 = some (r)) : AtPc cX6_plainOf RX6 1 21 N [s] h 20 [(0, tr (some b)), (1, ti a1), (2, ti a2), (3, ti a3), (4, ti a4), (5, ti a5)] [] := by
  unfold fX6_plainOf_b20 at e
  refine r_rrs E.p (fun rr => ?_)
  refine r_iload dX6_plainOf_20 5 rfl ?_
  refine r_bipush dX6_plainOf_22 (by decide) ?_
  have eT := (r_ifo e).1
  have eF := (r_ifo e).2
  refine r_icmp_ge ha5 (by decide) 82 dX6_plainOf_24 (by decide) (fun c1 => ?_) (fun c1 => ?_)
  · have e := eT c1
    refine r_iload_n dX6_plainOf_82 rfl 2 rfl ?_
    refine r_iload dX6_plainOf_83 4 rfl ?_
    have eT := (r_ifo e).1
    have eF := (r_ifo e).2
    refine r_if_eq ha4 94 dX6_plainOf_85 (by decide) (fun c2 => ?_) (fun c2 => ?_)
    · have e := eT c2
      refine r_iconst dX6_plainOf_94 ?_
      refine r_sub [0, 1, 3] rfl ?_
      exact wX6_plainOf_b95 E K4 hK4 a1 a3 a2 0 ha1 ha3 ha2 (by decide) e
    · have e := eF c2
      refine r_iconst dX6_plainOf_88 ?_
      refine r_iload_n dX6_plainOf_89 rfl 3 rfl ?_
      refine r_ishl dX6_plainOf_90 ?_
      refine r_goto 95 dX6_plainOf_91 (by decide) ?_
      refine r_sub [0, 1, 3] rfl ?_
      exact wX6_plainOf_b95 E K4 hK4 a1 a3 a2 (ishl 1 a3) ha1 ha3 ha2 (ishl_r _ _) e
  · have e := eF c1
    refine r_iload dX6_plainOf_27 4 rfl ?_
    have eT := (r_ifo e).1
    have eF := (r_ifo e).2
    refine r_if_eq ha4 73 dX6_plainOf_29 (by decide) (fun c3 => ?_) (fun c3 => ?_)
    · have e := eT c3
      refine r_sub [0, 1, 2, 3, 5] rfl ?_
      exact wX6_plainOf_b73 E K4 hK4 K20 hK20 a1 a2 a3 a5 ha1 ha2 ha3 ha5 e
    · have e := eF c3
      refine r_iload_n dX6_plainOf_32 rfl 1 rfl ?_
      refine r_iload dX6_plainOf_33 5 rfl ?_
      obtain ⟨p4, q5, e⟩ := bd_o e
      have k6 := kX6_isIn (G := nG N) (h := h) ha1 ha5 q5
      have z7 := (k6 rr.none).1.2.2.2
      refine r_callS (j := none) 2 [ti a1, ti a5] k6 (injO_1 E.p) subO_0 getO_0 setO_0 (lw_S q1663 q1664 q123 q1665) (by decide +kernel) rfl (Nat.le_of_ble_eq_true rfl) (Nat.le_of_ble_eq_true rfl) rfl (Nat.le_of_ble_eq_true rfl) dX6_plainOf_35 rfl ?_
      have eT := (r_ifo e).1
      have eF := (r_ifo e).2
      refine r_if_eq (rI_z z7) 69 dX6_plainOf_38 (by decide) (fun c8 => ?_) (fun c8 => ?_)
      · have e := eT c8
        refine r_sub [0, 1, 2, 3, 5] rfl ?_
        exact wX6_plainOf_b69 E K4 hK4 K20 hK20 a1 a2 a3 a5 ha1 ha2 ha3 ha5 e
      · have e := eF c8
        refine r_iload dX6_plainOf_41 5 rfl ?_
        refine r_iconst dX6_plainOf_43 ?_
        refine r_irem (by decide) (by decide) dX6_plainOf_44 ?_
        refine r_iload_n dX6_plainOf_45 rfl 3 rfl ?_
        refine r_iconst dX6_plainOf_46 ?_
        refine r_irem (by decide) (by decide) dX6_plainOf_47 ?_
        have eT := (r_ifo e).1
        have eF := (r_ifo e).2
        refine r_icmp_ne (irm_r _ _) (irm_r _ _) 69 dX6_plainOf_48 (by decide) (fun c9 => ?_) (fun c9 => ?_)
        · have e := eT c9
          refine r_sub [0, 1, 2, 3, 5] rfl ?_
          exact wX6_plainOf_b69 E K4 hK4 K20 hK20 a1 a2 a3 a5 ha1 ha2 ha3 ha5 e
        · have e := eF c9
          refine r_aload_n dX6_plainOf_51 rfl 0 rfl ?_
          refine r_sR E.p 3 fG_X6_13 (by decide) dX6_plainOf_52 ?_
          refine r_iload dX6_plainOf_55 5 rfl ?_
          refine r_iconst dX6_plainOf_57 ?_
          refine r_idiv (by decide) (by decide) dX6_plainOf_58 ?_
          obtain ⟨g10, e⟩ := gd_o e
          refine r_saI E.p 3 rfl (by decide) (by decide) (idv_r _ _) g10 rfl dX6_plainOf_59 ?_
          refine r_iload_n dX6_plainOf_60 rfl 3 rfl ?_
          refine r_iconst dX6_plainOf_61 ?_
          refine r_idiv (by decide) (by decide) dX6_plainOf_62 ?_
          obtain ⟨p11, q12, e⟩ := bd_o e
          have k13 := kX6_isIn (G := nG N) (h := h) (((rr.mine rfl).a 3 (by decide) rfl).1 _) (idv_r _ _) q12
          have z14 := (k13 rr.none).1.2.2.2
          refine r_callS (j := none) 2 [ti (gA s 3 (idv a5 2)), ti (idv a3 2)] k13 (injO_1 E.p) subO_0 getO_0 setO_0 (lw_S q1663 q1664 q123 q1665) (by decide +kernel) rfl (Nat.le_of_ble_eq_true rfl) (Nat.le_of_ble_eq_true rfl) rfl (Nat.le_of_ble_eq_true rfl) dX6_plainOf_63 rfl ?_
          have eT := (r_ifo e).1
          have eF := (r_ifo e).2
          refine r_if_ne (rI_z z14) 73 dX6_plainOf_66 (by decide) (fun c15 => ?_) (fun c15 => ?_)
          · have e := eT c15
            refine r_sub [0, 1, 2, 3, 5] rfl ?_
            exact wX6_plainOf_b73 E K4 hK4 K20 hK20 a1 a2 a3 a5 ha1 ha2 ha3 ha5 e
          · have e := eF c15
            refine r_sub [0, 1, 2, 3, 5] rfl ?_
            exact wX6_plainOf_b69 E K4 hK4 K20 hK20 a1 a2 a3 a5 ha1 ha2 ha3 ha5 e
def fX6_plainOf_L20 (K4 : Sg → Int → Int → Int → Option (Int)) : Nat → Sg → Int → Int → Int → Int → Int → Option (Int)
  | 0, _, _, _, _, _, _ => none
  | n9 + 1, s, a1, a2, a3, a4, a5 => fX6_plainOf_b20 K4 (fX6_plainOf_L20 K4 n9) s a1 a2 a3 a4 a5
theorem wX6_plainOf_L20 {N : Nx} {b : Nat} {ad : Nat → Nat} {s : Sg} {h : hS} {r : Int} (E : EndX N [(6, b, ad)] 6 (some .int) (some (ti r)) [s] h) (K4 : Sg → Int → Int → Int → Option (Int)) (hK4 : ∀ (a1 : Int) (a2 : Int) (a3 : Int) (ha1 : rI a1) (ha2 : rI a2) (ha3 : rI a3), K4 s a1 a2 a3 = some (r) → AtPc cX6_plainOf RX6 1 21 N [s] h 4 [(0, tr (some b)), (1, ti a1), (2, ti a2), (3, ti a3)] []) : ∀ (n9 : Nat), ∀ (a1 : Int) (a2 : Int) (a3 : Int) (a4 : Int) (a5 : Int) (ha1 : rI a1) (ha2 : rI a2) (ha3 : rI a3) (ha4 : rI a4) (ha5 : rI a5), fX6_plainOf_L20 K4 n9 s a1 a2 a3 a4 a5 = some (r) → AtPc cX6_plainOf RX6 1 21 N [s] h 20 [(0, tr (some b)), (1, ti a1), (2, ti a2), (3, ti a3), (4, ti a4), (5, ti a5)] [] := by
  intro n9
  induction n9 with
  | zero => intro a1 a2 a3 a4 a5 ha1 ha2 ha3 ha4 ha5 e; cases e
  | succ n9 ih => intro a1 a2 a3 a4 a5 ha1 ha2 ha3 ha4 ha5 e; exact wX6_plainOf_b20 E K4 hK4 _ ih a1 a2 a3 a4 a5 ha1 ha2 ha3 ha4 ha5 e
def fX6_plainOf_b4 (K4 : Sg → Int → Int → Int → Option (Int)) (s : Sg) (a1 : Int) (a2 : Int) (a3 : Int) : Option (Int) := if 8 ≤ a3 then some a2 else bd (fX6_isIn a1 a3) fun p2 => fX6_plainOf_L20 K4 FU s a1 a2 a3 p2 0
theorem wX6_plainOf_b4 {N : Nx} {b : Nat} {ad : Nat → Nat} {s : Sg} {h : hS} {r : Int} (E : EndX N [(6, b, ad)] 6 (some .int) (some (ti r)) [s] h) (K4 : Sg → Int → Int → Int → Option (Int)) (hK4 : ∀ (a1 : Int) (a2 : Int) (a3 : Int) (ha1 : rI a1) (ha2 : rI a2) (ha3 : rI a3), K4 s a1 a2 a3 = some (r) → AtPc cX6_plainOf RX6 1 21 N [s] h 4 [(0, tr (some b)), (1, ti a1), (2, ti a2), (3, ti a3)] []) (a1 : Int) (a2 : Int) (a3 : Int) (ha1 : rI a1) (ha2 : rI a2) (ha3 : rI a3) (e : fX6_plainOf_b4 K4 s a1 a2 a3 = some (r)) : AtPc cX6_plainOf RX6 1 21 N [s] h 4 [(0, tr (some b)), (1, ti a1), (2, ti a2), (3, ti a3)] [] := by
  unfold fX6_plainOf_b4 at e
  refine r_rrs E.p (fun rr => ?_)
  refine r_iload_n dX6_plainOf_4 rfl 3 rfl ?_
  refine r_bipush dX6_plainOf_5 (by decide) ?_
  have eT := (r_ifo e).1
  have eF := (r_ifo e).2
  refine r_icmp_ge ha3 (by decide) 103 dX6_plainOf_7 (by decide) (fun c1 => ?_) (fun c1 => ?_)
  · have e := eT c1
    refine r_iload_n dX6_plainOf_103 rfl 2 rfl ?_
    cases e
    exact r_iret E.σ E.st E.rt E.r ha2 dX6_plainOf_104
  · have e := eF c1
    refine r_iload_n dX6_plainOf_10 rfl 1 rfl ?_
    refine r_iload_n dX6_plainOf_11 rfl 3 rfl ?_
    obtain ⟨p2, q3, e⟩ := bd_o e
    have k4 := kX6_isIn (G := nG N) (h := h) ha1 ha3 q3
    have z5 := (k4 rr.none).1.2.2.2
    refine r_callS (j := none) 2 [ti a1, ti a3] k4 (injO_1 E.p) subO_0 getO_0 setO_0 (lw_S q1663 q1664 q123 q1665) (by decide +kernel) rfl (Nat.le_of_ble_eq_true rfl) (Nat.le_of_ble_eq_true rfl) rfl (Nat.le_of_ble_eq_true rfl) dX6_plainOf_12 rfl ?_
    refine r_istore (lv' := [(4, ti p2), (0, tr (some b)), (1, ti a1), (2, ti a2), (3, ti a3)]) dX6_plainOf_15 (E.lt (by decide)) rfl ?_
    refine r_iconst dX6_plainOf_17 ?_
    refine r_istore (lv' := [(5, ti 0), (4, ti p2), (0, tr (some b)), (1, ti a1), (2, ti a2), (3, ti a3)]) dX6_plainOf_18 (E.lt (by decide)) rfl ?_
    refine r_sub [2, 3, 4, 5, 1, 0] rfl ?_
    exact wX6_plainOf_L20 E K4 hK4 FU a1 a2 a3 p2 0 ha1 ha2 ha3 (rI_z z5) (by decide) e
def fX6_plainOf_L4  : Nat → Sg → Int → Int → Int → Option (Int)
  | 0, _, _, _, _ => none
  | n9 + 1, s, a1, a2, a3 => fX6_plainOf_b4 (fX6_plainOf_L4 n9) s a1 a2 a3
theorem wX6_plainOf_L4 {N : Nx} {b : Nat} {ad : Nat → Nat} {s : Sg} {h : hS} {r : Int} (E : EndX N [(6, b, ad)] 6 (some .int) (some (ti r)) [s] h)  : ∀ (n9 : Nat), ∀ (a1 : Int) (a2 : Int) (a3 : Int) (ha1 : rI a1) (ha2 : rI a2) (ha3 : rI a3), fX6_plainOf_L4 n9 s a1 a2 a3 = some (r) → AtPc cX6_plainOf RX6 1 21 N [s] h 4 [(0, tr (some b)), (1, ti a1), (2, ti a2), (3, ti a3)] [] := by
  intro n9
  induction n9 with
  | zero => intro a1 a2 a3 ha1 ha2 ha3 e; cases e
  | succ n9 ih => intro a1 a2 a3 ha1 ha2 ha3 e; exact wX6_plainOf_b4 E _ ih a1 a2 a3 ha1 ha2 ha3 e
def fX6_plainOf  (s : Sg) (a1 : Int) : Option (Int) := fX6_plainOf_L4 FU s a1 0 0
theorem kX6_plainOf {G : Gx}  {b : Nat} {ad : Nat → Nat} {s : Sg} {h : hS} {r : Int} {a1 : Int}  (ha1 : rI a1) (e : fX6_plainOf s a1 = some (r)) : CtX G yX6_plainOf cX6_plainOf 6 (some .int) 1 21 [(6, b, ad)] [s] h [tr (some b), ti a1] (some (ti r)) [s] h := by
  refine CtX.of (by decide) (Nat.le_of_ble_eq_true rfl) [(0, tr (some b)), (1, ti a1)] rfl ?_
  have E : EndX (G, 6, [(6, b, ad)], h, [s], h, (some .int), (some (ti r)), yX6_plainOf.name) [(6, b, ad)] 6 (some .int) (some (ti r)) [s] h := ⟨rfl, rfl, rfl, rfl, rfl, rfl⟩
  unfold fX6_plainOf at e
  refine r_rrs E.p (fun rr => ?_)
  refine r_iconst dX6_plainOf_0 ?_
  refine r_istore_n (lv' := [(2, ti 0), (0, tr (some b)), (1, ti a1)]) dX6_plainOf_1 rfl (E.lt (by decide)) rfl ?_
  refine r_iconst dX6_plainOf_2 ?_
  refine r_istore_n (lv' := [(3, ti 0), (2, ti 0), (0, tr (some b)), (1, ti a1)]) dX6_plainOf_3 rfl (E.lt (by decide)) rfl ?_
  refine r_sub [2, 3, 1, 0] rfl ?_
  exact wX6_plainOf_L4 E FU a1 0 0 ha1 (by decide) (by decide) e
def fX6_goalNow  (s : Sg) (a1 : Int) (a2 : Int) : Option (Int × Sg) := if ¬ a2 = 0 then gd (inb (wr (9 * a1)) 36) (if (gA s 36 (wr (9 * a1))) = 1 then if a2 = 1 then gd (inb (wr (9 * a1)) 36) (some (gA s 40 (wr (9 * a1)), s)) else if a2 = 2 then gd (inb (wr (9 * a1)) 36) (some (gA s 41 (wr (9 * a1)), s)) else if a2 = 3 then bd (fX6_differentGoals s (wr (9 * a1))) fun p9 => some (p9.1, p9.2) else if a2 = 4 then gd (inb (wr (9 * a1)) 36) (some (gA s 42 (wr (9 * a1)), s)) else if a2 = 5 then gd (inb (wr (9 * a1)) 36) (bd (fX6_size (gA s 43 (wr (9 * a1)))) fun p18 => some (p18, s)) else gd (inb (wr (9 * a1)) 36) (bd (fX6_plainOf s (gA s 43 (wr (9 * a1)))) fun p23 => bd (fX6_size p23) fun p27 => some (p27, s)) else some ((-1), s)) else gd (inb (wr (9 * a1)) 36) (some (gA s 36 (wr (9 * a1)), s))
theorem kX6_goalNow {G : Gx}  {b : Nat} {ad : Nat → Nat} {s' : Sg} {h : hS} {r : Int} {s : Sg} {a1 : Int} {a2 : Int}  (ha1 : rI a1) (ha2 : rI a2) (e : fX6_goalNow s a1 a2 = some (r, s')) : CtX G yX6_goalNow cX6_goalNow 4 (some .int) 3 73 [(6, b, ad)] [s] h [tr (some b), ti a1, ti a2] (some (ti r)) [s'] h := by
  refine CtX.of (by decide) (Nat.le_of_ble_eq_true rfl) [(0, tr (some b)), (1, ti a1), (2, ti a2)] rfl ?_
  have E : EndX (G, 4, [(6, b, ad)], h, [s'], h, (some .int), (some (ti r)), yX6_goalNow.name) [(6, b, ad)] 4 (some .int) (some (ti r)) [s'] h := ⟨rfl, rfl, rfl, rfl, rfl, rfl⟩
  unfold fX6_goalNow at e
  refine r_rrs E.p (fun rr => ?_)
  refine r_bipush dX6_goalNow_0 (by decide) ?_
  refine r_iload_n dX6_goalNow_2 rfl 1 rfl ?_
  refine r_imul dX6_goalNow_3 ?_
  refine r_istore_n (lv' := [(3, ti (wr (9 * a1))), (0, tr (some b)), (1, ti a1), (2, ti a2)]) dX6_goalNow_4 rfl (E.lt (by decide)) rfl ?_
  refine r_iload_n dX6_goalNow_5 rfl 3 rfl ?_
  have eT := (r_ifo e).1
  have eF := (r_ifo e).2
  refine r_if_ne ha2 16 dX6_goalNow_6 (by decide) (fun c1 => ?_) (fun c1 => ?_)
  · have e := eT c1
    refine r_aload_n dX6_goalNow_16 rfl 1 rfl ?_
    refine r_sR E.p 36 fG_X6_89 (by decide) dX6_goalNow_17 ?_
    refine r_iload_n dX6_goalNow_20 rfl 0 rfl ?_
    obtain ⟨g2, e⟩ := gd_o e
    refine r_saI E.p 36 rfl (by decide) (by decide) (wr_r _) g2 rfl dX6_goalNow_21 ?_
    refine r_iconst dX6_goalNow_22 ?_
    have eT := (r_ifo e).1
    have eF := (r_ifo e).2
    refine r_icmp_eq (((rr.mine rfl).a 36 (by decide) rfl).1 _) (by decide) 28 dX6_goalNow_23 (by decide) (fun c3 => ?_) (fun c3 => ?_)
    · have e := eT c3
      refine r_iload_n dX6_goalNow_28 rfl 3 rfl ?_
      have eT := (r_ifo e).1
      have eF := (r_ifo e).2
      by_cases c4 : a2 = 1
      · have e := eT c4
        refine r_tswI ha2 dX6_goalNow_29 1 c4 64 (by decide) (by decide) rfl (by decide) ?_
        refine r_aload_n dX6_goalNow_64 rfl 1 rfl ?_
        refine r_sR E.p 40 fG_X6_101 (by decide) dX6_goalNow_65 ?_
        refine r_iload_n dX6_goalNow_68 rfl 0 rfl ?_
        obtain ⟨g5, e⟩ := gd_o e
        refine r_saI E.p 40 rfl (by decide) (by decide) (wr_r _) g5 rfl dX6_goalNow_69 ?_
        cases e
        exact r_iret E.σ E.st E.rt E.r (((rr.mine rfl).a 40 (by decide) rfl).1 _) dX6_goalNow_70
      · have e := eF c4
        have eT := (r_ifo e).1
        have eF := (r_ifo e).2
        by_cases c6 : a2 = 2
        · have e := eT c6
          refine r_tswI ha2 dX6_goalNow_29 2 c6 71 (by decide) (by decide) rfl (by decide) ?_
          refine r_aload_n dX6_goalNow_71 rfl 1 rfl ?_
          refine r_sR E.p 41 fG_X6_104 (by decide) dX6_goalNow_72 ?_
          refine r_iload_n dX6_goalNow_75 rfl 0 rfl ?_
          obtain ⟨g7, e⟩ := gd_o e
          refine r_saI E.p 41 rfl (by decide) (by decide) (wr_r _) g7 rfl dX6_goalNow_76 ?_
          cases e
          exact r_iret E.σ E.st E.rt E.r (((rr.mine rfl).a 41 (by decide) rfl).1 _) dX6_goalNow_77
        · have e := eF c6
          have eT := (r_ifo e).1
          have eF := (r_ifo e).2
          by_cases c8 : a2 = 3
          · have e := eT c8
            refine r_tswI ha2 dX6_goalNow_29 3 c8 78 (by decide) (by decide) rfl (by decide) ?_
            refine r_aload_n dX6_goalNow_78 rfl 1 rfl ?_
            refine r_iload_n dX6_goalNow_79 rfl 0 rfl ?_
            obtain ⟨p9, q10, e⟩ := bd_o e
            have k11 := kX6_differentGoals (G := G) (b := b) (ad := ad) (h := h) (wr_r _) q10
            have z12 := (k11 rr).1.2.2.2
            refine r_callV (j := some 0) 1 [ti (wr (9 * a1))] (rec_sg (j := 0) (r := (RX6, TX6, 63)) rfl (by rw [E.p]; rfl)) rfl k11 (injO_1 E.p) (subO_1 E.p) getO_1 setO_1 (lw_V q1865 q1867 qs96 q123 q1868) (by decide +kernel) rfl (Nat.le_of_ble_eq_true rfl) (Nat.le_of_ble_eq_true rfl) rfl (Nat.le_of_ble_eq_true rfl) dX6_goalNow_80 rfl ?_
            refine r_rrs E.p (fun rr13 => ?_)
            cases e
            exact r_iret E.σ E.st E.rt E.r z12 dX6_goalNow_83
          · have e := eF c8
            have eT := (r_ifo e).1
            have eF := (r_ifo e).2
            by_cases c14 : a2 = 4
            · have e := eT c14
              refine r_tswI ha2 dX6_goalNow_29 4 c14 84 (by decide) (by decide) rfl (by decide) ?_
              refine r_aload_n dX6_goalNow_84 rfl 1 rfl ?_
              refine r_sR E.p 42 fG_X6_107 (by decide) dX6_goalNow_85 ?_
              refine r_iload_n dX6_goalNow_88 rfl 0 rfl ?_
              obtain ⟨g15, e⟩ := gd_o e
              refine r_saI E.p 42 rfl (by decide) (by decide) (wr_r _) g15 rfl dX6_goalNow_89 ?_
              cases e
              exact r_iret E.σ E.st E.rt E.r (((rr.mine rfl).a 42 (by decide) rfl).1 _) dX6_goalNow_90
            · have e := eF c14
              have eT := (r_ifo e).1
              have eF := (r_ifo e).2
              by_cases c16 : a2 = 5
              · have e := eT c16
                refine r_tswI ha2 dX6_goalNow_29 5 c16 91 (by decide) (by decide) rfl (by decide) ?_
                refine r_aload_n dX6_goalNow_91 rfl 1 rfl ?_
                refine r_sR E.p 43 fG_X6_110 (by decide) dX6_goalNow_92 ?_
                refine r_iload_n dX6_goalNow_95 rfl 0 rfl ?_
                obtain ⟨g17, e⟩ := gd_o e
                refine r_saI E.p 43 rfl (by decide) (by decide) (wr_r _) g17 rfl dX6_goalNow_96 ?_
                obtain ⟨p18, q19, e⟩ := bd_o e
                have k20 := kX6_size (G := G) (h := h) (((rr.mine rfl).a 43 (by decide) rfl).1 _) q19
                have z21 := (k20 rr.none).1.2.2.2
                refine r_callS (j := none) 1 [ti (gA s 43 (wr (9 * a1)))] k20 (injO_1 E.p) subO_0 getO_0 setO_0 (lw_S q1738 q1739 q123 q1740) (by decide +kernel) rfl (Nat.le_of_ble_eq_true rfl) (Nat.le_of_ble_eq_true rfl) rfl (Nat.le_of_ble_eq_true rfl) dX6_goalNow_97 rfl ?_
                cases e
                exact r_iret E.σ E.st E.rt E.r z21 dX6_goalNow_100
              · have e := eF c16
                refine r_tswO ha2 dX6_goalNow_29 101 (by omega) (by decide) ?_
                refine r_aload_n dX6_goalNow_101 rfl 1 rfl ?_
                refine r_aload_n dX6_goalNow_102 rfl 1 rfl ?_
                refine r_sR E.p 43 fG_X6_110 (by decide) dX6_goalNow_103 ?_
                refine r_iload_n dX6_goalNow_106 rfl 0 rfl ?_
                obtain ⟨g22, e⟩ := gd_o e
                refine r_saI E.p 43 rfl (by decide) (by decide) (wr_r _) g22 rfl dX6_goalNow_107 ?_
                obtain ⟨p23, q24, e⟩ := bd_o e
                have k25 := kX6_plainOf (G := G) (b := b) (ad := ad) (h := h) (((rr.mine rfl).a 43 (by decide) rfl).1 _) q24
                have z26 := (k25 rr).1.2.2.2
                refine r_callV (j := some 0) 1 [ti (gA s 43 (wr (9 * a1)))] (rec_sg (j := 0) (r := (RX6, TX6, 63)) rfl (by rw [E.p]; rfl)) rfl k25 (injO_1 E.p) (subO_1 E.p) getO_1 setO_1 (lw_V q1877 q1879 qs99 q123 q1880) (by decide +kernel) rfl (Nat.le_of_ble_eq_true rfl) (Nat.le_of_ble_eq_true rfl) rfl (Nat.le_of_ble_eq_true rfl) dX6_goalNow_108 rfl ?_
                obtain ⟨p27, q28, e⟩ := bd_o e
                have k29 := kX6_size (G := G) (h := h) z26 q28
                have z30 := (k29 rr.none).1.2.2.2
                refine r_callS (j := none) 1 [ti p23] k29 (injO_1 E.p) subO_0 getO_0 setO_0 (lw_S q1738 q1739 q123 q1740) (by decide +kernel) rfl (Nat.le_of_ble_eq_true rfl) (Nat.le_of_ble_eq_true rfl) rfl (Nat.le_of_ble_eq_true rfl) dX6_goalNow_111 rfl ?_
                cases e
                exact r_iret E.σ E.st E.rt E.r z30 dX6_goalNow_114
    · have e := eF c3
      refine r_iconst dX6_goalNow_26 ?_
      cases e
      exact r_iret E.σ E.st E.rt E.r (by decide) dX6_goalNow_27
  · have e := eF c1
    refine r_aload_n dX6_goalNow_9 rfl 1 rfl ?_
    refine r_sR E.p 36 fG_X6_89 (by decide) dX6_goalNow_10 ?_
    refine r_iload_n dX6_goalNow_13 rfl 0 rfl ?_
    obtain ⟨g31, e⟩ := gd_o e
    refine r_saI E.p 36 rfl (by decide) (by decide) (wr_r _) g31 rfl dX6_goalNow_14 ?_
    cases e
    exact r_iret E.σ E.st E.rt E.r (((rr.mine rfl).a 36 (by decide) rfl).1 _) dX6_goalNow_15
def fX6_goal_b16 (s : Sg) : Option (Int × Sg) := some ((-101), s)
theorem wX6_goal_b16 {N : Nx} {b : Nat} {ad : Nat → Nat} {s' : Sg} {h : hS} {r : Int} (E : EndX N [(6, b, ad)] 4 (some .int) (some (ti r)) [s'] h)  (s : Sg) (e : fX6_goal_b16 s = some (r, s')) : AtPc cX6_goal RX6 6 146 N [s] h 16 [] [] := by
  unfold fX6_goal_b16 at e
  refine r_rrs E.p (fun rr => ?_)
  refine r_bipush dX6_goal_16 (by decide) ?_
  cases e
  exact r_iret E.σ E.st E.rt E.r (by decide) dX6_goal_18
def fX6_goal  (s : Sg) (a1 : Int) (a2 : Int) (a3 : Int) : Option (Int × Sg) := bd (fX6_isClass s a1) fun p1 => if p1 = 0 then fX6_goal_b16 s else bd (fX6_isFilled s a2) fun p6 => if ¬ p6 = 0 then bd (fX6_within a3 0 6) fun p11 => if ¬ p11 = 0 then bd (fX6_laySlot s a2) fun p16 => bd (fX6_layGoals p16) fun p21 => bd (fX6_goalNow p21 a1 a3) fun p26 => some (p26.1, p26.2) else some ((-102), s) else fX6_goal_b16 s
theorem kX6_goal {G : Gx}  {b : Nat} {ad : Nat → Nat} {s' : Sg} {h : hS} {r : Int} {s : Sg} {a1 : Int} {a2 : Int} {a3 : Int}  (ha1 : rI a1) (ha2 : rI a2) (ha3 : rI a3) (e : fX6_goal s a1 a2 a3 = some (r, s')) : CtX G yX6_goal cX6_goal 4 (some .int) 6 146 [(6, b, ad)] [s] h [tr (some b), ti a1, ti a2, ti a3] (some (ti r)) [s'] h := by
  refine CtX.of (by decide) (Nat.le_of_ble_eq_true rfl) [(0, tr (some b)), (1, ti a1), (2, ti a2), (3, ti a3)] rfl ?_
  have E : EndX (G, 4, [(6, b, ad)], h, [s'], h, (some .int), (some (ti r)), yX6_goal.name) [(6, b, ad)] 4 (some .int) (some (ti r)) [s'] h := ⟨rfl, rfl, rfl, rfl, rfl, rfl⟩
  unfold fX6_goal at e
  refine r_rrs E.p (fun rr => ?_)
  refine r_aload_n dX6_goal_0 rfl 0 rfl ?_
  refine r_iload_n dX6_goal_1 rfl 1 rfl ?_
  obtain ⟨p1, q2, e⟩ := bd_o e
  have k3 := kX6_isClass (G := G) (b := b) (ad := ad) (h := h) ha1 q2
  have z4 := (k3 rr).1.2.2.2
  refine r_callV (j := some 0) 1 [ti a1] (rec_sg (j := 0) (r := (RX6, TX6, 63)) rfl (by rw [E.p]; rfl)) rfl k3 (injO_1 E.p) (subO_1 E.p) getO_1 setO_1 (lw_V q1698 q1700 qs62 q123 q1701) (by decide +kernel) rfl (Nat.le_of_ble_eq_true rfl) (Nat.le_of_ble_eq_true rfl) rfl (Nat.le_of_ble_eq_true rfl) dX6_goal_2 rfl ?_
  have eT := (r_ifo e).1
  have eF := (r_ifo e).2
  refine r_if_eq (rI_z z4) 16 dX6_goal_5 (by decide) (fun c5 => ?_) (fun c5 => ?_)
  · have e := eT c5
    refine r_sub [] rfl ?_
    exact wX6_goal_b16 E s e
  · have e := eF c5
    refine r_aload_n dX6_goal_8 rfl 0 rfl ?_
    refine r_iload_n dX6_goal_9 rfl 2 rfl ?_
    obtain ⟨p6, q7, e⟩ := bd_o e
    have k8 := kX6_isFilled (G := G) (b := b) (ad := ad) (h := h) ha2 q7
    have z9 := (k8 rr).1.2.2.2
    refine r_callV (j := some 0) 1 [ti a2] (rec_sg (j := 0) (r := (RX6, TX6, 63)) rfl (by rw [E.p]; rfl)) rfl k8 (injO_1 E.p) (subO_1 E.p) getO_1 setO_1 (lw_V q1849 q1851 qs93 q123 q1852) (by decide +kernel) rfl (Nat.le_of_ble_eq_true rfl) (Nat.le_of_ble_eq_true rfl) rfl (Nat.le_of_ble_eq_true rfl) dX6_goal_10 rfl ?_
    have eT := (r_ifo e).1
    have eF := (r_ifo e).2
    refine r_if_ne (rI_z z9) 19 dX6_goal_13 (by decide) (fun c10 => ?_) (fun c10 => ?_)
    · have e := eT c10
      refine r_iload_n dX6_goal_19 rfl 3 rfl ?_
      refine r_iconst dX6_goal_20 ?_
      refine r_bipush dX6_goal_21 (by decide) ?_
      obtain ⟨p11, q12, e⟩ := bd_o e
      have k13 := kX6_within (G := G) (h := h) ha3 (by decide) (by decide) q12
      have z14 := (k13 rr.none).1.2.2.2
      refine r_callS (j := none) 3 [ti a3, ti 0, ti 6] k13 (injO_1 E.p) subO_0 getO_0 setO_0 (lw_S q1599 q1600 q123 q1601) (by decide +kernel) rfl (Nat.le_of_ble_eq_true rfl) (Nat.le_of_ble_eq_true rfl) rfl (Nat.le_of_ble_eq_true rfl) dX6_goal_23 rfl ?_
      have eT := (r_ifo e).1
      have eF := (r_ifo e).2
      refine r_if_ne (rI_z z14) 32 dX6_goal_26 (by decide) (fun c15 => ?_) (fun c15 => ?_)
      · have e := eT c15
        refine r_aload_n dX6_goal_32 rfl 0 rfl ?_
        refine r_iload_n dX6_goal_33 rfl 2 rfl ?_
        obtain ⟨p16, q17, e⟩ := bd_o e
        have k18 := kX6_laySlot (G := G) (b := b) (ad := ad) (h := h) ha2 q17
        have z19 := (k18 rr).1.2.2.2
        refine r_callV (j := some 0) 1 [ti a2] (rec_sg (j := 0) (r := (RX6, TX6, 63)) rfl (by rw [E.p]; rfl)) rfl k18 (injO_1 E.p) (subO_1 E.p) getO_1 setO_1 (lw_V q1853 q1855 qs94 q123 q1856) (by decide +kernel) rfl (Nat.le_of_ble_eq_true rfl) (Nat.le_of_ble_eq_true rfl) rfl (Nat.le_of_ble_eq_true rfl) dX6_goal_34 rfl ?_
        refine r_rrs E.p (fun rr20 => ?_)
        refine r_aload_n dX6_goal_37 rfl 0 rfl ?_
        obtain ⟨p21, q22, e⟩ := bd_o e
        have k23 := kX6_layGoals (G := G) (b := b) (ad := ad) (h := h)  q22
        have z24 := (k23 rr20).1.2.2.2
        refine r_callV (j := some 0) 0 [] (rec_sg (j := 0) (r := (RX6, TX6, 63)) rfl (by rw [E.p]; rfl)) rfl k23 (injO_1 E.p) (subO_1 E.p) getO_1 setO_1 (lw_V q1745 q1747 qs71 q123 q1748) (by decide +kernel) rfl (Nat.le_of_ble_eq_true rfl) (Nat.le_of_ble_eq_true rfl) rfl (Nat.le_of_ble_eq_true rfl) dX6_goal_38 rfl ?_
        refine r_rrs E.p (fun rr25 => ?_)
        refine r_aload_n dX6_goal_41 rfl 0 rfl ?_
        refine r_iload_n dX6_goal_42 rfl 1 rfl ?_
        refine r_iload_n dX6_goal_43 rfl 3 rfl ?_
        obtain ⟨p26, q27, e⟩ := bd_o e
        have k28 := kX6_goalNow (G := G) (b := b) (ad := ad) (h := h) ha1 ha3 q27
        have z29 := (k28 rr25).1.2.2.2
        refine r_callV (j := some 0) 2 [ti a1, ti a3] (rec_sg (j := 0) (r := (RX6, TX6, 63)) rfl (by rw [E.p]; rfl)) rfl k28 (injO_1 E.p) (subO_1 E.p) getO_1 setO_1 (lw_V q1861 q1863 qs95 q123 q1864) (by decide +kernel) rfl (Nat.le_of_ble_eq_true rfl) (Nat.le_of_ble_eq_true rfl) rfl (Nat.le_of_ble_eq_true rfl) dX6_goal_44 rfl ?_
        refine r_rrs E.p (fun rr30 => ?_)
        cases e
        exact r_iret E.σ E.st E.rt E.r z29 dX6_goal_47
      · have e := eF c15
        refine r_bipush dX6_goal_29 (by decide) ?_
        cases e
        exact r_iret E.σ E.st E.rt E.r (by decide) dX6_goal_31
    · have e := eF c10
      refine r_sub [] rfl ?_
      exact wX6_goal_b16 E s e
def fX6_entryAt_b76 (K5 : Sg → Int → Int → Option (Int)) (s : Sg) (a4 : Int) (k0 : Int) : Option (Int) := K5 s k0 a4
theorem wX6_entryAt_b76 {N : Nx} {b : Nat} {ad : Nat → Nat} {s : Sg} {h : hS} {r : Int} (E : EndX N [(6, b, ad)] 7 (some .int) (some (ti r)) [s] h) (K5 : Sg → Int → Int → Option (Int)) (hK5 : ∀ (a3 : Int) (a4 : Int) (ha3 : rI a3) (ha4 : rI a4), K5 s a3 a4 = some (r) → AtPc cX6_entryAt RX6 0 0 N [s] h 5 [(0, tr (some b)), (3, ti a3), (4, ti a4)] []) (a4 : Int) (k0 : Int) (ha4 : rI a4) (hk0 : rI k0) (e : fX6_entryAt_b76 K5 s a4 k0 = some (r)) : AtPc cX6_entryAt RX6 0 0 N [s] h 76 [(0, tr (some b)), (4, ti a4)] [ti k0] := by
  unfold fX6_entryAt_b76 at e
  refine r_rrs E.p (fun rr => ?_)
  refine r_istore_n (lv' := [(3, ti k0), (0, tr (some b)), (4, ti a4)]) dX6_entryAt_76 rfl (E.lt (by decide)) rfl ?_
  refine r_goto 5 dX6_entryAt_77 (by decide) ?_
  refine r_sub [1, 0, 2] rfl ?_
  exact hK5 k0 a4 hk0 ha4 e
def fX6_entryAt_b53 (K5 : Sg → Int → Int → Option (Int)) (s : Sg) (a3 : Int) (a6 : Int) (k0 : Int) (k1 : Int) : Option (Int) := if a6 = 0 then gd (inb a3 36) (fX6_entryAt_b76 K5 s (wr (k0 - k1)) (gA s 39 a3)) else gd (inb a3 36) (fX6_entryAt_b76 K5 s (wr (k0 - k1)) (gA s 38 a3))
theorem wX6_entryAt_b53 {N : Nx} {b : Nat} {ad : Nat → Nat} {s : Sg} {h : hS} {r : Int} (E : EndX N [(6, b, ad)] 7 (some .int) (some (ti r)) [s] h) (K5 : Sg → Int → Int → Option (Int)) (hK5 : ∀ (a3 : Int) (a4 : Int) (ha3 : rI a3) (ha4 : rI a4), K5 s a3 a4 = some (r) → AtPc cX6_entryAt RX6 0 0 N [s] h 5 [(0, tr (some b)), (3, ti a3), (4, ti a4)] []) (a3 : Int) (a6 : Int) (k0 : Int) (k1 : Int) (ha3 : rI a3) (ha6 : rI a6) (hk0 : rI k0) (hk1 : rI k1) (e : fX6_entryAt_b53 K5 s a3 a6 k0 k1 = some (r)) : AtPc cX6_entryAt RX6 0 0 N [s] h 53 [(0, tr (some b)), (3, ti a3), (6, ti a6)] [ti k1, ti k0] := by
  unfold fX6_entryAt_b53 at e
  refine r_rrs E.p (fun rr => ?_)
  refine r_isub dX6_entryAt_53 ?_
  refine r_istore (lv' := [(4, ti (wr (k0 - k1))), (0, tr (some b)), (3, ti a3), (6, ti a6)]) dX6_entryAt_54 (E.lt (by decide)) rfl ?_
  refine r_iload dX6_entryAt_56 3 rfl ?_
  have eT := (r_ifo e).1
  have eF := (r_ifo e).2
  refine r_if_eq ha6 70 dX6_entryAt_58 (by decide) (fun c1 => ?_) (fun c1 => ?_)
  · have e := eT c1
    refine r_aload_n dX6_entryAt_70 rfl 1 rfl ?_
    refine r_sR E.p 39 fG_X6_98 (by decide) dX6_entryAt_71 ?_
    refine r_iload_n dX6_entryAt_74 rfl 2 rfl ?_
    obtain ⟨g2, e⟩ := gd_o e
    refine r_saI E.p 39 rfl (by decide) (by decide) ha3 g2 rfl dX6_entryAt_75 ?_
    refine r_sub [1, 0] rfl ?_
    exact wX6_entryAt_b76 E K5 hK5 (wr (k0 - k1)) (gA s 39 a3) (wr_r _) (((rr.mine rfl).a 39 (by decide) rfl).1 _) e
  · have e := eF c1
    refine r_aload_n dX6_entryAt_61 rfl 1 rfl ?_
    refine r_sR E.p 38 fG_X6_95 (by decide) dX6_entryAt_62 ?_
    refine r_iload_n dX6_entryAt_65 rfl 2 rfl ?_
    obtain ⟨g3, e⟩ := gd_o e
    refine r_saI E.p 38 rfl (by decide) (by decide) ha3 g3 rfl dX6_entryAt_66 ?_
    refine r_goto 76 dX6_entryAt_67 (by decide) ?_
    refine r_sub [1, 0] rfl ?_
    exact wX6_entryAt_b76 E K5 hK5 (wr (k0 - k1)) (gA s 38 a3) (wr_r _) (((rr.mine rfl).a 38 (by decide) rfl).1 _) e
def fX6_entryAt_b38 (K5 : Sg → Int → Int → Option (Int)) (s : Sg) (a3 : Int) (a4 : Int) (a5 : Int) (k0 : Int) : Option (Int) := if k0 = 0 then fX6_entryAt_b53 K5 s a3 k0 a4 a5 else fX6_entryAt_b53 K5 s a3 k0 a4 0
theorem wX6_entryAt_b38 {N : Nx} {b : Nat} {ad : Nat → Nat} {s : Sg} {h : hS} {r : Int} (E : EndX N [(6, b, ad)] 7 (some .int) (some (ti r)) [s] h) (K5 : Sg → Int → Int → Option (Int)) (hK5 : ∀ (a3 : Int) (a4 : Int) (ha3 : rI a3) (ha4 : rI a4), K5 s a3 a4 = some (r) → AtPc cX6_entryAt RX6 0 0 N [s] h 5 [(0, tr (some b)), (3, ti a3), (4, ti a4)] []) (a3 : Int) (a4 : Int) (a5 : Int) (k0 : Int) (ha3 : rI a3) (ha4 : rI a4) (ha5 : rI a5) (hk0 : rI k0) (e : fX6_entryAt_b38 K5 s a3 a4 a5 k0 = some (r)) : AtPc cX6_entryAt RX6 0 0 N [s] h 38 [(0, tr (some b)), (3, ti a3), (4, ti a4), (5, ti a5)] [ti k0] := by
  unfold fX6_entryAt_b38 at e
  refine r_rrs E.p (fun rr => ?_)
  refine r_istore (lv' := [(6, ti k0), (0, tr (some b)), (3, ti a3), (4, ti a4), (5, ti a5)]) dX6_entryAt_38 (E.lt (by decide)) rfl ?_
  refine r_iload dX6_entryAt_40 3 rfl ?_
  refine r_iload dX6_entryAt_42 0 rfl ?_
  have eT := (r_ifo e).1
  have eF := (r_ifo e).2
  refine r_if_eq hk0 51 dX6_entryAt_44 (by decide) (fun c1 => ?_) (fun c1 => ?_)
  · have e := eT c1
    refine r_iload dX6_entryAt_51 4 rfl ?_
    refine r_sub [1, 2, 0] rfl ?_
    exact wX6_entryAt_b53 E K5 hK5 a3 k0 a4 a5 ha3 hk0 ha4 ha5 e
  · have e := eF c1
    refine r_iconst dX6_entryAt_47 ?_
    refine r_goto 53 dX6_entryAt_48 (by decide) ?_
    refine r_sub [1, 2, 0] rfl ?_
    exact wX6_entryAt_b53 E K5 hK5 a3 k0 a4 0 ha3 hk0 ha4 (by decide) e
def fX6_entryAt_b105 (s : Sg) (k0 : Int) : Option (Int) := some k0
theorem wX6_entryAt_b105 {N : Nx} {b : Nat} {ad : Nat → Nat} {s : Sg} {h : hS} {r : Int} (E : EndX N [(6, b, ad)] 7 (some .int) (some (ti r)) [s] h)  (k0 : Int) (hk0 : rI k0) (e : fX6_entryAt_b105 s k0 = some (r)) : AtPc cX6_entryAt RX6 0 0 N [s] h 105 [] [ti k0] := by
  unfold fX6_entryAt_b105 at e
  refine r_rrs E.p (fun rr => ?_)
  cases e
  exact r_iret E.σ E.st E.rt E.r hk0 dX6_entryAt_105
def fX6_entryAt_b5 (K5 : Sg → Int → Int → Option (Int)) (s : Sg) (a3 : Int) (a4 : Int) : Option (Int) := if a4 ≤ 0 then gd (inb a3 36) (if ¬ (gA s 37 a3) = (-1) then gd (inb a3 36) (fX6_entryAt_b105 s (gA s 37 a3)) else gd (inb a3 36) (fX6_entryAt_b105 s (gA s 41 a3))) else gd (inb a3 36) (gd (inb (gA s 38 a3) 36) (if (gA s 40 (gA s 38 a3)) ≤ (wr (a4 + (-1))) then fX6_entryAt_b38 K5 s a3 (wr (a4 + (-1))) (gA s 40 (gA s 38 a3)) 0 else fX6_entryAt_b38 K5 s a3 (wr (a4 + (-1))) (gA s 40 (gA s 38 a3)) 1))
theorem wX6_entryAt_b5 {N : Nx} {b : Nat} {ad : Nat → Nat} {s : Sg} {h : hS} {r : Int} (E : EndX N [(6, b, ad)] 7 (some .int) (some (ti r)) [s] h) (K5 : Sg → Int → Int → Option (Int)) (hK5 : ∀ (a3 : Int) (a4 : Int) (ha3 : rI a3) (ha4 : rI a4), K5 s a3 a4 = some (r) → AtPc cX6_entryAt RX6 0 0 N [s] h 5 [(0, tr (some b)), (3, ti a3), (4, ti a4)] []) (a3 : Int) (a4 : Int) (ha3 : rI a3) (ha4 : rI a4) (e : fX6_entryAt_b5 K5 s a3 a4 = some (r)) : AtPc cX6_entryAt RX6 0 0 N [s] h 5 [(0, tr (some b)), (3, ti a3), (4, ti a4)] [] := by
  unfold fX6_entryAt_b5 at e
  refine r_rrs E.p (fun rr => ?_)
  refine r_iload dX6_entryAt_5 2 rfl ?_
  have eT := (r_ifo e).1
  have eF := (r_ifo e).2
  refine r_if_le ha4 80 dX6_entryAt_7 (by decide) (fun c1 => ?_) (fun c1 => ?_)
  · have e := eT c1
    refine r_aload_n dX6_entryAt_80 rfl 0 rfl ?_
    refine r_sR E.p 37 fG_X6_92 (by decide) dX6_entryAt_81 ?_
    refine r_iload_n dX6_entryAt_84 rfl 1 rfl ?_
    obtain ⟨g2, e⟩ := gd_o e
    refine r_saI E.p 37 rfl (by decide) (by decide) ha3 g2 rfl dX6_entryAt_85 ?_
    refine r_iconst dX6_entryAt_86 ?_
    have eT := (r_ifo e).1
    have eF := (r_ifo e).2
    refine r_icmp_ne (((rr.mine rfl).a 37 (by decide) rfl).1 _) (by decide) 99 dX6_entryAt_87 (by decide) (fun c3 => ?_) (fun c3 => ?_)
    · have e := eT c3
      refine r_aload_n dX6_entryAt_99 rfl 0 rfl ?_
      refine r_sR E.p 37 fG_X6_92 (by decide) dX6_entryAt_100 ?_
      refine r_iload_n dX6_entryAt_103 rfl 1 rfl ?_
      obtain ⟨g4, e⟩ := gd_o e
      refine r_saI E.p 37 rfl (by decide) (by decide) ha3 g4 rfl dX6_entryAt_104 ?_
      refine r_sub [] rfl ?_
      exact wX6_entryAt_b105 E (gA s 37 a3) (((rr.mine rfl).a 37 (by decide) rfl).1 _) e
    · have e := eF c3
      refine r_aload_n dX6_entryAt_90 rfl 0 rfl ?_
      refine r_sR E.p 41 fG_X6_104 (by decide) dX6_entryAt_91 ?_
      refine r_iload_n dX6_entryAt_94 rfl 1 rfl ?_
      obtain ⟨g5, e⟩ := gd_o e
      refine r_saI E.p 41 rfl (by decide) (by decide) ha3 g5 rfl dX6_entryAt_95 ?_
      refine r_goto 105 dX6_entryAt_96 (by decide) ?_
      refine r_sub [] rfl ?_
      exact wX6_entryAt_b105 E (gA s 41 a3) (((rr.mine rfl).a 41 (by decide) rfl).1 _) e
  · have e := eF c1
    refine r_iinc (lv' := [(4, ti (wr (a4 + (-1)))), (0, tr (some b)), (3, ti a3)]) dX6_entryAt_10 2 rfl (E.lt (by decide)) rfl ?_
    refine r_aload_n dX6_entryAt_13 rfl 1 rfl ?_
    refine r_sR E.p 40 fG_X6_101 (by decide) dX6_entryAt_14 ?_
    refine r_aload_n dX6_entryAt_17 rfl 1 rfl ?_
    refine r_sR E.p 38 fG_X6_95 (by decide) dX6_entryAt_18 ?_
    refine r_iload_n dX6_entryAt_21 rfl 2 rfl ?_
    obtain ⟨g6, e⟩ := gd_o e
    refine r_saI E.p 38 rfl (by decide) (by decide) ha3 g6 rfl dX6_entryAt_22 ?_
    obtain ⟨g7, e⟩ := gd_o e
    refine r_saI E.p 40 rfl (by decide) (by decide) (((rr.mine rfl).a 38 (by decide) rfl).1 _) g7 rfl dX6_entryAt_23 ?_
    refine r_istore (lv' := [(5, ti (gA s 40 (gA s 38 a3))), (4, ti (wr (a4 + (-1)))), (0, tr (some b)), (3, ti a3)]) dX6_entryAt_24 (E.lt (by decide)) rfl ?_
    refine r_iload dX6_entryAt_26 1 rfl ?_
    refine r_iload dX6_entryAt_28 0 rfl ?_
    have eT := (r_ifo e).1
    have eF := (r_ifo e).2
    refine r_icmp_ge (wr_r _) (((rr.mine rfl).a 40 (by decide) rfl).1 _) 37 dX6_entryAt_30 (by decide) (fun c8 => ?_) (fun c8 => ?_)
    · have e := eT c8
      refine r_iconst dX6_entryAt_37 ?_
      refine r_sub [2, 3, 1, 0] rfl ?_
      exact wX6_entryAt_b38 E K5 hK5 a3 (wr (a4 + (-1))) (gA s 40 (gA s 38 a3)) 0 ha3 (wr_r _) (((rr.mine rfl).a 40 (by decide) rfl).1 _) (by decide) e
    · have e := eF c8
      refine r_iconst dX6_entryAt_33 ?_
      refine r_goto 38 dX6_entryAt_34 (by decide) ?_
      refine r_sub [2, 3, 1, 0] rfl ?_
      exact wX6_entryAt_b38 E K5 hK5 a3 (wr (a4 + (-1))) (gA s 40 (gA s 38 a3)) 1 ha3 (wr_r _) (((rr.mine rfl).a 40 (by decide) rfl).1 _) (by decide) e
def fX6_entryAt_L5  : Nat → Sg → Int → Int → Option (Int)
  | 0, _, _, _ => none
  | n9 + 1, s, a3, a4 => fX6_entryAt_b5 (fX6_entryAt_L5 n9) s a3 a4
theorem wX6_entryAt_L5 {N : Nx} {b : Nat} {ad : Nat → Nat} {s : Sg} {h : hS} {r : Int} (E : EndX N [(6, b, ad)] 7 (some .int) (some (ti r)) [s] h)  : ∀ (n9 : Nat), ∀ (a3 : Int) (a4 : Int) (ha3 : rI a3) (ha4 : rI a4), fX6_entryAt_L5 n9 s a3 a4 = some (r) → AtPc cX6_entryAt RX6 0 0 N [s] h 5 [(0, tr (some b)), (3, ti a3), (4, ti a4)] [] := by
  intro n9
  induction n9 with
  | zero => intro a3 a4 ha3 ha4 e; cases e
  | succ n9 ih => intro a3 a4 ha3 ha4 e; exact wX6_entryAt_b5 E _ ih a3 a4 ha3 ha4 e
def fX6_entryAt  (s : Sg) (a1 : Int) (a2 : Int) : Option (Int) := fX6_entryAt_L5 FU s a1 a2
theorem kX6_entryAt {G : Gx}  {b : Nat} {ad : Nat → Nat} {s : Sg} {h : hS} {r : Int} {a1 : Int} {a2 : Int}  (ha1 : rI a1) (ha2 : rI a2) (e : fX6_entryAt s a1 a2 = some (r)) : CtX G yX6_entryAt cX6_entryAt 7 (some .int) 0 0 [(6, b, ad)] [s] h [tr (some b), ti a1, ti a2] (some (ti r)) [s] h := by
  refine CtX.of (by decide) (Nat.le_of_ble_eq_true rfl) [(0, tr (some b)), (1, ti a1), (2, ti a2)] rfl ?_
  have E : EndX (G, 7, [(6, b, ad)], h, [s], h, (some .int), (some (ti r)), yX6_entryAt.name) [(6, b, ad)] 7 (some .int) (some (ti r)) [s] h := ⟨rfl, rfl, rfl, rfl, rfl, rfl⟩
  unfold fX6_entryAt at e
  refine r_rrs E.p (fun rr => ?_)
  refine r_iload_n dX6_entryAt_0 rfl 1 rfl ?_
  refine r_istore_n (lv' := [(3, ti a1), (0, tr (some b)), (1, ti a1), (2, ti a2)]) dX6_entryAt_1 rfl (E.lt (by decide)) rfl ?_
  refine r_iload_n dX6_entryAt_2 rfl 3 rfl ?_
  refine r_istore (lv' := [(4, ti a2), (3, ti a1), (0, tr (some b)), (1, ti a1), (2, ti a2)]) dX6_entryAt_3 (E.lt (by decide)) rfl ?_
  refine r_sub [2, 1, 0] rfl ?_
  exact wX6_entryAt_L5 E FU a1 a2 ha1 ha2 e
def fX6_entry_b16 (s : Sg) : Option (Int × Sg) := some ((-101), s)
theorem wX6_entry_b16 {N : Nx} {b : Nat} {ad : Nat → Nat} {s' : Sg} {h : hS} {r : Int} (E : EndX N [(6, b, ad)] 5 (some .int) (some (ti r)) [s'] h)  (s : Sg) (e : fX6_entry_b16 s = some (r, s')) : AtPc cX6_entry RX6 6 146 N [s] h 16 [] [] := by
  unfold fX6_entry_b16 at e
  refine r_rrs E.p (fun rr => ?_)
  refine r_bipush dX6_entry_16 (by decide) ?_
  cases e
  exact r_iret E.σ E.st E.rt E.r (by decide) dX6_entry_18
def fX6_entry_b74 (s : Sg) (k0 : Int) : Option (Int × Sg) := some (k0, s)
theorem wX6_entry_b74 {N : Nx} {b : Nat} {ad : Nat → Nat} {s' : Sg} {h : hS} {r : Int} (E : EndX N [(6, b, ad)] 5 (some .int) (some (ti r)) [s'] h)  (s : Sg) (k0 : Int) (hk0 : rI k0) (e : fX6_entry_b74 s k0 = some (r, s')) : AtPc cX6_entry RX6 6 146 N [s] h 74 [] [ti k0] := by
  unfold fX6_entry_b74 at e
  refine r_rrs E.p (fun rr => ?_)
  cases e
  exact r_iret E.σ E.st E.rt E.r hk0 dX6_entry_74
def fX6_entry_b72 (s : Sg) : Option (Int × Sg) := fX6_entry_b74 s (-101)
theorem wX6_entry_b72 {N : Nx} {b : Nat} {ad : Nat → Nat} {s' : Sg} {h : hS} {r : Int} (E : EndX N [(6, b, ad)] 5 (some .int) (some (ti r)) [s'] h)  (s : Sg) (e : fX6_entry_b72 s = some (r, s')) : AtPc cX6_entry RX6 6 146 N [s] h 72 [] [] := by
  unfold fX6_entry_b72 at e
  refine r_rrs E.p (fun rr => ?_)
  refine r_bipush dX6_entry_72 (by decide) ?_
  exact wX6_entry_b74 E s (-101) (by decide) e
def fX6_entry  (s : Sg) (a1 : Int) (a2 : Int) (a3 : Int) : Option (Int × Sg) := bd (fX6_isClass s a1) fun p1 => if p1 = 0 then fX6_entry_b16 s else bd (fX6_isFilled s a2) fun p6 => if ¬ p6 = 0 then bd (fX6_laySlot s a2) fun p11 => bd (fX6_layGoals p11) fun p16 => gd (inb (wr (9 * a1)) 36) (if ¬ (gA p16 36 (wr (9 * a1))) = 1 then fX6_entry_b72 p16 else gd (inb (wr (9 * a1)) 36) (bd (fX6_within a3 0 (wr ((gA p16 40 (wr (9 * a1))) - 1))) fun p24 => if p24 = 0 then fX6_entry_b72 p16 else bd (fX6_entryAt p16 (wr (9 * a1)) a3) fun p29 => fX6_entry_b74 p16 p29)) else fX6_entry_b16 s
theorem kX6_entry {G : Gx}  {b : Nat} {ad : Nat → Nat} {s' : Sg} {h : hS} {r : Int} {s : Sg} {a1 : Int} {a2 : Int} {a3 : Int}  (ha1 : rI a1) (ha2 : rI a2) (ha3 : rI a3) (e : fX6_entry s a1 a2 a3 = some (r, s')) : CtX G yX6_entry cX6_entry 5 (some .int) 6 146 [(6, b, ad)] [s] h [tr (some b), ti a1, ti a2, ti a3] (some (ti r)) [s'] h := by
  refine CtX.of (by decide) (Nat.le_of_ble_eq_true rfl) [(0, tr (some b)), (1, ti a1), (2, ti a2), (3, ti a3)] rfl ?_
  have E : EndX (G, 5, [(6, b, ad)], h, [s'], h, (some .int), (some (ti r)), yX6_entry.name) [(6, b, ad)] 5 (some .int) (some (ti r)) [s'] h := ⟨rfl, rfl, rfl, rfl, rfl, rfl⟩
  unfold fX6_entry at e
  refine r_rrs E.p (fun rr => ?_)
  refine r_aload_n dX6_entry_0 rfl 0 rfl ?_
  refine r_iload_n dX6_entry_1 rfl 1 rfl ?_
  obtain ⟨p1, q2, e⟩ := bd_o e
  have k3 := kX6_isClass (G := G) (b := b) (ad := ad) (h := h) ha1 q2
  have z4 := (k3 rr).1.2.2.2
  refine r_callV (j := some 0) 1 [ti a1] (rec_sg (j := 0) (r := (RX6, TX6, 63)) rfl (by rw [E.p]; rfl)) rfl k3 (injO_1 E.p) (subO_1 E.p) getO_1 setO_1 (lw_V q1698 q1700 qs62 q123 q1701) (by decide +kernel) rfl (Nat.le_of_ble_eq_true rfl) (Nat.le_of_ble_eq_true rfl) rfl (Nat.le_of_ble_eq_true rfl) dX6_entry_2 rfl ?_
  have eT := (r_ifo e).1
  have eF := (r_ifo e).2
  refine r_if_eq (rI_z z4) 16 dX6_entry_5 (by decide) (fun c5 => ?_) (fun c5 => ?_)
  · have e := eT c5
    refine r_sub [] rfl ?_
    exact wX6_entry_b16 E s e
  · have e := eF c5
    refine r_aload_n dX6_entry_8 rfl 0 rfl ?_
    refine r_iload_n dX6_entry_9 rfl 2 rfl ?_
    obtain ⟨p6, q7, e⟩ := bd_o e
    have k8 := kX6_isFilled (G := G) (b := b) (ad := ad) (h := h) ha2 q7
    have z9 := (k8 rr).1.2.2.2
    refine r_callV (j := some 0) 1 [ti a2] (rec_sg (j := 0) (r := (RX6, TX6, 63)) rfl (by rw [E.p]; rfl)) rfl k8 (injO_1 E.p) (subO_1 E.p) getO_1 setO_1 (lw_V q1849 q1851 qs93 q123 q1852) (by decide +kernel) rfl (Nat.le_of_ble_eq_true rfl) (Nat.le_of_ble_eq_true rfl) rfl (Nat.le_of_ble_eq_true rfl) dX6_entry_10 rfl ?_
    have eT := (r_ifo e).1
    have eF := (r_ifo e).2
    refine r_if_ne (rI_z z9) 19 dX6_entry_13 (by decide) (fun c10 => ?_) (fun c10 => ?_)
    · have e := eT c10
      refine r_aload_n dX6_entry_19 rfl 0 rfl ?_
      refine r_iload_n dX6_entry_20 rfl 2 rfl ?_
      obtain ⟨p11, q12, e⟩ := bd_o e
      have k13 := kX6_laySlot (G := G) (b := b) (ad := ad) (h := h) ha2 q12
      have z14 := (k13 rr).1.2.2.2
      refine r_callV (j := some 0) 1 [ti a2] (rec_sg (j := 0) (r := (RX6, TX6, 63)) rfl (by rw [E.p]; rfl)) rfl k13 (injO_1 E.p) (subO_1 E.p) getO_1 setO_1 (lw_V q1853 q1855 qs94 q123 q1856) (by decide +kernel) rfl (Nat.le_of_ble_eq_true rfl) (Nat.le_of_ble_eq_true rfl) rfl (Nat.le_of_ble_eq_true rfl) dX6_entry_21 rfl ?_
      refine r_rrs E.p (fun rr15 => ?_)
      refine r_aload_n dX6_entry_24 rfl 0 rfl ?_
      obtain ⟨p16, q17, e⟩ := bd_o e
      have k18 := kX6_layGoals (G := G) (b := b) (ad := ad) (h := h)  q17
      have z19 := (k18 rr15).1.2.2.2
      refine r_callV (j := some 0) 0 [] (rec_sg (j := 0) (r := (RX6, TX6, 63)) rfl (by rw [E.p]; rfl)) rfl k18 (injO_1 E.p) (subO_1 E.p) getO_1 setO_1 (lw_V q1745 q1747 qs71 q123 q1748) (by decide +kernel) rfl (Nat.le_of_ble_eq_true rfl) (Nat.le_of_ble_eq_true rfl) rfl (Nat.le_of_ble_eq_true rfl) dX6_entry_25 rfl ?_
      refine r_rrs E.p (fun rr20 => ?_)
      refine r_bipush dX6_entry_28 (by decide) ?_
      refine r_iload_n dX6_entry_30 rfl 1 rfl ?_
      refine r_imul dX6_entry_31 ?_
      refine r_istore (lv' := [(4, ti (wr (9 * a1))), (0, tr (some b)), (1, ti a1), (2, ti a2), (3, ti a3)]) dX6_entry_32 (E.lt (by decide)) rfl ?_
      refine r_aload_n dX6_entry_34 rfl 1 rfl ?_
      refine r_sR E.p 36 fG_X6_89 (by decide) dX6_entry_35 ?_
      refine r_iload dX6_entry_38 0 rfl ?_
      obtain ⟨g21, e⟩ := gd_o e
      refine r_saI E.p 36 rfl (by decide) (by decide) (wr_r _) g21 rfl dX6_entry_40 ?_
      refine r_iconst dX6_entry_41 ?_
      have eT := (r_ifo e).1
      have eF := (r_ifo e).2
      refine r_icmp_ne (((rr20.mine rfl).a 36 (by decide) rfl).1 _) (by decide) 72 dX6_entry_42 (by decide) (fun c22 => ?_) (fun c22 => ?_)
      · have e := eT c22
        refine r_sub [] rfl ?_
        exact wX6_entry_b72 E p16 e
      · have e := eF c22
        refine r_iload_n dX6_entry_45 rfl 4 rfl ?_
        refine r_iconst dX6_entry_46 ?_
        refine r_aload_n dX6_entry_47 rfl 1 rfl ?_
        refine r_sR E.p 40 fG_X6_101 (by decide) dX6_entry_48 ?_
        refine r_iload dX6_entry_51 0 rfl ?_
        obtain ⟨g23, e⟩ := gd_o e
        refine r_saI E.p 40 rfl (by decide) (by decide) (wr_r _) g23 rfl dX6_entry_53 ?_
        refine r_iconst dX6_entry_54 ?_
        refine r_isub dX6_entry_55 ?_
        obtain ⟨p24, q25, e⟩ := bd_o e
        have k26 := kX6_within (G := G) (h := h) ha3 (by decide) (wr_r _) q25
        have z27 := (k26 rr20.none).1.2.2.2
        refine r_callS (j := none) 3 [ti a3, ti 0, ti (wr ((gA p16 40 (wr (9 * a1))) - 1))] k26 (injO_1 E.p) subO_0 getO_0 setO_0 (lw_S q1599 q1600 q123 q1601) (by decide +kernel) rfl (Nat.le_of_ble_eq_true rfl) (Nat.le_of_ble_eq_true rfl) rfl (Nat.le_of_ble_eq_true rfl) dX6_entry_56 rfl ?_
        have eT := (r_ifo e).1
        have eF := (r_ifo e).2
        refine r_if_eq (rI_z z27) 72 dX6_entry_59 (by decide) (fun c28 => ?_) (fun c28 => ?_)
        · have e := eT c28
          refine r_sub [] rfl ?_
          exact wX6_entry_b72 E p16 e
        · have e := eF c28
          refine r_aload_n dX6_entry_62 rfl 1 rfl ?_
          refine r_iload dX6_entry_63 0 rfl ?_
          refine r_iload_n dX6_entry_65 rfl 4 rfl ?_
          obtain ⟨p29, q30, e⟩ := bd_o e
          have k31 := kX6_entryAt (G := G) (b := b) (ad := ad) (h := h) (wr_r _) ha3 q30
          have z32 := (k31 rr20).1.2.2.2
          refine r_callV (j := some 0) 2 [ti (wr (9 * a1)), ti a3] (rec_sg (j := 0) (r := (RX6, TX6, 63)) rfl (by rw [E.p]; rfl)) rfl k31 (injO_1 E.p) (subO_1 E.p) getO_1 setO_1 (lw_V q1885 q1887 qs100 q123 q1888) (by decide +kernel) rfl (Nat.le_of_ble_eq_true rfl) (Nat.le_of_ble_eq_true rfl) rfl (Nat.le_of_ble_eq_true rfl) dX6_entry_66 rfl ?_
          refine r_goto 74 dX6_entry_69 (by decide) ?_
          refine r_sub [] rfl ?_
          exact wX6_entry_b74 E p16 p29 z32 e
    · have e := eF c10
      refine r_sub [] rfl ?_
      exact wX6_entry_b16 E s e
