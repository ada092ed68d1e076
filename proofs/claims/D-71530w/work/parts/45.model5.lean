/-! DictProofModel: functions and walks, printed by gen/run6.py -/
set_option maxRecDepth 100000
def fX6_digest_L144  : Nat → Sg → Int → Option (Int × Sg)
  | 0, _, _ => none
  | n9 + 1, s, a1 => fX6_digest_b144 (fX6_digest_L144 n9) s a1
theorem wX6_digest_L144 {N : Nx} {b : Nat} {ad : Nat → Nat} {s' : Sg} {h : hS} {r : Int} (E : EndX N [(6, b, ad)] 3 (some .long) (some (tl r)) [s'] h)  : ∀ (n9 : Nat), ∀ (s : Sg) (a1 : Int) (ha1 : rI a1), fX6_digest_L144 n9 s a1 = some (r, s') → AtPc cX6_digest RX6 11 251 N [s] h 144 [(0, tr (some b)), (1, ti a1)] [] := by
  intro n9
  induction n9 with
  | zero => intro s a1 ha1 e; cases e
  | succ n9 ih => intro s a1 ha1 e; exact wX6_digest_b144 E _ ih s a1 ha1 e
def fX6_digest_b117 (K117 : Sg → Int → Option (Int × Sg)) (s : Sg) (a1 : Int) : Option (Int × Sg) := if (gI s 19) ≤ a1 then fX6_digest_L144 FU s 0 else gd (inb a1 84) (bd (fX6_mix s (gA s 20 a1)) fun p3 => K117 p3 (wr (a1 + 1)))
theorem wX6_digest_b117 {N : Nx} {b : Nat} {ad : Nat → Nat} {s' : Sg} {h : hS} {r : Int} (E : EndX N [(6, b, ad)] 3 (some .long) (some (tl r)) [s'] h) (K117 : Sg → Int → Option (Int × Sg)) (hK117 : ∀ (s : Sg) (a1 : Int) (ha1 : rI a1), K117 s a1 = some (r, s') → AtPc cX6_digest RX6 11 251 N [s] h 117 [(0, tr (some b)), (1, ti a1)] []) (s : Sg) (a1 : Int) (ha1 : rI a1) (e : fX6_digest_b117 K117 s a1 = some (r, s')) : AtPc cX6_digest RX6 11 251 N [s] h 117 [(0, tr (some b)), (1, ti a1)] [] := by
  unfold fX6_digest_b117 at e
  refine r_rrs E.p (fun rr => ?_)
  refine r_iload_n dX6_digest_117 rfl 1 rfl ?_
  refine r_aload_n dX6_digest_118 rfl 0 rfl ?_
  refine r_sI E.p 19 fG_X6_150 (by decide) dX6_digest_119 ?_
  have eT := (r_ifo e).1
  have eF := (r_ifo e).2
  refine r_icmp_ge ha1 ((rr.mine rfl).i 19 (by decide) (by decide)) 142 dX6_digest_122 (by decide) (fun c1 => ?_) (fun c1 => ?_)
  · have e := eT c1
    refine r_iconst dX6_digest_142 ?_
    refine r_istore_n (lv' := [(1, ti 0), (0, tr (some b))]) dX6_digest_143 rfl (E.lt (by decide)) rfl ?_
    refine r_sub [1, 0] rfl ?_
    exact wX6_digest_L144 E FU s 0 (by decide) e
  · have e := eF c1
    refine r_aload_n dX6_digest_125 rfl 0 rfl ?_
    refine r_aload_n dX6_digest_126 rfl 0 rfl ?_
    refine r_sR E.p 20 fG_X6_55 (by decide) dX6_digest_127 ?_
    refine r_iload_n dX6_digest_130 rfl 1 rfl ?_
    obtain ⟨g2, e⟩ := gd_o e
    refine r_saI E.p 20 rfl (by decide) (by decide) ha1 g2 rfl dX6_digest_131 ?_
    refine r_i2l (((rr.mine rfl).a 20 (by decide) rfl).1 _) dX6_digest_132 ?_
    obtain ⟨p3, q4, e⟩ := bd_o e
    have k5 := kX6_mix (G := nG N) (b := b) (ad := ad) (h := h) (rI_L (((rr.mine rfl).a 20 (by decide) rfl).1 _)) q4
    have z6 := (k5 rr).1.2.2.2
    refine r_callV (j := some 0) 1 [tl (gA s 20 a1)] (rec_sg (j := 0) (r := (RX6, TX6, 63)) rfl (by rw [E.p]; rfl)) rfl k5 (injO_1 E.p) (subO_1 E.p) getO_1 setO_1 (lw_V q1973 q1975 qs112 q123 q1976) (by decide +kernel) rfl (Nat.le_of_ble_eq_true rfl) (Nat.le_of_ble_eq_true rfl) rfl (Nat.le_of_ble_eq_true rfl) dX6_digest_133 rfl ?_
    refine r_rrs E.p (fun rr7 => ?_)
    refine r_iinc (lv' := [(1, ti (wr (a1 + 1))), (0, tr (some b))]) dX6_digest_136 1 rfl (E.lt (by decide)) rfl ?_
    refine r_goto 117 dX6_digest_139 (by decide) ?_
    refine r_sub [1, 0] rfl ?_
    exact hK117 p3 (wr (a1 + 1)) (wr_r _) e
def fX6_digest_L117  : Nat → Sg → Int → Option (Int × Sg)
  | 0, _, _ => none
  | n9 + 1, s, a1 => fX6_digest_b117 (fX6_digest_L117 n9) s a1
theorem wX6_digest_L117 {N : Nx} {b : Nat} {ad : Nat → Nat} {s' : Sg} {h : hS} {r : Int} (E : EndX N [(6, b, ad)] 3 (some .long) (some (tl r)) [s'] h)  : ∀ (n9 : Nat), ∀ (s : Sg) (a1 : Int) (ha1 : rI a1), fX6_digest_L117 n9 s a1 = some (r, s') → AtPc cX6_digest RX6 11 251 N [s] h 117 [(0, tr (some b)), (1, ti a1)] [] := by
  intro n9
  induction n9 with
  | zero => intro s a1 ha1 e; cases e
  | succ n9 ih => intro s a1 ha1 e; exact wX6_digest_b117 E _ ih s a1 ha1 e
def fX6_digest_b90 (K90 : Sg → Int → Option (Int × Sg)) (s : Sg) (a1 : Int) : Option (Int × Sg) := if 4 ≤ a1 then fX6_digest_L117 FU s 0 else gd (inb a1 4) (if (gA s 14 a1) ≤ 0 then fX6_digest_b109 K90 s a1 else bd (fX6_mixSlot s a1) fun p4 => fX6_digest_b109 K90 p4 a1)
theorem wX6_digest_b90 {N : Nx} {b : Nat} {ad : Nat → Nat} {s' : Sg} {h : hS} {r : Int} (E : EndX N [(6, b, ad)] 3 (some .long) (some (tl r)) [s'] h) (K90 : Sg → Int → Option (Int × Sg)) (hK90 : ∀ (s : Sg) (a1 : Int) (ha1 : rI a1), K90 s a1 = some (r, s') → AtPc cX6_digest RX6 11 251 N [s] h 90 [(0, tr (some b)), (1, ti a1)] []) (s : Sg) (a1 : Int) (ha1 : rI a1) (e : fX6_digest_b90 K90 s a1 = some (r, s')) : AtPc cX6_digest RX6 11 251 N [s] h 90 [(0, tr (some b)), (1, ti a1)] [] := by
  unfold fX6_digest_b90 at e
  refine r_rrs E.p (fun rr => ?_)
  refine r_iload_n dX6_digest_90 rfl 1 rfl ?_
  refine r_iconst dX6_digest_91 ?_
  have eT := (r_ifo e).1
  have eF := (r_ifo e).2
  refine r_icmp_ge ha1 (by decide) 115 dX6_digest_92 (by decide) (fun c1 => ?_) (fun c1 => ?_)
  · have e := eT c1
    refine r_iconst dX6_digest_115 ?_
    refine r_istore_n (lv' := [(1, ti 0), (0, tr (some b))]) dX6_digest_116 rfl (E.lt (by decide)) rfl ?_
    refine r_sub [1, 0] rfl ?_
    exact wX6_digest_L117 E FU s 0 (by decide) e
  · have e := eF c1
    refine r_aload_n dX6_digest_95 rfl 0 rfl ?_
    refine r_sR E.p 14 fG_X6_43 (by decide) dX6_digest_96 ?_
    refine r_iload_n dX6_digest_99 rfl 1 rfl ?_
    obtain ⟨g2, e⟩ := gd_o e
    refine r_saI E.p 14 rfl (by decide) (by decide) ha1 g2 rfl dX6_digest_100 ?_
    have eT := (r_ifo e).1
    have eF := (r_ifo e).2
    refine r_if_le (((rr.mine rfl).a 14 (by decide) rfl).1 _) 109 dX6_digest_101 (by decide) (fun c3 => ?_) (fun c3 => ?_)
    · have e := eT c3
      exact wX6_digest_b109 E K90 hK90 s a1 ha1 e
    · have e := eF c3
      refine r_aload_n dX6_digest_104 rfl 0 rfl ?_
      refine r_iload_n dX6_digest_105 rfl 1 rfl ?_
      obtain ⟨p4, q5, e⟩ := bd_o e
      have k6 := kX6_mixSlot (G := nG N) (b := b) (ad := ad) (h := h) ha1 q5
      have z7 := (k6 rr).1.2.2.2
      refine r_callV (j := some 0) 1 [ti a1] (rec_sg (j := 0) (r := (RX6, TX6, 63)) rfl (by rw [E.p]; rfl)) rfl k6 (injO_1 E.p) (subO_1 E.p) getO_1 setO_1 (lw_V q1978 q1980 qs113 q123 q1981) (by decide +kernel) rfl (Nat.le_of_ble_eq_true rfl) (Nat.le_of_ble_eq_true rfl) rfl (Nat.le_of_ble_eq_true rfl) dX6_digest_106 rfl ?_
      refine r_rrs E.p (fun rr8 => ?_)
      exact wX6_digest_b109 E K90 hK90 p4 a1 ha1 e
def fX6_digest_L90  : Nat → Sg → Int → Option (Int × Sg)
  | 0, _, _ => none
  | n9 + 1, s, a1 => fX6_digest_b90 (fX6_digest_L90 n9) s a1
theorem wX6_digest_L90 {N : Nx} {b : Nat} {ad : Nat → Nat} {s' : Sg} {h : hS} {r : Int} (E : EndX N [(6, b, ad)] 3 (some .long) (some (tl r)) [s'] h)  : ∀ (n9 : Nat), ∀ (s : Sg) (a1 : Int) (ha1 : rI a1), fX6_digest_L90 n9 s a1 = some (r, s') → AtPc cX6_digest RX6 11 251 N [s] h 90 [(0, tr (some b)), (1, ti a1)] [] := by
  intro n9
  induction n9 with
  | zero => intro s a1 ha1 e; cases e
  | succ n9 ih => intro s a1 ha1 e; exact wX6_digest_b90 E _ ih s a1 ha1 e
def fX6_digest_b49 (K49 : Sg → Int → Option (Int × Sg)) (s : Sg) (a1 : Int) : Option (Int × Sg) := if (gI s 4) ≤ a1 then fX6_digest_L90 FU s 0 else fX6_digest_L59 K49 FU s a1 0
theorem wX6_digest_b49 {N : Nx} {b : Nat} {ad : Nat → Nat} {s' : Sg} {h : hS} {r : Int} (E : EndX N [(6, b, ad)] 3 (some .long) (some (tl r)) [s'] h) (K49 : Sg → Int → Option (Int × Sg)) (hK49 : ∀ (s : Sg) (a1 : Int) (ha1 : rI a1), K49 s a1 = some (r, s') → AtPc cX6_digest RX6 11 251 N [s] h 49 [(0, tr (some b)), (1, ti a1)] []) (s : Sg) (a1 : Int) (ha1 : rI a1) (e : fX6_digest_b49 K49 s a1 = some (r, s')) : AtPc cX6_digest RX6 11 251 N [s] h 49 [(0, tr (some b)), (1, ti a1)] [] := by
  unfold fX6_digest_b49 at e
  refine r_rrs E.p (fun rr => ?_)
  refine r_iload_n dX6_digest_49 rfl 1 rfl ?_
  refine r_aload_n dX6_digest_50 rfl 0 rfl ?_
  refine r_sI E.p 4 fG_X6_217 (by decide) dX6_digest_51 ?_
  have eT := (r_ifo e).1
  have eF := (r_ifo e).2
  refine r_icmp_ge ha1 ((rr.mine rfl).i 4 (by decide) (by decide)) 88 dX6_digest_54 (by decide) (fun c1 => ?_) (fun c1 => ?_)
  · have e := eT c1
    refine r_iconst dX6_digest_88 ?_
    refine r_istore_n (lv' := [(1, ti 0), (0, tr (some b))]) dX6_digest_89 rfl (E.lt (by decide)) rfl ?_
    refine r_sub [1, 0] rfl ?_
    exact wX6_digest_L90 E FU s 0 (by decide) e
  · have e := eF c1
    refine r_iconst dX6_digest_57 ?_
    refine r_istore_n (lv' := [(2, ti 0), (0, tr (some b)), (1, ti a1)]) dX6_digest_58 rfl (E.lt (by decide)) rfl ?_
    refine r_sub [1, 2, 0] rfl ?_
    exact wX6_digest_L59 E K49 hK49 FU s a1 0 ha1 (by decide) e
def fX6_digest_L49  : Nat → Sg → Int → Option (Int × Sg)
  | 0, _, _ => none
  | n9 + 1, s, a1 => fX6_digest_b49 (fX6_digest_L49 n9) s a1
theorem wX6_digest_L49 {N : Nx} {b : Nat} {ad : Nat → Nat} {s' : Sg} {h : hS} {r : Int} (E : EndX N [(6, b, ad)] 3 (some .long) (some (tl r)) [s'] h)  : ∀ (n9 : Nat), ∀ (s : Sg) (a1 : Int) (ha1 : rI a1), fX6_digest_L49 n9 s a1 = some (r, s') → AtPc cX6_digest RX6 11 251 N [s] h 49 [(0, tr (some b)), (1, ti a1)] [] := by
  intro n9
  induction n9 with
  | zero => intro s a1 ha1 e; cases e
  | succ n9 ih => intro s a1 ha1 e; exact wX6_digest_b49 E _ ih s a1 ha1 e
def fX6_digest_b9 (K9 : Sg → Int → Option (Int × Sg)) (s : Sg) (a1 : Int) : Option (Int × Sg) := if (gI s 1) ≤ a1 then fX6_digest_L49 FU s 0 else fX6_digest_L19 K9 FU s a1 0
theorem wX6_digest_b9 {N : Nx} {b : Nat} {ad : Nat → Nat} {s' : Sg} {h : hS} {r : Int} (E : EndX N [(6, b, ad)] 3 (some .long) (some (tl r)) [s'] h) (K9 : Sg → Int → Option (Int × Sg)) (hK9 : ∀ (s : Sg) (a1 : Int) (ha1 : rI a1), K9 s a1 = some (r, s') → AtPc cX6_digest RX6 11 251 N [s] h 9 [(0, tr (some b)), (1, ti a1)] []) (s : Sg) (a1 : Int) (ha1 : rI a1) (e : fX6_digest_b9 K9 s a1 = some (r, s')) : AtPc cX6_digest RX6 11 251 N [s] h 9 [(0, tr (some b)), (1, ti a1)] [] := by
  unfold fX6_digest_b9 at e
  refine r_rrs E.p (fun rr => ?_)
  refine r_iload_n dX6_digest_9 rfl 1 rfl ?_
  refine r_aload_n dX6_digest_10 rfl 0 rfl ?_
  refine r_sI E.p 1 fG_X6_211 (by decide) dX6_digest_11 ?_
  have eT := (r_ifo e).1
  have eF := (r_ifo e).2
  refine r_icmp_ge ha1 ((rr.mine rfl).i 1 (by decide) (by decide)) 47 dX6_digest_14 (by decide) (fun c1 => ?_) (fun c1 => ?_)
  · have e := eT c1
    refine r_iconst dX6_digest_47 ?_
    refine r_istore_n (lv' := [(1, ti 0), (0, tr (some b))]) dX6_digest_48 rfl (E.lt (by decide)) rfl ?_
    refine r_sub [1, 0] rfl ?_
    exact wX6_digest_L49 E FU s 0 (by decide) e
  · have e := eF c1
    refine r_iconst dX6_digest_17 ?_
    refine r_istore_n (lv' := [(2, ti 0), (0, tr (some b)), (1, ti a1)]) dX6_digest_18 rfl (E.lt (by decide)) rfl ?_
    refine r_sub [1, 2, 0] rfl ?_
    exact wX6_digest_L19 E K9 hK9 FU s a1 0 ha1 (by decide) e
def fX6_digest_L9  : Nat → Sg → Int → Option (Int × Sg)
  | 0, _, _ => none
  | n9 + 1, s, a1 => fX6_digest_b9 (fX6_digest_L9 n9) s a1
theorem wX6_digest_L9 {N : Nx} {b : Nat} {ad : Nat → Nat} {s' : Sg} {h : hS} {r : Int} (E : EndX N [(6, b, ad)] 3 (some .long) (some (tl r)) [s'] h)  : ∀ (n9 : Nat), ∀ (s : Sg) (a1 : Int) (ha1 : rI a1), fX6_digest_L9 n9 s a1 = some (r, s') → AtPc cX6_digest RX6 11 251 N [s] h 9 [(0, tr (some b)), (1, ti a1)] [] := by
  intro n9
  induction n9 with
  | zero => intro s a1 ha1 e; cases e
  | succ n9 ih => intro s a1 ha1 e; exact wX6_digest_b9 E _ ih s a1 ha1 e
def fX6_digest  (s : Sg) : Option (Int × Sg) := fX6_digest_L9 FU (sI s 62 1367) 0
theorem kX6_digest {G : Gx}  {b : Nat} {ad : Nat → Nat} {s' : Sg} {h : hS} {r : Int} {s : Sg}    (e : fX6_digest s = some (r, s')) : CtX G yX6_digest cX6_digest 3 (some .long) 11 251 [(6, b, ad)] [s] h [tr (some b)] (some (tl r)) [s'] h := by
  refine CtX.of (by decide) (Nat.le_of_ble_eq_true rfl) [(0, tr (some b))] rfl ?_
  have E : EndX (G, 3, [(6, b, ad)], h, [s'], h, (some .long), (some (tl r)), yX6_digest.name) [(6, b, ad)] 3 (some .long) (some (tl r)) [s'] h := ⟨rfl, rfl, rfl, rfl, rfl, rfl⟩
  unfold fX6_digest at e
  refine r_rrs E.p (fun rr => ?_)
  refine r_aload_n dX6_digest_0 rfl 0 rfl ?_
  refine r_ldc2 1367 q1972 (by decide) dX6_digest_1 ?_
  refine r_sPL E.p 62 fP_X6_443 rfl (by decide) dX6_digest_4 ?_
  refine r_rrs E.p (fun rr1 => ?_)
  refine r_iconst dX6_digest_7 ?_
  refine r_istore_n (lv' := [(1, ti 0), (0, tr (some b))]) dX6_digest_8 rfl (E.lt (by decide)) rfl ?_
  refine r_sub [1, 0] rfl ?_
  exact wX6_digest_L9 E FU (sI s 62 1367) 0 (by decide) e
