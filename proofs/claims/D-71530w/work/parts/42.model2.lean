/-! DictProofModel: functions and walks, printed by gen/run6.py -/
set_option maxRecDepth 100000
def fX6_isOneSole_b39 (K4 : Sg → Int → Int → Int → Option (Int)) (s : Sg) (a1 : Int) (a3 : Int) (k0 : Int) : Option (Int) := K4 s a1 k0 (wr (a3 + 1))
theorem wX6_isOneSole_b39 {N : Nx} {b : Nat} {ad : Nat → Nat} {s : Sg} {h : hS} {r : Int} (E : EndX N [(6, b, ad)] 4 (some .boolean) (some (ti r)) [s] h) (K4 : Sg → Int → Int → Int → Option (Int)) (hK4 : ∀ (a1 : Int) (a2 : Int) (a3 : Int) (ha1 : rI a1) (ha2 : rI a2) (ha3 : rI a3), K4 s a1 a2 a3 = some (r) → AtPc cX6_isOneSole RX6 1 21 N [s] h 4 [(0, tr (some b)), (1, ti a1), (2, ti a2), (3, ti a3)] []) (a1 : Int) (a3 : Int) (k0 : Int) (ha1 : rI a1) (ha3 : rI a3) (hk0 : rI k0) (e : fX6_isOneSole_b39 K4 s a1 a3 k0 = some (r)) : AtPc cX6_isOneSole RX6 1 21 N [s] h 39 [(0, tr (some b)), (1, ti a1), (3, ti a3)] [ti k0] := by
  unfold fX6_isOneSole_b39 at e
  refine r_rrs E.p (fun rr => ?_)
  refine r_istore_n (lv' := [(2, ti k0), (0, tr (some b)), (1, ti a1), (3, ti a3)]) dX6_isOneSole_39 rfl (E.lt (by decide)) rfl ?_
  refine r_iinc (lv' := [(3, ti (wr (a3 + 1))), (2, ti k0), (0, tr (some b)), (1, ti a1)]) dX6_isOneSole_40 3 rfl (E.lt (by decide)) rfl ?_
  refine r_goto 4 dX6_isOneSole_43 (by decide) ?_
  refine r_sub [2, 3, 1, 0] rfl ?_
  exact hK4 a1 k0 (wr (a3 + 1)) ha1 hk0 (wr_r _) e
def fX6_isOneSole_b34 (K4 : Sg → Int → Int → Int → Option (Int)) (s : Sg) (a1 : Int) (a3 : Int) : Option (Int) := fX6_isOneSole_b39 K4 s a1 a3 1
theorem wX6_isOneSole_b34 {N : Nx} {b : Nat} {ad : Nat → Nat} {s : Sg} {h : hS} {r : Int} (E : EndX N [(6, b, ad)] 4 (some .boolean) (some (ti r)) [s] h) (K4 : Sg → Int → Int → Int → Option (Int)) (hK4 : ∀ (a1 : Int) (a2 : Int) (a3 : Int) (ha1 : rI a1) (ha2 : rI a2) (ha3 : rI a3), K4 s a1 a2 a3 = some (r) → AtPc cX6_isOneSole RX6 1 21 N [s] h 4 [(0, tr (some b)), (1, ti a1), (2, ti a2), (3, ti a3)] []) (a1 : Int) (a3 : Int) (ha1 : rI a1) (ha3 : rI a3) (e : fX6_isOneSole_b34 K4 s a1 a3 = some (r)) : AtPc cX6_isOneSole RX6 1 21 N [s] h 34 [(0, tr (some b)), (1, ti a1), (3, ti a3)] [] := by
  unfold fX6_isOneSole_b34 at e
  refine r_rrs E.p (fun rr => ?_)
  refine r_iconst dX6_isOneSole_34 ?_
  refine r_goto 39 dX6_isOneSole_35 (by decide) ?_
  exact wX6_isOneSole_b39 E K4 hK4 a1 a3 1 ha1 ha3 (by decide) e
def fX6_isOneSole_b38 (K4 : Sg → Int → Int → Int → Option (Int)) (s : Sg) (a1 : Int) (a3 : Int) : Option (Int) := fX6_isOneSole_b39 K4 s a1 a3 0
theorem wX6_isOneSole_b38 {N : Nx} {b : Nat} {ad : Nat → Nat} {s : Sg} {h : hS} {r : Int} (E : EndX N [(6, b, ad)] 4 (some .boolean) (some (ti r)) [s] h) (K4 : Sg → Int → Int → Int → Option (Int)) (hK4 : ∀ (a1 : Int) (a2 : Int) (a3 : Int) (ha1 : rI a1) (ha2 : rI a2) (ha3 : rI a3), K4 s a1 a2 a3 = some (r) → AtPc cX6_isOneSole RX6 1 21 N [s] h 4 [(0, tr (some b)), (1, ti a1), (2, ti a2), (3, ti a3)] []) (a1 : Int) (a3 : Int) (ha1 : rI a1) (ha3 : rI a3) (e : fX6_isOneSole_b38 K4 s a1 a3 = some (r)) : AtPc cX6_isOneSole RX6 1 21 N [s] h 38 [(0, tr (some b)), (1, ti a1), (3, ti a3)] [] := by
  unfold fX6_isOneSole_b38 at e
  refine r_rrs E.p (fun rr => ?_)
  refine r_iconst dX6_isOneSole_38 ?_
  exact wX6_isOneSole_b39 E K4 hK4 a1 a3 0 ha1 ha3 (by decide) e
def fX6_isOneSole_b4 (K4 : Sg → Int → Int → Int → Option (Int)) (s : Sg) (a1 : Int) (a2 : Int) (a3 : Int) : Option (Int) := if (gI s 4) ≤ a3 then gd (a2 = 0 ∨ a2 = 1) (some a2) else if ¬ a2 = 0 then fX6_isOneSole_b34 K4 s a1 a3 else bd (fX6_isIn a1 a3) fun p4 => if p4 = 0 then fX6_isOneSole_b38 K4 s a1 a3 else gd (inb a3 6) (if ¬ (gA s 5 a3) = 4 then fX6_isOneSole_b38 K4 s a1 a3 else fX6_isOneSole_b34 K4 s a1 a3)
theorem wX6_isOneSole_b4 {N : Nx} {b : Nat} {ad : Nat → Nat} {s : Sg} {h : hS} {r : Int} (E : EndX N [(6, b, ad)] 4 (some .boolean) (some (ti r)) [s] h) (K4 : Sg → Int → Int → Int → Option (Int)) (hK4 : ∀ (a1 : Int) (a2 : Int) (a3 : Int) (ha1 : rI a1) (ha2 : rI a2) (ha3 : rI a3), K4 s a1 a2 a3 = some (r) → AtPc cX6_isOneSole RX6 1 21 N [s] h 4 [(0, tr (some b)), (1, ti a1), (2, ti a2), (3, ti a3)] []) (a1 : Int) (a2 : Int) (a3 : Int) (ha1 : rI a1) (ha2 : rI a2) (ha3 : rI a3) (e : fX6_isOneSole_b4 K4 s a1 a2 a3 = some (r)) : AtPc cX6_isOneSole RX6 1 21 N [s] h 4 [(0, tr (some b)), (1, ti a1), (2, ti a2), (3, ti a3)] [] := by
  unfold fX6_isOneSole_b4 at e
  refine r_rrs E.p (fun rr => ?_)
  refine r_iload_n dX6_isOneSole_4 rfl 3 rfl ?_
  refine r_aload_n dX6_isOneSole_5 rfl 0 rfl ?_
  refine r_sI E.p 4 fG_X6_217 (by decide) dX6_isOneSole_6 ?_
  have eT := (r_ifo e).1
  have eF := (r_ifo e).2
  refine r_icmp_ge ha3 ((rr.mine rfl).i 4 (by decide) (by decide)) 46 dX6_isOneSole_9 (by decide) (fun c1 => ?_) (fun c1 => ?_)
  · have e := eT c1
    refine r_iload_n dX6_isOneSole_46 rfl 2 rfl ?_
    obtain ⟨g2, e⟩ := gd_o e
    cases e
    exact r_zret E.σ E.st E.rt E.r g2 dX6_isOneSole_47
  · have e := eF c1
    refine r_iload_n dX6_isOneSole_12 rfl 2 rfl ?_
    have eT := (r_ifo e).1
    have eF := (r_ifo e).2
    refine r_if_ne ha2 34 dX6_isOneSole_13 (by decide) (fun c3 => ?_) (fun c3 => ?_)
    · have e := eT c3
      refine r_sub [0, 1, 3] rfl ?_
      exact wX6_isOneSole_b34 E K4 hK4 a1 a3 ha1 ha3 e
    · have e := eF c3
      refine r_iload_n dX6_isOneSole_16 rfl 1 rfl ?_
      refine r_iload_n dX6_isOneSole_17 rfl 3 rfl ?_
      obtain ⟨p4, q5, e⟩ := bd_o e
      have k6 := kX6_isIn (G := nG N) (h := h) ha1 ha3 q5
      have z7 := (k6 rr.none).1.2.2.2
      refine r_callS (j := none) 2 [ti a1, ti a3] k6 (injO_1 E.p) subO_0 getO_0 setO_0 (lw_S q1663 q1664 q123 q1665) (by decide +kernel) rfl (Nat.le_of_ble_eq_true rfl) (Nat.le_of_ble_eq_true rfl) rfl (Nat.le_of_ble_eq_true rfl) dX6_isOneSole_18 rfl ?_
      have eT := (r_ifo e).1
      have eF := (r_ifo e).2
      refine r_if_eq (rI_z z7) 38 dX6_isOneSole_21 (by decide) (fun c8 => ?_) (fun c8 => ?_)
      · have e := eT c8
        refine r_sub [0, 1, 3] rfl ?_
        exact wX6_isOneSole_b38 E K4 hK4 a1 a3 ha1 ha3 e
      · have e := eF c8
        refine r_aload_n dX6_isOneSole_24 rfl 0 rfl ?_
        refine r_sR E.p 5 fG_X6_16 (by decide) dX6_isOneSole_25 ?_
        refine r_iload_n dX6_isOneSole_28 rfl 3 rfl ?_
        obtain ⟨g9, e⟩ := gd_o e
        refine r_saI E.p 5 rfl (by decide) (by decide) ha3 g9 rfl dX6_isOneSole_29 ?_
        refine r_iconst dX6_isOneSole_30 ?_
        have eT := (r_ifo e).1
        have eF := (r_ifo e).2
        refine r_icmp_ne (((rr.mine rfl).a 5 (by decide) rfl).1 _) (by decide) 38 dX6_isOneSole_31 (by decide) (fun c10 => ?_) (fun c10 => ?_)
        · have e := eT c10
          refine r_sub [0, 1, 3] rfl ?_
          exact wX6_isOneSole_b38 E K4 hK4 a1 a3 ha1 ha3 e
        · have e := eF c10
          refine r_sub [0, 1, 3] rfl ?_
          exact wX6_isOneSole_b34 E K4 hK4 a1 a3 ha1 ha3 e
def fX6_isOneSole_L4  : Nat → Sg → Int → Int → Int → Option (Int)
  | 0, _, _, _, _ => none
  | n9 + 1, s, a1, a2, a3 => fX6_isOneSole_b4 (fX6_isOneSole_L4 n9) s a1 a2 a3
theorem wX6_isOneSole_L4 {N : Nx} {b : Nat} {ad : Nat → Nat} {s : Sg} {h : hS} {r : Int} (E : EndX N [(6, b, ad)] 4 (some .boolean) (some (ti r)) [s] h)  : ∀ (n9 : Nat), ∀ (a1 : Int) (a2 : Int) (a3 : Int) (ha1 : rI a1) (ha2 : rI a2) (ha3 : rI a3), fX6_isOneSole_L4 n9 s a1 a2 a3 = some (r) → AtPc cX6_isOneSole RX6 1 21 N [s] h 4 [(0, tr (some b)), (1, ti a1), (2, ti a2), (3, ti a3)] [] := by
  intro n9
  induction n9 with
  | zero => intro a1 a2 a3 ha1 ha2 ha3 e; cases e
  | succ n9 ih => intro a1 a2 a3 ha1 ha2 ha3 e; exact wX6_isOneSole_b4 E _ ih a1 a2 a3 ha1 ha2 ha3 e
def fX6_isOneSole  (s : Sg) (a1 : Int) : Option (Int) := fX6_isOneSole_L4 FU s a1 0 0
theorem kX6_isOneSole {G : Gx}  {b : Nat} {ad : Nat → Nat} {s : Sg} {h : hS} {r : Int} {a1 : Int}  (ha1 : rI a1) (e : fX6_isOneSole s a1 = some (r)) : CtX G yX6_isOneSole cX6_isOneSole 4 (some .boolean) 1 21 [(6, b, ad)] [s] h [tr (some b), ti a1] (some (ti r)) [s] h := by
  refine CtX.of (by decide) (Nat.le_of_ble_eq_true rfl) [(0, tr (some b)), (1, ti a1)] rfl ?_
  have E : EndX (G, 4, [(6, b, ad)], h, [s], h, (some .boolean), (some (ti r)), yX6_isOneSole.name) [(6, b, ad)] 4 (some .boolean) (some (ti r)) [s] h := ⟨rfl, rfl, rfl, rfl, rfl, rfl⟩
  unfold fX6_isOneSole at e
  refine r_rrs E.p (fun rr => ?_)
  refine r_iconst dX6_isOneSole_0 ?_
  refine r_istore_n (lv' := [(2, ti 0), (0, tr (some b)), (1, ti a1)]) dX6_isOneSole_1 rfl (E.lt (by decide)) rfl ?_
  refine r_iconst dX6_isOneSole_2 ?_
  refine r_istore_n (lv' := [(3, ti 0), (2, ti 0), (0, tr (some b)), (1, ti a1)]) dX6_isOneSole_3 rfl (E.lt (by decide)) rfl ?_
  refine r_sub [2, 3, 1, 0] rfl ?_
  exact wX6_isOneSole_L4 E FU a1 0 0 ha1 (by decide) (by decide) e
def fX6_ofRank_b82 (K5 : Sg → Int → Int → Int → Int → Option (Int)) (s : Sg) (a1 : Int) (a2 : Int) (a4 : Int) (k0 : Int) (k1 : Int) : Option (Int) := K5 s a1 a2 (ior k0 k1) (wr (a4 + 1))
theorem wX6_ofRank_b82 {N : Nx} {b : Nat} {ad : Nat → Nat} {s : Sg} {h : hS} {r : Int} (E : EndX N [(6, b, ad)] 6 (some .int) (some (ti r)) [s] h) (K5 : Sg → Int → Int → Int → Int → Option (Int)) (hK5 : ∀ (a1 : Int) (a2 : Int) (a3 : Int) (a4 : Int) (ha1 : rI a1) (ha2 : rI a2) (ha3 : rI a3) (ha4 : rI a4), K5 s a1 a2 a3 a4 = some (r) → AtPc cX6_ofRank RX6 1 21 N [s] h 5 [(0, tr (some b)), (1, ti a1), (2, ti a2), (3, ti a3), (4, ti a4)] []) (a1 : Int) (a2 : Int) (a4 : Int) (k0 : Int) (k1 : Int) (ha1 : rI a1) (ha2 : rI a2) (ha4 : rI a4) (hk0 : rI k0) (hk1 : rI k1) (e : fX6_ofRank_b82 K5 s a1 a2 a4 k0 k1 = some (r)) : AtPc cX6_ofRank RX6 1 21 N [s] h 82 [(0, tr (some b)), (1, ti a1), (2, ti a2), (4, ti a4)] [ti k1, ti k0] := by
  unfold fX6_ofRank_b82 at e
  refine r_rrs E.p (fun rr => ?_)
  refine r_ior dX6_ofRank_82 ?_
  refine r_istore_n (lv' := [(3, ti (ior k0 k1)), (0, tr (some b)), (1, ti a1), (2, ti a2), (4, ti a4)]) dX6_ofRank_83 rfl (E.lt (by decide)) rfl ?_
  refine r_iinc (lv' := [(4, ti (wr (a4 + 1))), (3, ti (ior k0 k1)), (0, tr (some b)), (1, ti a1), (2, ti a2)]) dX6_ofRank_84 4 rfl (E.lt (by decide)) rfl ?_
  refine r_goto 5 dX6_ofRank_87 (by decide) ?_
  refine r_sub [2, 3, 4, 1, 0] rfl ?_
  exact hK5 a1 a2 (ior k0 k1) (wr (a4 + 1)) ha1 ha2 (ior_r _ _) (wr_r _) e
def fX6_ofRank_b81 (K5 : Sg → Int → Int → Int → Int → Option (Int)) (s : Sg) (a1 : Int) (a2 : Int) (a4 : Int) (k0 : Int) : Option (Int) := fX6_ofRank_b82 K5 s a1 a2 a4 k0 0
theorem wX6_ofRank_b81 {N : Nx} {b : Nat} {ad : Nat → Nat} {s : Sg} {h : hS} {r : Int} (E : EndX N [(6, b, ad)] 6 (some .int) (some (ti r)) [s] h) (K5 : Sg → Int → Int → Int → Int → Option (Int)) (hK5 : ∀ (a1 : Int) (a2 : Int) (a3 : Int) (a4 : Int) (ha1 : rI a1) (ha2 : rI a2) (ha3 : rI a3) (ha4 : rI a4), K5 s a1 a2 a3 a4 = some (r) → AtPc cX6_ofRank RX6 1 21 N [s] h 5 [(0, tr (some b)), (1, ti a1), (2, ti a2), (3, ti a3), (4, ti a4)] []) (a1 : Int) (a2 : Int) (a4 : Int) (k0 : Int) (ha1 : rI a1) (ha2 : rI a2) (ha4 : rI a4) (hk0 : rI k0) (e : fX6_ofRank_b81 K5 s a1 a2 a4 k0 = some (r)) : AtPc cX6_ofRank RX6 1 21 N [s] h 81 [(0, tr (some b)), (1, ti a1), (2, ti a2), (4, ti a4)] [ti k0] := by
  unfold fX6_ofRank_b81 at e
  refine r_rrs E.p (fun rr => ?_)
  refine r_iconst dX6_ofRank_81 ?_
  exact wX6_ofRank_b82 E K5 hK5 a1 a2 a4 k0 0 ha1 ha2 ha4 hk0 (by decide) e
def fX6_ofRank_b56 (K5 : Sg → Int → Int → Int → Int → Option (Int)) (s : Sg) (a1 : Int) (a2 : Int) (a3 : Int) (a4 : Int) (k0 : Int) : Option (Int) := bd (fX6_isIn a1 a4) fun p1 => if p1 = 0 then fX6_ofRank_b81 K5 s a1 a2 a4 a3 else if ¬ k0 = a2 then fX6_ofRank_b81 K5 s a1 a2 a4 a3 else fX6_ofRank_b82 K5 s a1 a2 a4 a3 (ishl 1 a4)
theorem wX6_ofRank_b56 {N : Nx} {b : Nat} {ad : Nat → Nat} {s : Sg} {h : hS} {r : Int} (E : EndX N [(6, b, ad)] 6 (some .int) (some (ti r)) [s] h) (K5 : Sg → Int → Int → Int → Int → Option (Int)) (hK5 : ∀ (a1 : Int) (a2 : Int) (a3 : Int) (a4 : Int) (ha1 : rI a1) (ha2 : rI a2) (ha3 : rI a3) (ha4 : rI a4), K5 s a1 a2 a3 a4 = some (r) → AtPc cX6_ofRank RX6 1 21 N [s] h 5 [(0, tr (some b)), (1, ti a1), (2, ti a2), (3, ti a3), (4, ti a4)] []) (a1 : Int) (a2 : Int) (a3 : Int) (a4 : Int) (k0 : Int) (ha1 : rI a1) (ha2 : rI a2) (ha3 : rI a3) (ha4 : rI a4) (hk0 : rI k0) (e : fX6_ofRank_b56 K5 s a1 a2 a3 a4 k0 = some (r)) : AtPc cX6_ofRank RX6 1 21 N [s] h 56 [(0, tr (some b)), (1, ti a1), (2, ti a2), (3, ti a3), (4, ti a4)] [ti k0] := by
  unfold fX6_ofRank_b56 at e
  refine r_rrs E.p (fun rr => ?_)
  refine r_istore (lv' := [(5, ti k0), (0, tr (some b)), (1, ti a1), (2, ti a2), (3, ti a3), (4, ti a4)]) dX6_ofRank_56 (E.lt (by decide)) rfl ?_
  refine r_iload_n dX6_ofRank_58 rfl 4 rfl ?_
  refine r_iload_n dX6_ofRank_59 rfl 2 rfl ?_
  refine r_iload dX6_ofRank_60 5 rfl ?_
  obtain ⟨p1, q2, e⟩ := bd_o e
  have k3 := kX6_isIn (G := nG N) (h := h) ha1 ha4 q2
  have z4 := (k3 rr.none).1.2.2.2
  refine r_callS (j := none) 2 [ti a1, ti a4] k3 (injO_1 E.p) subO_0 getO_0 setO_0 (lw_S q1663 q1664 q123 q1665) (by decide +kernel) rfl (Nat.le_of_ble_eq_true rfl) (Nat.le_of_ble_eq_true rfl) rfl (Nat.le_of_ble_eq_true rfl) dX6_ofRank_62 rfl ?_
  have eT := (r_ifo e).1
  have eF := (r_ifo e).2
  refine r_if_eq (rI_z z4) 81 dX6_ofRank_65 (by decide) (fun c5 => ?_) (fun c5 => ?_)
  · have e := eT c5
    refine r_sub [1, 2, 3, 5] rfl ?_
    exact wX6_ofRank_b81 E K5 hK5 a1 a2 a4 a3 ha1 ha2 ha4 ha3 e
  · have e := eF c5
    refine r_iload dX6_ofRank_68 0 rfl ?_
    refine r_iload_n dX6_ofRank_70 rfl 3 rfl ?_
    have eT := (r_ifo e).1
    have eF := (r_ifo e).2
    refine r_icmp_ne hk0 ha2 81 dX6_ofRank_71 (by decide) (fun c6 => ?_) (fun c6 => ?_)
    · have e := eT c6
      refine r_sub [1, 2, 3, 5] rfl ?_
      exact wX6_ofRank_b81 E K5 hK5 a1 a2 a4 a3 ha1 ha2 ha4 ha3 e
    · have e := eF c6
      refine r_iconst dX6_ofRank_74 ?_
      refine r_iload dX6_ofRank_75 5 rfl ?_
      refine r_ishl dX6_ofRank_77 ?_
      refine r_goto 82 dX6_ofRank_78 (by decide) ?_
      refine r_sub [1, 2, 3, 5] rfl ?_
      exact wX6_ofRank_b82 E K5 hK5 a1 a2 a4 a3 (ishl 1 a4) ha1 ha2 ha4 ha3 (ishl_r _ _) e
def fX6_ofRank_b36 (K5 : Sg → Int → Int → Int → Int → Option (Int)) (s : Sg) (a1 : Int) (a2 : Int) (a3 : Int) (a4 : Int) : Option (Int) := fX6_ofRank_b56 K5 s a1 a2 a3 a4 0
theorem wX6_ofRank_b36 {N : Nx} {b : Nat} {ad : Nat → Nat} {s : Sg} {h : hS} {r : Int} (E : EndX N [(6, b, ad)] 6 (some .int) (some (ti r)) [s] h) (K5 : Sg → Int → Int → Int → Int → Option (Int)) (hK5 : ∀ (a1 : Int) (a2 : Int) (a3 : Int) (a4 : Int) (ha1 : rI a1) (ha2 : rI a2) (ha3 : rI a3) (ha4 : rI a4), K5 s a1 a2 a3 a4 = some (r) → AtPc cX6_ofRank RX6 1 21 N [s] h 5 [(0, tr (some b)), (1, ti a1), (2, ti a2), (3, ti a3), (4, ti a4)] []) (a1 : Int) (a2 : Int) (a3 : Int) (a4 : Int) (ha1 : rI a1) (ha2 : rI a2) (ha3 : rI a3) (ha4 : rI a4) (e : fX6_ofRank_b36 K5 s a1 a2 a3 a4 = some (r)) : AtPc cX6_ofRank RX6 1 21 N [s] h 36 [(0, tr (some b)), (1, ti a1), (2, ti a2), (3, ti a3), (4, ti a4)] [] := by
  unfold fX6_ofRank_b36 at e
  refine r_rrs E.p (fun rr => ?_)
  refine r_iconst dX6_ofRank_36 ?_
  refine r_goto 56 dX6_ofRank_37 (by decide) ?_
  exact wX6_ofRank_b56 E K5 hK5 a1 a2 a3 a4 0 ha1 ha2 ha3 ha4 (by decide) e
def fX6_ofRank_b5 (K5 : Sg → Int → Int → Int → Int → Option (Int)) (s : Sg) (a1 : Int) (a2 : Int) (a3 : Int) (a4 : Int) : Option (Int) := if (gI s 4) ≤ a4 then some a3 else gd (inb a4 6) (if (gA s 5 a4) = 3 then fX6_ofRank_b36 K5 s a1 a2 a3 a4 else gd (inb a4 6) (if ¬ (gA s 5 a4) = 4 then gd (inb a4 6) (if ¬ (gA s 5 a4) = 1 then fX6_ofRank_b56 K5 s a1 a2 a3 a4 1 else fX6_ofRank_b56 K5 s a1 a2 a3 a4 2) else fX6_ofRank_b36 K5 s a1 a2 a3 a4))
theorem wX6_ofRank_b5 {N : Nx} {b : Nat} {ad : Nat → Nat} {s : Sg} {h : hS} {r : Int} (E : EndX N [(6, b, ad)] 6 (some .int) (some (ti r)) [s] h) (K5 : Sg → Int → Int → Int → Int → Option (Int)) (hK5 : ∀ (a1 : Int) (a2 : Int) (a3 : Int) (a4 : Int) (ha1 : rI a1) (ha2 : rI a2) (ha3 : rI a3) (ha4 : rI a4), K5 s a1 a2 a3 a4 = some (r) → AtPc cX6_ofRank RX6 1 21 N [s] h 5 [(0, tr (some b)), (1, ti a1), (2, ti a2), (3, ti a3), (4, ti a4)] []) (a1 : Int) (a2 : Int) (a3 : Int) (a4 : Int) (ha1 : rI a1) (ha2 : rI a2) (ha3 : rI a3) (ha4 : rI a4) (e : fX6_ofRank_b5 K5 s a1 a2 a3 a4 = some (r)) : AtPc cX6_ofRank RX6 1 21 N [s] h 5 [(0, tr (some b)), (1, ti a1), (2, ti a2), (3, ti a3), (4, ti a4)] [] := by
  unfold fX6_ofRank_b5 at e
  refine r_rrs E.p (fun rr => ?_)
  refine r_iload dX6_ofRank_5 4 rfl ?_
  refine r_aload_n dX6_ofRank_7 rfl 0 rfl ?_
  refine r_sI E.p 4 fG_X6_217 (by decide) dX6_ofRank_8 ?_
  have eT := (r_ifo e).1
  have eF := (r_ifo e).2
  refine r_icmp_ge ha4 ((rr.mine rfl).i 4 (by decide) (by decide)) 90 dX6_ofRank_11 (by decide) (fun c1 => ?_) (fun c1 => ?_)
  · have e := eT c1
    refine r_iload_n dX6_ofRank_90 rfl 3 rfl ?_
    cases e
    exact r_iret E.σ E.st E.rt E.r ha3 dX6_ofRank_91
  · have e := eF c1
    refine r_aload_n dX6_ofRank_14 rfl 0 rfl ?_
    refine r_sR E.p 5 fG_X6_16 (by decide) dX6_ofRank_15 ?_
    refine r_iload dX6_ofRank_18 4 rfl ?_
    obtain ⟨g2, e⟩ := gd_o e
    refine r_saI E.p 5 rfl (by decide) (by decide) ha4 g2 rfl dX6_ofRank_20 ?_
    refine r_iconst dX6_ofRank_21 ?_
    have eT := (r_ifo e).1
    have eF := (r_ifo e).2
    refine r_icmp_eq (((rr.mine rfl).a 5 (by decide) rfl).1 _) (by decide) 36 dX6_ofRank_22 (by decide) (fun c3 => ?_) (fun c3 => ?_)
    · have e := eT c3
      exact wX6_ofRank_b36 E K5 hK5 a1 a2 a3 a4 ha1 ha2 ha3 ha4 e
    · have e := eF c3
      refine r_aload_n dX6_ofRank_25 rfl 0 rfl ?_
      refine r_sR E.p 5 fG_X6_16 (by decide) dX6_ofRank_26 ?_
      refine r_iload dX6_ofRank_29 4 rfl ?_
      obtain ⟨g4, e⟩ := gd_o e
      refine r_saI E.p 5 rfl (by decide) (by decide) ha4 g4 rfl dX6_ofRank_31 ?_
      refine r_iconst dX6_ofRank_32 ?_
      have eT := (r_ifo e).1
      have eF := (r_ifo e).2
      refine r_icmp_ne (((rr.mine rfl).a 5 (by decide) rfl).1 _) (by decide) 40 dX6_ofRank_33 (by decide) (fun c5 => ?_) (fun c5 => ?_)
      · have e := eT c5
        refine r_aload_n dX6_ofRank_40 rfl 0 rfl ?_
        refine r_sR E.p 5 fG_X6_16 (by decide) dX6_ofRank_41 ?_
        refine r_iload dX6_ofRank_44 4 rfl ?_
        obtain ⟨g6, e⟩ := gd_o e
        refine r_saI E.p 5 rfl (by decide) (by decide) ha4 g6 rfl dX6_ofRank_46 ?_
        refine r_iconst dX6_ofRank_47 ?_
        have eT := (r_ifo e).1
        have eF := (r_ifo e).2
        refine r_icmp_ne (((rr.mine rfl).a 5 (by decide) rfl).1 _) (by decide) 55 dX6_ofRank_48 (by decide) (fun c7 => ?_) (fun c7 => ?_)
        · have e := eT c7
          refine r_iconst dX6_ofRank_55 ?_
          exact wX6_ofRank_b56 E K5 hK5 a1 a2 a3 a4 1 ha1 ha2 ha3 ha4 (by decide) e
        · have e := eF c7
          refine r_iconst dX6_ofRank_51 ?_
          refine r_goto 56 dX6_ofRank_52 (by decide) ?_
          exact wX6_ofRank_b56 E K5 hK5 a1 a2 a3 a4 2 ha1 ha2 ha3 ha4 (by decide) e
      · have e := eF c5
        exact wX6_ofRank_b36 E K5 hK5 a1 a2 a3 a4 ha1 ha2 ha3 ha4 e
def fX6_ofRank_L5  : Nat → Sg → Int → Int → Int → Int → Option (Int)
  | 0, _, _, _, _, _ => none
  | n9 + 1, s, a1, a2, a3, a4 => fX6_ofRank_b5 (fX6_ofRank_L5 n9) s a1 a2 a3 a4
theorem wX6_ofRank_L5 {N : Nx} {b : Nat} {ad : Nat → Nat} {s : Sg} {h : hS} {r : Int} (E : EndX N [(6, b, ad)] 6 (some .int) (some (ti r)) [s] h)  : ∀ (n9 : Nat), ∀ (a1 : Int) (a2 : Int) (a3 : Int) (a4 : Int) (ha1 : rI a1) (ha2 : rI a2) (ha3 : rI a3) (ha4 : rI a4), fX6_ofRank_L5 n9 s a1 a2 a3 a4 = some (r) → AtPc cX6_ofRank RX6 1 21 N [s] h 5 [(0, tr (some b)), (1, ti a1), (2, ti a2), (3, ti a3), (4, ti a4)] [] := by
  intro n9
  induction n9 with
  | zero => intro a1 a2 a3 a4 ha1 ha2 ha3 ha4 e; cases e
  | succ n9 ih => intro a1 a2 a3 a4 ha1 ha2 ha3 ha4 e; exact wX6_ofRank_b5 E _ ih a1 a2 a3 a4 ha1 ha2 ha3 ha4 e
def fX6_ofRank  (s : Sg) (a1 : Int) (a2 : Int) : Option (Int) := fX6_ofRank_L5 FU s a1 a2 0 0
theorem kX6_ofRank {G : Gx}  {b : Nat} {ad : Nat → Nat} {s : Sg} {h : hS} {r : Int} {a1 : Int} {a2 : Int}  (ha1 : rI a1) (ha2 : rI a2) (e : fX6_ofRank s a1 a2 = some (r)) : CtX G yX6_ofRank cX6_ofRank 6 (some .int) 1 21 [(6, b, ad)] [s] h [tr (some b), ti a1, ti a2] (some (ti r)) [s] h := by
  refine CtX.of (by decide) (Nat.le_of_ble_eq_true rfl) [(0, tr (some b)), (1, ti a1), (2, ti a2)] rfl ?_
  have E : EndX (G, 6, [(6, b, ad)], h, [s], h, (some .int), (some (ti r)), yX6_ofRank.name) [(6, b, ad)] 6 (some .int) (some (ti r)) [s] h := ⟨rfl, rfl, rfl, rfl, rfl, rfl⟩
  unfold fX6_ofRank at e
  refine r_rrs E.p (fun rr => ?_)
  refine r_iconst dX6_ofRank_0 ?_
  refine r_istore_n (lv' := [(3, ti 0), (0, tr (some b)), (1, ti a1), (2, ti a2)]) dX6_ofRank_1 rfl (E.lt (by decide)) rfl ?_
  refine r_iconst dX6_ofRank_2 ?_
  refine r_istore (lv' := [(4, ti 0), (3, ti 0), (0, tr (some b)), (1, ti a1), (2, ti a2)]) dX6_ofRank_3 (E.lt (by decide)) rfl ?_
  refine r_sub [2, 3, 4, 1, 0] rfl ?_
  exact wX6_ofRank_L5 E FU a1 a2 0 0 ha1 ha2 (by decide) (by decide) e
def fX6_mostSpecial_b72 (K4 : Sg → Int → Int → Int → Option (Int)) (K22 : Sg → Int → Int → Int → Int → Int → Option (Int)) (s : Sg) (a1 : Int) (a2 : Int) (a3 : Int) (a5 : Int) (k0 : Int) : Option (Int) := K22 s a1 a2 a3 k0 (wr (a5 + 1))
theorem wX6_mostSpecial_b72 {N : Nx} {b : Nat} {ad : Nat → Nat} {s : Sg} {h : hS} {r : Int} (E : EndX N [(6, b, ad)] 6 (some .int) (some (ti r)) [s] h) (K4 : Sg → Int → Int → Int → Option (Int)) (hK4 : ∀ (a1 : Int) (a2 : Int) (a3 : Int) (ha1 : rI a1) (ha2 : rI a2) (ha3 : rI a3), K4 s a1 a2 a3 = some (r) → AtPc cX6_mostSpecial RX6 1 21 N [s] h 4 [(0, tr (some b)), (1, ti a1), (2, ti a2), (3, ti a3)] []) (K22 : Sg → Int → Int → Int → Int → Int → Option (Int)) (hK22 : ∀ (a1 : Int) (a2 : Int) (a3 : Int) (a4 : Int) (a5 : Int) (ha1 : rI a1) (ha2 : rI a2) (ha3 : rI a3) (ha4 : rI a4) (ha5 : rI a5), K22 s a1 a2 a3 a4 a5 = some (r) → AtPc cX6_mostSpecial RX6 1 21 N [s] h 22 [(0, tr (some b)), (1, ti a1), (2, ti a2), (3, ti a3), (4, ti a4), (5, ti a5)] []) (a1 : Int) (a2 : Int) (a3 : Int) (a5 : Int) (k0 : Int) (ha1 : rI a1) (ha2 : rI a2) (ha3 : rI a3) (ha5 : rI a5) (hk0 : rI k0) (e : fX6_mostSpecial_b72 K4 K22 s a1 a2 a3 a5 k0 = some (r)) : AtPc cX6_mostSpecial RX6 1 21 N [s] h 72 [(0, tr (some b)), (1, ti a1), (2, ti a2), (3, ti a3), (5, ti a5)] [ti k0] := by
  unfold fX6_mostSpecial_b72 at e
  refine r_rrs E.p (fun rr => ?_)
  refine r_istore (lv' := [(4, ti k0), (0, tr (some b)), (1, ti a1), (2, ti a2), (3, ti a3), (5, ti a5)]) dX6_mostSpecial_72 (E.lt (by decide)) rfl ?_
  refine r_iinc (lv' := [(5, ti (wr (a5 + 1))), (4, ti k0), (0, tr (some b)), (1, ti a1), (2, ti a2), (3, ti a3)]) dX6_mostSpecial_74 5 rfl (E.lt (by decide)) rfl ?_
  refine r_goto 22 dX6_mostSpecial_77 (by decide) ?_
  refine r_sub [2, 3, 4, 5, 1, 0] rfl ?_
  exact hK22 a1 a2 a3 k0 (wr (a5 + 1)) ha1 ha2 ha3 hk0 (wr_r _) e
def fX6_mostSpecial_b67 (K4 : Sg → Int → Int → Int → Option (Int)) (K22 : Sg → Int → Int → Int → Int → Int → Option (Int)) (s : Sg) (a1 : Int) (a2 : Int) (a3 : Int) (a5 : Int) : Option (Int) := fX6_mostSpecial_b72 K4 K22 s a1 a2 a3 a5 1
theorem wX6_mostSpecial_b67 {N : Nx} {b : Nat} {ad : Nat → Nat} {s : Sg} {h : hS} {r : Int} (E : EndX N [(6, b, ad)] 6 (some .int) (some (ti r)) [s] h) (K4 : Sg → Int → Int → Int → Option (Int)) (hK4 : ∀ (a1 : Int) (a2 : Int) (a3 : Int) (ha1 : rI a1) (ha2 : rI a2) (ha3 : rI a3), K4 s a1 a2 a3 = some (r) → AtPc cX6_mostSpecial RX6 1 21 N [s] h 4 [(0, tr (some b)), (1, ti a1), (2, ti a2), (3, ti a3)] []) (K22 : Sg → Int → Int → Int → Int → Int → Option (Int)) (hK22 : ∀ (a1 : Int) (a2 : Int) (a3 : Int) (a4 : Int) (a5 : Int) (ha1 : rI a1) (ha2 : rI a2) (ha3 : rI a3) (ha4 : rI a4) (ha5 : rI a5), K22 s a1 a2 a3 a4 a5 = some (r) → AtPc cX6_mostSpecial RX6 1 21 N [s] h 22 [(0, tr (some b)), (1, ti a1), (2, ti a2), (3, ti a3), (4, ti a4), (5, ti a5)] []) (a1 : Int) (a2 : Int) (a3 : Int) (a5 : Int) (ha1 : rI a1) (ha2 : rI a2) (ha3 : rI a3) (ha5 : rI a5) (e : fX6_mostSpecial_b67 K4 K22 s a1 a2 a3 a5 = some (r)) : AtPc cX6_mostSpecial RX6 1 21 N [s] h 67 [(0, tr (some b)), (1, ti a1), (2, ti a2), (3, ti a3), (5, ti a5)] [] := by
  unfold fX6_mostSpecial_b67 at e
  refine r_rrs E.p (fun rr => ?_)
  refine r_iconst dX6_mostSpecial_67 ?_
  refine r_goto 72 dX6_mostSpecial_68 (by decide) ?_
  exact wX6_mostSpecial_b72 E K4 hK4 K22 hK22 a1 a2 a3 a5 1 ha1 ha2 ha3 ha5 (by decide) e
def fX6_mostSpecial_b71 (K4 : Sg → Int → Int → Int → Option (Int)) (K22 : Sg → Int → Int → Int → Int → Int → Option (Int)) (s : Sg) (a1 : Int) (a2 : Int) (a3 : Int) (a5 : Int) : Option (Int) := fX6_mostSpecial_b72 K4 K22 s a1 a2 a3 a5 0
theorem wX6_mostSpecial_b71 {N : Nx} {b : Nat} {ad : Nat → Nat} {s : Sg} {h : hS} {r : Int} (E : EndX N [(6, b, ad)] 6 (some .int) (some (ti r)) [s] h) (K4 : Sg → Int → Int → Int → Option (Int)) (hK4 : ∀ (a1 : Int) (a2 : Int) (a3 : Int) (ha1 : rI a1) (ha2 : rI a2) (ha3 : rI a3), K4 s a1 a2 a3 = some (r) → AtPc cX6_mostSpecial RX6 1 21 N [s] h 4 [(0, tr (some b)), (1, ti a1), (2, ti a2), (3, ti a3)] []) (K22 : Sg → Int → Int → Int → Int → Int → Option (Int)) (hK22 : ∀ (a1 : Int) (a2 : Int) (a3 : Int) (a4 : Int) (a5 : Int) (ha1 : rI a1) (ha2 : rI a2) (ha3 : rI a3) (ha4 : rI a4) (ha5 : rI a5), K22 s a1 a2 a3 a4 a5 = some (r) → AtPc cX6_mostSpecial RX6 1 21 N [s] h 22 [(0, tr (some b)), (1, ti a1), (2, ti a2), (3, ti a3), (4, ti a4), (5, ti a5)] []) (a1 : Int) (a2 : Int) (a3 : Int) (a5 : Int) (ha1 : rI a1) (ha2 : rI a2) (ha3 : rI a3) (ha5 : rI a5) (e : fX6_mostSpecial_b71 K4 K22 s a1 a2 a3 a5 = some (r)) : AtPc cX6_mostSpecial RX6 1 21 N [s] h 71 [(0, tr (some b)), (1, ti a1), (2, ti a2), (3, ti a3), (5, ti a5)] [] := by
  unfold fX6_mostSpecial_b71 at e
  refine r_rrs E.p (fun rr => ?_)
  refine r_iconst dX6_mostSpecial_71 ?_
  exact wX6_mostSpecial_b72 E K4 hK4 K22 hK22 a1 a2 a3 a5 0 ha1 ha2 ha3 ha5 (by decide) e
def fX6_mostSpecial_b90 (K4 : Sg → Int → Int → Int → Option (Int)) (s : Sg) (a1 : Int) (a3 : Int) (k0 : Int) : Option (Int) := K4 s a1 k0 (wr (a3 + 1))
theorem wX6_mostSpecial_b90 {N : Nx} {b : Nat} {ad : Nat → Nat} {s : Sg} {h : hS} {r : Int} (E : EndX N [(6, b, ad)] 6 (some .int) (some (ti r)) [s] h) (K4 : Sg → Int → Int → Int → Option (Int)) (hK4 : ∀ (a1 : Int) (a2 : Int) (a3 : Int) (ha1 : rI a1) (ha2 : rI a2) (ha3 : rI a3), K4 s a1 a2 a3 = some (r) → AtPc cX6_mostSpecial RX6 1 21 N [s] h 4 [(0, tr (some b)), (1, ti a1), (2, ti a2), (3, ti a3)] []) (a1 : Int) (a3 : Int) (k0 : Int) (ha1 : rI a1) (ha3 : rI a3) (hk0 : rI k0) (e : fX6_mostSpecial_b90 K4 s a1 a3 k0 = some (r)) : AtPc cX6_mostSpecial RX6 1 21 N [s] h 90 [(0, tr (some b)), (1, ti a1), (3, ti a3)] [ti k0] := by
  unfold fX6_mostSpecial_b90 at e
  refine r_rrs E.p (fun rr => ?_)
  refine r_istore_n (lv' := [(2, ti k0), (0, tr (some b)), (1, ti a1), (3, ti a3)]) dX6_mostSpecial_90 rfl (E.lt (by decide)) rfl ?_
  refine r_iinc (lv' := [(3, ti (wr (a3 + 1))), (2, ti k0), (0, tr (some b)), (1, ti a1)]) dX6_mostSpecial_91 3 rfl (E.lt (by decide)) rfl ?_
  refine r_goto 4 dX6_mostSpecial_94 (by decide) ?_
  refine r_sub [2, 3, 1, 0] rfl ?_
  exact hK4 a1 k0 (wr (a3 + 1)) ha1 hk0 (wr_r _) e
def fX6_mostSpecial_b22 (K4 : Sg → Int → Int → Int → Option (Int)) (K22 : Sg → Int → Int → Int → Int → Int → Option (Int)) (s : Sg) (a1 : Int) (a2 : Int) (a3 : Int) (a4 : Int) (a5 : Int) : Option (Int) := if (gI s 4) ≤ a5 then if a4 = 0 then fX6_mostSpecial_b90 K4 s a1 a3 a2 else fX6_mostSpecial_b90 K4 s a1 a3 a3 else if a4 = 0 then fX6_mostSpecial_b71 K4 K22 s a1 a2 a3 a5 else if a5 = a3 then fX6_mostSpecial_b67 K4 K22 s a1 a2 a3 a5 else bd (fX6_isIn a1 a5) fun p5 => if p5 = 0 then fX6_mostSpecial_b67 K4 K22 s a1 a2 a3 a5 else gd (inb (wr ((wr (6 * a3)) + a5)) 36) (if ¬ (gA s 12 (wr ((wr (6 * a3)) + a5))) = 1 then fX6_mostSpecial_b71 K4 K22 s a1 a2 a3 a5 else fX6_mostSpecial_b67 K4 K22 s a1 a2 a3 a5)
theorem wX6_mostSpecial_b22 {N : Nx} {b : Nat} {ad : Nat → Nat} {s : Sg} {h : hS} {r : Int} (E : EndX N [(6, b, ad)] 6 (some .int) (some (ti r)) [s] h) (K4 : Sg → Int → Int → Int → Option (Int)) (hK4 : ∀ (a1 : Int) (a2 : Int) (a3 : Int) (ha1 : rI a1) (ha2 : rI a2) (ha3 : rI a3), K4 s a1 a2 a3 = some (r) → AtPc cX6_mostSpecial RX6 1 21 N [s] h 4 [(0, tr (some b)), (1, ti a1), (2, ti a2), (3, ti a3)] []) (K22 : Sg → Int → Int → Int → Int → Int → Option (Int)) (hK22 : ∀ (a1 : Int) (a2 : Int) (a3 : Int) (a4 : Int) (a5 : Int) (ha1 : rI a1) (ha2 : rI a2) (ha3 : rI a3) (ha4 : rI a4) (ha5 : rI a5), K22 s a1 a2 a3 a4 a5 = some (r) → AtPc cX6_mostSpecial RX6 1 21 N [s] h 22 [(0, tr (some b)), (1, ti a1), (2, ti a2), (3, ti a3), (4, ti a4), (5, ti a5)] []) (a1 : Int) (a2 : Int) (a3 : Int) (a4 : Int) (a5 : Int) (ha1 : rI a1) (ha2 : rI a2) (ha3 : rI a3) (ha4 : rI a4) (ha5 : rI a5) (e : fX6_mostSpecial_b22 K4 K22 s a1 a2 a3 a4 a5 = some (r)) : AtPc cX6_mostSpecial RX6 1 21 N [s] h 22 [(0, tr (some b)), (1, ti a1), (2, ti a2), (3, ti a3), (4, ti a4), (5, ti a5)] [] := by
  unfold fX6_mostSpecial_b22 at e
  refine r_rrs E.p (fun rr => ?_)
  refine r_iload dX6_mostSpecial_22 5 rfl ?_
  refine r_aload_n dX6_mostSpecial_24 rfl 0 rfl ?_
  refine r_sI E.p 4 fG_X6_217 (by decide) dX6_mostSpecial_25 ?_
  have eT := (r_ifo e).1
  have eF := (r_ifo e).2
  refine r_icmp_ge ha5 ((rr.mine rfl).i 4 (by decide) (by decide)) 80 dX6_mostSpecial_28 (by decide) (fun c1 => ?_) (fun c1 => ?_)
  · have e := eT c1
    refine r_iload dX6_mostSpecial_80 4 rfl ?_
    have eT := (r_ifo e).1
    have eF := (r_ifo e).2
    refine r_if_eq ha4 89 dX6_mostSpecial_82 (by decide) (fun c2 => ?_) (fun c2 => ?_)
    · have e := eT c2
      refine r_iload_n dX6_mostSpecial_89 rfl 2 rfl ?_
      refine r_sub [0, 1, 3] rfl ?_
      exact wX6_mostSpecial_b90 E K4 hK4 a1 a3 a2 ha1 ha3 ha2 e
    · have e := eF c2
      refine r_iload_n dX6_mostSpecial_85 rfl 3 rfl ?_
      refine r_goto 90 dX6_mostSpecial_86 (by decide) ?_
      refine r_sub [0, 1, 3] rfl ?_
      exact wX6_mostSpecial_b90 E K4 hK4 a1 a3 a3 ha1 ha3 ha3 e
  · have e := eF c1
    refine r_iload dX6_mostSpecial_31 4 rfl ?_
    have eT := (r_ifo e).1
    have eF := (r_ifo e).2
    refine r_if_eq ha4 71 dX6_mostSpecial_33 (by decide) (fun c3 => ?_) (fun c3 => ?_)
    · have e := eT c3
      refine r_sub [0, 1, 2, 3, 5] rfl ?_
      exact wX6_mostSpecial_b71 E K4 hK4 K22 hK22 a1 a2 a3 a5 ha1 ha2 ha3 ha5 e
    · have e := eF c3
      refine r_iload dX6_mostSpecial_36 5 rfl ?_
      refine r_iload_n dX6_mostSpecial_38 rfl 3 rfl ?_
      have eT := (r_ifo e).1
      have eF := (r_ifo e).2
      refine r_icmp_eq ha5 ha3 67 dX6_mostSpecial_39 (by decide) (fun c4 => ?_) (fun c4 => ?_)
      · have e := eT c4
        refine r_sub [0, 1, 2, 3, 5] rfl ?_
        exact wX6_mostSpecial_b67 E K4 hK4 K22 hK22 a1 a2 a3 a5 ha1 ha2 ha3 ha5 e
      · have e := eF c4
        refine r_iload_n dX6_mostSpecial_42 rfl 1 rfl ?_
        refine r_iload dX6_mostSpecial_43 5 rfl ?_
        obtain ⟨p5, q6, e⟩ := bd_o e
        have k7 := kX6_isIn (G := nG N) (h := h) ha1 ha5 q6
        have z8 := (k7 rr.none).1.2.2.2
        refine r_callS (j := none) 2 [ti a1, ti a5] k7 (injO_1 E.p) subO_0 getO_0 setO_0 (lw_S q1663 q1664 q123 q1665) (by decide +kernel) rfl (Nat.le_of_ble_eq_true rfl) (Nat.le_of_ble_eq_true rfl) rfl (Nat.le_of_ble_eq_true rfl) dX6_mostSpecial_45 rfl ?_
        have eT := (r_ifo e).1
        have eF := (r_ifo e).2
        refine r_if_eq (rI_z z8) 67 dX6_mostSpecial_48 (by decide) (fun c9 => ?_) (fun c9 => ?_)
        · have e := eT c9
          refine r_sub [0, 1, 2, 3, 5] rfl ?_
          exact wX6_mostSpecial_b67 E K4 hK4 K22 hK22 a1 a2 a3 a5 ha1 ha2 ha3 ha5 e
        · have e := eF c9
          refine r_aload_n dX6_mostSpecial_51 rfl 0 rfl ?_
          refine r_sR E.p 12 fG_X6_37 (by decide) dX6_mostSpecial_52 ?_
          refine r_bipush dX6_mostSpecial_55 (by decide) ?_
          refine r_iload_n dX6_mostSpecial_57 rfl 3 rfl ?_
          refine r_imul dX6_mostSpecial_58 ?_
          refine r_iload dX6_mostSpecial_59 5 rfl ?_
          refine r_iadd dX6_mostSpecial_61 ?_
          obtain ⟨g10, e⟩ := gd_o e
          refine r_saI E.p 12 rfl (by decide) (by decide) (wr_r _) g10 rfl dX6_mostSpecial_62 ?_
          refine r_iconst dX6_mostSpecial_63 ?_
          have eT := (r_ifo e).1
          have eF := (r_ifo e).2
          refine r_icmp_ne (((rr.mine rfl).a 12 (by decide) rfl).1 _) (by decide) 71 dX6_mostSpecial_64 (by decide) (fun c11 => ?_) (fun c11 => ?_)
          · have e := eT c11
            refine r_sub [0, 1, 2, 3, 5] rfl ?_
            exact wX6_mostSpecial_b71 E K4 hK4 K22 hK22 a1 a2 a3 a5 ha1 ha2 ha3 ha5 e
          · have e := eF c11
            refine r_sub [0, 1, 2, 3, 5] rfl ?_
            exact wX6_mostSpecial_b67 E K4 hK4 K22 hK22 a1 a2 a3 a5 ha1 ha2 ha3 ha5 e
def fX6_mostSpecial_L22 (K4 : Sg → Int → Int → Int → Option (Int)) : Nat → Sg → Int → Int → Int → Int → Int → Option (Int)
  | 0, _, _, _, _, _, _ => none
  | n9 + 1, s, a1, a2, a3, a4, a5 => fX6_mostSpecial_b22 K4 (fX6_mostSpecial_L22 K4 n9) s a1 a2 a3 a4 a5
theorem wX6_mostSpecial_L22 {N : Nx} {b : Nat} {ad : Nat → Nat} {s : Sg} {h : hS} {r : Int} (E : EndX N [(6, b, ad)] 6 (some .int) (some (ti r)) [s] h) (K4 : Sg → Int → Int → Int → Option (Int)) (hK4 : ∀ (a1 : Int) (a2 : Int) (a3 : Int) (ha1 : rI a1) (ha2 : rI a2) (ha3 : rI a3), K4 s a1 a2 a3 = some (r) → AtPc cX6_mostSpecial RX6 1 21 N [s] h 4 [(0, tr (some b)), (1, ti a1), (2, ti a2), (3, ti a3)] []) : ∀ (n9 : Nat), ∀ (a1 : Int) (a2 : Int) (a3 : Int) (a4 : Int) (a5 : Int) (ha1 : rI a1) (ha2 : rI a2) (ha3 : rI a3) (ha4 : rI a4) (ha5 : rI a5), fX6_mostSpecial_L22 K4 n9 s a1 a2 a3 a4 a5 = some (r) → AtPc cX6_mostSpecial RX6 1 21 N [s] h 22 [(0, tr (some b)), (1, ti a1), (2, ti a2), (3, ti a3), (4, ti a4), (5, ti a5)] [] := by
  intro n9
  induction n9 with
  | zero => intro a1 a2 a3 a4 a5 ha1 ha2 ha3 ha4 ha5 e; cases e
  | succ n9 ih => intro a1 a2 a3 a4 a5 ha1 ha2 ha3 ha4 ha5 e; exact wX6_mostSpecial_b22 E K4 hK4 _ ih a1 a2 a3 a4 a5 ha1 ha2 ha3 ha4 ha5 e
def fX6_mostSpecial_b4 (K4 : Sg → Int → Int → Int → Option (Int)) (s : Sg) (a1 : Int) (a2 : Int) (a3 : Int) : Option (Int) := if (gI s 4) ≤ a3 then some a2 else bd (fX6_isIn a1 a3) fun p2 => fX6_mostSpecial_L22 K4 FU s a1 a2 a3 p2 0
theorem wX6_mostSpecial_b4 {N : Nx} {b : Nat} {ad : Nat → Nat} {s : Sg} {h : hS} {r : Int} (E : EndX N [(6, b, ad)] 6 (some .int) (some (ti r)) [s] h) (K4 : Sg → Int → Int → Int → Option (Int)) (hK4 : ∀ (a1 : Int) (a2 : Int) (a3 : Int) (ha1 : rI a1) (ha2 : rI a2) (ha3 : rI a3), K4 s a1 a2 a3 = some (r) → AtPc cX6_mostSpecial RX6 1 21 N [s] h 4 [(0, tr (some b)), (1, ti a1), (2, ti a2), (3, ti a3)] []) (a1 : Int) (a2 : Int) (a3 : Int) (ha1 : rI a1) (ha2 : rI a2) (ha3 : rI a3) (e : fX6_mostSpecial_b4 K4 s a1 a2 a3 = some (r)) : AtPc cX6_mostSpecial RX6 1 21 N [s] h 4 [(0, tr (some b)), (1, ti a1), (2, ti a2), (3, ti a3)] [] := by
  unfold fX6_mostSpecial_b4 at e
  refine r_rrs E.p (fun rr => ?_)
  refine r_iload_n dX6_mostSpecial_4 rfl 3 rfl ?_
  refine r_aload_n dX6_mostSpecial_5 rfl 0 rfl ?_
  refine r_sI E.p 4 fG_X6_217 (by decide) dX6_mostSpecial_6 ?_
  have eT := (r_ifo e).1
  have eF := (r_ifo e).2
  refine r_icmp_ge ha3 ((rr.mine rfl).i 4 (by decide) (by decide)) 97 dX6_mostSpecial_9 (by decide) (fun c1 => ?_) (fun c1 => ?_)
  · have e := eT c1
    refine r_iload_n dX6_mostSpecial_97 rfl 2 rfl ?_
    cases e
    exact r_iret E.σ E.st E.rt E.r ha2 dX6_mostSpecial_98
  · have e := eF c1
    refine r_iload_n dX6_mostSpecial_12 rfl 1 rfl ?_
    refine r_iload_n dX6_mostSpecial_13 rfl 3 rfl ?_
    obtain ⟨p2, q3, e⟩ := bd_o e
    have k4 := kX6_isIn (G := nG N) (h := h) ha1 ha3 q3
    have z5 := (k4 rr.none).1.2.2.2
    refine r_callS (j := none) 2 [ti a1, ti a3] k4 (injO_1 E.p) subO_0 getO_0 setO_0 (lw_S q1663 q1664 q123 q1665) (by decide +kernel) rfl (Nat.le_of_ble_eq_true rfl) (Nat.le_of_ble_eq_true rfl) rfl (Nat.le_of_ble_eq_true rfl) dX6_mostSpecial_14 rfl ?_
    refine r_istore (lv' := [(4, ti p2), (0, tr (some b)), (1, ti a1), (2, ti a2), (3, ti a3)]) dX6_mostSpecial_17 (E.lt (by decide)) rfl ?_
    refine r_iconst dX6_mostSpecial_19 ?_
    refine r_istore (lv' := [(5, ti 0), (4, ti p2), (0, tr (some b)), (1, ti a1), (2, ti a2), (3, ti a3)]) dX6_mostSpecial_20 (E.lt (by decide)) rfl ?_
    refine r_sub [2, 3, 4, 5, 1, 0] rfl ?_
    exact wX6_mostSpecial_L22 E K4 hK4 FU a1 a2 a3 p2 0 ha1 ha2 ha3 (rI_z z5) (by decide) e
def fX6_mostSpecial_L4  : Nat → Sg → Int → Int → Int → Option (Int)
  | 0, _, _, _, _ => none
  | n9 + 1, s, a1, a2, a3 => fX6_mostSpecial_b4 (fX6_mostSpecial_L4 n9) s a1 a2 a3
theorem wX6_mostSpecial_L4 {N : Nx} {b : Nat} {ad : Nat → Nat} {s : Sg} {h : hS} {r : Int} (E : EndX N [(6, b, ad)] 6 (some .int) (some (ti r)) [s] h)  : ∀ (n9 : Nat), ∀ (a1 : Int) (a2 : Int) (a3 : Int) (ha1 : rI a1) (ha2 : rI a2) (ha3 : rI a3), fX6_mostSpecial_L4 n9 s a1 a2 a3 = some (r) → AtPc cX6_mostSpecial RX6 1 21 N [s] h 4 [(0, tr (some b)), (1, ti a1), (2, ti a2), (3, ti a3)] [] := by
  intro n9
  induction n9 with
  | zero => intro a1 a2 a3 ha1 ha2 ha3 e; cases e
  | succ n9 ih => intro a1 a2 a3 ha1 ha2 ha3 e; exact wX6_mostSpecial_b4 E _ ih a1 a2 a3 ha1 ha2 ha3 e
def fX6_mostSpecial  (s : Sg) (a1 : Int) : Option (Int) := fX6_mostSpecial_L4 FU s a1 (-1) 0
theorem kX6_mostSpecial {G : Gx}  {b : Nat} {ad : Nat → Nat} {s : Sg} {h : hS} {r : Int} {a1 : Int}  (ha1 : rI a1) (e : fX6_mostSpecial s a1 = some (r)) : CtX G yX6_mostSpecial cX6_mostSpecial 6 (some .int) 1 21 [(6, b, ad)] [s] h [tr (some b), ti a1] (some (ti r)) [s] h := by
  refine CtX.of (by decide) (Nat.le_of_ble_eq_true rfl) [(0, tr (some b)), (1, ti a1)] rfl ?_
  have E : EndX (G, 6, [(6, b, ad)], h, [s], h, (some .int), (some (ti r)), yX6_mostSpecial.name) [(6, b, ad)] 6 (some .int) (some (ti r)) [s] h := ⟨rfl, rfl, rfl, rfl, rfl, rfl⟩
  unfold fX6_mostSpecial at e
  refine r_rrs E.p (fun rr => ?_)
  refine r_iconst dX6_mostSpecial_0 ?_
  refine r_istore_n (lv' := [(2, ti (-1)), (0, tr (some b)), (1, ti a1)]) dX6_mostSpecial_1 rfl (E.lt (by decide)) rfl ?_
  refine r_iconst dX6_mostSpecial_2 ?_
  refine r_istore_n (lv' := [(3, ti 0), (2, ti (-1)), (0, tr (some b)), (1, ti a1)]) dX6_mostSpecial_3 rfl (E.lt (by decide)) rfl ?_
  refine r_sub [2, 3, 1, 0] rfl ?_
  exact wX6_mostSpecial_L4 E FU a1 (-1) 0 ha1 (by decide) (by decide) e
def fX6_takes_b85 (s : Sg) (k0 : Int) : Option (Int × Sg) := some (k0, s)
theorem wX6_takes_b85 {N : Nx} {b : Nat} {ad : Nat → Nat} {s' : Sg} {h : hS} {r : Int} (E : EndX N [(6, b, ad)] 6 (some .int) (some (ti r)) [s'] h)  (s : Sg) (k0 : Int) (hk0 : rI k0) (e : fX6_takes_b85 s k0 = some (r, s')) : AtPc cX6_takes RX6 3 75 N [s] h 85 [] [ti k0] := by
  unfold fX6_takes_b85 at e
  refine r_rrs E.p (fun rr => ?_)
  cases e
  exact r_iret E.σ E.st E.rt E.r hk0 dX6_takes_85
def fX6_takes_b64 (s : Sg) (a4 : Int) : Option (Int × Sg) := bd (fX6_mostSpecial s a4) fun p1 => if ¬ p1 = (-1) then fX6_takes_b85 s p1 else fX6_takes_b85 s (-2)
theorem wX6_takes_b64 {N : Nx} {b : Nat} {ad : Nat → Nat} {s' : Sg} {h : hS} {r : Int} (E : EndX N [(6, b, ad)] 6 (some .int) (some (ti r)) [s'] h)  (s : Sg) (a4 : Int) (ha4 : rI a4) (e : fX6_takes_b64 s a4 = some (r, s')) : AtPc cX6_takes RX6 3 75 N [s] h 64 [(0, tr (some b)), (4, ti a4)] [] := by
  unfold fX6_takes_b64 at e
  refine r_rrs E.p (fun rr => ?_)
  refine r_aload_n dX6_takes_64 rfl 0 rfl ?_
  refine r_iload dX6_takes_65 1 rfl ?_
  obtain ⟨p1, q2, e⟩ := bd_o e
  have k3 := kX6_mostSpecial (G := nG N) (b := b) (ad := ad) (h := h) ha4 q2
  have z4 := (k3 rr).1.2.2.2
  refine r_callV (j := some 0) 1 [ti a4] (rec_sg (j := 0) (r := (RX6, TX6, 63)) rfl (by rw [E.p]; rfl)) rfl k3 (injO_1 E.p) (subO_1 E.p) getO_1 setO_1 (lw_V q1773 q1775 qs78 q123 q1776) (by decide +kernel) rfl (Nat.le_of_ble_eq_true rfl) (Nat.le_of_ble_eq_true rfl) rfl (Nat.le_of_ble_eq_true rfl) dX6_takes_67 rfl ?_
  refine r_istore (lv' := [(5, ti p1), (0, tr (some b)), (4, ti a4)]) dX6_takes_70 (E.lt (by decide)) rfl ?_
  refine r_iload dX6_takes_72 0 rfl ?_
  refine r_iconst dX6_takes_74 ?_
  have eT := (r_ifo e).1
  have eF := (r_ifo e).2
  refine r_icmp_ne z4 (by decide) 83 dX6_takes_75 (by decide) (fun c5 => ?_) (fun c5 => ?_)
  · have e := eT c5
    refine r_iload dX6_takes_83 0 rfl ?_
    refine r_sub [] rfl ?_
    exact wX6_takes_b85 E s p1 z4 e
  · have e := eF c5
    refine r_bipush dX6_takes_78 (by decide) ?_
    refine r_goto 85 dX6_takes_80 (by decide) ?_
    refine r_sub [] rfl ?_
    exact wX6_takes_b85 E s (-2) (by decide) e
def fX6_takes_b38 (K38 : Sg → Int → Int → Int → Option (Int × Sg)) (s : Sg) (a3 : Int) (a4 : Int) (a5 : Int) : Option (Int × Sg) := if 3 ≤ a5 then fX6_takes_b64 s a4 else if ¬ a4 = 0 then fX6_takes_b64 s a4 else bd (fX6_ofRank s a3 a5) fun p3 => K38 s a3 p3 (wr (a5 + 1))
theorem wX6_takes_b38 {N : Nx} {b : Nat} {ad : Nat → Nat} {s' : Sg} {h : hS} {r : Int} (E : EndX N [(6, b, ad)] 6 (some .int) (some (ti r)) [s'] h) (K38 : Sg → Int → Int → Int → Option (Int × Sg)) (hK38 : ∀ (s : Sg) (a3 : Int) (a4 : Int) (a5 : Int) (ha3 : rI a3) (ha4 : rI a4) (ha5 : rI a5), K38 s a3 a4 a5 = some (r, s') → AtPc cX6_takes RX6 3 75 N [s] h 38 [(0, tr (some b)), (3, ti a3), (4, ti a4), (5, ti a5)] []) (s : Sg) (a3 : Int) (a4 : Int) (a5 : Int) (ha3 : rI a3) (ha4 : rI a4) (ha5 : rI a5) (e : fX6_takes_b38 K38 s a3 a4 a5 = some (r, s')) : AtPc cX6_takes RX6 3 75 N [s] h 38 [(0, tr (some b)), (3, ti a3), (4, ti a4), (5, ti a5)] [] := by
  unfold fX6_takes_b38 at e
  refine r_rrs E.p (fun rr => ?_)
  refine r_iload dX6_takes_38 3 rfl ?_
  refine r_iconst dX6_takes_40 ?_
  have eT := (r_ifo e).1
  have eF := (r_ifo e).2
  refine r_icmp_ge ha5 (by decide) 64 dX6_takes_41 (by decide) (fun c1 => ?_) (fun c1 => ?_)
  · have e := eT c1
    refine r_sub [0, 2] rfl ?_
    exact wX6_takes_b64 E s a4 ha4 e
  · have e := eF c1
    refine r_iload dX6_takes_44 2 rfl ?_
    have eT := (r_ifo e).1
    have eF := (r_ifo e).2
    refine r_if_ne ha4 64 dX6_takes_46 (by decide) (fun c2 => ?_) (fun c2 => ?_)
    · have e := eT c2
      refine r_sub [0, 2] rfl ?_
      exact wX6_takes_b64 E s a4 ha4 e
    · have e := eF c2
      refine r_aload_n dX6_takes_49 rfl 0 rfl ?_
      refine r_iload_n dX6_takes_50 rfl 1 rfl ?_
      refine r_iload dX6_takes_51 3 rfl ?_
      obtain ⟨p3, q4, e⟩ := bd_o e
      have k5 := kX6_ofRank (G := nG N) (b := b) (ad := ad) (h := h) ha3 ha5 q4
      have z6 := (k5 rr).1.2.2.2
      refine r_callV (j := some 0) 2 [ti a3, ti a5] (rec_sg (j := 0) (r := (RX6, TX6, 63)) rfl (by rw [E.p]; rfl)) rfl k5 (injO_1 E.p) (subO_1 E.p) getO_1 setO_1 (lw_V q1769 q1771 qs77 q123 q1772) (by decide +kernel) rfl (Nat.le_of_ble_eq_true rfl) (Nat.le_of_ble_eq_true rfl) rfl (Nat.le_of_ble_eq_true rfl) dX6_takes_53 rfl ?_
      refine r_istore (lv' := [(4, ti p3), (0, tr (some b)), (3, ti a3), (5, ti a5)]) dX6_takes_56 (E.lt (by decide)) rfl ?_
      refine r_iinc (lv' := [(5, ti (wr (a5 + 1))), (4, ti p3), (0, tr (some b)), (3, ti a3)]) dX6_takes_58 3 rfl (E.lt (by decide)) rfl ?_
      refine r_goto 38 dX6_takes_61 (by decide) ?_
      refine r_sub [2, 3, 1, 0] rfl ?_
      exact hK38 s a3 p3 (wr (a5 + 1)) ha3 z6 (wr_r _) e
def fX6_takes_L38  : Nat → Sg → Int → Int → Int → Option (Int × Sg)
  | 0, _, _, _, _ => none
  | n9 + 1, s, a3, a4, a5 => fX6_takes_b38 (fX6_takes_L38 n9) s a3 a4 a5
theorem wX6_takes_L38 {N : Nx} {b : Nat} {ad : Nat → Nat} {s' : Sg} {h : hS} {r : Int} (E : EndX N [(6, b, ad)] 6 (some .int) (some (ti r)) [s'] h)  : ∀ (n9 : Nat), ∀ (s : Sg) (a3 : Int) (a4 : Int) (a5 : Int) (ha3 : rI a3) (ha4 : rI a4) (ha5 : rI a5), fX6_takes_L38 n9 s a3 a4 a5 = some (r, s') → AtPc cX6_takes RX6 3 75 N [s] h 38 [(0, tr (some b)), (3, ti a3), (4, ti a4), (5, ti a5)] [] := by
  intro n9
  induction n9 with
  | zero => intro s a3 a4 a5 ha3 ha4 ha5 e; cases e
  | succ n9 ih => intro s a3 a4 a5 ha3 ha4 ha5 e; exact wX6_takes_b38 E _ ih s a3 a4 a5 ha3 ha4 ha5 e
def fX6_takes_b32 (s : Sg) (a3 : Int) : Option (Int × Sg) := fX6_takes_L38 FU s a3 0 0
theorem wX6_takes_b32 {N : Nx} {b : Nat} {ad : Nat → Nat} {s' : Sg} {h : hS} {r : Int} (E : EndX N [(6, b, ad)] 6 (some .int) (some (ti r)) [s'] h)  (s : Sg) (a3 : Int) (ha3 : rI a3) (e : fX6_takes_b32 s a3 = some (r, s')) : AtPc cX6_takes RX6 3 75 N [s] h 32 [(0, tr (some b)), (3, ti a3)] [] := by
  unfold fX6_takes_b32 at e
  refine r_rrs E.p (fun rr => ?_)
  refine r_iconst dX6_takes_32 ?_
  refine r_istore (lv' := [(4, ti 0), (0, tr (some b)), (3, ti a3)]) dX6_takes_33 (E.lt (by decide)) rfl ?_
  refine r_iconst dX6_takes_35 ?_
  refine r_istore (lv' := [(5, ti 0), (4, ti 0), (0, tr (some b)), (3, ti a3)]) dX6_takes_36 (E.lt (by decide)) rfl ?_
  refine r_sub [2, 3, 1, 0] rfl ?_
  exact wX6_takes_L38 E FU s a3 0 0 ha3 (by decide) (by decide) e
def fX6_takes  (s : Sg) (a1 : Int) (a2 : Int) : Option (Int × Sg) := bd (fX6_meantFor s a1 a2) fun p1 => if ¬ p1.1 = 0 then bd (fX6_size p1.1) fun p7 => if p7 ≤ 1 then fX6_takes_b32 p1.2 p1.1 else bd (fX6_isOneSole p1.2 p1.1) fun p12 => if p12 = 0 then fX6_takes_b32 p1.2 p1.1 else some ((-2), p1.2) else some ((-1), p1.2)
theorem kX6_takes {G : Gx}  {b : Nat} {ad : Nat → Nat} {s' : Sg} {h : hS} {r : Int} {s : Sg} {a1 : Int} {a2 : Int}  (ha1 : rI a1) (ha2 : rI a2) (e : fX6_takes s a1 a2 = some (r, s')) : CtX G yX6_takes cX6_takes 6 (some .int) 3 75 [(6, b, ad)] [s] h [tr (some b), ti a1, ti a2] (some (ti r)) [s'] h := by
  refine CtX.of (by decide) (Nat.le_of_ble_eq_true rfl) [(0, tr (some b)), (1, ti a1), (2, ti a2)] rfl ?_
  have E : EndX (G, 6, [(6, b, ad)], h, [s'], h, (some .int), (some (ti r)), yX6_takes.name) [(6, b, ad)] 6 (some .int) (some (ti r)) [s'] h := ⟨rfl, rfl, rfl, rfl, rfl, rfl⟩
  unfold fX6_takes at e
  refine r_rrs E.p (fun rr => ?_)
  refine r_aload_n dX6_takes_0 rfl 0 rfl ?_
  refine r_iload_n dX6_takes_1 rfl 1 rfl ?_
  refine r_iload_n dX6_takes_2 rfl 2 rfl ?_
  obtain ⟨p1, q2, e⟩ := bd_o e
  have k3 := kX6_meantFor (G := G) (b := b) (ad := ad) (h := h) ha1 ha2 q2
  have z4 := (k3 rr).1.2.2.2
  refine r_callV (j := some 0) 2 [ti a1, ti a2] (rec_sg (j := 0) (r := (RX6, TX6, 63)) rfl (by rw [E.p]; rfl)) rfl k3 (injO_1 E.p) (subO_1 E.p) getO_1 setO_1 (lw_V q1761 q1763 qs75 q123 q1764) (by decide +kernel) rfl (Nat.le_of_ble_eq_true rfl) (Nat.le_of_ble_eq_true rfl) rfl (Nat.le_of_ble_eq_true rfl) dX6_takes_3 rfl ?_
  refine r_rrs E.p (fun rr5 => ?_)
  refine r_istore_n (lv' := [(3, ti p1.1), (0, tr (some b)), (1, ti a1), (2, ti a2)]) dX6_takes_6 rfl (E.lt (by decide)) rfl ?_
  refine r_iload_n dX6_takes_7 rfl 0 rfl ?_
  have eT := (r_ifo e).1
  have eF := (r_ifo e).2
  refine r_if_ne z4 13 dX6_takes_8 (by decide) (fun c6 => ?_) (fun c6 => ?_)
  · have e := eT c6
    refine r_iload_n dX6_takes_13 rfl 0 rfl ?_
    obtain ⟨p7, q8, e⟩ := bd_o e
    have k9 := kX6_size (G := G) (h := h) z4 q8
    have z10 := (k9 rr5.none).1.2.2.2
    refine r_callS (j := none) 1 [ti p1.1] k9 (injO_1 E.p) subO_0 getO_0 setO_0 (lw_S q1738 q1739 q123 q1740) (by decide +kernel) rfl (Nat.le_of_ble_eq_true rfl) (Nat.le_of_ble_eq_true rfl) rfl (Nat.le_of_ble_eq_true rfl) dX6_takes_14 rfl ?_
    refine r_iconst dX6_takes_17 ?_
    have eT := (r_ifo e).1
    have eF := (r_ifo e).2
    refine r_icmp_le z10 (by decide) 32 dX6_takes_18 (by decide) (fun c11 => ?_) (fun c11 => ?_)
    · have e := eT c11
      refine r_sub [1, 0] rfl ?_
      exact wX6_takes_b32 E p1.2 p1.1 z4 e
    · have e := eF c11
      refine r_aload_n dX6_takes_21 rfl 1 rfl ?_
      refine r_iload_n dX6_takes_22 rfl 0 rfl ?_
      obtain ⟨p12, q13, e⟩ := bd_o e
      have k14 := kX6_isOneSole (G := G) (b := b) (ad := ad) (h := h) z4 q13
      have z15 := (k14 rr5).1.2.2.2
      refine r_callV (j := some 0) 1 [ti p1.1] (rec_sg (j := 0) (r := (RX6, TX6, 63)) rfl (by rw [E.p]; rfl)) rfl k14 (injO_1 E.p) (subO_1 E.p) getO_1 setO_1 (lw_V q1765 q1767 qs76 q123 q1768) (by decide +kernel) rfl (Nat.le_of_ble_eq_true rfl) (Nat.le_of_ble_eq_true rfl) rfl (Nat.le_of_ble_eq_true rfl) dX6_takes_23 rfl ?_
      have eT := (r_ifo e).1
      have eF := (r_ifo e).2
      refine r_if_eq (rI_z z15) 32 dX6_takes_26 (by decide) (fun c16 => ?_) (fun c16 => ?_)
      · have e := eT c16
        refine r_sub [1, 0] rfl ?_
        exact wX6_takes_b32 E p1.2 p1.1 z4 e
      · have e := eF c16
        refine r_bipush dX6_takes_29 (by decide) ?_
        cases e
        exact r_iret E.σ E.st E.rt E.r (by decide) dX6_takes_31
  · have e := eF c6
    refine r_iconst dX6_takes_11 ?_
    cases e
    exact r_iret E.σ E.st E.rt E.r (by decide) dX6_takes_12
def fX6_addBelow_b129 (s : Sg) : Option (Sg) := some s
theorem wX6_addBelow_b129 {N : Nx} {b : Nat} {ad : Nat → Nat} {s' : Sg} {h : hS} (E : EndX N [(6, b, ad)] 4 none none [s'] h)  (s : Sg) (e : fX6_addBelow_b129 s = some (s')) : AtPc cX6_addBelow RX6 0 0 N [s] h 129 [] [] := by
  unfold fX6_addBelow_b129 at e
  refine r_rrs E.p (fun rr => ?_)
  cases e
  exact r_vret E.σ E.st E.rt E.r dX6_addBelow_129
def fX6_addBelow_b113 (s : Sg) (a1 : Int) (a2 : Int) (k1 : Int) (k2 : Int) : Option (Sg) := gd (inb k1 36) (gd (inb a1 36) (gd (inb a2 36) (gd (inb a1 36) (fX6_addBelow_b129 (sA (sA s 42 k1 k2) 43 a1 (ior (gA (sA s 42 k1 k2) 43 a1) (gA (sA s 42 k1 k2) 43 a2)))))))
theorem wX6_addBelow_b113 {N : Nx} {b : Nat} {ad : Nat → Nat} {s' : Sg} {h : hS} (E : EndX N [(6, b, ad)] 4 none none [s'] h)  (s : Sg) (a1 : Int) (a2 : Int) (k1 : Int) (k2 : Int) (ha1 : rI a1) (ha2 : rI a2) (hk1 : rI k1) (hk2 : rI k2) (e : fX6_addBelow_b113 s a1 a2 k1 k2 = some (s')) : AtPc cX6_addBelow RX6 0 0 N [s] h 113 [(0, tr (some b)), (1, ti a1), (2, ti a2)] [ti k2, ti k1, tr (some (ad 42))] := by
  unfold fX6_addBelow_b113 at e
  refine r_rrs E.p (fun rr => ?_)
  obtain ⟨g1, e⟩ := gd_o e
  refine r_saP E.p 42 rfl (by decide) (by decide) hk1 g1 hk2 rfl dX6_addBelow_113 ?_
  refine r_rrs E.p (fun rr2 => ?_)
  refine r_aload_n dX6_addBelow_114 rfl 0 rfl ?_
  refine r_sR E.p 43 fG_X6_110 (by decide) dX6_addBelow_115 ?_
  refine r_iload_n dX6_addBelow_118 rfl 1 rfl ?_
  refine r_dup2 dX6_addBelow_119 rfl rfl ?_
  obtain ⟨g3, e⟩ := gd_o e
  refine r_saI E.p 43 rfl (by decide) (by decide) ha1 g3 rfl dX6_addBelow_120 ?_
  refine r_aload_n dX6_addBelow_121 rfl 0 rfl ?_
  refine r_sR E.p 43 fG_X6_110 (by decide) dX6_addBelow_122 ?_
  refine r_iload_n dX6_addBelow_125 rfl 2 rfl ?_
  obtain ⟨g4, e⟩ := gd_o e
  refine r_saI E.p 43 rfl (by decide) (by decide) ha2 g4 rfl dX6_addBelow_126 ?_
  refine r_ior dX6_addBelow_127 ?_
  obtain ⟨g5, e⟩ := gd_o e
  refine r_saP E.p 43 rfl (by decide) (by decide) ha1 g5 (ior_r _ _) rfl dX6_addBelow_128 ?_
  refine r_rrs E.p (fun rr6 => ?_)
  refine r_sub [] rfl ?_
  exact wX6_addBelow_b129 E (sA (sA s 42 k1 k2) 43 a1 (ior (gA (sA s 42 k1 k2) 43 a1) (gA (sA s 42 k1 k2) 43 a2))) e
def fX6_addBelow_b32 (s : Sg) (a1 : Int) (a2 : Int) (a3 : Int) : Option (Sg) := gd (inb a1 36) (if ¬ (gA s 36 a1) = 1 then fX6_addBelow_b129 s else gd (inb a1 36) (gd (inb a2 36) (gd (inb a1 36) (gd (inb a1 36) (gd (inb a2 36) (gd (inb a1 36) (gd (inb a2 36) (gd (inb a1 36) (if (wr ((gA (sA (sA s 40 a1 (wr ((gA s 40 a1) + (gA s 40 a2)))) 41 a1 (wr ((gA (sA s 40 a1 (wr ((gA s 40 a1) + (gA s 40 a2)))) 41 a1) + (wr (a3 * (gA (sA s 40 a1 (wr ((gA s 40 a1) + (gA s 40 a2)))) 41 a2)))))) 42 a2) + 1)) ≤ (gA (sA (sA s 40 a1 (wr ((gA s 40 a1) + (gA s 40 a2)))) 41 a1 (wr ((gA (sA s 40 a1 (wr ((gA s 40 a1) + (gA s 40 a2)))) 41 a1) + (wr (a3 * (gA (sA s 40 a1 (wr ((gA s 40 a1) + (gA s 40 a2)))) 41 a2)))))) 42 a1) then gd (inb a1 36) (fX6_addBelow_b113 (sA (sA s 40 a1 (wr ((gA s 40 a1) + (gA s 40 a2)))) 41 a1 (wr ((gA (sA s 40 a1 (wr ((gA s 40 a1) + (gA s 40 a2)))) 41 a1) + (wr (a3 * (gA (sA s 40 a1 (wr ((gA s 40 a1) + (gA s 40 a2)))) 41 a2)))))) a1 a2 a1 (gA (sA (sA s 40 a1 (wr ((gA s 40 a1) + (gA s 40 a2)))) 41 a1 (wr ((gA (sA s 40 a1 (wr ((gA s 40 a1) + (gA s 40 a2)))) 41 a1) + (wr (a3 * (gA (sA s 40 a1 (wr ((gA s 40 a1) + (gA s 40 a2)))) 41 a2)))))) 42 a1)) else gd (inb a2 36) (fX6_addBelow_b113 (sA (sA s 40 a1 (wr ((gA s 40 a1) + (gA s 40 a2)))) 41 a1 (wr ((gA (sA s 40 a1 (wr ((gA s 40 a1) + (gA s 40 a2)))) 41 a1) + (wr (a3 * (gA (sA s 40 a1 (wr ((gA s 40 a1) + (gA s 40 a2)))) 41 a2)))))) a1 a2 a1 (wr ((gA (sA (sA s 40 a1 (wr ((gA s 40 a1) + (gA s 40 a2)))) 41 a1 (wr ((gA (sA s 40 a1 (wr ((gA s 40 a1) + (gA s 40 a2)))) 41 a1) + (wr (a3 * (gA (sA s 40 a1 (wr ((gA s 40 a1) + (gA s 40 a2)))) 41 a2)))))) 42 a2) + 1))))))))))))
theorem wX6_addBelow_b32 {N : Nx} {b : Nat} {ad : Nat → Nat} {s' : Sg} {h : hS} (E : EndX N [(6, b, ad)] 4 none none [s'] h)  (s : Sg) (a1 : Int) (a2 : Int) (a3 : Int) (ha1 : rI a1) (ha2 : rI a2) (ha3 : rI a3) (e : fX6_addBelow_b32 s a1 a2 a3 = some (s')) : AtPc cX6_addBelow RX6 0 0 N [s] h 32 [(0, tr (some b)), (1, ti a1), (2, ti a2), (3, ti a3)] [] := by
  unfold fX6_addBelow_b32 at e
  refine r_rrs E.p (fun rr => ?_)
  refine r_aload_n dX6_addBelow_32 rfl 0 rfl ?_
  refine r_sR E.p 36 fG_X6_89 (by decide) dX6_addBelow_33 ?_
  refine r_iload_n dX6_addBelow_36 rfl 1 rfl ?_
  obtain ⟨g1, e⟩ := gd_o e
  refine r_saI E.p 36 rfl (by decide) (by decide) ha1 g1 rfl dX6_addBelow_37 ?_
  refine r_iconst dX6_addBelow_38 ?_
  have eT := (r_ifo e).1
  have eF := (r_ifo e).2
  refine r_icmp_ne (((rr.mine rfl).a 36 (by decide) rfl).1 _) (by decide) 129 dX6_addBelow_39 (by decide) (fun c2 => ?_) (fun c2 => ?_)
  · have e := eT c2
    refine r_sub [] rfl ?_
    exact wX6_addBelow_b129 E s e
  · have e := eF c2
    refine r_aload_n dX6_addBelow_42 rfl 0 rfl ?_
    refine r_sR E.p 40 fG_X6_101 (by decide) dX6_addBelow_43 ?_
    refine r_iload_n dX6_addBelow_46 rfl 1 rfl ?_
    refine r_dup2 dX6_addBelow_47 rfl rfl ?_
    obtain ⟨g3, e⟩ := gd_o e
    refine r_saI E.p 40 rfl (by decide) (by decide) ha1 g3 rfl dX6_addBelow_48 ?_
    refine r_aload_n dX6_addBelow_49 rfl 0 rfl ?_
    refine r_sR E.p 40 fG_X6_101 (by decide) dX6_addBelow_50 ?_
    refine r_iload_n dX6_addBelow_53 rfl 2 rfl ?_
    obtain ⟨g4, e⟩ := gd_o e
    refine r_saI E.p 40 rfl (by decide) (by decide) ha2 g4 rfl dX6_addBelow_54 ?_
    refine r_iadd dX6_addBelow_55 ?_
    obtain ⟨g5, e⟩ := gd_o e
    refine r_saP E.p 40 rfl (by decide) (by decide) ha1 g5 (wr_r _) rfl dX6_addBelow_56 ?_
    refine r_rrs E.p (fun rr6 => ?_)
    refine r_aload_n dX6_addBelow_57 rfl 0 rfl ?_
    refine r_sR E.p 41 fG_X6_104 (by decide) dX6_addBelow_58 ?_
    refine r_iload_n dX6_addBelow_61 rfl 1 rfl ?_
    refine r_dup2 dX6_addBelow_62 rfl rfl ?_
    obtain ⟨g7, e⟩ := gd_o e
    refine r_saI E.p 41 rfl (by decide) (by decide) ha1 g7 rfl dX6_addBelow_63 ?_
    refine r_iload_n dX6_addBelow_64 rfl 3 rfl ?_
    refine r_aload_n dX6_addBelow_65 rfl 0 rfl ?_
    refine r_sR E.p 41 fG_X6_104 (by decide) dX6_addBelow_66 ?_
    refine r_iload_n dX6_addBelow_69 rfl 2 rfl ?_
    obtain ⟨g8, e⟩ := gd_o e
    refine r_saI E.p 41 rfl (by decide) (by decide) ha2 g8 rfl dX6_addBelow_70 ?_
    refine r_imul dX6_addBelow_71 ?_
    refine r_iadd dX6_addBelow_72 ?_
    obtain ⟨g9, e⟩ := gd_o e
    refine r_saP E.p 41 rfl (by decide) (by decide) ha1 g9 (wr_r _) rfl dX6_addBelow_73 ?_
    refine r_rrs E.p (fun rr10 => ?_)
    refine r_aload_n dX6_addBelow_74 rfl 0 rfl ?_
    refine r_sR E.p 42 fG_X6_107 (by decide) dX6_addBelow_75 ?_
    refine r_iload_n dX6_addBelow_78 rfl 1 rfl ?_
    refine r_aload_n dX6_addBelow_79 rfl 0 rfl ?_
    refine r_sR E.p 42 fG_X6_107 (by decide) dX6_addBelow_80 ?_
    refine r_iload_n dX6_addBelow_83 rfl 2 rfl ?_
    obtain ⟨g11, e⟩ := gd_o e
    refine r_saI E.p 42 rfl (by decide) (by decide) ha2 g11 rfl dX6_addBelow_84 ?_
    refine r_iconst dX6_addBelow_85 ?_
    refine r_iadd dX6_addBelow_86 ?_
    refine r_aload_n dX6_addBelow_87 rfl 0 rfl ?_
    refine r_sR E.p 42 fG_X6_107 (by decide) dX6_addBelow_88 ?_
    refine r_iload_n dX6_addBelow_91 rfl 1 rfl ?_
    obtain ⟨g12, e⟩ := gd_o e
    refine r_saI E.p 42 rfl (by decide) (by decide) ha1 g12 rfl dX6_addBelow_92 ?_
    have eT := (r_ifo e).1
    have eF := (r_ifo e).2
    refine r_icmp_le (wr_r _) (((rr10.mine rfl).a 42 (by decide) rfl).1 _) 107 dX6_addBelow_93 (by decide) (fun c13 => ?_) (fun c13 => ?_)
    · have e := eT c13
      refine r_aload_n dX6_addBelow_107 rfl 0 rfl ?_
      refine r_sR E.p 42 fG_X6_107 (by decide) dX6_addBelow_108 ?_
      refine r_iload_n dX6_addBelow_111 rfl 1 rfl ?_
      obtain ⟨g14, e⟩ := gd_o e
      refine r_saI E.p 42 rfl (by decide) (by decide) ha1 g14 rfl dX6_addBelow_112 ?_
      refine r_sub [0, 1, 2] rfl ?_
      exact wX6_addBelow_b113 E (sA (sA s 40 a1 (wr ((gA s 40 a1) + (gA s 40 a2)))) 41 a1 (wr ((gA (sA s 40 a1 (wr ((gA s 40 a1) + (gA s 40 a2)))) 41 a1) + (wr (a3 * (gA (sA s 40 a1 (wr ((gA s 40 a1) + (gA s 40 a2)))) 41 a2)))))) a1 a2 a1 (gA (sA (sA s 40 a1 (wr ((gA s 40 a1) + (gA s 40 a2)))) 41 a1 (wr ((gA (sA s 40 a1 (wr ((gA s 40 a1) + (gA s 40 a2)))) 41 a1) + (wr (a3 * (gA (sA s 40 a1 (wr ((gA s 40 a1) + (gA s 40 a2)))) 41 a2)))))) 42 a1) ha1 ha2 ha1 (((rr10.mine rfl).a 42 (by decide) rfl).1 _) e
    · have e := eF c13
      refine r_aload_n dX6_addBelow_96 rfl 0 rfl ?_
      refine r_sR E.p 42 fG_X6_107 (by decide) dX6_addBelow_97 ?_
      refine r_iload_n dX6_addBelow_100 rfl 2 rfl ?_
      obtain ⟨g15, e⟩ := gd_o e
      refine r_saI E.p 42 rfl (by decide) (by decide) ha2 g15 rfl dX6_addBelow_101 ?_
      refine r_iconst dX6_addBelow_102 ?_
      refine r_iadd dX6_addBelow_103 ?_
      refine r_goto 113 dX6_addBelow_104 (by decide) ?_
      refine r_sub [0, 1, 2] rfl ?_
      exact wX6_addBelow_b113 E (sA (sA s 40 a1 (wr ((gA s 40 a1) + (gA s 40 a2)))) 41 a1 (wr ((gA (sA s 40 a1 (wr ((gA s 40 a1) + (gA s 40 a2)))) 41 a1) + (wr (a3 * (gA (sA s 40 a1 (wr ((gA s 40 a1) + (gA s 40 a2)))) 41 a2)))))) a1 a2 a1 (wr ((gA (sA (sA s 40 a1 (wr ((gA s 40 a1) + (gA s 40 a2)))) 41 a1 (wr ((gA (sA s 40 a1 (wr ((gA s 40 a1) + (gA s 40 a2)))) 41 a1) + (wr (a3 * (gA (sA s 40 a1 (wr ((gA s 40 a1) + (gA s 40 a2)))) 41 a2)))))) 42 a2) + 1)) ha1 ha2 ha1 (wr_r _) e
def fX6_addBelow  (s : Sg) (a1 : Int) (a2 : Int) (a3 : Int) : Option (Sg) := gd (inb a1 36) (if ¬ (gA s 36 a1) = 1 then fX6_addBelow_b32 s a1 a2 a3 else gd (inb a2 36) (if (gA s 36 a2) = 1 then fX6_addBelow_b32 s a1 a2 a3 else gd (inb a2 36) (gd (inb a1 36) (fX6_addBelow_b32 (sA s 36 a1 (gA s 36 a2)) a1 a2 a3))))
theorem kX6_addBelow {G : Gx}  {b : Nat} {ad : Nat → Nat} {s' : Sg} {h : hS} {s : Sg} {a1 : Int} {a2 : Int} {a3 : Int}  (ha1 : rI a1) (ha2 : rI a2) (ha3 : rI a3) (e : fX6_addBelow s a1 a2 a3 = some (s')) : CtX G yX6_addBelow cX6_addBelow 4 none 0 0 [(6, b, ad)] [s] h [tr (some b), ti a1, ti a2, ti a3] none [s'] h := by
  refine CtX.of (by decide) (Nat.le_of_ble_eq_true rfl) [(0, tr (some b)), (1, ti a1), (2, ti a2), (3, ti a3)] rfl ?_
  have E : EndX (G, 4, [(6, b, ad)], h, [s'], h, none, none, yX6_addBelow.name) [(6, b, ad)] 4 none none [s'] h := ⟨rfl, rfl, rfl, rfl, rfl, rfl⟩
  unfold fX6_addBelow at e
  refine r_rrs E.p (fun rr => ?_)
  refine r_aload_n dX6_addBelow_0 rfl 0 rfl ?_
  refine r_sR E.p 36 fG_X6_89 (by decide) dX6_addBelow_1 ?_
  refine r_iload_n dX6_addBelow_4 rfl 1 rfl ?_
  obtain ⟨g1, e⟩ := gd_o e
  refine r_saI E.p 36 rfl (by decide) (by decide) ha1 g1 rfl dX6_addBelow_5 ?_
  refine r_iconst dX6_addBelow_6 ?_
  have eT := (r_ifo e).1
  have eF := (r_ifo e).2
  refine r_icmp_ne (((rr.mine rfl).a 36 (by decide) rfl).1 _) (by decide) 32 dX6_addBelow_7 (by decide) (fun c2 => ?_) (fun c2 => ?_)
  · have e := eT c2
    exact wX6_addBelow_b32 E s a1 a2 a3 ha1 ha2 ha3 e
  · have e := eF c2
    refine r_aload_n dX6_addBelow_10 rfl 0 rfl ?_
    refine r_sR E.p 36 fG_X6_89 (by decide) dX6_addBelow_11 ?_
    refine r_iload_n dX6_addBelow_14 rfl 2 rfl ?_
    obtain ⟨g3, e⟩ := gd_o e
    refine r_saI E.p 36 rfl (by decide) (by decide) ha2 g3 rfl dX6_addBelow_15 ?_
    refine r_iconst dX6_addBelow_16 ?_
    have eT := (r_ifo e).1
    have eF := (r_ifo e).2
    refine r_icmp_eq (((rr.mine rfl).a 36 (by decide) rfl).1 _) (by decide) 32 dX6_addBelow_17 (by decide) (fun c4 => ?_) (fun c4 => ?_)
    · have e := eT c4
      exact wX6_addBelow_b32 E s a1 a2 a3 ha1 ha2 ha3 e
    · have e := eF c4
      refine r_aload_n dX6_addBelow_20 rfl 0 rfl ?_
      refine r_sR E.p 36 fG_X6_89 (by decide) dX6_addBelow_21 ?_
      refine r_iload_n dX6_addBelow_24 rfl 1 rfl ?_
      refine r_aload_n dX6_addBelow_25 rfl 0 rfl ?_
      refine r_sR E.p 36 fG_X6_89 (by decide) dX6_addBelow_26 ?_
      refine r_iload_n dX6_addBelow_29 rfl 2 rfl ?_
      obtain ⟨g5, e⟩ := gd_o e
      refine r_saI E.p 36 rfl (by decide) (by decide) ha2 g5 rfl dX6_addBelow_30 ?_
      obtain ⟨g6, e⟩ := gd_o e
      refine r_saP E.p 36 rfl (by decide) (by decide) ha1 g6 (((rr.mine rfl).a 36 (by decide) rfl).1 _) rfl dX6_addBelow_31 ?_
      refine r_rrs E.p (fun rr7 => ?_)
      exact wX6_addBelow_b32 E (sA s 36 a1 (gA s 36 a2)) a1 a2 a3 ha1 ha2 ha3 e
def fX6_layGoal_b59 (s : Sg) (k1 : Int) (k2 : Int) : Option (Sg) := gd (inb k1 36) (some (sA s 36 k1 k2))
theorem wX6_layGoal_b59 {N : Nx} {b : Nat} {ad : Nat → Nat} {s' : Sg} {h : hS} (E : EndX N [(6, b, ad)] 5 none none [s'] h)  (s : Sg) (k1 : Int) (k2 : Int) (hk1 : rI k1) (hk2 : rI k2) (e : fX6_layGoal_b59 s k1 k2 = some (s')) : AtPc cX6_layGoal RX6 4 100 N [s] h 59 [] [ti k2, ti k1, tr (some (ad 36))] := by
  unfold fX6_layGoal_b59 at e
  refine r_rrs E.p (fun rr => ?_)
  obtain ⟨g1, e⟩ := gd_o e
  refine r_saP E.p 36 rfl (by decide) (by decide) hk1 g1 hk2 rfl dX6_layGoal_59 ?_
  refine r_rrs E.p (fun rr2 => ?_)
  cases e
  exact r_vret E.σ E.st E.rt E.r dX6_layGoal_60
def fX6_layGoal_b225 (s : Sg) (a3 : Int) : Option (Sg) := gd (inb a3 36) (gd (inb a3 36) (some (sA s 41 a3 (irm (gA s 41 a3) 1009))))
theorem wX6_layGoal_b225 {N : Nx} {b : Nat} {ad : Nat → Nat} {s' : Sg} {h : hS} (E : EndX N [(6, b, ad)] 5 none none [s'] h)  (s : Sg) (a3 : Int) (ha3 : rI a3) (e : fX6_layGoal_b225 s a3 = some (s')) : AtPc cX6_layGoal RX6 4 100 N [s] h 225 [(0, tr (some b)), (3, ti a3)] [] := by
  unfold fX6_layGoal_b225 at e
  refine r_rrs E.p (fun rr => ?_)
  refine r_aload_n dX6_layGoal_225 rfl 0 rfl ?_
  refine r_sR E.p 41 fG_X6_104 (by decide) dX6_layGoal_226 ?_
  refine r_iload_n dX6_layGoal_229 rfl 1 rfl ?_
  refine r_dup2 dX6_layGoal_230 rfl rfl ?_
  obtain ⟨g1, e⟩ := gd_o e
  refine r_saI E.p 41 rfl (by decide) (by decide) ha3 g1 rfl dX6_layGoal_231 ?_
  refine r_sipush dX6_layGoal_232 (by decide) ?_
  refine r_irem (by decide) (by decide) dX6_layGoal_235 ?_
  obtain ⟨g2, e⟩ := gd_o e
  refine r_saP E.p 41 rfl (by decide) (by decide) ha3 g2 (irm_r _ _) rfl dX6_layGoal_236 ?_
  refine r_rrs E.p (fun rr3 => ?_)
  cases e
  exact r_vret E.σ E.st E.rt E.r dX6_layGoal_237
def fX6_layGoal_b165 (s : Sg) (a3 : Int) (a4 : Int) : Option (Sg) := gd (inb a4 6) (if (gA s 9 a4) ≤ 1 then fX6_layGoal_b225 s a3 else gd (inb (wr ((wr (2 * a4)) + 1)) 12) (gd (inb (wr ((wr (2 * a4)) + 1)) 12) (gd (inb (gA s 11 (wr ((wr (2 * a4)) + 1))) 2) (gd (inb a3 36) (gd (inb a3 36) (bd (fX6_addBelow (sA s 39 a3 (wr ((wr (9 * (gA s 10 (wr ((wr (2 * a4)) + 1))))) + (gA s 35 (gA s 11 (wr ((wr (2 * a4)) + 1))))))) a3 (gA (sA s 39 a3 (wr ((wr (9 * (gA s 10 (wr ((wr (2 * a4)) + 1))))) + (gA s 35 (gA s 11 (wr ((wr (2 * a4)) + 1))))))) 39 a3) 3) fun p9 => fX6_layGoal_b225 p9 a3))))))
theorem wX6_layGoal_b165 {N : Nx} {b : Nat} {ad : Nat → Nat} {s' : Sg} {h : hS} (E : EndX N [(6, b, ad)] 5 none none [s'] h)  (s : Sg) (a3 : Int) (a4 : Int) (ha3 : rI a3) (ha4 : rI a4) (e : fX6_layGoal_b165 s a3 a4 = some (s')) : AtPc cX6_layGoal RX6 4 100 N [s] h 165 [(0, tr (some b)), (3, ti a3), (4, ti a4)] [] := by
  unfold fX6_layGoal_b165 at e
  refine r_rrs E.p (fun rr => ?_)
  refine r_aload_n dX6_layGoal_165 rfl 0 rfl ?_
  refine r_sR E.p 9 fG_X6_28 (by decide) dX6_layGoal_166 ?_
  refine r_iload dX6_layGoal_169 2 rfl ?_
  obtain ⟨g1, e⟩ := gd_o e
  refine r_saI E.p 9 rfl (by decide) (by decide) ha4 g1 rfl dX6_layGoal_171 ?_
  refine r_iconst dX6_layGoal_172 ?_
  have eT := (r_ifo e).1
  have eF := (r_ifo e).2
  refine r_icmp_le (((rr.mine rfl).a 9 (by decide) rfl).1 _) (by decide) 225 dX6_layGoal_173 (by decide) (fun c2 => ?_) (fun c2 => ?_)
  · have e := eT c2
    refine r_sub [0, 1] rfl ?_
    exact wX6_layGoal_b225 E s a3 ha3 e
  · have e := eF c2
    refine r_aload_n dX6_layGoal_176 rfl 0 rfl ?_
    refine r_sR E.p 39 fG_X6_98 (by decide) dX6_layGoal_177 ?_
    refine r_iload_n dX6_layGoal_180 rfl 1 rfl ?_
    refine r_bipush dX6_layGoal_181 (by decide) ?_
    refine r_aload_n dX6_layGoal_183 rfl 0 rfl ?_
    refine r_sR E.p 10 fG_X6_31 (by decide) dX6_layGoal_184 ?_
    refine r_iconst dX6_layGoal_187 ?_
    refine r_iload dX6_layGoal_188 2 rfl ?_
    refine r_imul dX6_layGoal_190 ?_
    refine r_iconst dX6_layGoal_191 ?_
    refine r_iadd dX6_layGoal_192 ?_
    obtain ⟨g3, e⟩ := gd_o e
    refine r_saI E.p 10 rfl (by decide) (by decide) (wr_r _) g3 rfl dX6_layGoal_193 ?_
    refine r_imul dX6_layGoal_194 ?_
    refine r_aload_n dX6_layGoal_195 rfl 0 rfl ?_
    refine r_sR E.p 35 fG_X6_86 (by decide) dX6_layGoal_196 ?_
    refine r_aload_n dX6_layGoal_199 rfl 0 rfl ?_
    refine r_sR E.p 11 fG_X6_34 (by decide) dX6_layGoal_200 ?_
    refine r_iconst dX6_layGoal_203 ?_
    refine r_iload dX6_layGoal_204 2 rfl ?_
    refine r_imul dX6_layGoal_206 ?_
    refine r_iconst dX6_layGoal_207 ?_
    refine r_iadd dX6_layGoal_208 ?_
    obtain ⟨g4, e⟩ := gd_o e
    refine r_saI E.p 11 rfl (by decide) (by decide) (wr_r _) g4 rfl dX6_layGoal_209 ?_
    obtain ⟨g5, e⟩ := gd_o e
    refine r_saI E.p 35 rfl (by decide) (by decide) (((rr.mine rfl).a 11 (by decide) rfl).1 _) g5 rfl dX6_layGoal_210 ?_
    refine r_iadd dX6_layGoal_211 ?_
    obtain ⟨g6, e⟩ := gd_o e
    refine r_saP E.p 39 rfl (by decide) (by decide) ha3 g6 (wr_r _) rfl dX6_layGoal_212 ?_
    refine r_rrs E.p (fun rr7 => ?_)
    refine r_aload_n dX6_layGoal_213 rfl 0 rfl ?_
    refine r_iload_n dX6_layGoal_214 rfl 1 rfl ?_
    refine r_aload_n dX6_layGoal_215 rfl 0 rfl ?_
    refine r_sR E.p 39 fG_X6_98 (by decide) dX6_layGoal_216 ?_
    refine r_iload_n dX6_layGoal_219 rfl 1 rfl ?_
    obtain ⟨g8, e⟩ := gd_o e
    refine r_saI E.p 39 rfl (by decide) (by decide) ha3 g8 rfl dX6_layGoal_220 ?_
    refine r_iconst dX6_layGoal_221 ?_
    obtain ⟨p9, q10, e⟩ := bd_o e
    have k11 := kX6_addBelow (G := nG N) (b := b) (ad := ad) (h := h) ha3 (((rr7.mine rfl).a 39 (by decide) rfl).1 _) (by decide) q10
    have z12 := (k11 rr7).1.2.2.2
    refine r_callV (j := some 0) 3 [ti a3, ti (gA (sA s 39 a3 (wr ((wr (9 * (gA s 10 (wr ((wr (2 * a4)) + 1))))) + (gA s 35 (gA s 11 (wr ((wr (2 * a4)) + 1))))))) 39 a3), ti 3] (rec_sg (j := 0) (r := (RX6, TX6, 63)) rfl (by rw [E.p]; rfl)) rfl k11 (injO_1 E.p) (subO_1 E.p) getO_1 setO_1 (lw_V q1777 q1779 qs79 q123 q1780) (by decide +kernel) rfl (Nat.le_of_ble_eq_true rfl) (Nat.le_of_ble_eq_true rfl) rfl (Nat.le_of_ble_eq_true rfl) dX6_layGoal_222 rfl ?_
    refine r_rrs E.p (fun rr13 => ?_)
    refine r_sub [0, 1] rfl ?_
    exact wX6_layGoal_b225 E p9 a3 ha3 e
def fX6_layGoal  (s : Sg) (a1 : Int) (a2 : Int) : Option (Sg) := bd (fX6_takes s a1 a2) fun p1 => gd (inb (wr ((wr (9 * a1)) + a2)) 36) (gd (inb (wr ((wr (9 * a1)) + a2)) 36) (gd (inb (wr ((wr (9 * a1)) + a2)) 36) (if 0 ≤ p1.1 then bd (fX6_fitsAt (sA (sA (sA p1.2 37 (wr ((wr (9 * a1)) + a2)) p1.1) 38 (wr ((wr (9 * a1)) + a2)) (-1)) 39 (wr ((wr (9 * a1)) + a2)) (-1)) p1.1 a2) fun p13 => gd (inb (wr ((wr (9 * a1)) + a2)) 36) (gd (inb (wr ((wr (9 * a1)) + a2)) 36) (gd (inb (wr ((wr (9 * a1)) + a2)) 36) (gd (inb (wr ((wr (9 * a1)) + a2)) 36) (gd (inb (wr ((wr (9 * a1)) + a2)) 36) (gd (inb p1.1 6) (if (gA (sA (sA (sA (sA (sA p13.2 36 (wr ((wr (9 * a1)) + a2)) 1) 40 (wr ((wr (9 * a1)) + a2)) 1) 41 (wr ((wr (9 * a1)) + a2)) (wr (7 * (wr (p1.1 + 1))))) 42 (wr ((wr (9 * a1)) + a2)) 1) 43 (wr ((wr (9 * a1)) + a2)) 0) 9 p1.1) ≤ 0 then fX6_layGoal_b165 (sA (sA (sA (sA (sA p13.2 36 (wr ((wr (9 * a1)) + a2)) 1) 40 (wr ((wr (9 * a1)) + a2)) 1) 41 (wr ((wr (9 * a1)) + a2)) (wr (7 * (wr (p1.1 + 1))))) 42 (wr ((wr (9 * a1)) + a2)) 1) 43 (wr ((wr (9 * a1)) + a2)) 0) (wr ((wr (9 * a1)) + a2)) p1.1 else gd (inb (wr (2 * p1.1)) 12) (gd (inb (wr (2 * p1.1)) 12) (gd (inb (gA (sA (sA (sA (sA (sA p13.2 36 (wr ((wr (9 * a1)) + a2)) 1) 40 (wr ((wr (9 * a1)) + a2)) 1) 41 (wr ((wr (9 * a1)) + a2)) (wr (7 * (wr (p1.1 + 1))))) 42 (wr ((wr (9 * a1)) + a2)) 1) 43 (wr ((wr (9 * a1)) + a2)) 0) 11 (wr (2 * p1.1))) 2) (gd (inb (wr ((wr (9 * a1)) + a2)) 36) (gd (inb (wr ((wr (9 * a1)) + a2)) 36) (bd (fX6_addBelow (sA (sA (sA (sA (sA (sA p13.2 36 (wr ((wr (9 * a1)) + a2)) 1) 40 (wr ((wr (9 * a1)) + a2)) 1) 41 (wr ((wr (9 * a1)) + a2)) (wr (7 * (wr (p1.1 + 1))))) 42 (wr ((wr (9 * a1)) + a2)) 1) 43 (wr ((wr (9 * a1)) + a2)) 0) 38 (wr ((wr (9 * a1)) + a2)) (wr ((wr (9 * (gA (sA (sA (sA (sA (sA p13.2 36 (wr ((wr (9 * a1)) + a2)) 1) 40 (wr ((wr (9 * a1)) + a2)) 1) 41 (wr ((wr (9 * a1)) + a2)) (wr (7 * (wr (p1.1 + 1))))) 42 (wr ((wr (9 * a1)) + a2)) 1) 43 (wr ((wr (9 * a1)) + a2)) 0) 10 (wr (2 * p1.1))))) + (gA (sA (sA (sA (sA (sA p13.2 36 (wr ((wr (9 * a1)) + a2)) 1) 40 (wr ((wr (9 * a1)) + a2)) 1) 41 (wr ((wr (9 * a1)) + a2)) (wr (7 * (wr (p1.1 + 1))))) 42 (wr ((wr (9 * a1)) + a2)) 1) 43 (wr ((wr (9 * a1)) + a2)) 0) 35 (gA (sA (sA (sA (sA (sA p13.2 36 (wr ((wr (9 * a1)) + a2)) 1) 40 (wr ((wr (9 * a1)) + a2)) 1) 41 (wr ((wr (9 * a1)) + a2)) (wr (7 * (wr (p1.1 + 1))))) 42 (wr ((wr (9 * a1)) + a2)) 1) 43 (wr ((wr (9 * a1)) + a2)) 0) 11 (wr (2 * p1.1))))))) (wr ((wr (9 * a1)) + a2)) (gA (sA (sA (sA (sA (sA (sA p13.2 36 (wr ((wr (9 * a1)) + a2)) 1) 40 (wr ((wr (9 * a1)) + a2)) 1) 41 (wr ((wr (9 * a1)) + a2)) (wr (7 * (wr (p1.1 + 1))))) 42 (wr ((wr (9 * a1)) + a2)) 1) 43 (wr ((wr (9 * a1)) + a2)) 0) 38 (wr ((wr (9 * a1)) + a2)) (wr ((wr (9 * (gA (sA (sA (sA (sA (sA p13.2 36 (wr ((wr (9 * a1)) + a2)) 1) 40 (wr ((wr (9 * a1)) + a2)) 1) 41 (wr ((wr (9 * a1)) + a2)) (wr (7 * (wr (p1.1 + 1))))) 42 (wr ((wr (9 * a1)) + a2)) 1) 43 (wr ((wr (9 * a1)) + a2)) 0) 10 (wr (2 * p1.1))))) + (gA (sA (sA (sA (sA (sA p13.2 36 (wr ((wr (9 * a1)) + a2)) 1) 40 (wr ((wr (9 * a1)) + a2)) 1) 41 (wr ((wr (9 * a1)) + a2)) (wr (7 * (wr (p1.1 + 1))))) 42 (wr ((wr (9 * a1)) + a2)) 1) 43 (wr ((wr (9 * a1)) + a2)) 0) 35 (gA (sA (sA (sA (sA (sA p13.2 36 (wr ((wr (9 * a1)) + a2)) 1) 40 (wr ((wr (9 * a1)) + a2)) 1) 41 (wr ((wr (9 * a1)) + a2)) (wr (7 * (wr (p1.1 + 1))))) 42 (wr ((wr (9 * a1)) + a2)) 1) 43 (wr ((wr (9 * a1)) + a2)) 0) 11 (wr (2 * p1.1))))))) 38 (wr ((wr (9 * a1)) + a2))) 2) fun p36 => fX6_layGoal_b165 p36 (wr ((wr (9 * a1)) + a2)) p1.1))))))))))) else if ¬ p1.1 = (-1) then fX6_layGoal_b59 (sA (sA (sA p1.2 37 (wr ((wr (9 * a1)) + a2)) p1.1) 38 (wr ((wr (9 * a1)) + a2)) (-1)) 39 (wr ((wr (9 * a1)) + a2)) (-1)) (wr ((wr (9 * a1)) + a2)) (-2) else fX6_layGoal_b59 (sA (sA (sA p1.2 37 (wr ((wr (9 * a1)) + a2)) p1.1) 38 (wr ((wr (9 * a1)) + a2)) (-1)) 39 (wr ((wr (9 * a1)) + a2)) (-1)) (wr ((wr (9 * a1)) + a2)) 0)))
theorem kX6_layGoal {G : Gx}  {b : Nat} {ad : Nat → Nat} {s' : Sg} {h : hS} {s : Sg} {a1 : Int} {a2 : Int}  (ha1 : rI a1) (ha2 : rI a2) (e : fX6_layGoal s a1 a2 = some (s')) : CtX G yX6_layGoal cX6_layGoal 5 none 4 100 [(6, b, ad)] [s] h [tr (some b), ti a1, ti a2] none [s'] h := by
  refine CtX.of (by decide) (Nat.le_of_ble_eq_true rfl) [(0, tr (some b)), (1, ti a1), (2, ti a2)] rfl ?_
  have E : EndX (G, 5, [(6, b, ad)], h, [s'], h, none, none, yX6_layGoal.name) [(6, b, ad)] 5 none none [s'] h := ⟨rfl, rfl, rfl, rfl, rfl, rfl⟩
  unfold fX6_layGoal at e
  refine r_rrs E.p (fun rr => ?_)
  refine r_bipush dX6_layGoal_0 (by decide) ?_
  refine r_iload_n dX6_layGoal_2 rfl 1 rfl ?_
  refine r_imul dX6_layGoal_3 ?_
  refine r_iload_n dX6_layGoal_4 rfl 2 rfl ?_
  refine r_iadd dX6_layGoal_5 ?_
  refine r_istore_n (lv' := [(3, ti (wr ((wr (9 * a1)) + a2))), (0, tr (some b)), (1, ti a1), (2, ti a2)]) dX6_layGoal_6 rfl (E.lt (by decide)) rfl ?_
  refine r_aload_n dX6_layGoal_7 rfl 1 rfl ?_
  refine r_iload_n dX6_layGoal_8 rfl 2 rfl ?_
  refine r_iload_n dX6_layGoal_9 rfl 3 rfl ?_
  obtain ⟨p1, q2, e⟩ := bd_o e
  have k3 := kX6_takes (G := G) (b := b) (ad := ad) (h := h) ha1 ha2 q2
  have z4 := (k3 rr).1.2.2.2
  refine r_callV (j := some 0) 2 [ti a1, ti a2] (rec_sg (j := 0) (r := (RX6, TX6, 63)) rfl (by rw [E.p]; rfl)) rfl k3 (injO_1 E.p) (subO_1 E.p) getO_1 setO_1 (lw_V q1757 q1759 qs74 q123 q1760) (by decide +kernel) rfl (Nat.le_of_ble_eq_true rfl) (Nat.le_of_ble_eq_true rfl) rfl (Nat.le_of_ble_eq_true rfl) dX6_layGoal_10 rfl ?_
  refine r_rrs E.p (fun rr5 => ?_)
  refine r_istore (lv' := [(4, ti p1.1), (3, ti (wr ((wr (9 * a1)) + a2))), (0, tr (some b)), (1, ti a1), (2, ti a2)]) dX6_layGoal_13 (E.lt (by decide)) rfl ?_
  refine r_aload_n dX6_layGoal_15 rfl 2 rfl ?_
  refine r_sR E.p 37 fG_X6_92 (by decide) dX6_layGoal_16 ?_
  refine r_iload_n dX6_layGoal_19 rfl 1 rfl ?_
  refine r_iload dX6_layGoal_20 0 rfl ?_
  obtain ⟨g6, e⟩ := gd_o e
  refine r_saP E.p 37 rfl (by decide) (by decide) (wr_r _) g6 z4 rfl dX6_layGoal_22 ?_
  refine r_rrs E.p (fun rr7 => ?_)
  refine r_aload_n dX6_layGoal_23 rfl 2 rfl ?_
  refine r_sR E.p 38 fG_X6_95 (by decide) dX6_layGoal_24 ?_
  refine r_iload_n dX6_layGoal_27 rfl 1 rfl ?_
  refine r_iconst dX6_layGoal_28 ?_
  obtain ⟨g8, e⟩ := gd_o e
  refine r_saP E.p 38 rfl (by decide) (by decide) (wr_r _) g8 (by show rI _; decide) rfl dX6_layGoal_29 ?_
  refine r_rrs E.p (fun rr9 => ?_)
  refine r_aload_n dX6_layGoal_30 rfl 2 rfl ?_
  refine r_sR E.p 39 fG_X6_98 (by decide) dX6_layGoal_31 ?_
  refine r_iload_n dX6_layGoal_34 rfl 1 rfl ?_
  refine r_iconst dX6_layGoal_35 ?_
  obtain ⟨g10, e⟩ := gd_o e
  refine r_saP E.p 39 rfl (by decide) (by decide) (wr_r _) g10 (by show rI _; decide) rfl dX6_layGoal_36 ?_
  refine r_rrs E.p (fun rr11 => ?_)
  refine r_iload dX6_layGoal_37 0 rfl ?_
  have eT := (r_ifo e).1
  have eF := (r_ifo e).2
  refine r_if_ge z4 61 dX6_layGoal_39 (by decide) (fun c12 => ?_) (fun c12 => ?_)
  · have e := eT c12
    refine r_aload_n dX6_layGoal_61 rfl 2 rfl ?_
    refine r_iload dX6_layGoal_62 0 rfl ?_
    refine r_iload_n dX6_layGoal_64 rfl 4 rfl ?_
    obtain ⟨p13, q14, e⟩ := bd_o e
    have k15 := kX6_fitsAt (G := G) (b := b) (ad := ad) (h := h) z4 ha2 q14
    have z16 := (k15 rr11).1.2.2.2
    refine r_callV (j := some 0) 2 [ti p1.1, ti a2] (rec_sg (j := 0) (r := (RX6, TX6, 63)) rfl (by rw [E.p]; rfl)) rfl k15 (injO_1 E.p) (subO_1 E.p) getO_1 setO_1 (lw_V q1682 q1684 qs60 q123 q1685) (by decide +kernel) rfl (Nat.le_of_ble_eq_true rfl) (Nat.le_of_ble_eq_true rfl) rfl (Nat.le_of_ble_eq_true rfl) dX6_layGoal_65 rfl ?_
    refine r_rrs E.p (fun rr17 => ?_)
    refine r_pop dX6_layGoal_68 rfl ?_
    refine r_aload_n dX6_layGoal_69 rfl 2 rfl ?_
    refine r_sR E.p 36 fG_X6_89 (by decide) dX6_layGoal_70 ?_
    refine r_iload_n dX6_layGoal_73 rfl 1 rfl ?_
    refine r_iconst dX6_layGoal_74 ?_
    obtain ⟨g18, e⟩ := gd_o e
    refine r_saP E.p 36 rfl (by decide) (by decide) (wr_r _) g18 (by show rI _; decide) rfl dX6_layGoal_75 ?_
    refine r_rrs E.p (fun rr19 => ?_)
    refine r_aload_n dX6_layGoal_76 rfl 2 rfl ?_
    refine r_sR E.p 40 fG_X6_101 (by decide) dX6_layGoal_77 ?_
    refine r_iload_n dX6_layGoal_80 rfl 1 rfl ?_
    refine r_iconst dX6_layGoal_81 ?_
    obtain ⟨g20, e⟩ := gd_o e
    refine r_saP E.p 40 rfl (by decide) (by decide) (wr_r _) g20 (by show rI _; decide) rfl dX6_layGoal_82 ?_
    refine r_rrs E.p (fun rr21 => ?_)
    refine r_aload_n dX6_layGoal_83 rfl 2 rfl ?_
    refine r_sR E.p 41 fG_X6_104 (by decide) dX6_layGoal_84 ?_
    refine r_iload_n dX6_layGoal_87 rfl 1 rfl ?_
    refine r_bipush dX6_layGoal_88 (by decide) ?_
    refine r_iload dX6_layGoal_90 0 rfl ?_
    refine r_iconst dX6_layGoal_92 ?_
    refine r_iadd dX6_layGoal_93 ?_
    refine r_imul dX6_layGoal_94 ?_
    obtain ⟨g22, e⟩ := gd_o e
    refine r_saP E.p 41 rfl (by decide) (by decide) (wr_r _) g22 (wr_r _) rfl dX6_layGoal_95 ?_
    refine r_rrs E.p (fun rr23 => ?_)
    refine r_aload_n dX6_layGoal_96 rfl 2 rfl ?_
    refine r_sR E.p 42 fG_X6_107 (by decide) dX6_layGoal_97 ?_
    refine r_iload_n dX6_layGoal_100 rfl 1 rfl ?_
    refine r_iconst dX6_layGoal_101 ?_
    obtain ⟨g24, e⟩ := gd_o e
    refine r_saP E.p 42 rfl (by decide) (by decide) (wr_r _) g24 (by show rI _; decide) rfl dX6_layGoal_102 ?_
    refine r_rrs E.p (fun rr25 => ?_)
    refine r_aload_n dX6_layGoal_103 rfl 2 rfl ?_
    refine r_sR E.p 43 fG_X6_110 (by decide) dX6_layGoal_104 ?_
    refine r_iload_n dX6_layGoal_107 rfl 1 rfl ?_
    refine r_iconst dX6_layGoal_108 ?_
    obtain ⟨g26, e⟩ := gd_o e
    refine r_saP E.p 43 rfl (by decide) (by decide) (wr_r _) g26 (by show rI _; decide) rfl dX6_layGoal_109 ?_
    refine r_rrs E.p (fun rr27 => ?_)
    refine r_aload_n dX6_layGoal_110 rfl 2 rfl ?_
    refine r_sR E.p 9 fG_X6_28 (by decide) dX6_layGoal_111 ?_
    refine r_iload dX6_layGoal_114 0 rfl ?_
    obtain ⟨g28, e⟩ := gd_o e
    refine r_saI E.p 9 rfl (by decide) (by decide) z4 g28 rfl dX6_layGoal_116 ?_
    have eT := (r_ifo e).1
    have eF := (r_ifo e).2
    refine r_if_le (((rr27.mine rfl).a 9 (by decide) rfl).1 _) 165 dX6_layGoal_117 (by decide) (fun c29 => ?_) (fun c29 => ?_)
    · have e := eT c29
      refine r_sub [2, 1, 0] rfl ?_
      exact wX6_layGoal_b165 E (sA (sA (sA (sA (sA p13.2 36 (wr ((wr (9 * a1)) + a2)) 1) 40 (wr ((wr (9 * a1)) + a2)) 1) 41 (wr ((wr (9 * a1)) + a2)) (wr (7 * (wr (p1.1 + 1))))) 42 (wr ((wr (9 * a1)) + a2)) 1) 43 (wr ((wr (9 * a1)) + a2)) 0) (wr ((wr (9 * a1)) + a2)) p1.1 (wr_r _) z4 e
    · have e := eF c29
      refine r_aload_n dX6_layGoal_120 rfl 2 rfl ?_
      refine r_sR E.p 38 fG_X6_95 (by decide) dX6_layGoal_121 ?_
      refine r_iload_n dX6_layGoal_124 rfl 1 rfl ?_
      refine r_bipush dX6_layGoal_125 (by decide) ?_
      refine r_aload_n dX6_layGoal_127 rfl 2 rfl ?_
      refine r_sR E.p 10 fG_X6_31 (by decide) dX6_layGoal_128 ?_
      refine r_iconst dX6_layGoal_131 ?_
      refine r_iload dX6_layGoal_132 0 rfl ?_
      refine r_imul dX6_layGoal_134 ?_
      obtain ⟨g30, e⟩ := gd_o e
      refine r_saI E.p 10 rfl (by decide) (by decide) (wr_r _) g30 rfl dX6_layGoal_135 ?_
      refine r_imul dX6_layGoal_136 ?_
      refine r_aload_n dX6_layGoal_137 rfl 2 rfl ?_
      refine r_sR E.p 35 fG_X6_86 (by decide) dX6_layGoal_138 ?_
      refine r_aload_n dX6_layGoal_141 rfl 2 rfl ?_
      refine r_sR E.p 11 fG_X6_34 (by decide) dX6_layGoal_142 ?_
      refine r_iconst dX6_layGoal_145 ?_
      refine r_iload dX6_layGoal_146 0 rfl ?_
      refine r_imul dX6_layGoal_148 ?_
      obtain ⟨g31, e⟩ := gd_o e
      refine r_saI E.p 11 rfl (by decide) (by decide) (wr_r _) g31 rfl dX6_layGoal_149 ?_
      obtain ⟨g32, e⟩ := gd_o e
      refine r_saI E.p 35 rfl (by decide) (by decide) (((rr27.mine rfl).a 11 (by decide) rfl).1 _) g32 rfl dX6_layGoal_150 ?_
      refine r_iadd dX6_layGoal_151 ?_
      obtain ⟨g33, e⟩ := gd_o e
      refine r_saP E.p 38 rfl (by decide) (by decide) (wr_r _) g33 (wr_r _) rfl dX6_layGoal_152 ?_
      refine r_rrs E.p (fun rr34 => ?_)
      refine r_aload_n dX6_layGoal_153 rfl 2 rfl ?_
      refine r_iload_n dX6_layGoal_154 rfl 1 rfl ?_
      refine r_aload_n dX6_layGoal_155 rfl 2 rfl ?_
      refine r_sR E.p 38 fG_X6_95 (by decide) dX6_layGoal_156 ?_
      refine r_iload_n dX6_layGoal_159 rfl 1 rfl ?_
      obtain ⟨g35, e⟩ := gd_o e
      refine r_saI E.p 38 rfl (by decide) (by decide) (wr_r _) g35 rfl dX6_layGoal_160 ?_
      refine r_iconst dX6_layGoal_161 ?_
      obtain ⟨p36, q37, e⟩ := bd_o e
      have k38 := kX6_addBelow (G := G) (b := b) (ad := ad) (h := h) (wr_r _) (((rr34.mine rfl).a 38 (by decide) rfl).1 _) (by decide) q37
      have z39 := (k38 rr34).1.2.2.2
      refine r_callV (j := some 0) 3 [ti (wr ((wr (9 * a1)) + a2)), ti (gA (sA (sA (sA (sA (sA (sA p13.2 36 (wr ((wr (9 * a1)) + a2)) 1) 40 (wr ((wr (9 * a1)) + a2)) 1) 41 (wr ((wr (9 * a1)) + a2)) (wr (7 * (wr (p1.1 + 1))))) 42 (wr ((wr (9 * a1)) + a2)) 1) 43 (wr ((wr (9 * a1)) + a2)) 0) 38 (wr ((wr (9 * a1)) + a2)) (wr ((wr (9 * (gA (sA (sA (sA (sA (sA p13.2 36 (wr ((wr (9 * a1)) + a2)) 1) 40 (wr ((wr (9 * a1)) + a2)) 1) 41 (wr ((wr (9 * a1)) + a2)) (wr (7 * (wr (p1.1 + 1))))) 42 (wr ((wr (9 * a1)) + a2)) 1) 43 (wr ((wr (9 * a1)) + a2)) 0) 10 (wr (2 * p1.1))))) + (gA (sA (sA (sA (sA (sA p13.2 36 (wr ((wr (9 * a1)) + a2)) 1) 40 (wr ((wr (9 * a1)) + a2)) 1) 41 (wr ((wr (9 * a1)) + a2)) (wr (7 * (wr (p1.1 + 1))))) 42 (wr ((wr (9 * a1)) + a2)) 1) 43 (wr ((wr (9 * a1)) + a2)) 0) 35 (gA (sA (sA (sA (sA (sA p13.2 36 (wr ((wr (9 * a1)) + a2)) 1) 40 (wr ((wr (9 * a1)) + a2)) 1) 41 (wr ((wr (9 * a1)) + a2)) (wr (7 * (wr (p1.1 + 1))))) 42 (wr ((wr (9 * a1)) + a2)) 1) 43 (wr ((wr (9 * a1)) + a2)) 0) 11 (wr (2 * p1.1))))))) 38 (wr ((wr (9 * a1)) + a2))), ti 2] (rec_sg (j := 0) (r := (RX6, TX6, 63)) rfl (by rw [E.p]; rfl)) rfl k38 (injO_1 E.p) (subO_1 E.p) getO_1 setO_1 (lw_V q1777 q1779 qs79 q123 q1780) (by decide +kernel) rfl (Nat.le_of_ble_eq_true rfl) (Nat.le_of_ble_eq_true rfl) rfl (Nat.le_of_ble_eq_true rfl) dX6_layGoal_162 rfl ?_
      refine r_rrs E.p (fun rr40 => ?_)
      refine r_sub [2, 1, 0] rfl ?_
      exact wX6_layGoal_b165 E p36 (wr ((wr (9 * a1)) + a2)) p1.1 (wr_r _) z4 e
  · have e := eF c12
    refine r_aload_n dX6_layGoal_42 rfl 2 rfl ?_
    refine r_sR E.p 36 fG_X6_89 (by decide) dX6_layGoal_43 ?_
    refine r_iload_n dX6_layGoal_46 rfl 1 rfl ?_
    refine r_iload dX6_layGoal_47 0 rfl ?_
    refine r_iconst dX6_layGoal_49 ?_
    have eT := (r_ifo e).1
    have eF := (r_ifo e).2
    refine r_icmp_ne z4 (by decide) 57 dX6_layGoal_50 (by decide) (fun c41 => ?_) (fun c41 => ?_)
    · have e := eT c41
      refine r_bipush dX6_layGoal_57 (by decide) ?_
      refine r_sub [] rfl ?_
      exact wX6_layGoal_b59 E (sA (sA (sA p1.2 37 (wr ((wr (9 * a1)) + a2)) p1.1) 38 (wr ((wr (9 * a1)) + a2)) (-1)) 39 (wr ((wr (9 * a1)) + a2)) (-1)) (wr ((wr (9 * a1)) + a2)) (-2) (wr_r _) (by decide) e
    · have e := eF c41
      refine r_iconst dX6_layGoal_53 ?_
      refine r_goto 59 dX6_layGoal_54 (by decide) ?_
      refine r_sub [] rfl ?_
      exact wX6_layGoal_b59 E (sA (sA (sA p1.2 37 (wr ((wr (9 * a1)) + a2)) p1.1) 38 (wr ((wr (9 * a1)) + a2)) (-1)) 39 (wr ((wr (9 * a1)) + a2)) (-1)) (wr ((wr (9 * a1)) + a2)) 0 (wr_r _) (by decide) e
def fX6_layGoals_b48 (K7 : Sg → Int → Option (Sg)) (K13 : Sg → Int → Int → Option (Sg)) (s : Sg) (a1 : Int) (a2 : Int) : Option (Sg) := K13 s a1 (wr (a2 + 1))
theorem wX6_layGoals_b48 {N : Nx} {b : Nat} {ad : Nat → Nat} {s' : Sg} {h : hS} (E : EndX N [(6, b, ad)] 3 none none [s'] h) (K7 : Sg → Int → Option (Sg)) (hK7 : ∀ (s : Sg) (a1 : Int) (ha1 : rI a1), K7 s a1 = some (s') → AtPc cX6_layGoals RX6 5 124 N [s] h 7 [(0, tr (some b)), (1, ti a1)] []) (K13 : Sg → Int → Int → Option (Sg)) (hK13 : ∀ (s : Sg) (a1 : Int) (a2 : Int) (ha1 : rI a1) (ha2 : rI a2), K13 s a1 a2 = some (s') → AtPc cX6_layGoals RX6 5 124 N [s] h 13 [(0, tr (some b)), (1, ti a1), (2, ti a2)] []) (s : Sg) (a1 : Int) (a2 : Int) (ha1 : rI a1) (ha2 : rI a2) (e : fX6_layGoals_b48 K7 K13 s a1 a2 = some (s')) : AtPc cX6_layGoals RX6 5 124 N [s] h 48 [(0, tr (some b)), (1, ti a1), (2, ti a2)] [] := by
  unfold fX6_layGoals_b48 at e
  refine r_rrs E.p (fun rr => ?_)
  refine r_iinc (lv' := [(2, ti (wr (a2 + 1))), (0, tr (some b)), (1, ti a1)]) dX6_layGoals_48 2 rfl (E.lt (by decide)) rfl ?_
  refine r_goto 13 dX6_layGoals_51 (by decide) ?_
  refine r_sub [1, 2, 0] rfl ?_
  exact hK13 s a1 (wr (a2 + 1)) ha1 (wr_r _) e
def fX6_layGoals_b13 (K7 : Sg → Int → Option (Sg)) (K13 : Sg → Int → Int → Option (Sg)) (s : Sg) (a1 : Int) (a2 : Int) : Option (Sg) := if (gI s 1) ≤ a2 then K7 s (wr (a1 + (-1))) else gd (inb a1 9) (bd (fX6_isVariable (gA s 32 a1)) fun p3 => if p3 = 0 then bd (fX6_layGoal s a2 a1) fun p8 => fX6_layGoals_b48 K7 K13 p8 a1 a2 else bd (fX6_layNeed s a2 a1) fun p13 => fX6_layGoals_b48 K7 K13 p13 a1 a2)
theorem wX6_layGoals_b13 {N : Nx} {b : Nat} {ad : Nat → Nat} {s' : Sg} {h : hS} (E : EndX N [(6, b, ad)] 3 none none [s'] h) (K7 : Sg → Int → Option (Sg)) (hK7 : ∀ (s : Sg) (a1 : Int) (ha1 : rI a1), K7 s a1 = some (s') → AtPc cX6_layGoals RX6 5 124 N [s] h 7 [(0, tr (some b)), (1, ti a1)] []) (K13 : Sg → Int → Int → Option (Sg)) (hK13 : ∀ (s : Sg) (a1 : Int) (a2 : Int) (ha1 : rI a1) (ha2 : rI a2), K13 s a1 a2 = some (s') → AtPc cX6_layGoals RX6 5 124 N [s] h 13 [(0, tr (some b)), (1, ti a1), (2, ti a2)] []) (s : Sg) (a1 : Int) (a2 : Int) (ha1 : rI a1) (ha2 : rI a2) (e : fX6_layGoals_b13 K7 K13 s a1 a2 = some (s')) : AtPc cX6_layGoals RX6 5 124 N [s] h 13 [(0, tr (some b)), (1, ti a1), (2, ti a2)] [] := by
  unfold fX6_layGoals_b13 at e
  refine r_rrs E.p (fun rr => ?_)
  refine r_iload_n dX6_layGoals_13 rfl 2 rfl ?_
  refine r_aload_n dX6_layGoals_14 rfl 0 rfl ?_
  refine r_sI E.p 1 fG_X6_211 (by decide) dX6_layGoals_15 ?_
  have eT := (r_ifo e).1
  have eF := (r_ifo e).2
  refine r_icmp_ge ha2 ((rr.mine rfl).i 1 (by decide) (by decide)) 54 dX6_layGoals_18 (by decide) (fun c1 => ?_) (fun c1 => ?_)
  · have e := eT c1
    refine r_iinc (lv' := [(1, ti (wr (a1 + (-1)))), (0, tr (some b)), (2, ti a2)]) dX6_layGoals_54 1 rfl (E.lt (by decide)) rfl ?_
    refine r_goto 7 dX6_layGoals_57 (by decide) ?_
    refine r_sub [1, 0] rfl ?_
    exact hK7 s (wr (a1 + (-1))) (wr_r _) e
  · have e := eF c1
    refine r_aload_n dX6_layGoals_21 rfl 0 rfl ?_
    refine r_sR E.p 32 fG_X6_80 (by decide) dX6_layGoals_22 ?_
    refine r_iload_n dX6_layGoals_25 rfl 1 rfl ?_
    obtain ⟨g2, e⟩ := gd_o e
    refine r_saI E.p 32 rfl (by decide) (by decide) ha1 g2 rfl dX6_layGoals_26 ?_
    obtain ⟨p3, q4, e⟩ := bd_o e
    have k5 := kX6_isVariable (G := nG N) (h := h) (((rr.mine rfl).a 32 (by decide) rfl).1 _) q4
    have z6 := (k5 rr.none).1.2.2.2
    refine r_callS (j := none) 1 [ti (gA s 32 a1)] k5 (injO_1 E.p) subO_0 getO_0 setO_0 (lw_S q1656 q1657 q123 q1658) (by decide +kernel) rfl (Nat.le_of_ble_eq_true rfl) (Nat.le_of_ble_eq_true rfl) rfl (Nat.le_of_ble_eq_true rfl) dX6_layGoals_27 rfl ?_
    have eT := (r_ifo e).1
    have eF := (r_ifo e).2
    refine r_if_eq (rI_z z6) 42 dX6_layGoals_30 (by decide) (fun c7 => ?_) (fun c7 => ?_)
    · have e := eT c7
      refine r_aload_n dX6_layGoals_42 rfl 0 rfl ?_
      refine r_iload_n dX6_layGoals_43 rfl 2 rfl ?_
      refine r_iload_n dX6_layGoals_44 rfl 1 rfl ?_
      obtain ⟨p8, q9, e⟩ := bd_o e
      have k10 := kX6_layGoal (G := nG N) (b := b) (ad := ad) (h := h) ha2 ha1 q9
      have z11 := (k10 rr).1.2.2.2
      refine r_callV (j := some 0) 2 [ti a2, ti a1] (rec_sg (j := 0) (r := (RX6, TX6, 63)) rfl (by rw [E.p]; rfl)) rfl k10 (injO_1 E.p) (subO_1 E.p) getO_1 setO_1 (lw_V q1753 q1755 qs73 q123 q1756) (by decide +kernel) rfl (Nat.le_of_ble_eq_true rfl) (Nat.le_of_ble_eq_true rfl) rfl (Nat.le_of_ble_eq_true rfl) dX6_layGoals_45 rfl ?_
      refine r_rrs E.p (fun rr12 => ?_)
      exact wX6_layGoals_b48 E K7 hK7 K13 hK13 p8 a1 a2 ha1 ha2 e
    · have e := eF c7
      refine r_aload_n dX6_layGoals_33 rfl 0 rfl ?_
      refine r_iload_n dX6_layGoals_34 rfl 2 rfl ?_
      refine r_iload_n dX6_layGoals_35 rfl 1 rfl ?_
      obtain ⟨p13, q14, e⟩ := bd_o e
      have k15 := kX6_layNeed (G := nG N) (b := b) (ad := ad) (h := h) ha2 ha1 q14
      have z16 := (k15 rr).1.2.2.2
      refine r_callV (j := some 0) 2 [ti a2, ti a1] (rec_sg (j := 0) (r := (RX6, TX6, 63)) rfl (by rw [E.p]; rfl)) rfl k15 (injO_1 E.p) (subO_1 E.p) getO_1 setO_1 (lw_V q1749 q1751 qs72 q123 q1752) (by decide +kernel) rfl (Nat.le_of_ble_eq_true rfl) (Nat.le_of_ble_eq_true rfl) rfl (Nat.le_of_ble_eq_true rfl) dX6_layGoals_36 rfl ?_
      refine r_rrs E.p (fun rr17 => ?_)
      refine r_goto 48 dX6_layGoals_39 (by decide) ?_
      exact wX6_layGoals_b48 E K7 hK7 K13 hK13 p13 a1 a2 ha1 ha2 e
def fX6_layGoals_L13 (K7 : Sg → Int → Option (Sg)) : Nat → Sg → Int → Int → Option (Sg)
  | 0, _, _, _ => none
  | n9 + 1, s, a1, a2 => fX6_layGoals_b13 K7 (fX6_layGoals_L13 K7 n9) s a1 a2
theorem wX6_layGoals_L13 {N : Nx} {b : Nat} {ad : Nat → Nat} {s' : Sg} {h : hS} (E : EndX N [(6, b, ad)] 3 none none [s'] h) (K7 : Sg → Int → Option (Sg)) (hK7 : ∀ (s : Sg) (a1 : Int) (ha1 : rI a1), K7 s a1 = some (s') → AtPc cX6_layGoals RX6 5 124 N [s] h 7 [(0, tr (some b)), (1, ti a1)] []) : ∀ (n9 : Nat), ∀ (s : Sg) (a1 : Int) (a2 : Int) (ha1 : rI a1) (ha2 : rI a2), fX6_layGoals_L13 K7 n9 s a1 a2 = some (s') → AtPc cX6_layGoals RX6 5 124 N [s] h 13 [(0, tr (some b)), (1, ti a1), (2, ti a2)] [] := by
  intro n9
  induction n9 with
  | zero => intro s a1 a2 ha1 ha2 e; cases e
  | succ n9 ih => intro s a1 a2 ha1 ha2 e; exact wX6_layGoals_b13 E K7 hK7 _ ih s a1 a2 ha1 ha2 e
def fX6_layGoals_b7 (K7 : Sg → Int → Option (Sg)) (s : Sg) (a1 : Int) : Option (Sg) := if a1 < 0 then some s else fX6_layGoals_L13 K7 FU s a1 0
theorem wX6_layGoals_b7 {N : Nx} {b : Nat} {ad : Nat → Nat} {s' : Sg} {h : hS} (E : EndX N [(6, b, ad)] 3 none none [s'] h) (K7 : Sg → Int → Option (Sg)) (hK7 : ∀ (s : Sg) (a1 : Int) (ha1 : rI a1), K7 s a1 = some (s') → AtPc cX6_layGoals RX6 5 124 N [s] h 7 [(0, tr (some b)), (1, ti a1)] []) (s : Sg) (a1 : Int) (ha1 : rI a1) (e : fX6_layGoals_b7 K7 s a1 = some (s')) : AtPc cX6_layGoals RX6 5 124 N [s] h 7 [(0, tr (some b)), (1, ti a1)] [] := by
  unfold fX6_layGoals_b7 at e
  refine r_rrs E.p (fun rr => ?_)
  refine r_iload_n dX6_layGoals_7 rfl 1 rfl ?_
  have eT := (r_ifo e).1
  have eF := (r_ifo e).2
  refine r_if_lt ha1 60 dX6_layGoals_8 (by decide) (fun c1 => ?_) (fun c1 => ?_)
  · have e := eT c1
    cases e
    exact r_vret E.σ E.st E.rt E.r dX6_layGoals_60
  · have e := eF c1
    refine r_iconst dX6_layGoals_11 ?_
    refine r_istore_n (lv' := [(2, ti 0), (0, tr (some b)), (1, ti a1)]) dX6_layGoals_12 rfl (E.lt (by decide)) rfl ?_
    refine r_sub [1, 2, 0] rfl ?_
    exact wX6_layGoals_L13 E K7 hK7 FU s a1 0 ha1 (by decide) e
def fX6_layGoals_L7  : Nat → Sg → Int → Option (Sg)
  | 0, _, _ => none
  | n9 + 1, s, a1 => fX6_layGoals_b7 (fX6_layGoals_L7 n9) s a1
theorem wX6_layGoals_L7 {N : Nx} {b : Nat} {ad : Nat → Nat} {s' : Sg} {h : hS} (E : EndX N [(6, b, ad)] 3 none none [s'] h)  : ∀ (n9 : Nat), ∀ (s : Sg) (a1 : Int) (ha1 : rI a1), fX6_layGoals_L7 n9 s a1 = some (s') → AtPc cX6_layGoals RX6 5 124 N [s] h 7 [(0, tr (some b)), (1, ti a1)] [] := by
  intro n9
  induction n9 with
  | zero => intro s a1 ha1 e; cases e
  | succ n9 ih => intro s a1 ha1 e; exact wX6_layGoals_b7 E _ ih s a1 ha1 e
def fX6_layGoals  (s : Sg) : Option (Sg) := fX6_layGoals_L7 FU s (wr ((gI s 34) - 1))
theorem kX6_layGoals {G : Gx}  {b : Nat} {ad : Nat → Nat} {s' : Sg} {h : hS} {s : Sg}    (e : fX6_layGoals s = some (s')) : CtX G yX6_layGoals cX6_layGoals 3 none 5 124 [(6, b, ad)] [s] h [tr (some b)] none [s'] h := by
  refine CtX.of (by decide) (Nat.le_of_ble_eq_true rfl) [(0, tr (some b))] rfl ?_
  have E : EndX (G, 3, [(6, b, ad)], h, [s'], h, none, none, yX6_layGoals.name) [(6, b, ad)] 3 none none [s'] h := ⟨rfl, rfl, rfl, rfl, rfl, rfl⟩
  unfold fX6_layGoals at e
  refine r_rrs E.p (fun rr => ?_)
  refine r_aload_n dX6_layGoals_0 rfl 0 rfl ?_
  refine r_sI E.p 34 fG_X6_233 (by decide) dX6_layGoals_1 ?_
  refine r_iconst dX6_layGoals_4 ?_
  refine r_isub dX6_layGoals_5 ?_
  refine r_istore_n (lv' := [(1, ti (wr ((gI s 34) - 1))), (0, tr (some b))]) dX6_layGoals_6 rfl (E.lt (by decide)) rfl ?_
  refine r_sub [1, 0] rfl ?_
  exact wX6_layGoals_L7 E FU s (wr ((gI s 34) - 1)) (wr_r _) e
def fX6_isGiven_b91 (K5 : Sg → Int → Int → Int → Int → Option (Int)) (s : Sg) (a1 : Int) (a2 : Int) (a4 : Int) (k0 : Int) : Option (Int) := K5 s a1 a2 k0 (wr (a4 + 1))
theorem wX6_isGiven_b91 {N : Nx} {b : Nat} {ad : Nat → Nat} {s : Sg} {h : hS} {r : Int} (E : EndX N [(6, b, ad)] 7 (some .boolean) (some (ti r)) [s] h) (K5 : Sg → Int → Int → Int → Int → Option (Int)) (hK5 : ∀ (a1 : Int) (a2 : Int) (a3 : Int) (a4 : Int) (ha1 : rI a1) (ha2 : rI a2) (ha3 : rI a3) (ha4 : rI a4), K5 s a1 a2 a3 a4 = some (r) → AtPc cX6_isGiven RX6 1 21 N [s] h 5 [(0, tr (some b)), (1, ti a1), (2, ti a2), (3, ti a3), (4, ti a4)] []) (a1 : Int) (a2 : Int) (a4 : Int) (k0 : Int) (ha1 : rI a1) (ha2 : rI a2) (ha4 : rI a4) (hk0 : rI k0) (e : fX6_isGiven_b91 K5 s a1 a2 a4 k0 = some (r)) : AtPc cX6_isGiven RX6 1 21 N [s] h 91 [(0, tr (some b)), (1, ti a1), (2, ti a2), (4, ti a4)] [ti k0] := by
  unfold fX6_isGiven_b91 at e
  refine r_rrs E.p (fun rr => ?_)
  refine r_istore_n (lv' := [(3, ti k0), (0, tr (some b)), (1, ti a1), (2, ti a2), (4, ti a4)]) dX6_isGiven_91 rfl (E.lt (by decide)) rfl ?_
  refine r_iinc (lv' := [(4, ti (wr (a4 + 1))), (3, ti k0), (0, tr (some b)), (1, ti a1), (2, ti a2)]) dX6_isGiven_92 4 rfl (E.lt (by decide)) rfl ?_
  refine r_goto 5 dX6_isGiven_95 (by decide) ?_
  refine r_sub [2, 3, 4, 1, 0] rfl ?_
  exact hK5 a1 a2 k0 (wr (a4 + 1)) ha1 ha2 hk0 (wr_r _) e
def fX6_isGiven_b86 (K5 : Sg → Int → Int → Int → Int → Option (Int)) (s : Sg) (a1 : Int) (a2 : Int) (a4 : Int) : Option (Int) := fX6_isGiven_b91 K5 s a1 a2 a4 1
theorem wX6_isGiven_b86 {N : Nx} {b : Nat} {ad : Nat → Nat} {s : Sg} {h : hS} {r : Int} (E : EndX N [(6, b, ad)] 7 (some .boolean) (some (ti r)) [s] h) (K5 : Sg → Int → Int → Int → Int → Option (Int)) (hK5 : ∀ (a1 : Int) (a2 : Int) (a3 : Int) (a4 : Int) (ha1 : rI a1) (ha2 : rI a2) (ha3 : rI a3) (ha4 : rI a4), K5 s a1 a2 a3 a4 = some (r) → AtPc cX6_isGiven RX6 1 21 N [s] h 5 [(0, tr (some b)), (1, ti a1), (2, ti a2), (3, ti a3), (4, ti a4)] []) (a1 : Int) (a2 : Int) (a4 : Int) (ha1 : rI a1) (ha2 : rI a2) (ha4 : rI a4) (e : fX6_isGiven_b86 K5 s a1 a2 a4 = some (r)) : AtPc cX6_isGiven RX6 1 21 N [s] h 86 [(0, tr (some b)), (1, ti a1), (2, ti a2), (4, ti a4)] [] := by
  unfold fX6_isGiven_b86 at e
  refine r_rrs E.p (fun rr => ?_)
  refine r_iconst dX6_isGiven_86 ?_
  refine r_goto 91 dX6_isGiven_87 (by decide) ?_
  exact wX6_isGiven_b91 E K5 hK5 a1 a2 a4 1 ha1 ha2 ha4 (by decide) e
def fX6_isGiven_b90 (K5 : Sg → Int → Int → Int → Int → Option (Int)) (s : Sg) (a1 : Int) (a2 : Int) (a4 : Int) : Option (Int) := fX6_isGiven_b91 K5 s a1 a2 a4 0
theorem wX6_isGiven_b90 {N : Nx} {b : Nat} {ad : Nat → Nat} {s : Sg} {h : hS} {r : Int} (E : EndX N [(6, b, ad)] 7 (some .boolean) (some (ti r)) [s] h) (K5 : Sg → Int → Int → Int → Int → Option (Int)) (hK5 : ∀ (a1 : Int) (a2 : Int) (a3 : Int) (a4 : Int) (ha1 : rI a1) (ha2 : rI a2) (ha3 : rI a3) (ha4 : rI a4), K5 s a1 a2 a3 a4 = some (r) → AtPc cX6_isGiven RX6 1 21 N [s] h 5 [(0, tr (some b)), (1, ti a1), (2, ti a2), (3, ti a3), (4, ti a4)] []) (a1 : Int) (a2 : Int) (a4 : Int) (ha1 : rI a1) (ha2 : rI a2) (ha4 : rI a4) (e : fX6_isGiven_b90 K5 s a1 a2 a4 = some (r)) : AtPc cX6_isGiven RX6 1 21 N [s] h 90 [(0, tr (some b)), (1, ti a1), (2, ti a2), (4, ti a4)] [] := by
  unfold fX6_isGiven_b90 at e
  refine r_rrs E.p (fun rr => ?_)
  refine r_iconst dX6_isGiven_90 ?_
  exact wX6_isGiven_b91 E K5 hK5 a1 a2 a4 0 ha1 ha2 ha4 (by decide) e
def fX6_isGiven_b58 (K5 : Sg → Int → Int → Int → Int → Option (Int)) (s : Sg) (a1 : Int) (a2 : Int) (a3 : Int) (a4 : Int) (k0 : Int) : Option (Int) := if ¬ a3 = 0 then fX6_isGiven_b86 K5 s a1 a2 a4 else gd (inb (wr ((wr (2 * a1)) + a4)) 12) (if ¬ (gA s 11 (wr ((wr (2 * a1)) + a4))) = (irm a2 2) then fX6_isGiven_b90 K5 s a1 a2 a4 else if k0 = 0 then fX6_isGiven_b90 K5 s a1 a2 a4 else fX6_isGiven_b86 K5 s a1 a2 a4)
theorem wX6_isGiven_b58 {N : Nx} {b : Nat} {ad : Nat → Nat} {s : Sg} {h : hS} {r : Int} (E : EndX N [(6, b, ad)] 7 (some .boolean) (some (ti r)) [s] h) (K5 : Sg → Int → Int → Int → Int → Option (Int)) (hK5 : ∀ (a1 : Int) (a2 : Int) (a3 : Int) (a4 : Int) (ha1 : rI a1) (ha2 : rI a2) (ha3 : rI a3) (ha4 : rI a4), K5 s a1 a2 a3 a4 = some (r) → AtPc cX6_isGiven RX6 1 21 N [s] h 5 [(0, tr (some b)), (1, ti a1), (2, ti a2), (3, ti a3), (4, ti a4)] []) (a1 : Int) (a2 : Int) (a3 : Int) (a4 : Int) (k0 : Int) (ha1 : rI a1) (ha2 : rI a2) (ha3 : rI a3) (ha4 : rI a4) (hk0 : rI k0) (e : fX6_isGiven_b58 K5 s a1 a2 a3 a4 k0 = some (r)) : AtPc cX6_isGiven RX6 1 21 N [s] h 58 [(0, tr (some b)), (1, ti a1), (2, ti a2), (3, ti a3), (4, ti a4)] [ti k0] := by
  unfold fX6_isGiven_b58 at e
  refine r_rrs E.p (fun rr => ?_)
  refine r_istore (lv' := [(6, ti k0), (0, tr (some b)), (1, ti a1), (2, ti a2), (3, ti a3), (4, ti a4)]) dX6_isGiven_58 (E.lt (by decide)) rfl ?_
  refine r_iload_n dX6_isGiven_60 rfl 4 rfl ?_
  have eT := (r_ifo e).1
  have eF := (r_ifo e).2
  refine r_if_ne ha3 86 dX6_isGiven_61 (by decide) (fun c1 => ?_) (fun c1 => ?_)
  · have e := eT c1
    refine r_sub [1, 2, 3, 5] rfl ?_
    exact wX6_isGiven_b86 E K5 hK5 a1 a2 a4 ha1 ha2 ha4 e
  · have e := eF c1
    refine r_aload_n dX6_isGiven_64 rfl 1 rfl ?_
    refine r_sR E.p 11 fG_X6_34 (by decide) dX6_isGiven_65 ?_
    refine r_iconst dX6_isGiven_68 ?_
    refine r_iload_n dX6_isGiven_69 rfl 2 rfl ?_
    refine r_imul dX6_isGiven_70 ?_
    refine r_iload dX6_isGiven_71 5 rfl ?_
    refine r_iadd dX6_isGiven_73 ?_
    obtain ⟨g2, e⟩ := gd_o e
    refine r_saI E.p 11 rfl (by decide) (by decide) (wr_r _) g2 rfl dX6_isGiven_74 ?_
    refine r_iload_n dX6_isGiven_75 rfl 3 rfl ?_
    refine r_iconst dX6_isGiven_76 ?_
    refine r_irem (by decide) (by decide) dX6_isGiven_77 ?_
    have eT := (r_ifo e).1
    have eF := (r_ifo e).2
    refine r_icmp_ne (((rr.mine rfl).a 11 (by decide) rfl).1 _) (irm_r _ _) 90 dX6_isGiven_78 (by decide) (fun c3 => ?_) (fun c3 => ?_)
    · have e := eT c3
      refine r_sub [1, 2, 3, 5] rfl ?_
      exact wX6_isGiven_b90 E K5 hK5 a1 a2 a4 ha1 ha2 ha4 e
    · have e := eF c3
      refine r_iload dX6_isGiven_81 0 rfl ?_
      have eT := (r_ifo e).1
      have eF := (r_ifo e).2
      refine r_if_eq hk0 90 dX6_isGiven_83 (by decide) (fun c4 => ?_) (fun c4 => ?_)
      · have e := eT c4
        refine r_sub [1, 2, 3, 5] rfl ?_
        exact wX6_isGiven_b90 E K5 hK5 a1 a2 a4 ha1 ha2 ha4 e
      · have e := eF c4
        refine r_sub [1, 2, 3, 5] rfl ?_
        exact wX6_isGiven_b86 E K5 hK5 a1 a2 a4 ha1 ha2 ha4 e
def fX6_isGiven_b53 (K5 : Sg → Int → Int → Int → Int → Option (Int)) (s : Sg) (a1 : Int) (a2 : Int) (a3 : Int) (a4 : Int) : Option (Int) := fX6_isGiven_b58 K5 s a1 a2 a3 a4 1
theorem wX6_isGiven_b53 {N : Nx} {b : Nat} {ad : Nat → Nat} {s : Sg} {h : hS} {r : Int} (E : EndX N [(6, b, ad)] 7 (some .boolean) (some (ti r)) [s] h) (K5 : Sg → Int → Int → Int → Int → Option (Int)) (hK5 : ∀ (a1 : Int) (a2 : Int) (a3 : Int) (a4 : Int) (ha1 : rI a1) (ha2 : rI a2) (ha3 : rI a3) (ha4 : rI a4), K5 s a1 a2 a3 a4 = some (r) → AtPc cX6_isGiven RX6 1 21 N [s] h 5 [(0, tr (some b)), (1, ti a1), (2, ti a2), (3, ti a3), (4, ti a4)] []) (a1 : Int) (a2 : Int) (a3 : Int) (a4 : Int) (ha1 : rI a1) (ha2 : rI a2) (ha3 : rI a3) (ha4 : rI a4) (e : fX6_isGiven_b53 K5 s a1 a2 a3 a4 = some (r)) : AtPc cX6_isGiven RX6 1 21 N [s] h 53 [(0, tr (some b)), (1, ti a1), (2, ti a2), (3, ti a3), (4, ti a4)] [] := by
  unfold fX6_isGiven_b53 at e
  refine r_rrs E.p (fun rr => ?_)
  refine r_iconst dX6_isGiven_53 ?_
  refine r_goto 58 dX6_isGiven_54 (by decide) ?_
  exact wX6_isGiven_b58 E K5 hK5 a1 a2 a3 a4 1 ha1 ha2 ha3 ha4 (by decide) e
def fX6_isGiven_b5 (K5 : Sg → Int → Int → Int → Int → Option (Int)) (s : Sg) (a1 : Int) (a2 : Int) (a3 : Int) (a4 : Int) : Option (Int) := gd (inb a1 6) (if (gA s 9 a1) ≤ a4 then gd (a3 = 0 ∨ a3 = 1) (some a3) else gd (inb (wr ((wr (2 * a1)) + a4)) 12) (if (gA s 10 (wr ((wr (2 * a1)) + a4))) = (idv a2 2) then fX6_isGiven_b53 K5 s a1 a2 a3 a4 else gd (inb (gA s 10 (wr ((wr (2 * a1)) + a4))) 4) (bd (fX6_isIn (gA s 3 (gA s 10 (wr ((wr (2 * a1)) + a4)))) (idv a2 2)) fun p7 => if p7 = 0 then fX6_isGiven_b58 K5 s a1 a2 a3 a4 0 else fX6_isGiven_b53 K5 s a1 a2 a3 a4)))
theorem wX6_isGiven_b5 {N : Nx} {b : Nat} {ad : Nat → Nat} {s : Sg} {h : hS} {r : Int} (E : EndX N [(6, b, ad)] 7 (some .boolean) (some (ti r)) [s] h) (K5 : Sg → Int → Int → Int → Int → Option (Int)) (hK5 : ∀ (a1 : Int) (a2 : Int) (a3 : Int) (a4 : Int) (ha1 : rI a1) (ha2 : rI a2) (ha3 : rI a3) (ha4 : rI a4), K5 s a1 a2 a3 a4 = some (r) → AtPc cX6_isGiven RX6 1 21 N [s] h 5 [(0, tr (some b)), (1, ti a1), (2, ti a2), (3, ti a3), (4, ti a4)] []) (a1 : Int) (a2 : Int) (a3 : Int) (a4 : Int) (ha1 : rI a1) (ha2 : rI a2) (ha3 : rI a3) (ha4 : rI a4) (e : fX6_isGiven_b5 K5 s a1 a2 a3 a4 = some (r)) : AtPc cX6_isGiven RX6 1 21 N [s] h 5 [(0, tr (some b)), (1, ti a1), (2, ti a2), (3, ti a3), (4, ti a4)] [] := by
  unfold fX6_isGiven_b5 at e
  refine r_rrs E.p (fun rr => ?_)
  refine r_iload dX6_isGiven_5 4 rfl ?_
  refine r_aload_n dX6_isGiven_7 rfl 0 rfl ?_
  refine r_sR E.p 9 fG_X6_28 (by decide) dX6_isGiven_8 ?_
  refine r_iload_n dX6_isGiven_11 rfl 1 rfl ?_
  obtain ⟨g1, e⟩ := gd_o e
  refine r_saI E.p 9 rfl (by decide) (by decide) ha1 g1 rfl dX6_isGiven_12 ?_
  have eT := (r_ifo e).1
  have eF := (r_ifo e).2
  refine r_icmp_ge ha4 (((rr.mine rfl).a 9 (by decide) rfl).1 _) 98 dX6_isGiven_13 (by decide) (fun c2 => ?_) (fun c2 => ?_)
  · have e := eT c2
    refine r_iload_n dX6_isGiven_98 rfl 3 rfl ?_
    obtain ⟨g3, e⟩ := gd_o e
    cases e
    exact r_zret E.σ E.st E.rt E.r g3 dX6_isGiven_99
  · have e := eF c2
    refine r_aload_n dX6_isGiven_16 rfl 0 rfl ?_
    refine r_sR E.p 10 fG_X6_31 (by decide) dX6_isGiven_17 ?_
    refine r_iconst dX6_isGiven_20 ?_
    refine r_iload_n dX6_isGiven_21 rfl 1 rfl ?_
    refine r_imul dX6_isGiven_22 ?_
    refine r_iload dX6_isGiven_23 4 rfl ?_
    refine r_iadd dX6_isGiven_25 ?_
    obtain ⟨g4, e⟩ := gd_o e
    refine r_saI E.p 10 rfl (by decide) (by decide) (wr_r _) g4 rfl dX6_isGiven_26 ?_
    refine r_istore (lv' := [(5, ti (gA s 10 (wr ((wr (2 * a1)) + a4)))), (0, tr (some b)), (1, ti a1), (2, ti a2), (3, ti a3), (4, ti a4)]) dX6_isGiven_27 (E.lt (by decide)) rfl ?_
    refine r_iload dX6_isGiven_29 0 rfl ?_
    refine r_iload_n dX6_isGiven_31 rfl 3 rfl ?_
    refine r_iconst dX6_isGiven_32 ?_
    refine r_idiv (by decide) (by decide) dX6_isGiven_33 ?_
    have eT := (r_ifo e).1
    have eF := (r_ifo e).2
    refine r_icmp_eq (((rr.mine rfl).a 10 (by decide) rfl).1 _) (idv_r _ _) 53 dX6_isGiven_34 (by decide) (fun c5 => ?_) (fun c5 => ?_)
    · have e := eT c5
      refine r_sub [1, 2, 3, 4, 5] rfl ?_
      exact wX6_isGiven_b53 E K5 hK5 a1 a2 a3 a4 ha1 ha2 ha3 ha4 e
    · have e := eF c5
      refine r_aload_n dX6_isGiven_37 rfl 1 rfl ?_
      refine r_sR E.p 3 fG_X6_13 (by decide) dX6_isGiven_38 ?_
      refine r_iload dX6_isGiven_41 0 rfl ?_
      obtain ⟨g6, e⟩ := gd_o e
      refine r_saI E.p 3 rfl (by decide) (by decide) (((rr.mine rfl).a 10 (by decide) rfl).1 _) g6 rfl dX6_isGiven_43 ?_
      refine r_iload_n dX6_isGiven_44 rfl 3 rfl ?_
      refine r_iconst dX6_isGiven_45 ?_
      refine r_idiv (by decide) (by decide) dX6_isGiven_46 ?_
      obtain ⟨p7, q8, e⟩ := bd_o e
      have k9 := kX6_isIn (G := nG N) (h := h) (((rr.mine rfl).a 3 (by decide) rfl).1 _) (idv_r _ _) q8
      have z10 := (k9 rr.none).1.2.2.2
      refine r_callS (j := none) 2 [ti (gA s 3 (gA s 10 (wr ((wr (2 * a1)) + a4)))), ti (idv a2 2)] k9 (injO_1 E.p) subO_0 getO_0 setO_0 (lw_S q1663 q1664 q123 q1665) (by decide +kernel) rfl (Nat.le_of_ble_eq_true rfl) (Nat.le_of_ble_eq_true rfl) rfl (Nat.le_of_ble_eq_true rfl) dX6_isGiven_47 rfl ?_
      have eT := (r_ifo e).1
      have eF := (r_ifo e).2
      refine r_if_eq (rI_z z10) 57 dX6_isGiven_50 (by decide) (fun c11 => ?_) (fun c11 => ?_)
      · have e := eT c11
        refine r_iconst dX6_isGiven_57 ?_
        refine r_sub [1, 2, 3, 4, 5] rfl ?_
        exact wX6_isGiven_b58 E K5 hK5 a1 a2 a3 a4 0 ha1 ha2 ha3 ha4 (by decide) e
      · have e := eF c11
        refine r_sub [1, 2, 3, 4, 5] rfl ?_
        exact wX6_isGiven_b53 E K5 hK5 a1 a2 a3 a4 ha1 ha2 ha3 ha4 e
def fX6_isGiven_L5  : Nat → Sg → Int → Int → Int → Int → Option (Int)
  | 0, _, _, _, _, _ => none
  | n9 + 1, s, a1, a2, a3, a4 => fX6_isGiven_b5 (fX6_isGiven_L5 n9) s a1 a2 a3 a4
theorem wX6_isGiven_L5 {N : Nx} {b : Nat} {ad : Nat → Nat} {s : Sg} {h : hS} {r : Int} (E : EndX N [(6, b, ad)] 7 (some .boolean) (some (ti r)) [s] h)  : ∀ (n9 : Nat), ∀ (a1 : Int) (a2 : Int) (a3 : Int) (a4 : Int) (ha1 : rI a1) (ha2 : rI a2) (ha3 : rI a3) (ha4 : rI a4), fX6_isGiven_L5 n9 s a1 a2 a3 a4 = some (r) → AtPc cX6_isGiven RX6 1 21 N [s] h 5 [(0, tr (some b)), (1, ti a1), (2, ti a2), (3, ti a3), (4, ti a4)] [] := by
  intro n9
  induction n9 with
  | zero => intro a1 a2 a3 a4 ha1 ha2 ha3 ha4 e; cases e
  | succ n9 ih => intro a1 a2 a3 a4 ha1 ha2 ha3 ha4 e; exact wX6_isGiven_b5 E _ ih a1 a2 a3 a4 ha1 ha2 ha3 ha4 e
def fX6_isGiven  (s : Sg) (a1 : Int) (a2 : Int) : Option (Int) := fX6_isGiven_L5 FU s a1 a2 0 0
theorem kX6_isGiven {G : Gx}  {b : Nat} {ad : Nat → Nat} {s : Sg} {h : hS} {r : Int} {a1 : Int} {a2 : Int}  (ha1 : rI a1) (ha2 : rI a2) (e : fX6_isGiven s a1 a2 = some (r)) : CtX G yX6_isGiven cX6_isGiven 7 (some .boolean) 1 21 [(6, b, ad)] [s] h [tr (some b), ti a1, ti a2] (some (ti r)) [s] h := by
  refine CtX.of (by decide) (Nat.le_of_ble_eq_true rfl) [(0, tr (some b)), (1, ti a1), (2, ti a2)] rfl ?_
  have E : EndX (G, 7, [(6, b, ad)], h, [s], h, (some .boolean), (some (ti r)), yX6_isGiven.name) [(6, b, ad)] 7 (some .boolean) (some (ti r)) [s] h := ⟨rfl, rfl, rfl, rfl, rfl, rfl⟩
  unfold fX6_isGiven at e
  refine r_rrs E.p (fun rr => ?_)
  refine r_iconst dX6_isGiven_0 ?_
  refine r_istore_n (lv' := [(3, ti 0), (0, tr (some b)), (1, ti a1), (2, ti a2)]) dX6_isGiven_1 rfl (E.lt (by decide)) rfl ?_
  refine r_iconst dX6_isGiven_2 ?_
  refine r_istore (lv' := [(4, ti 0), (3, ti 0), (0, tr (some b)), (1, ti a1), (2, ti a2)]) dX6_isGiven_3 (E.lt (by decide)) rfl ?_
  refine r_sub [2, 3, 4, 1, 0] rfl ?_
  exact wX6_isGiven_L5 E FU a1 a2 0 0 ha1 ha2 (by decide) (by decide) e
def fX6_lacksOf_b90 (K13 : Sg → Int → Int → Int → Option (Int × Sg)) (K48 : Sg → Int → Int → Int → Int → Int → Int → Option (Int × Sg)) (s : Sg) (a1 : Int) (a2 : Int) (a3 : Int) (a4 : Int) (a6 : Int) (k0 : Int) : Option (Int × Sg) := K48 s a1 a2 a3 a4 k0 (wr (a6 + 1))
theorem wX6_lacksOf_b90 {N : Nx} {b : Nat} {ad : Nat → Nat} {s' : Sg} {h : hS} {r : Int} (E : EndX N [(6, b, ad)] 7 (some .int) (some (ti r)) [s'] h) (K13 : Sg → Int → Int → Int → Option (Int × Sg)) (hK13 : ∀ (s : Sg) (a1 : Int) (a2 : Int) (a3 : Int) (ha1 : rI a1) (ha2 : rI a2) (ha3 : rI a3), K13 s a1 a2 a3 = some (r, s') → AtPc cX6_lacksOf RX6 6 146 N [s] h 13 [(0, tr (some b)), (1, ti a1), (2, ti a2), (3, ti a3)] []) (K48 : Sg → Int → Int → Int → Int → Int → Int → Option (Int × Sg)) (hK48 : ∀ (s : Sg) (a1 : Int) (a2 : Int) (a3 : Int) (a4 : Int) (a5 : Int) (a6 : Int) (ha1 : rI a1) (ha2 : rI a2) (ha3 : rI a3) (ha4 : rI a4) (ha5 : rI a5) (ha6 : rI a6), K48 s a1 a2 a3 a4 a5 a6 = some (r, s') → AtPc cX6_lacksOf RX6 6 146 N [s] h 48 [(0, tr (some b)), (1, ti a1), (2, ti a2), (3, ti a3), (4, ti a4), (5, ti a5), (6, ti a6)] []) (s : Sg) (a1 : Int) (a2 : Int) (a3 : Int) (a4 : Int) (a6 : Int) (k0 : Int) (ha1 : rI a1) (ha2 : rI a2) (ha3 : rI a3) (ha4 : rI a4) (ha6 : rI a6) (hk0 : rI k0) (e : fX6_lacksOf_b90 K13 K48 s a1 a2 a3 a4 a6 k0 = some (r, s')) : AtPc cX6_lacksOf RX6 6 146 N [s] h 90 [(0, tr (some b)), (1, ti a1), (2, ti a2), (3, ti a3), (4, ti a4), (6, ti a6)] [ti k0] := by
  unfold fX6_lacksOf_b90 at e
  refine r_rrs E.p (fun rr => ?_)
  refine r_istore (lv' := [(5, ti k0), (0, tr (some b)), (1, ti a1), (2, ti a2), (3, ti a3), (4, ti a4), (6, ti a6)]) dX6_lacksOf_90 (E.lt (by decide)) rfl ?_
  refine r_iinc (lv' := [(6, ti (wr (a6 + 1))), (5, ti k0), (0, tr (some b)), (1, ti a1), (2, ti a2), (3, ti a3), (4, ti a4)]) dX6_lacksOf_92 6 rfl (E.lt (by decide)) rfl ?_
  refine r_goto 48 dX6_lacksOf_95 (by decide) ?_
  refine r_sub [2, 3, 4, 5, 6, 1, 0] rfl ?_
  exact hK48 s a1 a2 a3 a4 k0 (wr (a6 + 1)) ha1 ha2 ha3 ha4 hk0 (wr_r _) e
def fX6_lacksOf_b85 (K13 : Sg → Int → Int → Int → Option (Int × Sg)) (K48 : Sg → Int → Int → Int → Int → Int → Int → Option (Int × Sg)) (s : Sg) (a1 : Int) (a2 : Int) (a3 : Int) (a4 : Int) (a6 : Int) : Option (Int × Sg) := fX6_lacksOf_b90 K13 K48 s a1 a2 a3 a4 a6 1
theorem wX6_lacksOf_b85 {N : Nx} {b : Nat} {ad : Nat → Nat} {s' : Sg} {h : hS} {r : Int} (E : EndX N [(6, b, ad)] 7 (some .int) (some (ti r)) [s'] h) (K13 : Sg → Int → Int → Int → Option (Int × Sg)) (hK13 : ∀ (s : Sg) (a1 : Int) (a2 : Int) (a3 : Int) (ha1 : rI a1) (ha2 : rI a2) (ha3 : rI a3), K13 s a1 a2 a3 = some (r, s') → AtPc cX6_lacksOf RX6 6 146 N [s] h 13 [(0, tr (some b)), (1, ti a1), (2, ti a2), (3, ti a3)] []) (K48 : Sg → Int → Int → Int → Int → Int → Int → Option (Int × Sg)) (hK48 : ∀ (s : Sg) (a1 : Int) (a2 : Int) (a3 : Int) (a4 : Int) (a5 : Int) (a6 : Int) (ha1 : rI a1) (ha2 : rI a2) (ha3 : rI a3) (ha4 : rI a4) (ha5 : rI a5) (ha6 : rI a6), K48 s a1 a2 a3 a4 a5 a6 = some (r, s') → AtPc cX6_lacksOf RX6 6 146 N [s] h 48 [(0, tr (some b)), (1, ti a1), (2, ti a2), (3, ti a3), (4, ti a4), (5, ti a5), (6, ti a6)] []) (s : Sg) (a1 : Int) (a2 : Int) (a3 : Int) (a4 : Int) (a6 : Int) (ha1 : rI a1) (ha2 : rI a2) (ha3 : rI a3) (ha4 : rI a4) (ha6 : rI a6) (e : fX6_lacksOf_b85 K13 K48 s a1 a2 a3 a4 a6 = some (r, s')) : AtPc cX6_lacksOf RX6 6 146 N [s] h 85 [(0, tr (some b)), (1, ti a1), (2, ti a2), (3, ti a3), (4, ti a4), (6, ti a6)] [] := by
  unfold fX6_lacksOf_b85 at e
  refine r_rrs E.p (fun rr => ?_)
  refine r_iconst dX6_lacksOf_85 ?_
  refine r_goto 90 dX6_lacksOf_86 (by decide) ?_
  exact wX6_lacksOf_b90 E K13 hK13 K48 hK48 s a1 a2 a3 a4 a6 1 ha1 ha2 ha3 ha4 ha6 (by decide) e
def fX6_lacksOf_b129 (K13 : Sg → Int → Int → Int → Option (Int × Sg)) (s : Sg) (a1 : Int) (a3 : Int) (k0 : Int) (k1 : Int) : Option (Int × Sg) := K13 s a1 (ior k0 k1) (wr (a3 + 1))
theorem wX6_lacksOf_b129 {N : Nx} {b : Nat} {ad : Nat → Nat} {s' : Sg} {h : hS} {r : Int} (E : EndX N [(6, b, ad)] 7 (some .int) (some (ti r)) [s'] h) (K13 : Sg → Int → Int → Int → Option (Int × Sg)) (hK13 : ∀ (s : Sg) (a1 : Int) (a2 : Int) (a3 : Int) (ha1 : rI a1) (ha2 : rI a2) (ha3 : rI a3), K13 s a1 a2 a3 = some (r, s') → AtPc cX6_lacksOf RX6 6 146 N [s] h 13 [(0, tr (some b)), (1, ti a1), (2, ti a2), (3, ti a3)] []) (s : Sg) (a1 : Int) (a3 : Int) (k0 : Int) (k1 : Int) (ha1 : rI a1) (ha3 : rI a3) (hk0 : rI k0) (hk1 : rI k1) (e : fX6_lacksOf_b129 K13 s a1 a3 k0 k1 = some (r, s')) : AtPc cX6_lacksOf RX6 6 146 N [s] h 129 [(0, tr (some b)), (1, ti a1), (3, ti a3)] [ti k1, ti k0] := by
  unfold fX6_lacksOf_b129 at e
  refine r_rrs E.p (fun rr => ?_)
  refine r_ior dX6_lacksOf_129 ?_
  refine r_istore_n (lv' := [(2, ti (ior k0 k1)), (0, tr (some b)), (1, ti a1), (3, ti a3)]) dX6_lacksOf_130 rfl (E.lt (by decide)) rfl ?_
  refine r_iinc (lv' := [(3, ti (wr (a3 + 1))), (2, ti (ior k0 k1)), (0, tr (some b)), (1, ti a1)]) dX6_lacksOf_131 3 rfl (E.lt (by decide)) rfl ?_
  refine r_goto 13 dX6_lacksOf_134 (by decide) ?_
  refine r_sub [2, 3, 1, 0] rfl ?_
  exact hK13 s a1 (ior k0 k1) (wr (a3 + 1)) ha1 (ior_r _ _) (wr_r _) e
def fX6_lacksOf_b128 (K13 : Sg → Int → Int → Int → Option (Int × Sg)) (s : Sg) (a1 : Int) (a3 : Int) (k0 : Int) : Option (Int × Sg) := fX6_lacksOf_b129 K13 s a1 a3 k0 0
theorem wX6_lacksOf_b128 {N : Nx} {b : Nat} {ad : Nat → Nat} {s' : Sg} {h : hS} {r : Int} (E : EndX N [(6, b, ad)] 7 (some .int) (some (ti r)) [s'] h) (K13 : Sg → Int → Int → Int → Option (Int × Sg)) (hK13 : ∀ (s : Sg) (a1 : Int) (a2 : Int) (a3 : Int) (ha1 : rI a1) (ha2 : rI a2) (ha3 : rI a3), K13 s a1 a2 a3 = some (r, s') → AtPc cX6_lacksOf RX6 6 146 N [s] h 13 [(0, tr (some b)), (1, ti a1), (2, ti a2), (3, ti a3)] []) (s : Sg) (a1 : Int) (a3 : Int) (k0 : Int) (ha1 : rI a1) (ha3 : rI a3) (hk0 : rI k0) (e : fX6_lacksOf_b128 K13 s a1 a3 k0 = some (r, s')) : AtPc cX6_lacksOf RX6 6 146 N [s] h 128 [(0, tr (some b)), (1, ti a1), (3, ti a3)] [ti k0] := by
  unfold fX6_lacksOf_b128 at e
  refine r_rrs E.p (fun rr => ?_)
  refine r_iconst dX6_lacksOf_128 ?_
  exact wX6_lacksOf_b129 E K13 hK13 s a1 a3 k0 0 ha1 ha3 hk0 (by decide) e
def fX6_lacksOf_b98 (K13 : Sg → Int → Int → Int → Option (Int × Sg)) (s : Sg) (a1 : Int) (a2 : Int) (a3 : Int) (a5 : Int) : Option (Int × Sg) := gd (inb a1 6) (gd (inb (gA s 6 a1) 4) (bd (fX6_isIn (gA s 2 (gA s 6 a1)) a3) fun p3 => if p3 = 0 then fX6_lacksOf_b128 K13 s a1 a3 a2 else if ¬ a5 = 0 then fX6_lacksOf_b128 K13 s a1 a3 a2 else fX6_lacksOf_b129 K13 s a1 a3 a2 (ishl 1 a3)))
theorem wX6_lacksOf_b98 {N : Nx} {b : Nat} {ad : Nat → Nat} {s' : Sg} {h : hS} {r : Int} (E : EndX N [(6, b, ad)] 7 (some .int) (some (ti r)) [s'] h) (K13 : Sg → Int → Int → Int → Option (Int × Sg)) (hK13 : ∀ (s : Sg) (a1 : Int) (a2 : Int) (a3 : Int) (ha1 : rI a1) (ha2 : rI a2) (ha3 : rI a3), K13 s a1 a2 a3 = some (r, s') → AtPc cX6_lacksOf RX6 6 146 N [s] h 13 [(0, tr (some b)), (1, ti a1), (2, ti a2), (3, ti a3)] []) (s : Sg) (a1 : Int) (a2 : Int) (a3 : Int) (a5 : Int) (ha1 : rI a1) (ha2 : rI a2) (ha3 : rI a3) (ha5 : rI a5) (e : fX6_lacksOf_b98 K13 s a1 a2 a3 a5 = some (r, s')) : AtPc cX6_lacksOf RX6 6 146 N [s] h 98 [(0, tr (some b)), (1, ti a1), (2, ti a2), (3, ti a3), (5, ti a5)] [] := by
  unfold fX6_lacksOf_b98 at e
  refine r_rrs E.p (fun rr => ?_)
  refine r_iload_n dX6_lacksOf_98 rfl 2 rfl ?_
  refine r_aload_n dX6_lacksOf_99 rfl 0 rfl ?_
  refine r_sR E.p 2 fG_X6_7 (by decide) dX6_lacksOf_100 ?_
  refine r_aload_n dX6_lacksOf_103 rfl 0 rfl ?_
  refine r_sR E.p 6 fG_X6_19 (by decide) dX6_lacksOf_104 ?_
  refine r_iload_n dX6_lacksOf_107 rfl 1 rfl ?_
  obtain ⟨g1, e⟩ := gd_o e
  refine r_saI E.p 6 rfl (by decide) (by decide) ha1 g1 rfl dX6_lacksOf_108 ?_
  obtain ⟨g2, e⟩ := gd_o e
  refine r_saI E.p 2 rfl (by decide) (by decide) (((rr.mine rfl).a 6 (by decide) rfl).1 _) g2 rfl dX6_lacksOf_109 ?_
  refine r_iload_n dX6_lacksOf_110 rfl 3 rfl ?_
  obtain ⟨p3, q4, e⟩ := bd_o e
  have k5 := kX6_isIn (G := nG N) (h := h) (((rr.mine rfl).a 2 (by decide) rfl).1 _) ha3 q4
  have z6 := (k5 rr.none).1.2.2.2
  refine r_callS (j := none) 2 [ti (gA s 2 (gA s 6 a1)), ti a3] k5 (injO_1 E.p) subO_0 getO_0 setO_0 (lw_S q1663 q1664 q123 q1665) (by decide +kernel) rfl (Nat.le_of_ble_eq_true rfl) (Nat.le_of_ble_eq_true rfl) rfl (Nat.le_of_ble_eq_true rfl) dX6_lacksOf_111 rfl ?_
  have eT := (r_ifo e).1
  have eF := (r_ifo e).2
  refine r_if_eq (rI_z z6) 128 dX6_lacksOf_114 (by decide) (fun c7 => ?_) (fun c7 => ?_)
  · have e := eT c7
    refine r_sub [0, 1, 3] rfl ?_
    exact wX6_lacksOf_b128 E K13 hK13 s a1 a3 a2 ha1 ha3 ha2 e
  · have e := eF c7
    refine r_iload dX6_lacksOf_117 4 rfl ?_
    have eT := (r_ifo e).1
    have eF := (r_ifo e).2
    refine r_if_ne ha5 128 dX6_lacksOf_119 (by decide) (fun c8 => ?_) (fun c8 => ?_)
    · have e := eT c8
      refine r_sub [0, 1, 3] rfl ?_
      exact wX6_lacksOf_b128 E K13 hK13 s a1 a3 a2 ha1 ha3 ha2 e
    · have e := eF c8
      refine r_iconst dX6_lacksOf_122 ?_
      refine r_iload_n dX6_lacksOf_123 rfl 3 rfl ?_
      refine r_ishl dX6_lacksOf_124 ?_
      refine r_goto 129 dX6_lacksOf_125 (by decide) ?_
      refine r_sub [0, 1, 3] rfl ?_
      exact wX6_lacksOf_b129 E K13 hK13 s a1 a3 a2 (ishl 1 a3) ha1 ha3 ha2 (ishl_r _ _) e
def fX6_lacksOf_b48 (K13 : Sg → Int → Int → Int → Option (Int × Sg)) (K48 : Sg → Int → Int → Int → Int → Int → Int → Option (Int × Sg)) (s : Sg) (a1 : Int) (a2 : Int) (a3 : Int) (a4 : Int) (a5 : Int) (a6 : Int) : Option (Int × Sg) := if 8 ≤ a6 then fX6_lacksOf_b98 K13 s a1 a2 a3 a5 else if a5 = 0 then fX6_lacksOf_b98 K13 s a1 a2 a3 a5 else gd (inb a4 36) (bd (fX6_isIn (gA s 43 a4) a6) fun p4 => if p4 = 0 then fX6_lacksOf_b85 K13 K48 s a1 a2 a3 a4 a6 else bd (fX6_isGiven s a1 a6) fun p9 => if p9 = 0 then fX6_lacksOf_b90 K13 K48 s a1 a2 a3 a4 a6 0 else fX6_lacksOf_b85 K13 K48 s a1 a2 a3 a4 a6)
theorem wX6_lacksOf_b48 {N : Nx} {b : Nat} {ad : Nat → Nat} {s' : Sg} {h : hS} {r : Int} (E : EndX N [(6, b, ad)] 7 (some .int) (some (ti r)) [s'] h) (K13 : Sg → Int → Int → Int → Option (Int × Sg)) (hK13 : ∀ (s : Sg) (a1 : Int) (a2 : Int) (a3 : Int) (ha1 : rI a1) (ha2 : rI a2) (ha3 : rI a3), K13 s a1 a2 a3 = some (r, s') → AtPc cX6_lacksOf RX6 6 146 N [s] h 13 [(0, tr (some b)), (1, ti a1), (2, ti a2), (3, ti a3)] []) (K48 : Sg → Int → Int → Int → Int → Int → Int → Option (Int × Sg)) (hK48 : ∀ (s : Sg) (a1 : Int) (a2 : Int) (a3 : Int) (a4 : Int) (a5 : Int) (a6 : Int) (ha1 : rI a1) (ha2 : rI a2) (ha3 : rI a3) (ha4 : rI a4) (ha5 : rI a5) (ha6 : rI a6), K48 s a1 a2 a3 a4 a5 a6 = some (r, s') → AtPc cX6_lacksOf RX6 6 146 N [s] h 48 [(0, tr (some b)), (1, ti a1), (2, ti a2), (3, ti a3), (4, ti a4), (5, ti a5), (6, ti a6)] []) (s : Sg) (a1 : Int) (a2 : Int) (a3 : Int) (a4 : Int) (a5 : Int) (a6 : Int) (ha1 : rI a1) (ha2 : rI a2) (ha3 : rI a3) (ha4 : rI a4) (ha5 : rI a5) (ha6 : rI a6) (e : fX6_lacksOf_b48 K13 K48 s a1 a2 a3 a4 a5 a6 = some (r, s')) : AtPc cX6_lacksOf RX6 6 146 N [s] h 48 [(0, tr (some b)), (1, ti a1), (2, ti a2), (3, ti a3), (4, ti a4), (5, ti a5), (6, ti a6)] [] := by
  unfold fX6_lacksOf_b48 at e
  refine r_rrs E.p (fun rr => ?_)
  refine r_iload dX6_lacksOf_48 6 rfl ?_
  refine r_bipush dX6_lacksOf_50 (by decide) ?_
  have eT := (r_ifo e).1
  have eF := (r_ifo e).2
  refine r_icmp_ge ha6 (by decide) 98 dX6_lacksOf_52 (by decide) (fun c1 => ?_) (fun c1 => ?_)
  · have e := eT c1
    refine r_sub [0, 1, 2, 3, 5] rfl ?_
    exact wX6_lacksOf_b98 E K13 hK13 s a1 a2 a3 a5 ha1 ha2 ha3 ha5 e
  · have e := eF c1
    refine r_iload dX6_lacksOf_55 5 rfl ?_
    have eT := (r_ifo e).1
    have eF := (r_ifo e).2
    refine r_if_eq ha5 98 dX6_lacksOf_57 (by decide) (fun c2 => ?_) (fun c2 => ?_)
    · have e := eT c2
      refine r_sub [0, 1, 2, 3, 5] rfl ?_
      exact wX6_lacksOf_b98 E K13 hK13 s a1 a2 a3 a5 ha1 ha2 ha3 ha5 e
    · have e := eF c2
      refine r_aload_n dX6_lacksOf_60 rfl 0 rfl ?_
      refine r_sR E.p 43 fG_X6_110 (by decide) dX6_lacksOf_61 ?_
      refine r_iload dX6_lacksOf_64 4 rfl ?_
      obtain ⟨g3, e⟩ := gd_o e
      refine r_saI E.p 43 rfl (by decide) (by decide) ha4 g3 rfl dX6_lacksOf_66 ?_
      refine r_iload dX6_lacksOf_67 6 rfl ?_
      obtain ⟨p4, q5, e⟩ := bd_o e
      have k6 := kX6_isIn (G := nG N) (h := h) (((rr.mine rfl).a 43 (by decide) rfl).1 _) ha6 q5
      have z7 := (k6 rr.none).1.2.2.2
      refine r_callS (j := none) 2 [ti (gA s 43 a4), ti a6] k6 (injO_1 E.p) subO_0 getO_0 setO_0 (lw_S q1663 q1664 q123 q1665) (by decide +kernel) rfl (Nat.le_of_ble_eq_true rfl) (Nat.le_of_ble_eq_true rfl) rfl (Nat.le_of_ble_eq_true rfl) dX6_lacksOf_69 rfl ?_
      have eT := (r_ifo e).1
      have eF := (r_ifo e).2
      refine r_if_eq (rI_z z7) 85 dX6_lacksOf_72 (by decide) (fun c8 => ?_) (fun c8 => ?_)
      · have e := eT c8
        refine r_sub [0, 1, 2, 3, 4, 6] rfl ?_
        exact wX6_lacksOf_b85 E K13 hK13 K48 hK48 s a1 a2 a3 a4 a6 ha1 ha2 ha3 ha4 ha6 e
      · have e := eF c8
        refine r_aload_n dX6_lacksOf_75 rfl 0 rfl ?_
        refine r_iload_n dX6_lacksOf_76 rfl 1 rfl ?_
        refine r_iload dX6_lacksOf_77 6 rfl ?_
        obtain ⟨p9, q10, e⟩ := bd_o e
        have k11 := kX6_isGiven (G := nG N) (b := b) (ad := ad) (h := h) ha1 ha6 q10
        have z12 := (k11 rr).1.2.2.2
        refine r_callV (j := some 0) 2 [ti a1, ti a6] (rec_sg (j := 0) (r := (RX6, TX6, 63)) rfl (by rw [E.p]; rfl)) rfl k11 (injO_1 E.p) (subO_1 E.p) getO_1 setO_1 (lw_V q1781 q1783 qs80 q123 q1784) (by decide +kernel) rfl (Nat.le_of_ble_eq_true rfl) (Nat.le_of_ble_eq_true rfl) rfl (Nat.le_of_ble_eq_true rfl) dX6_lacksOf_79 rfl ?_
        have eT := (r_ifo e).1
        have eF := (r_ifo e).2
        refine r_if_eq (rI_z z12) 89 dX6_lacksOf_82 (by decide) (fun c13 => ?_) (fun c13 => ?_)
        · have e := eT c13
          refine r_iconst dX6_lacksOf_89 ?_
          refine r_sub [0, 1, 2, 3, 4, 6] rfl ?_
          exact wX6_lacksOf_b90 E K13 hK13 K48 hK48 s a1 a2 a3 a4 a6 0 ha1 ha2 ha3 ha4 ha6 (by decide) e
        · have e := eF c13
          refine r_sub [0, 1, 2, 3, 4, 6] rfl ?_
          exact wX6_lacksOf_b85 E K13 hK13 K48 hK48 s a1 a2 a3 a4 a6 ha1 ha2 ha3 ha4 ha6 e
def fX6_lacksOf_L48 (K13 : Sg → Int → Int → Int → Option (Int × Sg)) : Nat → Sg → Int → Int → Int → Int → Int → Int → Option (Int × Sg)
  | 0, _, _, _, _, _, _, _ => none
  | n9 + 1, s, a1, a2, a3, a4, a5, a6 => fX6_lacksOf_b48 K13 (fX6_lacksOf_L48 K13 n9) s a1 a2 a3 a4 a5 a6
theorem wX6_lacksOf_L48 {N : Nx} {b : Nat} {ad : Nat → Nat} {s' : Sg} {h : hS} {r : Int} (E : EndX N [(6, b, ad)] 7 (some .int) (some (ti r)) [s'] h) (K13 : Sg → Int → Int → Int → Option (Int × Sg)) (hK13 : ∀ (s : Sg) (a1 : Int) (a2 : Int) (a3 : Int) (ha1 : rI a1) (ha2 : rI a2) (ha3 : rI a3), K13 s a1 a2 a3 = some (r, s') → AtPc cX6_lacksOf RX6 6 146 N [s] h 13 [(0, tr (some b)), (1, ti a1), (2, ti a2), (3, ti a3)] []) : ∀ (n9 : Nat), ∀ (s : Sg) (a1 : Int) (a2 : Int) (a3 : Int) (a4 : Int) (a5 : Int) (a6 : Int) (ha1 : rI a1) (ha2 : rI a2) (ha3 : rI a3) (ha4 : rI a4) (ha5 : rI a5) (ha6 : rI a6), fX6_lacksOf_L48 K13 n9 s a1 a2 a3 a4 a5 a6 = some (r, s') → AtPc cX6_lacksOf RX6 6 146 N [s] h 48 [(0, tr (some b)), (1, ti a1), (2, ti a2), (3, ti a3), (4, ti a4), (5, ti a5), (6, ti a6)] [] := by
  intro n9
  induction n9 with
  | zero => intro s a1 a2 a3 a4 a5 a6 ha1 ha2 ha3 ha4 ha5 ha6 e; cases e
  | succ n9 ih => intro s a1 a2 a3 a4 a5 a6 ha1 ha2 ha3 ha4 ha5 ha6 e; exact wX6_lacksOf_b48 E K13 hK13 _ ih s a1 a2 a3 a4 a5 a6 ha1 ha2 ha3 ha4 ha5 ha6 e
def fX6_lacksOf_b43 (K13 : Sg → Int → Int → Int → Option (Int × Sg)) (s : Sg) (a1 : Int) (a2 : Int) (a3 : Int) (a4 : Int) (k0 : Int) : Option (Int × Sg) := fX6_lacksOf_L48 K13 FU s a1 a2 a3 a4 k0 0
theorem wX6_lacksOf_b43 {N : Nx} {b : Nat} {ad : Nat → Nat} {s' : Sg} {h : hS} {r : Int} (E : EndX N [(6, b, ad)] 7 (some .int) (some (ti r)) [s'] h) (K13 : Sg → Int → Int → Int → Option (Int × Sg)) (hK13 : ∀ (s : Sg) (a1 : Int) (a2 : Int) (a3 : Int) (ha1 : rI a1) (ha2 : rI a2) (ha3 : rI a3), K13 s a1 a2 a3 = some (r, s') → AtPc cX6_lacksOf RX6 6 146 N [s] h 13 [(0, tr (some b)), (1, ti a1), (2, ti a2), (3, ti a3)] []) (s : Sg) (a1 : Int) (a2 : Int) (a3 : Int) (a4 : Int) (k0 : Int) (ha1 : rI a1) (ha2 : rI a2) (ha3 : rI a3) (ha4 : rI a4) (hk0 : rI k0) (e : fX6_lacksOf_b43 K13 s a1 a2 a3 a4 k0 = some (r, s')) : AtPc cX6_lacksOf RX6 6 146 N [s] h 43 [(0, tr (some b)), (1, ti a1), (2, ti a2), (3, ti a3), (4, ti a4)] [ti k0] := by
  unfold fX6_lacksOf_b43 at e
  refine r_rrs E.p (fun rr => ?_)
  refine r_istore (lv' := [(5, ti k0), (0, tr (some b)), (1, ti a1), (2, ti a2), (3, ti a3), (4, ti a4)]) dX6_lacksOf_43 (E.lt (by decide)) rfl ?_
  refine r_iconst dX6_lacksOf_45 ?_
  refine r_istore (lv' := [(6, ti 0), (5, ti k0), (0, tr (some b)), (1, ti a1), (2, ti a2), (3, ti a3), (4, ti a4)]) dX6_lacksOf_46 (E.lt (by decide)) rfl ?_
  refine r_sub [2, 3, 4, 5, 6, 1, 0] rfl ?_
  exact wX6_lacksOf_L48 E K13 hK13 FU s a1 a2 a3 a4 k0 0 ha1 ha2 ha3 ha4 hk0 (by decide) e
def fX6_lacksOf_b13 (K13 : Sg → Int → Int → Int → Option (Int × Sg)) (s : Sg) (a1 : Int) (a2 : Int) (a3 : Int) : Option (Int × Sg) := if (gI s 1) ≤ a3 then some (a2, s) else gd (inb (wr (9 * a3)) 36) (if ¬ (gA s 36 (wr (9 * a3))) = 1 then fX6_lacksOf_b43 K13 s a1 a2 a3 (wr (9 * a3)) 0 else fX6_lacksOf_b43 K13 s a1 a2 a3 (wr (9 * a3)) 1)
theorem wX6_lacksOf_b13 {N : Nx} {b : Nat} {ad : Nat → Nat} {s' : Sg} {h : hS} {r : Int} (E : EndX N [(6, b, ad)] 7 (some .int) (some (ti r)) [s'] h) (K13 : Sg → Int → Int → Int → Option (Int × Sg)) (hK13 : ∀ (s : Sg) (a1 : Int) (a2 : Int) (a3 : Int) (ha1 : rI a1) (ha2 : rI a2) (ha3 : rI a3), K13 s a1 a2 a3 = some (r, s') → AtPc cX6_lacksOf RX6 6 146 N [s] h 13 [(0, tr (some b)), (1, ti a1), (2, ti a2), (3, ti a3)] []) (s : Sg) (a1 : Int) (a2 : Int) (a3 : Int) (ha1 : rI a1) (ha2 : rI a2) (ha3 : rI a3) (e : fX6_lacksOf_b13 K13 s a1 a2 a3 = some (r, s')) : AtPc cX6_lacksOf RX6 6 146 N [s] h 13 [(0, tr (some b)), (1, ti a1), (2, ti a2), (3, ti a3)] [] := by
  unfold fX6_lacksOf_b13 at e
  refine r_rrs E.p (fun rr => ?_)
  refine r_iload_n dX6_lacksOf_13 rfl 3 rfl ?_
  refine r_aload_n dX6_lacksOf_14 rfl 0 rfl ?_
  refine r_sI E.p 1 fG_X6_211 (by decide) dX6_lacksOf_15 ?_
  have eT := (r_ifo e).1
  have eF := (r_ifo e).2
  refine r_icmp_ge ha3 ((rr.mine rfl).i 1 (by decide) (by decide)) 137 dX6_lacksOf_18 (by decide) (fun c1 => ?_) (fun c1 => ?_)
  · have e := eT c1
    refine r_iload_n dX6_lacksOf_137 rfl 2 rfl ?_
    cases e
    exact r_iret E.σ E.st E.rt E.r ha2 dX6_lacksOf_138
  · have e := eF c1
    refine r_bipush dX6_lacksOf_21 (by decide) ?_
    refine r_iload_n dX6_lacksOf_23 rfl 3 rfl ?_
    refine r_imul dX6_lacksOf_24 ?_
    refine r_istore (lv' := [(4, ti (wr (9 * a3))), (0, tr (some b)), (1, ti a1), (2, ti a2), (3, ti a3)]) dX6_lacksOf_25 (E.lt (by decide)) rfl ?_
    refine r_aload_n dX6_lacksOf_27 rfl 1 rfl ?_
    refine r_sR E.p 36 fG_X6_89 (by decide) dX6_lacksOf_28 ?_
    refine r_iload dX6_lacksOf_31 0 rfl ?_
    obtain ⟨g2, e⟩ := gd_o e
    refine r_saI E.p 36 rfl (by decide) (by decide) (wr_r _) g2 rfl dX6_lacksOf_33 ?_
    refine r_iconst dX6_lacksOf_34 ?_
    have eT := (r_ifo e).1
    have eF := (r_ifo e).2
    refine r_icmp_ne (((rr.mine rfl).a 36 (by decide) rfl).1 _) (by decide) 42 dX6_lacksOf_35 (by decide) (fun c3 => ?_) (fun c3 => ?_)
    · have e := eT c3
      refine r_iconst dX6_lacksOf_42 ?_
      refine r_sub [1, 2, 3, 4, 0] rfl ?_
      exact wX6_lacksOf_b43 E K13 hK13 s a1 a2 a3 (wr (9 * a3)) 0 ha1 ha2 ha3 (wr_r _) (by decide) e
    · have e := eF c3
      refine r_iconst dX6_lacksOf_38 ?_
      refine r_goto 43 dX6_lacksOf_39 (by decide) ?_
      refine r_sub [1, 2, 3, 4, 0] rfl ?_
      exact wX6_lacksOf_b43 E K13 hK13 s a1 a2 a3 (wr (9 * a3)) 1 ha1 ha2 ha3 (wr_r _) (by decide) e
def fX6_lacksOf_L13  : Nat → Sg → Int → Int → Int → Option (Int × Sg)
  | 0, _, _, _, _ => none
  | n9 + 1, s, a1, a2, a3 => fX6_lacksOf_b13 (fX6_lacksOf_L13 n9) s a1 a2 a3
theorem wX6_lacksOf_L13 {N : Nx} {b : Nat} {ad : Nat → Nat} {s' : Sg} {h : hS} {r : Int} (E : EndX N [(6, b, ad)] 7 (some .int) (some (ti r)) [s'] h)  : ∀ (n9 : Nat), ∀ (s : Sg) (a1 : Int) (a2 : Int) (a3 : Int) (ha1 : rI a1) (ha2 : rI a2) (ha3 : rI a3), fX6_lacksOf_L13 n9 s a1 a2 a3 = some (r, s') → AtPc cX6_lacksOf RX6 6 146 N [s] h 13 [(0, tr (some b)), (1, ti a1), (2, ti a2), (3, ti a3)] [] := by
  intro n9
  induction n9 with
  | zero => intro s a1 a2 a3 ha1 ha2 ha3 e; cases e
  | succ n9 ih => intro s a1 a2 a3 ha1 ha2 ha3 e; exact wX6_lacksOf_b13 E _ ih s a1 a2 a3 ha1 ha2 ha3 e
def fX6_lacksOf  (s : Sg) (a1 : Int) : Option (Int × Sg) := bd (fX6_layHead s a1) fun p1 => bd (fX6_layGoals p1) fun p6 => fX6_lacksOf_L13 FU p6 a1 0 0
theorem kX6_lacksOf {G : Gx}  {b : Nat} {ad : Nat → Nat} {s' : Sg} {h : hS} {r : Int} {s : Sg} {a1 : Int}  (ha1 : rI a1) (e : fX6_lacksOf s a1 = some (r, s')) : CtX G yX6_lacksOf cX6_lacksOf 7 (some .int) 6 146 [(6, b, ad)] [s] h [tr (some b), ti a1] (some (ti r)) [s'] h := by
  refine CtX.of (by decide) (Nat.le_of_ble_eq_true rfl) [(0, tr (some b)), (1, ti a1)] rfl ?_
  have E : EndX (G, 7, [(6, b, ad)], h, [s'], h, (some .int), (some (ti r)), yX6_lacksOf.name) [(6, b, ad)] 7 (some .int) (some (ti r)) [s'] h := ⟨rfl, rfl, rfl, rfl, rfl, rfl⟩
  unfold fX6_lacksOf at e
  refine r_rrs E.p (fun rr => ?_)
  refine r_aload_n dX6_lacksOf_0 rfl 0 rfl ?_
  refine r_iload_n dX6_lacksOf_1 rfl 1 rfl ?_
  obtain ⟨p1, q2, e⟩ := bd_o e
  have k3 := kX6_layHead (G := G) (b := b) (ad := ad) (h := h) ha1 q2
  have z4 := (k3 rr).1.2.2.2
  refine r_callV (j := some 0) 1 [ti a1] (rec_sg (j := 0) (r := (RX6, TX6, 63)) rfl (by rw [E.p]; rfl)) rfl k3 (injO_1 E.p) (subO_1 E.p) getO_1 setO_1 (lw_V q1674 q1676 qs58 q123 q1677) (by decide +kernel) rfl (Nat.le_of_ble_eq_true rfl) (Nat.le_of_ble_eq_true rfl) rfl (Nat.le_of_ble_eq_true rfl) dX6_lacksOf_2 rfl ?_
  refine r_rrs E.p (fun rr5 => ?_)
  refine r_aload_n dX6_lacksOf_5 rfl 0 rfl ?_
  obtain ⟨p6, q7, e⟩ := bd_o e
  have k8 := kX6_layGoals (G := G) (b := b) (ad := ad) (h := h)  q7
  have z9 := (k8 rr5).1.2.2.2
  refine r_callV (j := some 0) 0 [] (rec_sg (j := 0) (r := (RX6, TX6, 63)) rfl (by rw [E.p]; rfl)) rfl k8 (injO_1 E.p) (subO_1 E.p) getO_1 setO_1 (lw_V q1745 q1747 qs71 q123 q1748) (by decide +kernel) rfl (Nat.le_of_ble_eq_true rfl) (Nat.le_of_ble_eq_true rfl) rfl (Nat.le_of_ble_eq_true rfl) dX6_lacksOf_6 rfl ?_
  refine r_rrs E.p (fun rr10 => ?_)
  refine r_iconst dX6_lacksOf_9 ?_
  refine r_istore_n (lv' := [(2, ti 0), (0, tr (some b)), (1, ti a1)]) dX6_lacksOf_10 rfl (E.lt (by decide)) rfl ?_
  refine r_iconst dX6_lacksOf_11 ?_
  refine r_istore_n (lv' := [(3, ti 0), (2, ti 0), (0, tr (some b)), (1, ti a1)]) dX6_lacksOf_12 rfl (E.lt (by decide)) rfl ?_
  refine r_sub [2, 3, 1, 0] rfl ?_
  exact wX6_lacksOf_L13 E FU p6 a1 0 0 ha1 (by decide) (by decide) e
def fX6_instanceNow_b85 (s : Sg) (k0 : Int) : Option (Int × Sg) := some (k0, s)
theorem wX6_instanceNow_b85 {N : Nx} {b : Nat} {ad : Nat → Nat} {s' : Sg} {h : hS} {r : Int} (E : EndX N [(6, b, ad)] 3 (some .int) (some (ti r)) [s'] h)  (s : Sg) (k0 : Int) (hk0 : rI k0) (e : fX6_instanceNow_b85 s k0 = some (r, s')) : AtPc cX6_instanceNow RX6 7 172 N [s] h 85 [] [ti k0] := by
  unfold fX6_instanceNow_b85 at e
  refine r_rrs E.p (fun rr => ?_)
  cases e
  exact r_iret E.σ E.st E.rt E.r hk0 dX6_instanceNow_85
def fX6_instanceNow  (s : Sg) (a1 : Int) (a2 : Int) : Option (Int × Sg) := if a2 = 0 then gd (inb a1 6) (some (gA s 5 a1, s)) else if a2 = 1 then gd (inb a1 6) (some (gA s 6 a1, s)) else if a2 = 2 then gd (inb a1 6) (some (gA s 8 a1, s)) else if a2 = 3 then gd (inb a1 6) (some (gA s 9 a1, s)) else if a2 = 4 then bd (fX6_isSound s a1) fun p10 => if p10 = 0 then fX6_instanceNow_b85 s 0 else fX6_instanceNow_b85 s 1 else if a2 = 5 then bd (fX6_sortsOf s a1) fun p16 => some (p16, s) else if a2 = 6 then bd (fX6_askOf s a1) fun p21 => some (p21, s) else bd (fX6_lacksOf s a1) fun p25 => some (p25.1, p25.2)
theorem kX6_instanceNow {G : Gx}  {b : Nat} {ad : Nat → Nat} {s' : Sg} {h : hS} {r : Int} {s : Sg} {a1 : Int} {a2 : Int}  (ha1 : rI a1) (ha2 : rI a2) (e : fX6_instanceNow s a1 a2 = some (r, s')) : CtX G yX6_instanceNow cX6_instanceNow 3 (some .int) 7 172 [(6, b, ad)] [s] h [tr (some b), ti a1, ti a2] (some (ti r)) [s'] h := by
  refine CtX.of (by decide) (Nat.le_of_ble_eq_true rfl) [(0, tr (some b)), (1, ti a1), (2, ti a2)] rfl ?_
  have E : EndX (G, 3, [(6, b, ad)], h, [s'], h, (some .int), (some (ti r)), yX6_instanceNow.name) [(6, b, ad)] 3 (some .int) (some (ti r)) [s'] h := ⟨rfl, rfl, rfl, rfl, rfl, rfl⟩
  unfold fX6_instanceNow at e
  refine r_rrs E.p (fun rr => ?_)
  refine r_iload_n dX6_instanceNow_0 rfl 2 rfl ?_
  have eT := (r_ifo e).1
  have eF := (r_ifo e).2
  by_cases c1 : a2 = 0
  · have e := eT c1
    refine r_tswI ha2 dX6_instanceNow_1 0 c1 44 (by decide) (by decide) rfl (by decide) ?_
    refine r_aload_n dX6_instanceNow_44 rfl 0 rfl ?_
    refine r_sR E.p 5 fG_X6_16 (by decide) dX6_instanceNow_45 ?_
    refine r_iload_n dX6_instanceNow_48 rfl 1 rfl ?_
    obtain ⟨g2, e⟩ := gd_o e
    refine r_saI E.p 5 rfl (by decide) (by decide) ha1 g2 rfl dX6_instanceNow_49 ?_
    cases e
    exact r_iret E.σ E.st E.rt E.r (((rr.mine rfl).a 5 (by decide) rfl).1 _) dX6_instanceNow_50
  · have e := eF c1
    have eT := (r_ifo e).1
    have eF := (r_ifo e).2
    by_cases c3 : a2 = 1
    · have e := eT c3
      refine r_tswI ha2 dX6_instanceNow_1 1 c3 51 (by decide) (by decide) rfl (by decide) ?_
      refine r_aload_n dX6_instanceNow_51 rfl 0 rfl ?_
      refine r_sR E.p 6 fG_X6_19 (by decide) dX6_instanceNow_52 ?_
      refine r_iload_n dX6_instanceNow_55 rfl 1 rfl ?_
      obtain ⟨g4, e⟩ := gd_o e
      refine r_saI E.p 6 rfl (by decide) (by decide) ha1 g4 rfl dX6_instanceNow_56 ?_
      cases e
      exact r_iret E.σ E.st E.rt E.r (((rr.mine rfl).a 6 (by decide) rfl).1 _) dX6_instanceNow_57
    · have e := eF c3
      have eT := (r_ifo e).1
      have eF := (r_ifo e).2
      by_cases c5 : a2 = 2
      · have e := eT c5
        refine r_tswI ha2 dX6_instanceNow_1 2 c5 58 (by decide) (by decide) rfl (by decide) ?_
        refine r_aload_n dX6_instanceNow_58 rfl 0 rfl ?_
        refine r_sR E.p 8 fG_X6_25 (by decide) dX6_instanceNow_59 ?_
        refine r_iload_n dX6_instanceNow_62 rfl 1 rfl ?_
        obtain ⟨g6, e⟩ := gd_o e
        refine r_saI E.p 8 rfl (by decide) (by decide) ha1 g6 rfl dX6_instanceNow_63 ?_
        cases e
        exact r_iret E.σ E.st E.rt E.r (((rr.mine rfl).a 8 (by decide) rfl).1 _) dX6_instanceNow_64
      · have e := eF c5
        have eT := (r_ifo e).1
        have eF := (r_ifo e).2
        by_cases c7 : a2 = 3
        · have e := eT c7
          refine r_tswI ha2 dX6_instanceNow_1 3 c7 65 (by decide) (by decide) rfl (by decide) ?_
          refine r_aload_n dX6_instanceNow_65 rfl 0 rfl ?_
          refine r_sR E.p 9 fG_X6_28 (by decide) dX6_instanceNow_66 ?_
          refine r_iload_n dX6_instanceNow_69 rfl 1 rfl ?_
          obtain ⟨g8, e⟩ := gd_o e
          refine r_saI E.p 9 rfl (by decide) (by decide) ha1 g8 rfl dX6_instanceNow_70 ?_
          cases e
          exact r_iret E.σ E.st E.rt E.r (((rr.mine rfl).a 9 (by decide) rfl).1 _) dX6_instanceNow_71
        · have e := eF c7
          have eT := (r_ifo e).1
          have eF := (r_ifo e).2
          by_cases c9 : a2 = 4
          · have e := eT c9
            refine r_tswI ha2 dX6_instanceNow_1 4 c9 72 (by decide) (by decide) rfl (by decide) ?_
            refine r_aload_n dX6_instanceNow_72 rfl 0 rfl ?_
            refine r_iload_n dX6_instanceNow_73 rfl 1 rfl ?_
            obtain ⟨p10, q11, e⟩ := bd_o e
            have k12 := kX6_isSound (G := G) (b := b) (ad := ad) (h := h) ha1 q11
            have z13 := (k12 rr).1.2.2.2
            refine r_callV (j := some 0) 1 [ti a1] (rec_sg (j := 0) (r := (RX6, TX6, 63)) rfl (by rw [E.p]; rfl)) rfl k12 (injO_1 E.p) (subO_1 E.p) getO_1 setO_1 (lw_V q1722 q1724 qs67 q123 q1725) (by decide +kernel) rfl (Nat.le_of_ble_eq_true rfl) (Nat.le_of_ble_eq_true rfl) rfl (Nat.le_of_ble_eq_true rfl) dX6_instanceNow_74 rfl ?_
            have eT := (r_ifo e).1
            have eF := (r_ifo e).2
            refine r_if_eq (rI_z z13) 84 dX6_instanceNow_77 (by decide) (fun c14 => ?_) (fun c14 => ?_)
            · have e := eT c14
              refine r_iconst dX6_instanceNow_84 ?_
              refine r_sub [] rfl ?_
              exact wX6_instanceNow_b85 E s 0 (by decide) e
            · have e := eF c14
              refine r_iconst dX6_instanceNow_80 ?_
              refine r_goto 85 dX6_instanceNow_81 (by decide) ?_
              refine r_sub [] rfl ?_
              exact wX6_instanceNow_b85 E s 1 (by decide) e
          · have e := eF c9
            have eT := (r_ifo e).1
            have eF := (r_ifo e).2
            by_cases c15 : a2 = 5
            · have e := eT c15
              refine r_tswI ha2 dX6_instanceNow_1 5 c15 86 (by decide) (by decide) rfl (by decide) ?_
              refine r_aload_n dX6_instanceNow_86 rfl 0 rfl ?_
              refine r_iload_n dX6_instanceNow_87 rfl 1 rfl ?_
              obtain ⟨p16, q17, e⟩ := bd_o e
              have k18 := kX6_sortsOf (G := G) (b := b) (ad := ad) (h := h) ha1 q17
              have z19 := (k18 rr).1.2.2.2
              refine r_callV (j := some 0) 1 [ti a1] (rec_sg (j := 0) (r := (RX6, TX6, 63)) rfl (by rw [E.p]; rfl)) rfl k18 (injO_1 E.p) (subO_1 E.p) getO_1 setO_1 (lw_V q1726 q1728 qs68 q123 q1729) (by decide +kernel) rfl (Nat.le_of_ble_eq_true rfl) (Nat.le_of_ble_eq_true rfl) rfl (Nat.le_of_ble_eq_true rfl) dX6_instanceNow_88 rfl ?_
              cases e
              exact r_iret E.σ E.st E.rt E.r z19 dX6_instanceNow_91
            · have e := eF c15
              have eT := (r_ifo e).1
              have eF := (r_ifo e).2
              by_cases c20 : a2 = 6
              · have e := eT c20
                refine r_tswI ha2 dX6_instanceNow_1 6 c20 92 (by decide) (by decide) rfl (by decide) ?_
                refine r_aload_n dX6_instanceNow_92 rfl 0 rfl ?_
                refine r_iload_n dX6_instanceNow_93 rfl 1 rfl ?_
                obtain ⟨p21, q22, e⟩ := bd_o e
                have k23 := kX6_askOf (G := G) (b := b) (ad := ad) (h := h) ha1 q22
                have z24 := (k23 rr).1.2.2.2
                refine r_callV (j := some 0) 1 [ti a1] (rec_sg (j := 0) (r := (RX6, TX6, 63)) rfl (by rw [E.p]; rfl)) rfl k23 (injO_1 E.p) (subO_1 E.p) getO_1 setO_1 (lw_V q1733 q1735 qs69 q123 q1736) (by decide +kernel) rfl (Nat.le_of_ble_eq_true rfl) (Nat.le_of_ble_eq_true rfl) rfl (Nat.le_of_ble_eq_true rfl) dX6_instanceNow_94 rfl ?_
                cases e
                exact r_iret E.σ E.st E.rt E.r z24 dX6_instanceNow_97
              · have e := eF c20
                refine r_tswO ha2 dX6_instanceNow_1 98 (by omega) (by decide) ?_
                refine r_aload_n dX6_instanceNow_98 rfl 0 rfl ?_
                refine r_iload_n dX6_instanceNow_99 rfl 1 rfl ?_
                obtain ⟨p25, q26, e⟩ := bd_o e
                have k27 := kX6_lacksOf (G := G) (b := b) (ad := ad) (h := h) ha1 q26
                have z28 := (k27 rr).1.2.2.2
                refine r_callV (j := some 0) 1 [ti a1] (rec_sg (j := 0) (r := (RX6, TX6, 63)) rfl (by rw [E.p]; rfl)) rfl k27 (injO_1 E.p) (subO_1 E.p) getO_1 setO_1 (lw_V q1741 q1743 qs70 q123 q1744) (by decide +kernel) rfl (Nat.le_of_ble_eq_true rfl) (Nat.le_of_ble_eq_true rfl) rfl (Nat.le_of_ble_eq_true rfl) dX6_instanceNow_100 rfl ?_
                refine r_rrs E.p (fun rr29 => ?_)
                cases e
                exact r_iret E.σ E.st E.rt E.r z28 dX6_instanceNow_103
def fX6_instance_b34 (s : Sg) (k0 : Int) : Option (Int × Sg) := some (k0, s)
theorem wX6_instance_b34 {N : Nx} {b : Nat} {ad : Nat → Nat} {s' : Sg} {h : hS} {r : Int} (E : EndX N [(6, b, ad)] 3 (some .int) (some (ti r)) [s'] h)  (s : Sg) (k0 : Int) (hk0 : rI k0) (e : fX6_instance_b34 s k0 = some (r, s')) : AtPc cX6_instance RX6 8 194 N [s] h 34 [] [ti k0] := by
  unfold fX6_instance_b34 at e
  refine r_rrs E.p (fun rr => ?_)
  cases e
  exact r_iret E.σ E.st E.rt E.r hk0 dX6_instance_34
def fX6_instance  (s : Sg) (a1 : Int) (a2 : Int) : Option (Int × Sg) := bd (fX6_isInstance s a1) fun p1 => if ¬ p1 = 0 then bd (fX6_within a2 0 7) fun p6 => if p6 = 0 then fX6_instance_b34 s (-102) else bd (fX6_instanceNow s a1 a2) fun p11 => fX6_instance_b34 p11.2 p11.1 else fX6_instance_b34 s (-101)
theorem kX6_instance {G : Gx}  {b : Nat} {ad : Nat → Nat} {s' : Sg} {h : hS} {r : Int} {s : Sg} {a1 : Int} {a2 : Int}  (ha1 : rI a1) (ha2 : rI a2) (e : fX6_instance s a1 a2 = some (r, s')) : CtX G yX6_instance cX6_instance 3 (some .int) 8 194 [(6, b, ad)] [s] h [tr (some b), ti a1, ti a2] (some (ti r)) [s'] h := by
  refine CtX.of (by decide) (Nat.le_of_ble_eq_true rfl) [(0, tr (some b)), (1, ti a1), (2, ti a2)] rfl ?_
  have E : EndX (G, 3, [(6, b, ad)], h, [s'], h, (some .int), (some (ti r)), yX6_instance.name) [(6, b, ad)] 3 (some .int) (some (ti r)) [s'] h := ⟨rfl, rfl, rfl, rfl, rfl, rfl⟩
  unfold fX6_instance at e
  refine r_rrs E.p (fun rr => ?_)
  refine r_aload_n dX6_instance_0 rfl 0 rfl ?_
  refine r_iload_n dX6_instance_1 rfl 1 rfl ?_
  obtain ⟨p1, q2, e⟩ := bd_o e
  have k3 := kX6_isInstance (G := G) (b := b) (ad := ad) (h := h) ha1 q2
  have z4 := (k3 rr).1.2.2.2
  refine r_callV (j := some 0) 1 [ti a1] (rec_sg (j := 0) (r := (RX6, TX6, 63)) rfl (by rw [E.p]; rfl)) rfl k3 (injO_1 E.p) (subO_1 E.p) getO_1 setO_1 (lw_V q1714 q1716 qs65 q123 q1717) (by decide +kernel) rfl (Nat.le_of_ble_eq_true rfl) (Nat.le_of_ble_eq_true rfl) rfl (Nat.le_of_ble_eq_true rfl) dX6_instance_2 rfl ?_
  have eT := (r_ifo e).1
  have eF := (r_ifo e).2
  refine r_if_ne (rI_z z4) 13 dX6_instance_5 (by decide) (fun c5 => ?_) (fun c5 => ?_)
  · have e := eT c5
    refine r_iload_n dX6_instance_13 rfl 2 rfl ?_
    refine r_iconst dX6_instance_14 ?_
    refine r_bipush dX6_instance_15 (by decide) ?_
    obtain ⟨p6, q7, e⟩ := bd_o e
    have k8 := kX6_within (G := G) (h := h) ha2 (by decide) (by decide) q7
    have z9 := (k8 rr.none).1.2.2.2
    refine r_callS (j := none) 3 [ti a2, ti 0, ti 7] k8 (injO_1 E.p) subO_0 getO_0 setO_0 (lw_S q1599 q1600 q123 q1601) (by decide +kernel) rfl (Nat.le_of_ble_eq_true rfl) (Nat.le_of_ble_eq_true rfl) rfl (Nat.le_of_ble_eq_true rfl) dX6_instance_17 rfl ?_
    have eT := (r_ifo e).1
    have eF := (r_ifo e).2
    refine r_if_eq (rI_z z9) 32 dX6_instance_20 (by decide) (fun c10 => ?_) (fun c10 => ?_)
    · have e := eT c10
      refine r_bipush dX6_instance_32 (by decide) ?_
      refine r_sub [] rfl ?_
      exact wX6_instance_b34 E s (-102) (by decide) e
    · have e := eF c10
      refine r_aload_n dX6_instance_23 rfl 0 rfl ?_
      refine r_iload_n dX6_instance_24 rfl 1 rfl ?_
      refine r_iload_n dX6_instance_25 rfl 2 rfl ?_
      obtain ⟨p11, q12, e⟩ := bd_o e
      have k13 := kX6_instanceNow (G := G) (b := b) (ad := ad) (h := h) ha1 ha2 q12
      have z14 := (k13 rr).1.2.2.2
      refine r_callV (j := some 0) 2 [ti a1, ti a2] (rec_sg (j := 0) (r := (RX6, TX6, 63)) rfl (by rw [E.p]; rfl)) rfl k13 (injO_1 E.p) (subO_1 E.p) getO_1 setO_1 (lw_V q1718 q1720 qs66 q123 q1721) (by decide +kernel) rfl (Nat.le_of_ble_eq_true rfl) (Nat.le_of_ble_eq_true rfl) rfl (Nat.le_of_ble_eq_true rfl) dX6_instance_26 rfl ?_
      refine r_rrs E.p (fun rr15 => ?_)
      refine r_goto 34 dX6_instance_29 (by decide) ?_
      refine r_sub [] rfl ?_
      exact wX6_instance_b34 E p11.2 p11.1 z14 e
  · have e := eF c5
    refine r_bipush dX6_instance_8 (by decide) ?_
    refine r_goto 34 dX6_instance_10 (by decide) ?_
    refine r_sub [] rfl ?_
    exact wX6_instance_b34 E s (-101) (by decide) e
def fX6_as_b54 (s : Sg) (k0 : Int) : Option (Int) := some k0
theorem wX6_as_b54 {N : Nx} {b : Nat} {ad : Nat → Nat} {s : Sg} {h : hS} {r : Int} (E : EndX N [(6, b, ad)] 4 (some .int) (some (ti r)) [s] h)  (k0 : Int) (hk0 : rI k0) (e : fX6_as_b54 s k0 = some (r)) : AtPc cX6_as RX6 2 43 N [s] h 54 [] [ti k0] := by
  unfold fX6_as_b54 at e
  refine r_rrs E.p (fun rr => ?_)
  cases e
  exact r_iret E.σ E.st E.rt E.r hk0 dX6_as_54
def fX6_as_b49 (s : Sg) (a1 : Int) : Option (Int) := fX6_as_b54 s a1
theorem wX6_as_b49 {N : Nx} {b : Nat} {ad : Nat → Nat} {s : Sg} {h : hS} {r : Int} (E : EndX N [(6, b, ad)] 4 (some .int) (some (ti r)) [s] h)  (a1 : Int) (ha1 : rI a1) (e : fX6_as_b49 s a1 = some (r)) : AtPc cX6_as RX6 2 43 N [s] h 49 [(1, ti a1)] [] := by
  unfold fX6_as_b49 at e
  refine r_rrs E.p (fun rr => ?_)
  refine r_iload_n dX6_as_49 rfl 0 rfl ?_
  refine r_goto 54 dX6_as_50 (by decide) ?_
  refine r_sub [] rfl ?_
  exact wX6_as_b54 E a1 ha1 e
def fX6_as_b53 (s : Sg) : Option (Int) := fX6_as_b54 s (-1)
theorem wX6_as_b53 {N : Nx} {b : Nat} {ad : Nat → Nat} {s : Sg} {h : hS} {r : Int} (E : EndX N [(6, b, ad)] 4 (some .int) (some (ti r)) [s] h)   (e : fX6_as_b53 s = some (r)) : AtPc cX6_as RX6 2 43 N [s] h 53 [] [] := by
  unfold fX6_as_b53 at e
  refine r_rrs E.p (fun rr => ?_)
  refine r_iconst dX6_as_53 ?_
  exact wX6_as_b54 E (-1) (by decide) e
def fX6_as  (s : Sg) (a1 : Int) (a2 : Int) : Option (Int) := bd (fX6_isInstance s a1) fun p1 => if ¬ p1 = 0 then bd (fX6_within a2 0 4) fun p6 => if ¬ p6 = 0 then gd (inb a1 6) (if a2 = 0 then fX6_as_b49 s a1 else if (gA s 5 a1) = a2 then fX6_as_b49 s a1 else if ¬ a2 = 3 then fX6_as_b53 s else if ¬ (gA s 5 a1) = 4 then fX6_as_b53 s else fX6_as_b49 s a1) else some (-102) else some (-101)
theorem kX6_as {G : Gx}  {b : Nat} {ad : Nat → Nat} {s : Sg} {h : hS} {r : Int} {a1 : Int} {a2 : Int}  (ha1 : rI a1) (ha2 : rI a2) (e : fX6_as s a1 a2 = some (r)) : CtX G yX6_as cX6_as 4 (some .int) 2 43 [(6, b, ad)] [s] h [tr (some b), ti a1, ti a2] (some (ti r)) [s] h := by
  refine CtX.of (by decide) (Nat.le_of_ble_eq_true rfl) [(0, tr (some b)), (1, ti a1), (2, ti a2)] rfl ?_
  have E : EndX (G, 4, [(6, b, ad)], h, [s], h, (some .int), (some (ti r)), yX6_as.name) [(6, b, ad)] 4 (some .int) (some (ti r)) [s] h := ⟨rfl, rfl, rfl, rfl, rfl, rfl⟩
  unfold fX6_as at e
  refine r_rrs E.p (fun rr => ?_)
  refine r_aload_n dX6_as_0 rfl 0 rfl ?_
  refine r_iload_n dX6_as_1 rfl 1 rfl ?_
  obtain ⟨p1, q2, e⟩ := bd_o e
  have k3 := kX6_isInstance (G := G) (b := b) (ad := ad) (h := h) ha1 q2
  have z4 := (k3 rr).1.2.2.2
  refine r_callV (j := some 0) 1 [ti a1] (rec_sg (j := 0) (r := (RX6, TX6, 63)) rfl (by rw [E.p]; rfl)) rfl k3 (injO_1 E.p) (subO_1 E.p) getO_1 setO_1 (lw_V q1714 q1716 qs65 q123 q1717) (by decide +kernel) rfl (Nat.le_of_ble_eq_true rfl) (Nat.le_of_ble_eq_true rfl) rfl (Nat.le_of_ble_eq_true rfl) dX6_as_2 rfl ?_
  have eT := (r_ifo e).1
  have eF := (r_ifo e).2
  refine r_if_ne (rI_z z4) 11 dX6_as_5 (by decide) (fun c5 => ?_) (fun c5 => ?_)
  · have e := eT c5
    refine r_iload_n dX6_as_11 rfl 2 rfl ?_
    refine r_iconst dX6_as_12 ?_
    refine r_iconst dX6_as_13 ?_
    obtain ⟨p6, q7, e⟩ := bd_o e
    have k8 := kX6_within (G := G) (h := h) ha2 (by decide) (by decide) q7
    have z9 := (k8 rr.none).1.2.2.2
    refine r_callS (j := none) 3 [ti a2, ti 0, ti 4] k8 (injO_1 E.p) subO_0 getO_0 setO_0 (lw_S q1599 q1600 q123 q1601) (by decide +kernel) rfl (Nat.le_of_ble_eq_true rfl) (Nat.le_of_ble_eq_true rfl) rfl (Nat.le_of_ble_eq_true rfl) dX6_as_14 rfl ?_
    have eT := (r_ifo e).1
    have eF := (r_ifo e).2
    refine r_if_ne (rI_z z9) 23 dX6_as_17 (by decide) (fun c10 => ?_) (fun c10 => ?_)
    · have e := eT c10
      refine r_aload_n dX6_as_23 rfl 0 rfl ?_
      refine r_sR E.p 5 fG_X6_16 (by decide) dX6_as_24 ?_
      refine r_iload_n dX6_as_27 rfl 1 rfl ?_
      obtain ⟨g11, e⟩ := gd_o e
      refine r_saI E.p 5 rfl (by decide) (by decide) ha1 g11 rfl dX6_as_28 ?_
      refine r_istore_n (lv' := [(3, ti (gA s 5 a1)), (0, tr (some b)), (1, ti a1), (2, ti a2)]) dX6_as_29 rfl (E.lt (by decide)) rfl ?_
      refine r_iload_n dX6_as_30 rfl 3 rfl ?_
      have eT := (r_ifo e).1
      have eF := (r_ifo e).2
      refine r_if_eq ha2 49 dX6_as_31 (by decide) (fun c12 => ?_) (fun c12 => ?_)
      · have e := eT c12
        refine r_sub [2] rfl ?_
        exact wX6_as_b49 E a1 ha1 e
      · have e := eF c12
        refine r_iload_n dX6_as_34 rfl 0 rfl ?_
        refine r_iload_n dX6_as_35 rfl 3 rfl ?_
        have eT := (r_ifo e).1
        have eF := (r_ifo e).2
        refine r_icmp_eq (((rr.mine rfl).a 5 (by decide) rfl).1 _) ha2 49 dX6_as_36 (by decide) (fun c13 => ?_) (fun c13 => ?_)
        · have e := eT c13
          refine r_sub [2] rfl ?_
          exact wX6_as_b49 E a1 ha1 e
        · have e := eF c13
          refine r_iload_n dX6_as_39 rfl 3 rfl ?_
          refine r_iconst dX6_as_40 ?_
          have eT := (r_ifo e).1
          have eF := (r_ifo e).2
          refine r_icmp_ne ha2 (by decide) 53 dX6_as_41 (by decide) (fun c14 => ?_) (fun c14 => ?_)
          · have e := eT c14
            refine r_sub [] rfl ?_
            exact wX6_as_b53 E e
          · have e := eF c14
            refine r_iload_n dX6_as_44 rfl 0 rfl ?_
            refine r_iconst dX6_as_45 ?_
            have eT := (r_ifo e).1
            have eF := (r_ifo e).2
            refine r_icmp_ne (((rr.mine rfl).a 5 (by decide) rfl).1 _) (by decide) 53 dX6_as_46 (by decide) (fun c15 => ?_) (fun c15 => ?_)
            · have e := eT c15
              refine r_sub [] rfl ?_
              exact wX6_as_b53 E e
            · have e := eF c15
              refine r_sub [2] rfl ?_
              exact wX6_as_b49 E a1 ha1 e
    · have e := eF c10
      refine r_bipush dX6_as_20 (by decide) ?_
      cases e
      exact r_iret E.σ E.st E.rt E.r (by decide) dX6_as_22
  · have e := eF c5
    refine r_bipush dX6_as_8 (by decide) ?_
    cases e
    exact r_iret E.σ E.st E.rt E.r (by decide) dX6_as_10
def fX6_change  (s : Sg) (a1 : Int) (a2 : Int) : Option (Int × Sg) := bd (fX6_isInstance s a1) fun p1 => if ¬ p1 = 0 then bd (fX6_within a2 0 4) fun p6 => if ¬ p6 = 0 then gd (inb a1 6) (gd (inb a1 6) (some (gA s 5 a1, sA s 5 a1 a2))) else some ((-102), s) else some ((-101), s)
theorem kX6_change {G : Gx}  {b : Nat} {ad : Nat → Nat} {s' : Sg} {h : hS} {r : Int} {s : Sg} {a1 : Int} {a2 : Int}  (ha1 : rI a1) (ha2 : rI a2) (e : fX6_change s a1 a2 = some (r, s')) : CtX G yX6_change cX6_change 4 (some .int) 2 43 [(6, b, ad)] [s] h [tr (some b), ti a1, ti a2] (some (ti r)) [s'] h := by
  refine CtX.of (by decide) (Nat.le_of_ble_eq_true rfl) [(0, tr (some b)), (1, ti a1), (2, ti a2)] rfl ?_
  have E : EndX (G, 4, [(6, b, ad)], h, [s'], h, (some .int), (some (ti r)), yX6_change.name) [(6, b, ad)] 4 (some .int) (some (ti r)) [s'] h := ⟨rfl, rfl, rfl, rfl, rfl, rfl⟩
  unfold fX6_change at e
  refine r_rrs E.p (fun rr => ?_)
  refine r_aload_n dX6_change_0 rfl 0 rfl ?_
  refine r_iload_n dX6_change_1 rfl 1 rfl ?_
  obtain ⟨p1, q2, e⟩ := bd_o e
  have k3 := kX6_isInstance (G := G) (b := b) (ad := ad) (h := h) ha1 q2
  have z4 := (k3 rr).1.2.2.2
  refine r_callV (j := some 0) 1 [ti a1] (rec_sg (j := 0) (r := (RX6, TX6, 63)) rfl (by rw [E.p]; rfl)) rfl k3 (injO_1 E.p) (subO_1 E.p) getO_1 setO_1 (lw_V q1714 q1716 qs65 q123 q1717) (by decide +kernel) rfl (Nat.le_of_ble_eq_true rfl) (Nat.le_of_ble_eq_true rfl) rfl (Nat.le_of_ble_eq_true rfl) dX6_change_2 rfl ?_
  have eT := (r_ifo e).1
  have eF := (r_ifo e).2
  refine r_if_ne (rI_z z4) 11 dX6_change_5 (by decide) (fun c5 => ?_) (fun c5 => ?_)
  · have e := eT c5
    refine r_iload_n dX6_change_11 rfl 2 rfl ?_
    refine r_iconst dX6_change_12 ?_
    refine r_iconst dX6_change_13 ?_
    obtain ⟨p6, q7, e⟩ := bd_o e
    have k8 := kX6_within (G := G) (h := h) ha2 (by decide) (by decide) q7
    have z9 := (k8 rr.none).1.2.2.2
    refine r_callS (j := none) 3 [ti a2, ti 0, ti 4] k8 (injO_1 E.p) subO_0 getO_0 setO_0 (lw_S q1599 q1600 q123 q1601) (by decide +kernel) rfl (Nat.le_of_ble_eq_true rfl) (Nat.le_of_ble_eq_true rfl) rfl (Nat.le_of_ble_eq_true rfl) dX6_change_14 rfl ?_
    have eT := (r_ifo e).1
    have eF := (r_ifo e).2
    refine r_if_ne (rI_z z9) 23 dX6_change_17 (by decide) (fun c10 => ?_) (fun c10 => ?_)
    · have e := eT c10
      refine r_aload_n dX6_change_23 rfl 0 rfl ?_
      refine r_sR E.p 5 fG_X6_16 (by decide) dX6_change_24 ?_
      refine r_iload_n dX6_change_27 rfl 1 rfl ?_
      obtain ⟨g11, e⟩ := gd_o e
      refine r_saI E.p 5 rfl (by decide) (by decide) ha1 g11 rfl dX6_change_28 ?_
      refine r_istore_n (lv' := [(3, ti (gA s 5 a1)), (0, tr (some b)), (1, ti a1), (2, ti a2)]) dX6_change_29 rfl (E.lt (by decide)) rfl ?_
      refine r_aload_n dX6_change_30 rfl 1 rfl ?_
      refine r_sR E.p 5 fG_X6_16 (by decide) dX6_change_31 ?_
      refine r_iload_n dX6_change_34 rfl 2 rfl ?_
      refine r_iload_n dX6_change_35 rfl 3 rfl ?_
      obtain ⟨g12, e⟩ := gd_o e
      refine r_saP E.p 5 rfl (by decide) (by decide) ha1 g12 ha2 rfl dX6_change_36 ?_
      refine r_rrs E.p (fun rr13 => ?_)
      refine r_iload_n dX6_change_37 rfl 0 rfl ?_
      cases e
      exact r_iret E.σ E.st E.rt E.r (((rr.mine rfl).a 5 (by decide) rfl).1 _) dX6_change_38
    · have e := eF c10
      refine r_bipush dX6_change_20 (by decide) ?_
      cases e
      exact r_iret E.σ E.st E.rt E.r (by decide) dX6_change_22
  · have e := eF c5
    refine r_bipush dX6_change_8 (by decide) ?_
    cases e
    exact r_iret E.σ E.st E.rt E.r (by decide) dX6_change_10
theorem fG_X6_119 : FldG RX6 119 [(6, 48)] := List.forall_mem_cons.mpr ⟨⟨RX6, TX6, 63, "DictProofModel", rfl, in_X6, by decide, q1453, Or.inl rfl⟩, fun _ h => absurd h List.not_mem_nil⟩
theorem fG_X6_334 : FldG RX6 334 [(6, 50)] := List.forall_mem_cons.mpr ⟨⟨RX6, TX6, 63, "DictProofModel", rfl, in_X6, by decide, q1455, Or.inl rfl⟩, fun _ h => absurd h List.not_mem_nil⟩
theorem fG_X6_122 : FldG RX6 122 [(6, 49)] := List.forall_mem_cons.mpr ⟨⟨RX6, TX6, 63, "DictProofModel", rfl, in_X6, by decide, q1454, Or.inl rfl⟩, fun _ h => absurd h List.not_mem_nil⟩
theorem fP_X6_334 : FldP RX6 334 [(6, 50)] .int false := List.forall_mem_cons.mpr ⟨⟨RX6, TX6, 63, "DictProofModel", tyX6, rfl, in_X6, by decide, q1455, Or.inl rfl, tyX6_ok, nmX6, rfl, Or.inl rfl, by decide⟩, fun _ h => absurd h List.not_mem_nil⟩
def fX6_addPair  (s : Sg) (a1 : Int) (a2 : Int) : Option (Sg) := gd (inb (gI s 50) 64) (gd (inb (gI (sA s 48 (gI s 50) a1) 50) 64) (some (sI (sA (sA s 48 (gI s 50) a1) 49 (gI (sA s 48 (gI s 50) a1) 50) a2) 50 (wr ((gI (sA (sA s 48 (gI s 50) a1) 49 (gI (sA s 48 (gI s 50) a1) 50) a2) 50) + 1)))))
theorem kX6_addPair {G : Gx}  {b : Nat} {ad : Nat → Nat} {s' : Sg} {h : hS} {s : Sg} {a1 : Int} {a2 : Int}  (ha1 : rI a1) (ha2 : rI a2) (e : fX6_addPair s a1 a2 = some (s')) : CtX G yX6_addPair cX6_addPair 3 none 0 0 [(6, b, ad)] [s] h [tr (some b), ti a1, ti a2] none [s'] h := by
  refine CtX.of (by decide) (Nat.le_of_ble_eq_true rfl) [(0, tr (some b)), (1, ti a1), (2, ti a2)] rfl ?_
  have E : EndX (G, 3, [(6, b, ad)], h, [s'], h, none, none, yX6_addPair.name) [(6, b, ad)] 3 none none [s'] h := ⟨rfl, rfl, rfl, rfl, rfl, rfl⟩
  unfold fX6_addPair at e
  refine r_rrs E.p (fun rr => ?_)
  refine r_aload_n dX6_addPair_0 rfl 0 rfl ?_
  refine r_sR E.p 48 fG_X6_119 (by decide) dX6_addPair_1 ?_
  refine r_aload_n dX6_addPair_4 rfl 0 rfl ?_
  refine r_sI E.p 50 fG_X6_334 (by decide) dX6_addPair_5 ?_
  refine r_iload_n dX6_addPair_8 rfl 1 rfl ?_
  obtain ⟨g1, e⟩ := gd_o e
  refine r_saP E.p 48 rfl (by decide) (by decide) ((rr.mine rfl).i 50 (by decide) (by decide)) g1 ha1 rfl dX6_addPair_9 ?_
  refine r_rrs E.p (fun rr2 => ?_)
  refine r_aload_n dX6_addPair_10 rfl 0 rfl ?_
  refine r_sR E.p 49 fG_X6_122 (by decide) dX6_addPair_11 ?_
  refine r_aload_n dX6_addPair_14 rfl 0 rfl ?_
  refine r_sI E.p 50 fG_X6_334 (by decide) dX6_addPair_15 ?_
  refine r_iload_n dX6_addPair_18 rfl 2 rfl ?_
  obtain ⟨g3, e⟩ := gd_o e
  refine r_saP E.p 49 rfl (by decide) (by decide) ((rr2.mine rfl).i 50 (by decide) (by decide)) g3 ha2 rfl dX6_addPair_19 ?_
  refine r_rrs E.p (fun rr4 => ?_)
  refine r_aload_n dX6_addPair_20 rfl 0 rfl ?_
  refine r_dup dX6_addPair_21 rfl ?_
  refine r_sI E.p 50 fG_X6_334 (by decide) dX6_addPair_22 ?_
  refine r_iconst dX6_addPair_25 ?_
  refine r_iadd dX6_addPair_26 ?_
  refine r_sPI E.p 50 fP_X6_334 rfl (wr_r _) dX6_addPair_27 ?_
  refine r_rrs E.p (fun rr5 => ?_)
  cases e
  exact r_vret E.σ E.st E.rt E.r dX6_addPair_30
theorem fG_X6_319 : FldG RX6 319 [(6, 46)] := List.forall_mem_cons.mpr ⟨⟨RX6, TX6, 63, "DictProofModel", rfl, in_X6, by decide, q1451, Or.inl rfl⟩, fun _ h => absurd h List.not_mem_nil⟩
theorem fG_X6_316 : FldG RX6 316 [(6, 45)] := List.forall_mem_cons.mpr ⟨⟨RX6, TX6, 63, "DictProofModel", rfl, in_X6, by decide, q1450, Or.inl rfl⟩, fun _ h => absurd h List.not_mem_nil⟩
def fX6_letterOf_b21 (s : Sg) (a1 : Int) (k1 : Int) (k2 : Int) : Option (Int) := gd (inb (wr ((wr (k1 * k2)) + (irm a1 5))) 30) (some (gA s 7 (wr ((wr (k1 * k2)) + (irm a1 5)))))
theorem wX6_letterOf_b21 {N : Nx} {b : Nat} {ad : Nat → Nat} {s : Sg} {h : hS} {r : Int} (E : EndX N [(6, b, ad)] 2 (some .int) (some (ti r)) [s] h)  (a1 : Int) (k1 : Int) (k2 : Int) (ha1 : rI a1) (hk1 : rI k1) (hk2 : rI k2) (e : fX6_letterOf_b21 s a1 k1 k2 = some (r)) : AtPc cX6_letterOf RX6 0 0 N [s] h 21 [(1, ti a1)] [ti k2, ti k1, tr (some (ad 7))] := by
  unfold fX6_letterOf_b21 at e
  refine r_rrs E.p (fun rr => ?_)
  refine r_imul dX6_letterOf_21 ?_
  refine r_iload_n dX6_letterOf_22 rfl 0 rfl ?_
  refine r_iconst dX6_letterOf_23 ?_
  refine r_irem (by decide) (by decide) dX6_letterOf_24 ?_
  refine r_iadd dX6_letterOf_25 ?_
  obtain ⟨g1, e⟩ := gd_o e
  refine r_saI E.p 7 rfl (by decide) (by decide) (wr_r _) g1 rfl dX6_letterOf_26 ?_
  cases e
  exact r_iret E.σ E.st E.rt E.r (((rr.mine rfl).a 7 (by decide) rfl).1 _) dX6_letterOf_27
def fX6_letterOf  (s : Sg) (a1 : Int) : Option (Int) := if 5 ≤ a1 then fX6_letterOf_b21 s a1 5 (gI s 46) else fX6_letterOf_b21 s a1 5 (gI s 45)
theorem kX6_letterOf {G : Gx}  {b : Nat} {ad : Nat → Nat} {s : Sg} {h : hS} {r : Int} {a1 : Int}  (ha1 : rI a1) (e : fX6_letterOf s a1 = some (r)) : CtX G yX6_letterOf cX6_letterOf 2 (some .int) 0 0 [(6, b, ad)] [s] h [tr (some b), ti a1] (some (ti r)) [s] h := by
  refine CtX.of (by decide) (Nat.le_of_ble_eq_true rfl) [(0, tr (some b)), (1, ti a1)] rfl ?_
  have E : EndX (G, 2, [(6, b, ad)], h, [s], h, (some .int), (some (ti r)), yX6_letterOf.name) [(6, b, ad)] 2 (some .int) (some (ti r)) [s] h := ⟨rfl, rfl, rfl, rfl, rfl, rfl⟩
  unfold fX6_letterOf at e
  refine r_rrs E.p (fun rr => ?_)
  refine r_aload_n dX6_letterOf_0 rfl 0 rfl ?_
  refine r_sR E.p 7 fG_X6_22 (by decide) dX6_letterOf_1 ?_
  refine r_iconst dX6_letterOf_4 ?_
  refine r_iload_n dX6_letterOf_5 rfl 1 rfl ?_
  refine r_iconst dX6_letterOf_6 ?_
  have eT := (r_ifo e).1
  have eF := (r_ifo e).2
  refine r_icmp_ge ha1 (by decide) 17 dX6_letterOf_7 (by decide) (fun c1 => ?_) (fun c1 => ?_)
  · have e := eT c1
    refine r_aload_n dX6_letterOf_17 rfl 0 rfl ?_
    refine r_sI E.p 46 fG_X6_319 (by decide) dX6_letterOf_18 ?_
    refine r_sub [1] rfl ?_
    exact wX6_letterOf_b21 E a1 5 (gI s 46) ha1 (by decide) ((rr.mine rfl).i 46 (by decide) (by decide)) e
  · have e := eF c1
    refine r_aload_n dX6_letterOf_10 rfl 0 rfl ?_
    refine r_sI E.p 45 fG_X6_316 (by decide) dX6_letterOf_11 ?_
    refine r_goto 21 dX6_letterOf_14 (by decide) ?_
    refine r_sub [1] rfl ?_
    exact wX6_letterOf_b21 E a1 5 (gI s 45) ha1 (by decide) ((rr.mine rfl).i 45 (by decide) (by decide)) e
def fX6_variableOf  (s : Sg) (a1 : Int) : Option (Int) := bd (fX6_letterOf s a1) fun p1 => some (wr ((wr ((wr ((idv a1 5) * 2)) + p1)) - 120))
theorem kX6_variableOf {G : Gx}  {b : Nat} {ad : Nat → Nat} {s : Sg} {h : hS} {r : Int} {a1 : Int}  (ha1 : rI a1) (e : fX6_variableOf s a1 = some (r)) : CtX G yX6_variableOf cX6_variableOf 2 (some .int) 1 21 [(6, b, ad)] [s] h [tr (some b), ti a1] (some (ti r)) [s] h := by
  refine CtX.of (by decide) (Nat.le_of_ble_eq_true rfl) [(0, tr (some b)), (1, ti a1)] rfl ?_
  have E : EndX (G, 2, [(6, b, ad)], h, [s], h, (some .int), (some (ti r)), yX6_variableOf.name) [(6, b, ad)] 2 (some .int) (some (ti r)) [s] h := ⟨rfl, rfl, rfl, rfl, rfl, rfl⟩
  unfold fX6_variableOf at e
  refine r_rrs E.p (fun rr => ?_)
  refine r_iload_n dX6_variableOf_0 rfl 1 rfl ?_
  refine r_iconst dX6_variableOf_1 ?_
  refine r_idiv (by decide) (by decide) dX6_variableOf_2 ?_
  refine r_iconst dX6_variableOf_3 ?_
  refine r_imul dX6_variableOf_4 ?_
  refine r_aload_n dX6_variableOf_5 rfl 0 rfl ?_
  refine r_iload_n dX6_variableOf_6 rfl 1 rfl ?_
  obtain ⟨p1, q2, e⟩ := bd_o e
  have k3 := kX6_letterOf (G := G) (b := b) (ad := ad) (h := h) ha1 q2
  have z4 := (k3 rr).1.2.2.2
  refine r_callV (j := some 0) 1 [ti a1] (rec_sg (j := 0) (r := (RX6, TX6, 63)) rfl (by rw [E.p]; rfl)) rfl k3 (injO_1 E.p) (subO_1 E.p) getO_1 setO_1 (lw_V q1817 q1819 qs86 q123 q1820) (by decide +kernel) rfl (Nat.le_of_ble_eq_true rfl) (Nat.le_of_ble_eq_true rfl) rfl (Nat.le_of_ble_eq_true rfl) dX6_variableOf_7 rfl ?_
  refine r_iadd dX6_variableOf_10 ?_
  refine r_bipush dX6_variableOf_11 (by decide) ?_
  refine r_isub dX6_variableOf_13 ?_
  cases e
  exact r_iret E.σ E.st E.rt E.r (wr_r _) dX6_variableOf_14
theorem fG_X6_116 : FldG RX6 116 [(6, 47)] := List.forall_mem_cons.mpr ⟨⟨RX6, TX6, 63, "DictProofModel", rfl, in_X6, by decide, q1452, Or.inl rfl⟩, fun _ h => absurd h List.not_mem_nil⟩
def fX6_standsFor_b41 (s : Sg) (a2 : Int) : Option (Int) := some a2
theorem wX6_standsFor_b41 {N : Nx} {b : Nat} {ad : Nat → Nat} {s : Sg} {h : hS} {r : Int} (E : EndX N [(6, b, ad)] 3 (some .int) (some (ti r)) [s] h)  (a2 : Int) (ha2 : rI a2) (e : fX6_standsFor_b41 s a2 = some (r)) : AtPc cX6_standsFor RX6 2 42 N [s] h 41 [(2, ti a2)] [] := by
  unfold fX6_standsFor_b41 at e
  refine r_rrs E.p (fun rr => ?_)
  refine r_iload_n dX6_standsFor_41 rfl 0 rfl ?_
  cases e
  exact r_iret E.σ E.st E.rt E.r ha2 dX6_standsFor_42
def fX6_standsFor_b2 (K2 : Sg → Int → Option (Int)) (s : Sg) (a2 : Int) : Option (Int) := bd (fX6_letterOf s a2) fun p1 => bd (fX6_isVariable p1) fun p5 => if p5 = 0 then fX6_standsFor_b41 s a2 else bd (fX6_variableOf s a2) fun p10 => gd (inb p10 4) (if (gA s 47 p10) = (-1) then fX6_standsFor_b41 s a2 else bd (fX6_variableOf s a2) fun p16 => gd (inb p16 4) (K2 s (gA s 47 p16)))
theorem wX6_standsFor_b2 {N : Nx} {b : Nat} {ad : Nat → Nat} {s : Sg} {h : hS} {r : Int} (E : EndX N [(6, b, ad)] 3 (some .int) (some (ti r)) [s] h) (K2 : Sg → Int → Option (Int)) (hK2 : ∀ (a2 : Int) (ha2 : rI a2), K2 s a2 = some (r) → AtPc cX6_standsFor RX6 2 42 N [s] h 2 [(0, tr (some b)), (2, ti a2)] []) (a2 : Int) (ha2 : rI a2) (e : fX6_standsFor_b2 K2 s a2 = some (r)) : AtPc cX6_standsFor RX6 2 42 N [s] h 2 [(0, tr (some b)), (2, ti a2)] [] := by
  unfold fX6_standsFor_b2 at e
  refine r_rrs E.p (fun rr => ?_)
  refine r_aload_n dX6_standsFor_2 rfl 0 rfl ?_
  refine r_iload_n dX6_standsFor_3 rfl 1 rfl ?_
  obtain ⟨p1, q2, e⟩ := bd_o e
  have k3 := kX6_letterOf (G := nG N) (b := b) (ad := ad) (h := h) ha2 q2
  have z4 := (k3 rr).1.2.2.2
  refine r_callV (j := some 0) 1 [ti a2] (rec_sg (j := 0) (r := (RX6, TX6, 63)) rfl (by rw [E.p]; rfl)) rfl k3 (injO_1 E.p) (subO_1 E.p) getO_1 setO_1 (lw_V q1817 q1819 qs86 q123 q1820) (by decide +kernel) rfl (Nat.le_of_ble_eq_true rfl) (Nat.le_of_ble_eq_true rfl) rfl (Nat.le_of_ble_eq_true rfl) dX6_standsFor_4 rfl ?_
  obtain ⟨p5, q6, e⟩ := bd_o e
  have k7 := kX6_isVariable (G := nG N) (h := h) z4 q6
  have z8 := (k7 rr.none).1.2.2.2
  refine r_callS (j := none) 1 [ti p1] k7 (injO_1 E.p) subO_0 getO_0 setO_0 (lw_S q1656 q1657 q123 q1658) (by decide +kernel) rfl (Nat.le_of_ble_eq_true rfl) (Nat.le_of_ble_eq_true rfl) rfl (Nat.le_of_ble_eq_true rfl) dX6_standsFor_7 rfl ?_
  have eT := (r_ifo e).1
  have eF := (r_ifo e).2
  refine r_if_eq (rI_z z8) 41 dX6_standsFor_10 (by decide) (fun c9 => ?_) (fun c9 => ?_)
  · have e := eT c9
    refine r_sub [1] rfl ?_
    exact wX6_standsFor_b41 E a2 ha2 e
  · have e := eF c9
    refine r_aload_n dX6_standsFor_13 rfl 0 rfl ?_
    refine r_sR E.p 47 fG_X6_116 (by decide) dX6_standsFor_14 ?_
    refine r_aload_n dX6_standsFor_17 rfl 0 rfl ?_
    refine r_iload_n dX6_standsFor_18 rfl 1 rfl ?_
    obtain ⟨p10, q11, e⟩ := bd_o e
    have k12 := kX6_variableOf (G := nG N) (b := b) (ad := ad) (h := h) ha2 q11
    have z13 := (k12 rr).1.2.2.2
    refine r_callV (j := some 0) 1 [ti a2] (rec_sg (j := 0) (r := (RX6, TX6, 63)) rfl (by rw [E.p]; rfl)) rfl k12 (injO_1 E.p) (subO_1 E.p) getO_1 setO_1 (lw_V q1821 q1823 qs87 q123 q1824) (by decide +kernel) rfl (Nat.le_of_ble_eq_true rfl) (Nat.le_of_ble_eq_true rfl) rfl (Nat.le_of_ble_eq_true rfl) dX6_standsFor_19 rfl ?_
    obtain ⟨g14, e⟩ := gd_o e
    refine r_saI E.p 47 rfl (by decide) (by decide) z13 g14 rfl dX6_standsFor_22 ?_
    refine r_iconst dX6_standsFor_23 ?_
    have eT := (r_ifo e).1
    have eF := (r_ifo e).2
    refine r_icmp_eq (((rr.mine rfl).a 47 (by decide) rfl).1 _) (by decide) 41 dX6_standsFor_24 (by decide) (fun c15 => ?_) (fun c15 => ?_)
    · have e := eT c15
      refine r_sub [1] rfl ?_
      exact wX6_standsFor_b41 E a2 ha2 e
    · have e := eF c15
      refine r_aload_n dX6_standsFor_27 rfl 0 rfl ?_
      refine r_sR E.p 47 fG_X6_116 (by decide) dX6_standsFor_28 ?_
      refine r_aload_n dX6_standsFor_31 rfl 0 rfl ?_
      refine r_iload_n dX6_standsFor_32 rfl 1 rfl ?_
      obtain ⟨p16, q17, e⟩ := bd_o e
      have k18 := kX6_variableOf (G := nG N) (b := b) (ad := ad) (h := h) ha2 q17
      have z19 := (k18 rr).1.2.2.2
      refine r_callV (j := some 0) 1 [ti a2] (rec_sg (j := 0) (r := (RX6, TX6, 63)) rfl (by rw [E.p]; rfl)) rfl k18 (injO_1 E.p) (subO_1 E.p) getO_1 setO_1 (lw_V q1821 q1823 qs87 q123 q1824) (by decide +kernel) rfl (Nat.le_of_ble_eq_true rfl) (Nat.le_of_ble_eq_true rfl) rfl (Nat.le_of_ble_eq_true rfl) dX6_standsFor_33 rfl ?_
      obtain ⟨g20, e⟩ := gd_o e
      refine r_saI E.p 47 rfl (by decide) (by decide) z19 g20 rfl dX6_standsFor_36 ?_
      refine r_istore_n (lv' := [(2, ti (gA s 47 p16)), (0, tr (some b))]) dX6_standsFor_37 rfl (E.lt (by decide)) rfl ?_
      refine r_goto 2 dX6_standsFor_38 (by decide) ?_
      refine r_sub [1, 0] rfl ?_
      exact hK2 (gA s 47 p16) (((rr.mine rfl).a 47 (by decide) rfl).1 _) e
def fX6_standsFor_L2  : Nat → Sg → Int → Option (Int)
  | 0, _, _ => none
  | n9 + 1, s, a2 => fX6_standsFor_b2 (fX6_standsFor_L2 n9) s a2
theorem wX6_standsFor_L2 {N : Nx} {b : Nat} {ad : Nat → Nat} {s : Sg} {h : hS} {r : Int} (E : EndX N [(6, b, ad)] 3 (some .int) (some (ti r)) [s] h)  : ∀ (n9 : Nat), ∀ (a2 : Int) (ha2 : rI a2), fX6_standsFor_L2 n9 s a2 = some (r) → AtPc cX6_standsFor RX6 2 42 N [s] h 2 [(0, tr (some b)), (2, ti a2)] [] := by
  intro n9
  induction n9 with
  | zero => intro a2 ha2 e; cases e
  | succ n9 ih => intro a2 ha2 e; exact wX6_standsFor_b2 E _ ih a2 ha2 e
def fX6_standsFor  (s : Sg) (a1 : Int) : Option (Int) := fX6_standsFor_L2 FU s a1
theorem kX6_standsFor {G : Gx}  {b : Nat} {ad : Nat → Nat} {s : Sg} {h : hS} {r : Int} {a1 : Int}  (ha1 : rI a1) (e : fX6_standsFor s a1 = some (r)) : CtX G yX6_standsFor cX6_standsFor 3 (some .int) 2 42 [(6, b, ad)] [s] h [tr (some b), ti a1] (some (ti r)) [s] h := by
  refine CtX.of (by decide) (Nat.le_of_ble_eq_true rfl) [(0, tr (some b)), (1, ti a1)] rfl ?_
  have E : EndX (G, 3, [(6, b, ad)], h, [s], h, (some .int), (some (ti r)), yX6_standsFor.name) [(6, b, ad)] 3 (some .int) (some (ti r)) [s] h := ⟨rfl, rfl, rfl, rfl, rfl, rfl⟩
  unfold fX6_standsFor at e
  refine r_rrs E.p (fun rr => ?_)
  refine r_iload_n dX6_standsFor_0 rfl 1 rfl ?_
  refine r_istore_n (lv' := [(2, ti a1), (0, tr (some b)), (1, ti a1)]) dX6_standsFor_1 rfl (E.lt (by decide)) rfl ?_
  refine r_sub [1, 0] rfl ?_
  exact wX6_standsFor_L2 E FU a1 ha1 e
def fX6_behind_b4 (K4 : Sg → Int → Int → Option (Int)) (s : Sg) (a2 : Int) (a3 : Int) : Option (Int) := if a2 ≤ 0 then some a3 else bd (fX6_letterOf s a3) fun p2 => bd (fX6_wants p2) fun p6 => K4 s (wr (a2 + (wr (p6 - 1)))) (wr (a3 + 1))
theorem wX6_behind_b4 {N : Nx} {b : Nat} {ad : Nat → Nat} {s : Sg} {h : hS} {r : Int} (E : EndX N [(6, b, ad)] 4 (some .int) (some (ti r)) [s] h) (K4 : Sg → Int → Int → Option (Int)) (hK4 : ∀ (a2 : Int) (a3 : Int) (ha2 : rI a2) (ha3 : rI a3), K4 s a2 a3 = some (r) → AtPc cX6_behind RX6 1 21 N [s] h 4 [(0, tr (some b)), (2, ti a2), (3, ti a3)] []) (a2 : Int) (a3 : Int) (ha2 : rI a2) (ha3 : rI a3) (e : fX6_behind_b4 K4 s a2 a3 = some (r)) : AtPc cX6_behind RX6 1 21 N [s] h 4 [(0, tr (some b)), (2, ti a2), (3, ti a3)] [] := by
  unfold fX6_behind_b4 at e
  refine r_rrs E.p (fun rr => ?_)
  refine r_iload_n dX6_behind_4 rfl 1 rfl ?_
  have eT := (r_ifo e).1
  have eF := (r_ifo e).2
  refine r_if_le ha2 27 dX6_behind_5 (by decide) (fun c1 => ?_) (fun c1 => ?_)
  · have e := eT c1
    refine r_iload_n dX6_behind_27 rfl 2 rfl ?_
    cases e
    exact r_iret E.σ E.st E.rt E.r ha3 dX6_behind_28
  · have e := eF c1
    refine r_iload_n dX6_behind_8 rfl 1 rfl ?_
    refine r_aload_n dX6_behind_9 rfl 0 rfl ?_
    refine r_iload_n dX6_behind_10 rfl 2 rfl ?_
    obtain ⟨p2, q3, e⟩ := bd_o e
    have k4 := kX6_letterOf (G := nG N) (b := b) (ad := ad) (h := h) ha3 q3
    have z5 := (k4 rr).1.2.2.2
    refine r_callV (j := some 0) 1 [ti a3] (rec_sg (j := 0) (r := (RX6, TX6, 63)) rfl (by rw [E.p]; rfl)) rfl k4 (injO_1 E.p) (subO_1 E.p) getO_1 setO_1 (lw_V q1817 q1819 qs86 q123 q1820) (by decide +kernel) rfl (Nat.le_of_ble_eq_true rfl) (Nat.le_of_ble_eq_true rfl) rfl (Nat.le_of_ble_eq_true rfl) dX6_behind_11 rfl ?_
    obtain ⟨p6, q7, e⟩ := bd_o e
    have k8 := kX6_wants (G := nG N) (h := h) z5 q7
    have z9 := (k8 rr.none).1.2.2.2
    refine r_callS (j := none) 1 [ti p2] k8 (injO_1 E.p) subO_0 getO_0 setO_0 (lw_S q1645 q1646 q123 q1647) (by decide +kernel) rfl (Nat.le_of_ble_eq_true rfl) (Nat.le_of_ble_eq_true rfl) rfl (Nat.le_of_ble_eq_true rfl) dX6_behind_14 rfl ?_
    refine r_iconst dX6_behind_17 ?_
    refine r_isub dX6_behind_18 ?_
    refine r_iadd dX6_behind_19 ?_
    refine r_istore_n (lv' := [(2, ti (wr (a2 + (wr (p6 - 1))))), (0, tr (some b)), (3, ti a3)]) dX6_behind_20 rfl (E.lt (by decide)) rfl ?_
    refine r_iinc (lv' := [(3, ti (wr (a3 + 1))), (2, ti (wr (a2 + (wr (p6 - 1))))), (0, tr (some b))]) dX6_behind_21 2 rfl (E.lt (by decide)) rfl ?_
    refine r_goto 4 dX6_behind_24 (by decide) ?_
    refine r_sub [2, 1, 0] rfl ?_
    exact hK4 (wr (a2 + (wr (p6 - 1)))) (wr (a3 + 1)) (wr_r _) (wr_r _) e
def fX6_behind_L4  : Nat → Sg → Int → Int → Option (Int)
  | 0, _, _, _ => none
  | n9 + 1, s, a2, a3 => fX6_behind_b4 (fX6_behind_L4 n9) s a2 a3
theorem wX6_behind_L4 {N : Nx} {b : Nat} {ad : Nat → Nat} {s : Sg} {h : hS} {r : Int} (E : EndX N [(6, b, ad)] 4 (some .int) (some (ti r)) [s] h)  : ∀ (n9 : Nat), ∀ (a2 : Int) (a3 : Int) (ha2 : rI a2) (ha3 : rI a3), fX6_behind_L4 n9 s a2 a3 = some (r) → AtPc cX6_behind RX6 1 21 N [s] h 4 [(0, tr (some b)), (2, ti a2), (3, ti a3)] [] := by
  intro n9
  induction n9 with
  | zero => intro a2 a3 ha2 ha3 e; cases e
  | succ n9 ih => intro a2 a3 ha2 ha3 e; exact wX6_behind_b4 E _ ih a2 a3 ha2 ha3 e
def fX6_behind  (s : Sg) (a1 : Int) : Option (Int) := fX6_behind_L4 FU s 1 a1
theorem kX6_behind {G : Gx}  {b : Nat} {ad : Nat → Nat} {s : Sg} {h : hS} {r : Int} {a1 : Int}  (ha1 : rI a1) (e : fX6_behind s a1 = some (r)) : CtX G yX6_behind cX6_behind 4 (some .int) 1 21 [(6, b, ad)] [s] h [tr (some b), ti a1] (some (ti r)) [s] h := by
  refine CtX.of (by decide) (Nat.le_of_ble_eq_true rfl) [(0, tr (some b)), (1, ti a1)] rfl ?_
  have E : EndX (G, 4, [(6, b, ad)], h, [s], h, (some .int), (some (ti r)), yX6_behind.name) [(6, b, ad)] 4 (some .int) (some (ti r)) [s] h := ⟨rfl, rfl, rfl, rfl, rfl, rfl⟩
  unfold fX6_behind at e
  refine r_rrs E.p (fun rr => ?_)
  refine r_iconst dX6_behind_0 ?_
  refine r_istore_n (lv' := [(2, ti 1), (0, tr (some b)), (1, ti a1)]) dX6_behind_1 rfl (E.lt (by decide)) rfl ?_
  refine r_iload_n dX6_behind_2 rfl 2 rfl ?_
  refine r_istore_n (lv' := [(3, ti a1), (2, ti 1), (0, tr (some b)), (1, ti a1)]) dX6_behind_3 rfl (E.lt (by decide)) rfl ?_
  refine r_sub [2, 1, 0] rfl ?_
  exact wX6_behind_L4 E FU 1 a1 (by decide) ha1 e
theorem fG_X6_125 : FldG RX6 125 [(6, 51)] := List.forall_mem_cons.mpr ⟨⟨RX6, TX6, 63, "DictProofModel", rfl, in_X6, by decide, q1456, Or.inl rfl⟩, fun _ h => absurd h List.not_mem_nil⟩
def fX6_occurs_b103 (K9 : Sg → Int → Int → Option (Int × Sg)) (s : Sg) (a1 : Int) (a3 : Int) : Option (Int × Sg) := K9 s a1 a3
theorem wX6_occurs_b103 {N : Nx} {b : Nat} {ad : Nat → Nat} {s' : Sg} {h : hS} {r : Int} (E : EndX N [(6, b, ad)] 6 (some .boolean) (some (ti r)) [s'] h) (K9 : Sg → Int → Int → Option (Int × Sg)) (hK9 : ∀ (s : Sg) (a1 : Int) (a3 : Int) (ha1 : rI a1) (ha3 : rI a3), K9 s a1 a3 = some (r, s') → AtPc cX6_occurs RX6 3 64 N [s] h 9 [(0, tr (some b)), (1, ti a1), (3, ti a3)] []) (s : Sg) (a1 : Int) (a3 : Int) (ha1 : rI a1) (ha3 : rI a3) (e : fX6_occurs_b103 K9 s a1 a3 = some (r, s')) : AtPc cX6_occurs RX6 3 64 N [s] h 103 [(0, tr (some b)), (1, ti a1), (3, ti a3)] [] := by
  unfold fX6_occurs_b103 at e
  refine r_rrs E.p (fun rr => ?_)
  refine r_goto 9 dX6_occurs_103 (by decide) ?_
  exact hK9 s a1 a3 ha1 ha3 e
def fX6_occurs_b77 (K9 : Sg → Int → Int → Option (Int × Sg)) (s : Sg) (a1 : Int) (a3 : Int) (a4 : Int) (a5 : Int) : Option (Int × Sg) := bd (fX6_wants a5) fun p1 => if p1 ≤ 1 then fX6_occurs_b103 K9 s a1 a3 else bd (fX6_behind s (wr (a4 + 1))) fun p6 => gd (inb a3 64) (fX6_occurs_b103 K9 (sA s 51 a3 p6) a1 (wr (a3 + 1)))
theorem wX6_occurs_b77 {N : Nx} {b : Nat} {ad : Nat → Nat} {s' : Sg} {h : hS} {r : Int} (E : EndX N [(6, b, ad)] 6 (some .boolean) (some (ti r)) [s'] h) (K9 : Sg → Int → Int → Option (Int × Sg)) (hK9 : ∀ (s : Sg) (a1 : Int) (a3 : Int) (ha1 : rI a1) (ha3 : rI a3), K9 s a1 a3 = some (r, s') → AtPc cX6_occurs RX6 3 64 N [s] h 9 [(0, tr (some b)), (1, ti a1), (3, ti a3)] []) (s : Sg) (a1 : Int) (a3 : Int) (a4 : Int) (a5 : Int) (ha1 : rI a1) (ha3 : rI a3) (ha4 : rI a4) (ha5 : rI a5) (e : fX6_occurs_b77 K9 s a1 a3 a4 a5 = some (r, s')) : AtPc cX6_occurs RX6 3 64 N [s] h 77 [(0, tr (some b)), (1, ti a1), (3, ti a3), (4, ti a4), (5, ti a5)] [] := by
  unfold fX6_occurs_b77 at e
  refine r_rrs E.p (fun rr => ?_)
  refine r_iload dX6_occurs_77 4 rfl ?_
  obtain ⟨p1, q2, e⟩ := bd_o e
  have k3 := kX6_wants (G := nG N) (h := h) ha5 q2
  have z4 := (k3 rr.none).1.2.2.2
  refine r_callS (j := none) 1 [ti a5] k3 (injO_1 E.p) subO_0 getO_0 setO_0 (lw_S q1645 q1646 q123 q1647) (by decide +kernel) rfl (Nat.le_of_ble_eq_true rfl) (Nat.le_of_ble_eq_true rfl) rfl (Nat.le_of_ble_eq_true rfl) dX6_occurs_79 rfl ?_
  refine r_iconst dX6_occurs_82 ?_
  have eT := (r_ifo e).1
  have eF := (r_ifo e).2
  refine r_icmp_le z4 (by decide) 103 dX6_occurs_83 (by decide) (fun c5 => ?_) (fun c5 => ?_)
  · have e := eT c5
    refine r_sub [0, 1, 2] rfl ?_
    exact wX6_occurs_b103 E K9 hK9 s a1 a3 ha1 ha3 e
  · have e := eF c5
    refine r_aload_n dX6_occurs_86 rfl 0 rfl ?_
    refine r_sR E.p 51 fG_X6_125 (by decide) dX6_occurs_87 ?_
    refine r_iload_n dX6_occurs_90 rfl 2 rfl ?_
    refine r_aload_n dX6_occurs_91 rfl 0 rfl ?_
    refine r_iload dX6_occurs_92 3 rfl ?_
    refine r_iconst dX6_occurs_94 ?_
    refine r_iadd dX6_occurs_95 ?_
    obtain ⟨p6, q7, e⟩ := bd_o e
    have k8 := kX6_behind (G := nG N) (b := b) (ad := ad) (h := h) (wr_r _) q7
    have z9 := (k8 rr).1.2.2.2
    refine r_callV (j := some 0) 1 [ti (wr (a4 + 1))] (rec_sg (j := 0) (r := (RX6, TX6, 63)) rfl (by rw [E.p]; rfl)) rfl k8 (injO_1 E.p) (subO_1 E.p) getO_1 setO_1 (lw_V q1833 q1835 qs90 q123 q1836) (by decide +kernel) rfl (Nat.le_of_ble_eq_true rfl) (Nat.le_of_ble_eq_true rfl) rfl (Nat.le_of_ble_eq_true rfl) dX6_occurs_96 rfl ?_
    obtain ⟨g10, e⟩ := gd_o e
    refine r_saP E.p 51 rfl (by decide) (by decide) ha3 g10 z9 rfl dX6_occurs_99 ?_
    refine r_rrs E.p (fun rr11 => ?_)
    refine r_iinc (lv' := [(3, ti (wr (a3 + 1))), (0, tr (some b)), (1, ti a1), (4, ti a4), (5, ti a5)]) dX6_occurs_100 2 rfl (E.lt (by decide)) rfl ?_
    refine r_sub [1, 2, 0] rfl ?_
    exact wX6_occurs_b103 E K9 hK9 (sA s 51 a3 p6) a1 (wr (a3 + 1)) ha1 (wr_r _) e
