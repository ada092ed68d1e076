/-! DictProofModel: functions and walks, printed by gen/run6.py -/
set_option maxRecDepth 100000
def fX6_laySizes_L17 (K7 : Sg → Int → Option (Sg)) : Nat → Sg → Int → Int → Int → Option (Sg)
  | 0, _, _, _, _ => none
  | n9 + 1, s, a1, a2, a3 => fX6_laySizes_b17 K7 (fX6_laySizes_L17 K7 n9) s a1 a2 a3
theorem wX6_laySizes_L17 {N : Nx} {b : Nat} {ad : Nat → Nat} {s' : Sg} {h : hS} (E : EndX N [(6, b, ad)] 4 none none [s'] h) (K7 : Sg → Int → Option (Sg)) (hK7 : ∀ (s : Sg) (a1 : Int) (ha1 : rI a1), K7 s a1 = some (s') → AtPc cX6_laySizes RX6 1 20 N [s] h 7 [(0, tr (some b)), (1, ti a1)] []) : ∀ (n9 : Nat), ∀ (s : Sg) (a1 : Int) (a2 : Int) (a3 : Int) (ha1 : rI a1) (ha2 : rI a2) (ha3 : rI a3), fX6_laySizes_L17 K7 n9 s a1 a2 a3 = some (s') → AtPc cX6_laySizes RX6 1 20 N [s] h 17 [(0, tr (some b)), (1, ti a1), (2, ti a2), (3, ti a3)] [] := by
  intro n9
  induction n9 with
  | zero => intro s a1 a2 a3 ha1 ha2 ha3 e; cases e
  | succ n9 ih => intro s a1 a2 a3 ha1 ha2 ha3 e; exact wX6_laySizes_b17 E K7 hK7 _ ih s a1 a2 a3 ha1 ha2 ha3 e
def fX6_laySizes_b7 (K7 : Sg → Int → Option (Sg)) (s : Sg) (a1 : Int) : Option (Sg) := if a1 < 0 then some s else fX6_laySizes_L17 K7 FU s a1 (wr (a1 + 1)) 0
theorem wX6_laySizes_b7 {N : Nx} {b : Nat} {ad : Nat → Nat} {s' : Sg} {h : hS} (E : EndX N [(6, b, ad)] 4 none none [s'] h) (K7 : Sg → Int → Option (Sg)) (hK7 : ∀ (s : Sg) (a1 : Int) (ha1 : rI a1), K7 s a1 = some (s') → AtPc cX6_laySizes RX6 1 20 N [s] h 7 [(0, tr (some b)), (1, ti a1)] []) (s : Sg) (a1 : Int) (ha1 : rI a1) (e : fX6_laySizes_b7 K7 s a1 = some (s')) : AtPc cX6_laySizes RX6 1 20 N [s] h 7 [(0, tr (some b)), (1, ti a1)] [] := by
  unfold fX6_laySizes_b7 at e
  refine r_rrs E.p (fun rr => ?_)
  refine r_iload_n dX6_laySizes_7 rfl 1 rfl ?_
  have eT := (r_ifo e).1
  have eF := (r_ifo e).2
  refine r_if_lt ha1 60 dX6_laySizes_8 (by decide) (fun c1 => ?_) (fun c1 => ?_)
  · have e := eT c1
    cases e
    exact r_vret E.σ E.st E.rt E.r dX6_laySizes_60
  · have e := eF c1
    refine r_iload_n dX6_laySizes_11 rfl 1 rfl ?_
    refine r_iconst dX6_laySizes_12 ?_
    refine r_iadd dX6_laySizes_13 ?_
    refine r_istore_n (lv' := [(2, ti (wr (a1 + 1))), (0, tr (some b)), (1, ti a1)]) dX6_laySizes_14 rfl (E.lt (by decide)) rfl ?_
    refine r_iconst dX6_laySizes_15 ?_
    refine r_istore_n (lv' := [(3, ti 0), (2, ti (wr (a1 + 1))), (0, tr (some b)), (1, ti a1)]) dX6_laySizes_16 rfl (E.lt (by decide)) rfl ?_
    refine r_sub [2, 3, 1, 0] rfl ?_
    exact wX6_laySizes_L17 E K7 hK7 FU s a1 (wr (a1 + 1)) 0 ha1 (wr_r _) (by decide) e
def fX6_laySizes_L7  : Nat → Sg → Int → Option (Sg)
  | 0, _, _ => none
  | n9 + 1, s, a1 => fX6_laySizes_b7 (fX6_laySizes_L7 n9) s a1
theorem wX6_laySizes_L7 {N : Nx} {b : Nat} {ad : Nat → Nat} {s' : Sg} {h : hS} (E : EndX N [(6, b, ad)] 4 none none [s'] h)  : ∀ (n9 : Nat), ∀ (s : Sg) (a1 : Int) (ha1 : rI a1), fX6_laySizes_L7 n9 s a1 = some (s') → AtPc cX6_laySizes RX6 1 20 N [s] h 7 [(0, tr (some b)), (1, ti a1)] [] := by
  intro n9
  induction n9 with
  | zero => intro s a1 ha1 e; cases e
  | succ n9 ih => intro s a1 ha1 e; exact wX6_laySizes_b7 E _ ih s a1 ha1 e
def fX6_laySizes  (s : Sg) : Option (Sg) := fX6_laySizes_L7 FU s (wr ((gI s 34) - 1))
theorem kX6_laySizes {G : Gx}  {b : Nat} {ad : Nat → Nat} {s' : Sg} {h : hS} {s : Sg}    (e : fX6_laySizes s = some (s')) : CtX G yX6_laySizes cX6_laySizes 4 none 1 20 [(6, b, ad)] [s] h [tr (some b)] none [s'] h := by
  refine CtX.of (by decide) (Nat.le_of_ble_eq_true rfl) [(0, tr (some b))] rfl ?_
  have E : EndX (G, 4, [(6, b, ad)], h, [s'], h, none, none, yX6_laySizes.name) [(6, b, ad)] 4 none none [s'] h := ⟨rfl, rfl, rfl, rfl, rfl, rfl⟩
  unfold fX6_laySizes at e
  refine r_rrs E.p (fun rr => ?_)
  refine r_aload_n dX6_laySizes_0 rfl 0 rfl ?_
  refine r_sI E.p 34 fG_X6_233 (by decide) dX6_laySizes_1 ?_
  refine r_iconst dX6_laySizes_4 ?_
  refine r_isub dX6_laySizes_5 ?_
  refine r_istore_n (lv' := [(1, ti (wr ((gI s 34) - 1))), (0, tr (some b))]) dX6_laySizes_6 rfl (E.lt (by decide)) rfl ?_
  refine r_sub [1, 0] rfl ?_
  exact wX6_laySizes_L7 E FU s (wr ((gI s 34) - 1)) (wr_r _) e
theorem fP_X6_233 : FldP RX6 233 [(6, 34)] .int false := List.forall_mem_cons.mpr ⟨⟨RX6, TX6, 63, "DictProofModel", tyX6, rfl, in_X6, by decide, q1439, Or.inl rfl, tyX6_ok, nmX6, rfl, Or.inl rfl, by decide⟩, fun _ h => absurd h List.not_mem_nil⟩
def fX6_layHead_b12 (K12 : Sg → Int → Int → Option (Sg)) (s : Sg) (a1 : Int) (a2 : Int) : Option (Sg) := if (gI s 34) ≤ a2 then bd (fX6_laySizes s) fun p2 => some p2 else gd (inb (wr ((wr (5 * a1)) + a2)) 30) (gd (inb a2 9) (K12 (sA s 32 a2 (gA s 7 (wr ((wr (5 * a1)) + a2)))) a1 (wr (a2 + 1))))
theorem wX6_layHead_b12 {N : Nx} {b : Nat} {ad : Nat → Nat} {s' : Sg} {h : hS} (E : EndX N [(6, b, ad)] 3 none none [s'] h) (K12 : Sg → Int → Int → Option (Sg)) (hK12 : ∀ (s : Sg) (a1 : Int) (a2 : Int) (ha1 : rI a1) (ha2 : rI a2), K12 s a1 a2 = some (s') → AtPc cX6_layHead RX6 2 43 N [s] h 12 [(0, tr (some b)), (1, ti a1), (2, ti a2)] []) (s : Sg) (a1 : Int) (a2 : Int) (ha1 : rI a1) (ha2 : rI a2) (e : fX6_layHead_b12 K12 s a1 a2 = some (s')) : AtPc cX6_layHead RX6 2 43 N [s] h 12 [(0, tr (some b)), (1, ti a1), (2, ti a2)] [] := by
  unfold fX6_layHead_b12 at e
  refine r_rrs E.p (fun rr => ?_)
  refine r_iload_n dX6_layHead_12 rfl 2 rfl ?_
  refine r_aload_n dX6_layHead_13 rfl 0 rfl ?_
  refine r_sI E.p 34 fG_X6_233 (by decide) dX6_layHead_14 ?_
  have eT := (r_ifo e).1
  have eF := (r_ifo e).2
  refine r_icmp_ge ha2 ((rr.mine rfl).i 34 (by decide) (by decide)) 42 dX6_layHead_17 (by decide) (fun c1 => ?_) (fun c1 => ?_)
  · have e := eT c1
    refine r_aload_n dX6_layHead_42 rfl 0 rfl ?_
    obtain ⟨p2, q3, e⟩ := bd_o e
    have k4 := kX6_laySizes (G := nG N) (b := b) (ad := ad) (h := h)  q3
    have z5 := (k4 rr).1.2.2.2
    refine r_callV (j := some 0) 0 [] (rec_sg (j := 0) (r := (RX6, TX6, 63)) rfl (by rw [E.p]; rfl)) rfl k4 (injO_1 E.p) (subO_1 E.p) getO_1 setO_1 (lw_V q1678 q1680 qs59 q123 q1681) (by decide +kernel) rfl (Nat.le_of_ble_eq_true rfl) (Nat.le_of_ble_eq_true rfl) rfl (Nat.le_of_ble_eq_true rfl) dX6_layHead_43 rfl ?_
    refine r_rrs E.p (fun rr6 => ?_)
    cases e
    exact r_vret E.σ E.st E.rt E.r dX6_layHead_46
  · have e := eF c1
    refine r_aload_n dX6_layHead_20 rfl 0 rfl ?_
    refine r_sR E.p 32 fG_X6_80 (by decide) dX6_layHead_21 ?_
    refine r_iload_n dX6_layHead_24 rfl 2 rfl ?_
    refine r_aload_n dX6_layHead_25 rfl 0 rfl ?_
    refine r_sR E.p 7 fG_X6_22 (by decide) dX6_layHead_26 ?_
    refine r_iconst dX6_layHead_29 ?_
    refine r_iload_n dX6_layHead_30 rfl 1 rfl ?_
    refine r_imul dX6_layHead_31 ?_
    refine r_iload_n dX6_layHead_32 rfl 2 rfl ?_
    refine r_iadd dX6_layHead_33 ?_
    obtain ⟨g7, e⟩ := gd_o e
    refine r_saI E.p 7 rfl (by decide) (by decide) (wr_r _) g7 rfl dX6_layHead_34 ?_
    obtain ⟨g8, e⟩ := gd_o e
    refine r_saP E.p 32 rfl (by decide) (by decide) ha2 g8 (((rr.mine rfl).a 7 (by decide) rfl).1 _) rfl dX6_layHead_35 ?_
    refine r_rrs E.p (fun rr9 => ?_)
    refine r_iinc (lv' := [(2, ti (wr (a2 + 1))), (0, tr (some b)), (1, ti a1)]) dX6_layHead_36 2 rfl (E.lt (by decide)) rfl ?_
    refine r_goto 12 dX6_layHead_39 (by decide) ?_
    refine r_sub [1, 2, 0] rfl ?_
    exact hK12 (sA s 32 a2 (gA s 7 (wr ((wr (5 * a1)) + a2)))) a1 (wr (a2 + 1)) ha1 (wr_r _) e
def fX6_layHead_L12  : Nat → Sg → Int → Int → Option (Sg)
  | 0, _, _, _ => none
  | n9 + 1, s, a1, a2 => fX6_layHead_b12 (fX6_layHead_L12 n9) s a1 a2
theorem wX6_layHead_L12 {N : Nx} {b : Nat} {ad : Nat → Nat} {s' : Sg} {h : hS} (E : EndX N [(6, b, ad)] 3 none none [s'] h)  : ∀ (n9 : Nat), ∀ (s : Sg) (a1 : Int) (a2 : Int) (ha1 : rI a1) (ha2 : rI a2), fX6_layHead_L12 n9 s a1 a2 = some (s') → AtPc cX6_layHead RX6 2 43 N [s] h 12 [(0, tr (some b)), (1, ti a1), (2, ti a2)] [] := by
  intro n9
  induction n9 with
  | zero => intro s a1 a2 ha1 ha2 e; cases e
  | succ n9 ih => intro s a1 a2 ha1 ha2 e; exact wX6_layHead_b12 E _ ih s a1 a2 ha1 ha2 e
def fX6_layHead  (s : Sg) (a1 : Int) : Option (Sg) := gd (inb a1 6) (fX6_layHead_L12 FU (sI s 34 (gA s 8 a1)) a1 0)
theorem kX6_layHead {G : Gx}  {b : Nat} {ad : Nat → Nat} {s' : Sg} {h : hS} {s : Sg} {a1 : Int}  (ha1 : rI a1) (e : fX6_layHead s a1 = some (s')) : CtX G yX6_layHead cX6_layHead 3 none 2 43 [(6, b, ad)] [s] h [tr (some b), ti a1] none [s'] h := by
  refine CtX.of (by decide) (Nat.le_of_ble_eq_true rfl) [(0, tr (some b)), (1, ti a1)] rfl ?_
  have E : EndX (G, 3, [(6, b, ad)], h, [s'], h, none, none, yX6_layHead.name) [(6, b, ad)] 3 none none [s'] h := ⟨rfl, rfl, rfl, rfl, rfl, rfl⟩
  unfold fX6_layHead at e
  refine r_rrs E.p (fun rr => ?_)
  refine r_aload_n dX6_layHead_0 rfl 0 rfl ?_
  refine r_aload_n dX6_layHead_1 rfl 0 rfl ?_
  refine r_sR E.p 8 fG_X6_25 (by decide) dX6_layHead_2 ?_
  refine r_iload_n dX6_layHead_5 rfl 1 rfl ?_
  obtain ⟨g1, e⟩ := gd_o e
  refine r_saI E.p 8 rfl (by decide) (by decide) ha1 g1 rfl dX6_layHead_6 ?_
  refine r_sPI E.p 34 fP_X6_233 rfl (((rr.mine rfl).a 8 (by decide) rfl).1 _) dX6_layHead_7 ?_
  refine r_rrs E.p (fun rr2 => ?_)
  refine r_iconst dX6_layHead_10 ?_
  refine r_istore_n (lv' := [(2, ti 0), (0, tr (some b)), (1, ti a1)]) dX6_layHead_11 rfl (E.lt (by decide)) rfl ?_
  refine r_sub [1, 2, 0] rfl ?_
  exact wX6_layHead_L12 E FU (sI s 34 (gA s 8 a1)) a1 0 ha1 (by decide) e
def fX6_isSameAt_b65 (K24 : Sg → Int → Int → Int → Int → Option (Int)) (s : Sg) (a1 : Int) (a2 : Int) (a4 : Int) (k0 : Int) : Option (Int) := K24 s a1 a2 k0 (wr (a4 + 1))
theorem wX6_isSameAt_b65 {N : Nx} {b : Nat} {ad : Nat → Nat} {s : Sg} {h : hS} {r : Int} (E : EndX N [(6, b, ad)] 5 (some .boolean) (some (ti r)) [s] h) (K24 : Sg → Int → Int → Int → Int → Option (Int)) (hK24 : ∀ (a1 : Int) (a2 : Int) (a3 : Int) (a4 : Int) (ha1 : rI a1) (ha2 : rI a2) (ha3 : rI a3) (ha4 : rI a4), K24 s a1 a2 a3 a4 = some (r) → AtPc cX6_isSameAt RX6 0 0 N [s] h 24 [(0, tr (some b)), (1, ti a1), (2, ti a2), (3, ti a3), (4, ti a4)] []) (a1 : Int) (a2 : Int) (a4 : Int) (k0 : Int) (ha1 : rI a1) (ha2 : rI a2) (ha4 : rI a4) (hk0 : rI k0) (e : fX6_isSameAt_b65 K24 s a1 a2 a4 k0 = some (r)) : AtPc cX6_isSameAt RX6 0 0 N [s] h 65 [(0, tr (some b)), (1, ti a1), (2, ti a2), (4, ti a4)] [ti k0] := by
  unfold fX6_isSameAt_b65 at e
  refine r_rrs E.p (fun rr => ?_)
  refine r_istore_n (lv' := [(3, ti k0), (0, tr (some b)), (1, ti a1), (2, ti a2), (4, ti a4)]) dX6_isSameAt_65 rfl (E.lt (by decide)) rfl ?_
  refine r_iinc (lv' := [(4, ti (wr (a4 + 1))), (3, ti k0), (0, tr (some b)), (1, ti a1), (2, ti a2)]) dX6_isSameAt_66 4 rfl (E.lt (by decide)) rfl ?_
  refine r_goto 24 dX6_isSameAt_69 (by decide) ?_
  refine r_sub [2, 3, 4, 1, 0] rfl ?_
  exact hK24 a1 a2 k0 (wr (a4 + 1)) ha1 ha2 hk0 (wr_r _) e
def fX6_isSameAt_b72 (s : Sg) (a3 : Int) : Option (Int) := gd (a3 = 0 ∨ a3 = 1) (some a3)
theorem wX6_isSameAt_b72 {N : Nx} {b : Nat} {ad : Nat → Nat} {s : Sg} {h : hS} {r : Int} (E : EndX N [(6, b, ad)] 5 (some .boolean) (some (ti r)) [s] h)  (a3 : Int) (ha3 : rI a3) (e : fX6_isSameAt_b72 s a3 = some (r)) : AtPc cX6_isSameAt RX6 0 0 N [s] h 72 [(3, ti a3)] [] := by
  unfold fX6_isSameAt_b72 at e
  refine r_rrs E.p (fun rr => ?_)
  refine r_iload_n dX6_isSameAt_72 rfl 0 rfl ?_
  obtain ⟨g1, e⟩ := gd_o e
  cases e
  exact r_zret E.σ E.st E.rt E.r g1 dX6_isSameAt_73
def fX6_isSameAt_b24 (K24 : Sg → Int → Int → Int → Int → Option (Int)) (s : Sg) (a1 : Int) (a2 : Int) (a3 : Int) (a4 : Int) : Option (Int) := gd (inb a1 9) (if (gA s 33 a1) ≤ a4 then fX6_isSameAt_b72 s a3 else if a3 = 0 then fX6_isSameAt_b72 s a3 else gd (inb (wr (a1 + a4)) 9) (gd (inb (wr (a2 + a4)) 9) (if ¬ (gA s 32 (wr (a1 + a4))) = (gA s 32 (wr (a2 + a4))) then fX6_isSameAt_b65 K24 s a1 a2 a4 0 else fX6_isSameAt_b65 K24 s a1 a2 a4 1)))
theorem wX6_isSameAt_b24 {N : Nx} {b : Nat} {ad : Nat → Nat} {s : Sg} {h : hS} {r : Int} (E : EndX N [(6, b, ad)] 5 (some .boolean) (some (ti r)) [s] h) (K24 : Sg → Int → Int → Int → Int → Option (Int)) (hK24 : ∀ (a1 : Int) (a2 : Int) (a3 : Int) (a4 : Int) (ha1 : rI a1) (ha2 : rI a2) (ha3 : rI a3) (ha4 : rI a4), K24 s a1 a2 a3 a4 = some (r) → AtPc cX6_isSameAt RX6 0 0 N [s] h 24 [(0, tr (some b)), (1, ti a1), (2, ti a2), (3, ti a3), (4, ti a4)] []) (a1 : Int) (a2 : Int) (a3 : Int) (a4 : Int) (ha1 : rI a1) (ha2 : rI a2) (ha3 : rI a3) (ha4 : rI a4) (e : fX6_isSameAt_b24 K24 s a1 a2 a3 a4 = some (r)) : AtPc cX6_isSameAt RX6 0 0 N [s] h 24 [(0, tr (some b)), (1, ti a1), (2, ti a2), (3, ti a3), (4, ti a4)] [] := by
  unfold fX6_isSameAt_b24 at e
  refine r_rrs E.p (fun rr => ?_)
  refine r_iload dX6_isSameAt_24 4 rfl ?_
  refine r_aload_n dX6_isSameAt_26 rfl 0 rfl ?_
  refine r_sR E.p 33 fG_X6_83 (by decide) dX6_isSameAt_27 ?_
  refine r_iload_n dX6_isSameAt_30 rfl 1 rfl ?_
  obtain ⟨g1, e⟩ := gd_o e
  refine r_saI E.p 33 rfl (by decide) (by decide) ha1 g1 rfl dX6_isSameAt_31 ?_
  have eT := (r_ifo e).1
  have eF := (r_ifo e).2
  refine r_icmp_ge ha4 (((rr.mine rfl).a 33 (by decide) rfl).1 _) 72 dX6_isSameAt_32 (by decide) (fun c2 => ?_) (fun c2 => ?_)
  · have e := eT c2
    refine r_sub [3] rfl ?_
    exact wX6_isSameAt_b72 E a3 ha3 e
  · have e := eF c2
    refine r_iload_n dX6_isSameAt_35 rfl 3 rfl ?_
    have eT := (r_ifo e).1
    have eF := (r_ifo e).2
    refine r_if_eq ha3 72 dX6_isSameAt_36 (by decide) (fun c3 => ?_) (fun c3 => ?_)
    · have e := eT c3
      refine r_sub [3] rfl ?_
      exact wX6_isSameAt_b72 E a3 ha3 e
    · have e := eF c3
      refine r_aload_n dX6_isSameAt_39 rfl 0 rfl ?_
      refine r_sR E.p 32 fG_X6_80 (by decide) dX6_isSameAt_40 ?_
      refine r_iload_n dX6_isSameAt_43 rfl 1 rfl ?_
      refine r_iload dX6_isSameAt_44 4 rfl ?_
      refine r_iadd dX6_isSameAt_46 ?_
      obtain ⟨g4, e⟩ := gd_o e
      refine r_saI E.p 32 rfl (by decide) (by decide) (wr_r _) g4 rfl dX6_isSameAt_47 ?_
      refine r_aload_n dX6_isSameAt_48 rfl 0 rfl ?_
      refine r_sR E.p 32 fG_X6_80 (by decide) dX6_isSameAt_49 ?_
      refine r_iload_n dX6_isSameAt_52 rfl 2 rfl ?_
      refine r_iload dX6_isSameAt_53 4 rfl ?_
      refine r_iadd dX6_isSameAt_55 ?_
      obtain ⟨g5, e⟩ := gd_o e
      refine r_saI E.p 32 rfl (by decide) (by decide) (wr_r _) g5 rfl dX6_isSameAt_56 ?_
      have eT := (r_ifo e).1
      have eF := (r_ifo e).2
      refine r_icmp_ne (((rr.mine rfl).a 32 (by decide) rfl).1 _) (((rr.mine rfl).a 32 (by decide) rfl).1 _) 64 dX6_isSameAt_57 (by decide) (fun c6 => ?_) (fun c6 => ?_)
      · have e := eT c6
        refine r_iconst dX6_isSameAt_64 ?_
        refine r_sub [0, 1, 2, 4] rfl ?_
        exact wX6_isSameAt_b65 E K24 hK24 a1 a2 a4 0 ha1 ha2 ha4 (by decide) e
      · have e := eF c6
        refine r_iconst dX6_isSameAt_60 ?_
        refine r_goto 65 dX6_isSameAt_61 (by decide) ?_
        refine r_sub [0, 1, 2, 4] rfl ?_
        exact wX6_isSameAt_b65 E K24 hK24 a1 a2 a4 1 ha1 ha2 ha4 (by decide) e
def fX6_isSameAt_L24  : Nat → Sg → Int → Int → Int → Int → Option (Int)
  | 0, _, _, _, _, _ => none
  | n9 + 1, s, a1, a2, a3, a4 => fX6_isSameAt_b24 (fX6_isSameAt_L24 n9) s a1 a2 a3 a4
theorem wX6_isSameAt_L24 {N : Nx} {b : Nat} {ad : Nat → Nat} {s : Sg} {h : hS} {r : Int} (E : EndX N [(6, b, ad)] 5 (some .boolean) (some (ti r)) [s] h)  : ∀ (n9 : Nat), ∀ (a1 : Int) (a2 : Int) (a3 : Int) (a4 : Int) (ha1 : rI a1) (ha2 : rI a2) (ha3 : rI a3) (ha4 : rI a4), fX6_isSameAt_L24 n9 s a1 a2 a3 a4 = some (r) → AtPc cX6_isSameAt RX6 0 0 N [s] h 24 [(0, tr (some b)), (1, ti a1), (2, ti a2), (3, ti a3), (4, ti a4)] [] := by
  intro n9
  induction n9 with
  | zero => intro a1 a2 a3 a4 ha1 ha2 ha3 ha4 e; cases e
  | succ n9 ih => intro a1 a2 a3 a4 ha1 ha2 ha3 ha4 e; exact wX6_isSameAt_b24 E _ ih a1 a2 a3 a4 ha1 ha2 ha3 ha4 e
def fX6_isSameAt_b20 (s : Sg) (a1 : Int) (a2 : Int) (k0 : Int) : Option (Int) := fX6_isSameAt_L24 FU s a1 a2 k0 0
theorem wX6_isSameAt_b20 {N : Nx} {b : Nat} {ad : Nat → Nat} {s : Sg} {h : hS} {r : Int} (E : EndX N [(6, b, ad)] 5 (some .boolean) (some (ti r)) [s] h)  (a1 : Int) (a2 : Int) (k0 : Int) (ha1 : rI a1) (ha2 : rI a2) (hk0 : rI k0) (e : fX6_isSameAt_b20 s a1 a2 k0 = some (r)) : AtPc cX6_isSameAt RX6 0 0 N [s] h 20 [(0, tr (some b)), (1, ti a1), (2, ti a2)] [ti k0] := by
  unfold fX6_isSameAt_b20 at e
  refine r_rrs E.p (fun rr => ?_)
  refine r_istore_n (lv' := [(3, ti k0), (0, tr (some b)), (1, ti a1), (2, ti a2)]) dX6_isSameAt_20 rfl (E.lt (by decide)) rfl ?_
  refine r_iconst dX6_isSameAt_21 ?_
  refine r_istore (lv' := [(4, ti 0), (3, ti k0), (0, tr (some b)), (1, ti a1), (2, ti a2)]) dX6_isSameAt_22 (E.lt (by decide)) rfl ?_
  refine r_sub [2, 3, 4, 1, 0] rfl ?_
  exact wX6_isSameAt_L24 E FU a1 a2 k0 0 ha1 ha2 hk0 (by decide) e
def fX6_isSameAt  (s : Sg) (a1 : Int) (a2 : Int) : Option (Int) := gd (inb a1 9) (gd (inb a2 9) (if ¬ (gA s 33 a1) = (gA s 33 a2) then fX6_isSameAt_b20 s a1 a2 0 else fX6_isSameAt_b20 s a1 a2 1))
theorem kX6_isSameAt {G : Gx}  {b : Nat} {ad : Nat → Nat} {s : Sg} {h : hS} {r : Int} {a1 : Int} {a2 : Int}  (ha1 : rI a1) (ha2 : rI a2) (e : fX6_isSameAt s a1 a2 = some (r)) : CtX G yX6_isSameAt cX6_isSameAt 5 (some .boolean) 0 0 [(6, b, ad)] [s] h [tr (some b), ti a1, ti a2] (some (ti r)) [s] h := by
  refine CtX.of (by decide) (Nat.le_of_ble_eq_true rfl) [(0, tr (some b)), (1, ti a1), (2, ti a2)] rfl ?_
  have E : EndX (G, 5, [(6, b, ad)], h, [s], h, (some .boolean), (some (ti r)), yX6_isSameAt.name) [(6, b, ad)] 5 (some .boolean) (some (ti r)) [s] h := ⟨rfl, rfl, rfl, rfl, rfl, rfl⟩
  unfold fX6_isSameAt at e
  refine r_rrs E.p (fun rr => ?_)
  refine r_aload_n dX6_isSameAt_0 rfl 0 rfl ?_
  refine r_sR E.p 33 fG_X6_83 (by decide) dX6_isSameAt_1 ?_
  refine r_iload_n dX6_isSameAt_4 rfl 1 rfl ?_
  obtain ⟨g1, e⟩ := gd_o e
  refine r_saI E.p 33 rfl (by decide) (by decide) ha1 g1 rfl dX6_isSameAt_5 ?_
  refine r_aload_n dX6_isSameAt_6 rfl 0 rfl ?_
  refine r_sR E.p 33 fG_X6_83 (by decide) dX6_isSameAt_7 ?_
  refine r_iload_n dX6_isSameAt_10 rfl 2 rfl ?_
  obtain ⟨g2, e⟩ := gd_o e
  refine r_saI E.p 33 rfl (by decide) (by decide) ha2 g2 rfl dX6_isSameAt_11 ?_
  have eT := (r_ifo e).1
  have eF := (r_ifo e).2
  refine r_icmp_ne (((rr.mine rfl).a 33 (by decide) rfl).1 _) (((rr.mine rfl).a 33 (by decide) rfl).1 _) 19 dX6_isSameAt_12 (by decide) (fun c3 => ?_) (fun c3 => ?_)
  · have e := eT c3
    refine r_iconst dX6_isSameAt_19 ?_
    exact wX6_isSameAt_b20 E a1 a2 0 ha1 ha2 (by decide) e
  · have e := eF c3
    refine r_iconst dX6_isSameAt_15 ?_
    refine r_goto 20 dX6_isSameAt_16 (by decide) ?_
    exact wX6_isSameAt_b20 E a1 a2 1 ha1 ha2 (by decide) e
theorem fG_X6_86 : FldG RX6 86 [(6, 35)] := List.forall_mem_cons.mpr ⟨⟨RX6, TX6, 63, "DictProofModel", rfl, in_X6, by decide, q1440, Or.inl rfl⟩, fun _ h => absurd h List.not_mem_nil⟩
def fX6_fitsAt_b122 (K19 : Sg → Int → Int → Int → Option (Int × Sg)) (s : Sg) (a1 : Int) (a3 : Int) (a4 : Int) : Option (Int × Sg) := K19 s a1 a3 (wr (a4 + 1))
theorem wX6_fitsAt_b122 {N : Nx} {b : Nat} {ad : Nat → Nat} {s' : Sg} {h : hS} {r : Int} (E : EndX N [(6, b, ad)] 7 (some .boolean) (some (ti r)) [s'] h) (K19 : Sg → Int → Int → Int → Option (Int × Sg)) (hK19 : ∀ (s : Sg) (a1 : Int) (a3 : Int) (a4 : Int) (ha1 : rI a1) (ha3 : rI a3) (ha4 : rI a4), K19 s a1 a3 a4 = some (r, s') → AtPc cX6_fitsAt RX6 1 24 N [s] h 19 [(0, tr (some b)), (1, ti a1), (3, ti a3), (4, ti a4)] []) (s : Sg) (a1 : Int) (a3 : Int) (a4 : Int) (ha1 : rI a1) (ha3 : rI a3) (ha4 : rI a4) (e : fX6_fitsAt_b122 K19 s a1 a3 a4 = some (r, s')) : AtPc cX6_fitsAt RX6 1 24 N [s] h 122 [(0, tr (some b)), (1, ti a1), (3, ti a3), (4, ti a4)] [] := by
  unfold fX6_fitsAt_b122 at e
  refine r_rrs E.p (fun rr => ?_)
  refine r_iinc (lv' := [(4, ti (wr (a4 + 1))), (0, tr (some b)), (1, ti a1), (3, ti a3)]) dX6_fitsAt_122 3 rfl (E.lt (by decide)) rfl ?_
  refine r_goto 19 dX6_fitsAt_125 (by decide) ?_
  refine r_sub [1, 2, 3, 0] rfl ?_
  exact hK19 s a1 a3 (wr (a4 + 1)) ha1 ha3 (wr_r _) e
def fX6_fitsAt_b105 (K19 : Sg → Int → Int → Int → Option (Int × Sg)) (s : Sg) (a1 : Int) (a3 : Int) (a4 : Int) (a6 : Int) : Option (Int × Sg) := gd (inb a6 2) (gd (inb a3 9) (fX6_fitsAt_b122 K19 (sA s 35 a6 a3) a1 (wr (a3 + (gA (sA s 35 a6 a3) 33 a3))) a4))
theorem wX6_fitsAt_b105 {N : Nx} {b : Nat} {ad : Nat → Nat} {s' : Sg} {h : hS} {r : Int} (E : EndX N [(6, b, ad)] 7 (some .boolean) (some (ti r)) [s'] h) (K19 : Sg → Int → Int → Int → Option (Int × Sg)) (hK19 : ∀ (s : Sg) (a1 : Int) (a3 : Int) (a4 : Int) (ha1 : rI a1) (ha3 : rI a3) (ha4 : rI a4), K19 s a1 a3 a4 = some (r, s') → AtPc cX6_fitsAt RX6 1 24 N [s] h 19 [(0, tr (some b)), (1, ti a1), (3, ti a3), (4, ti a4)] []) (s : Sg) (a1 : Int) (a3 : Int) (a4 : Int) (a6 : Int) (ha1 : rI a1) (ha3 : rI a3) (ha4 : rI a4) (ha6 : rI a6) (e : fX6_fitsAt_b105 K19 s a1 a3 a4 a6 = some (r, s')) : AtPc cX6_fitsAt RX6 1 24 N [s] h 105 [(0, tr (some b)), (1, ti a1), (3, ti a3), (4, ti a4), (6, ti a6)] [] := by
  unfold fX6_fitsAt_b105 at e
  refine r_rrs E.p (fun rr => ?_)
  refine r_aload_n dX6_fitsAt_105 rfl 0 rfl ?_
  refine r_sR E.p 35 fG_X6_86 (by decide) dX6_fitsAt_106 ?_
  refine r_iload dX6_fitsAt_109 4 rfl ?_
  refine r_iload_n dX6_fitsAt_111 rfl 2 rfl ?_
  obtain ⟨g1, e⟩ := gd_o e
  refine r_saP E.p 35 rfl (by decide) (by decide) ha6 g1 ha3 rfl dX6_fitsAt_112 ?_
  refine r_rrs E.p (fun rr2 => ?_)
  refine r_iload_n dX6_fitsAt_113 rfl 2 rfl ?_
  refine r_aload_n dX6_fitsAt_114 rfl 0 rfl ?_
  refine r_sR E.p 33 fG_X6_83 (by decide) dX6_fitsAt_115 ?_
  refine r_iload_n dX6_fitsAt_118 rfl 2 rfl ?_
  obtain ⟨g3, e⟩ := gd_o e
  refine r_saI E.p 33 rfl (by decide) (by decide) ha3 g3 rfl dX6_fitsAt_119 ?_
  refine r_iadd dX6_fitsAt_120 ?_
  refine r_istore_n (lv' := [(3, ti (wr (a3 + (gA (sA s 35 a6 a3) 33 a3)))), (0, tr (some b)), (1, ti a1), (4, ti a4), (6, ti a6)]) dX6_fitsAt_121 rfl (E.lt (by decide)) rfl ?_
  refine r_sub [1, 2, 0, 3] rfl ?_
  exact wX6_fitsAt_b122 E K19 hK19 (sA s 35 a6 a3) a1 (wr (a3 + (gA (sA s 35 a6 a3) 33 a3))) a4 ha1 (wr_r _) ha4 e
def fX6_fitsAt_b19 (K19 : Sg → Int → Int → Int → Option (Int × Sg)) (s : Sg) (a1 : Int) (a3 : Int) (a4 : Int) : Option (Int × Sg) := gd (inb a1 6) (if (gA s 8 a1) ≤ a4 then some (1, s) else gd (inb (wr ((wr (5 * a1)) + a4)) 30) (bd (fX6_isVariable (gA s 7 (wr ((wr (5 * a1)) + a4)))) fun p4 => if ¬ p4 = 0 then gd (inb (wr ((gA s 7 (wr ((wr (5 * a1)) + a4))) - 120)) 2) (if (gA s 35 (wr ((gA s 7 (wr ((wr (5 * a1)) + a4))) - 120))) = (-1) then fX6_fitsAt_b105 K19 s a1 a3 a4 (wr ((gA s 7 (wr ((wr (5 * a1)) + a4))) - 120)) else gd (inb (wr ((gA s 7 (wr ((wr (5 * a1)) + a4))) - 120)) 2) (bd (fX6_isSameAt s (gA s 35 (wr ((gA s 7 (wr ((wr (5 * a1)) + a4))) - 120))) a3) fun p12 => if ¬ p12 = 0 then fX6_fitsAt_b105 K19 s a1 a3 a4 (wr ((gA s 7 (wr ((wr (5 * a1)) + a4))) - 120)) else some (0, s))) else gd (inb a3 9) (if (gA s 32 a3) = (gA s 7 (wr ((wr (5 * a1)) + a4))) then fX6_fitsAt_b122 K19 s a1 (wr (a3 + 1)) a4 else some (0, s))))
theorem wX6_fitsAt_b19 {N : Nx} {b : Nat} {ad : Nat → Nat} {s' : Sg} {h : hS} {r : Int} (E : EndX N [(6, b, ad)] 7 (some .boolean) (some (ti r)) [s'] h) (K19 : Sg → Int → Int → Int → Option (Int × Sg)) (hK19 : ∀ (s : Sg) (a1 : Int) (a3 : Int) (a4 : Int) (ha1 : rI a1) (ha3 : rI a3) (ha4 : rI a4), K19 s a1 a3 a4 = some (r, s') → AtPc cX6_fitsAt RX6 1 24 N [s] h 19 [(0, tr (some b)), (1, ti a1), (3, ti a3), (4, ti a4)] []) (s : Sg) (a1 : Int) (a3 : Int) (a4 : Int) (ha1 : rI a1) (ha3 : rI a3) (ha4 : rI a4) (e : fX6_fitsAt_b19 K19 s a1 a3 a4 = some (r, s')) : AtPc cX6_fitsAt RX6 1 24 N [s] h 19 [(0, tr (some b)), (1, ti a1), (3, ti a3), (4, ti a4)] [] := by
  unfold fX6_fitsAt_b19 at e
  refine r_rrs E.p (fun rr => ?_)
  refine r_iload dX6_fitsAt_19 3 rfl ?_
  refine r_aload_n dX6_fitsAt_21 rfl 0 rfl ?_
  refine r_sR E.p 8 fG_X6_25 (by decide) dX6_fitsAt_22 ?_
  refine r_iload_n dX6_fitsAt_25 rfl 1 rfl ?_
  obtain ⟨g1, e⟩ := gd_o e
  refine r_saI E.p 8 rfl (by decide) (by decide) ha1 g1 rfl dX6_fitsAt_26 ?_
  have eT := (r_ifo e).1
  have eF := (r_ifo e).2
  refine r_icmp_ge ha4 (((rr.mine rfl).a 8 (by decide) rfl).1 _) 128 dX6_fitsAt_27 (by decide) (fun c2 => ?_) (fun c2 => ?_)
  · have e := eT c2
    refine r_iconst dX6_fitsAt_128 ?_
    cases e
    exact r_zret E.σ E.st E.rt E.r (Or.inr rfl) dX6_fitsAt_129
  · have e := eF c2
    refine r_aload_n dX6_fitsAt_30 rfl 0 rfl ?_
    refine r_sR E.p 7 fG_X6_22 (by decide) dX6_fitsAt_31 ?_
    refine r_iconst dX6_fitsAt_34 ?_
    refine r_iload_n dX6_fitsAt_35 rfl 1 rfl ?_
    refine r_imul dX6_fitsAt_36 ?_
    refine r_iload dX6_fitsAt_37 3 rfl ?_
    refine r_iadd dX6_fitsAt_39 ?_
    obtain ⟨g3, e⟩ := gd_o e
    refine r_saI E.p 7 rfl (by decide) (by decide) (wr_r _) g3 rfl dX6_fitsAt_40 ?_
    refine r_istore (lv' := [(5, ti (gA s 7 (wr ((wr (5 * a1)) + a4)))), (0, tr (some b)), (1, ti a1), (3, ti a3), (4, ti a4)]) dX6_fitsAt_41 (E.lt (by decide)) rfl ?_
    refine r_iload dX6_fitsAt_43 0 rfl ?_
    obtain ⟨p4, q5, e⟩ := bd_o e
    have k6 := kX6_isVariable (G := nG N) (h := h) (((rr.mine rfl).a 7 (by decide) rfl).1 _) q5
    have z7 := (k6 rr.none).1.2.2.2
    refine r_callS (j := none) 1 [ti (gA s 7 (wr ((wr (5 * a1)) + a4)))] k6 (injO_1 E.p) subO_0 getO_0 setO_0 (lw_S q1656 q1657 q123 q1658) (by decide +kernel) rfl (Nat.le_of_ble_eq_true rfl) (Nat.le_of_ble_eq_true rfl) rfl (Nat.le_of_ble_eq_true rfl) dX6_fitsAt_45 rfl ?_
    have eT := (r_ifo e).1
    have eF := (r_ifo e).2
    refine r_if_ne (rI_z z7) 70 dX6_fitsAt_48 (by decide) (fun c8 => ?_) (fun c8 => ?_)
    · have e := eT c8
      refine r_iload dX6_fitsAt_70 0 rfl ?_
      refine r_bipush dX6_fitsAt_72 (by decide) ?_
      refine r_isub dX6_fitsAt_74 ?_
      refine r_istore (lv' := [(6, ti (wr ((gA s 7 (wr ((wr (5 * a1)) + a4))) - 120))), (5, ti (gA s 7 (wr ((wr (5 * a1)) + a4)))), (0, tr (some b)), (1, ti a1), (3, ti a3), (4, ti a4)]) dX6_fitsAt_75 (E.lt (by decide)) rfl ?_
      refine r_aload_n dX6_fitsAt_77 rfl 2 rfl ?_
      refine r_sR E.p 35 fG_X6_86 (by decide) dX6_fitsAt_78 ?_
      refine r_iload dX6_fitsAt_81 0 rfl ?_
      obtain ⟨g9, e⟩ := gd_o e
      refine r_saI E.p 35 rfl (by decide) (by decide) (wr_r _) g9 rfl dX6_fitsAt_83 ?_
      refine r_iconst dX6_fitsAt_84 ?_
      have eT := (r_ifo e).1
      have eF := (r_ifo e).2
      refine r_icmp_eq (((rr.mine rfl).a 35 (by decide) rfl).1 _) (by decide) 105 dX6_fitsAt_85 (by decide) (fun c10 => ?_) (fun c10 => ?_)
      · have e := eT c10
        refine r_sub [2, 3, 4, 5, 0] rfl ?_
        exact wX6_fitsAt_b105 E K19 hK19 s a1 a3 a4 (wr ((gA s 7 (wr ((wr (5 * a1)) + a4))) - 120)) ha1 ha3 ha4 (wr_r _) e
      · have e := eF c10
        refine r_aload_n dX6_fitsAt_88 rfl 2 rfl ?_
        refine r_aload_n dX6_fitsAt_89 rfl 2 rfl ?_
        refine r_sR E.p 35 fG_X6_86 (by decide) dX6_fitsAt_90 ?_
        refine r_iload dX6_fitsAt_93 0 rfl ?_
        obtain ⟨g11, e⟩ := gd_o e
        refine r_saI E.p 35 rfl (by decide) (by decide) (wr_r _) g11 rfl dX6_fitsAt_95 ?_
        refine r_iload_n dX6_fitsAt_96 rfl 4 rfl ?_
        obtain ⟨p12, q13, e⟩ := bd_o e
        have k14 := kX6_isSameAt (G := nG N) (b := b) (ad := ad) (h := h) (((rr.mine rfl).a 35 (by decide) rfl).1 _) ha3 q13
        have z15 := (k14 rr).1.2.2.2
        refine r_callV (j := some 0) 2 [ti (gA s 35 (wr ((gA s 7 (wr ((wr (5 * a1)) + a4))) - 120))), ti a3] (rec_sg (j := 0) (r := (RX6, TX6, 63)) rfl (by rw [E.p]; rfl)) rfl k14 (injO_1 E.p) (subO_1 E.p) getO_1 setO_1 (lw_V q1686 q1688 qs61 q123 q1689) (by decide +kernel) rfl (Nat.le_of_ble_eq_true rfl) (Nat.le_of_ble_eq_true rfl) rfl (Nat.le_of_ble_eq_true rfl) dX6_fitsAt_97 rfl ?_
        have eT := (r_ifo e).1
        have eF := (r_ifo e).2
        refine r_if_ne (rI_z z15) 105 dX6_fitsAt_100 (by decide) (fun c16 => ?_) (fun c16 => ?_)
        · have e := eT c16
          refine r_sub [2, 3, 4, 5, 0] rfl ?_
          exact wX6_fitsAt_b105 E K19 hK19 s a1 a3 a4 (wr ((gA s 7 (wr ((wr (5 * a1)) + a4))) - 120)) ha1 ha3 ha4 (wr_r _) e
        · have e := eF c16
          refine r_iconst dX6_fitsAt_103 ?_
          cases e
          exact r_zret E.σ E.st E.rt E.r (Or.inl rfl) dX6_fitsAt_104
    · have e := eF c8
      refine r_aload_n dX6_fitsAt_51 rfl 1 rfl ?_
      refine r_sR E.p 32 fG_X6_80 (by decide) dX6_fitsAt_52 ?_
      refine r_iload_n dX6_fitsAt_55 rfl 3 rfl ?_
      obtain ⟨g17, e⟩ := gd_o e
      refine r_saI E.p 32 rfl (by decide) (by decide) ha3 g17 rfl dX6_fitsAt_56 ?_
      refine r_iload dX6_fitsAt_57 0 rfl ?_
      have eT := (r_ifo e).1
      have eF := (r_ifo e).2
      refine r_icmp_eq (((rr.mine rfl).a 32 (by decide) rfl).1 _) (((rr.mine rfl).a 7 (by decide) rfl).1 _) 64 dX6_fitsAt_59 (by decide) (fun c18 => ?_) (fun c18 => ?_)
      · have e := eT c18
        refine r_iinc (lv' := [(3, ti (wr (a3 + 1))), (5, ti (gA s 7 (wr ((wr (5 * a1)) + a4)))), (0, tr (some b)), (1, ti a1), (4, ti a4)]) dX6_fitsAt_64 3 rfl (E.lt (by decide)) rfl ?_
        refine r_goto 122 dX6_fitsAt_67 (by decide) ?_
        refine r_sub [2, 3, 0, 4] rfl ?_
        exact wX6_fitsAt_b122 E K19 hK19 s a1 (wr (a3 + 1)) a4 ha1 (wr_r _) ha4 e
      · have e := eF c18
        refine r_iconst dX6_fitsAt_62 ?_
        cases e
        exact r_zret E.σ E.st E.rt E.r (Or.inl rfl) dX6_fitsAt_63
def fX6_fitsAt_L19  : Nat → Sg → Int → Int → Int → Option (Int × Sg)
  | 0, _, _, _, _ => none
  | n9 + 1, s, a1, a3, a4 => fX6_fitsAt_b19 (fX6_fitsAt_L19 n9) s a1 a3 a4
theorem wX6_fitsAt_L19 {N : Nx} {b : Nat} {ad : Nat → Nat} {s' : Sg} {h : hS} {r : Int} (E : EndX N [(6, b, ad)] 7 (some .boolean) (some (ti r)) [s'] h)  : ∀ (n9 : Nat), ∀ (s : Sg) (a1 : Int) (a3 : Int) (a4 : Int) (ha1 : rI a1) (ha3 : rI a3) (ha4 : rI a4), fX6_fitsAt_L19 n9 s a1 a3 a4 = some (r, s') → AtPc cX6_fitsAt RX6 1 24 N [s] h 19 [(0, tr (some b)), (1, ti a1), (3, ti a3), (4, ti a4)] [] := by
  intro n9
  induction n9 with
  | zero => intro s a1 a3 a4 ha1 ha3 ha4 e; cases e
  | succ n9 ih => intro s a1 a3 a4 ha1 ha3 ha4 e; exact wX6_fitsAt_b19 E _ ih s a1 a3 a4 ha1 ha3 ha4 e
def fX6_fitsAt  (s : Sg) (a1 : Int) (a2 : Int) : Option (Int × Sg) := fX6_fitsAt_L19 FU (sA (sA s 35 0 (-1)) 35 1 (-1)) a1 a2 0
theorem kX6_fitsAt {G : Gx}  {b : Nat} {ad : Nat → Nat} {s' : Sg} {h : hS} {r : Int} {s : Sg} {a1 : Int} {a2 : Int}  (ha1 : rI a1) (ha2 : rI a2) (e : fX6_fitsAt s a1 a2 = some (r, s')) : CtX G yX6_fitsAt cX6_fitsAt 7 (some .boolean) 1 24 [(6, b, ad)] [s] h [tr (some b), ti a1, ti a2] (some (ti r)) [s'] h := by
  refine CtX.of (by decide) (Nat.le_of_ble_eq_true rfl) [(0, tr (some b)), (1, ti a1), (2, ti a2)] rfl ?_
  have E : EndX (G, 7, [(6, b, ad)], h, [s'], h, (some .boolean), (some (ti r)), yX6_fitsAt.name) [(6, b, ad)] 7 (some .boolean) (some (ti r)) [s'] h := ⟨rfl, rfl, rfl, rfl, rfl, rfl⟩
  unfold fX6_fitsAt at e
  refine r_rrs E.p (fun rr => ?_)
  refine r_aload_n dX6_fitsAt_0 rfl 0 rfl ?_
  refine r_sR E.p 35 fG_X6_86 (by decide) dX6_fitsAt_1 ?_
  refine r_iconst dX6_fitsAt_4 ?_
  refine r_iconst dX6_fitsAt_5 ?_
  refine r_saP E.p 35 rfl (by decide) (by decide) (by decide) (by decide) (by show rI _; decide) rfl dX6_fitsAt_6 ?_
  refine r_rrs E.p (fun rr1 => ?_)
  refine r_aload_n dX6_fitsAt_7 rfl 0 rfl ?_
  refine r_sR E.p 35 fG_X6_86 (by decide) dX6_fitsAt_8 ?_
  refine r_iconst dX6_fitsAt_11 ?_
  refine r_iconst dX6_fitsAt_12 ?_
  refine r_saP E.p 35 rfl (by decide) (by decide) (by decide) (by decide) (by show rI _; decide) rfl dX6_fitsAt_13 ?_
  refine r_rrs E.p (fun rr2 => ?_)
  refine r_iload_n dX6_fitsAt_14 rfl 2 rfl ?_
  refine r_istore_n (lv' := [(3, ti a2), (0, tr (some b)), (1, ti a1), (2, ti a2)]) dX6_fitsAt_15 rfl (E.lt (by decide)) rfl ?_
  refine r_iconst dX6_fitsAt_16 ?_
  refine r_istore (lv' := [(4, ti 0), (3, ti a2), (0, tr (some b)), (1, ti a1), (2, ti a2)]) dX6_fitsAt_17 (E.lt (by decide)) rfl ?_
  refine r_sub [2, 3, 1, 0] rfl ?_
  exact wX6_fitsAt_L19 E FU (sA (sA s 35 0 (-1)) 35 1 (-1)) a1 a2 0 ha1 ha2 (by decide) e
theorem fG_X6_217 : FldG RX6 217 [(6, 4)] := List.forall_mem_cons.mpr ⟨⟨RX6, TX6, 63, "DictProofModel", rfl, in_X6, by decide, q1409, Or.inl rfl⟩, fun _ h => absurd h List.not_mem_nil⟩
theorem fG_X6_37 : FldG RX6 37 [(6, 12)] := List.forall_mem_cons.mpr ⟨⟨RX6, TX6, 63, "DictProofModel", rfl, in_X6, by decide, q1417, Or.inl rfl⟩, fun _ h => absurd h List.not_mem_nil⟩
def fX6_laySpecial_b65 (K2 : Sg → Int → Option (Sg)) (K12 : Sg → Int → Int → Option (Sg)) (s : Sg) (a1 : Int) (a2 : Int) (k1 : Int) (k2 : Int) : Option (Sg) := gd (inb k1 36) (K12 (sA s 12 k1 k2) a1 (wr (a2 + 1)))
theorem wX6_laySpecial_b65 {N : Nx} {b : Nat} {ad : Nat → Nat} {s' : Sg} {h : hS} (E : EndX N [(6, b, ad)] 4 none none [s'] h) (K2 : Sg → Int → Option (Sg)) (hK2 : ∀ (s : Sg) (a1 : Int) (ha1 : rI a1), K2 s a1 = some (s') → AtPc cX6_laySpecial RX6 3 65 N [s] h 2 [(0, tr (some b)), (1, ti a1)] []) (K12 : Sg → Int → Int → Option (Sg)) (hK12 : ∀ (s : Sg) (a1 : Int) (a2 : Int) (ha1 : rI a1) (ha2 : rI a2), K12 s a1 a2 = some (s') → AtPc cX6_laySpecial RX6 3 65 N [s] h 12 [(0, tr (some b)), (1, ti a1), (2, ti a2)] []) (s : Sg) (a1 : Int) (a2 : Int) (k1 : Int) (k2 : Int) (ha1 : rI a1) (ha2 : rI a2) (hk1 : rI k1) (hk2 : rI k2) (e : fX6_laySpecial_b65 K2 K12 s a1 a2 k1 k2 = some (s')) : AtPc cX6_laySpecial RX6 3 65 N [s] h 65 [(0, tr (some b)), (1, ti a1), (2, ti a2)] [ti k2, ti k1, tr (some (ad 12))] := by
  unfold fX6_laySpecial_b65 at e
  refine r_rrs E.p (fun rr => ?_)
  obtain ⟨g1, e⟩ := gd_o e
  refine r_saP E.p 12 rfl (by decide) (by decide) hk1 g1 hk2 rfl dX6_laySpecial_65 ?_
  refine r_rrs E.p (fun rr2 => ?_)
  refine r_iinc (lv' := [(2, ti (wr (a2 + 1))), (0, tr (some b)), (1, ti a1)]) dX6_laySpecial_66 2 rfl (E.lt (by decide)) rfl ?_
  refine r_goto 12 dX6_laySpecial_69 (by decide) ?_
  refine r_sub [1, 2, 0] rfl ?_
  exact hK12 (sA s 12 k1 k2) a1 (wr (a2 + 1)) ha1 (wr_r _) e
def fX6_laySpecial_b64 (K2 : Sg → Int → Option (Sg)) (K12 : Sg → Int → Int → Option (Sg)) (s : Sg) (a1 : Int) (a2 : Int) (k1 : Int) : Option (Sg) := fX6_laySpecial_b65 K2 K12 s a1 a2 k1 0
theorem wX6_laySpecial_b64 {N : Nx} {b : Nat} {ad : Nat → Nat} {s' : Sg} {h : hS} (E : EndX N [(6, b, ad)] 4 none none [s'] h) (K2 : Sg → Int → Option (Sg)) (hK2 : ∀ (s : Sg) (a1 : Int) (ha1 : rI a1), K2 s a1 = some (s') → AtPc cX6_laySpecial RX6 3 65 N [s] h 2 [(0, tr (some b)), (1, ti a1)] []) (K12 : Sg → Int → Int → Option (Sg)) (hK12 : ∀ (s : Sg) (a1 : Int) (a2 : Int) (ha1 : rI a1) (ha2 : rI a2), K12 s a1 a2 = some (s') → AtPc cX6_laySpecial RX6 3 65 N [s] h 12 [(0, tr (some b)), (1, ti a1), (2, ti a2)] []) (s : Sg) (a1 : Int) (a2 : Int) (k1 : Int) (ha1 : rI a1) (ha2 : rI a2) (hk1 : rI k1) (e : fX6_laySpecial_b64 K2 K12 s a1 a2 k1 = some (s')) : AtPc cX6_laySpecial RX6 3 65 N [s] h 64 [(0, tr (some b)), (1, ti a1), (2, ti a2)] [ti k1, tr (some (ad 12))] := by
  unfold fX6_laySpecial_b64 at e
  refine r_rrs E.p (fun rr => ?_)
  refine r_iconst dX6_laySpecial_64 ?_
  exact wX6_laySpecial_b65 E K2 hK2 K12 hK12 s a1 a2 k1 0 ha1 ha2 hk1 (by decide) e
def fX6_laySpecial_b12 (K2 : Sg → Int → Option (Sg)) (K12 : Sg → Int → Int → Option (Sg)) (s : Sg) (a1 : Int) (a2 : Int) : Option (Sg) := if (gI s 4) ≤ a2 then K2 s (wr (a1 + 1)) else bd (fX6_layHead s a1) fun p2 => bd (fX6_fitsAt p2 a2 0) fun p7 => bd (fX6_layHead p7.2 a2) fun p12 => if p7.1 = 0 then fX6_laySpecial_b64 K2 K12 p12 a1 a2 (wr ((wr (6 * a1)) + a2)) else bd (fX6_fitsAt p12 a1 0) fun p18 => if ¬ p18.1 = 0 then fX6_laySpecial_b64 K2 K12 p18.2 a1 a2 (wr ((wr (6 * a1)) + a2)) else fX6_laySpecial_b65 K2 K12 p18.2 a1 a2 (wr ((wr (6 * a1)) + a2)) 1
theorem wX6_laySpecial_b12 {N : Nx} {b : Nat} {ad : Nat → Nat} {s' : Sg} {h : hS} (E : EndX N [(6, b, ad)] 4 none none [s'] h) (K2 : Sg → Int → Option (Sg)) (hK2 : ∀ (s : Sg) (a1 : Int) (ha1 : rI a1), K2 s a1 = some (s') → AtPc cX6_laySpecial RX6 3 65 N [s] h 2 [(0, tr (some b)), (1, ti a1)] []) (K12 : Sg → Int → Int → Option (Sg)) (hK12 : ∀ (s : Sg) (a1 : Int) (a2 : Int) (ha1 : rI a1) (ha2 : rI a2), K12 s a1 a2 = some (s') → AtPc cX6_laySpecial RX6 3 65 N [s] h 12 [(0, tr (some b)), (1, ti a1), (2, ti a2)] []) (s : Sg) (a1 : Int) (a2 : Int) (ha1 : rI a1) (ha2 : rI a2) (e : fX6_laySpecial_b12 K2 K12 s a1 a2 = some (s')) : AtPc cX6_laySpecial RX6 3 65 N [s] h 12 [(0, tr (some b)), (1, ti a1), (2, ti a2)] [] := by
  unfold fX6_laySpecial_b12 at e
  refine r_rrs E.p (fun rr => ?_)
  refine r_iload_n dX6_laySpecial_12 rfl 2 rfl ?_
  refine r_aload_n dX6_laySpecial_13 rfl 0 rfl ?_
  refine r_sI E.p 4 fG_X6_217 (by decide) dX6_laySpecial_14 ?_
  have eT := (r_ifo e).1
  have eF := (r_ifo e).2
  refine r_icmp_ge ha2 ((rr.mine rfl).i 4 (by decide) (by decide)) 72 dX6_laySpecial_17 (by decide) (fun c1 => ?_) (fun c1 => ?_)
  · have e := eT c1
    refine r_iinc (lv' := [(1, ti (wr (a1 + 1))), (0, tr (some b)), (2, ti a2)]) dX6_laySpecial_72 1 rfl (E.lt (by decide)) rfl ?_
    refine r_goto 2 dX6_laySpecial_75 (by decide) ?_
    refine r_sub [1, 0] rfl ?_
    exact hK2 s (wr (a1 + 1)) (wr_r _) e
  · have e := eF c1
    refine r_aload_n dX6_laySpecial_20 rfl 0 rfl ?_
    refine r_iload_n dX6_laySpecial_21 rfl 1 rfl ?_
    obtain ⟨p2, q3, e⟩ := bd_o e
    have k4 := kX6_layHead (G := nG N) (b := b) (ad := ad) (h := h) ha1 q3
    have z5 := (k4 rr).1.2.2.2
    refine r_callV (j := some 0) 1 [ti a1] (rec_sg (j := 0) (r := (RX6, TX6, 63)) rfl (by rw [E.p]; rfl)) rfl k4 (injO_1 E.p) (subO_1 E.p) getO_1 setO_1 (lw_V q1674 q1676 qs58 q123 q1677) (by decide +kernel) rfl (Nat.le_of_ble_eq_true rfl) (Nat.le_of_ble_eq_true rfl) rfl (Nat.le_of_ble_eq_true rfl) dX6_laySpecial_22 rfl ?_
    refine r_rrs E.p (fun rr6 => ?_)
    refine r_aload_n dX6_laySpecial_25 rfl 0 rfl ?_
    refine r_iload_n dX6_laySpecial_26 rfl 2 rfl ?_
    refine r_iconst dX6_laySpecial_27 ?_
    obtain ⟨p7, q8, e⟩ := bd_o e
    have k9 := kX6_fitsAt (G := nG N) (b := b) (ad := ad) (h := h) ha2 (by decide) q8
    have z10 := (k9 rr6).1.2.2.2
    refine r_callV (j := some 0) 2 [ti a2, ti 0] (rec_sg (j := 0) (r := (RX6, TX6, 63)) rfl (by rw [E.p]; rfl)) rfl k9 (injO_1 E.p) (subO_1 E.p) getO_1 setO_1 (lw_V q1682 q1684 qs60 q123 q1685) (by decide +kernel) rfl (Nat.le_of_ble_eq_true rfl) (Nat.le_of_ble_eq_true rfl) rfl (Nat.le_of_ble_eq_true rfl) dX6_laySpecial_28 rfl ?_
    refine r_rrs E.p (fun rr11 => ?_)
    refine r_istore_n (lv' := [(3, ti p7.1), (0, tr (some b)), (1, ti a1), (2, ti a2)]) dX6_laySpecial_31 rfl (E.lt (by decide)) rfl ?_
    refine r_aload_n dX6_laySpecial_32 rfl 1 rfl ?_
    refine r_iload_n dX6_laySpecial_33 rfl 3 rfl ?_
    obtain ⟨p12, q13, e⟩ := bd_o e
    have k14 := kX6_layHead (G := nG N) (b := b) (ad := ad) (h := h) ha2 q13
    have z15 := (k14 rr11).1.2.2.2
    refine r_callV (j := some 0) 1 [ti a2] (rec_sg (j := 0) (r := (RX6, TX6, 63)) rfl (by rw [E.p]; rfl)) rfl k14 (injO_1 E.p) (subO_1 E.p) getO_1 setO_1 (lw_V q1674 q1676 qs58 q123 q1677) (by decide +kernel) rfl (Nat.le_of_ble_eq_true rfl) (Nat.le_of_ble_eq_true rfl) rfl (Nat.le_of_ble_eq_true rfl) dX6_laySpecial_34 rfl ?_
    refine r_rrs E.p (fun rr16 => ?_)
    refine r_aload_n dX6_laySpecial_37 rfl 1 rfl ?_
    refine r_sR E.p 12 fG_X6_37 (by decide) dX6_laySpecial_38 ?_
    refine r_bipush dX6_laySpecial_41 (by decide) ?_
    refine r_iload_n dX6_laySpecial_43 rfl 2 rfl ?_
    refine r_imul dX6_laySpecial_44 ?_
    refine r_iload_n dX6_laySpecial_45 rfl 3 rfl ?_
    refine r_iadd dX6_laySpecial_46 ?_
    refine r_iload_n dX6_laySpecial_47 rfl 0 rfl ?_
    have eT := (r_ifo e).1
    have eF := (r_ifo e).2
    refine r_if_eq (rI_z z10) 64 dX6_laySpecial_48 (by decide) (fun c17 => ?_) (fun c17 => ?_)
    · have e := eT c17
      refine r_sub [1, 2, 3] rfl ?_
      exact wX6_laySpecial_b64 E K2 hK2 K12 hK12 p12 a1 a2 (wr ((wr (6 * a1)) + a2)) ha1 ha2 (wr_r _) e
    · have e := eF c17
      refine r_aload_n dX6_laySpecial_51 rfl 1 rfl ?_
      refine r_iload_n dX6_laySpecial_52 rfl 2 rfl ?_
      refine r_iconst dX6_laySpecial_53 ?_
      obtain ⟨p18, q19, e⟩ := bd_o e
      have k20 := kX6_fitsAt (G := nG N) (b := b) (ad := ad) (h := h) ha1 (by decide) q19
      have z21 := (k20 rr16).1.2.2.2
      refine r_callV (j := some 0) 2 [ti a1, ti 0] (rec_sg (j := 0) (r := (RX6, TX6, 63)) rfl (by rw [E.p]; rfl)) rfl k20 (injO_1 E.p) (subO_1 E.p) getO_1 setO_1 (lw_V q1682 q1684 qs60 q123 q1685) (by decide +kernel) rfl (Nat.le_of_ble_eq_true rfl) (Nat.le_of_ble_eq_true rfl) rfl (Nat.le_of_ble_eq_true rfl) dX6_laySpecial_54 rfl ?_
      refine r_rrs E.p (fun rr22 => ?_)
      have eT := (r_ifo e).1
      have eF := (r_ifo e).2
      refine r_if_ne (rI_z z21) 64 dX6_laySpecial_57 (by decide) (fun c23 => ?_) (fun c23 => ?_)
      · have e := eT c23
        refine r_sub [1, 2, 3] rfl ?_
        exact wX6_laySpecial_b64 E K2 hK2 K12 hK12 p18.2 a1 a2 (wr ((wr (6 * a1)) + a2)) ha1 ha2 (wr_r _) e
      · have e := eF c23
        refine r_iconst dX6_laySpecial_60 ?_
        refine r_goto 65 dX6_laySpecial_61 (by decide) ?_
        refine r_sub [1, 2, 3] rfl ?_
        exact wX6_laySpecial_b65 E K2 hK2 K12 hK12 p18.2 a1 a2 (wr ((wr (6 * a1)) + a2)) 1 ha1 ha2 (wr_r _) (by decide) e
def fX6_laySpecial_L12 (K2 : Sg → Int → Option (Sg)) : Nat → Sg → Int → Int → Option (Sg)
  | 0, _, _, _ => none
  | n9 + 1, s, a1, a2 => fX6_laySpecial_b12 K2 (fX6_laySpecial_L12 K2 n9) s a1 a2
theorem wX6_laySpecial_L12 {N : Nx} {b : Nat} {ad : Nat → Nat} {s' : Sg} {h : hS} (E : EndX N [(6, b, ad)] 4 none none [s'] h) (K2 : Sg → Int → Option (Sg)) (hK2 : ∀ (s : Sg) (a1 : Int) (ha1 : rI a1), K2 s a1 = some (s') → AtPc cX6_laySpecial RX6 3 65 N [s] h 2 [(0, tr (some b)), (1, ti a1)] []) : ∀ (n9 : Nat), ∀ (s : Sg) (a1 : Int) (a2 : Int) (ha1 : rI a1) (ha2 : rI a2), fX6_laySpecial_L12 K2 n9 s a1 a2 = some (s') → AtPc cX6_laySpecial RX6 3 65 N [s] h 12 [(0, tr (some b)), (1, ti a1), (2, ti a2)] [] := by
  intro n9
  induction n9 with
  | zero => intro s a1 a2 ha1 ha2 e; cases e
  | succ n9 ih => intro s a1 a2 ha1 ha2 e; exact wX6_laySpecial_b12 E K2 hK2 _ ih s a1 a2 ha1 ha2 e
def fX6_laySpecial_b2 (K2 : Sg → Int → Option (Sg)) (s : Sg) (a1 : Int) : Option (Sg) := if (gI s 4) ≤ a1 then some s else fX6_laySpecial_L12 K2 FU s a1 0
theorem wX6_laySpecial_b2 {N : Nx} {b : Nat} {ad : Nat → Nat} {s' : Sg} {h : hS} (E : EndX N [(6, b, ad)] 4 none none [s'] h) (K2 : Sg → Int → Option (Sg)) (hK2 : ∀ (s : Sg) (a1 : Int) (ha1 : rI a1), K2 s a1 = some (s') → AtPc cX6_laySpecial RX6 3 65 N [s] h 2 [(0, tr (some b)), (1, ti a1)] []) (s : Sg) (a1 : Int) (ha1 : rI a1) (e : fX6_laySpecial_b2 K2 s a1 = some (s')) : AtPc cX6_laySpecial RX6 3 65 N [s] h 2 [(0, tr (some b)), (1, ti a1)] [] := by
  unfold fX6_laySpecial_b2 at e
  refine r_rrs E.p (fun rr => ?_)
  refine r_iload_n dX6_laySpecial_2 rfl 1 rfl ?_
  refine r_aload_n dX6_laySpecial_3 rfl 0 rfl ?_
  refine r_sI E.p 4 fG_X6_217 (by decide) dX6_laySpecial_4 ?_
  have eT := (r_ifo e).1
  have eF := (r_ifo e).2
  refine r_icmp_ge ha1 ((rr.mine rfl).i 4 (by decide) (by decide)) 78 dX6_laySpecial_7 (by decide) (fun c1 => ?_) (fun c1 => ?_)
  · have e := eT c1
    cases e
    exact r_vret E.σ E.st E.rt E.r dX6_laySpecial_78
  · have e := eF c1
    refine r_iconst dX6_laySpecial_10 ?_
    refine r_istore_n (lv' := [(2, ti 0), (0, tr (some b)), (1, ti a1)]) dX6_laySpecial_11 rfl (E.lt (by decide)) rfl ?_
    refine r_sub [1, 2, 0] rfl ?_
    exact wX6_laySpecial_L12 E K2 hK2 FU s a1 0 ha1 (by decide) e
def fX6_laySpecial_L2  : Nat → Sg → Int → Option (Sg)
  | 0, _, _ => none
  | n9 + 1, s, a1 => fX6_laySpecial_b2 (fX6_laySpecial_L2 n9) s a1
theorem wX6_laySpecial_L2 {N : Nx} {b : Nat} {ad : Nat → Nat} {s' : Sg} {h : hS} (E : EndX N [(6, b, ad)] 4 none none [s'] h)  : ∀ (n9 : Nat), ∀ (s : Sg) (a1 : Int) (ha1 : rI a1), fX6_laySpecial_L2 n9 s a1 = some (s') → AtPc cX6_laySpecial RX6 3 65 N [s] h 2 [(0, tr (some b)), (1, ti a1)] [] := by
  intro n9
  induction n9 with
  | zero => intro s a1 ha1 e; cases e
  | succ n9 ih => intro s a1 ha1 e; exact wX6_laySpecial_b2 E _ ih s a1 ha1 e
def fX6_laySpecial  (s : Sg) : Option (Sg) := fX6_laySpecial_L2 FU s 0
theorem kX6_laySpecial {G : Gx}  {b : Nat} {ad : Nat → Nat} {s' : Sg} {h : hS} {s : Sg}    (e : fX6_laySpecial s = some (s')) : CtX G yX6_laySpecial cX6_laySpecial 4 none 3 65 [(6, b, ad)] [s] h [tr (some b)] none [s'] h := by
  refine CtX.of (by decide) (Nat.le_of_ble_eq_true rfl) [(0, tr (some b))] rfl ?_
  have E : EndX (G, 4, [(6, b, ad)], h, [s'], h, none, none, yX6_laySpecial.name) [(6, b, ad)] 4 none none [s'] h := ⟨rfl, rfl, rfl, rfl, rfl, rfl⟩
  unfold fX6_laySpecial at e
  refine r_rrs E.p (fun rr => ?_)
  refine r_iconst dX6_laySpecial_0 ?_
  refine r_istore_n (lv' := [(1, ti 0), (0, tr (some b))]) dX6_laySpecial_1 rfl (E.lt (by decide)) rfl ?_
  refine r_sub [1, 0] rfl ?_
  exact wX6_laySpecial_L2 E FU s 0 (by decide) e
theorem fG_X6_198 : FldG RX6 198 [(6, 21)] := List.forall_mem_cons.mpr ⟨⟨RX6, TX6, 63, "DictProofModel", rfl, in_X6, by decide, q1426, Or.inl rfl⟩, fun _ h => absurd h List.not_mem_nil⟩
theorem fP_X6_211 : FldP RX6 211 [(6, 1)] .int false := List.forall_mem_cons.mpr ⟨⟨RX6, TX6, 63, "DictProofModel", tyX6, rfl, in_X6, by decide, q1406, Or.inl rfl, tyX6_ok, nmX6, rfl, Or.inl rfl, by decide⟩, fun _ h => absurd h List.not_mem_nil⟩
theorem fG_X6_211 : FldG RX6 211 [(6, 1)] := List.forall_mem_cons.mpr ⟨⟨RX6, TX6, 63, "DictProofModel", rfl, in_X6, by decide, q1406, Or.inl rfl⟩, fun _ h => absurd h List.not_mem_nil⟩
theorem fP_X6_217 : FldP RX6 217 [(6, 4)] .int false := List.forall_mem_cons.mpr ⟨⟨RX6, TX6, 63, "DictProofModel", tyX6, rfl, in_X6, by decide, q1409, Or.inl rfl, tyX6_ok, nmX6, rfl, Or.inl rfl, by decide⟩, fun _ h => absurd h List.not_mem_nil⟩
theorem fG_X6_7 : FldG RX6 7 [(6, 2)] := List.forall_mem_cons.mpr ⟨⟨RX6, TX6, 63, "DictProofModel", rfl, in_X6, by decide, q1407, Or.inl rfl⟩, fun _ h => absurd h List.not_mem_nil⟩
theorem fG_X6_13 : FldG RX6 13 [(6, 3)] := List.forall_mem_cons.mpr ⟨⟨RX6, TX6, 63, "DictProofModel", rfl, in_X6, by decide, q1408, Or.inl rfl⟩, fun _ h => absurd h List.not_mem_nil⟩
theorem fG_X6_227 : FldG RX6 227 [(6, 0)] := List.forall_mem_cons.mpr ⟨⟨RX6, TX6, 63, "DictProofModel", rfl, in_X6, by decide, q1405, Or.inl rfl⟩, fun _ h => absurd h List.not_mem_nil⟩
theorem fP_X6_227 : FldP RX6 227 [(6, 0)] .int false := List.forall_mem_cons.mpr ⟨⟨RX6, TX6, 63, "DictProofModel", tyX6, rfl, in_X6, by decide, q1405, Or.inl rfl, tyX6_ok, nmX6, rfl, Or.inl rfl, by decide⟩, fun _ h => absurd h List.not_mem_nil⟩
theorem fP_X6_230 : FldP RX6 230 [(6, 15)] .int false := List.forall_mem_cons.mpr ⟨⟨RX6, TX6, 63, "DictProofModel", tyX6, rfl, in_X6, by decide, q1420, Or.inl rfl, tyX6_ok, nmX6, rfl, Or.inl rfl, by decide⟩, fun _ h => absurd h List.not_mem_nil⟩
theorem fG_X6_43 : FldG RX6 43 [(6, 14)] := List.forall_mem_cons.mpr ⟨⟨RX6, TX6, 63, "DictProofModel", rfl, in_X6, by decide, q1419, Or.inl rfl⟩, fun _ h => absurd h List.not_mem_nil⟩
def fX6_book_b94 (K25 : Sg → Int → Option (Int × Sg)) (K59 : Sg → Int → Int → Option (Int × Sg)) (s : Sg) (a1 : Int) (a2 : Int) (k1 : Int) (k2 : Int) (k3 : Int) : Option (Int × Sg) := gd (inb k1 4) (K59 (sA s 3 k1 (ior k2 k3)) a1 (wr (a2 + 1)))
theorem wX6_book_b94 {N : Nx} {b : Nat} {ad : Nat → Nat} {s' : Sg} {h : hS} {r : Int} (E : EndX N [(6, b, ad)] 3 (some .int) (some (ti r)) [s'] h) (K25 : Sg → Int → Option (Int × Sg)) (hK25 : ∀ (s : Sg) (a1 : Int) (ha1 : rI a1), K25 s a1 = some (r, s') → AtPc cX6_book RX6 5 113 N [s] h 25 [(0, tr (some b)), (1, ti a1)] []) (K59 : Sg → Int → Int → Option (Int × Sg)) (hK59 : ∀ (s : Sg) (a1 : Int) (a2 : Int) (ha1 : rI a1) (ha2 : rI a2), K59 s a1 a2 = some (r, s') → AtPc cX6_book RX6 5 113 N [s] h 59 [(0, tr (some b)), (1, ti a1), (2, ti a2)] []) (s : Sg) (a1 : Int) (a2 : Int) (k1 : Int) (k2 : Int) (k3 : Int) (ha1 : rI a1) (ha2 : rI a2) (hk1 : rI k1) (hk2 : rI k2) (hk3 : rI k3) (e : fX6_book_b94 K25 K59 s a1 a2 k1 k2 k3 = some (r, s')) : AtPc cX6_book RX6 5 113 N [s] h 94 [(0, tr (some b)), (1, ti a1), (2, ti a2)] [ti k3, ti k2, ti k1, tr (some (ad 3))] := by
  unfold fX6_book_b94 at e
  refine r_rrs E.p (fun rr => ?_)
  refine r_ior dX6_book_94 ?_
  obtain ⟨g1, e⟩ := gd_o e
  refine r_saP E.p 3 rfl (by decide) (by decide) hk1 g1 (ior_r _ _) rfl dX6_book_95 ?_
  refine r_rrs E.p (fun rr2 => ?_)
  refine r_iinc (lv' := [(2, ti (wr (a2 + 1))), (0, tr (some b)), (1, ti a1)]) dX6_book_96 2 rfl (E.lt (by decide)) rfl ?_
  refine r_goto 59 dX6_book_99 (by decide) ?_
  refine r_sub [1, 2, 0] rfl ?_
  exact hK59 (sA s 3 k1 (ior k2 k3)) a1 (wr (a2 + 1)) ha1 (wr_r _) e
def fX6_book_b59 (K25 : Sg → Int → Option (Int × Sg)) (K59 : Sg → Int → Int → Option (Int × Sg)) (s : Sg) (a1 : Int) (a2 : Int) : Option (Int × Sg) := if a1 ≤ a2 then K25 s (wr (a1 + 1)) else gd (inb a1 4) (gd (inb a1 4) (bd (fX6_isIn (gA s 25 a1) a2) fun p4 => if p4 = 0 then fX6_book_b94 K25 K59 s a1 a2 a1 (gA s 3 a1) 0 else gd (inb a2 4) (fX6_book_b94 K25 K59 s a1 a2 a1 (gA s 3 a1) (gA s 3 a2))))
theorem wX6_book_b59 {N : Nx} {b : Nat} {ad : Nat → Nat} {s' : Sg} {h : hS} {r : Int} (E : EndX N [(6, b, ad)] 3 (some .int) (some (ti r)) [s'] h) (K25 : Sg → Int → Option (Int × Sg)) (hK25 : ∀ (s : Sg) (a1 : Int) (ha1 : rI a1), K25 s a1 = some (r, s') → AtPc cX6_book RX6 5 113 N [s] h 25 [(0, tr (some b)), (1, ti a1)] []) (K59 : Sg → Int → Int → Option (Int × Sg)) (hK59 : ∀ (s : Sg) (a1 : Int) (a2 : Int) (ha1 : rI a1) (ha2 : rI a2), K59 s a1 a2 = some (r, s') → AtPc cX6_book RX6 5 113 N [s] h 59 [(0, tr (some b)), (1, ti a1), (2, ti a2)] []) (s : Sg) (a1 : Int) (a2 : Int) (ha1 : rI a1) (ha2 : rI a2) (e : fX6_book_b59 K25 K59 s a1 a2 = some (r, s')) : AtPc cX6_book RX6 5 113 N [s] h 59 [(0, tr (some b)), (1, ti a1), (2, ti a2)] [] := by
  unfold fX6_book_b59 at e
  refine r_rrs E.p (fun rr => ?_)
  refine r_iload_n dX6_book_59 rfl 2 rfl ?_
  refine r_iload_n dX6_book_60 rfl 1 rfl ?_
  have eT := (r_ifo e).1
  have eF := (r_ifo e).2
  refine r_icmp_ge ha2 ha1 102 dX6_book_61 (by decide) (fun c1 => ?_) (fun c1 => ?_)
  · have e := eT c1
    refine r_iinc (lv' := [(1, ti (wr (a1 + 1))), (0, tr (some b)), (2, ti a2)]) dX6_book_102 1 rfl (E.lt (by decide)) rfl ?_
    refine r_goto 25 dX6_book_105 (by decide) ?_
    refine r_sub [1, 0] rfl ?_
    exact hK25 s (wr (a1 + 1)) (wr_r _) e
  · have e := eF c1
    refine r_aload_n dX6_book_64 rfl 0 rfl ?_
    refine r_sR E.p 3 fG_X6_13 (by decide) dX6_book_65 ?_
    refine r_iload_n dX6_book_68 rfl 1 rfl ?_
    refine r_dup2 dX6_book_69 rfl rfl ?_
    obtain ⟨g2, e⟩ := gd_o e
    refine r_saI E.p 3 rfl (by decide) (by decide) ha1 g2 rfl dX6_book_70 ?_
    refine r_aload_n dX6_book_71 rfl 0 rfl ?_
    refine r_sR E.p 25 fG_X6_59 (by decide) dX6_book_72 ?_
    refine r_iload_n dX6_book_75 rfl 1 rfl ?_
    obtain ⟨g3, e⟩ := gd_o e
    refine r_saI E.p 25 rfl (by decide) (by decide) ha1 g3 rfl dX6_book_76 ?_
    refine r_iload_n dX6_book_77 rfl 2 rfl ?_
    obtain ⟨p4, q5, e⟩ := bd_o e
    have k6 := kX6_isIn (G := nG N) (h := h) (((rr.mine rfl).a 25 (by decide) rfl).1 _) ha2 q5
    have z7 := (k6 rr.none).1.2.2.2
    refine r_callS (j := none) 2 [ti (gA s 25 a1), ti a2] k6 (injO_1 E.p) subO_0 getO_0 setO_0 (lw_S q1663 q1664 q123 q1665) (by decide +kernel) rfl (Nat.le_of_ble_eq_true rfl) (Nat.le_of_ble_eq_true rfl) rfl (Nat.le_of_ble_eq_true rfl) dX6_book_78 rfl ?_
    have eT := (r_ifo e).1
    have eF := (r_ifo e).2
    refine r_if_eq (rI_z z7) 93 dX6_book_81 (by decide) (fun c8 => ?_) (fun c8 => ?_)
    · have e := eT c8
      refine r_iconst dX6_book_93 ?_
      exact wX6_book_b94 E K25 hK25 K59 hK59 s a1 a2 a1 (gA s 3 a1) 0 ha1 ha2 ha1 (((rr.mine rfl).a 3 (by decide) rfl).1 _) (by decide) e
    · have e := eF c8
      refine r_aload_n dX6_book_84 rfl 0 rfl ?_
      refine r_sR E.p 3 fG_X6_13 (by decide) dX6_book_85 ?_
      refine r_iload_n dX6_book_88 rfl 2 rfl ?_
      obtain ⟨g9, e⟩ := gd_o e
      refine r_saI E.p 3 rfl (by decide) (by decide) ha2 g9 rfl dX6_book_89 ?_
      refine r_goto 94 dX6_book_90 (by decide) ?_
      exact wX6_book_b94 E K25 hK25 K59 hK59 s a1 a2 a1 (gA s 3 a1) (gA s 3 a2) ha1 ha2 ha1 (((rr.mine rfl).a 3 (by decide) rfl).1 _) (((rr.mine rfl).a 3 (by decide) rfl).1 _) e
def fX6_book_L59 (K25 : Sg → Int → Option (Int × Sg)) : Nat → Sg → Int → Int → Option (Int × Sg)
  | 0, _, _, _ => none
  | n9 + 1, s, a1, a2 => fX6_book_b59 K25 (fX6_book_L59 K25 n9) s a1 a2
theorem wX6_book_L59 {N : Nx} {b : Nat} {ad : Nat → Nat} {s' : Sg} {h : hS} {r : Int} (E : EndX N [(6, b, ad)] 3 (some .int) (some (ti r)) [s'] h) (K25 : Sg → Int → Option (Int × Sg)) (hK25 : ∀ (s : Sg) (a1 : Int) (ha1 : rI a1), K25 s a1 = some (r, s') → AtPc cX6_book RX6 5 113 N [s] h 25 [(0, tr (some b)), (1, ti a1)] []) : ∀ (n9 : Nat), ∀ (s : Sg) (a1 : Int) (a2 : Int) (ha1 : rI a1) (ha2 : rI a2), fX6_book_L59 K25 n9 s a1 a2 = some (r, s') → AtPc cX6_book RX6 5 113 N [s] h 59 [(0, tr (some b)), (1, ti a1), (2, ti a2)] [] := by
  intro n9
  induction n9 with
  | zero => intro s a1 a2 ha1 ha2 e; cases e
  | succ n9 ih => intro s a1 a2 ha1 ha2 e; exact wX6_book_b59 E K25 hK25 _ ih s a1 a2 ha1 ha2 e
def fX6_book_b143 (K143 : Sg → Int → Option (Int × Sg)) (s : Sg) (a1 : Int) : Option (Int × Sg) := if 4 ≤ a1 then some (gI (sI (sI (sI s 0 (wr ((gI s 0) + 1))) 15 0) 19 0) 4, sI (sI (sI s 0 (wr ((gI s 0) + 1))) 15 0) 19 0) else gd (inb a1 4) (K143 (sA s 14 a1 0) (wr (a1 + 1)))
theorem wX6_book_b143 {N : Nx} {b : Nat} {ad : Nat → Nat} {s' : Sg} {h : hS} {r : Int} (E : EndX N [(6, b, ad)] 3 (some .int) (some (ti r)) [s'] h) (K143 : Sg → Int → Option (Int × Sg)) (hK143 : ∀ (s : Sg) (a1 : Int) (ha1 : rI a1), K143 s a1 = some (r, s') → AtPc cX6_book RX6 5 113 N [s] h 143 [(0, tr (some b)), (1, ti a1)] []) (s : Sg) (a1 : Int) (ha1 : rI a1) (e : fX6_book_b143 K143 s a1 = some (r, s')) : AtPc cX6_book RX6 5 113 N [s] h 143 [(0, tr (some b)), (1, ti a1)] [] := by
  unfold fX6_book_b143 at e
  refine r_rrs E.p (fun rr => ?_)
  refine r_iload_n dX6_book_143 rfl 1 rfl ?_
  refine r_iconst dX6_book_144 ?_
  have eT := (r_ifo e).1
  have eF := (r_ifo e).2
  refine r_icmp_ge ha1 (by decide) 161 dX6_book_145 (by decide) (fun c1 => ?_) (fun c1 => ?_)
  · have e := eT c1
    refine r_aload_n dX6_book_161 rfl 0 rfl ?_
    refine r_dup dX6_book_162 rfl ?_
    refine r_sI E.p 0 fG_X6_227 (by decide) dX6_book_163 ?_
    refine r_iconst dX6_book_166 ?_
    refine r_iadd dX6_book_167 ?_
    refine r_sPI E.p 0 fP_X6_227 rfl (wr_r _) dX6_book_168 ?_
    refine r_rrs E.p (fun rr2 => ?_)
    refine r_aload_n dX6_book_171 rfl 0 rfl ?_
    refine r_iconst dX6_book_172 ?_
    refine r_sPI E.p 15 fP_X6_230 rfl (by decide) dX6_book_173 ?_
    refine r_rrs E.p (fun rr3 => ?_)
    refine r_aload_n dX6_book_176 rfl 0 rfl ?_
    refine r_iconst dX6_book_177 ?_
    refine r_sPI E.p 19 fP_X6_150 rfl (by decide) dX6_book_178 ?_
    refine r_rrs E.p (fun rr4 => ?_)
    refine r_aload_n dX6_book_181 rfl 0 rfl ?_
    refine r_sI E.p 4 fG_X6_217 (by decide) dX6_book_182 ?_
    cases e
    exact r_iret E.σ E.st E.rt E.r ((rr4.mine rfl).i 4 (by decide) (by decide)) dX6_book_185
  · have e := eF c1
    refine r_aload_n dX6_book_148 rfl 0 rfl ?_
    refine r_sR E.p 14 fG_X6_43 (by decide) dX6_book_149 ?_
    refine r_iload_n dX6_book_152 rfl 1 rfl ?_
    refine r_iconst dX6_book_153 ?_
    obtain ⟨g5, e⟩ := gd_o e
    refine r_saP E.p 14 rfl (by decide) (by decide) ha1 g5 (by show rI _; decide) rfl dX6_book_154 ?_
    refine r_rrs E.p (fun rr6 => ?_)
    refine r_iinc (lv' := [(1, ti (wr (a1 + 1))), (0, tr (some b))]) dX6_book_155 1 rfl (E.lt (by decide)) rfl ?_
    refine r_goto 143 dX6_book_158 (by decide) ?_
    refine r_sub [1, 0] rfl ?_
    exact hK143 (sA s 14 a1 0) (wr (a1 + 1)) (wr_r _) e
def fX6_book_L143  : Nat → Sg → Int → Option (Int × Sg)
  | 0, _, _ => none
  | n9 + 1, s, a1 => fX6_book_b143 (fX6_book_L143 n9) s a1
theorem wX6_book_L143 {N : Nx} {b : Nat} {ad : Nat → Nat} {s' : Sg} {h : hS} {r : Int} (E : EndX N [(6, b, ad)] 3 (some .int) (some (ti r)) [s'] h)  : ∀ (n9 : Nat), ∀ (s : Sg) (a1 : Int) (ha1 : rI a1), fX6_book_L143 n9 s a1 = some (r, s') → AtPc cX6_book RX6 5 113 N [s] h 143 [(0, tr (some b)), (1, ti a1)] [] := by
  intro n9
  induction n9 with
  | zero => intro s a1 ha1 e; cases e
  | succ n9 ih => intro s a1 ha1 e; exact wX6_book_b143 E _ ih s a1 ha1 e
def fX6_book_b118 (K118 : Sg → Int → Option (Int × Sg)) (s : Sg) (a1 : Int) : Option (Int × Sg) := if (gI s 4) ≤ a1 then bd (fX6_laySpecial s) fun p2 => fX6_book_L143 FU p2 0 else bd (fX6_takeInstance s a1) fun p7 => K118 p7 (wr (a1 + 1))
theorem wX6_book_b118 {N : Nx} {b : Nat} {ad : Nat → Nat} {s' : Sg} {h : hS} {r : Int} (E : EndX N [(6, b, ad)] 3 (some .int) (some (ti r)) [s'] h) (K118 : Sg → Int → Option (Int × Sg)) (hK118 : ∀ (s : Sg) (a1 : Int) (ha1 : rI a1), K118 s a1 = some (r, s') → AtPc cX6_book RX6 5 113 N [s] h 118 [(0, tr (some b)), (1, ti a1)] []) (s : Sg) (a1 : Int) (ha1 : rI a1) (e : fX6_book_b118 K118 s a1 = some (r, s')) : AtPc cX6_book RX6 5 113 N [s] h 118 [(0, tr (some b)), (1, ti a1)] [] := by
  unfold fX6_book_b118 at e
  refine r_rrs E.p (fun rr => ?_)
  refine r_iload_n dX6_book_118 rfl 1 rfl ?_
  refine r_aload_n dX6_book_119 rfl 0 rfl ?_
  refine r_sI E.p 4 fG_X6_217 (by decide) dX6_book_120 ?_
  have eT := (r_ifo e).1
  have eF := (r_ifo e).2
  refine r_icmp_ge ha1 ((rr.mine rfl).i 4 (by decide) (by decide)) 137 dX6_book_123 (by decide) (fun c1 => ?_) (fun c1 => ?_)
  · have e := eT c1
    refine r_aload_n dX6_book_137 rfl 0 rfl ?_
    obtain ⟨p2, q3, e⟩ := bd_o e
    have k4 := kX6_laySpecial (G := nG N) (b := b) (ad := ad) (h := h)  q3
    have z5 := (k4 rr).1.2.2.2
    refine r_callV (j := some 0) 0 [] (rec_sg (j := 0) (r := (RX6, TX6, 63)) rfl (by rw [E.p]; rfl)) rfl k4 (injO_1 E.p) (subO_1 E.p) getO_1 setO_1 (lw_V q1670 q1672 qs57 q123 q1673) (by decide +kernel) rfl (Nat.le_of_ble_eq_true rfl) (Nat.le_of_ble_eq_true rfl) rfl (Nat.le_of_ble_eq_true rfl) dX6_book_138 rfl ?_
    refine r_rrs E.p (fun rr6 => ?_)
    refine r_iconst dX6_book_141 ?_
    refine r_istore_n (lv' := [(1, ti 0), (0, tr (some b))]) dX6_book_142 rfl (E.lt (by decide)) rfl ?_
    refine r_sub [1, 0] rfl ?_
    exact wX6_book_L143 E FU p2 0 (by decide) e
  · have e := eF c1
    refine r_aload_n dX6_book_126 rfl 0 rfl ?_
    refine r_iload_n dX6_book_127 rfl 1 rfl ?_
    obtain ⟨p7, q8, e⟩ := bd_o e
    have k9 := kX6_takeInstance (G := nG N) (b := b) (ad := ad) (h := h) ha1 q8
    have z10 := (k9 rr).1.2.2.2
    refine r_callV (j := some 0) 1 [ti a1] (rec_sg (j := 0) (r := (RX6, TX6, 63)) rfl (by rw [E.p]; rfl)) rfl k9 (injO_1 E.p) (subO_1 E.p) getO_1 setO_1 (lw_V q1666 q1668 qs56 q123 q1669) (by decide +kernel) rfl (Nat.le_of_ble_eq_true rfl) (Nat.le_of_ble_eq_true rfl) rfl (Nat.le_of_ble_eq_true rfl) dX6_book_128 rfl ?_
    refine r_rrs E.p (fun rr11 => ?_)
    refine r_iinc (lv' := [(1, ti (wr (a1 + 1))), (0, tr (some b))]) dX6_book_131 1 rfl (E.lt (by decide)) rfl ?_
    refine r_goto 118 dX6_book_134 (by decide) ?_
    refine r_sub [1, 0] rfl ?_
    exact hK118 p7 (wr (a1 + 1)) (wr_r _) e
def fX6_book_L118  : Nat → Sg → Int → Option (Int × Sg)
  | 0, _, _ => none
  | n9 + 1, s, a1 => fX6_book_b118 (fX6_book_L118 n9) s a1
theorem wX6_book_L118 {N : Nx} {b : Nat} {ad : Nat → Nat} {s' : Sg} {h : hS} {r : Int} (E : EndX N [(6, b, ad)] 3 (some .int) (some (ti r)) [s'] h)  : ∀ (n9 : Nat), ∀ (s : Sg) (a1 : Int) (ha1 : rI a1), fX6_book_L118 n9 s a1 = some (r, s') → AtPc cX6_book RX6 5 113 N [s] h 118 [(0, tr (some b)), (1, ti a1)] [] := by
  intro n9
  induction n9 with
  | zero => intro s a1 ha1 e; cases e
  | succ n9 ih => intro s a1 ha1 e; exact wX6_book_b118 E _ ih s a1 ha1 e
def fX6_book_b25 (K25 : Sg → Int → Option (Int × Sg)) (s : Sg) (a1 : Int) : Option (Int × Sg) := if (gI s 1) ≤ a1 then fX6_book_L118 FU (sI s 4 (gI s 24)) 0 else gd (inb a1 4) (gd (inb a1 4) (gd (inb a1 4) (gd (inb a1 4) (fX6_book_L59 K25 FU (sA (sA s 2 a1 (gA s 25 a1)) 3 a1 (gA (sA s 2 a1 (gA s 25 a1)) 25 a1)) a1 0))))
theorem wX6_book_b25 {N : Nx} {b : Nat} {ad : Nat → Nat} {s' : Sg} {h : hS} {r : Int} (E : EndX N [(6, b, ad)] 3 (some .int) (some (ti r)) [s'] h) (K25 : Sg → Int → Option (Int × Sg)) (hK25 : ∀ (s : Sg) (a1 : Int) (ha1 : rI a1), K25 s a1 = some (r, s') → AtPc cX6_book RX6 5 113 N [s] h 25 [(0, tr (some b)), (1, ti a1)] []) (s : Sg) (a1 : Int) (ha1 : rI a1) (e : fX6_book_b25 K25 s a1 = some (r, s')) : AtPc cX6_book RX6 5 113 N [s] h 25 [(0, tr (some b)), (1, ti a1)] [] := by
  unfold fX6_book_b25 at e
  refine r_rrs E.p (fun rr => ?_)
  refine r_iload_n dX6_book_25 rfl 1 rfl ?_
  refine r_aload_n dX6_book_26 rfl 0 rfl ?_
  refine r_sI E.p 1 fG_X6_211 (by decide) dX6_book_27 ?_
  have eT := (r_ifo e).1
  have eF := (r_ifo e).2
  refine r_icmp_ge ha1 ((rr.mine rfl).i 1 (by decide) (by decide)) 108 dX6_book_30 (by decide) (fun c1 => ?_) (fun c1 => ?_)
  · have e := eT c1
    refine r_aload_n dX6_book_108 rfl 0 rfl ?_
    refine r_aload_n dX6_book_109 rfl 0 rfl ?_
    refine r_sI E.p 24 fG_X6_185 (by decide) dX6_book_110 ?_
    refine r_sPI E.p 4 fP_X6_217 rfl ((rr.mine rfl).i 24 (by decide) (by decide)) dX6_book_113 ?_
    refine r_rrs E.p (fun rr2 => ?_)
    refine r_iconst dX6_book_116 ?_
    refine r_istore_n (lv' := [(1, ti 0), (0, tr (some b))]) dX6_book_117 rfl (E.lt (by decide)) rfl ?_
    refine r_sub [1, 0] rfl ?_
    exact wX6_book_L118 E FU (sI s 4 (gI s 24)) 0 (by decide) e
  · have e := eF c1
    refine r_aload_n dX6_book_33 rfl 0 rfl ?_
    refine r_sR E.p 2 fG_X6_7 (by decide) dX6_book_34 ?_
    refine r_iload_n dX6_book_37 rfl 1 rfl ?_
    refine r_aload_n dX6_book_38 rfl 0 rfl ?_
    refine r_sR E.p 25 fG_X6_59 (by decide) dX6_book_39 ?_
    refine r_iload_n dX6_book_42 rfl 1 rfl ?_
    obtain ⟨g3, e⟩ := gd_o e
    refine r_saI E.p 25 rfl (by decide) (by decide) ha1 g3 rfl dX6_book_43 ?_
    obtain ⟨g4, e⟩ := gd_o e
    refine r_saP E.p 2 rfl (by decide) (by decide) ha1 g4 (((rr.mine rfl).a 25 (by decide) rfl).1 _) rfl dX6_book_44 ?_
    refine r_rrs E.p (fun rr5 => ?_)
    refine r_aload_n dX6_book_45 rfl 0 rfl ?_
    refine r_sR E.p 3 fG_X6_13 (by decide) dX6_book_46 ?_
    refine r_iload_n dX6_book_49 rfl 1 rfl ?_
    refine r_aload_n dX6_book_50 rfl 0 rfl ?_
    refine r_sR E.p 25 fG_X6_59 (by decide) dX6_book_51 ?_
    refine r_iload_n dX6_book_54 rfl 1 rfl ?_
    obtain ⟨g6, e⟩ := gd_o e
    refine r_saI E.p 25 rfl (by decide) (by decide) ha1 g6 rfl dX6_book_55 ?_
    obtain ⟨g7, e⟩ := gd_o e
    refine r_saP E.p 3 rfl (by decide) (by decide) ha1 g7 (((rr5.mine rfl).a 25 (by decide) rfl).1 _) rfl dX6_book_56 ?_
    refine r_rrs E.p (fun rr8 => ?_)
    refine r_iconst dX6_book_57 ?_
    refine r_istore_n (lv' := [(2, ti 0), (0, tr (some b)), (1, ti a1)]) dX6_book_58 rfl (E.lt (by decide)) rfl ?_
    refine r_sub [1, 2, 0] rfl ?_
    exact wX6_book_L59 E K25 hK25 FU (sA (sA s 2 a1 (gA s 25 a1)) 3 a1 (gA (sA s 2 a1 (gA s 25 a1)) 25 a1)) a1 0 ha1 (by decide) e
def fX6_book_L25  : Nat → Sg → Int → Option (Int × Sg)
  | 0, _, _ => none
  | n9 + 1, s, a1 => fX6_book_b25 (fX6_book_L25 n9) s a1
theorem wX6_book_L25 {N : Nx} {b : Nat} {ad : Nat → Nat} {s' : Sg} {h : hS} {r : Int} (E : EndX N [(6, b, ad)] 3 (some .int) (some (ti r)) [s'] h)  : ∀ (n9 : Nat), ∀ (s : Sg) (a1 : Int) (ha1 : rI a1), fX6_book_L25 n9 s a1 = some (r, s') → AtPc cX6_book RX6 5 113 N [s] h 25 [(0, tr (some b)), (1, ti a1)] [] := by
  intro n9
  induction n9 with
  | zero => intro s a1 ha1 e; cases e
  | succ n9 ih => intro s a1 ha1 e; exact wX6_book_b25 E _ ih s a1 ha1 e
def fX6_book  (s : Sg) : Option (Int × Sg) := bd (fX6_read s) fun p1 => if ¬ (gI p1.2 21) = 0 then fX6_book_L25 FU (sI p1.2 1 (gI p1.2 23)) 0 else some ((-103), p1.2)
theorem kX6_book {G : Gx}  {b : Nat} {ad : Nat → Nat} {s' : Sg} {h : hS} {r : Int} {s : Sg}    (e : fX6_book s = some (r, s')) : CtX G yX6_book cX6_book 3 (some .int) 5 113 [(6, b, ad)] [s] h [tr (some b)] (some (ti r)) [s'] h := by
  refine CtX.of (by decide) (Nat.le_of_ble_eq_true rfl) [(0, tr (some b))] rfl ?_
  have E : EndX (G, 3, [(6, b, ad)], h, [s'], h, (some .int), (some (ti r)), yX6_book.name) [(6, b, ad)] 3 (some .int) (some (ti r)) [s'] h := ⟨rfl, rfl, rfl, rfl, rfl, rfl⟩
  unfold fX6_book at e
  refine r_rrs E.p (fun rr => ?_)
  refine r_aload_n dX6_book_0 rfl 0 rfl ?_
  obtain ⟨p1, q2, e⟩ := bd_o e
  have k3 := kX6_read (G := G) (b := b) (ad := ad) (h := h)  q2
  have z4 := (k3 rr).1.2.2.2
  refine r_callV (j := some 0) 0 [] (rec_sg (j := 0) (r := (RX6, TX6, 63)) rfl (by rw [E.p]; rfl)) rfl k3 (injO_1 E.p) (subO_1 E.p) getO_1 setO_1 (lw_V q1610 q1612 qs46 q123 q1613) (by decide +kernel) rfl (Nat.le_of_ble_eq_true rfl) (Nat.le_of_ble_eq_true rfl) rfl (Nat.le_of_ble_eq_true rfl) dX6_book_1 rfl ?_
  refine r_rrs E.p (fun rr5 => ?_)
  refine r_pop dX6_book_4 rfl ?_
  refine r_aload_n dX6_book_5 rfl 0 rfl ?_
  refine r_sI E.p 21 fG_X6_198 (by decide) dX6_book_6 ?_
  have eT := (r_ifo e).1
  have eF := (r_ifo e).2
  refine r_if_ne ((rr5.mine rfl).i 21 (by decide) (by decide)) 15 dX6_book_9 (by decide) (fun c6 => ?_) (fun c6 => ?_)
  · have e := eT c6
    refine r_aload_n dX6_book_15 rfl 0 rfl ?_
    refine r_aload_n dX6_book_16 rfl 0 rfl ?_
    refine r_sI E.p 23 fG_X6_162 (by decide) dX6_book_17 ?_
    refine r_sPI E.p 1 fP_X6_211 rfl ((rr5.mine rfl).i 23 (by decide) (by decide)) dX6_book_20 ?_
    refine r_rrs E.p (fun rr7 => ?_)
    refine r_iconst dX6_book_23 ?_
    refine r_istore_n (lv' := [(1, ti 0), (0, tr (some b))]) dX6_book_24 rfl (E.lt (by decide)) rfl ?_
    refine r_sub [1, 0] rfl ?_
    exact wX6_book_L25 E FU (sI p1.2 1 (gI p1.2 23)) 0 (by decide) e
  · have e := eF c6
    refine r_bipush dX6_book_12 (by decide) ?_
    cases e
    exact r_iret E.σ E.st E.rt E.r (by decide) dX6_book_14
theorem fG_X6_40 : FldG RX6 40 [(6, 13)] := List.forall_mem_cons.mpr ⟨⟨RX6, TX6, 63, "DictProofModel", rfl, in_X6, by decide, q1418, Or.inl rfl⟩, fun _ h => absurd h List.not_mem_nil⟩
def fX6_type_b70 (s : Sg) : Option (Int × Sg) := some ((-103), s)
theorem wX6_type_b70 {N : Nx} {b : Nat} {ad : Nat → Nat} {s' : Sg} {h : hS} {r : Int} (E : EndX N [(6, b, ad)] 5 (some .int) (some (ti r)) [s'] h)  (s : Sg) (e : fX6_type_b70 s = some (r, s')) : AtPc cX6_type RX6 1 22 N [s] h 70 [] [] := by
  unfold fX6_type_b70 at e
  refine r_rrs E.p (fun rr => ?_)
  refine r_bipush dX6_type_70 (by decide) ?_
  cases e
  exact r_iret E.σ E.st E.rt E.r (by decide) dX6_type_72
def fX6_type_b85 (K85 : Sg → Int → Int → Int → Option (Int × Sg)) (s : Sg) (a1 : Int) (a3 : Int) (a4 : Int) : Option (Int × Sg) := if a3 ≤ a4 then gd (inb a1 4) (some (a3, sI (sA s 14 a1 a3) 19 0)) else bd (fX6_at s a4) fun p5 => gd (inb (wr ((wr (9 * a1)) + a4)) 36) (K85 (sA s 13 (wr ((wr (9 * a1)) + a4)) p5) a1 a3 (wr (a4 + 1)))
theorem wX6_type_b85 {N : Nx} {b : Nat} {ad : Nat → Nat} {s' : Sg} {h : hS} {r : Int} (E : EndX N [(6, b, ad)] 5 (some .int) (some (ti r)) [s'] h) (K85 : Sg → Int → Int → Int → Option (Int × Sg)) (hK85 : ∀ (s : Sg) (a1 : Int) (a3 : Int) (a4 : Int) (ha1 : rI a1) (ha3 : rI a3) (ha4 : rI a4), K85 s a1 a3 a4 = some (r, s') → AtPc cX6_type RX6 1 22 N [s] h 85 [(0, tr (some b)), (1, ti a1), (3, ti a3), (4, ti a4)] []) (s : Sg) (a1 : Int) (a3 : Int) (a4 : Int) (ha1 : rI a1) (ha3 : rI a3) (ha4 : rI a4) (e : fX6_type_b85 K85 s a1 a3 a4 = some (r, s')) : AtPc cX6_type RX6 1 22 N [s] h 85 [(0, tr (some b)), (1, ti a1), (3, ti a3), (4, ti a4)] [] := by
  unfold fX6_type_b85 at e
  refine r_rrs E.p (fun rr => ?_)
  refine r_iload dX6_type_85 3 rfl ?_
  refine r_iload_n dX6_type_87 rfl 2 rfl ?_
  have eT := (r_ifo e).1
  have eF := (r_ifo e).2
  refine r_icmp_ge ha4 ha3 115 dX6_type_88 (by decide) (fun c1 => ?_) (fun c1 => ?_)
  · have e := eT c1
    refine r_aload_n dX6_type_115 rfl 0 rfl ?_
    refine r_sR E.p 14 fG_X6_43 (by decide) dX6_type_116 ?_
    refine r_iload_n dX6_type_119 rfl 1 rfl ?_
    refine r_iload_n dX6_type_120 rfl 2 rfl ?_
    obtain ⟨g2, e⟩ := gd_o e
    refine r_saP E.p 14 rfl (by decide) (by decide) ha1 g2 ha3 rfl dX6_type_121 ?_
    refine r_rrs E.p (fun rr3 => ?_)
    refine r_aload_n dX6_type_122 rfl 0 rfl ?_
    refine r_iconst dX6_type_123 ?_
    refine r_sPI E.p 19 fP_X6_150 rfl (by decide) dX6_type_124 ?_
    refine r_rrs E.p (fun rr4 => ?_)
    refine r_iload_n dX6_type_127 rfl 2 rfl ?_
    cases e
    exact r_iret E.σ E.st E.rt E.r ha3 dX6_type_128
  · have e := eF c1
    refine r_aload_n dX6_type_91 rfl 0 rfl ?_
    refine r_sR E.p 13 fG_X6_40 (by decide) dX6_type_92 ?_
    refine r_bipush dX6_type_95 (by decide) ?_
    refine r_iload_n dX6_type_97 rfl 1 rfl ?_
    refine r_imul dX6_type_98 ?_
    refine r_iload dX6_type_99 3 rfl ?_
    refine r_iadd dX6_type_101 ?_
    refine r_aload_n dX6_type_102 rfl 0 rfl ?_
    refine r_iload dX6_type_103 3 rfl ?_
    obtain ⟨p5, q6, e⟩ := bd_o e
    have k7 := kX6_at (G := nG N) (b := b) (ad := ad) (h := h) ha4 q6
    have z8 := (k7 rr).1.2.2.2
    refine r_callV (j := some 0) 1 [ti a4] (rec_sg (j := 0) (r := (RX6, TX6, 63)) rfl (by rw [E.p]; rfl)) rfl k7 (injO_1 E.p) (subO_1 E.p) getO_1 setO_1 (lw_V q1622 q1624 qs49 q123 q1625) (by decide +kernel) rfl (Nat.le_of_ble_eq_true rfl) (Nat.le_of_ble_eq_true rfl) rfl (Nat.le_of_ble_eq_true rfl) dX6_type_105 rfl ?_
    obtain ⟨g9, e⟩ := gd_o e
    refine r_saP E.p 13 rfl (by decide) (by decide) (wr_r _) g9 z8 rfl dX6_type_108 ?_
    refine r_rrs E.p (fun rr10 => ?_)
    refine r_iinc (lv' := [(4, ti (wr (a4 + 1))), (0, tr (some b)), (1, ti a1), (3, ti a3)]) dX6_type_109 3 rfl (E.lt (by decide)) rfl ?_
    refine r_goto 85 dX6_type_112 (by decide) ?_
    refine r_sub [1, 2, 3, 0] rfl ?_
    exact hK85 (sA s 13 (wr ((wr (9 * a1)) + a4)) p5) a1 a3 (wr (a4 + 1)) ha1 ha3 (wr_r _) e
def fX6_type_L85  : Nat → Sg → Int → Int → Int → Option (Int × Sg)
  | 0, _, _, _, _ => none
  | n9 + 1, s, a1, a3, a4 => fX6_type_b85 (fX6_type_L85 n9) s a1 a3 a4
theorem wX6_type_L85 {N : Nx} {b : Nat} {ad : Nat → Nat} {s' : Sg} {h : hS} {r : Int} (E : EndX N [(6, b, ad)] 5 (some .int) (some (ti r)) [s'] h)  : ∀ (n9 : Nat), ∀ (s : Sg) (a1 : Int) (a3 : Int) (a4 : Int) (ha1 : rI a1) (ha3 : rI a3) (ha4 : rI a4), fX6_type_L85 n9 s a1 a3 a4 = some (r, s') → AtPc cX6_type RX6 1 22 N [s] h 85 [(0, tr (some b)), (1, ti a1), (3, ti a3), (4, ti a4)] [] := by
  intro n9
  induction n9 with
  | zero => intro s a1 a3 a4 ha1 ha3 ha4 e; cases e
  | succ n9 ih => intro s a1 a3 a4 ha1 ha3 ha4 e; exact wX6_type_b85 E _ ih s a1 a3 a4 ha1 ha3 ha4 e
def fX6_type_b51 (s : Sg) (a1 : Int) (a2 : Int) (a3 : Int) : Option (Int × Sg) := if (gI s 0) = 0 then fX6_type_b70 s else if 0 < a2 then fX6_type_b70 s else if a3 = (gI s 19) then if a3 ≤ 9 then fX6_type_L85 FU s a1 a3 0 else some ((-104), s) else fX6_type_b70 s
theorem wX6_type_b51 {N : Nx} {b : Nat} {ad : Nat → Nat} {s' : Sg} {h : hS} {r : Int} (E : EndX N [(6, b, ad)] 5 (some .int) (some (ti r)) [s'] h)  (s : Sg) (a1 : Int) (a2 : Int) (a3 : Int) (ha1 : rI a1) (ha2 : rI a2) (ha3 : rI a3) (e : fX6_type_b51 s a1 a2 a3 = some (r, s')) : AtPc cX6_type RX6 1 22 N [s] h 51 [(0, tr (some b)), (1, ti a1), (2, ti a2), (3, ti a3)] [] := by
  unfold fX6_type_b51 at e
  refine r_rrs E.p (fun rr => ?_)
  refine r_aload_n dX6_type_51 rfl 0 rfl ?_
  refine r_sI E.p 0 fG_X6_227 (by decide) dX6_type_52 ?_
  have eT := (r_ifo e).1
  have eF := (r_ifo e).2
  refine r_if_eq ((rr.mine rfl).i 0 (by decide) (by decide)) 70 dX6_type_55 (by decide) (fun c1 => ?_) (fun c1 => ?_)
  · have e := eT c1
    refine r_sub [] rfl ?_
    exact wX6_type_b70 E s e
  · have e := eF c1
    refine r_iload_n dX6_type_58 rfl 2 rfl ?_
    have eT := (r_ifo e).1
    have eF := (r_ifo e).2
    refine r_if_gt ha2 70 dX6_type_59 (by decide) (fun c2 => ?_) (fun c2 => ?_)
    · have e := eT c2
      refine r_sub [] rfl ?_
      exact wX6_type_b70 E s e
    · have e := eF c2
      refine r_iload_n dX6_type_62 rfl 3 rfl ?_
      refine r_aload_n dX6_type_63 rfl 0 rfl ?_
      refine r_sI E.p 19 fG_X6_150 (by decide) dX6_type_64 ?_
      have eT := (r_ifo e).1
      have eF := (r_ifo e).2
      refine r_icmp_eq ha3 ((rr.mine rfl).i 19 (by decide) (by decide)) 73 dX6_type_67 (by decide) (fun c3 => ?_) (fun c3 => ?_)
      · have e := eT c3
        refine r_iload_n dX6_type_73 rfl 3 rfl ?_
        refine r_bipush dX6_type_74 (by decide) ?_
        have eT := (r_ifo e).1
        have eF := (r_ifo e).2
        refine r_icmp_le ha3 (by decide) 82 dX6_type_76 (by decide) (fun c4 => ?_) (fun c4 => ?_)
        · have e := eT c4
          refine r_iconst dX6_type_82 ?_
          refine r_istore (lv' := [(4, ti 0), (0, tr (some b)), (1, ti a1), (2, ti a2), (3, ti a3)]) dX6_type_83 (E.lt (by decide)) rfl ?_
          refine r_sub [1, 2, 4, 0] rfl ?_
          exact wX6_type_L85 E FU s a1 a3 0 ha1 ha3 (by decide) e
        · have e := eF c4
          refine r_bipush dX6_type_79 (by decide) ?_
          cases e
          exact r_iret E.σ E.st E.rt E.r (by decide) dX6_type_81
      · have e := eF c3
        refine r_sub [] rfl ?_
        exact wX6_type_b70 E s e
def fX6_type_b16 (K16 : Sg → Int → Int → Int → Option (Int × Sg)) (s : Sg) (a1 : Int) (a2 : Int) (a3 : Int) : Option (Int × Sg) := if a2 ≤ 0 then fX6_type_b51 s a1 a2 a3 else bd (fX6_at s a3) fun p2 => bd (fX6_wants p2) fun p6 => if p6 = (-1) then fX6_type_b51 s a1 a2 a3 else bd (fX6_at s a3) fun p11 => bd (fX6_wants p11) fun p15 => K16 s a1 (wr (a2 + (wr (p15 - 1)))) (wr (a3 + 1))
theorem wX6_type_b16 {N : Nx} {b : Nat} {ad : Nat → Nat} {s' : Sg} {h : hS} {r : Int} (E : EndX N [(6, b, ad)] 5 (some .int) (some (ti r)) [s'] h) (K16 : Sg → Int → Int → Int → Option (Int × Sg)) (hK16 : ∀ (s : Sg) (a1 : Int) (a2 : Int) (a3 : Int) (ha1 : rI a1) (ha2 : rI a2) (ha3 : rI a3), K16 s a1 a2 a3 = some (r, s') → AtPc cX6_type RX6 1 22 N [s] h 16 [(0, tr (some b)), (1, ti a1), (2, ti a2), (3, ti a3)] []) (s : Sg) (a1 : Int) (a2 : Int) (a3 : Int) (ha1 : rI a1) (ha2 : rI a2) (ha3 : rI a3) (e : fX6_type_b16 K16 s a1 a2 a3 = some (r, s')) : AtPc cX6_type RX6 1 22 N [s] h 16 [(0, tr (some b)), (1, ti a1), (2, ti a2), (3, ti a3)] [] := by
  unfold fX6_type_b16 at e
  refine r_rrs E.p (fun rr => ?_)
  refine r_iload_n dX6_type_16 rfl 2 rfl ?_
  have eT := (r_ifo e).1
  have eF := (r_ifo e).2
  refine r_if_le ha2 51 dX6_type_17 (by decide) (fun c1 => ?_) (fun c1 => ?_)
  · have e := eT c1
    exact wX6_type_b51 E s a1 a2 a3 ha1 ha2 ha3 e
  · have e := eF c1
    refine r_aload_n dX6_type_20 rfl 0 rfl ?_
    refine r_iload_n dX6_type_21 rfl 3 rfl ?_
    obtain ⟨p2, q3, e⟩ := bd_o e
    have k4 := kX6_at (G := nG N) (b := b) (ad := ad) (h := h) ha3 q3
    have z5 := (k4 rr).1.2.2.2
    refine r_callV (j := some 0) 1 [ti a3] (rec_sg (j := 0) (r := (RX6, TX6, 63)) rfl (by rw [E.p]; rfl)) rfl k4 (injO_1 E.p) (subO_1 E.p) getO_1 setO_1 (lw_V q1622 q1624 qs49 q123 q1625) (by decide +kernel) rfl (Nat.le_of_ble_eq_true rfl) (Nat.le_of_ble_eq_true rfl) rfl (Nat.le_of_ble_eq_true rfl) dX6_type_22 rfl ?_
    obtain ⟨p6, q7, e⟩ := bd_o e
    have k8 := kX6_wants (G := nG N) (h := h) z5 q7
    have z9 := (k8 rr.none).1.2.2.2
    refine r_callS (j := none) 1 [ti p2] k8 (injO_1 E.p) subO_0 getO_0 setO_0 (lw_S q1645 q1646 q123 q1647) (by decide +kernel) rfl (Nat.le_of_ble_eq_true rfl) (Nat.le_of_ble_eq_true rfl) rfl (Nat.le_of_ble_eq_true rfl) dX6_type_25 rfl ?_
    refine r_iconst dX6_type_28 ?_
    have eT := (r_ifo e).1
    have eF := (r_ifo e).2
    refine r_icmp_eq z9 (by decide) 51 dX6_type_29 (by decide) (fun c10 => ?_) (fun c10 => ?_)
    · have e := eT c10
      exact wX6_type_b51 E s a1 a2 a3 ha1 ha2 ha3 e
    · have e := eF c10
      refine r_iload_n dX6_type_32 rfl 2 rfl ?_
      refine r_aload_n dX6_type_33 rfl 0 rfl ?_
      refine r_iload_n dX6_type_34 rfl 3 rfl ?_
      obtain ⟨p11, q12, e⟩ := bd_o e
      have k13 := kX6_at (G := nG N) (b := b) (ad := ad) (h := h) ha3 q12
      have z14 := (k13 rr).1.2.2.2
      refine r_callV (j := some 0) 1 [ti a3] (rec_sg (j := 0) (r := (RX6, TX6, 63)) rfl (by rw [E.p]; rfl)) rfl k13 (injO_1 E.p) (subO_1 E.p) getO_1 setO_1 (lw_V q1622 q1624 qs49 q123 q1625) (by decide +kernel) rfl (Nat.le_of_ble_eq_true rfl) (Nat.le_of_ble_eq_true rfl) rfl (Nat.le_of_ble_eq_true rfl) dX6_type_35 rfl ?_
      obtain ⟨p15, q16, e⟩ := bd_o e
      have k17 := kX6_wants (G := nG N) (h := h) z14 q16
      have z18 := (k17 rr.none).1.2.2.2
      refine r_callS (j := none) 1 [ti p11] k17 (injO_1 E.p) subO_0 getO_0 setO_0 (lw_S q1645 q1646 q123 q1647) (by decide +kernel) rfl (Nat.le_of_ble_eq_true rfl) (Nat.le_of_ble_eq_true rfl) rfl (Nat.le_of_ble_eq_true rfl) dX6_type_38 rfl ?_
      refine r_iconst dX6_type_41 ?_
      refine r_isub dX6_type_42 ?_
      refine r_iadd dX6_type_43 ?_
      refine r_istore_n (lv' := [(2, ti (wr (a2 + (wr (p15 - 1))))), (0, tr (some b)), (1, ti a1), (3, ti a3)]) dX6_type_44 rfl (E.lt (by decide)) rfl ?_
      refine r_iinc (lv' := [(3, ti (wr (a3 + 1))), (2, ti (wr (a2 + (wr (p15 - 1))))), (0, tr (some b)), (1, ti a1)]) dX6_type_45 3 rfl (E.lt (by decide)) rfl ?_
      refine r_goto 16 dX6_type_48 (by decide) ?_
      refine r_sub [2, 3, 1, 0] rfl ?_
      exact hK16 s a1 (wr (a2 + (wr (p15 - 1)))) (wr (a3 + 1)) ha1 (wr_r _) (wr_r _) e
def fX6_type_L16  : Nat → Sg → Int → Int → Int → Option (Int × Sg)
  | 0, _, _, _, _ => none
  | n9 + 1, s, a1, a2, a3 => fX6_type_b16 (fX6_type_L16 n9) s a1 a2 a3
theorem wX6_type_L16 {N : Nx} {b : Nat} {ad : Nat → Nat} {s' : Sg} {h : hS} {r : Int} (E : EndX N [(6, b, ad)] 5 (some .int) (some (ti r)) [s'] h)  : ∀ (n9 : Nat), ∀ (s : Sg) (a1 : Int) (a2 : Int) (a3 : Int) (ha1 : rI a1) (ha2 : rI a2) (ha3 : rI a3), fX6_type_L16 n9 s a1 a2 a3 = some (r, s') → AtPc cX6_type RX6 1 22 N [s] h 16 [(0, tr (some b)), (1, ti a1), (2, ti a2), (3, ti a3)] [] := by
  intro n9
  induction n9 with
  | zero => intro s a1 a2 a3 ha1 ha2 ha3 e; cases e
  | succ n9 ih => intro s a1 a2 a3 ha1 ha2 ha3 e; exact wX6_type_b16 E _ ih s a1 a2 a3 ha1 ha2 ha3 e
def fX6_type  (s : Sg) (a1 : Int) : Option (Int × Sg) := bd (fX6_within a1 0 3) fun p1 => if ¬ p1 = 0 then fX6_type_L16 FU s a1 1 0 else some ((-101), s)
theorem kX6_type {G : Gx}  {b : Nat} {ad : Nat → Nat} {s' : Sg} {h : hS} {r : Int} {s : Sg} {a1 : Int}  (ha1 : rI a1) (e : fX6_type s a1 = some (r, s')) : CtX G yX6_type cX6_type 5 (some .int) 1 22 [(6, b, ad)] [s] h [tr (some b), ti a1] (some (ti r)) [s'] h := by
  refine CtX.of (by decide) (Nat.le_of_ble_eq_true rfl) [(0, tr (some b)), (1, ti a1)] rfl ?_
  have E : EndX (G, 5, [(6, b, ad)], h, [s'], h, (some .int), (some (ti r)), yX6_type.name) [(6, b, ad)] 5 (some .int) (some (ti r)) [s'] h := ⟨rfl, rfl, rfl, rfl, rfl, rfl⟩
  unfold fX6_type at e
  refine r_rrs E.p (fun rr => ?_)
  refine r_iload_n dX6_type_0 rfl 1 rfl ?_
  refine r_iconst dX6_type_1 ?_
  refine r_iconst dX6_type_2 ?_
  obtain ⟨p1, q2, e⟩ := bd_o e
  have k3 := kX6_within (G := G) (h := h) ha1 (by decide) (by decide) q2
  have z4 := (k3 rr.none).1.2.2.2
  refine r_callS (j := none) 3 [ti a1, ti 0, ti 3] k3 (injO_1 E.p) subO_0 getO_0 setO_0 (lw_S q1599 q1600 q123 q1601) (by decide +kernel) rfl (Nat.le_of_ble_eq_true rfl) (Nat.le_of_ble_eq_true rfl) rfl (Nat.le_of_ble_eq_true rfl) dX6_type_3 rfl ?_
  have eT := (r_ifo e).1
  have eF := (r_ifo e).2
  refine r_if_ne (rI_z z4) 12 dX6_type_6 (by decide) (fun c5 => ?_) (fun c5 => ?_)
  · have e := eT c5
    refine r_iconst dX6_type_12 ?_
    refine r_istore_n (lv' := [(2, ti 1), (0, tr (some b)), (1, ti a1)]) dX6_type_13 rfl (E.lt (by decide)) rfl ?_
    refine r_iconst dX6_type_14 ?_
    refine r_istore_n (lv' := [(3, ti 0), (2, ti 1), (0, tr (some b)), (1, ti a1)]) dX6_type_15 rfl (E.lt (by decide)) rfl ?_
    refine r_sub [2, 3, 1, 0] rfl ?_
    exact wX6_type_L16 E FU s a1 1 0 ha1 (by decide) (by decide) e
  · have e := eF c5
    refine r_bipush dX6_type_9 (by decide) ?_
    cases e
    exact r_iret E.σ E.st E.rt E.r (by decide) dX6_type_11
def fX6_isClass  (s : Sg) (a1 : Int) : Option (Int) := bd (fX6_within a1 0 (wr ((gI s 1) - 1))) fun p1 => some p1
theorem kX6_isClass {G : Gx}  {b : Nat} {ad : Nat → Nat} {s : Sg} {h : hS} {r : Int} {a1 : Int}  (ha1 : rI a1) (e : fX6_isClass s a1 = some (r)) : CtX G yX6_isClass cX6_isClass 2 (some .boolean) 1 22 [(6, b, ad)] [s] h [tr (some b), ti a1] (some (ti r)) [s] h := by
  refine CtX.of (by decide) (Nat.le_of_ble_eq_true rfl) [(0, tr (some b)), (1, ti a1)] rfl ?_
  have E : EndX (G, 2, [(6, b, ad)], h, [s], h, (some .boolean), (some (ti r)), yX6_isClass.name) [(6, b, ad)] 2 (some .boolean) (some (ti r)) [s] h := ⟨rfl, rfl, rfl, rfl, rfl, rfl⟩
  unfold fX6_isClass at e
  refine r_rrs E.p (fun rr => ?_)
  refine r_iload_n dX6_isClass_0 rfl 1 rfl ?_
  refine r_iconst dX6_isClass_1 ?_
  refine r_aload_n dX6_isClass_2 rfl 0 rfl ?_
  refine r_sI E.p 1 fG_X6_211 (by decide) dX6_isClass_3 ?_
  refine r_iconst dX6_isClass_6 ?_
  refine r_isub dX6_isClass_7 ?_
  obtain ⟨p1, q2, e⟩ := bd_o e
  have k3 := kX6_within (G := G) (h := h) ha1 (by decide) (wr_r _) q2
  have z4 := (k3 rr.none).1.2.2.2
  refine r_callS (j := none) 3 [ti a1, ti 0, ti (wr ((gI s 1) - 1))] k3 (injO_1 E.p) subO_0 getO_0 setO_0 (lw_S q1599 q1600 q123 q1601) (by decide +kernel) rfl (Nat.le_of_ble_eq_true rfl) (Nat.le_of_ble_eq_true rfl) rfl (Nat.le_of_ble_eq_true rfl) dX6_isClass_8 rfl ?_
  cases e
  exact r_zret E.σ E.st E.rt E.r z4 dX6_isClass_11
def fX6_instancesOf_b28 (K4 : Sg → Int → Int → Int → Option (Int)) (s : Sg) (a1 : Int) (a3 : Int) (k0 : Int) (k1 : Int) : Option (Int) := K4 s a1 (wr (k0 + k1)) (wr (a3 + 1))
theorem wX6_instancesOf_b28 {N : Nx} {b : Nat} {ad : Nat → Nat} {s : Sg} {h : hS} {r : Int} (E : EndX N [(6, b, ad)] 4 (some .int) (some (ti r)) [s] h) (K4 : Sg → Int → Int → Int → Option (Int)) (hK4 : ∀ (a1 : Int) (a2 : Int) (a3 : Int) (ha1 : rI a1) (ha2 : rI a2) (ha3 : rI a3), K4 s a1 a2 a3 = some (r) → AtPc cX6_instancesOf RX6 0 0 N [s] h 4 [(0, tr (some b)), (1, ti a1), (2, ti a2), (3, ti a3)] []) (a1 : Int) (a3 : Int) (k0 : Int) (k1 : Int) (ha1 : rI a1) (ha3 : rI a3) (hk0 : rI k0) (hk1 : rI k1) (e : fX6_instancesOf_b28 K4 s a1 a3 k0 k1 = some (r)) : AtPc cX6_instancesOf RX6 0 0 N [s] h 28 [(0, tr (some b)), (1, ti a1), (3, ti a3)] [ti k1, ti k0] := by
  unfold fX6_instancesOf_b28 at e
  refine r_rrs E.p (fun rr => ?_)
  refine r_iadd dX6_instancesOf_28 ?_
  refine r_istore_n (lv' := [(2, ti (wr (k0 + k1))), (0, tr (some b)), (1, ti a1), (3, ti a3)]) dX6_instancesOf_29 rfl (E.lt (by decide)) rfl ?_
  refine r_iinc (lv' := [(3, ti (wr (a3 + 1))), (2, ti (wr (k0 + k1))), (0, tr (some b)), (1, ti a1)]) dX6_instancesOf_30 3 rfl (E.lt (by decide)) rfl ?_
  refine r_goto 4 dX6_instancesOf_33 (by decide) ?_
  refine r_sub [2, 3, 1, 0] rfl ?_
  exact hK4 a1 (wr (k0 + k1)) (wr (a3 + 1)) ha1 (wr_r _) (wr_r _) e
def fX6_instancesOf_b4 (K4 : Sg → Int → Int → Int → Option (Int)) (s : Sg) (a1 : Int) (a2 : Int) (a3 : Int) : Option (Int) := if (gI s 4) ≤ a3 then some a2 else gd (inb a3 6) (if ¬ (gA s 6 a3) = a1 then fX6_instancesOf_b28 K4 s a1 a3 a2 0 else fX6_instancesOf_b28 K4 s a1 a3 a2 1)
theorem wX6_instancesOf_b4 {N : Nx} {b : Nat} {ad : Nat → Nat} {s : Sg} {h : hS} {r : Int} (E : EndX N [(6, b, ad)] 4 (some .int) (some (ti r)) [s] h) (K4 : Sg → Int → Int → Int → Option (Int)) (hK4 : ∀ (a1 : Int) (a2 : Int) (a3 : Int) (ha1 : rI a1) (ha2 : rI a2) (ha3 : rI a3), K4 s a1 a2 a3 = some (r) → AtPc cX6_instancesOf RX6 0 0 N [s] h 4 [(0, tr (some b)), (1, ti a1), (2, ti a2), (3, ti a3)] []) (a1 : Int) (a2 : Int) (a3 : Int) (ha1 : rI a1) (ha2 : rI a2) (ha3 : rI a3) (e : fX6_instancesOf_b4 K4 s a1 a2 a3 = some (r)) : AtPc cX6_instancesOf RX6 0 0 N [s] h 4 [(0, tr (some b)), (1, ti a1), (2, ti a2), (3, ti a3)] [] := by
  unfold fX6_instancesOf_b4 at e
  refine r_rrs E.p (fun rr => ?_)
  refine r_iload_n dX6_instancesOf_4 rfl 3 rfl ?_
  refine r_aload_n dX6_instancesOf_5 rfl 0 rfl ?_
  refine r_sI E.p 4 fG_X6_217 (by decide) dX6_instancesOf_6 ?_
  have eT := (r_ifo e).1
  have eF := (r_ifo e).2
  refine r_icmp_ge ha3 ((rr.mine rfl).i 4 (by decide) (by decide)) 36 dX6_instancesOf_9 (by decide) (fun c1 => ?_) (fun c1 => ?_)
  · have e := eT c1
    refine r_iload_n dX6_instancesOf_36 rfl 2 rfl ?_
    cases e
    exact r_iret E.σ E.st E.rt E.r ha2 dX6_instancesOf_37
  · have e := eF c1
    refine r_iload_n dX6_instancesOf_12 rfl 2 rfl ?_
    refine r_aload_n dX6_instancesOf_13 rfl 0 rfl ?_
    refine r_sR E.p 6 fG_X6_19 (by decide) dX6_instancesOf_14 ?_
    refine r_iload_n dX6_instancesOf_17 rfl 3 rfl ?_
    obtain ⟨g2, e⟩ := gd_o e
    refine r_saI E.p 6 rfl (by decide) (by decide) ha3 g2 rfl dX6_instancesOf_18 ?_
    refine r_iload_n dX6_instancesOf_19 rfl 1 rfl ?_
    have eT := (r_ifo e).1
    have eF := (r_ifo e).2
    refine r_icmp_ne (((rr.mine rfl).a 6 (by decide) rfl).1 _) ha1 27 dX6_instancesOf_20 (by decide) (fun c3 => ?_) (fun c3 => ?_)
    · have e := eT c3
      refine r_iconst dX6_instancesOf_27 ?_
      refine r_sub [0, 1, 3] rfl ?_
      exact wX6_instancesOf_b28 E K4 hK4 a1 a3 a2 0 ha1 ha3 ha2 (by decide) e
    · have e := eF c3
      refine r_iconst dX6_instancesOf_23 ?_
      refine r_goto 28 dX6_instancesOf_24 (by decide) ?_
      refine r_sub [0, 1, 3] rfl ?_
      exact wX6_instancesOf_b28 E K4 hK4 a1 a3 a2 1 ha1 ha3 ha2 (by decide) e
def fX6_instancesOf_L4  : Nat → Sg → Int → Int → Int → Option (Int)
  | 0, _, _, _, _ => none
  | n9 + 1, s, a1, a2, a3 => fX6_instancesOf_b4 (fX6_instancesOf_L4 n9) s a1 a2 a3
theorem wX6_instancesOf_L4 {N : Nx} {b : Nat} {ad : Nat → Nat} {s : Sg} {h : hS} {r : Int} (E : EndX N [(6, b, ad)] 4 (some .int) (some (ti r)) [s] h)  : ∀ (n9 : Nat), ∀ (a1 : Int) (a2 : Int) (a3 : Int) (ha1 : rI a1) (ha2 : rI a2) (ha3 : rI a3), fX6_instancesOf_L4 n9 s a1 a2 a3 = some (r) → AtPc cX6_instancesOf RX6 0 0 N [s] h 4 [(0, tr (some b)), (1, ti a1), (2, ti a2), (3, ti a3)] [] := by
  intro n9
  induction n9 with
  | zero => intro a1 a2 a3 ha1 ha2 ha3 e; cases e
  | succ n9 ih => intro a1 a2 a3 ha1 ha2 ha3 e; exact wX6_instancesOf_b4 E _ ih a1 a2 a3 ha1 ha2 ha3 e
def fX6_instancesOf  (s : Sg) (a1 : Int) : Option (Int) := fX6_instancesOf_L4 FU s a1 0 0
theorem kX6_instancesOf {G : Gx}  {b : Nat} {ad : Nat → Nat} {s : Sg} {h : hS} {r : Int} {a1 : Int}  (ha1 : rI a1) (e : fX6_instancesOf s a1 = some (r)) : CtX G yX6_instancesOf cX6_instancesOf 4 (some .int) 0 0 [(6, b, ad)] [s] h [tr (some b), ti a1] (some (ti r)) [s] h := by
  refine CtX.of (by decide) (Nat.le_of_ble_eq_true rfl) [(0, tr (some b)), (1, ti a1)] rfl ?_
  have E : EndX (G, 4, [(6, b, ad)], h, [s], h, (some .int), (some (ti r)), yX6_instancesOf.name) [(6, b, ad)] 4 (some .int) (some (ti r)) [s] h := ⟨rfl, rfl, rfl, rfl, rfl, rfl⟩
  unfold fX6_instancesOf at e
  refine r_rrs E.p (fun rr => ?_)
  refine r_iconst dX6_instancesOf_0 ?_
  refine r_istore_n (lv' := [(2, ti 0), (0, tr (some b)), (1, ti a1)]) dX6_instancesOf_1 rfl (E.lt (by decide)) rfl ?_
  refine r_iconst dX6_instancesOf_2 ?_
  refine r_istore_n (lv' := [(3, ti 0), (2, ti 0), (0, tr (some b)), (1, ti a1)]) dX6_instancesOf_3 rfl (E.lt (by decide)) rfl ?_
  refine r_sub [2, 3, 1, 0] rfl ?_
  exact wX6_instancesOf_L4 E FU a1 0 0 ha1 (by decide) (by decide) e
def fX6_aboutNow_b32 (s : Sg) (k0 : Int) : Option (Int) := some k0
theorem wX6_aboutNow_b32 {N : Nx} {b : Nat} {ad : Nat → Nat} {s : Sg} {h : hS} {r : Int} (E : EndX N [(6, b, ad)] 3 (some .int) (some (ti r)) [s] h)  (k0 : Int) (hk0 : rI k0) (e : fX6_aboutNow_b32 s k0 = some (r)) : AtPc cX6_aboutNow RX6 1 23 N [s] h 32 [] [ti k0] := by
  unfold fX6_aboutNow_b32 at e
  refine r_rrs E.p (fun rr => ?_)
  cases e
  exact r_iret E.σ E.st E.rt E.r hk0 dX6_aboutNow_32
def fX6_aboutNow  (s : Sg) (a1 : Int) (a2 : Int) : Option (Int) := if ¬ a2 = 0 then if ¬ a2 = 1 then bd (fX6_instancesOf s a1) fun p3 => fX6_aboutNow_b32 s p3 else gd (inb a1 4) (fX6_aboutNow_b32 s (gA s 3 a1)) else gd (inb a1 4) (fX6_aboutNow_b32 s (gA s 2 a1))
theorem kX6_aboutNow {G : Gx}  {b : Nat} {ad : Nat → Nat} {s : Sg} {h : hS} {r : Int} {a1 : Int} {a2 : Int}  (ha1 : rI a1) (ha2 : rI a2) (e : fX6_aboutNow s a1 a2 = some (r)) : CtX G yX6_aboutNow cX6_aboutNow 3 (some .int) 1 23 [(6, b, ad)] [s] h [tr (some b), ti a1, ti a2] (some (ti r)) [s] h := by
  refine CtX.of (by decide) (Nat.le_of_ble_eq_true rfl) [(0, tr (some b)), (1, ti a1), (2, ti a2)] rfl ?_
  have E : EndX (G, 3, [(6, b, ad)], h, [s], h, (some .int), (some (ti r)), yX6_aboutNow.name) [(6, b, ad)] 3 (some .int) (some (ti r)) [s] h := ⟨rfl, rfl, rfl, rfl, rfl, rfl⟩
  unfold fX6_aboutNow at e
  refine r_rrs E.p (fun rr => ?_)
  refine r_iload_n dX6_aboutNow_0 rfl 2 rfl ?_
  have eT := (r_ifo e).1
  have eF := (r_ifo e).2
  refine r_if_ne ha2 13 dX6_aboutNow_1 (by decide) (fun c1 => ?_) (fun c1 => ?_)
  · have e := eT c1
    refine r_iload_n dX6_aboutNow_13 rfl 2 rfl ?_
    refine r_iconst dX6_aboutNow_14 ?_
    have eT := (r_ifo e).1
    have eF := (r_ifo e).2
    refine r_icmp_ne ha2 (by decide) 27 dX6_aboutNow_15 (by decide) (fun c2 => ?_) (fun c2 => ?_)
    · have e := eT c2
      refine r_aload_n dX6_aboutNow_27 rfl 0 rfl ?_
      refine r_iload_n dX6_aboutNow_28 rfl 1 rfl ?_
      obtain ⟨p3, q4, e⟩ := bd_o e
      have k5 := kX6_instancesOf (G := G) (b := b) (ad := ad) (h := h) ha1 q4
      have z6 := (k5 rr).1.2.2.2
      refine r_callV (j := some 0) 1 [ti a1] (rec_sg (j := 0) (r := (RX6, TX6, 63)) rfl (by rw [E.p]; rfl)) rfl k5 (injO_1 E.p) (subO_1 E.p) getO_1 setO_1 (lw_V q1706 q1708 qs64 q123 q1709) (by decide +kernel) rfl (Nat.le_of_ble_eq_true rfl) (Nat.le_of_ble_eq_true rfl) rfl (Nat.le_of_ble_eq_true rfl) dX6_aboutNow_29 rfl ?_
      refine r_sub [] rfl ?_
      exact wX6_aboutNow_b32 E p3 z6 e
    · have e := eF c2
      refine r_aload_n dX6_aboutNow_18 rfl 0 rfl ?_
      refine r_sR E.p 3 fG_X6_13 (by decide) dX6_aboutNow_19 ?_
      refine r_iload_n dX6_aboutNow_22 rfl 1 rfl ?_
      obtain ⟨g7, e⟩ := gd_o e
      refine r_saI E.p 3 rfl (by decide) (by decide) ha1 g7 rfl dX6_aboutNow_23 ?_
      refine r_goto 32 dX6_aboutNow_24 (by decide) ?_
      refine r_sub [] rfl ?_
      exact wX6_aboutNow_b32 E (gA s 3 a1) (((rr.mine rfl).a 3 (by decide) rfl).1 _) e
  · have e := eF c1
    refine r_aload_n dX6_aboutNow_4 rfl 0 rfl ?_
    refine r_sR E.p 2 fG_X6_7 (by decide) dX6_aboutNow_5 ?_
    refine r_iload_n dX6_aboutNow_8 rfl 1 rfl ?_
    obtain ⟨g8, e⟩ := gd_o e
    refine r_saI E.p 2 rfl (by decide) (by decide) ha1 g8 rfl dX6_aboutNow_9 ?_
    refine r_goto 32 dX6_aboutNow_10 (by decide) ?_
    refine r_sub [] rfl ?_
    exact wX6_aboutNow_b32 E (gA s 2 a1) (((rr.mine rfl).a 2 (by decide) rfl).1 _) e
def fX6_about_b33 (s : Sg) (k0 : Int) : Option (Int) := some k0
theorem wX6_about_b33 {N : Nx} {b : Nat} {ad : Nat → Nat} {s : Sg} {h : hS} {r : Int} (E : EndX N [(6, b, ad)] 3 (some .int) (some (ti r)) [s] h)  (k0 : Int) (hk0 : rI k0) (e : fX6_about_b33 s k0 = some (r)) : AtPc cX6_about RX6 2 45 N [s] h 33 [] [ti k0] := by
  unfold fX6_about_b33 at e
  refine r_rrs E.p (fun rr => ?_)
  cases e
  exact r_iret E.σ E.st E.rt E.r hk0 dX6_about_33
def fX6_about  (s : Sg) (a1 : Int) (a2 : Int) : Option (Int) := bd (fX6_isClass s a1) fun p1 => if ¬ p1 = 0 then bd (fX6_within a2 0 2) fun p6 => if p6 = 0 then fX6_about_b33 s (-102) else bd (fX6_aboutNow s a1 a2) fun p11 => fX6_about_b33 s p11 else fX6_about_b33 s (-101)
theorem kX6_about {G : Gx}  {b : Nat} {ad : Nat → Nat} {s : Sg} {h : hS} {r : Int} {a1 : Int} {a2 : Int}  (ha1 : rI a1) (ha2 : rI a2) (e : fX6_about s a1 a2 = some (r)) : CtX G yX6_about cX6_about 3 (some .int) 2 45 [(6, b, ad)] [s] h [tr (some b), ti a1, ti a2] (some (ti r)) [s] h := by
  refine CtX.of (by decide) (Nat.le_of_ble_eq_true rfl) [(0, tr (some b)), (1, ti a1), (2, ti a2)] rfl ?_
  have E : EndX (G, 3, [(6, b, ad)], h, [s], h, (some .int), (some (ti r)), yX6_about.name) [(6, b, ad)] 3 (some .int) (some (ti r)) [s] h := ⟨rfl, rfl, rfl, rfl, rfl, rfl⟩
  unfold fX6_about at e
  refine r_rrs E.p (fun rr => ?_)
  refine r_aload_n dX6_about_0 rfl 0 rfl ?_
  refine r_iload_n dX6_about_1 rfl 1 rfl ?_
  obtain ⟨p1, q2, e⟩ := bd_o e
  have k3 := kX6_isClass (G := G) (b := b) (ad := ad) (h := h) ha1 q2
  have z4 := (k3 rr).1.2.2.2
  refine r_callV (j := some 0) 1 [ti a1] (rec_sg (j := 0) (r := (RX6, TX6, 63)) rfl (by rw [E.p]; rfl)) rfl k3 (injO_1 E.p) (subO_1 E.p) getO_1 setO_1 (lw_V q1698 q1700 qs62 q123 q1701) (by decide +kernel) rfl (Nat.le_of_ble_eq_true rfl) (Nat.le_of_ble_eq_true rfl) rfl (Nat.le_of_ble_eq_true rfl) dX6_about_2 rfl ?_
  have eT := (r_ifo e).1
  have eF := (r_ifo e).2
  refine r_if_ne (rI_z z4) 13 dX6_about_5 (by decide) (fun c5 => ?_) (fun c5 => ?_)
  · have e := eT c5
    refine r_iload_n dX6_about_13 rfl 2 rfl ?_
    refine r_iconst dX6_about_14 ?_
    refine r_iconst dX6_about_15 ?_
    obtain ⟨p6, q7, e⟩ := bd_o e
    have k8 := kX6_within (G := G) (h := h) ha2 (by decide) (by decide) q7
    have z9 := (k8 rr.none).1.2.2.2
    refine r_callS (j := none) 3 [ti a2, ti 0, ti 2] k8 (injO_1 E.p) subO_0 getO_0 setO_0 (lw_S q1599 q1600 q123 q1601) (by decide +kernel) rfl (Nat.le_of_ble_eq_true rfl) (Nat.le_of_ble_eq_true rfl) rfl (Nat.le_of_ble_eq_true rfl) dX6_about_16 rfl ?_
    have eT := (r_ifo e).1
    have eF := (r_ifo e).2
    refine r_if_eq (rI_z z9) 31 dX6_about_19 (by decide) (fun c10 => ?_) (fun c10 => ?_)
    · have e := eT c10
      refine r_bipush dX6_about_31 (by decide) ?_
      refine r_sub [] rfl ?_
      exact wX6_about_b33 E (-102) (by decide) e
    · have e := eF c10
      refine r_aload_n dX6_about_22 rfl 0 rfl ?_
      refine r_iload_n dX6_about_23 rfl 1 rfl ?_
      refine r_iload_n dX6_about_24 rfl 2 rfl ?_
      obtain ⟨p11, q12, e⟩ := bd_o e
      have k13 := kX6_aboutNow (G := G) (b := b) (ad := ad) (h := h) ha1 ha2 q12
      have z14 := (k13 rr).1.2.2.2
      refine r_callV (j := some 0) 2 [ti a1, ti a2] (rec_sg (j := 0) (r := (RX6, TX6, 63)) rfl (by rw [E.p]; rfl)) rfl k13 (injO_1 E.p) (subO_1 E.p) getO_1 setO_1 (lw_V q1702 q1704 qs63 q123 q1705) (by decide +kernel) rfl (Nat.le_of_ble_eq_true rfl) (Nat.le_of_ble_eq_true rfl) rfl (Nat.le_of_ble_eq_true rfl) dX6_about_25 rfl ?_
      refine r_goto 33 dX6_about_28 (by decide) ?_
      refine r_sub [] rfl ?_
      exact wX6_about_b33 E p11 z14 e
  · have e := eF c5
    refine r_bipush dX6_about_8 (by decide) ?_
    refine r_goto 33 dX6_about_10 (by decide) ?_
    refine r_sub [] rfl ?_
    exact wX6_about_b33 E (-101) (by decide) e
def fX6_isInstance  (s : Sg) (a1 : Int) : Option (Int) := bd (fX6_within a1 0 (wr ((gI s 4) - 1))) fun p1 => some p1
theorem kX6_isInstance {G : Gx}  {b : Nat} {ad : Nat → Nat} {s : Sg} {h : hS} {r : Int} {a1 : Int}  (ha1 : rI a1) (e : fX6_isInstance s a1 = some (r)) : CtX G yX6_isInstance cX6_isInstance 2 (some .boolean) 1 22 [(6, b, ad)] [s] h [tr (some b), ti a1] (some (ti r)) [s] h := by
  refine CtX.of (by decide) (Nat.le_of_ble_eq_true rfl) [(0, tr (some b)), (1, ti a1)] rfl ?_
  have E : EndX (G, 2, [(6, b, ad)], h, [s], h, (some .boolean), (some (ti r)), yX6_isInstance.name) [(6, b, ad)] 2 (some .boolean) (some (ti r)) [s] h := ⟨rfl, rfl, rfl, rfl, rfl, rfl⟩
  unfold fX6_isInstance at e
  refine r_rrs E.p (fun rr => ?_)
  refine r_iload_n dX6_isInstance_0 rfl 1 rfl ?_
  refine r_iconst dX6_isInstance_1 ?_
  refine r_aload_n dX6_isInstance_2 rfl 0 rfl ?_
  refine r_sI E.p 4 fG_X6_217 (by decide) dX6_isInstance_3 ?_
  refine r_iconst dX6_isInstance_6 ?_
  refine r_isub dX6_isInstance_7 ?_
  obtain ⟨p1, q2, e⟩ := bd_o e
  have k3 := kX6_within (G := G) (h := h) ha1 (by decide) (wr_r _) q2
  have z4 := (k3 rr.none).1.2.2.2
  refine r_callS (j := none) 3 [ti a1, ti 0, ti (wr ((gI s 4) - 1))] k3 (injO_1 E.p) subO_0 getO_0 setO_0 (lw_S q1599 q1600 q123 q1601) (by decide +kernel) rfl (Nat.le_of_ble_eq_true rfl) (Nat.le_of_ble_eq_true rfl) rfl (Nat.le_of_ble_eq_true rfl) dX6_isInstance_8 rfl ?_
  cases e
  exact r_zret E.σ E.st E.rt E.r z4 dX6_isInstance_11
def fX6_isSound_b38 (s : Sg) (k0 : Int) : Option (Int) := gd (k0 = 0 ∨ k0 = 1) (some k0)
theorem wX6_isSound_b38 {N : Nx} {b : Nat} {ad : Nat → Nat} {s : Sg} {h : hS} {r : Int} (E : EndX N [(6, b, ad)] 2 (some .boolean) (some (ti r)) [s] h)  (k0 : Int) (hk0 : rI k0) (e : fX6_isSound_b38 s k0 = some (r)) : AtPc cX6_isSound RX6 1 20 N [s] h 38 [] [ti k0] := by
  unfold fX6_isSound_b38 at e
  refine r_rrs E.p (fun rr => ?_)
  obtain ⟨g1, e⟩ := gd_o e
  cases e
  exact r_zret E.σ E.st E.rt E.r g1 dX6_isSound_38
def fX6_isSound_b33 (s : Sg) : Option (Int) := fX6_isSound_b38 s 1
theorem wX6_isSound_b33 {N : Nx} {b : Nat} {ad : Nat → Nat} {s : Sg} {h : hS} {r : Int} (E : EndX N [(6, b, ad)] 2 (some .boolean) (some (ti r)) [s] h)   (e : fX6_isSound_b33 s = some (r)) : AtPc cX6_isSound RX6 1 20 N [s] h 33 [] [] := by
  unfold fX6_isSound_b33 at e
  refine r_rrs E.p (fun rr => ?_)
  refine r_iconst dX6_isSound_33 ?_
  refine r_goto 38 dX6_isSound_34 (by decide) ?_
  exact wX6_isSound_b38 E 1 (by decide) e
def fX6_isSound  (s : Sg) (a1 : Int) : Option (Int) := gd (inb a1 6) (if (gA s 9 a1) = 0 then fX6_isSound_b33 s else gd (inb a1 6) (if 1 < (gA s 8 a1) then fX6_isSound_b33 s else gd (inb (wr (5 * a1)) 30) (bd (fX6_isVariable (gA s 7 (wr (5 * a1)))) fun p6 => if ¬ p6 = 0 then fX6_isSound_b38 s 0 else fX6_isSound_b33 s)))
theorem kX6_isSound {G : Gx}  {b : Nat} {ad : Nat → Nat} {s : Sg} {h : hS} {r : Int} {a1 : Int}  (ha1 : rI a1) (e : fX6_isSound s a1 = some (r)) : CtX G yX6_isSound cX6_isSound 2 (some .boolean) 1 20 [(6, b, ad)] [s] h [tr (some b), ti a1] (some (ti r)) [s] h := by
  refine CtX.of (by decide) (Nat.le_of_ble_eq_true rfl) [(0, tr (some b)), (1, ti a1)] rfl ?_
  have E : EndX (G, 2, [(6, b, ad)], h, [s], h, (some .boolean), (some (ti r)), yX6_isSound.name) [(6, b, ad)] 2 (some .boolean) (some (ti r)) [s] h := ⟨rfl, rfl, rfl, rfl, rfl, rfl⟩
  unfold fX6_isSound at e
  refine r_rrs E.p (fun rr => ?_)
  refine r_aload_n dX6_isSound_0 rfl 0 rfl ?_
  refine r_sR E.p 9 fG_X6_28 (by decide) dX6_isSound_1 ?_
  refine r_iload_n dX6_isSound_4 rfl 1 rfl ?_
  obtain ⟨g1, e⟩ := gd_o e
  refine r_saI E.p 9 rfl (by decide) (by decide) ha1 g1 rfl dX6_isSound_5 ?_
  have eT := (r_ifo e).1
  have eF := (r_ifo e).2
  refine r_if_eq (((rr.mine rfl).a 9 (by decide) rfl).1 _) 33 dX6_isSound_6 (by decide) (fun c2 => ?_) (fun c2 => ?_)
  · have e := eT c2
    refine r_sub [] rfl ?_
    exact wX6_isSound_b33 E e
  · have e := eF c2
    refine r_aload_n dX6_isSound_9 rfl 0 rfl ?_
    refine r_sR E.p 8 fG_X6_25 (by decide) dX6_isSound_10 ?_
    refine r_iload_n dX6_isSound_13 rfl 1 rfl ?_
    obtain ⟨g3, e⟩ := gd_o e
    refine r_saI E.p 8 rfl (by decide) (by decide) ha1 g3 rfl dX6_isSound_14 ?_
    refine r_iconst dX6_isSound_15 ?_
    have eT := (r_ifo e).1
    have eF := (r_ifo e).2
    refine r_icmp_gt (((rr.mine rfl).a 8 (by decide) rfl).1 _) (by decide) 33 dX6_isSound_16 (by decide) (fun c4 => ?_) (fun c4 => ?_)
    · have e := eT c4
      refine r_sub [] rfl ?_
      exact wX6_isSound_b33 E e
    · have e := eF c4
      refine r_aload_n dX6_isSound_19 rfl 0 rfl ?_
      refine r_sR E.p 7 fG_X6_22 (by decide) dX6_isSound_20 ?_
      refine r_iconst dX6_isSound_23 ?_
      refine r_iload_n dX6_isSound_24 rfl 1 rfl ?_
      refine r_imul dX6_isSound_25 ?_
      obtain ⟨g5, e⟩ := gd_o e
      refine r_saI E.p 7 rfl (by decide) (by decide) (wr_r _) g5 rfl dX6_isSound_26 ?_
      obtain ⟨p6, q7, e⟩ := bd_o e
      have k8 := kX6_isVariable (G := G) (h := h) (((rr.mine rfl).a 7 (by decide) rfl).1 _) q7
      have z9 := (k8 rr.none).1.2.2.2
      refine r_callS (j := none) 1 [ti (gA s 7 (wr (5 * a1)))] k8 (injO_1 E.p) subO_0 getO_0 setO_0 (lw_S q1656 q1657 q123 q1658) (by decide +kernel) rfl (Nat.le_of_ble_eq_true rfl) (Nat.le_of_ble_eq_true rfl) rfl (Nat.le_of_ble_eq_true rfl) dX6_isSound_27 rfl ?_
      have eT := (r_ifo e).1
      have eF := (r_ifo e).2
      refine r_if_ne (rI_z z9) 37 dX6_isSound_30 (by decide) (fun c10 => ?_) (fun c10 => ?_)
      · have e := eT c10
        refine r_iconst dX6_isSound_37 ?_
        refine r_sub [] rfl ?_
        exact wX6_isSound_b38 E 0 (by decide) e
      · have e := eF c10
        refine r_sub [] rfl ?_
        exact wX6_isSound_b33 E e
def fX6_could_b38 (k0 : Int) : Option (Int) := gd (k0 = 0 ∨ k0 = 1) (some k0)
theorem wX6_could_b38 {N : Nx} {h : hS} {r : Int} (E : EndX N [] 2 (some .boolean) (some (ti r)) [] h)  (k0 : Int) (hk0 : rI k0) (e : fX6_could_b38 k0 = some (r)) : AtPc cX6_could RX6 0 0 N [] h 38 [] [ti k0] := by
  unfold fX6_could_b38 at e
  refine r_rrs E.p (fun rr => ?_)
  obtain ⟨g1, e⟩ := gd_o e
  cases e
  exact r_zret E.σ E.st E.rt E.r g1 dX6_could_38
def fX6_could_b49 (k0 : Int) : Option (Int) := gd (k0 = 0 ∨ k0 = 1) (some k0)
theorem wX6_could_b49 {N : Nx} {h : hS} {r : Int} (E : EndX N [] 2 (some .boolean) (some (ti r)) [] h)  (k0 : Int) (hk0 : rI k0) (e : fX6_could_b49 k0 = some (r)) : AtPc cX6_could RX6 0 0 N [] h 49 [] [ti k0] := by
  unfold fX6_could_b49 at e
  refine r_rrs E.p (fun rr => ?_)
  obtain ⟨g1, e⟩ := gd_o e
  cases e
  exact r_zret E.σ E.st E.rt E.r g1 dX6_could_49
def fX6_could_b64 (k0 : Int) : Option (Int) := gd (k0 = 0 ∨ k0 = 1) (some k0)
theorem wX6_could_b64 {N : Nx} {h : hS} {r : Int} (E : EndX N [] 2 (some .boolean) (some (ti r)) [] h)  (k0 : Int) (hk0 : rI k0) (e : fX6_could_b64 k0 = some (r)) : AtPc cX6_could RX6 0 0 N [] h 64 [] [ti k0] := by
  unfold fX6_could_b64 at e
  refine r_rrs E.p (fun rr => ?_)
  obtain ⟨g1, e⟩ := gd_o e
  cases e
  exact r_zret E.σ E.st E.rt E.r g1 dX6_could_64
def fX6_could_b59  : Option (Int) := fX6_could_b64 1
theorem wX6_could_b59 {N : Nx} {h : hS} {r : Int} (E : EndX N [] 2 (some .boolean) (some (ti r)) [] h)   (e : fX6_could_b59 = some (r)) : AtPc cX6_could RX6 0 0 N [] h 59 [] [] := by
  unfold fX6_could_b59 at e
  refine r_rrs E.p (fun rr => ?_)
  refine r_iconst dX6_could_59 ?_
  refine r_goto 64 dX6_could_60 (by decide) ?_
  exact wX6_could_b64 E 1 (by decide) e
def fX6_could_b79 (k0 : Int) : Option (Int) := gd (k0 = 0 ∨ k0 = 1) (some k0)
theorem wX6_could_b79 {N : Nx} {h : hS} {r : Int} (E : EndX N [] 2 (some .boolean) (some (ti r)) [] h)  (k0 : Int) (hk0 : rI k0) (e : fX6_could_b79 k0 = some (r)) : AtPc cX6_could RX6 0 0 N [] h 79 [] [ti k0] := by
  unfold fX6_could_b79 at e
  refine r_rrs E.p (fun rr => ?_)
  obtain ⟨g1, e⟩ := gd_o e
  cases e
  exact r_zret E.σ E.st E.rt E.r g1 dX6_could_79
def fX6_could_b74  : Option (Int) := fX6_could_b79 1
theorem wX6_could_b74 {N : Nx} {h : hS} {r : Int} (E : EndX N [] 2 (some .boolean) (some (ti r)) [] h)   (e : fX6_could_b74 = some (r)) : AtPc cX6_could RX6 0 0 N [] h 74 [] [] := by
  unfold fX6_could_b74 at e
  refine r_rrs E.p (fun rr => ?_)
  refine r_iconst dX6_could_74 ?_
  refine r_goto 79 dX6_could_75 (by decide) ?_
  exact wX6_could_b79 E 1 (by decide) e
def fX6_could  (a0 : Int) (a1 : Int) : Option (Int) := if a1 = 0 then if ¬ a0 = 3 then fX6_could_b38 0 else fX6_could_b38 1 else if a1 = 1 then if a0 = 2 then fX6_could_b49 0 else fX6_could_b49 1 else if a1 = 2 then if a0 = 0 then fX6_could_b59 else if ¬ a0 = 3 then fX6_could_b64 0 else fX6_could_b59 else if a0 = 0 then fX6_could_b74 else if ¬ a0 = 4 then fX6_could_b79 0 else fX6_could_b74
theorem kX6_could {G : Gx}  {h : hS} {r : Int} {a0 : Int} {a1 : Int}  (ha0 : rI a0) (ha1 : rI a1) (e : fX6_could a0 a1 = some (r)) : CtX G yX6_could cX6_could 2 (some .boolean) 0 0 [] [] h [ti a0, ti a1] (some (ti r)) [] h := by
  refine CtX.of (by decide) (Nat.le_of_ble_eq_true rfl) [(0, ti a0), (1, ti a1)] rfl ?_
  have E : EndX (G, 2, [], h, [], h, (some .boolean), (some (ti r)), yX6_could.name) [] 2 (some .boolean) (some (ti r)) [] h := ⟨rfl, rfl, rfl, rfl, rfl, rfl⟩
  unfold fX6_could at e
  refine r_rrs E.p (fun rr => ?_)
  refine r_iload_n dX6_could_0 rfl 1 rfl ?_
  have eT := (r_ifo e).1
  have eF := (r_ifo e).2
  by_cases c1 : a1 = 0
  · have e := eT c1
    refine r_tswI ha1 dX6_could_1 0 c1 28 (by decide) (by decide) rfl (by decide) ?_
    refine r_iload_n dX6_could_28 rfl 0 rfl ?_
    refine r_iconst dX6_could_29 ?_
    have eT := (r_ifo e).1
    have eF := (r_ifo e).2
    refine r_icmp_ne ha0 (by decide) 37 dX6_could_30 (by decide) (fun c2 => ?_) (fun c2 => ?_)
    · have e := eT c2
      refine r_iconst dX6_could_37 ?_
      refine r_sub [] rfl ?_
      exact wX6_could_b38 E 0 (by decide) e
    · have e := eF c2
      refine r_iconst dX6_could_33 ?_
      refine r_goto 38 dX6_could_34 (by decide) ?_
      refine r_sub [] rfl ?_
      exact wX6_could_b38 E 1 (by decide) e
  · have e := eF c1
    have eT := (r_ifo e).1
    have eF := (r_ifo e).2
    by_cases c3 : a1 = 1
    · have e := eT c3
      refine r_tswI ha1 dX6_could_1 1 c3 39 (by decide) (by decide) rfl (by decide) ?_
      refine r_iload_n dX6_could_39 rfl 0 rfl ?_
      refine r_iconst dX6_could_40 ?_
      have eT := (r_ifo e).1
      have eF := (r_ifo e).2
      refine r_icmp_eq ha0 (by decide) 48 dX6_could_41 (by decide) (fun c4 => ?_) (fun c4 => ?_)
      · have e := eT c4
        refine r_iconst dX6_could_48 ?_
        refine r_sub [] rfl ?_
        exact wX6_could_b49 E 0 (by decide) e
      · have e := eF c4
        refine r_iconst dX6_could_44 ?_
        refine r_goto 49 dX6_could_45 (by decide) ?_
        refine r_sub [] rfl ?_
        exact wX6_could_b49 E 1 (by decide) e
    · have e := eF c3
      have eT := (r_ifo e).1
      have eF := (r_ifo e).2
      by_cases c5 : a1 = 2
      · have e := eT c5
        refine r_tswI ha1 dX6_could_1 2 c5 50 (by decide) (by decide) rfl (by decide) ?_
        refine r_iload_n dX6_could_50 rfl 0 rfl ?_
        have eT := (r_ifo e).1
        have eF := (r_ifo e).2
        refine r_if_eq ha0 59 dX6_could_51 (by decide) (fun c6 => ?_) (fun c6 => ?_)
        · have e := eT c6
          refine r_sub [] rfl ?_
          exact wX6_could_b59 E e
        · have e := eF c6
          refine r_iload_n dX6_could_54 rfl 0 rfl ?_
          refine r_iconst dX6_could_55 ?_
          have eT := (r_ifo e).1
          have eF := (r_ifo e).2
          refine r_icmp_ne ha0 (by decide) 63 dX6_could_56 (by decide) (fun c7 => ?_) (fun c7 => ?_)
          · have e := eT c7
            refine r_iconst dX6_could_63 ?_
            refine r_sub [] rfl ?_
            exact wX6_could_b64 E 0 (by decide) e
          · have e := eF c7
            refine r_sub [] rfl ?_
            exact wX6_could_b59 E e
      · have e := eF c5
        refine r_tswO ha1 dX6_could_1 65 (by omega) (by decide) ?_
        refine r_iload_n dX6_could_65 rfl 0 rfl ?_
        have eT := (r_ifo e).1
        have eF := (r_ifo e).2
        refine r_if_eq ha0 74 dX6_could_66 (by decide) (fun c8 => ?_) (fun c8 => ?_)
        · have e := eT c8
          refine r_sub [] rfl ?_
          exact wX6_could_b74 E e
        · have e := eF c8
          refine r_iload_n dX6_could_69 rfl 0 rfl ?_
          refine r_iconst dX6_could_70 ?_
          have eT := (r_ifo e).1
          have eF := (r_ifo e).2
          refine r_icmp_ne ha0 (by decide) 78 dX6_could_71 (by decide) (fun c9 => ?_) (fun c9 => ?_)
          · have e := eT c9
            refine r_iconst dX6_could_78 ?_
            refine r_sub [] rfl ?_
            exact wX6_could_b79 E 0 (by decide) e
          · have e := eF c9
            refine r_sub [] rfl ?_
            exact wX6_could_b74 E e
theorem fG_X6_230 : FldG RX6 230 [(6, 15)] := List.forall_mem_cons.mpr ⟨⟨RX6, TX6, 63, "DictProofModel", rfl, in_X6, by decide, q1420, Or.inl rfl⟩, fun _ h => absurd h List.not_mem_nil⟩
theorem fG_X6_46 : FldG RX6 46 [(6, 16)] := List.forall_mem_cons.mpr ⟨⟨RX6, TX6, 63, "DictProofModel", rfl, in_X6, by decide, q1421, Or.inl rfl⟩, fun _ h => absurd h List.not_mem_nil⟩
theorem fG_X6_49 : FldG RX6 49 [(6, 17)] := List.forall_mem_cons.mpr ⟨⟨RX6, TX6, 63, "DictProofModel", rfl, in_X6, by decide, q1422, Or.inl rfl⟩, fun _ h => absurd h List.not_mem_nil⟩
theorem fG_X6_52 : FldG RX6 52 [(6, 18)] := List.forall_mem_cons.mpr ⟨⟨RX6, TX6, 63, "DictProofModel", rfl, in_X6, by decide, q1423, Or.inl rfl⟩, fun _ h => absurd h List.not_mem_nil⟩
def fX6_sortsOf_b75 (K4 : Sg → Int → Int → Int → Option (Int)) (K15 : Sg → Int → Int → Int → Int → Int → Option (Int)) (s : Sg) (a1 : Int) (a2 : Int) (a3 : Int) (a5 : Int) (k0 : Int) : Option (Int) := K15 s a1 a2 a3 k0 (wr (a5 + 1))
theorem wX6_sortsOf_b75 {N : Nx} {b : Nat} {ad : Nat → Nat} {s : Sg} {h : hS} {r : Int} (E : EndX N [(6, b, ad)] 6 (some .int) (some (ti r)) [s] h) (K4 : Sg → Int → Int → Int → Option (Int)) (hK4 : ∀ (a1 : Int) (a2 : Int) (a3 : Int) (ha1 : rI a1) (ha2 : rI a2) (ha3 : rI a3), K4 s a1 a2 a3 = some (r) → AtPc cX6_sortsOf RX6 1 21 N [s] h 4 [(0, tr (some b)), (1, ti a1), (2, ti a2), (3, ti a3)] []) (K15 : Sg → Int → Int → Int → Int → Int → Option (Int)) (hK15 : ∀ (a1 : Int) (a2 : Int) (a3 : Int) (a4 : Int) (a5 : Int) (ha1 : rI a1) (ha2 : rI a2) (ha3 : rI a3) (ha4 : rI a4) (ha5 : rI a5), K15 s a1 a2 a3 a4 a5 = some (r) → AtPc cX6_sortsOf RX6 1 21 N [s] h 15 [(0, tr (some b)), (1, ti a1), (2, ti a2), (3, ti a3), (4, ti a4), (5, ti a5)] []) (a1 : Int) (a2 : Int) (a3 : Int) (a5 : Int) (k0 : Int) (ha1 : rI a1) (ha2 : rI a2) (ha3 : rI a3) (ha5 : rI a5) (hk0 : rI k0) (e : fX6_sortsOf_b75 K4 K15 s a1 a2 a3 a5 k0 = some (r)) : AtPc cX6_sortsOf RX6 1 21 N [s] h 75 [(0, tr (some b)), (1, ti a1), (2, ti a2), (3, ti a3), (5, ti a5)] [ti k0] := by
  unfold fX6_sortsOf_b75 at e
  refine r_rrs E.p (fun rr => ?_)
  refine r_istore (lv' := [(4, ti k0), (0, tr (some b)), (1, ti a1), (2, ti a2), (3, ti a3), (5, ti a5)]) dX6_sortsOf_75 (E.lt (by decide)) rfl ?_
  refine r_iinc (lv' := [(5, ti (wr (a5 + 1))), (4, ti k0), (0, tr (some b)), (1, ti a1), (2, ti a2), (3, ti a3)]) dX6_sortsOf_77 5 rfl (E.lt (by decide)) rfl ?_
  refine r_goto 15 dX6_sortsOf_80 (by decide) ?_
  refine r_sub [2, 3, 4, 5, 1, 0] rfl ?_
  exact hK15 a1 a2 a3 k0 (wr (a5 + 1)) ha1 ha2 ha3 hk0 (wr_r _) e
def fX6_sortsOf_b70 (K4 : Sg → Int → Int → Int → Option (Int)) (K15 : Sg → Int → Int → Int → Int → Int → Option (Int)) (s : Sg) (a1 : Int) (a2 : Int) (a3 : Int) (a5 : Int) : Option (Int) := fX6_sortsOf_b75 K4 K15 s a1 a2 a3 a5 1
theorem wX6_sortsOf_b70 {N : Nx} {b : Nat} {ad : Nat → Nat} {s : Sg} {h : hS} {r : Int} (E : EndX N [(6, b, ad)] 6 (some .int) (some (ti r)) [s] h) (K4 : Sg → Int → Int → Int → Option (Int)) (hK4 : ∀ (a1 : Int) (a2 : Int) (a3 : Int) (ha1 : rI a1) (ha2 : rI a2) (ha3 : rI a3), K4 s a1 a2 a3 = some (r) → AtPc cX6_sortsOf RX6 1 21 N [s] h 4 [(0, tr (some b)), (1, ti a1), (2, ti a2), (3, ti a3)] []) (K15 : Sg → Int → Int → Int → Int → Int → Option (Int)) (hK15 : ∀ (a1 : Int) (a2 : Int) (a3 : Int) (a4 : Int) (a5 : Int) (ha1 : rI a1) (ha2 : rI a2) (ha3 : rI a3) (ha4 : rI a4) (ha5 : rI a5), K15 s a1 a2 a3 a4 a5 = some (r) → AtPc cX6_sortsOf RX6 1 21 N [s] h 15 [(0, tr (some b)), (1, ti a1), (2, ti a2), (3, ti a3), (4, ti a4), (5, ti a5)] []) (a1 : Int) (a2 : Int) (a3 : Int) (a5 : Int) (ha1 : rI a1) (ha2 : rI a2) (ha3 : rI a3) (ha5 : rI a5) (e : fX6_sortsOf_b70 K4 K15 s a1 a2 a3 a5 = some (r)) : AtPc cX6_sortsOf RX6 1 21 N [s] h 70 [(0, tr (some b)), (1, ti a1), (2, ti a2), (3, ti a3), (5, ti a5)] [] := by
  unfold fX6_sortsOf_b70 at e
  refine r_rrs E.p (fun rr => ?_)
  refine r_iconst dX6_sortsOf_70 ?_
  refine r_goto 75 dX6_sortsOf_71 (by decide) ?_
  exact wX6_sortsOf_b75 E K4 hK4 K15 hK15 a1 a2 a3 a5 1 ha1 ha2 ha3 ha5 (by decide) e
def fX6_sortsOf_b74 (K4 : Sg → Int → Int → Int → Option (Int)) (K15 : Sg → Int → Int → Int → Int → Int → Option (Int)) (s : Sg) (a1 : Int) (a2 : Int) (a3 : Int) (a5 : Int) : Option (Int) := fX6_sortsOf_b75 K4 K15 s a1 a2 a3 a5 0
theorem wX6_sortsOf_b74 {N : Nx} {b : Nat} {ad : Nat → Nat} {s : Sg} {h : hS} {r : Int} (E : EndX N [(6, b, ad)] 6 (some .int) (some (ti r)) [s] h) (K4 : Sg → Int → Int → Int → Option (Int)) (hK4 : ∀ (a1 : Int) (a2 : Int) (a3 : Int) (ha1 : rI a1) (ha2 : rI a2) (ha3 : rI a3), K4 s a1 a2 a3 = some (r) → AtPc cX6_sortsOf RX6 1 21 N [s] h 4 [(0, tr (some b)), (1, ti a1), (2, ti a2), (3, ti a3)] []) (K15 : Sg → Int → Int → Int → Int → Int → Option (Int)) (hK15 : ∀ (a1 : Int) (a2 : Int) (a3 : Int) (a4 : Int) (a5 : Int) (ha1 : rI a1) (ha2 : rI a2) (ha3 : rI a3) (ha4 : rI a4) (ha5 : rI a5), K15 s a1 a2 a3 a4 a5 = some (r) → AtPc cX6_sortsOf RX6 1 21 N [s] h 15 [(0, tr (some b)), (1, ti a1), (2, ti a2), (3, ti a3), (4, ti a4), (5, ti a5)] []) (a1 : Int) (a2 : Int) (a3 : Int) (a5 : Int) (ha1 : rI a1) (ha2 : rI a2) (ha3 : rI a3) (ha5 : rI a5) (e : fX6_sortsOf_b74 K4 K15 s a1 a2 a3 a5 = some (r)) : AtPc cX6_sortsOf RX6 1 21 N [s] h 74 [(0, tr (some b)), (1, ti a1), (2, ti a2), (3, ti a3), (5, ti a5)] [] := by
  unfold fX6_sortsOf_b74 at e
  refine r_rrs E.p (fun rr => ?_)
  refine r_iconst dX6_sortsOf_74 ?_
  exact wX6_sortsOf_b75 E K4 hK4 K15 hK15 a1 a2 a3 a5 0 ha1 ha2 ha3 ha5 (by decide) e
def fX6_sortsOf_b67 (K4 : Sg → Int → Int → Int → Option (Int)) (K15 : Sg → Int → Int → Int → Int → Int → Option (Int)) (s : Sg) (a1 : Int) (a2 : Int) (a3 : Int) (a5 : Int) (k0 : Int) (k1 : Int) : Option (Int) := if ¬ k0 = k1 then fX6_sortsOf_b74 K4 K15 s a1 a2 a3 a5 else fX6_sortsOf_b70 K4 K15 s a1 a2 a3 a5
theorem wX6_sortsOf_b67 {N : Nx} {b : Nat} {ad : Nat → Nat} {s : Sg} {h : hS} {r : Int} (E : EndX N [(6, b, ad)] 6 (some .int) (some (ti r)) [s] h) (K4 : Sg → Int → Int → Int → Option (Int)) (hK4 : ∀ (a1 : Int) (a2 : Int) (a3 : Int) (ha1 : rI a1) (ha2 : rI a2) (ha3 : rI a3), K4 s a1 a2 a3 = some (r) → AtPc cX6_sortsOf RX6 1 21 N [s] h 4 [(0, tr (some b)), (1, ti a1), (2, ti a2), (3, ti a3)] []) (K15 : Sg → Int → Int → Int → Int → Int → Option (Int)) (hK15 : ∀ (a1 : Int) (a2 : Int) (a3 : Int) (a4 : Int) (a5 : Int) (ha1 : rI a1) (ha2 : rI a2) (ha3 : rI a3) (ha4 : rI a4) (ha5 : rI a5), K15 s a1 a2 a3 a4 a5 = some (r) → AtPc cX6_sortsOf RX6 1 21 N [s] h 15 [(0, tr (some b)), (1, ti a1), (2, ti a2), (3, ti a3), (4, ti a4), (5, ti a5)] []) (a1 : Int) (a2 : Int) (a3 : Int) (a5 : Int) (k0 : Int) (k1 : Int) (ha1 : rI a1) (ha2 : rI a2) (ha3 : rI a3) (ha5 : rI a5) (hk0 : rI k0) (hk1 : rI k1) (e : fX6_sortsOf_b67 K4 K15 s a1 a2 a3 a5 k0 k1 = some (r)) : AtPc cX6_sortsOf RX6 1 21 N [s] h 67 [(0, tr (some b)), (1, ti a1), (2, ti a2), (3, ti a3), (5, ti a5)] [ti k1, ti k0] := by
  unfold fX6_sortsOf_b67 at e
  refine r_rrs E.p (fun rr => ?_)
  have eT := (r_ifo e).1
  have eF := (r_ifo e).2
  refine r_icmp_ne hk0 hk1 74 dX6_sortsOf_67 (by decide) (fun c1 => ?_) (fun c1 => ?_)
  · have e := eT c1
    exact wX6_sortsOf_b74 E K4 hK4 K15 hK15 a1 a2 a3 a5 ha1 ha2 ha3 ha5 e
  · have e := eF c1
    exact wX6_sortsOf_b70 E K4 hK4 K15 hK15 a1 a2 a3 a5 ha1 ha2 ha3 ha5 e
def fX6_sortsOf_b96 (K4 : Sg → Int → Int → Int → Option (Int)) (s : Sg) (a1 : Int) (a3 : Int) (k0 : Int) (k1 : Int) : Option (Int) := K4 s a1 (ior k0 k1) (wr (a3 + 1))
theorem wX6_sortsOf_b96 {N : Nx} {b : Nat} {ad : Nat → Nat} {s : Sg} {h : hS} {r : Int} (E : EndX N [(6, b, ad)] 6 (some .int) (some (ti r)) [s] h) (K4 : Sg → Int → Int → Int → Option (Int)) (hK4 : ∀ (a1 : Int) (a2 : Int) (a3 : Int) (ha1 : rI a1) (ha2 : rI a2) (ha3 : rI a3), K4 s a1 a2 a3 = some (r) → AtPc cX6_sortsOf RX6 1 21 N [s] h 4 [(0, tr (some b)), (1, ti a1), (2, ti a2), (3, ti a3)] []) (a1 : Int) (a3 : Int) (k0 : Int) (k1 : Int) (ha1 : rI a1) (ha3 : rI a3) (hk0 : rI k0) (hk1 : rI k1) (e : fX6_sortsOf_b96 K4 s a1 a3 k0 k1 = some (r)) : AtPc cX6_sortsOf RX6 1 21 N [s] h 96 [(0, tr (some b)), (1, ti a1), (3, ti a3)] [ti k1, ti k0] := by
  unfold fX6_sortsOf_b96 at e
  refine r_rrs E.p (fun rr => ?_)
  refine r_ior dX6_sortsOf_96 ?_
  refine r_istore_n (lv' := [(2, ti (ior k0 k1)), (0, tr (some b)), (1, ti a1), (3, ti a3)]) dX6_sortsOf_97 rfl (E.lt (by decide)) rfl ?_
  refine r_iinc (lv' := [(3, ti (wr (a3 + 1))), (2, ti (ior k0 k1)), (0, tr (some b)), (1, ti a1)]) dX6_sortsOf_98 3 rfl (E.lt (by decide)) rfl ?_
  refine r_goto 4 dX6_sortsOf_101 (by decide) ?_
  refine r_sub [2, 3, 1, 0] rfl ?_
  exact hK4 a1 (ior k0 k1) (wr (a3 + 1)) ha1 (ior_r _ _) (wr_r _) e
def fX6_sortsOf_b15 (K4 : Sg → Int → Int → Int → Option (Int)) (K15 : Sg → Int → Int → Int → Int → Int → Option (Int)) (s : Sg) (a1 : Int) (a2 : Int) (a3 : Int) (a4 : Int) (a5 : Int) : Option (Int) := if (gI s 15) ≤ a5 then if a4 = 0 then fX6_sortsOf_b96 K4 s a1 a3 a2 0 else fX6_sortsOf_b96 K4 s a1 a3 a2 (ishl 1 a3) else if a4 = 0 then fX6_sortsOf_b74 K4 K15 s a1 a2 a3 a5 else gd (inb a5 6) (if ¬ (gA s 16 a5) = a1 then fX6_sortsOf_b70 K4 K15 s a1 a2 a3 a5 else gd (inb a5 6) (bd (fX6_could a3 (gA s 17 a5)) fun p7 => gd (inb a5 6) (if ¬ (gA s 18 a5) = 1 then fX6_sortsOf_b67 K4 K15 s a1 a2 a3 a5 p7 0 else fX6_sortsOf_b67 K4 K15 s a1 a2 a3 a5 p7 1)))
theorem wX6_sortsOf_b15 {N : Nx} {b : Nat} {ad : Nat → Nat} {s : Sg} {h : hS} {r : Int} (E : EndX N [(6, b, ad)] 6 (some .int) (some (ti r)) [s] h) (K4 : Sg → Int → Int → Int → Option (Int)) (hK4 : ∀ (a1 : Int) (a2 : Int) (a3 : Int) (ha1 : rI a1) (ha2 : rI a2) (ha3 : rI a3), K4 s a1 a2 a3 = some (r) → AtPc cX6_sortsOf RX6 1 21 N [s] h 4 [(0, tr (some b)), (1, ti a1), (2, ti a2), (3, ti a3)] []) (K15 : Sg → Int → Int → Int → Int → Int → Option (Int)) (hK15 : ∀ (a1 : Int) (a2 : Int) (a3 : Int) (a4 : Int) (a5 : Int) (ha1 : rI a1) (ha2 : rI a2) (ha3 : rI a3) (ha4 : rI a4) (ha5 : rI a5), K15 s a1 a2 a3 a4 a5 = some (r) → AtPc cX6_sortsOf RX6 1 21 N [s] h 15 [(0, tr (some b)), (1, ti a1), (2, ti a2), (3, ti a3), (4, ti a4), (5, ti a5)] []) (a1 : Int) (a2 : Int) (a3 : Int) (a4 : Int) (a5 : Int) (ha1 : rI a1) (ha2 : rI a2) (ha3 : rI a3) (ha4 : rI a4) (ha5 : rI a5) (e : fX6_sortsOf_b15 K4 K15 s a1 a2 a3 a4 a5 = some (r)) : AtPc cX6_sortsOf RX6 1 21 N [s] h 15 [(0, tr (some b)), (1, ti a1), (2, ti a2), (3, ti a3), (4, ti a4), (5, ti a5)] [] := by
  unfold fX6_sortsOf_b15 at e
  refine r_rrs E.p (fun rr => ?_)
  refine r_iload dX6_sortsOf_15 5 rfl ?_
  refine r_aload_n dX6_sortsOf_17 rfl 0 rfl ?_
  refine r_sI E.p 15 fG_X6_230 (by decide) dX6_sortsOf_18 ?_
  have eT := (r_ifo e).1
  have eF := (r_ifo e).2
  refine r_icmp_ge ha5 ((rr.mine rfl).i 15 (by decide) (by decide)) 83 dX6_sortsOf_21 (by decide) (fun c1 => ?_) (fun c1 => ?_)
  · have e := eT c1
    refine r_iload_n dX6_sortsOf_83 rfl 2 rfl ?_
    refine r_iload dX6_sortsOf_84 4 rfl ?_
    have eT := (r_ifo e).1
    have eF := (r_ifo e).2
    refine r_if_eq ha4 95 dX6_sortsOf_86 (by decide) (fun c2 => ?_) (fun c2 => ?_)
    · have e := eT c2
      refine r_iconst dX6_sortsOf_95 ?_
      refine r_sub [0, 1, 3] rfl ?_
      exact wX6_sortsOf_b96 E K4 hK4 a1 a3 a2 0 ha1 ha3 ha2 (by decide) e
    · have e := eF c2
      refine r_iconst dX6_sortsOf_89 ?_
      refine r_iload_n dX6_sortsOf_90 rfl 3 rfl ?_
      refine r_ishl dX6_sortsOf_91 ?_
      refine r_goto 96 dX6_sortsOf_92 (by decide) ?_
      refine r_sub [0, 1, 3] rfl ?_
      exact wX6_sortsOf_b96 E K4 hK4 a1 a3 a2 (ishl 1 a3) ha1 ha3 ha2 (ishl_r _ _) e
  · have e := eF c1
    refine r_iload dX6_sortsOf_24 4 rfl ?_
    have eT := (r_ifo e).1
    have eF := (r_ifo e).2
    refine r_if_eq ha4 74 dX6_sortsOf_26 (by decide) (fun c3 => ?_) (fun c3 => ?_)
    · have e := eT c3
      refine r_sub [0, 1, 2, 3, 5] rfl ?_
      exact wX6_sortsOf_b74 E K4 hK4 K15 hK15 a1 a2 a3 a5 ha1 ha2 ha3 ha5 e
    · have e := eF c3
      refine r_aload_n dX6_sortsOf_29 rfl 0 rfl ?_
      refine r_sR E.p 16 fG_X6_46 (by decide) dX6_sortsOf_30 ?_
      refine r_iload dX6_sortsOf_33 5 rfl ?_
      obtain ⟨g4, e⟩ := gd_o e
      refine r_saI E.p 16 rfl (by decide) (by decide) ha5 g4 rfl dX6_sortsOf_35 ?_
      refine r_iload_n dX6_sortsOf_36 rfl 1 rfl ?_
      have eT := (r_ifo e).1
      have eF := (r_ifo e).2
      refine r_icmp_ne (((rr.mine rfl).a 16 (by decide) rfl).1 _) ha1 70 dX6_sortsOf_37 (by decide) (fun c5 => ?_) (fun c5 => ?_)
      · have e := eT c5
        refine r_sub [0, 1, 2, 3, 5] rfl ?_
        exact wX6_sortsOf_b70 E K4 hK4 K15 hK15 a1 a2 a3 a5 ha1 ha2 ha3 ha5 e
      · have e := eF c5
        refine r_iload_n dX6_sortsOf_40 rfl 3 rfl ?_
        refine r_aload_n dX6_sortsOf_41 rfl 0 rfl ?_
        refine r_sR E.p 17 fG_X6_49 (by decide) dX6_sortsOf_42 ?_
        refine r_iload dX6_sortsOf_45 5 rfl ?_
        obtain ⟨g6, e⟩ := gd_o e
        refine r_saI E.p 17 rfl (by decide) (by decide) ha5 g6 rfl dX6_sortsOf_47 ?_
        obtain ⟨p7, q8, e⟩ := bd_o e
        have k9 := kX6_could (G := nG N) (h := h) ha3 (((rr.mine rfl).a 17 (by decide) rfl).1 _) q8
        have z10 := (k9 rr.none).1.2.2.2
        refine r_callS (j := none) 2 [ti a3, ti (gA s 17 a5)] k9 (injO_1 E.p) subO_0 getO_0 setO_0 (lw_S q1730 q1731 q123 q1732) (by decide +kernel) rfl (Nat.le_of_ble_eq_true rfl) (Nat.le_of_ble_eq_true rfl) rfl (Nat.le_of_ble_eq_true rfl) dX6_sortsOf_48 rfl ?_
        refine r_aload_n dX6_sortsOf_51 rfl 0 rfl ?_
        refine r_sR E.p 18 fG_X6_52 (by decide) dX6_sortsOf_52 ?_
        refine r_iload dX6_sortsOf_55 5 rfl ?_
        obtain ⟨g11, e⟩ := gd_o e
        refine r_saI E.p 18 rfl (by decide) (by decide) ha5 g11 rfl dX6_sortsOf_57 ?_
        refine r_iconst dX6_sortsOf_58 ?_
        have eT := (r_ifo e).1
        have eF := (r_ifo e).2
        refine r_icmp_ne (((rr.mine rfl).a 18 (by decide) rfl).1 _) (by decide) 66 dX6_sortsOf_59 (by decide) (fun c12 => ?_) (fun c12 => ?_)
        · have e := eT c12
          refine r_iconst dX6_sortsOf_66 ?_
          refine r_sub [0, 1, 2, 3, 5] rfl ?_
          exact wX6_sortsOf_b67 E K4 hK4 K15 hK15 a1 a2 a3 a5 p7 0 ha1 ha2 ha3 ha5 (rI_z z10) (by decide) e
        · have e := eF c12
          refine r_iconst dX6_sortsOf_62 ?_
          refine r_goto 67 dX6_sortsOf_63 (by decide) ?_
          refine r_sub [0, 1, 2, 3, 5] rfl ?_
          exact wX6_sortsOf_b67 E K4 hK4 K15 hK15 a1 a2 a3 a5 p7 1 ha1 ha2 ha3 ha5 (rI_z z10) (by decide) e
def fX6_sortsOf_L15 (K4 : Sg → Int → Int → Int → Option (Int)) : Nat → Sg → Int → Int → Int → Int → Int → Option (Int)
  | 0, _, _, _, _, _, _ => none
  | n9 + 1, s, a1, a2, a3, a4, a5 => fX6_sortsOf_b15 K4 (fX6_sortsOf_L15 K4 n9) s a1 a2 a3 a4 a5
theorem wX6_sortsOf_L15 {N : Nx} {b : Nat} {ad : Nat → Nat} {s : Sg} {h : hS} {r : Int} (E : EndX N [(6, b, ad)] 6 (some .int) (some (ti r)) [s] h) (K4 : Sg → Int → Int → Int → Option (Int)) (hK4 : ∀ (a1 : Int) (a2 : Int) (a3 : Int) (ha1 : rI a1) (ha2 : rI a2) (ha3 : rI a3), K4 s a1 a2 a3 = some (r) → AtPc cX6_sortsOf RX6 1 21 N [s] h 4 [(0, tr (some b)), (1, ti a1), (2, ti a2), (3, ti a3)] []) : ∀ (n9 : Nat), ∀ (a1 : Int) (a2 : Int) (a3 : Int) (a4 : Int) (a5 : Int) (ha1 : rI a1) (ha2 : rI a2) (ha3 : rI a3) (ha4 : rI a4) (ha5 : rI a5), fX6_sortsOf_L15 K4 n9 s a1 a2 a3 a4 a5 = some (r) → AtPc cX6_sortsOf RX6 1 21 N [s] h 15 [(0, tr (some b)), (1, ti a1), (2, ti a2), (3, ti a3), (4, ti a4), (5, ti a5)] [] := by
  intro n9
  induction n9 with
  | zero => intro a1 a2 a3 a4 a5 ha1 ha2 ha3 ha4 ha5 e; cases e
  | succ n9 ih => intro a1 a2 a3 a4 a5 ha1 ha2 ha3 ha4 ha5 e; exact wX6_sortsOf_b15 E K4 hK4 _ ih a1 a2 a3 a4 a5 ha1 ha2 ha3 ha4 ha5 e
def fX6_sortsOf_b4 (K4 : Sg → Int → Int → Int → Option (Int)) (s : Sg) (a1 : Int) (a2 : Int) (a3 : Int) : Option (Int) := if 4 < a3 then some a2 else fX6_sortsOf_L15 K4 FU s a1 a2 a3 1 0
theorem wX6_sortsOf_b4 {N : Nx} {b : Nat} {ad : Nat → Nat} {s : Sg} {h : hS} {r : Int} (E : EndX N [(6, b, ad)] 6 (some .int) (some (ti r)) [s] h) (K4 : Sg → Int → Int → Int → Option (Int)) (hK4 : ∀ (a1 : Int) (a2 : Int) (a3 : Int) (ha1 : rI a1) (ha2 : rI a2) (ha3 : rI a3), K4 s a1 a2 a3 = some (r) → AtPc cX6_sortsOf RX6 1 21 N [s] h 4 [(0, tr (some b)), (1, ti a1), (2, ti a2), (3, ti a3)] []) (a1 : Int) (a2 : Int) (a3 : Int) (ha1 : rI a1) (ha2 : rI a2) (ha3 : rI a3) (e : fX6_sortsOf_b4 K4 s a1 a2 a3 = some (r)) : AtPc cX6_sortsOf RX6 1 21 N [s] h 4 [(0, tr (some b)), (1, ti a1), (2, ti a2), (3, ti a3)] [] := by
  unfold fX6_sortsOf_b4 at e
  refine r_rrs E.p (fun rr => ?_)
  refine r_iload_n dX6_sortsOf_4 rfl 3 rfl ?_
  refine r_iconst dX6_sortsOf_5 ?_
  have eT := (r_ifo e).1
  have eF := (r_ifo e).2
  refine r_icmp_gt ha3 (by decide) 104 dX6_sortsOf_6 (by decide) (fun c1 => ?_) (fun c1 => ?_)
  · have e := eT c1
    refine r_iload_n dX6_sortsOf_104 rfl 2 rfl ?_
    cases e
    exact r_iret E.σ E.st E.rt E.r ha2 dX6_sortsOf_105
  · have e := eF c1
    refine r_iconst dX6_sortsOf_9 ?_
    refine r_istore (lv' := [(4, ti 1), (0, tr (some b)), (1, ti a1), (2, ti a2), (3, ti a3)]) dX6_sortsOf_10 (E.lt (by decide)) rfl ?_
    refine r_iconst dX6_sortsOf_12 ?_
    refine r_istore (lv' := [(5, ti 0), (4, ti 1), (0, tr (some b)), (1, ti a1), (2, ti a2), (3, ti a3)]) dX6_sortsOf_13 (E.lt (by decide)) rfl ?_
    refine r_sub [2, 3, 4, 5, 1, 0] rfl ?_
    exact wX6_sortsOf_L15 E K4 hK4 FU a1 a2 a3 1 0 ha1 ha2 ha3 (by decide) (by decide) e
def fX6_sortsOf_L4  : Nat → Sg → Int → Int → Int → Option (Int)
  | 0, _, _, _, _ => none
  | n9 + 1, s, a1, a2, a3 => fX6_sortsOf_b4 (fX6_sortsOf_L4 n9) s a1 a2 a3
theorem wX6_sortsOf_L4 {N : Nx} {b : Nat} {ad : Nat → Nat} {s : Sg} {h : hS} {r : Int} (E : EndX N [(6, b, ad)] 6 (some .int) (some (ti r)) [s] h)  : ∀ (n9 : Nat), ∀ (a1 : Int) (a2 : Int) (a3 : Int) (ha1 : rI a1) (ha2 : rI a2) (ha3 : rI a3), fX6_sortsOf_L4 n9 s a1 a2 a3 = some (r) → AtPc cX6_sortsOf RX6 1 21 N [s] h 4 [(0, tr (some b)), (1, ti a1), (2, ti a2), (3, ti a3)] [] := by
  intro n9
  induction n9 with
  | zero => intro a1 a2 a3 ha1 ha2 ha3 e; cases e
  | succ n9 ih => intro a1 a2 a3 ha1 ha2 ha3 e; exact wX6_sortsOf_b4 E _ ih a1 a2 a3 ha1 ha2 ha3 e
def fX6_sortsOf  (s : Sg) (a1 : Int) : Option (Int) := fX6_sortsOf_L4 FU s a1 0 0
theorem kX6_sortsOf {G : Gx}  {b : Nat} {ad : Nat → Nat} {s : Sg} {h : hS} {r : Int} {a1 : Int}  (ha1 : rI a1) (e : fX6_sortsOf s a1 = some (r)) : CtX G yX6_sortsOf cX6_sortsOf 6 (some .int) 1 21 [(6, b, ad)] [s] h [tr (some b), ti a1] (some (ti r)) [s] h := by
  refine CtX.of (by decide) (Nat.le_of_ble_eq_true rfl) [(0, tr (some b)), (1, ti a1)] rfl ?_
  have E : EndX (G, 6, [(6, b, ad)], h, [s], h, (some .int), (some (ti r)), yX6_sortsOf.name) [(6, b, ad)] 6 (some .int) (some (ti r)) [s] h := ⟨rfl, rfl, rfl, rfl, rfl, rfl⟩
  unfold fX6_sortsOf at e
  refine r_rrs E.p (fun rr => ?_)
  refine r_iconst dX6_sortsOf_0 ?_
  refine r_istore_n (lv' := [(2, ti 0), (0, tr (some b)), (1, ti a1)]) dX6_sortsOf_1 rfl (E.lt (by decide)) rfl ?_
  refine r_iconst dX6_sortsOf_2 ?_
  refine r_istore_n (lv' := [(3, ti 0), (2, ti 0), (0, tr (some b)), (1, ti a1)]) dX6_sortsOf_3 rfl (E.lt (by decide)) rfl ?_
  refine r_sub [2, 3, 1, 0] rfl ?_
  exact wX6_sortsOf_L4 E FU a1 0 0 ha1 (by decide) (by decide) e
def fX6_size_b4 (K4 : Int → Int → Int → Option (Int)) (a0 : Int) (a1 : Int) (a2 : Int) : Option (Int) := if 16 ≤ a2 then some a1 else K4 a0 (wr (a1 + (iand (ishr a0 a2) 1))) (wr (a2 + 1))
theorem wX6_size_b4 {N : Nx} {h : hS} {r : Int} (E : EndX N [] 3 (some .int) (some (ti r)) [] h) (K4 : Int → Int → Int → Option (Int)) (hK4 : ∀ (a0 : Int) (a1 : Int) (a2 : Int) (ha0 : rI a0) (ha1 : rI a1) (ha2 : rI a2), K4 a0 a1 a2 = some (r) → AtPc cX6_size RX6 0 0 N [] h 4 [(0, ti a0), (1, ti a1), (2, ti a2)] []) (a0 : Int) (a1 : Int) (a2 : Int) (ha0 : rI a0) (ha1 : rI a1) (ha2 : rI a2) (e : fX6_size_b4 K4 a0 a1 a2 = some (r)) : AtPc cX6_size RX6 0 0 N [] h 4 [(0, ti a0), (1, ti a1), (2, ti a2)] [] := by
  unfold fX6_size_b4 at e
  refine r_rrs E.p (fun rr => ?_)
  refine r_iload_n dX6_size_4 rfl 2 rfl ?_
  refine r_bipush dX6_size_5 (by decide) ?_
  have eT := (r_ifo e).1
  have eF := (r_ifo e).2
  refine r_icmp_ge ha2 (by decide) 24 dX6_size_7 (by decide) (fun c1 => ?_) (fun c1 => ?_)
  · have e := eT c1
    refine r_iload_n dX6_size_24 rfl 1 rfl ?_
    cases e
    exact r_iret E.σ E.st E.rt E.r ha1 dX6_size_25
  · have e := eF c1
    refine r_iload_n dX6_size_10 rfl 1 rfl ?_
    refine r_iload_n dX6_size_11 rfl 0 rfl ?_
    refine r_iload_n dX6_size_12 rfl 2 rfl ?_
    refine r_ishr dX6_size_13 ?_
    refine r_iconst dX6_size_14 ?_
    refine r_iand dX6_size_15 ?_
    refine r_iadd dX6_size_16 ?_
    refine r_istore_n (lv' := [(1, ti (wr (a1 + (iand (ishr a0 a2) 1)))), (0, ti a0), (2, ti a2)]) dX6_size_17 rfl (E.lt (by decide)) rfl ?_
    refine r_iinc (lv' := [(2, ti (wr (a2 + 1))), (1, ti (wr (a1 + (iand (ishr a0 a2) 1)))), (0, ti a0)]) dX6_size_18 2 rfl (E.lt (by decide)) rfl ?_
    refine r_goto 4 dX6_size_21 (by decide) ?_
    refine r_sub [2, 1, 0] rfl ?_
    exact hK4 a0 (wr (a1 + (iand (ishr a0 a2) 1))) (wr (a2 + 1)) ha0 (wr_r _) (wr_r _) e
def fX6_size_L4  : Nat → Int → Int → Int → Option (Int)
  | 0, _, _, _ => none
  | n9 + 1, a0, a1, a2 => fX6_size_b4 (fX6_size_L4 n9) a0 a1 a2
theorem wX6_size_L4 {N : Nx} {h : hS} {r : Int} (E : EndX N [] 3 (some .int) (some (ti r)) [] h)  : ∀ (n9 : Nat), ∀ (a0 : Int) (a1 : Int) (a2 : Int) (ha0 : rI a0) (ha1 : rI a1) (ha2 : rI a2), fX6_size_L4 n9 a0 a1 a2 = some (r) → AtPc cX6_size RX6 0 0 N [] h 4 [(0, ti a0), (1, ti a1), (2, ti a2)] [] := by
  intro n9
  induction n9 with
  | zero => intro a0 a1 a2 ha0 ha1 ha2 e; cases e
  | succ n9 ih => intro a0 a1 a2 ha0 ha1 ha2 e; exact wX6_size_b4 E _ ih a0 a1 a2 ha0 ha1 ha2 e
def fX6_size  (a0 : Int) : Option (Int) := fX6_size_L4 FU a0 0 0
theorem kX6_size {G : Gx}  {h : hS} {r : Int} {a0 : Int}  (ha0 : rI a0) (e : fX6_size a0 = some (r)) : CtX G yX6_size cX6_size 3 (some .int) 0 0 [] [] h [ti a0] (some (ti r)) [] h := by
  refine CtX.of (by decide) (Nat.le_of_ble_eq_true rfl) [(0, ti a0)] rfl ?_
  have E : EndX (G, 3, [], h, [], h, (some .int), (some (ti r)), yX6_size.name) [] 3 (some .int) (some (ti r)) [] h := ⟨rfl, rfl, rfl, rfl, rfl, rfl⟩
  unfold fX6_size at e
  refine r_rrs E.p (fun rr => ?_)
  refine r_iconst dX6_size_0 ?_
  refine r_istore_n (lv' := [(1, ti 0), (0, ti a0)]) dX6_size_1 rfl (E.lt (by decide)) rfl ?_
  refine r_iconst dX6_size_2 ?_
  refine r_istore_n (lv' := [(2, ti 0), (1, ti 0), (0, ti a0)]) dX6_size_3 rfl (E.lt (by decide)) rfl ?_
  refine r_sub [2, 1, 0] rfl ?_
  exact wX6_size_L4 E FU a0 0 0 ha0 (by decide) (by decide) e
def fX6_askOf_b64 (K16 : Sg → Int → Int → Int → Int → Option (Int)) (K32 : Sg → Int → Int → Int → Int → Int → Int → Option (Int)) (s : Sg) (a2 : Int) (a3 : Int) (a4 : Int) (a5 : Int) (a7 : Int) (k0 : Int) (k1 : Int) : Option (Int) := K32 s a2 a3 a4 a5 (wr (k0 + k1)) (wr (a7 + 1))
theorem wX6_askOf_b64 {N : Nx} {b : Nat} {ad : Nat → Nat} {s : Sg} {h : hS} {r : Int} (E : EndX N [(6, b, ad)] 9 (some .int) (some (ti r)) [s] h) (K16 : Sg → Int → Int → Int → Int → Option (Int)) (hK16 : ∀ (a2 : Int) (a3 : Int) (a4 : Int) (a5 : Int) (ha2 : rI a2) (ha3 : rI a3) (ha4 : rI a4) (ha5 : rI a5), K16 s a2 a3 a4 a5 = some (r) → AtPc cX6_askOf RX6 2 46 N [s] h 16 [(2, ti a2), (3, ti a3), (4, ti a4), (5, ti a5)] []) (K32 : Sg → Int → Int → Int → Int → Int → Int → Option (Int)) (hK32 : ∀ (a2 : Int) (a3 : Int) (a4 : Int) (a5 : Int) (a6 : Int) (a7 : Int) (ha2 : rI a2) (ha3 : rI a3) (ha4 : rI a4) (ha5 : rI a5) (ha6 : rI a6) (ha7 : rI a7), K32 s a2 a3 a4 a5 a6 a7 = some (r) → AtPc cX6_askOf RX6 2 46 N [s] h 32 [(2, ti a2), (3, ti a3), (4, ti a4), (5, ti a5), (6, ti a6), (7, ti a7)] []) (a2 : Int) (a3 : Int) (a4 : Int) (a5 : Int) (a7 : Int) (k0 : Int) (k1 : Int) (ha2 : rI a2) (ha3 : rI a3) (ha4 : rI a4) (ha5 : rI a5) (ha7 : rI a7) (hk0 : rI k0) (hk1 : rI k1) (e : fX6_askOf_b64 K16 K32 s a2 a3 a4 a5 a7 k0 k1 = some (r)) : AtPc cX6_askOf RX6 2 46 N [s] h 64 [(2, ti a2), (3, ti a3), (4, ti a4), (5, ti a5), (7, ti a7)] [ti k1, ti k0] := by
  unfold fX6_askOf_b64 at e
  refine r_rrs E.p (fun rr => ?_)
  refine r_iadd dX6_askOf_64 ?_
  refine r_istore (lv' := [(6, ti (wr (k0 + k1))), (2, ti a2), (3, ti a3), (4, ti a4), (5, ti a5), (7, ti a7)]) dX6_askOf_65 (E.lt (by decide)) rfl ?_
  refine r_iinc (lv' := [(7, ti (wr (a7 + 1))), (6, ti (wr (k0 + k1))), (2, ti a2), (3, ti a3), (4, ti a4), (5, ti a5)]) dX6_askOf_67 5 rfl (E.lt (by decide)) rfl ?_
  refine r_goto 32 dX6_askOf_70 (by decide) ?_
  refine r_sub [2, 3, 4, 5, 1, 0] rfl ?_
  exact hK32 a2 a3 a4 a5 (wr (k0 + k1)) (wr (a7 + 1)) ha2 ha3 ha4 ha5 (wr_r _) (wr_r _) e
def fX6_askOf_b63 (K16 : Sg → Int → Int → Int → Int → Option (Int)) (K32 : Sg → Int → Int → Int → Int → Int → Int → Option (Int)) (s : Sg) (a2 : Int) (a3 : Int) (a4 : Int) (a5 : Int) (a7 : Int) (k0 : Int) : Option (Int) := fX6_askOf_b64 K16 K32 s a2 a3 a4 a5 a7 k0 0
theorem wX6_askOf_b63 {N : Nx} {b : Nat} {ad : Nat → Nat} {s : Sg} {h : hS} {r : Int} (E : EndX N [(6, b, ad)] 9 (some .int) (some (ti r)) [s] h) (K16 : Sg → Int → Int → Int → Int → Option (Int)) (hK16 : ∀ (a2 : Int) (a3 : Int) (a4 : Int) (a5 : Int) (ha2 : rI a2) (ha3 : rI a3) (ha4 : rI a4) (ha5 : rI a5), K16 s a2 a3 a4 a5 = some (r) → AtPc cX6_askOf RX6 2 46 N [s] h 16 [(2, ti a2), (3, ti a3), (4, ti a4), (5, ti a5)] []) (K32 : Sg → Int → Int → Int → Int → Int → Int → Option (Int)) (hK32 : ∀ (a2 : Int) (a3 : Int) (a4 : Int) (a5 : Int) (a6 : Int) (a7 : Int) (ha2 : rI a2) (ha3 : rI a3) (ha4 : rI a4) (ha5 : rI a5) (ha6 : rI a6) (ha7 : rI a7), K32 s a2 a3 a4 a5 a6 a7 = some (r) → AtPc cX6_askOf RX6 2 46 N [s] h 32 [(2, ti a2), (3, ti a3), (4, ti a4), (5, ti a5), (6, ti a6), (7, ti a7)] []) (a2 : Int) (a3 : Int) (a4 : Int) (a5 : Int) (a7 : Int) (k0 : Int) (ha2 : rI a2) (ha3 : rI a3) (ha4 : rI a4) (ha5 : rI a5) (ha7 : rI a7) (hk0 : rI k0) (e : fX6_askOf_b63 K16 K32 s a2 a3 a4 a5 a7 k0 = some (r)) : AtPc cX6_askOf RX6 2 46 N [s] h 63 [(2, ti a2), (3, ti a3), (4, ti a4), (5, ti a5), (7, ti a7)] [ti k0] := by
  unfold fX6_askOf_b63 at e
  refine r_rrs E.p (fun rr => ?_)
  refine r_iconst dX6_askOf_63 ?_
  exact wX6_askOf_b64 E K16 hK16 K32 hK32 a2 a3 a4 a5 a7 k0 0 ha2 ha3 ha4 ha5 ha7 hk0 (by decide) e
def fX6_askOf_b126 (K16 : Sg → Int → Int → Int → Int → Option (Int)) (s : Sg) (a2 : Int) (a3 : Int) (a5 : Int) (k0 : Int) : Option (Int) := K16 s a2 a3 k0 (wr (a5 + 1))
theorem wX6_askOf_b126 {N : Nx} {b : Nat} {ad : Nat → Nat} {s : Sg} {h : hS} {r : Int} (E : EndX N [(6, b, ad)] 9 (some .int) (some (ti r)) [s] h) (K16 : Sg → Int → Int → Int → Int → Option (Int)) (hK16 : ∀ (a2 : Int) (a3 : Int) (a4 : Int) (a5 : Int) (ha2 : rI a2) (ha3 : rI a3) (ha4 : rI a4) (ha5 : rI a5), K16 s a2 a3 a4 a5 = some (r) → AtPc cX6_askOf RX6 2 46 N [s] h 16 [(2, ti a2), (3, ti a3), (4, ti a4), (5, ti a5)] []) (a2 : Int) (a3 : Int) (a5 : Int) (k0 : Int) (ha2 : rI a2) (ha3 : rI a3) (ha5 : rI a5) (hk0 : rI k0) (e : fX6_askOf_b126 K16 s a2 a3 a5 k0 = some (r)) : AtPc cX6_askOf RX6 2 46 N [s] h 126 [(2, ti a2), (3, ti a3), (5, ti a5)] [ti k0] := by
  unfold fX6_askOf_b126 at e
  refine r_rrs E.p (fun rr => ?_)
  refine r_istore (lv' := [(4, ti k0), (2, ti a2), (3, ti a3), (5, ti a5)]) dX6_askOf_126 (E.lt (by decide)) rfl ?_
  refine r_iinc (lv' := [(5, ti (wr (a5 + 1))), (4, ti k0), (2, ti a2), (3, ti a3)]) dX6_askOf_128 3 rfl (E.lt (by decide)) rfl ?_
  refine r_goto 16 dX6_askOf_131 (by decide) ?_
  refine r_sub [2, 3, 1, 0] rfl ?_
  exact hK16 a2 a3 k0 (wr (a5 + 1)) ha2 ha3 hk0 (wr_r _) e
def fX6_askOf_b111 (K16 : Sg → Int → Int → Int → Int → Option (Int)) (s : Sg) (a2 : Int) (a4 : Int) (a5 : Int) (a8 : Int) (k0 : Int) : Option (Int) := if a4 ≤ a8 then fX6_askOf_b126 K16 s a2 k0 a5 a4 else fX6_askOf_b126 K16 s a2 k0 a5 a8
theorem wX6_askOf_b111 {N : Nx} {b : Nat} {ad : Nat → Nat} {s : Sg} {h : hS} {r : Int} (E : EndX N [(6, b, ad)] 9 (some .int) (some (ti r)) [s] h) (K16 : Sg → Int → Int → Int → Int → Option (Int)) (hK16 : ∀ (a2 : Int) (a3 : Int) (a4 : Int) (a5 : Int) (ha2 : rI a2) (ha3 : rI a3) (ha4 : rI a4) (ha5 : rI a5), K16 s a2 a3 a4 a5 = some (r) → AtPc cX6_askOf RX6 2 46 N [s] h 16 [(2, ti a2), (3, ti a3), (4, ti a4), (5, ti a5)] []) (a2 : Int) (a4 : Int) (a5 : Int) (a8 : Int) (k0 : Int) (ha2 : rI a2) (ha4 : rI a4) (ha5 : rI a5) (ha8 : rI a8) (hk0 : rI k0) (e : fX6_askOf_b111 K16 s a2 a4 a5 a8 k0 = some (r)) : AtPc cX6_askOf RX6 2 46 N [s] h 111 [(2, ti a2), (4, ti a4), (5, ti a5), (8, ti a8)] [ti k0] := by
  unfold fX6_askOf_b111 at e
  refine r_rrs E.p (fun rr => ?_)
  refine r_istore_n (lv' := [(3, ti k0), (2, ti a2), (4, ti a4), (5, ti a5), (8, ti a8)]) dX6_askOf_111 rfl (E.lt (by decide)) rfl ?_
  refine r_iload dX6_askOf_112 4 rfl ?_
  refine r_iload dX6_askOf_114 2 rfl ?_
  have eT := (r_ifo e).1
  have eF := (r_ifo e).2
  refine r_icmp_ge ha8 ha4 124 dX6_askOf_116 (by decide) (fun c1 => ?_) (fun c1 => ?_)
  · have e := eT c1
    refine r_iload dX6_askOf_124 2 rfl ?_
    refine r_sub [1, 0, 3] rfl ?_
    exact wX6_askOf_b126 E K16 hK16 a2 k0 a5 a4 ha2 hk0 ha5 ha4 e
  · have e := eF c1
    refine r_iload dX6_askOf_119 4 rfl ?_
    refine r_goto 126 dX6_askOf_121 (by decide) ?_
    refine r_sub [1, 0, 3] rfl ?_
    exact wX6_askOf_b126 E K16 hK16 a2 k0 a5 a8 ha2 hk0 ha5 ha8 e
def fX6_askOf_b96 (K16 : Sg → Int → Int → Int → Int → Option (Int)) (s : Sg) (a2 : Int) (a3 : Int) (a4 : Int) (a5 : Int) (k0 : Int) : Option (Int) := if a4 ≤ k0 then fX6_askOf_b111 K16 s a2 a4 a5 k0 a3 else fX6_askOf_b111 K16 s a2 a4 a5 k0 a5
theorem wX6_askOf_b96 {N : Nx} {b : Nat} {ad : Nat → Nat} {s : Sg} {h : hS} {r : Int} (E : EndX N [(6, b, ad)] 9 (some .int) (some (ti r)) [s] h) (K16 : Sg → Int → Int → Int → Int → Option (Int)) (hK16 : ∀ (a2 : Int) (a3 : Int) (a4 : Int) (a5 : Int) (ha2 : rI a2) (ha3 : rI a3) (ha4 : rI a4) (ha5 : rI a5), K16 s a2 a3 a4 a5 = some (r) → AtPc cX6_askOf RX6 2 46 N [s] h 16 [(2, ti a2), (3, ti a3), (4, ti a4), (5, ti a5)] []) (a2 : Int) (a3 : Int) (a4 : Int) (a5 : Int) (k0 : Int) (ha2 : rI a2) (ha3 : rI a3) (ha4 : rI a4) (ha5 : rI a5) (hk0 : rI k0) (e : fX6_askOf_b96 K16 s a2 a3 a4 a5 k0 = some (r)) : AtPc cX6_askOf RX6 2 46 N [s] h 96 [(2, ti a2), (3, ti a3), (4, ti a4), (5, ti a5)] [ti k0] := by
  unfold fX6_askOf_b96 at e
  refine r_rrs E.p (fun rr => ?_)
  refine r_istore (lv' := [(8, ti k0), (2, ti a2), (3, ti a3), (4, ti a4), (5, ti a5)]) dX6_askOf_96 (E.lt (by decide)) rfl ?_
  refine r_iload dX6_askOf_98 0 rfl ?_
  refine r_iload dX6_askOf_100 3 rfl ?_
  have eT := (r_ifo e).1
  have eF := (r_ifo e).2
  refine r_icmp_ge hk0 ha4 110 dX6_askOf_102 (by decide) (fun c1 => ?_) (fun c1 => ?_)
  · have e := eT c1
    refine r_iload_n dX6_askOf_110 rfl 2 rfl ?_
    refine r_sub [1, 3, 4, 0] rfl ?_
    exact wX6_askOf_b111 E K16 hK16 a2 a4 a5 k0 a3 ha2 ha4 ha5 hk0 ha3 e
  · have e := eF c1
    refine r_iload dX6_askOf_105 4 rfl ?_
    refine r_goto 111 dX6_askOf_107 (by decide) ?_
    refine r_sub [1, 3, 4, 0] rfl ?_
    exact wX6_askOf_b111 E K16 hK16 a2 a4 a5 k0 a5 ha2 ha4 ha5 hk0 ha5 e
def fX6_askOf_b32 (K16 : Sg → Int → Int → Int → Int → Option (Int)) (K32 : Sg → Int → Int → Int → Int → Int → Int → Option (Int)) (s : Sg) (a2 : Int) (a3 : Int) (a4 : Int) (a5 : Int) (a6 : Int) (a7 : Int) : Option (Int) := if 4 < a7 then bd (fX6_size a2) fun p2 => if a6 ≤ (wr (p2 - a6)) then fX6_askOf_b96 K16 s a2 a3 a4 a5 (wr (p2 - a6)) else fX6_askOf_b96 K16 s a2 a3 a4 a5 a6 else bd (fX6_isIn a2 a7) fun p7 => if p7 = 0 then fX6_askOf_b63 K16 K32 s a2 a3 a4 a5 a7 a6 else bd (fX6_could a7 a5) fun p12 => if p12 = 0 then fX6_askOf_b63 K16 K32 s a2 a3 a4 a5 a7 a6 else fX6_askOf_b64 K16 K32 s a2 a3 a4 a5 a7 a6 1
theorem wX6_askOf_b32 {N : Nx} {b : Nat} {ad : Nat → Nat} {s : Sg} {h : hS} {r : Int} (E : EndX N [(6, b, ad)] 9 (some .int) (some (ti r)) [s] h) (K16 : Sg → Int → Int → Int → Int → Option (Int)) (hK16 : ∀ (a2 : Int) (a3 : Int) (a4 : Int) (a5 : Int) (ha2 : rI a2) (ha3 : rI a3) (ha4 : rI a4) (ha5 : rI a5), K16 s a2 a3 a4 a5 = some (r) → AtPc cX6_askOf RX6 2 46 N [s] h 16 [(2, ti a2), (3, ti a3), (4, ti a4), (5, ti a5)] []) (K32 : Sg → Int → Int → Int → Int → Int → Int → Option (Int)) (hK32 : ∀ (a2 : Int) (a3 : Int) (a4 : Int) (a5 : Int) (a6 : Int) (a7 : Int) (ha2 : rI a2) (ha3 : rI a3) (ha4 : rI a4) (ha5 : rI a5) (ha6 : rI a6) (ha7 : rI a7), K32 s a2 a3 a4 a5 a6 a7 = some (r) → AtPc cX6_askOf RX6 2 46 N [s] h 32 [(2, ti a2), (3, ti a3), (4, ti a4), (5, ti a5), (6, ti a6), (7, ti a7)] []) (a2 : Int) (a3 : Int) (a4 : Int) (a5 : Int) (a6 : Int) (a7 : Int) (ha2 : rI a2) (ha3 : rI a3) (ha4 : rI a4) (ha5 : rI a5) (ha6 : rI a6) (ha7 : rI a7) (e : fX6_askOf_b32 K16 K32 s a2 a3 a4 a5 a6 a7 = some (r)) : AtPc cX6_askOf RX6 2 46 N [s] h 32 [(2, ti a2), (3, ti a3), (4, ti a4), (5, ti a5), (6, ti a6), (7, ti a7)] [] := by
  unfold fX6_askOf_b32 at e
  refine r_rrs E.p (fun rr => ?_)
  refine r_iload dX6_askOf_32 5 rfl ?_
  refine r_iconst dX6_askOf_34 ?_
  have eT := (r_ifo e).1
  have eF := (r_ifo e).2
  refine r_icmp_gt ha7 (by decide) 73 dX6_askOf_35 (by decide) (fun c1 => ?_) (fun c1 => ?_)
  · have e := eT c1
    refine r_iload_n dX6_askOf_73 rfl 0 rfl ?_
    obtain ⟨p2, q3, e⟩ := bd_o e
    have k4 := kX6_size (G := nG N) (h := h) ha2 q3
    have z5 := (k4 rr.none).1.2.2.2
    refine r_callS (j := none) 1 [ti a2] k4 (injO_1 E.p) subO_0 getO_0 setO_0 (lw_S q1738 q1739 q123 q1740) (by decide +kernel) rfl (Nat.le_of_ble_eq_true rfl) (Nat.le_of_ble_eq_true rfl) rfl (Nat.le_of_ble_eq_true rfl) dX6_askOf_74 rfl ?_
    refine r_iload dX6_askOf_77 4 rfl ?_
    refine r_isub dX6_askOf_79 ?_
    refine r_istore (lv' := [(7, ti (wr (p2 - a6))), (2, ti a2), (3, ti a3), (4, ti a4), (5, ti a5), (6, ti a6)]) dX6_askOf_80 (E.lt (by decide)) rfl ?_
    refine r_iload dX6_askOf_82 5 rfl ?_
    refine r_iload dX6_askOf_84 0 rfl ?_
    have eT := (r_ifo e).1
    have eF := (r_ifo e).2
    refine r_icmp_le ha6 (wr_r _) 94 dX6_askOf_86 (by decide) (fun c6 => ?_) (fun c6 => ?_)
    · have e := eT c6
      refine r_iload dX6_askOf_94 0 rfl ?_
      refine r_sub [1, 2, 3, 4] rfl ?_
      exact wX6_askOf_b96 E K16 hK16 a2 a3 a4 a5 (wr (p2 - a6)) ha2 ha3 ha4 ha5 (wr_r _) e
    · have e := eF c6
      refine r_iload dX6_askOf_89 5 rfl ?_
      refine r_goto 96 dX6_askOf_91 (by decide) ?_
      refine r_sub [1, 2, 3, 4] rfl ?_
      exact wX6_askOf_b96 E K16 hK16 a2 a3 a4 a5 a6 ha2 ha3 ha4 ha5 ha6 e
  · have e := eF c1
    refine r_iload dX6_askOf_38 4 rfl ?_
    refine r_iload_n dX6_askOf_40 rfl 0 rfl ?_
    refine r_iload dX6_askOf_41 5 rfl ?_
    obtain ⟨p7, q8, e⟩ := bd_o e
    have k9 := kX6_isIn (G := nG N) (h := h) ha2 ha7 q8
    have z10 := (k9 rr.none).1.2.2.2
    refine r_callS (j := none) 2 [ti a2, ti a7] k9 (injO_1 E.p) subO_0 getO_0 setO_0 (lw_S q1663 q1664 q123 q1665) (by decide +kernel) rfl (Nat.le_of_ble_eq_true rfl) (Nat.le_of_ble_eq_true rfl) rfl (Nat.le_of_ble_eq_true rfl) dX6_askOf_43 rfl ?_
    have eT := (r_ifo e).1
    have eF := (r_ifo e).2
    refine r_if_eq (rI_z z10) 63 dX6_askOf_46 (by decide) (fun c11 => ?_) (fun c11 => ?_)
    · have e := eT c11
      refine r_sub [0, 1, 2, 3, 5] rfl ?_
      exact wX6_askOf_b63 E K16 hK16 K32 hK32 a2 a3 a4 a5 a7 a6 ha2 ha3 ha4 ha5 ha7 ha6 e
    · have e := eF c11
      refine r_iload dX6_askOf_49 5 rfl ?_
      refine r_iload dX6_askOf_51 3 rfl ?_
      obtain ⟨p12, q13, e⟩ := bd_o e
      have k14 := kX6_could (G := nG N) (h := h) ha7 ha5 q13
      have z15 := (k14 rr.none).1.2.2.2
      refine r_callS (j := none) 2 [ti a7, ti a5] k14 (injO_1 E.p) subO_0 getO_0 setO_0 (lw_S q1730 q1731 q123 q1732) (by decide +kernel) rfl (Nat.le_of_ble_eq_true rfl) (Nat.le_of_ble_eq_true rfl) rfl (Nat.le_of_ble_eq_true rfl) dX6_askOf_53 rfl ?_
      have eT := (r_ifo e).1
      have eF := (r_ifo e).2
      refine r_if_eq (rI_z z15) 63 dX6_askOf_56 (by decide) (fun c16 => ?_) (fun c16 => ?_)
      · have e := eT c16
        refine r_sub [0, 1, 2, 3, 5] rfl ?_
        exact wX6_askOf_b63 E K16 hK16 K32 hK32 a2 a3 a4 a5 a7 a6 ha2 ha3 ha4 ha5 ha7 ha6 e
      · have e := eF c16
        refine r_iconst dX6_askOf_59 ?_
        refine r_goto 64 dX6_askOf_60 (by decide) ?_
        refine r_sub [0, 1, 2, 3, 5] rfl ?_
        exact wX6_askOf_b64 E K16 hK16 K32 hK32 a2 a3 a4 a5 a7 a6 1 ha2 ha3 ha4 ha5 ha7 ha6 (by decide) e
def fX6_askOf_L32 (K16 : Sg → Int → Int → Int → Int → Option (Int)) : Nat → Sg → Int → Int → Int → Int → Int → Int → Option (Int)
  | 0, _, _, _, _, _, _, _ => none
  | n9 + 1, s, a2, a3, a4, a5, a6, a7 => fX6_askOf_b32 K16 (fX6_askOf_L32 K16 n9) s a2 a3 a4 a5 a6 a7
theorem wX6_askOf_L32 {N : Nx} {b : Nat} {ad : Nat → Nat} {s : Sg} {h : hS} {r : Int} (E : EndX N [(6, b, ad)] 9 (some .int) (some (ti r)) [s] h) (K16 : Sg → Int → Int → Int → Int → Option (Int)) (hK16 : ∀ (a2 : Int) (a3 : Int) (a4 : Int) (a5 : Int) (ha2 : rI a2) (ha3 : rI a3) (ha4 : rI a4) (ha5 : rI a5), K16 s a2 a3 a4 a5 = some (r) → AtPc cX6_askOf RX6 2 46 N [s] h 16 [(2, ti a2), (3, ti a3), (4, ti a4), (5, ti a5)] []) : ∀ (n9 : Nat), ∀ (a2 : Int) (a3 : Int) (a4 : Int) (a5 : Int) (a6 : Int) (a7 : Int) (ha2 : rI a2) (ha3 : rI a3) (ha4 : rI a4) (ha5 : rI a5) (ha6 : rI a6) (ha7 : rI a7), fX6_askOf_L32 K16 n9 s a2 a3 a4 a5 a6 a7 = some (r) → AtPc cX6_askOf RX6 2 46 N [s] h 32 [(2, ti a2), (3, ti a3), (4, ti a4), (5, ti a5), (6, ti a6), (7, ti a7)] [] := by
  intro n9
  induction n9 with
  | zero => intro a2 a3 a4 a5 a6 a7 ha2 ha3 ha4 ha5 ha6 ha7 e; cases e
  | succ n9 ih => intro a2 a3 a4 a5 a6 a7 ha2 ha3 ha4 ha5 ha6 ha7 e; exact wX6_askOf_b32 E K16 hK16 _ ih a2 a3 a4 a5 a6 a7 ha2 ha3 ha4 ha5 ha6 ha7 e
def fX6_askOf_b134 (s : Sg) (a3 : Int) : Option (Int) := some a3
theorem wX6_askOf_b134 {N : Nx} {b : Nat} {ad : Nat → Nat} {s : Sg} {h : hS} {r : Int} (E : EndX N [(6, b, ad)] 9 (some .int) (some (ti r)) [s] h)  (a3 : Int) (ha3 : rI a3) (e : fX6_askOf_b134 s a3 = some (r)) : AtPc cX6_askOf RX6 2 46 N [s] h 134 [(3, ti a3)] [] := by
  unfold fX6_askOf_b134 at e
  refine r_rrs E.p (fun rr => ?_)
  refine r_iload_n dX6_askOf_134 rfl 0 rfl ?_
  cases e
  exact r_iret E.σ E.st E.rt E.r ha3 dX6_askOf_135
def fX6_askOf_b16 (K16 : Sg → Int → Int → Int → Int → Option (Int)) (s : Sg) (a2 : Int) (a3 : Int) (a4 : Int) (a5 : Int) : Option (Int) := if 4 ≤ a5 then fX6_askOf_b134 s a3 else if a2 = 0 then fX6_askOf_b134 s a3 else fX6_askOf_L32 K16 FU s a2 a3 a4 a5 0 0
theorem wX6_askOf_b16 {N : Nx} {b : Nat} {ad : Nat → Nat} {s : Sg} {h : hS} {r : Int} (E : EndX N [(6, b, ad)] 9 (some .int) (some (ti r)) [s] h) (K16 : Sg → Int → Int → Int → Int → Option (Int)) (hK16 : ∀ (a2 : Int) (a3 : Int) (a4 : Int) (a5 : Int) (ha2 : rI a2) (ha3 : rI a3) (ha4 : rI a4) (ha5 : rI a5), K16 s a2 a3 a4 a5 = some (r) → AtPc cX6_askOf RX6 2 46 N [s] h 16 [(2, ti a2), (3, ti a3), (4, ti a4), (5, ti a5)] []) (a2 : Int) (a3 : Int) (a4 : Int) (a5 : Int) (ha2 : rI a2) (ha3 : rI a3) (ha4 : rI a4) (ha5 : rI a5) (e : fX6_askOf_b16 K16 s a2 a3 a4 a5 = some (r)) : AtPc cX6_askOf RX6 2 46 N [s] h 16 [(2, ti a2), (3, ti a3), (4, ti a4), (5, ti a5)] [] := by
  unfold fX6_askOf_b16 at e
  refine r_rrs E.p (fun rr => ?_)
  refine r_iload dX6_askOf_16 3 rfl ?_
  refine r_iconst dX6_askOf_18 ?_
  have eT := (r_ifo e).1
  have eF := (r_ifo e).2
  refine r_icmp_ge ha5 (by decide) 134 dX6_askOf_19 (by decide) (fun c1 => ?_) (fun c1 => ?_)
  · have e := eT c1
    refine r_sub [1] rfl ?_
    exact wX6_askOf_b134 E a3 ha3 e
  · have e := eF c1
    refine r_iload_n dX6_askOf_22 rfl 0 rfl ?_
    have eT := (r_ifo e).1
    have eF := (r_ifo e).2
    refine r_if_eq ha2 134 dX6_askOf_23 (by decide) (fun c2 => ?_) (fun c2 => ?_)
    · have e := eT c2
      refine r_sub [1] rfl ?_
      exact wX6_askOf_b134 E a3 ha3 e
    · have e := eF c2
      refine r_iconst dX6_askOf_26 ?_
      refine r_istore (lv' := [(6, ti 0), (2, ti a2), (3, ti a3), (4, ti a4), (5, ti a5)]) dX6_askOf_27 (E.lt (by decide)) rfl ?_
      refine r_iconst dX6_askOf_29 ?_
      refine r_istore (lv' := [(7, ti 0), (6, ti 0), (2, ti a2), (3, ti a3), (4, ti a4), (5, ti a5)]) dX6_askOf_30 (E.lt (by decide)) rfl ?_
      refine r_sub [2, 3, 4, 5, 1, 0] rfl ?_
      exact wX6_askOf_L32 E K16 hK16 FU a2 a3 a4 a5 0 0 ha2 ha3 ha4 ha5 (by decide) (by decide) e
def fX6_askOf_L16  : Nat → Sg → Int → Int → Int → Int → Option (Int)
  | 0, _, _, _, _, _ => none
  | n9 + 1, s, a2, a3, a4, a5 => fX6_askOf_b16 (fX6_askOf_L16 n9) s a2 a3 a4 a5
theorem wX6_askOf_L16 {N : Nx} {b : Nat} {ad : Nat → Nat} {s : Sg} {h : hS} {r : Int} (E : EndX N [(6, b, ad)] 9 (some .int) (some (ti r)) [s] h)  : ∀ (n9 : Nat), ∀ (a2 : Int) (a3 : Int) (a4 : Int) (a5 : Int) (ha2 : rI a2) (ha3 : rI a3) (ha4 : rI a4) (ha5 : rI a5), fX6_askOf_L16 n9 s a2 a3 a4 a5 = some (r) → AtPc cX6_askOf RX6 2 46 N [s] h 16 [(2, ti a2), (3, ti a3), (4, ti a4), (5, ti a5)] [] := by
  intro n9
  induction n9 with
  | zero => intro a2 a3 a4 a5 ha2 ha3 ha4 ha5 e; cases e
  | succ n9 ih => intro a2 a3 a4 a5 ha2 ha3 ha4 ha5 e; exact wX6_askOf_b16 E _ ih a2 a3 a4 a5 ha2 ha3 ha4 ha5 e
def fX6_askOf  (s : Sg) (a1 : Int) : Option (Int) := bd (fX6_sortsOf s a1) fun p1 => fX6_askOf_L16 FU s p1 (-1) 268435456 0
theorem kX6_askOf {G : Gx}  {b : Nat} {ad : Nat → Nat} {s : Sg} {h : hS} {r : Int} {a1 : Int}  (ha1 : rI a1) (e : fX6_askOf s a1 = some (r)) : CtX G yX6_askOf cX6_askOf 9 (some .int) 2 46 [(6, b, ad)] [s] h [tr (some b), ti a1] (some (ti r)) [s] h := by
  refine CtX.of (by decide) (Nat.le_of_ble_eq_true rfl) [(0, tr (some b)), (1, ti a1)] rfl ?_
  have E : EndX (G, 9, [(6, b, ad)], h, [s], h, (some .int), (some (ti r)), yX6_askOf.name) [(6, b, ad)] 9 (some .int) (some (ti r)) [s] h := ⟨rfl, rfl, rfl, rfl, rfl, rfl⟩
  unfold fX6_askOf at e
  refine r_rrs E.p (fun rr => ?_)
  refine r_aload_n dX6_askOf_0 rfl 0 rfl ?_
  refine r_iload_n dX6_askOf_1 rfl 1 rfl ?_
  obtain ⟨p1, q2, e⟩ := bd_o e
  have k3 := kX6_sortsOf (G := G) (b := b) (ad := ad) (h := h) ha1 q2
  have z4 := (k3 rr).1.2.2.2
  refine r_callV (j := some 0) 1 [ti a1] (rec_sg (j := 0) (r := (RX6, TX6, 63)) rfl (by rw [E.p]; rfl)) rfl k3 (injO_1 E.p) (subO_1 E.p) getO_1 setO_1 (lw_V q1726 q1728 qs68 q123 q1729) (by decide +kernel) rfl (Nat.le_of_ble_eq_true rfl) (Nat.le_of_ble_eq_true rfl) rfl (Nat.le_of_ble_eq_true rfl) dX6_askOf_2 rfl ?_
  refine r_istore_n (lv' := [(2, ti p1), (0, tr (some b)), (1, ti a1)]) dX6_askOf_5 rfl (E.lt (by decide)) rfl ?_
  refine r_iconst dX6_askOf_6 ?_
  refine r_istore_n (lv' := [(3, ti (-1)), (2, ti p1), (0, tr (some b)), (1, ti a1)]) dX6_askOf_7 rfl (E.lt (by decide)) rfl ?_
  refine r_ldcw 268435456 q1737 (by decide) dX6_askOf_8 ?_
  refine r_istore (lv' := [(4, ti 268435456), (3, ti (-1)), (2, ti p1), (0, tr (some b)), (1, ti a1)]) dX6_askOf_11 (E.lt (by decide)) rfl ?_
  refine r_iconst dX6_askOf_13 ?_
  refine r_istore (lv' := [(5, ti 0), (4, ti 268435456), (3, ti (-1)), (2, ti p1), (0, tr (some b)), (1, ti a1)]) dX6_askOf_14 (E.lt (by decide)) rfl ?_
  refine r_sub [3, 2, 1, 0] rfl ?_
  exact wX6_askOf_L16 E FU p1 (-1) 268435456 0 z4 (by decide) (by decide) (by decide) e
theorem fG_X6_89 : FldG RX6 89 [(6, 36)] := List.forall_mem_cons.mpr ⟨⟨RX6, TX6, 63, "DictProofModel", rfl, in_X6, by decide, q1441, Or.inl rfl⟩, fun _ h => absurd h List.not_mem_nil⟩
theorem fG_X6_92 : FldG RX6 92 [(6, 37)] := List.forall_mem_cons.mpr ⟨⟨RX6, TX6, 63, "DictProofModel", rfl, in_X6, by decide, q1442, Or.inl rfl⟩, fun _ h => absurd h List.not_mem_nil⟩
theorem fG_X6_95 : FldG RX6 95 [(6, 38)] := List.forall_mem_cons.mpr ⟨⟨RX6, TX6, 63, "DictProofModel", rfl, in_X6, by decide, q1443, Or.inl rfl⟩, fun _ h => absurd h List.not_mem_nil⟩
theorem fG_X6_98 : FldG RX6 98 [(6, 39)] := List.forall_mem_cons.mpr ⟨⟨RX6, TX6, 63, "DictProofModel", rfl, in_X6, by decide, q1444, Or.inl rfl⟩, fun _ h => absurd h List.not_mem_nil⟩
theorem fG_X6_101 : FldG RX6 101 [(6, 40)] := List.forall_mem_cons.mpr ⟨⟨RX6, TX6, 63, "DictProofModel", rfl, in_X6, by decide, q1445, Or.inl rfl⟩, fun _ h => absurd h List.not_mem_nil⟩
theorem fG_X6_104 : FldG RX6 104 [(6, 41)] := List.forall_mem_cons.mpr ⟨⟨RX6, TX6, 63, "DictProofModel", rfl, in_X6, by decide, q1446, Or.inl rfl⟩, fun _ h => absurd h List.not_mem_nil⟩
theorem fG_X6_107 : FldG RX6 107 [(6, 42)] := List.forall_mem_cons.mpr ⟨⟨RX6, TX6, 63, "DictProofModel", rfl, in_X6, by decide, q1447, Or.inl rfl⟩, fun _ h => absurd h List.not_mem_nil⟩
theorem fG_X6_110 : FldG RX6 110 [(6, 43)] := List.forall_mem_cons.mpr ⟨⟨RX6, TX6, 63, "DictProofModel", rfl, in_X6, by decide, q1448, Or.inl rfl⟩, fun _ h => absurd h List.not_mem_nil⟩
def fX6_layNeed  (s : Sg) (a1 : Int) (a2 : Int) : Option (Sg) := gd (inb a2 9) (gd (inb (wr ((wr (9 * a1)) + a2)) 36) (gd (inb (wr ((wr (9 * a1)) + a2)) 36) (gd (inb (wr ((wr (9 * a1)) + a2)) 36) (gd (inb (wr ((wr (9 * a1)) + a2)) 36) (gd (inb (wr ((wr (9 * a1)) + a2)) 36) (gd (inb (wr ((wr (9 * a1)) + a2)) 36) (gd (inb (wr ((wr (9 * a1)) + a2)) 36) (gd (inb (wr ((wr (9 * a1)) + a2)) 36) (some (sA (sA (sA (sA (sA (sA (sA (sA s 36 (wr ((wr (9 * a1)) + a2)) 1) 37 (wr ((wr (9 * a1)) + a2)) (-1)) 38 (wr ((wr (9 * a1)) + a2)) (-1)) 39 (wr ((wr (9 * a1)) + a2)) (-1)) 40 (wr ((wr (9 * a1)) + a2)) 1) 41 (wr ((wr (9 * a1)) + a2)) (wr ((wr (10 + (wr (2 * a1)))) + (wr ((gA s 32 a2) - 120))))) 42 (wr ((wr (9 * a1)) + a2)) 1) 43 (wr ((wr (9 * a1)) + a2)) (ishl 1 (wr ((wr (2 * a1)) + (wr ((gA s 32 a2) - 120)))))))))))))))
theorem kX6_layNeed {G : Gx}  {b : Nat} {ad : Nat → Nat} {s' : Sg} {h : hS} {s : Sg} {a1 : Int} {a2 : Int}  (ha1 : rI a1) (ha2 : rI a2) (e : fX6_layNeed s a1 a2 = some (s')) : CtX G yX6_layNeed cX6_layNeed 5 none 0 0 [(6, b, ad)] [s] h [tr (some b), ti a1, ti a2] none [s'] h := by
  refine CtX.of (by decide) (Nat.le_of_ble_eq_true rfl) [(0, tr (some b)), (1, ti a1), (2, ti a2)] rfl ?_
  have E : EndX (G, 5, [(6, b, ad)], h, [s'], h, none, none, yX6_layNeed.name) [(6, b, ad)] 5 none none [s'] h := ⟨rfl, rfl, rfl, rfl, rfl, rfl⟩
  unfold fX6_layNeed at e
  refine r_rrs E.p (fun rr => ?_)
  refine r_bipush dX6_layNeed_0 (by decide) ?_
  refine r_iload_n dX6_layNeed_2 rfl 1 rfl ?_
  refine r_imul dX6_layNeed_3 ?_
  refine r_iload_n dX6_layNeed_4 rfl 2 rfl ?_
  refine r_iadd dX6_layNeed_5 ?_
  refine r_istore_n (lv' := [(3, ti (wr ((wr (9 * a1)) + a2))), (0, tr (some b)), (1, ti a1), (2, ti a2)]) dX6_layNeed_6 rfl (E.lt (by decide)) rfl ?_
  refine r_aload_n dX6_layNeed_7 rfl 1 rfl ?_
  refine r_sR E.p 32 fG_X6_80 (by decide) dX6_layNeed_8 ?_
  refine r_iload_n dX6_layNeed_11 rfl 3 rfl ?_
  obtain ⟨g1, e⟩ := gd_o e
  refine r_saI E.p 32 rfl (by decide) (by decide) ha2 g1 rfl dX6_layNeed_12 ?_
  refine r_bipush dX6_layNeed_13 (by decide) ?_
  refine r_isub dX6_layNeed_15 ?_
  refine r_istore (lv' := [(4, ti (wr ((gA s 32 a2) - 120))), (3, ti (wr ((wr (9 * a1)) + a2))), (0, tr (some b)), (1, ti a1), (2, ti a2)]) dX6_layNeed_16 (E.lt (by decide)) rfl ?_
  refine r_aload_n dX6_layNeed_18 rfl 2 rfl ?_
  refine r_sR E.p 36 fG_X6_89 (by decide) dX6_layNeed_19 ?_
  refine r_iload_n dX6_layNeed_22 rfl 1 rfl ?_
  refine r_iconst dX6_layNeed_23 ?_
  obtain ⟨g2, e⟩ := gd_o e
  refine r_saP E.p 36 rfl (by decide) (by decide) (wr_r _) g2 (by show rI _; decide) rfl dX6_layNeed_24 ?_
  refine r_rrs E.p (fun rr3 => ?_)
  refine r_aload_n dX6_layNeed_25 rfl 2 rfl ?_
  refine r_sR E.p 37 fG_X6_92 (by decide) dX6_layNeed_26 ?_
  refine r_iload_n dX6_layNeed_29 rfl 1 rfl ?_
  refine r_iconst dX6_layNeed_30 ?_
  obtain ⟨g4, e⟩ := gd_o e
  refine r_saP E.p 37 rfl (by decide) (by decide) (wr_r _) g4 (by show rI _; decide) rfl dX6_layNeed_31 ?_
  refine r_rrs E.p (fun rr5 => ?_)
  refine r_aload_n dX6_layNeed_32 rfl 2 rfl ?_
  refine r_sR E.p 38 fG_X6_95 (by decide) dX6_layNeed_33 ?_
  refine r_iload_n dX6_layNeed_36 rfl 1 rfl ?_
  refine r_iconst dX6_layNeed_37 ?_
  obtain ⟨g6, e⟩ := gd_o e
  refine r_saP E.p 38 rfl (by decide) (by decide) (wr_r _) g6 (by show rI _; decide) rfl dX6_layNeed_38 ?_
  refine r_rrs E.p (fun rr7 => ?_)
  refine r_aload_n dX6_layNeed_39 rfl 2 rfl ?_
  refine r_sR E.p 39 fG_X6_98 (by decide) dX6_layNeed_40 ?_
  refine r_iload_n dX6_layNeed_43 rfl 1 rfl ?_
  refine r_iconst dX6_layNeed_44 ?_
  obtain ⟨g8, e⟩ := gd_o e
  refine r_saP E.p 39 rfl (by decide) (by decide) (wr_r _) g8 (by show rI _; decide) rfl dX6_layNeed_45 ?_
  refine r_rrs E.p (fun rr9 => ?_)
  refine r_aload_n dX6_layNeed_46 rfl 2 rfl ?_
  refine r_sR E.p 40 fG_X6_101 (by decide) dX6_layNeed_47 ?_
  refine r_iload_n dX6_layNeed_50 rfl 1 rfl ?_
  refine r_iconst dX6_layNeed_51 ?_
  obtain ⟨g10, e⟩ := gd_o e
  refine r_saP E.p 40 rfl (by decide) (by decide) (wr_r _) g10 (by show rI _; decide) rfl dX6_layNeed_52 ?_
  refine r_rrs E.p (fun rr11 => ?_)
  refine r_aload_n dX6_layNeed_53 rfl 2 rfl ?_
  refine r_sR E.p 41 fG_X6_104 (by decide) dX6_layNeed_54 ?_
  refine r_iload_n dX6_layNeed_57 rfl 1 rfl ?_
  refine r_bipush dX6_layNeed_58 (by decide) ?_
  refine r_iconst dX6_layNeed_60 ?_
  refine r_iload_n dX6_layNeed_61 rfl 3 rfl ?_
  refine r_imul dX6_layNeed_62 ?_
  refine r_iadd dX6_layNeed_63 ?_
  refine r_iload dX6_layNeed_64 0 rfl ?_
  refine r_iadd dX6_layNeed_66 ?_
  obtain ⟨g12, e⟩ := gd_o e
  refine r_saP E.p 41 rfl (by decide) (by decide) (wr_r _) g12 (wr_r _) rfl dX6_layNeed_67 ?_
  refine r_rrs E.p (fun rr13 => ?_)
  refine r_aload_n dX6_layNeed_68 rfl 2 rfl ?_
  refine r_sR E.p 42 fG_X6_107 (by decide) dX6_layNeed_69 ?_
  refine r_iload_n dX6_layNeed_72 rfl 1 rfl ?_
  refine r_iconst dX6_layNeed_73 ?_
  obtain ⟨g14, e⟩ := gd_o e
  refine r_saP E.p 42 rfl (by decide) (by decide) (wr_r _) g14 (by show rI _; decide) rfl dX6_layNeed_74 ?_
  refine r_rrs E.p (fun rr15 => ?_)
  refine r_aload_n dX6_layNeed_75 rfl 2 rfl ?_
  refine r_sR E.p 43 fG_X6_110 (by decide) dX6_layNeed_76 ?_
  refine r_iload_n dX6_layNeed_79 rfl 1 rfl ?_
  refine r_iconst dX6_layNeed_80 ?_
  refine r_iconst dX6_layNeed_81 ?_
  refine r_iload_n dX6_layNeed_82 rfl 3 rfl ?_
  refine r_imul dX6_layNeed_83 ?_
  refine r_iload dX6_layNeed_84 0 rfl ?_
  refine r_iadd dX6_layNeed_86 ?_
  refine r_ishl dX6_layNeed_87 ?_
  obtain ⟨g16, e⟩ := gd_o e
  refine r_saP E.p 43 rfl (by decide) (by decide) (wr_r _) g16 (ishl_r _ _) rfl dX6_layNeed_88 ?_
  refine r_rrs E.p (fun rr17 => ?_)
  cases e
  exact r_vret E.σ E.st E.rt E.r dX6_layNeed_89
def fX6_meantFor_b76 (K5 : Sg → Int → Int → Int → Int → Option (Int × Sg)) (s : Sg) (a1 : Int) (a2 : Int) (a4 : Int) (k0 : Int) (k1 : Int) : Option (Int × Sg) := K5 s a1 a2 (ior k0 k1) (wr (a4 + 1))
theorem wX6_meantFor_b76 {N : Nx} {b : Nat} {ad : Nat → Nat} {s' : Sg} {h : hS} {r : Int} (E : EndX N [(6, b, ad)] 6 (some .int) (some (ti r)) [s'] h) (K5 : Sg → Int → Int → Int → Int → Option (Int × Sg)) (hK5 : ∀ (s : Sg) (a1 : Int) (a2 : Int) (a3 : Int) (a4 : Int) (ha1 : rI a1) (ha2 : rI a2) (ha3 : rI a3) (ha4 : rI a4), K5 s a1 a2 a3 a4 = some (r, s') → AtPc cX6_meantFor RX6 2 50 N [s] h 5 [(0, tr (some b)), (1, ti a1), (2, ti a2), (3, ti a3), (4, ti a4)] []) (s : Sg) (a1 : Int) (a2 : Int) (a4 : Int) (k0 : Int) (k1 : Int) (ha1 : rI a1) (ha2 : rI a2) (ha4 : rI a4) (hk0 : rI k0) (hk1 : rI k1) (e : fX6_meantFor_b76 K5 s a1 a2 a4 k0 k1 = some (r, s')) : AtPc cX6_meantFor RX6 2 50 N [s] h 76 [(0, tr (some b)), (1, ti a1), (2, ti a2), (4, ti a4)] [ti k1, ti k0] := by
  unfold fX6_meantFor_b76 at e
  refine r_rrs E.p (fun rr => ?_)
  refine r_ior dX6_meantFor_76 ?_
  refine r_istore_n (lv' := [(3, ti (ior k0 k1)), (0, tr (some b)), (1, ti a1), (2, ti a2), (4, ti a4)]) dX6_meantFor_77 rfl (E.lt (by decide)) rfl ?_
  refine r_iinc (lv' := [(4, ti (wr (a4 + 1))), (3, ti (ior k0 k1)), (0, tr (some b)), (1, ti a1), (2, ti a2)]) dX6_meantFor_78 4 rfl (E.lt (by decide)) rfl ?_
  refine r_goto 5 dX6_meantFor_81 (by decide) ?_
  refine r_sub [2, 3, 4, 1, 0] rfl ?_
  exact hK5 s a1 a2 (ior k0 k1) (wr (a4 + 1)) ha1 ha2 (ior_r _ _) (wr_r _) e
def fX6_meantFor_b60 (K5 : Sg → Int → Int → Int → Int → Option (Int × Sg)) (s : Sg) (a1 : Int) (a2 : Int) (a3 : Int) (a4 : Int) (k0 : Int) : Option (Int × Sg) := if k0 = 0 then fX6_meantFor_b76 K5 s a1 a2 a4 a3 0 else fX6_meantFor_b76 K5 s a1 a2 a4 a3 (ishl 1 a4)
theorem wX6_meantFor_b60 {N : Nx} {b : Nat} {ad : Nat → Nat} {s' : Sg} {h : hS} {r : Int} (E : EndX N [(6, b, ad)] 6 (some .int) (some (ti r)) [s'] h) (K5 : Sg → Int → Int → Int → Int → Option (Int × Sg)) (hK5 : ∀ (s : Sg) (a1 : Int) (a2 : Int) (a3 : Int) (a4 : Int) (ha1 : rI a1) (ha2 : rI a2) (ha3 : rI a3) (ha4 : rI a4), K5 s a1 a2 a3 a4 = some (r, s') → AtPc cX6_meantFor RX6 2 50 N [s] h 5 [(0, tr (some b)), (1, ti a1), (2, ti a2), (3, ti a3), (4, ti a4)] []) (s : Sg) (a1 : Int) (a2 : Int) (a3 : Int) (a4 : Int) (k0 : Int) (ha1 : rI a1) (ha2 : rI a2) (ha3 : rI a3) (ha4 : rI a4) (hk0 : rI k0) (e : fX6_meantFor_b60 K5 s a1 a2 a3 a4 k0 = some (r, s')) : AtPc cX6_meantFor RX6 2 50 N [s] h 60 [(0, tr (some b)), (1, ti a1), (2, ti a2), (3, ti a3), (4, ti a4)] [ti k0] := by
  unfold fX6_meantFor_b60 at e
  refine r_rrs E.p (fun rr => ?_)
  refine r_istore (lv' := [(5, ti k0), (0, tr (some b)), (1, ti a1), (2, ti a2), (3, ti a3), (4, ti a4)]) dX6_meantFor_60 (E.lt (by decide)) rfl ?_
  refine r_iload_n dX6_meantFor_62 rfl 4 rfl ?_
  refine r_iload dX6_meantFor_63 0 rfl ?_
  have eT := (r_ifo e).1
  have eF := (r_ifo e).2
  refine r_if_eq hk0 75 dX6_meantFor_65 (by decide) (fun c1 => ?_) (fun c1 => ?_)
  · have e := eT c1
    refine r_iconst dX6_meantFor_75 ?_
    refine r_sub [1, 2, 3, 5] rfl ?_
    exact wX6_meantFor_b76 E K5 hK5 s a1 a2 a4 a3 0 ha1 ha2 ha4 ha3 (by decide) e
  · have e := eF c1
    refine r_iconst dX6_meantFor_68 ?_
    refine r_iload dX6_meantFor_69 5 rfl ?_
    refine r_ishl dX6_meantFor_71 ?_
    refine r_goto 76 dX6_meantFor_72 (by decide) ?_
    refine r_sub [1, 2, 3, 5] rfl ?_
    exact wX6_meantFor_b76 E K5 hK5 s a1 a2 a4 a3 (ishl 1 a4) ha1 ha2 ha4 ha3 (ishl_r _ _) e
def fX6_meantFor_b59 (K5 : Sg → Int → Int → Int → Int → Option (Int × Sg)) (s : Sg) (a1 : Int) (a2 : Int) (a3 : Int) (a4 : Int) : Option (Int × Sg) := fX6_meantFor_b60 K5 s a1 a2 a3 a4 0
theorem wX6_meantFor_b59 {N : Nx} {b : Nat} {ad : Nat → Nat} {s' : Sg} {h : hS} {r : Int} (E : EndX N [(6, b, ad)] 6 (some .int) (some (ti r)) [s'] h) (K5 : Sg → Int → Int → Int → Int → Option (Int × Sg)) (hK5 : ∀ (s : Sg) (a1 : Int) (a2 : Int) (a3 : Int) (a4 : Int) (ha1 : rI a1) (ha2 : rI a2) (ha3 : rI a3) (ha4 : rI a4), K5 s a1 a2 a3 a4 = some (r, s') → AtPc cX6_meantFor RX6 2 50 N [s] h 5 [(0, tr (some b)), (1, ti a1), (2, ti a2), (3, ti a3), (4, ti a4)] []) (s : Sg) (a1 : Int) (a2 : Int) (a3 : Int) (a4 : Int) (ha1 : rI a1) (ha2 : rI a2) (ha3 : rI a3) (ha4 : rI a4) (e : fX6_meantFor_b59 K5 s a1 a2 a3 a4 = some (r, s')) : AtPc cX6_meantFor RX6 2 50 N [s] h 59 [(0, tr (some b)), (1, ti a1), (2, ti a2), (3, ti a3), (4, ti a4)] [] := by
  unfold fX6_meantFor_b59 at e
  refine r_rrs E.p (fun rr => ?_)
  refine r_iconst dX6_meantFor_59 ?_
  exact wX6_meantFor_b60 E K5 hK5 s a1 a2 a3 a4 0 ha1 ha2 ha3 ha4 (by decide) e
def fX6_meantFor_b5 (K5 : Sg → Int → Int → Int → Int → Option (Int × Sg)) (s : Sg) (a1 : Int) (a2 : Int) (a3 : Int) (a4 : Int) : Option (Int × Sg) := if (gI s 4) ≤ a4 then some (a3, s) else gd (inb a4 6) (if ¬ (gA s 6 a4) = a1 then fX6_meantFor_b59 K5 s a1 a2 a3 a4 else gd (inb a4 6) (if (gA s 5 a4) = 2 then fX6_meantFor_b59 K5 s a1 a2 a3 a4 else bd (fX6_isSound s a4) fun p6 => if p6 = 0 then fX6_meantFor_b59 K5 s a1 a2 a3 a4 else bd (fX6_fitsAt s a4 a2) fun p11 => if p11.1 = 0 then fX6_meantFor_b59 K5 p11.2 a1 a2 a3 a4 else fX6_meantFor_b60 K5 p11.2 a1 a2 a3 a4 1))
theorem wX6_meantFor_b5 {N : Nx} {b : Nat} {ad : Nat → Nat} {s' : Sg} {h : hS} {r : Int} (E : EndX N [(6, b, ad)] 6 (some .int) (some (ti r)) [s'] h) (K5 : Sg → Int → Int → Int → Int → Option (Int × Sg)) (hK5 : ∀ (s : Sg) (a1 : Int) (a2 : Int) (a3 : Int) (a4 : Int) (ha1 : rI a1) (ha2 : rI a2) (ha3 : rI a3) (ha4 : rI a4), K5 s a1 a2 a3 a4 = some (r, s') → AtPc cX6_meantFor RX6 2 50 N [s] h 5 [(0, tr (some b)), (1, ti a1), (2, ti a2), (3, ti a3), (4, ti a4)] []) (s : Sg) (a1 : Int) (a2 : Int) (a3 : Int) (a4 : Int) (ha1 : rI a1) (ha2 : rI a2) (ha3 : rI a3) (ha4 : rI a4) (e : fX6_meantFor_b5 K5 s a1 a2 a3 a4 = some (r, s')) : AtPc cX6_meantFor RX6 2 50 N [s] h 5 [(0, tr (some b)), (1, ti a1), (2, ti a2), (3, ti a3), (4, ti a4)] [] := by
  unfold fX6_meantFor_b5 at e
  refine r_rrs E.p (fun rr => ?_)
  refine r_iload dX6_meantFor_5 4 rfl ?_
  refine r_aload_n dX6_meantFor_7 rfl 0 rfl ?_
  refine r_sI E.p 4 fG_X6_217 (by decide) dX6_meantFor_8 ?_
  have eT := (r_ifo e).1
  have eF := (r_ifo e).2
  refine r_icmp_ge ha4 ((rr.mine rfl).i 4 (by decide) (by decide)) 84 dX6_meantFor_11 (by decide) (fun c1 => ?_) (fun c1 => ?_)
  · have e := eT c1
    refine r_iload_n dX6_meantFor_84 rfl 3 rfl ?_
    cases e
    exact r_iret E.σ E.st E.rt E.r ha3 dX6_meantFor_85
  · have e := eF c1
    refine r_aload_n dX6_meantFor_14 rfl 0 rfl ?_
    refine r_sR E.p 6 fG_X6_19 (by decide) dX6_meantFor_15 ?_
    refine r_iload dX6_meantFor_18 4 rfl ?_
    obtain ⟨g2, e⟩ := gd_o e
    refine r_saI E.p 6 rfl (by decide) (by decide) ha4 g2 rfl dX6_meantFor_20 ?_
    refine r_iload_n dX6_meantFor_21 rfl 1 rfl ?_
    have eT := (r_ifo e).1
    have eF := (r_ifo e).2
    refine r_icmp_ne (((rr.mine rfl).a 6 (by decide) rfl).1 _) ha1 59 dX6_meantFor_22 (by decide) (fun c3 => ?_) (fun c3 => ?_)
    · have e := eT c3
      exact wX6_meantFor_b59 E K5 hK5 s a1 a2 a3 a4 ha1 ha2 ha3 ha4 e
    · have e := eF c3
      refine r_aload_n dX6_meantFor_25 rfl 0 rfl ?_
      refine r_sR E.p 5 fG_X6_16 (by decide) dX6_meantFor_26 ?_
      refine r_iload dX6_meantFor_29 4 rfl ?_
      obtain ⟨g4, e⟩ := gd_o e
      refine r_saI E.p 5 rfl (by decide) (by decide) ha4 g4 rfl dX6_meantFor_31 ?_
      refine r_iconst dX6_meantFor_32 ?_
      have eT := (r_ifo e).1
      have eF := (r_ifo e).2
      refine r_icmp_eq (((rr.mine rfl).a 5 (by decide) rfl).1 _) (by decide) 59 dX6_meantFor_33 (by decide) (fun c5 => ?_) (fun c5 => ?_)
      · have e := eT c5
        exact wX6_meantFor_b59 E K5 hK5 s a1 a2 a3 a4 ha1 ha2 ha3 ha4 e
      · have e := eF c5
        refine r_aload_n dX6_meantFor_36 rfl 0 rfl ?_
        refine r_iload dX6_meantFor_37 4 rfl ?_
        obtain ⟨p6, q7, e⟩ := bd_o e
        have k8 := kX6_isSound (G := nG N) (b := b) (ad := ad) (h := h) ha4 q7
        have z9 := (k8 rr).1.2.2.2
        refine r_callV (j := some 0) 1 [ti a4] (rec_sg (j := 0) (r := (RX6, TX6, 63)) rfl (by rw [E.p]; rfl)) rfl k8 (injO_1 E.p) (subO_1 E.p) getO_1 setO_1 (lw_V q1722 q1724 qs67 q123 q1725) (by decide +kernel) rfl (Nat.le_of_ble_eq_true rfl) (Nat.le_of_ble_eq_true rfl) rfl (Nat.le_of_ble_eq_true rfl) dX6_meantFor_39 rfl ?_
        have eT := (r_ifo e).1
        have eF := (r_ifo e).2
        refine r_if_eq (rI_z z9) 59 dX6_meantFor_42 (by decide) (fun c10 => ?_) (fun c10 => ?_)
        · have e := eT c10
          exact wX6_meantFor_b59 E K5 hK5 s a1 a2 a3 a4 ha1 ha2 ha3 ha4 e
        · have e := eF c10
          refine r_aload_n dX6_meantFor_45 rfl 0 rfl ?_
          refine r_iload dX6_meantFor_46 4 rfl ?_
          refine r_iload_n dX6_meantFor_48 rfl 2 rfl ?_
          obtain ⟨p11, q12, e⟩ := bd_o e
          have k13 := kX6_fitsAt (G := nG N) (b := b) (ad := ad) (h := h) ha4 ha2 q12
          have z14 := (k13 rr).1.2.2.2
          refine r_callV (j := some 0) 2 [ti a4, ti a2] (rec_sg (j := 0) (r := (RX6, TX6, 63)) rfl (by rw [E.p]; rfl)) rfl k13 (injO_1 E.p) (subO_1 E.p) getO_1 setO_1 (lw_V q1682 q1684 qs60 q123 q1685) (by decide +kernel) rfl (Nat.le_of_ble_eq_true rfl) (Nat.le_of_ble_eq_true rfl) rfl (Nat.le_of_ble_eq_true rfl) dX6_meantFor_49 rfl ?_
          refine r_rrs E.p (fun rr15 => ?_)
          have eT := (r_ifo e).1
          have eF := (r_ifo e).2
          refine r_if_eq (rI_z z14) 59 dX6_meantFor_52 (by decide) (fun c16 => ?_) (fun c16 => ?_)
          · have e := eT c16
            exact wX6_meantFor_b59 E K5 hK5 p11.2 a1 a2 a3 a4 ha1 ha2 ha3 ha4 e
          · have e := eF c16
            refine r_iconst dX6_meantFor_55 ?_
            refine r_goto 60 dX6_meantFor_56 (by decide) ?_
            exact wX6_meantFor_b60 E K5 hK5 p11.2 a1 a2 a3 a4 1 ha1 ha2 ha3 ha4 (by decide) e
def fX6_meantFor_L5  : Nat → Sg → Int → Int → Int → Int → Option (Int × Sg)
  | 0, _, _, _, _, _ => none
  | n9 + 1, s, a1, a2, a3, a4 => fX6_meantFor_b5 (fX6_meantFor_L5 n9) s a1 a2 a3 a4
theorem wX6_meantFor_L5 {N : Nx} {b : Nat} {ad : Nat → Nat} {s' : Sg} {h : hS} {r : Int} (E : EndX N [(6, b, ad)] 6 (some .int) (some (ti r)) [s'] h)  : ∀ (n9 : Nat), ∀ (s : Sg) (a1 : Int) (a2 : Int) (a3 : Int) (a4 : Int) (ha1 : rI a1) (ha2 : rI a2) (ha3 : rI a3) (ha4 : rI a4), fX6_meantFor_L5 n9 s a1 a2 a3 a4 = some (r, s') → AtPc cX6_meantFor RX6 2 50 N [s] h 5 [(0, tr (some b)), (1, ti a1), (2, ti a2), (3, ti a3), (4, ti a4)] [] := by
  intro n9
  induction n9 with
  | zero => intro s a1 a2 a3 a4 ha1 ha2 ha3 ha4 e; cases e
  | succ n9 ih => intro s a1 a2 a3 a4 ha1 ha2 ha3 ha4 e; exact wX6_meantFor_b5 E _ ih s a1 a2 a3 a4 ha1 ha2 ha3 ha4 e
def fX6_meantFor  (s : Sg) (a1 : Int) (a2 : Int) : Option (Int × Sg) := fX6_meantFor_L5 FU s a1 a2 0 0
theorem kX6_meantFor {G : Gx}  {b : Nat} {ad : Nat → Nat} {s' : Sg} {h : hS} {r : Int} {s : Sg} {a1 : Int} {a2 : Int}  (ha1 : rI a1) (ha2 : rI a2) (e : fX6_meantFor s a1 a2 = some (r, s')) : CtX G yX6_meantFor cX6_meantFor 6 (some .int) 2 50 [(6, b, ad)] [s] h [tr (some b), ti a1, ti a2] (some (ti r)) [s'] h := by
  refine CtX.of (by decide) (Nat.le_of_ble_eq_true rfl) [(0, tr (some b)), (1, ti a1), (2, ti a2)] rfl ?_
  have E : EndX (G, 6, [(6, b, ad)], h, [s'], h, (some .int), (some (ti r)), yX6_meantFor.name) [(6, b, ad)] 6 (some .int) (some (ti r)) [s'] h := ⟨rfl, rfl, rfl, rfl, rfl, rfl⟩
  unfold fX6_meantFor at e
  refine r_rrs E.p (fun rr => ?_)
  refine r_iconst dX6_meantFor_0 ?_
  refine r_istore_n (lv' := [(3, ti 0), (0, tr (some b)), (1, ti a1), (2, ti a2)]) dX6_meantFor_1 rfl (E.lt (by decide)) rfl ?_
  refine r_iconst dX6_meantFor_2 ?_
  refine r_istore (lv' := [(4, ti 0), (3, ti 0), (0, tr (some b)), (1, ti a1), (2, ti a2)]) dX6_meantFor_3 (E.lt (by decide)) rfl ?_
  refine r_sub [2, 3, 4, 1, 0] rfl ?_
  exact wX6_meantFor_L5 E FU s a1 a2 0 0 ha1 ha2 (by decide) (by decide) e
