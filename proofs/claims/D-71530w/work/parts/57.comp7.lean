/-! the class with what it needs: functions and walks, printed by gen/run0.py -/
set_option maxRecDepth 100000
def fX0_isSo_b42 (h : hS) (k0 : Int) : Option (Int) := gd (k0 = 0 ∨ k0 = 1) (some k0)
theorem wX0_isSo_b42 {N : Nx} {b : Nat} {ad : Nat → Nat} {s : Sg} {h : hS} {r : Int} (E : EndX N [(0, b, ad)] 3 (some .boolean) (some (ti r)) [s] h)  (k0 : Int) (hk0 : rI k0) (e : fX0_isSo_b42 h k0 = some (r)) : AtPc cX0_isSo RX0 3 61 N [s] h 42 [] [ti k0] := by
  unfold fX0_isSo_b42 at e
  refine r_rrs E.p (fun rr => ?_)
  obtain ⟨g1, e⟩ := gd_o e
  cases e
  exact r_zret E.σ E.st E.rt E.r g1 dX0_isSo_42
def fX0_isSo_b62 (h : hS) (k0 : Int) : Option (Int) := gd (k0 = 0 ∨ k0 = 1) (some k0)
theorem wX0_isSo_b62 {N : Nx} {b : Nat} {ad : Nat → Nat} {s : Sg} {h : hS} {r : Int} (E : EndX N [(0, b, ad)] 3 (some .boolean) (some (ti r)) [s] h)  (k0 : Int) (hk0 : rI k0) (e : fX0_isSo_b62 h k0 = some (r)) : AtPc cX0_isSo RX0 3 61 N [s] h 62 [] [ti k0] := by
  unfold fX0_isSo_b62 at e
  refine r_rrs E.p (fun rr => ?_)
  obtain ⟨g1, e⟩ := gd_o e
  cases e
  exact r_zret E.σ E.st E.rt E.r g1 dX0_isSo_62
def fX0_isSo_b77 (h : hS) (k0 : Int) : Option (Int) := gd (k0 = 0 ∨ k0 = 1) (some k0)
theorem wX0_isSo_b77 {N : Nx} {b : Nat} {ad : Nat → Nat} {s : Sg} {h : hS} {r : Int} (E : EndX N [(0, b, ad)] 3 (some .boolean) (some (ti r)) [s] h)  (k0 : Int) (hk0 : rI k0) (e : fX0_isSo_b77 h k0 = some (r)) : AtPc cX0_isSo RX0 3 61 N [s] h 77 [] [ti k0] := by
  unfold fX0_isSo_b77 at e
  refine r_rrs E.p (fun rr => ?_)
  obtain ⟨g1, e⟩ := gd_o e
  cases e
  exact r_zret E.σ E.st E.rt E.r g1 dX0_isSo_77
def fX0_isSo  (h : hS) (o1 : Option Nat) (a2 : Int) : Option (Int) := if a2 = 0 then gd (inC h o1 [1, 2, 3, 4, 5] = true) (bd (fX11_besides h o1 1) fun p3 => if ¬ p3 = 1 then fX0_isSo_b42 h 0 else fX0_isSo_b42 h 1) else if a2 = 1 then bd (D2_isUsed h o1) fun p8 => some p8 else if a2 = 2 then gd (inC h o1 [1, 2, 3, 4, 5] = true) (bd (fX11_besides h o1 2) fun p13 => if ¬ p13 = 1 then fX0_isSo_b62 h 0 else fX0_isSo_b62 h 1) else gd (inC h o1 [1, 2, 3, 4, 5] = true) (bd (fX11_besides h o1 1) fun p18 => if ¬ p18 = 2 then fX0_isSo_b77 h 0 else fX0_isSo_b77 h 1)
theorem kX0_isSo {G : Gx}  {b : Nat} {ad : Nat → Nat} {s : Sg} {h : hS} {r : Int} {o1 : Option Nat} {a2 : Int}  (ha2 : rI a2) (e : fX0_isSo h o1 a2 = some (r)) : CtX G yX0_isSo cX0_isSo 3 (some .boolean) 3 61 [(0, b, ad)] [s] h [tr (some b), tr o1, ti a2] (some (ti r)) [s] h := by
  refine CtX.of (by decide) (Nat.le_of_ble_eq_true rfl) [(0, tr (some b)), (1, tr o1), (2, ti a2)] rfl ?_
  have E : EndX (G, 3, [(0, b, ad)], h, [s], h, (some .boolean), (some (ti r)), yX0_isSo.name) [(0, b, ad)] 3 (some .boolean) (some (ti r)) [s] h := ⟨rfl, rfl, rfl, rfl, rfl, rfl⟩
  unfold fX0_isSo at e
  refine r_rrs E.p (fun rr => ?_)
  refine r_iload_n dX0_isSo_0 rfl 2 rfl ?_
  have eT := (r_ifo e).1
  have eF := (r_ifo e).2
  by_cases c1 : a2 = 0
  · have e := eT c1
    refine r_tswI ha2 dX0_isSo_1 0 c1 28 (by decide) (by decide) rfl (by decide) ?_
    refine r_aload_n dX0_isSo_28 rfl 1 rfl ?_
    refine r_iconst dX0_isSo_29 ?_
    obtain ⟨g2, e⟩ := gd_o e
    obtain ⟨p3, q4, e⟩ := bd_o e
    have z5 := (kX11_besides (G := G) (by decide) q4 rr.none).1.2.2.2
    refine rD_bes (by decide) g2 q4 (injO_1 E.p) (Nat.le_of_ble_eq_true rfl) (Nat.le_of_ble_eq_true rfl) rfl (Nat.le_of_ble_eq_true rfl) dX0_isSo_30 rfl ?_
    refine r_iconst dX0_isSo_33 ?_
    have eT := (r_ifo e).1
    have eF := (r_ifo e).2
    refine r_icmp_ne z5 (by decide) 41 dX0_isSo_34 (by decide) (fun c6 => ?_) (fun c6 => ?_)
    · have e := eT c6
      refine r_iconst dX0_isSo_41 ?_
      refine r_sub [] rfl ?_
      exact wX0_isSo_b42 E 0 (by decide) e
    · have e := eF c6
      refine r_iconst dX0_isSo_37 ?_
      refine r_goto 42 dX0_isSo_38 (by decide) ?_
      refine r_sub [] rfl ?_
      exact wX0_isSo_b42 E 1 (by decide) e
  · have e := eF c1
    have eT := (r_ifo e).1
    have eF := (r_ifo e).2
    by_cases c7 : a2 = 1
    · have e := eT c7
      refine r_tswI ha2 dX0_isSo_1 1 c7 43 (by decide) (by decide) rfl (by decide) ?_
      refine r_aload_n dX0_isSo_43 rfl 1 rfl ?_
      obtain ⟨p8, q9, e⟩ := bd_o e
      have z10 := zD2_isUsed (G := G)  q9 rr.none
      refine rD_X0_296  q9 (injO_1 E.p) (Nat.le_of_ble_eq_true rfl) (Nat.le_of_ble_eq_true rfl) rfl (Nat.le_of_ble_eq_true rfl) dX0_isSo_44 rfl ?_
      cases e
      exact r_zret E.σ E.st E.rt E.r z10 dX0_isSo_47
    · have e := eF c7
      have eT := (r_ifo e).1
      have eF := (r_ifo e).2
      by_cases c11 : a2 = 2
      · have e := eT c11
        refine r_tswI ha2 dX0_isSo_1 2 c11 48 (by decide) (by decide) rfl (by decide) ?_
        refine r_aload_n dX0_isSo_48 rfl 1 rfl ?_
        refine r_iconst dX0_isSo_49 ?_
        obtain ⟨g12, e⟩ := gd_o e
        obtain ⟨p13, q14, e⟩ := bd_o e
        have z15 := (kX11_besides (G := G) (by decide) q14 rr.none).1.2.2.2
        refine rD_bes (by decide) g12 q14 (injO_1 E.p) (Nat.le_of_ble_eq_true rfl) (Nat.le_of_ble_eq_true rfl) rfl (Nat.le_of_ble_eq_true rfl) dX0_isSo_50 rfl ?_
        refine r_iconst dX0_isSo_53 ?_
        have eT := (r_ifo e).1
        have eF := (r_ifo e).2
        refine r_icmp_ne z15 (by decide) 61 dX0_isSo_54 (by decide) (fun c16 => ?_) (fun c16 => ?_)
        · have e := eT c16
          refine r_iconst dX0_isSo_61 ?_
          refine r_sub [] rfl ?_
          exact wX0_isSo_b62 E 0 (by decide) e
        · have e := eF c16
          refine r_iconst dX0_isSo_57 ?_
          refine r_goto 62 dX0_isSo_58 (by decide) ?_
          refine r_sub [] rfl ?_
          exact wX0_isSo_b62 E 1 (by decide) e
      · have e := eF c11
        refine r_tswO ha2 dX0_isSo_1 63 (by omega) (by decide) ?_
        refine r_aload_n dX0_isSo_63 rfl 1 rfl ?_
        refine r_iconst dX0_isSo_64 ?_
        obtain ⟨g17, e⟩ := gd_o e
        obtain ⟨p18, q19, e⟩ := bd_o e
        have z20 := (kX11_besides (G := G) (by decide) q19 rr.none).1.2.2.2
        refine rD_bes (by decide) g17 q19 (injO_1 E.p) (Nat.le_of_ble_eq_true rfl) (Nat.le_of_ble_eq_true rfl) rfl (Nat.le_of_ble_eq_true rfl) dX0_isSo_65 rfl ?_
        refine r_iconst dX0_isSo_68 ?_
        have eT := (r_ifo e).1
        have eF := (r_ifo e).2
        refine r_icmp_ne z20 (by decide) 76 dX0_isSo_69 (by decide) (fun c21 => ?_) (fun c21 => ?_)
        · have e := eT c21
          refine r_iconst dX0_isSo_76 ?_
          refine r_sub [] rfl ?_
          exact wX0_isSo_b77 E 0 (by decide) e
        · have e := eF c21
          refine r_iconst dX0_isSo_72 ?_
          refine r_goto 77 dX0_isSo_73 (by decide) ?_
          refine r_sub [] rfl ?_
          exact wX0_isSo_b77 E 1 (by decide) e
theorem fG_X0_103 : FldG RX0 103 [(0, 0)] := List.forall_mem_cons.mpr ⟨⟨RX0, TX0, 36, "DictProof", rfl, in_X0, by decide, q281, Or.inl rfl⟩, fun _ h => absurd h List.not_mem_nil⟩
def fX0_sortsBy_b31 (K4 : Sg → hS → Int → Int → Int → Option (Int)) (s : Sg) (h : hS) (a1 : Int) (a3 : Int) (k0 : Int) (k1 : Int) : Option (Int) := K4 s h a1 (ior k0 k1) (wr (a3 + 1))
theorem wX0_sortsBy_b31 {N : Nx} {b : Nat} {ad : Nat → Nat} {s : Sg} {h : hS} {r : Int} (E : EndX N [(0, b, ad)] 4 (some .int) (some (ti r)) [s] h) (K4 : Sg → hS → Int → Int → Int → Option (Int)) (hK4 : ∀ (a1 : Int) (a2 : Int) (a3 : Int) (ha1 : rI a1) (ha2 : rI a2) (ha3 : rI a3), K4 s h a1 a2 a3 = some (r) → AtPc cX0_sortsBy RX0 4 83 N [s] h 4 [(0, tr (some b)), (1, ti a1), (2, ti a2), (3, ti a3)] []) (a1 : Int) (a3 : Int) (k0 : Int) (k1 : Int) (ha1 : rI a1) (ha3 : rI a3) (hk0 : rI k0) (hk1 : rI k1) (e : fX0_sortsBy_b31 K4 s h a1 a3 k0 k1 = some (r)) : AtPc cX0_sortsBy RX0 4 83 N [s] h 31 [(0, tr (some b)), (1, ti a1), (3, ti a3)] [ti k1, ti k0] := by
  unfold fX0_sortsBy_b31 at e
  refine r_rrs E.p (fun rr => ?_)
  refine r_ior dX0_sortsBy_31 ?_
  refine r_istore_n (lv' := [(2, ti (ior k0 k1)), (0, tr (some b)), (1, ti a1), (3, ti a3)]) dX0_sortsBy_32 rfl (E.lt (by decide)) rfl ?_
  refine r_iinc (lv' := [(3, ti (wr (a3 + 1))), (2, ti (ior k0 k1)), (0, tr (some b)), (1, ti a1)]) dX0_sortsBy_33 3 rfl (E.lt (by decide)) rfl ?_
  refine r_goto 4 dX0_sortsBy_36 (by decide) ?_
  refine r_sub [2, 3, 1, 0] rfl ?_
  exact hK4 a1 (ior k0 k1) (wr (a3 + 1)) ha1 (ior_r _ _) (wr_r _) e
def fX0_sortsBy_b4 (K4 : Sg → hS → Int → Int → Int → Option (Int)) (s : Sg) (h : hS) (a1 : Int) (a2 : Int) (a3 : Int) : Option (Int) := if 5 ≤ a3 then some a2 else gd (inb a3 5) (bd (fX0_isSo h (gQ s 0 a3) a1) fun p3 => if p3 = 0 then fX0_sortsBy_b31 K4 s h a1 a3 a2 0 else fX0_sortsBy_b31 K4 s h a1 a3 a2 (ishl 1 a3))
theorem wX0_sortsBy_b4 {N : Nx} {b : Nat} {ad : Nat → Nat} {s : Sg} {h : hS} {r : Int} (E : EndX N [(0, b, ad)] 4 (some .int) (some (ti r)) [s] h) (K4 : Sg → hS → Int → Int → Int → Option (Int)) (hK4 : ∀ (a1 : Int) (a2 : Int) (a3 : Int) (ha1 : rI a1) (ha2 : rI a2) (ha3 : rI a3), K4 s h a1 a2 a3 = some (r) → AtPc cX0_sortsBy RX0 4 83 N [s] h 4 [(0, tr (some b)), (1, ti a1), (2, ti a2), (3, ti a3)] []) (a1 : Int) (a2 : Int) (a3 : Int) (ha1 : rI a1) (ha2 : rI a2) (ha3 : rI a3) (e : fX0_sortsBy_b4 K4 s h a1 a2 a3 = some (r)) : AtPc cX0_sortsBy RX0 4 83 N [s] h 4 [(0, tr (some b)), (1, ti a1), (2, ti a2), (3, ti a3)] [] := by
  unfold fX0_sortsBy_b4 at e
  refine r_rrs E.p (fun rr => ?_)
  refine r_iload_n dX0_sortsBy_4 rfl 3 rfl ?_
  refine r_iconst dX0_sortsBy_5 ?_
  have eT := (r_ifo e).1
  have eF := (r_ifo e).2
  refine r_icmp_ge ha3 (by decide) 39 dX0_sortsBy_6 (by decide) (fun c1 => ?_) (fun c1 => ?_)
  · have e := eT c1
    refine r_iload_n dX0_sortsBy_39 rfl 2 rfl ?_
    cases e
    exact r_iret E.σ E.st E.rt E.r ha2 dX0_sortsBy_40
  · have e := eF c1
    refine r_iload_n dX0_sortsBy_9 rfl 2 rfl ?_
    refine r_aload_n dX0_sortsBy_10 rfl 0 rfl ?_
    refine r_aload_n dX0_sortsBy_11 rfl 0 rfl ?_
    refine r_sR E.p 0 fG_X0_103 (by decide) dX0_sortsBy_12 ?_
    refine r_iload_n dX0_sortsBy_15 rfl 3 rfl ?_
    obtain ⟨g2, e⟩ := gd_o e
    refine r_saQ E.p 0 rfl (by decide) (by decide) (by decide) ha3 g2 dX0_sortsBy_16 ?_
    refine r_iload_n dX0_sortsBy_17 rfl 1 rfl ?_
    obtain ⟨p3, q4, e⟩ := bd_o e
    have k5 := kX0_isSo (G := nG N) (b := b) (ad := ad) (s := s) ha1 q4
    have z6 := (k5 rr).1.2.2.2
    refine r_callV (j := some 0) 2 [tr (gQ s 0 a3), ti a1] (rec_sg (j := 0) (r := (RX0, TX0, 36)) rfl (by rw [E.p]; rfl)) rfl k5 (injO_1 E.p) (subO_1 E.p) getO_1 setO_1 (lw_V q1123 q1125 qs28 q115 q1126) (by decide +kernel) rfl (Nat.le_of_ble_eq_true rfl) (Nat.le_of_ble_eq_true rfl) rfl (Nat.le_of_ble_eq_true rfl) dX0_sortsBy_18 rfl ?_
    have eT := (r_ifo e).1
    have eF := (r_ifo e).2
    refine r_if_eq (rI_z z6) 30 dX0_sortsBy_21 (by decide) (fun c7 => ?_) (fun c7 => ?_)
    · have e := eT c7
      refine r_iconst dX0_sortsBy_30 ?_
      refine r_sub [0, 1, 3] rfl ?_
      exact wX0_sortsBy_b31 E K4 hK4 a1 a3 a2 0 ha1 ha3 ha2 (by decide) e
    · have e := eF c7
      refine r_iconst dX0_sortsBy_24 ?_
      refine r_iload_n dX0_sortsBy_25 rfl 3 rfl ?_
      refine r_ishl dX0_sortsBy_26 ?_
      refine r_goto 31 dX0_sortsBy_27 (by decide) ?_
      refine r_sub [0, 1, 3] rfl ?_
      exact wX0_sortsBy_b31 E K4 hK4 a1 a3 a2 (ishl 1 a3) ha1 ha3 ha2 (ishl_r _ _) e
def fX0_sortsBy_L4  : Nat → Sg → hS → Int → Int → Int → Option (Int)
  | 0, _, _, _, _, _ => none
  | n9 + 1, s, h, a1, a2, a3 => fX0_sortsBy_b4 (fX0_sortsBy_L4 n9) s h a1 a2 a3
theorem wX0_sortsBy_L4 {N : Nx} {b : Nat} {ad : Nat → Nat} {s : Sg} {h : hS} {r : Int} (E : EndX N [(0, b, ad)] 4 (some .int) (some (ti r)) [s] h)  : ∀ (n9 : Nat), ∀ (a1 : Int) (a2 : Int) (a3 : Int) (ha1 : rI a1) (ha2 : rI a2) (ha3 : rI a3), fX0_sortsBy_L4 n9 s h a1 a2 a3 = some (r) → AtPc cX0_sortsBy RX0 4 83 N [s] h 4 [(0, tr (some b)), (1, ti a1), (2, ti a2), (3, ti a3)] [] := by
  intro n9
  induction n9 with
  | zero => intro a1 a2 a3 ha1 ha2 ha3 e; cases e
  | succ n9 ih => intro a1 a2 a3 ha1 ha2 ha3 e; exact wX0_sortsBy_b4 E _ ih a1 a2 a3 ha1 ha2 ha3 e
def fX0_sortsBy  (s : Sg) (h : hS) (a1 : Int) : Option (Int) := fX0_sortsBy_L4 FU s h a1 0 0
theorem kX0_sortsBy {G : Gx}  {b : Nat} {ad : Nat → Nat} {s : Sg} {h : hS} {r : Int} {a1 : Int}  (ha1 : rI a1) (e : fX0_sortsBy s h a1 = some (r)) : CtX G yX0_sortsBy cX0_sortsBy 4 (some .int) 4 83 [(0, b, ad)] [s] h [tr (some b), ti a1] (some (ti r)) [s] h := by
  refine CtX.of (by decide) (Nat.le_of_ble_eq_true rfl) [(0, tr (some b)), (1, ti a1)] rfl ?_
  have E : EndX (G, 4, [(0, b, ad)], h, [s], h, (some .int), (some (ti r)), yX0_sortsBy.name) [(0, b, ad)] 4 (some .int) (some (ti r)) [s] h := ⟨rfl, rfl, rfl, rfl, rfl, rfl⟩
  unfold fX0_sortsBy at e
  refine r_rrs E.p (fun rr => ?_)
  refine r_iconst dX0_sortsBy_0 ?_
  refine r_istore_n (lv' := [(2, ti 0), (0, tr (some b)), (1, ti a1)]) dX0_sortsBy_1 rfl (E.lt (by decide)) rfl ?_
  refine r_iconst dX0_sortsBy_2 ?_
  refine r_istore_n (lv' := [(3, ti 0), (2, ti 0), (0, tr (some b)), (1, ti a1)]) dX0_sortsBy_3 rfl (E.lt (by decide)) rfl ?_
  refine r_sub [2, 3, 1, 0] rfl ?_
  exact wX0_sortsBy_L4 E FU a1 0 0 ha1 (by decide) (by decide) e
theorem fG_X0_276 : FldG RX0 276 [(0, 26)] := List.forall_mem_cons.mpr ⟨⟨RX0, TX0, 36, "DictProof", rfl, in_X0, by decide, q307, Or.inl rfl⟩, fun _ h => absurd h List.not_mem_nil⟩
theorem fG_X0_142 : FldG RX0 142 [(0, 24)] := List.forall_mem_cons.mpr ⟨⟨RX0, TX0, 36, "DictProof", rfl, in_X0, by decide, q305, Or.inl rfl⟩, fun _ h => absurd h List.not_mem_nil⟩
theorem fG_X0_139 : FldG RX0 139 [(0, 23)] := List.forall_mem_cons.mpr ⟨⟨RX0, TX0, 36, "DictProof", rfl, in_X0, by decide, q304, Or.inl rfl⟩, fun _ h => absurd h List.not_mem_nil⟩
theorem fG_X0_145 : FldG RX0 145 [(0, 25)] := List.forall_mem_cons.mpr ⟨⟨RX0, TX0, 36, "DictProof", rfl, in_X0, by decide, q306, Or.inl rfl⟩, fun _ h => absurd h List.not_mem_nil⟩
def fX0_sortsOf_b58 (K5 : Sg → hS → Int → Int → Int → Option (Int)) (s : Sg) (h : hS) (a1 : Int) (a3 : Int) (k0 : Int) (k1 : Int) : Option (Int) := K5 s h a1 (iand k0 k1) (wr (a3 + 1))
theorem wX0_sortsOf_b58 {N : Nx} {b : Nat} {ad : Nat → Nat} {s : Sg} {h : hS} {r : Int} (E : EndX N [(0, b, ad)] 5 (some .int) (some (ti r)) [s] h) (K5 : Sg → hS → Int → Int → Int → Option (Int)) (hK5 : ∀ (a1 : Int) (a2 : Int) (a3 : Int) (ha1 : rI a1) (ha2 : rI a2) (ha3 : rI a3), K5 s h a1 a2 a3 = some (r) → AtPc cX0_sortsOf RX0 5 106 N [s] h 5 [(0, tr (some b)), (1, ti a1), (2, ti a2), (3, ti a3)] []) (a1 : Int) (a3 : Int) (k0 : Int) (k1 : Int) (ha1 : rI a1) (ha3 : rI a3) (hk0 : rI k0) (hk1 : rI k1) (e : fX0_sortsOf_b58 K5 s h a1 a3 k0 k1 = some (r)) : AtPc cX0_sortsOf RX0 5 106 N [s] h 58 [(0, tr (some b)), (1, ti a1), (3, ti a3)] [ti k1, ti k0] := by
  unfold fX0_sortsOf_b58 at e
  refine r_rrs E.p (fun rr => ?_)
  refine r_iand dX0_sortsOf_58 ?_
  refine r_istore_n (lv' := [(2, ti (iand k0 k1)), (0, tr (some b)), (1, ti a1), (3, ti a3)]) dX0_sortsOf_59 rfl (E.lt (by decide)) rfl ?_
  refine r_iinc (lv' := [(3, ti (wr (a3 + 1))), (2, ti (iand k0 k1)), (0, tr (some b)), (1, ti a1)]) dX0_sortsOf_60 3 rfl (E.lt (by decide)) rfl ?_
  refine r_goto 5 dX0_sortsOf_63 (by decide) ?_
  refine r_sub [2, 3, 1, 0] rfl ?_
  exact hK5 a1 (iand k0 k1) (wr (a3 + 1)) ha1 (iand_r _ _) (wr_r _) e
def fX0_sortsOf_b5 (K5 : Sg → hS → Int → Int → Int → Option (Int)) (s : Sg) (h : hS) (a1 : Int) (a2 : Int) (a3 : Int) : Option (Int) := if (gI s 26) ≤ a3 then some a2 else gd (inb a3 6) (bd (fX0_sortsBy s h (gA s 24 a3)) fun p3 => gd (inb a3 6) (if (gA s 23 a3) = a1 then gd (inb a3 6) (if (gA s 25 a3) = 0 then fX0_sortsOf_b58 K5 s h a1 a3 a2 (ixor p3 (-1)) else fX0_sortsOf_b58 K5 s h a1 a3 a2 p3) else fX0_sortsOf_b58 K5 s h a1 a3 a2 a2))
theorem wX0_sortsOf_b5 {N : Nx} {b : Nat} {ad : Nat → Nat} {s : Sg} {h : hS} {r : Int} (E : EndX N [(0, b, ad)] 5 (some .int) (some (ti r)) [s] h) (K5 : Sg → hS → Int → Int → Int → Option (Int)) (hK5 : ∀ (a1 : Int) (a2 : Int) (a3 : Int) (ha1 : rI a1) (ha2 : rI a2) (ha3 : rI a3), K5 s h a1 a2 a3 = some (r) → AtPc cX0_sortsOf RX0 5 106 N [s] h 5 [(0, tr (some b)), (1, ti a1), (2, ti a2), (3, ti a3)] []) (a1 : Int) (a2 : Int) (a3 : Int) (ha1 : rI a1) (ha2 : rI a2) (ha3 : rI a3) (e : fX0_sortsOf_b5 K5 s h a1 a2 a3 = some (r)) : AtPc cX0_sortsOf RX0 5 106 N [s] h 5 [(0, tr (some b)), (1, ti a1), (2, ti a2), (3, ti a3)] [] := by
  unfold fX0_sortsOf_b5 at e
  refine r_rrs E.p (fun rr => ?_)
  refine r_iload_n dX0_sortsOf_5 rfl 3 rfl ?_
  refine r_aload_n dX0_sortsOf_6 rfl 0 rfl ?_
  refine r_sI E.p 26 fG_X0_276 (by decide) dX0_sortsOf_7 ?_
  have eT := (r_ifo e).1
  have eF := (r_ifo e).2
  refine r_icmp_ge ha3 ((rr.mine rfl).i 26 (by decide) (by decide)) 66 dX0_sortsOf_10 (by decide) (fun c1 => ?_) (fun c1 => ?_)
  · have e := eT c1
    refine r_iload_n dX0_sortsOf_66 rfl 2 rfl ?_
    cases e
    exact r_iret E.σ E.st E.rt E.r ha2 dX0_sortsOf_67
  · have e := eF c1
    refine r_aload_n dX0_sortsOf_13 rfl 0 rfl ?_
    refine r_aload_n dX0_sortsOf_14 rfl 0 rfl ?_
    refine r_sR E.p 24 fG_X0_142 (by decide) dX0_sortsOf_15 ?_
    refine r_iload_n dX0_sortsOf_18 rfl 3 rfl ?_
    obtain ⟨g2, e⟩ := gd_o e
    refine r_saI E.p 24 rfl (by decide) (by decide) ha3 g2 rfl dX0_sortsOf_19 ?_
    obtain ⟨p3, q4, e⟩ := bd_o e
    have k5 := kX0_sortsBy (G := nG N) (b := b) (ad := ad) (((rr.mine rfl).a 24 (by decide) rfl).1 _) q4
    have z6 := (k5 rr).1.2.2.2
    refine r_callV (j := some 0) 1 [ti (gA s 24 a3)] (rec_sg (j := 0) (r := (RX0, TX0, 36)) rfl (by rw [E.p]; rfl)) rfl k5 (injO_1 E.p) (subO_1 E.p) getO_1 setO_1 (lw_V q1119 q1121 qs27 q115 q1122) (by decide +kernel) rfl (Nat.le_of_ble_eq_true rfl) (Nat.le_of_ble_eq_true rfl) rfl (Nat.le_of_ble_eq_true rfl) dX0_sortsOf_20 rfl ?_
    refine r_istore (lv' := [(4, ti p3), (0, tr (some b)), (1, ti a1), (2, ti a2), (3, ti a3)]) dX0_sortsOf_23 (E.lt (by decide)) rfl ?_
    refine r_iload_n dX0_sortsOf_25 rfl 3 rfl ?_
    refine r_aload_n dX0_sortsOf_26 rfl 1 rfl ?_
    refine r_sR E.p 23 fG_X0_139 (by decide) dX0_sortsOf_27 ?_
    refine r_iload_n dX0_sortsOf_30 rfl 4 rfl ?_
    obtain ⟨g7, e⟩ := gd_o e
    refine r_saI E.p 23 rfl (by decide) (by decide) ha3 g7 rfl dX0_sortsOf_31 ?_
    refine r_iload_n dX0_sortsOf_32 rfl 2 rfl ?_
    have eT := (r_ifo e).1
    have eF := (r_ifo e).2
    refine r_icmp_eq (((rr.mine rfl).a 23 (by decide) rfl).1 _) ha1 40 dX0_sortsOf_33 (by decide) (fun c8 => ?_) (fun c8 => ?_)
    · have e := eT c8
      refine r_aload_n dX0_sortsOf_40 rfl 1 rfl ?_
      refine r_sR E.p 25 fG_X0_145 (by decide) dX0_sortsOf_41 ?_
      refine r_iload_n dX0_sortsOf_44 rfl 4 rfl ?_
      obtain ⟨g9, e⟩ := gd_o e
      refine r_saI E.p 25 rfl (by decide) (by decide) ha3 g9 rfl dX0_sortsOf_45 ?_
      have eT := (r_ifo e).1
      have eF := (r_ifo e).2
      refine r_if_eq (((rr.mine rfl).a 25 (by decide) rfl).1 _) 54 dX0_sortsOf_46 (by decide) (fun c10 => ?_) (fun c10 => ?_)
      · have e := eT c10
        refine r_iload dX0_sortsOf_54 0 rfl ?_
        refine r_iconst dX0_sortsOf_56 ?_
        refine r_ixor dX0_sortsOf_57 ?_
        refine r_sub [1, 2, 4] rfl ?_
        exact wX0_sortsOf_b58 E K5 hK5 a1 a3 a2 (ixor p3 (-1)) ha1 ha3 ha2 (ixor_r _ _) e
      · have e := eF c10
        refine r_iload dX0_sortsOf_49 0 rfl ?_
        refine r_goto 58 dX0_sortsOf_51 (by decide) ?_
        refine r_sub [1, 2, 4] rfl ?_
        exact wX0_sortsOf_b58 E K5 hK5 a1 a3 a2 p3 ha1 ha3 ha2 z6 e
    · have e := eF c8
      refine r_iload_n dX0_sortsOf_36 rfl 3 rfl ?_
      refine r_goto 58 dX0_sortsOf_37 (by decide) ?_
      refine r_sub [1, 2, 4] rfl ?_
      exact wX0_sortsOf_b58 E K5 hK5 a1 a3 a2 a2 ha1 ha3 ha2 ha2 e
def fX0_sortsOf_L5  : Nat → Sg → hS → Int → Int → Int → Option (Int)
  | 0, _, _, _, _, _ => none
  | n9 + 1, s, h, a1, a2, a3 => fX0_sortsOf_b5 (fX0_sortsOf_L5 n9) s h a1 a2 a3
theorem wX0_sortsOf_L5 {N : Nx} {b : Nat} {ad : Nat → Nat} {s : Sg} {h : hS} {r : Int} (E : EndX N [(0, b, ad)] 5 (some .int) (some (ti r)) [s] h)  : ∀ (n9 : Nat), ∀ (a1 : Int) (a2 : Int) (a3 : Int) (ha1 : rI a1) (ha2 : rI a2) (ha3 : rI a3), fX0_sortsOf_L5 n9 s h a1 a2 a3 = some (r) → AtPc cX0_sortsOf RX0 5 106 N [s] h 5 [(0, tr (some b)), (1, ti a1), (2, ti a2), (3, ti a3)] [] := by
  intro n9
  induction n9 with
  | zero => intro a1 a2 a3 ha1 ha2 ha3 e; cases e
  | succ n9 ih => intro a1 a2 a3 ha1 ha2 ha3 e; exact wX0_sortsOf_b5 E _ ih a1 a2 a3 ha1 ha2 ha3 e
def fX0_sortsOf  (s : Sg) (h : hS) (a1 : Int) : Option (Int) := fX0_sortsOf_L5 FU s h a1 31 0
theorem kX0_sortsOf {G : Gx}  {b : Nat} {ad : Nat → Nat} {s : Sg} {h : hS} {r : Int} {a1 : Int}  (ha1 : rI a1) (e : fX0_sortsOf s h a1 = some (r)) : CtX G yX0_sortsOf cX0_sortsOf 5 (some .int) 5 106 [(0, b, ad)] [s] h [tr (some b), ti a1] (some (ti r)) [s] h := by
  refine CtX.of (by decide) (Nat.le_of_ble_eq_true rfl) [(0, tr (some b)), (1, ti a1)] rfl ?_
  have E : EndX (G, 5, [(0, b, ad)], h, [s], h, (some .int), (some (ti r)), yX0_sortsOf.name) [(0, b, ad)] 5 (some .int) (some (ti r)) [s] h := ⟨rfl, rfl, rfl, rfl, rfl, rfl⟩
  unfold fX0_sortsOf at e
  refine r_rrs E.p (fun rr => ?_)
  refine r_bipush dX0_sortsOf_0 (by decide) ?_
  refine r_istore_n (lv' := [(2, ti 31), (0, tr (some b)), (1, ti a1)]) dX0_sortsOf_2 rfl (E.lt (by decide)) rfl ?_
  refine r_iconst dX0_sortsOf_3 ?_
  refine r_istore_n (lv' := [(3, ti 0), (2, ti 31), (0, tr (some b)), (1, ti a1)]) dX0_sortsOf_4 rfl (E.lt (by decide)) rfl ?_
  refine r_sub [2, 3, 1, 0] rfl ?_
  exact wX0_sortsOf_L5 E FU a1 31 0 ha1 (by decide) (by decide) e
def fX0_toAsk_b70 (K22 : Sg → hS → Int → Int → Int → Int → Int → Option (Int)) (s : Sg) (h : hS) (a2 : Int) (a3 : Int) (a5 : Int) (a6 : Int) (a8 : Int) (k0 : Int) : Option (Int) := K22 s h a2 a3 k0 (mmin a5 a8) (wr (a6 + 1))
theorem wX0_toAsk_b70 {N : Nx} {b : Nat} {ad : Nat → Nat} {s : Sg} {h : hS} {r : Int} (E : EndX N [(0, b, ad)] 9 (some .int) (some (ti r)) [s] h) (K22 : Sg → hS → Int → Int → Int → Int → Int → Option (Int)) (hK22 : ∀ (a2 : Int) (a3 : Int) (a4 : Int) (a5 : Int) (a6 : Int) (ha2 : rI a2) (ha3 : rI a3) (ha4 : rI a4) (ha5 : rI a5) (ha6 : rI a6), K22 s h a2 a3 a4 a5 a6 = some (r) → AtPc cX0_toAsk RX0 6 130 N [s] h 22 [(0, tr (some b)), (2, ti a2), (3, ti a3), (4, ti a4), (5, ti a5), (6, ti a6)] []) (a2 : Int) (a3 : Int) (a5 : Int) (a6 : Int) (a8 : Int) (k0 : Int) (ha2 : rI a2) (ha3 : rI a3) (ha5 : rI a5) (ha6 : rI a6) (ha8 : rI a8) (hk0 : rI k0) (e : fX0_toAsk_b70 K22 s h a2 a3 a5 a6 a8 k0 = some (r)) : AtPc cX0_toAsk RX0 6 130 N [s] h 70 [(0, tr (some b)), (2, ti a2), (3, ti a3), (5, ti a5), (6, ti a6), (8, ti a8)] [ti k0] := by
  unfold fX0_toAsk_b70 at e
  refine r_rrs E.p (fun rr => ?_)
  refine r_istore (lv' := [(4, ti k0), (0, tr (some b)), (2, ti a2), (3, ti a3), (5, ti a5), (6, ti a6), (8, ti a8)]) dX0_toAsk_70 (E.lt (by decide)) rfl ?_
  refine r_iload dX0_toAsk_72 4 rfl ?_
  refine r_iload dX0_toAsk_74 6 rfl ?_
  refine r_mmin ha5 ha8 q1195 q1196 q132 q1197 (Nat.le_of_ble_eq_true rfl) (Nat.le_of_ble_eq_true rfl) (Nat.le_of_ble_eq_true rfl) dX0_toAsk_76 ?_
  refine r_istore (lv' := [(5, ti (mmin a5 a8)), (4, ti k0), (0, tr (some b)), (2, ti a2), (3, ti a3), (6, ti a6), (8, ti a8)]) dX0_toAsk_79 (E.lt (by decide)) rfl ?_
  refine r_iinc (lv' := [(6, ti (wr (a6 + 1))), (5, ti (mmin a5 a8)), (4, ti k0), (0, tr (some b)), (2, ti a2), (3, ti a3), (8, ti a8)]) dX0_toAsk_81 5 rfl (E.lt (by decide)) rfl ?_
  refine r_goto 22 dX0_toAsk_84 (by decide) ?_
  refine r_sub [3, 4, 5, 2, 1, 0] rfl ?_
  exact hK22 a2 a3 k0 (mmin a5 a8) (wr (a6 + 1)) ha2 ha3 hk0 (mmin_r ha5 ha8) (wr_r _) e
def fX0_toAsk_b87 (s : Sg) (h : hS) (a4 : Int) : Option (Int) := some a4
theorem wX0_toAsk_b87 {N : Nx} {b : Nat} {ad : Nat → Nat} {s : Sg} {h : hS} {r : Int} (E : EndX N [(0, b, ad)] 9 (some .int) (some (ti r)) [s] h)  (a4 : Int) (ha4 : rI a4) (e : fX0_toAsk_b87 s h a4 = some (r)) : AtPc cX0_toAsk RX0 6 130 N [s] h 87 [(4, ti a4)] [] := by
  unfold fX0_toAsk_b87 at e
  refine r_rrs E.p (fun rr => ?_)
  refine r_iload dX0_toAsk_87 0 rfl ?_
  cases e
  exact r_iret E.σ E.st E.rt E.r ha4 dX0_toAsk_89
def fX0_toAsk_b22 (K22 : Sg → hS → Int → Int → Int → Int → Int → Option (Int)) (s : Sg) (h : hS) (a2 : Int) (a3 : Int) (a4 : Int) (a5 : Int) (a6 : Int) : Option (Int) := if 4 ≤ a6 then fX0_toAsk_b87 s h a4 else if a3 ≤ 0 then fX0_toAsk_b87 s h a4 else bd (fX0_sortsBy s h a6) fun p3 => bd (fJ3_bitCount (iand a2 p3)) fun p7 => if a5 ≤ (mmax p7 (wr (a3 - p7))) then fX0_toAsk_b70 K22 s h a2 a3 a5 a6 (mmax p7 (wr (a3 - p7))) a4 else fX0_toAsk_b70 K22 s h a2 a3 a5 a6 (mmax p7 (wr (a3 - p7))) a6
theorem wX0_toAsk_b22 {N : Nx} {b : Nat} {ad : Nat → Nat} {s : Sg} {h : hS} {r : Int} (E : EndX N [(0, b, ad)] 9 (some .int) (some (ti r)) [s] h) (K22 : Sg → hS → Int → Int → Int → Int → Int → Option (Int)) (hK22 : ∀ (a2 : Int) (a3 : Int) (a4 : Int) (a5 : Int) (a6 : Int) (ha2 : rI a2) (ha3 : rI a3) (ha4 : rI a4) (ha5 : rI a5) (ha6 : rI a6), K22 s h a2 a3 a4 a5 a6 = some (r) → AtPc cX0_toAsk RX0 6 130 N [s] h 22 [(0, tr (some b)), (2, ti a2), (3, ti a3), (4, ti a4), (5, ti a5), (6, ti a6)] []) (a2 : Int) (a3 : Int) (a4 : Int) (a5 : Int) (a6 : Int) (ha2 : rI a2) (ha3 : rI a3) (ha4 : rI a4) (ha5 : rI a5) (ha6 : rI a6) (e : fX0_toAsk_b22 K22 s h a2 a3 a4 a5 a6 = some (r)) : AtPc cX0_toAsk RX0 6 130 N [s] h 22 [(0, tr (some b)), (2, ti a2), (3, ti a3), (4, ti a4), (5, ti a5), (6, ti a6)] [] := by
  unfold fX0_toAsk_b22 at e
  refine r_rrs E.p (fun rr => ?_)
  refine r_iload dX0_toAsk_22 5 rfl ?_
  refine r_iconst dX0_toAsk_24 ?_
  have eT := (r_ifo e).1
  have eF := (r_ifo e).2
  refine r_icmp_ge ha6 (by decide) 87 dX0_toAsk_25 (by decide) (fun c1 => ?_) (fun c1 => ?_)
  · have e := eT c1
    refine r_sub [3] rfl ?_
    exact wX0_toAsk_b87 E a4 ha4 e
  · have e := eF c1
    refine r_iload_n dX0_toAsk_28 rfl 2 rfl ?_
    have eT := (r_ifo e).1
    have eF := (r_ifo e).2
    refine r_if_le ha3 87 dX0_toAsk_29 (by decide) (fun c2 => ?_) (fun c2 => ?_)
    · have e := eT c2
      refine r_sub [3] rfl ?_
      exact wX0_toAsk_b87 E a4 ha4 e
    · have e := eF c2
      refine r_iload_n dX0_toAsk_32 rfl 1 rfl ?_
      refine r_aload_n dX0_toAsk_33 rfl 0 rfl ?_
      refine r_iload dX0_toAsk_34 5 rfl ?_
      obtain ⟨p3, q4, e⟩ := bd_o e
      have k5 := kX0_sortsBy (G := nG N) (b := b) (ad := ad) ha6 q4
      have z6 := (k5 rr).1.2.2.2
      refine r_callV (j := some 0) 1 [ti a6] (rec_sg (j := 0) (r := (RX0, TX0, 36)) rfl (by rw [E.p]; rfl)) rfl k5 (injO_1 E.p) (subO_1 E.p) getO_1 setO_1 (lw_V q1119 q1121 qs27 q115 q1122) (by decide +kernel) rfl (Nat.le_of_ble_eq_true rfl) (Nat.le_of_ble_eq_true rfl) rfl (Nat.le_of_ble_eq_true rfl) dX0_toAsk_36 rfl ?_
      refine r_iand dX0_toAsk_39 ?_
      obtain ⟨p7, q8, e⟩ := bd_o e
      have k9 := kJ3_bitCount (G := nG N) (h := h) (iand_r _ _) q8
      have z10 := (k9 rr.none).1.2.2.2
      refine r_callS (j := none) 1 [ti (iand a2 p3)] k9 (injO_1 E.p) subO_0 getO_0 setO_0 (lw_S q1050 q1051 q127 q1052) (by decide +kernel) rfl (Nat.le_of_ble_eq_true rfl) (Nat.le_of_ble_eq_true rfl) rfl (Nat.le_of_ble_eq_true rfl) dX0_toAsk_40 rfl ?_
      refine r_istore (lv' := [(7, ti p7), (0, tr (some b)), (2, ti a2), (3, ti a3), (4, ti a4), (5, ti a5), (6, ti a6)]) dX0_toAsk_43 (E.lt (by decide)) rfl ?_
      refine r_iload dX0_toAsk_45 0 rfl ?_
      refine r_iload_n dX0_toAsk_47 rfl 3 rfl ?_
      refine r_iload dX0_toAsk_48 0 rfl ?_
      refine r_isub dX0_toAsk_50 ?_
      refine r_mmax z10 (wr_r _) q1194 q1043 q132 q1044 (Nat.le_of_ble_eq_true rfl) (Nat.le_of_ble_eq_true rfl) (Nat.le_of_ble_eq_true rfl) dX0_toAsk_51 ?_
      refine r_istore (lv' := [(8, ti (mmax p7 (wr (a3 - p7)))), (7, ti p7), (0, tr (some b)), (2, ti a2), (3, ti a3), (4, ti a4), (5, ti a5), (6, ti a6)]) dX0_toAsk_54 (E.lt (by decide)) rfl ?_
      refine r_iload dX0_toAsk_56 0 rfl ?_
      refine r_iload dX0_toAsk_58 6 rfl ?_
      have eT := (r_ifo e).1
      have eF := (r_ifo e).2
      refine r_icmp_ge (mmax_r z10 (wr_r _)) ha5 68 dX0_toAsk_60 (by decide) (fun c11 => ?_) (fun c11 => ?_)
      · have e := eT c11
        refine r_iload dX0_toAsk_68 5 rfl ?_
        refine r_sub [2, 3, 4, 6, 7, 0] rfl ?_
        exact wX0_toAsk_b70 E K22 hK22 a2 a3 a5 a6 (mmax p7 (wr (a3 - p7))) a4 ha2 ha3 ha5 ha6 (mmax_r z10 (wr_r _)) ha4 e
      · have e := eF c11
        refine r_iload dX0_toAsk_63 7 rfl ?_
        refine r_goto 70 dX0_toAsk_65 (by decide) ?_
        refine r_sub [2, 3, 4, 6, 7, 0] rfl ?_
        exact wX0_toAsk_b70 E K22 hK22 a2 a3 a5 a6 (mmax p7 (wr (a3 - p7))) a6 ha2 ha3 ha5 ha6 (mmax_r z10 (wr_r _)) ha6 e
def fX0_toAsk_L22  : Nat → Sg → hS → Int → Int → Int → Int → Int → Option (Int)
  | 0, _, _, _, _, _, _, _ => none
  | n9 + 1, s, h, a2, a3, a4, a5, a6 => fX0_toAsk_b22 (fX0_toAsk_L22 n9) s h a2 a3 a4 a5 a6
theorem wX0_toAsk_L22 {N : Nx} {b : Nat} {ad : Nat → Nat} {s : Sg} {h : hS} {r : Int} (E : EndX N [(0, b, ad)] 9 (some .int) (some (ti r)) [s] h)  : ∀ (n9 : Nat), ∀ (a2 : Int) (a3 : Int) (a4 : Int) (a5 : Int) (a6 : Int) (ha2 : rI a2) (ha3 : rI a3) (ha4 : rI a4) (ha5 : rI a5) (ha6 : rI a6), fX0_toAsk_L22 n9 s h a2 a3 a4 a5 a6 = some (r) → AtPc cX0_toAsk RX0 6 130 N [s] h 22 [(0, tr (some b)), (2, ti a2), (3, ti a3), (4, ti a4), (5, ti a5), (6, ti a6)] [] := by
  intro n9
  induction n9 with
  | zero => intro a2 a3 a4 a5 a6 ha2 ha3 ha4 ha5 ha6 e; cases e
  | succ n9 ih => intro a2 a3 a4 a5 a6 ha2 ha3 ha4 ha5 ha6 e; exact wX0_toAsk_b22 E _ ih a2 a3 a4 a5 a6 ha2 ha3 ha4 ha5 ha6 e
def fX0_toAsk  (s : Sg) (h : hS) (a1 : Int) : Option (Int) := bd (fX0_sortsOf s h a1) fun p1 => bd (fJ3_bitCount p1) fun p5 => fX0_toAsk_L22 FU s h p1 p5 (-1) 9999 0
theorem kX0_toAsk {G : Gx}  {b : Nat} {ad : Nat → Nat} {s : Sg} {h : hS} {r : Int} {a1 : Int}  (ha1 : rI a1) (e : fX0_toAsk s h a1 = some (r)) : CtX G yX0_toAsk cX0_toAsk 9 (some .int) 6 130 [(0, b, ad)] [s] h [tr (some b), ti a1] (some (ti r)) [s] h := by
  refine CtX.of (by decide) (Nat.le_of_ble_eq_true rfl) [(0, tr (some b)), (1, ti a1)] rfl ?_
  have E : EndX (G, 9, [(0, b, ad)], h, [s], h, (some .int), (some (ti r)), yX0_toAsk.name) [(0, b, ad)] 9 (some .int) (some (ti r)) [s] h := ⟨rfl, rfl, rfl, rfl, rfl, rfl⟩
  unfold fX0_toAsk at e
  refine r_rrs E.p (fun rr => ?_)
  refine r_aload_n dX0_toAsk_0 rfl 0 rfl ?_
  refine r_iload_n dX0_toAsk_1 rfl 1 rfl ?_
  obtain ⟨p1, q2, e⟩ := bd_o e
  have k3 := kX0_sortsOf (G := G) (b := b) (ad := ad) ha1 q2
  have z4 := (k3 rr).1.2.2.2
  refine r_callV (j := some 0) 1 [ti a1] (rec_sg (j := 0) (r := (RX0, TX0, 36)) rfl (by rw [E.p]; rfl)) rfl k3 (injO_1 E.p) (subO_1 E.p) getO_1 setO_1 (lw_V q1115 q1117 qs26 q115 q1118) (by decide +kernel) rfl (Nat.le_of_ble_eq_true rfl) (Nat.le_of_ble_eq_true rfl) rfl (Nat.le_of_ble_eq_true rfl) dX0_toAsk_2 rfl ?_
  refine r_istore_n (lv' := [(2, ti p1), (0, tr (some b)), (1, ti a1)]) dX0_toAsk_5 rfl (E.lt (by decide)) rfl ?_
  refine r_iload_n dX0_toAsk_6 rfl 0 rfl ?_
  obtain ⟨p5, q6, e⟩ := bd_o e
  have k7 := kJ3_bitCount (G := G) (h := h) z4 q6
  have z8 := (k7 rr.none).1.2.2.2
  refine r_callS (j := none) 1 [ti p1] k7 (injO_1 E.p) subO_0 getO_0 setO_0 (lw_S q1050 q1051 q127 q1052) (by decide +kernel) rfl (Nat.le_of_ble_eq_true rfl) (Nat.le_of_ble_eq_true rfl) rfl (Nat.le_of_ble_eq_true rfl) dX0_toAsk_7 rfl ?_
  refine r_istore_n (lv' := [(3, ti p5), (2, ti p1), (0, tr (some b)), (1, ti a1)]) dX0_toAsk_10 rfl (E.lt (by decide)) rfl ?_
  refine r_iconst dX0_toAsk_11 ?_
  refine r_istore (lv' := [(4, ti (-1)), (3, ti p5), (2, ti p1), (0, tr (some b)), (1, ti a1)]) dX0_toAsk_12 (E.lt (by decide)) rfl ?_
  refine r_sipush dX0_toAsk_14 (by decide) ?_
  refine r_istore (lv' := [(5, ti 9999), (4, ti (-1)), (3, ti p5), (2, ti p1), (0, tr (some b)), (1, ti a1)]) dX0_toAsk_17 (E.lt (by decide)) rfl ?_
  refine r_iconst dX0_toAsk_19 ?_
  refine r_istore (lv' := [(6, ti 0), (5, ti 9999), (4, ti (-1)), (3, ti p5), (2, ti p1), (0, tr (some b)), (1, ti a1)]) dX0_toAsk_20 (E.lt (by decide)) rfl ?_
  refine r_sub [5, 4, 3, 2, 1, 0] rfl ?_
  exact wX0_toAsk_L22 E FU p1 p5 (-1) 9999 0 z4 z8 (by decide) (by decide) (by decide) e
def fX0_givenBy_b84 (K4 : Sg → hS → Option Nat → Int → Int → Option (Int)) (K15 : Sg → hS → Option Nat → Int → Int → Int → Option (Int)) (s : Sg) (h : hS) (o1 : Option Nat) (a3 : Int) (a4 : Int) (k0 : Int) (k1 : Int) : Option (Int) := K15 s h o1 (ior k0 k1) a3 (wr (a4 + 1))
theorem wX0_givenBy_b84 {N : Nx} {b : Nat} {ad : Nat → Nat} {s : Sg} {h : hS} {r : Int} (E : EndX N [(0, b, ad)] 6 (some .int) (some (ti r)) [s] h) (K4 : Sg → hS → Option Nat → Int → Int → Option (Int)) (hK4 : ∀ (o1 : Option Nat) (a2 : Int) (a3 : Int) (ha2 : rI a2) (ha3 : rI a3), K4 s h o1 a2 a3 = some (r) → AtPc cX0_givenBy RX0 1 21 N [s] h 4 [(0, tr (some b)), (1, tr o1), (2, ti a2), (3, ti a3)] []) (K15 : Sg → hS → Option Nat → Int → Int → Int → Option (Int)) (hK15 : ∀ (o1 : Option Nat) (a2 : Int) (a3 : Int) (a4 : Int) (ha2 : rI a2) (ha3 : rI a3) (ha4 : rI a4), K15 s h o1 a2 a3 a4 = some (r) → AtPc cX0_givenBy RX0 1 21 N [s] h 15 [(0, tr (some b)), (1, tr o1), (2, ti a2), (3, ti a3), (4, ti a4)] []) (o1 : Option Nat) (a3 : Int) (a4 : Int) (k0 : Int) (k1 : Int) (ha3 : rI a3) (ha4 : rI a4) (hk0 : rI k0) (hk1 : rI k1) (e : fX0_givenBy_b84 K4 K15 s h o1 a3 a4 k0 k1 = some (r)) : AtPc cX0_givenBy RX0 1 21 N [s] h 84 [(0, tr (some b)), (1, tr o1), (3, ti a3), (4, ti a4)] [ti k1, ti k0] := by
  unfold fX0_givenBy_b84 at e
  refine r_rrs E.p (fun rr => ?_)
  refine r_ior dX0_givenBy_84 ?_
  refine r_istore_n (lv' := [(2, ti (ior k0 k1)), (0, tr (some b)), (1, tr o1), (3, ti a3), (4, ti a4)]) dX0_givenBy_85 rfl (E.lt (by decide)) rfl ?_
  refine r_iinc (lv' := [(4, ti (wr (a4 + 1))), (2, ti (ior k0 k1)), (0, tr (some b)), (1, tr o1), (3, ti a3)]) dX0_givenBy_86 4 rfl (E.lt (by decide)) rfl ?_
  refine r_goto 15 dX0_givenBy_89 (by decide) ?_
  refine r_sub [2, 3, 1, 4, 0] rfl ?_
  exact hK15 o1 (ior k0 k1) a3 (wr (a4 + 1)) (ior_r _ _) ha3 (wr_r _) e
def fX0_givenBy_b59 (K4 : Sg → hS → Option Nat → Int → Int → Option (Int)) (K15 : Sg → hS → Option Nat → Int → Int → Int → Option (Int)) (s : Sg) (h : hS) (o1 : Option Nat) (a2 : Int) (a3 : Int) (a4 : Int) (k0 : Int) : Option (Int) := if k0 = 0 then fX0_givenBy_b84 K4 K15 s h o1 a3 a4 a2 0 else bd (hQ h o1 [(1, 4), (2, 4), (3, 4), (4, 4), (5, 4)]) fun v2 => bd (aI h v2 0 a3) fun v4 => fX0_givenBy_b84 K4 K15 s h o1 a3 a4 a2 (ishl 1 (wr ((wr (2 * a4)) + v4)))
theorem wX0_givenBy_b59 {N : Nx} {b : Nat} {ad : Nat → Nat} {s : Sg} {h : hS} {r : Int} (E : EndX N [(0, b, ad)] 6 (some .int) (some (ti r)) [s] h) (K4 : Sg → hS → Option Nat → Int → Int → Option (Int)) (hK4 : ∀ (o1 : Option Nat) (a2 : Int) (a3 : Int) (ha2 : rI a2) (ha3 : rI a3), K4 s h o1 a2 a3 = some (r) → AtPc cX0_givenBy RX0 1 21 N [s] h 4 [(0, tr (some b)), (1, tr o1), (2, ti a2), (3, ti a3)] []) (K15 : Sg → hS → Option Nat → Int → Int → Int → Option (Int)) (hK15 : ∀ (o1 : Option Nat) (a2 : Int) (a3 : Int) (a4 : Int) (ha2 : rI a2) (ha3 : rI a3) (ha4 : rI a4), K15 s h o1 a2 a3 a4 = some (r) → AtPc cX0_givenBy RX0 1 21 N [s] h 15 [(0, tr (some b)), (1, tr o1), (2, ti a2), (3, ti a3), (4, ti a4)] []) (o1 : Option Nat) (a2 : Int) (a3 : Int) (a4 : Int) (k0 : Int) (ha2 : rI a2) (ha3 : rI a3) (ha4 : rI a4) (hk0 : rI k0) (e : fX0_givenBy_b59 K4 K15 s h o1 a2 a3 a4 k0 = some (r)) : AtPc cX0_givenBy RX0 1 21 N [s] h 59 [(0, tr (some b)), (1, tr o1), (2, ti a2), (3, ti a3), (4, ti a4)] [ti k0] := by
  unfold fX0_givenBy_b59 at e
  refine r_rrs E.p (fun rr => ?_)
  refine r_istore (lv' := [(5, ti k0), (0, tr (some b)), (1, tr o1), (2, ti a2), (3, ti a3), (4, ti a4)]) dX0_givenBy_59 (E.lt (by decide)) rfl ?_
  refine r_iload_n dX0_givenBy_61 rfl 3 rfl ?_
  refine r_iload dX0_givenBy_62 0 rfl ?_
  have eT := (r_ifo e).1
  have eF := (r_ifo e).2
  refine r_if_eq hk0 83 dX0_givenBy_64 (by decide) (fun c1 => ?_) (fun c1 => ?_)
  · have e := eT c1
    refine r_iconst dX0_givenBy_83 ?_
    refine r_sub [1, 2, 4, 5] rfl ?_
    exact wX0_givenBy_b84 E K4 hK4 K15 hK15 o1 a3 a4 a2 0 ha3 ha4 ha2 (by decide) e
  · have e := eF c1
    refine r_iconst dX0_givenBy_67 ?_
    refine r_iconst dX0_givenBy_68 ?_
    refine r_iload dX0_givenBy_69 5 rfl ?_
    refine r_imul dX0_givenBy_71 ?_
    refine r_aload_n dX0_givenBy_72 rfl 2 rfl ?_
    obtain ⟨v2, q3, e⟩ := bd_o e
    refine r_getQ fG_X0_260 q3 dX0_givenBy_73 ?_
    refine r_iload_n dX0_givenBy_76 rfl 4 rfl ?_
    obtain ⟨v4, q5, e⟩ := bd_o e
    refine r_aI ha3 q5 rfl dX0_givenBy_77 ?_
    refine r_iadd dX0_givenBy_78 ?_
    refine r_ishl dX0_givenBy_79 ?_
    refine r_goto 84 dX0_givenBy_80 (by decide) ?_
    refine r_sub [1, 2, 4, 5] rfl ?_
    exact wX0_givenBy_b84 E K4 hK4 K15 hK15 o1 a3 a4 a2 (ishl 1 (wr ((wr (2 * a4)) + v4))) ha3 ha4 ha2 (ishl_r _ _) e
def fX0_givenBy_b54 (K4 : Sg → hS → Option Nat → Int → Int → Option (Int)) (K15 : Sg → hS → Option Nat → Int → Int → Int → Option (Int)) (s : Sg) (h : hS) (o1 : Option Nat) (a2 : Int) (a3 : Int) (a4 : Int) : Option (Int) := fX0_givenBy_b59 K4 K15 s h o1 a2 a3 a4 1
theorem wX0_givenBy_b54 {N : Nx} {b : Nat} {ad : Nat → Nat} {s : Sg} {h : hS} {r : Int} (E : EndX N [(0, b, ad)] 6 (some .int) (some (ti r)) [s] h) (K4 : Sg → hS → Option Nat → Int → Int → Option (Int)) (hK4 : ∀ (o1 : Option Nat) (a2 : Int) (a3 : Int) (ha2 : rI a2) (ha3 : rI a3), K4 s h o1 a2 a3 = some (r) → AtPc cX0_givenBy RX0 1 21 N [s] h 4 [(0, tr (some b)), (1, tr o1), (2, ti a2), (3, ti a3)] []) (K15 : Sg → hS → Option Nat → Int → Int → Int → Option (Int)) (hK15 : ∀ (o1 : Option Nat) (a2 : Int) (a3 : Int) (a4 : Int) (ha2 : rI a2) (ha3 : rI a3) (ha4 : rI a4), K15 s h o1 a2 a3 a4 = some (r) → AtPc cX0_givenBy RX0 1 21 N [s] h 15 [(0, tr (some b)), (1, tr o1), (2, ti a2), (3, ti a3), (4, ti a4)] []) (o1 : Option Nat) (a2 : Int) (a3 : Int) (a4 : Int) (ha2 : rI a2) (ha3 : rI a3) (ha4 : rI a4) (e : fX0_givenBy_b54 K4 K15 s h o1 a2 a3 a4 = some (r)) : AtPc cX0_givenBy RX0 1 21 N [s] h 54 [(0, tr (some b)), (1, tr o1), (2, ti a2), (3, ti a3), (4, ti a4)] [] := by
  unfold fX0_givenBy_b54 at e
  refine r_rrs E.p (fun rr => ?_)
  refine r_iconst dX0_givenBy_54 ?_
  refine r_goto 59 dX0_givenBy_55 (by decide) ?_
  exact wX0_givenBy_b59 E K4 hK4 K15 hK15 o1 a2 a3 a4 1 ha2 ha3 ha4 (by decide) e
def fX0_givenBy_b15 (K4 : Sg → hS → Option Nat → Int → Int → Option (Int)) (K15 : Sg → hS → Option Nat → Int → Int → Int → Option (Int)) (s : Sg) (h : hS) (o1 : Option Nat) (a2 : Int) (a3 : Int) (a4 : Int) : Option (Int) := if (gI s 3) ≤ a4 then K4 s h o1 a2 (wr (a3 + 1)) else bd (hQ h o1 [(1, 3), (2, 3), (3, 3), (4, 3), (5, 3)]) fun v2 => bd (aI h v2 0 a3) fun v4 => if a4 = v4 then fX0_givenBy_b54 K4 K15 s h o1 a2 a3 a4 else bd (hQ h o1 [(1, 3), (2, 3), (3, 3), (4, 3), (5, 3)]) fun v7 => bd (aI h v7 0 a3) fun v9 => gd (inb v9 4) (bd (fX0_has (gA s 2 v9) a4) fun p12 => if p12 = 0 then fX0_givenBy_b59 K4 K15 s h o1 a2 a3 a4 0 else fX0_givenBy_b54 K4 K15 s h o1 a2 a3 a4)
theorem wX0_givenBy_b15 {N : Nx} {b : Nat} {ad : Nat → Nat} {s : Sg} {h : hS} {r : Int} (E : EndX N [(0, b, ad)] 6 (some .int) (some (ti r)) [s] h) (K4 : Sg → hS → Option Nat → Int → Int → Option (Int)) (hK4 : ∀ (o1 : Option Nat) (a2 : Int) (a3 : Int) (ha2 : rI a2) (ha3 : rI a3), K4 s h o1 a2 a3 = some (r) → AtPc cX0_givenBy RX0 1 21 N [s] h 4 [(0, tr (some b)), (1, tr o1), (2, ti a2), (3, ti a3)] []) (K15 : Sg → hS → Option Nat → Int → Int → Int → Option (Int)) (hK15 : ∀ (o1 : Option Nat) (a2 : Int) (a3 : Int) (a4 : Int) (ha2 : rI a2) (ha3 : rI a3) (ha4 : rI a4), K15 s h o1 a2 a3 a4 = some (r) → AtPc cX0_givenBy RX0 1 21 N [s] h 15 [(0, tr (some b)), (1, tr o1), (2, ti a2), (3, ti a3), (4, ti a4)] []) (o1 : Option Nat) (a2 : Int) (a3 : Int) (a4 : Int) (ha2 : rI a2) (ha3 : rI a3) (ha4 : rI a4) (e : fX0_givenBy_b15 K4 K15 s h o1 a2 a3 a4 = some (r)) : AtPc cX0_givenBy RX0 1 21 N [s] h 15 [(0, tr (some b)), (1, tr o1), (2, ti a2), (3, ti a3), (4, ti a4)] [] := by
  unfold fX0_givenBy_b15 at e
  refine r_rrs E.p (fun rr => ?_)
  refine r_iload dX0_givenBy_15 4 rfl ?_
  refine r_aload_n dX0_givenBy_17 rfl 0 rfl ?_
  refine r_sI E.p 3 fG_X0_238 (by decide) dX0_givenBy_18 ?_
  have eT := (r_ifo e).1
  have eF := (r_ifo e).2
  refine r_icmp_ge ha4 ((rr.mine rfl).i 3 (by decide) (by decide)) 92 dX0_givenBy_21 (by decide) (fun c1 => ?_) (fun c1 => ?_)
  · have e := eT c1
    refine r_iinc (lv' := [(3, ti (wr (a3 + 1))), (0, tr (some b)), (1, tr o1), (2, ti a2), (4, ti a4)]) dX0_givenBy_92 3 rfl (E.lt (by decide)) rfl ?_
    refine r_goto 4 dX0_givenBy_95 (by decide) ?_
    refine r_sub [1, 2, 3, 0] rfl ?_
    exact hK4 o1 a2 (wr (a3 + 1)) ha2 (wr_r _) e
  · have e := eF c1
    refine r_iload dX0_givenBy_24 4 rfl ?_
    refine r_aload_n dX0_givenBy_26 rfl 1 rfl ?_
    obtain ⟨v2, q3, e⟩ := bd_o e
    refine r_getQ fG_X0_257 q3 dX0_givenBy_27 ?_
    refine r_iload_n dX0_givenBy_30 rfl 3 rfl ?_
    obtain ⟨v4, q5, e⟩ := bd_o e
    refine r_aI ha3 q5 rfl dX0_givenBy_31 ?_
    have eT := (r_ifo e).1
    have eF := (r_ifo e).2
    refine r_icmp_eq ha4 (aI_r rr q5) 54 dX0_givenBy_32 (by decide) (fun c6 => ?_) (fun c6 => ?_)
    · have e := eT c6
      exact wX0_givenBy_b54 E K4 hK4 K15 hK15 o1 a2 a3 a4 ha2 ha3 ha4 e
    · have e := eF c6
      refine r_aload_n dX0_givenBy_35 rfl 0 rfl ?_
      refine r_sR E.p 2 fG_X0_111 (by decide) dX0_givenBy_36 ?_
      refine r_aload_n dX0_givenBy_39 rfl 1 rfl ?_
      obtain ⟨v7, q8, e⟩ := bd_o e
      refine r_getQ fG_X0_257 q8 dX0_givenBy_40 ?_
      refine r_iload_n dX0_givenBy_43 rfl 3 rfl ?_
      obtain ⟨v9, q10, e⟩ := bd_o e
      refine r_aI ha3 q10 rfl dX0_givenBy_44 ?_
      obtain ⟨g11, e⟩ := gd_o e
      refine r_saI E.p 2 rfl (by decide) (by decide) (aI_r rr q10) g11 rfl dX0_givenBy_45 ?_
      refine r_iload dX0_givenBy_46 4 rfl ?_
      obtain ⟨p12, q13, e⟩ := bd_o e
      have k14 := kX0_has (G := nG N) (h := h) (((rr.mine rfl).a 2 (by decide) rfl).1 _) ha4 q13
      have z15 := (k14 rr.none).1.2.2.2
      refine r_callS (j := none) 2 [ti (gA s 2 v9), ti a4] k14 (injO_1 E.p) subO_0 getO_0 setO_0 (lw_S q441 q442 q115 q443) (by decide +kernel) rfl (Nat.le_of_ble_eq_true rfl) (Nat.le_of_ble_eq_true rfl) rfl (Nat.le_of_ble_eq_true rfl) dX0_givenBy_48 rfl ?_
      have eT := (r_ifo e).1
      have eF := (r_ifo e).2
      refine r_if_eq (rI_z z15) 58 dX0_givenBy_51 (by decide) (fun c16 => ?_) (fun c16 => ?_)
      · have e := eT c16
        refine r_iconst dX0_givenBy_58 ?_
        exact wX0_givenBy_b59 E K4 hK4 K15 hK15 o1 a2 a3 a4 0 ha2 ha3 ha4 (by decide) e
      · have e := eF c16
        exact wX0_givenBy_b54 E K4 hK4 K15 hK15 o1 a2 a3 a4 ha2 ha3 ha4 e
def fX0_givenBy_L15 (K4 : Sg → hS → Option Nat → Int → Int → Option (Int)) : Nat → Sg → hS → Option Nat → Int → Int → Int → Option (Int)
  | 0, _, _, _, _, _, _ => none
  | n9 + 1, s, h, o1, a2, a3, a4 => fX0_givenBy_b15 K4 (fX0_givenBy_L15 K4 n9) s h o1 a2 a3 a4
theorem wX0_givenBy_L15 {N : Nx} {b : Nat} {ad : Nat → Nat} {s : Sg} {h : hS} {r : Int} (E : EndX N [(0, b, ad)] 6 (some .int) (some (ti r)) [s] h) (K4 : Sg → hS → Option Nat → Int → Int → Option (Int)) (hK4 : ∀ (o1 : Option Nat) (a2 : Int) (a3 : Int) (ha2 : rI a2) (ha3 : rI a3), K4 s h o1 a2 a3 = some (r) → AtPc cX0_givenBy RX0 1 21 N [s] h 4 [(0, tr (some b)), (1, tr o1), (2, ti a2), (3, ti a3)] []) : ∀ (n9 : Nat), ∀ (o1 : Option Nat) (a2 : Int) (a3 : Int) (a4 : Int) (ha2 : rI a2) (ha3 : rI a3) (ha4 : rI a4), fX0_givenBy_L15 K4 n9 s h o1 a2 a3 a4 = some (r) → AtPc cX0_givenBy RX0 1 21 N [s] h 15 [(0, tr (some b)), (1, tr o1), (2, ti a2), (3, ti a3), (4, ti a4)] [] := by
  intro n9
  induction n9 with
  | zero => intro o1 a2 a3 a4 ha2 ha3 ha4 e; cases e
  | succ n9 ih => intro o1 a2 a3 a4 ha2 ha3 ha4 e; exact wX0_givenBy_b15 E K4 hK4 _ ih o1 a2 a3 a4 ha2 ha3 ha4 e
def fX0_givenBy_b4 (K4 : Sg → hS → Option Nat → Int → Int → Option (Int)) (s : Sg) (h : hS) (o1 : Option Nat) (a2 : Int) (a3 : Int) : Option (Int) := bd (hI h o1 [(1, 5), (2, 5), (3, 5), (4, 5), (5, 5)]) fun v1 => if v1 ≤ a3 then some a2 else fX0_givenBy_L15 K4 FU s h o1 a2 a3 0
theorem wX0_givenBy_b4 {N : Nx} {b : Nat} {ad : Nat → Nat} {s : Sg} {h : hS} {r : Int} (E : EndX N [(0, b, ad)] 6 (some .int) (some (ti r)) [s] h) (K4 : Sg → hS → Option Nat → Int → Int → Option (Int)) (hK4 : ∀ (o1 : Option Nat) (a2 : Int) (a3 : Int) (ha2 : rI a2) (ha3 : rI a3), K4 s h o1 a2 a3 = some (r) → AtPc cX0_givenBy RX0 1 21 N [s] h 4 [(0, tr (some b)), (1, tr o1), (2, ti a2), (3, ti a3)] []) (o1 : Option Nat) (a2 : Int) (a3 : Int) (ha2 : rI a2) (ha3 : rI a3) (e : fX0_givenBy_b4 K4 s h o1 a2 a3 = some (r)) : AtPc cX0_givenBy RX0 1 21 N [s] h 4 [(0, tr (some b)), (1, tr o1), (2, ti a2), (3, ti a3)] [] := by
  unfold fX0_givenBy_b4 at e
  refine r_rrs E.p (fun rr => ?_)
  refine r_iload_n dX0_givenBy_4 rfl 3 rfl ?_
  refine r_aload_n dX0_givenBy_5 rfl 1 rfl ?_
  obtain ⟨v1, q2, e⟩ := bd_o e
  refine r_getI fG_X0_254 q2 dX0_givenBy_6 ?_
  have eT := (r_ifo e).1
  have eF := (r_ifo e).2
  refine r_icmp_ge ha3 (hI_r rr q2) 98 dX0_givenBy_9 (by decide) (fun c3 => ?_) (fun c3 => ?_)
  · have e := eT c3
    refine r_iload_n dX0_givenBy_98 rfl 2 rfl ?_
    cases e
    exact r_iret E.σ E.st E.rt E.r ha2 dX0_givenBy_99
  · have e := eF c3
    refine r_iconst dX0_givenBy_12 ?_
    refine r_istore (lv' := [(4, ti 0), (0, tr (some b)), (1, tr o1), (2, ti a2), (3, ti a3)]) dX0_givenBy_13 (E.lt (by decide)) rfl ?_
    refine r_sub [1, 2, 3, 4, 0] rfl ?_
    exact wX0_givenBy_L15 E K4 hK4 FU o1 a2 a3 0 ha2 ha3 (by decide) e
def fX0_givenBy_L4  : Nat → Sg → hS → Option Nat → Int → Int → Option (Int)
  | 0, _, _, _, _, _ => none
  | n9 + 1, s, h, o1, a2, a3 => fX0_givenBy_b4 (fX0_givenBy_L4 n9) s h o1 a2 a3
theorem wX0_givenBy_L4 {N : Nx} {b : Nat} {ad : Nat → Nat} {s : Sg} {h : hS} {r : Int} (E : EndX N [(0, b, ad)] 6 (some .int) (some (ti r)) [s] h)  : ∀ (n9 : Nat), ∀ (o1 : Option Nat) (a2 : Int) (a3 : Int) (ha2 : rI a2) (ha3 : rI a3), fX0_givenBy_L4 n9 s h o1 a2 a3 = some (r) → AtPc cX0_givenBy RX0 1 21 N [s] h 4 [(0, tr (some b)), (1, tr o1), (2, ti a2), (3, ti a3)] [] := by
  intro n9
  induction n9 with
  | zero => intro o1 a2 a3 ha2 ha3 e; cases e
  | succ n9 ih => intro o1 a2 a3 ha2 ha3 e; exact wX0_givenBy_b4 E _ ih o1 a2 a3 ha2 ha3 e
def fX0_givenBy  (s : Sg) (h : hS) (o1 : Option Nat) : Option (Int) := fX0_givenBy_L4 FU s h o1 0 0
theorem kX0_givenBy {G : Gx}  {b : Nat} {ad : Nat → Nat} {s : Sg} {h : hS} {r : Int} {o1 : Option Nat}   (e : fX0_givenBy s h o1 = some (r)) : CtX G yX0_givenBy cX0_givenBy 6 (some .int) 1 21 [(0, b, ad)] [s] h [tr (some b), tr o1] (some (ti r)) [s] h := by
  refine CtX.of (by decide) (Nat.le_of_ble_eq_true rfl) [(0, tr (some b)), (1, tr o1)] rfl ?_
  have E : EndX (G, 6, [(0, b, ad)], h, [s], h, (some .int), (some (ti r)), yX0_givenBy.name) [(0, b, ad)] 6 (some .int) (some (ti r)) [s] h := ⟨rfl, rfl, rfl, rfl, rfl, rfl⟩
  unfold fX0_givenBy at e
  refine r_rrs E.p (fun rr => ?_)
  refine r_iconst dX0_givenBy_0 ?_
  refine r_istore_n (lv' := [(2, ti 0), (0, tr (some b)), (1, tr o1)]) dX0_givenBy_1 rfl (E.lt (by decide)) rfl ?_
  refine r_iconst dX0_givenBy_2 ?_
  refine r_istore_n (lv' := [(3, ti 0), (2, ti 0), (0, tr (some b)), (1, tr o1)]) dX0_givenBy_3 rfl (E.lt (by decide)) rfl ?_
  refine r_sub [2, 3, 1, 0] rfl ?_
  exact wX0_givenBy_L4 E FU o1 0 0 (by decide) (by decide) e
def fX0_lackedBy_b88 (K11 : Option Nat → Sg → hS → Option Nat → Int → Int → Int → Option (Int × hS)) (pm : Option Nat) (s : Sg) (h : hS) (o1 : Option Nat) (a2 : Int) (a3 : Int) (a4 : Int) : Option (Int × hS) := K11 pm s h o1 a2 a3 (wr (a4 + 1))
theorem wX0_lackedBy_b88 {N : Nx} {b : Nat} {ad : Nat → Nat} {s : Sg} {h' : hS} {r : Int} (E : EndX N [(0, b, ad)] 6 (some .int) (some (ti r)) [s] h') (K11 : Option Nat → Sg → hS → Option Nat → Int → Int → Int → Option (Int × hS)) (hK11 : ∀ (h : hS) (o1 : Option Nat) (a2 : Int) (a3 : Int) (a4 : Int) (ha2 : rI a2) (ha3 : rI a3) (ha4 : rI a4), K11 (some (ad 20)) s h o1 a2 a3 a4 = some (r, h') → AtPc cX0_lackedBy RX0 83 2822 N [s] h 11 [(0, tr (some b)), (1, tr o1), (2, ti a2), (3, ti a3), (4, ti a4)] []) (h : hS) (o1 : Option Nat) (a2 : Int) (a3 : Int) (a4 : Int) (ha2 : rI a2) (ha3 : rI a3) (ha4 : rI a4) (e : fX0_lackedBy_b88 K11 (some (ad 20)) s h o1 a2 a3 a4 = some (r, h')) : AtPc cX0_lackedBy RX0 83 2822 N [s] h 88 [(0, tr (some b)), (1, tr o1), (2, ti a2), (3, ti a3), (4, ti a4)] [] := by
  unfold fX0_lackedBy_b88 at e
  refine r_rrs E.p (fun rr => ?_)
  refine r_iinc (lv' := [(4, ti (wr (a4 + 1))), (0, tr (some b)), (1, tr o1), (2, ti a2), (3, ti a3)]) dX0_lackedBy_88 4 rfl (E.lt (by decide)) rfl ?_
  refine r_goto 11 dX0_lackedBy_91 (by decide) ?_
  refine r_sub [1, 2, 3, 4, 0] rfl ?_
  exact hK11 h o1 a2 a3 (wr (a4 + 1)) ha2 ha3 (wr_r _) e
def fX0_lackedBy_b86 (K11 : Option Nat → Sg → hS → Option Nat → Int → Int → Int → Option (Int × hS)) (pm : Option Nat) (s : Sg) (h : hS) (o1 : Option Nat) (a3 : Int) (a4 : Int) (k0 : Int) (k1 : Int) : Option (Int × hS) := fX0_lackedBy_b88 K11 pm s h o1 (ior k0 k1) a3 a4
theorem wX0_lackedBy_b86 {N : Nx} {b : Nat} {ad : Nat → Nat} {s : Sg} {h' : hS} {r : Int} (E : EndX N [(0, b, ad)] 6 (some .int) (some (ti r)) [s] h') (K11 : Option Nat → Sg → hS → Option Nat → Int → Int → Int → Option (Int × hS)) (hK11 : ∀ (h : hS) (o1 : Option Nat) (a2 : Int) (a3 : Int) (a4 : Int) (ha2 : rI a2) (ha3 : rI a3) (ha4 : rI a4), K11 (some (ad 20)) s h o1 a2 a3 a4 = some (r, h') → AtPc cX0_lackedBy RX0 83 2822 N [s] h 11 [(0, tr (some b)), (1, tr o1), (2, ti a2), (3, ti a3), (4, ti a4)] []) (h : hS) (o1 : Option Nat) (a3 : Int) (a4 : Int) (k0 : Int) (k1 : Int) (ha3 : rI a3) (ha4 : rI a4) (hk0 : rI k0) (hk1 : rI k1) (e : fX0_lackedBy_b86 K11 (some (ad 20)) s h o1 a3 a4 k0 k1 = some (r, h')) : AtPc cX0_lackedBy RX0 83 2822 N [s] h 86 [(0, tr (some b)), (1, tr o1), (3, ti a3), (4, ti a4)] [ti k1, ti k0] := by
  unfold fX0_lackedBy_b86 at e
  refine r_rrs E.p (fun rr => ?_)
  refine r_ior dX0_lackedBy_86 ?_
  refine r_istore_n (lv' := [(2, ti (ior k0 k1)), (0, tr (some b)), (1, tr o1), (3, ti a3), (4, ti a4)]) dX0_lackedBy_87 rfl (E.lt (by decide)) rfl ?_
  refine r_sub [1, 2, 0, 3, 4] rfl ?_
  exact wX0_lackedBy_b88 E K11 hK11 h o1 (ior k0 k1) a3 a4 (ior_r _ _) ha3 ha4 e
def fX0_lackedBy_b78 (K11 : Option Nat → Sg → hS → Option Nat → Int → Int → Int → Option (Int × hS)) (pm : Option Nat) (s : Sg) (h : hS) (o1 : Option Nat) (a3 : Int) (a4 : Int) (k0 : Int) : Option (Int × hS) := fX0_lackedBy_b86 K11 pm s h o1 a3 a4 k0 (ishl 1 a4)
theorem wX0_lackedBy_b78 {N : Nx} {b : Nat} {ad : Nat → Nat} {s : Sg} {h' : hS} {r : Int} (E : EndX N [(0, b, ad)] 6 (some .int) (some (ti r)) [s] h') (K11 : Option Nat → Sg → hS → Option Nat → Int → Int → Int → Option (Int × hS)) (hK11 : ∀ (h : hS) (o1 : Option Nat) (a2 : Int) (a3 : Int) (a4 : Int) (ha2 : rI a2) (ha3 : rI a3) (ha4 : rI a4), K11 (some (ad 20)) s h o1 a2 a3 a4 = some (r, h') → AtPc cX0_lackedBy RX0 83 2822 N [s] h 11 [(0, tr (some b)), (1, tr o1), (2, ti a2), (3, ti a3), (4, ti a4)] []) (h : hS) (o1 : Option Nat) (a3 : Int) (a4 : Int) (k0 : Int) (ha3 : rI a3) (ha4 : rI a4) (hk0 : rI k0) (e : fX0_lackedBy_b78 K11 (some (ad 20)) s h o1 a3 a4 k0 = some (r, h')) : AtPc cX0_lackedBy RX0 83 2822 N [s] h 78 [(0, tr (some b)), (1, tr o1), (3, ti a3), (4, ti a4)] [ti k0] := by
  unfold fX0_lackedBy_b78 at e
  refine r_rrs E.p (fun rr => ?_)
  refine r_iconst dX0_lackedBy_78 ?_
  refine r_iload dX0_lackedBy_79 3 rfl ?_
  refine r_ishl dX0_lackedBy_81 ?_
  refine r_goto 86 dX0_lackedBy_82 (by decide) ?_
  exact wX0_lackedBy_b86 E K11 hK11 h o1 a3 a4 k0 (ishl 1 a4) ha3 ha4 hk0 (ishl_r _ _) e
def fX0_lackedBy_b11 (K11 : Option Nat → Sg → hS → Option Nat → Int → Int → Int → Option (Int × hS)) (pm : Option Nat) (s : Sg) (h : hS) (o1 : Option Nat) (a2 : Int) (a3 : Int) (a4 : Int) : Option (Int × hS) := if (gI s 3) ≤ a4 then some (a2, h) else bd (hI h o1 [(1, 1), (2, 1), (3, 1), (4, 1), (5, 1)]) fun v2 => gd (inb v2 4) (bd (fX0_has (gA s 1 v2) a4) fun p5 => if p5 = 0 then fX0_lackedBy_b88 K11 pm s h o1 a2 a3 a4 else bd (nwS h 9 [vi 0, vq none]) fun p10 => bd (hQ p10.2 o1 [(1, 2), (2, 2), (3, 2), (4, 2), (5, 2)]) fun v13 => bd (fX9_init p10.2 (some p10.1) a4 v13) fun p15 => bd (fX0_prove 16 pm s p15 (some p10.1)) fun p20 => bd (hI p20.2 p20.1 [(10, 1)]) fun v25 => if ¬ v25 = 1 then fX0_lackedBy_b78 K11 pm s p20.2 o1 a3 a4 a2 else gd (hC p20.2 p20.1 = some 10) (bd (fX10_needs 16 p20.2 p20.1) fun p28 => if (iand p28 (ixor a3 (-1))) = 0 then fX0_lackedBy_b86 K11 pm s p20.2 o1 a3 a4 a2 0 else fX0_lackedBy_b78 K11 pm s p20.2 o1 a3 a4 a2))
theorem wX0_lackedBy_b11 {N : Nx} {b : Nat} {ad : Nat → Nat} {s : Sg} {h' : hS} {r : Int} (E : EndX N [(0, b, ad)] 6 (some .int) (some (ti r)) [s] h') (K11 : Option Nat → Sg → hS → Option Nat → Int → Int → Int → Option (Int × hS)) (hK11 : ∀ (h : hS) (o1 : Option Nat) (a2 : Int) (a3 : Int) (a4 : Int) (ha2 : rI a2) (ha3 : rI a3) (ha4 : rI a4), K11 (some (ad 20)) s h o1 a2 a3 a4 = some (r, h') → AtPc cX0_lackedBy RX0 83 2822 N [s] h 11 [(0, tr (some b)), (1, tr o1), (2, ti a2), (3, ti a3), (4, ti a4)] []) (h : hS) (o1 : Option Nat) (a2 : Int) (a3 : Int) (a4 : Int) (ha2 : rI a2) (ha3 : rI a3) (ha4 : rI a4) (e : fX0_lackedBy_b11 K11 (some (ad 20)) s h o1 a2 a3 a4 = some (r, h')) : AtPc cX0_lackedBy RX0 83 2822 N [s] h 11 [(0, tr (some b)), (1, tr o1), (2, ti a2), (3, ti a3), (4, ti a4)] [] := by
  unfold fX0_lackedBy_b11 at e
  refine r_rrs E.p (fun rr => ?_)
  refine r_iload dX0_lackedBy_11 4 rfl ?_
  refine r_aload_n dX0_lackedBy_13 rfl 0 rfl ?_
  refine r_sI E.p 3 fG_X0_238 (by decide) dX0_lackedBy_14 ?_
  have eT := (r_ifo e).1
  have eF := (r_ifo e).2
  refine r_icmp_ge ha4 ((rr.mine rfl).i 3 (by decide) (by decide)) 94 dX0_lackedBy_17 (by decide) (fun c1 => ?_) (fun c1 => ?_)
  · have e := eT c1
    refine r_iload_n dX0_lackedBy_94 rfl 2 rfl ?_
    cases e
    exact r_iret E.σ E.st E.rt E.r ha2 dX0_lackedBy_95
  · have e := eF c1
    refine r_aload_n dX0_lackedBy_20 rfl 0 rfl ?_
    refine r_sR E.p 1 fG_X0_107 (by decide) dX0_lackedBy_21 ?_
    refine r_aload_n dX0_lackedBy_24 rfl 1 rfl ?_
    obtain ⟨v2, q3, e⟩ := bd_o e
    refine r_getI fG_X0_248 q3 dX0_lackedBy_25 ?_
    obtain ⟨g4, e⟩ := gd_o e
    refine r_saI E.p 1 rfl (by decide) (by decide) (hI_r rr q3) g4 rfl dX0_lackedBy_28 ?_
    refine r_iload dX0_lackedBy_29 4 rfl ?_
    obtain ⟨p5, q6, e⟩ := bd_o e
    have k7 := kX0_has (G := nG N) (h := h) (((rr.mine rfl).a 1 (by decide) rfl).1 _) ha4 q6
    have z8 := (k7 rr.none).1.2.2.2
    refine r_callS (j := none) 2 [ti (gA s 1 v2), ti a4] k7 (injO_1 E.p) subO_0 getO_0 setO_0 (lw_S q441 q442 q115 q443) (by decide +kernel) rfl (Nat.le_of_ble_eq_true rfl) (Nat.le_of_ble_eq_true rfl) rfl (Nat.le_of_ble_eq_true rfl) dX0_lackedBy_31 rfl ?_
    have eT := (r_ifo e).1
    have eF := (r_ifo e).2
    refine r_if_eq (rI_z z8) 88 dX0_lackedBy_34 (by decide) (fun c9 => ?_) (fun c9 => ?_)
    · have e := eT c9
      exact wX0_lackedBy_b88 E K11 hK11 h o1 a2 a3 a4 ha2 ha3 ha4 e
    · have e := eF c9
      refine r_aload_n dX0_lackedBy_37 rfl 0 rfl ?_
      obtain ⟨p10, q11, e⟩ := bd_o e
      refine r_newS [vi 0, vq none] q11 rfl in_X9 tyX9_ok q862 q863 q133 (by decide +kernel) rfl (by decide +kernel) dX0_lackedBy_38 ?_
      refine r_rrs E.p (fun rr12 => ?_)
      refine r_dup dX0_lackedBy_41 rfl ?_
      refine r_iload dX0_lackedBy_42 4 rfl ?_
      refine r_aload_n dX0_lackedBy_44 rfl 1 rfl ?_
      obtain ⟨v13, q14, e⟩ := bd_o e
      refine r_getQ fG_X0_251 q14 dX0_lackedBy_45 ?_
      obtain ⟨p15, q16, e⟩ := bd_o e
      have k17 := kX9_init (G := nG N) ha4 q16
      have z18 := (k17 rr12.none).1.2.2.2
      refine r_callIo (j := none) 2 [ti a4, tr v13] (fun q => by cases q) rfl rfl k17 (injO_1 E.p) subO_0 getO_0 setO_0 q866 q133 q864 q865 (by decide +kernel) rfl (Nat.le_of_ble_eq_true rfl) (Nat.le_of_ble_eq_true rfl) rfl (Nat.le_of_ble_eq_true rfl) dX0_lackedBy_48 rfl ?_
      refine r_rrs E.p (fun rr19 => ?_)
      obtain ⟨p20, q21, e⟩ := bd_o e
      have k22 := kX0_prove (G := nG N) 16 (b := b) (ad := ad)  q21
      have z23 := (k22 rr19).1.2.2.2
      refine r_callV (j := some 0) 1 [tr (some p10.1)] (rec_sg (j := 0) (r := (RX0, TX0, 36)) rfl (by rw [E.p]; rfl)) rfl k22 (injO_1 E.p) (subO_1 E.p) getO_1 setO_1 (lw_V q877 q879 qs13 q115 q880) (by decide +kernel) rfl (Nat.le_of_ble_eq_true rfl) (Nat.le_of_ble_eq_true rfl) rfl (Nat.le_of_ble_eq_true rfl) dX0_lackedBy_51 rfl ?_
      refine r_rrs E.p (fun rr24 => ?_)
      refine r_astore (lv' := [(5, tr p20.1), (0, tr (some b)), (1, tr o1), (2, ti a2), (3, ti a3), (4, ti a4)]) dX0_lackedBy_54 (E.lt (by decide)) rfl ?_
      refine r_iload_n dX0_lackedBy_56 rfl 3 rfl ?_
      refine r_aload dX0_lackedBy_57 0 rfl ?_
      obtain ⟨v25, q26, e⟩ := bd_o e
      refine r_getI fG_X0_341 q26 dX0_lackedBy_59 ?_
      refine r_iconst dX0_lackedBy_62 ?_
      have eT := (r_ifo e).1
      have eF := (r_ifo e).2
      refine r_icmp_ne (hI_r rr24 q26) (by decide) 78 dX0_lackedBy_63 (by decide) (fun c27 => ?_) (fun c27 => ?_)
      · have e := eT c27
        refine r_sub [1, 2, 4, 5] rfl ?_
        exact wX0_lackedBy_b78 E K11 hK11 p20.2 o1 a3 a4 a2 ha3 ha4 ha2 e
      · have e := eF c27
        refine r_aload dX0_lackedBy_66 0 rfl ?_
        obtain ⟨g30, e⟩ := gd_o e
        obtain ⟨p28, q29, e⟩ := bd_o e
        have k31 := kX10_needs (G := nG N) 16  q29
        have z32 := (k31 rr24.none).1.2.2.2
        refine r_callVo (j := none) 0 [] (c := 10) (rc := (RX10, TX10, 4)) rfl g30 rfl k31 (injO_1 E.p) subO_0 getO_0 setO_0 (lw_V q1045 q1046 q1047 q134 q1048) (by decide +kernel) rfl (Nat.le_of_ble_eq_true rfl) (Nat.le_of_ble_eq_true rfl) rfl (Nat.le_of_ble_eq_true rfl) dX0_lackedBy_68 rfl ?_
        refine r_iload_n dX0_lackedBy_71 rfl 4 rfl ?_
        refine r_iconst dX0_lackedBy_72 ?_
        refine r_ixor dX0_lackedBy_73 ?_
        refine r_iand dX0_lackedBy_74 ?_
        have eT := (r_ifo e).1
        have eF := (r_ifo e).2
        refine r_if_eq (iand_r _ _) 85 dX0_lackedBy_75 (by decide) (fun c33 => ?_) (fun c33 => ?_)
        · have e := eT c33
          refine r_iconst dX0_lackedBy_85 ?_
          refine r_sub [1, 2, 4, 5] rfl ?_
          exact wX0_lackedBy_b86 E K11 hK11 p20.2 o1 a3 a4 a2 0 ha3 ha4 ha2 (by decide) e
        · have e := eF c33
          refine r_sub [1, 2, 4, 5] rfl ?_
          exact wX0_lackedBy_b78 E K11 hK11 p20.2 o1 a3 a4 a2 ha3 ha4 ha2 e
def fX0_lackedBy_L11  : Nat → Option Nat → Sg → hS → Option Nat → Int → Int → Int → Option (Int × hS)
  | 0, _, _, _, _, _, _, _ => none
  | n9 + 1, pm, s, h, o1, a2, a3, a4 => fX0_lackedBy_b11 (fX0_lackedBy_L11 n9) pm s h o1 a2 a3 a4
theorem wX0_lackedBy_L11 {N : Nx} {b : Nat} {ad : Nat → Nat} {s : Sg} {h' : hS} {r : Int} (E : EndX N [(0, b, ad)] 6 (some .int) (some (ti r)) [s] h')  : ∀ (n9 : Nat), ∀ (h : hS) (o1 : Option Nat) (a2 : Int) (a3 : Int) (a4 : Int) (ha2 : rI a2) (ha3 : rI a3) (ha4 : rI a4), fX0_lackedBy_L11 n9 (some (ad 20)) s h o1 a2 a3 a4 = some (r, h') → AtPc cX0_lackedBy RX0 83 2822 N [s] h 11 [(0, tr (some b)), (1, tr o1), (2, ti a2), (3, ti a3), (4, ti a4)] [] := by
  intro n9
  induction n9 with
  | zero => intro h o1 a2 a3 a4 ha2 ha3 ha4 e; cases e
  | succ n9 ih => intro h o1 a2 a3 a4 ha2 ha3 ha4 e; exact wX0_lackedBy_b11 E _ ih h o1 a2 a3 a4 ha2 ha3 ha4 e
def fX0_lackedBy  (pm : Option Nat) (s : Sg) (h : hS) (o1 : Option Nat) : Option (Int × hS) := bd (fX0_givenBy s h o1) fun p1 => fX0_lackedBy_L11 FU pm s h o1 0 p1 0
theorem kX0_lackedBy {G : Gx}  {b : Nat} {ad : Nat → Nat} {s : Sg} {h' : hS} {r : Int} {h : hS} {o1 : Option Nat}   (e : fX0_lackedBy (some (ad 20)) s h o1 = some (r, h')) : CtX G yX0_lackedBy cX0_lackedBy 6 (some .int) 83 2822 [(0, b, ad)] [s] h [tr (some b), tr o1] (some (ti r)) [s] h' := by
  refine CtX.of (by decide) (Nat.le_of_ble_eq_true rfl) [(0, tr (some b)), (1, tr o1)] rfl ?_
  have E : EndX (G, 6, [(0, b, ad)], h, [s], h', (some .int), (some (ti r)), yX0_lackedBy.name) [(0, b, ad)] 6 (some .int) (some (ti r)) [s] h' := ⟨rfl, rfl, rfl, rfl, rfl, rfl⟩
  unfold fX0_lackedBy at e
  refine r_rrs E.p (fun rr => ?_)
  refine r_iconst dX0_lackedBy_0 ?_
  refine r_istore_n (lv' := [(2, ti 0), (0, tr (some b)), (1, tr o1)]) dX0_lackedBy_1 rfl (E.lt (by decide)) rfl ?_
  refine r_aload_n dX0_lackedBy_2 rfl 1 rfl ?_
  refine r_aload_n dX0_lackedBy_3 rfl 2 rfl ?_
  obtain ⟨p1, q2, e⟩ := bd_o e
  have k3 := kX0_givenBy (G := G) (b := b) (ad := ad)  q2
  have z4 := (k3 rr).1.2.2.2
  refine r_callV (j := some 0) 1 [tr o1] (rec_sg (j := 0) (r := (RX0, TX0, 36)) rfl (by rw [E.p]; rfl)) rfl k3 (injO_1 E.p) (subO_1 E.p) getO_1 setO_1 (lw_V q1202 q1204 qs31 q115 q1205) (by decide +kernel) rfl (Nat.le_of_ble_eq_true rfl) (Nat.le_of_ble_eq_true rfl) rfl (Nat.le_of_ble_eq_true rfl) dX0_lackedBy_4 rfl ?_
  refine r_istore_n (lv' := [(3, ti p1), (2, ti 0), (0, tr (some b)), (1, tr o1)]) dX0_lackedBy_7 rfl (E.lt (by decide)) rfl ?_
  refine r_iconst dX0_lackedBy_8 ?_
  refine r_istore (lv' := [(4, ti 0), (3, ti p1), (2, ti 0), (0, tr (some b)), (1, tr o1)]) dX0_lackedBy_9 (E.lt (by decide)) rfl ?_
  refine r_sub [3, 4, 2, 1, 0] rfl ?_
  exact wX0_lackedBy_L11 E FU h o1 0 p1 0 (by decide) z4 (by decide) e
def D9_kind (h : hS) (o : Option Nat)  : Option (Int) := if hC h o = some 1 then fX1_kind o else if hC h o = some 2 then fX2_kind o else if hC h o = some 3 then fX3_kind o else if hC h o = some 4 then fX4_kind o else if hC h o = some 5 then fX5_kind h o else none
theorem zD9_kind {G : Gx} {h : hS} {o : Option Nat}  {p : Int}  (q : D9_kind h o  = some p) (rr : RR [] [] h) : rtOK (some .int) (some (ti p)) := by
  unfold D9_kind at q
  split at q
  · exact ((kX1_kind (G := G) (h := h)  q) rr).1.2.2.2
  split at q
  · exact ((kX2_kind (G := G) (h := h)  q) rr).1.2.2.2
  split at q
  · exact ((kX3_kind (G := G) (h := h)  q) rr).1.2.2.2
  split at q
  · exact ((kX4_kind (G := G) (h := h)  q) rr).1.2.2.2
  split at q
  · exact ((kX5_kind (G := G)  q) rr).1.2.2.2
  cases q
theorem rD_X0_404 {N : Nx} {cc : ByteArray} {fR lO : Nat} {σs : List Sg} {h : hS} {pc : Nat} {lv : List (Nat × Tv)} {stk stk0 stk1 : List Tv} {o : Option Nat}  {p : Int}  (q : D9_kind h o  = some p) (hinj : injO N) (hfr : 2 ≤ fR) (hlo : 40 ≤ lO) (hstk : stk0 = [].reverse ++ tr o :: stk) (hroom : (stk.map tc).sum ≤ 8) (hd : decode cc pc = .ok (.invokevirtual 404, 3)) (hs1 : ti p :: stk = stk1) (k : AtPc cc RX0 fR lO N σs h (pc + 3) lv stk1) : AtPc cc RX0 fR lO N σs h pc lv stk0 := by
  unfold D9_kind at q
  split at q
  · rename_i g1; exact r_callVo (j := none) 0 [] (c := 1) (rc := (RX1, TX1, 6)) rfl g1 rfl (kX1_kind (G := nG N) (h := h)  q) hinj subO_0 getO_0 setO_0 (lw_V q1097 q1098 q1099 q116 q1114) (by decide +kernel) rfl (by omega) (by omega) hstk hroom hd hs1 k
  split at q
  · rename_i g1; exact r_callO (j := none) 0 [] (c := 2) (rc := (RX2, TX2, 6)) rfl g1 (x := ⟨"DictProof$Instance", "kind", "()I"⟩) (owner := "DictProof$Instance") q1114 (kX2_kind (G := nG N) (h := h)  q) hinj subO_0 getO_0 setO_0 (lw_O q1097 q1100 q1098 q1111 q1112 q117 q1113) (by decide +kernel) rfl (by omega) (by omega) hstk hroom hd hs1 k
  split at q
  · rename_i g1; exact r_callO (j := none) 0 [] (c := 3) (rc := (RX3, TX3, 6)) rfl g1 (x := ⟨"DictProof$Instance", "kind", "()I"⟩) (owner := "DictProof$Instance") q1114 (kX3_kind (G := nG N) (h := h)  q) hinj subO_0 getO_0 setO_0 (lw_O q1097 q1100 q1098 q1104 q1105 q118 q1106) (by decide +kernel) rfl (by omega) (by omega) hstk hroom hd hs1 k
  split at q
  · rename_i g1; exact r_callO (j := none) 0 [] (c := 4) (rc := (RX4, TX4, 6)) rfl g1 (x := ⟨"DictProof$Instance", "kind", "()I"⟩) (owner := "DictProof$Instance") q1114 (kX4_kind (G := nG N) (h := h)  q) hinj subO_0 getO_0 setO_0 (lw_O q1097 q1100 q1098 q1101 q1102 q119 q1103) (by decide +kernel) rfl (by omega) (by omega) hstk hroom hd hs1 k
  split at q
  · rename_i g1; exact r_callO (j := none) 0 [] (c := 5) (rc := (RX5, TX5, 6)) rfl g1 (x := ⟨"DictProof$Instance", "kind", "()I"⟩) (owner := "DictProof$Instance") q1114 (kX5_kind (G := nG N)  q) hinj subO_0 getO_0 setO_0 (lw_O q1097 q1100 q1098 q1107 q1108 q120 q1109) (by decide +kernel) rfl (by omega) (by omega) hstk hroom hd hs1 k
  cases q
def fX0_tellInstance_b83 (pm : Option Nat) (s : Sg) (h : hS) (k0 : Int) : Option (Int × hS) := some (k0, h)
theorem wX0_tellInstance_b83 {N : Nx} {b : Nat} {ad : Nat → Nat} {s : Sg} {h' : hS} {r : Int} (E : EndX N [(0, b, ad)] 3 (some .int) (some (ti r)) [s] h')  (h : hS) (k0 : Int) (hk0 : rI k0) (e : fX0_tellInstance_b83 (some (ad 20)) s h k0 = some (r, h')) : AtPc cX0_tellInstance RX0 84 2847 N [s] h 83 [] [ti k0] := by
  unfold fX0_tellInstance_b83 at e
  refine r_rrs E.p (fun rr => ?_)
  cases e
  exact r_iret E.σ E.st E.rt E.r hk0 dX0_tellInstance_83
def fX0_tellInstance  (pm : Option Nat) (s : Sg) (h : hS) (o1 : Option Nat) (a2 : Int) : Option (Int × hS) := if a2 = 0 then bd (D9_kind h o1) fun p2 => some (p2, h) else if a2 = 1 then bd (hI h o1 [(1, 1), (2, 1), (3, 1), (4, 1), (5, 1)]) fun v6 => some (v6, h) else if a2 = 2 then bd (hQ h o1 [(1, 2), (2, 2), (3, 2), (4, 2), (5, 2)]) fun v9 => gd (hC h v9 = some 7) (bd (fX7_size 16 h v9) fun p11 => some (p11, h)) else if a2 = 3 then bd (hI h o1 [(1, 5), (2, 5), (3, 5), (4, 5), (5, 5)]) fun v17 => some (v17, h) else if a2 = 4 then bd (D3_isSound h o1) fun p20 => if p20 = 0 then fX0_tellInstance_b83 pm s h 0 else fX0_tellInstance_b83 pm s h 1 else if a2 = 5 then bd (hI h o1 [(1, 0), (2, 0), (3, 0), (4, 0), (5, 0)]) fun v25 => bd (fX0_sortsOf s h v25) fun p27 => some (p27, h) else if a2 = 6 then bd (hI h o1 [(1, 0), (2, 0), (3, 0), (4, 0), (5, 0)]) fun v32 => bd (fX0_toAsk s h v32) fun p34 => some (p34, h) else if a2 = 7 then bd (fX0_lackedBy pm s h o1) fun p39 => some (p39.1, p39.2) else some ((-102), h)
theorem kX0_tellInstance {G : Gx}  {b : Nat} {ad : Nat → Nat} {s : Sg} {h' : hS} {r : Int} {h : hS} {o1 : Option Nat} {a2 : Int}  (ha2 : rI a2) (e : fX0_tellInstance (some (ad 20)) s h o1 a2 = some (r, h')) : CtX G yX0_tellInstance cX0_tellInstance 3 (some .int) 84 2847 [(0, b, ad)] [s] h [tr (some b), tr o1, ti a2] (some (ti r)) [s] h' := by
  refine CtX.of (by decide) (Nat.le_of_ble_eq_true rfl) [(0, tr (some b)), (1, tr o1), (2, ti a2)] rfl ?_
  have E : EndX (G, 3, [(0, b, ad)], h, [s], h', (some .int), (some (ti r)), yX0_tellInstance.name) [(0, b, ad)] 3 (some .int) (some (ti r)) [s] h' := ⟨rfl, rfl, rfl, rfl, rfl, rfl⟩
  unfold fX0_tellInstance at e
  refine r_rrs E.p (fun rr => ?_)
  refine r_iload_n dX0_tellInstance_0 rfl 2 rfl ?_
  have eT := (r_ifo e).1
  have eF := (r_ifo e).2
  by_cases c1 : a2 = 0
  · have e := eT c1
    refine r_tswI ha2 dX0_tellInstance_1 0 c1 48 (by decide) (by decide) rfl (by decide) ?_
    refine r_aload_n dX0_tellInstance_48 rfl 1 rfl ?_
    obtain ⟨p2, q3, e⟩ := bd_o e
    have z4 := zD9_kind (G := G)  q3 rr.none
    refine rD_X0_404  q3 (injO_1 E.p) (Nat.le_of_ble_eq_true rfl) (Nat.le_of_ble_eq_true rfl) rfl (Nat.le_of_ble_eq_true rfl) dX0_tellInstance_49 rfl ?_
    cases e
    exact r_iret E.σ E.st E.rt E.r z4 dX0_tellInstance_52
  · have e := eF c1
    have eT := (r_ifo e).1
    have eF := (r_ifo e).2
    by_cases c5 : a2 = 1
    · have e := eT c5
      refine r_tswI ha2 dX0_tellInstance_1 1 c5 53 (by decide) (by decide) rfl (by decide) ?_
      refine r_aload_n dX0_tellInstance_53 rfl 1 rfl ?_
      obtain ⟨v6, q7, e⟩ := bd_o e
      refine r_getI fG_X0_248 q7 dX0_tellInstance_54 ?_
      cases e
      exact r_iret E.σ E.st E.rt E.r (hI_r rr q7) dX0_tellInstance_57
    · have e := eF c5
      have eT := (r_ifo e).1
      have eF := (r_ifo e).2
      by_cases c8 : a2 = 2
      · have e := eT c8
        refine r_tswI ha2 dX0_tellInstance_1 2 c8 58 (by decide) (by decide) rfl (by decide) ?_
        refine r_aload_n dX0_tellInstance_58 rfl 1 rfl ?_
        obtain ⟨v9, q10, e⟩ := bd_o e
        refine r_getQ fG_X0_251 q10 dX0_tellInstance_59 ?_
        obtain ⟨g13, e⟩ := gd_o e
        obtain ⟨p11, q12, e⟩ := bd_o e
        have k14 := kX7_size (G := G) 16  q12
        have z15 := (k14 rr.none).1.2.2.2
        refine r_callVo (j := none) 0 [] (c := 7) (rc := (RX7, TX7, 3)) rfl g13 rfl k14 (injO_1 E.p) subO_0 getO_0 setO_0 (lw_V q840 q841 q842 q124 q843) (by decide +kernel) rfl (Nat.le_of_ble_eq_true rfl) (Nat.le_of_ble_eq_true rfl) rfl (Nat.le_of_ble_eq_true rfl) dX0_tellInstance_62 rfl ?_
        cases e
        exact r_iret E.σ E.st E.rt E.r z15 dX0_tellInstance_65
      · have e := eF c8
        have eT := (r_ifo e).1
        have eF := (r_ifo e).2
        by_cases c16 : a2 = 3
        · have e := eT c16
          refine r_tswI ha2 dX0_tellInstance_1 3 c16 66 (by decide) (by decide) rfl (by decide) ?_
          refine r_aload_n dX0_tellInstance_66 rfl 1 rfl ?_
          obtain ⟨v17, q18, e⟩ := bd_o e
          refine r_getI fG_X0_254 q18 dX0_tellInstance_67 ?_
          cases e
          exact r_iret E.σ E.st E.rt E.r (hI_r rr q18) dX0_tellInstance_70
        · have e := eF c16
          have eT := (r_ifo e).1
          have eF := (r_ifo e).2
          by_cases c19 : a2 = 4
          · have e := eT c19
            refine r_tswI ha2 dX0_tellInstance_1 4 c19 71 (by decide) (by decide) rfl (by decide) ?_
            refine r_aload_n dX0_tellInstance_71 rfl 1 rfl ?_
            obtain ⟨p20, q21, e⟩ := bd_o e
            have z22 := zD3_isSound (G := G)  q21 rr.none
            refine rD_X0_300  q21 (injO_1 E.p) (Nat.le_of_ble_eq_true rfl) (Nat.le_of_ble_eq_true rfl) rfl (Nat.le_of_ble_eq_true rfl) dX0_tellInstance_72 rfl ?_
            have eT := (r_ifo e).1
            have eF := (r_ifo e).2
            refine r_if_eq (rI_z z22) 82 dX0_tellInstance_75 (by decide) (fun c23 => ?_) (fun c23 => ?_)
            · have e := eT c23
              refine r_iconst dX0_tellInstance_82 ?_
              refine r_sub [] rfl ?_
              exact wX0_tellInstance_b83 E h 0 (by decide) e
            · have e := eF c23
              refine r_iconst dX0_tellInstance_78 ?_
              refine r_goto 83 dX0_tellInstance_79 (by decide) ?_
              refine r_sub [] rfl ?_
              exact wX0_tellInstance_b83 E h 1 (by decide) e
          · have e := eF c19
            have eT := (r_ifo e).1
            have eF := (r_ifo e).2
            by_cases c24 : a2 = 5
            · have e := eT c24
              refine r_tswI ha2 dX0_tellInstance_1 5 c24 84 (by decide) (by decide) rfl (by decide) ?_
              refine r_aload_n dX0_tellInstance_84 rfl 0 rfl ?_
              refine r_aload_n dX0_tellInstance_85 rfl 1 rfl ?_
              obtain ⟨v25, q26, e⟩ := bd_o e
              refine r_getI fG_X0_245 q26 dX0_tellInstance_86 ?_
              obtain ⟨p27, q28, e⟩ := bd_o e
              have k29 := kX0_sortsOf (G := G) (b := b) (ad := ad) (hI_r rr q26) q28
              have z30 := (k29 rr).1.2.2.2
              refine r_callV (j := some 0) 1 [ti v25] (rec_sg (j := 0) (r := (RX0, TX0, 36)) rfl (by rw [E.p]; rfl)) rfl k29 (injO_1 E.p) (subO_1 E.p) getO_1 setO_1 (lw_V q1115 q1117 qs26 q115 q1118) (by decide +kernel) rfl (Nat.le_of_ble_eq_true rfl) (Nat.le_of_ble_eq_true rfl) rfl (Nat.le_of_ble_eq_true rfl) dX0_tellInstance_89 rfl ?_
              cases e
              exact r_iret E.σ E.st E.rt E.r z30 dX0_tellInstance_92
            · have e := eF c24
              have eT := (r_ifo e).1
              have eF := (r_ifo e).2
              by_cases c31 : a2 = 6
              · have e := eT c31
                refine r_tswI ha2 dX0_tellInstance_1 6 c31 93 (by decide) (by decide) rfl (by decide) ?_
                refine r_aload_n dX0_tellInstance_93 rfl 0 rfl ?_
                refine r_aload_n dX0_tellInstance_94 rfl 1 rfl ?_
                obtain ⟨v32, q33, e⟩ := bd_o e
                refine r_getI fG_X0_245 q33 dX0_tellInstance_95 ?_
                obtain ⟨p34, q35, e⟩ := bd_o e
                have k36 := kX0_toAsk (G := G) (b := b) (ad := ad) (hI_r rr q33) q35
                have z37 := (k36 rr).1.2.2.2
                refine r_callV (j := some 0) 1 [ti v32] (rec_sg (j := 0) (r := (RX0, TX0, 36)) rfl (by rw [E.p]; rfl)) rfl k36 (injO_1 E.p) (subO_1 E.p) getO_1 setO_1 (lw_V q1190 q1192 qs29 q115 q1193) (by decide +kernel) rfl (Nat.le_of_ble_eq_true rfl) (Nat.le_of_ble_eq_true rfl) rfl (Nat.le_of_ble_eq_true rfl) dX0_tellInstance_98 rfl ?_
                cases e
                exact r_iret E.σ E.st E.rt E.r z37 dX0_tellInstance_101
              · have e := eF c31
                have eT := (r_ifo e).1
                have eF := (r_ifo e).2
                by_cases c38 : a2 = 7
                · have e := eT c38
                  refine r_tswI ha2 dX0_tellInstance_1 7 c38 102 (by decide) (by decide) rfl (by decide) ?_
                  refine r_aload_n dX0_tellInstance_102 rfl 0 rfl ?_
                  refine r_aload_n dX0_tellInstance_103 rfl 1 rfl ?_
                  obtain ⟨p39, q40, e⟩ := bd_o e
                  have k41 := kX0_lackedBy (G := G) (b := b) (ad := ad)  q40
                  have z42 := (k41 rr).1.2.2.2
                  refine r_callV (j := some 0) 1 [tr o1] (rec_sg (j := 0) (r := (RX0, TX0, 36)) rfl (by rw [E.p]; rfl)) rfl k41 (injO_1 E.p) (subO_1 E.p) getO_1 setO_1 (lw_V q1198 q1200 qs30 q115 q1201) (by decide +kernel) rfl (Nat.le_of_ble_eq_true rfl) (Nat.le_of_ble_eq_true rfl) rfl (Nat.le_of_ble_eq_true rfl) dX0_tellInstance_104 rfl ?_
                  refine r_rrs E.p (fun rr43 => ?_)
                  cases e
                  exact r_iret E.σ E.st E.rt E.r z42 dX0_tellInstance_107
                · have e := eF c38
                  refine r_tswO ha2 dX0_tellInstance_1 108 (by omega) (by decide) ?_
                  refine r_bipush dX0_tellInstance_108 (by decide) ?_
                  cases e
                  exact r_iret E.σ E.st E.rt E.r (by decide) dX0_tellInstance_110
def fX0_instance_b24 (pm : Option Nat) (s : Sg) (h : hS) (k0 : Int) : Option (Int × hS) := some (k0, h)
theorem wX0_instance_b24 {N : Nx} {b : Nat} {ad : Nat → Nat} {s : Sg} {h' : hS} {r : Int} (E : EndX N [(0, b, ad)] 3 (some .int) (some (ti r)) [s] h')  (h : hS) (k0 : Int) (hk0 : rI k0) (e : fX0_instance_b24 (some (ad 20)) s h k0 = some (r, h')) : AtPc cX0_instance RX0 85 2869 N [s] h 24 [] [ti k0] := by
  unfold fX0_instance_b24 at e
  refine r_rrs E.p (fun rr => ?_)
  cases e
  exact r_iret E.σ E.st E.rt E.r hk0 dX0_instance_24
def fX0_instance  (pm : Option Nat) (s : Sg) (h : hS) (a1 : Int) (a2 : Int) : Option (Int × hS) := bd (fX0_isInstance s a1) fun p1 => if p1 = 0 then fX0_instance_b24 pm s h (-101) else gd (inb a1 6) (bd (fX0_tellInstance pm s h (gQ s 4 a1) a2) fun p7 => fX0_instance_b24 pm s p7.2 p7.1)
theorem kX0_instance {G : Gx}  {b : Nat} {ad : Nat → Nat} {s : Sg} {h' : hS} {r : Int} {h : hS} {a1 : Int} {a2 : Int}  (ha1 : rI a1) (ha2 : rI a2) (e : fX0_instance (some (ad 20)) s h a1 a2 = some (r, h')) : CtX G yX0_instance cX0_instance 3 (some .int) 85 2869 [(0, b, ad)] [s] h [tr (some b), ti a1, ti a2] (some (ti r)) [s] h' := by
  refine CtX.of (by decide) (Nat.le_of_ble_eq_true rfl) [(0, tr (some b)), (1, ti a1), (2, ti a2)] rfl ?_
  have E : EndX (G, 3, [(0, b, ad)], h, [s], h', (some .int), (some (ti r)), yX0_instance.name) [(0, b, ad)] 3 (some .int) (some (ti r)) [s] h' := ⟨rfl, rfl, rfl, rfl, rfl, rfl⟩
  unfold fX0_instance at e
  refine r_rrs E.p (fun rr => ?_)
  refine r_aload_n dX0_instance_0 rfl 0 rfl ?_
  refine r_iload_n dX0_instance_1 rfl 1 rfl ?_
  obtain ⟨p1, q2, e⟩ := bd_o e
  have k3 := kX0_isInstance (G := G) (b := b) (ad := ad) (h := h) ha1 q2
  have z4 := (k3 rr).1.2.2.2
  refine r_callV (j := some 0) 1 [ti a1] (rec_sg (j := 0) (r := (RX0, TX0, 36)) rfl (by rw [E.p]; rfl)) rfl k3 (injO_1 E.p) (subO_1 E.p) getO_1 setO_1 (lw_V q1089 q1091 qs24 q115 q1092) (by decide +kernel) rfl (Nat.le_of_ble_eq_true rfl) (Nat.le_of_ble_eq_true rfl) rfl (Nat.le_of_ble_eq_true rfl) dX0_instance_2 rfl ?_
  have eT := (r_ifo e).1
  have eF := (r_ifo e).2
  refine r_if_eq (rI_z z4) 22 dX0_instance_5 (by decide) (fun c5 => ?_) (fun c5 => ?_)
  · have e := eT c5
    refine r_bipush dX0_instance_22 (by decide) ?_
    refine r_sub [] rfl ?_
    exact wX0_instance_b24 E h (-101) (by decide) e
  · have e := eF c5
    refine r_aload_n dX0_instance_8 rfl 0 rfl ?_
    refine r_aload_n dX0_instance_9 rfl 0 rfl ?_
    refine r_sR E.p 4 fG_X0_114 (by decide) dX0_instance_10 ?_
    refine r_iload_n dX0_instance_13 rfl 1 rfl ?_
    obtain ⟨g6, e⟩ := gd_o e
    refine r_saQ E.p 4 rfl (by decide) (by decide) (by decide) ha1 g6 dX0_instance_14 ?_
    refine r_iload_n dX0_instance_15 rfl 2 rfl ?_
    obtain ⟨p7, q8, e⟩ := bd_o e
    have k9 := kX0_tellInstance (G := G) (b := b) (ad := ad) ha2 q8
    have z10 := (k9 rr).1.2.2.2
    refine r_callV (j := some 0) 2 [tr (gQ s 4 a1), ti a2] (rec_sg (j := 0) (r := (RX0, TX0, 36)) rfl (by rw [E.p]; rfl)) rfl k9 (injO_1 E.p) (subO_1 E.p) getO_1 setO_1 (lw_V q1093 q1095 qs25 q115 q1096) (by decide +kernel) rfl (Nat.le_of_ble_eq_true rfl) (Nat.le_of_ble_eq_true rfl) rfl (Nat.le_of_ble_eq_true rfl) dX0_instance_16 rfl ?_
    refine r_rrs E.p (fun rr11 => ?_)
    refine r_goto 24 dX0_instance_19 (by decide) ?_
    refine r_sub [] rfl ?_
    exact wX0_instance_b24 E p7.2 p7.1 z10 e
theorem cst_6 : cstOK "DictProof$Instance" [1, 2, 3, 4, 5] := List.forall_mem_cons.mpr ⟨⟨(RX1, TX1, 6), rfl, Or.inl rfl⟩, List.forall_mem_cons.mpr ⟨⟨(RX2, TX2, 6), rfl, Or.inr q1989⟩, List.forall_mem_cons.mpr ⟨⟨(RX3, TX3, 6), rfl, Or.inr q1987⟩, List.forall_mem_cons.mpr ⟨⟨(RX4, TX4, 6), rfl, Or.inr q1986⟩, List.forall_mem_cons.mpr ⟨⟨(RX5, TX5, 6), rfl, Or.inr q1988⟩, fun _ h => absurd h List.not_mem_nil⟩⟩⟩⟩⟩
theorem cst_7 : cstOK "DictProof$Spare" [2] := List.forall_mem_cons.mpr ⟨⟨(RX2, TX2, 6), rfl, Or.inl rfl⟩, fun _ h => absurd h List.not_mem_nil⟩
theorem fG_X0_423 : FldG RX0 423 [(2, 0)] := List.forall_mem_cons.mpr ⟨⟨RX2, TX2, 6, "DictProof$Spare", rfl, in_X2, by decide, q162, Or.inr q163⟩, fun _ h => absurd h List.not_mem_nil⟩
theorem cst_8 : cstOK "DictProof$Hidden" [3] := List.forall_mem_cons.mpr ⟨⟨(RX3, TX3, 6), rfl, Or.inl rfl⟩, fun _ h => absurd h List.not_mem_nil⟩
theorem fG_X0_424 : FldG RX0 424 [(3, 0)] := List.forall_mem_cons.mpr ⟨⟨RX3, TX3, 6, "DictProof$Hidden", rfl, in_X3, by decide, q164, Or.inr q165⟩, fun _ h => absurd h List.not_mem_nil⟩
theorem cst_9 : cstOK "DictProof$First" [4, 5] := List.forall_mem_cons.mpr ⟨⟨(RX4, TX4, 6), rfl, Or.inl rfl⟩, List.forall_mem_cons.mpr ⟨⟨(RX5, TX5, 6), rfl, Or.inr q1990⟩, fun _ h => absurd h List.not_mem_nil⟩⟩
theorem fG_X0_425 : FldG RX0 425 [(4, 0), (5, 0)] := List.forall_mem_cons.mpr ⟨⟨RX4, TX4, 6, "DictProof$First", rfl, in_X4, by decide, q166, Or.inr q167⟩, List.forall_mem_cons.mpr ⟨⟨RX5, TX5, 6, "DictProof$First", rfl, in_X5, by decide, q166, Or.inr q167⟩, fun _ h => absurd h List.not_mem_nil⟩⟩
theorem cst_10 : cstOK "DictProof$Sole" [5] := List.forall_mem_cons.mpr ⟨⟨(RX5, TX5, 6), rfl, Or.inl rfl⟩, fun _ h => absurd h List.not_mem_nil⟩
theorem fG_X0_426 : FldG RX0 426 [(5, 0)] := List.forall_mem_cons.mpr ⟨⟨RX5, TX5, 6, "DictProof$Sole", rfl, in_X5, by decide, q168, Or.inr q169⟩, fun _ h => absurd h List.not_mem_nil⟩
def fX0_castTo  (h : hS) (o0 : Option Nat) (a1 : Int) : Option (Int) := if a1 = 0 then gd (o0 = none ∨ inC h o0 [1, 2, 3, 4, 5] = true) (bd (hI h o0 [(1, 0), (2, 0), (3, 0), (4, 0), (5, 0)]) fun v3 => some v3) else if a1 = 1 then gd (o0 = none ∨ inC h o0 [2] = true) (bd (hI h o0 [(2, 0)]) fun v7 => some v7) else if a1 = 2 then gd (o0 = none ∨ inC h o0 [3] = true) (bd (hI h o0 [(3, 0)]) fun v11 => some v11) else if a1 = 3 then gd (o0 = none ∨ inC h o0 [4, 5] = true) (bd (hI h o0 [(4, 0), (5, 0)]) fun v15 => some v15) else gd (o0 = none ∨ inC h o0 [5] = true) (bd (hI h o0 [(5, 0)]) fun v18 => some v18)
theorem kX0_castTo {G : Gx}  {h : hS} {r : Int} {o0 : Option Nat} {a1 : Int}  (ha1 : rI a1) (e : fX0_castTo h o0 a1 = some (r)) : CtX G yX0_castTo cX0_castTo 2 (some .int) 0 0 [] [] h [tr o0, ti a1] (some (ti r)) [] h := by
  refine CtX.of (by decide) (Nat.le_of_ble_eq_true rfl) [(0, tr o0), (1, ti a1)] rfl ?_
  have E : EndX (G, 2, [], h, [], h, (some .int), (some (ti r)), yX0_castTo.name) [] 2 (some .int) (some (ti r)) [] h := ⟨rfl, rfl, rfl, rfl, rfl, rfl⟩
  unfold fX0_castTo at e
  refine r_rrs E.p (fun rr => ?_)
  refine r_iload_n dX0_castTo_0 rfl 1 rfl ?_
  have eT := (r_ifo e).1
  have eF := (r_ifo e).2
  by_cases c1 : a1 = 0
  · have e := eT c1
    refine r_tswI ha1 dX0_castTo_1 0 c1 32 (by decide) (by decide) rfl (by decide) ?_
    refine r_aload_n dX0_castTo_32 rfl 0 rfl ?_
    obtain ⟨g2, e⟩ := gd_o e
    refine r_cast cst_6 q152 (inC_p g2) dX0_castTo_33 ?_
    obtain ⟨v3, q4, e⟩ := bd_o e
    refine r_getI fG_X0_245 q4 dX0_castTo_36 ?_
    cases e
    exact r_iret E.σ E.st E.rt E.r (hI_r rr q4) dX0_castTo_39
  · have e := eF c1
    have eT := (r_ifo e).1
    have eF := (r_ifo e).2
    by_cases c5 : a1 = 1
    · have e := eT c5
      refine r_tswI ha1 dX0_castTo_1 1 c5 40 (by decide) (by decide) rfl (by decide) ?_
      refine r_aload_n dX0_castTo_40 rfl 0 rfl ?_
      obtain ⟨g6, e⟩ := gd_o e
      refine r_cast cst_7 q195 (inC_p g6) dX0_castTo_41 ?_
      obtain ⟨v7, q8, e⟩ := bd_o e
      refine r_getI fG_X0_423 q8 dX0_castTo_44 ?_
      cases e
      exact r_iret E.σ E.st E.rt E.r (hI_r rr q8) dX0_castTo_47
    · have e := eF c5
      have eT := (r_ifo e).1
      have eF := (r_ifo e).2
      by_cases c9 : a1 = 2
      · have e := eT c9
        refine r_tswI ha1 dX0_castTo_1 2 c9 48 (by decide) (by decide) rfl (by decide) ?_
        refine r_aload_n dX0_castTo_48 rfl 0 rfl ?_
        obtain ⟨g10, e⟩ := gd_o e
        refine r_cast cst_8 q208 (inC_p g10) dX0_castTo_49 ?_
        obtain ⟨v11, q12, e⟩ := bd_o e
        refine r_getI fG_X0_424 q12 dX0_castTo_52 ?_
        cases e
        exact r_iret E.σ E.st E.rt E.r (hI_r rr q12) dX0_castTo_55
      · have e := eF c9
        have eT := (r_ifo e).1
        have eF := (r_ifo e).2
        by_cases c13 : a1 = 3
        · have e := eT c13
          refine r_tswI ha1 dX0_castTo_1 3 c13 56 (by decide) (by decide) rfl (by decide) ?_
          refine r_aload_n dX0_castTo_56 rfl 0 rfl ?_
          obtain ⟨g14, e⟩ := gd_o e
          refine r_cast cst_9 q221 (inC_p g14) dX0_castTo_57 ?_
          obtain ⟨v15, q16, e⟩ := bd_o e
          refine r_getI fG_X0_425 q16 dX0_castTo_60 ?_
          cases e
          exact r_iret E.σ E.st E.rt E.r (hI_r rr q16) dX0_castTo_63
        · have e := eF c13
          refine r_tswO ha1 dX0_castTo_1 64 (by omega) (by decide) ?_
          refine r_aload_n dX0_castTo_64 rfl 0 rfl ?_
          obtain ⟨g17, e⟩ := gd_o e
          refine r_cast cst_10 q234 (inC_p g17) dX0_castTo_65 ?_
          obtain ⟨v18, q19, e⟩ := bd_o e
          refine r_getI fG_X0_426 q19 dX0_castTo_68 ?_
          cases e
          exact r_iret E.σ E.st E.rt E.r (hI_r rr q19) dX0_castTo_71
theorem fG_X1_32 : FldG RX1 32 [(1, 0), (2, 0), (3, 0), (4, 0), (5, 0)] := List.forall_mem_cons.mpr ⟨⟨RX1, TX1, 6, "DictProof$Instance", rfl, in_X1, by decide, q160, Or.inl rfl⟩, List.forall_mem_cons.mpr ⟨⟨RX2, TX2, 6, "DictProof$Instance", rfl, in_X2, by decide, q160, Or.inl rfl⟩, List.forall_mem_cons.mpr ⟨⟨RX3, TX3, 6, "DictProof$Instance", rfl, in_X3, by decide, q160, Or.inl rfl⟩, List.forall_mem_cons.mpr ⟨⟨RX4, TX4, 6, "DictProof$Instance", rfl, in_X4, by decide, q160, Or.inl rfl⟩, List.forall_mem_cons.mpr ⟨⟨RX5, TX5, 6, "DictProof$Instance", rfl, in_X5, by decide, q160, Or.inl rfl⟩, fun _ h => absurd h List.not_mem_nil⟩⟩⟩⟩⟩
theorem fP_X1_32 : FldP RX1 32 [(1, 0), (2, 0), (3, 0), (4, 0), (5, 0)] .int false := List.forall_mem_cons.mpr ⟨⟨RX1, TX1, 6, "DictProof$Instance", tyX1, rfl, in_X1, by decide, q160, Or.inl rfl, tyX1_ok, nmX1, rfl, Or.inl rfl, by decide⟩, List.forall_mem_cons.mpr ⟨⟨RX2, TX2, 6, "DictProof$Instance", tyX2, rfl, in_X2, by decide, q160, Or.inl rfl, tyX2_ok, nmX2, rfl, Or.inl rfl, by decide⟩, List.forall_mem_cons.mpr ⟨⟨RX3, TX3, 6, "DictProof$Instance", tyX3, rfl, in_X3, by decide, q160, Or.inl rfl, tyX3_ok, nmX3, rfl, Or.inl rfl, by decide⟩, List.forall_mem_cons.mpr ⟨⟨RX4, TX4, 6, "DictProof$Instance", tyX4, rfl, in_X4, by decide, q160, Or.inl rfl, tyX4_ok, nmX4, rfl, Or.inl rfl, by decide⟩, List.forall_mem_cons.mpr ⟨⟨RX5, TX5, 6, "DictProof$Instance", tyX5, rfl, in_X5, by decide, q160, Or.inl rfl, tyX5_ok, nmX5, rfl, Or.inl rfl, by decide⟩, fun _ h => absurd h List.not_mem_nil⟩⟩⟩⟩⟩
theorem fG_X1_35 : FldG RX1 35 [(1, 1), (2, 1), (3, 1), (4, 1), (5, 1)] := List.forall_mem_cons.mpr ⟨⟨RX1, TX1, 6, "DictProof$Instance", rfl, in_X1, by decide, q170, Or.inl rfl⟩, List.forall_mem_cons.mpr ⟨⟨RX2, TX2, 6, "DictProof$Instance", rfl, in_X2, by decide, q170, Or.inl rfl⟩, List.forall_mem_cons.mpr ⟨⟨RX3, TX3, 6, "DictProof$Instance", rfl, in_X3, by decide, q170, Or.inl rfl⟩, List.forall_mem_cons.mpr ⟨⟨RX4, TX4, 6, "DictProof$Instance", rfl, in_X4, by decide, q170, Or.inl rfl⟩, List.forall_mem_cons.mpr ⟨⟨RX5, TX5, 6, "DictProof$Instance", rfl, in_X5, by decide, q170, Or.inl rfl⟩, fun _ h => absurd h List.not_mem_nil⟩⟩⟩⟩⟩
theorem fP_X1_35 : FldP RX1 35 [(1, 1), (2, 1), (3, 1), (4, 1), (5, 1)] .int false := List.forall_mem_cons.mpr ⟨⟨RX1, TX1, 6, "DictProof$Instance", tyX1, rfl, in_X1, by decide, q170, Or.inl rfl, tyX1_ok, nmX1, rfl, Or.inl rfl, by decide⟩, List.forall_mem_cons.mpr ⟨⟨RX2, TX2, 6, "DictProof$Instance", tyX2, rfl, in_X2, by decide, q170, Or.inl rfl, tyX2_ok, nmX2, rfl, Or.inl rfl, by decide⟩, List.forall_mem_cons.mpr ⟨⟨RX3, TX3, 6, "DictProof$Instance", tyX3, rfl, in_X3, by decide, q170, Or.inl rfl, tyX3_ok, nmX3, rfl, Or.inl rfl, by decide⟩, List.forall_mem_cons.mpr ⟨⟨RX4, TX4, 6, "DictProof$Instance", tyX4, rfl, in_X4, by decide, q170, Or.inl rfl, tyX4_ok, nmX4, rfl, Or.inl rfl, by decide⟩, List.forall_mem_cons.mpr ⟨⟨RX5, TX5, 6, "DictProof$Instance", tyX5, rfl, in_X5, by decide, q170, Or.inl rfl, tyX5_ok, nmX5, rfl, Or.inl rfl, by decide⟩, fun _ h => absurd h List.not_mem_nil⟩⟩⟩⟩⟩
theorem fP_X1_22 : FldP RX1 22 [(1, 2), (2, 2), (3, 2), (4, 2), (5, 2)] (.object "DictProof$Term") false := List.forall_mem_cons.mpr ⟨⟨RX1, TX1, 6, "DictProof$Instance", tyX1, rfl, in_X1, by decide, q172, Or.inl rfl, tyX1_ok, nmX1, rfl, Or.inl rfl, by decide⟩, List.forall_mem_cons.mpr ⟨⟨RX2, TX2, 6, "DictProof$Instance", tyX2, rfl, in_X2, by decide, q172, Or.inl rfl, tyX2_ok, nmX2, rfl, Or.inl rfl, by decide⟩, List.forall_mem_cons.mpr ⟨⟨RX3, TX3, 6, "DictProof$Instance", tyX3, rfl, in_X3, by decide, q172, Or.inl rfl, tyX3_ok, nmX3, rfl, Or.inl rfl, by decide⟩, List.forall_mem_cons.mpr ⟨⟨RX4, TX4, 6, "DictProof$Instance", tyX4, rfl, in_X4, by decide, q172, Or.inl rfl, tyX4_ok, nmX4, rfl, Or.inl rfl, by decide⟩, List.forall_mem_cons.mpr ⟨⟨RX5, TX5, 6, "DictProof$Instance", tyX5, rfl, in_X5, by decide, q172, Or.inl rfl, tyX5_ok, nmX5, rfl, Or.inl rfl, by decide⟩, fun _ h => absurd h List.not_mem_nil⟩⟩⟩⟩⟩
theorem fP_X1_18 : FldP RX1 18 [(1, 5), (2, 5), (3, 5), (4, 5), (5, 5)] .int false := List.forall_mem_cons.mpr ⟨⟨RX1, TX1, 6, "DictProof$Instance", tyX1, rfl, in_X1, by decide, q179, Or.inl rfl, tyX1_ok, nmX1, rfl, Or.inl rfl, by decide⟩, List.forall_mem_cons.mpr ⟨⟨RX2, TX2, 6, "DictProof$Instance", tyX2, rfl, in_X2, by decide, q179, Or.inl rfl, tyX2_ok, nmX2, rfl, Or.inl rfl, by decide⟩, List.forall_mem_cons.mpr ⟨⟨RX3, TX3, 6, "DictProof$Instance", tyX3, rfl, in_X3, by decide, q179, Or.inl rfl, tyX3_ok, nmX3, rfl, Or.inl rfl, by decide⟩, List.forall_mem_cons.mpr ⟨⟨RX4, TX4, 6, "DictProof$Instance", tyX4, rfl, in_X4, by decide, q179, Or.inl rfl, tyX4_ok, nmX4, rfl, Or.inl rfl, by decide⟩, List.forall_mem_cons.mpr ⟨⟨RX5, TX5, 6, "DictProof$Instance", tyX5, rfl, in_X5, by decide, q179, Or.inl rfl, tyX5_ok, nmX5, rfl, Or.inl rfl, by decide⟩, fun _ h => absurd h List.not_mem_nil⟩⟩⟩⟩⟩
theorem fG_X1_9 : FldG RX1 9 [(1, 3), (2, 3), (3, 3), (4, 3), (5, 3)] := List.forall_mem_cons.mpr ⟨⟨RX1, TX1, 6, "DictProof$Instance", rfl, in_X1, by decide, q174, Or.inl rfl⟩, List.forall_mem_cons.mpr ⟨⟨RX2, TX2, 6, "DictProof$Instance", rfl, in_X2, by decide, q174, Or.inl rfl⟩, List.forall_mem_cons.mpr ⟨⟨RX3, TX3, 6, "DictProof$Instance", rfl, in_X3, by decide, q174, Or.inl rfl⟩, List.forall_mem_cons.mpr ⟨⟨RX4, TX4, 6, "DictProof$Instance", rfl, in_X4, by decide, q174, Or.inl rfl⟩, List.forall_mem_cons.mpr ⟨⟨RX5, TX5, 6, "DictProof$Instance", rfl, in_X5, by decide, q174, Or.inl rfl⟩, fun _ h => absurd h List.not_mem_nil⟩⟩⟩⟩⟩
theorem fG_X1_15 : FldG RX1 15 [(1, 4), (2, 4), (3, 4), (4, 4), (5, 4)] := List.forall_mem_cons.mpr ⟨⟨RX1, TX1, 6, "DictProof$Instance", rfl, in_X1, by decide, q176, Or.inl rfl⟩, List.forall_mem_cons.mpr ⟨⟨RX2, TX2, 6, "DictProof$Instance", rfl, in_X2, by decide, q176, Or.inl rfl⟩, List.forall_mem_cons.mpr ⟨⟨RX3, TX3, 6, "DictProof$Instance", rfl, in_X3, by decide, q176, Or.inl rfl⟩, List.forall_mem_cons.mpr ⟨⟨RX4, TX4, 6, "DictProof$Instance", rfl, in_X4, by decide, q176, Or.inl rfl⟩, List.forall_mem_cons.mpr ⟨⟨RX5, TX5, 6, "DictProof$Instance", rfl, in_X5, by decide, q176, Or.inl rfl⟩, fun _ h => absurd h List.not_mem_nil⟩⟩⟩⟩⟩
def fX1_be  (h : hS) (o0 : Option Nat) (o1 : Option Nat) : Option (hS) := bd (hI h o1 [(1, 0), (2, 0), (3, 0), (4, 0), (5, 0)]) fun v1 => bd (hW h o0 [(1, 0), (2, 0), (3, 0), (4, 0), (5, 0)] (vi v1)) fun h3 => bd (hI h3 o1 [(1, 1), (2, 1), (3, 1), (4, 1), (5, 1)]) fun v6 => bd (hW h3 o0 [(1, 1), (2, 1), (3, 1), (4, 1), (5, 1)] (vi v6)) fun h8 => bd (hQ h8 o1 [(1, 2), (2, 2), (3, 2), (4, 2), (5, 2)]) fun v11 => bd (hW h8 o0 [(1, 2), (2, 2), (3, 2), (4, 2), (5, 2)] (vq v11)) fun h13 => bd (hI h13 o1 [(1, 5), (2, 5), (3, 5), (4, 5), (5, 5)]) fun v16 => bd (hW h13 o0 [(1, 5), (2, 5), (3, 5), (4, 5), (5, 5)] (vi v16)) fun h18 => bd (hQ h18 o1 [(1, 3), (2, 3), (3, 3), (4, 3), (5, 3)]) fun v21 => bd (hQ h18 o0 [(1, 3), (2, 3), (3, 3), (4, 3), (5, 3)]) fun v23 => bd (hCp h18 v21 v23 2) fun h25 => bd (hQ h25 o1 [(1, 4), (2, 4), (3, 4), (4, 4), (5, 4)]) fun v28 => bd (hQ h25 o0 [(1, 4), (2, 4), (3, 4), (4, 4), (5, 4)]) fun v30 => bd (hCp h25 v28 v30 2) fun h32 => some h32
theorem kX1_be {G : Gx}  {h' : hS} {h : hS} {o0 : Option Nat} {o1 : Option Nat}   (e : fX1_be h o0 o1 = some (h')) : CtX G yX1_be cX1_be 2 none 1 30 [] [] h [tr o0, tr o1] none [] h' := by
  refine CtX.of (by decide) (Nat.le_of_ble_eq_true rfl) [(0, tr o0), (1, tr o1)] rfl ?_
  have E : EndX (G, 2, [], h, [], h', none, none, yX1_be.name) [] 2 none none [] h' := ⟨rfl, rfl, rfl, rfl, rfl, rfl⟩
  unfold fX1_be at e
  refine r_rrs E.p (fun rr => ?_)
  refine r_aload_n dX1_be_0 rfl 0 rfl ?_
  refine r_aload_n dX1_be_1 rfl 1 rfl ?_
  obtain ⟨v1, q2, e⟩ := bd_o e
  refine r_getI fG_X1_32 q2 dX1_be_2 ?_
  obtain ⟨h3, q4, e⟩ := bd_o e
  refine r_put (v := vi v1) fP_X1_32 (by first | exact fun q => absurd q (by decide) | exact fun _ => rfl) (hI_r rr q2) q4 dX1_be_5 ?_
  refine r_rrs E.p (fun rr5 => ?_)
  refine r_aload_n dX1_be_8 rfl 0 rfl ?_
  refine r_aload_n dX1_be_9 rfl 1 rfl ?_
  obtain ⟨v6, q7, e⟩ := bd_o e
  refine r_getI fG_X1_35 q7 dX1_be_10 ?_
  obtain ⟨h8, q9, e⟩ := bd_o e
  refine r_put (v := vi v6) fP_X1_35 (by first | exact fun q => absurd q (by decide) | exact fun _ => rfl) (hI_r rr5 q7) q9 dX1_be_13 ?_
  refine r_rrs E.p (fun rr10 => ?_)
  refine r_aload_n dX1_be_16 rfl 0 rfl ?_
  refine r_aload_n dX1_be_17 rfl 1 rfl ?_
  obtain ⟨v11, q12, e⟩ := bd_o e
  refine r_getQ fG_X1_22 q12 dX1_be_18 ?_
  obtain ⟨h13, q14, e⟩ := bd_o e
  refine r_put (v := vq v11) fP_X1_22 (by first | exact fun q => absurd q (by decide) | exact fun _ => rfl) trivial q14 dX1_be_21 ?_
  refine r_rrs E.p (fun rr15 => ?_)
  refine r_aload_n dX1_be_24 rfl 0 rfl ?_
  refine r_aload_n dX1_be_25 rfl 1 rfl ?_
  obtain ⟨v16, q17, e⟩ := bd_o e
  refine r_getI fG_X1_18 q17 dX1_be_26 ?_
  obtain ⟨h18, q19, e⟩ := bd_o e
  refine r_put (v := vi v16) fP_X1_18 (by first | exact fun q => absurd q (by decide) | exact fun _ => rfl) (hI_r rr15 q17) q19 dX1_be_29 ?_
  refine r_rrs E.p (fun rr20 => ?_)
  refine r_aload_n dX1_be_32 rfl 1 rfl ?_
  obtain ⟨v21, q22, e⟩ := bd_o e
  refine r_getQ fG_X1_9 q22 dX1_be_33 ?_
  refine r_iconst dX1_be_36 ?_
  refine r_aload_n dX1_be_37 rfl 0 rfl ?_
  obtain ⟨v23, q24, e⟩ := bd_o e
  refine r_getQ fG_X1_9 q24 dX1_be_38 ?_
  refine r_iconst dX1_be_41 ?_
  refine r_iconst dX1_be_42 ?_
  obtain ⟨h25, q26, e⟩ := bd_o e
  refine r_copyH q26 (by decide) q1300 q1302 q1301 q140 (Nat.le_of_ble_eq_true rfl) (Nat.le_of_ble_eq_true rfl) (Nat.le_of_ble_eq_true rfl) dX1_be_43 ?_
  refine r_rrs E.p (fun rr27 => ?_)
  refine r_aload_n dX1_be_46 rfl 1 rfl ?_
  obtain ⟨v28, q29, e⟩ := bd_o e
  refine r_getQ fG_X1_15 q29 dX1_be_47 ?_
  refine r_iconst dX1_be_50 ?_
  refine r_aload_n dX1_be_51 rfl 0 rfl ?_
  obtain ⟨v30, q31, e⟩ := bd_o e
  refine r_getQ fG_X1_15 q31 dX1_be_52 ?_
  refine r_iconst dX1_be_55 ?_
  refine r_iconst dX1_be_56 ?_
  obtain ⟨h32, q33, e⟩ := bd_o e
  refine r_copyH q33 (by decide) q1300 q1302 q1301 q140 (Nat.le_of_ble_eq_true rfl) (Nat.le_of_ble_eq_true rfl) (Nat.le_of_ble_eq_true rfl) dX1_be_57 ?_
  refine r_rrs E.p (fun rr34 => ?_)
  cases e
  exact r_vret E.σ E.st E.rt E.r dX1_be_60
theorem rF_X0_438 {N : Nx} {cc : ByteArray} {fR lO f9 l9 : Nat} {σs : List Sg} {h h1 : hS} {pc : Nat} {lv : List (Nat × Tv)} {stk stk0 stk1 av : List Tv} {o : Option Nat} {r : Option Tv} (g : inC h o [1, 2, 3, 4, 5] = true) (hk : CtX (nG N) yX1_be cX1_be 2 none f9 l9 [] [] h (tr o :: av) r [] h1) (hinj : injO N) (hn : av.length = 1) (hfr : f9 + 1 ≤ fR) (hlo : 8 + (2 + 11) + l9 ≤ lO) (hstk : stk0 = av.reverse ++ tr o :: stk) (hroom : (stk.map tc).sum ≤ 8) (hd : decode cc pc = .ok (.invokevirtual 438, 3)) (hs1 : r.toList ++ stk = stk1) (k : AtPc cc RX0 fR lO N σs h1 (pc + 3) lv stk1) : AtPc cc RX0 fR lO N σs h pc lv stk0 := by
  obtain ⟨c, hc, he⟩ := inC_o g
  simp only [List.mem_cons, List.not_mem_nil, or_false] at hc
  rcases hc with rfl | rfl | rfl | rfl | rfl
  · exact r_callVo (j := none) 1 av (c := 1) (rc := (RX1, TX1, 6)) rfl he rfl hk hinj subO_0 getO_0 setO_0 (lw_V q1291 q1292 q1293 q116 q1299) (by decide +kernel) hn hfr hlo hstk hroom hd hs1 k
  · exact r_callU (j := none) 1 av (c := 2) (rc := (RX2, TX2, 6)) rfl he (x := ⟨"DictProof$Instance", "be", "(LDictProof$Instance;)V"⟩) (owner := "DictProof$Instance") rfl hk hinj subO_0 getO_0 setO_0 (lw_U q1291 q1294 q1298 q1292 q116 q1299) (by decide +kernel) hn hfr hlo hstk hroom hd hs1 k
  · exact r_callU (j := none) 1 av (c := 3) (rc := (RX3, TX3, 6)) rfl he (x := ⟨"DictProof$Instance", "be", "(LDictProof$Instance;)V"⟩) (owner := "DictProof$Instance") rfl hk hinj subO_0 getO_0 setO_0 (lw_U q1291 q1294 q1296 q1292 q116 q1299) (by decide +kernel) hn hfr hlo hstk hroom hd hs1 k
  · exact r_callU (j := none) 1 av (c := 4) (rc := (RX4, TX4, 6)) rfl he (x := ⟨"DictProof$Instance", "be", "(LDictProof$Instance;)V"⟩) (owner := "DictProof$Instance") rfl hk hinj subO_0 getO_0 setO_0 (lw_U q1291 q1294 q1295 q1292 q116 q1299) (by decide +kernel) hn hfr hlo hstk hroom hd hs1 k
  · exact r_callU (j := none) 1 av (c := 5) (rc := (RX5, TX5, 6)) rfl he (x := ⟨"DictProof$Instance", "be", "(LDictProof$Instance;)V"⟩) (owner := "DictProof$Instance") rfl hk hinj subO_0 getO_0 setO_0 (lw_U q1291 q1294 q1297 q1292 q116 q1299) (by decide +kernel) hn hfr hlo hstk hroom hd hs1 k
def fX0_be  (s : Sg) (h : hS) (a1 : Int) (a2 : Int) : Option (Sg × hS) := bd (fX0_made h a2) fun p1 => gd (inb a1 6) (gd (inC p1.2 p1.1 [1, 2, 3, 4, 5] = true) (bd (fX1_be p1.2 p1.1 (gQ s 4 a1)) fun p8 => gd (inb a1 6) (gd (p1.1 = none ∨ inC p8 p1.1 [1, 2, 3, 4, 5] = true) (some (sQ s 4 a1 p1.1, p8)))))
theorem kX0_be {G : Gx}  {b : Nat} {ad : Nat → Nat} {s' : Sg} {h' : hS} {s : Sg} {h : hS} {a1 : Int} {a2 : Int}  (ha1 : rI a1) (ha2 : rI a2) (e : fX0_be s h a1 a2 = some (s', h')) : CtX G yX0_be cX0_be 4 none 5 100 [(0, b, ad)] [s] h [tr (some b), ti a1, ti a2] none [s'] h' := by
  refine CtX.of (by decide) (Nat.le_of_ble_eq_true rfl) [(0, tr (some b)), (1, ti a1), (2, ti a2)] rfl ?_
  have E : EndX (G, 4, [(0, b, ad)], h, [s'], h', none, none, yX0_be.name) [(0, b, ad)] 4 none none [s'] h' := ⟨rfl, rfl, rfl, rfl, rfl, rfl⟩
  unfold fX0_be at e
  refine r_rrs E.p (fun rr => ?_)
  refine r_iload_n dX0_be_0 rfl 2 rfl ?_
  obtain ⟨p1, q2, e⟩ := bd_o e
  have k3 := kX0_made (G := G) ha2 q2
  have z4 := (k3 rr.none).1.2.2.2
  refine r_callS (j := none) 1 [ti a2] k3 (injO_1 E.p) subO_0 getO_0 setO_0 (lw_S q457 q458 q115 q459) (by decide +kernel) rfl (Nat.le_of_ble_eq_true rfl) (Nat.le_of_ble_eq_true rfl) rfl (Nat.le_of_ble_eq_true rfl) dX0_be_1 rfl ?_
  refine r_rrs E.p (fun rr5 => ?_)
  refine r_astore_n (lv' := [(3, tr p1.1), (0, tr (some b)), (1, ti a1), (2, ti a2)]) dX0_be_4 rfl (E.lt (by decide)) rfl ?_
  refine r_aload_n dX0_be_5 rfl 0 rfl ?_
  refine r_aload_n dX0_be_6 rfl 1 rfl ?_
  refine r_sR E.p 4 fG_X0_114 (by decide) dX0_be_7 ?_
  refine r_iload_n dX0_be_10 rfl 2 rfl ?_
  obtain ⟨g6, e⟩ := gd_o e
  refine r_saQ E.p 4 rfl (by decide) (by decide) (by decide) ha1 g6 dX0_be_11 ?_
  obtain ⟨g7, e⟩ := gd_o e
  obtain ⟨p8, q9, e⟩ := bd_o e
  have k10 := kX1_be (G := G)  q9
  refine rF_X0_438 (av := [tr (gQ s 4 a1)]) g7 k10 (injO_1 E.p) rfl (Nat.le_of_ble_eq_true rfl) (Nat.le_of_ble_eq_true rfl) rfl (Nat.le_of_ble_eq_true rfl) dX0_be_12 rfl ?_
  refine r_rrs E.p (fun rr11 => ?_)
  refine r_aload_n dX0_be_15 rfl 1 rfl ?_
  refine r_sR E.p 4 fG_X0_114 (by decide) dX0_be_16 ?_
  refine r_iload_n dX0_be_19 rfl 2 rfl ?_
  refine r_aload_n dX0_be_20 rfl 0 rfl ?_
  obtain ⟨g12, e⟩ := gd_o e
  obtain ⟨g13, e⟩ := gd_o e
  refine r_saPQ (P := [1, 2, 3, 4, 5]) E.p 4 rfl (by decide) (by decide) (by decide) sto_3 ha1 g12 (inC_p g13) dX0_be_21 ?_
  refine r_rrs E.p (fun rr14 => ?_)
  cases e
  exact r_vret E.σ E.st E.rt E.r dX0_be_22
def fX0_change  (pm : Option Nat) (s : Sg) (h : hS) (a1 : Int) (a2 : Int) : Option (Int × Sg × hS) := bd (fX0_isInstance s a1) fun p1 => if ¬ p1 = 0 then bd (fX0_isIn a2 0 4) fun p6 => if ¬ p6 = 0 then gd (inb a1 6) (bd (D9_kind h (gQ s 4 a1)) fun p12 => bd (fX0_be s h a1 a2) fun p15 => gd (hC p15.2 pm = some 11) (bd (fJ1_clear p15.2 pm) fun p20 => some (p12, p15.1, p20))) else some ((-102), s, h) else some ((-101), s, h)
theorem kX0_change {G : Gx}  {b : Nat} {ad : Nat → Nat} {s' : Sg} {h' : hS} {r : Int} {s : Sg} {h : hS} {a1 : Int} {a2 : Int}  (ha1 : rI a1) (ha2 : rI a2) (e : fX0_change (some (ad 20)) s h a1 a2 = some (r, s', h')) : CtX G yX0_change cX0_change 4 (some .int) 6 123 [(0, b, ad)] [s] h [tr (some b), ti a1, ti a2] (some (ti r)) [s'] h' := by
  refine CtX.of (by decide) (Nat.le_of_ble_eq_true rfl) [(0, tr (some b)), (1, ti a1), (2, ti a2)] rfl ?_
  have E : EndX (G, 4, [(0, b, ad)], h, [s'], h', (some .int), (some (ti r)), yX0_change.name) [(0, b, ad)] 4 (some .int) (some (ti r)) [s'] h' := ⟨rfl, rfl, rfl, rfl, rfl, rfl⟩
  unfold fX0_change at e
  refine r_rrs E.p (fun rr => ?_)
  refine r_aload_n dX0_change_0 rfl 0 rfl ?_
  refine r_iload_n dX0_change_1 rfl 1 rfl ?_
  obtain ⟨p1, q2, e⟩ := bd_o e
  have k3 := kX0_isInstance (G := G) (b := b) (ad := ad) (h := h) ha1 q2
  have z4 := (k3 rr).1.2.2.2
  refine r_callV (j := some 0) 1 [ti a1] (rec_sg (j := 0) (r := (RX0, TX0, 36)) rfl (by rw [E.p]; rfl)) rfl k3 (injO_1 E.p) (subO_1 E.p) getO_1 setO_1 (lw_V q1089 q1091 qs24 q115 q1092) (by decide +kernel) rfl (Nat.le_of_ble_eq_true rfl) (Nat.le_of_ble_eq_true rfl) rfl (Nat.le_of_ble_eq_true rfl) dX0_change_2 rfl ?_
  have eT := (r_ifo e).1
  have eF := (r_ifo e).2
  refine r_if_ne (rI_z z4) 11 dX0_change_5 (by decide) (fun c5 => ?_) (fun c5 => ?_)
  · have e := eT c5
    refine r_iload_n dX0_change_11 rfl 2 rfl ?_
    refine r_i2l ha2 dX0_change_12 ?_
    refine r_lconst 0 dX0_change_13 rfl ?_
    refine r_ldc2 4 q1279 (by decide) dX0_change_14 ?_
    obtain ⟨p6, q7, e⟩ := bd_o e
    have k8 := kX0_isIn (G := G) (h := h) (rI_L ha2) (by decide) (by decide) q7
    have z9 := (k8 rr.none).1.2.2.2
    refine r_callS (j := none) 3 [tl a2, tl 0, tl 4] k8 (injO_1 E.p) subO_0 getO_0 setO_0 (lw_S q397 q398 q115 q399) (by decide +kernel) rfl (Nat.le_of_ble_eq_true rfl) (Nat.le_of_ble_eq_true rfl) rfl (Nat.le_of_ble_eq_true rfl) dX0_change_17 rfl ?_
    have eT := (r_ifo e).1
    have eF := (r_ifo e).2
    refine r_if_ne (rI_z z9) 26 dX0_change_20 (by decide) (fun c10 => ?_) (fun c10 => ?_)
    · have e := eT c10
      refine r_aload_n dX0_change_26 rfl 0 rfl ?_
      refine r_sR E.p 4 fG_X0_114 (by decide) dX0_change_27 ?_
      refine r_iload_n dX0_change_30 rfl 1 rfl ?_
      obtain ⟨g11, e⟩ := gd_o e
      refine r_saQ E.p 4 rfl (by decide) (by decide) (by decide) ha1 g11 dX0_change_31 ?_
      obtain ⟨p12, q13, e⟩ := bd_o e
      have z14 := zD9_kind (G := G)  q13 rr.none
      refine rD_X0_404  q13 (injO_1 E.p) (Nat.le_of_ble_eq_true rfl) (Nat.le_of_ble_eq_true rfl) rfl (Nat.le_of_ble_eq_true rfl) dX0_change_32 rfl ?_
      refine r_istore_n (lv' := [(3, ti p12), (0, tr (some b)), (1, ti a1), (2, ti a2)]) dX0_change_35 rfl (E.lt (by decide)) rfl ?_
      refine r_aload_n dX0_change_36 rfl 1 rfl ?_
      refine r_iload_n dX0_change_37 rfl 2 rfl ?_
      refine r_iload_n dX0_change_38 rfl 3 rfl ?_
      obtain ⟨p15, q16, e⟩ := bd_o e
      have k17 := kX0_be (G := G) (b := b) (ad := ad) ha1 ha2 q16
      have z18 := (k17 rr).1.2.2.2
      refine r_callV (j := some 0) 2 [ti a1, ti a2] (rec_sg (j := 0) (r := (RX0, TX0, 36)) rfl (by rw [E.p]; rfl)) rfl k17 (injO_1 E.p) (subO_1 E.p) getO_1 setO_1 (lw_V q1287 q1289 qs33 q115 q1290) (by decide +kernel) rfl (Nat.le_of_ble_eq_true rfl) (Nat.le_of_ble_eq_true rfl) rfl (Nat.le_of_ble_eq_true rfl) dX0_change_39 rfl ?_
      refine r_rrs E.p (fun rr19 => ?_)
      refine r_aload_n dX0_change_42 rfl 1 rfl ?_
      refine r_sR E.p 20 fG_X0_128 (by decide) dX0_change_43 ?_
      obtain ⟨g22, e⟩ := gd_o e
      obtain ⟨p20, q21, e⟩ := bd_o e
      have k23 := kJ1_clear (G := G)  q21
      have z24 := (k23 rr19.none).1.2.2.2
      refine r_callVo (j := none) 0 [] (c := 11) (rc := (RJ1, TJ1, 8)) rfl g22 rfl k23 (injO_1 E.p) subO_0 getO_0 setO_0 (lw_V q827 q828 q829 q122 q830) (by decide +kernel) rfl (Nat.le_of_ble_eq_true rfl) (Nat.le_of_ble_eq_true rfl) rfl (Nat.le_of_ble_eq_true rfl) dX0_change_46 rfl ?_
      refine r_rrs E.p (fun rr25 => ?_)
      refine r_iload_n dX0_change_49 rfl 0 rfl ?_
      cases e
      exact r_iret E.σ E.st E.rt E.r z14 dX0_change_50
    · have e := eF c10
      refine r_bipush dX0_change_23 (by decide) ?_
      cases e
      exact r_iret E.σ E.st E.rt E.r (by decide) dX0_change_25
  · have e := eF c5
    refine r_bipush dX0_change_8 (by decide) ?_
    cases e
    exact r_iret E.σ E.st E.rt E.r (by decide) dX0_change_10
def fX0_isOverlap_b50 (s : Sg) (h : hS) (k0 : Int) : Option (Int) := gd (k0 = 0 ∨ k0 = 1) (some k0)
theorem wX0_isOverlap_b50 {N : Nx} {b : Nat} {ad : Nat → Nat} {s : Sg} {h : hS} {r : Int} (E : EndX N [(0, b, ad)] 3 (some .boolean) (some (ti r)) [s] h)  (k0 : Int) (hk0 : rI k0) (e : fX0_isOverlap_b50 s h k0 = some (r)) : AtPc cX0_isOverlap RX0 2 40 N [s] h 50 [] [ti k0] := by
  unfold fX0_isOverlap_b50 at e
  refine r_rrs E.p (fun rr => ?_)
  obtain ⟨g1, e⟩ := gd_o e
  cases e
  exact r_zret E.σ E.st E.rt E.r g1 dX0_isOverlap_50
def fX0_isOverlap_b49 (s : Sg) (h : hS) : Option (Int) := fX0_isOverlap_b50 s h 0
theorem wX0_isOverlap_b49 {N : Nx} {b : Nat} {ad : Nat → Nat} {s : Sg} {h : hS} {r : Int} (E : EndX N [(0, b, ad)] 3 (some .boolean) (some (ti r)) [s] h)   (e : fX0_isOverlap_b49 s h = some (r)) : AtPc cX0_isOverlap RX0 2 40 N [s] h 49 [] [] := by
  unfold fX0_isOverlap_b49 at e
  refine r_rrs E.p (fun rr => ?_)
  refine r_iconst dX0_isOverlap_49 ?_
  exact wX0_isOverlap_b50 E 0 (by decide) e
def fX0_isOverlap  (s : Sg) (h : hS) (o1 : Option Nat) (o2 : Option Nat) : Option (Int) := bd (hI h o1 [(1, 1), (2, 1), (3, 1), (4, 1), (5, 1)]) fun v1 => bd (hI h o2 [(1, 1), (2, 1), (3, 1), (4, 1), (5, 1)]) fun v3 => if ¬ v1 = v3 then fX0_isOverlap_b49 s h else bd (D2_isUsed h o1) fun p6 => if p6 = 0 then fX0_isOverlap_b49 s h else bd (D2_isUsed h o2) fun p10 => if p10 = 0 then fX0_isOverlap_b49 s h else bd (hI h o1 [(1, 0), (2, 0), (3, 0), (4, 0), (5, 0)]) fun v14 => bd (hI h o2 [(1, 0), (2, 0), (3, 0), (4, 0), (5, 0)]) fun v16 => gd (inb (wr ((wr (6 * v14)) + v16)) 36) (if (gA s 21 (wr ((wr (6 * v14)) + v16))) = 0 then fX0_isOverlap_b49 s h else fX0_isOverlap_b50 s h 1)
theorem kX0_isOverlap {G : Gx}  {b : Nat} {ad : Nat → Nat} {s : Sg} {h : hS} {r : Int} {o1 : Option Nat} {o2 : Option Nat}   (e : fX0_isOverlap s h o1 o2 = some (r)) : CtX G yX0_isOverlap cX0_isOverlap 3 (some .boolean) 2 40 [(0, b, ad)] [s] h [tr (some b), tr o1, tr o2] (some (ti r)) [s] h := by
  refine CtX.of (by decide) (Nat.le_of_ble_eq_true rfl) [(0, tr (some b)), (1, tr o1), (2, tr o2)] rfl ?_
  have E : EndX (G, 3, [(0, b, ad)], h, [s], h, (some .boolean), (some (ti r)), yX0_isOverlap.name) [(0, b, ad)] 3 (some .boolean) (some (ti r)) [s] h := ⟨rfl, rfl, rfl, rfl, rfl, rfl⟩
  unfold fX0_isOverlap at e
  refine r_rrs E.p (fun rr => ?_)
  refine r_aload_n dX0_isOverlap_0 rfl 1 rfl ?_
  obtain ⟨v1, q2, e⟩ := bd_o e
  refine r_getI fG_X0_248 q2 dX0_isOverlap_1 ?_
  refine r_aload_n dX0_isOverlap_4 rfl 2 rfl ?_
  obtain ⟨v3, q4, e⟩ := bd_o e
  refine r_getI fG_X0_248 q4 dX0_isOverlap_5 ?_
  have eT := (r_ifo e).1
  have eF := (r_ifo e).2
  refine r_icmp_ne (hI_r rr q2) (hI_r rr q4) 49 dX0_isOverlap_8 (by decide) (fun c5 => ?_) (fun c5 => ?_)
  · have e := eT c5
    refine r_sub [] rfl ?_
    exact wX0_isOverlap_b49 E e
  · have e := eF c5
    refine r_aload_n dX0_isOverlap_11 rfl 1 rfl ?_
    obtain ⟨p6, q7, e⟩ := bd_o e
    have z8 := zD2_isUsed (G := G)  q7 rr.none
    refine rD_X0_296  q7 (injO_1 E.p) (Nat.le_of_ble_eq_true rfl) (Nat.le_of_ble_eq_true rfl) rfl (Nat.le_of_ble_eq_true rfl) dX0_isOverlap_12 rfl ?_
    have eT := (r_ifo e).1
    have eF := (r_ifo e).2
    refine r_if_eq (rI_z z8) 49 dX0_isOverlap_15 (by decide) (fun c9 => ?_) (fun c9 => ?_)
    · have e := eT c9
      refine r_sub [] rfl ?_
      exact wX0_isOverlap_b49 E e
    · have e := eF c9
      refine r_aload_n dX0_isOverlap_18 rfl 2 rfl ?_
      obtain ⟨p10, q11, e⟩ := bd_o e
      have z12 := zD2_isUsed (G := G)  q11 rr.none
      refine rD_X0_296  q11 (injO_1 E.p) (Nat.le_of_ble_eq_true rfl) (Nat.le_of_ble_eq_true rfl) rfl (Nat.le_of_ble_eq_true rfl) dX0_isOverlap_19 rfl ?_
      have eT := (r_ifo e).1
      have eF := (r_ifo e).2
      refine r_if_eq (rI_z z12) 49 dX0_isOverlap_22 (by decide) (fun c13 => ?_) (fun c13 => ?_)
      · have e := eT c13
        refine r_sub [] rfl ?_
        exact wX0_isOverlap_b49 E e
      · have e := eF c13
        refine r_aload_n dX0_isOverlap_25 rfl 0 rfl ?_
        refine r_sR E.p 21 fG_X0_132 (by decide) dX0_isOverlap_26 ?_
        refine r_bipush dX0_isOverlap_29 (by decide) ?_
        refine r_aload_n dX0_isOverlap_31 rfl 1 rfl ?_
        obtain ⟨v14, q15, e⟩ := bd_o e
        refine r_getI fG_X0_245 q15 dX0_isOverlap_32 ?_
        refine r_imul dX0_isOverlap_35 ?_
        refine r_aload_n dX0_isOverlap_36 rfl 2 rfl ?_
        obtain ⟨v16, q17, e⟩ := bd_o e
        refine r_getI fG_X0_245 q17 dX0_isOverlap_37 ?_
        refine r_iadd dX0_isOverlap_40 ?_
        obtain ⟨g18, e⟩ := gd_o e
        refine r_saI E.p 21 rfl (by decide) (by decide) (wr_r _) g18 rfl dX0_isOverlap_41 ?_
        have eT := (r_ifo e).1
        have eF := (r_ifo e).2
        refine r_if_eq (((rr.mine rfl).a 21 (by decide) rfl).1 _) 49 dX0_isOverlap_42 (by decide) (fun c19 => ?_) (fun c19 => ?_)
        · have e := eT c19
          refine r_sub [] rfl ?_
          exact wX0_isOverlap_b49 E e
        · have e := eF c19
          refine r_iconst dX0_isOverlap_45 ?_
          refine r_goto 50 dX0_isOverlap_46 (by decide) ?_
          refine r_sub [] rfl ?_
          exact wX0_isOverlap_b50 E 1 (by decide) e
def fX0_isClash_b56 (s : Sg) (h : hS) (k0 : Int) : Option (Int) := gd (k0 = 0 ∨ k0 = 1) (some k0)
theorem wX0_isClash_b56 {N : Nx} {b : Nat} {ad : Nat → Nat} {s : Sg} {h : hS} {r : Int} (E : EndX N [(0, b, ad)] 4 (some .boolean) (some (ti r)) [s] h)  (k0 : Int) (hk0 : rI k0) (e : fX0_isClash_b56 s h k0 = some (r)) : AtPc cX0_isClash RX0 3 62 N [s] h 56 [] [ti k0] := by
  unfold fX0_isClash_b56 at e
  refine r_rrs E.p (fun rr => ?_)
  obtain ⟨g1, e⟩ := gd_o e
  cases e
  exact r_zret E.σ E.st E.rt E.r g1 dX0_isClash_56
def fX0_isClash_b51 (s : Sg) (h : hS) : Option (Int) := fX0_isClash_b56 s h 1
theorem wX0_isClash_b51 {N : Nx} {b : Nat} {ad : Nat → Nat} {s : Sg} {h : hS} {r : Int} (E : EndX N [(0, b, ad)] 4 (some .boolean) (some (ti r)) [s] h)   (e : fX0_isClash_b51 s h = some (r)) : AtPc cX0_isClash RX0 3 62 N [s] h 51 [] [] := by
  unfold fX0_isClash_b51 at e
  refine r_rrs E.p (fun rr => ?_)
  refine r_iconst dX0_isClash_51 ?_
  refine r_goto 56 dX0_isClash_52 (by decide) ?_
  exact wX0_isClash_b56 E 1 (by decide) e
def fX0_isClash_b55 (s : Sg) (h : hS) : Option (Int) := fX0_isClash_b56 s h 0
theorem wX0_isClash_b55 {N : Nx} {b : Nat} {ad : Nat → Nat} {s : Sg} {h : hS} {r : Int} (E : EndX N [(0, b, ad)] 4 (some .boolean) (some (ti r)) [s] h)   (e : fX0_isClash_b55 s h = some (r)) : AtPc cX0_isClash RX0 3 62 N [s] h 55 [] [] := by
  unfold fX0_isClash_b55 at e
  refine r_rrs E.p (fun rr => ?_)
  refine r_iconst dX0_isClash_55 ?_
  exact wX0_isClash_b56 E 0 (by decide) e
def fX0_isClash_b23 (s : Sg) (h : hS) (o1 : Option Nat) (o2 : Option Nat) (k0 : Int) : Option (Int) := bd (fX0_isOverlap s h o1 o2) fun p1 => if p1 = 0 then fX0_isClash_b55 s h else if ¬ k0 = 0 then fX0_isClash_b51 s h else bd (D4_isAlone h o1) fun p7 => if ¬ p7 = 0 then fX0_isClash_b51 s h else bd (D4_isAlone h o2) fun p11 => if p11 = 0 then fX0_isClash_b55 s h else fX0_isClash_b51 s h
theorem wX0_isClash_b23 {N : Nx} {b : Nat} {ad : Nat → Nat} {s : Sg} {h : hS} {r : Int} (E : EndX N [(0, b, ad)] 4 (some .boolean) (some (ti r)) [s] h)  (o1 : Option Nat) (o2 : Option Nat) (k0 : Int) (hk0 : rI k0) (e : fX0_isClash_b23 s h o1 o2 k0 = some (r)) : AtPc cX0_isClash RX0 3 62 N [s] h 23 [(0, tr (some b)), (1, tr o1), (2, tr o2)] [ti k0] := by
  unfold fX0_isClash_b23 at e
  refine r_rrs E.p (fun rr => ?_)
  refine r_istore_n (lv' := [(3, ti k0), (0, tr (some b)), (1, tr o1), (2, tr o2)]) dX0_isClash_23 rfl (E.lt (by decide)) rfl ?_
  refine r_aload_n dX0_isClash_24 rfl 1 rfl ?_
  refine r_aload_n dX0_isClash_25 rfl 2 rfl ?_
  refine r_aload_n dX0_isClash_26 rfl 3 rfl ?_
  obtain ⟨p1, q2, e⟩ := bd_o e
  have k3 := kX0_isOverlap (G := nG N) (b := b) (ad := ad)  q2
  have z4 := (k3 rr).1.2.2.2
  refine r_callV (j := some 0) 2 [tr o1, tr o2] (rec_sg (j := 0) (r := (RX0, TX0, 36)) rfl (by rw [E.p]; rfl)) rfl k3 (injO_1 E.p) (subO_1 E.p) getO_1 setO_1 (lw_V q1312 q1314 qs35 q115 q1315) (by decide +kernel) rfl (Nat.le_of_ble_eq_true rfl) (Nat.le_of_ble_eq_true rfl) rfl (Nat.le_of_ble_eq_true rfl) dX0_isClash_27 rfl ?_
  have eT := (r_ifo e).1
  have eF := (r_ifo e).2
  refine r_if_eq (rI_z z4) 55 dX0_isClash_30 (by decide) (fun c5 => ?_) (fun c5 => ?_)
  · have e := eT c5
    refine r_sub [] rfl ?_
    exact wX0_isClash_b55 E e
  · have e := eF c5
    refine r_iload_n dX0_isClash_33 rfl 0 rfl ?_
    have eT := (r_ifo e).1
    have eF := (r_ifo e).2
    refine r_if_ne hk0 51 dX0_isClash_34 (by decide) (fun c6 => ?_) (fun c6 => ?_)
    · have e := eT c6
      refine r_sub [] rfl ?_
      exact wX0_isClash_b51 E e
    · have e := eF c6
      refine r_aload_n dX0_isClash_37 rfl 2 rfl ?_
      obtain ⟨p7, q8, e⟩ := bd_o e
      have z9 := zD4_isAlone (G := nG N)  q8 rr.none
      refine rD_X0_316  q8 (injO_1 E.p) (Nat.le_of_ble_eq_true rfl) (Nat.le_of_ble_eq_true rfl) rfl (Nat.le_of_ble_eq_true rfl) dX0_isClash_38 rfl ?_
      have eT := (r_ifo e).1
      have eF := (r_ifo e).2
      refine r_if_ne (rI_z z9) 51 dX0_isClash_41 (by decide) (fun c10 => ?_) (fun c10 => ?_)
      · have e := eT c10
        refine r_sub [] rfl ?_
        exact wX0_isClash_b51 E e
      · have e := eF c10
        refine r_aload_n dX0_isClash_44 rfl 3 rfl ?_
        obtain ⟨p11, q12, e⟩ := bd_o e
        have z13 := zD4_isAlone (G := nG N)  q12 rr.none
        refine rD_X0_316  q12 (injO_1 E.p) (Nat.le_of_ble_eq_true rfl) (Nat.le_of_ble_eq_true rfl) rfl (Nat.le_of_ble_eq_true rfl) dX0_isClash_45 rfl ?_
        have eT := (r_ifo e).1
        have eF := (r_ifo e).2
        refine r_if_eq (rI_z z13) 55 dX0_isClash_48 (by decide) (fun c14 => ?_) (fun c14 => ?_)
        · have e := eT c14
          refine r_sub [] rfl ?_
          exact wX0_isClash_b55 E e
        · have e := eF c14
          refine r_sub [] rfl ?_
          exact wX0_isClash_b51 E e
def fX0_isClash_b22 (s : Sg) (h : hS) (o1 : Option Nat) (o2 : Option Nat) : Option (Int) := fX0_isClash_b23 s h o1 o2 0
theorem wX0_isClash_b22 {N : Nx} {b : Nat} {ad : Nat → Nat} {s : Sg} {h : hS} {r : Int} (E : EndX N [(0, b, ad)] 4 (some .boolean) (some (ti r)) [s] h)  (o1 : Option Nat) (o2 : Option Nat) (e : fX0_isClash_b22 s h o1 o2 = some (r)) : AtPc cX0_isClash RX0 3 62 N [s] h 22 [(0, tr (some b)), (1, tr o1), (2, tr o2)] [] := by
  unfold fX0_isClash_b22 at e
  refine r_rrs E.p (fun rr => ?_)
  refine r_iconst dX0_isClash_22 ?_
  exact wX0_isClash_b23 E o1 o2 0 (by decide) e
def fX0_isClash  (s : Sg) (h : hS) (o1 : Option Nat) (o2 : Option Nat) : Option (Int) := bd (fX0_isSpecial s h o1 o2) fun p1 => if ¬ p1 = 0 then fX0_isClash_b22 s h o1 o2 else bd (fX0_isSpecial s h o2 o1) fun p6 => if ¬ p6 = 0 then fX0_isClash_b22 s h o1 o2 else fX0_isClash_b23 s h o1 o2 1
theorem kX0_isClash {G : Gx}  {b : Nat} {ad : Nat → Nat} {s : Sg} {h : hS} {r : Int} {o1 : Option Nat} {o2 : Option Nat}   (e : fX0_isClash s h o1 o2 = some (r)) : CtX G yX0_isClash cX0_isClash 4 (some .boolean) 3 62 [(0, b, ad)] [s] h [tr (some b), tr o1, tr o2] (some (ti r)) [s] h := by
  refine CtX.of (by decide) (Nat.le_of_ble_eq_true rfl) [(0, tr (some b)), (1, tr o1), (2, tr o2)] rfl ?_
  have E : EndX (G, 4, [(0, b, ad)], h, [s], h, (some .boolean), (some (ti r)), yX0_isClash.name) [(0, b, ad)] 4 (some .boolean) (some (ti r)) [s] h := ⟨rfl, rfl, rfl, rfl, rfl, rfl⟩
  unfold fX0_isClash at e
  refine r_rrs E.p (fun rr => ?_)
  refine r_aload_n dX0_isClash_0 rfl 0 rfl ?_
  refine r_aload_n dX0_isClash_1 rfl 1 rfl ?_
  refine r_aload_n dX0_isClash_2 rfl 2 rfl ?_
  obtain ⟨p1, q2, e⟩ := bd_o e
  have k3 := kX0_isSpecial (G := G) (b := b) (ad := ad)  q2
  have z4 := (k3 rr).1.2.2.2
  refine r_callV (j := some 0) 2 [tr o1, tr o2] (rec_sg (j := 0) (r := (RX0, TX0, 36)) rfl (by rw [E.p]; rfl)) rfl k3 (injO_1 E.p) (subO_1 E.p) getO_1 setO_1 (lw_V q972 q974 qs19 q115 q975) (by decide +kernel) rfl (Nat.le_of_ble_eq_true rfl) (Nat.le_of_ble_eq_true rfl) rfl (Nat.le_of_ble_eq_true rfl) dX0_isClash_3 rfl ?_
  have eT := (r_ifo e).1
  have eF := (r_ifo e).2
  refine r_if_ne (rI_z z4) 22 dX0_isClash_6 (by decide) (fun c5 => ?_) (fun c5 => ?_)
  · have e := eT c5
    exact wX0_isClash_b22 E o1 o2 e
  · have e := eF c5
    refine r_aload_n dX0_isClash_9 rfl 0 rfl ?_
    refine r_aload_n dX0_isClash_10 rfl 2 rfl ?_
    refine r_aload_n dX0_isClash_11 rfl 1 rfl ?_
    obtain ⟨p6, q7, e⟩ := bd_o e
    have k8 := kX0_isSpecial (G := G) (b := b) (ad := ad)  q7
    have z9 := (k8 rr).1.2.2.2
    refine r_callV (j := some 0) 2 [tr o2, tr o1] (rec_sg (j := 0) (r := (RX0, TX0, 36)) rfl (by rw [E.p]; rfl)) rfl k8 (injO_1 E.p) (subO_1 E.p) getO_1 setO_1 (lw_V q972 q974 qs19 q115 q975) (by decide +kernel) rfl (Nat.le_of_ble_eq_true rfl) (Nat.le_of_ble_eq_true rfl) rfl (Nat.le_of_ble_eq_true rfl) dX0_isClash_12 rfl ?_
    have eT := (r_ifo e).1
    have eF := (r_ifo e).2
    refine r_if_ne (rI_z z9) 22 dX0_isClash_15 (by decide) (fun c10 => ?_) (fun c10 => ?_)
    · have e := eT c10
      exact wX0_isClash_b22 E o1 o2 e
    · have e := eF c10
      refine r_iconst dX0_isClash_18 ?_
      refine r_goto 23 dX0_isClash_19 (by decide) ?_
      exact wX0_isClash_b23 E o1 o2 1 (by decide) e
def fX0_tellPair_b45 (s : Sg) (h : hS) (k0 : Int) : Option (Int) := some k0
theorem wX0_tellPair_b45 {N : Nx} {b : Nat} {ad : Nat → Nat} {s : Sg} {h : hS} {r : Int} (E : EndX N [(0, b, ad)] 5 (some .int) (some (ti r)) [s] h)  (k0 : Int) (hk0 : rI k0) (e : fX0_tellPair_b45 s h k0 = some (r)) : AtPc cX0_tellPair RX0 4 85 N [s] h 45 [] [ti k0] := by
  unfold fX0_tellPair_b45 at e
  refine r_rrs E.p (fun rr => ?_)
  cases e
  exact r_iret E.σ E.st E.rt E.r hk0 dX0_tellPair_45
def fX0_tellPair_b33 (s : Sg) (h : hS) (k0 : Int) : Option (Int) := if k0 = 0 then fX0_tellPair_b45 s h 0 else fX0_tellPair_b45 s h 1
theorem wX0_tellPair_b33 {N : Nx} {b : Nat} {ad : Nat → Nat} {s : Sg} {h : hS} {r : Int} (E : EndX N [(0, b, ad)] 5 (some .int) (some (ti r)) [s] h)  (k0 : Int) (hk0 : rI k0) (e : fX0_tellPair_b33 s h k0 = some (r)) : AtPc cX0_tellPair RX0 4 85 N [s] h 33 [] [ti k0] := by
  unfold fX0_tellPair_b33 at e
  refine r_rrs E.p (fun rr => ?_)
  refine r_istore (lv' := [(4, ti k0)]) dX0_tellPair_33 (E.lt (by decide)) rfl ?_
  refine r_iload dX0_tellPair_35 0 rfl ?_
  have eT := (r_ifo e).1
  have eF := (r_ifo e).2
  refine r_if_eq hk0 44 dX0_tellPair_37 (by decide) (fun c1 => ?_) (fun c1 => ?_)
  · have e := eT c1
    refine r_iconst dX0_tellPair_44 ?_
    refine r_sub [] rfl ?_
    exact wX0_tellPair_b45 E 0 (by decide) e
  · have e := eF c1
    refine r_iconst dX0_tellPair_40 ?_
    refine r_goto 45 dX0_tellPair_41 (by decide) ?_
    refine r_sub [] rfl ?_
    exact wX0_tellPair_b45 E 1 (by decide) e
def fX0_tellPair  (s : Sg) (h : hS) (o1 : Option Nat) (o2 : Option Nat) (a3 : Int) : Option (Int) := if ¬ a3 = 0 then if ¬ a3 = 1 then bd (fX0_isSpecial s h o1 o2) fun p3 => fX0_tellPair_b33 s h p3 else bd (fX0_isClash s h o1 o2) fun p7 => fX0_tellPair_b33 s h p7 else bd (fX0_isOverlap s h o1 o2) fun p11 => fX0_tellPair_b33 s h p11
theorem kX0_tellPair {G : Gx}  {b : Nat} {ad : Nat → Nat} {s : Sg} {h : hS} {r : Int} {o1 : Option Nat} {o2 : Option Nat} {a3 : Int}  (ha3 : rI a3) (e : fX0_tellPair s h o1 o2 a3 = some (r)) : CtX G yX0_tellPair cX0_tellPair 5 (some .int) 4 85 [(0, b, ad)] [s] h [tr (some b), tr o1, tr o2, ti a3] (some (ti r)) [s] h := by
  refine CtX.of (by decide) (Nat.le_of_ble_eq_true rfl) [(0, tr (some b)), (1, tr o1), (2, tr o2), (3, ti a3)] rfl ?_
  have E : EndX (G, 5, [(0, b, ad)], h, [s], h, (some .int), (some (ti r)), yX0_tellPair.name) [(0, b, ad)] 5 (some .int) (some (ti r)) [s] h := ⟨rfl, rfl, rfl, rfl, rfl, rfl⟩
  unfold fX0_tellPair at e
  refine r_rrs E.p (fun rr => ?_)
  refine r_iload_n dX0_tellPair_0 rfl 3 rfl ?_
  have eT := (r_ifo e).1
  have eF := (r_ifo e).2
  refine r_if_ne ha3 13 dX0_tellPair_1 (by decide) (fun c1 => ?_) (fun c1 => ?_)
  · have e := eT c1
    refine r_iload_n dX0_tellPair_13 rfl 3 rfl ?_
    refine r_iconst dX0_tellPair_14 ?_
    have eT := (r_ifo e).1
    have eF := (r_ifo e).2
    refine r_icmp_ne ha3 (by decide) 27 dX0_tellPair_15 (by decide) (fun c2 => ?_) (fun c2 => ?_)
    · have e := eT c2
      refine r_aload_n dX0_tellPair_27 rfl 0 rfl ?_
      refine r_aload_n dX0_tellPair_28 rfl 1 rfl ?_
      refine r_aload_n dX0_tellPair_29 rfl 2 rfl ?_
      obtain ⟨p3, q4, e⟩ := bd_o e
      have k5 := kX0_isSpecial (G := G) (b := b) (ad := ad)  q4
      have z6 := (k5 rr).1.2.2.2
      refine r_callV (j := some 0) 2 [tr o1, tr o2] (rec_sg (j := 0) (r := (RX0, TX0, 36)) rfl (by rw [E.p]; rfl)) rfl k5 (injO_1 E.p) (subO_1 E.p) getO_1 setO_1 (lw_V q972 q974 qs19 q115 q975) (by decide +kernel) rfl (Nat.le_of_ble_eq_true rfl) (Nat.le_of_ble_eq_true rfl) rfl (Nat.le_of_ble_eq_true rfl) dX0_tellPair_30 rfl ?_
      refine r_sub [] rfl ?_
      exact wX0_tellPair_b33 E p3 (rI_z z6) e
    · have e := eF c2
      refine r_aload_n dX0_tellPair_18 rfl 0 rfl ?_
      refine r_aload_n dX0_tellPair_19 rfl 1 rfl ?_
      refine r_aload_n dX0_tellPair_20 rfl 2 rfl ?_
      obtain ⟨p7, q8, e⟩ := bd_o e
      have k9 := kX0_isClash (G := G) (b := b) (ad := ad)  q8
      have z10 := (k9 rr).1.2.2.2
      refine r_callV (j := some 0) 2 [tr o1, tr o2] (rec_sg (j := 0) (r := (RX0, TX0, 36)) rfl (by rw [E.p]; rfl)) rfl k9 (injO_1 E.p) (subO_1 E.p) getO_1 setO_1 (lw_V q1316 q1318 qs36 q115 q1319) (by decide +kernel) rfl (Nat.le_of_ble_eq_true rfl) (Nat.le_of_ble_eq_true rfl) rfl (Nat.le_of_ble_eq_true rfl) dX0_tellPair_21 rfl ?_
      refine r_goto 33 dX0_tellPair_24 (by decide) ?_
      refine r_sub [] rfl ?_
      exact wX0_tellPair_b33 E p7 (rI_z z10) e
  · have e := eF c1
    refine r_aload_n dX0_tellPair_4 rfl 0 rfl ?_
    refine r_aload_n dX0_tellPair_5 rfl 1 rfl ?_
    refine r_aload_n dX0_tellPair_6 rfl 2 rfl ?_
    obtain ⟨p11, q12, e⟩ := bd_o e
    have k13 := kX0_isOverlap (G := G) (b := b) (ad := ad)  q12
    have z14 := (k13 rr).1.2.2.2
    refine r_callV (j := some 0) 2 [tr o1, tr o2] (rec_sg (j := 0) (r := (RX0, TX0, 36)) rfl (by rw [E.p]; rfl)) rfl k13 (injO_1 E.p) (subO_1 E.p) getO_1 setO_1 (lw_V q1312 q1314 qs35 q115 q1315) (by decide +kernel) rfl (Nat.le_of_ble_eq_true rfl) (Nat.le_of_ble_eq_true rfl) rfl (Nat.le_of_ble_eq_true rfl) dX0_tellPair_7 rfl ?_
    refine r_goto 33 dX0_tellPair_10 (by decide) ?_
    refine r_sub [] rfl ?_
    exact wX0_tellPair_b33 E p11 (rI_z z14) e
def fX0_pair_b21 (s : Sg) (h : hS) : Option (Int) := some (-101)
theorem wX0_pair_b21 {N : Nx} {b : Nat} {ad : Nat → Nat} {s : Sg} {h : hS} {r : Int} (E : EndX N [(0, b, ad)] 4 (some .int) (some (ti r)) [s] h)   (e : fX0_pair_b21 s h = some (r)) : AtPc cX0_pair RX0 5 109 N [s] h 21 [] [] := by
  unfold fX0_pair_b21 at e
  refine r_rrs E.p (fun rr => ?_)
  refine r_bipush dX0_pair_21 (by decide) ?_
  cases e
  exact r_iret E.σ E.st E.rt E.r (by decide) dX0_pair_23
def fX0_pair_b58 (s : Sg) (h : hS) (k0 : Int) : Option (Int) := some k0
theorem wX0_pair_b58 {N : Nx} {b : Nat} {ad : Nat → Nat} {s : Sg} {h : hS} {r : Int} (E : EndX N [(0, b, ad)] 4 (some .int) (some (ti r)) [s] h)  (k0 : Int) (hk0 : rI k0) (e : fX0_pair_b58 s h k0 = some (r)) : AtPc cX0_pair RX0 5 109 N [s] h 58 [] [ti k0] := by
  unfold fX0_pair_b58 at e
  refine r_rrs E.p (fun rr => ?_)
  cases e
  exact r_iret E.σ E.st E.rt E.r hk0 dX0_pair_58
def fX0_pair  (s : Sg) (h : hS) (a1 : Int) (a2 : Int) (a3 : Int) : Option (Int) := bd (fX0_isInstance s a1) fun p1 => if p1 = 0 then fX0_pair_b21 s h else bd (fX0_isInstance s a2) fun p6 => if p6 = 0 then fX0_pair_b21 s h else if ¬ a1 = a2 then bd (fX0_isIn a3 0 2) fun p12 => if p12 = 0 then fX0_pair_b58 s h (-102) else gd (inb a1 6) (gd (inb a2 6) (bd (fX0_tellPair s h (gQ s 4 a1) (gQ s 4 a2) a3) fun p19 => fX0_pair_b58 s h p19)) else fX0_pair_b21 s h
theorem kX0_pair {G : Gx}  {b : Nat} {ad : Nat → Nat} {s : Sg} {h : hS} {r : Int} {a1 : Int} {a2 : Int} {a3 : Int}  (ha1 : rI a1) (ha2 : rI a2) (ha3 : rI a3) (e : fX0_pair s h a1 a2 a3 = some (r)) : CtX G yX0_pair cX0_pair 4 (some .int) 5 109 [(0, b, ad)] [s] h [tr (some b), ti a1, ti a2, ti a3] (some (ti r)) [s] h := by
  refine CtX.of (by decide) (Nat.le_of_ble_eq_true rfl) [(0, tr (some b)), (1, ti a1), (2, ti a2), (3, ti a3)] rfl ?_
  have E : EndX (G, 4, [(0, b, ad)], h, [s], h, (some .int), (some (ti r)), yX0_pair.name) [(0, b, ad)] 4 (some .int) (some (ti r)) [s] h := ⟨rfl, rfl, rfl, rfl, rfl, rfl⟩
  unfold fX0_pair at e
  refine r_rrs E.p (fun rr => ?_)
  refine r_aload_n dX0_pair_0 rfl 0 rfl ?_
  refine r_iload_n dX0_pair_1 rfl 1 rfl ?_
  obtain ⟨p1, q2, e⟩ := bd_o e
  have k3 := kX0_isInstance (G := G) (b := b) (ad := ad) (h := h) ha1 q2
  have z4 := (k3 rr).1.2.2.2
  refine r_callV (j := some 0) 1 [ti a1] (rec_sg (j := 0) (r := (RX0, TX0, 36)) rfl (by rw [E.p]; rfl)) rfl k3 (injO_1 E.p) (subO_1 E.p) getO_1 setO_1 (lw_V q1089 q1091 qs24 q115 q1092) (by decide +kernel) rfl (Nat.le_of_ble_eq_true rfl) (Nat.le_of_ble_eq_true rfl) rfl (Nat.le_of_ble_eq_true rfl) dX0_pair_2 rfl ?_
  have eT := (r_ifo e).1
  have eF := (r_ifo e).2
  refine r_if_eq (rI_z z4) 21 dX0_pair_5 (by decide) (fun c5 => ?_) (fun c5 => ?_)
  · have e := eT c5
    refine r_sub [] rfl ?_
    exact wX0_pair_b21 E e
  · have e := eF c5
    refine r_aload_n dX0_pair_8 rfl 0 rfl ?_
    refine r_iload_n dX0_pair_9 rfl 2 rfl ?_
    obtain ⟨p6, q7, e⟩ := bd_o e
    have k8 := kX0_isInstance (G := G) (b := b) (ad := ad) (h := h) ha2 q7
    have z9 := (k8 rr).1.2.2.2
    refine r_callV (j := some 0) 1 [ti a2] (rec_sg (j := 0) (r := (RX0, TX0, 36)) rfl (by rw [E.p]; rfl)) rfl k8 (injO_1 E.p) (subO_1 E.p) getO_1 setO_1 (lw_V q1089 q1091 qs24 q115 q1092) (by decide +kernel) rfl (Nat.le_of_ble_eq_true rfl) (Nat.le_of_ble_eq_true rfl) rfl (Nat.le_of_ble_eq_true rfl) dX0_pair_10 rfl ?_
    have eT := (r_ifo e).1
    have eF := (r_ifo e).2
    refine r_if_eq (rI_z z9) 21 dX0_pair_13 (by decide) (fun c10 => ?_) (fun c10 => ?_)
    · have e := eT c10
      refine r_sub [] rfl ?_
      exact wX0_pair_b21 E e
    · have e := eF c10
      refine r_iload_n dX0_pair_16 rfl 1 rfl ?_
      refine r_iload_n dX0_pair_17 rfl 2 rfl ?_
      have eT := (r_ifo e).1
      have eF := (r_ifo e).2
      refine r_icmp_ne ha1 ha2 24 dX0_pair_18 (by decide) (fun c11 => ?_) (fun c11 => ?_)
      · have e := eT c11
        refine r_iload_n dX0_pair_24 rfl 3 rfl ?_
        refine r_i2l ha3 dX0_pair_25 ?_
        refine r_lconst 0 dX0_pair_26 rfl ?_
        refine r_ldc2 2 q1307 (by decide) dX0_pair_27 ?_
        obtain ⟨p12, q13, e⟩ := bd_o e
        have k14 := kX0_isIn (G := G) (h := h) (rI_L ha3) (by decide) (by decide) q13
        have z15 := (k14 rr.none).1.2.2.2
        refine r_callS (j := none) 3 [tl a3, tl 0, tl 2] k14 (injO_1 E.p) subO_0 getO_0 setO_0 (lw_S q397 q398 q115 q399) (by decide +kernel) rfl (Nat.le_of_ble_eq_true rfl) (Nat.le_of_ble_eq_true rfl) rfl (Nat.le_of_ble_eq_true rfl) dX0_pair_30 rfl ?_
        have eT := (r_ifo e).1
        have eF := (r_ifo e).2
        refine r_if_eq (rI_z z15) 56 dX0_pair_33 (by decide) (fun c16 => ?_) (fun c16 => ?_)
        · have e := eT c16
          refine r_bipush dX0_pair_56 (by decide) ?_
          refine r_sub [] rfl ?_
          exact wX0_pair_b58 E (-102) (by decide) e
        · have e := eF c16
          refine r_aload_n dX0_pair_36 rfl 0 rfl ?_
          refine r_aload_n dX0_pair_37 rfl 0 rfl ?_
          refine r_sR E.p 4 fG_X0_114 (by decide) dX0_pair_38 ?_
          refine r_iload_n dX0_pair_41 rfl 1 rfl ?_
          obtain ⟨g17, e⟩ := gd_o e
          refine r_saQ E.p 4 rfl (by decide) (by decide) (by decide) ha1 g17 dX0_pair_42 ?_
          refine r_aload_n dX0_pair_43 rfl 0 rfl ?_
          refine r_sR E.p 4 fG_X0_114 (by decide) dX0_pair_44 ?_
          refine r_iload_n dX0_pair_47 rfl 2 rfl ?_
          obtain ⟨g18, e⟩ := gd_o e
          refine r_saQ E.p 4 rfl (by decide) (by decide) (by decide) ha2 g18 dX0_pair_48 ?_
          refine r_iload_n dX0_pair_49 rfl 3 rfl ?_
          obtain ⟨p19, q20, e⟩ := bd_o e
          have k21 := kX0_tellPair (G := G) (b := b) (ad := ad) ha3 q20
          have z22 := (k21 rr).1.2.2.2
          refine r_callV (j := some 0) 3 [tr (gQ s 4 a1), tr (gQ s 4 a2), ti a3] (rec_sg (j := 0) (r := (RX0, TX0, 36)) rfl (by rw [E.p]; rfl)) rfl k21 (injO_1 E.p) (subO_1 E.p) getO_1 setO_1 (lw_V q1308 q1310 qs34 q115 q1311) (by decide +kernel) rfl (Nat.le_of_ble_eq_true rfl) (Nat.le_of_ble_eq_true rfl) rfl (Nat.le_of_ble_eq_true rfl) dX0_pair_50 rfl ?_
          refine r_goto 58 dX0_pair_53 (by decide) ?_
          refine r_sub [] rfl ?_
          exact wX0_pair_b58 E p19 z22 e
      · have e := eF c11
        refine r_sub [] rfl ?_
        exact wX0_pair_b21 E e
def fX0_fits_b16 (s : Sg) (h : hS) : Option (Int × hS) := some ((-101), h)
theorem wX0_fits_b16 {N : Nx} {b : Nat} {ad : Nat → Nat} {s : Sg} {h' : hS} {r : Int} (E : EndX N [(0, b, ad)] 3 (some .int) (some (ti r)) [s] h')  (h : hS) (e : fX0_fits_b16 s h = some (r, h')) : AtPc cX0_fits RX0 34 782 N [s] h 16 [] [] := by
  unfold fX0_fits_b16 at e
  refine r_rrs E.p (fun rr => ?_)
  refine r_bipush dX0_fits_16 (by decide) ?_
  cases e
  exact r_iret E.σ E.st E.rt E.r (by decide) dX0_fits_18
def fX0_fits_b49 (s : Sg) (h : hS) (k0 : Int) : Option (Int × hS) := some (k0, h)
theorem wX0_fits_b49 {N : Nx} {b : Nat} {ad : Nat → Nat} {s : Sg} {h' : hS} {r : Int} (E : EndX N [(0, b, ad)] 3 (some .int) (some (ti r)) [s] h')  (h : hS) (k0 : Int) (hk0 : rI k0) (e : fX0_fits_b49 s h k0 = some (r, h')) : AtPc cX0_fits RX0 34 782 N [s] h 49 [] [ti k0] := by
  unfold fX0_fits_b49 at e
  refine r_rrs E.p (fun rr => ?_)
  cases e
  exact r_iret E.σ E.st E.rt E.r hk0 dX0_fits_49
def fX0_fits  (s : Sg) (h : hS) (a1 : Int) (a2 : Int) : Option (Int × hS) := bd (fX0_isInstance s a1) fun p1 => if p1 = 0 then fX0_fits_b16 s h else bd (fX0_isSlot s a2) fun p6 => if ¬ p6 = 0 then gd (inb a1 6) (bd (hQ h (gQ s 4 a1) [(1, 2), (2, 2), (3, 2), (4, 2), (5, 2)]) fun v12 => gd (inb a2 4) (bd (nwQS h 4 2) fun p15 => bd (fX0_isFitting 16 p15.2 v12 (gQ s 6 a2) (some p15.1)) fun p18 => if p18.1 = 0 then fX0_fits_b49 s p18.2 0 else fX0_fits_b49 s p18.2 1)) else fX0_fits_b16 s h
theorem kX0_fits {G : Gx}  {b : Nat} {ad : Nat → Nat} {s : Sg} {h' : hS} {r : Int} {h : hS} {a1 : Int} {a2 : Int}  (ha1 : rI a1) (ha2 : rI a2) (e : fX0_fits s h a1 a2 = some (r, h')) : CtX G yX0_fits cX0_fits 3 (some .int) 34 782 [(0, b, ad)] [s] h [tr (some b), ti a1, ti a2] (some (ti r)) [s] h' := by
  refine CtX.of (by decide) (Nat.le_of_ble_eq_true rfl) [(0, tr (some b)), (1, ti a1), (2, ti a2)] rfl ?_
  have E : EndX (G, 3, [(0, b, ad)], h, [s], h', (some .int), (some (ti r)), yX0_fits.name) [(0, b, ad)] 3 (some .int) (some (ti r)) [s] h' := ⟨rfl, rfl, rfl, rfl, rfl, rfl⟩
  unfold fX0_fits at e
  refine r_rrs E.p (fun rr => ?_)
  refine r_aload_n dX0_fits_0 rfl 0 rfl ?_
  refine r_iload_n dX0_fits_1 rfl 1 rfl ?_
  obtain ⟨p1, q2, e⟩ := bd_o e
  have k3 := kX0_isInstance (G := G) (b := b) (ad := ad) (h := h) ha1 q2
  have z4 := (k3 rr).1.2.2.2
  refine r_callV (j := some 0) 1 [ti a1] (rec_sg (j := 0) (r := (RX0, TX0, 36)) rfl (by rw [E.p]; rfl)) rfl k3 (injO_1 E.p) (subO_1 E.p) getO_1 setO_1 (lw_V q1089 q1091 qs24 q115 q1092) (by decide +kernel) rfl (Nat.le_of_ble_eq_true rfl) (Nat.le_of_ble_eq_true rfl) rfl (Nat.le_of_ble_eq_true rfl) dX0_fits_2 rfl ?_
  have eT := (r_ifo e).1
  have eF := (r_ifo e).2
  refine r_if_eq (rI_z z4) 16 dX0_fits_5 (by decide) (fun c5 => ?_) (fun c5 => ?_)
  · have e := eT c5
    refine r_sub [] rfl ?_
    exact wX0_fits_b16 E h e
  · have e := eF c5
    refine r_aload_n dX0_fits_8 rfl 0 rfl ?_
    refine r_iload_n dX0_fits_9 rfl 2 rfl ?_
    obtain ⟨p6, q7, e⟩ := bd_o e
    have k8 := kX0_isSlot (G := G) (b := b) (ad := ad) (h := h) ha2 q7
    have z9 := (k8 rr).1.2.2.2
    refine r_callV (j := some 0) 1 [ti a2] (rec_sg (j := 0) (r := (RX0, TX0, 36)) rfl (by rw [E.p]; rfl)) rfl k8 (injO_1 E.p) (subO_1 E.p) getO_1 setO_1 (lw_V q853 q855 qs11 q115 q856) (by decide +kernel) rfl (Nat.le_of_ble_eq_true rfl) (Nat.le_of_ble_eq_true rfl) rfl (Nat.le_of_ble_eq_true rfl) dX0_fits_10 rfl ?_
    have eT := (r_ifo e).1
    have eF := (r_ifo e).2
    refine r_if_ne (rI_z z9) 19 dX0_fits_13 (by decide) (fun c10 => ?_) (fun c10 => ?_)
    · have e := eT c10
      refine r_aload_n dX0_fits_19 rfl 0 rfl ?_
      refine r_sR E.p 4 fG_X0_114 (by decide) dX0_fits_20 ?_
      refine r_iload_n dX0_fits_23 rfl 1 rfl ?_
      obtain ⟨g11, e⟩ := gd_o e
      refine r_saQ E.p 4 rfl (by decide) (by decide) (by decide) ha1 g11 dX0_fits_24 ?_
      obtain ⟨v12, q13, e⟩ := bd_o e
      refine r_getQ fG_X0_251 q13 dX0_fits_25 ?_
      refine r_aload_n dX0_fits_28 rfl 0 rfl ?_
      refine r_sR E.p 6 fG_X0_117 (by decide) dX0_fits_29 ?_
      refine r_iload_n dX0_fits_32 rfl 2 rfl ?_
      obtain ⟨g14, e⟩ := gd_o e
      refine r_saQ E.p 6 rfl (by decide) (by decide) (by decide) ha2 g14 dX0_fits_33 ?_
      refine r_iconst dX0_fits_34 ?_
      obtain ⟨p15, q16, e⟩ := bd_o e
      refine r_newQS (t := 4) q16 (by decide) (by decide) rfl q247 (by decide) dX0_fits_35 ?_
      refine r_rrs E.p (fun rr17 => ?_)
      obtain ⟨p18, q19, e⟩ := bd_o e
      have k20 := kX0_isFitting (G := G) 16  q19
      have z21 := (k20 rr17.none).1.2.2.2
      refine r_callS (j := none) 3 [tr v12, tr (gQ s 6 a2), tr (some p15.1)] k20 (injO_1 E.p) subO_0 getO_0 setO_0 (lw_S q823 q824 q115 q825) (by decide +kernel) rfl (Nat.le_of_ble_eq_true rfl) (Nat.le_of_ble_eq_true rfl) rfl (Nat.le_of_ble_eq_true rfl) dX0_fits_38 rfl ?_
      refine r_rrs E.p (fun rr22 => ?_)
      have eT := (r_ifo e).1
      have eF := (r_ifo e).2
      refine r_if_eq (rI_z z21) 48 dX0_fits_41 (by decide) (fun c23 => ?_) (fun c23 => ?_)
      · have e := eT c23
        refine r_iconst dX0_fits_48 ?_
        refine r_sub [] rfl ?_
        exact wX0_fits_b49 E p18.2 0 (by decide) e
      · have e := eF c23
        refine r_iconst dX0_fits_44 ?_
        refine r_goto 49 dX0_fits_45 (by decide) ?_
        refine r_sub [] rfl ?_
        exact wX0_fits_b49 E p18.2 1 (by decide) e
    · have e := eF c10
      refine r_sub [] rfl ?_
      exact wX0_fits_b16 E h e
