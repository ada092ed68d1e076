/-! the class with what it needs: functions and walks, printed by gen/run0.py -/
set_option maxRecDepth 100000
def fX7_size : Nat → hS → Option Nat → Option (Int)
  | 0, _, _ => none
  | d9 + 1, h, o0 => fX7_size_B (fX7_size d9) h o0
theorem kX7_size {G : Gx} : ∀ (d9 : Nat), ∀  {h : hS} {r : Int} {o0 : Option Nat} , fX7_size d9 h o0 = some (r) → CtX G yX7_size cX7_size 1 (some .int) (d9 + 0) (20 * d9 + 0) [] [] h [tr o0] (some (ti r)) [] h := by
  intro d9
  induction d9 with
  | zero => intros; rename_i e; cases e
  | succ d9 ih => intros; exact kX7_size_B d9 _ ih (by assumption)
def fX0_type_b29 (s : Sg) (h : hS) : Option (Int × Sg × hS) := some ((-103), s, h)
theorem wX0_type_b29 {N : Nx} {b : Nat} {ad : Nat → Nat} {s' : Sg} {h' : hS} {r : Int} (E : EndX N [(0, b, ad)] 2 (some .int) (some (ti r)) [s'] h')  (s : Sg) (h : hS) (e : fX0_type_b29 s h = some (r, s', h')) : AtPc cX0_type RX0 19 434 N [s] h 29 [] [] := by
  unfold fX0_type_b29 at e
  refine r_rrs E.p (fun rr => ?_)
  refine r_bipush dX0_type_29 (by decide) ?_
  cases e
  exact r_iret E.σ E.st E.rt E.r (by decide) dX0_type_31
def fX0_type  (s : Sg) (h : hS) (a1 : Int) : Option (Int × Sg × hS) := bd (fX0_isIn a1 0 3) fun p1 => if ¬ p1 = 0 then if (gI s 5) = 0 then fX0_type_b29 s h else bd (fX0_typed s) fun p7 => if ¬ p7 = 0 then bd (fX0_typed s) fun p12 => if p12 ≤ 9 then bd (fX0_read 16 (sI s 19 0) h) fun p18 => gd (inb a1 4) (gd (p18.1 = none ∨ inC p18.2.2 p18.1 [7] = true) (gd (inb a1 4) (gd (hC p18.2.2 (gQ (sI (sQ p18.2.1 6 a1 p18.1) 9 0) 6 a1) = some 7) (bd (fX7_size 16 p18.2.2 (gQ (sI (sQ p18.2.1 6 a1 p18.1) 9 0) 6 a1)) fun p28 => some (p28, sI (sQ p18.2.1 6 a1 p18.1) 9 0, p18.2.2))))) else some ((-104), s, h) else fX0_type_b29 s h else some ((-101), s, h)
theorem kX0_type {G : Gx}  {b : Nat} {ad : Nat → Nat} {s' : Sg} {h' : hS} {r : Int} {s : Sg} {h : hS} {a1 : Int}  (ha1 : rI a1) (e : fX0_type s h a1 = some (r, s', h')) : CtX G yX0_type cX0_type 2 (some .int) 19 434 [(0, b, ad)] [s] h [tr (some b), ti a1] (some (ti r)) [s'] h' := by
  refine CtX.of (by decide) (Nat.le_of_ble_eq_true rfl) [(0, tr (some b)), (1, ti a1)] rfl ?_
  have E : EndX (G, 2, [(0, b, ad)], h, [s'], h', (some .int), (some (ti r)), yX0_type.name) [(0, b, ad)] 2 (some .int) (some (ti r)) [s'] h' := ⟨rfl, rfl, rfl, rfl, rfl, rfl⟩
  unfold fX0_type at e
  refine r_rrs E.p (fun rr => ?_)
  refine r_iload_n dX0_type_0 rfl 1 rfl ?_
  refine r_i2l ha1 dX0_type_1 ?_
  refine r_lconst 0 dX0_type_2 rfl ?_
  refine r_ldc2 3 q835 (by decide) dX0_type_3 ?_
  obtain ⟨p1, q2, e⟩ := bd_o e
  have k3 := kX0_isIn (G := G) (h := h) (rI_L ha1) (by decide) (by decide) q2
  have z4 := (k3 rr.none).1.2.2.2
  refine r_callS (j := none) 3 [tl a1, tl 0, tl 3] k3 (injO_1 E.p) subO_0 getO_0 setO_0 (lw_S q397 q398 q115 q399) (by decide +kernel) rfl (Nat.le_of_ble_eq_true rfl) (Nat.le_of_ble_eq_true rfl) rfl (Nat.le_of_ble_eq_true rfl) dX0_type_6 rfl ?_
  have eT := (r_ifo e).1
  have eF := (r_ifo e).2
  refine r_if_ne (rI_z z4) 15 dX0_type_9 (by decide) (fun c5 => ?_) (fun c5 => ?_)
  · have e := eT c5
    refine r_aload_n dX0_type_15 rfl 0 rfl ?_
    refine r_sI E.p 5 fG_X0_268 (by decide) dX0_type_16 ?_
    have eT := (r_ifo e).1
    have eF := (r_ifo e).2
    refine r_if_eq ((rr.mine rfl).i 5 (by decide) (by decide)) 29 dX0_type_19 (by decide) (fun c6 => ?_) (fun c6 => ?_)
    · have e := eT c6
      refine r_sub [] rfl ?_
      exact wX0_type_b29 E s h e
    · have e := eF c6
      refine r_aload_n dX0_type_22 rfl 0 rfl ?_
      obtain ⟨p7, q8, e⟩ := bd_o e
      have k9 := kX0_typed (G := G) (b := b) (ad := ad) (h := h)  q8
      have z10 := (k9 rr).1.2.2.2
      refine r_callV (j := some 0) 0 [] (rec_sg (j := 0) (r := (RX0, TX0, 36)) rfl (by rw [E.p]; rfl)) rfl k9 (injO_1 E.p) (subO_1 E.p) getO_1 setO_1 (lw_V q836 q838 qs9 q115 q839) (by decide +kernel) rfl (Nat.le_of_ble_eq_true rfl) (Nat.le_of_ble_eq_true rfl) rfl (Nat.le_of_ble_eq_true rfl) dX0_type_23 rfl ?_
      have eT := (r_ifo e).1
      have eF := (r_ifo e).2
      refine r_if_ne z10 32 dX0_type_26 (by decide) (fun c11 => ?_) (fun c11 => ?_)
      · have e := eT c11
        refine r_aload_n dX0_type_32 rfl 0 rfl ?_
        obtain ⟨p12, q13, e⟩ := bd_o e
        have k14 := kX0_typed (G := G) (b := b) (ad := ad) (h := h)  q13
        have z15 := (k14 rr).1.2.2.2
        refine r_callV (j := some 0) 0 [] (rec_sg (j := 0) (r := (RX0, TX0, 36)) rfl (by rw [E.p]; rfl)) rfl k14 (injO_1 E.p) (subO_1 E.p) getO_1 setO_1 (lw_V q836 q838 qs9 q115 q839) (by decide +kernel) rfl (Nat.le_of_ble_eq_true rfl) (Nat.le_of_ble_eq_true rfl) rfl (Nat.le_of_ble_eq_true rfl) dX0_type_33 rfl ?_
        refine r_bipush dX0_type_36 (by decide) ?_
        have eT := (r_ifo e).1
        have eF := (r_ifo e).2
        refine r_icmp_le z15 (by decide) 44 dX0_type_38 (by decide) (fun c16 => ?_) (fun c16 => ?_)
        · have e := eT c16
          refine r_aload_n dX0_type_44 rfl 0 rfl ?_
          refine r_iconst dX0_type_45 ?_
          refine r_sPI E.p 19 fP_X0_228 rfl (by decide) dX0_type_46 ?_
          refine r_rrs E.p (fun rr17 => ?_)
          refine r_aload_n dX0_type_49 rfl 0 rfl ?_
          refine r_sR E.p 6 fG_X0_117 (by decide) dX0_type_50 ?_
          refine r_iload_n dX0_type_53 rfl 1 rfl ?_
          refine r_aload_n dX0_type_54 rfl 0 rfl ?_
          obtain ⟨p18, q19, e⟩ := bd_o e
          have k20 := kX0_read (G := G) 16 (b := b) (ad := ad)  q19
          have z21 := (k20 rr17).1.2.2.2
          refine r_callV (j := some 0) 0 [] (rec_sg (j := 0) (r := (RX0, TX0, 36)) rfl (by rw [E.p]; rfl)) rfl k20 (injO_1 E.p) (subO_1 E.p) getO_1 setO_1 (lw_V q460 q462 qs7 q115 q463) (by decide +kernel) rfl (Nat.le_of_ble_eq_true rfl) (Nat.le_of_ble_eq_true rfl) rfl (Nat.le_of_ble_eq_true rfl) dX0_type_55 rfl ?_
          refine r_rrs E.p (fun rr22 => ?_)
          obtain ⟨g23, e⟩ := gd_o e
          obtain ⟨g24, e⟩ := gd_o e
          refine r_saPQ (P := [7]) E.p 6 rfl (by decide) (by decide) (by decide) sto_4 ha1 g23 (inC_p g24) dX0_type_58 ?_
          refine r_rrs E.p (fun rr25 => ?_)
          refine r_aload_n dX0_type_59 rfl 0 rfl ?_
          refine r_iconst dX0_type_60 ?_
          refine r_sPI E.p 9 fP_X0_174 rfl (by decide) dX0_type_61 ?_
          refine r_rrs E.p (fun rr26 => ?_)
          refine r_aload_n dX0_type_64 rfl 0 rfl ?_
          refine r_sR E.p 6 fG_X0_117 (by decide) dX0_type_65 ?_
          refine r_iload_n dX0_type_68 rfl 1 rfl ?_
          obtain ⟨g27, e⟩ := gd_o e
          refine r_saQ E.p 6 rfl (by decide) (by decide) (by decide) ha1 g27 dX0_type_69 ?_
          obtain ⟨g30, e⟩ := gd_o e
          obtain ⟨p28, q29, e⟩ := bd_o e
          have k31 := kX7_size (G := G) 16  q29
          have z32 := (k31 rr26.none).1.2.2.2
          refine r_callVo (j := none) 0 [] (c := 7) (rc := (RX7, TX7, 3)) rfl g30 rfl k31 (injO_1 E.p) subO_0 getO_0 setO_0 (lw_V q840 q841 q842 q124 q843) (by decide +kernel) rfl (Nat.le_of_ble_eq_true rfl) (Nat.le_of_ble_eq_true rfl) rfl (Nat.le_of_ble_eq_true rfl) dX0_type_70 rfl ?_
          cases e
          exact r_iret E.σ E.st E.rt E.r z32 dX0_type_73
        · have e := eF c16
          refine r_bipush dX0_type_41 (by decide) ?_
          cases e
          exact r_iret E.σ E.st E.rt E.r (by decide) dX0_type_43
      · have e := eF c11
        refine r_sub [] rfl ?_
        exact wX0_type_b29 E s h e
  · have e := eF c5
    refine r_bipush dX0_type_12 (by decide) ?_
    cases e
    exact r_iret E.σ E.st E.rt E.r (by decide) dX0_type_14
def fX0_isClass  (s : Sg) (a1 : Int) : Option (Int) := bd (fX0_isIn a1 0 (wr ((gI s 3) - 1))) fun p1 => some p1
theorem kX0_isClass {G : Gx}  {b : Nat} {ad : Nat → Nat} {s : Sg} {h : hS} {r : Int} {a1 : Int}  (ha1 : rI a1) (e : fX0_isClass s a1 = some (r)) : CtX G yX0_isClass cX0_isClass 2 (some .boolean) 1 25 [(0, b, ad)] [s] h [tr (some b), ti a1] (some (ti r)) [s] h := by
  refine CtX.of (by decide) (Nat.le_of_ble_eq_true rfl) [(0, tr (some b)), (1, ti a1)] rfl ?_
  have E : EndX (G, 2, [(0, b, ad)], h, [s], h, (some .boolean), (some (ti r)), yX0_isClass.name) [(0, b, ad)] 2 (some .boolean) (some (ti r)) [s] h := ⟨rfl, rfl, rfl, rfl, rfl, rfl⟩
  unfold fX0_isClass at e
  refine r_rrs E.p (fun rr => ?_)
  refine r_iload_n dX0_isClass_0 rfl 1 rfl ?_
  refine r_i2l ha1 dX0_isClass_1 ?_
  refine r_lconst 0 dX0_isClass_2 rfl ?_
  refine r_aload_n dX0_isClass_3 rfl 0 rfl ?_
  refine r_sI E.p 3 fG_X0_238 (by decide) dX0_isClass_4 ?_
  refine r_iconst dX0_isClass_7 ?_
  refine r_isub dX0_isClass_8 ?_
  refine r_i2l (wr_r _) dX0_isClass_9 ?_
  obtain ⟨p1, q2, e⟩ := bd_o e
  have k3 := kX0_isIn (G := G) (h := h) (rI_L ha1) (by decide) (rI_L (wr_r _)) q2
  have z4 := (k3 rr.none).1.2.2.2
  refine r_callS (j := none) 3 [tl a1, tl 0, tl (wr ((gI s 3) - 1))] k3 (injO_1 E.p) subO_0 getO_0 setO_0 (lw_S q397 q398 q115 q399) (by decide +kernel) rfl (Nat.le_of_ble_eq_true rfl) (Nat.le_of_ble_eq_true rfl) rfl (Nat.le_of_ble_eq_true rfl) dX0_isClass_10 rfl ?_
  cases e
  exact r_zret E.σ E.st E.rt E.r z4 dX0_isClass_13
def fX0_isSlot_b26 (s : Sg) (k0 : Int) : Option (Int) := gd (k0 = 0 ∨ k0 = 1) (some k0)
theorem wX0_isSlot_b26 {N : Nx} {b : Nat} {ad : Nat → Nat} {s : Sg} {h : hS} {r : Int} (E : EndX N [(0, b, ad)] 2 (some .boolean) (some (ti r)) [s] h)  (k0 : Int) (hk0 : rI k0) (e : fX0_isSlot_b26 s k0 = some (r)) : AtPc cX0_isSlot RX0 1 25 N [s] h 26 [] [ti k0] := by
  unfold fX0_isSlot_b26 at e
  refine r_rrs E.p (fun rr => ?_)
  obtain ⟨g1, e⟩ := gd_o e
  cases e
  exact r_zret E.σ E.st E.rt E.r g1 dX0_isSlot_26
def fX0_isSlot_b25 (s : Sg) : Option (Int) := fX0_isSlot_b26 s 0
theorem wX0_isSlot_b25 {N : Nx} {b : Nat} {ad : Nat → Nat} {s : Sg} {h : hS} {r : Int} (E : EndX N [(0, b, ad)] 2 (some .boolean) (some (ti r)) [s] h)   (e : fX0_isSlot_b25 s = some (r)) : AtPc cX0_isSlot RX0 1 25 N [s] h 25 [] [] := by
  unfold fX0_isSlot_b25 at e
  refine r_rrs E.p (fun rr => ?_)
  refine r_iconst dX0_isSlot_25 ?_
  exact wX0_isSlot_b26 E 0 (by decide) e
def fX0_isSlot  (s : Sg) (a1 : Int) : Option (Int) := bd (fX0_isIn a1 0 3) fun p1 => if p1 = 0 then fX0_isSlot_b25 s else gd (inb a1 4) (ifN (gQ s 6 a1) (fX0_isSlot_b25 s) (fun _ => fX0_isSlot_b26 s 1))
theorem kX0_isSlot {G : Gx}  {b : Nat} {ad : Nat → Nat} {s : Sg} {h : hS} {r : Int} {a1 : Int}  (ha1 : rI a1) (e : fX0_isSlot s a1 = some (r)) : CtX G yX0_isSlot cX0_isSlot 2 (some .boolean) 1 25 [(0, b, ad)] [s] h [tr (some b), ti a1] (some (ti r)) [s] h := by
  refine CtX.of (by decide) (Nat.le_of_ble_eq_true rfl) [(0, tr (some b)), (1, ti a1)] rfl ?_
  have E : EndX (G, 2, [(0, b, ad)], h, [s], h, (some .boolean), (some (ti r)), yX0_isSlot.name) [(0, b, ad)] 2 (some .boolean) (some (ti r)) [s] h := ⟨rfl, rfl, rfl, rfl, rfl, rfl⟩
  unfold fX0_isSlot at e
  refine r_rrs E.p (fun rr => ?_)
  refine r_iload_n dX0_isSlot_0 rfl 1 rfl ?_
  refine r_i2l ha1 dX0_isSlot_1 ?_
  refine r_lconst 0 dX0_isSlot_2 rfl ?_
  refine r_ldc2 3 q835 (by decide) dX0_isSlot_3 ?_
  obtain ⟨p1, q2, e⟩ := bd_o e
  have k3 := kX0_isIn (G := G) (h := h) (rI_L ha1) (by decide) (by decide) q2
  have z4 := (k3 rr.none).1.2.2.2
  refine r_callS (j := none) 3 [tl a1, tl 0, tl 3] k3 (injO_1 E.p) subO_0 getO_0 setO_0 (lw_S q397 q398 q115 q399) (by decide +kernel) rfl (Nat.le_of_ble_eq_true rfl) (Nat.le_of_ble_eq_true rfl) rfl (Nat.le_of_ble_eq_true rfl) dX0_isSlot_6 rfl ?_
  have eT := (r_ifo e).1
  have eF := (r_ifo e).2
  refine r_if_eq (rI_z z4) 25 dX0_isSlot_9 (by decide) (fun c5 => ?_) (fun c5 => ?_)
  · have e := eT c5
    refine r_sub [] rfl ?_
    exact wX0_isSlot_b25 E e
  · have e := eF c5
    refine r_aload_n dX0_isSlot_12 rfl 0 rfl ?_
    refine r_sR E.p 6 fG_X0_117 (by decide) dX0_isSlot_13 ?_
    refine r_iload_n dX0_isSlot_16 rfl 1 rfl ?_
    obtain ⟨g6, e⟩ := gd_o e
    refine r_saQ E.p 6 rfl (by decide) (by decide) (by decide) ha1 g6 dX0_isSlot_17 ?_
    have eT := (r_ifno e).1
    have eF := (r_ifno e).2
    refine r_ifnull 25 dX0_isSlot_18 (by decide) (fun c7 => ?_) (fun x8 c7 => ?_)
    · have e := eT c7
      refine r_sub [] rfl ?_
      exact wX0_isSlot_b25 E e
    · have e := eF x8 c7
      refine r_iconst dX0_isSlot_21 ?_
      refine r_goto 26 dX0_isSlot_22 (by decide) ?_
      refine r_sub [] rfl ?_
      exact wX0_isSlot_b26 E 1 (by decide) e
theorem fP_X9_9i : FldP RX9 9 [(9, 0)] .int true := List.forall_mem_cons.mpr ⟨⟨RX9, TX9, 2, "DictProof$Goal", tyX9, rfl, in_X9, by decide, q868, Or.inl rfl, tyX9_ok, nmX9, rfl, Or.inr ⟨rfl, rfl, rfl⟩, by decide⟩, fun _ h => absurd h List.not_mem_nil⟩
theorem fP_X9_15i : FldP RX9 15 [(9, 1)] (.object "DictProof$Term") true := List.forall_mem_cons.mpr ⟨⟨RX9, TX9, 2, "DictProof$Goal", tyX9, rfl, in_X9, by decide, q870, Or.inl rfl, tyX9_ok, nmX9, rfl, Or.inr ⟨rfl, rfl, rfl⟩, by decide⟩, fun _ h => absurd h List.not_mem_nil⟩
def fX9_init  (h : hS) (o0 : Option Nat) (a1 : Int) (o2 : Option Nat) : Option (hS) := gd (¬ o0 = none) (bd (hW h o0 [(9, 0)] (vi a1)) fun h2 => bd (hW h2 o0 [(9, 1)] (vq o2)) fun h5 => some h5)
theorem kX9_init {G : Gx}  {h' : hS} {h : hS} {o0 : Option Nat} {a1 : Int} {o2 : Option Nat}  (ha1 : rI a1) (e : fX9_init h o0 a1 o2 = some (h')) : CtX G yX9_init cX9_init 3 none 1 20 [] [] h [tr o0, ti a1, tr o2] none [] h' := by
  refine CtX.of (by decide) (Nat.le_of_ble_eq_true rfl) [(0, tr o0), (1, ti a1), (2, tr o2)] rfl ?_
  have E : EndX (G, 3, [], h, [], h', none, none, yX9_init.name) [] 3 none none [] h' := ⟨rfl, rfl, rfl, rfl, rfl, rfl⟩
  unfold fX9_init at e
  refine r_rrs E.p (fun rr => ?_)
  refine r_aload_n dX9_init_0 rfl 0 rfl ?_
  obtain ⟨g1, e⟩ := gd_o e
  refine r_objInitO g1 q867 q150 q151 (Nat.le_of_ble_eq_true rfl) (Nat.le_of_ble_eq_true rfl) (Nat.le_of_ble_eq_true rfl) dX9_init_1 ?_
  refine r_aload_n dX9_init_4 rfl 0 rfl ?_
  refine r_iload_n dX9_init_5 rfl 1 rfl ?_
  obtain ⟨h2, q3, e⟩ := bd_o e
  refine r_put (v := vi a1) fP_X9_9i (by first | exact fun q => absurd q (by decide) | exact fun _ => rfl) ha1 q3 dX9_init_6 ?_
  refine r_rrs E.p (fun rr4 => ?_)
  refine r_aload_n dX9_init_9 rfl 0 rfl ?_
  refine r_aload_n dX9_init_10 rfl 2 rfl ?_
  obtain ⟨h5, q6, e⟩ := bd_o e
  refine r_put (v := vq o2) fP_X9_15i (by first | exact fun q => absurd q (by decide) | exact fun _ => rfl) trivial q6 dX9_init_11 ?_
  refine r_rrs E.p (fun rr7 => ?_)
  cases e
  exact r_vret E.σ E.st E.rt E.r dX9_init_14
theorem fP_X10_9i : FldP RX10 9 [(10, 0)] (.object "DictProof$Goal") true := List.forall_mem_cons.mpr ⟨⟨RX10, TX10, 4, "DictProof$Proof", tyX10, rfl, in_X10, by decide, q891, Or.inl rfl, tyX10_ok, nmX10, rfl, Or.inr ⟨rfl, rfl, rfl⟩, by decide⟩, fun _ h => absurd h List.not_mem_nil⟩
theorem fP_X10_15i : FldP RX10 15 [(10, 1)] .int true := List.forall_mem_cons.mpr ⟨⟨RX10, TX10, 4, "DictProof$Proof", tyX10, rfl, in_X10, by decide, q892, Or.inl rfl, tyX10_ok, nmX10, rfl, Or.inr ⟨rfl, rfl, rfl⟩, by decide⟩, fun _ h => absurd h List.not_mem_nil⟩
theorem fP_X10_19i : FldP RX10 19 [(10, 2)] (.object "DictProof$Instance") true := List.forall_mem_cons.mpr ⟨⟨RX10, TX10, 4, "DictProof$Proof", tyX10, rfl, in_X10, by decide, q894, Or.inl rfl, tyX10_ok, nmX10, rfl, Or.inr ⟨rfl, rfl, rfl⟩, by decide⟩, fun _ h => absurd h List.not_mem_nil⟩
theorem fP_X10_23i : FldP RX10 23 [(10, 3)] (.array (.object "DictProof$Proof")) true := List.forall_mem_cons.mpr ⟨⟨RX10, TX10, 4, "DictProof$Proof", tyX10, rfl, in_X10, by decide, q895, Or.inl rfl, tyX10_ok, nmX10, rfl, Or.inr ⟨rfl, rfl, rfl⟩, by decide⟩, fun _ h => absurd h List.not_mem_nil⟩
def fX10_init  (h : hS) (o0 : Option Nat) (o1 : Option Nat) (a2 : Int) (o3 : Option Nat) (o4 : Option Nat) : Option (hS) := gd (¬ o0 = none) (bd (hW h o0 [(10, 0)] (vq o1)) fun h2 => bd (hW h2 o0 [(10, 1)] (vi a2)) fun h5 => bd (hW h5 o0 [(10, 2)] (vq o3)) fun h8 => bd (hW h8 o0 [(10, 3)] (vq o4)) fun h11 => some h11)
theorem kX10_init {G : Gx}  {h' : hS} {h : hS} {o0 : Option Nat} {o1 : Option Nat} {a2 : Int} {o3 : Option Nat} {o4 : Option Nat}  (ha2 : rI a2) (e : fX10_init h o0 o1 a2 o3 o4 = some (h')) : CtX G yX10_init cX10_init 5 none 1 20 [] [] h [tr o0, tr o1, ti a2, tr o3, tr o4] none [] h' := by
  refine CtX.of (by decide) (Nat.le_of_ble_eq_true rfl) [(0, tr o0), (1, tr o1), (2, ti a2), (3, tr o3), (4, tr o4)] rfl ?_
  have E : EndX (G, 5, [], h, [], h', none, none, yX10_init.name) [] 5 none none [] h' := ⟨rfl, rfl, rfl, rfl, rfl, rfl⟩
  unfold fX10_init at e
  refine r_rrs E.p (fun rr => ?_)
  refine r_aload_n dX10_init_0 rfl 0 rfl ?_
  obtain ⟨g1, e⟩ := gd_o e
  refine r_objInitO g1 q890 q150 q151 (Nat.le_of_ble_eq_true rfl) (Nat.le_of_ble_eq_true rfl) (Nat.le_of_ble_eq_true rfl) dX10_init_1 ?_
  refine r_aload_n dX10_init_4 rfl 0 rfl ?_
  refine r_aload_n dX10_init_5 rfl 1 rfl ?_
  obtain ⟨h2, q3, e⟩ := bd_o e
  refine r_put (v := vq o1) fP_X10_9i (by first | exact fun q => absurd q (by decide) | exact fun _ => rfl) trivial q3 dX10_init_6 ?_
  refine r_rrs E.p (fun rr4 => ?_)
  refine r_aload_n dX10_init_9 rfl 0 rfl ?_
  refine r_iload_n dX10_init_10 rfl 2 rfl ?_
  obtain ⟨h5, q6, e⟩ := bd_o e
  refine r_put (v := vi a2) fP_X10_15i (by first | exact fun q => absurd q (by decide) | exact fun _ => rfl) ha2 q6 dX10_init_11 ?_
  refine r_rrs E.p (fun rr7 => ?_)
  refine r_aload_n dX10_init_14 rfl 0 rfl ?_
  refine r_aload_n dX10_init_15 rfl 3 rfl ?_
  obtain ⟨h8, q9, e⟩ := bd_o e
  refine r_put (v := vq o3) fP_X10_19i (by first | exact fun q => absurd q (by decide) | exact fun _ => rfl) trivial q9 dX10_init_16 ?_
  refine r_rrs E.p (fun rr10 => ?_)
  refine r_aload_n dX10_init_19 rfl 0 rfl ?_
  refine r_aload dX10_init_20 4 rfl ?_
  obtain ⟨h11, q12, e⟩ := bd_o e
  refine r_put (v := vq o4) fP_X10_23i (by first | exact fun q => absurd q (by decide) | exact fun _ => rfl) trivial q12 dX10_init_22 ?_
  refine r_rrs E.p (fun rr13 => ?_)
  cases e
  exact r_vret E.σ E.st E.rt E.r dX10_init_25
def fX1_isUsed  (o0 : Option Nat) : Option (Int) := some 1
theorem kX1_isUsed {G : Gx}  {h : hS} {r : Int} {o0 : Option Nat}   (e : fX1_isUsed o0 = some (r)) : CtX G yX1_isUsed cX1_isUsed 1 (some .boolean) 0 0 [] [] h [tr o0] (some (ti r)) [] h := by
  refine CtX.of (by decide) (Nat.le_of_ble_eq_true rfl) [(0, tr o0)] rfl ?_
  have E : EndX (G, 1, [], h, [], h, (some .boolean), (some (ti r)), yX1_isUsed.name) [] 1 (some .boolean) (some (ti r)) [] h := ⟨rfl, rfl, rfl, rfl, rfl, rfl⟩
  unfold fX1_isUsed at e
  refine r_rrs E.p (fun rr => ?_)
  refine r_iconst dX1_isUsed_0 ?_
  cases e
  exact r_zret E.σ E.st E.rt E.r (Or.inr rfl) dX1_isUsed_1
def fX3_isUsed_b12 (h : hS) (k0 : Int) : Option (Int) := gd (k0 = 0 ∨ k0 = 1) (some k0)
theorem wX3_isUsed_b12 {N : Nx} {h : hS} {r : Int} (E : EndX N [] 1 (some .boolean) (some (ti r)) [] h)  (k0 : Int) (hk0 : rI k0) (e : fX3_isUsed_b12 h k0 = some (r)) : AtPc cX3_isUsed RX3 1 20 N [] h 12 [] [ti k0] := by
  unfold fX3_isUsed_b12 at e
  refine r_rrs E.p (fun rr => ?_)
  obtain ⟨g1, e⟩ := gd_o e
  cases e
  exact r_zret E.σ E.st E.rt E.r g1 dX3_isUsed_12
def fX3_isUsed  (h : hS) (o0 : Option Nat) : Option (Int) := gd (hC h o0 = some 3) (bd (fX1_isUsed o0) fun p1 => if ¬ p1 = 0 then fX3_isUsed_b12 h 0 else fX3_isUsed_b12 h 1)
theorem kX3_isUsed {G : Gx}  {h : hS} {r : Int} {o0 : Option Nat}   (e : fX3_isUsed h o0 = some (r)) : CtX G yX3_isUsed cX3_isUsed 1 (some .boolean) 1 20 [] [] h [tr o0] (some (ti r)) [] h := by
  refine CtX.of (by decide) (Nat.le_of_ble_eq_true rfl) [(0, tr o0)] rfl ?_
  have E : EndX (G, 1, [], h, [], h, (some .boolean), (some (ti r)), yX3_isUsed.name) [] 1 (some .boolean) (some (ti r)) [] h := ⟨rfl, rfl, rfl, rfl, rfl, rfl⟩
  unfold fX3_isUsed at e
  refine r_rrs E.p (fun rr => ?_)
  refine r_aload_n dX3_isUsed_0 rfl 0 rfl ?_
  obtain ⟨g3, e⟩ := gd_o e
  obtain ⟨p1, q2, e⟩ := bd_o e
  have k4 := kX1_isUsed (G := G) (h := h)  q2
  have z5 := (k4 rr).1.2.2.2
  refine r_callSU (j := none) 0 [] (c := 3) (rc := (RX3, TX3, 6)) rfl g3 (by decide) k4 (injO_0 E.p) subO_0 getO_0 setO_0 (lw_SU q917 q912 q220 q910 q116 q918) (by decide +kernel) rfl (Nat.le_of_ble_eq_true rfl) (Nat.le_of_ble_eq_true rfl) rfl (Nat.le_of_ble_eq_true rfl) dX3_isUsed_1 rfl ?_
  have eT := (r_ifo e).1
  have eF := (r_ifo e).2
  refine r_if_ne (rI_z z5) 11 dX3_isUsed_4 (by decide) (fun c6 => ?_) (fun c6 => ?_)
  · have e := eT c6
    refine r_iconst dX3_isUsed_11 ?_
    refine r_sub [] rfl ?_
    exact wX3_isUsed_b12 E 0 (by decide) e
  · have e := eF c6
    refine r_iconst dX3_isUsed_7 ?_
    refine r_goto 12 dX3_isUsed_8 (by decide) ?_
    refine r_sub [] rfl ?_
    exact wX3_isUsed_b12 E 1 (by decide) e
theorem fG_X1_18 : FldG RX1 18 [(1, 5), (2, 5), (3, 5), (4, 5), (5, 5)] := List.forall_mem_cons.mpr ⟨⟨RX1, TX1, 6, "DictProof$Instance", rfl, in_X1, by decide, q179, Or.inl rfl⟩, List.forall_mem_cons.mpr ⟨⟨RX2, TX2, 6, "DictProof$Instance", rfl, in_X2, by decide, q179, Or.inl rfl⟩, List.forall_mem_cons.mpr ⟨⟨RX3, TX3, 6, "DictProof$Instance", rfl, in_X3, by decide, q179, Or.inl rfl⟩, List.forall_mem_cons.mpr ⟨⟨RX4, TX4, 6, "DictProof$Instance", rfl, in_X4, by decide, q179, Or.inl rfl⟩, List.forall_mem_cons.mpr ⟨⟨RX5, TX5, 6, "DictProof$Instance", rfl, in_X5, by decide, q179, Or.inl rfl⟩, fun _ h => absurd h List.not_mem_nil⟩⟩⟩⟩⟩
theorem fG_X1_22 : FldG RX1 22 [(1, 2), (2, 2), (3, 2), (4, 2), (5, 2)] := List.forall_mem_cons.mpr ⟨⟨RX1, TX1, 6, "DictProof$Instance", rfl, in_X1, by decide, q172, Or.inl rfl⟩, List.forall_mem_cons.mpr ⟨⟨RX2, TX2, 6, "DictProof$Instance", rfl, in_X2, by decide, q172, Or.inl rfl⟩, List.forall_mem_cons.mpr ⟨⟨RX3, TX3, 6, "DictProof$Instance", rfl, in_X3, by decide, q172, Or.inl rfl⟩, List.forall_mem_cons.mpr ⟨⟨RX4, TX4, 6, "DictProof$Instance", rfl, in_X4, by decide, q172, Or.inl rfl⟩, List.forall_mem_cons.mpr ⟨⟨RX5, TX5, 6, "DictProof$Instance", rfl, in_X5, by decide, q172, Or.inl rfl⟩, fun _ h => absurd h List.not_mem_nil⟩⟩⟩⟩⟩
def fX1_isSound_b23 (h : hS) (k0 : Int) : Option (Int) := gd (k0 = 0 ∨ k0 = 1) (some k0)
theorem wX1_isSound_b23 {N : Nx} {h : hS} {r : Int} (E : EndX N [] 1 (some .boolean) (some (ti r)) [] h)  (k0 : Int) (hk0 : rI k0) (e : fX1_isSound_b23 h k0 = some (r)) : AtPc cX1_isSound RX1 2 40 N [] h 23 [] [ti k0] := by
  unfold fX1_isSound_b23 at e
  refine r_rrs E.p (fun rr => ?_)
  obtain ⟨g1, e⟩ := gd_o e
  cases e
  exact r_zret E.σ E.st E.rt E.r g1 dX1_isSound_23
def fX1_isSound_b18 (h : hS) : Option (Int) := fX1_isSound_b23 h 1
theorem wX1_isSound_b18 {N : Nx} {h : hS} {r : Int} (E : EndX N [] 1 (some .boolean) (some (ti r)) [] h)   (e : fX1_isSound_b18 h = some (r)) : AtPc cX1_isSound RX1 2 40 N [] h 18 [] [] := by
  unfold fX1_isSound_b18 at e
  refine r_rrs E.p (fun rr => ?_)
  refine r_iconst dX1_isSound_18 ?_
  refine r_goto 23 dX1_isSound_19 (by decide) ?_
  exact wX1_isSound_b23 E 1 (by decide) e
def fX1_isSound  (h : hS) (o0 : Option Nat) : Option (Int) := bd (hI h o0 [(1, 5), (2, 5), (3, 5), (4, 5), (5, 5)]) fun v1 => if v1 = 0 then fX1_isSound_b18 h else bd (hQ h o0 [(1, 2), (2, 2), (3, 2), (4, 2), (5, 2)]) fun v4 => gd (hC h v4 = some 7) (bd (fX7_variable h v4) fun p6 => if ¬ p6 = (-1) then fX1_isSound_b23 h 0 else fX1_isSound_b18 h)
theorem kX1_isSound {G : Gx}  {h : hS} {r : Int} {o0 : Option Nat}   (e : fX1_isSound h o0 = some (r)) : CtX G yX1_isSound cX1_isSound 1 (some .boolean) 2 40 [] [] h [tr o0] (some (ti r)) [] h := by
  refine CtX.of (by decide) (Nat.le_of_ble_eq_true rfl) [(0, tr o0)] rfl ?_
  have E : EndX (G, 1, [], h, [], h, (some .boolean), (some (ti r)), yX1_isSound.name) [] 1 (some .boolean) (some (ti r)) [] h := ⟨rfl, rfl, rfl, rfl, rfl, rfl⟩
  unfold fX1_isSound at e
  refine r_rrs E.p (fun rr => ?_)
  refine r_aload_n dX1_isSound_0 rfl 0 rfl ?_
  obtain ⟨v1, q2, e⟩ := bd_o e
  refine r_getI fG_X1_18 q2 dX1_isSound_1 ?_
  have eT := (r_ifo e).1
  have eF := (r_ifo e).2
  refine r_if_eq (hI_r rr q2) 18 dX1_isSound_4 (by decide) (fun c3 => ?_) (fun c3 => ?_)
  · have e := eT c3
    refine r_sub [] rfl ?_
    exact wX1_isSound_b18 E e
  · have e := eF c3
    refine r_aload_n dX1_isSound_7 rfl 0 rfl ?_
    obtain ⟨v4, q5, e⟩ := bd_o e
    refine r_getQ fG_X1_22 q5 dX1_isSound_8 ?_
    obtain ⟨g8, e⟩ := gd_o e
    obtain ⟨p6, q7, e⟩ := bd_o e
    have k9 := kX7_variable (G := G)  q7
    have z10 := (k9 rr).1.2.2.2
    refine r_callVo (j := none) 0 [] (c := 7) (rc := (RX7, TX7, 3)) rfl g8 rfl k9 (injO_0 E.p) subO_0 getO_0 setO_0 (lw_V q930 q515 q516 q124 q517) (by decide +kernel) rfl (Nat.le_of_ble_eq_true rfl) (Nat.le_of_ble_eq_true rfl) rfl (Nat.le_of_ble_eq_true rfl) dX1_isSound_11 rfl ?_
    refine r_iconst dX1_isSound_14 ?_
    have eT := (r_ifo e).1
    have eF := (r_ifo e).2
    refine r_icmp_ne z10 (by decide) 22 dX1_isSound_15 (by decide) (fun c11 => ?_) (fun c11 => ?_)
    · have e := eT c11
      refine r_iconst dX1_isSound_22 ?_
      refine r_sub [] rfl ?_
      exact wX1_isSound_b23 E 0 (by decide) e
    · have e := eF c11
      refine r_sub [] rfl ?_
      exact wX1_isSound_b18 E e
theorem fG_X0_248 : FldG RX0 248 [(1, 1), (2, 1), (3, 1), (4, 1), (5, 1)] := List.forall_mem_cons.mpr ⟨⟨RX1, TX1, 6, "DictProof$Instance", rfl, in_X1, by decide, q171, Or.inl rfl⟩, List.forall_mem_cons.mpr ⟨⟨RX2, TX2, 6, "DictProof$Instance", rfl, in_X2, by decide, q171, Or.inl rfl⟩, List.forall_mem_cons.mpr ⟨⟨RX3, TX3, 6, "DictProof$Instance", rfl, in_X3, by decide, q171, Or.inl rfl⟩, List.forall_mem_cons.mpr ⟨⟨RX4, TX4, 6, "DictProof$Instance", rfl, in_X4, by decide, q171, Or.inl rfl⟩, List.forall_mem_cons.mpr ⟨⟨RX5, TX5, 6, "DictProof$Instance", rfl, in_X5, by decide, q171, Or.inl rfl⟩, fun _ h => absurd h List.not_mem_nil⟩⟩⟩⟩⟩
theorem fG_X0_293 : FldG RX0 293 [(9, 0)] := List.forall_mem_cons.mpr ⟨⟨RX9, TX9, 2, "DictProof$Goal", rfl, in_X9, by decide, q869, Or.inl rfl⟩, fun _ h => absurd h List.not_mem_nil⟩
def D2_isUsed (h : hS) (o : Option Nat)  : Option (Int) := if hC h o = some 1 then fX1_isUsed o else if hC h o = some 2 then fX1_isUsed o else if hC h o = some 3 then fX3_isUsed h o else if hC h o = some 4 then fX1_isUsed o else if hC h o = some 5 then fX1_isUsed o else none
theorem zD2_isUsed {G : Gx} {h : hS} {o : Option Nat}  {p : Int}  (q : D2_isUsed h o  = some p) (rr : RR [] [] h) : rtOK (some .boolean) (some (ti p)) := by
  unfold D2_isUsed at q
  split at q
  · exact ((kX1_isUsed (G := G) (h := h)  q) rr).1.2.2.2
  split at q
  · exact ((kX1_isUsed (G := G) (h := h)  q) rr).1.2.2.2
  split at q
  · exact ((kX3_isUsed (G := G)  q) rr).1.2.2.2
  split at q
  · exact ((kX1_isUsed (G := G) (h := h)  q) rr).1.2.2.2
  split at q
  · exact ((kX1_isUsed (G := G) (h := h)  q) rr).1.2.2.2
  cases q
theorem rD_X0_296 {N : Nx} {cc : ByteArray} {fR lO : Nat} {σs : List Sg} {h : hS} {pc : Nat} {lv : List (Nat × Tv)} {stk stk0 stk1 : List Tv} {o : Option Nat}  {p : Int}  (q : D2_isUsed h o  = some p) (hinj : injO N) (hfr : 2 ≤ fR) (hlo : 40 ≤ lO) (hstk : stk0 = [].reverse ++ tr o :: stk) (hroom : (stk.map tc).sum ≤ 8) (hd : decode cc pc = .ok (.invokevirtual 296, 3)) (hs1 : ti p :: stk = stk1) (k : AtPc cc RX0 fR lO N σs h (pc + 3) lv stk1) : AtPc cc RX0 fR lO N σs h pc lv stk0 := by
  unfold D2_isUsed at q
  split at q
  · rename_i g1; exact r_callVo (j := none) 0 [] (c := 1) (rc := (RX1, TX1, 6)) rfl g1 rfl (kX1_isUsed (G := nG N) (h := h)  q) hinj subO_0 getO_0 setO_0 (lw_V q909 q910 q911 q116 q918) (by decide +kernel) rfl (by omega) (by omega) hstk hroom hd hs1 k
  split at q
  · rename_i g1; exact r_callU (j := none) 0 [] (c := 2) (rc := (RX2, TX2, 6)) rfl g1 (x := ⟨"DictProof$Instance", "isUsed", "()Z"⟩) (owner := "DictProof$Instance") rfl (kX1_isUsed (G := nG N) (h := h)  q) hinj subO_0 getO_0 setO_0 (lw_U q909 q912 q920 q910 q116 q918) (by decide +kernel) rfl (by omega) (by omega) hstk hroom hd hs1 k
  split at q
  · rename_i g1; exact r_callO (j := none) 0 [] (c := 3) (rc := (RX3, TX3, 6)) rfl g1 (x := ⟨"DictProof$Instance", "isUsed", "()Z"⟩) (owner := "DictProof$Instance") q918 (kX3_isUsed (G := nG N)  q) hinj subO_0 getO_0 setO_0 (lw_O q909 q912 q910 q914 q915 q118 q916) (by decide +kernel) rfl (by omega) (by omega) hstk hroom hd hs1 k
  split at q
  · rename_i g1; exact r_callU (j := none) 0 [] (c := 4) (rc := (RX4, TX4, 6)) rfl g1 (x := ⟨"DictProof$Instance", "isUsed", "()Z"⟩) (owner := "DictProof$Instance") rfl (kX1_isUsed (G := nG N) (h := h)  q) hinj subO_0 getO_0 setO_0 (lw_U q909 q912 q913 q910 q116 q918) (by decide +kernel) rfl (by omega) (by omega) hstk hroom hd hs1 k
  split at q
  · rename_i g1; exact r_callU (j := none) 0 [] (c := 5) (rc := (RX5, TX5, 6)) rfl g1 (x := ⟨"DictProof$Instance", "isUsed", "()Z"⟩) (owner := "DictProof$Instance") rfl (kX1_isUsed (G := nG N) (h := h)  q) hinj subO_0 getO_0 setO_0 (lw_U q909 q912 q919 q910 q116 q918) (by decide +kernel) rfl (by omega) (by omega) hstk hroom hd hs1 k
  cases q
def D3_isSound (h : hS) (o : Option Nat)  : Option (Int) := if hC h o = some 1 then fX1_isSound h o else if hC h o = some 2 then fX1_isSound h o else if hC h o = some 3 then fX1_isSound h o else if hC h o = some 4 then fX1_isSound h o else if hC h o = some 5 then fX1_isSound h o else none
theorem zD3_isSound {G : Gx} {h : hS} {o : Option Nat}  {p : Int}  (q : D3_isSound h o  = some p) (rr : RR [] [] h) : rtOK (some .boolean) (some (ti p)) := by
  unfold D3_isSound at q
  split at q
  · exact ((kX1_isSound (G := G)  q) rr).1.2.2.2
  split at q
  · exact ((kX1_isSound (G := G)  q) rr).1.2.2.2
  split at q
  · exact ((kX1_isSound (G := G)  q) rr).1.2.2.2
  split at q
  · exact ((kX1_isSound (G := G)  q) rr).1.2.2.2
  split at q
  · exact ((kX1_isSound (G := G)  q) rr).1.2.2.2
  cases q
theorem rD_X0_300 {N : Nx} {cc : ByteArray} {fR lO : Nat} {σs : List Sg} {h : hS} {pc : Nat} {lv : List (Nat × Tv)} {stk stk0 stk1 : List Tv} {o : Option Nat}  {p : Int}  (q : D3_isSound h o  = some p) (hinj : injO N) (hfr : 3 ≤ fR) (hlo : 60 ≤ lO) (hstk : stk0 = [].reverse ++ tr o :: stk) (hroom : (stk.map tc).sum ≤ 8) (hd : decode cc pc = .ok (.invokevirtual 300, 3)) (hs1 : ti p :: stk = stk1) (k : AtPc cc RX0 fR lO N σs h (pc + 3) lv stk1) : AtPc cc RX0 fR lO N σs h pc lv stk0 := by
  unfold D3_isSound at q
  split at q
  · rename_i g1; exact r_callVo (j := none) 0 [] (c := 1) (rc := (RX1, TX1, 6)) rfl g1 rfl (kX1_isSound (G := nG N)  q) hinj subO_0 getO_0 setO_0 (lw_V q921 q922 q923 q116 q929) (by decide +kernel) rfl (by omega) (by omega) hstk hroom hd hs1 k
  split at q
  · rename_i g1; exact r_callU (j := none) 0 [] (c := 2) (rc := (RX2, TX2, 6)) rfl g1 (x := ⟨"DictProof$Instance", "isSound", "()Z"⟩) (owner := "DictProof$Instance") rfl (kX1_isSound (G := nG N)  q) hinj subO_0 getO_0 setO_0 (lw_U q921 q924 q928 q922 q116 q929) (by decide +kernel) rfl (by omega) (by omega) hstk hroom hd hs1 k
  split at q
  · rename_i g1; exact r_callU (j := none) 0 [] (c := 3) (rc := (RX3, TX3, 6)) rfl g1 (x := ⟨"DictProof$Instance", "isSound", "()Z"⟩) (owner := "DictProof$Instance") rfl (kX1_isSound (G := nG N)  q) hinj subO_0 getO_0 setO_0 (lw_U q921 q924 q926 q922 q116 q929) (by decide +kernel) rfl (by omega) (by omega) hstk hroom hd hs1 k
  split at q
  · rename_i g1; exact r_callU (j := none) 0 [] (c := 4) (rc := (RX4, TX4, 6)) rfl g1 (x := ⟨"DictProof$Instance", "isSound", "()Z"⟩) (owner := "DictProof$Instance") rfl (kX1_isSound (G := nG N)  q) hinj subO_0 getO_0 setO_0 (lw_U q921 q924 q925 q922 q116 q929) (by decide +kernel) rfl (by omega) (by omega) hstk hroom hd hs1 k
  split at q
  · rename_i g1; exact r_callU (j := none) 0 [] (c := 5) (rc := (RX5, TX5, 6)) rfl g1 (x := ⟨"DictProof$Instance", "isSound", "()Z"⟩) (owner := "DictProof$Instance") rfl (kX1_isSound (G := nG N)  q) hinj subO_0 getO_0 setO_0 (lw_U q921 q924 q927 q922 q116 q929) (by decide +kernel) rfl (by omega) (by omega) hstk hroom hd hs1 k
  cases q
theorem fG_X0_303 : FldG RX0 303 [(9, 1)] := List.forall_mem_cons.mpr ⟨⟨RX9, TX9, 2, "DictProof$Goal", rfl, in_X9, by decide, q871, Or.inl rfl⟩, fun _ h => absurd h List.not_mem_nil⟩
def fX0_isMeant_b48 (h : hS) (k0 : Int) : Option (Int × hS) := gd (k0 = 0 ∨ k0 = 1) (some (k0, h))
theorem wX0_isMeant_b48 {N : Nx} {b : Nat} {ad : Nat → Nat} {s : Sg} {h' : hS} {r : Int} (E : EndX N [(0, b, ad)] 3 (some .boolean) (some (ti r)) [s] h')  (h : hS) (k0 : Int) (hk0 : rI k0) (e : fX0_isMeant_b48 h k0 = some (r, h')) : AtPc cX0_isMeant RX0 34 782 N [s] h 48 [] [ti k0] := by
  unfold fX0_isMeant_b48 at e
  refine r_rrs E.p (fun rr => ?_)
  obtain ⟨g1, e⟩ := gd_o e
  cases e
  exact r_zret E.σ E.st E.rt E.r g1 dX0_isMeant_48
def fX0_isMeant_b47 (h : hS) : Option (Int × hS) := fX0_isMeant_b48 h 0
theorem wX0_isMeant_b47 {N : Nx} {b : Nat} {ad : Nat → Nat} {s : Sg} {h' : hS} {r : Int} (E : EndX N [(0, b, ad)] 3 (some .boolean) (some (ti r)) [s] h')  (h : hS) (e : fX0_isMeant_b47 h = some (r, h')) : AtPc cX0_isMeant RX0 34 782 N [s] h 47 [] [] := by
  unfold fX0_isMeant_b47 at e
  refine r_rrs E.p (fun rr => ?_)
  refine r_iconst dX0_isMeant_47 ?_
  exact wX0_isMeant_b48 E h 0 (by decide) e
def fX0_isMeant  (h : hS) (o1 : Option Nat) (o2 : Option Nat) : Option (Int × hS) := bd (hI h o1 [(1, 1), (2, 1), (3, 1), (4, 1), (5, 1)]) fun v1 => bd (hI h o2 [(9, 0)]) fun v3 => if ¬ v1 = v3 then fX0_isMeant_b47 h else bd (D2_isUsed h o1) fun p6 => if p6 = 0 then fX0_isMeant_b47 h else bd (D3_isSound h o1) fun p10 => if p10 = 0 then fX0_isMeant_b47 h else bd (hQ h o1 [(1, 2), (2, 2), (3, 2), (4, 2), (5, 2)]) fun v14 => bd (hQ h o2 [(9, 1)]) fun v16 => bd (nwQS h 4 2) fun p18 => bd (fX0_isFitting 16 p18.2 v14 v16 (some p18.1)) fun p21 => if p21.1 = 0 then fX0_isMeant_b47 p21.2 else fX0_isMeant_b48 p21.2 1
theorem kX0_isMeant {G : Gx}  {b : Nat} {ad : Nat → Nat} {s : Sg} {h' : hS} {r : Int} {h : hS} {o1 : Option Nat} {o2 : Option Nat}   (e : fX0_isMeant h o1 o2 = some (r, h')) : CtX G yX0_isMeant cX0_isMeant 3 (some .boolean) 34 782 [(0, b, ad)] [s] h [tr (some b), tr o1, tr o2] (some (ti r)) [s] h' := by
  refine CtX.of (by decide) (Nat.le_of_ble_eq_true rfl) [(0, tr (some b)), (1, tr o1), (2, tr o2)] rfl ?_
  have E : EndX (G, 3, [(0, b, ad)], h, [s], h', (some .boolean), (some (ti r)), yX0_isMeant.name) [(0, b, ad)] 3 (some .boolean) (some (ti r)) [s] h' := ⟨rfl, rfl, rfl, rfl, rfl, rfl⟩
  unfold fX0_isMeant at e
  refine r_rrs E.p (fun rr => ?_)
  refine r_aload_n dX0_isMeant_0 rfl 1 rfl ?_
  obtain ⟨v1, q2, e⟩ := bd_o e
  refine r_getI fG_X0_248 q2 dX0_isMeant_1 ?_
  refine r_aload_n dX0_isMeant_4 rfl 2 rfl ?_
  obtain ⟨v3, q4, e⟩ := bd_o e
  refine r_getI fG_X0_293 q4 dX0_isMeant_5 ?_
  have eT := (r_ifo e).1
  have eF := (r_ifo e).2
  refine r_icmp_ne (hI_r rr q2) (hI_r rr q4) 47 dX0_isMeant_8 (by decide) (fun c5 => ?_) (fun c5 => ?_)
  · have e := eT c5
    refine r_sub [] rfl ?_
    exact wX0_isMeant_b47 E h e
  · have e := eF c5
    refine r_aload_n dX0_isMeant_11 rfl 1 rfl ?_
    obtain ⟨p6, q7, e⟩ := bd_o e
    have z8 := zD2_isUsed (G := G)  q7 rr.none
    refine rD_X0_296  q7 (injO_1 E.p) (Nat.le_of_ble_eq_true rfl) (Nat.le_of_ble_eq_true rfl) rfl (Nat.le_of_ble_eq_true rfl) dX0_isMeant_12 rfl ?_
    have eT := (r_ifo e).1
    have eF := (r_ifo e).2
    refine r_if_eq (rI_z z8) 47 dX0_isMeant_15 (by decide) (fun c9 => ?_) (fun c9 => ?_)
    · have e := eT c9
      refine r_sub [] rfl ?_
      exact wX0_isMeant_b47 E h e
    · have e := eF c9
      refine r_aload_n dX0_isMeant_18 rfl 1 rfl ?_
      obtain ⟨p10, q11, e⟩ := bd_o e
      have z12 := zD3_isSound (G := G)  q11 rr.none
      refine rD_X0_300  q11 (injO_1 E.p) (Nat.le_of_ble_eq_true rfl) (Nat.le_of_ble_eq_true rfl) rfl (Nat.le_of_ble_eq_true rfl) dX0_isMeant_19 rfl ?_
      have eT := (r_ifo e).1
      have eF := (r_ifo e).2
      refine r_if_eq (rI_z z12) 47 dX0_isMeant_22 (by decide) (fun c13 => ?_) (fun c13 => ?_)
      · have e := eT c13
        refine r_sub [] rfl ?_
        exact wX0_isMeant_b47 E h e
      · have e := eF c13
        refine r_aload_n dX0_isMeant_25 rfl 1 rfl ?_
        obtain ⟨v14, q15, e⟩ := bd_o e
        refine r_getQ fG_X0_251 q15 dX0_isMeant_26 ?_
        refine r_aload_n dX0_isMeant_29 rfl 2 rfl ?_
        obtain ⟨v16, q17, e⟩ := bd_o e
        refine r_getQ fG_X0_303 q17 dX0_isMeant_30 ?_
        refine r_iconst dX0_isMeant_33 ?_
        obtain ⟨p18, q19, e⟩ := bd_o e
        refine r_newQS (t := 4) q19 (by decide) (by decide) rfl q247 (by decide) dX0_isMeant_34 ?_
        refine r_rrs E.p (fun rr20 => ?_)
        obtain ⟨p21, q22, e⟩ := bd_o e
        have k23 := kX0_isFitting (G := G) 16  q22
        have z24 := (k23 rr20.none).1.2.2.2
        refine r_callS (j := none) 3 [tr v14, tr v16, tr (some p18.1)] k23 (injO_1 E.p) subO_0 getO_0 setO_0 (lw_S q823 q824 q115 q825) (by decide +kernel) rfl (Nat.le_of_ble_eq_true rfl) (Nat.le_of_ble_eq_true rfl) rfl (Nat.le_of_ble_eq_true rfl) dX0_isMeant_37 rfl ?_
        refine r_rrs E.p (fun rr25 => ?_)
        have eT := (r_ifo e).1
        have eF := (r_ifo e).2
        refine r_if_eq (rI_z z24) 47 dX0_isMeant_40 (by decide) (fun c26 => ?_) (fun c26 => ?_)
        · have e := eT c26
          refine r_sub [] rfl ?_
          exact wX0_isMeant_b47 E p21.2 e
        · have e := eF c26
          refine r_iconst dX0_isMeant_43 ?_
          refine r_goto 48 dX0_isMeant_44 (by decide) ?_
          refine r_sub [] rfl ?_
          exact wX0_isMeant_b48 E p21.2 1 (by decide) e
def fX1_isAlone  (o0 : Option Nat) : Option (Int) := some 0
theorem kX1_isAlone {G : Gx}  {h : hS} {r : Int} {o0 : Option Nat}   (e : fX1_isAlone o0 = some (r)) : CtX G yX1_isAlone cX1_isAlone 1 (some .boolean) 0 0 [] [] h [tr o0] (some (ti r)) [] h := by
  refine CtX.of (by decide) (Nat.le_of_ble_eq_true rfl) [(0, tr o0)] rfl ?_
  have E : EndX (G, 1, [], h, [], h, (some .boolean), (some (ti r)), yX1_isAlone.name) [] 1 (some .boolean) (some (ti r)) [] h := ⟨rfl, rfl, rfl, rfl, rfl, rfl⟩
  unfold fX1_isAlone at e
  refine r_rrs E.p (fun rr => ?_)
  refine r_iconst dX1_isAlone_0 ?_
  cases e
  exact r_zret E.σ E.st E.rt E.r (Or.inl rfl) dX1_isAlone_1
def fX5_isAlone_b12 (h : hS) (k0 : Int) : Option (Int) := gd (k0 = 0 ∨ k0 = 1) (some k0)
theorem wX5_isAlone_b12 {N : Nx} {h : hS} {r : Int} (E : EndX N [] 1 (some .boolean) (some (ti r)) [] h)  (k0 : Int) (hk0 : rI k0) (e : fX5_isAlone_b12 h k0 = some (r)) : AtPc cX5_isAlone RX5 1 20 N [] h 12 [] [ti k0] := by
  unfold fX5_isAlone_b12 at e
  refine r_rrs E.p (fun rr => ?_)
  obtain ⟨g1, e⟩ := gd_o e
  cases e
  exact r_zret E.σ E.st E.rt E.r g1 dX5_isAlone_12
def fX5_isAlone  (h : hS) (o0 : Option Nat) : Option (Int) := gd (hC h o0 = some 5) (bd (fX1_isAlone o0) fun p1 => if ¬ p1 = 0 then fX5_isAlone_b12 h 0 else fX5_isAlone_b12 h 1)
theorem kX5_isAlone {G : Gx}  {h : hS} {r : Int} {o0 : Option Nat}   (e : fX5_isAlone h o0 = some (r)) : CtX G yX5_isAlone cX5_isAlone 1 (some .boolean) 1 20 [] [] h [tr o0] (some (ti r)) [] h := by
  refine CtX.of (by decide) (Nat.le_of_ble_eq_true rfl) [(0, tr o0)] rfl ?_
  have E : EndX (G, 1, [], h, [], h, (some .boolean), (some (ti r)), yX5_isAlone.name) [] 1 (some .boolean) (some (ti r)) [] h := ⟨rfl, rfl, rfl, rfl, rfl, rfl⟩
  unfold fX5_isAlone at e
  refine r_rrs E.p (fun rr => ?_)
  refine r_aload_n dX5_isAlone_0 rfl 0 rfl ?_
  obtain ⟨g3, e⟩ := gd_o e
  obtain ⟨p1, q2, e⟩ := bd_o e
  have k4 := kX1_isAlone (G := G) (h := h)  q2
  have z5 := (k4 rr).1.2.2.2
  refine r_callSX (j := none) 0 [] (c := 5) (rc := (RX5, TX5, 6)) rfl g3 (x := ⟨"DictProof$First", "isAlone", "()Z"⟩) rfl (by decide) q944 q945 q246 q233 q936 q116 q947 k4 (injO_0 E.p) subO_0 getO_0 setO_0 (by decide +kernel) rfl (Nat.le_of_ble_eq_true rfl) (Nat.le_of_ble_eq_true rfl) rfl (Nat.le_of_ble_eq_true rfl) dX5_isAlone_1 rfl ?_
  have eT := (r_ifo e).1
  have eF := (r_ifo e).2
  refine r_if_ne (rI_z z5) 11 dX5_isAlone_4 (by decide) (fun c6 => ?_) (fun c6 => ?_)
  · have e := eT c6
    refine r_iconst dX5_isAlone_11 ?_
    refine r_sub [] rfl ?_
    exact wX5_isAlone_b12 E 0 (by decide) e
  · have e := eF c6
    refine r_iconst dX5_isAlone_7 ?_
    refine r_goto 12 dX5_isAlone_8 (by decide) ?_
    refine r_sub [] rfl ?_
    exact wX5_isAlone_b12 E 1 (by decide) e
def D4_isAlone (h : hS) (o : Option Nat)  : Option (Int) := if hC h o = some 1 then fX1_isAlone o else if hC h o = some 2 then fX1_isAlone o else if hC h o = some 3 then fX1_isAlone o else if hC h o = some 4 then fX1_isAlone o else if hC h o = some 5 then fX5_isAlone h o else none
theorem zD4_isAlone {G : Gx} {h : hS} {o : Option Nat}  {p : Int}  (q : D4_isAlone h o  = some p) (rr : RR [] [] h) : rtOK (some .boolean) (some (ti p)) := by
  unfold D4_isAlone at q
  split at q
  · exact ((kX1_isAlone (G := G) (h := h)  q) rr).1.2.2.2
  split at q
  · exact ((kX1_isAlone (G := G) (h := h)  q) rr).1.2.2.2
  split at q
  · exact ((kX1_isAlone (G := G) (h := h)  q) rr).1.2.2.2
  split at q
  · exact ((kX1_isAlone (G := G) (h := h)  q) rr).1.2.2.2
  split at q
  · exact ((kX5_isAlone (G := G)  q) rr).1.2.2.2
  cases q
theorem rD_X0_316 {N : Nx} {cc : ByteArray} {fR lO : Nat} {σs : List Sg} {h : hS} {pc : Nat} {lv : List (Nat × Tv)} {stk stk0 stk1 : List Tv} {o : Option Nat}  {p : Int}  (q : D4_isAlone h o  = some p) (hinj : injO N) (hfr : 2 ≤ fR) (hlo : 40 ≤ lO) (hstk : stk0 = [].reverse ++ tr o :: stk) (hroom : (stk.map tc).sum ≤ 8) (hd : decode cc pc = .ok (.invokevirtual 316, 3)) (hs1 : ti p :: stk = stk1) (k : AtPc cc RX0 fR lO N σs h (pc + 3) lv stk1) : AtPc cc RX0 fR lO N σs h pc lv stk0 := by
  unfold D4_isAlone at q
  split at q
  · rename_i g1; exact r_callVo (j := none) 0 [] (c := 1) (rc := (RX1, TX1, 6)) rfl g1 rfl (kX1_isAlone (G := nG N) (h := h)  q) hinj subO_0 getO_0 setO_0 (lw_V q935 q936 q937 q116 q947) (by decide +kernel) rfl (by omega) (by omega) hstk hroom hd hs1 k
  split at q
  · rename_i g1; exact r_callU (j := none) 0 [] (c := 2) (rc := (RX2, TX2, 6)) rfl g1 (x := ⟨"DictProof$Instance", "isAlone", "()Z"⟩) (owner := "DictProof$Instance") rfl (kX1_isAlone (G := nG N) (h := h)  q) hinj subO_0 getO_0 setO_0 (lw_U q935 q938 q948 q936 q116 q947) (by decide +kernel) rfl (by omega) (by omega) hstk hroom hd hs1 k
  split at q
  · rename_i g1; exact r_callU (j := none) 0 [] (c := 3) (rc := (RX3, TX3, 6)) rfl g1 (x := ⟨"DictProof$Instance", "isAlone", "()Z"⟩) (owner := "DictProof$Instance") rfl (kX1_isAlone (G := nG N) (h := h)  q) hinj subO_0 getO_0 setO_0 (lw_U q935 q938 q940 q936 q116 q947) (by decide +kernel) rfl (by omega) (by omega) hstk hroom hd hs1 k
  split at q
  · rename_i g1; exact r_callU (j := none) 0 [] (c := 4) (rc := (RX4, TX4, 6)) rfl g1 (x := ⟨"DictProof$Instance", "isAlone", "()Z"⟩) (owner := "DictProof$Instance") rfl (kX1_isAlone (G := nG N) (h := h)  q) hinj subO_0 getO_0 setO_0 (lw_U q935 q938 q939 q936 q116 q947) (by decide +kernel) rfl (by omega) (by omega) hstk hroom hd hs1 k
  split at q
  · rename_i g1; exact r_callO (j := none) 0 [] (c := 5) (rc := (RX5, TX5, 6)) rfl g1 (x := ⟨"DictProof$Instance", "isAlone", "()Z"⟩) (owner := "DictProof$Instance") q947 (kX5_isAlone (G := nG N)  q) hinj subO_0 getO_0 setO_0 (lw_O q935 q938 q936 q941 q942 q120 q943) (by decide +kernel) rfl (by omega) (by omega) hstk hroom hd hs1 k
  cases q
def fX0_isAnyAlone_b38 (K4 : Sg → hS → Int → Int → Int → Option (Int)) (s : Sg) (h : hS) (a1 : Int) (a3 : Int) (k0 : Int) (k1 : Int) : Option (Int) := K4 s h a1 (ior k0 k1) (wr (a3 + 1))
theorem wX0_isAnyAlone_b38 {N : Nx} {b : Nat} {ad : Nat → Nat} {s : Sg} {h : hS} {r : Int} (E : EndX N [(0, b, ad)] 4 (some .boolean) (some (ti r)) [s] h) (K4 : Sg → hS → Int → Int → Int → Option (Int)) (hK4 : ∀ (a1 : Int) (a2 : Int) (a3 : Int) (ha1 : rI a1) (ha2 : rI a2) (ha3 : rI a3), K4 s h a1 a2 a3 = some (r) → AtPc cX0_isAnyAlone RX0 2 40 N [s] h 4 [(0, tr (some b)), (1, ti a1), (2, ti a2), (3, ti a3)] []) (a1 : Int) (a3 : Int) (k0 : Int) (k1 : Int) (ha1 : rI a1) (ha3 : rI a3) (hk0 : rI k0) (hk1 : rI k1) (e : fX0_isAnyAlone_b38 K4 s h a1 a3 k0 k1 = some (r)) : AtPc cX0_isAnyAlone RX0 2 40 N [s] h 38 [(0, tr (some b)), (1, ti a1), (3, ti a3)] [ti k1, ti k0] := by
  unfold fX0_isAnyAlone_b38 at e
  refine r_rrs E.p (fun rr => ?_)
  refine r_ior dX0_isAnyAlone_38 ?_
  refine r_istore_n (lv' := [(2, ti (ior k0 k1)), (0, tr (some b)), (1, ti a1), (3, ti a3)]) dX0_isAnyAlone_39 rfl (E.lt (by decide)) rfl ?_
  refine r_iinc (lv' := [(3, ti (wr (a3 + 1))), (2, ti (ior k0 k1)), (0, tr (some b)), (1, ti a1)]) dX0_isAnyAlone_40 3 rfl (E.lt (by decide)) rfl ?_
  refine r_goto 4 dX0_isAnyAlone_43 (by decide) ?_
  refine r_sub [2, 3, 1, 0] rfl ?_
  exact hK4 a1 (ior k0 k1) (wr (a3 + 1)) ha1 (ior_r _ _) (wr_r _) e
def fX0_isAnyAlone_b37 (K4 : Sg → hS → Int → Int → Int → Option (Int)) (s : Sg) (h : hS) (a1 : Int) (a3 : Int) (k0 : Int) : Option (Int) := fX0_isAnyAlone_b38 K4 s h a1 a3 k0 0
theorem wX0_isAnyAlone_b37 {N : Nx} {b : Nat} {ad : Nat → Nat} {s : Sg} {h : hS} {r : Int} (E : EndX N [(0, b, ad)] 4 (some .boolean) (some (ti r)) [s] h) (K4 : Sg → hS → Int → Int → Int → Option (Int)) (hK4 : ∀ (a1 : Int) (a2 : Int) (a3 : Int) (ha1 : rI a1) (ha2 : rI a2) (ha3 : rI a3), K4 s h a1 a2 a3 = some (r) → AtPc cX0_isAnyAlone RX0 2 40 N [s] h 4 [(0, tr (some b)), (1, ti a1), (2, ti a2), (3, ti a3)] []) (a1 : Int) (a3 : Int) (k0 : Int) (ha1 : rI a1) (ha3 : rI a3) (hk0 : rI k0) (e : fX0_isAnyAlone_b37 K4 s h a1 a3 k0 = some (r)) : AtPc cX0_isAnyAlone RX0 2 40 N [s] h 37 [(0, tr (some b)), (1, ti a1), (3, ti a3)] [ti k0] := by
  unfold fX0_isAnyAlone_b37 at e
  refine r_rrs E.p (fun rr => ?_)
  refine r_iconst dX0_isAnyAlone_37 ?_
  exact wX0_isAnyAlone_b38 E K4 hK4 a1 a3 k0 0 ha1 ha3 hk0 (by decide) e
def fX0_isAnyAlone_b4 (K4 : Sg → hS → Int → Int → Int → Option (Int)) (s : Sg) (h : hS) (a1 : Int) (a2 : Int) (a3 : Int) : Option (Int) := if (gI s 5) ≤ a3 then gd (a2 = 0 ∨ a2 = 1) (some a2) else bd (fX0_has a1 a3) fun p3 => if p3 = 0 then fX0_isAnyAlone_b37 K4 s h a1 a3 a2 else gd (inb a3 6) (bd (D4_isAlone h (gQ s 4 a3)) fun p9 => if p9 = 0 then fX0_isAnyAlone_b37 K4 s h a1 a3 a2 else fX0_isAnyAlone_b38 K4 s h a1 a3 a2 1)
theorem wX0_isAnyAlone_b4 {N : Nx} {b : Nat} {ad : Nat → Nat} {s : Sg} {h : hS} {r : Int} (E : EndX N [(0, b, ad)] 4 (some .boolean) (some (ti r)) [s] h) (K4 : Sg → hS → Int → Int → Int → Option (Int)) (hK4 : ∀ (a1 : Int) (a2 : Int) (a3 : Int) (ha1 : rI a1) (ha2 : rI a2) (ha3 : rI a3), K4 s h a1 a2 a3 = some (r) → AtPc cX0_isAnyAlone RX0 2 40 N [s] h 4 [(0, tr (some b)), (1, ti a1), (2, ti a2), (3, ti a3)] []) (a1 : Int) (a2 : Int) (a3 : Int) (ha1 : rI a1) (ha2 : rI a2) (ha3 : rI a3) (e : fX0_isAnyAlone_b4 K4 s h a1 a2 a3 = some (r)) : AtPc cX0_isAnyAlone RX0 2 40 N [s] h 4 [(0, tr (some b)), (1, ti a1), (2, ti a2), (3, ti a3)] [] := by
  unfold fX0_isAnyAlone_b4 at e
  refine r_rrs E.p (fun rr => ?_)
  refine r_iload_n dX0_isAnyAlone_4 rfl 3 rfl ?_
  refine r_aload_n dX0_isAnyAlone_5 rfl 0 rfl ?_
  refine r_sI E.p 5 fG_X0_268 (by decide) dX0_isAnyAlone_6 ?_
  have eT := (r_ifo e).1
  have eF := (r_ifo e).2
  refine r_icmp_ge ha3 ((rr.mine rfl).i 5 (by decide) (by decide)) 46 dX0_isAnyAlone_9 (by decide) (fun c1 => ?_) (fun c1 => ?_)
  · have e := eT c1
    refine r_iload_n dX0_isAnyAlone_46 rfl 2 rfl ?_
    obtain ⟨g2, e⟩ := gd_o e
    cases e
    exact r_zret E.σ E.st E.rt E.r g2 dX0_isAnyAlone_47
  · have e := eF c1
    refine r_iload_n dX0_isAnyAlone_12 rfl 2 rfl ?_
    refine r_iload_n dX0_isAnyAlone_13 rfl 1 rfl ?_
    refine r_iload_n dX0_isAnyAlone_14 rfl 3 rfl ?_
    obtain ⟨p3, q4, e⟩ := bd_o e
    have k5 := kX0_has (G := nG N) (h := h) ha1 ha3 q4
    have z6 := (k5 rr.none).1.2.2.2
    refine r_callS (j := none) 2 [ti a1, ti a3] k5 (injO_1 E.p) subO_0 getO_0 setO_0 (lw_S q441 q442 q115 q443) (by decide +kernel) rfl (Nat.le_of_ble_eq_true rfl) (Nat.le_of_ble_eq_true rfl) rfl (Nat.le_of_ble_eq_true rfl) dX0_isAnyAlone_15 rfl ?_
    have eT := (r_ifo e).1
    have eF := (r_ifo e).2
    refine r_if_eq (rI_z z6) 37 dX0_isAnyAlone_18 (by decide) (fun c7 => ?_) (fun c7 => ?_)
    · have e := eT c7
      refine r_sub [0, 1, 3] rfl ?_
      exact wX0_isAnyAlone_b37 E K4 hK4 a1 a3 a2 ha1 ha3 ha2 e
    · have e := eF c7
      refine r_aload_n dX0_isAnyAlone_21 rfl 0 rfl ?_
      refine r_sR E.p 4 fG_X0_114 (by decide) dX0_isAnyAlone_22 ?_
      refine r_iload_n dX0_isAnyAlone_25 rfl 3 rfl ?_
      obtain ⟨g8, e⟩ := gd_o e
      refine r_saQ E.p 4 rfl (by decide) (by decide) (by decide) ha3 g8 dX0_isAnyAlone_26 ?_
      obtain ⟨p9, q10, e⟩ := bd_o e
      have z11 := zD4_isAlone (G := nG N)  q10 rr.none
      refine rD_X0_316  q10 (injO_1 E.p) (Nat.le_of_ble_eq_true rfl) (Nat.le_of_ble_eq_true rfl) rfl (Nat.le_of_ble_eq_true rfl) dX0_isAnyAlone_27 rfl ?_
      have eT := (r_ifo e).1
      have eF := (r_ifo e).2
      refine r_if_eq (rI_z z11) 37 dX0_isAnyAlone_30 (by decide) (fun c12 => ?_) (fun c12 => ?_)
      · have e := eT c12
        refine r_sub [0, 1, 3] rfl ?_
        exact wX0_isAnyAlone_b37 E K4 hK4 a1 a3 a2 ha1 ha3 ha2 e
      · have e := eF c12
        refine r_iconst dX0_isAnyAlone_33 ?_
        refine r_goto 38 dX0_isAnyAlone_34 (by decide) ?_
        refine r_sub [0, 1, 3] rfl ?_
        exact wX0_isAnyAlone_b38 E K4 hK4 a1 a3 a2 1 ha1 ha3 ha2 (by decide) e
def fX0_isAnyAlone_L4  : Nat → Sg → hS → Int → Int → Int → Option (Int)
  | 0, _, _, _, _, _ => none
  | n9 + 1, s, h, a1, a2, a3 => fX0_isAnyAlone_b4 (fX0_isAnyAlone_L4 n9) s h a1 a2 a3
theorem wX0_isAnyAlone_L4 {N : Nx} {b : Nat} {ad : Nat → Nat} {s : Sg} {h : hS} {r : Int} (E : EndX N [(0, b, ad)] 4 (some .boolean) (some (ti r)) [s] h)  : ∀ (n9 : Nat), ∀ (a1 : Int) (a2 : Int) (a3 : Int) (ha1 : rI a1) (ha2 : rI a2) (ha3 : rI a3), fX0_isAnyAlone_L4 n9 s h a1 a2 a3 = some (r) → AtPc cX0_isAnyAlone RX0 2 40 N [s] h 4 [(0, tr (some b)), (1, ti a1), (2, ti a2), (3, ti a3)] [] := by
  intro n9
  induction n9 with
  | zero => intro a1 a2 a3 ha1 ha2 ha3 e; cases e
  | succ n9 ih => intro a1 a2 a3 ha1 ha2 ha3 e; exact wX0_isAnyAlone_b4 E _ ih a1 a2 a3 ha1 ha2 ha3 e
def fX0_isAnyAlone  (s : Sg) (h : hS) (a1 : Int) : Option (Int) := fX0_isAnyAlone_L4 FU s h a1 0 0
theorem kX0_isAnyAlone {G : Gx}  {b : Nat} {ad : Nat → Nat} {s : Sg} {h : hS} {r : Int} {a1 : Int}  (ha1 : rI a1) (e : fX0_isAnyAlone s h a1 = some (r)) : CtX G yX0_isAnyAlone cX0_isAnyAlone 4 (some .boolean) 2 40 [(0, b, ad)] [s] h [tr (some b), ti a1] (some (ti r)) [s] h := by
  refine CtX.of (by decide) (Nat.le_of_ble_eq_true rfl) [(0, tr (some b)), (1, ti a1)] rfl ?_
  have E : EndX (G, 4, [(0, b, ad)], h, [s], h, (some .boolean), (some (ti r)), yX0_isAnyAlone.name) [(0, b, ad)] 4 (some .boolean) (some (ti r)) [s] h := ⟨rfl, rfl, rfl, rfl, rfl, rfl⟩
  unfold fX0_isAnyAlone at e
  refine r_rrs E.p (fun rr => ?_)
  refine r_iconst dX0_isAnyAlone_0 ?_
  refine r_istore_n (lv' := [(2, ti 0), (0, tr (some b)), (1, ti a1)]) dX0_isAnyAlone_1 rfl (E.lt (by decide)) rfl ?_
  refine r_iconst dX0_isAnyAlone_2 ?_
  refine r_istore_n (lv' := [(3, ti 0), (2, ti 0), (0, tr (some b)), (1, ti a1)]) dX0_isAnyAlone_3 rfl (E.lt (by decide)) rfl ?_
  refine r_sub [2, 3, 1, 0] rfl ?_
  exact wX0_isAnyAlone_L4 E FU a1 0 0 ha1 (by decide) (by decide) e
def fX1_rank  (o0 : Option Nat) : Option (Int) := some 1
theorem kX1_rank {G : Gx}  {h : hS} {r : Int} {o0 : Option Nat}   (e : fX1_rank o0 = some (r)) : CtX G yX1_rank cX1_rank 1 (some .int) 0 0 [] [] h [tr o0] (some (ti r)) [] h := by
  refine CtX.of (by decide) (Nat.le_of_ble_eq_true rfl) [(0, tr o0)] rfl ?_
  have E : EndX (G, 1, [], h, [], h, (some .int), (some (ti r)), yX1_rank.name) [] 1 (some .int) (some (ti r)) [] h := ⟨rfl, rfl, rfl, rfl, rfl, rfl⟩
  unfold fX1_rank at e
  refine r_rrs E.p (fun rr => ?_)
  refine r_iconst dX1_rank_0 ?_
  cases e
  exact r_iret E.σ E.st E.rt E.r (by decide) dX1_rank_1
def fX4_rank  (h : hS) (o0 : Option Nat) : Option (Int) := gd (inC h o0 [4, 5] = true) (bd (fX1_rank o0) fun p1 => some (wr (p1 - 1)))
theorem kX4_rank {G : Gx}  {h : hS} {r : Int} {o0 : Option Nat}   (e : fX4_rank h o0 = some (r)) : CtX G yX4_rank cX4_rank 1 (some .int) 1 20 [] [] h [tr o0] (some (ti r)) [] h := by
  refine CtX.of (by decide) (Nat.le_of_ble_eq_true rfl) [(0, tr o0)] rfl ?_
  have E : EndX (G, 1, [], h, [], h, (some .int), (some (ti r)), yX4_rank.name) [] 1 (some .int) (some (ti r)) [] h := ⟨rfl, rfl, rfl, rfl, rfl, rfl⟩
  unfold fX4_rank at e
  refine r_rrs E.p (fun rr => ?_)
  refine r_aload_n dX4_rank_0 rfl 0 rfl ?_
  obtain ⟨g3, e⟩ := gd_o e
  obtain ⟨c9, hm9, he9⟩ := inC_o g3
  obtain ⟨rc9, hr9⟩ : ∃ rc, clA[c9]? = some rc := by simp only [List.mem_cons, List.not_mem_nil, or_false] at hm9; rcases hm9 with rfl | rfl <;> exact ⟨_, rfl⟩
  obtain ⟨p1, q2, e⟩ := bd_o e
  have k4 := kX1_rank (G := G) (h := h)  q2
  have z5 := (k4 rr).1.2.2.2
  refine r_callSU (j := none) 0 [] (c := c9) (rc := rc9) hr9 he9 (by decide) k4 (injO_0 E.p) subO_0 getO_0 setO_0 (lw_SU q964 q960 q233 q958 q116 q965) (by decide +kernel) rfl (Nat.le_of_ble_eq_true rfl) (Nat.le_of_ble_eq_true rfl) rfl (Nat.le_of_ble_eq_true rfl) dX4_rank_1 rfl ?_
  refine r_iconst dX4_rank_4 ?_
  refine r_isub dX4_rank_5 ?_
  cases e
  exact r_iret E.σ E.st E.rt E.r (wr_r _) dX4_rank_6
def fX2_rank  (h : hS) (o0 : Option Nat) : Option (Int) := gd (hC h o0 = some 2) (bd (fX1_rank o0) fun p1 => some (wr (1 + p1)))
theorem kX2_rank {G : Gx}  {h : hS} {r : Int} {o0 : Option Nat}   (e : fX2_rank h o0 = some (r)) : CtX G yX2_rank cX2_rank 1 (some .int) 1 20 [] [] h [tr o0] (some (ti r)) [] h := by
  refine CtX.of (by decide) (Nat.le_of_ble_eq_true rfl) [(0, tr o0)] rfl ?_
  have E : EndX (G, 1, [], h, [], h, (some .int), (some (ti r)), yX2_rank.name) [] 1 (some .int) (some (ti r)) [] h := ⟨rfl, rfl, rfl, rfl, rfl, rfl⟩
  unfold fX2_rank at e
  refine r_rrs E.p (fun rr => ?_)
  refine r_iconst dX2_rank_0 ?_
  refine r_aload_n dX2_rank_1 rfl 0 rfl ?_
  obtain ⟨g3, e⟩ := gd_o e
  obtain ⟨p1, q2, e⟩ := bd_o e
  have k4 := kX1_rank (G := G) (h := h)  q2
  have z5 := (k4 rr).1.2.2.2
  refine r_callSU (j := none) 0 [] (c := 2) (rc := (RX2, TX2, 6)) rfl g3 (by decide) k4 (injO_0 E.p) subO_0 getO_0 setO_0 (lw_SU q971 q960 q207 q958 q116 q965) (by decide +kernel) rfl (Nat.le_of_ble_eq_true rfl) (Nat.le_of_ble_eq_true rfl) rfl (Nat.le_of_ble_eq_true rfl) dX2_rank_2 rfl ?_
  refine r_iadd dX2_rank_5 ?_
  cases e
  exact r_iret E.σ E.st E.rt E.r (wr_r _) dX2_rank_6
theorem fG_X0_245 : FldG RX0 245 [(1, 0), (2, 0), (3, 0), (4, 0), (5, 0)] := List.forall_mem_cons.mpr ⟨⟨RX1, TX1, 6, "DictProof$Instance", rfl, in_X1, by decide, q161, Or.inl rfl⟩, List.forall_mem_cons.mpr ⟨⟨RX2, TX2, 6, "DictProof$Instance", rfl, in_X2, by decide, q161, Or.inl rfl⟩, List.forall_mem_cons.mpr ⟨⟨RX3, TX3, 6, "DictProof$Instance", rfl, in_X3, by decide, q161, Or.inl rfl⟩, List.forall_mem_cons.mpr ⟨⟨RX4, TX4, 6, "DictProof$Instance", rfl, in_X4, by decide, q161, Or.inl rfl⟩, List.forall_mem_cons.mpr ⟨⟨RX5, TX5, 6, "DictProof$Instance", rfl, in_X5, by decide, q161, Or.inl rfl⟩, fun _ h => absurd h List.not_mem_nil⟩⟩⟩⟩⟩
def fX0_isSpecial  (s : Sg) (h : hS) (o1 : Option Nat) (o2 : Option Nat) : Option (Int) := bd (hI h o1 [(1, 0), (2, 0), (3, 0), (4, 0), (5, 0)]) fun v1 => bd (hI h o2 [(1, 0), (2, 0), (3, 0), (4, 0), (5, 0)]) fun v3 => gd (inb (wr ((wr (6 * v1)) + v3)) 36) (some (gA s 22 (wr ((wr (6 * v1)) + v3))))
theorem kX0_isSpecial {G : Gx}  {b : Nat} {ad : Nat → Nat} {s : Sg} {h : hS} {r : Int} {o1 : Option Nat} {o2 : Option Nat}   (e : fX0_isSpecial s h o1 o2 = some (r)) : CtX G yX0_isSpecial cX0_isSpecial 3 (some .boolean) 0 0 [(0, b, ad)] [s] h [tr (some b), tr o1, tr o2] (some (ti r)) [s] h := by
  refine CtX.of (by decide) (Nat.le_of_ble_eq_true rfl) [(0, tr (some b)), (1, tr o1), (2, tr o2)] rfl ?_
  have E : EndX (G, 3, [(0, b, ad)], h, [s], h, (some .boolean), (some (ti r)), yX0_isSpecial.name) [(0, b, ad)] 3 (some .boolean) (some (ti r)) [s] h := ⟨rfl, rfl, rfl, rfl, rfl, rfl⟩
  unfold fX0_isSpecial at e
  refine r_rrs E.p (fun rr => ?_)
  refine r_aload_n dX0_isSpecial_0 rfl 0 rfl ?_
  refine r_sR E.p 22 fG_X0_136 (by decide) dX0_isSpecial_1 ?_
  refine r_bipush dX0_isSpecial_4 (by decide) ?_
  refine r_aload_n dX0_isSpecial_6 rfl 1 rfl ?_
  obtain ⟨v1, q2, e⟩ := bd_o e
  refine r_getI fG_X0_245 q2 dX0_isSpecial_7 ?_
  refine r_imul dX0_isSpecial_10 ?_
  refine r_aload_n dX0_isSpecial_11 rfl 2 rfl ?_
  obtain ⟨v3, q4, e⟩ := bd_o e
  refine r_getI fG_X0_245 q4 dX0_isSpecial_12 ?_
  refine r_iadd dX0_isSpecial_15 ?_
  obtain ⟨g5, e⟩ := gd_o e
  refine r_saI E.p 22 rfl (by decide) (by decide) (wr_r _) g5 rfl dX0_isSpecial_16 ?_
  cases e
  exact r_zret E.σ E.st E.rt E.r (((rr.mine rfl).a 22 (by decide) rfl).2.1 rfl _) dX0_isSpecial_17
def D5_rank (h : hS) (o : Option Nat)  : Option (Int) := if hC h o = some 1 then fX1_rank o else if hC h o = some 2 then fX2_rank h o else if hC h o = some 3 then fX1_rank o else if hC h o = some 4 then fX4_rank h o else if hC h o = some 5 then fX4_rank h o else none
theorem zD5_rank {G : Gx} {h : hS} {o : Option Nat}  {p : Int}  (q : D5_rank h o  = some p) (rr : RR [] [] h) : rtOK (some .int) (some (ti p)) := by
  unfold D5_rank at q
  split at q
  · exact ((kX1_rank (G := G) (h := h)  q) rr).1.2.2.2
  split at q
  · exact ((kX2_rank (G := G)  q) rr).1.2.2.2
  split at q
  · exact ((kX1_rank (G := G) (h := h)  q) rr).1.2.2.2
  split at q
  · exact ((kX4_rank (G := G)  q) rr).1.2.2.2
  split at q
  · exact ((kX4_rank (G := G)  q) rr).1.2.2.2
  cases q
theorem rD_X0_306 {N : Nx} {cc : ByteArray} {fR lO : Nat} {σs : List Sg} {h : hS} {pc : Nat} {lv : List (Nat × Tv)} {stk stk0 stk1 : List Tv} {o : Option Nat}  {p : Int}  (q : D5_rank h o  = some p) (hinj : injO N) (hfr : 2 ≤ fR) (hlo : 40 ≤ lO) (hstk : stk0 = [].reverse ++ tr o :: stk) (hroom : (stk.map tc).sum ≤ 8) (hd : decode cc pc = .ok (.invokevirtual 306, 3)) (hs1 : ti p :: stk = stk1) (k : AtPc cc RX0 fR lO N σs h (pc + 3) lv stk1) : AtPc cc RX0 fR lO N σs h pc lv stk0 := by
  unfold D5_rank at q
  split at q
  · rename_i g1; exact r_callVo (j := none) 0 [] (c := 1) (rc := (RX1, TX1, 6)) rfl g1 rfl (kX1_rank (G := nG N) (h := h)  q) hinj subO_0 getO_0 setO_0 (lw_V q957 q958 q959 q116 q965) (by decide +kernel) rfl (by omega) (by omega) hstk hroom hd hs1 k
  split at q
  · rename_i g1; exact r_callO (j := none) 0 [] (c := 2) (rc := (RX2, TX2, 6)) rfl g1 (x := ⟨"DictProof$Instance", "rank", "()I"⟩) (owner := "DictProof$Instance") q965 (kX2_rank (G := nG N)  q) hinj subO_0 getO_0 setO_0 (lw_O q957 q960 q958 q968 q969 q117 q970) (by decide +kernel) rfl (by omega) (by omega) hstk hroom hd hs1 k
  split at q
  · rename_i g1; exact r_callU (j := none) 0 [] (c := 3) (rc := (RX3, TX3, 6)) rfl g1 (x := ⟨"DictProof$Instance", "rank", "()I"⟩) (owner := "DictProof$Instance") rfl (kX1_rank (G := nG N) (h := h)  q) hinj subO_0 getO_0 setO_0 (lw_U q957 q960 q966 q958 q116 q965) (by decide +kernel) rfl (by omega) (by omega) hstk hroom hd hs1 k
  split at q
  · rename_i g1; exact r_callO (j := none) 0 [] (c := 4) (rc := (RX4, TX4, 6)) rfl g1 (x := ⟨"DictProof$Instance", "rank", "()I"⟩) (owner := "DictProof$Instance") q965 (kX4_rank (G := nG N)  q) hinj subO_0 getO_0 setO_0 (lw_O q957 q960 q958 q961 q962 q119 q963) (by decide +kernel) rfl (by omega) (by omega) hstk hroom hd hs1 k
  split at q
  · rename_i g1; exact r_callO (j := none) 0 [] (c := 5) (rc := (RX5, TX5, 6)) rfl g1 (x := ⟨"DictProof$Instance", "rank", "()I"⟩) (owner := "DictProof$Instance") q965 (kX4_rank (G := nG N)  q) hinj subO_0 getO_0 setO_0 (lw_O q957 q960 q958 q967 q962 q119 q963) (by decide +kernel) rfl (by omega) (by omega) hstk hroom hd hs1 k
  cases q
def fX0_isBefore_b41 (s : Sg) (h : hS) (k0 : Int) : Option (Int) := gd (k0 = 0 ∨ k0 = 1) (some k0)
theorem wX0_isBefore_b41 {N : Nx} {b : Nat} {ad : Nat → Nat} {s : Sg} {h : hS} {r : Int} (E : EndX N [(0, b, ad)] 3 (some .boolean) (some (ti r)) [s] h)  (k0 : Int) (hk0 : rI k0) (e : fX0_isBefore_b41 s h k0 = some (r)) : AtPc cX0_isBefore RX0 2 40 N [s] h 41 [] [ti k0] := by
  unfold fX0_isBefore_b41 at e
  refine r_rrs E.p (fun rr => ?_)
  obtain ⟨g1, e⟩ := gd_o e
  cases e
  exact r_zret E.σ E.st E.rt E.r g1 dX0_isBefore_41
def fX0_isBefore_b36 (s : Sg) (h : hS) : Option (Int) := fX0_isBefore_b41 s h 1
theorem wX0_isBefore_b36 {N : Nx} {b : Nat} {ad : Nat → Nat} {s : Sg} {h : hS} {r : Int} (E : EndX N [(0, b, ad)] 3 (some .boolean) (some (ti r)) [s] h)   (e : fX0_isBefore_b36 s h = some (r)) : AtPc cX0_isBefore RX0 2 40 N [s] h 36 [] [] := by
  unfold fX0_isBefore_b36 at e
  refine r_rrs E.p (fun rr => ?_)
  refine r_iconst dX0_isBefore_36 ?_
  refine r_goto 41 dX0_isBefore_37 (by decide) ?_
  exact wX0_isBefore_b41 E 1 (by decide) e
def fX0_isBefore_b40 (s : Sg) (h : hS) : Option (Int) := fX0_isBefore_b41 s h 0
theorem wX0_isBefore_b40 {N : Nx} {b : Nat} {ad : Nat → Nat} {s : Sg} {h : hS} {r : Int} (E : EndX N [(0, b, ad)] 3 (some .boolean) (some (ti r)) [s] h)   (e : fX0_isBefore_b40 s h = some (r)) : AtPc cX0_isBefore RX0 2 40 N [s] h 40 [] [] := by
  unfold fX0_isBefore_b40 at e
  refine r_rrs E.p (fun rr => ?_)
  refine r_iconst dX0_isBefore_40 ?_
  exact wX0_isBefore_b41 E 0 (by decide) e
def fX0_isBefore  (s : Sg) (h : hS) (o1 : Option Nat) (o2 : Option Nat) : Option (Int) := if o1 = o2 then fX0_isBefore_b36 s h else bd (D5_rank h o1) fun p2 => bd (D5_rank h o2) fun p5 => if p2 < p5 then fX0_isBefore_b36 s h else bd (D5_rank h o1) fun p9 => bd (D5_rank h o2) fun p12 => if ¬ p9 = p12 then fX0_isBefore_b40 s h else bd (fX0_isSpecial s h o1 o2) fun p16 => if p16 = 0 then fX0_isBefore_b40 s h else fX0_isBefore_b36 s h
theorem kX0_isBefore {G : Gx}  {b : Nat} {ad : Nat → Nat} {s : Sg} {h : hS} {r : Int} {o1 : Option Nat} {o2 : Option Nat}   (e : fX0_isBefore s h o1 o2 = some (r)) : CtX G yX0_isBefore cX0_isBefore 3 (some .boolean) 2 40 [(0, b, ad)] [s] h [tr (some b), tr o1, tr o2] (some (ti r)) [s] h := by
  refine CtX.of (by decide) (Nat.le_of_ble_eq_true rfl) [(0, tr (some b)), (1, tr o1), (2, tr o2)] rfl ?_
  have E : EndX (G, 3, [(0, b, ad)], h, [s], h, (some .boolean), (some (ti r)), yX0_isBefore.name) [(0, b, ad)] 3 (some .boolean) (some (ti r)) [s] h := ⟨rfl, rfl, rfl, rfl, rfl, rfl⟩
  unfold fX0_isBefore at e
  refine r_rrs E.p (fun rr => ?_)
  refine r_aload_n dX0_isBefore_0 rfl 1 rfl ?_
  refine r_aload_n dX0_isBefore_1 rfl 2 rfl ?_
  have eT := (r_ifo e).1
  have eF := (r_ifo e).2
  refine r_acmp_eq 36 dX0_isBefore_2 (by decide) (fun c1 => ?_) (fun c1 => ?_)
  · have e := eT c1
    refine r_sub [] rfl ?_
    exact wX0_isBefore_b36 E e
  · have e := eF c1
    refine r_aload_n dX0_isBefore_5 rfl 1 rfl ?_
    obtain ⟨p2, q3, e⟩ := bd_o e
    have z4 := zD5_rank (G := G)  q3 rr.none
    refine rD_X0_306  q3 (injO_1 E.p) (Nat.le_of_ble_eq_true rfl) (Nat.le_of_ble_eq_true rfl) rfl (Nat.le_of_ble_eq_true rfl) dX0_isBefore_6 rfl ?_
    refine r_aload_n dX0_isBefore_9 rfl 2 rfl ?_
    obtain ⟨p5, q6, e⟩ := bd_o e
    have z7 := zD5_rank (G := G)  q6 rr.none
    refine rD_X0_306  q6 (injO_1 E.p) (Nat.le_of_ble_eq_true rfl) (Nat.le_of_ble_eq_true rfl) rfl (Nat.le_of_ble_eq_true rfl) dX0_isBefore_10 rfl ?_
    have eT := (r_ifo e).1
    have eF := (r_ifo e).2
    refine r_icmp_lt z4 z7 36 dX0_isBefore_13 (by decide) (fun c8 => ?_) (fun c8 => ?_)
    · have e := eT c8
      refine r_sub [] rfl ?_
      exact wX0_isBefore_b36 E e
    · have e := eF c8
      refine r_aload_n dX0_isBefore_16 rfl 1 rfl ?_
      obtain ⟨p9, q10, e⟩ := bd_o e
      have z11 := zD5_rank (G := G)  q10 rr.none
      refine rD_X0_306  q10 (injO_1 E.p) (Nat.le_of_ble_eq_true rfl) (Nat.le_of_ble_eq_true rfl) rfl (Nat.le_of_ble_eq_true rfl) dX0_isBefore_17 rfl ?_
      refine r_aload_n dX0_isBefore_20 rfl 2 rfl ?_
      obtain ⟨p12, q13, e⟩ := bd_o e
      have z14 := zD5_rank (G := G)  q13 rr.none
      refine rD_X0_306  q13 (injO_1 E.p) (Nat.le_of_ble_eq_true rfl) (Nat.le_of_ble_eq_true rfl) rfl (Nat.le_of_ble_eq_true rfl) dX0_isBefore_21 rfl ?_
      have eT := (r_ifo e).1
      have eF := (r_ifo e).2
      refine r_icmp_ne z11 z14 40 dX0_isBefore_24 (by decide) (fun c15 => ?_) (fun c15 => ?_)
      · have e := eT c15
        refine r_sub [] rfl ?_
        exact wX0_isBefore_b40 E e
      · have e := eF c15
        refine r_aload_n dX0_isBefore_27 rfl 0 rfl ?_
        refine r_aload_n dX0_isBefore_28 rfl 1 rfl ?_
        refine r_aload_n dX0_isBefore_29 rfl 2 rfl ?_
        obtain ⟨p16, q17, e⟩ := bd_o e
        have k18 := kX0_isSpecial (G := G) (b := b) (ad := ad)  q17
        have z19 := (k18 rr).1.2.2.2
        refine r_callV (j := some 0) 2 [tr o1, tr o2] (rec_sg (j := 0) (r := (RX0, TX0, 36)) rfl (by rw [E.p]; rfl)) rfl k18 (injO_1 E.p) (subO_1 E.p) getO_1 setO_1 (lw_V q972 q974 qs19 q115 q975) (by decide +kernel) rfl (Nat.le_of_ble_eq_true rfl) (Nat.le_of_ble_eq_true rfl) rfl (Nat.le_of_ble_eq_true rfl) dX0_isBefore_30 rfl ?_
        have eT := (r_ifo e).1
        have eF := (r_ifo e).2
        refine r_if_eq (rI_z z19) 40 dX0_isBefore_33 (by decide) (fun c20 => ?_) (fun c20 => ?_)
        · have e := eT c20
          refine r_sub [] rfl ?_
          exact wX0_isBefore_b40 E e
        · have e := eF c20
          refine r_sub [] rfl ?_
          exact wX0_isBefore_b36 E e
def fX0_taken_b66 (K2 : Sg → hS → Int → Int → Option (Option Nat)) (K19 : Sg → hS → Int → Int → Int → Int → Option (Option Nat)) (s : Sg) (h : hS) (a1 : Int) (a2 : Int) (a4 : Int) (k0 : Int) : Option (Option Nat) := K19 s h a1 a2 k0 (wr (a4 + 1))
theorem wX0_taken_b66 {N : Nx} {b : Nat} {ad : Nat → Nat} {s : Sg} {h : hS} {r : Option Nat} (E : EndX N [(0, b, ad)] 5 (some (.object "DictProof$Instance")) (some (tr r)) [s] h) (K2 : Sg → hS → Int → Int → Option (Option Nat)) (hK2 : ∀ (a1 : Int) (a2 : Int) (ha1 : rI a1) (ha2 : rI a2), K2 s h a1 a2 = some (r) → AtPc cX0_taken RX0 3 62 N [s] h 2 [(0, tr (some b)), (1, ti a1), (2, ti a2)] []) (K19 : Sg → hS → Int → Int → Int → Int → Option (Option Nat)) (hK19 : ∀ (a1 : Int) (a2 : Int) (a3 : Int) (a4 : Int) (ha1 : rI a1) (ha2 : rI a2) (ha3 : rI a3) (ha4 : rI a4), K19 s h a1 a2 a3 a4 = some (r) → AtPc cX0_taken RX0 3 62 N [s] h 19 [(0, tr (some b)), (1, ti a1), (2, ti a2), (3, ti a3), (4, ti a4)] []) (a1 : Int) (a2 : Int) (a4 : Int) (k0 : Int) (ha1 : rI a1) (ha2 : rI a2) (ha4 : rI a4) (hk0 : rI k0) (e : fX0_taken_b66 K2 K19 s h a1 a2 a4 k0 = some (r)) : AtPc cX0_taken RX0 3 62 N [s] h 66 [(0, tr (some b)), (1, ti a1), (2, ti a2), (4, ti a4)] [ti k0] := by
  unfold fX0_taken_b66 at e
  refine r_rrs E.p (fun rr => ?_)
  refine r_istore_n (lv' := [(3, ti k0), (0, tr (some b)), (1, ti a1), (2, ti a2), (4, ti a4)]) dX0_taken_66 rfl (E.lt (by decide)) rfl ?_
  refine r_iinc (lv' := [(4, ti (wr (a4 + 1))), (3, ti k0), (0, tr (some b)), (1, ti a1), (2, ti a2)]) dX0_taken_67 4 rfl (E.lt (by decide)) rfl ?_
  refine r_goto 19 dX0_taken_70 (by decide) ?_
  refine r_sub [2, 3, 4, 1, 0] rfl ?_
  exact hK19 a1 a2 k0 (wr (a4 + 1)) ha1 ha2 hk0 (wr_r _) e
def fX0_taken_b61 (K2 : Sg → hS → Int → Int → Option (Option Nat)) (K19 : Sg → hS → Int → Int → Int → Int → Option (Option Nat)) (s : Sg) (h : hS) (a1 : Int) (a2 : Int) (a4 : Int) : Option (Option Nat) := fX0_taken_b66 K2 K19 s h a1 a2 a4 1
theorem wX0_taken_b61 {N : Nx} {b : Nat} {ad : Nat → Nat} {s : Sg} {h : hS} {r : Option Nat} (E : EndX N [(0, b, ad)] 5 (some (.object "DictProof$Instance")) (some (tr r)) [s] h) (K2 : Sg → hS → Int → Int → Option (Option Nat)) (hK2 : ∀ (a1 : Int) (a2 : Int) (ha1 : rI a1) (ha2 : rI a2), K2 s h a1 a2 = some (r) → AtPc cX0_taken RX0 3 62 N [s] h 2 [(0, tr (some b)), (1, ti a1), (2, ti a2)] []) (K19 : Sg → hS → Int → Int → Int → Int → Option (Option Nat)) (hK19 : ∀ (a1 : Int) (a2 : Int) (a3 : Int) (a4 : Int) (ha1 : rI a1) (ha2 : rI a2) (ha3 : rI a3) (ha4 : rI a4), K19 s h a1 a2 a3 a4 = some (r) → AtPc cX0_taken RX0 3 62 N [s] h 19 [(0, tr (some b)), (1, ti a1), (2, ti a2), (3, ti a3), (4, ti a4)] []) (a1 : Int) (a2 : Int) (a4 : Int) (ha1 : rI a1) (ha2 : rI a2) (ha4 : rI a4) (e : fX0_taken_b61 K2 K19 s h a1 a2 a4 = some (r)) : AtPc cX0_taken RX0 3 62 N [s] h 61 [(0, tr (some b)), (1, ti a1), (2, ti a2), (4, ti a4)] [] := by
  unfold fX0_taken_b61 at e
  refine r_rrs E.p (fun rr => ?_)
  refine r_iconst dX0_taken_61 ?_
  refine r_goto 66 dX0_taken_62 (by decide) ?_
  exact wX0_taken_b66 E K2 hK2 K19 hK19 a1 a2 a4 1 ha1 ha2 ha4 (by decide) e
def fX0_taken_b73 (K2 : Sg → hS → Int → Int → Option (Option Nat)) (s : Sg) (h : hS) (a1 : Int) (a2 : Int) (a3 : Int) : Option (Option Nat) := if a3 = 0 then K2 s h a1 (wr (a2 + 1)) else gd (inb a2 6) (some (gQ s 4 a2))
theorem wX0_taken_b73 {N : Nx} {b : Nat} {ad : Nat → Nat} {s : Sg} {h : hS} {r : Option Nat} (E : EndX N [(0, b, ad)] 5 (some (.object "DictProof$Instance")) (some (tr r)) [s] h) (K2 : Sg → hS → Int → Int → Option (Option Nat)) (hK2 : ∀ (a1 : Int) (a2 : Int) (ha1 : rI a1) (ha2 : rI a2), K2 s h a1 a2 = some (r) → AtPc cX0_taken RX0 3 62 N [s] h 2 [(0, tr (some b)), (1, ti a1), (2, ti a2)] []) (a1 : Int) (a2 : Int) (a3 : Int) (ha1 : rI a1) (ha2 : rI a2) (ha3 : rI a3) (e : fX0_taken_b73 K2 s h a1 a2 a3 = some (r)) : AtPc cX0_taken RX0 3 62 N [s] h 73 [(0, tr (some b)), (1, ti a1), (2, ti a2), (3, ti a3)] [] := by
  unfold fX0_taken_b73 at e
  refine r_rrs E.p (fun rr => ?_)
  refine r_iload_n dX0_taken_73 rfl 3 rfl ?_
  have eT := (r_ifo e).1
  have eF := (r_ifo e).2
  refine r_if_eq ha3 84 dX0_taken_74 (by decide) (fun c1 => ?_) (fun c1 => ?_)
  · have e := eT c1
    refine r_iinc (lv' := [(2, ti (wr (a2 + 1))), (0, tr (some b)), (1, ti a1), (3, ti a3)]) dX0_taken_84 2 rfl (E.lt (by decide)) rfl ?_
    refine r_goto 2 dX0_taken_87 (by decide) ?_
    refine r_sub [1, 2, 0] rfl ?_
    exact hK2 a1 (wr (a2 + 1)) ha1 (wr_r _) e
  · have e := eF c1
    refine r_aload_n dX0_taken_77 rfl 0 rfl ?_
    refine r_sR E.p 4 fG_X0_114 (by decide) dX0_taken_78 ?_
    refine r_iload_n dX0_taken_81 rfl 2 rfl ?_
    obtain ⟨g2, e⟩ := gd_o e
    refine r_saQ E.p 4 rfl (by decide) (by decide) (by decide) ha2 g2 dX0_taken_82 ?_
    cases e
    exact r_aret E.σ E.st E.rt (by first | exact Or.inl ⟨_, rfl⟩ | exact Or.inr ⟨_, rfl⟩) E.r dX0_taken_83
def fX0_taken_b19 (K2 : Sg → hS → Int → Int → Option (Option Nat)) (K19 : Sg → hS → Int → Int → Int → Int → Option (Option Nat)) (s : Sg) (h : hS) (a1 : Int) (a2 : Int) (a3 : Int) (a4 : Int) : Option (Option Nat) := if (gI s 5) ≤ a4 then fX0_taken_b73 K2 s h a1 a2 a3 else if a3 = 0 then fX0_taken_b73 K2 s h a1 a2 a3 else bd (fX0_has a1 a4) fun p3 => if p3 = 0 then fX0_taken_b61 K2 K19 s h a1 a2 a4 else gd (inb a2 6) (gd (inb a4 6) (bd (fX0_isBefore s h (gQ s 4 a2) (gQ s 4 a4)) fun p10 => if p10 = 0 then fX0_taken_b66 K2 K19 s h a1 a2 a4 0 else fX0_taken_b61 K2 K19 s h a1 a2 a4))
theorem wX0_taken_b19 {N : Nx} {b : Nat} {ad : Nat → Nat} {s : Sg} {h : hS} {r : Option Nat} (E : EndX N [(0, b, ad)] 5 (some (.object "DictProof$Instance")) (some (tr r)) [s] h) (K2 : Sg → hS → Int → Int → Option (Option Nat)) (hK2 : ∀ (a1 : Int) (a2 : Int) (ha1 : rI a1) (ha2 : rI a2), K2 s h a1 a2 = some (r) → AtPc cX0_taken RX0 3 62 N [s] h 2 [(0, tr (some b)), (1, ti a1), (2, ti a2)] []) (K19 : Sg → hS → Int → Int → Int → Int → Option (Option Nat)) (hK19 : ∀ (a1 : Int) (a2 : Int) (a3 : Int) (a4 : Int) (ha1 : rI a1) (ha2 : rI a2) (ha3 : rI a3) (ha4 : rI a4), K19 s h a1 a2 a3 a4 = some (r) → AtPc cX0_taken RX0 3 62 N [s] h 19 [(0, tr (some b)), (1, ti a1), (2, ti a2), (3, ti a3), (4, ti a4)] []) (a1 : Int) (a2 : Int) (a3 : Int) (a4 : Int) (ha1 : rI a1) (ha2 : rI a2) (ha3 : rI a3) (ha4 : rI a4) (e : fX0_taken_b19 K2 K19 s h a1 a2 a3 a4 = some (r)) : AtPc cX0_taken RX0 3 62 N [s] h 19 [(0, tr (some b)), (1, ti a1), (2, ti a2), (3, ti a3), (4, ti a4)] [] := by
  unfold fX0_taken_b19 at e
  refine r_rrs E.p (fun rr => ?_)
  refine r_iload dX0_taken_19 4 rfl ?_
  refine r_aload_n dX0_taken_21 rfl 0 rfl ?_
  refine r_sI E.p 5 fG_X0_268 (by decide) dX0_taken_22 ?_
  have eT := (r_ifo e).1
  have eF := (r_ifo e).2
  refine r_icmp_ge ha4 ((rr.mine rfl).i 5 (by decide) (by decide)) 73 dX0_taken_25 (by decide) (fun c1 => ?_) (fun c1 => ?_)
  · have e := eT c1
    refine r_sub [0, 1, 2, 3] rfl ?_
    exact wX0_taken_b73 E K2 hK2 a1 a2 a3 ha1 ha2 ha3 e
  · have e := eF c1
    refine r_iload_n dX0_taken_28 rfl 3 rfl ?_
    have eT := (r_ifo e).1
    have eF := (r_ifo e).2
    refine r_if_eq ha3 73 dX0_taken_29 (by decide) (fun c2 => ?_) (fun c2 => ?_)
    · have e := eT c2
      refine r_sub [0, 1, 2, 3] rfl ?_
      exact wX0_taken_b73 E K2 hK2 a1 a2 a3 ha1 ha2 ha3 e
    · have e := eF c2
      refine r_iload_n dX0_taken_32 rfl 1 rfl ?_
      refine r_iload dX0_taken_33 4 rfl ?_
      obtain ⟨p3, q4, e⟩ := bd_o e
      have k5 := kX0_has (G := nG N) (h := h) ha1 ha4 q4
      have z6 := (k5 rr.none).1.2.2.2
      refine r_callS (j := none) 2 [ti a1, ti a4] k5 (injO_1 E.p) subO_0 getO_0 setO_0 (lw_S q441 q442 q115 q443) (by decide +kernel) rfl (Nat.le_of_ble_eq_true rfl) (Nat.le_of_ble_eq_true rfl) rfl (Nat.le_of_ble_eq_true rfl) dX0_taken_35 rfl ?_
      have eT := (r_ifo e).1
      have eF := (r_ifo e).2
      refine r_if_eq (rI_z z6) 61 dX0_taken_38 (by decide) (fun c7 => ?_) (fun c7 => ?_)
      · have e := eT c7
        refine r_sub [0, 1, 2, 4] rfl ?_
        exact wX0_taken_b61 E K2 hK2 K19 hK19 a1 a2 a4 ha1 ha2 ha4 e
      · have e := eF c7
        refine r_aload_n dX0_taken_41 rfl 0 rfl ?_
        refine r_aload_n dX0_taken_42 rfl 0 rfl ?_
        refine r_sR E.p 4 fG_X0_114 (by decide) dX0_taken_43 ?_
        refine r_iload_n dX0_taken_46 rfl 2 rfl ?_
        obtain ⟨g8, e⟩ := gd_o e
        refine r_saQ E.p 4 rfl (by decide) (by decide) (by decide) ha2 g8 dX0_taken_47 ?_
        refine r_aload_n dX0_taken_48 rfl 0 rfl ?_
        refine r_sR E.p 4 fG_X0_114 (by decide) dX0_taken_49 ?_
        refine r_iload dX0_taken_52 4 rfl ?_
        obtain ⟨g9, e⟩ := gd_o e
        refine r_saQ E.p 4 rfl (by decide) (by decide) (by decide) ha4 g9 dX0_taken_54 ?_
        obtain ⟨p10, q11, e⟩ := bd_o e
        have k12 := kX0_isBefore (G := nG N) (b := b) (ad := ad)  q11
        have z13 := (k12 rr).1.2.2.2
        refine r_callV (j := some 0) 2 [tr (gQ s 4 a2), tr (gQ s 4 a4)] (rec_sg (j := 0) (r := (RX0, TX0, 36)) rfl (by rw [E.p]; rfl)) rfl k12 (injO_1 E.p) (subO_1 E.p) getO_1 setO_1 (lw_V q953 q955 qs18 q115 q956) (by decide +kernel) rfl (Nat.le_of_ble_eq_true rfl) (Nat.le_of_ble_eq_true rfl) rfl (Nat.le_of_ble_eq_true rfl) dX0_taken_55 rfl ?_
        have eT := (r_ifo e).1
        have eF := (r_ifo e).2
        refine r_if_eq (rI_z z13) 65 dX0_taken_58 (by decide) (fun c14 => ?_) (fun c14 => ?_)
        · have e := eT c14
          refine r_iconst dX0_taken_65 ?_
          refine r_sub [0, 1, 2, 4] rfl ?_
          exact wX0_taken_b66 E K2 hK2 K19 hK19 a1 a2 a4 0 ha1 ha2 ha4 (by decide) e
        · have e := eF c14
          refine r_sub [0, 1, 2, 4] rfl ?_
          exact wX0_taken_b61 E K2 hK2 K19 hK19 a1 a2 a4 ha1 ha2 ha4 e
def fX0_taken_L19 (K2 : Sg → hS → Int → Int → Option (Option Nat)) : Nat → Sg → hS → Int → Int → Int → Int → Option (Option Nat)
  | 0, _, _, _, _, _, _ => none
  | n9 + 1, s, h, a1, a2, a3, a4 => fX0_taken_b19 K2 (fX0_taken_L19 K2 n9) s h a1 a2 a3 a4
theorem wX0_taken_L19 {N : Nx} {b : Nat} {ad : Nat → Nat} {s : Sg} {h : hS} {r : Option Nat} (E : EndX N [(0, b, ad)] 5 (some (.object "DictProof$Instance")) (some (tr r)) [s] h) (K2 : Sg → hS → Int → Int → Option (Option Nat)) (hK2 : ∀ (a1 : Int) (a2 : Int) (ha1 : rI a1) (ha2 : rI a2), K2 s h a1 a2 = some (r) → AtPc cX0_taken RX0 3 62 N [s] h 2 [(0, tr (some b)), (1, ti a1), (2, ti a2)] []) : ∀ (n9 : Nat), ∀ (a1 : Int) (a2 : Int) (a3 : Int) (a4 : Int) (ha1 : rI a1) (ha2 : rI a2) (ha3 : rI a3) (ha4 : rI a4), fX0_taken_L19 K2 n9 s h a1 a2 a3 a4 = some (r) → AtPc cX0_taken RX0 3 62 N [s] h 19 [(0, tr (some b)), (1, ti a1), (2, ti a2), (3, ti a3), (4, ti a4)] [] := by
  intro n9
  induction n9 with
  | zero => intro a1 a2 a3 a4 ha1 ha2 ha3 ha4 e; cases e
  | succ n9 ih => intro a1 a2 a3 a4 ha1 ha2 ha3 ha4 e; exact wX0_taken_b19 E K2 hK2 _ ih a1 a2 a3 a4 ha1 ha2 ha3 ha4 e
def fX0_taken_b2 (K2 : Sg → hS → Int → Int → Option (Option Nat)) (s : Sg) (h : hS) (a1 : Int) (a2 : Int) : Option (Option Nat) := if (gI s 5) ≤ a2 then some none else bd (fX0_has a1 a2) fun p2 => fX0_taken_L19 K2 FU s h a1 a2 p2 0
theorem wX0_taken_b2 {N : Nx} {b : Nat} {ad : Nat → Nat} {s : Sg} {h : hS} {r : Option Nat} (E : EndX N [(0, b, ad)] 5 (some (.object "DictProof$Instance")) (some (tr r)) [s] h) (K2 : Sg → hS → Int → Int → Option (Option Nat)) (hK2 : ∀ (a1 : Int) (a2 : Int) (ha1 : rI a1) (ha2 : rI a2), K2 s h a1 a2 = some (r) → AtPc cX0_taken RX0 3 62 N [s] h 2 [(0, tr (some b)), (1, ti a1), (2, ti a2)] []) (a1 : Int) (a2 : Int) (ha1 : rI a1) (ha2 : rI a2) (e : fX0_taken_b2 K2 s h a1 a2 = some (r)) : AtPc cX0_taken RX0 3 62 N [s] h 2 [(0, tr (some b)), (1, ti a1), (2, ti a2)] [] := by
  unfold fX0_taken_b2 at e
  refine r_rrs E.p (fun rr => ?_)
  refine r_iload_n dX0_taken_2 rfl 2 rfl ?_
  refine r_aload_n dX0_taken_3 rfl 0 rfl ?_
  refine r_sI E.p 5 fG_X0_268 (by decide) dX0_taken_4 ?_
  have eT := (r_ifo e).1
  have eF := (r_ifo e).2
  refine r_icmp_ge ha2 ((rr.mine rfl).i 5 (by decide) (by decide)) 90 dX0_taken_7 (by decide) (fun c1 => ?_) (fun c1 => ?_)
  · have e := eT c1
    refine r_null dX0_taken_90 ?_
    cases e
    exact r_aret E.σ E.st E.rt (by first | exact Or.inl ⟨_, rfl⟩ | exact Or.inr ⟨_, rfl⟩) E.r dX0_taken_91
  · have e := eF c1
    refine r_iload_n dX0_taken_10 rfl 1 rfl ?_
    refine r_iload_n dX0_taken_11 rfl 2 rfl ?_
    obtain ⟨p2, q3, e⟩ := bd_o e
    have k4 := kX0_has (G := nG N) (h := h) ha1 ha2 q3
    have z5 := (k4 rr.none).1.2.2.2
    refine r_callS (j := none) 2 [ti a1, ti a2] k4 (injO_1 E.p) subO_0 getO_0 setO_0 (lw_S q441 q442 q115 q443) (by decide +kernel) rfl (Nat.le_of_ble_eq_true rfl) (Nat.le_of_ble_eq_true rfl) rfl (Nat.le_of_ble_eq_true rfl) dX0_taken_12 rfl ?_
    refine r_istore_n (lv' := [(3, ti p2), (0, tr (some b)), (1, ti a1), (2, ti a2)]) dX0_taken_15 rfl (E.lt (by decide)) rfl ?_
    refine r_iconst dX0_taken_16 ?_
    refine r_istore (lv' := [(4, ti 0), (3, ti p2), (0, tr (some b)), (1, ti a1), (2, ti a2)]) dX0_taken_17 (E.lt (by decide)) rfl ?_
    refine r_sub [2, 3, 4, 1, 0] rfl ?_
    exact wX0_taken_L19 E K2 hK2 FU a1 a2 p2 0 ha1 ha2 (rI_z z5) (by decide) e
def fX0_taken_L2  : Nat → Sg → hS → Int → Int → Option (Option Nat)
  | 0, _, _, _, _ => none
  | n9 + 1, s, h, a1, a2 => fX0_taken_b2 (fX0_taken_L2 n9) s h a1 a2
theorem wX0_taken_L2 {N : Nx} {b : Nat} {ad : Nat → Nat} {s : Sg} {h : hS} {r : Option Nat} (E : EndX N [(0, b, ad)] 5 (some (.object "DictProof$Instance")) (some (tr r)) [s] h)  : ∀ (n9 : Nat), ∀ (a1 : Int) (a2 : Int) (ha1 : rI a1) (ha2 : rI a2), fX0_taken_L2 n9 s h a1 a2 = some (r) → AtPc cX0_taken RX0 3 62 N [s] h 2 [(0, tr (some b)), (1, ti a1), (2, ti a2)] [] := by
  intro n9
  induction n9 with
  | zero => intro a1 a2 ha1 ha2 e; cases e
  | succ n9 ih => intro a1 a2 ha1 ha2 e; exact wX0_taken_b2 E _ ih a1 a2 ha1 ha2 e
def fX0_taken  (s : Sg) (h : hS) (a1 : Int) : Option (Option Nat) := fX0_taken_L2 FU s h a1 0
theorem kX0_taken {G : Gx}  {b : Nat} {ad : Nat → Nat} {s : Sg} {h : hS} {r : Option Nat} {a1 : Int}  (ha1 : rI a1) (e : fX0_taken s h a1 = some (r)) : CtX G yX0_taken cX0_taken 5 (some (.object "DictProof$Instance")) 3 62 [(0, b, ad)] [s] h [tr (some b), ti a1] (some (tr r)) [s] h := by
  refine CtX.of (by decide) (Nat.le_of_ble_eq_true rfl) [(0, tr (some b)), (1, ti a1)] rfl ?_
  have E : EndX (G, 5, [(0, b, ad)], h, [s], h, (some (.object "DictProof$Instance")), (some (tr r)), yX0_taken.name) [(0, b, ad)] 5 (some (.object "DictProof$Instance")) (some (tr r)) [s] h := ⟨rfl, rfl, rfl, rfl, rfl, rfl⟩
  unfold fX0_taken at e
  refine r_rrs E.p (fun rr => ?_)
  refine r_iconst dX0_taken_0 ?_
  refine r_istore_n (lv' := [(2, ti 0), (0, tr (some b)), (1, ti a1)]) dX0_taken_1 rfl (E.lt (by decide)) rfl ?_
  refine r_sub [1, 2, 0] rfl ?_
  exact wX0_taken_L2 E FU a1 0 ha1 (by decide) e
theorem fG_X10_19 : FldG RX10 19 [(10, 2)] := List.forall_mem_cons.mpr ⟨⟨RX10, TX10, 4, "DictProof$Proof", rfl, in_X10, by decide, q894, Or.inl rfl⟩, fun _ h => absurd h List.not_mem_nil⟩
theorem fG_X10_27 : FldG RX10 27 [(1, 5), (2, 5), (3, 5), (4, 5), (5, 5)] := List.forall_mem_cons.mpr ⟨⟨RX1, TX1, 6, "DictProof$Instance", rfl, in_X1, by decide, q178, Or.inl rfl⟩, List.forall_mem_cons.mpr ⟨⟨RX2, TX2, 6, "DictProof$Instance", rfl, in_X2, by decide, q178, Or.inl rfl⟩, List.forall_mem_cons.mpr ⟨⟨RX3, TX3, 6, "DictProof$Instance", rfl, in_X3, by decide, q178, Or.inl rfl⟩, List.forall_mem_cons.mpr ⟨⟨RX4, TX4, 6, "DictProof$Instance", rfl, in_X4, by decide, q178, Or.inl rfl⟩, List.forall_mem_cons.mpr ⟨⟨RX5, TX5, 6, "DictProof$Instance", rfl, in_X5, by decide, q178, Or.inl rfl⟩, fun _ h => absurd h List.not_mem_nil⟩⟩⟩⟩⟩
theorem fG_X10_23 : FldG RX10 23 [(10, 3)] := List.forall_mem_cons.mpr ⟨⟨RX10, TX10, 4, "DictProof$Proof", rfl, in_X10, by decide, q895, Or.inl rfl⟩, fun _ h => absurd h List.not_mem_nil⟩
def fX10_size_b40 (R9 : hS → Option Nat → Option (Int)) (h : hS) (a1 : Int) : Option (Int) := some a1
theorem wX10_size_b40 {N : Nx} {h : hS} {r : Int} (d9 : Nat) (R9 : hS → Option Nat → Option (Int)) (hR9 : ∀  {h : hS} {r : Int} {o0 : Option Nat} , R9 h o0 = some (r) → CtX (nG N) yX10_size cX10_size 3 (some .int) (d9 + 0) (22 * d9 + 0) [] [] h [tr o0] (some (ti r)) [] h) (E : EndX N [] 3 (some .int) (some (ti r)) [] h)  (a1 : Int) (ha1 : rI a1) (e : fX10_size_b40 R9 h a1 = some (r)) : AtPc cX10_size RX10 ((d9 + 1) + 0) (22 * (d9 + 1) + 0) N [] h 40 [(1, ti a1)] [] := by
  unfold fX10_size_b40 at e
  refine r_rrs E.p (fun rr => ?_)
  refine r_iload_n dX10_size_40 rfl 0 rfl ?_
  cases e
  exact r_iret E.σ E.st E.rt E.r ha1 dX10_size_41
def fX10_size_b4 (R9 : hS → Option Nat → Option (Int)) (K4 : hS → Option Nat → Int → Int → Option (Int)) (h : hS) (o0 : Option Nat) (a1 : Int) (a2 : Int) : Option (Int) := bd (hQ h o0 [(10, 2)]) fun v1 => ifN v1 (fX10_size_b40 R9 h a1) (fun _ => bd (hQ h o0 [(10, 2)]) fun v5 => bd (hI h v5 [(1, 5), (2, 5), (3, 5), (4, 5), (5, 5)]) fun v7 => if v7 ≤ a2 then fX10_size_b40 R9 h a1 else bd (hQ h o0 [(10, 3)]) fun v10 => bd (aQ h v10 5 a2) fun v12 => gd (hC h v12 = some 10) (bd (R9 h v12) fun p14 => K4 h o0 (wr (a1 + p14)) (wr (a2 + 1))))
theorem wX10_size_b4 {N : Nx} {h : hS} {r : Int} (d9 : Nat) (R9 : hS → Option Nat → Option (Int)) (hR9 : ∀  {h : hS} {r : Int} {o0 : Option Nat} , R9 h o0 = some (r) → CtX (nG N) yX10_size cX10_size 3 (some .int) (d9 + 0) (22 * d9 + 0) [] [] h [tr o0] (some (ti r)) [] h) (E : EndX N [] 3 (some .int) (some (ti r)) [] h) (K4 : hS → Option Nat → Int → Int → Option (Int)) (hK4 : ∀ (o0 : Option Nat) (a1 : Int) (a2 : Int) (ha1 : rI a1) (ha2 : rI a2), K4 h o0 a1 a2 = some (r) → AtPc cX10_size RX10 ((d9 + 1) + 0) (22 * (d9 + 1) + 0) N [] h 4 [(0, tr o0), (1, ti a1), (2, ti a2)] []) (o0 : Option Nat) (a1 : Int) (a2 : Int) (ha1 : rI a1) (ha2 : rI a2) (e : fX10_size_b4 R9 K4 h o0 a1 a2 = some (r)) : AtPc cX10_size RX10 ((d9 + 1) + 0) (22 * (d9 + 1) + 0) N [] h 4 [(0, tr o0), (1, ti a1), (2, ti a2)] [] := by
  unfold fX10_size_b4 at e
  refine r_rrs E.p (fun rr => ?_)
  refine r_aload_n dX10_size_4 rfl 0 rfl ?_
  obtain ⟨v1, q2, e⟩ := bd_o e
  refine r_getQ fG_X10_19 q2 dX10_size_5 ?_
  have eT := (r_ifno e).1
  have eF := (r_ifno e).2
  refine r_ifnull 40 dX10_size_8 (by decide) (fun c3 => ?_) (fun x4 c3 => ?_)
  · have e := eT c3
    refine r_sub [1] rfl ?_
    exact wX10_size_b40 d9 R9 hR9 E a1 ha1 e
  · have e := eF x4 c3
    refine r_iload_n dX10_size_11 rfl 2 rfl ?_
    refine r_aload_n dX10_size_12 rfl 0 rfl ?_
    obtain ⟨v5, q6, e⟩ := bd_o e
    refine r_getQ fG_X10_19 q6 dX10_size_13 ?_
    obtain ⟨v7, q8, e⟩ := bd_o e
    refine r_getI fG_X10_27 q8 dX10_size_16 ?_
    have eT := (r_ifo e).1
    have eF := (r_ifo e).2
    refine r_icmp_ge ha2 (hI_r rr q8) 40 dX10_size_19 (by decide) (fun c9 => ?_) (fun c9 => ?_)
    · have e := eT c9
      refine r_sub [1] rfl ?_
      exact wX10_size_b40 d9 R9 hR9 E a1 ha1 e
    · have e := eF c9
      refine r_iload_n dX10_size_22 rfl 1 rfl ?_
      refine r_aload_n dX10_size_23 rfl 0 rfl ?_
      obtain ⟨v10, q11, e⟩ := bd_o e
      refine r_getQ fG_X10_23 q11 dX10_size_24 ?_
      refine r_iload_n dX10_size_27 rfl 2 rfl ?_
      obtain ⟨v12, q13, e⟩ := bd_o e
      refine r_aQ ha2 q13 dX10_size_28 ?_
      obtain ⟨g16, e⟩ := gd_o e
      obtain ⟨p14, q15, e⟩ := bd_o e
      have k17 := hR9  q15
      have z18 := (k17 rr).1.2.2.2
      refine r_callVo (j := none) 0 [] (c := 10) (rc := (RX10, TX10, 4)) rfl g16 rfl k17 (injO_0 E.p) subO_0 getO_0 setO_0 (lw_V q985 q982 q983 q134 q984) (by decide +kernel) rfl (by omega) (by omega) rfl (Nat.le_of_ble_eq_true rfl) dX10_size_29 rfl ?_
      refine r_iadd dX10_size_32 ?_
      refine r_istore_n (lv' := [(1, ti (wr (a1 + p14))), (0, tr o0), (2, ti a2)]) dX10_size_33 rfl (E.lt (by decide)) rfl ?_
      refine r_iinc (lv' := [(2, ti (wr (a2 + 1))), (1, ti (wr (a1 + p14))), (0, tr o0)]) dX10_size_34 2 rfl (E.lt (by decide)) rfl ?_
      refine r_goto 4 dX10_size_37 (by decide) ?_
      refine r_sub [2, 1, 0] rfl ?_
      exact hK4 o0 (wr (a1 + p14)) (wr (a2 + 1)) (wr_r _) (wr_r _) e
def fX10_size_L4 (R9 : hS → Option Nat → Option (Int)) : Nat → hS → Option Nat → Int → Int → Option (Int)
  | 0, _, _, _, _ => none
  | n9 + 1, h, o0, a1, a2 => fX10_size_b4 R9 (fX10_size_L4 R9 n9) h o0 a1 a2
theorem wX10_size_L4 {N : Nx} {h : hS} {r : Int} (d9 : Nat) (R9 : hS → Option Nat → Option (Int)) (hR9 : ∀  {h : hS} {r : Int} {o0 : Option Nat} , R9 h o0 = some (r) → CtX (nG N) yX10_size cX10_size 3 (some .int) (d9 + 0) (22 * d9 + 0) [] [] h [tr o0] (some (ti r)) [] h) (E : EndX N [] 3 (some .int) (some (ti r)) [] h)  : ∀ (n9 : Nat), ∀ (o0 : Option Nat) (a1 : Int) (a2 : Int) (ha1 : rI a1) (ha2 : rI a2), fX10_size_L4 R9 n9 h o0 a1 a2 = some (r) → AtPc cX10_size RX10 ((d9 + 1) + 0) (22 * (d9 + 1) + 0) N [] h 4 [(0, tr o0), (1, ti a1), (2, ti a2)] [] := by
  intro n9
  induction n9 with
  | zero => intro o0 a1 a2 ha1 ha2 e; cases e
  | succ n9 ih => intro o0 a1 a2 ha1 ha2 e; exact wX10_size_b4 d9 R9 hR9 E _ ih o0 a1 a2 ha1 ha2 e
def fX10_size_B (R9 : hS → Option Nat → Option (Int)) (h : hS) (o0 : Option Nat) : Option (Int) := fX10_size_L4 R9 FU h o0 1 0
theorem kX10_size_B {G : Gx}  {h : hS} {r : Int} {o0 : Option Nat} (d9 : Nat) (R9 : hS → Option Nat → Option (Int)) (hR9 : ∀  {h : hS} {r : Int} {o0 : Option Nat} , R9 h o0 = some (r) → CtX G yX10_size cX10_size 3 (some .int) (d9 + 0) (22 * d9 + 0) [] [] h [tr o0] (some (ti r)) [] h)  (e : fX10_size_B R9 h o0 = some (r)) : CtX G yX10_size cX10_size 3 (some .int) ((d9 + 1) + 0) (22 * (d9 + 1) + 0) [] [] h [tr o0] (some (ti r)) [] h := by
  refine CtX.of (by decide) (Nat.le_of_ble_eq_true rfl) [(0, tr o0)] rfl ?_
  have E : EndX (G, 3, [], h, [], h, (some .int), (some (ti r)), yX10_size.name) [] 3 (some .int) (some (ti r)) [] h := ⟨rfl, rfl, rfl, rfl, rfl, rfl⟩
  unfold fX10_size_B at e
  refine r_rrs E.p (fun rr => ?_)
  refine r_iconst dX10_size_0 ?_
  refine r_istore_n (lv' := [(1, ti 1), (0, tr o0)]) dX10_size_1 rfl (E.lt (by decide)) rfl ?_
  refine r_iconst dX10_size_2 ?_
  refine r_istore_n (lv' := [(2, ti 0), (1, ti 1), (0, tr o0)]) dX10_size_3 rfl (E.lt (by decide)) rfl ?_
  refine r_sub [2, 1, 0] rfl ?_
  exact wX10_size_L4 d9 R9 hR9 E FU o0 1 0 (by decide) (by decide) e
def fX10_size : Nat → hS → Option Nat → Option (Int)
  | 0, _, _ => none
  | d9 + 1, h, o0 => fX10_size_B (fX10_size d9) h o0
theorem kX10_size {G : Gx} : ∀ (d9 : Nat), ∀  {h : hS} {r : Int} {o0 : Option Nat} , fX10_size d9 h o0 = some (r) → CtX G yX10_size cX10_size 3 (some .int) (d9 + 0) (22 * d9 + 0) [] [] h [tr o0] (some (ti r)) [] h := by
  intro d9
  induction d9 with
  | zero => intros; rename_i e; cases e
  | succ d9 ih => intros; exact kX10_size_B d9 _ ih (by assumption)
def fX9_need  (h : hS) (o0 : Option Nat) : Option (Int) := bd (hI h o0 [(9, 0)]) fun v1 => bd (hQ h o0 [(9, 1)]) fun v3 => gd (hC h v3 = some 7) (bd (fX7_variable h v3) fun p5 => some (wr ((wr (10 + (wr (2 * v1)))) + p5)))
theorem kX9_need {G : Gx}  {h : hS} {r : Int} {o0 : Option Nat}   (e : fX9_need h o0 = some (r)) : CtX G yX9_need cX9_need 1 (some .int) 2 40 [] [] h [tr o0] (some (ti r)) [] h := by
  refine CtX.of (by decide) (Nat.le_of_ble_eq_true rfl) [(0, tr o0)] rfl ?_
  have E : EndX (G, 1, [], h, [], h, (some .int), (some (ti r)), yX9_need.name) [] 1 (some .int) (some (ti r)) [] h := ⟨rfl, rfl, rfl, rfl, rfl, rfl⟩
  unfold fX9_need at e
  refine r_rrs E.p (fun rr => ?_)
  refine r_bipush dX9_need_0 (by decide) ?_
  refine r_iconst dX9_need_2 ?_
  refine r_aload_n dX9_need_3 rfl 0 rfl ?_
  obtain ⟨v1, q2, e⟩ := bd_o e
  refine r_getI fG_X9_9 q2 dX9_need_4 ?_
  refine r_imul dX9_need_7 ?_
  refine r_iadd dX9_need_8 ?_
  refine r_aload_n dX9_need_9 rfl 0 rfl ?_
  obtain ⟨v3, q4, e⟩ := bd_o e
  refine r_getQ fG_X9_15 q4 dX9_need_10 ?_
  obtain ⟨g7, e⟩ := gd_o e
  obtain ⟨p5, q6, e⟩ := bd_o e
  have k8 := kX7_variable (G := G)  q6
  have z9 := (k8 rr).1.2.2.2
  refine r_callVo (j := none) 0 [] (c := 7) (rc := (RX7, TX7, 3)) rfl g7 rfl k8 (injO_0 E.p) subO_0 getO_0 setO_0 (lw_V q994 q515 q516 q124 q517) (by decide +kernel) rfl (Nat.le_of_ble_eq_true rfl) (Nat.le_of_ble_eq_true rfl) rfl (Nat.le_of_ble_eq_true rfl) dX9_need_13 rfl ?_
  refine r_iadd dX9_need_16 ?_
  cases e
  exact r_iret E.σ E.st E.rt E.r (wr_r _) dX9_need_17
theorem fG_X10_9 : FldG RX10 9 [(10, 0)] := List.forall_mem_cons.mpr ⟨⟨RX10, TX10, 4, "DictProof$Proof", rfl, in_X10, by decide, q891, Or.inl rfl⟩, fun _ h => absurd h List.not_mem_nil⟩
theorem fG_X10_41 : FldG RX10 41 [(1, 0), (2, 0), (3, 0), (4, 0), (5, 0)] := List.forall_mem_cons.mpr ⟨⟨RX1, TX1, 6, "DictProof$Instance", rfl, in_X1, by decide, q159, Or.inl rfl⟩, List.forall_mem_cons.mpr ⟨⟨RX2, TX2, 6, "DictProof$Instance", rfl, in_X2, by decide, q159, Or.inl rfl⟩, List.forall_mem_cons.mpr ⟨⟨RX3, TX3, 6, "DictProof$Instance", rfl, in_X3, by decide, q159, Or.inl rfl⟩, List.forall_mem_cons.mpr ⟨⟨RX4, TX4, 6, "DictProof$Instance", rfl, in_X4, by decide, q159, Or.inl rfl⟩, List.forall_mem_cons.mpr ⟨⟨RX5, TX5, 6, "DictProof$Instance", rfl, in_X5, by decide, q159, Or.inl rfl⟩, fun _ h => absurd h List.not_mem_nil⟩⟩⟩⟩⟩
def fX10_worth_b30 (R9 : hS → Option Nat → Option (Int)) (K30 : hS → Option Nat → Int → Int → Option (Int)) (h : hS) (o0 : Option Nat) (a1 : Int) (a2 : Int) : Option (Int) := bd (hQ h o0 [(10, 2)]) fun v1 => bd (hI h v1 [(1, 5), (2, 5), (3, 5), (4, 5), (5, 5)]) fun v3 => if v3 ≤ a2 then some (irm a1 1009) else bd (hQ h o0 [(10, 3)]) fun v6 => bd (aQ h v6 5 a2) fun v8 => gd (hC h v8 = some 10) (bd (R9 h v8) fun p10 => K30 h o0 (wr (a1 + (wr ((wr (a2 + 2)) * p10)))) (wr (a2 + 1)))
theorem wX10_worth_b30 {N : Nx} {h : hS} {r : Int} (d9 : Nat) (R9 : hS → Option Nat → Option (Int)) (hR9 : ∀  {h : hS} {r : Int} {o0 : Option Nat} , R9 h o0 = some (r) → CtX (nG N) yX10_worth cX10_worth 3 (some .int) (d9 + 3) (22 * d9 + 60) [] [] h [tr o0] (some (ti r)) [] h) (E : EndX N [] 3 (some .int) (some (ti r)) [] h) (K30 : hS → Option Nat → Int → Int → Option (Int)) (hK30 : ∀ (o0 : Option Nat) (a1 : Int) (a2 : Int) (ha1 : rI a1) (ha2 : rI a2), K30 h o0 a1 a2 = some (r) → AtPc cX10_worth RX10 ((d9 + 1) + 3) (22 * (d9 + 1) + 60) N [] h 30 [(0, tr o0), (1, ti a1), (2, ti a2)] []) (o0 : Option Nat) (a1 : Int) (a2 : Int) (ha1 : rI a1) (ha2 : rI a2) (e : fX10_worth_b30 R9 K30 h o0 a1 a2 = some (r)) : AtPc cX10_worth RX10 ((d9 + 1) + 3) (22 * (d9 + 1) + 60) N [] h 30 [(0, tr o0), (1, ti a1), (2, ti a2)] [] := by
  unfold fX10_worth_b30 at e
  refine r_rrs E.p (fun rr => ?_)
  refine r_iload_n dX10_worth_30 rfl 2 rfl ?_
  refine r_aload_n dX10_worth_31 rfl 0 rfl ?_
  obtain ⟨v1, q2, e⟩ := bd_o e
  refine r_getQ fG_X10_19 q2 dX10_worth_32 ?_
  obtain ⟨v3, q4, e⟩ := bd_o e
  refine r_getI fG_X10_27 q4 dX10_worth_35 ?_
  have eT := (r_ifo e).1
  have eF := (r_ifo e).2
  refine r_icmp_ge ha2 (hI_r rr q4) 63 dX10_worth_38 (by decide) (fun c5 => ?_) (fun c5 => ?_)
  · have e := eT c5
    refine r_iload_n dX10_worth_63 rfl 1 rfl ?_
    refine r_sipush dX10_worth_64 (by decide) ?_
    refine r_irem (by decide) (by decide) dX10_worth_67 ?_
    cases e
    exact r_iret E.σ E.st E.rt E.r (irm_r _ _) dX10_worth_68
  · have e := eF c5
    refine r_iload_n dX10_worth_41 rfl 1 rfl ?_
    refine r_iload_n dX10_worth_42 rfl 2 rfl ?_
    refine r_iconst dX10_worth_43 ?_
    refine r_iadd dX10_worth_44 ?_
    refine r_aload_n dX10_worth_45 rfl 0 rfl ?_
    obtain ⟨v6, q7, e⟩ := bd_o e
    refine r_getQ fG_X10_23 q7 dX10_worth_46 ?_
    refine r_iload_n dX10_worth_49 rfl 2 rfl ?_
    obtain ⟨v8, q9, e⟩ := bd_o e
    refine r_aQ ha2 q9 dX10_worth_50 ?_
    obtain ⟨g12, e⟩ := gd_o e
    obtain ⟨p10, q11, e⟩ := bd_o e
    have k13 := hR9  q11
    have z14 := (k13 rr).1.2.2.2
    refine r_callVo (j := none) 0 [] (c := 10) (rc := (RX10, TX10, 4)) rfl g12 rfl k13 (injO_0 E.p) subO_0 getO_0 setO_0 (lw_V q995 q987 q988 q134 q989) (by decide +kernel) rfl (by omega) (by omega) rfl (Nat.le_of_ble_eq_true rfl) dX10_worth_51 rfl ?_
    refine r_imul dX10_worth_54 ?_
    refine r_iadd dX10_worth_55 ?_
    refine r_istore_n (lv' := [(1, ti (wr (a1 + (wr ((wr (a2 + 2)) * p10))))), (0, tr o0), (2, ti a2)]) dX10_worth_56 rfl (E.lt (by decide)) rfl ?_
    refine r_iinc (lv' := [(2, ti (wr (a2 + 1))), (1, ti (wr (a1 + (wr ((wr (a2 + 2)) * p10))))), (0, tr o0)]) dX10_worth_57 2 rfl (E.lt (by decide)) rfl ?_
    refine r_goto 30 dX10_worth_60 (by decide) ?_
    refine r_sub [2, 1, 0] rfl ?_
    exact hK30 o0 (wr (a1 + (wr ((wr (a2 + 2)) * p10)))) (wr (a2 + 1)) (wr_r _) (wr_r _) e
def fX10_worth_L30 (R9 : hS → Option Nat → Option (Int)) : Nat → hS → Option Nat → Int → Int → Option (Int)
  | 0, _, _, _, _ => none
  | n9 + 1, h, o0, a1, a2 => fX10_worth_b30 R9 (fX10_worth_L30 R9 n9) h o0 a1 a2
theorem wX10_worth_L30 {N : Nx} {h : hS} {r : Int} (d9 : Nat) (R9 : hS → Option Nat → Option (Int)) (hR9 : ∀  {h : hS} {r : Int} {o0 : Option Nat} , R9 h o0 = some (r) → CtX (nG N) yX10_worth cX10_worth 3 (some .int) (d9 + 3) (22 * d9 + 60) [] [] h [tr o0] (some (ti r)) [] h) (E : EndX N [] 3 (some .int) (some (ti r)) [] h)  : ∀ (n9 : Nat), ∀ (o0 : Option Nat) (a1 : Int) (a2 : Int) (ha1 : rI a1) (ha2 : rI a2), fX10_worth_L30 R9 n9 h o0 a1 a2 = some (r) → AtPc cX10_worth RX10 ((d9 + 1) + 3) (22 * (d9 + 1) + 60) N [] h 30 [(0, tr o0), (1, ti a1), (2, ti a2)] [] := by
  intro n9
  induction n9 with
  | zero => intro o0 a1 a2 ha1 ha2 e; cases e
  | succ n9 ih => intro o0 a1 a2 ha1 ha2 e; exact wX10_worth_b30 d9 R9 hR9 E _ ih o0 a1 a2 ha1 ha2 e
def fX10_worth_B (R9 : hS → Option Nat → Option (Int)) (h : hS) (o0 : Option Nat) : Option (Int) := bd (hQ h o0 [(10, 2)]) fun v1 => ifN v1 (bd (hQ h o0 [(10, 0)]) fun v5 => gd (hC h v5 = some 9) (bd (fX9_need h v5) fun p7 => some p7)) (fun _ => bd (hQ h o0 [(10, 2)]) fun v12 => bd (hI h v12 [(1, 0), (2, 0), (3, 0), (4, 0), (5, 0)]) fun v14 => fX10_worth_L30 R9 FU h o0 (wr (7 * (wr (v14 + 1)))) 0)
theorem kX10_worth_B {G : Gx}  {h : hS} {r : Int} {o0 : Option Nat} (d9 : Nat) (R9 : hS → Option Nat → Option (Int)) (hR9 : ∀  {h : hS} {r : Int} {o0 : Option Nat} , R9 h o0 = some (r) → CtX G yX10_worth cX10_worth 3 (some .int) (d9 + 3) (22 * d9 + 60) [] [] h [tr o0] (some (ti r)) [] h)  (e : fX10_worth_B R9 h o0 = some (r)) : CtX G yX10_worth cX10_worth 3 (some .int) ((d9 + 1) + 3) (22 * (d9 + 1) + 60) [] [] h [tr o0] (some (ti r)) [] h := by
  refine CtX.of (by decide) (Nat.le_of_ble_eq_true rfl) [(0, tr o0)] rfl ?_
  have E : EndX (G, 3, [], h, [], h, (some .int), (some (ti r)), yX10_worth.name) [] 3 (some .int) (some (ti r)) [] h := ⟨rfl, rfl, rfl, rfl, rfl, rfl⟩
  unfold fX10_worth_B at e
  refine r_rrs E.p (fun rr => ?_)
  refine r_aload_n dX10_worth_0 rfl 0 rfl ?_
  obtain ⟨v1, q2, e⟩ := bd_o e
  refine r_getQ fG_X10_19 q2 dX10_worth_1 ?_
  have eT := (r_ifno e).1
  have eF := (r_ifno e).2
  refine r_ifnonnull 15 dX10_worth_4 (by decide) (fun c3 => ?_) (fun x4 c3 => ?_)
  · have e := eT c3
    refine r_aload_n dX10_worth_7 rfl 0 rfl ?_
    obtain ⟨v5, q6, e⟩ := bd_o e
    refine r_getQ fG_X10_9 q6 dX10_worth_8 ?_
    obtain ⟨g9, e⟩ := gd_o e
    obtain ⟨p7, q8, e⟩ := bd_o e
    have k10 := kX9_need (G := G)  q8
    have z11 := (k10 rr).1.2.2.2
    refine r_callVo (j := none) 0 [] (c := 9) (rc := (RX9, TX9, 2)) rfl g9 rfl k10 (injO_0 E.p) subO_0 getO_0 setO_0 (lw_V q990 q991 q992 q133 q993) (by decide +kernel) rfl (by omega) (by omega) rfl (Nat.le_of_ble_eq_true rfl) dX10_worth_11 rfl ?_
    cases e
    exact r_iret E.σ E.st E.rt E.r z11 dX10_worth_14
  · have e := eF x4 c3
    refine r_bipush dX10_worth_15 (by decide) ?_
    refine r_aload_n dX10_worth_17 rfl 0 rfl ?_
    obtain ⟨v12, q13, e⟩ := bd_o e
    refine r_getQ fG_X10_19 q13 dX10_worth_18 ?_
    obtain ⟨v14, q15, e⟩ := bd_o e
    refine r_getI fG_X10_41 q15 dX10_worth_21 ?_
    refine r_iconst dX10_worth_24 ?_
    refine r_iadd dX10_worth_25 ?_
    refine r_imul dX10_worth_26 ?_
    refine r_istore_n (lv' := [(1, ti (wr (7 * (wr (v14 + 1))))), (0, tr o0)]) dX10_worth_27 rfl (E.lt (by decide)) rfl ?_
    refine r_iconst dX10_worth_28 ?_
    refine r_istore_n (lv' := [(2, ti 0), (1, ti (wr (7 * (wr (v14 + 1))))), (0, tr o0)]) dX10_worth_29 rfl (E.lt (by decide)) rfl ?_
    refine r_sub [2, 1, 0] rfl ?_
    exact wX10_worth_L30 d9 R9 hR9 E FU o0 (wr (7 * (wr (v14 + 1)))) 0 (wr_r _) (by decide) e
def fX10_worth : Nat → hS → Option Nat → Option (Int)
  | 0, _, _ => none
  | d9 + 1, h, o0 => fX10_worth_B (fX10_worth d9) h o0
theorem kX10_worth {G : Gx} : ∀ (d9 : Nat), ∀  {h : hS} {r : Int} {o0 : Option Nat} , fX10_worth d9 h o0 = some (r) → CtX G yX10_worth cX10_worth 3 (some .int) (d9 + 3) (22 * d9 + 60) [] [] h [tr o0] (some (ti r)) [] h := by
  intro d9
  induction d9 with
  | zero => intros; rename_i e; cases e
  | succ d9 ih => intros; exact kX10_worth_B d9 _ ih (by assumption)
def fX10_gather_b45 (R9 : Option Nat × Option Nat → hS → Option Nat → Option Nat → Option (hS)) (gs : Option Nat × Option Nat) (h : hS) : Option (hS) := some h
theorem wX10_gather_b45 {N : Nx} {h' : hS} (d9 : Nat) (R9 : Option Nat × Option Nat → hS → Option Nat → Option Nat → Option (hS)) (hR9 : ∀  {h' : hS} {h : hS} {o0 : Option Nat} {o1 : Option Nat} , R9 (nG N).2.2.2 h o0 o1 = some (h') → CtX (nG N) yX10_gather cX10_gather 3 none (d9 + 22) (22 * d9 + 506) [] [] h [tr o0, tr o1] none [] h') (E : EndX N [] 3 none none [] h')  (h : hS) (e : fX10_gather_b45 R9 (nG N).2.2.2 h = some (h')) : AtPc cX10_gather RX10 ((d9 + 1) + 22) (22 * (d9 + 1) + 506) N [] h 45 [] [] := by
  unfold fX10_gather_b45 at e
  refine r_rrs E.p (fun rr => ?_)
  cases e
  exact r_vret E.σ E.st E.rt E.r dX10_gather_45
def fX10_gather_b11 (R9 : Option Nat × Option Nat → hS → Option Nat → Option Nat → Option (hS)) (K11 : Option Nat × Option Nat → hS → Option Nat → Option Nat → Int → Option (hS)) (gs : Option Nat × Option Nat) (h : hS) (o0 : Option Nat) (o1 : Option Nat) (a2 : Int) : Option (hS) := bd (hQ h o0 [(10, 2)]) fun v1 => ifN v1 (fX10_gather_b45 R9 gs h) (fun _ => bd (hQ h o0 [(10, 2)]) fun v5 => bd (hI h v5 [(1, 5), (2, 5), (3, 5), (4, 5), (5, 5)]) fun v7 => if v7 ≤ a2 then fX10_gather_b45 R9 gs h else bd (hQ h o0 [(10, 3)]) fun v10 => bd (aQ h v10 5 a2) fun v12 => gd (hC h v12 = some 10) (bd (R9 gs h v12 o1) fun p14 => K11 gs p14 o0 o1 (wr (a2 + 1))))
theorem wX10_gather_b11 {N : Nx} {h' : hS} (d9 : Nat) (R9 : Option Nat × Option Nat → hS → Option Nat → Option Nat → Option (hS)) (hR9 : ∀  {h' : hS} {h : hS} {o0 : Option Nat} {o1 : Option Nat} , R9 (nG N).2.2.2 h o0 o1 = some (h') → CtX (nG N) yX10_gather cX10_gather 3 none (d9 + 22) (22 * d9 + 506) [] [] h [tr o0, tr o1] none [] h') (E : EndX N [] 3 none none [] h') (K11 : Option Nat × Option Nat → hS → Option Nat → Option Nat → Int → Option (hS)) (hK11 : ∀ (h : hS) (o0 : Option Nat) (o1 : Option Nat) (a2 : Int) (ha2 : rI a2), K11 (nG N).2.2.2 h o0 o1 a2 = some (h') → AtPc cX10_gather RX10 ((d9 + 1) + 22) (22 * (d9 + 1) + 506) N [] h 11 [(0, tr o0), (1, tr o1), (2, ti a2)] []) (h : hS) (o0 : Option Nat) (o1 : Option Nat) (a2 : Int) (ha2 : rI a2) (e : fX10_gather_b11 R9 K11 (nG N).2.2.2 h o0 o1 a2 = some (h')) : AtPc cX10_gather RX10 ((d9 + 1) + 22) (22 * (d9 + 1) + 506) N [] h 11 [(0, tr o0), (1, tr o1), (2, ti a2)] [] := by
  unfold fX10_gather_b11 at e
  refine r_rrs E.p (fun rr => ?_)
  refine r_aload_n dX10_gather_11 rfl 0 rfl ?_
  obtain ⟨v1, q2, e⟩ := bd_o e
  refine r_getQ fG_X10_19 q2 dX10_gather_12 ?_
  have eT := (r_ifno e).1
  have eF := (r_ifno e).2
  refine r_ifnull 45 dX10_gather_15 (by decide) (fun c3 => ?_) (fun x4 c3 => ?_)
  · have e := eT c3
    refine r_sub [] rfl ?_
    exact wX10_gather_b45 d9 R9 hR9 E h e
  · have e := eF x4 c3
    refine r_iload_n dX10_gather_18 rfl 2 rfl ?_
    refine r_aload_n dX10_gather_19 rfl 0 rfl ?_
    obtain ⟨v5, q6, e⟩ := bd_o e
    refine r_getQ fG_X10_19 q6 dX10_gather_20 ?_
    obtain ⟨v7, q8, e⟩ := bd_o e
    refine r_getI fG_X10_27 q8 dX10_gather_23 ?_
    have eT := (r_ifo e).1
    have eF := (r_ifo e).2
    refine r_icmp_ge ha2 (hI_r rr q8) 45 dX10_gather_26 (by decide) (fun c9 => ?_) (fun c9 => ?_)
    · have e := eT c9
      refine r_sub [] rfl ?_
      exact wX10_gather_b45 d9 R9 hR9 E h e
    · have e := eF c9
      refine r_aload_n dX10_gather_29 rfl 0 rfl ?_
      obtain ⟨v10, q11, e⟩ := bd_o e
      refine r_getQ fG_X10_23 q11 dX10_gather_30 ?_
      refine r_iload_n dX10_gather_33 rfl 2 rfl ?_
      obtain ⟨v12, q13, e⟩ := bd_o e
      refine r_aQ ha2 q13 dX10_gather_34 ?_
      refine r_aload_n dX10_gather_35 rfl 1 rfl ?_
      obtain ⟨g16, e⟩ := gd_o e
      obtain ⟨p14, q15, e⟩ := bd_o e
      have k17 := hR9  q15
      have z18 := (k17 rr).1.2.2.2
      refine r_callVo (j := none) 1 [tr o1] (c := 10) (rc := (RX10, TX10, 4)) rfl g16 rfl k17 (injO_0 E.p) subO_0 getO_0 setO_0 (lw_V q1028 q1018 q1019 q134 q1020) (by decide +kernel) rfl (by omega) (by omega) rfl (Nat.le_of_ble_eq_true rfl) dX10_gather_36 rfl ?_
      refine r_rrs E.p (fun rr19 => ?_)
      refine r_iinc (lv' := [(2, ti (wr (a2 + 1))), (0, tr o0), (1, tr o1)]) dX10_gather_39 2 rfl (E.lt (by decide)) rfl ?_
      refine r_goto 11 dX10_gather_42 (by decide) ?_
      refine r_sub [1, 2, 0] rfl ?_
      exact hK11 p14 o0 o1 (wr (a2 + 1)) (wr_r _) e
def fX10_gather_L11 (R9 : Option Nat × Option Nat → hS → Option Nat → Option Nat → Option (hS)) : Nat → Option Nat × Option Nat → hS → Option Nat → Option Nat → Int → Option (hS)
  | 0, _, _, _, _, _ => none
  | n9 + 1, gs, h, o0, o1, a2 => fX10_gather_b11 R9 (fX10_gather_L11 R9 n9) gs h o0 o1 a2
theorem wX10_gather_L11 {N : Nx} {h' : hS} (d9 : Nat) (R9 : Option Nat × Option Nat → hS → Option Nat → Option Nat → Option (hS)) (hR9 : ∀  {h' : hS} {h : hS} {o0 : Option Nat} {o1 : Option Nat} , R9 (nG N).2.2.2 h o0 o1 = some (h') → CtX (nG N) yX10_gather cX10_gather 3 none (d9 + 22) (22 * d9 + 506) [] [] h [tr o0, tr o1] none [] h') (E : EndX N [] 3 none none [] h')  : ∀ (n9 : Nat), ∀ (h : hS) (o0 : Option Nat) (o1 : Option Nat) (a2 : Int) (ha2 : rI a2), fX10_gather_L11 R9 n9 (nG N).2.2.2 h o0 o1 a2 = some (h') → AtPc cX10_gather RX10 ((d9 + 1) + 22) (22 * (d9 + 1) + 506) N [] h 11 [(0, tr o0), (1, tr o1), (2, ti a2)] [] := by
  intro n9
  induction n9 with
  | zero => intro h o0 o1 a2 ha2 e; cases e
  | succ n9 ih => intro h o0 o1 a2 ha2 e; exact wX10_gather_b11 d9 R9 hR9 E _ ih h o0 o1 a2 ha2 e
def fX10_gather_B (R9 : Option Nat × Option Nat → hS → Option Nat → Option Nat → Option (hS)) (gs : Option Nat × Option Nat) (h : hS) (o0 : Option Nat) (o1 : Option Nat) : Option (hS) := bd (hQ h o0 [(10, 0)]) fun v1 => gd (hC h o1 = some 14) (bd (fJ15_add gs h o1 v1) fun p3 => fX10_gather_L11 R9 FU gs p3.2 o0 o1 0)
theorem kX10_gather_B {G : Gx}  {h' : hS} {h : hS} {o0 : Option Nat} {o1 : Option Nat} (d9 : Nat) (R9 : Option Nat × Option Nat → hS → Option Nat → Option Nat → Option (hS)) (hR9 : ∀  {h' : hS} {h : hS} {o0 : Option Nat} {o1 : Option Nat} , R9 G.2.2.2 h o0 o1 = some (h') → CtX G yX10_gather cX10_gather 3 none (d9 + 22) (22 * d9 + 506) [] [] h [tr o0, tr o1] none [] h')  (e : fX10_gather_B R9 G.2.2.2 h o0 o1 = some (h')) : CtX G yX10_gather cX10_gather 3 none ((d9 + 1) + 22) (22 * (d9 + 1) + 506) [] [] h [tr o0, tr o1] none [] h' := by
  refine CtX.of (by decide) (Nat.le_of_ble_eq_true rfl) [(0, tr o0), (1, tr o1)] rfl ?_
  have E : EndX (G, 3, [], h, [], h', none, none, yX10_gather.name) [] 3 none none [] h' := ⟨rfl, rfl, rfl, rfl, rfl, rfl⟩
  unfold fX10_gather_B at e
  refine r_rrs E.p (fun rr => ?_)
  refine r_aload_n dX10_gather_0 rfl 1 rfl ?_
  refine r_aload_n dX10_gather_1 rfl 0 rfl ?_
  obtain ⟨v1, q2, e⟩ := bd_o e
  refine r_getQ fG_X10_9 q2 dX10_gather_2 ?_
  obtain ⟨g5, e⟩ := gd_o e
  obtain ⟨p3, q4, e⟩ := bd_o e
  have k6 := kJ15_add (G := G)  q4
  have z7 := (k6 rr).1.2.2.2
  refine r_callVo (j := none) 1 [tr v1] (c := 14) (rc := (RJ15, TJ15, 1)) rfl g5 rfl k6 (injO_0 E.p) subO_0 getO_0 setO_0 (lw_V q1021 q1022 q1023 q143 q1024) (by decide +kernel) rfl (by omega) (by omega) rfl (Nat.le_of_ble_eq_true rfl) dX10_gather_5 rfl ?_
  refine r_rrs E.p (fun rr8 => ?_)
  refine r_pop dX10_gather_8 rfl ?_
  refine r_iconst dX10_gather_9 ?_
  refine r_istore_n (lv' := [(2, ti 0), (0, tr o0), (1, tr o1)]) dX10_gather_10 rfl (E.lt (by decide)) rfl ?_
  refine r_sub [1, 2, 0] rfl ?_
  exact wX10_gather_L11 d9 R9 hR9 E FU p3.2 o0 o1 0 (by decide) e
def fX10_gather : Nat → Option Nat × Option Nat → hS → Option Nat → Option Nat → Option (hS)
  | 0, _, _, _, _ => none
  | d9 + 1, gs, h, o0, o1 => fX10_gather_B (fX10_gather d9) gs h o0 o1
theorem kX10_gather {G : Gx} : ∀ (d9 : Nat), ∀  {h' : hS} {h : hS} {o0 : Option Nat} {o1 : Option Nat} , fX10_gather d9 G.2.2.2 h o0 o1 = some (h') → CtX G yX10_gather cX10_gather 3 none (d9 + 22) (22 * d9 + 506) [] [] h [tr o0, tr o1] none [] h' := by
  intro d9
  induction d9 with
  | zero => intros; rename_i e; cases e
  | succ d9 ih => intros; exact kX10_gather_B d9 _ ih (by assumption)
def fX0_different  (gs : Option Nat × Option Nat) (h : hS) (o0 : Option Nat) : Option (Int × hS) := bd (nwS h 14 [vq none]) fun p1 => bd (fJ15_init p1.2 (some p1.1)) fun p4 => gd (hC p4 o0 = some 10) (bd (fX10_gather 16 gs p4 o0 (some p1.1)) fun p9 => gd (hC p9 (some p1.1) = some 14) (bd (fJ15_size p9 (some p1.1)) fun p15 => some (p15, p9)))
theorem kX0_different {G : Gx}  {h' : hS} {r : Int} {h : hS} {o0 : Option Nat}   (e : fX0_different G.2.2.2 h o0 = some (r, h')) : CtX G yX0_different cX0_different 2 (some .int) 39 880 [] [] h [tr o0] (some (ti r)) [] h' := by
  refine CtX.of (by decide) (Nat.le_of_ble_eq_true rfl) [(0, tr o0)] rfl ?_
  have E : EndX (G, 2, [], h, [], h', (some .int), (some (ti r)), yX0_different.name) [] 2 (some .int) (some (ti r)) [] h' := ⟨rfl, rfl, rfl, rfl, rfl, rfl⟩
  unfold fX0_different at e
  refine r_rrs E.p (fun rr => ?_)
  obtain ⟨p1, q2, e⟩ := bd_o e
  refine r_newS [vq none] q2 rfl in_J15 tyJ15_ok q999 q1000 q143 (by decide +kernel) rfl (by decide +kernel) dX0_different_0 ?_
  refine r_rrs E.p (fun rr3 => ?_)
  refine r_dup dX0_different_3 rfl ?_
  obtain ⟨p4, q5, e⟩ := bd_o e
  have k6 := kJ15_init (G := G)  q5
  have z7 := (k6 rr3).1.2.2.2
  refine r_callIo (j := none) 0 [] (fun q => by cases q) rfl rfl k6 (injO_0 E.p) subO_0 getO_0 setO_0 q1003 q143 q1001 q1002 (by decide +kernel) rfl (Nat.le_of_ble_eq_true rfl) (Nat.le_of_ble_eq_true rfl) rfl (Nat.le_of_ble_eq_true rfl) dX0_different_4 rfl ?_
  refine r_rrs E.p (fun rr8 => ?_)
  refine r_astore_n (lv' := [(1, tr (some p1.1)), (0, tr o0)]) dX0_different_7 rfl (E.lt (by decide)) rfl ?_
  refine r_aload_n dX0_different_8 rfl 1 rfl ?_
  refine r_aload_n dX0_different_9 rfl 0 rfl ?_
  obtain ⟨g11, e⟩ := gd_o e
  obtain ⟨p9, q10, e⟩ := bd_o e
  have k12 := kX10_gather (G := G) 16  q10
  have z13 := (k12 rr8).1.2.2.2
  refine r_callVo (j := none) 1 [tr (some p1.1)] (c := 10) (rc := (RX10, TX10, 4)) rfl g11 rfl k12 (injO_0 E.p) subO_0 getO_0 setO_0 (lw_V q1017 q1018 q1019 q134 q1020) (by decide +kernel) rfl (Nat.le_of_ble_eq_true rfl) (Nat.le_of_ble_eq_true rfl) rfl (Nat.le_of_ble_eq_true rfl) dX0_different_10 rfl ?_
  refine r_rrs E.p (fun rr14 => ?_)
  refine r_aload_n dX0_different_13 rfl 0 rfl ?_
  obtain ⟨g17, e⟩ := gd_o e
  obtain ⟨p15, q16, e⟩ := bd_o e
  have k18 := kJ15_size (G := G)  q16
  have z19 := (k18 rr14).1.2.2.2
  refine r_callVo (j := none) 0 [] (c := 14) (rc := (RJ15, TJ15, 1)) rfl g17 rfl k18 (injO_0 E.p) subO_0 getO_0 setO_0 (lw_V q1029 q1030 q1031 q143 q1032) (by decide +kernel) rfl (Nat.le_of_ble_eq_true rfl) (Nat.le_of_ble_eq_true rfl) rfl (Nat.le_of_ble_eq_true rfl) dX0_different_14 rfl ?_
  cases e
  exact r_iret E.σ E.st E.rt E.r z19 dX0_different_17
def fX10_depth_b42 (R9 : hS → Option Nat → Option (Int)) (h : hS) (a1 : Int) : Option (Int) := some (wr (a1 + 1))
theorem wX10_depth_b42 {N : Nx} {h : hS} {r : Int} (d9 : Nat) (R9 : hS → Option Nat → Option (Int)) (hR9 : ∀  {h : hS} {r : Int} {o0 : Option Nat} , R9 h o0 = some (r) → CtX (nG N) yX10_depth cX10_depth 3 (some .int) (d9 + 1) (22 * d9 + 21) [] [] h [tr o0] (some (ti r)) [] h) (E : EndX N [] 3 (some .int) (some (ti r)) [] h)  (a1 : Int) (ha1 : rI a1) (e : fX10_depth_b42 R9 h a1 = some (r)) : AtPc cX10_depth RX10 ((d9 + 1) + 1) (22 * (d9 + 1) + 21) N [] h 42 [(1, ti a1)] [] := by
  unfold fX10_depth_b42 at e
  refine r_rrs E.p (fun rr => ?_)
  refine r_iload_n dX10_depth_42 rfl 0 rfl ?_
  refine r_iconst dX10_depth_43 ?_
  refine r_iadd dX10_depth_44 ?_
  cases e
  exact r_iret E.σ E.st E.rt E.r (wr_r _) dX10_depth_45
def fX10_depth_b4 (R9 : hS → Option Nat → Option (Int)) (K4 : hS → Option Nat → Int → Int → Option (Int)) (h : hS) (o0 : Option Nat) (a1 : Int) (a2 : Int) : Option (Int) := bd (hQ h o0 [(10, 2)]) fun v1 => ifN v1 (fX10_depth_b42 R9 h a1) (fun _ => bd (hQ h o0 [(10, 2)]) fun v5 => bd (hI h v5 [(1, 5), (2, 5), (3, 5), (4, 5), (5, 5)]) fun v7 => if v7 ≤ a2 then fX10_depth_b42 R9 h a1 else bd (hQ h o0 [(10, 3)]) fun v10 => bd (aQ h v10 5 a2) fun v12 => gd (hC h v12 = some 10) (bd (R9 h v12) fun p14 => K4 h o0 (mmax a1 p14) (wr (a2 + 1))))
theorem wX10_depth_b4 {N : Nx} {h : hS} {r : Int} (d9 : Nat) (R9 : hS → Option Nat → Option (Int)) (hR9 : ∀  {h : hS} {r : Int} {o0 : Option Nat} , R9 h o0 = some (r) → CtX (nG N) yX10_depth cX10_depth 3 (some .int) (d9 + 1) (22 * d9 + 21) [] [] h [tr o0] (some (ti r)) [] h) (E : EndX N [] 3 (some .int) (some (ti r)) [] h) (K4 : hS → Option Nat → Int → Int → Option (Int)) (hK4 : ∀ (o0 : Option Nat) (a1 : Int) (a2 : Int) (ha1 : rI a1) (ha2 : rI a2), K4 h o0 a1 a2 = some (r) → AtPc cX10_depth RX10 ((d9 + 1) + 1) (22 * (d9 + 1) + 21) N [] h 4 [(0, tr o0), (1, ti a1), (2, ti a2)] []) (o0 : Option Nat) (a1 : Int) (a2 : Int) (ha1 : rI a1) (ha2 : rI a2) (e : fX10_depth_b4 R9 K4 h o0 a1 a2 = some (r)) : AtPc cX10_depth RX10 ((d9 + 1) + 1) (22 * (d9 + 1) + 21) N [] h 4 [(0, tr o0), (1, ti a1), (2, ti a2)] [] := by
  unfold fX10_depth_b4 at e
  refine r_rrs E.p (fun rr => ?_)
  refine r_aload_n dX10_depth_4 rfl 0 rfl ?_
  obtain ⟨v1, q2, e⟩ := bd_o e
  refine r_getQ fG_X10_19 q2 dX10_depth_5 ?_
  have eT := (r_ifno e).1
  have eF := (r_ifno e).2
  refine r_ifnull 42 dX10_depth_8 (by decide) (fun c3 => ?_) (fun x4 c3 => ?_)
  · have e := eT c3
    refine r_sub [1] rfl ?_
    exact wX10_depth_b42 d9 R9 hR9 E a1 ha1 e
  · have e := eF x4 c3
    refine r_iload_n dX10_depth_11 rfl 2 rfl ?_
    refine r_aload_n dX10_depth_12 rfl 0 rfl ?_
    obtain ⟨v5, q6, e⟩ := bd_o e
    refine r_getQ fG_X10_19 q6 dX10_depth_13 ?_
    obtain ⟨v7, q8, e⟩ := bd_o e
    refine r_getI fG_X10_27 q8 dX10_depth_16 ?_
    have eT := (r_ifo e).1
    have eF := (r_ifo e).2
    refine r_icmp_ge ha2 (hI_r rr q8) 42 dX10_depth_19 (by decide) (fun c9 => ?_) (fun c9 => ?_)
    · have e := eT c9
      refine r_sub [1] rfl ?_
      exact wX10_depth_b42 d9 R9 hR9 E a1 ha1 e
    · have e := eF c9
      refine r_iload_n dX10_depth_22 rfl 1 rfl ?_
      refine r_aload_n dX10_depth_23 rfl 0 rfl ?_
      obtain ⟨v10, q11, e⟩ := bd_o e
      refine r_getQ fG_X10_23 q11 dX10_depth_24 ?_
      refine r_iload_n dX10_depth_27 rfl 2 rfl ?_
      obtain ⟨v12, q13, e⟩ := bd_o e
      refine r_aQ ha2 q13 dX10_depth_28 ?_
      obtain ⟨g16, e⟩ := gd_o e
      obtain ⟨p14, q15, e⟩ := bd_o e
      have k17 := hR9  q15
      have z18 := (k17 rr).1.2.2.2
      refine r_callVo (j := none) 0 [] (c := 10) (rc := (RX10, TX10, 4)) rfl g16 rfl k17 (injO_0 E.p) subO_0 getO_0 setO_0 (lw_V q1041 q1038 q1039 q134 q1040) (by decide +kernel) rfl (by omega) (by omega) rfl (Nat.le_of_ble_eq_true rfl) dX10_depth_29 rfl ?_
      refine r_mmax ha1 z18 q1042 q1043 q132 q1044 (by omega) (by omega) (Nat.le_of_ble_eq_true rfl) dX10_depth_32 ?_
      refine r_istore_n (lv' := [(1, ti (mmax a1 p14)), (0, tr o0), (2, ti a2)]) dX10_depth_35 rfl (E.lt (by decide)) rfl ?_
      refine r_iinc (lv' := [(2, ti (wr (a2 + 1))), (1, ti (mmax a1 p14)), (0, tr o0)]) dX10_depth_36 2 rfl (E.lt (by decide)) rfl ?_
      refine r_goto 4 dX10_depth_39 (by decide) ?_
      refine r_sub [2, 1, 0] rfl ?_
      exact hK4 o0 (mmax a1 p14) (wr (a2 + 1)) (mmax_r ha1 z18) (wr_r _) e
def fX10_depth_L4 (R9 : hS → Option Nat → Option (Int)) : Nat → hS → Option Nat → Int → Int → Option (Int)
  | 0, _, _, _, _ => none
  | n9 + 1, h, o0, a1, a2 => fX10_depth_b4 R9 (fX10_depth_L4 R9 n9) h o0 a1 a2
theorem wX10_depth_L4 {N : Nx} {h : hS} {r : Int} (d9 : Nat) (R9 : hS → Option Nat → Option (Int)) (hR9 : ∀  {h : hS} {r : Int} {o0 : Option Nat} , R9 h o0 = some (r) → CtX (nG N) yX10_depth cX10_depth 3 (some .int) (d9 + 1) (22 * d9 + 21) [] [] h [tr o0] (some (ti r)) [] h) (E : EndX N [] 3 (some .int) (some (ti r)) [] h)  : ∀ (n9 : Nat), ∀ (o0 : Option Nat) (a1 : Int) (a2 : Int) (ha1 : rI a1) (ha2 : rI a2), fX10_depth_L4 R9 n9 h o0 a1 a2 = some (r) → AtPc cX10_depth RX10 ((d9 + 1) + 1) (22 * (d9 + 1) + 21) N [] h 4 [(0, tr o0), (1, ti a1), (2, ti a2)] [] := by
  intro n9
  induction n9 with
  | zero => intro o0 a1 a2 ha1 ha2 e; cases e
  | succ n9 ih => intro o0 a1 a2 ha1 ha2 e; exact wX10_depth_b4 d9 R9 hR9 E _ ih o0 a1 a2 ha1 ha2 e
def fX10_depth_B (R9 : hS → Option Nat → Option (Int)) (h : hS) (o0 : Option Nat) : Option (Int) := fX10_depth_L4 R9 FU h o0 0 0
theorem kX10_depth_B {G : Gx}  {h : hS} {r : Int} {o0 : Option Nat} (d9 : Nat) (R9 : hS → Option Nat → Option (Int)) (hR9 : ∀  {h : hS} {r : Int} {o0 : Option Nat} , R9 h o0 = some (r) → CtX G yX10_depth cX10_depth 3 (some .int) (d9 + 1) (22 * d9 + 21) [] [] h [tr o0] (some (ti r)) [] h)  (e : fX10_depth_B R9 h o0 = some (r)) : CtX G yX10_depth cX10_depth 3 (some .int) ((d9 + 1) + 1) (22 * (d9 + 1) + 21) [] [] h [tr o0] (some (ti r)) [] h := by
  refine CtX.of (by decide) (Nat.le_of_ble_eq_true rfl) [(0, tr o0)] rfl ?_
  have E : EndX (G, 3, [], h, [], h, (some .int), (some (ti r)), yX10_depth.name) [] 3 (some .int) (some (ti r)) [] h := ⟨rfl, rfl, rfl, rfl, rfl, rfl⟩
  unfold fX10_depth_B at e
  refine r_rrs E.p (fun rr => ?_)
  refine r_iconst dX10_depth_0 ?_
  refine r_istore_n (lv' := [(1, ti 0), (0, tr o0)]) dX10_depth_1 rfl (E.lt (by decide)) rfl ?_
  refine r_iconst dX10_depth_2 ?_
  refine r_istore_n (lv' := [(2, ti 0), (1, ti 0), (0, tr o0)]) dX10_depth_3 rfl (E.lt (by decide)) rfl ?_
  refine r_sub [2, 1, 0] rfl ?_
  exact wX10_depth_L4 d9 R9 hR9 E FU o0 0 0 (by decide) (by decide) e
def fX10_depth : Nat → hS → Option Nat → Option (Int)
  | 0, _, _ => none
  | d9 + 1, h, o0 => fX10_depth_B (fX10_depth d9) h o0
theorem kX10_depth {G : Gx} : ∀ (d9 : Nat), ∀  {h : hS} {r : Int} {o0 : Option Nat} , fX10_depth d9 h o0 = some (r) → CtX G yX10_depth cX10_depth 3 (some .int) (d9 + 1) (22 * d9 + 21) [] [] h [tr o0] (some (ti r)) [] h := by
  intro d9
  induction d9 with
  | zero => intros; rename_i e; cases e
  | succ d9 ih => intros; exact kX10_depth_B d9 _ ih (by assumption)
def fX10_needs_b62 (R9 : hS → Option Nat → Option (Int)) (h : hS) (a1 : Int) : Option (Int) := some a1
theorem wX10_needs_b62 {N : Nx} {h : hS} {r : Int} (d9 : Nat) (R9 : hS → Option Nat → Option (Int)) (hR9 : ∀  {h : hS} {r : Int} {o0 : Option Nat} , R9 h o0 = some (r) → CtX (nG N) yX10_needs cX10_needs 3 (some .int) (d9 + 3) (22 * d9 + 60) [] [] h [tr o0] (some (ti r)) [] h) (E : EndX N [] 3 (some .int) (some (ti r)) [] h)  (a1 : Int) (ha1 : rI a1) (e : fX10_needs_b62 R9 h a1 = some (r)) : AtPc cX10_needs RX10 ((d9 + 1) + 3) (22 * (d9 + 1) + 60) N [] h 62 [(1, ti a1)] [] := by
  unfold fX10_needs_b62 at e
  refine r_rrs E.p (fun rr => ?_)
  refine r_iload_n dX10_needs_62 rfl 0 rfl ?_
  cases e
  exact r_iret E.σ E.st E.rt E.r ha1 dX10_needs_63
def fX10_needs_b26 (R9 : hS → Option Nat → Option (Int)) (K26 : hS → Option Nat → Int → Int → Option (Int)) (h : hS) (o0 : Option Nat) (a1 : Int) (a2 : Int) : Option (Int) := bd (hQ h o0 [(10, 2)]) fun v1 => ifN v1 (fX10_needs_b62 R9 h a1) (fun _ => bd (hQ h o0 [(10, 2)]) fun v5 => bd (hI h v5 [(1, 5), (2, 5), (3, 5), (4, 5), (5, 5)]) fun v7 => if v7 ≤ a2 then fX10_needs_b62 R9 h a1 else bd (hQ h o0 [(10, 3)]) fun v10 => bd (aQ h v10 5 a2) fun v12 => gd (hC h v12 = some 10) (bd (R9 h v12) fun p14 => K26 h o0 (ior a1 p14) (wr (a2 + 1))))
theorem wX10_needs_b26 {N : Nx} {h : hS} {r : Int} (d9 : Nat) (R9 : hS → Option Nat → Option (Int)) (hR9 : ∀  {h : hS} {r : Int} {o0 : Option Nat} , R9 h o0 = some (r) → CtX (nG N) yX10_needs cX10_needs 3 (some .int) (d9 + 3) (22 * d9 + 60) [] [] h [tr o0] (some (ti r)) [] h) (E : EndX N [] 3 (some .int) (some (ti r)) [] h) (K26 : hS → Option Nat → Int → Int → Option (Int)) (hK26 : ∀ (o0 : Option Nat) (a1 : Int) (a2 : Int) (ha1 : rI a1) (ha2 : rI a2), K26 h o0 a1 a2 = some (r) → AtPc cX10_needs RX10 ((d9 + 1) + 3) (22 * (d9 + 1) + 60) N [] h 26 [(0, tr o0), (1, ti a1), (2, ti a2)] []) (o0 : Option Nat) (a1 : Int) (a2 : Int) (ha1 : rI a1) (ha2 : rI a2) (e : fX10_needs_b26 R9 K26 h o0 a1 a2 = some (r)) : AtPc cX10_needs RX10 ((d9 + 1) + 3) (22 * (d9 + 1) + 60) N [] h 26 [(0, tr o0), (1, ti a1), (2, ti a2)] [] := by
  unfold fX10_needs_b26 at e
  refine r_rrs E.p (fun rr => ?_)
  refine r_aload_n dX10_needs_26 rfl 0 rfl ?_
  obtain ⟨v1, q2, e⟩ := bd_o e
  refine r_getQ fG_X10_19 q2 dX10_needs_27 ?_
  have eT := (r_ifno e).1
  have eF := (r_ifno e).2
  refine r_ifnull 62 dX10_needs_30 (by decide) (fun c3 => ?_) (fun x4 c3 => ?_)
  · have e := eT c3
    refine r_sub [1] rfl ?_
    exact wX10_needs_b62 d9 R9 hR9 E a1 ha1 e
  · have e := eF x4 c3
    refine r_iload_n dX10_needs_33 rfl 2 rfl ?_
    refine r_aload_n dX10_needs_34 rfl 0 rfl ?_
    obtain ⟨v5, q6, e⟩ := bd_o e
    refine r_getQ fG_X10_19 q6 dX10_needs_35 ?_
    obtain ⟨v7, q8, e⟩ := bd_o e
    refine r_getI fG_X10_27 q8 dX10_needs_38 ?_
    have eT := (r_ifo e).1
    have eF := (r_ifo e).2
    refine r_icmp_ge ha2 (hI_r rr q8) 62 dX10_needs_41 (by decide) (fun c9 => ?_) (fun c9 => ?_)
    · have e := eT c9
      refine r_sub [1] rfl ?_
      exact wX10_needs_b62 d9 R9 hR9 E a1 ha1 e
    · have e := eF c9
      refine r_iload_n dX10_needs_44 rfl 1 rfl ?_
      refine r_aload_n dX10_needs_45 rfl 0 rfl ?_
      obtain ⟨v10, q11, e⟩ := bd_o e
      refine r_getQ fG_X10_23 q11 dX10_needs_46 ?_
      refine r_iload_n dX10_needs_49 rfl 2 rfl ?_
      obtain ⟨v12, q13, e⟩ := bd_o e
      refine r_aQ ha2 q13 dX10_needs_50 ?_
      obtain ⟨g16, e⟩ := gd_o e
      obtain ⟨p14, q15, e⟩ := bd_o e
      have k17 := hR9  q15
      have z18 := (k17 rr).1.2.2.2
      refine r_callVo (j := none) 0 [] (c := 10) (rc := (RX10, TX10, 4)) rfl g16 rfl k17 (injO_0 E.p) subO_0 getO_0 setO_0 (lw_V q1049 q1046 q1047 q134 q1048) (by decide +kernel) rfl (by omega) (by omega) rfl (Nat.le_of_ble_eq_true rfl) dX10_needs_51 rfl ?_
      refine r_ior dX10_needs_54 ?_
      refine r_istore_n (lv' := [(1, ti (ior a1 p14)), (0, tr o0), (2, ti a2)]) dX10_needs_55 rfl (E.lt (by decide)) rfl ?_
      refine r_iinc (lv' := [(2, ti (wr (a2 + 1))), (1, ti (ior a1 p14)), (0, tr o0)]) dX10_needs_56 2 rfl (E.lt (by decide)) rfl ?_
      refine r_goto 26 dX10_needs_59 (by decide) ?_
      refine r_sub [2, 1, 0] rfl ?_
      exact hK26 o0 (ior a1 p14) (wr (a2 + 1)) (ior_r _ _) (wr_r _) e
def fX10_needs_L26 (R9 : hS → Option Nat → Option (Int)) : Nat → hS → Option Nat → Int → Int → Option (Int)
  | 0, _, _, _, _ => none
  | n9 + 1, h, o0, a1, a2 => fX10_needs_b26 R9 (fX10_needs_L26 R9 n9) h o0 a1 a2
theorem wX10_needs_L26 {N : Nx} {h : hS} {r : Int} (d9 : Nat) (R9 : hS → Option Nat → Option (Int)) (hR9 : ∀  {h : hS} {r : Int} {o0 : Option Nat} , R9 h o0 = some (r) → CtX (nG N) yX10_needs cX10_needs 3 (some .int) (d9 + 3) (22 * d9 + 60) [] [] h [tr o0] (some (ti r)) [] h) (E : EndX N [] 3 (some .int) (some (ti r)) [] h)  : ∀ (n9 : Nat), ∀ (o0 : Option Nat) (a1 : Int) (a2 : Int) (ha1 : rI a1) (ha2 : rI a2), fX10_needs_L26 R9 n9 h o0 a1 a2 = some (r) → AtPc cX10_needs RX10 ((d9 + 1) + 3) (22 * (d9 + 1) + 60) N [] h 26 [(0, tr o0), (1, ti a1), (2, ti a2)] [] := by
  intro n9
  induction n9 with
  | zero => intro o0 a1 a2 ha1 ha2 e; cases e
  | succ n9 ih => intro o0 a1 a2 ha1 ha2 e; exact wX10_needs_b26 d9 R9 hR9 E _ ih o0 a1 a2 ha1 ha2 e
def fX10_needs_b23 (R9 : hS → Option Nat → Option (Int)) (h : hS) (o0 : Option Nat) (k0 : Int) : Option (Int) := fX10_needs_L26 R9 FU h o0 k0 0
theorem wX10_needs_b23 {N : Nx} {h : hS} {r : Int} (d9 : Nat) (R9 : hS → Option Nat → Option (Int)) (hR9 : ∀  {h : hS} {r : Int} {o0 : Option Nat} , R9 h o0 = some (r) → CtX (nG N) yX10_needs cX10_needs 3 (some .int) (d9 + 3) (22 * d9 + 60) [] [] h [tr o0] (some (ti r)) [] h) (E : EndX N [] 3 (some .int) (some (ti r)) [] h)  (o0 : Option Nat) (k0 : Int) (hk0 : rI k0) (e : fX10_needs_b23 R9 h o0 k0 = some (r)) : AtPc cX10_needs RX10 ((d9 + 1) + 3) (22 * (d9 + 1) + 60) N [] h 23 [(0, tr o0)] [ti k0] := by
  unfold fX10_needs_b23 at e
  refine r_rrs E.p (fun rr => ?_)
  refine r_istore_n (lv' := [(1, ti k0), (0, tr o0)]) dX10_needs_23 rfl (E.lt (by decide)) rfl ?_
  refine r_iconst dX10_needs_24 ?_
  refine r_istore_n (lv' := [(2, ti 0), (1, ti k0), (0, tr o0)]) dX10_needs_25 rfl (E.lt (by decide)) rfl ?_
  refine r_sub [2, 1, 0] rfl ?_
  exact wX10_needs_L26 d9 R9 hR9 E FU o0 k0 0 hk0 (by decide) e
def fX10_needs_B (R9 : hS → Option Nat → Option (Int)) (h : hS) (o0 : Option Nat) : Option (Int) := bd (hQ h o0 [(10, 2)]) fun v1 => ifN v1 (bd (hQ h o0 [(10, 0)]) fun v5 => gd (hC h v5 = some 9) (bd (fX9_need h v5) fun p7 => fX10_needs_b23 R9 h o0 (ishl 1 (wr (p7 - 10))))) (fun _ => fX10_needs_b23 R9 h o0 0)
theorem kX10_needs_B {G : Gx}  {h : hS} {r : Int} {o0 : Option Nat} (d9 : Nat) (R9 : hS → Option Nat → Option (Int)) (hR9 : ∀  {h : hS} {r : Int} {o0 : Option Nat} , R9 h o0 = some (r) → CtX G yX10_needs cX10_needs 3 (some .int) (d9 + 3) (22 * d9 + 60) [] [] h [tr o0] (some (ti r)) [] h)  (e : fX10_needs_B R9 h o0 = some (r)) : CtX G yX10_needs cX10_needs 3 (some .int) ((d9 + 1) + 3) (22 * (d9 + 1) + 60) [] [] h [tr o0] (some (ti r)) [] h := by
  refine CtX.of (by decide) (Nat.le_of_ble_eq_true rfl) [(0, tr o0)] rfl ?_
  have E : EndX (G, 3, [], h, [], h, (some .int), (some (ti r)), yX10_needs.name) [] 3 (some .int) (some (ti r)) [] h := ⟨rfl, rfl, rfl, rfl, rfl, rfl⟩
  unfold fX10_needs_B at e
  refine r_rrs E.p (fun rr => ?_)
  refine r_aload_n dX10_needs_0 rfl 0 rfl ?_
  obtain ⟨v1, q2, e⟩ := bd_o e
  refine r_getQ fG_X10_19 q2 dX10_needs_1 ?_
  have eT := (r_ifno e).1
  have eF := (r_ifno e).2
  refine r_ifnonnull 22 dX10_needs_4 (by decide) (fun c3 => ?_) (fun x4 c3 => ?_)
  · have e := eT c3
    refine r_iconst dX10_needs_7 ?_
    refine r_aload_n dX10_needs_8 rfl 0 rfl ?_
    obtain ⟨v5, q6, e⟩ := bd_o e
    refine r_getQ fG_X10_9 q6 dX10_needs_9 ?_
    obtain ⟨g9, e⟩ := gd_o e
    obtain ⟨p7, q8, e⟩ := bd_o e
    have k10 := kX9_need (G := G)  q8
    have z11 := (k10 rr).1.2.2.2
    refine r_callVo (j := none) 0 [] (c := 9) (rc := (RX9, TX9, 2)) rfl g9 rfl k10 (injO_0 E.p) subO_0 getO_0 setO_0 (lw_V q990 q991 q992 q133 q993) (by decide +kernel) rfl (by omega) (by omega) rfl (Nat.le_of_ble_eq_true rfl) dX10_needs_12 rfl ?_
    refine r_bipush dX10_needs_15 (by decide) ?_
    refine r_isub dX10_needs_17 ?_
    refine r_ishl dX10_needs_18 ?_
    refine r_goto 23 dX10_needs_19 (by decide) ?_
    exact wX10_needs_b23 d9 R9 hR9 E o0 (ishl 1 (wr (p7 - 10))) (ishl_r _ _) e
  · have e := eF x4 c3
    refine r_iconst dX10_needs_22 ?_
    exact wX10_needs_b23 d9 R9 hR9 E o0 0 (by decide) e
def fX10_needs : Nat → hS → Option Nat → Option (Int)
  | 0, _, _ => none
  | d9 + 1, h, o0 => fX10_needs_B (fX10_needs d9) h o0
theorem kX10_needs {G : Gx} : ∀ (d9 : Nat), ∀  {h : hS} {r : Int} {o0 : Option Nat} , fX10_needs d9 h o0 = some (r) → CtX G yX10_needs cX10_needs 3 (some .int) (d9 + 3) (22 * d9 + 60) [] [] h [tr o0] (some (ti r)) [] h := by
  intro d9
  induction d9 with
  | zero => intros; rename_i e; cases e
  | succ d9 ih => intros; exact kX10_needs_B d9 _ ih (by assumption)
def fX0_plainOf_b71 (K4 : Sg → Int → Int → Int → Option (Int)) (K24 : Sg → Int → Int → Int → Int → Int → Option (Int)) (s : Sg) (a1 : Int) (a2 : Int) (a3 : Int) (a5 : Int) (k0 : Int) (k1 : Int) : Option (Int) := K24 s a1 a2 a3 (iand k0 k1) (wr (a5 + 1))
theorem wX0_plainOf_b71 {N : Nx} {b : Nat} {ad : Nat → Nat} {s : Sg} {h : hS} {r : Int} (E : EndX N [(0, b, ad)] 6 (some .int) (some (ti r)) [s] h) (K4 : Sg → Int → Int → Int → Option (Int)) (hK4 : ∀ (a1 : Int) (a2 : Int) (a3 : Int) (ha1 : rI a1) (ha2 : rI a2) (ha3 : rI a3), K4 s a1 a2 a3 = some (r) → AtPc cX0_plainOf RX0 1 21 N [s] h 4 [(0, tr (some b)), (1, ti a1), (2, ti a2), (3, ti a3)] []) (K24 : Sg → Int → Int → Int → Int → Int → Option (Int)) (hK24 : ∀ (a1 : Int) (a2 : Int) (a3 : Int) (a4 : Int) (a5 : Int) (ha1 : rI a1) (ha2 : rI a2) (ha3 : rI a3) (ha4 : rI a4) (ha5 : rI a5), K24 s a1 a2 a3 a4 a5 = some (r) → AtPc cX0_plainOf RX0 1 21 N [s] h 24 [(0, tr (some b)), (1, ti a1), (2, ti a2), (3, ti a3), (4, ti a4), (5, ti a5)] []) (a1 : Int) (a2 : Int) (a3 : Int) (a5 : Int) (k0 : Int) (k1 : Int) (ha1 : rI a1) (ha2 : rI a2) (ha3 : rI a3) (ha5 : rI a5) (hk0 : rI k0) (hk1 : rI k1) (e : fX0_plainOf_b71 K4 K24 s a1 a2 a3 a5 k0 k1 = some (r)) : AtPc cX0_plainOf RX0 1 21 N [s] h 71 [(0, tr (some b)), (1, ti a1), (2, ti a2), (3, ti a3), (5, ti a5)] [ti k1, ti k0] := by
  unfold fX0_plainOf_b71 at e
  refine r_rrs E.p (fun rr => ?_)
  refine r_iand dX0_plainOf_71 ?_
  refine r_istore (lv' := [(4, ti (iand k0 k1)), (0, tr (some b)), (1, ti a1), (2, ti a2), (3, ti a3), (5, ti a5)]) dX0_plainOf_72 (E.lt (by decide)) rfl ?_
  refine r_iinc (lv' := [(5, ti (wr (a5 + 1))), (4, ti (iand k0 k1)), (0, tr (some b)), (1, ti a1), (2, ti a2), (3, ti a3)]) dX0_plainOf_74 5 rfl (E.lt (by decide)) rfl ?_
  refine r_goto 24 dX0_plainOf_77 (by decide) ?_
  refine r_sub [2, 3, 4, 5, 1, 0] rfl ?_
  exact hK24 a1 a2 a3 (iand k0 k1) (wr (a5 + 1)) ha1 ha2 ha3 (iand_r _ _) (wr_r _) e
def fX0_plainOf_b66 (K4 : Sg → Int → Int → Int → Option (Int)) (K24 : Sg → Int → Int → Int → Int → Int → Option (Int)) (s : Sg) (a1 : Int) (a2 : Int) (a3 : Int) (a5 : Int) (k0 : Int) : Option (Int) := fX0_plainOf_b71 K4 K24 s a1 a2 a3 a5 k0 1
theorem wX0_plainOf_b66 {N : Nx} {b : Nat} {ad : Nat → Nat} {s : Sg} {h : hS} {r : Int} (E : EndX N [(0, b, ad)] 6 (some .int) (some (ti r)) [s] h) (K4 : Sg → Int → Int → Int → Option (Int)) (hK4 : ∀ (a1 : Int) (a2 : Int) (a3 : Int) (ha1 : rI a1) (ha2 : rI a2) (ha3 : rI a3), K4 s a1 a2 a3 = some (r) → AtPc cX0_plainOf RX0 1 21 N [s] h 4 [(0, tr (some b)), (1, ti a1), (2, ti a2), (3, ti a3)] []) (K24 : Sg → Int → Int → Int → Int → Int → Option (Int)) (hK24 : ∀ (a1 : Int) (a2 : Int) (a3 : Int) (a4 : Int) (a5 : Int) (ha1 : rI a1) (ha2 : rI a2) (ha3 : rI a3) (ha4 : rI a4) (ha5 : rI a5), K24 s a1 a2 a3 a4 a5 = some (r) → AtPc cX0_plainOf RX0 1 21 N [s] h 24 [(0, tr (some b)), (1, ti a1), (2, ti a2), (3, ti a3), (4, ti a4), (5, ti a5)] []) (a1 : Int) (a2 : Int) (a3 : Int) (a5 : Int) (k0 : Int) (ha1 : rI a1) (ha2 : rI a2) (ha3 : rI a3) (ha5 : rI a5) (hk0 : rI k0) (e : fX0_plainOf_b66 K4 K24 s a1 a2 a3 a5 k0 = some (r)) : AtPc cX0_plainOf RX0 1 21 N [s] h 66 [(0, tr (some b)), (1, ti a1), (2, ti a2), (3, ti a3), (5, ti a5)] [ti k0] := by
  unfold fX0_plainOf_b66 at e
  refine r_rrs E.p (fun rr => ?_)
  refine r_iconst dX0_plainOf_66 ?_
  refine r_goto 71 dX0_plainOf_67 (by decide) ?_
  exact wX0_plainOf_b71 E K4 hK4 K24 hK24 a1 a2 a3 a5 k0 1 ha1 ha2 ha3 ha5 hk0 (by decide) e
def fX0_plainOf_b93 (K4 : Sg → Int → Int → Int → Option (Int)) (s : Sg) (a1 : Int) (a3 : Int) (k0 : Int) (k1 : Int) : Option (Int) := K4 s a1 (ior k0 k1) (wr (a3 + 1))
theorem wX0_plainOf_b93 {N : Nx} {b : Nat} {ad : Nat → Nat} {s : Sg} {h : hS} {r : Int} (E : EndX N [(0, b, ad)] 6 (some .int) (some (ti r)) [s] h) (K4 : Sg → Int → Int → Int → Option (Int)) (hK4 : ∀ (a1 : Int) (a2 : Int) (a3 : Int) (ha1 : rI a1) (ha2 : rI a2) (ha3 : rI a3), K4 s a1 a2 a3 = some (r) → AtPc cX0_plainOf RX0 1 21 N [s] h 4 [(0, tr (some b)), (1, ti a1), (2, ti a2), (3, ti a3)] []) (a1 : Int) (a3 : Int) (k0 : Int) (k1 : Int) (ha1 : rI a1) (ha3 : rI a3) (hk0 : rI k0) (hk1 : rI k1) (e : fX0_plainOf_b93 K4 s a1 a3 k0 k1 = some (r)) : AtPc cX0_plainOf RX0 1 21 N [s] h 93 [(0, tr (some b)), (1, ti a1), (3, ti a3)] [ti k1, ti k0] := by
  unfold fX0_plainOf_b93 at e
  refine r_rrs E.p (fun rr => ?_)
  refine r_ior dX0_plainOf_93 ?_
  refine r_istore_n (lv' := [(2, ti (ior k0 k1)), (0, tr (some b)), (1, ti a1), (3, ti a3)]) dX0_plainOf_94 rfl (E.lt (by decide)) rfl ?_
  refine r_iinc (lv' := [(3, ti (wr (a3 + 1))), (2, ti (ior k0 k1)), (0, tr (some b)), (1, ti a1)]) dX0_plainOf_95 3 rfl (E.lt (by decide)) rfl ?_
  refine r_goto 4 dX0_plainOf_98 (by decide) ?_
  refine r_sub [2, 3, 1, 0] rfl ?_
  exact hK4 a1 (ior k0 k1) (wr (a3 + 1)) ha1 (ior_r _ _) (wr_r _) e
def fX0_plainOf_b24 (K4 : Sg → Int → Int → Int → Option (Int)) (K24 : Sg → Int → Int → Int → Int → Int → Option (Int)) (s : Sg) (a1 : Int) (a2 : Int) (a3 : Int) (a4 : Int) (a5 : Int) : Option (Int) := if (gI s 3) ≤ a5 then if a4 = 0 then fX0_plainOf_b93 K4 s a1 a3 a2 0 else fX0_plainOf_b93 K4 s a1 a3 a2 (ishl 1 a3) else bd (fX0_has a1 (wr ((wr (2 * a5)) + (irm a3 2)))) fun p3 => if p3 = 0 then fX0_plainOf_b66 K4 K24 s a1 a2 a3 a5 a4 else gd (inb a5 4) (bd (fX0_has (gA s 2 a5) (idv a3 2)) fun p9 => if ¬ p9 = 0 then fX0_plainOf_b71 K4 K24 s a1 a2 a3 a5 a4 0 else fX0_plainOf_b66 K4 K24 s a1 a2 a3 a5 a4)
theorem wX0_plainOf_b24 {N : Nx} {b : Nat} {ad : Nat → Nat} {s : Sg} {h : hS} {r : Int} (E : EndX N [(0, b, ad)] 6 (some .int) (some (ti r)) [s] h) (K4 : Sg → Int → Int → Int → Option (Int)) (hK4 : ∀ (a1 : Int) (a2 : Int) (a3 : Int) (ha1 : rI a1) (ha2 : rI a2) (ha3 : rI a3), K4 s a1 a2 a3 = some (r) → AtPc cX0_plainOf RX0 1 21 N [s] h 4 [(0, tr (some b)), (1, ti a1), (2, ti a2), (3, ti a3)] []) (K24 : Sg → Int → Int → Int → Int → Int → Option (Int)) (hK24 : ∀ (a1 : Int) (a2 : Int) (a3 : Int) (a4 : Int) (a5 : Int) (ha1 : rI a1) (ha2 : rI a2) (ha3 : rI a3) (ha4 : rI a4) (ha5 : rI a5), K24 s a1 a2 a3 a4 a5 = some (r) → AtPc cX0_plainOf RX0 1 21 N [s] h 24 [(0, tr (some b)), (1, ti a1), (2, ti a2), (3, ti a3), (4, ti a4), (5, ti a5)] []) (a1 : Int) (a2 : Int) (a3 : Int) (a4 : Int) (a5 : Int) (ha1 : rI a1) (ha2 : rI a2) (ha3 : rI a3) (ha4 : rI a4) (ha5 : rI a5) (e : fX0_plainOf_b24 K4 K24 s a1 a2 a3 a4 a5 = some (r)) : AtPc cX0_plainOf RX0 1 21 N [s] h 24 [(0, tr (some b)), (1, ti a1), (2, ti a2), (3, ti a3), (4, ti a4), (5, ti a5)] [] := by
  unfold fX0_plainOf_b24 at e
  refine r_rrs E.p (fun rr => ?_)
  refine r_iload dX0_plainOf_24 5 rfl ?_
  refine r_aload_n dX0_plainOf_26 rfl 0 rfl ?_
  refine r_sI E.p 3 fG_X0_238 (by decide) dX0_plainOf_27 ?_
  have eT := (r_ifo e).1
  have eF := (r_ifo e).2
  refine r_icmp_ge ha5 ((rr.mine rfl).i 3 (by decide) (by decide)) 80 dX0_plainOf_30 (by decide) (fun c1 => ?_) (fun c1 => ?_)
  · have e := eT c1
    refine r_iload_n dX0_plainOf_80 rfl 2 rfl ?_
    refine r_iload dX0_plainOf_81 4 rfl ?_
    have eT := (r_ifo e).1
    have eF := (r_ifo e).2
    refine r_if_eq ha4 92 dX0_plainOf_83 (by decide) (fun c2 => ?_) (fun c2 => ?_)
    · have e := eT c2
      refine r_iconst dX0_plainOf_92 ?_
      refine r_sub [0, 1, 3] rfl ?_
      exact wX0_plainOf_b93 E K4 hK4 a1 a3 a2 0 ha1 ha3 ha2 (by decide) e
    · have e := eF c2
      refine r_iconst dX0_plainOf_86 ?_
      refine r_iload_n dX0_plainOf_87 rfl 3 rfl ?_
      refine r_ishl dX0_plainOf_88 ?_
      refine r_goto 93 dX0_plainOf_89 (by decide) ?_
      refine r_sub [0, 1, 3] rfl ?_
      exact wX0_plainOf_b93 E K4 hK4 a1 a3 a2 (ishl 1 a3) ha1 ha3 ha2 (ishl_r _ _) e
  · have e := eF c1
    refine r_iload dX0_plainOf_33 4 rfl ?_
    refine r_iload_n dX0_plainOf_35 rfl 1 rfl ?_
    refine r_iconst dX0_plainOf_36 ?_
    refine r_iload dX0_plainOf_37 5 rfl ?_
    refine r_imul dX0_plainOf_39 ?_
    refine r_iload_n dX0_plainOf_40 rfl 3 rfl ?_
    refine r_iconst dX0_plainOf_41 ?_
    refine r_irem (by decide) (by decide) dX0_plainOf_42 ?_
    refine r_iadd dX0_plainOf_43 ?_
    obtain ⟨p3, q4, e⟩ := bd_o e
    have k5 := kX0_has (G := nG N) (h := h) ha1 (wr_r _) q4
    have z6 := (k5 rr.none).1.2.2.2
    refine r_callS (j := none) 2 [ti a1, ti (wr ((wr (2 * a5)) + (irm a3 2)))] k5 (injO_1 E.p) subO_0 getO_0 setO_0 (lw_S q441 q442 q115 q443) (by decide +kernel) rfl (Nat.le_of_ble_eq_true rfl) (Nat.le_of_ble_eq_true rfl) rfl (Nat.le_of_ble_eq_true rfl) dX0_plainOf_44 rfl ?_
    have eT := (r_ifo e).1
    have eF := (r_ifo e).2
    refine r_if_eq (rI_z z6) 66 dX0_plainOf_47 (by decide) (fun c7 => ?_) (fun c7 => ?_)
    · have e := eT c7
      refine r_sub [0, 1, 2, 3, 5] rfl ?_
      exact wX0_plainOf_b66 E K4 hK4 K24 hK24 a1 a2 a3 a5 a4 ha1 ha2 ha3 ha5 ha4 e
    · have e := eF c7
      refine r_aload_n dX0_plainOf_50 rfl 0 rfl ?_
      refine r_sR E.p 2 fG_X0_111 (by decide) dX0_plainOf_51 ?_
      refine r_iload dX0_plainOf_54 5 rfl ?_
      obtain ⟨g8, e⟩ := gd_o e
      refine r_saI E.p 2 rfl (by decide) (by decide) ha5 g8 rfl dX0_plainOf_56 ?_
      refine r_iload_n dX0_plainOf_57 rfl 3 rfl ?_
      refine r_iconst dX0_plainOf_58 ?_
      refine r_idiv (by decide) (by decide) dX0_plainOf_59 ?_
      obtain ⟨p9, q10, e⟩ := bd_o e
      have k11 := kX0_has (G := nG N) (h := h) (((rr.mine rfl).a 2 (by decide) rfl).1 _) (idv_r _ _) q10
      have z12 := (k11 rr.none).1.2.2.2
      refine r_callS (j := none) 2 [ti (gA s 2 a5), ti (idv a3 2)] k11 (injO_1 E.p) subO_0 getO_0 setO_0 (lw_S q441 q442 q115 q443) (by decide +kernel) rfl (Nat.le_of_ble_eq_true rfl) (Nat.le_of_ble_eq_true rfl) rfl (Nat.le_of_ble_eq_true rfl) dX0_plainOf_60 rfl ?_
      have eT := (r_ifo e).1
      have eF := (r_ifo e).2
      refine r_if_ne (rI_z z12) 70 dX0_plainOf_63 (by decide) (fun c13 => ?_) (fun c13 => ?_)
      · have e := eT c13
        refine r_iconst dX0_plainOf_70 ?_
        refine r_sub [0, 1, 2, 3, 5] rfl ?_
        exact wX0_plainOf_b71 E K4 hK4 K24 hK24 a1 a2 a3 a5 a4 0 ha1 ha2 ha3 ha5 ha4 (by decide) e
      · have e := eF c13
        refine r_sub [0, 1, 2, 3, 5] rfl ?_
        exact wX0_plainOf_b66 E K4 hK4 K24 hK24 a1 a2 a3 a5 a4 ha1 ha2 ha3 ha5 ha4 e
