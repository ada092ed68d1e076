/-! the class with what it needs: functions and walks, printed by gen/run0.py -/
set_option maxRecDepth 100000
def fX0_isClassSign_b175 (s : Sg) : Option (Int × Sg) := fX0_isClassSign_b176 s 0
theorem wX0_isClassSign_b175 {N : Nx} {b : Nat} {ad : Nat → Nat} {s' : Sg} {h : hS} {r : Int} (E : EndX N [(0, b, ad)] 3 (some .boolean) (some (ti r)) [s'] h)  (s : Sg) (e : fX0_isClassSign_b175 s = some (r, s')) : AtPc cX0_isClassSign RX0 1 25 N [s] h 175 [] [] := by
  unfold fX0_isClassSign_b175 at e
  refine r_rrs E.p (fun rr => ?_)
  refine r_iconst dX0_isClassSign_175 ?_
  exact wX0_isClassSign_b176 E s 0 (by decide) e
def fX0_isClassSign_b134 (s : Sg) (a1 : Int) (k0 : Int) (k1 : Int) : Option (Int × Sg) := bd (fX0_isIn k0 k1 (wr ((wr (48 + (gI s 10))) - 1))) fun p1 => if p1 = 0 then fX0_isClassSign_b175 s else if (gI s 11) = 1 then fX0_isClassSign_b171 s else gd (inb (wr (a1 - 1)) 84) (if (gA s 8 (wr (a1 - 1))) = 45 then fX0_isClassSign_b175 s else fX0_isClassSign_b171 s)
theorem wX0_isClassSign_b134 {N : Nx} {b : Nat} {ad : Nat → Nat} {s' : Sg} {h : hS} {r : Int} (E : EndX N [(0, b, ad)] 3 (some .boolean) (some (ti r)) [s'] h)  (s : Sg) (a1 : Int) (k0 : Int) (k1 : Int) (ha1 : rI a1) (hk0 : rL k0) (hk1 : rL k1) (e : fX0_isClassSign_b134 s a1 k0 k1 = some (r, s')) : AtPc cX0_isClassSign RX0 1 25 N [s] h 134 [(0, tr (some b)), (1, ti a1)] [tl k1, tl k0] := by
  unfold fX0_isClassSign_b134 at e
  refine r_rrs E.p (fun rr => ?_)
  refine r_bipush dX0_isClassSign_134 (by decide) ?_
  refine r_aload_n dX0_isClassSign_136 rfl 0 rfl ?_
  refine r_sI E.p 10 fG_X0_180 (by decide) dX0_isClassSign_137 ?_
  refine r_iadd dX0_isClassSign_140 ?_
  refine r_iconst dX0_isClassSign_141 ?_
  refine r_isub dX0_isClassSign_142 ?_
  refine r_i2l (wr_r _) dX0_isClassSign_143 ?_
  obtain ⟨p1, q2, e⟩ := bd_o e
  have k3 := kX0_isIn (G := nG N) (h := h) hk0 hk1 (rI_L (wr_r _)) q2
  have z4 := (k3 rr.none).1.2.2.2
  refine r_callS (j := none) 3 [tl k0, tl k1, tl (wr ((wr (48 + (gI s 10))) - 1))] k3 (injO_1 E.p) subO_0 getO_0 setO_0 (lw_S q397 q398 q115 q399) (by decide +kernel) rfl (Nat.le_of_ble_eq_true rfl) (Nat.le_of_ble_eq_true rfl) rfl (Nat.le_of_ble_eq_true rfl) dX0_isClassSign_144 rfl ?_
  have eT := (r_ifo e).1
  have eF := (r_ifo e).2
  refine r_if_eq (rI_z z4) 175 dX0_isClassSign_147 (by decide) (fun c5 => ?_) (fun c5 => ?_)
  · have e := eT c5
    refine r_sub [] rfl ?_
    exact wX0_isClassSign_b175 E s e
  · have e := eF c5
    refine r_aload_n dX0_isClassSign_150 rfl 0 rfl ?_
    refine r_sI E.p 11 fG_X0_177 (by decide) dX0_isClassSign_151 ?_
    refine r_iconst dX0_isClassSign_154 ?_
    have eT := (r_ifo e).1
    have eF := (r_ifo e).2
    refine r_icmp_eq ((rr.mine rfl).i 11 (by decide) (by decide)) (by decide) 171 dX0_isClassSign_155 (by decide) (fun c6 => ?_) (fun c6 => ?_)
    · have e := eT c6
      refine r_sub [] rfl ?_
      exact wX0_isClassSign_b171 E s e
    · have e := eF c6
      refine r_aload_n dX0_isClassSign_158 rfl 0 rfl ?_
      refine r_sR E.p 8 fG_X0_121 (by decide) dX0_isClassSign_159 ?_
      refine r_iload_n dX0_isClassSign_162 rfl 1 rfl ?_
      refine r_iconst dX0_isClassSign_163 ?_
      refine r_isub dX0_isClassSign_164 ?_
      obtain ⟨g7, e⟩ := gd_o e
      refine r_saI E.p 8 rfl (by decide) (by decide) (wr_r _) g7 rfl dX0_isClassSign_165 ?_
      refine r_bipush dX0_isClassSign_166 (by decide) ?_
      have eT := (r_ifo e).1
      have eF := (r_ifo e).2
      refine r_icmp_eq (((rr.mine rfl).a 8 (by decide) rfl).1 _) (by decide) 175 dX0_isClassSign_168 (by decide) (fun c8 => ?_) (fun c8 => ?_)
      · have e := eT c8
        refine r_sub [] rfl ?_
        exact wX0_isClassSign_b175 E s e
      · have e := eF c8
        refine r_sub [] rfl ?_
        exact wX0_isClassSign_b171 E s e
def fX0_isClassSign_b59 (s : Sg) (a1 : Int) (a2 : Int) : Option (Int × Sg) := if ¬ a2 = 45 then if 2 < (gI (sI s 11 (wr ((gI s 11) + 1))) 11) then fX0_isClassSign_b175 (sI s 11 (wr ((gI s 11) + 1))) else if ¬ (gI (sI s 11 (wr ((gI s 11) + 1))) 11) = 1 then gd (inb (wr (a1 - 1)) 84) (fX0_isClassSign_b134 (sI s 11 (wr ((gI s 11) + 1))) a1 a2 (wr ((gA (sI s 11 (wr ((gI s 11) + 1))) 8 (wr (a1 - 1))) + 1))) else fX0_isClassSign_b134 (sI s 11 (wr ((gI s 11) + 1))) a1 a2 48 else if ¬ (gI (sI (sI s 11 (wr ((gI s 11) + 1))) 11 (wr ((gI (sI s 11 (wr ((gI s 11) + 1))) 11) + 1))) 11) = 2 then fX0_isClassSign_b98 (sI (sI s 11 (wr ((gI s 11) + 1))) 11 (wr ((gI (sI s 11 (wr ((gI s 11) + 1))) 11) + 1))) 0 else fX0_isClassSign_b98 (sI (sI s 11 (wr ((gI s 11) + 1))) 11 (wr ((gI (sI s 11 (wr ((gI s 11) + 1))) 11) + 1))) 1
theorem wX0_isClassSign_b59 {N : Nx} {b : Nat} {ad : Nat → Nat} {s' : Sg} {h : hS} {r : Int} (E : EndX N [(0, b, ad)] 3 (some .boolean) (some (ti r)) [s'] h)  (s : Sg) (a1 : Int) (a2 : Int) (ha1 : rI a1) (ha2 : rI a2) (e : fX0_isClassSign_b59 s a1 a2 = some (r, s')) : AtPc cX0_isClassSign RX0 1 25 N [s] h 59 [(0, tr (some b)), (1, ti a1), (2, ti a2)] [] := by
  unfold fX0_isClassSign_b59 at e
  refine r_rrs E.p (fun rr => ?_)
  refine r_aload_n dX0_isClassSign_59 rfl 0 rfl ?_
  refine r_dup dX0_isClassSign_60 rfl ?_
  refine r_sI E.p 11 fG_X0_177 (by decide) dX0_isClassSign_61 ?_
  refine r_iconst dX0_isClassSign_64 ?_
  refine r_iadd dX0_isClassSign_65 ?_
  refine r_sPI E.p 11 fP_X0_177 rfl (wr_r _) dX0_isClassSign_66 ?_
  refine r_rrs E.p (fun rr1 => ?_)
  refine r_iload_n dX0_isClassSign_69 rfl 2 rfl ?_
  refine r_bipush dX0_isClassSign_70 (by decide) ?_
  have eT := (r_ifo e).1
  have eF := (r_ifo e).2
  refine r_icmp_ne ha2 (by decide) 99 dX0_isClassSign_72 (by decide) (fun c2 => ?_) (fun c2 => ?_)
  · have e := eT c2
    refine r_aload_n dX0_isClassSign_99 rfl 0 rfl ?_
    refine r_sI E.p 11 fG_X0_177 (by decide) dX0_isClassSign_100 ?_
    refine r_iconst dX0_isClassSign_103 ?_
    have eT := (r_ifo e).1
    have eF := (r_ifo e).2
    refine r_icmp_gt ((rr1.mine rfl).i 11 (by decide) (by decide)) (by decide) 175 dX0_isClassSign_104 (by decide) (fun c3 => ?_) (fun c3 => ?_)
    · have e := eT c3
      refine r_sub [] rfl ?_
      exact wX0_isClassSign_b175 E (sI s 11 (wr ((gI s 11) + 1))) e
    · have e := eF c3
      refine r_iload_n dX0_isClassSign_107 rfl 2 rfl ?_
      refine r_i2l ha2 dX0_isClassSign_108 ?_
      refine r_aload_n dX0_isClassSign_109 rfl 0 rfl ?_
      refine r_sI E.p 11 fG_X0_177 (by decide) dX0_isClassSign_110 ?_
      refine r_iconst dX0_isClassSign_113 ?_
      have eT := (r_ifo e).1
      have eF := (r_ifo e).2
      refine r_icmp_ne ((rr1.mine rfl).i 11 (by decide) (by decide)) (by decide) 123 dX0_isClassSign_114 (by decide) (fun c4 => ?_) (fun c4 => ?_)
      · have e := eT c4
        refine r_aload_n dX0_isClassSign_123 rfl 0 rfl ?_
        refine r_sR E.p 8 fG_X0_121 (by decide) dX0_isClassSign_124 ?_
        refine r_iload_n dX0_isClassSign_127 rfl 1 rfl ?_
        refine r_iconst dX0_isClassSign_128 ?_
        refine r_isub dX0_isClassSign_129 ?_
        obtain ⟨g5, e⟩ := gd_o e
        refine r_saI E.p 8 rfl (by decide) (by decide) (wr_r _) g5 rfl dX0_isClassSign_130 ?_
        refine r_iconst dX0_isClassSign_131 ?_
        refine r_iadd dX0_isClassSign_132 ?_
        refine r_i2l (wr_r _) dX0_isClassSign_133 ?_
        refine r_sub [0, 1] rfl ?_
        exact wX0_isClassSign_b134 E (sI s 11 (wr ((gI s 11) + 1))) a1 a2 (wr ((gA (sI s 11 (wr ((gI s 11) + 1))) 8 (wr (a1 - 1))) + 1)) ha1 (rI_L ha2) (rI_L (wr_r _)) e
      · have e := eF c4
        refine r_ldc2 48 q412 (by decide) dX0_isClassSign_117 ?_
        refine r_goto 134 dX0_isClassSign_120 (by decide) ?_
        refine r_sub [0, 1] rfl ?_
        exact wX0_isClassSign_b134 E (sI s 11 (wr ((gI s 11) + 1))) a1 a2 48 ha1 (rI_L ha2) (by decide) e
  · have e := eF c2
    refine r_aload_n dX0_isClassSign_75 rfl 0 rfl ?_
    refine r_dup dX0_isClassSign_76 rfl ?_
    refine r_sI E.p 11 fG_X0_177 (by decide) dX0_isClassSign_77 ?_
    refine r_iconst dX0_isClassSign_80 ?_
    refine r_iadd dX0_isClassSign_81 ?_
    refine r_sPI E.p 11 fP_X0_177 rfl (wr_r _) dX0_isClassSign_82 ?_
    refine r_rrs E.p (fun rr6 => ?_)
    refine r_aload_n dX0_isClassSign_85 rfl 0 rfl ?_
    refine r_sI E.p 11 fG_X0_177 (by decide) dX0_isClassSign_86 ?_
    refine r_iconst dX0_isClassSign_89 ?_
    have eT := (r_ifo e).1
    have eF := (r_ifo e).2
    refine r_icmp_ne ((rr6.mine rfl).i 11 (by decide) (by decide)) (by decide) 97 dX0_isClassSign_90 (by decide) (fun c7 => ?_) (fun c7 => ?_)
    · have e := eT c7
      refine r_iconst dX0_isClassSign_97 ?_
      refine r_sub [] rfl ?_
      exact wX0_isClassSign_b98 E (sI (sI s 11 (wr ((gI s 11) + 1))) 11 (wr ((gI (sI s 11 (wr ((gI s 11) + 1))) 11) + 1))) 0 (by decide) e
    · have e := eF c7
      refine r_iconst dX0_isClassSign_93 ?_
      refine r_goto 98 dX0_isClassSign_94 (by decide) ?_
      refine r_sub [] rfl ?_
      exact wX0_isClassSign_b98 E (sI (sI s 11 (wr ((gI s 11) + 1))) 11 (wr ((gI (sI s 11 (wr ((gI s 11) + 1))) 11) + 1))) 1 (by decide) e
def fX0_isClassSign_b21 (s : Sg) (a1 : Int) (a2 : Int) : Option (Int × Sg) := if ¬ a2 = 59 then fX0_isClassSign_b59 s a1 a2 else fX0_isClassSign_b27 s a1 a2
theorem wX0_isClassSign_b21 {N : Nx} {b : Nat} {ad : Nat → Nat} {s' : Sg} {h : hS} {r : Int} (E : EndX N [(0, b, ad)] 3 (some .boolean) (some (ti r)) [s'] h)  (s : Sg) (a1 : Int) (a2 : Int) (ha1 : rI a1) (ha2 : rI a2) (e : fX0_isClassSign_b21 s a1 a2 = some (r, s')) : AtPc cX0_isClassSign RX0 1 25 N [s] h 21 [(0, tr (some b)), (1, ti a1), (2, ti a2)] [] := by
  unfold fX0_isClassSign_b21 at e
  refine r_rrs E.p (fun rr => ?_)
  refine r_iload_n dX0_isClassSign_21 rfl 2 rfl ?_
  refine r_bipush dX0_isClassSign_22 (by decide) ?_
  have eT := (r_ifo e).1
  have eF := (r_ifo e).2
  refine r_icmp_ne ha2 (by decide) 59 dX0_isClassSign_24 (by decide) (fun c1 => ?_) (fun c1 => ?_)
  · have e := eT c1
    exact wX0_isClassSign_b59 E s a1 a2 ha1 ha2 e
  · have e := eF c1
    exact wX0_isClassSign_b27 E s a1 a2 ha1 ha2 e
def fX0_isClassSign  (s : Sg) (a1 : Int) (a2 : Int) : Option (Int × Sg) := if (gI s 11) ≤ 0 then fX0_isClassSign_b59 s a1 a2 else if ¬ a2 = 44 then fX0_isClassSign_b21 s a1 a2 else if (gI s 10) < 3 then fX0_isClassSign_b27 s a1 a2 else fX0_isClassSign_b21 s a1 a2
theorem kX0_isClassSign {G : Gx}  {b : Nat} {ad : Nat → Nat} {s' : Sg} {h : hS} {r : Int} {s : Sg} {a1 : Int} {a2 : Int}  (ha1 : rI a1) (ha2 : rI a2) (e : fX0_isClassSign s a1 a2 = some (r, s')) : CtX G yX0_isClassSign cX0_isClassSign 3 (some .boolean) 1 25 [(0, b, ad)] [s] h [tr (some b), ti a1, ti a2] (some (ti r)) [s'] h := by
  refine CtX.of (by decide) (Nat.le_of_ble_eq_true rfl) [(0, tr (some b)), (1, ti a1), (2, ti a2)] rfl ?_
  have E : EndX (G, 3, [(0, b, ad)], h, [s'], h, (some .boolean), (some (ti r)), yX0_isClassSign.name) [(0, b, ad)] 3 (some .boolean) (some (ti r)) [s'] h := ⟨rfl, rfl, rfl, rfl, rfl, rfl⟩
  unfold fX0_isClassSign at e
  refine r_rrs E.p (fun rr => ?_)
  refine r_aload_n dX0_isClassSign_0 rfl 0 rfl ?_
  refine r_sI E.p 11 fG_X0_177 (by decide) dX0_isClassSign_1 ?_
  have eT := (r_ifo e).1
  have eF := (r_ifo e).2
  refine r_if_le ((rr.mine rfl).i 11 (by decide) (by decide)) 59 dX0_isClassSign_4 (by decide) (fun c1 => ?_) (fun c1 => ?_)
  · have e := eT c1
    exact wX0_isClassSign_b59 E s a1 a2 ha1 ha2 e
  · have e := eF c1
    refine r_iload_n dX0_isClassSign_7 rfl 2 rfl ?_
    refine r_bipush dX0_isClassSign_8 (by decide) ?_
    have eT := (r_ifo e).1
    have eF := (r_ifo e).2
    refine r_icmp_ne ha2 (by decide) 21 dX0_isClassSign_10 (by decide) (fun c2 => ?_) (fun c2 => ?_)
    · have e := eT c2
      exact wX0_isClassSign_b21 E s a1 a2 ha1 ha2 e
    · have e := eF c2
      refine r_aload_n dX0_isClassSign_13 rfl 0 rfl ?_
      refine r_sI E.p 10 fG_X0_180 (by decide) dX0_isClassSign_14 ?_
      refine r_iconst dX0_isClassSign_17 ?_
      have eT := (r_ifo e).1
      have eF := (r_ifo e).2
      refine r_icmp_lt ((rr.mine rfl).i 10 (by decide) (by decide)) (by decide) 27 dX0_isClassSign_18 (by decide) (fun c3 => ?_) (fun c3 => ?_)
      · have e := eT c3
        exact wX0_isClassSign_b27 E s a1 a2 ha1 ha2 e
      · have e := eF c3
        exact wX0_isClassSign_b21 E s a1 a2 ha1 ha2 e
def fX0_kindOf  (a0 : Int) : Option (Int) := if a0 = 100 then some 1 else if a0 = 102 then some 3 else if a0 = 104 then some 2 else if a0 = 110 then some 0 else if a0 = 115 then some 4 else some (-1)
theorem kX0_kindOf {G : Gx}  {h : hS} {r : Int} {a0 : Int}  (ha0 : rI a0) (e : fX0_kindOf a0 = some (r)) : CtX G yX0_kindOf cX0_kindOf 1 (some .int) 0 0 [] [] h [ti a0] (some (ti r)) [] h := by
  refine CtX.of (by decide) (Nat.le_of_ble_eq_true rfl) [(0, ti a0)] rfl ?_
  have E : EndX (G, 1, [], h, [], h, (some .int), (some (ti r)), yX0_kindOf.name) [] 1 (some .int) (some (ti r)) [] h := ⟨rfl, rfl, rfl, rfl, rfl, rfl⟩
  unfold fX0_kindOf at e
  refine r_rrs E.p (fun rr => ?_)
  refine r_iload_n dX0_kindOf_0 rfl 0 rfl ?_
  have eT := (r_ifo e).1
  have eF := (r_ifo e).2
  by_cases c1 : a0 = 100
  · have e := eT c1
    refine r_lsw ha0 dX0_kindOf_1 (by decide) 54 (off := 53) (by rw [c1]; rfl) (by decide) ?_
    refine r_iconst dX0_kindOf_54 ?_
    cases e
    exact r_iret E.σ E.st E.rt E.r (by decide) dX0_kindOf_55
  · have e := eF c1
    have eT := (r_ifo e).1
    have eF := (r_ifo e).2
    by_cases c2 : a0 = 102
    · have e := eT c2
      refine r_lsw ha0 dX0_kindOf_1 (by decide) 58 (off := 57) (by rw [c2]; rfl) (by decide) ?_
      refine r_iconst dX0_kindOf_58 ?_
      cases e
      exact r_iret E.σ E.st E.rt E.r (by decide) dX0_kindOf_59
    · have e := eF c2
      have eT := (r_ifo e).1
      have eF := (r_ifo e).2
      by_cases c3 : a0 = 104
      · have e := eT c3
        refine r_lsw ha0 dX0_kindOf_1 (by decide) 56 (off := 55) (by rw [c3]; rfl) (by decide) ?_
        refine r_iconst dX0_kindOf_56 ?_
        cases e
        exact r_iret E.σ E.st E.rt E.r (by decide) dX0_kindOf_57
      · have e := eF c3
        have eT := (r_ifo e).1
        have eF := (r_ifo e).2
        by_cases c4 : a0 = 110
        · have e := eT c4
          refine r_lsw ha0 dX0_kindOf_1 (by decide) 52 (off := 51) (by rw [c4]; rfl) (by decide) ?_
          refine r_iconst dX0_kindOf_52 ?_
          cases e
          exact r_iret E.σ E.st E.rt E.r (by decide) dX0_kindOf_53
        · have e := eF c4
          have eT := (r_ifo e).1
          have eF := (r_ifo e).2
          by_cases c5 : a0 = 115
          · have e := eT c5
            refine r_lsw ha0 dX0_kindOf_1 (by decide) 60 (off := 59) (by rw [c5]; rfl) (by decide) ?_
            refine r_iconst dX0_kindOf_60 ?_
            cases e
            exact r_iret E.σ E.st E.rt E.r (by decide) dX0_kindOf_61
          · have e := eF c5
            refine r_lsw ha0 dX0_kindOf_1 (by decide) 62 (off := 61) (by show Op.lookupswitch.offset [(100, 53), (102, 57), (104, 55), (110, 51), (115, 59)] 61 a0 = _; rw [lsw_ne c1, lsw_ne c2, lsw_ne c3, lsw_ne c4, lsw_ne c5]; rfl) (by decide) ?_
            refine r_iconst dX0_kindOf_62 ?_
            cases e
            exact r_iret E.σ E.st E.rt E.r (by decide) dX0_kindOf_63
theorem fG_X0_124 : FldG RX0 124 [(0, 18)] := List.forall_mem_cons.mpr ⟨⟨RX0, TX0, 36, "DictProof", rfl, in_X0, by decide, q299, Or.inl rfl⟩, fun _ h => absurd h List.not_mem_nil⟩
theorem fG_X0_188 : FldG RX0 188 [(0, 13)] := List.forall_mem_cons.mpr ⟨⟨RX0, TX0, 36, "DictProof", rfl, in_X0, by decide, q294, Or.inl rfl⟩, fun _ h => absurd h List.not_mem_nil⟩
theorem fP_X0_188 : FldP RX0 188 [(0, 13)] .int false := List.forall_mem_cons.mpr ⟨⟨RX0, TX0, 36, "DictProof", tyX0, rfl, in_X0, by decide, q294, Or.inl rfl, tyX0_ok, nmX0, rfl, Or.inl rfl, by decide⟩, fun _ h => absurd h List.not_mem_nil⟩
theorem fP_X0_191 : FldP RX0 191 [(0, 14)] .int false := List.forall_mem_cons.mpr ⟨⟨RX0, TX0, 36, "DictProof", tyX0, rfl, in_X0, by decide, q295, Or.inl rfl, tyX0_ok, nmX0, rfl, Or.inl rfl, by decide⟩, fun _ h => absurd h List.not_mem_nil⟩
theorem fP_X0_194 : FldP RX0 194 [(0, 15)] .int false := List.forall_mem_cons.mpr ⟨⟨RX0, TX0, 36, "DictProof", tyX0, rfl, in_X0, by decide, q296, Or.inl rfl, tyX0_ok, nmX0, rfl, Or.inl rfl, by decide⟩, fun _ h => absurd h List.not_mem_nil⟩
theorem fP_X0_197 : FldP RX0 197 [(0, 16)] .int false := List.forall_mem_cons.mpr ⟨⟨RX0, TX0, 36, "DictProof", tyX0, rfl, in_X0, by decide, q297, Or.inl rfl, tyX0_ok, nmX0, rfl, Or.inl rfl, by decide⟩, fun _ h => absurd h List.not_mem_nil⟩
theorem fP_X0_200 : FldP RX0 200 [(0, 17)] .int false := List.forall_mem_cons.mpr ⟨⟨RX0, TX0, 36, "DictProof", tyX0, rfl, in_X0, by decide, q298, Or.inl rfl, tyX0_ok, nmX0, rfl, Or.inl rfl, by decide⟩, fun _ h => absurd h List.not_mem_nil⟩
def fX0_isBegun_b58 (s : Sg) (k0 : Int) : Option (Int × Sg) := gd (k0 = 0 ∨ k0 = 1) (some (k0, s))
theorem wX0_isBegun_b58 {N : Nx} {b : Nat} {ad : Nat → Nat} {s' : Sg} {h : hS} {r : Int} (E : EndX N [(0, b, ad)] 3 (some .boolean) (some (ti r)) [s'] h)  (s : Sg) (k0 : Int) (hk0 : rI k0) (e : fX0_isBegun_b58 s k0 = some (r, s')) : AtPc cX0_isBegun RX0 1 20 N [s] h 58 [] [ti k0] := by
  unfold fX0_isBegun_b58 at e
  refine r_rrs E.p (fun rr => ?_)
  obtain ⟨g1, e⟩ := gd_o e
  cases e
  exact r_zret E.σ E.st E.rt E.r g1 dX0_isBegun_58
def fX0_isBegun  (s : Sg) (a1 : Int) (a2 : Int) : Option (Int × Sg) := gd (inb (gI s 13) 6) (bd (fX0_kindOf a2) fun p9 => if p9 = (-1) then fX0_isBegun_b58 (sI (sI (sI (sI (sI (sI (sA s 18 (gI s 13) a1) 13 (wr ((gI (sA s 18 (gI s 13) a1) 13) + 1))) 14 1) 15 0) 16 0) 17 0) 11 1) 0 else fX0_isBegun_b58 (sI (sI (sI (sI (sI (sI (sA s 18 (gI s 13) a1) 13 (wr ((gI (sA s 18 (gI s 13) a1) 13) + 1))) 14 1) 15 0) 16 0) 17 0) 11 1) 1)
theorem kX0_isBegun {G : Gx}  {b : Nat} {ad : Nat → Nat} {s' : Sg} {h : hS} {r : Int} {s : Sg} {a1 : Int} {a2 : Int}  (ha1 : rI a1) (ha2 : rI a2) (e : fX0_isBegun s a1 a2 = some (r, s')) : CtX G yX0_isBegun cX0_isBegun 3 (some .boolean) 1 20 [(0, b, ad)] [s] h [tr (some b), ti a1, ti a2] (some (ti r)) [s'] h := by
  refine CtX.of (by decide) (Nat.le_of_ble_eq_true rfl) [(0, tr (some b)), (1, ti a1), (2, ti a2)] rfl ?_
  have E : EndX (G, 3, [(0, b, ad)], h, [s'], h, (some .boolean), (some (ti r)), yX0_isBegun.name) [(0, b, ad)] 3 (some .boolean) (some (ti r)) [s'] h := ⟨rfl, rfl, rfl, rfl, rfl, rfl⟩
  unfold fX0_isBegun at e
  refine r_rrs E.p (fun rr => ?_)
  refine r_aload_n dX0_isBegun_0 rfl 0 rfl ?_
  refine r_sR E.p 18 fG_X0_124 (by decide) dX0_isBegun_1 ?_
  refine r_aload_n dX0_isBegun_4 rfl 0 rfl ?_
  refine r_sI E.p 13 fG_X0_188 (by decide) dX0_isBegun_5 ?_
  refine r_iload_n dX0_isBegun_8 rfl 1 rfl ?_
  obtain ⟨g1, e⟩ := gd_o e
  refine r_saP E.p 18 rfl (by decide) (by decide) ((rr.mine rfl).i 13 (by decide) (by decide)) g1 ha1 rfl dX0_isBegun_9 ?_
  refine r_rrs E.p (fun rr2 => ?_)
  refine r_aload_n dX0_isBegun_10 rfl 0 rfl ?_
  refine r_dup dX0_isBegun_11 rfl ?_
  refine r_sI E.p 13 fG_X0_188 (by decide) dX0_isBegun_12 ?_
  refine r_iconst dX0_isBegun_15 ?_
  refine r_iadd dX0_isBegun_16 ?_
  refine r_sPI E.p 13 fP_X0_188 rfl (wr_r _) dX0_isBegun_17 ?_
  refine r_rrs E.p (fun rr3 => ?_)
  refine r_aload_n dX0_isBegun_20 rfl 0 rfl ?_
  refine r_iconst dX0_isBegun_21 ?_
  refine r_sPI E.p 14 fP_X0_191 rfl (by decide) dX0_isBegun_22 ?_
  refine r_rrs E.p (fun rr4 => ?_)
  refine r_aload_n dX0_isBegun_25 rfl 0 rfl ?_
  refine r_iconst dX0_isBegun_26 ?_
  refine r_sPI E.p 15 fP_X0_194 rfl (by decide) dX0_isBegun_27 ?_
  refine r_rrs E.p (fun rr5 => ?_)
  refine r_aload_n dX0_isBegun_30 rfl 0 rfl ?_
  refine r_iconst dX0_isBegun_31 ?_
  refine r_sPI E.p 16 fP_X0_197 rfl (by decide) dX0_isBegun_32 ?_
  refine r_rrs E.p (fun rr6 => ?_)
  refine r_aload_n dX0_isBegun_35 rfl 0 rfl ?_
  refine r_iconst dX0_isBegun_36 ?_
  refine r_sPI E.p 17 fP_X0_200 rfl (by decide) dX0_isBegun_37 ?_
  refine r_rrs E.p (fun rr7 => ?_)
  refine r_aload_n dX0_isBegun_40 rfl 0 rfl ?_
  refine r_iconst dX0_isBegun_41 ?_
  refine r_sPI E.p 11 fP_X0_177 rfl (by decide) dX0_isBegun_42 ?_
  refine r_rrs E.p (fun rr8 => ?_)
  refine r_iload_n dX0_isBegun_45 rfl 2 rfl ?_
  obtain ⟨p9, q10, e⟩ := bd_o e
  have k11 := kX0_kindOf (G := G) (h := h) ha2 q10
  have z12 := (k11 rr8.none).1.2.2.2
  refine r_callS (j := none) 1 [ti a2] k11 (injO_1 E.p) subO_0 getO_0 setO_0 (lw_S q421 q422 q115 q423) (by decide +kernel) rfl (Nat.le_of_ble_eq_true rfl) (Nat.le_of_ble_eq_true rfl) rfl (Nat.le_of_ble_eq_true rfl) dX0_isBegun_46 rfl ?_
  refine r_iconst dX0_isBegun_49 ?_
  have eT := (r_ifo e).1
  have eF := (r_ifo e).2
  refine r_icmp_eq z12 (by decide) 57 dX0_isBegun_50 (by decide) (fun c13 => ?_) (fun c13 => ?_)
  · have e := eT c13
    refine r_iconst dX0_isBegun_57 ?_
    refine r_sub [] rfl ?_
    exact wX0_isBegun_b58 E (sI (sI (sI (sI (sI (sI (sA s 18 (gI s 13) a1) 13 (wr ((gI (sA s 18 (gI s 13) a1) 13) + 1))) 14 1) 15 0) 16 0) 17 0) 11 1) 0 (by decide) e
  · have e := eF c13
    refine r_iconst dX0_isBegun_53 ?_
    refine r_goto 58 dX0_isBegun_54 (by decide) ?_
    refine r_sub [] rfl ?_
    exact wX0_isBegun_b58 E (sI (sI (sI (sI (sI (sI (sA s 18 (gI s 13) a1) 13 (wr ((gI (sA s 18 (gI s 13) a1) 13) + 1))) 14 1) 15 0) 16 0) 17 0) 11 1) 1 (by decide) e
def fX0_partsOf_b21 (k0 : Int) : Option (Int) := some k0
theorem wX0_partsOf_b21 {N : Nx} {h : hS} {r : Int} (E : EndX N [] 1 (some .int) (some (ti r)) [] h)  (k0 : Int) (hk0 : rI k0) (e : fX0_partsOf_b21 k0 = some (r)) : AtPc cX0_partsOf RX0 0 0 N [] h 21 [] [ti k0] := by
  unfold fX0_partsOf_b21 at e
  refine r_rrs E.p (fun rr => ?_)
  cases e
  exact r_iret E.σ E.st E.rt E.r hk0 dX0_partsOf_21
def fX0_partsOf  (a0 : Int) : Option (Int) := if ¬ a0 = 108 then if ¬ a0 = 112 then fX0_partsOf_b21 0 else fX0_partsOf_b21 2 else fX0_partsOf_b21 1
theorem kX0_partsOf {G : Gx}  {h : hS} {r : Int} {a0 : Int}  (ha0 : rI a0) (e : fX0_partsOf a0 = some (r)) : CtX G yX0_partsOf cX0_partsOf 1 (some .int) 0 0 [] [] h [ti a0] (some (ti r)) [] h := by
  refine CtX.of (by decide) (Nat.le_of_ble_eq_true rfl) [(0, ti a0)] rfl ?_
  have E : EndX (G, 1, [], h, [], h, (some .int), (some (ti r)), yX0_partsOf.name) [] 1 (some .int) (some (ti r)) [] h := ⟨rfl, rfl, rfl, rfl, rfl, rfl⟩
  unfold fX0_partsOf at e
  refine r_rrs E.p (fun rr => ?_)
  refine r_iload_n dX0_partsOf_0 rfl 0 rfl ?_
  refine r_bipush dX0_partsOf_1 (by decide) ?_
  have eT := (r_ifo e).1
  have eF := (r_ifo e).2
  refine r_icmp_ne ha0 (by decide) 10 dX0_partsOf_3 (by decide) (fun c1 => ?_) (fun c1 => ?_)
  · have e := eT c1
    refine r_iload_n dX0_partsOf_10 rfl 0 rfl ?_
    refine r_bipush dX0_partsOf_11 (by decide) ?_
    have eT := (r_ifo e).1
    have eF := (r_ifo e).2
    refine r_icmp_ne ha0 (by decide) 20 dX0_partsOf_13 (by decide) (fun c2 => ?_) (fun c2 => ?_)
    · have e := eT c2
      refine r_iconst dX0_partsOf_20 ?_
      refine r_sub [] rfl ?_
      exact wX0_partsOf_b21 E 0 (by decide) e
    · have e := eF c2
      refine r_iconst dX0_partsOf_16 ?_
      refine r_goto 21 dX0_partsOf_17 (by decide) ?_
      refine r_sub [] rfl ?_
      exact wX0_partsOf_b21 E 2 (by decide) e
  · have e := eF c1
    refine r_iconst dX0_partsOf_6 ?_
    refine r_goto 21 dX0_partsOf_7 (by decide) ?_
    refine r_sub [] rfl ?_
    exact wX0_partsOf_b21 E 1 (by decide) e
def fX0_isVariableSign_b17 (k0 : Int) : Option (Int) := gd (k0 = 0 ∨ k0 = 1) (some k0)
theorem wX0_isVariableSign_b17 {N : Nx} {h : hS} {r : Int} (E : EndX N [] 1 (some .boolean) (some (ti r)) [] h)  (k0 : Int) (hk0 : rI k0) (e : fX0_isVariableSign_b17 k0 = some (r)) : AtPc cX0_isVariableSign RX0 0 0 N [] h 17 [] [ti k0] := by
  unfold fX0_isVariableSign_b17 at e
  refine r_rrs E.p (fun rr => ?_)
  obtain ⟨g1, e⟩ := gd_o e
  cases e
  exact r_zret E.σ E.st E.rt E.r g1 dX0_isVariableSign_17
def fX0_isVariableSign_b12  : Option (Int) := fX0_isVariableSign_b17 1
theorem wX0_isVariableSign_b12 {N : Nx} {h : hS} {r : Int} (E : EndX N [] 1 (some .boolean) (some (ti r)) [] h)   (e : fX0_isVariableSign_b12 = some (r)) : AtPc cX0_isVariableSign RX0 0 0 N [] h 12 [] [] := by
  unfold fX0_isVariableSign_b12 at e
  refine r_rrs E.p (fun rr => ?_)
  refine r_iconst dX0_isVariableSign_12 ?_
  refine r_goto 17 dX0_isVariableSign_13 (by decide) ?_
  exact wX0_isVariableSign_b17 E 1 (by decide) e
def fX0_isVariableSign  (a0 : Int) : Option (Int) := if a0 = 120 then fX0_isVariableSign_b12 else if ¬ a0 = 121 then fX0_isVariableSign_b17 0 else fX0_isVariableSign_b12
theorem kX0_isVariableSign {G : Gx}  {h : hS} {r : Int} {a0 : Int}  (ha0 : rI a0) (e : fX0_isVariableSign a0 = some (r)) : CtX G yX0_isVariableSign cX0_isVariableSign 1 (some .boolean) 0 0 [] [] h [ti a0] (some (ti r)) [] h := by
  refine CtX.of (by decide) (Nat.le_of_ble_eq_true rfl) [(0, ti a0)] rfl ?_
  have E : EndX (G, 1, [], h, [], h, (some .boolean), (some (ti r)), yX0_isVariableSign.name) [] 1 (some .boolean) (some (ti r)) [] h := ⟨rfl, rfl, rfl, rfl, rfl, rfl⟩
  unfold fX0_isVariableSign at e
  refine r_rrs E.p (fun rr => ?_)
  refine r_iload_n dX0_isVariableSign_0 rfl 0 rfl ?_
  refine r_bipush dX0_isVariableSign_1 (by decide) ?_
  have eT := (r_ifo e).1
  have eF := (r_ifo e).2
  refine r_icmp_eq ha0 (by decide) 12 dX0_isVariableSign_3 (by decide) (fun c1 => ?_) (fun c1 => ?_)
  · have e := eT c1
    refine r_sub [] rfl ?_
    exact wX0_isVariableSign_b12 E e
  · have e := eF c1
    refine r_iload_n dX0_isVariableSign_6 rfl 0 rfl ?_
    refine r_bipush dX0_isVariableSign_7 (by decide) ?_
    have eT := (r_ifo e).1
    have eF := (r_ifo e).2
    refine r_icmp_ne ha0 (by decide) 16 dX0_isVariableSign_9 (by decide) (fun c2 => ?_) (fun c2 => ?_)
    · have e := eT c2
      refine r_iconst dX0_isVariableSign_16 ?_
      refine r_sub [] rfl ?_
      exact wX0_isVariableSign_b17 E 0 (by decide) e
    · have e := eF c2
      refine r_sub [] rfl ?_
      exact wX0_isVariableSign_b12 E e
def fX0_isTypeSign_b31 (k0 : Int) : Option (Int) := gd (k0 = 0 ∨ k0 = 1) (some k0)
theorem wX0_isTypeSign_b31 {N : Nx} {h : hS} {r : Int} (E : EndX N [] 1 (some .boolean) (some (ti r)) [] h)  (k0 : Int) (hk0 : rI k0) (e : fX0_isTypeSign_b31 k0 = some (r)) : AtPc cX0_isTypeSign RX0 1 20 N [] h 31 [] [ti k0] := by
  unfold fX0_isTypeSign_b31 at e
  refine r_rrs E.p (fun rr => ?_)
  obtain ⟨g1, e⟩ := gd_o e
  cases e
  exact r_zret E.σ E.st E.rt E.r g1 dX0_isTypeSign_31
def fX0_isTypeSign_b26  : Option (Int) := fX0_isTypeSign_b31 1
theorem wX0_isTypeSign_b26 {N : Nx} {h : hS} {r : Int} (E : EndX N [] 1 (some .boolean) (some (ti r)) [] h)   (e : fX0_isTypeSign_b26 = some (r)) : AtPc cX0_isTypeSign RX0 1 20 N [] h 26 [] [] := by
  unfold fX0_isTypeSign_b26 at e
  refine r_rrs E.p (fun rr => ?_)
  refine r_iconst dX0_isTypeSign_26 ?_
  refine r_goto 31 dX0_isTypeSign_27 (by decide) ?_
  exact wX0_isTypeSign_b31 E 1 (by decide) e
def fX0_isTypeSign  (a0 : Int) : Option (Int) := if a0 = 105 then fX0_isTypeSign_b26 else if a0 = 98 then fX0_isTypeSign_b26 else bd (fX0_partsOf a0) fun p3 => if 0 < p3 then fX0_isTypeSign_b26 else bd (fX0_isVariableSign a0) fun p8 => if p8 = 0 then fX0_isTypeSign_b31 0 else fX0_isTypeSign_b26
theorem kX0_isTypeSign {G : Gx}  {h : hS} {r : Int} {a0 : Int}  (ha0 : rI a0) (e : fX0_isTypeSign a0 = some (r)) : CtX G yX0_isTypeSign cX0_isTypeSign 1 (some .boolean) 1 20 [] [] h [ti a0] (some (ti r)) [] h := by
  refine CtX.of (by decide) (Nat.le_of_ble_eq_true rfl) [(0, ti a0)] rfl ?_
  have E : EndX (G, 1, [], h, [], h, (some .boolean), (some (ti r)), yX0_isTypeSign.name) [] 1 (some .boolean) (some (ti r)) [] h := ⟨rfl, rfl, rfl, rfl, rfl, rfl⟩
  unfold fX0_isTypeSign at e
  refine r_rrs E.p (fun rr => ?_)
  refine r_iload_n dX0_isTypeSign_0 rfl 0 rfl ?_
  refine r_bipush dX0_isTypeSign_1 (by decide) ?_
  have eT := (r_ifo e).1
  have eF := (r_ifo e).2
  refine r_icmp_eq ha0 (by decide) 26 dX0_isTypeSign_3 (by decide) (fun c1 => ?_) (fun c1 => ?_)
  · have e := eT c1
    refine r_sub [] rfl ?_
    exact wX0_isTypeSign_b26 E e
  · have e := eF c1
    refine r_iload_n dX0_isTypeSign_6 rfl 0 rfl ?_
    refine r_bipush dX0_isTypeSign_7 (by decide) ?_
    have eT := (r_ifo e).1
    have eF := (r_ifo e).2
    refine r_icmp_eq ha0 (by decide) 26 dX0_isTypeSign_9 (by decide) (fun c2 => ?_) (fun c2 => ?_)
    · have e := eT c2
      refine r_sub [] rfl ?_
      exact wX0_isTypeSign_b26 E e
    · have e := eF c2
      refine r_iload_n dX0_isTypeSign_12 rfl 0 rfl ?_
      obtain ⟨p3, q4, e⟩ := bd_o e
      have k5 := kX0_partsOf (G := G) (h := h) ha0 q4
      have z6 := (k5 rr).1.2.2.2
      refine r_callS (j := none) 1 [ti a0] k5 (injO_0 E.p) subO_0 getO_0 setO_0 (lw_S q428 q429 q115 q430) (by decide +kernel) rfl (Nat.le_of_ble_eq_true rfl) (Nat.le_of_ble_eq_true rfl) rfl (Nat.le_of_ble_eq_true rfl) dX0_isTypeSign_13 rfl ?_
      have eT := (r_ifo e).1
      have eF := (r_ifo e).2
      refine r_if_gt z6 26 dX0_isTypeSign_16 (by decide) (fun c7 => ?_) (fun c7 => ?_)
      · have e := eT c7
        refine r_sub [] rfl ?_
        exact wX0_isTypeSign_b26 E e
      · have e := eF c7
        refine r_iload_n dX0_isTypeSign_19 rfl 0 rfl ?_
        obtain ⟨p8, q9, e⟩ := bd_o e
        have k10 := kX0_isVariableSign (G := G) (h := h) ha0 q9
        have z11 := (k10 rr).1.2.2.2
        refine r_callS (j := none) 1 [ti a0] k10 (injO_0 E.p) subO_0 getO_0 setO_0 (lw_S q431 q432 q115 q433) (by decide +kernel) rfl (Nat.le_of_ble_eq_true rfl) (Nat.le_of_ble_eq_true rfl) rfl (Nat.le_of_ble_eq_true rfl) dX0_isTypeSign_20 rfl ?_
        have eT := (r_ifo e).1
        have eF := (r_ifo e).2
        refine r_if_eq (rI_z z11) 30 dX0_isTypeSign_23 (by decide) (fun c12 => ?_) (fun c12 => ?_)
        · have e := eT c12
          refine r_iconst dX0_isTypeSign_30 ?_
          refine r_sub [] rfl ?_
          exact wX0_isTypeSign_b31 E 0 (by decide) e
        · have e := eF c12
          refine r_sub [] rfl ?_
          exact wX0_isTypeSign_b26 E e
theorem fG_X0_194 : FldG RX0 194 [(0, 15)] := List.forall_mem_cons.mpr ⟨⟨RX0, TX0, 36, "DictProof", rfl, in_X0, by decide, q296, Or.inl rfl⟩, fun _ h => absurd h List.not_mem_nil⟩
theorem fG_X0_191 : FldG RX0 191 [(0, 14)] := List.forall_mem_cons.mpr ⟨⟨RX0, TX0, 36, "DictProof", rfl, in_X0, by decide, q295, Or.inl rfl⟩, fun _ h => absurd h List.not_mem_nil⟩
theorem fG_X0_197 : FldG RX0 197 [(0, 16)] := List.forall_mem_cons.mpr ⟨⟨RX0, TX0, 36, "DictProof", rfl, in_X0, by decide, q297, Or.inl rfl⟩, fun _ h => absurd h List.not_mem_nil⟩
def fX0_isHeadSign_b76 (s : Sg) (k0 : Int) : Option (Int × Sg) := gd (k0 = 0 ∨ k0 = 1) (some (k0, s))
theorem wX0_isHeadSign_b76 {N : Nx} {b : Nat} {ad : Nat → Nat} {s' : Sg} {h : hS} {r : Int} (E : EndX N [(0, b, ad)] 2 (some .boolean) (some (ti r)) [s'] h)  (s : Sg) (k0 : Int) (hk0 : rI k0) (e : fX0_isHeadSign_b76 s k0 = some (r, s')) : AtPc cX0_isHeadSign RX0 2 40 N [s] h 76 [] [ti k0] := by
  unfold fX0_isHeadSign_b76 at e
  refine r_rrs E.p (fun rr => ?_)
  obtain ⟨g1, e⟩ := gd_o e
  cases e
  exact r_zret E.σ E.st E.rt E.r g1 dX0_isHeadSign_76
def fX0_isHeadSign_b75 (s : Sg) : Option (Int × Sg) := fX0_isHeadSign_b76 s 0
theorem wX0_isHeadSign_b75 {N : Nx} {b : Nat} {ad : Nat → Nat} {s' : Sg} {h : hS} {r : Int} (E : EndX N [(0, b, ad)] 2 (some .boolean) (some (ti r)) [s'] h)  (s : Sg) (e : fX0_isHeadSign_b75 s = some (r, s')) : AtPc cX0_isHeadSign RX0 2 40 N [s] h 75 [] [] := by
  unfold fX0_isHeadSign_b75 at e
  refine r_rrs E.p (fun rr => ?_)
  refine r_iconst dX0_isHeadSign_75 ?_
  exact wX0_isHeadSign_b76 E s 0 (by decide) e
def fX0_isHeadSign_b47 (s : Sg) (a1 : Int) (k1 : Int) (k2 : Int) : Option (Int × Sg) := bd (fX0_isTypeSign a1) fun p2 => if p2 = 0 then fX0_isHeadSign_b75 (sI s 16 (ior k1 k2)) else if 5 < (wr ((gI (sI s 16 (ior k1 k2)) 15) + (gI (sI s 16 (ior k1 k2)) 14))) then fX0_isHeadSign_b75 (sI s 16 (ior k1 k2)) else fX0_isHeadSign_b76 (sI s 16 (ior k1 k2)) 1
theorem wX0_isHeadSign_b47 {N : Nx} {b : Nat} {ad : Nat → Nat} {s' : Sg} {h : hS} {r : Int} (E : EndX N [(0, b, ad)] 2 (some .boolean) (some (ti r)) [s'] h)  (s : Sg) (a1 : Int) (k1 : Int) (k2 : Int) (ha1 : rI a1) (hk1 : rI k1) (hk2 : rI k2) (e : fX0_isHeadSign_b47 s a1 k1 k2 = some (r, s')) : AtPc cX0_isHeadSign RX0 2 40 N [s] h 47 [(0, tr (some b)), (1, ti a1)] [ti k2, ti k1, tr (some b)] := by
  unfold fX0_isHeadSign_b47 at e
  refine r_rrs E.p (fun rr => ?_)
  refine r_ior dX0_isHeadSign_47 ?_
  refine r_sPI E.p 16 fP_X0_197 rfl (ior_r _ _) dX0_isHeadSign_48 ?_
  refine r_rrs E.p (fun rr1 => ?_)
  refine r_iload_n dX0_isHeadSign_51 rfl 1 rfl ?_
  obtain ⟨p2, q3, e⟩ := bd_o e
  have k4 := kX0_isTypeSign (G := nG N) (h := h) ha1 q3
  have z5 := (k4 rr1.none).1.2.2.2
  refine r_callS (j := none) 1 [ti a1] k4 (injO_1 E.p) subO_0 getO_0 setO_0 (lw_S q434 q435 q115 q436) (by decide +kernel) rfl (Nat.le_of_ble_eq_true rfl) (Nat.le_of_ble_eq_true rfl) rfl (Nat.le_of_ble_eq_true rfl) dX0_isHeadSign_52 rfl ?_
  have eT := (r_ifo e).1
  have eF := (r_ifo e).2
  refine r_if_eq (rI_z z5) 75 dX0_isHeadSign_55 (by decide) (fun c6 => ?_) (fun c6 => ?_)
  · have e := eT c6
    refine r_sub [] rfl ?_
    exact wX0_isHeadSign_b75 E (sI s 16 (ior k1 k2)) e
  · have e := eF c6
    refine r_aload_n dX0_isHeadSign_58 rfl 0 rfl ?_
    refine r_sI E.p 15 fG_X0_194 (by decide) dX0_isHeadSign_59 ?_
    refine r_aload_n dX0_isHeadSign_62 rfl 0 rfl ?_
    refine r_sI E.p 14 fG_X0_191 (by decide) dX0_isHeadSign_63 ?_
    refine r_iadd dX0_isHeadSign_66 ?_
    refine r_iconst dX0_isHeadSign_67 ?_
    have eT := (r_ifo e).1
    have eF := (r_ifo e).2
    refine r_icmp_gt (wr_r _) (by decide) 75 dX0_isHeadSign_68 (by decide) (fun c7 => ?_) (fun c7 => ?_)
    · have e := eT c7
      refine r_sub [] rfl ?_
      exact wX0_isHeadSign_b75 E (sI s 16 (ior k1 k2)) e
    · have e := eF c7
      refine r_iconst dX0_isHeadSign_71 ?_
      refine r_goto 76 dX0_isHeadSign_72 (by decide) ?_
      refine r_sub [] rfl ?_
      exact wX0_isHeadSign_b76 E (sI s 16 (ior k1 k2)) 1 (by decide) e
def fX0_isHeadSign  (s : Sg) (a1 : Int) : Option (Int × Sg) := bd (fX0_partsOf a1) fun p2 => bd (fX0_isVariableSign a1) fun p7 => if p7 = 0 then fX0_isHeadSign_b47 (sI (sI s 15 (wr ((gI s 15) + 1))) 14 (wr ((gI (sI s 15 (wr ((gI s 15) + 1))) 14) + (wr (p2 - 1))))) a1 (gI (sI (sI s 15 (wr ((gI s 15) + 1))) 14 (wr ((gI (sI s 15 (wr ((gI s 15) + 1))) 14) + (wr (p2 - 1))))) 16) 0 else fX0_isHeadSign_b47 (sI (sI s 15 (wr ((gI s 15) + 1))) 14 (wr ((gI (sI s 15 (wr ((gI s 15) + 1))) 14) + (wr (p2 - 1))))) a1 (gI (sI (sI s 15 (wr ((gI s 15) + 1))) 14 (wr ((gI (sI s 15 (wr ((gI s 15) + 1))) 14) + (wr (p2 - 1))))) 16) (ishl 1 (wr (a1 - 120)))
theorem kX0_isHeadSign {G : Gx}  {b : Nat} {ad : Nat → Nat} {s' : Sg} {h : hS} {r : Int} {s : Sg} {a1 : Int}  (ha1 : rI a1) (e : fX0_isHeadSign s a1 = some (r, s')) : CtX G yX0_isHeadSign cX0_isHeadSign 2 (some .boolean) 2 40 [(0, b, ad)] [s] h [tr (some b), ti a1] (some (ti r)) [s'] h := by
  refine CtX.of (by decide) (Nat.le_of_ble_eq_true rfl) [(0, tr (some b)), (1, ti a1)] rfl ?_
  have E : EndX (G, 2, [(0, b, ad)], h, [s'], h, (some .boolean), (some (ti r)), yX0_isHeadSign.name) [(0, b, ad)] 2 (some .boolean) (some (ti r)) [s'] h := ⟨rfl, rfl, rfl, rfl, rfl, rfl⟩
  unfold fX0_isHeadSign at e
  refine r_rrs E.p (fun rr => ?_)
  refine r_aload_n dX0_isHeadSign_0 rfl 0 rfl ?_
  refine r_dup dX0_isHeadSign_1 rfl ?_
  refine r_sI E.p 15 fG_X0_194 (by decide) dX0_isHeadSign_2 ?_
  refine r_iconst dX0_isHeadSign_5 ?_
  refine r_iadd dX0_isHeadSign_6 ?_
  refine r_sPI E.p 15 fP_X0_194 rfl (wr_r _) dX0_isHeadSign_7 ?_
  refine r_rrs E.p (fun rr1 => ?_)
  refine r_aload_n dX0_isHeadSign_10 rfl 0 rfl ?_
  refine r_dup dX0_isHeadSign_11 rfl ?_
  refine r_sI E.p 14 fG_X0_191 (by decide) dX0_isHeadSign_12 ?_
  refine r_iload_n dX0_isHeadSign_15 rfl 1 rfl ?_
  obtain ⟨p2, q3, e⟩ := bd_o e
  have k4 := kX0_partsOf (G := G) (h := h) ha1 q3
  have z5 := (k4 rr1.none).1.2.2.2
  refine r_callS (j := none) 1 [ti a1] k4 (injO_1 E.p) subO_0 getO_0 setO_0 (lw_S q428 q429 q115 q430) (by decide +kernel) rfl (Nat.le_of_ble_eq_true rfl) (Nat.le_of_ble_eq_true rfl) rfl (Nat.le_of_ble_eq_true rfl) dX0_isHeadSign_16 rfl ?_
  refine r_iconst dX0_isHeadSign_19 ?_
  refine r_isub dX0_isHeadSign_20 ?_
  refine r_iadd dX0_isHeadSign_21 ?_
  refine r_sPI E.p 14 fP_X0_191 rfl (wr_r _) dX0_isHeadSign_22 ?_
  refine r_rrs E.p (fun rr6 => ?_)
  refine r_aload_n dX0_isHeadSign_25 rfl 0 rfl ?_
  refine r_dup dX0_isHeadSign_26 rfl ?_
  refine r_sI E.p 16 fG_X0_197 (by decide) dX0_isHeadSign_27 ?_
  refine r_iload_n dX0_isHeadSign_30 rfl 1 rfl ?_
  obtain ⟨p7, q8, e⟩ := bd_o e
  have k9 := kX0_isVariableSign (G := G) (h := h) ha1 q8
  have z10 := (k9 rr6.none).1.2.2.2
  refine r_callS (j := none) 1 [ti a1] k9 (injO_1 E.p) subO_0 getO_0 setO_0 (lw_S q431 q432 q115 q433) (by decide +kernel) rfl (Nat.le_of_ble_eq_true rfl) (Nat.le_of_ble_eq_true rfl) rfl (Nat.le_of_ble_eq_true rfl) dX0_isHeadSign_31 rfl ?_
  have eT := (r_ifo e).1
  have eF := (r_ifo e).2
  refine r_if_eq (rI_z z10) 46 dX0_isHeadSign_34 (by decide) (fun c11 => ?_) (fun c11 => ?_)
  · have e := eT c11
    refine r_iconst dX0_isHeadSign_46 ?_
    exact wX0_isHeadSign_b47 E (sI (sI s 15 (wr ((gI s 15) + 1))) 14 (wr ((gI (sI s 15 (wr ((gI s 15) + 1))) 14) + (wr (p2 - 1))))) a1 (gI (sI (sI s 15 (wr ((gI s 15) + 1))) 14 (wr ((gI (sI s 15 (wr ((gI s 15) + 1))) 14) + (wr (p2 - 1))))) 16) 0 ha1 ((rr6.mine rfl).i 16 (by decide) (by decide)) (by decide) e
  · have e := eF c11
    refine r_iconst dX0_isHeadSign_37 ?_
    refine r_iload_n dX0_isHeadSign_38 rfl 1 rfl ?_
    refine r_bipush dX0_isHeadSign_39 (by decide) ?_
    refine r_isub dX0_isHeadSign_41 ?_
    refine r_ishl dX0_isHeadSign_42 ?_
    refine r_goto 47 dX0_isHeadSign_43 (by decide) ?_
    exact wX0_isHeadSign_b47 E (sI (sI s 15 (wr ((gI s 15) + 1))) 14 (wr ((gI (sI s 15 (wr ((gI s 15) + 1))) 14) + (wr (p2 - 1))))) a1 (gI (sI (sI s 15 (wr ((gI s 15) + 1))) 14 (wr ((gI (sI s 15 (wr ((gI s 15) + 1))) 14) + (wr (p2 - 1))))) 16) (ishl 1 (wr (a1 - 120))) ha1 ((rr6.mine rfl).i 16 (by decide) (by decide)) (ishl_r _ _) e
def fX0_has_b14 (k0 : Int) : Option (Int) := gd (k0 = 0 ∨ k0 = 1) (some k0)
theorem wX0_has_b14 {N : Nx} {h : hS} {r : Int} (E : EndX N [] 2 (some .boolean) (some (ti r)) [] h)  (k0 : Int) (hk0 : rI k0) (e : fX0_has_b14 k0 = some (r)) : AtPc cX0_has RX0 0 0 N [] h 14 [] [ti k0] := by
  unfold fX0_has_b14 at e
  refine r_rrs E.p (fun rr => ?_)
  obtain ⟨g1, e⟩ := gd_o e
  cases e
  exact r_zret E.σ E.st E.rt E.r g1 dX0_has_14
def fX0_has  (a0 : Int) (a1 : Int) : Option (Int) := if ¬ (iand (ishr a0 a1) 1) = 1 then fX0_has_b14 0 else fX0_has_b14 1
theorem kX0_has {G : Gx}  {h : hS} {r : Int} {a0 : Int} {a1 : Int}  (ha0 : rI a0) (ha1 : rI a1) (e : fX0_has a0 a1 = some (r)) : CtX G yX0_has cX0_has 2 (some .boolean) 0 0 [] [] h [ti a0, ti a1] (some (ti r)) [] h := by
  refine CtX.of (by decide) (Nat.le_of_ble_eq_true rfl) [(0, ti a0), (1, ti a1)] rfl ?_
  have E : EndX (G, 2, [], h, [], h, (some .boolean), (some (ti r)), yX0_has.name) [] 2 (some .boolean) (some (ti r)) [] h := ⟨rfl, rfl, rfl, rfl, rfl, rfl⟩
  unfold fX0_has at e
  refine r_rrs E.p (fun rr => ?_)
  refine r_iload_n dX0_has_0 rfl 0 rfl ?_
  refine r_iload_n dX0_has_1 rfl 1 rfl ?_
  refine r_ishr dX0_has_2 ?_
  refine r_iconst dX0_has_3 ?_
  refine r_iand dX0_has_4 ?_
  refine r_iconst dX0_has_5 ?_
  have eT := (r_ifo e).1
  have eF := (r_ifo e).2
  refine r_icmp_ne (iand_r _ _) (by decide) 13 dX0_has_6 (by decide) (fun c1 => ?_) (fun c1 => ?_)
  · have e := eT c1
    refine r_iconst dX0_has_13 ?_
    refine r_sub [] rfl ?_
    exact wX0_has_b14 E 0 (by decide) e
  · have e := eF c1
    refine r_iconst dX0_has_9 ?_
    refine r_goto 14 dX0_has_10 (by decide) ?_
    refine r_sub [] rfl ?_
    exact wX0_has_b14 E 1 (by decide) e
theorem fG_X0_200 : FldG RX0 200 [(0, 17)] := List.forall_mem_cons.mpr ⟨⟨RX0, TX0, 36, "DictProof", rfl, in_X0, by decide, q298, Or.inl rfl⟩, fun _ h => absurd h List.not_mem_nil⟩
def fX0_isConditionSign_b61 (s : Sg) (k0 : Int) : Option (Int × Sg) := gd (k0 = 0 ∨ k0 = 1) (some (k0, s))
theorem wX0_isConditionSign_b61 {N : Nx} {b : Nat} {ad : Nat → Nat} {s' : Sg} {h : hS} {r : Int} (E : EndX N [(0, b, ad)] 2 (some .boolean) (some (ti r)) [s'] h)  (s : Sg) (k0 : Int) (hk0 : rI k0) (e : fX0_isConditionSign_b61 s k0 = some (r, s')) : AtPc cX0_isConditionSign RX0 1 25 N [s] h 61 [] [ti k0] := by
  unfold fX0_isConditionSign_b61 at e
  refine r_rrs E.p (fun rr => ?_)
  obtain ⟨g1, e⟩ := gd_o e
  cases e
  exact r_zret E.σ E.st E.rt E.r g1 dX0_isConditionSign_61
def fX0_isConditionSign_b60 (s : Sg) : Option (Int × Sg) := fX0_isConditionSign_b61 s 0
theorem wX0_isConditionSign_b60 {N : Nx} {b : Nat} {ad : Nat → Nat} {s' : Sg} {h : hS} {r : Int} (E : EndX N [(0, b, ad)] 2 (some .boolean) (some (ti r)) [s'] h)  (s : Sg) (e : fX0_isConditionSign_b60 s = some (r, s')) : AtPc cX0_isConditionSign RX0 1 25 N [s] h 60 [] [] := by
  unfold fX0_isConditionSign_b60 at e
  refine r_rrs E.p (fun rr => ?_)
  refine r_iconst dX0_isConditionSign_60 ?_
  exact wX0_isConditionSign_b61 E s 0 (by decide) e
def fX0_isConditionSign_b88 (s : Sg) (k0 : Int) : Option (Int × Sg) := gd (k0 = 0 ∨ k0 = 1) (some (k0, s))
theorem wX0_isConditionSign_b88 {N : Nx} {b : Nat} {ad : Nat → Nat} {s' : Sg} {h : hS} {r : Int} (E : EndX N [(0, b, ad)] 2 (some .boolean) (some (ti r)) [s'] h)  (s : Sg) (k0 : Int) (hk0 : rI k0) (e : fX0_isConditionSign_b88 s k0 = some (r, s')) : AtPc cX0_isConditionSign RX0 1 25 N [s] h 88 [] [ti k0] := by
  unfold fX0_isConditionSign_b88 at e
  refine r_rrs E.p (fun rr => ?_)
  obtain ⟨g1, e⟩ := gd_o e
  cases e
  exact r_zret E.σ E.st E.rt E.r g1 dX0_isConditionSign_88
def fX0_isConditionSign_b87 (s : Sg) : Option (Int × Sg) := fX0_isConditionSign_b88 s 0
theorem wX0_isConditionSign_b87 {N : Nx} {b : Nat} {ad : Nat → Nat} {s' : Sg} {h : hS} {r : Int} (E : EndX N [(0, b, ad)] 2 (some .boolean) (some (ti r)) [s'] h)  (s : Sg) (e : fX0_isConditionSign_b87 s = some (r, s')) : AtPc cX0_isConditionSign RX0 1 25 N [s] h 87 [] [] := by
  unfold fX0_isConditionSign_b87 at e
  refine r_rrs E.p (fun rr => ?_)
  refine r_iconst dX0_isConditionSign_87 ?_
  exact wX0_isConditionSign_b88 E s 0 (by decide) e
def fX0_isConditionSign  (s : Sg) (a1 : Int) : Option (Int × Sg) := if ¬ (irm (gI (sI s 17 (wr ((gI s 17) + 1))) 17) 2) = 1 then bd (fX0_isVariableSign a1) fun p3 => if p3 = 0 then fX0_isConditionSign_b87 (sI s 17 (wr ((gI s 17) + 1))) else bd (fX0_has (gI (sI s 17 (wr ((gI s 17) + 1))) 16) (wr (a1 - 120))) fun p8 => if p8 = 0 then fX0_isConditionSign_b87 (sI s 17 (wr ((gI s 17) + 1))) else fX0_isConditionSign_b88 (sI s 17 (wr ((gI s 17) + 1))) 1 else if (gI (sI s 17 (wr ((gI s 17) + 1))) 16) = 0 then fX0_isConditionSign_b60 (sI s 17 (wr ((gI s 17) + 1))) else if 4 ≤ (gI (sI s 17 (wr ((gI s 17) + 1))) 17) then fX0_isConditionSign_b60 (sI s 17 (wr ((gI s 17) + 1))) else bd (fX0_isIn a1 48 (wr ((wr (48 + (gI (sI s 17 (wr ((gI s 17) + 1))) 10))) - 1))) fun p15 => if p15 = 0 then fX0_isConditionSign_b60 (sI s 17 (wr ((gI s 17) + 1))) else fX0_isConditionSign_b61 (sI s 17 (wr ((gI s 17) + 1))) 1
theorem kX0_isConditionSign {G : Gx}  {b : Nat} {ad : Nat → Nat} {s' : Sg} {h : hS} {r : Int} {s : Sg} {a1 : Int}  (ha1 : rI a1) (e : fX0_isConditionSign s a1 = some (r, s')) : CtX G yX0_isConditionSign cX0_isConditionSign 2 (some .boolean) 1 25 [(0, b, ad)] [s] h [tr (some b), ti a1] (some (ti r)) [s'] h := by
  refine CtX.of (by decide) (Nat.le_of_ble_eq_true rfl) [(0, tr (some b)), (1, ti a1)] rfl ?_
  have E : EndX (G, 2, [(0, b, ad)], h, [s'], h, (some .boolean), (some (ti r)), yX0_isConditionSign.name) [(0, b, ad)] 2 (some .boolean) (some (ti r)) [s'] h := ⟨rfl, rfl, rfl, rfl, rfl, rfl⟩
  unfold fX0_isConditionSign at e
  refine r_rrs E.p (fun rr => ?_)
  refine r_aload_n dX0_isConditionSign_0 rfl 0 rfl ?_
  refine r_dup dX0_isConditionSign_1 rfl ?_
  refine r_sI E.p 17 fG_X0_200 (by decide) dX0_isConditionSign_2 ?_
  refine r_iconst dX0_isConditionSign_5 ?_
  refine r_iadd dX0_isConditionSign_6 ?_
  refine r_sPI E.p 17 fP_X0_200 rfl (wr_r _) dX0_isConditionSign_7 ?_
  refine r_rrs E.p (fun rr1 => ?_)
  refine r_aload_n dX0_isConditionSign_10 rfl 0 rfl ?_
  refine r_sI E.p 17 fG_X0_200 (by decide) dX0_isConditionSign_11 ?_
  refine r_iconst dX0_isConditionSign_14 ?_
  refine r_irem (by decide) (by decide) dX0_isConditionSign_15 ?_
  refine r_iconst dX0_isConditionSign_16 ?_
  have eT := (r_ifo e).1
  have eF := (r_ifo e).2
  refine r_icmp_ne (irm_r _ _) (by decide) 62 dX0_isConditionSign_17 (by decide) (fun c2 => ?_) (fun c2 => ?_)
  · have e := eT c2
    refine r_iload_n dX0_isConditionSign_62 rfl 1 rfl ?_
    obtain ⟨p3, q4, e⟩ := bd_o e
    have k5 := kX0_isVariableSign (G := G) (h := h) ha1 q4
    have z6 := (k5 rr1.none).1.2.2.2
    refine r_callS (j := none) 1 [ti a1] k5 (injO_1 E.p) subO_0 getO_0 setO_0 (lw_S q431 q432 q115 q433) (by decide +kernel) rfl (Nat.le_of_ble_eq_true rfl) (Nat.le_of_ble_eq_true rfl) rfl (Nat.le_of_ble_eq_true rfl) dX0_isConditionSign_63 rfl ?_
    have eT := (r_ifo e).1
    have eF := (r_ifo e).2
    refine r_if_eq (rI_z z6) 87 dX0_isConditionSign_66 (by decide) (fun c7 => ?_) (fun c7 => ?_)
    · have e := eT c7
      refine r_sub [] rfl ?_
      exact wX0_isConditionSign_b87 E (sI s 17 (wr ((gI s 17) + 1))) e
    · have e := eF c7
      refine r_aload_n dX0_isConditionSign_69 rfl 0 rfl ?_
      refine r_sI E.p 16 fG_X0_197 (by decide) dX0_isConditionSign_70 ?_
      refine r_iload_n dX0_isConditionSign_73 rfl 1 rfl ?_
      refine r_bipush dX0_isConditionSign_74 (by decide) ?_
      refine r_isub dX0_isConditionSign_76 ?_
      obtain ⟨p8, q9, e⟩ := bd_o e
      have k10 := kX0_has (G := G) (h := h) ((rr1.mine rfl).i 16 (by decide) (by decide)) (wr_r _) q9
      have z11 := (k10 rr1.none).1.2.2.2
      refine r_callS (j := none) 2 [ti (gI (sI s 17 (wr ((gI s 17) + 1))) 16), ti (wr (a1 - 120))] k10 (injO_1 E.p) subO_0 getO_0 setO_0 (lw_S q441 q442 q115 q443) (by decide +kernel) rfl (Nat.le_of_ble_eq_true rfl) (Nat.le_of_ble_eq_true rfl) rfl (Nat.le_of_ble_eq_true rfl) dX0_isConditionSign_77 rfl ?_
      have eT := (r_ifo e).1
      have eF := (r_ifo e).2
      refine r_if_eq (rI_z z11) 87 dX0_isConditionSign_80 (by decide) (fun c12 => ?_) (fun c12 => ?_)
      · have e := eT c12
        refine r_sub [] rfl ?_
        exact wX0_isConditionSign_b87 E (sI s 17 (wr ((gI s 17) + 1))) e
      · have e := eF c12
        refine r_iconst dX0_isConditionSign_83 ?_
        refine r_goto 88 dX0_isConditionSign_84 (by decide) ?_
        refine r_sub [] rfl ?_
        exact wX0_isConditionSign_b88 E (sI s 17 (wr ((gI s 17) + 1))) 1 (by decide) e
  · have e := eF c2
    refine r_aload_n dX0_isConditionSign_20 rfl 0 rfl ?_
    refine r_sI E.p 16 fG_X0_197 (by decide) dX0_isConditionSign_21 ?_
    have eT := (r_ifo e).1
    have eF := (r_ifo e).2
    refine r_if_eq ((rr1.mine rfl).i 16 (by decide) (by decide)) 60 dX0_isConditionSign_24 (by decide) (fun c13 => ?_) (fun c13 => ?_)
    · have e := eT c13
      refine r_sub [] rfl ?_
      exact wX0_isConditionSign_b60 E (sI s 17 (wr ((gI s 17) + 1))) e
    · have e := eF c13
      refine r_aload_n dX0_isConditionSign_27 rfl 0 rfl ?_
      refine r_sI E.p 17 fG_X0_200 (by decide) dX0_isConditionSign_28 ?_
      refine r_iconst dX0_isConditionSign_31 ?_
      have eT := (r_ifo e).1
      have eF := (r_ifo e).2
      refine r_icmp_ge ((rr1.mine rfl).i 17 (by decide) (by decide)) (by decide) 60 dX0_isConditionSign_32 (by decide) (fun c14 => ?_) (fun c14 => ?_)
      · have e := eT c14
        refine r_sub [] rfl ?_
        exact wX0_isConditionSign_b60 E (sI s 17 (wr ((gI s 17) + 1))) e
      · have e := eF c14
        refine r_iload_n dX0_isConditionSign_35 rfl 1 rfl ?_
        refine r_i2l ha1 dX0_isConditionSign_36 ?_
        refine r_ldc2 48 q412 (by decide) dX0_isConditionSign_37 ?_
        refine r_bipush dX0_isConditionSign_40 (by decide) ?_
        refine r_aload_n dX0_isConditionSign_42 rfl 0 rfl ?_
        refine r_sI E.p 10 fG_X0_180 (by decide) dX0_isConditionSign_43 ?_
        refine r_iadd dX0_isConditionSign_46 ?_
        refine r_iconst dX0_isConditionSign_47 ?_
        refine r_isub dX0_isConditionSign_48 ?_
        refine r_i2l (wr_r _) dX0_isConditionSign_49 ?_
        obtain ⟨p15, q16, e⟩ := bd_o e
        have k17 := kX0_isIn (G := G) (h := h) (rI_L ha1) (by decide) (rI_L (wr_r _)) q16
        have z18 := (k17 rr1.none).1.2.2.2
        refine r_callS (j := none) 3 [tl a1, tl 48, tl (wr ((wr (48 + (gI (sI s 17 (wr ((gI s 17) + 1))) 10))) - 1))] k17 (injO_1 E.p) subO_0 getO_0 setO_0 (lw_S q397 q398 q115 q399) (by decide +kernel) rfl (Nat.le_of_ble_eq_true rfl) (Nat.le_of_ble_eq_true rfl) rfl (Nat.le_of_ble_eq_true rfl) dX0_isConditionSign_50 rfl ?_
        have eT := (r_ifo e).1
        have eF := (r_ifo e).2
        refine r_if_eq (rI_z z18) 60 dX0_isConditionSign_53 (by decide) (fun c19 => ?_) (fun c19 => ?_)
        · have e := eT c19
          refine r_sub [] rfl ?_
          exact wX0_isConditionSign_b60 E (sI s 17 (wr ((gI s 17) + 1))) e
        · have e := eF c19
          refine r_iconst dX0_isConditionSign_56 ?_
          refine r_goto 61 dX0_isConditionSign_57 (by decide) ?_
          refine r_sub [] rfl ?_
          exact wX0_isConditionSign_b61 E (sI s 17 (wr ((gI s 17) + 1))) 1 (by decide) e
def fX0_isInstanceSign_b90 (s : Sg) (a2 : Int) : Option (Int × Sg) := bd (fX0_isConditionSign s a2) fun p1 => some (p1.1, p1.2)
theorem wX0_isInstanceSign_b90 {N : Nx} {b : Nat} {ad : Nat → Nat} {s' : Sg} {h : hS} {r : Int} (E : EndX N [(0, b, ad)] 3 (some .boolean) (some (ti r)) [s'] h)  (s : Sg) (a2 : Int) (ha2 : rI a2) (e : fX0_isInstanceSign_b90 s a2 = some (r, s')) : AtPc cX0_isInstanceSign RX0 3 61 N [s] h 90 [(0, tr (some b)), (2, ti a2)] [] := by
  unfold fX0_isInstanceSign_b90 at e
  refine r_rrs E.p (fun rr => ?_)
  refine r_aload_n dX0_isInstanceSign_90 rfl 0 rfl ?_
  refine r_iload_n dX0_isInstanceSign_91 rfl 1 rfl ?_
  obtain ⟨p1, q2, e⟩ := bd_o e
  have k3 := kX0_isConditionSign (G := nG N) (b := b) (ad := ad) (h := h) ha2 q2
  have z4 := (k3 rr).1.2.2.2
  refine r_callV (j := some 0) 1 [ti a2] (rec_sg (j := 0) (r := (RX0, TX0, 36)) rfl (by rw [E.p]; rfl)) rfl k3 (injO_1 E.p) (subO_1 E.p) getO_1 setO_1 (lw_V q437 q439 qs4 q115 q440) (by decide +kernel) rfl (Nat.le_of_ble_eq_true rfl) (Nat.le_of_ble_eq_true rfl) rfl (Nat.le_of_ble_eq_true rfl) dX0_isInstanceSign_92 rfl ?_
  refine r_rrs E.p (fun rr5 => ?_)
  cases e
  exact r_zret E.σ E.st E.rt E.r z4 dX0_isInstanceSign_95
def fX0_isInstanceSign  (s : Sg) (a1 : Int) (a2 : Int) : Option (Int × Sg) := if ¬ (gI s 11) = 0 then if ¬ (gI s 11) = 1 then if (gI s 14) ≤ 0 then if ¬ a2 = 44 then fX0_isInstanceSign_b90 s a2 else if ¬ (irm (gI s 17) 2) = 0 then fX0_isInstanceSign_b90 s a2 else if 6 ≤ (gI s 13) then fX0_isInstanceSign_b90 s a2 else some (1, sI s 11 0) else bd (fX0_isHeadSign s a2) fun p8 => some (p8.1, p8.2) else bd (fX0_isIn a2 48 (wr ((wr (48 + (gI (sI s 11 2) 10))) - 1))) fun p14 => some (p14, sI s 11 2) else bd (fX0_isBegun s a1 a2) fun p18 => some (p18.1, p18.2)
theorem kX0_isInstanceSign {G : Gx}  {b : Nat} {ad : Nat → Nat} {s' : Sg} {h : hS} {r : Int} {s : Sg} {a1 : Int} {a2 : Int}  (ha1 : rI a1) (ha2 : rI a2) (e : fX0_isInstanceSign s a1 a2 = some (r, s')) : CtX G yX0_isInstanceSign cX0_isInstanceSign 3 (some .boolean) 3 61 [(0, b, ad)] [s] h [tr (some b), ti a1, ti a2] (some (ti r)) [s'] h := by
  refine CtX.of (by decide) (Nat.le_of_ble_eq_true rfl) [(0, tr (some b)), (1, ti a1), (2, ti a2)] rfl ?_
  have E : EndX (G, 3, [(0, b, ad)], h, [s'], h, (some .boolean), (some (ti r)), yX0_isInstanceSign.name) [(0, b, ad)] 3 (some .boolean) (some (ti r)) [s'] h := ⟨rfl, rfl, rfl, rfl, rfl, rfl⟩
  unfold fX0_isInstanceSign at e
  refine r_rrs E.p (fun rr => ?_)
  refine r_aload_n dX0_isInstanceSign_0 rfl 0 rfl ?_
  refine r_sI E.p 11 fG_X0_177 (by decide) dX0_isInstanceSign_1 ?_
  have eT := (r_ifo e).1
  have eF := (r_ifo e).2
  refine r_if_ne ((rr.mine rfl).i 11 (by decide) (by decide)) 14 dX0_isInstanceSign_4 (by decide) (fun c1 => ?_) (fun c1 => ?_)
  · have e := eT c1
    refine r_aload_n dX0_isInstanceSign_14 rfl 0 rfl ?_
    refine r_sI E.p 11 fG_X0_177 (by decide) dX0_isInstanceSign_15 ?_
    refine r_iconst dX0_isInstanceSign_18 ?_
    have eT := (r_ifo e).1
    have eF := (r_ifo e).2
    refine r_icmp_ne ((rr.mine rfl).i 11 (by decide) (by decide)) (by decide) 46 dX0_isInstanceSign_19 (by decide) (fun c2 => ?_) (fun c2 => ?_)
    · have e := eT c2
      refine r_aload_n dX0_isInstanceSign_46 rfl 0 rfl ?_
      refine r_sI E.p 14 fG_X0_191 (by decide) dX0_isInstanceSign_47 ?_
      have eT := (r_ifo e).1
      have eF := (r_ifo e).2
      refine r_if_le ((rr.mine rfl).i 14 (by decide) (by decide)) 59 dX0_isInstanceSign_50 (by decide) (fun c3 => ?_) (fun c3 => ?_)
      · have e := eT c3
        refine r_iload_n dX0_isInstanceSign_59 rfl 2 rfl ?_
        refine r_bipush dX0_isInstanceSign_60 (by decide) ?_
        have eT := (r_ifo e).1
        have eF := (r_ifo e).2
        refine r_icmp_ne ha2 (by decide) 90 dX0_isInstanceSign_62 (by decide) (fun c4 => ?_) (fun c4 => ?_)
        · have e := eT c4
          refine r_sub [0, 2] rfl ?_
          exact wX0_isInstanceSign_b90 E s a2 ha2 e
        · have e := eF c4
          refine r_aload_n dX0_isInstanceSign_65 rfl 0 rfl ?_
          refine r_sI E.p 17 fG_X0_200 (by decide) dX0_isInstanceSign_66 ?_
          refine r_iconst dX0_isInstanceSign_69 ?_
          refine r_irem (by decide) (by decide) dX0_isInstanceSign_70 ?_
          have eT := (r_ifo e).1
          have eF := (r_ifo e).2
          refine r_if_ne (irm_r _ _) 90 dX0_isInstanceSign_71 (by decide) (fun c5 => ?_) (fun c5 => ?_)
          · have e := eT c5
            refine r_sub [0, 2] rfl ?_
            exact wX0_isInstanceSign_b90 E s a2 ha2 e
          · have e := eF c5
            refine r_aload_n dX0_isInstanceSign_74 rfl 0 rfl ?_
            refine r_sI E.p 13 fG_X0_188 (by decide) dX0_isInstanceSign_75 ?_
            refine r_bipush dX0_isInstanceSign_78 (by decide) ?_
            have eT := (r_ifo e).1
            have eF := (r_ifo e).2
            refine r_icmp_ge ((rr.mine rfl).i 13 (by decide) (by decide)) (by decide) 90 dX0_isInstanceSign_80 (by decide) (fun c6 => ?_) (fun c6 => ?_)
            · have e := eT c6
              refine r_sub [0, 2] rfl ?_
              exact wX0_isInstanceSign_b90 E s a2 ha2 e
            · have e := eF c6
              refine r_aload_n dX0_isInstanceSign_83 rfl 0 rfl ?_
              refine r_iconst dX0_isInstanceSign_84 ?_
              refine r_sPI E.p 11 fP_X0_177 rfl (by decide) dX0_isInstanceSign_85 ?_
              refine r_rrs E.p (fun rr7 => ?_)
              refine r_iconst dX0_isInstanceSign_88 ?_
              cases e
              exact r_zret E.σ E.st E.rt E.r (Or.inr rfl) dX0_isInstanceSign_89
      · have e := eF c3
        refine r_aload_n dX0_isInstanceSign_53 rfl 0 rfl ?_
        refine r_iload_n dX0_isInstanceSign_54 rfl 2 rfl ?_
        obtain ⟨p8, q9, e⟩ := bd_o e
        have k10 := kX0_isHeadSign (G := G) (b := b) (ad := ad) (h := h) ha2 q9
        have z11 := (k10 rr).1.2.2.2
        refine r_callV (j := some 0) 1 [ti a2] (rec_sg (j := 0) (r := (RX0, TX0, 36)) rfl (by rw [E.p]; rfl)) rfl k10 (injO_1 E.p) (subO_1 E.p) getO_1 setO_1 (lw_V q424 q426 qs3 q115 q427) (by decide +kernel) rfl (Nat.le_of_ble_eq_true rfl) (Nat.le_of_ble_eq_true rfl) rfl (Nat.le_of_ble_eq_true rfl) dX0_isInstanceSign_55 rfl ?_
        refine r_rrs E.p (fun rr12 => ?_)
        cases e
        exact r_zret E.σ E.st E.rt E.r z11 dX0_isInstanceSign_58
    · have e := eF c2
      refine r_aload_n dX0_isInstanceSign_22 rfl 0 rfl ?_
      refine r_iconst dX0_isInstanceSign_23 ?_
      refine r_sPI E.p 11 fP_X0_177 rfl (by decide) dX0_isInstanceSign_24 ?_
      refine r_rrs E.p (fun rr13 => ?_)
      refine r_iload_n dX0_isInstanceSign_27 rfl 2 rfl ?_
      refine r_i2l ha2 dX0_isInstanceSign_28 ?_
      refine r_ldc2 48 q412 (by decide) dX0_isInstanceSign_29 ?_
      refine r_bipush dX0_isInstanceSign_32 (by decide) ?_
      refine r_aload_n dX0_isInstanceSign_34 rfl 0 rfl ?_
      refine r_sI E.p 10 fG_X0_180 (by decide) dX0_isInstanceSign_35 ?_
      refine r_iadd dX0_isInstanceSign_38 ?_
      refine r_iconst dX0_isInstanceSign_39 ?_
      refine r_isub dX0_isInstanceSign_40 ?_
      refine r_i2l (wr_r _) dX0_isInstanceSign_41 ?_
      obtain ⟨p14, q15, e⟩ := bd_o e
      have k16 := kX0_isIn (G := G) (h := h) (rI_L ha2) (by decide) (rI_L (wr_r _)) q15
      have z17 := (k16 rr13.none).1.2.2.2
      refine r_callS (j := none) 3 [tl a2, tl 48, tl (wr ((wr (48 + (gI (sI s 11 2) 10))) - 1))] k16 (injO_1 E.p) subO_0 getO_0 setO_0 (lw_S q397 q398 q115 q399) (by decide +kernel) rfl (Nat.le_of_ble_eq_true rfl) (Nat.le_of_ble_eq_true rfl) rfl (Nat.le_of_ble_eq_true rfl) dX0_isInstanceSign_42 rfl ?_
      cases e
      exact r_zret E.σ E.st E.rt E.r z17 dX0_isInstanceSign_45
  · have e := eF c1
    refine r_aload_n dX0_isInstanceSign_7 rfl 0 rfl ?_
    refine r_iload_n dX0_isInstanceSign_8 rfl 1 rfl ?_
    refine r_iload_n dX0_isInstanceSign_9 rfl 2 rfl ?_
    obtain ⟨p18, q19, e⟩ := bd_o e
    have k20 := kX0_isBegun (G := G) (b := b) (ad := ad) (h := h) ha1 ha2 q19
    have z21 := (k20 rr).1.2.2.2
    refine r_callV (j := some 0) 2 [ti a1, ti a2] (rec_sg (j := 0) (r := (RX0, TX0, 36)) rfl (by rw [E.p]; rfl)) rfl k20 (injO_1 E.p) (subO_1 E.p) getO_1 setO_1 (lw_V q417 q419 qs2 q115 q420) (by decide +kernel) rfl (Nat.le_of_ble_eq_true rfl) (Nat.le_of_ble_eq_true rfl) rfl (Nat.le_of_ble_eq_true rfl) dX0_isInstanceSign_10 rfl ?_
    refine r_rrs E.p (fun rr22 => ?_)
    cases e
    exact r_zret E.σ E.st E.rt E.r z21 dX0_isInstanceSign_13
theorem fG_X0_183 : FldG RX0 183 [(0, 12)] := List.forall_mem_cons.mpr ⟨⟨RX0, TX0, 36, "DictProof", rfl, in_X0, by decide, q293, Or.inl rfl⟩, fun _ h => absurd h List.not_mem_nil⟩
def fX0_fault_b69 (K22 : Sg → Int → Option (Int × Sg)) (s : Sg) (a1 : Int) : Option (Int × Sg) := K22 s (wr (a1 + 1))
theorem wX0_fault_b69 {N : Nx} {b : Nat} {ad : Nat → Nat} {s' : Sg} {h : hS} {r : Int} (E : EndX N [(0, b, ad)] 2 (some .int) (some (ti r)) [s'] h) (K22 : Sg → Int → Option (Int × Sg)) (hK22 : ∀ (s : Sg) (a1 : Int) (ha1 : rI a1), K22 s a1 = some (r, s') → AtPc cX0_fault RX0 4 83 N [s] h 22 [(0, tr (some b)), (1, ti a1)] []) (s : Sg) (a1 : Int) (ha1 : rI a1) (e : fX0_fault_b69 K22 s a1 = some (r, s')) : AtPc cX0_fault RX0 4 83 N [s] h 69 [(0, tr (some b)), (1, ti a1)] [] := by
  unfold fX0_fault_b69 at e
  refine r_rrs E.p (fun rr => ?_)
  refine r_iinc (lv' := [(1, ti (wr (a1 + 1))), (0, tr (some b))]) dX0_fault_69 1 rfl (E.lt (by decide)) rfl ?_
  refine r_goto 22 dX0_fault_72 (by decide) ?_
  refine r_sub [1, 0] rfl ?_
  exact hK22 s (wr (a1 + 1)) (wr_r _) e
def fX0_fault_b75 (s : Sg) (a1 : Int) : Option (Int × Sg) := some (a1, s)
theorem wX0_fault_b75 {N : Nx} {b : Nat} {ad : Nat → Nat} {s' : Sg} {h : hS} {r : Int} (E : EndX N [(0, b, ad)] 2 (some .int) (some (ti r)) [s'] h)  (s : Sg) (a1 : Int) (ha1 : rI a1) (e : fX0_fault_b75 s a1 = some (r, s')) : AtPc cX0_fault RX0 4 83 N [s] h 75 [(1, ti a1)] [] := by
  unfold fX0_fault_b75 at e
  refine r_rrs E.p (fun rr => ?_)
  refine r_iload_n dX0_fault_75 rfl 0 rfl ?_
  cases e
  exact r_iret E.σ E.st E.rt E.r ha1 dX0_fault_76
def fX0_fault_b22 (K22 : Sg → Int → Option (Int × Sg)) (s : Sg) (a1 : Int) : Option (Int × Sg) := if (gI s 9) ≤ a1 then fX0_fault_b75 s a1 else if ¬ (gI s 12) = (-1) then gd (inb a1 84) (bd (fX0_isInstanceSign s a1 (gA s 8 a1)) fun p4 => if p4.1 = 0 then fX0_fault_b75 p4.2 a1 else fX0_fault_b69 K22 p4.2 a1) else gd (inb a1 84) (bd (fX0_isClassSign s a1 (gA s 8 a1)) fun p11 => if p11.1 = 0 then fX0_fault_b75 p11.2 a1 else fX0_fault_b69 K22 p11.2 a1)
theorem wX0_fault_b22 {N : Nx} {b : Nat} {ad : Nat → Nat} {s' : Sg} {h : hS} {r : Int} (E : EndX N [(0, b, ad)] 2 (some .int) (some (ti r)) [s'] h) (K22 : Sg → Int → Option (Int × Sg)) (hK22 : ∀ (s : Sg) (a1 : Int) (ha1 : rI a1), K22 s a1 = some (r, s') → AtPc cX0_fault RX0 4 83 N [s] h 22 [(0, tr (some b)), (1, ti a1)] []) (s : Sg) (a1 : Int) (ha1 : rI a1) (e : fX0_fault_b22 K22 s a1 = some (r, s')) : AtPc cX0_fault RX0 4 83 N [s] h 22 [(0, tr (some b)), (1, ti a1)] [] := by
  unfold fX0_fault_b22 at e
  refine r_rrs E.p (fun rr => ?_)
  refine r_iload_n dX0_fault_22 rfl 1 rfl ?_
  refine r_aload_n dX0_fault_23 rfl 0 rfl ?_
  refine r_sI E.p 9 fG_X0_174 (by decide) dX0_fault_24 ?_
  have eT := (r_ifo e).1
  have eF := (r_ifo e).2
  refine r_icmp_ge ha1 ((rr.mine rfl).i 9 (by decide) (by decide)) 75 dX0_fault_27 (by decide) (fun c1 => ?_) (fun c1 => ?_)
  · have e := eT c1
    refine r_sub [1] rfl ?_
    exact wX0_fault_b75 E s a1 ha1 e
  · have e := eF c1
    refine r_aload_n dX0_fault_30 rfl 0 rfl ?_
    refine r_sI E.p 12 fG_X0_183 (by decide) dX0_fault_31 ?_
    refine r_iconst dX0_fault_34 ?_
    have eT := (r_ifo e).1
    have eF := (r_ifo e).2
    refine r_icmp_ne ((rr.mine rfl).i 12 (by decide) (by decide)) (by decide) 55 dX0_fault_35 (by decide) (fun c2 => ?_) (fun c2 => ?_)
    · have e := eT c2
      refine r_aload_n dX0_fault_55 rfl 0 rfl ?_
      refine r_iload_n dX0_fault_56 rfl 1 rfl ?_
      refine r_aload_n dX0_fault_57 rfl 0 rfl ?_
      refine r_sR E.p 8 fG_X0_121 (by decide) dX0_fault_58 ?_
      refine r_iload_n dX0_fault_61 rfl 1 rfl ?_
      obtain ⟨g3, e⟩ := gd_o e
      refine r_saI E.p 8 rfl (by decide) (by decide) ha1 g3 rfl dX0_fault_62 ?_
      obtain ⟨p4, q5, e⟩ := bd_o e
      have k6 := kX0_isInstanceSign (G := nG N) (b := b) (ad := ad) (h := h) ha1 (((rr.mine rfl).a 8 (by decide) rfl).1 _) q5
      have z7 := (k6 rr).1.2.2.2
      refine r_callV (j := some 0) 2 [ti a1, ti (gA s 8 a1)] (rec_sg (j := 0) (r := (RX0, TX0, 36)) rfl (by rw [E.p]; rfl)) rfl k6 (injO_1 E.p) (subO_1 E.p) getO_1 setO_1 (lw_V q413 q415 qs1 q115 q416) (by decide +kernel) rfl (Nat.le_of_ble_eq_true rfl) (Nat.le_of_ble_eq_true rfl) rfl (Nat.le_of_ble_eq_true rfl) dX0_fault_63 rfl ?_
      refine r_rrs E.p (fun rr8 => ?_)
      have eT := (r_ifo e).1
      have eF := (r_ifo e).2
      refine r_if_eq (rI_z z7) 75 dX0_fault_66 (by decide) (fun c9 => ?_) (fun c9 => ?_)
      · have e := eT c9
        refine r_sub [1] rfl ?_
        exact wX0_fault_b75 E p4.2 a1 ha1 e
      · have e := eF c9
        exact wX0_fault_b69 E K22 hK22 p4.2 a1 ha1 e
    · have e := eF c2
      refine r_aload_n dX0_fault_38 rfl 0 rfl ?_
      refine r_iload_n dX0_fault_39 rfl 1 rfl ?_
      refine r_aload_n dX0_fault_40 rfl 0 rfl ?_
      refine r_sR E.p 8 fG_X0_121 (by decide) dX0_fault_41 ?_
      refine r_iload_n dX0_fault_44 rfl 1 rfl ?_
      obtain ⟨g10, e⟩ := gd_o e
      refine r_saI E.p 8 rfl (by decide) (by decide) ha1 g10 rfl dX0_fault_45 ?_
      obtain ⟨p11, q12, e⟩ := bd_o e
      have k13 := kX0_isClassSign (G := nG N) (b := b) (ad := ad) (h := h) ha1 (((rr.mine rfl).a 8 (by decide) rfl).1 _) q12
      have z14 := (k13 rr).1.2.2.2
      refine r_callV (j := some 0) 2 [ti a1, ti (gA s 8 a1)] (rec_sg (j := 0) (r := (RX0, TX0, 36)) rfl (by rw [E.p]; rfl)) rfl k13 (injO_1 E.p) (subO_1 E.p) getO_1 setO_1 (lw_V q408 q410 qs0 q115 q411) (by decide +kernel) rfl (Nat.le_of_ble_eq_true rfl) (Nat.le_of_ble_eq_true rfl) rfl (Nat.le_of_ble_eq_true rfl) dX0_fault_46 rfl ?_
      refine r_rrs E.p (fun rr15 => ?_)
      have eT := (r_ifo e).1
      have eF := (r_ifo e).2
      refine r_if_eq (rI_z z14) 75 dX0_fault_49 (by decide) (fun c16 => ?_) (fun c16 => ?_)
      · have e := eT c16
        refine r_sub [1] rfl ?_
        exact wX0_fault_b75 E p11.2 a1 ha1 e
      · have e := eF c16
        refine r_goto 69 dX0_fault_52 (by decide) ?_
        exact wX0_fault_b69 E K22 hK22 p11.2 a1 ha1 e
def fX0_fault_L22  : Nat → Sg → Int → Option (Int × Sg)
  | 0, _, _ => none
  | n9 + 1, s, a1 => fX0_fault_b22 (fX0_fault_L22 n9) s a1
theorem wX0_fault_L22 {N : Nx} {b : Nat} {ad : Nat → Nat} {s' : Sg} {h : hS} {r : Int} (E : EndX N [(0, b, ad)] 2 (some .int) (some (ti r)) [s'] h)  : ∀ (n9 : Nat), ∀ (s : Sg) (a1 : Int) (ha1 : rI a1), fX0_fault_L22 n9 s a1 = some (r, s') → AtPc cX0_fault RX0 4 83 N [s] h 22 [(0, tr (some b)), (1, ti a1)] [] := by
  intro n9
  induction n9 with
  | zero => intro s a1 ha1 e; cases e
  | succ n9 ih => intro s a1 ha1 e; exact wX0_fault_b22 E _ ih s a1 ha1 e
def fX0_fault  (s : Sg) : Option (Int × Sg) := fX0_fault_L22 FU (sI (sI (sI (sI s 10 0) 11 0) 12 (-1)) 13 0) 0
theorem kX0_fault {G : Gx}  {b : Nat} {ad : Nat → Nat} {s' : Sg} {h : hS} {r : Int} {s : Sg}    (e : fX0_fault s = some (r, s')) : CtX G yX0_fault cX0_fault 2 (some .int) 4 83 [(0, b, ad)] [s] h [tr (some b)] (some (ti r)) [s'] h := by
  refine CtX.of (by decide) (Nat.le_of_ble_eq_true rfl) [(0, tr (some b))] rfl ?_
  have E : EndX (G, 2, [(0, b, ad)], h, [s'], h, (some .int), (some (ti r)), yX0_fault.name) [(0, b, ad)] 2 (some .int) (some (ti r)) [s'] h := ⟨rfl, rfl, rfl, rfl, rfl, rfl⟩
  unfold fX0_fault at e
  refine r_rrs E.p (fun rr => ?_)
  refine r_aload_n dX0_fault_0 rfl 0 rfl ?_
  refine r_iconst dX0_fault_1 ?_
  refine r_sPI E.p 10 fP_X0_180 rfl (by decide) dX0_fault_2 ?_
  refine r_rrs E.p (fun rr1 => ?_)
  refine r_aload_n dX0_fault_5 rfl 0 rfl ?_
  refine r_iconst dX0_fault_6 ?_
  refine r_sPI E.p 11 fP_X0_177 rfl (by decide) dX0_fault_7 ?_
  refine r_rrs E.p (fun rr2 => ?_)
  refine r_aload_n dX0_fault_10 rfl 0 rfl ?_
  refine r_iconst dX0_fault_11 ?_
  refine r_sPI E.p 12 fP_X0_183 rfl (by decide) dX0_fault_12 ?_
  refine r_rrs E.p (fun rr3 => ?_)
  refine r_aload_n dX0_fault_15 rfl 0 rfl ?_
  refine r_iconst dX0_fault_16 ?_
  refine r_sPI E.p 13 fP_X0_188 rfl (by decide) dX0_fault_17 ?_
  refine r_rrs E.p (fun rr4 => ?_)
  refine r_iconst dX0_fault_20 ?_
  refine r_istore_n (lv' := [(1, ti 0), (0, tr (some b))]) dX0_fault_21 rfl (E.lt (by decide)) rfl ?_
  refine r_sub [1, 0] rfl ?_
  exact wX0_fault_L22 E FU (sI (sI (sI (sI s 10 0) 11 0) 12 (-1)) 13 0) 0 (by decide) e
theorem fP_X0_238 : FldP RX0 238 [(0, 3)] .int false := List.forall_mem_cons.mpr ⟨⟨RX0, TX0, 36, "DictProof", tyX0, rfl, in_X0, by decide, q284, Or.inl rfl, tyX0_ok, nmX0, rfl, Or.inl rfl, by decide⟩, fun _ h => absurd h List.not_mem_nil⟩
theorem fG_X0_107 : FldG RX0 107 [(0, 1)] := List.forall_mem_cons.mpr ⟨⟨RX0, TX0, 36, "DictProof", rfl, in_X0, by decide, q282, Or.inl rfl⟩, fun _ h => absurd h List.not_mem_nil⟩
theorem fG_X0_238 : FldG RX0 238 [(0, 3)] := List.forall_mem_cons.mpr ⟨⟨RX0, TX0, 36, "DictProof", rfl, in_X0, by decide, q284, Or.inl rfl⟩, fun _ h => absurd h List.not_mem_nil⟩
theorem fG_X0_111 : FldG RX0 111 [(0, 2)] := List.forall_mem_cons.mpr ⟨⟨RX0, TX0, 36, "DictProof", rfl, in_X0, by decide, q283, Or.inl rfl⟩, fun _ h => absurd h List.not_mem_nil⟩
def fX0_layClasses_b82 (K19 : Sg → Int → Int → Option (Sg)) (s : Sg) (a1 : Int) (a2 : Int) : Option (Sg) := K19 s a1 (wr (a2 + 1))
theorem wX0_layClasses_b82 {N : Nx} {b : Nat} {ad : Nat → Nat} {s' : Sg} {h : hS} (E : EndX N [(0, b, ad)] 4 none none [s'] h) (K19 : Sg → Int → Int → Option (Sg)) (hK19 : ∀ (s : Sg) (a1 : Int) (a2 : Int) (ha1 : rI a1) (ha2 : rI a2), K19 s a1 a2 = some (s') → AtPc cX0_layClasses RX0 1 21 N [s] h 19 [(0, tr (some b)), (1, ti a1), (2, ti a2)] []) (s : Sg) (a1 : Int) (a2 : Int) (ha1 : rI a1) (ha2 : rI a2) (e : fX0_layClasses_b82 K19 s a1 a2 = some (s')) : AtPc cX0_layClasses RX0 1 21 N [s] h 82 [(0, tr (some b)), (1, ti a1), (2, ti a2)] [] := by
  unfold fX0_layClasses_b82 at e
  refine r_rrs E.p (fun rr => ?_)
  refine r_iinc (lv' := [(2, ti (wr (a2 + 1))), (0, tr (some b)), (1, ti a1)]) dX0_layClasses_82 2 rfl (E.lt (by decide)) rfl ?_
  refine r_goto 19 dX0_layClasses_85 (by decide) ?_
  refine r_sub [1, 2, 0] rfl ?_
  exact hK19 s a1 (wr (a2 + 1)) ha1 (wr_r _) e
def fX0_layClasses_b147 (K90 : Sg → Int → Option (Sg)) (K112 : Sg → Int → Int → Option (Sg)) (s : Sg) (a2 : Int) (a3 : Int) (k1 : Int) (k2 : Int) (k3 : Int) : Option (Sg) := gd (inb k1 4) (K112 (sA s 2 k1 (ior k2 k3)) a2 (wr (a3 + 1)))
theorem wX0_layClasses_b147 {N : Nx} {b : Nat} {ad : Nat → Nat} {s' : Sg} {h : hS} (E : EndX N [(0, b, ad)] 4 none none [s'] h) (K90 : Sg → Int → Option (Sg)) (hK90 : ∀ (s : Sg) (a2 : Int) (ha2 : rI a2), K90 s a2 = some (s') → AtPc cX0_layClasses RX0 1 21 N [s] h 90 [(0, tr (some b)), (2, ti a2)] []) (K112 : Sg → Int → Int → Option (Sg)) (hK112 : ∀ (s : Sg) (a2 : Int) (a3 : Int) (ha2 : rI a2) (ha3 : rI a3), K112 s a2 a3 = some (s') → AtPc cX0_layClasses RX0 1 21 N [s] h 112 [(0, tr (some b)), (2, ti a2), (3, ti a3)] []) (s : Sg) (a2 : Int) (a3 : Int) (k1 : Int) (k2 : Int) (k3 : Int) (ha2 : rI a2) (ha3 : rI a3) (hk1 : rI k1) (hk2 : rI k2) (hk3 : rI k3) (e : fX0_layClasses_b147 K90 K112 s a2 a3 k1 k2 k3 = some (s')) : AtPc cX0_layClasses RX0 1 21 N [s] h 147 [(0, tr (some b)), (2, ti a2), (3, ti a3)] [ti k3, ti k2, ti k1, tr (some (ad 2))] := by
  unfold fX0_layClasses_b147 at e
  refine r_rrs E.p (fun rr => ?_)
  refine r_ior dX0_layClasses_147 ?_
  obtain ⟨g1, e⟩ := gd_o e
  refine r_saP E.p 2 rfl (by decide) (by decide) hk1 g1 (ior_r _ _) rfl dX0_layClasses_148 ?_
  refine r_rrs E.p (fun rr2 => ?_)
  refine r_iinc (lv' := [(3, ti (wr (a3 + 1))), (0, tr (some b)), (2, ti a2)]) dX0_layClasses_149 2 rfl (E.lt (by decide)) rfl ?_
  refine r_goto 112 dX0_layClasses_152 (by decide) ?_
  refine r_sub [1, 2, 0] rfl ?_
  exact hK112 (sA s 2 k1 (ior k2 k3)) a2 (wr (a3 + 1)) ha2 (wr_r _) e
def fX0_layClasses_b112 (K90 : Sg → Int → Option (Sg)) (K112 : Sg → Int → Int → Option (Sg)) (s : Sg) (a2 : Int) (a3 : Int) : Option (Sg) := if a2 ≤ a3 then K90 s (wr (a2 + 1)) else gd (inb a2 4) (gd (inb a2 4) (bd (fX0_has (gA s 1 a2) a3) fun p4 => if p4 = 0 then fX0_layClasses_b147 K90 K112 s a2 a3 a2 (gA s 2 a2) 0 else gd (inb a3 4) (fX0_layClasses_b147 K90 K112 s a2 a3 a2 (gA s 2 a2) (gA s 2 a3))))
theorem wX0_layClasses_b112 {N : Nx} {b : Nat} {ad : Nat → Nat} {s' : Sg} {h : hS} (E : EndX N [(0, b, ad)] 4 none none [s'] h) (K90 : Sg → Int → Option (Sg)) (hK90 : ∀ (s : Sg) (a2 : Int) (ha2 : rI a2), K90 s a2 = some (s') → AtPc cX0_layClasses RX0 1 21 N [s] h 90 [(0, tr (some b)), (2, ti a2)] []) (K112 : Sg → Int → Int → Option (Sg)) (hK112 : ∀ (s : Sg) (a2 : Int) (a3 : Int) (ha2 : rI a2) (ha3 : rI a3), K112 s a2 a3 = some (s') → AtPc cX0_layClasses RX0 1 21 N [s] h 112 [(0, tr (some b)), (2, ti a2), (3, ti a3)] []) (s : Sg) (a2 : Int) (a3 : Int) (ha2 : rI a2) (ha3 : rI a3) (e : fX0_layClasses_b112 K90 K112 s a2 a3 = some (s')) : AtPc cX0_layClasses RX0 1 21 N [s] h 112 [(0, tr (some b)), (2, ti a2), (3, ti a3)] [] := by
  unfold fX0_layClasses_b112 at e
  refine r_rrs E.p (fun rr => ?_)
  refine r_iload_n dX0_layClasses_112 rfl 2 rfl ?_
  refine r_iload_n dX0_layClasses_113 rfl 1 rfl ?_
  have eT := (r_ifo e).1
  have eF := (r_ifo e).2
  refine r_icmp_ge ha3 ha2 155 dX0_layClasses_114 (by decide) (fun c1 => ?_) (fun c1 => ?_)
  · have e := eT c1
    refine r_iinc (lv' := [(2, ti (wr (a2 + 1))), (0, tr (some b)), (3, ti a3)]) dX0_layClasses_155 1 rfl (E.lt (by decide)) rfl ?_
    refine r_goto 90 dX0_layClasses_158 (by decide) ?_
    refine r_sub [1, 0] rfl ?_
    exact hK90 s (wr (a2 + 1)) (wr_r _) e
  · have e := eF c1
    refine r_aload_n dX0_layClasses_117 rfl 0 rfl ?_
    refine r_sR E.p 2 fG_X0_111 (by decide) dX0_layClasses_118 ?_
    refine r_iload_n dX0_layClasses_121 rfl 1 rfl ?_
    refine r_dup2 dX0_layClasses_122 rfl rfl ?_
    obtain ⟨g2, e⟩ := gd_o e
    refine r_saI E.p 2 rfl (by decide) (by decide) ha2 g2 rfl dX0_layClasses_123 ?_
    refine r_aload_n dX0_layClasses_124 rfl 0 rfl ?_
    refine r_sR E.p 1 fG_X0_107 (by decide) dX0_layClasses_125 ?_
    refine r_iload_n dX0_layClasses_128 rfl 1 rfl ?_
    obtain ⟨g3, e⟩ := gd_o e
    refine r_saI E.p 1 rfl (by decide) (by decide) ha2 g3 rfl dX0_layClasses_129 ?_
    refine r_iload_n dX0_layClasses_130 rfl 2 rfl ?_
    obtain ⟨p4, q5, e⟩ := bd_o e
    have k6 := kX0_has (G := nG N) (h := h) (((rr.mine rfl).a 1 (by decide) rfl).1 _) ha3 q5
    have z7 := (k6 rr.none).1.2.2.2
    refine r_callS (j := none) 2 [ti (gA s 1 a2), ti a3] k6 (injO_1 E.p) subO_0 getO_0 setO_0 (lw_S q441 q442 q115 q443) (by decide +kernel) rfl (Nat.le_of_ble_eq_true rfl) (Nat.le_of_ble_eq_true rfl) rfl (Nat.le_of_ble_eq_true rfl) dX0_layClasses_131 rfl ?_
    have eT := (r_ifo e).1
    have eF := (r_ifo e).2
    refine r_if_eq (rI_z z7) 146 dX0_layClasses_134 (by decide) (fun c8 => ?_) (fun c8 => ?_)
    · have e := eT c8
      refine r_iconst dX0_layClasses_146 ?_
      exact wX0_layClasses_b147 E K90 hK90 K112 hK112 s a2 a3 a2 (gA s 2 a2) 0 ha2 ha3 ha2 (((rr.mine rfl).a 2 (by decide) rfl).1 _) (by decide) e
    · have e := eF c8
      refine r_aload_n dX0_layClasses_137 rfl 0 rfl ?_
      refine r_sR E.p 2 fG_X0_111 (by decide) dX0_layClasses_138 ?_
      refine r_iload_n dX0_layClasses_141 rfl 2 rfl ?_
      obtain ⟨g9, e⟩ := gd_o e
      refine r_saI E.p 2 rfl (by decide) (by decide) ha3 g9 rfl dX0_layClasses_142 ?_
      refine r_goto 147 dX0_layClasses_143 (by decide) ?_
      exact wX0_layClasses_b147 E K90 hK90 K112 hK112 s a2 a3 a2 (gA s 2 a2) (gA s 2 a3) ha2 ha3 ha2 (((rr.mine rfl).a 2 (by decide) rfl).1 _) (((rr.mine rfl).a 2 (by decide) rfl).1 _) e
def fX0_layClasses_L112 (K90 : Sg → Int → Option (Sg)) : Nat → Sg → Int → Int → Option (Sg)
  | 0, _, _, _ => none
  | n9 + 1, s, a2, a3 => fX0_layClasses_b112 K90 (fX0_layClasses_L112 K90 n9) s a2 a3
theorem wX0_layClasses_L112 {N : Nx} {b : Nat} {ad : Nat → Nat} {s' : Sg} {h : hS} (E : EndX N [(0, b, ad)] 4 none none [s'] h) (K90 : Sg → Int → Option (Sg)) (hK90 : ∀ (s : Sg) (a2 : Int) (ha2 : rI a2), K90 s a2 = some (s') → AtPc cX0_layClasses RX0 1 21 N [s] h 90 [(0, tr (some b)), (2, ti a2)] []) : ∀ (n9 : Nat), ∀ (s : Sg) (a2 : Int) (a3 : Int) (ha2 : rI a2) (ha3 : rI a3), fX0_layClasses_L112 K90 n9 s a2 a3 = some (s') → AtPc cX0_layClasses RX0 1 21 N [s] h 112 [(0, tr (some b)), (2, ti a2), (3, ti a3)] [] := by
  intro n9
  induction n9 with
  | zero => intro s a2 a3 ha2 ha3 e; cases e
  | succ n9 ih => intro s a2 a3 ha2 ha3 e; exact wX0_layClasses_b112 E K90 hK90 _ ih s a2 a3 ha2 ha3 e
def fX0_layClasses_b90 (K90 : Sg → Int → Option (Sg)) (s : Sg) (a2 : Int) : Option (Sg) := if (gI s 3) ≤ a2 then some s else gd (inb a2 4) (gd (inb a2 4) (fX0_layClasses_L112 K90 FU (sA s 2 a2 (gA s 1 a2)) a2 0))
theorem wX0_layClasses_b90 {N : Nx} {b : Nat} {ad : Nat → Nat} {s' : Sg} {h : hS} (E : EndX N [(0, b, ad)] 4 none none [s'] h) (K90 : Sg → Int → Option (Sg)) (hK90 : ∀ (s : Sg) (a2 : Int) (ha2 : rI a2), K90 s a2 = some (s') → AtPc cX0_layClasses RX0 1 21 N [s] h 90 [(0, tr (some b)), (2, ti a2)] []) (s : Sg) (a2 : Int) (ha2 : rI a2) (e : fX0_layClasses_b90 K90 s a2 = some (s')) : AtPc cX0_layClasses RX0 1 21 N [s] h 90 [(0, tr (some b)), (2, ti a2)] [] := by
  unfold fX0_layClasses_b90 at e
  refine r_rrs E.p (fun rr => ?_)
  refine r_iload_n dX0_layClasses_90 rfl 1 rfl ?_
  refine r_aload_n dX0_layClasses_91 rfl 0 rfl ?_
  refine r_sI E.p 3 fG_X0_238 (by decide) dX0_layClasses_92 ?_
  have eT := (r_ifo e).1
  have eF := (r_ifo e).2
  refine r_icmp_ge ha2 ((rr.mine rfl).i 3 (by decide) (by decide)) 161 dX0_layClasses_95 (by decide) (fun c1 => ?_) (fun c1 => ?_)
  · have e := eT c1
    cases e
    exact r_vret E.σ E.st E.rt E.r dX0_layClasses_161
  · have e := eF c1
    refine r_aload_n dX0_layClasses_98 rfl 0 rfl ?_
    refine r_sR E.p 2 fG_X0_111 (by decide) dX0_layClasses_99 ?_
    refine r_iload_n dX0_layClasses_102 rfl 1 rfl ?_
    refine r_aload_n dX0_layClasses_103 rfl 0 rfl ?_
    refine r_sR E.p 1 fG_X0_107 (by decide) dX0_layClasses_104 ?_
    refine r_iload_n dX0_layClasses_107 rfl 1 rfl ?_
    obtain ⟨g2, e⟩ := gd_o e
    refine r_saI E.p 1 rfl (by decide) (by decide) ha2 g2 rfl dX0_layClasses_108 ?_
    obtain ⟨g3, e⟩ := gd_o e
    refine r_saP E.p 2 rfl (by decide) (by decide) ha2 g3 (((rr.mine rfl).a 1 (by decide) rfl).1 _) rfl dX0_layClasses_109 ?_
    refine r_rrs E.p (fun rr4 => ?_)
    refine r_iconst dX0_layClasses_110 ?_
    refine r_istore_n (lv' := [(3, ti 0), (0, tr (some b)), (2, ti a2)]) dX0_layClasses_111 rfl (E.lt (by decide)) rfl ?_
    refine r_sub [1, 2, 0] rfl ?_
    exact wX0_layClasses_L112 E K90 hK90 FU (sA s 2 a2 (gA s 1 a2)) a2 0 ha2 (by decide) e
def fX0_layClasses_L90  : Nat → Sg → Int → Option (Sg)
  | 0, _, _ => none
  | n9 + 1, s, a2 => fX0_layClasses_b90 (fX0_layClasses_L90 n9) s a2
theorem wX0_layClasses_L90 {N : Nx} {b : Nat} {ad : Nat → Nat} {s' : Sg} {h : hS} (E : EndX N [(0, b, ad)] 4 none none [s'] h)  : ∀ (n9 : Nat), ∀ (s : Sg) (a2 : Int) (ha2 : rI a2), fX0_layClasses_L90 n9 s a2 = some (s') → AtPc cX0_layClasses RX0 1 21 N [s] h 90 [(0, tr (some b)), (2, ti a2)] [] := by
  intro n9
  induction n9 with
  | zero => intro s a2 ha2 e; cases e
  | succ n9 ih => intro s a2 ha2 e; exact wX0_layClasses_b90 E _ ih s a2 ha2 e
def fX0_layClasses_b19 (K19 : Sg → Int → Int → Option (Sg)) (s : Sg) (a1 : Int) (a2 : Int) : Option (Sg) := if (gI s 12) ≤ a2 then fX0_layClasses_L90 FU s 0 else gd (inb a2 84) (if ¬ (gA s 8 a2) = 44 then gd (inb a2 84) (if (gA s 8 a2) = 45 then fX0_layClasses_b82 K19 s a1 a2 else gd (inb a1 4) (gd (inb a2 84) (gd (inb a1 4) (fX0_layClasses_b82 K19 (sA s 1 a1 (ior (gA s 1 a1) (ishl 1 (wr ((gA s 8 a2) - 48))))) a1 a2)))) else gd (inb (wr (a1 + 1)) 4) (fX0_layClasses_b82 K19 (sA s 1 (wr (a1 + 1)) 0) (wr (a1 + 1)) a2))
theorem wX0_layClasses_b19 {N : Nx} {b : Nat} {ad : Nat → Nat} {s' : Sg} {h : hS} (E : EndX N [(0, b, ad)] 4 none none [s'] h) (K19 : Sg → Int → Int → Option (Sg)) (hK19 : ∀ (s : Sg) (a1 : Int) (a2 : Int) (ha1 : rI a1) (ha2 : rI a2), K19 s a1 a2 = some (s') → AtPc cX0_layClasses RX0 1 21 N [s] h 19 [(0, tr (some b)), (1, ti a1), (2, ti a2)] []) (s : Sg) (a1 : Int) (a2 : Int) (ha1 : rI a1) (ha2 : rI a2) (e : fX0_layClasses_b19 K19 s a1 a2 = some (s')) : AtPc cX0_layClasses RX0 1 21 N [s] h 19 [(0, tr (some b)), (1, ti a1), (2, ti a2)] [] := by
  unfold fX0_layClasses_b19 at e
  refine r_rrs E.p (fun rr => ?_)
  refine r_iload_n dX0_layClasses_19 rfl 2 rfl ?_
  refine r_aload_n dX0_layClasses_20 rfl 0 rfl ?_
  refine r_sI E.p 12 fG_X0_183 (by decide) dX0_layClasses_21 ?_
  have eT := (r_ifo e).1
  have eF := (r_ifo e).2
  refine r_icmp_ge ha2 ((rr.mine rfl).i 12 (by decide) (by decide)) 88 dX0_layClasses_24 (by decide) (fun c1 => ?_) (fun c1 => ?_)
  · have e := eT c1
    refine r_iconst dX0_layClasses_88 ?_
    refine r_istore_n (lv' := [(2, ti 0), (0, tr (some b)), (1, ti a1)]) dX0_layClasses_89 rfl (E.lt (by decide)) rfl ?_
    refine r_sub [1, 0] rfl ?_
    exact wX0_layClasses_L90 E FU s 0 (by decide) e
  · have e := eF c1
    refine r_aload_n dX0_layClasses_27 rfl 0 rfl ?_
    refine r_sR E.p 8 fG_X0_121 (by decide) dX0_layClasses_28 ?_
    refine r_iload_n dX0_layClasses_31 rfl 2 rfl ?_
    obtain ⟨g2, e⟩ := gd_o e
    refine r_saI E.p 8 rfl (by decide) (by decide) ha2 g2 rfl dX0_layClasses_32 ?_
    refine r_bipush dX0_layClasses_33 (by decide) ?_
    have eT := (r_ifo e).1
    have eF := (r_ifo e).2
    refine r_icmp_ne (((rr.mine rfl).a 8 (by decide) rfl).1 _) (by decide) 51 dX0_layClasses_35 (by decide) (fun c3 => ?_) (fun c3 => ?_)
    · have e := eT c3
      refine r_aload_n dX0_layClasses_51 rfl 0 rfl ?_
      refine r_sR E.p 8 fG_X0_121 (by decide) dX0_layClasses_52 ?_
      refine r_iload_n dX0_layClasses_55 rfl 2 rfl ?_
      obtain ⟨g4, e⟩ := gd_o e
      refine r_saI E.p 8 rfl (by decide) (by decide) ha2 g4 rfl dX0_layClasses_56 ?_
      refine r_bipush dX0_layClasses_57 (by decide) ?_
      have eT := (r_ifo e).1
      have eF := (r_ifo e).2
      refine r_icmp_eq (((rr.mine rfl).a 8 (by decide) rfl).1 _) (by decide) 82 dX0_layClasses_59 (by decide) (fun c5 => ?_) (fun c5 => ?_)
      · have e := eT c5
        exact wX0_layClasses_b82 E K19 hK19 s a1 a2 ha1 ha2 e
      · have e := eF c5
        refine r_aload_n dX0_layClasses_62 rfl 0 rfl ?_
        refine r_sR E.p 1 fG_X0_107 (by decide) dX0_layClasses_63 ?_
        refine r_iload_n dX0_layClasses_66 rfl 1 rfl ?_
        refine r_dup2 dX0_layClasses_67 rfl rfl ?_
        obtain ⟨g6, e⟩ := gd_o e
        refine r_saI E.p 1 rfl (by decide) (by decide) ha1 g6 rfl dX0_layClasses_68 ?_
        refine r_iconst dX0_layClasses_69 ?_
        refine r_aload_n dX0_layClasses_70 rfl 0 rfl ?_
        refine r_sR E.p 8 fG_X0_121 (by decide) dX0_layClasses_71 ?_
        refine r_iload_n dX0_layClasses_74 rfl 2 rfl ?_
        obtain ⟨g7, e⟩ := gd_o e
        refine r_saI E.p 8 rfl (by decide) (by decide) ha2 g7 rfl dX0_layClasses_75 ?_
        refine r_bipush dX0_layClasses_76 (by decide) ?_
        refine r_isub dX0_layClasses_78 ?_
        refine r_ishl dX0_layClasses_79 ?_
        refine r_ior dX0_layClasses_80 ?_
        obtain ⟨g8, e⟩ := gd_o e
        refine r_saP E.p 1 rfl (by decide) (by decide) ha1 g8 (ior_r _ _) rfl dX0_layClasses_81 ?_
        refine r_rrs E.p (fun rr9 => ?_)
        exact wX0_layClasses_b82 E K19 hK19 (sA s 1 a1 (ior (gA s 1 a1) (ishl 1 (wr ((gA s 8 a2) - 48))))) a1 a2 ha1 ha2 e
    · have e := eF c3
      refine r_iinc (lv' := [(1, ti (wr (a1 + 1))), (0, tr (some b)), (2, ti a2)]) dX0_layClasses_38 1 rfl (E.lt (by decide)) rfl ?_
      refine r_aload_n dX0_layClasses_41 rfl 1 rfl ?_
      refine r_sR E.p 1 fG_X0_107 (by decide) dX0_layClasses_42 ?_
      refine r_iload_n dX0_layClasses_45 rfl 0 rfl ?_
      refine r_iconst dX0_layClasses_46 ?_
      obtain ⟨g10, e⟩ := gd_o e
      refine r_saP E.p 1 rfl (by decide) (by decide) (wr_r _) g10 (by show rI _; decide) rfl dX0_layClasses_47 ?_
      refine r_rrs E.p (fun rr11 => ?_)
      refine r_goto 82 dX0_layClasses_48 (by decide) ?_
      refine r_sub [1, 0, 2] rfl ?_
      exact wX0_layClasses_b82 E K19 hK19 (sA s 1 (wr (a1 + 1)) 0) (wr (a1 + 1)) a2 (wr_r _) ha2 e
def fX0_layClasses_L19  : Nat → Sg → Int → Int → Option (Sg)
  | 0, _, _, _ => none
  | n9 + 1, s, a1, a2 => fX0_layClasses_b19 (fX0_layClasses_L19 n9) s a1 a2
theorem wX0_layClasses_L19 {N : Nx} {b : Nat} {ad : Nat → Nat} {s' : Sg} {h : hS} (E : EndX N [(0, b, ad)] 4 none none [s'] h)  : ∀ (n9 : Nat), ∀ (s : Sg) (a1 : Int) (a2 : Int) (ha1 : rI a1) (ha2 : rI a2), fX0_layClasses_L19 n9 s a1 a2 = some (s') → AtPc cX0_layClasses RX0 1 21 N [s] h 19 [(0, tr (some b)), (1, ti a1), (2, ti a2)] [] := by
  intro n9
  induction n9 with
  | zero => intro s a1 a2 ha1 ha2 e; cases e
  | succ n9 ih => intro s a1 a2 ha1 ha2 e; exact wX0_layClasses_b19 E _ ih s a1 a2 ha1 ha2 e
def fX0_layClasses  (s : Sg) : Option (Sg) := fX0_layClasses_L19 FU (sA (sI s 3 (gI s 10)) 1 0 0) 0 0
theorem kX0_layClasses {G : Gx}  {b : Nat} {ad : Nat → Nat} {s' : Sg} {h : hS} {s : Sg}    (e : fX0_layClasses s = some (s')) : CtX G yX0_layClasses cX0_layClasses 4 none 1 21 [(0, b, ad)] [s] h [tr (some b)] none [s'] h := by
  refine CtX.of (by decide) (Nat.le_of_ble_eq_true rfl) [(0, tr (some b))] rfl ?_
  have E : EndX (G, 4, [(0, b, ad)], h, [s'], h, none, none, yX0_layClasses.name) [(0, b, ad)] 4 none none [s'] h := ⟨rfl, rfl, rfl, rfl, rfl, rfl⟩
  unfold fX0_layClasses at e
  refine r_rrs E.p (fun rr => ?_)
  refine r_aload_n dX0_layClasses_0 rfl 0 rfl ?_
  refine r_aload_n dX0_layClasses_1 rfl 0 rfl ?_
  refine r_sI E.p 10 fG_X0_180 (by decide) dX0_layClasses_2 ?_
  refine r_sPI E.p 3 fP_X0_238 rfl ((rr.mine rfl).i 10 (by decide) (by decide)) dX0_layClasses_5 ?_
  refine r_rrs E.p (fun rr1 => ?_)
  refine r_iconst dX0_layClasses_8 ?_
  refine r_istore_n (lv' := [(1, ti 0), (0, tr (some b))]) dX0_layClasses_9 rfl (E.lt (by decide)) rfl ?_
  refine r_aload_n dX0_layClasses_10 rfl 1 rfl ?_
  refine r_sR E.p 1 fG_X0_107 (by decide) dX0_layClasses_11 ?_
  refine r_iconst dX0_layClasses_14 ?_
  refine r_iconst dX0_layClasses_15 ?_
  refine r_saP E.p 1 rfl (by decide) (by decide) (by decide) (by decide) (by show rI _; decide) rfl dX0_layClasses_16 ?_
  refine r_rrs E.p (fun rr2 => ?_)
  refine r_iconst dX0_layClasses_17 ?_
  refine r_istore_n (lv' := [(2, ti 0), (1, ti 0), (0, tr (some b))]) dX0_layClasses_18 rfl (E.lt (by decide)) rfl ?_
  refine r_sub [2, 1, 0] rfl ?_
  exact wX0_layClasses_L19 E FU (sA (sI s 3 (gI s 10)) 1 0 0) 0 0 (by decide) (by decide) e
def fX0_made  (h : hS) (a0 : Int) : Option (Option Nat × hS) := if a0 = 0 then bd (nwS h 1 [vi 0, vi 0, vq none, vq none, vq none, vi 0]) fun p2 => bd (fX1_init p2.2 (some p2.1)) fun p5 => some ((some p2.1), p5) else if a0 = 1 then bd (nwS h 2 [vi 0, vi 0, vq none, vq none, vq none, vi 0]) fun p11 => bd (fX2_init p11.2 (some p11.1)) fun p14 => some ((some p11.1), p14) else if a0 = 2 then bd (nwS h 3 [vi 0, vi 0, vq none, vq none, vq none, vi 0]) fun p20 => bd (fX3_init p20.2 (some p20.1)) fun p23 => some ((some p20.1), p23) else if a0 = 3 then bd (nwS h 4 [vi 0, vi 0, vq none, vq none, vq none, vi 0]) fun p29 => bd (fX4_init p29.2 (some p29.1)) fun p32 => some ((some p29.1), p32) else bd (nwS h 5 [vi 0, vi 0, vq none, vq none, vq none, vi 0]) fun p37 => bd (fX5_init p37.2 (some p37.1)) fun p40 => some ((some p37.1), p40)
theorem kX0_made {G : Gx}  {h' : hS} {r : Option Nat} {h : hS} {a0 : Int}  (ha0 : rI a0) (e : fX0_made h a0 = some (r, h')) : CtX G yX0_made cX0_made 1 (some (.object "DictProof$Instance")) 4 80 [] [] h [ti a0] (some (tr r)) [] h' := by
  refine CtX.of (by decide) (Nat.le_of_ble_eq_true rfl) [(0, ti a0)] rfl ?_
  have E : EndX (G, 1, [], h, [], h', (some (.object "DictProof$Instance")), (some (tr r)), yX0_made.name) [] 1 (some (.object "DictProof$Instance")) (some (tr r)) [] h' := ⟨rfl, rfl, rfl, rfl, rfl, rfl⟩
  unfold fX0_made at e
  refine r_rrs E.p (fun rr => ?_)
  refine r_iload_n dX0_made_0 rfl 0 rfl ?_
  have eT := (r_ifo e).1
  have eF := (r_ifo e).2
  by_cases c1 : a0 = 0
  · have e := eT c1
    refine r_tswI ha0 dX0_made_1 0 c1 32 (by decide) (by decide) rfl (by decide) ?_
    obtain ⟨p2, q3, e⟩ := bd_o e
    refine r_newS [vi 0, vi 0, vq none, vq none, vq none, vi 0] q3 rfl in_X1 tyX1_ok q152 q154 q116 (by decide +kernel) rfl (by decide +kernel) dX0_made_32 ?_
    refine r_rrs E.p (fun rr4 => ?_)
    refine r_dup dX0_made_35 rfl ?_
    obtain ⟨p5, q6, e⟩ := bd_o e
    have k7 := kX1_init (G := G)  q6
    have z8 := (k7 rr4).1.2.2.2
    refine r_callINo (j := none) 0 [] (host := "DictProof") (fun q => by cases q) rfl rfl k7 (injO_0 E.p) subO_0 getO_0 setO_0 q157 q116 q155 q156 (by decide +kernel) rfl (Nat.le_of_ble_eq_true rfl) (Nat.le_of_ble_eq_true rfl) rfl (Nat.le_of_ble_eq_true rfl) dX0_made_36 rfl ?_
    refine r_rrs E.p (fun rr9 => ?_)
    cases e
    exact r_aret E.σ E.st E.rt (by first | exact Or.inl ⟨_, rfl⟩ | exact Or.inr ⟨_, rfl⟩) E.r dX0_made_39
  · have e := eF c1
    have eT := (r_ifo e).1
    have eF := (r_ifo e).2
    by_cases c10 : a0 = 1
    · have e := eT c10
      refine r_tswI ha0 dX0_made_1 1 c10 40 (by decide) (by decide) rfl (by decide) ?_
      obtain ⟨p11, q12, e⟩ := bd_o e
      refine r_newS [vi 0, vi 0, vq none, vq none, vq none, vi 0] q12 rfl in_X2 tyX2_ok q195 q196 q117 (by decide +kernel) rfl (by decide +kernel) dX0_made_40 ?_
      refine r_rrs E.p (fun rr13 => ?_)
      refine r_dup dX0_made_43 rfl ?_
      obtain ⟨p14, q15, e⟩ := bd_o e
      have k16 := kX2_init (G := G)  q15
      have z17 := (k16 rr13).1.2.2.2
      refine r_callINo (j := none) 0 [] (host := "DictProof") (fun q => by cases q) rfl rfl k16 (injO_0 E.p) subO_0 getO_0 setO_0 q199 q117 q197 q198 (by decide +kernel) rfl (Nat.le_of_ble_eq_true rfl) (Nat.le_of_ble_eq_true rfl) rfl (Nat.le_of_ble_eq_true rfl) dX0_made_44 rfl ?_
      refine r_rrs E.p (fun rr18 => ?_)
      cases e
      exact r_aret E.σ E.st E.rt (by first | exact Or.inl ⟨_, rfl⟩ | exact Or.inr ⟨_, rfl⟩) E.r dX0_made_47
    · have e := eF c10
      have eT := (r_ifo e).1
      have eF := (r_ifo e).2
      by_cases c19 : a0 = 2
      · have e := eT c19
        refine r_tswI ha0 dX0_made_1 2 c19 48 (by decide) (by decide) rfl (by decide) ?_
        obtain ⟨p20, q21, e⟩ := bd_o e
        refine r_newS [vi 0, vi 0, vq none, vq none, vq none, vi 0] q21 rfl in_X3 tyX3_ok q208 q209 q118 (by decide +kernel) rfl (by decide +kernel) dX0_made_48 ?_
        refine r_rrs E.p (fun rr22 => ?_)
        refine r_dup dX0_made_51 rfl ?_
        obtain ⟨p23, q24, e⟩ := bd_o e
        have k25 := kX3_init (G := G)  q24
        have z26 := (k25 rr22).1.2.2.2
        refine r_callINo (j := none) 0 [] (host := "DictProof") (fun q => by cases q) rfl rfl k25 (injO_0 E.p) subO_0 getO_0 setO_0 q212 q118 q210 q211 (by decide +kernel) rfl (Nat.le_of_ble_eq_true rfl) (Nat.le_of_ble_eq_true rfl) rfl (Nat.le_of_ble_eq_true rfl) dX0_made_52 rfl ?_
        refine r_rrs E.p (fun rr27 => ?_)
        cases e
        exact r_aret E.σ E.st E.rt (by first | exact Or.inl ⟨_, rfl⟩ | exact Or.inr ⟨_, rfl⟩) E.r dX0_made_55
      · have e := eF c19
        have eT := (r_ifo e).1
        have eF := (r_ifo e).2
        by_cases c28 : a0 = 3
        · have e := eT c28
          refine r_tswI ha0 dX0_made_1 3 c28 56 (by decide) (by decide) rfl (by decide) ?_
          obtain ⟨p29, q30, e⟩ := bd_o e
          refine r_newS [vi 0, vi 0, vq none, vq none, vq none, vi 0] q30 rfl in_X4 tyX4_ok q221 q222 q119 (by decide +kernel) rfl (by decide +kernel) dX0_made_56 ?_
          refine r_rrs E.p (fun rr31 => ?_)
          refine r_dup dX0_made_59 rfl ?_
          obtain ⟨p32, q33, e⟩ := bd_o e
          have k34 := kX4_init (G := G)  q33
          have z35 := (k34 rr31).1.2.2.2
          refine r_callINo (j := none) 0 [] (host := "DictProof") (fun q => by cases q) rfl rfl k34 (injO_0 E.p) subO_0 getO_0 setO_0 q225 q119 q223 q224 (by decide +kernel) rfl (Nat.le_of_ble_eq_true rfl) (Nat.le_of_ble_eq_true rfl) rfl (Nat.le_of_ble_eq_true rfl) dX0_made_60 rfl ?_
          refine r_rrs E.p (fun rr36 => ?_)
          cases e
          exact r_aret E.σ E.st E.rt (by first | exact Or.inl ⟨_, rfl⟩ | exact Or.inr ⟨_, rfl⟩) E.r dX0_made_63
        · have e := eF c28
          refine r_tswO ha0 dX0_made_1 64 (by omega) (by decide) ?_
          obtain ⟨p37, q38, e⟩ := bd_o e
          refine r_newS [vi 0, vi 0, vq none, vq none, vq none, vi 0] q38 rfl in_X5 tyX5_ok q234 q235 q120 (by decide +kernel) rfl (by decide +kernel) dX0_made_64 ?_
          refine r_rrs E.p (fun rr39 => ?_)
          refine r_dup dX0_made_67 rfl ?_
          obtain ⟨p40, q41, e⟩ := bd_o e
          have k42 := kX5_init (G := G)  q41
          have z43 := (k42 rr39).1.2.2.2
          refine r_callINo (j := none) 0 [] (host := "DictProof") (fun q => by cases q) rfl rfl k42 (injO_0 E.p) subO_0 getO_0 setO_0 q238 q120 q236 q237 (by decide +kernel) rfl (Nat.le_of_ble_eq_true rfl) (Nat.le_of_ble_eq_true rfl) rfl (Nat.le_of_ble_eq_true rfl) dX0_made_68 rfl ?_
          refine r_rrs E.p (fun rr44 => ?_)
          cases e
          exact r_aret E.σ E.st E.rt (by first | exact Or.inl ⟨_, rfl⟩ | exact Or.inr ⟨_, rfl⟩) E.r dX0_made_71
theorem fP_X7_9i : FldP RX7 9 [(7, 0)] .int true := List.forall_mem_cons.mpr ⟨⟨RX7, TX7, 3, "DictProof$Term", tyX7, rfl, in_X7, by decide, q469, Or.inl rfl, tyX7_ok, nmX7, rfl, Or.inr ⟨rfl, rfl, rfl⟩, by decide⟩, fun _ h => absurd h List.not_mem_nil⟩
theorem fP_X7_15i : FldP RX7 15 [(7, 1)] (.object "DictProof$Term") true := List.forall_mem_cons.mpr ⟨⟨RX7, TX7, 3, "DictProof$Term", tyX7, rfl, in_X7, by decide, q471, Or.inl rfl, tyX7_ok, nmX7, rfl, Or.inr ⟨rfl, rfl, rfl⟩, by decide⟩, fun _ h => absurd h List.not_mem_nil⟩
theorem fP_X7_19i : FldP RX7 19 [(7, 2)] (.object "DictProof$Term") true := List.forall_mem_cons.mpr ⟨⟨RX7, TX7, 3, "DictProof$Term", tyX7, rfl, in_X7, by decide, q473, Or.inl rfl, tyX7_ok, nmX7, rfl, Or.inr ⟨rfl, rfl, rfl⟩, by decide⟩, fun _ h => absurd h List.not_mem_nil⟩
def fX7_init  (h : hS) (o0 : Option Nat) (a1 : Int) (o2 : Option Nat) (o3 : Option Nat) : Option (hS) := gd (¬ o0 = none) (bd (hW h o0 [(7, 0)] (vi a1)) fun h2 => bd (hW h2 o0 [(7, 1)] (vq o2)) fun h5 => bd (hW h5 o0 [(7, 2)] (vq o3)) fun h8 => some h8)
theorem kX7_init {G : Gx}  {h' : hS} {h : hS} {o0 : Option Nat} {a1 : Int} {o2 : Option Nat} {o3 : Option Nat}  (ha1 : rI a1) (e : fX7_init h o0 a1 o2 o3 = some (h')) : CtX G yX7_init cX7_init 4 none 1 20 [] [] h [tr o0, ti a1, tr o2, tr o3] none [] h' := by
  refine CtX.of (by decide) (Nat.le_of_ble_eq_true rfl) [(0, tr o0), (1, ti a1), (2, tr o2), (3, tr o3)] rfl ?_
  have E : EndX (G, 4, [], h, [], h', none, none, yX7_init.name) [] 4 none none [] h' := ⟨rfl, rfl, rfl, rfl, rfl, rfl⟩
  unfold fX7_init at e
  refine r_rrs E.p (fun rr => ?_)
  refine r_aload_n dX7_init_0 rfl 0 rfl ?_
  obtain ⟨g1, e⟩ := gd_o e
  refine r_objInitO g1 q468 q150 q151 (Nat.le_of_ble_eq_true rfl) (Nat.le_of_ble_eq_true rfl) (Nat.le_of_ble_eq_true rfl) dX7_init_1 ?_
  refine r_aload_n dX7_init_4 rfl 0 rfl ?_
  refine r_iload_n dX7_init_5 rfl 1 rfl ?_
  obtain ⟨h2, q3, e⟩ := bd_o e
  refine r_put (v := vi a1) fP_X7_9i (by first | exact fun q => absurd q (by decide) | exact fun _ => rfl) ha1 q3 dX7_init_6 ?_
  refine r_rrs E.p (fun rr4 => ?_)
  refine r_aload_n dX7_init_9 rfl 0 rfl ?_
  refine r_aload_n dX7_init_10 rfl 2 rfl ?_
  obtain ⟨h5, q6, e⟩ := bd_o e
  refine r_put (v := vq o2) fP_X7_15i (by first | exact fun q => absurd q (by decide) | exact fun _ => rfl) trivial q6 dX7_init_11 ?_
  refine r_rrs E.p (fun rr7 => ?_)
  refine r_aload_n dX7_init_14 rfl 0 rfl ?_
  refine r_aload_n dX7_init_15 rfl 3 rfl ?_
  obtain ⟨h8, q9, e⟩ := bd_o e
  refine r_put (v := vq o3) fP_X7_19i (by first | exact fun q => absurd q (by decide) | exact fun _ => rfl) trivial q9 dX7_init_16 ?_
  refine r_rrs E.p (fun rr10 => ?_)
  cases e
  exact r_vret E.σ E.st E.rt E.r dX7_init_19
theorem fG_X0_228 : FldG RX0 228 [(0, 19)] := List.forall_mem_cons.mpr ⟨⟨RX0, TX0, 36, "DictProof", rfl, in_X0, by decide, q300, Or.inl rfl⟩, fun _ h => absurd h List.not_mem_nil⟩
theorem fP_X0_228 : FldP RX0 228 [(0, 19)] .int false := List.forall_mem_cons.mpr ⟨⟨RX0, TX0, 36, "DictProof", tyX0, rfl, in_X0, by decide, q300, Or.inl rfl, tyX0_ok, nmX0, rfl, Or.inl rfl, by decide⟩, fun _ h => absurd h List.not_mem_nil⟩
def fX0_read_b52 (R9 : Sg → hS → Option (Option Nat × Sg × hS)) (s : Sg) (h : hS) (a1 : Int) (o2 : Option Nat) (k0 : Option Nat) : Option (Option Nat × Sg × hS) := bd (nwS h 7 [vi 0, vq none, vq none]) fun p1 => bd (fX7_init p1.2 (some p1.1) a1 o2 k0) fun p4 => some ((some p1.1), s, p4)
theorem wX0_read_b52 {N : Nx} {b : Nat} {ad : Nat → Nat} {s' : Sg} {h' : hS} {r : Option Nat} (d9 : Nat) (R9 : Sg → hS → Option (Option Nat × Sg × hS)) (hR9 : ∀  {b : Nat} {ad : Nat → Nat} {s' : Sg} {h' : hS} {r : Option Nat} {s : Sg} {h : hS}  , R9 s h = some (r, s', h') → CtX (nG N) yX0_read cX0_read 4 (some (.object "DictProof$Term")) (d9 + 2) (23 * d9 + 43) [(0, b, ad)] [s] h [tr (some b)] (some (tr r)) [s'] h') (E : EndX N [(0, b, ad)] 4 (some (.object "DictProof$Term")) (some (tr r)) [s'] h')  (s : Sg) (h : hS) (a1 : Int) (o2 : Option Nat) (k0 : Option Nat) (ha1 : rI a1) (e : fX0_read_b52 R9 s h a1 o2 k0 = some (r, s', h')) : AtPc cX0_read RX0 ((d9 + 1) + 2) (23 * (d9 + 1) + 43) N [s] h 52 [(1, ti a1), (2, tr o2)] [tr k0] := by
  unfold fX0_read_b52 at e
  refine r_rrs E.p (fun rr => ?_)
  refine r_astore_n (lv' := [(3, tr k0), (1, ti a1), (2, tr o2)]) dX0_read_52 rfl (E.lt (by decide)) rfl ?_
  obtain ⟨p1, q2, e⟩ := bd_o e
  refine r_newS [vi 0, vq none, vq none] q2 rfl in_X7 tyX7_ok q247 q464 q124 (by decide +kernel) rfl (by decide +kernel) dX0_read_53 ?_
  refine r_rrs E.p (fun rr3 => ?_)
  refine r_dup dX0_read_56 rfl ?_
  refine r_iload_n dX0_read_57 rfl 1 rfl ?_
  refine r_aload_n dX0_read_58 rfl 2 rfl ?_
  refine r_aload_n dX0_read_59 rfl 0 rfl ?_
  obtain ⟨p4, q5, e⟩ := bd_o e
  have k6 := kX7_init (G := nG N) ha1 q5
  have z7 := (k6 rr3.none).1.2.2.2
  refine r_callIo (j := none) 3 [ti a1, tr o2, tr k0] (fun q => by cases q) rfl rfl k6 (injO_1 E.p) subO_0 getO_0 setO_0 q467 q124 q465 q466 (by decide +kernel) rfl (by omega) (by omega) rfl (Nat.le_of_ble_eq_true rfl) dX0_read_60 rfl ?_
  refine r_rrs E.p (fun rr8 => ?_)
  cases e
  exact r_aret E.σ E.st E.rt (by first | exact Or.inl ⟨_, rfl⟩ | exact Or.inr ⟨_, rfl⟩) E.r dX0_read_63
def fX0_read_b35 (R9 : Sg → hS → Option (Option Nat × Sg × hS)) (s : Sg) (h : hS) (a1 : Int) (k0 : Option Nat) : Option (Option Nat × Sg × hS) := bd (fX0_partsOf a1) fun p1 => if p1 ≤ 1 then fX0_read_b52 R9 s h a1 k0 none else bd (R9 s h) fun p6 => fX0_read_b52 R9 p6.2.1 p6.2.2 a1 k0 p6.1
theorem wX0_read_b35 {N : Nx} {b : Nat} {ad : Nat → Nat} {s' : Sg} {h' : hS} {r : Option Nat} (d9 : Nat) (R9 : Sg → hS → Option (Option Nat × Sg × hS)) (hR9 : ∀  {b : Nat} {ad : Nat → Nat} {s' : Sg} {h' : hS} {r : Option Nat} {s : Sg} {h : hS}  , R9 s h = some (r, s', h') → CtX (nG N) yX0_read cX0_read 4 (some (.object "DictProof$Term")) (d9 + 2) (23 * d9 + 43) [(0, b, ad)] [s] h [tr (some b)] (some (tr r)) [s'] h') (E : EndX N [(0, b, ad)] 4 (some (.object "DictProof$Term")) (some (tr r)) [s'] h')  (s : Sg) (h : hS) (a1 : Int) (k0 : Option Nat) (ha1 : rI a1) (e : fX0_read_b35 R9 s h a1 k0 = some (r, s', h')) : AtPc cX0_read RX0 ((d9 + 1) + 2) (23 * (d9 + 1) + 43) N [s] h 35 [(0, tr (some b)), (1, ti a1)] [tr k0] := by
  unfold fX0_read_b35 at e
  refine r_rrs E.p (fun rr => ?_)
  refine r_astore_n (lv' := [(2, tr k0), (0, tr (some b)), (1, ti a1)]) dX0_read_35 rfl (E.lt (by decide)) rfl ?_
  refine r_iload_n dX0_read_36 rfl 2 rfl ?_
  obtain ⟨p1, q2, e⟩ := bd_o e
  have k3 := kX0_partsOf (G := nG N) (h := h) ha1 q2
  have z4 := (k3 rr.none).1.2.2.2
  refine r_callS (j := none) 1 [ti a1] k3 (injO_1 E.p) subO_0 getO_0 setO_0 (lw_S q428 q429 q115 q430) (by decide +kernel) rfl (by omega) (by omega) rfl (Nat.le_of_ble_eq_true rfl) dX0_read_37 rfl ?_
  refine r_iconst dX0_read_40 ?_
  have eT := (r_ifo e).1
  have eF := (r_ifo e).2
  refine r_icmp_le z4 (by decide) 51 dX0_read_41 (by decide) (fun c5 => ?_) (fun c5 => ?_)
  · have e := eT c5
    refine r_null dX0_read_51 ?_
    refine r_sub [2, 0] rfl ?_
    exact wX0_read_b52 d9 R9 hR9 E s h a1 k0 none ha1 e
  · have e := eF c5
    refine r_aload_n dX0_read_44 rfl 1 rfl ?_
    obtain ⟨p6, q7, e⟩ := bd_o e
    have k8 := hR9 (b := b) (ad := ad)  q7
    have z9 := (k8 rr).1.2.2.2
    refine r_callV (j := some 0) 0 [] (rec_sg (j := 0) (r := (RX0, TX0, 36)) rfl (by rw [E.p]; rfl)) rfl k8 (injO_1 E.p) (subO_1 E.p) getO_1 setO_1 (lw_V q460 q462 qs7 q115 q463) (by decide +kernel) rfl (by omega) (by omega) rfl (Nat.le_of_ble_eq_true rfl) dX0_read_45 rfl ?_
    refine r_rrs E.p (fun rr10 => ?_)
    refine r_goto 52 dX0_read_48 (by decide) ?_
    refine r_sub [2, 0] rfl ?_
    exact wX0_read_b52 d9 R9 hR9 E p6.2.1 p6.2.2 a1 k0 p6.1 ha1 e
def fX0_read_B (R9 : Sg → hS → Option (Option Nat × Sg × hS)) (s : Sg) (h : hS) : Option (Option Nat × Sg × hS) := gd (inb (gI s 19) 84) (bd (fX0_partsOf (gA s 8 (gI s 19))) fun p3 => if p3 ≤ 0 then fX0_read_b35 R9 (sI s 19 (wr ((gI s 19) + 1))) h (gA s 8 (gI s 19)) none else bd (R9 (sI s 19 (wr ((gI s 19) + 1))) h) fun p8 => fX0_read_b35 R9 p8.2.1 p8.2.2 (gA s 8 (gI s 19)) p8.1)
theorem kX0_read_B {G : Gx}  {b : Nat} {ad : Nat → Nat} {s' : Sg} {h' : hS} {r : Option Nat} {s : Sg} {h : hS}  (d9 : Nat) (R9 : Sg → hS → Option (Option Nat × Sg × hS)) (hR9 : ∀  {b : Nat} {ad : Nat → Nat} {s' : Sg} {h' : hS} {r : Option Nat} {s : Sg} {h : hS}  , R9 s h = some (r, s', h') → CtX G yX0_read cX0_read 4 (some (.object "DictProof$Term")) (d9 + 2) (23 * d9 + 43) [(0, b, ad)] [s] h [tr (some b)] (some (tr r)) [s'] h')  (e : fX0_read_B R9 s h = some (r, s', h')) : CtX G yX0_read cX0_read 4 (some (.object "DictProof$Term")) ((d9 + 1) + 2) (23 * (d9 + 1) + 43) [(0, b, ad)] [s] h [tr (some b)] (some (tr r)) [s'] h' := by
  refine CtX.of (by decide) (Nat.le_of_ble_eq_true rfl) [(0, tr (some b))] rfl ?_
  have E : EndX (G, 4, [(0, b, ad)], h, [s'], h', (some (.object "DictProof$Term")), (some (tr r)), yX0_read.name) [(0, b, ad)] 4 (some (.object "DictProof$Term")) (some (tr r)) [s'] h' := ⟨rfl, rfl, rfl, rfl, rfl, rfl⟩
  unfold fX0_read_B at e
  refine r_rrs E.p (fun rr => ?_)
  refine r_aload_n dX0_read_0 rfl 0 rfl ?_
  refine r_sR E.p 8 fG_X0_121 (by decide) dX0_read_1 ?_
  refine r_aload_n dX0_read_4 rfl 0 rfl ?_
  refine r_sI E.p 19 fG_X0_228 (by decide) dX0_read_5 ?_
  obtain ⟨g1, e⟩ := gd_o e
  refine r_saI E.p 8 rfl (by decide) (by decide) ((rr.mine rfl).i 19 (by decide) (by decide)) g1 rfl dX0_read_8 ?_
  refine r_istore_n (lv' := [(1, ti (gA s 8 (gI s 19))), (0, tr (some b))]) dX0_read_9 rfl (E.lt (by decide)) rfl ?_
  refine r_aload_n dX0_read_10 rfl 1 rfl ?_
  refine r_dup dX0_read_11 rfl ?_
  refine r_sI E.p 19 fG_X0_228 (by decide) dX0_read_12 ?_
  refine r_iconst dX0_read_15 ?_
  refine r_iadd dX0_read_16 ?_
  refine r_sPI E.p 19 fP_X0_228 rfl (wr_r _) dX0_read_17 ?_
  refine r_rrs E.p (fun rr2 => ?_)
  refine r_iload_n dX0_read_20 rfl 0 rfl ?_
  obtain ⟨p3, q4, e⟩ := bd_o e
  have k5 := kX0_partsOf (G := G) (h := h) (((rr.mine rfl).a 8 (by decide) rfl).1 _) q4
  have z6 := (k5 rr2.none).1.2.2.2
  refine r_callS (j := none) 1 [ti (gA s 8 (gI s 19))] k5 (injO_1 E.p) subO_0 getO_0 setO_0 (lw_S q428 q429 q115 q430) (by decide +kernel) rfl (by omega) (by omega) rfl (Nat.le_of_ble_eq_true rfl) dX0_read_21 rfl ?_
  have eT := (r_ifo e).1
  have eF := (r_ifo e).2
  refine r_if_le z6 34 dX0_read_24 (by decide) (fun c7 => ?_) (fun c7 => ?_)
  · have e := eT c7
    refine r_null dX0_read_34 ?_
    refine r_sub [1, 0] rfl ?_
    exact wX0_read_b35 d9 R9 hR9 E (sI s 19 (wr ((gI s 19) + 1))) h (gA s 8 (gI s 19)) none (((rr.mine rfl).a 8 (by decide) rfl).1 _) e
  · have e := eF c7
    refine r_aload_n dX0_read_27 rfl 1 rfl ?_
    obtain ⟨p8, q9, e⟩ := bd_o e
    have k10 := hR9 (b := b) (ad := ad)  q9
    have z11 := (k10 rr2).1.2.2.2
    refine r_callV (j := some 0) 0 [] (rec_sg (j := 0) (r := (RX0, TX0, 36)) rfl (by rw [E.p]; rfl)) rfl k10 (injO_1 E.p) (subO_1 E.p) getO_1 setO_1 (lw_V q460 q462 qs7 q115 q463) (by decide +kernel) rfl (by omega) (by omega) rfl (Nat.le_of_ble_eq_true rfl) dX0_read_28 rfl ?_
    refine r_rrs E.p (fun rr12 => ?_)
    refine r_goto 35 dX0_read_31 (by decide) ?_
    refine r_sub [1, 0] rfl ?_
    exact wX0_read_b35 d9 R9 hR9 E p8.2.1 p8.2.2 (gA s 8 (gI s 19)) p8.1 (((rr.mine rfl).a 8 (by decide) rfl).1 _) e
def fX0_read : Nat → Sg → hS → Option (Option Nat × Sg × hS)
  | 0, _, _ => none
  | d9 + 1, s, h => fX0_read_B (fX0_read d9) s h
theorem kX0_read {G : Gx} : ∀ (d9 : Nat), ∀  {b : Nat} {ad : Nat → Nat} {s' : Sg} {h' : hS} {r : Option Nat} {s : Sg} {h : hS}  , fX0_read d9 s h = some (r, s', h') → CtX G yX0_read cX0_read 4 (some (.object "DictProof$Term")) (d9 + 2) (23 * d9 + 43) [(0, b, ad)] [s] h [tr (some b)] (some (tr r)) [s'] h' := by
  intro d9
  induction d9 with
  | zero => intros; rename_i e; cases e
  | succ d9 ih => intros; exact kX0_read_B d9 _ ih (by assumption)
theorem fP_X0_245 : FldP RX0 245 [(1, 0), (2, 0), (3, 0), (4, 0), (5, 0)] .int false := List.forall_mem_cons.mpr ⟨⟨RX1, TX1, 6, "DictProof$Instance", tyX1, rfl, in_X1, by decide, q161, Or.inl rfl, tyX1_ok, nmX1, rfl, Or.inl rfl, by decide⟩, List.forall_mem_cons.mpr ⟨⟨RX2, TX2, 6, "DictProof$Instance", tyX2, rfl, in_X2, by decide, q161, Or.inl rfl, tyX2_ok, nmX2, rfl, Or.inl rfl, by decide⟩, List.forall_mem_cons.mpr ⟨⟨RX3, TX3, 6, "DictProof$Instance", tyX3, rfl, in_X3, by decide, q161, Or.inl rfl, tyX3_ok, nmX3, rfl, Or.inl rfl, by decide⟩, List.forall_mem_cons.mpr ⟨⟨RX4, TX4, 6, "DictProof$Instance", tyX4, rfl, in_X4, by decide, q161, Or.inl rfl, tyX4_ok, nmX4, rfl, Or.inl rfl, by decide⟩, List.forall_mem_cons.mpr ⟨⟨RX5, TX5, 6, "DictProof$Instance", tyX5, rfl, in_X5, by decide, q161, Or.inl rfl, tyX5_ok, nmX5, rfl, Or.inl rfl, by decide⟩, fun _ h => absurd h List.not_mem_nil⟩⟩⟩⟩⟩
theorem fP_X0_248 : FldP RX0 248 [(1, 1), (2, 1), (3, 1), (4, 1), (5, 1)] .int false := List.forall_mem_cons.mpr ⟨⟨RX1, TX1, 6, "DictProof$Instance", tyX1, rfl, in_X1, by decide, q171, Or.inl rfl, tyX1_ok, nmX1, rfl, Or.inl rfl, by decide⟩, List.forall_mem_cons.mpr ⟨⟨RX2, TX2, 6, "DictProof$Instance", tyX2, rfl, in_X2, by decide, q171, Or.inl rfl, tyX2_ok, nmX2, rfl, Or.inl rfl, by decide⟩, List.forall_mem_cons.mpr ⟨⟨RX3, TX3, 6, "DictProof$Instance", tyX3, rfl, in_X3, by decide, q171, Or.inl rfl, tyX3_ok, nmX3, rfl, Or.inl rfl, by decide⟩, List.forall_mem_cons.mpr ⟨⟨RX4, TX4, 6, "DictProof$Instance", tyX4, rfl, in_X4, by decide, q171, Or.inl rfl, tyX4_ok, nmX4, rfl, Or.inl rfl, by decide⟩, List.forall_mem_cons.mpr ⟨⟨RX5, TX5, 6, "DictProof$Instance", tyX5, rfl, in_X5, by decide, q171, Or.inl rfl, tyX5_ok, nmX5, rfl, Or.inl rfl, by decide⟩, fun _ h => absurd h List.not_mem_nil⟩⟩⟩⟩⟩
theorem fP_X0_251 : FldP RX0 251 [(1, 2), (2, 2), (3, 2), (4, 2), (5, 2)] (.object "DictProof$Term") false := List.forall_mem_cons.mpr ⟨⟨RX1, TX1, 6, "DictProof$Instance", tyX1, rfl, in_X1, by decide, q173, Or.inl rfl, tyX1_ok, nmX1, rfl, Or.inl rfl, by decide⟩, List.forall_mem_cons.mpr ⟨⟨RX2, TX2, 6, "DictProof$Instance", tyX2, rfl, in_X2, by decide, q173, Or.inl rfl, tyX2_ok, nmX2, rfl, Or.inl rfl, by decide⟩, List.forall_mem_cons.mpr ⟨⟨RX3, TX3, 6, "DictProof$Instance", tyX3, rfl, in_X3, by decide, q173, Or.inl rfl, tyX3_ok, nmX3, rfl, Or.inl rfl, by decide⟩, List.forall_mem_cons.mpr ⟨⟨RX4, TX4, 6, "DictProof$Instance", tyX4, rfl, in_X4, by decide, q173, Or.inl rfl, tyX4_ok, nmX4, rfl, Or.inl rfl, by decide⟩, List.forall_mem_cons.mpr ⟨⟨RX5, TX5, 6, "DictProof$Instance", tyX5, rfl, in_X5, by decide, q173, Or.inl rfl, tyX5_ok, nmX5, rfl, Or.inl rfl, by decide⟩, fun _ h => absurd h List.not_mem_nil⟩⟩⟩⟩⟩
theorem fP_X0_254 : FldP RX0 254 [(1, 5), (2, 5), (3, 5), (4, 5), (5, 5)] .int false := List.forall_mem_cons.mpr ⟨⟨RX1, TX1, 6, "DictProof$Instance", tyX1, rfl, in_X1, by decide, q180, Or.inl rfl, tyX1_ok, nmX1, rfl, Or.inl rfl, by decide⟩, List.forall_mem_cons.mpr ⟨⟨RX2, TX2, 6, "DictProof$Instance", tyX2, rfl, in_X2, by decide, q180, Or.inl rfl, tyX2_ok, nmX2, rfl, Or.inl rfl, by decide⟩, List.forall_mem_cons.mpr ⟨⟨RX3, TX3, 6, "DictProof$Instance", tyX3, rfl, in_X3, by decide, q180, Or.inl rfl, tyX3_ok, nmX3, rfl, Or.inl rfl, by decide⟩, List.forall_mem_cons.mpr ⟨⟨RX4, TX4, 6, "DictProof$Instance", tyX4, rfl, in_X4, by decide, q180, Or.inl rfl, tyX4_ok, nmX4, rfl, Or.inl rfl, by decide⟩, List.forall_mem_cons.mpr ⟨⟨RX5, TX5, 6, "DictProof$Instance", tyX5, rfl, in_X5, by decide, q180, Or.inl rfl, tyX5_ok, nmX5, rfl, Or.inl rfl, by decide⟩, fun _ h => absurd h List.not_mem_nil⟩⟩⟩⟩⟩
theorem fG_X0_254 : FldG RX0 254 [(1, 5), (2, 5), (3, 5), (4, 5), (5, 5)] := List.forall_mem_cons.mpr ⟨⟨RX1, TX1, 6, "DictProof$Instance", rfl, in_X1, by decide, q180, Or.inl rfl⟩, List.forall_mem_cons.mpr ⟨⟨RX2, TX2, 6, "DictProof$Instance", rfl, in_X2, by decide, q180, Or.inl rfl⟩, List.forall_mem_cons.mpr ⟨⟨RX3, TX3, 6, "DictProof$Instance", rfl, in_X3, by decide, q180, Or.inl rfl⟩, List.forall_mem_cons.mpr ⟨⟨RX4, TX4, 6, "DictProof$Instance", rfl, in_X4, by decide, q180, Or.inl rfl⟩, List.forall_mem_cons.mpr ⟨⟨RX5, TX5, 6, "DictProof$Instance", rfl, in_X5, by decide, q180, Or.inl rfl⟩, fun _ h => absurd h List.not_mem_nil⟩⟩⟩⟩⟩
theorem fG_X0_114 : FldG RX0 114 [(0, 4)] := List.forall_mem_cons.mpr ⟨⟨RX0, TX0, 36, "DictProof", rfl, in_X0, by decide, q285, Or.inl rfl⟩, fun _ h => absurd h List.not_mem_nil⟩
theorem fG_X0_257 : FldG RX0 257 [(1, 3), (2, 3), (3, 3), (4, 3), (5, 3)] := List.forall_mem_cons.mpr ⟨⟨RX1, TX1, 6, "DictProof$Instance", rfl, in_X1, by decide, q175, Or.inl rfl⟩, List.forall_mem_cons.mpr ⟨⟨RX2, TX2, 6, "DictProof$Instance", rfl, in_X2, by decide, q175, Or.inl rfl⟩, List.forall_mem_cons.mpr ⟨⟨RX3, TX3, 6, "DictProof$Instance", rfl, in_X3, by decide, q175, Or.inl rfl⟩, List.forall_mem_cons.mpr ⟨⟨RX4, TX4, 6, "DictProof$Instance", rfl, in_X4, by decide, q175, Or.inl rfl⟩, List.forall_mem_cons.mpr ⟨⟨RX5, TX5, 6, "DictProof$Instance", rfl, in_X5, by decide, q175, Or.inl rfl⟩, fun _ h => absurd h List.not_mem_nil⟩⟩⟩⟩⟩
theorem fG_X0_260 : FldG RX0 260 [(1, 4), (2, 4), (3, 4), (4, 4), (5, 4)] := List.forall_mem_cons.mpr ⟨⟨RX1, TX1, 6, "DictProof$Instance", rfl, in_X1, by decide, q177, Or.inl rfl⟩, List.forall_mem_cons.mpr ⟨⟨RX2, TX2, 6, "DictProof$Instance", rfl, in_X2, by decide, q177, Or.inl rfl⟩, List.forall_mem_cons.mpr ⟨⟨RX3, TX3, 6, "DictProof$Instance", rfl, in_X3, by decide, q177, Or.inl rfl⟩, List.forall_mem_cons.mpr ⟨⟨RX4, TX4, 6, "DictProof$Instance", rfl, in_X4, by decide, q177, Or.inl rfl⟩, List.forall_mem_cons.mpr ⟨⟨RX5, TX5, 6, "DictProof$Instance", rfl, in_X5, by decide, q177, Or.inl rfl⟩, fun _ h => absurd h List.not_mem_nil⟩⟩⟩⟩⟩
def fX0_layInstance_b78 (K78 : Sg → hS → Int → Option Nat → Int → Option (Sg × hS)) (s : Sg) (h : hS) (a1 : Int) (o3 : Option Nat) (a4 : Int) : Option (Sg × hS) := bd (hI h o3 [(1, 5), (2, 5), (3, 5), (4, 5), (5, 5)]) fun v1 => if v1 ≤ a4 then gd (inb a1 6) (gd (o3 = none ∨ inC h o3 [1, 2, 3, 4, 5] = true) (some (sQ s 4 a1 o3, h))) else bd (hQ h o3 [(1, 3), (2, 3), (3, 3), (4, 3), (5, 3)]) fun v7 => gd (inb (wr ((gI s 19) + (wr (2 * a4)))) 84) (bd (aWI h v7 0 a4 (wr ((gA s 8 (wr ((gI s 19) + (wr (2 * a4))))) - 48))) fun h10 => bd (hQ h10 o3 [(1, 4), (2, 4), (3, 4), (4, 4), (5, 4)]) fun v13 => gd (inb (wr ((wr ((gI s 19) + (wr (2 * a4)))) + 1)) 84) (bd (aWI h10 v13 0 a4 (wr ((gA s 8 (wr ((wr ((gI s 19) + (wr (2 * a4)))) + 1))) - 120))) fun h16 => K78 s h16 a1 o3 (wr (a4 + 1))))
theorem wX0_layInstance_b78 {N : Nx} {b : Nat} {ad : Nat → Nat} {s' : Sg} {h' : hS} (E : EndX N [(0, b, ad)] 5 none none [s'] h') (K78 : Sg → hS → Int → Option Nat → Int → Option (Sg × hS)) (hK78 : ∀ (s : Sg) (h : hS) (a1 : Int) (o3 : Option Nat) (a4 : Int) (ha1 : rI a1) (ha4 : rI a4), K78 s h a1 o3 a4 = some (s', h') → AtPc cX0_layInstance RX0 19 434 N [s] h 78 [(0, tr (some b)), (1, ti a1), (3, tr o3), (4, ti a4)] []) (s : Sg) (h : hS) (a1 : Int) (o3 : Option Nat) (a4 : Int) (ha1 : rI a1) (ha4 : rI a4) (e : fX0_layInstance_b78 K78 s h a1 o3 a4 = some (s', h')) : AtPc cX0_layInstance RX0 19 434 N [s] h 78 [(0, tr (some b)), (1, ti a1), (3, tr o3), (4, ti a4)] [] := by
  unfold fX0_layInstance_b78 at e
  refine r_rrs E.p (fun rr => ?_)
  refine r_iload dX0_layInstance_78 3 rfl ?_
  refine r_aload_n dX0_layInstance_80 rfl 2 rfl ?_
  obtain ⟨v1, q2, e⟩ := bd_o e
  refine r_getI fG_X0_254 q2 dX0_layInstance_81 ?_
  have eT := (r_ifo e).1
  have eF := (r_ifo e).2
  refine r_icmp_ge ha4 (hI_r rr q2) 143 dX0_layInstance_84 (by decide) (fun c3 => ?_) (fun c3 => ?_)
  · have e := eT c3
    refine r_aload_n dX0_layInstance_143 rfl 0 rfl ?_
    refine r_sR E.p 4 fG_X0_114 (by decide) dX0_layInstance_144 ?_
    refine r_iload_n dX0_layInstance_147 rfl 1 rfl ?_
    refine r_aload_n dX0_layInstance_148 rfl 2 rfl ?_
    obtain ⟨g4, e⟩ := gd_o e
    obtain ⟨g5, e⟩ := gd_o e
    refine r_saPQ (P := [1, 2, 3, 4, 5]) E.p 4 rfl (by decide) (by decide) (by decide) sto_3 ha1 g4 (inC_p g5) dX0_layInstance_149 ?_
    refine r_rrs E.p (fun rr6 => ?_)
    cases e
    exact r_vret E.σ E.st E.rt E.r dX0_layInstance_150
  · have e := eF c3
    refine r_aload_n dX0_layInstance_87 rfl 2 rfl ?_
    obtain ⟨v7, q8, e⟩ := bd_o e
    refine r_getQ fG_X0_257 q8 dX0_layInstance_88 ?_
    refine r_iload dX0_layInstance_91 3 rfl ?_
    refine r_aload_n dX0_layInstance_93 rfl 0 rfl ?_
    refine r_sR E.p 8 fG_X0_121 (by decide) dX0_layInstance_94 ?_
    refine r_aload_n dX0_layInstance_97 rfl 0 rfl ?_
    refine r_sI E.p 19 fG_X0_228 (by decide) dX0_layInstance_98 ?_
    refine r_iconst dX0_layInstance_101 ?_
    refine r_iload dX0_layInstance_102 3 rfl ?_
    refine r_imul dX0_layInstance_104 ?_
    refine r_iadd dX0_layInstance_105 ?_
    obtain ⟨g9, e⟩ := gd_o e
    refine r_saI E.p 8 rfl (by decide) (by decide) (wr_r _) g9 rfl dX0_layInstance_106 ?_
    refine r_bipush dX0_layInstance_107 (by decide) ?_
    refine r_isub dX0_layInstance_109 ?_
    obtain ⟨h10, q11, e⟩ := bd_o e
    refine r_aPI (t := 0) ha4 (wr_r _) q11 rfl (by decide) dX0_layInstance_110 ?_
    refine r_rrs E.p (fun rr12 => ?_)
    refine r_aload_n dX0_layInstance_111 rfl 2 rfl ?_
    obtain ⟨v13, q14, e⟩ := bd_o e
    refine r_getQ fG_X0_260 q14 dX0_layInstance_112 ?_
    refine r_iload dX0_layInstance_115 3 rfl ?_
    refine r_aload_n dX0_layInstance_117 rfl 0 rfl ?_
    refine r_sR E.p 8 fG_X0_121 (by decide) dX0_layInstance_118 ?_
    refine r_aload_n dX0_layInstance_121 rfl 0 rfl ?_
    refine r_sI E.p 19 fG_X0_228 (by decide) dX0_layInstance_122 ?_
    refine r_iconst dX0_layInstance_125 ?_
    refine r_iload dX0_layInstance_126 3 rfl ?_
    refine r_imul dX0_layInstance_128 ?_
    refine r_iadd dX0_layInstance_129 ?_
    refine r_iconst dX0_layInstance_130 ?_
    refine r_iadd dX0_layInstance_131 ?_
    obtain ⟨g15, e⟩ := gd_o e
    refine r_saI E.p 8 rfl (by decide) (by decide) (wr_r _) g15 rfl dX0_layInstance_132 ?_
    refine r_bipush dX0_layInstance_133 (by decide) ?_
    refine r_isub dX0_layInstance_135 ?_
    obtain ⟨h16, q17, e⟩ := bd_o e
    refine r_aPI (t := 0) ha4 (wr_r _) q17 rfl (by decide) dX0_layInstance_136 ?_
    refine r_rrs E.p (fun rr18 => ?_)
    refine r_iinc (lv' := [(4, ti (wr (a4 + 1))), (0, tr (some b)), (1, ti a1), (3, tr o3)]) dX0_layInstance_137 3 rfl (E.lt (by decide)) rfl ?_
    refine r_goto 78 dX0_layInstance_140 (by decide) ?_
    refine r_sub [1, 2, 3, 0] rfl ?_
    exact hK78 s h16 a1 o3 (wr (a4 + 1)) ha1 (wr_r _) e
def fX0_layInstance_L78  : Nat → Sg → hS → Int → Option Nat → Int → Option (Sg × hS)
  | 0, _, _, _, _, _ => none
  | n9 + 1, s, h, a1, o3, a4 => fX0_layInstance_b78 (fX0_layInstance_L78 n9) s h a1 o3 a4
theorem wX0_layInstance_L78 {N : Nx} {b : Nat} {ad : Nat → Nat} {s' : Sg} {h' : hS} (E : EndX N [(0, b, ad)] 5 none none [s'] h')  : ∀ (n9 : Nat), ∀ (s : Sg) (h : hS) (a1 : Int) (o3 : Option Nat) (a4 : Int) (ha1 : rI a1) (ha4 : rI a4), fX0_layInstance_L78 n9 s h a1 o3 a4 = some (s', h') → AtPc cX0_layInstance RX0 19 434 N [s] h 78 [(0, tr (some b)), (1, ti a1), (3, tr o3), (4, ti a4)] [] := by
  intro n9
  induction n9 with
  | zero => intro s h a1 o3 a4 ha1 ha4 e; cases e
  | succ n9 ih => intro s h a1 o3 a4 ha1 ha4 e; exact wX0_layInstance_b78 E _ ih s h a1 o3 a4 ha1 ha4 e
def fX0_layInstance  (s : Sg) (h : hS) (a1 : Int) (a2 : Int) : Option (Sg × hS) := gd (inb a1 6) (gd (inb (gA s 18 a1) 84) (bd (fX0_kindOf (gA s 8 (gA s 18 a1))) fun p3 => bd (fX0_made h p3) fun p7 => bd (hW p7.2 p7.1 [(1, 0), (2, 0), (3, 0), (4, 0), (5, 0)] (vi a1)) fun h12 => gd (inb a1 6) (gd (inb (wr ((gA s 18 a1) + 1)) 84) (bd (hW h12 p7.1 [(1, 1), (2, 1), (3, 1), (4, 1), (5, 1)] (vi (wr ((gA s 8 (wr ((gA s 18 a1) + 1))) - 48)))) fun h17 => gd (inb a1 6) (bd (fX0_read 16 (sI s 19 (wr ((gA s 18 a1) + 2))) h17) fun p22 => bd (hW p22.2.2 p7.1 [(1, 2), (2, 2), (3, 2), (4, 2), (5, 2)] (vq p22.1)) fun h27 => bd (hW h27 p7.1 [(1, 5), (2, 5), (3, 5), (4, 5), (5, 5)] (vi (idv (wr (a2 - (gI p22.2.1 19))) 2))) fun h30 => fX0_layInstance_L78 FU p22.2.1 h30 a1 p7.1 0)))))
theorem kX0_layInstance {G : Gx}  {b : Nat} {ad : Nat → Nat} {s' : Sg} {h' : hS} {s : Sg} {h : hS} {a1 : Int} {a2 : Int}  (ha1 : rI a1) (ha2 : rI a2) (e : fX0_layInstance s h a1 a2 = some (s', h')) : CtX G yX0_layInstance cX0_layInstance 5 none 19 434 [(0, b, ad)] [s] h [tr (some b), ti a1, ti a2] none [s'] h' := by
  refine CtX.of (by decide) (Nat.le_of_ble_eq_true rfl) [(0, tr (some b)), (1, ti a1), (2, ti a2)] rfl ?_
  have E : EndX (G, 5, [(0, b, ad)], h, [s'], h', none, none, yX0_layInstance.name) [(0, b, ad)] 5 none none [s'] h' := ⟨rfl, rfl, rfl, rfl, rfl, rfl⟩
  unfold fX0_layInstance at e
  refine r_rrs E.p (fun rr => ?_)
  refine r_aload_n dX0_layInstance_0 rfl 0 rfl ?_
  refine r_sR E.p 8 fG_X0_121 (by decide) dX0_layInstance_1 ?_
  refine r_aload_n dX0_layInstance_4 rfl 0 rfl ?_
  refine r_sR E.p 18 fG_X0_124 (by decide) dX0_layInstance_5 ?_
  refine r_iload_n dX0_layInstance_8 rfl 1 rfl ?_
  obtain ⟨g1, e⟩ := gd_o e
  refine r_saI E.p 18 rfl (by decide) (by decide) ha1 g1 rfl dX0_layInstance_9 ?_
  obtain ⟨g2, e⟩ := gd_o e
  refine r_saI E.p 8 rfl (by decide) (by decide) (((rr.mine rfl).a 18 (by decide) rfl).1 _) g2 rfl dX0_layInstance_10 ?_
  obtain ⟨p3, q4, e⟩ := bd_o e
  have k5 := kX0_kindOf (G := G) (h := h) (((rr.mine rfl).a 8 (by decide) rfl).1 _) q4
  have z6 := (k5 rr.none).1.2.2.2
  refine r_callS (j := none) 1 [ti (gA s 8 (gA s 18 a1))] k5 (injO_1 E.p) subO_0 getO_0 setO_0 (lw_S q421 q422 q115 q423) (by decide +kernel) rfl (Nat.le_of_ble_eq_true rfl) (Nat.le_of_ble_eq_true rfl) rfl (Nat.le_of_ble_eq_true rfl) dX0_layInstance_11 rfl ?_
  obtain ⟨p7, q8, e⟩ := bd_o e
  have k9 := kX0_made (G := G) z6 q8
  have z10 := (k9 rr.none).1.2.2.2
  refine r_callS (j := none) 1 [ti p3] k9 (injO_1 E.p) subO_0 getO_0 setO_0 (lw_S q457 q458 q115 q459) (by decide +kernel) rfl (Nat.le_of_ble_eq_true rfl) (Nat.le_of_ble_eq_true rfl) rfl (Nat.le_of_ble_eq_true rfl) dX0_layInstance_14 rfl ?_
  refine r_rrs E.p (fun rr11 => ?_)
  refine r_astore_n (lv' := [(3, tr p7.1), (0, tr (some b)), (1, ti a1), (2, ti a2)]) dX0_layInstance_17 rfl (E.lt (by decide)) rfl ?_
  refine r_aload_n dX0_layInstance_18 rfl 0 rfl ?_
  refine r_iload_n dX0_layInstance_19 rfl 2 rfl ?_
  obtain ⟨h12, q13, e⟩ := bd_o e
  refine r_put (v := vi a1) fP_X0_245 (by first | exact fun q => absurd q (by decide) | exact fun _ => rfl) ha1 q13 dX0_layInstance_20 ?_
  refine r_rrs E.p (fun rr14 => ?_)
  refine r_aload_n dX0_layInstance_23 rfl 0 rfl ?_
  refine r_aload_n dX0_layInstance_24 rfl 1 rfl ?_
  refine r_sR E.p 8 fG_X0_121 (by decide) dX0_layInstance_25 ?_
  refine r_aload_n dX0_layInstance_28 rfl 1 rfl ?_
  refine r_sR E.p 18 fG_X0_124 (by decide) dX0_layInstance_29 ?_
  refine r_iload_n dX0_layInstance_32 rfl 2 rfl ?_
  obtain ⟨g15, e⟩ := gd_o e
  refine r_saI E.p 18 rfl (by decide) (by decide) ha1 g15 rfl dX0_layInstance_33 ?_
  refine r_iconst dX0_layInstance_34 ?_
  refine r_iadd dX0_layInstance_35 ?_
  obtain ⟨g16, e⟩ := gd_o e
  refine r_saI E.p 8 rfl (by decide) (by decide) (wr_r _) g16 rfl dX0_layInstance_36 ?_
  refine r_bipush dX0_layInstance_37 (by decide) ?_
  refine r_isub dX0_layInstance_39 ?_
  obtain ⟨h17, q18, e⟩ := bd_o e
  refine r_put (v := vi (wr ((gA s 8 (wr ((gA s 18 a1) + 1))) - 48))) fP_X0_248 (by first | exact fun q => absurd q (by decide) | exact fun _ => rfl) (wr_r _) q18 dX0_layInstance_40 ?_
  refine r_rrs E.p (fun rr19 => ?_)
  refine r_aload_n dX0_layInstance_43 rfl 1 rfl ?_
  refine r_aload_n dX0_layInstance_44 rfl 1 rfl ?_
  refine r_sR E.p 18 fG_X0_124 (by decide) dX0_layInstance_45 ?_
  refine r_iload_n dX0_layInstance_48 rfl 2 rfl ?_
  obtain ⟨g20, e⟩ := gd_o e
  refine r_saI E.p 18 rfl (by decide) (by decide) ha1 g20 rfl dX0_layInstance_49 ?_
  refine r_iconst dX0_layInstance_50 ?_
  refine r_iadd dX0_layInstance_51 ?_
  refine r_sPI E.p 19 fP_X0_228 rfl (wr_r _) dX0_layInstance_52 ?_
  refine r_rrs E.p (fun rr21 => ?_)
  refine r_aload_n dX0_layInstance_55 rfl 0 rfl ?_
  refine r_aload_n dX0_layInstance_56 rfl 1 rfl ?_
  obtain ⟨p22, q23, e⟩ := bd_o e
  have k24 := kX0_read (G := G) 16 (b := b) (ad := ad)  q23
  have z25 := (k24 rr21).1.2.2.2
  refine r_callV (j := some 0) 0 [] (rec_sg (j := 0) (r := (RX0, TX0, 36)) rfl (by rw [E.p]; rfl)) rfl k24 (injO_1 E.p) (subO_1 E.p) getO_1 setO_1 (lw_V q460 q462 qs7 q115 q463) (by decide +kernel) rfl (Nat.le_of_ble_eq_true rfl) (Nat.le_of_ble_eq_true rfl) rfl (Nat.le_of_ble_eq_true rfl) dX0_layInstance_57 rfl ?_
  refine r_rrs E.p (fun rr26 => ?_)
  obtain ⟨h27, q28, e⟩ := bd_o e
  refine r_put (v := vq p22.1) fP_X0_251 (by first | exact fun q => absurd q (by decide) | exact fun _ => rfl) trivial q28 dX0_layInstance_60 ?_
  refine r_rrs E.p (fun rr29 => ?_)
  refine r_aload_n dX0_layInstance_63 rfl 0 rfl ?_
  refine r_iload_n dX0_layInstance_64 rfl 3 rfl ?_
  refine r_aload_n dX0_layInstance_65 rfl 1 rfl ?_
  refine r_sI E.p 19 fG_X0_228 (by decide) dX0_layInstance_66 ?_
  refine r_isub dX0_layInstance_69 ?_
  refine r_iconst dX0_layInstance_70 ?_
  refine r_idiv (by decide) (by decide) dX0_layInstance_71 ?_
  obtain ⟨h30, q31, e⟩ := bd_o e
  refine r_put (v := vi (idv (wr (a2 - (gI p22.2.1 19))) 2)) fP_X0_254 (by first | exact fun q => absurd q (by decide) | exact fun _ => rfl) (idv_r _ _) q31 dX0_layInstance_72 ?_
  refine r_rrs E.p (fun rr32 => ?_)
  refine r_iconst dX0_layInstance_75 ?_
  refine r_istore (lv' := [(4, ti 0), (3, tr p7.1), (0, tr (some b)), (1, ti a1), (2, ti a2)]) dX0_layInstance_76 (E.lt (by decide)) rfl ?_
  refine r_sub [2, 3, 1, 0] rfl ?_
  exact wX0_layInstance_L78 E FU p22.2.1 h30 a1 p7.1 0 ha1 (by decide) e
