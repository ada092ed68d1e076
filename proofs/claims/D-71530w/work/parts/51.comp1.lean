/-! the class with what it needs: functions and walks, printed by gen/run0.py -/
set_option maxRecDepth 100000
def fJ6_balanceInsertion_b217 (K5 : hS → Option Nat → Option Nat → Option (Option Nat × hS)) (h : hS) (o0 : Option Nat) (o1 : Option Nat) (o2 : Option Nat) (k0 : Option Nat) : Option (Option Nat × hS) := fJ6_balanceInsertion_b218 K5 h o0 o1 o2 k0
theorem wJ6_balanceInsertion_b217 {N : Nx} {h' : hS} {r : Option Nat} (E : EndX N [] 6 (some (.object "java/util/HashMap$TreeNode")) (some (tr r)) [] h') (K5 : hS → Option Nat → Option Nat → Option (Option Nat × hS)) (hK5 : ∀ (h : hS) (o0 : Option Nat) (o1 : Option Nat), K5 h o0 o1 = some (r, h') → AtPc cJ6_balanceInsertion RJ6 1 24 N [] h 5 [(0, tr o0), (1, tr o1)] []) (h : hS) (o0 : Option Nat) (o1 : Option Nat) (o2 : Option Nat) (k0 : Option Nat) (e : fJ6_balanceInsertion_b217 K5 h o0 o1 o2 k0 = some (r, h')) : AtPc cJ6_balanceInsertion RJ6 1 24 N [] h 217 [(0, tr o0), (1, tr o1), (2, tr o2)] [tr k0] := by
  unfold fJ6_balanceInsertion_b217 at e
  refine r_rrs E.p (fun rr => ?_)
  refine r_astore_n (lv' := [(3, tr k0), (0, tr o0), (1, tr o1), (2, tr o2)]) dJ6_balanceInsertion_217 rfl (E.lt (by decide)) rfl ?_
  refine r_sub [1, 2, 3, 0] rfl ?_
  exact wJ6_balanceInsertion_b218 E K5 hK5 h o0 o1 o2 k0 e
def fJ6_balanceInsertion_b184 (K5 : hS → Option Nat → Option Nat → Option (Option Nat × hS)) (h : hS) (o0 : Option Nat) (o1 : Option Nat) (o2 : Option Nat) (o3 : Option Nat) : Option (Option Nat × hS) := bd (hQ h o2 [(13, 7)]) fun v1 => if ¬ o1 = v1 then fJ6_balanceInsertion_b218 K5 h o0 o1 o2 o3 else bd (fJ6_rotateRight h o0 o2) fun p4 => bd (hQ p4.2 o2 [(13, 6)]) fun v9 => ifN v9 (fJ6_balanceInsertion_b217 K5 p4.2 p4.1 o2 v9 none) (fun _ => bd (hQ p4.2 v9 [(13, 6)]) fun v13 => fJ6_balanceInsertion_b217 K5 p4.2 p4.1 o2 v9 v13)
theorem wJ6_balanceInsertion_b184 {N : Nx} {h' : hS} {r : Option Nat} (E : EndX N [] 6 (some (.object "java/util/HashMap$TreeNode")) (some (tr r)) [] h') (K5 : hS → Option Nat → Option Nat → Option (Option Nat × hS)) (hK5 : ∀ (h : hS) (o0 : Option Nat) (o1 : Option Nat), K5 h o0 o1 = some (r, h') → AtPc cJ6_balanceInsertion RJ6 1 24 N [] h 5 [(0, tr o0), (1, tr o1)] []) (h : hS) (o0 : Option Nat) (o1 : Option Nat) (o2 : Option Nat) (o3 : Option Nat) (e : fJ6_balanceInsertion_b184 K5 h o0 o1 o2 o3 = some (r, h')) : AtPc cJ6_balanceInsertion RJ6 1 24 N [] h 184 [(0, tr o0), (1, tr o1), (2, tr o2), (3, tr o3)] [] := by
  unfold fJ6_balanceInsertion_b184 at e
  refine r_rrs E.p (fun rr => ?_)
  refine r_aload_n dJ6_balanceInsertion_184 rfl 1 rfl ?_
  refine r_aload_n dJ6_balanceInsertion_185 rfl 2 rfl ?_
  obtain ⟨v1, q2, e⟩ := bd_o e
  refine r_getQ fG_J6_39 q2 dJ6_balanceInsertion_186 ?_
  have eT := (r_ifo e).1
  have eF := (r_ifo e).2
  refine r_acmp_ne 218 dJ6_balanceInsertion_189 (by decide) (fun c3 => ?_) (fun c3 => ?_)
  · have e := eT c3
    exact wJ6_balanceInsertion_b218 E K5 hK5 h o0 o1 o2 o3 e
  · have e := eF c3
    refine r_aload_n dJ6_balanceInsertion_192 rfl 0 rfl ?_
    refine r_aload_n dJ6_balanceInsertion_193 rfl 2 rfl ?_
    refine r_dup dJ6_balanceInsertion_194 rfl ?_
    refine r_astore_n (lv' := [(1, tr o2), (0, tr o0), (2, tr o2), (3, tr o3)]) dJ6_balanceInsertion_195 rfl (E.lt (by decide)) rfl ?_
    obtain ⟨p4, q5, e⟩ := bd_o e
    have k6 := kJ6_rotateRight (G := nG N)  q5
    have z7 := (k6 rr).1.2.2.2
    refine r_callS (j := none) 2 [tr o0, tr o2] k6 (injO_0 E.p) subO_0 getO_0 setO_0 (lw_S q750 q751 q131 q752) (by decide +kernel) rfl (Nat.le_of_ble_eq_true rfl) (Nat.le_of_ble_eq_true rfl) rfl (Nat.le_of_ble_eq_true rfl) dJ6_balanceInsertion_196 rfl ?_
    refine r_rrs E.p (fun rr8 => ?_)
    refine r_astore_n (lv' := [(0, tr p4.1), (1, tr o2), (2, tr o2), (3, tr o3)]) dJ6_balanceInsertion_199 rfl (E.lt (by decide)) rfl ?_
    refine r_aload_n dJ6_balanceInsertion_200 rfl 1 rfl ?_
    obtain ⟨v9, q10, e⟩ := bd_o e
    refine r_getQ fG_J6_9 q10 dJ6_balanceInsertion_201 ?_
    refine r_dup dJ6_balanceInsertion_204 rfl ?_
    refine r_astore_n (lv' := [(2, tr v9), (0, tr p4.1), (1, tr o2), (3, tr o3)]) dJ6_balanceInsertion_205 rfl (E.lt (by decide)) rfl ?_
    have eT := (r_ifno e).1
    have eF := (r_ifno e).2
    refine r_ifnonnull 213 dJ6_balanceInsertion_206 (by decide) (fun c11 => ?_) (fun x12 c11 => ?_)
    · have e := eT c11
      refine r_null dJ6_balanceInsertion_209 ?_
      refine r_goto 217 dJ6_balanceInsertion_210 (by decide) ?_
      refine r_sub [1, 2, 0] rfl ?_
      exact wJ6_balanceInsertion_b217 E K5 hK5 p4.2 p4.1 o2 v9 none e
    · have e := eF x12 c11
      refine r_aload_n dJ6_balanceInsertion_213 rfl 0 rfl ?_
      obtain ⟨v13, q14, e⟩ := bd_o e
      refine r_getQ fG_J6_9 q14 dJ6_balanceInsertion_214 ?_
      refine r_sub [1, 2, 0] rfl ?_
      exact wJ6_balanceInsertion_b217 E K5 hK5 p4.2 p4.1 o2 v9 v13 e
def fJ6_balanceInsertion_b5 (K5 : hS → Option Nat → Option Nat → Option (Option Nat × hS)) (h : hS) (o0 : Option Nat) (o1 : Option Nat) : Option (Option Nat × hS) := bd (hQ h o1 [(13, 6)]) fun v1 => ifN v1 (bd (hW h o1 [(13, 10)] (vi 0)) fun h5 => some (o1, h5)) (fun _ => bd (hI h v1 [(13, 10)]) fun v8 => if v8 = 0 then fJ6_balanceInsertion_b37 h o0 else bd (hQ h v1 [(13, 6)]) fun v11 => ifN v11 (fJ6_balanceInsertion_b37 h o0) (fun _ => bd (hQ h v11 [(13, 7)]) fun v15 => if ¬ v1 = v15 then ifN v15 (fJ6_balanceInsertion_b184 K5 h o0 o1 v1 v11) (fun _ => bd (hI h v15 [(13, 10)]) fun v20 => if v20 = 0 then fJ6_balanceInsertion_b184 K5 h o0 o1 v1 v11 else bd (hW h v15 [(13, 10)] (vi 0)) fun h23 => bd (hW h23 v1 [(13, 10)] (vi 0)) fun h26 => bd (hW h26 v11 [(13, 10)] (vi 1)) fun h29 => K5 h29 o0 v11) else bd (hQ h v11 [(13, 8)]) fun v32 => ifN v32 (fJ6_balanceInsertion_b89 K5 h o0 o1 v1 v11) (fun _ => bd (hI h v32 [(13, 10)]) fun v36 => if v36 = 0 then fJ6_balanceInsertion_b89 K5 h o0 o1 v1 v11 else bd (hW h v32 [(13, 10)] (vi 0)) fun h39 => bd (hW h39 v1 [(13, 10)] (vi 0)) fun h42 => bd (hW h42 v11 [(13, 10)] (vi 1)) fun h45 => K5 h45 o0 v11)))
theorem wJ6_balanceInsertion_b5 {N : Nx} {h' : hS} {r : Option Nat} (E : EndX N [] 6 (some (.object "java/util/HashMap$TreeNode")) (some (tr r)) [] h') (K5 : hS → Option Nat → Option Nat → Option (Option Nat × hS)) (hK5 : ∀ (h : hS) (o0 : Option Nat) (o1 : Option Nat), K5 h o0 o1 = some (r, h') → AtPc cJ6_balanceInsertion RJ6 1 24 N [] h 5 [(0, tr o0), (1, tr o1)] []) (h : hS) (o0 : Option Nat) (o1 : Option Nat) (e : fJ6_balanceInsertion_b5 K5 h o0 o1 = some (r, h')) : AtPc cJ6_balanceInsertion RJ6 1 24 N [] h 5 [(0, tr o0), (1, tr o1)] [] := by
  unfold fJ6_balanceInsertion_b5 at e
  refine r_rrs E.p (fun rr => ?_)
  refine r_aload_n dJ6_balanceInsertion_5 rfl 1 rfl ?_
  obtain ⟨v1, q2, e⟩ := bd_o e
  refine r_getQ fG_J6_9 q2 dJ6_balanceInsertion_6 ?_
  refine r_dup dJ6_balanceInsertion_9 rfl ?_
  refine r_astore_n (lv' := [(2, tr v1), (0, tr o0), (1, tr o1)]) dJ6_balanceInsertion_10 rfl (E.lt (by decide)) rfl ?_
  have eT := (r_ifno e).1
  have eF := (r_ifno e).2
  refine r_ifnonnull 21 dJ6_balanceInsertion_11 (by decide) (fun c3 => ?_) (fun x4 c3 => ?_)
  · have e := eT c3
    refine r_aload_n dJ6_balanceInsertion_14 rfl 2 rfl ?_
    refine r_iconst dJ6_balanceInsertion_15 ?_
    obtain ⟨h5, q6, e⟩ := bd_o e
    refine r_put (v := vi 0) fP_J6_93 (by first | exact fun q => absurd q (by decide) | exact fun _ => rfl) (Or.inl rfl) q6 dJ6_balanceInsertion_16 ?_
    refine r_rrs E.p (fun rr7 => ?_)
    refine r_aload_n dJ6_balanceInsertion_19 rfl 2 rfl ?_
    cases e
    exact r_aret E.σ E.st E.rt (by first | exact Or.inl ⟨_, rfl⟩ | exact Or.inr ⟨_, rfl⟩) E.r dJ6_balanceInsertion_20
  · have e := eF x4 c3
    refine r_aload_n dJ6_balanceInsertion_21 rfl 0 rfl ?_
    obtain ⟨v8, q9, e⟩ := bd_o e
    refine r_getI fG_J6_93 q9 dJ6_balanceInsertion_22 ?_
    have eT := (r_ifo e).1
    have eF := (r_ifo e).2
    refine r_if_eq (hI_r rr q9) 37 dJ6_balanceInsertion_25 (by decide) (fun c10 => ?_) (fun c10 => ?_)
    · have e := eT c10
      refine r_sub [1] rfl ?_
      exact wJ6_balanceInsertion_b37 E h o0 e
    · have e := eF c10
      refine r_aload_n dJ6_balanceInsertion_28 rfl 0 rfl ?_
      obtain ⟨v11, q12, e⟩ := bd_o e
      refine r_getQ fG_J6_9 q12 dJ6_balanceInsertion_29 ?_
      refine r_dup dJ6_balanceInsertion_32 rfl ?_
      refine r_astore_n (lv' := [(3, tr v11), (2, tr v1), (0, tr o0), (1, tr o1)]) dJ6_balanceInsertion_33 rfl (E.lt (by decide)) rfl ?_
      have eT := (r_ifno e).1
      have eF := (r_ifno e).2
      refine r_ifnonnull 39 dJ6_balanceInsertion_34 (by decide) (fun c13 => ?_) (fun x14 c13 => ?_)
      · have e := eT c13
        refine r_sub [2] rfl ?_
        exact wJ6_balanceInsertion_b37 E h o0 e
      · have e := eF x14 c13
        refine r_aload_n dJ6_balanceInsertion_39 rfl 1 rfl ?_
        refine r_aload_n dJ6_balanceInsertion_40 rfl 0 rfl ?_
        obtain ⟨v15, q16, e⟩ := bd_o e
        refine r_getQ fG_J6_39 q16 dJ6_balanceInsertion_41 ?_
        refine r_dup dJ6_balanceInsertion_44 rfl ?_
        refine r_astore (lv' := [(4, tr v15), (3, tr v11), (2, tr v1), (0, tr o0), (1, tr o1)]) dJ6_balanceInsertion_45 (E.lt (by decide)) rfl ?_
        have eT := (r_ifo e).1
        have eF := (r_ifo e).2
        refine r_acmp_ne 150 dJ6_balanceInsertion_47 (by decide) (fun c17 => ?_) (fun c17 => ?_)
        · have e := eT c17
          refine r_aload dJ6_balanceInsertion_150 0 rfl ?_
          have eT := (r_ifno e).1
          have eF := (r_ifno e).2
          refine r_ifnull 184 dJ6_balanceInsertion_152 (by decide) (fun c18 => ?_) (fun x19 c18 => ?_)
          · have e := eT c18
            refine r_sub [3, 4, 2, 1] rfl ?_
            exact wJ6_balanceInsertion_b184 E K5 hK5 h o0 o1 v1 v11 e
          · have e := eF x19 c18
            refine r_aload dJ6_balanceInsertion_155 0 rfl ?_
            obtain ⟨v20, q21, e⟩ := bd_o e
            refine r_getI fG_J6_93 q21 dJ6_balanceInsertion_157 ?_
            have eT := (r_ifo e).1
            have eF := (r_ifo e).2
            refine r_if_eq (hI_r rr q21) 184 dJ6_balanceInsertion_160 (by decide) (fun c22 => ?_) (fun c22 => ?_)
            · have e := eT c22
              refine r_sub [3, 4, 2, 1] rfl ?_
              exact wJ6_balanceInsertion_b184 E K5 hK5 h o0 o1 v1 v11 e
            · have e := eF c22
              refine r_aload dJ6_balanceInsertion_163 0 rfl ?_
              refine r_iconst dJ6_balanceInsertion_165 ?_
              obtain ⟨h23, q24, e⟩ := bd_o e
              refine r_put (v := vi 0) fP_J6_93 (by first | exact fun q => absurd q (by decide) | exact fun _ => rfl) (Or.inl rfl) q24 dJ6_balanceInsertion_166 ?_
              refine r_rrs E.p (fun rr25 => ?_)
              refine r_aload_n dJ6_balanceInsertion_169 rfl 2 rfl ?_
              refine r_iconst dJ6_balanceInsertion_170 ?_
              obtain ⟨h26, q27, e⟩ := bd_o e
              refine r_put (v := vi 0) fP_J6_93 (by first | exact fun q => absurd q (by decide) | exact fun _ => rfl) (Or.inl rfl) q27 dJ6_balanceInsertion_171 ?_
              refine r_rrs E.p (fun rr28 => ?_)
              refine r_aload_n dJ6_balanceInsertion_174 rfl 1 rfl ?_
              refine r_iconst dJ6_balanceInsertion_175 ?_
              obtain ⟨h29, q30, e⟩ := bd_o e
              refine r_put (v := vi 1) fP_J6_93 (by first | exact fun q => absurd q (by decide) | exact fun _ => rfl) (Or.inr rfl) q30 dJ6_balanceInsertion_176 ?_
              refine r_rrs E.p (fun rr31 => ?_)
              refine r_aload_n dJ6_balanceInsertion_179 rfl 1 rfl ?_
              refine r_astore_n (lv' := [(1, tr v11), (4, tr v15), (3, tr v11), (2, tr v1), (0, tr o0)]) dJ6_balanceInsertion_180 rfl (E.lt (by decide)) rfl ?_
              refine r_goto 5 dJ6_balanceInsertion_181 (by decide) ?_
              refine r_sub [4, 0] rfl ?_
              exact hK5 h29 o0 v11 e
        · have e := eF c17
          refine r_aload_n dJ6_balanceInsertion_50 rfl 1 rfl ?_
          obtain ⟨v32, q33, e⟩ := bd_o e
          refine r_getQ fG_J6_42 q33 dJ6_balanceInsertion_51 ?_
          refine r_dup dJ6_balanceInsertion_54 rfl ?_
          refine r_astore (lv' := [(5, tr v32), (4, tr v15), (3, tr v11), (2, tr v1), (0, tr o0), (1, tr o1)]) dJ6_balanceInsertion_55 (E.lt (by decide)) rfl ?_
          have eT := (r_ifno e).1
          have eF := (r_ifno e).2
          refine r_ifnull 89 dJ6_balanceInsertion_57 (by decide) (fun c34 => ?_) (fun x35 c34 => ?_)
          · have e := eT c34
            refine r_sub [4, 5, 3, 2] rfl ?_
            exact wJ6_balanceInsertion_b89 E K5 hK5 h o0 o1 v1 v11 e
          · have e := eF x35 c34
            refine r_aload dJ6_balanceInsertion_60 0 rfl ?_
            obtain ⟨v36, q37, e⟩ := bd_o e
            refine r_getI fG_J6_93 q37 dJ6_balanceInsertion_62 ?_
            have eT := (r_ifo e).1
            have eF := (r_ifo e).2
            refine r_if_eq (hI_r rr q37) 89 dJ6_balanceInsertion_65 (by decide) (fun c38 => ?_) (fun c38 => ?_)
            · have e := eT c38
              refine r_sub [4, 5, 3, 2] rfl ?_
              exact wJ6_balanceInsertion_b89 E K5 hK5 h o0 o1 v1 v11 e
            · have e := eF c38
              refine r_aload dJ6_balanceInsertion_68 0 rfl ?_
              refine r_iconst dJ6_balanceInsertion_70 ?_
              obtain ⟨h39, q40, e⟩ := bd_o e
              refine r_put (v := vi 0) fP_J6_93 (by first | exact fun q => absurd q (by decide) | exact fun _ => rfl) (Or.inl rfl) q40 dJ6_balanceInsertion_71 ?_
              refine r_rrs E.p (fun rr41 => ?_)
              refine r_aload_n dJ6_balanceInsertion_74 rfl 3 rfl ?_
              refine r_iconst dJ6_balanceInsertion_75 ?_
              obtain ⟨h42, q43, e⟩ := bd_o e
              refine r_put (v := vi 0) fP_J6_93 (by first | exact fun q => absurd q (by decide) | exact fun _ => rfl) (Or.inl rfl) q43 dJ6_balanceInsertion_76 ?_
              refine r_rrs E.p (fun rr44 => ?_)
              refine r_aload_n dJ6_balanceInsertion_79 rfl 2 rfl ?_
              refine r_iconst dJ6_balanceInsertion_80 ?_
              obtain ⟨h45, q46, e⟩ := bd_o e
              refine r_put (v := vi 1) fP_J6_93 (by first | exact fun q => absurd q (by decide) | exact fun _ => rfl) (Or.inr rfl) q46 dJ6_balanceInsertion_81 ?_
              refine r_rrs E.p (fun rr47 => ?_)
              refine r_aload_n dJ6_balanceInsertion_84 rfl 2 rfl ?_
              refine r_astore_n (lv' := [(1, tr v11), (5, tr v32), (4, tr v15), (3, tr v11), (2, tr v1), (0, tr o0)]) dJ6_balanceInsertion_85 rfl (E.lt (by decide)) rfl ?_
              refine r_goto 5 dJ6_balanceInsertion_86 (by decide) ?_
              refine r_sub [5, 0] rfl ?_
              exact hK5 h45 o0 v11 e
def fJ6_balanceInsertion_L5  : Nat → hS → Option Nat → Option Nat → Option (Option Nat × hS)
  | 0, _, _, _ => none
  | n9 + 1, h, o0, o1 => fJ6_balanceInsertion_b5 (fJ6_balanceInsertion_L5 n9) h o0 o1
theorem wJ6_balanceInsertion_L5 {N : Nx} {h' : hS} {r : Option Nat} (E : EndX N [] 6 (some (.object "java/util/HashMap$TreeNode")) (some (tr r)) [] h')  : ∀ (n9 : Nat), ∀ (h : hS) (o0 : Option Nat) (o1 : Option Nat), fJ6_balanceInsertion_L5 n9 h o0 o1 = some (r, h') → AtPc cJ6_balanceInsertion RJ6 1 24 N [] h 5 [(0, tr o0), (1, tr o1)] [] := by
  intro n9
  induction n9 with
  | zero => intro h o0 o1 e; cases e
  | succ n9 ih => intro h o0 o1 e; exact wJ6_balanceInsertion_b5 E _ ih h o0 o1 e
def fJ6_balanceInsertion  (h : hS) (o0 : Option Nat) (o1 : Option Nat) : Option (Option Nat × hS) := bd (hW h o1 [(13, 10)] (vi 1)) fun h1 => fJ6_balanceInsertion_L5 FU h1 o0 o1
theorem kJ6_balanceInsertion {G : Gx}  {h' : hS} {r : Option Nat} {h : hS} {o0 : Option Nat} {o1 : Option Nat}   (e : fJ6_balanceInsertion h o0 o1 = some (r, h')) : CtX G yJ6_balanceInsertion cJ6_balanceInsertion 6 (some (.object "java/util/HashMap$TreeNode")) 1 24 [] [] h [tr o0, tr o1] (some (tr r)) [] h' := by
  refine CtX.of (by decide) (Nat.le_of_ble_eq_true rfl) [(0, tr o0), (1, tr o1)] rfl ?_
  have E : EndX (G, 6, [], h, [], h', (some (.object "java/util/HashMap$TreeNode")), (some (tr r)), yJ6_balanceInsertion.name) [] 6 (some (.object "java/util/HashMap$TreeNode")) (some (tr r)) [] h' := ⟨rfl, rfl, rfl, rfl, rfl, rfl⟩
  unfold fJ6_balanceInsertion at e
  refine r_rrs E.p (fun rr => ?_)
  refine r_aload_n dJ6_balanceInsertion_0 rfl 1 rfl ?_
  refine r_iconst dJ6_balanceInsertion_1 ?_
  obtain ⟨h1, q2, e⟩ := bd_o e
  refine r_put (v := vi 1) fP_J6_93 (by first | exact fun q => absurd q (by decide) | exact fun _ => rfl) (Or.inr rfl) q2 dJ6_balanceInsertion_2 ?_
  refine r_rrs E.p (fun rr3 => ?_)
  exact wJ6_balanceInsertion_L5 E FU h1 o0 o1 e
theorem fG_J6_19 : FldG RJ6 19 [(13, 9)] := List.forall_mem_cons.mpr ⟨⟨RJ6, TJ6, 11, "java/util/HashMap$TreeNode", rfl, in_J6, by decide, q781, Or.inl rfl⟩, fun _ h => absurd h List.not_mem_nil⟩
theorem fG_J6_22 : FldG RJ6 22 [(13, 5)] := List.forall_mem_cons.mpr ⟨⟨RJ6, TJ6, 11, "java/util/HashMap$TreeNode", rfl, in_J6, by decide, q726, Or.inr q727⟩, fun _ h => absurd h List.not_mem_nil⟩
theorem fP_J6_19 : FldP RJ6 19 [(13, 9)] (.object "java/util/HashMap$TreeNode") false := List.forall_mem_cons.mpr ⟨⟨RJ6, TJ6, 11, "java/util/HashMap$TreeNode", tyJ6, rfl, in_J6, by decide, q781, Or.inl rfl, tyJ6_ok, nmJ6, rfl, Or.inl rfl, by decide⟩, fun _ h => absurd h List.not_mem_nil⟩
theorem fP_J6_22 : FldP RJ6 22 [(13, 5)] (.object "java/util/HashMap$Node") false := List.forall_mem_cons.mpr ⟨⟨RJ6, TJ6, 11, "java/util/HashMap$TreeNode", tyJ6, rfl, in_J6, by decide, q726, Or.inr q727, tyJ6_ok, nmJ6, rfl, Or.inl rfl, by decide⟩, fun _ h => absurd h List.not_mem_nil⟩
def fJ6_moveRootToFront_b123 (h : hS) : Option (hS) := some h
theorem wJ6_moveRootToFront_b123 {N : Nx} {h' : hS} (E : EndX N [] 7 none none [] h')  (h : hS) (e : fJ6_moveRootToFront_b123 h = some (h')) : AtPc cJ6_moveRootToFront RJ6 0 0 N [] h 123 [] [] := by
  unfold fJ6_moveRootToFront_b123 at e
  refine r_rrs E.p (fun rr => ?_)
  cases e
  exact r_vret E.σ E.st E.rt E.r dJ6_moveRootToFront_123
def fJ6_moveRootToFront_b102 (h : hS) (o1 : Option Nat) : Option (hS) := fJ6_moveRootToFront_b123 h
theorem wJ6_moveRootToFront_b102 {N : Nx} {h' : hS} (E : EndX N [] 7 none none [] h')  (h : hS) (o1 : Option Nat) (e : fJ6_moveRootToFront_b102 h o1 = some (h')) : AtPc cJ6_moveRootToFront RJ6 0 0 N [] h 102 [(1, tr o1)] [] := by
  unfold fJ6_moveRootToFront_b102 at e
  refine r_rrs E.p (fun rr => ?_)
  refine r_getsD q756 rfl dJ6_moveRootToFront_102 ?_
  refine r_if_ne (by decide) 123 dJ6_moveRootToFront_105 (by decide) (fun c1 => ?_) (fun c1 => absurd (by decide) c1)
  refine r_sub [] rfl ?_
  exact wJ6_moveRootToFront_b123 E h e
def fJ6_moveRootToFront_b91 (h : hS) (o1 : Option Nat) (o4 : Option Nat) : Option (hS) := bd (hW h o1 [(13, 5)] (vq o4)) fun h1 => bd (hW h1 o1 [(13, 9)] (vq none)) fun h4 => fJ6_moveRootToFront_b102 h4 o1
theorem wJ6_moveRootToFront_b91 {N : Nx} {h' : hS} (E : EndX N [] 7 none none [] h')  (h : hS) (o1 : Option Nat) (o4 : Option Nat) (e : fJ6_moveRootToFront_b91 h o1 o4 = some (h')) : AtPc cJ6_moveRootToFront RJ6 0 0 N [] h 91 [(1, tr o1), (4, tr o4)] [] := by
  unfold fJ6_moveRootToFront_b91 at e
  refine r_rrs E.p (fun rr => ?_)
  refine r_aload_n dJ6_moveRootToFront_91 rfl 0 rfl ?_
  refine r_aload dJ6_moveRootToFront_92 1 rfl ?_
  obtain ⟨h1, q2, e⟩ := bd_o e
  refine r_put (v := vq o4) fP_J6_22 (by first | exact fun q => absurd q (by decide) | exact fun _ => rfl) trivial q2 dJ6_moveRootToFront_94 ?_
  refine r_rrs E.p (fun rr3 => ?_)
  refine r_aload_n dJ6_moveRootToFront_97 rfl 0 rfl ?_
  refine r_null dJ6_moveRootToFront_98 ?_
  obtain ⟨h4, q5, e⟩ := bd_o e
  refine r_put (v := vq none) fP_J6_19 (by first | exact fun q => absurd q (by decide) | exact fun _ => rfl) trivial q5 dJ6_moveRootToFront_99 ?_
  refine r_rrs E.p (fun rr6 => ?_)
  refine r_sub [0] rfl ?_
  exact wJ6_moveRootToFront_b102 E h4 o1 e
def fJ6_moveRootToFront_b80 (h : hS) (o1 : Option Nat) (o4 : Option Nat) : Option (hS) := ifN o4 (fJ6_moveRootToFront_b91 h o1 o4) (fun _ => bd (hW h o4 [(13, 9)] (vq o1)) fun h3 => fJ6_moveRootToFront_b91 h3 o1 o4)
theorem wJ6_moveRootToFront_b80 {N : Nx} {h' : hS} (E : EndX N [] 7 none none [] h')  (h : hS) (o1 : Option Nat) (o4 : Option Nat) (e : fJ6_moveRootToFront_b80 h o1 o4 = some (h')) : AtPc cJ6_moveRootToFront RJ6 0 0 N [] h 80 [(1, tr o1), (4, tr o4)] [] := by
  unfold fJ6_moveRootToFront_b80 at e
  refine r_rrs E.p (fun rr => ?_)
  refine r_aload dJ6_moveRootToFront_80 1 rfl ?_
  have eT := (r_ifno e).1
  have eF := (r_ifno e).2
  refine r_ifnull 91 dJ6_moveRootToFront_82 (by decide) (fun c1 => ?_) (fun x2 c1 => ?_)
  · have e := eT c1
    exact wJ6_moveRootToFront_b91 E h o1 o4 e
  · have e := eF x2 c1
    refine r_aload dJ6_moveRootToFront_85 1 rfl ?_
    refine r_aload_n dJ6_moveRootToFront_87 rfl 0 rfl ?_
    obtain ⟨h3, q4, e⟩ := bd_o e
    refine r_put (v := vq o1) fP_J6_19 (by first | exact fun q => absurd q (by decide) | exact fun _ => rfl) trivial q4 dJ6_moveRootToFront_88 ?_
    refine r_rrs E.p (fun rr5 => ?_)
    exact wJ6_moveRootToFront_b91 E h3 o1 o4 e
def fJ6_moveRootToFront_b68 (h : hS) (o1 : Option Nat) (o4 : Option Nat) (o5 : Option Nat) (o6 : Option Nat) : Option (hS) := ifN o6 (fJ6_moveRootToFront_b80 h o1 o4) (fun _ => bd (hW h o6 [(13, 5)] (vq o5)) fun h3 => fJ6_moveRootToFront_b80 h3 o1 o4)
theorem wJ6_moveRootToFront_b68 {N : Nx} {h' : hS} (E : EndX N [] 7 none none [] h')  (h : hS) (o1 : Option Nat) (o4 : Option Nat) (o5 : Option Nat) (o6 : Option Nat) (e : fJ6_moveRootToFront_b68 h o1 o4 o5 o6 = some (h')) : AtPc cJ6_moveRootToFront RJ6 0 0 N [] h 68 [(1, tr o1), (4, tr o4), (5, tr o5), (6, tr o6)] [] := by
  unfold fJ6_moveRootToFront_b68 at e
  refine r_rrs E.p (fun rr => ?_)
  refine r_aload dJ6_moveRootToFront_68 3 rfl ?_
  have eT := (r_ifno e).1
  have eF := (r_ifno e).2
  refine r_ifnull 80 dJ6_moveRootToFront_70 (by decide) (fun c1 => ?_) (fun x2 c1 => ?_)
  · have e := eT c1
    refine r_sub [0, 1] rfl ?_
    exact wJ6_moveRootToFront_b80 E h o1 o4 e
  · have e := eF x2 c1
    refine r_aload dJ6_moveRootToFront_73 3 rfl ?_
    refine r_aload dJ6_moveRootToFront_75 2 rfl ?_
    obtain ⟨h3, q4, e⟩ := bd_o e
    refine r_put (v := vq o5) fP_J6_22 (by first | exact fun q => absurd q (by decide) | exact fun _ => rfl) trivial q4 dJ6_moveRootToFront_77 ?_
    refine r_rrs E.p (fun rr5 => ?_)
    refine r_sub [0, 1] rfl ?_
    exact wJ6_moveRootToFront_b80 E h3 o1 o4 e
def fJ6_moveRootToFront  (h : hS) (o0 : Option Nat) (o1 : Option Nat) : Option (hS) := ifN o1 (fJ6_moveRootToFront_b123 h) (fun _ => ifN o0 (fJ6_moveRootToFront_b123 h) (fun _ => bd (hL h o0 6) fun v5 => if v5 ≤ 0 then fJ6_moveRootToFront_b123 h else bd (hI h o1 [(13, 2)]) fun v8 => bd (aQ h o0 6 (iand (wr (v5 - 1)) v8)) fun v10 => gd (v10 = none ∨ inC h v10 [13] = true) (if o1 = v10 then fJ6_moveRootToFront_b102 h o1 else bd (aWQ h o0 6 [12, 13] (iand (wr (v5 - 1)) v8) o1) fun h14 => bd (hQ h14 o1 [(13, 9)]) fun v17 => bd (hQ h14 o1 [(13, 5)]) fun v19 => ifN v19 (fJ6_moveRootToFront_b68 h14 o1 v10 v19 v17) (fun _ => gd (v19 = none ∨ inC h14 v19 [13] = true) (bd (hW h14 v19 [(13, 9)] (vq v17)) fun h24 => fJ6_moveRootToFront_b68 h24 o1 v10 v19 v17)))))
theorem kJ6_moveRootToFront {G : Gx}  {h' : hS} {h : hS} {o0 : Option Nat} {o1 : Option Nat}   (e : fJ6_moveRootToFront h o0 o1 = some (h')) : CtX G yJ6_moveRootToFront cJ6_moveRootToFront 7 none 0 0 [] [] h [tr o0, tr o1] none [] h' := by
  refine CtX.of (by decide) (Nat.le_of_ble_eq_true rfl) [(0, tr o0), (1, tr o1)] rfl ?_
  have E : EndX (G, 7, [], h, [], h', none, none, yJ6_moveRootToFront.name) [] 7 none none [] h' := ⟨rfl, rfl, rfl, rfl, rfl, rfl⟩
  unfold fJ6_moveRootToFront at e
  refine r_rrs E.p (fun rr => ?_)
  refine r_aload_n dJ6_moveRootToFront_0 rfl 1 rfl ?_
  have eT := (r_ifno e).1
  have eF := (r_ifno e).2
  refine r_ifnull 123 dJ6_moveRootToFront_1 (by decide) (fun c1 => ?_) (fun x2 c1 => ?_)
  · have e := eT c1
    refine r_sub [] rfl ?_
    exact wJ6_moveRootToFront_b123 E h e
  · have e := eF x2 c1
    refine r_aload_n dJ6_moveRootToFront_4 rfl 0 rfl ?_
    have eT := (r_ifno e).1
    have eF := (r_ifno e).2
    refine r_ifnull 123 dJ6_moveRootToFront_5 (by decide) (fun c3 => ?_) (fun x4 c3 => ?_)
    · have e := eT c3
      refine r_sub [] rfl ?_
      exact wJ6_moveRootToFront_b123 E h e
    · have e := eF x4 c3
      refine r_aload_n dJ6_moveRootToFront_8 rfl 0 rfl ?_
      obtain ⟨v5, q6, e⟩ := bd_o e
      refine r_aL q6 dJ6_moveRootToFront_9 ?_
      refine r_dup dJ6_moveRootToFront_10 rfl ?_
      refine r_istore_n (lv' := [(2, ti v5), (0, tr o0), (1, tr o1)]) dJ6_moveRootToFront_11 rfl (E.lt (by decide)) rfl ?_
      have eT := (r_ifo e).1
      have eF := (r_ifo e).2
      refine r_if_le (hL_r rr q6) 123 dJ6_moveRootToFront_12 (by decide) (fun c7 => ?_) (fun c7 => ?_)
      · have e := eT c7
        refine r_sub [] rfl ?_
        exact wJ6_moveRootToFront_b123 E h e
      · have e := eF c7
        refine r_iload_n dJ6_moveRootToFront_15 rfl 0 rfl ?_
        refine r_iconst dJ6_moveRootToFront_16 ?_
        refine r_isub dJ6_moveRootToFront_17 ?_
        refine r_aload_n dJ6_moveRootToFront_18 rfl 2 rfl ?_
        obtain ⟨v8, q9, e⟩ := bd_o e
        refine r_getI fG_J6_15 q9 dJ6_moveRootToFront_19 ?_
        refine r_iand dJ6_moveRootToFront_22 ?_
        refine r_istore_n (lv' := [(3, ti (iand (wr (v5 - 1)) v8)), (2, ti v5), (0, tr o0), (1, tr o1)]) dJ6_moveRootToFront_23 rfl (E.lt (by decide)) rfl ?_
        refine r_aload_n dJ6_moveRootToFront_24 rfl 2 rfl ?_
        refine r_iload_n dJ6_moveRootToFront_25 rfl 0 rfl ?_
        obtain ⟨v10, q11, e⟩ := bd_o e
        refine r_aQ (iand_r _ _) q11 dJ6_moveRootToFront_26 ?_
        obtain ⟨g12, e⟩ := gd_o e
        refine r_cast cst_3 q701 (inC_p g12) dJ6_moveRootToFront_27 ?_
        refine r_astore (lv' := [(4, tr v10), (3, ti (iand (wr (v5 - 1)) v8)), (2, ti v5), (0, tr o0), (1, tr o1)]) dJ6_moveRootToFront_30 (E.lt (by decide)) rfl ?_
        refine r_aload_n dJ6_moveRootToFront_32 rfl 4 rfl ?_
        refine r_aload dJ6_moveRootToFront_33 0 rfl ?_
        have eT := (r_ifo e).1
        have eF := (r_ifo e).2
        refine r_acmp_eq 102 dJ6_moveRootToFront_35 (by decide) (fun c13 => ?_) (fun c13 => ?_)
        · have e := eT c13
          refine r_sub [4] rfl ?_
          exact wJ6_moveRootToFront_b102 E h o1 e
        · have e := eF c13
          refine r_aload_n dJ6_moveRootToFront_38 rfl 3 rfl ?_
          refine r_iload_n dJ6_moveRootToFront_39 rfl 1 rfl ?_
          refine r_aload_n dJ6_moveRootToFront_40 rfl 4 rfl ?_
          obtain ⟨h14, q15, e⟩ := bd_o e
          refine r_aPQ (t := 6) (iand_r _ _) q15 sto_6 (by decide) dJ6_moveRootToFront_41 ?_
          refine r_rrs E.p (fun rr16 => ?_)
          refine r_aload_n dJ6_moveRootToFront_42 rfl 4 rfl ?_
          obtain ⟨v17, q18, e⟩ := bd_o e
          refine r_getQ fG_J6_19 q18 dJ6_moveRootToFront_43 ?_
          refine r_astore (lv' := [(6, tr v17), (4, tr v10), (3, ti (iand (wr (v5 - 1)) v8)), (2, ti v5), (0, tr o0), (1, tr o1)]) dJ6_moveRootToFront_46 (E.lt (by decide)) rfl ?_
          refine r_aload_n dJ6_moveRootToFront_48 rfl 5 rfl ?_
          obtain ⟨v19, q20, e⟩ := bd_o e
          refine r_getQ fG_J6_22 q20 dJ6_moveRootToFront_49 ?_
          refine r_dup dJ6_moveRootToFront_52 rfl ?_
          refine r_astore (lv' := [(5, tr v19), (6, tr v17), (4, tr v10), (3, ti (iand (wr (v5 - 1)) v8)), (2, ti v5), (0, tr o0), (1, tr o1)]) dJ6_moveRootToFront_53 (E.lt (by decide)) rfl ?_
          have eT := (r_ifno e).1
          have eF := (r_ifno e).2
          refine r_ifnull 68 dJ6_moveRootToFront_55 (by decide) (fun c21 => ?_) (fun x22 c21 => ?_)
          · have e := eT c21
            refine r_sub [6, 2, 0, 1] rfl ?_
            exact wJ6_moveRootToFront_b68 E h14 o1 v10 v19 v17 e
          · have e := eF x22 c21
            refine r_aload dJ6_moveRootToFront_58 0 rfl ?_
            obtain ⟨g23, e⟩ := gd_o e
            refine r_cast cst_3 q701 (inC_p g23) dJ6_moveRootToFront_60 ?_
            refine r_aload dJ6_moveRootToFront_63 1 rfl ?_
            obtain ⟨h24, q25, e⟩ := bd_o e
            refine r_put (v := vq v17) fP_J6_19 (by first | exact fun q => absurd q (by decide) | exact fun _ => rfl) trivial q25 dJ6_moveRootToFront_65 ?_
            refine r_rrs E.p (fun rr26 => ?_)
            refine r_sub [6, 2, 0, 1] rfl ?_
            exact wJ6_moveRootToFront_b68 E h24 o1 v10 v19 v17 e
def fJ6_treeify_b209 (K4 : hS → Option Nat → Option Nat → Option Nat → Option (hS)) (h : hS) (o1 : Option Nat) (o2 : Option Nat) (o4 : Option Nat) : Option (hS) := K4 h o1 o2 o4
theorem wJ6_treeify_b209 {N : Nx} {h' : hS} (E : EndX N [] 13 none none [] h') (K4 : hS → Option Nat → Option Nat → Option Nat → Option (hS)) (hK4 : ∀ (h : hS) (o1 : Option Nat) (o2 : Option Nat) (o3 : Option Nat), K4 h o1 o2 o3 = some (h') → AtPc cJ6_treeify RJ6 2 49 N [] h 4 [(1, tr o1), (2, tr o2), (3, tr o3)] []) (h : hS) (o1 : Option Nat) (o2 : Option Nat) (o4 : Option Nat) (e : fJ6_treeify_b209 K4 h o1 o2 o4 = some (h')) : AtPc cJ6_treeify RJ6 2 49 N [] h 209 [(1, tr o1), (2, tr o2), (4, tr o4)] [] := by
  unfold fJ6_treeify_b209 at e
  refine r_rrs E.p (fun rr => ?_)
  refine r_aload dJ6_treeify_209 2 rfl ?_
  refine r_astore_n (lv' := [(3, tr o4), (1, tr o1), (2, tr o2), (4, tr o4)]) dJ6_treeify_211 rfl (E.lt (by decide)) rfl ?_
  refine r_goto 4 dJ6_treeify_212 (by decide) ?_
  refine r_sub [1, 2, 0] rfl ?_
  exact hK4 h o1 o2 o4 e
def fJ6_treeify_b197 (K4 : hS → Option Nat → Option Nat → Option Nat → Option (hS)) (h : hS) (o1 : Option Nat) (o2 : Option Nat) (o3 : Option Nat) (o4 : Option Nat) : Option (hS) := bd (fJ6_balanceInsertion h o2 o3) fun p1 => fJ6_treeify_b209 K4 p1.2 o1 p1.1 o4
theorem wJ6_treeify_b197 {N : Nx} {h' : hS} (E : EndX N [] 13 none none [] h') (K4 : hS → Option Nat → Option Nat → Option Nat → Option (hS)) (hK4 : ∀ (h : hS) (o1 : Option Nat) (o2 : Option Nat) (o3 : Option Nat), K4 h o1 o2 o3 = some (h') → AtPc cJ6_treeify RJ6 2 49 N [] h 4 [(1, tr o1), (2, tr o2), (3, tr o3)] []) (h : hS) (o1 : Option Nat) (o2 : Option Nat) (o3 : Option Nat) (o4 : Option Nat) (e : fJ6_treeify_b197 K4 h o1 o2 o3 o4 = some (h')) : AtPc cJ6_treeify RJ6 2 49 N [] h 197 [(1, tr o1), (2, tr o2), (3, tr o3), (4, tr o4)] [] := by
  unfold fJ6_treeify_b197 at e
  refine r_rrs E.p (fun rr => ?_)
  refine r_aload_n dJ6_treeify_197 rfl 1 rfl ?_
  refine r_aload_n dJ6_treeify_198 rfl 2 rfl ?_
  obtain ⟨p1, q2, e⟩ := bd_o e
  have k3 := kJ6_balanceInsertion (G := nG N)  q2
  have z4 := (k3 rr).1.2.2.2
  refine r_callS (j := none) 2 [tr o2, tr o3] k3 (injO_0 E.p) subO_0 getO_0 setO_0 (lw_S q744 q745 q131 q746) (by decide +kernel) rfl (Nat.le_of_ble_eq_true rfl) (Nat.le_of_ble_eq_true rfl) rfl (Nat.le_of_ble_eq_true rfl) dJ6_treeify_199 rfl ?_
  refine r_rrs E.p (fun rr5 => ?_)
  refine r_astore_n (lv' := [(2, tr p1.1), (1, tr o1), (3, tr o3), (4, tr o4)]) dJ6_treeify_202 rfl (E.lt (by decide)) rfl ?_
  refine r_goto 209 dJ6_treeify_203 (by decide) ?_
  refine r_sub [1, 0, 3] rfl ?_
  exact wJ6_treeify_b209 E K4 hK4 p1.2 o1 p1.1 o4 e
def fJ6_treeify_b165 (K4 : hS → Option Nat → Option Nat → Option Nat → Option (hS)) (K64 : hS → Option Nat → Option Nat → Option Nat → Option Nat → Int → Option Nat → Option Nat → Option (hS)) (h : hS) (o1 : Option Nat) (o2 : Option Nat) (o3 : Option Nat) (o4 : Option Nat) (a6 : Int) (o7 : Option Nat) (a9 : Int) (o12 : Option Nat) (k0 : Option Nat) : Option (hS) := ifN k0 (bd (hW h o3 [(13, 6)] (vq o12)) fun h3 => if 0 < a9 then bd (hW h3 o12 [(13, 8)] (vq o3)) fun h7 => fJ6_treeify_b197 K4 h7 o1 o2 o3 o4 else bd (hW h3 o12 [(13, 7)] (vq o3)) fun h10 => fJ6_treeify_b197 K4 h10 o1 o2 o3 o4) (fun _ => K64 h o1 o2 o3 o4 a6 o7 k0)
theorem wJ6_treeify_b165 {N : Nx} {h' : hS} (E : EndX N [] 13 none none [] h') (K4 : hS → Option Nat → Option Nat → Option Nat → Option (hS)) (hK4 : ∀ (h : hS) (o1 : Option Nat) (o2 : Option Nat) (o3 : Option Nat), K4 h o1 o2 o3 = some (h') → AtPc cJ6_treeify RJ6 2 49 N [] h 4 [(1, tr o1), (2, tr o2), (3, tr o3)] []) (K64 : hS → Option Nat → Option Nat → Option Nat → Option Nat → Int → Option Nat → Option Nat → Option (hS)) (hK64 : ∀ (h : hS) (o1 : Option Nat) (o2 : Option Nat) (o3 : Option Nat) (o4 : Option Nat) (a6 : Int) (o7 : Option Nat) (o8 : Option Nat) (ha6 : rI a6), K64 h o1 o2 o3 o4 a6 o7 o8 = some (h') → AtPc cJ6_treeify RJ6 2 49 N [] h 64 [(1, tr o1), (2, tr o2), (3, tr o3), (4, tr o4), (6, ti a6), (7, tr o7), (8, tr o8)] []) (h : hS) (o1 : Option Nat) (o2 : Option Nat) (o3 : Option Nat) (o4 : Option Nat) (a6 : Int) (o7 : Option Nat) (a9 : Int) (o12 : Option Nat) (k0 : Option Nat) (ha6 : rI a6) (ha9 : rI a9) (e : fJ6_treeify_b165 K4 K64 h o1 o2 o3 o4 a6 o7 a9 o12 k0 = some (h')) : AtPc cJ6_treeify RJ6 2 49 N [] h 165 [(1, tr o1), (2, tr o2), (3, tr o3), (4, tr o4), (6, ti a6), (7, tr o7), (9, ti a9), (12, tr o12)] [tr k0] := by
  unfold fJ6_treeify_b165 at e
  refine r_rrs E.p (fun rr => ?_)
  refine r_dup dJ6_treeify_165 rfl ?_
  refine r_astore (lv' := [(8, tr k0), (1, tr o1), (2, tr o2), (3, tr o3), (4, tr o4), (6, ti a6), (7, tr o7), (9, ti a9), (12, tr o12)]) dJ6_treeify_166 (E.lt (by decide)) rfl ?_
  have eT := (r_ifno e).1
  have eF := (r_ifno e).2
  refine r_ifnonnull 206 dJ6_treeify_168 (by decide) (fun c1 => ?_) (fun x2 c1 => ?_)
  · have e := eT c1
    refine r_aload_n dJ6_treeify_171 rfl 3 rfl ?_
    refine r_aload dJ6_treeify_172 8 rfl ?_
    obtain ⟨h3, q4, e⟩ := bd_o e
    refine r_put (v := vq o12) fP_J6_9 (by first | exact fun q => absurd q (by decide) | exact fun _ => rfl) trivial q4 dJ6_treeify_174 ?_
    refine r_rrs E.p (fun rr5 => ?_)
    refine r_iload dJ6_treeify_177 7 rfl ?_
    have eT := (r_ifo e).1
    have eF := (r_ifo e).2
    refine r_if_gt ha9 191 dJ6_treeify_179 (by decide) (fun c6 => ?_) (fun c6 => ?_)
    · have e := eT c6
      refine r_aload dJ6_treeify_191 8 rfl ?_
      refine r_aload_n dJ6_treeify_193 rfl 3 rfl ?_
      obtain ⟨h7, q8, e⟩ := bd_o e
      refine r_put (v := vq o3) fP_J6_42 (by first | exact fun q => absurd q (by decide) | exact fun _ => rfl) trivial q8 dJ6_treeify_194 ?_
      refine r_rrs E.p (fun rr9 => ?_)
      refine r_sub [1, 2, 3, 4] rfl ?_
      exact wJ6_treeify_b197 E K4 hK4 h7 o1 o2 o3 o4 e
    · have e := eF c6
      refine r_aload dJ6_treeify_182 8 rfl ?_
      refine r_aload_n dJ6_treeify_184 rfl 3 rfl ?_
      obtain ⟨h10, q11, e⟩ := bd_o e
      refine r_put (v := vq o3) fP_J6_39 (by first | exact fun q => absurd q (by decide) | exact fun _ => rfl) trivial q11 dJ6_treeify_185 ?_
      refine r_rrs E.p (fun rr12 => ?_)
      refine r_goto 197 dJ6_treeify_188 (by decide) ?_
      refine r_sub [1, 2, 3, 4] rfl ?_
      exact wJ6_treeify_b197 E K4 hK4 h10 o1 o2 o3 o4 e
  · have e := eF x2 c1
    refine r_goto 64 dJ6_treeify_206 (by decide) ?_
    refine r_sub [1, 2, 3, 4, 5, 6, 0] rfl ?_
    exact hK64 h o1 o2 o3 o4 a6 o7 k0 ha6 e
def fJ6_treeify_b143 (K4 : hS → Option Nat → Option Nat → Option Nat → Option (hS)) (K64 : hS → Option Nat → Option Nat → Option Nat → Option Nat → Int → Option Nat → Option Nat → Option (hS)) (h : hS) (o1 : Option Nat) (o2 : Option Nat) (o3 : Option Nat) (o4 : Option Nat) (a6 : Int) (o7 : Option Nat) (o8 : Option Nat) (a9 : Int) : Option (hS) := if 0 < a9 then bd (hQ h o8 [(13, 8)]) fun v2 => fJ6_treeify_b165 K4 K64 h o1 o2 o3 o4 a6 o7 a9 o8 v2 else bd (hQ h o8 [(13, 7)]) fun v4 => fJ6_treeify_b165 K4 K64 h o1 o2 o3 o4 a6 o7 a9 o8 v4
theorem wJ6_treeify_b143 {N : Nx} {h' : hS} (E : EndX N [] 13 none none [] h') (K4 : hS → Option Nat → Option Nat → Option Nat → Option (hS)) (hK4 : ∀ (h : hS) (o1 : Option Nat) (o2 : Option Nat) (o3 : Option Nat), K4 h o1 o2 o3 = some (h') → AtPc cJ6_treeify RJ6 2 49 N [] h 4 [(1, tr o1), (2, tr o2), (3, tr o3)] []) (K64 : hS → Option Nat → Option Nat → Option Nat → Option Nat → Int → Option Nat → Option Nat → Option (hS)) (hK64 : ∀ (h : hS) (o1 : Option Nat) (o2 : Option Nat) (o3 : Option Nat) (o4 : Option Nat) (a6 : Int) (o7 : Option Nat) (o8 : Option Nat) (ha6 : rI a6), K64 h o1 o2 o3 o4 a6 o7 o8 = some (h') → AtPc cJ6_treeify RJ6 2 49 N [] h 64 [(1, tr o1), (2, tr o2), (3, tr o3), (4, tr o4), (6, ti a6), (7, tr o7), (8, tr o8)] []) (h : hS) (o1 : Option Nat) (o2 : Option Nat) (o3 : Option Nat) (o4 : Option Nat) (a6 : Int) (o7 : Option Nat) (o8 : Option Nat) (a9 : Int) (ha6 : rI a6) (ha9 : rI a9) (e : fJ6_treeify_b143 K4 K64 h o1 o2 o3 o4 a6 o7 o8 a9 = some (h')) : AtPc cJ6_treeify RJ6 2 49 N [] h 143 [(1, tr o1), (2, tr o2), (3, tr o3), (4, tr o4), (6, ti a6), (7, tr o7), (8, tr o8), (9, ti a9)] [] := by
  unfold fJ6_treeify_b143 at e
  refine r_rrs E.p (fun rr => ?_)
  refine r_aload dJ6_treeify_143 6 rfl ?_
  refine r_astore (lv' := [(12, tr o8), (1, tr o1), (2, tr o2), (3, tr o3), (4, tr o4), (6, ti a6), (7, tr o7), (8, tr o8), (9, ti a9)]) dJ6_treeify_145 (E.lt (by decide)) rfl ?_
  refine r_iload dJ6_treeify_147 8 rfl ?_
  have eT := (r_ifo e).1
  have eF := (r_ifo e).2
  refine r_if_gt ha9 160 dJ6_treeify_149 (by decide) (fun c1 => ?_) (fun c1 => ?_)
  · have e := eT c1
    refine r_aload dJ6_treeify_160 7 rfl ?_
    obtain ⟨v2, q3, e⟩ := bd_o e
    refine r_getQ fG_J6_42 q3 dJ6_treeify_162 ?_
    refine r_sub [1, 2, 3, 4, 5, 6, 8, 0] rfl ?_
    exact wJ6_treeify_b165 E K4 hK4 K64 hK64 h o1 o2 o3 o4 a6 o7 a9 o8 v2 ha6 ha9 e
  · have e := eF c1
    refine r_aload dJ6_treeify_152 7 rfl ?_
    obtain ⟨v4, q5, e⟩ := bd_o e
    refine r_getQ fG_J6_39 q5 dJ6_treeify_154 ?_
    refine r_goto 165 dJ6_treeify_157 (by decide) ?_
    refine r_sub [1, 2, 3, 4, 5, 6, 8, 0] rfl ?_
    exact wJ6_treeify_b165 E K4 hK4 K64 hK64 h o1 o2 o3 o4 a6 o7 a9 o8 v4 ha6 ha9 e
def fJ6_treeify_b64 (K4 : hS → Option Nat → Option Nat → Option Nat → Option (hS)) (K64 : hS → Option Nat → Option Nat → Option Nat → Option Nat → Int → Option Nat → Option Nat → Option (hS)) (h : hS) (o1 : Option Nat) (o2 : Option Nat) (o3 : Option Nat) (o4 : Option Nat) (a6 : Int) (o7 : Option Nat) (o8 : Option Nat) : Option (hS) := bd (hQ h o8 [(13, 3)]) fun v1 => bd (hI h o8 [(13, 2)]) fun v3 => if v3 ≤ a6 then if a6 ≤ v3 then none else fJ6_treeify_b143 K4 K64 h o1 o2 o3 o4 a6 o7 o8 1 else fJ6_treeify_b143 K4 K64 h o1 o2 o3 o4 a6 o7 o8 (-1)
theorem wJ6_treeify_b64 {N : Nx} {h' : hS} (E : EndX N [] 13 none none [] h') (K4 : hS → Option Nat → Option Nat → Option Nat → Option (hS)) (hK4 : ∀ (h : hS) (o1 : Option Nat) (o2 : Option Nat) (o3 : Option Nat), K4 h o1 o2 o3 = some (h') → AtPc cJ6_treeify RJ6 2 49 N [] h 4 [(1, tr o1), (2, tr o2), (3, tr o3)] []) (K64 : hS → Option Nat → Option Nat → Option Nat → Option Nat → Int → Option Nat → Option Nat → Option (hS)) (hK64 : ∀ (h : hS) (o1 : Option Nat) (o2 : Option Nat) (o3 : Option Nat) (o4 : Option Nat) (a6 : Int) (o7 : Option Nat) (o8 : Option Nat) (ha6 : rI a6), K64 h o1 o2 o3 o4 a6 o7 o8 = some (h') → AtPc cJ6_treeify RJ6 2 49 N [] h 64 [(1, tr o1), (2, tr o2), (3, tr o3), (4, tr o4), (6, ti a6), (7, tr o7), (8, tr o8)] []) (h : hS) (o1 : Option Nat) (o2 : Option Nat) (o3 : Option Nat) (o4 : Option Nat) (a6 : Int) (o7 : Option Nat) (o8 : Option Nat) (ha6 : rI a6) (e : fJ6_treeify_b64 K4 K64 h o1 o2 o3 o4 a6 o7 o8 = some (h')) : AtPc cJ6_treeify RJ6 2 49 N [] h 64 [(1, tr o1), (2, tr o2), (3, tr o3), (4, tr o4), (6, ti a6), (7, tr o7), (8, tr o8)] [] := by
  unfold fJ6_treeify_b64 at e
  refine r_rrs E.p (fun rr => ?_)
  refine r_aload dJ6_treeify_64 6 rfl ?_
  obtain ⟨v1, q2, e⟩ := bd_o e
  refine r_getQ fG_J6_45 q2 dJ6_treeify_66 ?_
  refine r_astore (lv' := [(11, tr v1), (1, tr o1), (2, tr o2), (3, tr o3), (4, tr o4), (6, ti a6), (7, tr o7), (8, tr o8)]) dJ6_treeify_69 (E.lt (by decide)) rfl ?_
  refine r_aload dJ6_treeify_71 7 rfl ?_
  obtain ⟨v3, q4, e⟩ := bd_o e
  refine r_getI fG_J6_15 q4 dJ6_treeify_73 ?_
  refine r_dup dJ6_treeify_76 rfl ?_
  refine r_istore (lv' := [(10, ti v3), (11, tr v1), (1, tr o1), (2, tr o2), (3, tr o3), (4, tr o4), (6, ti a6), (7, tr o7), (8, tr o8)]) dJ6_treeify_77 (E.lt (by decide)) rfl ?_
  refine r_iload dJ6_treeify_79 6 rfl ?_
  have eT := (r_ifo e).1
  have eF := (r_ifo e).2
  refine r_icmp_le (hI_r rr q4) ha6 90 dJ6_treeify_81 (by decide) (fun c5 => ?_) (fun c5 => ?_)
  · have e := eT c5
    refine r_iload dJ6_treeify_90 0 rfl ?_
    refine r_iload dJ6_treeify_92 6 rfl ?_
    have eT := (r_ifo e).1
    have eF := (r_ifo e).2
    refine r_icmp_ge (hI_r rr q4) ha6 103 dJ6_treeify_94 (by decide) (fun c6 => ?_) (fun c6 => ?_)
    · have e := eT c6
      cases e
    · have e := eF c6
      refine r_iconst dJ6_treeify_97 ?_
      refine r_istore (lv' := [(9, ti 1), (10, ti v3), (11, tr v1), (1, tr o1), (2, tr o2), (3, tr o3), (4, tr o4), (6, ti a6), (7, tr o7), (8, tr o8)]) dJ6_treeify_98 (E.lt (by decide)) rfl ?_
      refine r_goto 143 dJ6_treeify_100 (by decide) ?_
      refine r_sub [3, 4, 5, 6, 7, 8, 9, 0] rfl ?_
      exact wJ6_treeify_b143 E K4 hK4 K64 hK64 h o1 o2 o3 o4 a6 o7 o8 1 ha6 (by decide) e
  · have e := eF c5
    refine r_iconst dJ6_treeify_84 ?_
    refine r_istore (lv' := [(9, ti (-1)), (10, ti v3), (11, tr v1), (1, tr o1), (2, tr o2), (3, tr o3), (4, tr o4), (6, ti a6), (7, tr o7), (8, tr o8)]) dJ6_treeify_85 (E.lt (by decide)) rfl ?_
    refine r_goto 143 dJ6_treeify_87 (by decide) ?_
    refine r_sub [3, 4, 5, 6, 7, 8, 9, 0] rfl ?_
    exact wJ6_treeify_b143 E K4 hK4 K64 hK64 h o1 o2 o3 o4 a6 o7 o8 (-1) ha6 (by decide) e
def fJ6_treeify_L64 (K4 : hS → Option Nat → Option Nat → Option Nat → Option (hS)) : Nat → hS → Option Nat → Option Nat → Option Nat → Option Nat → Int → Option Nat → Option Nat → Option (hS)
  | 0, _, _, _, _, _, _, _, _ => none
  | n9 + 1, h, o1, o2, o3, o4, a6, o7, o8 => fJ6_treeify_b64 K4 (fJ6_treeify_L64 K4 n9) h o1 o2 o3 o4 a6 o7 o8
theorem wJ6_treeify_L64 {N : Nx} {h' : hS} (E : EndX N [] 13 none none [] h') (K4 : hS → Option Nat → Option Nat → Option Nat → Option (hS)) (hK4 : ∀ (h : hS) (o1 : Option Nat) (o2 : Option Nat) (o3 : Option Nat), K4 h o1 o2 o3 = some (h') → AtPc cJ6_treeify RJ6 2 49 N [] h 4 [(1, tr o1), (2, tr o2), (3, tr o3)] []) : ∀ (n9 : Nat), ∀ (h : hS) (o1 : Option Nat) (o2 : Option Nat) (o3 : Option Nat) (o4 : Option Nat) (a6 : Int) (o7 : Option Nat) (o8 : Option Nat) (ha6 : rI a6), fJ6_treeify_L64 K4 n9 h o1 o2 o3 o4 a6 o7 o8 = some (h') → AtPc cJ6_treeify RJ6 2 49 N [] h 64 [(1, tr o1), (2, tr o2), (3, tr o3), (4, tr o4), (6, ti a6), (7, tr o7), (8, tr o8)] [] := by
  intro n9
  induction n9 with
  | zero => intro h o1 o2 o3 o4 a6 o7 o8 ha6 e; cases e
  | succ n9 ih => intro h o1 o2 o3 o4 a6 o7 o8 ha6 e; exact wJ6_treeify_b64 E K4 hK4 _ ih h o1 o2 o3 o4 a6 o7 o8 ha6 e
def fJ6_treeify_b4 (K4 : hS → Option Nat → Option Nat → Option Nat → Option (hS)) (h : hS) (o1 : Option Nat) (o2 : Option Nat) (o3 : Option Nat) : Option (hS) := ifN o3 (bd (fJ6_moveRootToFront h o1 o2) fun p3 => some p3) (fun _ => bd (hQ h o3 [(13, 5)]) fun v8 => gd (v8 = none ∨ inC h v8 [13] = true) (bd (hW h o3 [(13, 8)] (vq none)) fun h11 => bd (hW h11 o3 [(13, 7)] (vq none)) fun h14 => ifN o2 (bd (hW h14 o3 [(13, 6)] (vq none)) fun h19 => bd (hW h19 o3 [(13, 10)] (vi 0)) fun h22 => fJ6_treeify_b209 K4 h22 o1 o3 v8) (fun _ => bd (hQ h14 o3 [(13, 3)]) fun v25 => bd (hI h14 o3 [(13, 2)]) fun v27 => fJ6_treeify_L64 K4 FU h14 o1 o2 o3 v8 v27 none o2)))
theorem wJ6_treeify_b4 {N : Nx} {h' : hS} (E : EndX N [] 13 none none [] h') (K4 : hS → Option Nat → Option Nat → Option Nat → Option (hS)) (hK4 : ∀ (h : hS) (o1 : Option Nat) (o2 : Option Nat) (o3 : Option Nat), K4 h o1 o2 o3 = some (h') → AtPc cJ6_treeify RJ6 2 49 N [] h 4 [(1, tr o1), (2, tr o2), (3, tr o3)] []) (h : hS) (o1 : Option Nat) (o2 : Option Nat) (o3 : Option Nat) (e : fJ6_treeify_b4 K4 h o1 o2 o3 = some (h')) : AtPc cJ6_treeify RJ6 2 49 N [] h 4 [(1, tr o1), (2, tr o2), (3, tr o3)] [] := by
  unfold fJ6_treeify_b4 at e
  refine r_rrs E.p (fun rr => ?_)
  refine r_aload_n dJ6_treeify_4 rfl 2 rfl ?_
  have eT := (r_ifno e).1
  have eF := (r_ifno e).2
  refine r_ifnull 215 dJ6_treeify_5 (by decide) (fun c1 => ?_) (fun x2 c1 => ?_)
  · have e := eT c1
    refine r_aload_n dJ6_treeify_215 rfl 0 rfl ?_
    refine r_aload_n dJ6_treeify_216 rfl 1 rfl ?_
    obtain ⟨p3, q4, e⟩ := bd_o e
    have k5 := kJ6_moveRootToFront (G := nG N)  q4
    have z6 := (k5 rr).1.2.2.2
    refine r_callS (j := none) 2 [tr o1, tr o2] k5 (injO_0 E.p) subO_0 getO_0 setO_0 (lw_S q753 q754 q131 q755) (by decide +kernel) rfl (Nat.le_of_ble_eq_true rfl) (Nat.le_of_ble_eq_true rfl) rfl (Nat.le_of_ble_eq_true rfl) dJ6_treeify_217 rfl ?_
    refine r_rrs E.p (fun rr7 => ?_)
    cases e
    exact r_vret E.σ E.st E.rt E.r dJ6_treeify_220
  · have e := eF x2 c1
    refine r_aload_n dJ6_treeify_8 rfl 2 rfl ?_
    obtain ⟨v8, q9, e⟩ := bd_o e
    refine r_getQ fG_J6_22 q9 dJ6_treeify_9 ?_
    obtain ⟨g10, e⟩ := gd_o e
    refine r_cast cst_3 q701 (inC_p g10) dJ6_treeify_12 ?_
    refine r_astore (lv' := [(4, tr v8), (1, tr o1), (2, tr o2), (3, tr o3)]) dJ6_treeify_15 (E.lt (by decide)) rfl ?_
    refine r_aload_n dJ6_treeify_17 rfl 3 rfl ?_
    refine r_aload_n dJ6_treeify_18 rfl 3 rfl ?_
    refine r_null dJ6_treeify_19 ?_
    refine r_dup_x1 dJ6_treeify_20 rfl rfl ?_
    obtain ⟨h11, q12, e⟩ := bd_o e
    refine r_put (v := vq none) fP_J6_42 (by first | exact fun q => absurd q (by decide) | exact fun _ => rfl) trivial q12 dJ6_treeify_21 ?_
    refine r_rrs E.p (fun rr13 => ?_)
    obtain ⟨h14, q15, e⟩ := bd_o e
    refine r_put (v := vq none) fP_J6_39 (by first | exact fun q => absurd q (by decide) | exact fun _ => rfl) trivial q15 dJ6_treeify_24 ?_
    refine r_rrs E.p (fun rr16 => ?_)
    refine r_aload_n dJ6_treeify_27 rfl 2 rfl ?_
    have eT := (r_ifno e).1
    have eF := (r_ifno e).2
    refine r_ifnonnull 46 dJ6_treeify_28 (by decide) (fun c17 => ?_) (fun x18 c17 => ?_)
    · have e := eT c17
      refine r_aload_n dJ6_treeify_31 rfl 3 rfl ?_
      refine r_null dJ6_treeify_32 ?_
      obtain ⟨h19, q20, e⟩ := bd_o e
      refine r_put (v := vq none) fP_J6_9 (by first | exact fun q => absurd q (by decide) | exact fun _ => rfl) trivial q20 dJ6_treeify_33 ?_
      refine r_rrs E.p (fun rr21 => ?_)
      refine r_aload_n dJ6_treeify_36 rfl 3 rfl ?_
      refine r_iconst dJ6_treeify_37 ?_
      obtain ⟨h22, q23, e⟩ := bd_o e
      refine r_put (v := vi 0) fP_J6_93 (by first | exact fun q => absurd q (by decide) | exact fun _ => rfl) (Or.inl rfl) q23 dJ6_treeify_38 ?_
      refine r_rrs E.p (fun rr24 => ?_)
      refine r_aload_n dJ6_treeify_41 rfl 3 rfl ?_
      refine r_astore_n (lv' := [(2, tr o3), (4, tr v8), (1, tr o1), (3, tr o3)]) dJ6_treeify_42 rfl (E.lt (by decide)) rfl ?_
      refine r_goto 209 dJ6_treeify_43 (by decide) ?_
      refine r_sub [2, 0, 1] rfl ?_
      exact wJ6_treeify_b209 E K4 hK4 h22 o1 o3 v8 e
    · have e := eF x18 c17
      refine r_aload_n dJ6_treeify_46 rfl 3 rfl ?_
      obtain ⟨v25, q26, e⟩ := bd_o e
      refine r_getQ fG_J6_45 q26 dJ6_treeify_47 ?_
      refine r_astore (lv' := [(5, tr v25), (4, tr v8), (1, tr o1), (2, tr o2), (3, tr o3)]) dJ6_treeify_50 (E.lt (by decide)) rfl ?_
      refine r_aload_n dJ6_treeify_52 rfl 4 rfl ?_
      obtain ⟨v27, q28, e⟩ := bd_o e
      refine r_getI fG_J6_15 q28 dJ6_treeify_53 ?_
      refine r_istore (lv' := [(6, ti v27), (5, tr v25), (4, tr v8), (1, tr o1), (2, tr o2), (3, tr o3)]) dJ6_treeify_56 (E.lt (by decide)) rfl ?_
      refine r_null dJ6_treeify_58 ?_
      refine r_astore (lv' := [(7, tr none), (6, ti v27), (5, tr v25), (4, tr v8), (1, tr o1), (2, tr o2), (3, tr o3)]) dJ6_treeify_59 (E.lt (by decide)) rfl ?_
      refine r_aload_n dJ6_treeify_61 rfl 5 rfl ?_
      refine r_astore (lv' := [(8, tr o2), (7, tr none), (6, ti v27), (5, tr v25), (4, tr v8), (1, tr o1), (2, tr o2), (3, tr o3)]) dJ6_treeify_62 (E.lt (by decide)) rfl ?_
      refine r_sub [5, 6, 7, 4, 2, 1, 0] rfl ?_
      exact wJ6_treeify_L64 E K4 hK4 FU h14 o1 o2 o3 v8 v27 none o2 (hI_r rr16 q28) e
def fJ6_treeify_L4  : Nat → hS → Option Nat → Option Nat → Option Nat → Option (hS)
  | 0, _, _, _, _ => none
  | n9 + 1, h, o1, o2, o3 => fJ6_treeify_b4 (fJ6_treeify_L4 n9) h o1 o2 o3
theorem wJ6_treeify_L4 {N : Nx} {h' : hS} (E : EndX N [] 13 none none [] h')  : ∀ (n9 : Nat), ∀ (h : hS) (o1 : Option Nat) (o2 : Option Nat) (o3 : Option Nat), fJ6_treeify_L4 n9 h o1 o2 o3 = some (h') → AtPc cJ6_treeify RJ6 2 49 N [] h 4 [(1, tr o1), (2, tr o2), (3, tr o3)] [] := by
  intro n9
  induction n9 with
  | zero => intro h o1 o2 o3 e; cases e
  | succ n9 ih => intro h o1 o2 o3 e; exact wJ6_treeify_b4 E _ ih h o1 o2 o3 e
def fJ6_treeify  (h : hS) (o0 : Option Nat) (o1 : Option Nat) : Option (hS) := fJ6_treeify_L4 FU h o1 none o0
theorem kJ6_treeify {G : Gx}  {h' : hS} {h : hS} {o0 : Option Nat} {o1 : Option Nat}   (e : fJ6_treeify h o0 o1 = some (h')) : CtX G yJ6_treeify cJ6_treeify 13 none 2 49 [] [] h [tr o0, tr o1] none [] h' := by
  refine CtX.of (by decide) (Nat.le_of_ble_eq_true rfl) [(0, tr o0), (1, tr o1)] rfl ?_
  have E : EndX (G, 13, [], h, [], h', none, none, yJ6_treeify.name) [] 13 none none [] h' := ⟨rfl, rfl, rfl, rfl, rfl, rfl⟩
  unfold fJ6_treeify at e
  refine r_rrs E.p (fun rr => ?_)
  refine r_null dJ6_treeify_0 ?_
  refine r_astore_n (lv' := [(2, tr none), (0, tr o0), (1, tr o1)]) dJ6_treeify_1 rfl (E.lt (by decide)) rfl ?_
  refine r_aload_n dJ6_treeify_2 rfl 1 rfl ?_
  refine r_astore_n (lv' := [(3, tr o0), (2, tr none), (0, tr o0), (1, tr o1)]) dJ6_treeify_3 rfl (E.lt (by decide)) rfl ?_
  refine r_sub [3, 1, 0] rfl ?_
  exact wJ6_treeify_L4 E FU h o1 none o0 e
def fJ6_split_b124 (K25 : hS → Option Nat → Option Nat → Int → Int → Option Nat → Option Nat → Option Nat → Option Nat → Int → Int → Option Nat → Option (hS)) (h : hS) (o1 : Option Nat) (o2 : Option Nat) (a3 : Int) (a4 : Int) (o6 : Option Nat) (o7 : Option Nat) (o8 : Option Nat) (o9 : Option Nat) (a10 : Int) (a11 : Int) (o13 : Option Nat) : Option (hS) := K25 h o1 o2 a3 a4 o6 o7 o8 o9 a10 a11 o13
theorem wJ6_split_b124 {N : Nx} {h' : hS} (E : EndX N [] 14 none none [] h') (K25 : hS → Option Nat → Option Nat → Int → Int → Option Nat → Option Nat → Option Nat → Option Nat → Int → Int → Option Nat → Option (hS)) (hK25 : ∀ (h : hS) (o1 : Option Nat) (o2 : Option Nat) (a3 : Int) (a4 : Int) (o6 : Option Nat) (o7 : Option Nat) (o8 : Option Nat) (o9 : Option Nat) (a10 : Int) (a11 : Int) (o12 : Option Nat) (ha3 : rI a3) (ha4 : rI a4) (ha10 : rI a10) (ha11 : rI a11), K25 h o1 o2 a3 a4 o6 o7 o8 o9 a10 a11 o12 = some (h') → AtPc cJ6_split RJ6 4 91 N [] h 25 [(1, tr o1), (2, tr o2), (3, ti a3), (4, ti a4), (6, tr o6), (7, tr o7), (8, tr o8), (9, tr o9), (10, ti a10), (11, ti a11), (12, tr o12)] []) (h : hS) (o1 : Option Nat) (o2 : Option Nat) (a3 : Int) (a4 : Int) (o6 : Option Nat) (o7 : Option Nat) (o8 : Option Nat) (o9 : Option Nat) (a10 : Int) (a11 : Int) (o13 : Option Nat) (ha3 : rI a3) (ha4 : rI a4) (ha10 : rI a10) (ha11 : rI a11) (e : fJ6_split_b124 K25 h o1 o2 a3 a4 o6 o7 o8 o9 a10 a11 o13 = some (h')) : AtPc cJ6_split RJ6 4 91 N [] h 124 [(1, tr o1), (2, tr o2), (3, ti a3), (4, ti a4), (6, tr o6), (7, tr o7), (8, tr o8), (9, tr o9), (10, ti a10), (11, ti a11), (13, tr o13)] [] := by
  unfold fJ6_split_b124 at e
  refine r_rrs E.p (fun rr => ?_)
  refine r_aload dJ6_split_124 10 rfl ?_
  refine r_astore (lv' := [(12, tr o13), (1, tr o1), (2, tr o2), (3, ti a3), (4, ti a4), (6, tr o6), (7, tr o7), (8, tr o8), (9, tr o9), (10, ti a10), (11, ti a11), (13, tr o13)]) dJ6_split_126 (E.lt (by decide)) rfl ?_
  refine r_goto 25 dJ6_split_128 (by decide) ?_
  refine r_sub [1, 2, 3, 4, 5, 6, 7, 8, 9, 10, 0] rfl ?_
  exact hK25 h o1 o2 a3 a4 o6 o7 o8 o9 a10 a11 o13 ha3 ha4 ha10 ha11 e
def fJ6_split_b82 (K25 : hS → Option Nat → Option Nat → Int → Int → Option Nat → Option Nat → Option Nat → Option Nat → Int → Int → Option Nat → Option (hS)) (h : hS) (o1 : Option Nat) (o2 : Option Nat) (a3 : Int) (a4 : Int) (o6 : Option Nat) (o8 : Option Nat) (o9 : Option Nat) (a10 : Int) (a11 : Int) (o12 : Option Nat) (o13 : Option Nat) : Option (hS) := fJ6_split_b124 K25 h o1 o2 a3 a4 o6 o12 o8 o9 (wr (a10 + 1)) a11 o13
theorem wJ6_split_b82 {N : Nx} {h' : hS} (E : EndX N [] 14 none none [] h') (K25 : hS → Option Nat → Option Nat → Int → Int → Option Nat → Option Nat → Option Nat → Option Nat → Int → Int → Option Nat → Option (hS)) (hK25 : ∀ (h : hS) (o1 : Option Nat) (o2 : Option Nat) (a3 : Int) (a4 : Int) (o6 : Option Nat) (o7 : Option Nat) (o8 : Option Nat) (o9 : Option Nat) (a10 : Int) (a11 : Int) (o12 : Option Nat) (ha3 : rI a3) (ha4 : rI a4) (ha10 : rI a10) (ha11 : rI a11), K25 h o1 o2 a3 a4 o6 o7 o8 o9 a10 a11 o12 = some (h') → AtPc cJ6_split RJ6 4 91 N [] h 25 [(1, tr o1), (2, tr o2), (3, ti a3), (4, ti a4), (6, tr o6), (7, tr o7), (8, tr o8), (9, tr o9), (10, ti a10), (11, ti a11), (12, tr o12)] []) (h : hS) (o1 : Option Nat) (o2 : Option Nat) (a3 : Int) (a4 : Int) (o6 : Option Nat) (o8 : Option Nat) (o9 : Option Nat) (a10 : Int) (a11 : Int) (o12 : Option Nat) (o13 : Option Nat) (ha3 : rI a3) (ha4 : rI a4) (ha10 : rI a10) (ha11 : rI a11) (e : fJ6_split_b82 K25 h o1 o2 a3 a4 o6 o8 o9 a10 a11 o12 o13 = some (h')) : AtPc cJ6_split RJ6 4 91 N [] h 82 [(1, tr o1), (2, tr o2), (3, ti a3), (4, ti a4), (6, tr o6), (8, tr o8), (9, tr o9), (10, ti a10), (11, ti a11), (12, tr o12), (13, tr o13)] [] := by
  unfold fJ6_split_b82 at e
  refine r_rrs E.p (fun rr => ?_)
  refine r_aload dJ6_split_82 9 rfl ?_
  refine r_astore (lv' := [(7, tr o12), (1, tr o1), (2, tr o2), (3, ti a3), (4, ti a4), (6, tr o6), (8, tr o8), (9, tr o9), (10, ti a10), (11, ti a11), (12, tr o12), (13, tr o13)]) dJ6_split_84 (E.lt (by decide)) rfl ?_
  refine r_iinc (lv' := [(10, ti (wr (a10 + 1))), (7, tr o12), (1, tr o1), (2, tr o2), (3, ti a3), (4, ti a4), (6, tr o6), (8, tr o8), (9, tr o9), (11, ti a11), (12, tr o12), (13, tr o13)]) dJ6_split_86 8 rfl (E.lt (by decide)) rfl ?_
  refine r_goto 124 dJ6_split_89 (by decide) ?_
  refine r_sub [2, 3, 4, 5, 6, 1, 7, 8, 0, 9, 11] rfl ?_
  exact wJ6_split_b124 E K25 hK25 h o1 o2 a3 a4 o6 o12 o8 o9 (wr (a10 + 1)) a11 o13 ha3 ha4 (wr_r _) ha11 e
def fJ6_split_b117 (K25 : hS → Option Nat → Option Nat → Int → Int → Option Nat → Option Nat → Option Nat → Option Nat → Int → Int → Option Nat → Option (hS)) (h : hS) (o1 : Option Nat) (o2 : Option Nat) (a3 : Int) (a4 : Int) (o6 : Option Nat) (o7 : Option Nat) (o8 : Option Nat) (a10 : Int) (a11 : Int) (o12 : Option Nat) (o13 : Option Nat) : Option (hS) := fJ6_split_b124 K25 h o1 o2 a3 a4 o6 o7 o8 o12 a10 (wr (a11 + 1)) o13
theorem wJ6_split_b117 {N : Nx} {h' : hS} (E : EndX N [] 14 none none [] h') (K25 : hS → Option Nat → Option Nat → Int → Int → Option Nat → Option Nat → Option Nat → Option Nat → Int → Int → Option Nat → Option (hS)) (hK25 : ∀ (h : hS) (o1 : Option Nat) (o2 : Option Nat) (a3 : Int) (a4 : Int) (o6 : Option Nat) (o7 : Option Nat) (o8 : Option Nat) (o9 : Option Nat) (a10 : Int) (a11 : Int) (o12 : Option Nat) (ha3 : rI a3) (ha4 : rI a4) (ha10 : rI a10) (ha11 : rI a11), K25 h o1 o2 a3 a4 o6 o7 o8 o9 a10 a11 o12 = some (h') → AtPc cJ6_split RJ6 4 91 N [] h 25 [(1, tr o1), (2, tr o2), (3, ti a3), (4, ti a4), (6, tr o6), (7, tr o7), (8, tr o8), (9, tr o9), (10, ti a10), (11, ti a11), (12, tr o12)] []) (h : hS) (o1 : Option Nat) (o2 : Option Nat) (a3 : Int) (a4 : Int) (o6 : Option Nat) (o7 : Option Nat) (o8 : Option Nat) (a10 : Int) (a11 : Int) (o12 : Option Nat) (o13 : Option Nat) (ha3 : rI a3) (ha4 : rI a4) (ha10 : rI a10) (ha11 : rI a11) (e : fJ6_split_b117 K25 h o1 o2 a3 a4 o6 o7 o8 a10 a11 o12 o13 = some (h')) : AtPc cJ6_split RJ6 4 91 N [] h 117 [(1, tr o1), (2, tr o2), (3, ti a3), (4, ti a4), (6, tr o6), (7, tr o7), (8, tr o8), (10, ti a10), (11, ti a11), (12, tr o12), (13, tr o13)] [] := by
  unfold fJ6_split_b117 at e
  refine r_rrs E.p (fun rr => ?_)
  refine r_aload dJ6_split_117 9 rfl ?_
  refine r_astore (lv' := [(9, tr o12), (1, tr o1), (2, tr o2), (3, ti a3), (4, ti a4), (6, tr o6), (7, tr o7), (8, tr o8), (10, ti a10), (11, ti a11), (12, tr o12), (13, tr o13)]) dJ6_split_119 (E.lt (by decide)) rfl ?_
  refine r_iinc (lv' := [(11, ti (wr (a11 + 1))), (9, tr o12), (1, tr o1), (2, tr o2), (3, ti a3), (4, ti a4), (6, tr o6), (7, tr o7), (8, tr o8), (10, ti a10), (12, tr o12), (13, tr o13)]) dJ6_split_121 9 rfl (E.lt (by decide)) rfl ?_
  refine r_sub [2, 3, 4, 5, 6, 7, 8, 1, 9, 0, 11] rfl ?_
  exact wJ6_split_b124 E K25 hK25 h o1 o2 a3 a4 o6 o7 o8 o12 a10 (wr (a11 + 1)) o13 ha3 ha4 ha10 (wr_r _) e
def fJ6_split_b217 (h : hS) : Option (hS) := some h
theorem wJ6_split_b217 {N : Nx} {h' : hS} (E : EndX N [] 14 none none [] h')  (h : hS) (e : fJ6_split_b217 h = some (h')) : AtPc cJ6_split RJ6 4 91 N [] h 217 [] [] := by
  unfold fJ6_split_b217 at e
  refine r_rrs E.p (fun rr => ?_)
  cases e
  exact r_vret E.σ E.st E.rt E.r dJ6_split_217
def fJ6_split_b171 (h : hS) (o1 : Option Nat) (o2 : Option Nat) (a3 : Int) (a4 : Int) (o6 : Option Nat) (o8 : Option Nat) (a11 : Int) : Option (hS) := ifN o8 (fJ6_split_b217 h) (fun _ => if 6 < a11 then bd (aWQ h o2 6 [12, 13] (wr (a3 + a4)) o8) fun h4 => ifN o6 (fJ6_split_b217 h4) (fun _ => gd (hC h4 o8 = some 13) (bd (fJ6_treeify h4 o8 o2) fun p9 => fJ6_split_b217 p9)) else gd (hC h o8 = some 13) (bd (fJ6_untreeify h o8 o1) fun p15 => bd (aWQ p15.2 o2 6 [12, 13] (wr (a3 + a4)) p15.1) fun h21 => fJ6_split_b217 h21))
theorem wJ6_split_b171 {N : Nx} {h' : hS} (E : EndX N [] 14 none none [] h')  (h : hS) (o1 : Option Nat) (o2 : Option Nat) (a3 : Int) (a4 : Int) (o6 : Option Nat) (o8 : Option Nat) (a11 : Int) (ha3 : rI a3) (ha4 : rI a4) (ha11 : rI a11) (e : fJ6_split_b171 h o1 o2 a3 a4 o6 o8 a11 = some (h')) : AtPc cJ6_split RJ6 4 91 N [] h 171 [(1, tr o1), (2, tr o2), (3, ti a3), (4, ti a4), (6, tr o6), (8, tr o8), (11, ti a11)] [] := by
  unfold fJ6_split_b171 at e
  refine r_rrs E.p (fun rr => ?_)
  refine r_aload dJ6_split_171 5 rfl ?_
  have eT := (r_ifno e).1
  have eF := (r_ifno e).2
  refine r_ifnull 217 dJ6_split_173 (by decide) (fun c1 => ?_) (fun x2 c1 => ?_)
  · have e := eT c1
    refine r_sub [] rfl ?_
    exact wJ6_split_b217 E h e
  · have e := eF x2 c1
    refine r_iload dJ6_split_176 6 rfl ?_
    refine r_bipush dJ6_split_178 (by decide) ?_
    have eT := (r_ifo e).1
    have eF := (r_ifo e).2
    refine r_icmp_gt ha11 (by decide) 198 dJ6_split_180 (by decide) (fun c3 => ?_) (fun c3 => ?_)
    · have e := eT c3
      refine r_aload_n dJ6_split_198 rfl 1 rfl ?_
      refine r_iload_n dJ6_split_199 rfl 2 rfl ?_
      refine r_iload dJ6_split_200 3 rfl ?_
      refine r_iadd dJ6_split_202 ?_
      refine r_aload dJ6_split_203 5 rfl ?_
      obtain ⟨h4, q5, e⟩ := bd_o e
      refine r_aPQ (t := 6) (wr_r _) q5 sto_6 (by decide) dJ6_split_205 ?_
      refine r_rrs E.p (fun rr6 => ?_)
      refine r_aload dJ6_split_206 4 rfl ?_
      have eT := (r_ifno e).1
      have eF := (r_ifno e).2
      refine r_ifnull 217 dJ6_split_208 (by decide) (fun c7 => ?_) (fun x8 c7 => ?_)
      · have e := eT c7
        refine r_sub [] rfl ?_
        exact wJ6_split_b217 E h4 e
      · have e := eF x8 c7
        refine r_aload dJ6_split_211 5 rfl ?_
        refine r_aload_n dJ6_split_213 rfl 1 rfl ?_
        obtain ⟨g11, e⟩ := gd_o e
        obtain ⟨p9, q10, e⟩ := bd_o e
        have k12 := kJ6_treeify (G := nG N)  q10
        have z13 := (k12 rr6).1.2.2.2
        refine r_callVo (j := none) 1 [tr o2] (c := 13) (rc := (RJ6, TJ6, 11)) rfl g11 rfl k12 (injO_0 E.p) subO_0 getO_0 setO_0 (lw_V q740 q741 q742 q131 q743) (by decide +kernel) rfl (Nat.le_of_ble_eq_true rfl) (Nat.le_of_ble_eq_true rfl) rfl (Nat.le_of_ble_eq_true rfl) dJ6_split_214 rfl ?_
        refine r_rrs E.p (fun rr14 => ?_)
        refine r_sub [] rfl ?_
        exact wJ6_split_b217 E p9 e
    · have e := eF c3
      refine r_aload_n dJ6_split_183 rfl 1 rfl ?_
      refine r_iload_n dJ6_split_184 rfl 2 rfl ?_
      refine r_iload dJ6_split_185 3 rfl ?_
      refine r_iadd dJ6_split_187 ?_
      refine r_aload dJ6_split_188 5 rfl ?_
      refine r_aload_n dJ6_split_190 rfl 0 rfl ?_
      obtain ⟨g17, e⟩ := gd_o e
      obtain ⟨p15, q16, e⟩ := bd_o e
      have k18 := kJ6_untreeify (G := nG N)  q16
      have z19 := (k18 rr).1.2.2.2
      refine r_callVo (j := none) 1 [tr o1] (c := 13) (rc := (RJ6, TJ6, 11)) rfl g17 rfl k18 (injO_0 E.p) subO_0 getO_0 setO_0 (lw_V q702 q703 q704 q131 q705) (by decide +kernel) rfl (Nat.le_of_ble_eq_true rfl) (Nat.le_of_ble_eq_true rfl) rfl (Nat.le_of_ble_eq_true rfl) dJ6_split_191 rfl ?_
      refine r_rrs E.p (fun rr20 => ?_)
      obtain ⟨h21, q22, e⟩ := bd_o e
      refine r_aPQ (t := 6) (wr_r _) q22 sto_6 (by decide) dJ6_split_194 ?_
      refine r_rrs E.p (fun rr23 => ?_)
      refine r_goto 217 dJ6_split_195 (by decide) ?_
      refine r_sub [] rfl ?_
      exact wJ6_split_b217 E h21 e
def fJ6_split_b25 (K25 : hS → Option Nat → Option Nat → Int → Int → Option Nat → Option Nat → Option Nat → Option Nat → Int → Int → Option Nat → Option (hS)) (h : hS) (o1 : Option Nat) (o2 : Option Nat) (a3 : Int) (a4 : Int) (o6 : Option Nat) (o7 : Option Nat) (o8 : Option Nat) (o9 : Option Nat) (a10 : Int) (a11 : Int) (o12 : Option Nat) : Option (hS) := ifN o12 (ifN o6 (fJ6_split_b171 h o1 o2 a3 a4 o6 o8 a11) (fun _ => if 6 < a10 then bd (aWQ h o2 6 [12, 13] a3 o6) fun h6 => ifN o8 (fJ6_split_b171 h6 o1 o2 a3 a4 o6 o8 a11) (fun _ => gd (hC h6 o6 = some 13) (bd (fJ6_treeify h6 o6 o2) fun p11 => fJ6_split_b171 p11 o1 o2 a3 a4 o6 o8 a11)) else gd (hC h o6 = some 13) (bd (fJ6_untreeify h o6 o1) fun p17 => bd (aWQ p17.2 o2 6 [12, 13] a3 p17.1) fun h23 => fJ6_split_b171 h23 o1 o2 a3 a4 o6 o8 a11))) (fun _ => bd (hQ h o12 [(13, 5)]) fun v26 => gd (v26 = none ∨ inC h v26 [13] = true) (bd (hW h o12 [(13, 5)] (vq none)) fun h29 => bd (hI h29 o12 [(13, 2)]) fun v32 => if ¬ (iand v32 a4) = 0 then bd (hW h29 o12 [(13, 9)] (vq o9)) fun h35 => ifN o9 (fJ6_split_b117 K25 h35 o1 o2 a3 a4 o6 o7 o12 a10 a11 o12 v26) (fun _ => bd (hW h35 o9 [(13, 5)] (vq o12)) fun h40 => fJ6_split_b117 K25 h40 o1 o2 a3 a4 o6 o7 o8 a10 a11 o12 v26) else bd (hW h29 o12 [(13, 9)] (vq o7)) fun h43 => ifN o7 (fJ6_split_b82 K25 h43 o1 o2 a3 a4 o12 o8 o9 a10 a11 o12 v26) (fun _ => bd (hW h43 o7 [(13, 5)] (vq o12)) fun h48 => fJ6_split_b82 K25 h48 o1 o2 a3 a4 o6 o8 o9 a10 a11 o12 v26)))
theorem wJ6_split_b25 {N : Nx} {h' : hS} (E : EndX N [] 14 none none [] h') (K25 : hS → Option Nat → Option Nat → Int → Int → Option Nat → Option Nat → Option Nat → Option Nat → Int → Int → Option Nat → Option (hS)) (hK25 : ∀ (h : hS) (o1 : Option Nat) (o2 : Option Nat) (a3 : Int) (a4 : Int) (o6 : Option Nat) (o7 : Option Nat) (o8 : Option Nat) (o9 : Option Nat) (a10 : Int) (a11 : Int) (o12 : Option Nat) (ha3 : rI a3) (ha4 : rI a4) (ha10 : rI a10) (ha11 : rI a11), K25 h o1 o2 a3 a4 o6 o7 o8 o9 a10 a11 o12 = some (h') → AtPc cJ6_split RJ6 4 91 N [] h 25 [(1, tr o1), (2, tr o2), (3, ti a3), (4, ti a4), (6, tr o6), (7, tr o7), (8, tr o8), (9, tr o9), (10, ti a10), (11, ti a11), (12, tr o12)] []) (h : hS) (o1 : Option Nat) (o2 : Option Nat) (a3 : Int) (a4 : Int) (o6 : Option Nat) (o7 : Option Nat) (o8 : Option Nat) (o9 : Option Nat) (a10 : Int) (a11 : Int) (o12 : Option Nat) (ha3 : rI a3) (ha4 : rI a4) (ha10 : rI a10) (ha11 : rI a11) (e : fJ6_split_b25 K25 h o1 o2 a3 a4 o6 o7 o8 o9 a10 a11 o12 = some (h')) : AtPc cJ6_split RJ6 4 91 N [] h 25 [(1, tr o1), (2, tr o2), (3, ti a3), (4, ti a4), (6, tr o6), (7, tr o7), (8, tr o8), (9, tr o9), (10, ti a10), (11, ti a11), (12, tr o12)] [] := by
  unfold fJ6_split_b25 at e
  refine r_rrs E.p (fun rr => ?_)
  refine r_aload dJ6_split_25 10 rfl ?_
  have eT := (r_ifno e).1
  have eF := (r_ifno e).2
  refine r_ifnull 131 dJ6_split_27 (by decide) (fun c1 => ?_) (fun x2 c1 => ?_)
  · have e := eT c1
    refine r_aload dJ6_split_131 4 rfl ?_
    have eT := (r_ifno e).1
    have eF := (r_ifno e).2
    refine r_ifnull 171 dJ6_split_133 (by decide) (fun c3 => ?_) (fun x4 c3 => ?_)
    · have e := eT c3
      refine r_sub [0, 1, 2, 3, 4, 6, 9] rfl ?_
      exact wJ6_split_b171 E h o1 o2 a3 a4 o6 o8 a11 ha3 ha4 ha11 e
    · have e := eF x4 c3
      refine r_iload dJ6_split_136 8 rfl ?_
      refine r_bipush dJ6_split_138 (by decide) ?_
      have eT := (r_ifo e).1
      have eF := (r_ifo e).2
      refine r_icmp_gt ha10 (by decide) 155 dJ6_split_140 (by decide) (fun c5 => ?_) (fun c5 => ?_)
      · have e := eT c5
        refine r_aload_n dJ6_split_155 rfl 1 rfl ?_
        refine r_iload_n dJ6_split_156 rfl 2 rfl ?_
        refine r_aload dJ6_split_157 4 rfl ?_
        obtain ⟨h6, q7, e⟩ := bd_o e
        refine r_aPQ (t := 6) ha3 q7 sto_6 (by decide) dJ6_split_159 ?_
        refine r_rrs E.p (fun rr8 => ?_)
        refine r_aload dJ6_split_160 6 rfl ?_
        have eT := (r_ifno e).1
        have eF := (r_ifno e).2
        refine r_ifnull 171 dJ6_split_162 (by decide) (fun c9 => ?_) (fun x10 c9 => ?_)
        · have e := eT c9
          refine r_sub [0, 1, 2, 3, 4, 6, 9] rfl ?_
          exact wJ6_split_b171 E h6 o1 o2 a3 a4 o6 o8 a11 ha3 ha4 ha11 e
        · have e := eF x10 c9
          refine r_aload dJ6_split_165 4 rfl ?_
          refine r_aload_n dJ6_split_167 rfl 1 rfl ?_
          obtain ⟨g13, e⟩ := gd_o e
          obtain ⟨p11, q12, e⟩ := bd_o e
          have k14 := kJ6_treeify (G := nG N)  q12
          have z15 := (k14 rr8).1.2.2.2
          refine r_callVo (j := none) 1 [tr o2] (c := 13) (rc := (RJ6, TJ6, 11)) rfl g13 rfl k14 (injO_0 E.p) subO_0 getO_0 setO_0 (lw_V q740 q741 q742 q131 q743) (by decide +kernel) rfl (Nat.le_of_ble_eq_true rfl) (Nat.le_of_ble_eq_true rfl) rfl (Nat.le_of_ble_eq_true rfl) dJ6_split_168 rfl ?_
          refine r_rrs E.p (fun rr16 => ?_)
          refine r_sub [0, 1, 2, 3, 4, 6, 9] rfl ?_
          exact wJ6_split_b171 E p11 o1 o2 a3 a4 o6 o8 a11 ha3 ha4 ha11 e
      · have e := eF c5
        refine r_aload_n dJ6_split_143 rfl 1 rfl ?_
        refine r_iload_n dJ6_split_144 rfl 2 rfl ?_
        refine r_aload dJ6_split_145 4 rfl ?_
        refine r_aload_n dJ6_split_147 rfl 0 rfl ?_
        obtain ⟨g19, e⟩ := gd_o e
        obtain ⟨p17, q18, e⟩ := bd_o e
        have k20 := kJ6_untreeify (G := nG N)  q18
        have z21 := (k20 rr).1.2.2.2
        refine r_callVo (j := none) 1 [tr o1] (c := 13) (rc := (RJ6, TJ6, 11)) rfl g19 rfl k20 (injO_0 E.p) subO_0 getO_0 setO_0 (lw_V q702 q703 q704 q131 q705) (by decide +kernel) rfl (Nat.le_of_ble_eq_true rfl) (Nat.le_of_ble_eq_true rfl) rfl (Nat.le_of_ble_eq_true rfl) dJ6_split_148 rfl ?_
        refine r_rrs E.p (fun rr22 => ?_)
        obtain ⟨h23, q24, e⟩ := bd_o e
        refine r_aPQ (t := 6) ha3 q24 sto_6 (by decide) dJ6_split_151 ?_
        refine r_rrs E.p (fun rr25 => ?_)
        refine r_goto 171 dJ6_split_152 (by decide) ?_
        refine r_sub [0, 1, 2, 3, 4, 6, 9] rfl ?_
        exact wJ6_split_b171 E h23 o1 o2 a3 a4 o6 o8 a11 ha3 ha4 ha11 e
  · have e := eF x2 c1
    refine r_aload dJ6_split_30 10 rfl ?_
    obtain ⟨v26, q27, e⟩ := bd_o e
    refine r_getQ fG_J6_22 q27 dJ6_split_32 ?_
    obtain ⟨g28, e⟩ := gd_o e
    refine r_cast cst_3 q701 (inC_p g28) dJ6_split_35 ?_
    refine r_astore (lv' := [(13, tr v26), (1, tr o1), (2, tr o2), (3, ti a3), (4, ti a4), (6, tr o6), (7, tr o7), (8, tr o8), (9, tr o9), (10, ti a10), (11, ti a11), (12, tr o12)]) dJ6_split_38 (E.lt (by decide)) rfl ?_
    refine r_aload dJ6_split_40 11 rfl ?_
    refine r_null dJ6_split_42 ?_
    obtain ⟨h29, q30, e⟩ := bd_o e
    refine r_put (v := vq none) fP_J6_22 (by first | exact fun q => absurd q (by decide) | exact fun _ => rfl) trivial q30 dJ6_split_43 ?_
    refine r_rrs E.p (fun rr31 => ?_)
    refine r_aload dJ6_split_46 11 rfl ?_
    obtain ⟨v32, q33, e⟩ := bd_o e
    refine r_getI fG_J6_15 q33 dJ6_split_48 ?_
    refine r_iload dJ6_split_51 4 rfl ?_
    refine r_iand dJ6_split_53 ?_
    have eT := (r_ifo e).1
    have eF := (r_ifo e).2
    refine r_if_ne (iand_r _ _) 92 dJ6_split_54 (by decide) (fun c34 => ?_) (fun c34 => ?_)
    · have e := eT c34
      refine r_aload dJ6_split_92 11 rfl ?_
      refine r_aload dJ6_split_94 8 rfl ?_
      refine r_dup_x1 dJ6_split_96 rfl rfl ?_
      obtain ⟨h35, q36, e⟩ := bd_o e
      refine r_put (v := vq o9) fP_J6_19 (by first | exact fun q => absurd q (by decide) | exact fun _ => rfl) trivial q36 dJ6_split_97 ?_
      refine r_rrs E.p (fun rr37 => ?_)
      have eT := (r_ifno e).1
      have eF := (r_ifno e).2
      refine r_ifnonnull 110 dJ6_split_100 (by decide) (fun c38 => ?_) (fun x39 c38 => ?_)
      · have e := eT c38
        refine r_aload dJ6_split_103 11 rfl ?_
        refine r_astore (lv' := [(8, tr o12), (13, tr v26), (1, tr o1), (2, tr o2), (3, ti a3), (4, ti a4), (6, tr o6), (7, tr o7), (9, tr o9), (10, ti a10), (11, ti a11), (12, tr o12)]) dJ6_split_105 (E.lt (by decide)) rfl ?_
        refine r_goto 117 dJ6_split_107 (by decide) ?_
        refine r_sub [2, 3, 4, 5, 6, 7, 0, 9, 10, 11, 1] rfl ?_
        exact wJ6_split_b117 E K25 hK25 h35 o1 o2 a3 a4 o6 o7 o12 a10 a11 o12 v26 ha3 ha4 ha10 ha11 e
      · have e := eF x39 c38
        refine r_aload dJ6_split_110 8 rfl ?_
        refine r_aload dJ6_split_112 11 rfl ?_
        obtain ⟨h40, q41, e⟩ := bd_o e
        refine r_put (v := vq o12) fP_J6_22 (by first | exact fun q => absurd q (by decide) | exact fun _ => rfl) trivial q41 dJ6_split_114 ?_
        refine r_rrs E.p (fun rr42 => ?_)
        refine r_sub [1, 2, 3, 4, 5, 6, 7, 9, 10, 11, 0] rfl ?_
        exact wJ6_split_b117 E K25 hK25 h40 o1 o2 a3 a4 o6 o7 o8 a10 a11 o12 v26 ha3 ha4 ha10 ha11 e
    · have e := eF c34
      refine r_aload dJ6_split_57 11 rfl ?_
      refine r_aload dJ6_split_59 6 rfl ?_
      refine r_dup_x1 dJ6_split_61 rfl rfl ?_
      obtain ⟨h43, q44, e⟩ := bd_o e
      refine r_put (v := vq o7) fP_J6_19 (by first | exact fun q => absurd q (by decide) | exact fun _ => rfl) trivial q44 dJ6_split_62 ?_
      refine r_rrs E.p (fun rr45 => ?_)
      have eT := (r_ifno e).1
      have eF := (r_ifno e).2
      refine r_ifnonnull 75 dJ6_split_65 (by decide) (fun c46 => ?_) (fun x47 c46 => ?_)
      · have e := eT c46
        refine r_aload dJ6_split_68 11 rfl ?_
        refine r_astore (lv' := [(6, tr o12), (13, tr v26), (1, tr o1), (2, tr o2), (3, ti a3), (4, ti a4), (7, tr o7), (8, tr o8), (9, tr o9), (10, ti a10), (11, ti a11), (12, tr o12)]) dJ6_split_70 (E.lt (by decide)) rfl ?_
        refine r_goto 82 dJ6_split_72 (by decide) ?_
        refine r_sub [2, 3, 4, 5, 0, 7, 8, 9, 10, 11, 1] rfl ?_
        exact wJ6_split_b82 E K25 hK25 h43 o1 o2 a3 a4 o12 o8 o9 a10 a11 o12 v26 ha3 ha4 ha10 ha11 e
      · have e := eF x47 c46
        refine r_aload dJ6_split_75 6 rfl ?_
        refine r_aload dJ6_split_77 11 rfl ?_
        obtain ⟨h48, q49, e⟩ := bd_o e
        refine r_put (v := vq o12) fP_J6_22 (by first | exact fun q => absurd q (by decide) | exact fun _ => rfl) trivial q49 dJ6_split_79 ?_
        refine r_rrs E.p (fun rr50 => ?_)
        refine r_sub [1, 2, 3, 4, 5, 7, 8, 9, 10, 11, 0] rfl ?_
        exact wJ6_split_b82 E K25 hK25 h48 o1 o2 a3 a4 o6 o8 o9 a10 a11 o12 v26 ha3 ha4 ha10 ha11 e
def fJ6_split_L25  : Nat → hS → Option Nat → Option Nat → Int → Int → Option Nat → Option Nat → Option Nat → Option Nat → Int → Int → Option Nat → Option (hS)
  | 0, _, _, _, _, _, _, _, _, _, _, _, _ => none
  | n9 + 1, h, o1, o2, a3, a4, o6, o7, o8, o9, a10, a11, o12 => fJ6_split_b25 (fJ6_split_L25 n9) h o1 o2 a3 a4 o6 o7 o8 o9 a10 a11 o12
theorem wJ6_split_L25 {N : Nx} {h' : hS} (E : EndX N [] 14 none none [] h')  : ∀ (n9 : Nat), ∀ (h : hS) (o1 : Option Nat) (o2 : Option Nat) (a3 : Int) (a4 : Int) (o6 : Option Nat) (o7 : Option Nat) (o8 : Option Nat) (o9 : Option Nat) (a10 : Int) (a11 : Int) (o12 : Option Nat) (ha3 : rI a3) (ha4 : rI a4) (ha10 : rI a10) (ha11 : rI a11), fJ6_split_L25 n9 h o1 o2 a3 a4 o6 o7 o8 o9 a10 a11 o12 = some (h') → AtPc cJ6_split RJ6 4 91 N [] h 25 [(1, tr o1), (2, tr o2), (3, ti a3), (4, ti a4), (6, tr o6), (7, tr o7), (8, tr o8), (9, tr o9), (10, ti a10), (11, ti a11), (12, tr o12)] [] := by
  intro n9
  induction n9 with
  | zero => intro h o1 o2 a3 a4 o6 o7 o8 o9 a10 a11 o12 ha3 ha4 ha10 ha11 e; cases e
  | succ n9 ih => intro h o1 o2 a3 a4 o6 o7 o8 o9 a10 a11 o12 ha3 ha4 ha10 ha11 e; exact wJ6_split_b25 E _ ih h o1 o2 a3 a4 o6 o7 o8 o9 a10 a11 o12 ha3 ha4 ha10 ha11 e
def fJ6_split  (h : hS) (o0 : Option Nat) (o1 : Option Nat) (o2 : Option Nat) (a3 : Int) (a4 : Int) : Option (hS) := fJ6_split_L25 FU h o1 o2 a3 a4 none none none none 0 0 o0
theorem kJ6_split {G : Gx}  {h' : hS} {h : hS} {o0 : Option Nat} {o1 : Option Nat} {o2 : Option Nat} {a3 : Int} {a4 : Int}  (ha3 : rI a3) (ha4 : rI a4) (e : fJ6_split h o0 o1 o2 a3 a4 = some (h')) : CtX G yJ6_split cJ6_split 14 none 4 91 [] [] h [tr o0, tr o1, tr o2, ti a3, ti a4] none [] h' := by
  refine CtX.of (by decide) (Nat.le_of_ble_eq_true rfl) [(0, tr o0), (1, tr o1), (2, tr o2), (3, ti a3), (4, ti a4)] rfl ?_
  have E : EndX (G, 14, [], h, [], h', none, none, yJ6_split.name) [] 14 none none [] h' := ⟨rfl, rfl, rfl, rfl, rfl, rfl⟩
  unfold fJ6_split at e
  refine r_rrs E.p (fun rr => ?_)
  refine r_aload_n dJ6_split_0 rfl 0 rfl ?_
  refine r_astore (lv' := [(5, tr o0), (0, tr o0), (1, tr o1), (2, tr o2), (3, ti a3), (4, ti a4)]) dJ6_split_1 (E.lt (by decide)) rfl ?_
  refine r_null dJ6_split_3 ?_
  refine r_astore (lv' := [(6, tr none), (5, tr o0), (0, tr o0), (1, tr o1), (2, tr o2), (3, ti a3), (4, ti a4)]) dJ6_split_4 (E.lt (by decide)) rfl ?_
  refine r_null dJ6_split_6 ?_
  refine r_astore (lv' := [(7, tr none), (6, tr none), (5, tr o0), (0, tr o0), (1, tr o1), (2, tr o2), (3, ti a3), (4, ti a4)]) dJ6_split_7 (E.lt (by decide)) rfl ?_
  refine r_null dJ6_split_9 ?_
  refine r_astore (lv' := [(8, tr none), (7, tr none), (6, tr none), (5, tr o0), (0, tr o0), (1, tr o1), (2, tr o2), (3, ti a3), (4, ti a4)]) dJ6_split_10 (E.lt (by decide)) rfl ?_
  refine r_null dJ6_split_12 ?_
  refine r_astore (lv' := [(9, tr none), (8, tr none), (7, tr none), (6, tr none), (5, tr o0), (0, tr o0), (1, tr o1), (2, tr o2), (3, ti a3), (4, ti a4)]) dJ6_split_13 (E.lt (by decide)) rfl ?_
  refine r_iconst dJ6_split_15 ?_
  refine r_istore (lv' := [(10, ti 0), (9, tr none), (8, tr none), (7, tr none), (6, tr none), (5, tr o0), (0, tr o0), (1, tr o1), (2, tr o2), (3, ti a3), (4, ti a4)]) dJ6_split_16 (E.lt (by decide)) rfl ?_
  refine r_iconst dJ6_split_18 ?_
  refine r_istore (lv' := [(11, ti 0), (10, ti 0), (9, tr none), (8, tr none), (7, tr none), (6, tr none), (5, tr o0), (0, tr o0), (1, tr o1), (2, tr o2), (3, ti a3), (4, ti a4)]) dJ6_split_19 (E.lt (by decide)) rfl ?_
  refine r_aload dJ6_split_21 6 rfl ?_
  refine r_astore (lv' := [(12, tr o0), (11, ti 0), (10, ti 0), (9, tr none), (8, tr none), (7, tr none), (6, tr none), (5, tr o0), (0, tr o0), (1, tr o1), (2, tr o2), (3, ti a3), (4, ti a4)]) dJ6_split_23 (E.lt (by decide)) rfl ?_
  refine r_sub [9, 10, 11, 12, 6, 5, 4, 3, 2, 1, 0] rfl ?_
  exact wJ6_split_L25 E FU h o1 o2 a3 a4 none none none none 0 0 o0 ha3 ha4 (by decide) (by decide) e
theorem fG_J1_88 : FldG RJ1 88 [(11, 6)] := List.forall_mem_cons.mpr ⟨⟨RJ1, TJ1, 8, "java/util/HashMap", rfl, in_J1, by decide, q262, Or.inl rfl⟩, fun _ h => absurd h List.not_mem_nil⟩
theorem fP_J1_88 : FldP RJ1 88 [(11, 6)] .int false := List.forall_mem_cons.mpr ⟨⟨RJ1, TJ1, 8, "java/util/HashMap", tyJ1, rfl, in_J1, by decide, q262, Or.inl rfl, tyJ1_ok, nmJ1, rfl, Or.inl rfl, by decide⟩, fun _ h => absurd h List.not_mem_nil⟩
theorem fP_J1_105 : FldP RJ1 105 [(11, 2)] (.array (.object "java/util/HashMap$Node")) false := List.forall_mem_cons.mpr ⟨⟨RJ1, TJ1, 8, "java/util/HashMap", tyJ1, rfl, in_J1, by decide, q259, Or.inl rfl, tyJ1_ok, nmJ1, rfl, Or.inl rfl, by decide⟩, fun _ h => absurd h List.not_mem_nil⟩
theorem fP_J1_177 : FldP RJ1 177 [(12, 3), (13, 5)] (.object "java/util/HashMap$Node") false := List.forall_mem_cons.mpr ⟨⟨RJ4, TJ4, 4, "java/util/HashMap$Node", tyJ4, rfl, in_J4, by decide, q729, Or.inl rfl, tyJ4_ok, nmJ4, rfl, Or.inl rfl, by decide⟩, List.forall_mem_cons.mpr ⟨⟨RJ6, TJ6, 11, "java/util/HashMap$Node", tyJ6, rfl, in_J6, by decide, q729, Or.inl rfl, tyJ6_ok, nmJ6, rfl, Or.inl rfl, by decide⟩, fun _ h => absurd h List.not_mem_nil⟩⟩
def fJ1_resize_b347 (K151 : hS → Option Nat → Option Nat → Int → Int → Option Nat → Int → Option (Option Nat × hS)) (h : hS) (o0 : Option Nat) (o1 : Option Nat) (a2 : Int) (a4 : Int) (o6 : Option Nat) (a7 : Int) : Option (Option Nat × hS) := K151 h o0 o1 a2 a4 o6 (wr (a7 + 1))
theorem wJ1_resize_b347 {N : Nx} {h' : hS} {r : Option Nat} (E : EndX N [] 14 (some (.array (.object "java/util/HashMap$Node"))) (some (tr r)) [] h') (K151 : hS → Option Nat → Option Nat → Int → Int → Option Nat → Int → Option (Option Nat × hS)) (hK151 : ∀ (h : hS) (o0 : Option Nat) (o1 : Option Nat) (a2 : Int) (a4 : Int) (o6 : Option Nat) (a7 : Int) (ha2 : rI a2) (ha4 : rI a4) (ha7 : rI a7), K151 h o0 o1 a2 a4 o6 a7 = some (r, h') → AtPc cJ1_resize RJ1 5 124 N [] h 151 [(0, tr o0), (1, tr o1), (2, ti a2), (4, ti a4), (6, tr o6), (7, ti a7)] []) (h : hS) (o0 : Option Nat) (o1 : Option Nat) (a2 : Int) (a4 : Int) (o6 : Option Nat) (a7 : Int) (ha2 : rI a2) (ha4 : rI a4) (ha7 : rI a7) (e : fJ1_resize_b347 K151 h o0 o1 a2 a4 o6 a7 = some (r, h')) : AtPc cJ1_resize RJ1 5 124 N [] h 347 [(0, tr o0), (1, tr o1), (2, ti a2), (4, ti a4), (6, tr o6), (7, ti a7)] [] := by
  unfold fJ1_resize_b347 at e
  refine r_rrs E.p (fun rr => ?_)
  refine r_iinc (lv' := [(7, ti (wr (a7 + 1))), (0, tr o0), (1, tr o1), (2, ti a2), (4, ti a4), (6, tr o6)]) dJ1_resize_347 5 rfl (E.lt (by decide)) rfl ?_
  refine r_goto 151 dJ1_resize_350 (by decide) ?_
  refine r_sub [1, 2, 3, 4, 5, 0] rfl ?_
  exact hK151 h o0 o1 a2 a4 o6 (wr (a7 + 1)) ha2 ha4 (wr_r _) e
def fJ1_resize_b327 (K151 : hS → Option Nat → Option Nat → Int → Int → Option Nat → Int → Option (Option Nat × hS)) (h : hS) (o0 : Option Nat) (o1 : Option Nat) (a2 : Int) (a4 : Int) (o6 : Option Nat) (a7 : Int) (o11 : Option Nat) (o12 : Option Nat) : Option (Option Nat × hS) := ifN o12 (fJ1_resize_b347 K151 h o0 o1 a2 a4 o6 a7) (fun _ => bd (hW h o12 [(12, 3), (13, 5)] (vq none)) fun h3 => bd (aWQ h3 o6 6 [12, 13] (wr (a7 + a2)) o11) fun h6 => fJ1_resize_b347 K151 h6 o0 o1 a2 a4 o6 a7)
theorem wJ1_resize_b327 {N : Nx} {h' : hS} {r : Option Nat} (E : EndX N [] 14 (some (.array (.object "java/util/HashMap$Node"))) (some (tr r)) [] h') (K151 : hS → Option Nat → Option Nat → Int → Int → Option Nat → Int → Option (Option Nat × hS)) (hK151 : ∀ (h : hS) (o0 : Option Nat) (o1 : Option Nat) (a2 : Int) (a4 : Int) (o6 : Option Nat) (a7 : Int) (ha2 : rI a2) (ha4 : rI a4) (ha7 : rI a7), K151 h o0 o1 a2 a4 o6 a7 = some (r, h') → AtPc cJ1_resize RJ1 5 124 N [] h 151 [(0, tr o0), (1, tr o1), (2, ti a2), (4, ti a4), (6, tr o6), (7, ti a7)] []) (h : hS) (o0 : Option Nat) (o1 : Option Nat) (a2 : Int) (a4 : Int) (o6 : Option Nat) (a7 : Int) (o11 : Option Nat) (o12 : Option Nat) (ha2 : rI a2) (ha4 : rI a4) (ha7 : rI a7) (e : fJ1_resize_b327 K151 h o0 o1 a2 a4 o6 a7 o11 o12 = some (r, h')) : AtPc cJ1_resize RJ1 5 124 N [] h 327 [(0, tr o0), (1, tr o1), (2, ti a2), (4, ti a4), (6, tr o6), (7, ti a7), (11, tr o11), (12, tr o12)] [] := by
  unfold fJ1_resize_b327 at e
  refine r_rrs E.p (fun rr => ?_)
  refine r_aload dJ1_resize_327 7 rfl ?_
  have eT := (r_ifno e).1
  have eF := (r_ifno e).2
  refine r_ifnull 347 dJ1_resize_329 (by decide) (fun c1 => ?_) (fun x2 c1 => ?_)
  · have e := eT c1
    refine r_sub [0, 1, 2, 3, 4, 5] rfl ?_
    exact wJ1_resize_b347 E K151 hK151 h o0 o1 a2 a4 o6 a7 ha2 ha4 ha7 e
  · have e := eF x2 c1
    refine r_aload dJ1_resize_332 7 rfl ?_
    refine r_null dJ1_resize_334 ?_
    obtain ⟨h3, q4, e⟩ := bd_o e
    refine r_put (v := vq none) fP_J1_177 (by first | exact fun q => absurd q (by decide) | exact fun _ => rfl) trivial q4 dJ1_resize_335 ?_
    refine r_rrs E.p (fun rr5 => ?_)
    refine r_aload dJ1_resize_338 4 rfl ?_
    refine r_iload dJ1_resize_340 5 rfl ?_
    refine r_iload_n dJ1_resize_342 rfl 2 rfl ?_
    refine r_iadd dJ1_resize_343 ?_
    refine r_aload dJ1_resize_344 6 rfl ?_
    obtain ⟨h6, q7, e⟩ := bd_o e
    refine r_aPQ (t := 6) (wr_r _) q7 sto_6 (by decide) dJ1_resize_346 ?_
    refine r_rrs E.p (fun rr8 => ?_)
    refine r_sub [0, 1, 2, 3, 4, 5] rfl ?_
    exact wJ1_resize_b347 E K151 hK151 h6 o0 o1 a2 a4 o6 a7 ha2 ha4 ha7 e
def fJ1_resize_b301 (K151 : hS → Option Nat → Option Nat → Int → Int → Option Nat → Int → Option (Option Nat × hS)) (K235 : hS → Option Nat → Option Nat → Int → Int → Option Nat → Int → Option Nat → Option Nat → Option Nat → Option Nat → Option Nat → Option (Option Nat × hS)) (h : hS) (o0 : Option Nat) (o1 : Option Nat) (a2 : Int) (a4 : Int) (o6 : Option Nat) (a7 : Int) (o9 : Option Nat) (o10 : Option Nat) (o11 : Option Nat) (o12 : Option Nat) (o13 : Option Nat) : Option (Option Nat × hS) := ifN o13 (ifN o10 (fJ1_resize_b327 K151 h o0 o1 a2 a4 o6 a7 o11 o12) (fun _ => bd (hW h o10 [(12, 3), (13, 5)] (vq none)) fun h5 => bd (aWQ h5 o6 6 [12, 13] a7 o9) fun h8 => fJ1_resize_b327 K151 h8 o0 o1 a2 a4 o6 a7 o11 o12)) (fun _ => K235 h o0 o1 a2 a4 o6 a7 o13 o9 o10 o11 o12)
theorem wJ1_resize_b301 {N : Nx} {h' : hS} {r : Option Nat} (E : EndX N [] 14 (some (.array (.object "java/util/HashMap$Node"))) (some (tr r)) [] h') (K151 : hS → Option Nat → Option Nat → Int → Int → Option Nat → Int → Option (Option Nat × hS)) (hK151 : ∀ (h : hS) (o0 : Option Nat) (o1 : Option Nat) (a2 : Int) (a4 : Int) (o6 : Option Nat) (a7 : Int) (ha2 : rI a2) (ha4 : rI a4) (ha7 : rI a7), K151 h o0 o1 a2 a4 o6 a7 = some (r, h') → AtPc cJ1_resize RJ1 5 124 N [] h 151 [(0, tr o0), (1, tr o1), (2, ti a2), (4, ti a4), (6, tr o6), (7, ti a7)] []) (K235 : hS → Option Nat → Option Nat → Int → Int → Option Nat → Int → Option Nat → Option Nat → Option Nat → Option Nat → Option Nat → Option (Option Nat × hS)) (hK235 : ∀ (h : hS) (o0 : Option Nat) (o1 : Option Nat) (a2 : Int) (a4 : Int) (o6 : Option Nat) (a7 : Int) (o8 : Option Nat) (o9 : Option Nat) (o10 : Option Nat) (o11 : Option Nat) (o12 : Option Nat) (ha2 : rI a2) (ha4 : rI a4) (ha7 : rI a7), K235 h o0 o1 a2 a4 o6 a7 o8 o9 o10 o11 o12 = some (r, h') → AtPc cJ1_resize RJ1 5 124 N [] h 235 [(0, tr o0), (1, tr o1), (2, ti a2), (4, ti a4), (6, tr o6), (7, ti a7), (8, tr o8), (9, tr o9), (10, tr o10), (11, tr o11), (12, tr o12)] []) (h : hS) (o0 : Option Nat) (o1 : Option Nat) (a2 : Int) (a4 : Int) (o6 : Option Nat) (a7 : Int) (o9 : Option Nat) (o10 : Option Nat) (o11 : Option Nat) (o12 : Option Nat) (o13 : Option Nat) (ha2 : rI a2) (ha4 : rI a4) (ha7 : rI a7) (e : fJ1_resize_b301 K151 K235 h o0 o1 a2 a4 o6 a7 o9 o10 o11 o12 o13 = some (r, h')) : AtPc cJ1_resize RJ1 5 124 N [] h 301 [(0, tr o0), (1, tr o1), (2, ti a2), (4, ti a4), (6, tr o6), (7, ti a7), (9, tr o9), (10, tr o10), (11, tr o11), (12, tr o12), (13, tr o13)] [] := by
  unfold fJ1_resize_b301 at e
  refine r_rrs E.p (fun rr => ?_)
  refine r_aload dJ1_resize_301 10 rfl ?_
  refine r_dup dJ1_resize_303 rfl ?_
  refine r_astore (lv' := [(8, tr o13), (0, tr o0), (1, tr o1), (2, ti a2), (4, ti a4), (6, tr o6), (7, ti a7), (9, tr o9), (10, tr o10), (11, tr o11), (12, tr o12), (13, tr o13)]) dJ1_resize_304 (E.lt (by decide)) rfl ?_
  have eT := (r_ifno e).1
  have eF := (r_ifno e).2
  refine r_ifnonnull 235 dJ1_resize_306 (by decide) (fun c1 => ?_) (fun x2 c1 => ?_)
  · have e := eT c1
    refine r_aload dJ1_resize_309 8 rfl ?_
    have eT := (r_ifno e).1
    have eF := (r_ifno e).2
    refine r_ifnull 327 dJ1_resize_311 (by decide) (fun c3 => ?_) (fun x4 c3 => ?_)
    · have e := eT c3
      refine r_sub [1, 2, 3, 4, 5, 6, 9, 10] rfl ?_
      exact wJ1_resize_b327 E K151 hK151 h o0 o1 a2 a4 o6 a7 o11 o12 ha2 ha4 ha7 e
    · have e := eF x4 c3
      refine r_aload dJ1_resize_314 8 rfl ?_
      refine r_null dJ1_resize_316 ?_
      obtain ⟨h5, q6, e⟩ := bd_o e
      refine r_put (v := vq none) fP_J1_177 (by first | exact fun q => absurd q (by decide) | exact fun _ => rfl) trivial q6 dJ1_resize_317 ?_
      refine r_rrs E.p (fun rr7 => ?_)
      refine r_aload dJ1_resize_320 5 rfl ?_
      refine r_iload dJ1_resize_322 6 rfl ?_
      refine r_aload dJ1_resize_324 7 rfl ?_
      obtain ⟨h8, q9, e⟩ := bd_o e
      refine r_aPQ (t := 6) ha7 q9 sto_6 (by decide) dJ1_resize_326 ?_
      refine r_rrs E.p (fun rr10 => ?_)
      refine r_sub [1, 2, 3, 4, 5, 6, 9, 10] rfl ?_
      exact wJ1_resize_b327 E K151 hK151 h8 o0 o1 a2 a4 o6 a7 o11 o12 ha2 ha4 ha7 e
  · have e := eF x2 c1
    refine r_sub [1, 2, 3, 4, 5, 6, 0, 7, 8, 9, 10] rfl ?_
    exact hK235 h o0 o1 a2 a4 o6 a7 o13 o9 o10 o11 o12 ha2 ha4 ha7 e
def fJ1_resize_b271 (K151 : hS → Option Nat → Option Nat → Int → Int → Option Nat → Int → Option (Option Nat × hS)) (K235 : hS → Option Nat → Option Nat → Int → Int → Option Nat → Int → Option Nat → Option Nat → Option Nat → Option Nat → Option Nat → Option (Option Nat × hS)) (h : hS) (o0 : Option Nat) (o1 : Option Nat) (a2 : Int) (a4 : Int) (o6 : Option Nat) (a7 : Int) (o8 : Option Nat) (o9 : Option Nat) (o11 : Option Nat) (o12 : Option Nat) (o13 : Option Nat) : Option (Option Nat × hS) := fJ1_resize_b301 K151 K235 h o0 o1 a2 a4 o6 a7 o9 o8 o11 o12 o13
theorem wJ1_resize_b271 {N : Nx} {h' : hS} {r : Option Nat} (E : EndX N [] 14 (some (.array (.object "java/util/HashMap$Node"))) (some (tr r)) [] h') (K151 : hS → Option Nat → Option Nat → Int → Int → Option Nat → Int → Option (Option Nat × hS)) (hK151 : ∀ (h : hS) (o0 : Option Nat) (o1 : Option Nat) (a2 : Int) (a4 : Int) (o6 : Option Nat) (a7 : Int) (ha2 : rI a2) (ha4 : rI a4) (ha7 : rI a7), K151 h o0 o1 a2 a4 o6 a7 = some (r, h') → AtPc cJ1_resize RJ1 5 124 N [] h 151 [(0, tr o0), (1, tr o1), (2, ti a2), (4, ti a4), (6, tr o6), (7, ti a7)] []) (K235 : hS → Option Nat → Option Nat → Int → Int → Option Nat → Int → Option Nat → Option Nat → Option Nat → Option Nat → Option Nat → Option (Option Nat × hS)) (hK235 : ∀ (h : hS) (o0 : Option Nat) (o1 : Option Nat) (a2 : Int) (a4 : Int) (o6 : Option Nat) (a7 : Int) (o8 : Option Nat) (o9 : Option Nat) (o10 : Option Nat) (o11 : Option Nat) (o12 : Option Nat) (ha2 : rI a2) (ha4 : rI a4) (ha7 : rI a7), K235 h o0 o1 a2 a4 o6 a7 o8 o9 o10 o11 o12 = some (r, h') → AtPc cJ1_resize RJ1 5 124 N [] h 235 [(0, tr o0), (1, tr o1), (2, ti a2), (4, ti a4), (6, tr o6), (7, ti a7), (8, tr o8), (9, tr o9), (10, tr o10), (11, tr o11), (12, tr o12)] []) (h : hS) (o0 : Option Nat) (o1 : Option Nat) (a2 : Int) (a4 : Int) (o6 : Option Nat) (a7 : Int) (o8 : Option Nat) (o9 : Option Nat) (o11 : Option Nat) (o12 : Option Nat) (o13 : Option Nat) (ha2 : rI a2) (ha4 : rI a4) (ha7 : rI a7) (e : fJ1_resize_b271 K151 K235 h o0 o1 a2 a4 o6 a7 o8 o9 o11 o12 o13 = some (r, h')) : AtPc cJ1_resize RJ1 5 124 N [] h 271 [(0, tr o0), (1, tr o1), (2, ti a2), (4, ti a4), (6, tr o6), (7, ti a7), (8, tr o8), (9, tr o9), (11, tr o11), (12, tr o12), (13, tr o13)] [] := by
  unfold fJ1_resize_b271 at e
  refine r_rrs E.p (fun rr => ?_)
  refine r_aload dJ1_resize_271 6 rfl ?_
  refine r_astore (lv' := [(10, tr o8), (0, tr o0), (1, tr o1), (2, ti a2), (4, ti a4), (6, tr o6), (7, ti a7), (8, tr o8), (9, tr o9), (11, tr o11), (12, tr o12), (13, tr o13)]) dJ1_resize_273 (E.lt (by decide)) rfl ?_
  refine r_goto 301 dJ1_resize_275 (by decide) ?_
  refine r_sub [1, 2, 3, 4, 5, 6, 8, 0, 9, 10, 11] rfl ?_
  exact wJ1_resize_b301 E K151 hK151 K235 hK235 h o0 o1 a2 a4 o6 a7 o9 o8 o11 o12 o13 ha2 ha4 ha7 e
def fJ1_resize_b297 (K151 : hS → Option Nat → Option Nat → Int → Int → Option Nat → Int → Option (Option Nat × hS)) (K235 : hS → Option Nat → Option Nat → Int → Int → Option Nat → Int → Option Nat → Option Nat → Option Nat → Option Nat → Option Nat → Option (Option Nat × hS)) (h : hS) (o0 : Option Nat) (o1 : Option Nat) (a2 : Int) (a4 : Int) (o6 : Option Nat) (a7 : Int) (o8 : Option Nat) (o9 : Option Nat) (o10 : Option Nat) (o11 : Option Nat) (o13 : Option Nat) : Option (Option Nat × hS) := fJ1_resize_b301 K151 K235 h o0 o1 a2 a4 o6 a7 o9 o10 o11 o8 o13
theorem wJ1_resize_b297 {N : Nx} {h' : hS} {r : Option Nat} (E : EndX N [] 14 (some (.array (.object "java/util/HashMap$Node"))) (some (tr r)) [] h') (K151 : hS → Option Nat → Option Nat → Int → Int → Option Nat → Int → Option (Option Nat × hS)) (hK151 : ∀ (h : hS) (o0 : Option Nat) (o1 : Option Nat) (a2 : Int) (a4 : Int) (o6 : Option Nat) (a7 : Int) (ha2 : rI a2) (ha4 : rI a4) (ha7 : rI a7), K151 h o0 o1 a2 a4 o6 a7 = some (r, h') → AtPc cJ1_resize RJ1 5 124 N [] h 151 [(0, tr o0), (1, tr o1), (2, ti a2), (4, ti a4), (6, tr o6), (7, ti a7)] []) (K235 : hS → Option Nat → Option Nat → Int → Int → Option Nat → Int → Option Nat → Option Nat → Option Nat → Option Nat → Option Nat → Option (Option Nat × hS)) (hK235 : ∀ (h : hS) (o0 : Option Nat) (o1 : Option Nat) (a2 : Int) (a4 : Int) (o6 : Option Nat) (a7 : Int) (o8 : Option Nat) (o9 : Option Nat) (o10 : Option Nat) (o11 : Option Nat) (o12 : Option Nat) (ha2 : rI a2) (ha4 : rI a4) (ha7 : rI a7), K235 h o0 o1 a2 a4 o6 a7 o8 o9 o10 o11 o12 = some (r, h') → AtPc cJ1_resize RJ1 5 124 N [] h 235 [(0, tr o0), (1, tr o1), (2, ti a2), (4, ti a4), (6, tr o6), (7, ti a7), (8, tr o8), (9, tr o9), (10, tr o10), (11, tr o11), (12, tr o12)] []) (h : hS) (o0 : Option Nat) (o1 : Option Nat) (a2 : Int) (a4 : Int) (o6 : Option Nat) (a7 : Int) (o8 : Option Nat) (o9 : Option Nat) (o10 : Option Nat) (o11 : Option Nat) (o13 : Option Nat) (ha2 : rI a2) (ha4 : rI a4) (ha7 : rI a7) (e : fJ1_resize_b297 K151 K235 h o0 o1 a2 a4 o6 a7 o8 o9 o10 o11 o13 = some (r, h')) : AtPc cJ1_resize RJ1 5 124 N [] h 297 [(0, tr o0), (1, tr o1), (2, ti a2), (4, ti a4), (6, tr o6), (7, ti a7), (8, tr o8), (9, tr o9), (10, tr o10), (11, tr o11), (13, tr o13)] [] := by
  unfold fJ1_resize_b297 at e
  refine r_rrs E.p (fun rr => ?_)
  refine r_aload dJ1_resize_297 6 rfl ?_
  refine r_astore (lv' := [(12, tr o8), (0, tr o0), (1, tr o1), (2, ti a2), (4, ti a4), (6, tr o6), (7, ti a7), (8, tr o8), (9, tr o9), (10, tr o10), (11, tr o11), (13, tr o13)]) dJ1_resize_299 (E.lt (by decide)) rfl ?_
  refine r_sub [1, 2, 3, 4, 5, 6, 8, 9, 10, 0, 11] rfl ?_
  exact wJ1_resize_b301 E K151 hK151 K235 hK235 h o0 o1 a2 a4 o6 a7 o9 o10 o11 o8 o13 ha2 ha4 ha7 e
def fJ1_resize_b235 (K151 : hS → Option Nat → Option Nat → Int → Int → Option Nat → Int → Option (Option Nat × hS)) (K235 : hS → Option Nat → Option Nat → Int → Int → Option Nat → Int → Option Nat → Option Nat → Option Nat → Option Nat → Option Nat → Option (Option Nat × hS)) (h : hS) (o0 : Option Nat) (o1 : Option Nat) (a2 : Int) (a4 : Int) (o6 : Option Nat) (a7 : Int) (o8 : Option Nat) (o9 : Option Nat) (o10 : Option Nat) (o11 : Option Nat) (o12 : Option Nat) : Option (Option Nat × hS) := bd (hQ h o8 [(12, 3), (13, 5)]) fun v1 => bd (hI h o8 [(12, 0), (13, 2)]) fun v3 => if ¬ (iand v3 a2) = 0 then ifN o12 (fJ1_resize_b297 K151 K235 h o0 o1 a2 a4 o6 a7 o8 o9 o10 o8 v1) (fun _ => bd (hW h o12 [(12, 3), (13, 5)] (vq o8)) fun h8 => fJ1_resize_b297 K151 K235 h8 o0 o1 a2 a4 o6 a7 o8 o9 o10 o11 v1) else ifN o10 (fJ1_resize_b271 K151 K235 h o0 o1 a2 a4 o6 a7 o8 o8 o11 o12 v1) (fun _ => bd (hW h o10 [(12, 3), (13, 5)] (vq o8)) fun h13 => fJ1_resize_b271 K151 K235 h13 o0 o1 a2 a4 o6 a7 o8 o9 o11 o12 v1)
theorem wJ1_resize_b235 {N : Nx} {h' : hS} {r : Option Nat} (E : EndX N [] 14 (some (.array (.object "java/util/HashMap$Node"))) (some (tr r)) [] h') (K151 : hS → Option Nat → Option Nat → Int → Int → Option Nat → Int → Option (Option Nat × hS)) (hK151 : ∀ (h : hS) (o0 : Option Nat) (o1 : Option Nat) (a2 : Int) (a4 : Int) (o6 : Option Nat) (a7 : Int) (ha2 : rI a2) (ha4 : rI a4) (ha7 : rI a7), K151 h o0 o1 a2 a4 o6 a7 = some (r, h') → AtPc cJ1_resize RJ1 5 124 N [] h 151 [(0, tr o0), (1, tr o1), (2, ti a2), (4, ti a4), (6, tr o6), (7, ti a7)] []) (K235 : hS → Option Nat → Option Nat → Int → Int → Option Nat → Int → Option Nat → Option Nat → Option Nat → Option Nat → Option Nat → Option (Option Nat × hS)) (hK235 : ∀ (h : hS) (o0 : Option Nat) (o1 : Option Nat) (a2 : Int) (a4 : Int) (o6 : Option Nat) (a7 : Int) (o8 : Option Nat) (o9 : Option Nat) (o10 : Option Nat) (o11 : Option Nat) (o12 : Option Nat) (ha2 : rI a2) (ha4 : rI a4) (ha7 : rI a7), K235 h o0 o1 a2 a4 o6 a7 o8 o9 o10 o11 o12 = some (r, h') → AtPc cJ1_resize RJ1 5 124 N [] h 235 [(0, tr o0), (1, tr o1), (2, ti a2), (4, ti a4), (6, tr o6), (7, ti a7), (8, tr o8), (9, tr o9), (10, tr o10), (11, tr o11), (12, tr o12)] []) (h : hS) (o0 : Option Nat) (o1 : Option Nat) (a2 : Int) (a4 : Int) (o6 : Option Nat) (a7 : Int) (o8 : Option Nat) (o9 : Option Nat) (o10 : Option Nat) (o11 : Option Nat) (o12 : Option Nat) (ha2 : rI a2) (ha4 : rI a4) (ha7 : rI a7) (e : fJ1_resize_b235 K151 K235 h o0 o1 a2 a4 o6 a7 o8 o9 o10 o11 o12 = some (r, h')) : AtPc cJ1_resize RJ1 5 124 N [] h 235 [(0, tr o0), (1, tr o1), (2, ti a2), (4, ti a4), (6, tr o6), (7, ti a7), (8, tr o8), (9, tr o9), (10, tr o10), (11, tr o11), (12, tr o12)] [] := by
  unfold fJ1_resize_b235 at e
  refine r_rrs E.p (fun rr => ?_)
  refine r_aload dJ1_resize_235 6 rfl ?_
  obtain ⟨v1, q2, e⟩ := bd_o e
  refine r_getQ fG_J1_177 q2 dJ1_resize_237 ?_
  refine r_astore (lv' := [(13, tr v1), (0, tr o0), (1, tr o1), (2, ti a2), (4, ti a4), (6, tr o6), (7, ti a7), (8, tr o8), (9, tr o9), (10, tr o10), (11, tr o11), (12, tr o12)]) dJ1_resize_240 (E.lt (by decide)) rfl ?_
  refine r_aload dJ1_resize_242 7 rfl ?_
  obtain ⟨v3, q4, e⟩ := bd_o e
  refine r_getI fG_J1_168 q4 dJ1_resize_244 ?_
  refine r_iload_n dJ1_resize_247 rfl 3 rfl ?_
  refine r_iand dJ1_resize_248 ?_
  have eT := (r_ifo e).1
  have eF := (r_ifo e).2
  refine r_if_ne (iand_r _ _) 278 dJ1_resize_249 (by decide) (fun c5 => ?_) (fun c5 => ?_)
  · have e := eT c5
    refine r_aload dJ1_resize_278 11 rfl ?_
    have eT := (r_ifno e).1
    have eF := (r_ifno e).2
    refine r_ifnonnull 290 dJ1_resize_280 (by decide) (fun c6 => ?_) (fun x7 c6 => ?_)
    · have e := eT c6
      refine r_aload dJ1_resize_283 7 rfl ?_
      refine r_astore (lv' := [(11, tr o8), (13, tr v1), (0, tr o0), (1, tr o1), (2, ti a2), (4, ti a4), (6, tr o6), (7, ti a7), (8, tr o8), (9, tr o9), (10, tr o10), (12, tr o12)]) dJ1_resize_285 (E.lt (by decide)) rfl ?_
      refine r_goto 297 dJ1_resize_287 (by decide) ?_
      refine r_sub [2, 3, 4, 5, 6, 7, 8, 9, 10, 0, 1] rfl ?_
      exact wJ1_resize_b297 E K151 hK151 K235 hK235 h o0 o1 a2 a4 o6 a7 o8 o9 o10 o8 v1 ha2 ha4 ha7 e
    · have e := eF x7 c6
      refine r_aload dJ1_resize_290 11 rfl ?_
      refine r_aload dJ1_resize_292 7 rfl ?_
      obtain ⟨h8, q9, e⟩ := bd_o e
      refine r_put (v := vq o8) fP_J1_177 (by first | exact fun q => absurd q (by decide) | exact fun _ => rfl) trivial q9 dJ1_resize_294 ?_
      refine r_rrs E.p (fun rr10 => ?_)
      refine r_sub [1, 2, 3, 4, 5, 6, 7, 8, 9, 10, 0] rfl ?_
      exact wJ1_resize_b297 E K151 hK151 K235 hK235 h8 o0 o1 a2 a4 o6 a7 o8 o9 o10 o11 v1 ha2 ha4 ha7 e
  · have e := eF c5
    refine r_aload dJ1_resize_252 9 rfl ?_
    have eT := (r_ifno e).1
    have eF := (r_ifno e).2
    refine r_ifnonnull 264 dJ1_resize_254 (by decide) (fun c11 => ?_) (fun x12 c11 => ?_)
    · have e := eT c11
      refine r_aload dJ1_resize_257 7 rfl ?_
      refine r_astore (lv' := [(9, tr o8), (13, tr v1), (0, tr o0), (1, tr o1), (2, ti a2), (4, ti a4), (6, tr o6), (7, ti a7), (8, tr o8), (10, tr o10), (11, tr o11), (12, tr o12)]) dJ1_resize_259 (E.lt (by decide)) rfl ?_
      refine r_goto 271 dJ1_resize_261 (by decide) ?_
      refine r_sub [2, 3, 4, 5, 6, 7, 8, 0, 10, 11, 1] rfl ?_
      exact wJ1_resize_b271 E K151 hK151 K235 hK235 h o0 o1 a2 a4 o6 a7 o8 o8 o11 o12 v1 ha2 ha4 ha7 e
    · have e := eF x12 c11
      refine r_aload dJ1_resize_264 9 rfl ?_
      refine r_aload dJ1_resize_266 7 rfl ?_
      obtain ⟨h13, q14, e⟩ := bd_o e
      refine r_put (v := vq o8) fP_J1_177 (by first | exact fun q => absurd q (by decide) | exact fun _ => rfl) trivial q14 dJ1_resize_268 ?_
      refine r_rrs E.p (fun rr15 => ?_)
      refine r_sub [1, 2, 3, 4, 5, 6, 7, 8, 10, 11, 0] rfl ?_
      exact wJ1_resize_b271 E K151 hK151 K235 hK235 h13 o0 o1 a2 a4 o6 a7 o8 o9 o11 o12 v1 ha2 ha4 ha7 e
def fJ1_resize_L235 (K151 : hS → Option Nat → Option Nat → Int → Int → Option Nat → Int → Option (Option Nat × hS)) : Nat → hS → Option Nat → Option Nat → Int → Int → Option Nat → Int → Option Nat → Option Nat → Option Nat → Option Nat → Option Nat → Option (Option Nat × hS)
  | 0, _, _, _, _, _, _, _, _, _, _, _, _ => none
  | n9 + 1, h, o0, o1, a2, a4, o6, a7, o8, o9, o10, o11, o12 => fJ1_resize_b235 K151 (fJ1_resize_L235 K151 n9) h o0 o1 a2 a4 o6 a7 o8 o9 o10 o11 o12
theorem wJ1_resize_L235 {N : Nx} {h' : hS} {r : Option Nat} (E : EndX N [] 14 (some (.array (.object "java/util/HashMap$Node"))) (some (tr r)) [] h') (K151 : hS → Option Nat → Option Nat → Int → Int → Option Nat → Int → Option (Option Nat × hS)) (hK151 : ∀ (h : hS) (o0 : Option Nat) (o1 : Option Nat) (a2 : Int) (a4 : Int) (o6 : Option Nat) (a7 : Int) (ha2 : rI a2) (ha4 : rI a4) (ha7 : rI a7), K151 h o0 o1 a2 a4 o6 a7 = some (r, h') → AtPc cJ1_resize RJ1 5 124 N [] h 151 [(0, tr o0), (1, tr o1), (2, ti a2), (4, ti a4), (6, tr o6), (7, ti a7)] []) : ∀ (n9 : Nat), ∀ (h : hS) (o0 : Option Nat) (o1 : Option Nat) (a2 : Int) (a4 : Int) (o6 : Option Nat) (a7 : Int) (o8 : Option Nat) (o9 : Option Nat) (o10 : Option Nat) (o11 : Option Nat) (o12 : Option Nat) (ha2 : rI a2) (ha4 : rI a4) (ha7 : rI a7), fJ1_resize_L235 K151 n9 h o0 o1 a2 a4 o6 a7 o8 o9 o10 o11 o12 = some (r, h') → AtPc cJ1_resize RJ1 5 124 N [] h 235 [(0, tr o0), (1, tr o1), (2, ti a2), (4, ti a4), (6, tr o6), (7, ti a7), (8, tr o8), (9, tr o9), (10, tr o10), (11, tr o11), (12, tr o12)] [] := by
  intro n9
  induction n9 with
  | zero => intro h o0 o1 a2 a4 o6 a7 o8 o9 o10 o11 o12 ha2 ha4 ha7 e; cases e
  | succ n9 ih => intro h o0 o1 a2 a4 o6 a7 o8 o9 o10 o11 o12 ha2 ha4 ha7 e; exact wJ1_resize_b235 E K151 hK151 _ ih h o0 o1 a2 a4 o6 a7 o8 o9 o10 o11 o12 ha2 ha4 ha7 e
def fJ1_resize_b353 (h : hS) (o6 : Option Nat) : Option (Option Nat × hS) := some (o6, h)
theorem wJ1_resize_b353 {N : Nx} {h' : hS} {r : Option Nat} (E : EndX N [] 14 (some (.array (.object "java/util/HashMap$Node"))) (some (tr r)) [] h')  (h : hS) (o6 : Option Nat) (e : fJ1_resize_b353 h o6 = some (r, h')) : AtPc cJ1_resize RJ1 5 124 N [] h 353 [(6, tr o6)] [] := by
  unfold fJ1_resize_b353 at e
  refine r_rrs E.p (fun rr => ?_)
  refine r_aload dJ1_resize_353 0 rfl ?_
  cases e
  exact r_aret E.σ E.st E.rt (by first | exact Or.inl ⟨_, rfl⟩ | exact Or.inr ⟨_, rfl⟩) E.r dJ1_resize_355
def fJ1_resize_b151 (K151 : hS → Option Nat → Option Nat → Int → Int → Option Nat → Int → Option (Option Nat × hS)) (h : hS) (o0 : Option Nat) (o1 : Option Nat) (a2 : Int) (a4 : Int) (o6 : Option Nat) (a7 : Int) : Option (Option Nat × hS) := if a2 ≤ a7 then fJ1_resize_b353 h o6 else bd (aQ h o1 6 a7) fun v2 => ifN v2 (fJ1_resize_b347 K151 h o0 o1 a2 a4 o6 a7) (fun _ => bd (aWQ h o1 6 [12, 13] a7 none) fun h6 => bd (hQ h6 v2 [(12, 3), (13, 5)]) fun v9 => ifN v9 (bd (hI h6 v2 [(12, 0), (13, 2)]) fun v13 => bd (aWQ h6 o6 6 [12, 13] (iand v13 (wr (a4 - 1))) v2) fun h15 => fJ1_resize_b347 K151 h15 o0 o1 a2 a4 o6 a7) (fun _ => if inC h6 v2 [13] = true then gd (v2 = none ∨ inC h6 v2 [13] = true) (gd (hC h6 v2 = some 13) (bd (fJ6_split h6 v2 o0 o6 a7 a2) fun p21 => fJ1_resize_b347 K151 p21 o0 o1 a2 a4 o6 a7)) else gd (hC h6 v2 = some 12) (fJ1_resize_L235 K151 FU h6 o0 o1 a2 a4 o6 a7 v2 none none none none)))
theorem wJ1_resize_b151 {N : Nx} {h' : hS} {r : Option Nat} (E : EndX N [] 14 (some (.array (.object "java/util/HashMap$Node"))) (some (tr r)) [] h') (K151 : hS → Option Nat → Option Nat → Int → Int → Option Nat → Int → Option (Option Nat × hS)) (hK151 : ∀ (h : hS) (o0 : Option Nat) (o1 : Option Nat) (a2 : Int) (a4 : Int) (o6 : Option Nat) (a7 : Int) (ha2 : rI a2) (ha4 : rI a4) (ha7 : rI a7), K151 h o0 o1 a2 a4 o6 a7 = some (r, h') → AtPc cJ1_resize RJ1 5 124 N [] h 151 [(0, tr o0), (1, tr o1), (2, ti a2), (4, ti a4), (6, tr o6), (7, ti a7)] []) (h : hS) (o0 : Option Nat) (o1 : Option Nat) (a2 : Int) (a4 : Int) (o6 : Option Nat) (a7 : Int) (ha2 : rI a2) (ha4 : rI a4) (ha7 : rI a7) (e : fJ1_resize_b151 K151 h o0 o1 a2 a4 o6 a7 = some (r, h')) : AtPc cJ1_resize RJ1 5 124 N [] h 151 [(0, tr o0), (1, tr o1), (2, ti a2), (4, ti a4), (6, tr o6), (7, ti a7)] [] := by
  unfold fJ1_resize_b151 at e
  refine r_rrs E.p (fun rr => ?_)
  refine r_iload dJ1_resize_151 5 rfl ?_
  refine r_iload_n dJ1_resize_153 rfl 2 rfl ?_
  have eT := (r_ifo e).1
  have eF := (r_ifo e).2
  refine r_icmp_ge ha7 ha2 353 dJ1_resize_154 (by decide) (fun c1 => ?_) (fun c1 => ?_)
  · have e := eT c1
    refine r_sub [4] rfl ?_
    exact wJ1_resize_b353 E h o6 e
  · have e := eF c1
    refine r_aload_n dJ1_resize_157 rfl 1 rfl ?_
    refine r_iload dJ1_resize_158 5 rfl ?_
    obtain ⟨v2, q3, e⟩ := bd_o e
    refine r_aQ ha7 q3 dJ1_resize_160 ?_
    refine r_dup dJ1_resize_161 rfl ?_
    refine r_astore (lv' := [(8, tr v2), (0, tr o0), (1, tr o1), (2, ti a2), (4, ti a4), (6, tr o6), (7, ti a7)]) dJ1_resize_162 (E.lt (by decide)) rfl ?_
    have eT := (r_ifno e).1
    have eF := (r_ifno e).2
    refine r_ifnull 347 dJ1_resize_164 (by decide) (fun c4 => ?_) (fun x5 c4 => ?_)
    · have e := eT c4
      refine r_sub [1, 2, 3, 4, 5, 6] rfl ?_
      exact wJ1_resize_b347 E K151 hK151 h o0 o1 a2 a4 o6 a7 ha2 ha4 ha7 e
    · have e := eF x5 c4
      refine r_aload_n dJ1_resize_167 rfl 2 rfl ?_
      refine r_iload dJ1_resize_168 6 rfl ?_
      refine r_null dJ1_resize_170 ?_
      obtain ⟨h6, q7, e⟩ := bd_o e
      refine r_aPQ (t := 6) ha7 q7 sto_6 (by decide) dJ1_resize_171 ?_
      refine r_rrs E.p (fun rr8 => ?_)
      refine r_aload dJ1_resize_172 0 rfl ?_
      obtain ⟨v9, q10, e⟩ := bd_o e
      refine r_getQ fG_J1_177 q10 dJ1_resize_174 ?_
      have eT := (r_ifno e).1
      have eF := (r_ifno e).2
      refine r_ifnonnull 198 dJ1_resize_177 (by decide) (fun c11 => ?_) (fun x12 c11 => ?_)
      · have e := eT c11
        refine r_aload dJ1_resize_180 5 rfl ?_
        refine r_aload dJ1_resize_182 0 rfl ?_
        obtain ⟨v13, q14, e⟩ := bd_o e
        refine r_getI fG_J1_168 q14 dJ1_resize_184 ?_
        refine r_iload dJ1_resize_187 4 rfl ?_
        refine r_iconst dJ1_resize_189 ?_
        refine r_isub dJ1_resize_190 ?_
        refine r_iand dJ1_resize_191 ?_
        refine r_aload dJ1_resize_192 0 rfl ?_
        obtain ⟨h15, q16, e⟩ := bd_o e
        refine r_aPQ (t := 6) (iand_r _ _) q16 sto_6 (by decide) dJ1_resize_194 ?_
        refine r_rrs E.p (fun rr17 => ?_)
        refine r_goto 347 dJ1_resize_195 (by decide) ?_
        refine r_sub [1, 2, 3, 4, 5, 6] rfl ?_
        exact wJ1_resize_b347 E K151 hK151 h15 o0 o1 a2 a4 o6 a7 ha2 ha4 ha7 e
      · have e := eF x12 c11
        refine r_aload dJ1_resize_198 0 rfl ?_
        have eT := (r_ifo e).1
        have eF := (r_ifo e).2
        by_cases c18 : inC h6 v2 [13] = true
        · have e := eT c18
          refine r_inst1 cst_3 q614 (inC_o c18) dJ1_resize_200 ?_
          refine r_if_eq (by decide) 223 dJ1_resize_203 (by decide) (fun c19 => absurd c19 (by decide)) (fun c19 => ?_)
          refine r_aload dJ1_resize_206 0 rfl ?_
          obtain ⟨g20, e⟩ := gd_o e
          refine r_cast cst_3 q614 (inC_p g20) dJ1_resize_208 ?_
          refine r_aload_n dJ1_resize_211 rfl 1 rfl ?_
          refine r_aload dJ1_resize_212 5 rfl ?_
          refine r_iload dJ1_resize_214 6 rfl ?_
          refine r_iload_n dJ1_resize_216 rfl 3 rfl ?_
          obtain ⟨g23, e⟩ := gd_o e
          obtain ⟨p21, q22, e⟩ := bd_o e
          have k24 := kJ6_split (G := nG N) ha7 ha2 q22
          have z25 := (k24 rr8).1.2.2.2
          refine r_callVo (j := none) 4 [tr o0, tr o6, ti a7, ti a2] (c := 13) (rc := (RJ6, TJ6, 11)) rfl g23 rfl k24 (injO_0 E.p) subO_0 getO_0 setO_0 (lw_V q697 q698 q699 q131 q700) (by decide +kernel) rfl (Nat.le_of_ble_eq_true rfl) (Nat.le_of_ble_eq_true rfl) rfl (Nat.le_of_ble_eq_true rfl) dJ1_resize_217 rfl ?_
          refine r_rrs E.p (fun rr26 => ?_)
          refine r_goto 347 dJ1_resize_220 (by decide) ?_
          refine r_sub [1, 2, 3, 4, 5, 6] rfl ?_
          exact wJ1_resize_b347 E K151 hK151 p21 o0 o1 a2 a4 o6 a7 ha2 ha4 ha7 e
        · have e := eF c18
          obtain ⟨g27, e⟩ := gd_o e
          refine r_inst0 (c := 12) (r := (RJ4, TJ4, 4)) rfl (by decide) q614 g27 dJ1_resize_200 ?_
          refine r_if_eq (by decide) 223 dJ1_resize_203 (by decide) (fun c28 => ?_) (fun c28 => absurd (by decide) c28)
          refine r_null dJ1_resize_223 ?_
          refine r_astore (lv' := [(9, tr none), (8, tr v2), (0, tr o0), (1, tr o1), (2, ti a2), (4, ti a4), (6, tr o6), (7, ti a7)]) dJ1_resize_224 (E.lt (by decide)) rfl ?_
          refine r_null dJ1_resize_226 ?_
          refine r_astore (lv' := [(10, tr none), (9, tr none), (8, tr v2), (0, tr o0), (1, tr o1), (2, ti a2), (4, ti a4), (6, tr o6), (7, ti a7)]) dJ1_resize_227 (E.lt (by decide)) rfl ?_
          refine r_null dJ1_resize_229 ?_
          refine r_astore (lv' := [(11, tr none), (10, tr none), (9, tr none), (8, tr v2), (0, tr o0), (1, tr o1), (2, ti a2), (4, ti a4), (6, tr o6), (7, ti a7)]) dJ1_resize_230 (E.lt (by decide)) rfl ?_
          refine r_null dJ1_resize_232 ?_
          refine r_astore (lv' := [(12, tr none), (11, tr none), (10, tr none), (9, tr none), (8, tr v2), (0, tr o0), (1, tr o1), (2, ti a2), (4, ti a4), (6, tr o6), (7, ti a7)]) dJ1_resize_233 (E.lt (by decide)) rfl ?_
          refine r_sub [5, 6, 7, 8, 9, 10, 4, 3, 2, 1, 0] rfl ?_
          exact wJ1_resize_L235 E K151 hK151 FU h6 o0 o1 a2 a4 o6 a7 v2 none none none none ha2 ha4 ha7 e
def fJ1_resize_L151  : Nat → hS → Option Nat → Option Nat → Int → Int → Option Nat → Int → Option (Option Nat × hS)
  | 0, _, _, _, _, _, _, _ => none
  | n9 + 1, h, o0, o1, a2, a4, o6, a7 => fJ1_resize_b151 (fJ1_resize_L151 n9) h o0 o1 a2 a4 o6 a7
theorem wJ1_resize_L151 {N : Nx} {h' : hS} {r : Option Nat} (E : EndX N [] 14 (some (.array (.object "java/util/HashMap$Node"))) (some (tr r)) [] h')  : ∀ (n9 : Nat), ∀ (h : hS) (o0 : Option Nat) (o1 : Option Nat) (a2 : Int) (a4 : Int) (o6 : Option Nat) (a7 : Int) (ha2 : rI a2) (ha4 : rI a4) (ha7 : rI a7), fJ1_resize_L151 n9 h o0 o1 a2 a4 o6 a7 = some (r, h') → AtPc cJ1_resize RJ1 5 124 N [] h 151 [(0, tr o0), (1, tr o1), (2, ti a2), (4, ti a4), (6, tr o6), (7, ti a7)] [] := by
  intro n9
  induction n9 with
  | zero => intro h o0 o1 a2 a4 o6 a7 ha2 ha4 ha7 e; cases e
  | succ n9 ih => intro h o0 o1 a2 a4 o6 a7 ha2 ha4 ha7 e; exact wJ1_resize_b151 E _ ih h o0 o1 a2 a4 o6 a7 ha2 ha4 ha7 e
def fJ1_resize_b85 (h : hS) (o0 : Option Nat) (o1 : Option Nat) (a2 : Int) (a4 : Int) (a5 : Int) : Option (Option Nat × hS) := if ¬ a5 = 0 then bd (hW h o0 [(11, 6)] (vi a5)) fun h2 => bd (nwQS h2 6 a4) fun p5 => bd (hW p5.2 o0 [(11, 2)] (vq (some p5.1))) fun h8 => ifN o1 (fJ1_resize_b353 h8 (some p5.1)) (fun _ => fJ1_resize_L151 FU h8 o0 o1 a2 a4 (some p5.1) 0) else none
theorem wJ1_resize_b85 {N : Nx} {h' : hS} {r : Option Nat} (E : EndX N [] 14 (some (.array (.object "java/util/HashMap$Node"))) (some (tr r)) [] h')  (h : hS) (o0 : Option Nat) (o1 : Option Nat) (a2 : Int) (a4 : Int) (a5 : Int) (ha2 : rI a2) (ha4 : rI a4) (ha5 : rI a5) (e : fJ1_resize_b85 h o0 o1 a2 a4 a5 = some (r, h')) : AtPc cJ1_resize RJ1 5 124 N [] h 85 [(0, tr o0), (1, tr o1), (2, ti a2), (4, ti a4), (5, ti a5)] [] := by
  unfold fJ1_resize_b85 at e
  refine r_rrs E.p (fun rr => ?_)
  refine r_iload dJ1_resize_85 4 rfl ?_
  have eT := (r_ifo e).1
  have eF := (r_ifo e).2
  refine r_if_ne ha5 125 dJ1_resize_87 (by decide) (fun c1 => ?_) (fun c1 => ?_)
  · have e := eT c1
    refine r_aload_n dJ1_resize_125 rfl 0 rfl ?_
    refine r_iload dJ1_resize_126 4 rfl ?_
    obtain ⟨h2, q3, e⟩ := bd_o e
    refine r_put (v := vi a5) fP_J1_88 (by first | exact fun q => absurd q (by decide) | exact fun _ => rfl) ha5 q3 dJ1_resize_128 ?_
    refine r_rrs E.p (fun rr4 => ?_)
    refine r_iload dJ1_resize_131 3 rfl ?_
    obtain ⟨p5, q6, e⟩ := bd_o e
    refine r_newQS (t := 6) q6 (by decide) (by decide) rfl q695 (by decide) dJ1_resize_133 ?_
    refine r_rrs E.p (fun rr7 => ?_)
    refine r_astore (lv' := [(6, tr (some p5.1)), (0, tr o0), (1, tr o1), (2, ti a2), (4, ti a4), (5, ti a5)]) dJ1_resize_136 (E.lt (by decide)) rfl ?_
    refine r_aload_n dJ1_resize_138 rfl 1 rfl ?_
    refine r_aload dJ1_resize_139 0 rfl ?_
    obtain ⟨h8, q9, e⟩ := bd_o e
    refine r_put (v := vq (some p5.1)) fP_J1_105 (by first | exact fun q => absurd q (by decide) | exact fun _ => rfl) trivial q9 dJ1_resize_141 ?_
    refine r_rrs E.p (fun rr10 => ?_)
    refine r_aload_n dJ1_resize_144 rfl 2 rfl ?_
    have eT := (r_ifno e).1
    have eF := (r_ifno e).2
    refine r_ifnull 353 dJ1_resize_145 (by decide) (fun c11 => ?_) (fun x12 c11 => ?_)
    · have e := eT c11
      refine r_sub [0] rfl ?_
      exact wJ1_resize_b353 E h8 (some p5.1) e
    · have e := eF x12 c11
      refine r_iconst dJ1_resize_148 ?_
      refine r_istore (lv' := [(7, ti 0), (6, tr (some p5.1)), (0, tr o0), (1, tr o1), (2, ti a2), (4, ti a4), (5, ti a5)]) dJ1_resize_149 (E.lt (by decide)) rfl ?_
      refine r_sub [2, 3, 4, 5, 1, 0] rfl ?_
      exact wJ1_resize_L151 E FU h8 o0 o1 a2 a4 (some p5.1) 0 ha2 ha4 (by decide) e
  · have e := eF c1
    cases e
def fJ1_resize_b15 (h : hS) (o0 : Option Nat) (o1 : Option Nat) (k0 : Int) : Option (Option Nat × hS) := bd (hI h o0 [(11, 6)]) fun v1 => if k0 ≤ 0 then if v1 ≤ 0 then fJ1_resize_b85 h o0 o1 k0 16 12 else fJ1_resize_b85 h o0 o1 k0 v1 0 else if k0 < 1073741824 then if 1073741824 ≤ (ishl k0 1) then fJ1_resize_b85 h o0 o1 k0 (ishl k0 1) 0 else if k0 < 16 then fJ1_resize_b85 h o0 o1 k0 (ishl k0 1) 0 else fJ1_resize_b85 h o0 o1 k0 (ishl k0 1) (ishl v1 1) else bd (hW h o0 [(11, 6)] (vi 2147483647)) fun h8 => some (o1, h8)
theorem wJ1_resize_b15 {N : Nx} {h' : hS} {r : Option Nat} (E : EndX N [] 14 (some (.array (.object "java/util/HashMap$Node"))) (some (tr r)) [] h')  (h : hS) (o0 : Option Nat) (o1 : Option Nat) (k0 : Int) (hk0 : rI k0) (e : fJ1_resize_b15 h o0 o1 k0 = some (r, h')) : AtPc cJ1_resize RJ1 5 124 N [] h 15 [(0, tr o0), (1, tr o1)] [ti k0] := by
  unfold fJ1_resize_b15 at e
  refine r_rrs E.p (fun rr => ?_)
  refine r_istore_n (lv' := [(2, ti k0), (0, tr o0), (1, tr o1)]) dJ1_resize_15 rfl (E.lt (by decide)) rfl ?_
  refine r_aload_n dJ1_resize_16 rfl 1 rfl ?_
  obtain ⟨v1, q2, e⟩ := bd_o e
  refine r_getI fG_J1_88 q2 dJ1_resize_17 ?_
  refine r_istore_n (lv' := [(3, ti v1), (2, ti k0), (0, tr o0), (1, tr o1)]) dJ1_resize_20 rfl (E.lt (by decide)) rfl ?_
  refine r_iconst dJ1_resize_21 ?_
  refine r_istore (lv' := [(5, ti 0), (3, ti v1), (2, ti k0), (0, tr o0), (1, tr o1)]) dJ1_resize_22 (E.lt (by decide)) rfl ?_
  refine r_iload_n dJ1_resize_24 rfl 2 rfl ?_
  have eT := (r_ifo e).1
  have eF := (r_ifo e).2
  refine r_if_le hk0 67 dJ1_resize_25 (by decide) (fun c3 => ?_) (fun c3 => ?_)
  · have e := eT c3
    refine r_iload_n dJ1_resize_67 rfl 1 rfl ?_
    have eT := (r_ifo e).1
    have eF := (r_ifo e).2
    refine r_if_le (hI_r rr q2) 77 dJ1_resize_68 (by decide) (fun c4 => ?_) (fun c4 => ?_)
    · have e := eT c4
      refine r_bipush dJ1_resize_77 (by decide) ?_
      refine r_istore (lv' := [(4, ti 16), (5, ti 0), (3, ti v1), (2, ti k0), (0, tr o0), (1, tr o1)]) dJ1_resize_79 (E.lt (by decide)) rfl ?_
      refine r_bipush dJ1_resize_81 (by decide) ?_
      refine r_istore (lv' := [(5, ti 12), (4, ti 16), (3, ti v1), (2, ti k0), (0, tr o0), (1, tr o1)]) dJ1_resize_83 (E.lt (by decide)) rfl ?_
      refine r_sub [4, 5, 3, 1, 0] rfl ?_
      exact wJ1_resize_b85 E h o0 o1 k0 16 12 hk0 (by decide) (by decide) e
    · have e := eF c4
      refine r_iload_n dJ1_resize_71 rfl 1 rfl ?_
      refine r_istore (lv' := [(4, ti v1), (5, ti 0), (3, ti v1), (2, ti k0), (0, tr o0), (1, tr o1)]) dJ1_resize_72 (E.lt (by decide)) rfl ?_
      refine r_goto 85 dJ1_resize_74 (by decide) ?_
      refine r_sub [4, 5, 3, 0, 1] rfl ?_
      exact wJ1_resize_b85 E h o0 o1 k0 v1 0 hk0 (hI_r rr q2) (by decide) e
  · have e := eF c3
    refine r_iload_n dJ1_resize_28 rfl 2 rfl ?_
    refine r_ldc 1073741824 q692 (by decide) dJ1_resize_29 ?_
    have eT := (r_ifo e).1
    have eF := (r_ifo e).2
    refine r_icmp_lt hk0 (by decide) 42 dJ1_resize_31 (by decide) (fun c5 => ?_) (fun c5 => ?_)
    · have e := eT c5
      refine r_iload_n dJ1_resize_42 rfl 2 rfl ?_
      refine r_iconst dJ1_resize_43 ?_
      refine r_ishl dJ1_resize_44 ?_
      refine r_dup dJ1_resize_45 rfl ?_
      refine r_istore (lv' := [(4, ti (ishl k0 1)), (5, ti 0), (3, ti v1), (2, ti k0), (0, tr o0), (1, tr o1)]) dJ1_resize_46 (E.lt (by decide)) rfl ?_
      refine r_ldc 1073741824 q692 (by decide) dJ1_resize_48 ?_
      have eT := (r_ifo e).1
      have eF := (r_ifo e).2
      refine r_icmp_ge (ishl_r _ _) (by decide) 85 dJ1_resize_50 (by decide) (fun c6 => ?_) (fun c6 => ?_)
      · have e := eT c6
        refine r_sub [4, 5, 3, 0, 1] rfl ?_
        exact wJ1_resize_b85 E h o0 o1 k0 (ishl k0 1) 0 hk0 (ishl_r _ _) (by decide) e
      · have e := eF c6
        refine r_iload_n dJ1_resize_53 rfl 3 rfl ?_
        refine r_bipush dJ1_resize_54 (by decide) ?_
        have eT := (r_ifo e).1
        have eF := (r_ifo e).2
        refine r_icmp_lt hk0 (by decide) 85 dJ1_resize_56 (by decide) (fun c7 => ?_) (fun c7 => ?_)
        · have e := eT c7
          refine r_sub [4, 5, 3, 0, 1] rfl ?_
          exact wJ1_resize_b85 E h o0 o1 k0 (ishl k0 1) 0 hk0 (ishl_r _ _) (by decide) e
        · have e := eF c7
          refine r_iload_n dJ1_resize_59 rfl 2 rfl ?_
          refine r_iconst dJ1_resize_60 ?_
          refine r_ishl dJ1_resize_61 ?_
          refine r_istore (lv' := [(5, ti (ishl v1 1)), (4, ti (ishl k0 1)), (3, ti v1), (2, ti k0), (0, tr o0), (1, tr o1)]) dJ1_resize_62 (E.lt (by decide)) rfl ?_
          refine r_goto 85 dJ1_resize_64 (by decide) ?_
          refine r_sub [4, 5, 3, 1, 0] rfl ?_
          exact wJ1_resize_b85 E h o0 o1 k0 (ishl k0 1) (ishl v1 1) hk0 (ishl_r _ _) (ishl_r _ _) e
    · have e := eF c5
      refine r_aload_n dJ1_resize_34 rfl 3 rfl ?_
      refine r_ldc 2147483647 q693 (by decide) dJ1_resize_35 ?_
      obtain ⟨h8, q9, e⟩ := bd_o e
      refine r_put (v := vi 2147483647) fP_J1_88 (by first | exact fun q => absurd q (by decide) | exact fun _ => rfl) (by show rI _; decide) q9 dJ1_resize_37 ?_
      refine r_rrs E.p (fun rr10 => ?_)
      refine r_aload_n dJ1_resize_40 rfl 4 rfl ?_
      cases e
      exact r_aret E.σ E.st E.rt (by first | exact Or.inl ⟨_, rfl⟩ | exact Or.inr ⟨_, rfl⟩) E.r dJ1_resize_41
def fJ1_resize  (h : hS) (o0 : Option Nat) : Option (Option Nat × hS) := bd (hQ h o0 [(11, 2)]) fun v1 => ifN v1 (fJ1_resize_b15 h o0 v1 0) (fun _ => bd (hL h v1 6) fun v5 => fJ1_resize_b15 h o0 v1 v5)
theorem kJ1_resize {G : Gx}  {h' : hS} {r : Option Nat} {h : hS} {o0 : Option Nat}   (e : fJ1_resize h o0 = some (r, h')) : CtX G yJ1_resize cJ1_resize 14 (some (.array (.object "java/util/HashMap$Node"))) 5 124 [] [] h [tr o0] (some (tr r)) [] h' := by
  refine CtX.of (by decide) (Nat.le_of_ble_eq_true rfl) [(0, tr o0)] rfl ?_
  have E : EndX (G, 14, [], h, [], h', (some (.array (.object "java/util/HashMap$Node"))), (some (tr r)), yJ1_resize.name) [] 14 (some (.array (.object "java/util/HashMap$Node"))) (some (tr r)) [] h' := ⟨rfl, rfl, rfl, rfl, rfl, rfl⟩
  unfold fJ1_resize at e
  refine r_rrs E.p (fun rr => ?_)
  refine r_aload_n dJ1_resize_0 rfl 0 rfl ?_
  obtain ⟨v1, q2, e⟩ := bd_o e
  refine r_getQ fG_J1_105 q2 dJ1_resize_1 ?_
  refine r_astore_n (lv' := [(1, tr v1), (0, tr o0)]) dJ1_resize_4 rfl (E.lt (by decide)) rfl ?_
  refine r_aload_n dJ1_resize_5 rfl 0 rfl ?_
  have eT := (r_ifno e).1
  have eF := (r_ifno e).2
  refine r_ifnonnull 13 dJ1_resize_6 (by decide) (fun c3 => ?_) (fun x4 c3 => ?_)
  · have e := eT c3
    refine r_iconst dJ1_resize_9 ?_
    refine r_goto 15 dJ1_resize_10 (by decide) ?_
    refine r_sub [1, 0] rfl ?_
    exact wJ1_resize_b15 E h o0 v1 0 (by decide) e
  · have e := eF x4 c3
    refine r_aload_n dJ1_resize_13 rfl 0 rfl ?_
    obtain ⟨v5, q6, e⟩ := bd_o e
    refine r_aL q6 dJ1_resize_14 ?_
    refine r_sub [1, 0] rfl ?_
    exact wJ1_resize_b15 E h o0 v1 v5 (hL_r rr q6) e
def fJ1_newNode  (h : hS) (o0 : Option Nat) (a1 : Int) (o2 : Option Nat) (o3 : Option Nat) (o4 : Option Nat) : Option (Option Nat × hS) := bd (nwS h 12 [vi 0, vq none, vq none, vq none]) fun p1 => bd (fJ4_init p1.2 (some p1.1) a1 o2 o3 o4) fun p4 => some ((some p1.1), p4)
theorem kJ1_newNode {G : Gx}  {h' : hS} {r : Option Nat} {h : hS} {o0 : Option Nat} {a1 : Int} {o2 : Option Nat} {o3 : Option Nat} {o4 : Option Nat}  (ha1 : rI a1) (e : fJ1_newNode h o0 a1 o2 o3 o4 = some (r, h')) : CtX G yJ1_newNode cJ1_newNode 5 (some (.object "java/util/HashMap$Node")) 2 44 [] [] h [tr o0, ti a1, tr o2, tr o3, tr o4] (some (tr r)) [] h' := by
  refine CtX.of (by decide) (Nat.le_of_ble_eq_true rfl) [(0, tr o0), (1, ti a1), (2, tr o2), (3, tr o3), (4, tr o4)] rfl ?_
  have E : EndX (G, 5, [], h, [], h', (some (.object "java/util/HashMap$Node")), (some (tr r)), yJ1_newNode.name) [] 5 (some (.object "java/util/HashMap$Node")) (some (tr r)) [] h' := ⟨rfl, rfl, rfl, rfl, rfl, rfl⟩
  unfold fJ1_newNode at e
  refine r_rrs E.p (fun rr => ?_)
  obtain ⟨p1, q2, e⟩ := bd_o e
  refine r_newS [vi 0, vq none, vq none, vq none] q2 rfl in_J4 tyJ4_ok q695 q710 q129 (by decide +kernel) rfl (by decide +kernel) dJ1_newNode_0 ?_
  refine r_rrs E.p (fun rr3 => ?_)
  refine r_dup dJ1_newNode_3 rfl ?_
  refine r_iload_n dJ1_newNode_4 rfl 1 rfl ?_
  refine r_aload_n dJ1_newNode_5 rfl 2 rfl ?_
  refine r_aload_n dJ1_newNode_6 rfl 3 rfl ?_
  refine r_aload dJ1_newNode_7 4 rfl ?_
  obtain ⟨p4, q5, e⟩ := bd_o e
  have k6 := kJ4_init (G := G) ha1 q5
  have z7 := (k6 rr3).1.2.2.2
  refine r_callIo (j := none) 4 [ti a1, tr o2, tr o3, tr o4] (fun q => by cases q) rfl rfl k6 (injO_0 E.p) subO_0 getO_0 setO_0 q713 q129 q711 q712 (by decide +kernel) rfl (Nat.le_of_ble_eq_true rfl) (Nat.le_of_ble_eq_true rfl) rfl (Nat.le_of_ble_eq_true rfl) dJ1_newNode_9 rfl ?_
  refine r_rrs E.p (fun rr8 => ?_)
  cases e
  exact r_aret E.σ E.st E.rt (by first | exact Or.inl ⟨_, rfl⟩ | exact Or.inr ⟨_, rfl⟩) E.r dJ1_newNode_12
def fJ5_init  (h : hS) (o0 : Option Nat) (a1 : Int) (o2 : Option Nat) (o3 : Option Nat) (o4 : Option Nat) : Option (hS) := gd (¬ o0 = none) (bd (fJ4_init h o0 a1 o2 o3 o4) fun p1 => some p1)
theorem kJ5_init {G : Gx}  {h' : hS} {h : hS} {o0 : Option Nat} {a1 : Int} {o2 : Option Nat} {o3 : Option Nat} {o4 : Option Nat}  (ha1 : rI a1) (e : fJ5_init h o0 a1 o2 o3 o4 = some (h')) : CtX G yJ5_init cJ5_init 5 none 2 44 [] [] h [tr o0, ti a1, tr o2, tr o3, tr o4] none [] h' := by
  refine CtX.of (by decide) (Nat.le_of_ble_eq_true rfl) [(0, tr o0), (1, ti a1), (2, tr o2), (3, tr o3), (4, tr o4)] rfl ?_
  have E : EndX (G, 5, [], h, [], h', none, none, yJ5_init.name) [] 5 none none [] h' := ⟨rfl, rfl, rfl, rfl, rfl, rfl⟩
  unfold fJ5_init at e
  refine r_rrs E.p (fun rr => ?_)
  refine r_aload_n dJ5_init_0 rfl 0 rfl ?_
  refine r_iload_n dJ5_init_1 rfl 1 rfl ?_
  refine r_aload_n dJ5_init_2 rfl 2 rfl ?_
  refine r_aload_n dJ5_init_3 rfl 3 rfl ?_
  refine r_aload dJ5_init_4 4 rfl ?_
  obtain ⟨g3, e⟩ := gd_o e
  obtain ⟨p1, q2, e⟩ := bd_o e
  have k4 := kJ4_init (G := G) ha1 q2
  have z5 := (k4 rr).1.2.2.2
  refine r_callIo (j := none) 4 [ti a1, tr o2, tr o3, tr o4] g3 rfl rfl k4 (injO_0 E.p) subO_0 getO_0 setO_0 q713 q129 q777 q712 (by decide +kernel) rfl (Nat.le_of_ble_eq_true rfl) (Nat.le_of_ble_eq_true rfl) rfl (Nat.le_of_ble_eq_true rfl) dJ5_init_6 rfl ?_
  refine r_rrs E.p (fun rr6 => ?_)
  cases e
  exact r_vret E.σ E.st E.rt E.r dJ5_init_9
def fJ6_init  (h : hS) (o0 : Option Nat) (a1 : Int) (o2 : Option Nat) (o3 : Option Nat) (o4 : Option Nat) : Option (hS) := gd (¬ o0 = none) (bd (fJ5_init h o0 a1 o2 o3 o4) fun p1 => some p1)
theorem kJ6_init {G : Gx}  {h' : hS} {h : hS} {o0 : Option Nat} {a1 : Int} {o2 : Option Nat} {o3 : Option Nat} {o4 : Option Nat}  (ha1 : rI a1) (e : fJ6_init h o0 a1 o2 o3 o4 = some (h')) : CtX G yJ6_init cJ6_init 5 none 3 68 [] [] h [tr o0, ti a1, tr o2, tr o3, tr o4] none [] h' := by
  refine CtX.of (by decide) (Nat.le_of_ble_eq_true rfl) [(0, tr o0), (1, ti a1), (2, tr o2), (3, tr o3), (4, tr o4)] rfl ?_
  have E : EndX (G, 5, [], h, [], h', none, none, yJ6_init.name) [] 5 none none [] h' := ⟨rfl, rfl, rfl, rfl, rfl, rfl⟩
  unfold fJ6_init at e
  refine r_rrs E.p (fun rr => ?_)
  refine r_aload_n dJ6_init_0 rfl 0 rfl ?_
  refine r_iload_n dJ6_init_1 rfl 1 rfl ?_
  refine r_aload_n dJ6_init_2 rfl 2 rfl ?_
  refine r_aload_n dJ6_init_3 rfl 3 rfl ?_
  refine r_aload dJ6_init_4 4 rfl ?_
  obtain ⟨g3, e⟩ := gd_o e
  obtain ⟨p1, q2, e⟩ := bd_o e
  have k4 := kJ5_init (G := G) ha1 q2
  have z5 := (k4 rr).1.2.2.2
  refine r_callIo (j := none) 4 [ti a1, tr o2, tr o3, tr o4] g3 rfl rfl k4 (injO_0 E.p) subO_0 getO_0 setO_0 q776 q130 q774 q775 (by decide +kernel) rfl (Nat.le_of_ble_eq_true rfl) (Nat.le_of_ble_eq_true rfl) rfl (Nat.le_of_ble_eq_true rfl) dJ6_init_6 rfl ?_
  refine r_rrs E.p (fun rr6 => ?_)
  cases e
  exact r_vret E.σ E.st E.rt E.r dJ6_init_9
def fJ1_newTreeNode  (h : hS) (o0 : Option Nat) (a1 : Int) (o2 : Option Nat) (o3 : Option Nat) (o4 : Option Nat) : Option (Option Nat × hS) := bd (nwS h 13 [vq none, vq none, vi 0, vq none, vq none, vq none, vq none, vq none, vq none, vq none, vi 0]) fun p1 => bd (fJ6_init p1.2 (some p1.1) a1 o2 o3 o4) fun p4 => some ((some p1.1), p4)
theorem kJ1_newTreeNode {G : Gx}  {h' : hS} {r : Option Nat} {h : hS} {o0 : Option Nat} {a1 : Int} {o2 : Option Nat} {o3 : Option Nat} {o4 : Option Nat}  (ha1 : rI a1) (e : fJ1_newTreeNode h o0 a1 o2 o3 o4 = some (r, h')) : CtX G yJ1_newTreeNode cJ1_newTreeNode 5 (some (.object "java/util/HashMap$TreeNode")) 4 92 [] [] h [tr o0, ti a1, tr o2, tr o3, tr o4] (some (tr r)) [] h' := by
  refine CtX.of (by decide) (Nat.le_of_ble_eq_true rfl) [(0, tr o0), (1, ti a1), (2, tr o2), (3, tr o3), (4, tr o4)] rfl ?_
  have E : EndX (G, 5, [], h, [], h', (some (.object "java/util/HashMap$TreeNode")), (some (tr r)), yJ1_newTreeNode.name) [] 5 (some (.object "java/util/HashMap$TreeNode")) (some (tr r)) [] h' := ⟨rfl, rfl, rfl, rfl, rfl, rfl⟩
  unfold fJ1_newTreeNode at e
  refine r_rrs E.p (fun rr => ?_)
  obtain ⟨p1, q2, e⟩ := bd_o e
  refine r_newS [vq none, vq none, vi 0, vq none, vq none, vq none, vq none, vq none, vq none, vq none, vi 0] q2 rfl in_J6 tyJ6_ok q614 q770 q131 (by decide +kernel) rfl (by decide +kernel) dJ1_newTreeNode_0 ?_
  refine r_rrs E.p (fun rr3 => ?_)
  refine r_dup dJ1_newTreeNode_3 rfl ?_
  refine r_iload_n dJ1_newTreeNode_4 rfl 1 rfl ?_
  refine r_aload_n dJ1_newTreeNode_5 rfl 2 rfl ?_
  refine r_aload_n dJ1_newTreeNode_6 rfl 3 rfl ?_
  refine r_aload dJ1_newTreeNode_7 4 rfl ?_
  obtain ⟨p4, q5, e⟩ := bd_o e
  have k6 := kJ6_init (G := G) ha1 q5
  have z7 := (k6 rr3).1.2.2.2
  refine r_callIo (j := none) 4 [ti a1, tr o2, tr o3, tr o4] (fun q => by cases q) rfl rfl k6 (injO_0 E.p) subO_0 getO_0 setO_0 q773 q131 q771 q772 (by decide +kernel) rfl (Nat.le_of_ble_eq_true rfl) (Nat.le_of_ble_eq_true rfl) rfl (Nat.le_of_ble_eq_true rfl) dJ1_newTreeNode_9 rfl ?_
  refine r_rrs E.p (fun rr8 => ?_)
  cases e
  exact r_aret E.σ E.st E.rt (by first | exact Or.inl ⟨_, rfl⟩ | exact Or.inr ⟨_, rfl⟩) E.r dJ1_newTreeNode_12
def fJ6_putTreeVal_b85 (h : hS) (o9 : Option Nat) : Option (Option Nat × hS) := some (o9, h)
theorem wJ6_putTreeVal_b85 {N : Nx} {h' : hS} {r : Option Nat} (E : EndX N [] 16 (some (.object "java/util/HashMap$TreeNode")) (some (tr r)) [] h')  (h : hS) (o9 : Option Nat) (e : fJ6_putTreeVal_b85 h o9 = some (r, h')) : AtPc cJ6_putTreeVal RJ6 18 396 N [] h 85 [(9, tr o9)] [] := by
  unfold fJ6_putTreeVal_b85 at e
  refine r_rrs E.p (fun rr => ?_)
  refine r_aload dJ6_putTreeVal_85 0 rfl ?_
  cases e
  exact r_aret E.σ E.st E.rt (by first | exact Or.inl ⟨_, rfl⟩ | exact Or.inr ⟨_, rfl⟩) E.r dJ6_putTreeVal_87
def fJ6_putTreeVal_b88 (h : hS) (o6 : Option Nat) : Option (Option Nat × hS) := none
theorem wJ6_putTreeVal_b88 {N : Nx} {h' : hS} {r : Option Nat} (E : EndX N [] 16 (some (.object "java/util/HashMap$TreeNode")) (some (tr r)) [] h')  (h : hS) (o6 : Option Nat) (e : fJ6_putTreeVal_b88 h o6 = some (r, h')) : AtPc cJ6_putTreeVal RJ6 18 396 N [] h 88 [(6, tr o6)] [] := by
  unfold fJ6_putTreeVal_b88 at e
  refine r_rrs E.p (fun rr => ?_)
  cases e
def fJ6_putTreeVal_b298 (h : hS) (o2 : Option Nat) (o8 : Option Nat) (o15 : Option Nat) : Option (Option Nat × hS) := bd (fJ6_balanceInsertion h o8 o15) fun p1 => bd (fJ6_moveRootToFront p1.2 o2 p1.1) fun p6 => some (none, p6)
theorem wJ6_putTreeVal_b298 {N : Nx} {h' : hS} {r : Option Nat} (E : EndX N [] 16 (some (.object "java/util/HashMap$TreeNode")) (some (tr r)) [] h')  (h : hS) (o2 : Option Nat) (o8 : Option Nat) (o15 : Option Nat) (e : fJ6_putTreeVal_b298 h o2 o8 o15 = some (r, h')) : AtPc cJ6_putTreeVal RJ6 18 396 N [] h 298 [(2, tr o2), (8, tr o8), (15, tr o15)] [] := by
  unfold fJ6_putTreeVal_b298 at e
  refine r_rrs E.p (fun rr => ?_)
  refine r_aload_n dJ6_putTreeVal_298 rfl 0 rfl ?_
  refine r_aload dJ6_putTreeVal_299 1 rfl ?_
  refine r_aload dJ6_putTreeVal_301 2 rfl ?_
  obtain ⟨p1, q2, e⟩ := bd_o e
  have k3 := kJ6_balanceInsertion (G := nG N)  q2
  have z4 := (k3 rr).1.2.2.2
  refine r_callS (j := none) 2 [tr o8, tr o15] k3 (injO_0 E.p) subO_0 getO_0 setO_0 (lw_S q744 q745 q131 q746) (by decide +kernel) rfl (Nat.le_of_ble_eq_true rfl) (Nat.le_of_ble_eq_true rfl) rfl (Nat.le_of_ble_eq_true rfl) dJ6_putTreeVal_303 rfl ?_
  refine r_rrs E.p (fun rr5 => ?_)
  obtain ⟨p6, q7, e⟩ := bd_o e
  have k8 := kJ6_moveRootToFront (G := nG N)  q7
  have z9 := (k8 rr5).1.2.2.2
  refine r_callS (j := none) 2 [tr o2, tr p1.1] k8 (injO_0 E.p) subO_0 getO_0 setO_0 (lw_S q753 q754 q131 q755) (by decide +kernel) rfl (Nat.le_of_ble_eq_true rfl) (Nat.le_of_ble_eq_true rfl) rfl (Nat.le_of_ble_eq_true rfl) dJ6_putTreeVal_306 rfl ?_
  refine r_rrs E.p (fun rr10 => ?_)
  refine r_null dJ6_putTreeVal_309 ?_
  cases e
  exact r_aret E.σ E.st E.rt (by first | exact Or.inl ⟨_, rfl⟩ | exact Or.inr ⟨_, rfl⟩) E.r dJ6_putTreeVal_310
def fJ6_putTreeVal_b263 (h : hS) (o2 : Option Nat) (o8 : Option Nat) (o13 : Option Nat) (o14 : Option Nat) (o15 : Option Nat) : Option (Option Nat × hS) := bd (hW h o13 [(13, 5)] (vq o15)) fun h1 => bd (hW h1 o15 [(13, 9)] (vq o13)) fun h4 => bd (hW h4 o15 [(13, 6)] (vq o13)) fun h7 => ifN o14 (fJ6_putTreeVal_b298 h7 o2 o8 o15) (fun _ => gd (o14 = none ∨ inC h7 o14 [13] = true) (bd (hW h7 o14 [(13, 9)] (vq o15)) fun h13 => fJ6_putTreeVal_b298 h13 o2 o8 o15))
theorem wJ6_putTreeVal_b263 {N : Nx} {h' : hS} {r : Option Nat} (E : EndX N [] 16 (some (.object "java/util/HashMap$TreeNode")) (some (tr r)) [] h')  (h : hS) (o2 : Option Nat) (o8 : Option Nat) (o13 : Option Nat) (o14 : Option Nat) (o15 : Option Nat) (e : fJ6_putTreeVal_b263 h o2 o8 o13 o14 o15 = some (r, h')) : AtPc cJ6_putTreeVal RJ6 18 396 N [] h 263 [(2, tr o2), (8, tr o8), (13, tr o13), (14, tr o14), (15, tr o15)] [] := by
  unfold fJ6_putTreeVal_b263 at e
  refine r_rrs E.p (fun rr => ?_)
  refine r_aload dJ6_putTreeVal_263 2 rfl ?_
  refine r_aload dJ6_putTreeVal_265 4 rfl ?_
  obtain ⟨h1, q2, e⟩ := bd_o e
  refine r_put (v := vq o15) fP_J6_22 (by first | exact fun q => absurd q (by decide) | exact fun _ => rfl) trivial q2 dJ6_putTreeVal_267 ?_
  refine r_rrs E.p (fun rr3 => ?_)
  refine r_aload dJ6_putTreeVal_270 4 rfl ?_
  refine r_aload dJ6_putTreeVal_272 4 rfl ?_
  refine r_aload dJ6_putTreeVal_274 2 rfl ?_
  refine r_dup_x1 dJ6_putTreeVal_276 rfl rfl ?_
  obtain ⟨h4, q5, e⟩ := bd_o e
  refine r_put (v := vq o13) fP_J6_19 (by first | exact fun q => absurd q (by decide) | exact fun _ => rfl) trivial q5 dJ6_putTreeVal_277 ?_
  refine r_rrs E.p (fun rr6 => ?_)
  obtain ⟨h7, q8, e⟩ := bd_o e
  refine r_put (v := vq o13) fP_J6_9 (by first | exact fun q => absurd q (by decide) | exact fun _ => rfl) trivial q8 dJ6_putTreeVal_280 ?_
  refine r_rrs E.p (fun rr9 => ?_)
  refine r_aload dJ6_putTreeVal_283 3 rfl ?_
  have eT := (r_ifno e).1
  have eF := (r_ifno e).2
  refine r_ifnull 298 dJ6_putTreeVal_285 (by decide) (fun c10 => ?_) (fun x11 c10 => ?_)
  · have e := eT c10
    refine r_sub [0, 1, 4] rfl ?_
    exact wJ6_putTreeVal_b298 E h7 o2 o8 o15 e
  · have e := eF x11 c10
    refine r_aload dJ6_putTreeVal_288 3 rfl ?_
    obtain ⟨g12, e⟩ := gd_o e
    refine r_cast cst_3 q701 (inC_p g12) dJ6_putTreeVal_290 ?_
    refine r_aload dJ6_putTreeVal_293 4 rfl ?_
    obtain ⟨h13, q14, e⟩ := bd_o e
    refine r_put (v := vq o15) fP_J6_19 (by first | exact fun q => absurd q (by decide) | exact fun _ => rfl) trivial q14 dJ6_putTreeVal_295 ?_
    refine r_rrs E.p (fun rr15 => ?_)
    refine r_sub [0, 1, 4] rfl ?_
    exact wJ6_putTreeVal_b298 E h13 o2 o8 o15 e
def fJ6_putTreeVal_b215 (K27 : hS → Option Nat → Option Nat → Int → Option Nat → Option Nat → Option Nat → Option Nat → Option Nat → Option (Option Nat × hS)) (h : hS) (o1 : Option Nat) (o2 : Option Nat) (a3 : Int) (o4 : Option Nat) (o5 : Option Nat) (o6 : Option Nat) (o8 : Option Nat) (a10 : Int) (o13 : Option Nat) (k0 : Option Nat) : Option (Option Nat × hS) := ifN k0 (bd (hQ h o13 [(13, 5)]) fun v3 => gd (hC h o1 = some 11) (bd (fJ1_newTreeNode h o1 a3 o4 o5 v3) fun p5 => if 0 < a10 then bd (hW p5.2 o13 [(13, 8)] (vq p5.1)) fun h12 => fJ6_putTreeVal_b263 h12 o2 o8 o13 v3 p5.1 else bd (hW p5.2 o13 [(13, 7)] (vq p5.1)) fun h15 => fJ6_putTreeVal_b263 h15 o2 o8 o13 v3 p5.1)) (fun _ => K27 h o1 o2 a3 o4 o5 o6 o8 k0)
theorem wJ6_putTreeVal_b215 {N : Nx} {h' : hS} {r : Option Nat} (E : EndX N [] 16 (some (.object "java/util/HashMap$TreeNode")) (some (tr r)) [] h') (K27 : hS → Option Nat → Option Nat → Int → Option Nat → Option Nat → Option Nat → Option Nat → Option Nat → Option (Option Nat × hS)) (hK27 : ∀ (h : hS) (o1 : Option Nat) (o2 : Option Nat) (a3 : Int) (o4 : Option Nat) (o5 : Option Nat) (o6 : Option Nat) (o8 : Option Nat) (o9 : Option Nat) (ha3 : rI a3), K27 h o1 o2 a3 o4 o5 o6 o8 o9 = some (r, h') → AtPc cJ6_putTreeVal RJ6 18 396 N [] h 27 [(1, tr o1), (2, tr o2), (3, ti a3), (4, tr o4), (5, tr o5), (6, tr o6), (8, tr o8), (9, tr o9)] []) (h : hS) (o1 : Option Nat) (o2 : Option Nat) (a3 : Int) (o4 : Option Nat) (o5 : Option Nat) (o6 : Option Nat) (o8 : Option Nat) (a10 : Int) (o13 : Option Nat) (k0 : Option Nat) (ha3 : rI a3) (ha10 : rI a10) (e : fJ6_putTreeVal_b215 K27 h o1 o2 a3 o4 o5 o6 o8 a10 o13 k0 = some (r, h')) : AtPc cJ6_putTreeVal RJ6 18 396 N [] h 215 [(1, tr o1), (2, tr o2), (3, ti a3), (4, tr o4), (5, tr o5), (6, tr o6), (8, tr o8), (10, ti a10), (13, tr o13)] [tr k0] := by
  unfold fJ6_putTreeVal_b215 at e
  refine r_rrs E.p (fun rr => ?_)
  refine r_dup dJ6_putTreeVal_215 rfl ?_
  refine r_astore (lv' := [(9, tr k0), (1, tr o1), (2, tr o2), (3, ti a3), (4, tr o4), (5, tr o5), (6, tr o6), (8, tr o8), (10, ti a10), (13, tr o13)]) dJ6_putTreeVal_216 (E.lt (by decide)) rfl ?_
  have eT := (r_ifno e).1
  have eF := (r_ifno e).2
  refine r_ifnonnull 311 dJ6_putTreeVal_218 (by decide) (fun c1 => ?_) (fun x2 c1 => ?_)
  · have e := eT c1
    refine r_aload dJ6_putTreeVal_221 9 rfl ?_
    obtain ⟨v3, q4, e⟩ := bd_o e
    refine r_getQ fG_J6_22 q4 dJ6_putTreeVal_223 ?_
    refine r_astore (lv' := [(14, tr v3), (9, tr k0), (1, tr o1), (2, tr o2), (3, ti a3), (4, tr o4), (5, tr o5), (6, tr o6), (8, tr o8), (10, ti a10), (13, tr o13)]) dJ6_putTreeVal_226 (E.lt (by decide)) rfl ?_
    refine r_aload_n dJ6_putTreeVal_228 rfl 2 rfl ?_
    refine r_iload_n dJ6_putTreeVal_229 rfl 4 rfl ?_
    refine r_aload dJ6_putTreeVal_230 5 rfl ?_
    refine r_aload dJ6_putTreeVal_232 6 rfl ?_
    refine r_aload dJ6_putTreeVal_234 0 rfl ?_
    obtain ⟨g7, e⟩ := gd_o e
    obtain ⟨p5, q6, e⟩ := bd_o e
    have k8 := kJ1_newTreeNode (G := nG N) ha3 q6
    have z9 := (k8 rr).1.2.2.2
    refine r_callVo (j := none) 4 [ti a3, tr o4, tr o5, tr v3] (c := 11) (rc := (RJ1, TJ1, 8)) rfl g7 rfl k8 (injO_0 E.p) subO_0 getO_0 setO_0 (lw_V q766 q767 q768 q122 q769) (by decide +kernel) rfl (Nat.le_of_ble_eq_true rfl) (Nat.le_of_ble_eq_true rfl) rfl (Nat.le_of_ble_eq_true rfl) dJ6_putTreeVal_236 rfl ?_
    refine r_rrs E.p (fun rr10 => ?_)
    refine r_astore (lv' := [(15, tr p5.1), (14, tr v3), (9, tr k0), (1, tr o1), (2, tr o2), (3, ti a3), (4, tr o4), (5, tr o5), (6, tr o6), (8, tr o8), (10, ti a10), (13, tr o13)]) dJ6_putTreeVal_239 (E.lt (by decide)) rfl ?_
    refine r_iload dJ6_putTreeVal_241 10 rfl ?_
    have eT := (r_ifo e).1
    have eF := (r_ifo e).2
    refine r_if_gt ha10 256 dJ6_putTreeVal_243 (by decide) (fun c11 => ?_) (fun c11 => ?_)
    · have e := eT c11
      refine r_aload dJ6_putTreeVal_256 11 rfl ?_
      refine r_aload dJ6_putTreeVal_258 0 rfl ?_
      obtain ⟨h12, q13, e⟩ := bd_o e
      refine r_put (v := vq p5.1) fP_J6_42 (by first | exact fun q => absurd q (by decide) | exact fun _ => rfl) trivial q13 dJ6_putTreeVal_260 ?_
      refine r_rrs E.p (fun rr14 => ?_)
      refine r_sub [4, 9, 11, 1, 0] rfl ?_
      exact wJ6_putTreeVal_b263 E h12 o2 o8 o13 v3 p5.1 e
    · have e := eF c11
      refine r_aload dJ6_putTreeVal_246 11 rfl ?_
      refine r_aload dJ6_putTreeVal_248 0 rfl ?_
      obtain ⟨h15, q16, e⟩ := bd_o e
      refine r_put (v := vq p5.1) fP_J6_39 (by first | exact fun q => absurd q (by decide) | exact fun _ => rfl) trivial q16 dJ6_putTreeVal_250 ?_
      refine r_rrs E.p (fun rr17 => ?_)
      refine r_goto 263 dJ6_putTreeVal_253 (by decide) ?_
      refine r_sub [4, 9, 11, 1, 0] rfl ?_
      exact wJ6_putTreeVal_b263 E h15 o2 o8 o13 v3 p5.1 e
  · have e := eF x2 c1
    refine r_goto 27 dJ6_putTreeVal_311 (by decide) ?_
    refine r_sub [1, 2, 3, 4, 5, 6, 7, 0] rfl ?_
    exact hK27 h o1 o2 a3 o4 o5 o6 o8 k0 ha3 e
def fJ6_putTreeVal_b193 (K27 : hS → Option Nat → Option Nat → Int → Option Nat → Option Nat → Option Nat → Option Nat → Option Nat → Option (Option Nat × hS)) (h : hS) (o1 : Option Nat) (o2 : Option Nat) (a3 : Int) (o4 : Option Nat) (o5 : Option Nat) (o6 : Option Nat) (o8 : Option Nat) (o9 : Option Nat) (a10 : Int) : Option (Option Nat × hS) := if 0 < a10 then bd (hQ h o9 [(13, 8)]) fun v2 => fJ6_putTreeVal_b215 K27 h o1 o2 a3 o4 o5 o6 o8 a10 o9 v2 else bd (hQ h o9 [(13, 7)]) fun v4 => fJ6_putTreeVal_b215 K27 h o1 o2 a3 o4 o5 o6 o8 a10 o9 v4
theorem wJ6_putTreeVal_b193 {N : Nx} {h' : hS} {r : Option Nat} (E : EndX N [] 16 (some (.object "java/util/HashMap$TreeNode")) (some (tr r)) [] h') (K27 : hS → Option Nat → Option Nat → Int → Option Nat → Option Nat → Option Nat → Option Nat → Option Nat → Option (Option Nat × hS)) (hK27 : ∀ (h : hS) (o1 : Option Nat) (o2 : Option Nat) (a3 : Int) (o4 : Option Nat) (o5 : Option Nat) (o6 : Option Nat) (o8 : Option Nat) (o9 : Option Nat) (ha3 : rI a3), K27 h o1 o2 a3 o4 o5 o6 o8 o9 = some (r, h') → AtPc cJ6_putTreeVal RJ6 18 396 N [] h 27 [(1, tr o1), (2, tr o2), (3, ti a3), (4, tr o4), (5, tr o5), (6, tr o6), (8, tr o8), (9, tr o9)] []) (h : hS) (o1 : Option Nat) (o2 : Option Nat) (a3 : Int) (o4 : Option Nat) (o5 : Option Nat) (o6 : Option Nat) (o8 : Option Nat) (o9 : Option Nat) (a10 : Int) (ha3 : rI a3) (ha10 : rI a10) (e : fJ6_putTreeVal_b193 K27 h o1 o2 a3 o4 o5 o6 o8 o9 a10 = some (r, h')) : AtPc cJ6_putTreeVal RJ6 18 396 N [] h 193 [(1, tr o1), (2, tr o2), (3, ti a3), (4, tr o4), (5, tr o5), (6, tr o6), (8, tr o8), (9, tr o9), (10, ti a10)] [] := by
  unfold fJ6_putTreeVal_b193 at e
  refine r_rrs E.p (fun rr => ?_)
  refine r_aload dJ6_putTreeVal_193 7 rfl ?_
  refine r_astore (lv' := [(13, tr o9), (1, tr o1), (2, tr o2), (3, ti a3), (4, tr o4), (5, tr o5), (6, tr o6), (8, tr o8), (9, tr o9), (10, ti a10)]) dJ6_putTreeVal_195 (E.lt (by decide)) rfl ?_
  refine r_iload dJ6_putTreeVal_197 9 rfl ?_
  have eT := (r_ifo e).1
  have eF := (r_ifo e).2
  refine r_if_gt ha10 210 dJ6_putTreeVal_199 (by decide) (fun c1 => ?_) (fun c1 => ?_)
  · have e := eT c1
    refine r_aload dJ6_putTreeVal_210 8 rfl ?_
    obtain ⟨v2, q3, e⟩ := bd_o e
    refine r_getQ fG_J6_42 q3 dJ6_putTreeVal_212 ?_
    refine r_sub [1, 2, 3, 4, 5, 6, 7, 9, 0] rfl ?_
    exact wJ6_putTreeVal_b215 E K27 hK27 h o1 o2 a3 o4 o5 o6 o8 a10 o9 v2 ha3 ha10 e
  · have e := eF c1
    refine r_aload dJ6_putTreeVal_202 8 rfl ?_
    obtain ⟨v4, q5, e⟩ := bd_o e
    refine r_getQ fG_J6_39 q5 dJ6_putTreeVal_204 ?_
    refine r_goto 215 dJ6_putTreeVal_207 (by decide) ?_
    refine r_sub [1, 2, 3, 4, 5, 6, 7, 9, 0] rfl ?_
    exact wJ6_putTreeVal_b215 E K27 hK27 h o1 o2 a3 o4 o5 o6 o8 a10 o9 v4 ha3 ha10 e
def fJ6_putTreeVal_b27 (K27 : hS → Option Nat → Option Nat → Int → Option Nat → Option Nat → Option Nat → Option Nat → Option Nat → Option (Option Nat × hS)) (h : hS) (o1 : Option Nat) (o2 : Option Nat) (a3 : Int) (o4 : Option Nat) (o5 : Option Nat) (o6 : Option Nat) (o8 : Option Nat) (o9 : Option Nat) : Option (Option Nat × hS) := bd (hI h o9 [(13, 2)]) fun v1 => if v1 ≤ a3 then if a3 ≤ v1 then bd (hQ h o9 [(13, 3)]) fun v5 => if v5 = o4 then fJ6_putTreeVal_b85 h o9 else ifN o4 (fJ6_putTreeVal_b88 h o6) (fun _ => bd (D1_equals h o4 v5) fun p10 => if p10 = 0 then fJ6_putTreeVal_b88 h o6 else fJ6_putTreeVal_b85 h o9) else fJ6_putTreeVal_b193 K27 h o1 o2 a3 o4 o5 o6 o8 o9 1 else fJ6_putTreeVal_b193 K27 h o1 o2 a3 o4 o5 o6 o8 o9 (-1)
theorem wJ6_putTreeVal_b27 {N : Nx} {h' : hS} {r : Option Nat} (E : EndX N [] 16 (some (.object "java/util/HashMap$TreeNode")) (some (tr r)) [] h') (K27 : hS → Option Nat → Option Nat → Int → Option Nat → Option Nat → Option Nat → Option Nat → Option Nat → Option (Option Nat × hS)) (hK27 : ∀ (h : hS) (o1 : Option Nat) (o2 : Option Nat) (a3 : Int) (o4 : Option Nat) (o5 : Option Nat) (o6 : Option Nat) (o8 : Option Nat) (o9 : Option Nat) (ha3 : rI a3), K27 h o1 o2 a3 o4 o5 o6 o8 o9 = some (r, h') → AtPc cJ6_putTreeVal RJ6 18 396 N [] h 27 [(1, tr o1), (2, tr o2), (3, ti a3), (4, tr o4), (5, tr o5), (6, tr o6), (8, tr o8), (9, tr o9)] []) (h : hS) (o1 : Option Nat) (o2 : Option Nat) (a3 : Int) (o4 : Option Nat) (o5 : Option Nat) (o6 : Option Nat) (o8 : Option Nat) (o9 : Option Nat) (ha3 : rI a3) (e : fJ6_putTreeVal_b27 K27 h o1 o2 a3 o4 o5 o6 o8 o9 = some (r, h')) : AtPc cJ6_putTreeVal RJ6 18 396 N [] h 27 [(1, tr o1), (2, tr o2), (3, ti a3), (4, tr o4), (5, tr o5), (6, tr o6), (8, tr o8), (9, tr o9)] [] := by
  unfold fJ6_putTreeVal_b27 at e
  refine r_rrs E.p (fun rr => ?_)
  refine r_aload dJ6_putTreeVal_27 7 rfl ?_
  obtain ⟨v1, q2, e⟩ := bd_o e
  refine r_getI fG_J6_15 q2 dJ6_putTreeVal_29 ?_
  refine r_dup dJ6_putTreeVal_32 rfl ?_
  refine r_istore (lv' := [(11, ti v1), (1, tr o1), (2, tr o2), (3, ti a3), (4, tr o4), (5, tr o5), (6, tr o6), (8, tr o8), (9, tr o9)]) dJ6_putTreeVal_33 (E.lt (by decide)) rfl ?_
  refine r_iload_n dJ6_putTreeVal_35 rfl 3 rfl ?_
  have eT := (r_ifo e).1
  have eF := (r_ifo e).2
  refine r_icmp_le (hI_r rr q2) ha3 45 dJ6_putTreeVal_36 (by decide) (fun c3 => ?_) (fun c3 => ?_)
  · have e := eT c3
    refine r_iload dJ6_putTreeVal_45 0 rfl ?_
    refine r_iload_n dJ6_putTreeVal_47 rfl 3 rfl ?_
    have eT := (r_ifo e).1
    have eF := (r_ifo e).2
    refine r_icmp_ge (hI_r rr q2) ha3 57 dJ6_putTreeVal_48 (by decide) (fun c4 => ?_) (fun c4 => ?_)
    · have e := eT c4
      refine r_aload dJ6_putTreeVal_57 8 rfl ?_
      obtain ⟨v5, q6, e⟩ := bd_o e
      refine r_getQ fG_J6_45 q6 dJ6_putTreeVal_59 ?_
      refine r_dup dJ6_putTreeVal_62 rfl ?_
      refine r_astore (lv' := [(12, tr v5), (11, ti v1), (1, tr o1), (2, tr o2), (3, ti a3), (4, tr o4), (5, tr o5), (6, tr o6), (8, tr o8), (9, tr o9)]) dJ6_putTreeVal_63 (E.lt (by decide)) rfl ?_
      refine r_aload dJ6_putTreeVal_65 5 rfl ?_
      have eT := (r_ifo e).1
      have eF := (r_ifo e).2
      refine r_acmp_eq 85 dJ6_putTreeVal_67 (by decide) (fun c7 => ?_) (fun c7 => ?_)
      · have e := eT c7
        refine r_sub [9] rfl ?_
        exact wJ6_putTreeVal_b85 E h o9 e
      · have e := eF c7
        refine r_aload dJ6_putTreeVal_70 5 rfl ?_
        have eT := (r_ifno e).1
        have eF := (r_ifno e).2
        refine r_ifnull 88 dJ6_putTreeVal_72 (by decide) (fun c8 => ?_) (fun x9 c8 => ?_)
        · have e := eT c8
          refine r_sub [7] rfl ?_
          exact wJ6_putTreeVal_b88 E h o6 e
        · have e := eF x9 c8
          refine r_aload dJ6_putTreeVal_75 5 rfl ?_
          refine r_aload dJ6_putTreeVal_77 0 rfl ?_
          obtain ⟨p10, q11, e⟩ := bd_o e
          have z12 := zD1_equals (G := nG N)  q11 rr.none
          refine rD_J6_49  q11 (injO_0 E.p) (Nat.le_of_ble_eq_true rfl) (Nat.le_of_ble_eq_true rfl) rfl (Nat.le_of_ble_eq_true rfl) dJ6_putTreeVal_79 rfl ?_
          have eT := (r_ifo e).1
          have eF := (r_ifo e).2
          refine r_if_eq (rI_z z12) 88 dJ6_putTreeVal_82 (by decide) (fun c13 => ?_) (fun c13 => ?_)
          · have e := eT c13
            refine r_sub [7] rfl ?_
            exact wJ6_putTreeVal_b88 E h o6 e
          · have e := eF c13
            refine r_sub [9] rfl ?_
            exact wJ6_putTreeVal_b85 E h o9 e
    · have e := eF c4
      refine r_iconst dJ6_putTreeVal_51 ?_
      refine r_istore (lv' := [(10, ti 1), (11, ti v1), (1, tr o1), (2, tr o2), (3, ti a3), (4, tr o4), (5, tr o5), (6, tr o6), (8, tr o8), (9, tr o9)]) dJ6_putTreeVal_52 (E.lt (by decide)) rfl ?_
      refine r_goto 193 dJ6_putTreeVal_54 (by decide) ?_
      refine r_sub [2, 3, 4, 5, 6, 7, 8, 9, 0] rfl ?_
      exact wJ6_putTreeVal_b193 E K27 hK27 h o1 o2 a3 o4 o5 o6 o8 o9 1 ha3 (by decide) e
  · have e := eF c3
    refine r_iconst dJ6_putTreeVal_39 ?_
    refine r_istore (lv' := [(10, ti (-1)), (11, ti v1), (1, tr o1), (2, tr o2), (3, ti a3), (4, tr o4), (5, tr o5), (6, tr o6), (8, tr o8), (9, tr o9)]) dJ6_putTreeVal_40 (E.lt (by decide)) rfl ?_
    refine r_goto 193 dJ6_putTreeVal_42 (by decide) ?_
    refine r_sub [2, 3, 4, 5, 6, 7, 8, 9, 0] rfl ?_
    exact wJ6_putTreeVal_b193 E K27 hK27 h o1 o2 a3 o4 o5 o6 o8 o9 (-1) ha3 (by decide) e
