/-! the class with what it needs: functions and walks, printed by gen/run0.py -/
set_option maxRecDepth 100000
def fJ6_putTreeVal_L27  : Nat → hS → Option Nat → Option Nat → Int → Option Nat → Option Nat → Option Nat → Option Nat → Option Nat → Option (Option Nat × hS)
  | 0, _, _, _, _, _, _, _, _, _ => none
  | n9 + 1, h, o1, o2, a3, o4, o5, o6, o8, o9 => fJ6_putTreeVal_b27 (fJ6_putTreeVal_L27 n9) h o1 o2 a3 o4 o5 o6 o8 o9
theorem wJ6_putTreeVal_L27 {N : Nx} {h' : hS} {r : Option Nat} (E : EndX N [] 16 (some (.object "java/util/HashMap$TreeNode")) (some (tr r)) [] h')  : ∀ (n9 : Nat), ∀ (h : hS) (o1 : Option Nat) (o2 : Option Nat) (a3 : Int) (o4 : Option Nat) (o5 : Option Nat) (o6 : Option Nat) (o8 : Option Nat) (o9 : Option Nat) (ha3 : rI a3), fJ6_putTreeVal_L27 n9 h o1 o2 a3 o4 o5 o6 o8 o9 = some (r, h') → AtPc cJ6_putTreeVal RJ6 18 396 N [] h 27 [(1, tr o1), (2, tr o2), (3, ti a3), (4, tr o4), (5, tr o5), (6, tr o6), (8, tr o8), (9, tr o9)] [] := by
  intro n9
  induction n9 with
  | zero => intro h o1 o2 a3 o4 o5 o6 o8 o9 ha3 e; cases e
  | succ n9 ih => intro h o1 o2 a3 o4 o5 o6 o8 o9 ha3 e; exact wJ6_putTreeVal_b27 E _ ih h o1 o2 a3 o4 o5 o6 o8 o9 ha3 e
def fJ6_putTreeVal_b21 (h : hS) (o1 : Option Nat) (o2 : Option Nat) (a3 : Int) (o4 : Option Nat) (o5 : Option Nat) (o6 : Option Nat) (k0 : Option Nat) : Option (Option Nat × hS) := fJ6_putTreeVal_L27 FU h o1 o2 a3 o4 o5 o6 k0 k0
theorem wJ6_putTreeVal_b21 {N : Nx} {h' : hS} {r : Option Nat} (E : EndX N [] 16 (some (.object "java/util/HashMap$TreeNode")) (some (tr r)) [] h')  (h : hS) (o1 : Option Nat) (o2 : Option Nat) (a3 : Int) (o4 : Option Nat) (o5 : Option Nat) (o6 : Option Nat) (k0 : Option Nat) (ha3 : rI a3) (e : fJ6_putTreeVal_b21 h o1 o2 a3 o4 o5 o6 k0 = some (r, h')) : AtPc cJ6_putTreeVal RJ6 18 396 N [] h 21 [(1, tr o1), (2, tr o2), (3, ti a3), (4, tr o4), (5, tr o5), (6, tr o6)] [tr k0] := by
  unfold fJ6_putTreeVal_b21 at e
  refine r_rrs E.p (fun rr => ?_)
  refine r_astore (lv' := [(8, tr k0), (1, tr o1), (2, tr o2), (3, ti a3), (4, tr o4), (5, tr o5), (6, tr o6)]) dJ6_putTreeVal_21 (E.lt (by decide)) rfl ?_
  refine r_aload dJ6_putTreeVal_23 0 rfl ?_
  refine r_astore (lv' := [(9, tr k0), (8, tr k0), (1, tr o1), (2, tr o2), (3, ti a3), (4, tr o4), (5, tr o5), (6, tr o6)]) dJ6_putTreeVal_25 (E.lt (by decide)) rfl ?_
  refine r_sub [2, 3, 4, 5, 6, 7, 1, 0] rfl ?_
  exact wJ6_putTreeVal_L27 E FU h o1 o2 a3 o4 o5 o6 k0 k0 ha3 e
def fJ6_putTreeVal  (h : hS) (o0 : Option Nat) (o1 : Option Nat) (o2 : Option Nat) (a3 : Int) (o4 : Option Nat) (o5 : Option Nat) : Option (Option Nat × hS) := bd (hQ h o0 [(13, 6)]) fun v1 => ifN v1 (fJ6_putTreeVal_b21 h o1 o2 a3 o4 o5 none o0) (fun _ => gd (hC h o0 = some 13) (bd (fJ6_root h o0) fun p5 => fJ6_putTreeVal_b21 h o1 o2 a3 o4 o5 none p5))
theorem kJ6_putTreeVal {G : Gx}  {h' : hS} {r : Option Nat} {h : hS} {o0 : Option Nat} {o1 : Option Nat} {o2 : Option Nat} {a3 : Int} {o4 : Option Nat} {o5 : Option Nat}  (ha3 : rI a3) (e : fJ6_putTreeVal h o0 o1 o2 a3 o4 o5 = some (r, h')) : CtX G yJ6_putTreeVal cJ6_putTreeVal 16 (some (.object "java/util/HashMap$TreeNode")) 18 396 [] [] h [tr o0, tr o1, tr o2, ti a3, tr o4, tr o5] (some (tr r)) [] h' := by
  refine CtX.of (by decide) (Nat.le_of_ble_eq_true rfl) [(0, tr o0), (1, tr o1), (2, tr o2), (3, ti a3), (4, tr o4), (5, tr o5)] rfl ?_
  have E : EndX (G, 16, [], h, [], h', (some (.object "java/util/HashMap$TreeNode")), (some (tr r)), yJ6_putTreeVal.name) [] 16 (some (.object "java/util/HashMap$TreeNode")) (some (tr r)) [] h' := ⟨rfl, rfl, rfl, rfl, rfl, rfl⟩
  unfold fJ6_putTreeVal at e
  refine r_rrs E.p (fun rr => ?_)
  refine r_null dJ6_putTreeVal_0 ?_
  refine r_astore (lv' := [(6, tr none), (0, tr o0), (1, tr o1), (2, tr o2), (3, ti a3), (4, tr o4), (5, tr o5)]) dJ6_putTreeVal_1 (E.lt (by decide)) rfl ?_
  refine r_iconst dJ6_putTreeVal_3 ?_
  refine r_istore (lv' := [(7, ti 0), (6, tr none), (0, tr o0), (1, tr o1), (2, tr o2), (3, ti a3), (4, tr o4), (5, tr o5)]) dJ6_putTreeVal_4 (E.lt (by decide)) rfl ?_
  refine r_aload_n dJ6_putTreeVal_6 rfl 2 rfl ?_
  obtain ⟨v1, q2, e⟩ := bd_o e
  refine r_getQ fG_J6_9 q2 dJ6_putTreeVal_7 ?_
  have eT := (r_ifno e).1
  have eF := (r_ifno e).2
  refine r_ifnull 20 dJ6_putTreeVal_10 (by decide) (fun c3 => ?_) (fun x4 c3 => ?_)
  · have e := eT c3
    refine r_aload_n dJ6_putTreeVal_20 rfl 2 rfl ?_
    refine r_sub [3, 4, 5, 6, 7, 1] rfl ?_
    exact wJ6_putTreeVal_b21 E h o1 o2 a3 o4 o5 none o0 ha3 e
  · have e := eF x4 c3
    refine r_aload_n dJ6_putTreeVal_13 rfl 2 rfl ?_
    obtain ⟨g7, e⟩ := gd_o e
    obtain ⟨p5, q6, e⟩ := bd_o e
    have k8 := kJ6_root (G := G)  q6
    have z9 := (k8 rr).1.2.2.2
    refine r_callVo (j := none) 0 [] (c := 13) (rc := (RJ6, TJ6, 11)) rfl g7 rfl k8 (injO_0 E.p) subO_0 getO_0 setO_0 (lw_V q619 q620 q621 q131 q622) (by decide +kernel) rfl (Nat.le_of_ble_eq_true rfl) (Nat.le_of_ble_eq_true rfl) rfl (Nat.le_of_ble_eq_true rfl) dJ6_putTreeVal_14 rfl ?_
    refine r_goto 21 dJ6_putTreeVal_17 (by decide) ?_
    refine r_sub [3, 4, 5, 6, 7, 1] rfl ?_
    exact wJ6_putTreeVal_b21 E h o1 o2 a3 o4 o5 none p5 ha3 e
def fJ1_replacementTreeNode  (h : hS) (o0 : Option Nat) (o1 : Option Nat) (o2 : Option Nat) : Option (Option Nat × hS) := bd (nwS h 13 [vq none, vq none, vi 0, vq none, vq none, vq none, vq none, vq none, vq none, vq none, vi 0]) fun p1 => bd (hI p1.2 o1 [(12, 0), (13, 2)]) fun v4 => bd (hQ p1.2 o1 [(12, 1), (13, 3)]) fun v6 => bd (hQ p1.2 o1 [(12, 2), (13, 4)]) fun v8 => bd (fJ6_init p1.2 (some p1.1) v4 v6 v8 o2) fun p10 => some ((some p1.1), p10)
theorem kJ1_replacementTreeNode {G : Gx}  {h' : hS} {r : Option Nat} {h : hS} {o0 : Option Nat} {o1 : Option Nat} {o2 : Option Nat}   (e : fJ1_replacementTreeNode h o0 o1 o2 = some (r, h')) : CtX G yJ1_replacementTreeNode cJ1_replacementTreeNode 3 (some (.object "java/util/HashMap$TreeNode")) 4 92 [] [] h [tr o0, tr o1, tr o2] (some (tr r)) [] h' := by
  refine CtX.of (by decide) (Nat.le_of_ble_eq_true rfl) [(0, tr o0), (1, tr o1), (2, tr o2)] rfl ?_
  have E : EndX (G, 3, [], h, [], h', (some (.object "java/util/HashMap$TreeNode")), (some (tr r)), yJ1_replacementTreeNode.name) [] 3 (some (.object "java/util/HashMap$TreeNode")) (some (tr r)) [] h' := ⟨rfl, rfl, rfl, rfl, rfl, rfl⟩
  unfold fJ1_replacementTreeNode at e
  refine r_rrs E.p (fun rr => ?_)
  obtain ⟨p1, q2, e⟩ := bd_o e
  refine r_newS [vq none, vq none, vi 0, vq none, vq none, vq none, vq none, vq none, vq none, vq none, vi 0] q2 rfl in_J6 tyJ6_ok q614 q770 q131 (by decide +kernel) rfl (by decide +kernel) dJ1_replacementTreeNode_0 ?_
  refine r_rrs E.p (fun rr3 => ?_)
  refine r_dup dJ1_replacementTreeNode_3 rfl ?_
  refine r_aload_n dJ1_replacementTreeNode_4 rfl 1 rfl ?_
  obtain ⟨v4, q5, e⟩ := bd_o e
  refine r_getI fG_J1_168 q5 dJ1_replacementTreeNode_5 ?_
  refine r_aload_n dJ1_replacementTreeNode_8 rfl 1 rfl ?_
  obtain ⟨v6, q7, e⟩ := bd_o e
  refine r_getQ fG_J1_170 q7 dJ1_replacementTreeNode_9 ?_
  refine r_aload_n dJ1_replacementTreeNode_12 rfl 1 rfl ?_
  obtain ⟨v8, q9, e⟩ := bd_o e
  refine r_getQ fG_J1_162 q9 dJ1_replacementTreeNode_13 ?_
  refine r_aload_n dJ1_replacementTreeNode_16 rfl 2 rfl ?_
  obtain ⟨p10, q11, e⟩ := bd_o e
  have k12 := kJ6_init (G := G) (hI_r rr3 q5) q11
  have z13 := (k12 rr3).1.2.2.2
  refine r_callIo (j := none) 4 [ti v4, tr v6, tr v8, tr o2] (fun q => by cases q) rfl rfl k12 (injO_0 E.p) subO_0 getO_0 setO_0 q773 q131 q771 q772 (by decide +kernel) rfl (Nat.le_of_ble_eq_true rfl) (Nat.le_of_ble_eq_true rfl) rfl (Nat.le_of_ble_eq_true rfl) dJ1_replacementTreeNode_17 rfl ?_
  refine r_rrs E.p (fun rr14 => ?_)
  cases e
  exact r_aret E.σ E.st E.rt (by first | exact Or.inl ⟨_, rfl⟩ | exact Or.inr ⟨_, rfl⟩) E.r dJ1_replacementTreeNode_20
theorem fP_J1_219 : FldP RJ1 219 [(13, 9)] (.object "java/util/HashMap$TreeNode") false := List.forall_mem_cons.mpr ⟨⟨RJ6, TJ6, 11, "java/util/HashMap$TreeNode", tyJ6, rfl, in_J6, by decide, q782, Or.inl rfl, tyJ6_ok, nmJ6, rfl, Or.inl rfl, by decide⟩, fun _ h => absurd h List.not_mem_nil⟩
theorem fP_J1_223 : FldP RJ1 223 [(13, 5)] (.object "java/util/HashMap$Node") false := List.forall_mem_cons.mpr ⟨⟨RJ6, TJ6, 11, "java/util/HashMap$TreeNode", tyJ6, rfl, in_J6, by decide, q730, Or.inr q727, tyJ6_ok, nmJ6, rfl, Or.inl rfl, by decide⟩, fun _ h => absurd h List.not_mem_nil⟩
def fJ1_treeifyBin_b109 (h : hS) : Option (hS) := some h
theorem wJ1_treeifyBin_b109 {N : Nx} {h' : hS} (E : EndX N [] 9 none none [] h')  (h : hS) (e : fJ1_treeifyBin_b109 h = some (h')) : AtPc cJ1_treeifyBin RJ1 6 157 N [] h 109 [] [] := by
  unfold fJ1_treeifyBin_b109 at e
  refine r_rrs E.p (fun rr => ?_)
  cases e
  exact r_vret E.σ E.st E.rt E.r dJ1_treeifyBin_109
def fJ1_treeifyBin_b13 (h : hS) (o0 : Option Nat) : Option (hS) := gd (hC h o0 = some 11) (bd (fJ1_resize h o0) fun p1 => fJ1_treeifyBin_b109 p1.2)
theorem wJ1_treeifyBin_b13 {N : Nx} {h' : hS} (E : EndX N [] 9 none none [] h')  (h : hS) (o0 : Option Nat) (e : fJ1_treeifyBin_b13 h o0 = some (h')) : AtPc cJ1_treeifyBin RJ1 6 157 N [] h 13 [(0, tr o0)] [] := by
  unfold fJ1_treeifyBin_b13 at e
  refine r_rrs E.p (fun rr => ?_)
  refine r_aload_n dJ1_treeifyBin_13 rfl 0 rfl ?_
  obtain ⟨g3, e⟩ := gd_o e
  obtain ⟨p1, q2, e⟩ := bd_o e
  have k4 := kJ1_resize (G := nG N)  q2
  have z5 := (k4 rr).1.2.2.2
  refine r_callVo (j := none) 0 [] (c := 11) (rc := (RJ1, TJ1, 8)) rfl g3 rfl k4 (injO_0 E.p) subO_0 getO_0 setO_0 (lw_V q688 q689 q690 q122 q691) (by decide +kernel) rfl (Nat.le_of_ble_eq_true rfl) (Nat.le_of_ble_eq_true rfl) rfl (Nat.le_of_ble_eq_true rfl) dJ1_treeifyBin_14 rfl ?_
  refine r_rrs E.p (fun rr6 => ?_)
  refine r_pop dJ1_treeifyBin_17 rfl ?_
  refine r_goto 109 dJ1_treeifyBin_18 (by decide) ?_
  refine r_sub [] rfl ?_
  exact wJ1_treeifyBin_b109 E p1.2 e
def fJ1_treeifyBin_b78 (K43 : hS → Option Nat → Option Nat → Int → Option Nat → Option Nat → Option Nat → Option (hS)) (h : hS) (o0 : Option Nat) (o1 : Option Nat) (a4 : Int) (o5 : Option Nat) (o6 : Option Nat) (o8 : Option Nat) : Option (hS) := bd (hQ h o5 [(12, 3), (13, 5)]) fun v1 => ifN v1 (bd (aWQ h o1 6 [12, 13] a4 o6) fun h5 => ifN o6 (fJ1_treeifyBin_b109 h5) (fun _ => gd (hC h5 o6 = some 13) (bd (fJ6_treeify h5 o6 o1) fun p10 => fJ1_treeifyBin_b109 p10))) (fun _ => K43 h o0 o1 a4 v1 o6 o8)
theorem wJ1_treeifyBin_b78 {N : Nx} {h' : hS} (E : EndX N [] 9 none none [] h') (K43 : hS → Option Nat → Option Nat → Int → Option Nat → Option Nat → Option Nat → Option (hS)) (hK43 : ∀ (h : hS) (o0 : Option Nat) (o1 : Option Nat) (a4 : Int) (o5 : Option Nat) (o6 : Option Nat) (o7 : Option Nat) (ha4 : rI a4), K43 h o0 o1 a4 o5 o6 o7 = some (h') → AtPc cJ1_treeifyBin RJ1 6 157 N [] h 43 [(0, tr o0), (1, tr o1), (4, ti a4), (5, tr o5), (6, tr o6), (7, tr o7)] []) (h : hS) (o0 : Option Nat) (o1 : Option Nat) (a4 : Int) (o5 : Option Nat) (o6 : Option Nat) (o8 : Option Nat) (ha4 : rI a4) (e : fJ1_treeifyBin_b78 K43 h o0 o1 a4 o5 o6 o8 = some (h')) : AtPc cJ1_treeifyBin RJ1 6 157 N [] h 78 [(0, tr o0), (1, tr o1), (4, ti a4), (5, tr o5), (6, tr o6), (8, tr o8)] [] := by
  unfold fJ1_treeifyBin_b78 at e
  refine r_rrs E.p (fun rr => ?_)
  refine r_aload dJ1_treeifyBin_78 5 rfl ?_
  refine r_astore (lv' := [(7, tr o8), (0, tr o0), (1, tr o1), (4, ti a4), (5, tr o5), (6, tr o6), (8, tr o8)]) dJ1_treeifyBin_80 (E.lt (by decide)) rfl ?_
  refine r_aload dJ1_treeifyBin_82 4 rfl ?_
  obtain ⟨v1, q2, e⟩ := bd_o e
  refine r_getQ fG_J1_177 q2 dJ1_treeifyBin_84 ?_
  refine r_dup dJ1_treeifyBin_87 rfl ?_
  refine r_astore (lv' := [(5, tr v1), (7, tr o8), (0, tr o0), (1, tr o1), (4, ti a4), (6, tr o6), (8, tr o8)]) dJ1_treeifyBin_88 (E.lt (by decide)) rfl ?_
  have eT := (r_ifno e).1
  have eF := (r_ifno e).2
  refine r_ifnonnull 43 dJ1_treeifyBin_90 (by decide) (fun c3 => ?_) (fun x4 c3 => ?_)
  · have e := eT c3
    refine r_aload_n dJ1_treeifyBin_93 rfl 3 rfl ?_
    refine r_iload dJ1_treeifyBin_94 4 rfl ?_
    refine r_aload dJ1_treeifyBin_96 5 rfl ?_
    refine r_dup_x2 dJ1_treeifyBin_98 rfl rfl rfl ?_
    obtain ⟨h5, q6, e⟩ := bd_o e
    refine r_aPQ (t := 6) ha4 q6 sto_6 (by decide) dJ1_treeifyBin_99 ?_
    refine r_rrs E.p (fun rr7 => ?_)
    have eT := (r_ifno e).1
    have eF := (r_ifno e).2
    refine r_ifnull 109 dJ1_treeifyBin_100 (by decide) (fun c8 => ?_) (fun x9 c8 => ?_)
    · have e := eT c8
      refine r_sub [] rfl ?_
      exact wJ1_treeifyBin_b109 E h5 e
    · have e := eF x9 c8
      refine r_aload dJ1_treeifyBin_103 5 rfl ?_
      refine r_aload_n dJ1_treeifyBin_105 rfl 3 rfl ?_
      obtain ⟨g12, e⟩ := gd_o e
      obtain ⟨p10, q11, e⟩ := bd_o e
      have k13 := kJ6_treeify (G := nG N)  q11
      have z14 := (k13 rr7).1.2.2.2
      refine r_callVo (j := none) 1 [tr o1] (c := 13) (rc := (RJ6, TJ6, 11)) rfl g12 rfl k13 (injO_0 E.p) subO_0 getO_0 setO_0 (lw_V q811 q741 q742 q131 q743) (by decide +kernel) rfl (Nat.le_of_ble_eq_true rfl) (Nat.le_of_ble_eq_true rfl) rfl (Nat.le_of_ble_eq_true rfl) dJ1_treeifyBin_106 rfl ?_
      refine r_rrs E.p (fun rr15 => ?_)
      refine r_sub [] rfl ?_
      exact wJ1_treeifyBin_b109 E p10 e
  · have e := eF x4 c3
    refine r_sub [2, 3, 4, 0, 5, 1] rfl ?_
    exact hK43 h o0 o1 a4 v1 o6 o8 ha4 e
def fJ1_treeifyBin_b43 (K43 : hS → Option Nat → Option Nat → Int → Option Nat → Option Nat → Option Nat → Option (hS)) (h : hS) (o0 : Option Nat) (o1 : Option Nat) (a4 : Int) (o5 : Option Nat) (o6 : Option Nat) (o7 : Option Nat) : Option (hS) := gd (hC h o0 = some 11) (bd (fJ1_replacementTreeNode h o0 o5 none) fun p1 => ifN o7 (fJ1_treeifyBin_b78 K43 p1.2 o0 o1 a4 o5 p1.1 p1.1) (fun _ => bd (hW p1.2 p1.1 [(13, 9)] (vq o7)) fun h9 => bd (hW h9 o7 [(13, 5)] (vq p1.1)) fun h12 => fJ1_treeifyBin_b78 K43 h12 o0 o1 a4 o5 o6 p1.1))
theorem wJ1_treeifyBin_b43 {N : Nx} {h' : hS} (E : EndX N [] 9 none none [] h') (K43 : hS → Option Nat → Option Nat → Int → Option Nat → Option Nat → Option Nat → Option (hS)) (hK43 : ∀ (h : hS) (o0 : Option Nat) (o1 : Option Nat) (a4 : Int) (o5 : Option Nat) (o6 : Option Nat) (o7 : Option Nat) (ha4 : rI a4), K43 h o0 o1 a4 o5 o6 o7 = some (h') → AtPc cJ1_treeifyBin RJ1 6 157 N [] h 43 [(0, tr o0), (1, tr o1), (4, ti a4), (5, tr o5), (6, tr o6), (7, tr o7)] []) (h : hS) (o0 : Option Nat) (o1 : Option Nat) (a4 : Int) (o5 : Option Nat) (o6 : Option Nat) (o7 : Option Nat) (ha4 : rI a4) (e : fJ1_treeifyBin_b43 K43 h o0 o1 a4 o5 o6 o7 = some (h')) : AtPc cJ1_treeifyBin RJ1 6 157 N [] h 43 [(0, tr o0), (1, tr o1), (4, ti a4), (5, tr o5), (6, tr o6), (7, tr o7)] [] := by
  unfold fJ1_treeifyBin_b43 at e
  refine r_rrs E.p (fun rr => ?_)
  refine r_aload_n dJ1_treeifyBin_43 rfl 0 rfl ?_
  refine r_aload dJ1_treeifyBin_44 3 rfl ?_
  refine r_null dJ1_treeifyBin_46 ?_
  obtain ⟨g3, e⟩ := gd_o e
  obtain ⟨p1, q2, e⟩ := bd_o e
  have k4 := kJ1_replacementTreeNode (G := nG N)  q2
  have z5 := (k4 rr).1.2.2.2
  refine r_callVo (j := none) 2 [tr o5, tr none] (c := 11) (rc := (RJ1, TJ1, 8)) rfl g3 rfl k4 (injO_0 E.p) subO_0 getO_0 setO_0 (lw_V q807 q808 q809 q122 q810) (by decide +kernel) rfl (Nat.le_of_ble_eq_true rfl) (Nat.le_of_ble_eq_true rfl) rfl (Nat.le_of_ble_eq_true rfl) dJ1_treeifyBin_47 rfl ?_
  refine r_rrs E.p (fun rr6 => ?_)
  refine r_astore (lv' := [(8, tr p1.1), (0, tr o0), (1, tr o1), (4, ti a4), (5, tr o5), (6, tr o6), (7, tr o7)]) dJ1_treeifyBin_50 (E.lt (by decide)) rfl ?_
  refine r_aload dJ1_treeifyBin_52 6 rfl ?_
  have eT := (r_ifno e).1
  have eF := (r_ifno e).2
  refine r_ifnonnull 64 dJ1_treeifyBin_54 (by decide) (fun c7 => ?_) (fun x8 c7 => ?_)
  · have e := eT c7
    refine r_aload dJ1_treeifyBin_57 0 rfl ?_
    refine r_astore (lv' := [(6, tr p1.1), (8, tr p1.1), (0, tr o0), (1, tr o1), (4, ti a4), (5, tr o5), (7, tr o7)]) dJ1_treeifyBin_59 (E.lt (by decide)) rfl ?_
    refine r_goto 78 dJ1_treeifyBin_61 (by decide) ?_
    refine r_sub [2, 3, 4, 5, 0, 1] rfl ?_
    exact wJ1_treeifyBin_b78 E K43 hK43 p1.2 o0 o1 a4 o5 p1.1 p1.1 ha4 e
  · have e := eF x8 c7
    refine r_aload dJ1_treeifyBin_64 0 rfl ?_
    refine r_aload dJ1_treeifyBin_66 6 rfl ?_
    obtain ⟨h9, q10, e⟩ := bd_o e
    refine r_put (v := vq o7) fP_J1_219 (by first | exact fun q => absurd q (by decide) | exact fun _ => rfl) trivial q10 dJ1_treeifyBin_68 ?_
    refine r_rrs E.p (fun rr11 => ?_)
    refine r_aload dJ1_treeifyBin_71 6 rfl ?_
    refine r_aload dJ1_treeifyBin_73 0 rfl ?_
    obtain ⟨h12, q13, e⟩ := bd_o e
    refine r_put (v := vq p1.1) fP_J1_223 (by first | exact fun q => absurd q (by decide) | exact fun _ => rfl) trivial q13 dJ1_treeifyBin_75 ?_
    refine r_rrs E.p (fun rr14 => ?_)
    refine r_sub [1, 2, 3, 4, 5, 0] rfl ?_
    exact wJ1_treeifyBin_b78 E K43 hK43 h12 o0 o1 a4 o5 o6 p1.1 ha4 e
def fJ1_treeifyBin_L43  : Nat → hS → Option Nat → Option Nat → Int → Option Nat → Option Nat → Option Nat → Option (hS)
  | 0, _, _, _, _, _, _, _ => none
  | n9 + 1, h, o0, o1, a4, o5, o6, o7 => fJ1_treeifyBin_b43 (fJ1_treeifyBin_L43 n9) h o0 o1 a4 o5 o6 o7
theorem wJ1_treeifyBin_L43 {N : Nx} {h' : hS} (E : EndX N [] 9 none none [] h')  : ∀ (n9 : Nat), ∀ (h : hS) (o0 : Option Nat) (o1 : Option Nat) (a4 : Int) (o5 : Option Nat) (o6 : Option Nat) (o7 : Option Nat) (ha4 : rI a4), fJ1_treeifyBin_L43 n9 h o0 o1 a4 o5 o6 o7 = some (h') → AtPc cJ1_treeifyBin RJ1 6 157 N [] h 43 [(0, tr o0), (1, tr o1), (4, ti a4), (5, tr o5), (6, tr o6), (7, tr o7)] [] := by
  intro n9
  induction n9 with
  | zero => intro h o0 o1 a4 o5 o6 o7 ha4 e; cases e
  | succ n9 ih => intro h o0 o1 a4 o5 o6 o7 ha4 e; exact wJ1_treeifyBin_b43 E _ ih h o0 o1 a4 o5 o6 o7 ha4 e
def fJ1_treeifyBin  (h : hS) (o0 : Option Nat) (o1 : Option Nat) (a2 : Int) : Option (hS) := ifN o1 (fJ1_treeifyBin_b13 h o0) (fun _ => bd (hL h o1 6) fun v3 => if 64 ≤ v3 then bd (aQ h o1 6 (iand (wr (v3 - 1)) a2)) fun v6 => ifN v6 (fJ1_treeifyBin_b109 h) (fun _ => fJ1_treeifyBin_L43 FU h o0 o1 (iand (wr (v3 - 1)) a2) v6 none none) else fJ1_treeifyBin_b13 h o0)
theorem kJ1_treeifyBin {G : Gx}  {h' : hS} {h : hS} {o0 : Option Nat} {o1 : Option Nat} {a2 : Int}  (ha2 : rI a2) (e : fJ1_treeifyBin h o0 o1 a2 = some (h')) : CtX G yJ1_treeifyBin cJ1_treeifyBin 9 none 6 157 [] [] h [tr o0, tr o1, ti a2] none [] h' := by
  refine CtX.of (by decide) (Nat.le_of_ble_eq_true rfl) [(0, tr o0), (1, tr o1), (2, ti a2)] rfl ?_
  have E : EndX (G, 9, [], h, [], h', none, none, yJ1_treeifyBin.name) [] 9 none none [] h' := ⟨rfl, rfl, rfl, rfl, rfl, rfl⟩
  unfold fJ1_treeifyBin at e
  refine r_rrs E.p (fun rr => ?_)
  refine r_aload_n dJ1_treeifyBin_0 rfl 1 rfl ?_
  have eT := (r_ifno e).1
  have eF := (r_ifno e).2
  refine r_ifnull 13 dJ1_treeifyBin_1 (by decide) (fun c1 => ?_) (fun x2 c1 => ?_)
  · have e := eT c1
    refine r_sub [0] rfl ?_
    exact wJ1_treeifyBin_b13 E h o0 e
  · have e := eF x2 c1
    refine r_aload_n dJ1_treeifyBin_4 rfl 1 rfl ?_
    obtain ⟨v3, q4, e⟩ := bd_o e
    refine r_aL q4 dJ1_treeifyBin_5 ?_
    refine r_dup dJ1_treeifyBin_6 rfl ?_
    refine r_istore_n (lv' := [(3, ti v3), (0, tr o0), (1, tr o1), (2, ti a2)]) dJ1_treeifyBin_7 rfl (E.lt (by decide)) rfl ?_
    refine r_bipush dJ1_treeifyBin_8 (by decide) ?_
    have eT := (r_ifo e).1
    have eF := (r_ifo e).2
    refine r_icmp_ge (hL_r rr q4) (by decide) 21 dJ1_treeifyBin_10 (by decide) (fun c5 => ?_) (fun c5 => ?_)
    · have e := eT c5
      refine r_aload_n dJ1_treeifyBin_21 rfl 2 rfl ?_
      refine r_iload_n dJ1_treeifyBin_22 rfl 0 rfl ?_
      refine r_iconst dJ1_treeifyBin_23 ?_
      refine r_isub dJ1_treeifyBin_24 ?_
      refine r_iload_n dJ1_treeifyBin_25 rfl 3 rfl ?_
      refine r_iand dJ1_treeifyBin_26 ?_
      refine r_dup dJ1_treeifyBin_27 rfl ?_
      refine r_istore (lv' := [(4, ti (iand (wr (v3 - 1)) a2)), (3, ti v3), (0, tr o0), (1, tr o1), (2, ti a2)]) dJ1_treeifyBin_28 (E.lt (by decide)) rfl ?_
      obtain ⟨v6, q7, e⟩ := bd_o e
      refine r_aQ (iand_r _ _) q7 dJ1_treeifyBin_30 ?_
      refine r_dup dJ1_treeifyBin_31 rfl ?_
      refine r_astore (lv' := [(5, tr v6), (4, ti (iand (wr (v3 - 1)) a2)), (3, ti v3), (0, tr o0), (1, tr o1), (2, ti a2)]) dJ1_treeifyBin_32 (E.lt (by decide)) rfl ?_
      have eT := (r_ifno e).1
      have eF := (r_ifno e).2
      refine r_ifnull 109 dJ1_treeifyBin_34 (by decide) (fun c8 => ?_) (fun x9 c8 => ?_)
      · have e := eT c8
        refine r_sub [] rfl ?_
        exact wJ1_treeifyBin_b109 E h e
      · have e := eF x9 c8
        refine r_null dJ1_treeifyBin_37 ?_
        refine r_astore (lv' := [(6, tr none), (5, tr v6), (4, ti (iand (wr (v3 - 1)) a2)), (3, ti v3), (0, tr o0), (1, tr o1), (2, ti a2)]) dJ1_treeifyBin_38 (E.lt (by decide)) rfl ?_
        refine r_null dJ1_treeifyBin_40 ?_
        refine r_astore (lv' := [(7, tr none), (6, tr none), (5, tr v6), (4, ti (iand (wr (v3 - 1)) a2)), (3, ti v3), (0, tr o0), (1, tr o1), (2, ti a2)]) dJ1_treeifyBin_41 (E.lt (by decide)) rfl ?_
        refine r_sub [5, 6, 3, 2, 1, 0] rfl ?_
        exact wJ1_treeifyBin_L43 E FU h o0 o1 (iand (wr (v3 - 1)) a2) v6 none none (iand_r _ _) e
    · have e := eF c5
      refine r_sub [1] rfl ?_
      exact wJ1_treeifyBin_b13 E h o0 e
def fJ1_afterNodeAccess  (o0 : Option Nat) (o1 : Option Nat) : Option (Unit) := some ()
theorem kJ1_afterNodeAccess {G : Gx}  {h : hS} {o0 : Option Nat} {o1 : Option Nat}   (e : fJ1_afterNodeAccess o0 o1 = some ()) : CtX G yJ1_afterNodeAccess cJ1_afterNodeAccess 2 none 0 0 [] [] h [tr o0, tr o1] none [] h := by
  refine CtX.of (by decide) (Nat.le_of_ble_eq_true rfl) [(0, tr o0), (1, tr o1)] rfl ?_
  have E : EndX (G, 2, [], h, [], h, none, none, yJ1_afterNodeAccess.name) [] 2 none none [] h := ⟨rfl, rfl, rfl, rfl, rfl, rfl⟩
  unfold fJ1_afterNodeAccess at e
  refine r_rrs E.p (fun rr => ?_)
  cases e
  exact r_vret E.σ E.st E.rt E.r dJ1_afterNodeAccess_0
def fJ1_afterNodeInsertion  (o0 : Option Nat) (a1 : Int) : Option (Unit) := some ()
theorem kJ1_afterNodeInsertion {G : Gx}  {h : hS} {o0 : Option Nat} {a1 : Int}  (ha1 : rI a1) (e : fJ1_afterNodeInsertion o0 a1 = some ()) : CtX G yJ1_afterNodeInsertion cJ1_afterNodeInsertion 2 none 0 0 [] [] h [tr o0, ti a1] none [] h := by
  refine CtX.of (by decide) (Nat.le_of_ble_eq_true rfl) [(0, tr o0), (1, ti a1)] rfl ?_
  have E : EndX (G, 2, [], h, [], h, none, none, yJ1_afterNodeInsertion.name) [] 2 none none [] h := ⟨rfl, rfl, rfl, rfl, rfl, rfl⟩
  unfold fJ1_afterNodeInsertion at e
  refine r_rrs E.p (fun rr => ?_)
  cases e
  exact r_vret E.σ E.st E.rt E.r dJ1_afterNodeInsertion_0
theorem fP_J1_162 : FldP RJ1 162 [(12, 2), (13, 4)] (.object "java/lang/Object") false := List.forall_mem_cons.mpr ⟨⟨RJ4, TJ4, 4, "java/util/HashMap$Node", tyJ4, rfl, in_J4, by decide, q724, Or.inl rfl, tyJ4_ok, nmJ4, rfl, Or.inl rfl, by decide⟩, List.forall_mem_cons.mpr ⟨⟨RJ6, TJ6, 11, "java/util/HashMap$Node", tyJ6, rfl, in_J6, by decide, q724, Or.inl rfl, tyJ6_ok, nmJ6, rfl, Or.inl rfl, by decide⟩, fun _ h => absurd h List.not_mem_nil⟩⟩
theorem fG_J1_202 : FldG RJ1 202 [(11, 5)] := List.forall_mem_cons.mpr ⟨⟨RJ1, TJ1, 8, "java/util/HashMap", rfl, in_J1, by decide, q261, Or.inl rfl⟩, fun _ h => absurd h List.not_mem_nil⟩
theorem fP_J1_202 : FldP RJ1 202 [(11, 5)] .int false := List.forall_mem_cons.mpr ⟨⟨RJ1, TJ1, 8, "java/util/HashMap", tyJ1, rfl, in_J1, by decide, q261, Or.inl rfl, tyJ1_ok, nmJ1, rfl, Or.inl rfl, by decide⟩, fun _ h => absurd h List.not_mem_nil⟩
theorem fG_J1_156 : FldG RJ1 156 [(11, 4)] := List.forall_mem_cons.mpr ⟨⟨RJ1, TJ1, 8, "java/util/HashMap", rfl, in_J1, by decide, q260, Or.inl rfl⟩, fun _ h => absurd h List.not_mem_nil⟩
theorem fP_J1_156 : FldP RJ1 156 [(11, 4)] .int false := List.forall_mem_cons.mpr ⟨⟨RJ1, TJ1, 8, "java/util/HashMap", tyJ1, rfl, in_J1, by decide, q260, Or.inl rfl, tyJ1_ok, nmJ1, rfl, Or.inl rfl, by decide⟩, fun _ h => absurd h List.not_mem_nil⟩
def fJ1_putVal_b250 (h : hS) (o0 : Option Nat) (o10 : Option Nat) (o12 : Option Nat) : Option (Option Nat × hS) := gd (hC h o0 = some 11) (bd (fJ1_afterNodeAccess o0 o10) fun _ => some (o12, h))
theorem wJ1_putVal_b250 {N : Nx} {h' : hS} {r : Option Nat} (E : EndX N [] 13 (some (.object "java/lang/Object")) (some (tr r)) [] h')  (h : hS) (o0 : Option Nat) (o10 : Option Nat) (o12 : Option Nat) (e : fJ1_putVal_b250 h o0 o10 o12 = some (r, h')) : AtPc cJ1_putVal RJ1 19 431 N [] h 250 [(0, tr o0), (10, tr o10), (12, tr o12)] [] := by
  unfold fJ1_putVal_b250 at e
  refine r_rrs E.p (fun rr => ?_)
  refine r_aload_n dJ1_putVal_250 rfl 0 rfl ?_
  refine r_aload dJ1_putVal_251 1 rfl ?_
  obtain ⟨g3, e⟩ := gd_o e
  obtain ⟨p1, q2, e⟩ := bd_o e
  have k4 := kJ1_afterNodeAccess (G := nG N) (h := h)  q2
  have z5 := (k4 rr).1.2.2.2
  refine r_callVo (j := none) 1 [tr o10] (c := 11) (rc := (RJ1, TJ1, 8)) rfl g3 rfl k4 (injO_0 E.p) subO_0 getO_0 setO_0 (lw_V q812 q813 q814 q122 q815) (by decide +kernel) rfl (Nat.le_of_ble_eq_true rfl) (Nat.le_of_ble_eq_true rfl) rfl (Nat.le_of_ble_eq_true rfl) dJ1_putVal_253 rfl ?_
  refine r_aload dJ1_putVal_256 2 rfl ?_
  cases e
  exact r_aret E.σ E.st E.rt (by first | exact Or.inl ⟨_, rfl⟩ | exact Or.inr ⟨_, rfl⟩) E.r dJ1_putVal_258
def fJ1_putVal_b244 (h : hS) (o0 : Option Nat) (o3 : Option Nat) (o10 : Option Nat) (o12 : Option Nat) : Option (Option Nat × hS) := bd (hW h o10 [(12, 2), (13, 4)] (vq o3)) fun h1 => fJ1_putVal_b250 h1 o0 o10 o12
theorem wJ1_putVal_b244 {N : Nx} {h' : hS} {r : Option Nat} (E : EndX N [] 13 (some (.object "java/lang/Object")) (some (tr r)) [] h')  (h : hS) (o0 : Option Nat) (o3 : Option Nat) (o10 : Option Nat) (o12 : Option Nat) (e : fJ1_putVal_b244 h o0 o3 o10 o12 = some (r, h')) : AtPc cJ1_putVal RJ1 19 431 N [] h 244 [(0, tr o0), (3, tr o3), (10, tr o10), (12, tr o12)] [] := by
  unfold fJ1_putVal_b244 at e
  refine r_rrs E.p (fun rr => ?_)
  refine r_aload dJ1_putVal_244 2 rfl ?_
  refine r_aload_n dJ1_putVal_246 rfl 1 rfl ?_
  obtain ⟨h1, q2, e⟩ := bd_o e
  refine r_put (v := vq o3) fP_J1_162 (by first | exact fun q => absurd q (by decide) | exact fun _ => rfl) trivial q2 dJ1_putVal_247 ?_
  refine r_rrs E.p (fun rr3 => ?_)
  refine r_sub [0, 2, 3] rfl ?_
  exact wJ1_putVal_b250 E h1 o0 o10 o12 e
def fJ1_putVal_b292 (h : hS) (o0 : Option Nat) (a5 : Int) : Option (Option Nat × hS) := gd (hC h o0 = some 11) (bd (fJ1_afterNodeInsertion o0 a5) fun _ => some (none, h))
theorem wJ1_putVal_b292 {N : Nx} {h' : hS} {r : Option Nat} (E : EndX N [] 13 (some (.object "java/lang/Object")) (some (tr r)) [] h')  (h : hS) (o0 : Option Nat) (a5 : Int) (ha5 : rI a5) (e : fJ1_putVal_b292 h o0 a5 = some (r, h')) : AtPc cJ1_putVal RJ1 19 431 N [] h 292 [(0, tr o0), (5, ti a5)] [] := by
  unfold fJ1_putVal_b292 at e
  refine r_rrs E.p (fun rr => ?_)
  refine r_aload_n dJ1_putVal_292 rfl 0 rfl ?_
  refine r_iload dJ1_putVal_293 1 rfl ?_
  obtain ⟨g3, e⟩ := gd_o e
  obtain ⟨p1, q2, e⟩ := bd_o e
  have k4 := kJ1_afterNodeInsertion (G := nG N) (h := h) ha5 q2
  have z5 := (k4 rr).1.2.2.2
  refine r_callVo (j := none) 1 [ti a5] (c := 11) (rc := (RJ1, TJ1, 8)) rfl g3 rfl k4 (injO_0 E.p) subO_0 getO_0 setO_0 (lw_V q816 q817 q818 q122 q819) (by decide +kernel) rfl (Nat.le_of_ble_eq_true rfl) (Nat.le_of_ble_eq_true rfl) rfl (Nat.le_of_ble_eq_true rfl) dJ1_putVal_295 rfl ?_
  refine r_null dJ1_putVal_298 ?_
  cases e
  exact r_aret E.σ E.st E.rt (by first | exact Or.inl ⟨_, rfl⟩ | exact Or.inr ⟨_, rfl⟩) E.r dJ1_putVal_299
def fJ1_putVal_b259 (h : hS) (o0 : Option Nat) (a5 : Int) : Option (Option Nat × hS) := bd (hI h o0 [(11, 5)]) fun v1 => bd (hW h o0 [(11, 5)] (vi (wr (v1 + 1)))) fun h3 => bd (hI h3 o0 [(11, 4)]) fun v6 => bd (hW h3 o0 [(11, 4)] (vi (wr (v6 + 1)))) fun h8 => bd (hI h8 o0 [(11, 6)]) fun v11 => if (wr (v6 + 1)) ≤ v11 then fJ1_putVal_b292 h8 o0 a5 else gd (hC h8 o0 = some 11) (bd (fJ1_resize h8 o0) fun p14 => fJ1_putVal_b292 p14.2 o0 a5)
theorem wJ1_putVal_b259 {N : Nx} {h' : hS} {r : Option Nat} (E : EndX N [] 13 (some (.object "java/lang/Object")) (some (tr r)) [] h')  (h : hS) (o0 : Option Nat) (a5 : Int) (ha5 : rI a5) (e : fJ1_putVal_b259 h o0 a5 = some (r, h')) : AtPc cJ1_putVal RJ1 19 431 N [] h 259 [(0, tr o0), (5, ti a5)] [] := by
  unfold fJ1_putVal_b259 at e
  refine r_rrs E.p (fun rr => ?_)
  refine r_aload_n dJ1_putVal_259 rfl 0 rfl ?_
  refine r_dup dJ1_putVal_260 rfl ?_
  obtain ⟨v1, q2, e⟩ := bd_o e
  refine r_getI fG_J1_202 q2 dJ1_putVal_261 ?_
  refine r_iconst dJ1_putVal_264 ?_
  refine r_iadd dJ1_putVal_265 ?_
  obtain ⟨h3, q4, e⟩ := bd_o e
  refine r_put (v := vi (wr (v1 + 1))) fP_J1_202 (by first | exact fun q => absurd q (by decide) | exact fun _ => rfl) (wr_r _) q4 dJ1_putVal_266 ?_
  refine r_rrs E.p (fun rr5 => ?_)
  refine r_aload_n dJ1_putVal_269 rfl 0 rfl ?_
  refine r_dup dJ1_putVal_270 rfl ?_
  obtain ⟨v6, q7, e⟩ := bd_o e
  refine r_getI fG_J1_156 q7 dJ1_putVal_271 ?_
  refine r_iconst dJ1_putVal_274 ?_
  refine r_iadd dJ1_putVal_275 ?_
  refine r_dup_x1 dJ1_putVal_276 rfl rfl ?_
  obtain ⟨h8, q9, e⟩ := bd_o e
  refine r_put (v := vi (wr (v6 + 1))) fP_J1_156 (by first | exact fun q => absurd q (by decide) | exact fun _ => rfl) (wr_r _) q9 dJ1_putVal_277 ?_
  refine r_rrs E.p (fun rr10 => ?_)
  refine r_aload_n dJ1_putVal_280 rfl 0 rfl ?_
  obtain ⟨v11, q12, e⟩ := bd_o e
  refine r_getI fG_J1_88 q12 dJ1_putVal_281 ?_
  have eT := (r_ifo e).1
  have eF := (r_ifo e).2
  refine r_icmp_le (wr_r _) (hI_r rr10 q12) 292 dJ1_putVal_284 (by decide) (fun c13 => ?_) (fun c13 => ?_)
  · have e := eT c13
    exact wJ1_putVal_b292 E h8 o0 a5 ha5 e
  · have e := eF c13
    refine r_aload_n dJ1_putVal_287 rfl 0 rfl ?_
    obtain ⟨g16, e⟩ := gd_o e
    obtain ⟨p14, q15, e⟩ := bd_o e
    have k17 := kJ1_resize (G := nG N)  q15
    have z18 := (k17 rr10).1.2.2.2
    refine r_callVo (j := none) 0 [] (c := 11) (rc := (RJ1, TJ1, 8)) rfl g16 rfl k17 (injO_0 E.p) subO_0 getO_0 setO_0 (lw_V q688 q689 q690 q122 q691) (by decide +kernel) rfl (Nat.le_of_ble_eq_true rfl) (Nat.le_of_ble_eq_true rfl) rfl (Nat.le_of_ble_eq_true rfl) dJ1_putVal_288 rfl ?_
    refine r_rrs E.p (fun rr19 => ?_)
    refine r_pop dJ1_putVal_291 rfl ?_
    exact wJ1_putVal_b292 E p14.2 o0 a5 ha5 e
def fJ1_putVal_b222 (h : hS) (o0 : Option Nat) (o3 : Option Nat) (a4 : Int) (a5 : Int) (o10 : Option Nat) : Option (Option Nat × hS) := ifN o10 (fJ1_putVal_b259 h o0 a5) (fun _ => bd (hQ h o10 [(12, 2), (13, 4)]) fun v3 => if a4 = 0 then fJ1_putVal_b244 h o0 o3 o10 v3 else ifN v3 (fJ1_putVal_b244 h o0 o3 o10 v3) (fun _ => fJ1_putVal_b250 h o0 o10 v3))
theorem wJ1_putVal_b222 {N : Nx} {h' : hS} {r : Option Nat} (E : EndX N [] 13 (some (.object "java/lang/Object")) (some (tr r)) [] h')  (h : hS) (o0 : Option Nat) (o3 : Option Nat) (a4 : Int) (a5 : Int) (o10 : Option Nat) (ha4 : rI a4) (ha5 : rI a5) (e : fJ1_putVal_b222 h o0 o3 a4 a5 o10 = some (r, h')) : AtPc cJ1_putVal RJ1 19 431 N [] h 222 [(0, tr o0), (3, tr o3), (4, ti a4), (5, ti a5), (10, tr o10)] [] := by
  unfold fJ1_putVal_b222 at e
  refine r_rrs E.p (fun rr => ?_)
  refine r_aload dJ1_putVal_222 4 rfl ?_
  have eT := (r_ifno e).1
  have eF := (r_ifno e).2
  refine r_ifnull 259 dJ1_putVal_224 (by decide) (fun c1 => ?_) (fun x2 c1 => ?_)
  · have e := eT c1
    refine r_sub [0, 3] rfl ?_
    exact wJ1_putVal_b259 E h o0 a5 ha5 e
  · have e := eF x2 c1
    refine r_aload dJ1_putVal_227 4 rfl ?_
    obtain ⟨v3, q4, e⟩ := bd_o e
    refine r_getQ fG_J1_162 q4 dJ1_putVal_229 ?_
    refine r_astore (lv' := [(12, tr v3), (0, tr o0), (3, tr o3), (4, ti a4), (5, ti a5), (10, tr o10)]) dJ1_putVal_232 (E.lt (by decide)) rfl ?_
    refine r_iload dJ1_putVal_234 3 rfl ?_
    have eT := (r_ifo e).1
    have eF := (r_ifo e).2
    refine r_if_eq ha4 244 dJ1_putVal_236 (by decide) (fun c5 => ?_) (fun c5 => ?_)
    · have e := eT c5
      refine r_sub [1, 2, 5, 0] rfl ?_
      exact wJ1_putVal_b244 E h o0 o3 o10 v3 e
    · have e := eF c5
      refine r_aload dJ1_putVal_239 0 rfl ?_
      have eT := (r_ifno e).1
      have eF := (r_ifno e).2
      refine r_ifnonnull 250 dJ1_putVal_241 (by decide) (fun c6 => ?_) (fun x7 c6 => ?_)
      · have e := eT c6
        refine r_sub [1, 2, 5, 0] rfl ?_
        exact wJ1_putVal_b244 E h o0 o3 o10 v3 e
      · have e := eF x7 c6
        refine r_sub [1, 5, 0] rfl ?_
        exact wJ1_putVal_b250 E h o0 o10 v3 e
def fJ1_putVal_b97 (h : hS) (o0 : Option Nat) (o3 : Option Nat) (a4 : Int) (a5 : Int) (o7 : Option Nat) : Option (Option Nat × hS) := fJ1_putVal_b222 h o0 o3 a4 a5 o7
theorem wJ1_putVal_b97 {N : Nx} {h' : hS} {r : Option Nat} (E : EndX N [] 13 (some (.object "java/lang/Object")) (some (tr r)) [] h')  (h : hS) (o0 : Option Nat) (o3 : Option Nat) (a4 : Int) (a5 : Int) (o7 : Option Nat) (ha4 : rI a4) (ha5 : rI a5) (e : fJ1_putVal_b97 h o0 o3 a4 a5 o7 = some (r, h')) : AtPc cJ1_putVal RJ1 19 431 N [] h 97 [(0, tr o0), (3, tr o3), (4, ti a4), (5, ti a5), (7, tr o7)] [] := by
  unfold fJ1_putVal_b97 at e
  refine r_rrs E.p (fun rr => ?_)
  refine r_aload dJ1_putVal_97 4 rfl ?_
  refine r_astore (lv' := [(10, tr o7), (0, tr o0), (3, tr o3), (4, ti a4), (5, ti a5), (7, tr o7)]) dJ1_putVal_99 (E.lt (by decide)) rfl ?_
  refine r_goto 222 dJ1_putVal_101 (by decide) ?_
  refine r_sub [1, 2, 3, 4, 0] rfl ?_
  exact wJ1_putVal_b222 E h o0 o3 a4 a5 o7 ha4 ha5 e
def fJ1_putVal_b212 (K134 : hS → Option Nat → Int → Option Nat → Option Nat → Int → Int → Option Nat → Option Nat → Int → Option (Option Nat × hS)) (h : hS) (o0 : Option Nat) (a1 : Int) (o2 : Option Nat) (o3 : Option Nat) (a4 : Int) (a5 : Int) (o6 : Option Nat) (o10 : Option Nat) (a12 : Int) : Option (Option Nat × hS) := K134 h o0 a1 o2 o3 a4 a5 o6 o10 (wr (a12 + 1))
theorem wJ1_putVal_b212 {N : Nx} {h' : hS} {r : Option Nat} (E : EndX N [] 13 (some (.object "java/lang/Object")) (some (tr r)) [] h') (K134 : hS → Option Nat → Int → Option Nat → Option Nat → Int → Int → Option Nat → Option Nat → Int → Option (Option Nat × hS)) (hK134 : ∀ (h : hS) (o0 : Option Nat) (a1 : Int) (o2 : Option Nat) (o3 : Option Nat) (a4 : Int) (a5 : Int) (o6 : Option Nat) (o7 : Option Nat) (a12 : Int) (ha1 : rI a1) (ha4 : rI a4) (ha5 : rI a5) (ha12 : rI a12), K134 h o0 a1 o2 o3 a4 a5 o6 o7 a12 = some (r, h') → AtPc cJ1_putVal RJ1 19 431 N [] h 134 [(0, tr o0), (1, ti a1), (2, tr o2), (3, tr o3), (4, ti a4), (5, ti a5), (6, tr o6), (7, tr o7), (12, ti a12)] []) (h : hS) (o0 : Option Nat) (a1 : Int) (o2 : Option Nat) (o3 : Option Nat) (a4 : Int) (a5 : Int) (o6 : Option Nat) (o10 : Option Nat) (a12 : Int) (ha1 : rI a1) (ha4 : rI a4) (ha5 : rI a5) (ha12 : rI a12) (e : fJ1_putVal_b212 K134 h o0 a1 o2 o3 a4 a5 o6 o10 a12 = some (r, h')) : AtPc cJ1_putVal RJ1 19 431 N [] h 212 [(0, tr o0), (1, ti a1), (2, tr o2), (3, tr o3), (4, ti a4), (5, ti a5), (6, tr o6), (10, tr o10), (12, ti a12)] [] := by
  unfold fJ1_putVal_b212 at e
  refine r_rrs E.p (fun rr => ?_)
  refine r_aload dJ1_putVal_212 7 rfl ?_
  refine r_astore (lv' := [(7, tr o10), (0, tr o0), (1, ti a1), (2, tr o2), (3, tr o3), (4, ti a4), (5, ti a5), (6, tr o6), (10, tr o10), (12, ti a12)]) dJ1_putVal_214 (E.lt (by decide)) rfl ?_
  refine r_iinc (lv' := [(12, ti (wr (a12 + 1))), (7, tr o10), (0, tr o0), (1, ti a1), (2, tr o2), (3, tr o3), (4, ti a4), (5, ti a5), (6, tr o6), (10, tr o10)]) dJ1_putVal_216 9 rfl (E.lt (by decide)) rfl ?_
  refine r_goto 134 dJ1_putVal_219 (by decide) ?_
  refine r_sub [2, 3, 4, 5, 6, 7, 8, 1, 0] rfl ?_
  exact hK134 h o0 a1 o2 o3 a4 a5 o6 o10 (wr (a12 + 1)) ha1 ha4 ha5 (wr_r _) e
def fJ1_putVal_b134 (K134 : hS → Option Nat → Int → Option Nat → Option Nat → Int → Int → Option Nat → Option Nat → Int → Option (Option Nat × hS)) (h : hS) (o0 : Option Nat) (a1 : Int) (o2 : Option Nat) (o3 : Option Nat) (a4 : Int) (a5 : Int) (o6 : Option Nat) (o7 : Option Nat) (a12 : Int) : Option (Option Nat × hS) := bd (hQ h o7 [(12, 3), (13, 5)]) fun v1 => ifN v1 (gd (hC h o0 = some 11) (bd (fJ1_newNode h o0 a1 o2 o3 none) fun p5 => bd (hW p5.2 o7 [(12, 3), (13, 5)] (vq p5.1)) fun h11 => if a12 < 7 then fJ1_putVal_b222 h11 o0 o3 a4 a5 v1 else gd (hC h11 o0 = some 11) (bd (fJ1_treeifyBin h11 o0 o6 a1) fun p15 => fJ1_putVal_b222 p15 o0 o3 a4 a5 v1))) (fun _ => bd (hI h v1 [(12, 0), (13, 2)]) fun v21 => if ¬ v21 = a1 then fJ1_putVal_b212 K134 h o0 a1 o2 o3 a4 a5 o6 v1 a12 else bd (hQ h v1 [(12, 1), (13, 3)]) fun v24 => if v24 = o2 then fJ1_putVal_b222 h o0 o3 a4 a5 v1 else ifN o2 (fJ1_putVal_b212 K134 h o0 a1 o2 o3 a4 a5 o6 v1 a12) (fun _ => bd (D1_equals h o2 v24) fun p29 => if p29 = 0 then fJ1_putVal_b212 K134 h o0 a1 o2 o3 a4 a5 o6 v1 a12 else fJ1_putVal_b222 h o0 o3 a4 a5 v1))
theorem wJ1_putVal_b134 {N : Nx} {h' : hS} {r : Option Nat} (E : EndX N [] 13 (some (.object "java/lang/Object")) (some (tr r)) [] h') (K134 : hS → Option Nat → Int → Option Nat → Option Nat → Int → Int → Option Nat → Option Nat → Int → Option (Option Nat × hS)) (hK134 : ∀ (h : hS) (o0 : Option Nat) (a1 : Int) (o2 : Option Nat) (o3 : Option Nat) (a4 : Int) (a5 : Int) (o6 : Option Nat) (o7 : Option Nat) (a12 : Int) (ha1 : rI a1) (ha4 : rI a4) (ha5 : rI a5) (ha12 : rI a12), K134 h o0 a1 o2 o3 a4 a5 o6 o7 a12 = some (r, h') → AtPc cJ1_putVal RJ1 19 431 N [] h 134 [(0, tr o0), (1, ti a1), (2, tr o2), (3, tr o3), (4, ti a4), (5, ti a5), (6, tr o6), (7, tr o7), (12, ti a12)] []) (h : hS) (o0 : Option Nat) (a1 : Int) (o2 : Option Nat) (o3 : Option Nat) (a4 : Int) (a5 : Int) (o6 : Option Nat) (o7 : Option Nat) (a12 : Int) (ha1 : rI a1) (ha4 : rI a4) (ha5 : rI a5) (ha12 : rI a12) (e : fJ1_putVal_b134 K134 h o0 a1 o2 o3 a4 a5 o6 o7 a12 = some (r, h')) : AtPc cJ1_putVal RJ1 19 431 N [] h 134 [(0, tr o0), (1, ti a1), (2, tr o2), (3, tr o3), (4, ti a4), (5, ti a5), (6, tr o6), (7, tr o7), (12, ti a12)] [] := by
  unfold fJ1_putVal_b134 at e
  refine r_rrs E.p (fun rr => ?_)
  refine r_aload dJ1_putVal_134 7 rfl ?_
  obtain ⟨v1, q2, e⟩ := bd_o e
  refine r_getQ fG_J1_177 q2 dJ1_putVal_136 ?_
  refine r_dup dJ1_putVal_139 rfl ?_
  refine r_astore (lv' := [(10, tr v1), (0, tr o0), (1, ti a1), (2, tr o2), (3, tr o3), (4, ti a4), (5, ti a5), (6, tr o6), (7, tr o7), (12, ti a12)]) dJ1_putVal_140 (E.lt (by decide)) rfl ?_
  have eT := (r_ifno e).1
  have eF := (r_ifno e).2
  refine r_ifnonnull 175 dJ1_putVal_142 (by decide) (fun c3 => ?_) (fun x4 c3 => ?_)
  · have e := eT c3
    refine r_aload dJ1_putVal_145 8 rfl ?_
    refine r_aload_n dJ1_putVal_147 rfl 1 rfl ?_
    refine r_iload_n dJ1_putVal_148 rfl 2 rfl ?_
    refine r_aload_n dJ1_putVal_149 rfl 3 rfl ?_
    refine r_aload_n dJ1_putVal_150 rfl 4 rfl ?_
    refine r_null dJ1_putVal_151 ?_
    obtain ⟨g7, e⟩ := gd_o e
    obtain ⟨p5, q6, e⟩ := bd_o e
    have k8 := kJ1_newNode (G := nG N) ha1 q6
    have z9 := (k8 rr).1.2.2.2
    refine r_callVo (j := none) 4 [ti a1, tr o2, tr o3, tr none] (c := 11) (rc := (RJ1, TJ1, 8)) rfl g7 rfl k8 (injO_0 E.p) subO_0 getO_0 setO_0 (lw_V q758 q759 q760 q122 q761) (by decide +kernel) rfl (Nat.le_of_ble_eq_true rfl) (Nat.le_of_ble_eq_true rfl) rfl (Nat.le_of_ble_eq_true rfl) dJ1_putVal_152 rfl ?_
    refine r_rrs E.p (fun rr10 => ?_)
    obtain ⟨h11, q12, e⟩ := bd_o e
    refine r_put (v := vq p5.1) fP_J1_177 (by first | exact fun q => absurd q (by decide) | exact fun _ => rfl) trivial q12 dJ1_putVal_155 ?_
    refine r_rrs E.p (fun rr13 => ?_)
    refine r_iload dJ1_putVal_158 9 rfl ?_
    refine r_bipush dJ1_putVal_160 (by decide) ?_
    have eT := (r_ifo e).1
    have eF := (r_ifo e).2
    refine r_icmp_lt ha12 (by decide) 222 dJ1_putVal_162 (by decide) (fun c14 => ?_) (fun c14 => ?_)
    · have e := eT c14
      refine r_sub [1, 4, 5, 6, 0] rfl ?_
      exact wJ1_putVal_b222 E h11 o0 o3 a4 a5 v1 ha4 ha5 e
    · have e := eF c14
      refine r_aload_n dJ1_putVal_165 rfl 1 rfl ?_
      refine r_aload dJ1_putVal_166 7 rfl ?_
      refine r_iload_n dJ1_putVal_168 rfl 2 rfl ?_
      obtain ⟨g17, e⟩ := gd_o e
      obtain ⟨p15, q16, e⟩ := bd_o e
      have k18 := kJ1_treeifyBin (G := nG N) ha1 q16
      have z19 := (k18 rr13).1.2.2.2
      refine r_callVo (j := none) 2 [tr o6, ti a1] (c := 11) (rc := (RJ1, TJ1, 8)) rfl g17 rfl k18 (injO_0 E.p) subO_0 getO_0 setO_0 (lw_V q803 q804 q805 q122 q806) (by decide +kernel) rfl (Nat.le_of_ble_eq_true rfl) (Nat.le_of_ble_eq_true rfl) rfl (Nat.le_of_ble_eq_true rfl) dJ1_putVal_169 rfl ?_
      refine r_rrs E.p (fun rr20 => ?_)
      refine r_goto 222 dJ1_putVal_172 (by decide) ?_
      refine r_sub [1, 4, 5, 6, 0] rfl ?_
      exact wJ1_putVal_b222 E p15 o0 o3 a4 a5 v1 ha4 ha5 e
  · have e := eF x4 c3
    refine r_aload dJ1_putVal_175 0 rfl ?_
    obtain ⟨v21, q22, e⟩ := bd_o e
    refine r_getI fG_J1_168 q22 dJ1_putVal_177 ?_
    refine r_iload_n dJ1_putVal_180 rfl 2 rfl ?_
    have eT := (r_ifo e).1
    have eF := (r_ifo e).2
    refine r_icmp_ne (hI_r rr q22) ha1 212 dJ1_putVal_181 (by decide) (fun c23 => ?_) (fun c23 => ?_)
    · have e := eT c23
      refine r_sub [1, 2, 3, 4, 5, 6, 7, 0, 9] rfl ?_
      exact wJ1_putVal_b212 E K134 hK134 h o0 a1 o2 o3 a4 a5 o6 v1 a12 ha1 ha4 ha5 ha12 e
    · have e := eF c23
      refine r_aload dJ1_putVal_184 0 rfl ?_
      obtain ⟨v24, q25, e⟩ := bd_o e
      refine r_getQ fG_J1_170 q25 dJ1_putVal_186 ?_
      refine r_dup dJ1_putVal_189 rfl ?_
      refine r_astore (lv' := [(11, tr v24), (10, tr v1), (0, tr o0), (1, ti a1), (2, tr o2), (3, tr o3), (4, ti a4), (5, ti a5), (6, tr o6), (7, tr o7), (12, ti a12)]) dJ1_putVal_190 (E.lt (by decide)) rfl ?_
      refine r_aload_n dJ1_putVal_192 rfl 4 rfl ?_
      have eT := (r_ifo e).1
      have eF := (r_ifo e).2
      refine r_acmp_eq 222 dJ1_putVal_193 (by decide) (fun c26 => ?_) (fun c26 => ?_)
      · have e := eT c26
        refine r_sub [2, 5, 6, 7, 1] rfl ?_
        exact wJ1_putVal_b222 E h o0 o3 a4 a5 v1 ha4 ha5 e
      · have e := eF c26
        refine r_aload_n dJ1_putVal_196 rfl 4 rfl ?_
        have eT := (r_ifno e).1
        have eF := (r_ifno e).2
        refine r_ifnull 212 dJ1_putVal_197 (by decide) (fun c27 => ?_) (fun x28 c27 => ?_)
        · have e := eT c27
          refine r_sub [2, 3, 4, 5, 6, 7, 8, 1, 10] rfl ?_
          exact wJ1_putVal_b212 E K134 hK134 h o0 a1 o2 o3 a4 a5 o6 v1 a12 ha1 ha4 ha5 ha12 e
        · have e := eF x28 c27
          refine r_aload_n dJ1_putVal_200 rfl 4 rfl ?_
          refine r_aload dJ1_putVal_201 0 rfl ?_
          obtain ⟨p29, q30, e⟩ := bd_o e
          have z31 := zD1_equals (G := nG N)  q30 rr.none
          refine rD_J1_173  q30 (injO_0 E.p) (Nat.le_of_ble_eq_true rfl) (Nat.le_of_ble_eq_true rfl) rfl (Nat.le_of_ble_eq_true rfl) dJ1_putVal_203 rfl ?_
          have eT := (r_ifo e).1
          have eF := (r_ifo e).2
          refine r_if_eq (rI_z z31) 212 dJ1_putVal_206 (by decide) (fun c32 => ?_) (fun c32 => ?_)
          · have e := eT c32
            refine r_sub [2, 3, 4, 5, 6, 7, 8, 1, 10] rfl ?_
            exact wJ1_putVal_b212 E K134 hK134 h o0 a1 o2 o3 a4 a5 o6 v1 a12 ha1 ha4 ha5 ha12 e
          · have e := eF c32
            refine r_goto 222 dJ1_putVal_209 (by decide) ?_
            refine r_sub [2, 5, 6, 7, 1] rfl ?_
            exact wJ1_putVal_b222 E h o0 o3 a4 a5 v1 ha4 ha5 e
def fJ1_putVal_L134  : Nat → hS → Option Nat → Int → Option Nat → Option Nat → Int → Int → Option Nat → Option Nat → Int → Option (Option Nat × hS)
  | 0, _, _, _, _, _, _, _, _, _, _ => none
  | n9 + 1, h, o0, a1, o2, o3, a4, a5, o6, o7, a12 => fJ1_putVal_b134 (fJ1_putVal_L134 n9) h o0 a1 o2 o3 a4 a5 o6 o7 a12
theorem wJ1_putVal_L134 {N : Nx} {h' : hS} {r : Option Nat} (E : EndX N [] 13 (some (.object "java/lang/Object")) (some (tr r)) [] h')  : ∀ (n9 : Nat), ∀ (h : hS) (o0 : Option Nat) (a1 : Int) (o2 : Option Nat) (o3 : Option Nat) (a4 : Int) (a5 : Int) (o6 : Option Nat) (o7 : Option Nat) (a12 : Int) (ha1 : rI a1) (ha4 : rI a4) (ha5 : rI a5) (ha12 : rI a12), fJ1_putVal_L134 n9 h o0 a1 o2 o3 a4 a5 o6 o7 a12 = some (r, h') → AtPc cJ1_putVal RJ1 19 431 N [] h 134 [(0, tr o0), (1, ti a1), (2, tr o2), (3, tr o3), (4, ti a4), (5, ti a5), (6, tr o6), (7, tr o7), (12, ti a12)] [] := by
  intro n9
  induction n9 with
  | zero => intro h o0 a1 o2 o3 a4 a5 o6 o7 a12 ha1 ha4 ha5 ha12 e; cases e
  | succ n9 ih => intro h o0 a1 o2 o3 a4 a5 o6 o7 a12 ha1 ha4 ha5 ha12 e; exact wJ1_putVal_b134 E _ ih h o0 a1 o2 o3 a4 a5 o6 o7 a12 ha1 ha4 ha5 ha12 e
def fJ1_putVal_b104 (h : hS) (o0 : Option Nat) (a1 : Int) (o2 : Option Nat) (o3 : Option Nat) (a4 : Int) (a5 : Int) (o6 : Option Nat) (o7 : Option Nat) : Option (Option Nat × hS) := if inC h o7 [13] = true then gd (o7 = none ∨ inC h o7 [13] = true) (gd (hC h o7 = some 13) (bd (fJ6_putTreeVal h o7 o0 o6 a1 o2 o3) fun p4 => fJ1_putVal_b222 p4.2 o0 o3 a4 a5 p4.1)) else gd (hC h o7 = some 12) (fJ1_putVal_L134 FU h o0 a1 o2 o3 a4 a5 o6 o7 0)
theorem wJ1_putVal_b104 {N : Nx} {h' : hS} {r : Option Nat} (E : EndX N [] 13 (some (.object "java/lang/Object")) (some (tr r)) [] h')  (h : hS) (o0 : Option Nat) (a1 : Int) (o2 : Option Nat) (o3 : Option Nat) (a4 : Int) (a5 : Int) (o6 : Option Nat) (o7 : Option Nat) (ha1 : rI a1) (ha4 : rI a4) (ha5 : rI a5) (e : fJ1_putVal_b104 h o0 a1 o2 o3 a4 a5 o6 o7 = some (r, h')) : AtPc cJ1_putVal RJ1 19 431 N [] h 104 [(0, tr o0), (1, ti a1), (2, tr o2), (3, tr o3), (4, ti a4), (5, ti a5), (6, tr o6), (7, tr o7)] [] := by
  unfold fJ1_putVal_b104 at e
  refine r_rrs E.p (fun rr => ?_)
  refine r_aload dJ1_putVal_104 7 rfl ?_
  have eT := (r_ifo e).1
  have eF := (r_ifo e).2
  by_cases c1 : inC h o7 [13] = true
  · have e := eT c1
    refine r_inst1 cst_3 q614 (inC_o c1) dJ1_putVal_106 ?_
    refine r_if_eq (by decide) 131 dJ1_putVal_109 (by decide) (fun c2 => absurd c2 (by decide)) (fun c2 => ?_)
    refine r_aload dJ1_putVal_112 7 rfl ?_
    obtain ⟨g3, e⟩ := gd_o e
    refine r_cast cst_3 q614 (inC_p g3) dJ1_putVal_114 ?_
    refine r_aload_n dJ1_putVal_117 rfl 0 rfl ?_
    refine r_aload dJ1_putVal_118 6 rfl ?_
    refine r_iload_n dJ1_putVal_120 rfl 1 rfl ?_
    refine r_aload_n dJ1_putVal_121 rfl 2 rfl ?_
    refine r_aload_n dJ1_putVal_122 rfl 3 rfl ?_
    obtain ⟨g6, e⟩ := gd_o e
    obtain ⟨p4, q5, e⟩ := bd_o e
    have k7 := kJ6_putTreeVal (G := nG N) ha1 q5
    have z8 := (k7 rr).1.2.2.2
    refine r_callVo (j := none) 5 [tr o0, tr o6, ti a1, tr o2, tr o3] (c := 13) (rc := (RJ6, TJ6, 11)) rfl g6 rfl k7 (injO_0 E.p) subO_0 getO_0 setO_0 (lw_V q762 q763 q764 q131 q765) (by decide +kernel) rfl (Nat.le_of_ble_eq_true rfl) (Nat.le_of_ble_eq_true rfl) rfl (Nat.le_of_ble_eq_true rfl) dJ1_putVal_123 rfl ?_
    refine r_rrs E.p (fun rr9 => ?_)
    refine r_astore (lv' := [(10, tr p4.1), (0, tr o0), (1, ti a1), (2, tr o2), (3, tr o3), (4, ti a4), (5, ti a5), (6, tr o6), (7, tr o7)]) dJ1_putVal_126 (E.lt (by decide)) rfl ?_
    refine r_goto 222 dJ1_putVal_128 (by decide) ?_
    refine r_sub [1, 4, 5, 6, 0] rfl ?_
    exact wJ1_putVal_b222 E p4.2 o0 o3 a4 a5 p4.1 ha4 ha5 e
  · have e := eF c1
    obtain ⟨g10, e⟩ := gd_o e
    refine r_inst0 (c := 12) (r := (RJ4, TJ4, 4)) rfl (by decide) q614 g10 dJ1_putVal_106 ?_
    refine r_if_eq (by decide) 131 dJ1_putVal_109 (by decide) (fun c11 => ?_) (fun c11 => absurd (by decide) c11)
    refine r_iconst dJ1_putVal_131 ?_
    refine r_istore (lv' := [(12, ti 0), (0, tr o0), (1, ti a1), (2, tr o2), (3, tr o3), (4, ti a4), (5, ti a5), (6, tr o6), (7, tr o7)]) dJ1_putVal_132 (E.lt (by decide)) rfl ?_
    refine r_sub [1, 2, 3, 4, 5, 6, 7, 8, 0] rfl ?_
    exact wJ1_putVal_L134 E FU h o0 a1 o2 o3 a4 a5 o6 o7 0 ha1 ha4 ha5 (by decide) e
def fJ1_putVal_b29 (h : hS) (o0 : Option Nat) (a1 : Int) (o2 : Option Nat) (o3 : Option Nat) (a4 : Int) (a5 : Int) (o6 : Option Nat) (a8 : Int) : Option (Option Nat × hS) := bd (aQ h o6 6 (iand (wr (a8 - 1)) a1)) fun v1 => ifN v1 (gd (hC h o0 = some 11) (bd (fJ1_newNode h o0 a1 o2 o3 none) fun p5 => bd (aWQ p5.2 o6 6 [12, 13] (iand (wr (a8 - 1)) a1) p5.1) fun h11 => fJ1_putVal_b259 h11 o0 a5)) (fun _ => bd (hI h v1 [(12, 0), (13, 2)]) fun v14 => if ¬ v14 = a1 then fJ1_putVal_b104 h o0 a1 o2 o3 a4 a5 o6 v1 else bd (hQ h v1 [(12, 1), (13, 3)]) fun v17 => if v17 = o2 then fJ1_putVal_b97 h o0 o3 a4 a5 v1 else ifN o2 (fJ1_putVal_b104 h o0 a1 o2 o3 a4 a5 o6 v1) (fun _ => bd (D1_equals h o2 v17) fun p22 => if p22 = 0 then fJ1_putVal_b104 h o0 a1 o2 o3 a4 a5 o6 v1 else fJ1_putVal_b97 h o0 o3 a4 a5 v1))
theorem wJ1_putVal_b29 {N : Nx} {h' : hS} {r : Option Nat} (E : EndX N [] 13 (some (.object "java/lang/Object")) (some (tr r)) [] h')  (h : hS) (o0 : Option Nat) (a1 : Int) (o2 : Option Nat) (o3 : Option Nat) (a4 : Int) (a5 : Int) (o6 : Option Nat) (a8 : Int) (ha1 : rI a1) (ha4 : rI a4) (ha5 : rI a5) (ha8 : rI a8) (e : fJ1_putVal_b29 h o0 a1 o2 o3 a4 a5 o6 a8 = some (r, h')) : AtPc cJ1_putVal RJ1 19 431 N [] h 29 [(0, tr o0), (1, ti a1), (2, tr o2), (3, tr o3), (4, ti a4), (5, ti a5), (6, tr o6), (8, ti a8)] [] := by
  unfold fJ1_putVal_b29 at e
  refine r_rrs E.p (fun rr => ?_)
  refine r_aload dJ1_putVal_29 6 rfl ?_
  refine r_iload dJ1_putVal_31 7 rfl ?_
  refine r_iconst dJ1_putVal_33 ?_
  refine r_isub dJ1_putVal_34 ?_
  refine r_iload_n dJ1_putVal_35 rfl 1 rfl ?_
  refine r_iand dJ1_putVal_36 ?_
  refine r_dup dJ1_putVal_37 rfl ?_
  refine r_istore (lv' := [(9, ti (iand (wr (a8 - 1)) a1)), (0, tr o0), (1, ti a1), (2, tr o2), (3, tr o3), (4, ti a4), (5, ti a5), (6, tr o6), (8, ti a8)]) dJ1_putVal_38 (E.lt (by decide)) rfl ?_
  obtain ⟨v1, q2, e⟩ := bd_o e
  refine r_aQ (iand_r _ _) q2 dJ1_putVal_40 ?_
  refine r_dup dJ1_putVal_41 rfl ?_
  refine r_astore (lv' := [(7, tr v1), (9, ti (iand (wr (a8 - 1)) a1)), (0, tr o0), (1, ti a1), (2, tr o2), (3, tr o3), (4, ti a4), (5, ti a5), (6, tr o6), (8, ti a8)]) dJ1_putVal_42 (E.lt (by decide)) rfl ?_
  have eT := (r_ifno e).1
  have eF := (r_ifno e).2
  refine r_ifnonnull 63 dJ1_putVal_44 (by decide) (fun c3 => ?_) (fun x4 c3 => ?_)
  · have e := eT c3
    refine r_aload dJ1_putVal_47 8 rfl ?_
    refine r_iload dJ1_putVal_49 1 rfl ?_
    refine r_aload_n dJ1_putVal_51 rfl 2 rfl ?_
    refine r_iload_n dJ1_putVal_52 rfl 3 rfl ?_
    refine r_aload_n dJ1_putVal_53 rfl 4 rfl ?_
    refine r_aload_n dJ1_putVal_54 rfl 5 rfl ?_
    refine r_null dJ1_putVal_55 ?_
    obtain ⟨g7, e⟩ := gd_o e
    obtain ⟨p5, q6, e⟩ := bd_o e
    have k8 := kJ1_newNode (G := nG N) ha1 q6
    have z9 := (k8 rr).1.2.2.2
    refine r_callVo (j := none) 4 [ti a1, tr o2, tr o3, tr none] (c := 11) (rc := (RJ1, TJ1, 8)) rfl g7 rfl k8 (injO_0 E.p) subO_0 getO_0 setO_0 (lw_V q758 q759 q760 q122 q761) (by decide +kernel) rfl (Nat.le_of_ble_eq_true rfl) (Nat.le_of_ble_eq_true rfl) rfl (Nat.le_of_ble_eq_true rfl) dJ1_putVal_56 rfl ?_
    refine r_rrs E.p (fun rr10 => ?_)
    obtain ⟨h11, q12, e⟩ := bd_o e
    refine r_aPQ (t := 6) (iand_r _ _) q12 sto_6 (by decide) dJ1_putVal_59 ?_
    refine r_rrs E.p (fun rr13 => ?_)
    refine r_goto 259 dJ1_putVal_60 (by decide) ?_
    refine r_sub [2, 7] rfl ?_
    exact wJ1_putVal_b259 E h11 o0 a5 ha5 e
  · have e := eF x4 c3
    refine r_aload dJ1_putVal_63 0 rfl ?_
    obtain ⟨v14, q15, e⟩ := bd_o e
    refine r_getI fG_J1_168 q15 dJ1_putVal_65 ?_
    refine r_iload_n dJ1_putVal_68 rfl 3 rfl ?_
    have eT := (r_ifo e).1
    have eF := (r_ifo e).2
    refine r_icmp_ne (hI_r rr q15) ha1 104 dJ1_putVal_69 (by decide) (fun c16 => ?_) (fun c16 => ?_)
    · have e := eT c16
      refine r_sub [2, 3, 4, 5, 6, 7, 8, 0] rfl ?_
      exact wJ1_putVal_b104 E h o0 a1 o2 o3 a4 a5 o6 v1 ha1 ha4 ha5 e
    · have e := eF c16
      refine r_aload dJ1_putVal_72 0 rfl ?_
      obtain ⟨v17, q18, e⟩ := bd_o e
      refine r_getQ fG_J1_170 q18 dJ1_putVal_74 ?_
      refine r_dup dJ1_putVal_77 rfl ?_
      refine r_astore (lv' := [(11, tr v17), (7, tr v1), (9, ti (iand (wr (a8 - 1)) a1)), (0, tr o0), (1, ti a1), (2, tr o2), (3, tr o3), (4, ti a4), (5, ti a5), (6, tr o6), (8, ti a8)]) dJ1_putVal_78 (E.lt (by decide)) rfl ?_
      refine r_aload_n dJ1_putVal_80 rfl 5 rfl ?_
      have eT := (r_ifo e).1
      have eF := (r_ifo e).2
      refine r_acmp_eq 97 dJ1_putVal_81 (by decide) (fun c19 => ?_) (fun c19 => ?_)
      · have e := eT c19
        refine r_sub [3, 6, 7, 8, 1] rfl ?_
        exact wJ1_putVal_b97 E h o0 o3 a4 a5 v1 ha4 ha5 e
      · have e := eF c19
        refine r_aload_n dJ1_putVal_84 rfl 5 rfl ?_
        have eT := (r_ifno e).1
        have eF := (r_ifno e).2
        refine r_ifnull 104 dJ1_putVal_85 (by decide) (fun c20 => ?_) (fun x21 c20 => ?_)
        · have e := eT c20
          refine r_sub [3, 4, 5, 6, 7, 8, 9, 1] rfl ?_
          exact wJ1_putVal_b104 E h o0 a1 o2 o3 a4 a5 o6 v1 ha1 ha4 ha5 e
        · have e := eF x21 c20
          refine r_aload_n dJ1_putVal_88 rfl 5 rfl ?_
          refine r_aload dJ1_putVal_89 0 rfl ?_
          obtain ⟨p22, q23, e⟩ := bd_o e
          have z24 := zD1_equals (G := nG N)  q23 rr.none
          refine rD_J1_173  q23 (injO_0 E.p) (Nat.le_of_ble_eq_true rfl) (Nat.le_of_ble_eq_true rfl) rfl (Nat.le_of_ble_eq_true rfl) dJ1_putVal_91 rfl ?_
          have eT := (r_ifo e).1
          have eF := (r_ifo e).2
          refine r_if_eq (rI_z z24) 104 dJ1_putVal_94 (by decide) (fun c25 => ?_) (fun c25 => ?_)
          · have e := eT c25
            refine r_sub [3, 4, 5, 6, 7, 8, 9, 1] rfl ?_
            exact wJ1_putVal_b104 E h o0 a1 o2 o3 a4 a5 o6 v1 ha1 ha4 ha5 e
          · have e := eF c25
            refine r_sub [3, 6, 7, 8, 1] rfl ?_
            exact wJ1_putVal_b97 E h o0 o3 a4 a5 v1 ha4 ha5 e
def fJ1_putVal_b19 (h : hS) (o0 : Option Nat) (a1 : Int) (o2 : Option Nat) (o3 : Option Nat) (a4 : Int) (a5 : Int) : Option (Option Nat × hS) := gd (hC h o0 = some 11) (bd (fJ1_resize h o0) fun p1 => bd (hL p1.2 p1.1 6) fun v7 => fJ1_putVal_b29 p1.2 o0 a1 o2 o3 a4 a5 p1.1 v7)
theorem wJ1_putVal_b19 {N : Nx} {h' : hS} {r : Option Nat} (E : EndX N [] 13 (some (.object "java/lang/Object")) (some (tr r)) [] h')  (h : hS) (o0 : Option Nat) (a1 : Int) (o2 : Option Nat) (o3 : Option Nat) (a4 : Int) (a5 : Int) (ha1 : rI a1) (ha4 : rI a4) (ha5 : rI a5) (e : fJ1_putVal_b19 h o0 a1 o2 o3 a4 a5 = some (r, h')) : AtPc cJ1_putVal RJ1 19 431 N [] h 19 [(0, tr o0), (1, ti a1), (2, tr o2), (3, tr o3), (4, ti a4), (5, ti a5)] [] := by
  unfold fJ1_putVal_b19 at e
  refine r_rrs E.p (fun rr => ?_)
  refine r_aload_n dJ1_putVal_19 rfl 0 rfl ?_
  obtain ⟨g3, e⟩ := gd_o e
  obtain ⟨p1, q2, e⟩ := bd_o e
  have k4 := kJ1_resize (G := nG N)  q2
  have z5 := (k4 rr).1.2.2.2
  refine r_callVo (j := none) 0 [] (c := 11) (rc := (RJ1, TJ1, 8)) rfl g3 rfl k4 (injO_0 E.p) subO_0 getO_0 setO_0 (lw_V q688 q689 q690 q122 q691) (by decide +kernel) rfl (Nat.le_of_ble_eq_true rfl) (Nat.le_of_ble_eq_true rfl) rfl (Nat.le_of_ble_eq_true rfl) dJ1_putVal_20 rfl ?_
  refine r_rrs E.p (fun rr6 => ?_)
  refine r_dup dJ1_putVal_23 rfl ?_
  refine r_astore (lv' := [(6, tr p1.1), (0, tr o0), (1, ti a1), (2, tr o2), (3, tr o3), (4, ti a4), (5, ti a5)]) dJ1_putVal_24 (E.lt (by decide)) rfl ?_
  obtain ⟨v7, q8, e⟩ := bd_o e
  refine r_aL q8 dJ1_putVal_26 ?_
  refine r_istore (lv' := [(8, ti v7), (6, tr p1.1), (0, tr o0), (1, ti a1), (2, tr o2), (3, tr o3), (4, ti a4), (5, ti a5)]) dJ1_putVal_27 (E.lt (by decide)) rfl ?_
  refine r_sub [2, 3, 4, 5, 6, 7, 1, 0] rfl ?_
  exact wJ1_putVal_b29 E p1.2 o0 a1 o2 o3 a4 a5 p1.1 v7 ha1 ha4 ha5 (hL_r rr6 q8) e
def fJ1_putVal  (h : hS) (o0 : Option Nat) (a1 : Int) (o2 : Option Nat) (o3 : Option Nat) (a4 : Int) (a5 : Int) : Option (Option Nat × hS) := bd (hQ h o0 [(11, 2)]) fun v1 => ifN v1 (fJ1_putVal_b19 h o0 a1 o2 o3 a4 a5) (fun _ => bd (hL h v1 6) fun v5 => if ¬ v5 = 0 then fJ1_putVal_b29 h o0 a1 o2 o3 a4 a5 v1 v5 else fJ1_putVal_b19 h o0 a1 o2 o3 a4 a5)
theorem kJ1_putVal {G : Gx}  {h' : hS} {r : Option Nat} {h : hS} {o0 : Option Nat} {a1 : Int} {o2 : Option Nat} {o3 : Option Nat} {a4 : Int} {a5 : Int}  (ha1 : rI a1) (ha4 : rI a4) (ha5 : rI a5) (e : fJ1_putVal h o0 a1 o2 o3 a4 a5 = some (r, h')) : CtX G yJ1_putVal cJ1_putVal 13 (some (.object "java/lang/Object")) 19 431 [] [] h [tr o0, ti a1, tr o2, tr o3, ti a4, ti a5] (some (tr r)) [] h' := by
  refine CtX.of (by decide) (Nat.le_of_ble_eq_true rfl) [(0, tr o0), (1, ti a1), (2, tr o2), (3, tr o3), (4, ti a4), (5, ti a5)] rfl ?_
  have E : EndX (G, 13, [], h, [], h', (some (.object "java/lang/Object")), (some (tr r)), yJ1_putVal.name) [] 13 (some (.object "java/lang/Object")) (some (tr r)) [] h' := ⟨rfl, rfl, rfl, rfl, rfl, rfl⟩
  unfold fJ1_putVal at e
  refine r_rrs E.p (fun rr => ?_)
  refine r_aload_n dJ1_putVal_0 rfl 0 rfl ?_
  obtain ⟨v1, q2, e⟩ := bd_o e
  refine r_getQ fG_J1_105 q2 dJ1_putVal_1 ?_
  refine r_dup dJ1_putVal_4 rfl ?_
  refine r_astore (lv' := [(6, tr v1), (0, tr o0), (1, ti a1), (2, tr o2), (3, tr o3), (4, ti a4), (5, ti a5)]) dJ1_putVal_5 (E.lt (by decide)) rfl ?_
  have eT := (r_ifno e).1
  have eF := (r_ifno e).2
  refine r_ifnull 19 dJ1_putVal_7 (by decide) (fun c3 => ?_) (fun x4 c3 => ?_)
  · have e := eT c3
    refine r_sub [1, 2, 3, 4, 5, 6] rfl ?_
    exact wJ1_putVal_b19 E h o0 a1 o2 o3 a4 a5 ha1 ha4 ha5 e
  · have e := eF x4 c3
    refine r_aload dJ1_putVal_10 0 rfl ?_
    obtain ⟨v5, q6, e⟩ := bd_o e
    refine r_aL q6 dJ1_putVal_12 ?_
    refine r_dup dJ1_putVal_13 rfl ?_
    refine r_istore (lv' := [(8, ti v5), (6, tr v1), (0, tr o0), (1, ti a1), (2, tr o2), (3, tr o3), (4, ti a4), (5, ti a5)]) dJ1_putVal_14 (E.lt (by decide)) rfl ?_
    have eT := (r_ifo e).1
    have eF := (r_ifo e).2
    refine r_if_ne (hL_r rr q6) 29 dJ1_putVal_16 (by decide) (fun c7 => ?_) (fun c7 => ?_)
    · have e := eT c7
      refine r_sub [2, 3, 4, 5, 6, 7, 1, 0] rfl ?_
      exact wJ1_putVal_b29 E h o0 a1 o2 o3 a4 a5 v1 v5 ha1 ha4 ha5 (hL_r rr q6) e
    · have e := eF c7
      refine r_sub [2, 3, 4, 5, 6, 7] rfl ?_
      exact wJ1_putVal_b19 E h o0 a1 o2 o3 a4 a5 ha1 ha4 ha5 e
def fJ1_put  (h : hS) (o0 : Option Nat) (o1 : Option Nat) (o2 : Option Nat) : Option (Option Nat × hS) := bd (fJ1_hash h o1) fun p1 => gd (hC h o0 = some 11) (bd (fJ1_putVal h o0 p1 o1 o2 0 1) fun p5 => some (p5.1, p5.2))
theorem kJ1_put {G : Gx}  {h' : hS} {r : Option Nat} {h : hS} {o0 : Option Nat} {o1 : Option Nat} {o2 : Option Nat}   (e : fJ1_put h o0 o1 o2 = some (r, h')) : CtX G yJ1_put cJ1_put 3 (some (.object "java/lang/Object")) 20 463 [] [] h [tr o0, tr o1, tr o2] (some (tr r)) [] h' := by
  refine CtX.of (by decide) (Nat.le_of_ble_eq_true rfl) [(0, tr o0), (1, tr o1), (2, tr o2)] rfl ?_
  have E : EndX (G, 3, [], h, [], h', (some (.object "java/lang/Object")), (some (tr r)), yJ1_put.name) [] 3 (some (.object "java/lang/Object")) (some (tr r)) [] h' := ⟨rfl, rfl, rfl, rfl, rfl, rfl⟩
  unfold fJ1_put at e
  refine r_rrs E.p (fun rr => ?_)
  refine r_aload_n dJ1_put_0 rfl 0 rfl ?_
  refine r_aload_n dJ1_put_1 rfl 1 rfl ?_
  obtain ⟨p1, q2, e⟩ := bd_o e
  have k3 := kJ1_hash (G := G)  q2
  have z4 := (k3 rr).1.2.2.2
  refine r_callS (j := none) 1 [tr o1] k3 (injO_0 E.p) subO_0 getO_0 setO_0 (lw_S q547 q548 q122 q549) (by decide +kernel) rfl (Nat.le_of_ble_eq_true rfl) (Nat.le_of_ble_eq_true rfl) rfl (Nat.le_of_ble_eq_true rfl) dJ1_put_2 rfl ?_
  refine r_aload_n dJ1_put_5 rfl 1 rfl ?_
  refine r_aload_n dJ1_put_6 rfl 2 rfl ?_
  refine r_iconst dJ1_put_7 ?_
  refine r_iconst dJ1_put_8 ?_
  obtain ⟨g7, e⟩ := gd_o e
  obtain ⟨p5, q6, e⟩ := bd_o e
  have k8 := kJ1_putVal (G := G) z4 (by decide) (by decide) q6
  have z9 := (k8 rr).1.2.2.2
  refine r_callVo (j := none) 5 [ti p1, tr o1, tr o2, ti 0, ti 1] (c := 11) (rc := (RJ1, TJ1, 8)) rfl g7 rfl k8 (injO_0 E.p) subO_0 getO_0 setO_0 (lw_V q684 q685 q686 q122 q687) (by decide +kernel) rfl (Nat.le_of_ble_eq_true rfl) (Nat.le_of_ble_eq_true rfl) rfl (Nat.le_of_ble_eq_true rfl) dJ1_put_9 rfl ?_
  refine r_rrs E.p (fun rr10 => ?_)
  cases e
  exact r_aret E.σ E.st E.rt (by first | exact Or.inl ⟨_, rfl⟩ | exact Or.inr ⟨_, rfl⟩) E.r dJ1_put_12
def fJ1_clear_b49 (h : hS) : Option (hS) := some h
theorem wJ1_clear_b49 {N : Nx} {h' : hS} (E : EndX N [] 3 none none [] h')  (h : hS) (e : fJ1_clear_b49 h = some (h')) : AtPc cJ1_clear RJ1 0 0 N [] h 49 [] [] := by
  unfold fJ1_clear_b49 at e
  refine r_rrs E.p (fun rr => ?_)
  cases e
  exact r_vret E.σ E.st E.rt E.r dJ1_clear_49
def fJ1_clear_b33 (K33 : hS → Option Nat → Int → Option (hS)) (h : hS) (o1 : Option Nat) (a2 : Int) : Option (hS) := bd (hL h o1 6) fun v1 => if v1 ≤ a2 then fJ1_clear_b49 h else bd (aWQ h o1 6 [12, 13] a2 none) fun h4 => K33 h4 o1 (wr (a2 + 1))
theorem wJ1_clear_b33 {N : Nx} {h' : hS} (E : EndX N [] 3 none none [] h') (K33 : hS → Option Nat → Int → Option (hS)) (hK33 : ∀ (h : hS) (o1 : Option Nat) (a2 : Int) (ha2 : rI a2), K33 h o1 a2 = some (h') → AtPc cJ1_clear RJ1 0 0 N [] h 33 [(1, tr o1), (2, ti a2)] []) (h : hS) (o1 : Option Nat) (a2 : Int) (ha2 : rI a2) (e : fJ1_clear_b33 K33 h o1 a2 = some (h')) : AtPc cJ1_clear RJ1 0 0 N [] h 33 [(1, tr o1), (2, ti a2)] [] := by
  unfold fJ1_clear_b33 at e
  refine r_rrs E.p (fun rr => ?_)
  refine r_iload_n dJ1_clear_33 rfl 1 rfl ?_
  refine r_aload_n dJ1_clear_34 rfl 0 rfl ?_
  obtain ⟨v1, q2, e⟩ := bd_o e
  refine r_aL q2 dJ1_clear_35 ?_
  have eT := (r_ifo e).1
  have eF := (r_ifo e).2
  refine r_icmp_ge ha2 (hL_r rr q2) 49 dJ1_clear_36 (by decide) (fun c3 => ?_) (fun c3 => ?_)
  · have e := eT c3
    refine r_sub [] rfl ?_
    exact wJ1_clear_b49 E h e
  · have e := eF c3
    refine r_aload_n dJ1_clear_39 rfl 0 rfl ?_
    refine r_iload_n dJ1_clear_40 rfl 1 rfl ?_
    refine r_null dJ1_clear_41 ?_
    obtain ⟨h4, q5, e⟩ := bd_o e
    refine r_aPQ (t := 6) ha2 q5 sto_6 (by decide) dJ1_clear_42 ?_
    refine r_rrs E.p (fun rr6 => ?_)
    refine r_iinc (lv' := [(2, ti (wr (a2 + 1))), (1, tr o1)]) dJ1_clear_43 1 rfl (E.lt (by decide)) rfl ?_
    refine r_goto 33 dJ1_clear_46 (by decide) ?_
    refine r_sub [1, 0] rfl ?_
    exact hK33 h4 o1 (wr (a2 + 1)) (wr_r _) e
def fJ1_clear_L33  : Nat → hS → Option Nat → Int → Option (hS)
  | 0, _, _, _ => none
  | n9 + 1, h, o1, a2 => fJ1_clear_b33 (fJ1_clear_L33 n9) h o1 a2
theorem wJ1_clear_L33 {N : Nx} {h' : hS} (E : EndX N [] 3 none none [] h')  : ∀ (n9 : Nat), ∀ (h : hS) (o1 : Option Nat) (a2 : Int) (ha2 : rI a2), fJ1_clear_L33 n9 h o1 a2 = some (h') → AtPc cJ1_clear RJ1 0 0 N [] h 33 [(1, tr o1), (2, ti a2)] [] := by
  intro n9
  induction n9 with
  | zero => intro h o1 a2 ha2 e; cases e
  | succ n9 ih => intro h o1 a2 ha2 e; exact wJ1_clear_b33 E _ ih h o1 a2 ha2 e
def fJ1_clear  (h : hS) (o0 : Option Nat) : Option (hS) := bd (hI h o0 [(11, 5)]) fun v1 => bd (hW h o0 [(11, 5)] (vi (wr (v1 + 1)))) fun h3 => bd (hQ h3 o0 [(11, 2)]) fun v6 => ifN v6 (fJ1_clear_b49 h3) (fun _ => bd (hI h3 o0 [(11, 4)]) fun v10 => if v10 ≤ 0 then fJ1_clear_b49 h3 else bd (hW h3 o0 [(11, 4)] (vi 0)) fun h13 => fJ1_clear_L33 FU h13 v6 0)
theorem kJ1_clear {G : Gx}  {h' : hS} {h : hS} {o0 : Option Nat}   (e : fJ1_clear h o0 = some (h')) : CtX G yJ1_clear cJ1_clear 3 none 0 0 [] [] h [tr o0] none [] h' := by
  refine CtX.of (by decide) (Nat.le_of_ble_eq_true rfl) [(0, tr o0)] rfl ?_
  have E : EndX (G, 3, [], h, [], h', none, none, yJ1_clear.name) [] 3 none none [] h' := ⟨rfl, rfl, rfl, rfl, rfl, rfl⟩
  unfold fJ1_clear at e
  refine r_rrs E.p (fun rr => ?_)
  refine r_aload_n dJ1_clear_0 rfl 0 rfl ?_
  refine r_dup dJ1_clear_1 rfl ?_
  obtain ⟨v1, q2, e⟩ := bd_o e
  refine r_getI fG_J1_202 q2 dJ1_clear_2 ?_
  refine r_iconst dJ1_clear_5 ?_
  refine r_iadd dJ1_clear_6 ?_
  obtain ⟨h3, q4, e⟩ := bd_o e
  refine r_put (v := vi (wr (v1 + 1))) fP_J1_202 (by first | exact fun q => absurd q (by decide) | exact fun _ => rfl) (wr_r _) q4 dJ1_clear_7 ?_
  refine r_rrs E.p (fun rr5 => ?_)
  refine r_aload_n dJ1_clear_10 rfl 0 rfl ?_
  obtain ⟨v6, q7, e⟩ := bd_o e
  refine r_getQ fG_J1_105 q7 dJ1_clear_11 ?_
  refine r_dup dJ1_clear_14 rfl ?_
  refine r_astore_n (lv' := [(1, tr v6), (0, tr o0)]) dJ1_clear_15 rfl (E.lt (by decide)) rfl ?_
  have eT := (r_ifno e).1
  have eF := (r_ifno e).2
  refine r_ifnull 49 dJ1_clear_16 (by decide) (fun c8 => ?_) (fun x9 c8 => ?_)
  · have e := eT c8
    refine r_sub [] rfl ?_
    exact wJ1_clear_b49 E h3 e
  · have e := eF x9 c8
    refine r_aload_n dJ1_clear_19 rfl 1 rfl ?_
    obtain ⟨v10, q11, e⟩ := bd_o e
    refine r_getI fG_J1_156 q11 dJ1_clear_20 ?_
    have eT := (r_ifo e).1
    have eF := (r_ifo e).2
    refine r_if_le (hI_r rr5 q11) 49 dJ1_clear_23 (by decide) (fun c12 => ?_) (fun c12 => ?_)
    · have e := eT c12
      refine r_sub [] rfl ?_
      exact wJ1_clear_b49 E h3 e
    · have e := eF c12
      refine r_aload_n dJ1_clear_26 rfl 1 rfl ?_
      refine r_iconst dJ1_clear_27 ?_
      obtain ⟨h13, q14, e⟩ := bd_o e
      refine r_put (v := vi 0) fP_J1_156 (by first | exact fun q => absurd q (by decide) | exact fun _ => rfl) (by show rI _; decide) q14 dJ1_clear_28 ?_
      refine r_rrs E.p (fun rr15 => ?_)
      refine r_iconst dJ1_clear_31 ?_
      refine r_istore_n (lv' := [(2, ti 0), (1, tr v6), (0, tr o0)]) dJ1_clear_32 rfl (E.lt (by decide)) rfl ?_
      refine r_sub [1, 0] rfl ?_
      exact wJ1_clear_L33 E FU h13 v6 0 (by decide) e
def fJ1_size  (h : hS) (o0 : Option Nat) : Option (Int) := bd (hI h o0 [(11, 4)]) fun v1 => some v1
theorem kJ1_size {G : Gx}  {h : hS} {r : Int} {o0 : Option Nat}   (e : fJ1_size h o0 = some (r)) : CtX G yJ1_size cJ1_size 1 (some .int) 0 0 [] [] h [tr o0] (some (ti r)) [] h := by
  refine CtX.of (by decide) (Nat.le_of_ble_eq_true rfl) [(0, tr o0)] rfl ?_
  have E : EndX (G, 1, [], h, [], h, (some .int), (some (ti r)), yJ1_size.name) [] 1 (some .int) (some (ti r)) [] h := ⟨rfl, rfl, rfl, rfl, rfl, rfl⟩
  unfold fJ1_size at e
  refine r_rrs E.p (fun rr => ?_)
  refine r_aload_n dJ1_size_0 rfl 0 rfl ?_
  obtain ⟨v1, q2, e⟩ := bd_o e
  refine r_getI fG_J1_156 q2 dJ1_size_1 ?_
  cases e
  exact r_iret E.σ E.st E.rt E.r (hI_r rr q2) dJ1_size_4
def fJ13_init  (o0 : Option Nat) : Option (Unit) := gd (¬ o0 = none) (some ())
theorem kJ13_init {G : Gx}  {h : hS} {o0 : Option Nat}   (e : fJ13_init o0 = some ()) : CtX G yJ13_init cJ13_init 1 none 1 20 [] [] h [tr o0] none [] h := by
  refine CtX.of (by decide) (Nat.le_of_ble_eq_true rfl) [(0, tr o0)] rfl ?_
  have E : EndX (G, 1, [], h, [], h, none, none, yJ13_init.name) [] 1 none none [] h := ⟨rfl, rfl, rfl, rfl, rfl, rfl⟩
  unfold fJ13_init at e
  refine r_rrs E.p (fun rr => ?_)
  refine r_aload_n dJ13_init_0 rfl 0 rfl ?_
  obtain ⟨g1, e⟩ := gd_o e
  refine r_objInitO g1 q1010 q150 q151 (Nat.le_of_ble_eq_true rfl) (Nat.le_of_ble_eq_true rfl) (Nat.le_of_ble_eq_true rfl) dJ13_init_1 ?_
  cases e
  exact r_vret E.σ E.st E.rt E.r dJ13_init_4
def fJ14_init  (o0 : Option Nat) : Option (Unit) := gd (¬ o0 = none) (bd (fJ13_init o0) fun _ => some ())
theorem kJ14_init {G : Gx}  {h : hS} {o0 : Option Nat}   (e : fJ14_init o0 = some ()) : CtX G yJ14_init cJ14_init 1 none 2 40 [] [] h [tr o0] none [] h := by
  refine CtX.of (by decide) (Nat.le_of_ble_eq_true rfl) [(0, tr o0)] rfl ?_
  have E : EndX (G, 1, [], h, [], h, none, none, yJ14_init.name) [] 1 none none [] h := ⟨rfl, rfl, rfl, rfl, rfl, rfl⟩
  unfold fJ14_init at e
  refine r_rrs E.p (fun rr => ?_)
  refine r_aload_n dJ14_init_0 rfl 0 rfl ?_
  obtain ⟨g3, e⟩ := gd_o e
  obtain ⟨p1, q2, e⟩ := bd_o e
  have k4 := kJ13_init (G := G) (h := h)  q2
  have z5 := (k4 rr).1.2.2.2
  refine r_callIo (j := none) 0 [] g3 rfl rfl k4 (injO_0 E.p) subO_0 getO_0 setO_0 q1009 q141 q1007 q1008 (by decide +kernel) rfl (Nat.le_of_ble_eq_true rfl) (Nat.le_of_ble_eq_true rfl) rfl (Nat.le_of_ble_eq_true rfl) dJ14_init_1 rfl ?_
  cases e
  exact r_vret E.σ E.st E.rt E.r dJ14_init_4
theorem fP_J15_10i : FldP RJ15 10 [(14, 0)] (.object "java/util/HashMap") true := List.forall_mem_cons.mpr ⟨⟨RJ15, TJ15, 1, "java/util/HashSet", tyJ15, rfl, in_J15, by decide, q1013, Or.inl rfl, tyJ15_ok, nmJ15, rfl, Or.inl rfl, by decide⟩, fun _ h => absurd h List.not_mem_nil⟩
def fJ15_init  (h : hS) (o0 : Option Nat) : Option (hS) := gd (¬ o0 = none) (bd (fJ14_init o0) fun _ => bd (nwS h 11 [vq none, vq none, vq none, vq none, vi 0, vi 0, vi 0, .inr (.inr (.inl 0))]) fun p6 => bd (fJ1_init p6.2 (some p6.1)) fun p9 => bd (hW p9 o0 [(14, 0)] (vq (some p6.1))) fun h14 => some h14)
theorem kJ15_init {G : Gx}  {h' : hS} {h : hS} {o0 : Option Nat}   (e : fJ15_init h o0 = some (h')) : CtX G yJ15_init cJ15_init 1 none 3 60 [] [] h [tr o0] none [] h' := by
  refine CtX.of (by decide) (Nat.le_of_ble_eq_true rfl) [(0, tr o0)] rfl ?_
  have E : EndX (G, 1, [], h, [], h', none, none, yJ15_init.name) [] 1 none none [] h' := ⟨rfl, rfl, rfl, rfl, rfl, rfl⟩
  unfold fJ15_init at e
  refine r_rrs E.p (fun rr => ?_)
  refine r_aload_n dJ15_init_0 rfl 0 rfl ?_
  obtain ⟨g3, e⟩ := gd_o e
  obtain ⟨p1, q2, e⟩ := bd_o e
  have k4 := kJ14_init (G := G) (h := h)  q2
  have z5 := (k4 rr).1.2.2.2
  refine r_callIo (j := none) 0 [] g3 rfl rfl k4 (injO_0 E.p) subO_0 getO_0 setO_0 q1006 q142 q1004 q1005 (by decide +kernel) rfl (Nat.le_of_ble_eq_true rfl) (Nat.le_of_ble_eq_true rfl) rfl (Nat.le_of_ble_eq_true rfl) dJ15_init_1 rfl ?_
  refine r_aload_n dJ15_init_4 rfl 0 rfl ?_
  obtain ⟨p6, q7, e⟩ := bd_o e
  refine r_newS [vq none, vq none, vq none, vq none, vi 0, vi 0, vi 0, .inr (.inr (.inl 0))] q7 rfl in_J1 tyJ1_ok q1011 q250 q122 (by decide +kernel) rfl (by decide +kernel) dJ15_init_5 ?_
  refine r_rrs E.p (fun rr8 => ?_)
  refine r_dup dJ15_init_8 rfl ?_
  obtain ⟨p9, q10, e⟩ := bd_o e
  have k11 := kJ1_init (G := G)  q10
  have z12 := (k11 rr8).1.2.2.2
  refine r_callIo (j := none) 0 [] (fun q => by cases q) rfl rfl k11 (injO_0 E.p) subO_0 getO_0 setO_0 q253 q122 q1012 q252 (by decide +kernel) rfl (Nat.le_of_ble_eq_true rfl) (Nat.le_of_ble_eq_true rfl) rfl (Nat.le_of_ble_eq_true rfl) dJ15_init_9 rfl ?_
  refine r_rrs E.p (fun rr13 => ?_)
  obtain ⟨h14, q15, e⟩ := bd_o e
  refine r_put (v := vq (some p6.1)) fP_J15_10i (by first | exact fun q => absurd q (by decide) | exact fun _ => rfl) trivial q15 dJ15_init_12 ?_
  refine r_rrs E.p (fun rr16 => ?_)
  cases e
  exact r_vret E.σ E.st E.rt E.r dJ15_init_15
theorem fG_J15_10 : FldG RJ15 10 [(14, 0)] := List.forall_mem_cons.mpr ⟨⟨RJ15, TJ15, 1, "java/util/HashSet", rfl, in_J15, by decide, q1013, Or.inl rfl⟩, fun _ h => absurd h List.not_mem_nil⟩
def fJ15_add_b19 (gs : Option Nat × Option Nat) (h : hS) (k0 : Int) : Option (Int × hS) := gd (k0 = 0 ∨ k0 = 1) (some (k0, h))
theorem wJ15_add_b19 {N : Nx} {h' : hS} {r : Int} (E : EndX N [] 2 (some .boolean) (some (ti r)) [] h')  (h : hS) (k0 : Int) (hk0 : rI k0) (e : fJ15_add_b19 (nG N).2.2.2 h k0 = some (r, h')) : AtPc cJ15_add RJ15 21 485 N [] h 19 [] [ti k0] := by
  unfold fJ15_add_b19 at e
  refine r_rrs E.p (fun rr => ?_)
  obtain ⟨g1, e⟩ := gd_o e
  cases e
  exact r_zret E.σ E.st E.rt E.r g1 dJ15_add_19
def fJ15_add  (gs : Option Nat × Option Nat) (h : hS) (o0 : Option Nat) (o1 : Option Nat) : Option (Int × hS) := bd (hQ h o0 [(14, 0)]) fun v1 => gd (hC h v1 = some 11) (bd (fJ1_put h v1 o1 gs.2) fun p3 => ifN p3.1 (fJ15_add_b19 gs p3.2 1) (fun _ => fJ15_add_b19 gs p3.2 0))
theorem kJ15_add {G : Gx}  {h' : hS} {r : Int} {h : hS} {o0 : Option Nat} {o1 : Option Nat}   (e : fJ15_add G.2.2.2 h o0 o1 = some (r, h')) : CtX G yJ15_add cJ15_add 2 (some .boolean) 21 485 [] [] h [tr o0, tr o1] (some (ti r)) [] h' := by
  refine CtX.of (by decide) (Nat.le_of_ble_eq_true rfl) [(0, tr o0), (1, tr o1)] rfl ?_
  have E : EndX (G, 2, [], h, [], h', (some .boolean), (some (ti r)), yJ15_add.name) [] 2 (some .boolean) (some (ti r)) [] h' := ⟨rfl, rfl, rfl, rfl, rfl, rfl⟩
  unfold fJ15_add at e
  refine r_rrs E.p (fun rr => ?_)
  refine r_aload_n dJ15_add_0 rfl 0 rfl ?_
  obtain ⟨v1, q2, e⟩ := bd_o e
  refine r_getQ fG_J15_10 q2 dJ15_add_1 ?_
  refine r_aload_n dJ15_add_4 rfl 1 rfl ?_
  refine r_getsP q1025 rfl dJ15_add_5 ?_
  obtain ⟨g5, e⟩ := gd_o e
  obtain ⟨p3, q4, e⟩ := bd_o e
  have k6 := kJ1_put (G := G)  q4
  have z7 := (k6 rr).1.2.2.2
  refine r_callVo (j := none) 2 [tr o1, tr G.2.2.2.2] (c := 11) (rc := (RJ1, TJ1, 8)) rfl g5 rfl k6 (injO_0 E.p) subO_0 getO_0 setO_0 (lw_V q1027 q681 q682 q122 q683) (by decide +kernel) rfl (Nat.le_of_ble_eq_true rfl) (Nat.le_of_ble_eq_true rfl) rfl (Nat.le_of_ble_eq_true rfl) dJ15_add_8 rfl ?_
  refine r_rrs E.p (fun rr8 => ?_)
  have eT := (r_ifno e).1
  have eF := (r_ifno e).2
  refine r_ifnonnull 18 dJ15_add_11 (by decide) (fun c9 => ?_) (fun x10 c9 => ?_)
  · have e := eT c9
    refine r_iconst dJ15_add_14 ?_
    refine r_goto 19 dJ15_add_15 (by decide) ?_
    refine r_sub [] rfl ?_
    exact wJ15_add_b19 E p3.2 1 (by decide) e
  · have e := eF x10 c9
    refine r_iconst dJ15_add_18 ?_
    refine r_sub [] rfl ?_
    exact wJ15_add_b19 E p3.2 0 (by decide) e
def fJ15_size  (h : hS) (o0 : Option Nat) : Option (Int) := bd (hQ h o0 [(14, 0)]) fun v1 => gd (hC h v1 = some 11) (bd (fJ1_size h v1) fun p3 => some p3)
theorem kJ15_size {G : Gx}  {h : hS} {r : Int} {o0 : Option Nat}   (e : fJ15_size h o0 = some (r)) : CtX G yJ15_size cJ15_size 1 (some .int) 1 20 [] [] h [tr o0] (some (ti r)) [] h := by
  refine CtX.of (by decide) (Nat.le_of_ble_eq_true rfl) [(0, tr o0)] rfl ?_
  have E : EndX (G, 1, [], h, [], h, (some .int), (some (ti r)), yJ15_size.name) [] 1 (some .int) (some (ti r)) [] h := ⟨rfl, rfl, rfl, rfl, rfl, rfl⟩
  unfold fJ15_size at e
  refine r_rrs E.p (fun rr => ?_)
  refine r_aload_n dJ15_size_0 rfl 0 rfl ?_
  obtain ⟨v1, q2, e⟩ := bd_o e
  refine r_getQ fG_J15_10 q2 dJ15_size_1 ?_
  obtain ⟨g5, e⟩ := gd_o e
  obtain ⟨p3, q4, e⟩ := bd_o e
  have k6 := kJ1_size (G := G)  q4
  have z7 := (k6 rr).1.2.2.2
  refine r_callVo (j := none) 0 [] (c := 11) (rc := (RJ1, TJ1, 8)) rfl g5 rfl k6 (injO_0 E.p) subO_0 getO_0 setO_0 (lw_V q1033 q1034 q1035 q122 q1036) (by decide +kernel) rfl (Nat.le_of_ble_eq_true rfl) (Nat.le_of_ble_eq_true rfl) rfl (Nat.le_of_ble_eq_true rfl) dJ15_size_4 rfl ?_
  cases e
  exact r_iret E.σ E.st E.rt E.r z7 dJ15_size_7
def fJ3_valueOf_b23 (gs : Option Nat × Option Nat) (h : hS) : Option (Option Nat) := none
theorem wJ3_valueOf_b23 {N : Nx} {h : hS} {r : Option Nat} (E : EndX N [] 1 (some (.object "java/lang/Integer")) (some (tr r)) [] h)   (e : fJ3_valueOf_b23 (nG N).2.2.2 h = some (r)) : AtPc cJ3_valueOf RJ3 0 0 N [] h 23 [] [] := by
  unfold fJ3_valueOf_b23 at e
  refine r_rrs E.p (fun rr => ?_)
  cases e
def fJ3_valueOf  (gs : Option Nat × Option Nat) (h : hS) (a0 : Int) : Option (Option Nat) := if a0 < (-128) then fJ3_valueOf_b23 gs h else if 127 < a0 then fJ3_valueOf_b23 gs h else bd (aQ h gs.1 7 (wr (a0 + 128))) fun v3 => some v3
theorem kJ3_valueOf {G : Gx}  {h : hS} {r : Option Nat} {a0 : Int}  (ha0 : rI a0) (e : fJ3_valueOf G.2.2.2 h a0 = some (r)) : CtX G yJ3_valueOf cJ3_valueOf 1 (some (.object "java/lang/Integer")) 0 0 [] [] h [ti a0] (some (tr r)) [] h := by
  refine CtX.of (by decide) (Nat.le_of_ble_eq_true rfl) [(0, ti a0)] rfl ?_
  have E : EndX (G, 1, [], h, [], h, (some (.object "java/lang/Integer")), (some (tr r)), yJ3_valueOf.name) [] 1 (some (.object "java/lang/Integer")) (some (tr r)) [] h := ⟨rfl, rfl, rfl, rfl, rfl, rfl⟩
  unfold fJ3_valueOf at e
  refine r_rrs E.p (fun rr => ?_)
  refine r_iload_n dJ3_valueOf_0 rfl 0 rfl ?_
  refine r_bipush dJ3_valueOf_1 (by decide) ?_
  have eT := (r_ifo e).1
  have eF := (r_ifo e).2
  refine r_icmp_lt ha0 (by decide) 23 dJ3_valueOf_3 (by decide) (fun c1 => ?_) (fun c1 => ?_)
  · have e := eT c1
    refine r_sub [] rfl ?_
    exact wJ3_valueOf_b23 E e
  · have e := eF c1
    refine r_iload_n dJ3_valueOf_6 rfl 0 rfl ?_
    refine r_getsH q522 rfl dJ3_valueOf_7 ?_
    have eT := (r_ifo e).1
    have eF := (r_ifo e).2
    refine r_icmp_gt ha0 (by decide) 23 dJ3_valueOf_10 (by decide) (fun c2 => ?_) (fun c2 => ?_)
    · have e := eT c2
      refine r_sub [] rfl ?_
      exact wJ3_valueOf_b23 E e
    · have e := eF c2
      refine r_getsC q524 rfl dJ3_valueOf_13 ?_
      refine r_iload_n dJ3_valueOf_16 rfl 0 rfl ?_
      refine r_sipush dJ3_valueOf_17 (by decide) ?_
      refine r_iadd dJ3_valueOf_20 ?_
      obtain ⟨v3, q4, e⟩ := bd_o e
      refine r_aQ (wr_r _) q4 dJ3_valueOf_21 ?_
      cases e
      exact r_aret E.σ E.st E.rt (by first | exact Or.inl ⟨_, rfl⟩ | exact Or.inr ⟨_, rfl⟩) E.r dJ3_valueOf_22
def fJ3_bitCount  (a0 : Int) : Option (Int) := some (iand (wr ((wr ((iand (wr ((wr ((iand (wr (a0 - (iand (iush a0 1) 1431655765))) 858993459) + (iand (iush (wr (a0 - (iand (iush a0 1) 1431655765))) 2) 858993459))) + (iush (wr ((iand (wr (a0 - (iand (iush a0 1) 1431655765))) 858993459) + (iand (iush (wr (a0 - (iand (iush a0 1) 1431655765))) 2) 858993459))) 4))) 252645135) + (iush (iand (wr ((wr ((iand (wr (a0 - (iand (iush a0 1) 1431655765))) 858993459) + (iand (iush (wr (a0 - (iand (iush a0 1) 1431655765))) 2) 858993459))) + (iush (wr ((iand (wr (a0 - (iand (iush a0 1) 1431655765))) 858993459) + (iand (iush (wr (a0 - (iand (iush a0 1) 1431655765))) 2) 858993459))) 4))) 252645135) 8))) + (iush (wr ((iand (wr ((wr ((iand (wr (a0 - (iand (iush a0 1) 1431655765))) 858993459) + (iand (iush (wr (a0 - (iand (iush a0 1) 1431655765))) 2) 858993459))) + (iush (wr ((iand (wr (a0 - (iand (iush a0 1) 1431655765))) 858993459) + (iand (iush (wr (a0 - (iand (iush a0 1) 1431655765))) 2) 858993459))) 4))) 252645135) + (iush (iand (wr ((wr ((iand (wr (a0 - (iand (iush a0 1) 1431655765))) 858993459) + (iand (iush (wr (a0 - (iand (iush a0 1) 1431655765))) 2) 858993459))) + (iush (wr ((iand (wr (a0 - (iand (iush a0 1) 1431655765))) 858993459) + (iand (iush (wr (a0 - (iand (iush a0 1) 1431655765))) 2) 858993459))) 4))) 252645135) 8))) 16))) 63)
theorem kJ3_bitCount {G : Gx}  {h : hS} {r : Int} {a0 : Int}  (ha0 : rI a0) (e : fJ3_bitCount a0 = some (r)) : CtX G yJ3_bitCount cJ3_bitCount 1 (some .int) 0 0 [] [] h [ti a0] (some (ti r)) [] h := by
  refine CtX.of (by decide) (Nat.le_of_ble_eq_true rfl) [(0, ti a0)] rfl ?_
  have E : EndX (G, 1, [], h, [], h, (some .int), (some (ti r)), yJ3_bitCount.name) [] 1 (some .int) (some (ti r)) [] h := ⟨rfl, rfl, rfl, rfl, rfl, rfl⟩
  unfold fJ3_bitCount at e
  refine r_rrs E.p (fun rr => ?_)
  refine r_iload_n dJ3_bitCount_0 rfl 0 rfl ?_
  refine r_iload_n dJ3_bitCount_1 rfl 0 rfl ?_
  refine r_iconst dJ3_bitCount_2 ?_
  refine r_iushr dJ3_bitCount_3 ?_
  refine r_ldcw 1431655765 q1053 (by decide) dJ3_bitCount_4 ?_
  refine r_iand dJ3_bitCount_7 ?_
  refine r_isub dJ3_bitCount_8 ?_
  refine r_istore_n (lv' := [(0, ti (wr (a0 - (iand (iush a0 1) 1431655765))))]) dJ3_bitCount_9 rfl (E.lt (by decide)) rfl ?_
  refine r_iload_n dJ3_bitCount_10 rfl 0 rfl ?_
  refine r_ldcw 858993459 q1054 (by decide) dJ3_bitCount_11 ?_
  refine r_iand dJ3_bitCount_14 ?_
  refine r_iload_n dJ3_bitCount_15 rfl 0 rfl ?_
  refine r_iconst dJ3_bitCount_16 ?_
  refine r_iushr dJ3_bitCount_17 ?_
  refine r_ldcw 858993459 q1054 (by decide) dJ3_bitCount_18 ?_
  refine r_iand dJ3_bitCount_21 ?_
  refine r_iadd dJ3_bitCount_22 ?_
  refine r_istore_n (lv' := [(0, ti (wr ((iand (wr (a0 - (iand (iush a0 1) 1431655765))) 858993459) + (iand (iush (wr (a0 - (iand (iush a0 1) 1431655765))) 2) 858993459))))]) dJ3_bitCount_23 rfl (E.lt (by decide)) rfl ?_
  refine r_iload_n dJ3_bitCount_24 rfl 0 rfl ?_
  refine r_iload_n dJ3_bitCount_25 rfl 0 rfl ?_
  refine r_iconst dJ3_bitCount_26 ?_
  refine r_iushr dJ3_bitCount_27 ?_
  refine r_iadd dJ3_bitCount_28 ?_
  refine r_ldcw 252645135 q1055 (by decide) dJ3_bitCount_29 ?_
  refine r_iand dJ3_bitCount_32 ?_
  refine r_istore_n (lv' := [(0, ti (iand (wr ((wr ((iand (wr (a0 - (iand (iush a0 1) 1431655765))) 858993459) + (iand (iush (wr (a0 - (iand (iush a0 1) 1431655765))) 2) 858993459))) + (iush (wr ((iand (wr (a0 - (iand (iush a0 1) 1431655765))) 858993459) + (iand (iush (wr (a0 - (iand (iush a0 1) 1431655765))) 2) 858993459))) 4))) 252645135))]) dJ3_bitCount_33 rfl (E.lt (by decide)) rfl ?_
  refine r_iload_n dJ3_bitCount_34 rfl 0 rfl ?_
  refine r_iload_n dJ3_bitCount_35 rfl 0 rfl ?_
  refine r_bipush dJ3_bitCount_36 (by decide) ?_
  refine r_iushr dJ3_bitCount_38 ?_
  refine r_iadd dJ3_bitCount_39 ?_
  refine r_istore_n (lv' := [(0, ti (wr ((iand (wr ((wr ((iand (wr (a0 - (iand (iush a0 1) 1431655765))) 858993459) + (iand (iush (wr (a0 - (iand (iush a0 1) 1431655765))) 2) 858993459))) + (iush (wr ((iand (wr (a0 - (iand (iush a0 1) 1431655765))) 858993459) + (iand (iush (wr (a0 - (iand (iush a0 1) 1431655765))) 2) 858993459))) 4))) 252645135) + (iush (iand (wr ((wr ((iand (wr (a0 - (iand (iush a0 1) 1431655765))) 858993459) + (iand (iush (wr (a0 - (iand (iush a0 1) 1431655765))) 2) 858993459))) + (iush (wr ((iand (wr (a0 - (iand (iush a0 1) 1431655765))) 858993459) + (iand (iush (wr (a0 - (iand (iush a0 1) 1431655765))) 2) 858993459))) 4))) 252645135) 8))))]) dJ3_bitCount_40 rfl (E.lt (by decide)) rfl ?_
  refine r_iload_n dJ3_bitCount_41 rfl 0 rfl ?_
  refine r_iload_n dJ3_bitCount_42 rfl 0 rfl ?_
  refine r_bipush dJ3_bitCount_43 (by decide) ?_
  refine r_iushr dJ3_bitCount_45 ?_
  refine r_iadd dJ3_bitCount_46 ?_
  refine r_istore_n (lv' := [(0, ti (wr ((wr ((iand (wr ((wr ((iand (wr (a0 - (iand (iush a0 1) 1431655765))) 858993459) + (iand (iush (wr (a0 - (iand (iush a0 1) 1431655765))) 2) 858993459))) + (iush (wr ((iand (wr (a0 - (iand (iush a0 1) 1431655765))) 858993459) + (iand (iush (wr (a0 - (iand (iush a0 1) 1431655765))) 2) 858993459))) 4))) 252645135) + (iush (iand (wr ((wr ((iand (wr (a0 - (iand (iush a0 1) 1431655765))) 858993459) + (iand (iush (wr (a0 - (iand (iush a0 1) 1431655765))) 2) 858993459))) + (iush (wr ((iand (wr (a0 - (iand (iush a0 1) 1431655765))) 858993459) + (iand (iush (wr (a0 - (iand (iush a0 1) 1431655765))) 2) 858993459))) 4))) 252645135) 8))) + (iush (wr ((iand (wr ((wr ((iand (wr (a0 - (iand (iush a0 1) 1431655765))) 858993459) + (iand (iush (wr (a0 - (iand (iush a0 1) 1431655765))) 2) 858993459))) + (iush (wr ((iand (wr (a0 - (iand (iush a0 1) 1431655765))) 858993459) + (iand (iush (wr (a0 - (iand (iush a0 1) 1431655765))) 2) 858993459))) 4))) 252645135) + (iush (iand (wr ((wr ((iand (wr (a0 - (iand (iush a0 1) 1431655765))) 858993459) + (iand (iush (wr (a0 - (iand (iush a0 1) 1431655765))) 2) 858993459))) + (iush (wr ((iand (wr (a0 - (iand (iush a0 1) 1431655765))) 858993459) + (iand (iush (wr (a0 - (iand (iush a0 1) 1431655765))) 2) 858993459))) 4))) 252645135) 8))) 16))))]) dJ3_bitCount_47 rfl (E.lt (by decide)) rfl ?_
  refine r_iload_n dJ3_bitCount_48 rfl 0 rfl ?_
  refine r_bipush dJ3_bitCount_49 (by decide) ?_
  refine r_iand dJ3_bitCount_51 ?_
  cases e
  exact r_iret E.σ E.st E.rt E.r (iand_r _ _) dJ3_bitCount_52
theorem fP_X1_9i : FldP RX1 9 [(1, 3), (2, 3), (3, 3), (4, 3), (5, 3)] (.array .int) true := List.forall_mem_cons.mpr ⟨⟨RX1, TX1, 6, "DictProof$Instance", tyX1, rfl, in_X1, by decide, q174, Or.inl rfl, tyX1_ok, nmX1, rfl, Or.inr ⟨rfl, rfl, rfl⟩, by decide⟩, List.forall_mem_cons.mpr ⟨⟨RX2, TX2, 6, "DictProof$Instance", tyX2, rfl, in_X2, by decide, q174, Or.inl rfl, tyX2_ok, nmX2, rfl, Or.inr ⟨rfl, rfl, rfl⟩, by decide⟩, List.forall_mem_cons.mpr ⟨⟨RX3, TX3, 6, "DictProof$Instance", tyX3, rfl, in_X3, by decide, q174, Or.inl rfl, tyX3_ok, nmX3, rfl, Or.inr ⟨rfl, rfl, rfl⟩, by decide⟩, List.forall_mem_cons.mpr ⟨⟨RX4, TX4, 6, "DictProof$Instance", tyX4, rfl, in_X4, by decide, q174, Or.inl rfl, tyX4_ok, nmX4, rfl, Or.inr ⟨rfl, rfl, rfl⟩, by decide⟩, List.forall_mem_cons.mpr ⟨⟨RX5, TX5, 6, "DictProof$Instance", tyX5, rfl, in_X5, by decide, q174, Or.inl rfl, tyX5_ok, nmX5, rfl, Or.inr ⟨rfl, rfl, rfl⟩, by decide⟩, fun _ h => absurd h List.not_mem_nil⟩⟩⟩⟩⟩
theorem fP_X1_15i : FldP RX1 15 [(1, 4), (2, 4), (3, 4), (4, 4), (5, 4)] (.array .int) true := List.forall_mem_cons.mpr ⟨⟨RX1, TX1, 6, "DictProof$Instance", tyX1, rfl, in_X1, by decide, q176, Or.inl rfl, tyX1_ok, nmX1, rfl, Or.inr ⟨rfl, rfl, rfl⟩, by decide⟩, List.forall_mem_cons.mpr ⟨⟨RX2, TX2, 6, "DictProof$Instance", tyX2, rfl, in_X2, by decide, q176, Or.inl rfl, tyX2_ok, nmX2, rfl, Or.inr ⟨rfl, rfl, rfl⟩, by decide⟩, List.forall_mem_cons.mpr ⟨⟨RX3, TX3, 6, "DictProof$Instance", tyX3, rfl, in_X3, by decide, q176, Or.inl rfl, tyX3_ok, nmX3, rfl, Or.inr ⟨rfl, rfl, rfl⟩, by decide⟩, List.forall_mem_cons.mpr ⟨⟨RX4, TX4, 6, "DictProof$Instance", tyX4, rfl, in_X4, by decide, q176, Or.inl rfl, tyX4_ok, nmX4, rfl, Or.inr ⟨rfl, rfl, rfl⟩, by decide⟩, List.forall_mem_cons.mpr ⟨⟨RX5, TX5, 6, "DictProof$Instance", tyX5, rfl, in_X5, by decide, q176, Or.inl rfl, tyX5_ok, nmX5, rfl, Or.inr ⟨rfl, rfl, rfl⟩, by decide⟩, fun _ h => absurd h List.not_mem_nil⟩⟩⟩⟩⟩
def fX1_init  (h : hS) (o0 : Option Nat) : Option (hS) := gd (¬ o0 = none) (bd (nwAS h 0 2) fun p2 => bd (hW p2.2 o0 [(1, 3), (2, 3), (3, 3), (4, 3), (5, 3)] (vq (some p2.1))) fun h5 => bd (nwAS h5 0 2) fun p8 => bd (hW p8.2 o0 [(1, 4), (2, 4), (3, 4), (4, 4), (5, 4)] (vq (some p8.1))) fun h11 => some h11)
theorem kX1_init {G : Gx}  {h' : hS} {h : hS} {o0 : Option Nat}   (e : fX1_init h o0 = some (h')) : CtX G yX1_init cX1_init 1 none 1 20 [] [] h [tr o0] none [] h' := by
  refine CtX.of (by decide) (Nat.le_of_ble_eq_true rfl) [(0, tr o0)] rfl ?_
  have E : EndX (G, 1, [], h, [], h', none, none, yX1_init.name) [] 1 none none [] h' := ⟨rfl, rfl, rfl, rfl, rfl, rfl⟩
  unfold fX1_init at e
  refine r_rrs E.p (fun rr => ?_)
  refine r_aload_n dX1_init_0 rfl 0 rfl ?_
  obtain ⟨g1, e⟩ := gd_o e
  refine r_objInitO g1 q158 q150 q151 (Nat.le_of_ble_eq_true rfl) (Nat.le_of_ble_eq_true rfl) (Nat.le_of_ble_eq_true rfl) dX1_init_1 ?_
  refine r_aload_n dX1_init_4 rfl 0 rfl ?_
  refine r_iconst dX1_init_5 ?_
  obtain ⟨p2, q3, e⟩ := bd_o e
  refine r_newAS q3 (by decide) rfl q194 dX1_init_6 ?_
  refine r_rrs E.p (fun rr4 => ?_)
  obtain ⟨h5, q6, e⟩ := bd_o e
  refine r_put (v := vq (some p2.1)) fP_X1_9i (by first | exact fun q => absurd q (by decide) | exact fun _ => rfl) trivial q6 dX1_init_8 ?_
  refine r_rrs E.p (fun rr7 => ?_)
  refine r_aload_n dX1_init_11 rfl 0 rfl ?_
  refine r_iconst dX1_init_12 ?_
  obtain ⟨p8, q9, e⟩ := bd_o e
  refine r_newAS q9 (by decide) rfl q194 dX1_init_13 ?_
  refine r_rrs E.p (fun rr10 => ?_)
  obtain ⟨h11, q12, e⟩ := bd_o e
  refine r_put (v := vq (some p8.1)) fP_X1_15i (by first | exact fun q => absurd q (by decide) | exact fun _ => rfl) trivial q12 dX1_init_15 ?_
  refine r_rrs E.p (fun rr13 => ?_)
  cases e
  exact r_vret E.σ E.st E.rt E.r dX1_init_18
def fX2_init  (h : hS) (o0 : Option Nat) : Option (hS) := gd (¬ o0 = none) (bd (fX1_init h o0) fun p1 => some p1)
theorem kX2_init {G : Gx}  {h' : hS} {h : hS} {o0 : Option Nat}   (e : fX2_init h o0 = some (h')) : CtX G yX2_init cX2_init 1 none 2 40 [] [] h [tr o0] none [] h' := by
  refine CtX.of (by decide) (Nat.le_of_ble_eq_true rfl) [(0, tr o0)] rfl ?_
  have E : EndX (G, 1, [], h, [], h', none, none, yX2_init.name) [] 1 none none [] h' := ⟨rfl, rfl, rfl, rfl, rfl, rfl⟩
  unfold fX2_init at e
  refine r_rrs E.p (fun rr => ?_)
  refine r_aload_n dX2_init_0 rfl 0 rfl ?_
  obtain ⟨g3, e⟩ := gd_o e
  obtain ⟨p1, q2, e⟩ := bd_o e
  have k4 := kX1_init (G := G)  q2
  have z5 := (k4 rr).1.2.2.2
  refine r_callINo (j := none) 0 [] (host := "DictProof") g3 rfl rfl k4 (injO_0 E.p) subO_0 getO_0 setO_0 q157 q116 q200 q156 (by decide +kernel) rfl (Nat.le_of_ble_eq_true rfl) (Nat.le_of_ble_eq_true rfl) rfl (Nat.le_of_ble_eq_true rfl) dX2_init_1 rfl ?_
  refine r_rrs E.p (fun rr6 => ?_)
  cases e
  exact r_vret E.σ E.st E.rt E.r dX2_init_4
def fX3_init  (h : hS) (o0 : Option Nat) : Option (hS) := gd (¬ o0 = none) (bd (fX1_init h o0) fun p1 => some p1)
theorem kX3_init {G : Gx}  {h' : hS} {h : hS} {o0 : Option Nat}   (e : fX3_init h o0 = some (h')) : CtX G yX3_init cX3_init 1 none 2 40 [] [] h [tr o0] none [] h' := by
  refine CtX.of (by decide) (Nat.le_of_ble_eq_true rfl) [(0, tr o0)] rfl ?_
  have E : EndX (G, 1, [], h, [], h', none, none, yX3_init.name) [] 1 none none [] h' := ⟨rfl, rfl, rfl, rfl, rfl, rfl⟩
  unfold fX3_init at e
  refine r_rrs E.p (fun rr => ?_)
  refine r_aload_n dX3_init_0 rfl 0 rfl ?_
  obtain ⟨g3, e⟩ := gd_o e
  obtain ⟨p1, q2, e⟩ := bd_o e
  have k4 := kX1_init (G := G)  q2
  have z5 := (k4 rr).1.2.2.2
  refine r_callINo (j := none) 0 [] (host := "DictProof") g3 rfl rfl k4 (injO_0 E.p) subO_0 getO_0 setO_0 q157 q116 q213 q156 (by decide +kernel) rfl (Nat.le_of_ble_eq_true rfl) (Nat.le_of_ble_eq_true rfl) rfl (Nat.le_of_ble_eq_true rfl) dX3_init_1 rfl ?_
  refine r_rrs E.p (fun rr6 => ?_)
  cases e
  exact r_vret E.σ E.st E.rt E.r dX3_init_4
def fX4_init  (h : hS) (o0 : Option Nat) : Option (hS) := gd (¬ o0 = none) (bd (fX1_init h o0) fun p1 => some p1)
theorem kX4_init {G : Gx}  {h' : hS} {h : hS} {o0 : Option Nat}   (e : fX4_init h o0 = some (h')) : CtX G yX4_init cX4_init 1 none 2 40 [] [] h [tr o0] none [] h' := by
  refine CtX.of (by decide) (Nat.le_of_ble_eq_true rfl) [(0, tr o0)] rfl ?_
  have E : EndX (G, 1, [], h, [], h', none, none, yX4_init.name) [] 1 none none [] h' := ⟨rfl, rfl, rfl, rfl, rfl, rfl⟩
  unfold fX4_init at e
  refine r_rrs E.p (fun rr => ?_)
  refine r_aload_n dX4_init_0 rfl 0 rfl ?_
  obtain ⟨g3, e⟩ := gd_o e
  obtain ⟨p1, q2, e⟩ := bd_o e
  have k4 := kX1_init (G := G)  q2
  have z5 := (k4 rr).1.2.2.2
  refine r_callINo (j := none) 0 [] (host := "DictProof") g3 rfl rfl k4 (injO_0 E.p) subO_0 getO_0 setO_0 q157 q116 q226 q156 (by decide +kernel) rfl (Nat.le_of_ble_eq_true rfl) (Nat.le_of_ble_eq_true rfl) rfl (Nat.le_of_ble_eq_true rfl) dX4_init_1 rfl ?_
  refine r_rrs E.p (fun rr6 => ?_)
  cases e
  exact r_vret E.σ E.st E.rt E.r dX4_init_4
def fX5_init  (h : hS) (o0 : Option Nat) : Option (hS) := gd (¬ o0 = none) (bd (fX4_init h o0) fun p1 => some p1)
theorem kX5_init {G : Gx}  {h' : hS} {h : hS} {o0 : Option Nat}   (e : fX5_init h o0 = some (h')) : CtX G yX5_init cX5_init 1 none 3 60 [] [] h [tr o0] none [] h' := by
  refine CtX.of (by decide) (Nat.le_of_ble_eq_true rfl) [(0, tr o0)] rfl ?_
  have E : EndX (G, 1, [], h, [], h', none, none, yX5_init.name) [] 1 none none [] h' := ⟨rfl, rfl, rfl, rfl, rfl, rfl⟩
  unfold fX5_init at e
  refine r_rrs E.p (fun rr => ?_)
  refine r_aload_n dX5_init_0 rfl 0 rfl ?_
  obtain ⟨g3, e⟩ := gd_o e
  obtain ⟨p1, q2, e⟩ := bd_o e
  have k4 := kX4_init (G := G)  q2
  have z5 := (k4 rr).1.2.2.2
  refine r_callINo (j := none) 0 [] (host := "DictProof") g3 rfl rfl k4 (injO_0 E.p) subO_0 getO_0 setO_0 q225 q119 q239 q224 (by decide +kernel) rfl (Nat.le_of_ble_eq_true rfl) (Nat.le_of_ble_eq_true rfl) rfl (Nat.le_of_ble_eq_true rfl) dX5_init_1 rfl ?_
  refine r_rrs E.p (fun rr6 => ?_)
  cases e
  exact r_vret E.σ E.st E.rt E.r dX5_init_4
theorem fP_X0_103i : FldP RX0 103 [(0, 0)] (.array (.object "DictProof$Instance")) true := List.forall_mem_cons.mpr ⟨⟨RX0, TX0, 36, "DictProof", tyX0, rfl, in_X0, by decide, q281, Or.inl rfl, tyX0_ok, nmX0, rfl, Or.inr ⟨rfl, rfl, rfl⟩, by decide⟩, fun _ h => absurd h List.not_mem_nil⟩
theorem fP_X0_107i : FldP RX0 107 [(0, 1)] (.array .int) true := List.forall_mem_cons.mpr ⟨⟨RX0, TX0, 36, "DictProof", tyX0, rfl, in_X0, by decide, q282, Or.inl rfl, tyX0_ok, nmX0, rfl, Or.inr ⟨rfl, rfl, rfl⟩, by decide⟩, fun _ h => absurd h List.not_mem_nil⟩
theorem fP_X0_111i : FldP RX0 111 [(0, 2)] (.array .int) true := List.forall_mem_cons.mpr ⟨⟨RX0, TX0, 36, "DictProof", tyX0, rfl, in_X0, by decide, q283, Or.inl rfl, tyX0_ok, nmX0, rfl, Or.inr ⟨rfl, rfl, rfl⟩, by decide⟩, fun _ h => absurd h List.not_mem_nil⟩
theorem fP_X0_114i : FldP RX0 114 [(0, 4)] (.array (.object "DictProof$Instance")) true := List.forall_mem_cons.mpr ⟨⟨RX0, TX0, 36, "DictProof", tyX0, rfl, in_X0, by decide, q285, Or.inl rfl, tyX0_ok, nmX0, rfl, Or.inr ⟨rfl, rfl, rfl⟩, by decide⟩, fun _ h => absurd h List.not_mem_nil⟩
theorem fP_X0_117i : FldP RX0 117 [(0, 6)] (.array (.object "DictProof$Term")) true := List.forall_mem_cons.mpr ⟨⟨RX0, TX0, 36, "DictProof", tyX0, rfl, in_X0, by decide, q287, Or.inl rfl, tyX0_ok, nmX0, rfl, Or.inr ⟨rfl, rfl, rfl⟩, by decide⟩, fun _ h => absurd h List.not_mem_nil⟩
theorem fP_X0_121i : FldP RX0 121 [(0, 8)] (.array .int) true := List.forall_mem_cons.mpr ⟨⟨RX0, TX0, 36, "DictProof", tyX0, rfl, in_X0, by decide, q289, Or.inl rfl, tyX0_ok, nmX0, rfl, Or.inr ⟨rfl, rfl, rfl⟩, by decide⟩, fun _ h => absurd h List.not_mem_nil⟩
theorem fP_X0_124i : FldP RX0 124 [(0, 18)] (.array .int) true := List.forall_mem_cons.mpr ⟨⟨RX0, TX0, 36, "DictProof", tyX0, rfl, in_X0, by decide, q299, Or.inl rfl, tyX0_ok, nmX0, rfl, Or.inr ⟨rfl, rfl, rfl⟩, by decide⟩, fun _ h => absurd h List.not_mem_nil⟩
theorem fP_X0_128i : FldP RX0 128 [(0, 20)] (.object "java/util/HashMap") true := List.forall_mem_cons.mpr ⟨⟨RX0, TX0, 36, "DictProof", tyX0, rfl, in_X0, by decide, q301, Or.inl rfl, tyX0_ok, nmX0, rfl, Or.inr ⟨rfl, rfl, rfl⟩, by decide⟩, fun _ h => absurd h List.not_mem_nil⟩
theorem fP_X0_132i : FldP RX0 132 [(0, 21)] (.array .boolean) true := List.forall_mem_cons.mpr ⟨⟨RX0, TX0, 36, "DictProof", tyX0, rfl, in_X0, by decide, q302, Or.inl rfl, tyX0_ok, nmX0, rfl, Or.inr ⟨rfl, rfl, rfl⟩, by decide⟩, fun _ h => absurd h List.not_mem_nil⟩
theorem fP_X0_136i : FldP RX0 136 [(0, 22)] (.array .boolean) true := List.forall_mem_cons.mpr ⟨⟨RX0, TX0, 36, "DictProof", tyX0, rfl, in_X0, by decide, q303, Or.inl rfl, tyX0_ok, nmX0, rfl, Or.inr ⟨rfl, rfl, rfl⟩, by decide⟩, fun _ h => absurd h List.not_mem_nil⟩
theorem fP_X0_139i : FldP RX0 139 [(0, 23)] (.array .int) true := List.forall_mem_cons.mpr ⟨⟨RX0, TX0, 36, "DictProof", tyX0, rfl, in_X0, by decide, q304, Or.inl rfl, tyX0_ok, nmX0, rfl, Or.inr ⟨rfl, rfl, rfl⟩, by decide⟩, fun _ h => absurd h List.not_mem_nil⟩
theorem fP_X0_142i : FldP RX0 142 [(0, 24)] (.array .int) true := List.forall_mem_cons.mpr ⟨⟨RX0, TX0, 36, "DictProof", tyX0, rfl, in_X0, by decide, q305, Or.inl rfl, tyX0_ok, nmX0, rfl, Or.inr ⟨rfl, rfl, rfl⟩, by decide⟩, fun _ h => absurd h List.not_mem_nil⟩
theorem fP_X0_145i : FldP RX0 145 [(0, 25)] (.array .boolean) true := List.forall_mem_cons.mpr ⟨⟨RX0, TX0, 36, "DictProof", tyX0, rfl, in_X0, by decide, q306, Or.inl rfl, tyX0_ok, nmX0, rfl, Or.inr ⟨rfl, rfl, rfl⟩, by decide⟩, fun _ h => absurd h List.not_mem_nil⟩
theorem fP_X0_148i : FldP RX0 148 [(0, 28)] (.array .int) true := List.forall_mem_cons.mpr ⟨⟨RX0, TX0, 36, "DictProof", tyX0, rfl, in_X0, by decide, q309, Or.inl rfl, tyX0_ok, nmX0, rfl, Or.inr ⟨rfl, rfl, rfl⟩, by decide⟩, fun _ h => absurd h List.not_mem_nil⟩
theorem fP_X0_151i : FldP RX0 151 [(0, 29)] (.array (.object "DictProof$Term")) true := List.forall_mem_cons.mpr ⟨⟨RX0, TX0, 36, "DictProof", tyX0, rfl, in_X0, by decide, q310, Or.inl rfl, tyX0_ok, nmX0, rfl, Or.inr ⟨rfl, rfl, rfl⟩, by decide⟩, fun _ h => absurd h List.not_mem_nil⟩
theorem fP_X0_154i : FldP RX0 154 [(0, 30)] (.array .int) true := List.forall_mem_cons.mpr ⟨⟨RX0, TX0, 36, "DictProof", tyX0, rfl, in_X0, by decide, q311, Or.inl rfl, tyX0_ok, nmX0, rfl, Or.inr ⟨rfl, rfl, rfl⟩, by decide⟩, fun _ h => absurd h List.not_mem_nil⟩
theorem fP_X0_157i : FldP RX0 157 [(0, 31)] (.array .int) true := List.forall_mem_cons.mpr ⟨⟨RX0, TX0, 36, "DictProof", tyX0, rfl, in_X0, by decide, q312, Or.inl rfl, tyX0_ok, nmX0, rfl, Or.inr ⟨rfl, rfl, rfl⟩, by decide⟩, fun _ h => absurd h List.not_mem_nil⟩
theorem fP_X0_160i : FldP RX0 160 [(0, 32)] (.array .boolean) true := List.forall_mem_cons.mpr ⟨⟨RX0, TX0, 36, "DictProof", tyX0, rfl, in_X0, by decide, q313, Or.inl rfl, tyX0_ok, nmX0, rfl, Or.inr ⟨rfl, rfl, rfl⟩, by decide⟩, fun _ h => absurd h List.not_mem_nil⟩
theorem fP_X0_163i : FldP RX0 163 [(0, 34)] .int true := List.forall_mem_cons.mpr ⟨⟨RX0, TX0, 36, "DictProof", tyX0, rfl, in_X0, by decide, q315, Or.inl rfl, tyX0_ok, nmX0, rfl, Or.inl rfl, by decide⟩, fun _ h => absurd h List.not_mem_nil⟩
def fX0_init  (h : hS) (o0 : Option Nat) : Option (hS) := gd (¬ o0 = none) (bd (nwQS h 3 5) fun p2 => bd (nwS p2.2 1 [vi 0, vi 0, vq none, vq none, vq none, vi 0]) fun p5 => bd (fX1_init p5.2 (some p5.1)) fun p8 => bd (aWQ p8 (some p2.1) 3 [1, 2, 3, 4, 5] 0 (some p5.1)) fun h13 => bd (nwS h13 2 [vi 0, vi 0, vq none, vq none, vq none, vi 0]) fun p16 => bd (fX2_init p16.2 (some p16.1)) fun p19 => bd (aWQ p19 (some p2.1) 3 [1, 2, 3, 4, 5] 1 (some p16.1)) fun h24 => bd (nwS h24 3 [vi 0, vi 0, vq none, vq none, vq none, vi 0]) fun p27 => bd (fX3_init p27.2 (some p27.1)) fun p30 => bd (aWQ p30 (some p2.1) 3 [1, 2, 3, 4, 5] 2 (some p27.1)) fun h35 => bd (nwS h35 4 [vi 0, vi 0, vq none, vq none, vq none, vi 0]) fun p38 => bd (fX4_init p38.2 (some p38.1)) fun p41 => bd (aWQ p41 (some p2.1) 3 [1, 2, 3, 4, 5] 3 (some p38.1)) fun h46 => bd (nwS h46 5 [vi 0, vi 0, vq none, vq none, vq none, vi 0]) fun p49 => bd (fX5_init p49.2 (some p49.1)) fun p52 => bd (aWQ p52 (some p2.1) 3 [1, 2, 3, 4, 5] 4 (some p49.1)) fun h57 => bd (hW h57 o0 [(0, 0)] (vq (some p2.1))) fun h60 => bd (nwAS h60 0 4) fun p63 => bd (hW p63.2 o0 [(0, 1)] (vq (some p63.1))) fun h66 => bd (nwAS h66 0 4) fun p69 => bd (hW p69.2 o0 [(0, 2)] (vq (some p69.1))) fun h72 => bd (nwQS h72 3 6) fun p75 => bd (hW p75.2 o0 [(0, 4)] (vq (some p75.1))) fun h78 => bd (nwQS h78 4 4) fun p81 => bd (hW p81.2 o0 [(0, 6)] (vq (some p81.1))) fun h84 => bd (nwAS h84 0 84) fun p87 => bd (hW p87.2 o0 [(0, 8)] (vq (some p87.1))) fun h90 => bd (nwAS h90 0 6) fun p93 => bd (hW p93.2 o0 [(0, 18)] (vq (some p93.1))) fun h96 => bd (nwS h96 11 [vq none, vq none, vq none, vq none, vi 0, vi 0, vi 0, .inr (.inr (.inl 0))]) fun p99 => bd (fJ1_init p99.2 (some p99.1)) fun p102 => bd (hW p102 o0 [(0, 20)] (vq (some p99.1))) fun h107 => bd (nwAS h107 1 36) fun p110 => bd (hW p110.2 o0 [(0, 21)] (vq (some p110.1))) fun h113 => bd (nwAS h113 1 36) fun p116 => bd (hW p116.2 o0 [(0, 22)] (vq (some p116.1))) fun h119 => bd (nwAS h119 0 6) fun p122 => bd (hW p122.2 o0 [(0, 23)] (vq (some p122.1))) fun h125 => bd (nwAS h125 0 6) fun p128 => bd (hW p128.2 o0 [(0, 24)] (vq (some p128.1))) fun h131 => bd (nwAS h131 1 6) fun p134 => bd (hW p134.2 o0 [(0, 25)] (vq (some p134.1))) fun h137 => bd (nwAS h137 0 6) fun p140 => bd (hW p140.2 o0 [(0, 28)] (vq (some p140.1))) fun h143 => bd (nwQS h143 4 4) fun p146 => bd (hW p146.2 o0 [(0, 29)] (vq (some p146.1))) fun h149 => bd (nwAS h149 0 6) fun p152 => bd (hW p152.2 o0 [(0, 30)] (vq (some p152.1))) fun h155 => bd (nwAS h155 0 6) fun p158 => bd (hW p158.2 o0 [(0, 31)] (vq (some p158.1))) fun h161 => bd (nwAS h161 1 6) fun p164 => bd (hW p164.2 o0 [(0, 32)] (vq (some p164.1))) fun h167 => bd (hW h167 o0 [(0, 34)] (vi (-1))) fun h170 => some h170)
theorem kX0_init {G : Gx}  {h' : hS} {h : hS} {o0 : Option Nat}   (e : fX0_init h o0 = some (h')) : CtX G yX0_init cX0_init 1 none 4 80 [] [] h [tr o0] none [] h' := by
  refine CtX.of (by decide) (Nat.le_of_ble_eq_true rfl) [(0, tr o0)] rfl ?_
  have E : EndX (G, 1, [], h, [], h', none, none, yX0_init.name) [] 1 none none [] h' := ⟨rfl, rfl, rfl, rfl, rfl, rfl⟩
  unfold fX0_init at e
  refine r_rrs E.p (fun rr => ?_)
  refine r_aload_n dX0_init_0 rfl 0 rfl ?_
  obtain ⟨g1, e⟩ := gd_o e
  refine r_objInitO g1 q149 q150 q151 (Nat.le_of_ble_eq_true rfl) (Nat.le_of_ble_eq_true rfl) (Nat.le_of_ble_eq_true rfl) dX0_init_1 ?_
  refine r_aload_n dX0_init_4 rfl 0 rfl ?_
  refine r_iconst dX0_init_5 ?_
  obtain ⟨p2, q3, e⟩ := bd_o e
  refine r_newQS (t := 3) q3 (by decide) (by decide) rfl q152 (by decide) dX0_init_6 ?_
  refine r_rrs E.p (fun rr4 => ?_)
  refine r_dup dX0_init_9 rfl ?_
  refine r_iconst dX0_init_10 ?_
  obtain ⟨p5, q6, e⟩ := bd_o e
  refine r_newS [vi 0, vi 0, vq none, vq none, vq none, vi 0] q6 rfl in_X1 tyX1_ok q152 q154 q116 (by decide +kernel) rfl (by decide +kernel) dX0_init_11 ?_
  refine r_rrs E.p (fun rr7 => ?_)
  refine r_dup dX0_init_14 rfl ?_
  obtain ⟨p8, q9, e⟩ := bd_o e
  have k10 := kX1_init (G := G)  q9
  have z11 := (k10 rr7).1.2.2.2
  refine r_callINo (j := none) 0 [] (host := "DictProof") (fun q => by cases q) rfl rfl k10 (injO_0 E.p) subO_0 getO_0 setO_0 q157 q116 q155 q156 (by decide +kernel) rfl (Nat.le_of_ble_eq_true rfl) (Nat.le_of_ble_eq_true rfl) rfl (Nat.le_of_ble_eq_true rfl) dX0_init_15 rfl ?_
  refine r_rrs E.p (fun rr12 => ?_)
  obtain ⟨h13, q14, e⟩ := bd_o e
  refine r_aPQ (t := 3) (by decide) q14 sto_3 (by decide) dX0_init_18 ?_
  refine r_rrs E.p (fun rr15 => ?_)
  refine r_dup dX0_init_19 rfl ?_
  refine r_iconst dX0_init_20 ?_
  obtain ⟨p16, q17, e⟩ := bd_o e
  refine r_newS [vi 0, vi 0, vq none, vq none, vq none, vi 0] q17 rfl in_X2 tyX2_ok q195 q196 q117 (by decide +kernel) rfl (by decide +kernel) dX0_init_21 ?_
  refine r_rrs E.p (fun rr18 => ?_)
  refine r_dup dX0_init_24 rfl ?_
  obtain ⟨p19, q20, e⟩ := bd_o e
  have k21 := kX2_init (G := G)  q20
  have z22 := (k21 rr18).1.2.2.2
  refine r_callINo (j := none) 0 [] (host := "DictProof") (fun q => by cases q) rfl rfl k21 (injO_0 E.p) subO_0 getO_0 setO_0 q199 q117 q197 q198 (by decide +kernel) rfl (Nat.le_of_ble_eq_true rfl) (Nat.le_of_ble_eq_true rfl) rfl (Nat.le_of_ble_eq_true rfl) dX0_init_25 rfl ?_
  refine r_rrs E.p (fun rr23 => ?_)
  obtain ⟨h24, q25, e⟩ := bd_o e
  refine r_aPQ (t := 3) (by decide) q25 sto_3 (by decide) dX0_init_28 ?_
  refine r_rrs E.p (fun rr26 => ?_)
  refine r_dup dX0_init_29 rfl ?_
  refine r_iconst dX0_init_30 ?_
  obtain ⟨p27, q28, e⟩ := bd_o e
  refine r_newS [vi 0, vi 0, vq none, vq none, vq none, vi 0] q28 rfl in_X3 tyX3_ok q208 q209 q118 (by decide +kernel) rfl (by decide +kernel) dX0_init_31 ?_
  refine r_rrs E.p (fun rr29 => ?_)
  refine r_dup dX0_init_34 rfl ?_
  obtain ⟨p30, q31, e⟩ := bd_o e
  have k32 := kX3_init (G := G)  q31
  have z33 := (k32 rr29).1.2.2.2
  refine r_callINo (j := none) 0 [] (host := "DictProof") (fun q => by cases q) rfl rfl k32 (injO_0 E.p) subO_0 getO_0 setO_0 q212 q118 q210 q211 (by decide +kernel) rfl (Nat.le_of_ble_eq_true rfl) (Nat.le_of_ble_eq_true rfl) rfl (Nat.le_of_ble_eq_true rfl) dX0_init_35 rfl ?_
  refine r_rrs E.p (fun rr34 => ?_)
  obtain ⟨h35, q36, e⟩ := bd_o e
  refine r_aPQ (t := 3) (by decide) q36 sto_3 (by decide) dX0_init_38 ?_
  refine r_rrs E.p (fun rr37 => ?_)
  refine r_dup dX0_init_39 rfl ?_
  refine r_iconst dX0_init_40 ?_
  obtain ⟨p38, q39, e⟩ := bd_o e
  refine r_newS [vi 0, vi 0, vq none, vq none, vq none, vi 0] q39 rfl in_X4 tyX4_ok q221 q222 q119 (by decide +kernel) rfl (by decide +kernel) dX0_init_41 ?_
  refine r_rrs E.p (fun rr40 => ?_)
  refine r_dup dX0_init_44 rfl ?_
  obtain ⟨p41, q42, e⟩ := bd_o e
  have k43 := kX4_init (G := G)  q42
  have z44 := (k43 rr40).1.2.2.2
  refine r_callINo (j := none) 0 [] (host := "DictProof") (fun q => by cases q) rfl rfl k43 (injO_0 E.p) subO_0 getO_0 setO_0 q225 q119 q223 q224 (by decide +kernel) rfl (Nat.le_of_ble_eq_true rfl) (Nat.le_of_ble_eq_true rfl) rfl (Nat.le_of_ble_eq_true rfl) dX0_init_45 rfl ?_
  refine r_rrs E.p (fun rr45 => ?_)
  obtain ⟨h46, q47, e⟩ := bd_o e
  refine r_aPQ (t := 3) (by decide) q47 sto_3 (by decide) dX0_init_48 ?_
  refine r_rrs E.p (fun rr48 => ?_)
  refine r_dup dX0_init_49 rfl ?_
  refine r_iconst dX0_init_50 ?_
  obtain ⟨p49, q50, e⟩ := bd_o e
  refine r_newS [vi 0, vi 0, vq none, vq none, vq none, vi 0] q50 rfl in_X5 tyX5_ok q234 q235 q120 (by decide +kernel) rfl (by decide +kernel) dX0_init_51 ?_
  refine r_rrs E.p (fun rr51 => ?_)
  refine r_dup dX0_init_54 rfl ?_
  obtain ⟨p52, q53, e⟩ := bd_o e
  have k54 := kX5_init (G := G)  q53
  have z55 := (k54 rr51).1.2.2.2
  refine r_callINo (j := none) 0 [] (host := "DictProof") (fun q => by cases q) rfl rfl k54 (injO_0 E.p) subO_0 getO_0 setO_0 q238 q120 q236 q237 (by decide +kernel) rfl (Nat.le_of_ble_eq_true rfl) (Nat.le_of_ble_eq_true rfl) rfl (Nat.le_of_ble_eq_true rfl) dX0_init_55 rfl ?_
  refine r_rrs E.p (fun rr56 => ?_)
  obtain ⟨h57, q58, e⟩ := bd_o e
  refine r_aPQ (t := 3) (by decide) q58 sto_3 (by decide) dX0_init_58 ?_
  refine r_rrs E.p (fun rr59 => ?_)
  obtain ⟨h60, q61, e⟩ := bd_o e
  refine r_put (v := vq (some p2.1)) fP_X0_103i (by first | exact fun q => absurd q (by decide) | exact fun _ => rfl) trivial q61 dX0_init_59 ?_
  refine r_rrs E.p (fun rr62 => ?_)
  refine r_aload_n dX0_init_62 rfl 0 rfl ?_
  refine r_iconst dX0_init_63 ?_
  obtain ⟨p63, q64, e⟩ := bd_o e
  refine r_newAS q64 (by decide) rfl q194 dX0_init_64 ?_
  refine r_rrs E.p (fun rr65 => ?_)
  obtain ⟨h66, q67, e⟩ := bd_o e
  refine r_put (v := vq (some p63.1)) fP_X0_107i (by first | exact fun q => absurd q (by decide) | exact fun _ => rfl) trivial q67 dX0_init_66 ?_
  refine r_rrs E.p (fun rr68 => ?_)
  refine r_aload_n dX0_init_69 rfl 0 rfl ?_
  refine r_iconst dX0_init_70 ?_
  obtain ⟨p69, q70, e⟩ := bd_o e
  refine r_newAS q70 (by decide) rfl q194 dX0_init_71 ?_
  refine r_rrs E.p (fun rr71 => ?_)
  obtain ⟨h72, q73, e⟩ := bd_o e
  refine r_put (v := vq (some p69.1)) fP_X0_111i (by first | exact fun q => absurd q (by decide) | exact fun _ => rfl) trivial q73 dX0_init_73 ?_
  refine r_rrs E.p (fun rr74 => ?_)
  refine r_aload_n dX0_init_76 rfl 0 rfl ?_
  refine r_bipush dX0_init_77 (by decide) ?_
  obtain ⟨p75, q76, e⟩ := bd_o e
  refine r_newQS (t := 3) q76 (by decide) (by decide) rfl q152 (by decide) dX0_init_79 ?_
  refine r_rrs E.p (fun rr77 => ?_)
  obtain ⟨h78, q79, e⟩ := bd_o e
  refine r_put (v := vq (some p75.1)) fP_X0_114i (by first | exact fun q => absurd q (by decide) | exact fun _ => rfl) trivial q79 dX0_init_82 ?_
  refine r_rrs E.p (fun rr80 => ?_)
  refine r_aload_n dX0_init_85 rfl 0 rfl ?_
  refine r_iconst dX0_init_86 ?_
  obtain ⟨p81, q82, e⟩ := bd_o e
  refine r_newQS (t := 4) q82 (by decide) (by decide) rfl q247 (by decide) dX0_init_87 ?_
  refine r_rrs E.p (fun rr83 => ?_)
  obtain ⟨h84, q85, e⟩ := bd_o e
  refine r_put (v := vq (some p81.1)) fP_X0_117i (by first | exact fun q => absurd q (by decide) | exact fun _ => rfl) trivial q85 dX0_init_90 ?_
  refine r_rrs E.p (fun rr86 => ?_)
  refine r_aload_n dX0_init_93 rfl 0 rfl ?_
  refine r_bipush dX0_init_94 (by decide) ?_
  obtain ⟨p87, q88, e⟩ := bd_o e
  refine r_newAS q88 (by decide) rfl q194 dX0_init_96 ?_
  refine r_rrs E.p (fun rr89 => ?_)
  obtain ⟨h90, q91, e⟩ := bd_o e
  refine r_put (v := vq (some p87.1)) fP_X0_121i (by first | exact fun q => absurd q (by decide) | exact fun _ => rfl) trivial q91 dX0_init_98 ?_
  refine r_rrs E.p (fun rr92 => ?_)
  refine r_aload_n dX0_init_101 rfl 0 rfl ?_
  refine r_bipush dX0_init_102 (by decide) ?_
  obtain ⟨p93, q94, e⟩ := bd_o e
  refine r_newAS q94 (by decide) rfl q194 dX0_init_104 ?_
  refine r_rrs E.p (fun rr95 => ?_)
  obtain ⟨h96, q97, e⟩ := bd_o e
  refine r_put (v := vq (some p93.1)) fP_X0_124i (by first | exact fun q => absurd q (by decide) | exact fun _ => rfl) trivial q97 dX0_init_106 ?_
  refine r_rrs E.p (fun rr98 => ?_)
  refine r_aload_n dX0_init_109 rfl 0 rfl ?_
  obtain ⟨p99, q100, e⟩ := bd_o e
  refine r_newS [vq none, vq none, vq none, vq none, vi 0, vi 0, vi 0, .inr (.inr (.inl 0))] q100 rfl in_J1 tyJ1_ok q249 q250 q122 (by decide +kernel) rfl (by decide +kernel) dX0_init_110 ?_
  refine r_rrs E.p (fun rr101 => ?_)
  refine r_dup dX0_init_113 rfl ?_
  obtain ⟨p102, q103, e⟩ := bd_o e
  have k104 := kJ1_init (G := G)  q103
  have z105 := (k104 rr101).1.2.2.2
  refine r_callIo (j := none) 0 [] (fun q => by cases q) rfl rfl k104 (injO_0 E.p) subO_0 getO_0 setO_0 q253 q122 q251 q252 (by decide +kernel) rfl (Nat.le_of_ble_eq_true rfl) (Nat.le_of_ble_eq_true rfl) rfl (Nat.le_of_ble_eq_true rfl) dX0_init_114 rfl ?_
  refine r_rrs E.p (fun rr106 => ?_)
  obtain ⟨h107, q108, e⟩ := bd_o e
  refine r_put (v := vq (some p99.1)) fP_X0_128i (by first | exact fun q => absurd q (by decide) | exact fun _ => rfl) trivial q108 dX0_init_117 ?_
  refine r_rrs E.p (fun rr109 => ?_)
  refine r_aload_n dX0_init_120 rfl 0 rfl ?_
  refine r_bipush dX0_init_121 (by decide) ?_
  obtain ⟨p110, q111, e⟩ := bd_o e
  refine r_newAS q111 (by decide) rfl q390 dX0_init_123 ?_
  refine r_rrs E.p (fun rr112 => ?_)
  obtain ⟨h113, q114, e⟩ := bd_o e
  refine r_put (v := vq (some p110.1)) fP_X0_132i (by first | exact fun q => absurd q (by decide) | exact fun _ => rfl) trivial q114 dX0_init_125 ?_
  refine r_rrs E.p (fun rr115 => ?_)
  refine r_aload_n dX0_init_128 rfl 0 rfl ?_
  refine r_bipush dX0_init_129 (by decide) ?_
  obtain ⟨p116, q117, e⟩ := bd_o e
  refine r_newAS q117 (by decide) rfl q390 dX0_init_131 ?_
  refine r_rrs E.p (fun rr118 => ?_)
  obtain ⟨h119, q120, e⟩ := bd_o e
  refine r_put (v := vq (some p116.1)) fP_X0_136i (by first | exact fun q => absurd q (by decide) | exact fun _ => rfl) trivial q120 dX0_init_133 ?_
  refine r_rrs E.p (fun rr121 => ?_)
  refine r_aload_n dX0_init_136 rfl 0 rfl ?_
  refine r_bipush dX0_init_137 (by decide) ?_
  obtain ⟨p122, q123, e⟩ := bd_o e
  refine r_newAS q123 (by decide) rfl q194 dX0_init_139 ?_
  refine r_rrs E.p (fun rr124 => ?_)
  obtain ⟨h125, q126, e⟩ := bd_o e
  refine r_put (v := vq (some p122.1)) fP_X0_139i (by first | exact fun q => absurd q (by decide) | exact fun _ => rfl) trivial q126 dX0_init_141 ?_
  refine r_rrs E.p (fun rr127 => ?_)
  refine r_aload_n dX0_init_144 rfl 0 rfl ?_
  refine r_bipush dX0_init_145 (by decide) ?_
  obtain ⟨p128, q129, e⟩ := bd_o e
  refine r_newAS q129 (by decide) rfl q194 dX0_init_147 ?_
  refine r_rrs E.p (fun rr130 => ?_)
  obtain ⟨h131, q132, e⟩ := bd_o e
  refine r_put (v := vq (some p128.1)) fP_X0_142i (by first | exact fun q => absurd q (by decide) | exact fun _ => rfl) trivial q132 dX0_init_149 ?_
  refine r_rrs E.p (fun rr133 => ?_)
  refine r_aload_n dX0_init_152 rfl 0 rfl ?_
  refine r_bipush dX0_init_153 (by decide) ?_
  obtain ⟨p134, q135, e⟩ := bd_o e
  refine r_newAS q135 (by decide) rfl q390 dX0_init_155 ?_
  refine r_rrs E.p (fun rr136 => ?_)
  obtain ⟨h137, q138, e⟩ := bd_o e
  refine r_put (v := vq (some p134.1)) fP_X0_145i (by first | exact fun q => absurd q (by decide) | exact fun _ => rfl) trivial q138 dX0_init_157 ?_
  refine r_rrs E.p (fun rr139 => ?_)
  refine r_aload_n dX0_init_160 rfl 0 rfl ?_
  refine r_bipush dX0_init_161 (by decide) ?_
  obtain ⟨p140, q141, e⟩ := bd_o e
  refine r_newAS q141 (by decide) rfl q194 dX0_init_163 ?_
  refine r_rrs E.p (fun rr142 => ?_)
  obtain ⟨h143, q144, e⟩ := bd_o e
  refine r_put (v := vq (some p140.1)) fP_X0_148i (by first | exact fun q => absurd q (by decide) | exact fun _ => rfl) trivial q144 dX0_init_165 ?_
  refine r_rrs E.p (fun rr145 => ?_)
  refine r_aload_n dX0_init_168 rfl 0 rfl ?_
  refine r_iconst dX0_init_169 ?_
  obtain ⟨p146, q147, e⟩ := bd_o e
  refine r_newQS (t := 4) q147 (by decide) (by decide) rfl q247 (by decide) dX0_init_170 ?_
  refine r_rrs E.p (fun rr148 => ?_)
  obtain ⟨h149, q150, e⟩ := bd_o e
  refine r_put (v := vq (some p146.1)) fP_X0_151i (by first | exact fun q => absurd q (by decide) | exact fun _ => rfl) trivial q150 dX0_init_173 ?_
  refine r_rrs E.p (fun rr151 => ?_)
  refine r_aload_n dX0_init_176 rfl 0 rfl ?_
  refine r_bipush dX0_init_177 (by decide) ?_
  obtain ⟨p152, q153, e⟩ := bd_o e
  refine r_newAS q153 (by decide) rfl q194 dX0_init_179 ?_
  refine r_rrs E.p (fun rr154 => ?_)
  obtain ⟨h155, q156, e⟩ := bd_o e
  refine r_put (v := vq (some p152.1)) fP_X0_154i (by first | exact fun q => absurd q (by decide) | exact fun _ => rfl) trivial q156 dX0_init_181 ?_
  refine r_rrs E.p (fun rr157 => ?_)
  refine r_aload_n dX0_init_184 rfl 0 rfl ?_
  refine r_bipush dX0_init_185 (by decide) ?_
  obtain ⟨p158, q159, e⟩ := bd_o e
  refine r_newAS q159 (by decide) rfl q194 dX0_init_187 ?_
  refine r_rrs E.p (fun rr160 => ?_)
  obtain ⟨h161, q162, e⟩ := bd_o e
  refine r_put (v := vq (some p158.1)) fP_X0_157i (by first | exact fun q => absurd q (by decide) | exact fun _ => rfl) trivial q162 dX0_init_189 ?_
  refine r_rrs E.p (fun rr163 => ?_)
  refine r_aload_n dX0_init_192 rfl 0 rfl ?_
  refine r_bipush dX0_init_193 (by decide) ?_
  obtain ⟨p164, q165, e⟩ := bd_o e
  refine r_newAS q165 (by decide) rfl q390 dX0_init_195 ?_
  refine r_rrs E.p (fun rr166 => ?_)
  obtain ⟨h167, q168, e⟩ := bd_o e
  refine r_put (v := vq (some p164.1)) fP_X0_160i (by first | exact fun q => absurd q (by decide) | exact fun _ => rfl) trivial q168 dX0_init_197 ?_
  refine r_rrs E.p (fun rr169 => ?_)
  refine r_aload_n dX0_init_200 rfl 0 rfl ?_
  refine r_iconst dX0_init_201 ?_
  obtain ⟨h170, q171, e⟩ := bd_o e
  refine r_put (v := vi (-1)) fP_X0_163i (by first | exact fun q => absurd q (by decide) | exact fun _ => rfl) (by show rI _; decide) q171 dX0_init_202 ?_
  refine r_rrs E.p (fun rr172 => ?_)
  cases e
  exact r_vret E.σ E.st E.rt E.r dX0_init_205
def fX0_isIn_b18 (k0 : Int) : Option (Int) := gd (k0 = 0 ∨ k0 = 1) (some k0)
theorem wX0_isIn_b18 {N : Nx} {h : hS} {r : Int} (E : EndX N [] 6 (some .boolean) (some (ti r)) [] h)  (k0 : Int) (hk0 : rI k0) (e : fX0_isIn_b18 k0 = some (r)) : AtPc cX0_isIn RX0 0 0 N [] h 18 [] [ti k0] := by
  unfold fX0_isIn_b18 at e
  refine r_rrs E.p (fun rr => ?_)
  obtain ⟨g1, e⟩ := gd_o e
  cases e
  exact r_zret E.σ E.st E.rt E.r g1 dX0_isIn_18
def fX0_isIn_b17  : Option (Int) := fX0_isIn_b18 0
theorem wX0_isIn_b17 {N : Nx} {h : hS} {r : Int} (E : EndX N [] 6 (some .boolean) (some (ti r)) [] h)   (e : fX0_isIn_b17 = some (r)) : AtPc cX0_isIn RX0 0 0 N [] h 17 [] [] := by
  unfold fX0_isIn_b17 at e
  refine r_rrs E.p (fun rr => ?_)
  refine r_iconst dX0_isIn_17 ?_
  exact wX0_isIn_b18 E 0 (by decide) e
def fX0_isIn  (l0 : Int) (l2 : Int) (l4 : Int) : Option (Int) := if (lcm3 l0 l2) < 0 then fX0_isIn_b17 else if 0 < (lcm3 l0 l4) then fX0_isIn_b17 else fX0_isIn_b18 1
theorem kX0_isIn {G : Gx}  {h : hS} {r : Int} {l0 : Int} {l2 : Int} {l4 : Int}  (hl0 : rL l0) (hl2 : rL l2) (hl4 : rL l4) (e : fX0_isIn l0 l2 l4 = some (r)) : CtX G yX0_isIn cX0_isIn 6 (some .boolean) 0 0 [] [] h [tl l0, tl l2, tl l4] (some (ti r)) [] h := by
  refine CtX.of (by decide) (Nat.le_of_ble_eq_true rfl) [(0, tl l0), (2, tl l2), (4, tl l4)] rfl ?_
  have E : EndX (G, 6, [], h, [], h, (some .boolean), (some (ti r)), yX0_isIn.name) [] 6 (some .boolean) (some (ti r)) [] h := ⟨rfl, rfl, rfl, rfl, rfl, rfl⟩
  unfold fX0_isIn at e
  refine r_rrs E.p (fun rr => ?_)
  refine r_lload_n dX0_isIn_0 rfl 0 rfl ?_
  refine r_lload_n dX0_isIn_1 rfl 1 rfl ?_
  refine r_lcmp hl0 hl2 dX0_isIn_2 ?_
  have eT := (r_ifo e).1
  have eF := (r_ifo e).2
  refine r_if_lt (lcm3_r _ _) 17 dX0_isIn_3 (by decide) (fun c1 => ?_) (fun c1 => ?_)
  · have e := eT c1
    refine r_sub [] rfl ?_
    exact wX0_isIn_b17 E e
  · have e := eF c1
    refine r_lload_n dX0_isIn_6 rfl 0 rfl ?_
    refine r_lload dX0_isIn_7 2 rfl ?_
    refine r_lcmp hl0 hl4 dX0_isIn_9 ?_
    have eT := (r_ifo e).1
    have eF := (r_ifo e).2
    refine r_if_gt (lcm3_r _ _) 17 dX0_isIn_10 (by decide) (fun c2 => ?_) (fun c2 => ?_)
    · have e := eT c2
      refine r_sub [] rfl ?_
      exact wX0_isIn_b17 E e
    · have e := eF c2
      refine r_iconst dX0_isIn_13 ?_
      refine r_goto 18 dX0_isIn_14 (by decide) ?_
      refine r_sub [] rfl ?_
      exact wX0_isIn_b18 E 1 (by decide) e
theorem fG_X0_174 : FldG RX0 174 [(0, 9)] := List.forall_mem_cons.mpr ⟨⟨RX0, TX0, 36, "DictProof", rfl, in_X0, by decide, q290, Or.inl rfl⟩, fun _ h => absurd h List.not_mem_nil⟩
theorem fG_X0_121 : FldG RX0 121 [(0, 8)] := List.forall_mem_cons.mpr ⟨⟨RX0, TX0, 36, "DictProof", rfl, in_X0, by decide, q289, Or.inl rfl⟩, fun _ h => absurd h List.not_mem_nil⟩
theorem fP_X0_174 : FldP RX0 174 [(0, 9)] .int false := List.forall_mem_cons.mpr ⟨⟨RX0, TX0, 36, "DictProof", tyX0, rfl, in_X0, by decide, q290, Or.inl rfl, tyX0_ok, nmX0, rfl, Or.inl rfl, by decide⟩, fun _ h => absurd h List.not_mem_nil⟩
def fX0_letter  (s : Sg) (a1 : Int) : Option (Int × Sg) := bd (fX0_isIn a1 32 126) fun p1 => if ¬ p1 = 0 then if ¬ (gI s 9) = 84 then gd (inb (gI s 9) 84) (some (gI (sI (sA s 8 (gI s 9) a1) 9 (wr ((gI (sA s 8 (gI s 9) a1) 9) + 1))) 9, sI (sA s 8 (gI s 9) a1) 9 (wr ((gI (sA s 8 (gI s 9) a1) 9) + 1)))) else some ((-104), s) else some ((-102), s)
theorem kX0_letter {G : Gx}  {b : Nat} {ad : Nat → Nat} {s' : Sg} {h : hS} {r : Int} {s : Sg} {a1 : Int}  (ha1 : rI a1) (e : fX0_letter s a1 = some (r, s')) : CtX G yX0_letter cX0_letter 2 (some .int) 1 25 [(0, b, ad)] [s] h [tr (some b), ti a1] (some (ti r)) [s'] h := by
  refine CtX.of (by decide) (Nat.le_of_ble_eq_true rfl) [(0, tr (some b)), (1, ti a1)] rfl ?_
  have E : EndX (G, 2, [(0, b, ad)], h, [s'], h, (some .int), (some (ti r)), yX0_letter.name) [(0, b, ad)] 2 (some .int) (some (ti r)) [s'] h := ⟨rfl, rfl, rfl, rfl, rfl, rfl⟩
  unfold fX0_letter at e
  refine r_rrs E.p (fun rr => ?_)
  refine r_iload_n dX0_letter_0 rfl 1 rfl ?_
  refine r_i2l ha1 dX0_letter_1 ?_
  refine r_ldc2 32 q395 (by decide) dX0_letter_2 ?_
  refine r_ldc2 126 q396 (by decide) dX0_letter_5 ?_
  obtain ⟨p1, q2, e⟩ := bd_o e
  have k3 := kX0_isIn (G := G) (h := h) (rI_L ha1) (by decide) (by decide) q2
  have z4 := (k3 rr.none).1.2.2.2
  refine r_callS (j := none) 3 [tl a1, tl 32, tl 126] k3 (injO_1 E.p) subO_0 getO_0 setO_0 (lw_S q397 q398 q115 q399) (by decide +kernel) rfl (Nat.le_of_ble_eq_true rfl) (Nat.le_of_ble_eq_true rfl) rfl (Nat.le_of_ble_eq_true rfl) dX0_letter_8 rfl ?_
  have eT := (r_ifo e).1
  have eF := (r_ifo e).2
  refine r_if_ne (rI_z z4) 17 dX0_letter_11 (by decide) (fun c5 => ?_) (fun c5 => ?_)
  · have e := eT c5
    refine r_aload_n dX0_letter_17 rfl 0 rfl ?_
    refine r_sI E.p 9 fG_X0_174 (by decide) dX0_letter_18 ?_
    refine r_bipush dX0_letter_21 (by decide) ?_
    have eT := (r_ifo e).1
    have eF := (r_ifo e).2
    refine r_icmp_ne ((rr.mine rfl).i 9 (by decide) (by decide)) (by decide) 29 dX0_letter_23 (by decide) (fun c6 => ?_) (fun c6 => ?_)
    · have e := eT c6
      refine r_aload_n dX0_letter_29 rfl 0 rfl ?_
      refine r_sR E.p 8 fG_X0_121 (by decide) dX0_letter_30 ?_
      refine r_aload_n dX0_letter_33 rfl 0 rfl ?_
      refine r_sI E.p 9 fG_X0_174 (by decide) dX0_letter_34 ?_
      refine r_iload_n dX0_letter_37 rfl 1 rfl ?_
      obtain ⟨g7, e⟩ := gd_o e
      refine r_saP E.p 8 rfl (by decide) (by decide) ((rr.mine rfl).i 9 (by decide) (by decide)) g7 ha1 rfl dX0_letter_38 ?_
      refine r_rrs E.p (fun rr8 => ?_)
      refine r_aload_n dX0_letter_39 rfl 0 rfl ?_
      refine r_dup dX0_letter_40 rfl ?_
      refine r_sI E.p 9 fG_X0_174 (by decide) dX0_letter_41 ?_
      refine r_iconst dX0_letter_44 ?_
      refine r_iadd dX0_letter_45 ?_
      refine r_sPI E.p 9 fP_X0_174 rfl (wr_r _) dX0_letter_46 ?_
      refine r_rrs E.p (fun rr9 => ?_)
      refine r_aload_n dX0_letter_49 rfl 0 rfl ?_
      refine r_sI E.p 9 fG_X0_174 (by decide) dX0_letter_50 ?_
      cases e
      exact r_iret E.σ E.st E.rt E.r ((rr9.mine rfl).i 9 (by decide) (by decide)) dX0_letter_53
    · have e := eF c6
      refine r_bipush dX0_letter_26 (by decide) ?_
      cases e
      exact r_iret E.σ E.st E.rt E.r (by decide) dX0_letter_28
  · have e := eF c5
    refine r_bipush dX0_letter_14 (by decide) ?_
    cases e
    exact r_iret E.σ E.st E.rt E.r (by decide) dX0_letter_16
def fX0_blank  (s : Sg) : Option (Int × Sg) := some (gI s 9, sI s 9 0)
theorem kX0_blank {G : Gx}  {b : Nat} {ad : Nat → Nat} {s' : Sg} {h : hS} {r : Int} {s : Sg}    (e : fX0_blank s = some (r, s')) : CtX G yX0_blank cX0_blank 2 (some .int) 0 0 [(0, b, ad)] [s] h [tr (some b)] (some (ti r)) [s'] h := by
  refine CtX.of (by decide) (Nat.le_of_ble_eq_true rfl) [(0, tr (some b))] rfl ?_
  have E : EndX (G, 2, [(0, b, ad)], h, [s'], h, (some .int), (some (ti r)), yX0_blank.name) [(0, b, ad)] 2 (some .int) (some (ti r)) [s'] h := ⟨rfl, rfl, rfl, rfl, rfl, rfl⟩
  unfold fX0_blank at e
  refine r_rrs E.p (fun rr => ?_)
  refine r_aload_n dX0_blank_0 rfl 0 rfl ?_
  refine r_sI E.p 9 fG_X0_174 (by decide) dX0_blank_1 ?_
  refine r_istore_n (lv' := [(1, ti (gI s 9)), (0, tr (some b))]) dX0_blank_4 rfl (E.lt (by decide)) rfl ?_
  refine r_aload_n dX0_blank_5 rfl 1 rfl ?_
  refine r_iconst dX0_blank_6 ?_
  refine r_sPI E.p 9 fP_X0_174 rfl (by decide) dX0_blank_7 ?_
  refine r_rrs E.p (fun rr1 => ?_)
  refine r_iload_n dX0_blank_10 rfl 0 rfl ?_
  cases e
  exact r_iret E.σ E.st E.rt E.r ((rr.mine rfl).i 9 (by decide) (by decide)) dX0_blank_11
theorem fG_X0_177 : FldG RX0 177 [(0, 11)] := List.forall_mem_cons.mpr ⟨⟨RX0, TX0, 36, "DictProof", rfl, in_X0, by decide, q292, Or.inl rfl⟩, fun _ h => absurd h List.not_mem_nil⟩
theorem fG_X0_180 : FldG RX0 180 [(0, 10)] := List.forall_mem_cons.mpr ⟨⟨RX0, TX0, 36, "DictProof", rfl, in_X0, by decide, q291, Or.inl rfl⟩, fun _ h => absurd h List.not_mem_nil⟩
theorem fP_X0_180 : FldP RX0 180 [(0, 10)] .int false := List.forall_mem_cons.mpr ⟨⟨RX0, TX0, 36, "DictProof", tyX0, rfl, in_X0, by decide, q291, Or.inl rfl, tyX0_ok, nmX0, rfl, Or.inl rfl, by decide⟩, fun _ h => absurd h List.not_mem_nil⟩
theorem fP_X0_177 : FldP RX0 177 [(0, 11)] .int false := List.forall_mem_cons.mpr ⟨⟨RX0, TX0, 36, "DictProof", tyX0, rfl, in_X0, by decide, q292, Or.inl rfl, tyX0_ok, nmX0, rfl, Or.inl rfl, by decide⟩, fun _ h => absurd h List.not_mem_nil⟩
theorem fP_X0_183 : FldP RX0 183 [(0, 12)] .int false := List.forall_mem_cons.mpr ⟨⟨RX0, TX0, 36, "DictProof", tyX0, rfl, in_X0, by decide, q293, Or.inl rfl, tyX0_ok, nmX0, rfl, Or.inl rfl, by decide⟩, fun _ h => absurd h List.not_mem_nil⟩
def fX0_isClassSign_b54 (s : Sg) (k1 : Int) : Option (Int × Sg) := some (1, sI s 12 k1)
theorem wX0_isClassSign_b54 {N : Nx} {b : Nat} {ad : Nat → Nat} {s' : Sg} {h : hS} {r : Int} (E : EndX N [(0, b, ad)] 3 (some .boolean) (some (ti r)) [s'] h)  (s : Sg) (k1 : Int) (hk1 : rI k1) (e : fX0_isClassSign_b54 s k1 = some (r, s')) : AtPc cX0_isClassSign RX0 1 25 N [s] h 54 [] [ti k1, tr (some b)] := by
  unfold fX0_isClassSign_b54 at e
  refine r_rrs E.p (fun rr => ?_)
  refine r_sPI E.p 12 fP_X0_183 rfl hk1 dX0_isClassSign_54 ?_
  refine r_rrs E.p (fun rr1 => ?_)
  refine r_iconst dX0_isClassSign_57 ?_
  cases e
  exact r_zret E.σ E.st E.rt E.r (Or.inr rfl) dX0_isClassSign_58
def fX0_isClassSign_b27 (s : Sg) (a1 : Int) (a2 : Int) : Option (Int × Sg) := if ¬ a2 = 59 then fX0_isClassSign_b54 (sI (sI s 10 (wr ((gI s 10) + 1))) 11 0) (-1) else fX0_isClassSign_b54 (sI (sI s 10 (wr ((gI s 10) + 1))) 11 0) a1
theorem wX0_isClassSign_b27 {N : Nx} {b : Nat} {ad : Nat → Nat} {s' : Sg} {h : hS} {r : Int} (E : EndX N [(0, b, ad)] 3 (some .boolean) (some (ti r)) [s'] h)  (s : Sg) (a1 : Int) (a2 : Int) (ha1 : rI a1) (ha2 : rI a2) (e : fX0_isClassSign_b27 s a1 a2 = some (r, s')) : AtPc cX0_isClassSign RX0 1 25 N [s] h 27 [(0, tr (some b)), (1, ti a1), (2, ti a2)] [] := by
  unfold fX0_isClassSign_b27 at e
  refine r_rrs E.p (fun rr => ?_)
  refine r_aload_n dX0_isClassSign_27 rfl 0 rfl ?_
  refine r_dup dX0_isClassSign_28 rfl ?_
  refine r_sI E.p 10 fG_X0_180 (by decide) dX0_isClassSign_29 ?_
  refine r_iconst dX0_isClassSign_32 ?_
  refine r_iadd dX0_isClassSign_33 ?_
  refine r_sPI E.p 10 fP_X0_180 rfl (wr_r _) dX0_isClassSign_34 ?_
  refine r_rrs E.p (fun rr1 => ?_)
  refine r_aload_n dX0_isClassSign_37 rfl 0 rfl ?_
  refine r_iconst dX0_isClassSign_38 ?_
  refine r_sPI E.p 11 fP_X0_177 rfl (by decide) dX0_isClassSign_39 ?_
  refine r_rrs E.p (fun rr2 => ?_)
  refine r_aload_n dX0_isClassSign_42 rfl 0 rfl ?_
  refine r_iload_n dX0_isClassSign_43 rfl 2 rfl ?_
  refine r_bipush dX0_isClassSign_44 (by decide) ?_
  have eT := (r_ifo e).1
  have eF := (r_ifo e).2
  refine r_icmp_ne ha2 (by decide) 53 dX0_isClassSign_46 (by decide) (fun c3 => ?_) (fun c3 => ?_)
  · have e := eT c3
    refine r_iconst dX0_isClassSign_53 ?_
    refine r_sub [] rfl ?_
    exact wX0_isClassSign_b54 E (sI (sI s 10 (wr ((gI s 10) + 1))) 11 0) (-1) (by decide) e
  · have e := eF c3
    refine r_iload_n dX0_isClassSign_49 rfl 1 rfl ?_
    refine r_goto 54 dX0_isClassSign_50 (by decide) ?_
    refine r_sub [] rfl ?_
    exact wX0_isClassSign_b54 E (sI (sI s 10 (wr ((gI s 10) + 1))) 11 0) a1 ha1 e
def fX0_isClassSign_b98 (s : Sg) (k0 : Int) : Option (Int × Sg) := gd (k0 = 0 ∨ k0 = 1) (some (k0, s))
theorem wX0_isClassSign_b98 {N : Nx} {b : Nat} {ad : Nat → Nat} {s' : Sg} {h : hS} {r : Int} (E : EndX N [(0, b, ad)] 3 (some .boolean) (some (ti r)) [s'] h)  (s : Sg) (k0 : Int) (hk0 : rI k0) (e : fX0_isClassSign_b98 s k0 = some (r, s')) : AtPc cX0_isClassSign RX0 1 25 N [s] h 98 [] [ti k0] := by
  unfold fX0_isClassSign_b98 at e
  refine r_rrs E.p (fun rr => ?_)
  obtain ⟨g1, e⟩ := gd_o e
  cases e
  exact r_zret E.σ E.st E.rt E.r g1 dX0_isClassSign_98
def fX0_isClassSign_b176 (s : Sg) (k0 : Int) : Option (Int × Sg) := gd (k0 = 0 ∨ k0 = 1) (some (k0, s))
theorem wX0_isClassSign_b176 {N : Nx} {b : Nat} {ad : Nat → Nat} {s' : Sg} {h : hS} {r : Int} (E : EndX N [(0, b, ad)] 3 (some .boolean) (some (ti r)) [s'] h)  (s : Sg) (k0 : Int) (hk0 : rI k0) (e : fX0_isClassSign_b176 s k0 = some (r, s')) : AtPc cX0_isClassSign RX0 1 25 N [s] h 176 [] [ti k0] := by
  unfold fX0_isClassSign_b176 at e
  refine r_rrs E.p (fun rr => ?_)
  obtain ⟨g1, e⟩ := gd_o e
  cases e
  exact r_zret E.σ E.st E.rt E.r g1 dX0_isClassSign_176
def fX0_isClassSign_b171 (s : Sg) : Option (Int × Sg) := fX0_isClassSign_b176 s 1
theorem wX0_isClassSign_b171 {N : Nx} {b : Nat} {ad : Nat → Nat} {s' : Sg} {h : hS} {r : Int} (E : EndX N [(0, b, ad)] 3 (some .boolean) (some (ti r)) [s'] h)  (s : Sg) (e : fX0_isClassSign_b171 s = some (r, s')) : AtPc cX0_isClassSign RX0 1 25 N [s] h 171 [] [] := by
  unfold fX0_isClassSign_b171 at e
  refine r_rrs E.p (fun rr => ?_)
  refine r_iconst dX0_isClassSign_171 ?_
  refine r_goto 176 dX0_isClassSign_172 (by decide) ?_
  exact wX0_isClassSign_b176 E s 1 (by decide) e
