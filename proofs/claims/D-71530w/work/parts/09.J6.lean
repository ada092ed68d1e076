/-! java/util/HashMap$TreeNode -/
set_option maxRecDepth 100000
def RJ6 : String := "java/util/HashMap$TreeNode"
def TJ6 : u_T := fun k => match k with
  | 0 => ("java/util/LinkedHashMap$Entry", "before", "Ljava/util/LinkedHashMap$Entry;", false)
  | 1 => ("java/util/LinkedHashMap$Entry", "after", "Ljava/util/LinkedHashMap$Entry;", false)
  | 2 => ("java/util/HashMap$Node", "hash", "I", true)
  | 3 => ("java/util/HashMap$Node", "key", "Ljava/lang/Object;", true)
  | 4 => ("java/util/HashMap$Node", "value", "Ljava/lang/Object;", false)
  | 5 => ("java/util/HashMap$Node", "next", "Ljava/util/HashMap$Node;", false)
  | 6 => ("java/util/HashMap$TreeNode", "parent", "Ljava/util/HashMap$TreeNode;", false)
  | 7 => ("java/util/HashMap$TreeNode", "left", "Ljava/util/HashMap$TreeNode;", false)
  | 8 => ("java/util/HashMap$TreeNode", "right", "Ljava/util/HashMap$TreeNode;", false)
  | 9 => ("java/util/HashMap$TreeNode", "prev", "Ljava/util/HashMap$TreeNode;", false)
  | _ => ("java/util/HashMap$TreeNode", "red", "Z", false)
def tyJ6 : Nat → FieldType := fun k => match k with
  | 0 => .object "java/util/LinkedHashMap$Entry"
  | 1 => .object "java/util/LinkedHashMap$Entry"
  | 2 => .int
  | 3 => .object "java/lang/Object"
  | 4 => .object "java/lang/Object"
  | 5 => .object "java/util/HashMap$Node"
  | 6 => .object "java/util/HashMap$TreeNode"
  | 7 => .object "java/util/HashMap$TreeNode"
  | 8 => .object "java/util/HashMap$TreeNode"
  | 9 => .object "java/util/HashMap$TreeNode"
  | _ => .boolean
abbrev wsJ60 : List Cond := u_ws RJ6 TJ6 11
theorem nmJ6 : ∀ a, a < 11 → ∀ b, b < 11 → a ≠ b → (TJ6 a).2.1 ≠ (TJ6 b).2.1 := by decide +kernel
theorem tyJ6_ok : ∀ k, k < 11 → parseFieldDescriptor (TJ6 k).2.2.1 = some (tyJ6 k) := by decide +kernel
abbrev cJ6_getTreeNode : ByteArray := prog_36_method_5_code
def yJ6_getTreeNode : MethodName := ⟨RJ6, "getTreeNode", "(ILjava/lang/Object;)Ljava/util/HashMap$TreeNode;"⟩
def dkwJ6_getTreeNode_0 : List UInt8 := [42, 180, 0, 9, 198, 0, 10, 42, 182, 0, 67, 167, 0, 4, 42, 27, 44, 1, 182, 0, 63, 176]
abbrev dktJ6_getTreeNode_0 : List UInt8 := dkwJ6_getTreeNode_0 ++ []
theorem dksJ6_getTreeNode_0 : cJ6_getTreeNode.data.toList.drop 0 = dktJ6_getTreeNode_0 := by decide +kernel
theorem dJ6_getTreeNode_0 : decode cJ6_getTreeNode 0 = .ok (.aload_n 0, 1) := dk_42 (dk_at dksJ6_getTreeNode_0 0 rfl rfl)
theorem dJ6_getTreeNode_1 : decode cJ6_getTreeNode 1 = .ok (.getfield 9, 3) := dk_180 0 9 (dk_at dksJ6_getTreeNode_0 1 rfl rfl)
theorem dJ6_getTreeNode_4 : decode cJ6_getTreeNode 4 = .ok (.ifnull 10, 3) := dk_198 0 10 (dk_at dksJ6_getTreeNode_0 4 rfl rfl)
theorem dJ6_getTreeNode_7 : decode cJ6_getTreeNode 7 = .ok (.aload_n 0, 1) := dk_42 (dk_at dksJ6_getTreeNode_0 7 rfl rfl)
theorem dJ6_getTreeNode_8 : decode cJ6_getTreeNode 8 = .ok (.invokevirtual 67, 3) := dk_182 0 67 (dk_at dksJ6_getTreeNode_0 8 rfl rfl)
theorem dJ6_getTreeNode_11 : decode cJ6_getTreeNode 11 = .ok (.goto 4, 3) := dk_167 0 4 (dk_at dksJ6_getTreeNode_0 11 rfl rfl)
theorem dJ6_getTreeNode_14 : decode cJ6_getTreeNode 14 = .ok (.aload_n 0, 1) := dk_42 (dk_at dksJ6_getTreeNode_0 14 rfl rfl)
theorem dJ6_getTreeNode_15 : decode cJ6_getTreeNode 15 = .ok (.iload_n 1, 1) := dk_27 (dk_at dksJ6_getTreeNode_0 15 rfl rfl)
theorem dJ6_getTreeNode_16 : decode cJ6_getTreeNode 16 = .ok (.aload_n 2, 1) := dk_44 (dk_at dksJ6_getTreeNode_0 16 rfl rfl)
theorem dJ6_getTreeNode_17 : decode cJ6_getTreeNode 17 = .ok (.aconst_null, 1) := dk_1 (dk_at dksJ6_getTreeNode_0 17 rfl rfl)
theorem dJ6_getTreeNode_18 : decode cJ6_getTreeNode 18 = .ok (.invokevirtual 63, 3) := dk_182 0 63 (dk_at dksJ6_getTreeNode_0 18 rfl rfl)
theorem dJ6_getTreeNode_21 : decode cJ6_getTreeNode 21 = .ok (.areturn, 1) := dk_176 (dk_at dksJ6_getTreeNode_0 21 rfl rfl)
abbrev cJ6_root : ByteArray := prog_36_method_2_code
def yJ6_root : MethodName := ⟨RJ6, "root", "()Ljava/util/HashMap$TreeNode;"⟩
def dkwJ6_root_0 : List UInt8 := [42, 76, 43, 180, 0, 9, 89, 77, 199, 0, 5, 43, 176, 44, 76, 167, 255, 243]
abbrev dktJ6_root_0 : List UInt8 := dkwJ6_root_0 ++ []
theorem dksJ6_root_0 : cJ6_root.data.toList.drop 0 = dktJ6_root_0 := by decide +kernel
theorem dJ6_root_0 : decode cJ6_root 0 = .ok (.aload_n 0, 1) := dk_42 (dk_at dksJ6_root_0 0 rfl rfl)
theorem dJ6_root_1 : decode cJ6_root 1 = .ok (.astore_n 1, 1) := dk_76 (dk_at dksJ6_root_0 1 rfl rfl)
theorem dJ6_root_2 : decode cJ6_root 2 = .ok (.aload_n 1, 1) := dk_43 (dk_at dksJ6_root_0 2 rfl rfl)
theorem dJ6_root_3 : decode cJ6_root 3 = .ok (.getfield 9, 3) := dk_180 0 9 (dk_at dksJ6_root_0 3 rfl rfl)
theorem dJ6_root_6 : decode cJ6_root 6 = .ok (.dup, 1) := dk_89 (dk_at dksJ6_root_0 6 rfl rfl)
theorem dJ6_root_7 : decode cJ6_root 7 = .ok (.astore_n 2, 1) := dk_77 (dk_at dksJ6_root_0 7 rfl rfl)
theorem dJ6_root_8 : decode cJ6_root 8 = .ok (.ifnonnull 5, 3) := dk_199 0 5 (dk_at dksJ6_root_0 8 rfl rfl)
theorem dJ6_root_11 : decode cJ6_root 11 = .ok (.aload_n 1, 1) := dk_43 (dk_at dksJ6_root_0 11 rfl rfl)
theorem dJ6_root_12 : decode cJ6_root 12 = .ok (.areturn, 1) := dk_176 (dk_at dksJ6_root_0 12 rfl rfl)
theorem dJ6_root_13 : decode cJ6_root 13 = .ok (.aload_n 2, 1) := dk_44 (dk_at dksJ6_root_0 13 rfl rfl)
theorem dJ6_root_14 : decode cJ6_root 14 = .ok (.astore_n 1, 1) := dk_76 (dk_at dksJ6_root_0 14 rfl rfl)
theorem dJ6_root_15 : decode cJ6_root 15 = .ok (.goto (-13), 3) := dk_167 255 243 (dk_at dksJ6_root_0 15 rfl rfl)
abbrev cJ6_find : ByteArray := prog_36_method_4_code
def yJ6_find : MethodName := ⟨RJ6, "find", "(ILjava/lang/Object;Ljava/lang/Class;)Ljava/util/HashMap$TreeNode;"⟩
def dkwJ6_find_7 : List UInt8 := [58, 4, 25, 4, 199, 255, 92, 1, 176]
abbrev dktJ6_find_7 : List UInt8 := dkwJ6_find_7 ++ []
def dkwJ6_find_6 : List UInt8 := [58, 4, 167, 0, 24, 25, 9, 27, 44, 45, 182, 0, 63, 89, 58, 10, 198, 0, 6, 25, 10, 176, 25, 8]
abbrev dktJ6_find_6 : List UInt8 := dkwJ6_find_6 ++ dktJ6_find_7
def dkwJ6_find_5 : List UInt8 := [44, 25, 7, 184, 0, 59, 89, 54, 6, 153, 0, 20, 21, 6, 156, 0, 8, 25, 8, 167, 0, 5, 25, 9]
abbrev dktJ6_find_5 : List UInt8 := dkwJ6_find_5 ++ dktJ6_find_6
def dkwJ6_find_4 : List UInt8 := [199, 0, 10, 25, 8, 58, 4, 167, 0, 67, 45, 199, 0, 12, 44, 184, 0, 55, 89, 78, 198, 0, 33, 45]
abbrev dktJ6_find_4 : List UInt8 := dkwJ6_find_4 ++ dktJ6_find_5
def dkwJ6_find_3 : List UInt8 := [182, 0, 49, 153, 0, 6, 25, 4, 176, 25, 8, 199, 0, 10, 25, 9, 58, 4, 167, 0, 79, 25, 9]
abbrev dktJ6_find_3 : List UInt8 := dkwJ6_find_3 ++ dktJ6_find_4
def dkwJ6_find_2 : List UInt8 := [167, 0, 119, 25, 4, 180, 0, 45, 89, 58, 7, 44, 165, 0, 16, 44, 198, 0, 15, 44, 25, 7]
abbrev dktJ6_find_2 : List UInt8 := dkwJ6_find_2 ++ dktJ6_find_3
def dkwJ6_find_1 : List UInt8 := [54, 5, 27, 164, 0, 10, 25, 8, 58, 4, 167, 0, 132, 21, 5, 27, 162, 0, 10, 25, 9, 58, 4]
abbrev dktJ6_find_1 : List UInt8 := dkwJ6_find_1 ++ dktJ6_find_2
def dkwJ6_find_0 : List UInt8 := [42, 58, 4, 25, 4, 180, 0, 39, 58, 8, 25, 4, 180, 0, 42, 58, 9, 25, 4, 180, 0, 15, 89]
abbrev dktJ6_find_0 : List UInt8 := dkwJ6_find_0 ++ dktJ6_find_1
theorem dksJ6_find_0 : cJ6_find.data.toList.drop 0 = dktJ6_find_0 := by decide +kernel
theorem dksJ6_find_1 : cJ6_find.data.toList.drop 23 = dktJ6_find_1 := dk_seg dksJ6_find_0 23 rfl rfl
theorem dksJ6_find_2 : cJ6_find.data.toList.drop 46 = dktJ6_find_2 := dk_seg dksJ6_find_1 23 rfl rfl
theorem dksJ6_find_3 : cJ6_find.data.toList.drop 68 = dktJ6_find_3 := dk_seg dksJ6_find_2 22 rfl rfl
theorem dksJ6_find_4 : cJ6_find.data.toList.drop 91 = dktJ6_find_4 := dk_seg dksJ6_find_3 23 rfl rfl
theorem dksJ6_find_5 : cJ6_find.data.toList.drop 115 = dktJ6_find_5 := dk_seg dksJ6_find_4 24 rfl rfl
theorem dksJ6_find_6 : cJ6_find.data.toList.drop 139 = dktJ6_find_6 := dk_seg dksJ6_find_5 24 rfl rfl
theorem dksJ6_find_7 : cJ6_find.data.toList.drop 163 = dktJ6_find_7 := dk_seg dksJ6_find_6 24 rfl rfl
theorem dJ6_find_0 : decode cJ6_find 0 = .ok (.aload_n 0, 1) := dk_42 (dk_at dksJ6_find_0 0 rfl rfl)
theorem dJ6_find_1 : decode cJ6_find 1 = .ok (.astore 4, 2) := dk_58 4 (dk_at dksJ6_find_0 1 rfl rfl)
theorem dJ6_find_3 : decode cJ6_find 3 = .ok (.aload 4, 2) := dk_25 4 (dk_at dksJ6_find_0 3 rfl rfl)
theorem dJ6_find_5 : decode cJ6_find 5 = .ok (.getfield 39, 3) := dk_180 0 39 (dk_at dksJ6_find_0 5 rfl rfl)
theorem dJ6_find_8 : decode cJ6_find 8 = .ok (.astore 8, 2) := dk_58 8 (dk_at dksJ6_find_0 8 rfl rfl)
theorem dJ6_find_10 : decode cJ6_find 10 = .ok (.aload 4, 2) := dk_25 4 (dk_at dksJ6_find_0 10 rfl rfl)
theorem dJ6_find_12 : decode cJ6_find 12 = .ok (.getfield 42, 3) := dk_180 0 42 (dk_at dksJ6_find_0 12 rfl rfl)
theorem dJ6_find_15 : decode cJ6_find 15 = .ok (.astore 9, 2) := dk_58 9 (dk_at dksJ6_find_0 15 rfl rfl)
theorem dJ6_find_17 : decode cJ6_find 17 = .ok (.aload 4, 2) := dk_25 4 (dk_at dksJ6_find_0 17 rfl rfl)
theorem dJ6_find_19 : decode cJ6_find 19 = .ok (.getfield 15, 3) := dk_180 0 15 (dk_at dksJ6_find_0 19 rfl rfl)
theorem dJ6_find_22 : decode cJ6_find 22 = .ok (.dup, 1) := dk_89 (dk_at dksJ6_find_0 22 rfl rfl)
theorem dJ6_find_23 : decode cJ6_find 23 = .ok (.istore 5, 2) := dk_54 5 (dk_at dksJ6_find_1 0 rfl rfl)
theorem dJ6_find_25 : decode cJ6_find 25 = .ok (.iload_n 1, 1) := dk_27 (dk_at dksJ6_find_1 2 rfl rfl)
theorem dJ6_find_26 : decode cJ6_find 26 = .ok (.if_icmp .le 10, 3) := dk_164 0 10 (dk_at dksJ6_find_1 3 rfl rfl)
theorem dJ6_find_29 : decode cJ6_find 29 = .ok (.aload 8, 2) := dk_25 8 (dk_at dksJ6_find_1 6 rfl rfl)
theorem dJ6_find_31 : decode cJ6_find 31 = .ok (.astore 4, 2) := dk_58 4 (dk_at dksJ6_find_1 8 rfl rfl)
theorem dJ6_find_33 : decode cJ6_find 33 = .ok (.goto 132, 3) := dk_167 0 132 (dk_at dksJ6_find_1 10 rfl rfl)
theorem dJ6_find_36 : decode cJ6_find 36 = .ok (.iload 5, 2) := dk_21 5 (dk_at dksJ6_find_1 13 rfl rfl)
theorem dJ6_find_38 : decode cJ6_find 38 = .ok (.iload_n 1, 1) := dk_27 (dk_at dksJ6_find_1 15 rfl rfl)
theorem dJ6_find_39 : decode cJ6_find 39 = .ok (.if_icmp .ge 10, 3) := dk_162 0 10 (dk_at dksJ6_find_1 16 rfl rfl)
theorem dJ6_find_42 : decode cJ6_find 42 = .ok (.aload 9, 2) := dk_25 9 (dk_at dksJ6_find_1 19 rfl rfl)
theorem dJ6_find_44 : decode cJ6_find 44 = .ok (.astore 4, 2) := dk_58 4 (dk_at dksJ6_find_1 21 rfl rfl)
theorem dJ6_find_46 : decode cJ6_find 46 = .ok (.goto 119, 3) := dk_167 0 119 (dk_at dksJ6_find_2 0 rfl rfl)
theorem dJ6_find_49 : decode cJ6_find 49 = .ok (.aload 4, 2) := dk_25 4 (dk_at dksJ6_find_2 3 rfl rfl)
theorem dJ6_find_51 : decode cJ6_find 51 = .ok (.getfield 45, 3) := dk_180 0 45 (dk_at dksJ6_find_2 5 rfl rfl)
theorem dJ6_find_54 : decode cJ6_find 54 = .ok (.dup, 1) := dk_89 (dk_at dksJ6_find_2 8 rfl rfl)
theorem dJ6_find_55 : decode cJ6_find 55 = .ok (.astore 7, 2) := dk_58 7 (dk_at dksJ6_find_2 9 rfl rfl)
theorem dJ6_find_57 : decode cJ6_find 57 = .ok (.aload_n 2, 1) := dk_44 (dk_at dksJ6_find_2 11 rfl rfl)
theorem dJ6_find_58 : decode cJ6_find 58 = .ok (.if_acmp .eq 16, 3) := dk_165 0 16 (dk_at dksJ6_find_2 12 rfl rfl)
theorem dJ6_find_61 : decode cJ6_find 61 = .ok (.aload_n 2, 1) := dk_44 (dk_at dksJ6_find_2 15 rfl rfl)
theorem dJ6_find_62 : decode cJ6_find 62 = .ok (.ifnull 15, 3) := dk_198 0 15 (dk_at dksJ6_find_2 16 rfl rfl)
theorem dJ6_find_65 : decode cJ6_find 65 = .ok (.aload_n 2, 1) := dk_44 (dk_at dksJ6_find_2 19 rfl rfl)
theorem dJ6_find_66 : decode cJ6_find 66 = .ok (.aload 7, 2) := dk_25 7 (dk_at dksJ6_find_2 20 rfl rfl)
theorem dJ6_find_68 : decode cJ6_find 68 = .ok (.invokevirtual 49, 3) := dk_182 0 49 (dk_at dksJ6_find_3 0 rfl rfl)
theorem dJ6_find_71 : decode cJ6_find 71 = .ok (.ifCond .eq 6, 3) := dk_153 0 6 (dk_at dksJ6_find_3 3 rfl rfl)
theorem dJ6_find_74 : decode cJ6_find 74 = .ok (.aload 4, 2) := dk_25 4 (dk_at dksJ6_find_3 6 rfl rfl)
theorem dJ6_find_76 : decode cJ6_find 76 = .ok (.areturn, 1) := dk_176 (dk_at dksJ6_find_3 8 rfl rfl)
theorem dJ6_find_77 : decode cJ6_find 77 = .ok (.aload 8, 2) := dk_25 8 (dk_at dksJ6_find_3 9 rfl rfl)
theorem dJ6_find_79 : decode cJ6_find 79 = .ok (.ifnonnull 10, 3) := dk_199 0 10 (dk_at dksJ6_find_3 11 rfl rfl)
theorem dJ6_find_82 : decode cJ6_find 82 = .ok (.aload 9, 2) := dk_25 9 (dk_at dksJ6_find_3 14 rfl rfl)
theorem dJ6_find_84 : decode cJ6_find 84 = .ok (.astore 4, 2) := dk_58 4 (dk_at dksJ6_find_3 16 rfl rfl)
theorem dJ6_find_86 : decode cJ6_find 86 = .ok (.goto 79, 3) := dk_167 0 79 (dk_at dksJ6_find_3 18 rfl rfl)
theorem dJ6_find_89 : decode cJ6_find 89 = .ok (.aload 9, 2) := dk_25 9 (dk_at dksJ6_find_3 21 rfl rfl)
theorem dJ6_find_91 : decode cJ6_find 91 = .ok (.ifnonnull 10, 3) := dk_199 0 10 (dk_at dksJ6_find_4 0 rfl rfl)
theorem dJ6_find_94 : decode cJ6_find 94 = .ok (.aload 8, 2) := dk_25 8 (dk_at dksJ6_find_4 3 rfl rfl)
theorem dJ6_find_96 : decode cJ6_find 96 = .ok (.astore 4, 2) := dk_58 4 (dk_at dksJ6_find_4 5 rfl rfl)
theorem dJ6_find_98 : decode cJ6_find 98 = .ok (.goto 67, 3) := dk_167 0 67 (dk_at dksJ6_find_4 7 rfl rfl)
theorem dJ6_find_101 : decode cJ6_find 101 = .ok (.aload_n 3, 1) := dk_45 (dk_at dksJ6_find_4 10 rfl rfl)
theorem dJ6_find_102 : decode cJ6_find 102 = .ok (.ifnonnull 12, 3) := dk_199 0 12 (dk_at dksJ6_find_4 11 rfl rfl)
theorem dJ6_find_105 : decode cJ6_find 105 = .ok (.aload_n 2, 1) := dk_44 (dk_at dksJ6_find_4 14 rfl rfl)
theorem dJ6_find_106 : decode cJ6_find 106 = .ok (.invokestatic 55, 3) := dk_184 0 55 (dk_at dksJ6_find_4 15 rfl rfl)
theorem dJ6_find_109 : decode cJ6_find 109 = .ok (.dup, 1) := dk_89 (dk_at dksJ6_find_4 18 rfl rfl)
theorem dJ6_find_110 : decode cJ6_find 110 = .ok (.astore_n 3, 1) := dk_78 (dk_at dksJ6_find_4 19 rfl rfl)
theorem dJ6_find_111 : decode cJ6_find 111 = .ok (.ifnull 33, 3) := dk_198 0 33 (dk_at dksJ6_find_4 20 rfl rfl)
theorem dJ6_find_114 : decode cJ6_find 114 = .ok (.aload_n 3, 1) := dk_45 (dk_at dksJ6_find_4 23 rfl rfl)
theorem dJ6_find_115 : decode cJ6_find 115 = .ok (.aload_n 2, 1) := dk_44 (dk_at dksJ6_find_5 0 rfl rfl)
theorem dJ6_find_116 : decode cJ6_find 116 = .ok (.aload 7, 2) := dk_25 7 (dk_at dksJ6_find_5 1 rfl rfl)
theorem dJ6_find_118 : decode cJ6_find 118 = .ok (.invokestatic 59, 3) := dk_184 0 59 (dk_at dksJ6_find_5 3 rfl rfl)
theorem dJ6_find_121 : decode cJ6_find 121 = .ok (.dup, 1) := dk_89 (dk_at dksJ6_find_5 6 rfl rfl)
theorem dJ6_find_122 : decode cJ6_find 122 = .ok (.istore 6, 2) := dk_54 6 (dk_at dksJ6_find_5 7 rfl rfl)
theorem dJ6_find_124 : decode cJ6_find 124 = .ok (.ifCond .eq 20, 3) := dk_153 0 20 (dk_at dksJ6_find_5 9 rfl rfl)
theorem dJ6_find_127 : decode cJ6_find 127 = .ok (.iload 6, 2) := dk_21 6 (dk_at dksJ6_find_5 12 rfl rfl)
theorem dJ6_find_129 : decode cJ6_find 129 = .ok (.ifCond .ge 8, 3) := dk_156 0 8 (dk_at dksJ6_find_5 14 rfl rfl)
theorem dJ6_find_132 : decode cJ6_find 132 = .ok (.aload 8, 2) := dk_25 8 (dk_at dksJ6_find_5 17 rfl rfl)
theorem dJ6_find_134 : decode cJ6_find 134 = .ok (.goto 5, 3) := dk_167 0 5 (dk_at dksJ6_find_5 19 rfl rfl)
theorem dJ6_find_137 : decode cJ6_find 137 = .ok (.aload 9, 2) := dk_25 9 (dk_at dksJ6_find_5 22 rfl rfl)
theorem dJ6_find_139 : decode cJ6_find 139 = .ok (.astore 4, 2) := dk_58 4 (dk_at dksJ6_find_6 0 rfl rfl)
theorem dJ6_find_141 : decode cJ6_find 141 = .ok (.goto 24, 3) := dk_167 0 24 (dk_at dksJ6_find_6 2 rfl rfl)
theorem dJ6_find_144 : decode cJ6_find 144 = .ok (.aload 9, 2) := dk_25 9 (dk_at dksJ6_find_6 5 rfl rfl)
theorem dJ6_find_146 : decode cJ6_find 146 = .ok (.iload_n 1, 1) := dk_27 (dk_at dksJ6_find_6 7 rfl rfl)
theorem dJ6_find_147 : decode cJ6_find 147 = .ok (.aload_n 2, 1) := dk_44 (dk_at dksJ6_find_6 8 rfl rfl)
theorem dJ6_find_148 : decode cJ6_find 148 = .ok (.aload_n 3, 1) := dk_45 (dk_at dksJ6_find_6 9 rfl rfl)
theorem dJ6_find_149 : decode cJ6_find 149 = .ok (.invokevirtual 63, 3) := dk_182 0 63 (dk_at dksJ6_find_6 10 rfl rfl)
theorem dJ6_find_152 : decode cJ6_find 152 = .ok (.dup, 1) := dk_89 (dk_at dksJ6_find_6 13 rfl rfl)
theorem dJ6_find_153 : decode cJ6_find 153 = .ok (.astore 10, 2) := dk_58 10 (dk_at dksJ6_find_6 14 rfl rfl)
theorem dJ6_find_155 : decode cJ6_find 155 = .ok (.ifnull 6, 3) := dk_198 0 6 (dk_at dksJ6_find_6 16 rfl rfl)
theorem dJ6_find_158 : decode cJ6_find 158 = .ok (.aload 10, 2) := dk_25 10 (dk_at dksJ6_find_6 19 rfl rfl)
theorem dJ6_find_160 : decode cJ6_find 160 = .ok (.areturn, 1) := dk_176 (dk_at dksJ6_find_6 21 rfl rfl)
theorem dJ6_find_161 : decode cJ6_find 161 = .ok (.aload 8, 2) := dk_25 8 (dk_at dksJ6_find_6 22 rfl rfl)
theorem dJ6_find_163 : decode cJ6_find 163 = .ok (.astore 4, 2) := dk_58 4 (dk_at dksJ6_find_7 0 rfl rfl)
theorem dJ6_find_165 : decode cJ6_find 165 = .ok (.aload 4, 2) := dk_25 4 (dk_at dksJ6_find_7 2 rfl rfl)
theorem dJ6_find_167 : decode cJ6_find 167 = .ok (.ifnonnull (-164), 3) := dk_199 255 92 (dk_at dksJ6_find_7 4 rfl rfl)
theorem dJ6_find_170 : decode cJ6_find 170 = .ok (.aconst_null, 1) := dk_1 (dk_at dksJ6_find_7 7 rfl rfl)
theorem dJ6_find_171 : decode cJ6_find 171 = .ok (.areturn, 1) := dk_176 (dk_at dksJ6_find_7 8 rfl rfl)
abbrev cJ6_split : ByteArray := prog_36_method_11_code
def yJ6_split : MethodName := ⟨RJ6, "split", "(Ljava/util/HashMap;[Ljava/util/HashMap$Node;II)V"⟩
def dkwJ6_split_9 : List UInt8 := [198, 0, 9, 25, 8, 44, 182, 0, 126, 177]
abbrev dktJ6_split_9 : List UInt8 := dkwJ6_split_9 ++ []
def dkwJ6_split_8 : List UInt8 := [21, 4, 96, 25, 8, 43, 182, 0, 119, 83, 167, 0, 22, 44, 29, 21, 4, 96, 25, 8, 83, 25, 6]
abbrev dktJ6_split_8 : List UInt8 := dkwJ6_split_8 ++ dktJ6_split_9
def dkwJ6_split_7 : List UInt8 := [198, 0, 9, 25, 6, 44, 182, 0, 126, 25, 8, 198, 0, 44, 21, 11, 16, 6, 163, 0, 18, 44, 29]
abbrev dktJ6_split_7 : List UInt8 := dkwJ6_split_7 ++ dktJ6_split_8
def dkwJ6_split_6 : List UInt8 := [163, 0, 15, 44, 29, 25, 6, 43, 182, 0, 119, 83, 167, 0, 19, 44, 29, 25, 6, 83, 25, 8]
abbrev dktJ6_split_6 : List UInt8 := dkwJ6_split_6 ++ dktJ6_split_7
def dkwJ6_split_5 : List UInt8 := [25, 12, 58, 9, 132, 11, 1, 25, 13, 58, 12, 167, 255, 153, 25, 6, 198, 0, 38, 21, 10, 16, 6]
abbrev dktJ6_split_5 : List UInt8 := dkwJ6_split_5 ++ dktJ6_split_6
def dkwJ6_split_4 : List UInt8 := [25, 9, 90, 181, 0, 19, 199, 0, 10, 25, 12, 58, 8, 167, 0, 10, 25, 9, 25, 12, 181, 0, 22]
abbrev dktJ6_split_4 : List UInt8 := dkwJ6_split_4 ++ dktJ6_split_5
def dkwJ6_split_3 : List UInt8 := [58, 6, 167, 0, 10, 25, 7, 25, 12, 181, 0, 22, 25, 12, 58, 7, 132, 10, 1, 167, 0, 35, 25, 12]
abbrev dktJ6_split_3 : List UInt8 := dkwJ6_split_3 ++ dktJ6_split_4
def dkwJ6_split_2 : List UInt8 := [25, 12, 180, 0, 15, 21, 4, 126, 154, 0, 38, 25, 12, 25, 7, 90, 181, 0, 19, 199, 0, 10, 25, 12]
abbrev dktJ6_split_2 : List UInt8 := dkwJ6_split_2 ++ dktJ6_split_3
def dkwJ6_split_1 : List UInt8 := [58, 12, 25, 12, 198, 0, 104, 25, 12, 180, 0, 22, 192, 0, 10, 58, 13, 25, 12, 1, 181, 0, 22]
abbrev dktJ6_split_1 : List UInt8 := dkwJ6_split_1 ++ dktJ6_split_2
def dkwJ6_split_0 : List UInt8 := [42, 58, 5, 1, 58, 6, 1, 58, 7, 1, 58, 8, 1, 58, 9, 3, 54, 10, 3, 54, 11, 25, 5]
abbrev dktJ6_split_0 : List UInt8 := dkwJ6_split_0 ++ dktJ6_split_1
theorem dksJ6_split_0 : cJ6_split.data.toList.drop 0 = dktJ6_split_0 := by decide +kernel
theorem dksJ6_split_1 : cJ6_split.data.toList.drop 23 = dktJ6_split_1 := dk_seg dksJ6_split_0 23 rfl rfl
theorem dksJ6_split_2 : cJ6_split.data.toList.drop 46 = dktJ6_split_2 := dk_seg dksJ6_split_1 23 rfl rfl
theorem dksJ6_split_3 : cJ6_split.data.toList.drop 70 = dktJ6_split_3 := dk_seg dksJ6_split_2 24 rfl rfl
theorem dksJ6_split_4 : cJ6_split.data.toList.drop 94 = dktJ6_split_4 := dk_seg dksJ6_split_3 24 rfl rfl
theorem dksJ6_split_5 : cJ6_split.data.toList.drop 117 = dktJ6_split_5 := dk_seg dksJ6_split_4 23 rfl rfl
theorem dksJ6_split_6 : cJ6_split.data.toList.drop 140 = dktJ6_split_6 := dk_seg dksJ6_split_5 23 rfl rfl
theorem dksJ6_split_7 : cJ6_split.data.toList.drop 162 = dktJ6_split_7 := dk_seg dksJ6_split_6 22 rfl rfl
theorem dksJ6_split_8 : cJ6_split.data.toList.drop 185 = dktJ6_split_8 := dk_seg dksJ6_split_7 23 rfl rfl
theorem dksJ6_split_9 : cJ6_split.data.toList.drop 208 = dktJ6_split_9 := dk_seg dksJ6_split_8 23 rfl rfl
theorem dJ6_split_0 : decode cJ6_split 0 = .ok (.aload_n 0, 1) := dk_42 (dk_at dksJ6_split_0 0 rfl rfl)
theorem dJ6_split_1 : decode cJ6_split 1 = .ok (.astore 5, 2) := dk_58 5 (dk_at dksJ6_split_0 1 rfl rfl)
theorem dJ6_split_3 : decode cJ6_split 3 = .ok (.aconst_null, 1) := dk_1 (dk_at dksJ6_split_0 3 rfl rfl)
theorem dJ6_split_4 : decode cJ6_split 4 = .ok (.astore 6, 2) := dk_58 6 (dk_at dksJ6_split_0 4 rfl rfl)
theorem dJ6_split_6 : decode cJ6_split 6 = .ok (.aconst_null, 1) := dk_1 (dk_at dksJ6_split_0 6 rfl rfl)
theorem dJ6_split_7 : decode cJ6_split 7 = .ok (.astore 7, 2) := dk_58 7 (dk_at dksJ6_split_0 7 rfl rfl)
theorem dJ6_split_9 : decode cJ6_split 9 = .ok (.aconst_null, 1) := dk_1 (dk_at dksJ6_split_0 9 rfl rfl)
theorem dJ6_split_10 : decode cJ6_split 10 = .ok (.astore 8, 2) := dk_58 8 (dk_at dksJ6_split_0 10 rfl rfl)
theorem dJ6_split_12 : decode cJ6_split 12 = .ok (.aconst_null, 1) := dk_1 (dk_at dksJ6_split_0 12 rfl rfl)
theorem dJ6_split_13 : decode cJ6_split 13 = .ok (.astore 9, 2) := dk_58 9 (dk_at dksJ6_split_0 13 rfl rfl)
theorem dJ6_split_15 : decode cJ6_split 15 = .ok (.iconst 0, 1) := dk_3 (dk_at dksJ6_split_0 15 rfl rfl)
theorem dJ6_split_16 : decode cJ6_split 16 = .ok (.istore 10, 2) := dk_54 10 (dk_at dksJ6_split_0 16 rfl rfl)
theorem dJ6_split_18 : decode cJ6_split 18 = .ok (.iconst 0, 1) := dk_3 (dk_at dksJ6_split_0 18 rfl rfl)
theorem dJ6_split_19 : decode cJ6_split 19 = .ok (.istore 11, 2) := dk_54 11 (dk_at dksJ6_split_0 19 rfl rfl)
theorem dJ6_split_21 : decode cJ6_split 21 = .ok (.aload 5, 2) := dk_25 5 (dk_at dksJ6_split_0 21 rfl rfl)
theorem dJ6_split_23 : decode cJ6_split 23 = .ok (.astore 12, 2) := dk_58 12 (dk_at dksJ6_split_1 0 rfl rfl)
theorem dJ6_split_25 : decode cJ6_split 25 = .ok (.aload 12, 2) := dk_25 12 (dk_at dksJ6_split_1 2 rfl rfl)
theorem dJ6_split_27 : decode cJ6_split 27 = .ok (.ifnull 104, 3) := dk_198 0 104 (dk_at dksJ6_split_1 4 rfl rfl)
theorem dJ6_split_30 : decode cJ6_split 30 = .ok (.aload 12, 2) := dk_25 12 (dk_at dksJ6_split_1 7 rfl rfl)
theorem dJ6_split_32 : decode cJ6_split 32 = .ok (.getfield 22, 3) := dk_180 0 22 (dk_at dksJ6_split_1 9 rfl rfl)
theorem dJ6_split_35 : decode cJ6_split 35 = .ok (.checkcast 10, 3) := dk_192 0 10 (dk_at dksJ6_split_1 12 rfl rfl)
theorem dJ6_split_38 : decode cJ6_split 38 = .ok (.astore 13, 2) := dk_58 13 (dk_at dksJ6_split_1 15 rfl rfl)
theorem dJ6_split_40 : decode cJ6_split 40 = .ok (.aload 12, 2) := dk_25 12 (dk_at dksJ6_split_1 17 rfl rfl)
theorem dJ6_split_42 : decode cJ6_split 42 = .ok (.aconst_null, 1) := dk_1 (dk_at dksJ6_split_1 19 rfl rfl)
theorem dJ6_split_43 : decode cJ6_split 43 = .ok (.putfield 22, 3) := dk_181 0 22 (dk_at dksJ6_split_1 20 rfl rfl)
theorem dJ6_split_46 : decode cJ6_split 46 = .ok (.aload 12, 2) := dk_25 12 (dk_at dksJ6_split_2 0 rfl rfl)
theorem dJ6_split_48 : decode cJ6_split 48 = .ok (.getfield 15, 3) := dk_180 0 15 (dk_at dksJ6_split_2 2 rfl rfl)
theorem dJ6_split_51 : decode cJ6_split 51 = .ok (.iload 4, 2) := dk_21 4 (dk_at dksJ6_split_2 5 rfl rfl)
theorem dJ6_split_53 : decode cJ6_split 53 = .ok (.iand, 1) := dk_126 (dk_at dksJ6_split_2 7 rfl rfl)
theorem dJ6_split_54 : decode cJ6_split 54 = .ok (.ifCond .ne 38, 3) := dk_154 0 38 (dk_at dksJ6_split_2 8 rfl rfl)
theorem dJ6_split_57 : decode cJ6_split 57 = .ok (.aload 12, 2) := dk_25 12 (dk_at dksJ6_split_2 11 rfl rfl)
theorem dJ6_split_59 : decode cJ6_split 59 = .ok (.aload 7, 2) := dk_25 7 (dk_at dksJ6_split_2 13 rfl rfl)
theorem dJ6_split_61 : decode cJ6_split 61 = .ok (.dup_x1, 1) := dk_90 (dk_at dksJ6_split_2 15 rfl rfl)
theorem dJ6_split_62 : decode cJ6_split 62 = .ok (.putfield 19, 3) := dk_181 0 19 (dk_at dksJ6_split_2 16 rfl rfl)
theorem dJ6_split_65 : decode cJ6_split 65 = .ok (.ifnonnull 10, 3) := dk_199 0 10 (dk_at dksJ6_split_2 19 rfl rfl)
theorem dJ6_split_68 : decode cJ6_split 68 = .ok (.aload 12, 2) := dk_25 12 (dk_at dksJ6_split_2 22 rfl rfl)
theorem dJ6_split_70 : decode cJ6_split 70 = .ok (.astore 6, 2) := dk_58 6 (dk_at dksJ6_split_3 0 rfl rfl)
theorem dJ6_split_72 : decode cJ6_split 72 = .ok (.goto 10, 3) := dk_167 0 10 (dk_at dksJ6_split_3 2 rfl rfl)
theorem dJ6_split_75 : decode cJ6_split 75 = .ok (.aload 7, 2) := dk_25 7 (dk_at dksJ6_split_3 5 rfl rfl)
theorem dJ6_split_77 : decode cJ6_split 77 = .ok (.aload 12, 2) := dk_25 12 (dk_at dksJ6_split_3 7 rfl rfl)
theorem dJ6_split_79 : decode cJ6_split 79 = .ok (.putfield 22, 3) := dk_181 0 22 (dk_at dksJ6_split_3 9 rfl rfl)
theorem dJ6_split_82 : decode cJ6_split 82 = .ok (.aload 12, 2) := dk_25 12 (dk_at dksJ6_split_3 12 rfl rfl)
theorem dJ6_split_84 : decode cJ6_split 84 = .ok (.astore 7, 2) := dk_58 7 (dk_at dksJ6_split_3 14 rfl rfl)
theorem dJ6_split_86 : decode cJ6_split 86 = .ok (.iinc 10 1, 3) := dk_132 10 1 (dk_at dksJ6_split_3 16 rfl rfl)
theorem dJ6_split_89 : decode cJ6_split 89 = .ok (.goto 35, 3) := dk_167 0 35 (dk_at dksJ6_split_3 19 rfl rfl)
theorem dJ6_split_92 : decode cJ6_split 92 = .ok (.aload 12, 2) := dk_25 12 (dk_at dksJ6_split_3 22 rfl rfl)
theorem dJ6_split_94 : decode cJ6_split 94 = .ok (.aload 9, 2) := dk_25 9 (dk_at dksJ6_split_4 0 rfl rfl)
theorem dJ6_split_96 : decode cJ6_split 96 = .ok (.dup_x1, 1) := dk_90 (dk_at dksJ6_split_4 2 rfl rfl)
theorem dJ6_split_97 : decode cJ6_split 97 = .ok (.putfield 19, 3) := dk_181 0 19 (dk_at dksJ6_split_4 3 rfl rfl)
theorem dJ6_split_100 : decode cJ6_split 100 = .ok (.ifnonnull 10, 3) := dk_199 0 10 (dk_at dksJ6_split_4 6 rfl rfl)
theorem dJ6_split_103 : decode cJ6_split 103 = .ok (.aload 12, 2) := dk_25 12 (dk_at dksJ6_split_4 9 rfl rfl)
theorem dJ6_split_105 : decode cJ6_split 105 = .ok (.astore 8, 2) := dk_58 8 (dk_at dksJ6_split_4 11 rfl rfl)
theorem dJ6_split_107 : decode cJ6_split 107 = .ok (.goto 10, 3) := dk_167 0 10 (dk_at dksJ6_split_4 13 rfl rfl)
theorem dJ6_split_110 : decode cJ6_split 110 = .ok (.aload 9, 2) := dk_25 9 (dk_at dksJ6_split_4 16 rfl rfl)
theorem dJ6_split_112 : decode cJ6_split 112 = .ok (.aload 12, 2) := dk_25 12 (dk_at dksJ6_split_4 18 rfl rfl)
theorem dJ6_split_114 : decode cJ6_split 114 = .ok (.putfield 22, 3) := dk_181 0 22 (dk_at dksJ6_split_4 20 rfl rfl)
theorem dJ6_split_117 : decode cJ6_split 117 = .ok (.aload 12, 2) := dk_25 12 (dk_at dksJ6_split_5 0 rfl rfl)
theorem dJ6_split_119 : decode cJ6_split 119 = .ok (.astore 9, 2) := dk_58 9 (dk_at dksJ6_split_5 2 rfl rfl)
theorem dJ6_split_121 : decode cJ6_split 121 = .ok (.iinc 11 1, 3) := dk_132 11 1 (dk_at dksJ6_split_5 4 rfl rfl)
theorem dJ6_split_124 : decode cJ6_split 124 = .ok (.aload 13, 2) := dk_25 13 (dk_at dksJ6_split_5 7 rfl rfl)
theorem dJ6_split_126 : decode cJ6_split 126 = .ok (.astore 12, 2) := dk_58 12 (dk_at dksJ6_split_5 9 rfl rfl)
theorem dJ6_split_128 : decode cJ6_split 128 = .ok (.goto (-103), 3) := dk_167 255 153 (dk_at dksJ6_split_5 11 rfl rfl)
theorem dJ6_split_131 : decode cJ6_split 131 = .ok (.aload 6, 2) := dk_25 6 (dk_at dksJ6_split_5 14 rfl rfl)
theorem dJ6_split_133 : decode cJ6_split 133 = .ok (.ifnull 38, 3) := dk_198 0 38 (dk_at dksJ6_split_5 16 rfl rfl)
theorem dJ6_split_136 : decode cJ6_split 136 = .ok (.iload 10, 2) := dk_21 10 (dk_at dksJ6_split_5 19 rfl rfl)
theorem dJ6_split_138 : decode cJ6_split 138 = .ok (.bipush 6, 2) := dk_16 6 (dk_at dksJ6_split_5 21 rfl rfl)
theorem dJ6_split_140 : decode cJ6_split 140 = .ok (.if_icmp .gt 15, 3) := dk_163 0 15 (dk_at dksJ6_split_6 0 rfl rfl)
theorem dJ6_split_143 : decode cJ6_split 143 = .ok (.aload_n 2, 1) := dk_44 (dk_at dksJ6_split_6 3 rfl rfl)
theorem dJ6_split_144 : decode cJ6_split 144 = .ok (.iload_n 3, 1) := dk_29 (dk_at dksJ6_split_6 4 rfl rfl)
theorem dJ6_split_145 : decode cJ6_split 145 = .ok (.aload 6, 2) := dk_25 6 (dk_at dksJ6_split_6 5 rfl rfl)
theorem dJ6_split_147 : decode cJ6_split 147 = .ok (.aload_n 1, 1) := dk_43 (dk_at dksJ6_split_6 7 rfl rfl)
theorem dJ6_split_148 : decode cJ6_split 148 = .ok (.invokevirtual 119, 3) := dk_182 0 119 (dk_at dksJ6_split_6 8 rfl rfl)
theorem dJ6_split_151 : decode cJ6_split 151 = .ok (.aastore, 1) := dk_83 (dk_at dksJ6_split_6 11 rfl rfl)
theorem dJ6_split_152 : decode cJ6_split 152 = .ok (.goto 19, 3) := dk_167 0 19 (dk_at dksJ6_split_6 12 rfl rfl)
theorem dJ6_split_155 : decode cJ6_split 155 = .ok (.aload_n 2, 1) := dk_44 (dk_at dksJ6_split_6 15 rfl rfl)
theorem dJ6_split_156 : decode cJ6_split 156 = .ok (.iload_n 3, 1) := dk_29 (dk_at dksJ6_split_6 16 rfl rfl)
theorem dJ6_split_157 : decode cJ6_split 157 = .ok (.aload 6, 2) := dk_25 6 (dk_at dksJ6_split_6 17 rfl rfl)
theorem dJ6_split_159 : decode cJ6_split 159 = .ok (.aastore, 1) := dk_83 (dk_at dksJ6_split_6 19 rfl rfl)
theorem dJ6_split_160 : decode cJ6_split 160 = .ok (.aload 8, 2) := dk_25 8 (dk_at dksJ6_split_6 20 rfl rfl)
theorem dJ6_split_162 : decode cJ6_split 162 = .ok (.ifnull 9, 3) := dk_198 0 9 (dk_at dksJ6_split_7 0 rfl rfl)
theorem dJ6_split_165 : decode cJ6_split 165 = .ok (.aload 6, 2) := dk_25 6 (dk_at dksJ6_split_7 3 rfl rfl)
theorem dJ6_split_167 : decode cJ6_split 167 = .ok (.aload_n 2, 1) := dk_44 (dk_at dksJ6_split_7 5 rfl rfl)
theorem dJ6_split_168 : decode cJ6_split 168 = .ok (.invokevirtual 126, 3) := dk_182 0 126 (dk_at dksJ6_split_7 6 rfl rfl)
theorem dJ6_split_171 : decode cJ6_split 171 = .ok (.aload 8, 2) := dk_25 8 (dk_at dksJ6_split_7 9 rfl rfl)
theorem dJ6_split_173 : decode cJ6_split 173 = .ok (.ifnull 44, 3) := dk_198 0 44 (dk_at dksJ6_split_7 11 rfl rfl)
theorem dJ6_split_176 : decode cJ6_split 176 = .ok (.iload 11, 2) := dk_21 11 (dk_at dksJ6_split_7 14 rfl rfl)
theorem dJ6_split_178 : decode cJ6_split 178 = .ok (.bipush 6, 2) := dk_16 6 (dk_at dksJ6_split_7 16 rfl rfl)
theorem dJ6_split_180 : decode cJ6_split 180 = .ok (.if_icmp .gt 18, 3) := dk_163 0 18 (dk_at dksJ6_split_7 18 rfl rfl)
theorem dJ6_split_183 : decode cJ6_split 183 = .ok (.aload_n 2, 1) := dk_44 (dk_at dksJ6_split_7 21 rfl rfl)
theorem dJ6_split_184 : decode cJ6_split 184 = .ok (.iload_n 3, 1) := dk_29 (dk_at dksJ6_split_7 22 rfl rfl)
theorem dJ6_split_185 : decode cJ6_split 185 = .ok (.iload 4, 2) := dk_21 4 (dk_at dksJ6_split_8 0 rfl rfl)
theorem dJ6_split_187 : decode cJ6_split 187 = .ok (.iadd, 1) := dk_96 (dk_at dksJ6_split_8 2 rfl rfl)
theorem dJ6_split_188 : decode cJ6_split 188 = .ok (.aload 8, 2) := dk_25 8 (dk_at dksJ6_split_8 3 rfl rfl)
theorem dJ6_split_190 : decode cJ6_split 190 = .ok (.aload_n 1, 1) := dk_43 (dk_at dksJ6_split_8 5 rfl rfl)
theorem dJ6_split_191 : decode cJ6_split 191 = .ok (.invokevirtual 119, 3) := dk_182 0 119 (dk_at dksJ6_split_8 6 rfl rfl)
theorem dJ6_split_194 : decode cJ6_split 194 = .ok (.aastore, 1) := dk_83 (dk_at dksJ6_split_8 9 rfl rfl)
theorem dJ6_split_195 : decode cJ6_split 195 = .ok (.goto 22, 3) := dk_167 0 22 (dk_at dksJ6_split_8 10 rfl rfl)
theorem dJ6_split_198 : decode cJ6_split 198 = .ok (.aload_n 2, 1) := dk_44 (dk_at dksJ6_split_8 13 rfl rfl)
theorem dJ6_split_199 : decode cJ6_split 199 = .ok (.iload_n 3, 1) := dk_29 (dk_at dksJ6_split_8 14 rfl rfl)
theorem dJ6_split_200 : decode cJ6_split 200 = .ok (.iload 4, 2) := dk_21 4 (dk_at dksJ6_split_8 15 rfl rfl)
theorem dJ6_split_202 : decode cJ6_split 202 = .ok (.iadd, 1) := dk_96 (dk_at dksJ6_split_8 17 rfl rfl)
theorem dJ6_split_203 : decode cJ6_split 203 = .ok (.aload 8, 2) := dk_25 8 (dk_at dksJ6_split_8 18 rfl rfl)
theorem dJ6_split_205 : decode cJ6_split 205 = .ok (.aastore, 1) := dk_83 (dk_at dksJ6_split_8 20 rfl rfl)
theorem dJ6_split_206 : decode cJ6_split 206 = .ok (.aload 6, 2) := dk_25 6 (dk_at dksJ6_split_8 21 rfl rfl)
theorem dJ6_split_208 : decode cJ6_split 208 = .ok (.ifnull 9, 3) := dk_198 0 9 (dk_at dksJ6_split_9 0 rfl rfl)
theorem dJ6_split_211 : decode cJ6_split 211 = .ok (.aload 8, 2) := dk_25 8 (dk_at dksJ6_split_9 3 rfl rfl)
theorem dJ6_split_213 : decode cJ6_split 213 = .ok (.aload_n 2, 1) := dk_44 (dk_at dksJ6_split_9 5 rfl rfl)
theorem dJ6_split_214 : decode cJ6_split 214 = .ok (.invokevirtual 126, 3) := dk_182 0 126 (dk_at dksJ6_split_9 6 rfl rfl)
theorem dJ6_split_217 : decode cJ6_split 217 = .ok (.return_, 1) := dk_177 (dk_at dksJ6_split_9 9 rfl rfl)
abbrev cJ6_untreeify : ByteArray := prog_36_method_8_code
def yJ6_untreeify : MethodName := ⟨RJ6, "untreeify", "(Ljava/util/HashMap;)Ljava/util/HashMap$Node;"⟩
def dkwJ6_untreeify_2 : List UInt8 := [58, 4, 167, 255, 216, 44, 176]
abbrev dktJ6_untreeify_2 : List UInt8 := dkwJ6_untreeify_2 ++ []
def dkwJ6_untreeify_1 : List UInt8 := [199, 0, 9, 25, 5, 77, 167, 0, 9, 45, 25, 5, 181, 0, 112, 25, 5, 78, 25, 4, 180, 0, 112]
abbrev dktJ6_untreeify_1 : List UInt8 := dkwJ6_untreeify_1 ++ dktJ6_untreeify_2
def dkwJ6_untreeify_0 : List UInt8 := [1, 77, 1, 78, 42, 58, 4, 25, 4, 198, 0, 41, 43, 25, 4, 1, 182, 0, 108, 58, 5, 45]
abbrev dktJ6_untreeify_0 : List UInt8 := dkwJ6_untreeify_0 ++ dktJ6_untreeify_1
theorem dksJ6_untreeify_0 : cJ6_untreeify.data.toList.drop 0 = dktJ6_untreeify_0 := by decide +kernel
theorem dksJ6_untreeify_1 : cJ6_untreeify.data.toList.drop 22 = dktJ6_untreeify_1 := dk_seg dksJ6_untreeify_0 22 rfl rfl
theorem dksJ6_untreeify_2 : cJ6_untreeify.data.toList.drop 45 = dktJ6_untreeify_2 := dk_seg dksJ6_untreeify_1 23 rfl rfl
theorem dJ6_untreeify_0 : decode cJ6_untreeify 0 = .ok (.aconst_null, 1) := dk_1 (dk_at dksJ6_untreeify_0 0 rfl rfl)
theorem dJ6_untreeify_1 : decode cJ6_untreeify 1 = .ok (.astore_n 2, 1) := dk_77 (dk_at dksJ6_untreeify_0 1 rfl rfl)
theorem dJ6_untreeify_2 : decode cJ6_untreeify 2 = .ok (.aconst_null, 1) := dk_1 (dk_at dksJ6_untreeify_0 2 rfl rfl)
theorem dJ6_untreeify_3 : decode cJ6_untreeify 3 = .ok (.astore_n 3, 1) := dk_78 (dk_at dksJ6_untreeify_0 3 rfl rfl)
theorem dJ6_untreeify_4 : decode cJ6_untreeify 4 = .ok (.aload_n 0, 1) := dk_42 (dk_at dksJ6_untreeify_0 4 rfl rfl)
theorem dJ6_untreeify_5 : decode cJ6_untreeify 5 = .ok (.astore 4, 2) := dk_58 4 (dk_at dksJ6_untreeify_0 5 rfl rfl)
theorem dJ6_untreeify_7 : decode cJ6_untreeify 7 = .ok (.aload 4, 2) := dk_25 4 (dk_at dksJ6_untreeify_0 7 rfl rfl)
theorem dJ6_untreeify_9 : decode cJ6_untreeify 9 = .ok (.ifnull 41, 3) := dk_198 0 41 (dk_at dksJ6_untreeify_0 9 rfl rfl)
theorem dJ6_untreeify_12 : decode cJ6_untreeify 12 = .ok (.aload_n 1, 1) := dk_43 (dk_at dksJ6_untreeify_0 12 rfl rfl)
theorem dJ6_untreeify_13 : decode cJ6_untreeify 13 = .ok (.aload 4, 2) := dk_25 4 (dk_at dksJ6_untreeify_0 13 rfl rfl)
theorem dJ6_untreeify_15 : decode cJ6_untreeify 15 = .ok (.aconst_null, 1) := dk_1 (dk_at dksJ6_untreeify_0 15 rfl rfl)
theorem dJ6_untreeify_16 : decode cJ6_untreeify 16 = .ok (.invokevirtual 108, 3) := dk_182 0 108 (dk_at dksJ6_untreeify_0 16 rfl rfl)
theorem dJ6_untreeify_19 : decode cJ6_untreeify 19 = .ok (.astore 5, 2) := dk_58 5 (dk_at dksJ6_untreeify_0 19 rfl rfl)
theorem dJ6_untreeify_21 : decode cJ6_untreeify 21 = .ok (.aload_n 3, 1) := dk_45 (dk_at dksJ6_untreeify_0 21 rfl rfl)
theorem dJ6_untreeify_22 : decode cJ6_untreeify 22 = .ok (.ifnonnull 9, 3) := dk_199 0 9 (dk_at dksJ6_untreeify_1 0 rfl rfl)
theorem dJ6_untreeify_25 : decode cJ6_untreeify 25 = .ok (.aload 5, 2) := dk_25 5 (dk_at dksJ6_untreeify_1 3 rfl rfl)
theorem dJ6_untreeify_27 : decode cJ6_untreeify 27 = .ok (.astore_n 2, 1) := dk_77 (dk_at dksJ6_untreeify_1 5 rfl rfl)
theorem dJ6_untreeify_28 : decode cJ6_untreeify 28 = .ok (.goto 9, 3) := dk_167 0 9 (dk_at dksJ6_untreeify_1 6 rfl rfl)
theorem dJ6_untreeify_31 : decode cJ6_untreeify 31 = .ok (.aload_n 3, 1) := dk_45 (dk_at dksJ6_untreeify_1 9 rfl rfl)
theorem dJ6_untreeify_32 : decode cJ6_untreeify 32 = .ok (.aload 5, 2) := dk_25 5 (dk_at dksJ6_untreeify_1 10 rfl rfl)
theorem dJ6_untreeify_34 : decode cJ6_untreeify 34 = .ok (.putfield 112, 3) := dk_181 0 112 (dk_at dksJ6_untreeify_1 12 rfl rfl)
theorem dJ6_untreeify_37 : decode cJ6_untreeify 37 = .ok (.aload 5, 2) := dk_25 5 (dk_at dksJ6_untreeify_1 15 rfl rfl)
theorem dJ6_untreeify_39 : decode cJ6_untreeify 39 = .ok (.astore_n 3, 1) := dk_78 (dk_at dksJ6_untreeify_1 17 rfl rfl)
theorem dJ6_untreeify_40 : decode cJ6_untreeify 40 = .ok (.aload 4, 2) := dk_25 4 (dk_at dksJ6_untreeify_1 18 rfl rfl)
theorem dJ6_untreeify_42 : decode cJ6_untreeify 42 = .ok (.getfield 112, 3) := dk_180 0 112 (dk_at dksJ6_untreeify_1 20 rfl rfl)
theorem dJ6_untreeify_45 : decode cJ6_untreeify 45 = .ok (.astore 4, 2) := dk_58 4 (dk_at dksJ6_untreeify_2 0 rfl rfl)
theorem dJ6_untreeify_47 : decode cJ6_untreeify 47 = .ok (.goto (-40), 3) := dk_167 255 216 (dk_at dksJ6_untreeify_2 2 rfl rfl)
theorem dJ6_untreeify_50 : decode cJ6_untreeify 50 = .ok (.aload_n 2, 1) := dk_44 (dk_at dksJ6_untreeify_2 5 rfl rfl)
theorem dJ6_untreeify_51 : decode cJ6_untreeify 51 = .ok (.areturn, 1) := dk_176 (dk_at dksJ6_untreeify_2 6 rfl rfl)
abbrev cJ6_treeify : ByteArray := prog_36_method_7_code
def yJ6_treeify : MethodName := ⟨RJ6, "treeify", "([Ljava/util/HashMap$Node;)V"⟩
def dkwJ6_treeify_9 : List UInt8 := [25, 4, 78, 167, 255, 48, 43, 44, 184, 0, 104, 177]
abbrev dktJ6_treeify_9 : List UInt8 := dkwJ6_treeify_9 ++ []
def dkwJ6_treeify_8 : List UInt8 := [181, 0, 39, 167, 0, 9, 25, 12, 45, 181, 0, 42, 44, 45, 184, 0, 100, 77, 167, 0, 6, 167, 255, 114]
abbrev dktJ6_treeify_8 : List UInt8 := dkwJ6_treeify_8 ++ dktJ6_treeify_9
def dkwJ6_treeify_7 : List UInt8 := [180, 0, 42, 89, 58, 8, 199, 0, 38, 45, 25, 12, 181, 0, 9, 21, 9, 157, 0, 12, 25, 12, 45]
abbrev dktJ6_treeify_7 : List UInt8 := dkwJ6_treeify_7 ++ dktJ6_treeify_8
def dkwJ6_treeify_6 : List UInt8 := [184, 0, 96, 54, 9, 25, 8, 58, 12, 21, 9, 157, 0, 11, 25, 8, 180, 0, 39, 167, 0, 8, 25, 8]
abbrev dktJ6_treeify_6 : List UInt8 := dkwJ6_treeify_6 ++ dktJ6_treeify_7
def dkwJ6_treeify_5 : List UInt8 := [198, 0, 18, 25, 7, 25, 5, 25, 11, 184, 0, 59, 89, 54, 9, 154, 0, 12, 25, 5, 25, 11]
abbrev dktJ6_treeify_5 : List UInt8 := dkwJ6_treeify_5 ++ dktJ6_treeify_6
def dkwJ6_treeify_4 : List UInt8 := [162, 0, 9, 4, 54, 9, 167, 0, 43, 25, 7, 199, 0, 14, 25, 5, 184, 0, 55, 89, 58, 7]
abbrev dktJ6_treeify_4 : List UInt8 := dkwJ6_treeify_4 ++ dktJ6_treeify_5
def dkwJ6_treeify_3 : List UInt8 := [25, 8, 180, 0, 15, 89, 54, 10, 21, 6, 164, 0, 9, 2, 54, 9, 167, 0, 56, 21, 10, 21, 6]
abbrev dktJ6_treeify_3 : List UInt8 := dkwJ6_treeify_3 ++ dktJ6_treeify_4
def dkwJ6_treeify_2 : List UInt8 := [180, 0, 45, 58, 5, 45, 180, 0, 15, 54, 6, 1, 58, 7, 44, 58, 8, 25, 8, 180, 0, 45, 58, 11]
abbrev dktJ6_treeify_2 : List UInt8 := dkwJ6_treeify_2 ++ dktJ6_treeify_3
def dkwJ6_treeify_1 : List UInt8 := [181, 0, 39, 44, 199, 0, 18, 45, 1, 181, 0, 9, 45, 3, 181, 0, 93, 45, 77, 167, 0, 166, 45]
abbrev dktJ6_treeify_1 : List UInt8 := dkwJ6_treeify_1 ++ dktJ6_treeify_2
def dkwJ6_treeify_0 : List UInt8 := [1, 77, 42, 78, 45, 198, 0, 210, 45, 180, 0, 22, 192, 0, 10, 58, 4, 45, 45, 1, 90, 181, 0, 42]
abbrev dktJ6_treeify_0 : List UInt8 := dkwJ6_treeify_0 ++ dktJ6_treeify_1
theorem dksJ6_treeify_0 : cJ6_treeify.data.toList.drop 0 = dktJ6_treeify_0 := by decide +kernel
theorem dksJ6_treeify_1 : cJ6_treeify.data.toList.drop 24 = dktJ6_treeify_1 := dk_seg dksJ6_treeify_0 24 rfl rfl
theorem dksJ6_treeify_2 : cJ6_treeify.data.toList.drop 47 = dktJ6_treeify_2 := dk_seg dksJ6_treeify_1 23 rfl rfl
theorem dksJ6_treeify_3 : cJ6_treeify.data.toList.drop 71 = dktJ6_treeify_3 := dk_seg dksJ6_treeify_2 24 rfl rfl
theorem dksJ6_treeify_4 : cJ6_treeify.data.toList.drop 94 = dktJ6_treeify_4 := dk_seg dksJ6_treeify_3 23 rfl rfl
theorem dksJ6_treeify_5 : cJ6_treeify.data.toList.drop 116 = dktJ6_treeify_5 := dk_seg dksJ6_treeify_4 22 rfl rfl
theorem dksJ6_treeify_6 : cJ6_treeify.data.toList.drop 138 = dktJ6_treeify_6 := dk_seg dksJ6_treeify_5 22 rfl rfl
theorem dksJ6_treeify_7 : cJ6_treeify.data.toList.drop 162 = dktJ6_treeify_7 := dk_seg dksJ6_treeify_6 24 rfl rfl
theorem dksJ6_treeify_8 : cJ6_treeify.data.toList.drop 185 = dktJ6_treeify_8 := dk_seg dksJ6_treeify_7 23 rfl rfl
theorem dksJ6_treeify_9 : cJ6_treeify.data.toList.drop 209 = dktJ6_treeify_9 := dk_seg dksJ6_treeify_8 24 rfl rfl
theorem dJ6_treeify_0 : decode cJ6_treeify 0 = .ok (.aconst_null, 1) := dk_1 (dk_at dksJ6_treeify_0 0 rfl rfl)
theorem dJ6_treeify_1 : decode cJ6_treeify 1 = .ok (.astore_n 2, 1) := dk_77 (dk_at dksJ6_treeify_0 1 rfl rfl)
theorem dJ6_treeify_2 : decode cJ6_treeify 2 = .ok (.aload_n 0, 1) := dk_42 (dk_at dksJ6_treeify_0 2 rfl rfl)
theorem dJ6_treeify_3 : decode cJ6_treeify 3 = .ok (.astore_n 3, 1) := dk_78 (dk_at dksJ6_treeify_0 3 rfl rfl)
theorem dJ6_treeify_4 : decode cJ6_treeify 4 = .ok (.aload_n 3, 1) := dk_45 (dk_at dksJ6_treeify_0 4 rfl rfl)
theorem dJ6_treeify_5 : decode cJ6_treeify 5 = .ok (.ifnull 210, 3) := dk_198 0 210 (dk_at dksJ6_treeify_0 5 rfl rfl)
theorem dJ6_treeify_8 : decode cJ6_treeify 8 = .ok (.aload_n 3, 1) := dk_45 (dk_at dksJ6_treeify_0 8 rfl rfl)
theorem dJ6_treeify_9 : decode cJ6_treeify 9 = .ok (.getfield 22, 3) := dk_180 0 22 (dk_at dksJ6_treeify_0 9 rfl rfl)
theorem dJ6_treeify_12 : decode cJ6_treeify 12 = .ok (.checkcast 10, 3) := dk_192 0 10 (dk_at dksJ6_treeify_0 12 rfl rfl)
theorem dJ6_treeify_15 : decode cJ6_treeify 15 = .ok (.astore 4, 2) := dk_58 4 (dk_at dksJ6_treeify_0 15 rfl rfl)
theorem dJ6_treeify_17 : decode cJ6_treeify 17 = .ok (.aload_n 3, 1) := dk_45 (dk_at dksJ6_treeify_0 17 rfl rfl)
theorem dJ6_treeify_18 : decode cJ6_treeify 18 = .ok (.aload_n 3, 1) := dk_45 (dk_at dksJ6_treeify_0 18 rfl rfl)
theorem dJ6_treeify_19 : decode cJ6_treeify 19 = .ok (.aconst_null, 1) := dk_1 (dk_at dksJ6_treeify_0 19 rfl rfl)
theorem dJ6_treeify_20 : decode cJ6_treeify 20 = .ok (.dup_x1, 1) := dk_90 (dk_at dksJ6_treeify_0 20 rfl rfl)
theorem dJ6_treeify_21 : decode cJ6_treeify 21 = .ok (.putfield 42, 3) := dk_181 0 42 (dk_at dksJ6_treeify_0 21 rfl rfl)
theorem dJ6_treeify_24 : decode cJ6_treeify 24 = .ok (.putfield 39, 3) := dk_181 0 39 (dk_at dksJ6_treeify_1 0 rfl rfl)
theorem dJ6_treeify_27 : decode cJ6_treeify 27 = .ok (.aload_n 2, 1) := dk_44 (dk_at dksJ6_treeify_1 3 rfl rfl)
theorem dJ6_treeify_28 : decode cJ6_treeify 28 = .ok (.ifnonnull 18, 3) := dk_199 0 18 (dk_at dksJ6_treeify_1 4 rfl rfl)
theorem dJ6_treeify_31 : decode cJ6_treeify 31 = .ok (.aload_n 3, 1) := dk_45 (dk_at dksJ6_treeify_1 7 rfl rfl)
theorem dJ6_treeify_32 : decode cJ6_treeify 32 = .ok (.aconst_null, 1) := dk_1 (dk_at dksJ6_treeify_1 8 rfl rfl)
theorem dJ6_treeify_33 : decode cJ6_treeify 33 = .ok (.putfield 9, 3) := dk_181 0 9 (dk_at dksJ6_treeify_1 9 rfl rfl)
theorem dJ6_treeify_36 : decode cJ6_treeify 36 = .ok (.aload_n 3, 1) := dk_45 (dk_at dksJ6_treeify_1 12 rfl rfl)
theorem dJ6_treeify_37 : decode cJ6_treeify 37 = .ok (.iconst 0, 1) := dk_3 (dk_at dksJ6_treeify_1 13 rfl rfl)
theorem dJ6_treeify_38 : decode cJ6_treeify 38 = .ok (.putfield 93, 3) := dk_181 0 93 (dk_at dksJ6_treeify_1 14 rfl rfl)
theorem dJ6_treeify_41 : decode cJ6_treeify 41 = .ok (.aload_n 3, 1) := dk_45 (dk_at dksJ6_treeify_1 17 rfl rfl)
theorem dJ6_treeify_42 : decode cJ6_treeify 42 = .ok (.astore_n 2, 1) := dk_77 (dk_at dksJ6_treeify_1 18 rfl rfl)
theorem dJ6_treeify_43 : decode cJ6_treeify 43 = .ok (.goto 166, 3) := dk_167 0 166 (dk_at dksJ6_treeify_1 19 rfl rfl)
theorem dJ6_treeify_46 : decode cJ6_treeify 46 = .ok (.aload_n 3, 1) := dk_45 (dk_at dksJ6_treeify_1 22 rfl rfl)
theorem dJ6_treeify_47 : decode cJ6_treeify 47 = .ok (.getfield 45, 3) := dk_180 0 45 (dk_at dksJ6_treeify_2 0 rfl rfl)
theorem dJ6_treeify_50 : decode cJ6_treeify 50 = .ok (.astore 5, 2) := dk_58 5 (dk_at dksJ6_treeify_2 3 rfl rfl)
theorem dJ6_treeify_52 : decode cJ6_treeify 52 = .ok (.aload_n 3, 1) := dk_45 (dk_at dksJ6_treeify_2 5 rfl rfl)
theorem dJ6_treeify_53 : decode cJ6_treeify 53 = .ok (.getfield 15, 3) := dk_180 0 15 (dk_at dksJ6_treeify_2 6 rfl rfl)
theorem dJ6_treeify_56 : decode cJ6_treeify 56 = .ok (.istore 6, 2) := dk_54 6 (dk_at dksJ6_treeify_2 9 rfl rfl)
theorem dJ6_treeify_58 : decode cJ6_treeify 58 = .ok (.aconst_null, 1) := dk_1 (dk_at dksJ6_treeify_2 11 rfl rfl)
theorem dJ6_treeify_59 : decode cJ6_treeify 59 = .ok (.astore 7, 2) := dk_58 7 (dk_at dksJ6_treeify_2 12 rfl rfl)
theorem dJ6_treeify_61 : decode cJ6_treeify 61 = .ok (.aload_n 2, 1) := dk_44 (dk_at dksJ6_treeify_2 14 rfl rfl)
theorem dJ6_treeify_62 : decode cJ6_treeify 62 = .ok (.astore 8, 2) := dk_58 8 (dk_at dksJ6_treeify_2 15 rfl rfl)
theorem dJ6_treeify_64 : decode cJ6_treeify 64 = .ok (.aload 8, 2) := dk_25 8 (dk_at dksJ6_treeify_2 17 rfl rfl)
theorem dJ6_treeify_66 : decode cJ6_treeify 66 = .ok (.getfield 45, 3) := dk_180 0 45 (dk_at dksJ6_treeify_2 19 rfl rfl)
theorem dJ6_treeify_69 : decode cJ6_treeify 69 = .ok (.astore 11, 2) := dk_58 11 (dk_at dksJ6_treeify_2 22 rfl rfl)
theorem dJ6_treeify_71 : decode cJ6_treeify 71 = .ok (.aload 8, 2) := dk_25 8 (dk_at dksJ6_treeify_3 0 rfl rfl)
theorem dJ6_treeify_73 : decode cJ6_treeify 73 = .ok (.getfield 15, 3) := dk_180 0 15 (dk_at dksJ6_treeify_3 2 rfl rfl)
theorem dJ6_treeify_76 : decode cJ6_treeify 76 = .ok (.dup, 1) := dk_89 (dk_at dksJ6_treeify_3 5 rfl rfl)
theorem dJ6_treeify_77 : decode cJ6_treeify 77 = .ok (.istore 10, 2) := dk_54 10 (dk_at dksJ6_treeify_3 6 rfl rfl)
theorem dJ6_treeify_79 : decode cJ6_treeify 79 = .ok (.iload 6, 2) := dk_21 6 (dk_at dksJ6_treeify_3 8 rfl rfl)
theorem dJ6_treeify_81 : decode cJ6_treeify 81 = .ok (.if_icmp .le 9, 3) := dk_164 0 9 (dk_at dksJ6_treeify_3 10 rfl rfl)
theorem dJ6_treeify_84 : decode cJ6_treeify 84 = .ok (.iconst (-1), 1) := dk_2 (dk_at dksJ6_treeify_3 13 rfl rfl)
theorem dJ6_treeify_85 : decode cJ6_treeify 85 = .ok (.istore 9, 2) := dk_54 9 (dk_at dksJ6_treeify_3 14 rfl rfl)
theorem dJ6_treeify_87 : decode cJ6_treeify 87 = .ok (.goto 56, 3) := dk_167 0 56 (dk_at dksJ6_treeify_3 16 rfl rfl)
theorem dJ6_treeify_90 : decode cJ6_treeify 90 = .ok (.iload 10, 2) := dk_21 10 (dk_at dksJ6_treeify_3 19 rfl rfl)
theorem dJ6_treeify_92 : decode cJ6_treeify 92 = .ok (.iload 6, 2) := dk_21 6 (dk_at dksJ6_treeify_3 21 rfl rfl)
theorem dJ6_treeify_94 : decode cJ6_treeify 94 = .ok (.if_icmp .ge 9, 3) := dk_162 0 9 (dk_at dksJ6_treeify_4 0 rfl rfl)
theorem dJ6_treeify_97 : decode cJ6_treeify 97 = .ok (.iconst 1, 1) := dk_4 (dk_at dksJ6_treeify_4 3 rfl rfl)
theorem dJ6_treeify_98 : decode cJ6_treeify 98 = .ok (.istore 9, 2) := dk_54 9 (dk_at dksJ6_treeify_4 4 rfl rfl)
theorem dJ6_treeify_100 : decode cJ6_treeify 100 = .ok (.goto 43, 3) := dk_167 0 43 (dk_at dksJ6_treeify_4 6 rfl rfl)
theorem dJ6_treeify_103 : decode cJ6_treeify 103 = .ok (.aload 7, 2) := dk_25 7 (dk_at dksJ6_treeify_4 9 rfl rfl)
theorem dJ6_treeify_105 : decode cJ6_treeify 105 = .ok (.ifnonnull 14, 3) := dk_199 0 14 (dk_at dksJ6_treeify_4 11 rfl rfl)
theorem dJ6_treeify_108 : decode cJ6_treeify 108 = .ok (.aload 5, 2) := dk_25 5 (dk_at dksJ6_treeify_4 14 rfl rfl)
theorem dJ6_treeify_110 : decode cJ6_treeify 110 = .ok (.invokestatic 55, 3) := dk_184 0 55 (dk_at dksJ6_treeify_4 16 rfl rfl)
theorem dJ6_treeify_113 : decode cJ6_treeify 113 = .ok (.dup, 1) := dk_89 (dk_at dksJ6_treeify_4 19 rfl rfl)
theorem dJ6_treeify_114 : decode cJ6_treeify 114 = .ok (.astore 7, 2) := dk_58 7 (dk_at dksJ6_treeify_4 20 rfl rfl)
theorem dJ6_treeify_116 : decode cJ6_treeify 116 = .ok (.ifnull 18, 3) := dk_198 0 18 (dk_at dksJ6_treeify_5 0 rfl rfl)
theorem dJ6_treeify_119 : decode cJ6_treeify 119 = .ok (.aload 7, 2) := dk_25 7 (dk_at dksJ6_treeify_5 3 rfl rfl)
theorem dJ6_treeify_121 : decode cJ6_treeify 121 = .ok (.aload 5, 2) := dk_25 5 (dk_at dksJ6_treeify_5 5 rfl rfl)
theorem dJ6_treeify_123 : decode cJ6_treeify 123 = .ok (.aload 11, 2) := dk_25 11 (dk_at dksJ6_treeify_5 7 rfl rfl)
theorem dJ6_treeify_125 : decode cJ6_treeify 125 = .ok (.invokestatic 59, 3) := dk_184 0 59 (dk_at dksJ6_treeify_5 9 rfl rfl)
theorem dJ6_treeify_128 : decode cJ6_treeify 128 = .ok (.dup, 1) := dk_89 (dk_at dksJ6_treeify_5 12 rfl rfl)
theorem dJ6_treeify_129 : decode cJ6_treeify 129 = .ok (.istore 9, 2) := dk_54 9 (dk_at dksJ6_treeify_5 13 rfl rfl)
theorem dJ6_treeify_131 : decode cJ6_treeify 131 = .ok (.ifCond .ne 12, 3) := dk_154 0 12 (dk_at dksJ6_treeify_5 15 rfl rfl)
theorem dJ6_treeify_134 : decode cJ6_treeify 134 = .ok (.aload 5, 2) := dk_25 5 (dk_at dksJ6_treeify_5 18 rfl rfl)
theorem dJ6_treeify_136 : decode cJ6_treeify 136 = .ok (.aload 11, 2) := dk_25 11 (dk_at dksJ6_treeify_5 20 rfl rfl)
theorem dJ6_treeify_138 : decode cJ6_treeify 138 = .ok (.invokestatic 96, 3) := dk_184 0 96 (dk_at dksJ6_treeify_6 0 rfl rfl)
theorem dJ6_treeify_141 : decode cJ6_treeify 141 = .ok (.istore 9, 2) := dk_54 9 (dk_at dksJ6_treeify_6 3 rfl rfl)
theorem dJ6_treeify_143 : decode cJ6_treeify 143 = .ok (.aload 8, 2) := dk_25 8 (dk_at dksJ6_treeify_6 5 rfl rfl)
theorem dJ6_treeify_145 : decode cJ6_treeify 145 = .ok (.astore 12, 2) := dk_58 12 (dk_at dksJ6_treeify_6 7 rfl rfl)
theorem dJ6_treeify_147 : decode cJ6_treeify 147 = .ok (.iload 9, 2) := dk_21 9 (dk_at dksJ6_treeify_6 9 rfl rfl)
theorem dJ6_treeify_149 : decode cJ6_treeify 149 = .ok (.ifCond .gt 11, 3) := dk_157 0 11 (dk_at dksJ6_treeify_6 11 rfl rfl)
theorem dJ6_treeify_152 : decode cJ6_treeify 152 = .ok (.aload 8, 2) := dk_25 8 (dk_at dksJ6_treeify_6 14 rfl rfl)
theorem dJ6_treeify_154 : decode cJ6_treeify 154 = .ok (.getfield 39, 3) := dk_180 0 39 (dk_at dksJ6_treeify_6 16 rfl rfl)
theorem dJ6_treeify_157 : decode cJ6_treeify 157 = .ok (.goto 8, 3) := dk_167 0 8 (dk_at dksJ6_treeify_6 19 rfl rfl)
theorem dJ6_treeify_160 : decode cJ6_treeify 160 = .ok (.aload 8, 2) := dk_25 8 (dk_at dksJ6_treeify_6 22 rfl rfl)
theorem dJ6_treeify_162 : decode cJ6_treeify 162 = .ok (.getfield 42, 3) := dk_180 0 42 (dk_at dksJ6_treeify_7 0 rfl rfl)
theorem dJ6_treeify_165 : decode cJ6_treeify 165 = .ok (.dup, 1) := dk_89 (dk_at dksJ6_treeify_7 3 rfl rfl)
theorem dJ6_treeify_166 : decode cJ6_treeify 166 = .ok (.astore 8, 2) := dk_58 8 (dk_at dksJ6_treeify_7 4 rfl rfl)
theorem dJ6_treeify_168 : decode cJ6_treeify 168 = .ok (.ifnonnull 38, 3) := dk_199 0 38 (dk_at dksJ6_treeify_7 6 rfl rfl)
theorem dJ6_treeify_171 : decode cJ6_treeify 171 = .ok (.aload_n 3, 1) := dk_45 (dk_at dksJ6_treeify_7 9 rfl rfl)
theorem dJ6_treeify_172 : decode cJ6_treeify 172 = .ok (.aload 12, 2) := dk_25 12 (dk_at dksJ6_treeify_7 10 rfl rfl)
theorem dJ6_treeify_174 : decode cJ6_treeify 174 = .ok (.putfield 9, 3) := dk_181 0 9 (dk_at dksJ6_treeify_7 12 rfl rfl)
theorem dJ6_treeify_177 : decode cJ6_treeify 177 = .ok (.iload 9, 2) := dk_21 9 (dk_at dksJ6_treeify_7 15 rfl rfl)
theorem dJ6_treeify_179 : decode cJ6_treeify 179 = .ok (.ifCond .gt 12, 3) := dk_157 0 12 (dk_at dksJ6_treeify_7 17 rfl rfl)
theorem dJ6_treeify_182 : decode cJ6_treeify 182 = .ok (.aload 12, 2) := dk_25 12 (dk_at dksJ6_treeify_7 20 rfl rfl)
theorem dJ6_treeify_184 : decode cJ6_treeify 184 = .ok (.aload_n 3, 1) := dk_45 (dk_at dksJ6_treeify_7 22 rfl rfl)
theorem dJ6_treeify_185 : decode cJ6_treeify 185 = .ok (.putfield 39, 3) := dk_181 0 39 (dk_at dksJ6_treeify_8 0 rfl rfl)
theorem dJ6_treeify_188 : decode cJ6_treeify 188 = .ok (.goto 9, 3) := dk_167 0 9 (dk_at dksJ6_treeify_8 3 rfl rfl)
theorem dJ6_treeify_191 : decode cJ6_treeify 191 = .ok (.aload 12, 2) := dk_25 12 (dk_at dksJ6_treeify_8 6 rfl rfl)
theorem dJ6_treeify_193 : decode cJ6_treeify 193 = .ok (.aload_n 3, 1) := dk_45 (dk_at dksJ6_treeify_8 8 rfl rfl)
theorem dJ6_treeify_194 : decode cJ6_treeify 194 = .ok (.putfield 42, 3) := dk_181 0 42 (dk_at dksJ6_treeify_8 9 rfl rfl)
theorem dJ6_treeify_197 : decode cJ6_treeify 197 = .ok (.aload_n 2, 1) := dk_44 (dk_at dksJ6_treeify_8 12 rfl rfl)
theorem dJ6_treeify_198 : decode cJ6_treeify 198 = .ok (.aload_n 3, 1) := dk_45 (dk_at dksJ6_treeify_8 13 rfl rfl)
theorem dJ6_treeify_199 : decode cJ6_treeify 199 = .ok (.invokestatic 100, 3) := dk_184 0 100 (dk_at dksJ6_treeify_8 14 rfl rfl)
theorem dJ6_treeify_202 : decode cJ6_treeify 202 = .ok (.astore_n 2, 1) := dk_77 (dk_at dksJ6_treeify_8 17 rfl rfl)
theorem dJ6_treeify_203 : decode cJ6_treeify 203 = .ok (.goto 6, 3) := dk_167 0 6 (dk_at dksJ6_treeify_8 18 rfl rfl)
theorem dJ6_treeify_206 : decode cJ6_treeify 206 = .ok (.goto (-142), 3) := dk_167 255 114 (dk_at dksJ6_treeify_8 21 rfl rfl)
theorem dJ6_treeify_209 : decode cJ6_treeify 209 = .ok (.aload 4, 2) := dk_25 4 (dk_at dksJ6_treeify_9 0 rfl rfl)
theorem dJ6_treeify_211 : decode cJ6_treeify 211 = .ok (.astore_n 3, 1) := dk_78 (dk_at dksJ6_treeify_9 2 rfl rfl)
theorem dJ6_treeify_212 : decode cJ6_treeify 212 = .ok (.goto (-208), 3) := dk_167 255 48 (dk_at dksJ6_treeify_9 3 rfl rfl)
theorem dJ6_treeify_215 : decode cJ6_treeify 215 = .ok (.aload_n 1, 1) := dk_43 (dk_at dksJ6_treeify_9 6 rfl rfl)
theorem dJ6_treeify_216 : decode cJ6_treeify 216 = .ok (.aload_n 2, 1) := dk_44 (dk_at dksJ6_treeify_9 7 rfl rfl)
theorem dJ6_treeify_217 : decode cJ6_treeify 217 = .ok (.invokestatic 104, 3) := dk_184 0 104 (dk_at dksJ6_treeify_9 8 rfl rfl)
theorem dJ6_treeify_220 : decode cJ6_treeify 220 = .ok (.return_, 1) := dk_177 (dk_at dksJ6_treeify_9 11 rfl rfl)
abbrev cJ6_balanceInsertion : ByteArray := prog_36_method_14_code
def yJ6_balanceInsertion : MethodName := ⟨RJ6, "balanceInsertion", "(Ljava/util/HashMap$TreeNode;Ljava/util/HashMap$TreeNode;)Ljava/util/HashMap$TreeNode;"⟩
def dkwJ6_balanceInsertion_10 : List UInt8 := [198, 255, 33, 45, 4, 181, 0, 93, 42, 45, 184, 0, 130, 75, 167, 255, 19]
abbrev dktJ6_balanceInsertion_10 : List UInt8 := dkwJ6_balanceInsertion_10 ++ []
def dkwJ6_balanceInsertion_9 : List UInt8 := [199, 0, 7, 1, 167, 0, 7, 44, 180, 0, 9, 78, 44, 198, 255, 42, 44, 3, 181, 0, 93, 45]
abbrev dktJ6_balanceInsertion_9 : List UInt8 := dkwJ6_balanceInsertion_9 ++ dktJ6_balanceInsertion_10
def dkwJ6_balanceInsertion_8 : List UInt8 := [43, 44, 180, 0, 39, 166, 0, 29, 42, 44, 89, 76, 184, 0, 133, 75, 43, 180, 0, 9, 89, 77]
abbrev dktJ6_balanceInsertion_8 : List UInt8 := dkwJ6_balanceInsertion_8 ++ dktJ6_balanceInsertion_9
def dkwJ6_balanceInsertion_7 : List UInt8 := [153, 0, 24, 25, 4, 3, 181, 0, 93, 44, 3, 181, 0, 93, 45, 4, 181, 0, 93, 45, 76, 167, 255, 80]
abbrev dktJ6_balanceInsertion_7 : List UInt8 := dkwJ6_balanceInsertion_7 ++ dktJ6_balanceInsertion_8
def dkwJ6_balanceInsertion_6 : List UInt8 := [181, 0, 93, 42, 45, 184, 0, 133, 75, 167, 255, 114, 25, 4, 198, 0, 32, 25, 4, 180, 0, 93]
abbrev dktJ6_balanceInsertion_6 : List UInt8 := dkwJ6_balanceInsertion_6 ++ dktJ6_balanceInsertion_7
def dkwJ6_balanceInsertion_5 : List UInt8 := [167, 0, 7, 44, 180, 0, 9, 78, 44, 198, 255, 137, 44, 3, 181, 0, 93, 45, 198, 255, 128, 45, 4]
abbrev dktJ6_balanceInsertion_5 : List UInt8 := dkwJ6_balanceInsertion_5 ++ dktJ6_balanceInsertion_6
def dkwJ6_balanceInsertion_4 : List UInt8 := [180, 0, 42, 166, 0, 29, 42, 44, 89, 76, 184, 0, 130, 75, 43, 180, 0, 9, 89, 77, 199, 0, 7, 1]
abbrev dktJ6_balanceInsertion_4 : List UInt8 := dkwJ6_balanceInsertion_4 ++ dktJ6_balanceInsertion_5
def dkwJ6_balanceInsertion_3 : List UInt8 := [25, 5, 3, 181, 0, 93, 44, 3, 181, 0, 93, 45, 4, 181, 0, 93, 45, 76, 167, 255, 175, 43, 44]
abbrev dktJ6_balanceInsertion_3 : List UInt8 := dkwJ6_balanceInsertion_3 ++ dktJ6_balanceInsertion_4
def dkwJ6_balanceInsertion_2 : List UInt8 := [58, 4, 166, 0, 103, 45, 180, 0, 42, 89, 58, 5, 198, 0, 32, 25, 5, 180, 0, 93, 153, 0, 24]
abbrev dktJ6_balanceInsertion_2 : List UInt8 := dkwJ6_balanceInsertion_2 ++ dktJ6_balanceInsertion_3
def dkwJ6_balanceInsertion_1 : List UInt8 := [180, 0, 93, 153, 0, 12, 44, 180, 0, 9, 89, 78, 199, 0, 5, 42, 176, 44, 45, 180, 0, 39, 89]
abbrev dktJ6_balanceInsertion_1 : List UInt8 := dkwJ6_balanceInsertion_1 ++ dktJ6_balanceInsertion_2
def dkwJ6_balanceInsertion_0 : List UInt8 := [43, 4, 181, 0, 93, 43, 180, 0, 9, 89, 77, 199, 0, 10, 43, 3, 181, 0, 93, 43, 176, 44]
abbrev dktJ6_balanceInsertion_0 : List UInt8 := dkwJ6_balanceInsertion_0 ++ dktJ6_balanceInsertion_1
theorem dksJ6_balanceInsertion_0 : cJ6_balanceInsertion.data.toList.drop 0 = dktJ6_balanceInsertion_0 := by decide +kernel
theorem dksJ6_balanceInsertion_1 : cJ6_balanceInsertion.data.toList.drop 22 = dktJ6_balanceInsertion_1 := dk_seg dksJ6_balanceInsertion_0 22 rfl rfl
theorem dksJ6_balanceInsertion_2 : cJ6_balanceInsertion.data.toList.drop 45 = dktJ6_balanceInsertion_2 := dk_seg dksJ6_balanceInsertion_1 23 rfl rfl
theorem dksJ6_balanceInsertion_3 : cJ6_balanceInsertion.data.toList.drop 68 = dktJ6_balanceInsertion_3 := dk_seg dksJ6_balanceInsertion_2 23 rfl rfl
theorem dksJ6_balanceInsertion_4 : cJ6_balanceInsertion.data.toList.drop 91 = dktJ6_balanceInsertion_4 := dk_seg dksJ6_balanceInsertion_3 23 rfl rfl
theorem dksJ6_balanceInsertion_5 : cJ6_balanceInsertion.data.toList.drop 115 = dktJ6_balanceInsertion_5 := dk_seg dksJ6_balanceInsertion_4 24 rfl rfl
theorem dksJ6_balanceInsertion_6 : cJ6_balanceInsertion.data.toList.drop 138 = dktJ6_balanceInsertion_6 := dk_seg dksJ6_balanceInsertion_5 23 rfl rfl
theorem dksJ6_balanceInsertion_7 : cJ6_balanceInsertion.data.toList.drop 160 = dktJ6_balanceInsertion_7 := dk_seg dksJ6_balanceInsertion_6 22 rfl rfl
theorem dksJ6_balanceInsertion_8 : cJ6_balanceInsertion.data.toList.drop 184 = dktJ6_balanceInsertion_8 := dk_seg dksJ6_balanceInsertion_7 24 rfl rfl
theorem dksJ6_balanceInsertion_9 : cJ6_balanceInsertion.data.toList.drop 206 = dktJ6_balanceInsertion_9 := dk_seg dksJ6_balanceInsertion_8 22 rfl rfl
theorem dksJ6_balanceInsertion_10 : cJ6_balanceInsertion.data.toList.drop 228 = dktJ6_balanceInsertion_10 := dk_seg dksJ6_balanceInsertion_9 22 rfl rfl
theorem dJ6_balanceInsertion_0 : decode cJ6_balanceInsertion 0 = .ok (.aload_n 1, 1) := dk_43 (dk_at dksJ6_balanceInsertion_0 0 rfl rfl)
theorem dJ6_balanceInsertion_1 : decode cJ6_balanceInsertion 1 = .ok (.iconst 1, 1) := dk_4 (dk_at dksJ6_balanceInsertion_0 1 rfl rfl)
theorem dJ6_balanceInsertion_2 : decode cJ6_balanceInsertion 2 = .ok (.putfield 93, 3) := dk_181 0 93 (dk_at dksJ6_balanceInsertion_0 2 rfl rfl)
theorem dJ6_balanceInsertion_5 : decode cJ6_balanceInsertion 5 = .ok (.aload_n 1, 1) := dk_43 (dk_at dksJ6_balanceInsertion_0 5 rfl rfl)
theorem dJ6_balanceInsertion_6 : decode cJ6_balanceInsertion 6 = .ok (.getfield 9, 3) := dk_180 0 9 (dk_at dksJ6_balanceInsertion_0 6 rfl rfl)
theorem dJ6_balanceInsertion_9 : decode cJ6_balanceInsertion 9 = .ok (.dup, 1) := dk_89 (dk_at dksJ6_balanceInsertion_0 9 rfl rfl)
theorem dJ6_balanceInsertion_10 : decode cJ6_balanceInsertion 10 = .ok (.astore_n 2, 1) := dk_77 (dk_at dksJ6_balanceInsertion_0 10 rfl rfl)
theorem dJ6_balanceInsertion_11 : decode cJ6_balanceInsertion 11 = .ok (.ifnonnull 10, 3) := dk_199 0 10 (dk_at dksJ6_balanceInsertion_0 11 rfl rfl)
theorem dJ6_balanceInsertion_14 : decode cJ6_balanceInsertion 14 = .ok (.aload_n 1, 1) := dk_43 (dk_at dksJ6_balanceInsertion_0 14 rfl rfl)
theorem dJ6_balanceInsertion_15 : decode cJ6_balanceInsertion 15 = .ok (.iconst 0, 1) := dk_3 (dk_at dksJ6_balanceInsertion_0 15 rfl rfl)
theorem dJ6_balanceInsertion_16 : decode cJ6_balanceInsertion 16 = .ok (.putfield 93, 3) := dk_181 0 93 (dk_at dksJ6_balanceInsertion_0 16 rfl rfl)
theorem dJ6_balanceInsertion_19 : decode cJ6_balanceInsertion 19 = .ok (.aload_n 1, 1) := dk_43 (dk_at dksJ6_balanceInsertion_0 19 rfl rfl)
theorem dJ6_balanceInsertion_20 : decode cJ6_balanceInsertion 20 = .ok (.areturn, 1) := dk_176 (dk_at dksJ6_balanceInsertion_0 20 rfl rfl)
theorem dJ6_balanceInsertion_21 : decode cJ6_balanceInsertion 21 = .ok (.aload_n 2, 1) := dk_44 (dk_at dksJ6_balanceInsertion_0 21 rfl rfl)
theorem dJ6_balanceInsertion_22 : decode cJ6_balanceInsertion 22 = .ok (.getfield 93, 3) := dk_180 0 93 (dk_at dksJ6_balanceInsertion_1 0 rfl rfl)
theorem dJ6_balanceInsertion_25 : decode cJ6_balanceInsertion 25 = .ok (.ifCond .eq 12, 3) := dk_153 0 12 (dk_at dksJ6_balanceInsertion_1 3 rfl rfl)
theorem dJ6_balanceInsertion_28 : decode cJ6_balanceInsertion 28 = .ok (.aload_n 2, 1) := dk_44 (dk_at dksJ6_balanceInsertion_1 6 rfl rfl)
theorem dJ6_balanceInsertion_29 : decode cJ6_balanceInsertion 29 = .ok (.getfield 9, 3) := dk_180 0 9 (dk_at dksJ6_balanceInsertion_1 7 rfl rfl)
theorem dJ6_balanceInsertion_32 : decode cJ6_balanceInsertion 32 = .ok (.dup, 1) := dk_89 (dk_at dksJ6_balanceInsertion_1 10 rfl rfl)
theorem dJ6_balanceInsertion_33 : decode cJ6_balanceInsertion 33 = .ok (.astore_n 3, 1) := dk_78 (dk_at dksJ6_balanceInsertion_1 11 rfl rfl)
theorem dJ6_balanceInsertion_34 : decode cJ6_balanceInsertion 34 = .ok (.ifnonnull 5, 3) := dk_199 0 5 (dk_at dksJ6_balanceInsertion_1 12 rfl rfl)
theorem dJ6_balanceInsertion_37 : decode cJ6_balanceInsertion 37 = .ok (.aload_n 0, 1) := dk_42 (dk_at dksJ6_balanceInsertion_1 15 rfl rfl)
theorem dJ6_balanceInsertion_38 : decode cJ6_balanceInsertion 38 = .ok (.areturn, 1) := dk_176 (dk_at dksJ6_balanceInsertion_1 16 rfl rfl)
theorem dJ6_balanceInsertion_39 : decode cJ6_balanceInsertion 39 = .ok (.aload_n 2, 1) := dk_44 (dk_at dksJ6_balanceInsertion_1 17 rfl rfl)
theorem dJ6_balanceInsertion_40 : decode cJ6_balanceInsertion 40 = .ok (.aload_n 3, 1) := dk_45 (dk_at dksJ6_balanceInsertion_1 18 rfl rfl)
theorem dJ6_balanceInsertion_41 : decode cJ6_balanceInsertion 41 = .ok (.getfield 39, 3) := dk_180 0 39 (dk_at dksJ6_balanceInsertion_1 19 rfl rfl)
theorem dJ6_balanceInsertion_44 : decode cJ6_balanceInsertion 44 = .ok (.dup, 1) := dk_89 (dk_at dksJ6_balanceInsertion_1 22 rfl rfl)
theorem dJ6_balanceInsertion_45 : decode cJ6_balanceInsertion 45 = .ok (.astore 4, 2) := dk_58 4 (dk_at dksJ6_balanceInsertion_2 0 rfl rfl)
theorem dJ6_balanceInsertion_47 : decode cJ6_balanceInsertion 47 = .ok (.if_acmp .ne 103, 3) := dk_166 0 103 (dk_at dksJ6_balanceInsertion_2 2 rfl rfl)
theorem dJ6_balanceInsertion_50 : decode cJ6_balanceInsertion 50 = .ok (.aload_n 3, 1) := dk_45 (dk_at dksJ6_balanceInsertion_2 5 rfl rfl)
theorem dJ6_balanceInsertion_51 : decode cJ6_balanceInsertion 51 = .ok (.getfield 42, 3) := dk_180 0 42 (dk_at dksJ6_balanceInsertion_2 6 rfl rfl)
theorem dJ6_balanceInsertion_54 : decode cJ6_balanceInsertion 54 = .ok (.dup, 1) := dk_89 (dk_at dksJ6_balanceInsertion_2 9 rfl rfl)
theorem dJ6_balanceInsertion_55 : decode cJ6_balanceInsertion 55 = .ok (.astore 5, 2) := dk_58 5 (dk_at dksJ6_balanceInsertion_2 10 rfl rfl)
theorem dJ6_balanceInsertion_57 : decode cJ6_balanceInsertion 57 = .ok (.ifnull 32, 3) := dk_198 0 32 (dk_at dksJ6_balanceInsertion_2 12 rfl rfl)
theorem dJ6_balanceInsertion_60 : decode cJ6_balanceInsertion 60 = .ok (.aload 5, 2) := dk_25 5 (dk_at dksJ6_balanceInsertion_2 15 rfl rfl)
theorem dJ6_balanceInsertion_62 : decode cJ6_balanceInsertion 62 = .ok (.getfield 93, 3) := dk_180 0 93 (dk_at dksJ6_balanceInsertion_2 17 rfl rfl)
theorem dJ6_balanceInsertion_65 : decode cJ6_balanceInsertion 65 = .ok (.ifCond .eq 24, 3) := dk_153 0 24 (dk_at dksJ6_balanceInsertion_2 20 rfl rfl)
theorem dJ6_balanceInsertion_68 : decode cJ6_balanceInsertion 68 = .ok (.aload 5, 2) := dk_25 5 (dk_at dksJ6_balanceInsertion_3 0 rfl rfl)
theorem dJ6_balanceInsertion_70 : decode cJ6_balanceInsertion 70 = .ok (.iconst 0, 1) := dk_3 (dk_at dksJ6_balanceInsertion_3 2 rfl rfl)
theorem dJ6_balanceInsertion_71 : decode cJ6_balanceInsertion 71 = .ok (.putfield 93, 3) := dk_181 0 93 (dk_at dksJ6_balanceInsertion_3 3 rfl rfl)
theorem dJ6_balanceInsertion_74 : decode cJ6_balanceInsertion 74 = .ok (.aload_n 2, 1) := dk_44 (dk_at dksJ6_balanceInsertion_3 6 rfl rfl)
theorem dJ6_balanceInsertion_75 : decode cJ6_balanceInsertion 75 = .ok (.iconst 0, 1) := dk_3 (dk_at dksJ6_balanceInsertion_3 7 rfl rfl)
theorem dJ6_balanceInsertion_76 : decode cJ6_balanceInsertion 76 = .ok (.putfield 93, 3) := dk_181 0 93 (dk_at dksJ6_balanceInsertion_3 8 rfl rfl)
theorem dJ6_balanceInsertion_79 : decode cJ6_balanceInsertion 79 = .ok (.aload_n 3, 1) := dk_45 (dk_at dksJ6_balanceInsertion_3 11 rfl rfl)
theorem dJ6_balanceInsertion_80 : decode cJ6_balanceInsertion 80 = .ok (.iconst 1, 1) := dk_4 (dk_at dksJ6_balanceInsertion_3 12 rfl rfl)
theorem dJ6_balanceInsertion_81 : decode cJ6_balanceInsertion 81 = .ok (.putfield 93, 3) := dk_181 0 93 (dk_at dksJ6_balanceInsertion_3 13 rfl rfl)
theorem dJ6_balanceInsertion_84 : decode cJ6_balanceInsertion 84 = .ok (.aload_n 3, 1) := dk_45 (dk_at dksJ6_balanceInsertion_3 16 rfl rfl)
theorem dJ6_balanceInsertion_85 : decode cJ6_balanceInsertion 85 = .ok (.astore_n 1, 1) := dk_76 (dk_at dksJ6_balanceInsertion_3 17 rfl rfl)
theorem dJ6_balanceInsertion_86 : decode cJ6_balanceInsertion 86 = .ok (.goto (-81), 3) := dk_167 255 175 (dk_at dksJ6_balanceInsertion_3 18 rfl rfl)
theorem dJ6_balanceInsertion_89 : decode cJ6_balanceInsertion 89 = .ok (.aload_n 1, 1) := dk_43 (dk_at dksJ6_balanceInsertion_3 21 rfl rfl)
theorem dJ6_balanceInsertion_90 : decode cJ6_balanceInsertion 90 = .ok (.aload_n 2, 1) := dk_44 (dk_at dksJ6_balanceInsertion_3 22 rfl rfl)
theorem dJ6_balanceInsertion_91 : decode cJ6_balanceInsertion 91 = .ok (.getfield 42, 3) := dk_180 0 42 (dk_at dksJ6_balanceInsertion_4 0 rfl rfl)
theorem dJ6_balanceInsertion_94 : decode cJ6_balanceInsertion 94 = .ok (.if_acmp .ne 29, 3) := dk_166 0 29 (dk_at dksJ6_balanceInsertion_4 3 rfl rfl)
theorem dJ6_balanceInsertion_97 : decode cJ6_balanceInsertion 97 = .ok (.aload_n 0, 1) := dk_42 (dk_at dksJ6_balanceInsertion_4 6 rfl rfl)
theorem dJ6_balanceInsertion_98 : decode cJ6_balanceInsertion 98 = .ok (.aload_n 2, 1) := dk_44 (dk_at dksJ6_balanceInsertion_4 7 rfl rfl)
theorem dJ6_balanceInsertion_99 : decode cJ6_balanceInsertion 99 = .ok (.dup, 1) := dk_89 (dk_at dksJ6_balanceInsertion_4 8 rfl rfl)
theorem dJ6_balanceInsertion_100 : decode cJ6_balanceInsertion 100 = .ok (.astore_n 1, 1) := dk_76 (dk_at dksJ6_balanceInsertion_4 9 rfl rfl)
theorem dJ6_balanceInsertion_101 : decode cJ6_balanceInsertion 101 = .ok (.invokestatic 130, 3) := dk_184 0 130 (dk_at dksJ6_balanceInsertion_4 10 rfl rfl)
theorem dJ6_balanceInsertion_104 : decode cJ6_balanceInsertion 104 = .ok (.astore_n 0, 1) := dk_75 (dk_at dksJ6_balanceInsertion_4 13 rfl rfl)
theorem dJ6_balanceInsertion_105 : decode cJ6_balanceInsertion 105 = .ok (.aload_n 1, 1) := dk_43 (dk_at dksJ6_balanceInsertion_4 14 rfl rfl)
theorem dJ6_balanceInsertion_106 : decode cJ6_balanceInsertion 106 = .ok (.getfield 9, 3) := dk_180 0 9 (dk_at dksJ6_balanceInsertion_4 15 rfl rfl)
theorem dJ6_balanceInsertion_109 : decode cJ6_balanceInsertion 109 = .ok (.dup, 1) := dk_89 (dk_at dksJ6_balanceInsertion_4 18 rfl rfl)
theorem dJ6_balanceInsertion_110 : decode cJ6_balanceInsertion 110 = .ok (.astore_n 2, 1) := dk_77 (dk_at dksJ6_balanceInsertion_4 19 rfl rfl)
theorem dJ6_balanceInsertion_111 : decode cJ6_balanceInsertion 111 = .ok (.ifnonnull 7, 3) := dk_199 0 7 (dk_at dksJ6_balanceInsertion_4 20 rfl rfl)
theorem dJ6_balanceInsertion_114 : decode cJ6_balanceInsertion 114 = .ok (.aconst_null, 1) := dk_1 (dk_at dksJ6_balanceInsertion_4 23 rfl rfl)
theorem dJ6_balanceInsertion_115 : decode cJ6_balanceInsertion 115 = .ok (.goto 7, 3) := dk_167 0 7 (dk_at dksJ6_balanceInsertion_5 0 rfl rfl)
theorem dJ6_balanceInsertion_118 : decode cJ6_balanceInsertion 118 = .ok (.aload_n 2, 1) := dk_44 (dk_at dksJ6_balanceInsertion_5 3 rfl rfl)
theorem dJ6_balanceInsertion_119 : decode cJ6_balanceInsertion 119 = .ok (.getfield 9, 3) := dk_180 0 9 (dk_at dksJ6_balanceInsertion_5 4 rfl rfl)
theorem dJ6_balanceInsertion_122 : decode cJ6_balanceInsertion 122 = .ok (.astore_n 3, 1) := dk_78 (dk_at dksJ6_balanceInsertion_5 7 rfl rfl)
theorem dJ6_balanceInsertion_123 : decode cJ6_balanceInsertion 123 = .ok (.aload_n 2, 1) := dk_44 (dk_at dksJ6_balanceInsertion_5 8 rfl rfl)
theorem dJ6_balanceInsertion_124 : decode cJ6_balanceInsertion 124 = .ok (.ifnull (-119), 3) := dk_198 255 137 (dk_at dksJ6_balanceInsertion_5 9 rfl rfl)
theorem dJ6_balanceInsertion_127 : decode cJ6_balanceInsertion 127 = .ok (.aload_n 2, 1) := dk_44 (dk_at dksJ6_balanceInsertion_5 12 rfl rfl)
theorem dJ6_balanceInsertion_128 : decode cJ6_balanceInsertion 128 = .ok (.iconst 0, 1) := dk_3 (dk_at dksJ6_balanceInsertion_5 13 rfl rfl)
theorem dJ6_balanceInsertion_129 : decode cJ6_balanceInsertion 129 = .ok (.putfield 93, 3) := dk_181 0 93 (dk_at dksJ6_balanceInsertion_5 14 rfl rfl)
theorem dJ6_balanceInsertion_132 : decode cJ6_balanceInsertion 132 = .ok (.aload_n 3, 1) := dk_45 (dk_at dksJ6_balanceInsertion_5 17 rfl rfl)
theorem dJ6_balanceInsertion_133 : decode cJ6_balanceInsertion 133 = .ok (.ifnull (-128), 3) := dk_198 255 128 (dk_at dksJ6_balanceInsertion_5 18 rfl rfl)
theorem dJ6_balanceInsertion_136 : decode cJ6_balanceInsertion 136 = .ok (.aload_n 3, 1) := dk_45 (dk_at dksJ6_balanceInsertion_5 21 rfl rfl)
theorem dJ6_balanceInsertion_137 : decode cJ6_balanceInsertion 137 = .ok (.iconst 1, 1) := dk_4 (dk_at dksJ6_balanceInsertion_5 22 rfl rfl)
theorem dJ6_balanceInsertion_138 : decode cJ6_balanceInsertion 138 = .ok (.putfield 93, 3) := dk_181 0 93 (dk_at dksJ6_balanceInsertion_6 0 rfl rfl)
theorem dJ6_balanceInsertion_141 : decode cJ6_balanceInsertion 141 = .ok (.aload_n 0, 1) := dk_42 (dk_at dksJ6_balanceInsertion_6 3 rfl rfl)
theorem dJ6_balanceInsertion_142 : decode cJ6_balanceInsertion 142 = .ok (.aload_n 3, 1) := dk_45 (dk_at dksJ6_balanceInsertion_6 4 rfl rfl)
theorem dJ6_balanceInsertion_143 : decode cJ6_balanceInsertion 143 = .ok (.invokestatic 133, 3) := dk_184 0 133 (dk_at dksJ6_balanceInsertion_6 5 rfl rfl)
theorem dJ6_balanceInsertion_146 : decode cJ6_balanceInsertion 146 = .ok (.astore_n 0, 1) := dk_75 (dk_at dksJ6_balanceInsertion_6 8 rfl rfl)
theorem dJ6_balanceInsertion_147 : decode cJ6_balanceInsertion 147 = .ok (.goto (-142), 3) := dk_167 255 114 (dk_at dksJ6_balanceInsertion_6 9 rfl rfl)
theorem dJ6_balanceInsertion_150 : decode cJ6_balanceInsertion 150 = .ok (.aload 4, 2) := dk_25 4 (dk_at dksJ6_balanceInsertion_6 12 rfl rfl)
theorem dJ6_balanceInsertion_152 : decode cJ6_balanceInsertion 152 = .ok (.ifnull 32, 3) := dk_198 0 32 (dk_at dksJ6_balanceInsertion_6 14 rfl rfl)
theorem dJ6_balanceInsertion_155 : decode cJ6_balanceInsertion 155 = .ok (.aload 4, 2) := dk_25 4 (dk_at dksJ6_balanceInsertion_6 17 rfl rfl)
theorem dJ6_balanceInsertion_157 : decode cJ6_balanceInsertion 157 = .ok (.getfield 93, 3) := dk_180 0 93 (dk_at dksJ6_balanceInsertion_6 19 rfl rfl)
theorem dJ6_balanceInsertion_160 : decode cJ6_balanceInsertion 160 = .ok (.ifCond .eq 24, 3) := dk_153 0 24 (dk_at dksJ6_balanceInsertion_7 0 rfl rfl)
theorem dJ6_balanceInsertion_163 : decode cJ6_balanceInsertion 163 = .ok (.aload 4, 2) := dk_25 4 (dk_at dksJ6_balanceInsertion_7 3 rfl rfl)
theorem dJ6_balanceInsertion_165 : decode cJ6_balanceInsertion 165 = .ok (.iconst 0, 1) := dk_3 (dk_at dksJ6_balanceInsertion_7 5 rfl rfl)
theorem dJ6_balanceInsertion_166 : decode cJ6_balanceInsertion 166 = .ok (.putfield 93, 3) := dk_181 0 93 (dk_at dksJ6_balanceInsertion_7 6 rfl rfl)
theorem dJ6_balanceInsertion_169 : decode cJ6_balanceInsertion 169 = .ok (.aload_n 2, 1) := dk_44 (dk_at dksJ6_balanceInsertion_7 9 rfl rfl)
theorem dJ6_balanceInsertion_170 : decode cJ6_balanceInsertion 170 = .ok (.iconst 0, 1) := dk_3 (dk_at dksJ6_balanceInsertion_7 10 rfl rfl)
theorem dJ6_balanceInsertion_171 : decode cJ6_balanceInsertion 171 = .ok (.putfield 93, 3) := dk_181 0 93 (dk_at dksJ6_balanceInsertion_7 11 rfl rfl)
theorem dJ6_balanceInsertion_174 : decode cJ6_balanceInsertion 174 = .ok (.aload_n 3, 1) := dk_45 (dk_at dksJ6_balanceInsertion_7 14 rfl rfl)
theorem dJ6_balanceInsertion_175 : decode cJ6_balanceInsertion 175 = .ok (.iconst 1, 1) := dk_4 (dk_at dksJ6_balanceInsertion_7 15 rfl rfl)
theorem dJ6_balanceInsertion_176 : decode cJ6_balanceInsertion 176 = .ok (.putfield 93, 3) := dk_181 0 93 (dk_at dksJ6_balanceInsertion_7 16 rfl rfl)
theorem dJ6_balanceInsertion_179 : decode cJ6_balanceInsertion 179 = .ok (.aload_n 3, 1) := dk_45 (dk_at dksJ6_balanceInsertion_7 19 rfl rfl)
theorem dJ6_balanceInsertion_180 : decode cJ6_balanceInsertion 180 = .ok (.astore_n 1, 1) := dk_76 (dk_at dksJ6_balanceInsertion_7 20 rfl rfl)
theorem dJ6_balanceInsertion_181 : decode cJ6_balanceInsertion 181 = .ok (.goto (-176), 3) := dk_167 255 80 (dk_at dksJ6_balanceInsertion_7 21 rfl rfl)
theorem dJ6_balanceInsertion_184 : decode cJ6_balanceInsertion 184 = .ok (.aload_n 1, 1) := dk_43 (dk_at dksJ6_balanceInsertion_8 0 rfl rfl)
theorem dJ6_balanceInsertion_185 : decode cJ6_balanceInsertion 185 = .ok (.aload_n 2, 1) := dk_44 (dk_at dksJ6_balanceInsertion_8 1 rfl rfl)
theorem dJ6_balanceInsertion_186 : decode cJ6_balanceInsertion 186 = .ok (.getfield 39, 3) := dk_180 0 39 (dk_at dksJ6_balanceInsertion_8 2 rfl rfl)
theorem dJ6_balanceInsertion_189 : decode cJ6_balanceInsertion 189 = .ok (.if_acmp .ne 29, 3) := dk_166 0 29 (dk_at dksJ6_balanceInsertion_8 5 rfl rfl)
theorem dJ6_balanceInsertion_192 : decode cJ6_balanceInsertion 192 = .ok (.aload_n 0, 1) := dk_42 (dk_at dksJ6_balanceInsertion_8 8 rfl rfl)
theorem dJ6_balanceInsertion_193 : decode cJ6_balanceInsertion 193 = .ok (.aload_n 2, 1) := dk_44 (dk_at dksJ6_balanceInsertion_8 9 rfl rfl)
theorem dJ6_balanceInsertion_194 : decode cJ6_balanceInsertion 194 = .ok (.dup, 1) := dk_89 (dk_at dksJ6_balanceInsertion_8 10 rfl rfl)
theorem dJ6_balanceInsertion_195 : decode cJ6_balanceInsertion 195 = .ok (.astore_n 1, 1) := dk_76 (dk_at dksJ6_balanceInsertion_8 11 rfl rfl)
theorem dJ6_balanceInsertion_196 : decode cJ6_balanceInsertion 196 = .ok (.invokestatic 133, 3) := dk_184 0 133 (dk_at dksJ6_balanceInsertion_8 12 rfl rfl)
theorem dJ6_balanceInsertion_199 : decode cJ6_balanceInsertion 199 = .ok (.astore_n 0, 1) := dk_75 (dk_at dksJ6_balanceInsertion_8 15 rfl rfl)
theorem dJ6_balanceInsertion_200 : decode cJ6_balanceInsertion 200 = .ok (.aload_n 1, 1) := dk_43 (dk_at dksJ6_balanceInsertion_8 16 rfl rfl)
theorem dJ6_balanceInsertion_201 : decode cJ6_balanceInsertion 201 = .ok (.getfield 9, 3) := dk_180 0 9 (dk_at dksJ6_balanceInsertion_8 17 rfl rfl)
theorem dJ6_balanceInsertion_204 : decode cJ6_balanceInsertion 204 = .ok (.dup, 1) := dk_89 (dk_at dksJ6_balanceInsertion_8 20 rfl rfl)
theorem dJ6_balanceInsertion_205 : decode cJ6_balanceInsertion 205 = .ok (.astore_n 2, 1) := dk_77 (dk_at dksJ6_balanceInsertion_8 21 rfl rfl)
theorem dJ6_balanceInsertion_206 : decode cJ6_balanceInsertion 206 = .ok (.ifnonnull 7, 3) := dk_199 0 7 (dk_at dksJ6_balanceInsertion_9 0 rfl rfl)
theorem dJ6_balanceInsertion_209 : decode cJ6_balanceInsertion 209 = .ok (.aconst_null, 1) := dk_1 (dk_at dksJ6_balanceInsertion_9 3 rfl rfl)
theorem dJ6_balanceInsertion_210 : decode cJ6_balanceInsertion 210 = .ok (.goto 7, 3) := dk_167 0 7 (dk_at dksJ6_balanceInsertion_9 4 rfl rfl)
theorem dJ6_balanceInsertion_213 : decode cJ6_balanceInsertion 213 = .ok (.aload_n 2, 1) := dk_44 (dk_at dksJ6_balanceInsertion_9 7 rfl rfl)
theorem dJ6_balanceInsertion_214 : decode cJ6_balanceInsertion 214 = .ok (.getfield 9, 3) := dk_180 0 9 (dk_at dksJ6_balanceInsertion_9 8 rfl rfl)
theorem dJ6_balanceInsertion_217 : decode cJ6_balanceInsertion 217 = .ok (.astore_n 3, 1) := dk_78 (dk_at dksJ6_balanceInsertion_9 11 rfl rfl)
theorem dJ6_balanceInsertion_218 : decode cJ6_balanceInsertion 218 = .ok (.aload_n 2, 1) := dk_44 (dk_at dksJ6_balanceInsertion_9 12 rfl rfl)
theorem dJ6_balanceInsertion_219 : decode cJ6_balanceInsertion 219 = .ok (.ifnull (-214), 3) := dk_198 255 42 (dk_at dksJ6_balanceInsertion_9 13 rfl rfl)
theorem dJ6_balanceInsertion_222 : decode cJ6_balanceInsertion 222 = .ok (.aload_n 2, 1) := dk_44 (dk_at dksJ6_balanceInsertion_9 16 rfl rfl)
theorem dJ6_balanceInsertion_223 : decode cJ6_balanceInsertion 223 = .ok (.iconst 0, 1) := dk_3 (dk_at dksJ6_balanceInsertion_9 17 rfl rfl)
theorem dJ6_balanceInsertion_224 : decode cJ6_balanceInsertion 224 = .ok (.putfield 93, 3) := dk_181 0 93 (dk_at dksJ6_balanceInsertion_9 18 rfl rfl)
theorem dJ6_balanceInsertion_227 : decode cJ6_balanceInsertion 227 = .ok (.aload_n 3, 1) := dk_45 (dk_at dksJ6_balanceInsertion_9 21 rfl rfl)
theorem dJ6_balanceInsertion_228 : decode cJ6_balanceInsertion 228 = .ok (.ifnull (-223), 3) := dk_198 255 33 (dk_at dksJ6_balanceInsertion_10 0 rfl rfl)
theorem dJ6_balanceInsertion_231 : decode cJ6_balanceInsertion 231 = .ok (.aload_n 3, 1) := dk_45 (dk_at dksJ6_balanceInsertion_10 3 rfl rfl)
theorem dJ6_balanceInsertion_232 : decode cJ6_balanceInsertion 232 = .ok (.iconst 1, 1) := dk_4 (dk_at dksJ6_balanceInsertion_10 4 rfl rfl)
theorem dJ6_balanceInsertion_233 : decode cJ6_balanceInsertion 233 = .ok (.putfield 93, 3) := dk_181 0 93 (dk_at dksJ6_balanceInsertion_10 5 rfl rfl)
theorem dJ6_balanceInsertion_236 : decode cJ6_balanceInsertion 236 = .ok (.aload_n 0, 1) := dk_42 (dk_at dksJ6_balanceInsertion_10 8 rfl rfl)
theorem dJ6_balanceInsertion_237 : decode cJ6_balanceInsertion 237 = .ok (.aload_n 3, 1) := dk_45 (dk_at dksJ6_balanceInsertion_10 9 rfl rfl)
theorem dJ6_balanceInsertion_238 : decode cJ6_balanceInsertion 238 = .ok (.invokestatic 130, 3) := dk_184 0 130 (dk_at dksJ6_balanceInsertion_10 10 rfl rfl)
theorem dJ6_balanceInsertion_241 : decode cJ6_balanceInsertion 241 = .ok (.astore_n 0, 1) := dk_75 (dk_at dksJ6_balanceInsertion_10 13 rfl rfl)
theorem dJ6_balanceInsertion_242 : decode cJ6_balanceInsertion 242 = .ok (.goto (-237), 3) := dk_167 255 19 (dk_at dksJ6_balanceInsertion_10 14 rfl rfl)
abbrev cJ6_rotateLeft : ByteArray := prog_36_method_12_code
def yJ6_rotateLeft : MethodName := ⟨RJ6, "rotateLeft", "(Ljava/util/HashMap$TreeNode;Ljava/util/HashMap$TreeNode;)Ljava/util/HashMap$TreeNode;"⟩
def dkwJ6_rotateLeft_3 : List UInt8 := [181, 0, 39, 167, 0, 8, 45, 44, 181, 0, 42, 44, 43, 181, 0, 39, 43, 44, 181, 0, 9, 42, 176]
abbrev dktJ6_rotateLeft_3 : List UInt8 := dkwJ6_rotateLeft_3 ++ []
def dkwJ6_rotateLeft_2 : List UInt8 := [199, 0, 13, 44, 89, 75, 3, 181, 0, 93, 167, 0, 24, 45, 180, 0, 39, 43, 166, 0, 11, 45, 44]
abbrev dktJ6_rotateLeft_2 : List UInt8 := dkwJ6_rotateLeft_2 ++ dktJ6_rotateLeft_3
def dkwJ6_rotateLeft_1 : List UInt8 := [58, 4, 198, 0, 9, 25, 4, 43, 181, 0, 9, 44, 43, 180, 0, 9, 90, 181, 0, 9, 89, 78]
abbrev dktJ6_rotateLeft_1 : List UInt8 := dkwJ6_rotateLeft_1 ++ dktJ6_rotateLeft_2
def dkwJ6_rotateLeft_0 : List UInt8 := [43, 198, 0, 88, 43, 180, 0, 42, 89, 77, 198, 0, 79, 43, 44, 180, 0, 39, 90, 181, 0, 42, 89]
abbrev dktJ6_rotateLeft_0 : List UInt8 := dkwJ6_rotateLeft_0 ++ dktJ6_rotateLeft_1
theorem dksJ6_rotateLeft_0 : cJ6_rotateLeft.data.toList.drop 0 = dktJ6_rotateLeft_0 := by decide +kernel
theorem dksJ6_rotateLeft_1 : cJ6_rotateLeft.data.toList.drop 23 = dktJ6_rotateLeft_1 := dk_seg dksJ6_rotateLeft_0 23 rfl rfl
theorem dksJ6_rotateLeft_2 : cJ6_rotateLeft.data.toList.drop 45 = dktJ6_rotateLeft_2 := dk_seg dksJ6_rotateLeft_1 22 rfl rfl
theorem dksJ6_rotateLeft_3 : cJ6_rotateLeft.data.toList.drop 68 = dktJ6_rotateLeft_3 := dk_seg dksJ6_rotateLeft_2 23 rfl rfl
theorem dJ6_rotateLeft_0 : decode cJ6_rotateLeft 0 = .ok (.aload_n 1, 1) := dk_43 (dk_at dksJ6_rotateLeft_0 0 rfl rfl)
theorem dJ6_rotateLeft_1 : decode cJ6_rotateLeft 1 = .ok (.ifnull 88, 3) := dk_198 0 88 (dk_at dksJ6_rotateLeft_0 1 rfl rfl)
theorem dJ6_rotateLeft_4 : decode cJ6_rotateLeft 4 = .ok (.aload_n 1, 1) := dk_43 (dk_at dksJ6_rotateLeft_0 4 rfl rfl)
theorem dJ6_rotateLeft_5 : decode cJ6_rotateLeft 5 = .ok (.getfield 42, 3) := dk_180 0 42 (dk_at dksJ6_rotateLeft_0 5 rfl rfl)
theorem dJ6_rotateLeft_8 : decode cJ6_rotateLeft 8 = .ok (.dup, 1) := dk_89 (dk_at dksJ6_rotateLeft_0 8 rfl rfl)
theorem dJ6_rotateLeft_9 : decode cJ6_rotateLeft 9 = .ok (.astore_n 2, 1) := dk_77 (dk_at dksJ6_rotateLeft_0 9 rfl rfl)
theorem dJ6_rotateLeft_10 : decode cJ6_rotateLeft 10 = .ok (.ifnull 79, 3) := dk_198 0 79 (dk_at dksJ6_rotateLeft_0 10 rfl rfl)
theorem dJ6_rotateLeft_13 : decode cJ6_rotateLeft 13 = .ok (.aload_n 1, 1) := dk_43 (dk_at dksJ6_rotateLeft_0 13 rfl rfl)
theorem dJ6_rotateLeft_14 : decode cJ6_rotateLeft 14 = .ok (.aload_n 2, 1) := dk_44 (dk_at dksJ6_rotateLeft_0 14 rfl rfl)
theorem dJ6_rotateLeft_15 : decode cJ6_rotateLeft 15 = .ok (.getfield 39, 3) := dk_180 0 39 (dk_at dksJ6_rotateLeft_0 15 rfl rfl)
theorem dJ6_rotateLeft_18 : decode cJ6_rotateLeft 18 = .ok (.dup_x1, 1) := dk_90 (dk_at dksJ6_rotateLeft_0 18 rfl rfl)
theorem dJ6_rotateLeft_19 : decode cJ6_rotateLeft 19 = .ok (.putfield 42, 3) := dk_181 0 42 (dk_at dksJ6_rotateLeft_0 19 rfl rfl)
theorem dJ6_rotateLeft_22 : decode cJ6_rotateLeft 22 = .ok (.dup, 1) := dk_89 (dk_at dksJ6_rotateLeft_0 22 rfl rfl)
theorem dJ6_rotateLeft_23 : decode cJ6_rotateLeft 23 = .ok (.astore 4, 2) := dk_58 4 (dk_at dksJ6_rotateLeft_1 0 rfl rfl)
theorem dJ6_rotateLeft_25 : decode cJ6_rotateLeft 25 = .ok (.ifnull 9, 3) := dk_198 0 9 (dk_at dksJ6_rotateLeft_1 2 rfl rfl)
theorem dJ6_rotateLeft_28 : decode cJ6_rotateLeft 28 = .ok (.aload 4, 2) := dk_25 4 (dk_at dksJ6_rotateLeft_1 5 rfl rfl)
theorem dJ6_rotateLeft_30 : decode cJ6_rotateLeft 30 = .ok (.aload_n 1, 1) := dk_43 (dk_at dksJ6_rotateLeft_1 7 rfl rfl)
theorem dJ6_rotateLeft_31 : decode cJ6_rotateLeft 31 = .ok (.putfield 9, 3) := dk_181 0 9 (dk_at dksJ6_rotateLeft_1 8 rfl rfl)
theorem dJ6_rotateLeft_34 : decode cJ6_rotateLeft 34 = .ok (.aload_n 2, 1) := dk_44 (dk_at dksJ6_rotateLeft_1 11 rfl rfl)
theorem dJ6_rotateLeft_35 : decode cJ6_rotateLeft 35 = .ok (.aload_n 1, 1) := dk_43 (dk_at dksJ6_rotateLeft_1 12 rfl rfl)
theorem dJ6_rotateLeft_36 : decode cJ6_rotateLeft 36 = .ok (.getfield 9, 3) := dk_180 0 9 (dk_at dksJ6_rotateLeft_1 13 rfl rfl)
theorem dJ6_rotateLeft_39 : decode cJ6_rotateLeft 39 = .ok (.dup_x1, 1) := dk_90 (dk_at dksJ6_rotateLeft_1 16 rfl rfl)
theorem dJ6_rotateLeft_40 : decode cJ6_rotateLeft 40 = .ok (.putfield 9, 3) := dk_181 0 9 (dk_at dksJ6_rotateLeft_1 17 rfl rfl)
theorem dJ6_rotateLeft_43 : decode cJ6_rotateLeft 43 = .ok (.dup, 1) := dk_89 (dk_at dksJ6_rotateLeft_1 20 rfl rfl)
theorem dJ6_rotateLeft_44 : decode cJ6_rotateLeft 44 = .ok (.astore_n 3, 1) := dk_78 (dk_at dksJ6_rotateLeft_1 21 rfl rfl)
theorem dJ6_rotateLeft_45 : decode cJ6_rotateLeft 45 = .ok (.ifnonnull 13, 3) := dk_199 0 13 (dk_at dksJ6_rotateLeft_2 0 rfl rfl)
theorem dJ6_rotateLeft_48 : decode cJ6_rotateLeft 48 = .ok (.aload_n 2, 1) := dk_44 (dk_at dksJ6_rotateLeft_2 3 rfl rfl)
theorem dJ6_rotateLeft_49 : decode cJ6_rotateLeft 49 = .ok (.dup, 1) := dk_89 (dk_at dksJ6_rotateLeft_2 4 rfl rfl)
theorem dJ6_rotateLeft_50 : decode cJ6_rotateLeft 50 = .ok (.astore_n 0, 1) := dk_75 (dk_at dksJ6_rotateLeft_2 5 rfl rfl)
theorem dJ6_rotateLeft_51 : decode cJ6_rotateLeft 51 = .ok (.iconst 0, 1) := dk_3 (dk_at dksJ6_rotateLeft_2 6 rfl rfl)
theorem dJ6_rotateLeft_52 : decode cJ6_rotateLeft 52 = .ok (.putfield 93, 3) := dk_181 0 93 (dk_at dksJ6_rotateLeft_2 7 rfl rfl)
theorem dJ6_rotateLeft_55 : decode cJ6_rotateLeft 55 = .ok (.goto 24, 3) := dk_167 0 24 (dk_at dksJ6_rotateLeft_2 10 rfl rfl)
theorem dJ6_rotateLeft_58 : decode cJ6_rotateLeft 58 = .ok (.aload_n 3, 1) := dk_45 (dk_at dksJ6_rotateLeft_2 13 rfl rfl)
theorem dJ6_rotateLeft_59 : decode cJ6_rotateLeft 59 = .ok (.getfield 39, 3) := dk_180 0 39 (dk_at dksJ6_rotateLeft_2 14 rfl rfl)
theorem dJ6_rotateLeft_62 : decode cJ6_rotateLeft 62 = .ok (.aload_n 1, 1) := dk_43 (dk_at dksJ6_rotateLeft_2 17 rfl rfl)
theorem dJ6_rotateLeft_63 : decode cJ6_rotateLeft 63 = .ok (.if_acmp .ne 11, 3) := dk_166 0 11 (dk_at dksJ6_rotateLeft_2 18 rfl rfl)
theorem dJ6_rotateLeft_66 : decode cJ6_rotateLeft 66 = .ok (.aload_n 3, 1) := dk_45 (dk_at dksJ6_rotateLeft_2 21 rfl rfl)
theorem dJ6_rotateLeft_67 : decode cJ6_rotateLeft 67 = .ok (.aload_n 2, 1) := dk_44 (dk_at dksJ6_rotateLeft_2 22 rfl rfl)
theorem dJ6_rotateLeft_68 : decode cJ6_rotateLeft 68 = .ok (.putfield 39, 3) := dk_181 0 39 (dk_at dksJ6_rotateLeft_3 0 rfl rfl)
theorem dJ6_rotateLeft_71 : decode cJ6_rotateLeft 71 = .ok (.goto 8, 3) := dk_167 0 8 (dk_at dksJ6_rotateLeft_3 3 rfl rfl)
theorem dJ6_rotateLeft_74 : decode cJ6_rotateLeft 74 = .ok (.aload_n 3, 1) := dk_45 (dk_at dksJ6_rotateLeft_3 6 rfl rfl)
theorem dJ6_rotateLeft_75 : decode cJ6_rotateLeft 75 = .ok (.aload_n 2, 1) := dk_44 (dk_at dksJ6_rotateLeft_3 7 rfl rfl)
theorem dJ6_rotateLeft_76 : decode cJ6_rotateLeft 76 = .ok (.putfield 42, 3) := dk_181 0 42 (dk_at dksJ6_rotateLeft_3 8 rfl rfl)
theorem dJ6_rotateLeft_79 : decode cJ6_rotateLeft 79 = .ok (.aload_n 2, 1) := dk_44 (dk_at dksJ6_rotateLeft_3 11 rfl rfl)
theorem dJ6_rotateLeft_80 : decode cJ6_rotateLeft 80 = .ok (.aload_n 1, 1) := dk_43 (dk_at dksJ6_rotateLeft_3 12 rfl rfl)
theorem dJ6_rotateLeft_81 : decode cJ6_rotateLeft 81 = .ok (.putfield 39, 3) := dk_181 0 39 (dk_at dksJ6_rotateLeft_3 13 rfl rfl)
theorem dJ6_rotateLeft_84 : decode cJ6_rotateLeft 84 = .ok (.aload_n 1, 1) := dk_43 (dk_at dksJ6_rotateLeft_3 16 rfl rfl)
theorem dJ6_rotateLeft_85 : decode cJ6_rotateLeft 85 = .ok (.aload_n 2, 1) := dk_44 (dk_at dksJ6_rotateLeft_3 17 rfl rfl)
theorem dJ6_rotateLeft_86 : decode cJ6_rotateLeft 86 = .ok (.putfield 9, 3) := dk_181 0 9 (dk_at dksJ6_rotateLeft_3 18 rfl rfl)
theorem dJ6_rotateLeft_89 : decode cJ6_rotateLeft 89 = .ok (.aload_n 0, 1) := dk_42 (dk_at dksJ6_rotateLeft_3 21 rfl rfl)
theorem dJ6_rotateLeft_90 : decode cJ6_rotateLeft 90 = .ok (.areturn, 1) := dk_176 (dk_at dksJ6_rotateLeft_3 22 rfl rfl)
abbrev cJ6_rotateRight : ByteArray := prog_36_method_13_code
def yJ6_rotateRight : MethodName := ⟨RJ6, "rotateRight", "(Ljava/util/HashMap$TreeNode;Ljava/util/HashMap$TreeNode;)Ljava/util/HashMap$TreeNode;"⟩
def dkwJ6_rotateRight_3 : List UInt8 := [181, 0, 42, 167, 0, 8, 45, 44, 181, 0, 39, 44, 43, 181, 0, 42, 43, 44, 181, 0, 9, 42, 176]
abbrev dktJ6_rotateRight_3 : List UInt8 := dkwJ6_rotateRight_3 ++ []
def dkwJ6_rotateRight_2 : List UInt8 := [199, 0, 13, 44, 89, 75, 3, 181, 0, 93, 167, 0, 24, 45, 180, 0, 42, 43, 166, 0, 11, 45, 44]
abbrev dktJ6_rotateRight_2 : List UInt8 := dkwJ6_rotateRight_2 ++ dktJ6_rotateRight_3
def dkwJ6_rotateRight_1 : List UInt8 := [58, 4, 198, 0, 9, 25, 4, 43, 181, 0, 9, 44, 43, 180, 0, 9, 90, 181, 0, 9, 89, 78]
abbrev dktJ6_rotateRight_1 : List UInt8 := dkwJ6_rotateRight_1 ++ dktJ6_rotateRight_2
def dkwJ6_rotateRight_0 : List UInt8 := [43, 198, 0, 88, 43, 180, 0, 39, 89, 77, 198, 0, 79, 43, 44, 180, 0, 42, 90, 181, 0, 39, 89]
abbrev dktJ6_rotateRight_0 : List UInt8 := dkwJ6_rotateRight_0 ++ dktJ6_rotateRight_1
theorem dksJ6_rotateRight_0 : cJ6_rotateRight.data.toList.drop 0 = dktJ6_rotateRight_0 := by decide +kernel
theorem dksJ6_rotateRight_1 : cJ6_rotateRight.data.toList.drop 23 = dktJ6_rotateRight_1 := dk_seg dksJ6_rotateRight_0 23 rfl rfl
theorem dksJ6_rotateRight_2 : cJ6_rotateRight.data.toList.drop 45 = dktJ6_rotateRight_2 := dk_seg dksJ6_rotateRight_1 22 rfl rfl
theorem dksJ6_rotateRight_3 : cJ6_rotateRight.data.toList.drop 68 = dktJ6_rotateRight_3 := dk_seg dksJ6_rotateRight_2 23 rfl rfl
theorem dJ6_rotateRight_0 : decode cJ6_rotateRight 0 = .ok (.aload_n 1, 1) := dk_43 (dk_at dksJ6_rotateRight_0 0 rfl rfl)
theorem dJ6_rotateRight_1 : decode cJ6_rotateRight 1 = .ok (.ifnull 88, 3) := dk_198 0 88 (dk_at dksJ6_rotateRight_0 1 rfl rfl)
theorem dJ6_rotateRight_4 : decode cJ6_rotateRight 4 = .ok (.aload_n 1, 1) := dk_43 (dk_at dksJ6_rotateRight_0 4 rfl rfl)
theorem dJ6_rotateRight_5 : decode cJ6_rotateRight 5 = .ok (.getfield 39, 3) := dk_180 0 39 (dk_at dksJ6_rotateRight_0 5 rfl rfl)
theorem dJ6_rotateRight_8 : decode cJ6_rotateRight 8 = .ok (.dup, 1) := dk_89 (dk_at dksJ6_rotateRight_0 8 rfl rfl)
theorem dJ6_rotateRight_9 : decode cJ6_rotateRight 9 = .ok (.astore_n 2, 1) := dk_77 (dk_at dksJ6_rotateRight_0 9 rfl rfl)
theorem dJ6_rotateRight_10 : decode cJ6_rotateRight 10 = .ok (.ifnull 79, 3) := dk_198 0 79 (dk_at dksJ6_rotateRight_0 10 rfl rfl)
theorem dJ6_rotateRight_13 : decode cJ6_rotateRight 13 = .ok (.aload_n 1, 1) := dk_43 (dk_at dksJ6_rotateRight_0 13 rfl rfl)
theorem dJ6_rotateRight_14 : decode cJ6_rotateRight 14 = .ok (.aload_n 2, 1) := dk_44 (dk_at dksJ6_rotateRight_0 14 rfl rfl)
theorem dJ6_rotateRight_15 : decode cJ6_rotateRight 15 = .ok (.getfield 42, 3) := dk_180 0 42 (dk_at dksJ6_rotateRight_0 15 rfl rfl)
theorem dJ6_rotateRight_18 : decode cJ6_rotateRight 18 = .ok (.dup_x1, 1) := dk_90 (dk_at dksJ6_rotateRight_0 18 rfl rfl)
theorem dJ6_rotateRight_19 : decode cJ6_rotateRight 19 = .ok (.putfield 39, 3) := dk_181 0 39 (dk_at dksJ6_rotateRight_0 19 rfl rfl)
theorem dJ6_rotateRight_22 : decode cJ6_rotateRight 22 = .ok (.dup, 1) := dk_89 (dk_at dksJ6_rotateRight_0 22 rfl rfl)
theorem dJ6_rotateRight_23 : decode cJ6_rotateRight 23 = .ok (.astore 4, 2) := dk_58 4 (dk_at dksJ6_rotateRight_1 0 rfl rfl)
theorem dJ6_rotateRight_25 : decode cJ6_rotateRight 25 = .ok (.ifnull 9, 3) := dk_198 0 9 (dk_at dksJ6_rotateRight_1 2 rfl rfl)
theorem dJ6_rotateRight_28 : decode cJ6_rotateRight 28 = .ok (.aload 4, 2) := dk_25 4 (dk_at dksJ6_rotateRight_1 5 rfl rfl)
theorem dJ6_rotateRight_30 : decode cJ6_rotateRight 30 = .ok (.aload_n 1, 1) := dk_43 (dk_at dksJ6_rotateRight_1 7 rfl rfl)
theorem dJ6_rotateRight_31 : decode cJ6_rotateRight 31 = .ok (.putfield 9, 3) := dk_181 0 9 (dk_at dksJ6_rotateRight_1 8 rfl rfl)
theorem dJ6_rotateRight_34 : decode cJ6_rotateRight 34 = .ok (.aload_n 2, 1) := dk_44 (dk_at dksJ6_rotateRight_1 11 rfl rfl)
theorem dJ6_rotateRight_35 : decode cJ6_rotateRight 35 = .ok (.aload_n 1, 1) := dk_43 (dk_at dksJ6_rotateRight_1 12 rfl rfl)
theorem dJ6_rotateRight_36 : decode cJ6_rotateRight 36 = .ok (.getfield 9, 3) := dk_180 0 9 (dk_at dksJ6_rotateRight_1 13 rfl rfl)
theorem dJ6_rotateRight_39 : decode cJ6_rotateRight 39 = .ok (.dup_x1, 1) := dk_90 (dk_at dksJ6_rotateRight_1 16 rfl rfl)
theorem dJ6_rotateRight_40 : decode cJ6_rotateRight 40 = .ok (.putfield 9, 3) := dk_181 0 9 (dk_at dksJ6_rotateRight_1 17 rfl rfl)
theorem dJ6_rotateRight_43 : decode cJ6_rotateRight 43 = .ok (.dup, 1) := dk_89 (dk_at dksJ6_rotateRight_1 20 rfl rfl)
theorem dJ6_rotateRight_44 : decode cJ6_rotateRight 44 = .ok (.astore_n 3, 1) := dk_78 (dk_at dksJ6_rotateRight_1 21 rfl rfl)
theorem dJ6_rotateRight_45 : decode cJ6_rotateRight 45 = .ok (.ifnonnull 13, 3) := dk_199 0 13 (dk_at dksJ6_rotateRight_2 0 rfl rfl)
theorem dJ6_rotateRight_48 : decode cJ6_rotateRight 48 = .ok (.aload_n 2, 1) := dk_44 (dk_at dksJ6_rotateRight_2 3 rfl rfl)
theorem dJ6_rotateRight_49 : decode cJ6_rotateRight 49 = .ok (.dup, 1) := dk_89 (dk_at dksJ6_rotateRight_2 4 rfl rfl)
theorem dJ6_rotateRight_50 : decode cJ6_rotateRight 50 = .ok (.astore_n 0, 1) := dk_75 (dk_at dksJ6_rotateRight_2 5 rfl rfl)
theorem dJ6_rotateRight_51 : decode cJ6_rotateRight 51 = .ok (.iconst 0, 1) := dk_3 (dk_at dksJ6_rotateRight_2 6 rfl rfl)
theorem dJ6_rotateRight_52 : decode cJ6_rotateRight 52 = .ok (.putfield 93, 3) := dk_181 0 93 (dk_at dksJ6_rotateRight_2 7 rfl rfl)
theorem dJ6_rotateRight_55 : decode cJ6_rotateRight 55 = .ok (.goto 24, 3) := dk_167 0 24 (dk_at dksJ6_rotateRight_2 10 rfl rfl)
theorem dJ6_rotateRight_58 : decode cJ6_rotateRight 58 = .ok (.aload_n 3, 1) := dk_45 (dk_at dksJ6_rotateRight_2 13 rfl rfl)
theorem dJ6_rotateRight_59 : decode cJ6_rotateRight 59 = .ok (.getfield 42, 3) := dk_180 0 42 (dk_at dksJ6_rotateRight_2 14 rfl rfl)
theorem dJ6_rotateRight_62 : decode cJ6_rotateRight 62 = .ok (.aload_n 1, 1) := dk_43 (dk_at dksJ6_rotateRight_2 17 rfl rfl)
theorem dJ6_rotateRight_63 : decode cJ6_rotateRight 63 = .ok (.if_acmp .ne 11, 3) := dk_166 0 11 (dk_at dksJ6_rotateRight_2 18 rfl rfl)
theorem dJ6_rotateRight_66 : decode cJ6_rotateRight 66 = .ok (.aload_n 3, 1) := dk_45 (dk_at dksJ6_rotateRight_2 21 rfl rfl)
theorem dJ6_rotateRight_67 : decode cJ6_rotateRight 67 = .ok (.aload_n 2, 1) := dk_44 (dk_at dksJ6_rotateRight_2 22 rfl rfl)
theorem dJ6_rotateRight_68 : decode cJ6_rotateRight 68 = .ok (.putfield 42, 3) := dk_181 0 42 (dk_at dksJ6_rotateRight_3 0 rfl rfl)
theorem dJ6_rotateRight_71 : decode cJ6_rotateRight 71 = .ok (.goto 8, 3) := dk_167 0 8 (dk_at dksJ6_rotateRight_3 3 rfl rfl)
theorem dJ6_rotateRight_74 : decode cJ6_rotateRight 74 = .ok (.aload_n 3, 1) := dk_45 (dk_at dksJ6_rotateRight_3 6 rfl rfl)
theorem dJ6_rotateRight_75 : decode cJ6_rotateRight 75 = .ok (.aload_n 2, 1) := dk_44 (dk_at dksJ6_rotateRight_3 7 rfl rfl)
theorem dJ6_rotateRight_76 : decode cJ6_rotateRight 76 = .ok (.putfield 39, 3) := dk_181 0 39 (dk_at dksJ6_rotateRight_3 8 rfl rfl)
theorem dJ6_rotateRight_79 : decode cJ6_rotateRight 79 = .ok (.aload_n 2, 1) := dk_44 (dk_at dksJ6_rotateRight_3 11 rfl rfl)
theorem dJ6_rotateRight_80 : decode cJ6_rotateRight 80 = .ok (.aload_n 1, 1) := dk_43 (dk_at dksJ6_rotateRight_3 12 rfl rfl)
theorem dJ6_rotateRight_81 : decode cJ6_rotateRight 81 = .ok (.putfield 42, 3) := dk_181 0 42 (dk_at dksJ6_rotateRight_3 13 rfl rfl)
theorem dJ6_rotateRight_84 : decode cJ6_rotateRight 84 = .ok (.aload_n 1, 1) := dk_43 (dk_at dksJ6_rotateRight_3 16 rfl rfl)
theorem dJ6_rotateRight_85 : decode cJ6_rotateRight 85 = .ok (.aload_n 2, 1) := dk_44 (dk_at dksJ6_rotateRight_3 17 rfl rfl)
theorem dJ6_rotateRight_86 : decode cJ6_rotateRight 86 = .ok (.putfield 9, 3) := dk_181 0 9 (dk_at dksJ6_rotateRight_3 18 rfl rfl)
theorem dJ6_rotateRight_89 : decode cJ6_rotateRight 89 = .ok (.aload_n 0, 1) := dk_42 (dk_at dksJ6_rotateRight_3 21 rfl rfl)
theorem dJ6_rotateRight_90 : decode cJ6_rotateRight 90 = .ok (.areturn, 1) := dk_176 (dk_at dksJ6_rotateRight_3 22 rfl rfl)
abbrev cJ6_moveRootToFront : ByteArray := prog_36_method_3_code
def yJ6_moveRootToFront : MethodName := ⟨RJ6, "moveRootToFront", "([Ljava/util/HashMap$Node;Ljava/util/HashMap$TreeNode;)V"⟩
def dkwJ6_moveRootToFront_5 : List UInt8 := [89, 183, 0, 36, 191, 177]
abbrev dktJ6_moveRootToFront_5 : List UInt8 := dkwJ6_moveRootToFront_5 ++ []
def dkwJ6_moveRootToFront_4 : List UInt8 := [181, 0, 22, 43, 1, 181, 0, 19, 178, 0, 26, 154, 0, 18, 43, 184, 0, 30, 154, 0, 11, 187, 0, 34]
abbrev dktJ6_moveRootToFront_4 : List UInt8 := dkwJ6_moveRootToFront_4 ++ dktJ6_moveRootToFront_5
def dkwJ6_moveRootToFront_3 : List UInt8 := [198, 0, 10, 25, 6, 25, 5, 181, 0, 22, 25, 4, 198, 0, 9, 25, 4, 43, 181, 0, 19, 43, 25, 4]
abbrev dktJ6_moveRootToFront_3 : List UInt8 := dkwJ6_moveRootToFront_3 ++ dktJ6_moveRootToFront_4
def dkwJ6_moveRootToFront_2 : List UInt8 := [43, 180, 0, 22, 89, 58, 5, 198, 0, 13, 25, 5, 192, 0, 10, 25, 6, 181, 0, 19, 25, 6]
abbrev dktJ6_moveRootToFront_2 : List UInt8 := dkwJ6_moveRootToFront_2 ++ dktJ6_moveRootToFront_3
def dkwJ6_moveRootToFront_1 : List UInt8 := [42, 29, 50, 192, 0, 10, 58, 4, 43, 25, 4, 165, 0, 67, 42, 29, 43, 83, 43, 180, 0, 19, 58, 6]
abbrev dktJ6_moveRootToFront_1 : List UInt8 := dkwJ6_moveRootToFront_1 ++ dktJ6_moveRootToFront_2
def dkwJ6_moveRootToFront_0 : List UInt8 := [43, 198, 0, 122, 42, 198, 0, 118, 42, 190, 89, 61, 158, 0, 111, 28, 4, 100, 43, 180, 0, 15, 126, 62]
abbrev dktJ6_moveRootToFront_0 : List UInt8 := dkwJ6_moveRootToFront_0 ++ dktJ6_moveRootToFront_1
theorem dksJ6_moveRootToFront_0 : cJ6_moveRootToFront.data.toList.drop 0 = dktJ6_moveRootToFront_0 := by decide +kernel
theorem dksJ6_moveRootToFront_1 : cJ6_moveRootToFront.data.toList.drop 24 = dktJ6_moveRootToFront_1 := dk_seg dksJ6_moveRootToFront_0 24 rfl rfl
theorem dksJ6_moveRootToFront_2 : cJ6_moveRootToFront.data.toList.drop 48 = dktJ6_moveRootToFront_2 := dk_seg dksJ6_moveRootToFront_1 24 rfl rfl
theorem dksJ6_moveRootToFront_3 : cJ6_moveRootToFront.data.toList.drop 70 = dktJ6_moveRootToFront_3 := dk_seg dksJ6_moveRootToFront_2 22 rfl rfl
theorem dksJ6_moveRootToFront_4 : cJ6_moveRootToFront.data.toList.drop 94 = dktJ6_moveRootToFront_4 := dk_seg dksJ6_moveRootToFront_3 24 rfl rfl
theorem dksJ6_moveRootToFront_5 : cJ6_moveRootToFront.data.toList.drop 118 = dktJ6_moveRootToFront_5 := dk_seg dksJ6_moveRootToFront_4 24 rfl rfl
theorem dJ6_moveRootToFront_0 : decode cJ6_moveRootToFront 0 = .ok (.aload_n 1, 1) := dk_43 (dk_at dksJ6_moveRootToFront_0 0 rfl rfl)
theorem dJ6_moveRootToFront_1 : decode cJ6_moveRootToFront 1 = .ok (.ifnull 122, 3) := dk_198 0 122 (dk_at dksJ6_moveRootToFront_0 1 rfl rfl)
theorem dJ6_moveRootToFront_4 : decode cJ6_moveRootToFront 4 = .ok (.aload_n 0, 1) := dk_42 (dk_at dksJ6_moveRootToFront_0 4 rfl rfl)
theorem dJ6_moveRootToFront_5 : decode cJ6_moveRootToFront 5 = .ok (.ifnull 118, 3) := dk_198 0 118 (dk_at dksJ6_moveRootToFront_0 5 rfl rfl)
theorem dJ6_moveRootToFront_8 : decode cJ6_moveRootToFront 8 = .ok (.aload_n 0, 1) := dk_42 (dk_at dksJ6_moveRootToFront_0 8 rfl rfl)
theorem dJ6_moveRootToFront_9 : decode cJ6_moveRootToFront 9 = .ok (.arraylength, 1) := dk_190 (dk_at dksJ6_moveRootToFront_0 9 rfl rfl)
theorem dJ6_moveRootToFront_10 : decode cJ6_moveRootToFront 10 = .ok (.dup, 1) := dk_89 (dk_at dksJ6_moveRootToFront_0 10 rfl rfl)
theorem dJ6_moveRootToFront_11 : decode cJ6_moveRootToFront 11 = .ok (.istore_n 2, 1) := dk_61 (dk_at dksJ6_moveRootToFront_0 11 rfl rfl)
theorem dJ6_moveRootToFront_12 : decode cJ6_moveRootToFront 12 = .ok (.ifCond .le 111, 3) := dk_158 0 111 (dk_at dksJ6_moveRootToFront_0 12 rfl rfl)
theorem dJ6_moveRootToFront_15 : decode cJ6_moveRootToFront 15 = .ok (.iload_n 2, 1) := dk_28 (dk_at dksJ6_moveRootToFront_0 15 rfl rfl)
theorem dJ6_moveRootToFront_16 : decode cJ6_moveRootToFront 16 = .ok (.iconst 1, 1) := dk_4 (dk_at dksJ6_moveRootToFront_0 16 rfl rfl)
theorem dJ6_moveRootToFront_17 : decode cJ6_moveRootToFront 17 = .ok (.isub, 1) := dk_100 (dk_at dksJ6_moveRootToFront_0 17 rfl rfl)
theorem dJ6_moveRootToFront_18 : decode cJ6_moveRootToFront 18 = .ok (.aload_n 1, 1) := dk_43 (dk_at dksJ6_moveRootToFront_0 18 rfl rfl)
theorem dJ6_moveRootToFront_19 : decode cJ6_moveRootToFront 19 = .ok (.getfield 15, 3) := dk_180 0 15 (dk_at dksJ6_moveRootToFront_0 19 rfl rfl)
theorem dJ6_moveRootToFront_22 : decode cJ6_moveRootToFront 22 = .ok (.iand, 1) := dk_126 (dk_at dksJ6_moveRootToFront_0 22 rfl rfl)
theorem dJ6_moveRootToFront_23 : decode cJ6_moveRootToFront 23 = .ok (.istore_n 3, 1) := dk_62 (dk_at dksJ6_moveRootToFront_0 23 rfl rfl)
theorem dJ6_moveRootToFront_24 : decode cJ6_moveRootToFront 24 = .ok (.aload_n 0, 1) := dk_42 (dk_at dksJ6_moveRootToFront_1 0 rfl rfl)
theorem dJ6_moveRootToFront_25 : decode cJ6_moveRootToFront 25 = .ok (.iload_n 3, 1) := dk_29 (dk_at dksJ6_moveRootToFront_1 1 rfl rfl)
theorem dJ6_moveRootToFront_26 : decode cJ6_moveRootToFront 26 = .ok (.aaload, 1) := dk_50 (dk_at dksJ6_moveRootToFront_1 2 rfl rfl)
theorem dJ6_moveRootToFront_27 : decode cJ6_moveRootToFront 27 = .ok (.checkcast 10, 3) := dk_192 0 10 (dk_at dksJ6_moveRootToFront_1 3 rfl rfl)
theorem dJ6_moveRootToFront_30 : decode cJ6_moveRootToFront 30 = .ok (.astore 4, 2) := dk_58 4 (dk_at dksJ6_moveRootToFront_1 6 rfl rfl)
theorem dJ6_moveRootToFront_32 : decode cJ6_moveRootToFront 32 = .ok (.aload_n 1, 1) := dk_43 (dk_at dksJ6_moveRootToFront_1 8 rfl rfl)
theorem dJ6_moveRootToFront_33 : decode cJ6_moveRootToFront 33 = .ok (.aload 4, 2) := dk_25 4 (dk_at dksJ6_moveRootToFront_1 9 rfl rfl)
theorem dJ6_moveRootToFront_35 : decode cJ6_moveRootToFront 35 = .ok (.if_acmp .eq 67, 3) := dk_165 0 67 (dk_at dksJ6_moveRootToFront_1 11 rfl rfl)
theorem dJ6_moveRootToFront_38 : decode cJ6_moveRootToFront 38 = .ok (.aload_n 0, 1) := dk_42 (dk_at dksJ6_moveRootToFront_1 14 rfl rfl)
theorem dJ6_moveRootToFront_39 : decode cJ6_moveRootToFront 39 = .ok (.iload_n 3, 1) := dk_29 (dk_at dksJ6_moveRootToFront_1 15 rfl rfl)
theorem dJ6_moveRootToFront_40 : decode cJ6_moveRootToFront 40 = .ok (.aload_n 1, 1) := dk_43 (dk_at dksJ6_moveRootToFront_1 16 rfl rfl)
theorem dJ6_moveRootToFront_41 : decode cJ6_moveRootToFront 41 = .ok (.aastore, 1) := dk_83 (dk_at dksJ6_moveRootToFront_1 17 rfl rfl)
theorem dJ6_moveRootToFront_42 : decode cJ6_moveRootToFront 42 = .ok (.aload_n 1, 1) := dk_43 (dk_at dksJ6_moveRootToFront_1 18 rfl rfl)
theorem dJ6_moveRootToFront_43 : decode cJ6_moveRootToFront 43 = .ok (.getfield 19, 3) := dk_180 0 19 (dk_at dksJ6_moveRootToFront_1 19 rfl rfl)
theorem dJ6_moveRootToFront_46 : decode cJ6_moveRootToFront 46 = .ok (.astore 6, 2) := dk_58 6 (dk_at dksJ6_moveRootToFront_1 22 rfl rfl)
theorem dJ6_moveRootToFront_48 : decode cJ6_moveRootToFront 48 = .ok (.aload_n 1, 1) := dk_43 (dk_at dksJ6_moveRootToFront_2 0 rfl rfl)
theorem dJ6_moveRootToFront_49 : decode cJ6_moveRootToFront 49 = .ok (.getfield 22, 3) := dk_180 0 22 (dk_at dksJ6_moveRootToFront_2 1 rfl rfl)
theorem dJ6_moveRootToFront_52 : decode cJ6_moveRootToFront 52 = .ok (.dup, 1) := dk_89 (dk_at dksJ6_moveRootToFront_2 4 rfl rfl)
theorem dJ6_moveRootToFront_53 : decode cJ6_moveRootToFront 53 = .ok (.astore 5, 2) := dk_58 5 (dk_at dksJ6_moveRootToFront_2 5 rfl rfl)
theorem dJ6_moveRootToFront_55 : decode cJ6_moveRootToFront 55 = .ok (.ifnull 13, 3) := dk_198 0 13 (dk_at dksJ6_moveRootToFront_2 7 rfl rfl)
theorem dJ6_moveRootToFront_58 : decode cJ6_moveRootToFront 58 = .ok (.aload 5, 2) := dk_25 5 (dk_at dksJ6_moveRootToFront_2 10 rfl rfl)
theorem dJ6_moveRootToFront_60 : decode cJ6_moveRootToFront 60 = .ok (.checkcast 10, 3) := dk_192 0 10 (dk_at dksJ6_moveRootToFront_2 12 rfl rfl)
theorem dJ6_moveRootToFront_63 : decode cJ6_moveRootToFront 63 = .ok (.aload 6, 2) := dk_25 6 (dk_at dksJ6_moveRootToFront_2 15 rfl rfl)
theorem dJ6_moveRootToFront_65 : decode cJ6_moveRootToFront 65 = .ok (.putfield 19, 3) := dk_181 0 19 (dk_at dksJ6_moveRootToFront_2 17 rfl rfl)
theorem dJ6_moveRootToFront_68 : decode cJ6_moveRootToFront 68 = .ok (.aload 6, 2) := dk_25 6 (dk_at dksJ6_moveRootToFront_2 20 rfl rfl)
theorem dJ6_moveRootToFront_70 : decode cJ6_moveRootToFront 70 = .ok (.ifnull 10, 3) := dk_198 0 10 (dk_at dksJ6_moveRootToFront_3 0 rfl rfl)
theorem dJ6_moveRootToFront_73 : decode cJ6_moveRootToFront 73 = .ok (.aload 6, 2) := dk_25 6 (dk_at dksJ6_moveRootToFront_3 3 rfl rfl)
theorem dJ6_moveRootToFront_75 : decode cJ6_moveRootToFront 75 = .ok (.aload 5, 2) := dk_25 5 (dk_at dksJ6_moveRootToFront_3 5 rfl rfl)
theorem dJ6_moveRootToFront_77 : decode cJ6_moveRootToFront 77 = .ok (.putfield 22, 3) := dk_181 0 22 (dk_at dksJ6_moveRootToFront_3 7 rfl rfl)
theorem dJ6_moveRootToFront_80 : decode cJ6_moveRootToFront 80 = .ok (.aload 4, 2) := dk_25 4 (dk_at dksJ6_moveRootToFront_3 10 rfl rfl)
theorem dJ6_moveRootToFront_82 : decode cJ6_moveRootToFront 82 = .ok (.ifnull 9, 3) := dk_198 0 9 (dk_at dksJ6_moveRootToFront_3 12 rfl rfl)
theorem dJ6_moveRootToFront_85 : decode cJ6_moveRootToFront 85 = .ok (.aload 4, 2) := dk_25 4 (dk_at dksJ6_moveRootToFront_3 15 rfl rfl)
theorem dJ6_moveRootToFront_87 : decode cJ6_moveRootToFront 87 = .ok (.aload_n 1, 1) := dk_43 (dk_at dksJ6_moveRootToFront_3 17 rfl rfl)
theorem dJ6_moveRootToFront_88 : decode cJ6_moveRootToFront 88 = .ok (.putfield 19, 3) := dk_181 0 19 (dk_at dksJ6_moveRootToFront_3 18 rfl rfl)
theorem dJ6_moveRootToFront_91 : decode cJ6_moveRootToFront 91 = .ok (.aload_n 1, 1) := dk_43 (dk_at dksJ6_moveRootToFront_3 21 rfl rfl)
theorem dJ6_moveRootToFront_92 : decode cJ6_moveRootToFront 92 = .ok (.aload 4, 2) := dk_25 4 (dk_at dksJ6_moveRootToFront_3 22 rfl rfl)
theorem dJ6_moveRootToFront_94 : decode cJ6_moveRootToFront 94 = .ok (.putfield 22, 3) := dk_181 0 22 (dk_at dksJ6_moveRootToFront_4 0 rfl rfl)
theorem dJ6_moveRootToFront_97 : decode cJ6_moveRootToFront 97 = .ok (.aload_n 1, 1) := dk_43 (dk_at dksJ6_moveRootToFront_4 3 rfl rfl)
theorem dJ6_moveRootToFront_98 : decode cJ6_moveRootToFront 98 = .ok (.aconst_null, 1) := dk_1 (dk_at dksJ6_moveRootToFront_4 4 rfl rfl)
theorem dJ6_moveRootToFront_99 : decode cJ6_moveRootToFront 99 = .ok (.putfield 19, 3) := dk_181 0 19 (dk_at dksJ6_moveRootToFront_4 5 rfl rfl)
theorem dJ6_moveRootToFront_102 : decode cJ6_moveRootToFront 102 = .ok (.getstatic 26, 3) := dk_178 0 26 (dk_at dksJ6_moveRootToFront_4 8 rfl rfl)
theorem dJ6_moveRootToFront_105 : decode cJ6_moveRootToFront 105 = .ok (.ifCond .ne 18, 3) := dk_154 0 18 (dk_at dksJ6_moveRootToFront_4 11 rfl rfl)
theorem dJ6_moveRootToFront_108 : decode cJ6_moveRootToFront 108 = .ok (.aload_n 1, 1) := dk_43 (dk_at dksJ6_moveRootToFront_4 14 rfl rfl)
theorem dJ6_moveRootToFront_109 : decode cJ6_moveRootToFront 109 = .ok (.invokestatic 30, 3) := dk_184 0 30 (dk_at dksJ6_moveRootToFront_4 15 rfl rfl)
theorem dJ6_moveRootToFront_112 : decode cJ6_moveRootToFront 112 = .ok (.ifCond .ne 11, 3) := dk_154 0 11 (dk_at dksJ6_moveRootToFront_4 18 rfl rfl)
theorem dJ6_moveRootToFront_115 : decode cJ6_moveRootToFront 115 = .ok (.new 34, 3) := dk_187 0 34 (dk_at dksJ6_moveRootToFront_4 21 rfl rfl)
theorem dJ6_moveRootToFront_118 : decode cJ6_moveRootToFront 118 = .ok (.dup, 1) := dk_89 (dk_at dksJ6_moveRootToFront_5 0 rfl rfl)
theorem dJ6_moveRootToFront_119 : decode cJ6_moveRootToFront 119 = .ok (.invokespecial 36, 3) := dk_183 0 36 (dk_at dksJ6_moveRootToFront_5 1 rfl rfl)
theorem dJ6_moveRootToFront_122 : decode cJ6_moveRootToFront 122 = .ok (.athrow, 1) := dk_191 (dk_at dksJ6_moveRootToFront_5 4 rfl rfl)
theorem dJ6_moveRootToFront_123 : decode cJ6_moveRootToFront 123 = .ok (.return_, 1) := dk_177 (dk_at dksJ6_moveRootToFront_5 5 rfl rfl)
abbrev cJ6_putTreeVal : ByteArray := prog_36_method_9_code
def yJ6_putTreeVal : MethodName := ⟨RJ6, "putTreeVal", "(Ljava/util/HashMap;[Ljava/util/HashMap$Node;ILjava/lang/Object;Ljava/lang/Object;)Ljava/util/HashMap$TreeNode;"⟩
def dkwJ6_putTreeVal_13 : List UInt8 := [184, 0, 100, 184, 0, 104, 1, 176, 167, 254, 228]
abbrev dktJ6_putTreeVal_13 : List UInt8 := dkwJ6_putTreeVal_13 ++ []
def dkwJ6_putTreeVal_12 : List UInt8 := [181, 0, 9, 25, 14, 198, 0, 13, 25, 14, 192, 0, 10, 25, 15, 181, 0, 19, 44, 25, 8, 25, 15]
abbrev dktJ6_putTreeVal_12 : List UInt8 := dkwJ6_putTreeVal_12 ++ dktJ6_putTreeVal_13
def dkwJ6_putTreeVal_11 : List UInt8 := [25, 15, 181, 0, 42, 25, 13, 25, 15, 181, 0, 22, 25, 15, 25, 15, 25, 13, 90, 181, 0, 19]
abbrev dktJ6_putTreeVal_11 : List UInt8 := dkwJ6_putTreeVal_11 ++ dktJ6_putTreeVal_12
def dkwJ6_putTreeVal_10 : List UInt8 := [25, 14, 182, 0, 115, 58, 15, 21, 10, 157, 0, 13, 25, 13, 25, 15, 181, 0, 39, 167, 0, 10, 25, 13]
abbrev dktJ6_putTreeVal_10 : List UInt8 := dkwJ6_putTreeVal_10 ++ dktJ6_putTreeVal_11
def dkwJ6_putTreeVal_9 : List UInt8 := [25, 9, 180, 0, 42, 89, 58, 9, 199, 0, 93, 25, 13, 180, 0, 22, 58, 14, 43, 29, 25, 4, 25, 5]
abbrev dktJ6_putTreeVal_9 : List UInt8 := dkwJ6_putTreeVal_9 ++ dktJ6_putTreeVal_10
def dkwJ6_putTreeVal_8 : List UInt8 := [25, 12, 184, 0, 96, 54, 10, 25, 9, 58, 13, 21, 10, 157, 0, 11, 25, 9, 180, 0, 39, 167, 0, 8]
abbrev dktJ6_putTreeVal_8 : List UInt8 := dkwJ6_putTreeVal_8 ++ dktJ6_putTreeVal_9
def dkwJ6_putTreeVal_7 : List UInt8 := [198, 0, 22, 25, 14, 29, 25, 4, 25, 6, 182, 0, 63, 89, 58, 13, 198, 0, 6, 25, 13, 176, 25, 4]
abbrev dktJ6_putTreeVal_7 : List UInt8 := dkwJ6_putTreeVal_7 ++ dktJ6_putTreeVal_8
def dkwJ6_putTreeVal_6 : List UInt8 := [29, 25, 4, 25, 6, 182, 0, 63, 89, 58, 13, 199, 0, 30, 25, 9, 180, 0, 42, 89, 58, 14]
abbrev dktJ6_putTreeVal_6 : List UInt8 := dkwJ6_putTreeVal_6 ++ dktJ6_putTreeVal_7
def dkwJ6_putTreeVal_5 : List UInt8 := [154, 0, 77, 21, 7, 154, 0, 63, 4, 54, 7, 25, 9, 180, 0, 39, 89, 58, 14, 198, 0, 19, 25, 14]
abbrev dktJ6_putTreeVal_5 : List UInt8 := dkwJ6_putTreeVal_5 ++ dktJ6_putTreeVal_6
def dkwJ6_putTreeVal_4 : List UInt8 := [25, 4, 184, 0, 55, 89, 58, 6, 198, 0, 18, 25, 6, 25, 4, 25, 12, 184, 0, 59, 89, 54, 10]
abbrev dktJ6_putTreeVal_4 : List UInt8 := dkwJ6_putTreeVal_4 ++ dktJ6_putTreeVal_5
def dkwJ6_putTreeVal_3 : List UInt8 := [25, 4, 198, 0, 16, 25, 4, 25, 12, 182, 0, 49, 153, 0, 6, 25, 9, 176, 25, 6, 199, 0, 14]
abbrev dktJ6_putTreeVal_3 : List UInt8 := dkwJ6_putTreeVal_3 ++ dktJ6_putTreeVal_4
def dkwJ6_putTreeVal_2 : List UInt8 := [29, 162, 0, 9, 4, 54, 10, 167, 0, 139, 25, 9, 180, 0, 45, 89, 58, 12, 25, 4, 165, 0, 18]
abbrev dktJ6_putTreeVal_2 : List UInt8 := dkwJ6_putTreeVal_2 ++ dktJ6_putTreeVal_3
def dkwJ6_putTreeVal_1 : List UInt8 := [25, 8, 58, 9, 25, 9, 180, 0, 15, 89, 54, 11, 29, 164, 0, 9, 2, 54, 10, 167, 0, 151, 21, 11]
abbrev dktJ6_putTreeVal_1 : List UInt8 := dkwJ6_putTreeVal_1 ++ dktJ6_putTreeVal_2
def dkwJ6_putTreeVal_0 : List UInt8 := [1, 58, 6, 3, 54, 7, 42, 180, 0, 9, 198, 0, 10, 42, 182, 0, 67, 167, 0, 4, 42, 58, 8]
abbrev dktJ6_putTreeVal_0 : List UInt8 := dkwJ6_putTreeVal_0 ++ dktJ6_putTreeVal_1
theorem dksJ6_putTreeVal_0 : cJ6_putTreeVal.data.toList.drop 0 = dktJ6_putTreeVal_0 := by decide +kernel
theorem dksJ6_putTreeVal_1 : cJ6_putTreeVal.data.toList.drop 23 = dktJ6_putTreeVal_1 := dk_seg dksJ6_putTreeVal_0 23 rfl rfl
theorem dksJ6_putTreeVal_2 : cJ6_putTreeVal.data.toList.drop 47 = dktJ6_putTreeVal_2 := dk_seg dksJ6_putTreeVal_1 24 rfl rfl
theorem dksJ6_putTreeVal_3 : cJ6_putTreeVal.data.toList.drop 70 = dktJ6_putTreeVal_3 := dk_seg dksJ6_putTreeVal_2 23 rfl rfl
theorem dksJ6_putTreeVal_4 : cJ6_putTreeVal.data.toList.drop 93 = dktJ6_putTreeVal_4 := dk_seg dksJ6_putTreeVal_3 23 rfl rfl
theorem dksJ6_putTreeVal_5 : cJ6_putTreeVal.data.toList.drop 116 = dktJ6_putTreeVal_5 := dk_seg dksJ6_putTreeVal_4 23 rfl rfl
theorem dksJ6_putTreeVal_6 : cJ6_putTreeVal.data.toList.drop 140 = dktJ6_putTreeVal_6 := dk_seg dksJ6_putTreeVal_5 24 rfl rfl
theorem dksJ6_putTreeVal_7 : cJ6_putTreeVal.data.toList.drop 162 = dktJ6_putTreeVal_7 := dk_seg dksJ6_putTreeVal_6 22 rfl rfl
theorem dksJ6_putTreeVal_8 : cJ6_putTreeVal.data.toList.drop 186 = dktJ6_putTreeVal_8 := dk_seg dksJ6_putTreeVal_7 24 rfl rfl
theorem dksJ6_putTreeVal_9 : cJ6_putTreeVal.data.toList.drop 210 = dktJ6_putTreeVal_9 := dk_seg dksJ6_putTreeVal_8 24 rfl rfl
theorem dksJ6_putTreeVal_10 : cJ6_putTreeVal.data.toList.drop 234 = dktJ6_putTreeVal_10 := dk_seg dksJ6_putTreeVal_9 24 rfl rfl
theorem dksJ6_putTreeVal_11 : cJ6_putTreeVal.data.toList.drop 258 = dktJ6_putTreeVal_11 := dk_seg dksJ6_putTreeVal_10 24 rfl rfl
theorem dksJ6_putTreeVal_12 : cJ6_putTreeVal.data.toList.drop 280 = dktJ6_putTreeVal_12 := dk_seg dksJ6_putTreeVal_11 22 rfl rfl
theorem dksJ6_putTreeVal_13 : cJ6_putTreeVal.data.toList.drop 303 = dktJ6_putTreeVal_13 := dk_seg dksJ6_putTreeVal_12 23 rfl rfl
theorem dJ6_putTreeVal_0 : decode cJ6_putTreeVal 0 = .ok (.aconst_null, 1) := dk_1 (dk_at dksJ6_putTreeVal_0 0 rfl rfl)
theorem dJ6_putTreeVal_1 : decode cJ6_putTreeVal 1 = .ok (.astore 6, 2) := dk_58 6 (dk_at dksJ6_putTreeVal_0 1 rfl rfl)
theorem dJ6_putTreeVal_3 : decode cJ6_putTreeVal 3 = .ok (.iconst 0, 1) := dk_3 (dk_at dksJ6_putTreeVal_0 3 rfl rfl)
theorem dJ6_putTreeVal_4 : decode cJ6_putTreeVal 4 = .ok (.istore 7, 2) := dk_54 7 (dk_at dksJ6_putTreeVal_0 4 rfl rfl)
theorem dJ6_putTreeVal_6 : decode cJ6_putTreeVal 6 = .ok (.aload_n 0, 1) := dk_42 (dk_at dksJ6_putTreeVal_0 6 rfl rfl)
theorem dJ6_putTreeVal_7 : decode cJ6_putTreeVal 7 = .ok (.getfield 9, 3) := dk_180 0 9 (dk_at dksJ6_putTreeVal_0 7 rfl rfl)
theorem dJ6_putTreeVal_10 : decode cJ6_putTreeVal 10 = .ok (.ifnull 10, 3) := dk_198 0 10 (dk_at dksJ6_putTreeVal_0 10 rfl rfl)
theorem dJ6_putTreeVal_13 : decode cJ6_putTreeVal 13 = .ok (.aload_n 0, 1) := dk_42 (dk_at dksJ6_putTreeVal_0 13 rfl rfl)
theorem dJ6_putTreeVal_14 : decode cJ6_putTreeVal 14 = .ok (.invokevirtual 67, 3) := dk_182 0 67 (dk_at dksJ6_putTreeVal_0 14 rfl rfl)
theorem dJ6_putTreeVal_17 : decode cJ6_putTreeVal 17 = .ok (.goto 4, 3) := dk_167 0 4 (dk_at dksJ6_putTreeVal_0 17 rfl rfl)
theorem dJ6_putTreeVal_20 : decode cJ6_putTreeVal 20 = .ok (.aload_n 0, 1) := dk_42 (dk_at dksJ6_putTreeVal_0 20 rfl rfl)
theorem dJ6_putTreeVal_21 : decode cJ6_putTreeVal 21 = .ok (.astore 8, 2) := dk_58 8 (dk_at dksJ6_putTreeVal_0 21 rfl rfl)
theorem dJ6_putTreeVal_23 : decode cJ6_putTreeVal 23 = .ok (.aload 8, 2) := dk_25 8 (dk_at dksJ6_putTreeVal_1 0 rfl rfl)
theorem dJ6_putTreeVal_25 : decode cJ6_putTreeVal 25 = .ok (.astore 9, 2) := dk_58 9 (dk_at dksJ6_putTreeVal_1 2 rfl rfl)
theorem dJ6_putTreeVal_27 : decode cJ6_putTreeVal 27 = .ok (.aload 9, 2) := dk_25 9 (dk_at dksJ6_putTreeVal_1 4 rfl rfl)
theorem dJ6_putTreeVal_29 : decode cJ6_putTreeVal 29 = .ok (.getfield 15, 3) := dk_180 0 15 (dk_at dksJ6_putTreeVal_1 6 rfl rfl)
theorem dJ6_putTreeVal_32 : decode cJ6_putTreeVal 32 = .ok (.dup, 1) := dk_89 (dk_at dksJ6_putTreeVal_1 9 rfl rfl)
theorem dJ6_putTreeVal_33 : decode cJ6_putTreeVal 33 = .ok (.istore 11, 2) := dk_54 11 (dk_at dksJ6_putTreeVal_1 10 rfl rfl)
theorem dJ6_putTreeVal_35 : decode cJ6_putTreeVal 35 = .ok (.iload_n 3, 1) := dk_29 (dk_at dksJ6_putTreeVal_1 12 rfl rfl)
theorem dJ6_putTreeVal_36 : decode cJ6_putTreeVal 36 = .ok (.if_icmp .le 9, 3) := dk_164 0 9 (dk_at dksJ6_putTreeVal_1 13 rfl rfl)
theorem dJ6_putTreeVal_39 : decode cJ6_putTreeVal 39 = .ok (.iconst (-1), 1) := dk_2 (dk_at dksJ6_putTreeVal_1 16 rfl rfl)
theorem dJ6_putTreeVal_40 : decode cJ6_putTreeVal 40 = .ok (.istore 10, 2) := dk_54 10 (dk_at dksJ6_putTreeVal_1 17 rfl rfl)
theorem dJ6_putTreeVal_42 : decode cJ6_putTreeVal 42 = .ok (.goto 151, 3) := dk_167 0 151 (dk_at dksJ6_putTreeVal_1 19 rfl rfl)
theorem dJ6_putTreeVal_45 : decode cJ6_putTreeVal 45 = .ok (.iload 11, 2) := dk_21 11 (dk_at dksJ6_putTreeVal_1 22 rfl rfl)
theorem dJ6_putTreeVal_47 : decode cJ6_putTreeVal 47 = .ok (.iload_n 3, 1) := dk_29 (dk_at dksJ6_putTreeVal_2 0 rfl rfl)
theorem dJ6_putTreeVal_48 : decode cJ6_putTreeVal 48 = .ok (.if_icmp .ge 9, 3) := dk_162 0 9 (dk_at dksJ6_putTreeVal_2 1 rfl rfl)
theorem dJ6_putTreeVal_51 : decode cJ6_putTreeVal 51 = .ok (.iconst 1, 1) := dk_4 (dk_at dksJ6_putTreeVal_2 4 rfl rfl)
theorem dJ6_putTreeVal_52 : decode cJ6_putTreeVal 52 = .ok (.istore 10, 2) := dk_54 10 (dk_at dksJ6_putTreeVal_2 5 rfl rfl)
theorem dJ6_putTreeVal_54 : decode cJ6_putTreeVal 54 = .ok (.goto 139, 3) := dk_167 0 139 (dk_at dksJ6_putTreeVal_2 7 rfl rfl)
theorem dJ6_putTreeVal_57 : decode cJ6_putTreeVal 57 = .ok (.aload 9, 2) := dk_25 9 (dk_at dksJ6_putTreeVal_2 10 rfl rfl)
theorem dJ6_putTreeVal_59 : decode cJ6_putTreeVal 59 = .ok (.getfield 45, 3) := dk_180 0 45 (dk_at dksJ6_putTreeVal_2 12 rfl rfl)
theorem dJ6_putTreeVal_62 : decode cJ6_putTreeVal 62 = .ok (.dup, 1) := dk_89 (dk_at dksJ6_putTreeVal_2 15 rfl rfl)
theorem dJ6_putTreeVal_63 : decode cJ6_putTreeVal 63 = .ok (.astore 12, 2) := dk_58 12 (dk_at dksJ6_putTreeVal_2 16 rfl rfl)
theorem dJ6_putTreeVal_65 : decode cJ6_putTreeVal 65 = .ok (.aload 4, 2) := dk_25 4 (dk_at dksJ6_putTreeVal_2 18 rfl rfl)
theorem dJ6_putTreeVal_67 : decode cJ6_putTreeVal 67 = .ok (.if_acmp .eq 18, 3) := dk_165 0 18 (dk_at dksJ6_putTreeVal_2 20 rfl rfl)
theorem dJ6_putTreeVal_70 : decode cJ6_putTreeVal 70 = .ok (.aload 4, 2) := dk_25 4 (dk_at dksJ6_putTreeVal_3 0 rfl rfl)
theorem dJ6_putTreeVal_72 : decode cJ6_putTreeVal 72 = .ok (.ifnull 16, 3) := dk_198 0 16 (dk_at dksJ6_putTreeVal_3 2 rfl rfl)
theorem dJ6_putTreeVal_75 : decode cJ6_putTreeVal 75 = .ok (.aload 4, 2) := dk_25 4 (dk_at dksJ6_putTreeVal_3 5 rfl rfl)
theorem dJ6_putTreeVal_77 : decode cJ6_putTreeVal 77 = .ok (.aload 12, 2) := dk_25 12 (dk_at dksJ6_putTreeVal_3 7 rfl rfl)
theorem dJ6_putTreeVal_79 : decode cJ6_putTreeVal 79 = .ok (.invokevirtual 49, 3) := dk_182 0 49 (dk_at dksJ6_putTreeVal_3 9 rfl rfl)
theorem dJ6_putTreeVal_82 : decode cJ6_putTreeVal 82 = .ok (.ifCond .eq 6, 3) := dk_153 0 6 (dk_at dksJ6_putTreeVal_3 12 rfl rfl)
theorem dJ6_putTreeVal_85 : decode cJ6_putTreeVal 85 = .ok (.aload 9, 2) := dk_25 9 (dk_at dksJ6_putTreeVal_3 15 rfl rfl)
theorem dJ6_putTreeVal_87 : decode cJ6_putTreeVal 87 = .ok (.areturn, 1) := dk_176 (dk_at dksJ6_putTreeVal_3 17 rfl rfl)
theorem dJ6_putTreeVal_88 : decode cJ6_putTreeVal 88 = .ok (.aload 6, 2) := dk_25 6 (dk_at dksJ6_putTreeVal_3 18 rfl rfl)
theorem dJ6_putTreeVal_90 : decode cJ6_putTreeVal 90 = .ok (.ifnonnull 14, 3) := dk_199 0 14 (dk_at dksJ6_putTreeVal_3 20 rfl rfl)
theorem dJ6_putTreeVal_93 : decode cJ6_putTreeVal 93 = .ok (.aload 4, 2) := dk_25 4 (dk_at dksJ6_putTreeVal_4 0 rfl rfl)
theorem dJ6_putTreeVal_95 : decode cJ6_putTreeVal 95 = .ok (.invokestatic 55, 3) := dk_184 0 55 (dk_at dksJ6_putTreeVal_4 2 rfl rfl)
theorem dJ6_putTreeVal_98 : decode cJ6_putTreeVal 98 = .ok (.dup, 1) := dk_89 (dk_at dksJ6_putTreeVal_4 5 rfl rfl)
theorem dJ6_putTreeVal_99 : decode cJ6_putTreeVal 99 = .ok (.astore 6, 2) := dk_58 6 (dk_at dksJ6_putTreeVal_4 6 rfl rfl)
theorem dJ6_putTreeVal_101 : decode cJ6_putTreeVal 101 = .ok (.ifnull 18, 3) := dk_198 0 18 (dk_at dksJ6_putTreeVal_4 8 rfl rfl)
theorem dJ6_putTreeVal_104 : decode cJ6_putTreeVal 104 = .ok (.aload 6, 2) := dk_25 6 (dk_at dksJ6_putTreeVal_4 11 rfl rfl)
theorem dJ6_putTreeVal_106 : decode cJ6_putTreeVal 106 = .ok (.aload 4, 2) := dk_25 4 (dk_at dksJ6_putTreeVal_4 13 rfl rfl)
theorem dJ6_putTreeVal_108 : decode cJ6_putTreeVal 108 = .ok (.aload 12, 2) := dk_25 12 (dk_at dksJ6_putTreeVal_4 15 rfl rfl)
theorem dJ6_putTreeVal_110 : decode cJ6_putTreeVal 110 = .ok (.invokestatic 59, 3) := dk_184 0 59 (dk_at dksJ6_putTreeVal_4 17 rfl rfl)
theorem dJ6_putTreeVal_113 : decode cJ6_putTreeVal 113 = .ok (.dup, 1) := dk_89 (dk_at dksJ6_putTreeVal_4 20 rfl rfl)
theorem dJ6_putTreeVal_114 : decode cJ6_putTreeVal 114 = .ok (.istore 10, 2) := dk_54 10 (dk_at dksJ6_putTreeVal_4 21 rfl rfl)
theorem dJ6_putTreeVal_116 : decode cJ6_putTreeVal 116 = .ok (.ifCond .ne 77, 3) := dk_154 0 77 (dk_at dksJ6_putTreeVal_5 0 rfl rfl)
theorem dJ6_putTreeVal_119 : decode cJ6_putTreeVal 119 = .ok (.iload 7, 2) := dk_21 7 (dk_at dksJ6_putTreeVal_5 3 rfl rfl)
theorem dJ6_putTreeVal_121 : decode cJ6_putTreeVal 121 = .ok (.ifCond .ne 63, 3) := dk_154 0 63 (dk_at dksJ6_putTreeVal_5 5 rfl rfl)
theorem dJ6_putTreeVal_124 : decode cJ6_putTreeVal 124 = .ok (.iconst 1, 1) := dk_4 (dk_at dksJ6_putTreeVal_5 8 rfl rfl)
theorem dJ6_putTreeVal_125 : decode cJ6_putTreeVal 125 = .ok (.istore 7, 2) := dk_54 7 (dk_at dksJ6_putTreeVal_5 9 rfl rfl)
theorem dJ6_putTreeVal_127 : decode cJ6_putTreeVal 127 = .ok (.aload 9, 2) := dk_25 9 (dk_at dksJ6_putTreeVal_5 11 rfl rfl)
theorem dJ6_putTreeVal_129 : decode cJ6_putTreeVal 129 = .ok (.getfield 39, 3) := dk_180 0 39 (dk_at dksJ6_putTreeVal_5 13 rfl rfl)
theorem dJ6_putTreeVal_132 : decode cJ6_putTreeVal 132 = .ok (.dup, 1) := dk_89 (dk_at dksJ6_putTreeVal_5 16 rfl rfl)
theorem dJ6_putTreeVal_133 : decode cJ6_putTreeVal 133 = .ok (.astore 14, 2) := dk_58 14 (dk_at dksJ6_putTreeVal_5 17 rfl rfl)
theorem dJ6_putTreeVal_135 : decode cJ6_putTreeVal 135 = .ok (.ifnull 19, 3) := dk_198 0 19 (dk_at dksJ6_putTreeVal_5 19 rfl rfl)
theorem dJ6_putTreeVal_138 : decode cJ6_putTreeVal 138 = .ok (.aload 14, 2) := dk_25 14 (dk_at dksJ6_putTreeVal_5 22 rfl rfl)
theorem dJ6_putTreeVal_140 : decode cJ6_putTreeVal 140 = .ok (.iload_n 3, 1) := dk_29 (dk_at dksJ6_putTreeVal_6 0 rfl rfl)
theorem dJ6_putTreeVal_141 : decode cJ6_putTreeVal 141 = .ok (.aload 4, 2) := dk_25 4 (dk_at dksJ6_putTreeVal_6 1 rfl rfl)
theorem dJ6_putTreeVal_143 : decode cJ6_putTreeVal 143 = .ok (.aload 6, 2) := dk_25 6 (dk_at dksJ6_putTreeVal_6 3 rfl rfl)
theorem dJ6_putTreeVal_145 : decode cJ6_putTreeVal 145 = .ok (.invokevirtual 63, 3) := dk_182 0 63 (dk_at dksJ6_putTreeVal_6 5 rfl rfl)
theorem dJ6_putTreeVal_148 : decode cJ6_putTreeVal 148 = .ok (.dup, 1) := dk_89 (dk_at dksJ6_putTreeVal_6 8 rfl rfl)
theorem dJ6_putTreeVal_149 : decode cJ6_putTreeVal 149 = .ok (.astore 13, 2) := dk_58 13 (dk_at dksJ6_putTreeVal_6 9 rfl rfl)
theorem dJ6_putTreeVal_151 : decode cJ6_putTreeVal 151 = .ok (.ifnonnull 30, 3) := dk_199 0 30 (dk_at dksJ6_putTreeVal_6 11 rfl rfl)
theorem dJ6_putTreeVal_154 : decode cJ6_putTreeVal 154 = .ok (.aload 9, 2) := dk_25 9 (dk_at dksJ6_putTreeVal_6 14 rfl rfl)
theorem dJ6_putTreeVal_156 : decode cJ6_putTreeVal 156 = .ok (.getfield 42, 3) := dk_180 0 42 (dk_at dksJ6_putTreeVal_6 16 rfl rfl)
theorem dJ6_putTreeVal_159 : decode cJ6_putTreeVal 159 = .ok (.dup, 1) := dk_89 (dk_at dksJ6_putTreeVal_6 19 rfl rfl)
theorem dJ6_putTreeVal_160 : decode cJ6_putTreeVal 160 = .ok (.astore 14, 2) := dk_58 14 (dk_at dksJ6_putTreeVal_6 20 rfl rfl)
theorem dJ6_putTreeVal_162 : decode cJ6_putTreeVal 162 = .ok (.ifnull 22, 3) := dk_198 0 22 (dk_at dksJ6_putTreeVal_7 0 rfl rfl)
theorem dJ6_putTreeVal_165 : decode cJ6_putTreeVal 165 = .ok (.aload 14, 2) := dk_25 14 (dk_at dksJ6_putTreeVal_7 3 rfl rfl)
theorem dJ6_putTreeVal_167 : decode cJ6_putTreeVal 167 = .ok (.iload_n 3, 1) := dk_29 (dk_at dksJ6_putTreeVal_7 5 rfl rfl)
theorem dJ6_putTreeVal_168 : decode cJ6_putTreeVal 168 = .ok (.aload 4, 2) := dk_25 4 (dk_at dksJ6_putTreeVal_7 6 rfl rfl)
theorem dJ6_putTreeVal_170 : decode cJ6_putTreeVal 170 = .ok (.aload 6, 2) := dk_25 6 (dk_at dksJ6_putTreeVal_7 8 rfl rfl)
theorem dJ6_putTreeVal_172 : decode cJ6_putTreeVal 172 = .ok (.invokevirtual 63, 3) := dk_182 0 63 (dk_at dksJ6_putTreeVal_7 10 rfl rfl)
theorem dJ6_putTreeVal_175 : decode cJ6_putTreeVal 175 = .ok (.dup, 1) := dk_89 (dk_at dksJ6_putTreeVal_7 13 rfl rfl)
theorem dJ6_putTreeVal_176 : decode cJ6_putTreeVal 176 = .ok (.astore 13, 2) := dk_58 13 (dk_at dksJ6_putTreeVal_7 14 rfl rfl)
theorem dJ6_putTreeVal_178 : decode cJ6_putTreeVal 178 = .ok (.ifnull 6, 3) := dk_198 0 6 (dk_at dksJ6_putTreeVal_7 16 rfl rfl)
theorem dJ6_putTreeVal_181 : decode cJ6_putTreeVal 181 = .ok (.aload 13, 2) := dk_25 13 (dk_at dksJ6_putTreeVal_7 19 rfl rfl)
theorem dJ6_putTreeVal_183 : decode cJ6_putTreeVal 183 = .ok (.areturn, 1) := dk_176 (dk_at dksJ6_putTreeVal_7 21 rfl rfl)
theorem dJ6_putTreeVal_184 : decode cJ6_putTreeVal 184 = .ok (.aload 4, 2) := dk_25 4 (dk_at dksJ6_putTreeVal_7 22 rfl rfl)
theorem dJ6_putTreeVal_186 : decode cJ6_putTreeVal 186 = .ok (.aload 12, 2) := dk_25 12 (dk_at dksJ6_putTreeVal_8 0 rfl rfl)
theorem dJ6_putTreeVal_188 : decode cJ6_putTreeVal 188 = .ok (.invokestatic 96, 3) := dk_184 0 96 (dk_at dksJ6_putTreeVal_8 2 rfl rfl)
theorem dJ6_putTreeVal_191 : decode cJ6_putTreeVal 191 = .ok (.istore 10, 2) := dk_54 10 (dk_at dksJ6_putTreeVal_8 5 rfl rfl)
theorem dJ6_putTreeVal_193 : decode cJ6_putTreeVal 193 = .ok (.aload 9, 2) := dk_25 9 (dk_at dksJ6_putTreeVal_8 7 rfl rfl)
theorem dJ6_putTreeVal_195 : decode cJ6_putTreeVal 195 = .ok (.astore 13, 2) := dk_58 13 (dk_at dksJ6_putTreeVal_8 9 rfl rfl)
theorem dJ6_putTreeVal_197 : decode cJ6_putTreeVal 197 = .ok (.iload 10, 2) := dk_21 10 (dk_at dksJ6_putTreeVal_8 11 rfl rfl)
theorem dJ6_putTreeVal_199 : decode cJ6_putTreeVal 199 = .ok (.ifCond .gt 11, 3) := dk_157 0 11 (dk_at dksJ6_putTreeVal_8 13 rfl rfl)
theorem dJ6_putTreeVal_202 : decode cJ6_putTreeVal 202 = .ok (.aload 9, 2) := dk_25 9 (dk_at dksJ6_putTreeVal_8 16 rfl rfl)
theorem dJ6_putTreeVal_204 : decode cJ6_putTreeVal 204 = .ok (.getfield 39, 3) := dk_180 0 39 (dk_at dksJ6_putTreeVal_8 18 rfl rfl)
theorem dJ6_putTreeVal_207 : decode cJ6_putTreeVal 207 = .ok (.goto 8, 3) := dk_167 0 8 (dk_at dksJ6_putTreeVal_8 21 rfl rfl)
theorem dJ6_putTreeVal_210 : decode cJ6_putTreeVal 210 = .ok (.aload 9, 2) := dk_25 9 (dk_at dksJ6_putTreeVal_9 0 rfl rfl)
theorem dJ6_putTreeVal_212 : decode cJ6_putTreeVal 212 = .ok (.getfield 42, 3) := dk_180 0 42 (dk_at dksJ6_putTreeVal_9 2 rfl rfl)
theorem dJ6_putTreeVal_215 : decode cJ6_putTreeVal 215 = .ok (.dup, 1) := dk_89 (dk_at dksJ6_putTreeVal_9 5 rfl rfl)
theorem dJ6_putTreeVal_216 : decode cJ6_putTreeVal 216 = .ok (.astore 9, 2) := dk_58 9 (dk_at dksJ6_putTreeVal_9 6 rfl rfl)
theorem dJ6_putTreeVal_218 : decode cJ6_putTreeVal 218 = .ok (.ifnonnull 93, 3) := dk_199 0 93 (dk_at dksJ6_putTreeVal_9 8 rfl rfl)
theorem dJ6_putTreeVal_221 : decode cJ6_putTreeVal 221 = .ok (.aload 13, 2) := dk_25 13 (dk_at dksJ6_putTreeVal_9 11 rfl rfl)
theorem dJ6_putTreeVal_223 : decode cJ6_putTreeVal 223 = .ok (.getfield 22, 3) := dk_180 0 22 (dk_at dksJ6_putTreeVal_9 13 rfl rfl)
theorem dJ6_putTreeVal_226 : decode cJ6_putTreeVal 226 = .ok (.astore 14, 2) := dk_58 14 (dk_at dksJ6_putTreeVal_9 16 rfl rfl)
theorem dJ6_putTreeVal_228 : decode cJ6_putTreeVal 228 = .ok (.aload_n 1, 1) := dk_43 (dk_at dksJ6_putTreeVal_9 18 rfl rfl)
theorem dJ6_putTreeVal_229 : decode cJ6_putTreeVal 229 = .ok (.iload_n 3, 1) := dk_29 (dk_at dksJ6_putTreeVal_9 19 rfl rfl)
theorem dJ6_putTreeVal_230 : decode cJ6_putTreeVal 230 = .ok (.aload 4, 2) := dk_25 4 (dk_at dksJ6_putTreeVal_9 20 rfl rfl)
theorem dJ6_putTreeVal_232 : decode cJ6_putTreeVal 232 = .ok (.aload 5, 2) := dk_25 5 (dk_at dksJ6_putTreeVal_9 22 rfl rfl)
theorem dJ6_putTreeVal_234 : decode cJ6_putTreeVal 234 = .ok (.aload 14, 2) := dk_25 14 (dk_at dksJ6_putTreeVal_10 0 rfl rfl)
theorem dJ6_putTreeVal_236 : decode cJ6_putTreeVal 236 = .ok (.invokevirtual 115, 3) := dk_182 0 115 (dk_at dksJ6_putTreeVal_10 2 rfl rfl)
theorem dJ6_putTreeVal_239 : decode cJ6_putTreeVal 239 = .ok (.astore 15, 2) := dk_58 15 (dk_at dksJ6_putTreeVal_10 5 rfl rfl)
theorem dJ6_putTreeVal_241 : decode cJ6_putTreeVal 241 = .ok (.iload 10, 2) := dk_21 10 (dk_at dksJ6_putTreeVal_10 7 rfl rfl)
theorem dJ6_putTreeVal_243 : decode cJ6_putTreeVal 243 = .ok (.ifCond .gt 13, 3) := dk_157 0 13 (dk_at dksJ6_putTreeVal_10 9 rfl rfl)
theorem dJ6_putTreeVal_246 : decode cJ6_putTreeVal 246 = .ok (.aload 13, 2) := dk_25 13 (dk_at dksJ6_putTreeVal_10 12 rfl rfl)
theorem dJ6_putTreeVal_248 : decode cJ6_putTreeVal 248 = .ok (.aload 15, 2) := dk_25 15 (dk_at dksJ6_putTreeVal_10 14 rfl rfl)
theorem dJ6_putTreeVal_250 : decode cJ6_putTreeVal 250 = .ok (.putfield 39, 3) := dk_181 0 39 (dk_at dksJ6_putTreeVal_10 16 rfl rfl)
theorem dJ6_putTreeVal_253 : decode cJ6_putTreeVal 253 = .ok (.goto 10, 3) := dk_167 0 10 (dk_at dksJ6_putTreeVal_10 19 rfl rfl)
theorem dJ6_putTreeVal_256 : decode cJ6_putTreeVal 256 = .ok (.aload 13, 2) := dk_25 13 (dk_at dksJ6_putTreeVal_10 22 rfl rfl)
theorem dJ6_putTreeVal_258 : decode cJ6_putTreeVal 258 = .ok (.aload 15, 2) := dk_25 15 (dk_at dksJ6_putTreeVal_11 0 rfl rfl)
theorem dJ6_putTreeVal_260 : decode cJ6_putTreeVal 260 = .ok (.putfield 42, 3) := dk_181 0 42 (dk_at dksJ6_putTreeVal_11 2 rfl rfl)
theorem dJ6_putTreeVal_263 : decode cJ6_putTreeVal 263 = .ok (.aload 13, 2) := dk_25 13 (dk_at dksJ6_putTreeVal_11 5 rfl rfl)
theorem dJ6_putTreeVal_265 : decode cJ6_putTreeVal 265 = .ok (.aload 15, 2) := dk_25 15 (dk_at dksJ6_putTreeVal_11 7 rfl rfl)
theorem dJ6_putTreeVal_267 : decode cJ6_putTreeVal 267 = .ok (.putfield 22, 3) := dk_181 0 22 (dk_at dksJ6_putTreeVal_11 9 rfl rfl)
theorem dJ6_putTreeVal_270 : decode cJ6_putTreeVal 270 = .ok (.aload 15, 2) := dk_25 15 (dk_at dksJ6_putTreeVal_11 12 rfl rfl)
theorem dJ6_putTreeVal_272 : decode cJ6_putTreeVal 272 = .ok (.aload 15, 2) := dk_25 15 (dk_at dksJ6_putTreeVal_11 14 rfl rfl)
theorem dJ6_putTreeVal_274 : decode cJ6_putTreeVal 274 = .ok (.aload 13, 2) := dk_25 13 (dk_at dksJ6_putTreeVal_11 16 rfl rfl)
theorem dJ6_putTreeVal_276 : decode cJ6_putTreeVal 276 = .ok (.dup_x1, 1) := dk_90 (dk_at dksJ6_putTreeVal_11 18 rfl rfl)
theorem dJ6_putTreeVal_277 : decode cJ6_putTreeVal 277 = .ok (.putfield 19, 3) := dk_181 0 19 (dk_at dksJ6_putTreeVal_11 19 rfl rfl)
theorem dJ6_putTreeVal_280 : decode cJ6_putTreeVal 280 = .ok (.putfield 9, 3) := dk_181 0 9 (dk_at dksJ6_putTreeVal_12 0 rfl rfl)
theorem dJ6_putTreeVal_283 : decode cJ6_putTreeVal 283 = .ok (.aload 14, 2) := dk_25 14 (dk_at dksJ6_putTreeVal_12 3 rfl rfl)
theorem dJ6_putTreeVal_285 : decode cJ6_putTreeVal 285 = .ok (.ifnull 13, 3) := dk_198 0 13 (dk_at dksJ6_putTreeVal_12 5 rfl rfl)
theorem dJ6_putTreeVal_288 : decode cJ6_putTreeVal 288 = .ok (.aload 14, 2) := dk_25 14 (dk_at dksJ6_putTreeVal_12 8 rfl rfl)
theorem dJ6_putTreeVal_290 : decode cJ6_putTreeVal 290 = .ok (.checkcast 10, 3) := dk_192 0 10 (dk_at dksJ6_putTreeVal_12 10 rfl rfl)
theorem dJ6_putTreeVal_293 : decode cJ6_putTreeVal 293 = .ok (.aload 15, 2) := dk_25 15 (dk_at dksJ6_putTreeVal_12 13 rfl rfl)
theorem dJ6_putTreeVal_295 : decode cJ6_putTreeVal 295 = .ok (.putfield 19, 3) := dk_181 0 19 (dk_at dksJ6_putTreeVal_12 15 rfl rfl)
theorem dJ6_putTreeVal_298 : decode cJ6_putTreeVal 298 = .ok (.aload_n 2, 1) := dk_44 (dk_at dksJ6_putTreeVal_12 18 rfl rfl)
theorem dJ6_putTreeVal_299 : decode cJ6_putTreeVal 299 = .ok (.aload 8, 2) := dk_25 8 (dk_at dksJ6_putTreeVal_12 19 rfl rfl)
theorem dJ6_putTreeVal_301 : decode cJ6_putTreeVal 301 = .ok (.aload 15, 2) := dk_25 15 (dk_at dksJ6_putTreeVal_12 21 rfl rfl)
theorem dJ6_putTreeVal_303 : decode cJ6_putTreeVal 303 = .ok (.invokestatic 100, 3) := dk_184 0 100 (dk_at dksJ6_putTreeVal_13 0 rfl rfl)
theorem dJ6_putTreeVal_306 : decode cJ6_putTreeVal 306 = .ok (.invokestatic 104, 3) := dk_184 0 104 (dk_at dksJ6_putTreeVal_13 3 rfl rfl)
theorem dJ6_putTreeVal_309 : decode cJ6_putTreeVal 309 = .ok (.aconst_null, 1) := dk_1 (dk_at dksJ6_putTreeVal_13 6 rfl rfl)
theorem dJ6_putTreeVal_310 : decode cJ6_putTreeVal 310 = .ok (.areturn, 1) := dk_176 (dk_at dksJ6_putTreeVal_13 7 rfl rfl)
theorem dJ6_putTreeVal_311 : decode cJ6_putTreeVal 311 = .ok (.goto (-284), 3) := dk_167 254 228 (dk_at dksJ6_putTreeVal_13 8 rfl rfl)
abbrev cJ6_init : ByteArray := prog_36_method_1_code
def yJ6_init : MethodName := ⟨RJ6, "<init>", "(ILjava/lang/Object;Ljava/lang/Object;Ljava/util/HashMap$Node;)V"⟩
def dkwJ6_init_0 : List UInt8 := [42, 27, 44, 45, 25, 4, 183, 0, 3, 177]
abbrev dktJ6_init_0 : List UInt8 := dkwJ6_init_0 ++ []
theorem dksJ6_init_0 : cJ6_init.data.toList.drop 0 = dktJ6_init_0 := by decide +kernel
theorem dJ6_init_0 : decode cJ6_init 0 = .ok (.aload_n 0, 1) := dk_42 (dk_at dksJ6_init_0 0 rfl rfl)
theorem dJ6_init_1 : decode cJ6_init 1 = .ok (.iload_n 1, 1) := dk_27 (dk_at dksJ6_init_0 1 rfl rfl)
theorem dJ6_init_2 : decode cJ6_init 2 = .ok (.aload_n 2, 1) := dk_44 (dk_at dksJ6_init_0 2 rfl rfl)
theorem dJ6_init_3 : decode cJ6_init 3 = .ok (.aload_n 3, 1) := dk_45 (dk_at dksJ6_init_0 3 rfl rfl)
theorem dJ6_init_4 : decode cJ6_init 4 = .ok (.aload 4, 2) := dk_25 4 (dk_at dksJ6_init_0 4 rfl rfl)
theorem dJ6_init_6 : decode cJ6_init 6 = .ok (.invokespecial 3, 3) := dk_183 0 3 (dk_at dksJ6_init_0 6 rfl rfl)
theorem dJ6_init_9 : decode cJ6_init 9 = .ok (.return_, 1) := dk_177 (dk_at dksJ6_init_0 9 rfl rfl)
theorem q131 : (Jvm.Cond.initialized "java/util/HashMap$TreeNode") ∈ lw_all := lw_g (lw_at lw_m1 17 rfl) rfl
theorem q616 : (Jvm.Cond.instanceMethod ({ cls := "java/util/HashMap$TreeNode", name := "getTreeNode", desc := "(ILjava/lang/Object;)Ljava/util/HashMap$TreeNode;" } : Jvm.MethodName)) ∈ lw_all := lw_g (lw_at lw_m3 22 rfl) rfl
theorem q617 : (Jvm.Cond.selects "java/util/HashMap$TreeNode" ({ cls := "java/util/HashMap$TreeNode", name := "getTreeNode", desc := "(ILjava/lang/Object;)Ljava/util/HashMap$TreeNode;" } : Jvm.MethodName) ({ cls := "java/util/HashMap$TreeNode", name := "getTreeNode", desc := "(ILjava/lang/Object;)Ljava/util/HashMap$TreeNode;" } : Jvm.MethodName)) ∈ lw_all := lw_g (lw_at lw_m3 23 rfl) rfl
theorem q618 : (Jvm.Cond.code ({ cls := "java/util/HashMap$TreeNode", name := "getTreeNode", desc := "(ILjava/lang/Object;)Ljava/util/HashMap$TreeNode;" } : Jvm.MethodName) prog_36_method_5_code (3 : Nat) (Option.some (Jvm.ClassFile.FieldType.object "java/util/HashMap$TreeNode"))) ∈ lw_all := lw_g (lw_at lw_m3 24 rfl) rfl
theorem q619 : (Jvm.Cond.methodLink "java/util/HashMap$TreeNode" (67 : Nat) ({ cls := "java/util/HashMap$TreeNode", name := "root", desc := "()Ljava/util/HashMap$TreeNode;" } : Jvm.MethodName)) ∈ lw_all := lw_g (lw_at lw_m3 25 rfl) rfl
theorem q620 : (Jvm.Cond.instanceMethod ({ cls := "java/util/HashMap$TreeNode", name := "root", desc := "()Ljava/util/HashMap$TreeNode;" } : Jvm.MethodName)) ∈ lw_all := lw_g (lw_at lw_m3 26 rfl) rfl
theorem q621 : (Jvm.Cond.selects "java/util/HashMap$TreeNode" ({ cls := "java/util/HashMap$TreeNode", name := "root", desc := "()Ljava/util/HashMap$TreeNode;" } : Jvm.MethodName) ({ cls := "java/util/HashMap$TreeNode", name := "root", desc := "()Ljava/util/HashMap$TreeNode;" } : Jvm.MethodName)) ∈ lw_all := lw_g (lw_at lw_m3 27 rfl) rfl
theorem q622 : (Jvm.Cond.code ({ cls := "java/util/HashMap$TreeNode", name := "root", desc := "()Ljava/util/HashMap$TreeNode;" } : Jvm.MethodName) prog_36_method_2_code (3 : Nat) (Option.some (Jvm.ClassFile.FieldType.object "java/util/HashMap$TreeNode"))) ∈ lw_all := lw_g (lw_at lw_m3 28 rfl) rfl
theorem q623 : (Jvm.Cond.methodLink "java/util/HashMap$TreeNode" (63 : Nat) ({ cls := "java/util/HashMap$TreeNode", name := "find", desc := "(ILjava/lang/Object;Ljava/lang/Class;)Ljava/util/HashMap$TreeNode;" } : Jvm.MethodName)) ∈ lw_all := lw_g (lw_at lw_m3 29 rfl) rfl
theorem q624 : (Jvm.Cond.instanceMethod ({ cls := "java/util/HashMap$TreeNode", name := "find", desc := "(ILjava/lang/Object;Ljava/lang/Class;)Ljava/util/HashMap$TreeNode;" } : Jvm.MethodName)) ∈ lw_all := lw_g (lw_at lw_m3 30 rfl) rfl
theorem q625 : (Jvm.Cond.selects "java/util/HashMap$TreeNode" ({ cls := "java/util/HashMap$TreeNode", name := "find", desc := "(ILjava/lang/Object;Ljava/lang/Class;)Ljava/util/HashMap$TreeNode;" } : Jvm.MethodName) ({ cls := "java/util/HashMap$TreeNode", name := "find", desc := "(ILjava/lang/Object;Ljava/lang/Class;)Ljava/util/HashMap$TreeNode;" } : Jvm.MethodName)) ∈ lw_all := lw_g (lw_at lw_m3 31 rfl) rfl
theorem q626 : (Jvm.Cond.code ({ cls := "java/util/HashMap$TreeNode", name := "find", desc := "(ILjava/lang/Object;Ljava/lang/Class;)Ljava/util/HashMap$TreeNode;" } : Jvm.MethodName) prog_36_method_4_code (11 : Nat) (Option.some (Jvm.ClassFile.FieldType.object "java/util/HashMap$TreeNode"))) ∈ lw_all := lw_g (lw_at lw_m3 32 rfl) rfl
theorem q627 : (Jvm.Cond.methodLink "java/util/HashMap$TreeNode" (49 : Nat) ({ cls := "java/lang/Object", name := "equals", desc := "(Ljava/lang/Object;)Z" } : Jvm.MethodName)) ∈ lw_all := lw_g (lw_at lw_m3 33 rfl) rfl
theorem q628 : (Jvm.Cond.methodLink "java/util/HashMap$TreeNode" (55 : Nat) ({ cls := "java/util/HashMap", name := "comparableClassFor", desc := "(Ljava/lang/Object;)Ljava/lang/Class;" } : Jvm.MethodName)) ∈ lw_all := lw_g (lw_at lw_m3 34 rfl) rfl
theorem q650 : (Jvm.Cond.selects "java/util/HashMap$TreeNode" ({ cls := "java/lang/Object", name := "getClass", desc := "()Ljava/lang/Class;" } : Jvm.MethodName) ({ cls := "java/lang/Object", name := "getClass", desc := "()Ljava/lang/Class;" } : Jvm.MethodName)) ∈ lw_all := lw_g (lw_at lw_m3 56 rfl) rfl
theorem q654 : (Jvm.Cond.methodLink "java/util/HashMap$TreeNode" (59 : Nat) ({ cls := "java/util/HashMap", name := "compareComparables", desc := "(Ljava/lang/Class;Ljava/lang/Object;Ljava/lang/Object;)I" } : Jvm.MethodName)) ∈ lw_all := lw_g (lw_at lw_m3 60 rfl) rfl
theorem q698 : (Jvm.Cond.instanceMethod ({ cls := "java/util/HashMap$TreeNode", name := "split", desc := "(Ljava/util/HashMap;[Ljava/util/HashMap$Node;II)V" } : Jvm.MethodName)) ∈ lw_all := lw_g (lw_at lw_m3 104 rfl) rfl
theorem q699 : (Jvm.Cond.selects "java/util/HashMap$TreeNode" ({ cls := "java/util/HashMap$TreeNode", name := "split", desc := "(Ljava/util/HashMap;[Ljava/util/HashMap$Node;II)V" } : Jvm.MethodName) ({ cls := "java/util/HashMap$TreeNode", name := "split", desc := "(Ljava/util/HashMap;[Ljava/util/HashMap$Node;II)V" } : Jvm.MethodName)) ∈ lw_all := lw_g (lw_at lw_m3 105 rfl) rfl
theorem q700 : (Jvm.Cond.code ({ cls := "java/util/HashMap$TreeNode", name := "split", desc := "(Ljava/util/HashMap;[Ljava/util/HashMap$Node;II)V" } : Jvm.MethodName) prog_36_method_11_code (14 : Nat) (Option.none : Option Jvm.ClassFile.FieldType)) ∈ lw_all := lw_g (lw_at lw_m3 106 rfl) rfl
theorem q701 : (Jvm.Cond.classLink "java/util/HashMap$TreeNode" (10 : Nat) "java/util/HashMap$TreeNode") ∈ lw_all := lw_g (lw_at lw_m3 107 rfl) rfl
theorem q702 : (Jvm.Cond.methodLink "java/util/HashMap$TreeNode" (119 : Nat) ({ cls := "java/util/HashMap$TreeNode", name := "untreeify", desc := "(Ljava/util/HashMap;)Ljava/util/HashMap$Node;" } : Jvm.MethodName)) ∈ lw_all := lw_g (lw_at lw_m3 108 rfl) rfl
theorem q703 : (Jvm.Cond.instanceMethod ({ cls := "java/util/HashMap$TreeNode", name := "untreeify", desc := "(Ljava/util/HashMap;)Ljava/util/HashMap$Node;" } : Jvm.MethodName)) ∈ lw_all := lw_g (lw_at lw_m3 109 rfl) rfl
theorem q704 : (Jvm.Cond.selects "java/util/HashMap$TreeNode" ({ cls := "java/util/HashMap$TreeNode", name := "untreeify", desc := "(Ljava/util/HashMap;)Ljava/util/HashMap$Node;" } : Jvm.MethodName) ({ cls := "java/util/HashMap$TreeNode", name := "untreeify", desc := "(Ljava/util/HashMap;)Ljava/util/HashMap$Node;" } : Jvm.MethodName)) ∈ lw_all := lw_g (lw_at lw_m3 110 rfl) rfl
theorem q705 : (Jvm.Cond.code ({ cls := "java/util/HashMap$TreeNode", name := "untreeify", desc := "(Ljava/util/HashMap;)Ljava/util/HashMap$Node;" } : Jvm.MethodName) prog_36_method_8_code (6 : Nat) (Option.some (Jvm.ClassFile.FieldType.object "java/util/HashMap$Node"))) ∈ lw_all := lw_g (lw_at lw_m3 111 rfl) rfl
theorem q706 : (Jvm.Cond.methodLink "java/util/HashMap$TreeNode" (108 : Nat) ({ cls := "java/util/HashMap", name := "replacementNode", desc := "(Ljava/util/HashMap$Node;Ljava/util/HashMap$Node;)Ljava/util/HashMap$Node;" } : Jvm.MethodName)) ∈ lw_all := lw_g (lw_at lw_m3 112 rfl) rfl
theorem q716 : (Jvm.Cond.fieldLink "java/util/HashMap$TreeNode" (15 : Nat) "java/util/HashMap$TreeNode" "hash" "I") ∈ lw_all := lw_g (lw_at lw_m3 122 rfl) rfl
theorem q717 : (Jvm.Cond.sameField "java/util/HashMap$TreeNode" "java/util/HashMap$Node" "hash" "I") ∈ lw_all := lw_g (lw_at lw_m3 123 rfl) rfl
theorem q720 : (Jvm.Cond.fieldLink "java/util/HashMap$TreeNode" (45 : Nat) "java/util/HashMap$TreeNode" "key" "Ljava/lang/Object;") ∈ lw_all := lw_g (lw_at lw_m3 126 rfl) rfl
theorem q721 : (Jvm.Cond.sameField "java/util/HashMap$TreeNode" "java/util/HashMap$Node" "key" "Ljava/lang/Object;") ∈ lw_all := lw_g (lw_at lw_m3 127 rfl) rfl
theorem q726 : (Jvm.Cond.fieldLink "java/util/HashMap$TreeNode" (22 : Nat) "java/util/HashMap$TreeNode" "next" "Ljava/util/HashMap$Node;") ∈ lw_all := lw_g (lw_at lw_m3 132 rfl) rfl
theorem q727 : (Jvm.Cond.sameField "java/util/HashMap$TreeNode" "java/util/HashMap$Node" "next" "Ljava/util/HashMap$Node;") ∈ lw_all := lw_g (lw_at lw_m3 133 rfl) rfl
theorem q728 : (Jvm.Cond.fieldLink "java/util/HashMap$TreeNode" (112 : Nat) "java/util/HashMap$Node" "next" "Ljava/util/HashMap$Node;") ∈ lw_all := lw_g (lw_at lw_m3 134 rfl) rfl
theorem q740 : (Jvm.Cond.methodLink "java/util/HashMap$TreeNode" (126 : Nat) ({ cls := "java/util/HashMap$TreeNode", name := "treeify", desc := "([Ljava/util/HashMap$Node;)V" } : Jvm.MethodName)) ∈ lw_all := lw_g (lw_at lw_m3 146 rfl) rfl
theorem q741 : (Jvm.Cond.instanceMethod ({ cls := "java/util/HashMap$TreeNode", name := "treeify", desc := "([Ljava/util/HashMap$Node;)V" } : Jvm.MethodName)) ∈ lw_all := lw_g (lw_at lw_m3 147 rfl) rfl
theorem q742 : (Jvm.Cond.selects "java/util/HashMap$TreeNode" ({ cls := "java/util/HashMap$TreeNode", name := "treeify", desc := "([Ljava/util/HashMap$Node;)V" } : Jvm.MethodName) ({ cls := "java/util/HashMap$TreeNode", name := "treeify", desc := "([Ljava/util/HashMap$Node;)V" } : Jvm.MethodName)) ∈ lw_all := lw_g (lw_at lw_m3 148 rfl) rfl
theorem q743 : (Jvm.Cond.code ({ cls := "java/util/HashMap$TreeNode", name := "treeify", desc := "([Ljava/util/HashMap$Node;)V" } : Jvm.MethodName) prog_36_method_7_code (13 : Nat) (Option.none : Option Jvm.ClassFile.FieldType)) ∈ lw_all := lw_g (lw_at lw_m3 149 rfl) rfl
theorem q744 : (Jvm.Cond.methodLink "java/util/HashMap$TreeNode" (100 : Nat) ({ cls := "java/util/HashMap$TreeNode", name := "balanceInsertion", desc := "(Ljava/util/HashMap$TreeNode;Ljava/util/HashMap$TreeNode;)Ljava/util/HashMap$TreeNode;" } : Jvm.MethodName)) ∈ lw_all := lw_g (lw_at lw_m3 150 rfl) rfl
theorem q745 : (Jvm.Cond.static ({ cls := "java/util/HashMap$TreeNode", name := "balanceInsertion", desc := "(Ljava/util/HashMap$TreeNode;Ljava/util/HashMap$TreeNode;)Ljava/util/HashMap$TreeNode;" } : Jvm.MethodName)) ∈ lw_all := lw_g (lw_at lw_m3 151 rfl) rfl
theorem q746 : (Jvm.Cond.code ({ cls := "java/util/HashMap$TreeNode", name := "balanceInsertion", desc := "(Ljava/util/HashMap$TreeNode;Ljava/util/HashMap$TreeNode;)Ljava/util/HashMap$TreeNode;" } : Jvm.MethodName) prog_36_method_14_code (6 : Nat) (Option.some (Jvm.ClassFile.FieldType.object "java/util/HashMap$TreeNode"))) ∈ lw_all := lw_g (lw_at lw_m3 152 rfl) rfl
theorem q747 : (Jvm.Cond.methodLink "java/util/HashMap$TreeNode" (130 : Nat) ({ cls := "java/util/HashMap$TreeNode", name := "rotateLeft", desc := "(Ljava/util/HashMap$TreeNode;Ljava/util/HashMap$TreeNode;)Ljava/util/HashMap$TreeNode;" } : Jvm.MethodName)) ∈ lw_all := lw_g (lw_at lw_m3 153 rfl) rfl
theorem q748 : (Jvm.Cond.static ({ cls := "java/util/HashMap$TreeNode", name := "rotateLeft", desc := "(Ljava/util/HashMap$TreeNode;Ljava/util/HashMap$TreeNode;)Ljava/util/HashMap$TreeNode;" } : Jvm.MethodName)) ∈ lw_all := lw_g (lw_at lw_m3 154 rfl) rfl
theorem q749 : (Jvm.Cond.code ({ cls := "java/util/HashMap$TreeNode", name := "rotateLeft", desc := "(Ljava/util/HashMap$TreeNode;Ljava/util/HashMap$TreeNode;)Ljava/util/HashMap$TreeNode;" } : Jvm.MethodName) prog_36_method_12_code (5 : Nat) (Option.some (Jvm.ClassFile.FieldType.object "java/util/HashMap$TreeNode"))) ∈ lw_all := lw_g (lw_at lw_m3 155 rfl) rfl
theorem q750 : (Jvm.Cond.methodLink "java/util/HashMap$TreeNode" (133 : Nat) ({ cls := "java/util/HashMap$TreeNode", name := "rotateRight", desc := "(Ljava/util/HashMap$TreeNode;Ljava/util/HashMap$TreeNode;)Ljava/util/HashMap$TreeNode;" } : Jvm.MethodName)) ∈ lw_all := lw_g (lw_at lw_m3 156 rfl) rfl
theorem q751 : (Jvm.Cond.static ({ cls := "java/util/HashMap$TreeNode", name := "rotateRight", desc := "(Ljava/util/HashMap$TreeNode;Ljava/util/HashMap$TreeNode;)Ljava/util/HashMap$TreeNode;" } : Jvm.MethodName)) ∈ lw_all := lw_g (lw_at lw_m3 157 rfl) rfl
theorem q752 : (Jvm.Cond.code ({ cls := "java/util/HashMap$TreeNode", name := "rotateRight", desc := "(Ljava/util/HashMap$TreeNode;Ljava/util/HashMap$TreeNode;)Ljava/util/HashMap$TreeNode;" } : Jvm.MethodName) prog_36_method_13_code (5 : Nat) (Option.some (Jvm.ClassFile.FieldType.object "java/util/HashMap$TreeNode"))) ∈ lw_all := lw_g (lw_at lw_m3 158 rfl) rfl
theorem q753 : (Jvm.Cond.methodLink "java/util/HashMap$TreeNode" (104 : Nat) ({ cls := "java/util/HashMap$TreeNode", name := "moveRootToFront", desc := "([Ljava/util/HashMap$Node;Ljava/util/HashMap$TreeNode;)V" } : Jvm.MethodName)) ∈ lw_all := lw_g (lw_at lw_m3 159 rfl) rfl
theorem q754 : (Jvm.Cond.static ({ cls := "java/util/HashMap$TreeNode", name := "moveRootToFront", desc := "([Ljava/util/HashMap$Node;Ljava/util/HashMap$TreeNode;)V" } : Jvm.MethodName)) ∈ lw_all := lw_g (lw_at lw_m3 160 rfl) rfl
theorem q755 : (Jvm.Cond.code ({ cls := "java/util/HashMap$TreeNode", name := "moveRootToFront", desc := "([Ljava/util/HashMap$Node;Ljava/util/HashMap$TreeNode;)V" } : Jvm.MethodName) prog_36_method_3_code (7 : Nat) (Option.none : Option Jvm.ClassFile.FieldType)) ∈ lw_all := lw_g (lw_at lw_m3 161 rfl) rfl
theorem q756 : (Jvm.Cond.fieldLink "java/util/HashMap$TreeNode" (26 : Nat) "java/util/HashMap$TreeNode" "$assertionsDisabled" "Z") ∈ lw_all := lw_g (lw_at lw_m3 162 rfl) rfl
theorem q757 : (Jvm.Cond.laysStatic "java/util/HashMap$TreeNode" "$assertionsDisabled" "Z") ∈ lw_tbl := lw_at lw_m3 163 rfl
theorem q763 : (Jvm.Cond.instanceMethod ({ cls := "java/util/HashMap$TreeNode", name := "putTreeVal", desc := "(Ljava/util/HashMap;[Ljava/util/HashMap$Node;ILjava/lang/Object;Ljava/lang/Object;)Ljava/util/HashMap$TreeNode;" } : Jvm.MethodName)) ∈ lw_all := lw_g (lw_at lw_m3 169 rfl) rfl
theorem q764 : (Jvm.Cond.selects "java/util/HashMap$TreeNode" ({ cls := "java/util/HashMap$TreeNode", name := "putTreeVal", desc := "(Ljava/util/HashMap;[Ljava/util/HashMap$Node;ILjava/lang/Object;Ljava/lang/Object;)Ljava/util/HashMap$TreeNode;" } : Jvm.MethodName) ({ cls := "java/util/HashMap$TreeNode", name := "putTreeVal", desc := "(Ljava/util/HashMap;[Ljava/util/HashMap$Node;ILjava/lang/Object;Ljava/lang/Object;)Ljava/util/HashMap$TreeNode;" } : Jvm.MethodName)) ∈ lw_all := lw_g (lw_at lw_m3 170 rfl) rfl
theorem q765 : (Jvm.Cond.code ({ cls := "java/util/HashMap$TreeNode", name := "putTreeVal", desc := "(Ljava/util/HashMap;[Ljava/util/HashMap$Node;ILjava/lang/Object;Ljava/lang/Object;)Ljava/util/HashMap$TreeNode;" } : Jvm.MethodName) prog_36_method_9_code (16 : Nat) (Option.some (Jvm.ClassFile.FieldType.object "java/util/HashMap$TreeNode"))) ∈ lw_all := lw_g (lw_at lw_m3 171 rfl) rfl
theorem q766 : (Jvm.Cond.methodLink "java/util/HashMap$TreeNode" (115 : Nat) ({ cls := "java/util/HashMap", name := "newTreeNode", desc := "(ILjava/lang/Object;Ljava/lang/Object;Ljava/util/HashMap$Node;)Ljava/util/HashMap$TreeNode;" } : Jvm.MethodName)) ∈ lw_all := lw_g (lw_at lw_m3 172 rfl) rfl
theorem q770 : (Jvm.Cond.instantiable "java/util/HashMap$TreeNode" (11 : Nat)) ∈ lw_all := lw_g (lw_at lw_m3 176 rfl) rfl
theorem q772 : (Jvm.Cond.instanceMethod ({ cls := "java/util/HashMap$TreeNode", name := "<init>", desc := "(ILjava/lang/Object;Ljava/lang/Object;Ljava/util/HashMap$Node;)V" } : Jvm.MethodName)) ∈ lw_all := lw_g (lw_at lw_m3 178 rfl) rfl
theorem q773 : (Jvm.Cond.code ({ cls := "java/util/HashMap$TreeNode", name := "<init>", desc := "(ILjava/lang/Object;Ljava/lang/Object;Ljava/util/HashMap$Node;)V" } : Jvm.MethodName) prog_36_method_1_code (5 : Nat) (Option.none : Option Jvm.ClassFile.FieldType)) ∈ lw_all := lw_g (lw_at lw_m3 179 rfl) rfl
theorem q774 : (Jvm.Cond.methodLink "java/util/HashMap$TreeNode" (3 : Nat) ({ cls := "java/util/LinkedHashMap$Entry", name := "<init>", desc := "(ILjava/lang/Object;Ljava/lang/Object;Ljava/util/HashMap$Node;)V" } : Jvm.MethodName)) ∈ lw_all := lw_g (lw_at lw_m3 180 rfl) rfl
theorem q778 : (Jvm.Cond.fieldLink "java/util/HashMap$TreeNode" (9 : Nat) "java/util/HashMap$TreeNode" "parent" "Ljava/util/HashMap$TreeNode;") ∈ lw_all := lw_g (lw_at lw_m3 184 rfl) rfl
theorem q779 : (Jvm.Cond.fieldLink "java/util/HashMap$TreeNode" (39 : Nat) "java/util/HashMap$TreeNode" "left" "Ljava/util/HashMap$TreeNode;") ∈ lw_all := lw_g (lw_at lw_m3 185 rfl) rfl
theorem q780 : (Jvm.Cond.fieldLink "java/util/HashMap$TreeNode" (42 : Nat) "java/util/HashMap$TreeNode" "right" "Ljava/util/HashMap$TreeNode;") ∈ lw_all := lw_g (lw_at lw_m3 186 rfl) rfl
theorem q781 : (Jvm.Cond.fieldLink "java/util/HashMap$TreeNode" (19 : Nat) "java/util/HashMap$TreeNode" "prev" "Ljava/util/HashMap$TreeNode;") ∈ lw_all := lw_g (lw_at lw_m3 187 rfl) rfl
theorem q783 : (Jvm.Cond.fieldLink "java/util/HashMap$TreeNode" (93 : Nat) "java/util/HashMap$TreeNode" "red" "Z") ∈ lw_all := lw_g (lw_at lw_m3 189 rfl) rfl
theorem q784 : (Jvm.Cond.lays "java/util/HashMap$TreeNode" "java/util/HashMap$TreeNode" "parent" "Ljava/util/HashMap$TreeNode;") ∈ lw_all := lw_g (lw_at lw_m3 190 rfl) rfl
theorem q785 : (Jvm.Cond.soleField "java/util/HashMap$TreeNode" "parent") ∈ lw_all := lw_g (lw_at lw_m3 191 rfl) rfl
theorem q786 : (Jvm.Cond.lays "java/util/HashMap$TreeNode" "java/util/HashMap$TreeNode" "left" "Ljava/util/HashMap$TreeNode;") ∈ lw_all := lw_g (lw_at lw_m3 192 rfl) rfl
theorem q787 : (Jvm.Cond.soleField "java/util/HashMap$TreeNode" "left") ∈ lw_all := lw_g (lw_at lw_m3 193 rfl) rfl
theorem q788 : (Jvm.Cond.lays "java/util/HashMap$TreeNode" "java/util/HashMap$TreeNode" "right" "Ljava/util/HashMap$TreeNode;") ∈ lw_all := lw_g (lw_at lw_m3 194 rfl) rfl
theorem q789 : (Jvm.Cond.soleField "java/util/HashMap$TreeNode" "right") ∈ lw_all := lw_g (lw_at lw_m3 195 rfl) rfl
theorem q790 : (Jvm.Cond.lays "java/util/HashMap$TreeNode" "java/util/HashMap$TreeNode" "prev" "Ljava/util/HashMap$TreeNode;") ∈ lw_all := lw_g (lw_at lw_m3 196 rfl) rfl
theorem q791 : (Jvm.Cond.soleField "java/util/HashMap$TreeNode" "prev") ∈ lw_all := lw_g (lw_at lw_m3 197 rfl) rfl
theorem q792 : (Jvm.Cond.lays "java/util/HashMap$TreeNode" "java/util/HashMap$TreeNode" "red" "Z") ∈ lw_all := lw_g (lw_at lw_m3 198 rfl) rfl
theorem q793 : (Jvm.Cond.soleField "java/util/HashMap$TreeNode" "red") ∈ lw_all := lw_g (lw_at lw_m3 199 rfl) rfl
theorem q794 : (Jvm.Cond.lays "java/util/HashMap$TreeNode" "java/util/LinkedHashMap$Entry" "before" "Ljava/util/LinkedHashMap$Entry;") ∈ lw_all := lw_g (lw_at lw_m3 200 rfl) rfl
theorem q796 : (Jvm.Cond.lays "java/util/HashMap$TreeNode" "java/util/LinkedHashMap$Entry" "after" "Ljava/util/LinkedHashMap$Entry;") ∈ lw_all := lw_g (lw_at lw_m3 202 rfl) rfl
theorem q798 : (Jvm.Cond.laysFinal "java/util/HashMap$TreeNode" "java/util/HashMap$Node" "hash" "I") ∈ lw_all := lw_g (lw_at lw_m3 204 rfl) rfl
theorem q799 : (Jvm.Cond.laysFinal "java/util/HashMap$TreeNode" "java/util/HashMap$Node" "key" "Ljava/lang/Object;") ∈ lw_all := lw_g (lw_at lw_m3 205 rfl) rfl
theorem q800 : (Jvm.Cond.lays "java/util/HashMap$TreeNode" "java/util/HashMap$Node" "value" "Ljava/lang/Object;") ∈ lw_all := lw_g (lw_at lw_m3 206 rfl) rfl
theorem q801 : (Jvm.Cond.lays "java/util/HashMap$TreeNode" "java/util/HashMap$Node" "next" "Ljava/util/HashMap$Node;") ∈ lw_all := lw_g (lw_at lw_m3 207 rfl) rfl
theorem q802 : (Jvm.Cond.superclass "java/util/HashMap$TreeNode" "java/util/LinkedHashMap$Entry") ∈ lw_all := lw_g (lw_at lw_m3 208 rfl) rfl
theorem q2005 : (Jvm.Cond.castable "java/util/HashMap$TreeNode" "java/lang/Object") ∈ lw_tbl := lw_at lw_m8 211 rfl
theorem q2012 : (Jvm.Cond.castable "java/util/HashMap$TreeNode" "java/util/HashMap$Node") ∈ lw_tbl := lw_at lw_m8 218 rfl
theorem in_J6 : ∀ w ∈ wsJ60, w ∈ lw_all := lw_in wsJ60 [794, 796, 798, 799, 800, 801, 784, 786, 788, 790, 792] (by decide +kernel) (by decide +kernel)
