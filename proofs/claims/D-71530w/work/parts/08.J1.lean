/-! java/util/HashMap -/
set_option maxRecDepth 100000
def RJ1 : String := "java/util/HashMap"
def TJ1 : u_T := fun k => match k with
  | 0 => ("java/util/AbstractMap", "keySet", "Ljava/util/Set;", false)
  | 1 => ("java/util/AbstractMap", "values", "Ljava/util/Collection;", false)
  | 2 => ("java/util/HashMap", "table", "[Ljava/util/HashMap$Node;", false)
  | 3 => ("java/util/HashMap", "entrySet", "Ljava/util/Set;", false)
  | 4 => ("java/util/HashMap", "size", "I", false)
  | 5 => ("java/util/HashMap", "modCount", "I", false)
  | 6 => ("java/util/HashMap", "threshold", "I", false)
  | _ => ("java/util/HashMap", "loadFactor", "F", true)
def tyJ1 : Nat → FieldType := fun k => match k with
  | 0 => .object "java/util/Set"
  | 1 => .object "java/util/Collection"
  | 2 => .array (.object "java/util/HashMap$Node")
  | 3 => .object "java/util/Set"
  | 4 => .int
  | 5 => .int
  | 6 => .int
  | _ => .float
abbrev wsJ10 : List Cond := u_ws RJ1 TJ1 8
theorem nmJ1 : ∀ a, a < 8 → ∀ b, b < 8 → a ≠ b → (TJ1 a).2.1 ≠ (TJ1 b).2.1 := by decide +kernel
theorem tyJ1_ok : ∀ k, k < 8 → parseFieldDescriptor (TJ1 k).2.2.1 = some (tyJ1 k) := by decide +kernel
abbrev cJ1_init : ByteArray := prog_34_method_7_code
def yJ1_init : MethodName := ⟨RJ1, "<init>", "()V"⟩
def dkwJ1_init_0 : List UInt8 := [42, 183, 0, 43, 42, 18, 92, 181, 0, 81, 177]
abbrev dktJ1_init_0 : List UInt8 := dkwJ1_init_0 ++ []
theorem dksJ1_init_0 : cJ1_init.data.toList.drop 0 = dktJ1_init_0 := by decide +kernel
theorem dJ1_init_0 : decode cJ1_init 0 = .ok (.aload_n 0, 1) := dk_42 (dk_at dksJ1_init_0 0 rfl rfl)
theorem dJ1_init_1 : decode cJ1_init 1 = .ok (.invokespecial 43, 3) := dk_183 0 43 (dk_at dksJ1_init_0 1 rfl rfl)
theorem dJ1_init_4 : decode cJ1_init 4 = .ok (.aload_n 0, 1) := dk_42 (dk_at dksJ1_init_0 4 rfl rfl)
theorem dJ1_init_5 : decode cJ1_init 5 = .ok (.ldc 92, 2) := dk_18 92 (dk_at dksJ1_init_0 5 rfl rfl)
theorem dJ1_init_7 : decode cJ1_init 7 = .ok (.putfield 81, 3) := dk_181 0 81 (dk_at dksJ1_init_0 7 rfl rfl)
theorem dJ1_init_10 : decode cJ1_init 10 = .ok (.return_, 1) := dk_177 (dk_at dksJ1_init_0 10 rfl rfl)
abbrev cJ1_get : ByteArray := prog_34_method_12_code
def yJ1_get : MethodName := ⟨RJ1, "get", "(Ljava/lang/Object;)Ljava/lang/Object;"⟩
def dkwJ1_get_0 : List UInt8 := [42, 43, 182, 0, 158, 89, 77, 199, 0, 7, 1, 167, 0, 7, 44, 180, 0, 162, 176]
abbrev dktJ1_get_0 : List UInt8 := dkwJ1_get_0 ++ []
theorem dksJ1_get_0 : cJ1_get.data.toList.drop 0 = dktJ1_get_0 := by decide +kernel
theorem dJ1_get_0 : decode cJ1_get 0 = .ok (.aload_n 0, 1) := dk_42 (dk_at dksJ1_get_0 0 rfl rfl)
theorem dJ1_get_1 : decode cJ1_get 1 = .ok (.aload_n 1, 1) := dk_43 (dk_at dksJ1_get_0 1 rfl rfl)
theorem dJ1_get_2 : decode cJ1_get 2 = .ok (.invokevirtual 158, 3) := dk_182 0 158 (dk_at dksJ1_get_0 2 rfl rfl)
theorem dJ1_get_5 : decode cJ1_get 5 = .ok (.dup, 1) := dk_89 (dk_at dksJ1_get_0 5 rfl rfl)
theorem dJ1_get_6 : decode cJ1_get 6 = .ok (.astore_n 2, 1) := dk_77 (dk_at dksJ1_get_0 6 rfl rfl)
theorem dJ1_get_7 : decode cJ1_get 7 = .ok (.ifnonnull 7, 3) := dk_199 0 7 (dk_at dksJ1_get_0 7 rfl rfl)
theorem dJ1_get_10 : decode cJ1_get 10 = .ok (.aconst_null, 1) := dk_1 (dk_at dksJ1_get_0 10 rfl rfl)
theorem dJ1_get_11 : decode cJ1_get 11 = .ok (.goto 7, 3) := dk_167 0 7 (dk_at dksJ1_get_0 11 rfl rfl)
theorem dJ1_get_14 : decode cJ1_get 14 = .ok (.aload_n 2, 1) := dk_44 (dk_at dksJ1_get_0 14 rfl rfl)
theorem dJ1_get_15 : decode cJ1_get 15 = .ok (.getfield 162, 3) := dk_180 0 162 (dk_at dksJ1_get_0 15 rfl rfl)
theorem dJ1_get_18 : decode cJ1_get 18 = .ok (.areturn, 1) := dk_176 (dk_at dksJ1_get_0 18 rfl rfl)
abbrev cJ1_getNode : ByteArray := prog_34_method_13_code
def yJ1_getNode : MethodName := ⟨RJ1, "getNode", "(Ljava/lang/Object;)Ljava/util/HashMap$Node;"⟩
def dkwJ1_getNode_6 : List UInt8 := [89, 58, 4, 199, 255, 210, 1, 176]
abbrev dktJ1_getNode_6 : List UInt8 := dkwJ1_getNode_6 ++ []
def dkwJ1_getNode_5 : List UInt8 := [165, 0, 16, 43, 198, 0, 15, 43, 25, 7, 182, 0, 173, 153, 0, 6, 25, 4, 176, 25, 4, 180, 0, 177]
abbrev dktJ1_getNode_5 : List UInt8 := dkwJ1_getNode_5 ++ dktJ1_getNode_6
def dkwJ1_getNode_4 : List UInt8 := [43, 182, 0, 182, 176, 25, 4, 180, 0, 168, 21, 6, 160, 0, 31, 25, 4, 180, 0, 170, 89, 58, 7, 43]
abbrev dktJ1_getNode_4 : List UInt8 := dkwJ1_getNode_4 ++ dktJ1_getNode_5
def dkwJ1_getNode_3 : List UInt8 := [176, 45, 180, 0, 177, 89, 58, 4, 198, 0, 70, 45, 193, 0, 180, 153, 0, 14, 45, 192, 0, 180, 21, 6]
abbrev dktJ1_getNode_3 : List UInt8 := dkwJ1_getNode_3 ++ dktJ1_getNode_4
def dkwJ1_getNode_2 : List UInt8 := [180, 0, 170, 89, 58, 7, 43, 165, 0, 16, 43, 198, 0, 14, 43, 25, 7, 182, 0, 173, 153, 0, 5, 45]
abbrev dktJ1_getNode_2 : List UInt8 := dkwJ1_getNode_2 ++ dktJ1_getNode_3
def dkwJ1_getNode_1 : List UInt8 := [184, 0, 149, 89, 54, 6, 126, 50, 89, 78, 198, 0, 115, 45, 180, 0, 168, 21, 6, 160, 0, 29, 45]
abbrev dktJ1_getNode_1 : List UInt8 := dkwJ1_getNode_1 ++ dktJ1_getNode_2
def dkwJ1_getNode_0 : List UInt8 := [42, 180, 0, 105, 89, 77, 198, 0, 142, 44, 190, 89, 54, 5, 158, 0, 134, 44, 21, 5, 4, 100, 43]
abbrev dktJ1_getNode_0 : List UInt8 := dkwJ1_getNode_0 ++ dktJ1_getNode_1
theorem dksJ1_getNode_0 : cJ1_getNode.data.toList.drop 0 = dktJ1_getNode_0 := by decide +kernel
theorem dksJ1_getNode_1 : cJ1_getNode.data.toList.drop 23 = dktJ1_getNode_1 := dk_seg dksJ1_getNode_0 23 rfl rfl
theorem dksJ1_getNode_2 : cJ1_getNode.data.toList.drop 46 = dktJ1_getNode_2 := dk_seg dksJ1_getNode_1 23 rfl rfl
theorem dksJ1_getNode_3 : cJ1_getNode.data.toList.drop 70 = dktJ1_getNode_3 := dk_seg dksJ1_getNode_2 24 rfl rfl
theorem dksJ1_getNode_4 : cJ1_getNode.data.toList.drop 94 = dktJ1_getNode_4 := dk_seg dksJ1_getNode_3 24 rfl rfl
theorem dksJ1_getNode_5 : cJ1_getNode.data.toList.drop 118 = dktJ1_getNode_5 := dk_seg dksJ1_getNode_4 24 rfl rfl
theorem dksJ1_getNode_6 : cJ1_getNode.data.toList.drop 142 = dktJ1_getNode_6 := dk_seg dksJ1_getNode_5 24 rfl rfl
theorem dJ1_getNode_0 : decode cJ1_getNode 0 = .ok (.aload_n 0, 1) := dk_42 (dk_at dksJ1_getNode_0 0 rfl rfl)
theorem dJ1_getNode_1 : decode cJ1_getNode 1 = .ok (.getfield 105, 3) := dk_180 0 105 (dk_at dksJ1_getNode_0 1 rfl rfl)
theorem dJ1_getNode_4 : decode cJ1_getNode 4 = .ok (.dup, 1) := dk_89 (dk_at dksJ1_getNode_0 4 rfl rfl)
theorem dJ1_getNode_5 : decode cJ1_getNode 5 = .ok (.astore_n 2, 1) := dk_77 (dk_at dksJ1_getNode_0 5 rfl rfl)
theorem dJ1_getNode_6 : decode cJ1_getNode 6 = .ok (.ifnull 142, 3) := dk_198 0 142 (dk_at dksJ1_getNode_0 6 rfl rfl)
theorem dJ1_getNode_9 : decode cJ1_getNode 9 = .ok (.aload_n 2, 1) := dk_44 (dk_at dksJ1_getNode_0 9 rfl rfl)
theorem dJ1_getNode_10 : decode cJ1_getNode 10 = .ok (.arraylength, 1) := dk_190 (dk_at dksJ1_getNode_0 10 rfl rfl)
theorem dJ1_getNode_11 : decode cJ1_getNode 11 = .ok (.dup, 1) := dk_89 (dk_at dksJ1_getNode_0 11 rfl rfl)
theorem dJ1_getNode_12 : decode cJ1_getNode 12 = .ok (.istore 5, 2) := dk_54 5 (dk_at dksJ1_getNode_0 12 rfl rfl)
theorem dJ1_getNode_14 : decode cJ1_getNode 14 = .ok (.ifCond .le 134, 3) := dk_158 0 134 (dk_at dksJ1_getNode_0 14 rfl rfl)
theorem dJ1_getNode_17 : decode cJ1_getNode 17 = .ok (.aload_n 2, 1) := dk_44 (dk_at dksJ1_getNode_0 17 rfl rfl)
theorem dJ1_getNode_18 : decode cJ1_getNode 18 = .ok (.iload 5, 2) := dk_21 5 (dk_at dksJ1_getNode_0 18 rfl rfl)
theorem dJ1_getNode_20 : decode cJ1_getNode 20 = .ok (.iconst 1, 1) := dk_4 (dk_at dksJ1_getNode_0 20 rfl rfl)
theorem dJ1_getNode_21 : decode cJ1_getNode 21 = .ok (.isub, 1) := dk_100 (dk_at dksJ1_getNode_0 21 rfl rfl)
theorem dJ1_getNode_22 : decode cJ1_getNode 22 = .ok (.aload_n 1, 1) := dk_43 (dk_at dksJ1_getNode_0 22 rfl rfl)
theorem dJ1_getNode_23 : decode cJ1_getNode 23 = .ok (.invokestatic 149, 3) := dk_184 0 149 (dk_at dksJ1_getNode_1 0 rfl rfl)
theorem dJ1_getNode_26 : decode cJ1_getNode 26 = .ok (.dup, 1) := dk_89 (dk_at dksJ1_getNode_1 3 rfl rfl)
theorem dJ1_getNode_27 : decode cJ1_getNode 27 = .ok (.istore 6, 2) := dk_54 6 (dk_at dksJ1_getNode_1 4 rfl rfl)
theorem dJ1_getNode_29 : decode cJ1_getNode 29 = .ok (.iand, 1) := dk_126 (dk_at dksJ1_getNode_1 6 rfl rfl)
theorem dJ1_getNode_30 : decode cJ1_getNode 30 = .ok (.aaload, 1) := dk_50 (dk_at dksJ1_getNode_1 7 rfl rfl)
theorem dJ1_getNode_31 : decode cJ1_getNode 31 = .ok (.dup, 1) := dk_89 (dk_at dksJ1_getNode_1 8 rfl rfl)
theorem dJ1_getNode_32 : decode cJ1_getNode 32 = .ok (.astore_n 3, 1) := dk_78 (dk_at dksJ1_getNode_1 9 rfl rfl)
theorem dJ1_getNode_33 : decode cJ1_getNode 33 = .ok (.ifnull 115, 3) := dk_198 0 115 (dk_at dksJ1_getNode_1 10 rfl rfl)
theorem dJ1_getNode_36 : decode cJ1_getNode 36 = .ok (.aload_n 3, 1) := dk_45 (dk_at dksJ1_getNode_1 13 rfl rfl)
theorem dJ1_getNode_37 : decode cJ1_getNode 37 = .ok (.getfield 168, 3) := dk_180 0 168 (dk_at dksJ1_getNode_1 14 rfl rfl)
theorem dJ1_getNode_40 : decode cJ1_getNode 40 = .ok (.iload 6, 2) := dk_21 6 (dk_at dksJ1_getNode_1 17 rfl rfl)
theorem dJ1_getNode_42 : decode cJ1_getNode 42 = .ok (.if_icmp .ne 29, 3) := dk_160 0 29 (dk_at dksJ1_getNode_1 19 rfl rfl)
theorem dJ1_getNode_45 : decode cJ1_getNode 45 = .ok (.aload_n 3, 1) := dk_45 (dk_at dksJ1_getNode_1 22 rfl rfl)
theorem dJ1_getNode_46 : decode cJ1_getNode 46 = .ok (.getfield 170, 3) := dk_180 0 170 (dk_at dksJ1_getNode_2 0 rfl rfl)
theorem dJ1_getNode_49 : decode cJ1_getNode 49 = .ok (.dup, 1) := dk_89 (dk_at dksJ1_getNode_2 3 rfl rfl)
theorem dJ1_getNode_50 : decode cJ1_getNode 50 = .ok (.astore 7, 2) := dk_58 7 (dk_at dksJ1_getNode_2 4 rfl rfl)
theorem dJ1_getNode_52 : decode cJ1_getNode 52 = .ok (.aload_n 1, 1) := dk_43 (dk_at dksJ1_getNode_2 6 rfl rfl)
theorem dJ1_getNode_53 : decode cJ1_getNode 53 = .ok (.if_acmp .eq 16, 3) := dk_165 0 16 (dk_at dksJ1_getNode_2 7 rfl rfl)
theorem dJ1_getNode_56 : decode cJ1_getNode 56 = .ok (.aload_n 1, 1) := dk_43 (dk_at dksJ1_getNode_2 10 rfl rfl)
theorem dJ1_getNode_57 : decode cJ1_getNode 57 = .ok (.ifnull 14, 3) := dk_198 0 14 (dk_at dksJ1_getNode_2 11 rfl rfl)
theorem dJ1_getNode_60 : decode cJ1_getNode 60 = .ok (.aload_n 1, 1) := dk_43 (dk_at dksJ1_getNode_2 14 rfl rfl)
theorem dJ1_getNode_61 : decode cJ1_getNode 61 = .ok (.aload 7, 2) := dk_25 7 (dk_at dksJ1_getNode_2 15 rfl rfl)
theorem dJ1_getNode_63 : decode cJ1_getNode 63 = .ok (.invokevirtual 173, 3) := dk_182 0 173 (dk_at dksJ1_getNode_2 17 rfl rfl)
theorem dJ1_getNode_66 : decode cJ1_getNode 66 = .ok (.ifCond .eq 5, 3) := dk_153 0 5 (dk_at dksJ1_getNode_2 20 rfl rfl)
theorem dJ1_getNode_69 : decode cJ1_getNode 69 = .ok (.aload_n 3, 1) := dk_45 (dk_at dksJ1_getNode_2 23 rfl rfl)
theorem dJ1_getNode_70 : decode cJ1_getNode 70 = .ok (.areturn, 1) := dk_176 (dk_at dksJ1_getNode_3 0 rfl rfl)
theorem dJ1_getNode_71 : decode cJ1_getNode 71 = .ok (.aload_n 3, 1) := dk_45 (dk_at dksJ1_getNode_3 1 rfl rfl)
theorem dJ1_getNode_72 : decode cJ1_getNode 72 = .ok (.getfield 177, 3) := dk_180 0 177 (dk_at dksJ1_getNode_3 2 rfl rfl)
theorem dJ1_getNode_75 : decode cJ1_getNode 75 = .ok (.dup, 1) := dk_89 (dk_at dksJ1_getNode_3 5 rfl rfl)
theorem dJ1_getNode_76 : decode cJ1_getNode 76 = .ok (.astore 4, 2) := dk_58 4 (dk_at dksJ1_getNode_3 6 rfl rfl)
theorem dJ1_getNode_78 : decode cJ1_getNode 78 = .ok (.ifnull 70, 3) := dk_198 0 70 (dk_at dksJ1_getNode_3 8 rfl rfl)
theorem dJ1_getNode_81 : decode cJ1_getNode 81 = .ok (.aload_n 3, 1) := dk_45 (dk_at dksJ1_getNode_3 11 rfl rfl)
theorem dJ1_getNode_82 : decode cJ1_getNode 82 = .ok (.instanceof 180, 3) := dk_193 0 180 (dk_at dksJ1_getNode_3 12 rfl rfl)
theorem dJ1_getNode_85 : decode cJ1_getNode 85 = .ok (.ifCond .eq 14, 3) := dk_153 0 14 (dk_at dksJ1_getNode_3 15 rfl rfl)
theorem dJ1_getNode_88 : decode cJ1_getNode 88 = .ok (.aload_n 3, 1) := dk_45 (dk_at dksJ1_getNode_3 18 rfl rfl)
theorem dJ1_getNode_89 : decode cJ1_getNode 89 = .ok (.checkcast 180, 3) := dk_192 0 180 (dk_at dksJ1_getNode_3 19 rfl rfl)
theorem dJ1_getNode_92 : decode cJ1_getNode 92 = .ok (.iload 6, 2) := dk_21 6 (dk_at dksJ1_getNode_3 22 rfl rfl)
theorem dJ1_getNode_94 : decode cJ1_getNode 94 = .ok (.aload_n 1, 1) := dk_43 (dk_at dksJ1_getNode_4 0 rfl rfl)
theorem dJ1_getNode_95 : decode cJ1_getNode 95 = .ok (.invokevirtual 182, 3) := dk_182 0 182 (dk_at dksJ1_getNode_4 1 rfl rfl)
theorem dJ1_getNode_98 : decode cJ1_getNode 98 = .ok (.areturn, 1) := dk_176 (dk_at dksJ1_getNode_4 4 rfl rfl)
theorem dJ1_getNode_99 : decode cJ1_getNode 99 = .ok (.aload 4, 2) := dk_25 4 (dk_at dksJ1_getNode_4 5 rfl rfl)
theorem dJ1_getNode_101 : decode cJ1_getNode 101 = .ok (.getfield 168, 3) := dk_180 0 168 (dk_at dksJ1_getNode_4 7 rfl rfl)
theorem dJ1_getNode_104 : decode cJ1_getNode 104 = .ok (.iload 6, 2) := dk_21 6 (dk_at dksJ1_getNode_4 10 rfl rfl)
theorem dJ1_getNode_106 : decode cJ1_getNode 106 = .ok (.if_icmp .ne 31, 3) := dk_160 0 31 (dk_at dksJ1_getNode_4 12 rfl rfl)
theorem dJ1_getNode_109 : decode cJ1_getNode 109 = .ok (.aload 4, 2) := dk_25 4 (dk_at dksJ1_getNode_4 15 rfl rfl)
theorem dJ1_getNode_111 : decode cJ1_getNode 111 = .ok (.getfield 170, 3) := dk_180 0 170 (dk_at dksJ1_getNode_4 17 rfl rfl)
theorem dJ1_getNode_114 : decode cJ1_getNode 114 = .ok (.dup, 1) := dk_89 (dk_at dksJ1_getNode_4 20 rfl rfl)
theorem dJ1_getNode_115 : decode cJ1_getNode 115 = .ok (.astore 7, 2) := dk_58 7 (dk_at dksJ1_getNode_4 21 rfl rfl)
theorem dJ1_getNode_117 : decode cJ1_getNode 117 = .ok (.aload_n 1, 1) := dk_43 (dk_at dksJ1_getNode_4 23 rfl rfl)
theorem dJ1_getNode_118 : decode cJ1_getNode 118 = .ok (.if_acmp .eq 16, 3) := dk_165 0 16 (dk_at dksJ1_getNode_5 0 rfl rfl)
theorem dJ1_getNode_121 : decode cJ1_getNode 121 = .ok (.aload_n 1, 1) := dk_43 (dk_at dksJ1_getNode_5 3 rfl rfl)
theorem dJ1_getNode_122 : decode cJ1_getNode 122 = .ok (.ifnull 15, 3) := dk_198 0 15 (dk_at dksJ1_getNode_5 4 rfl rfl)
theorem dJ1_getNode_125 : decode cJ1_getNode 125 = .ok (.aload_n 1, 1) := dk_43 (dk_at dksJ1_getNode_5 7 rfl rfl)
theorem dJ1_getNode_126 : decode cJ1_getNode 126 = .ok (.aload 7, 2) := dk_25 7 (dk_at dksJ1_getNode_5 8 rfl rfl)
theorem dJ1_getNode_128 : decode cJ1_getNode 128 = .ok (.invokevirtual 173, 3) := dk_182 0 173 (dk_at dksJ1_getNode_5 10 rfl rfl)
theorem dJ1_getNode_131 : decode cJ1_getNode 131 = .ok (.ifCond .eq 6, 3) := dk_153 0 6 (dk_at dksJ1_getNode_5 13 rfl rfl)
theorem dJ1_getNode_134 : decode cJ1_getNode 134 = .ok (.aload 4, 2) := dk_25 4 (dk_at dksJ1_getNode_5 16 rfl rfl)
theorem dJ1_getNode_136 : decode cJ1_getNode 136 = .ok (.areturn, 1) := dk_176 (dk_at dksJ1_getNode_5 18 rfl rfl)
theorem dJ1_getNode_137 : decode cJ1_getNode 137 = .ok (.aload 4, 2) := dk_25 4 (dk_at dksJ1_getNode_5 19 rfl rfl)
theorem dJ1_getNode_139 : decode cJ1_getNode 139 = .ok (.getfield 177, 3) := dk_180 0 177 (dk_at dksJ1_getNode_5 21 rfl rfl)
theorem dJ1_getNode_142 : decode cJ1_getNode 142 = .ok (.dup, 1) := dk_89 (dk_at dksJ1_getNode_6 0 rfl rfl)
theorem dJ1_getNode_143 : decode cJ1_getNode 143 = .ok (.astore 4, 2) := dk_58 4 (dk_at dksJ1_getNode_6 1 rfl rfl)
theorem dJ1_getNode_145 : decode cJ1_getNode 145 = .ok (.ifnonnull (-46), 3) := dk_199 255 210 (dk_at dksJ1_getNode_6 3 rfl rfl)
theorem dJ1_getNode_148 : decode cJ1_getNode 148 = .ok (.aconst_null, 1) := dk_1 (dk_at dksJ1_getNode_6 6 rfl rfl)
theorem dJ1_getNode_149 : decode cJ1_getNode 149 = .ok (.areturn, 1) := dk_176 (dk_at dksJ1_getNode_6 7 rfl rfl)
abbrev cJ1_hash : ByteArray := prog_34_method_1_code
def yJ1_hash : MethodName := ⟨RJ1, "hash", "(Ljava/lang/Object;)I"⟩
def dkwJ1_hash_0 : List UInt8 := [42, 199, 0, 7, 3, 167, 0, 14, 42, 182, 0, 1, 89, 60, 27, 16, 16, 124, 130, 172]
abbrev dktJ1_hash_0 : List UInt8 := dkwJ1_hash_0 ++ []
theorem dksJ1_hash_0 : cJ1_hash.data.toList.drop 0 = dktJ1_hash_0 := by decide +kernel
theorem dJ1_hash_0 : decode cJ1_hash 0 = .ok (.aload_n 0, 1) := dk_42 (dk_at dksJ1_hash_0 0 rfl rfl)
theorem dJ1_hash_1 : decode cJ1_hash 1 = .ok (.ifnonnull 7, 3) := dk_199 0 7 (dk_at dksJ1_hash_0 1 rfl rfl)
theorem dJ1_hash_4 : decode cJ1_hash 4 = .ok (.iconst 0, 1) := dk_3 (dk_at dksJ1_hash_0 4 rfl rfl)
theorem dJ1_hash_5 : decode cJ1_hash 5 = .ok (.goto 14, 3) := dk_167 0 14 (dk_at dksJ1_hash_0 5 rfl rfl)
theorem dJ1_hash_8 : decode cJ1_hash 8 = .ok (.aload_n 0, 1) := dk_42 (dk_at dksJ1_hash_0 8 rfl rfl)
theorem dJ1_hash_9 : decode cJ1_hash 9 = .ok (.invokevirtual 1, 3) := dk_182 0 1 (dk_at dksJ1_hash_0 9 rfl rfl)
theorem dJ1_hash_12 : decode cJ1_hash 12 = .ok (.dup, 1) := dk_89 (dk_at dksJ1_hash_0 12 rfl rfl)
theorem dJ1_hash_13 : decode cJ1_hash 13 = .ok (.istore_n 1, 1) := dk_60 (dk_at dksJ1_hash_0 13 rfl rfl)
theorem dJ1_hash_14 : decode cJ1_hash 14 = .ok (.iload_n 1, 1) := dk_27 (dk_at dksJ1_hash_0 14 rfl rfl)
theorem dJ1_hash_15 : decode cJ1_hash 15 = .ok (.bipush 16, 2) := dk_16 16 (dk_at dksJ1_hash_0 15 rfl rfl)
theorem dJ1_hash_17 : decode cJ1_hash 17 = .ok (.iushr, 1) := dk_124 (dk_at dksJ1_hash_0 17 rfl rfl)
theorem dJ1_hash_18 : decode cJ1_hash 18 = .ok (.ixor, 1) := dk_130 (dk_at dksJ1_hash_0 18 rfl rfl)
theorem dJ1_hash_19 : decode cJ1_hash 19 = .ok (.ireturn, 1) := dk_172 (dk_at dksJ1_hash_0 19 rfl rfl)
abbrev cJ1_comparableClassFor : ByteArray := prog_34_method_2_code
def yJ1_comparableClassFor : MethodName := ⟨RJ1, "comparableClassFor", "(Ljava/lang/Object;)Ljava/lang/Class;"⟩
def dkwJ1_comparableClassFor_4 : List UInt8 := [4, 160, 0, 12, 45, 3, 50, 43, 166, 0, 5, 43, 176, 132, 7, 1, 167, 255, 186, 1, 176]
abbrev dktJ1_comparableClassFor_4 : List UInt8 := dkwJ1_comparableClassFor_4 ++ []
def dkwJ1_comparableClassFor_3 : List UInt8 := [185, 0, 23, 1, 0, 18, 7, 166, 0, 30, 25, 4, 185, 0, 27, 1, 0, 89, 78, 198, 0, 18, 45, 190]
abbrev dktJ1_comparableClassFor_3 : List UInt8 := dkwJ1_comparableClassFor_3 ++ dktJ1_comparableClassFor_4
def dkwJ1_comparableClassFor_2 : List UInt8 := [25, 5, 21, 7, 50, 58, 8, 25, 8, 193, 0, 21, 153, 0, 48, 25, 8, 192, 0, 21, 89, 58, 4]
abbrev dktJ1_comparableClassFor_2 : List UInt8 := dkwJ1_comparableClassFor_2 ++ dktJ1_comparableClassFor_3
def dkwJ1_comparableClassFor_1 : List UInt8 := [89, 77, 198, 0, 87, 44, 58, 5, 25, 5, 190, 54, 6, 3, 54, 7, 21, 7, 21, 6, 162, 0, 69]
abbrev dktJ1_comparableClassFor_1 : List UInt8 := dkwJ1_comparableClassFor_1 ++ dktJ1_comparableClassFor_2
def dkwJ1_comparableClassFor_0 : List UInt8 := [42, 193, 0, 7, 153, 0, 109, 42, 182, 0, 9, 89, 76, 18, 13, 166, 0, 5, 43, 176, 43, 182, 0, 15]
abbrev dktJ1_comparableClassFor_0 : List UInt8 := dkwJ1_comparableClassFor_0 ++ dktJ1_comparableClassFor_1
theorem dksJ1_comparableClassFor_0 : cJ1_comparableClassFor.data.toList.drop 0 = dktJ1_comparableClassFor_0 := by decide +kernel
theorem dksJ1_comparableClassFor_1 : cJ1_comparableClassFor.data.toList.drop 24 = dktJ1_comparableClassFor_1 := dk_seg dksJ1_comparableClassFor_0 24 rfl rfl
theorem dksJ1_comparableClassFor_2 : cJ1_comparableClassFor.data.toList.drop 47 = dktJ1_comparableClassFor_2 := dk_seg dksJ1_comparableClassFor_1 23 rfl rfl
theorem dksJ1_comparableClassFor_3 : cJ1_comparableClassFor.data.toList.drop 70 = dktJ1_comparableClassFor_3 := dk_seg dksJ1_comparableClassFor_2 23 rfl rfl
theorem dksJ1_comparableClassFor_4 : cJ1_comparableClassFor.data.toList.drop 94 = dktJ1_comparableClassFor_4 := dk_seg dksJ1_comparableClassFor_3 24 rfl rfl
theorem dJ1_comparableClassFor_0 : decode cJ1_comparableClassFor 0 = .ok (.aload_n 0, 1) := dk_42 (dk_at dksJ1_comparableClassFor_0 0 rfl rfl)
theorem dJ1_comparableClassFor_1 : decode cJ1_comparableClassFor 1 = .ok (.instanceof 7, 3) := dk_193 0 7 (dk_at dksJ1_comparableClassFor_0 1 rfl rfl)
theorem dJ1_comparableClassFor_4 : decode cJ1_comparableClassFor 4 = .ok (.ifCond .eq 109, 3) := dk_153 0 109 (dk_at dksJ1_comparableClassFor_0 4 rfl rfl)
theorem dJ1_comparableClassFor_7 : decode cJ1_comparableClassFor 7 = .ok (.aload_n 0, 1) := dk_42 (dk_at dksJ1_comparableClassFor_0 7 rfl rfl)
theorem dJ1_comparableClassFor_8 : decode cJ1_comparableClassFor 8 = .ok (.invokevirtual 9, 3) := dk_182 0 9 (dk_at dksJ1_comparableClassFor_0 8 rfl rfl)
theorem dJ1_comparableClassFor_11 : decode cJ1_comparableClassFor 11 = .ok (.dup, 1) := dk_89 (dk_at dksJ1_comparableClassFor_0 11 rfl rfl)
theorem dJ1_comparableClassFor_12 : decode cJ1_comparableClassFor 12 = .ok (.astore_n 1, 1) := dk_76 (dk_at dksJ1_comparableClassFor_0 12 rfl rfl)
theorem dJ1_comparableClassFor_13 : decode cJ1_comparableClassFor 13 = .ok (.ldc 13, 2) := dk_18 13 (dk_at dksJ1_comparableClassFor_0 13 rfl rfl)
theorem dJ1_comparableClassFor_15 : decode cJ1_comparableClassFor 15 = .ok (.if_acmp .ne 5, 3) := dk_166 0 5 (dk_at dksJ1_comparableClassFor_0 15 rfl rfl)
theorem dJ1_comparableClassFor_18 : decode cJ1_comparableClassFor 18 = .ok (.aload_n 1, 1) := dk_43 (dk_at dksJ1_comparableClassFor_0 18 rfl rfl)
theorem dJ1_comparableClassFor_19 : decode cJ1_comparableClassFor 19 = .ok (.areturn, 1) := dk_176 (dk_at dksJ1_comparableClassFor_0 19 rfl rfl)
theorem dJ1_comparableClassFor_20 : decode cJ1_comparableClassFor 20 = .ok (.aload_n 1, 1) := dk_43 (dk_at dksJ1_comparableClassFor_0 20 rfl rfl)
theorem dJ1_comparableClassFor_21 : decode cJ1_comparableClassFor 21 = .ok (.invokevirtual 15, 3) := dk_182 0 15 (dk_at dksJ1_comparableClassFor_0 21 rfl rfl)
theorem dJ1_comparableClassFor_24 : decode cJ1_comparableClassFor 24 = .ok (.dup, 1) := dk_89 (dk_at dksJ1_comparableClassFor_1 0 rfl rfl)
theorem dJ1_comparableClassFor_25 : decode cJ1_comparableClassFor 25 = .ok (.astore_n 2, 1) := dk_77 (dk_at dksJ1_comparableClassFor_1 1 rfl rfl)
theorem dJ1_comparableClassFor_26 : decode cJ1_comparableClassFor 26 = .ok (.ifnull 87, 3) := dk_198 0 87 (dk_at dksJ1_comparableClassFor_1 2 rfl rfl)
theorem dJ1_comparableClassFor_29 : decode cJ1_comparableClassFor 29 = .ok (.aload_n 2, 1) := dk_44 (dk_at dksJ1_comparableClassFor_1 5 rfl rfl)
theorem dJ1_comparableClassFor_30 : decode cJ1_comparableClassFor 30 = .ok (.astore 5, 2) := dk_58 5 (dk_at dksJ1_comparableClassFor_1 6 rfl rfl)
theorem dJ1_comparableClassFor_32 : decode cJ1_comparableClassFor 32 = .ok (.aload 5, 2) := dk_25 5 (dk_at dksJ1_comparableClassFor_1 8 rfl rfl)
theorem dJ1_comparableClassFor_34 : decode cJ1_comparableClassFor 34 = .ok (.arraylength, 1) := dk_190 (dk_at dksJ1_comparableClassFor_1 10 rfl rfl)
theorem dJ1_comparableClassFor_35 : decode cJ1_comparableClassFor 35 = .ok (.istore 6, 2) := dk_54 6 (dk_at dksJ1_comparableClassFor_1 11 rfl rfl)
theorem dJ1_comparableClassFor_37 : decode cJ1_comparableClassFor 37 = .ok (.iconst 0, 1) := dk_3 (dk_at dksJ1_comparableClassFor_1 13 rfl rfl)
theorem dJ1_comparableClassFor_38 : decode cJ1_comparableClassFor 38 = .ok (.istore 7, 2) := dk_54 7 (dk_at dksJ1_comparableClassFor_1 14 rfl rfl)
theorem dJ1_comparableClassFor_40 : decode cJ1_comparableClassFor 40 = .ok (.iload 7, 2) := dk_21 7 (dk_at dksJ1_comparableClassFor_1 16 rfl rfl)
theorem dJ1_comparableClassFor_42 : decode cJ1_comparableClassFor 42 = .ok (.iload 6, 2) := dk_21 6 (dk_at dksJ1_comparableClassFor_1 18 rfl rfl)
theorem dJ1_comparableClassFor_44 : decode cJ1_comparableClassFor 44 = .ok (.if_icmp .ge 69, 3) := dk_162 0 69 (dk_at dksJ1_comparableClassFor_1 20 rfl rfl)
theorem dJ1_comparableClassFor_47 : decode cJ1_comparableClassFor 47 = .ok (.aload 5, 2) := dk_25 5 (dk_at dksJ1_comparableClassFor_2 0 rfl rfl)
theorem dJ1_comparableClassFor_49 : decode cJ1_comparableClassFor 49 = .ok (.iload 7, 2) := dk_21 7 (dk_at dksJ1_comparableClassFor_2 2 rfl rfl)
theorem dJ1_comparableClassFor_51 : decode cJ1_comparableClassFor 51 = .ok (.aaload, 1) := dk_50 (dk_at dksJ1_comparableClassFor_2 4 rfl rfl)
theorem dJ1_comparableClassFor_52 : decode cJ1_comparableClassFor 52 = .ok (.astore 8, 2) := dk_58 8 (dk_at dksJ1_comparableClassFor_2 5 rfl rfl)
theorem dJ1_comparableClassFor_54 : decode cJ1_comparableClassFor 54 = .ok (.aload 8, 2) := dk_25 8 (dk_at dksJ1_comparableClassFor_2 7 rfl rfl)
theorem dJ1_comparableClassFor_56 : decode cJ1_comparableClassFor 56 = .ok (.instanceof 21, 3) := dk_193 0 21 (dk_at dksJ1_comparableClassFor_2 9 rfl rfl)
theorem dJ1_comparableClassFor_59 : decode cJ1_comparableClassFor 59 = .ok (.ifCond .eq 48, 3) := dk_153 0 48 (dk_at dksJ1_comparableClassFor_2 12 rfl rfl)
theorem dJ1_comparableClassFor_62 : decode cJ1_comparableClassFor 62 = .ok (.aload 8, 2) := dk_25 8 (dk_at dksJ1_comparableClassFor_2 15 rfl rfl)
theorem dJ1_comparableClassFor_64 : decode cJ1_comparableClassFor 64 = .ok (.checkcast 21, 3) := dk_192 0 21 (dk_at dksJ1_comparableClassFor_2 17 rfl rfl)
theorem dJ1_comparableClassFor_67 : decode cJ1_comparableClassFor 67 = .ok (.dup, 1) := dk_89 (dk_at dksJ1_comparableClassFor_2 20 rfl rfl)
theorem dJ1_comparableClassFor_68 : decode cJ1_comparableClassFor 68 = .ok (.astore 4, 2) := dk_58 4 (dk_at dksJ1_comparableClassFor_2 21 rfl rfl)
theorem dJ1_comparableClassFor_70 : decode cJ1_comparableClassFor 70 = .ok (.invokeinterface 23 1, 5) := by decide +kernel
theorem dJ1_comparableClassFor_75 : decode cJ1_comparableClassFor 75 = .ok (.ldc 7, 2) := dk_18 7 (dk_at dksJ1_comparableClassFor_3 5 rfl rfl)
theorem dJ1_comparableClassFor_77 : decode cJ1_comparableClassFor 77 = .ok (.if_acmp .ne 30, 3) := dk_166 0 30 (dk_at dksJ1_comparableClassFor_3 7 rfl rfl)
theorem dJ1_comparableClassFor_80 : decode cJ1_comparableClassFor 80 = .ok (.aload 4, 2) := dk_25 4 (dk_at dksJ1_comparableClassFor_3 10 rfl rfl)
theorem dJ1_comparableClassFor_82 : decode cJ1_comparableClassFor 82 = .ok (.invokeinterface 27 1, 5) := by decide +kernel
theorem dJ1_comparableClassFor_87 : decode cJ1_comparableClassFor 87 = .ok (.dup, 1) := dk_89 (dk_at dksJ1_comparableClassFor_3 17 rfl rfl)
theorem dJ1_comparableClassFor_88 : decode cJ1_comparableClassFor 88 = .ok (.astore_n 3, 1) := dk_78 (dk_at dksJ1_comparableClassFor_3 18 rfl rfl)
theorem dJ1_comparableClassFor_89 : decode cJ1_comparableClassFor 89 = .ok (.ifnull 18, 3) := dk_198 0 18 (dk_at dksJ1_comparableClassFor_3 19 rfl rfl)
theorem dJ1_comparableClassFor_92 : decode cJ1_comparableClassFor 92 = .ok (.aload_n 3, 1) := dk_45 (dk_at dksJ1_comparableClassFor_3 22 rfl rfl)
theorem dJ1_comparableClassFor_93 : decode cJ1_comparableClassFor 93 = .ok (.arraylength, 1) := dk_190 (dk_at dksJ1_comparableClassFor_3 23 rfl rfl)
theorem dJ1_comparableClassFor_94 : decode cJ1_comparableClassFor 94 = .ok (.iconst 1, 1) := dk_4 (dk_at dksJ1_comparableClassFor_4 0 rfl rfl)
theorem dJ1_comparableClassFor_95 : decode cJ1_comparableClassFor 95 = .ok (.if_icmp .ne 12, 3) := dk_160 0 12 (dk_at dksJ1_comparableClassFor_4 1 rfl rfl)
theorem dJ1_comparableClassFor_98 : decode cJ1_comparableClassFor 98 = .ok (.aload_n 3, 1) := dk_45 (dk_at dksJ1_comparableClassFor_4 4 rfl rfl)
theorem dJ1_comparableClassFor_99 : decode cJ1_comparableClassFor 99 = .ok (.iconst 0, 1) := dk_3 (dk_at dksJ1_comparableClassFor_4 5 rfl rfl)
theorem dJ1_comparableClassFor_100 : decode cJ1_comparableClassFor 100 = .ok (.aaload, 1) := dk_50 (dk_at dksJ1_comparableClassFor_4 6 rfl rfl)
theorem dJ1_comparableClassFor_101 : decode cJ1_comparableClassFor 101 = .ok (.aload_n 1, 1) := dk_43 (dk_at dksJ1_comparableClassFor_4 7 rfl rfl)
theorem dJ1_comparableClassFor_102 : decode cJ1_comparableClassFor 102 = .ok (.if_acmp .ne 5, 3) := dk_166 0 5 (dk_at dksJ1_comparableClassFor_4 8 rfl rfl)
theorem dJ1_comparableClassFor_105 : decode cJ1_comparableClassFor 105 = .ok (.aload_n 1, 1) := dk_43 (dk_at dksJ1_comparableClassFor_4 11 rfl rfl)
theorem dJ1_comparableClassFor_106 : decode cJ1_comparableClassFor 106 = .ok (.areturn, 1) := dk_176 (dk_at dksJ1_comparableClassFor_4 12 rfl rfl)
theorem dJ1_comparableClassFor_107 : decode cJ1_comparableClassFor 107 = .ok (.iinc 7 1, 3) := dk_132 7 1 (dk_at dksJ1_comparableClassFor_4 13 rfl rfl)
theorem dJ1_comparableClassFor_110 : decode cJ1_comparableClassFor 110 = .ok (.goto (-70), 3) := dk_167 255 186 (dk_at dksJ1_comparableClassFor_4 16 rfl rfl)
theorem dJ1_comparableClassFor_113 : decode cJ1_comparableClassFor 113 = .ok (.aconst_null, 1) := dk_1 (dk_at dksJ1_comparableClassFor_4 19 rfl rfl)
theorem dJ1_comparableClassFor_114 : decode cJ1_comparableClassFor 114 = .ok (.areturn, 1) := dk_176 (dk_at dksJ1_comparableClassFor_4 20 rfl rfl)
abbrev cJ1_compareComparables : ByteArray := prog_34_method_3_code
def yJ1_compareComparables : MethodName := ⟨RJ1, "compareComparables", "(Ljava/lang/Class;Ljava/lang/Object;Ljava/lang/Object;)I"⟩
def dkwJ1_compareComparables_1 : List UInt8 := [185, 0, 30, 2, 0, 172]
abbrev dktJ1_compareComparables_1 : List UInt8 := dkwJ1_compareComparables_1 ++ []
def dkwJ1_compareComparables_0 : List UInt8 := [44, 198, 0, 11, 44, 182, 0, 9, 42, 165, 0, 7, 3, 167, 0, 13, 43, 192, 0, 7, 44]
abbrev dktJ1_compareComparables_0 : List UInt8 := dkwJ1_compareComparables_0 ++ dktJ1_compareComparables_1
theorem dksJ1_compareComparables_0 : cJ1_compareComparables.data.toList.drop 0 = dktJ1_compareComparables_0 := by decide +kernel
theorem dksJ1_compareComparables_1 : cJ1_compareComparables.data.toList.drop 21 = dktJ1_compareComparables_1 := dk_seg dksJ1_compareComparables_0 21 rfl rfl
theorem dJ1_compareComparables_0 : decode cJ1_compareComparables 0 = .ok (.aload_n 2, 1) := dk_44 (dk_at dksJ1_compareComparables_0 0 rfl rfl)
theorem dJ1_compareComparables_1 : decode cJ1_compareComparables 1 = .ok (.ifnull 11, 3) := dk_198 0 11 (dk_at dksJ1_compareComparables_0 1 rfl rfl)
theorem dJ1_compareComparables_4 : decode cJ1_compareComparables 4 = .ok (.aload_n 2, 1) := dk_44 (dk_at dksJ1_compareComparables_0 4 rfl rfl)
theorem dJ1_compareComparables_5 : decode cJ1_compareComparables 5 = .ok (.invokevirtual 9, 3) := dk_182 0 9 (dk_at dksJ1_compareComparables_0 5 rfl rfl)
theorem dJ1_compareComparables_8 : decode cJ1_compareComparables 8 = .ok (.aload_n 0, 1) := dk_42 (dk_at dksJ1_compareComparables_0 8 rfl rfl)
theorem dJ1_compareComparables_9 : decode cJ1_compareComparables 9 = .ok (.if_acmp .eq 7, 3) := dk_165 0 7 (dk_at dksJ1_compareComparables_0 9 rfl rfl)
theorem dJ1_compareComparables_12 : decode cJ1_compareComparables 12 = .ok (.iconst 0, 1) := dk_3 (dk_at dksJ1_compareComparables_0 12 rfl rfl)
theorem dJ1_compareComparables_13 : decode cJ1_compareComparables 13 = .ok (.goto 13, 3) := dk_167 0 13 (dk_at dksJ1_compareComparables_0 13 rfl rfl)
theorem dJ1_compareComparables_16 : decode cJ1_compareComparables 16 = .ok (.aload_n 1, 1) := dk_43 (dk_at dksJ1_compareComparables_0 16 rfl rfl)
theorem dJ1_compareComparables_17 : decode cJ1_compareComparables 17 = .ok (.checkcast 7, 3) := dk_192 0 7 (dk_at dksJ1_compareComparables_0 17 rfl rfl)
theorem dJ1_compareComparables_20 : decode cJ1_compareComparables 20 = .ok (.aload_n 2, 1) := dk_44 (dk_at dksJ1_compareComparables_0 20 rfl rfl)
theorem dJ1_compareComparables_21 : decode cJ1_compareComparables 21 = .ok (.invokeinterface 30 2, 5) := by decide +kernel
theorem dJ1_compareComparables_26 : decode cJ1_compareComparables 26 = .ok (.ireturn, 1) := dk_172 (dk_at dksJ1_compareComparables_1 5 rfl rfl)
abbrev cJ1_put : ByteArray := prog_34_method_15_code
def yJ1_put : MethodName := ⟨RJ1, "put", "(Ljava/lang/Object;Ljava/lang/Object;)Ljava/lang/Object;"⟩
def dkwJ1_put_0 : List UInt8 := [42, 43, 184, 0, 149, 43, 44, 3, 4, 182, 0, 152, 176]
abbrev dktJ1_put_0 : List UInt8 := dkwJ1_put_0 ++ []
theorem dksJ1_put_0 : cJ1_put.data.toList.drop 0 = dktJ1_put_0 := by decide +kernel
theorem dJ1_put_0 : decode cJ1_put 0 = .ok (.aload_n 0, 1) := dk_42 (dk_at dksJ1_put_0 0 rfl rfl)
theorem dJ1_put_1 : decode cJ1_put 1 = .ok (.aload_n 1, 1) := dk_43 (dk_at dksJ1_put_0 1 rfl rfl)
theorem dJ1_put_2 : decode cJ1_put 2 = .ok (.invokestatic 149, 3) := dk_184 0 149 (dk_at dksJ1_put_0 2 rfl rfl)
theorem dJ1_put_5 : decode cJ1_put 5 = .ok (.aload_n 1, 1) := dk_43 (dk_at dksJ1_put_0 5 rfl rfl)
theorem dJ1_put_6 : decode cJ1_put 6 = .ok (.aload_n 2, 1) := dk_44 (dk_at dksJ1_put_0 6 rfl rfl)
theorem dJ1_put_7 : decode cJ1_put 7 = .ok (.iconst 0, 1) := dk_3 (dk_at dksJ1_put_0 7 rfl rfl)
theorem dJ1_put_8 : decode cJ1_put 8 = .ok (.iconst 1, 1) := dk_4 (dk_at dksJ1_put_0 8 rfl rfl)
theorem dJ1_put_9 : decode cJ1_put 9 = .ok (.invokevirtual 152, 3) := dk_182 0 152 (dk_at dksJ1_put_0 9 rfl rfl)
theorem dJ1_put_12 : decode cJ1_put 12 = .ok (.areturn, 1) := dk_176 (dk_at dksJ1_put_0 12 rfl rfl)
abbrev cJ1_putVal : ByteArray := prog_34_method_16_code
def yJ1_putVal : MethodName := ⟨RJ1, "putVal", "(ILjava/lang/Object;Ljava/lang/Object;ZZ)Ljava/lang/Object;"⟩
def dkwJ1_putVal_12 : List UInt8 := [181, 0, 156, 42, 180, 0, 88, 164, 0, 8, 42, 182, 0, 117, 87, 42, 21, 5, 182, 0, 205, 1, 176]
abbrev dktJ1_putVal_12 : List UInt8 := dkwJ1_putVal_12 ++ []
def dkwJ1_putVal_11 : List UInt8 := [182, 0, 198, 25, 12, 176, 42, 89, 180, 0, 202, 4, 96, 181, 0, 202, 42, 89, 180, 0, 156, 4, 96, 90]
abbrev dktJ1_putVal_11 : List UInt8 := dkwJ1_putVal_11 ++ dktJ1_putVal_12
def dkwJ1_putVal_10 : List UInt8 := [180, 0, 162, 58, 12, 21, 4, 153, 0, 8, 25, 12, 199, 0, 9, 25, 10, 45, 181, 0, 162, 42, 25, 10]
abbrev dktJ1_putVal_10 : List UInt8 := dkwJ1_putVal_10 ++ dktJ1_putVal_11
def dkwJ1_putVal_9 : List UInt8 := [153, 0, 6, 167, 0, 13, 25, 10, 58, 7, 132, 12, 1, 167, 255, 171, 25, 10, 198, 0, 35, 25, 10]
abbrev dktJ1_putVal_9 : List UInt8 := dkwJ1_putVal_9 ++ dktJ1_putVal_10
def dkwJ1_putVal_8 : List UInt8 := [25, 10, 180, 0, 170, 89, 58, 11, 44, 165, 0, 29, 44, 198, 0, 15, 44, 25, 11, 182, 0, 173]
abbrev dktJ1_putVal_8 : List UInt8 := dkwJ1_putVal_8 ++ dktJ1_putVal_9
def dkwJ1_putVal_7 : List UInt8 := [16, 7, 161, 0, 60, 42, 25, 6, 27, 182, 0, 194, 167, 0, 50, 25, 10, 180, 0, 168, 27, 160, 0, 31]
abbrev dktJ1_putVal_7 : List UInt8 := dkwJ1_putVal_7 ++ dktJ1_putVal_8
def dkwJ1_putVal_6 : List UInt8 := [180, 0, 177, 89, 58, 10, 199, 0, 33, 25, 7, 42, 27, 44, 45, 1, 182, 0, 186, 181, 0, 177, 21, 12]
abbrev dktJ1_putVal_6 : List UInt8 := dkwJ1_putVal_6 ++ dktJ1_putVal_7
def dkwJ1_putVal_5 : List UInt8 := [192, 0, 180, 42, 25, 6, 27, 44, 45, 182, 0, 190, 58, 10, 167, 0, 94, 3, 54, 12, 25, 7]
abbrev dktJ1_putVal_5 : List UInt8 := dkwJ1_putVal_5 ++ dktJ1_putVal_6
def dkwJ1_putVal_4 : List UInt8 := [182, 0, 173, 153, 0, 10, 25, 7, 58, 10, 167, 0, 121, 25, 7, 193, 0, 180, 153, 0, 22, 25, 7]
abbrev dktJ1_putVal_4 : List UInt8 := dkwJ1_putVal_4 ++ dktJ1_putVal_5
def dkwJ1_putVal_3 : List UInt8 := [160, 0, 35, 25, 7, 180, 0, 170, 89, 58, 11, 44, 165, 0, 16, 44, 198, 0, 19, 44, 25, 11]
abbrev dktJ1_putVal_3 : List UInt8 := dkwJ1_putVal_3 ++ dktJ1_putVal_4
def dkwJ1_putVal_2 : List UInt8 := [25, 6, 21, 9, 42, 27, 44, 45, 1, 182, 0, 186, 83, 167, 0, 199, 25, 7, 180, 0, 168, 27]
abbrev dktJ1_putVal_2 : List UInt8 := dkwJ1_putVal_2 ++ dktJ1_putVal_3
def dkwJ1_putVal_1 : List UInt8 := [58, 6, 190, 54, 8, 25, 6, 21, 8, 4, 100, 27, 126, 89, 54, 9, 50, 89, 58, 7, 199, 0, 19]
abbrev dktJ1_putVal_1 : List UInt8 := dkwJ1_putVal_1 ++ dktJ1_putVal_2
def dkwJ1_putVal_0 : List UInt8 := [42, 180, 0, 105, 89, 58, 6, 198, 0, 12, 25, 6, 190, 89, 54, 8, 154, 0, 13, 42, 182, 0, 117, 89]
abbrev dktJ1_putVal_0 : List UInt8 := dkwJ1_putVal_0 ++ dktJ1_putVal_1
theorem dksJ1_putVal_0 : cJ1_putVal.data.toList.drop 0 = dktJ1_putVal_0 := by decide +kernel
theorem dksJ1_putVal_1 : cJ1_putVal.data.toList.drop 24 = dktJ1_putVal_1 := dk_seg dksJ1_putVal_0 24 rfl rfl
theorem dksJ1_putVal_2 : cJ1_putVal.data.toList.drop 47 = dktJ1_putVal_2 := dk_seg dksJ1_putVal_1 23 rfl rfl
theorem dksJ1_putVal_3 : cJ1_putVal.data.toList.drop 69 = dktJ1_putVal_3 := dk_seg dksJ1_putVal_2 22 rfl rfl
theorem dksJ1_putVal_4 : cJ1_putVal.data.toList.drop 91 = dktJ1_putVal_4 := dk_seg dksJ1_putVal_3 22 rfl rfl
theorem dksJ1_putVal_5 : cJ1_putVal.data.toList.drop 114 = dktJ1_putVal_5 := dk_seg dksJ1_putVal_4 23 rfl rfl
theorem dksJ1_putVal_6 : cJ1_putVal.data.toList.drop 136 = dktJ1_putVal_6 := dk_seg dksJ1_putVal_5 22 rfl rfl
theorem dksJ1_putVal_7 : cJ1_putVal.data.toList.drop 160 = dktJ1_putVal_7 := dk_seg dksJ1_putVal_6 24 rfl rfl
theorem dksJ1_putVal_8 : cJ1_putVal.data.toList.drop 184 = dktJ1_putVal_8 := dk_seg dksJ1_putVal_7 24 rfl rfl
theorem dksJ1_putVal_9 : cJ1_putVal.data.toList.drop 206 = dktJ1_putVal_9 := dk_seg dksJ1_putVal_8 22 rfl rfl
theorem dksJ1_putVal_10 : cJ1_putVal.data.toList.drop 229 = dktJ1_putVal_10 := dk_seg dksJ1_putVal_9 23 rfl rfl
theorem dksJ1_putVal_11 : cJ1_putVal.data.toList.drop 253 = dktJ1_putVal_11 := dk_seg dksJ1_putVal_10 24 rfl rfl
theorem dksJ1_putVal_12 : cJ1_putVal.data.toList.drop 277 = dktJ1_putVal_12 := dk_seg dksJ1_putVal_11 24 rfl rfl
theorem dJ1_putVal_0 : decode cJ1_putVal 0 = .ok (.aload_n 0, 1) := dk_42 (dk_at dksJ1_putVal_0 0 rfl rfl)
theorem dJ1_putVal_1 : decode cJ1_putVal 1 = .ok (.getfield 105, 3) := dk_180 0 105 (dk_at dksJ1_putVal_0 1 rfl rfl)
theorem dJ1_putVal_4 : decode cJ1_putVal 4 = .ok (.dup, 1) := dk_89 (dk_at dksJ1_putVal_0 4 rfl rfl)
theorem dJ1_putVal_5 : decode cJ1_putVal 5 = .ok (.astore 6, 2) := dk_58 6 (dk_at dksJ1_putVal_0 5 rfl rfl)
theorem dJ1_putVal_7 : decode cJ1_putVal 7 = .ok (.ifnull 12, 3) := dk_198 0 12 (dk_at dksJ1_putVal_0 7 rfl rfl)
theorem dJ1_putVal_10 : decode cJ1_putVal 10 = .ok (.aload 6, 2) := dk_25 6 (dk_at dksJ1_putVal_0 10 rfl rfl)
theorem dJ1_putVal_12 : decode cJ1_putVal 12 = .ok (.arraylength, 1) := dk_190 (dk_at dksJ1_putVal_0 12 rfl rfl)
theorem dJ1_putVal_13 : decode cJ1_putVal 13 = .ok (.dup, 1) := dk_89 (dk_at dksJ1_putVal_0 13 rfl rfl)
theorem dJ1_putVal_14 : decode cJ1_putVal 14 = .ok (.istore 8, 2) := dk_54 8 (dk_at dksJ1_putVal_0 14 rfl rfl)
theorem dJ1_putVal_16 : decode cJ1_putVal 16 = .ok (.ifCond .ne 13, 3) := dk_154 0 13 (dk_at dksJ1_putVal_0 16 rfl rfl)
theorem dJ1_putVal_19 : decode cJ1_putVal 19 = .ok (.aload_n 0, 1) := dk_42 (dk_at dksJ1_putVal_0 19 rfl rfl)
theorem dJ1_putVal_20 : decode cJ1_putVal 20 = .ok (.invokevirtual 117, 3) := dk_182 0 117 (dk_at dksJ1_putVal_0 20 rfl rfl)
theorem dJ1_putVal_23 : decode cJ1_putVal 23 = .ok (.dup, 1) := dk_89 (dk_at dksJ1_putVal_0 23 rfl rfl)
theorem dJ1_putVal_24 : decode cJ1_putVal 24 = .ok (.astore 6, 2) := dk_58 6 (dk_at dksJ1_putVal_1 0 rfl rfl)
theorem dJ1_putVal_26 : decode cJ1_putVal 26 = .ok (.arraylength, 1) := dk_190 (dk_at dksJ1_putVal_1 2 rfl rfl)
theorem dJ1_putVal_27 : decode cJ1_putVal 27 = .ok (.istore 8, 2) := dk_54 8 (dk_at dksJ1_putVal_1 3 rfl rfl)
theorem dJ1_putVal_29 : decode cJ1_putVal 29 = .ok (.aload 6, 2) := dk_25 6 (dk_at dksJ1_putVal_1 5 rfl rfl)
theorem dJ1_putVal_31 : decode cJ1_putVal 31 = .ok (.iload 8, 2) := dk_21 8 (dk_at dksJ1_putVal_1 7 rfl rfl)
theorem dJ1_putVal_33 : decode cJ1_putVal 33 = .ok (.iconst 1, 1) := dk_4 (dk_at dksJ1_putVal_1 9 rfl rfl)
theorem dJ1_putVal_34 : decode cJ1_putVal 34 = .ok (.isub, 1) := dk_100 (dk_at dksJ1_putVal_1 10 rfl rfl)
theorem dJ1_putVal_35 : decode cJ1_putVal 35 = .ok (.iload_n 1, 1) := dk_27 (dk_at dksJ1_putVal_1 11 rfl rfl)
theorem dJ1_putVal_36 : decode cJ1_putVal 36 = .ok (.iand, 1) := dk_126 (dk_at dksJ1_putVal_1 12 rfl rfl)
theorem dJ1_putVal_37 : decode cJ1_putVal 37 = .ok (.dup, 1) := dk_89 (dk_at dksJ1_putVal_1 13 rfl rfl)
theorem dJ1_putVal_38 : decode cJ1_putVal 38 = .ok (.istore 9, 2) := dk_54 9 (dk_at dksJ1_putVal_1 14 rfl rfl)
theorem dJ1_putVal_40 : decode cJ1_putVal 40 = .ok (.aaload, 1) := dk_50 (dk_at dksJ1_putVal_1 16 rfl rfl)
theorem dJ1_putVal_41 : decode cJ1_putVal 41 = .ok (.dup, 1) := dk_89 (dk_at dksJ1_putVal_1 17 rfl rfl)
theorem dJ1_putVal_42 : decode cJ1_putVal 42 = .ok (.astore 7, 2) := dk_58 7 (dk_at dksJ1_putVal_1 18 rfl rfl)
theorem dJ1_putVal_44 : decode cJ1_putVal 44 = .ok (.ifnonnull 19, 3) := dk_199 0 19 (dk_at dksJ1_putVal_1 20 rfl rfl)
theorem dJ1_putVal_47 : decode cJ1_putVal 47 = .ok (.aload 6, 2) := dk_25 6 (dk_at dksJ1_putVal_2 0 rfl rfl)
theorem dJ1_putVal_49 : decode cJ1_putVal 49 = .ok (.iload 9, 2) := dk_21 9 (dk_at dksJ1_putVal_2 2 rfl rfl)
theorem dJ1_putVal_51 : decode cJ1_putVal 51 = .ok (.aload_n 0, 1) := dk_42 (dk_at dksJ1_putVal_2 4 rfl rfl)
theorem dJ1_putVal_52 : decode cJ1_putVal 52 = .ok (.iload_n 1, 1) := dk_27 (dk_at dksJ1_putVal_2 5 rfl rfl)
theorem dJ1_putVal_53 : decode cJ1_putVal 53 = .ok (.aload_n 2, 1) := dk_44 (dk_at dksJ1_putVal_2 6 rfl rfl)
theorem dJ1_putVal_54 : decode cJ1_putVal 54 = .ok (.aload_n 3, 1) := dk_45 (dk_at dksJ1_putVal_2 7 rfl rfl)
theorem dJ1_putVal_55 : decode cJ1_putVal 55 = .ok (.aconst_null, 1) := dk_1 (dk_at dksJ1_putVal_2 8 rfl rfl)
theorem dJ1_putVal_56 : decode cJ1_putVal 56 = .ok (.invokevirtual 186, 3) := dk_182 0 186 (dk_at dksJ1_putVal_2 9 rfl rfl)
theorem dJ1_putVal_59 : decode cJ1_putVal 59 = .ok (.aastore, 1) := dk_83 (dk_at dksJ1_putVal_2 12 rfl rfl)
theorem dJ1_putVal_60 : decode cJ1_putVal 60 = .ok (.goto 199, 3) := dk_167 0 199 (dk_at dksJ1_putVal_2 13 rfl rfl)
theorem dJ1_putVal_63 : decode cJ1_putVal 63 = .ok (.aload 7, 2) := dk_25 7 (dk_at dksJ1_putVal_2 16 rfl rfl)
theorem dJ1_putVal_65 : decode cJ1_putVal 65 = .ok (.getfield 168, 3) := dk_180 0 168 (dk_at dksJ1_putVal_2 18 rfl rfl)
theorem dJ1_putVal_68 : decode cJ1_putVal 68 = .ok (.iload_n 1, 1) := dk_27 (dk_at dksJ1_putVal_2 21 rfl rfl)
theorem dJ1_putVal_69 : decode cJ1_putVal 69 = .ok (.if_icmp .ne 35, 3) := dk_160 0 35 (dk_at dksJ1_putVal_3 0 rfl rfl)
theorem dJ1_putVal_72 : decode cJ1_putVal 72 = .ok (.aload 7, 2) := dk_25 7 (dk_at dksJ1_putVal_3 3 rfl rfl)
theorem dJ1_putVal_74 : decode cJ1_putVal 74 = .ok (.getfield 170, 3) := dk_180 0 170 (dk_at dksJ1_putVal_3 5 rfl rfl)
theorem dJ1_putVal_77 : decode cJ1_putVal 77 = .ok (.dup, 1) := dk_89 (dk_at dksJ1_putVal_3 8 rfl rfl)
theorem dJ1_putVal_78 : decode cJ1_putVal 78 = .ok (.astore 11, 2) := dk_58 11 (dk_at dksJ1_putVal_3 9 rfl rfl)
theorem dJ1_putVal_80 : decode cJ1_putVal 80 = .ok (.aload_n 2, 1) := dk_44 (dk_at dksJ1_putVal_3 11 rfl rfl)
theorem dJ1_putVal_81 : decode cJ1_putVal 81 = .ok (.if_acmp .eq 16, 3) := dk_165 0 16 (dk_at dksJ1_putVal_3 12 rfl rfl)
theorem dJ1_putVal_84 : decode cJ1_putVal 84 = .ok (.aload_n 2, 1) := dk_44 (dk_at dksJ1_putVal_3 15 rfl rfl)
theorem dJ1_putVal_85 : decode cJ1_putVal 85 = .ok (.ifnull 19, 3) := dk_198 0 19 (dk_at dksJ1_putVal_3 16 rfl rfl)
theorem dJ1_putVal_88 : decode cJ1_putVal 88 = .ok (.aload_n 2, 1) := dk_44 (dk_at dksJ1_putVal_3 19 rfl rfl)
theorem dJ1_putVal_89 : decode cJ1_putVal 89 = .ok (.aload 11, 2) := dk_25 11 (dk_at dksJ1_putVal_3 20 rfl rfl)
theorem dJ1_putVal_91 : decode cJ1_putVal 91 = .ok (.invokevirtual 173, 3) := dk_182 0 173 (dk_at dksJ1_putVal_4 0 rfl rfl)
theorem dJ1_putVal_94 : decode cJ1_putVal 94 = .ok (.ifCond .eq 10, 3) := dk_153 0 10 (dk_at dksJ1_putVal_4 3 rfl rfl)
theorem dJ1_putVal_97 : decode cJ1_putVal 97 = .ok (.aload 7, 2) := dk_25 7 (dk_at dksJ1_putVal_4 6 rfl rfl)
theorem dJ1_putVal_99 : decode cJ1_putVal 99 = .ok (.astore 10, 2) := dk_58 10 (dk_at dksJ1_putVal_4 8 rfl rfl)
theorem dJ1_putVal_101 : decode cJ1_putVal 101 = .ok (.goto 121, 3) := dk_167 0 121 (dk_at dksJ1_putVal_4 10 rfl rfl)
theorem dJ1_putVal_104 : decode cJ1_putVal 104 = .ok (.aload 7, 2) := dk_25 7 (dk_at dksJ1_putVal_4 13 rfl rfl)
theorem dJ1_putVal_106 : decode cJ1_putVal 106 = .ok (.instanceof 180, 3) := dk_193 0 180 (dk_at dksJ1_putVal_4 15 rfl rfl)
theorem dJ1_putVal_109 : decode cJ1_putVal 109 = .ok (.ifCond .eq 22, 3) := dk_153 0 22 (dk_at dksJ1_putVal_4 18 rfl rfl)
theorem dJ1_putVal_112 : decode cJ1_putVal 112 = .ok (.aload 7, 2) := dk_25 7 (dk_at dksJ1_putVal_4 21 rfl rfl)
theorem dJ1_putVal_114 : decode cJ1_putVal 114 = .ok (.checkcast 180, 3) := dk_192 0 180 (dk_at dksJ1_putVal_5 0 rfl rfl)
theorem dJ1_putVal_117 : decode cJ1_putVal 117 = .ok (.aload_n 0, 1) := dk_42 (dk_at dksJ1_putVal_5 3 rfl rfl)
theorem dJ1_putVal_118 : decode cJ1_putVal 118 = .ok (.aload 6, 2) := dk_25 6 (dk_at dksJ1_putVal_5 4 rfl rfl)
theorem dJ1_putVal_120 : decode cJ1_putVal 120 = .ok (.iload_n 1, 1) := dk_27 (dk_at dksJ1_putVal_5 6 rfl rfl)
theorem dJ1_putVal_121 : decode cJ1_putVal 121 = .ok (.aload_n 2, 1) := dk_44 (dk_at dksJ1_putVal_5 7 rfl rfl)
theorem dJ1_putVal_122 : decode cJ1_putVal 122 = .ok (.aload_n 3, 1) := dk_45 (dk_at dksJ1_putVal_5 8 rfl rfl)
theorem dJ1_putVal_123 : decode cJ1_putVal 123 = .ok (.invokevirtual 190, 3) := dk_182 0 190 (dk_at dksJ1_putVal_5 9 rfl rfl)
theorem dJ1_putVal_126 : decode cJ1_putVal 126 = .ok (.astore 10, 2) := dk_58 10 (dk_at dksJ1_putVal_5 12 rfl rfl)
theorem dJ1_putVal_128 : decode cJ1_putVal 128 = .ok (.goto 94, 3) := dk_167 0 94 (dk_at dksJ1_putVal_5 14 rfl rfl)
theorem dJ1_putVal_131 : decode cJ1_putVal 131 = .ok (.iconst 0, 1) := dk_3 (dk_at dksJ1_putVal_5 17 rfl rfl)
theorem dJ1_putVal_132 : decode cJ1_putVal 132 = .ok (.istore 12, 2) := dk_54 12 (dk_at dksJ1_putVal_5 18 rfl rfl)
theorem dJ1_putVal_134 : decode cJ1_putVal 134 = .ok (.aload 7, 2) := dk_25 7 (dk_at dksJ1_putVal_5 20 rfl rfl)
theorem dJ1_putVal_136 : decode cJ1_putVal 136 = .ok (.getfield 177, 3) := dk_180 0 177 (dk_at dksJ1_putVal_6 0 rfl rfl)
theorem dJ1_putVal_139 : decode cJ1_putVal 139 = .ok (.dup, 1) := dk_89 (dk_at dksJ1_putVal_6 3 rfl rfl)
theorem dJ1_putVal_140 : decode cJ1_putVal 140 = .ok (.astore 10, 2) := dk_58 10 (dk_at dksJ1_putVal_6 4 rfl rfl)
theorem dJ1_putVal_142 : decode cJ1_putVal 142 = .ok (.ifnonnull 33, 3) := dk_199 0 33 (dk_at dksJ1_putVal_6 6 rfl rfl)
theorem dJ1_putVal_145 : decode cJ1_putVal 145 = .ok (.aload 7, 2) := dk_25 7 (dk_at dksJ1_putVal_6 9 rfl rfl)
theorem dJ1_putVal_147 : decode cJ1_putVal 147 = .ok (.aload_n 0, 1) := dk_42 (dk_at dksJ1_putVal_6 11 rfl rfl)
theorem dJ1_putVal_148 : decode cJ1_putVal 148 = .ok (.iload_n 1, 1) := dk_27 (dk_at dksJ1_putVal_6 12 rfl rfl)
theorem dJ1_putVal_149 : decode cJ1_putVal 149 = .ok (.aload_n 2, 1) := dk_44 (dk_at dksJ1_putVal_6 13 rfl rfl)
theorem dJ1_putVal_150 : decode cJ1_putVal 150 = .ok (.aload_n 3, 1) := dk_45 (dk_at dksJ1_putVal_6 14 rfl rfl)
theorem dJ1_putVal_151 : decode cJ1_putVal 151 = .ok (.aconst_null, 1) := dk_1 (dk_at dksJ1_putVal_6 15 rfl rfl)
theorem dJ1_putVal_152 : decode cJ1_putVal 152 = .ok (.invokevirtual 186, 3) := dk_182 0 186 (dk_at dksJ1_putVal_6 16 rfl rfl)
theorem dJ1_putVal_155 : decode cJ1_putVal 155 = .ok (.putfield 177, 3) := dk_181 0 177 (dk_at dksJ1_putVal_6 19 rfl rfl)
theorem dJ1_putVal_158 : decode cJ1_putVal 158 = .ok (.iload 12, 2) := dk_21 12 (dk_at dksJ1_putVal_6 22 rfl rfl)
theorem dJ1_putVal_160 : decode cJ1_putVal 160 = .ok (.bipush 7, 2) := dk_16 7 (dk_at dksJ1_putVal_7 0 rfl rfl)
theorem dJ1_putVal_162 : decode cJ1_putVal 162 = .ok (.if_icmp .lt 60, 3) := dk_161 0 60 (dk_at dksJ1_putVal_7 2 rfl rfl)
theorem dJ1_putVal_165 : decode cJ1_putVal 165 = .ok (.aload_n 0, 1) := dk_42 (dk_at dksJ1_putVal_7 5 rfl rfl)
theorem dJ1_putVal_166 : decode cJ1_putVal 166 = .ok (.aload 6, 2) := dk_25 6 (dk_at dksJ1_putVal_7 6 rfl rfl)
theorem dJ1_putVal_168 : decode cJ1_putVal 168 = .ok (.iload_n 1, 1) := dk_27 (dk_at dksJ1_putVal_7 8 rfl rfl)
theorem dJ1_putVal_169 : decode cJ1_putVal 169 = .ok (.invokevirtual 194, 3) := dk_182 0 194 (dk_at dksJ1_putVal_7 9 rfl rfl)
theorem dJ1_putVal_172 : decode cJ1_putVal 172 = .ok (.goto 50, 3) := dk_167 0 50 (dk_at dksJ1_putVal_7 12 rfl rfl)
theorem dJ1_putVal_175 : decode cJ1_putVal 175 = .ok (.aload 10, 2) := dk_25 10 (dk_at dksJ1_putVal_7 15 rfl rfl)
theorem dJ1_putVal_177 : decode cJ1_putVal 177 = .ok (.getfield 168, 3) := dk_180 0 168 (dk_at dksJ1_putVal_7 17 rfl rfl)
theorem dJ1_putVal_180 : decode cJ1_putVal 180 = .ok (.iload_n 1, 1) := dk_27 (dk_at dksJ1_putVal_7 20 rfl rfl)
theorem dJ1_putVal_181 : decode cJ1_putVal 181 = .ok (.if_icmp .ne 31, 3) := dk_160 0 31 (dk_at dksJ1_putVal_7 21 rfl rfl)
theorem dJ1_putVal_184 : decode cJ1_putVal 184 = .ok (.aload 10, 2) := dk_25 10 (dk_at dksJ1_putVal_8 0 rfl rfl)
theorem dJ1_putVal_186 : decode cJ1_putVal 186 = .ok (.getfield 170, 3) := dk_180 0 170 (dk_at dksJ1_putVal_8 2 rfl rfl)
theorem dJ1_putVal_189 : decode cJ1_putVal 189 = .ok (.dup, 1) := dk_89 (dk_at dksJ1_putVal_8 5 rfl rfl)
theorem dJ1_putVal_190 : decode cJ1_putVal 190 = .ok (.astore 11, 2) := dk_58 11 (dk_at dksJ1_putVal_8 6 rfl rfl)
theorem dJ1_putVal_192 : decode cJ1_putVal 192 = .ok (.aload_n 2, 1) := dk_44 (dk_at dksJ1_putVal_8 8 rfl rfl)
theorem dJ1_putVal_193 : decode cJ1_putVal 193 = .ok (.if_acmp .eq 29, 3) := dk_165 0 29 (dk_at dksJ1_putVal_8 9 rfl rfl)
theorem dJ1_putVal_196 : decode cJ1_putVal 196 = .ok (.aload_n 2, 1) := dk_44 (dk_at dksJ1_putVal_8 12 rfl rfl)
theorem dJ1_putVal_197 : decode cJ1_putVal 197 = .ok (.ifnull 15, 3) := dk_198 0 15 (dk_at dksJ1_putVal_8 13 rfl rfl)
theorem dJ1_putVal_200 : decode cJ1_putVal 200 = .ok (.aload_n 2, 1) := dk_44 (dk_at dksJ1_putVal_8 16 rfl rfl)
theorem dJ1_putVal_201 : decode cJ1_putVal 201 = .ok (.aload 11, 2) := dk_25 11 (dk_at dksJ1_putVal_8 17 rfl rfl)
theorem dJ1_putVal_203 : decode cJ1_putVal 203 = .ok (.invokevirtual 173, 3) := dk_182 0 173 (dk_at dksJ1_putVal_8 19 rfl rfl)
theorem dJ1_putVal_206 : decode cJ1_putVal 206 = .ok (.ifCond .eq 6, 3) := dk_153 0 6 (dk_at dksJ1_putVal_9 0 rfl rfl)
theorem dJ1_putVal_209 : decode cJ1_putVal 209 = .ok (.goto 13, 3) := dk_167 0 13 (dk_at dksJ1_putVal_9 3 rfl rfl)
theorem dJ1_putVal_212 : decode cJ1_putVal 212 = .ok (.aload 10, 2) := dk_25 10 (dk_at dksJ1_putVal_9 6 rfl rfl)
theorem dJ1_putVal_214 : decode cJ1_putVal 214 = .ok (.astore 7, 2) := dk_58 7 (dk_at dksJ1_putVal_9 8 rfl rfl)
theorem dJ1_putVal_216 : decode cJ1_putVal 216 = .ok (.iinc 12 1, 3) := dk_132 12 1 (dk_at dksJ1_putVal_9 10 rfl rfl)
theorem dJ1_putVal_219 : decode cJ1_putVal 219 = .ok (.goto (-85), 3) := dk_167 255 171 (dk_at dksJ1_putVal_9 13 rfl rfl)
theorem dJ1_putVal_222 : decode cJ1_putVal 222 = .ok (.aload 10, 2) := dk_25 10 (dk_at dksJ1_putVal_9 16 rfl rfl)
theorem dJ1_putVal_224 : decode cJ1_putVal 224 = .ok (.ifnull 35, 3) := dk_198 0 35 (dk_at dksJ1_putVal_9 18 rfl rfl)
theorem dJ1_putVal_227 : decode cJ1_putVal 227 = .ok (.aload 10, 2) := dk_25 10 (dk_at dksJ1_putVal_9 21 rfl rfl)
theorem dJ1_putVal_229 : decode cJ1_putVal 229 = .ok (.getfield 162, 3) := dk_180 0 162 (dk_at dksJ1_putVal_10 0 rfl rfl)
theorem dJ1_putVal_232 : decode cJ1_putVal 232 = .ok (.astore 12, 2) := dk_58 12 (dk_at dksJ1_putVal_10 3 rfl rfl)
theorem dJ1_putVal_234 : decode cJ1_putVal 234 = .ok (.iload 4, 2) := dk_21 4 (dk_at dksJ1_putVal_10 5 rfl rfl)
theorem dJ1_putVal_236 : decode cJ1_putVal 236 = .ok (.ifCond .eq 8, 3) := dk_153 0 8 (dk_at dksJ1_putVal_10 7 rfl rfl)
theorem dJ1_putVal_239 : decode cJ1_putVal 239 = .ok (.aload 12, 2) := dk_25 12 (dk_at dksJ1_putVal_10 10 rfl rfl)
theorem dJ1_putVal_241 : decode cJ1_putVal 241 = .ok (.ifnonnull 9, 3) := dk_199 0 9 (dk_at dksJ1_putVal_10 12 rfl rfl)
theorem dJ1_putVal_244 : decode cJ1_putVal 244 = .ok (.aload 10, 2) := dk_25 10 (dk_at dksJ1_putVal_10 15 rfl rfl)
theorem dJ1_putVal_246 : decode cJ1_putVal 246 = .ok (.aload_n 3, 1) := dk_45 (dk_at dksJ1_putVal_10 17 rfl rfl)
theorem dJ1_putVal_247 : decode cJ1_putVal 247 = .ok (.putfield 162, 3) := dk_181 0 162 (dk_at dksJ1_putVal_10 18 rfl rfl)
theorem dJ1_putVal_250 : decode cJ1_putVal 250 = .ok (.aload_n 0, 1) := dk_42 (dk_at dksJ1_putVal_10 21 rfl rfl)
theorem dJ1_putVal_251 : decode cJ1_putVal 251 = .ok (.aload 10, 2) := dk_25 10 (dk_at dksJ1_putVal_10 22 rfl rfl)
theorem dJ1_putVal_253 : decode cJ1_putVal 253 = .ok (.invokevirtual 198, 3) := dk_182 0 198 (dk_at dksJ1_putVal_11 0 rfl rfl)
theorem dJ1_putVal_256 : decode cJ1_putVal 256 = .ok (.aload 12, 2) := dk_25 12 (dk_at dksJ1_putVal_11 3 rfl rfl)
theorem dJ1_putVal_258 : decode cJ1_putVal 258 = .ok (.areturn, 1) := dk_176 (dk_at dksJ1_putVal_11 5 rfl rfl)
theorem dJ1_putVal_259 : decode cJ1_putVal 259 = .ok (.aload_n 0, 1) := dk_42 (dk_at dksJ1_putVal_11 6 rfl rfl)
theorem dJ1_putVal_260 : decode cJ1_putVal 260 = .ok (.dup, 1) := dk_89 (dk_at dksJ1_putVal_11 7 rfl rfl)
theorem dJ1_putVal_261 : decode cJ1_putVal 261 = .ok (.getfield 202, 3) := dk_180 0 202 (dk_at dksJ1_putVal_11 8 rfl rfl)
theorem dJ1_putVal_264 : decode cJ1_putVal 264 = .ok (.iconst 1, 1) := dk_4 (dk_at dksJ1_putVal_11 11 rfl rfl)
theorem dJ1_putVal_265 : decode cJ1_putVal 265 = .ok (.iadd, 1) := dk_96 (dk_at dksJ1_putVal_11 12 rfl rfl)
theorem dJ1_putVal_266 : decode cJ1_putVal 266 = .ok (.putfield 202, 3) := dk_181 0 202 (dk_at dksJ1_putVal_11 13 rfl rfl)
theorem dJ1_putVal_269 : decode cJ1_putVal 269 = .ok (.aload_n 0, 1) := dk_42 (dk_at dksJ1_putVal_11 16 rfl rfl)
theorem dJ1_putVal_270 : decode cJ1_putVal 270 = .ok (.dup, 1) := dk_89 (dk_at dksJ1_putVal_11 17 rfl rfl)
theorem dJ1_putVal_271 : decode cJ1_putVal 271 = .ok (.getfield 156, 3) := dk_180 0 156 (dk_at dksJ1_putVal_11 18 rfl rfl)
theorem dJ1_putVal_274 : decode cJ1_putVal 274 = .ok (.iconst 1, 1) := dk_4 (dk_at dksJ1_putVal_11 21 rfl rfl)
theorem dJ1_putVal_275 : decode cJ1_putVal 275 = .ok (.iadd, 1) := dk_96 (dk_at dksJ1_putVal_11 22 rfl rfl)
theorem dJ1_putVal_276 : decode cJ1_putVal 276 = .ok (.dup_x1, 1) := dk_90 (dk_at dksJ1_putVal_11 23 rfl rfl)
theorem dJ1_putVal_277 : decode cJ1_putVal 277 = .ok (.putfield 156, 3) := dk_181 0 156 (dk_at dksJ1_putVal_12 0 rfl rfl)
theorem dJ1_putVal_280 : decode cJ1_putVal 280 = .ok (.aload_n 0, 1) := dk_42 (dk_at dksJ1_putVal_12 3 rfl rfl)
theorem dJ1_putVal_281 : decode cJ1_putVal 281 = .ok (.getfield 88, 3) := dk_180 0 88 (dk_at dksJ1_putVal_12 4 rfl rfl)
theorem dJ1_putVal_284 : decode cJ1_putVal 284 = .ok (.if_icmp .le 8, 3) := dk_164 0 8 (dk_at dksJ1_putVal_12 7 rfl rfl)
theorem dJ1_putVal_287 : decode cJ1_putVal 287 = .ok (.aload_n 0, 1) := dk_42 (dk_at dksJ1_putVal_12 10 rfl rfl)
theorem dJ1_putVal_288 : decode cJ1_putVal 288 = .ok (.invokevirtual 117, 3) := dk_182 0 117 (dk_at dksJ1_putVal_12 11 rfl rfl)
theorem dJ1_putVal_291 : decode cJ1_putVal 291 = .ok (.pop, 1) := dk_87 (dk_at dksJ1_putVal_12 14 rfl rfl)
theorem dJ1_putVal_292 : decode cJ1_putVal 292 = .ok (.aload_n 0, 1) := dk_42 (dk_at dksJ1_putVal_12 15 rfl rfl)
theorem dJ1_putVal_293 : decode cJ1_putVal 293 = .ok (.iload 5, 2) := dk_21 5 (dk_at dksJ1_putVal_12 16 rfl rfl)
theorem dJ1_putVal_295 : decode cJ1_putVal 295 = .ok (.invokevirtual 205, 3) := dk_182 0 205 (dk_at dksJ1_putVal_12 18 rfl rfl)
theorem dJ1_putVal_298 : decode cJ1_putVal 298 = .ok (.aconst_null, 1) := dk_1 (dk_at dksJ1_putVal_12 21 rfl rfl)
theorem dJ1_putVal_299 : decode cJ1_putVal 299 = .ok (.areturn, 1) := dk_176 (dk_at dksJ1_putVal_12 22 rfl rfl)
abbrev cJ1_resize : ByteArray := prog_34_method_17_code
def yJ1_resize : MethodName := ⟨RJ1, "resize", "()[Ljava/util/HashMap$Node;"⟩
def dkwJ1_resize_15 : List UInt8 := [25, 6, 176]
abbrev dktJ1_resize_15 : List UInt8 := dkwJ1_resize_15 ++ []
def dkwJ1_resize_14 : List UInt8 := [198, 0, 18, 25, 12, 1, 181, 0, 177, 25, 6, 21, 7, 28, 96, 25, 11, 83, 132, 7, 1, 167, 255, 57]
abbrev dktJ1_resize_14 : List UInt8 := dkwJ1_resize_14 ++ dktJ1_resize_15
def dkwJ1_resize_13 : List UInt8 := [199, 255, 185, 25, 10, 198, 0, 16, 25, 10, 1, 181, 0, 177, 25, 6, 21, 7, 25, 9, 83, 25, 12]
abbrev dktJ1_resize_13 : List UInt8 := dkwJ1_resize_13 ++ dktJ1_resize_14
def dkwJ1_resize_12 : List UInt8 := [25, 8, 58, 11, 167, 0, 10, 25, 12, 25, 8, 181, 0, 177, 25, 8, 58, 12, 25, 13, 89, 58, 8]
abbrev dktJ1_resize_12 : List UInt8 := dkwJ1_resize_12 ++ dktJ1_resize_13
def dkwJ1_resize_11 : List UInt8 := [58, 9, 167, 0, 10, 25, 10, 25, 8, 181, 0, 177, 25, 8, 58, 10, 167, 0, 26, 25, 12, 199, 0, 10]
abbrev dktJ1_resize_11 : List UInt8 := dkwJ1_resize_11 ++ dktJ1_resize_12
def dkwJ1_resize_10 : List UInt8 := [25, 8, 180, 0, 177, 58, 13, 25, 8, 180, 0, 168, 28, 126, 154, 0, 29, 25, 10, 199, 0, 10, 25, 8]
abbrev dktJ1_resize_10 : List UInt8 := dkwJ1_resize_10 ++ dktJ1_resize_11
def dkwJ1_resize_9 : List UInt8 := [42, 25, 6, 21, 7, 28, 182, 0, 211, 167, 0, 127, 1, 58, 9, 1, 58, 10, 1, 58, 11, 1, 58, 12]
abbrev dktJ1_resize_9 : List UInt8 := dkwJ1_resize_9 ++ dktJ1_resize_10
def dkwJ1_resize_8 : List UInt8 := [21, 4, 4, 100, 126, 25, 8, 83, 167, 0, 152, 25, 8, 193, 0, 180, 153, 0, 20, 25, 8, 192, 0, 180]
abbrev dktJ1_resize_8 : List UInt8 := dkwJ1_resize_8 ++ dktJ1_resize_9
def dkwJ1_resize_7 : List UInt8 := [198, 0, 183, 43, 21, 7, 1, 83, 25, 8, 180, 0, 177, 199, 0, 21, 25, 6, 25, 8, 180, 0, 168]
abbrev dktJ1_resize_7 : List UInt8 := dkwJ1_resize_7 ++ dktJ1_resize_8
def dkwJ1_resize_6 : List UInt8 := [181, 0, 105, 43, 198, 0, 208, 3, 54, 7, 21, 7, 28, 162, 0, 199, 43, 21, 7, 50, 89, 58, 8]
abbrev dktJ1_resize_6 : List UInt8 := dkwJ1_resize_6 ++ dktJ1_resize_7
def dkwJ1_resize_5 : List UInt8 := [167, 0, 5, 18, 209, 54, 5, 42, 21, 5, 181, 0, 88, 21, 4, 189, 0, 163, 58, 6, 42, 25, 6]
abbrev dktJ1_resize_5 : List UInt8 := dkwJ1_resize_5 ++ dktJ1_resize_6
def dkwJ1_resize_4 : List UInt8 := [180, 0, 81, 106, 56, 6, 21, 4, 18, 42, 162, 0, 17, 23, 6, 18, 210, 150, 156, 0, 9, 23, 6, 139]
abbrev dktJ1_resize_4 : List UInt8 := dkwJ1_resize_4 ++ dktJ1_resize_5
def dkwJ1_resize_3 : List UInt8 := [54, 4, 167, 0, 11, 16, 16, 54, 4, 16, 12, 54, 5, 21, 5, 154, 0, 38, 21, 4, 134, 42]
abbrev dktJ1_resize_3 : List UInt8 := dkwJ1_resize_3 ++ dktJ1_resize_4
def dkwJ1_resize_2 : List UInt8 := [18, 42, 162, 0, 35, 28, 16, 16, 161, 0, 29, 29, 4, 120, 54, 5, 167, 0, 21, 29, 158, 0, 9, 29]
abbrev dktJ1_resize_2 : List UInt8 := dkwJ1_resize_2 ++ dktJ1_resize_3
def dkwJ1_resize_1 : List UInt8 := [28, 158, 0, 42, 28, 18, 42, 161, 0, 11, 42, 18, 209, 181, 0, 88, 43, 176, 28, 4, 120, 89, 54, 4]
abbrev dktJ1_resize_1 : List UInt8 := dkwJ1_resize_1 ++ dktJ1_resize_2
def dkwJ1_resize_0 : List UInt8 := [42, 180, 0, 105, 76, 43, 199, 0, 7, 3, 167, 0, 5, 43, 190, 61, 42, 180, 0, 88, 62, 3, 54, 5]
abbrev dktJ1_resize_0 : List UInt8 := dkwJ1_resize_0 ++ dktJ1_resize_1
theorem dksJ1_resize_0 : cJ1_resize.data.toList.drop 0 = dktJ1_resize_0 := by decide +kernel
theorem dksJ1_resize_1 : cJ1_resize.data.toList.drop 24 = dktJ1_resize_1 := dk_seg dksJ1_resize_0 24 rfl rfl
theorem dksJ1_resize_2 : cJ1_resize.data.toList.drop 48 = dktJ1_resize_2 := dk_seg dksJ1_resize_1 24 rfl rfl
theorem dksJ1_resize_3 : cJ1_resize.data.toList.drop 72 = dktJ1_resize_3 := dk_seg dksJ1_resize_2 24 rfl rfl
theorem dksJ1_resize_4 : cJ1_resize.data.toList.drop 94 = dktJ1_resize_4 := dk_seg dksJ1_resize_3 22 rfl rfl
theorem dksJ1_resize_5 : cJ1_resize.data.toList.drop 118 = dktJ1_resize_5 := dk_seg dksJ1_resize_4 24 rfl rfl
theorem dksJ1_resize_6 : cJ1_resize.data.toList.drop 141 = dktJ1_resize_6 := dk_seg dksJ1_resize_5 23 rfl rfl
theorem dksJ1_resize_7 : cJ1_resize.data.toList.drop 164 = dktJ1_resize_7 := dk_seg dksJ1_resize_6 23 rfl rfl
theorem dksJ1_resize_8 : cJ1_resize.data.toList.drop 187 = dktJ1_resize_8 := dk_seg dksJ1_resize_7 23 rfl rfl
theorem dksJ1_resize_9 : cJ1_resize.data.toList.drop 211 = dktJ1_resize_9 := dk_seg dksJ1_resize_8 24 rfl rfl
theorem dksJ1_resize_10 : cJ1_resize.data.toList.drop 235 = dktJ1_resize_10 := dk_seg dksJ1_resize_9 24 rfl rfl
theorem dksJ1_resize_11 : cJ1_resize.data.toList.drop 259 = dktJ1_resize_11 := dk_seg dksJ1_resize_10 24 rfl rfl
theorem dksJ1_resize_12 : cJ1_resize.data.toList.drop 283 = dktJ1_resize_12 := dk_seg dksJ1_resize_11 24 rfl rfl
theorem dksJ1_resize_13 : cJ1_resize.data.toList.drop 306 = dktJ1_resize_13 := dk_seg dksJ1_resize_12 23 rfl rfl
theorem dksJ1_resize_14 : cJ1_resize.data.toList.drop 329 = dktJ1_resize_14 := dk_seg dksJ1_resize_13 23 rfl rfl
theorem dksJ1_resize_15 : cJ1_resize.data.toList.drop 353 = dktJ1_resize_15 := dk_seg dksJ1_resize_14 24 rfl rfl
theorem dJ1_resize_0 : decode cJ1_resize 0 = .ok (.aload_n 0, 1) := dk_42 (dk_at dksJ1_resize_0 0 rfl rfl)
theorem dJ1_resize_1 : decode cJ1_resize 1 = .ok (.getfield 105, 3) := dk_180 0 105 (dk_at dksJ1_resize_0 1 rfl rfl)
theorem dJ1_resize_4 : decode cJ1_resize 4 = .ok (.astore_n 1, 1) := dk_76 (dk_at dksJ1_resize_0 4 rfl rfl)
theorem dJ1_resize_5 : decode cJ1_resize 5 = .ok (.aload_n 1, 1) := dk_43 (dk_at dksJ1_resize_0 5 rfl rfl)
theorem dJ1_resize_6 : decode cJ1_resize 6 = .ok (.ifnonnull 7, 3) := dk_199 0 7 (dk_at dksJ1_resize_0 6 rfl rfl)
theorem dJ1_resize_9 : decode cJ1_resize 9 = .ok (.iconst 0, 1) := dk_3 (dk_at dksJ1_resize_0 9 rfl rfl)
theorem dJ1_resize_10 : decode cJ1_resize 10 = .ok (.goto 5, 3) := dk_167 0 5 (dk_at dksJ1_resize_0 10 rfl rfl)
theorem dJ1_resize_13 : decode cJ1_resize 13 = .ok (.aload_n 1, 1) := dk_43 (dk_at dksJ1_resize_0 13 rfl rfl)
theorem dJ1_resize_14 : decode cJ1_resize 14 = .ok (.arraylength, 1) := dk_190 (dk_at dksJ1_resize_0 14 rfl rfl)
theorem dJ1_resize_15 : decode cJ1_resize 15 = .ok (.istore_n 2, 1) := dk_61 (dk_at dksJ1_resize_0 15 rfl rfl)
theorem dJ1_resize_16 : decode cJ1_resize 16 = .ok (.aload_n 0, 1) := dk_42 (dk_at dksJ1_resize_0 16 rfl rfl)
theorem dJ1_resize_17 : decode cJ1_resize 17 = .ok (.getfield 88, 3) := dk_180 0 88 (dk_at dksJ1_resize_0 17 rfl rfl)
theorem dJ1_resize_20 : decode cJ1_resize 20 = .ok (.istore_n 3, 1) := dk_62 (dk_at dksJ1_resize_0 20 rfl rfl)
theorem dJ1_resize_21 : decode cJ1_resize 21 = .ok (.iconst 0, 1) := dk_3 (dk_at dksJ1_resize_0 21 rfl rfl)
theorem dJ1_resize_22 : decode cJ1_resize 22 = .ok (.istore 5, 2) := dk_54 5 (dk_at dksJ1_resize_0 22 rfl rfl)
theorem dJ1_resize_24 : decode cJ1_resize 24 = .ok (.iload_n 2, 1) := dk_28 (dk_at dksJ1_resize_1 0 rfl rfl)
theorem dJ1_resize_25 : decode cJ1_resize 25 = .ok (.ifCond .le 42, 3) := dk_158 0 42 (dk_at dksJ1_resize_1 1 rfl rfl)
theorem dJ1_resize_28 : decode cJ1_resize 28 = .ok (.iload_n 2, 1) := dk_28 (dk_at dksJ1_resize_1 4 rfl rfl)
theorem dJ1_resize_29 : decode cJ1_resize 29 = .ok (.ldc 42, 2) := dk_18 42 (dk_at dksJ1_resize_1 5 rfl rfl)
theorem dJ1_resize_31 : decode cJ1_resize 31 = .ok (.if_icmp .lt 11, 3) := dk_161 0 11 (dk_at dksJ1_resize_1 7 rfl rfl)
theorem dJ1_resize_34 : decode cJ1_resize 34 = .ok (.aload_n 0, 1) := dk_42 (dk_at dksJ1_resize_1 10 rfl rfl)
theorem dJ1_resize_35 : decode cJ1_resize 35 = .ok (.ldc 209, 2) := dk_18 209 (dk_at dksJ1_resize_1 11 rfl rfl)
theorem dJ1_resize_37 : decode cJ1_resize 37 = .ok (.putfield 88, 3) := dk_181 0 88 (dk_at dksJ1_resize_1 13 rfl rfl)
theorem dJ1_resize_40 : decode cJ1_resize 40 = .ok (.aload_n 1, 1) := dk_43 (dk_at dksJ1_resize_1 16 rfl rfl)
theorem dJ1_resize_41 : decode cJ1_resize 41 = .ok (.areturn, 1) := dk_176 (dk_at dksJ1_resize_1 17 rfl rfl)
theorem dJ1_resize_42 : decode cJ1_resize 42 = .ok (.iload_n 2, 1) := dk_28 (dk_at dksJ1_resize_1 18 rfl rfl)
theorem dJ1_resize_43 : decode cJ1_resize 43 = .ok (.iconst 1, 1) := dk_4 (dk_at dksJ1_resize_1 19 rfl rfl)
theorem dJ1_resize_44 : decode cJ1_resize 44 = .ok (.ishl, 1) := dk_120 (dk_at dksJ1_resize_1 20 rfl rfl)
theorem dJ1_resize_45 : decode cJ1_resize 45 = .ok (.dup, 1) := dk_89 (dk_at dksJ1_resize_1 21 rfl rfl)
theorem dJ1_resize_46 : decode cJ1_resize 46 = .ok (.istore 4, 2) := dk_54 4 (dk_at dksJ1_resize_1 22 rfl rfl)
theorem dJ1_resize_48 : decode cJ1_resize 48 = .ok (.ldc 42, 2) := dk_18 42 (dk_at dksJ1_resize_2 0 rfl rfl)
theorem dJ1_resize_50 : decode cJ1_resize 50 = .ok (.if_icmp .ge 35, 3) := dk_162 0 35 (dk_at dksJ1_resize_2 2 rfl rfl)
theorem dJ1_resize_53 : decode cJ1_resize 53 = .ok (.iload_n 2, 1) := dk_28 (dk_at dksJ1_resize_2 5 rfl rfl)
theorem dJ1_resize_54 : decode cJ1_resize 54 = .ok (.bipush 16, 2) := dk_16 16 (dk_at dksJ1_resize_2 6 rfl rfl)
theorem dJ1_resize_56 : decode cJ1_resize 56 = .ok (.if_icmp .lt 29, 3) := dk_161 0 29 (dk_at dksJ1_resize_2 8 rfl rfl)
theorem dJ1_resize_59 : decode cJ1_resize 59 = .ok (.iload_n 3, 1) := dk_29 (dk_at dksJ1_resize_2 11 rfl rfl)
theorem dJ1_resize_60 : decode cJ1_resize 60 = .ok (.iconst 1, 1) := dk_4 (dk_at dksJ1_resize_2 12 rfl rfl)
theorem dJ1_resize_61 : decode cJ1_resize 61 = .ok (.ishl, 1) := dk_120 (dk_at dksJ1_resize_2 13 rfl rfl)
theorem dJ1_resize_62 : decode cJ1_resize 62 = .ok (.istore 5, 2) := dk_54 5 (dk_at dksJ1_resize_2 14 rfl rfl)
theorem dJ1_resize_64 : decode cJ1_resize 64 = .ok (.goto 21, 3) := dk_167 0 21 (dk_at dksJ1_resize_2 16 rfl rfl)
theorem dJ1_resize_67 : decode cJ1_resize 67 = .ok (.iload_n 3, 1) := dk_29 (dk_at dksJ1_resize_2 19 rfl rfl)
theorem dJ1_resize_68 : decode cJ1_resize 68 = .ok (.ifCond .le 9, 3) := dk_158 0 9 (dk_at dksJ1_resize_2 20 rfl rfl)
theorem dJ1_resize_71 : decode cJ1_resize 71 = .ok (.iload_n 3, 1) := dk_29 (dk_at dksJ1_resize_2 23 rfl rfl)
theorem dJ1_resize_72 : decode cJ1_resize 72 = .ok (.istore 4, 2) := dk_54 4 (dk_at dksJ1_resize_3 0 rfl rfl)
theorem dJ1_resize_74 : decode cJ1_resize 74 = .ok (.goto 11, 3) := dk_167 0 11 (dk_at dksJ1_resize_3 2 rfl rfl)
theorem dJ1_resize_77 : decode cJ1_resize 77 = .ok (.bipush 16, 2) := dk_16 16 (dk_at dksJ1_resize_3 5 rfl rfl)
theorem dJ1_resize_79 : decode cJ1_resize 79 = .ok (.istore 4, 2) := dk_54 4 (dk_at dksJ1_resize_3 7 rfl rfl)
theorem dJ1_resize_81 : decode cJ1_resize 81 = .ok (.bipush 12, 2) := dk_16 12 (dk_at dksJ1_resize_3 9 rfl rfl)
theorem dJ1_resize_83 : decode cJ1_resize 83 = .ok (.istore 5, 2) := dk_54 5 (dk_at dksJ1_resize_3 11 rfl rfl)
theorem dJ1_resize_85 : decode cJ1_resize 85 = .ok (.iload 5, 2) := dk_21 5 (dk_at dksJ1_resize_3 13 rfl rfl)
theorem dJ1_resize_87 : decode cJ1_resize 87 = .ok (.ifCond .ne 38, 3) := dk_154 0 38 (dk_at dksJ1_resize_3 15 rfl rfl)
theorem dJ1_resize_90 : decode cJ1_resize 90 = .ok (.iload 4, 2) := dk_21 4 (dk_at dksJ1_resize_3 18 rfl rfl)
theorem dJ1_resize_92 : decode cJ1_resize 92 = .ok (.i2f, 1) := dk_134 (dk_at dksJ1_resize_3 20 rfl rfl)
theorem dJ1_resize_93 : decode cJ1_resize 93 = .ok (.aload_n 0, 1) := dk_42 (dk_at dksJ1_resize_3 21 rfl rfl)
theorem dJ1_resize_94 : decode cJ1_resize 94 = .ok (.getfield 81, 3) := dk_180 0 81 (dk_at dksJ1_resize_4 0 rfl rfl)
theorem dJ1_resize_97 : decode cJ1_resize 97 = .ok (.fmul, 1) := dk_106 (dk_at dksJ1_resize_4 3 rfl rfl)
theorem dJ1_resize_98 : decode cJ1_resize 98 = .ok (.fstore 6, 2) := dk_56 6 (dk_at dksJ1_resize_4 4 rfl rfl)
theorem dJ1_resize_100 : decode cJ1_resize 100 = .ok (.iload 4, 2) := dk_21 4 (dk_at dksJ1_resize_4 6 rfl rfl)
theorem dJ1_resize_102 : decode cJ1_resize 102 = .ok (.ldc 42, 2) := dk_18 42 (dk_at dksJ1_resize_4 8 rfl rfl)
theorem dJ1_resize_104 : decode cJ1_resize 104 = .ok (.if_icmp .ge 17, 3) := dk_162 0 17 (dk_at dksJ1_resize_4 10 rfl rfl)
theorem dJ1_resize_107 : decode cJ1_resize 107 = .ok (.fload 6, 2) := dk_23 6 (dk_at dksJ1_resize_4 13 rfl rfl)
theorem dJ1_resize_109 : decode cJ1_resize 109 = .ok (.ldc 210, 2) := dk_18 210 (dk_at dksJ1_resize_4 15 rfl rfl)
theorem dJ1_resize_111 : decode cJ1_resize 111 = .ok (.fcmp .g, 1) := dk_150 (dk_at dksJ1_resize_4 17 rfl rfl)
theorem dJ1_resize_112 : decode cJ1_resize 112 = .ok (.ifCond .ge 9, 3) := dk_156 0 9 (dk_at dksJ1_resize_4 18 rfl rfl)
theorem dJ1_resize_115 : decode cJ1_resize 115 = .ok (.fload 6, 2) := dk_23 6 (dk_at dksJ1_resize_4 21 rfl rfl)
theorem dJ1_resize_117 : decode cJ1_resize 117 = .ok (.f2i, 1) := dk_139 (dk_at dksJ1_resize_4 23 rfl rfl)
theorem dJ1_resize_118 : decode cJ1_resize 118 = .ok (.goto 5, 3) := dk_167 0 5 (dk_at dksJ1_resize_5 0 rfl rfl)
theorem dJ1_resize_121 : decode cJ1_resize 121 = .ok (.ldc 209, 2) := dk_18 209 (dk_at dksJ1_resize_5 3 rfl rfl)
theorem dJ1_resize_123 : decode cJ1_resize 123 = .ok (.istore 5, 2) := dk_54 5 (dk_at dksJ1_resize_5 5 rfl rfl)
theorem dJ1_resize_125 : decode cJ1_resize 125 = .ok (.aload_n 0, 1) := dk_42 (dk_at dksJ1_resize_5 7 rfl rfl)
theorem dJ1_resize_126 : decode cJ1_resize 126 = .ok (.iload 5, 2) := dk_21 5 (dk_at dksJ1_resize_5 8 rfl rfl)
theorem dJ1_resize_128 : decode cJ1_resize 128 = .ok (.putfield 88, 3) := dk_181 0 88 (dk_at dksJ1_resize_5 10 rfl rfl)
theorem dJ1_resize_131 : decode cJ1_resize 131 = .ok (.iload 4, 2) := dk_21 4 (dk_at dksJ1_resize_5 13 rfl rfl)
theorem dJ1_resize_133 : decode cJ1_resize 133 = .ok (.anewarray 163, 3) := dk_189 0 163 (dk_at dksJ1_resize_5 15 rfl rfl)
theorem dJ1_resize_136 : decode cJ1_resize 136 = .ok (.astore 6, 2) := dk_58 6 (dk_at dksJ1_resize_5 18 rfl rfl)
theorem dJ1_resize_138 : decode cJ1_resize 138 = .ok (.aload_n 0, 1) := dk_42 (dk_at dksJ1_resize_5 20 rfl rfl)
theorem dJ1_resize_139 : decode cJ1_resize 139 = .ok (.aload 6, 2) := dk_25 6 (dk_at dksJ1_resize_5 21 rfl rfl)
theorem dJ1_resize_141 : decode cJ1_resize 141 = .ok (.putfield 105, 3) := dk_181 0 105 (dk_at dksJ1_resize_6 0 rfl rfl)
theorem dJ1_resize_144 : decode cJ1_resize 144 = .ok (.aload_n 1, 1) := dk_43 (dk_at dksJ1_resize_6 3 rfl rfl)
theorem dJ1_resize_145 : decode cJ1_resize 145 = .ok (.ifnull 208, 3) := dk_198 0 208 (dk_at dksJ1_resize_6 4 rfl rfl)
theorem dJ1_resize_148 : decode cJ1_resize 148 = .ok (.iconst 0, 1) := dk_3 (dk_at dksJ1_resize_6 7 rfl rfl)
theorem dJ1_resize_149 : decode cJ1_resize 149 = .ok (.istore 7, 2) := dk_54 7 (dk_at dksJ1_resize_6 8 rfl rfl)
theorem dJ1_resize_151 : decode cJ1_resize 151 = .ok (.iload 7, 2) := dk_21 7 (dk_at dksJ1_resize_6 10 rfl rfl)
theorem dJ1_resize_153 : decode cJ1_resize 153 = .ok (.iload_n 2, 1) := dk_28 (dk_at dksJ1_resize_6 12 rfl rfl)
theorem dJ1_resize_154 : decode cJ1_resize 154 = .ok (.if_icmp .ge 199, 3) := dk_162 0 199 (dk_at dksJ1_resize_6 13 rfl rfl)
theorem dJ1_resize_157 : decode cJ1_resize 157 = .ok (.aload_n 1, 1) := dk_43 (dk_at dksJ1_resize_6 16 rfl rfl)
theorem dJ1_resize_158 : decode cJ1_resize 158 = .ok (.iload 7, 2) := dk_21 7 (dk_at dksJ1_resize_6 17 rfl rfl)
theorem dJ1_resize_160 : decode cJ1_resize 160 = .ok (.aaload, 1) := dk_50 (dk_at dksJ1_resize_6 19 rfl rfl)
theorem dJ1_resize_161 : decode cJ1_resize 161 = .ok (.dup, 1) := dk_89 (dk_at dksJ1_resize_6 20 rfl rfl)
theorem dJ1_resize_162 : decode cJ1_resize 162 = .ok (.astore 8, 2) := dk_58 8 (dk_at dksJ1_resize_6 21 rfl rfl)
theorem dJ1_resize_164 : decode cJ1_resize 164 = .ok (.ifnull 183, 3) := dk_198 0 183 (dk_at dksJ1_resize_7 0 rfl rfl)
theorem dJ1_resize_167 : decode cJ1_resize 167 = .ok (.aload_n 1, 1) := dk_43 (dk_at dksJ1_resize_7 3 rfl rfl)
theorem dJ1_resize_168 : decode cJ1_resize 168 = .ok (.iload 7, 2) := dk_21 7 (dk_at dksJ1_resize_7 4 rfl rfl)
theorem dJ1_resize_170 : decode cJ1_resize 170 = .ok (.aconst_null, 1) := dk_1 (dk_at dksJ1_resize_7 6 rfl rfl)
theorem dJ1_resize_171 : decode cJ1_resize 171 = .ok (.aastore, 1) := dk_83 (dk_at dksJ1_resize_7 7 rfl rfl)
theorem dJ1_resize_172 : decode cJ1_resize 172 = .ok (.aload 8, 2) := dk_25 8 (dk_at dksJ1_resize_7 8 rfl rfl)
theorem dJ1_resize_174 : decode cJ1_resize 174 = .ok (.getfield 177, 3) := dk_180 0 177 (dk_at dksJ1_resize_7 10 rfl rfl)
theorem dJ1_resize_177 : decode cJ1_resize 177 = .ok (.ifnonnull 21, 3) := dk_199 0 21 (dk_at dksJ1_resize_7 13 rfl rfl)
theorem dJ1_resize_180 : decode cJ1_resize 180 = .ok (.aload 6, 2) := dk_25 6 (dk_at dksJ1_resize_7 16 rfl rfl)
theorem dJ1_resize_182 : decode cJ1_resize 182 = .ok (.aload 8, 2) := dk_25 8 (dk_at dksJ1_resize_7 18 rfl rfl)
theorem dJ1_resize_184 : decode cJ1_resize 184 = .ok (.getfield 168, 3) := dk_180 0 168 (dk_at dksJ1_resize_7 20 rfl rfl)
theorem dJ1_resize_187 : decode cJ1_resize 187 = .ok (.iload 4, 2) := dk_21 4 (dk_at dksJ1_resize_8 0 rfl rfl)
theorem dJ1_resize_189 : decode cJ1_resize 189 = .ok (.iconst 1, 1) := dk_4 (dk_at dksJ1_resize_8 2 rfl rfl)
theorem dJ1_resize_190 : decode cJ1_resize 190 = .ok (.isub, 1) := dk_100 (dk_at dksJ1_resize_8 3 rfl rfl)
theorem dJ1_resize_191 : decode cJ1_resize 191 = .ok (.iand, 1) := dk_126 (dk_at dksJ1_resize_8 4 rfl rfl)
theorem dJ1_resize_192 : decode cJ1_resize 192 = .ok (.aload 8, 2) := dk_25 8 (dk_at dksJ1_resize_8 5 rfl rfl)
theorem dJ1_resize_194 : decode cJ1_resize 194 = .ok (.aastore, 1) := dk_83 (dk_at dksJ1_resize_8 7 rfl rfl)
theorem dJ1_resize_195 : decode cJ1_resize 195 = .ok (.goto 152, 3) := dk_167 0 152 (dk_at dksJ1_resize_8 8 rfl rfl)
theorem dJ1_resize_198 : decode cJ1_resize 198 = .ok (.aload 8, 2) := dk_25 8 (dk_at dksJ1_resize_8 11 rfl rfl)
theorem dJ1_resize_200 : decode cJ1_resize 200 = .ok (.instanceof 180, 3) := dk_193 0 180 (dk_at dksJ1_resize_8 13 rfl rfl)
theorem dJ1_resize_203 : decode cJ1_resize 203 = .ok (.ifCond .eq 20, 3) := dk_153 0 20 (dk_at dksJ1_resize_8 16 rfl rfl)
theorem dJ1_resize_206 : decode cJ1_resize 206 = .ok (.aload 8, 2) := dk_25 8 (dk_at dksJ1_resize_8 19 rfl rfl)
theorem dJ1_resize_208 : decode cJ1_resize 208 = .ok (.checkcast 180, 3) := dk_192 0 180 (dk_at dksJ1_resize_8 21 rfl rfl)
theorem dJ1_resize_211 : decode cJ1_resize 211 = .ok (.aload_n 0, 1) := dk_42 (dk_at dksJ1_resize_9 0 rfl rfl)
theorem dJ1_resize_212 : decode cJ1_resize 212 = .ok (.aload 6, 2) := dk_25 6 (dk_at dksJ1_resize_9 1 rfl rfl)
theorem dJ1_resize_214 : decode cJ1_resize 214 = .ok (.iload 7, 2) := dk_21 7 (dk_at dksJ1_resize_9 3 rfl rfl)
theorem dJ1_resize_216 : decode cJ1_resize 216 = .ok (.iload_n 2, 1) := dk_28 (dk_at dksJ1_resize_9 5 rfl rfl)
theorem dJ1_resize_217 : decode cJ1_resize 217 = .ok (.invokevirtual 211, 3) := dk_182 0 211 (dk_at dksJ1_resize_9 6 rfl rfl)
theorem dJ1_resize_220 : decode cJ1_resize 220 = .ok (.goto 127, 3) := dk_167 0 127 (dk_at dksJ1_resize_9 9 rfl rfl)
theorem dJ1_resize_223 : decode cJ1_resize 223 = .ok (.aconst_null, 1) := dk_1 (dk_at dksJ1_resize_9 12 rfl rfl)
theorem dJ1_resize_224 : decode cJ1_resize 224 = .ok (.astore 9, 2) := dk_58 9 (dk_at dksJ1_resize_9 13 rfl rfl)
theorem dJ1_resize_226 : decode cJ1_resize 226 = .ok (.aconst_null, 1) := dk_1 (dk_at dksJ1_resize_9 15 rfl rfl)
theorem dJ1_resize_227 : decode cJ1_resize 227 = .ok (.astore 10, 2) := dk_58 10 (dk_at dksJ1_resize_9 16 rfl rfl)
theorem dJ1_resize_229 : decode cJ1_resize 229 = .ok (.aconst_null, 1) := dk_1 (dk_at dksJ1_resize_9 18 rfl rfl)
theorem dJ1_resize_230 : decode cJ1_resize 230 = .ok (.astore 11, 2) := dk_58 11 (dk_at dksJ1_resize_9 19 rfl rfl)
theorem dJ1_resize_232 : decode cJ1_resize 232 = .ok (.aconst_null, 1) := dk_1 (dk_at dksJ1_resize_9 21 rfl rfl)
theorem dJ1_resize_233 : decode cJ1_resize 233 = .ok (.astore 12, 2) := dk_58 12 (dk_at dksJ1_resize_9 22 rfl rfl)
theorem dJ1_resize_235 : decode cJ1_resize 235 = .ok (.aload 8, 2) := dk_25 8 (dk_at dksJ1_resize_10 0 rfl rfl)
theorem dJ1_resize_237 : decode cJ1_resize 237 = .ok (.getfield 177, 3) := dk_180 0 177 (dk_at dksJ1_resize_10 2 rfl rfl)
theorem dJ1_resize_240 : decode cJ1_resize 240 = .ok (.astore 13, 2) := dk_58 13 (dk_at dksJ1_resize_10 5 rfl rfl)
theorem dJ1_resize_242 : decode cJ1_resize 242 = .ok (.aload 8, 2) := dk_25 8 (dk_at dksJ1_resize_10 7 rfl rfl)
theorem dJ1_resize_244 : decode cJ1_resize 244 = .ok (.getfield 168, 3) := dk_180 0 168 (dk_at dksJ1_resize_10 9 rfl rfl)
theorem dJ1_resize_247 : decode cJ1_resize 247 = .ok (.iload_n 2, 1) := dk_28 (dk_at dksJ1_resize_10 12 rfl rfl)
theorem dJ1_resize_248 : decode cJ1_resize 248 = .ok (.iand, 1) := dk_126 (dk_at dksJ1_resize_10 13 rfl rfl)
theorem dJ1_resize_249 : decode cJ1_resize 249 = .ok (.ifCond .ne 29, 3) := dk_154 0 29 (dk_at dksJ1_resize_10 14 rfl rfl)
theorem dJ1_resize_252 : decode cJ1_resize 252 = .ok (.aload 10, 2) := dk_25 10 (dk_at dksJ1_resize_10 17 rfl rfl)
theorem dJ1_resize_254 : decode cJ1_resize 254 = .ok (.ifnonnull 10, 3) := dk_199 0 10 (dk_at dksJ1_resize_10 19 rfl rfl)
theorem dJ1_resize_257 : decode cJ1_resize 257 = .ok (.aload 8, 2) := dk_25 8 (dk_at dksJ1_resize_10 22 rfl rfl)
theorem dJ1_resize_259 : decode cJ1_resize 259 = .ok (.astore 9, 2) := dk_58 9 (dk_at dksJ1_resize_11 0 rfl rfl)
theorem dJ1_resize_261 : decode cJ1_resize 261 = .ok (.goto 10, 3) := dk_167 0 10 (dk_at dksJ1_resize_11 2 rfl rfl)
theorem dJ1_resize_264 : decode cJ1_resize 264 = .ok (.aload 10, 2) := dk_25 10 (dk_at dksJ1_resize_11 5 rfl rfl)
theorem dJ1_resize_266 : decode cJ1_resize 266 = .ok (.aload 8, 2) := dk_25 8 (dk_at dksJ1_resize_11 7 rfl rfl)
theorem dJ1_resize_268 : decode cJ1_resize 268 = .ok (.putfield 177, 3) := dk_181 0 177 (dk_at dksJ1_resize_11 9 rfl rfl)
theorem dJ1_resize_271 : decode cJ1_resize 271 = .ok (.aload 8, 2) := dk_25 8 (dk_at dksJ1_resize_11 12 rfl rfl)
theorem dJ1_resize_273 : decode cJ1_resize 273 = .ok (.astore 10, 2) := dk_58 10 (dk_at dksJ1_resize_11 14 rfl rfl)
theorem dJ1_resize_275 : decode cJ1_resize 275 = .ok (.goto 26, 3) := dk_167 0 26 (dk_at dksJ1_resize_11 16 rfl rfl)
theorem dJ1_resize_278 : decode cJ1_resize 278 = .ok (.aload 12, 2) := dk_25 12 (dk_at dksJ1_resize_11 19 rfl rfl)
theorem dJ1_resize_280 : decode cJ1_resize 280 = .ok (.ifnonnull 10, 3) := dk_199 0 10 (dk_at dksJ1_resize_11 21 rfl rfl)
theorem dJ1_resize_283 : decode cJ1_resize 283 = .ok (.aload 8, 2) := dk_25 8 (dk_at dksJ1_resize_12 0 rfl rfl)
theorem dJ1_resize_285 : decode cJ1_resize 285 = .ok (.astore 11, 2) := dk_58 11 (dk_at dksJ1_resize_12 2 rfl rfl)
theorem dJ1_resize_287 : decode cJ1_resize 287 = .ok (.goto 10, 3) := dk_167 0 10 (dk_at dksJ1_resize_12 4 rfl rfl)
theorem dJ1_resize_290 : decode cJ1_resize 290 = .ok (.aload 12, 2) := dk_25 12 (dk_at dksJ1_resize_12 7 rfl rfl)
theorem dJ1_resize_292 : decode cJ1_resize 292 = .ok (.aload 8, 2) := dk_25 8 (dk_at dksJ1_resize_12 9 rfl rfl)
theorem dJ1_resize_294 : decode cJ1_resize 294 = .ok (.putfield 177, 3) := dk_181 0 177 (dk_at dksJ1_resize_12 11 rfl rfl)
theorem dJ1_resize_297 : decode cJ1_resize 297 = .ok (.aload 8, 2) := dk_25 8 (dk_at dksJ1_resize_12 14 rfl rfl)
theorem dJ1_resize_299 : decode cJ1_resize 299 = .ok (.astore 12, 2) := dk_58 12 (dk_at dksJ1_resize_12 16 rfl rfl)
theorem dJ1_resize_301 : decode cJ1_resize 301 = .ok (.aload 13, 2) := dk_25 13 (dk_at dksJ1_resize_12 18 rfl rfl)
theorem dJ1_resize_303 : decode cJ1_resize 303 = .ok (.dup, 1) := dk_89 (dk_at dksJ1_resize_12 20 rfl rfl)
theorem dJ1_resize_304 : decode cJ1_resize 304 = .ok (.astore 8, 2) := dk_58 8 (dk_at dksJ1_resize_12 21 rfl rfl)
theorem dJ1_resize_306 : decode cJ1_resize 306 = .ok (.ifnonnull (-71), 3) := dk_199 255 185 (dk_at dksJ1_resize_13 0 rfl rfl)
theorem dJ1_resize_309 : decode cJ1_resize 309 = .ok (.aload 10, 2) := dk_25 10 (dk_at dksJ1_resize_13 3 rfl rfl)
theorem dJ1_resize_311 : decode cJ1_resize 311 = .ok (.ifnull 16, 3) := dk_198 0 16 (dk_at dksJ1_resize_13 5 rfl rfl)
theorem dJ1_resize_314 : decode cJ1_resize 314 = .ok (.aload 10, 2) := dk_25 10 (dk_at dksJ1_resize_13 8 rfl rfl)
theorem dJ1_resize_316 : decode cJ1_resize 316 = .ok (.aconst_null, 1) := dk_1 (dk_at dksJ1_resize_13 10 rfl rfl)
theorem dJ1_resize_317 : decode cJ1_resize 317 = .ok (.putfield 177, 3) := dk_181 0 177 (dk_at dksJ1_resize_13 11 rfl rfl)
theorem dJ1_resize_320 : decode cJ1_resize 320 = .ok (.aload 6, 2) := dk_25 6 (dk_at dksJ1_resize_13 14 rfl rfl)
theorem dJ1_resize_322 : decode cJ1_resize 322 = .ok (.iload 7, 2) := dk_21 7 (dk_at dksJ1_resize_13 16 rfl rfl)
theorem dJ1_resize_324 : decode cJ1_resize 324 = .ok (.aload 9, 2) := dk_25 9 (dk_at dksJ1_resize_13 18 rfl rfl)
theorem dJ1_resize_326 : decode cJ1_resize 326 = .ok (.aastore, 1) := dk_83 (dk_at dksJ1_resize_13 20 rfl rfl)
theorem dJ1_resize_327 : decode cJ1_resize 327 = .ok (.aload 12, 2) := dk_25 12 (dk_at dksJ1_resize_13 21 rfl rfl)
theorem dJ1_resize_329 : decode cJ1_resize 329 = .ok (.ifnull 18, 3) := dk_198 0 18 (dk_at dksJ1_resize_14 0 rfl rfl)
theorem dJ1_resize_332 : decode cJ1_resize 332 = .ok (.aload 12, 2) := dk_25 12 (dk_at dksJ1_resize_14 3 rfl rfl)
theorem dJ1_resize_334 : decode cJ1_resize 334 = .ok (.aconst_null, 1) := dk_1 (dk_at dksJ1_resize_14 5 rfl rfl)
theorem dJ1_resize_335 : decode cJ1_resize 335 = .ok (.putfield 177, 3) := dk_181 0 177 (dk_at dksJ1_resize_14 6 rfl rfl)
theorem dJ1_resize_338 : decode cJ1_resize 338 = .ok (.aload 6, 2) := dk_25 6 (dk_at dksJ1_resize_14 9 rfl rfl)
theorem dJ1_resize_340 : decode cJ1_resize 340 = .ok (.iload 7, 2) := dk_21 7 (dk_at dksJ1_resize_14 11 rfl rfl)
theorem dJ1_resize_342 : decode cJ1_resize 342 = .ok (.iload_n 2, 1) := dk_28 (dk_at dksJ1_resize_14 13 rfl rfl)
theorem dJ1_resize_343 : decode cJ1_resize 343 = .ok (.iadd, 1) := dk_96 (dk_at dksJ1_resize_14 14 rfl rfl)
theorem dJ1_resize_344 : decode cJ1_resize 344 = .ok (.aload 11, 2) := dk_25 11 (dk_at dksJ1_resize_14 15 rfl rfl)
theorem dJ1_resize_346 : decode cJ1_resize 346 = .ok (.aastore, 1) := dk_83 (dk_at dksJ1_resize_14 17 rfl rfl)
theorem dJ1_resize_347 : decode cJ1_resize 347 = .ok (.iinc 7 1, 3) := dk_132 7 1 (dk_at dksJ1_resize_14 18 rfl rfl)
theorem dJ1_resize_350 : decode cJ1_resize 350 = .ok (.goto (-199), 3) := dk_167 255 57 (dk_at dksJ1_resize_14 21 rfl rfl)
theorem dJ1_resize_353 : decode cJ1_resize 353 = .ok (.aload 6, 2) := dk_25 6 (dk_at dksJ1_resize_15 0 rfl rfl)
theorem dJ1_resize_355 : decode cJ1_resize 355 = .ok (.areturn, 1) := dk_176 (dk_at dksJ1_resize_15 2 rfl rfl)
abbrev cJ1_replacementNode : ByteArray := prog_34_method_47_code
def yJ1_replacementNode : MethodName := ⟨RJ1, "replacementNode", "(Ljava/util/HashMap$Node;Ljava/util/HashMap$Node;)Ljava/util/HashMap$Node;"⟩
def dkwJ1_replacementNode_0 : List UInt8 := [187, 0, 163, 89, 43, 180, 0, 168, 43, 180, 0, 170, 43, 180, 0, 162, 44, 183, 1, 119, 176]
abbrev dktJ1_replacementNode_0 : List UInt8 := dkwJ1_replacementNode_0 ++ []
theorem dksJ1_replacementNode_0 : cJ1_replacementNode.data.toList.drop 0 = dktJ1_replacementNode_0 := by decide +kernel
theorem dJ1_replacementNode_0 : decode cJ1_replacementNode 0 = .ok (.new 163, 3) := dk_187 0 163 (dk_at dksJ1_replacementNode_0 0 rfl rfl)
theorem dJ1_replacementNode_3 : decode cJ1_replacementNode 3 = .ok (.dup, 1) := dk_89 (dk_at dksJ1_replacementNode_0 3 rfl rfl)
theorem dJ1_replacementNode_4 : decode cJ1_replacementNode 4 = .ok (.aload_n 1, 1) := dk_43 (dk_at dksJ1_replacementNode_0 4 rfl rfl)
theorem dJ1_replacementNode_5 : decode cJ1_replacementNode 5 = .ok (.getfield 168, 3) := dk_180 0 168 (dk_at dksJ1_replacementNode_0 5 rfl rfl)
theorem dJ1_replacementNode_8 : decode cJ1_replacementNode 8 = .ok (.aload_n 1, 1) := dk_43 (dk_at dksJ1_replacementNode_0 8 rfl rfl)
theorem dJ1_replacementNode_9 : decode cJ1_replacementNode 9 = .ok (.getfield 170, 3) := dk_180 0 170 (dk_at dksJ1_replacementNode_0 9 rfl rfl)
theorem dJ1_replacementNode_12 : decode cJ1_replacementNode 12 = .ok (.aload_n 1, 1) := dk_43 (dk_at dksJ1_replacementNode_0 12 rfl rfl)
theorem dJ1_replacementNode_13 : decode cJ1_replacementNode 13 = .ok (.getfield 162, 3) := dk_180 0 162 (dk_at dksJ1_replacementNode_0 13 rfl rfl)
theorem dJ1_replacementNode_16 : decode cJ1_replacementNode 16 = .ok (.aload_n 2, 1) := dk_44 (dk_at dksJ1_replacementNode_0 16 rfl rfl)
theorem dJ1_replacementNode_17 : decode cJ1_replacementNode 17 = .ok (.invokespecial 375, 3) := dk_183 1 119 (dk_at dksJ1_replacementNode_0 17 rfl rfl)
theorem dJ1_replacementNode_20 : decode cJ1_replacementNode 20 = .ok (.areturn, 1) := dk_176 (dk_at dksJ1_replacementNode_0 20 rfl rfl)
abbrev cJ1_newNode : ByteArray := prog_34_method_46_code
def yJ1_newNode : MethodName := ⟨RJ1, "newNode", "(ILjava/lang/Object;Ljava/lang/Object;Ljava/util/HashMap$Node;)Ljava/util/HashMap$Node;"⟩
def dkwJ1_newNode_0 : List UInt8 := [187, 0, 163, 89, 27, 44, 45, 25, 4, 183, 1, 119, 176]
abbrev dktJ1_newNode_0 : List UInt8 := dkwJ1_newNode_0 ++ []
theorem dksJ1_newNode_0 : cJ1_newNode.data.toList.drop 0 = dktJ1_newNode_0 := by decide +kernel
theorem dJ1_newNode_0 : decode cJ1_newNode 0 = .ok (.new 163, 3) := dk_187 0 163 (dk_at dksJ1_newNode_0 0 rfl rfl)
theorem dJ1_newNode_3 : decode cJ1_newNode 3 = .ok (.dup, 1) := dk_89 (dk_at dksJ1_newNode_0 3 rfl rfl)
theorem dJ1_newNode_4 : decode cJ1_newNode 4 = .ok (.iload_n 1, 1) := dk_27 (dk_at dksJ1_newNode_0 4 rfl rfl)
theorem dJ1_newNode_5 : decode cJ1_newNode 5 = .ok (.aload_n 2, 1) := dk_44 (dk_at dksJ1_newNode_0 5 rfl rfl)
theorem dJ1_newNode_6 : decode cJ1_newNode 6 = .ok (.aload_n 3, 1) := dk_45 (dk_at dksJ1_newNode_0 6 rfl rfl)
theorem dJ1_newNode_7 : decode cJ1_newNode 7 = .ok (.aload 4, 2) := dk_25 4 (dk_at dksJ1_newNode_0 7 rfl rfl)
theorem dJ1_newNode_9 : decode cJ1_newNode 9 = .ok (.invokespecial 375, 3) := dk_183 1 119 (dk_at dksJ1_newNode_0 9 rfl rfl)
theorem dJ1_newNode_12 : decode cJ1_newNode 12 = .ok (.areturn, 1) := dk_176 (dk_at dksJ1_newNode_0 12 rfl rfl)
abbrev cJ1_newTreeNode : ByteArray := prog_34_method_48_code
def yJ1_newTreeNode : MethodName := ⟨RJ1, "newTreeNode", "(ILjava/lang/Object;Ljava/lang/Object;Ljava/util/HashMap$Node;)Ljava/util/HashMap$TreeNode;"⟩
def dkwJ1_newTreeNode_0 : List UInt8 := [187, 0, 180, 89, 27, 44, 45, 25, 4, 183, 1, 122, 176]
abbrev dktJ1_newTreeNode_0 : List UInt8 := dkwJ1_newTreeNode_0 ++ []
theorem dksJ1_newTreeNode_0 : cJ1_newTreeNode.data.toList.drop 0 = dktJ1_newTreeNode_0 := by decide +kernel
theorem dJ1_newTreeNode_0 : decode cJ1_newTreeNode 0 = .ok (.new 180, 3) := dk_187 0 180 (dk_at dksJ1_newTreeNode_0 0 rfl rfl)
theorem dJ1_newTreeNode_3 : decode cJ1_newTreeNode 3 = .ok (.dup, 1) := dk_89 (dk_at dksJ1_newTreeNode_0 3 rfl rfl)
theorem dJ1_newTreeNode_4 : decode cJ1_newTreeNode 4 = .ok (.iload_n 1, 1) := dk_27 (dk_at dksJ1_newTreeNode_0 4 rfl rfl)
theorem dJ1_newTreeNode_5 : decode cJ1_newTreeNode 5 = .ok (.aload_n 2, 1) := dk_44 (dk_at dksJ1_newTreeNode_0 5 rfl rfl)
theorem dJ1_newTreeNode_6 : decode cJ1_newTreeNode 6 = .ok (.aload_n 3, 1) := dk_45 (dk_at dksJ1_newTreeNode_0 6 rfl rfl)
theorem dJ1_newTreeNode_7 : decode cJ1_newTreeNode 7 = .ok (.aload 4, 2) := dk_25 4 (dk_at dksJ1_newTreeNode_0 7 rfl rfl)
theorem dJ1_newTreeNode_9 : decode cJ1_newTreeNode 9 = .ok (.invokespecial 378, 3) := dk_183 1 122 (dk_at dksJ1_newTreeNode_0 9 rfl rfl)
theorem dJ1_newTreeNode_12 : decode cJ1_newTreeNode 12 = .ok (.areturn, 1) := dk_176 (dk_at dksJ1_newTreeNode_0 12 rfl rfl)
abbrev cJ1_treeifyBin : ByteArray := prog_34_method_18_code
def yJ1_treeifyBin : MethodName := ⟨RJ1, "treeifyBin", "([Ljava/util/HashMap$Node;I)V"⟩
def dkwJ1_treeifyBin_4 : List UInt8 := [21, 4, 25, 6, 91, 83, 198, 0, 9, 25, 6, 43, 182, 0, 224, 177]
abbrev dktJ1_treeifyBin_4 : List UInt8 := dkwJ1_treeifyBin_4 ++ []
def dkwJ1_treeifyBin_3 : List UInt8 := [25, 7, 25, 8, 181, 0, 223, 25, 8, 58, 7, 25, 5, 180, 0, 177, 89, 58, 5, 199, 255, 209, 43]
abbrev dktJ1_treeifyBin_3 : List UInt8 := dkwJ1_treeifyBin_3 ++ dktJ1_treeifyBin_4
def dkwJ1_treeifyBin_2 : List UInt8 := [182, 0, 215, 58, 8, 25, 7, 199, 0, 10, 25, 8, 58, 6, 167, 0, 17, 25, 8, 25, 7, 181, 0, 219]
abbrev dktJ1_treeifyBin_2 : List UInt8 := dkwJ1_treeifyBin_2 ++ dktJ1_treeifyBin_3
def dkwJ1_treeifyBin_1 : List UInt8 := [100, 28, 126, 89, 54, 4, 50, 89, 58, 5, 198, 0, 75, 1, 58, 6, 1, 58, 7, 42, 25, 5, 1]
abbrev dktJ1_treeifyBin_1 : List UInt8 := dkwJ1_treeifyBin_1 ++ dktJ1_treeifyBin_2
def dkwJ1_treeifyBin_0 : List UInt8 := [43, 198, 0, 12, 43, 190, 89, 62, 16, 64, 162, 0, 11, 42, 182, 0, 117, 87, 167, 0, 91, 43, 29, 4]
abbrev dktJ1_treeifyBin_0 : List UInt8 := dkwJ1_treeifyBin_0 ++ dktJ1_treeifyBin_1
theorem dksJ1_treeifyBin_0 : cJ1_treeifyBin.data.toList.drop 0 = dktJ1_treeifyBin_0 := by decide +kernel
theorem dksJ1_treeifyBin_1 : cJ1_treeifyBin.data.toList.drop 24 = dktJ1_treeifyBin_1 := dk_seg dksJ1_treeifyBin_0 24 rfl rfl
theorem dksJ1_treeifyBin_2 : cJ1_treeifyBin.data.toList.drop 47 = dktJ1_treeifyBin_2 := dk_seg dksJ1_treeifyBin_1 23 rfl rfl
theorem dksJ1_treeifyBin_3 : cJ1_treeifyBin.data.toList.drop 71 = dktJ1_treeifyBin_3 := dk_seg dksJ1_treeifyBin_2 24 rfl rfl
theorem dksJ1_treeifyBin_4 : cJ1_treeifyBin.data.toList.drop 94 = dktJ1_treeifyBin_4 := dk_seg dksJ1_treeifyBin_3 23 rfl rfl
theorem dJ1_treeifyBin_0 : decode cJ1_treeifyBin 0 = .ok (.aload_n 1, 1) := dk_43 (dk_at dksJ1_treeifyBin_0 0 rfl rfl)
theorem dJ1_treeifyBin_1 : decode cJ1_treeifyBin 1 = .ok (.ifnull 12, 3) := dk_198 0 12 (dk_at dksJ1_treeifyBin_0 1 rfl rfl)
theorem dJ1_treeifyBin_4 : decode cJ1_treeifyBin 4 = .ok (.aload_n 1, 1) := dk_43 (dk_at dksJ1_treeifyBin_0 4 rfl rfl)
theorem dJ1_treeifyBin_5 : decode cJ1_treeifyBin 5 = .ok (.arraylength, 1) := dk_190 (dk_at dksJ1_treeifyBin_0 5 rfl rfl)
theorem dJ1_treeifyBin_6 : decode cJ1_treeifyBin 6 = .ok (.dup, 1) := dk_89 (dk_at dksJ1_treeifyBin_0 6 rfl rfl)
theorem dJ1_treeifyBin_7 : decode cJ1_treeifyBin 7 = .ok (.istore_n 3, 1) := dk_62 (dk_at dksJ1_treeifyBin_0 7 rfl rfl)
theorem dJ1_treeifyBin_8 : decode cJ1_treeifyBin 8 = .ok (.bipush 64, 2) := dk_16 64 (dk_at dksJ1_treeifyBin_0 8 rfl rfl)
theorem dJ1_treeifyBin_10 : decode cJ1_treeifyBin 10 = .ok (.if_icmp .ge 11, 3) := dk_162 0 11 (dk_at dksJ1_treeifyBin_0 10 rfl rfl)
theorem dJ1_treeifyBin_13 : decode cJ1_treeifyBin 13 = .ok (.aload_n 0, 1) := dk_42 (dk_at dksJ1_treeifyBin_0 13 rfl rfl)
theorem dJ1_treeifyBin_14 : decode cJ1_treeifyBin 14 = .ok (.invokevirtual 117, 3) := dk_182 0 117 (dk_at dksJ1_treeifyBin_0 14 rfl rfl)
theorem dJ1_treeifyBin_17 : decode cJ1_treeifyBin 17 = .ok (.pop, 1) := dk_87 (dk_at dksJ1_treeifyBin_0 17 rfl rfl)
theorem dJ1_treeifyBin_18 : decode cJ1_treeifyBin 18 = .ok (.goto 91, 3) := dk_167 0 91 (dk_at dksJ1_treeifyBin_0 18 rfl rfl)
theorem dJ1_treeifyBin_21 : decode cJ1_treeifyBin 21 = .ok (.aload_n 1, 1) := dk_43 (dk_at dksJ1_treeifyBin_0 21 rfl rfl)
theorem dJ1_treeifyBin_22 : decode cJ1_treeifyBin 22 = .ok (.iload_n 3, 1) := dk_29 (dk_at dksJ1_treeifyBin_0 22 rfl rfl)
theorem dJ1_treeifyBin_23 : decode cJ1_treeifyBin 23 = .ok (.iconst 1, 1) := dk_4 (dk_at dksJ1_treeifyBin_0 23 rfl rfl)
theorem dJ1_treeifyBin_24 : decode cJ1_treeifyBin 24 = .ok (.isub, 1) := dk_100 (dk_at dksJ1_treeifyBin_1 0 rfl rfl)
theorem dJ1_treeifyBin_25 : decode cJ1_treeifyBin 25 = .ok (.iload_n 2, 1) := dk_28 (dk_at dksJ1_treeifyBin_1 1 rfl rfl)
theorem dJ1_treeifyBin_26 : decode cJ1_treeifyBin 26 = .ok (.iand, 1) := dk_126 (dk_at dksJ1_treeifyBin_1 2 rfl rfl)
theorem dJ1_treeifyBin_27 : decode cJ1_treeifyBin 27 = .ok (.dup, 1) := dk_89 (dk_at dksJ1_treeifyBin_1 3 rfl rfl)
theorem dJ1_treeifyBin_28 : decode cJ1_treeifyBin 28 = .ok (.istore 4, 2) := dk_54 4 (dk_at dksJ1_treeifyBin_1 4 rfl rfl)
theorem dJ1_treeifyBin_30 : decode cJ1_treeifyBin 30 = .ok (.aaload, 1) := dk_50 (dk_at dksJ1_treeifyBin_1 6 rfl rfl)
theorem dJ1_treeifyBin_31 : decode cJ1_treeifyBin 31 = .ok (.dup, 1) := dk_89 (dk_at dksJ1_treeifyBin_1 7 rfl rfl)
theorem dJ1_treeifyBin_32 : decode cJ1_treeifyBin 32 = .ok (.astore 5, 2) := dk_58 5 (dk_at dksJ1_treeifyBin_1 8 rfl rfl)
theorem dJ1_treeifyBin_34 : decode cJ1_treeifyBin 34 = .ok (.ifnull 75, 3) := dk_198 0 75 (dk_at dksJ1_treeifyBin_1 10 rfl rfl)
theorem dJ1_treeifyBin_37 : decode cJ1_treeifyBin 37 = .ok (.aconst_null, 1) := dk_1 (dk_at dksJ1_treeifyBin_1 13 rfl rfl)
theorem dJ1_treeifyBin_38 : decode cJ1_treeifyBin 38 = .ok (.astore 6, 2) := dk_58 6 (dk_at dksJ1_treeifyBin_1 14 rfl rfl)
theorem dJ1_treeifyBin_40 : decode cJ1_treeifyBin 40 = .ok (.aconst_null, 1) := dk_1 (dk_at dksJ1_treeifyBin_1 16 rfl rfl)
theorem dJ1_treeifyBin_41 : decode cJ1_treeifyBin 41 = .ok (.astore 7, 2) := dk_58 7 (dk_at dksJ1_treeifyBin_1 17 rfl rfl)
theorem dJ1_treeifyBin_43 : decode cJ1_treeifyBin 43 = .ok (.aload_n 0, 1) := dk_42 (dk_at dksJ1_treeifyBin_1 19 rfl rfl)
theorem dJ1_treeifyBin_44 : decode cJ1_treeifyBin 44 = .ok (.aload 5, 2) := dk_25 5 (dk_at dksJ1_treeifyBin_1 20 rfl rfl)
theorem dJ1_treeifyBin_46 : decode cJ1_treeifyBin 46 = .ok (.aconst_null, 1) := dk_1 (dk_at dksJ1_treeifyBin_1 22 rfl rfl)
theorem dJ1_treeifyBin_47 : decode cJ1_treeifyBin 47 = .ok (.invokevirtual 215, 3) := dk_182 0 215 (dk_at dksJ1_treeifyBin_2 0 rfl rfl)
theorem dJ1_treeifyBin_50 : decode cJ1_treeifyBin 50 = .ok (.astore 8, 2) := dk_58 8 (dk_at dksJ1_treeifyBin_2 3 rfl rfl)
theorem dJ1_treeifyBin_52 : decode cJ1_treeifyBin 52 = .ok (.aload 7, 2) := dk_25 7 (dk_at dksJ1_treeifyBin_2 5 rfl rfl)
theorem dJ1_treeifyBin_54 : decode cJ1_treeifyBin 54 = .ok (.ifnonnull 10, 3) := dk_199 0 10 (dk_at dksJ1_treeifyBin_2 7 rfl rfl)
theorem dJ1_treeifyBin_57 : decode cJ1_treeifyBin 57 = .ok (.aload 8, 2) := dk_25 8 (dk_at dksJ1_treeifyBin_2 10 rfl rfl)
theorem dJ1_treeifyBin_59 : decode cJ1_treeifyBin 59 = .ok (.astore 6, 2) := dk_58 6 (dk_at dksJ1_treeifyBin_2 12 rfl rfl)
theorem dJ1_treeifyBin_61 : decode cJ1_treeifyBin 61 = .ok (.goto 17, 3) := dk_167 0 17 (dk_at dksJ1_treeifyBin_2 14 rfl rfl)
theorem dJ1_treeifyBin_64 : decode cJ1_treeifyBin 64 = .ok (.aload 8, 2) := dk_25 8 (dk_at dksJ1_treeifyBin_2 17 rfl rfl)
theorem dJ1_treeifyBin_66 : decode cJ1_treeifyBin 66 = .ok (.aload 7, 2) := dk_25 7 (dk_at dksJ1_treeifyBin_2 19 rfl rfl)
theorem dJ1_treeifyBin_68 : decode cJ1_treeifyBin 68 = .ok (.putfield 219, 3) := dk_181 0 219 (dk_at dksJ1_treeifyBin_2 21 rfl rfl)
theorem dJ1_treeifyBin_71 : decode cJ1_treeifyBin 71 = .ok (.aload 7, 2) := dk_25 7 (dk_at dksJ1_treeifyBin_3 0 rfl rfl)
theorem dJ1_treeifyBin_73 : decode cJ1_treeifyBin 73 = .ok (.aload 8, 2) := dk_25 8 (dk_at dksJ1_treeifyBin_3 2 rfl rfl)
theorem dJ1_treeifyBin_75 : decode cJ1_treeifyBin 75 = .ok (.putfield 223, 3) := dk_181 0 223 (dk_at dksJ1_treeifyBin_3 4 rfl rfl)
theorem dJ1_treeifyBin_78 : decode cJ1_treeifyBin 78 = .ok (.aload 8, 2) := dk_25 8 (dk_at dksJ1_treeifyBin_3 7 rfl rfl)
theorem dJ1_treeifyBin_80 : decode cJ1_treeifyBin 80 = .ok (.astore 7, 2) := dk_58 7 (dk_at dksJ1_treeifyBin_3 9 rfl rfl)
theorem dJ1_treeifyBin_82 : decode cJ1_treeifyBin 82 = .ok (.aload 5, 2) := dk_25 5 (dk_at dksJ1_treeifyBin_3 11 rfl rfl)
theorem dJ1_treeifyBin_84 : decode cJ1_treeifyBin 84 = .ok (.getfield 177, 3) := dk_180 0 177 (dk_at dksJ1_treeifyBin_3 13 rfl rfl)
theorem dJ1_treeifyBin_87 : decode cJ1_treeifyBin 87 = .ok (.dup, 1) := dk_89 (dk_at dksJ1_treeifyBin_3 16 rfl rfl)
theorem dJ1_treeifyBin_88 : decode cJ1_treeifyBin 88 = .ok (.astore 5, 2) := dk_58 5 (dk_at dksJ1_treeifyBin_3 17 rfl rfl)
theorem dJ1_treeifyBin_90 : decode cJ1_treeifyBin 90 = .ok (.ifnonnull (-47), 3) := dk_199 255 209 (dk_at dksJ1_treeifyBin_3 19 rfl rfl)
theorem dJ1_treeifyBin_93 : decode cJ1_treeifyBin 93 = .ok (.aload_n 1, 1) := dk_43 (dk_at dksJ1_treeifyBin_3 22 rfl rfl)
theorem dJ1_treeifyBin_94 : decode cJ1_treeifyBin 94 = .ok (.iload 4, 2) := dk_21 4 (dk_at dksJ1_treeifyBin_4 0 rfl rfl)
theorem dJ1_treeifyBin_96 : decode cJ1_treeifyBin 96 = .ok (.aload 6, 2) := dk_25 6 (dk_at dksJ1_treeifyBin_4 2 rfl rfl)
theorem dJ1_treeifyBin_98 : decode cJ1_treeifyBin 98 = .ok (.dup_x2, 1) := dk_91 (dk_at dksJ1_treeifyBin_4 4 rfl rfl)
theorem dJ1_treeifyBin_99 : decode cJ1_treeifyBin 99 = .ok (.aastore, 1) := dk_83 (dk_at dksJ1_treeifyBin_4 5 rfl rfl)
theorem dJ1_treeifyBin_100 : decode cJ1_treeifyBin 100 = .ok (.ifnull 9, 3) := dk_198 0 9 (dk_at dksJ1_treeifyBin_4 6 rfl rfl)
theorem dJ1_treeifyBin_103 : decode cJ1_treeifyBin 103 = .ok (.aload 6, 2) := dk_25 6 (dk_at dksJ1_treeifyBin_4 9 rfl rfl)
theorem dJ1_treeifyBin_105 : decode cJ1_treeifyBin 105 = .ok (.aload_n 1, 1) := dk_43 (dk_at dksJ1_treeifyBin_4 11 rfl rfl)
theorem dJ1_treeifyBin_106 : decode cJ1_treeifyBin 106 = .ok (.invokevirtual 224, 3) := dk_182 0 224 (dk_at dksJ1_treeifyBin_4 12 rfl rfl)
theorem dJ1_treeifyBin_109 : decode cJ1_treeifyBin 109 = .ok (.return_, 1) := dk_177 (dk_at dksJ1_treeifyBin_4 15 rfl rfl)
abbrev cJ1_replacementTreeNode : ByteArray := prog_34_method_49_code
def yJ1_replacementTreeNode : MethodName := ⟨RJ1, "replacementTreeNode", "(Ljava/util/HashMap$Node;Ljava/util/HashMap$Node;)Ljava/util/HashMap$TreeNode;"⟩
def dkwJ1_replacementTreeNode_0 : List UInt8 := [187, 0, 180, 89, 43, 180, 0, 168, 43, 180, 0, 170, 43, 180, 0, 162, 44, 183, 1, 122, 176]
abbrev dktJ1_replacementTreeNode_0 : List UInt8 := dkwJ1_replacementTreeNode_0 ++ []
theorem dksJ1_replacementTreeNode_0 : cJ1_replacementTreeNode.data.toList.drop 0 = dktJ1_replacementTreeNode_0 := by decide +kernel
theorem dJ1_replacementTreeNode_0 : decode cJ1_replacementTreeNode 0 = .ok (.new 180, 3) := dk_187 0 180 (dk_at dksJ1_replacementTreeNode_0 0 rfl rfl)
theorem dJ1_replacementTreeNode_3 : decode cJ1_replacementTreeNode 3 = .ok (.dup, 1) := dk_89 (dk_at dksJ1_replacementTreeNode_0 3 rfl rfl)
theorem dJ1_replacementTreeNode_4 : decode cJ1_replacementTreeNode 4 = .ok (.aload_n 1, 1) := dk_43 (dk_at dksJ1_replacementTreeNode_0 4 rfl rfl)
theorem dJ1_replacementTreeNode_5 : decode cJ1_replacementTreeNode 5 = .ok (.getfield 168, 3) := dk_180 0 168 (dk_at dksJ1_replacementTreeNode_0 5 rfl rfl)
theorem dJ1_replacementTreeNode_8 : decode cJ1_replacementTreeNode 8 = .ok (.aload_n 1, 1) := dk_43 (dk_at dksJ1_replacementTreeNode_0 8 rfl rfl)
theorem dJ1_replacementTreeNode_9 : decode cJ1_replacementTreeNode 9 = .ok (.getfield 170, 3) := dk_180 0 170 (dk_at dksJ1_replacementTreeNode_0 9 rfl rfl)
theorem dJ1_replacementTreeNode_12 : decode cJ1_replacementTreeNode 12 = .ok (.aload_n 1, 1) := dk_43 (dk_at dksJ1_replacementTreeNode_0 12 rfl rfl)
theorem dJ1_replacementTreeNode_13 : decode cJ1_replacementTreeNode 13 = .ok (.getfield 162, 3) := dk_180 0 162 (dk_at dksJ1_replacementTreeNode_0 13 rfl rfl)
theorem dJ1_replacementTreeNode_16 : decode cJ1_replacementTreeNode 16 = .ok (.aload_n 2, 1) := dk_44 (dk_at dksJ1_replacementTreeNode_0 16 rfl rfl)
theorem dJ1_replacementTreeNode_17 : decode cJ1_replacementTreeNode 17 = .ok (.invokespecial 378, 3) := dk_183 1 122 (dk_at dksJ1_replacementTreeNode_0 17 rfl rfl)
theorem dJ1_replacementTreeNode_20 : decode cJ1_replacementTreeNode 20 = .ok (.areturn, 1) := dk_176 (dk_at dksJ1_replacementTreeNode_0 20 rfl rfl)
abbrev cJ1_afterNodeAccess : ByteArray := prog_34_method_51_code
def yJ1_afterNodeAccess : MethodName := ⟨RJ1, "afterNodeAccess", "(Ljava/util/HashMap$Node;)V"⟩
theorem dJ1_afterNodeAccess_0 : decode cJ1_afterNodeAccess 0 = .ok (.return_, 1) := by decide +kernel
abbrev cJ1_afterNodeInsertion : ByteArray := prog_34_method_52_code
def yJ1_afterNodeInsertion : MethodName := ⟨RJ1, "afterNodeInsertion", "(Z)V"⟩
theorem dJ1_afterNodeInsertion_0 : decode cJ1_afterNodeInsertion 0 = .ok (.return_, 1) := by decide +kernel
abbrev cJ1_clear : ByteArray := prog_34_method_22_code
def yJ1_clear : MethodName := ⟨RJ1, "clear", "()V"⟩
def dkwJ1_clear_2 : List UInt8 := [167, 255, 243, 177]
abbrev dktJ1_clear_2 : List UInt8 := dkwJ1_clear_2 ++ []
def dkwJ1_clear_1 : List UInt8 := [158, 0, 26, 42, 3, 181, 0, 156, 3, 61, 28, 43, 190, 162, 0, 13, 43, 28, 1, 83, 132, 2, 1]
abbrev dktJ1_clear_1 : List UInt8 := dkwJ1_clear_1 ++ dktJ1_clear_2
def dkwJ1_clear_0 : List UInt8 := [42, 89, 180, 0, 202, 4, 96, 181, 0, 202, 42, 180, 0, 105, 89, 76, 198, 0, 33, 42, 180, 0, 156]
abbrev dktJ1_clear_0 : List UInt8 := dkwJ1_clear_0 ++ dktJ1_clear_1
theorem dksJ1_clear_0 : cJ1_clear.data.toList.drop 0 = dktJ1_clear_0 := by decide +kernel
theorem dksJ1_clear_1 : cJ1_clear.data.toList.drop 23 = dktJ1_clear_1 := dk_seg dksJ1_clear_0 23 rfl rfl
theorem dksJ1_clear_2 : cJ1_clear.data.toList.drop 46 = dktJ1_clear_2 := dk_seg dksJ1_clear_1 23 rfl rfl
theorem dJ1_clear_0 : decode cJ1_clear 0 = .ok (.aload_n 0, 1) := dk_42 (dk_at dksJ1_clear_0 0 rfl rfl)
theorem dJ1_clear_1 : decode cJ1_clear 1 = .ok (.dup, 1) := dk_89 (dk_at dksJ1_clear_0 1 rfl rfl)
theorem dJ1_clear_2 : decode cJ1_clear 2 = .ok (.getfield 202, 3) := dk_180 0 202 (dk_at dksJ1_clear_0 2 rfl rfl)
theorem dJ1_clear_5 : decode cJ1_clear 5 = .ok (.iconst 1, 1) := dk_4 (dk_at dksJ1_clear_0 5 rfl rfl)
theorem dJ1_clear_6 : decode cJ1_clear 6 = .ok (.iadd, 1) := dk_96 (dk_at dksJ1_clear_0 6 rfl rfl)
theorem dJ1_clear_7 : decode cJ1_clear 7 = .ok (.putfield 202, 3) := dk_181 0 202 (dk_at dksJ1_clear_0 7 rfl rfl)
theorem dJ1_clear_10 : decode cJ1_clear 10 = .ok (.aload_n 0, 1) := dk_42 (dk_at dksJ1_clear_0 10 rfl rfl)
theorem dJ1_clear_11 : decode cJ1_clear 11 = .ok (.getfield 105, 3) := dk_180 0 105 (dk_at dksJ1_clear_0 11 rfl rfl)
theorem dJ1_clear_14 : decode cJ1_clear 14 = .ok (.dup, 1) := dk_89 (dk_at dksJ1_clear_0 14 rfl rfl)
theorem dJ1_clear_15 : decode cJ1_clear 15 = .ok (.astore_n 1, 1) := dk_76 (dk_at dksJ1_clear_0 15 rfl rfl)
theorem dJ1_clear_16 : decode cJ1_clear 16 = .ok (.ifnull 33, 3) := dk_198 0 33 (dk_at dksJ1_clear_0 16 rfl rfl)
theorem dJ1_clear_19 : decode cJ1_clear 19 = .ok (.aload_n 0, 1) := dk_42 (dk_at dksJ1_clear_0 19 rfl rfl)
theorem dJ1_clear_20 : decode cJ1_clear 20 = .ok (.getfield 156, 3) := dk_180 0 156 (dk_at dksJ1_clear_0 20 rfl rfl)
theorem dJ1_clear_23 : decode cJ1_clear 23 = .ok (.ifCond .le 26, 3) := dk_158 0 26 (dk_at dksJ1_clear_1 0 rfl rfl)
theorem dJ1_clear_26 : decode cJ1_clear 26 = .ok (.aload_n 0, 1) := dk_42 (dk_at dksJ1_clear_1 3 rfl rfl)
theorem dJ1_clear_27 : decode cJ1_clear 27 = .ok (.iconst 0, 1) := dk_3 (dk_at dksJ1_clear_1 4 rfl rfl)
theorem dJ1_clear_28 : decode cJ1_clear 28 = .ok (.putfield 156, 3) := dk_181 0 156 (dk_at dksJ1_clear_1 5 rfl rfl)
theorem dJ1_clear_31 : decode cJ1_clear 31 = .ok (.iconst 0, 1) := dk_3 (dk_at dksJ1_clear_1 8 rfl rfl)
theorem dJ1_clear_32 : decode cJ1_clear 32 = .ok (.istore_n 2, 1) := dk_61 (dk_at dksJ1_clear_1 9 rfl rfl)
theorem dJ1_clear_33 : decode cJ1_clear 33 = .ok (.iload_n 2, 1) := dk_28 (dk_at dksJ1_clear_1 10 rfl rfl)
theorem dJ1_clear_34 : decode cJ1_clear 34 = .ok (.aload_n 1, 1) := dk_43 (dk_at dksJ1_clear_1 11 rfl rfl)
theorem dJ1_clear_35 : decode cJ1_clear 35 = .ok (.arraylength, 1) := dk_190 (dk_at dksJ1_clear_1 12 rfl rfl)
theorem dJ1_clear_36 : decode cJ1_clear 36 = .ok (.if_icmp .ge 13, 3) := dk_162 0 13 (dk_at dksJ1_clear_1 13 rfl rfl)
theorem dJ1_clear_39 : decode cJ1_clear 39 = .ok (.aload_n 1, 1) := dk_43 (dk_at dksJ1_clear_1 16 rfl rfl)
theorem dJ1_clear_40 : decode cJ1_clear 40 = .ok (.iload_n 2, 1) := dk_28 (dk_at dksJ1_clear_1 17 rfl rfl)
theorem dJ1_clear_41 : decode cJ1_clear 41 = .ok (.aconst_null, 1) := dk_1 (dk_at dksJ1_clear_1 18 rfl rfl)
theorem dJ1_clear_42 : decode cJ1_clear 42 = .ok (.aastore, 1) := dk_83 (dk_at dksJ1_clear_1 19 rfl rfl)
theorem dJ1_clear_43 : decode cJ1_clear 43 = .ok (.iinc 2 1, 3) := dk_132 2 1 (dk_at dksJ1_clear_1 20 rfl rfl)
theorem dJ1_clear_46 : decode cJ1_clear 46 = .ok (.goto (-13), 3) := dk_167 255 243 (dk_at dksJ1_clear_2 0 rfl rfl)
theorem dJ1_clear_49 : decode cJ1_clear 49 = .ok (.return_, 1) := dk_177 (dk_at dksJ1_clear_2 3 rfl rfl)
abbrev cJ1_size : ByteArray := prog_34_method_10_code
def yJ1_size : MethodName := ⟨RJ1, "size", "()I"⟩
theorem dJ1_size_0 : decode cJ1_size 0 = .ok (.aload_n 0, 1) := by decide +kernel
theorem dJ1_size_1 : decode cJ1_size 1 = .ok (.getfield 156, 3) := by decide +kernel
theorem dJ1_size_4 : decode cJ1_size 4 = .ok (.ireturn, 1) := by decide +kernel
theorem q122 : (Jvm.Cond.initialized "java/util/HashMap") ∈ lw_all := lw_g (lw_at lw_m1 8 rfl) rfl
theorem q250 : (Jvm.Cond.instantiable "java/util/HashMap" (8 : Nat)) ∈ lw_all := lw_g (lw_at lw_m1 136 rfl) rfl
theorem q252 : (Jvm.Cond.instanceMethod ({ cls := "java/util/HashMap", name := "<init>", desc := "()V" } : Jvm.MethodName)) ∈ lw_all := lw_g (lw_at lw_m1 138 rfl) rfl
theorem q253 : (Jvm.Cond.code ({ cls := "java/util/HashMap", name := "<init>", desc := "()V" } : Jvm.MethodName) prog_34_method_7_code (1 : Nat) (Option.none : Option Jvm.ClassFile.FieldType)) ∈ lw_all := lw_g (lw_at lw_m1 139 rfl) rfl
theorem q254 : (Jvm.Cond.methodLink "java/util/HashMap" (43 : Nat) ({ cls := "java/util/AbstractMap", name := "<init>", desc := "()V" } : Jvm.MethodName)) ∈ lw_all := lw_g (lw_at lw_m1 140 rfl) rfl
theorem q258 : (Jvm.Cond.constantFloat "java/util/HashMap" (92 : Nat) (1061158912 : UInt32)) ∈ lw_all := lw_g (lw_at lw_m1 144 rfl) rfl
theorem q259 : (Jvm.Cond.fieldLink "java/util/HashMap" (105 : Nat) "java/util/HashMap" "table" "[Ljava/util/HashMap$Node;") ∈ lw_all := lw_g (lw_at lw_m1 145 rfl) rfl
theorem q260 : (Jvm.Cond.fieldLink "java/util/HashMap" (156 : Nat) "java/util/HashMap" "size" "I") ∈ lw_all := lw_g (lw_at lw_m1 146 rfl) rfl
theorem q261 : (Jvm.Cond.fieldLink "java/util/HashMap" (202 : Nat) "java/util/HashMap" "modCount" "I") ∈ lw_all := lw_g (lw_at lw_m1 147 rfl) rfl
theorem q262 : (Jvm.Cond.fieldLink "java/util/HashMap" (88 : Nat) "java/util/HashMap" "threshold" "I") ∈ lw_all := lw_g (lw_at lw_m1 148 rfl) rfl
theorem q263 : (Jvm.Cond.fieldLink "java/util/HashMap" (81 : Nat) "java/util/HashMap" "loadFactor" "F") ∈ lw_all := lw_g (lw_at lw_m1 149 rfl) rfl
theorem q264 : (Jvm.Cond.lays "java/util/HashMap" "java/util/HashMap" "table" "[Ljava/util/HashMap$Node;") ∈ lw_all := lw_g (lw_at lw_m1 150 rfl) rfl
theorem q265 : (Jvm.Cond.soleField "java/util/HashMap" "table") ∈ lw_all := lw_g (lw_at lw_m1 151 rfl) rfl
theorem q266 : (Jvm.Cond.lays "java/util/HashMap" "java/util/HashMap" "entrySet" "Ljava/util/Set;") ∈ lw_all := lw_g (lw_at lw_m1 152 rfl) rfl
theorem q267 : (Jvm.Cond.soleField "java/util/HashMap" "entrySet") ∈ lw_all := lw_g (lw_at lw_m1 153 rfl) rfl
theorem q268 : (Jvm.Cond.lays "java/util/HashMap" "java/util/HashMap" "size" "I") ∈ lw_all := lw_g (lw_at lw_m1 154 rfl) rfl
theorem q269 : (Jvm.Cond.soleField "java/util/HashMap" "size") ∈ lw_all := lw_g (lw_at lw_m1 155 rfl) rfl
theorem q270 : (Jvm.Cond.lays "java/util/HashMap" "java/util/HashMap" "modCount" "I") ∈ lw_all := lw_g (lw_at lw_m1 156 rfl) rfl
theorem q271 : (Jvm.Cond.soleField "java/util/HashMap" "modCount") ∈ lw_all := lw_g (lw_at lw_m1 157 rfl) rfl
theorem q272 : (Jvm.Cond.lays "java/util/HashMap" "java/util/HashMap" "threshold" "I") ∈ lw_all := lw_g (lw_at lw_m1 158 rfl) rfl
theorem q273 : (Jvm.Cond.soleField "java/util/HashMap" "threshold") ∈ lw_all := lw_g (lw_at lw_m1 159 rfl) rfl
theorem q274 : (Jvm.Cond.laysFinal "java/util/HashMap" "java/util/HashMap" "loadFactor" "F") ∈ lw_all := lw_g (lw_at lw_m1 160 rfl) rfl
theorem q275 : (Jvm.Cond.soleField "java/util/HashMap" "loadFactor") ∈ lw_all := lw_g (lw_at lw_m1 161 rfl) rfl
theorem q276 : (Jvm.Cond.lays "java/util/HashMap" "java/util/AbstractMap" "keySet" "Ljava/util/Set;") ∈ lw_all := lw_g (lw_at lw_m1 162 rfl) rfl
theorem q278 : (Jvm.Cond.lays "java/util/HashMap" "java/util/AbstractMap" "values" "Ljava/util/Collection;") ∈ lw_all := lw_g (lw_at lw_m1 164 rfl) rfl
theorem q280 : (Jvm.Cond.superclass "java/util/HashMap" "java/util/AbstractMap") ∈ lw_all := lw_g (lw_at lw_m1 166 rfl) rfl
theorem q540 : (Jvm.Cond.instanceMethod ({ cls := "java/util/HashMap", name := "get", desc := "(Ljava/lang/Object;)Ljava/lang/Object;" } : Jvm.MethodName)) ∈ lw_all := lw_g (lw_at lw_m2 186 rfl) rfl
theorem q541 : (Jvm.Cond.selects "java/util/HashMap" ({ cls := "java/util/HashMap", name := "get", desc := "(Ljava/lang/Object;)Ljava/lang/Object;" } : Jvm.MethodName) ({ cls := "java/util/HashMap", name := "get", desc := "(Ljava/lang/Object;)Ljava/lang/Object;" } : Jvm.MethodName)) ∈ lw_all := lw_g (lw_at lw_m2 187 rfl) rfl
theorem q542 : (Jvm.Cond.code ({ cls := "java/util/HashMap", name := "get", desc := "(Ljava/lang/Object;)Ljava/lang/Object;" } : Jvm.MethodName) prog_34_method_12_code (3 : Nat) (Option.some (Jvm.ClassFile.FieldType.object "java/lang/Object"))) ∈ lw_all := lw_g (lw_at lw_m2 188 rfl) rfl
theorem q543 : (Jvm.Cond.methodLink "java/util/HashMap" (158 : Nat) ({ cls := "java/util/HashMap", name := "getNode", desc := "(Ljava/lang/Object;)Ljava/util/HashMap$Node;" } : Jvm.MethodName)) ∈ lw_all := lw_g (lw_at lw_m2 189 rfl) rfl
theorem q544 : (Jvm.Cond.instanceMethod ({ cls := "java/util/HashMap", name := "getNode", desc := "(Ljava/lang/Object;)Ljava/util/HashMap$Node;" } : Jvm.MethodName)) ∈ lw_all := lw_g (lw_at lw_m2 190 rfl) rfl
theorem q545 : (Jvm.Cond.selects "java/util/HashMap" ({ cls := "java/util/HashMap", name := "getNode", desc := "(Ljava/lang/Object;)Ljava/util/HashMap$Node;" } : Jvm.MethodName) ({ cls := "java/util/HashMap", name := "getNode", desc := "(Ljava/lang/Object;)Ljava/util/HashMap$Node;" } : Jvm.MethodName)) ∈ lw_all := lw_g (lw_at lw_m2 191 rfl) rfl
theorem q546 : (Jvm.Cond.code ({ cls := "java/util/HashMap", name := "getNode", desc := "(Ljava/lang/Object;)Ljava/util/HashMap$Node;" } : Jvm.MethodName) prog_34_method_13_code (8 : Nat) (Option.some (Jvm.ClassFile.FieldType.object "java/util/HashMap$Node"))) ∈ lw_all := lw_g (lw_at lw_m2 192 rfl) rfl
theorem q547 : (Jvm.Cond.methodLink "java/util/HashMap" (149 : Nat) ({ cls := "java/util/HashMap", name := "hash", desc := "(Ljava/lang/Object;)I" } : Jvm.MethodName)) ∈ lw_all := lw_g (lw_at lw_m2 193 rfl) rfl
theorem q548 : (Jvm.Cond.static ({ cls := "java/util/HashMap", name := "hash", desc := "(Ljava/lang/Object;)I" } : Jvm.MethodName)) ∈ lw_all := lw_g (lw_at lw_m2 194 rfl) rfl
theorem q549 : (Jvm.Cond.code ({ cls := "java/util/HashMap", name := "hash", desc := "(Ljava/lang/Object;)I" } : Jvm.MethodName) prog_34_method_1_code (2 : Nat) (Option.some Jvm.ClassFile.FieldType.int)) ∈ lw_all := lw_g (lw_at lw_m2 195 rfl) rfl
theorem q551 : (Jvm.Cond.methodLink "java/util/HashMap" (1 : Nat) ({ cls := "java/lang/Object", name := "hashCode", desc := "()I" } : Jvm.MethodName)) ∈ lw_all := lw_g (lw_at lw_m2 197 rfl) rfl
theorem q582 : (Jvm.Cond.methodLink "java/util/HashMap" (173 : Nat) ({ cls := "java/lang/Object", name := "equals", desc := "(Ljava/lang/Object;)Z" } : Jvm.MethodName)) ∈ lw_all := lw_g (lw_at lw_m2 228 rfl) rfl
theorem q614 : (Jvm.Cond.classLink "java/util/HashMap" (180 : Nat) "java/util/HashMap$TreeNode") ∈ lw_all := lw_g (lw_at lw_m3 20 rfl) rfl
theorem q615 : (Jvm.Cond.methodLink "java/util/HashMap" (182 : Nat) ({ cls := "java/util/HashMap$TreeNode", name := "getTreeNode", desc := "(ILjava/lang/Object;)Ljava/util/HashMap$TreeNode;" } : Jvm.MethodName)) ∈ lw_all := lw_g (lw_at lw_m3 21 rfl) rfl
theorem q629 : (Jvm.Cond.static ({ cls := "java/util/HashMap", name := "comparableClassFor", desc := "(Ljava/lang/Object;)Ljava/lang/Class;" } : Jvm.MethodName)) ∈ lw_all := lw_g (lw_at lw_m3 35 rfl) rfl
theorem q630 : (Jvm.Cond.code ({ cls := "java/util/HashMap", name := "comparableClassFor", desc := "(Ljava/lang/Object;)Ljava/lang/Class;" } : Jvm.MethodName) prog_34_method_2_code (9 : Nat) (Option.some (Jvm.ClassFile.FieldType.object "java/lang/Class"))) ∈ lw_all := lw_g (lw_at lw_m3 36 rfl) rfl
theorem q631 : (Jvm.Cond.classLink "java/util/HashMap" (7 : Nat) "java/lang/Comparable") ∈ lw_all := lw_g (lw_at lw_m3 37 rfl) rfl
theorem q632 : (Jvm.Cond.methodLink "java/util/HashMap" (9 : Nat) ({ cls := "java/lang/Object", name := "getClass", desc := "()Ljava/lang/Class;" } : Jvm.MethodName)) ∈ lw_all := lw_g (lw_at lw_m3 38 rfl) rfl
theorem q648 : (Jvm.Cond.selects "java/util/HashMap" ({ cls := "java/lang/Object", name := "getClass", desc := "()Ljava/lang/Class;" } : Jvm.MethodName) ({ cls := "java/lang/Object", name := "getClass", desc := "()Ljava/lang/Class;" } : Jvm.MethodName)) ∈ lw_all := lw_g (lw_at lw_m3 54 rfl) rfl
theorem q653 : (Jvm.Cond.classLink "java/util/HashMap" (13 : Nat) "java/lang/String") ∈ lw_all := lw_g (lw_at lw_m3 59 rfl) rfl
theorem q655 : (Jvm.Cond.static ({ cls := "java/util/HashMap", name := "compareComparables", desc := "(Ljava/lang/Class;Ljava/lang/Object;Ljava/lang/Object;)I" } : Jvm.MethodName)) ∈ lw_all := lw_g (lw_at lw_m3 61 rfl) rfl
theorem q656 : (Jvm.Cond.code ({ cls := "java/util/HashMap", name := "compareComparables", desc := "(Ljava/lang/Class;Ljava/lang/Object;Ljava/lang/Object;)I" } : Jvm.MethodName) prog_34_method_3_code (3 : Nat) (Option.some Jvm.ClassFile.FieldType.int)) ∈ lw_all := lw_g (lw_at lw_m3 62 rfl) rfl
theorem q657 : (Jvm.Cond.interfaceEntry "java/util/HashMap" (30 : Nat)) ∈ lw_tbl := lw_at lw_m3 63 rfl
theorem q658 : (Jvm.Cond.methodLink "java/util/HashMap" (30 : Nat) ({ cls := "java/lang/Comparable", name := "compareTo", desc := "(Ljava/lang/Object;)I" } : Jvm.MethodName)) ∈ lw_all := lw_g (lw_at lw_m3 64 rfl) rfl
theorem q681 : (Jvm.Cond.instanceMethod ({ cls := "java/util/HashMap", name := "put", desc := "(Ljava/lang/Object;Ljava/lang/Object;)Ljava/lang/Object;" } : Jvm.MethodName)) ∈ lw_all := lw_g (lw_at lw_m3 87 rfl) rfl
theorem q682 : (Jvm.Cond.selects "java/util/HashMap" ({ cls := "java/util/HashMap", name := "put", desc := "(Ljava/lang/Object;Ljava/lang/Object;)Ljava/lang/Object;" } : Jvm.MethodName) ({ cls := "java/util/HashMap", name := "put", desc := "(Ljava/lang/Object;Ljava/lang/Object;)Ljava/lang/Object;" } : Jvm.MethodName)) ∈ lw_all := lw_g (lw_at lw_m3 88 rfl) rfl
theorem q683 : (Jvm.Cond.code ({ cls := "java/util/HashMap", name := "put", desc := "(Ljava/lang/Object;Ljava/lang/Object;)Ljava/lang/Object;" } : Jvm.MethodName) prog_34_method_15_code (3 : Nat) (Option.some (Jvm.ClassFile.FieldType.object "java/lang/Object"))) ∈ lw_all := lw_g (lw_at lw_m3 89 rfl) rfl
theorem q684 : (Jvm.Cond.methodLink "java/util/HashMap" (152 : Nat) ({ cls := "java/util/HashMap", name := "putVal", desc := "(ILjava/lang/Object;Ljava/lang/Object;ZZ)Ljava/lang/Object;" } : Jvm.MethodName)) ∈ lw_all := lw_g (lw_at lw_m3 90 rfl) rfl
theorem q685 : (Jvm.Cond.instanceMethod ({ cls := "java/util/HashMap", name := "putVal", desc := "(ILjava/lang/Object;Ljava/lang/Object;ZZ)Ljava/lang/Object;" } : Jvm.MethodName)) ∈ lw_all := lw_g (lw_at lw_m3 91 rfl) rfl
theorem q686 : (Jvm.Cond.selects "java/util/HashMap" ({ cls := "java/util/HashMap", name := "putVal", desc := "(ILjava/lang/Object;Ljava/lang/Object;ZZ)Ljava/lang/Object;" } : Jvm.MethodName) ({ cls := "java/util/HashMap", name := "putVal", desc := "(ILjava/lang/Object;Ljava/lang/Object;ZZ)Ljava/lang/Object;" } : Jvm.MethodName)) ∈ lw_all := lw_g (lw_at lw_m3 92 rfl) rfl
theorem q687 : (Jvm.Cond.code ({ cls := "java/util/HashMap", name := "putVal", desc := "(ILjava/lang/Object;Ljava/lang/Object;ZZ)Ljava/lang/Object;" } : Jvm.MethodName) prog_34_method_16_code (13 : Nat) (Option.some (Jvm.ClassFile.FieldType.object "java/lang/Object"))) ∈ lw_all := lw_g (lw_at lw_m3 93 rfl) rfl
theorem q688 : (Jvm.Cond.methodLink "java/util/HashMap" (117 : Nat) ({ cls := "java/util/HashMap", name := "resize", desc := "()[Ljava/util/HashMap$Node;" } : Jvm.MethodName)) ∈ lw_all := lw_g (lw_at lw_m3 94 rfl) rfl
theorem q689 : (Jvm.Cond.instanceMethod ({ cls := "java/util/HashMap", name := "resize", desc := "()[Ljava/util/HashMap$Node;" } : Jvm.MethodName)) ∈ lw_all := lw_g (lw_at lw_m3 95 rfl) rfl
theorem q690 : (Jvm.Cond.selects "java/util/HashMap" ({ cls := "java/util/HashMap", name := "resize", desc := "()[Ljava/util/HashMap$Node;" } : Jvm.MethodName) ({ cls := "java/util/HashMap", name := "resize", desc := "()[Ljava/util/HashMap$Node;" } : Jvm.MethodName)) ∈ lw_all := lw_g (lw_at lw_m3 96 rfl) rfl
theorem q691 : (Jvm.Cond.code ({ cls := "java/util/HashMap", name := "resize", desc := "()[Ljava/util/HashMap$Node;" } : Jvm.MethodName) prog_34_method_17_code (14 : Nat) (Option.some (Jvm.ClassFile.FieldType.array (Jvm.ClassFile.FieldType.object "java/util/HashMap$Node")))) ∈ lw_all := lw_g (lw_at lw_m3 97 rfl) rfl
theorem q692 : (Jvm.Cond.constant "java/util/HashMap" (42 : Nat) (1073741824 : Int32)) ∈ lw_all := lw_g (lw_at lw_m3 98 rfl) rfl
theorem q693 : (Jvm.Cond.constant "java/util/HashMap" (209 : Nat) (2147483647 : Int32)) ∈ lw_all := lw_g (lw_at lw_m3 99 rfl) rfl
theorem q694 : (Jvm.Cond.constantFloat "java/util/HashMap" (210 : Nat) (1317011456 : UInt32)) ∈ lw_all := lw_g (lw_at lw_m3 100 rfl) rfl
theorem q695 : (Jvm.Cond.classLink "java/util/HashMap" (163 : Nat) "java/util/HashMap$Node") ∈ lw_all := lw_g (lw_at lw_m3 101 rfl) rfl
theorem q697 : (Jvm.Cond.methodLink "java/util/HashMap" (211 : Nat) ({ cls := "java/util/HashMap$TreeNode", name := "split", desc := "(Ljava/util/HashMap;[Ljava/util/HashMap$Node;II)V" } : Jvm.MethodName)) ∈ lw_all := lw_g (lw_at lw_m3 103 rfl) rfl
theorem q707 : (Jvm.Cond.instanceMethod ({ cls := "java/util/HashMap", name := "replacementNode", desc := "(Ljava/util/HashMap$Node;Ljava/util/HashMap$Node;)Ljava/util/HashMap$Node;" } : Jvm.MethodName)) ∈ lw_all := lw_g (lw_at lw_m3 113 rfl) rfl
theorem q708 : (Jvm.Cond.selects "java/util/HashMap" ({ cls := "java/util/HashMap", name := "replacementNode", desc := "(Ljava/util/HashMap$Node;Ljava/util/HashMap$Node;)Ljava/util/HashMap$Node;" } : Jvm.MethodName) ({ cls := "java/util/HashMap", name := "replacementNode", desc := "(Ljava/util/HashMap$Node;Ljava/util/HashMap$Node;)Ljava/util/HashMap$Node;" } : Jvm.MethodName)) ∈ lw_all := lw_g (lw_at lw_m3 114 rfl) rfl
theorem q709 : (Jvm.Cond.code ({ cls := "java/util/HashMap", name := "replacementNode", desc := "(Ljava/util/HashMap$Node;Ljava/util/HashMap$Node;)Ljava/util/HashMap$Node;" } : Jvm.MethodName) prog_34_method_47_code (3 : Nat) (Option.some (Jvm.ClassFile.FieldType.object "java/util/HashMap$Node"))) ∈ lw_all := lw_g (lw_at lw_m3 115 rfl) rfl
theorem q711 : (Jvm.Cond.methodLink "java/util/HashMap" (375 : Nat) ({ cls := "java/util/HashMap$Node", name := "<init>", desc := "(ILjava/lang/Object;Ljava/lang/Object;Ljava/util/HashMap$Node;)V" } : Jvm.MethodName)) ∈ lw_all := lw_g (lw_at lw_m3 117 rfl) rfl
theorem q718 : (Jvm.Cond.fieldLink "java/util/HashMap" (168 : Nat) "java/util/HashMap$Node" "hash" "I") ∈ lw_all := lw_g (lw_at lw_m3 124 rfl) rfl
theorem q722 : (Jvm.Cond.fieldLink "java/util/HashMap" (170 : Nat) "java/util/HashMap$Node" "key" "Ljava/lang/Object;") ∈ lw_all := lw_g (lw_at lw_m3 128 rfl) rfl
theorem q724 : (Jvm.Cond.fieldLink "java/util/HashMap" (162 : Nat) "java/util/HashMap$Node" "value" "Ljava/lang/Object;") ∈ lw_all := lw_g (lw_at lw_m3 130 rfl) rfl
theorem q729 : (Jvm.Cond.fieldLink "java/util/HashMap" (177 : Nat) "java/util/HashMap$Node" "next" "Ljava/util/HashMap$Node;") ∈ lw_all := lw_g (lw_at lw_m3 135 rfl) rfl
theorem q730 : (Jvm.Cond.fieldLink "java/util/HashMap" (223 : Nat) "java/util/HashMap$TreeNode" "next" "Ljava/util/HashMap$Node;") ∈ lw_all := lw_g (lw_at lw_m3 136 rfl) rfl
theorem q758 : (Jvm.Cond.methodLink "java/util/HashMap" (186 : Nat) ({ cls := "java/util/HashMap", name := "newNode", desc := "(ILjava/lang/Object;Ljava/lang/Object;Ljava/util/HashMap$Node;)Ljava/util/HashMap$Node;" } : Jvm.MethodName)) ∈ lw_all := lw_g (lw_at lw_m3 164 rfl) rfl
theorem q759 : (Jvm.Cond.instanceMethod ({ cls := "java/util/HashMap", name := "newNode", desc := "(ILjava/lang/Object;Ljava/lang/Object;Ljava/util/HashMap$Node;)Ljava/util/HashMap$Node;" } : Jvm.MethodName)) ∈ lw_all := lw_g (lw_at lw_m3 165 rfl) rfl
theorem q760 : (Jvm.Cond.selects "java/util/HashMap" ({ cls := "java/util/HashMap", name := "newNode", desc := "(ILjava/lang/Object;Ljava/lang/Object;Ljava/util/HashMap$Node;)Ljava/util/HashMap$Node;" } : Jvm.MethodName) ({ cls := "java/util/HashMap", name := "newNode", desc := "(ILjava/lang/Object;Ljava/lang/Object;Ljava/util/HashMap$Node;)Ljava/util/HashMap$Node;" } : Jvm.MethodName)) ∈ lw_all := lw_g (lw_at lw_m3 166 rfl) rfl
theorem q761 : (Jvm.Cond.code ({ cls := "java/util/HashMap", name := "newNode", desc := "(ILjava/lang/Object;Ljava/lang/Object;Ljava/util/HashMap$Node;)Ljava/util/HashMap$Node;" } : Jvm.MethodName) prog_34_method_46_code (5 : Nat) (Option.some (Jvm.ClassFile.FieldType.object "java/util/HashMap$Node"))) ∈ lw_all := lw_g (lw_at lw_m3 167 rfl) rfl
theorem q762 : (Jvm.Cond.methodLink "java/util/HashMap" (190 : Nat) ({ cls := "java/util/HashMap$TreeNode", name := "putTreeVal", desc := "(Ljava/util/HashMap;[Ljava/util/HashMap$Node;ILjava/lang/Object;Ljava/lang/Object;)Ljava/util/HashMap$TreeNode;" } : Jvm.MethodName)) ∈ lw_all := lw_g (lw_at lw_m3 168 rfl) rfl
theorem q767 : (Jvm.Cond.instanceMethod ({ cls := "java/util/HashMap", name := "newTreeNode", desc := "(ILjava/lang/Object;Ljava/lang/Object;Ljava/util/HashMap$Node;)Ljava/util/HashMap$TreeNode;" } : Jvm.MethodName)) ∈ lw_all := lw_g (lw_at lw_m3 173 rfl) rfl
theorem q768 : (Jvm.Cond.selects "java/util/HashMap" ({ cls := "java/util/HashMap", name := "newTreeNode", desc := "(ILjava/lang/Object;Ljava/lang/Object;Ljava/util/HashMap$Node;)Ljava/util/HashMap$TreeNode;" } : Jvm.MethodName) ({ cls := "java/util/HashMap", name := "newTreeNode", desc := "(ILjava/lang/Object;Ljava/lang/Object;Ljava/util/HashMap$Node;)Ljava/util/HashMap$TreeNode;" } : Jvm.MethodName)) ∈ lw_all := lw_g (lw_at lw_m3 174 rfl) rfl
theorem q769 : (Jvm.Cond.code ({ cls := "java/util/HashMap", name := "newTreeNode", desc := "(ILjava/lang/Object;Ljava/lang/Object;Ljava/util/HashMap$Node;)Ljava/util/HashMap$TreeNode;" } : Jvm.MethodName) prog_34_method_48_code (5 : Nat) (Option.some (Jvm.ClassFile.FieldType.object "java/util/HashMap$TreeNode"))) ∈ lw_all := lw_g (lw_at lw_m3 175 rfl) rfl
theorem q771 : (Jvm.Cond.methodLink "java/util/HashMap" (378 : Nat) ({ cls := "java/util/HashMap$TreeNode", name := "<init>", desc := "(ILjava/lang/Object;Ljava/lang/Object;Ljava/util/HashMap$Node;)V" } : Jvm.MethodName)) ∈ lw_all := lw_g (lw_at lw_m3 177 rfl) rfl
theorem q782 : (Jvm.Cond.fieldLink "java/util/HashMap" (219 : Nat) "java/util/HashMap$TreeNode" "prev" "Ljava/util/HashMap$TreeNode;") ∈ lw_all := lw_g (lw_at lw_m3 188 rfl) rfl
theorem q803 : (Jvm.Cond.methodLink "java/util/HashMap" (194 : Nat) ({ cls := "java/util/HashMap", name := "treeifyBin", desc := "([Ljava/util/HashMap$Node;I)V" } : Jvm.MethodName)) ∈ lw_all := lw_g (lw_at lw_m3 209 rfl) rfl
theorem q804 : (Jvm.Cond.instanceMethod ({ cls := "java/util/HashMap", name := "treeifyBin", desc := "([Ljava/util/HashMap$Node;I)V" } : Jvm.MethodName)) ∈ lw_all := lw_g (lw_at lw_m3 210 rfl) rfl
theorem q805 : (Jvm.Cond.selects "java/util/HashMap" ({ cls := "java/util/HashMap", name := "treeifyBin", desc := "([Ljava/util/HashMap$Node;I)V" } : Jvm.MethodName) ({ cls := "java/util/HashMap", name := "treeifyBin", desc := "([Ljava/util/HashMap$Node;I)V" } : Jvm.MethodName)) ∈ lw_all := lw_g (lw_at lw_m3 211 rfl) rfl
theorem q806 : (Jvm.Cond.code ({ cls := "java/util/HashMap", name := "treeifyBin", desc := "([Ljava/util/HashMap$Node;I)V" } : Jvm.MethodName) prog_34_method_18_code (9 : Nat) (Option.none : Option Jvm.ClassFile.FieldType)) ∈ lw_all := lw_g (lw_at lw_m3 212 rfl) rfl
theorem q807 : (Jvm.Cond.methodLink "java/util/HashMap" (215 : Nat) ({ cls := "java/util/HashMap", name := "replacementTreeNode", desc := "(Ljava/util/HashMap$Node;Ljava/util/HashMap$Node;)Ljava/util/HashMap$TreeNode;" } : Jvm.MethodName)) ∈ lw_all := lw_g (lw_at lw_m3 213 rfl) rfl
theorem q808 : (Jvm.Cond.instanceMethod ({ cls := "java/util/HashMap", name := "replacementTreeNode", desc := "(Ljava/util/HashMap$Node;Ljava/util/HashMap$Node;)Ljava/util/HashMap$TreeNode;" } : Jvm.MethodName)) ∈ lw_all := lw_g (lw_at lw_m3 214 rfl) rfl
theorem q809 : (Jvm.Cond.selects "java/util/HashMap" ({ cls := "java/util/HashMap", name := "replacementTreeNode", desc := "(Ljava/util/HashMap$Node;Ljava/util/HashMap$Node;)Ljava/util/HashMap$TreeNode;" } : Jvm.MethodName) ({ cls := "java/util/HashMap", name := "replacementTreeNode", desc := "(Ljava/util/HashMap$Node;Ljava/util/HashMap$Node;)Ljava/util/HashMap$TreeNode;" } : Jvm.MethodName)) ∈ lw_all := lw_g (lw_at lw_m3 215 rfl) rfl
theorem q810 : (Jvm.Cond.code ({ cls := "java/util/HashMap", name := "replacementTreeNode", desc := "(Ljava/util/HashMap$Node;Ljava/util/HashMap$Node;)Ljava/util/HashMap$TreeNode;" } : Jvm.MethodName) prog_34_method_49_code (3 : Nat) (Option.some (Jvm.ClassFile.FieldType.object "java/util/HashMap$TreeNode"))) ∈ lw_all := lw_g (lw_at lw_m3 216 rfl) rfl
theorem q811 : (Jvm.Cond.methodLink "java/util/HashMap" (224 : Nat) ({ cls := "java/util/HashMap$TreeNode", name := "treeify", desc := "([Ljava/util/HashMap$Node;)V" } : Jvm.MethodName)) ∈ lw_all := lw_g (lw_at lw_m3 217 rfl) rfl
theorem q812 : (Jvm.Cond.methodLink "java/util/HashMap" (198 : Nat) ({ cls := "java/util/HashMap", name := "afterNodeAccess", desc := "(Ljava/util/HashMap$Node;)V" } : Jvm.MethodName)) ∈ lw_all := lw_g (lw_at lw_m3 218 rfl) rfl
theorem q813 : (Jvm.Cond.instanceMethod ({ cls := "java/util/HashMap", name := "afterNodeAccess", desc := "(Ljava/util/HashMap$Node;)V" } : Jvm.MethodName)) ∈ lw_all := lw_g (lw_at lw_m3 219 rfl) rfl
theorem q814 : (Jvm.Cond.selects "java/util/HashMap" ({ cls := "java/util/HashMap", name := "afterNodeAccess", desc := "(Ljava/util/HashMap$Node;)V" } : Jvm.MethodName) ({ cls := "java/util/HashMap", name := "afterNodeAccess", desc := "(Ljava/util/HashMap$Node;)V" } : Jvm.MethodName)) ∈ lw_all := lw_g (lw_at lw_m3 220 rfl) rfl
theorem q815 : (Jvm.Cond.code ({ cls := "java/util/HashMap", name := "afterNodeAccess", desc := "(Ljava/util/HashMap$Node;)V" } : Jvm.MethodName) prog_34_method_51_code (2 : Nat) (Option.none : Option Jvm.ClassFile.FieldType)) ∈ lw_all := lw_g (lw_at lw_m3 221 rfl) rfl
theorem q816 : (Jvm.Cond.methodLink "java/util/HashMap" (205 : Nat) ({ cls := "java/util/HashMap", name := "afterNodeInsertion", desc := "(Z)V" } : Jvm.MethodName)) ∈ lw_all := lw_g (lw_at lw_m3 222 rfl) rfl
theorem q817 : (Jvm.Cond.instanceMethod ({ cls := "java/util/HashMap", name := "afterNodeInsertion", desc := "(Z)V" } : Jvm.MethodName)) ∈ lw_all := lw_g (lw_at lw_m3 223 rfl) rfl
theorem q818 : (Jvm.Cond.selects "java/util/HashMap" ({ cls := "java/util/HashMap", name := "afterNodeInsertion", desc := "(Z)V" } : Jvm.MethodName) ({ cls := "java/util/HashMap", name := "afterNodeInsertion", desc := "(Z)V" } : Jvm.MethodName)) ∈ lw_all := lw_g (lw_at lw_m3 224 rfl) rfl
theorem q819 : (Jvm.Cond.code ({ cls := "java/util/HashMap", name := "afterNodeInsertion", desc := "(Z)V" } : Jvm.MethodName) prog_34_method_52_code (2 : Nat) (Option.none : Option Jvm.ClassFile.FieldType)) ∈ lw_all := lw_g (lw_at lw_m3 225 rfl) rfl
theorem q828 : (Jvm.Cond.instanceMethod ({ cls := "java/util/HashMap", name := "clear", desc := "()V" } : Jvm.MethodName)) ∈ lw_all := lw_g (lw_at lw_m3 234 rfl) rfl
theorem q829 : (Jvm.Cond.selects "java/util/HashMap" ({ cls := "java/util/HashMap", name := "clear", desc := "()V" } : Jvm.MethodName) ({ cls := "java/util/HashMap", name := "clear", desc := "()V" } : Jvm.MethodName)) ∈ lw_all := lw_g (lw_at lw_m3 235 rfl) rfl
theorem q830 : (Jvm.Cond.code ({ cls := "java/util/HashMap", name := "clear", desc := "()V" } : Jvm.MethodName) prog_34_method_22_code (3 : Nat) (Option.none : Option Jvm.ClassFile.FieldType)) ∈ lw_all := lw_g (lw_at lw_m3 236 rfl) rfl
theorem q1034 : (Jvm.Cond.instanceMethod ({ cls := "java/util/HashMap", name := "size", desc := "()I" } : Jvm.MethodName)) ∈ lw_all := lw_g (lw_at lw_m4 200 rfl) rfl
theorem q1035 : (Jvm.Cond.selects "java/util/HashMap" ({ cls := "java/util/HashMap", name := "size", desc := "()I" } : Jvm.MethodName) ({ cls := "java/util/HashMap", name := "size", desc := "()I" } : Jvm.MethodName)) ∈ lw_all := lw_g (lw_at lw_m4 201 rfl) rfl
theorem q1036 : (Jvm.Cond.code ({ cls := "java/util/HashMap", name := "size", desc := "()I" } : Jvm.MethodName) prog_34_method_10_code (1 : Nat) (Option.some Jvm.ClassFile.FieldType.int)) ∈ lw_all := lw_g (lw_at lw_m4 202 rfl) rfl
theorem q1999 : (Jvm.Cond.castable "java/util/HashMap" "java/lang/Object") ∈ lw_tbl := lw_at lw_m8 205 rfl
theorem in_J1 : ∀ w ∈ wsJ10, w ∈ lw_all := lw_in wsJ10 [276, 278, 264, 266, 268, 270, 272, 274] (by decide +kernel) (by decide +kernel)
