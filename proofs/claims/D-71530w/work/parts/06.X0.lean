/-! DictProof -/
set_option maxRecDepth 100000
def RX0 : String := "DictProof"
def TX0 : u_T := fun k => match k with
  | 0 => ("DictProof", "sorts", "[LDictProof$Instance;", true)
  | 1 => ("DictProof", "rightAbove", "[I", true)
  | 2 => ("DictProof", "above", "[I", true)
  | 3 => ("DictProof", "classMany", "I", false)
  | 4 => ("DictProof", "instances", "[LDictProof$Instance;", true)
  | 5 => ("DictProof", "many", "I", false)
  | 6 => ("DictProof", "slots", "[LDictProof$Term;", true)
  | 7 => ("DictProof", "booksRead", "I", false)
  | 8 => ("DictProof", "page", "[I", true)
  | 9 => ("DictProof", "pageMany", "I", false)
  | 10 => ("DictProof", "readClasses", "I", false)
  | 11 => ("DictProof", "readHere", "I", false)
  | 12 => ("DictProof", "readEnd", "I", false)
  | 13 => ("DictProof", "readMany", "I", false)
  | 14 => ("DictProof", "lacked", "I", false)
  | 15 => ("DictProof", "sized", "I", false)
  | 16 => ("DictProof", "variables", "I", false)
  | 17 => ("DictProof", "conditioned", "I", false)
  | 18 => ("DictProof", "startOf", "[I", true)
  | 19 => ("DictProof", "reading", "I", false)
  | 20 => ("DictProof", "proofs", "Ljava/util/HashMap;", true)
  | 21 => ("DictProof", "alike", "[Z", true)
  | 22 => ("DictProof", "special", "[Z", true)
  | 23 => ("DictProof", "seenInstance", "[I", true)
  | 24 => ("DictProof", "seenWhat", "[I", true)
  | 25 => ("DictProof", "seenSo", "[Z", true)
  | 26 => ("DictProof", "seenMany", "I", false)
  | 27 => ("DictProof", "drawn", "I", false)
  | 28 => ("DictProof", "keptKinds", "[I", true)
  | 29 => ("DictProof", "keptSlots", "[LDictProof$Term;", true)
  | 30 => ("DictProof", "keptInstance", "[I", true)
  | 31 => ("DictProof", "keptWhat", "[I", true)
  | 32 => ("DictProof", "keptSo", "[Z", true)
  | 33 => ("DictProof", "keptSeen", "I", false)
  | 34 => ("DictProof", "keptBook", "I", false)
  | _ => ("DictProof", "h", "J", false)
def tyX0 : Nat → FieldType := fun k => match k with
  | 0 => .array (.object "DictProof$Instance")
  | 1 => .array .int
  | 2 => .array .int
  | 3 => .int
  | 4 => .array (.object "DictProof$Instance")
  | 5 => .int
  | 6 => .array (.object "DictProof$Term")
  | 7 => .int
  | 8 => .array .int
  | 9 => .int
  | 10 => .int
  | 11 => .int
  | 12 => .int
  | 13 => .int
  | 14 => .int
  | 15 => .int
  | 16 => .int
  | 17 => .int
  | 18 => .array .int
  | 19 => .int
  | 20 => .object "java/util/HashMap"
  | 21 => .array .boolean
  | 22 => .array .boolean
  | 23 => .array .int
  | 24 => .array .int
  | 25 => .array .boolean
  | 26 => .int
  | 27 => .int
  | 28 => .array .int
  | 29 => .array (.object "DictProof$Term")
  | 30 => .array .int
  | 31 => .array .int
  | 32 => .array .boolean
  | 33 => .int
  | 34 => .int
  | _ => .long
abbrev wsX00 : List Cond := u_ws RX0 TX0 36
set_option maxRecDepth 100000 in
theorem nmX0 : ∀ a, a < 36 → ∀ b, b < 36 → a ≠ b → (TX0 a).2.1 ≠ (TX0 b).2.1 := by decide +kernel
set_option maxRecDepth 100000 in
theorem tyX0_ok : ∀ k, k < 36 → parseFieldDescriptor (TX0 k).2.2.1 = some (tyX0 k) := by decide +kernel
abbrev cX0_init : ByteArray := prog_1_method_14_code
def yX0_init : MethodName := ⟨RX0, "<init>", "()V"⟩
def dkwX0_init_8 : List UInt8 := [181, 0, 157, 42, 16, 6, 188, 4, 181, 0, 160, 42, 2, 181, 0, 163, 177]
abbrev dktX0_init_8 : List UInt8 := dkwX0_init_8 ++ []
def dkwX0_init_7 : List UInt8 := [181, 0, 148, 42, 7, 189, 0, 12, 181, 0, 151, 42, 16, 6, 188, 10, 181, 0, 154, 42, 16, 6, 188, 10]
abbrev dktX0_init_7 : List UInt8 := dkwX0_init_7 ++ dktX0_init_8
def dkwX0_init_6 : List UInt8 := [181, 0, 139, 42, 16, 6, 188, 10, 181, 0, 142, 42, 16, 6, 188, 4, 181, 0, 145, 42, 16, 6, 188, 10]
abbrev dktX0_init_6 : List UInt8 := dkwX0_init_6 ++ dktX0_init_7
def dkwX0_init_5 : List UInt8 := [181, 0, 128, 42, 16, 36, 188, 4, 181, 0, 132, 42, 16, 36, 188, 4, 181, 0, 136, 42, 16, 6, 188, 10]
abbrev dktX0_init_5 : List UInt8 := dkwX0_init_5 ++ dktX0_init_6
def dkwX0_init_4 : List UInt8 := [16, 84, 188, 10, 181, 0, 121, 42, 16, 6, 188, 10, 181, 0, 124, 42, 187, 0, 48, 89, 183, 0, 127]
abbrev dktX0_init_4 : List UInt8 := dkwX0_init_4 ++ dktX0_init_5
def dkwX0_init_3 : List UInt8 := [188, 10, 181, 0, 111, 42, 16, 6, 189, 0, 83, 181, 0, 114, 42, 7, 189, 0, 12, 181, 0, 117, 42]
abbrev dktX0_init_3 : List UInt8 := dkwX0_init_3 ++ dktX0_init_4
def dkwX0_init_2 : List UInt8 := [83, 89, 7, 187, 0, 97, 89, 183, 0, 99, 83, 181, 0, 103, 42, 7, 188, 10, 181, 0, 107, 42, 7]
abbrev dktX0_init_2 : List UInt8 := dkwX0_init_2 ++ dktX0_init_3
def dkwX0_init_1 : List UInt8 := [89, 183, 0, 90, 83, 89, 5, 187, 0, 91, 89, 183, 0, 93, 83, 89, 6, 187, 0, 94, 89, 183, 0, 96]
abbrev dktX0_init_1 : List UInt8 := dkwX0_init_1 ++ dktX0_init_2
def dkwX0_init_0 : List UInt8 := [42, 183, 0, 100, 42, 8, 189, 0, 83, 89, 3, 187, 0, 83, 89, 183, 0, 85, 83, 89, 4, 187, 0, 88]
abbrev dktX0_init_0 : List UInt8 := dkwX0_init_0 ++ dktX0_init_1
theorem dksX0_init_0 : cX0_init.data.toList.drop 0 = dktX0_init_0 := by decide +kernel
theorem dksX0_init_1 : cX0_init.data.toList.drop 24 = dktX0_init_1 := dk_seg dksX0_init_0 24 rfl rfl
theorem dksX0_init_2 : cX0_init.data.toList.drop 48 = dktX0_init_2 := dk_seg dksX0_init_1 24 rfl rfl
theorem dksX0_init_3 : cX0_init.data.toList.drop 71 = dktX0_init_3 := dk_seg dksX0_init_2 23 rfl rfl
theorem dksX0_init_4 : cX0_init.data.toList.drop 94 = dktX0_init_4 := dk_seg dksX0_init_3 23 rfl rfl
theorem dksX0_init_5 : cX0_init.data.toList.drop 117 = dktX0_init_5 := dk_seg dksX0_init_4 23 rfl rfl
theorem dksX0_init_6 : cX0_init.data.toList.drop 141 = dktX0_init_6 := dk_seg dksX0_init_5 24 rfl rfl
theorem dksX0_init_7 : cX0_init.data.toList.drop 165 = dktX0_init_7 := dk_seg dksX0_init_6 24 rfl rfl
theorem dksX0_init_8 : cX0_init.data.toList.drop 189 = dktX0_init_8 := dk_seg dksX0_init_7 24 rfl rfl
theorem dX0_init_0 : decode cX0_init 0 = .ok (.aload_n 0, 1) := dk_42 (dk_at dksX0_init_0 0 rfl rfl)
theorem dX0_init_1 : decode cX0_init 1 = .ok (.invokespecial 100, 3) := dk_183 0 100 (dk_at dksX0_init_0 1 rfl rfl)
theorem dX0_init_4 : decode cX0_init 4 = .ok (.aload_n 0, 1) := dk_42 (dk_at dksX0_init_0 4 rfl rfl)
theorem dX0_init_5 : decode cX0_init 5 = .ok (.iconst 5, 1) := dk_8 (dk_at dksX0_init_0 5 rfl rfl)
theorem dX0_init_6 : decode cX0_init 6 = .ok (.anewarray 83, 3) := dk_189 0 83 (dk_at dksX0_init_0 6 rfl rfl)
theorem dX0_init_9 : decode cX0_init 9 = .ok (.dup, 1) := dk_89 (dk_at dksX0_init_0 9 rfl rfl)
theorem dX0_init_10 : decode cX0_init 10 = .ok (.iconst 0, 1) := dk_3 (dk_at dksX0_init_0 10 rfl rfl)
theorem dX0_init_11 : decode cX0_init 11 = .ok (.new 83, 3) := dk_187 0 83 (dk_at dksX0_init_0 11 rfl rfl)
theorem dX0_init_14 : decode cX0_init 14 = .ok (.dup, 1) := dk_89 (dk_at dksX0_init_0 14 rfl rfl)
theorem dX0_init_15 : decode cX0_init 15 = .ok (.invokespecial 85, 3) := dk_183 0 85 (dk_at dksX0_init_0 15 rfl rfl)
theorem dX0_init_18 : decode cX0_init 18 = .ok (.aastore, 1) := dk_83 (dk_at dksX0_init_0 18 rfl rfl)
theorem dX0_init_19 : decode cX0_init 19 = .ok (.dup, 1) := dk_89 (dk_at dksX0_init_0 19 rfl rfl)
theorem dX0_init_20 : decode cX0_init 20 = .ok (.iconst 1, 1) := dk_4 (dk_at dksX0_init_0 20 rfl rfl)
theorem dX0_init_21 : decode cX0_init 21 = .ok (.new 88, 3) := dk_187 0 88 (dk_at dksX0_init_0 21 rfl rfl)
theorem dX0_init_24 : decode cX0_init 24 = .ok (.dup, 1) := dk_89 (dk_at dksX0_init_1 0 rfl rfl)
theorem dX0_init_25 : decode cX0_init 25 = .ok (.invokespecial 90, 3) := dk_183 0 90 (dk_at dksX0_init_1 1 rfl rfl)
theorem dX0_init_28 : decode cX0_init 28 = .ok (.aastore, 1) := dk_83 (dk_at dksX0_init_1 4 rfl rfl)
theorem dX0_init_29 : decode cX0_init 29 = .ok (.dup, 1) := dk_89 (dk_at dksX0_init_1 5 rfl rfl)
theorem dX0_init_30 : decode cX0_init 30 = .ok (.iconst 2, 1) := dk_5 (dk_at dksX0_init_1 6 rfl rfl)
theorem dX0_init_31 : decode cX0_init 31 = .ok (.new 91, 3) := dk_187 0 91 (dk_at dksX0_init_1 7 rfl rfl)
theorem dX0_init_34 : decode cX0_init 34 = .ok (.dup, 1) := dk_89 (dk_at dksX0_init_1 10 rfl rfl)
theorem dX0_init_35 : decode cX0_init 35 = .ok (.invokespecial 93, 3) := dk_183 0 93 (dk_at dksX0_init_1 11 rfl rfl)
theorem dX0_init_38 : decode cX0_init 38 = .ok (.aastore, 1) := dk_83 (dk_at dksX0_init_1 14 rfl rfl)
theorem dX0_init_39 : decode cX0_init 39 = .ok (.dup, 1) := dk_89 (dk_at dksX0_init_1 15 rfl rfl)
theorem dX0_init_40 : decode cX0_init 40 = .ok (.iconst 3, 1) := dk_6 (dk_at dksX0_init_1 16 rfl rfl)
theorem dX0_init_41 : decode cX0_init 41 = .ok (.new 94, 3) := dk_187 0 94 (dk_at dksX0_init_1 17 rfl rfl)
theorem dX0_init_44 : decode cX0_init 44 = .ok (.dup, 1) := dk_89 (dk_at dksX0_init_1 20 rfl rfl)
theorem dX0_init_45 : decode cX0_init 45 = .ok (.invokespecial 96, 3) := dk_183 0 96 (dk_at dksX0_init_1 21 rfl rfl)
theorem dX0_init_48 : decode cX0_init 48 = .ok (.aastore, 1) := dk_83 (dk_at dksX0_init_2 0 rfl rfl)
theorem dX0_init_49 : decode cX0_init 49 = .ok (.dup, 1) := dk_89 (dk_at dksX0_init_2 1 rfl rfl)
theorem dX0_init_50 : decode cX0_init 50 = .ok (.iconst 4, 1) := dk_7 (dk_at dksX0_init_2 2 rfl rfl)
theorem dX0_init_51 : decode cX0_init 51 = .ok (.new 97, 3) := dk_187 0 97 (dk_at dksX0_init_2 3 rfl rfl)
theorem dX0_init_54 : decode cX0_init 54 = .ok (.dup, 1) := dk_89 (dk_at dksX0_init_2 6 rfl rfl)
theorem dX0_init_55 : decode cX0_init 55 = .ok (.invokespecial 99, 3) := dk_183 0 99 (dk_at dksX0_init_2 7 rfl rfl)
theorem dX0_init_58 : decode cX0_init 58 = .ok (.aastore, 1) := dk_83 (dk_at dksX0_init_2 10 rfl rfl)
theorem dX0_init_59 : decode cX0_init 59 = .ok (.putfield 103, 3) := dk_181 0 103 (dk_at dksX0_init_2 11 rfl rfl)
theorem dX0_init_62 : decode cX0_init 62 = .ok (.aload_n 0, 1) := dk_42 (dk_at dksX0_init_2 14 rfl rfl)
theorem dX0_init_63 : decode cX0_init 63 = .ok (.iconst 4, 1) := dk_7 (dk_at dksX0_init_2 15 rfl rfl)
theorem dX0_init_64 : decode cX0_init 64 = .ok (.newarray .int, 2) := dk_188_10 (dk_at dksX0_init_2 16 rfl rfl)
theorem dX0_init_66 : decode cX0_init 66 = .ok (.putfield 107, 3) := dk_181 0 107 (dk_at dksX0_init_2 18 rfl rfl)
theorem dX0_init_69 : decode cX0_init 69 = .ok (.aload_n 0, 1) := dk_42 (dk_at dksX0_init_2 21 rfl rfl)
theorem dX0_init_70 : decode cX0_init 70 = .ok (.iconst 4, 1) := dk_7 (dk_at dksX0_init_2 22 rfl rfl)
theorem dX0_init_71 : decode cX0_init 71 = .ok (.newarray .int, 2) := dk_188_10 (dk_at dksX0_init_3 0 rfl rfl)
theorem dX0_init_73 : decode cX0_init 73 = .ok (.putfield 111, 3) := dk_181 0 111 (dk_at dksX0_init_3 2 rfl rfl)
theorem dX0_init_76 : decode cX0_init 76 = .ok (.aload_n 0, 1) := dk_42 (dk_at dksX0_init_3 5 rfl rfl)
theorem dX0_init_77 : decode cX0_init 77 = .ok (.bipush 6, 2) := dk_16 6 (dk_at dksX0_init_3 6 rfl rfl)
theorem dX0_init_79 : decode cX0_init 79 = .ok (.anewarray 83, 3) := dk_189 0 83 (dk_at dksX0_init_3 8 rfl rfl)
theorem dX0_init_82 : decode cX0_init 82 = .ok (.putfield 114, 3) := dk_181 0 114 (dk_at dksX0_init_3 11 rfl rfl)
theorem dX0_init_85 : decode cX0_init 85 = .ok (.aload_n 0, 1) := dk_42 (dk_at dksX0_init_3 14 rfl rfl)
theorem dX0_init_86 : decode cX0_init 86 = .ok (.iconst 4, 1) := dk_7 (dk_at dksX0_init_3 15 rfl rfl)
theorem dX0_init_87 : decode cX0_init 87 = .ok (.anewarray 12, 3) := dk_189 0 12 (dk_at dksX0_init_3 16 rfl rfl)
theorem dX0_init_90 : decode cX0_init 90 = .ok (.putfield 117, 3) := dk_181 0 117 (dk_at dksX0_init_3 19 rfl rfl)
theorem dX0_init_93 : decode cX0_init 93 = .ok (.aload_n 0, 1) := dk_42 (dk_at dksX0_init_3 22 rfl rfl)
theorem dX0_init_94 : decode cX0_init 94 = .ok (.bipush 84, 2) := dk_16 84 (dk_at dksX0_init_4 0 rfl rfl)
theorem dX0_init_96 : decode cX0_init 96 = .ok (.newarray .int, 2) := dk_188_10 (dk_at dksX0_init_4 2 rfl rfl)
theorem dX0_init_98 : decode cX0_init 98 = .ok (.putfield 121, 3) := dk_181 0 121 (dk_at dksX0_init_4 4 rfl rfl)
theorem dX0_init_101 : decode cX0_init 101 = .ok (.aload_n 0, 1) := dk_42 (dk_at dksX0_init_4 7 rfl rfl)
theorem dX0_init_102 : decode cX0_init 102 = .ok (.bipush 6, 2) := dk_16 6 (dk_at dksX0_init_4 8 rfl rfl)
theorem dX0_init_104 : decode cX0_init 104 = .ok (.newarray .int, 2) := dk_188_10 (dk_at dksX0_init_4 10 rfl rfl)
theorem dX0_init_106 : decode cX0_init 106 = .ok (.putfield 124, 3) := dk_181 0 124 (dk_at dksX0_init_4 12 rfl rfl)
theorem dX0_init_109 : decode cX0_init 109 = .ok (.aload_n 0, 1) := dk_42 (dk_at dksX0_init_4 15 rfl rfl)
theorem dX0_init_110 : decode cX0_init 110 = .ok (.new 48, 3) := dk_187 0 48 (dk_at dksX0_init_4 16 rfl rfl)
theorem dX0_init_113 : decode cX0_init 113 = .ok (.dup, 1) := dk_89 (dk_at dksX0_init_4 19 rfl rfl)
theorem dX0_init_114 : decode cX0_init 114 = .ok (.invokespecial 127, 3) := dk_183 0 127 (dk_at dksX0_init_4 20 rfl rfl)
theorem dX0_init_117 : decode cX0_init 117 = .ok (.putfield 128, 3) := dk_181 0 128 (dk_at dksX0_init_5 0 rfl rfl)
theorem dX0_init_120 : decode cX0_init 120 = .ok (.aload_n 0, 1) := dk_42 (dk_at dksX0_init_5 3 rfl rfl)
theorem dX0_init_121 : decode cX0_init 121 = .ok (.bipush 36, 2) := dk_16 36 (dk_at dksX0_init_5 4 rfl rfl)
theorem dX0_init_123 : decode cX0_init 123 = .ok (.newarray .boolean, 2) := dk_188_4 (dk_at dksX0_init_5 6 rfl rfl)
theorem dX0_init_125 : decode cX0_init 125 = .ok (.putfield 132, 3) := dk_181 0 132 (dk_at dksX0_init_5 8 rfl rfl)
theorem dX0_init_128 : decode cX0_init 128 = .ok (.aload_n 0, 1) := dk_42 (dk_at dksX0_init_5 11 rfl rfl)
theorem dX0_init_129 : decode cX0_init 129 = .ok (.bipush 36, 2) := dk_16 36 (dk_at dksX0_init_5 12 rfl rfl)
theorem dX0_init_131 : decode cX0_init 131 = .ok (.newarray .boolean, 2) := dk_188_4 (dk_at dksX0_init_5 14 rfl rfl)
theorem dX0_init_133 : decode cX0_init 133 = .ok (.putfield 136, 3) := dk_181 0 136 (dk_at dksX0_init_5 16 rfl rfl)
theorem dX0_init_136 : decode cX0_init 136 = .ok (.aload_n 0, 1) := dk_42 (dk_at dksX0_init_5 19 rfl rfl)
theorem dX0_init_137 : decode cX0_init 137 = .ok (.bipush 6, 2) := dk_16 6 (dk_at dksX0_init_5 20 rfl rfl)
theorem dX0_init_139 : decode cX0_init 139 = .ok (.newarray .int, 2) := dk_188_10 (dk_at dksX0_init_5 22 rfl rfl)
theorem dX0_init_141 : decode cX0_init 141 = .ok (.putfield 139, 3) := dk_181 0 139 (dk_at dksX0_init_6 0 rfl rfl)
theorem dX0_init_144 : decode cX0_init 144 = .ok (.aload_n 0, 1) := dk_42 (dk_at dksX0_init_6 3 rfl rfl)
theorem dX0_init_145 : decode cX0_init 145 = .ok (.bipush 6, 2) := dk_16 6 (dk_at dksX0_init_6 4 rfl rfl)
theorem dX0_init_147 : decode cX0_init 147 = .ok (.newarray .int, 2) := dk_188_10 (dk_at dksX0_init_6 6 rfl rfl)
theorem dX0_init_149 : decode cX0_init 149 = .ok (.putfield 142, 3) := dk_181 0 142 (dk_at dksX0_init_6 8 rfl rfl)
theorem dX0_init_152 : decode cX0_init 152 = .ok (.aload_n 0, 1) := dk_42 (dk_at dksX0_init_6 11 rfl rfl)
theorem dX0_init_153 : decode cX0_init 153 = .ok (.bipush 6, 2) := dk_16 6 (dk_at dksX0_init_6 12 rfl rfl)
theorem dX0_init_155 : decode cX0_init 155 = .ok (.newarray .boolean, 2) := dk_188_4 (dk_at dksX0_init_6 14 rfl rfl)
theorem dX0_init_157 : decode cX0_init 157 = .ok (.putfield 145, 3) := dk_181 0 145 (dk_at dksX0_init_6 16 rfl rfl)
theorem dX0_init_160 : decode cX0_init 160 = .ok (.aload_n 0, 1) := dk_42 (dk_at dksX0_init_6 19 rfl rfl)
theorem dX0_init_161 : decode cX0_init 161 = .ok (.bipush 6, 2) := dk_16 6 (dk_at dksX0_init_6 20 rfl rfl)
theorem dX0_init_163 : decode cX0_init 163 = .ok (.newarray .int, 2) := dk_188_10 (dk_at dksX0_init_6 22 rfl rfl)
theorem dX0_init_165 : decode cX0_init 165 = .ok (.putfield 148, 3) := dk_181 0 148 (dk_at dksX0_init_7 0 rfl rfl)
theorem dX0_init_168 : decode cX0_init 168 = .ok (.aload_n 0, 1) := dk_42 (dk_at dksX0_init_7 3 rfl rfl)
theorem dX0_init_169 : decode cX0_init 169 = .ok (.iconst 4, 1) := dk_7 (dk_at dksX0_init_7 4 rfl rfl)
theorem dX0_init_170 : decode cX0_init 170 = .ok (.anewarray 12, 3) := dk_189 0 12 (dk_at dksX0_init_7 5 rfl rfl)
theorem dX0_init_173 : decode cX0_init 173 = .ok (.putfield 151, 3) := dk_181 0 151 (dk_at dksX0_init_7 8 rfl rfl)
theorem dX0_init_176 : decode cX0_init 176 = .ok (.aload_n 0, 1) := dk_42 (dk_at dksX0_init_7 11 rfl rfl)
theorem dX0_init_177 : decode cX0_init 177 = .ok (.bipush 6, 2) := dk_16 6 (dk_at dksX0_init_7 12 rfl rfl)
theorem dX0_init_179 : decode cX0_init 179 = .ok (.newarray .int, 2) := dk_188_10 (dk_at dksX0_init_7 14 rfl rfl)
theorem dX0_init_181 : decode cX0_init 181 = .ok (.putfield 154, 3) := dk_181 0 154 (dk_at dksX0_init_7 16 rfl rfl)
theorem dX0_init_184 : decode cX0_init 184 = .ok (.aload_n 0, 1) := dk_42 (dk_at dksX0_init_7 19 rfl rfl)
theorem dX0_init_185 : decode cX0_init 185 = .ok (.bipush 6, 2) := dk_16 6 (dk_at dksX0_init_7 20 rfl rfl)
theorem dX0_init_187 : decode cX0_init 187 = .ok (.newarray .int, 2) := dk_188_10 (dk_at dksX0_init_7 22 rfl rfl)
theorem dX0_init_189 : decode cX0_init 189 = .ok (.putfield 157, 3) := dk_181 0 157 (dk_at dksX0_init_8 0 rfl rfl)
theorem dX0_init_192 : decode cX0_init 192 = .ok (.aload_n 0, 1) := dk_42 (dk_at dksX0_init_8 3 rfl rfl)
theorem dX0_init_193 : decode cX0_init 193 = .ok (.bipush 6, 2) := dk_16 6 (dk_at dksX0_init_8 4 rfl rfl)
theorem dX0_init_195 : decode cX0_init 195 = .ok (.newarray .boolean, 2) := dk_188_4 (dk_at dksX0_init_8 6 rfl rfl)
theorem dX0_init_197 : decode cX0_init 197 = .ok (.putfield 160, 3) := dk_181 0 160 (dk_at dksX0_init_8 8 rfl rfl)
theorem dX0_init_200 : decode cX0_init 200 = .ok (.aload_n 0, 1) := dk_42 (dk_at dksX0_init_8 11 rfl rfl)
theorem dX0_init_201 : decode cX0_init 201 = .ok (.iconst (-1), 1) := dk_2 (dk_at dksX0_init_8 12 rfl rfl)
theorem dX0_init_202 : decode cX0_init 202 = .ok (.putfield 163, 3) := dk_181 0 163 (dk_at dksX0_init_8 13 rfl rfl)
theorem dX0_init_205 : decode cX0_init 205 = .ok (.return_, 1) := dk_177 (dk_at dksX0_init_8 16 rfl rfl)
abbrev cX0_letter : ByteArray := prog_1_method_15_code
def yX0_letter : MethodName := ⟨RX0, "letter", "(I)I"⟩
def dkwX0_letter_2 : List UInt8 := [181, 0, 174, 42, 180, 0, 174, 172]
abbrev dktX0_letter_2 : List UInt8 := dkwX0_letter_2 ++ []
def dkwX0_letter_1 : List UInt8 := [160, 0, 6, 16, 152, 172, 42, 180, 0, 121, 42, 180, 0, 174, 27, 79, 42, 89, 180, 0, 174, 4, 96]
abbrev dktX0_letter_1 : List UInt8 := dkwX0_letter_1 ++ dktX0_letter_2
def dkwX0_letter_0 : List UInt8 := [27, 133, 20, 0, 166, 20, 0, 168, 184, 0, 170, 154, 0, 6, 16, 154, 172, 42, 180, 0, 174, 16, 84]
abbrev dktX0_letter_0 : List UInt8 := dkwX0_letter_0 ++ dktX0_letter_1
theorem dksX0_letter_0 : cX0_letter.data.toList.drop 0 = dktX0_letter_0 := by decide +kernel
theorem dksX0_letter_1 : cX0_letter.data.toList.drop 23 = dktX0_letter_1 := dk_seg dksX0_letter_0 23 rfl rfl
theorem dksX0_letter_2 : cX0_letter.data.toList.drop 46 = dktX0_letter_2 := dk_seg dksX0_letter_1 23 rfl rfl
theorem dX0_letter_0 : decode cX0_letter 0 = .ok (.iload_n 1, 1) := dk_27 (dk_at dksX0_letter_0 0 rfl rfl)
theorem dX0_letter_1 : decode cX0_letter 1 = .ok (.i2l, 1) := dk_133 (dk_at dksX0_letter_0 1 rfl rfl)
theorem dX0_letter_2 : decode cX0_letter 2 = .ok (.ldc2_w 166, 3) := dk_20 0 166 (dk_at dksX0_letter_0 2 rfl rfl)
theorem dX0_letter_5 : decode cX0_letter 5 = .ok (.ldc2_w 168, 3) := dk_20 0 168 (dk_at dksX0_letter_0 5 rfl rfl)
theorem dX0_letter_8 : decode cX0_letter 8 = .ok (.invokestatic 170, 3) := dk_184 0 170 (dk_at dksX0_letter_0 8 rfl rfl)
theorem dX0_letter_11 : decode cX0_letter 11 = .ok (.ifCond .ne 6, 3) := dk_154 0 6 (dk_at dksX0_letter_0 11 rfl rfl)
theorem dX0_letter_14 : decode cX0_letter 14 = .ok (.bipush (-102), 2) := dk_16 154 (dk_at dksX0_letter_0 14 rfl rfl)
theorem dX0_letter_16 : decode cX0_letter 16 = .ok (.ireturn, 1) := dk_172 (dk_at dksX0_letter_0 16 rfl rfl)
theorem dX0_letter_17 : decode cX0_letter 17 = .ok (.aload_n 0, 1) := dk_42 (dk_at dksX0_letter_0 17 rfl rfl)
theorem dX0_letter_18 : decode cX0_letter 18 = .ok (.getfield 174, 3) := dk_180 0 174 (dk_at dksX0_letter_0 18 rfl rfl)
theorem dX0_letter_21 : decode cX0_letter 21 = .ok (.bipush 84, 2) := dk_16 84 (dk_at dksX0_letter_0 21 rfl rfl)
theorem dX0_letter_23 : decode cX0_letter 23 = .ok (.if_icmp .ne 6, 3) := dk_160 0 6 (dk_at dksX0_letter_1 0 rfl rfl)
theorem dX0_letter_26 : decode cX0_letter 26 = .ok (.bipush (-104), 2) := dk_16 152 (dk_at dksX0_letter_1 3 rfl rfl)
theorem dX0_letter_28 : decode cX0_letter 28 = .ok (.ireturn, 1) := dk_172 (dk_at dksX0_letter_1 5 rfl rfl)
theorem dX0_letter_29 : decode cX0_letter 29 = .ok (.aload_n 0, 1) := dk_42 (dk_at dksX0_letter_1 6 rfl rfl)
theorem dX0_letter_30 : decode cX0_letter 30 = .ok (.getfield 121, 3) := dk_180 0 121 (dk_at dksX0_letter_1 7 rfl rfl)
theorem dX0_letter_33 : decode cX0_letter 33 = .ok (.aload_n 0, 1) := dk_42 (dk_at dksX0_letter_1 10 rfl rfl)
theorem dX0_letter_34 : decode cX0_letter 34 = .ok (.getfield 174, 3) := dk_180 0 174 (dk_at dksX0_letter_1 11 rfl rfl)
theorem dX0_letter_37 : decode cX0_letter 37 = .ok (.iload_n 1, 1) := dk_27 (dk_at dksX0_letter_1 14 rfl rfl)
theorem dX0_letter_38 : decode cX0_letter 38 = .ok (.iastore, 1) := dk_79 (dk_at dksX0_letter_1 15 rfl rfl)
theorem dX0_letter_39 : decode cX0_letter 39 = .ok (.aload_n 0, 1) := dk_42 (dk_at dksX0_letter_1 16 rfl rfl)
theorem dX0_letter_40 : decode cX0_letter 40 = .ok (.dup, 1) := dk_89 (dk_at dksX0_letter_1 17 rfl rfl)
theorem dX0_letter_41 : decode cX0_letter 41 = .ok (.getfield 174, 3) := dk_180 0 174 (dk_at dksX0_letter_1 18 rfl rfl)
theorem dX0_letter_44 : decode cX0_letter 44 = .ok (.iconst 1, 1) := dk_4 (dk_at dksX0_letter_1 21 rfl rfl)
theorem dX0_letter_45 : decode cX0_letter 45 = .ok (.iadd, 1) := dk_96 (dk_at dksX0_letter_1 22 rfl rfl)
theorem dX0_letter_46 : decode cX0_letter 46 = .ok (.putfield 174, 3) := dk_181 0 174 (dk_at dksX0_letter_2 0 rfl rfl)
theorem dX0_letter_49 : decode cX0_letter 49 = .ok (.aload_n 0, 1) := dk_42 (dk_at dksX0_letter_2 3 rfl rfl)
theorem dX0_letter_50 : decode cX0_letter 50 = .ok (.getfield 174, 3) := dk_180 0 174 (dk_at dksX0_letter_2 4 rfl rfl)
theorem dX0_letter_53 : decode cX0_letter 53 = .ok (.ireturn, 1) := dk_172 (dk_at dksX0_letter_2 7 rfl rfl)
abbrev cX0_isIn : ByteArray := prog_1_method_1_code
def yX0_isIn : MethodName := ⟨RX0, "isIn", "(JJJ)Z"⟩
def dkwX0_isIn_0 : List UInt8 := [30, 32, 148, 155, 0, 14, 30, 22, 4, 148, 157, 0, 7, 4, 167, 0, 4, 3, 172]
abbrev dktX0_isIn_0 : List UInt8 := dkwX0_isIn_0 ++ []
theorem dksX0_isIn_0 : cX0_isIn.data.toList.drop 0 = dktX0_isIn_0 := by decide +kernel
theorem dX0_isIn_0 : decode cX0_isIn 0 = .ok (.lload_n 0, 1) := dk_30 (dk_at dksX0_isIn_0 0 rfl rfl)
theorem dX0_isIn_1 : decode cX0_isIn 1 = .ok (.lload_n 2, 1) := dk_32 (dk_at dksX0_isIn_0 1 rfl rfl)
theorem dX0_isIn_2 : decode cX0_isIn 2 = .ok (.lcmp, 1) := dk_148 (dk_at dksX0_isIn_0 2 rfl rfl)
theorem dX0_isIn_3 : decode cX0_isIn 3 = .ok (.ifCond .lt 14, 3) := dk_155 0 14 (dk_at dksX0_isIn_0 3 rfl rfl)
theorem dX0_isIn_6 : decode cX0_isIn 6 = .ok (.lload_n 0, 1) := dk_30 (dk_at dksX0_isIn_0 6 rfl rfl)
theorem dX0_isIn_7 : decode cX0_isIn 7 = .ok (.lload 4, 2) := dk_22 4 (dk_at dksX0_isIn_0 7 rfl rfl)
theorem dX0_isIn_9 : decode cX0_isIn 9 = .ok (.lcmp, 1) := dk_148 (dk_at dksX0_isIn_0 9 rfl rfl)
theorem dX0_isIn_10 : decode cX0_isIn 10 = .ok (.ifCond .gt 7, 3) := dk_157 0 7 (dk_at dksX0_isIn_0 10 rfl rfl)
theorem dX0_isIn_13 : decode cX0_isIn 13 = .ok (.iconst 1, 1) := dk_4 (dk_at dksX0_isIn_0 13 rfl rfl)
theorem dX0_isIn_14 : decode cX0_isIn 14 = .ok (.goto 4, 3) := dk_167 0 4 (dk_at dksX0_isIn_0 14 rfl rfl)
theorem dX0_isIn_17 : decode cX0_isIn 17 = .ok (.iconst 0, 1) := dk_3 (dk_at dksX0_isIn_0 17 rfl rfl)
theorem dX0_isIn_18 : decode cX0_isIn 18 = .ok (.ireturn, 1) := dk_172 (dk_at dksX0_isIn_0 18 rfl rfl)
abbrev cX0_blank : ByteArray := prog_1_method_16_code
def yX0_blank : MethodName := ⟨RX0, "blank", "()I"⟩
def dkwX0_blank_0 : List UInt8 := [42, 180, 0, 174, 60, 42, 3, 181, 0, 174, 27, 172]
abbrev dktX0_blank_0 : List UInt8 := dkwX0_blank_0 ++ []
theorem dksX0_blank_0 : cX0_blank.data.toList.drop 0 = dktX0_blank_0 := by decide +kernel
theorem dX0_blank_0 : decode cX0_blank 0 = .ok (.aload_n 0, 1) := dk_42 (dk_at dksX0_blank_0 0 rfl rfl)
theorem dX0_blank_1 : decode cX0_blank 1 = .ok (.getfield 174, 3) := dk_180 0 174 (dk_at dksX0_blank_0 1 rfl rfl)
theorem dX0_blank_4 : decode cX0_blank 4 = .ok (.istore_n 1, 1) := dk_60 (dk_at dksX0_blank_0 4 rfl rfl)
theorem dX0_blank_5 : decode cX0_blank 5 = .ok (.aload_n 0, 1) := dk_42 (dk_at dksX0_blank_0 5 rfl rfl)
theorem dX0_blank_6 : decode cX0_blank 6 = .ok (.iconst 0, 1) := dk_3 (dk_at dksX0_blank_0 6 rfl rfl)
theorem dX0_blank_7 : decode cX0_blank 7 = .ok (.putfield 174, 3) := dk_181 0 174 (dk_at dksX0_blank_0 7 rfl rfl)
theorem dX0_blank_10 : decode cX0_blank 10 = .ok (.iload_n 1, 1) := dk_27 (dk_at dksX0_blank_0 10 rfl rfl)
theorem dX0_blank_11 : decode cX0_blank 11 = .ok (.ireturn, 1) := dk_172 (dk_at dksX0_blank_0 11 rfl rfl)
abbrev cX0_fault : ByteArray := prog_1_method_23_code
def yX0_fault : MethodName := ⟨RX0, "fault", "()I"⟩
def dkwX0_fault_3 : List UInt8 := [132, 1, 1, 167, 255, 206, 27, 172]
abbrev dktX0_fault_3 : List UInt8 := dkwX0_fault_3 ++ []
def dkwX0_fault_2 : List UInt8 := [182, 0, 222, 153, 0, 26, 167, 0, 17, 42, 27, 42, 180, 0, 121, 27, 46, 182, 0, 225, 153, 0, 9]
abbrev dktX0_fault_2 : List UInt8 := dkwX0_fault_2 ++ dktX0_fault_3
def dkwX0_fault_1 : List UInt8 := [180, 0, 174, 162, 0, 48, 42, 180, 0, 183, 2, 160, 0, 20, 42, 27, 42, 180, 0, 121, 27, 46]
abbrev dktX0_fault_1 : List UInt8 := dkwX0_fault_1 ++ dktX0_fault_2
def dkwX0_fault_0 : List UInt8 := [42, 3, 181, 0, 180, 42, 3, 181, 0, 177, 42, 2, 181, 0, 183, 42, 3, 181, 0, 188, 3, 60, 27, 42]
abbrev dktX0_fault_0 : List UInt8 := dkwX0_fault_0 ++ dktX0_fault_1
theorem dksX0_fault_0 : cX0_fault.data.toList.drop 0 = dktX0_fault_0 := by decide +kernel
theorem dksX0_fault_1 : cX0_fault.data.toList.drop 24 = dktX0_fault_1 := dk_seg dksX0_fault_0 24 rfl rfl
theorem dksX0_fault_2 : cX0_fault.data.toList.drop 46 = dktX0_fault_2 := dk_seg dksX0_fault_1 22 rfl rfl
theorem dksX0_fault_3 : cX0_fault.data.toList.drop 69 = dktX0_fault_3 := dk_seg dksX0_fault_2 23 rfl rfl
theorem dX0_fault_0 : decode cX0_fault 0 = .ok (.aload_n 0, 1) := dk_42 (dk_at dksX0_fault_0 0 rfl rfl)
theorem dX0_fault_1 : decode cX0_fault 1 = .ok (.iconst 0, 1) := dk_3 (dk_at dksX0_fault_0 1 rfl rfl)
theorem dX0_fault_2 : decode cX0_fault 2 = .ok (.putfield 180, 3) := dk_181 0 180 (dk_at dksX0_fault_0 2 rfl rfl)
theorem dX0_fault_5 : decode cX0_fault 5 = .ok (.aload_n 0, 1) := dk_42 (dk_at dksX0_fault_0 5 rfl rfl)
theorem dX0_fault_6 : decode cX0_fault 6 = .ok (.iconst 0, 1) := dk_3 (dk_at dksX0_fault_0 6 rfl rfl)
theorem dX0_fault_7 : decode cX0_fault 7 = .ok (.putfield 177, 3) := dk_181 0 177 (dk_at dksX0_fault_0 7 rfl rfl)
theorem dX0_fault_10 : decode cX0_fault 10 = .ok (.aload_n 0, 1) := dk_42 (dk_at dksX0_fault_0 10 rfl rfl)
theorem dX0_fault_11 : decode cX0_fault 11 = .ok (.iconst (-1), 1) := dk_2 (dk_at dksX0_fault_0 11 rfl rfl)
theorem dX0_fault_12 : decode cX0_fault 12 = .ok (.putfield 183, 3) := dk_181 0 183 (dk_at dksX0_fault_0 12 rfl rfl)
theorem dX0_fault_15 : decode cX0_fault 15 = .ok (.aload_n 0, 1) := dk_42 (dk_at dksX0_fault_0 15 rfl rfl)
theorem dX0_fault_16 : decode cX0_fault 16 = .ok (.iconst 0, 1) := dk_3 (dk_at dksX0_fault_0 16 rfl rfl)
theorem dX0_fault_17 : decode cX0_fault 17 = .ok (.putfield 188, 3) := dk_181 0 188 (dk_at dksX0_fault_0 17 rfl rfl)
theorem dX0_fault_20 : decode cX0_fault 20 = .ok (.iconst 0, 1) := dk_3 (dk_at dksX0_fault_0 20 rfl rfl)
theorem dX0_fault_21 : decode cX0_fault 21 = .ok (.istore_n 1, 1) := dk_60 (dk_at dksX0_fault_0 21 rfl rfl)
theorem dX0_fault_22 : decode cX0_fault 22 = .ok (.iload_n 1, 1) := dk_27 (dk_at dksX0_fault_0 22 rfl rfl)
theorem dX0_fault_23 : decode cX0_fault 23 = .ok (.aload_n 0, 1) := dk_42 (dk_at dksX0_fault_0 23 rfl rfl)
theorem dX0_fault_24 : decode cX0_fault 24 = .ok (.getfield 174, 3) := dk_180 0 174 (dk_at dksX0_fault_1 0 rfl rfl)
theorem dX0_fault_27 : decode cX0_fault 27 = .ok (.if_icmp .ge 48, 3) := dk_162 0 48 (dk_at dksX0_fault_1 3 rfl rfl)
theorem dX0_fault_30 : decode cX0_fault 30 = .ok (.aload_n 0, 1) := dk_42 (dk_at dksX0_fault_1 6 rfl rfl)
theorem dX0_fault_31 : decode cX0_fault 31 = .ok (.getfield 183, 3) := dk_180 0 183 (dk_at dksX0_fault_1 7 rfl rfl)
theorem dX0_fault_34 : decode cX0_fault 34 = .ok (.iconst (-1), 1) := dk_2 (dk_at dksX0_fault_1 10 rfl rfl)
theorem dX0_fault_35 : decode cX0_fault 35 = .ok (.if_icmp .ne 20, 3) := dk_160 0 20 (dk_at dksX0_fault_1 11 rfl rfl)
theorem dX0_fault_38 : decode cX0_fault 38 = .ok (.aload_n 0, 1) := dk_42 (dk_at dksX0_fault_1 14 rfl rfl)
theorem dX0_fault_39 : decode cX0_fault 39 = .ok (.iload_n 1, 1) := dk_27 (dk_at dksX0_fault_1 15 rfl rfl)
theorem dX0_fault_40 : decode cX0_fault 40 = .ok (.aload_n 0, 1) := dk_42 (dk_at dksX0_fault_1 16 rfl rfl)
theorem dX0_fault_41 : decode cX0_fault 41 = .ok (.getfield 121, 3) := dk_180 0 121 (dk_at dksX0_fault_1 17 rfl rfl)
theorem dX0_fault_44 : decode cX0_fault 44 = .ok (.iload_n 1, 1) := dk_27 (dk_at dksX0_fault_1 20 rfl rfl)
theorem dX0_fault_45 : decode cX0_fault 45 = .ok (.iaload, 1) := dk_46 (dk_at dksX0_fault_1 21 rfl rfl)
theorem dX0_fault_46 : decode cX0_fault 46 = .ok (.invokevirtual 222, 3) := dk_182 0 222 (dk_at dksX0_fault_2 0 rfl rfl)
theorem dX0_fault_49 : decode cX0_fault 49 = .ok (.ifCond .eq 26, 3) := dk_153 0 26 (dk_at dksX0_fault_2 3 rfl rfl)
theorem dX0_fault_52 : decode cX0_fault 52 = .ok (.goto 17, 3) := dk_167 0 17 (dk_at dksX0_fault_2 6 rfl rfl)
theorem dX0_fault_55 : decode cX0_fault 55 = .ok (.aload_n 0, 1) := dk_42 (dk_at dksX0_fault_2 9 rfl rfl)
theorem dX0_fault_56 : decode cX0_fault 56 = .ok (.iload_n 1, 1) := dk_27 (dk_at dksX0_fault_2 10 rfl rfl)
theorem dX0_fault_57 : decode cX0_fault 57 = .ok (.aload_n 0, 1) := dk_42 (dk_at dksX0_fault_2 11 rfl rfl)
theorem dX0_fault_58 : decode cX0_fault 58 = .ok (.getfield 121, 3) := dk_180 0 121 (dk_at dksX0_fault_2 12 rfl rfl)
theorem dX0_fault_61 : decode cX0_fault 61 = .ok (.iload_n 1, 1) := dk_27 (dk_at dksX0_fault_2 15 rfl rfl)
theorem dX0_fault_62 : decode cX0_fault 62 = .ok (.iaload, 1) := dk_46 (dk_at dksX0_fault_2 16 rfl rfl)
theorem dX0_fault_63 : decode cX0_fault 63 = .ok (.invokevirtual 225, 3) := dk_182 0 225 (dk_at dksX0_fault_2 17 rfl rfl)
theorem dX0_fault_66 : decode cX0_fault 66 = .ok (.ifCond .eq 9, 3) := dk_153 0 9 (dk_at dksX0_fault_2 20 rfl rfl)
theorem dX0_fault_69 : decode cX0_fault 69 = .ok (.iinc 1 1, 3) := dk_132 1 1 (dk_at dksX0_fault_3 0 rfl rfl)
theorem dX0_fault_72 : decode cX0_fault 72 = .ok (.goto (-50), 3) := dk_167 255 206 (dk_at dksX0_fault_3 3 rfl rfl)
theorem dX0_fault_75 : decode cX0_fault 75 = .ok (.iload_n 1, 1) := dk_27 (dk_at dksX0_fault_3 6 rfl rfl)
theorem dX0_fault_76 : decode cX0_fault 76 = .ok (.ireturn, 1) := dk_172 (dk_at dksX0_fault_3 7 rfl rfl)
abbrev cX0_isClassSign : ByteArray := prog_1_method_18_code
def yX0_isClassSign : MethodName := ⟨RX0, "isClassSign", "(II)Z"⟩
def dkwX0_isClassSign_7 : List UInt8 := [46, 16, 45, 159, 0, 7, 4, 167, 0, 4, 3, 172]
abbrev dktX0_isClassSign_7 : List UInt8 := dkwX0_isClassSign_7 ++ []
def dkwX0_isClassSign_6 : List UInt8 := [4, 100, 133, 184, 0, 170, 153, 0, 28, 42, 180, 0, 177, 4, 159, 0, 16, 42, 180, 0, 121, 27, 4, 100]
abbrev dktX0_isClassSign_6 : List UInt8 := dkwX0_isClassSign_6 ++ dktX0_isClassSign_7
def dkwX0_isClassSign_5 : List UInt8 := [20, 0, 186, 167, 0, 14, 42, 180, 0, 121, 27, 4, 100, 46, 4, 96, 133, 16, 48, 42, 180, 0, 180, 96]
abbrev dktX0_isClassSign_5 : List UInt8 := dkwX0_isClassSign_5 ++ dktX0_isClassSign_6
def dkwX0_isClassSign_4 : List UInt8 := [167, 0, 4, 3, 172, 42, 180, 0, 177, 5, 163, 0, 71, 28, 133, 42, 180, 0, 177, 4, 160, 0, 9]
abbrev dktX0_isClassSign_4 : List UInt8 := dkwX0_isClassSign_4 ++ dktX0_isClassSign_5
def dkwX0_isClassSign_3 : List UInt8 := [16, 45, 160, 0, 27, 42, 89, 180, 0, 177, 4, 96, 181, 0, 177, 42, 180, 0, 177, 5, 160, 0, 7, 4]
abbrev dktX0_isClassSign_3 : List UInt8 := dkwX0_isClassSign_3 ++ dktX0_isClassSign_4
def dkwX0_isClassSign_2 : List UInt8 := [160, 0, 7, 27, 167, 0, 4, 2, 181, 0, 183, 4, 172, 42, 89, 180, 0, 177, 4, 96, 181, 0, 177, 28]
abbrev dktX0_isClassSign_2 : List UInt8 := dkwX0_isClassSign_2 ++ dktX0_isClassSign_3
def dkwX0_isClassSign_1 : List UInt8 := [160, 0, 35, 42, 89, 180, 0, 180, 4, 96, 181, 0, 180, 42, 3, 181, 0, 177, 42, 28, 16, 59]
abbrev dktX0_isClassSign_1 : List UInt8 := dkwX0_isClassSign_1 ++ dktX0_isClassSign_2
def dkwX0_isClassSign_0 : List UInt8 := [42, 180, 0, 177, 158, 0, 55, 28, 16, 44, 160, 0, 11, 42, 180, 0, 180, 6, 161, 0, 9, 28, 16, 59]
abbrev dktX0_isClassSign_0 : List UInt8 := dkwX0_isClassSign_0 ++ dktX0_isClassSign_1
theorem dksX0_isClassSign_0 : cX0_isClassSign.data.toList.drop 0 = dktX0_isClassSign_0 := by decide +kernel
theorem dksX0_isClassSign_1 : cX0_isClassSign.data.toList.drop 24 = dktX0_isClassSign_1 := dk_seg dksX0_isClassSign_0 24 rfl rfl
theorem dksX0_isClassSign_2 : cX0_isClassSign.data.toList.drop 46 = dktX0_isClassSign_2 := dk_seg dksX0_isClassSign_1 22 rfl rfl
theorem dksX0_isClassSign_3 : cX0_isClassSign.data.toList.drop 70 = dktX0_isClassSign_3 := dk_seg dksX0_isClassSign_2 24 rfl rfl
theorem dksX0_isClassSign_4 : cX0_isClassSign.data.toList.drop 94 = dktX0_isClassSign_4 := dk_seg dksX0_isClassSign_3 24 rfl rfl
theorem dksX0_isClassSign_5 : cX0_isClassSign.data.toList.drop 117 = dktX0_isClassSign_5 := dk_seg dksX0_isClassSign_4 23 rfl rfl
theorem dksX0_isClassSign_6 : cX0_isClassSign.data.toList.drop 141 = dktX0_isClassSign_6 := dk_seg dksX0_isClassSign_5 24 rfl rfl
theorem dksX0_isClassSign_7 : cX0_isClassSign.data.toList.drop 165 = dktX0_isClassSign_7 := dk_seg dksX0_isClassSign_6 24 rfl rfl
theorem dX0_isClassSign_0 : decode cX0_isClassSign 0 = .ok (.aload_n 0, 1) := dk_42 (dk_at dksX0_isClassSign_0 0 rfl rfl)
theorem dX0_isClassSign_1 : decode cX0_isClassSign 1 = .ok (.getfield 177, 3) := dk_180 0 177 (dk_at dksX0_isClassSign_0 1 rfl rfl)
theorem dX0_isClassSign_4 : decode cX0_isClassSign 4 = .ok (.ifCond .le 55, 3) := dk_158 0 55 (dk_at dksX0_isClassSign_0 4 rfl rfl)
theorem dX0_isClassSign_7 : decode cX0_isClassSign 7 = .ok (.iload_n 2, 1) := dk_28 (dk_at dksX0_isClassSign_0 7 rfl rfl)
theorem dX0_isClassSign_8 : decode cX0_isClassSign 8 = .ok (.bipush 44, 2) := dk_16 44 (dk_at dksX0_isClassSign_0 8 rfl rfl)
theorem dX0_isClassSign_10 : decode cX0_isClassSign 10 = .ok (.if_icmp .ne 11, 3) := dk_160 0 11 (dk_at dksX0_isClassSign_0 10 rfl rfl)
theorem dX0_isClassSign_13 : decode cX0_isClassSign 13 = .ok (.aload_n 0, 1) := dk_42 (dk_at dksX0_isClassSign_0 13 rfl rfl)
theorem dX0_isClassSign_14 : decode cX0_isClassSign 14 = .ok (.getfield 180, 3) := dk_180 0 180 (dk_at dksX0_isClassSign_0 14 rfl rfl)
theorem dX0_isClassSign_17 : decode cX0_isClassSign 17 = .ok (.iconst 3, 1) := dk_6 (dk_at dksX0_isClassSign_0 17 rfl rfl)
theorem dX0_isClassSign_18 : decode cX0_isClassSign 18 = .ok (.if_icmp .lt 9, 3) := dk_161 0 9 (dk_at dksX0_isClassSign_0 18 rfl rfl)
theorem dX0_isClassSign_21 : decode cX0_isClassSign 21 = .ok (.iload_n 2, 1) := dk_28 (dk_at dksX0_isClassSign_0 21 rfl rfl)
theorem dX0_isClassSign_22 : decode cX0_isClassSign 22 = .ok (.bipush 59, 2) := dk_16 59 (dk_at dksX0_isClassSign_0 22 rfl rfl)
theorem dX0_isClassSign_24 : decode cX0_isClassSign 24 = .ok (.if_icmp .ne 35, 3) := dk_160 0 35 (dk_at dksX0_isClassSign_1 0 rfl rfl)
theorem dX0_isClassSign_27 : decode cX0_isClassSign 27 = .ok (.aload_n 0, 1) := dk_42 (dk_at dksX0_isClassSign_1 3 rfl rfl)
theorem dX0_isClassSign_28 : decode cX0_isClassSign 28 = .ok (.dup, 1) := dk_89 (dk_at dksX0_isClassSign_1 4 rfl rfl)
theorem dX0_isClassSign_29 : decode cX0_isClassSign 29 = .ok (.getfield 180, 3) := dk_180 0 180 (dk_at dksX0_isClassSign_1 5 rfl rfl)
theorem dX0_isClassSign_32 : decode cX0_isClassSign 32 = .ok (.iconst 1, 1) := dk_4 (dk_at dksX0_isClassSign_1 8 rfl rfl)
theorem dX0_isClassSign_33 : decode cX0_isClassSign 33 = .ok (.iadd, 1) := dk_96 (dk_at dksX0_isClassSign_1 9 rfl rfl)
theorem dX0_isClassSign_34 : decode cX0_isClassSign 34 = .ok (.putfield 180, 3) := dk_181 0 180 (dk_at dksX0_isClassSign_1 10 rfl rfl)
theorem dX0_isClassSign_37 : decode cX0_isClassSign 37 = .ok (.aload_n 0, 1) := dk_42 (dk_at dksX0_isClassSign_1 13 rfl rfl)
theorem dX0_isClassSign_38 : decode cX0_isClassSign 38 = .ok (.iconst 0, 1) := dk_3 (dk_at dksX0_isClassSign_1 14 rfl rfl)
theorem dX0_isClassSign_39 : decode cX0_isClassSign 39 = .ok (.putfield 177, 3) := dk_181 0 177 (dk_at dksX0_isClassSign_1 15 rfl rfl)
theorem dX0_isClassSign_42 : decode cX0_isClassSign 42 = .ok (.aload_n 0, 1) := dk_42 (dk_at dksX0_isClassSign_1 18 rfl rfl)
theorem dX0_isClassSign_43 : decode cX0_isClassSign 43 = .ok (.iload_n 2, 1) := dk_28 (dk_at dksX0_isClassSign_1 19 rfl rfl)
theorem dX0_isClassSign_44 : decode cX0_isClassSign 44 = .ok (.bipush 59, 2) := dk_16 59 (dk_at dksX0_isClassSign_1 20 rfl rfl)
theorem dX0_isClassSign_46 : decode cX0_isClassSign 46 = .ok (.if_icmp .ne 7, 3) := dk_160 0 7 (dk_at dksX0_isClassSign_2 0 rfl rfl)
theorem dX0_isClassSign_49 : decode cX0_isClassSign 49 = .ok (.iload_n 1, 1) := dk_27 (dk_at dksX0_isClassSign_2 3 rfl rfl)
theorem dX0_isClassSign_50 : decode cX0_isClassSign 50 = .ok (.goto 4, 3) := dk_167 0 4 (dk_at dksX0_isClassSign_2 4 rfl rfl)
theorem dX0_isClassSign_53 : decode cX0_isClassSign 53 = .ok (.iconst (-1), 1) := dk_2 (dk_at dksX0_isClassSign_2 7 rfl rfl)
theorem dX0_isClassSign_54 : decode cX0_isClassSign 54 = .ok (.putfield 183, 3) := dk_181 0 183 (dk_at dksX0_isClassSign_2 8 rfl rfl)
theorem dX0_isClassSign_57 : decode cX0_isClassSign 57 = .ok (.iconst 1, 1) := dk_4 (dk_at dksX0_isClassSign_2 11 rfl rfl)
theorem dX0_isClassSign_58 : decode cX0_isClassSign 58 = .ok (.ireturn, 1) := dk_172 (dk_at dksX0_isClassSign_2 12 rfl rfl)
theorem dX0_isClassSign_59 : decode cX0_isClassSign 59 = .ok (.aload_n 0, 1) := dk_42 (dk_at dksX0_isClassSign_2 13 rfl rfl)
theorem dX0_isClassSign_60 : decode cX0_isClassSign 60 = .ok (.dup, 1) := dk_89 (dk_at dksX0_isClassSign_2 14 rfl rfl)
theorem dX0_isClassSign_61 : decode cX0_isClassSign 61 = .ok (.getfield 177, 3) := dk_180 0 177 (dk_at dksX0_isClassSign_2 15 rfl rfl)
theorem dX0_isClassSign_64 : decode cX0_isClassSign 64 = .ok (.iconst 1, 1) := dk_4 (dk_at dksX0_isClassSign_2 18 rfl rfl)
theorem dX0_isClassSign_65 : decode cX0_isClassSign 65 = .ok (.iadd, 1) := dk_96 (dk_at dksX0_isClassSign_2 19 rfl rfl)
theorem dX0_isClassSign_66 : decode cX0_isClassSign 66 = .ok (.putfield 177, 3) := dk_181 0 177 (dk_at dksX0_isClassSign_2 20 rfl rfl)
theorem dX0_isClassSign_69 : decode cX0_isClassSign 69 = .ok (.iload_n 2, 1) := dk_28 (dk_at dksX0_isClassSign_2 23 rfl rfl)
theorem dX0_isClassSign_70 : decode cX0_isClassSign 70 = .ok (.bipush 45, 2) := dk_16 45 (dk_at dksX0_isClassSign_3 0 rfl rfl)
theorem dX0_isClassSign_72 : decode cX0_isClassSign 72 = .ok (.if_icmp .ne 27, 3) := dk_160 0 27 (dk_at dksX0_isClassSign_3 2 rfl rfl)
theorem dX0_isClassSign_75 : decode cX0_isClassSign 75 = .ok (.aload_n 0, 1) := dk_42 (dk_at dksX0_isClassSign_3 5 rfl rfl)
theorem dX0_isClassSign_76 : decode cX0_isClassSign 76 = .ok (.dup, 1) := dk_89 (dk_at dksX0_isClassSign_3 6 rfl rfl)
theorem dX0_isClassSign_77 : decode cX0_isClassSign 77 = .ok (.getfield 177, 3) := dk_180 0 177 (dk_at dksX0_isClassSign_3 7 rfl rfl)
theorem dX0_isClassSign_80 : decode cX0_isClassSign 80 = .ok (.iconst 1, 1) := dk_4 (dk_at dksX0_isClassSign_3 10 rfl rfl)
theorem dX0_isClassSign_81 : decode cX0_isClassSign 81 = .ok (.iadd, 1) := dk_96 (dk_at dksX0_isClassSign_3 11 rfl rfl)
theorem dX0_isClassSign_82 : decode cX0_isClassSign 82 = .ok (.putfield 177, 3) := dk_181 0 177 (dk_at dksX0_isClassSign_3 12 rfl rfl)
theorem dX0_isClassSign_85 : decode cX0_isClassSign 85 = .ok (.aload_n 0, 1) := dk_42 (dk_at dksX0_isClassSign_3 15 rfl rfl)
theorem dX0_isClassSign_86 : decode cX0_isClassSign 86 = .ok (.getfield 177, 3) := dk_180 0 177 (dk_at dksX0_isClassSign_3 16 rfl rfl)
theorem dX0_isClassSign_89 : decode cX0_isClassSign 89 = .ok (.iconst 2, 1) := dk_5 (dk_at dksX0_isClassSign_3 19 rfl rfl)
theorem dX0_isClassSign_90 : decode cX0_isClassSign 90 = .ok (.if_icmp .ne 7, 3) := dk_160 0 7 (dk_at dksX0_isClassSign_3 20 rfl rfl)
theorem dX0_isClassSign_93 : decode cX0_isClassSign 93 = .ok (.iconst 1, 1) := dk_4 (dk_at dksX0_isClassSign_3 23 rfl rfl)
theorem dX0_isClassSign_94 : decode cX0_isClassSign 94 = .ok (.goto 4, 3) := dk_167 0 4 (dk_at dksX0_isClassSign_4 0 rfl rfl)
theorem dX0_isClassSign_97 : decode cX0_isClassSign 97 = .ok (.iconst 0, 1) := dk_3 (dk_at dksX0_isClassSign_4 3 rfl rfl)
theorem dX0_isClassSign_98 : decode cX0_isClassSign 98 = .ok (.ireturn, 1) := dk_172 (dk_at dksX0_isClassSign_4 4 rfl rfl)
theorem dX0_isClassSign_99 : decode cX0_isClassSign 99 = .ok (.aload_n 0, 1) := dk_42 (dk_at dksX0_isClassSign_4 5 rfl rfl)
theorem dX0_isClassSign_100 : decode cX0_isClassSign 100 = .ok (.getfield 177, 3) := dk_180 0 177 (dk_at dksX0_isClassSign_4 6 rfl rfl)
theorem dX0_isClassSign_103 : decode cX0_isClassSign 103 = .ok (.iconst 2, 1) := dk_5 (dk_at dksX0_isClassSign_4 9 rfl rfl)
theorem dX0_isClassSign_104 : decode cX0_isClassSign 104 = .ok (.if_icmp .gt 71, 3) := dk_163 0 71 (dk_at dksX0_isClassSign_4 10 rfl rfl)
theorem dX0_isClassSign_107 : decode cX0_isClassSign 107 = .ok (.iload_n 2, 1) := dk_28 (dk_at dksX0_isClassSign_4 13 rfl rfl)
theorem dX0_isClassSign_108 : decode cX0_isClassSign 108 = .ok (.i2l, 1) := dk_133 (dk_at dksX0_isClassSign_4 14 rfl rfl)
theorem dX0_isClassSign_109 : decode cX0_isClassSign 109 = .ok (.aload_n 0, 1) := dk_42 (dk_at dksX0_isClassSign_4 15 rfl rfl)
theorem dX0_isClassSign_110 : decode cX0_isClassSign 110 = .ok (.getfield 177, 3) := dk_180 0 177 (dk_at dksX0_isClassSign_4 16 rfl rfl)
theorem dX0_isClassSign_113 : decode cX0_isClassSign 113 = .ok (.iconst 1, 1) := dk_4 (dk_at dksX0_isClassSign_4 19 rfl rfl)
theorem dX0_isClassSign_114 : decode cX0_isClassSign 114 = .ok (.if_icmp .ne 9, 3) := dk_160 0 9 (dk_at dksX0_isClassSign_4 20 rfl rfl)
theorem dX0_isClassSign_117 : decode cX0_isClassSign 117 = .ok (.ldc2_w 186, 3) := dk_20 0 186 (dk_at dksX0_isClassSign_5 0 rfl rfl)
theorem dX0_isClassSign_120 : decode cX0_isClassSign 120 = .ok (.goto 14, 3) := dk_167 0 14 (dk_at dksX0_isClassSign_5 3 rfl rfl)
theorem dX0_isClassSign_123 : decode cX0_isClassSign 123 = .ok (.aload_n 0, 1) := dk_42 (dk_at dksX0_isClassSign_5 6 rfl rfl)
theorem dX0_isClassSign_124 : decode cX0_isClassSign 124 = .ok (.getfield 121, 3) := dk_180 0 121 (dk_at dksX0_isClassSign_5 7 rfl rfl)
theorem dX0_isClassSign_127 : decode cX0_isClassSign 127 = .ok (.iload_n 1, 1) := dk_27 (dk_at dksX0_isClassSign_5 10 rfl rfl)
theorem dX0_isClassSign_128 : decode cX0_isClassSign 128 = .ok (.iconst 1, 1) := dk_4 (dk_at dksX0_isClassSign_5 11 rfl rfl)
theorem dX0_isClassSign_129 : decode cX0_isClassSign 129 = .ok (.isub, 1) := dk_100 (dk_at dksX0_isClassSign_5 12 rfl rfl)
theorem dX0_isClassSign_130 : decode cX0_isClassSign 130 = .ok (.iaload, 1) := dk_46 (dk_at dksX0_isClassSign_5 13 rfl rfl)
theorem dX0_isClassSign_131 : decode cX0_isClassSign 131 = .ok (.iconst 1, 1) := dk_4 (dk_at dksX0_isClassSign_5 14 rfl rfl)
theorem dX0_isClassSign_132 : decode cX0_isClassSign 132 = .ok (.iadd, 1) := dk_96 (dk_at dksX0_isClassSign_5 15 rfl rfl)
theorem dX0_isClassSign_133 : decode cX0_isClassSign 133 = .ok (.i2l, 1) := dk_133 (dk_at dksX0_isClassSign_5 16 rfl rfl)
theorem dX0_isClassSign_134 : decode cX0_isClassSign 134 = .ok (.bipush 48, 2) := dk_16 48 (dk_at dksX0_isClassSign_5 17 rfl rfl)
theorem dX0_isClassSign_136 : decode cX0_isClassSign 136 = .ok (.aload_n 0, 1) := dk_42 (dk_at dksX0_isClassSign_5 19 rfl rfl)
theorem dX0_isClassSign_137 : decode cX0_isClassSign 137 = .ok (.getfield 180, 3) := dk_180 0 180 (dk_at dksX0_isClassSign_5 20 rfl rfl)
theorem dX0_isClassSign_140 : decode cX0_isClassSign 140 = .ok (.iadd, 1) := dk_96 (dk_at dksX0_isClassSign_5 23 rfl rfl)
theorem dX0_isClassSign_141 : decode cX0_isClassSign 141 = .ok (.iconst 1, 1) := dk_4 (dk_at dksX0_isClassSign_6 0 rfl rfl)
theorem dX0_isClassSign_142 : decode cX0_isClassSign 142 = .ok (.isub, 1) := dk_100 (dk_at dksX0_isClassSign_6 1 rfl rfl)
theorem dX0_isClassSign_143 : decode cX0_isClassSign 143 = .ok (.i2l, 1) := dk_133 (dk_at dksX0_isClassSign_6 2 rfl rfl)
theorem dX0_isClassSign_144 : decode cX0_isClassSign 144 = .ok (.invokestatic 170, 3) := dk_184 0 170 (dk_at dksX0_isClassSign_6 3 rfl rfl)
theorem dX0_isClassSign_147 : decode cX0_isClassSign 147 = .ok (.ifCond .eq 28, 3) := dk_153 0 28 (dk_at dksX0_isClassSign_6 6 rfl rfl)
theorem dX0_isClassSign_150 : decode cX0_isClassSign 150 = .ok (.aload_n 0, 1) := dk_42 (dk_at dksX0_isClassSign_6 9 rfl rfl)
theorem dX0_isClassSign_151 : decode cX0_isClassSign 151 = .ok (.getfield 177, 3) := dk_180 0 177 (dk_at dksX0_isClassSign_6 10 rfl rfl)
theorem dX0_isClassSign_154 : decode cX0_isClassSign 154 = .ok (.iconst 1, 1) := dk_4 (dk_at dksX0_isClassSign_6 13 rfl rfl)
theorem dX0_isClassSign_155 : decode cX0_isClassSign 155 = .ok (.if_icmp .eq 16, 3) := dk_159 0 16 (dk_at dksX0_isClassSign_6 14 rfl rfl)
theorem dX0_isClassSign_158 : decode cX0_isClassSign 158 = .ok (.aload_n 0, 1) := dk_42 (dk_at dksX0_isClassSign_6 17 rfl rfl)
theorem dX0_isClassSign_159 : decode cX0_isClassSign 159 = .ok (.getfield 121, 3) := dk_180 0 121 (dk_at dksX0_isClassSign_6 18 rfl rfl)
theorem dX0_isClassSign_162 : decode cX0_isClassSign 162 = .ok (.iload_n 1, 1) := dk_27 (dk_at dksX0_isClassSign_6 21 rfl rfl)
theorem dX0_isClassSign_163 : decode cX0_isClassSign 163 = .ok (.iconst 1, 1) := dk_4 (dk_at dksX0_isClassSign_6 22 rfl rfl)
theorem dX0_isClassSign_164 : decode cX0_isClassSign 164 = .ok (.isub, 1) := dk_100 (dk_at dksX0_isClassSign_6 23 rfl rfl)
theorem dX0_isClassSign_165 : decode cX0_isClassSign 165 = .ok (.iaload, 1) := dk_46 (dk_at dksX0_isClassSign_7 0 rfl rfl)
theorem dX0_isClassSign_166 : decode cX0_isClassSign 166 = .ok (.bipush 45, 2) := dk_16 45 (dk_at dksX0_isClassSign_7 1 rfl rfl)
theorem dX0_isClassSign_168 : decode cX0_isClassSign 168 = .ok (.if_icmp .eq 7, 3) := dk_159 0 7 (dk_at dksX0_isClassSign_7 3 rfl rfl)
theorem dX0_isClassSign_171 : decode cX0_isClassSign 171 = .ok (.iconst 1, 1) := dk_4 (dk_at dksX0_isClassSign_7 6 rfl rfl)
theorem dX0_isClassSign_172 : decode cX0_isClassSign 172 = .ok (.goto 4, 3) := dk_167 0 4 (dk_at dksX0_isClassSign_7 7 rfl rfl)
theorem dX0_isClassSign_175 : decode cX0_isClassSign 175 = .ok (.iconst 0, 1) := dk_3 (dk_at dksX0_isClassSign_7 10 rfl rfl)
theorem dX0_isClassSign_176 : decode cX0_isClassSign 176 = .ok (.ireturn, 1) := dk_172 (dk_at dksX0_isClassSign_7 11 rfl rfl)
abbrev cX0_isInstanceSign : ByteArray := prog_1_method_22_code
def yX0_isInstanceSign : MethodName := ⟨RX0, "isInstanceSign", "(II)Z"⟩
def dkwX0_isInstanceSign_4 : List UInt8 := [172]
abbrev dktX0_isInstanceSign_4 : List UInt8 := dkwX0_isInstanceSign_4 ++ []
def dkwX0_isInstanceSign_3 : List UInt8 := [154, 0, 19, 42, 180, 0, 188, 16, 6, 162, 0, 10, 42, 3, 181, 0, 177, 4, 172, 42, 28, 182, 0, 219]
abbrev dktX0_isInstanceSign_3 : List UInt8 := dkwX0_isInstanceSign_3 ++ dktX0_isInstanceSign_4
def dkwX0_isInstanceSign_2 : List UInt8 := [180, 0, 191, 158, 0, 9, 42, 28, 182, 0, 216, 172, 28, 16, 44, 160, 0, 28, 42, 180, 0, 200, 5, 112]
abbrev dktX0_isInstanceSign_2 : List UInt8 := dkwX0_isInstanceSign_2 ++ dktX0_isInstanceSign_3
def dkwX0_isInstanceSign_1 : List UInt8 := [181, 0, 177, 28, 133, 20, 0, 186, 16, 48, 42, 180, 0, 180, 96, 4, 100, 133, 184, 0, 170, 172, 42]
abbrev dktX0_isInstanceSign_1 : List UInt8 := dkwX0_isInstanceSign_1 ++ dktX0_isInstanceSign_2
def dkwX0_isInstanceSign_0 : List UInt8 := [42, 180, 0, 177, 154, 0, 10, 42, 27, 28, 182, 0, 213, 172, 42, 180, 0, 177, 4, 160, 0, 27, 42, 5]
abbrev dktX0_isInstanceSign_0 : List UInt8 := dkwX0_isInstanceSign_0 ++ dktX0_isInstanceSign_1
theorem dksX0_isInstanceSign_0 : cX0_isInstanceSign.data.toList.drop 0 = dktX0_isInstanceSign_0 := by decide +kernel
theorem dksX0_isInstanceSign_1 : cX0_isInstanceSign.data.toList.drop 24 = dktX0_isInstanceSign_1 := dk_seg dksX0_isInstanceSign_0 24 rfl rfl
theorem dksX0_isInstanceSign_2 : cX0_isInstanceSign.data.toList.drop 47 = dktX0_isInstanceSign_2 := dk_seg dksX0_isInstanceSign_1 23 rfl rfl
theorem dksX0_isInstanceSign_3 : cX0_isInstanceSign.data.toList.drop 71 = dktX0_isInstanceSign_3 := dk_seg dksX0_isInstanceSign_2 24 rfl rfl
theorem dksX0_isInstanceSign_4 : cX0_isInstanceSign.data.toList.drop 95 = dktX0_isInstanceSign_4 := dk_seg dksX0_isInstanceSign_3 24 rfl rfl
theorem dX0_isInstanceSign_0 : decode cX0_isInstanceSign 0 = .ok (.aload_n 0, 1) := dk_42 (dk_at dksX0_isInstanceSign_0 0 rfl rfl)
theorem dX0_isInstanceSign_1 : decode cX0_isInstanceSign 1 = .ok (.getfield 177, 3) := dk_180 0 177 (dk_at dksX0_isInstanceSign_0 1 rfl rfl)
theorem dX0_isInstanceSign_4 : decode cX0_isInstanceSign 4 = .ok (.ifCond .ne 10, 3) := dk_154 0 10 (dk_at dksX0_isInstanceSign_0 4 rfl rfl)
theorem dX0_isInstanceSign_7 : decode cX0_isInstanceSign 7 = .ok (.aload_n 0, 1) := dk_42 (dk_at dksX0_isInstanceSign_0 7 rfl rfl)
theorem dX0_isInstanceSign_8 : decode cX0_isInstanceSign 8 = .ok (.iload_n 1, 1) := dk_27 (dk_at dksX0_isInstanceSign_0 8 rfl rfl)
theorem dX0_isInstanceSign_9 : decode cX0_isInstanceSign 9 = .ok (.iload_n 2, 1) := dk_28 (dk_at dksX0_isInstanceSign_0 9 rfl rfl)
theorem dX0_isInstanceSign_10 : decode cX0_isInstanceSign 10 = .ok (.invokevirtual 213, 3) := dk_182 0 213 (dk_at dksX0_isInstanceSign_0 10 rfl rfl)
theorem dX0_isInstanceSign_13 : decode cX0_isInstanceSign 13 = .ok (.ireturn, 1) := dk_172 (dk_at dksX0_isInstanceSign_0 13 rfl rfl)
theorem dX0_isInstanceSign_14 : decode cX0_isInstanceSign 14 = .ok (.aload_n 0, 1) := dk_42 (dk_at dksX0_isInstanceSign_0 14 rfl rfl)
theorem dX0_isInstanceSign_15 : decode cX0_isInstanceSign 15 = .ok (.getfield 177, 3) := dk_180 0 177 (dk_at dksX0_isInstanceSign_0 15 rfl rfl)
theorem dX0_isInstanceSign_18 : decode cX0_isInstanceSign 18 = .ok (.iconst 1, 1) := dk_4 (dk_at dksX0_isInstanceSign_0 18 rfl rfl)
theorem dX0_isInstanceSign_19 : decode cX0_isInstanceSign 19 = .ok (.if_icmp .ne 27, 3) := dk_160 0 27 (dk_at dksX0_isInstanceSign_0 19 rfl rfl)
theorem dX0_isInstanceSign_22 : decode cX0_isInstanceSign 22 = .ok (.aload_n 0, 1) := dk_42 (dk_at dksX0_isInstanceSign_0 22 rfl rfl)
theorem dX0_isInstanceSign_23 : decode cX0_isInstanceSign 23 = .ok (.iconst 2, 1) := dk_5 (dk_at dksX0_isInstanceSign_0 23 rfl rfl)
theorem dX0_isInstanceSign_24 : decode cX0_isInstanceSign 24 = .ok (.putfield 177, 3) := dk_181 0 177 (dk_at dksX0_isInstanceSign_1 0 rfl rfl)
theorem dX0_isInstanceSign_27 : decode cX0_isInstanceSign 27 = .ok (.iload_n 2, 1) := dk_28 (dk_at dksX0_isInstanceSign_1 3 rfl rfl)
theorem dX0_isInstanceSign_28 : decode cX0_isInstanceSign 28 = .ok (.i2l, 1) := dk_133 (dk_at dksX0_isInstanceSign_1 4 rfl rfl)
theorem dX0_isInstanceSign_29 : decode cX0_isInstanceSign 29 = .ok (.ldc2_w 186, 3) := dk_20 0 186 (dk_at dksX0_isInstanceSign_1 5 rfl rfl)
theorem dX0_isInstanceSign_32 : decode cX0_isInstanceSign 32 = .ok (.bipush 48, 2) := dk_16 48 (dk_at dksX0_isInstanceSign_1 8 rfl rfl)
theorem dX0_isInstanceSign_34 : decode cX0_isInstanceSign 34 = .ok (.aload_n 0, 1) := dk_42 (dk_at dksX0_isInstanceSign_1 10 rfl rfl)
theorem dX0_isInstanceSign_35 : decode cX0_isInstanceSign 35 = .ok (.getfield 180, 3) := dk_180 0 180 (dk_at dksX0_isInstanceSign_1 11 rfl rfl)
theorem dX0_isInstanceSign_38 : decode cX0_isInstanceSign 38 = .ok (.iadd, 1) := dk_96 (dk_at dksX0_isInstanceSign_1 14 rfl rfl)
theorem dX0_isInstanceSign_39 : decode cX0_isInstanceSign 39 = .ok (.iconst 1, 1) := dk_4 (dk_at dksX0_isInstanceSign_1 15 rfl rfl)
theorem dX0_isInstanceSign_40 : decode cX0_isInstanceSign 40 = .ok (.isub, 1) := dk_100 (dk_at dksX0_isInstanceSign_1 16 rfl rfl)
theorem dX0_isInstanceSign_41 : decode cX0_isInstanceSign 41 = .ok (.i2l, 1) := dk_133 (dk_at dksX0_isInstanceSign_1 17 rfl rfl)
theorem dX0_isInstanceSign_42 : decode cX0_isInstanceSign 42 = .ok (.invokestatic 170, 3) := dk_184 0 170 (dk_at dksX0_isInstanceSign_1 18 rfl rfl)
theorem dX0_isInstanceSign_45 : decode cX0_isInstanceSign 45 = .ok (.ireturn, 1) := dk_172 (dk_at dksX0_isInstanceSign_1 21 rfl rfl)
theorem dX0_isInstanceSign_46 : decode cX0_isInstanceSign 46 = .ok (.aload_n 0, 1) := dk_42 (dk_at dksX0_isInstanceSign_1 22 rfl rfl)
theorem dX0_isInstanceSign_47 : decode cX0_isInstanceSign 47 = .ok (.getfield 191, 3) := dk_180 0 191 (dk_at dksX0_isInstanceSign_2 0 rfl rfl)
theorem dX0_isInstanceSign_50 : decode cX0_isInstanceSign 50 = .ok (.ifCond .le 9, 3) := dk_158 0 9 (dk_at dksX0_isInstanceSign_2 3 rfl rfl)
theorem dX0_isInstanceSign_53 : decode cX0_isInstanceSign 53 = .ok (.aload_n 0, 1) := dk_42 (dk_at dksX0_isInstanceSign_2 6 rfl rfl)
theorem dX0_isInstanceSign_54 : decode cX0_isInstanceSign 54 = .ok (.iload_n 2, 1) := dk_28 (dk_at dksX0_isInstanceSign_2 7 rfl rfl)
theorem dX0_isInstanceSign_55 : decode cX0_isInstanceSign 55 = .ok (.invokevirtual 216, 3) := dk_182 0 216 (dk_at dksX0_isInstanceSign_2 8 rfl rfl)
theorem dX0_isInstanceSign_58 : decode cX0_isInstanceSign 58 = .ok (.ireturn, 1) := dk_172 (dk_at dksX0_isInstanceSign_2 11 rfl rfl)
theorem dX0_isInstanceSign_59 : decode cX0_isInstanceSign 59 = .ok (.iload_n 2, 1) := dk_28 (dk_at dksX0_isInstanceSign_2 12 rfl rfl)
theorem dX0_isInstanceSign_60 : decode cX0_isInstanceSign 60 = .ok (.bipush 44, 2) := dk_16 44 (dk_at dksX0_isInstanceSign_2 13 rfl rfl)
theorem dX0_isInstanceSign_62 : decode cX0_isInstanceSign 62 = .ok (.if_icmp .ne 28, 3) := dk_160 0 28 (dk_at dksX0_isInstanceSign_2 15 rfl rfl)
theorem dX0_isInstanceSign_65 : decode cX0_isInstanceSign 65 = .ok (.aload_n 0, 1) := dk_42 (dk_at dksX0_isInstanceSign_2 18 rfl rfl)
theorem dX0_isInstanceSign_66 : decode cX0_isInstanceSign 66 = .ok (.getfield 200, 3) := dk_180 0 200 (dk_at dksX0_isInstanceSign_2 19 rfl rfl)
theorem dX0_isInstanceSign_69 : decode cX0_isInstanceSign 69 = .ok (.iconst 2, 1) := dk_5 (dk_at dksX0_isInstanceSign_2 22 rfl rfl)
theorem dX0_isInstanceSign_70 : decode cX0_isInstanceSign 70 = .ok (.irem, 1) := dk_112 (dk_at dksX0_isInstanceSign_2 23 rfl rfl)
theorem dX0_isInstanceSign_71 : decode cX0_isInstanceSign 71 = .ok (.ifCond .ne 19, 3) := dk_154 0 19 (dk_at dksX0_isInstanceSign_3 0 rfl rfl)
theorem dX0_isInstanceSign_74 : decode cX0_isInstanceSign 74 = .ok (.aload_n 0, 1) := dk_42 (dk_at dksX0_isInstanceSign_3 3 rfl rfl)
theorem dX0_isInstanceSign_75 : decode cX0_isInstanceSign 75 = .ok (.getfield 188, 3) := dk_180 0 188 (dk_at dksX0_isInstanceSign_3 4 rfl rfl)
theorem dX0_isInstanceSign_78 : decode cX0_isInstanceSign 78 = .ok (.bipush 6, 2) := dk_16 6 (dk_at dksX0_isInstanceSign_3 7 rfl rfl)
theorem dX0_isInstanceSign_80 : decode cX0_isInstanceSign 80 = .ok (.if_icmp .ge 10, 3) := dk_162 0 10 (dk_at dksX0_isInstanceSign_3 9 rfl rfl)
theorem dX0_isInstanceSign_83 : decode cX0_isInstanceSign 83 = .ok (.aload_n 0, 1) := dk_42 (dk_at dksX0_isInstanceSign_3 12 rfl rfl)
theorem dX0_isInstanceSign_84 : decode cX0_isInstanceSign 84 = .ok (.iconst 0, 1) := dk_3 (dk_at dksX0_isInstanceSign_3 13 rfl rfl)
theorem dX0_isInstanceSign_85 : decode cX0_isInstanceSign 85 = .ok (.putfield 177, 3) := dk_181 0 177 (dk_at dksX0_isInstanceSign_3 14 rfl rfl)
theorem dX0_isInstanceSign_88 : decode cX0_isInstanceSign 88 = .ok (.iconst 1, 1) := dk_4 (dk_at dksX0_isInstanceSign_3 17 rfl rfl)
theorem dX0_isInstanceSign_89 : decode cX0_isInstanceSign 89 = .ok (.ireturn, 1) := dk_172 (dk_at dksX0_isInstanceSign_3 18 rfl rfl)
theorem dX0_isInstanceSign_90 : decode cX0_isInstanceSign 90 = .ok (.aload_n 0, 1) := dk_42 (dk_at dksX0_isInstanceSign_3 19 rfl rfl)
theorem dX0_isInstanceSign_91 : decode cX0_isInstanceSign 91 = .ok (.iload_n 2, 1) := dk_28 (dk_at dksX0_isInstanceSign_3 20 rfl rfl)
theorem dX0_isInstanceSign_92 : decode cX0_isInstanceSign 92 = .ok (.invokevirtual 219, 3) := dk_182 0 219 (dk_at dksX0_isInstanceSign_3 21 rfl rfl)
theorem dX0_isInstanceSign_95 : decode cX0_isInstanceSign 95 = .ok (.ireturn, 1) := dk_172 (dk_at dksX0_isInstanceSign_4 0 rfl rfl)
abbrev cX0_isBegun : ByteArray := prog_1_method_19_code
def yX0_isBegun : MethodName := ⟨RX0, "isBegun", "(II)Z"⟩
def dkwX0_isBegun_2 : List UInt8 := [184, 0, 203, 2, 159, 0, 7, 4, 167, 0, 4, 3, 172]
abbrev dktX0_isBegun_2 : List UInt8 := dkwX0_isBegun_2 ++ []
def dkwX0_isBegun_1 : List UInt8 := [181, 0, 191, 42, 3, 181, 0, 194, 42, 3, 181, 0, 197, 42, 3, 181, 0, 200, 42, 4, 181, 0, 177, 28]
abbrev dktX0_isBegun_1 : List UInt8 := dkwX0_isBegun_1 ++ dktX0_isBegun_2
def dkwX0_isBegun_0 : List UInt8 := [42, 180, 0, 124, 42, 180, 0, 188, 27, 79, 42, 89, 180, 0, 188, 4, 96, 181, 0, 188, 42, 4]
abbrev dktX0_isBegun_0 : List UInt8 := dkwX0_isBegun_0 ++ dktX0_isBegun_1
theorem dksX0_isBegun_0 : cX0_isBegun.data.toList.drop 0 = dktX0_isBegun_0 := by decide +kernel
theorem dksX0_isBegun_1 : cX0_isBegun.data.toList.drop 22 = dktX0_isBegun_1 := dk_seg dksX0_isBegun_0 22 rfl rfl
theorem dksX0_isBegun_2 : cX0_isBegun.data.toList.drop 46 = dktX0_isBegun_2 := dk_seg dksX0_isBegun_1 24 rfl rfl
theorem dX0_isBegun_0 : decode cX0_isBegun 0 = .ok (.aload_n 0, 1) := dk_42 (dk_at dksX0_isBegun_0 0 rfl rfl)
theorem dX0_isBegun_1 : decode cX0_isBegun 1 = .ok (.getfield 124, 3) := dk_180 0 124 (dk_at dksX0_isBegun_0 1 rfl rfl)
theorem dX0_isBegun_4 : decode cX0_isBegun 4 = .ok (.aload_n 0, 1) := dk_42 (dk_at dksX0_isBegun_0 4 rfl rfl)
theorem dX0_isBegun_5 : decode cX0_isBegun 5 = .ok (.getfield 188, 3) := dk_180 0 188 (dk_at dksX0_isBegun_0 5 rfl rfl)
theorem dX0_isBegun_8 : decode cX0_isBegun 8 = .ok (.iload_n 1, 1) := dk_27 (dk_at dksX0_isBegun_0 8 rfl rfl)
theorem dX0_isBegun_9 : decode cX0_isBegun 9 = .ok (.iastore, 1) := dk_79 (dk_at dksX0_isBegun_0 9 rfl rfl)
theorem dX0_isBegun_10 : decode cX0_isBegun 10 = .ok (.aload_n 0, 1) := dk_42 (dk_at dksX0_isBegun_0 10 rfl rfl)
theorem dX0_isBegun_11 : decode cX0_isBegun 11 = .ok (.dup, 1) := dk_89 (dk_at dksX0_isBegun_0 11 rfl rfl)
theorem dX0_isBegun_12 : decode cX0_isBegun 12 = .ok (.getfield 188, 3) := dk_180 0 188 (dk_at dksX0_isBegun_0 12 rfl rfl)
theorem dX0_isBegun_15 : decode cX0_isBegun 15 = .ok (.iconst 1, 1) := dk_4 (dk_at dksX0_isBegun_0 15 rfl rfl)
theorem dX0_isBegun_16 : decode cX0_isBegun 16 = .ok (.iadd, 1) := dk_96 (dk_at dksX0_isBegun_0 16 rfl rfl)
theorem dX0_isBegun_17 : decode cX0_isBegun 17 = .ok (.putfield 188, 3) := dk_181 0 188 (dk_at dksX0_isBegun_0 17 rfl rfl)
theorem dX0_isBegun_20 : decode cX0_isBegun 20 = .ok (.aload_n 0, 1) := dk_42 (dk_at dksX0_isBegun_0 20 rfl rfl)
theorem dX0_isBegun_21 : decode cX0_isBegun 21 = .ok (.iconst 1, 1) := dk_4 (dk_at dksX0_isBegun_0 21 rfl rfl)
theorem dX0_isBegun_22 : decode cX0_isBegun 22 = .ok (.putfield 191, 3) := dk_181 0 191 (dk_at dksX0_isBegun_1 0 rfl rfl)
theorem dX0_isBegun_25 : decode cX0_isBegun 25 = .ok (.aload_n 0, 1) := dk_42 (dk_at dksX0_isBegun_1 3 rfl rfl)
theorem dX0_isBegun_26 : decode cX0_isBegun 26 = .ok (.iconst 0, 1) := dk_3 (dk_at dksX0_isBegun_1 4 rfl rfl)
theorem dX0_isBegun_27 : decode cX0_isBegun 27 = .ok (.putfield 194, 3) := dk_181 0 194 (dk_at dksX0_isBegun_1 5 rfl rfl)
theorem dX0_isBegun_30 : decode cX0_isBegun 30 = .ok (.aload_n 0, 1) := dk_42 (dk_at dksX0_isBegun_1 8 rfl rfl)
theorem dX0_isBegun_31 : decode cX0_isBegun 31 = .ok (.iconst 0, 1) := dk_3 (dk_at dksX0_isBegun_1 9 rfl rfl)
theorem dX0_isBegun_32 : decode cX0_isBegun 32 = .ok (.putfield 197, 3) := dk_181 0 197 (dk_at dksX0_isBegun_1 10 rfl rfl)
theorem dX0_isBegun_35 : decode cX0_isBegun 35 = .ok (.aload_n 0, 1) := dk_42 (dk_at dksX0_isBegun_1 13 rfl rfl)
theorem dX0_isBegun_36 : decode cX0_isBegun 36 = .ok (.iconst 0, 1) := dk_3 (dk_at dksX0_isBegun_1 14 rfl rfl)
theorem dX0_isBegun_37 : decode cX0_isBegun 37 = .ok (.putfield 200, 3) := dk_181 0 200 (dk_at dksX0_isBegun_1 15 rfl rfl)
theorem dX0_isBegun_40 : decode cX0_isBegun 40 = .ok (.aload_n 0, 1) := dk_42 (dk_at dksX0_isBegun_1 18 rfl rfl)
theorem dX0_isBegun_41 : decode cX0_isBegun 41 = .ok (.iconst 1, 1) := dk_4 (dk_at dksX0_isBegun_1 19 rfl rfl)
theorem dX0_isBegun_42 : decode cX0_isBegun 42 = .ok (.putfield 177, 3) := dk_181 0 177 (dk_at dksX0_isBegun_1 20 rfl rfl)
theorem dX0_isBegun_45 : decode cX0_isBegun 45 = .ok (.iload_n 2, 1) := dk_28 (dk_at dksX0_isBegun_1 23 rfl rfl)
theorem dX0_isBegun_46 : decode cX0_isBegun 46 = .ok (.invokestatic 203, 3) := dk_184 0 203 (dk_at dksX0_isBegun_2 0 rfl rfl)
theorem dX0_isBegun_49 : decode cX0_isBegun 49 = .ok (.iconst (-1), 1) := dk_2 (dk_at dksX0_isBegun_2 3 rfl rfl)
theorem dX0_isBegun_50 : decode cX0_isBegun 50 = .ok (.if_icmp .eq 7, 3) := dk_159 0 7 (dk_at dksX0_isBegun_2 4 rfl rfl)
theorem dX0_isBegun_53 : decode cX0_isBegun 53 = .ok (.iconst 1, 1) := dk_4 (dk_at dksX0_isBegun_2 7 rfl rfl)
theorem dX0_isBegun_54 : decode cX0_isBegun 54 = .ok (.goto 4, 3) := dk_167 0 4 (dk_at dksX0_isBegun_2 8 rfl rfl)
theorem dX0_isBegun_57 : decode cX0_isBegun 57 = .ok (.iconst 0, 1) := dk_3 (dk_at dksX0_isBegun_2 11 rfl rfl)
theorem dX0_isBegun_58 : decode cX0_isBegun 58 = .ok (.ireturn, 1) := dk_172 (dk_at dksX0_isBegun_2 12 rfl rfl)
abbrev cX0_kindOf : ByteArray := prog_1_method_17_code
def yX0_kindOf : MethodName := ⟨RX0, "kindOf", "(I)I"⟩
def dkwX0_kindOf_2 : List UInt8 := [3, 172, 4, 172, 5, 172, 6, 172, 7, 172, 2, 172]
abbrev dktX0_kindOf_2 : List UInt8 := dkwX0_kindOf_2 ++ []
def dkwX0_kindOf_1 : List UInt8 := [171, 0, 0, 0, 0, 0, 61, 0, 0, 0, 5, 0, 0, 0, 100, 0, 0, 0, 53, 0, 0, 0, 102, 0, 0, 0, 57, 0, 0, 0, 104, 0, 0, 0, 55, 0, 0, 0, 110, 0, 0, 0, 51, 0, 0, 0, 115, 0, 0, 0, 59]
abbrev dktX0_kindOf_1 : List UInt8 := dkwX0_kindOf_1 ++ dktX0_kindOf_2
def dkwX0_kindOf_0 : List UInt8 := [26]
abbrev dktX0_kindOf_0 : List UInt8 := dkwX0_kindOf_0 ++ dktX0_kindOf_1
theorem dksX0_kindOf_0 : cX0_kindOf.data.toList.drop 0 = dktX0_kindOf_0 := by decide +kernel
theorem dksX0_kindOf_1 : cX0_kindOf.data.toList.drop 1 = dktX0_kindOf_1 := dk_seg dksX0_kindOf_0 1 rfl rfl
theorem dksX0_kindOf_2 : cX0_kindOf.data.toList.drop 52 = dktX0_kindOf_2 := dk_seg dksX0_kindOf_1 51 rfl rfl
theorem dX0_kindOf_0 : decode cX0_kindOf 0 = .ok (.iload_n 0, 1) := dk_26 (dk_at dksX0_kindOf_0 0 rfl rfl)
theorem dX0_kindOf_1 : decode cX0_kindOf 1 = .ok (.lookupswitch 61 #[(100, 53), (102, 57), (104, 55), (110, 51), (115, 59)], 51) := by decide +kernel
theorem dX0_kindOf_52 : decode cX0_kindOf 52 = .ok (.iconst 0, 1) := dk_3 (dk_at dksX0_kindOf_2 0 rfl rfl)
theorem dX0_kindOf_53 : decode cX0_kindOf 53 = .ok (.ireturn, 1) := dk_172 (dk_at dksX0_kindOf_2 1 rfl rfl)
theorem dX0_kindOf_54 : decode cX0_kindOf 54 = .ok (.iconst 1, 1) := dk_4 (dk_at dksX0_kindOf_2 2 rfl rfl)
theorem dX0_kindOf_55 : decode cX0_kindOf 55 = .ok (.ireturn, 1) := dk_172 (dk_at dksX0_kindOf_2 3 rfl rfl)
theorem dX0_kindOf_56 : decode cX0_kindOf 56 = .ok (.iconst 2, 1) := dk_5 (dk_at dksX0_kindOf_2 4 rfl rfl)
theorem dX0_kindOf_57 : decode cX0_kindOf 57 = .ok (.ireturn, 1) := dk_172 (dk_at dksX0_kindOf_2 5 rfl rfl)
theorem dX0_kindOf_58 : decode cX0_kindOf 58 = .ok (.iconst 3, 1) := dk_6 (dk_at dksX0_kindOf_2 6 rfl rfl)
theorem dX0_kindOf_59 : decode cX0_kindOf 59 = .ok (.ireturn, 1) := dk_172 (dk_at dksX0_kindOf_2 7 rfl rfl)
theorem dX0_kindOf_60 : decode cX0_kindOf 60 = .ok (.iconst 4, 1) := dk_7 (dk_at dksX0_kindOf_2 8 rfl rfl)
theorem dX0_kindOf_61 : decode cX0_kindOf 61 = .ok (.ireturn, 1) := dk_172 (dk_at dksX0_kindOf_2 9 rfl rfl)
theorem dX0_kindOf_62 : decode cX0_kindOf 62 = .ok (.iconst (-1), 1) := dk_2 (dk_at dksX0_kindOf_2 10 rfl rfl)
theorem dX0_kindOf_63 : decode cX0_kindOf 63 = .ok (.ireturn, 1) := dk_172 (dk_at dksX0_kindOf_2 11 rfl rfl)
abbrev cX0_isHeadSign : ByteArray := prog_1_method_20_code
def yX0_isHeadSign : MethodName := ⟨RX0, "isHeadSign", "(I)Z"⟩
def dkwX0_isHeadSign_3 : List UInt8 := [163, 0, 7, 4, 167, 0, 4, 3, 172]
abbrev dktX0_isHeadSign_3 : List UInt8 := dkwX0_isHeadSign_3 ++ []
def dkwX0_isHeadSign_2 : List UInt8 := [3, 128, 181, 0, 197, 27, 184, 0, 206, 153, 0, 20, 42, 180, 0, 194, 42, 180, 0, 191, 96, 8]
abbrev dktX0_isHeadSign_2 : List UInt8 := dkwX0_isHeadSign_2 ++ dktX0_isHeadSign_3
def dkwX0_isHeadSign_1 : List UInt8 := [181, 0, 191, 42, 89, 180, 0, 197, 27, 184, 0, 7, 153, 0, 12, 4, 27, 16, 120, 100, 120, 167, 0, 4]
abbrev dktX0_isHeadSign_1 : List UInt8 := dkwX0_isHeadSign_1 ++ dktX0_isHeadSign_2
def dkwX0_isHeadSign_0 : List UInt8 := [42, 89, 180, 0, 194, 4, 96, 181, 0, 194, 42, 89, 180, 0, 191, 27, 184, 0, 1, 4, 100, 96]
abbrev dktX0_isHeadSign_0 : List UInt8 := dkwX0_isHeadSign_0 ++ dktX0_isHeadSign_1
theorem dksX0_isHeadSign_0 : cX0_isHeadSign.data.toList.drop 0 = dktX0_isHeadSign_0 := by decide +kernel
theorem dksX0_isHeadSign_1 : cX0_isHeadSign.data.toList.drop 22 = dktX0_isHeadSign_1 := dk_seg dksX0_isHeadSign_0 22 rfl rfl
theorem dksX0_isHeadSign_2 : cX0_isHeadSign.data.toList.drop 46 = dktX0_isHeadSign_2 := dk_seg dksX0_isHeadSign_1 24 rfl rfl
theorem dksX0_isHeadSign_3 : cX0_isHeadSign.data.toList.drop 68 = dktX0_isHeadSign_3 := dk_seg dksX0_isHeadSign_2 22 rfl rfl
theorem dX0_isHeadSign_0 : decode cX0_isHeadSign 0 = .ok (.aload_n 0, 1) := dk_42 (dk_at dksX0_isHeadSign_0 0 rfl rfl)
theorem dX0_isHeadSign_1 : decode cX0_isHeadSign 1 = .ok (.dup, 1) := dk_89 (dk_at dksX0_isHeadSign_0 1 rfl rfl)
theorem dX0_isHeadSign_2 : decode cX0_isHeadSign 2 = .ok (.getfield 194, 3) := dk_180 0 194 (dk_at dksX0_isHeadSign_0 2 rfl rfl)
theorem dX0_isHeadSign_5 : decode cX0_isHeadSign 5 = .ok (.iconst 1, 1) := dk_4 (dk_at dksX0_isHeadSign_0 5 rfl rfl)
theorem dX0_isHeadSign_6 : decode cX0_isHeadSign 6 = .ok (.iadd, 1) := dk_96 (dk_at dksX0_isHeadSign_0 6 rfl rfl)
theorem dX0_isHeadSign_7 : decode cX0_isHeadSign 7 = .ok (.putfield 194, 3) := dk_181 0 194 (dk_at dksX0_isHeadSign_0 7 rfl rfl)
theorem dX0_isHeadSign_10 : decode cX0_isHeadSign 10 = .ok (.aload_n 0, 1) := dk_42 (dk_at dksX0_isHeadSign_0 10 rfl rfl)
theorem dX0_isHeadSign_11 : decode cX0_isHeadSign 11 = .ok (.dup, 1) := dk_89 (dk_at dksX0_isHeadSign_0 11 rfl rfl)
theorem dX0_isHeadSign_12 : decode cX0_isHeadSign 12 = .ok (.getfield 191, 3) := dk_180 0 191 (dk_at dksX0_isHeadSign_0 12 rfl rfl)
theorem dX0_isHeadSign_15 : decode cX0_isHeadSign 15 = .ok (.iload_n 1, 1) := dk_27 (dk_at dksX0_isHeadSign_0 15 rfl rfl)
theorem dX0_isHeadSign_16 : decode cX0_isHeadSign 16 = .ok (.invokestatic 1, 3) := dk_184 0 1 (dk_at dksX0_isHeadSign_0 16 rfl rfl)
theorem dX0_isHeadSign_19 : decode cX0_isHeadSign 19 = .ok (.iconst 1, 1) := dk_4 (dk_at dksX0_isHeadSign_0 19 rfl rfl)
theorem dX0_isHeadSign_20 : decode cX0_isHeadSign 20 = .ok (.isub, 1) := dk_100 (dk_at dksX0_isHeadSign_0 20 rfl rfl)
theorem dX0_isHeadSign_21 : decode cX0_isHeadSign 21 = .ok (.iadd, 1) := dk_96 (dk_at dksX0_isHeadSign_0 21 rfl rfl)
theorem dX0_isHeadSign_22 : decode cX0_isHeadSign 22 = .ok (.putfield 191, 3) := dk_181 0 191 (dk_at dksX0_isHeadSign_1 0 rfl rfl)
theorem dX0_isHeadSign_25 : decode cX0_isHeadSign 25 = .ok (.aload_n 0, 1) := dk_42 (dk_at dksX0_isHeadSign_1 3 rfl rfl)
theorem dX0_isHeadSign_26 : decode cX0_isHeadSign 26 = .ok (.dup, 1) := dk_89 (dk_at dksX0_isHeadSign_1 4 rfl rfl)
theorem dX0_isHeadSign_27 : decode cX0_isHeadSign 27 = .ok (.getfield 197, 3) := dk_180 0 197 (dk_at dksX0_isHeadSign_1 5 rfl rfl)
theorem dX0_isHeadSign_30 : decode cX0_isHeadSign 30 = .ok (.iload_n 1, 1) := dk_27 (dk_at dksX0_isHeadSign_1 8 rfl rfl)
theorem dX0_isHeadSign_31 : decode cX0_isHeadSign 31 = .ok (.invokestatic 7, 3) := dk_184 0 7 (dk_at dksX0_isHeadSign_1 9 rfl rfl)
theorem dX0_isHeadSign_34 : decode cX0_isHeadSign 34 = .ok (.ifCond .eq 12, 3) := dk_153 0 12 (dk_at dksX0_isHeadSign_1 12 rfl rfl)
theorem dX0_isHeadSign_37 : decode cX0_isHeadSign 37 = .ok (.iconst 1, 1) := dk_4 (dk_at dksX0_isHeadSign_1 15 rfl rfl)
theorem dX0_isHeadSign_38 : decode cX0_isHeadSign 38 = .ok (.iload_n 1, 1) := dk_27 (dk_at dksX0_isHeadSign_1 16 rfl rfl)
theorem dX0_isHeadSign_39 : decode cX0_isHeadSign 39 = .ok (.bipush 120, 2) := dk_16 120 (dk_at dksX0_isHeadSign_1 17 rfl rfl)
theorem dX0_isHeadSign_41 : decode cX0_isHeadSign 41 = .ok (.isub, 1) := dk_100 (dk_at dksX0_isHeadSign_1 19 rfl rfl)
theorem dX0_isHeadSign_42 : decode cX0_isHeadSign 42 = .ok (.ishl, 1) := dk_120 (dk_at dksX0_isHeadSign_1 20 rfl rfl)
theorem dX0_isHeadSign_43 : decode cX0_isHeadSign 43 = .ok (.goto 4, 3) := dk_167 0 4 (dk_at dksX0_isHeadSign_1 21 rfl rfl)
theorem dX0_isHeadSign_46 : decode cX0_isHeadSign 46 = .ok (.iconst 0, 1) := dk_3 (dk_at dksX0_isHeadSign_2 0 rfl rfl)
theorem dX0_isHeadSign_47 : decode cX0_isHeadSign 47 = .ok (.ior, 1) := dk_128 (dk_at dksX0_isHeadSign_2 1 rfl rfl)
theorem dX0_isHeadSign_48 : decode cX0_isHeadSign 48 = .ok (.putfield 197, 3) := dk_181 0 197 (dk_at dksX0_isHeadSign_2 2 rfl rfl)
theorem dX0_isHeadSign_51 : decode cX0_isHeadSign 51 = .ok (.iload_n 1, 1) := dk_27 (dk_at dksX0_isHeadSign_2 5 rfl rfl)
theorem dX0_isHeadSign_52 : decode cX0_isHeadSign 52 = .ok (.invokestatic 206, 3) := dk_184 0 206 (dk_at dksX0_isHeadSign_2 6 rfl rfl)
theorem dX0_isHeadSign_55 : decode cX0_isHeadSign 55 = .ok (.ifCond .eq 20, 3) := dk_153 0 20 (dk_at dksX0_isHeadSign_2 9 rfl rfl)
theorem dX0_isHeadSign_58 : decode cX0_isHeadSign 58 = .ok (.aload_n 0, 1) := dk_42 (dk_at dksX0_isHeadSign_2 12 rfl rfl)
theorem dX0_isHeadSign_59 : decode cX0_isHeadSign 59 = .ok (.getfield 194, 3) := dk_180 0 194 (dk_at dksX0_isHeadSign_2 13 rfl rfl)
theorem dX0_isHeadSign_62 : decode cX0_isHeadSign 62 = .ok (.aload_n 0, 1) := dk_42 (dk_at dksX0_isHeadSign_2 16 rfl rfl)
theorem dX0_isHeadSign_63 : decode cX0_isHeadSign 63 = .ok (.getfield 191, 3) := dk_180 0 191 (dk_at dksX0_isHeadSign_2 17 rfl rfl)
theorem dX0_isHeadSign_66 : decode cX0_isHeadSign 66 = .ok (.iadd, 1) := dk_96 (dk_at dksX0_isHeadSign_2 20 rfl rfl)
theorem dX0_isHeadSign_67 : decode cX0_isHeadSign 67 = .ok (.iconst 5, 1) := dk_8 (dk_at dksX0_isHeadSign_2 21 rfl rfl)
theorem dX0_isHeadSign_68 : decode cX0_isHeadSign 68 = .ok (.if_icmp .gt 7, 3) := dk_163 0 7 (dk_at dksX0_isHeadSign_3 0 rfl rfl)
theorem dX0_isHeadSign_71 : decode cX0_isHeadSign 71 = .ok (.iconst 1, 1) := dk_4 (dk_at dksX0_isHeadSign_3 3 rfl rfl)
theorem dX0_isHeadSign_72 : decode cX0_isHeadSign 72 = .ok (.goto 4, 3) := dk_167 0 4 (dk_at dksX0_isHeadSign_3 4 rfl rfl)
theorem dX0_isHeadSign_75 : decode cX0_isHeadSign 75 = .ok (.iconst 0, 1) := dk_3 (dk_at dksX0_isHeadSign_3 7 rfl rfl)
theorem dX0_isHeadSign_76 : decode cX0_isHeadSign 76 = .ok (.ireturn, 1) := dk_172 (dk_at dksX0_isHeadSign_3 8 rfl rfl)
abbrev cX0_partsOf : ByteArray := prog_1_method_3_code
def yX0_partsOf : MethodName := ⟨RX0, "partsOf", "(I)I"⟩
def dkwX0_partsOf_0 : List UInt8 := [26, 16, 108, 160, 0, 7, 4, 167, 0, 14, 26, 16, 112, 160, 0, 7, 5, 167, 0, 4, 3, 172]
abbrev dktX0_partsOf_0 : List UInt8 := dkwX0_partsOf_0 ++ []
theorem dksX0_partsOf_0 : cX0_partsOf.data.toList.drop 0 = dktX0_partsOf_0 := by decide +kernel
theorem dX0_partsOf_0 : decode cX0_partsOf 0 = .ok (.iload_n 0, 1) := dk_26 (dk_at dksX0_partsOf_0 0 rfl rfl)
theorem dX0_partsOf_1 : decode cX0_partsOf 1 = .ok (.bipush 108, 2) := dk_16 108 (dk_at dksX0_partsOf_0 1 rfl rfl)
theorem dX0_partsOf_3 : decode cX0_partsOf 3 = .ok (.if_icmp .ne 7, 3) := dk_160 0 7 (dk_at dksX0_partsOf_0 3 rfl rfl)
theorem dX0_partsOf_6 : decode cX0_partsOf 6 = .ok (.iconst 1, 1) := dk_4 (dk_at dksX0_partsOf_0 6 rfl rfl)
theorem dX0_partsOf_7 : decode cX0_partsOf 7 = .ok (.goto 14, 3) := dk_167 0 14 (dk_at dksX0_partsOf_0 7 rfl rfl)
theorem dX0_partsOf_10 : decode cX0_partsOf 10 = .ok (.iload_n 0, 1) := dk_26 (dk_at dksX0_partsOf_0 10 rfl rfl)
theorem dX0_partsOf_11 : decode cX0_partsOf 11 = .ok (.bipush 112, 2) := dk_16 112 (dk_at dksX0_partsOf_0 11 rfl rfl)
theorem dX0_partsOf_13 : decode cX0_partsOf 13 = .ok (.if_icmp .ne 7, 3) := dk_160 0 7 (dk_at dksX0_partsOf_0 13 rfl rfl)
theorem dX0_partsOf_16 : decode cX0_partsOf 16 = .ok (.iconst 2, 1) := dk_5 (dk_at dksX0_partsOf_0 16 rfl rfl)
theorem dX0_partsOf_17 : decode cX0_partsOf 17 = .ok (.goto 4, 3) := dk_167 0 4 (dk_at dksX0_partsOf_0 17 rfl rfl)
theorem dX0_partsOf_20 : decode cX0_partsOf 20 = .ok (.iconst 0, 1) := dk_3 (dk_at dksX0_partsOf_0 20 rfl rfl)
theorem dX0_partsOf_21 : decode cX0_partsOf 21 = .ok (.ireturn, 1) := dk_172 (dk_at dksX0_partsOf_0 21 rfl rfl)
abbrev cX0_isVariableSign : ByteArray := prog_1_method_4_code
def yX0_isVariableSign : MethodName := ⟨RX0, "isVariableSign", "(I)Z"⟩
def dkwX0_isVariableSign_0 : List UInt8 := [26, 16, 120, 159, 0, 9, 26, 16, 121, 160, 0, 7, 4, 167, 0, 4, 3, 172]
abbrev dktX0_isVariableSign_0 : List UInt8 := dkwX0_isVariableSign_0 ++ []
theorem dksX0_isVariableSign_0 : cX0_isVariableSign.data.toList.drop 0 = dktX0_isVariableSign_0 := by decide +kernel
theorem dX0_isVariableSign_0 : decode cX0_isVariableSign 0 = .ok (.iload_n 0, 1) := dk_26 (dk_at dksX0_isVariableSign_0 0 rfl rfl)
theorem dX0_isVariableSign_1 : decode cX0_isVariableSign 1 = .ok (.bipush 120, 2) := dk_16 120 (dk_at dksX0_isVariableSign_0 1 rfl rfl)
theorem dX0_isVariableSign_3 : decode cX0_isVariableSign 3 = .ok (.if_icmp .eq 9, 3) := dk_159 0 9 (dk_at dksX0_isVariableSign_0 3 rfl rfl)
theorem dX0_isVariableSign_6 : decode cX0_isVariableSign 6 = .ok (.iload_n 0, 1) := dk_26 (dk_at dksX0_isVariableSign_0 6 rfl rfl)
theorem dX0_isVariableSign_7 : decode cX0_isVariableSign 7 = .ok (.bipush 121, 2) := dk_16 121 (dk_at dksX0_isVariableSign_0 7 rfl rfl)
theorem dX0_isVariableSign_9 : decode cX0_isVariableSign 9 = .ok (.if_icmp .ne 7, 3) := dk_160 0 7 (dk_at dksX0_isVariableSign_0 9 rfl rfl)
theorem dX0_isVariableSign_12 : decode cX0_isVariableSign 12 = .ok (.iconst 1, 1) := dk_4 (dk_at dksX0_isVariableSign_0 12 rfl rfl)
theorem dX0_isVariableSign_13 : decode cX0_isVariableSign 13 = .ok (.goto 4, 3) := dk_167 0 4 (dk_at dksX0_isVariableSign_0 13 rfl rfl)
theorem dX0_isVariableSign_16 : decode cX0_isVariableSign 16 = .ok (.iconst 0, 1) := dk_3 (dk_at dksX0_isVariableSign_0 16 rfl rfl)
theorem dX0_isVariableSign_17 : decode cX0_isVariableSign 17 = .ok (.ireturn, 1) := dk_172 (dk_at dksX0_isVariableSign_0 17 rfl rfl)
abbrev cX0_isTypeSign : ByteArray := prog_1_method_5_code
def yX0_isTypeSign : MethodName := ⟨RX0, "isTypeSign", "(I)Z"⟩
def dkwX0_isTypeSign_1 : List UInt8 := [153, 0, 7, 4, 167, 0, 4, 3, 172]
abbrev dktX0_isTypeSign_1 : List UInt8 := dkwX0_isTypeSign_1 ++ []
def dkwX0_isTypeSign_0 : List UInt8 := [26, 16, 105, 159, 0, 23, 26, 16, 98, 159, 0, 17, 26, 184, 0, 1, 157, 0, 10, 26, 184, 0, 7]
abbrev dktX0_isTypeSign_0 : List UInt8 := dkwX0_isTypeSign_0 ++ dktX0_isTypeSign_1
theorem dksX0_isTypeSign_0 : cX0_isTypeSign.data.toList.drop 0 = dktX0_isTypeSign_0 := by decide +kernel
theorem dksX0_isTypeSign_1 : cX0_isTypeSign.data.toList.drop 23 = dktX0_isTypeSign_1 := dk_seg dksX0_isTypeSign_0 23 rfl rfl
theorem dX0_isTypeSign_0 : decode cX0_isTypeSign 0 = .ok (.iload_n 0, 1) := dk_26 (dk_at dksX0_isTypeSign_0 0 rfl rfl)
theorem dX0_isTypeSign_1 : decode cX0_isTypeSign 1 = .ok (.bipush 105, 2) := dk_16 105 (dk_at dksX0_isTypeSign_0 1 rfl rfl)
theorem dX0_isTypeSign_3 : decode cX0_isTypeSign 3 = .ok (.if_icmp .eq 23, 3) := dk_159 0 23 (dk_at dksX0_isTypeSign_0 3 rfl rfl)
theorem dX0_isTypeSign_6 : decode cX0_isTypeSign 6 = .ok (.iload_n 0, 1) := dk_26 (dk_at dksX0_isTypeSign_0 6 rfl rfl)
theorem dX0_isTypeSign_7 : decode cX0_isTypeSign 7 = .ok (.bipush 98, 2) := dk_16 98 (dk_at dksX0_isTypeSign_0 7 rfl rfl)
theorem dX0_isTypeSign_9 : decode cX0_isTypeSign 9 = .ok (.if_icmp .eq 17, 3) := dk_159 0 17 (dk_at dksX0_isTypeSign_0 9 rfl rfl)
theorem dX0_isTypeSign_12 : decode cX0_isTypeSign 12 = .ok (.iload_n 0, 1) := dk_26 (dk_at dksX0_isTypeSign_0 12 rfl rfl)
theorem dX0_isTypeSign_13 : decode cX0_isTypeSign 13 = .ok (.invokestatic 1, 3) := dk_184 0 1 (dk_at dksX0_isTypeSign_0 13 rfl rfl)
theorem dX0_isTypeSign_16 : decode cX0_isTypeSign 16 = .ok (.ifCond .gt 10, 3) := dk_157 0 10 (dk_at dksX0_isTypeSign_0 16 rfl rfl)
theorem dX0_isTypeSign_19 : decode cX0_isTypeSign 19 = .ok (.iload_n 0, 1) := dk_26 (dk_at dksX0_isTypeSign_0 19 rfl rfl)
theorem dX0_isTypeSign_20 : decode cX0_isTypeSign 20 = .ok (.invokestatic 7, 3) := dk_184 0 7 (dk_at dksX0_isTypeSign_0 20 rfl rfl)
theorem dX0_isTypeSign_23 : decode cX0_isTypeSign 23 = .ok (.ifCond .eq 7, 3) := dk_153 0 7 (dk_at dksX0_isTypeSign_1 0 rfl rfl)
theorem dX0_isTypeSign_26 : decode cX0_isTypeSign 26 = .ok (.iconst 1, 1) := dk_4 (dk_at dksX0_isTypeSign_1 3 rfl rfl)
theorem dX0_isTypeSign_27 : decode cX0_isTypeSign 27 = .ok (.goto 4, 3) := dk_167 0 4 (dk_at dksX0_isTypeSign_1 4 rfl rfl)
theorem dX0_isTypeSign_30 : decode cX0_isTypeSign 30 = .ok (.iconst 0, 1) := dk_3 (dk_at dksX0_isTypeSign_1 7 rfl rfl)
theorem dX0_isTypeSign_31 : decode cX0_isTypeSign 31 = .ok (.ireturn, 1) := dk_172 (dk_at dksX0_isTypeSign_1 8 rfl rfl)
abbrev cX0_isConditionSign : ByteArray := prog_1_method_21_code
def yX0_isConditionSign : MethodName := ⟨RX0, "isConditionSign", "(I)Z"⟩
def dkwX0_isConditionSign_3 : List UInt8 := [180, 0, 197, 27, 16, 120, 100, 184, 0, 209, 153, 0, 7, 4, 167, 0, 4, 3, 172]
abbrev dktX0_isConditionSign_3 : List UInt8 := dkwX0_isConditionSign_3 ++ []
def dkwX0_isConditionSign_2 : List UInt8 := [100, 133, 184, 0, 170, 153, 0, 7, 4, 167, 0, 4, 3, 172, 27, 184, 0, 7, 153, 0, 21, 42]
abbrev dktX0_isConditionSign_2 : List UInt8 := dkwX0_isConditionSign_2 ++ dktX0_isConditionSign_3
def dkwX0_isConditionSign_1 : List UInt8 := [153, 0, 36, 42, 180, 0, 200, 7, 162, 0, 28, 27, 133, 20, 0, 186, 16, 48, 42, 180, 0, 180, 96, 4]
abbrev dktX0_isConditionSign_1 : List UInt8 := dkwX0_isConditionSign_1 ++ dktX0_isConditionSign_2
def dkwX0_isConditionSign_0 : List UInt8 := [42, 89, 180, 0, 200, 4, 96, 181, 0, 200, 42, 180, 0, 200, 5, 112, 4, 160, 0, 45, 42, 180, 0, 197]
abbrev dktX0_isConditionSign_0 : List UInt8 := dkwX0_isConditionSign_0 ++ dktX0_isConditionSign_1
theorem dksX0_isConditionSign_0 : cX0_isConditionSign.data.toList.drop 0 = dktX0_isConditionSign_0 := by decide +kernel
theorem dksX0_isConditionSign_1 : cX0_isConditionSign.data.toList.drop 24 = dktX0_isConditionSign_1 := dk_seg dksX0_isConditionSign_0 24 rfl rfl
theorem dksX0_isConditionSign_2 : cX0_isConditionSign.data.toList.drop 48 = dktX0_isConditionSign_2 := dk_seg dksX0_isConditionSign_1 24 rfl rfl
theorem dksX0_isConditionSign_3 : cX0_isConditionSign.data.toList.drop 70 = dktX0_isConditionSign_3 := dk_seg dksX0_isConditionSign_2 22 rfl rfl
theorem dX0_isConditionSign_0 : decode cX0_isConditionSign 0 = .ok (.aload_n 0, 1) := dk_42 (dk_at dksX0_isConditionSign_0 0 rfl rfl)
theorem dX0_isConditionSign_1 : decode cX0_isConditionSign 1 = .ok (.dup, 1) := dk_89 (dk_at dksX0_isConditionSign_0 1 rfl rfl)
theorem dX0_isConditionSign_2 : decode cX0_isConditionSign 2 = .ok (.getfield 200, 3) := dk_180 0 200 (dk_at dksX0_isConditionSign_0 2 rfl rfl)
theorem dX0_isConditionSign_5 : decode cX0_isConditionSign 5 = .ok (.iconst 1, 1) := dk_4 (dk_at dksX0_isConditionSign_0 5 rfl rfl)
theorem dX0_isConditionSign_6 : decode cX0_isConditionSign 6 = .ok (.iadd, 1) := dk_96 (dk_at dksX0_isConditionSign_0 6 rfl rfl)
theorem dX0_isConditionSign_7 : decode cX0_isConditionSign 7 = .ok (.putfield 200, 3) := dk_181 0 200 (dk_at dksX0_isConditionSign_0 7 rfl rfl)
theorem dX0_isConditionSign_10 : decode cX0_isConditionSign 10 = .ok (.aload_n 0, 1) := dk_42 (dk_at dksX0_isConditionSign_0 10 rfl rfl)
theorem dX0_isConditionSign_11 : decode cX0_isConditionSign 11 = .ok (.getfield 200, 3) := dk_180 0 200 (dk_at dksX0_isConditionSign_0 11 rfl rfl)
theorem dX0_isConditionSign_14 : decode cX0_isConditionSign 14 = .ok (.iconst 2, 1) := dk_5 (dk_at dksX0_isConditionSign_0 14 rfl rfl)
theorem dX0_isConditionSign_15 : decode cX0_isConditionSign 15 = .ok (.irem, 1) := dk_112 (dk_at dksX0_isConditionSign_0 15 rfl rfl)
theorem dX0_isConditionSign_16 : decode cX0_isConditionSign 16 = .ok (.iconst 1, 1) := dk_4 (dk_at dksX0_isConditionSign_0 16 rfl rfl)
theorem dX0_isConditionSign_17 : decode cX0_isConditionSign 17 = .ok (.if_icmp .ne 45, 3) := dk_160 0 45 (dk_at dksX0_isConditionSign_0 17 rfl rfl)
theorem dX0_isConditionSign_20 : decode cX0_isConditionSign 20 = .ok (.aload_n 0, 1) := dk_42 (dk_at dksX0_isConditionSign_0 20 rfl rfl)
theorem dX0_isConditionSign_21 : decode cX0_isConditionSign 21 = .ok (.getfield 197, 3) := dk_180 0 197 (dk_at dksX0_isConditionSign_0 21 rfl rfl)
theorem dX0_isConditionSign_24 : decode cX0_isConditionSign 24 = .ok (.ifCond .eq 36, 3) := dk_153 0 36 (dk_at dksX0_isConditionSign_1 0 rfl rfl)
theorem dX0_isConditionSign_27 : decode cX0_isConditionSign 27 = .ok (.aload_n 0, 1) := dk_42 (dk_at dksX0_isConditionSign_1 3 rfl rfl)
theorem dX0_isConditionSign_28 : decode cX0_isConditionSign 28 = .ok (.getfield 200, 3) := dk_180 0 200 (dk_at dksX0_isConditionSign_1 4 rfl rfl)
theorem dX0_isConditionSign_31 : decode cX0_isConditionSign 31 = .ok (.iconst 4, 1) := dk_7 (dk_at dksX0_isConditionSign_1 7 rfl rfl)
theorem dX0_isConditionSign_32 : decode cX0_isConditionSign 32 = .ok (.if_icmp .ge 28, 3) := dk_162 0 28 (dk_at dksX0_isConditionSign_1 8 rfl rfl)
theorem dX0_isConditionSign_35 : decode cX0_isConditionSign 35 = .ok (.iload_n 1, 1) := dk_27 (dk_at dksX0_isConditionSign_1 11 rfl rfl)
theorem dX0_isConditionSign_36 : decode cX0_isConditionSign 36 = .ok (.i2l, 1) := dk_133 (dk_at dksX0_isConditionSign_1 12 rfl rfl)
theorem dX0_isConditionSign_37 : decode cX0_isConditionSign 37 = .ok (.ldc2_w 186, 3) := dk_20 0 186 (dk_at dksX0_isConditionSign_1 13 rfl rfl)
theorem dX0_isConditionSign_40 : decode cX0_isConditionSign 40 = .ok (.bipush 48, 2) := dk_16 48 (dk_at dksX0_isConditionSign_1 16 rfl rfl)
theorem dX0_isConditionSign_42 : decode cX0_isConditionSign 42 = .ok (.aload_n 0, 1) := dk_42 (dk_at dksX0_isConditionSign_1 18 rfl rfl)
theorem dX0_isConditionSign_43 : decode cX0_isConditionSign 43 = .ok (.getfield 180, 3) := dk_180 0 180 (dk_at dksX0_isConditionSign_1 19 rfl rfl)
theorem dX0_isConditionSign_46 : decode cX0_isConditionSign 46 = .ok (.iadd, 1) := dk_96 (dk_at dksX0_isConditionSign_1 22 rfl rfl)
theorem dX0_isConditionSign_47 : decode cX0_isConditionSign 47 = .ok (.iconst 1, 1) := dk_4 (dk_at dksX0_isConditionSign_1 23 rfl rfl)
theorem dX0_isConditionSign_48 : decode cX0_isConditionSign 48 = .ok (.isub, 1) := dk_100 (dk_at dksX0_isConditionSign_2 0 rfl rfl)
theorem dX0_isConditionSign_49 : decode cX0_isConditionSign 49 = .ok (.i2l, 1) := dk_133 (dk_at dksX0_isConditionSign_2 1 rfl rfl)
theorem dX0_isConditionSign_50 : decode cX0_isConditionSign 50 = .ok (.invokestatic 170, 3) := dk_184 0 170 (dk_at dksX0_isConditionSign_2 2 rfl rfl)
theorem dX0_isConditionSign_53 : decode cX0_isConditionSign 53 = .ok (.ifCond .eq 7, 3) := dk_153 0 7 (dk_at dksX0_isConditionSign_2 5 rfl rfl)
theorem dX0_isConditionSign_56 : decode cX0_isConditionSign 56 = .ok (.iconst 1, 1) := dk_4 (dk_at dksX0_isConditionSign_2 8 rfl rfl)
theorem dX0_isConditionSign_57 : decode cX0_isConditionSign 57 = .ok (.goto 4, 3) := dk_167 0 4 (dk_at dksX0_isConditionSign_2 9 rfl rfl)
theorem dX0_isConditionSign_60 : decode cX0_isConditionSign 60 = .ok (.iconst 0, 1) := dk_3 (dk_at dksX0_isConditionSign_2 12 rfl rfl)
theorem dX0_isConditionSign_61 : decode cX0_isConditionSign 61 = .ok (.ireturn, 1) := dk_172 (dk_at dksX0_isConditionSign_2 13 rfl rfl)
theorem dX0_isConditionSign_62 : decode cX0_isConditionSign 62 = .ok (.iload_n 1, 1) := dk_27 (dk_at dksX0_isConditionSign_2 14 rfl rfl)
theorem dX0_isConditionSign_63 : decode cX0_isConditionSign 63 = .ok (.invokestatic 7, 3) := dk_184 0 7 (dk_at dksX0_isConditionSign_2 15 rfl rfl)
theorem dX0_isConditionSign_66 : decode cX0_isConditionSign 66 = .ok (.ifCond .eq 21, 3) := dk_153 0 21 (dk_at dksX0_isConditionSign_2 18 rfl rfl)
theorem dX0_isConditionSign_69 : decode cX0_isConditionSign 69 = .ok (.aload_n 0, 1) := dk_42 (dk_at dksX0_isConditionSign_2 21 rfl rfl)
theorem dX0_isConditionSign_70 : decode cX0_isConditionSign 70 = .ok (.getfield 197, 3) := dk_180 0 197 (dk_at dksX0_isConditionSign_3 0 rfl rfl)
theorem dX0_isConditionSign_73 : decode cX0_isConditionSign 73 = .ok (.iload_n 1, 1) := dk_27 (dk_at dksX0_isConditionSign_3 3 rfl rfl)
theorem dX0_isConditionSign_74 : decode cX0_isConditionSign 74 = .ok (.bipush 120, 2) := dk_16 120 (dk_at dksX0_isConditionSign_3 4 rfl rfl)
theorem dX0_isConditionSign_76 : decode cX0_isConditionSign 76 = .ok (.isub, 1) := dk_100 (dk_at dksX0_isConditionSign_3 6 rfl rfl)
theorem dX0_isConditionSign_77 : decode cX0_isConditionSign 77 = .ok (.invokestatic 209, 3) := dk_184 0 209 (dk_at dksX0_isConditionSign_3 7 rfl rfl)
theorem dX0_isConditionSign_80 : decode cX0_isConditionSign 80 = .ok (.ifCond .eq 7, 3) := dk_153 0 7 (dk_at dksX0_isConditionSign_3 10 rfl rfl)
theorem dX0_isConditionSign_83 : decode cX0_isConditionSign 83 = .ok (.iconst 1, 1) := dk_4 (dk_at dksX0_isConditionSign_3 13 rfl rfl)
theorem dX0_isConditionSign_84 : decode cX0_isConditionSign 84 = .ok (.goto 4, 3) := dk_167 0 4 (dk_at dksX0_isConditionSign_3 14 rfl rfl)
theorem dX0_isConditionSign_87 : decode cX0_isConditionSign 87 = .ok (.iconst 0, 1) := dk_3 (dk_at dksX0_isConditionSign_3 17 rfl rfl)
theorem dX0_isConditionSign_88 : decode cX0_isConditionSign 88 = .ok (.ireturn, 1) := dk_172 (dk_at dksX0_isConditionSign_3 18 rfl rfl)
abbrev cX0_has : ByteArray := prog_1_method_2_code
def yX0_has : MethodName := ⟨RX0, "has", "(II)Z"⟩
def dkwX0_has_0 : List UInt8 := [26, 27, 122, 4, 126, 4, 160, 0, 7, 4, 167, 0, 4, 3, 172]
abbrev dktX0_has_0 : List UInt8 := dkwX0_has_0 ++ []
theorem dksX0_has_0 : cX0_has.data.toList.drop 0 = dktX0_has_0 := by decide +kernel
theorem dX0_has_0 : decode cX0_has 0 = .ok (.iload_n 0, 1) := dk_26 (dk_at dksX0_has_0 0 rfl rfl)
theorem dX0_has_1 : decode cX0_has 1 = .ok (.iload_n 1, 1) := dk_27 (dk_at dksX0_has_0 1 rfl rfl)
theorem dX0_has_2 : decode cX0_has 2 = .ok (.ishr, 1) := dk_122 (dk_at dksX0_has_0 2 rfl rfl)
theorem dX0_has_3 : decode cX0_has 3 = .ok (.iconst 1, 1) := dk_4 (dk_at dksX0_has_0 3 rfl rfl)
theorem dX0_has_4 : decode cX0_has 4 = .ok (.iand, 1) := dk_126 (dk_at dksX0_has_0 4 rfl rfl)
theorem dX0_has_5 : decode cX0_has 5 = .ok (.iconst 1, 1) := dk_4 (dk_at dksX0_has_0 5 rfl rfl)
theorem dX0_has_6 : decode cX0_has 6 = .ok (.if_icmp .ne 7, 3) := dk_160 0 7 (dk_at dksX0_has_0 6 rfl rfl)
theorem dX0_has_9 : decode cX0_has 9 = .ok (.iconst 1, 1) := dk_4 (dk_at dksX0_has_0 9 rfl rfl)
theorem dX0_has_10 : decode cX0_has 10 = .ok (.goto 4, 3) := dk_167 0 4 (dk_at dksX0_has_0 10 rfl rfl)
theorem dX0_has_13 : decode cX0_has 13 = .ok (.iconst 0, 1) := dk_3 (dk_at dksX0_has_0 13 rfl rfl)
theorem dX0_has_14 : decode cX0_has 14 = .ok (.ireturn, 1) := dk_172 (dk_at dksX0_has_0 14 rfl rfl)
abbrev cX0_book : ByteArray := prog_1_method_27_code
def yX0_book : MethodName := ⟨RX0, "book", "()I"⟩
def dkwX0_book_7 : List UInt8 := [182, 1, 26, 42, 180, 1, 12, 172]
abbrev dktX0_book_7 : List UInt8 := dkwX0_book_7 ++ []
def dkwX0_book_6 : List UInt8 := [3, 181, 1, 20, 42, 89, 180, 1, 23, 4, 96, 181, 1, 23, 42, 3, 181, 0, 174, 42, 180, 0, 128]
abbrev dktX0_book_6 : List UInt8 := dkwX0_book_6 ++ dktX0_book_7
def dkwX0_book_5 : List UInt8 := [182, 1, 17, 3, 60, 27, 7, 162, 0, 16, 42, 180, 0, 117, 27, 1, 83, 132, 1, 1, 167, 255, 241, 42]
abbrev dktX0_book_5 : List UInt8 := dkwX0_book_5 ++ dktX0_book_6
def dkwX0_book_4 : List UInt8 := [167, 0, 13, 42, 180, 0, 124, 27, 4, 96, 46, 4, 100, 182, 1, 13, 132, 1, 1, 167, 255, 213, 42]
abbrev dktX0_book_4 : List UInt8 := dkwX0_book_4 ++ dktX0_book_5
def dkwX0_book_3 : List UInt8 := [180, 1, 12, 162, 0, 41, 42, 27, 27, 42, 180, 1, 12, 4, 100, 160, 0, 10, 42, 180, 0, 174]
abbrev dktX0_book_3 : List UInt8 := dkwX0_book_3 ++ dktX0_book_4
def dkwX0_book_2 : List UInt8 := [4, 160, 0, 6, 16, 153, 172, 42, 182, 1, 9, 42, 42, 180, 0, 188, 181, 1, 12, 3, 60, 27, 42]
abbrev dktX0_book_2 : List UInt8 := dkwX0_book_2 ++ dktX0_book_3
def dkwX0_book_1 : List UInt8 := [153, 0, 28, 42, 180, 0, 177, 5, 160, 0, 20, 42, 180, 0, 191, 157, 0, 13, 42, 180, 0, 200, 5, 112]
abbrev dktX0_book_1 : List UInt8 := dkwX0_book_1 ++ dktX0_book_2
def dkwX0_book_0 : List UInt8 := [42, 182, 1, 6, 42, 180, 0, 174, 161, 0, 43, 42, 180, 0, 183, 2, 159, 0, 35, 42, 180, 0, 188]
abbrev dktX0_book_0 : List UInt8 := dkwX0_book_0 ++ dktX0_book_1
theorem dksX0_book_0 : cX0_book.data.toList.drop 0 = dktX0_book_0 := by decide +kernel
theorem dksX0_book_1 : cX0_book.data.toList.drop 23 = dktX0_book_1 := dk_seg dksX0_book_0 23 rfl rfl
theorem dksX0_book_2 : cX0_book.data.toList.drop 47 = dktX0_book_2 := dk_seg dksX0_book_1 24 rfl rfl
theorem dksX0_book_3 : cX0_book.data.toList.drop 70 = dktX0_book_3 := dk_seg dksX0_book_2 23 rfl rfl
theorem dksX0_book_4 : cX0_book.data.toList.drop 92 = dktX0_book_4 := dk_seg dksX0_book_3 22 rfl rfl
theorem dksX0_book_5 : cX0_book.data.toList.drop 115 = dktX0_book_5 := dk_seg dksX0_book_4 23 rfl rfl
theorem dksX0_book_6 : cX0_book.data.toList.drop 139 = dktX0_book_6 := dk_seg dksX0_book_5 24 rfl rfl
theorem dksX0_book_7 : cX0_book.data.toList.drop 162 = dktX0_book_7 := dk_seg dksX0_book_6 23 rfl rfl
theorem dX0_book_0 : decode cX0_book 0 = .ok (.aload_n 0, 1) := dk_42 (dk_at dksX0_book_0 0 rfl rfl)
theorem dX0_book_1 : decode cX0_book 1 = .ok (.invokevirtual 262, 3) := dk_182 1 6 (dk_at dksX0_book_0 1 rfl rfl)
theorem dX0_book_4 : decode cX0_book 4 = .ok (.aload_n 0, 1) := dk_42 (dk_at dksX0_book_0 4 rfl rfl)
theorem dX0_book_5 : decode cX0_book 5 = .ok (.getfield 174, 3) := dk_180 0 174 (dk_at dksX0_book_0 5 rfl rfl)
theorem dX0_book_8 : decode cX0_book 8 = .ok (.if_icmp .lt 43, 3) := dk_161 0 43 (dk_at dksX0_book_0 8 rfl rfl)
theorem dX0_book_11 : decode cX0_book 11 = .ok (.aload_n 0, 1) := dk_42 (dk_at dksX0_book_0 11 rfl rfl)
theorem dX0_book_12 : decode cX0_book 12 = .ok (.getfield 183, 3) := dk_180 0 183 (dk_at dksX0_book_0 12 rfl rfl)
theorem dX0_book_15 : decode cX0_book 15 = .ok (.iconst (-1), 1) := dk_2 (dk_at dksX0_book_0 15 rfl rfl)
theorem dX0_book_16 : decode cX0_book 16 = .ok (.if_icmp .eq 35, 3) := dk_159 0 35 (dk_at dksX0_book_0 16 rfl rfl)
theorem dX0_book_19 : decode cX0_book 19 = .ok (.aload_n 0, 1) := dk_42 (dk_at dksX0_book_0 19 rfl rfl)
theorem dX0_book_20 : decode cX0_book 20 = .ok (.getfield 188, 3) := dk_180 0 188 (dk_at dksX0_book_0 20 rfl rfl)
theorem dX0_book_23 : decode cX0_book 23 = .ok (.ifCond .eq 28, 3) := dk_153 0 28 (dk_at dksX0_book_1 0 rfl rfl)
theorem dX0_book_26 : decode cX0_book 26 = .ok (.aload_n 0, 1) := dk_42 (dk_at dksX0_book_1 3 rfl rfl)
theorem dX0_book_27 : decode cX0_book 27 = .ok (.getfield 177, 3) := dk_180 0 177 (dk_at dksX0_book_1 4 rfl rfl)
theorem dX0_book_30 : decode cX0_book 30 = .ok (.iconst 2, 1) := dk_5 (dk_at dksX0_book_1 7 rfl rfl)
theorem dX0_book_31 : decode cX0_book 31 = .ok (.if_icmp .ne 20, 3) := dk_160 0 20 (dk_at dksX0_book_1 8 rfl rfl)
theorem dX0_book_34 : decode cX0_book 34 = .ok (.aload_n 0, 1) := dk_42 (dk_at dksX0_book_1 11 rfl rfl)
theorem dX0_book_35 : decode cX0_book 35 = .ok (.getfield 191, 3) := dk_180 0 191 (dk_at dksX0_book_1 12 rfl rfl)
theorem dX0_book_38 : decode cX0_book 38 = .ok (.ifCond .gt 13, 3) := dk_157 0 13 (dk_at dksX0_book_1 15 rfl rfl)
theorem dX0_book_41 : decode cX0_book 41 = .ok (.aload_n 0, 1) := dk_42 (dk_at dksX0_book_1 18 rfl rfl)
theorem dX0_book_42 : decode cX0_book 42 = .ok (.getfield 200, 3) := dk_180 0 200 (dk_at dksX0_book_1 19 rfl rfl)
theorem dX0_book_45 : decode cX0_book 45 = .ok (.iconst 2, 1) := dk_5 (dk_at dksX0_book_1 22 rfl rfl)
theorem dX0_book_46 : decode cX0_book 46 = .ok (.irem, 1) := dk_112 (dk_at dksX0_book_1 23 rfl rfl)
theorem dX0_book_47 : decode cX0_book 47 = .ok (.iconst 1, 1) := dk_4 (dk_at dksX0_book_2 0 rfl rfl)
theorem dX0_book_48 : decode cX0_book 48 = .ok (.if_icmp .ne 6, 3) := dk_160 0 6 (dk_at dksX0_book_2 1 rfl rfl)
theorem dX0_book_51 : decode cX0_book 51 = .ok (.bipush (-103), 2) := dk_16 153 (dk_at dksX0_book_2 4 rfl rfl)
theorem dX0_book_53 : decode cX0_book 53 = .ok (.ireturn, 1) := dk_172 (dk_at dksX0_book_2 6 rfl rfl)
theorem dX0_book_54 : decode cX0_book 54 = .ok (.aload_n 0, 1) := dk_42 (dk_at dksX0_book_2 7 rfl rfl)
theorem dX0_book_55 : decode cX0_book 55 = .ok (.invokevirtual 265, 3) := dk_182 1 9 (dk_at dksX0_book_2 8 rfl rfl)
theorem dX0_book_58 : decode cX0_book 58 = .ok (.aload_n 0, 1) := dk_42 (dk_at dksX0_book_2 11 rfl rfl)
theorem dX0_book_59 : decode cX0_book 59 = .ok (.aload_n 0, 1) := dk_42 (dk_at dksX0_book_2 12 rfl rfl)
theorem dX0_book_60 : decode cX0_book 60 = .ok (.getfield 188, 3) := dk_180 0 188 (dk_at dksX0_book_2 13 rfl rfl)
theorem dX0_book_63 : decode cX0_book 63 = .ok (.putfield 268, 3) := dk_181 1 12 (dk_at dksX0_book_2 16 rfl rfl)
theorem dX0_book_66 : decode cX0_book 66 = .ok (.iconst 0, 1) := dk_3 (dk_at dksX0_book_2 19 rfl rfl)
theorem dX0_book_67 : decode cX0_book 67 = .ok (.istore_n 1, 1) := dk_60 (dk_at dksX0_book_2 20 rfl rfl)
theorem dX0_book_68 : decode cX0_book 68 = .ok (.iload_n 1, 1) := dk_27 (dk_at dksX0_book_2 21 rfl rfl)
theorem dX0_book_69 : decode cX0_book 69 = .ok (.aload_n 0, 1) := dk_42 (dk_at dksX0_book_2 22 rfl rfl)
theorem dX0_book_70 : decode cX0_book 70 = .ok (.getfield 268, 3) := dk_180 1 12 (dk_at dksX0_book_3 0 rfl rfl)
theorem dX0_book_73 : decode cX0_book 73 = .ok (.if_icmp .ge 41, 3) := dk_162 0 41 (dk_at dksX0_book_3 3 rfl rfl)
theorem dX0_book_76 : decode cX0_book 76 = .ok (.aload_n 0, 1) := dk_42 (dk_at dksX0_book_3 6 rfl rfl)
theorem dX0_book_77 : decode cX0_book 77 = .ok (.iload_n 1, 1) := dk_27 (dk_at dksX0_book_3 7 rfl rfl)
theorem dX0_book_78 : decode cX0_book 78 = .ok (.iload_n 1, 1) := dk_27 (dk_at dksX0_book_3 8 rfl rfl)
theorem dX0_book_79 : decode cX0_book 79 = .ok (.aload_n 0, 1) := dk_42 (dk_at dksX0_book_3 9 rfl rfl)
theorem dX0_book_80 : decode cX0_book 80 = .ok (.getfield 268, 3) := dk_180 1 12 (dk_at dksX0_book_3 10 rfl rfl)
theorem dX0_book_83 : decode cX0_book 83 = .ok (.iconst 1, 1) := dk_4 (dk_at dksX0_book_3 13 rfl rfl)
theorem dX0_book_84 : decode cX0_book 84 = .ok (.isub, 1) := dk_100 (dk_at dksX0_book_3 14 rfl rfl)
theorem dX0_book_85 : decode cX0_book 85 = .ok (.if_icmp .ne 10, 3) := dk_160 0 10 (dk_at dksX0_book_3 15 rfl rfl)
theorem dX0_book_88 : decode cX0_book 88 = .ok (.aload_n 0, 1) := dk_42 (dk_at dksX0_book_3 18 rfl rfl)
theorem dX0_book_89 : decode cX0_book 89 = .ok (.getfield 174, 3) := dk_180 0 174 (dk_at dksX0_book_3 19 rfl rfl)
theorem dX0_book_92 : decode cX0_book 92 = .ok (.goto 13, 3) := dk_167 0 13 (dk_at dksX0_book_4 0 rfl rfl)
theorem dX0_book_95 : decode cX0_book 95 = .ok (.aload_n 0, 1) := dk_42 (dk_at dksX0_book_4 3 rfl rfl)
theorem dX0_book_96 : decode cX0_book 96 = .ok (.getfield 124, 3) := dk_180 0 124 (dk_at dksX0_book_4 4 rfl rfl)
theorem dX0_book_99 : decode cX0_book 99 = .ok (.iload_n 1, 1) := dk_27 (dk_at dksX0_book_4 7 rfl rfl)
theorem dX0_book_100 : decode cX0_book 100 = .ok (.iconst 1, 1) := dk_4 (dk_at dksX0_book_4 8 rfl rfl)
theorem dX0_book_101 : decode cX0_book 101 = .ok (.iadd, 1) := dk_96 (dk_at dksX0_book_4 9 rfl rfl)
theorem dX0_book_102 : decode cX0_book 102 = .ok (.iaload, 1) := dk_46 (dk_at dksX0_book_4 10 rfl rfl)
theorem dX0_book_103 : decode cX0_book 103 = .ok (.iconst 1, 1) := dk_4 (dk_at dksX0_book_4 11 rfl rfl)
theorem dX0_book_104 : decode cX0_book 104 = .ok (.isub, 1) := dk_100 (dk_at dksX0_book_4 12 rfl rfl)
theorem dX0_book_105 : decode cX0_book 105 = .ok (.invokevirtual 269, 3) := dk_182 1 13 (dk_at dksX0_book_4 13 rfl rfl)
theorem dX0_book_108 : decode cX0_book 108 = .ok (.iinc 1 1, 3) := dk_132 1 1 (dk_at dksX0_book_4 16 rfl rfl)
theorem dX0_book_111 : decode cX0_book 111 = .ok (.goto (-43), 3) := dk_167 255 213 (dk_at dksX0_book_4 19 rfl rfl)
theorem dX0_book_114 : decode cX0_book 114 = .ok (.aload_n 0, 1) := dk_42 (dk_at dksX0_book_4 22 rfl rfl)
theorem dX0_book_115 : decode cX0_book 115 = .ok (.invokevirtual 273, 3) := dk_182 1 17 (dk_at dksX0_book_5 0 rfl rfl)
theorem dX0_book_118 : decode cX0_book 118 = .ok (.iconst 0, 1) := dk_3 (dk_at dksX0_book_5 3 rfl rfl)
theorem dX0_book_119 : decode cX0_book 119 = .ok (.istore_n 1, 1) := dk_60 (dk_at dksX0_book_5 4 rfl rfl)
theorem dX0_book_120 : decode cX0_book 120 = .ok (.iload_n 1, 1) := dk_27 (dk_at dksX0_book_5 5 rfl rfl)
theorem dX0_book_121 : decode cX0_book 121 = .ok (.iconst 4, 1) := dk_7 (dk_at dksX0_book_5 6 rfl rfl)
theorem dX0_book_122 : decode cX0_book 122 = .ok (.if_icmp .ge 16, 3) := dk_162 0 16 (dk_at dksX0_book_5 7 rfl rfl)
theorem dX0_book_125 : decode cX0_book 125 = .ok (.aload_n 0, 1) := dk_42 (dk_at dksX0_book_5 10 rfl rfl)
theorem dX0_book_126 : decode cX0_book 126 = .ok (.getfield 117, 3) := dk_180 0 117 (dk_at dksX0_book_5 11 rfl rfl)
theorem dX0_book_129 : decode cX0_book 129 = .ok (.iload_n 1, 1) := dk_27 (dk_at dksX0_book_5 14 rfl rfl)
theorem dX0_book_130 : decode cX0_book 130 = .ok (.aconst_null, 1) := dk_1 (dk_at dksX0_book_5 15 rfl rfl)
theorem dX0_book_131 : decode cX0_book 131 = .ok (.aastore, 1) := dk_83 (dk_at dksX0_book_5 16 rfl rfl)
theorem dX0_book_132 : decode cX0_book 132 = .ok (.iinc 1 1, 3) := dk_132 1 1 (dk_at dksX0_book_5 17 rfl rfl)
theorem dX0_book_135 : decode cX0_book 135 = .ok (.goto (-15), 3) := dk_167 255 241 (dk_at dksX0_book_5 20 rfl rfl)
theorem dX0_book_138 : decode cX0_book 138 = .ok (.aload_n 0, 1) := dk_42 (dk_at dksX0_book_5 23 rfl rfl)
theorem dX0_book_139 : decode cX0_book 139 = .ok (.iconst 0, 1) := dk_3 (dk_at dksX0_book_6 0 rfl rfl)
theorem dX0_book_140 : decode cX0_book 140 = .ok (.putfield 276, 3) := dk_181 1 20 (dk_at dksX0_book_6 1 rfl rfl)
theorem dX0_book_143 : decode cX0_book 143 = .ok (.aload_n 0, 1) := dk_42 (dk_at dksX0_book_6 4 rfl rfl)
theorem dX0_book_144 : decode cX0_book 144 = .ok (.dup, 1) := dk_89 (dk_at dksX0_book_6 5 rfl rfl)
theorem dX0_book_145 : decode cX0_book 145 = .ok (.getfield 279, 3) := dk_180 1 23 (dk_at dksX0_book_6 6 rfl rfl)
theorem dX0_book_148 : decode cX0_book 148 = .ok (.iconst 1, 1) := dk_4 (dk_at dksX0_book_6 9 rfl rfl)
theorem dX0_book_149 : decode cX0_book 149 = .ok (.iadd, 1) := dk_96 (dk_at dksX0_book_6 10 rfl rfl)
theorem dX0_book_150 : decode cX0_book 150 = .ok (.putfield 279, 3) := dk_181 1 23 (dk_at dksX0_book_6 11 rfl rfl)
theorem dX0_book_153 : decode cX0_book 153 = .ok (.aload_n 0, 1) := dk_42 (dk_at dksX0_book_6 14 rfl rfl)
theorem dX0_book_154 : decode cX0_book 154 = .ok (.iconst 0, 1) := dk_3 (dk_at dksX0_book_6 15 rfl rfl)
theorem dX0_book_155 : decode cX0_book 155 = .ok (.putfield 174, 3) := dk_181 0 174 (dk_at dksX0_book_6 16 rfl rfl)
theorem dX0_book_158 : decode cX0_book 158 = .ok (.aload_n 0, 1) := dk_42 (dk_at dksX0_book_6 19 rfl rfl)
theorem dX0_book_159 : decode cX0_book 159 = .ok (.getfield 128, 3) := dk_180 0 128 (dk_at dksX0_book_6 20 rfl rfl)
theorem dX0_book_162 : decode cX0_book 162 = .ok (.invokevirtual 282, 3) := dk_182 1 26 (dk_at dksX0_book_7 0 rfl rfl)
theorem dX0_book_165 : decode cX0_book 165 = .ok (.aload_n 0, 1) := dk_42 (dk_at dksX0_book_7 3 rfl rfl)
theorem dX0_book_166 : decode cX0_book 166 = .ok (.getfield 268, 3) := dk_180 1 12 (dk_at dksX0_book_7 4 rfl rfl)
theorem dX0_book_169 : decode cX0_book 169 = .ok (.ireturn, 1) := dk_172 (dk_at dksX0_book_7 7 rfl rfl)
abbrev cX0_layClasses : ByteArray := prog_1_method_25_code
def yX0_layClasses : MethodName := ⟨RX0, "layClasses", "()V"⟩
def dkwX0_layClasses_6 : List UInt8 := [46, 167, 0, 4, 3, 128, 79, 132, 3, 1, 167, 255, 216, 132, 2, 1, 167, 255, 188, 177]
abbrev dktX0_layClasses_6 : List UInt8 := dkwX0_layClasses_6 ++ []
def dkwX0_layClasses_5 : List UInt8 := [180, 0, 111, 28, 92, 46, 42, 180, 0, 107, 28, 46, 29, 184, 0, 209, 153, 0, 12, 42, 180, 0, 111, 29]
abbrev dktX0_layClasses_5 : List UInt8 := dkwX0_layClasses_5 ++ dktX0_layClasses_6
def dkwX0_layClasses_4 : List UInt8 := [162, 0, 66, 42, 180, 0, 111, 28, 42, 180, 0, 107, 28, 46, 79, 3, 62, 29, 28, 162, 0, 41, 42]
abbrev dktX0_layClasses_4 : List UInt8 := dkwX0_layClasses_4 ++ dktX0_layClasses_5
def dkwX0_layClasses_3 : List UInt8 := [180, 0, 121, 28, 46, 16, 48, 100, 120, 128, 79, 132, 2, 1, 167, 255, 190, 3, 61, 28, 42, 180, 0, 238]
abbrev dktX0_layClasses_3 : List UInt8 := dkwX0_layClasses_3 ++ dktX0_layClasses_4
def dkwX0_layClasses_2 : List UInt8 := [167, 0, 34, 42, 180, 0, 121, 28, 46, 16, 45, 159, 0, 23, 42, 180, 0, 107, 27, 92, 46, 4, 42]
abbrev dktX0_layClasses_2 : List UInt8 := dkwX0_layClasses_2 ++ dktX0_layClasses_3
def dkwX0_layClasses_1 : List UInt8 := [162, 0, 64, 42, 180, 0, 121, 28, 46, 16, 44, 160, 0, 16, 132, 1, 1, 42, 180, 0, 107, 27, 3, 79]
abbrev dktX0_layClasses_1 : List UInt8 := dkwX0_layClasses_1 ++ dktX0_layClasses_2
def dkwX0_layClasses_0 : List UInt8 := [42, 42, 180, 0, 180, 181, 0, 238, 3, 60, 42, 180, 0, 107, 3, 3, 79, 3, 61, 28, 42, 180, 0, 183]
abbrev dktX0_layClasses_0 : List UInt8 := dkwX0_layClasses_0 ++ dktX0_layClasses_1
theorem dksX0_layClasses_0 : cX0_layClasses.data.toList.drop 0 = dktX0_layClasses_0 := by decide +kernel
theorem dksX0_layClasses_1 : cX0_layClasses.data.toList.drop 24 = dktX0_layClasses_1 := dk_seg dksX0_layClasses_0 24 rfl rfl
theorem dksX0_layClasses_2 : cX0_layClasses.data.toList.drop 48 = dktX0_layClasses_2 := dk_seg dksX0_layClasses_1 24 rfl rfl
theorem dksX0_layClasses_3 : cX0_layClasses.data.toList.drop 71 = dktX0_layClasses_3 := dk_seg dksX0_layClasses_2 23 rfl rfl
theorem dksX0_layClasses_4 : cX0_layClasses.data.toList.drop 95 = dktX0_layClasses_4 := dk_seg dksX0_layClasses_3 24 rfl rfl
theorem dksX0_layClasses_5 : cX0_layClasses.data.toList.drop 118 = dktX0_layClasses_5 := dk_seg dksX0_layClasses_4 23 rfl rfl
theorem dksX0_layClasses_6 : cX0_layClasses.data.toList.drop 142 = dktX0_layClasses_6 := dk_seg dksX0_layClasses_5 24 rfl rfl
theorem dX0_layClasses_0 : decode cX0_layClasses 0 = .ok (.aload_n 0, 1) := dk_42 (dk_at dksX0_layClasses_0 0 rfl rfl)
theorem dX0_layClasses_1 : decode cX0_layClasses 1 = .ok (.aload_n 0, 1) := dk_42 (dk_at dksX0_layClasses_0 1 rfl rfl)
theorem dX0_layClasses_2 : decode cX0_layClasses 2 = .ok (.getfield 180, 3) := dk_180 0 180 (dk_at dksX0_layClasses_0 2 rfl rfl)
theorem dX0_layClasses_5 : decode cX0_layClasses 5 = .ok (.putfield 238, 3) := dk_181 0 238 (dk_at dksX0_layClasses_0 5 rfl rfl)
theorem dX0_layClasses_8 : decode cX0_layClasses 8 = .ok (.iconst 0, 1) := dk_3 (dk_at dksX0_layClasses_0 8 rfl rfl)
theorem dX0_layClasses_9 : decode cX0_layClasses 9 = .ok (.istore_n 1, 1) := dk_60 (dk_at dksX0_layClasses_0 9 rfl rfl)
theorem dX0_layClasses_10 : decode cX0_layClasses 10 = .ok (.aload_n 0, 1) := dk_42 (dk_at dksX0_layClasses_0 10 rfl rfl)
theorem dX0_layClasses_11 : decode cX0_layClasses 11 = .ok (.getfield 107, 3) := dk_180 0 107 (dk_at dksX0_layClasses_0 11 rfl rfl)
theorem dX0_layClasses_14 : decode cX0_layClasses 14 = .ok (.iconst 0, 1) := dk_3 (dk_at dksX0_layClasses_0 14 rfl rfl)
theorem dX0_layClasses_15 : decode cX0_layClasses 15 = .ok (.iconst 0, 1) := dk_3 (dk_at dksX0_layClasses_0 15 rfl rfl)
theorem dX0_layClasses_16 : decode cX0_layClasses 16 = .ok (.iastore, 1) := dk_79 (dk_at dksX0_layClasses_0 16 rfl rfl)
theorem dX0_layClasses_17 : decode cX0_layClasses 17 = .ok (.iconst 0, 1) := dk_3 (dk_at dksX0_layClasses_0 17 rfl rfl)
theorem dX0_layClasses_18 : decode cX0_layClasses 18 = .ok (.istore_n 2, 1) := dk_61 (dk_at dksX0_layClasses_0 18 rfl rfl)
theorem dX0_layClasses_19 : decode cX0_layClasses 19 = .ok (.iload_n 2, 1) := dk_28 (dk_at dksX0_layClasses_0 19 rfl rfl)
theorem dX0_layClasses_20 : decode cX0_layClasses 20 = .ok (.aload_n 0, 1) := dk_42 (dk_at dksX0_layClasses_0 20 rfl rfl)
theorem dX0_layClasses_21 : decode cX0_layClasses 21 = .ok (.getfield 183, 3) := dk_180 0 183 (dk_at dksX0_layClasses_0 21 rfl rfl)
theorem dX0_layClasses_24 : decode cX0_layClasses 24 = .ok (.if_icmp .ge 64, 3) := dk_162 0 64 (dk_at dksX0_layClasses_1 0 rfl rfl)
theorem dX0_layClasses_27 : decode cX0_layClasses 27 = .ok (.aload_n 0, 1) := dk_42 (dk_at dksX0_layClasses_1 3 rfl rfl)
theorem dX0_layClasses_28 : decode cX0_layClasses 28 = .ok (.getfield 121, 3) := dk_180 0 121 (dk_at dksX0_layClasses_1 4 rfl rfl)
theorem dX0_layClasses_31 : decode cX0_layClasses 31 = .ok (.iload_n 2, 1) := dk_28 (dk_at dksX0_layClasses_1 7 rfl rfl)
theorem dX0_layClasses_32 : decode cX0_layClasses 32 = .ok (.iaload, 1) := dk_46 (dk_at dksX0_layClasses_1 8 rfl rfl)
theorem dX0_layClasses_33 : decode cX0_layClasses 33 = .ok (.bipush 44, 2) := dk_16 44 (dk_at dksX0_layClasses_1 9 rfl rfl)
theorem dX0_layClasses_35 : decode cX0_layClasses 35 = .ok (.if_icmp .ne 16, 3) := dk_160 0 16 (dk_at dksX0_layClasses_1 11 rfl rfl)
theorem dX0_layClasses_38 : decode cX0_layClasses 38 = .ok (.iinc 1 1, 3) := dk_132 1 1 (dk_at dksX0_layClasses_1 14 rfl rfl)
theorem dX0_layClasses_41 : decode cX0_layClasses 41 = .ok (.aload_n 0, 1) := dk_42 (dk_at dksX0_layClasses_1 17 rfl rfl)
theorem dX0_layClasses_42 : decode cX0_layClasses 42 = .ok (.getfield 107, 3) := dk_180 0 107 (dk_at dksX0_layClasses_1 18 rfl rfl)
theorem dX0_layClasses_45 : decode cX0_layClasses 45 = .ok (.iload_n 1, 1) := dk_27 (dk_at dksX0_layClasses_1 21 rfl rfl)
theorem dX0_layClasses_46 : decode cX0_layClasses 46 = .ok (.iconst 0, 1) := dk_3 (dk_at dksX0_layClasses_1 22 rfl rfl)
theorem dX0_layClasses_47 : decode cX0_layClasses 47 = .ok (.iastore, 1) := dk_79 (dk_at dksX0_layClasses_1 23 rfl rfl)
theorem dX0_layClasses_48 : decode cX0_layClasses 48 = .ok (.goto 34, 3) := dk_167 0 34 (dk_at dksX0_layClasses_2 0 rfl rfl)
theorem dX0_layClasses_51 : decode cX0_layClasses 51 = .ok (.aload_n 0, 1) := dk_42 (dk_at dksX0_layClasses_2 3 rfl rfl)
theorem dX0_layClasses_52 : decode cX0_layClasses 52 = .ok (.getfield 121, 3) := dk_180 0 121 (dk_at dksX0_layClasses_2 4 rfl rfl)
theorem dX0_layClasses_55 : decode cX0_layClasses 55 = .ok (.iload_n 2, 1) := dk_28 (dk_at dksX0_layClasses_2 7 rfl rfl)
theorem dX0_layClasses_56 : decode cX0_layClasses 56 = .ok (.iaload, 1) := dk_46 (dk_at dksX0_layClasses_2 8 rfl rfl)
theorem dX0_layClasses_57 : decode cX0_layClasses 57 = .ok (.bipush 45, 2) := dk_16 45 (dk_at dksX0_layClasses_2 9 rfl rfl)
theorem dX0_layClasses_59 : decode cX0_layClasses 59 = .ok (.if_icmp .eq 23, 3) := dk_159 0 23 (dk_at dksX0_layClasses_2 11 rfl rfl)
theorem dX0_layClasses_62 : decode cX0_layClasses 62 = .ok (.aload_n 0, 1) := dk_42 (dk_at dksX0_layClasses_2 14 rfl rfl)
theorem dX0_layClasses_63 : decode cX0_layClasses 63 = .ok (.getfield 107, 3) := dk_180 0 107 (dk_at dksX0_layClasses_2 15 rfl rfl)
theorem dX0_layClasses_66 : decode cX0_layClasses 66 = .ok (.iload_n 1, 1) := dk_27 (dk_at dksX0_layClasses_2 18 rfl rfl)
theorem dX0_layClasses_67 : decode cX0_layClasses 67 = .ok (.dup2, 1) := dk_92 (dk_at dksX0_layClasses_2 19 rfl rfl)
theorem dX0_layClasses_68 : decode cX0_layClasses 68 = .ok (.iaload, 1) := dk_46 (dk_at dksX0_layClasses_2 20 rfl rfl)
theorem dX0_layClasses_69 : decode cX0_layClasses 69 = .ok (.iconst 1, 1) := dk_4 (dk_at dksX0_layClasses_2 21 rfl rfl)
theorem dX0_layClasses_70 : decode cX0_layClasses 70 = .ok (.aload_n 0, 1) := dk_42 (dk_at dksX0_layClasses_2 22 rfl rfl)
theorem dX0_layClasses_71 : decode cX0_layClasses 71 = .ok (.getfield 121, 3) := dk_180 0 121 (dk_at dksX0_layClasses_3 0 rfl rfl)
theorem dX0_layClasses_74 : decode cX0_layClasses 74 = .ok (.iload_n 2, 1) := dk_28 (dk_at dksX0_layClasses_3 3 rfl rfl)
theorem dX0_layClasses_75 : decode cX0_layClasses 75 = .ok (.iaload, 1) := dk_46 (dk_at dksX0_layClasses_3 4 rfl rfl)
theorem dX0_layClasses_76 : decode cX0_layClasses 76 = .ok (.bipush 48, 2) := dk_16 48 (dk_at dksX0_layClasses_3 5 rfl rfl)
theorem dX0_layClasses_78 : decode cX0_layClasses 78 = .ok (.isub, 1) := dk_100 (dk_at dksX0_layClasses_3 7 rfl rfl)
theorem dX0_layClasses_79 : decode cX0_layClasses 79 = .ok (.ishl, 1) := dk_120 (dk_at dksX0_layClasses_3 8 rfl rfl)
theorem dX0_layClasses_80 : decode cX0_layClasses 80 = .ok (.ior, 1) := dk_128 (dk_at dksX0_layClasses_3 9 rfl rfl)
theorem dX0_layClasses_81 : decode cX0_layClasses 81 = .ok (.iastore, 1) := dk_79 (dk_at dksX0_layClasses_3 10 rfl rfl)
theorem dX0_layClasses_82 : decode cX0_layClasses 82 = .ok (.iinc 2 1, 3) := dk_132 2 1 (dk_at dksX0_layClasses_3 11 rfl rfl)
theorem dX0_layClasses_85 : decode cX0_layClasses 85 = .ok (.goto (-66), 3) := dk_167 255 190 (dk_at dksX0_layClasses_3 14 rfl rfl)
theorem dX0_layClasses_88 : decode cX0_layClasses 88 = .ok (.iconst 0, 1) := dk_3 (dk_at dksX0_layClasses_3 17 rfl rfl)
theorem dX0_layClasses_89 : decode cX0_layClasses 89 = .ok (.istore_n 2, 1) := dk_61 (dk_at dksX0_layClasses_3 18 rfl rfl)
theorem dX0_layClasses_90 : decode cX0_layClasses 90 = .ok (.iload_n 2, 1) := dk_28 (dk_at dksX0_layClasses_3 19 rfl rfl)
theorem dX0_layClasses_91 : decode cX0_layClasses 91 = .ok (.aload_n 0, 1) := dk_42 (dk_at dksX0_layClasses_3 20 rfl rfl)
theorem dX0_layClasses_92 : decode cX0_layClasses 92 = .ok (.getfield 238, 3) := dk_180 0 238 (dk_at dksX0_layClasses_3 21 rfl rfl)
theorem dX0_layClasses_95 : decode cX0_layClasses 95 = .ok (.if_icmp .ge 66, 3) := dk_162 0 66 (dk_at dksX0_layClasses_4 0 rfl rfl)
theorem dX0_layClasses_98 : decode cX0_layClasses 98 = .ok (.aload_n 0, 1) := dk_42 (dk_at dksX0_layClasses_4 3 rfl rfl)
theorem dX0_layClasses_99 : decode cX0_layClasses 99 = .ok (.getfield 111, 3) := dk_180 0 111 (dk_at dksX0_layClasses_4 4 rfl rfl)
theorem dX0_layClasses_102 : decode cX0_layClasses 102 = .ok (.iload_n 2, 1) := dk_28 (dk_at dksX0_layClasses_4 7 rfl rfl)
theorem dX0_layClasses_103 : decode cX0_layClasses 103 = .ok (.aload_n 0, 1) := dk_42 (dk_at dksX0_layClasses_4 8 rfl rfl)
theorem dX0_layClasses_104 : decode cX0_layClasses 104 = .ok (.getfield 107, 3) := dk_180 0 107 (dk_at dksX0_layClasses_4 9 rfl rfl)
theorem dX0_layClasses_107 : decode cX0_layClasses 107 = .ok (.iload_n 2, 1) := dk_28 (dk_at dksX0_layClasses_4 12 rfl rfl)
theorem dX0_layClasses_108 : decode cX0_layClasses 108 = .ok (.iaload, 1) := dk_46 (dk_at dksX0_layClasses_4 13 rfl rfl)
theorem dX0_layClasses_109 : decode cX0_layClasses 109 = .ok (.iastore, 1) := dk_79 (dk_at dksX0_layClasses_4 14 rfl rfl)
theorem dX0_layClasses_110 : decode cX0_layClasses 110 = .ok (.iconst 0, 1) := dk_3 (dk_at dksX0_layClasses_4 15 rfl rfl)
theorem dX0_layClasses_111 : decode cX0_layClasses 111 = .ok (.istore_n 3, 1) := dk_62 (dk_at dksX0_layClasses_4 16 rfl rfl)
theorem dX0_layClasses_112 : decode cX0_layClasses 112 = .ok (.iload_n 3, 1) := dk_29 (dk_at dksX0_layClasses_4 17 rfl rfl)
theorem dX0_layClasses_113 : decode cX0_layClasses 113 = .ok (.iload_n 2, 1) := dk_28 (dk_at dksX0_layClasses_4 18 rfl rfl)
theorem dX0_layClasses_114 : decode cX0_layClasses 114 = .ok (.if_icmp .ge 41, 3) := dk_162 0 41 (dk_at dksX0_layClasses_4 19 rfl rfl)
theorem dX0_layClasses_117 : decode cX0_layClasses 117 = .ok (.aload_n 0, 1) := dk_42 (dk_at dksX0_layClasses_4 22 rfl rfl)
theorem dX0_layClasses_118 : decode cX0_layClasses 118 = .ok (.getfield 111, 3) := dk_180 0 111 (dk_at dksX0_layClasses_5 0 rfl rfl)
theorem dX0_layClasses_121 : decode cX0_layClasses 121 = .ok (.iload_n 2, 1) := dk_28 (dk_at dksX0_layClasses_5 3 rfl rfl)
theorem dX0_layClasses_122 : decode cX0_layClasses 122 = .ok (.dup2, 1) := dk_92 (dk_at dksX0_layClasses_5 4 rfl rfl)
theorem dX0_layClasses_123 : decode cX0_layClasses 123 = .ok (.iaload, 1) := dk_46 (dk_at dksX0_layClasses_5 5 rfl rfl)
theorem dX0_layClasses_124 : decode cX0_layClasses 124 = .ok (.aload_n 0, 1) := dk_42 (dk_at dksX0_layClasses_5 6 rfl rfl)
theorem dX0_layClasses_125 : decode cX0_layClasses 125 = .ok (.getfield 107, 3) := dk_180 0 107 (dk_at dksX0_layClasses_5 7 rfl rfl)
theorem dX0_layClasses_128 : decode cX0_layClasses 128 = .ok (.iload_n 2, 1) := dk_28 (dk_at dksX0_layClasses_5 10 rfl rfl)
theorem dX0_layClasses_129 : decode cX0_layClasses 129 = .ok (.iaload, 1) := dk_46 (dk_at dksX0_layClasses_5 11 rfl rfl)
theorem dX0_layClasses_130 : decode cX0_layClasses 130 = .ok (.iload_n 3, 1) := dk_29 (dk_at dksX0_layClasses_5 12 rfl rfl)
theorem dX0_layClasses_131 : decode cX0_layClasses 131 = .ok (.invokestatic 209, 3) := dk_184 0 209 (dk_at dksX0_layClasses_5 13 rfl rfl)
theorem dX0_layClasses_134 : decode cX0_layClasses 134 = .ok (.ifCond .eq 12, 3) := dk_153 0 12 (dk_at dksX0_layClasses_5 16 rfl rfl)
theorem dX0_layClasses_137 : decode cX0_layClasses 137 = .ok (.aload_n 0, 1) := dk_42 (dk_at dksX0_layClasses_5 19 rfl rfl)
theorem dX0_layClasses_138 : decode cX0_layClasses 138 = .ok (.getfield 111, 3) := dk_180 0 111 (dk_at dksX0_layClasses_5 20 rfl rfl)
theorem dX0_layClasses_141 : decode cX0_layClasses 141 = .ok (.iload_n 3, 1) := dk_29 (dk_at dksX0_layClasses_5 23 rfl rfl)
theorem dX0_layClasses_142 : decode cX0_layClasses 142 = .ok (.iaload, 1) := dk_46 (dk_at dksX0_layClasses_6 0 rfl rfl)
theorem dX0_layClasses_143 : decode cX0_layClasses 143 = .ok (.goto 4, 3) := dk_167 0 4 (dk_at dksX0_layClasses_6 1 rfl rfl)
theorem dX0_layClasses_146 : decode cX0_layClasses 146 = .ok (.iconst 0, 1) := dk_3 (dk_at dksX0_layClasses_6 4 rfl rfl)
theorem dX0_layClasses_147 : decode cX0_layClasses 147 = .ok (.ior, 1) := dk_128 (dk_at dksX0_layClasses_6 5 rfl rfl)
theorem dX0_layClasses_148 : decode cX0_layClasses 148 = .ok (.iastore, 1) := dk_79 (dk_at dksX0_layClasses_6 6 rfl rfl)
theorem dX0_layClasses_149 : decode cX0_layClasses 149 = .ok (.iinc 3 1, 3) := dk_132 3 1 (dk_at dksX0_layClasses_6 7 rfl rfl)
theorem dX0_layClasses_152 : decode cX0_layClasses 152 = .ok (.goto (-40), 3) := dk_167 255 216 (dk_at dksX0_layClasses_6 10 rfl rfl)
theorem dX0_layClasses_155 : decode cX0_layClasses 155 = .ok (.iinc 2 1, 3) := dk_132 2 1 (dk_at dksX0_layClasses_6 13 rfl rfl)
theorem dX0_layClasses_158 : decode cX0_layClasses 158 = .ok (.goto (-68), 3) := dk_167 255 188 (dk_at dksX0_layClasses_6 16 rfl rfl)
theorem dX0_layClasses_161 : decode cX0_layClasses 161 = .ok (.return_, 1) := dk_177 (dk_at dksX0_layClasses_6 19 rfl rfl)
abbrev cX0_layInstance : ByteArray := prog_1_method_26_code
def yX0_layInstance : MethodName := ⟨RX0, "layInstance", "(II)V"⟩
def dkwX0_layInstance_6 : List UInt8 := [167, 255, 194, 42, 180, 0, 114, 27, 45, 83, 177]
abbrev dktX0_layInstance_6 : List UInt8 := dkwX0_layInstance_6 ++ []
def dkwX0_layInstance_5 : List UInt8 := [180, 0, 121, 42, 180, 0, 228, 5, 21, 4, 104, 96, 4, 96, 46, 16, 120, 100, 79, 132, 4, 1]
abbrev dktX0_layInstance_5 : List UInt8 := dkwX0_layInstance_5 ++ dktX0_layInstance_6
def dkwX0_layInstance_4 : List UInt8 := [180, 0, 121, 42, 180, 0, 228, 5, 21, 4, 104, 96, 46, 16, 48, 100, 79, 45, 180, 1, 4, 21, 4, 42]
abbrev dktX0_layInstance_4 : List UInt8 := dkwX0_layInstance_4 ++ dktX0_layInstance_5
def dkwX0_layInstance_3 : List UInt8 := [181, 0, 254, 3, 54, 4, 21, 4, 45, 180, 0, 254, 162, 0, 59, 45, 180, 1, 1, 21, 4, 42]
abbrev dktX0_layInstance_3 : List UInt8 := dkwX0_layInstance_3 ++ dktX0_layInstance_4
def dkwX0_layInstance_2 : List UInt8 := [27, 46, 5, 96, 181, 0, 228, 45, 42, 182, 0, 231, 181, 0, 251, 45, 28, 42, 180, 0, 228, 100, 5, 108]
abbrev dktX0_layInstance_2 : List UInt8 := dkwX0_layInstance_2 ++ dktX0_layInstance_3
def dkwX0_layInstance_1 : List UInt8 := [42, 180, 0, 121, 42, 180, 0, 124, 27, 46, 4, 96, 46, 16, 48, 100, 181, 0, 248, 42, 42, 180, 0, 124]
abbrev dktX0_layInstance_1 : List UInt8 := dkwX0_layInstance_1 ++ dktX0_layInstance_2
def dkwX0_layInstance_0 : List UInt8 := [42, 180, 0, 121, 42, 180, 0, 124, 27, 46, 46, 184, 0, 203, 184, 0, 241, 78, 45, 27, 181, 0, 245, 45]
abbrev dktX0_layInstance_0 : List UInt8 := dkwX0_layInstance_0 ++ dktX0_layInstance_1
theorem dksX0_layInstance_0 : cX0_layInstance.data.toList.drop 0 = dktX0_layInstance_0 := by decide +kernel
theorem dksX0_layInstance_1 : cX0_layInstance.data.toList.drop 24 = dktX0_layInstance_1 := dk_seg dksX0_layInstance_0 24 rfl rfl
theorem dksX0_layInstance_2 : cX0_layInstance.data.toList.drop 48 = dktX0_layInstance_2 := dk_seg dksX0_layInstance_1 24 rfl rfl
theorem dksX0_layInstance_3 : cX0_layInstance.data.toList.drop 72 = dktX0_layInstance_3 := dk_seg dksX0_layInstance_2 24 rfl rfl
theorem dksX0_layInstance_4 : cX0_layInstance.data.toList.drop 94 = dktX0_layInstance_4 := dk_seg dksX0_layInstance_3 22 rfl rfl
theorem dksX0_layInstance_5 : cX0_layInstance.data.toList.drop 118 = dktX0_layInstance_5 := dk_seg dksX0_layInstance_4 24 rfl rfl
theorem dksX0_layInstance_6 : cX0_layInstance.data.toList.drop 140 = dktX0_layInstance_6 := dk_seg dksX0_layInstance_5 22 rfl rfl
theorem dX0_layInstance_0 : decode cX0_layInstance 0 = .ok (.aload_n 0, 1) := dk_42 (dk_at dksX0_layInstance_0 0 rfl rfl)
theorem dX0_layInstance_1 : decode cX0_layInstance 1 = .ok (.getfield 121, 3) := dk_180 0 121 (dk_at dksX0_layInstance_0 1 rfl rfl)
theorem dX0_layInstance_4 : decode cX0_layInstance 4 = .ok (.aload_n 0, 1) := dk_42 (dk_at dksX0_layInstance_0 4 rfl rfl)
theorem dX0_layInstance_5 : decode cX0_layInstance 5 = .ok (.getfield 124, 3) := dk_180 0 124 (dk_at dksX0_layInstance_0 5 rfl rfl)
theorem dX0_layInstance_8 : decode cX0_layInstance 8 = .ok (.iload_n 1, 1) := dk_27 (dk_at dksX0_layInstance_0 8 rfl rfl)
theorem dX0_layInstance_9 : decode cX0_layInstance 9 = .ok (.iaload, 1) := dk_46 (dk_at dksX0_layInstance_0 9 rfl rfl)
theorem dX0_layInstance_10 : decode cX0_layInstance 10 = .ok (.iaload, 1) := dk_46 (dk_at dksX0_layInstance_0 10 rfl rfl)
theorem dX0_layInstance_11 : decode cX0_layInstance 11 = .ok (.invokestatic 203, 3) := dk_184 0 203 (dk_at dksX0_layInstance_0 11 rfl rfl)
theorem dX0_layInstance_14 : decode cX0_layInstance 14 = .ok (.invokestatic 241, 3) := dk_184 0 241 (dk_at dksX0_layInstance_0 14 rfl rfl)
theorem dX0_layInstance_17 : decode cX0_layInstance 17 = .ok (.astore_n 3, 1) := dk_78 (dk_at dksX0_layInstance_0 17 rfl rfl)
theorem dX0_layInstance_18 : decode cX0_layInstance 18 = .ok (.aload_n 3, 1) := dk_45 (dk_at dksX0_layInstance_0 18 rfl rfl)
theorem dX0_layInstance_19 : decode cX0_layInstance 19 = .ok (.iload_n 1, 1) := dk_27 (dk_at dksX0_layInstance_0 19 rfl rfl)
theorem dX0_layInstance_20 : decode cX0_layInstance 20 = .ok (.putfield 245, 3) := dk_181 0 245 (dk_at dksX0_layInstance_0 20 rfl rfl)
theorem dX0_layInstance_23 : decode cX0_layInstance 23 = .ok (.aload_n 3, 1) := dk_45 (dk_at dksX0_layInstance_0 23 rfl rfl)
theorem dX0_layInstance_24 : decode cX0_layInstance 24 = .ok (.aload_n 0, 1) := dk_42 (dk_at dksX0_layInstance_1 0 rfl rfl)
theorem dX0_layInstance_25 : decode cX0_layInstance 25 = .ok (.getfield 121, 3) := dk_180 0 121 (dk_at dksX0_layInstance_1 1 rfl rfl)
theorem dX0_layInstance_28 : decode cX0_layInstance 28 = .ok (.aload_n 0, 1) := dk_42 (dk_at dksX0_layInstance_1 4 rfl rfl)
theorem dX0_layInstance_29 : decode cX0_layInstance 29 = .ok (.getfield 124, 3) := dk_180 0 124 (dk_at dksX0_layInstance_1 5 rfl rfl)
theorem dX0_layInstance_32 : decode cX0_layInstance 32 = .ok (.iload_n 1, 1) := dk_27 (dk_at dksX0_layInstance_1 8 rfl rfl)
theorem dX0_layInstance_33 : decode cX0_layInstance 33 = .ok (.iaload, 1) := dk_46 (dk_at dksX0_layInstance_1 9 rfl rfl)
theorem dX0_layInstance_34 : decode cX0_layInstance 34 = .ok (.iconst 1, 1) := dk_4 (dk_at dksX0_layInstance_1 10 rfl rfl)
theorem dX0_layInstance_35 : decode cX0_layInstance 35 = .ok (.iadd, 1) := dk_96 (dk_at dksX0_layInstance_1 11 rfl rfl)
theorem dX0_layInstance_36 : decode cX0_layInstance 36 = .ok (.iaload, 1) := dk_46 (dk_at dksX0_layInstance_1 12 rfl rfl)
theorem dX0_layInstance_37 : decode cX0_layInstance 37 = .ok (.bipush 48, 2) := dk_16 48 (dk_at dksX0_layInstance_1 13 rfl rfl)
theorem dX0_layInstance_39 : decode cX0_layInstance 39 = .ok (.isub, 1) := dk_100 (dk_at dksX0_layInstance_1 15 rfl rfl)
theorem dX0_layInstance_40 : decode cX0_layInstance 40 = .ok (.putfield 248, 3) := dk_181 0 248 (dk_at dksX0_layInstance_1 16 rfl rfl)
theorem dX0_layInstance_43 : decode cX0_layInstance 43 = .ok (.aload_n 0, 1) := dk_42 (dk_at dksX0_layInstance_1 19 rfl rfl)
theorem dX0_layInstance_44 : decode cX0_layInstance 44 = .ok (.aload_n 0, 1) := dk_42 (dk_at dksX0_layInstance_1 20 rfl rfl)
theorem dX0_layInstance_45 : decode cX0_layInstance 45 = .ok (.getfield 124, 3) := dk_180 0 124 (dk_at dksX0_layInstance_1 21 rfl rfl)
theorem dX0_layInstance_48 : decode cX0_layInstance 48 = .ok (.iload_n 1, 1) := dk_27 (dk_at dksX0_layInstance_2 0 rfl rfl)
theorem dX0_layInstance_49 : decode cX0_layInstance 49 = .ok (.iaload, 1) := dk_46 (dk_at dksX0_layInstance_2 1 rfl rfl)
theorem dX0_layInstance_50 : decode cX0_layInstance 50 = .ok (.iconst 2, 1) := dk_5 (dk_at dksX0_layInstance_2 2 rfl rfl)
theorem dX0_layInstance_51 : decode cX0_layInstance 51 = .ok (.iadd, 1) := dk_96 (dk_at dksX0_layInstance_2 3 rfl rfl)
theorem dX0_layInstance_52 : decode cX0_layInstance 52 = .ok (.putfield 228, 3) := dk_181 0 228 (dk_at dksX0_layInstance_2 4 rfl rfl)
theorem dX0_layInstance_55 : decode cX0_layInstance 55 = .ok (.aload_n 3, 1) := dk_45 (dk_at dksX0_layInstance_2 7 rfl rfl)
theorem dX0_layInstance_56 : decode cX0_layInstance 56 = .ok (.aload_n 0, 1) := dk_42 (dk_at dksX0_layInstance_2 8 rfl rfl)
theorem dX0_layInstance_57 : decode cX0_layInstance 57 = .ok (.invokevirtual 231, 3) := dk_182 0 231 (dk_at dksX0_layInstance_2 9 rfl rfl)
theorem dX0_layInstance_60 : decode cX0_layInstance 60 = .ok (.putfield 251, 3) := dk_181 0 251 (dk_at dksX0_layInstance_2 12 rfl rfl)
theorem dX0_layInstance_63 : decode cX0_layInstance 63 = .ok (.aload_n 3, 1) := dk_45 (dk_at dksX0_layInstance_2 15 rfl rfl)
theorem dX0_layInstance_64 : decode cX0_layInstance 64 = .ok (.iload_n 2, 1) := dk_28 (dk_at dksX0_layInstance_2 16 rfl rfl)
theorem dX0_layInstance_65 : decode cX0_layInstance 65 = .ok (.aload_n 0, 1) := dk_42 (dk_at dksX0_layInstance_2 17 rfl rfl)
theorem dX0_layInstance_66 : decode cX0_layInstance 66 = .ok (.getfield 228, 3) := dk_180 0 228 (dk_at dksX0_layInstance_2 18 rfl rfl)
theorem dX0_layInstance_69 : decode cX0_layInstance 69 = .ok (.isub, 1) := dk_100 (dk_at dksX0_layInstance_2 21 rfl rfl)
theorem dX0_layInstance_70 : decode cX0_layInstance 70 = .ok (.iconst 2, 1) := dk_5 (dk_at dksX0_layInstance_2 22 rfl rfl)
theorem dX0_layInstance_71 : decode cX0_layInstance 71 = .ok (.idiv, 1) := dk_108 (dk_at dksX0_layInstance_2 23 rfl rfl)
theorem dX0_layInstance_72 : decode cX0_layInstance 72 = .ok (.putfield 254, 3) := dk_181 0 254 (dk_at dksX0_layInstance_3 0 rfl rfl)
theorem dX0_layInstance_75 : decode cX0_layInstance 75 = .ok (.iconst 0, 1) := dk_3 (dk_at dksX0_layInstance_3 3 rfl rfl)
theorem dX0_layInstance_76 : decode cX0_layInstance 76 = .ok (.istore 4, 2) := dk_54 4 (dk_at dksX0_layInstance_3 4 rfl rfl)
theorem dX0_layInstance_78 : decode cX0_layInstance 78 = .ok (.iload 4, 2) := dk_21 4 (dk_at dksX0_layInstance_3 6 rfl rfl)
theorem dX0_layInstance_80 : decode cX0_layInstance 80 = .ok (.aload_n 3, 1) := dk_45 (dk_at dksX0_layInstance_3 8 rfl rfl)
theorem dX0_layInstance_81 : decode cX0_layInstance 81 = .ok (.getfield 254, 3) := dk_180 0 254 (dk_at dksX0_layInstance_3 9 rfl rfl)
theorem dX0_layInstance_84 : decode cX0_layInstance 84 = .ok (.if_icmp .ge 59, 3) := dk_162 0 59 (dk_at dksX0_layInstance_3 12 rfl rfl)
theorem dX0_layInstance_87 : decode cX0_layInstance 87 = .ok (.aload_n 3, 1) := dk_45 (dk_at dksX0_layInstance_3 15 rfl rfl)
theorem dX0_layInstance_88 : decode cX0_layInstance 88 = .ok (.getfield 257, 3) := dk_180 1 1 (dk_at dksX0_layInstance_3 16 rfl rfl)
theorem dX0_layInstance_91 : decode cX0_layInstance 91 = .ok (.iload 4, 2) := dk_21 4 (dk_at dksX0_layInstance_3 19 rfl rfl)
theorem dX0_layInstance_93 : decode cX0_layInstance 93 = .ok (.aload_n 0, 1) := dk_42 (dk_at dksX0_layInstance_3 21 rfl rfl)
theorem dX0_layInstance_94 : decode cX0_layInstance 94 = .ok (.getfield 121, 3) := dk_180 0 121 (dk_at dksX0_layInstance_4 0 rfl rfl)
theorem dX0_layInstance_97 : decode cX0_layInstance 97 = .ok (.aload_n 0, 1) := dk_42 (dk_at dksX0_layInstance_4 3 rfl rfl)
theorem dX0_layInstance_98 : decode cX0_layInstance 98 = .ok (.getfield 228, 3) := dk_180 0 228 (dk_at dksX0_layInstance_4 4 rfl rfl)
theorem dX0_layInstance_101 : decode cX0_layInstance 101 = .ok (.iconst 2, 1) := dk_5 (dk_at dksX0_layInstance_4 7 rfl rfl)
theorem dX0_layInstance_102 : decode cX0_layInstance 102 = .ok (.iload 4, 2) := dk_21 4 (dk_at dksX0_layInstance_4 8 rfl rfl)
theorem dX0_layInstance_104 : decode cX0_layInstance 104 = .ok (.imul, 1) := dk_104 (dk_at dksX0_layInstance_4 10 rfl rfl)
theorem dX0_layInstance_105 : decode cX0_layInstance 105 = .ok (.iadd, 1) := dk_96 (dk_at dksX0_layInstance_4 11 rfl rfl)
theorem dX0_layInstance_106 : decode cX0_layInstance 106 = .ok (.iaload, 1) := dk_46 (dk_at dksX0_layInstance_4 12 rfl rfl)
theorem dX0_layInstance_107 : decode cX0_layInstance 107 = .ok (.bipush 48, 2) := dk_16 48 (dk_at dksX0_layInstance_4 13 rfl rfl)
theorem dX0_layInstance_109 : decode cX0_layInstance 109 = .ok (.isub, 1) := dk_100 (dk_at dksX0_layInstance_4 15 rfl rfl)
theorem dX0_layInstance_110 : decode cX0_layInstance 110 = .ok (.iastore, 1) := dk_79 (dk_at dksX0_layInstance_4 16 rfl rfl)
theorem dX0_layInstance_111 : decode cX0_layInstance 111 = .ok (.aload_n 3, 1) := dk_45 (dk_at dksX0_layInstance_4 17 rfl rfl)
theorem dX0_layInstance_112 : decode cX0_layInstance 112 = .ok (.getfield 260, 3) := dk_180 1 4 (dk_at dksX0_layInstance_4 18 rfl rfl)
theorem dX0_layInstance_115 : decode cX0_layInstance 115 = .ok (.iload 4, 2) := dk_21 4 (dk_at dksX0_layInstance_4 21 rfl rfl)
theorem dX0_layInstance_117 : decode cX0_layInstance 117 = .ok (.aload_n 0, 1) := dk_42 (dk_at dksX0_layInstance_4 23 rfl rfl)
theorem dX0_layInstance_118 : decode cX0_layInstance 118 = .ok (.getfield 121, 3) := dk_180 0 121 (dk_at dksX0_layInstance_5 0 rfl rfl)
theorem dX0_layInstance_121 : decode cX0_layInstance 121 = .ok (.aload_n 0, 1) := dk_42 (dk_at dksX0_layInstance_5 3 rfl rfl)
theorem dX0_layInstance_122 : decode cX0_layInstance 122 = .ok (.getfield 228, 3) := dk_180 0 228 (dk_at dksX0_layInstance_5 4 rfl rfl)
theorem dX0_layInstance_125 : decode cX0_layInstance 125 = .ok (.iconst 2, 1) := dk_5 (dk_at dksX0_layInstance_5 7 rfl rfl)
theorem dX0_layInstance_126 : decode cX0_layInstance 126 = .ok (.iload 4, 2) := dk_21 4 (dk_at dksX0_layInstance_5 8 rfl rfl)
theorem dX0_layInstance_128 : decode cX0_layInstance 128 = .ok (.imul, 1) := dk_104 (dk_at dksX0_layInstance_5 10 rfl rfl)
theorem dX0_layInstance_129 : decode cX0_layInstance 129 = .ok (.iadd, 1) := dk_96 (dk_at dksX0_layInstance_5 11 rfl rfl)
theorem dX0_layInstance_130 : decode cX0_layInstance 130 = .ok (.iconst 1, 1) := dk_4 (dk_at dksX0_layInstance_5 12 rfl rfl)
theorem dX0_layInstance_131 : decode cX0_layInstance 131 = .ok (.iadd, 1) := dk_96 (dk_at dksX0_layInstance_5 13 rfl rfl)
theorem dX0_layInstance_132 : decode cX0_layInstance 132 = .ok (.iaload, 1) := dk_46 (dk_at dksX0_layInstance_5 14 rfl rfl)
theorem dX0_layInstance_133 : decode cX0_layInstance 133 = .ok (.bipush 120, 2) := dk_16 120 (dk_at dksX0_layInstance_5 15 rfl rfl)
theorem dX0_layInstance_135 : decode cX0_layInstance 135 = .ok (.isub, 1) := dk_100 (dk_at dksX0_layInstance_5 17 rfl rfl)
theorem dX0_layInstance_136 : decode cX0_layInstance 136 = .ok (.iastore, 1) := dk_79 (dk_at dksX0_layInstance_5 18 rfl rfl)
theorem dX0_layInstance_137 : decode cX0_layInstance 137 = .ok (.iinc 4 1, 3) := dk_132 4 1 (dk_at dksX0_layInstance_5 19 rfl rfl)
theorem dX0_layInstance_140 : decode cX0_layInstance 140 = .ok (.goto (-62), 3) := dk_167 255 194 (dk_at dksX0_layInstance_6 0 rfl rfl)
theorem dX0_layInstance_143 : decode cX0_layInstance 143 = .ok (.aload_n 0, 1) := dk_42 (dk_at dksX0_layInstance_6 3 rfl rfl)
theorem dX0_layInstance_144 : decode cX0_layInstance 144 = .ok (.getfield 114, 3) := dk_180 0 114 (dk_at dksX0_layInstance_6 4 rfl rfl)
theorem dX0_layInstance_147 : decode cX0_layInstance 147 = .ok (.iload_n 1, 1) := dk_27 (dk_at dksX0_layInstance_6 7 rfl rfl)
theorem dX0_layInstance_148 : decode cX0_layInstance 148 = .ok (.aload_n 3, 1) := dk_45 (dk_at dksX0_layInstance_6 8 rfl rfl)
theorem dX0_layInstance_149 : decode cX0_layInstance 149 = .ok (.aastore, 1) := dk_83 (dk_at dksX0_layInstance_6 9 rfl rfl)
theorem dX0_layInstance_150 : decode cX0_layInstance 150 = .ok (.return_, 1) := dk_177 (dk_at dksX0_layInstance_6 10 rfl rfl)
abbrev cX0_made : ByteArray := prog_1_method_13_code
def yX0_made : MethodName := ⟨RX0, "made", "(I)LDictProof$Instance;"⟩
def dkwX0_made_3 : List UInt8 := [187, 0, 94, 89, 183, 0, 96, 176, 187, 0, 97, 89, 183, 0, 99, 176]
abbrev dktX0_made_3 : List UInt8 := dkwX0_made_3 ++ []
def dkwX0_made_2 : List UInt8 := [187, 0, 83, 89, 183, 0, 85, 176, 187, 0, 88, 89, 183, 0, 90, 176, 187, 0, 91, 89, 183, 0, 93, 176]
abbrev dktX0_made_2 : List UInt8 := dkwX0_made_2 ++ dktX0_made_3
def dkwX0_made_1 : List UInt8 := [170, 0, 0, 0, 0, 0, 63, 0, 0, 0, 0, 0, 0, 0, 3, 0, 0, 0, 31, 0, 0, 0, 39, 0, 0, 0, 47, 0, 0, 0, 55]
abbrev dktX0_made_1 : List UInt8 := dkwX0_made_1 ++ dktX0_made_2
def dkwX0_made_0 : List UInt8 := [26]
abbrev dktX0_made_0 : List UInt8 := dkwX0_made_0 ++ dktX0_made_1
theorem dksX0_made_0 : cX0_made.data.toList.drop 0 = dktX0_made_0 := by decide +kernel
theorem dksX0_made_1 : cX0_made.data.toList.drop 1 = dktX0_made_1 := dk_seg dksX0_made_0 1 rfl rfl
theorem dksX0_made_2 : cX0_made.data.toList.drop 32 = dktX0_made_2 := dk_seg dksX0_made_1 31 rfl rfl
theorem dksX0_made_3 : cX0_made.data.toList.drop 56 = dktX0_made_3 := dk_seg dksX0_made_2 24 rfl rfl
theorem dX0_made_0 : decode cX0_made 0 = .ok (.iload_n 0, 1) := dk_26 (dk_at dksX0_made_0 0 rfl rfl)
theorem dX0_made_1 : decode cX0_made 1 = .ok (.tableswitch 63 0 3 #[31, 39, 47, 55], 31) := by decide +kernel
theorem dX0_made_32 : decode cX0_made 32 = .ok (.new 83, 3) := dk_187 0 83 (dk_at dksX0_made_2 0 rfl rfl)
theorem dX0_made_35 : decode cX0_made 35 = .ok (.dup, 1) := dk_89 (dk_at dksX0_made_2 3 rfl rfl)
theorem dX0_made_36 : decode cX0_made 36 = .ok (.invokespecial 85, 3) := dk_183 0 85 (dk_at dksX0_made_2 4 rfl rfl)
theorem dX0_made_39 : decode cX0_made 39 = .ok (.areturn, 1) := dk_176 (dk_at dksX0_made_2 7 rfl rfl)
theorem dX0_made_40 : decode cX0_made 40 = .ok (.new 88, 3) := dk_187 0 88 (dk_at dksX0_made_2 8 rfl rfl)
theorem dX0_made_43 : decode cX0_made 43 = .ok (.dup, 1) := dk_89 (dk_at dksX0_made_2 11 rfl rfl)
theorem dX0_made_44 : decode cX0_made 44 = .ok (.invokespecial 90, 3) := dk_183 0 90 (dk_at dksX0_made_2 12 rfl rfl)
theorem dX0_made_47 : decode cX0_made 47 = .ok (.areturn, 1) := dk_176 (dk_at dksX0_made_2 15 rfl rfl)
theorem dX0_made_48 : decode cX0_made 48 = .ok (.new 91, 3) := dk_187 0 91 (dk_at dksX0_made_2 16 rfl rfl)
theorem dX0_made_51 : decode cX0_made 51 = .ok (.dup, 1) := dk_89 (dk_at dksX0_made_2 19 rfl rfl)
theorem dX0_made_52 : decode cX0_made 52 = .ok (.invokespecial 93, 3) := dk_183 0 93 (dk_at dksX0_made_2 20 rfl rfl)
theorem dX0_made_55 : decode cX0_made 55 = .ok (.areturn, 1) := dk_176 (dk_at dksX0_made_2 23 rfl rfl)
theorem dX0_made_56 : decode cX0_made 56 = .ok (.new 94, 3) := dk_187 0 94 (dk_at dksX0_made_3 0 rfl rfl)
theorem dX0_made_59 : decode cX0_made 59 = .ok (.dup, 1) := dk_89 (dk_at dksX0_made_3 3 rfl rfl)
theorem dX0_made_60 : decode cX0_made 60 = .ok (.invokespecial 96, 3) := dk_183 0 96 (dk_at dksX0_made_3 4 rfl rfl)
theorem dX0_made_63 : decode cX0_made 63 = .ok (.areturn, 1) := dk_176 (dk_at dksX0_made_3 7 rfl rfl)
theorem dX0_made_64 : decode cX0_made 64 = .ok (.new 97, 3) := dk_187 0 97 (dk_at dksX0_made_3 8 rfl rfl)
theorem dX0_made_67 : decode cX0_made 67 = .ok (.dup, 1) := dk_89 (dk_at dksX0_made_3 11 rfl rfl)
theorem dX0_made_68 : decode cX0_made 68 = .ok (.invokespecial 99, 3) := dk_183 0 99 (dk_at dksX0_made_3 12 rfl rfl)
theorem dX0_made_71 : decode cX0_made 71 = .ok (.areturn, 1) := dk_176 (dk_at dksX0_made_3 15 rfl rfl)
abbrev cX0_read : ByteArray := prog_1_method_24_code
def yX0_read : MethodName := ⟨RX0, "read", "()LDictProof$Term;"⟩
def dkwX0_read_2 : List UInt8 := [167, 0, 4, 1, 78, 187, 0, 12, 89, 27, 44, 45, 183, 0, 235, 176]
abbrev dktX0_read_2 : List UInt8 := dkwX0_read_2 ++ []
def dkwX0_read_1 : List UInt8 := [158, 0, 10, 42, 182, 0, 231, 167, 0, 4, 1, 77, 27, 184, 0, 1, 4, 164, 0, 10, 42, 182, 0, 231]
abbrev dktX0_read_1 : List UInt8 := dkwX0_read_1 ++ dktX0_read_2
def dkwX0_read_0 : List UInt8 := [42, 180, 0, 121, 42, 180, 0, 228, 46, 60, 42, 89, 180, 0, 228, 4, 96, 181, 0, 228, 27, 184, 0, 1]
abbrev dktX0_read_0 : List UInt8 := dkwX0_read_0 ++ dktX0_read_1
theorem dksX0_read_0 : cX0_read.data.toList.drop 0 = dktX0_read_0 := by decide +kernel
theorem dksX0_read_1 : cX0_read.data.toList.drop 24 = dktX0_read_1 := dk_seg dksX0_read_0 24 rfl rfl
theorem dksX0_read_2 : cX0_read.data.toList.drop 48 = dktX0_read_2 := dk_seg dksX0_read_1 24 rfl rfl
theorem dX0_read_0 : decode cX0_read 0 = .ok (.aload_n 0, 1) := dk_42 (dk_at dksX0_read_0 0 rfl rfl)
theorem dX0_read_1 : decode cX0_read 1 = .ok (.getfield 121, 3) := dk_180 0 121 (dk_at dksX0_read_0 1 rfl rfl)
theorem dX0_read_4 : decode cX0_read 4 = .ok (.aload_n 0, 1) := dk_42 (dk_at dksX0_read_0 4 rfl rfl)
theorem dX0_read_5 : decode cX0_read 5 = .ok (.getfield 228, 3) := dk_180 0 228 (dk_at dksX0_read_0 5 rfl rfl)
theorem dX0_read_8 : decode cX0_read 8 = .ok (.iaload, 1) := dk_46 (dk_at dksX0_read_0 8 rfl rfl)
theorem dX0_read_9 : decode cX0_read 9 = .ok (.istore_n 1, 1) := dk_60 (dk_at dksX0_read_0 9 rfl rfl)
theorem dX0_read_10 : decode cX0_read 10 = .ok (.aload_n 0, 1) := dk_42 (dk_at dksX0_read_0 10 rfl rfl)
theorem dX0_read_11 : decode cX0_read 11 = .ok (.dup, 1) := dk_89 (dk_at dksX0_read_0 11 rfl rfl)
theorem dX0_read_12 : decode cX0_read 12 = .ok (.getfield 228, 3) := dk_180 0 228 (dk_at dksX0_read_0 12 rfl rfl)
theorem dX0_read_15 : decode cX0_read 15 = .ok (.iconst 1, 1) := dk_4 (dk_at dksX0_read_0 15 rfl rfl)
theorem dX0_read_16 : decode cX0_read 16 = .ok (.iadd, 1) := dk_96 (dk_at dksX0_read_0 16 rfl rfl)
theorem dX0_read_17 : decode cX0_read 17 = .ok (.putfield 228, 3) := dk_181 0 228 (dk_at dksX0_read_0 17 rfl rfl)
theorem dX0_read_20 : decode cX0_read 20 = .ok (.iload_n 1, 1) := dk_27 (dk_at dksX0_read_0 20 rfl rfl)
theorem dX0_read_21 : decode cX0_read 21 = .ok (.invokestatic 1, 3) := dk_184 0 1 (dk_at dksX0_read_0 21 rfl rfl)
theorem dX0_read_24 : decode cX0_read 24 = .ok (.ifCond .le 10, 3) := dk_158 0 10 (dk_at dksX0_read_1 0 rfl rfl)
theorem dX0_read_27 : decode cX0_read 27 = .ok (.aload_n 0, 1) := dk_42 (dk_at dksX0_read_1 3 rfl rfl)
theorem dX0_read_28 : decode cX0_read 28 = .ok (.invokevirtual 231, 3) := dk_182 0 231 (dk_at dksX0_read_1 4 rfl rfl)
theorem dX0_read_31 : decode cX0_read 31 = .ok (.goto 4, 3) := dk_167 0 4 (dk_at dksX0_read_1 7 rfl rfl)
theorem dX0_read_34 : decode cX0_read 34 = .ok (.aconst_null, 1) := dk_1 (dk_at dksX0_read_1 10 rfl rfl)
theorem dX0_read_35 : decode cX0_read 35 = .ok (.astore_n 2, 1) := dk_77 (dk_at dksX0_read_1 11 rfl rfl)
theorem dX0_read_36 : decode cX0_read 36 = .ok (.iload_n 1, 1) := dk_27 (dk_at dksX0_read_1 12 rfl rfl)
theorem dX0_read_37 : decode cX0_read 37 = .ok (.invokestatic 1, 3) := dk_184 0 1 (dk_at dksX0_read_1 13 rfl rfl)
theorem dX0_read_40 : decode cX0_read 40 = .ok (.iconst 1, 1) := dk_4 (dk_at dksX0_read_1 16 rfl rfl)
theorem dX0_read_41 : decode cX0_read 41 = .ok (.if_icmp .le 10, 3) := dk_164 0 10 (dk_at dksX0_read_1 17 rfl rfl)
theorem dX0_read_44 : decode cX0_read 44 = .ok (.aload_n 0, 1) := dk_42 (dk_at dksX0_read_1 20 rfl rfl)
theorem dX0_read_45 : decode cX0_read 45 = .ok (.invokevirtual 231, 3) := dk_182 0 231 (dk_at dksX0_read_1 21 rfl rfl)
theorem dX0_read_48 : decode cX0_read 48 = .ok (.goto 4, 3) := dk_167 0 4 (dk_at dksX0_read_2 0 rfl rfl)
theorem dX0_read_51 : decode cX0_read 51 = .ok (.aconst_null, 1) := dk_1 (dk_at dksX0_read_2 3 rfl rfl)
theorem dX0_read_52 : decode cX0_read 52 = .ok (.astore_n 3, 1) := dk_78 (dk_at dksX0_read_2 4 rfl rfl)
theorem dX0_read_53 : decode cX0_read 53 = .ok (.new 12, 3) := dk_187 0 12 (dk_at dksX0_read_2 5 rfl rfl)
theorem dX0_read_56 : decode cX0_read 56 = .ok (.dup, 1) := dk_89 (dk_at dksX0_read_2 8 rfl rfl)
theorem dX0_read_57 : decode cX0_read 57 = .ok (.iload_n 1, 1) := dk_27 (dk_at dksX0_read_2 9 rfl rfl)
theorem dX0_read_58 : decode cX0_read 58 = .ok (.aload_n 2, 1) := dk_44 (dk_at dksX0_read_2 10 rfl rfl)
theorem dX0_read_59 : decode cX0_read 59 = .ok (.aload_n 3, 1) := dk_45 (dk_at dksX0_read_2 11 rfl rfl)
theorem dX0_read_60 : decode cX0_read 60 = .ok (.invokespecial 235, 3) := dk_183 0 235 (dk_at dksX0_read_2 12 rfl rfl)
theorem dX0_read_63 : decode cX0_read 63 = .ok (.areturn, 1) := dk_176 (dk_at dksX0_read_2 15 rfl rfl)
abbrev cX0_layPairs : ByteArray := prog_1_method_57_code
def yX0_layPairs : MethodName := ⟨RX0, "layPairs", "()V"⟩
def dkwX0_layPairs_5 : List UInt8 := [50, 180, 0, 251, 184, 1, 185, 153, 0, 7, 4, 167, 0, 4, 3, 84, 132, 1, 1, 167, 255, 120, 177]
abbrev dktX0_layPairs_5 : List UInt8 := dkwX0_layPairs_5 ++ []
def dkwX0_layPairs_4 : List UInt8 := [42, 180, 0, 136, 27, 21, 4, 153, 0, 31, 42, 180, 0, 114, 28, 50, 180, 0, 251, 42, 180, 0, 114, 29]
abbrev dktX0_layPairs_4 : List UInt8 := dkwX0_layPairs_4 ++ dktX0_layPairs_5
def dkwX0_layPairs_3 : List UInt8 := [50, 180, 0, 251, 5, 187, 0, 48, 89, 183, 0, 127, 184, 0, 79, 153, 0, 7, 4, 167, 0, 4, 3, 84]
abbrev dktX0_layPairs_3 : List UInt8 := dkwX0_layPairs_3 ++ dktX0_layPairs_4
def dkwX0_layPairs_2 : List UInt8 := [180, 0, 132, 27, 21, 4, 153, 0, 40, 42, 180, 0, 114, 28, 50, 180, 0, 251, 3, 42, 180, 0, 114, 29]
abbrev dktX0_layPairs_2 : List UInt8 := dkwX0_layPairs_2 ++ dktX0_layPairs_3
def dkwX0_layPairs_1 : List UInt8 := [162, 0, 20, 29, 42, 180, 1, 12, 162, 0, 12, 28, 29, 159, 0, 7, 4, 167, 0, 4, 3, 54, 4, 42]
abbrev dktX0_layPairs_1 : List UInt8 := dkwX0_layPairs_1 ++ dktX0_layPairs_2
def dkwX0_layPairs_0 : List UInt8 := [3, 60, 27, 16, 36, 162, 0, 136, 27, 16, 6, 108, 61, 27, 16, 6, 112, 62, 28, 42, 180, 1, 12]
abbrev dktX0_layPairs_0 : List UInt8 := dkwX0_layPairs_0 ++ dktX0_layPairs_1
theorem dksX0_layPairs_0 : cX0_layPairs.data.toList.drop 0 = dktX0_layPairs_0 := by decide +kernel
theorem dksX0_layPairs_1 : cX0_layPairs.data.toList.drop 23 = dktX0_layPairs_1 := dk_seg dksX0_layPairs_0 23 rfl rfl
theorem dksX0_layPairs_2 : cX0_layPairs.data.toList.drop 47 = dktX0_layPairs_2 := dk_seg dksX0_layPairs_1 24 rfl rfl
theorem dksX0_layPairs_3 : cX0_layPairs.data.toList.drop 71 = dktX0_layPairs_3 := dk_seg dksX0_layPairs_2 24 rfl rfl
theorem dksX0_layPairs_4 : cX0_layPairs.data.toList.drop 95 = dktX0_layPairs_4 := dk_seg dksX0_layPairs_3 24 rfl rfl
theorem dksX0_layPairs_5 : cX0_layPairs.data.toList.drop 119 = dktX0_layPairs_5 := dk_seg dksX0_layPairs_4 24 rfl rfl
theorem dX0_layPairs_0 : decode cX0_layPairs 0 = .ok (.iconst 0, 1) := dk_3 (dk_at dksX0_layPairs_0 0 rfl rfl)
theorem dX0_layPairs_1 : decode cX0_layPairs 1 = .ok (.istore_n 1, 1) := dk_60 (dk_at dksX0_layPairs_0 1 rfl rfl)
theorem dX0_layPairs_2 : decode cX0_layPairs 2 = .ok (.iload_n 1, 1) := dk_27 (dk_at dksX0_layPairs_0 2 rfl rfl)
theorem dX0_layPairs_3 : decode cX0_layPairs 3 = .ok (.bipush 36, 2) := dk_16 36 (dk_at dksX0_layPairs_0 3 rfl rfl)
theorem dX0_layPairs_5 : decode cX0_layPairs 5 = .ok (.if_icmp .ge 136, 3) := dk_162 0 136 (dk_at dksX0_layPairs_0 5 rfl rfl)
theorem dX0_layPairs_8 : decode cX0_layPairs 8 = .ok (.iload_n 1, 1) := dk_27 (dk_at dksX0_layPairs_0 8 rfl rfl)
theorem dX0_layPairs_9 : decode cX0_layPairs 9 = .ok (.bipush 6, 2) := dk_16 6 (dk_at dksX0_layPairs_0 9 rfl rfl)
theorem dX0_layPairs_11 : decode cX0_layPairs 11 = .ok (.idiv, 1) := dk_108 (dk_at dksX0_layPairs_0 11 rfl rfl)
theorem dX0_layPairs_12 : decode cX0_layPairs 12 = .ok (.istore_n 2, 1) := dk_61 (dk_at dksX0_layPairs_0 12 rfl rfl)
theorem dX0_layPairs_13 : decode cX0_layPairs 13 = .ok (.iload_n 1, 1) := dk_27 (dk_at dksX0_layPairs_0 13 rfl rfl)
theorem dX0_layPairs_14 : decode cX0_layPairs 14 = .ok (.bipush 6, 2) := dk_16 6 (dk_at dksX0_layPairs_0 14 rfl rfl)
theorem dX0_layPairs_16 : decode cX0_layPairs 16 = .ok (.irem, 1) := dk_112 (dk_at dksX0_layPairs_0 16 rfl rfl)
theorem dX0_layPairs_17 : decode cX0_layPairs 17 = .ok (.istore_n 3, 1) := dk_62 (dk_at dksX0_layPairs_0 17 rfl rfl)
theorem dX0_layPairs_18 : decode cX0_layPairs 18 = .ok (.iload_n 2, 1) := dk_28 (dk_at dksX0_layPairs_0 18 rfl rfl)
theorem dX0_layPairs_19 : decode cX0_layPairs 19 = .ok (.aload_n 0, 1) := dk_42 (dk_at dksX0_layPairs_0 19 rfl rfl)
theorem dX0_layPairs_20 : decode cX0_layPairs 20 = .ok (.getfield 268, 3) := dk_180 1 12 (dk_at dksX0_layPairs_0 20 rfl rfl)
theorem dX0_layPairs_23 : decode cX0_layPairs 23 = .ok (.if_icmp .ge 20, 3) := dk_162 0 20 (dk_at dksX0_layPairs_1 0 rfl rfl)
theorem dX0_layPairs_26 : decode cX0_layPairs 26 = .ok (.iload_n 3, 1) := dk_29 (dk_at dksX0_layPairs_1 3 rfl rfl)
theorem dX0_layPairs_27 : decode cX0_layPairs 27 = .ok (.aload_n 0, 1) := dk_42 (dk_at dksX0_layPairs_1 4 rfl rfl)
theorem dX0_layPairs_28 : decode cX0_layPairs 28 = .ok (.getfield 268, 3) := dk_180 1 12 (dk_at dksX0_layPairs_1 5 rfl rfl)
theorem dX0_layPairs_31 : decode cX0_layPairs 31 = .ok (.if_icmp .ge 12, 3) := dk_162 0 12 (dk_at dksX0_layPairs_1 8 rfl rfl)
theorem dX0_layPairs_34 : decode cX0_layPairs 34 = .ok (.iload_n 2, 1) := dk_28 (dk_at dksX0_layPairs_1 11 rfl rfl)
theorem dX0_layPairs_35 : decode cX0_layPairs 35 = .ok (.iload_n 3, 1) := dk_29 (dk_at dksX0_layPairs_1 12 rfl rfl)
theorem dX0_layPairs_36 : decode cX0_layPairs 36 = .ok (.if_icmp .eq 7, 3) := dk_159 0 7 (dk_at dksX0_layPairs_1 13 rfl rfl)
theorem dX0_layPairs_39 : decode cX0_layPairs 39 = .ok (.iconst 1, 1) := dk_4 (dk_at dksX0_layPairs_1 16 rfl rfl)
theorem dX0_layPairs_40 : decode cX0_layPairs 40 = .ok (.goto 4, 3) := dk_167 0 4 (dk_at dksX0_layPairs_1 17 rfl rfl)
theorem dX0_layPairs_43 : decode cX0_layPairs 43 = .ok (.iconst 0, 1) := dk_3 (dk_at dksX0_layPairs_1 20 rfl rfl)
theorem dX0_layPairs_44 : decode cX0_layPairs 44 = .ok (.istore 4, 2) := dk_54 4 (dk_at dksX0_layPairs_1 21 rfl rfl)
theorem dX0_layPairs_46 : decode cX0_layPairs 46 = .ok (.aload_n 0, 1) := dk_42 (dk_at dksX0_layPairs_1 23 rfl rfl)
theorem dX0_layPairs_47 : decode cX0_layPairs 47 = .ok (.getfield 132, 3) := dk_180 0 132 (dk_at dksX0_layPairs_2 0 rfl rfl)
theorem dX0_layPairs_50 : decode cX0_layPairs 50 = .ok (.iload_n 1, 1) := dk_27 (dk_at dksX0_layPairs_2 3 rfl rfl)
theorem dX0_layPairs_51 : decode cX0_layPairs 51 = .ok (.iload 4, 2) := dk_21 4 (dk_at dksX0_layPairs_2 4 rfl rfl)
theorem dX0_layPairs_53 : decode cX0_layPairs 53 = .ok (.ifCond .eq 40, 3) := dk_153 0 40 (dk_at dksX0_layPairs_2 6 rfl rfl)
theorem dX0_layPairs_56 : decode cX0_layPairs 56 = .ok (.aload_n 0, 1) := dk_42 (dk_at dksX0_layPairs_2 9 rfl rfl)
theorem dX0_layPairs_57 : decode cX0_layPairs 57 = .ok (.getfield 114, 3) := dk_180 0 114 (dk_at dksX0_layPairs_2 10 rfl rfl)
theorem dX0_layPairs_60 : decode cX0_layPairs 60 = .ok (.iload_n 2, 1) := dk_28 (dk_at dksX0_layPairs_2 13 rfl rfl)
theorem dX0_layPairs_61 : decode cX0_layPairs 61 = .ok (.aaload, 1) := dk_50 (dk_at dksX0_layPairs_2 14 rfl rfl)
theorem dX0_layPairs_62 : decode cX0_layPairs 62 = .ok (.getfield 251, 3) := dk_180 0 251 (dk_at dksX0_layPairs_2 15 rfl rfl)
theorem dX0_layPairs_65 : decode cX0_layPairs 65 = .ok (.iconst 0, 1) := dk_3 (dk_at dksX0_layPairs_2 18 rfl rfl)
theorem dX0_layPairs_66 : decode cX0_layPairs 66 = .ok (.aload_n 0, 1) := dk_42 (dk_at dksX0_layPairs_2 19 rfl rfl)
theorem dX0_layPairs_67 : decode cX0_layPairs 67 = .ok (.getfield 114, 3) := dk_180 0 114 (dk_at dksX0_layPairs_2 20 rfl rfl)
theorem dX0_layPairs_70 : decode cX0_layPairs 70 = .ok (.iload_n 3, 1) := dk_29 (dk_at dksX0_layPairs_2 23 rfl rfl)
theorem dX0_layPairs_71 : decode cX0_layPairs 71 = .ok (.aaload, 1) := dk_50 (dk_at dksX0_layPairs_3 0 rfl rfl)
theorem dX0_layPairs_72 : decode cX0_layPairs 72 = .ok (.getfield 251, 3) := dk_180 0 251 (dk_at dksX0_layPairs_3 1 rfl rfl)
theorem dX0_layPairs_75 : decode cX0_layPairs 75 = .ok (.iconst 2, 1) := dk_5 (dk_at dksX0_layPairs_3 4 rfl rfl)
theorem dX0_layPairs_76 : decode cX0_layPairs 76 = .ok (.new 48, 3) := dk_187 0 48 (dk_at dksX0_layPairs_3 5 rfl rfl)
theorem dX0_layPairs_79 : decode cX0_layPairs 79 = .ok (.dup, 1) := dk_89 (dk_at dksX0_layPairs_3 8 rfl rfl)
theorem dX0_layPairs_80 : decode cX0_layPairs 80 = .ok (.invokespecial 127, 3) := dk_183 0 127 (dk_at dksX0_layPairs_3 9 rfl rfl)
theorem dX0_layPairs_83 : decode cX0_layPairs 83 = .ok (.invokestatic 79, 3) := dk_184 0 79 (dk_at dksX0_layPairs_3 12 rfl rfl)
theorem dX0_layPairs_86 : decode cX0_layPairs 86 = .ok (.ifCond .eq 7, 3) := dk_153 0 7 (dk_at dksX0_layPairs_3 15 rfl rfl)
theorem dX0_layPairs_89 : decode cX0_layPairs 89 = .ok (.iconst 1, 1) := dk_4 (dk_at dksX0_layPairs_3 18 rfl rfl)
theorem dX0_layPairs_90 : decode cX0_layPairs 90 = .ok (.goto 4, 3) := dk_167 0 4 (dk_at dksX0_layPairs_3 19 rfl rfl)
theorem dX0_layPairs_93 : decode cX0_layPairs 93 = .ok (.iconst 0, 1) := dk_3 (dk_at dksX0_layPairs_3 22 rfl rfl)
theorem dX0_layPairs_94 : decode cX0_layPairs 94 = .ok (.bastore, 1) := dk_84 (dk_at dksX0_layPairs_3 23 rfl rfl)
theorem dX0_layPairs_95 : decode cX0_layPairs 95 = .ok (.aload_n 0, 1) := dk_42 (dk_at dksX0_layPairs_4 0 rfl rfl)
theorem dX0_layPairs_96 : decode cX0_layPairs 96 = .ok (.getfield 136, 3) := dk_180 0 136 (dk_at dksX0_layPairs_4 1 rfl rfl)
theorem dX0_layPairs_99 : decode cX0_layPairs 99 = .ok (.iload_n 1, 1) := dk_27 (dk_at dksX0_layPairs_4 4 rfl rfl)
theorem dX0_layPairs_100 : decode cX0_layPairs 100 = .ok (.iload 4, 2) := dk_21 4 (dk_at dksX0_layPairs_4 5 rfl rfl)
theorem dX0_layPairs_102 : decode cX0_layPairs 102 = .ok (.ifCond .eq 31, 3) := dk_153 0 31 (dk_at dksX0_layPairs_4 7 rfl rfl)
theorem dX0_layPairs_105 : decode cX0_layPairs 105 = .ok (.aload_n 0, 1) := dk_42 (dk_at dksX0_layPairs_4 10 rfl rfl)
theorem dX0_layPairs_106 : decode cX0_layPairs 106 = .ok (.getfield 114, 3) := dk_180 0 114 (dk_at dksX0_layPairs_4 11 rfl rfl)
theorem dX0_layPairs_109 : decode cX0_layPairs 109 = .ok (.iload_n 2, 1) := dk_28 (dk_at dksX0_layPairs_4 14 rfl rfl)
theorem dX0_layPairs_110 : decode cX0_layPairs 110 = .ok (.aaload, 1) := dk_50 (dk_at dksX0_layPairs_4 15 rfl rfl)
theorem dX0_layPairs_111 : decode cX0_layPairs 111 = .ok (.getfield 251, 3) := dk_180 0 251 (dk_at dksX0_layPairs_4 16 rfl rfl)
theorem dX0_layPairs_114 : decode cX0_layPairs 114 = .ok (.aload_n 0, 1) := dk_42 (dk_at dksX0_layPairs_4 19 rfl rfl)
theorem dX0_layPairs_115 : decode cX0_layPairs 115 = .ok (.getfield 114, 3) := dk_180 0 114 (dk_at dksX0_layPairs_4 20 rfl rfl)
theorem dX0_layPairs_118 : decode cX0_layPairs 118 = .ok (.iload_n 3, 1) := dk_29 (dk_at dksX0_layPairs_4 23 rfl rfl)
theorem dX0_layPairs_119 : decode cX0_layPairs 119 = .ok (.aaload, 1) := dk_50 (dk_at dksX0_layPairs_5 0 rfl rfl)
theorem dX0_layPairs_120 : decode cX0_layPairs 120 = .ok (.getfield 251, 3) := dk_180 0 251 (dk_at dksX0_layPairs_5 1 rfl rfl)
theorem dX0_layPairs_123 : decode cX0_layPairs 123 = .ok (.invokestatic 441, 3) := dk_184 1 185 (dk_at dksX0_layPairs_5 4 rfl rfl)
theorem dX0_layPairs_126 : decode cX0_layPairs 126 = .ok (.ifCond .eq 7, 3) := dk_153 0 7 (dk_at dksX0_layPairs_5 7 rfl rfl)
theorem dX0_layPairs_129 : decode cX0_layPairs 129 = .ok (.iconst 1, 1) := dk_4 (dk_at dksX0_layPairs_5 10 rfl rfl)
theorem dX0_layPairs_130 : decode cX0_layPairs 130 = .ok (.goto 4, 3) := dk_167 0 4 (dk_at dksX0_layPairs_5 11 rfl rfl)
theorem dX0_layPairs_133 : decode cX0_layPairs 133 = .ok (.iconst 0, 1) := dk_3 (dk_at dksX0_layPairs_5 14 rfl rfl)
theorem dX0_layPairs_134 : decode cX0_layPairs 134 = .ok (.bastore, 1) := dk_84 (dk_at dksX0_layPairs_5 15 rfl rfl)
theorem dX0_layPairs_135 : decode cX0_layPairs 135 = .ok (.iinc 1 1, 3) := dk_132 1 1 (dk_at dksX0_layPairs_5 16 rfl rfl)
theorem dX0_layPairs_138 : decode cX0_layPairs 138 = .ok (.goto (-136), 3) := dk_167 255 120 (dk_at dksX0_layPairs_5 19 rfl rfl)
theorem dX0_layPairs_141 : decode cX0_layPairs 141 = .ok (.return_, 1) := dk_177 (dk_at dksX0_layPairs_5 22 rfl rfl)
abbrev cX0_isMade : ByteArray := prog_1_method_12_code
def yX0_isMade : MethodName := ⟨RX0, "isMade", "(LDictProof$Term;ILDictProof$Term;ILjava/util/HashMap;)Z"⟩
def dkwX0_isMade_8 : List UInt8 := [4, 167, 0, 4, 3, 172]
abbrev dktX0_isMade_8 : List UInt8 := dkwX0_isMade_8 ++ []
def dkwX0_isMade_7 : List UInt8 := [180, 0, 64, 25, 6, 180, 0, 61, 180, 0, 33, 25, 6, 180, 0, 64, 25, 4, 184, 0, 79, 153, 0, 7]
abbrev dktX0_isMade_7 : List UInt8 := dkwX0_isMade_7 ++ dktX0_isMade_8
def dkwX0_isMade_6 : List UInt8 := [25, 6, 180, 0, 64, 25, 4, 184, 0, 79, 153, 0, 41, 25, 5, 180, 0, 61, 180, 0, 33, 25, 5]
abbrev dktX0_isMade_6 : List UInt8 := dkwX0_isMade_6 ++ dktX0_isMade_7
def dkwX0_isMade_5 : List UInt8 := [160, 0, 75, 25, 5, 180, 0, 61, 180, 0, 25, 25, 5, 180, 0, 64, 25, 6, 180, 0, 61, 180, 0, 25]
abbrev dktX0_isMade_5 : List UInt8 := dkwX0_isMade_5 ++ dktX0_isMade_6
def dkwX0_isMade_4 : List UInt8 := [25, 5, 25, 4, 184, 0, 75, 172, 25, 5, 180, 0, 61, 180, 0, 21, 25, 6, 180, 0, 61, 180, 0, 21]
abbrev dktX0_isMade_4 : List UInt8 := dkwX0_isMade_4 ++ dktX0_isMade_5
def dkwX0_isMade_3 : List UInt8 := [159, 0, 13, 25, 5, 25, 6, 25, 4, 184, 0, 75, 172, 25, 6, 182, 0, 36, 2, 159, 0, 13, 25, 6]
abbrev dktX0_isMade_3 : List UInt8 := dkwX0_isMade_3 ++ dktX0_isMade_4
def dkwX0_isMade_2 : List UInt8 := [159, 0, 18, 25, 5, 182, 0, 36, 25, 6, 182, 0, 36, 160, 0, 5, 4, 172, 25, 5, 182, 0, 36, 2]
abbrev dktX0_isMade_2 : List UInt8 := dkwX0_isMade_2 ++ dktX0_isMade_3
def dkwX0_isMade_1 : List UInt8 := [187, 0, 37, 89, 44, 29, 183, 0, 53, 25, 4, 184, 0, 57, 58, 6, 25, 5, 182, 0, 36, 2]
abbrev dktX0_isMade_1 : List UInt8 := dkwX0_isMade_1 ++ dktX0_isMade_2
def dkwX0_isMade_0 : List UInt8 := [42, 199, 0, 5, 4, 172, 187, 0, 37, 89, 42, 27, 183, 0, 53, 25, 4, 184, 0, 57, 58, 5]
abbrev dktX0_isMade_0 : List UInt8 := dkwX0_isMade_0 ++ dktX0_isMade_1
theorem dksX0_isMade_0 : cX0_isMade.data.toList.drop 0 = dktX0_isMade_0 := by decide +kernel
theorem dksX0_isMade_1 : cX0_isMade.data.toList.drop 22 = dktX0_isMade_1 := dk_seg dksX0_isMade_0 22 rfl rfl
theorem dksX0_isMade_2 : cX0_isMade.data.toList.drop 44 = dktX0_isMade_2 := dk_seg dksX0_isMade_1 22 rfl rfl
theorem dksX0_isMade_3 : cX0_isMade.data.toList.drop 68 = dktX0_isMade_3 := dk_seg dksX0_isMade_2 24 rfl rfl
theorem dksX0_isMade_4 : cX0_isMade.data.toList.drop 92 = dktX0_isMade_4 := dk_seg dksX0_isMade_3 24 rfl rfl
theorem dksX0_isMade_5 : cX0_isMade.data.toList.drop 116 = dktX0_isMade_5 := dk_seg dksX0_isMade_4 24 rfl rfl
theorem dksX0_isMade_6 : cX0_isMade.data.toList.drop 140 = dktX0_isMade_6 := dk_seg dksX0_isMade_5 24 rfl rfl
theorem dksX0_isMade_7 : cX0_isMade.data.toList.drop 163 = dktX0_isMade_7 := dk_seg dksX0_isMade_6 23 rfl rfl
theorem dksX0_isMade_8 : cX0_isMade.data.toList.drop 187 = dktX0_isMade_8 := dk_seg dksX0_isMade_7 24 rfl rfl
theorem dX0_isMade_0 : decode cX0_isMade 0 = .ok (.aload_n 0, 1) := dk_42 (dk_at dksX0_isMade_0 0 rfl rfl)
theorem dX0_isMade_1 : decode cX0_isMade 1 = .ok (.ifnonnull 5, 3) := dk_199 0 5 (dk_at dksX0_isMade_0 1 rfl rfl)
theorem dX0_isMade_4 : decode cX0_isMade 4 = .ok (.iconst 1, 1) := dk_4 (dk_at dksX0_isMade_0 4 rfl rfl)
theorem dX0_isMade_5 : decode cX0_isMade 5 = .ok (.ireturn, 1) := dk_172 (dk_at dksX0_isMade_0 5 rfl rfl)
theorem dX0_isMade_6 : decode cX0_isMade 6 = .ok (.new 37, 3) := dk_187 0 37 (dk_at dksX0_isMade_0 6 rfl rfl)
theorem dX0_isMade_9 : decode cX0_isMade 9 = .ok (.dup, 1) := dk_89 (dk_at dksX0_isMade_0 9 rfl rfl)
theorem dX0_isMade_10 : decode cX0_isMade 10 = .ok (.aload_n 0, 1) := dk_42 (dk_at dksX0_isMade_0 10 rfl rfl)
theorem dX0_isMade_11 : decode cX0_isMade 11 = .ok (.iload_n 1, 1) := dk_27 (dk_at dksX0_isMade_0 11 rfl rfl)
theorem dX0_isMade_12 : decode cX0_isMade 12 = .ok (.invokespecial 53, 3) := dk_183 0 53 (dk_at dksX0_isMade_0 12 rfl rfl)
theorem dX0_isMade_15 : decode cX0_isMade 15 = .ok (.aload 4, 2) := dk_25 4 (dk_at dksX0_isMade_0 15 rfl rfl)
theorem dX0_isMade_17 : decode cX0_isMade 17 = .ok (.invokestatic 57, 3) := dk_184 0 57 (dk_at dksX0_isMade_0 17 rfl rfl)
theorem dX0_isMade_20 : decode cX0_isMade 20 = .ok (.astore 5, 2) := dk_58 5 (dk_at dksX0_isMade_0 20 rfl rfl)
theorem dX0_isMade_22 : decode cX0_isMade 22 = .ok (.new 37, 3) := dk_187 0 37 (dk_at dksX0_isMade_1 0 rfl rfl)
theorem dX0_isMade_25 : decode cX0_isMade 25 = .ok (.dup, 1) := dk_89 (dk_at dksX0_isMade_1 3 rfl rfl)
theorem dX0_isMade_26 : decode cX0_isMade 26 = .ok (.aload_n 2, 1) := dk_44 (dk_at dksX0_isMade_1 4 rfl rfl)
theorem dX0_isMade_27 : decode cX0_isMade 27 = .ok (.iload_n 3, 1) := dk_29 (dk_at dksX0_isMade_1 5 rfl rfl)
theorem dX0_isMade_28 : decode cX0_isMade 28 = .ok (.invokespecial 53, 3) := dk_183 0 53 (dk_at dksX0_isMade_1 6 rfl rfl)
theorem dX0_isMade_31 : decode cX0_isMade 31 = .ok (.aload 4, 2) := dk_25 4 (dk_at dksX0_isMade_1 9 rfl rfl)
theorem dX0_isMade_33 : decode cX0_isMade 33 = .ok (.invokestatic 57, 3) := dk_184 0 57 (dk_at dksX0_isMade_1 11 rfl rfl)
theorem dX0_isMade_36 : decode cX0_isMade 36 = .ok (.astore 6, 2) := dk_58 6 (dk_at dksX0_isMade_1 14 rfl rfl)
theorem dX0_isMade_38 : decode cX0_isMade 38 = .ok (.aload 5, 2) := dk_25 5 (dk_at dksX0_isMade_1 16 rfl rfl)
theorem dX0_isMade_40 : decode cX0_isMade 40 = .ok (.invokevirtual 36, 3) := dk_182 0 36 (dk_at dksX0_isMade_1 18 rfl rfl)
theorem dX0_isMade_43 : decode cX0_isMade 43 = .ok (.iconst (-1), 1) := dk_2 (dk_at dksX0_isMade_1 21 rfl rfl)
theorem dX0_isMade_44 : decode cX0_isMade 44 = .ok (.if_icmp .eq 18, 3) := dk_159 0 18 (dk_at dksX0_isMade_2 0 rfl rfl)
theorem dX0_isMade_47 : decode cX0_isMade 47 = .ok (.aload 5, 2) := dk_25 5 (dk_at dksX0_isMade_2 3 rfl rfl)
theorem dX0_isMade_49 : decode cX0_isMade 49 = .ok (.invokevirtual 36, 3) := dk_182 0 36 (dk_at dksX0_isMade_2 5 rfl rfl)
theorem dX0_isMade_52 : decode cX0_isMade 52 = .ok (.aload 6, 2) := dk_25 6 (dk_at dksX0_isMade_2 8 rfl rfl)
theorem dX0_isMade_54 : decode cX0_isMade 54 = .ok (.invokevirtual 36, 3) := dk_182 0 36 (dk_at dksX0_isMade_2 10 rfl rfl)
theorem dX0_isMade_57 : decode cX0_isMade 57 = .ok (.if_icmp .ne 5, 3) := dk_160 0 5 (dk_at dksX0_isMade_2 13 rfl rfl)
theorem dX0_isMade_60 : decode cX0_isMade 60 = .ok (.iconst 1, 1) := dk_4 (dk_at dksX0_isMade_2 16 rfl rfl)
theorem dX0_isMade_61 : decode cX0_isMade 61 = .ok (.ireturn, 1) := dk_172 (dk_at dksX0_isMade_2 17 rfl rfl)
theorem dX0_isMade_62 : decode cX0_isMade 62 = .ok (.aload 5, 2) := dk_25 5 (dk_at dksX0_isMade_2 18 rfl rfl)
theorem dX0_isMade_64 : decode cX0_isMade 64 = .ok (.invokevirtual 36, 3) := dk_182 0 36 (dk_at dksX0_isMade_2 20 rfl rfl)
theorem dX0_isMade_67 : decode cX0_isMade 67 = .ok (.iconst (-1), 1) := dk_2 (dk_at dksX0_isMade_2 23 rfl rfl)
theorem dX0_isMade_68 : decode cX0_isMade 68 = .ok (.if_icmp .eq 13, 3) := dk_159 0 13 (dk_at dksX0_isMade_3 0 rfl rfl)
theorem dX0_isMade_71 : decode cX0_isMade 71 = .ok (.aload 5, 2) := dk_25 5 (dk_at dksX0_isMade_3 3 rfl rfl)
theorem dX0_isMade_73 : decode cX0_isMade 73 = .ok (.aload 6, 2) := dk_25 6 (dk_at dksX0_isMade_3 5 rfl rfl)
theorem dX0_isMade_75 : decode cX0_isMade 75 = .ok (.aload 4, 2) := dk_25 4 (dk_at dksX0_isMade_3 7 rfl rfl)
theorem dX0_isMade_77 : decode cX0_isMade 77 = .ok (.invokestatic 75, 3) := dk_184 0 75 (dk_at dksX0_isMade_3 9 rfl rfl)
theorem dX0_isMade_80 : decode cX0_isMade 80 = .ok (.ireturn, 1) := dk_172 (dk_at dksX0_isMade_3 12 rfl rfl)
theorem dX0_isMade_81 : decode cX0_isMade 81 = .ok (.aload 6, 2) := dk_25 6 (dk_at dksX0_isMade_3 13 rfl rfl)
theorem dX0_isMade_83 : decode cX0_isMade 83 = .ok (.invokevirtual 36, 3) := dk_182 0 36 (dk_at dksX0_isMade_3 15 rfl rfl)
theorem dX0_isMade_86 : decode cX0_isMade 86 = .ok (.iconst (-1), 1) := dk_2 (dk_at dksX0_isMade_3 18 rfl rfl)
theorem dX0_isMade_87 : decode cX0_isMade 87 = .ok (.if_icmp .eq 13, 3) := dk_159 0 13 (dk_at dksX0_isMade_3 19 rfl rfl)
theorem dX0_isMade_90 : decode cX0_isMade 90 = .ok (.aload 6, 2) := dk_25 6 (dk_at dksX0_isMade_3 22 rfl rfl)
theorem dX0_isMade_92 : decode cX0_isMade 92 = .ok (.aload 5, 2) := dk_25 5 (dk_at dksX0_isMade_4 0 rfl rfl)
theorem dX0_isMade_94 : decode cX0_isMade 94 = .ok (.aload 4, 2) := dk_25 4 (dk_at dksX0_isMade_4 2 rfl rfl)
theorem dX0_isMade_96 : decode cX0_isMade 96 = .ok (.invokestatic 75, 3) := dk_184 0 75 (dk_at dksX0_isMade_4 4 rfl rfl)
theorem dX0_isMade_99 : decode cX0_isMade 99 = .ok (.ireturn, 1) := dk_172 (dk_at dksX0_isMade_4 7 rfl rfl)
theorem dX0_isMade_100 : decode cX0_isMade 100 = .ok (.aload 5, 2) := dk_25 5 (dk_at dksX0_isMade_4 8 rfl rfl)
theorem dX0_isMade_102 : decode cX0_isMade 102 = .ok (.getfield 61, 3) := dk_180 0 61 (dk_at dksX0_isMade_4 10 rfl rfl)
theorem dX0_isMade_105 : decode cX0_isMade 105 = .ok (.getfield 21, 3) := dk_180 0 21 (dk_at dksX0_isMade_4 13 rfl rfl)
theorem dX0_isMade_108 : decode cX0_isMade 108 = .ok (.aload 6, 2) := dk_25 6 (dk_at dksX0_isMade_4 16 rfl rfl)
theorem dX0_isMade_110 : decode cX0_isMade 110 = .ok (.getfield 61, 3) := dk_180 0 61 (dk_at dksX0_isMade_4 18 rfl rfl)
theorem dX0_isMade_113 : decode cX0_isMade 113 = .ok (.getfield 21, 3) := dk_180 0 21 (dk_at dksX0_isMade_4 21 rfl rfl)
theorem dX0_isMade_116 : decode cX0_isMade 116 = .ok (.if_icmp .ne 75, 3) := dk_160 0 75 (dk_at dksX0_isMade_5 0 rfl rfl)
theorem dX0_isMade_119 : decode cX0_isMade 119 = .ok (.aload 5, 2) := dk_25 5 (dk_at dksX0_isMade_5 3 rfl rfl)
theorem dX0_isMade_121 : decode cX0_isMade 121 = .ok (.getfield 61, 3) := dk_180 0 61 (dk_at dksX0_isMade_5 5 rfl rfl)
theorem dX0_isMade_124 : decode cX0_isMade 124 = .ok (.getfield 25, 3) := dk_180 0 25 (dk_at dksX0_isMade_5 8 rfl rfl)
theorem dX0_isMade_127 : decode cX0_isMade 127 = .ok (.aload 5, 2) := dk_25 5 (dk_at dksX0_isMade_5 11 rfl rfl)
theorem dX0_isMade_129 : decode cX0_isMade 129 = .ok (.getfield 64, 3) := dk_180 0 64 (dk_at dksX0_isMade_5 13 rfl rfl)
theorem dX0_isMade_132 : decode cX0_isMade 132 = .ok (.aload 6, 2) := dk_25 6 (dk_at dksX0_isMade_5 16 rfl rfl)
theorem dX0_isMade_134 : decode cX0_isMade 134 = .ok (.getfield 61, 3) := dk_180 0 61 (dk_at dksX0_isMade_5 18 rfl rfl)
theorem dX0_isMade_137 : decode cX0_isMade 137 = .ok (.getfield 25, 3) := dk_180 0 25 (dk_at dksX0_isMade_5 21 rfl rfl)
theorem dX0_isMade_140 : decode cX0_isMade 140 = .ok (.aload 6, 2) := dk_25 6 (dk_at dksX0_isMade_6 0 rfl rfl)
theorem dX0_isMade_142 : decode cX0_isMade 142 = .ok (.getfield 64, 3) := dk_180 0 64 (dk_at dksX0_isMade_6 2 rfl rfl)
theorem dX0_isMade_145 : decode cX0_isMade 145 = .ok (.aload 4, 2) := dk_25 4 (dk_at dksX0_isMade_6 5 rfl rfl)
theorem dX0_isMade_147 : decode cX0_isMade 147 = .ok (.invokestatic 79, 3) := dk_184 0 79 (dk_at dksX0_isMade_6 7 rfl rfl)
theorem dX0_isMade_150 : decode cX0_isMade 150 = .ok (.ifCond .eq 41, 3) := dk_153 0 41 (dk_at dksX0_isMade_6 10 rfl rfl)
theorem dX0_isMade_153 : decode cX0_isMade 153 = .ok (.aload 5, 2) := dk_25 5 (dk_at dksX0_isMade_6 13 rfl rfl)
theorem dX0_isMade_155 : decode cX0_isMade 155 = .ok (.getfield 61, 3) := dk_180 0 61 (dk_at dksX0_isMade_6 15 rfl rfl)
theorem dX0_isMade_158 : decode cX0_isMade 158 = .ok (.getfield 33, 3) := dk_180 0 33 (dk_at dksX0_isMade_6 18 rfl rfl)
theorem dX0_isMade_161 : decode cX0_isMade 161 = .ok (.aload 5, 2) := dk_25 5 (dk_at dksX0_isMade_6 21 rfl rfl)
theorem dX0_isMade_163 : decode cX0_isMade 163 = .ok (.getfield 64, 3) := dk_180 0 64 (dk_at dksX0_isMade_7 0 rfl rfl)
theorem dX0_isMade_166 : decode cX0_isMade 166 = .ok (.aload 6, 2) := dk_25 6 (dk_at dksX0_isMade_7 3 rfl rfl)
theorem dX0_isMade_168 : decode cX0_isMade 168 = .ok (.getfield 61, 3) := dk_180 0 61 (dk_at dksX0_isMade_7 5 rfl rfl)
theorem dX0_isMade_171 : decode cX0_isMade 171 = .ok (.getfield 33, 3) := dk_180 0 33 (dk_at dksX0_isMade_7 8 rfl rfl)
theorem dX0_isMade_174 : decode cX0_isMade 174 = .ok (.aload 6, 2) := dk_25 6 (dk_at dksX0_isMade_7 11 rfl rfl)
theorem dX0_isMade_176 : decode cX0_isMade 176 = .ok (.getfield 64, 3) := dk_180 0 64 (dk_at dksX0_isMade_7 13 rfl rfl)
theorem dX0_isMade_179 : decode cX0_isMade 179 = .ok (.aload 4, 2) := dk_25 4 (dk_at dksX0_isMade_7 16 rfl rfl)
theorem dX0_isMade_181 : decode cX0_isMade 181 = .ok (.invokestatic 79, 3) := dk_184 0 79 (dk_at dksX0_isMade_7 18 rfl rfl)
theorem dX0_isMade_184 : decode cX0_isMade 184 = .ok (.ifCond .eq 7, 3) := dk_153 0 7 (dk_at dksX0_isMade_7 21 rfl rfl)
theorem dX0_isMade_187 : decode cX0_isMade 187 = .ok (.iconst 1, 1) := dk_4 (dk_at dksX0_isMade_8 0 rfl rfl)
theorem dX0_isMade_188 : decode cX0_isMade 188 = .ok (.goto 4, 3) := dk_167 0 4 (dk_at dksX0_isMade_8 1 rfl rfl)
theorem dX0_isMade_191 : decode cX0_isMade 191 = .ok (.iconst 0, 1) := dk_3 (dk_at dksX0_isMade_8 4 rfl rfl)
theorem dX0_isMade_192 : decode cX0_isMade 192 = .ok (.ireturn, 1) := dk_172 (dk_at dksX0_isMade_8 5 rfl rfl)
abbrev cX0_rooted : ByteArray := prog_1_method_9_code
def yX0_rooted : MethodName := ⟨RX0, "rooted", "(LDictProof$Part;Ljava/util/HashMap;)LDictProof$Part;"⟩
def dkwX0_rooted_1 : List UInt8 := [43, 44, 182, 0, 36, 184, 0, 41, 182, 0, 47, 192, 0, 37, 77, 167, 255, 219, 44, 176]
abbrev dktX0_rooted_1 : List UInt8 := dkwX0_rooted_1 ++ []
def dkwX0_rooted_0 : List UInt8 := [42, 77, 44, 182, 0, 36, 2, 159, 0, 35, 43, 44, 182, 0, 36, 184, 0, 41, 182, 0, 47, 198, 0, 21]
abbrev dktX0_rooted_0 : List UInt8 := dkwX0_rooted_0 ++ dktX0_rooted_1
theorem dksX0_rooted_0 : cX0_rooted.data.toList.drop 0 = dktX0_rooted_0 := by decide +kernel
theorem dksX0_rooted_1 : cX0_rooted.data.toList.drop 24 = dktX0_rooted_1 := dk_seg dksX0_rooted_0 24 rfl rfl
theorem dX0_rooted_0 : decode cX0_rooted 0 = .ok (.aload_n 0, 1) := dk_42 (dk_at dksX0_rooted_0 0 rfl rfl)
theorem dX0_rooted_1 : decode cX0_rooted 1 = .ok (.astore_n 2, 1) := dk_77 (dk_at dksX0_rooted_0 1 rfl rfl)
theorem dX0_rooted_2 : decode cX0_rooted 2 = .ok (.aload_n 2, 1) := dk_44 (dk_at dksX0_rooted_0 2 rfl rfl)
theorem dX0_rooted_3 : decode cX0_rooted 3 = .ok (.invokevirtual 36, 3) := dk_182 0 36 (dk_at dksX0_rooted_0 3 rfl rfl)
theorem dX0_rooted_6 : decode cX0_rooted 6 = .ok (.iconst (-1), 1) := dk_2 (dk_at dksX0_rooted_0 6 rfl rfl)
theorem dX0_rooted_7 : decode cX0_rooted 7 = .ok (.if_icmp .eq 35, 3) := dk_159 0 35 (dk_at dksX0_rooted_0 7 rfl rfl)
theorem dX0_rooted_10 : decode cX0_rooted 10 = .ok (.aload_n 1, 1) := dk_43 (dk_at dksX0_rooted_0 10 rfl rfl)
theorem dX0_rooted_11 : decode cX0_rooted 11 = .ok (.aload_n 2, 1) := dk_44 (dk_at dksX0_rooted_0 11 rfl rfl)
theorem dX0_rooted_12 : decode cX0_rooted 12 = .ok (.invokevirtual 36, 3) := dk_182 0 36 (dk_at dksX0_rooted_0 12 rfl rfl)
theorem dX0_rooted_15 : decode cX0_rooted 15 = .ok (.invokestatic 41, 3) := dk_184 0 41 (dk_at dksX0_rooted_0 15 rfl rfl)
theorem dX0_rooted_18 : decode cX0_rooted 18 = .ok (.invokevirtual 47, 3) := dk_182 0 47 (dk_at dksX0_rooted_0 18 rfl rfl)
theorem dX0_rooted_21 : decode cX0_rooted 21 = .ok (.ifnull 21, 3) := dk_198 0 21 (dk_at dksX0_rooted_0 21 rfl rfl)
theorem dX0_rooted_24 : decode cX0_rooted 24 = .ok (.aload_n 1, 1) := dk_43 (dk_at dksX0_rooted_1 0 rfl rfl)
theorem dX0_rooted_25 : decode cX0_rooted 25 = .ok (.aload_n 2, 1) := dk_44 (dk_at dksX0_rooted_1 1 rfl rfl)
theorem dX0_rooted_26 : decode cX0_rooted 26 = .ok (.invokevirtual 36, 3) := dk_182 0 36 (dk_at dksX0_rooted_1 2 rfl rfl)
theorem dX0_rooted_29 : decode cX0_rooted 29 = .ok (.invokestatic 41, 3) := dk_184 0 41 (dk_at dksX0_rooted_1 5 rfl rfl)
theorem dX0_rooted_32 : decode cX0_rooted 32 = .ok (.invokevirtual 47, 3) := dk_182 0 47 (dk_at dksX0_rooted_1 8 rfl rfl)
theorem dX0_rooted_35 : decode cX0_rooted 35 = .ok (.checkcast 37, 3) := dk_192 0 37 (dk_at dksX0_rooted_1 11 rfl rfl)
theorem dX0_rooted_38 : decode cX0_rooted 38 = .ok (.astore_n 2, 1) := dk_77 (dk_at dksX0_rooted_1 14 rfl rfl)
theorem dX0_rooted_39 : decode cX0_rooted 39 = .ok (.goto (-37), 3) := dk_167 255 219 (dk_at dksX0_rooted_1 15 rfl rfl)
theorem dX0_rooted_42 : decode cX0_rooted 42 = .ok (.aload_n 2, 1) := dk_44 (dk_at dksX0_rooted_1 18 rfl rfl)
theorem dX0_rooted_43 : decode cX0_rooted 43 = .ok (.areturn, 1) := dk_176 (dk_at dksX0_rooted_1 19 rfl rfl)
abbrev cX0_nameOf : ByteArray := prog_1_method_8_code
def yX0_nameOf : MethodName := ⟨RX0, "nameOf", "(LDictProof$Term;I)I"⟩
def dkwX0_nameOf_0 : List UInt8 := [42, 182, 0, 11, 2, 160, 0, 7, 2, 167, 0, 9, 42, 182, 0, 11, 27, 96, 172]
abbrev dktX0_nameOf_0 : List UInt8 := dkwX0_nameOf_0 ++ []
theorem dksX0_nameOf_0 : cX0_nameOf.data.toList.drop 0 = dktX0_nameOf_0 := by decide +kernel
theorem dX0_nameOf_0 : decode cX0_nameOf 0 = .ok (.aload_n 0, 1) := dk_42 (dk_at dksX0_nameOf_0 0 rfl rfl)
theorem dX0_nameOf_1 : decode cX0_nameOf 1 = .ok (.invokevirtual 11, 3) := dk_182 0 11 (dk_at dksX0_nameOf_0 1 rfl rfl)
theorem dX0_nameOf_4 : decode cX0_nameOf 4 = .ok (.iconst (-1), 1) := dk_2 (dk_at dksX0_nameOf_0 4 rfl rfl)
theorem dX0_nameOf_5 : decode cX0_nameOf 5 = .ok (.if_icmp .ne 7, 3) := dk_160 0 7 (dk_at dksX0_nameOf_0 5 rfl rfl)
theorem dX0_nameOf_8 : decode cX0_nameOf 8 = .ok (.iconst (-1), 1) := dk_2 (dk_at dksX0_nameOf_0 8 rfl rfl)
theorem dX0_nameOf_9 : decode cX0_nameOf 9 = .ok (.goto 9, 3) := dk_167 0 9 (dk_at dksX0_nameOf_0 9 rfl rfl)
theorem dX0_nameOf_12 : decode cX0_nameOf 12 = .ok (.aload_n 0, 1) := dk_42 (dk_at dksX0_nameOf_0 12 rfl rfl)
theorem dX0_nameOf_13 : decode cX0_nameOf 13 = .ok (.invokevirtual 11, 3) := dk_182 0 11 (dk_at dksX0_nameOf_0 13 rfl rfl)
theorem dX0_nameOf_16 : decode cX0_nameOf 16 = .ok (.iload_n 1, 1) := dk_27 (dk_at dksX0_nameOf_0 16 rfl rfl)
theorem dX0_nameOf_17 : decode cX0_nameOf 17 = .ok (.iadd, 1) := dk_96 (dk_at dksX0_nameOf_0 17 rfl rfl)
theorem dX0_nameOf_18 : decode cX0_nameOf 18 = .ok (.ireturn, 1) := dk_172 (dk_at dksX0_nameOf_0 18 rfl rfl)
abbrev cX0_isBound : ByteArray := prog_1_method_11_code
def yX0_isBound : MethodName := ⟨RX0, "isBound", "(LDictProof$Part;LDictProof$Part;Ljava/util/HashMap;)Z"⟩
def dkwX0_isBound_1 : List UInt8 := [182, 0, 36, 184, 0, 41, 43, 182, 0, 71, 87, 4, 172]
abbrev dktX0_isBound_1 : List UInt8 := dkwX0_isBound_1 ++ []
def dkwX0_isBound_0 : List UInt8 := [42, 182, 0, 36, 43, 180, 0, 61, 43, 180, 0, 64, 44, 184, 0, 67, 153, 0, 5, 3, 172, 44, 42]
abbrev dktX0_isBound_0 : List UInt8 := dkwX0_isBound_0 ++ dktX0_isBound_1
theorem dksX0_isBound_0 : cX0_isBound.data.toList.drop 0 = dktX0_isBound_0 := by decide +kernel
theorem dksX0_isBound_1 : cX0_isBound.data.toList.drop 23 = dktX0_isBound_1 := dk_seg dksX0_isBound_0 23 rfl rfl
theorem dX0_isBound_0 : decode cX0_isBound 0 = .ok (.aload_n 0, 1) := dk_42 (dk_at dksX0_isBound_0 0 rfl rfl)
theorem dX0_isBound_1 : decode cX0_isBound 1 = .ok (.invokevirtual 36, 3) := dk_182 0 36 (dk_at dksX0_isBound_0 1 rfl rfl)
theorem dX0_isBound_4 : decode cX0_isBound 4 = .ok (.aload_n 1, 1) := dk_43 (dk_at dksX0_isBound_0 4 rfl rfl)
theorem dX0_isBound_5 : decode cX0_isBound 5 = .ok (.getfield 61, 3) := dk_180 0 61 (dk_at dksX0_isBound_0 5 rfl rfl)
theorem dX0_isBound_8 : decode cX0_isBound 8 = .ok (.aload_n 1, 1) := dk_43 (dk_at dksX0_isBound_0 8 rfl rfl)
theorem dX0_isBound_9 : decode cX0_isBound 9 = .ok (.getfield 64, 3) := dk_180 0 64 (dk_at dksX0_isBound_0 9 rfl rfl)
theorem dX0_isBound_12 : decode cX0_isBound 12 = .ok (.aload_n 2, 1) := dk_44 (dk_at dksX0_isBound_0 12 rfl rfl)
theorem dX0_isBound_13 : decode cX0_isBound 13 = .ok (.invokestatic 67, 3) := dk_184 0 67 (dk_at dksX0_isBound_0 13 rfl rfl)
theorem dX0_isBound_16 : decode cX0_isBound 16 = .ok (.ifCond .eq 5, 3) := dk_153 0 5 (dk_at dksX0_isBound_0 16 rfl rfl)
theorem dX0_isBound_19 : decode cX0_isBound 19 = .ok (.iconst 0, 1) := dk_3 (dk_at dksX0_isBound_0 19 rfl rfl)
theorem dX0_isBound_20 : decode cX0_isBound 20 = .ok (.ireturn, 1) := dk_172 (dk_at dksX0_isBound_0 20 rfl rfl)
theorem dX0_isBound_21 : decode cX0_isBound 21 = .ok (.aload_n 2, 1) := dk_44 (dk_at dksX0_isBound_0 21 rfl rfl)
theorem dX0_isBound_22 : decode cX0_isBound 22 = .ok (.aload_n 0, 1) := dk_42 (dk_at dksX0_isBound_0 22 rfl rfl)
theorem dX0_isBound_23 : decode cX0_isBound 23 = .ok (.invokevirtual 36, 3) := dk_182 0 36 (dk_at dksX0_isBound_1 0 rfl rfl)
theorem dX0_isBound_26 : decode cX0_isBound 26 = .ok (.invokestatic 41, 3) := dk_184 0 41 (dk_at dksX0_isBound_1 3 rfl rfl)
theorem dX0_isBound_29 : decode cX0_isBound 29 = .ok (.aload_n 1, 1) := dk_43 (dk_at dksX0_isBound_1 6 rfl rfl)
theorem dX0_isBound_30 : decode cX0_isBound 30 = .ok (.invokevirtual 71, 3) := dk_182 0 71 (dk_at dksX0_isBound_1 7 rfl rfl)
theorem dX0_isBound_33 : decode cX0_isBound 33 = .ok (.pop, 1) := dk_87 (dk_at dksX0_isBound_1 10 rfl rfl)
theorem dX0_isBound_34 : decode cX0_isBound 34 = .ok (.iconst 1, 1) := dk_4 (dk_at dksX0_isBound_1 11 rfl rfl)
theorem dX0_isBound_35 : decode cX0_isBound 35 = .ok (.ireturn, 1) := dk_172 (dk_at dksX0_isBound_1 12 rfl rfl)
abbrev cX0_isInside : ByteArray := prog_1_method_10_code
def yX0_isInside : MethodName := ⟨RX0, "isInside", "(ILDictProof$Term;ILjava/util/HashMap;)Z"⟩
def dkwX0_isInside_3 : List UInt8 := [180, 0, 61, 180, 0, 33, 25, 4, 180, 0, 64, 45, 184, 0, 67, 153, 0, 7, 4, 167, 0, 4, 3, 172]
abbrev dktX0_isInside_3 : List UInt8 := dkwX0_isInside_3 ++ []
def dkwX0_isInside_2 : List UInt8 := [25, 4, 180, 0, 61, 180, 0, 25, 25, 4, 180, 0, 64, 45, 184, 0, 67, 154, 0, 24, 26, 25, 4]
abbrev dktX0_isInside_2 : List UInt8 := dkwX0_isInside_2 ++ dktX0_isInside_3
def dkwX0_isInside_1 : List UInt8 := [182, 0, 36, 2, 159, 0, 18, 25, 4, 182, 0, 36, 26, 160, 0, 7, 4, 167, 0, 4, 3, 172, 26]
abbrev dktX0_isInside_1 : List UInt8 := dkwX0_isInside_1 ++ dktX0_isInside_2
def dkwX0_isInside_0 : List UInt8 := [43, 199, 0, 5, 3, 172, 187, 0, 37, 89, 43, 28, 183, 0, 53, 45, 184, 0, 57, 58, 4, 25, 4]
abbrev dktX0_isInside_0 : List UInt8 := dkwX0_isInside_0 ++ dktX0_isInside_1
theorem dksX0_isInside_0 : cX0_isInside.data.toList.drop 0 = dktX0_isInside_0 := by decide +kernel
theorem dksX0_isInside_1 : cX0_isInside.data.toList.drop 23 = dktX0_isInside_1 := dk_seg dksX0_isInside_0 23 rfl rfl
theorem dksX0_isInside_2 : cX0_isInside.data.toList.drop 46 = dktX0_isInside_2 := dk_seg dksX0_isInside_1 23 rfl rfl
theorem dksX0_isInside_3 : cX0_isInside.data.toList.drop 69 = dktX0_isInside_3 := dk_seg dksX0_isInside_2 23 rfl rfl
theorem dX0_isInside_0 : decode cX0_isInside 0 = .ok (.aload_n 1, 1) := dk_43 (dk_at dksX0_isInside_0 0 rfl rfl)
theorem dX0_isInside_1 : decode cX0_isInside 1 = .ok (.ifnonnull 5, 3) := dk_199 0 5 (dk_at dksX0_isInside_0 1 rfl rfl)
theorem dX0_isInside_4 : decode cX0_isInside 4 = .ok (.iconst 0, 1) := dk_3 (dk_at dksX0_isInside_0 4 rfl rfl)
theorem dX0_isInside_5 : decode cX0_isInside 5 = .ok (.ireturn, 1) := dk_172 (dk_at dksX0_isInside_0 5 rfl rfl)
theorem dX0_isInside_6 : decode cX0_isInside 6 = .ok (.new 37, 3) := dk_187 0 37 (dk_at dksX0_isInside_0 6 rfl rfl)
theorem dX0_isInside_9 : decode cX0_isInside 9 = .ok (.dup, 1) := dk_89 (dk_at dksX0_isInside_0 9 rfl rfl)
theorem dX0_isInside_10 : decode cX0_isInside 10 = .ok (.aload_n 1, 1) := dk_43 (dk_at dksX0_isInside_0 10 rfl rfl)
theorem dX0_isInside_11 : decode cX0_isInside 11 = .ok (.iload_n 2, 1) := dk_28 (dk_at dksX0_isInside_0 11 rfl rfl)
theorem dX0_isInside_12 : decode cX0_isInside 12 = .ok (.invokespecial 53, 3) := dk_183 0 53 (dk_at dksX0_isInside_0 12 rfl rfl)
theorem dX0_isInside_15 : decode cX0_isInside 15 = .ok (.aload_n 3, 1) := dk_45 (dk_at dksX0_isInside_0 15 rfl rfl)
theorem dX0_isInside_16 : decode cX0_isInside 16 = .ok (.invokestatic 57, 3) := dk_184 0 57 (dk_at dksX0_isInside_0 16 rfl rfl)
theorem dX0_isInside_19 : decode cX0_isInside 19 = .ok (.astore 4, 2) := dk_58 4 (dk_at dksX0_isInside_0 19 rfl rfl)
theorem dX0_isInside_21 : decode cX0_isInside 21 = .ok (.aload 4, 2) := dk_25 4 (dk_at dksX0_isInside_0 21 rfl rfl)
theorem dX0_isInside_23 : decode cX0_isInside 23 = .ok (.invokevirtual 36, 3) := dk_182 0 36 (dk_at dksX0_isInside_1 0 rfl rfl)
theorem dX0_isInside_26 : decode cX0_isInside 26 = .ok (.iconst (-1), 1) := dk_2 (dk_at dksX0_isInside_1 3 rfl rfl)
theorem dX0_isInside_27 : decode cX0_isInside 27 = .ok (.if_icmp .eq 18, 3) := dk_159 0 18 (dk_at dksX0_isInside_1 4 rfl rfl)
theorem dX0_isInside_30 : decode cX0_isInside 30 = .ok (.aload 4, 2) := dk_25 4 (dk_at dksX0_isInside_1 7 rfl rfl)
theorem dX0_isInside_32 : decode cX0_isInside 32 = .ok (.invokevirtual 36, 3) := dk_182 0 36 (dk_at dksX0_isInside_1 9 rfl rfl)
theorem dX0_isInside_35 : decode cX0_isInside 35 = .ok (.iload_n 0, 1) := dk_26 (dk_at dksX0_isInside_1 12 rfl rfl)
theorem dX0_isInside_36 : decode cX0_isInside 36 = .ok (.if_icmp .ne 7, 3) := dk_160 0 7 (dk_at dksX0_isInside_1 13 rfl rfl)
theorem dX0_isInside_39 : decode cX0_isInside 39 = .ok (.iconst 1, 1) := dk_4 (dk_at dksX0_isInside_1 16 rfl rfl)
theorem dX0_isInside_40 : decode cX0_isInside 40 = .ok (.goto 4, 3) := dk_167 0 4 (dk_at dksX0_isInside_1 17 rfl rfl)
theorem dX0_isInside_43 : decode cX0_isInside 43 = .ok (.iconst 0, 1) := dk_3 (dk_at dksX0_isInside_1 20 rfl rfl)
theorem dX0_isInside_44 : decode cX0_isInside 44 = .ok (.ireturn, 1) := dk_172 (dk_at dksX0_isInside_1 21 rfl rfl)
theorem dX0_isInside_45 : decode cX0_isInside 45 = .ok (.iload_n 0, 1) := dk_26 (dk_at dksX0_isInside_1 22 rfl rfl)
theorem dX0_isInside_46 : decode cX0_isInside 46 = .ok (.aload 4, 2) := dk_25 4 (dk_at dksX0_isInside_2 0 rfl rfl)
theorem dX0_isInside_48 : decode cX0_isInside 48 = .ok (.getfield 61, 3) := dk_180 0 61 (dk_at dksX0_isInside_2 2 rfl rfl)
theorem dX0_isInside_51 : decode cX0_isInside 51 = .ok (.getfield 25, 3) := dk_180 0 25 (dk_at dksX0_isInside_2 5 rfl rfl)
theorem dX0_isInside_54 : decode cX0_isInside 54 = .ok (.aload 4, 2) := dk_25 4 (dk_at dksX0_isInside_2 8 rfl rfl)
theorem dX0_isInside_56 : decode cX0_isInside 56 = .ok (.getfield 64, 3) := dk_180 0 64 (dk_at dksX0_isInside_2 10 rfl rfl)
theorem dX0_isInside_59 : decode cX0_isInside 59 = .ok (.aload_n 3, 1) := dk_45 (dk_at dksX0_isInside_2 13 rfl rfl)
theorem dX0_isInside_60 : decode cX0_isInside 60 = .ok (.invokestatic 67, 3) := dk_184 0 67 (dk_at dksX0_isInside_2 14 rfl rfl)
theorem dX0_isInside_63 : decode cX0_isInside 63 = .ok (.ifCond .ne 24, 3) := dk_154 0 24 (dk_at dksX0_isInside_2 17 rfl rfl)
theorem dX0_isInside_66 : decode cX0_isInside 66 = .ok (.iload_n 0, 1) := dk_26 (dk_at dksX0_isInside_2 20 rfl rfl)
theorem dX0_isInside_67 : decode cX0_isInside 67 = .ok (.aload 4, 2) := dk_25 4 (dk_at dksX0_isInside_2 21 rfl rfl)
theorem dX0_isInside_69 : decode cX0_isInside 69 = .ok (.getfield 61, 3) := dk_180 0 61 (dk_at dksX0_isInside_3 0 rfl rfl)
theorem dX0_isInside_72 : decode cX0_isInside 72 = .ok (.getfield 33, 3) := dk_180 0 33 (dk_at dksX0_isInside_3 3 rfl rfl)
theorem dX0_isInside_75 : decode cX0_isInside 75 = .ok (.aload 4, 2) := dk_25 4 (dk_at dksX0_isInside_3 6 rfl rfl)
theorem dX0_isInside_77 : decode cX0_isInside 77 = .ok (.getfield 64, 3) := dk_180 0 64 (dk_at dksX0_isInside_3 8 rfl rfl)
theorem dX0_isInside_80 : decode cX0_isInside 80 = .ok (.aload_n 3, 1) := dk_45 (dk_at dksX0_isInside_3 11 rfl rfl)
theorem dX0_isInside_81 : decode cX0_isInside 81 = .ok (.invokestatic 67, 3) := dk_184 0 67 (dk_at dksX0_isInside_3 12 rfl rfl)
theorem dX0_isInside_84 : decode cX0_isInside 84 = .ok (.ifCond .eq 7, 3) := dk_153 0 7 (dk_at dksX0_isInside_3 15 rfl rfl)
theorem dX0_isInside_87 : decode cX0_isInside 87 = .ok (.iconst 1, 1) := dk_4 (dk_at dksX0_isInside_3 18 rfl rfl)
theorem dX0_isInside_88 : decode cX0_isInside 88 = .ok (.goto 4, 3) := dk_167 0 4 (dk_at dksX0_isInside_3 19 rfl rfl)
theorem dX0_isInside_91 : decode cX0_isInside 91 = .ok (.iconst 0, 1) := dk_3 (dk_at dksX0_isInside_3 22 rfl rfl)
theorem dX0_isInside_92 : decode cX0_isInside 92 = .ok (.ireturn, 1) := dk_172 (dk_at dksX0_isInside_3 23 rfl rfl)
abbrev cX0_isMoreSpecial : ByteArray := prog_1_method_7_code
def yX0_isMoreSpecial : MethodName := ⟨RX0, "isMoreSpecial", "(LDictProof$Term;LDictProof$Term;)Z"⟩
def dkwX0_isMoreSpecial_1 : List UInt8 := [4, 167, 0, 4, 3, 172]
abbrev dktX0_isMoreSpecial_1 : List UInt8 := dkwX0_isMoreSpecial_1 ++ []
def dkwX0_isMoreSpecial_0 : List UInt8 := [43, 42, 5, 189, 0, 12, 184, 0, 29, 153, 0, 19, 42, 43, 5, 189, 0, 12, 184, 0, 29, 154, 0, 7]
abbrev dktX0_isMoreSpecial_0 : List UInt8 := dkwX0_isMoreSpecial_0 ++ dktX0_isMoreSpecial_1
theorem dksX0_isMoreSpecial_0 : cX0_isMoreSpecial.data.toList.drop 0 = dktX0_isMoreSpecial_0 := by decide +kernel
theorem dksX0_isMoreSpecial_1 : cX0_isMoreSpecial.data.toList.drop 24 = dktX0_isMoreSpecial_1 := dk_seg dksX0_isMoreSpecial_0 24 rfl rfl
theorem dX0_isMoreSpecial_0 : decode cX0_isMoreSpecial 0 = .ok (.aload_n 1, 1) := dk_43 (dk_at dksX0_isMoreSpecial_0 0 rfl rfl)
theorem dX0_isMoreSpecial_1 : decode cX0_isMoreSpecial 1 = .ok (.aload_n 0, 1) := dk_42 (dk_at dksX0_isMoreSpecial_0 1 rfl rfl)
theorem dX0_isMoreSpecial_2 : decode cX0_isMoreSpecial 2 = .ok (.iconst 2, 1) := dk_5 (dk_at dksX0_isMoreSpecial_0 2 rfl rfl)
theorem dX0_isMoreSpecial_3 : decode cX0_isMoreSpecial 3 = .ok (.anewarray 12, 3) := dk_189 0 12 (dk_at dksX0_isMoreSpecial_0 3 rfl rfl)
theorem dX0_isMoreSpecial_6 : decode cX0_isMoreSpecial 6 = .ok (.invokestatic 29, 3) := dk_184 0 29 (dk_at dksX0_isMoreSpecial_0 6 rfl rfl)
theorem dX0_isMoreSpecial_9 : decode cX0_isMoreSpecial 9 = .ok (.ifCond .eq 19, 3) := dk_153 0 19 (dk_at dksX0_isMoreSpecial_0 9 rfl rfl)
theorem dX0_isMoreSpecial_12 : decode cX0_isMoreSpecial 12 = .ok (.aload_n 0, 1) := dk_42 (dk_at dksX0_isMoreSpecial_0 12 rfl rfl)
theorem dX0_isMoreSpecial_13 : decode cX0_isMoreSpecial 13 = .ok (.aload_n 1, 1) := dk_43 (dk_at dksX0_isMoreSpecial_0 13 rfl rfl)
theorem dX0_isMoreSpecial_14 : decode cX0_isMoreSpecial 14 = .ok (.iconst 2, 1) := dk_5 (dk_at dksX0_isMoreSpecial_0 14 rfl rfl)
theorem dX0_isMoreSpecial_15 : decode cX0_isMoreSpecial 15 = .ok (.anewarray 12, 3) := dk_189 0 12 (dk_at dksX0_isMoreSpecial_0 15 rfl rfl)
theorem dX0_isMoreSpecial_18 : decode cX0_isMoreSpecial 18 = .ok (.invokestatic 29, 3) := dk_184 0 29 (dk_at dksX0_isMoreSpecial_0 18 rfl rfl)
theorem dX0_isMoreSpecial_21 : decode cX0_isMoreSpecial 21 = .ok (.ifCond .ne 7, 3) := dk_154 0 7 (dk_at dksX0_isMoreSpecial_0 21 rfl rfl)
theorem dX0_isMoreSpecial_24 : decode cX0_isMoreSpecial 24 = .ok (.iconst 1, 1) := dk_4 (dk_at dksX0_isMoreSpecial_1 0 rfl rfl)
theorem dX0_isMoreSpecial_25 : decode cX0_isMoreSpecial 25 = .ok (.goto 4, 3) := dk_167 0 4 (dk_at dksX0_isMoreSpecial_1 1 rfl rfl)
theorem dX0_isMoreSpecial_28 : decode cX0_isMoreSpecial 28 = .ok (.iconst 0, 1) := dk_3 (dk_at dksX0_isMoreSpecial_1 4 rfl rfl)
theorem dX0_isMoreSpecial_29 : decode cX0_isMoreSpecial 29 = .ok (.ireturn, 1) := dk_172 (dk_at dksX0_isMoreSpecial_1 5 rfl rfl)
abbrev cX0_isFitting : ByteArray := prog_1_method_6_code
def yX0_isFitting : MethodName := ⟨RX0, "isFitting", "(LDictProof$Term;LDictProof$Term;[LDictProof$Term;)Z"⟩
def dkwX0_isFitting_4 : List UInt8 := [198, 0, 18, 42, 180, 0, 33, 43, 180, 0, 33, 44, 184, 0, 29, 153, 0, 7, 4, 167, 0, 4, 3, 172]
abbrev dktX0_isFitting_4 : List UInt8 := dkwX0_isFitting_4 ++ []
def dkwX0_isFitting_3 : List UInt8 := [198, 0, 18, 42, 180, 0, 25, 43, 180, 0, 25, 44, 184, 0, 29, 153, 0, 29, 42, 180, 0, 33]
abbrev dktX0_isFitting_3 : List UInt8 := dkwX0_isFitting_3 ++ dktX0_isFitting_4
def dkwX0_isFitting_2 : List UInt8 := [50, 83, 21, 4, 172, 42, 180, 0, 21, 43, 180, 0, 21, 159, 0, 5, 3, 172, 42, 180, 0, 25]
abbrev dktX0_isFitting_2 : List UInt8 := dkwX0_isFitting_2 ++ dktX0_isFitting_3
def dkwX0_isFitting_1 : List UInt8 := [153, 0, 7, 4, 167, 0, 4, 3, 54, 4, 44, 29, 44, 29, 50, 199, 0, 7, 43, 167, 0, 6, 44, 29]
abbrev dktX0_isFitting_1 : List UInt8 := dkwX0_isFitting_1 ++ dktX0_isFitting_2
def dkwX0_isFitting_0 : List UInt8 := [42, 182, 0, 11, 62, 29, 2, 159, 0, 45, 44, 29, 50, 198, 0, 13, 44, 29, 50, 43, 182, 0, 17]
abbrev dktX0_isFitting_0 : List UInt8 := dkwX0_isFitting_0 ++ dktX0_isFitting_1
theorem dksX0_isFitting_0 : cX0_isFitting.data.toList.drop 0 = dktX0_isFitting_0 := by decide +kernel
theorem dksX0_isFitting_1 : cX0_isFitting.data.toList.drop 23 = dktX0_isFitting_1 := dk_seg dksX0_isFitting_0 23 rfl rfl
theorem dksX0_isFitting_2 : cX0_isFitting.data.toList.drop 47 = dktX0_isFitting_2 := dk_seg dksX0_isFitting_1 24 rfl rfl
theorem dksX0_isFitting_3 : cX0_isFitting.data.toList.drop 69 = dktX0_isFitting_3 := dk_seg dksX0_isFitting_2 22 rfl rfl
theorem dksX0_isFitting_4 : cX0_isFitting.data.toList.drop 91 = dktX0_isFitting_4 := dk_seg dksX0_isFitting_3 22 rfl rfl
theorem dX0_isFitting_0 : decode cX0_isFitting 0 = .ok (.aload_n 0, 1) := dk_42 (dk_at dksX0_isFitting_0 0 rfl rfl)
theorem dX0_isFitting_1 : decode cX0_isFitting 1 = .ok (.invokevirtual 11, 3) := dk_182 0 11 (dk_at dksX0_isFitting_0 1 rfl rfl)
theorem dX0_isFitting_4 : decode cX0_isFitting 4 = .ok (.istore_n 3, 1) := dk_62 (dk_at dksX0_isFitting_0 4 rfl rfl)
theorem dX0_isFitting_5 : decode cX0_isFitting 5 = .ok (.iload_n 3, 1) := dk_29 (dk_at dksX0_isFitting_0 5 rfl rfl)
theorem dX0_isFitting_6 : decode cX0_isFitting 6 = .ok (.iconst (-1), 1) := dk_2 (dk_at dksX0_isFitting_0 6 rfl rfl)
theorem dX0_isFitting_7 : decode cX0_isFitting 7 = .ok (.if_icmp .eq 45, 3) := dk_159 0 45 (dk_at dksX0_isFitting_0 7 rfl rfl)
theorem dX0_isFitting_10 : decode cX0_isFitting 10 = .ok (.aload_n 2, 1) := dk_44 (dk_at dksX0_isFitting_0 10 rfl rfl)
theorem dX0_isFitting_11 : decode cX0_isFitting 11 = .ok (.iload_n 3, 1) := dk_29 (dk_at dksX0_isFitting_0 11 rfl rfl)
theorem dX0_isFitting_12 : decode cX0_isFitting 12 = .ok (.aaload, 1) := dk_50 (dk_at dksX0_isFitting_0 12 rfl rfl)
theorem dX0_isFitting_13 : decode cX0_isFitting 13 = .ok (.ifnull 13, 3) := dk_198 0 13 (dk_at dksX0_isFitting_0 13 rfl rfl)
theorem dX0_isFitting_16 : decode cX0_isFitting 16 = .ok (.aload_n 2, 1) := dk_44 (dk_at dksX0_isFitting_0 16 rfl rfl)
theorem dX0_isFitting_17 : decode cX0_isFitting 17 = .ok (.iload_n 3, 1) := dk_29 (dk_at dksX0_isFitting_0 17 rfl rfl)
theorem dX0_isFitting_18 : decode cX0_isFitting 18 = .ok (.aaload, 1) := dk_50 (dk_at dksX0_isFitting_0 18 rfl rfl)
theorem dX0_isFitting_19 : decode cX0_isFitting 19 = .ok (.aload_n 1, 1) := dk_43 (dk_at dksX0_isFitting_0 19 rfl rfl)
theorem dX0_isFitting_20 : decode cX0_isFitting 20 = .ok (.invokevirtual 17, 3) := dk_182 0 17 (dk_at dksX0_isFitting_0 20 rfl rfl)
theorem dX0_isFitting_23 : decode cX0_isFitting 23 = .ok (.ifCond .eq 7, 3) := dk_153 0 7 (dk_at dksX0_isFitting_1 0 rfl rfl)
theorem dX0_isFitting_26 : decode cX0_isFitting 26 = .ok (.iconst 1, 1) := dk_4 (dk_at dksX0_isFitting_1 3 rfl rfl)
theorem dX0_isFitting_27 : decode cX0_isFitting 27 = .ok (.goto 4, 3) := dk_167 0 4 (dk_at dksX0_isFitting_1 4 rfl rfl)
theorem dX0_isFitting_30 : decode cX0_isFitting 30 = .ok (.iconst 0, 1) := dk_3 (dk_at dksX0_isFitting_1 7 rfl rfl)
theorem dX0_isFitting_31 : decode cX0_isFitting 31 = .ok (.istore 4, 2) := dk_54 4 (dk_at dksX0_isFitting_1 8 rfl rfl)
theorem dX0_isFitting_33 : decode cX0_isFitting 33 = .ok (.aload_n 2, 1) := dk_44 (dk_at dksX0_isFitting_1 10 rfl rfl)
theorem dX0_isFitting_34 : decode cX0_isFitting 34 = .ok (.iload_n 3, 1) := dk_29 (dk_at dksX0_isFitting_1 11 rfl rfl)
theorem dX0_isFitting_35 : decode cX0_isFitting 35 = .ok (.aload_n 2, 1) := dk_44 (dk_at dksX0_isFitting_1 12 rfl rfl)
theorem dX0_isFitting_36 : decode cX0_isFitting 36 = .ok (.iload_n 3, 1) := dk_29 (dk_at dksX0_isFitting_1 13 rfl rfl)
theorem dX0_isFitting_37 : decode cX0_isFitting 37 = .ok (.aaload, 1) := dk_50 (dk_at dksX0_isFitting_1 14 rfl rfl)
theorem dX0_isFitting_38 : decode cX0_isFitting 38 = .ok (.ifnonnull 7, 3) := dk_199 0 7 (dk_at dksX0_isFitting_1 15 rfl rfl)
theorem dX0_isFitting_41 : decode cX0_isFitting 41 = .ok (.aload_n 1, 1) := dk_43 (dk_at dksX0_isFitting_1 18 rfl rfl)
theorem dX0_isFitting_42 : decode cX0_isFitting 42 = .ok (.goto 6, 3) := dk_167 0 6 (dk_at dksX0_isFitting_1 19 rfl rfl)
theorem dX0_isFitting_45 : decode cX0_isFitting 45 = .ok (.aload_n 2, 1) := dk_44 (dk_at dksX0_isFitting_1 22 rfl rfl)
theorem dX0_isFitting_46 : decode cX0_isFitting 46 = .ok (.iload_n 3, 1) := dk_29 (dk_at dksX0_isFitting_1 23 rfl rfl)
theorem dX0_isFitting_47 : decode cX0_isFitting 47 = .ok (.aaload, 1) := dk_50 (dk_at dksX0_isFitting_2 0 rfl rfl)
theorem dX0_isFitting_48 : decode cX0_isFitting 48 = .ok (.aastore, 1) := dk_83 (dk_at dksX0_isFitting_2 1 rfl rfl)
theorem dX0_isFitting_49 : decode cX0_isFitting 49 = .ok (.iload 4, 2) := dk_21 4 (dk_at dksX0_isFitting_2 2 rfl rfl)
theorem dX0_isFitting_51 : decode cX0_isFitting 51 = .ok (.ireturn, 1) := dk_172 (dk_at dksX0_isFitting_2 4 rfl rfl)
theorem dX0_isFitting_52 : decode cX0_isFitting 52 = .ok (.aload_n 0, 1) := dk_42 (dk_at dksX0_isFitting_2 5 rfl rfl)
theorem dX0_isFitting_53 : decode cX0_isFitting 53 = .ok (.getfield 21, 3) := dk_180 0 21 (dk_at dksX0_isFitting_2 6 rfl rfl)
theorem dX0_isFitting_56 : decode cX0_isFitting 56 = .ok (.aload_n 1, 1) := dk_43 (dk_at dksX0_isFitting_2 9 rfl rfl)
theorem dX0_isFitting_57 : decode cX0_isFitting 57 = .ok (.getfield 21, 3) := dk_180 0 21 (dk_at dksX0_isFitting_2 10 rfl rfl)
theorem dX0_isFitting_60 : decode cX0_isFitting 60 = .ok (.if_icmp .eq 5, 3) := dk_159 0 5 (dk_at dksX0_isFitting_2 13 rfl rfl)
theorem dX0_isFitting_63 : decode cX0_isFitting 63 = .ok (.iconst 0, 1) := dk_3 (dk_at dksX0_isFitting_2 16 rfl rfl)
theorem dX0_isFitting_64 : decode cX0_isFitting 64 = .ok (.ireturn, 1) := dk_172 (dk_at dksX0_isFitting_2 17 rfl rfl)
theorem dX0_isFitting_65 : decode cX0_isFitting 65 = .ok (.aload_n 0, 1) := dk_42 (dk_at dksX0_isFitting_2 18 rfl rfl)
theorem dX0_isFitting_66 : decode cX0_isFitting 66 = .ok (.getfield 25, 3) := dk_180 0 25 (dk_at dksX0_isFitting_2 19 rfl rfl)
theorem dX0_isFitting_69 : decode cX0_isFitting 69 = .ok (.ifnull 18, 3) := dk_198 0 18 (dk_at dksX0_isFitting_3 0 rfl rfl)
theorem dX0_isFitting_72 : decode cX0_isFitting 72 = .ok (.aload_n 0, 1) := dk_42 (dk_at dksX0_isFitting_3 3 rfl rfl)
theorem dX0_isFitting_73 : decode cX0_isFitting 73 = .ok (.getfield 25, 3) := dk_180 0 25 (dk_at dksX0_isFitting_3 4 rfl rfl)
theorem dX0_isFitting_76 : decode cX0_isFitting 76 = .ok (.aload_n 1, 1) := dk_43 (dk_at dksX0_isFitting_3 7 rfl rfl)
theorem dX0_isFitting_77 : decode cX0_isFitting 77 = .ok (.getfield 25, 3) := dk_180 0 25 (dk_at dksX0_isFitting_3 8 rfl rfl)
theorem dX0_isFitting_80 : decode cX0_isFitting 80 = .ok (.aload_n 2, 1) := dk_44 (dk_at dksX0_isFitting_3 11 rfl rfl)
theorem dX0_isFitting_81 : decode cX0_isFitting 81 = .ok (.invokestatic 29, 3) := dk_184 0 29 (dk_at dksX0_isFitting_3 12 rfl rfl)
theorem dX0_isFitting_84 : decode cX0_isFitting 84 = .ok (.ifCond .eq 29, 3) := dk_153 0 29 (dk_at dksX0_isFitting_3 15 rfl rfl)
theorem dX0_isFitting_87 : decode cX0_isFitting 87 = .ok (.aload_n 0, 1) := dk_42 (dk_at dksX0_isFitting_3 18 rfl rfl)
theorem dX0_isFitting_88 : decode cX0_isFitting 88 = .ok (.getfield 33, 3) := dk_180 0 33 (dk_at dksX0_isFitting_3 19 rfl rfl)
theorem dX0_isFitting_91 : decode cX0_isFitting 91 = .ok (.ifnull 18, 3) := dk_198 0 18 (dk_at dksX0_isFitting_4 0 rfl rfl)
theorem dX0_isFitting_94 : decode cX0_isFitting 94 = .ok (.aload_n 0, 1) := dk_42 (dk_at dksX0_isFitting_4 3 rfl rfl)
theorem dX0_isFitting_95 : decode cX0_isFitting 95 = .ok (.getfield 33, 3) := dk_180 0 33 (dk_at dksX0_isFitting_4 4 rfl rfl)
theorem dX0_isFitting_98 : decode cX0_isFitting 98 = .ok (.aload_n 1, 1) := dk_43 (dk_at dksX0_isFitting_4 7 rfl rfl)
theorem dX0_isFitting_99 : decode cX0_isFitting 99 = .ok (.getfield 33, 3) := dk_180 0 33 (dk_at dksX0_isFitting_4 8 rfl rfl)
theorem dX0_isFitting_102 : decode cX0_isFitting 102 = .ok (.aload_n 2, 1) := dk_44 (dk_at dksX0_isFitting_4 11 rfl rfl)
theorem dX0_isFitting_103 : decode cX0_isFitting 103 = .ok (.invokestatic 29, 3) := dk_184 0 29 (dk_at dksX0_isFitting_4 12 rfl rfl)
theorem dX0_isFitting_106 : decode cX0_isFitting 106 = .ok (.ifCond .eq 7, 3) := dk_153 0 7 (dk_at dksX0_isFitting_4 15 rfl rfl)
theorem dX0_isFitting_109 : decode cX0_isFitting 109 = .ok (.iconst 1, 1) := dk_4 (dk_at dksX0_isFitting_4 18 rfl rfl)
theorem dX0_isFitting_110 : decode cX0_isFitting 110 = .ok (.goto 4, 3) := dk_167 0 4 (dk_at dksX0_isFitting_4 19 rfl rfl)
theorem dX0_isFitting_113 : decode cX0_isFitting 113 = .ok (.iconst 0, 1) := dk_3 (dk_at dksX0_isFitting_4 22 rfl rfl)
theorem dX0_isFitting_114 : decode cX0_isFitting 114 = .ok (.ireturn, 1) := dk_172 (dk_at dksX0_isFitting_4 23 rfl rfl)
abbrev cX0_type : ByteArray := prog_1_method_29_code
def yX0_type : MethodName := ⟨RX0, "type", "(I)I"⟩
def dkwX0_type_3 : List UInt8 := [182, 1, 34, 172]
abbrev dktX0_type_3 : List UInt8 := dkwX0_type_3 ++ []
def dkwX0_type_2 : List UInt8 := [181, 0, 228, 42, 180, 0, 117, 27, 42, 182, 0, 231, 83, 42, 3, 181, 0, 174, 42, 180, 0, 117, 27, 50]
abbrev dktX0_type_2 : List UInt8 := dkwX0_type_2 ++ dktX0_type_3
def dkwX0_type_1 : List UInt8 := [182, 1, 31, 154, 0, 6, 16, 153, 172, 42, 182, 1, 31, 16, 9, 164, 0, 6, 16, 152, 172, 42, 3]
abbrev dktX0_type_1 : List UInt8 := dkwX0_type_1 ++ dktX0_type_2
def dkwX0_type_0 : List UInt8 := [27, 133, 9, 20, 1, 29, 184, 0, 170, 154, 0, 6, 16, 155, 172, 42, 180, 1, 12, 153, 0, 10, 42]
abbrev dktX0_type_0 : List UInt8 := dkwX0_type_0 ++ dktX0_type_1
theorem dksX0_type_0 : cX0_type.data.toList.drop 0 = dktX0_type_0 := by decide +kernel
theorem dksX0_type_1 : cX0_type.data.toList.drop 23 = dktX0_type_1 := dk_seg dksX0_type_0 23 rfl rfl
theorem dksX0_type_2 : cX0_type.data.toList.drop 46 = dktX0_type_2 := dk_seg dksX0_type_1 23 rfl rfl
theorem dksX0_type_3 : cX0_type.data.toList.drop 70 = dktX0_type_3 := dk_seg dksX0_type_2 24 rfl rfl
theorem dX0_type_0 : decode cX0_type 0 = .ok (.iload_n 1, 1) := dk_27 (dk_at dksX0_type_0 0 rfl rfl)
theorem dX0_type_1 : decode cX0_type 1 = .ok (.i2l, 1) := dk_133 (dk_at dksX0_type_0 1 rfl rfl)
theorem dX0_type_2 : decode cX0_type 2 = .ok (.lconst 0, 1) := dk_9 (dk_at dksX0_type_0 2 rfl rfl)
theorem dX0_type_3 : decode cX0_type 3 = .ok (.ldc2_w 285, 3) := dk_20 1 29 (dk_at dksX0_type_0 3 rfl rfl)
theorem dX0_type_6 : decode cX0_type 6 = .ok (.invokestatic 170, 3) := dk_184 0 170 (dk_at dksX0_type_0 6 rfl rfl)
theorem dX0_type_9 : decode cX0_type 9 = .ok (.ifCond .ne 6, 3) := dk_154 0 6 (dk_at dksX0_type_0 9 rfl rfl)
theorem dX0_type_12 : decode cX0_type 12 = .ok (.bipush (-101), 2) := dk_16 155 (dk_at dksX0_type_0 12 rfl rfl)
theorem dX0_type_14 : decode cX0_type 14 = .ok (.ireturn, 1) := dk_172 (dk_at dksX0_type_0 14 rfl rfl)
theorem dX0_type_15 : decode cX0_type 15 = .ok (.aload_n 0, 1) := dk_42 (dk_at dksX0_type_0 15 rfl rfl)
theorem dX0_type_16 : decode cX0_type 16 = .ok (.getfield 268, 3) := dk_180 1 12 (dk_at dksX0_type_0 16 rfl rfl)
theorem dX0_type_19 : decode cX0_type 19 = .ok (.ifCond .eq 10, 3) := dk_153 0 10 (dk_at dksX0_type_0 19 rfl rfl)
theorem dX0_type_22 : decode cX0_type 22 = .ok (.aload_n 0, 1) := dk_42 (dk_at dksX0_type_0 22 rfl rfl)
theorem dX0_type_23 : decode cX0_type 23 = .ok (.invokevirtual 287, 3) := dk_182 1 31 (dk_at dksX0_type_1 0 rfl rfl)
theorem dX0_type_26 : decode cX0_type 26 = .ok (.ifCond .ne 6, 3) := dk_154 0 6 (dk_at dksX0_type_1 3 rfl rfl)
theorem dX0_type_29 : decode cX0_type 29 = .ok (.bipush (-103), 2) := dk_16 153 (dk_at dksX0_type_1 6 rfl rfl)
theorem dX0_type_31 : decode cX0_type 31 = .ok (.ireturn, 1) := dk_172 (dk_at dksX0_type_1 8 rfl rfl)
theorem dX0_type_32 : decode cX0_type 32 = .ok (.aload_n 0, 1) := dk_42 (dk_at dksX0_type_1 9 rfl rfl)
theorem dX0_type_33 : decode cX0_type 33 = .ok (.invokevirtual 287, 3) := dk_182 1 31 (dk_at dksX0_type_1 10 rfl rfl)
theorem dX0_type_36 : decode cX0_type 36 = .ok (.bipush 9, 2) := dk_16 9 (dk_at dksX0_type_1 13 rfl rfl)
theorem dX0_type_38 : decode cX0_type 38 = .ok (.if_icmp .le 6, 3) := dk_164 0 6 (dk_at dksX0_type_1 15 rfl rfl)
theorem dX0_type_41 : decode cX0_type 41 = .ok (.bipush (-104), 2) := dk_16 152 (dk_at dksX0_type_1 18 rfl rfl)
theorem dX0_type_43 : decode cX0_type 43 = .ok (.ireturn, 1) := dk_172 (dk_at dksX0_type_1 20 rfl rfl)
theorem dX0_type_44 : decode cX0_type 44 = .ok (.aload_n 0, 1) := dk_42 (dk_at dksX0_type_1 21 rfl rfl)
theorem dX0_type_45 : decode cX0_type 45 = .ok (.iconst 0, 1) := dk_3 (dk_at dksX0_type_1 22 rfl rfl)
theorem dX0_type_46 : decode cX0_type 46 = .ok (.putfield 228, 3) := dk_181 0 228 (dk_at dksX0_type_2 0 rfl rfl)
theorem dX0_type_49 : decode cX0_type 49 = .ok (.aload_n 0, 1) := dk_42 (dk_at dksX0_type_2 3 rfl rfl)
theorem dX0_type_50 : decode cX0_type 50 = .ok (.getfield 117, 3) := dk_180 0 117 (dk_at dksX0_type_2 4 rfl rfl)
theorem dX0_type_53 : decode cX0_type 53 = .ok (.iload_n 1, 1) := dk_27 (dk_at dksX0_type_2 7 rfl rfl)
theorem dX0_type_54 : decode cX0_type 54 = .ok (.aload_n 0, 1) := dk_42 (dk_at dksX0_type_2 8 rfl rfl)
theorem dX0_type_55 : decode cX0_type 55 = .ok (.invokevirtual 231, 3) := dk_182 0 231 (dk_at dksX0_type_2 9 rfl rfl)
theorem dX0_type_58 : decode cX0_type 58 = .ok (.aastore, 1) := dk_83 (dk_at dksX0_type_2 12 rfl rfl)
theorem dX0_type_59 : decode cX0_type 59 = .ok (.aload_n 0, 1) := dk_42 (dk_at dksX0_type_2 13 rfl rfl)
theorem dX0_type_60 : decode cX0_type 60 = .ok (.iconst 0, 1) := dk_3 (dk_at dksX0_type_2 14 rfl rfl)
theorem dX0_type_61 : decode cX0_type 61 = .ok (.putfield 174, 3) := dk_181 0 174 (dk_at dksX0_type_2 15 rfl rfl)
theorem dX0_type_64 : decode cX0_type 64 = .ok (.aload_n 0, 1) := dk_42 (dk_at dksX0_type_2 18 rfl rfl)
theorem dX0_type_65 : decode cX0_type 65 = .ok (.getfield 117, 3) := dk_180 0 117 (dk_at dksX0_type_2 19 rfl rfl)
theorem dX0_type_68 : decode cX0_type 68 = .ok (.iload_n 1, 1) := dk_27 (dk_at dksX0_type_2 22 rfl rfl)
theorem dX0_type_69 : decode cX0_type 69 = .ok (.aaload, 1) := dk_50 (dk_at dksX0_type_2 23 rfl rfl)
theorem dX0_type_70 : decode cX0_type 70 = .ok (.invokevirtual 290, 3) := dk_182 1 34 (dk_at dksX0_type_3 0 rfl rfl)
theorem dX0_type_73 : decode cX0_type 73 = .ok (.ireturn, 1) := dk_172 (dk_at dksX0_type_3 3 rfl rfl)
abbrev cX0_typed : ByteArray := prog_1_method_28_code
def yX0_typed : MethodName := ⟨RX0, "typed", "()I"⟩
def dkwX0_typed_2 : List UInt8 := [167, 255, 215, 27, 154, 0, 15, 28, 42, 180, 0, 174, 160, 0, 7, 28, 167, 0, 4, 3, 172]
abbrev dktX0_typed_2 : List UInt8 := dkwX0_typed_2 ++ []
def dkwX0_typed_1 : List UInt8 := [184, 0, 206, 153, 0, 23, 27, 42, 180, 0, 121, 28, 46, 184, 0, 1, 4, 100, 96, 60, 132, 2, 1]
abbrev dktX0_typed_1 : List UInt8 := dkwX0_typed_1 ++ dktX0_typed_2
def dkwX0_typed_0 : List UInt8 := [4, 60, 3, 61, 28, 42, 180, 0, 174, 162, 0, 39, 27, 158, 0, 35, 42, 180, 0, 121, 28, 46]
abbrev dktX0_typed_0 : List UInt8 := dkwX0_typed_0 ++ dktX0_typed_1
theorem dksX0_typed_0 : cX0_typed.data.toList.drop 0 = dktX0_typed_0 := by decide +kernel
theorem dksX0_typed_1 : cX0_typed.data.toList.drop 22 = dktX0_typed_1 := dk_seg dksX0_typed_0 22 rfl rfl
theorem dksX0_typed_2 : cX0_typed.data.toList.drop 45 = dktX0_typed_2 := dk_seg dksX0_typed_1 23 rfl rfl
theorem dX0_typed_0 : decode cX0_typed 0 = .ok (.iconst 1, 1) := dk_4 (dk_at dksX0_typed_0 0 rfl rfl)
theorem dX0_typed_1 : decode cX0_typed 1 = .ok (.istore_n 1, 1) := dk_60 (dk_at dksX0_typed_0 1 rfl rfl)
theorem dX0_typed_2 : decode cX0_typed 2 = .ok (.iconst 0, 1) := dk_3 (dk_at dksX0_typed_0 2 rfl rfl)
theorem dX0_typed_3 : decode cX0_typed 3 = .ok (.istore_n 2, 1) := dk_61 (dk_at dksX0_typed_0 3 rfl rfl)
theorem dX0_typed_4 : decode cX0_typed 4 = .ok (.iload_n 2, 1) := dk_28 (dk_at dksX0_typed_0 4 rfl rfl)
theorem dX0_typed_5 : decode cX0_typed 5 = .ok (.aload_n 0, 1) := dk_42 (dk_at dksX0_typed_0 5 rfl rfl)
theorem dX0_typed_6 : decode cX0_typed 6 = .ok (.getfield 174, 3) := dk_180 0 174 (dk_at dksX0_typed_0 6 rfl rfl)
theorem dX0_typed_9 : decode cX0_typed 9 = .ok (.if_icmp .ge 39, 3) := dk_162 0 39 (dk_at dksX0_typed_0 9 rfl rfl)
theorem dX0_typed_12 : decode cX0_typed 12 = .ok (.iload_n 1, 1) := dk_27 (dk_at dksX0_typed_0 12 rfl rfl)
theorem dX0_typed_13 : decode cX0_typed 13 = .ok (.ifCond .le 35, 3) := dk_158 0 35 (dk_at dksX0_typed_0 13 rfl rfl)
theorem dX0_typed_16 : decode cX0_typed 16 = .ok (.aload_n 0, 1) := dk_42 (dk_at dksX0_typed_0 16 rfl rfl)
theorem dX0_typed_17 : decode cX0_typed 17 = .ok (.getfield 121, 3) := dk_180 0 121 (dk_at dksX0_typed_0 17 rfl rfl)
theorem dX0_typed_20 : decode cX0_typed 20 = .ok (.iload_n 2, 1) := dk_28 (dk_at dksX0_typed_0 20 rfl rfl)
theorem dX0_typed_21 : decode cX0_typed 21 = .ok (.iaload, 1) := dk_46 (dk_at dksX0_typed_0 21 rfl rfl)
theorem dX0_typed_22 : decode cX0_typed 22 = .ok (.invokestatic 206, 3) := dk_184 0 206 (dk_at dksX0_typed_1 0 rfl rfl)
theorem dX0_typed_25 : decode cX0_typed 25 = .ok (.ifCond .eq 23, 3) := dk_153 0 23 (dk_at dksX0_typed_1 3 rfl rfl)
theorem dX0_typed_28 : decode cX0_typed 28 = .ok (.iload_n 1, 1) := dk_27 (dk_at dksX0_typed_1 6 rfl rfl)
theorem dX0_typed_29 : decode cX0_typed 29 = .ok (.aload_n 0, 1) := dk_42 (dk_at dksX0_typed_1 7 rfl rfl)
theorem dX0_typed_30 : decode cX0_typed 30 = .ok (.getfield 121, 3) := dk_180 0 121 (dk_at dksX0_typed_1 8 rfl rfl)
theorem dX0_typed_33 : decode cX0_typed 33 = .ok (.iload_n 2, 1) := dk_28 (dk_at dksX0_typed_1 11 rfl rfl)
theorem dX0_typed_34 : decode cX0_typed 34 = .ok (.iaload, 1) := dk_46 (dk_at dksX0_typed_1 12 rfl rfl)
theorem dX0_typed_35 : decode cX0_typed 35 = .ok (.invokestatic 1, 3) := dk_184 0 1 (dk_at dksX0_typed_1 13 rfl rfl)
theorem dX0_typed_38 : decode cX0_typed 38 = .ok (.iconst 1, 1) := dk_4 (dk_at dksX0_typed_1 16 rfl rfl)
theorem dX0_typed_39 : decode cX0_typed 39 = .ok (.isub, 1) := dk_100 (dk_at dksX0_typed_1 17 rfl rfl)
theorem dX0_typed_40 : decode cX0_typed 40 = .ok (.iadd, 1) := dk_96 (dk_at dksX0_typed_1 18 rfl rfl)
theorem dX0_typed_41 : decode cX0_typed 41 = .ok (.istore_n 1, 1) := dk_60 (dk_at dksX0_typed_1 19 rfl rfl)
theorem dX0_typed_42 : decode cX0_typed 42 = .ok (.iinc 2 1, 3) := dk_132 2 1 (dk_at dksX0_typed_1 20 rfl rfl)
theorem dX0_typed_45 : decode cX0_typed 45 = .ok (.goto (-41), 3) := dk_167 255 215 (dk_at dksX0_typed_2 0 rfl rfl)
theorem dX0_typed_48 : decode cX0_typed 48 = .ok (.iload_n 1, 1) := dk_27 (dk_at dksX0_typed_2 3 rfl rfl)
theorem dX0_typed_49 : decode cX0_typed 49 = .ok (.ifCond .ne 15, 3) := dk_154 0 15 (dk_at dksX0_typed_2 4 rfl rfl)
theorem dX0_typed_52 : decode cX0_typed 52 = .ok (.iload_n 2, 1) := dk_28 (dk_at dksX0_typed_2 7 rfl rfl)
theorem dX0_typed_53 : decode cX0_typed 53 = .ok (.aload_n 0, 1) := dk_42 (dk_at dksX0_typed_2 8 rfl rfl)
theorem dX0_typed_54 : decode cX0_typed 54 = .ok (.getfield 174, 3) := dk_180 0 174 (dk_at dksX0_typed_2 9 rfl rfl)
theorem dX0_typed_57 : decode cX0_typed 57 = .ok (.if_icmp .ne 7, 3) := dk_160 0 7 (dk_at dksX0_typed_2 12 rfl rfl)
theorem dX0_typed_60 : decode cX0_typed 60 = .ok (.iload_n 2, 1) := dk_28 (dk_at dksX0_typed_2 15 rfl rfl)
theorem dX0_typed_61 : decode cX0_typed 61 = .ok (.goto 4, 3) := dk_167 0 4 (dk_at dksX0_typed_2 16 rfl rfl)
theorem dX0_typed_64 : decode cX0_typed 64 = .ok (.iconst 0, 1) := dk_3 (dk_at dksX0_typed_2 19 rfl rfl)
theorem dX0_typed_65 : decode cX0_typed 65 = .ok (.ireturn, 1) := dk_172 (dk_at dksX0_typed_2 20 rfl rfl)
abbrev cX0_goal : ByteArray := prog_1_method_43_code
def yX0_goal : MethodName := ⟨RX0, "goal", "(III)I"⟩
def dkwX0_goal_1 : List UInt8 := [20, 1, 129, 184, 0, 170, 153, 0, 13, 42, 27, 28, 29, 182, 1, 131, 167, 0, 5, 16, 154, 172]
abbrev dktX0_goal_1 : List UInt8 := dkwX0_goal_1 ++ []
def dkwX0_goal_0 : List UInt8 := [42, 27, 182, 1, 123, 153, 0, 11, 42, 28, 182, 1, 126, 154, 0, 6, 16, 155, 172, 29, 133, 9]
abbrev dktX0_goal_0 : List UInt8 := dkwX0_goal_0 ++ dktX0_goal_1
theorem dksX0_goal_0 : cX0_goal.data.toList.drop 0 = dktX0_goal_0 := by decide +kernel
theorem dksX0_goal_1 : cX0_goal.data.toList.drop 22 = dktX0_goal_1 := dk_seg dksX0_goal_0 22 rfl rfl
theorem dX0_goal_0 : decode cX0_goal 0 = .ok (.aload_n 0, 1) := dk_42 (dk_at dksX0_goal_0 0 rfl rfl)
theorem dX0_goal_1 : decode cX0_goal 1 = .ok (.iload_n 1, 1) := dk_27 (dk_at dksX0_goal_0 1 rfl rfl)
theorem dX0_goal_2 : decode cX0_goal 2 = .ok (.invokevirtual 379, 3) := dk_182 1 123 (dk_at dksX0_goal_0 2 rfl rfl)
theorem dX0_goal_5 : decode cX0_goal 5 = .ok (.ifCond .eq 11, 3) := dk_153 0 11 (dk_at dksX0_goal_0 5 rfl rfl)
theorem dX0_goal_8 : decode cX0_goal 8 = .ok (.aload_n 0, 1) := dk_42 (dk_at dksX0_goal_0 8 rfl rfl)
theorem dX0_goal_9 : decode cX0_goal 9 = .ok (.iload_n 2, 1) := dk_28 (dk_at dksX0_goal_0 9 rfl rfl)
theorem dX0_goal_10 : decode cX0_goal 10 = .ok (.invokevirtual 382, 3) := dk_182 1 126 (dk_at dksX0_goal_0 10 rfl rfl)
theorem dX0_goal_13 : decode cX0_goal 13 = .ok (.ifCond .ne 6, 3) := dk_154 0 6 (dk_at dksX0_goal_0 13 rfl rfl)
theorem dX0_goal_16 : decode cX0_goal 16 = .ok (.bipush (-101), 2) := dk_16 155 (dk_at dksX0_goal_0 16 rfl rfl)
theorem dX0_goal_18 : decode cX0_goal 18 = .ok (.ireturn, 1) := dk_172 (dk_at dksX0_goal_0 18 rfl rfl)
theorem dX0_goal_19 : decode cX0_goal 19 = .ok (.iload_n 3, 1) := dk_29 (dk_at dksX0_goal_0 19 rfl rfl)
theorem dX0_goal_20 : decode cX0_goal 20 = .ok (.i2l, 1) := dk_133 (dk_at dksX0_goal_0 20 rfl rfl)
theorem dX0_goal_21 : decode cX0_goal 21 = .ok (.lconst 0, 1) := dk_9 (dk_at dksX0_goal_0 21 rfl rfl)
theorem dX0_goal_22 : decode cX0_goal 22 = .ok (.ldc2_w 385, 3) := dk_20 1 129 (dk_at dksX0_goal_1 0 rfl rfl)
theorem dX0_goal_25 : decode cX0_goal 25 = .ok (.invokestatic 170, 3) := dk_184 0 170 (dk_at dksX0_goal_1 3 rfl rfl)
theorem dX0_goal_28 : decode cX0_goal 28 = .ok (.ifCond .eq 13, 3) := dk_153 0 13 (dk_at dksX0_goal_1 6 rfl rfl)
theorem dX0_goal_31 : decode cX0_goal 31 = .ok (.aload_n 0, 1) := dk_42 (dk_at dksX0_goal_1 9 rfl rfl)
theorem dX0_goal_32 : decode cX0_goal 32 = .ok (.iload_n 1, 1) := dk_27 (dk_at dksX0_goal_1 10 rfl rfl)
theorem dX0_goal_33 : decode cX0_goal 33 = .ok (.iload_n 2, 1) := dk_28 (dk_at dksX0_goal_1 11 rfl rfl)
theorem dX0_goal_34 : decode cX0_goal 34 = .ok (.iload_n 3, 1) := dk_29 (dk_at dksX0_goal_1 12 rfl rfl)
theorem dX0_goal_35 : decode cX0_goal 35 = .ok (.invokevirtual 387, 3) := dk_182 1 131 (dk_at dksX0_goal_1 13 rfl rfl)
theorem dX0_goal_38 : decode cX0_goal 38 = .ok (.goto 5, 3) := dk_167 0 5 (dk_at dksX0_goal_1 16 rfl rfl)
theorem dX0_goal_41 : decode cX0_goal 41 = .ok (.bipush (-102), 2) := dk_16 154 (dk_at dksX0_goal_1 19 rfl rfl)
theorem dX0_goal_43 : decode cX0_goal 43 = .ok (.ireturn, 1) := dk_172 (dk_at dksX0_goal_1 21 rfl rfl)
abbrev cX0_isClass : ByteArray := prog_1_method_30_code
def yX0_isClass : MethodName := ⟨RX0, "isClass", "(I)Z"⟩
def dkwX0_isClass_0 : List UInt8 := [27, 133, 9, 42, 180, 0, 238, 4, 100, 133, 184, 0, 170, 172]
abbrev dktX0_isClass_0 : List UInt8 := dkwX0_isClass_0 ++ []
theorem dksX0_isClass_0 : cX0_isClass.data.toList.drop 0 = dktX0_isClass_0 := by decide +kernel
theorem dX0_isClass_0 : decode cX0_isClass 0 = .ok (.iload_n 1, 1) := dk_27 (dk_at dksX0_isClass_0 0 rfl rfl)
theorem dX0_isClass_1 : decode cX0_isClass 1 = .ok (.i2l, 1) := dk_133 (dk_at dksX0_isClass_0 1 rfl rfl)
theorem dX0_isClass_2 : decode cX0_isClass 2 = .ok (.lconst 0, 1) := dk_9 (dk_at dksX0_isClass_0 2 rfl rfl)
theorem dX0_isClass_3 : decode cX0_isClass 3 = .ok (.aload_n 0, 1) := dk_42 (dk_at dksX0_isClass_0 3 rfl rfl)
theorem dX0_isClass_4 : decode cX0_isClass 4 = .ok (.getfield 238, 3) := dk_180 0 238 (dk_at dksX0_isClass_0 4 rfl rfl)
theorem dX0_isClass_7 : decode cX0_isClass 7 = .ok (.iconst 1, 1) := dk_4 (dk_at dksX0_isClass_0 7 rfl rfl)
theorem dX0_isClass_8 : decode cX0_isClass 8 = .ok (.isub, 1) := dk_100 (dk_at dksX0_isClass_0 8 rfl rfl)
theorem dX0_isClass_9 : decode cX0_isClass 9 = .ok (.i2l, 1) := dk_133 (dk_at dksX0_isClass_0 9 rfl rfl)
theorem dX0_isClass_10 : decode cX0_isClass 10 = .ok (.invokestatic 170, 3) := dk_184 0 170 (dk_at dksX0_isClass_0 10 rfl rfl)
theorem dX0_isClass_13 : decode cX0_isClass 13 = .ok (.ireturn, 1) := dk_172 (dk_at dksX0_isClass_0 13 rfl rfl)
abbrev cX0_isSlot : ByteArray := prog_1_method_32_code
def yX0_isSlot : MethodName := ⟨RX0, "isSlot", "(I)Z"⟩
def dkwX0_isSlot_1 : List UInt8 := [167, 0, 4, 3, 172]
abbrev dktX0_isSlot_1 : List UInt8 := dkwX0_isSlot_1 ++ []
def dkwX0_isSlot_0 : List UInt8 := [27, 133, 9, 20, 1, 29, 184, 0, 170, 153, 0, 16, 42, 180, 0, 117, 27, 50, 198, 0, 7, 4]
abbrev dktX0_isSlot_0 : List UInt8 := dkwX0_isSlot_0 ++ dktX0_isSlot_1
theorem dksX0_isSlot_0 : cX0_isSlot.data.toList.drop 0 = dktX0_isSlot_0 := by decide +kernel
theorem dksX0_isSlot_1 : cX0_isSlot.data.toList.drop 22 = dktX0_isSlot_1 := dk_seg dksX0_isSlot_0 22 rfl rfl
theorem dX0_isSlot_0 : decode cX0_isSlot 0 = .ok (.iload_n 1, 1) := dk_27 (dk_at dksX0_isSlot_0 0 rfl rfl)
theorem dX0_isSlot_1 : decode cX0_isSlot 1 = .ok (.i2l, 1) := dk_133 (dk_at dksX0_isSlot_0 1 rfl rfl)
theorem dX0_isSlot_2 : decode cX0_isSlot 2 = .ok (.lconst 0, 1) := dk_9 (dk_at dksX0_isSlot_0 2 rfl rfl)
theorem dX0_isSlot_3 : decode cX0_isSlot 3 = .ok (.ldc2_w 285, 3) := dk_20 1 29 (dk_at dksX0_isSlot_0 3 rfl rfl)
theorem dX0_isSlot_6 : decode cX0_isSlot 6 = .ok (.invokestatic 170, 3) := dk_184 0 170 (dk_at dksX0_isSlot_0 6 rfl rfl)
theorem dX0_isSlot_9 : decode cX0_isSlot 9 = .ok (.ifCond .eq 16, 3) := dk_153 0 16 (dk_at dksX0_isSlot_0 9 rfl rfl)
theorem dX0_isSlot_12 : decode cX0_isSlot 12 = .ok (.aload_n 0, 1) := dk_42 (dk_at dksX0_isSlot_0 12 rfl rfl)
theorem dX0_isSlot_13 : decode cX0_isSlot 13 = .ok (.getfield 117, 3) := dk_180 0 117 (dk_at dksX0_isSlot_0 13 rfl rfl)
theorem dX0_isSlot_16 : decode cX0_isSlot 16 = .ok (.iload_n 1, 1) := dk_27 (dk_at dksX0_isSlot_0 16 rfl rfl)
theorem dX0_isSlot_17 : decode cX0_isSlot 17 = .ok (.aaload, 1) := dk_50 (dk_at dksX0_isSlot_0 17 rfl rfl)
theorem dX0_isSlot_18 : decode cX0_isSlot 18 = .ok (.ifnull 7, 3) := dk_198 0 7 (dk_at dksX0_isSlot_0 18 rfl rfl)
theorem dX0_isSlot_21 : decode cX0_isSlot 21 = .ok (.iconst 1, 1) := dk_4 (dk_at dksX0_isSlot_0 21 rfl rfl)
theorem dX0_isSlot_22 : decode cX0_isSlot 22 = .ok (.goto 4, 3) := dk_167 0 4 (dk_at dksX0_isSlot_1 0 rfl rfl)
theorem dX0_isSlot_25 : decode cX0_isSlot 25 = .ok (.iconst 0, 1) := dk_3 (dk_at dksX0_isSlot_1 3 rfl rfl)
theorem dX0_isSlot_26 : decode cX0_isSlot 26 = .ok (.ireturn, 1) := dk_172 (dk_at dksX0_isSlot_1 4 rfl rfl)
abbrev cX0_tellGoal : ByteArray := prog_1_method_42_code
def yX0_tellGoal : MethodName := ⟨RX0, "tellGoal", "(III)I"⟩
def dkwX0_tellGoal_2 : List UInt8 := [167, 0, 4, 2, 172]
abbrev dktX0_tellGoal_2 : List UInt8 := dkwX0_tellGoal_2 ++ []
def dkwX0_tellGoal_1 : List UInt8 := [25, 4, 180, 1, 85, 167, 0, 23, 25, 4, 180, 1, 85, 4, 160, 0, 13, 42, 25, 4, 29, 182, 1, 119]
abbrev dktX0_tellGoal_1 : List UInt8 := dkwX0_tellGoal_1 ++ dktX0_tellGoal_2
def dkwX0_tellGoal_0 : List UInt8 := [42, 187, 1, 38, 89, 27, 42, 180, 0, 117, 28, 50, 183, 1, 78, 182, 1, 81, 58, 4, 29, 154, 0, 11]
abbrev dktX0_tellGoal_0 : List UInt8 := dkwX0_tellGoal_0 ++ dktX0_tellGoal_1
theorem dksX0_tellGoal_0 : cX0_tellGoal.data.toList.drop 0 = dktX0_tellGoal_0 := by decide +kernel
theorem dksX0_tellGoal_1 : cX0_tellGoal.data.toList.drop 24 = dktX0_tellGoal_1 := dk_seg dksX0_tellGoal_0 24 rfl rfl
theorem dksX0_tellGoal_2 : cX0_tellGoal.data.toList.drop 48 = dktX0_tellGoal_2 := dk_seg dksX0_tellGoal_1 24 rfl rfl
theorem dX0_tellGoal_0 : decode cX0_tellGoal 0 = .ok (.aload_n 0, 1) := dk_42 (dk_at dksX0_tellGoal_0 0 rfl rfl)
theorem dX0_tellGoal_1 : decode cX0_tellGoal 1 = .ok (.new 294, 3) := dk_187 1 38 (dk_at dksX0_tellGoal_0 1 rfl rfl)
theorem dX0_tellGoal_4 : decode cX0_tellGoal 4 = .ok (.dup, 1) := dk_89 (dk_at dksX0_tellGoal_0 4 rfl rfl)
theorem dX0_tellGoal_5 : decode cX0_tellGoal 5 = .ok (.iload_n 1, 1) := dk_27 (dk_at dksX0_tellGoal_0 5 rfl rfl)
theorem dX0_tellGoal_6 : decode cX0_tellGoal 6 = .ok (.aload_n 0, 1) := dk_42 (dk_at dksX0_tellGoal_0 6 rfl rfl)
theorem dX0_tellGoal_7 : decode cX0_tellGoal 7 = .ok (.getfield 117, 3) := dk_180 0 117 (dk_at dksX0_tellGoal_0 7 rfl rfl)
theorem dX0_tellGoal_10 : decode cX0_tellGoal 10 = .ok (.iload_n 2, 1) := dk_28 (dk_at dksX0_tellGoal_0 10 rfl rfl)
theorem dX0_tellGoal_11 : decode cX0_tellGoal 11 = .ok (.aaload, 1) := dk_50 (dk_at dksX0_tellGoal_0 11 rfl rfl)
theorem dX0_tellGoal_12 : decode cX0_tellGoal 12 = .ok (.invokespecial 334, 3) := dk_183 1 78 (dk_at dksX0_tellGoal_0 12 rfl rfl)
theorem dX0_tellGoal_15 : decode cX0_tellGoal 15 = .ok (.invokevirtual 337, 3) := dk_182 1 81 (dk_at dksX0_tellGoal_0 15 rfl rfl)
theorem dX0_tellGoal_18 : decode cX0_tellGoal 18 = .ok (.astore 4, 2) := dk_58 4 (dk_at dksX0_tellGoal_0 18 rfl rfl)
theorem dX0_tellGoal_20 : decode cX0_tellGoal 20 = .ok (.iload_n 3, 1) := dk_29 (dk_at dksX0_tellGoal_0 20 rfl rfl)
theorem dX0_tellGoal_21 : decode cX0_tellGoal 21 = .ok (.ifCond .ne 11, 3) := dk_154 0 11 (dk_at dksX0_tellGoal_0 21 rfl rfl)
theorem dX0_tellGoal_24 : decode cX0_tellGoal 24 = .ok (.aload 4, 2) := dk_25 4 (dk_at dksX0_tellGoal_1 0 rfl rfl)
theorem dX0_tellGoal_26 : decode cX0_tellGoal 26 = .ok (.getfield 341, 3) := dk_180 1 85 (dk_at dksX0_tellGoal_1 2 rfl rfl)
theorem dX0_tellGoal_29 : decode cX0_tellGoal 29 = .ok (.goto 23, 3) := dk_167 0 23 (dk_at dksX0_tellGoal_1 5 rfl rfl)
theorem dX0_tellGoal_32 : decode cX0_tellGoal 32 = .ok (.aload 4, 2) := dk_25 4 (dk_at dksX0_tellGoal_1 8 rfl rfl)
theorem dX0_tellGoal_34 : decode cX0_tellGoal 34 = .ok (.getfield 341, 3) := dk_180 1 85 (dk_at dksX0_tellGoal_1 10 rfl rfl)
theorem dX0_tellGoal_37 : decode cX0_tellGoal 37 = .ok (.iconst 1, 1) := dk_4 (dk_at dksX0_tellGoal_1 13 rfl rfl)
theorem dX0_tellGoal_38 : decode cX0_tellGoal 38 = .ok (.if_icmp .ne 13, 3) := dk_160 0 13 (dk_at dksX0_tellGoal_1 14 rfl rfl)
theorem dX0_tellGoal_41 : decode cX0_tellGoal 41 = .ok (.aload_n 0, 1) := dk_42 (dk_at dksX0_tellGoal_1 17 rfl rfl)
theorem dX0_tellGoal_42 : decode cX0_tellGoal 42 = .ok (.aload 4, 2) := dk_25 4 (dk_at dksX0_tellGoal_1 18 rfl rfl)
theorem dX0_tellGoal_44 : decode cX0_tellGoal 44 = .ok (.iload_n 3, 1) := dk_29 (dk_at dksX0_tellGoal_1 20 rfl rfl)
theorem dX0_tellGoal_45 : decode cX0_tellGoal 45 = .ok (.invokevirtual 375, 3) := dk_182 1 119 (dk_at dksX0_tellGoal_1 21 rfl rfl)
theorem dX0_tellGoal_48 : decode cX0_tellGoal 48 = .ok (.goto 4, 3) := dk_167 0 4 (dk_at dksX0_tellGoal_2 0 rfl rfl)
theorem dX0_tellGoal_51 : decode cX0_tellGoal 51 = .ok (.iconst (-1), 1) := dk_2 (dk_at dksX0_tellGoal_2 3 rfl rfl)
theorem dX0_tellGoal_52 : decode cX0_tellGoal 52 = .ok (.ireturn, 1) := dk_172 (dk_at dksX0_tellGoal_2 4 rfl rfl)
abbrev cX0_prove : ByteArray := prog_1_method_38_code
def yX0_prove : MethodName := ⟨RX0, "prove", "(LDictProof$Goal;)LDictProof$Proof;"⟩
def dkwX0_prove_1 : List UInt8 := [180, 0, 128, 43, 44, 182, 0, 71, 87, 44, 176]
abbrev dktX0_prove_1 : List UInt8 := dkwX0_prove_1 ++ []
def dkwX0_prove_0 : List UInt8 := [42, 180, 0, 128, 43, 182, 0, 47, 192, 1, 63, 77, 44, 199, 0, 19, 42, 43, 182, 1, 88, 77, 42]
abbrev dktX0_prove_0 : List UInt8 := dkwX0_prove_0 ++ dktX0_prove_1
theorem dksX0_prove_0 : cX0_prove.data.toList.drop 0 = dktX0_prove_0 := by decide +kernel
theorem dksX0_prove_1 : cX0_prove.data.toList.drop 23 = dktX0_prove_1 := dk_seg dksX0_prove_0 23 rfl rfl
theorem dX0_prove_0 : decode cX0_prove 0 = .ok (.aload_n 0, 1) := dk_42 (dk_at dksX0_prove_0 0 rfl rfl)
theorem dX0_prove_1 : decode cX0_prove 1 = .ok (.getfield 128, 3) := dk_180 0 128 (dk_at dksX0_prove_0 1 rfl rfl)
theorem dX0_prove_4 : decode cX0_prove 4 = .ok (.aload_n 1, 1) := dk_43 (dk_at dksX0_prove_0 4 rfl rfl)
theorem dX0_prove_5 : decode cX0_prove 5 = .ok (.invokevirtual 47, 3) := dk_182 0 47 (dk_at dksX0_prove_0 5 rfl rfl)
theorem dX0_prove_8 : decode cX0_prove 8 = .ok (.checkcast 319, 3) := dk_192 1 63 (dk_at dksX0_prove_0 8 rfl rfl)
theorem dX0_prove_11 : decode cX0_prove 11 = .ok (.astore_n 2, 1) := dk_77 (dk_at dksX0_prove_0 11 rfl rfl)
theorem dX0_prove_12 : decode cX0_prove 12 = .ok (.aload_n 2, 1) := dk_44 (dk_at dksX0_prove_0 12 rfl rfl)
theorem dX0_prove_13 : decode cX0_prove 13 = .ok (.ifnonnull 19, 3) := dk_199 0 19 (dk_at dksX0_prove_0 13 rfl rfl)
theorem dX0_prove_16 : decode cX0_prove 16 = .ok (.aload_n 0, 1) := dk_42 (dk_at dksX0_prove_0 16 rfl rfl)
theorem dX0_prove_17 : decode cX0_prove 17 = .ok (.aload_n 1, 1) := dk_43 (dk_at dksX0_prove_0 17 rfl rfl)
theorem dX0_prove_18 : decode cX0_prove 18 = .ok (.invokevirtual 344, 3) := dk_182 1 88 (dk_at dksX0_prove_0 18 rfl rfl)
theorem dX0_prove_21 : decode cX0_prove 21 = .ok (.astore_n 2, 1) := dk_77 (dk_at dksX0_prove_0 21 rfl rfl)
theorem dX0_prove_22 : decode cX0_prove 22 = .ok (.aload_n 0, 1) := dk_42 (dk_at dksX0_prove_0 22 rfl rfl)
theorem dX0_prove_23 : decode cX0_prove 23 = .ok (.getfield 128, 3) := dk_180 0 128 (dk_at dksX0_prove_1 0 rfl rfl)
theorem dX0_prove_26 : decode cX0_prove 26 = .ok (.aload_n 1, 1) := dk_43 (dk_at dksX0_prove_1 3 rfl rfl)
theorem dX0_prove_27 : decode cX0_prove 27 = .ok (.aload_n 2, 1) := dk_44 (dk_at dksX0_prove_1 4 rfl rfl)
theorem dX0_prove_28 : decode cX0_prove 28 = .ok (.invokevirtual 71, 3) := dk_182 0 71 (dk_at dksX0_prove_1 5 rfl rfl)
theorem dX0_prove_31 : decode cX0_prove 31 = .ok (.pop, 1) := dk_87 (dk_at dksX0_prove_1 8 rfl rfl)
theorem dX0_prove_32 : decode cX0_prove 32 = .ok (.aload_n 2, 1) := dk_44 (dk_at dksX0_prove_1 9 rfl rfl)
theorem dX0_prove_33 : decode cX0_prove 33 = .ok (.areturn, 1) := dk_176 (dk_at dksX0_prove_1 10 rfl rfl)
abbrev cX0_proved : ByteArray := prog_1_method_37_code
def yX0_proved : MethodName := ⟨RX0, "proved", "(LDictProof$Goal;)LDictProof$Proof;"⟩
def dkwX0_proved_11 : List UInt8 := [183, 1, 65, 176]
abbrev dktX0_proved_11 : List UInt8 := dkwX0_proved_11 ++ []
def dkwX0_proved_10 : List UInt8 := [167, 0, 5, 21, 7, 54, 7, 132, 8, 1, 167, 255, 187, 187, 1, 63, 89, 43, 21, 7, 25, 4, 25, 6]
abbrev dktX0_proved_10 : List UInt8 := dkwX0_proved_10 ++ dktX0_proved_11
def dkwX0_proved_9 : List UInt8 := [46, 50, 183, 1, 78, 182, 1, 81, 83, 21, 7, 4, 160, 0, 14, 25, 6, 21, 8, 50, 180, 1, 85]
abbrev dktX0_proved_9 : List UInt8 := dkwX0_proved_9 ++ dktX0_proved_10
def dkwX0_proved_8 : List UInt8 := [21, 8, 42, 187, 1, 38, 89, 25, 4, 180, 1, 1, 21, 8, 46, 25, 5, 25, 4, 180, 1, 4, 21, 8]
abbrev dktX0_proved_8 : List UInt8 := dkwX0_proved_8 ++ dktX0_proved_9
def dkwX0_proved_7 : List UInt8 := [189, 1, 63, 58, 6, 4, 54, 7, 3, 54, 8, 21, 8, 25, 4, 180, 0, 254, 162, 0, 65, 25, 6]
abbrev dktX0_proved_7 : List UInt8 := dkwX0_proved_7 ++ dktX0_proved_8
def dkwX0_proved_6 : List UInt8 := [58, 5, 25, 4, 180, 0, 251, 43, 180, 1, 47, 25, 5, 184, 0, 29, 87, 25, 4, 180, 0, 254]
abbrev dktX0_proved_6 : List UInt8 := dkwX0_proved_6 ++ dktX0_proved_7
def dkwX0_proved_5 : List UInt8 := [58, 4, 25, 4, 199, 0, 16, 187, 1, 63, 89, 43, 16, 254, 1, 1, 183, 1, 65, 176, 5, 189, 0, 12]
abbrev dktX0_proved_5 : List UInt8 := dkwX0_proved_5 ++ dktX0_proved_6
def dkwX0_proved_4 : List UInt8 := [3, 62, 29, 154, 0, 15, 42, 28, 182, 1, 72, 153, 0, 7, 1, 167, 0, 8, 42, 28, 182, 1, 75]
abbrev dktX0_proved_4 : List UInt8 := dkwX0_proved_4 ++ dktX0_proved_5
def dkwX0_proved_3 : List UInt8 := [187, 1, 63, 89, 43, 3, 1, 1, 183, 1, 65, 176, 28, 28, 4, 100, 126, 154, 0, 7, 4, 167, 0, 4]
abbrev dktX0_proved_3 : List UInt8 := dkwX0_proved_3 ++ dktX0_proved_4
def dkwX0_proved_2 : List UInt8 := [153, 0, 9, 4, 29, 120, 167, 0, 4, 3, 128, 61, 132, 3, 1, 167, 255, 221, 28, 154, 0, 15]
abbrev dktX0_proved_2 : List UInt8 := dkwX0_proved_2 ++ dktX0_proved_3
def dkwX0_proved_1 : List UInt8 := [61, 3, 62, 29, 42, 180, 1, 12, 162, 0, 33, 28, 42, 42, 180, 0, 114, 29, 50, 43, 182, 1, 68]
abbrev dktX0_proved_1 : List UInt8 := dkwX0_proved_1 ++ dktX0_proved_2
def dkwX0_proved_0 : List UInt8 := [43, 180, 1, 47, 182, 0, 11, 2, 159, 0, 15, 187, 1, 63, 89, 43, 4, 1, 1, 183, 1, 65, 176, 3]
abbrev dktX0_proved_0 : List UInt8 := dkwX0_proved_0 ++ dktX0_proved_1
theorem dksX0_proved_0 : cX0_proved.data.toList.drop 0 = dktX0_proved_0 := by decide +kernel
theorem dksX0_proved_1 : cX0_proved.data.toList.drop 24 = dktX0_proved_1 := dk_seg dksX0_proved_0 24 rfl rfl
theorem dksX0_proved_2 : cX0_proved.data.toList.drop 47 = dktX0_proved_2 := dk_seg dksX0_proved_1 23 rfl rfl
theorem dksX0_proved_3 : cX0_proved.data.toList.drop 69 = dktX0_proved_3 := dk_seg dksX0_proved_2 22 rfl rfl
theorem dksX0_proved_4 : cX0_proved.data.toList.drop 93 = dktX0_proved_4 := dk_seg dksX0_proved_3 24 rfl rfl
theorem dksX0_proved_5 : cX0_proved.data.toList.drop 116 = dktX0_proved_5 := dk_seg dksX0_proved_4 23 rfl rfl
theorem dksX0_proved_6 : cX0_proved.data.toList.drop 140 = dktX0_proved_6 := dk_seg dksX0_proved_5 24 rfl rfl
theorem dksX0_proved_7 : cX0_proved.data.toList.drop 162 = dktX0_proved_7 := dk_seg dksX0_proved_6 22 rfl rfl
theorem dksX0_proved_8 : cX0_proved.data.toList.drop 185 = dktX0_proved_8 := dk_seg dksX0_proved_7 23 rfl rfl
theorem dksX0_proved_9 : cX0_proved.data.toList.drop 209 = dktX0_proved_9 := dk_seg dksX0_proved_8 24 rfl rfl
theorem dksX0_proved_10 : cX0_proved.data.toList.drop 232 = dktX0_proved_10 := dk_seg dksX0_proved_9 23 rfl rfl
theorem dksX0_proved_11 : cX0_proved.data.toList.drop 256 = dktX0_proved_11 := dk_seg dksX0_proved_10 24 rfl rfl
theorem dX0_proved_0 : decode cX0_proved 0 = .ok (.aload_n 1, 1) := dk_43 (dk_at dksX0_proved_0 0 rfl rfl)
theorem dX0_proved_1 : decode cX0_proved 1 = .ok (.getfield 303, 3) := dk_180 1 47 (dk_at dksX0_proved_0 1 rfl rfl)
theorem dX0_proved_4 : decode cX0_proved 4 = .ok (.invokevirtual 11, 3) := dk_182 0 11 (dk_at dksX0_proved_0 4 rfl rfl)
theorem dX0_proved_7 : decode cX0_proved 7 = .ok (.iconst (-1), 1) := dk_2 (dk_at dksX0_proved_0 7 rfl rfl)
theorem dX0_proved_8 : decode cX0_proved 8 = .ok (.if_icmp .eq 15, 3) := dk_159 0 15 (dk_at dksX0_proved_0 8 rfl rfl)
theorem dX0_proved_11 : decode cX0_proved 11 = .ok (.new 319, 3) := dk_187 1 63 (dk_at dksX0_proved_0 11 rfl rfl)
theorem dX0_proved_14 : decode cX0_proved 14 = .ok (.dup, 1) := dk_89 (dk_at dksX0_proved_0 14 rfl rfl)
theorem dX0_proved_15 : decode cX0_proved 15 = .ok (.aload_n 1, 1) := dk_43 (dk_at dksX0_proved_0 15 rfl rfl)
theorem dX0_proved_16 : decode cX0_proved 16 = .ok (.iconst 1, 1) := dk_4 (dk_at dksX0_proved_0 16 rfl rfl)
theorem dX0_proved_17 : decode cX0_proved 17 = .ok (.aconst_null, 1) := dk_1 (dk_at dksX0_proved_0 17 rfl rfl)
theorem dX0_proved_18 : decode cX0_proved 18 = .ok (.aconst_null, 1) := dk_1 (dk_at dksX0_proved_0 18 rfl rfl)
theorem dX0_proved_19 : decode cX0_proved 19 = .ok (.invokespecial 321, 3) := dk_183 1 65 (dk_at dksX0_proved_0 19 rfl rfl)
theorem dX0_proved_22 : decode cX0_proved 22 = .ok (.areturn, 1) := dk_176 (dk_at dksX0_proved_0 22 rfl rfl)
theorem dX0_proved_23 : decode cX0_proved 23 = .ok (.iconst 0, 1) := dk_3 (dk_at dksX0_proved_0 23 rfl rfl)
theorem dX0_proved_24 : decode cX0_proved 24 = .ok (.istore_n 2, 1) := dk_61 (dk_at dksX0_proved_1 0 rfl rfl)
theorem dX0_proved_25 : decode cX0_proved 25 = .ok (.iconst 0, 1) := dk_3 (dk_at dksX0_proved_1 1 rfl rfl)
theorem dX0_proved_26 : decode cX0_proved 26 = .ok (.istore_n 3, 1) := dk_62 (dk_at dksX0_proved_1 2 rfl rfl)
theorem dX0_proved_27 : decode cX0_proved 27 = .ok (.iload_n 3, 1) := dk_29 (dk_at dksX0_proved_1 3 rfl rfl)
theorem dX0_proved_28 : decode cX0_proved 28 = .ok (.aload_n 0, 1) := dk_42 (dk_at dksX0_proved_1 4 rfl rfl)
theorem dX0_proved_29 : decode cX0_proved 29 = .ok (.getfield 268, 3) := dk_180 1 12 (dk_at dksX0_proved_1 5 rfl rfl)
theorem dX0_proved_32 : decode cX0_proved 32 = .ok (.if_icmp .ge 33, 3) := dk_162 0 33 (dk_at dksX0_proved_1 8 rfl rfl)
theorem dX0_proved_35 : decode cX0_proved 35 = .ok (.iload_n 2, 1) := dk_28 (dk_at dksX0_proved_1 11 rfl rfl)
theorem dX0_proved_36 : decode cX0_proved 36 = .ok (.aload_n 0, 1) := dk_42 (dk_at dksX0_proved_1 12 rfl rfl)
theorem dX0_proved_37 : decode cX0_proved 37 = .ok (.aload_n 0, 1) := dk_42 (dk_at dksX0_proved_1 13 rfl rfl)
theorem dX0_proved_38 : decode cX0_proved 38 = .ok (.getfield 114, 3) := dk_180 0 114 (dk_at dksX0_proved_1 14 rfl rfl)
theorem dX0_proved_41 : decode cX0_proved 41 = .ok (.iload_n 3, 1) := dk_29 (dk_at dksX0_proved_1 17 rfl rfl)
theorem dX0_proved_42 : decode cX0_proved 42 = .ok (.aaload, 1) := dk_50 (dk_at dksX0_proved_1 18 rfl rfl)
theorem dX0_proved_43 : decode cX0_proved 43 = .ok (.aload_n 1, 1) := dk_43 (dk_at dksX0_proved_1 19 rfl rfl)
theorem dX0_proved_44 : decode cX0_proved 44 = .ok (.invokevirtual 324, 3) := dk_182 1 68 (dk_at dksX0_proved_1 20 rfl rfl)
theorem dX0_proved_47 : decode cX0_proved 47 = .ok (.ifCond .eq 9, 3) := dk_153 0 9 (dk_at dksX0_proved_2 0 rfl rfl)
theorem dX0_proved_50 : decode cX0_proved 50 = .ok (.iconst 1, 1) := dk_4 (dk_at dksX0_proved_2 3 rfl rfl)
theorem dX0_proved_51 : decode cX0_proved 51 = .ok (.iload_n 3, 1) := dk_29 (dk_at dksX0_proved_2 4 rfl rfl)
theorem dX0_proved_52 : decode cX0_proved 52 = .ok (.ishl, 1) := dk_120 (dk_at dksX0_proved_2 5 rfl rfl)
theorem dX0_proved_53 : decode cX0_proved 53 = .ok (.goto 4, 3) := dk_167 0 4 (dk_at dksX0_proved_2 6 rfl rfl)
theorem dX0_proved_56 : decode cX0_proved 56 = .ok (.iconst 0, 1) := dk_3 (dk_at dksX0_proved_2 9 rfl rfl)
theorem dX0_proved_57 : decode cX0_proved 57 = .ok (.ior, 1) := dk_128 (dk_at dksX0_proved_2 10 rfl rfl)
theorem dX0_proved_58 : decode cX0_proved 58 = .ok (.istore_n 2, 1) := dk_61 (dk_at dksX0_proved_2 11 rfl rfl)
theorem dX0_proved_59 : decode cX0_proved 59 = .ok (.iinc 3 1, 3) := dk_132 3 1 (dk_at dksX0_proved_2 12 rfl rfl)
theorem dX0_proved_62 : decode cX0_proved 62 = .ok (.goto (-35), 3) := dk_167 255 221 (dk_at dksX0_proved_2 15 rfl rfl)
theorem dX0_proved_65 : decode cX0_proved 65 = .ok (.iload_n 2, 1) := dk_28 (dk_at dksX0_proved_2 18 rfl rfl)
theorem dX0_proved_66 : decode cX0_proved 66 = .ok (.ifCond .ne 15, 3) := dk_154 0 15 (dk_at dksX0_proved_2 19 rfl rfl)
theorem dX0_proved_69 : decode cX0_proved 69 = .ok (.new 319, 3) := dk_187 1 63 (dk_at dksX0_proved_3 0 rfl rfl)
theorem dX0_proved_72 : decode cX0_proved 72 = .ok (.dup, 1) := dk_89 (dk_at dksX0_proved_3 3 rfl rfl)
theorem dX0_proved_73 : decode cX0_proved 73 = .ok (.aload_n 1, 1) := dk_43 (dk_at dksX0_proved_3 4 rfl rfl)
theorem dX0_proved_74 : decode cX0_proved 74 = .ok (.iconst 0, 1) := dk_3 (dk_at dksX0_proved_3 5 rfl rfl)
theorem dX0_proved_75 : decode cX0_proved 75 = .ok (.aconst_null, 1) := dk_1 (dk_at dksX0_proved_3 6 rfl rfl)
theorem dX0_proved_76 : decode cX0_proved 76 = .ok (.aconst_null, 1) := dk_1 (dk_at dksX0_proved_3 7 rfl rfl)
theorem dX0_proved_77 : decode cX0_proved 77 = .ok (.invokespecial 321, 3) := dk_183 1 65 (dk_at dksX0_proved_3 8 rfl rfl)
theorem dX0_proved_80 : decode cX0_proved 80 = .ok (.areturn, 1) := dk_176 (dk_at dksX0_proved_3 11 rfl rfl)
theorem dX0_proved_81 : decode cX0_proved 81 = .ok (.iload_n 2, 1) := dk_28 (dk_at dksX0_proved_3 12 rfl rfl)
theorem dX0_proved_82 : decode cX0_proved 82 = .ok (.iload_n 2, 1) := dk_28 (dk_at dksX0_proved_3 13 rfl rfl)
theorem dX0_proved_83 : decode cX0_proved 83 = .ok (.iconst 1, 1) := dk_4 (dk_at dksX0_proved_3 14 rfl rfl)
theorem dX0_proved_84 : decode cX0_proved 84 = .ok (.isub, 1) := dk_100 (dk_at dksX0_proved_3 15 rfl rfl)
theorem dX0_proved_85 : decode cX0_proved 85 = .ok (.iand, 1) := dk_126 (dk_at dksX0_proved_3 16 rfl rfl)
theorem dX0_proved_86 : decode cX0_proved 86 = .ok (.ifCond .ne 7, 3) := dk_154 0 7 (dk_at dksX0_proved_3 17 rfl rfl)
theorem dX0_proved_89 : decode cX0_proved 89 = .ok (.iconst 1, 1) := dk_4 (dk_at dksX0_proved_3 20 rfl rfl)
theorem dX0_proved_90 : decode cX0_proved 90 = .ok (.goto 4, 3) := dk_167 0 4 (dk_at dksX0_proved_3 21 rfl rfl)
theorem dX0_proved_93 : decode cX0_proved 93 = .ok (.iconst 0, 1) := dk_3 (dk_at dksX0_proved_4 0 rfl rfl)
theorem dX0_proved_94 : decode cX0_proved 94 = .ok (.istore_n 3, 1) := dk_62 (dk_at dksX0_proved_4 1 rfl rfl)
theorem dX0_proved_95 : decode cX0_proved 95 = .ok (.iload_n 3, 1) := dk_29 (dk_at dksX0_proved_4 2 rfl rfl)
theorem dX0_proved_96 : decode cX0_proved 96 = .ok (.ifCond .ne 15, 3) := dk_154 0 15 (dk_at dksX0_proved_4 3 rfl rfl)
theorem dX0_proved_99 : decode cX0_proved 99 = .ok (.aload_n 0, 1) := dk_42 (dk_at dksX0_proved_4 6 rfl rfl)
theorem dX0_proved_100 : decode cX0_proved 100 = .ok (.iload_n 2, 1) := dk_28 (dk_at dksX0_proved_4 7 rfl rfl)
theorem dX0_proved_101 : decode cX0_proved 101 = .ok (.invokevirtual 328, 3) := dk_182 1 72 (dk_at dksX0_proved_4 8 rfl rfl)
theorem dX0_proved_104 : decode cX0_proved 104 = .ok (.ifCond .eq 7, 3) := dk_153 0 7 (dk_at dksX0_proved_4 11 rfl rfl)
theorem dX0_proved_107 : decode cX0_proved 107 = .ok (.aconst_null, 1) := dk_1 (dk_at dksX0_proved_4 14 rfl rfl)
theorem dX0_proved_108 : decode cX0_proved 108 = .ok (.goto 8, 3) := dk_167 0 8 (dk_at dksX0_proved_4 15 rfl rfl)
theorem dX0_proved_111 : decode cX0_proved 111 = .ok (.aload_n 0, 1) := dk_42 (dk_at dksX0_proved_4 18 rfl rfl)
theorem dX0_proved_112 : decode cX0_proved 112 = .ok (.iload_n 2, 1) := dk_28 (dk_at dksX0_proved_4 19 rfl rfl)
theorem dX0_proved_113 : decode cX0_proved 113 = .ok (.invokevirtual 331, 3) := dk_182 1 75 (dk_at dksX0_proved_4 20 rfl rfl)
theorem dX0_proved_116 : decode cX0_proved 116 = .ok (.astore 4, 2) := dk_58 4 (dk_at dksX0_proved_5 0 rfl rfl)
theorem dX0_proved_118 : decode cX0_proved 118 = .ok (.aload 4, 2) := dk_25 4 (dk_at dksX0_proved_5 2 rfl rfl)
theorem dX0_proved_120 : decode cX0_proved 120 = .ok (.ifnonnull 16, 3) := dk_199 0 16 (dk_at dksX0_proved_5 4 rfl rfl)
theorem dX0_proved_123 : decode cX0_proved 123 = .ok (.new 319, 3) := dk_187 1 63 (dk_at dksX0_proved_5 7 rfl rfl)
theorem dX0_proved_126 : decode cX0_proved 126 = .ok (.dup, 1) := dk_89 (dk_at dksX0_proved_5 10 rfl rfl)
theorem dX0_proved_127 : decode cX0_proved 127 = .ok (.aload_n 1, 1) := dk_43 (dk_at dksX0_proved_5 11 rfl rfl)
theorem dX0_proved_128 : decode cX0_proved 128 = .ok (.bipush (-2), 2) := dk_16 254 (dk_at dksX0_proved_5 12 rfl rfl)
theorem dX0_proved_130 : decode cX0_proved 130 = .ok (.aconst_null, 1) := dk_1 (dk_at dksX0_proved_5 14 rfl rfl)
theorem dX0_proved_131 : decode cX0_proved 131 = .ok (.aconst_null, 1) := dk_1 (dk_at dksX0_proved_5 15 rfl rfl)
theorem dX0_proved_132 : decode cX0_proved 132 = .ok (.invokespecial 321, 3) := dk_183 1 65 (dk_at dksX0_proved_5 16 rfl rfl)
theorem dX0_proved_135 : decode cX0_proved 135 = .ok (.areturn, 1) := dk_176 (dk_at dksX0_proved_5 19 rfl rfl)
theorem dX0_proved_136 : decode cX0_proved 136 = .ok (.iconst 2, 1) := dk_5 (dk_at dksX0_proved_5 20 rfl rfl)
theorem dX0_proved_137 : decode cX0_proved 137 = .ok (.anewarray 12, 3) := dk_189 0 12 (dk_at dksX0_proved_5 21 rfl rfl)
theorem dX0_proved_140 : decode cX0_proved 140 = .ok (.astore 5, 2) := dk_58 5 (dk_at dksX0_proved_6 0 rfl rfl)
theorem dX0_proved_142 : decode cX0_proved 142 = .ok (.aload 4, 2) := dk_25 4 (dk_at dksX0_proved_6 2 rfl rfl)
theorem dX0_proved_144 : decode cX0_proved 144 = .ok (.getfield 251, 3) := dk_180 0 251 (dk_at dksX0_proved_6 4 rfl rfl)
theorem dX0_proved_147 : decode cX0_proved 147 = .ok (.aload_n 1, 1) := dk_43 (dk_at dksX0_proved_6 7 rfl rfl)
theorem dX0_proved_148 : decode cX0_proved 148 = .ok (.getfield 303, 3) := dk_180 1 47 (dk_at dksX0_proved_6 8 rfl rfl)
theorem dX0_proved_151 : decode cX0_proved 151 = .ok (.aload 5, 2) := dk_25 5 (dk_at dksX0_proved_6 11 rfl rfl)
theorem dX0_proved_153 : decode cX0_proved 153 = .ok (.invokestatic 29, 3) := dk_184 0 29 (dk_at dksX0_proved_6 13 rfl rfl)
theorem dX0_proved_156 : decode cX0_proved 156 = .ok (.pop, 1) := dk_87 (dk_at dksX0_proved_6 16 rfl rfl)
theorem dX0_proved_157 : decode cX0_proved 157 = .ok (.aload 4, 2) := dk_25 4 (dk_at dksX0_proved_6 17 rfl rfl)
theorem dX0_proved_159 : decode cX0_proved 159 = .ok (.getfield 254, 3) := dk_180 0 254 (dk_at dksX0_proved_6 19 rfl rfl)
theorem dX0_proved_162 : decode cX0_proved 162 = .ok (.anewarray 319, 3) := dk_189 1 63 (dk_at dksX0_proved_7 0 rfl rfl)
theorem dX0_proved_165 : decode cX0_proved 165 = .ok (.astore 6, 2) := dk_58 6 (dk_at dksX0_proved_7 3 rfl rfl)
theorem dX0_proved_167 : decode cX0_proved 167 = .ok (.iconst 1, 1) := dk_4 (dk_at dksX0_proved_7 5 rfl rfl)
theorem dX0_proved_168 : decode cX0_proved 168 = .ok (.istore 7, 2) := dk_54 7 (dk_at dksX0_proved_7 6 rfl rfl)
theorem dX0_proved_170 : decode cX0_proved 170 = .ok (.iconst 0, 1) := dk_3 (dk_at dksX0_proved_7 8 rfl rfl)
theorem dX0_proved_171 : decode cX0_proved 171 = .ok (.istore 8, 2) := dk_54 8 (dk_at dksX0_proved_7 9 rfl rfl)
theorem dX0_proved_173 : decode cX0_proved 173 = .ok (.iload 8, 2) := dk_21 8 (dk_at dksX0_proved_7 11 rfl rfl)
theorem dX0_proved_175 : decode cX0_proved 175 = .ok (.aload 4, 2) := dk_25 4 (dk_at dksX0_proved_7 13 rfl rfl)
theorem dX0_proved_177 : decode cX0_proved 177 = .ok (.getfield 254, 3) := dk_180 0 254 (dk_at dksX0_proved_7 15 rfl rfl)
theorem dX0_proved_180 : decode cX0_proved 180 = .ok (.if_icmp .ge 65, 3) := dk_162 0 65 (dk_at dksX0_proved_7 18 rfl rfl)
theorem dX0_proved_183 : decode cX0_proved 183 = .ok (.aload 6, 2) := dk_25 6 (dk_at dksX0_proved_7 21 rfl rfl)
theorem dX0_proved_185 : decode cX0_proved 185 = .ok (.iload 8, 2) := dk_21 8 (dk_at dksX0_proved_8 0 rfl rfl)
theorem dX0_proved_187 : decode cX0_proved 187 = .ok (.aload_n 0, 1) := dk_42 (dk_at dksX0_proved_8 2 rfl rfl)
theorem dX0_proved_188 : decode cX0_proved 188 = .ok (.new 294, 3) := dk_187 1 38 (dk_at dksX0_proved_8 3 rfl rfl)
theorem dX0_proved_191 : decode cX0_proved 191 = .ok (.dup, 1) := dk_89 (dk_at dksX0_proved_8 6 rfl rfl)
theorem dX0_proved_192 : decode cX0_proved 192 = .ok (.aload 4, 2) := dk_25 4 (dk_at dksX0_proved_8 7 rfl rfl)
theorem dX0_proved_194 : decode cX0_proved 194 = .ok (.getfield 257, 3) := dk_180 1 1 (dk_at dksX0_proved_8 9 rfl rfl)
theorem dX0_proved_197 : decode cX0_proved 197 = .ok (.iload 8, 2) := dk_21 8 (dk_at dksX0_proved_8 12 rfl rfl)
theorem dX0_proved_199 : decode cX0_proved 199 = .ok (.iaload, 1) := dk_46 (dk_at dksX0_proved_8 14 rfl rfl)
theorem dX0_proved_200 : decode cX0_proved 200 = .ok (.aload 5, 2) := dk_25 5 (dk_at dksX0_proved_8 15 rfl rfl)
theorem dX0_proved_202 : decode cX0_proved 202 = .ok (.aload 4, 2) := dk_25 4 (dk_at dksX0_proved_8 17 rfl rfl)
theorem dX0_proved_204 : decode cX0_proved 204 = .ok (.getfield 260, 3) := dk_180 1 4 (dk_at dksX0_proved_8 19 rfl rfl)
theorem dX0_proved_207 : decode cX0_proved 207 = .ok (.iload 8, 2) := dk_21 8 (dk_at dksX0_proved_8 22 rfl rfl)
theorem dX0_proved_209 : decode cX0_proved 209 = .ok (.iaload, 1) := dk_46 (dk_at dksX0_proved_9 0 rfl rfl)
theorem dX0_proved_210 : decode cX0_proved 210 = .ok (.aaload, 1) := dk_50 (dk_at dksX0_proved_9 1 rfl rfl)
theorem dX0_proved_211 : decode cX0_proved 211 = .ok (.invokespecial 334, 3) := dk_183 1 78 (dk_at dksX0_proved_9 2 rfl rfl)
theorem dX0_proved_214 : decode cX0_proved 214 = .ok (.invokevirtual 337, 3) := dk_182 1 81 (dk_at dksX0_proved_9 5 rfl rfl)
theorem dX0_proved_217 : decode cX0_proved 217 = .ok (.aastore, 1) := dk_83 (dk_at dksX0_proved_9 8 rfl rfl)
theorem dX0_proved_218 : decode cX0_proved 218 = .ok (.iload 7, 2) := dk_21 7 (dk_at dksX0_proved_9 9 rfl rfl)
theorem dX0_proved_220 : decode cX0_proved 220 = .ok (.iconst 1, 1) := dk_4 (dk_at dksX0_proved_9 11 rfl rfl)
theorem dX0_proved_221 : decode cX0_proved 221 = .ok (.if_icmp .ne 14, 3) := dk_160 0 14 (dk_at dksX0_proved_9 12 rfl rfl)
theorem dX0_proved_224 : decode cX0_proved 224 = .ok (.aload 6, 2) := dk_25 6 (dk_at dksX0_proved_9 15 rfl rfl)
theorem dX0_proved_226 : decode cX0_proved 226 = .ok (.iload 8, 2) := dk_21 8 (dk_at dksX0_proved_9 17 rfl rfl)
theorem dX0_proved_228 : decode cX0_proved 228 = .ok (.aaload, 1) := dk_50 (dk_at dksX0_proved_9 19 rfl rfl)
theorem dX0_proved_229 : decode cX0_proved 229 = .ok (.getfield 341, 3) := dk_180 1 85 (dk_at dksX0_proved_9 20 rfl rfl)
theorem dX0_proved_232 : decode cX0_proved 232 = .ok (.goto 5, 3) := dk_167 0 5 (dk_at dksX0_proved_10 0 rfl rfl)
theorem dX0_proved_235 : decode cX0_proved 235 = .ok (.iload 7, 2) := dk_21 7 (dk_at dksX0_proved_10 3 rfl rfl)
theorem dX0_proved_237 : decode cX0_proved 237 = .ok (.istore 7, 2) := dk_54 7 (dk_at dksX0_proved_10 5 rfl rfl)
theorem dX0_proved_239 : decode cX0_proved 239 = .ok (.iinc 8 1, 3) := dk_132 8 1 (dk_at dksX0_proved_10 7 rfl rfl)
theorem dX0_proved_242 : decode cX0_proved 242 = .ok (.goto (-69), 3) := dk_167 255 187 (dk_at dksX0_proved_10 10 rfl rfl)
theorem dX0_proved_245 : decode cX0_proved 245 = .ok (.new 319, 3) := dk_187 1 63 (dk_at dksX0_proved_10 13 rfl rfl)
theorem dX0_proved_248 : decode cX0_proved 248 = .ok (.dup, 1) := dk_89 (dk_at dksX0_proved_10 16 rfl rfl)
theorem dX0_proved_249 : decode cX0_proved 249 = .ok (.aload_n 1, 1) := dk_43 (dk_at dksX0_proved_10 17 rfl rfl)
theorem dX0_proved_250 : decode cX0_proved 250 = .ok (.iload 7, 2) := dk_21 7 (dk_at dksX0_proved_10 18 rfl rfl)
theorem dX0_proved_252 : decode cX0_proved 252 = .ok (.aload 4, 2) := dk_25 4 (dk_at dksX0_proved_10 20 rfl rfl)
theorem dX0_proved_254 : decode cX0_proved 254 = .ok (.aload 6, 2) := dk_25 6 (dk_at dksX0_proved_10 22 rfl rfl)
theorem dX0_proved_256 : decode cX0_proved 256 = .ok (.invokespecial 321, 3) := dk_183 1 65 (dk_at dksX0_proved_11 0 rfl rfl)
theorem dX0_proved_259 : decode cX0_proved 259 = .ok (.areturn, 1) := dk_176 (dk_at dksX0_proved_11 3 rfl rfl)
abbrev cX0_isMeant : ByteArray := prog_1_method_33_code
def yX0_isMeant : MethodName := ⟨RX0, "isMeant", "(LDictProof$Instance;LDictProof$Goal;)Z"⟩
def dkwX0_isMeant_2 : List UInt8 := [167, 0, 4, 3, 172]
abbrev dktX0_isMeant_2 : List UInt8 := dkwX0_isMeant_2 ++ []
def dkwX0_isMeant_1 : List UInt8 := [153, 0, 25, 43, 180, 0, 251, 44, 180, 1, 47, 5, 189, 0, 12, 184, 0, 29, 153, 0, 7, 4]
abbrev dktX0_isMeant_1 : List UInt8 := dkwX0_isMeant_1 ++ dktX0_isMeant_2
def dkwX0_isMeant_0 : List UInt8 := [43, 180, 0, 248, 44, 180, 1, 37, 160, 0, 39, 43, 182, 1, 40, 153, 0, 32, 43, 182, 1, 44]
abbrev dktX0_isMeant_0 : List UInt8 := dkwX0_isMeant_0 ++ dktX0_isMeant_1
theorem dksX0_isMeant_0 : cX0_isMeant.data.toList.drop 0 = dktX0_isMeant_0 := by decide +kernel
theorem dksX0_isMeant_1 : cX0_isMeant.data.toList.drop 22 = dktX0_isMeant_1 := dk_seg dksX0_isMeant_0 22 rfl rfl
theorem dksX0_isMeant_2 : cX0_isMeant.data.toList.drop 44 = dktX0_isMeant_2 := dk_seg dksX0_isMeant_1 22 rfl rfl
theorem dX0_isMeant_0 : decode cX0_isMeant 0 = .ok (.aload_n 1, 1) := dk_43 (dk_at dksX0_isMeant_0 0 rfl rfl)
theorem dX0_isMeant_1 : decode cX0_isMeant 1 = .ok (.getfield 248, 3) := dk_180 0 248 (dk_at dksX0_isMeant_0 1 rfl rfl)
theorem dX0_isMeant_4 : decode cX0_isMeant 4 = .ok (.aload_n 2, 1) := dk_44 (dk_at dksX0_isMeant_0 4 rfl rfl)
theorem dX0_isMeant_5 : decode cX0_isMeant 5 = .ok (.getfield 293, 3) := dk_180 1 37 (dk_at dksX0_isMeant_0 5 rfl rfl)
theorem dX0_isMeant_8 : decode cX0_isMeant 8 = .ok (.if_icmp .ne 39, 3) := dk_160 0 39 (dk_at dksX0_isMeant_0 8 rfl rfl)
theorem dX0_isMeant_11 : decode cX0_isMeant 11 = .ok (.aload_n 1, 1) := dk_43 (dk_at dksX0_isMeant_0 11 rfl rfl)
theorem dX0_isMeant_12 : decode cX0_isMeant 12 = .ok (.invokevirtual 296, 3) := dk_182 1 40 (dk_at dksX0_isMeant_0 12 rfl rfl)
theorem dX0_isMeant_15 : decode cX0_isMeant 15 = .ok (.ifCond .eq 32, 3) := dk_153 0 32 (dk_at dksX0_isMeant_0 15 rfl rfl)
theorem dX0_isMeant_18 : decode cX0_isMeant 18 = .ok (.aload_n 1, 1) := dk_43 (dk_at dksX0_isMeant_0 18 rfl rfl)
theorem dX0_isMeant_19 : decode cX0_isMeant 19 = .ok (.invokevirtual 300, 3) := dk_182 1 44 (dk_at dksX0_isMeant_0 19 rfl rfl)
theorem dX0_isMeant_22 : decode cX0_isMeant 22 = .ok (.ifCond .eq 25, 3) := dk_153 0 25 (dk_at dksX0_isMeant_1 0 rfl rfl)
theorem dX0_isMeant_25 : decode cX0_isMeant 25 = .ok (.aload_n 1, 1) := dk_43 (dk_at dksX0_isMeant_1 3 rfl rfl)
theorem dX0_isMeant_26 : decode cX0_isMeant 26 = .ok (.getfield 251, 3) := dk_180 0 251 (dk_at dksX0_isMeant_1 4 rfl rfl)
theorem dX0_isMeant_29 : decode cX0_isMeant 29 = .ok (.aload_n 2, 1) := dk_44 (dk_at dksX0_isMeant_1 7 rfl rfl)
theorem dX0_isMeant_30 : decode cX0_isMeant 30 = .ok (.getfield 303, 3) := dk_180 1 47 (dk_at dksX0_isMeant_1 8 rfl rfl)
theorem dX0_isMeant_33 : decode cX0_isMeant 33 = .ok (.iconst 2, 1) := dk_5 (dk_at dksX0_isMeant_1 11 rfl rfl)
theorem dX0_isMeant_34 : decode cX0_isMeant 34 = .ok (.anewarray 12, 3) := dk_189 0 12 (dk_at dksX0_isMeant_1 12 rfl rfl)
theorem dX0_isMeant_37 : decode cX0_isMeant 37 = .ok (.invokestatic 29, 3) := dk_184 0 29 (dk_at dksX0_isMeant_1 15 rfl rfl)
theorem dX0_isMeant_40 : decode cX0_isMeant 40 = .ok (.ifCond .eq 7, 3) := dk_153 0 7 (dk_at dksX0_isMeant_1 18 rfl rfl)
theorem dX0_isMeant_43 : decode cX0_isMeant 43 = .ok (.iconst 1, 1) := dk_4 (dk_at dksX0_isMeant_1 21 rfl rfl)
theorem dX0_isMeant_44 : decode cX0_isMeant 44 = .ok (.goto 4, 3) := dk_167 0 4 (dk_at dksX0_isMeant_2 0 rfl rfl)
theorem dX0_isMeant_47 : decode cX0_isMeant 47 = .ok (.iconst 0, 1) := dk_3 (dk_at dksX0_isMeant_2 3 rfl rfl)
theorem dX0_isMeant_48 : decode cX0_isMeant 48 = .ok (.ireturn, 1) := dk_172 (dk_at dksX0_isMeant_2 4 rfl rfl)
abbrev cX0_isAnyAlone : ByteArray := prog_1_method_36_code
def yX0_isAnyAlone : MethodName := ⟨RX0, "isAnyAlone", "(I)Z"⟩
def dkwX0_isAnyAlone_2 : List UInt8 := [28, 172]
abbrev dktX0_isAnyAlone_2 : List UInt8 := dkwX0_isAnyAlone_2 ++ []
def dkwX0_isAnyAlone_1 : List UInt8 := [180, 0, 114, 29, 50, 182, 1, 60, 153, 0, 7, 4, 167, 0, 4, 3, 128, 61, 132, 3, 1, 167, 255, 217]
abbrev dktX0_isAnyAlone_1 : List UInt8 := dkwX0_isAnyAlone_1 ++ dktX0_isAnyAlone_2
def dkwX0_isAnyAlone_0 : List UInt8 := [3, 61, 3, 62, 29, 42, 180, 1, 12, 162, 0, 37, 28, 27, 29, 184, 0, 209, 153, 0, 19, 42]
abbrev dktX0_isAnyAlone_0 : List UInt8 := dkwX0_isAnyAlone_0 ++ dktX0_isAnyAlone_1
theorem dksX0_isAnyAlone_0 : cX0_isAnyAlone.data.toList.drop 0 = dktX0_isAnyAlone_0 := by decide +kernel
theorem dksX0_isAnyAlone_1 : cX0_isAnyAlone.data.toList.drop 22 = dktX0_isAnyAlone_1 := dk_seg dksX0_isAnyAlone_0 22 rfl rfl
theorem dksX0_isAnyAlone_2 : cX0_isAnyAlone.data.toList.drop 46 = dktX0_isAnyAlone_2 := dk_seg dksX0_isAnyAlone_1 24 rfl rfl
theorem dX0_isAnyAlone_0 : decode cX0_isAnyAlone 0 = .ok (.iconst 0, 1) := dk_3 (dk_at dksX0_isAnyAlone_0 0 rfl rfl)
theorem dX0_isAnyAlone_1 : decode cX0_isAnyAlone 1 = .ok (.istore_n 2, 1) := dk_61 (dk_at dksX0_isAnyAlone_0 1 rfl rfl)
theorem dX0_isAnyAlone_2 : decode cX0_isAnyAlone 2 = .ok (.iconst 0, 1) := dk_3 (dk_at dksX0_isAnyAlone_0 2 rfl rfl)
theorem dX0_isAnyAlone_3 : decode cX0_isAnyAlone 3 = .ok (.istore_n 3, 1) := dk_62 (dk_at dksX0_isAnyAlone_0 3 rfl rfl)
theorem dX0_isAnyAlone_4 : decode cX0_isAnyAlone 4 = .ok (.iload_n 3, 1) := dk_29 (dk_at dksX0_isAnyAlone_0 4 rfl rfl)
theorem dX0_isAnyAlone_5 : decode cX0_isAnyAlone 5 = .ok (.aload_n 0, 1) := dk_42 (dk_at dksX0_isAnyAlone_0 5 rfl rfl)
theorem dX0_isAnyAlone_6 : decode cX0_isAnyAlone 6 = .ok (.getfield 268, 3) := dk_180 1 12 (dk_at dksX0_isAnyAlone_0 6 rfl rfl)
theorem dX0_isAnyAlone_9 : decode cX0_isAnyAlone 9 = .ok (.if_icmp .ge 37, 3) := dk_162 0 37 (dk_at dksX0_isAnyAlone_0 9 rfl rfl)
theorem dX0_isAnyAlone_12 : decode cX0_isAnyAlone 12 = .ok (.iload_n 2, 1) := dk_28 (dk_at dksX0_isAnyAlone_0 12 rfl rfl)
theorem dX0_isAnyAlone_13 : decode cX0_isAnyAlone 13 = .ok (.iload_n 1, 1) := dk_27 (dk_at dksX0_isAnyAlone_0 13 rfl rfl)
theorem dX0_isAnyAlone_14 : decode cX0_isAnyAlone 14 = .ok (.iload_n 3, 1) := dk_29 (dk_at dksX0_isAnyAlone_0 14 rfl rfl)
theorem dX0_isAnyAlone_15 : decode cX0_isAnyAlone 15 = .ok (.invokestatic 209, 3) := dk_184 0 209 (dk_at dksX0_isAnyAlone_0 15 rfl rfl)
theorem dX0_isAnyAlone_18 : decode cX0_isAnyAlone 18 = .ok (.ifCond .eq 19, 3) := dk_153 0 19 (dk_at dksX0_isAnyAlone_0 18 rfl rfl)
theorem dX0_isAnyAlone_21 : decode cX0_isAnyAlone 21 = .ok (.aload_n 0, 1) := dk_42 (dk_at dksX0_isAnyAlone_0 21 rfl rfl)
theorem dX0_isAnyAlone_22 : decode cX0_isAnyAlone 22 = .ok (.getfield 114, 3) := dk_180 0 114 (dk_at dksX0_isAnyAlone_1 0 rfl rfl)
theorem dX0_isAnyAlone_25 : decode cX0_isAnyAlone 25 = .ok (.iload_n 3, 1) := dk_29 (dk_at dksX0_isAnyAlone_1 3 rfl rfl)
theorem dX0_isAnyAlone_26 : decode cX0_isAnyAlone 26 = .ok (.aaload, 1) := dk_50 (dk_at dksX0_isAnyAlone_1 4 rfl rfl)
theorem dX0_isAnyAlone_27 : decode cX0_isAnyAlone 27 = .ok (.invokevirtual 316, 3) := dk_182 1 60 (dk_at dksX0_isAnyAlone_1 5 rfl rfl)
theorem dX0_isAnyAlone_30 : decode cX0_isAnyAlone 30 = .ok (.ifCond .eq 7, 3) := dk_153 0 7 (dk_at dksX0_isAnyAlone_1 8 rfl rfl)
theorem dX0_isAnyAlone_33 : decode cX0_isAnyAlone 33 = .ok (.iconst 1, 1) := dk_4 (dk_at dksX0_isAnyAlone_1 11 rfl rfl)
theorem dX0_isAnyAlone_34 : decode cX0_isAnyAlone 34 = .ok (.goto 4, 3) := dk_167 0 4 (dk_at dksX0_isAnyAlone_1 12 rfl rfl)
theorem dX0_isAnyAlone_37 : decode cX0_isAnyAlone 37 = .ok (.iconst 0, 1) := dk_3 (dk_at dksX0_isAnyAlone_1 15 rfl rfl)
theorem dX0_isAnyAlone_38 : decode cX0_isAnyAlone 38 = .ok (.ior, 1) := dk_128 (dk_at dksX0_isAnyAlone_1 16 rfl rfl)
theorem dX0_isAnyAlone_39 : decode cX0_isAnyAlone 39 = .ok (.istore_n 2, 1) := dk_61 (dk_at dksX0_isAnyAlone_1 17 rfl rfl)
theorem dX0_isAnyAlone_40 : decode cX0_isAnyAlone 40 = .ok (.iinc 3 1, 3) := dk_132 3 1 (dk_at dksX0_isAnyAlone_1 18 rfl rfl)
theorem dX0_isAnyAlone_43 : decode cX0_isAnyAlone 43 = .ok (.goto (-39), 3) := dk_167 255 217 (dk_at dksX0_isAnyAlone_1 21 rfl rfl)
theorem dX0_isAnyAlone_46 : decode cX0_isAnyAlone 46 = .ok (.iload_n 2, 1) := dk_28 (dk_at dksX0_isAnyAlone_2 0 rfl rfl)
theorem dX0_isAnyAlone_47 : decode cX0_isAnyAlone 47 = .ok (.ireturn, 1) := dk_172 (dk_at dksX0_isAnyAlone_2 1 rfl rfl)
abbrev cX0_taken : ByteArray := prog_1_method_35_code
def yX0_taken : MethodName := ⟨RX0, "taken", "(I)LDictProof$Instance;"⟩
def dkwX0_taken_3 : List UInt8 := [167, 255, 205, 29, 153, 0, 10, 42, 180, 0, 114, 28, 50, 176, 132, 2, 1, 167, 255, 171, 1, 176]
abbrev dktX0_taken_3 : List UInt8 := dkwX0_taken_3 ++ []
def dkwX0_taken_2 : List UInt8 := [28, 50, 42, 180, 0, 114, 21, 4, 50, 182, 1, 57, 153, 0, 7, 4, 167, 0, 4, 3, 62, 132, 4, 1]
abbrev dktX0_taken_2 : List UInt8 := dkwX0_taken_2 ++ dktX0_taken_3
def dkwX0_taken_1 : List UInt8 := [180, 1, 12, 162, 0, 48, 29, 153, 0, 44, 27, 21, 4, 184, 0, 209, 153, 0, 23, 42, 42, 180, 0, 114]
abbrev dktX0_taken_1 : List UInt8 := dkwX0_taken_1 ++ dktX0_taken_2
def dkwX0_taken_0 : List UInt8 := [3, 61, 28, 42, 180, 1, 12, 162, 0, 83, 27, 28, 184, 0, 209, 62, 3, 54, 4, 21, 4, 42]
abbrev dktX0_taken_0 : List UInt8 := dkwX0_taken_0 ++ dktX0_taken_1
theorem dksX0_taken_0 : cX0_taken.data.toList.drop 0 = dktX0_taken_0 := by decide +kernel
theorem dksX0_taken_1 : cX0_taken.data.toList.drop 22 = dktX0_taken_1 := dk_seg dksX0_taken_0 22 rfl rfl
theorem dksX0_taken_2 : cX0_taken.data.toList.drop 46 = dktX0_taken_2 := dk_seg dksX0_taken_1 24 rfl rfl
theorem dksX0_taken_3 : cX0_taken.data.toList.drop 70 = dktX0_taken_3 := dk_seg dksX0_taken_2 24 rfl rfl
theorem dX0_taken_0 : decode cX0_taken 0 = .ok (.iconst 0, 1) := dk_3 (dk_at dksX0_taken_0 0 rfl rfl)
theorem dX0_taken_1 : decode cX0_taken 1 = .ok (.istore_n 2, 1) := dk_61 (dk_at dksX0_taken_0 1 rfl rfl)
theorem dX0_taken_2 : decode cX0_taken 2 = .ok (.iload_n 2, 1) := dk_28 (dk_at dksX0_taken_0 2 rfl rfl)
theorem dX0_taken_3 : decode cX0_taken 3 = .ok (.aload_n 0, 1) := dk_42 (dk_at dksX0_taken_0 3 rfl rfl)
theorem dX0_taken_4 : decode cX0_taken 4 = .ok (.getfield 268, 3) := dk_180 1 12 (dk_at dksX0_taken_0 4 rfl rfl)
theorem dX0_taken_7 : decode cX0_taken 7 = .ok (.if_icmp .ge 83, 3) := dk_162 0 83 (dk_at dksX0_taken_0 7 rfl rfl)
theorem dX0_taken_10 : decode cX0_taken 10 = .ok (.iload_n 1, 1) := dk_27 (dk_at dksX0_taken_0 10 rfl rfl)
theorem dX0_taken_11 : decode cX0_taken 11 = .ok (.iload_n 2, 1) := dk_28 (dk_at dksX0_taken_0 11 rfl rfl)
theorem dX0_taken_12 : decode cX0_taken 12 = .ok (.invokestatic 209, 3) := dk_184 0 209 (dk_at dksX0_taken_0 12 rfl rfl)
theorem dX0_taken_15 : decode cX0_taken 15 = .ok (.istore_n 3, 1) := dk_62 (dk_at dksX0_taken_0 15 rfl rfl)
theorem dX0_taken_16 : decode cX0_taken 16 = .ok (.iconst 0, 1) := dk_3 (dk_at dksX0_taken_0 16 rfl rfl)
theorem dX0_taken_17 : decode cX0_taken 17 = .ok (.istore 4, 2) := dk_54 4 (dk_at dksX0_taken_0 17 rfl rfl)
theorem dX0_taken_19 : decode cX0_taken 19 = .ok (.iload 4, 2) := dk_21 4 (dk_at dksX0_taken_0 19 rfl rfl)
theorem dX0_taken_21 : decode cX0_taken 21 = .ok (.aload_n 0, 1) := dk_42 (dk_at dksX0_taken_0 21 rfl rfl)
theorem dX0_taken_22 : decode cX0_taken 22 = .ok (.getfield 268, 3) := dk_180 1 12 (dk_at dksX0_taken_1 0 rfl rfl)
theorem dX0_taken_25 : decode cX0_taken 25 = .ok (.if_icmp .ge 48, 3) := dk_162 0 48 (dk_at dksX0_taken_1 3 rfl rfl)
theorem dX0_taken_28 : decode cX0_taken 28 = .ok (.iload_n 3, 1) := dk_29 (dk_at dksX0_taken_1 6 rfl rfl)
theorem dX0_taken_29 : decode cX0_taken 29 = .ok (.ifCond .eq 44, 3) := dk_153 0 44 (dk_at dksX0_taken_1 7 rfl rfl)
theorem dX0_taken_32 : decode cX0_taken 32 = .ok (.iload_n 1, 1) := dk_27 (dk_at dksX0_taken_1 10 rfl rfl)
theorem dX0_taken_33 : decode cX0_taken 33 = .ok (.iload 4, 2) := dk_21 4 (dk_at dksX0_taken_1 11 rfl rfl)
theorem dX0_taken_35 : decode cX0_taken 35 = .ok (.invokestatic 209, 3) := dk_184 0 209 (dk_at dksX0_taken_1 13 rfl rfl)
theorem dX0_taken_38 : decode cX0_taken 38 = .ok (.ifCond .eq 23, 3) := dk_153 0 23 (dk_at dksX0_taken_1 16 rfl rfl)
theorem dX0_taken_41 : decode cX0_taken 41 = .ok (.aload_n 0, 1) := dk_42 (dk_at dksX0_taken_1 19 rfl rfl)
theorem dX0_taken_42 : decode cX0_taken 42 = .ok (.aload_n 0, 1) := dk_42 (dk_at dksX0_taken_1 20 rfl rfl)
theorem dX0_taken_43 : decode cX0_taken 43 = .ok (.getfield 114, 3) := dk_180 0 114 (dk_at dksX0_taken_1 21 rfl rfl)
theorem dX0_taken_46 : decode cX0_taken 46 = .ok (.iload_n 2, 1) := dk_28 (dk_at dksX0_taken_2 0 rfl rfl)
theorem dX0_taken_47 : decode cX0_taken 47 = .ok (.aaload, 1) := dk_50 (dk_at dksX0_taken_2 1 rfl rfl)
theorem dX0_taken_48 : decode cX0_taken 48 = .ok (.aload_n 0, 1) := dk_42 (dk_at dksX0_taken_2 2 rfl rfl)
theorem dX0_taken_49 : decode cX0_taken 49 = .ok (.getfield 114, 3) := dk_180 0 114 (dk_at dksX0_taken_2 3 rfl rfl)
theorem dX0_taken_52 : decode cX0_taken 52 = .ok (.iload 4, 2) := dk_21 4 (dk_at dksX0_taken_2 6 rfl rfl)
theorem dX0_taken_54 : decode cX0_taken 54 = .ok (.aaload, 1) := dk_50 (dk_at dksX0_taken_2 8 rfl rfl)
theorem dX0_taken_55 : decode cX0_taken 55 = .ok (.invokevirtual 313, 3) := dk_182 1 57 (dk_at dksX0_taken_2 9 rfl rfl)
theorem dX0_taken_58 : decode cX0_taken 58 = .ok (.ifCond .eq 7, 3) := dk_153 0 7 (dk_at dksX0_taken_2 12 rfl rfl)
theorem dX0_taken_61 : decode cX0_taken 61 = .ok (.iconst 1, 1) := dk_4 (dk_at dksX0_taken_2 15 rfl rfl)
theorem dX0_taken_62 : decode cX0_taken 62 = .ok (.goto 4, 3) := dk_167 0 4 (dk_at dksX0_taken_2 16 rfl rfl)
theorem dX0_taken_65 : decode cX0_taken 65 = .ok (.iconst 0, 1) := dk_3 (dk_at dksX0_taken_2 19 rfl rfl)
theorem dX0_taken_66 : decode cX0_taken 66 = .ok (.istore_n 3, 1) := dk_62 (dk_at dksX0_taken_2 20 rfl rfl)
theorem dX0_taken_67 : decode cX0_taken 67 = .ok (.iinc 4 1, 3) := dk_132 4 1 (dk_at dksX0_taken_2 21 rfl rfl)
theorem dX0_taken_70 : decode cX0_taken 70 = .ok (.goto (-51), 3) := dk_167 255 205 (dk_at dksX0_taken_3 0 rfl rfl)
theorem dX0_taken_73 : decode cX0_taken 73 = .ok (.iload_n 3, 1) := dk_29 (dk_at dksX0_taken_3 3 rfl rfl)
theorem dX0_taken_74 : decode cX0_taken 74 = .ok (.ifCond .eq 10, 3) := dk_153 0 10 (dk_at dksX0_taken_3 4 rfl rfl)
theorem dX0_taken_77 : decode cX0_taken 77 = .ok (.aload_n 0, 1) := dk_42 (dk_at dksX0_taken_3 7 rfl rfl)
theorem dX0_taken_78 : decode cX0_taken 78 = .ok (.getfield 114, 3) := dk_180 0 114 (dk_at dksX0_taken_3 8 rfl rfl)
theorem dX0_taken_81 : decode cX0_taken 81 = .ok (.iload_n 2, 1) := dk_28 (dk_at dksX0_taken_3 11 rfl rfl)
theorem dX0_taken_82 : decode cX0_taken 82 = .ok (.aaload, 1) := dk_50 (dk_at dksX0_taken_3 12 rfl rfl)
theorem dX0_taken_83 : decode cX0_taken 83 = .ok (.areturn, 1) := dk_176 (dk_at dksX0_taken_3 13 rfl rfl)
theorem dX0_taken_84 : decode cX0_taken 84 = .ok (.iinc 2 1, 3) := dk_132 2 1 (dk_at dksX0_taken_3 14 rfl rfl)
theorem dX0_taken_87 : decode cX0_taken 87 = .ok (.goto (-85), 3) := dk_167 255 171 (dk_at dksX0_taken_3 17 rfl rfl)
theorem dX0_taken_90 : decode cX0_taken 90 = .ok (.aconst_null, 1) := dk_1 (dk_at dksX0_taken_3 20 rfl rfl)
theorem dX0_taken_91 : decode cX0_taken 91 = .ok (.areturn, 1) := dk_176 (dk_at dksX0_taken_3 21 rfl rfl)
abbrev cX0_isBefore : ByteArray := prog_1_method_34_code
def yX0_isBefore : MethodName := ⟨RX0, "isBefore", "(LDictProof$Instance;LDictProof$Instance;)Z"⟩
def dkwX0_isBefore_1 : List UInt8 := [160, 0, 16, 42, 43, 44, 182, 1, 53, 153, 0, 7, 4, 167, 0, 4, 3, 172]
abbrev dktX0_isBefore_1 : List UInt8 := dkwX0_isBefore_1 ++ []
def dkwX0_isBefore_0 : List UInt8 := [43, 44, 165, 0, 34, 43, 182, 1, 50, 44, 182, 1, 50, 161, 0, 23, 43, 182, 1, 50, 44, 182, 1, 50]
abbrev dktX0_isBefore_0 : List UInt8 := dkwX0_isBefore_0 ++ dktX0_isBefore_1
theorem dksX0_isBefore_0 : cX0_isBefore.data.toList.drop 0 = dktX0_isBefore_0 := by decide +kernel
theorem dksX0_isBefore_1 : cX0_isBefore.data.toList.drop 24 = dktX0_isBefore_1 := dk_seg dksX0_isBefore_0 24 rfl rfl
theorem dX0_isBefore_0 : decode cX0_isBefore 0 = .ok (.aload_n 1, 1) := dk_43 (dk_at dksX0_isBefore_0 0 rfl rfl)
theorem dX0_isBefore_1 : decode cX0_isBefore 1 = .ok (.aload_n 2, 1) := dk_44 (dk_at dksX0_isBefore_0 1 rfl rfl)
theorem dX0_isBefore_2 : decode cX0_isBefore 2 = .ok (.if_acmp .eq 34, 3) := dk_165 0 34 (dk_at dksX0_isBefore_0 2 rfl rfl)
theorem dX0_isBefore_5 : decode cX0_isBefore 5 = .ok (.aload_n 1, 1) := dk_43 (dk_at dksX0_isBefore_0 5 rfl rfl)
theorem dX0_isBefore_6 : decode cX0_isBefore 6 = .ok (.invokevirtual 306, 3) := dk_182 1 50 (dk_at dksX0_isBefore_0 6 rfl rfl)
theorem dX0_isBefore_9 : decode cX0_isBefore 9 = .ok (.aload_n 2, 1) := dk_44 (dk_at dksX0_isBefore_0 9 rfl rfl)
theorem dX0_isBefore_10 : decode cX0_isBefore 10 = .ok (.invokevirtual 306, 3) := dk_182 1 50 (dk_at dksX0_isBefore_0 10 rfl rfl)
theorem dX0_isBefore_13 : decode cX0_isBefore 13 = .ok (.if_icmp .lt 23, 3) := dk_161 0 23 (dk_at dksX0_isBefore_0 13 rfl rfl)
theorem dX0_isBefore_16 : decode cX0_isBefore 16 = .ok (.aload_n 1, 1) := dk_43 (dk_at dksX0_isBefore_0 16 rfl rfl)
theorem dX0_isBefore_17 : decode cX0_isBefore 17 = .ok (.invokevirtual 306, 3) := dk_182 1 50 (dk_at dksX0_isBefore_0 17 rfl rfl)
theorem dX0_isBefore_20 : decode cX0_isBefore 20 = .ok (.aload_n 2, 1) := dk_44 (dk_at dksX0_isBefore_0 20 rfl rfl)
theorem dX0_isBefore_21 : decode cX0_isBefore 21 = .ok (.invokevirtual 306, 3) := dk_182 1 50 (dk_at dksX0_isBefore_0 21 rfl rfl)
theorem dX0_isBefore_24 : decode cX0_isBefore 24 = .ok (.if_icmp .ne 16, 3) := dk_160 0 16 (dk_at dksX0_isBefore_1 0 rfl rfl)
theorem dX0_isBefore_27 : decode cX0_isBefore 27 = .ok (.aload_n 0, 1) := dk_42 (dk_at dksX0_isBefore_1 3 rfl rfl)
theorem dX0_isBefore_28 : decode cX0_isBefore 28 = .ok (.aload_n 1, 1) := dk_43 (dk_at dksX0_isBefore_1 4 rfl rfl)
theorem dX0_isBefore_29 : decode cX0_isBefore 29 = .ok (.aload_n 2, 1) := dk_44 (dk_at dksX0_isBefore_1 5 rfl rfl)
theorem dX0_isBefore_30 : decode cX0_isBefore 30 = .ok (.invokevirtual 309, 3) := dk_182 1 53 (dk_at dksX0_isBefore_1 6 rfl rfl)
theorem dX0_isBefore_33 : decode cX0_isBefore 33 = .ok (.ifCond .eq 7, 3) := dk_153 0 7 (dk_at dksX0_isBefore_1 9 rfl rfl)
theorem dX0_isBefore_36 : decode cX0_isBefore 36 = .ok (.iconst 1, 1) := dk_4 (dk_at dksX0_isBefore_1 12 rfl rfl)
theorem dX0_isBefore_37 : decode cX0_isBefore 37 = .ok (.goto 4, 3) := dk_167 0 4 (dk_at dksX0_isBefore_1 13 rfl rfl)
theorem dX0_isBefore_40 : decode cX0_isBefore 40 = .ok (.iconst 0, 1) := dk_3 (dk_at dksX0_isBefore_1 16 rfl rfl)
theorem dX0_isBefore_41 : decode cX0_isBefore 41 = .ok (.ireturn, 1) := dk_172 (dk_at dksX0_isBefore_1 17 rfl rfl)
abbrev cX0_isSpecial : ByteArray := prog_1_method_58_code
def yX0_isSpecial : MethodName := ⟨RX0, "isSpecial", "(LDictProof$Instance;LDictProof$Instance;)Z"⟩
def dkwX0_isSpecial_0 : List UInt8 := [42, 180, 0, 136, 16, 6, 43, 180, 0, 245, 104, 44, 180, 0, 245, 96, 51, 172]
abbrev dktX0_isSpecial_0 : List UInt8 := dkwX0_isSpecial_0 ++ []
theorem dksX0_isSpecial_0 : cX0_isSpecial.data.toList.drop 0 = dktX0_isSpecial_0 := by decide +kernel
theorem dX0_isSpecial_0 : decode cX0_isSpecial 0 = .ok (.aload_n 0, 1) := dk_42 (dk_at dksX0_isSpecial_0 0 rfl rfl)
theorem dX0_isSpecial_1 : decode cX0_isSpecial 1 = .ok (.getfield 136, 3) := dk_180 0 136 (dk_at dksX0_isSpecial_0 1 rfl rfl)
theorem dX0_isSpecial_4 : decode cX0_isSpecial 4 = .ok (.bipush 6, 2) := dk_16 6 (dk_at dksX0_isSpecial_0 4 rfl rfl)
theorem dX0_isSpecial_6 : decode cX0_isSpecial 6 = .ok (.aload_n 1, 1) := dk_43 (dk_at dksX0_isSpecial_0 6 rfl rfl)
theorem dX0_isSpecial_7 : decode cX0_isSpecial 7 = .ok (.getfield 245, 3) := dk_180 0 245 (dk_at dksX0_isSpecial_0 7 rfl rfl)
theorem dX0_isSpecial_10 : decode cX0_isSpecial 10 = .ok (.imul, 1) := dk_104 (dk_at dksX0_isSpecial_0 10 rfl rfl)
theorem dX0_isSpecial_11 : decode cX0_isSpecial 11 = .ok (.aload_n 2, 1) := dk_44 (dk_at dksX0_isSpecial_0 11 rfl rfl)
theorem dX0_isSpecial_12 : decode cX0_isSpecial 12 = .ok (.getfield 245, 3) := dk_180 0 245 (dk_at dksX0_isSpecial_0 12 rfl rfl)
theorem dX0_isSpecial_15 : decode cX0_isSpecial 15 = .ok (.iadd, 1) := dk_96 (dk_at dksX0_isSpecial_0 15 rfl rfl)
theorem dX0_isSpecial_16 : decode cX0_isSpecial 16 = .ok (.baload, 1) := dk_51 (dk_at dksX0_isSpecial_0 16 rfl rfl)
theorem dX0_isSpecial_17 : decode cX0_isSpecial 17 = .ok (.ireturn, 1) := dk_172 (dk_at dksX0_isSpecial_0 17 rfl rfl)
abbrev cX0_tellFound : ByteArray := prog_1_method_40_code
def yX0_tellFound : MethodName := ⟨RX0, "tellFound", "(LDictProof$Proof;I)I"⟩
def dkwX0_tellFound_3 : List UInt8 := [184, 1, 105, 172, 42, 43, 182, 1, 102, 182, 1, 108, 184, 1, 105, 172]
abbrev dktX0_tellFound_3 : List UInt8 := dkwX0_tellFound_3 ++ []
def dkwX0_tellFound_2 : List UInt8 := [43, 182, 1, 91, 172, 43, 182, 1, 92, 172, 43, 184, 1, 95, 172, 43, 182, 1, 99, 172, 43, 182, 1, 102]
abbrev dktX0_tellFound_2 : List UInt8 := dkwX0_tellFound_2 ++ dktX0_tellFound_3
def dkwX0_tellFound_1 : List UInt8 := [170, 0, 0, 0, 0, 0, 63, 0, 0, 0, 1, 0, 0, 0, 5, 0, 0, 0, 35, 0, 0, 0, 40, 0, 0, 0, 45, 0, 0, 0, 50, 0, 0, 0, 55]
abbrev dktX0_tellFound_1 : List UInt8 := dkwX0_tellFound_1 ++ dktX0_tellFound_2
def dkwX0_tellFound_0 : List UInt8 := [28]
abbrev dktX0_tellFound_0 : List UInt8 := dkwX0_tellFound_0 ++ dktX0_tellFound_1
theorem dksX0_tellFound_0 : cX0_tellFound.data.toList.drop 0 = dktX0_tellFound_0 := by decide +kernel
theorem dksX0_tellFound_1 : cX0_tellFound.data.toList.drop 1 = dktX0_tellFound_1 := dk_seg dksX0_tellFound_0 1 rfl rfl
theorem dksX0_tellFound_2 : cX0_tellFound.data.toList.drop 36 = dktX0_tellFound_2 := dk_seg dksX0_tellFound_1 35 rfl rfl
theorem dksX0_tellFound_3 : cX0_tellFound.data.toList.drop 60 = dktX0_tellFound_3 := dk_seg dksX0_tellFound_2 24 rfl rfl
theorem dX0_tellFound_0 : decode cX0_tellFound 0 = .ok (.iload_n 2, 1) := dk_28 (dk_at dksX0_tellFound_0 0 rfl rfl)
theorem dX0_tellFound_1 : decode cX0_tellFound 1 = .ok (.tableswitch 63 1 5 #[35, 40, 45, 50, 55], 35) := by decide +kernel
theorem dX0_tellFound_36 : decode cX0_tellFound 36 = .ok (.aload_n 1, 1) := dk_43 (dk_at dksX0_tellFound_2 0 rfl rfl)
theorem dX0_tellFound_37 : decode cX0_tellFound 37 = .ok (.invokevirtual 347, 3) := dk_182 1 91 (dk_at dksX0_tellFound_2 1 rfl rfl)
theorem dX0_tellFound_40 : decode cX0_tellFound 40 = .ok (.ireturn, 1) := dk_172 (dk_at dksX0_tellFound_2 4 rfl rfl)
theorem dX0_tellFound_41 : decode cX0_tellFound 41 = .ok (.aload_n 1, 1) := dk_43 (dk_at dksX0_tellFound_2 5 rfl rfl)
theorem dX0_tellFound_42 : decode cX0_tellFound 42 = .ok (.invokevirtual 348, 3) := dk_182 1 92 (dk_at dksX0_tellFound_2 6 rfl rfl)
theorem dX0_tellFound_45 : decode cX0_tellFound 45 = .ok (.ireturn, 1) := dk_172 (dk_at dksX0_tellFound_2 9 rfl rfl)
theorem dX0_tellFound_46 : decode cX0_tellFound 46 = .ok (.aload_n 1, 1) := dk_43 (dk_at dksX0_tellFound_2 10 rfl rfl)
theorem dX0_tellFound_47 : decode cX0_tellFound 47 = .ok (.invokestatic 351, 3) := dk_184 1 95 (dk_at dksX0_tellFound_2 11 rfl rfl)
theorem dX0_tellFound_50 : decode cX0_tellFound 50 = .ok (.ireturn, 1) := dk_172 (dk_at dksX0_tellFound_2 14 rfl rfl)
theorem dX0_tellFound_51 : decode cX0_tellFound 51 = .ok (.aload_n 1, 1) := dk_43 (dk_at dksX0_tellFound_2 15 rfl rfl)
theorem dX0_tellFound_52 : decode cX0_tellFound 52 = .ok (.invokevirtual 355, 3) := dk_182 1 99 (dk_at dksX0_tellFound_2 16 rfl rfl)
theorem dX0_tellFound_55 : decode cX0_tellFound 55 = .ok (.ireturn, 1) := dk_172 (dk_at dksX0_tellFound_2 19 rfl rfl)
theorem dX0_tellFound_56 : decode cX0_tellFound 56 = .ok (.aload_n 1, 1) := dk_43 (dk_at dksX0_tellFound_2 20 rfl rfl)
theorem dX0_tellFound_57 : decode cX0_tellFound 57 = .ok (.invokevirtual 358, 3) := dk_182 1 102 (dk_at dksX0_tellFound_2 21 rfl rfl)
theorem dX0_tellFound_60 : decode cX0_tellFound 60 = .ok (.invokestatic 361, 3) := dk_184 1 105 (dk_at dksX0_tellFound_3 0 rfl rfl)
theorem dX0_tellFound_63 : decode cX0_tellFound 63 = .ok (.ireturn, 1) := dk_172 (dk_at dksX0_tellFound_3 3 rfl rfl)
theorem dX0_tellFound_64 : decode cX0_tellFound 64 = .ok (.aload_n 0, 1) := dk_42 (dk_at dksX0_tellFound_3 4 rfl rfl)
theorem dX0_tellFound_65 : decode cX0_tellFound 65 = .ok (.aload_n 1, 1) := dk_43 (dk_at dksX0_tellFound_3 5 rfl rfl)
theorem dX0_tellFound_66 : decode cX0_tellFound 66 = .ok (.invokevirtual 358, 3) := dk_182 1 102 (dk_at dksX0_tellFound_3 6 rfl rfl)
theorem dX0_tellFound_69 : decode cX0_tellFound 69 = .ok (.invokevirtual 364, 3) := dk_182 1 108 (dk_at dksX0_tellFound_3 9 rfl rfl)
theorem dX0_tellFound_72 : decode cX0_tellFound 72 = .ok (.invokestatic 361, 3) := dk_184 1 105 (dk_at dksX0_tellFound_3 12 rfl rfl)
theorem dX0_tellFound_75 : decode cX0_tellFound 75 = .ok (.ireturn, 1) := dk_172 (dk_at dksX0_tellFound_3 15 rfl rfl)
abbrev cX0_different : ByteArray := prog_1_method_41_code
def yX0_different : MethodName := ⟨RX0, "different", "(LDictProof$Proof;)I"⟩
def dkwX0_different_0 : List UInt8 := [187, 1, 111, 89, 183, 1, 113, 76, 42, 43, 182, 1, 114, 43, 182, 1, 118, 172]
abbrev dktX0_different_0 : List UInt8 := dkwX0_different_0 ++ []
theorem dksX0_different_0 : cX0_different.data.toList.drop 0 = dktX0_different_0 := by decide +kernel
theorem dX0_different_0 : decode cX0_different 0 = .ok (.new 367, 3) := dk_187 1 111 (dk_at dksX0_different_0 0 rfl rfl)
theorem dX0_different_3 : decode cX0_different 3 = .ok (.dup, 1) := dk_89 (dk_at dksX0_different_0 3 rfl rfl)
theorem dX0_different_4 : decode cX0_different 4 = .ok (.invokespecial 369, 3) := dk_183 1 113 (dk_at dksX0_different_0 4 rfl rfl)
theorem dX0_different_7 : decode cX0_different 7 = .ok (.astore_n 1, 1) := dk_76 (dk_at dksX0_different_0 7 rfl rfl)
theorem dX0_different_8 : decode cX0_different 8 = .ok (.aload_n 0, 1) := dk_42 (dk_at dksX0_different_0 8 rfl rfl)
theorem dX0_different_9 : decode cX0_different 9 = .ok (.aload_n 1, 1) := dk_43 (dk_at dksX0_different_0 9 rfl rfl)
theorem dX0_different_10 : decode cX0_different 10 = .ok (.invokevirtual 370, 3) := dk_182 1 114 (dk_at dksX0_different_0 10 rfl rfl)
theorem dX0_different_13 : decode cX0_different 13 = .ok (.aload_n 1, 1) := dk_43 (dk_at dksX0_different_0 13 rfl rfl)
theorem dX0_different_14 : decode cX0_different 14 = .ok (.invokevirtual 374, 3) := dk_182 1 118 (dk_at dksX0_different_0 14 rfl rfl)
theorem dX0_different_17 : decode cX0_different 17 = .ok (.ireturn, 1) := dk_172 (dk_at dksX0_different_0 17 rfl rfl)
abbrev cX0_plainOf : ByteArray := prog_1_method_39_code
def yX0_plainOf : MethodName := ⟨RX0, "plainOf", "(I)I"⟩
def dkwX0_plainOf_4 : List UInt8 := [132, 3, 1, 167, 255, 162, 28, 172]
abbrev dktX0_plainOf_4 : List UInt8 := dkwX0_plainOf_4 ++ []
def dkwX0_plainOf_3 : List UInt8 := [126, 54, 4, 132, 5, 1, 167, 255, 203, 28, 21, 4, 153, 0, 9, 4, 29, 120, 167, 0, 4, 3, 128, 61]
abbrev dktX0_plainOf_3 : List UInt8 := dkwX0_plainOf_3 ++ dktX0_plainOf_4
def dkwX0_plainOf_2 : List UInt8 := [153, 0, 19, 42, 180, 0, 111, 21, 5, 46, 29, 5, 108, 184, 0, 209, 154, 0, 7, 4, 167, 0, 4, 3]
abbrev dktX0_plainOf_2 : List UInt8 := dkwX0_plainOf_2 ++ dktX0_plainOf_3
def dkwX0_plainOf_1 : List UInt8 := [21, 5, 42, 180, 0, 238, 162, 0, 50, 21, 4, 27, 5, 21, 5, 104, 29, 5, 112, 96, 184, 0, 209]
abbrev dktX0_plainOf_1 : List UInt8 := dkwX0_plainOf_1 ++ dktX0_plainOf_2
def dkwX0_plainOf_0 : List UInt8 := [3, 61, 3, 62, 29, 5, 42, 180, 0, 238, 104, 162, 0, 90, 27, 29, 184, 0, 209, 54, 4, 3, 54, 5]
abbrev dktX0_plainOf_0 : List UInt8 := dkwX0_plainOf_0 ++ dktX0_plainOf_1
theorem dksX0_plainOf_0 : cX0_plainOf.data.toList.drop 0 = dktX0_plainOf_0 := by decide +kernel
theorem dksX0_plainOf_1 : cX0_plainOf.data.toList.drop 24 = dktX0_plainOf_1 := dk_seg dksX0_plainOf_0 24 rfl rfl
theorem dksX0_plainOf_2 : cX0_plainOf.data.toList.drop 47 = dktX0_plainOf_2 := dk_seg dksX0_plainOf_1 23 rfl rfl
theorem dksX0_plainOf_3 : cX0_plainOf.data.toList.drop 71 = dktX0_plainOf_3 := dk_seg dksX0_plainOf_2 24 rfl rfl
theorem dksX0_plainOf_4 : cX0_plainOf.data.toList.drop 95 = dktX0_plainOf_4 := dk_seg dksX0_plainOf_3 24 rfl rfl
theorem dX0_plainOf_0 : decode cX0_plainOf 0 = .ok (.iconst 0, 1) := dk_3 (dk_at dksX0_plainOf_0 0 rfl rfl)
theorem dX0_plainOf_1 : decode cX0_plainOf 1 = .ok (.istore_n 2, 1) := dk_61 (dk_at dksX0_plainOf_0 1 rfl rfl)
theorem dX0_plainOf_2 : decode cX0_plainOf 2 = .ok (.iconst 0, 1) := dk_3 (dk_at dksX0_plainOf_0 2 rfl rfl)
theorem dX0_plainOf_3 : decode cX0_plainOf 3 = .ok (.istore_n 3, 1) := dk_62 (dk_at dksX0_plainOf_0 3 rfl rfl)
theorem dX0_plainOf_4 : decode cX0_plainOf 4 = .ok (.iload_n 3, 1) := dk_29 (dk_at dksX0_plainOf_0 4 rfl rfl)
theorem dX0_plainOf_5 : decode cX0_plainOf 5 = .ok (.iconst 2, 1) := dk_5 (dk_at dksX0_plainOf_0 5 rfl rfl)
theorem dX0_plainOf_6 : decode cX0_plainOf 6 = .ok (.aload_n 0, 1) := dk_42 (dk_at dksX0_plainOf_0 6 rfl rfl)
theorem dX0_plainOf_7 : decode cX0_plainOf 7 = .ok (.getfield 238, 3) := dk_180 0 238 (dk_at dksX0_plainOf_0 7 rfl rfl)
theorem dX0_plainOf_10 : decode cX0_plainOf 10 = .ok (.imul, 1) := dk_104 (dk_at dksX0_plainOf_0 10 rfl rfl)
theorem dX0_plainOf_11 : decode cX0_plainOf 11 = .ok (.if_icmp .ge 90, 3) := dk_162 0 90 (dk_at dksX0_plainOf_0 11 rfl rfl)
theorem dX0_plainOf_14 : decode cX0_plainOf 14 = .ok (.iload_n 1, 1) := dk_27 (dk_at dksX0_plainOf_0 14 rfl rfl)
theorem dX0_plainOf_15 : decode cX0_plainOf 15 = .ok (.iload_n 3, 1) := dk_29 (dk_at dksX0_plainOf_0 15 rfl rfl)
theorem dX0_plainOf_16 : decode cX0_plainOf 16 = .ok (.invokestatic 209, 3) := dk_184 0 209 (dk_at dksX0_plainOf_0 16 rfl rfl)
theorem dX0_plainOf_19 : decode cX0_plainOf 19 = .ok (.istore 4, 2) := dk_54 4 (dk_at dksX0_plainOf_0 19 rfl rfl)
theorem dX0_plainOf_21 : decode cX0_plainOf 21 = .ok (.iconst 0, 1) := dk_3 (dk_at dksX0_plainOf_0 21 rfl rfl)
theorem dX0_plainOf_22 : decode cX0_plainOf 22 = .ok (.istore 5, 2) := dk_54 5 (dk_at dksX0_plainOf_0 22 rfl rfl)
theorem dX0_plainOf_24 : decode cX0_plainOf 24 = .ok (.iload 5, 2) := dk_21 5 (dk_at dksX0_plainOf_1 0 rfl rfl)
theorem dX0_plainOf_26 : decode cX0_plainOf 26 = .ok (.aload_n 0, 1) := dk_42 (dk_at dksX0_plainOf_1 2 rfl rfl)
theorem dX0_plainOf_27 : decode cX0_plainOf 27 = .ok (.getfield 238, 3) := dk_180 0 238 (dk_at dksX0_plainOf_1 3 rfl rfl)
theorem dX0_plainOf_30 : decode cX0_plainOf 30 = .ok (.if_icmp .ge 50, 3) := dk_162 0 50 (dk_at dksX0_plainOf_1 6 rfl rfl)
theorem dX0_plainOf_33 : decode cX0_plainOf 33 = .ok (.iload 4, 2) := dk_21 4 (dk_at dksX0_plainOf_1 9 rfl rfl)
theorem dX0_plainOf_35 : decode cX0_plainOf 35 = .ok (.iload_n 1, 1) := dk_27 (dk_at dksX0_plainOf_1 11 rfl rfl)
theorem dX0_plainOf_36 : decode cX0_plainOf 36 = .ok (.iconst 2, 1) := dk_5 (dk_at dksX0_plainOf_1 12 rfl rfl)
theorem dX0_plainOf_37 : decode cX0_plainOf 37 = .ok (.iload 5, 2) := dk_21 5 (dk_at dksX0_plainOf_1 13 rfl rfl)
theorem dX0_plainOf_39 : decode cX0_plainOf 39 = .ok (.imul, 1) := dk_104 (dk_at dksX0_plainOf_1 15 rfl rfl)
theorem dX0_plainOf_40 : decode cX0_plainOf 40 = .ok (.iload_n 3, 1) := dk_29 (dk_at dksX0_plainOf_1 16 rfl rfl)
theorem dX0_plainOf_41 : decode cX0_plainOf 41 = .ok (.iconst 2, 1) := dk_5 (dk_at dksX0_plainOf_1 17 rfl rfl)
theorem dX0_plainOf_42 : decode cX0_plainOf 42 = .ok (.irem, 1) := dk_112 (dk_at dksX0_plainOf_1 18 rfl rfl)
theorem dX0_plainOf_43 : decode cX0_plainOf 43 = .ok (.iadd, 1) := dk_96 (dk_at dksX0_plainOf_1 19 rfl rfl)
theorem dX0_plainOf_44 : decode cX0_plainOf 44 = .ok (.invokestatic 209, 3) := dk_184 0 209 (dk_at dksX0_plainOf_1 20 rfl rfl)
theorem dX0_plainOf_47 : decode cX0_plainOf 47 = .ok (.ifCond .eq 19, 3) := dk_153 0 19 (dk_at dksX0_plainOf_2 0 rfl rfl)
theorem dX0_plainOf_50 : decode cX0_plainOf 50 = .ok (.aload_n 0, 1) := dk_42 (dk_at dksX0_plainOf_2 3 rfl rfl)
theorem dX0_plainOf_51 : decode cX0_plainOf 51 = .ok (.getfield 111, 3) := dk_180 0 111 (dk_at dksX0_plainOf_2 4 rfl rfl)
theorem dX0_plainOf_54 : decode cX0_plainOf 54 = .ok (.iload 5, 2) := dk_21 5 (dk_at dksX0_plainOf_2 7 rfl rfl)
theorem dX0_plainOf_56 : decode cX0_plainOf 56 = .ok (.iaload, 1) := dk_46 (dk_at dksX0_plainOf_2 9 rfl rfl)
theorem dX0_plainOf_57 : decode cX0_plainOf 57 = .ok (.iload_n 3, 1) := dk_29 (dk_at dksX0_plainOf_2 10 rfl rfl)
theorem dX0_plainOf_58 : decode cX0_plainOf 58 = .ok (.iconst 2, 1) := dk_5 (dk_at dksX0_plainOf_2 11 rfl rfl)
theorem dX0_plainOf_59 : decode cX0_plainOf 59 = .ok (.idiv, 1) := dk_108 (dk_at dksX0_plainOf_2 12 rfl rfl)
theorem dX0_plainOf_60 : decode cX0_plainOf 60 = .ok (.invokestatic 209, 3) := dk_184 0 209 (dk_at dksX0_plainOf_2 13 rfl rfl)
theorem dX0_plainOf_63 : decode cX0_plainOf 63 = .ok (.ifCond .ne 7, 3) := dk_154 0 7 (dk_at dksX0_plainOf_2 16 rfl rfl)
theorem dX0_plainOf_66 : decode cX0_plainOf 66 = .ok (.iconst 1, 1) := dk_4 (dk_at dksX0_plainOf_2 19 rfl rfl)
theorem dX0_plainOf_67 : decode cX0_plainOf 67 = .ok (.goto 4, 3) := dk_167 0 4 (dk_at dksX0_plainOf_2 20 rfl rfl)
theorem dX0_plainOf_70 : decode cX0_plainOf 70 = .ok (.iconst 0, 1) := dk_3 (dk_at dksX0_plainOf_2 23 rfl rfl)
theorem dX0_plainOf_71 : decode cX0_plainOf 71 = .ok (.iand, 1) := dk_126 (dk_at dksX0_plainOf_3 0 rfl rfl)
theorem dX0_plainOf_72 : decode cX0_plainOf 72 = .ok (.istore 4, 2) := dk_54 4 (dk_at dksX0_plainOf_3 1 rfl rfl)
theorem dX0_plainOf_74 : decode cX0_plainOf 74 = .ok (.iinc 5 1, 3) := dk_132 5 1 (dk_at dksX0_plainOf_3 3 rfl rfl)
theorem dX0_plainOf_77 : decode cX0_plainOf 77 = .ok (.goto (-53), 3) := dk_167 255 203 (dk_at dksX0_plainOf_3 6 rfl rfl)
theorem dX0_plainOf_80 : decode cX0_plainOf 80 = .ok (.iload_n 2, 1) := dk_28 (dk_at dksX0_plainOf_3 9 rfl rfl)
theorem dX0_plainOf_81 : decode cX0_plainOf 81 = .ok (.iload 4, 2) := dk_21 4 (dk_at dksX0_plainOf_3 10 rfl rfl)
theorem dX0_plainOf_83 : decode cX0_plainOf 83 = .ok (.ifCond .eq 9, 3) := dk_153 0 9 (dk_at dksX0_plainOf_3 12 rfl rfl)
theorem dX0_plainOf_86 : decode cX0_plainOf 86 = .ok (.iconst 1, 1) := dk_4 (dk_at dksX0_plainOf_3 15 rfl rfl)
theorem dX0_plainOf_87 : decode cX0_plainOf 87 = .ok (.iload_n 3, 1) := dk_29 (dk_at dksX0_plainOf_3 16 rfl rfl)
theorem dX0_plainOf_88 : decode cX0_plainOf 88 = .ok (.ishl, 1) := dk_120 (dk_at dksX0_plainOf_3 17 rfl rfl)
theorem dX0_plainOf_89 : decode cX0_plainOf 89 = .ok (.goto 4, 3) := dk_167 0 4 (dk_at dksX0_plainOf_3 18 rfl rfl)
theorem dX0_plainOf_92 : decode cX0_plainOf 92 = .ok (.iconst 0, 1) := dk_3 (dk_at dksX0_plainOf_3 21 rfl rfl)
theorem dX0_plainOf_93 : decode cX0_plainOf 93 = .ok (.ior, 1) := dk_128 (dk_at dksX0_plainOf_3 22 rfl rfl)
theorem dX0_plainOf_94 : decode cX0_plainOf 94 = .ok (.istore_n 2, 1) := dk_61 (dk_at dksX0_plainOf_3 23 rfl rfl)
theorem dX0_plainOf_95 : decode cX0_plainOf 95 = .ok (.iinc 3 1, 3) := dk_132 3 1 (dk_at dksX0_plainOf_4 0 rfl rfl)
theorem dX0_plainOf_98 : decode cX0_plainOf 98 = .ok (.goto (-94), 3) := dk_167 255 162 (dk_at dksX0_plainOf_4 3 rfl rfl)
theorem dX0_plainOf_101 : decode cX0_plainOf 101 = .ok (.iload_n 2, 1) := dk_28 (dk_at dksX0_plainOf_4 6 rfl rfl)
theorem dX0_plainOf_102 : decode cX0_plainOf 102 = .ok (.ireturn, 1) := dk_172 (dk_at dksX0_plainOf_4 7 rfl rfl)
abbrev cX0_entry : ByteArray := prog_1_method_44_code
def yX0_entry : MethodName := ⟨RX0, "entry", "(III)I"⟩
def dkwX0_entry_3 : List UInt8 := [167, 0, 5, 16, 155, 172]
abbrev dktX0_entry_3 : List UInt8 := dkwX0_entry_3 ++ []
def dkwX0_entry_2 : List UInt8 := [29, 133, 9, 25, 4, 182, 1, 91, 4, 100, 133, 184, 0, 170, 153, 0, 12, 25, 4, 29, 182, 1, 135]
abbrev dktX0_entry_2 : List UInt8 := dkwX0_entry_2 ++ dktX0_entry_3
def dkwX0_entry_1 : List UInt8 := [27, 42, 180, 0, 117, 28, 50, 183, 1, 78, 182, 1, 81, 58, 4, 25, 4, 180, 1, 85, 4, 160, 0, 29]
abbrev dktX0_entry_1 : List UInt8 := dkwX0_entry_1 ++ dktX0_entry_2
def dkwX0_entry_0 : List UInt8 := [42, 27, 182, 1, 123, 153, 0, 11, 42, 28, 182, 1, 126, 154, 0, 6, 16, 155, 172, 42, 187, 1, 38, 89]
abbrev dktX0_entry_0 : List UInt8 := dkwX0_entry_0 ++ dktX0_entry_1
theorem dksX0_entry_0 : cX0_entry.data.toList.drop 0 = dktX0_entry_0 := by decide +kernel
theorem dksX0_entry_1 : cX0_entry.data.toList.drop 24 = dktX0_entry_1 := dk_seg dksX0_entry_0 24 rfl rfl
theorem dksX0_entry_2 : cX0_entry.data.toList.drop 48 = dktX0_entry_2 := dk_seg dksX0_entry_1 24 rfl rfl
theorem dksX0_entry_3 : cX0_entry.data.toList.drop 71 = dktX0_entry_3 := dk_seg dksX0_entry_2 23 rfl rfl
theorem dX0_entry_0 : decode cX0_entry 0 = .ok (.aload_n 0, 1) := dk_42 (dk_at dksX0_entry_0 0 rfl rfl)
theorem dX0_entry_1 : decode cX0_entry 1 = .ok (.iload_n 1, 1) := dk_27 (dk_at dksX0_entry_0 1 rfl rfl)
theorem dX0_entry_2 : decode cX0_entry 2 = .ok (.invokevirtual 379, 3) := dk_182 1 123 (dk_at dksX0_entry_0 2 rfl rfl)
theorem dX0_entry_5 : decode cX0_entry 5 = .ok (.ifCond .eq 11, 3) := dk_153 0 11 (dk_at dksX0_entry_0 5 rfl rfl)
theorem dX0_entry_8 : decode cX0_entry 8 = .ok (.aload_n 0, 1) := dk_42 (dk_at dksX0_entry_0 8 rfl rfl)
theorem dX0_entry_9 : decode cX0_entry 9 = .ok (.iload_n 2, 1) := dk_28 (dk_at dksX0_entry_0 9 rfl rfl)
theorem dX0_entry_10 : decode cX0_entry 10 = .ok (.invokevirtual 382, 3) := dk_182 1 126 (dk_at dksX0_entry_0 10 rfl rfl)
theorem dX0_entry_13 : decode cX0_entry 13 = .ok (.ifCond .ne 6, 3) := dk_154 0 6 (dk_at dksX0_entry_0 13 rfl rfl)
theorem dX0_entry_16 : decode cX0_entry 16 = .ok (.bipush (-101), 2) := dk_16 155 (dk_at dksX0_entry_0 16 rfl rfl)
theorem dX0_entry_18 : decode cX0_entry 18 = .ok (.ireturn, 1) := dk_172 (dk_at dksX0_entry_0 18 rfl rfl)
theorem dX0_entry_19 : decode cX0_entry 19 = .ok (.aload_n 0, 1) := dk_42 (dk_at dksX0_entry_0 19 rfl rfl)
theorem dX0_entry_20 : decode cX0_entry 20 = .ok (.new 294, 3) := dk_187 1 38 (dk_at dksX0_entry_0 20 rfl rfl)
theorem dX0_entry_23 : decode cX0_entry 23 = .ok (.dup, 1) := dk_89 (dk_at dksX0_entry_0 23 rfl rfl)
theorem dX0_entry_24 : decode cX0_entry 24 = .ok (.iload_n 1, 1) := dk_27 (dk_at dksX0_entry_1 0 rfl rfl)
theorem dX0_entry_25 : decode cX0_entry 25 = .ok (.aload_n 0, 1) := dk_42 (dk_at dksX0_entry_1 1 rfl rfl)
theorem dX0_entry_26 : decode cX0_entry 26 = .ok (.getfield 117, 3) := dk_180 0 117 (dk_at dksX0_entry_1 2 rfl rfl)
theorem dX0_entry_29 : decode cX0_entry 29 = .ok (.iload_n 2, 1) := dk_28 (dk_at dksX0_entry_1 5 rfl rfl)
theorem dX0_entry_30 : decode cX0_entry 30 = .ok (.aaload, 1) := dk_50 (dk_at dksX0_entry_1 6 rfl rfl)
theorem dX0_entry_31 : decode cX0_entry 31 = .ok (.invokespecial 334, 3) := dk_183 1 78 (dk_at dksX0_entry_1 7 rfl rfl)
theorem dX0_entry_34 : decode cX0_entry 34 = .ok (.invokevirtual 337, 3) := dk_182 1 81 (dk_at dksX0_entry_1 10 rfl rfl)
theorem dX0_entry_37 : decode cX0_entry 37 = .ok (.astore 4, 2) := dk_58 4 (dk_at dksX0_entry_1 13 rfl rfl)
theorem dX0_entry_39 : decode cX0_entry 39 = .ok (.aload 4, 2) := dk_25 4 (dk_at dksX0_entry_1 15 rfl rfl)
theorem dX0_entry_41 : decode cX0_entry 41 = .ok (.getfield 341, 3) := dk_180 1 85 (dk_at dksX0_entry_1 17 rfl rfl)
theorem dX0_entry_44 : decode cX0_entry 44 = .ok (.iconst 1, 1) := dk_4 (dk_at dksX0_entry_1 20 rfl rfl)
theorem dX0_entry_45 : decode cX0_entry 45 = .ok (.if_icmp .ne 29, 3) := dk_160 0 29 (dk_at dksX0_entry_1 21 rfl rfl)
theorem dX0_entry_48 : decode cX0_entry 48 = .ok (.iload_n 3, 1) := dk_29 (dk_at dksX0_entry_2 0 rfl rfl)
theorem dX0_entry_49 : decode cX0_entry 49 = .ok (.i2l, 1) := dk_133 (dk_at dksX0_entry_2 1 rfl rfl)
theorem dX0_entry_50 : decode cX0_entry 50 = .ok (.lconst 0, 1) := dk_9 (dk_at dksX0_entry_2 2 rfl rfl)
theorem dX0_entry_51 : decode cX0_entry 51 = .ok (.aload 4, 2) := dk_25 4 (dk_at dksX0_entry_2 3 rfl rfl)
theorem dX0_entry_53 : decode cX0_entry 53 = .ok (.invokevirtual 347, 3) := dk_182 1 91 (dk_at dksX0_entry_2 5 rfl rfl)
theorem dX0_entry_56 : decode cX0_entry 56 = .ok (.iconst 1, 1) := dk_4 (dk_at dksX0_entry_2 8 rfl rfl)
theorem dX0_entry_57 : decode cX0_entry 57 = .ok (.isub, 1) := dk_100 (dk_at dksX0_entry_2 9 rfl rfl)
theorem dX0_entry_58 : decode cX0_entry 58 = .ok (.i2l, 1) := dk_133 (dk_at dksX0_entry_2 10 rfl rfl)
theorem dX0_entry_59 : decode cX0_entry 59 = .ok (.invokestatic 170, 3) := dk_184 0 170 (dk_at dksX0_entry_2 11 rfl rfl)
theorem dX0_entry_62 : decode cX0_entry 62 = .ok (.ifCond .eq 12, 3) := dk_153 0 12 (dk_at dksX0_entry_2 14 rfl rfl)
theorem dX0_entry_65 : decode cX0_entry 65 = .ok (.aload 4, 2) := dk_25 4 (dk_at dksX0_entry_2 17 rfl rfl)
theorem dX0_entry_67 : decode cX0_entry 67 = .ok (.iload_n 3, 1) := dk_29 (dk_at dksX0_entry_2 19 rfl rfl)
theorem dX0_entry_68 : decode cX0_entry 68 = .ok (.invokevirtual 391, 3) := dk_182 1 135 (dk_at dksX0_entry_2 20 rfl rfl)
theorem dX0_entry_71 : decode cX0_entry 71 = .ok (.goto 5, 3) := dk_167 0 5 (dk_at dksX0_entry_3 0 rfl rfl)
theorem dX0_entry_74 : decode cX0_entry 74 = .ok (.bipush (-101), 2) := dk_16 155 (dk_at dksX0_entry_3 3 rfl rfl)
theorem dX0_entry_76 : decode cX0_entry 76 = .ok (.ireturn, 1) := dk_172 (dk_at dksX0_entry_3 5 rfl rfl)
abbrev cX0_need : ByteArray := prog_1_method_46_code
def yX0_need : MethodName := ⟨RX0, "need", "(IIII)I"⟩
def dkwX0_need_3 : List UInt8 := [16, 154, 172]
abbrev dktX0_need_3 : List UInt8 := dkwX0_need_3 ++ []
def dkwX0_need_2 : List UInt8 := [180, 0, 117, 28, 50, 183, 1, 78, 182, 1, 81, 5, 29, 104, 21, 4, 96, 182, 1, 138, 167, 0, 5]
abbrev dktX0_need_2 : List UInt8 := dkwX0_need_2 ++ dktX0_need_3
def dkwX0_need_1 : List UInt8 := [153, 0, 45, 21, 4, 133, 9, 10, 184, 0, 170, 153, 0, 34, 42, 42, 187, 1, 38, 89, 27, 42]
abbrev dktX0_need_1 : List UInt8 := dkwX0_need_1 ++ dktX0_need_2
def dkwX0_need_0 : List UInt8 := [42, 27, 182, 1, 123, 153, 0, 11, 42, 28, 182, 1, 126, 154, 0, 6, 16, 155, 172, 42, 29, 182, 1, 123]
abbrev dktX0_need_0 : List UInt8 := dkwX0_need_0 ++ dktX0_need_1
theorem dksX0_need_0 : cX0_need.data.toList.drop 0 = dktX0_need_0 := by decide +kernel
theorem dksX0_need_1 : cX0_need.data.toList.drop 24 = dktX0_need_1 := dk_seg dksX0_need_0 24 rfl rfl
theorem dksX0_need_2 : cX0_need.data.toList.drop 46 = dktX0_need_2 := dk_seg dksX0_need_1 22 rfl rfl
theorem dksX0_need_3 : cX0_need.data.toList.drop 69 = dktX0_need_3 := dk_seg dksX0_need_2 23 rfl rfl
theorem dX0_need_0 : decode cX0_need 0 = .ok (.aload_n 0, 1) := dk_42 (dk_at dksX0_need_0 0 rfl rfl)
theorem dX0_need_1 : decode cX0_need 1 = .ok (.iload_n 1, 1) := dk_27 (dk_at dksX0_need_0 1 rfl rfl)
theorem dX0_need_2 : decode cX0_need 2 = .ok (.invokevirtual 379, 3) := dk_182 1 123 (dk_at dksX0_need_0 2 rfl rfl)
theorem dX0_need_5 : decode cX0_need 5 = .ok (.ifCond .eq 11, 3) := dk_153 0 11 (dk_at dksX0_need_0 5 rfl rfl)
theorem dX0_need_8 : decode cX0_need 8 = .ok (.aload_n 0, 1) := dk_42 (dk_at dksX0_need_0 8 rfl rfl)
theorem dX0_need_9 : decode cX0_need 9 = .ok (.iload_n 2, 1) := dk_28 (dk_at dksX0_need_0 9 rfl rfl)
theorem dX0_need_10 : decode cX0_need 10 = .ok (.invokevirtual 382, 3) := dk_182 1 126 (dk_at dksX0_need_0 10 rfl rfl)
theorem dX0_need_13 : decode cX0_need 13 = .ok (.ifCond .ne 6, 3) := dk_154 0 6 (dk_at dksX0_need_0 13 rfl rfl)
theorem dX0_need_16 : decode cX0_need 16 = .ok (.bipush (-101), 2) := dk_16 155 (dk_at dksX0_need_0 16 rfl rfl)
theorem dX0_need_18 : decode cX0_need 18 = .ok (.ireturn, 1) := dk_172 (dk_at dksX0_need_0 18 rfl rfl)
theorem dX0_need_19 : decode cX0_need 19 = .ok (.aload_n 0, 1) := dk_42 (dk_at dksX0_need_0 19 rfl rfl)
theorem dX0_need_20 : decode cX0_need 20 = .ok (.iload_n 3, 1) := dk_29 (dk_at dksX0_need_0 20 rfl rfl)
theorem dX0_need_21 : decode cX0_need 21 = .ok (.invokevirtual 379, 3) := dk_182 1 123 (dk_at dksX0_need_0 21 rfl rfl)
theorem dX0_need_24 : decode cX0_need 24 = .ok (.ifCond .eq 45, 3) := dk_153 0 45 (dk_at dksX0_need_1 0 rfl rfl)
theorem dX0_need_27 : decode cX0_need 27 = .ok (.iload 4, 2) := dk_21 4 (dk_at dksX0_need_1 3 rfl rfl)
theorem dX0_need_29 : decode cX0_need 29 = .ok (.i2l, 1) := dk_133 (dk_at dksX0_need_1 5 rfl rfl)
theorem dX0_need_30 : decode cX0_need 30 = .ok (.lconst 0, 1) := dk_9 (dk_at dksX0_need_1 6 rfl rfl)
theorem dX0_need_31 : decode cX0_need 31 = .ok (.lconst 1, 1) := dk_10 (dk_at dksX0_need_1 7 rfl rfl)
theorem dX0_need_32 : decode cX0_need 32 = .ok (.invokestatic 170, 3) := dk_184 0 170 (dk_at dksX0_need_1 8 rfl rfl)
theorem dX0_need_35 : decode cX0_need 35 = .ok (.ifCond .eq 34, 3) := dk_153 0 34 (dk_at dksX0_need_1 11 rfl rfl)
theorem dX0_need_38 : decode cX0_need 38 = .ok (.aload_n 0, 1) := dk_42 (dk_at dksX0_need_1 14 rfl rfl)
theorem dX0_need_39 : decode cX0_need 39 = .ok (.aload_n 0, 1) := dk_42 (dk_at dksX0_need_1 15 rfl rfl)
theorem dX0_need_40 : decode cX0_need 40 = .ok (.new 294, 3) := dk_187 1 38 (dk_at dksX0_need_1 16 rfl rfl)
theorem dX0_need_43 : decode cX0_need 43 = .ok (.dup, 1) := dk_89 (dk_at dksX0_need_1 19 rfl rfl)
theorem dX0_need_44 : decode cX0_need 44 = .ok (.iload_n 1, 1) := dk_27 (dk_at dksX0_need_1 20 rfl rfl)
theorem dX0_need_45 : decode cX0_need 45 = .ok (.aload_n 0, 1) := dk_42 (dk_at dksX0_need_1 21 rfl rfl)
theorem dX0_need_46 : decode cX0_need 46 = .ok (.getfield 117, 3) := dk_180 0 117 (dk_at dksX0_need_2 0 rfl rfl)
theorem dX0_need_49 : decode cX0_need 49 = .ok (.iload_n 2, 1) := dk_28 (dk_at dksX0_need_2 3 rfl rfl)
theorem dX0_need_50 : decode cX0_need 50 = .ok (.aaload, 1) := dk_50 (dk_at dksX0_need_2 4 rfl rfl)
theorem dX0_need_51 : decode cX0_need 51 = .ok (.invokespecial 334, 3) := dk_183 1 78 (dk_at dksX0_need_2 5 rfl rfl)
theorem dX0_need_54 : decode cX0_need 54 = .ok (.invokevirtual 337, 3) := dk_182 1 81 (dk_at dksX0_need_2 8 rfl rfl)
theorem dX0_need_57 : decode cX0_need 57 = .ok (.iconst 2, 1) := dk_5 (dk_at dksX0_need_2 11 rfl rfl)
theorem dX0_need_58 : decode cX0_need 58 = .ok (.iload_n 3, 1) := dk_29 (dk_at dksX0_need_2 12 rfl rfl)
theorem dX0_need_59 : decode cX0_need 59 = .ok (.imul, 1) := dk_104 (dk_at dksX0_need_2 13 rfl rfl)
theorem dX0_need_60 : decode cX0_need 60 = .ok (.iload 4, 2) := dk_21 4 (dk_at dksX0_need_2 14 rfl rfl)
theorem dX0_need_62 : decode cX0_need 62 = .ok (.iadd, 1) := dk_96 (dk_at dksX0_need_2 16 rfl rfl)
theorem dX0_need_63 : decode cX0_need 63 = .ok (.invokevirtual 394, 3) := dk_182 1 138 (dk_at dksX0_need_2 17 rfl rfl)
theorem dX0_need_66 : decode cX0_need 66 = .ok (.goto 5, 3) := dk_167 0 5 (dk_at dksX0_need_2 20 rfl rfl)
theorem dX0_need_69 : decode cX0_need 69 = .ok (.bipush (-102), 2) := dk_16 154 (dk_at dksX0_need_3 0 rfl rfl)
theorem dX0_need_71 : decode cX0_need 71 = .ok (.ireturn, 1) := dk_172 (dk_at dksX0_need_3 2 rfl rfl)
abbrev cX0_tellNeed : ByteArray := prog_1_method_45_code
def yX0_tellNeed : MethodName := ⟨RX0, "tellNeed", "(LDictProof$Proof;I)I"⟩
def dkwX0_tellNeed_1 : List UInt8 := [184, 0, 209, 153, 0, 7, 5, 167, 0, 16, 29, 28, 184, 0, 209, 153, 0, 7, 4, 167, 0, 4, 3, 172]
abbrev dktX0_tellNeed_1 : List UInt8 := dkwX0_tellNeed_1 ++ []
def dkwX0_tellNeed_0 : List UInt8 := [43, 180, 1, 85, 4, 160, 0, 10, 43, 182, 1, 102, 167, 0, 4, 3, 62, 42, 29, 182, 1, 108, 28]
abbrev dktX0_tellNeed_0 : List UInt8 := dkwX0_tellNeed_0 ++ dktX0_tellNeed_1
theorem dksX0_tellNeed_0 : cX0_tellNeed.data.toList.drop 0 = dktX0_tellNeed_0 := by decide +kernel
theorem dksX0_tellNeed_1 : cX0_tellNeed.data.toList.drop 23 = dktX0_tellNeed_1 := dk_seg dksX0_tellNeed_0 23 rfl rfl
theorem dX0_tellNeed_0 : decode cX0_tellNeed 0 = .ok (.aload_n 1, 1) := dk_43 (dk_at dksX0_tellNeed_0 0 rfl rfl)
theorem dX0_tellNeed_1 : decode cX0_tellNeed 1 = .ok (.getfield 341, 3) := dk_180 1 85 (dk_at dksX0_tellNeed_0 1 rfl rfl)
theorem dX0_tellNeed_4 : decode cX0_tellNeed 4 = .ok (.iconst 1, 1) := dk_4 (dk_at dksX0_tellNeed_0 4 rfl rfl)
theorem dX0_tellNeed_5 : decode cX0_tellNeed 5 = .ok (.if_icmp .ne 10, 3) := dk_160 0 10 (dk_at dksX0_tellNeed_0 5 rfl rfl)
theorem dX0_tellNeed_8 : decode cX0_tellNeed 8 = .ok (.aload_n 1, 1) := dk_43 (dk_at dksX0_tellNeed_0 8 rfl rfl)
theorem dX0_tellNeed_9 : decode cX0_tellNeed 9 = .ok (.invokevirtual 358, 3) := dk_182 1 102 (dk_at dksX0_tellNeed_0 9 rfl rfl)
theorem dX0_tellNeed_12 : decode cX0_tellNeed 12 = .ok (.goto 4, 3) := dk_167 0 4 (dk_at dksX0_tellNeed_0 12 rfl rfl)
theorem dX0_tellNeed_15 : decode cX0_tellNeed 15 = .ok (.iconst 0, 1) := dk_3 (dk_at dksX0_tellNeed_0 15 rfl rfl)
theorem dX0_tellNeed_16 : decode cX0_tellNeed 16 = .ok (.istore_n 3, 1) := dk_62 (dk_at dksX0_tellNeed_0 16 rfl rfl)
theorem dX0_tellNeed_17 : decode cX0_tellNeed 17 = .ok (.aload_n 0, 1) := dk_42 (dk_at dksX0_tellNeed_0 17 rfl rfl)
theorem dX0_tellNeed_18 : decode cX0_tellNeed 18 = .ok (.iload_n 3, 1) := dk_29 (dk_at dksX0_tellNeed_0 18 rfl rfl)
theorem dX0_tellNeed_19 : decode cX0_tellNeed 19 = .ok (.invokevirtual 364, 3) := dk_182 1 108 (dk_at dksX0_tellNeed_0 19 rfl rfl)
theorem dX0_tellNeed_22 : decode cX0_tellNeed 22 = .ok (.iload_n 2, 1) := dk_28 (dk_at dksX0_tellNeed_0 22 rfl rfl)
theorem dX0_tellNeed_23 : decode cX0_tellNeed 23 = .ok (.invokestatic 209, 3) := dk_184 0 209 (dk_at dksX0_tellNeed_1 0 rfl rfl)
theorem dX0_tellNeed_26 : decode cX0_tellNeed 26 = .ok (.ifCond .eq 7, 3) := dk_153 0 7 (dk_at dksX0_tellNeed_1 3 rfl rfl)
theorem dX0_tellNeed_29 : decode cX0_tellNeed 29 = .ok (.iconst 2, 1) := dk_5 (dk_at dksX0_tellNeed_1 6 rfl rfl)
theorem dX0_tellNeed_30 : decode cX0_tellNeed 30 = .ok (.goto 16, 3) := dk_167 0 16 (dk_at dksX0_tellNeed_1 7 rfl rfl)
theorem dX0_tellNeed_33 : decode cX0_tellNeed 33 = .ok (.iload_n 3, 1) := dk_29 (dk_at dksX0_tellNeed_1 10 rfl rfl)
theorem dX0_tellNeed_34 : decode cX0_tellNeed 34 = .ok (.iload_n 2, 1) := dk_28 (dk_at dksX0_tellNeed_1 11 rfl rfl)
theorem dX0_tellNeed_35 : decode cX0_tellNeed 35 = .ok (.invokestatic 209, 3) := dk_184 0 209 (dk_at dksX0_tellNeed_1 12 rfl rfl)
theorem dX0_tellNeed_38 : decode cX0_tellNeed 38 = .ok (.ifCond .eq 7, 3) := dk_153 0 7 (dk_at dksX0_tellNeed_1 15 rfl rfl)
theorem dX0_tellNeed_41 : decode cX0_tellNeed 41 = .ok (.iconst 1, 1) := dk_4 (dk_at dksX0_tellNeed_1 18 rfl rfl)
theorem dX0_tellNeed_42 : decode cX0_tellNeed 42 = .ok (.goto 4, 3) := dk_167 0 4 (dk_at dksX0_tellNeed_1 19 rfl rfl)
theorem dX0_tellNeed_45 : decode cX0_tellNeed 45 = .ok (.iconst 0, 1) := dk_3 (dk_at dksX0_tellNeed_1 22 rfl rfl)
theorem dX0_tellNeed_46 : decode cX0_tellNeed 46 = .ok (.ireturn, 1) := dk_172 (dk_at dksX0_tellNeed_1 23 rfl rfl)
abbrev cX0_about : ByteArray := prog_1_method_48_code
def yX0_about : MethodName := ⟨RX0, "about", "(II)I"⟩
def dkwX0_about_2 : List UInt8 := [42, 180, 0, 107, 27, 46, 172, 42, 180, 0, 111, 27, 46, 172, 42, 27, 182, 1, 141, 172, 16, 154, 172]
abbrev dktX0_about_2 : List UInt8 := dkwX0_about_2 ++ []
def dkwX0_about_1 : List UInt8 := [170, 0, 0, 0, 0, 0, 0, 48, 0, 0, 0, 0, 0, 0, 0, 2, 0, 0, 0, 28, 0, 0, 0, 35, 0, 0, 0, 42]
abbrev dktX0_about_1 : List UInt8 := dkwX0_about_1 ++ dktX0_about_2
def dkwX0_about_0 : List UInt8 := [42, 27, 182, 1, 123, 154, 0, 6, 16, 155, 172, 28]
abbrev dktX0_about_0 : List UInt8 := dkwX0_about_0 ++ dktX0_about_1
theorem dksX0_about_0 : cX0_about.data.toList.drop 0 = dktX0_about_0 := by decide +kernel
theorem dksX0_about_1 : cX0_about.data.toList.drop 12 = dktX0_about_1 := dk_seg dksX0_about_0 12 rfl rfl
theorem dksX0_about_2 : cX0_about.data.toList.drop 40 = dktX0_about_2 := dk_seg dksX0_about_1 28 rfl rfl
theorem dX0_about_0 : decode cX0_about 0 = .ok (.aload_n 0, 1) := dk_42 (dk_at dksX0_about_0 0 rfl rfl)
theorem dX0_about_1 : decode cX0_about 1 = .ok (.iload_n 1, 1) := dk_27 (dk_at dksX0_about_0 1 rfl rfl)
theorem dX0_about_2 : decode cX0_about 2 = .ok (.invokevirtual 379, 3) := dk_182 1 123 (dk_at dksX0_about_0 2 rfl rfl)
theorem dX0_about_5 : decode cX0_about 5 = .ok (.ifCond .ne 6, 3) := dk_154 0 6 (dk_at dksX0_about_0 5 rfl rfl)
theorem dX0_about_8 : decode cX0_about 8 = .ok (.bipush (-101), 2) := dk_16 155 (dk_at dksX0_about_0 8 rfl rfl)
theorem dX0_about_10 : decode cX0_about 10 = .ok (.ireturn, 1) := dk_172 (dk_at dksX0_about_0 10 rfl rfl)
theorem dX0_about_11 : decode cX0_about 11 = .ok (.iload_n 2, 1) := dk_28 (dk_at dksX0_about_0 11 rfl rfl)
theorem dX0_about_12 : decode cX0_about 12 = .ok (.tableswitch 48 0 2 #[28, 35, 42], 28) := by decide +kernel
theorem dX0_about_40 : decode cX0_about 40 = .ok (.aload_n 0, 1) := dk_42 (dk_at dksX0_about_2 0 rfl rfl)
theorem dX0_about_41 : decode cX0_about 41 = .ok (.getfield 107, 3) := dk_180 0 107 (dk_at dksX0_about_2 1 rfl rfl)
theorem dX0_about_44 : decode cX0_about 44 = .ok (.iload_n 1, 1) := dk_27 (dk_at dksX0_about_2 4 rfl rfl)
theorem dX0_about_45 : decode cX0_about 45 = .ok (.iaload, 1) := dk_46 (dk_at dksX0_about_2 5 rfl rfl)
theorem dX0_about_46 : decode cX0_about 46 = .ok (.ireturn, 1) := dk_172 (dk_at dksX0_about_2 6 rfl rfl)
theorem dX0_about_47 : decode cX0_about 47 = .ok (.aload_n 0, 1) := dk_42 (dk_at dksX0_about_2 7 rfl rfl)
theorem dX0_about_48 : decode cX0_about 48 = .ok (.getfield 111, 3) := dk_180 0 111 (dk_at dksX0_about_2 8 rfl rfl)
theorem dX0_about_51 : decode cX0_about 51 = .ok (.iload_n 1, 1) := dk_27 (dk_at dksX0_about_2 11 rfl rfl)
theorem dX0_about_52 : decode cX0_about 52 = .ok (.iaload, 1) := dk_46 (dk_at dksX0_about_2 12 rfl rfl)
theorem dX0_about_53 : decode cX0_about 53 = .ok (.ireturn, 1) := dk_172 (dk_at dksX0_about_2 13 rfl rfl)
theorem dX0_about_54 : decode cX0_about 54 = .ok (.aload_n 0, 1) := dk_42 (dk_at dksX0_about_2 14 rfl rfl)
theorem dX0_about_55 : decode cX0_about 55 = .ok (.iload_n 1, 1) := dk_27 (dk_at dksX0_about_2 15 rfl rfl)
theorem dX0_about_56 : decode cX0_about 56 = .ok (.invokevirtual 397, 3) := dk_182 1 141 (dk_at dksX0_about_2 16 rfl rfl)
theorem dX0_about_59 : decode cX0_about 59 = .ok (.ireturn, 1) := dk_172 (dk_at dksX0_about_2 19 rfl rfl)
theorem dX0_about_60 : decode cX0_about 60 = .ok (.bipush (-102), 2) := dk_16 154 (dk_at dksX0_about_2 20 rfl rfl)
theorem dX0_about_62 : decode cX0_about 62 = .ok (.ireturn, 1) := dk_172 (dk_at dksX0_about_2 22 rfl rfl)
abbrev cX0_instancesOf : ByteArray := prog_1_method_47_code
def yX0_instancesOf : MethodName := ⟨RX0, "instancesOf", "(I)I"⟩
def dkwX0_instancesOf_1 : List UInt8 := [160, 0, 7, 4, 167, 0, 4, 3, 96, 61, 132, 3, 1, 167, 255, 224, 28, 172]
abbrev dktX0_instancesOf_1 : List UInt8 := dkwX0_instancesOf_1 ++ []
def dkwX0_instancesOf_0 : List UInt8 := [3, 61, 3, 62, 29, 42, 180, 1, 12, 162, 0, 30, 28, 42, 180, 0, 114, 29, 50, 180, 0, 248, 27]
abbrev dktX0_instancesOf_0 : List UInt8 := dkwX0_instancesOf_0 ++ dktX0_instancesOf_1
theorem dksX0_instancesOf_0 : cX0_instancesOf.data.toList.drop 0 = dktX0_instancesOf_0 := by decide +kernel
theorem dksX0_instancesOf_1 : cX0_instancesOf.data.toList.drop 23 = dktX0_instancesOf_1 := dk_seg dksX0_instancesOf_0 23 rfl rfl
theorem dX0_instancesOf_0 : decode cX0_instancesOf 0 = .ok (.iconst 0, 1) := dk_3 (dk_at dksX0_instancesOf_0 0 rfl rfl)
theorem dX0_instancesOf_1 : decode cX0_instancesOf 1 = .ok (.istore_n 2, 1) := dk_61 (dk_at dksX0_instancesOf_0 1 rfl rfl)
theorem dX0_instancesOf_2 : decode cX0_instancesOf 2 = .ok (.iconst 0, 1) := dk_3 (dk_at dksX0_instancesOf_0 2 rfl rfl)
theorem dX0_instancesOf_3 : decode cX0_instancesOf 3 = .ok (.istore_n 3, 1) := dk_62 (dk_at dksX0_instancesOf_0 3 rfl rfl)
theorem dX0_instancesOf_4 : decode cX0_instancesOf 4 = .ok (.iload_n 3, 1) := dk_29 (dk_at dksX0_instancesOf_0 4 rfl rfl)
theorem dX0_instancesOf_5 : decode cX0_instancesOf 5 = .ok (.aload_n 0, 1) := dk_42 (dk_at dksX0_instancesOf_0 5 rfl rfl)
theorem dX0_instancesOf_6 : decode cX0_instancesOf 6 = .ok (.getfield 268, 3) := dk_180 1 12 (dk_at dksX0_instancesOf_0 6 rfl rfl)
theorem dX0_instancesOf_9 : decode cX0_instancesOf 9 = .ok (.if_icmp .ge 30, 3) := dk_162 0 30 (dk_at dksX0_instancesOf_0 9 rfl rfl)
theorem dX0_instancesOf_12 : decode cX0_instancesOf 12 = .ok (.iload_n 2, 1) := dk_28 (dk_at dksX0_instancesOf_0 12 rfl rfl)
theorem dX0_instancesOf_13 : decode cX0_instancesOf 13 = .ok (.aload_n 0, 1) := dk_42 (dk_at dksX0_instancesOf_0 13 rfl rfl)
theorem dX0_instancesOf_14 : decode cX0_instancesOf 14 = .ok (.getfield 114, 3) := dk_180 0 114 (dk_at dksX0_instancesOf_0 14 rfl rfl)
theorem dX0_instancesOf_17 : decode cX0_instancesOf 17 = .ok (.iload_n 3, 1) := dk_29 (dk_at dksX0_instancesOf_0 17 rfl rfl)
theorem dX0_instancesOf_18 : decode cX0_instancesOf 18 = .ok (.aaload, 1) := dk_50 (dk_at dksX0_instancesOf_0 18 rfl rfl)
theorem dX0_instancesOf_19 : decode cX0_instancesOf 19 = .ok (.getfield 248, 3) := dk_180 0 248 (dk_at dksX0_instancesOf_0 19 rfl rfl)
theorem dX0_instancesOf_22 : decode cX0_instancesOf 22 = .ok (.iload_n 1, 1) := dk_27 (dk_at dksX0_instancesOf_0 22 rfl rfl)
theorem dX0_instancesOf_23 : decode cX0_instancesOf 23 = .ok (.if_icmp .ne 7, 3) := dk_160 0 7 (dk_at dksX0_instancesOf_1 0 rfl rfl)
theorem dX0_instancesOf_26 : decode cX0_instancesOf 26 = .ok (.iconst 1, 1) := dk_4 (dk_at dksX0_instancesOf_1 3 rfl rfl)
theorem dX0_instancesOf_27 : decode cX0_instancesOf 27 = .ok (.goto 4, 3) := dk_167 0 4 (dk_at dksX0_instancesOf_1 4 rfl rfl)
theorem dX0_instancesOf_30 : decode cX0_instancesOf 30 = .ok (.iconst 0, 1) := dk_3 (dk_at dksX0_instancesOf_1 7 rfl rfl)
theorem dX0_instancesOf_31 : decode cX0_instancesOf 31 = .ok (.iadd, 1) := dk_96 (dk_at dksX0_instancesOf_1 8 rfl rfl)
theorem dX0_instancesOf_32 : decode cX0_instancesOf 32 = .ok (.istore_n 2, 1) := dk_61 (dk_at dksX0_instancesOf_1 9 rfl rfl)
theorem dX0_instancesOf_33 : decode cX0_instancesOf 33 = .ok (.iinc 3 1, 3) := dk_132 3 1 (dk_at dksX0_instancesOf_1 10 rfl rfl)
theorem dX0_instancesOf_36 : decode cX0_instancesOf 36 = .ok (.goto (-32), 3) := dk_167 255 224 (dk_at dksX0_instancesOf_1 13 rfl rfl)
theorem dX0_instancesOf_39 : decode cX0_instancesOf 39 = .ok (.iload_n 2, 1) := dk_28 (dk_at dksX0_instancesOf_1 16 rfl rfl)
theorem dX0_instancesOf_40 : decode cX0_instancesOf 40 = .ok (.ireturn, 1) := dk_172 (dk_at dksX0_instancesOf_1 17 rfl rfl)
abbrev cX0_instance : ByteArray := prog_1_method_52_code
def yX0_instance : MethodName := ⟨RX0, "instance", "(II)I"⟩
def dkwX0_instance_1 : List UInt8 := [172]
abbrev dktX0_instance_1 : List UInt8 := dkwX0_instance_1 ++ []
def dkwX0_instance_0 : List UInt8 := [42, 27, 182, 1, 160, 153, 0, 17, 42, 42, 180, 0, 114, 27, 50, 28, 182, 1, 163, 167, 0, 5, 16, 155]
abbrev dktX0_instance_0 : List UInt8 := dkwX0_instance_0 ++ dktX0_instance_1
theorem dksX0_instance_0 : cX0_instance.data.toList.drop 0 = dktX0_instance_0 := by decide +kernel
theorem dksX0_instance_1 : cX0_instance.data.toList.drop 24 = dktX0_instance_1 := dk_seg dksX0_instance_0 24 rfl rfl
theorem dX0_instance_0 : decode cX0_instance 0 = .ok (.aload_n 0, 1) := dk_42 (dk_at dksX0_instance_0 0 rfl rfl)
theorem dX0_instance_1 : decode cX0_instance 1 = .ok (.iload_n 1, 1) := dk_27 (dk_at dksX0_instance_0 1 rfl rfl)
theorem dX0_instance_2 : decode cX0_instance 2 = .ok (.invokevirtual 416, 3) := dk_182 1 160 (dk_at dksX0_instance_0 2 rfl rfl)
theorem dX0_instance_5 : decode cX0_instance 5 = .ok (.ifCond .eq 17, 3) := dk_153 0 17 (dk_at dksX0_instance_0 5 rfl rfl)
theorem dX0_instance_8 : decode cX0_instance 8 = .ok (.aload_n 0, 1) := dk_42 (dk_at dksX0_instance_0 8 rfl rfl)
theorem dX0_instance_9 : decode cX0_instance 9 = .ok (.aload_n 0, 1) := dk_42 (dk_at dksX0_instance_0 9 rfl rfl)
theorem dX0_instance_10 : decode cX0_instance 10 = .ok (.getfield 114, 3) := dk_180 0 114 (dk_at dksX0_instance_0 10 rfl rfl)
theorem dX0_instance_13 : decode cX0_instance 13 = .ok (.iload_n 1, 1) := dk_27 (dk_at dksX0_instance_0 13 rfl rfl)
theorem dX0_instance_14 : decode cX0_instance 14 = .ok (.aaload, 1) := dk_50 (dk_at dksX0_instance_0 14 rfl rfl)
theorem dX0_instance_15 : decode cX0_instance 15 = .ok (.iload_n 2, 1) := dk_28 (dk_at dksX0_instance_0 15 rfl rfl)
theorem dX0_instance_16 : decode cX0_instance 16 = .ok (.invokevirtual 419, 3) := dk_182 1 163 (dk_at dksX0_instance_0 16 rfl rfl)
theorem dX0_instance_19 : decode cX0_instance 19 = .ok (.goto 5, 3) := dk_167 0 5 (dk_at dksX0_instance_0 19 rfl rfl)
theorem dX0_instance_22 : decode cX0_instance 22 = .ok (.bipush (-101), 2) := dk_16 155 (dk_at dksX0_instance_0 22 rfl rfl)
theorem dX0_instance_24 : decode cX0_instance 24 = .ok (.ireturn, 1) := dk_172 (dk_at dksX0_instance_1 0 rfl rfl)
abbrev cX0_isInstance : ByteArray := prog_1_method_31_code
def yX0_isInstance : MethodName := ⟨RX0, "isInstance", "(I)Z"⟩
def dkwX0_isInstance_0 : List UInt8 := [27, 133, 9, 42, 180, 1, 12, 4, 100, 133, 184, 0, 170, 172]
abbrev dktX0_isInstance_0 : List UInt8 := dkwX0_isInstance_0 ++ []
theorem dksX0_isInstance_0 : cX0_isInstance.data.toList.drop 0 = dktX0_isInstance_0 := by decide +kernel
theorem dX0_isInstance_0 : decode cX0_isInstance 0 = .ok (.iload_n 1, 1) := dk_27 (dk_at dksX0_isInstance_0 0 rfl rfl)
theorem dX0_isInstance_1 : decode cX0_isInstance 1 = .ok (.i2l, 1) := dk_133 (dk_at dksX0_isInstance_0 1 rfl rfl)
theorem dX0_isInstance_2 : decode cX0_isInstance 2 = .ok (.lconst 0, 1) := dk_9 (dk_at dksX0_isInstance_0 2 rfl rfl)
theorem dX0_isInstance_3 : decode cX0_isInstance 3 = .ok (.aload_n 0, 1) := dk_42 (dk_at dksX0_isInstance_0 3 rfl rfl)
theorem dX0_isInstance_4 : decode cX0_isInstance 4 = .ok (.getfield 268, 3) := dk_180 1 12 (dk_at dksX0_isInstance_0 4 rfl rfl)
theorem dX0_isInstance_7 : decode cX0_isInstance 7 = .ok (.iconst 1, 1) := dk_4 (dk_at dksX0_isInstance_0 7 rfl rfl)
theorem dX0_isInstance_8 : decode cX0_isInstance 8 = .ok (.isub, 1) := dk_100 (dk_at dksX0_isInstance_0 8 rfl rfl)
theorem dX0_isInstance_9 : decode cX0_isInstance 9 = .ok (.i2l, 1) := dk_133 (dk_at dksX0_isInstance_0 9 rfl rfl)
theorem dX0_isInstance_10 : decode cX0_isInstance 10 = .ok (.invokestatic 170, 3) := dk_184 0 170 (dk_at dksX0_isInstance_0 10 rfl rfl)
theorem dX0_isInstance_13 : decode cX0_isInstance 13 = .ok (.ireturn, 1) := dk_172 (dk_at dksX0_isInstance_0 13 rfl rfl)
abbrev cX0_tellInstance : ByteArray := prog_1_method_51_code
def yX0_tellInstance : MethodName := ⟨RX0, "tellInstance", "(LDictProof$Instance;I)I"⟩
def dkwX0_tellInstance_4 : List UInt8 := [180, 0, 245, 182, 1, 154, 172, 42, 43, 182, 1, 157, 172, 16, 154, 172]
abbrev dktX0_tellInstance_4 : List UInt8 := dkwX0_tellInstance_4 ++ []
def dkwX0_tellInstance_3 : List UInt8 := [182, 1, 44, 153, 0, 7, 4, 167, 0, 4, 3, 172, 42, 43, 180, 0, 245, 182, 1, 151, 172, 42, 43]
abbrev dktX0_tellInstance_3 : List UInt8 := dkwX0_tellInstance_3 ++ dktX0_tellInstance_4
def dkwX0_tellInstance_2 : List UInt8 := [43, 182, 1, 148, 172, 43, 180, 0, 248, 172, 43, 180, 0, 251, 182, 1, 34, 172, 43, 180, 0, 254, 172, 43]
abbrev dktX0_tellInstance_2 : List UInt8 := dkwX0_tellInstance_2 ++ dktX0_tellInstance_3
def dkwX0_tellInstance_1 : List UInt8 := [170, 0, 0, 0, 0, 0, 107, 0, 0, 0, 0, 0, 0, 0, 7, 0, 0, 0, 47, 0, 0, 0, 52, 0, 0, 0, 57, 0, 0, 0, 65, 0, 0, 0, 70, 0, 0, 0, 83, 0, 0, 0, 92, 0, 0, 0, 101]
abbrev dktX0_tellInstance_1 : List UInt8 := dkwX0_tellInstance_1 ++ dktX0_tellInstance_2
def dkwX0_tellInstance_0 : List UInt8 := [28]
abbrev dktX0_tellInstance_0 : List UInt8 := dkwX0_tellInstance_0 ++ dktX0_tellInstance_1
theorem dksX0_tellInstance_0 : cX0_tellInstance.data.toList.drop 0 = dktX0_tellInstance_0 := by decide +kernel
theorem dksX0_tellInstance_1 : cX0_tellInstance.data.toList.drop 1 = dktX0_tellInstance_1 := dk_seg dksX0_tellInstance_0 1 rfl rfl
theorem dksX0_tellInstance_2 : cX0_tellInstance.data.toList.drop 48 = dktX0_tellInstance_2 := dk_seg dksX0_tellInstance_1 47 rfl rfl
theorem dksX0_tellInstance_3 : cX0_tellInstance.data.toList.drop 72 = dktX0_tellInstance_3 := dk_seg dksX0_tellInstance_2 24 rfl rfl
theorem dksX0_tellInstance_4 : cX0_tellInstance.data.toList.drop 95 = dktX0_tellInstance_4 := dk_seg dksX0_tellInstance_3 23 rfl rfl
theorem dX0_tellInstance_0 : decode cX0_tellInstance 0 = .ok (.iload_n 2, 1) := dk_28 (dk_at dksX0_tellInstance_0 0 rfl rfl)
theorem dX0_tellInstance_1 : decode cX0_tellInstance 1 = .ok (.tableswitch 107 0 7 #[47, 52, 57, 65, 70, 83, 92, 101], 47) := by decide +kernel
theorem dX0_tellInstance_48 : decode cX0_tellInstance 48 = .ok (.aload_n 1, 1) := dk_43 (dk_at dksX0_tellInstance_2 0 rfl rfl)
theorem dX0_tellInstance_49 : decode cX0_tellInstance 49 = .ok (.invokevirtual 404, 3) := dk_182 1 148 (dk_at dksX0_tellInstance_2 1 rfl rfl)
theorem dX0_tellInstance_52 : decode cX0_tellInstance 52 = .ok (.ireturn, 1) := dk_172 (dk_at dksX0_tellInstance_2 4 rfl rfl)
theorem dX0_tellInstance_53 : decode cX0_tellInstance 53 = .ok (.aload_n 1, 1) := dk_43 (dk_at dksX0_tellInstance_2 5 rfl rfl)
theorem dX0_tellInstance_54 : decode cX0_tellInstance 54 = .ok (.getfield 248, 3) := dk_180 0 248 (dk_at dksX0_tellInstance_2 6 rfl rfl)
theorem dX0_tellInstance_57 : decode cX0_tellInstance 57 = .ok (.ireturn, 1) := dk_172 (dk_at dksX0_tellInstance_2 9 rfl rfl)
theorem dX0_tellInstance_58 : decode cX0_tellInstance 58 = .ok (.aload_n 1, 1) := dk_43 (dk_at dksX0_tellInstance_2 10 rfl rfl)
theorem dX0_tellInstance_59 : decode cX0_tellInstance 59 = .ok (.getfield 251, 3) := dk_180 0 251 (dk_at dksX0_tellInstance_2 11 rfl rfl)
theorem dX0_tellInstance_62 : decode cX0_tellInstance 62 = .ok (.invokevirtual 290, 3) := dk_182 1 34 (dk_at dksX0_tellInstance_2 14 rfl rfl)
theorem dX0_tellInstance_65 : decode cX0_tellInstance 65 = .ok (.ireturn, 1) := dk_172 (dk_at dksX0_tellInstance_2 17 rfl rfl)
theorem dX0_tellInstance_66 : decode cX0_tellInstance 66 = .ok (.aload_n 1, 1) := dk_43 (dk_at dksX0_tellInstance_2 18 rfl rfl)
theorem dX0_tellInstance_67 : decode cX0_tellInstance 67 = .ok (.getfield 254, 3) := dk_180 0 254 (dk_at dksX0_tellInstance_2 19 rfl rfl)
theorem dX0_tellInstance_70 : decode cX0_tellInstance 70 = .ok (.ireturn, 1) := dk_172 (dk_at dksX0_tellInstance_2 22 rfl rfl)
theorem dX0_tellInstance_71 : decode cX0_tellInstance 71 = .ok (.aload_n 1, 1) := dk_43 (dk_at dksX0_tellInstance_2 23 rfl rfl)
theorem dX0_tellInstance_72 : decode cX0_tellInstance 72 = .ok (.invokevirtual 300, 3) := dk_182 1 44 (dk_at dksX0_tellInstance_3 0 rfl rfl)
theorem dX0_tellInstance_75 : decode cX0_tellInstance 75 = .ok (.ifCond .eq 7, 3) := dk_153 0 7 (dk_at dksX0_tellInstance_3 3 rfl rfl)
theorem dX0_tellInstance_78 : decode cX0_tellInstance 78 = .ok (.iconst 1, 1) := dk_4 (dk_at dksX0_tellInstance_3 6 rfl rfl)
theorem dX0_tellInstance_79 : decode cX0_tellInstance 79 = .ok (.goto 4, 3) := dk_167 0 4 (dk_at dksX0_tellInstance_3 7 rfl rfl)
theorem dX0_tellInstance_82 : decode cX0_tellInstance 82 = .ok (.iconst 0, 1) := dk_3 (dk_at dksX0_tellInstance_3 10 rfl rfl)
theorem dX0_tellInstance_83 : decode cX0_tellInstance 83 = .ok (.ireturn, 1) := dk_172 (dk_at dksX0_tellInstance_3 11 rfl rfl)
theorem dX0_tellInstance_84 : decode cX0_tellInstance 84 = .ok (.aload_n 0, 1) := dk_42 (dk_at dksX0_tellInstance_3 12 rfl rfl)
theorem dX0_tellInstance_85 : decode cX0_tellInstance 85 = .ok (.aload_n 1, 1) := dk_43 (dk_at dksX0_tellInstance_3 13 rfl rfl)
theorem dX0_tellInstance_86 : decode cX0_tellInstance 86 = .ok (.getfield 245, 3) := dk_180 0 245 (dk_at dksX0_tellInstance_3 14 rfl rfl)
theorem dX0_tellInstance_89 : decode cX0_tellInstance 89 = .ok (.invokevirtual 407, 3) := dk_182 1 151 (dk_at dksX0_tellInstance_3 17 rfl rfl)
theorem dX0_tellInstance_92 : decode cX0_tellInstance 92 = .ok (.ireturn, 1) := dk_172 (dk_at dksX0_tellInstance_3 20 rfl rfl)
theorem dX0_tellInstance_93 : decode cX0_tellInstance 93 = .ok (.aload_n 0, 1) := dk_42 (dk_at dksX0_tellInstance_3 21 rfl rfl)
theorem dX0_tellInstance_94 : decode cX0_tellInstance 94 = .ok (.aload_n 1, 1) := dk_43 (dk_at dksX0_tellInstance_3 22 rfl rfl)
theorem dX0_tellInstance_95 : decode cX0_tellInstance 95 = .ok (.getfield 245, 3) := dk_180 0 245 (dk_at dksX0_tellInstance_4 0 rfl rfl)
theorem dX0_tellInstance_98 : decode cX0_tellInstance 98 = .ok (.invokevirtual 410, 3) := dk_182 1 154 (dk_at dksX0_tellInstance_4 3 rfl rfl)
theorem dX0_tellInstance_101 : decode cX0_tellInstance 101 = .ok (.ireturn, 1) := dk_172 (dk_at dksX0_tellInstance_4 6 rfl rfl)
theorem dX0_tellInstance_102 : decode cX0_tellInstance 102 = .ok (.aload_n 0, 1) := dk_42 (dk_at dksX0_tellInstance_4 7 rfl rfl)
theorem dX0_tellInstance_103 : decode cX0_tellInstance 103 = .ok (.aload_n 1, 1) := dk_43 (dk_at dksX0_tellInstance_4 8 rfl rfl)
theorem dX0_tellInstance_104 : decode cX0_tellInstance 104 = .ok (.invokevirtual 413, 3) := dk_182 1 157 (dk_at dksX0_tellInstance_4 9 rfl rfl)
theorem dX0_tellInstance_107 : decode cX0_tellInstance 107 = .ok (.ireturn, 1) := dk_172 (dk_at dksX0_tellInstance_4 12 rfl rfl)
theorem dX0_tellInstance_108 : decode cX0_tellInstance 108 = .ok (.bipush (-102), 2) := dk_16 154 (dk_at dksX0_tellInstance_4 13 rfl rfl)
theorem dX0_tellInstance_110 : decode cX0_tellInstance 110 = .ok (.ireturn, 1) := dk_172 (dk_at dksX0_tellInstance_4 15 rfl rfl)
abbrev cX0_sortsOf : ByteArray := prog_1_method_68_code
def yX0_sortsOf : MethodName := ⟨RX0, "sortsOf", "(I)I"⟩
def dkwX0_sortsOf_2 : List UInt8 := [153, 0, 8, 21, 4, 167, 0, 7, 21, 4, 2, 130, 126, 61, 132, 3, 1, 167, 255, 198, 28, 172]
abbrev dktX0_sortsOf_2 : List UInt8 := dkwX0_sortsOf_2 ++ []
def dkwX0_sortsOf_1 : List UInt8 := [54, 4, 28, 42, 180, 0, 139, 29, 46, 27, 159, 0, 7, 28, 167, 0, 21, 42, 180, 0, 145, 29, 51]
abbrev dktX0_sortsOf_1 : List UInt8 := dkwX0_sortsOf_1 ++ dktX0_sortsOf_2
def dkwX0_sortsOf_0 : List UInt8 := [16, 31, 61, 3, 62, 29, 42, 180, 1, 20, 162, 0, 56, 42, 42, 180, 0, 142, 29, 46, 182, 1, 208]
abbrev dktX0_sortsOf_0 : List UInt8 := dkwX0_sortsOf_0 ++ dktX0_sortsOf_1
theorem dksX0_sortsOf_0 : cX0_sortsOf.data.toList.drop 0 = dktX0_sortsOf_0 := by decide +kernel
theorem dksX0_sortsOf_1 : cX0_sortsOf.data.toList.drop 23 = dktX0_sortsOf_1 := dk_seg dksX0_sortsOf_0 23 rfl rfl
theorem dksX0_sortsOf_2 : cX0_sortsOf.data.toList.drop 46 = dktX0_sortsOf_2 := dk_seg dksX0_sortsOf_1 23 rfl rfl
theorem dX0_sortsOf_0 : decode cX0_sortsOf 0 = .ok (.bipush 31, 2) := dk_16 31 (dk_at dksX0_sortsOf_0 0 rfl rfl)
theorem dX0_sortsOf_2 : decode cX0_sortsOf 2 = .ok (.istore_n 2, 1) := dk_61 (dk_at dksX0_sortsOf_0 2 rfl rfl)
theorem dX0_sortsOf_3 : decode cX0_sortsOf 3 = .ok (.iconst 0, 1) := dk_3 (dk_at dksX0_sortsOf_0 3 rfl rfl)
theorem dX0_sortsOf_4 : decode cX0_sortsOf 4 = .ok (.istore_n 3, 1) := dk_62 (dk_at dksX0_sortsOf_0 4 rfl rfl)
theorem dX0_sortsOf_5 : decode cX0_sortsOf 5 = .ok (.iload_n 3, 1) := dk_29 (dk_at dksX0_sortsOf_0 5 rfl rfl)
theorem dX0_sortsOf_6 : decode cX0_sortsOf 6 = .ok (.aload_n 0, 1) := dk_42 (dk_at dksX0_sortsOf_0 6 rfl rfl)
theorem dX0_sortsOf_7 : decode cX0_sortsOf 7 = .ok (.getfield 276, 3) := dk_180 1 20 (dk_at dksX0_sortsOf_0 7 rfl rfl)
theorem dX0_sortsOf_10 : decode cX0_sortsOf 10 = .ok (.if_icmp .ge 56, 3) := dk_162 0 56 (dk_at dksX0_sortsOf_0 10 rfl rfl)
theorem dX0_sortsOf_13 : decode cX0_sortsOf 13 = .ok (.aload_n 0, 1) := dk_42 (dk_at dksX0_sortsOf_0 13 rfl rfl)
theorem dX0_sortsOf_14 : decode cX0_sortsOf 14 = .ok (.aload_n 0, 1) := dk_42 (dk_at dksX0_sortsOf_0 14 rfl rfl)
theorem dX0_sortsOf_15 : decode cX0_sortsOf 15 = .ok (.getfield 142, 3) := dk_180 0 142 (dk_at dksX0_sortsOf_0 15 rfl rfl)
theorem dX0_sortsOf_18 : decode cX0_sortsOf 18 = .ok (.iload_n 3, 1) := dk_29 (dk_at dksX0_sortsOf_0 18 rfl rfl)
theorem dX0_sortsOf_19 : decode cX0_sortsOf 19 = .ok (.iaload, 1) := dk_46 (dk_at dksX0_sortsOf_0 19 rfl rfl)
theorem dX0_sortsOf_20 : decode cX0_sortsOf 20 = .ok (.invokevirtual 464, 3) := dk_182 1 208 (dk_at dksX0_sortsOf_0 20 rfl rfl)
theorem dX0_sortsOf_23 : decode cX0_sortsOf 23 = .ok (.istore 4, 2) := dk_54 4 (dk_at dksX0_sortsOf_1 0 rfl rfl)
theorem dX0_sortsOf_25 : decode cX0_sortsOf 25 = .ok (.iload_n 2, 1) := dk_28 (dk_at dksX0_sortsOf_1 2 rfl rfl)
theorem dX0_sortsOf_26 : decode cX0_sortsOf 26 = .ok (.aload_n 0, 1) := dk_42 (dk_at dksX0_sortsOf_1 3 rfl rfl)
theorem dX0_sortsOf_27 : decode cX0_sortsOf 27 = .ok (.getfield 139, 3) := dk_180 0 139 (dk_at dksX0_sortsOf_1 4 rfl rfl)
theorem dX0_sortsOf_30 : decode cX0_sortsOf 30 = .ok (.iload_n 3, 1) := dk_29 (dk_at dksX0_sortsOf_1 7 rfl rfl)
theorem dX0_sortsOf_31 : decode cX0_sortsOf 31 = .ok (.iaload, 1) := dk_46 (dk_at dksX0_sortsOf_1 8 rfl rfl)
theorem dX0_sortsOf_32 : decode cX0_sortsOf 32 = .ok (.iload_n 1, 1) := dk_27 (dk_at dksX0_sortsOf_1 9 rfl rfl)
theorem dX0_sortsOf_33 : decode cX0_sortsOf 33 = .ok (.if_icmp .eq 7, 3) := dk_159 0 7 (dk_at dksX0_sortsOf_1 10 rfl rfl)
theorem dX0_sortsOf_36 : decode cX0_sortsOf 36 = .ok (.iload_n 2, 1) := dk_28 (dk_at dksX0_sortsOf_1 13 rfl rfl)
theorem dX0_sortsOf_37 : decode cX0_sortsOf 37 = .ok (.goto 21, 3) := dk_167 0 21 (dk_at dksX0_sortsOf_1 14 rfl rfl)
theorem dX0_sortsOf_40 : decode cX0_sortsOf 40 = .ok (.aload_n 0, 1) := dk_42 (dk_at dksX0_sortsOf_1 17 rfl rfl)
theorem dX0_sortsOf_41 : decode cX0_sortsOf 41 = .ok (.getfield 145, 3) := dk_180 0 145 (dk_at dksX0_sortsOf_1 18 rfl rfl)
theorem dX0_sortsOf_44 : decode cX0_sortsOf 44 = .ok (.iload_n 3, 1) := dk_29 (dk_at dksX0_sortsOf_1 21 rfl rfl)
theorem dX0_sortsOf_45 : decode cX0_sortsOf 45 = .ok (.baload, 1) := dk_51 (dk_at dksX0_sortsOf_1 22 rfl rfl)
theorem dX0_sortsOf_46 : decode cX0_sortsOf 46 = .ok (.ifCond .eq 8, 3) := dk_153 0 8 (dk_at dksX0_sortsOf_2 0 rfl rfl)
theorem dX0_sortsOf_49 : decode cX0_sortsOf 49 = .ok (.iload 4, 2) := dk_21 4 (dk_at dksX0_sortsOf_2 3 rfl rfl)
theorem dX0_sortsOf_51 : decode cX0_sortsOf 51 = .ok (.goto 7, 3) := dk_167 0 7 (dk_at dksX0_sortsOf_2 5 rfl rfl)
theorem dX0_sortsOf_54 : decode cX0_sortsOf 54 = .ok (.iload 4, 2) := dk_21 4 (dk_at dksX0_sortsOf_2 8 rfl rfl)
theorem dX0_sortsOf_56 : decode cX0_sortsOf 56 = .ok (.iconst (-1), 1) := dk_2 (dk_at dksX0_sortsOf_2 10 rfl rfl)
theorem dX0_sortsOf_57 : decode cX0_sortsOf 57 = .ok (.ixor, 1) := dk_130 (dk_at dksX0_sortsOf_2 11 rfl rfl)
theorem dX0_sortsOf_58 : decode cX0_sortsOf 58 = .ok (.iand, 1) := dk_126 (dk_at dksX0_sortsOf_2 12 rfl rfl)
theorem dX0_sortsOf_59 : decode cX0_sortsOf 59 = .ok (.istore_n 2, 1) := dk_61 (dk_at dksX0_sortsOf_2 13 rfl rfl)
theorem dX0_sortsOf_60 : decode cX0_sortsOf 60 = .ok (.iinc 3 1, 3) := dk_132 3 1 (dk_at dksX0_sortsOf_2 14 rfl rfl)
theorem dX0_sortsOf_63 : decode cX0_sortsOf 63 = .ok (.goto (-58), 3) := dk_167 255 198 (dk_at dksX0_sortsOf_2 17 rfl rfl)
theorem dX0_sortsOf_66 : decode cX0_sortsOf 66 = .ok (.iload_n 2, 1) := dk_28 (dk_at dksX0_sortsOf_2 20 rfl rfl)
theorem dX0_sortsOf_67 : decode cX0_sortsOf 67 = .ok (.ireturn, 1) := dk_172 (dk_at dksX0_sortsOf_2 21 rfl rfl)
abbrev cX0_sortsBy : ByteArray := prog_1_method_67_code
def yX0_sortsBy : MethodName := ⟨RX0, "sortsBy", "(I)I"⟩
def dkwX0_sortsBy_1 : List UInt8 := [4, 29, 120, 167, 0, 4, 3, 128, 61, 132, 3, 1, 167, 255, 224, 28, 172]
abbrev dktX0_sortsBy_1 : List UInt8 := dkwX0_sortsBy_1 ++ []
def dkwX0_sortsBy_0 : List UInt8 := [3, 61, 3, 62, 29, 8, 162, 0, 33, 28, 42, 42, 180, 0, 103, 29, 50, 27, 182, 1, 204, 153, 0, 9]
abbrev dktX0_sortsBy_0 : List UInt8 := dkwX0_sortsBy_0 ++ dktX0_sortsBy_1
theorem dksX0_sortsBy_0 : cX0_sortsBy.data.toList.drop 0 = dktX0_sortsBy_0 := by decide +kernel
theorem dksX0_sortsBy_1 : cX0_sortsBy.data.toList.drop 24 = dktX0_sortsBy_1 := dk_seg dksX0_sortsBy_0 24 rfl rfl
theorem dX0_sortsBy_0 : decode cX0_sortsBy 0 = .ok (.iconst 0, 1) := dk_3 (dk_at dksX0_sortsBy_0 0 rfl rfl)
theorem dX0_sortsBy_1 : decode cX0_sortsBy 1 = .ok (.istore_n 2, 1) := dk_61 (dk_at dksX0_sortsBy_0 1 rfl rfl)
theorem dX0_sortsBy_2 : decode cX0_sortsBy 2 = .ok (.iconst 0, 1) := dk_3 (dk_at dksX0_sortsBy_0 2 rfl rfl)
theorem dX0_sortsBy_3 : decode cX0_sortsBy 3 = .ok (.istore_n 3, 1) := dk_62 (dk_at dksX0_sortsBy_0 3 rfl rfl)
theorem dX0_sortsBy_4 : decode cX0_sortsBy 4 = .ok (.iload_n 3, 1) := dk_29 (dk_at dksX0_sortsBy_0 4 rfl rfl)
theorem dX0_sortsBy_5 : decode cX0_sortsBy 5 = .ok (.iconst 5, 1) := dk_8 (dk_at dksX0_sortsBy_0 5 rfl rfl)
theorem dX0_sortsBy_6 : decode cX0_sortsBy 6 = .ok (.if_icmp .ge 33, 3) := dk_162 0 33 (dk_at dksX0_sortsBy_0 6 rfl rfl)
theorem dX0_sortsBy_9 : decode cX0_sortsBy 9 = .ok (.iload_n 2, 1) := dk_28 (dk_at dksX0_sortsBy_0 9 rfl rfl)
theorem dX0_sortsBy_10 : decode cX0_sortsBy 10 = .ok (.aload_n 0, 1) := dk_42 (dk_at dksX0_sortsBy_0 10 rfl rfl)
theorem dX0_sortsBy_11 : decode cX0_sortsBy 11 = .ok (.aload_n 0, 1) := dk_42 (dk_at dksX0_sortsBy_0 11 rfl rfl)
theorem dX0_sortsBy_12 : decode cX0_sortsBy 12 = .ok (.getfield 103, 3) := dk_180 0 103 (dk_at dksX0_sortsBy_0 12 rfl rfl)
theorem dX0_sortsBy_15 : decode cX0_sortsBy 15 = .ok (.iload_n 3, 1) := dk_29 (dk_at dksX0_sortsBy_0 15 rfl rfl)
theorem dX0_sortsBy_16 : decode cX0_sortsBy 16 = .ok (.aaload, 1) := dk_50 (dk_at dksX0_sortsBy_0 16 rfl rfl)
theorem dX0_sortsBy_17 : decode cX0_sortsBy 17 = .ok (.iload_n 1, 1) := dk_27 (dk_at dksX0_sortsBy_0 17 rfl rfl)
theorem dX0_sortsBy_18 : decode cX0_sortsBy 18 = .ok (.invokevirtual 460, 3) := dk_182 1 204 (dk_at dksX0_sortsBy_0 18 rfl rfl)
theorem dX0_sortsBy_21 : decode cX0_sortsBy 21 = .ok (.ifCond .eq 9, 3) := dk_153 0 9 (dk_at dksX0_sortsBy_0 21 rfl rfl)
theorem dX0_sortsBy_24 : decode cX0_sortsBy 24 = .ok (.iconst 1, 1) := dk_4 (dk_at dksX0_sortsBy_1 0 rfl rfl)
theorem dX0_sortsBy_25 : decode cX0_sortsBy 25 = .ok (.iload_n 3, 1) := dk_29 (dk_at dksX0_sortsBy_1 1 rfl rfl)
theorem dX0_sortsBy_26 : decode cX0_sortsBy 26 = .ok (.ishl, 1) := dk_120 (dk_at dksX0_sortsBy_1 2 rfl rfl)
theorem dX0_sortsBy_27 : decode cX0_sortsBy 27 = .ok (.goto 4, 3) := dk_167 0 4 (dk_at dksX0_sortsBy_1 3 rfl rfl)
theorem dX0_sortsBy_30 : decode cX0_sortsBy 30 = .ok (.iconst 0, 1) := dk_3 (dk_at dksX0_sortsBy_1 6 rfl rfl)
theorem dX0_sortsBy_31 : decode cX0_sortsBy 31 = .ok (.ior, 1) := dk_128 (dk_at dksX0_sortsBy_1 7 rfl rfl)
theorem dX0_sortsBy_32 : decode cX0_sortsBy 32 = .ok (.istore_n 2, 1) := dk_61 (dk_at dksX0_sortsBy_1 8 rfl rfl)
theorem dX0_sortsBy_33 : decode cX0_sortsBy 33 = .ok (.iinc 3 1, 3) := dk_132 3 1 (dk_at dksX0_sortsBy_1 9 rfl rfl)
theorem dX0_sortsBy_36 : decode cX0_sortsBy 36 = .ok (.goto (-32), 3) := dk_167 255 224 (dk_at dksX0_sortsBy_1 12 rfl rfl)
theorem dX0_sortsBy_39 : decode cX0_sortsBy 39 = .ok (.iload_n 2, 1) := dk_28 (dk_at dksX0_sortsBy_1 15 rfl rfl)
theorem dX0_sortsBy_40 : decode cX0_sortsBy 40 = .ok (.ireturn, 1) := dk_172 (dk_at dksX0_sortsBy_1 16 rfl rfl)
abbrev cX0_isSo : ByteArray := prog_1_method_66_code
def yX0_isSo : MethodName := ⟨RX0, "isSo", "(LDictProof$Instance;I)Z"⟩
def dkwX0_isSo_4 : List UInt8 := [167, 0, 4, 3, 172]
abbrev dktX0_isSo_4 : List UInt8 := dkwX0_isSo_4 ++ []
def dkwX0_isSo_3 : List UInt8 := [182, 1, 201, 4, 160, 0, 7, 4, 167, 0, 4, 3, 172, 43, 4, 182, 1, 201, 5, 160, 0, 7, 4]
abbrev dktX0_isSo_3 : List UInt8 := dkwX0_isSo_3 ++ dktX0_isSo_4
def dkwX0_isSo_2 : List UInt8 := [43, 4, 182, 1, 201, 4, 160, 0, 7, 4, 167, 0, 4, 3, 172, 43, 182, 1, 40, 172, 43, 5]
abbrev dktX0_isSo_2 : List UInt8 := dkwX0_isSo_2 ++ dktX0_isSo_3
def dkwX0_isSo_1 : List UInt8 := [170, 0, 0, 0, 0, 0, 62, 0, 0, 0, 0, 0, 0, 0, 2, 0, 0, 0, 27, 0, 0, 0, 42, 0, 0, 0, 47]
abbrev dktX0_isSo_1 : List UInt8 := dkwX0_isSo_1 ++ dktX0_isSo_2
def dkwX0_isSo_0 : List UInt8 := [28]
abbrev dktX0_isSo_0 : List UInt8 := dkwX0_isSo_0 ++ dktX0_isSo_1
theorem dksX0_isSo_0 : cX0_isSo.data.toList.drop 0 = dktX0_isSo_0 := by decide +kernel
theorem dksX0_isSo_1 : cX0_isSo.data.toList.drop 1 = dktX0_isSo_1 := dk_seg dksX0_isSo_0 1 rfl rfl
theorem dksX0_isSo_2 : cX0_isSo.data.toList.drop 28 = dktX0_isSo_2 := dk_seg dksX0_isSo_1 27 rfl rfl
theorem dksX0_isSo_3 : cX0_isSo.data.toList.drop 50 = dktX0_isSo_3 := dk_seg dksX0_isSo_2 22 rfl rfl
theorem dksX0_isSo_4 : cX0_isSo.data.toList.drop 73 = dktX0_isSo_4 := dk_seg dksX0_isSo_3 23 rfl rfl
theorem dX0_isSo_0 : decode cX0_isSo 0 = .ok (.iload_n 2, 1) := dk_28 (dk_at dksX0_isSo_0 0 rfl rfl)
theorem dX0_isSo_1 : decode cX0_isSo 1 = .ok (.tableswitch 62 0 2 #[27, 42, 47], 27) := by decide +kernel
theorem dX0_isSo_28 : decode cX0_isSo 28 = .ok (.aload_n 1, 1) := dk_43 (dk_at dksX0_isSo_2 0 rfl rfl)
theorem dX0_isSo_29 : decode cX0_isSo 29 = .ok (.iconst 1, 1) := dk_4 (dk_at dksX0_isSo_2 1 rfl rfl)
theorem dX0_isSo_30 : decode cX0_isSo 30 = .ok (.invokevirtual 457, 3) := dk_182 1 201 (dk_at dksX0_isSo_2 2 rfl rfl)
theorem dX0_isSo_33 : decode cX0_isSo 33 = .ok (.iconst 1, 1) := dk_4 (dk_at dksX0_isSo_2 5 rfl rfl)
theorem dX0_isSo_34 : decode cX0_isSo 34 = .ok (.if_icmp .ne 7, 3) := dk_160 0 7 (dk_at dksX0_isSo_2 6 rfl rfl)
theorem dX0_isSo_37 : decode cX0_isSo 37 = .ok (.iconst 1, 1) := dk_4 (dk_at dksX0_isSo_2 9 rfl rfl)
theorem dX0_isSo_38 : decode cX0_isSo 38 = .ok (.goto 4, 3) := dk_167 0 4 (dk_at dksX0_isSo_2 10 rfl rfl)
theorem dX0_isSo_41 : decode cX0_isSo 41 = .ok (.iconst 0, 1) := dk_3 (dk_at dksX0_isSo_2 13 rfl rfl)
theorem dX0_isSo_42 : decode cX0_isSo 42 = .ok (.ireturn, 1) := dk_172 (dk_at dksX0_isSo_2 14 rfl rfl)
theorem dX0_isSo_43 : decode cX0_isSo 43 = .ok (.aload_n 1, 1) := dk_43 (dk_at dksX0_isSo_2 15 rfl rfl)
theorem dX0_isSo_44 : decode cX0_isSo 44 = .ok (.invokevirtual 296, 3) := dk_182 1 40 (dk_at dksX0_isSo_2 16 rfl rfl)
theorem dX0_isSo_47 : decode cX0_isSo 47 = .ok (.ireturn, 1) := dk_172 (dk_at dksX0_isSo_2 19 rfl rfl)
theorem dX0_isSo_48 : decode cX0_isSo 48 = .ok (.aload_n 1, 1) := dk_43 (dk_at dksX0_isSo_2 20 rfl rfl)
theorem dX0_isSo_49 : decode cX0_isSo 49 = .ok (.iconst 2, 1) := dk_5 (dk_at dksX0_isSo_2 21 rfl rfl)
theorem dX0_isSo_50 : decode cX0_isSo 50 = .ok (.invokevirtual 457, 3) := dk_182 1 201 (dk_at dksX0_isSo_3 0 rfl rfl)
theorem dX0_isSo_53 : decode cX0_isSo 53 = .ok (.iconst 1, 1) := dk_4 (dk_at dksX0_isSo_3 3 rfl rfl)
theorem dX0_isSo_54 : decode cX0_isSo 54 = .ok (.if_icmp .ne 7, 3) := dk_160 0 7 (dk_at dksX0_isSo_3 4 rfl rfl)
theorem dX0_isSo_57 : decode cX0_isSo 57 = .ok (.iconst 1, 1) := dk_4 (dk_at dksX0_isSo_3 7 rfl rfl)
theorem dX0_isSo_58 : decode cX0_isSo 58 = .ok (.goto 4, 3) := dk_167 0 4 (dk_at dksX0_isSo_3 8 rfl rfl)
theorem dX0_isSo_61 : decode cX0_isSo 61 = .ok (.iconst 0, 1) := dk_3 (dk_at dksX0_isSo_3 11 rfl rfl)
theorem dX0_isSo_62 : decode cX0_isSo 62 = .ok (.ireturn, 1) := dk_172 (dk_at dksX0_isSo_3 12 rfl rfl)
theorem dX0_isSo_63 : decode cX0_isSo 63 = .ok (.aload_n 1, 1) := dk_43 (dk_at dksX0_isSo_3 13 rfl rfl)
theorem dX0_isSo_64 : decode cX0_isSo 64 = .ok (.iconst 1, 1) := dk_4 (dk_at dksX0_isSo_3 14 rfl rfl)
theorem dX0_isSo_65 : decode cX0_isSo 65 = .ok (.invokevirtual 457, 3) := dk_182 1 201 (dk_at dksX0_isSo_3 15 rfl rfl)
theorem dX0_isSo_68 : decode cX0_isSo 68 = .ok (.iconst 2, 1) := dk_5 (dk_at dksX0_isSo_3 18 rfl rfl)
theorem dX0_isSo_69 : decode cX0_isSo 69 = .ok (.if_icmp .ne 7, 3) := dk_160 0 7 (dk_at dksX0_isSo_3 19 rfl rfl)
theorem dX0_isSo_72 : decode cX0_isSo 72 = .ok (.iconst 1, 1) := dk_4 (dk_at dksX0_isSo_3 22 rfl rfl)
theorem dX0_isSo_73 : decode cX0_isSo 73 = .ok (.goto 4, 3) := dk_167 0 4 (dk_at dksX0_isSo_4 0 rfl rfl)
theorem dX0_isSo_76 : decode cX0_isSo 76 = .ok (.iconst 0, 1) := dk_3 (dk_at dksX0_isSo_4 3 rfl rfl)
theorem dX0_isSo_77 : decode cX0_isSo 77 = .ok (.ireturn, 1) := dk_172 (dk_at dksX0_isSo_4 4 rfl rfl)
abbrev cX0_toAsk : ByteArray := prog_1_method_69_code
def yX0_toAsk : MethodName := ⟨RX0, "toAsk", "(I)I"⟩
def dkwX0_toAsk_3 : List UInt8 := [21, 5, 21, 8, 184, 1, 217, 54, 5, 132, 6, 1, 167, 255, 194, 21, 4, 172]
abbrev dktX0_toAsk_3 : List UInt8 := dkwX0_toAsk_3 ++ []
def dkwX0_toAsk_2 : List UInt8 := [21, 7, 100, 184, 1, 211, 54, 8, 21, 8, 21, 5, 162, 0, 8, 21, 6, 167, 0, 5, 21, 4, 54, 4]
abbrev dktX0_toAsk_2 : List UInt8 := dkwX0_toAsk_2 ++ dktX0_toAsk_3
def dkwX0_toAsk_1 : List UInt8 := [7, 162, 0, 62, 29, 158, 0, 58, 28, 42, 21, 6, 182, 1, 208, 126, 184, 1, 105, 54, 7, 21, 7, 29]
abbrev dktX0_toAsk_1 : List UInt8 := dkwX0_toAsk_1 ++ dktX0_toAsk_2
def dkwX0_toAsk_0 : List UInt8 := [42, 27, 182, 1, 151, 61, 28, 184, 1, 105, 62, 2, 54, 4, 17, 39, 15, 54, 5, 3, 54, 6, 21, 6]
abbrev dktX0_toAsk_0 : List UInt8 := dkwX0_toAsk_0 ++ dktX0_toAsk_1
theorem dksX0_toAsk_0 : cX0_toAsk.data.toList.drop 0 = dktX0_toAsk_0 := by decide +kernel
theorem dksX0_toAsk_1 : cX0_toAsk.data.toList.drop 24 = dktX0_toAsk_1 := dk_seg dksX0_toAsk_0 24 rfl rfl
theorem dksX0_toAsk_2 : cX0_toAsk.data.toList.drop 48 = dktX0_toAsk_2 := dk_seg dksX0_toAsk_1 24 rfl rfl
theorem dksX0_toAsk_3 : cX0_toAsk.data.toList.drop 72 = dktX0_toAsk_3 := dk_seg dksX0_toAsk_2 24 rfl rfl
theorem dX0_toAsk_0 : decode cX0_toAsk 0 = .ok (.aload_n 0, 1) := dk_42 (dk_at dksX0_toAsk_0 0 rfl rfl)
theorem dX0_toAsk_1 : decode cX0_toAsk 1 = .ok (.iload_n 1, 1) := dk_27 (dk_at dksX0_toAsk_0 1 rfl rfl)
theorem dX0_toAsk_2 : decode cX0_toAsk 2 = .ok (.invokevirtual 407, 3) := dk_182 1 151 (dk_at dksX0_toAsk_0 2 rfl rfl)
theorem dX0_toAsk_5 : decode cX0_toAsk 5 = .ok (.istore_n 2, 1) := dk_61 (dk_at dksX0_toAsk_0 5 rfl rfl)
theorem dX0_toAsk_6 : decode cX0_toAsk 6 = .ok (.iload_n 2, 1) := dk_28 (dk_at dksX0_toAsk_0 6 rfl rfl)
theorem dX0_toAsk_7 : decode cX0_toAsk 7 = .ok (.invokestatic 361, 3) := dk_184 1 105 (dk_at dksX0_toAsk_0 7 rfl rfl)
theorem dX0_toAsk_10 : decode cX0_toAsk 10 = .ok (.istore_n 3, 1) := dk_62 (dk_at dksX0_toAsk_0 10 rfl rfl)
theorem dX0_toAsk_11 : decode cX0_toAsk 11 = .ok (.iconst (-1), 1) := dk_2 (dk_at dksX0_toAsk_0 11 rfl rfl)
theorem dX0_toAsk_12 : decode cX0_toAsk 12 = .ok (.istore 4, 2) := dk_54 4 (dk_at dksX0_toAsk_0 12 rfl rfl)
theorem dX0_toAsk_14 : decode cX0_toAsk 14 = .ok (.sipush 9999, 3) := dk_17 39 15 (dk_at dksX0_toAsk_0 14 rfl rfl)
theorem dX0_toAsk_17 : decode cX0_toAsk 17 = .ok (.istore 5, 2) := dk_54 5 (dk_at dksX0_toAsk_0 17 rfl rfl)
theorem dX0_toAsk_19 : decode cX0_toAsk 19 = .ok (.iconst 0, 1) := dk_3 (dk_at dksX0_toAsk_0 19 rfl rfl)
theorem dX0_toAsk_20 : decode cX0_toAsk 20 = .ok (.istore 6, 2) := dk_54 6 (dk_at dksX0_toAsk_0 20 rfl rfl)
theorem dX0_toAsk_22 : decode cX0_toAsk 22 = .ok (.iload 6, 2) := dk_21 6 (dk_at dksX0_toAsk_0 22 rfl rfl)
theorem dX0_toAsk_24 : decode cX0_toAsk 24 = .ok (.iconst 4, 1) := dk_7 (dk_at dksX0_toAsk_1 0 rfl rfl)
theorem dX0_toAsk_25 : decode cX0_toAsk 25 = .ok (.if_icmp .ge 62, 3) := dk_162 0 62 (dk_at dksX0_toAsk_1 1 rfl rfl)
theorem dX0_toAsk_28 : decode cX0_toAsk 28 = .ok (.iload_n 3, 1) := dk_29 (dk_at dksX0_toAsk_1 4 rfl rfl)
theorem dX0_toAsk_29 : decode cX0_toAsk 29 = .ok (.ifCond .le 58, 3) := dk_158 0 58 (dk_at dksX0_toAsk_1 5 rfl rfl)
theorem dX0_toAsk_32 : decode cX0_toAsk 32 = .ok (.iload_n 2, 1) := dk_28 (dk_at dksX0_toAsk_1 8 rfl rfl)
theorem dX0_toAsk_33 : decode cX0_toAsk 33 = .ok (.aload_n 0, 1) := dk_42 (dk_at dksX0_toAsk_1 9 rfl rfl)
theorem dX0_toAsk_34 : decode cX0_toAsk 34 = .ok (.iload 6, 2) := dk_21 6 (dk_at dksX0_toAsk_1 10 rfl rfl)
theorem dX0_toAsk_36 : decode cX0_toAsk 36 = .ok (.invokevirtual 464, 3) := dk_182 1 208 (dk_at dksX0_toAsk_1 12 rfl rfl)
theorem dX0_toAsk_39 : decode cX0_toAsk 39 = .ok (.iand, 1) := dk_126 (dk_at dksX0_toAsk_1 15 rfl rfl)
theorem dX0_toAsk_40 : decode cX0_toAsk 40 = .ok (.invokestatic 361, 3) := dk_184 1 105 (dk_at dksX0_toAsk_1 16 rfl rfl)
theorem dX0_toAsk_43 : decode cX0_toAsk 43 = .ok (.istore 7, 2) := dk_54 7 (dk_at dksX0_toAsk_1 19 rfl rfl)
theorem dX0_toAsk_45 : decode cX0_toAsk 45 = .ok (.iload 7, 2) := dk_21 7 (dk_at dksX0_toAsk_1 21 rfl rfl)
theorem dX0_toAsk_47 : decode cX0_toAsk 47 = .ok (.iload_n 3, 1) := dk_29 (dk_at dksX0_toAsk_1 23 rfl rfl)
theorem dX0_toAsk_48 : decode cX0_toAsk 48 = .ok (.iload 7, 2) := dk_21 7 (dk_at dksX0_toAsk_2 0 rfl rfl)
theorem dX0_toAsk_50 : decode cX0_toAsk 50 = .ok (.isub, 1) := dk_100 (dk_at dksX0_toAsk_2 2 rfl rfl)
theorem dX0_toAsk_51 : decode cX0_toAsk 51 = .ok (.invokestatic 467, 3) := dk_184 1 211 (dk_at dksX0_toAsk_2 3 rfl rfl)
theorem dX0_toAsk_54 : decode cX0_toAsk 54 = .ok (.istore 8, 2) := dk_54 8 (dk_at dksX0_toAsk_2 6 rfl rfl)
theorem dX0_toAsk_56 : decode cX0_toAsk 56 = .ok (.iload 8, 2) := dk_21 8 (dk_at dksX0_toAsk_2 8 rfl rfl)
theorem dX0_toAsk_58 : decode cX0_toAsk 58 = .ok (.iload 5, 2) := dk_21 5 (dk_at dksX0_toAsk_2 10 rfl rfl)
theorem dX0_toAsk_60 : decode cX0_toAsk 60 = .ok (.if_icmp .ge 8, 3) := dk_162 0 8 (dk_at dksX0_toAsk_2 12 rfl rfl)
theorem dX0_toAsk_63 : decode cX0_toAsk 63 = .ok (.iload 6, 2) := dk_21 6 (dk_at dksX0_toAsk_2 15 rfl rfl)
theorem dX0_toAsk_65 : decode cX0_toAsk 65 = .ok (.goto 5, 3) := dk_167 0 5 (dk_at dksX0_toAsk_2 17 rfl rfl)
theorem dX0_toAsk_68 : decode cX0_toAsk 68 = .ok (.iload 4, 2) := dk_21 4 (dk_at dksX0_toAsk_2 20 rfl rfl)
theorem dX0_toAsk_70 : decode cX0_toAsk 70 = .ok (.istore 4, 2) := dk_54 4 (dk_at dksX0_toAsk_2 22 rfl rfl)
theorem dX0_toAsk_72 : decode cX0_toAsk 72 = .ok (.iload 5, 2) := dk_21 5 (dk_at dksX0_toAsk_3 0 rfl rfl)
theorem dX0_toAsk_74 : decode cX0_toAsk 74 = .ok (.iload 8, 2) := dk_21 8 (dk_at dksX0_toAsk_3 2 rfl rfl)
theorem dX0_toAsk_76 : decode cX0_toAsk 76 = .ok (.invokestatic 473, 3) := dk_184 1 217 (dk_at dksX0_toAsk_3 4 rfl rfl)
theorem dX0_toAsk_79 : decode cX0_toAsk 79 = .ok (.istore 5, 2) := dk_54 5 (dk_at dksX0_toAsk_3 7 rfl rfl)
theorem dX0_toAsk_81 : decode cX0_toAsk 81 = .ok (.iinc 6 1, 3) := dk_132 6 1 (dk_at dksX0_toAsk_3 9 rfl rfl)
theorem dX0_toAsk_84 : decode cX0_toAsk 84 = .ok (.goto (-62), 3) := dk_167 255 194 (dk_at dksX0_toAsk_3 12 rfl rfl)
theorem dX0_toAsk_87 : decode cX0_toAsk 87 = .ok (.iload 4, 2) := dk_21 4 (dk_at dksX0_toAsk_3 15 rfl rfl)
theorem dX0_toAsk_89 : decode cX0_toAsk 89 = .ok (.ireturn, 1) := dk_172 (dk_at dksX0_toAsk_3 17 rfl rfl)
abbrev cX0_lackedBy : ByteArray := prog_1_method_50_code
def yX0_lackedBy : MethodName := ⟨RX0, "lackedBy", "(LDictProof$Instance;)I"⟩
def dkwX0_lackedBy_3 : List UInt8 := [2, 130, 126, 153, 0, 10, 4, 21, 4, 120, 167, 0, 4, 3, 128, 61, 132, 4, 1, 167, 255, 176, 28, 172]
abbrev dktX0_lackedBy_3 : List UInt8 := dkwX0_lackedBy_3 ++ []
def dkwX0_lackedBy_2 : List UInt8 := [183, 1, 78, 182, 1, 81, 58, 5, 28, 25, 5, 180, 1, 85, 4, 160, 0, 15, 25, 5, 182, 1, 102, 29]
abbrev dktX0_lackedBy_2 : List UInt8 := dkwX0_lackedBy_2 ++ dktX0_lackedBy_3
def dkwX0_lackedBy_1 : List UInt8 := [43, 180, 0, 248, 46, 21, 4, 184, 0, 209, 153, 0, 54, 42, 187, 1, 38, 89, 21, 4, 43, 180, 0, 251]
abbrev dktX0_lackedBy_1 : List UInt8 := dkwX0_lackedBy_1 ++ dktX0_lackedBy_2
def dkwX0_lackedBy_0 : List UInt8 := [3, 61, 42, 43, 182, 1, 144, 62, 3, 54, 4, 21, 4, 42, 180, 0, 238, 162, 0, 77, 42, 180, 0, 107]
abbrev dktX0_lackedBy_0 : List UInt8 := dkwX0_lackedBy_0 ++ dktX0_lackedBy_1
theorem dksX0_lackedBy_0 : cX0_lackedBy.data.toList.drop 0 = dktX0_lackedBy_0 := by decide +kernel
theorem dksX0_lackedBy_1 : cX0_lackedBy.data.toList.drop 24 = dktX0_lackedBy_1 := dk_seg dksX0_lackedBy_0 24 rfl rfl
theorem dksX0_lackedBy_2 : cX0_lackedBy.data.toList.drop 48 = dktX0_lackedBy_2 := dk_seg dksX0_lackedBy_1 24 rfl rfl
theorem dksX0_lackedBy_3 : cX0_lackedBy.data.toList.drop 72 = dktX0_lackedBy_3 := dk_seg dksX0_lackedBy_2 24 rfl rfl
theorem dX0_lackedBy_0 : decode cX0_lackedBy 0 = .ok (.iconst 0, 1) := dk_3 (dk_at dksX0_lackedBy_0 0 rfl rfl)
theorem dX0_lackedBy_1 : decode cX0_lackedBy 1 = .ok (.istore_n 2, 1) := dk_61 (dk_at dksX0_lackedBy_0 1 rfl rfl)
theorem dX0_lackedBy_2 : decode cX0_lackedBy 2 = .ok (.aload_n 0, 1) := dk_42 (dk_at dksX0_lackedBy_0 2 rfl rfl)
theorem dX0_lackedBy_3 : decode cX0_lackedBy 3 = .ok (.aload_n 1, 1) := dk_43 (dk_at dksX0_lackedBy_0 3 rfl rfl)
theorem dX0_lackedBy_4 : decode cX0_lackedBy 4 = .ok (.invokevirtual 400, 3) := dk_182 1 144 (dk_at dksX0_lackedBy_0 4 rfl rfl)
theorem dX0_lackedBy_7 : decode cX0_lackedBy 7 = .ok (.istore_n 3, 1) := dk_62 (dk_at dksX0_lackedBy_0 7 rfl rfl)
theorem dX0_lackedBy_8 : decode cX0_lackedBy 8 = .ok (.iconst 0, 1) := dk_3 (dk_at dksX0_lackedBy_0 8 rfl rfl)
theorem dX0_lackedBy_9 : decode cX0_lackedBy 9 = .ok (.istore 4, 2) := dk_54 4 (dk_at dksX0_lackedBy_0 9 rfl rfl)
theorem dX0_lackedBy_11 : decode cX0_lackedBy 11 = .ok (.iload 4, 2) := dk_21 4 (dk_at dksX0_lackedBy_0 11 rfl rfl)
theorem dX0_lackedBy_13 : decode cX0_lackedBy 13 = .ok (.aload_n 0, 1) := dk_42 (dk_at dksX0_lackedBy_0 13 rfl rfl)
theorem dX0_lackedBy_14 : decode cX0_lackedBy 14 = .ok (.getfield 238, 3) := dk_180 0 238 (dk_at dksX0_lackedBy_0 14 rfl rfl)
theorem dX0_lackedBy_17 : decode cX0_lackedBy 17 = .ok (.if_icmp .ge 77, 3) := dk_162 0 77 (dk_at dksX0_lackedBy_0 17 rfl rfl)
theorem dX0_lackedBy_20 : decode cX0_lackedBy 20 = .ok (.aload_n 0, 1) := dk_42 (dk_at dksX0_lackedBy_0 20 rfl rfl)
theorem dX0_lackedBy_21 : decode cX0_lackedBy 21 = .ok (.getfield 107, 3) := dk_180 0 107 (dk_at dksX0_lackedBy_0 21 rfl rfl)
theorem dX0_lackedBy_24 : decode cX0_lackedBy 24 = .ok (.aload_n 1, 1) := dk_43 (dk_at dksX0_lackedBy_1 0 rfl rfl)
theorem dX0_lackedBy_25 : decode cX0_lackedBy 25 = .ok (.getfield 248, 3) := dk_180 0 248 (dk_at dksX0_lackedBy_1 1 rfl rfl)
theorem dX0_lackedBy_28 : decode cX0_lackedBy 28 = .ok (.iaload, 1) := dk_46 (dk_at dksX0_lackedBy_1 4 rfl rfl)
theorem dX0_lackedBy_29 : decode cX0_lackedBy 29 = .ok (.iload 4, 2) := dk_21 4 (dk_at dksX0_lackedBy_1 5 rfl rfl)
theorem dX0_lackedBy_31 : decode cX0_lackedBy 31 = .ok (.invokestatic 209, 3) := dk_184 0 209 (dk_at dksX0_lackedBy_1 7 rfl rfl)
theorem dX0_lackedBy_34 : decode cX0_lackedBy 34 = .ok (.ifCond .eq 54, 3) := dk_153 0 54 (dk_at dksX0_lackedBy_1 10 rfl rfl)
theorem dX0_lackedBy_37 : decode cX0_lackedBy 37 = .ok (.aload_n 0, 1) := dk_42 (dk_at dksX0_lackedBy_1 13 rfl rfl)
theorem dX0_lackedBy_38 : decode cX0_lackedBy 38 = .ok (.new 294, 3) := dk_187 1 38 (dk_at dksX0_lackedBy_1 14 rfl rfl)
theorem dX0_lackedBy_41 : decode cX0_lackedBy 41 = .ok (.dup, 1) := dk_89 (dk_at dksX0_lackedBy_1 17 rfl rfl)
theorem dX0_lackedBy_42 : decode cX0_lackedBy 42 = .ok (.iload 4, 2) := dk_21 4 (dk_at dksX0_lackedBy_1 18 rfl rfl)
theorem dX0_lackedBy_44 : decode cX0_lackedBy 44 = .ok (.aload_n 1, 1) := dk_43 (dk_at dksX0_lackedBy_1 20 rfl rfl)
theorem dX0_lackedBy_45 : decode cX0_lackedBy 45 = .ok (.getfield 251, 3) := dk_180 0 251 (dk_at dksX0_lackedBy_1 21 rfl rfl)
theorem dX0_lackedBy_48 : decode cX0_lackedBy 48 = .ok (.invokespecial 334, 3) := dk_183 1 78 (dk_at dksX0_lackedBy_2 0 rfl rfl)
theorem dX0_lackedBy_51 : decode cX0_lackedBy 51 = .ok (.invokevirtual 337, 3) := dk_182 1 81 (dk_at dksX0_lackedBy_2 3 rfl rfl)
theorem dX0_lackedBy_54 : decode cX0_lackedBy 54 = .ok (.astore 5, 2) := dk_58 5 (dk_at dksX0_lackedBy_2 6 rfl rfl)
theorem dX0_lackedBy_56 : decode cX0_lackedBy 56 = .ok (.iload_n 2, 1) := dk_28 (dk_at dksX0_lackedBy_2 8 rfl rfl)
theorem dX0_lackedBy_57 : decode cX0_lackedBy 57 = .ok (.aload 5, 2) := dk_25 5 (dk_at dksX0_lackedBy_2 9 rfl rfl)
theorem dX0_lackedBy_59 : decode cX0_lackedBy 59 = .ok (.getfield 341, 3) := dk_180 1 85 (dk_at dksX0_lackedBy_2 11 rfl rfl)
theorem dX0_lackedBy_62 : decode cX0_lackedBy 62 = .ok (.iconst 1, 1) := dk_4 (dk_at dksX0_lackedBy_2 14 rfl rfl)
theorem dX0_lackedBy_63 : decode cX0_lackedBy 63 = .ok (.if_icmp .ne 15, 3) := dk_160 0 15 (dk_at dksX0_lackedBy_2 15 rfl rfl)
theorem dX0_lackedBy_66 : decode cX0_lackedBy 66 = .ok (.aload 5, 2) := dk_25 5 (dk_at dksX0_lackedBy_2 18 rfl rfl)
theorem dX0_lackedBy_68 : decode cX0_lackedBy 68 = .ok (.invokevirtual 358, 3) := dk_182 1 102 (dk_at dksX0_lackedBy_2 20 rfl rfl)
theorem dX0_lackedBy_71 : decode cX0_lackedBy 71 = .ok (.iload_n 3, 1) := dk_29 (dk_at dksX0_lackedBy_2 23 rfl rfl)
theorem dX0_lackedBy_72 : decode cX0_lackedBy 72 = .ok (.iconst (-1), 1) := dk_2 (dk_at dksX0_lackedBy_3 0 rfl rfl)
theorem dX0_lackedBy_73 : decode cX0_lackedBy 73 = .ok (.ixor, 1) := dk_130 (dk_at dksX0_lackedBy_3 1 rfl rfl)
theorem dX0_lackedBy_74 : decode cX0_lackedBy 74 = .ok (.iand, 1) := dk_126 (dk_at dksX0_lackedBy_3 2 rfl rfl)
theorem dX0_lackedBy_75 : decode cX0_lackedBy 75 = .ok (.ifCond .eq 10, 3) := dk_153 0 10 (dk_at dksX0_lackedBy_3 3 rfl rfl)
theorem dX0_lackedBy_78 : decode cX0_lackedBy 78 = .ok (.iconst 1, 1) := dk_4 (dk_at dksX0_lackedBy_3 6 rfl rfl)
theorem dX0_lackedBy_79 : decode cX0_lackedBy 79 = .ok (.iload 4, 2) := dk_21 4 (dk_at dksX0_lackedBy_3 7 rfl rfl)
theorem dX0_lackedBy_81 : decode cX0_lackedBy 81 = .ok (.ishl, 1) := dk_120 (dk_at dksX0_lackedBy_3 9 rfl rfl)
theorem dX0_lackedBy_82 : decode cX0_lackedBy 82 = .ok (.goto 4, 3) := dk_167 0 4 (dk_at dksX0_lackedBy_3 10 rfl rfl)
theorem dX0_lackedBy_85 : decode cX0_lackedBy 85 = .ok (.iconst 0, 1) := dk_3 (dk_at dksX0_lackedBy_3 13 rfl rfl)
theorem dX0_lackedBy_86 : decode cX0_lackedBy 86 = .ok (.ior, 1) := dk_128 (dk_at dksX0_lackedBy_3 14 rfl rfl)
theorem dX0_lackedBy_87 : decode cX0_lackedBy 87 = .ok (.istore_n 2, 1) := dk_61 (dk_at dksX0_lackedBy_3 15 rfl rfl)
theorem dX0_lackedBy_88 : decode cX0_lackedBy 88 = .ok (.iinc 4 1, 3) := dk_132 4 1 (dk_at dksX0_lackedBy_3 16 rfl rfl)
theorem dX0_lackedBy_91 : decode cX0_lackedBy 91 = .ok (.goto (-80), 3) := dk_167 255 176 (dk_at dksX0_lackedBy_3 19 rfl rfl)
theorem dX0_lackedBy_94 : decode cX0_lackedBy 94 = .ok (.iload_n 2, 1) := dk_28 (dk_at dksX0_lackedBy_3 22 rfl rfl)
theorem dX0_lackedBy_95 : decode cX0_lackedBy 95 = .ok (.ireturn, 1) := dk_172 (dk_at dksX0_lackedBy_3 23 rfl rfl)
abbrev cX0_givenBy : ByteArray := prog_1_method_49_code
def yX0_givenBy : MethodName := ⟨RX0, "givenBy", "(LDictProof$Instance;)I"⟩
def dkwX0_givenBy_4 : List UInt8 := [167, 255, 165, 28, 172]
abbrev dktX0_givenBy_4 : List UInt8 := dkwX0_givenBy_4 ++ []
def dkwX0_givenBy_3 : List UInt8 := [43, 180, 1, 4, 29, 46, 96, 120, 167, 0, 4, 3, 128, 61, 132, 4, 1, 167, 255, 182, 132, 3, 1]
abbrev dktX0_givenBy_3 : List UInt8 := dkwX0_givenBy_3 ++ dktX0_givenBy_4
def dkwX0_givenBy_2 : List UInt8 := [184, 0, 209, 153, 0, 7, 4, 167, 0, 4, 3, 54, 5, 28, 21, 5, 153, 0, 19, 4, 5, 21, 4, 104]
abbrev dktX0_givenBy_2 : List UInt8 := dkwX0_givenBy_2 ++ dktX0_givenBy_3
def dkwX0_givenBy_1 : List UInt8 := [21, 4, 43, 180, 1, 1, 29, 46, 159, 0, 22, 42, 180, 0, 111, 43, 180, 1, 1, 29, 46, 46, 21, 4]
abbrev dktX0_givenBy_1 : List UInt8 := dkwX0_givenBy_1 ++ dktX0_givenBy_2
def dkwX0_givenBy_0 : List UInt8 := [3, 61, 3, 62, 29, 43, 180, 0, 254, 162, 0, 89, 3, 54, 4, 21, 4, 42, 180, 0, 238, 162, 0, 71]
abbrev dktX0_givenBy_0 : List UInt8 := dkwX0_givenBy_0 ++ dktX0_givenBy_1
theorem dksX0_givenBy_0 : cX0_givenBy.data.toList.drop 0 = dktX0_givenBy_0 := by decide +kernel
theorem dksX0_givenBy_1 : cX0_givenBy.data.toList.drop 24 = dktX0_givenBy_1 := dk_seg dksX0_givenBy_0 24 rfl rfl
theorem dksX0_givenBy_2 : cX0_givenBy.data.toList.drop 48 = dktX0_givenBy_2 := dk_seg dksX0_givenBy_1 24 rfl rfl
theorem dksX0_givenBy_3 : cX0_givenBy.data.toList.drop 72 = dktX0_givenBy_3 := dk_seg dksX0_givenBy_2 24 rfl rfl
theorem dksX0_givenBy_4 : cX0_givenBy.data.toList.drop 95 = dktX0_givenBy_4 := dk_seg dksX0_givenBy_3 23 rfl rfl
theorem dX0_givenBy_0 : decode cX0_givenBy 0 = .ok (.iconst 0, 1) := dk_3 (dk_at dksX0_givenBy_0 0 rfl rfl)
theorem dX0_givenBy_1 : decode cX0_givenBy 1 = .ok (.istore_n 2, 1) := dk_61 (dk_at dksX0_givenBy_0 1 rfl rfl)
theorem dX0_givenBy_2 : decode cX0_givenBy 2 = .ok (.iconst 0, 1) := dk_3 (dk_at dksX0_givenBy_0 2 rfl rfl)
theorem dX0_givenBy_3 : decode cX0_givenBy 3 = .ok (.istore_n 3, 1) := dk_62 (dk_at dksX0_givenBy_0 3 rfl rfl)
theorem dX0_givenBy_4 : decode cX0_givenBy 4 = .ok (.iload_n 3, 1) := dk_29 (dk_at dksX0_givenBy_0 4 rfl rfl)
theorem dX0_givenBy_5 : decode cX0_givenBy 5 = .ok (.aload_n 1, 1) := dk_43 (dk_at dksX0_givenBy_0 5 rfl rfl)
theorem dX0_givenBy_6 : decode cX0_givenBy 6 = .ok (.getfield 254, 3) := dk_180 0 254 (dk_at dksX0_givenBy_0 6 rfl rfl)
theorem dX0_givenBy_9 : decode cX0_givenBy 9 = .ok (.if_icmp .ge 89, 3) := dk_162 0 89 (dk_at dksX0_givenBy_0 9 rfl rfl)
theorem dX0_givenBy_12 : decode cX0_givenBy 12 = .ok (.iconst 0, 1) := dk_3 (dk_at dksX0_givenBy_0 12 rfl rfl)
theorem dX0_givenBy_13 : decode cX0_givenBy 13 = .ok (.istore 4, 2) := dk_54 4 (dk_at dksX0_givenBy_0 13 rfl rfl)
theorem dX0_givenBy_15 : decode cX0_givenBy 15 = .ok (.iload 4, 2) := dk_21 4 (dk_at dksX0_givenBy_0 15 rfl rfl)
theorem dX0_givenBy_17 : decode cX0_givenBy 17 = .ok (.aload_n 0, 1) := dk_42 (dk_at dksX0_givenBy_0 17 rfl rfl)
theorem dX0_givenBy_18 : decode cX0_givenBy 18 = .ok (.getfield 238, 3) := dk_180 0 238 (dk_at dksX0_givenBy_0 18 rfl rfl)
theorem dX0_givenBy_21 : decode cX0_givenBy 21 = .ok (.if_icmp .ge 71, 3) := dk_162 0 71 (dk_at dksX0_givenBy_0 21 rfl rfl)
theorem dX0_givenBy_24 : decode cX0_givenBy 24 = .ok (.iload 4, 2) := dk_21 4 (dk_at dksX0_givenBy_1 0 rfl rfl)
theorem dX0_givenBy_26 : decode cX0_givenBy 26 = .ok (.aload_n 1, 1) := dk_43 (dk_at dksX0_givenBy_1 2 rfl rfl)
theorem dX0_givenBy_27 : decode cX0_givenBy 27 = .ok (.getfield 257, 3) := dk_180 1 1 (dk_at dksX0_givenBy_1 3 rfl rfl)
theorem dX0_givenBy_30 : decode cX0_givenBy 30 = .ok (.iload_n 3, 1) := dk_29 (dk_at dksX0_givenBy_1 6 rfl rfl)
theorem dX0_givenBy_31 : decode cX0_givenBy 31 = .ok (.iaload, 1) := dk_46 (dk_at dksX0_givenBy_1 7 rfl rfl)
theorem dX0_givenBy_32 : decode cX0_givenBy 32 = .ok (.if_icmp .eq 22, 3) := dk_159 0 22 (dk_at dksX0_givenBy_1 8 rfl rfl)
theorem dX0_givenBy_35 : decode cX0_givenBy 35 = .ok (.aload_n 0, 1) := dk_42 (dk_at dksX0_givenBy_1 11 rfl rfl)
theorem dX0_givenBy_36 : decode cX0_givenBy 36 = .ok (.getfield 111, 3) := dk_180 0 111 (dk_at dksX0_givenBy_1 12 rfl rfl)
theorem dX0_givenBy_39 : decode cX0_givenBy 39 = .ok (.aload_n 1, 1) := dk_43 (dk_at dksX0_givenBy_1 15 rfl rfl)
theorem dX0_givenBy_40 : decode cX0_givenBy 40 = .ok (.getfield 257, 3) := dk_180 1 1 (dk_at dksX0_givenBy_1 16 rfl rfl)
theorem dX0_givenBy_43 : decode cX0_givenBy 43 = .ok (.iload_n 3, 1) := dk_29 (dk_at dksX0_givenBy_1 19 rfl rfl)
theorem dX0_givenBy_44 : decode cX0_givenBy 44 = .ok (.iaload, 1) := dk_46 (dk_at dksX0_givenBy_1 20 rfl rfl)
theorem dX0_givenBy_45 : decode cX0_givenBy 45 = .ok (.iaload, 1) := dk_46 (dk_at dksX0_givenBy_1 21 rfl rfl)
theorem dX0_givenBy_46 : decode cX0_givenBy 46 = .ok (.iload 4, 2) := dk_21 4 (dk_at dksX0_givenBy_1 22 rfl rfl)
theorem dX0_givenBy_48 : decode cX0_givenBy 48 = .ok (.invokestatic 209, 3) := dk_184 0 209 (dk_at dksX0_givenBy_2 0 rfl rfl)
theorem dX0_givenBy_51 : decode cX0_givenBy 51 = .ok (.ifCond .eq 7, 3) := dk_153 0 7 (dk_at dksX0_givenBy_2 3 rfl rfl)
theorem dX0_givenBy_54 : decode cX0_givenBy 54 = .ok (.iconst 1, 1) := dk_4 (dk_at dksX0_givenBy_2 6 rfl rfl)
theorem dX0_givenBy_55 : decode cX0_givenBy 55 = .ok (.goto 4, 3) := dk_167 0 4 (dk_at dksX0_givenBy_2 7 rfl rfl)
theorem dX0_givenBy_58 : decode cX0_givenBy 58 = .ok (.iconst 0, 1) := dk_3 (dk_at dksX0_givenBy_2 10 rfl rfl)
theorem dX0_givenBy_59 : decode cX0_givenBy 59 = .ok (.istore 5, 2) := dk_54 5 (dk_at dksX0_givenBy_2 11 rfl rfl)
theorem dX0_givenBy_61 : decode cX0_givenBy 61 = .ok (.iload_n 2, 1) := dk_28 (dk_at dksX0_givenBy_2 13 rfl rfl)
theorem dX0_givenBy_62 : decode cX0_givenBy 62 = .ok (.iload 5, 2) := dk_21 5 (dk_at dksX0_givenBy_2 14 rfl rfl)
theorem dX0_givenBy_64 : decode cX0_givenBy 64 = .ok (.ifCond .eq 19, 3) := dk_153 0 19 (dk_at dksX0_givenBy_2 16 rfl rfl)
theorem dX0_givenBy_67 : decode cX0_givenBy 67 = .ok (.iconst 1, 1) := dk_4 (dk_at dksX0_givenBy_2 19 rfl rfl)
theorem dX0_givenBy_68 : decode cX0_givenBy 68 = .ok (.iconst 2, 1) := dk_5 (dk_at dksX0_givenBy_2 20 rfl rfl)
theorem dX0_givenBy_69 : decode cX0_givenBy 69 = .ok (.iload 4, 2) := dk_21 4 (dk_at dksX0_givenBy_2 21 rfl rfl)
theorem dX0_givenBy_71 : decode cX0_givenBy 71 = .ok (.imul, 1) := dk_104 (dk_at dksX0_givenBy_2 23 rfl rfl)
theorem dX0_givenBy_72 : decode cX0_givenBy 72 = .ok (.aload_n 1, 1) := dk_43 (dk_at dksX0_givenBy_3 0 rfl rfl)
theorem dX0_givenBy_73 : decode cX0_givenBy 73 = .ok (.getfield 260, 3) := dk_180 1 4 (dk_at dksX0_givenBy_3 1 rfl rfl)
theorem dX0_givenBy_76 : decode cX0_givenBy 76 = .ok (.iload_n 3, 1) := dk_29 (dk_at dksX0_givenBy_3 4 rfl rfl)
theorem dX0_givenBy_77 : decode cX0_givenBy 77 = .ok (.iaload, 1) := dk_46 (dk_at dksX0_givenBy_3 5 rfl rfl)
theorem dX0_givenBy_78 : decode cX0_givenBy 78 = .ok (.iadd, 1) := dk_96 (dk_at dksX0_givenBy_3 6 rfl rfl)
theorem dX0_givenBy_79 : decode cX0_givenBy 79 = .ok (.ishl, 1) := dk_120 (dk_at dksX0_givenBy_3 7 rfl rfl)
theorem dX0_givenBy_80 : decode cX0_givenBy 80 = .ok (.goto 4, 3) := dk_167 0 4 (dk_at dksX0_givenBy_3 8 rfl rfl)
theorem dX0_givenBy_83 : decode cX0_givenBy 83 = .ok (.iconst 0, 1) := dk_3 (dk_at dksX0_givenBy_3 11 rfl rfl)
theorem dX0_givenBy_84 : decode cX0_givenBy 84 = .ok (.ior, 1) := dk_128 (dk_at dksX0_givenBy_3 12 rfl rfl)
theorem dX0_givenBy_85 : decode cX0_givenBy 85 = .ok (.istore_n 2, 1) := dk_61 (dk_at dksX0_givenBy_3 13 rfl rfl)
theorem dX0_givenBy_86 : decode cX0_givenBy 86 = .ok (.iinc 4 1, 3) := dk_132 4 1 (dk_at dksX0_givenBy_3 14 rfl rfl)
theorem dX0_givenBy_89 : decode cX0_givenBy 89 = .ok (.goto (-74), 3) := dk_167 255 182 (dk_at dksX0_givenBy_3 17 rfl rfl)
theorem dX0_givenBy_92 : decode cX0_givenBy 92 = .ok (.iinc 3 1, 3) := dk_132 3 1 (dk_at dksX0_givenBy_3 20 rfl rfl)
theorem dX0_givenBy_95 : decode cX0_givenBy 95 = .ok (.goto (-91), 3) := dk_167 255 165 (dk_at dksX0_givenBy_4 0 rfl rfl)
theorem dX0_givenBy_98 : decode cX0_givenBy 98 = .ok (.iload_n 2, 1) := dk_28 (dk_at dksX0_givenBy_4 3 rfl rfl)
theorem dX0_givenBy_99 : decode cX0_givenBy 99 = .ok (.ireturn, 1) := dk_172 (dk_at dksX0_givenBy_4 4 rfl rfl)
abbrev cX0_as : ByteArray := prog_1_method_54_code
def yX0_as : MethodName := ⟨RX0, "as", "(II)I"⟩
def dkwX0_as_1 : List UInt8 := [16, 154, 172, 42, 180, 0, 114, 27, 50, 28, 184, 1, 173, 172, 78, 2, 172]
abbrev dktX0_as_1 : List UInt8 := dkwX0_as_1 ++ []
def dkwX0_as_0 : List UInt8 := [42, 27, 182, 1, 160, 154, 0, 6, 16, 155, 172, 28, 133, 9, 20, 1, 171, 184, 0, 170, 154, 0, 6]
abbrev dktX0_as_0 : List UInt8 := dkwX0_as_0 ++ dktX0_as_1
theorem dksX0_as_0 : cX0_as.data.toList.drop 0 = dktX0_as_0 := by decide +kernel
theorem dksX0_as_1 : cX0_as.data.toList.drop 23 = dktX0_as_1 := dk_seg dksX0_as_0 23 rfl rfl
theorem dX0_as_0 : decode cX0_as 0 = .ok (.aload_n 0, 1) := dk_42 (dk_at dksX0_as_0 0 rfl rfl)
theorem dX0_as_1 : decode cX0_as 1 = .ok (.iload_n 1, 1) := dk_27 (dk_at dksX0_as_0 1 rfl rfl)
theorem dX0_as_2 : decode cX0_as 2 = .ok (.invokevirtual 416, 3) := dk_182 1 160 (dk_at dksX0_as_0 2 rfl rfl)
theorem dX0_as_5 : decode cX0_as 5 = .ok (.ifCond .ne 6, 3) := dk_154 0 6 (dk_at dksX0_as_0 5 rfl rfl)
theorem dX0_as_8 : decode cX0_as 8 = .ok (.bipush (-101), 2) := dk_16 155 (dk_at dksX0_as_0 8 rfl rfl)
theorem dX0_as_10 : decode cX0_as 10 = .ok (.ireturn, 1) := dk_172 (dk_at dksX0_as_0 10 rfl rfl)
theorem dX0_as_11 : decode cX0_as 11 = .ok (.iload_n 2, 1) := dk_28 (dk_at dksX0_as_0 11 rfl rfl)
theorem dX0_as_12 : decode cX0_as 12 = .ok (.i2l, 1) := dk_133 (dk_at dksX0_as_0 12 rfl rfl)
theorem dX0_as_13 : decode cX0_as 13 = .ok (.lconst 0, 1) := dk_9 (dk_at dksX0_as_0 13 rfl rfl)
theorem dX0_as_14 : decode cX0_as 14 = .ok (.ldc2_w 427, 3) := dk_20 1 171 (dk_at dksX0_as_0 14 rfl rfl)
theorem dX0_as_17 : decode cX0_as 17 = .ok (.invokestatic 170, 3) := dk_184 0 170 (dk_at dksX0_as_0 17 rfl rfl)
theorem dX0_as_20 : decode cX0_as 20 = .ok (.ifCond .ne 6, 3) := dk_154 0 6 (dk_at dksX0_as_0 20 rfl rfl)
theorem dX0_as_23 : decode cX0_as 23 = .ok (.bipush (-102), 2) := dk_16 154 (dk_at dksX0_as_1 0 rfl rfl)
theorem dX0_as_25 : decode cX0_as 25 = .ok (.ireturn, 1) := dk_172 (dk_at dksX0_as_1 2 rfl rfl)
theorem dX0_as_26 : decode cX0_as 26 = .ok (.aload_n 0, 1) := dk_42 (dk_at dksX0_as_1 3 rfl rfl)
theorem dX0_as_27 : decode cX0_as 27 = .ok (.getfield 114, 3) := dk_180 0 114 (dk_at dksX0_as_1 4 rfl rfl)
theorem dX0_as_30 : decode cX0_as 30 = .ok (.iload_n 1, 1) := dk_27 (dk_at dksX0_as_1 7 rfl rfl)
theorem dX0_as_31 : decode cX0_as 31 = .ok (.aaload, 1) := dk_50 (dk_at dksX0_as_1 8 rfl rfl)
theorem dX0_as_32 : decode cX0_as 32 = .ok (.iload_n 2, 1) := dk_28 (dk_at dksX0_as_1 9 rfl rfl)
theorem dX0_as_33 : decode cX0_as 33 = .ok (.invokestatic 429, 3) := dk_184 1 173 (dk_at dksX0_as_1 10 rfl rfl)
theorem dX0_as_36 : decode cX0_as 36 = .ok (.ireturn, 1) := dk_172 (dk_at dksX0_as_1 13 rfl rfl)
theorem dX0_as_37 : decode cX0_as 37 = .ok (.astore_n 3, 1) := dk_78 (dk_at dksX0_as_1 14 rfl rfl)
theorem dX0_as_38 : decode cX0_as 38 = .ok (.iconst (-1), 1) := dk_2 (dk_at dksX0_as_1 15 rfl rfl)
theorem dX0_as_39 : decode cX0_as 39 = .ok (.ireturn, 1) := dk_172 (dk_at dksX0_as_1 16 rfl rfl)
abbrev cX0_castTo : ByteArray := prog_1_method_53_code
def yX0_castTo : MethodName := ⟨RX0, "castTo", "(Ljava/lang/Object;I)I"⟩
def dkwX0_castTo_3 : List UInt8 := [42, 192, 0, 94, 180, 1, 169, 172, 42, 192, 0, 97, 180, 1, 170, 172]
abbrev dktX0_castTo_3 : List UInt8 := dkwX0_castTo_3 ++ []
def dkwX0_castTo_2 : List UInt8 := [42, 192, 0, 83, 180, 0, 245, 172, 42, 192, 0, 88, 180, 1, 167, 172, 42, 192, 0, 91, 180, 1, 168, 172]
abbrev dktX0_castTo_2 : List UInt8 := dkwX0_castTo_2 ++ dktX0_castTo_3
def dkwX0_castTo_1 : List UInt8 := [170, 0, 0, 0, 0, 0, 63, 0, 0, 0, 0, 0, 0, 0, 3, 0, 0, 0, 31, 0, 0, 0, 39, 0, 0, 0, 47, 0, 0, 0, 55]
abbrev dktX0_castTo_1 : List UInt8 := dkwX0_castTo_1 ++ dktX0_castTo_2
def dkwX0_castTo_0 : List UInt8 := [27]
abbrev dktX0_castTo_0 : List UInt8 := dkwX0_castTo_0 ++ dktX0_castTo_1
theorem dksX0_castTo_0 : cX0_castTo.data.toList.drop 0 = dktX0_castTo_0 := by decide +kernel
theorem dksX0_castTo_1 : cX0_castTo.data.toList.drop 1 = dktX0_castTo_1 := dk_seg dksX0_castTo_0 1 rfl rfl
theorem dksX0_castTo_2 : cX0_castTo.data.toList.drop 32 = dktX0_castTo_2 := dk_seg dksX0_castTo_1 31 rfl rfl
theorem dksX0_castTo_3 : cX0_castTo.data.toList.drop 56 = dktX0_castTo_3 := dk_seg dksX0_castTo_2 24 rfl rfl
theorem dX0_castTo_0 : decode cX0_castTo 0 = .ok (.iload_n 1, 1) := dk_27 (dk_at dksX0_castTo_0 0 rfl rfl)
theorem dX0_castTo_1 : decode cX0_castTo 1 = .ok (.tableswitch 63 0 3 #[31, 39, 47, 55], 31) := by decide +kernel
theorem dX0_castTo_32 : decode cX0_castTo 32 = .ok (.aload_n 0, 1) := dk_42 (dk_at dksX0_castTo_2 0 rfl rfl)
theorem dX0_castTo_33 : decode cX0_castTo 33 = .ok (.checkcast 83, 3) := dk_192 0 83 (dk_at dksX0_castTo_2 1 rfl rfl)
theorem dX0_castTo_36 : decode cX0_castTo 36 = .ok (.getfield 245, 3) := dk_180 0 245 (dk_at dksX0_castTo_2 4 rfl rfl)
theorem dX0_castTo_39 : decode cX0_castTo 39 = .ok (.ireturn, 1) := dk_172 (dk_at dksX0_castTo_2 7 rfl rfl)
theorem dX0_castTo_40 : decode cX0_castTo 40 = .ok (.aload_n 0, 1) := dk_42 (dk_at dksX0_castTo_2 8 rfl rfl)
theorem dX0_castTo_41 : decode cX0_castTo 41 = .ok (.checkcast 88, 3) := dk_192 0 88 (dk_at dksX0_castTo_2 9 rfl rfl)
theorem dX0_castTo_44 : decode cX0_castTo 44 = .ok (.getfield 423, 3) := dk_180 1 167 (dk_at dksX0_castTo_2 12 rfl rfl)
theorem dX0_castTo_47 : decode cX0_castTo 47 = .ok (.ireturn, 1) := dk_172 (dk_at dksX0_castTo_2 15 rfl rfl)
theorem dX0_castTo_48 : decode cX0_castTo 48 = .ok (.aload_n 0, 1) := dk_42 (dk_at dksX0_castTo_2 16 rfl rfl)
theorem dX0_castTo_49 : decode cX0_castTo 49 = .ok (.checkcast 91, 3) := dk_192 0 91 (dk_at dksX0_castTo_2 17 rfl rfl)
theorem dX0_castTo_52 : decode cX0_castTo 52 = .ok (.getfield 424, 3) := dk_180 1 168 (dk_at dksX0_castTo_2 20 rfl rfl)
theorem dX0_castTo_55 : decode cX0_castTo 55 = .ok (.ireturn, 1) := dk_172 (dk_at dksX0_castTo_2 23 rfl rfl)
theorem dX0_castTo_56 : decode cX0_castTo 56 = .ok (.aload_n 0, 1) := dk_42 (dk_at dksX0_castTo_3 0 rfl rfl)
theorem dX0_castTo_57 : decode cX0_castTo 57 = .ok (.checkcast 94, 3) := dk_192 0 94 (dk_at dksX0_castTo_3 1 rfl rfl)
theorem dX0_castTo_60 : decode cX0_castTo 60 = .ok (.getfield 425, 3) := dk_180 1 169 (dk_at dksX0_castTo_3 4 rfl rfl)
theorem dX0_castTo_63 : decode cX0_castTo 63 = .ok (.ireturn, 1) := dk_172 (dk_at dksX0_castTo_3 7 rfl rfl)
theorem dX0_castTo_64 : decode cX0_castTo 64 = .ok (.aload_n 0, 1) := dk_42 (dk_at dksX0_castTo_3 8 rfl rfl)
theorem dX0_castTo_65 : decode cX0_castTo 65 = .ok (.checkcast 97, 3) := dk_192 0 97 (dk_at dksX0_castTo_3 9 rfl rfl)
theorem dX0_castTo_68 : decode cX0_castTo 68 = .ok (.getfield 426, 3) := dk_180 1 170 (dk_at dksX0_castTo_3 12 rfl rfl)
theorem dX0_castTo_71 : decode cX0_castTo 71 = .ok (.ireturn, 1) := dk_172 (dk_at dksX0_castTo_3 15 rfl rfl)
abbrev cX0_change : ByteArray := prog_1_method_55_code
def yX0_change : MethodName := ⟨RX0, "change", "(II)I"⟩
def dkwX0_change_2 : List UInt8 := [182, 1, 26, 29, 172]
abbrev dktX0_change_2 : List UInt8 := dkwX0_change_2 ++ []
def dkwX0_change_1 : List UInt8 := [16, 154, 172, 42, 180, 0, 114, 27, 50, 182, 1, 148, 62, 42, 27, 28, 182, 1, 179, 42, 180, 0, 128]
abbrev dktX0_change_1 : List UInt8 := dkwX0_change_1 ++ dktX0_change_2
def dkwX0_change_0 : List UInt8 := [42, 27, 182, 1, 160, 154, 0, 6, 16, 155, 172, 28, 133, 9, 20, 1, 171, 184, 0, 170, 154, 0, 6]
abbrev dktX0_change_0 : List UInt8 := dkwX0_change_0 ++ dktX0_change_1
theorem dksX0_change_0 : cX0_change.data.toList.drop 0 = dktX0_change_0 := by decide +kernel
theorem dksX0_change_1 : cX0_change.data.toList.drop 23 = dktX0_change_1 := dk_seg dksX0_change_0 23 rfl rfl
theorem dksX0_change_2 : cX0_change.data.toList.drop 46 = dktX0_change_2 := dk_seg dksX0_change_1 23 rfl rfl
theorem dX0_change_0 : decode cX0_change 0 = .ok (.aload_n 0, 1) := dk_42 (dk_at dksX0_change_0 0 rfl rfl)
theorem dX0_change_1 : decode cX0_change 1 = .ok (.iload_n 1, 1) := dk_27 (dk_at dksX0_change_0 1 rfl rfl)
theorem dX0_change_2 : decode cX0_change 2 = .ok (.invokevirtual 416, 3) := dk_182 1 160 (dk_at dksX0_change_0 2 rfl rfl)
theorem dX0_change_5 : decode cX0_change 5 = .ok (.ifCond .ne 6, 3) := dk_154 0 6 (dk_at dksX0_change_0 5 rfl rfl)
theorem dX0_change_8 : decode cX0_change 8 = .ok (.bipush (-101), 2) := dk_16 155 (dk_at dksX0_change_0 8 rfl rfl)
theorem dX0_change_10 : decode cX0_change 10 = .ok (.ireturn, 1) := dk_172 (dk_at dksX0_change_0 10 rfl rfl)
theorem dX0_change_11 : decode cX0_change 11 = .ok (.iload_n 2, 1) := dk_28 (dk_at dksX0_change_0 11 rfl rfl)
theorem dX0_change_12 : decode cX0_change 12 = .ok (.i2l, 1) := dk_133 (dk_at dksX0_change_0 12 rfl rfl)
theorem dX0_change_13 : decode cX0_change 13 = .ok (.lconst 0, 1) := dk_9 (dk_at dksX0_change_0 13 rfl rfl)
theorem dX0_change_14 : decode cX0_change 14 = .ok (.ldc2_w 427, 3) := dk_20 1 171 (dk_at dksX0_change_0 14 rfl rfl)
theorem dX0_change_17 : decode cX0_change 17 = .ok (.invokestatic 170, 3) := dk_184 0 170 (dk_at dksX0_change_0 17 rfl rfl)
theorem dX0_change_20 : decode cX0_change 20 = .ok (.ifCond .ne 6, 3) := dk_154 0 6 (dk_at dksX0_change_0 20 rfl rfl)
theorem dX0_change_23 : decode cX0_change 23 = .ok (.bipush (-102), 2) := dk_16 154 (dk_at dksX0_change_1 0 rfl rfl)
theorem dX0_change_25 : decode cX0_change 25 = .ok (.ireturn, 1) := dk_172 (dk_at dksX0_change_1 2 rfl rfl)
theorem dX0_change_26 : decode cX0_change 26 = .ok (.aload_n 0, 1) := dk_42 (dk_at dksX0_change_1 3 rfl rfl)
theorem dX0_change_27 : decode cX0_change 27 = .ok (.getfield 114, 3) := dk_180 0 114 (dk_at dksX0_change_1 4 rfl rfl)
theorem dX0_change_30 : decode cX0_change 30 = .ok (.iload_n 1, 1) := dk_27 (dk_at dksX0_change_1 7 rfl rfl)
theorem dX0_change_31 : decode cX0_change 31 = .ok (.aaload, 1) := dk_50 (dk_at dksX0_change_1 8 rfl rfl)
theorem dX0_change_32 : decode cX0_change 32 = .ok (.invokevirtual 404, 3) := dk_182 1 148 (dk_at dksX0_change_1 9 rfl rfl)
theorem dX0_change_35 : decode cX0_change 35 = .ok (.istore_n 3, 1) := dk_62 (dk_at dksX0_change_1 12 rfl rfl)
theorem dX0_change_36 : decode cX0_change 36 = .ok (.aload_n 0, 1) := dk_42 (dk_at dksX0_change_1 13 rfl rfl)
theorem dX0_change_37 : decode cX0_change 37 = .ok (.iload_n 1, 1) := dk_27 (dk_at dksX0_change_1 14 rfl rfl)
theorem dX0_change_38 : decode cX0_change 38 = .ok (.iload_n 2, 1) := dk_28 (dk_at dksX0_change_1 15 rfl rfl)
theorem dX0_change_39 : decode cX0_change 39 = .ok (.invokevirtual 435, 3) := dk_182 1 179 (dk_at dksX0_change_1 16 rfl rfl)
theorem dX0_change_42 : decode cX0_change 42 = .ok (.aload_n 0, 1) := dk_42 (dk_at dksX0_change_1 19 rfl rfl)
theorem dX0_change_43 : decode cX0_change 43 = .ok (.getfield 128, 3) := dk_180 0 128 (dk_at dksX0_change_1 20 rfl rfl)
theorem dX0_change_46 : decode cX0_change 46 = .ok (.invokevirtual 282, 3) := dk_182 1 26 (dk_at dksX0_change_2 0 rfl rfl)
theorem dX0_change_49 : decode cX0_change 49 = .ok (.iload_n 3, 1) := dk_29 (dk_at dksX0_change_2 3 rfl rfl)
theorem dX0_change_50 : decode cX0_change 50 = .ok (.ireturn, 1) := dk_172 (dk_at dksX0_change_2 4 rfl rfl)
abbrev cX0_be : ByteArray := prog_1_method_56_code
def yX0_be : MethodName := ⟨RX0, "be", "(II)V"⟩
def dkwX0_be_0 : List UInt8 := [28, 184, 0, 241, 78, 45, 42, 180, 0, 114, 27, 50, 182, 1, 182, 42, 180, 0, 114, 27, 45, 83, 177]
abbrev dktX0_be_0 : List UInt8 := dkwX0_be_0 ++ []
theorem dksX0_be_0 : cX0_be.data.toList.drop 0 = dktX0_be_0 := by decide +kernel
theorem dX0_be_0 : decode cX0_be 0 = .ok (.iload_n 2, 1) := dk_28 (dk_at dksX0_be_0 0 rfl rfl)
theorem dX0_be_1 : decode cX0_be 1 = .ok (.invokestatic 241, 3) := dk_184 0 241 (dk_at dksX0_be_0 1 rfl rfl)
theorem dX0_be_4 : decode cX0_be 4 = .ok (.astore_n 3, 1) := dk_78 (dk_at dksX0_be_0 4 rfl rfl)
theorem dX0_be_5 : decode cX0_be 5 = .ok (.aload_n 3, 1) := dk_45 (dk_at dksX0_be_0 5 rfl rfl)
theorem dX0_be_6 : decode cX0_be 6 = .ok (.aload_n 0, 1) := dk_42 (dk_at dksX0_be_0 6 rfl rfl)
theorem dX0_be_7 : decode cX0_be 7 = .ok (.getfield 114, 3) := dk_180 0 114 (dk_at dksX0_be_0 7 rfl rfl)
theorem dX0_be_10 : decode cX0_be 10 = .ok (.iload_n 1, 1) := dk_27 (dk_at dksX0_be_0 10 rfl rfl)
theorem dX0_be_11 : decode cX0_be 11 = .ok (.aaload, 1) := dk_50 (dk_at dksX0_be_0 11 rfl rfl)
theorem dX0_be_12 : decode cX0_be 12 = .ok (.invokevirtual 438, 3) := dk_182 1 182 (dk_at dksX0_be_0 12 rfl rfl)
theorem dX0_be_15 : decode cX0_be 15 = .ok (.aload_n 0, 1) := dk_42 (dk_at dksX0_be_0 15 rfl rfl)
theorem dX0_be_16 : decode cX0_be 16 = .ok (.getfield 114, 3) := dk_180 0 114 (dk_at dksX0_be_0 16 rfl rfl)
theorem dX0_be_19 : decode cX0_be 19 = .ok (.iload_n 1, 1) := dk_27 (dk_at dksX0_be_0 19 rfl rfl)
theorem dX0_be_20 : decode cX0_be 20 = .ok (.aload_n 3, 1) := dk_45 (dk_at dksX0_be_0 20 rfl rfl)
theorem dX0_be_21 : decode cX0_be 21 = .ok (.aastore, 1) := dk_83 (dk_at dksX0_be_0 21 rfl rfl)
theorem dX0_be_22 : decode cX0_be 22 = .ok (.return_, 1) := dk_177 (dk_at dksX0_be_0 22 rfl rfl)
abbrev cX0_pair : ByteArray := prog_1_method_62_code
def yX0_pair : MethodName := ⟨RX0, "pair", "(III)I"⟩
def dkwX0_pair_2 : List UInt8 := [50, 29, 182, 1, 197, 167, 0, 5, 16, 154, 172]
abbrev dktX0_pair_2 : List UInt8 := dkwX0_pair_2 ++ []
def dkwX0_pair_1 : List UInt8 := [29, 133, 9, 20, 1, 195, 184, 0, 170, 153, 0, 23, 42, 42, 180, 0, 114, 27, 50, 42, 180, 0, 114, 28]
abbrev dktX0_pair_1 : List UInt8 := dkwX0_pair_1 ++ dktX0_pair_2
def dkwX0_pair_0 : List UInt8 := [42, 27, 182, 1, 160, 153, 0, 16, 42, 28, 182, 1, 160, 153, 0, 8, 27, 28, 160, 0, 6, 16, 155, 172]
abbrev dktX0_pair_0 : List UInt8 := dkwX0_pair_0 ++ dktX0_pair_1
theorem dksX0_pair_0 : cX0_pair.data.toList.drop 0 = dktX0_pair_0 := by decide +kernel
theorem dksX0_pair_1 : cX0_pair.data.toList.drop 24 = dktX0_pair_1 := dk_seg dksX0_pair_0 24 rfl rfl
theorem dksX0_pair_2 : cX0_pair.data.toList.drop 48 = dktX0_pair_2 := dk_seg dksX0_pair_1 24 rfl rfl
theorem dX0_pair_0 : decode cX0_pair 0 = .ok (.aload_n 0, 1) := dk_42 (dk_at dksX0_pair_0 0 rfl rfl)
theorem dX0_pair_1 : decode cX0_pair 1 = .ok (.iload_n 1, 1) := dk_27 (dk_at dksX0_pair_0 1 rfl rfl)
theorem dX0_pair_2 : decode cX0_pair 2 = .ok (.invokevirtual 416, 3) := dk_182 1 160 (dk_at dksX0_pair_0 2 rfl rfl)
theorem dX0_pair_5 : decode cX0_pair 5 = .ok (.ifCond .eq 16, 3) := dk_153 0 16 (dk_at dksX0_pair_0 5 rfl rfl)
theorem dX0_pair_8 : decode cX0_pair 8 = .ok (.aload_n 0, 1) := dk_42 (dk_at dksX0_pair_0 8 rfl rfl)
theorem dX0_pair_9 : decode cX0_pair 9 = .ok (.iload_n 2, 1) := dk_28 (dk_at dksX0_pair_0 9 rfl rfl)
theorem dX0_pair_10 : decode cX0_pair 10 = .ok (.invokevirtual 416, 3) := dk_182 1 160 (dk_at dksX0_pair_0 10 rfl rfl)
theorem dX0_pair_13 : decode cX0_pair 13 = .ok (.ifCond .eq 8, 3) := dk_153 0 8 (dk_at dksX0_pair_0 13 rfl rfl)
theorem dX0_pair_16 : decode cX0_pair 16 = .ok (.iload_n 1, 1) := dk_27 (dk_at dksX0_pair_0 16 rfl rfl)
theorem dX0_pair_17 : decode cX0_pair 17 = .ok (.iload_n 2, 1) := dk_28 (dk_at dksX0_pair_0 17 rfl rfl)
theorem dX0_pair_18 : decode cX0_pair 18 = .ok (.if_icmp .ne 6, 3) := dk_160 0 6 (dk_at dksX0_pair_0 18 rfl rfl)
theorem dX0_pair_21 : decode cX0_pair 21 = .ok (.bipush (-101), 2) := dk_16 155 (dk_at dksX0_pair_0 21 rfl rfl)
theorem dX0_pair_23 : decode cX0_pair 23 = .ok (.ireturn, 1) := dk_172 (dk_at dksX0_pair_0 23 rfl rfl)
theorem dX0_pair_24 : decode cX0_pair 24 = .ok (.iload_n 3, 1) := dk_29 (dk_at dksX0_pair_1 0 rfl rfl)
theorem dX0_pair_25 : decode cX0_pair 25 = .ok (.i2l, 1) := dk_133 (dk_at dksX0_pair_1 1 rfl rfl)
theorem dX0_pair_26 : decode cX0_pair 26 = .ok (.lconst 0, 1) := dk_9 (dk_at dksX0_pair_1 2 rfl rfl)
theorem dX0_pair_27 : decode cX0_pair 27 = .ok (.ldc2_w 451, 3) := dk_20 1 195 (dk_at dksX0_pair_1 3 rfl rfl)
theorem dX0_pair_30 : decode cX0_pair 30 = .ok (.invokestatic 170, 3) := dk_184 0 170 (dk_at dksX0_pair_1 6 rfl rfl)
theorem dX0_pair_33 : decode cX0_pair 33 = .ok (.ifCond .eq 23, 3) := dk_153 0 23 (dk_at dksX0_pair_1 9 rfl rfl)
theorem dX0_pair_36 : decode cX0_pair 36 = .ok (.aload_n 0, 1) := dk_42 (dk_at dksX0_pair_1 12 rfl rfl)
theorem dX0_pair_37 : decode cX0_pair 37 = .ok (.aload_n 0, 1) := dk_42 (dk_at dksX0_pair_1 13 rfl rfl)
theorem dX0_pair_38 : decode cX0_pair 38 = .ok (.getfield 114, 3) := dk_180 0 114 (dk_at dksX0_pair_1 14 rfl rfl)
theorem dX0_pair_41 : decode cX0_pair 41 = .ok (.iload_n 1, 1) := dk_27 (dk_at dksX0_pair_1 17 rfl rfl)
theorem dX0_pair_42 : decode cX0_pair 42 = .ok (.aaload, 1) := dk_50 (dk_at dksX0_pair_1 18 rfl rfl)
theorem dX0_pair_43 : decode cX0_pair 43 = .ok (.aload_n 0, 1) := dk_42 (dk_at dksX0_pair_1 19 rfl rfl)
theorem dX0_pair_44 : decode cX0_pair 44 = .ok (.getfield 114, 3) := dk_180 0 114 (dk_at dksX0_pair_1 20 rfl rfl)
theorem dX0_pair_47 : decode cX0_pair 47 = .ok (.iload_n 2, 1) := dk_28 (dk_at dksX0_pair_1 23 rfl rfl)
theorem dX0_pair_48 : decode cX0_pair 48 = .ok (.aaload, 1) := dk_50 (dk_at dksX0_pair_2 0 rfl rfl)
theorem dX0_pair_49 : decode cX0_pair 49 = .ok (.iload_n 3, 1) := dk_29 (dk_at dksX0_pair_2 1 rfl rfl)
theorem dX0_pair_50 : decode cX0_pair 50 = .ok (.invokevirtual 453, 3) := dk_182 1 197 (dk_at dksX0_pair_2 2 rfl rfl)
theorem dX0_pair_53 : decode cX0_pair 53 = .ok (.goto 5, 3) := dk_167 0 5 (dk_at dksX0_pair_2 5 rfl rfl)
theorem dX0_pair_56 : decode cX0_pair 56 = .ok (.bipush (-102), 2) := dk_16 154 (dk_at dksX0_pair_2 8 rfl rfl)
theorem dX0_pair_58 : decode cX0_pair 58 = .ok (.ireturn, 1) := dk_172 (dk_at dksX0_pair_2 10 rfl rfl)
abbrev cX0_tellPair : ByteArray := prog_1_method_61_code
def yX0_tellPair : MethodName := ⟨RX0, "tellPair", "(LDictProof$Instance;LDictProof$Instance;I)I"⟩
def dkwX0_tellPair_1 : List UInt8 := [167, 0, 9, 42, 43, 44, 182, 1, 53, 54, 4, 21, 4, 153, 0, 7, 4, 167, 0, 4, 3, 172]
abbrev dktX0_tellPair_1 : List UInt8 := dkwX0_tellPair_1 ++ []
def dkwX0_tellPair_0 : List UInt8 := [29, 154, 0, 12, 42, 43, 44, 182, 1, 189, 167, 0, 23, 29, 4, 160, 0, 12, 42, 43, 44, 182, 1, 192]
abbrev dktX0_tellPair_0 : List UInt8 := dkwX0_tellPair_0 ++ dktX0_tellPair_1
theorem dksX0_tellPair_0 : cX0_tellPair.data.toList.drop 0 = dktX0_tellPair_0 := by decide +kernel
theorem dksX0_tellPair_1 : cX0_tellPair.data.toList.drop 24 = dktX0_tellPair_1 := dk_seg dksX0_tellPair_0 24 rfl rfl
theorem dX0_tellPair_0 : decode cX0_tellPair 0 = .ok (.iload_n 3, 1) := dk_29 (dk_at dksX0_tellPair_0 0 rfl rfl)
theorem dX0_tellPair_1 : decode cX0_tellPair 1 = .ok (.ifCond .ne 12, 3) := dk_154 0 12 (dk_at dksX0_tellPair_0 1 rfl rfl)
theorem dX0_tellPair_4 : decode cX0_tellPair 4 = .ok (.aload_n 0, 1) := dk_42 (dk_at dksX0_tellPair_0 4 rfl rfl)
theorem dX0_tellPair_5 : decode cX0_tellPair 5 = .ok (.aload_n 1, 1) := dk_43 (dk_at dksX0_tellPair_0 5 rfl rfl)
theorem dX0_tellPair_6 : decode cX0_tellPair 6 = .ok (.aload_n 2, 1) := dk_44 (dk_at dksX0_tellPair_0 6 rfl rfl)
theorem dX0_tellPair_7 : decode cX0_tellPair 7 = .ok (.invokevirtual 445, 3) := dk_182 1 189 (dk_at dksX0_tellPair_0 7 rfl rfl)
theorem dX0_tellPair_10 : decode cX0_tellPair 10 = .ok (.goto 23, 3) := dk_167 0 23 (dk_at dksX0_tellPair_0 10 rfl rfl)
theorem dX0_tellPair_13 : decode cX0_tellPair 13 = .ok (.iload_n 3, 1) := dk_29 (dk_at dksX0_tellPair_0 13 rfl rfl)
theorem dX0_tellPair_14 : decode cX0_tellPair 14 = .ok (.iconst 1, 1) := dk_4 (dk_at dksX0_tellPair_0 14 rfl rfl)
theorem dX0_tellPair_15 : decode cX0_tellPair 15 = .ok (.if_icmp .ne 12, 3) := dk_160 0 12 (dk_at dksX0_tellPair_0 15 rfl rfl)
theorem dX0_tellPair_18 : decode cX0_tellPair 18 = .ok (.aload_n 0, 1) := dk_42 (dk_at dksX0_tellPair_0 18 rfl rfl)
theorem dX0_tellPair_19 : decode cX0_tellPair 19 = .ok (.aload_n 1, 1) := dk_43 (dk_at dksX0_tellPair_0 19 rfl rfl)
theorem dX0_tellPair_20 : decode cX0_tellPair 20 = .ok (.aload_n 2, 1) := dk_44 (dk_at dksX0_tellPair_0 20 rfl rfl)
theorem dX0_tellPair_21 : decode cX0_tellPair 21 = .ok (.invokevirtual 448, 3) := dk_182 1 192 (dk_at dksX0_tellPair_0 21 rfl rfl)
theorem dX0_tellPair_24 : decode cX0_tellPair 24 = .ok (.goto 9, 3) := dk_167 0 9 (dk_at dksX0_tellPair_1 0 rfl rfl)
theorem dX0_tellPair_27 : decode cX0_tellPair 27 = .ok (.aload_n 0, 1) := dk_42 (dk_at dksX0_tellPair_1 3 rfl rfl)
theorem dX0_tellPair_28 : decode cX0_tellPair 28 = .ok (.aload_n 1, 1) := dk_43 (dk_at dksX0_tellPair_1 4 rfl rfl)
theorem dX0_tellPair_29 : decode cX0_tellPair 29 = .ok (.aload_n 2, 1) := dk_44 (dk_at dksX0_tellPair_1 5 rfl rfl)
theorem dX0_tellPair_30 : decode cX0_tellPair 30 = .ok (.invokevirtual 309, 3) := dk_182 1 53 (dk_at dksX0_tellPair_1 6 rfl rfl)
theorem dX0_tellPair_33 : decode cX0_tellPair 33 = .ok (.istore 4, 2) := dk_54 4 (dk_at dksX0_tellPair_1 9 rfl rfl)
theorem dX0_tellPair_35 : decode cX0_tellPair 35 = .ok (.iload 4, 2) := dk_21 4 (dk_at dksX0_tellPair_1 11 rfl rfl)
theorem dX0_tellPair_37 : decode cX0_tellPair 37 = .ok (.ifCond .eq 7, 3) := dk_153 0 7 (dk_at dksX0_tellPair_1 13 rfl rfl)
theorem dX0_tellPair_40 : decode cX0_tellPair 40 = .ok (.iconst 1, 1) := dk_4 (dk_at dksX0_tellPair_1 16 rfl rfl)
theorem dX0_tellPair_41 : decode cX0_tellPair 41 = .ok (.goto 4, 3) := dk_167 0 4 (dk_at dksX0_tellPair_1 17 rfl rfl)
theorem dX0_tellPair_44 : decode cX0_tellPair 44 = .ok (.iconst 0, 1) := dk_3 (dk_at dksX0_tellPair_1 20 rfl rfl)
theorem dX0_tellPair_45 : decode cX0_tellPair 45 = .ok (.ireturn, 1) := dk_172 (dk_at dksX0_tellPair_1 21 rfl rfl)
abbrev cX0_isOverlap : ByteArray := prog_1_method_59_code
def yX0_isOverlap : MethodName := ⟨RX0, "isOverlap", "(LDictProof$Instance;LDictProof$Instance;)Z"⟩
def dkwX0_isOverlap_2 : List UInt8 := [167, 0, 4, 3, 172]
abbrev dktX0_isOverlap_2 : List UInt8 := dkwX0_isOverlap_2 ++ []
def dkwX0_isOverlap_1 : List UInt8 := [153, 0, 27, 42, 180, 0, 132, 16, 6, 43, 180, 0, 245, 104, 44, 180, 0, 245, 96, 51, 153, 0, 7, 4]
abbrev dktX0_isOverlap_1 : List UInt8 := dkwX0_isOverlap_1 ++ dktX0_isOverlap_2
def dkwX0_isOverlap_0 : List UInt8 := [43, 180, 0, 248, 44, 180, 0, 248, 160, 0, 41, 43, 182, 1, 40, 153, 0, 34, 44, 182, 1, 40]
abbrev dktX0_isOverlap_0 : List UInt8 := dkwX0_isOverlap_0 ++ dktX0_isOverlap_1
theorem dksX0_isOverlap_0 : cX0_isOverlap.data.toList.drop 0 = dktX0_isOverlap_0 := by decide +kernel
theorem dksX0_isOverlap_1 : cX0_isOverlap.data.toList.drop 22 = dktX0_isOverlap_1 := dk_seg dksX0_isOverlap_0 22 rfl rfl
theorem dksX0_isOverlap_2 : cX0_isOverlap.data.toList.drop 46 = dktX0_isOverlap_2 := dk_seg dksX0_isOverlap_1 24 rfl rfl
theorem dX0_isOverlap_0 : decode cX0_isOverlap 0 = .ok (.aload_n 1, 1) := dk_43 (dk_at dksX0_isOverlap_0 0 rfl rfl)
theorem dX0_isOverlap_1 : decode cX0_isOverlap 1 = .ok (.getfield 248, 3) := dk_180 0 248 (dk_at dksX0_isOverlap_0 1 rfl rfl)
theorem dX0_isOverlap_4 : decode cX0_isOverlap 4 = .ok (.aload_n 2, 1) := dk_44 (dk_at dksX0_isOverlap_0 4 rfl rfl)
theorem dX0_isOverlap_5 : decode cX0_isOverlap 5 = .ok (.getfield 248, 3) := dk_180 0 248 (dk_at dksX0_isOverlap_0 5 rfl rfl)
theorem dX0_isOverlap_8 : decode cX0_isOverlap 8 = .ok (.if_icmp .ne 41, 3) := dk_160 0 41 (dk_at dksX0_isOverlap_0 8 rfl rfl)
theorem dX0_isOverlap_11 : decode cX0_isOverlap 11 = .ok (.aload_n 1, 1) := dk_43 (dk_at dksX0_isOverlap_0 11 rfl rfl)
theorem dX0_isOverlap_12 : decode cX0_isOverlap 12 = .ok (.invokevirtual 296, 3) := dk_182 1 40 (dk_at dksX0_isOverlap_0 12 rfl rfl)
theorem dX0_isOverlap_15 : decode cX0_isOverlap 15 = .ok (.ifCond .eq 34, 3) := dk_153 0 34 (dk_at dksX0_isOverlap_0 15 rfl rfl)
theorem dX0_isOverlap_18 : decode cX0_isOverlap 18 = .ok (.aload_n 2, 1) := dk_44 (dk_at dksX0_isOverlap_0 18 rfl rfl)
theorem dX0_isOverlap_19 : decode cX0_isOverlap 19 = .ok (.invokevirtual 296, 3) := dk_182 1 40 (dk_at dksX0_isOverlap_0 19 rfl rfl)
theorem dX0_isOverlap_22 : decode cX0_isOverlap 22 = .ok (.ifCond .eq 27, 3) := dk_153 0 27 (dk_at dksX0_isOverlap_1 0 rfl rfl)
theorem dX0_isOverlap_25 : decode cX0_isOverlap 25 = .ok (.aload_n 0, 1) := dk_42 (dk_at dksX0_isOverlap_1 3 rfl rfl)
theorem dX0_isOverlap_26 : decode cX0_isOverlap 26 = .ok (.getfield 132, 3) := dk_180 0 132 (dk_at dksX0_isOverlap_1 4 rfl rfl)
theorem dX0_isOverlap_29 : decode cX0_isOverlap 29 = .ok (.bipush 6, 2) := dk_16 6 (dk_at dksX0_isOverlap_1 7 rfl rfl)
theorem dX0_isOverlap_31 : decode cX0_isOverlap 31 = .ok (.aload_n 1, 1) := dk_43 (dk_at dksX0_isOverlap_1 9 rfl rfl)
theorem dX0_isOverlap_32 : decode cX0_isOverlap 32 = .ok (.getfield 245, 3) := dk_180 0 245 (dk_at dksX0_isOverlap_1 10 rfl rfl)
theorem dX0_isOverlap_35 : decode cX0_isOverlap 35 = .ok (.imul, 1) := dk_104 (dk_at dksX0_isOverlap_1 13 rfl rfl)
theorem dX0_isOverlap_36 : decode cX0_isOverlap 36 = .ok (.aload_n 2, 1) := dk_44 (dk_at dksX0_isOverlap_1 14 rfl rfl)
theorem dX0_isOverlap_37 : decode cX0_isOverlap 37 = .ok (.getfield 245, 3) := dk_180 0 245 (dk_at dksX0_isOverlap_1 15 rfl rfl)
theorem dX0_isOverlap_40 : decode cX0_isOverlap 40 = .ok (.iadd, 1) := dk_96 (dk_at dksX0_isOverlap_1 18 rfl rfl)
theorem dX0_isOverlap_41 : decode cX0_isOverlap 41 = .ok (.baload, 1) := dk_51 (dk_at dksX0_isOverlap_1 19 rfl rfl)
theorem dX0_isOverlap_42 : decode cX0_isOverlap 42 = .ok (.ifCond .eq 7, 3) := dk_153 0 7 (dk_at dksX0_isOverlap_1 20 rfl rfl)
theorem dX0_isOverlap_45 : decode cX0_isOverlap 45 = .ok (.iconst 1, 1) := dk_4 (dk_at dksX0_isOverlap_1 23 rfl rfl)
theorem dX0_isOverlap_46 : decode cX0_isOverlap 46 = .ok (.goto 4, 3) := dk_167 0 4 (dk_at dksX0_isOverlap_2 0 rfl rfl)
theorem dX0_isOverlap_49 : decode cX0_isOverlap 49 = .ok (.iconst 0, 1) := dk_3 (dk_at dksX0_isOverlap_2 3 rfl rfl)
theorem dX0_isOverlap_50 : decode cX0_isOverlap 50 = .ok (.ireturn, 1) := dk_172 (dk_at dksX0_isOverlap_2 4 rfl rfl)
abbrev cX0_isClash : ByteArray := prog_1_method_60_code
def yX0_isClash : MethodName := ⟨RX0, "isClash", "(LDictProof$Instance;LDictProof$Instance;)Z"⟩
def dkwX0_isClash_2 : List UInt8 := [153, 0, 7, 4, 167, 0, 4, 3, 172]
abbrev dktX0_isClash_2 : List UInt8 := dkwX0_isClash_2 ++ []
def dkwX0_isClash_1 : List UInt8 := [42, 43, 44, 182, 1, 189, 153, 0, 25, 29, 154, 0, 17, 43, 182, 1, 60, 154, 0, 10, 44, 182, 1, 60]
abbrev dktX0_isClash_1 : List UInt8 := dkwX0_isClash_1 ++ dktX0_isClash_2
def dkwX0_isClash_0 : List UInt8 := [42, 43, 44, 182, 1, 53, 154, 0, 16, 42, 44, 43, 182, 1, 53, 154, 0, 7, 4, 167, 0, 4, 3, 62]
abbrev dktX0_isClash_0 : List UInt8 := dkwX0_isClash_0 ++ dktX0_isClash_1
theorem dksX0_isClash_0 : cX0_isClash.data.toList.drop 0 = dktX0_isClash_0 := by decide +kernel
theorem dksX0_isClash_1 : cX0_isClash.data.toList.drop 24 = dktX0_isClash_1 := dk_seg dksX0_isClash_0 24 rfl rfl
theorem dksX0_isClash_2 : cX0_isClash.data.toList.drop 48 = dktX0_isClash_2 := dk_seg dksX0_isClash_1 24 rfl rfl
theorem dX0_isClash_0 : decode cX0_isClash 0 = .ok (.aload_n 0, 1) := dk_42 (dk_at dksX0_isClash_0 0 rfl rfl)
theorem dX0_isClash_1 : decode cX0_isClash 1 = .ok (.aload_n 1, 1) := dk_43 (dk_at dksX0_isClash_0 1 rfl rfl)
theorem dX0_isClash_2 : decode cX0_isClash 2 = .ok (.aload_n 2, 1) := dk_44 (dk_at dksX0_isClash_0 2 rfl rfl)
theorem dX0_isClash_3 : decode cX0_isClash 3 = .ok (.invokevirtual 309, 3) := dk_182 1 53 (dk_at dksX0_isClash_0 3 rfl rfl)
theorem dX0_isClash_6 : decode cX0_isClash 6 = .ok (.ifCond .ne 16, 3) := dk_154 0 16 (dk_at dksX0_isClash_0 6 rfl rfl)
theorem dX0_isClash_9 : decode cX0_isClash 9 = .ok (.aload_n 0, 1) := dk_42 (dk_at dksX0_isClash_0 9 rfl rfl)
theorem dX0_isClash_10 : decode cX0_isClash 10 = .ok (.aload_n 2, 1) := dk_44 (dk_at dksX0_isClash_0 10 rfl rfl)
theorem dX0_isClash_11 : decode cX0_isClash 11 = .ok (.aload_n 1, 1) := dk_43 (dk_at dksX0_isClash_0 11 rfl rfl)
theorem dX0_isClash_12 : decode cX0_isClash 12 = .ok (.invokevirtual 309, 3) := dk_182 1 53 (dk_at dksX0_isClash_0 12 rfl rfl)
theorem dX0_isClash_15 : decode cX0_isClash 15 = .ok (.ifCond .ne 7, 3) := dk_154 0 7 (dk_at dksX0_isClash_0 15 rfl rfl)
theorem dX0_isClash_18 : decode cX0_isClash 18 = .ok (.iconst 1, 1) := dk_4 (dk_at dksX0_isClash_0 18 rfl rfl)
theorem dX0_isClash_19 : decode cX0_isClash 19 = .ok (.goto 4, 3) := dk_167 0 4 (dk_at dksX0_isClash_0 19 rfl rfl)
theorem dX0_isClash_22 : decode cX0_isClash 22 = .ok (.iconst 0, 1) := dk_3 (dk_at dksX0_isClash_0 22 rfl rfl)
theorem dX0_isClash_23 : decode cX0_isClash 23 = .ok (.istore_n 3, 1) := dk_62 (dk_at dksX0_isClash_0 23 rfl rfl)
theorem dX0_isClash_24 : decode cX0_isClash 24 = .ok (.aload_n 0, 1) := dk_42 (dk_at dksX0_isClash_1 0 rfl rfl)
theorem dX0_isClash_25 : decode cX0_isClash 25 = .ok (.aload_n 1, 1) := dk_43 (dk_at dksX0_isClash_1 1 rfl rfl)
theorem dX0_isClash_26 : decode cX0_isClash 26 = .ok (.aload_n 2, 1) := dk_44 (dk_at dksX0_isClash_1 2 rfl rfl)
theorem dX0_isClash_27 : decode cX0_isClash 27 = .ok (.invokevirtual 445, 3) := dk_182 1 189 (dk_at dksX0_isClash_1 3 rfl rfl)
theorem dX0_isClash_30 : decode cX0_isClash 30 = .ok (.ifCond .eq 25, 3) := dk_153 0 25 (dk_at dksX0_isClash_1 6 rfl rfl)
theorem dX0_isClash_33 : decode cX0_isClash 33 = .ok (.iload_n 3, 1) := dk_29 (dk_at dksX0_isClash_1 9 rfl rfl)
theorem dX0_isClash_34 : decode cX0_isClash 34 = .ok (.ifCond .ne 17, 3) := dk_154 0 17 (dk_at dksX0_isClash_1 10 rfl rfl)
theorem dX0_isClash_37 : decode cX0_isClash 37 = .ok (.aload_n 1, 1) := dk_43 (dk_at dksX0_isClash_1 13 rfl rfl)
theorem dX0_isClash_38 : decode cX0_isClash 38 = .ok (.invokevirtual 316, 3) := dk_182 1 60 (dk_at dksX0_isClash_1 14 rfl rfl)
theorem dX0_isClash_41 : decode cX0_isClash 41 = .ok (.ifCond .ne 10, 3) := dk_154 0 10 (dk_at dksX0_isClash_1 17 rfl rfl)
theorem dX0_isClash_44 : decode cX0_isClash 44 = .ok (.aload_n 2, 1) := dk_44 (dk_at dksX0_isClash_1 20 rfl rfl)
theorem dX0_isClash_45 : decode cX0_isClash 45 = .ok (.invokevirtual 316, 3) := dk_182 1 60 (dk_at dksX0_isClash_1 21 rfl rfl)
theorem dX0_isClash_48 : decode cX0_isClash 48 = .ok (.ifCond .eq 7, 3) := dk_153 0 7 (dk_at dksX0_isClash_2 0 rfl rfl)
theorem dX0_isClash_51 : decode cX0_isClash 51 = .ok (.iconst 1, 1) := dk_4 (dk_at dksX0_isClash_2 3 rfl rfl)
theorem dX0_isClash_52 : decode cX0_isClash 52 = .ok (.goto 4, 3) := dk_167 0 4 (dk_at dksX0_isClash_2 4 rfl rfl)
theorem dX0_isClash_55 : decode cX0_isClash 55 = .ok (.iconst 0, 1) := dk_3 (dk_at dksX0_isClash_2 7 rfl rfl)
theorem dX0_isClash_56 : decode cX0_isClash 56 = .ok (.ireturn, 1) := dk_172 (dk_at dksX0_isClash_2 8 rfl rfl)
abbrev cX0_fits : ByteArray := prog_1_method_63_code
def yX0_fits : MethodName := ⟨RX0, "fits", "(II)I"⟩
def dkwX0_fits_2 : List UInt8 := [3, 172]
abbrev dktX0_fits_2 : List UInt8 := dkwX0_fits_2 ++ []
def dkwX0_fits_1 : List UInt8 := [50, 180, 0, 251, 42, 180, 0, 117, 28, 50, 5, 189, 0, 12, 184, 0, 29, 153, 0, 7, 4, 167, 0, 4]
abbrev dktX0_fits_1 : List UInt8 := dkwX0_fits_1 ++ dktX0_fits_2
def dkwX0_fits_0 : List UInt8 := [42, 27, 182, 1, 160, 153, 0, 11, 42, 28, 182, 1, 126, 154, 0, 6, 16, 155, 172, 42, 180, 0, 114, 27]
abbrev dktX0_fits_0 : List UInt8 := dkwX0_fits_0 ++ dktX0_fits_1
theorem dksX0_fits_0 : cX0_fits.data.toList.drop 0 = dktX0_fits_0 := by decide +kernel
theorem dksX0_fits_1 : cX0_fits.data.toList.drop 24 = dktX0_fits_1 := dk_seg dksX0_fits_0 24 rfl rfl
theorem dksX0_fits_2 : cX0_fits.data.toList.drop 48 = dktX0_fits_2 := dk_seg dksX0_fits_1 24 rfl rfl
theorem dX0_fits_0 : decode cX0_fits 0 = .ok (.aload_n 0, 1) := dk_42 (dk_at dksX0_fits_0 0 rfl rfl)
theorem dX0_fits_1 : decode cX0_fits 1 = .ok (.iload_n 1, 1) := dk_27 (dk_at dksX0_fits_0 1 rfl rfl)
theorem dX0_fits_2 : decode cX0_fits 2 = .ok (.invokevirtual 416, 3) := dk_182 1 160 (dk_at dksX0_fits_0 2 rfl rfl)
theorem dX0_fits_5 : decode cX0_fits 5 = .ok (.ifCond .eq 11, 3) := dk_153 0 11 (dk_at dksX0_fits_0 5 rfl rfl)
theorem dX0_fits_8 : decode cX0_fits 8 = .ok (.aload_n 0, 1) := dk_42 (dk_at dksX0_fits_0 8 rfl rfl)
theorem dX0_fits_9 : decode cX0_fits 9 = .ok (.iload_n 2, 1) := dk_28 (dk_at dksX0_fits_0 9 rfl rfl)
theorem dX0_fits_10 : decode cX0_fits 10 = .ok (.invokevirtual 382, 3) := dk_182 1 126 (dk_at dksX0_fits_0 10 rfl rfl)
theorem dX0_fits_13 : decode cX0_fits 13 = .ok (.ifCond .ne 6, 3) := dk_154 0 6 (dk_at dksX0_fits_0 13 rfl rfl)
theorem dX0_fits_16 : decode cX0_fits 16 = .ok (.bipush (-101), 2) := dk_16 155 (dk_at dksX0_fits_0 16 rfl rfl)
theorem dX0_fits_18 : decode cX0_fits 18 = .ok (.ireturn, 1) := dk_172 (dk_at dksX0_fits_0 18 rfl rfl)
theorem dX0_fits_19 : decode cX0_fits 19 = .ok (.aload_n 0, 1) := dk_42 (dk_at dksX0_fits_0 19 rfl rfl)
theorem dX0_fits_20 : decode cX0_fits 20 = .ok (.getfield 114, 3) := dk_180 0 114 (dk_at dksX0_fits_0 20 rfl rfl)
theorem dX0_fits_23 : decode cX0_fits 23 = .ok (.iload_n 1, 1) := dk_27 (dk_at dksX0_fits_0 23 rfl rfl)
theorem dX0_fits_24 : decode cX0_fits 24 = .ok (.aaload, 1) := dk_50 (dk_at dksX0_fits_1 0 rfl rfl)
theorem dX0_fits_25 : decode cX0_fits 25 = .ok (.getfield 251, 3) := dk_180 0 251 (dk_at dksX0_fits_1 1 rfl rfl)
theorem dX0_fits_28 : decode cX0_fits 28 = .ok (.aload_n 0, 1) := dk_42 (dk_at dksX0_fits_1 4 rfl rfl)
theorem dX0_fits_29 : decode cX0_fits 29 = .ok (.getfield 117, 3) := dk_180 0 117 (dk_at dksX0_fits_1 5 rfl rfl)
theorem dX0_fits_32 : decode cX0_fits 32 = .ok (.iload_n 2, 1) := dk_28 (dk_at dksX0_fits_1 8 rfl rfl)
theorem dX0_fits_33 : decode cX0_fits 33 = .ok (.aaload, 1) := dk_50 (dk_at dksX0_fits_1 9 rfl rfl)
theorem dX0_fits_34 : decode cX0_fits 34 = .ok (.iconst 2, 1) := dk_5 (dk_at dksX0_fits_1 10 rfl rfl)
theorem dX0_fits_35 : decode cX0_fits 35 = .ok (.anewarray 12, 3) := dk_189 0 12 (dk_at dksX0_fits_1 11 rfl rfl)
theorem dX0_fits_38 : decode cX0_fits 38 = .ok (.invokestatic 29, 3) := dk_184 0 29 (dk_at dksX0_fits_1 14 rfl rfl)
theorem dX0_fits_41 : decode cX0_fits 41 = .ok (.ifCond .eq 7, 3) := dk_153 0 7 (dk_at dksX0_fits_1 17 rfl rfl)
theorem dX0_fits_44 : decode cX0_fits 44 = .ok (.iconst 1, 1) := dk_4 (dk_at dksX0_fits_1 20 rfl rfl)
theorem dX0_fits_45 : decode cX0_fits 45 = .ok (.goto 4, 3) := dk_167 0 4 (dk_at dksX0_fits_1 21 rfl rfl)
theorem dX0_fits_48 : decode cX0_fits 48 = .ok (.iconst 0, 1) := dk_3 (dk_at dksX0_fits_2 0 rfl rfl)
theorem dX0_fits_49 : decode cX0_fits 49 = .ok (.ireturn, 1) := dk_172 (dk_at dksX0_fits_2 1 rfl rfl)
abbrev cX0_see : ByteArray := prog_1_method_64_code
def yX0_see : MethodName := ⟨RX0, "see", "(IIZ)I"⟩
def dkwX0_see_3 : List UInt8 := [180, 1, 20, 4, 96, 181, 1, 20, 42, 180, 1, 20, 172]
abbrev dktX0_see_3 : List UInt8 := dkwX0_see_3 ++ []
def dkwX0_see_2 : List UInt8 := [79, 42, 180, 0, 142, 42, 180, 1, 20, 28, 79, 42, 180, 0, 145, 42, 180, 1, 20, 29, 84, 42, 89]
abbrev dktX0_see_2 : List UInt8 := dkwX0_see_2 ++ dktX0_see_3
def dkwX0_see_1 : List UInt8 := [16, 154, 172, 42, 180, 1, 20, 16, 6, 160, 0, 6, 16, 152, 172, 42, 180, 0, 139, 42, 180, 1, 20, 27]
abbrev dktX0_see_1 : List UInt8 := dkwX0_see_1 ++ dktX0_see_2
def dkwX0_see_0 : List UInt8 := [42, 27, 182, 1, 160, 154, 0, 6, 16, 155, 172, 28, 133, 9, 20, 1, 29, 184, 0, 170, 154, 0, 6]
abbrev dktX0_see_0 : List UInt8 := dkwX0_see_0 ++ dktX0_see_1
theorem dksX0_see_0 : cX0_see.data.toList.drop 0 = dktX0_see_0 := by decide +kernel
theorem dksX0_see_1 : cX0_see.data.toList.drop 23 = dktX0_see_1 := dk_seg dksX0_see_0 23 rfl rfl
theorem dksX0_see_2 : cX0_see.data.toList.drop 47 = dktX0_see_2 := dk_seg dksX0_see_1 24 rfl rfl
theorem dksX0_see_3 : cX0_see.data.toList.drop 70 = dktX0_see_3 := dk_seg dksX0_see_2 23 rfl rfl
theorem dX0_see_0 : decode cX0_see 0 = .ok (.aload_n 0, 1) := dk_42 (dk_at dksX0_see_0 0 rfl rfl)
theorem dX0_see_1 : decode cX0_see 1 = .ok (.iload_n 1, 1) := dk_27 (dk_at dksX0_see_0 1 rfl rfl)
theorem dX0_see_2 : decode cX0_see 2 = .ok (.invokevirtual 416, 3) := dk_182 1 160 (dk_at dksX0_see_0 2 rfl rfl)
theorem dX0_see_5 : decode cX0_see 5 = .ok (.ifCond .ne 6, 3) := dk_154 0 6 (dk_at dksX0_see_0 5 rfl rfl)
theorem dX0_see_8 : decode cX0_see 8 = .ok (.bipush (-101), 2) := dk_16 155 (dk_at dksX0_see_0 8 rfl rfl)
theorem dX0_see_10 : decode cX0_see 10 = .ok (.ireturn, 1) := dk_172 (dk_at dksX0_see_0 10 rfl rfl)
theorem dX0_see_11 : decode cX0_see 11 = .ok (.iload_n 2, 1) := dk_28 (dk_at dksX0_see_0 11 rfl rfl)
theorem dX0_see_12 : decode cX0_see 12 = .ok (.i2l, 1) := dk_133 (dk_at dksX0_see_0 12 rfl rfl)
theorem dX0_see_13 : decode cX0_see 13 = .ok (.lconst 0, 1) := dk_9 (dk_at dksX0_see_0 13 rfl rfl)
theorem dX0_see_14 : decode cX0_see 14 = .ok (.ldc2_w 285, 3) := dk_20 1 29 (dk_at dksX0_see_0 14 rfl rfl)
theorem dX0_see_17 : decode cX0_see 17 = .ok (.invokestatic 170, 3) := dk_184 0 170 (dk_at dksX0_see_0 17 rfl rfl)
theorem dX0_see_20 : decode cX0_see 20 = .ok (.ifCond .ne 6, 3) := dk_154 0 6 (dk_at dksX0_see_0 20 rfl rfl)
theorem dX0_see_23 : decode cX0_see 23 = .ok (.bipush (-102), 2) := dk_16 154 (dk_at dksX0_see_1 0 rfl rfl)
theorem dX0_see_25 : decode cX0_see 25 = .ok (.ireturn, 1) := dk_172 (dk_at dksX0_see_1 2 rfl rfl)
theorem dX0_see_26 : decode cX0_see 26 = .ok (.aload_n 0, 1) := dk_42 (dk_at dksX0_see_1 3 rfl rfl)
theorem dX0_see_27 : decode cX0_see 27 = .ok (.getfield 276, 3) := dk_180 1 20 (dk_at dksX0_see_1 4 rfl rfl)
theorem dX0_see_30 : decode cX0_see 30 = .ok (.bipush 6, 2) := dk_16 6 (dk_at dksX0_see_1 7 rfl rfl)
theorem dX0_see_32 : decode cX0_see 32 = .ok (.if_icmp .ne 6, 3) := dk_160 0 6 (dk_at dksX0_see_1 9 rfl rfl)
theorem dX0_see_35 : decode cX0_see 35 = .ok (.bipush (-104), 2) := dk_16 152 (dk_at dksX0_see_1 12 rfl rfl)
theorem dX0_see_37 : decode cX0_see 37 = .ok (.ireturn, 1) := dk_172 (dk_at dksX0_see_1 14 rfl rfl)
theorem dX0_see_38 : decode cX0_see 38 = .ok (.aload_n 0, 1) := dk_42 (dk_at dksX0_see_1 15 rfl rfl)
theorem dX0_see_39 : decode cX0_see 39 = .ok (.getfield 139, 3) := dk_180 0 139 (dk_at dksX0_see_1 16 rfl rfl)
theorem dX0_see_42 : decode cX0_see 42 = .ok (.aload_n 0, 1) := dk_42 (dk_at dksX0_see_1 19 rfl rfl)
theorem dX0_see_43 : decode cX0_see 43 = .ok (.getfield 276, 3) := dk_180 1 20 (dk_at dksX0_see_1 20 rfl rfl)
theorem dX0_see_46 : decode cX0_see 46 = .ok (.iload_n 1, 1) := dk_27 (dk_at dksX0_see_1 23 rfl rfl)
theorem dX0_see_47 : decode cX0_see 47 = .ok (.iastore, 1) := dk_79 (dk_at dksX0_see_2 0 rfl rfl)
theorem dX0_see_48 : decode cX0_see 48 = .ok (.aload_n 0, 1) := dk_42 (dk_at dksX0_see_2 1 rfl rfl)
theorem dX0_see_49 : decode cX0_see 49 = .ok (.getfield 142, 3) := dk_180 0 142 (dk_at dksX0_see_2 2 rfl rfl)
theorem dX0_see_52 : decode cX0_see 52 = .ok (.aload_n 0, 1) := dk_42 (dk_at dksX0_see_2 5 rfl rfl)
theorem dX0_see_53 : decode cX0_see 53 = .ok (.getfield 276, 3) := dk_180 1 20 (dk_at dksX0_see_2 6 rfl rfl)
theorem dX0_see_56 : decode cX0_see 56 = .ok (.iload_n 2, 1) := dk_28 (dk_at dksX0_see_2 9 rfl rfl)
theorem dX0_see_57 : decode cX0_see 57 = .ok (.iastore, 1) := dk_79 (dk_at dksX0_see_2 10 rfl rfl)
theorem dX0_see_58 : decode cX0_see 58 = .ok (.aload_n 0, 1) := dk_42 (dk_at dksX0_see_2 11 rfl rfl)
theorem dX0_see_59 : decode cX0_see 59 = .ok (.getfield 145, 3) := dk_180 0 145 (dk_at dksX0_see_2 12 rfl rfl)
theorem dX0_see_62 : decode cX0_see 62 = .ok (.aload_n 0, 1) := dk_42 (dk_at dksX0_see_2 15 rfl rfl)
theorem dX0_see_63 : decode cX0_see 63 = .ok (.getfield 276, 3) := dk_180 1 20 (dk_at dksX0_see_2 16 rfl rfl)
theorem dX0_see_66 : decode cX0_see 66 = .ok (.iload_n 3, 1) := dk_29 (dk_at dksX0_see_2 19 rfl rfl)
theorem dX0_see_67 : decode cX0_see 67 = .ok (.bastore, 1) := dk_84 (dk_at dksX0_see_2 20 rfl rfl)
theorem dX0_see_68 : decode cX0_see 68 = .ok (.aload_n 0, 1) := dk_42 (dk_at dksX0_see_2 21 rfl rfl)
theorem dX0_see_69 : decode cX0_see 69 = .ok (.dup, 1) := dk_89 (dk_at dksX0_see_2 22 rfl rfl)
theorem dX0_see_70 : decode cX0_see 70 = .ok (.getfield 276, 3) := dk_180 1 20 (dk_at dksX0_see_3 0 rfl rfl)
theorem dX0_see_73 : decode cX0_see 73 = .ok (.iconst 1, 1) := dk_4 (dk_at dksX0_see_3 3 rfl rfl)
theorem dX0_see_74 : decode cX0_see 74 = .ok (.iadd, 1) := dk_96 (dk_at dksX0_see_3 4 rfl rfl)
theorem dX0_see_75 : decode cX0_see 75 = .ok (.putfield 276, 3) := dk_181 1 20 (dk_at dksX0_see_3 5 rfl rfl)
theorem dX0_see_78 : decode cX0_see 78 = .ok (.aload_n 0, 1) := dk_42 (dk_at dksX0_see_3 8 rfl rfl)
theorem dX0_see_79 : decode cX0_see 79 = .ok (.getfield 276, 3) := dk_180 1 20 (dk_at dksX0_see_3 9 rfl rfl)
theorem dX0_see_82 : decode cX0_see 82 = .ok (.ireturn, 1) := dk_172 (dk_at dksX0_see_3 12 rfl rfl)
abbrev cX0_forget : ByteArray := prog_1_method_65_code
def yX0_forget : MethodName := ⟨RX0, "forget", "()I"⟩
def dkwX0_forget_0 : List UInt8 := [42, 180, 1, 20, 60, 42, 3, 181, 1, 20, 27, 172]
abbrev dktX0_forget_0 : List UInt8 := dkwX0_forget_0 ++ []
theorem dksX0_forget_0 : cX0_forget.data.toList.drop 0 = dktX0_forget_0 := by decide +kernel
theorem dX0_forget_0 : decode cX0_forget 0 = .ok (.aload_n 0, 1) := dk_42 (dk_at dksX0_forget_0 0 rfl rfl)
theorem dX0_forget_1 : decode cX0_forget 1 = .ok (.getfield 276, 3) := dk_180 1 20 (dk_at dksX0_forget_0 1 rfl rfl)
theorem dX0_forget_4 : decode cX0_forget 4 = .ok (.istore_n 1, 1) := dk_60 (dk_at dksX0_forget_0 4 rfl rfl)
theorem dX0_forget_5 : decode cX0_forget 5 = .ok (.aload_n 0, 1) := dk_42 (dk_at dksX0_forget_0 5 rfl rfl)
theorem dX0_forget_6 : decode cX0_forget 6 = .ok (.iconst 0, 1) := dk_3 (dk_at dksX0_forget_0 6 rfl rfl)
theorem dX0_forget_7 : decode cX0_forget 7 = .ok (.putfield 276, 3) := dk_181 1 20 (dk_at dksX0_forget_0 7 rfl rfl)
theorem dX0_forget_10 : decode cX0_forget 10 = .ok (.iload_n 1, 1) := dk_27 (dk_at dksX0_forget_0 10 rfl rfl)
theorem dX0_forget_11 : decode cX0_forget 11 = .ok (.ireturn, 1) := dk_172 (dk_at dksX0_forget_0 11 rfl rfl)
abbrev cX0_drawn : ByteArray := prog_1_method_73_code
def yX0_drawn : MethodName := ⟨RX0, "drawn", "(III)I"⟩
def dkwX0_drawn_2 : List UInt8 := [167, 0, 5, 16, 153, 172]
abbrev dktX0_drawn_2 : List UInt8 := dkwX0_drawn_2 ++ []
def dkwX0_drawn_1 : List UInt8 := [184, 0, 170, 154, 0, 6, 16, 154, 172, 42, 180, 1, 12, 158, 0, 13, 42, 27, 28, 29, 182, 1, 239]
abbrev dktX0_drawn_1 : List UInt8 := dkwX0_drawn_1 ++ dktX0_drawn_2
def dkwX0_drawn_0 : List UInt8 := [27, 133, 10, 20, 1, 237, 184, 0, 170, 153, 0, 19, 28, 155, 0, 15, 29, 133, 9, 20, 1, 195]
abbrev dktX0_drawn_0 : List UInt8 := dkwX0_drawn_0 ++ dktX0_drawn_1
theorem dksX0_drawn_0 : cX0_drawn.data.toList.drop 0 = dktX0_drawn_0 := by decide +kernel
theorem dksX0_drawn_1 : cX0_drawn.data.toList.drop 22 = dktX0_drawn_1 := dk_seg dksX0_drawn_0 22 rfl rfl
theorem dksX0_drawn_2 : cX0_drawn.data.toList.drop 45 = dktX0_drawn_2 := dk_seg dksX0_drawn_1 23 rfl rfl
theorem dX0_drawn_0 : decode cX0_drawn 0 = .ok (.iload_n 1, 1) := dk_27 (dk_at dksX0_drawn_0 0 rfl rfl)
theorem dX0_drawn_1 : decode cX0_drawn 1 = .ok (.i2l, 1) := dk_133 (dk_at dksX0_drawn_0 1 rfl rfl)
theorem dX0_drawn_2 : decode cX0_drawn 2 = .ok (.lconst 1, 1) := dk_10 (dk_at dksX0_drawn_0 2 rfl rfl)
theorem dX0_drawn_3 : decode cX0_drawn 3 = .ok (.ldc2_w 493, 3) := dk_20 1 237 (dk_at dksX0_drawn_0 3 rfl rfl)
theorem dX0_drawn_6 : decode cX0_drawn 6 = .ok (.invokestatic 170, 3) := dk_184 0 170 (dk_at dksX0_drawn_0 6 rfl rfl)
theorem dX0_drawn_9 : decode cX0_drawn 9 = .ok (.ifCond .eq 19, 3) := dk_153 0 19 (dk_at dksX0_drawn_0 9 rfl rfl)
theorem dX0_drawn_12 : decode cX0_drawn 12 = .ok (.iload_n 2, 1) := dk_28 (dk_at dksX0_drawn_0 12 rfl rfl)
theorem dX0_drawn_13 : decode cX0_drawn 13 = .ok (.ifCond .lt 15, 3) := dk_155 0 15 (dk_at dksX0_drawn_0 13 rfl rfl)
theorem dX0_drawn_16 : decode cX0_drawn 16 = .ok (.iload_n 3, 1) := dk_29 (dk_at dksX0_drawn_0 16 rfl rfl)
theorem dX0_drawn_17 : decode cX0_drawn 17 = .ok (.i2l, 1) := dk_133 (dk_at dksX0_drawn_0 17 rfl rfl)
theorem dX0_drawn_18 : decode cX0_drawn 18 = .ok (.lconst 0, 1) := dk_9 (dk_at dksX0_drawn_0 18 rfl rfl)
theorem dX0_drawn_19 : decode cX0_drawn 19 = .ok (.ldc2_w 451, 3) := dk_20 1 195 (dk_at dksX0_drawn_0 19 rfl rfl)
theorem dX0_drawn_22 : decode cX0_drawn 22 = .ok (.invokestatic 170, 3) := dk_184 0 170 (dk_at dksX0_drawn_1 0 rfl rfl)
theorem dX0_drawn_25 : decode cX0_drawn 25 = .ok (.ifCond .ne 6, 3) := dk_154 0 6 (dk_at dksX0_drawn_1 3 rfl rfl)
theorem dX0_drawn_28 : decode cX0_drawn 28 = .ok (.bipush (-102), 2) := dk_16 154 (dk_at dksX0_drawn_1 6 rfl rfl)
theorem dX0_drawn_30 : decode cX0_drawn 30 = .ok (.ireturn, 1) := dk_172 (dk_at dksX0_drawn_1 8 rfl rfl)
theorem dX0_drawn_31 : decode cX0_drawn 31 = .ok (.aload_n 0, 1) := dk_42 (dk_at dksX0_drawn_1 9 rfl rfl)
theorem dX0_drawn_32 : decode cX0_drawn 32 = .ok (.getfield 268, 3) := dk_180 1 12 (dk_at dksX0_drawn_1 10 rfl rfl)
theorem dX0_drawn_35 : decode cX0_drawn 35 = .ok (.ifCond .le 13, 3) := dk_158 0 13 (dk_at dksX0_drawn_1 13 rfl rfl)
theorem dX0_drawn_38 : decode cX0_drawn 38 = .ok (.aload_n 0, 1) := dk_42 (dk_at dksX0_drawn_1 16 rfl rfl)
theorem dX0_drawn_39 : decode cX0_drawn 39 = .ok (.iload_n 1, 1) := dk_27 (dk_at dksX0_drawn_1 17 rfl rfl)
theorem dX0_drawn_40 : decode cX0_drawn 40 = .ok (.iload_n 2, 1) := dk_28 (dk_at dksX0_drawn_1 18 rfl rfl)
theorem dX0_drawn_41 : decode cX0_drawn 41 = .ok (.iload_n 3, 1) := dk_29 (dk_at dksX0_drawn_1 19 rfl rfl)
theorem dX0_drawn_42 : decode cX0_drawn 42 = .ok (.invokevirtual 495, 3) := dk_182 1 239 (dk_at dksX0_drawn_1 20 rfl rfl)
theorem dX0_drawn_45 : decode cX0_drawn 45 = .ok (.goto 5, 3) := dk_167 0 5 (dk_at dksX0_drawn_2 0 rfl rfl)
theorem dX0_drawn_48 : decode cX0_drawn 48 = .ok (.bipush (-103), 2) := dk_16 153 (dk_at dksX0_drawn_2 3 rfl rfl)
theorem dX0_drawn_50 : decode cX0_drawn 50 = .ok (.ireturn, 1) := dk_172 (dk_at dksX0_drawn_2 5 rfl rfl)
abbrev cX0_drawnBy : ByteArray := prog_1_method_72_code
def yX0_drawnBy : MethodName := ⟨RX0, "drawnBy", "(III)I"⟩
def dkwX0_drawnBy_4 : List UInt8 := [167, 0, 17, 29, 4, 160, 0, 8, 21, 5, 167, 0, 7, 42, 180, 1, 222, 172]
abbrev dktX0_drawnBy_4 : List UInt8 := dkwX0_drawnBy_4 ++ []
def dkwX0_drawnBy_3 : List UInt8 := [21, 5, 25, 8, 182, 1, 34, 96, 54, 5, 132, 6, 1, 167, 255, 188, 29, 154, 0, 8, 21, 4]
abbrev dktX0_drawnBy_3 : List UInt8 := dkwX0_drawnBy_3 ++ dktX0_drawnBy_4
def dkwX0_drawnBy_2 : List UInt8 := [25, 8, 183, 1, 78, 182, 1, 81, 180, 1, 85, 4, 160, 0, 7, 4, 167, 0, 4, 3, 96, 54, 4]
abbrev dktX0_drawnBy_2 : List UInt8 := dkwX0_drawnBy_2 ++ dktX0_drawnBy_3
def dkwX0_drawnBy_1 : List UInt8 := [180, 0, 238, 182, 1, 230, 54, 7, 42, 3, 182, 1, 233, 58, 8, 21, 4, 42, 187, 1, 38, 89, 21, 7]
abbrev dktX0_drawnBy_1 : List UInt8 := dkwX0_drawnBy_1 ++ dktX0_drawnBy_2
def dkwX0_drawnBy_0 : List UInt8 := [42, 28, 181, 1, 222, 3, 54, 4, 3, 54, 5, 3, 54, 6, 21, 6, 27, 162, 0, 68, 42, 42]
abbrev dktX0_drawnBy_0 : List UInt8 := dkwX0_drawnBy_0 ++ dktX0_drawnBy_1
theorem dksX0_drawnBy_0 : cX0_drawnBy.data.toList.drop 0 = dktX0_drawnBy_0 := by decide +kernel
theorem dksX0_drawnBy_1 : cX0_drawnBy.data.toList.drop 22 = dktX0_drawnBy_1 := dk_seg dksX0_drawnBy_0 22 rfl rfl
theorem dksX0_drawnBy_2 : cX0_drawnBy.data.toList.drop 46 = dktX0_drawnBy_2 := dk_seg dksX0_drawnBy_1 24 rfl rfl
theorem dksX0_drawnBy_3 : cX0_drawnBy.data.toList.drop 69 = dktX0_drawnBy_3 := dk_seg dksX0_drawnBy_2 23 rfl rfl
theorem dksX0_drawnBy_4 : cX0_drawnBy.data.toList.drop 91 = dktX0_drawnBy_4 := dk_seg dksX0_drawnBy_3 22 rfl rfl
theorem dX0_drawnBy_0 : decode cX0_drawnBy 0 = .ok (.aload_n 0, 1) := dk_42 (dk_at dksX0_drawnBy_0 0 rfl rfl)
theorem dX0_drawnBy_1 : decode cX0_drawnBy 1 = .ok (.iload_n 2, 1) := dk_28 (dk_at dksX0_drawnBy_0 1 rfl rfl)
theorem dX0_drawnBy_2 : decode cX0_drawnBy 2 = .ok (.putfield 478, 3) := dk_181 1 222 (dk_at dksX0_drawnBy_0 2 rfl rfl)
theorem dX0_drawnBy_5 : decode cX0_drawnBy 5 = .ok (.iconst 0, 1) := dk_3 (dk_at dksX0_drawnBy_0 5 rfl rfl)
theorem dX0_drawnBy_6 : decode cX0_drawnBy 6 = .ok (.istore 4, 2) := dk_54 4 (dk_at dksX0_drawnBy_0 6 rfl rfl)
theorem dX0_drawnBy_8 : decode cX0_drawnBy 8 = .ok (.iconst 0, 1) := dk_3 (dk_at dksX0_drawnBy_0 8 rfl rfl)
theorem dX0_drawnBy_9 : decode cX0_drawnBy 9 = .ok (.istore 5, 2) := dk_54 5 (dk_at dksX0_drawnBy_0 9 rfl rfl)
theorem dX0_drawnBy_11 : decode cX0_drawnBy 11 = .ok (.iconst 0, 1) := dk_3 (dk_at dksX0_drawnBy_0 11 rfl rfl)
theorem dX0_drawnBy_12 : decode cX0_drawnBy 12 = .ok (.istore 6, 2) := dk_54 6 (dk_at dksX0_drawnBy_0 12 rfl rfl)
theorem dX0_drawnBy_14 : decode cX0_drawnBy 14 = .ok (.iload 6, 2) := dk_21 6 (dk_at dksX0_drawnBy_0 14 rfl rfl)
theorem dX0_drawnBy_16 : decode cX0_drawnBy 16 = .ok (.iload_n 1, 1) := dk_27 (dk_at dksX0_drawnBy_0 16 rfl rfl)
theorem dX0_drawnBy_17 : decode cX0_drawnBy 17 = .ok (.if_icmp .ge 68, 3) := dk_162 0 68 (dk_at dksX0_drawnBy_0 17 rfl rfl)
theorem dX0_drawnBy_20 : decode cX0_drawnBy 20 = .ok (.aload_n 0, 1) := dk_42 (dk_at dksX0_drawnBy_0 20 rfl rfl)
theorem dX0_drawnBy_21 : decode cX0_drawnBy 21 = .ok (.aload_n 0, 1) := dk_42 (dk_at dksX0_drawnBy_0 21 rfl rfl)
theorem dX0_drawnBy_22 : decode cX0_drawnBy 22 = .ok (.getfield 238, 3) := dk_180 0 238 (dk_at dksX0_drawnBy_1 0 rfl rfl)
theorem dX0_drawnBy_25 : decode cX0_drawnBy 25 = .ok (.invokevirtual 486, 3) := dk_182 1 230 (dk_at dksX0_drawnBy_1 3 rfl rfl)
theorem dX0_drawnBy_28 : decode cX0_drawnBy 28 = .ok (.istore 7, 2) := dk_54 7 (dk_at dksX0_drawnBy_1 6 rfl rfl)
theorem dX0_drawnBy_30 : decode cX0_drawnBy 30 = .ok (.aload_n 0, 1) := dk_42 (dk_at dksX0_drawnBy_1 8 rfl rfl)
theorem dX0_drawnBy_31 : decode cX0_drawnBy 31 = .ok (.iconst 0, 1) := dk_3 (dk_at dksX0_drawnBy_1 9 rfl rfl)
theorem dX0_drawnBy_32 : decode cX0_drawnBy 32 = .ok (.invokevirtual 489, 3) := dk_182 1 233 (dk_at dksX0_drawnBy_1 10 rfl rfl)
theorem dX0_drawnBy_35 : decode cX0_drawnBy 35 = .ok (.astore 8, 2) := dk_58 8 (dk_at dksX0_drawnBy_1 13 rfl rfl)
theorem dX0_drawnBy_37 : decode cX0_drawnBy 37 = .ok (.iload 4, 2) := dk_21 4 (dk_at dksX0_drawnBy_1 15 rfl rfl)
theorem dX0_drawnBy_39 : decode cX0_drawnBy 39 = .ok (.aload_n 0, 1) := dk_42 (dk_at dksX0_drawnBy_1 17 rfl rfl)
theorem dX0_drawnBy_40 : decode cX0_drawnBy 40 = .ok (.new 294, 3) := dk_187 1 38 (dk_at dksX0_drawnBy_1 18 rfl rfl)
theorem dX0_drawnBy_43 : decode cX0_drawnBy 43 = .ok (.dup, 1) := dk_89 (dk_at dksX0_drawnBy_1 21 rfl rfl)
theorem dX0_drawnBy_44 : decode cX0_drawnBy 44 = .ok (.iload 7, 2) := dk_21 7 (dk_at dksX0_drawnBy_1 22 rfl rfl)
theorem dX0_drawnBy_46 : decode cX0_drawnBy 46 = .ok (.aload 8, 2) := dk_25 8 (dk_at dksX0_drawnBy_2 0 rfl rfl)
theorem dX0_drawnBy_48 : decode cX0_drawnBy 48 = .ok (.invokespecial 334, 3) := dk_183 1 78 (dk_at dksX0_drawnBy_2 2 rfl rfl)
theorem dX0_drawnBy_51 : decode cX0_drawnBy 51 = .ok (.invokevirtual 337, 3) := dk_182 1 81 (dk_at dksX0_drawnBy_2 5 rfl rfl)
theorem dX0_drawnBy_54 : decode cX0_drawnBy 54 = .ok (.getfield 341, 3) := dk_180 1 85 (dk_at dksX0_drawnBy_2 8 rfl rfl)
theorem dX0_drawnBy_57 : decode cX0_drawnBy 57 = .ok (.iconst 1, 1) := dk_4 (dk_at dksX0_drawnBy_2 11 rfl rfl)
theorem dX0_drawnBy_58 : decode cX0_drawnBy 58 = .ok (.if_icmp .ne 7, 3) := dk_160 0 7 (dk_at dksX0_drawnBy_2 12 rfl rfl)
theorem dX0_drawnBy_61 : decode cX0_drawnBy 61 = .ok (.iconst 1, 1) := dk_4 (dk_at dksX0_drawnBy_2 15 rfl rfl)
theorem dX0_drawnBy_62 : decode cX0_drawnBy 62 = .ok (.goto 4, 3) := dk_167 0 4 (dk_at dksX0_drawnBy_2 16 rfl rfl)
theorem dX0_drawnBy_65 : decode cX0_drawnBy 65 = .ok (.iconst 0, 1) := dk_3 (dk_at dksX0_drawnBy_2 19 rfl rfl)
theorem dX0_drawnBy_66 : decode cX0_drawnBy 66 = .ok (.iadd, 1) := dk_96 (dk_at dksX0_drawnBy_2 20 rfl rfl)
theorem dX0_drawnBy_67 : decode cX0_drawnBy 67 = .ok (.istore 4, 2) := dk_54 4 (dk_at dksX0_drawnBy_2 21 rfl rfl)
theorem dX0_drawnBy_69 : decode cX0_drawnBy 69 = .ok (.iload 5, 2) := dk_21 5 (dk_at dksX0_drawnBy_3 0 rfl rfl)
theorem dX0_drawnBy_71 : decode cX0_drawnBy 71 = .ok (.aload 8, 2) := dk_25 8 (dk_at dksX0_drawnBy_3 2 rfl rfl)
theorem dX0_drawnBy_73 : decode cX0_drawnBy 73 = .ok (.invokevirtual 290, 3) := dk_182 1 34 (dk_at dksX0_drawnBy_3 4 rfl rfl)
theorem dX0_drawnBy_76 : decode cX0_drawnBy 76 = .ok (.iadd, 1) := dk_96 (dk_at dksX0_drawnBy_3 7 rfl rfl)
theorem dX0_drawnBy_77 : decode cX0_drawnBy 77 = .ok (.istore 5, 2) := dk_54 5 (dk_at dksX0_drawnBy_3 8 rfl rfl)
theorem dX0_drawnBy_79 : decode cX0_drawnBy 79 = .ok (.iinc 6 1, 3) := dk_132 6 1 (dk_at dksX0_drawnBy_3 10 rfl rfl)
theorem dX0_drawnBy_82 : decode cX0_drawnBy 82 = .ok (.goto (-68), 3) := dk_167 255 188 (dk_at dksX0_drawnBy_3 13 rfl rfl)
theorem dX0_drawnBy_85 : decode cX0_drawnBy 85 = .ok (.iload_n 3, 1) := dk_29 (dk_at dksX0_drawnBy_3 16 rfl rfl)
theorem dX0_drawnBy_86 : decode cX0_drawnBy 86 = .ok (.ifCond .ne 8, 3) := dk_154 0 8 (dk_at dksX0_drawnBy_3 17 rfl rfl)
theorem dX0_drawnBy_89 : decode cX0_drawnBy 89 = .ok (.iload 4, 2) := dk_21 4 (dk_at dksX0_drawnBy_3 20 rfl rfl)
theorem dX0_drawnBy_91 : decode cX0_drawnBy 91 = .ok (.goto 17, 3) := dk_167 0 17 (dk_at dksX0_drawnBy_4 0 rfl rfl)
theorem dX0_drawnBy_94 : decode cX0_drawnBy 94 = .ok (.iload_n 3, 1) := dk_29 (dk_at dksX0_drawnBy_4 3 rfl rfl)
theorem dX0_drawnBy_95 : decode cX0_drawnBy 95 = .ok (.iconst 1, 1) := dk_4 (dk_at dksX0_drawnBy_4 4 rfl rfl)
theorem dX0_drawnBy_96 : decode cX0_drawnBy 96 = .ok (.if_icmp .ne 8, 3) := dk_160 0 8 (dk_at dksX0_drawnBy_4 5 rfl rfl)
theorem dX0_drawnBy_99 : decode cX0_drawnBy 99 = .ok (.iload 5, 2) := dk_21 5 (dk_at dksX0_drawnBy_4 8 rfl rfl)
theorem dX0_drawnBy_101 : decode cX0_drawnBy 101 = .ok (.goto 7, 3) := dk_167 0 7 (dk_at dksX0_drawnBy_4 10 rfl rfl)
theorem dX0_drawnBy_104 : decode cX0_drawnBy 104 = .ok (.aload_n 0, 1) := dk_42 (dk_at dksX0_drawnBy_4 13 rfl rfl)
theorem dX0_drawnBy_105 : decode cX0_drawnBy 105 = .ok (.getfield 478, 3) := dk_180 1 222 (dk_at dksX0_drawnBy_4 14 rfl rfl)
theorem dX0_drawnBy_108 : decode cX0_drawnBy 108 = .ok (.ireturn, 1) := dk_172 (dk_at dksX0_drawnBy_4 17 rfl rfl)
abbrev cX0_draw : ByteArray := prog_1_method_70_code
def yX0_draw : MethodName := ⟨RX0, "draw", "(I)I"⟩
def dkwX0_draw_1 : List UInt8 := [180, 1, 222, 19, 1, 229, 108, 27, 112, 172]
abbrev dktX0_draw_1 : List UInt8 := dkwX0_draw_1 ++ []
def dkwX0_draw_0 : List UInt8 := [42, 20, 1, 220, 42, 180, 1, 222, 133, 105, 20, 1, 225, 97, 20, 1, 227, 127, 136, 181, 1, 222, 42]
abbrev dktX0_draw_0 : List UInt8 := dkwX0_draw_0 ++ dktX0_draw_1
theorem dksX0_draw_0 : cX0_draw.data.toList.drop 0 = dktX0_draw_0 := by decide +kernel
theorem dksX0_draw_1 : cX0_draw.data.toList.drop 23 = dktX0_draw_1 := dk_seg dksX0_draw_0 23 rfl rfl
theorem dX0_draw_0 : decode cX0_draw 0 = .ok (.aload_n 0, 1) := dk_42 (dk_at dksX0_draw_0 0 rfl rfl)
theorem dX0_draw_1 : decode cX0_draw 1 = .ok (.ldc2_w 476, 3) := dk_20 1 220 (dk_at dksX0_draw_0 1 rfl rfl)
theorem dX0_draw_4 : decode cX0_draw 4 = .ok (.aload_n 0, 1) := dk_42 (dk_at dksX0_draw_0 4 rfl rfl)
theorem dX0_draw_5 : decode cX0_draw 5 = .ok (.getfield 478, 3) := dk_180 1 222 (dk_at dksX0_draw_0 5 rfl rfl)
theorem dX0_draw_8 : decode cX0_draw 8 = .ok (.i2l, 1) := dk_133 (dk_at dksX0_draw_0 8 rfl rfl)
theorem dX0_draw_9 : decode cX0_draw 9 = .ok (.lmul, 1) := dk_105 (dk_at dksX0_draw_0 9 rfl rfl)
theorem dX0_draw_10 : decode cX0_draw 10 = .ok (.ldc2_w 481, 3) := dk_20 1 225 (dk_at dksX0_draw_0 10 rfl rfl)
theorem dX0_draw_13 : decode cX0_draw 13 = .ok (.ladd, 1) := dk_97 (dk_at dksX0_draw_0 13 rfl rfl)
theorem dX0_draw_14 : decode cX0_draw 14 = .ok (.ldc2_w 483, 3) := dk_20 1 227 (dk_at dksX0_draw_0 14 rfl rfl)
theorem dX0_draw_17 : decode cX0_draw 17 = .ok (.land, 1) := dk_127 (dk_at dksX0_draw_0 17 rfl rfl)
theorem dX0_draw_18 : decode cX0_draw 18 = .ok (.l2i, 1) := dk_136 (dk_at dksX0_draw_0 18 rfl rfl)
theorem dX0_draw_19 : decode cX0_draw 19 = .ok (.putfield 478, 3) := dk_181 1 222 (dk_at dksX0_draw_0 19 rfl rfl)
theorem dX0_draw_22 : decode cX0_draw 22 = .ok (.aload_n 0, 1) := dk_42 (dk_at dksX0_draw_0 22 rfl rfl)
theorem dX0_draw_23 : decode cX0_draw 23 = .ok (.getfield 478, 3) := dk_180 1 222 (dk_at dksX0_draw_1 0 rfl rfl)
theorem dX0_draw_26 : decode cX0_draw 26 = .ok (.ldc_w 485, 3) := dk_19 1 229 (dk_at dksX0_draw_1 3 rfl rfl)
theorem dX0_draw_29 : decode cX0_draw 29 = .ok (.idiv, 1) := dk_108 (dk_at dksX0_draw_1 6 rfl rfl)
theorem dX0_draw_30 : decode cX0_draw 30 = .ok (.iload_n 1, 1) := dk_27 (dk_at dksX0_draw_1 7 rfl rfl)
theorem dX0_draw_31 : decode cX0_draw 31 = .ok (.irem, 1) := dk_112 (dk_at dksX0_draw_1 8 rfl rfl)
theorem dX0_draw_32 : decode cX0_draw 32 = .ok (.ireturn, 1) := dk_172 (dk_at dksX0_draw_1 9 rfl rfl)
abbrev cX0_drawType : ByteArray := prog_1_method_71_code
def yX0_drawType : MethodName := ⟨RX0, "drawType", "(I)LDictProof$Term;"⟩
def dkwX0_drawType_4 : List UInt8 := [25, 5, 183, 0, 235, 176]
abbrev dktX0_drawType_4 : List UInt8 := dkwX0_drawType_4 ++ []
def dkwX0_drawType_3 : List UInt8 := [164, 0, 13, 42, 27, 4, 96, 182, 1, 233, 167, 0, 4, 1, 58, 5, 187, 0, 12, 89, 29, 25, 4]
abbrev dktX0_drawType_3 : List UInt8 := dkwX0_drawType_3 ++ dktX0_drawType_4
def dkwX0_drawType_2 : List UInt8 := [184, 0, 1, 158, 0, 13, 42, 27, 4, 96, 182, 1, 233, 167, 0, 4, 1, 58, 4, 29, 184, 0, 1, 4]
abbrev dktX0_drawType_2 : List UInt8 := dkwX0_drawType_2 ++ dktX0_drawType_3
def dkwX0_drawType_1 : List UInt8 := [28, 4, 160, 0, 8, 16, 98, 167, 0, 15, 28, 5, 160, 0, 8, 16, 108, 167, 0, 5, 16, 112, 62, 29]
abbrev dktX0_drawType_1 : List UInt8 := dkwX0_drawType_1 ++ dktX0_drawType_2
def dkwX0_drawType_0 : List UInt8 := [42, 27, 5, 162, 0, 7, 7, 167, 0, 4, 5, 182, 1, 230, 61, 28, 154, 0, 8, 16, 105, 167, 0, 25]
abbrev dktX0_drawType_0 : List UInt8 := dkwX0_drawType_0 ++ dktX0_drawType_1
theorem dksX0_drawType_0 : cX0_drawType.data.toList.drop 0 = dktX0_drawType_0 := by decide +kernel
theorem dksX0_drawType_1 : cX0_drawType.data.toList.drop 24 = dktX0_drawType_1 := dk_seg dksX0_drawType_0 24 rfl rfl
theorem dksX0_drawType_2 : cX0_drawType.data.toList.drop 48 = dktX0_drawType_2 := dk_seg dksX0_drawType_1 24 rfl rfl
theorem dksX0_drawType_3 : cX0_drawType.data.toList.drop 72 = dktX0_drawType_3 := dk_seg dksX0_drawType_2 24 rfl rfl
theorem dksX0_drawType_4 : cX0_drawType.data.toList.drop 95 = dktX0_drawType_4 := dk_seg dksX0_drawType_3 23 rfl rfl
theorem dX0_drawType_0 : decode cX0_drawType 0 = .ok (.aload_n 0, 1) := dk_42 (dk_at dksX0_drawType_0 0 rfl rfl)
theorem dX0_drawType_1 : decode cX0_drawType 1 = .ok (.iload_n 1, 1) := dk_27 (dk_at dksX0_drawType_0 1 rfl rfl)
theorem dX0_drawType_2 : decode cX0_drawType 2 = .ok (.iconst 2, 1) := dk_5 (dk_at dksX0_drawType_0 2 rfl rfl)
theorem dX0_drawType_3 : decode cX0_drawType 3 = .ok (.if_icmp .ge 7, 3) := dk_162 0 7 (dk_at dksX0_drawType_0 3 rfl rfl)
theorem dX0_drawType_6 : decode cX0_drawType 6 = .ok (.iconst 4, 1) := dk_7 (dk_at dksX0_drawType_0 6 rfl rfl)
theorem dX0_drawType_7 : decode cX0_drawType 7 = .ok (.goto 4, 3) := dk_167 0 4 (dk_at dksX0_drawType_0 7 rfl rfl)
theorem dX0_drawType_10 : decode cX0_drawType 10 = .ok (.iconst 2, 1) := dk_5 (dk_at dksX0_drawType_0 10 rfl rfl)
theorem dX0_drawType_11 : decode cX0_drawType 11 = .ok (.invokevirtual 486, 3) := dk_182 1 230 (dk_at dksX0_drawType_0 11 rfl rfl)
theorem dX0_drawType_14 : decode cX0_drawType 14 = .ok (.istore_n 2, 1) := dk_61 (dk_at dksX0_drawType_0 14 rfl rfl)
theorem dX0_drawType_15 : decode cX0_drawType 15 = .ok (.iload_n 2, 1) := dk_28 (dk_at dksX0_drawType_0 15 rfl rfl)
theorem dX0_drawType_16 : decode cX0_drawType 16 = .ok (.ifCond .ne 8, 3) := dk_154 0 8 (dk_at dksX0_drawType_0 16 rfl rfl)
theorem dX0_drawType_19 : decode cX0_drawType 19 = .ok (.bipush 105, 2) := dk_16 105 (dk_at dksX0_drawType_0 19 rfl rfl)
theorem dX0_drawType_21 : decode cX0_drawType 21 = .ok (.goto 25, 3) := dk_167 0 25 (dk_at dksX0_drawType_0 21 rfl rfl)
theorem dX0_drawType_24 : decode cX0_drawType 24 = .ok (.iload_n 2, 1) := dk_28 (dk_at dksX0_drawType_1 0 rfl rfl)
theorem dX0_drawType_25 : decode cX0_drawType 25 = .ok (.iconst 1, 1) := dk_4 (dk_at dksX0_drawType_1 1 rfl rfl)
theorem dX0_drawType_26 : decode cX0_drawType 26 = .ok (.if_icmp .ne 8, 3) := dk_160 0 8 (dk_at dksX0_drawType_1 2 rfl rfl)
theorem dX0_drawType_29 : decode cX0_drawType 29 = .ok (.bipush 98, 2) := dk_16 98 (dk_at dksX0_drawType_1 5 rfl rfl)
theorem dX0_drawType_31 : decode cX0_drawType 31 = .ok (.goto 15, 3) := dk_167 0 15 (dk_at dksX0_drawType_1 7 rfl rfl)
theorem dX0_drawType_34 : decode cX0_drawType 34 = .ok (.iload_n 2, 1) := dk_28 (dk_at dksX0_drawType_1 10 rfl rfl)
theorem dX0_drawType_35 : decode cX0_drawType 35 = .ok (.iconst 2, 1) := dk_5 (dk_at dksX0_drawType_1 11 rfl rfl)
theorem dX0_drawType_36 : decode cX0_drawType 36 = .ok (.if_icmp .ne 8, 3) := dk_160 0 8 (dk_at dksX0_drawType_1 12 rfl rfl)
theorem dX0_drawType_39 : decode cX0_drawType 39 = .ok (.bipush 108, 2) := dk_16 108 (dk_at dksX0_drawType_1 15 rfl rfl)
theorem dX0_drawType_41 : decode cX0_drawType 41 = .ok (.goto 5, 3) := dk_167 0 5 (dk_at dksX0_drawType_1 17 rfl rfl)
theorem dX0_drawType_44 : decode cX0_drawType 44 = .ok (.bipush 112, 2) := dk_16 112 (dk_at dksX0_drawType_1 20 rfl rfl)
theorem dX0_drawType_46 : decode cX0_drawType 46 = .ok (.istore_n 3, 1) := dk_62 (dk_at dksX0_drawType_1 22 rfl rfl)
theorem dX0_drawType_47 : decode cX0_drawType 47 = .ok (.iload_n 3, 1) := dk_29 (dk_at dksX0_drawType_1 23 rfl rfl)
theorem dX0_drawType_48 : decode cX0_drawType 48 = .ok (.invokestatic 1, 3) := dk_184 0 1 (dk_at dksX0_drawType_2 0 rfl rfl)
theorem dX0_drawType_51 : decode cX0_drawType 51 = .ok (.ifCond .le 13, 3) := dk_158 0 13 (dk_at dksX0_drawType_2 3 rfl rfl)
theorem dX0_drawType_54 : decode cX0_drawType 54 = .ok (.aload_n 0, 1) := dk_42 (dk_at dksX0_drawType_2 6 rfl rfl)
theorem dX0_drawType_55 : decode cX0_drawType 55 = .ok (.iload_n 1, 1) := dk_27 (dk_at dksX0_drawType_2 7 rfl rfl)
theorem dX0_drawType_56 : decode cX0_drawType 56 = .ok (.iconst 1, 1) := dk_4 (dk_at dksX0_drawType_2 8 rfl rfl)
theorem dX0_drawType_57 : decode cX0_drawType 57 = .ok (.iadd, 1) := dk_96 (dk_at dksX0_drawType_2 9 rfl rfl)
theorem dX0_drawType_58 : decode cX0_drawType 58 = .ok (.invokevirtual 489, 3) := dk_182 1 233 (dk_at dksX0_drawType_2 10 rfl rfl)
theorem dX0_drawType_61 : decode cX0_drawType 61 = .ok (.goto 4, 3) := dk_167 0 4 (dk_at dksX0_drawType_2 13 rfl rfl)
theorem dX0_drawType_64 : decode cX0_drawType 64 = .ok (.aconst_null, 1) := dk_1 (dk_at dksX0_drawType_2 16 rfl rfl)
theorem dX0_drawType_65 : decode cX0_drawType 65 = .ok (.astore 4, 2) := dk_58 4 (dk_at dksX0_drawType_2 17 rfl rfl)
theorem dX0_drawType_67 : decode cX0_drawType 67 = .ok (.iload_n 3, 1) := dk_29 (dk_at dksX0_drawType_2 19 rfl rfl)
theorem dX0_drawType_68 : decode cX0_drawType 68 = .ok (.invokestatic 1, 3) := dk_184 0 1 (dk_at dksX0_drawType_2 20 rfl rfl)
theorem dX0_drawType_71 : decode cX0_drawType 71 = .ok (.iconst 1, 1) := dk_4 (dk_at dksX0_drawType_2 23 rfl rfl)
theorem dX0_drawType_72 : decode cX0_drawType 72 = .ok (.if_icmp .le 13, 3) := dk_164 0 13 (dk_at dksX0_drawType_3 0 rfl rfl)
theorem dX0_drawType_75 : decode cX0_drawType 75 = .ok (.aload_n 0, 1) := dk_42 (dk_at dksX0_drawType_3 3 rfl rfl)
theorem dX0_drawType_76 : decode cX0_drawType 76 = .ok (.iload_n 1, 1) := dk_27 (dk_at dksX0_drawType_3 4 rfl rfl)
theorem dX0_drawType_77 : decode cX0_drawType 77 = .ok (.iconst 1, 1) := dk_4 (dk_at dksX0_drawType_3 5 rfl rfl)
theorem dX0_drawType_78 : decode cX0_drawType 78 = .ok (.iadd, 1) := dk_96 (dk_at dksX0_drawType_3 6 rfl rfl)
theorem dX0_drawType_79 : decode cX0_drawType 79 = .ok (.invokevirtual 489, 3) := dk_182 1 233 (dk_at dksX0_drawType_3 7 rfl rfl)
theorem dX0_drawType_82 : decode cX0_drawType 82 = .ok (.goto 4, 3) := dk_167 0 4 (dk_at dksX0_drawType_3 10 rfl rfl)
theorem dX0_drawType_85 : decode cX0_drawType 85 = .ok (.aconst_null, 1) := dk_1 (dk_at dksX0_drawType_3 13 rfl rfl)
theorem dX0_drawType_86 : decode cX0_drawType 86 = .ok (.astore 5, 2) := dk_58 5 (dk_at dksX0_drawType_3 14 rfl rfl)
theorem dX0_drawType_88 : decode cX0_drawType 88 = .ok (.new 12, 3) := dk_187 0 12 (dk_at dksX0_drawType_3 16 rfl rfl)
theorem dX0_drawType_91 : decode cX0_drawType 91 = .ok (.dup, 1) := dk_89 (dk_at dksX0_drawType_3 19 rfl rfl)
theorem dX0_drawType_92 : decode cX0_drawType 92 = .ok (.iload_n 3, 1) := dk_29 (dk_at dksX0_drawType_3 20 rfl rfl)
theorem dX0_drawType_93 : decode cX0_drawType 93 = .ok (.aload 4, 2) := dk_25 4 (dk_at dksX0_drawType_3 21 rfl rfl)
theorem dX0_drawType_95 : decode cX0_drawType 95 = .ok (.aload 5, 2) := dk_25 5 (dk_at dksX0_drawType_4 0 rfl rfl)
theorem dX0_drawType_97 : decode cX0_drawType 97 = .ok (.invokespecial 235, 3) := dk_183 0 235 (dk_at dksX0_drawType_4 2 rfl rfl)
theorem dX0_drawType_100 : decode cX0_drawType 100 = .ok (.areturn, 1) := dk_176 (dk_at dksX0_drawType_4 5 rfl rfl)
abbrev cX0_image : ByteArray := prog_1_method_75_code
def yX0_image : MethodName := ⟨RX0, "image", "()I"⟩
def dkwX0_image_5 : List UInt8 := [182, 1, 251, 172]
abbrev dktX0_image_5 : List UInt8 := dkwX0_image_5 ++ []
def dkwX0_image_4 : List UInt8 := [16, 6, 184, 1, 242, 42, 42, 180, 1, 20, 181, 1, 248, 42, 42, 180, 1, 23, 181, 0, 163, 42]
abbrev dktX0_image_4 : List UInt8 := dkwX0_image_4 ++ dktX0_image_5
def dkwX0_image_3 : List UInt8 := [180, 0, 142, 3, 42, 180, 0, 157, 3, 16, 6, 184, 1, 242, 42, 180, 0, 145, 3, 42, 180, 0, 160, 3]
abbrev dktX0_image_3 : List UInt8 := dkwX0_image_3 ++ dktX0_image_4
def dkwX0_image_2 : List UInt8 := [180, 0, 151, 3, 7, 184, 1, 242, 42, 180, 0, 139, 3, 42, 180, 0, 154, 3, 16, 6, 184, 1, 242, 42]
abbrev dktX0_image_2 : List UInt8 := dkwX0_image_2 ++ dktX0_image_3
def dkwX0_image_1 : List UInt8 := [27, 42, 180, 0, 114, 27, 50, 182, 1, 148, 79, 132, 1, 1, 167, 255, 230, 42, 180, 0, 117, 3, 42]
abbrev dktX0_image_1 : List UInt8 := dkwX0_image_1 ++ dktX0_image_2
def dkwX0_image_0 : List UInt8 := [42, 180, 1, 12, 154, 0, 6, 16, 153, 172, 3, 60, 27, 42, 180, 1, 12, 162, 0, 24, 42, 180, 0, 148]
abbrev dktX0_image_0 : List UInt8 := dkwX0_image_0 ++ dktX0_image_1
theorem dksX0_image_0 : cX0_image.data.toList.drop 0 = dktX0_image_0 := by decide +kernel
theorem dksX0_image_1 : cX0_image.data.toList.drop 24 = dktX0_image_1 := dk_seg dksX0_image_0 24 rfl rfl
theorem dksX0_image_2 : cX0_image.data.toList.drop 47 = dktX0_image_2 := dk_seg dksX0_image_1 23 rfl rfl
theorem dksX0_image_3 : cX0_image.data.toList.drop 71 = dktX0_image_3 := dk_seg dksX0_image_2 24 rfl rfl
theorem dksX0_image_4 : cX0_image.data.toList.drop 95 = dktX0_image_4 := dk_seg dksX0_image_3 24 rfl rfl
theorem dksX0_image_5 : cX0_image.data.toList.drop 117 = dktX0_image_5 := dk_seg dksX0_image_4 22 rfl rfl
theorem dX0_image_0 : decode cX0_image 0 = .ok (.aload_n 0, 1) := dk_42 (dk_at dksX0_image_0 0 rfl rfl)
theorem dX0_image_1 : decode cX0_image 1 = .ok (.getfield 268, 3) := dk_180 1 12 (dk_at dksX0_image_0 1 rfl rfl)
theorem dX0_image_4 : decode cX0_image 4 = .ok (.ifCond .ne 6, 3) := dk_154 0 6 (dk_at dksX0_image_0 4 rfl rfl)
theorem dX0_image_7 : decode cX0_image 7 = .ok (.bipush (-103), 2) := dk_16 153 (dk_at dksX0_image_0 7 rfl rfl)
theorem dX0_image_9 : decode cX0_image 9 = .ok (.ireturn, 1) := dk_172 (dk_at dksX0_image_0 9 rfl rfl)
theorem dX0_image_10 : decode cX0_image 10 = .ok (.iconst 0, 1) := dk_3 (dk_at dksX0_image_0 10 rfl rfl)
theorem dX0_image_11 : decode cX0_image 11 = .ok (.istore_n 1, 1) := dk_60 (dk_at dksX0_image_0 11 rfl rfl)
theorem dX0_image_12 : decode cX0_image 12 = .ok (.iload_n 1, 1) := dk_27 (dk_at dksX0_image_0 12 rfl rfl)
theorem dX0_image_13 : decode cX0_image 13 = .ok (.aload_n 0, 1) := dk_42 (dk_at dksX0_image_0 13 rfl rfl)
theorem dX0_image_14 : decode cX0_image 14 = .ok (.getfield 268, 3) := dk_180 1 12 (dk_at dksX0_image_0 14 rfl rfl)
theorem dX0_image_17 : decode cX0_image 17 = .ok (.if_icmp .ge 24, 3) := dk_162 0 24 (dk_at dksX0_image_0 17 rfl rfl)
theorem dX0_image_20 : decode cX0_image 20 = .ok (.aload_n 0, 1) := dk_42 (dk_at dksX0_image_0 20 rfl rfl)
theorem dX0_image_21 : decode cX0_image 21 = .ok (.getfield 148, 3) := dk_180 0 148 (dk_at dksX0_image_0 21 rfl rfl)
theorem dX0_image_24 : decode cX0_image 24 = .ok (.iload_n 1, 1) := dk_27 (dk_at dksX0_image_1 0 rfl rfl)
theorem dX0_image_25 : decode cX0_image 25 = .ok (.aload_n 0, 1) := dk_42 (dk_at dksX0_image_1 1 rfl rfl)
theorem dX0_image_26 : decode cX0_image 26 = .ok (.getfield 114, 3) := dk_180 0 114 (dk_at dksX0_image_1 2 rfl rfl)
theorem dX0_image_29 : decode cX0_image 29 = .ok (.iload_n 1, 1) := dk_27 (dk_at dksX0_image_1 5 rfl rfl)
theorem dX0_image_30 : decode cX0_image 30 = .ok (.aaload, 1) := dk_50 (dk_at dksX0_image_1 6 rfl rfl)
theorem dX0_image_31 : decode cX0_image 31 = .ok (.invokevirtual 404, 3) := dk_182 1 148 (dk_at dksX0_image_1 7 rfl rfl)
theorem dX0_image_34 : decode cX0_image 34 = .ok (.iastore, 1) := dk_79 (dk_at dksX0_image_1 10 rfl rfl)
theorem dX0_image_35 : decode cX0_image 35 = .ok (.iinc 1 1, 3) := dk_132 1 1 (dk_at dksX0_image_1 11 rfl rfl)
theorem dX0_image_38 : decode cX0_image 38 = .ok (.goto (-26), 3) := dk_167 255 230 (dk_at dksX0_image_1 14 rfl rfl)
theorem dX0_image_41 : decode cX0_image 41 = .ok (.aload_n 0, 1) := dk_42 (dk_at dksX0_image_1 17 rfl rfl)
theorem dX0_image_42 : decode cX0_image 42 = .ok (.getfield 117, 3) := dk_180 0 117 (dk_at dksX0_image_1 18 rfl rfl)
theorem dX0_image_45 : decode cX0_image 45 = .ok (.iconst 0, 1) := dk_3 (dk_at dksX0_image_1 21 rfl rfl)
theorem dX0_image_46 : decode cX0_image 46 = .ok (.aload_n 0, 1) := dk_42 (dk_at dksX0_image_1 22 rfl rfl)
theorem dX0_image_47 : decode cX0_image 47 = .ok (.getfield 151, 3) := dk_180 0 151 (dk_at dksX0_image_2 0 rfl rfl)
theorem dX0_image_50 : decode cX0_image 50 = .ok (.iconst 0, 1) := dk_3 (dk_at dksX0_image_2 3 rfl rfl)
theorem dX0_image_51 : decode cX0_image 51 = .ok (.iconst 4, 1) := dk_7 (dk_at dksX0_image_2 4 rfl rfl)
theorem dX0_image_52 : decode cX0_image 52 = .ok (.invokestatic 498, 3) := dk_184 1 242 (dk_at dksX0_image_2 5 rfl rfl)
theorem dX0_image_55 : decode cX0_image 55 = .ok (.aload_n 0, 1) := dk_42 (dk_at dksX0_image_2 8 rfl rfl)
theorem dX0_image_56 : decode cX0_image 56 = .ok (.getfield 139, 3) := dk_180 0 139 (dk_at dksX0_image_2 9 rfl rfl)
theorem dX0_image_59 : decode cX0_image 59 = .ok (.iconst 0, 1) := dk_3 (dk_at dksX0_image_2 12 rfl rfl)
theorem dX0_image_60 : decode cX0_image 60 = .ok (.aload_n 0, 1) := dk_42 (dk_at dksX0_image_2 13 rfl rfl)
theorem dX0_image_61 : decode cX0_image 61 = .ok (.getfield 154, 3) := dk_180 0 154 (dk_at dksX0_image_2 14 rfl rfl)
theorem dX0_image_64 : decode cX0_image 64 = .ok (.iconst 0, 1) := dk_3 (dk_at dksX0_image_2 17 rfl rfl)
theorem dX0_image_65 : decode cX0_image 65 = .ok (.bipush 6, 2) := dk_16 6 (dk_at dksX0_image_2 18 rfl rfl)
theorem dX0_image_67 : decode cX0_image 67 = .ok (.invokestatic 498, 3) := dk_184 1 242 (dk_at dksX0_image_2 20 rfl rfl)
theorem dX0_image_70 : decode cX0_image 70 = .ok (.aload_n 0, 1) := dk_42 (dk_at dksX0_image_2 23 rfl rfl)
theorem dX0_image_71 : decode cX0_image 71 = .ok (.getfield 142, 3) := dk_180 0 142 (dk_at dksX0_image_3 0 rfl rfl)
theorem dX0_image_74 : decode cX0_image 74 = .ok (.iconst 0, 1) := dk_3 (dk_at dksX0_image_3 3 rfl rfl)
theorem dX0_image_75 : decode cX0_image 75 = .ok (.aload_n 0, 1) := dk_42 (dk_at dksX0_image_3 4 rfl rfl)
theorem dX0_image_76 : decode cX0_image 76 = .ok (.getfield 157, 3) := dk_180 0 157 (dk_at dksX0_image_3 5 rfl rfl)
theorem dX0_image_79 : decode cX0_image 79 = .ok (.iconst 0, 1) := dk_3 (dk_at dksX0_image_3 8 rfl rfl)
theorem dX0_image_80 : decode cX0_image 80 = .ok (.bipush 6, 2) := dk_16 6 (dk_at dksX0_image_3 9 rfl rfl)
theorem dX0_image_82 : decode cX0_image 82 = .ok (.invokestatic 498, 3) := dk_184 1 242 (dk_at dksX0_image_3 11 rfl rfl)
theorem dX0_image_85 : decode cX0_image 85 = .ok (.aload_n 0, 1) := dk_42 (dk_at dksX0_image_3 14 rfl rfl)
theorem dX0_image_86 : decode cX0_image 86 = .ok (.getfield 145, 3) := dk_180 0 145 (dk_at dksX0_image_3 15 rfl rfl)
theorem dX0_image_89 : decode cX0_image 89 = .ok (.iconst 0, 1) := dk_3 (dk_at dksX0_image_3 18 rfl rfl)
theorem dX0_image_90 : decode cX0_image 90 = .ok (.aload_n 0, 1) := dk_42 (dk_at dksX0_image_3 19 rfl rfl)
theorem dX0_image_91 : decode cX0_image 91 = .ok (.getfield 160, 3) := dk_180 0 160 (dk_at dksX0_image_3 20 rfl rfl)
theorem dX0_image_94 : decode cX0_image 94 = .ok (.iconst 0, 1) := dk_3 (dk_at dksX0_image_3 23 rfl rfl)
theorem dX0_image_95 : decode cX0_image 95 = .ok (.bipush 6, 2) := dk_16 6 (dk_at dksX0_image_4 0 rfl rfl)
theorem dX0_image_97 : decode cX0_image 97 = .ok (.invokestatic 498, 3) := dk_184 1 242 (dk_at dksX0_image_4 2 rfl rfl)
theorem dX0_image_100 : decode cX0_image 100 = .ok (.aload_n 0, 1) := dk_42 (dk_at dksX0_image_4 5 rfl rfl)
theorem dX0_image_101 : decode cX0_image 101 = .ok (.aload_n 0, 1) := dk_42 (dk_at dksX0_image_4 6 rfl rfl)
theorem dX0_image_102 : decode cX0_image 102 = .ok (.getfield 276, 3) := dk_180 1 20 (dk_at dksX0_image_4 7 rfl rfl)
theorem dX0_image_105 : decode cX0_image 105 = .ok (.putfield 504, 3) := dk_181 1 248 (dk_at dksX0_image_4 10 rfl rfl)
theorem dX0_image_108 : decode cX0_image 108 = .ok (.aload_n 0, 1) := dk_42 (dk_at dksX0_image_4 13 rfl rfl)
theorem dX0_image_109 : decode cX0_image 109 = .ok (.aload_n 0, 1) := dk_42 (dk_at dksX0_image_4 14 rfl rfl)
theorem dX0_image_110 : decode cX0_image 110 = .ok (.getfield 279, 3) := dk_180 1 23 (dk_at dksX0_image_4 15 rfl rfl)
theorem dX0_image_113 : decode cX0_image 113 = .ok (.putfield 163, 3) := dk_181 0 163 (dk_at dksX0_image_4 18 rfl rfl)
theorem dX0_image_116 : decode cX0_image 116 = .ok (.aload_n 0, 1) := dk_42 (dk_at dksX0_image_4 21 rfl rfl)
theorem dX0_image_117 : decode cX0_image 117 = .ok (.invokevirtual 507, 3) := dk_182 1 251 (dk_at dksX0_image_5 0 rfl rfl)
theorem dX0_image_120 : decode cX0_image 120 = .ok (.ireturn, 1) := dk_172 (dk_at dksX0_image_5 3 rfl rfl)
abbrev cX0_slotsUsed : ByteArray := prog_1_method_74_code
def yX0_slotsUsed : MethodName := ⟨RX0, "slotsUsed", "()I"⟩
def dkwX0_slotsUsed_1 : List UInt8 := [96, 60, 132, 2, 1, 167, 255, 231, 27, 172]
abbrev dktX0_slotsUsed_1 : List UInt8 := dkwX0_slotsUsed_1 ++ []
def dkwX0_slotsUsed_0 : List UInt8 := [3, 60, 3, 61, 28, 7, 162, 0, 26, 27, 42, 180, 0, 117, 28, 50, 199, 0, 7, 3, 167, 0, 4, 4]
abbrev dktX0_slotsUsed_0 : List UInt8 := dkwX0_slotsUsed_0 ++ dktX0_slotsUsed_1
theorem dksX0_slotsUsed_0 : cX0_slotsUsed.data.toList.drop 0 = dktX0_slotsUsed_0 := by decide +kernel
theorem dksX0_slotsUsed_1 : cX0_slotsUsed.data.toList.drop 24 = dktX0_slotsUsed_1 := dk_seg dksX0_slotsUsed_0 24 rfl rfl
theorem dX0_slotsUsed_0 : decode cX0_slotsUsed 0 = .ok (.iconst 0, 1) := dk_3 (dk_at dksX0_slotsUsed_0 0 rfl rfl)
theorem dX0_slotsUsed_1 : decode cX0_slotsUsed 1 = .ok (.istore_n 1, 1) := dk_60 (dk_at dksX0_slotsUsed_0 1 rfl rfl)
theorem dX0_slotsUsed_2 : decode cX0_slotsUsed 2 = .ok (.iconst 0, 1) := dk_3 (dk_at dksX0_slotsUsed_0 2 rfl rfl)
theorem dX0_slotsUsed_3 : decode cX0_slotsUsed 3 = .ok (.istore_n 2, 1) := dk_61 (dk_at dksX0_slotsUsed_0 3 rfl rfl)
theorem dX0_slotsUsed_4 : decode cX0_slotsUsed 4 = .ok (.iload_n 2, 1) := dk_28 (dk_at dksX0_slotsUsed_0 4 rfl rfl)
theorem dX0_slotsUsed_5 : decode cX0_slotsUsed 5 = .ok (.iconst 4, 1) := dk_7 (dk_at dksX0_slotsUsed_0 5 rfl rfl)
theorem dX0_slotsUsed_6 : decode cX0_slotsUsed 6 = .ok (.if_icmp .ge 26, 3) := dk_162 0 26 (dk_at dksX0_slotsUsed_0 6 rfl rfl)
theorem dX0_slotsUsed_9 : decode cX0_slotsUsed 9 = .ok (.iload_n 1, 1) := dk_27 (dk_at dksX0_slotsUsed_0 9 rfl rfl)
theorem dX0_slotsUsed_10 : decode cX0_slotsUsed 10 = .ok (.aload_n 0, 1) := dk_42 (dk_at dksX0_slotsUsed_0 10 rfl rfl)
theorem dX0_slotsUsed_11 : decode cX0_slotsUsed 11 = .ok (.getfield 117, 3) := dk_180 0 117 (dk_at dksX0_slotsUsed_0 11 rfl rfl)
theorem dX0_slotsUsed_14 : decode cX0_slotsUsed 14 = .ok (.iload_n 2, 1) := dk_28 (dk_at dksX0_slotsUsed_0 14 rfl rfl)
theorem dX0_slotsUsed_15 : decode cX0_slotsUsed 15 = .ok (.aaload, 1) := dk_50 (dk_at dksX0_slotsUsed_0 15 rfl rfl)
theorem dX0_slotsUsed_16 : decode cX0_slotsUsed 16 = .ok (.ifnonnull 7, 3) := dk_199 0 7 (dk_at dksX0_slotsUsed_0 16 rfl rfl)
theorem dX0_slotsUsed_19 : decode cX0_slotsUsed 19 = .ok (.iconst 0, 1) := dk_3 (dk_at dksX0_slotsUsed_0 19 rfl rfl)
theorem dX0_slotsUsed_20 : decode cX0_slotsUsed 20 = .ok (.goto 4, 3) := dk_167 0 4 (dk_at dksX0_slotsUsed_0 20 rfl rfl)
theorem dX0_slotsUsed_23 : decode cX0_slotsUsed 23 = .ok (.iconst 1, 1) := dk_4 (dk_at dksX0_slotsUsed_0 23 rfl rfl)
theorem dX0_slotsUsed_24 : decode cX0_slotsUsed 24 = .ok (.iadd, 1) := dk_96 (dk_at dksX0_slotsUsed_1 0 rfl rfl)
theorem dX0_slotsUsed_25 : decode cX0_slotsUsed 25 = .ok (.istore_n 1, 1) := dk_60 (dk_at dksX0_slotsUsed_1 1 rfl rfl)
theorem dX0_slotsUsed_26 : decode cX0_slotsUsed 26 = .ok (.iinc 2 1, 3) := dk_132 2 1 (dk_at dksX0_slotsUsed_1 2 rfl rfl)
theorem dX0_slotsUsed_29 : decode cX0_slotsUsed 29 = .ok (.goto (-25), 3) := dk_167 255 231 (dk_at dksX0_slotsUsed_1 5 rfl rfl)
theorem dX0_slotsUsed_32 : decode cX0_slotsUsed 32 = .ok (.iload_n 1, 1) := dk_27 (dk_at dksX0_slotsUsed_1 8 rfl rfl)
theorem dX0_slotsUsed_33 : decode cX0_slotsUsed 33 = .ok (.ireturn, 1) := dk_172 (dk_at dksX0_slotsUsed_1 9 rfl rfl)
abbrev cX0_restore : ByteArray := prog_1_method_76_code
def yX0_restore : MethodName := ⟨RX0, "restore", "()I"⟩
def dkwX0_restore_5 : List UInt8 := [172]
abbrev dktX0_restore_5 : List UInt8 := dkwX0_restore_5 ++ []
def dkwX0_restore_4 : List UInt8 := [16, 6, 184, 1, 242, 42, 42, 180, 1, 248, 181, 1, 20, 42, 180, 0, 128, 182, 1, 26, 42, 182, 1, 251]
abbrev dktX0_restore_4 : List UInt8 := dkwX0_restore_4 ++ dktX0_restore_5
def dkwX0_restore_3 : List UInt8 := [180, 0, 157, 3, 42, 180, 0, 142, 3, 16, 6, 184, 1, 242, 42, 180, 0, 160, 3, 42, 180, 0, 145, 3]
abbrev dktX0_restore_3 : List UInt8 := dkwX0_restore_3 ++ dktX0_restore_4
def dkwX0_restore_2 : List UInt8 := [180, 0, 117, 3, 7, 184, 1, 242, 42, 180, 0, 154, 3, 42, 180, 0, 139, 3, 16, 6, 184, 1, 242, 42]
abbrev dktX0_restore_2 : List UInt8 := dkwX0_restore_2 ++ dktX0_restore_3
def dkwX0_restore_1 : List UInt8 := [42, 27, 42, 180, 0, 148, 27, 46, 182, 1, 179, 132, 1, 1, 167, 255, 234, 42, 180, 0, 151, 3, 42]
abbrev dktX0_restore_1 : List UInt8 := dkwX0_restore_1 ++ dktX0_restore_2
def dkwX0_restore_0 : List UInt8 := [42, 180, 0, 163, 42, 180, 1, 23, 159, 0, 6, 16, 153, 172, 3, 60, 27, 42, 180, 1, 12, 162, 0, 20]
abbrev dktX0_restore_0 : List UInt8 := dkwX0_restore_0 ++ dktX0_restore_1
theorem dksX0_restore_0 : cX0_restore.data.toList.drop 0 = dktX0_restore_0 := by decide +kernel
theorem dksX0_restore_1 : cX0_restore.data.toList.drop 24 = dktX0_restore_1 := dk_seg dksX0_restore_0 24 rfl rfl
theorem dksX0_restore_2 : cX0_restore.data.toList.drop 47 = dktX0_restore_2 := dk_seg dksX0_restore_1 23 rfl rfl
theorem dksX0_restore_3 : cX0_restore.data.toList.drop 71 = dktX0_restore_3 := dk_seg dksX0_restore_2 24 rfl rfl
theorem dksX0_restore_4 : cX0_restore.data.toList.drop 95 = dktX0_restore_4 := dk_seg dksX0_restore_3 24 rfl rfl
theorem dksX0_restore_5 : cX0_restore.data.toList.drop 119 = dktX0_restore_5 := dk_seg dksX0_restore_4 24 rfl rfl
theorem dX0_restore_0 : decode cX0_restore 0 = .ok (.aload_n 0, 1) := dk_42 (dk_at dksX0_restore_0 0 rfl rfl)
theorem dX0_restore_1 : decode cX0_restore 1 = .ok (.getfield 163, 3) := dk_180 0 163 (dk_at dksX0_restore_0 1 rfl rfl)
theorem dX0_restore_4 : decode cX0_restore 4 = .ok (.aload_n 0, 1) := dk_42 (dk_at dksX0_restore_0 4 rfl rfl)
theorem dX0_restore_5 : decode cX0_restore 5 = .ok (.getfield 279, 3) := dk_180 1 23 (dk_at dksX0_restore_0 5 rfl rfl)
theorem dX0_restore_8 : decode cX0_restore 8 = .ok (.if_icmp .eq 6, 3) := dk_159 0 6 (dk_at dksX0_restore_0 8 rfl rfl)
theorem dX0_restore_11 : decode cX0_restore 11 = .ok (.bipush (-103), 2) := dk_16 153 (dk_at dksX0_restore_0 11 rfl rfl)
theorem dX0_restore_13 : decode cX0_restore 13 = .ok (.ireturn, 1) := dk_172 (dk_at dksX0_restore_0 13 rfl rfl)
theorem dX0_restore_14 : decode cX0_restore 14 = .ok (.iconst 0, 1) := dk_3 (dk_at dksX0_restore_0 14 rfl rfl)
theorem dX0_restore_15 : decode cX0_restore 15 = .ok (.istore_n 1, 1) := dk_60 (dk_at dksX0_restore_0 15 rfl rfl)
theorem dX0_restore_16 : decode cX0_restore 16 = .ok (.iload_n 1, 1) := dk_27 (dk_at dksX0_restore_0 16 rfl rfl)
theorem dX0_restore_17 : decode cX0_restore 17 = .ok (.aload_n 0, 1) := dk_42 (dk_at dksX0_restore_0 17 rfl rfl)
theorem dX0_restore_18 : decode cX0_restore 18 = .ok (.getfield 268, 3) := dk_180 1 12 (dk_at dksX0_restore_0 18 rfl rfl)
theorem dX0_restore_21 : decode cX0_restore 21 = .ok (.if_icmp .ge 20, 3) := dk_162 0 20 (dk_at dksX0_restore_0 21 rfl rfl)
theorem dX0_restore_24 : decode cX0_restore 24 = .ok (.aload_n 0, 1) := dk_42 (dk_at dksX0_restore_1 0 rfl rfl)
theorem dX0_restore_25 : decode cX0_restore 25 = .ok (.iload_n 1, 1) := dk_27 (dk_at dksX0_restore_1 1 rfl rfl)
theorem dX0_restore_26 : decode cX0_restore 26 = .ok (.aload_n 0, 1) := dk_42 (dk_at dksX0_restore_1 2 rfl rfl)
theorem dX0_restore_27 : decode cX0_restore 27 = .ok (.getfield 148, 3) := dk_180 0 148 (dk_at dksX0_restore_1 3 rfl rfl)
theorem dX0_restore_30 : decode cX0_restore 30 = .ok (.iload_n 1, 1) := dk_27 (dk_at dksX0_restore_1 6 rfl rfl)
theorem dX0_restore_31 : decode cX0_restore 31 = .ok (.iaload, 1) := dk_46 (dk_at dksX0_restore_1 7 rfl rfl)
theorem dX0_restore_32 : decode cX0_restore 32 = .ok (.invokevirtual 435, 3) := dk_182 1 179 (dk_at dksX0_restore_1 8 rfl rfl)
theorem dX0_restore_35 : decode cX0_restore 35 = .ok (.iinc 1 1, 3) := dk_132 1 1 (dk_at dksX0_restore_1 11 rfl rfl)
theorem dX0_restore_38 : decode cX0_restore 38 = .ok (.goto (-22), 3) := dk_167 255 234 (dk_at dksX0_restore_1 14 rfl rfl)
theorem dX0_restore_41 : decode cX0_restore 41 = .ok (.aload_n 0, 1) := dk_42 (dk_at dksX0_restore_1 17 rfl rfl)
theorem dX0_restore_42 : decode cX0_restore 42 = .ok (.getfield 151, 3) := dk_180 0 151 (dk_at dksX0_restore_1 18 rfl rfl)
theorem dX0_restore_45 : decode cX0_restore 45 = .ok (.iconst 0, 1) := dk_3 (dk_at dksX0_restore_1 21 rfl rfl)
theorem dX0_restore_46 : decode cX0_restore 46 = .ok (.aload_n 0, 1) := dk_42 (dk_at dksX0_restore_1 22 rfl rfl)
theorem dX0_restore_47 : decode cX0_restore 47 = .ok (.getfield 117, 3) := dk_180 0 117 (dk_at dksX0_restore_2 0 rfl rfl)
theorem dX0_restore_50 : decode cX0_restore 50 = .ok (.iconst 0, 1) := dk_3 (dk_at dksX0_restore_2 3 rfl rfl)
theorem dX0_restore_51 : decode cX0_restore 51 = .ok (.iconst 4, 1) := dk_7 (dk_at dksX0_restore_2 4 rfl rfl)
theorem dX0_restore_52 : decode cX0_restore 52 = .ok (.invokestatic 498, 3) := dk_184 1 242 (dk_at dksX0_restore_2 5 rfl rfl)
theorem dX0_restore_55 : decode cX0_restore 55 = .ok (.aload_n 0, 1) := dk_42 (dk_at dksX0_restore_2 8 rfl rfl)
theorem dX0_restore_56 : decode cX0_restore 56 = .ok (.getfield 154, 3) := dk_180 0 154 (dk_at dksX0_restore_2 9 rfl rfl)
theorem dX0_restore_59 : decode cX0_restore 59 = .ok (.iconst 0, 1) := dk_3 (dk_at dksX0_restore_2 12 rfl rfl)
theorem dX0_restore_60 : decode cX0_restore 60 = .ok (.aload_n 0, 1) := dk_42 (dk_at dksX0_restore_2 13 rfl rfl)
theorem dX0_restore_61 : decode cX0_restore 61 = .ok (.getfield 139, 3) := dk_180 0 139 (dk_at dksX0_restore_2 14 rfl rfl)
theorem dX0_restore_64 : decode cX0_restore 64 = .ok (.iconst 0, 1) := dk_3 (dk_at dksX0_restore_2 17 rfl rfl)
theorem dX0_restore_65 : decode cX0_restore 65 = .ok (.bipush 6, 2) := dk_16 6 (dk_at dksX0_restore_2 18 rfl rfl)
theorem dX0_restore_67 : decode cX0_restore 67 = .ok (.invokestatic 498, 3) := dk_184 1 242 (dk_at dksX0_restore_2 20 rfl rfl)
theorem dX0_restore_70 : decode cX0_restore 70 = .ok (.aload_n 0, 1) := dk_42 (dk_at dksX0_restore_2 23 rfl rfl)
theorem dX0_restore_71 : decode cX0_restore 71 = .ok (.getfield 157, 3) := dk_180 0 157 (dk_at dksX0_restore_3 0 rfl rfl)
theorem dX0_restore_74 : decode cX0_restore 74 = .ok (.iconst 0, 1) := dk_3 (dk_at dksX0_restore_3 3 rfl rfl)
theorem dX0_restore_75 : decode cX0_restore 75 = .ok (.aload_n 0, 1) := dk_42 (dk_at dksX0_restore_3 4 rfl rfl)
theorem dX0_restore_76 : decode cX0_restore 76 = .ok (.getfield 142, 3) := dk_180 0 142 (dk_at dksX0_restore_3 5 rfl rfl)
theorem dX0_restore_79 : decode cX0_restore 79 = .ok (.iconst 0, 1) := dk_3 (dk_at dksX0_restore_3 8 rfl rfl)
theorem dX0_restore_80 : decode cX0_restore 80 = .ok (.bipush 6, 2) := dk_16 6 (dk_at dksX0_restore_3 9 rfl rfl)
theorem dX0_restore_82 : decode cX0_restore 82 = .ok (.invokestatic 498, 3) := dk_184 1 242 (dk_at dksX0_restore_3 11 rfl rfl)
theorem dX0_restore_85 : decode cX0_restore 85 = .ok (.aload_n 0, 1) := dk_42 (dk_at dksX0_restore_3 14 rfl rfl)
theorem dX0_restore_86 : decode cX0_restore 86 = .ok (.getfield 160, 3) := dk_180 0 160 (dk_at dksX0_restore_3 15 rfl rfl)
theorem dX0_restore_89 : decode cX0_restore 89 = .ok (.iconst 0, 1) := dk_3 (dk_at dksX0_restore_3 18 rfl rfl)
theorem dX0_restore_90 : decode cX0_restore 90 = .ok (.aload_n 0, 1) := dk_42 (dk_at dksX0_restore_3 19 rfl rfl)
theorem dX0_restore_91 : decode cX0_restore 91 = .ok (.getfield 145, 3) := dk_180 0 145 (dk_at dksX0_restore_3 20 rfl rfl)
theorem dX0_restore_94 : decode cX0_restore 94 = .ok (.iconst 0, 1) := dk_3 (dk_at dksX0_restore_3 23 rfl rfl)
theorem dX0_restore_95 : decode cX0_restore 95 = .ok (.bipush 6, 2) := dk_16 6 (dk_at dksX0_restore_4 0 rfl rfl)
theorem dX0_restore_97 : decode cX0_restore 97 = .ok (.invokestatic 498, 3) := dk_184 1 242 (dk_at dksX0_restore_4 2 rfl rfl)
theorem dX0_restore_100 : decode cX0_restore 100 = .ok (.aload_n 0, 1) := dk_42 (dk_at dksX0_restore_4 5 rfl rfl)
theorem dX0_restore_101 : decode cX0_restore 101 = .ok (.aload_n 0, 1) := dk_42 (dk_at dksX0_restore_4 6 rfl rfl)
theorem dX0_restore_102 : decode cX0_restore 102 = .ok (.getfield 504, 3) := dk_180 1 248 (dk_at dksX0_restore_4 7 rfl rfl)
theorem dX0_restore_105 : decode cX0_restore 105 = .ok (.putfield 276, 3) := dk_181 1 20 (dk_at dksX0_restore_4 10 rfl rfl)
theorem dX0_restore_108 : decode cX0_restore 108 = .ok (.aload_n 0, 1) := dk_42 (dk_at dksX0_restore_4 13 rfl rfl)
theorem dX0_restore_109 : decode cX0_restore 109 = .ok (.getfield 128, 3) := dk_180 0 128 (dk_at dksX0_restore_4 14 rfl rfl)
theorem dX0_restore_112 : decode cX0_restore 112 = .ok (.invokevirtual 282, 3) := dk_182 1 26 (dk_at dksX0_restore_4 17 rfl rfl)
theorem dX0_restore_115 : decode cX0_restore 115 = .ok (.aload_n 0, 1) := dk_42 (dk_at dksX0_restore_4 20 rfl rfl)
theorem dX0_restore_116 : decode cX0_restore 116 = .ok (.invokevirtual 507, 3) := dk_182 1 251 (dk_at dksX0_restore_4 21 rfl rfl)
theorem dX0_restore_119 : decode cX0_restore 119 = .ok (.ireturn, 1) := dk_172 (dk_at dksX0_restore_5 0 rfl rfl)
abbrev cX0_count : ByteArray := prog_1_method_81_code
def yX0_count : MethodName := ⟨RX0, "count", "(I)I"⟩
def dkwX0_count_4 : List UInt8 := [42, 180, 1, 23, 172, 16, 154, 172]
abbrev dktX0_count_4 : List UInt8 := dkwX0_count_4 ++ []
def dkwX0_count_3 : List UInt8 := [182, 2, 7, 172, 42, 182, 1, 251, 172, 42, 182, 2, 10, 172, 42, 180, 1, 20, 172, 42, 180, 0, 174, 172]
abbrev dktX0_count_3 : List UInt8 := dkwX0_count_3 ++ dktX0_count_4
def dkwX0_count_2 : List UInt8 := [42, 180, 0, 238, 172, 42, 180, 1, 12, 172, 42, 182, 2, 1, 172, 42, 27, 6, 100, 182, 2, 4, 172, 42]
abbrev dktX0_count_2 : List UInt8 := dkwX0_count_2 ++ dktX0_count_3
def dkwX0_count_1 : List UInt8 := [170, 0, 0, 0, 0, 0, 112, 0, 0, 0, 0, 0, 0, 0, 10, 0, 0, 0, 59, 0, 0, 0, 64, 0, 0, 0, 69, 0, 0, 0, 74, 0, 0, 0, 74, 0, 0, 0, 82, 0, 0, 0, 87, 0, 0, 0, 92, 0, 0, 0, 97, 0, 0, 0, 102, 0, 0, 0, 107]
abbrev dktX0_count_1 : List UInt8 := dkwX0_count_1 ++ dktX0_count_2
def dkwX0_count_0 : List UInt8 := [27]
abbrev dktX0_count_0 : List UInt8 := dkwX0_count_0 ++ dktX0_count_1
theorem dksX0_count_0 : cX0_count.data.toList.drop 0 = dktX0_count_0 := by decide +kernel
theorem dksX0_count_1 : cX0_count.data.toList.drop 1 = dktX0_count_1 := dk_seg dksX0_count_0 1 rfl rfl
theorem dksX0_count_2 : cX0_count.data.toList.drop 60 = dktX0_count_2 := dk_seg dksX0_count_1 59 rfl rfl
theorem dksX0_count_3 : cX0_count.data.toList.drop 84 = dktX0_count_3 := dk_seg dksX0_count_2 24 rfl rfl
theorem dksX0_count_4 : cX0_count.data.toList.drop 108 = dktX0_count_4 := dk_seg dksX0_count_3 24 rfl rfl
theorem dX0_count_0 : decode cX0_count 0 = .ok (.iload_n 1, 1) := dk_27 (dk_at dksX0_count_0 0 rfl rfl)
theorem dX0_count_1 : decode cX0_count 1 = .ok (.tableswitch 112 0 10 #[59, 64, 69, 74, 74, 82, 87, 92, 97, 102, 107], 59) := by decide +kernel
theorem dX0_count_60 : decode cX0_count 60 = .ok (.aload_n 0, 1) := dk_42 (dk_at dksX0_count_2 0 rfl rfl)
theorem dX0_count_61 : decode cX0_count 61 = .ok (.getfield 238, 3) := dk_180 0 238 (dk_at dksX0_count_2 1 rfl rfl)
theorem dX0_count_64 : decode cX0_count 64 = .ok (.ireturn, 1) := dk_172 (dk_at dksX0_count_2 4 rfl rfl)
theorem dX0_count_65 : decode cX0_count 65 = .ok (.aload_n 0, 1) := dk_42 (dk_at dksX0_count_2 5 rfl rfl)
theorem dX0_count_66 : decode cX0_count 66 = .ok (.getfield 268, 3) := dk_180 1 12 (dk_at dksX0_count_2 6 rfl rfl)
theorem dX0_count_69 : decode cX0_count 69 = .ok (.ireturn, 1) := dk_172 (dk_at dksX0_count_2 9 rfl rfl)
theorem dX0_count_70 : decode cX0_count 70 = .ok (.aload_n 0, 1) := dk_42 (dk_at dksX0_count_2 10 rfl rfl)
theorem dX0_count_71 : decode cX0_count 71 = .ok (.invokevirtual 513, 3) := dk_182 2 1 (dk_at dksX0_count_2 11 rfl rfl)
theorem dX0_count_74 : decode cX0_count 74 = .ok (.ireturn, 1) := dk_172 (dk_at dksX0_count_2 14 rfl rfl)
theorem dX0_count_75 : decode cX0_count 75 = .ok (.aload_n 0, 1) := dk_42 (dk_at dksX0_count_2 15 rfl rfl)
theorem dX0_count_76 : decode cX0_count 76 = .ok (.iload_n 1, 1) := dk_27 (dk_at dksX0_count_2 16 rfl rfl)
theorem dX0_count_77 : decode cX0_count 77 = .ok (.iconst 3, 1) := dk_6 (dk_at dksX0_count_2 17 rfl rfl)
theorem dX0_count_78 : decode cX0_count 78 = .ok (.isub, 1) := dk_100 (dk_at dksX0_count_2 18 rfl rfl)
theorem dX0_count_79 : decode cX0_count 79 = .ok (.invokevirtual 516, 3) := dk_182 2 4 (dk_at dksX0_count_2 19 rfl rfl)
theorem dX0_count_82 : decode cX0_count 82 = .ok (.ireturn, 1) := dk_172 (dk_at dksX0_count_2 22 rfl rfl)
theorem dX0_count_83 : decode cX0_count 83 = .ok (.aload_n 0, 1) := dk_42 (dk_at dksX0_count_2 23 rfl rfl)
theorem dX0_count_84 : decode cX0_count 84 = .ok (.invokevirtual 519, 3) := dk_182 2 7 (dk_at dksX0_count_3 0 rfl rfl)
theorem dX0_count_87 : decode cX0_count 87 = .ok (.ireturn, 1) := dk_172 (dk_at dksX0_count_3 3 rfl rfl)
theorem dX0_count_88 : decode cX0_count 88 = .ok (.aload_n 0, 1) := dk_42 (dk_at dksX0_count_3 4 rfl rfl)
theorem dX0_count_89 : decode cX0_count 89 = .ok (.invokevirtual 507, 3) := dk_182 1 251 (dk_at dksX0_count_3 5 rfl rfl)
theorem dX0_count_92 : decode cX0_count 92 = .ok (.ireturn, 1) := dk_172 (dk_at dksX0_count_3 8 rfl rfl)
theorem dX0_count_93 : decode cX0_count 93 = .ok (.aload_n 0, 1) := dk_42 (dk_at dksX0_count_3 9 rfl rfl)
theorem dX0_count_94 : decode cX0_count 94 = .ok (.invokevirtual 522, 3) := dk_182 2 10 (dk_at dksX0_count_3 10 rfl rfl)
theorem dX0_count_97 : decode cX0_count 97 = .ok (.ireturn, 1) := dk_172 (dk_at dksX0_count_3 13 rfl rfl)
theorem dX0_count_98 : decode cX0_count 98 = .ok (.aload_n 0, 1) := dk_42 (dk_at dksX0_count_3 14 rfl rfl)
theorem dX0_count_99 : decode cX0_count 99 = .ok (.getfield 276, 3) := dk_180 1 20 (dk_at dksX0_count_3 15 rfl rfl)
theorem dX0_count_102 : decode cX0_count 102 = .ok (.ireturn, 1) := dk_172 (dk_at dksX0_count_3 18 rfl rfl)
theorem dX0_count_103 : decode cX0_count 103 = .ok (.aload_n 0, 1) := dk_42 (dk_at dksX0_count_3 19 rfl rfl)
theorem dX0_count_104 : decode cX0_count 104 = .ok (.getfield 174, 3) := dk_180 0 174 (dk_at dksX0_count_3 20 rfl rfl)
theorem dX0_count_107 : decode cX0_count 107 = .ok (.ireturn, 1) := dk_172 (dk_at dksX0_count_3 23 rfl rfl)
theorem dX0_count_108 : decode cX0_count 108 = .ok (.aload_n 0, 1) := dk_42 (dk_at dksX0_count_4 0 rfl rfl)
theorem dX0_count_109 : decode cX0_count 109 = .ok (.getfield 279, 3) := dk_180 1 23 (dk_at dksX0_count_4 1 rfl rfl)
theorem dX0_count_112 : decode cX0_count 112 = .ok (.ireturn, 1) := dk_172 (dk_at dksX0_count_4 4 rfl rfl)
theorem dX0_count_113 : decode cX0_count 113 = .ok (.bipush (-102), 2) := dk_16 154 (dk_at dksX0_count_4 5 rfl rfl)
theorem dX0_count_115 : decode cX0_count 115 = .ok (.ireturn, 1) := dk_172 (dk_at dksX0_count_4 7 rfl rfl)
abbrev cX0_unsound : ByteArray := prog_1_method_77_code
def yX0_unsound : MethodName := ⟨RX0, "unsound", "()I"⟩
def dkwX0_unsound_1 : List UInt8 := [153, 0, 7, 3, 167, 0, 4, 4, 96, 60, 132, 2, 1, 167, 255, 225, 27, 172]
abbrev dktX0_unsound_1 : List UInt8 := dkwX0_unsound_1 ++ []
def dkwX0_unsound_0 : List UInt8 := [3, 60, 3, 61, 28, 42, 180, 1, 12, 162, 0, 29, 27, 42, 180, 0, 114, 28, 50, 182, 1, 44]
abbrev dktX0_unsound_0 : List UInt8 := dkwX0_unsound_0 ++ dktX0_unsound_1
theorem dksX0_unsound_0 : cX0_unsound.data.toList.drop 0 = dktX0_unsound_0 := by decide +kernel
theorem dksX0_unsound_1 : cX0_unsound.data.toList.drop 22 = dktX0_unsound_1 := dk_seg dksX0_unsound_0 22 rfl rfl
theorem dX0_unsound_0 : decode cX0_unsound 0 = .ok (.iconst 0, 1) := dk_3 (dk_at dksX0_unsound_0 0 rfl rfl)
theorem dX0_unsound_1 : decode cX0_unsound 1 = .ok (.istore_n 1, 1) := dk_60 (dk_at dksX0_unsound_0 1 rfl rfl)
theorem dX0_unsound_2 : decode cX0_unsound 2 = .ok (.iconst 0, 1) := dk_3 (dk_at dksX0_unsound_0 2 rfl rfl)
theorem dX0_unsound_3 : decode cX0_unsound 3 = .ok (.istore_n 2, 1) := dk_61 (dk_at dksX0_unsound_0 3 rfl rfl)
theorem dX0_unsound_4 : decode cX0_unsound 4 = .ok (.iload_n 2, 1) := dk_28 (dk_at dksX0_unsound_0 4 rfl rfl)
theorem dX0_unsound_5 : decode cX0_unsound 5 = .ok (.aload_n 0, 1) := dk_42 (dk_at dksX0_unsound_0 5 rfl rfl)
theorem dX0_unsound_6 : decode cX0_unsound 6 = .ok (.getfield 268, 3) := dk_180 1 12 (dk_at dksX0_unsound_0 6 rfl rfl)
theorem dX0_unsound_9 : decode cX0_unsound 9 = .ok (.if_icmp .ge 29, 3) := dk_162 0 29 (dk_at dksX0_unsound_0 9 rfl rfl)
theorem dX0_unsound_12 : decode cX0_unsound 12 = .ok (.iload_n 1, 1) := dk_27 (dk_at dksX0_unsound_0 12 rfl rfl)
theorem dX0_unsound_13 : decode cX0_unsound 13 = .ok (.aload_n 0, 1) := dk_42 (dk_at dksX0_unsound_0 13 rfl rfl)
theorem dX0_unsound_14 : decode cX0_unsound 14 = .ok (.getfield 114, 3) := dk_180 0 114 (dk_at dksX0_unsound_0 14 rfl rfl)
theorem dX0_unsound_17 : decode cX0_unsound 17 = .ok (.iload_n 2, 1) := dk_28 (dk_at dksX0_unsound_0 17 rfl rfl)
theorem dX0_unsound_18 : decode cX0_unsound 18 = .ok (.aaload, 1) := dk_50 (dk_at dksX0_unsound_0 18 rfl rfl)
theorem dX0_unsound_19 : decode cX0_unsound 19 = .ok (.invokevirtual 300, 3) := dk_182 1 44 (dk_at dksX0_unsound_0 19 rfl rfl)
theorem dX0_unsound_22 : decode cX0_unsound 22 = .ok (.ifCond .eq 7, 3) := dk_153 0 7 (dk_at dksX0_unsound_1 0 rfl rfl)
theorem dX0_unsound_25 : decode cX0_unsound 25 = .ok (.iconst 0, 1) := dk_3 (dk_at dksX0_unsound_1 3 rfl rfl)
theorem dX0_unsound_26 : decode cX0_unsound 26 = .ok (.goto 4, 3) := dk_167 0 4 (dk_at dksX0_unsound_1 4 rfl rfl)
theorem dX0_unsound_29 : decode cX0_unsound 29 = .ok (.iconst 1, 1) := dk_4 (dk_at dksX0_unsound_1 7 rfl rfl)
theorem dX0_unsound_30 : decode cX0_unsound 30 = .ok (.iadd, 1) := dk_96 (dk_at dksX0_unsound_1 8 rfl rfl)
theorem dX0_unsound_31 : decode cX0_unsound 31 = .ok (.istore_n 1, 1) := dk_60 (dk_at dksX0_unsound_1 9 rfl rfl)
theorem dX0_unsound_32 : decode cX0_unsound 32 = .ok (.iinc 2 1, 3) := dk_132 2 1 (dk_at dksX0_unsound_1 10 rfl rfl)
theorem dX0_unsound_35 : decode cX0_unsound 35 = .ok (.goto (-31), 3) := dk_167 255 225 (dk_at dksX0_unsound_1 13 rfl rfl)
theorem dX0_unsound_38 : decode cX0_unsound 38 = .ok (.iload_n 1, 1) := dk_27 (dk_at dksX0_unsound_1 16 rfl rfl)
theorem dX0_unsound_39 : decode cX0_unsound 39 = .ok (.ireturn, 1) := dk_172 (dk_at dksX0_unsound_1 17 rfl rfl)
abbrev cX0_pairsBy : ByteArray := prog_1_method_78_code
def yX0_pairsBy : MethodName := ⟨RX0, "pairsBy", "(I)I"⟩
def dkwX0_pairsBy_2 : List UInt8 := [132, 3, 1, 167, 255, 209, 28, 172]
abbrev dktX0_pairsBy_2 : List UInt8 := dkwX0_pairsBy_2 ++ []
def dkwX0_pairsBy_1 : List UInt8 := [180, 0, 114, 29, 50, 42, 180, 0, 114, 21, 4, 50, 27, 182, 1, 197, 96, 61, 132, 4, 1, 167, 255, 226]
abbrev dktX0_pairsBy_1 : List UInt8 := dkwX0_pairsBy_1 ++ dktX0_pairsBy_2
def dkwX0_pairsBy_0 : List UInt8 := [3, 61, 3, 62, 29, 42, 180, 1, 12, 162, 0, 45, 3, 54, 4, 21, 4, 29, 162, 0, 30, 28, 42, 42]
abbrev dktX0_pairsBy_0 : List UInt8 := dkwX0_pairsBy_0 ++ dktX0_pairsBy_1
theorem dksX0_pairsBy_0 : cX0_pairsBy.data.toList.drop 0 = dktX0_pairsBy_0 := by decide +kernel
theorem dksX0_pairsBy_1 : cX0_pairsBy.data.toList.drop 24 = dktX0_pairsBy_1 := dk_seg dksX0_pairsBy_0 24 rfl rfl
theorem dksX0_pairsBy_2 : cX0_pairsBy.data.toList.drop 48 = dktX0_pairsBy_2 := dk_seg dksX0_pairsBy_1 24 rfl rfl
theorem dX0_pairsBy_0 : decode cX0_pairsBy 0 = .ok (.iconst 0, 1) := dk_3 (dk_at dksX0_pairsBy_0 0 rfl rfl)
theorem dX0_pairsBy_1 : decode cX0_pairsBy 1 = .ok (.istore_n 2, 1) := dk_61 (dk_at dksX0_pairsBy_0 1 rfl rfl)
theorem dX0_pairsBy_2 : decode cX0_pairsBy 2 = .ok (.iconst 0, 1) := dk_3 (dk_at dksX0_pairsBy_0 2 rfl rfl)
theorem dX0_pairsBy_3 : decode cX0_pairsBy 3 = .ok (.istore_n 3, 1) := dk_62 (dk_at dksX0_pairsBy_0 3 rfl rfl)
theorem dX0_pairsBy_4 : decode cX0_pairsBy 4 = .ok (.iload_n 3, 1) := dk_29 (dk_at dksX0_pairsBy_0 4 rfl rfl)
theorem dX0_pairsBy_5 : decode cX0_pairsBy 5 = .ok (.aload_n 0, 1) := dk_42 (dk_at dksX0_pairsBy_0 5 rfl rfl)
theorem dX0_pairsBy_6 : decode cX0_pairsBy 6 = .ok (.getfield 268, 3) := dk_180 1 12 (dk_at dksX0_pairsBy_0 6 rfl rfl)
theorem dX0_pairsBy_9 : decode cX0_pairsBy 9 = .ok (.if_icmp .ge 45, 3) := dk_162 0 45 (dk_at dksX0_pairsBy_0 9 rfl rfl)
theorem dX0_pairsBy_12 : decode cX0_pairsBy 12 = .ok (.iconst 0, 1) := dk_3 (dk_at dksX0_pairsBy_0 12 rfl rfl)
theorem dX0_pairsBy_13 : decode cX0_pairsBy 13 = .ok (.istore 4, 2) := dk_54 4 (dk_at dksX0_pairsBy_0 13 rfl rfl)
theorem dX0_pairsBy_15 : decode cX0_pairsBy 15 = .ok (.iload 4, 2) := dk_21 4 (dk_at dksX0_pairsBy_0 15 rfl rfl)
theorem dX0_pairsBy_17 : decode cX0_pairsBy 17 = .ok (.iload_n 3, 1) := dk_29 (dk_at dksX0_pairsBy_0 17 rfl rfl)
theorem dX0_pairsBy_18 : decode cX0_pairsBy 18 = .ok (.if_icmp .ge 30, 3) := dk_162 0 30 (dk_at dksX0_pairsBy_0 18 rfl rfl)
theorem dX0_pairsBy_21 : decode cX0_pairsBy 21 = .ok (.iload_n 2, 1) := dk_28 (dk_at dksX0_pairsBy_0 21 rfl rfl)
theorem dX0_pairsBy_22 : decode cX0_pairsBy 22 = .ok (.aload_n 0, 1) := dk_42 (dk_at dksX0_pairsBy_0 22 rfl rfl)
theorem dX0_pairsBy_23 : decode cX0_pairsBy 23 = .ok (.aload_n 0, 1) := dk_42 (dk_at dksX0_pairsBy_0 23 rfl rfl)
theorem dX0_pairsBy_24 : decode cX0_pairsBy 24 = .ok (.getfield 114, 3) := dk_180 0 114 (dk_at dksX0_pairsBy_1 0 rfl rfl)
theorem dX0_pairsBy_27 : decode cX0_pairsBy 27 = .ok (.iload_n 3, 1) := dk_29 (dk_at dksX0_pairsBy_1 3 rfl rfl)
theorem dX0_pairsBy_28 : decode cX0_pairsBy 28 = .ok (.aaload, 1) := dk_50 (dk_at dksX0_pairsBy_1 4 rfl rfl)
theorem dX0_pairsBy_29 : decode cX0_pairsBy 29 = .ok (.aload_n 0, 1) := dk_42 (dk_at dksX0_pairsBy_1 5 rfl rfl)
theorem dX0_pairsBy_30 : decode cX0_pairsBy 30 = .ok (.getfield 114, 3) := dk_180 0 114 (dk_at dksX0_pairsBy_1 6 rfl rfl)
theorem dX0_pairsBy_33 : decode cX0_pairsBy 33 = .ok (.iload 4, 2) := dk_21 4 (dk_at dksX0_pairsBy_1 9 rfl rfl)
theorem dX0_pairsBy_35 : decode cX0_pairsBy 35 = .ok (.aaload, 1) := dk_50 (dk_at dksX0_pairsBy_1 11 rfl rfl)
theorem dX0_pairsBy_36 : decode cX0_pairsBy 36 = .ok (.iload_n 1, 1) := dk_27 (dk_at dksX0_pairsBy_1 12 rfl rfl)
theorem dX0_pairsBy_37 : decode cX0_pairsBy 37 = .ok (.invokevirtual 453, 3) := dk_182 1 197 (dk_at dksX0_pairsBy_1 13 rfl rfl)
theorem dX0_pairsBy_40 : decode cX0_pairsBy 40 = .ok (.iadd, 1) := dk_96 (dk_at dksX0_pairsBy_1 16 rfl rfl)
theorem dX0_pairsBy_41 : decode cX0_pairsBy 41 = .ok (.istore_n 2, 1) := dk_61 (dk_at dksX0_pairsBy_1 17 rfl rfl)
theorem dX0_pairsBy_42 : decode cX0_pairsBy 42 = .ok (.iinc 4 1, 3) := dk_132 4 1 (dk_at dksX0_pairsBy_1 18 rfl rfl)
theorem dX0_pairsBy_45 : decode cX0_pairsBy 45 = .ok (.goto (-30), 3) := dk_167 255 226 (dk_at dksX0_pairsBy_1 21 rfl rfl)
theorem dX0_pairsBy_48 : decode cX0_pairsBy 48 = .ok (.iinc 3 1, 3) := dk_132 3 1 (dk_at dksX0_pairsBy_2 0 rfl rfl)
theorem dX0_pairsBy_51 : decode cX0_pairsBy 51 = .ok (.goto (-47), 3) := dk_167 255 209 (dk_at dksX0_pairsBy_2 3 rfl rfl)
theorem dX0_pairsBy_54 : decode cX0_pairsBy 54 = .ok (.iload_n 2, 1) := dk_28 (dk_at dksX0_pairsBy_2 6 rfl rfl)
theorem dX0_pairsBy_55 : decode cX0_pairsBy 55 = .ok (.ireturn, 1) := dk_172 (dk_at dksX0_pairsBy_2 7 rfl rfl)
abbrev cX0_lackedAll : ByteArray := prog_1_method_79_code
def yX0_lackedAll : MethodName := ⟨RX0, "lackedAll", "()I"⟩
def dkwX0_lackedAll_1 : List UInt8 := [184, 1, 105, 96, 60, 132, 2, 1, 167, 255, 229, 27, 172]
abbrev dktX0_lackedAll_1 : List UInt8 := dkwX0_lackedAll_1 ++ []
def dkwX0_lackedAll_0 : List UInt8 := [3, 60, 3, 61, 28, 42, 180, 1, 12, 162, 0, 25, 27, 42, 42, 180, 0, 114, 28, 50, 182, 1, 157]
abbrev dktX0_lackedAll_0 : List UInt8 := dkwX0_lackedAll_0 ++ dktX0_lackedAll_1
theorem dksX0_lackedAll_0 : cX0_lackedAll.data.toList.drop 0 = dktX0_lackedAll_0 := by decide +kernel
theorem dksX0_lackedAll_1 : cX0_lackedAll.data.toList.drop 23 = dktX0_lackedAll_1 := dk_seg dksX0_lackedAll_0 23 rfl rfl
theorem dX0_lackedAll_0 : decode cX0_lackedAll 0 = .ok (.iconst 0, 1) := dk_3 (dk_at dksX0_lackedAll_0 0 rfl rfl)
theorem dX0_lackedAll_1 : decode cX0_lackedAll 1 = .ok (.istore_n 1, 1) := dk_60 (dk_at dksX0_lackedAll_0 1 rfl rfl)
theorem dX0_lackedAll_2 : decode cX0_lackedAll 2 = .ok (.iconst 0, 1) := dk_3 (dk_at dksX0_lackedAll_0 2 rfl rfl)
theorem dX0_lackedAll_3 : decode cX0_lackedAll 3 = .ok (.istore_n 2, 1) := dk_61 (dk_at dksX0_lackedAll_0 3 rfl rfl)
theorem dX0_lackedAll_4 : decode cX0_lackedAll 4 = .ok (.iload_n 2, 1) := dk_28 (dk_at dksX0_lackedAll_0 4 rfl rfl)
theorem dX0_lackedAll_5 : decode cX0_lackedAll 5 = .ok (.aload_n 0, 1) := dk_42 (dk_at dksX0_lackedAll_0 5 rfl rfl)
theorem dX0_lackedAll_6 : decode cX0_lackedAll 6 = .ok (.getfield 268, 3) := dk_180 1 12 (dk_at dksX0_lackedAll_0 6 rfl rfl)
theorem dX0_lackedAll_9 : decode cX0_lackedAll 9 = .ok (.if_icmp .ge 25, 3) := dk_162 0 25 (dk_at dksX0_lackedAll_0 9 rfl rfl)
theorem dX0_lackedAll_12 : decode cX0_lackedAll 12 = .ok (.iload_n 1, 1) := dk_27 (dk_at dksX0_lackedAll_0 12 rfl rfl)
theorem dX0_lackedAll_13 : decode cX0_lackedAll 13 = .ok (.aload_n 0, 1) := dk_42 (dk_at dksX0_lackedAll_0 13 rfl rfl)
theorem dX0_lackedAll_14 : decode cX0_lackedAll 14 = .ok (.aload_n 0, 1) := dk_42 (dk_at dksX0_lackedAll_0 14 rfl rfl)
theorem dX0_lackedAll_15 : decode cX0_lackedAll 15 = .ok (.getfield 114, 3) := dk_180 0 114 (dk_at dksX0_lackedAll_0 15 rfl rfl)
theorem dX0_lackedAll_18 : decode cX0_lackedAll 18 = .ok (.iload_n 2, 1) := dk_28 (dk_at dksX0_lackedAll_0 18 rfl rfl)
theorem dX0_lackedAll_19 : decode cX0_lackedAll 19 = .ok (.aaload, 1) := dk_50 (dk_at dksX0_lackedAll_0 19 rfl rfl)
theorem dX0_lackedAll_20 : decode cX0_lackedAll 20 = .ok (.invokevirtual 413, 3) := dk_182 1 157 (dk_at dksX0_lackedAll_0 20 rfl rfl)
theorem dX0_lackedAll_23 : decode cX0_lackedAll 23 = .ok (.invokestatic 361, 3) := dk_184 1 105 (dk_at dksX0_lackedAll_1 0 rfl rfl)
theorem dX0_lackedAll_26 : decode cX0_lackedAll 26 = .ok (.iadd, 1) := dk_96 (dk_at dksX0_lackedAll_1 3 rfl rfl)
theorem dX0_lackedAll_27 : decode cX0_lackedAll 27 = .ok (.istore_n 1, 1) := dk_60 (dk_at dksX0_lackedAll_1 4 rfl rfl)
theorem dX0_lackedAll_28 : decode cX0_lackedAll 28 = .ok (.iinc 2 1, 3) := dk_132 2 1 (dk_at dksX0_lackedAll_1 5 rfl rfl)
theorem dX0_lackedAll_31 : decode cX0_lackedAll 31 = .ok (.goto (-27), 3) := dk_167 255 229 (dk_at dksX0_lackedAll_1 8 rfl rfl)
theorem dX0_lackedAll_34 : decode cX0_lackedAll 34 = .ok (.iload_n 1, 1) := dk_27 (dk_at dksX0_lackedAll_1 11 rfl rfl)
theorem dX0_lackedAll_35 : decode cX0_lackedAll 35 = .ok (.ireturn, 1) := dk_172 (dk_at dksX0_lackedAll_1 12 rfl rfl)
abbrev cX0_differentTypes : ByteArray := prog_1_method_80_code
def yX0_differentTypes : MethodName := ⟨RX0, "differentTypes", "()I"⟩
def dkwX0_differentTypes_1 : List UInt8 := [43, 42, 180, 0, 117, 28, 50, 182, 1, 254, 87, 132, 2, 1, 167, 255, 228, 43, 182, 1, 118, 172]
abbrev dktX0_differentTypes_1 : List UInt8 := dkwX0_differentTypes_1 ++ []
def dkwX0_differentTypes_0 : List UInt8 := [187, 1, 111, 89, 183, 1, 113, 76, 3, 61, 28, 7, 162, 0, 29, 42, 180, 0, 117, 28, 50, 198, 0, 14]
abbrev dktX0_differentTypes_0 : List UInt8 := dkwX0_differentTypes_0 ++ dktX0_differentTypes_1
theorem dksX0_differentTypes_0 : cX0_differentTypes.data.toList.drop 0 = dktX0_differentTypes_0 := by decide +kernel
theorem dksX0_differentTypes_1 : cX0_differentTypes.data.toList.drop 24 = dktX0_differentTypes_1 := dk_seg dksX0_differentTypes_0 24 rfl rfl
theorem dX0_differentTypes_0 : decode cX0_differentTypes 0 = .ok (.new 367, 3) := dk_187 1 111 (dk_at dksX0_differentTypes_0 0 rfl rfl)
theorem dX0_differentTypes_3 : decode cX0_differentTypes 3 = .ok (.dup, 1) := dk_89 (dk_at dksX0_differentTypes_0 3 rfl rfl)
theorem dX0_differentTypes_4 : decode cX0_differentTypes 4 = .ok (.invokespecial 369, 3) := dk_183 1 113 (dk_at dksX0_differentTypes_0 4 rfl rfl)
theorem dX0_differentTypes_7 : decode cX0_differentTypes 7 = .ok (.astore_n 1, 1) := dk_76 (dk_at dksX0_differentTypes_0 7 rfl rfl)
theorem dX0_differentTypes_8 : decode cX0_differentTypes 8 = .ok (.iconst 0, 1) := dk_3 (dk_at dksX0_differentTypes_0 8 rfl rfl)
theorem dX0_differentTypes_9 : decode cX0_differentTypes 9 = .ok (.istore_n 2, 1) := dk_61 (dk_at dksX0_differentTypes_0 9 rfl rfl)
theorem dX0_differentTypes_10 : decode cX0_differentTypes 10 = .ok (.iload_n 2, 1) := dk_28 (dk_at dksX0_differentTypes_0 10 rfl rfl)
theorem dX0_differentTypes_11 : decode cX0_differentTypes 11 = .ok (.iconst 4, 1) := dk_7 (dk_at dksX0_differentTypes_0 11 rfl rfl)
theorem dX0_differentTypes_12 : decode cX0_differentTypes 12 = .ok (.if_icmp .ge 29, 3) := dk_162 0 29 (dk_at dksX0_differentTypes_0 12 rfl rfl)
theorem dX0_differentTypes_15 : decode cX0_differentTypes 15 = .ok (.aload_n 0, 1) := dk_42 (dk_at dksX0_differentTypes_0 15 rfl rfl)
theorem dX0_differentTypes_16 : decode cX0_differentTypes 16 = .ok (.getfield 117, 3) := dk_180 0 117 (dk_at dksX0_differentTypes_0 16 rfl rfl)
theorem dX0_differentTypes_19 : decode cX0_differentTypes 19 = .ok (.iload_n 2, 1) := dk_28 (dk_at dksX0_differentTypes_0 19 rfl rfl)
theorem dX0_differentTypes_20 : decode cX0_differentTypes 20 = .ok (.aaload, 1) := dk_50 (dk_at dksX0_differentTypes_0 20 rfl rfl)
theorem dX0_differentTypes_21 : decode cX0_differentTypes 21 = .ok (.ifnull 14, 3) := dk_198 0 14 (dk_at dksX0_differentTypes_0 21 rfl rfl)
theorem dX0_differentTypes_24 : decode cX0_differentTypes 24 = .ok (.aload_n 1, 1) := dk_43 (dk_at dksX0_differentTypes_1 0 rfl rfl)
theorem dX0_differentTypes_25 : decode cX0_differentTypes 25 = .ok (.aload_n 0, 1) := dk_42 (dk_at dksX0_differentTypes_1 1 rfl rfl)
theorem dX0_differentTypes_26 : decode cX0_differentTypes 26 = .ok (.getfield 117, 3) := dk_180 0 117 (dk_at dksX0_differentTypes_1 2 rfl rfl)
theorem dX0_differentTypes_29 : decode cX0_differentTypes 29 = .ok (.iload_n 2, 1) := dk_28 (dk_at dksX0_differentTypes_1 5 rfl rfl)
theorem dX0_differentTypes_30 : decode cX0_differentTypes 30 = .ok (.aaload, 1) := dk_50 (dk_at dksX0_differentTypes_1 6 rfl rfl)
theorem dX0_differentTypes_31 : decode cX0_differentTypes 31 = .ok (.invokevirtual 510, 3) := dk_182 1 254 (dk_at dksX0_differentTypes_1 7 rfl rfl)
theorem dX0_differentTypes_34 : decode cX0_differentTypes 34 = .ok (.pop, 1) := dk_87 (dk_at dksX0_differentTypes_1 10 rfl rfl)
theorem dX0_differentTypes_35 : decode cX0_differentTypes 35 = .ok (.iinc 2 1, 3) := dk_132 2 1 (dk_at dksX0_differentTypes_1 11 rfl rfl)
theorem dX0_differentTypes_38 : decode cX0_differentTypes 38 = .ok (.goto (-28), 3) := dk_167 255 228 (dk_at dksX0_differentTypes_1 14 rfl rfl)
theorem dX0_differentTypes_41 : decode cX0_differentTypes 41 = .ok (.aload_n 1, 1) := dk_43 (dk_at dksX0_differentTypes_1 17 rfl rfl)
theorem dX0_differentTypes_42 : decode cX0_differentTypes 42 = .ok (.invokevirtual 374, 3) := dk_182 1 118 (dk_at dksX0_differentTypes_1 18 rfl rfl)
theorem dX0_differentTypes_45 : decode cX0_differentTypes 45 = .ok (.ireturn, 1) := dk_172 (dk_at dksX0_differentTypes_1 21 rfl rfl)
abbrev cX0_digest : ByteArray := prog_1_method_83_code
def yX0_digest : MethodName := ⟨RX0, "digest", "()J"⟩
def dkwX0_digest_9 : List UInt8 := [180, 2, 15, 173]
abbrev dktX0_digest_9 : List UInt8 := dkwX0_digest_9 ++ []
def dkwX0_digest_8 : List UInt8 := [60, 27, 16, 11, 162, 0, 19, 42, 42, 27, 182, 2, 28, 133, 182, 2, 24, 132, 1, 1, 167, 255, 237, 42]
abbrev dktX0_digest_8 : List UInt8 := dkwX0_digest_8 ++ dktX0_digest_9
def dkwX0_digest_7 : List UInt8 := [180, 0, 174, 162, 0, 20, 42, 42, 180, 0, 121, 27, 46, 133, 182, 2, 24, 132, 1, 1, 167, 255, 234, 3]
abbrev dktX0_digest_7 : List UInt8 := dkwX0_digest_7 ++ dktX0_digest_8
def dkwX0_digest_6 : List UInt8 := [182, 1, 131, 133, 182, 2, 24, 132, 2, 1, 167, 255, 211, 132, 1, 1, 167, 255, 193, 3, 60, 27, 42]
abbrev dktX0_digest_6 : List UInt8 := dkwX0_digest_6 ++ dktX0_digest_7
def dkwX0_digest_5 : List UInt8 := [180, 0, 238, 108, 50, 198, 0, 31, 42, 42, 27, 42, 180, 0, 238, 112, 27, 42, 180, 0, 238, 108, 28]
abbrev dktX0_digest_5 : List UInt8 := dkwX0_digest_5 ++ dktX0_digest_6
def dkwX0_digest_4 : List UInt8 := [7, 42, 180, 0, 238, 104, 162, 0, 59, 3, 61, 28, 16, 7, 162, 0, 45, 42, 180, 0, 117, 27, 42]
abbrev dktX0_digest_4 : List UInt8 := dkwX0_digest_4 ++ dktX0_digest_5
def dkwX0_digest_3 : List UInt8 := [50, 28, 182, 1, 163, 133, 182, 2, 24, 132, 2, 1, 167, 255, 231, 132, 1, 1, 167, 255, 215, 3, 60, 27]
abbrev dktX0_digest_3 : List UInt8 := dkwX0_digest_3 ++ dktX0_digest_4
def dkwX0_digest_2 : List UInt8 := [60, 27, 42, 180, 1, 12, 162, 0, 39, 3, 61, 28, 16, 8, 162, 0, 25, 42, 42, 42, 180, 0, 114, 27]
abbrev dktX0_digest_2 : List UInt8 := dkwX0_digest_2 ++ dktX0_digest_3
def dkwX0_digest_1 : List UInt8 := [42, 42, 27, 28, 182, 2, 21, 133, 182, 2, 24, 132, 2, 1, 167, 255, 237, 132, 1, 1, 167, 255, 221, 3]
abbrev dktX0_digest_1 : List UInt8 := dkwX0_digest_1 ++ dktX0_digest_2
def dkwX0_digest_0 : List UInt8 := [42, 20, 2, 19, 181, 2, 15, 3, 60, 27, 42, 180, 0, 238, 162, 0, 33, 3, 61, 28, 6, 162, 0, 20]
abbrev dktX0_digest_0 : List UInt8 := dkwX0_digest_0 ++ dktX0_digest_1
theorem dksX0_digest_0 : cX0_digest.data.toList.drop 0 = dktX0_digest_0 := by decide +kernel
theorem dksX0_digest_1 : cX0_digest.data.toList.drop 24 = dktX0_digest_1 := dk_seg dksX0_digest_0 24 rfl rfl
theorem dksX0_digest_2 : cX0_digest.data.toList.drop 48 = dktX0_digest_2 := dk_seg dksX0_digest_1 24 rfl rfl
theorem dksX0_digest_3 : cX0_digest.data.toList.drop 72 = dktX0_digest_3 := dk_seg dksX0_digest_2 24 rfl rfl
theorem dksX0_digest_4 : cX0_digest.data.toList.drop 96 = dktX0_digest_4 := dk_seg dksX0_digest_3 24 rfl rfl
theorem dksX0_digest_5 : cX0_digest.data.toList.drop 119 = dktX0_digest_5 := dk_seg dksX0_digest_4 23 rfl rfl
theorem dksX0_digest_6 : cX0_digest.data.toList.drop 142 = dktX0_digest_6 := dk_seg dksX0_digest_5 23 rfl rfl
theorem dksX0_digest_7 : cX0_digest.data.toList.drop 165 = dktX0_digest_7 := dk_seg dksX0_digest_6 23 rfl rfl
theorem dksX0_digest_8 : cX0_digest.data.toList.drop 189 = dktX0_digest_8 := dk_seg dksX0_digest_7 24 rfl rfl
theorem dksX0_digest_9 : cX0_digest.data.toList.drop 213 = dktX0_digest_9 := dk_seg dksX0_digest_8 24 rfl rfl
theorem dX0_digest_0 : decode cX0_digest 0 = .ok (.aload_n 0, 1) := dk_42 (dk_at dksX0_digest_0 0 rfl rfl)
theorem dX0_digest_1 : decode cX0_digest 1 = .ok (.ldc2_w 531, 3) := dk_20 2 19 (dk_at dksX0_digest_0 1 rfl rfl)
theorem dX0_digest_4 : decode cX0_digest 4 = .ok (.putfield 527, 3) := dk_181 2 15 (dk_at dksX0_digest_0 4 rfl rfl)
theorem dX0_digest_7 : decode cX0_digest 7 = .ok (.iconst 0, 1) := dk_3 (dk_at dksX0_digest_0 7 rfl rfl)
theorem dX0_digest_8 : decode cX0_digest 8 = .ok (.istore_n 1, 1) := dk_60 (dk_at dksX0_digest_0 8 rfl rfl)
theorem dX0_digest_9 : decode cX0_digest 9 = .ok (.iload_n 1, 1) := dk_27 (dk_at dksX0_digest_0 9 rfl rfl)
theorem dX0_digest_10 : decode cX0_digest 10 = .ok (.aload_n 0, 1) := dk_42 (dk_at dksX0_digest_0 10 rfl rfl)
theorem dX0_digest_11 : decode cX0_digest 11 = .ok (.getfield 238, 3) := dk_180 0 238 (dk_at dksX0_digest_0 11 rfl rfl)
theorem dX0_digest_14 : decode cX0_digest 14 = .ok (.if_icmp .ge 33, 3) := dk_162 0 33 (dk_at dksX0_digest_0 14 rfl rfl)
theorem dX0_digest_17 : decode cX0_digest 17 = .ok (.iconst 0, 1) := dk_3 (dk_at dksX0_digest_0 17 rfl rfl)
theorem dX0_digest_18 : decode cX0_digest 18 = .ok (.istore_n 2, 1) := dk_61 (dk_at dksX0_digest_0 18 rfl rfl)
theorem dX0_digest_19 : decode cX0_digest 19 = .ok (.iload_n 2, 1) := dk_28 (dk_at dksX0_digest_0 19 rfl rfl)
theorem dX0_digest_20 : decode cX0_digest 20 = .ok (.iconst 3, 1) := dk_6 (dk_at dksX0_digest_0 20 rfl rfl)
theorem dX0_digest_21 : decode cX0_digest 21 = .ok (.if_icmp .ge 20, 3) := dk_162 0 20 (dk_at dksX0_digest_0 21 rfl rfl)
theorem dX0_digest_24 : decode cX0_digest 24 = .ok (.aload_n 0, 1) := dk_42 (dk_at dksX0_digest_1 0 rfl rfl)
theorem dX0_digest_25 : decode cX0_digest 25 = .ok (.aload_n 0, 1) := dk_42 (dk_at dksX0_digest_1 1 rfl rfl)
theorem dX0_digest_26 : decode cX0_digest 26 = .ok (.iload_n 1, 1) := dk_27 (dk_at dksX0_digest_1 2 rfl rfl)
theorem dX0_digest_27 : decode cX0_digest 27 = .ok (.iload_n 2, 1) := dk_28 (dk_at dksX0_digest_1 3 rfl rfl)
theorem dX0_digest_28 : decode cX0_digest 28 = .ok (.invokevirtual 533, 3) := dk_182 2 21 (dk_at dksX0_digest_1 4 rfl rfl)
theorem dX0_digest_31 : decode cX0_digest 31 = .ok (.i2l, 1) := dk_133 (dk_at dksX0_digest_1 7 rfl rfl)
theorem dX0_digest_32 : decode cX0_digest 32 = .ok (.invokevirtual 536, 3) := dk_182 2 24 (dk_at dksX0_digest_1 8 rfl rfl)
theorem dX0_digest_35 : decode cX0_digest 35 = .ok (.iinc 2 1, 3) := dk_132 2 1 (dk_at dksX0_digest_1 11 rfl rfl)
theorem dX0_digest_38 : decode cX0_digest 38 = .ok (.goto (-19), 3) := dk_167 255 237 (dk_at dksX0_digest_1 14 rfl rfl)
theorem dX0_digest_41 : decode cX0_digest 41 = .ok (.iinc 1 1, 3) := dk_132 1 1 (dk_at dksX0_digest_1 17 rfl rfl)
theorem dX0_digest_44 : decode cX0_digest 44 = .ok (.goto (-35), 3) := dk_167 255 221 (dk_at dksX0_digest_1 20 rfl rfl)
theorem dX0_digest_47 : decode cX0_digest 47 = .ok (.iconst 0, 1) := dk_3 (dk_at dksX0_digest_1 23 rfl rfl)
theorem dX0_digest_48 : decode cX0_digest 48 = .ok (.istore_n 1, 1) := dk_60 (dk_at dksX0_digest_2 0 rfl rfl)
theorem dX0_digest_49 : decode cX0_digest 49 = .ok (.iload_n 1, 1) := dk_27 (dk_at dksX0_digest_2 1 rfl rfl)
theorem dX0_digest_50 : decode cX0_digest 50 = .ok (.aload_n 0, 1) := dk_42 (dk_at dksX0_digest_2 2 rfl rfl)
theorem dX0_digest_51 : decode cX0_digest 51 = .ok (.getfield 268, 3) := dk_180 1 12 (dk_at dksX0_digest_2 3 rfl rfl)
theorem dX0_digest_54 : decode cX0_digest 54 = .ok (.if_icmp .ge 39, 3) := dk_162 0 39 (dk_at dksX0_digest_2 6 rfl rfl)
theorem dX0_digest_57 : decode cX0_digest 57 = .ok (.iconst 0, 1) := dk_3 (dk_at dksX0_digest_2 9 rfl rfl)
theorem dX0_digest_58 : decode cX0_digest 58 = .ok (.istore_n 2, 1) := dk_61 (dk_at dksX0_digest_2 10 rfl rfl)
theorem dX0_digest_59 : decode cX0_digest 59 = .ok (.iload_n 2, 1) := dk_28 (dk_at dksX0_digest_2 11 rfl rfl)
theorem dX0_digest_60 : decode cX0_digest 60 = .ok (.bipush 8, 2) := dk_16 8 (dk_at dksX0_digest_2 12 rfl rfl)
theorem dX0_digest_62 : decode cX0_digest 62 = .ok (.if_icmp .ge 25, 3) := dk_162 0 25 (dk_at dksX0_digest_2 14 rfl rfl)
theorem dX0_digest_65 : decode cX0_digest 65 = .ok (.aload_n 0, 1) := dk_42 (dk_at dksX0_digest_2 17 rfl rfl)
theorem dX0_digest_66 : decode cX0_digest 66 = .ok (.aload_n 0, 1) := dk_42 (dk_at dksX0_digest_2 18 rfl rfl)
theorem dX0_digest_67 : decode cX0_digest 67 = .ok (.aload_n 0, 1) := dk_42 (dk_at dksX0_digest_2 19 rfl rfl)
theorem dX0_digest_68 : decode cX0_digest 68 = .ok (.getfield 114, 3) := dk_180 0 114 (dk_at dksX0_digest_2 20 rfl rfl)
theorem dX0_digest_71 : decode cX0_digest 71 = .ok (.iload_n 1, 1) := dk_27 (dk_at dksX0_digest_2 23 rfl rfl)
theorem dX0_digest_72 : decode cX0_digest 72 = .ok (.aaload, 1) := dk_50 (dk_at dksX0_digest_3 0 rfl rfl)
theorem dX0_digest_73 : decode cX0_digest 73 = .ok (.iload_n 2, 1) := dk_28 (dk_at dksX0_digest_3 1 rfl rfl)
theorem dX0_digest_74 : decode cX0_digest 74 = .ok (.invokevirtual 419, 3) := dk_182 1 163 (dk_at dksX0_digest_3 2 rfl rfl)
theorem dX0_digest_77 : decode cX0_digest 77 = .ok (.i2l, 1) := dk_133 (dk_at dksX0_digest_3 5 rfl rfl)
theorem dX0_digest_78 : decode cX0_digest 78 = .ok (.invokevirtual 536, 3) := dk_182 2 24 (dk_at dksX0_digest_3 6 rfl rfl)
theorem dX0_digest_81 : decode cX0_digest 81 = .ok (.iinc 2 1, 3) := dk_132 2 1 (dk_at dksX0_digest_3 9 rfl rfl)
theorem dX0_digest_84 : decode cX0_digest 84 = .ok (.goto (-25), 3) := dk_167 255 231 (dk_at dksX0_digest_3 12 rfl rfl)
theorem dX0_digest_87 : decode cX0_digest 87 = .ok (.iinc 1 1, 3) := dk_132 1 1 (dk_at dksX0_digest_3 15 rfl rfl)
theorem dX0_digest_90 : decode cX0_digest 90 = .ok (.goto (-41), 3) := dk_167 255 215 (dk_at dksX0_digest_3 18 rfl rfl)
theorem dX0_digest_93 : decode cX0_digest 93 = .ok (.iconst 0, 1) := dk_3 (dk_at dksX0_digest_3 21 rfl rfl)
theorem dX0_digest_94 : decode cX0_digest 94 = .ok (.istore_n 1, 1) := dk_60 (dk_at dksX0_digest_3 22 rfl rfl)
theorem dX0_digest_95 : decode cX0_digest 95 = .ok (.iload_n 1, 1) := dk_27 (dk_at dksX0_digest_3 23 rfl rfl)
theorem dX0_digest_96 : decode cX0_digest 96 = .ok (.iconst 4, 1) := dk_7 (dk_at dksX0_digest_4 0 rfl rfl)
theorem dX0_digest_97 : decode cX0_digest 97 = .ok (.aload_n 0, 1) := dk_42 (dk_at dksX0_digest_4 1 rfl rfl)
theorem dX0_digest_98 : decode cX0_digest 98 = .ok (.getfield 238, 3) := dk_180 0 238 (dk_at dksX0_digest_4 2 rfl rfl)
theorem dX0_digest_101 : decode cX0_digest 101 = .ok (.imul, 1) := dk_104 (dk_at dksX0_digest_4 5 rfl rfl)
theorem dX0_digest_102 : decode cX0_digest 102 = .ok (.if_icmp .ge 59, 3) := dk_162 0 59 (dk_at dksX0_digest_4 6 rfl rfl)
theorem dX0_digest_105 : decode cX0_digest 105 = .ok (.iconst 0, 1) := dk_3 (dk_at dksX0_digest_4 9 rfl rfl)
theorem dX0_digest_106 : decode cX0_digest 106 = .ok (.istore_n 2, 1) := dk_61 (dk_at dksX0_digest_4 10 rfl rfl)
theorem dX0_digest_107 : decode cX0_digest 107 = .ok (.iload_n 2, 1) := dk_28 (dk_at dksX0_digest_4 11 rfl rfl)
theorem dX0_digest_108 : decode cX0_digest 108 = .ok (.bipush 7, 2) := dk_16 7 (dk_at dksX0_digest_4 12 rfl rfl)
theorem dX0_digest_110 : decode cX0_digest 110 = .ok (.if_icmp .ge 45, 3) := dk_162 0 45 (dk_at dksX0_digest_4 14 rfl rfl)
theorem dX0_digest_113 : decode cX0_digest 113 = .ok (.aload_n 0, 1) := dk_42 (dk_at dksX0_digest_4 17 rfl rfl)
theorem dX0_digest_114 : decode cX0_digest 114 = .ok (.getfield 117, 3) := dk_180 0 117 (dk_at dksX0_digest_4 18 rfl rfl)
theorem dX0_digest_117 : decode cX0_digest 117 = .ok (.iload_n 1, 1) := dk_27 (dk_at dksX0_digest_4 21 rfl rfl)
theorem dX0_digest_118 : decode cX0_digest 118 = .ok (.aload_n 0, 1) := dk_42 (dk_at dksX0_digest_4 22 rfl rfl)
theorem dX0_digest_119 : decode cX0_digest 119 = .ok (.getfield 238, 3) := dk_180 0 238 (dk_at dksX0_digest_5 0 rfl rfl)
theorem dX0_digest_122 : decode cX0_digest 122 = .ok (.idiv, 1) := dk_108 (dk_at dksX0_digest_5 3 rfl rfl)
theorem dX0_digest_123 : decode cX0_digest 123 = .ok (.aaload, 1) := dk_50 (dk_at dksX0_digest_5 4 rfl rfl)
theorem dX0_digest_124 : decode cX0_digest 124 = .ok (.ifnull 31, 3) := dk_198 0 31 (dk_at dksX0_digest_5 5 rfl rfl)
theorem dX0_digest_127 : decode cX0_digest 127 = .ok (.aload_n 0, 1) := dk_42 (dk_at dksX0_digest_5 8 rfl rfl)
theorem dX0_digest_128 : decode cX0_digest 128 = .ok (.aload_n 0, 1) := dk_42 (dk_at dksX0_digest_5 9 rfl rfl)
theorem dX0_digest_129 : decode cX0_digest 129 = .ok (.iload_n 1, 1) := dk_27 (dk_at dksX0_digest_5 10 rfl rfl)
theorem dX0_digest_130 : decode cX0_digest 130 = .ok (.aload_n 0, 1) := dk_42 (dk_at dksX0_digest_5 11 rfl rfl)
theorem dX0_digest_131 : decode cX0_digest 131 = .ok (.getfield 238, 3) := dk_180 0 238 (dk_at dksX0_digest_5 12 rfl rfl)
theorem dX0_digest_134 : decode cX0_digest 134 = .ok (.irem, 1) := dk_112 (dk_at dksX0_digest_5 15 rfl rfl)
theorem dX0_digest_135 : decode cX0_digest 135 = .ok (.iload_n 1, 1) := dk_27 (dk_at dksX0_digest_5 16 rfl rfl)
theorem dX0_digest_136 : decode cX0_digest 136 = .ok (.aload_n 0, 1) := dk_42 (dk_at dksX0_digest_5 17 rfl rfl)
theorem dX0_digest_137 : decode cX0_digest 137 = .ok (.getfield 238, 3) := dk_180 0 238 (dk_at dksX0_digest_5 18 rfl rfl)
theorem dX0_digest_140 : decode cX0_digest 140 = .ok (.idiv, 1) := dk_108 (dk_at dksX0_digest_5 21 rfl rfl)
theorem dX0_digest_141 : decode cX0_digest 141 = .ok (.iload_n 2, 1) := dk_28 (dk_at dksX0_digest_5 22 rfl rfl)
theorem dX0_digest_142 : decode cX0_digest 142 = .ok (.invokevirtual 387, 3) := dk_182 1 131 (dk_at dksX0_digest_6 0 rfl rfl)
theorem dX0_digest_145 : decode cX0_digest 145 = .ok (.i2l, 1) := dk_133 (dk_at dksX0_digest_6 3 rfl rfl)
theorem dX0_digest_146 : decode cX0_digest 146 = .ok (.invokevirtual 536, 3) := dk_182 2 24 (dk_at dksX0_digest_6 4 rfl rfl)
theorem dX0_digest_149 : decode cX0_digest 149 = .ok (.iinc 2 1, 3) := dk_132 2 1 (dk_at dksX0_digest_6 7 rfl rfl)
theorem dX0_digest_152 : decode cX0_digest 152 = .ok (.goto (-45), 3) := dk_167 255 211 (dk_at dksX0_digest_6 10 rfl rfl)
theorem dX0_digest_155 : decode cX0_digest 155 = .ok (.iinc 1 1, 3) := dk_132 1 1 (dk_at dksX0_digest_6 13 rfl rfl)
theorem dX0_digest_158 : decode cX0_digest 158 = .ok (.goto (-63), 3) := dk_167 255 193 (dk_at dksX0_digest_6 16 rfl rfl)
theorem dX0_digest_161 : decode cX0_digest 161 = .ok (.iconst 0, 1) := dk_3 (dk_at dksX0_digest_6 19 rfl rfl)
theorem dX0_digest_162 : decode cX0_digest 162 = .ok (.istore_n 1, 1) := dk_60 (dk_at dksX0_digest_6 20 rfl rfl)
theorem dX0_digest_163 : decode cX0_digest 163 = .ok (.iload_n 1, 1) := dk_27 (dk_at dksX0_digest_6 21 rfl rfl)
theorem dX0_digest_164 : decode cX0_digest 164 = .ok (.aload_n 0, 1) := dk_42 (dk_at dksX0_digest_6 22 rfl rfl)
theorem dX0_digest_165 : decode cX0_digest 165 = .ok (.getfield 174, 3) := dk_180 0 174 (dk_at dksX0_digest_7 0 rfl rfl)
theorem dX0_digest_168 : decode cX0_digest 168 = .ok (.if_icmp .ge 20, 3) := dk_162 0 20 (dk_at dksX0_digest_7 3 rfl rfl)
theorem dX0_digest_171 : decode cX0_digest 171 = .ok (.aload_n 0, 1) := dk_42 (dk_at dksX0_digest_7 6 rfl rfl)
theorem dX0_digest_172 : decode cX0_digest 172 = .ok (.aload_n 0, 1) := dk_42 (dk_at dksX0_digest_7 7 rfl rfl)
theorem dX0_digest_173 : decode cX0_digest 173 = .ok (.getfield 121, 3) := dk_180 0 121 (dk_at dksX0_digest_7 8 rfl rfl)
theorem dX0_digest_176 : decode cX0_digest 176 = .ok (.iload_n 1, 1) := dk_27 (dk_at dksX0_digest_7 11 rfl rfl)
theorem dX0_digest_177 : decode cX0_digest 177 = .ok (.iaload, 1) := dk_46 (dk_at dksX0_digest_7 12 rfl rfl)
theorem dX0_digest_178 : decode cX0_digest 178 = .ok (.i2l, 1) := dk_133 (dk_at dksX0_digest_7 13 rfl rfl)
theorem dX0_digest_179 : decode cX0_digest 179 = .ok (.invokevirtual 536, 3) := dk_182 2 24 (dk_at dksX0_digest_7 14 rfl rfl)
theorem dX0_digest_182 : decode cX0_digest 182 = .ok (.iinc 1 1, 3) := dk_132 1 1 (dk_at dksX0_digest_7 17 rfl rfl)
theorem dX0_digest_185 : decode cX0_digest 185 = .ok (.goto (-22), 3) := dk_167 255 234 (dk_at dksX0_digest_7 20 rfl rfl)
theorem dX0_digest_188 : decode cX0_digest 188 = .ok (.iconst 0, 1) := dk_3 (dk_at dksX0_digest_7 23 rfl rfl)
theorem dX0_digest_189 : decode cX0_digest 189 = .ok (.istore_n 1, 1) := dk_60 (dk_at dksX0_digest_8 0 rfl rfl)
theorem dX0_digest_190 : decode cX0_digest 190 = .ok (.iload_n 1, 1) := dk_27 (dk_at dksX0_digest_8 1 rfl rfl)
theorem dX0_digest_191 : decode cX0_digest 191 = .ok (.bipush 11, 2) := dk_16 11 (dk_at dksX0_digest_8 2 rfl rfl)
theorem dX0_digest_193 : decode cX0_digest 193 = .ok (.if_icmp .ge 19, 3) := dk_162 0 19 (dk_at dksX0_digest_8 4 rfl rfl)
theorem dX0_digest_196 : decode cX0_digest 196 = .ok (.aload_n 0, 1) := dk_42 (dk_at dksX0_digest_8 7 rfl rfl)
theorem dX0_digest_197 : decode cX0_digest 197 = .ok (.aload_n 0, 1) := dk_42 (dk_at dksX0_digest_8 8 rfl rfl)
theorem dX0_digest_198 : decode cX0_digest 198 = .ok (.iload_n 1, 1) := dk_27 (dk_at dksX0_digest_8 9 rfl rfl)
theorem dX0_digest_199 : decode cX0_digest 199 = .ok (.invokevirtual 540, 3) := dk_182 2 28 (dk_at dksX0_digest_8 10 rfl rfl)
theorem dX0_digest_202 : decode cX0_digest 202 = .ok (.i2l, 1) := dk_133 (dk_at dksX0_digest_8 13 rfl rfl)
theorem dX0_digest_203 : decode cX0_digest 203 = .ok (.invokevirtual 536, 3) := dk_182 2 24 (dk_at dksX0_digest_8 14 rfl rfl)
theorem dX0_digest_206 : decode cX0_digest 206 = .ok (.iinc 1 1, 3) := dk_132 1 1 (dk_at dksX0_digest_8 17 rfl rfl)
theorem dX0_digest_209 : decode cX0_digest 209 = .ok (.goto (-19), 3) := dk_167 255 237 (dk_at dksX0_digest_8 20 rfl rfl)
theorem dX0_digest_212 : decode cX0_digest 212 = .ok (.aload_n 0, 1) := dk_42 (dk_at dksX0_digest_8 23 rfl rfl)
theorem dX0_digest_213 : decode cX0_digest 213 = .ok (.getfield 527, 3) := dk_180 2 15 (dk_at dksX0_digest_9 0 rfl rfl)
theorem dX0_digest_216 : decode cX0_digest 216 = .ok (.lreturn, 1) := dk_173 (dk_at dksX0_digest_9 3 rfl rfl)
abbrev cX0_note : ByteArray := prog_1_method_82_code
def yX0_note : MethodName := ⟨RX0, "note", "(J)V"⟩
def dkwX0_note_0 : List UInt8 := [42, 20, 2, 13, 42, 180, 2, 15, 105, 31, 97, 181, 2, 15, 177]
abbrev dktX0_note_0 : List UInt8 := dkwX0_note_0 ++ []
theorem dksX0_note_0 : cX0_note.data.toList.drop 0 = dktX0_note_0 := by decide +kernel
theorem dX0_note_0 : decode cX0_note 0 = .ok (.aload_n 0, 1) := dk_42 (dk_at dksX0_note_0 0 rfl rfl)
theorem dX0_note_1 : decode cX0_note 1 = .ok (.ldc2_w 525, 3) := dk_20 2 13 (dk_at dksX0_note_0 1 rfl rfl)
theorem dX0_note_4 : decode cX0_note 4 = .ok (.aload_n 0, 1) := dk_42 (dk_at dksX0_note_0 4 rfl rfl)
theorem dX0_note_5 : decode cX0_note 5 = .ok (.getfield 527, 3) := dk_180 2 15 (dk_at dksX0_note_0 5 rfl rfl)
theorem dX0_note_8 : decode cX0_note 8 = .ok (.lmul, 1) := dk_105 (dk_at dksX0_note_0 8 rfl rfl)
theorem dX0_note_9 : decode cX0_note 9 = .ok (.lload_n 1, 1) := dk_31 (dk_at dksX0_note_0 9 rfl rfl)
theorem dX0_note_10 : decode cX0_note 10 = .ok (.ladd, 1) := dk_97 (dk_at dksX0_note_0 10 rfl rfl)
theorem dX0_note_11 : decode cX0_note 11 = .ok (.putfield 527, 3) := dk_181 2 15 (dk_at dksX0_note_0 11 rfl rfl)
theorem dX0_note_14 : decode cX0_note 14 = .ok (.return_, 1) := dk_177 (dk_at dksX0_note_0 14 rfl rfl)
theorem q115 : (Jvm.Cond.initialized "DictProof") ∈ lw_all := lw_g (lw_at lw_m1 1 rfl) rfl
theorem q145 : (Jvm.Cond.instantiable "DictProof" (36 : Nat)) ∈ lw_all := lw_g (lw_at lw_m1 31 rfl) rfl
theorem q147 : (Jvm.Cond.instanceMethod ({ cls := "DictProof", name := "<init>", desc := "()V" } : Jvm.MethodName)) ∈ lw_all := lw_g (lw_at lw_m1 33 rfl) rfl
theorem q148 : (Jvm.Cond.code ({ cls := "DictProof", name := "<init>", desc := "()V" } : Jvm.MethodName) prog_1_method_14_code (1 : Nat) (Option.none : Option Jvm.ClassFile.FieldType)) ∈ lw_all := lw_g (lw_at lw_m1 34 rfl) rfl
theorem q149 : (Jvm.Cond.methodLink "DictProof" (100 : Nat) ({ cls := "java/lang/Object", name := "<init>", desc := "()V" } : Jvm.MethodName)) ∈ lw_all := lw_g (lw_at lw_m1 35 rfl) rfl
theorem q152 : (Jvm.Cond.classLink "DictProof" (83 : Nat) "DictProof$Instance") ∈ lw_all := lw_g (lw_at lw_m1 38 rfl) rfl
theorem q155 : (Jvm.Cond.methodLinkNest "DictProof" (85 : Nat) ({ cls := "DictProof$Instance", name := "<init>", desc := "()V" } : Jvm.MethodName) "DictProof") ∈ lw_tbl := lw_at lw_m1 41 rfl
theorem q161 : (Jvm.Cond.fieldLink "DictProof" (245 : Nat) "DictProof$Instance" "number" "I") ∈ lw_all := lw_g (lw_at lw_m1 47 rfl) rfl
theorem q162 : (Jvm.Cond.fieldLink "DictProof" (423 : Nat) "DictProof$Spare" "number" "I") ∈ lw_all := lw_g (lw_at lw_m1 48 rfl) rfl
theorem q164 : (Jvm.Cond.fieldLink "DictProof" (424 : Nat) "DictProof$Hidden" "number" "I") ∈ lw_all := lw_g (lw_at lw_m1 50 rfl) rfl
theorem q166 : (Jvm.Cond.fieldLink "DictProof" (425 : Nat) "DictProof$First" "number" "I") ∈ lw_all := lw_g (lw_at lw_m1 52 rfl) rfl
theorem q168 : (Jvm.Cond.fieldLink "DictProof" (426 : Nat) "DictProof$Sole" "number" "I") ∈ lw_all := lw_g (lw_at lw_m1 54 rfl) rfl
theorem q171 : (Jvm.Cond.fieldLink "DictProof" (248 : Nat) "DictProof$Instance" "of" "I") ∈ lw_all := lw_g (lw_at lw_m1 57 rfl) rfl
theorem q173 : (Jvm.Cond.fieldLink "DictProof" (251 : Nat) "DictProof$Instance" "head" "LDictProof$Term;") ∈ lw_all := lw_g (lw_at lw_m1 59 rfl) rfl
theorem q175 : (Jvm.Cond.fieldLink "DictProof" (257 : Nat) "DictProof$Instance" "classes" "[I") ∈ lw_all := lw_g (lw_at lw_m1 61 rfl) rfl
theorem q177 : (Jvm.Cond.fieldLink "DictProof" (260 : Nat) "DictProof$Instance" "variables" "[I") ∈ lw_all := lw_g (lw_at lw_m1 63 rfl) rfl
theorem q180 : (Jvm.Cond.fieldLink "DictProof" (254 : Nat) "DictProof$Instance" "many" "I") ∈ lw_all := lw_g (lw_at lw_m1 66 rfl) rfl
theorem q195 : (Jvm.Cond.classLink "DictProof" (88 : Nat) "DictProof$Spare") ∈ lw_all := lw_g (lw_at lw_m1 81 rfl) rfl
theorem q197 : (Jvm.Cond.methodLinkNest "DictProof" (90 : Nat) ({ cls := "DictProof$Spare", name := "<init>", desc := "()V" } : Jvm.MethodName) "DictProof") ∈ lw_tbl := lw_at lw_m1 83 rfl
theorem q208 : (Jvm.Cond.classLink "DictProof" (91 : Nat) "DictProof$Hidden") ∈ lw_all := lw_g (lw_at lw_m1 94 rfl) rfl
theorem q210 : (Jvm.Cond.methodLinkNest "DictProof" (93 : Nat) ({ cls := "DictProof$Hidden", name := "<init>", desc := "()V" } : Jvm.MethodName) "DictProof") ∈ lw_tbl := lw_at lw_m1 96 rfl
theorem q221 : (Jvm.Cond.classLink "DictProof" (94 : Nat) "DictProof$First") ∈ lw_all := lw_g (lw_at lw_m1 107 rfl) rfl
theorem q223 : (Jvm.Cond.methodLinkNest "DictProof" (96 : Nat) ({ cls := "DictProof$First", name := "<init>", desc := "()V" } : Jvm.MethodName) "DictProof") ∈ lw_tbl := lw_at lw_m1 109 rfl
theorem q234 : (Jvm.Cond.classLink "DictProof" (97 : Nat) "DictProof$Sole") ∈ lw_all := lw_g (lw_at lw_m1 120 rfl) rfl
theorem q236 : (Jvm.Cond.methodLinkNest "DictProof" (99 : Nat) ({ cls := "DictProof$Sole", name := "<init>", desc := "()V" } : Jvm.MethodName) "DictProof") ∈ lw_tbl := lw_at lw_m1 122 rfl
theorem q247 : (Jvm.Cond.classLink "DictProof" (12 : Nat) "DictProof$Term") ∈ lw_all := lw_g (lw_at lw_m1 133 rfl) rfl
theorem q249 : (Jvm.Cond.classLink "DictProof" (48 : Nat) "java/util/HashMap") ∈ lw_all := lw_g (lw_at lw_m1 135 rfl) rfl
theorem q251 : (Jvm.Cond.methodLink "DictProof" (127 : Nat) ({ cls := "java/util/HashMap", name := "<init>", desc := "()V" } : Jvm.MethodName)) ∈ lw_all := lw_g (lw_at lw_m1 137 rfl) rfl
theorem q281 : (Jvm.Cond.fieldLink "DictProof" (103 : Nat) "DictProof" "sorts" "[LDictProof$Instance;") ∈ lw_all := lw_g (lw_at lw_m1 167 rfl) rfl
theorem q282 : (Jvm.Cond.fieldLink "DictProof" (107 : Nat) "DictProof" "rightAbove" "[I") ∈ lw_all := lw_g (lw_at lw_m1 168 rfl) rfl
theorem q283 : (Jvm.Cond.fieldLink "DictProof" (111 : Nat) "DictProof" "above" "[I") ∈ lw_all := lw_g (lw_at lw_m1 169 rfl) rfl
theorem q284 : (Jvm.Cond.fieldLink "DictProof" (238 : Nat) "DictProof" "classMany" "I") ∈ lw_all := lw_g (lw_at lw_m1 170 rfl) rfl
theorem q285 : (Jvm.Cond.fieldLink "DictProof" (114 : Nat) "DictProof" "instances" "[LDictProof$Instance;") ∈ lw_all := lw_g (lw_at lw_m1 171 rfl) rfl
theorem q286 : (Jvm.Cond.fieldLink "DictProof" (268 : Nat) "DictProof" "many" "I") ∈ lw_all := lw_g (lw_at lw_m1 172 rfl) rfl
theorem q287 : (Jvm.Cond.fieldLink "DictProof" (117 : Nat) "DictProof" "slots" "[LDictProof$Term;") ∈ lw_all := lw_g (lw_at lw_m1 173 rfl) rfl
theorem q288 : (Jvm.Cond.fieldLink "DictProof" (279 : Nat) "DictProof" "booksRead" "I") ∈ lw_all := lw_g (lw_at lw_m1 174 rfl) rfl
theorem q289 : (Jvm.Cond.fieldLink "DictProof" (121 : Nat) "DictProof" "page" "[I") ∈ lw_all := lw_g (lw_at lw_m1 175 rfl) rfl
theorem q290 : (Jvm.Cond.fieldLink "DictProof" (174 : Nat) "DictProof" "pageMany" "I") ∈ lw_all := lw_g (lw_at lw_m1 176 rfl) rfl
theorem q291 : (Jvm.Cond.fieldLink "DictProof" (180 : Nat) "DictProof" "readClasses" "I") ∈ lw_all := lw_g (lw_at lw_m1 177 rfl) rfl
theorem q292 : (Jvm.Cond.fieldLink "DictProof" (177 : Nat) "DictProof" "readHere" "I") ∈ lw_all := lw_g (lw_at lw_m1 178 rfl) rfl
theorem q293 : (Jvm.Cond.fieldLink "DictProof" (183 : Nat) "DictProof" "readEnd" "I") ∈ lw_all := lw_g (lw_at lw_m1 179 rfl) rfl
theorem q294 : (Jvm.Cond.fieldLink "DictProof" (188 : Nat) "DictProof" "readMany" "I") ∈ lw_all := lw_g (lw_at lw_m1 180 rfl) rfl
theorem q295 : (Jvm.Cond.fieldLink "DictProof" (191 : Nat) "DictProof" "lacked" "I") ∈ lw_all := lw_g (lw_at lw_m1 181 rfl) rfl
theorem q296 : (Jvm.Cond.fieldLink "DictProof" (194 : Nat) "DictProof" "sized" "I") ∈ lw_all := lw_g (lw_at lw_m1 182 rfl) rfl
theorem q297 : (Jvm.Cond.fieldLink "DictProof" (197 : Nat) "DictProof" "variables" "I") ∈ lw_all := lw_g (lw_at lw_m1 183 rfl) rfl
theorem q298 : (Jvm.Cond.fieldLink "DictProof" (200 : Nat) "DictProof" "conditioned" "I") ∈ lw_all := lw_g (lw_at lw_m1 184 rfl) rfl
theorem q299 : (Jvm.Cond.fieldLink "DictProof" (124 : Nat) "DictProof" "startOf" "[I") ∈ lw_all := lw_g (lw_at lw_m1 185 rfl) rfl
theorem q300 : (Jvm.Cond.fieldLink "DictProof" (228 : Nat) "DictProof" "reading" "I") ∈ lw_all := lw_g (lw_at lw_m1 186 rfl) rfl
theorem q301 : (Jvm.Cond.fieldLink "DictProof" (128 : Nat) "DictProof" "proofs" "Ljava/util/HashMap;") ∈ lw_all := lw_g (lw_at lw_m1 187 rfl) rfl
theorem q302 : (Jvm.Cond.fieldLink "DictProof" (132 : Nat) "DictProof" "alike" "[Z") ∈ lw_all := lw_g (lw_at lw_m1 188 rfl) rfl
theorem q303 : (Jvm.Cond.fieldLink "DictProof" (136 : Nat) "DictProof" "special" "[Z") ∈ lw_all := lw_g (lw_at lw_m1 189 rfl) rfl
theorem q304 : (Jvm.Cond.fieldLink "DictProof" (139 : Nat) "DictProof" "seenInstance" "[I") ∈ lw_all := lw_g (lw_at lw_m1 190 rfl) rfl
theorem q305 : (Jvm.Cond.fieldLink "DictProof" (142 : Nat) "DictProof" "seenWhat" "[I") ∈ lw_all := lw_g (lw_at lw_m1 191 rfl) rfl
theorem q306 : (Jvm.Cond.fieldLink "DictProof" (145 : Nat) "DictProof" "seenSo" "[Z") ∈ lw_all := lw_g (lw_at lw_m1 192 rfl) rfl
theorem q307 : (Jvm.Cond.fieldLink "DictProof" (276 : Nat) "DictProof" "seenMany" "I") ∈ lw_all := lw_g (lw_at lw_m1 193 rfl) rfl
theorem q308 : (Jvm.Cond.fieldLink "DictProof" (478 : Nat) "DictProof" "drawn" "I") ∈ lw_all := lw_g (lw_at lw_m1 194 rfl) rfl
theorem q309 : (Jvm.Cond.fieldLink "DictProof" (148 : Nat) "DictProof" "keptKinds" "[I") ∈ lw_all := lw_g (lw_at lw_m1 195 rfl) rfl
theorem q310 : (Jvm.Cond.fieldLink "DictProof" (151 : Nat) "DictProof" "keptSlots" "[LDictProof$Term;") ∈ lw_all := lw_g (lw_at lw_m1 196 rfl) rfl
theorem q311 : (Jvm.Cond.fieldLink "DictProof" (154 : Nat) "DictProof" "keptInstance" "[I") ∈ lw_all := lw_g (lw_at lw_m1 197 rfl) rfl
theorem q312 : (Jvm.Cond.fieldLink "DictProof" (157 : Nat) "DictProof" "keptWhat" "[I") ∈ lw_all := lw_g (lw_at lw_m1 198 rfl) rfl
theorem q313 : (Jvm.Cond.fieldLink "DictProof" (160 : Nat) "DictProof" "keptSo" "[Z") ∈ lw_all := lw_g (lw_at lw_m1 199 rfl) rfl
theorem q314 : (Jvm.Cond.fieldLink "DictProof" (504 : Nat) "DictProof" "keptSeen" "I") ∈ lw_all := lw_g (lw_at lw_m1 200 rfl) rfl
theorem q315 : (Jvm.Cond.fieldLink "DictProof" (163 : Nat) "DictProof" "keptBook" "I") ∈ lw_all := lw_g (lw_at lw_m1 201 rfl) rfl
theorem q316 : (Jvm.Cond.fieldLink "DictProof" (527 : Nat) "DictProof" "h" "J") ∈ lw_all := lw_g (lw_at lw_m1 202 rfl) rfl
theorem q317 : (Jvm.Cond.laysFinal "DictProof" "DictProof" "sorts" "[LDictProof$Instance;") ∈ lw_all := lw_g (lw_at lw_m1 203 rfl) rfl
theorem q318 : (Jvm.Cond.soleField "DictProof" "sorts") ∈ lw_all := lw_g (lw_at lw_m1 204 rfl) rfl
theorem q319 : (Jvm.Cond.laysFinal "DictProof" "DictProof" "rightAbove" "[I") ∈ lw_all := lw_g (lw_at lw_m1 205 rfl) rfl
theorem q320 : (Jvm.Cond.soleField "DictProof" "rightAbove") ∈ lw_all := lw_g (lw_at lw_m1 206 rfl) rfl
theorem q321 : (Jvm.Cond.laysFinal "DictProof" "DictProof" "above" "[I") ∈ lw_all := lw_g (lw_at lw_m1 207 rfl) rfl
theorem q322 : (Jvm.Cond.soleField "DictProof" "above") ∈ lw_all := lw_g (lw_at lw_m1 208 rfl) rfl
theorem q323 : (Jvm.Cond.lays "DictProof" "DictProof" "classMany" "I") ∈ lw_all := lw_g (lw_at lw_m1 209 rfl) rfl
theorem q324 : (Jvm.Cond.soleField "DictProof" "classMany") ∈ lw_all := lw_g (lw_at lw_m1 210 rfl) rfl
theorem q325 : (Jvm.Cond.laysFinal "DictProof" "DictProof" "instances" "[LDictProof$Instance;") ∈ lw_all := lw_g (lw_at lw_m1 211 rfl) rfl
theorem q326 : (Jvm.Cond.soleField "DictProof" "instances") ∈ lw_all := lw_g (lw_at lw_m1 212 rfl) rfl
theorem q327 : (Jvm.Cond.lays "DictProof" "DictProof" "many" "I") ∈ lw_all := lw_g (lw_at lw_m1 213 rfl) rfl
theorem q328 : (Jvm.Cond.soleField "DictProof" "many") ∈ lw_all := lw_g (lw_at lw_m1 214 rfl) rfl
theorem q329 : (Jvm.Cond.laysFinal "DictProof" "DictProof" "slots" "[LDictProof$Term;") ∈ lw_all := lw_g (lw_at lw_m1 215 rfl) rfl
theorem q330 : (Jvm.Cond.soleField "DictProof" "slots") ∈ lw_all := lw_g (lw_at lw_m1 216 rfl) rfl
theorem q331 : (Jvm.Cond.lays "DictProof" "DictProof" "booksRead" "I") ∈ lw_all := lw_g (lw_at lw_m1 217 rfl) rfl
theorem q332 : (Jvm.Cond.soleField "DictProof" "booksRead") ∈ lw_all := lw_g (lw_at lw_m1 218 rfl) rfl
theorem q333 : (Jvm.Cond.laysFinal "DictProof" "DictProof" "page" "[I") ∈ lw_all := lw_g (lw_at lw_m1 219 rfl) rfl
theorem q334 : (Jvm.Cond.soleField "DictProof" "page") ∈ lw_all := lw_g (lw_at lw_m1 220 rfl) rfl
theorem q335 : (Jvm.Cond.lays "DictProof" "DictProof" "pageMany" "I") ∈ lw_all := lw_g (lw_at lw_m1 221 rfl) rfl
theorem q336 : (Jvm.Cond.soleField "DictProof" "pageMany") ∈ lw_all := lw_g (lw_at lw_m1 222 rfl) rfl
theorem q337 : (Jvm.Cond.lays "DictProof" "DictProof" "readClasses" "I") ∈ lw_all := lw_g (lw_at lw_m1 223 rfl) rfl
theorem q338 : (Jvm.Cond.soleField "DictProof" "readClasses") ∈ lw_all := lw_g (lw_at lw_m1 224 rfl) rfl
theorem q339 : (Jvm.Cond.lays "DictProof" "DictProof" "readHere" "I") ∈ lw_all := lw_g (lw_at lw_m1 225 rfl) rfl
theorem q340 : (Jvm.Cond.soleField "DictProof" "readHere") ∈ lw_all := lw_g (lw_at lw_m1 226 rfl) rfl
theorem q341 : (Jvm.Cond.lays "DictProof" "DictProof" "readEnd" "I") ∈ lw_all := lw_g (lw_at lw_m1 227 rfl) rfl
theorem q342 : (Jvm.Cond.soleField "DictProof" "readEnd") ∈ lw_all := lw_g (lw_at lw_m1 228 rfl) rfl
theorem q343 : (Jvm.Cond.lays "DictProof" "DictProof" "readMany" "I") ∈ lw_all := lw_g (lw_at lw_m1 229 rfl) rfl
theorem q344 : (Jvm.Cond.soleField "DictProof" "readMany") ∈ lw_all := lw_g (lw_at lw_m1 230 rfl) rfl
theorem q345 : (Jvm.Cond.lays "DictProof" "DictProof" "lacked" "I") ∈ lw_all := lw_g (lw_at lw_m1 231 rfl) rfl
theorem q346 : (Jvm.Cond.soleField "DictProof" "lacked") ∈ lw_all := lw_g (lw_at lw_m1 232 rfl) rfl
theorem q347 : (Jvm.Cond.lays "DictProof" "DictProof" "sized" "I") ∈ lw_all := lw_g (lw_at lw_m1 233 rfl) rfl
theorem q348 : (Jvm.Cond.soleField "DictProof" "sized") ∈ lw_all := lw_g (lw_at lw_m1 234 rfl) rfl
theorem q349 : (Jvm.Cond.lays "DictProof" "DictProof" "variables" "I") ∈ lw_all := lw_g (lw_at lw_m1 235 rfl) rfl
theorem q350 : (Jvm.Cond.soleField "DictProof" "variables") ∈ lw_all := lw_g (lw_at lw_m1 236 rfl) rfl
theorem q351 : (Jvm.Cond.lays "DictProof" "DictProof" "conditioned" "I") ∈ lw_all := lw_g (lw_at lw_m1 237 rfl) rfl
theorem q352 : (Jvm.Cond.soleField "DictProof" "conditioned") ∈ lw_all := lw_g (lw_at lw_m1 238 rfl) rfl
theorem q353 : (Jvm.Cond.laysFinal "DictProof" "DictProof" "startOf" "[I") ∈ lw_all := lw_g (lw_at lw_m1 239 rfl) rfl
theorem q354 : (Jvm.Cond.soleField "DictProof" "startOf") ∈ lw_all := lw_g (lw_at lw_m2 0 rfl) rfl
theorem q355 : (Jvm.Cond.lays "DictProof" "DictProof" "reading" "I") ∈ lw_all := lw_g (lw_at lw_m2 1 rfl) rfl
theorem q356 : (Jvm.Cond.soleField "DictProof" "reading") ∈ lw_all := lw_g (lw_at lw_m2 2 rfl) rfl
theorem q357 : (Jvm.Cond.laysFinal "DictProof" "DictProof" "proofs" "Ljava/util/HashMap;") ∈ lw_all := lw_g (lw_at lw_m2 3 rfl) rfl
theorem q358 : (Jvm.Cond.soleField "DictProof" "proofs") ∈ lw_all := lw_g (lw_at lw_m2 4 rfl) rfl
theorem q359 : (Jvm.Cond.laysFinal "DictProof" "DictProof" "alike" "[Z") ∈ lw_all := lw_g (lw_at lw_m2 5 rfl) rfl
theorem q360 : (Jvm.Cond.soleField "DictProof" "alike") ∈ lw_all := lw_g (lw_at lw_m2 6 rfl) rfl
theorem q361 : (Jvm.Cond.laysFinal "DictProof" "DictProof" "special" "[Z") ∈ lw_all := lw_g (lw_at lw_m2 7 rfl) rfl
theorem q362 : (Jvm.Cond.soleField "DictProof" "special") ∈ lw_all := lw_g (lw_at lw_m2 8 rfl) rfl
theorem q363 : (Jvm.Cond.laysFinal "DictProof" "DictProof" "seenInstance" "[I") ∈ lw_all := lw_g (lw_at lw_m2 9 rfl) rfl
theorem q364 : (Jvm.Cond.soleField "DictProof" "seenInstance") ∈ lw_all := lw_g (lw_at lw_m2 10 rfl) rfl
theorem q365 : (Jvm.Cond.laysFinal "DictProof" "DictProof" "seenWhat" "[I") ∈ lw_all := lw_g (lw_at lw_m2 11 rfl) rfl
theorem q366 : (Jvm.Cond.soleField "DictProof" "seenWhat") ∈ lw_all := lw_g (lw_at lw_m2 12 rfl) rfl
theorem q367 : (Jvm.Cond.laysFinal "DictProof" "DictProof" "seenSo" "[Z") ∈ lw_all := lw_g (lw_at lw_m2 13 rfl) rfl
theorem q368 : (Jvm.Cond.soleField "DictProof" "seenSo") ∈ lw_all := lw_g (lw_at lw_m2 14 rfl) rfl
theorem q369 : (Jvm.Cond.lays "DictProof" "DictProof" "seenMany" "I") ∈ lw_all := lw_g (lw_at lw_m2 15 rfl) rfl
theorem q370 : (Jvm.Cond.soleField "DictProof" "seenMany") ∈ lw_all := lw_g (lw_at lw_m2 16 rfl) rfl
theorem q371 : (Jvm.Cond.lays "DictProof" "DictProof" "drawn" "I") ∈ lw_all := lw_g (lw_at lw_m2 17 rfl) rfl
theorem q372 : (Jvm.Cond.soleField "DictProof" "drawn") ∈ lw_all := lw_g (lw_at lw_m2 18 rfl) rfl
theorem q373 : (Jvm.Cond.laysFinal "DictProof" "DictProof" "keptKinds" "[I") ∈ lw_all := lw_g (lw_at lw_m2 19 rfl) rfl
theorem q374 : (Jvm.Cond.soleField "DictProof" "keptKinds") ∈ lw_all := lw_g (lw_at lw_m2 20 rfl) rfl
theorem q375 : (Jvm.Cond.laysFinal "DictProof" "DictProof" "keptSlots" "[LDictProof$Term;") ∈ lw_all := lw_g (lw_at lw_m2 21 rfl) rfl
theorem q376 : (Jvm.Cond.soleField "DictProof" "keptSlots") ∈ lw_all := lw_g (lw_at lw_m2 22 rfl) rfl
theorem q377 : (Jvm.Cond.laysFinal "DictProof" "DictProof" "keptInstance" "[I") ∈ lw_all := lw_g (lw_at lw_m2 23 rfl) rfl
theorem q378 : (Jvm.Cond.soleField "DictProof" "keptInstance") ∈ lw_all := lw_g (lw_at lw_m2 24 rfl) rfl
theorem q379 : (Jvm.Cond.laysFinal "DictProof" "DictProof" "keptWhat" "[I") ∈ lw_all := lw_g (lw_at lw_m2 25 rfl) rfl
theorem q380 : (Jvm.Cond.soleField "DictProof" "keptWhat") ∈ lw_all := lw_g (lw_at lw_m2 26 rfl) rfl
theorem q381 : (Jvm.Cond.laysFinal "DictProof" "DictProof" "keptSo" "[Z") ∈ lw_all := lw_g (lw_at lw_m2 27 rfl) rfl
theorem q382 : (Jvm.Cond.soleField "DictProof" "keptSo") ∈ lw_all := lw_g (lw_at lw_m2 28 rfl) rfl
theorem q383 : (Jvm.Cond.lays "DictProof" "DictProof" "keptSeen" "I") ∈ lw_all := lw_g (lw_at lw_m2 29 rfl) rfl
theorem q384 : (Jvm.Cond.soleField "DictProof" "keptSeen") ∈ lw_all := lw_g (lw_at lw_m2 30 rfl) rfl
theorem q385 : (Jvm.Cond.lays "DictProof" "DictProof" "keptBook" "I") ∈ lw_all := lw_g (lw_at lw_m2 31 rfl) rfl
theorem q386 : (Jvm.Cond.soleField "DictProof" "keptBook") ∈ lw_all := lw_g (lw_at lw_m2 32 rfl) rfl
theorem q387 : (Jvm.Cond.lays "DictProof" "DictProof" "h" "J") ∈ lw_all := lw_g (lw_at lw_m2 33 rfl) rfl
theorem q388 : (Jvm.Cond.soleField "DictProof" "h") ∈ lw_all := lw_g (lw_at lw_m2 34 rfl) rfl
theorem q389 : (Jvm.Cond.superclass "DictProof" "java/lang/Object") ∈ lw_all := lw_g (lw_at lw_m2 35 rfl) rfl
theorem q392 : (Jvm.Cond.instanceMethod ({ cls := "DictProof", name := "letter", desc := "(I)I" } : Jvm.MethodName)) ∈ lw_all := lw_g (lw_at lw_m2 38 rfl) rfl
theorem q393 : (Jvm.Cond.selects "DictProof" ({ cls := "DictProof", name := "letter", desc := "(I)I" } : Jvm.MethodName) ({ cls := "DictProof", name := "letter", desc := "(I)I" } : Jvm.MethodName)) ∈ lw_all := lw_g (lw_at lw_m2 39 rfl) rfl
theorem q394 : (Jvm.Cond.code ({ cls := "DictProof", name := "letter", desc := "(I)I" } : Jvm.MethodName) prog_1_method_15_code (2 : Nat) (Option.some Jvm.ClassFile.FieldType.int)) ∈ lw_all := lw_g (lw_at lw_m2 40 rfl) rfl
theorem q395 : (Jvm.Cond.constantLong "DictProof" (166 : Nat) (32 : Int64)) ∈ lw_all := lw_g (lw_at lw_m2 41 rfl) rfl
theorem q396 : (Jvm.Cond.constantLong "DictProof" (168 : Nat) (126 : Int64)) ∈ lw_all := lw_g (lw_at lw_m2 42 rfl) rfl
theorem q397 : (Jvm.Cond.methodLink "DictProof" (170 : Nat) ({ cls := "DictProof", name := "isIn", desc := "(JJJ)Z" } : Jvm.MethodName)) ∈ lw_all := lw_g (lw_at lw_m2 43 rfl) rfl
theorem q398 : (Jvm.Cond.static ({ cls := "DictProof", name := "isIn", desc := "(JJJ)Z" } : Jvm.MethodName)) ∈ lw_all := lw_g (lw_at lw_m2 44 rfl) rfl
theorem q399 : (Jvm.Cond.code ({ cls := "DictProof", name := "isIn", desc := "(JJJ)Z" } : Jvm.MethodName) prog_1_method_1_code (6 : Nat) (Option.some Jvm.ClassFile.FieldType.boolean)) ∈ lw_all := lw_g (lw_at lw_m2 45 rfl) rfl
theorem q401 : (Jvm.Cond.instanceMethod ({ cls := "DictProof", name := "blank", desc := "()I" } : Jvm.MethodName)) ∈ lw_all := lw_g (lw_at lw_m2 47 rfl) rfl
theorem q402 : (Jvm.Cond.selects "DictProof" ({ cls := "DictProof", name := "blank", desc := "()I" } : Jvm.MethodName) ({ cls := "DictProof", name := "blank", desc := "()I" } : Jvm.MethodName)) ∈ lw_all := lw_g (lw_at lw_m2 48 rfl) rfl
theorem q403 : (Jvm.Cond.code ({ cls := "DictProof", name := "blank", desc := "()I" } : Jvm.MethodName) prog_1_method_16_code (2 : Nat) (Option.some Jvm.ClassFile.FieldType.int)) ∈ lw_all := lw_g (lw_at lw_m2 49 rfl) rfl
theorem q405 : (Jvm.Cond.instanceMethod ({ cls := "DictProof", name := "fault", desc := "()I" } : Jvm.MethodName)) ∈ lw_all := lw_g (lw_at lw_m2 51 rfl) rfl
theorem q406 : (Jvm.Cond.selects "DictProof" ({ cls := "DictProof", name := "fault", desc := "()I" } : Jvm.MethodName) ({ cls := "DictProof", name := "fault", desc := "()I" } : Jvm.MethodName)) ∈ lw_all := lw_g (lw_at lw_m2 52 rfl) rfl
theorem q407 : (Jvm.Cond.code ({ cls := "DictProof", name := "fault", desc := "()I" } : Jvm.MethodName) prog_1_method_23_code (2 : Nat) (Option.some Jvm.ClassFile.FieldType.int)) ∈ lw_all := lw_g (lw_at lw_m2 53 rfl) rfl
theorem q408 : (Jvm.Cond.methodLink "DictProof" (222 : Nat) ({ cls := "DictProof", name := "isClassSign", desc := "(II)Z" } : Jvm.MethodName)) ∈ lw_all := lw_g (lw_at lw_m2 54 rfl) rfl
theorem q409 : (Jvm.Cond.privateMethod ({ cls := "DictProof", name := "isClassSign", desc := "(II)Z" } : Jvm.MethodName)) ∈ lw_tbl := lw_at lw_m2 55 rfl
theorem q410 : (Jvm.Cond.instanceMethod ({ cls := "DictProof", name := "isClassSign", desc := "(II)Z" } : Jvm.MethodName)) ∈ lw_all := lw_g (lw_at lw_m2 56 rfl) rfl
theorem q411 : (Jvm.Cond.code ({ cls := "DictProof", name := "isClassSign", desc := "(II)Z" } : Jvm.MethodName) prog_1_method_18_code (3 : Nat) (Option.some Jvm.ClassFile.FieldType.boolean)) ∈ lw_all := lw_g (lw_at lw_m2 57 rfl) rfl
theorem q412 : (Jvm.Cond.constantLong "DictProof" (186 : Nat) (48 : Int64)) ∈ lw_all := lw_g (lw_at lw_m2 58 rfl) rfl
theorem q413 : (Jvm.Cond.methodLink "DictProof" (225 : Nat) ({ cls := "DictProof", name := "isInstanceSign", desc := "(II)Z" } : Jvm.MethodName)) ∈ lw_all := lw_g (lw_at lw_m2 59 rfl) rfl
theorem q414 : (Jvm.Cond.privateMethod ({ cls := "DictProof", name := "isInstanceSign", desc := "(II)Z" } : Jvm.MethodName)) ∈ lw_tbl := lw_at lw_m2 60 rfl
theorem q415 : (Jvm.Cond.instanceMethod ({ cls := "DictProof", name := "isInstanceSign", desc := "(II)Z" } : Jvm.MethodName)) ∈ lw_all := lw_g (lw_at lw_m2 61 rfl) rfl
theorem q416 : (Jvm.Cond.code ({ cls := "DictProof", name := "isInstanceSign", desc := "(II)Z" } : Jvm.MethodName) prog_1_method_22_code (3 : Nat) (Option.some Jvm.ClassFile.FieldType.boolean)) ∈ lw_all := lw_g (lw_at lw_m2 62 rfl) rfl
theorem q417 : (Jvm.Cond.methodLink "DictProof" (213 : Nat) ({ cls := "DictProof", name := "isBegun", desc := "(II)Z" } : Jvm.MethodName)) ∈ lw_all := lw_g (lw_at lw_m2 63 rfl) rfl
theorem q418 : (Jvm.Cond.privateMethod ({ cls := "DictProof", name := "isBegun", desc := "(II)Z" } : Jvm.MethodName)) ∈ lw_tbl := lw_at lw_m2 64 rfl
theorem q419 : (Jvm.Cond.instanceMethod ({ cls := "DictProof", name := "isBegun", desc := "(II)Z" } : Jvm.MethodName)) ∈ lw_all := lw_g (lw_at lw_m2 65 rfl) rfl
theorem q420 : (Jvm.Cond.code ({ cls := "DictProof", name := "isBegun", desc := "(II)Z" } : Jvm.MethodName) prog_1_method_19_code (3 : Nat) (Option.some Jvm.ClassFile.FieldType.boolean)) ∈ lw_all := lw_g (lw_at lw_m2 66 rfl) rfl
theorem q421 : (Jvm.Cond.methodLink "DictProof" (203 : Nat) ({ cls := "DictProof", name := "kindOf", desc := "(I)I" } : Jvm.MethodName)) ∈ lw_all := lw_g (lw_at lw_m2 67 rfl) rfl
theorem q422 : (Jvm.Cond.static ({ cls := "DictProof", name := "kindOf", desc := "(I)I" } : Jvm.MethodName)) ∈ lw_all := lw_g (lw_at lw_m2 68 rfl) rfl
theorem q423 : (Jvm.Cond.code ({ cls := "DictProof", name := "kindOf", desc := "(I)I" } : Jvm.MethodName) prog_1_method_17_code (1 : Nat) (Option.some Jvm.ClassFile.FieldType.int)) ∈ lw_all := lw_g (lw_at lw_m2 69 rfl) rfl
theorem q424 : (Jvm.Cond.methodLink "DictProof" (216 : Nat) ({ cls := "DictProof", name := "isHeadSign", desc := "(I)Z" } : Jvm.MethodName)) ∈ lw_all := lw_g (lw_at lw_m2 70 rfl) rfl
theorem q425 : (Jvm.Cond.privateMethod ({ cls := "DictProof", name := "isHeadSign", desc := "(I)Z" } : Jvm.MethodName)) ∈ lw_tbl := lw_at lw_m2 71 rfl
theorem q426 : (Jvm.Cond.instanceMethod ({ cls := "DictProof", name := "isHeadSign", desc := "(I)Z" } : Jvm.MethodName)) ∈ lw_all := lw_g (lw_at lw_m2 72 rfl) rfl
theorem q427 : (Jvm.Cond.code ({ cls := "DictProof", name := "isHeadSign", desc := "(I)Z" } : Jvm.MethodName) prog_1_method_20_code (2 : Nat) (Option.some Jvm.ClassFile.FieldType.boolean)) ∈ lw_all := lw_g (lw_at lw_m2 73 rfl) rfl
theorem q428 : (Jvm.Cond.methodLink "DictProof" (1 : Nat) ({ cls := "DictProof", name := "partsOf", desc := "(I)I" } : Jvm.MethodName)) ∈ lw_all := lw_g (lw_at lw_m2 74 rfl) rfl
theorem q429 : (Jvm.Cond.static ({ cls := "DictProof", name := "partsOf", desc := "(I)I" } : Jvm.MethodName)) ∈ lw_all := lw_g (lw_at lw_m2 75 rfl) rfl
theorem q430 : (Jvm.Cond.code ({ cls := "DictProof", name := "partsOf", desc := "(I)I" } : Jvm.MethodName) prog_1_method_3_code (1 : Nat) (Option.some Jvm.ClassFile.FieldType.int)) ∈ lw_all := lw_g (lw_at lw_m2 76 rfl) rfl
theorem q431 : (Jvm.Cond.methodLink "DictProof" (7 : Nat) ({ cls := "DictProof", name := "isVariableSign", desc := "(I)Z" } : Jvm.MethodName)) ∈ lw_all := lw_g (lw_at lw_m2 77 rfl) rfl
theorem q432 : (Jvm.Cond.static ({ cls := "DictProof", name := "isVariableSign", desc := "(I)Z" } : Jvm.MethodName)) ∈ lw_all := lw_g (lw_at lw_m2 78 rfl) rfl
theorem q433 : (Jvm.Cond.code ({ cls := "DictProof", name := "isVariableSign", desc := "(I)Z" } : Jvm.MethodName) prog_1_method_4_code (1 : Nat) (Option.some Jvm.ClassFile.FieldType.boolean)) ∈ lw_all := lw_g (lw_at lw_m2 79 rfl) rfl
theorem q434 : (Jvm.Cond.methodLink "DictProof" (206 : Nat) ({ cls := "DictProof", name := "isTypeSign", desc := "(I)Z" } : Jvm.MethodName)) ∈ lw_all := lw_g (lw_at lw_m2 80 rfl) rfl
theorem q435 : (Jvm.Cond.static ({ cls := "DictProof", name := "isTypeSign", desc := "(I)Z" } : Jvm.MethodName)) ∈ lw_all := lw_g (lw_at lw_m2 81 rfl) rfl
theorem q436 : (Jvm.Cond.code ({ cls := "DictProof", name := "isTypeSign", desc := "(I)Z" } : Jvm.MethodName) prog_1_method_5_code (1 : Nat) (Option.some Jvm.ClassFile.FieldType.boolean)) ∈ lw_all := lw_g (lw_at lw_m2 82 rfl) rfl
theorem q437 : (Jvm.Cond.methodLink "DictProof" (219 : Nat) ({ cls := "DictProof", name := "isConditionSign", desc := "(I)Z" } : Jvm.MethodName)) ∈ lw_all := lw_g (lw_at lw_m2 83 rfl) rfl
theorem q438 : (Jvm.Cond.privateMethod ({ cls := "DictProof", name := "isConditionSign", desc := "(I)Z" } : Jvm.MethodName)) ∈ lw_tbl := lw_at lw_m2 84 rfl
theorem q439 : (Jvm.Cond.instanceMethod ({ cls := "DictProof", name := "isConditionSign", desc := "(I)Z" } : Jvm.MethodName)) ∈ lw_all := lw_g (lw_at lw_m2 85 rfl) rfl
theorem q440 : (Jvm.Cond.code ({ cls := "DictProof", name := "isConditionSign", desc := "(I)Z" } : Jvm.MethodName) prog_1_method_21_code (2 : Nat) (Option.some Jvm.ClassFile.FieldType.boolean)) ∈ lw_all := lw_g (lw_at lw_m2 86 rfl) rfl
theorem q441 : (Jvm.Cond.methodLink "DictProof" (209 : Nat) ({ cls := "DictProof", name := "has", desc := "(II)Z" } : Jvm.MethodName)) ∈ lw_all := lw_g (lw_at lw_m2 87 rfl) rfl
theorem q442 : (Jvm.Cond.static ({ cls := "DictProof", name := "has", desc := "(II)Z" } : Jvm.MethodName)) ∈ lw_all := lw_g (lw_at lw_m2 88 rfl) rfl
theorem q443 : (Jvm.Cond.code ({ cls := "DictProof", name := "has", desc := "(II)Z" } : Jvm.MethodName) prog_1_method_2_code (2 : Nat) (Option.some Jvm.ClassFile.FieldType.boolean)) ∈ lw_all := lw_g (lw_at lw_m2 89 rfl) rfl
theorem q445 : (Jvm.Cond.instanceMethod ({ cls := "DictProof", name := "book", desc := "()I" } : Jvm.MethodName)) ∈ lw_all := lw_g (lw_at lw_m2 91 rfl) rfl
theorem q446 : (Jvm.Cond.selects "DictProof" ({ cls := "DictProof", name := "book", desc := "()I" } : Jvm.MethodName) ({ cls := "DictProof", name := "book", desc := "()I" } : Jvm.MethodName)) ∈ lw_all := lw_g (lw_at lw_m2 92 rfl) rfl
theorem q447 : (Jvm.Cond.code ({ cls := "DictProof", name := "book", desc := "()I" } : Jvm.MethodName) prog_1_method_27_code (2 : Nat) (Option.some Jvm.ClassFile.FieldType.int)) ∈ lw_all := lw_g (lw_at lw_m2 93 rfl) rfl
theorem q448 : (Jvm.Cond.methodLink "DictProof" (262 : Nat) ({ cls := "DictProof", name := "fault", desc := "()I" } : Jvm.MethodName)) ∈ lw_all := lw_g (lw_at lw_m2 94 rfl) rfl
theorem q449 : (Jvm.Cond.methodLink "DictProof" (265 : Nat) ({ cls := "DictProof", name := "layClasses", desc := "()V" } : Jvm.MethodName)) ∈ lw_all := lw_g (lw_at lw_m2 95 rfl) rfl
theorem q450 : (Jvm.Cond.privateMethod ({ cls := "DictProof", name := "layClasses", desc := "()V" } : Jvm.MethodName)) ∈ lw_tbl := lw_at lw_m2 96 rfl
theorem q451 : (Jvm.Cond.instanceMethod ({ cls := "DictProof", name := "layClasses", desc := "()V" } : Jvm.MethodName)) ∈ lw_all := lw_g (lw_at lw_m2 97 rfl) rfl
theorem q452 : (Jvm.Cond.code ({ cls := "DictProof", name := "layClasses", desc := "()V" } : Jvm.MethodName) prog_1_method_25_code (4 : Nat) (Option.none : Option Jvm.ClassFile.FieldType)) ∈ lw_all := lw_g (lw_at lw_m2 98 rfl) rfl
theorem q453 : (Jvm.Cond.methodLink "DictProof" (269 : Nat) ({ cls := "DictProof", name := "layInstance", desc := "(II)V" } : Jvm.MethodName)) ∈ lw_all := lw_g (lw_at lw_m2 99 rfl) rfl
theorem q454 : (Jvm.Cond.privateMethod ({ cls := "DictProof", name := "layInstance", desc := "(II)V" } : Jvm.MethodName)) ∈ lw_tbl := lw_at lw_m2 100 rfl
theorem q455 : (Jvm.Cond.instanceMethod ({ cls := "DictProof", name := "layInstance", desc := "(II)V" } : Jvm.MethodName)) ∈ lw_all := lw_g (lw_at lw_m2 101 rfl) rfl
theorem q456 : (Jvm.Cond.code ({ cls := "DictProof", name := "layInstance", desc := "(II)V" } : Jvm.MethodName) prog_1_method_26_code (5 : Nat) (Option.none : Option Jvm.ClassFile.FieldType)) ∈ lw_all := lw_g (lw_at lw_m2 102 rfl) rfl
theorem q457 : (Jvm.Cond.methodLink "DictProof" (241 : Nat) ({ cls := "DictProof", name := "made", desc := "(I)LDictProof$Instance;" } : Jvm.MethodName)) ∈ lw_all := lw_g (lw_at lw_m2 103 rfl) rfl
theorem q458 : (Jvm.Cond.static ({ cls := "DictProof", name := "made", desc := "(I)LDictProof$Instance;" } : Jvm.MethodName)) ∈ lw_all := lw_g (lw_at lw_m2 104 rfl) rfl
theorem q459 : (Jvm.Cond.code ({ cls := "DictProof", name := "made", desc := "(I)LDictProof$Instance;" } : Jvm.MethodName) prog_1_method_13_code (1 : Nat) (Option.some (Jvm.ClassFile.FieldType.object "DictProof$Instance"))) ∈ lw_all := lw_g (lw_at lw_m2 105 rfl) rfl
theorem q460 : (Jvm.Cond.methodLink "DictProof" (231 : Nat) ({ cls := "DictProof", name := "read", desc := "()LDictProof$Term;" } : Jvm.MethodName)) ∈ lw_all := lw_g (lw_at lw_m2 106 rfl) rfl
theorem q461 : (Jvm.Cond.privateMethod ({ cls := "DictProof", name := "read", desc := "()LDictProof$Term;" } : Jvm.MethodName)) ∈ lw_tbl := lw_at lw_m2 107 rfl
theorem q462 : (Jvm.Cond.instanceMethod ({ cls := "DictProof", name := "read", desc := "()LDictProof$Term;" } : Jvm.MethodName)) ∈ lw_all := lw_g (lw_at lw_m2 108 rfl) rfl
theorem q463 : (Jvm.Cond.code ({ cls := "DictProof", name := "read", desc := "()LDictProof$Term;" } : Jvm.MethodName) prog_1_method_24_code (4 : Nat) (Option.some (Jvm.ClassFile.FieldType.object "DictProof$Term"))) ∈ lw_all := lw_g (lw_at lw_m2 109 rfl) rfl
theorem q465 : (Jvm.Cond.methodLink "DictProof" (235 : Nat) ({ cls := "DictProof$Term", name := "<init>", desc := "(ILDictProof$Term;LDictProof$Term;)V" } : Jvm.MethodName)) ∈ lw_all := lw_g (lw_at lw_m2 111 rfl) rfl
theorem q470 : (Jvm.Cond.fieldLink "DictProof" (21 : Nat) "DictProof$Term" "sign" "I") ∈ lw_all := lw_g (lw_at lw_m2 116 rfl) rfl
theorem q472 : (Jvm.Cond.fieldLink "DictProof" (25 : Nat) "DictProof$Term" "one" "LDictProof$Term;") ∈ lw_all := lw_g (lw_at lw_m2 118 rfl) rfl
theorem q474 : (Jvm.Cond.fieldLink "DictProof" (33 : Nat) "DictProof$Term" "two" "LDictProof$Term;") ∈ lw_all := lw_g (lw_at lw_m2 120 rfl) rfl
theorem q482 : (Jvm.Cond.methodLink "DictProof" (273 : Nat) ({ cls := "DictProof", name := "layPairs", desc := "()V" } : Jvm.MethodName)) ∈ lw_all := lw_g (lw_at lw_m2 128 rfl) rfl
theorem q483 : (Jvm.Cond.privateMethod ({ cls := "DictProof", name := "layPairs", desc := "()V" } : Jvm.MethodName)) ∈ lw_tbl := lw_at lw_m2 129 rfl
theorem q484 : (Jvm.Cond.instanceMethod ({ cls := "DictProof", name := "layPairs", desc := "()V" } : Jvm.MethodName)) ∈ lw_all := lw_g (lw_at lw_m2 130 rfl) rfl
theorem q485 : (Jvm.Cond.code ({ cls := "DictProof", name := "layPairs", desc := "()V" } : Jvm.MethodName) prog_1_method_57_code (5 : Nat) (Option.none : Option Jvm.ClassFile.FieldType)) ∈ lw_all := lw_g (lw_at lw_m2 131 rfl) rfl
theorem q486 : (Jvm.Cond.methodLink "DictProof" (79 : Nat) ({ cls := "DictProof", name := "isMade", desc := "(LDictProof$Term;ILDictProof$Term;ILjava/util/HashMap;)Z" } : Jvm.MethodName)) ∈ lw_all := lw_g (lw_at lw_m2 132 rfl) rfl
theorem q487 : (Jvm.Cond.static ({ cls := "DictProof", name := "isMade", desc := "(LDictProof$Term;ILDictProof$Term;ILjava/util/HashMap;)Z" } : Jvm.MethodName)) ∈ lw_all := lw_g (lw_at lw_m2 133 rfl) rfl
theorem q488 : (Jvm.Cond.code ({ cls := "DictProof", name := "isMade", desc := "(LDictProof$Term;ILDictProof$Term;ILjava/util/HashMap;)Z" } : Jvm.MethodName) prog_1_method_12_code (7 : Nat) (Option.some Jvm.ClassFile.FieldType.boolean)) ∈ lw_all := lw_g (lw_at lw_m2 134 rfl) rfl
theorem q489 : (Jvm.Cond.classLink "DictProof" (37 : Nat) "DictProof$Part") ∈ lw_all := lw_g (lw_at lw_m2 135 rfl) rfl
theorem q491 : (Jvm.Cond.methodLink "DictProof" (53 : Nat) ({ cls := "DictProof$Part", name := "<init>", desc := "(LDictProof$Term;I)V" } : Jvm.MethodName)) ∈ lw_all := lw_g (lw_at lw_m2 137 rfl) rfl
theorem q496 : (Jvm.Cond.fieldLink "DictProof" (61 : Nat) "DictProof$Part" "term" "LDictProof$Term;") ∈ lw_all := lw_g (lw_at lw_m2 142 rfl) rfl
theorem q498 : (Jvm.Cond.fieldLink "DictProof" (64 : Nat) "DictProof$Part" "from" "I") ∈ lw_all := lw_g (lw_at lw_m2 144 rfl) rfl
theorem q504 : (Jvm.Cond.methodLink "DictProof" (57 : Nat) ({ cls := "DictProof", name := "rooted", desc := "(LDictProof$Part;Ljava/util/HashMap;)LDictProof$Part;" } : Jvm.MethodName)) ∈ lw_all := lw_g (lw_at lw_m2 150 rfl) rfl
theorem q505 : (Jvm.Cond.static ({ cls := "DictProof", name := "rooted", desc := "(LDictProof$Part;Ljava/util/HashMap;)LDictProof$Part;" } : Jvm.MethodName)) ∈ lw_all := lw_g (lw_at lw_m2 151 rfl) rfl
theorem q506 : (Jvm.Cond.code ({ cls := "DictProof", name := "rooted", desc := "(LDictProof$Part;Ljava/util/HashMap;)LDictProof$Part;" } : Jvm.MethodName) prog_1_method_9_code (3 : Nat) (Option.some (Jvm.ClassFile.FieldType.object "DictProof$Part"))) ∈ lw_all := lw_g (lw_at lw_m2 152 rfl) rfl
theorem q507 : (Jvm.Cond.methodLink "DictProof" (36 : Nat) ({ cls := "DictProof$Part", name := "name", desc := "()I" } : Jvm.MethodName)) ∈ lw_all := lw_g (lw_at lw_m2 153 rfl) rfl
theorem q512 : (Jvm.Cond.static ({ cls := "DictProof", name := "nameOf", desc := "(LDictProof$Term;I)I" } : Jvm.MethodName)) ∈ lw_all := lw_g (lw_at lw_m2 158 rfl) rfl
theorem q513 : (Jvm.Cond.code ({ cls := "DictProof", name := "nameOf", desc := "(LDictProof$Term;I)I" } : Jvm.MethodName) prog_1_method_8_code (2 : Nat) (Option.some Jvm.ClassFile.FieldType.int)) ∈ lw_all := lw_g (lw_at lw_m2 159 rfl) rfl
theorem q514 : (Jvm.Cond.methodLink "DictProof" (11 : Nat) ({ cls := "DictProof$Term", name := "variable", desc := "()I" } : Jvm.MethodName)) ∈ lw_all := lw_g (lw_at lw_m2 160 rfl) rfl
theorem q519 : (Jvm.Cond.methodLink "DictProof" (41 : Nat) ({ cls := "java/lang/Integer", name := "valueOf", desc := "(I)Ljava/lang/Integer;" } : Jvm.MethodName)) ∈ lw_all := lw_g (lw_at lw_m2 165 rfl) rfl
theorem q539 : (Jvm.Cond.methodLink "DictProof" (47 : Nat) ({ cls := "java/util/HashMap", name := "get", desc := "(Ljava/lang/Object;)Ljava/lang/Object;" } : Jvm.MethodName)) ∈ lw_all := lw_g (lw_at lw_m2 185 rfl) rfl
theorem q554 : (Jvm.Cond.selects "DictProof" ({ cls := "java/lang/Object", name := "hashCode", desc := "()I" } : Jvm.MethodName) ({ cls := "java/lang/Object", name := "hashCode", desc := "()I" } : Jvm.MethodName)) ∈ lw_all := lw_g (lw_at lw_m2 200 rfl) rfl
theorem q585 : (Jvm.Cond.selects "DictProof" ({ cls := "java/lang/Object", name := "equals", desc := "(Ljava/lang/Object;)Z" } : Jvm.MethodName) ({ cls := "java/lang/Object", name := "equals", desc := "(Ljava/lang/Object;)Z" } : Jvm.MethodName)) ∈ lw_all := lw_g (lw_at lw_m2 231 rfl) rfl
theorem q635 : (Jvm.Cond.selects "DictProof" ({ cls := "java/lang/Object", name := "getClass", desc := "()Ljava/lang/Class;" } : Jvm.MethodName) ({ cls := "java/lang/Object", name := "getClass", desc := "()Ljava/lang/Class;" } : Jvm.MethodName)) ∈ lw_all := lw_g (lw_at lw_m3 41 rfl) rfl
theorem q674 : (Jvm.Cond.methodLink "DictProof" (75 : Nat) ({ cls := "DictProof", name := "isBound", desc := "(LDictProof$Part;LDictProof$Part;Ljava/util/HashMap;)Z" } : Jvm.MethodName)) ∈ lw_all := lw_g (lw_at lw_m3 80 rfl) rfl
theorem q675 : (Jvm.Cond.static ({ cls := "DictProof", name := "isBound", desc := "(LDictProof$Part;LDictProof$Part;Ljava/util/HashMap;)Z" } : Jvm.MethodName)) ∈ lw_all := lw_g (lw_at lw_m3 81 rfl) rfl
theorem q676 : (Jvm.Cond.code ({ cls := "DictProof", name := "isBound", desc := "(LDictProof$Part;LDictProof$Part;Ljava/util/HashMap;)Z" } : Jvm.MethodName) prog_1_method_11_code (3 : Nat) (Option.some Jvm.ClassFile.FieldType.boolean)) ∈ lw_all := lw_g (lw_at lw_m3 82 rfl) rfl
theorem q677 : (Jvm.Cond.methodLink "DictProof" (67 : Nat) ({ cls := "DictProof", name := "isInside", desc := "(ILDictProof$Term;ILjava/util/HashMap;)Z" } : Jvm.MethodName)) ∈ lw_all := lw_g (lw_at lw_m3 83 rfl) rfl
theorem q678 : (Jvm.Cond.static ({ cls := "DictProof", name := "isInside", desc := "(ILDictProof$Term;ILjava/util/HashMap;)Z" } : Jvm.MethodName)) ∈ lw_all := lw_g (lw_at lw_m3 84 rfl) rfl
theorem q679 : (Jvm.Cond.code ({ cls := "DictProof", name := "isInside", desc := "(ILDictProof$Term;ILjava/util/HashMap;)Z" } : Jvm.MethodName) prog_1_method_10_code (5 : Nat) (Option.some Jvm.ClassFile.FieldType.boolean)) ∈ lw_all := lw_g (lw_at lw_m3 85 rfl) rfl
theorem q680 : (Jvm.Cond.methodLink "DictProof" (71 : Nat) ({ cls := "java/util/HashMap", name := "put", desc := "(Ljava/lang/Object;Ljava/lang/Object;)Ljava/lang/Object;" } : Jvm.MethodName)) ∈ lw_all := lw_g (lw_at lw_m3 86 rfl) rfl
theorem q820 : (Jvm.Cond.methodLink "DictProof" (441 : Nat) ({ cls := "DictProof", name := "isMoreSpecial", desc := "(LDictProof$Term;LDictProof$Term;)Z" } : Jvm.MethodName)) ∈ lw_all := lw_g (lw_at lw_m3 226 rfl) rfl
theorem q821 : (Jvm.Cond.static ({ cls := "DictProof", name := "isMoreSpecial", desc := "(LDictProof$Term;LDictProof$Term;)Z" } : Jvm.MethodName)) ∈ lw_all := lw_g (lw_at lw_m3 227 rfl) rfl
theorem q822 : (Jvm.Cond.code ({ cls := "DictProof", name := "isMoreSpecial", desc := "(LDictProof$Term;LDictProof$Term;)Z" } : Jvm.MethodName) prog_1_method_7_code (2 : Nat) (Option.some Jvm.ClassFile.FieldType.boolean)) ∈ lw_all := lw_g (lw_at lw_m3 228 rfl) rfl
theorem q823 : (Jvm.Cond.methodLink "DictProof" (29 : Nat) ({ cls := "DictProof", name := "isFitting", desc := "(LDictProof$Term;LDictProof$Term;[LDictProof$Term;)Z" } : Jvm.MethodName)) ∈ lw_all := lw_g (lw_at lw_m3 229 rfl) rfl
theorem q824 : (Jvm.Cond.static ({ cls := "DictProof", name := "isFitting", desc := "(LDictProof$Term;LDictProof$Term;[LDictProof$Term;)Z" } : Jvm.MethodName)) ∈ lw_all := lw_g (lw_at lw_m3 230 rfl) rfl
theorem q825 : (Jvm.Cond.code ({ cls := "DictProof", name := "isFitting", desc := "(LDictProof$Term;LDictProof$Term;[LDictProof$Term;)Z" } : Jvm.MethodName) prog_1_method_6_code (5 : Nat) (Option.some Jvm.ClassFile.FieldType.boolean)) ∈ lw_all := lw_g (lw_at lw_m3 231 rfl) rfl
theorem q826 : (Jvm.Cond.methodLink "DictProof" (17 : Nat) ({ cls := "DictProof$Term", name := "equals", desc := "(Ljava/lang/Object;)Z" } : Jvm.MethodName)) ∈ lw_all := lw_g (lw_at lw_m3 232 rfl) rfl
theorem q827 : (Jvm.Cond.methodLink "DictProof" (282 : Nat) ({ cls := "java/util/HashMap", name := "clear", desc := "()V" } : Jvm.MethodName)) ∈ lw_all := lw_g (lw_at lw_m3 233 rfl) rfl
theorem q832 : (Jvm.Cond.instanceMethod ({ cls := "DictProof", name := "type", desc := "(I)I" } : Jvm.MethodName)) ∈ lw_all := lw_g (lw_at lw_m3 238 rfl) rfl
theorem q833 : (Jvm.Cond.selects "DictProof" ({ cls := "DictProof", name := "type", desc := "(I)I" } : Jvm.MethodName) ({ cls := "DictProof", name := "type", desc := "(I)I" } : Jvm.MethodName)) ∈ lw_all := lw_g (lw_at lw_m3 239 rfl) rfl
theorem q834 : (Jvm.Cond.code ({ cls := "DictProof", name := "type", desc := "(I)I" } : Jvm.MethodName) prog_1_method_29_code (2 : Nat) (Option.some Jvm.ClassFile.FieldType.int)) ∈ lw_all := lw_g (lw_at lw_m4 0 rfl) rfl
theorem q835 : (Jvm.Cond.constantLong "DictProof" (285 : Nat) (3 : Int64)) ∈ lw_all := lw_g (lw_at lw_m4 1 rfl) rfl
theorem q836 : (Jvm.Cond.methodLink "DictProof" (287 : Nat) ({ cls := "DictProof", name := "typed", desc := "()I" } : Jvm.MethodName)) ∈ lw_all := lw_g (lw_at lw_m4 2 rfl) rfl
theorem q837 : (Jvm.Cond.privateMethod ({ cls := "DictProof", name := "typed", desc := "()I" } : Jvm.MethodName)) ∈ lw_tbl := lw_at lw_m4 3 rfl
theorem q838 : (Jvm.Cond.instanceMethod ({ cls := "DictProof", name := "typed", desc := "()I" } : Jvm.MethodName)) ∈ lw_all := lw_g (lw_at lw_m4 4 rfl) rfl
theorem q839 : (Jvm.Cond.code ({ cls := "DictProof", name := "typed", desc := "()I" } : Jvm.MethodName) prog_1_method_28_code (3 : Nat) (Option.some Jvm.ClassFile.FieldType.int)) ∈ lw_all := lw_g (lw_at lw_m4 5 rfl) rfl
theorem q840 : (Jvm.Cond.methodLink "DictProof" (290 : Nat) ({ cls := "DictProof$Term", name := "size", desc := "()I" } : Jvm.MethodName)) ∈ lw_all := lw_g (lw_at lw_m4 6 rfl) rfl
theorem q846 : (Jvm.Cond.instanceMethod ({ cls := "DictProof", name := "goal", desc := "(III)I" } : Jvm.MethodName)) ∈ lw_all := lw_g (lw_at lw_m4 12 rfl) rfl
theorem q847 : (Jvm.Cond.selects "DictProof" ({ cls := "DictProof", name := "goal", desc := "(III)I" } : Jvm.MethodName) ({ cls := "DictProof", name := "goal", desc := "(III)I" } : Jvm.MethodName)) ∈ lw_all := lw_g (lw_at lw_m4 13 rfl) rfl
theorem q848 : (Jvm.Cond.code ({ cls := "DictProof", name := "goal", desc := "(III)I" } : Jvm.MethodName) prog_1_method_43_code (4 : Nat) (Option.some Jvm.ClassFile.FieldType.int)) ∈ lw_all := lw_g (lw_at lw_m4 14 rfl) rfl
theorem q849 : (Jvm.Cond.methodLink "DictProof" (379 : Nat) ({ cls := "DictProof", name := "isClass", desc := "(I)Z" } : Jvm.MethodName)) ∈ lw_all := lw_g (lw_at lw_m4 15 rfl) rfl
theorem q850 : (Jvm.Cond.privateMethod ({ cls := "DictProof", name := "isClass", desc := "(I)Z" } : Jvm.MethodName)) ∈ lw_tbl := lw_at lw_m4 16 rfl
theorem q851 : (Jvm.Cond.instanceMethod ({ cls := "DictProof", name := "isClass", desc := "(I)Z" } : Jvm.MethodName)) ∈ lw_all := lw_g (lw_at lw_m4 17 rfl) rfl
theorem q852 : (Jvm.Cond.code ({ cls := "DictProof", name := "isClass", desc := "(I)Z" } : Jvm.MethodName) prog_1_method_30_code (2 : Nat) (Option.some Jvm.ClassFile.FieldType.boolean)) ∈ lw_all := lw_g (lw_at lw_m4 18 rfl) rfl
theorem q853 : (Jvm.Cond.methodLink "DictProof" (382 : Nat) ({ cls := "DictProof", name := "isSlot", desc := "(I)Z" } : Jvm.MethodName)) ∈ lw_all := lw_g (lw_at lw_m4 19 rfl) rfl
theorem q854 : (Jvm.Cond.privateMethod ({ cls := "DictProof", name := "isSlot", desc := "(I)Z" } : Jvm.MethodName)) ∈ lw_tbl := lw_at lw_m4 20 rfl
theorem q855 : (Jvm.Cond.instanceMethod ({ cls := "DictProof", name := "isSlot", desc := "(I)Z" } : Jvm.MethodName)) ∈ lw_all := lw_g (lw_at lw_m4 21 rfl) rfl
theorem q856 : (Jvm.Cond.code ({ cls := "DictProof", name := "isSlot", desc := "(I)Z" } : Jvm.MethodName) prog_1_method_32_code (2 : Nat) (Option.some Jvm.ClassFile.FieldType.boolean)) ∈ lw_all := lw_g (lw_at lw_m4 22 rfl) rfl
theorem q857 : (Jvm.Cond.constantLong "DictProof" (385 : Nat) (6 : Int64)) ∈ lw_all := lw_g (lw_at lw_m4 23 rfl) rfl
theorem q858 : (Jvm.Cond.methodLink "DictProof" (387 : Nat) ({ cls := "DictProof", name := "tellGoal", desc := "(III)I" } : Jvm.MethodName)) ∈ lw_all := lw_g (lw_at lw_m4 24 rfl) rfl
theorem q859 : (Jvm.Cond.privateMethod ({ cls := "DictProof", name := "tellGoal", desc := "(III)I" } : Jvm.MethodName)) ∈ lw_tbl := lw_at lw_m4 25 rfl
theorem q860 : (Jvm.Cond.instanceMethod ({ cls := "DictProof", name := "tellGoal", desc := "(III)I" } : Jvm.MethodName)) ∈ lw_all := lw_g (lw_at lw_m4 26 rfl) rfl
theorem q861 : (Jvm.Cond.code ({ cls := "DictProof", name := "tellGoal", desc := "(III)I" } : Jvm.MethodName) prog_1_method_42_code (5 : Nat) (Option.some Jvm.ClassFile.FieldType.int)) ∈ lw_all := lw_g (lw_at lw_m4 27 rfl) rfl
theorem q862 : (Jvm.Cond.classLink "DictProof" (294 : Nat) "DictProof$Goal") ∈ lw_all := lw_g (lw_at lw_m4 28 rfl) rfl
theorem q864 : (Jvm.Cond.methodLink "DictProof" (334 : Nat) ({ cls := "DictProof$Goal", name := "<init>", desc := "(ILDictProof$Term;)V" } : Jvm.MethodName)) ∈ lw_all := lw_g (lw_at lw_m4 30 rfl) rfl
theorem q869 : (Jvm.Cond.fieldLink "DictProof" (293 : Nat) "DictProof$Goal" "of" "I") ∈ lw_all := lw_g (lw_at lw_m4 35 rfl) rfl
theorem q871 : (Jvm.Cond.fieldLink "DictProof" (303 : Nat) "DictProof$Goal" "type" "LDictProof$Term;") ∈ lw_all := lw_g (lw_at lw_m4 37 rfl) rfl
theorem q877 : (Jvm.Cond.methodLink "DictProof" (337 : Nat) ({ cls := "DictProof", name := "prove", desc := "(LDictProof$Goal;)LDictProof$Proof;" } : Jvm.MethodName)) ∈ lw_all := lw_g (lw_at lw_m4 43 rfl) rfl
theorem q878 : (Jvm.Cond.privateMethod ({ cls := "DictProof", name := "prove", desc := "(LDictProof$Goal;)LDictProof$Proof;" } : Jvm.MethodName)) ∈ lw_tbl := lw_at lw_m4 44 rfl
theorem q879 : (Jvm.Cond.instanceMethod ({ cls := "DictProof", name := "prove", desc := "(LDictProof$Goal;)LDictProof$Proof;" } : Jvm.MethodName)) ∈ lw_all := lw_g (lw_at lw_m4 45 rfl) rfl
theorem q880 : (Jvm.Cond.code ({ cls := "DictProof", name := "prove", desc := "(LDictProof$Goal;)LDictProof$Proof;" } : Jvm.MethodName) prog_1_method_38_code (3 : Nat) (Option.some (Jvm.ClassFile.FieldType.object "DictProof$Proof"))) ∈ lw_all := lw_g (lw_at lw_m4 46 rfl) rfl
theorem q881 : (Jvm.Cond.classLink "DictProof" (319 : Nat) "DictProof$Proof") ∈ lw_all := lw_g (lw_at lw_m4 47 rfl) rfl
theorem q882 : (Jvm.Cond.methodLink "DictProof" (344 : Nat) ({ cls := "DictProof", name := "proved", desc := "(LDictProof$Goal;)LDictProof$Proof;" } : Jvm.MethodName)) ∈ lw_all := lw_g (lw_at lw_m4 48 rfl) rfl
theorem q883 : (Jvm.Cond.privateMethod ({ cls := "DictProof", name := "proved", desc := "(LDictProof$Goal;)LDictProof$Proof;" } : Jvm.MethodName)) ∈ lw_tbl := lw_at lw_m4 49 rfl
theorem q884 : (Jvm.Cond.instanceMethod ({ cls := "DictProof", name := "proved", desc := "(LDictProof$Goal;)LDictProof$Proof;" } : Jvm.MethodName)) ∈ lw_all := lw_g (lw_at lw_m4 50 rfl) rfl
theorem q885 : (Jvm.Cond.code ({ cls := "DictProof", name := "proved", desc := "(LDictProof$Goal;)LDictProof$Proof;" } : Jvm.MethodName) prog_1_method_37_code (9 : Nat) (Option.some (Jvm.ClassFile.FieldType.object "DictProof$Proof"))) ∈ lw_all := lw_g (lw_at lw_m4 51 rfl) rfl
theorem q887 : (Jvm.Cond.methodLink "DictProof" (321 : Nat) ({ cls := "DictProof$Proof", name := "<init>", desc := "(LDictProof$Goal;ILDictProof$Instance;[LDictProof$Proof;)V" } : Jvm.MethodName)) ∈ lw_all := lw_g (lw_at lw_m4 53 rfl) rfl
theorem q893 : (Jvm.Cond.fieldLink "DictProof" (341 : Nat) "DictProof$Proof" "outcome" "I") ∈ lw_all := lw_g (lw_at lw_m4 59 rfl) rfl
theorem q905 : (Jvm.Cond.methodLink "DictProof" (324 : Nat) ({ cls := "DictProof", name := "isMeant", desc := "(LDictProof$Instance;LDictProof$Goal;)Z" } : Jvm.MethodName)) ∈ lw_all := lw_g (lw_at lw_m4 71 rfl) rfl
theorem q906 : (Jvm.Cond.privateMethod ({ cls := "DictProof", name := "isMeant", desc := "(LDictProof$Instance;LDictProof$Goal;)Z" } : Jvm.MethodName)) ∈ lw_tbl := lw_at lw_m4 72 rfl
theorem q907 : (Jvm.Cond.instanceMethod ({ cls := "DictProof", name := "isMeant", desc := "(LDictProof$Instance;LDictProof$Goal;)Z" } : Jvm.MethodName)) ∈ lw_all := lw_g (lw_at lw_m4 73 rfl) rfl
theorem q908 : (Jvm.Cond.code ({ cls := "DictProof", name := "isMeant", desc := "(LDictProof$Instance;LDictProof$Goal;)Z" } : Jvm.MethodName) prog_1_method_33_code (3 : Nat) (Option.some Jvm.ClassFile.FieldType.boolean)) ∈ lw_all := lw_g (lw_at lw_m4 74 rfl) rfl
theorem q909 : (Jvm.Cond.methodLink "DictProof" (296 : Nat) ({ cls := "DictProof$Instance", name := "isUsed", desc := "()Z" } : Jvm.MethodName)) ∈ lw_all := lw_g (lw_at lw_m4 75 rfl) rfl
theorem q921 : (Jvm.Cond.methodLink "DictProof" (300 : Nat) ({ cls := "DictProof$Instance", name := "isSound", desc := "()Z" } : Jvm.MethodName)) ∈ lw_all := lw_g (lw_at lw_m4 87 rfl) rfl
theorem q931 : (Jvm.Cond.methodLink "DictProof" (328 : Nat) ({ cls := "DictProof", name := "isAnyAlone", desc := "(I)Z" } : Jvm.MethodName)) ∈ lw_all := lw_g (lw_at lw_m4 97 rfl) rfl
theorem q932 : (Jvm.Cond.privateMethod ({ cls := "DictProof", name := "isAnyAlone", desc := "(I)Z" } : Jvm.MethodName)) ∈ lw_tbl := lw_at lw_m4 98 rfl
theorem q933 : (Jvm.Cond.instanceMethod ({ cls := "DictProof", name := "isAnyAlone", desc := "(I)Z" } : Jvm.MethodName)) ∈ lw_all := lw_g (lw_at lw_m4 99 rfl) rfl
theorem q934 : (Jvm.Cond.code ({ cls := "DictProof", name := "isAnyAlone", desc := "(I)Z" } : Jvm.MethodName) prog_1_method_36_code (4 : Nat) (Option.some Jvm.ClassFile.FieldType.boolean)) ∈ lw_all := lw_g (lw_at lw_m4 100 rfl) rfl
theorem q935 : (Jvm.Cond.methodLink "DictProof" (316 : Nat) ({ cls := "DictProof$Instance", name := "isAlone", desc := "()Z" } : Jvm.MethodName)) ∈ lw_all := lw_g (lw_at lw_m4 101 rfl) rfl
theorem q949 : (Jvm.Cond.methodLink "DictProof" (331 : Nat) ({ cls := "DictProof", name := "taken", desc := "(I)LDictProof$Instance;" } : Jvm.MethodName)) ∈ lw_all := lw_g (lw_at lw_m4 115 rfl) rfl
theorem q950 : (Jvm.Cond.privateMethod ({ cls := "DictProof", name := "taken", desc := "(I)LDictProof$Instance;" } : Jvm.MethodName)) ∈ lw_tbl := lw_at lw_m4 116 rfl
theorem q951 : (Jvm.Cond.instanceMethod ({ cls := "DictProof", name := "taken", desc := "(I)LDictProof$Instance;" } : Jvm.MethodName)) ∈ lw_all := lw_g (lw_at lw_m4 117 rfl) rfl
theorem q952 : (Jvm.Cond.code ({ cls := "DictProof", name := "taken", desc := "(I)LDictProof$Instance;" } : Jvm.MethodName) prog_1_method_35_code (5 : Nat) (Option.some (Jvm.ClassFile.FieldType.object "DictProof$Instance"))) ∈ lw_all := lw_g (lw_at lw_m4 118 rfl) rfl
theorem q953 : (Jvm.Cond.methodLink "DictProof" (313 : Nat) ({ cls := "DictProof", name := "isBefore", desc := "(LDictProof$Instance;LDictProof$Instance;)Z" } : Jvm.MethodName)) ∈ lw_all := lw_g (lw_at lw_m4 119 rfl) rfl
theorem q954 : (Jvm.Cond.privateMethod ({ cls := "DictProof", name := "isBefore", desc := "(LDictProof$Instance;LDictProof$Instance;)Z" } : Jvm.MethodName)) ∈ lw_tbl := lw_at lw_m4 120 rfl
theorem q955 : (Jvm.Cond.instanceMethod ({ cls := "DictProof", name := "isBefore", desc := "(LDictProof$Instance;LDictProof$Instance;)Z" } : Jvm.MethodName)) ∈ lw_all := lw_g (lw_at lw_m4 121 rfl) rfl
theorem q956 : (Jvm.Cond.code ({ cls := "DictProof", name := "isBefore", desc := "(LDictProof$Instance;LDictProof$Instance;)Z" } : Jvm.MethodName) prog_1_method_34_code (3 : Nat) (Option.some Jvm.ClassFile.FieldType.boolean)) ∈ lw_all := lw_g (lw_at lw_m4 122 rfl) rfl
theorem q957 : (Jvm.Cond.methodLink "DictProof" (306 : Nat) ({ cls := "DictProof$Instance", name := "rank", desc := "()I" } : Jvm.MethodName)) ∈ lw_all := lw_g (lw_at lw_m4 123 rfl) rfl
theorem q972 : (Jvm.Cond.methodLink "DictProof" (309 : Nat) ({ cls := "DictProof", name := "isSpecial", desc := "(LDictProof$Instance;LDictProof$Instance;)Z" } : Jvm.MethodName)) ∈ lw_all := lw_g (lw_at lw_m4 138 rfl) rfl
theorem q973 : (Jvm.Cond.privateMethod ({ cls := "DictProof", name := "isSpecial", desc := "(LDictProof$Instance;LDictProof$Instance;)Z" } : Jvm.MethodName)) ∈ lw_tbl := lw_at lw_m4 139 rfl
theorem q974 : (Jvm.Cond.instanceMethod ({ cls := "DictProof", name := "isSpecial", desc := "(LDictProof$Instance;LDictProof$Instance;)Z" } : Jvm.MethodName)) ∈ lw_all := lw_g (lw_at lw_m4 140 rfl) rfl
theorem q975 : (Jvm.Cond.code ({ cls := "DictProof", name := "isSpecial", desc := "(LDictProof$Instance;LDictProof$Instance;)Z" } : Jvm.MethodName) prog_1_method_58_code (3 : Nat) (Option.some Jvm.ClassFile.FieldType.boolean)) ∈ lw_all := lw_g (lw_at lw_m4 141 rfl) rfl
theorem q977 : (Jvm.Cond.methodLink "DictProof" (375 : Nat) ({ cls := "DictProof", name := "tellFound", desc := "(LDictProof$Proof;I)I" } : Jvm.MethodName)) ∈ lw_all := lw_g (lw_at lw_m4 143 rfl) rfl
theorem q978 : (Jvm.Cond.privateMethod ({ cls := "DictProof", name := "tellFound", desc := "(LDictProof$Proof;I)I" } : Jvm.MethodName)) ∈ lw_tbl := lw_at lw_m4 144 rfl
theorem q979 : (Jvm.Cond.instanceMethod ({ cls := "DictProof", name := "tellFound", desc := "(LDictProof$Proof;I)I" } : Jvm.MethodName)) ∈ lw_all := lw_g (lw_at lw_m4 145 rfl) rfl
theorem q980 : (Jvm.Cond.code ({ cls := "DictProof", name := "tellFound", desc := "(LDictProof$Proof;I)I" } : Jvm.MethodName) prog_1_method_40_code (3 : Nat) (Option.some Jvm.ClassFile.FieldType.int)) ∈ lw_all := lw_g (lw_at lw_m4 146 rfl) rfl
theorem q981 : (Jvm.Cond.methodLink "DictProof" (347 : Nat) ({ cls := "DictProof$Proof", name := "size", desc := "()I" } : Jvm.MethodName)) ∈ lw_all := lw_g (lw_at lw_m4 147 rfl) rfl
theorem q986 : (Jvm.Cond.methodLink "DictProof" (348 : Nat) ({ cls := "DictProof$Proof", name := "worth", desc := "()I" } : Jvm.MethodName)) ∈ lw_all := lw_g (lw_at lw_m4 152 rfl) rfl
theorem q996 : (Jvm.Cond.methodLink "DictProof" (351 : Nat) ({ cls := "DictProof", name := "different", desc := "(LDictProof$Proof;)I" } : Jvm.MethodName)) ∈ lw_all := lw_g (lw_at lw_m4 162 rfl) rfl
theorem q997 : (Jvm.Cond.static ({ cls := "DictProof", name := "different", desc := "(LDictProof$Proof;)I" } : Jvm.MethodName)) ∈ lw_all := lw_g (lw_at lw_m4 163 rfl) rfl
theorem q998 : (Jvm.Cond.code ({ cls := "DictProof", name := "different", desc := "(LDictProof$Proof;)I" } : Jvm.MethodName) prog_1_method_41_code (2 : Nat) (Option.some Jvm.ClassFile.FieldType.int)) ∈ lw_all := lw_g (lw_at lw_m4 164 rfl) rfl
theorem q999 : (Jvm.Cond.classLink "DictProof" (367 : Nat) "java/util/HashSet") ∈ lw_all := lw_g (lw_at lw_m4 165 rfl) rfl
theorem q1001 : (Jvm.Cond.methodLink "DictProof" (369 : Nat) ({ cls := "java/util/HashSet", name := "<init>", desc := "()V" } : Jvm.MethodName)) ∈ lw_all := lw_g (lw_at lw_m4 167 rfl) rfl
theorem q1017 : (Jvm.Cond.methodLink "DictProof" (370 : Nat) ({ cls := "DictProof$Proof", name := "gather", desc := "(Ljava/util/HashSet;)V" } : Jvm.MethodName)) ∈ lw_all := lw_g (lw_at lw_m4 183 rfl) rfl
theorem q1029 : (Jvm.Cond.methodLink "DictProof" (374 : Nat) ({ cls := "java/util/HashSet", name := "size", desc := "()I" } : Jvm.MethodName)) ∈ lw_all := lw_g (lw_at lw_m4 195 rfl) rfl
theorem q1037 : (Jvm.Cond.methodLink "DictProof" (355 : Nat) ({ cls := "DictProof$Proof", name := "depth", desc := "()I" } : Jvm.MethodName)) ∈ lw_all := lw_g (lw_at lw_m4 203 rfl) rfl
theorem q1045 : (Jvm.Cond.methodLink "DictProof" (358 : Nat) ({ cls := "DictProof$Proof", name := "needs", desc := "()I" } : Jvm.MethodName)) ∈ lw_all := lw_g (lw_at lw_m4 211 rfl) rfl
theorem q1050 : (Jvm.Cond.methodLink "DictProof" (361 : Nat) ({ cls := "java/lang/Integer", name := "bitCount", desc := "(I)I" } : Jvm.MethodName)) ∈ lw_all := lw_g (lw_at lw_m4 216 rfl) rfl
theorem q1056 : (Jvm.Cond.methodLink "DictProof" (364 : Nat) ({ cls := "DictProof", name := "plainOf", desc := "(I)I" } : Jvm.MethodName)) ∈ lw_all := lw_g (lw_at lw_m4 222 rfl) rfl
theorem q1057 : (Jvm.Cond.privateMethod ({ cls := "DictProof", name := "plainOf", desc := "(I)I" } : Jvm.MethodName)) ∈ lw_tbl := lw_at lw_m4 223 rfl
theorem q1058 : (Jvm.Cond.instanceMethod ({ cls := "DictProof", name := "plainOf", desc := "(I)I" } : Jvm.MethodName)) ∈ lw_all := lw_g (lw_at lw_m4 224 rfl) rfl
theorem q1059 : (Jvm.Cond.code ({ cls := "DictProof", name := "plainOf", desc := "(I)I" } : Jvm.MethodName) prog_1_method_39_code (6 : Nat) (Option.some Jvm.ClassFile.FieldType.int)) ∈ lw_all := lw_g (lw_at lw_m4 225 rfl) rfl
theorem q1061 : (Jvm.Cond.instanceMethod ({ cls := "DictProof", name := "entry", desc := "(III)I" } : Jvm.MethodName)) ∈ lw_all := lw_g (lw_at lw_m4 227 rfl) rfl
theorem q1062 : (Jvm.Cond.selects "DictProof" ({ cls := "DictProof", name := "entry", desc := "(III)I" } : Jvm.MethodName) ({ cls := "DictProof", name := "entry", desc := "(III)I" } : Jvm.MethodName)) ∈ lw_all := lw_g (lw_at lw_m4 228 rfl) rfl
theorem q1063 : (Jvm.Cond.code ({ cls := "DictProof", name := "entry", desc := "(III)I" } : Jvm.MethodName) prog_1_method_44_code (5 : Nat) (Option.some Jvm.ClassFile.FieldType.int)) ∈ lw_all := lw_g (lw_at lw_m4 229 rfl) rfl
theorem q1064 : (Jvm.Cond.methodLink "DictProof" (391 : Nat) ({ cls := "DictProof$Proof", name := "entry", desc := "(I)I" } : Jvm.MethodName)) ∈ lw_all := lw_g (lw_at lw_m4 230 rfl) rfl
theorem q1070 : (Jvm.Cond.instanceMethod ({ cls := "DictProof", name := "need", desc := "(IIII)I" } : Jvm.MethodName)) ∈ lw_all := lw_g (lw_at lw_m4 236 rfl) rfl
theorem q1071 : (Jvm.Cond.selects "DictProof" ({ cls := "DictProof", name := "need", desc := "(IIII)I" } : Jvm.MethodName) ({ cls := "DictProof", name := "need", desc := "(IIII)I" } : Jvm.MethodName)) ∈ lw_all := lw_g (lw_at lw_m4 237 rfl) rfl
theorem q1072 : (Jvm.Cond.code ({ cls := "DictProof", name := "need", desc := "(IIII)I" } : Jvm.MethodName) prog_1_method_46_code (5 : Nat) (Option.some Jvm.ClassFile.FieldType.int)) ∈ lw_all := lw_g (lw_at lw_m4 238 rfl) rfl
theorem q1073 : (Jvm.Cond.methodLink "DictProof" (394 : Nat) ({ cls := "DictProof", name := "tellNeed", desc := "(LDictProof$Proof;I)I" } : Jvm.MethodName)) ∈ lw_all := lw_g (lw_at lw_m4 239 rfl) rfl
theorem q1074 : (Jvm.Cond.privateMethod ({ cls := "DictProof", name := "tellNeed", desc := "(LDictProof$Proof;I)I" } : Jvm.MethodName)) ∈ lw_tbl := lw_at lw_m5 0 rfl
theorem q1075 : (Jvm.Cond.instanceMethod ({ cls := "DictProof", name := "tellNeed", desc := "(LDictProof$Proof;I)I" } : Jvm.MethodName)) ∈ lw_all := lw_g (lw_at lw_m5 1 rfl) rfl
theorem q1076 : (Jvm.Cond.code ({ cls := "DictProof", name := "tellNeed", desc := "(LDictProof$Proof;I)I" } : Jvm.MethodName) prog_1_method_45_code (4 : Nat) (Option.some Jvm.ClassFile.FieldType.int)) ∈ lw_all := lw_g (lw_at lw_m5 2 rfl) rfl
theorem q1078 : (Jvm.Cond.instanceMethod ({ cls := "DictProof", name := "about", desc := "(II)I" } : Jvm.MethodName)) ∈ lw_all := lw_g (lw_at lw_m5 4 rfl) rfl
theorem q1079 : (Jvm.Cond.selects "DictProof" ({ cls := "DictProof", name := "about", desc := "(II)I" } : Jvm.MethodName) ({ cls := "DictProof", name := "about", desc := "(II)I" } : Jvm.MethodName)) ∈ lw_all := lw_g (lw_at lw_m5 5 rfl) rfl
theorem q1080 : (Jvm.Cond.code ({ cls := "DictProof", name := "about", desc := "(II)I" } : Jvm.MethodName) prog_1_method_48_code (3 : Nat) (Option.some Jvm.ClassFile.FieldType.int)) ∈ lw_all := lw_g (lw_at lw_m5 6 rfl) rfl
theorem q1081 : (Jvm.Cond.methodLink "DictProof" (397 : Nat) ({ cls := "DictProof", name := "instancesOf", desc := "(I)I" } : Jvm.MethodName)) ∈ lw_all := lw_g (lw_at lw_m5 7 rfl) rfl
theorem q1082 : (Jvm.Cond.privateMethod ({ cls := "DictProof", name := "instancesOf", desc := "(I)I" } : Jvm.MethodName)) ∈ lw_tbl := lw_at lw_m5 8 rfl
theorem q1083 : (Jvm.Cond.instanceMethod ({ cls := "DictProof", name := "instancesOf", desc := "(I)I" } : Jvm.MethodName)) ∈ lw_all := lw_g (lw_at lw_m5 9 rfl) rfl
theorem q1084 : (Jvm.Cond.code ({ cls := "DictProof", name := "instancesOf", desc := "(I)I" } : Jvm.MethodName) prog_1_method_47_code (4 : Nat) (Option.some Jvm.ClassFile.FieldType.int)) ∈ lw_all := lw_g (lw_at lw_m5 10 rfl) rfl
theorem q1086 : (Jvm.Cond.instanceMethod ({ cls := "DictProof", name := "instance", desc := "(II)I" } : Jvm.MethodName)) ∈ lw_all := lw_g (lw_at lw_m5 12 rfl) rfl
theorem q1087 : (Jvm.Cond.selects "DictProof" ({ cls := "DictProof", name := "instance", desc := "(II)I" } : Jvm.MethodName) ({ cls := "DictProof", name := "instance", desc := "(II)I" } : Jvm.MethodName)) ∈ lw_all := lw_g (lw_at lw_m5 13 rfl) rfl
theorem q1088 : (Jvm.Cond.code ({ cls := "DictProof", name := "instance", desc := "(II)I" } : Jvm.MethodName) prog_1_method_52_code (3 : Nat) (Option.some Jvm.ClassFile.FieldType.int)) ∈ lw_all := lw_g (lw_at lw_m5 14 rfl) rfl
theorem q1089 : (Jvm.Cond.methodLink "DictProof" (416 : Nat) ({ cls := "DictProof", name := "isInstance", desc := "(I)Z" } : Jvm.MethodName)) ∈ lw_all := lw_g (lw_at lw_m5 15 rfl) rfl
theorem q1090 : (Jvm.Cond.privateMethod ({ cls := "DictProof", name := "isInstance", desc := "(I)Z" } : Jvm.MethodName)) ∈ lw_tbl := lw_at lw_m5 16 rfl
theorem q1091 : (Jvm.Cond.instanceMethod ({ cls := "DictProof", name := "isInstance", desc := "(I)Z" } : Jvm.MethodName)) ∈ lw_all := lw_g (lw_at lw_m5 17 rfl) rfl
theorem q1092 : (Jvm.Cond.code ({ cls := "DictProof", name := "isInstance", desc := "(I)Z" } : Jvm.MethodName) prog_1_method_31_code (2 : Nat) (Option.some Jvm.ClassFile.FieldType.boolean)) ∈ lw_all := lw_g (lw_at lw_m5 18 rfl) rfl
theorem q1093 : (Jvm.Cond.methodLink "DictProof" (419 : Nat) ({ cls := "DictProof", name := "tellInstance", desc := "(LDictProof$Instance;I)I" } : Jvm.MethodName)) ∈ lw_all := lw_g (lw_at lw_m5 19 rfl) rfl
theorem q1094 : (Jvm.Cond.privateMethod ({ cls := "DictProof", name := "tellInstance", desc := "(LDictProof$Instance;I)I" } : Jvm.MethodName)) ∈ lw_tbl := lw_at lw_m5 20 rfl
theorem q1095 : (Jvm.Cond.instanceMethod ({ cls := "DictProof", name := "tellInstance", desc := "(LDictProof$Instance;I)I" } : Jvm.MethodName)) ∈ lw_all := lw_g (lw_at lw_m5 21 rfl) rfl
theorem q1096 : (Jvm.Cond.code ({ cls := "DictProof", name := "tellInstance", desc := "(LDictProof$Instance;I)I" } : Jvm.MethodName) prog_1_method_51_code (3 : Nat) (Option.some Jvm.ClassFile.FieldType.int)) ∈ lw_all := lw_g (lw_at lw_m5 22 rfl) rfl
theorem q1097 : (Jvm.Cond.methodLink "DictProof" (404 : Nat) ({ cls := "DictProof$Instance", name := "kind", desc := "()I" } : Jvm.MethodName)) ∈ lw_all := lw_g (lw_at lw_m5 23 rfl) rfl
theorem q1115 : (Jvm.Cond.methodLink "DictProof" (407 : Nat) ({ cls := "DictProof", name := "sortsOf", desc := "(I)I" } : Jvm.MethodName)) ∈ lw_all := lw_g (lw_at lw_m5 41 rfl) rfl
theorem q1116 : (Jvm.Cond.privateMethod ({ cls := "DictProof", name := "sortsOf", desc := "(I)I" } : Jvm.MethodName)) ∈ lw_tbl := lw_at lw_m5 42 rfl
theorem q1117 : (Jvm.Cond.instanceMethod ({ cls := "DictProof", name := "sortsOf", desc := "(I)I" } : Jvm.MethodName)) ∈ lw_all := lw_g (lw_at lw_m5 43 rfl) rfl
theorem q1118 : (Jvm.Cond.code ({ cls := "DictProof", name := "sortsOf", desc := "(I)I" } : Jvm.MethodName) prog_1_method_68_code (5 : Nat) (Option.some Jvm.ClassFile.FieldType.int)) ∈ lw_all := lw_g (lw_at lw_m5 44 rfl) rfl
theorem q1119 : (Jvm.Cond.methodLink "DictProof" (464 : Nat) ({ cls := "DictProof", name := "sortsBy", desc := "(I)I" } : Jvm.MethodName)) ∈ lw_all := lw_g (lw_at lw_m5 45 rfl) rfl
theorem q1120 : (Jvm.Cond.privateMethod ({ cls := "DictProof", name := "sortsBy", desc := "(I)I" } : Jvm.MethodName)) ∈ lw_tbl := lw_at lw_m5 46 rfl
theorem q1121 : (Jvm.Cond.instanceMethod ({ cls := "DictProof", name := "sortsBy", desc := "(I)I" } : Jvm.MethodName)) ∈ lw_all := lw_g (lw_at lw_m5 47 rfl) rfl
theorem q1122 : (Jvm.Cond.code ({ cls := "DictProof", name := "sortsBy", desc := "(I)I" } : Jvm.MethodName) prog_1_method_67_code (4 : Nat) (Option.some Jvm.ClassFile.FieldType.int)) ∈ lw_all := lw_g (lw_at lw_m5 48 rfl) rfl
theorem q1123 : (Jvm.Cond.methodLink "DictProof" (460 : Nat) ({ cls := "DictProof", name := "isSo", desc := "(LDictProof$Instance;I)Z" } : Jvm.MethodName)) ∈ lw_all := lw_g (lw_at lw_m5 49 rfl) rfl
theorem q1124 : (Jvm.Cond.privateMethod ({ cls := "DictProof", name := "isSo", desc := "(LDictProof$Instance;I)Z" } : Jvm.MethodName)) ∈ lw_tbl := lw_at lw_m5 50 rfl
theorem q1125 : (Jvm.Cond.instanceMethod ({ cls := "DictProof", name := "isSo", desc := "(LDictProof$Instance;I)Z" } : Jvm.MethodName)) ∈ lw_all := lw_g (lw_at lw_m5 51 rfl) rfl
theorem q1126 : (Jvm.Cond.code ({ cls := "DictProof", name := "isSo", desc := "(LDictProof$Instance;I)Z" } : Jvm.MethodName) prog_1_method_66_code (3 : Nat) (Option.some Jvm.ClassFile.FieldType.boolean)) ∈ lw_all := lw_g (lw_at lw_m5 52 rfl) rfl
theorem q1190 : (Jvm.Cond.methodLink "DictProof" (410 : Nat) ({ cls := "DictProof", name := "toAsk", desc := "(I)I" } : Jvm.MethodName)) ∈ lw_all := lw_g (lw_at lw_m5 116 rfl) rfl
theorem q1191 : (Jvm.Cond.privateMethod ({ cls := "DictProof", name := "toAsk", desc := "(I)I" } : Jvm.MethodName)) ∈ lw_tbl := lw_at lw_m5 117 rfl
theorem q1192 : (Jvm.Cond.instanceMethod ({ cls := "DictProof", name := "toAsk", desc := "(I)I" } : Jvm.MethodName)) ∈ lw_all := lw_g (lw_at lw_m5 118 rfl) rfl
theorem q1193 : (Jvm.Cond.code ({ cls := "DictProof", name := "toAsk", desc := "(I)I" } : Jvm.MethodName) prog_1_method_69_code (9 : Nat) (Option.some Jvm.ClassFile.FieldType.int)) ∈ lw_all := lw_g (lw_at lw_m5 119 rfl) rfl
theorem q1194 : (Jvm.Cond.methodLink "DictProof" (467 : Nat) ({ cls := "java/lang/Math", name := "max", desc := "(II)I" } : Jvm.MethodName)) ∈ lw_all := lw_g (lw_at lw_m5 120 rfl) rfl
theorem q1195 : (Jvm.Cond.methodLink "DictProof" (473 : Nat) ({ cls := "java/lang/Math", name := "min", desc := "(II)I" } : Jvm.MethodName)) ∈ lw_all := lw_g (lw_at lw_m5 121 rfl) rfl
theorem q1198 : (Jvm.Cond.methodLink "DictProof" (413 : Nat) ({ cls := "DictProof", name := "lackedBy", desc := "(LDictProof$Instance;)I" } : Jvm.MethodName)) ∈ lw_all := lw_g (lw_at lw_m5 124 rfl) rfl
theorem q1199 : (Jvm.Cond.privateMethod ({ cls := "DictProof", name := "lackedBy", desc := "(LDictProof$Instance;)I" } : Jvm.MethodName)) ∈ lw_tbl := lw_at lw_m5 125 rfl
theorem q1200 : (Jvm.Cond.instanceMethod ({ cls := "DictProof", name := "lackedBy", desc := "(LDictProof$Instance;)I" } : Jvm.MethodName)) ∈ lw_all := lw_g (lw_at lw_m5 126 rfl) rfl
theorem q1201 : (Jvm.Cond.code ({ cls := "DictProof", name := "lackedBy", desc := "(LDictProof$Instance;)I" } : Jvm.MethodName) prog_1_method_50_code (6 : Nat) (Option.some Jvm.ClassFile.FieldType.int)) ∈ lw_all := lw_g (lw_at lw_m5 127 rfl) rfl
theorem q1202 : (Jvm.Cond.methodLink "DictProof" (400 : Nat) ({ cls := "DictProof", name := "givenBy", desc := "(LDictProof$Instance;)I" } : Jvm.MethodName)) ∈ lw_all := lw_g (lw_at lw_m5 128 rfl) rfl
theorem q1203 : (Jvm.Cond.privateMethod ({ cls := "DictProof", name := "givenBy", desc := "(LDictProof$Instance;)I" } : Jvm.MethodName)) ∈ lw_tbl := lw_at lw_m5 129 rfl
theorem q1204 : (Jvm.Cond.instanceMethod ({ cls := "DictProof", name := "givenBy", desc := "(LDictProof$Instance;)I" } : Jvm.MethodName)) ∈ lw_all := lw_g (lw_at lw_m5 130 rfl) rfl
theorem q1205 : (Jvm.Cond.code ({ cls := "DictProof", name := "givenBy", desc := "(LDictProof$Instance;)I" } : Jvm.MethodName) prog_1_method_49_code (6 : Nat) (Option.some Jvm.ClassFile.FieldType.int)) ∈ lw_all := lw_g (lw_at lw_m5 131 rfl) rfl
theorem q1207 : (Jvm.Cond.instanceMethod ({ cls := "DictProof", name := "as", desc := "(II)I" } : Jvm.MethodName)) ∈ lw_all := lw_g (lw_at lw_m5 133 rfl) rfl
theorem q1208 : (Jvm.Cond.selects "DictProof" ({ cls := "DictProof", name := "as", desc := "(II)I" } : Jvm.MethodName) ({ cls := "DictProof", name := "as", desc := "(II)I" } : Jvm.MethodName)) ∈ lw_all := lw_g (lw_at lw_m5 134 rfl) rfl
theorem q1209 : (Jvm.Cond.codeWith ({ cls := "DictProof", name := "as", desc := "(II)I" } : Jvm.MethodName) prog_1_method_54_code (4 : Nat) (Option.some Jvm.ClassFile.FieldType.int) [((26 : Nat), (36 : Nat), (37 : Nat), (433 : Nat))]) ∈ lw_all := lw_g (lw_at lw_m5 135 rfl) rfl
theorem q1210 : (Jvm.Cond.classLink "DictProof" (433 : Nat) "java/lang/ClassCastException") ∈ lw_all := lw_g (lw_at lw_m5 136 rfl) rfl
theorem q1279 : (Jvm.Cond.constantLong "DictProof" (427 : Nat) (4 : Int64)) ∈ lw_all := lw_g (lw_at lw_m5 205 rfl) rfl
theorem q1280 : (Jvm.Cond.methodLink "DictProof" (429 : Nat) ({ cls := "DictProof", name := "castTo", desc := "(Ljava/lang/Object;I)I" } : Jvm.MethodName)) ∈ lw_all := lw_g (lw_at lw_m5 206 rfl) rfl
theorem q1281 : (Jvm.Cond.static ({ cls := "DictProof", name := "castTo", desc := "(Ljava/lang/Object;I)I" } : Jvm.MethodName)) ∈ lw_all := lw_g (lw_at lw_m5 207 rfl) rfl
theorem q1282 : (Jvm.Cond.code ({ cls := "DictProof", name := "castTo", desc := "(Ljava/lang/Object;I)I" } : Jvm.MethodName) prog_1_method_53_code (2 : Nat) (Option.some Jvm.ClassFile.FieldType.int)) ∈ lw_all := lw_g (lw_at lw_m5 208 rfl) rfl
theorem q1284 : (Jvm.Cond.instanceMethod ({ cls := "DictProof", name := "change", desc := "(II)I" } : Jvm.MethodName)) ∈ lw_all := lw_g (lw_at lw_m5 210 rfl) rfl
theorem q1285 : (Jvm.Cond.selects "DictProof" ({ cls := "DictProof", name := "change", desc := "(II)I" } : Jvm.MethodName) ({ cls := "DictProof", name := "change", desc := "(II)I" } : Jvm.MethodName)) ∈ lw_all := lw_g (lw_at lw_m5 211 rfl) rfl
theorem q1286 : (Jvm.Cond.code ({ cls := "DictProof", name := "change", desc := "(II)I" } : Jvm.MethodName) prog_1_method_55_code (4 : Nat) (Option.some Jvm.ClassFile.FieldType.int)) ∈ lw_all := lw_g (lw_at lw_m5 212 rfl) rfl
theorem q1287 : (Jvm.Cond.methodLink "DictProof" (435 : Nat) ({ cls := "DictProof", name := "be", desc := "(II)V" } : Jvm.MethodName)) ∈ lw_all := lw_g (lw_at lw_m5 213 rfl) rfl
theorem q1288 : (Jvm.Cond.privateMethod ({ cls := "DictProof", name := "be", desc := "(II)V" } : Jvm.MethodName)) ∈ lw_tbl := lw_at lw_m5 214 rfl
theorem q1289 : (Jvm.Cond.instanceMethod ({ cls := "DictProof", name := "be", desc := "(II)V" } : Jvm.MethodName)) ∈ lw_all := lw_g (lw_at lw_m5 215 rfl) rfl
theorem q1290 : (Jvm.Cond.code ({ cls := "DictProof", name := "be", desc := "(II)V" } : Jvm.MethodName) prog_1_method_56_code (4 : Nat) (Option.none : Option Jvm.ClassFile.FieldType)) ∈ lw_all := lw_g (lw_at lw_m5 216 rfl) rfl
theorem q1291 : (Jvm.Cond.methodLink "DictProof" (438 : Nat) ({ cls := "DictProof$Instance", name := "be", desc := "(LDictProof$Instance;)V" } : Jvm.MethodName)) ∈ lw_all := lw_g (lw_at lw_m5 217 rfl) rfl
theorem q1304 : (Jvm.Cond.instanceMethod ({ cls := "DictProof", name := "pair", desc := "(III)I" } : Jvm.MethodName)) ∈ lw_all := lw_g (lw_at lw_m5 230 rfl) rfl
theorem q1305 : (Jvm.Cond.selects "DictProof" ({ cls := "DictProof", name := "pair", desc := "(III)I" } : Jvm.MethodName) ({ cls := "DictProof", name := "pair", desc := "(III)I" } : Jvm.MethodName)) ∈ lw_all := lw_g (lw_at lw_m5 231 rfl) rfl
theorem q1306 : (Jvm.Cond.code ({ cls := "DictProof", name := "pair", desc := "(III)I" } : Jvm.MethodName) prog_1_method_62_code (4 : Nat) (Option.some Jvm.ClassFile.FieldType.int)) ∈ lw_all := lw_g (lw_at lw_m5 232 rfl) rfl
theorem q1307 : (Jvm.Cond.constantLong "DictProof" (451 : Nat) (2 : Int64)) ∈ lw_all := lw_g (lw_at lw_m5 233 rfl) rfl
theorem q1308 : (Jvm.Cond.methodLink "DictProof" (453 : Nat) ({ cls := "DictProof", name := "tellPair", desc := "(LDictProof$Instance;LDictProof$Instance;I)I" } : Jvm.MethodName)) ∈ lw_all := lw_g (lw_at lw_m5 234 rfl) rfl
theorem q1309 : (Jvm.Cond.privateMethod ({ cls := "DictProof", name := "tellPair", desc := "(LDictProof$Instance;LDictProof$Instance;I)I" } : Jvm.MethodName)) ∈ lw_tbl := lw_at lw_m5 235 rfl
theorem q1310 : (Jvm.Cond.instanceMethod ({ cls := "DictProof", name := "tellPair", desc := "(LDictProof$Instance;LDictProof$Instance;I)I" } : Jvm.MethodName)) ∈ lw_all := lw_g (lw_at lw_m5 236 rfl) rfl
theorem q1311 : (Jvm.Cond.code ({ cls := "DictProof", name := "tellPair", desc := "(LDictProof$Instance;LDictProof$Instance;I)I" } : Jvm.MethodName) prog_1_method_61_code (5 : Nat) (Option.some Jvm.ClassFile.FieldType.int)) ∈ lw_all := lw_g (lw_at lw_m5 237 rfl) rfl
theorem q1312 : (Jvm.Cond.methodLink "DictProof" (445 : Nat) ({ cls := "DictProof", name := "isOverlap", desc := "(LDictProof$Instance;LDictProof$Instance;)Z" } : Jvm.MethodName)) ∈ lw_all := lw_g (lw_at lw_m5 238 rfl) rfl
theorem q1313 : (Jvm.Cond.privateMethod ({ cls := "DictProof", name := "isOverlap", desc := "(LDictProof$Instance;LDictProof$Instance;)Z" } : Jvm.MethodName)) ∈ lw_tbl := lw_at lw_m5 239 rfl
theorem q1314 : (Jvm.Cond.instanceMethod ({ cls := "DictProof", name := "isOverlap", desc := "(LDictProof$Instance;LDictProof$Instance;)Z" } : Jvm.MethodName)) ∈ lw_all := lw_g (lw_at lw_m6 0 rfl) rfl
theorem q1315 : (Jvm.Cond.code ({ cls := "DictProof", name := "isOverlap", desc := "(LDictProof$Instance;LDictProof$Instance;)Z" } : Jvm.MethodName) prog_1_method_59_code (3 : Nat) (Option.some Jvm.ClassFile.FieldType.boolean)) ∈ lw_all := lw_g (lw_at lw_m6 1 rfl) rfl
theorem q1316 : (Jvm.Cond.methodLink "DictProof" (448 : Nat) ({ cls := "DictProof", name := "isClash", desc := "(LDictProof$Instance;LDictProof$Instance;)Z" } : Jvm.MethodName)) ∈ lw_all := lw_g (lw_at lw_m6 2 rfl) rfl
theorem q1317 : (Jvm.Cond.privateMethod ({ cls := "DictProof", name := "isClash", desc := "(LDictProof$Instance;LDictProof$Instance;)Z" } : Jvm.MethodName)) ∈ lw_tbl := lw_at lw_m6 3 rfl
theorem q1318 : (Jvm.Cond.instanceMethod ({ cls := "DictProof", name := "isClash", desc := "(LDictProof$Instance;LDictProof$Instance;)Z" } : Jvm.MethodName)) ∈ lw_all := lw_g (lw_at lw_m6 4 rfl) rfl
theorem q1319 : (Jvm.Cond.code ({ cls := "DictProof", name := "isClash", desc := "(LDictProof$Instance;LDictProof$Instance;)Z" } : Jvm.MethodName) prog_1_method_60_code (4 : Nat) (Option.some Jvm.ClassFile.FieldType.boolean)) ∈ lw_all := lw_g (lw_at lw_m6 5 rfl) rfl
theorem q1321 : (Jvm.Cond.instanceMethod ({ cls := "DictProof", name := "fits", desc := "(II)I" } : Jvm.MethodName)) ∈ lw_all := lw_g (lw_at lw_m6 7 rfl) rfl
theorem q1322 : (Jvm.Cond.selects "DictProof" ({ cls := "DictProof", name := "fits", desc := "(II)I" } : Jvm.MethodName) ({ cls := "DictProof", name := "fits", desc := "(II)I" } : Jvm.MethodName)) ∈ lw_all := lw_g (lw_at lw_m6 8 rfl) rfl
theorem q1323 : (Jvm.Cond.code ({ cls := "DictProof", name := "fits", desc := "(II)I" } : Jvm.MethodName) prog_1_method_63_code (3 : Nat) (Option.some Jvm.ClassFile.FieldType.int)) ∈ lw_all := lw_g (lw_at lw_m6 9 rfl) rfl
theorem q1325 : (Jvm.Cond.instanceMethod ({ cls := "DictProof", name := "see", desc := "(IIZ)I" } : Jvm.MethodName)) ∈ lw_all := lw_g (lw_at lw_m6 11 rfl) rfl
theorem q1326 : (Jvm.Cond.selects "DictProof" ({ cls := "DictProof", name := "see", desc := "(IIZ)I" } : Jvm.MethodName) ({ cls := "DictProof", name := "see", desc := "(IIZ)I" } : Jvm.MethodName)) ∈ lw_all := lw_g (lw_at lw_m6 12 rfl) rfl
theorem q1327 : (Jvm.Cond.code ({ cls := "DictProof", name := "see", desc := "(IIZ)I" } : Jvm.MethodName) prog_1_method_64_code (4 : Nat) (Option.some Jvm.ClassFile.FieldType.int)) ∈ lw_all := lw_g (lw_at lw_m6 13 rfl) rfl
theorem q1329 : (Jvm.Cond.instanceMethod ({ cls := "DictProof", name := "forget", desc := "()I" } : Jvm.MethodName)) ∈ lw_all := lw_g (lw_at lw_m6 15 rfl) rfl
theorem q1330 : (Jvm.Cond.selects "DictProof" ({ cls := "DictProof", name := "forget", desc := "()I" } : Jvm.MethodName) ({ cls := "DictProof", name := "forget", desc := "()I" } : Jvm.MethodName)) ∈ lw_all := lw_g (lw_at lw_m6 16 rfl) rfl
theorem q1331 : (Jvm.Cond.code ({ cls := "DictProof", name := "forget", desc := "()I" } : Jvm.MethodName) prog_1_method_65_code (2 : Nat) (Option.some Jvm.ClassFile.FieldType.int)) ∈ lw_all := lw_g (lw_at lw_m6 17 rfl) rfl
theorem q1333 : (Jvm.Cond.instanceMethod ({ cls := "DictProof", name := "drawn", desc := "(III)I" } : Jvm.MethodName)) ∈ lw_all := lw_g (lw_at lw_m6 19 rfl) rfl
theorem q1334 : (Jvm.Cond.selects "DictProof" ({ cls := "DictProof", name := "drawn", desc := "(III)I" } : Jvm.MethodName) ({ cls := "DictProof", name := "drawn", desc := "(III)I" } : Jvm.MethodName)) ∈ lw_all := lw_g (lw_at lw_m6 20 rfl) rfl
theorem q1335 : (Jvm.Cond.code ({ cls := "DictProof", name := "drawn", desc := "(III)I" } : Jvm.MethodName) prog_1_method_73_code (4 : Nat) (Option.some Jvm.ClassFile.FieldType.int)) ∈ lw_all := lw_g (lw_at lw_m6 21 rfl) rfl
theorem q1336 : (Jvm.Cond.constantLong "DictProof" (493 : Nat) (30 : Int64)) ∈ lw_all := lw_g (lw_at lw_m6 22 rfl) rfl
theorem q1337 : (Jvm.Cond.methodLink "DictProof" (495 : Nat) ({ cls := "DictProof", name := "drawnBy", desc := "(III)I" } : Jvm.MethodName)) ∈ lw_all := lw_g (lw_at lw_m6 23 rfl) rfl
theorem q1338 : (Jvm.Cond.privateMethod ({ cls := "DictProof", name := "drawnBy", desc := "(III)I" } : Jvm.MethodName)) ∈ lw_tbl := lw_at lw_m6 24 rfl
theorem q1339 : (Jvm.Cond.instanceMethod ({ cls := "DictProof", name := "drawnBy", desc := "(III)I" } : Jvm.MethodName)) ∈ lw_all := lw_g (lw_at lw_m6 25 rfl) rfl
theorem q1340 : (Jvm.Cond.code ({ cls := "DictProof", name := "drawnBy", desc := "(III)I" } : Jvm.MethodName) prog_1_method_72_code (9 : Nat) (Option.some Jvm.ClassFile.FieldType.int)) ∈ lw_all := lw_g (lw_at lw_m6 26 rfl) rfl
theorem q1341 : (Jvm.Cond.methodLink "DictProof" (486 : Nat) ({ cls := "DictProof", name := "draw", desc := "(I)I" } : Jvm.MethodName)) ∈ lw_all := lw_g (lw_at lw_m6 27 rfl) rfl
theorem q1342 : (Jvm.Cond.privateMethod ({ cls := "DictProof", name := "draw", desc := "(I)I" } : Jvm.MethodName)) ∈ lw_tbl := lw_at lw_m6 28 rfl
theorem q1343 : (Jvm.Cond.instanceMethod ({ cls := "DictProof", name := "draw", desc := "(I)I" } : Jvm.MethodName)) ∈ lw_all := lw_g (lw_at lw_m6 29 rfl) rfl
theorem q1344 : (Jvm.Cond.code ({ cls := "DictProof", name := "draw", desc := "(I)I" } : Jvm.MethodName) prog_1_method_70_code (2 : Nat) (Option.some Jvm.ClassFile.FieldType.int)) ∈ lw_all := lw_g (lw_at lw_m6 30 rfl) rfl
theorem q1345 : (Jvm.Cond.constantLong "DictProof" (476 : Nat) (1103515245 : Int64)) ∈ lw_all := lw_g (lw_at lw_m6 31 rfl) rfl
theorem q1346 : (Jvm.Cond.constantLong "DictProof" (481 : Nat) (12345 : Int64)) ∈ lw_all := lw_g (lw_at lw_m6 32 rfl) rfl
theorem q1347 : (Jvm.Cond.constantLong "DictProof" (483 : Nat) (2147483647 : Int64)) ∈ lw_all := lw_g (lw_at lw_m6 33 rfl) rfl
theorem q1348 : (Jvm.Cond.constant "DictProof" (485 : Nat) (65536 : Int32)) ∈ lw_all := lw_g (lw_at lw_m6 34 rfl) rfl
theorem q1349 : (Jvm.Cond.methodLink "DictProof" (489 : Nat) ({ cls := "DictProof", name := "drawType", desc := "(I)LDictProof$Term;" } : Jvm.MethodName)) ∈ lw_all := lw_g (lw_at lw_m6 35 rfl) rfl
theorem q1350 : (Jvm.Cond.privateMethod ({ cls := "DictProof", name := "drawType", desc := "(I)LDictProof$Term;" } : Jvm.MethodName)) ∈ lw_tbl := lw_at lw_m6 36 rfl
theorem q1351 : (Jvm.Cond.instanceMethod ({ cls := "DictProof", name := "drawType", desc := "(I)LDictProof$Term;" } : Jvm.MethodName)) ∈ lw_all := lw_g (lw_at lw_m6 37 rfl) rfl
theorem q1352 : (Jvm.Cond.code ({ cls := "DictProof", name := "drawType", desc := "(I)LDictProof$Term;" } : Jvm.MethodName) prog_1_method_71_code (6 : Nat) (Option.some (Jvm.ClassFile.FieldType.object "DictProof$Term"))) ∈ lw_all := lw_g (lw_at lw_m6 38 rfl) rfl
theorem q1354 : (Jvm.Cond.instanceMethod ({ cls := "DictProof", name := "image", desc := "()I" } : Jvm.MethodName)) ∈ lw_all := lw_g (lw_at lw_m6 40 rfl) rfl
theorem q1355 : (Jvm.Cond.selects "DictProof" ({ cls := "DictProof", name := "image", desc := "()I" } : Jvm.MethodName) ({ cls := "DictProof", name := "image", desc := "()I" } : Jvm.MethodName)) ∈ lw_all := lw_g (lw_at lw_m6 41 rfl) rfl
theorem q1356 : (Jvm.Cond.code ({ cls := "DictProof", name := "image", desc := "()I" } : Jvm.MethodName) prog_1_method_75_code (2 : Nat) (Option.some Jvm.ClassFile.FieldType.int)) ∈ lw_all := lw_g (lw_at lw_m6 42 rfl) rfl
theorem q1357 : (Jvm.Cond.methodLink "DictProof" (498 : Nat) ({ cls := "java/lang/System", name := "arraycopy", desc := "(Ljava/lang/Object;ILjava/lang/Object;II)V" } : Jvm.MethodName)) ∈ lw_all := lw_g (lw_at lw_m6 43 rfl) rfl
theorem q1358 : (Jvm.Cond.methodLink "DictProof" (507 : Nat) ({ cls := "DictProof", name := "slotsUsed", desc := "()I" } : Jvm.MethodName)) ∈ lw_all := lw_g (lw_at lw_m6 44 rfl) rfl
theorem q1359 : (Jvm.Cond.privateMethod ({ cls := "DictProof", name := "slotsUsed", desc := "()I" } : Jvm.MethodName)) ∈ lw_tbl := lw_at lw_m6 45 rfl
theorem q1360 : (Jvm.Cond.instanceMethod ({ cls := "DictProof", name := "slotsUsed", desc := "()I" } : Jvm.MethodName)) ∈ lw_all := lw_g (lw_at lw_m6 46 rfl) rfl
theorem q1361 : (Jvm.Cond.code ({ cls := "DictProof", name := "slotsUsed", desc := "()I" } : Jvm.MethodName) prog_1_method_74_code (3 : Nat) (Option.some Jvm.ClassFile.FieldType.int)) ∈ lw_all := lw_g (lw_at lw_m6 47 rfl) rfl
theorem q1363 : (Jvm.Cond.instanceMethod ({ cls := "DictProof", name := "restore", desc := "()I" } : Jvm.MethodName)) ∈ lw_all := lw_g (lw_at lw_m6 49 rfl) rfl
theorem q1364 : (Jvm.Cond.selects "DictProof" ({ cls := "DictProof", name := "restore", desc := "()I" } : Jvm.MethodName) ({ cls := "DictProof", name := "restore", desc := "()I" } : Jvm.MethodName)) ∈ lw_all := lw_g (lw_at lw_m6 50 rfl) rfl
theorem q1365 : (Jvm.Cond.code ({ cls := "DictProof", name := "restore", desc := "()I" } : Jvm.MethodName) prog_1_method_76_code (2 : Nat) (Option.some Jvm.ClassFile.FieldType.int)) ∈ lw_all := lw_g (lw_at lw_m6 51 rfl) rfl
theorem q1367 : (Jvm.Cond.instanceMethod ({ cls := "DictProof", name := "count", desc := "(I)I" } : Jvm.MethodName)) ∈ lw_all := lw_g (lw_at lw_m6 53 rfl) rfl
theorem q1368 : (Jvm.Cond.selects "DictProof" ({ cls := "DictProof", name := "count", desc := "(I)I" } : Jvm.MethodName) ({ cls := "DictProof", name := "count", desc := "(I)I" } : Jvm.MethodName)) ∈ lw_all := lw_g (lw_at lw_m6 54 rfl) rfl
theorem q1369 : (Jvm.Cond.code ({ cls := "DictProof", name := "count", desc := "(I)I" } : Jvm.MethodName) prog_1_method_81_code (2 : Nat) (Option.some Jvm.ClassFile.FieldType.int)) ∈ lw_all := lw_g (lw_at lw_m6 55 rfl) rfl
theorem q1370 : (Jvm.Cond.methodLink "DictProof" (513 : Nat) ({ cls := "DictProof", name := "unsound", desc := "()I" } : Jvm.MethodName)) ∈ lw_all := lw_g (lw_at lw_m6 56 rfl) rfl
theorem q1371 : (Jvm.Cond.privateMethod ({ cls := "DictProof", name := "unsound", desc := "()I" } : Jvm.MethodName)) ∈ lw_tbl := lw_at lw_m6 57 rfl
theorem q1372 : (Jvm.Cond.instanceMethod ({ cls := "DictProof", name := "unsound", desc := "()I" } : Jvm.MethodName)) ∈ lw_all := lw_g (lw_at lw_m6 58 rfl) rfl
theorem q1373 : (Jvm.Cond.code ({ cls := "DictProof", name := "unsound", desc := "()I" } : Jvm.MethodName) prog_1_method_77_code (3 : Nat) (Option.some Jvm.ClassFile.FieldType.int)) ∈ lw_all := lw_g (lw_at lw_m6 59 rfl) rfl
theorem q1374 : (Jvm.Cond.methodLink "DictProof" (516 : Nat) ({ cls := "DictProof", name := "pairsBy", desc := "(I)I" } : Jvm.MethodName)) ∈ lw_all := lw_g (lw_at lw_m6 60 rfl) rfl
theorem q1375 : (Jvm.Cond.privateMethod ({ cls := "DictProof", name := "pairsBy", desc := "(I)I" } : Jvm.MethodName)) ∈ lw_tbl := lw_at lw_m6 61 rfl
theorem q1376 : (Jvm.Cond.instanceMethod ({ cls := "DictProof", name := "pairsBy", desc := "(I)I" } : Jvm.MethodName)) ∈ lw_all := lw_g (lw_at lw_m6 62 rfl) rfl
theorem q1377 : (Jvm.Cond.code ({ cls := "DictProof", name := "pairsBy", desc := "(I)I" } : Jvm.MethodName) prog_1_method_78_code (5 : Nat) (Option.some Jvm.ClassFile.FieldType.int)) ∈ lw_all := lw_g (lw_at lw_m6 63 rfl) rfl
theorem q1378 : (Jvm.Cond.methodLink "DictProof" (519 : Nat) ({ cls := "DictProof", name := "lackedAll", desc := "()I" } : Jvm.MethodName)) ∈ lw_all := lw_g (lw_at lw_m6 64 rfl) rfl
theorem q1379 : (Jvm.Cond.privateMethod ({ cls := "DictProof", name := "lackedAll", desc := "()I" } : Jvm.MethodName)) ∈ lw_tbl := lw_at lw_m6 65 rfl
theorem q1380 : (Jvm.Cond.instanceMethod ({ cls := "DictProof", name := "lackedAll", desc := "()I" } : Jvm.MethodName)) ∈ lw_all := lw_g (lw_at lw_m6 66 rfl) rfl
theorem q1381 : (Jvm.Cond.code ({ cls := "DictProof", name := "lackedAll", desc := "()I" } : Jvm.MethodName) prog_1_method_79_code (3 : Nat) (Option.some Jvm.ClassFile.FieldType.int)) ∈ lw_all := lw_g (lw_at lw_m6 67 rfl) rfl
theorem q1382 : (Jvm.Cond.methodLink "DictProof" (522 : Nat) ({ cls := "DictProof", name := "differentTypes", desc := "()I" } : Jvm.MethodName)) ∈ lw_all := lw_g (lw_at lw_m6 68 rfl) rfl
theorem q1383 : (Jvm.Cond.privateMethod ({ cls := "DictProof", name := "differentTypes", desc := "()I" } : Jvm.MethodName)) ∈ lw_tbl := lw_at lw_m6 69 rfl
theorem q1384 : (Jvm.Cond.instanceMethod ({ cls := "DictProof", name := "differentTypes", desc := "()I" } : Jvm.MethodName)) ∈ lw_all := lw_g (lw_at lw_m6 70 rfl) rfl
theorem q1385 : (Jvm.Cond.code ({ cls := "DictProof", name := "differentTypes", desc := "()I" } : Jvm.MethodName) prog_1_method_80_code (3 : Nat) (Option.some Jvm.ClassFile.FieldType.int)) ∈ lw_all := lw_g (lw_at lw_m6 71 rfl) rfl
theorem q1386 : (Jvm.Cond.methodLink "DictProof" (510 : Nat) ({ cls := "java/util/HashSet", name := "add", desc := "(Ljava/lang/Object;)Z" } : Jvm.MethodName)) ∈ lw_all := lw_g (lw_at lw_m6 72 rfl) rfl
theorem q1388 : (Jvm.Cond.instanceMethod ({ cls := "DictProof", name := "digest", desc := "()J" } : Jvm.MethodName)) ∈ lw_all := lw_g (lw_at lw_m6 74 rfl) rfl
theorem q1389 : (Jvm.Cond.selects "DictProof" ({ cls := "DictProof", name := "digest", desc := "()J" } : Jvm.MethodName) ({ cls := "DictProof", name := "digest", desc := "()J" } : Jvm.MethodName)) ∈ lw_all := lw_g (lw_at lw_m6 75 rfl) rfl
theorem q1390 : (Jvm.Cond.code ({ cls := "DictProof", name := "digest", desc := "()J" } : Jvm.MethodName) prog_1_method_83_code (3 : Nat) (Option.some Jvm.ClassFile.FieldType.long)) ∈ lw_all := lw_g (lw_at lw_m6 76 rfl) rfl
theorem q1391 : (Jvm.Cond.constantLong "DictProof" (531 : Nat) (1367 : Int64)) ∈ lw_all := lw_g (lw_at lw_m6 77 rfl) rfl
theorem q1392 : (Jvm.Cond.methodLink "DictProof" (533 : Nat) ({ cls := "DictProof", name := "about", desc := "(II)I" } : Jvm.MethodName)) ∈ lw_all := lw_g (lw_at lw_m6 78 rfl) rfl
theorem q1393 : (Jvm.Cond.methodLink "DictProof" (536 : Nat) ({ cls := "DictProof", name := "note", desc := "(J)V" } : Jvm.MethodName)) ∈ lw_all := lw_g (lw_at lw_m6 79 rfl) rfl
theorem q1394 : (Jvm.Cond.privateMethod ({ cls := "DictProof", name := "note", desc := "(J)V" } : Jvm.MethodName)) ∈ lw_tbl := lw_at lw_m6 80 rfl
theorem q1395 : (Jvm.Cond.instanceMethod ({ cls := "DictProof", name := "note", desc := "(J)V" } : Jvm.MethodName)) ∈ lw_all := lw_g (lw_at lw_m6 81 rfl) rfl
theorem q1396 : (Jvm.Cond.code ({ cls := "DictProof", name := "note", desc := "(J)V" } : Jvm.MethodName) prog_1_method_82_code (3 : Nat) (Option.none : Option Jvm.ClassFile.FieldType)) ∈ lw_all := lw_g (lw_at lw_m6 82 rfl) rfl
theorem q1397 : (Jvm.Cond.constantLong "DictProof" (525 : Nat) (31 : Int64)) ∈ lw_all := lw_g (lw_at lw_m6 83 rfl) rfl
theorem q1398 : (Jvm.Cond.methodLink "DictProof" (540 : Nat) ({ cls := "DictProof", name := "count", desc := "(I)I" } : Jvm.MethodName)) ∈ lw_all := lw_g (lw_at lw_m6 84 rfl) rfl
theorem q1993 : (Jvm.Cond.castable "DictProof" "java/lang/Object") ∈ lw_tbl := lw_at lw_m8 199 rfl
theorem in_X0 : ∀ w ∈ wsX00, w ∈ lw_all := lw_in wsX00 [317, 319, 321, 323, 325, 327, 329, 331, 333, 335, 337, 339, 341, 343, 345, 347, 349, 351, 353, 355, 357, 359, 361, 363, 365, 367, 369, 371, 373, 375, 377, 379, 381, 383, 385, 387] (by decide +kernel) (by decide +kernel)
