/-! DictProofModel -/
set_option maxRecDepth 100000
def RX6 : String := "DictProofModel"
def TX6 : u_T := fun k => match k with
  | 0 => ("DictProofModel", "books", "I", false)
  | 1 => ("DictProofModel", "classes", "I", false)
  | 2 => ("DictProofModel", "rightAbove", "[I", true)
  | 3 => ("DictProofModel", "above", "[I", true)
  | 4 => ("DictProofModel", "instances", "I", false)
  | 5 => ("DictProofModel", "kindOf", "[I", true)
  | 6 => ("DictProofModel", "classOf", "[I", true)
  | 7 => ("DictProofModel", "head", "[I", true)
  | 8 => ("DictProofModel", "headSize", "[I", true)
  | 9 => ("DictProofModel", "conditions", "[I", true)
  | 10 => ("DictProofModel", "conditionClass", "[I", true)
  | 11 => ("DictProofModel", "conditionVariable", "[I", true)
  | 12 => ("DictProofModel", "special", "[I", true)
  | 13 => ("DictProofModel", "slot", "[I", true)
  | 14 => ("DictProofModel", "slotSize", "[I", true)
  | 15 => ("DictProofModel", "seen", "I", false)
  | 16 => ("DictProofModel", "seenInstance", "[I", true)
  | 17 => ("DictProofModel", "seenWhat", "[I", true)
  | 18 => ("DictProofModel", "seenSo", "[I", true)
  | 19 => ("DictProofModel", "pageLength", "I", false)
  | 20 => ("DictProofModel", "page", "[B", true)
  | 21 => ("DictProofModel", "isWhole", "Z", false)
  | 22 => ("DictProofModel", "isBroken", "Z", false)
  | 23 => ("DictProofModel", "newClasses", "I", false)
  | 24 => ("DictProofModel", "newInstances", "I", false)
  | 25 => ("DictProofModel", "newAbove", "[I", true)
  | 26 => ("DictProofModel", "newKind", "[I", true)
  | 27 => ("DictProofModel", "newClass", "[I", true)
  | 28 => ("DictProofModel", "newHeadAt", "[I", true)
  | 29 => ("DictProofModel", "newHeadSize", "[I", true)
  | 30 => ("DictProofModel", "newConditions", "[I", true)
  | 31 => ("DictProofModel", "newConditionAt", "[I", true)
  | 32 => ("DictProofModel", "now", "[I", true)
  | 33 => ("DictProofModel", "sizeAt", "[I", true)
  | 34 => ("DictProofModel", "nowSize", "I", false)
  | 35 => ("DictProofModel", "boundAt", "[I", true)
  | 36 => ("DictProofModel", "status", "[I", true)
  | 37 => ("DictProofModel", "taken", "[I", true)
  | 38 => ("DictProofModel", "firstBelow", "[I", true)
  | 39 => ("DictProofModel", "secondBelow", "[I", true)
  | 40 => ("DictProofModel", "entries", "[I", true)
  | 41 => ("DictProofModel", "worth", "[I", true)
  | 42 => ("DictProofModel", "deep", "[I", true)
  | 43 => ("DictProofModel", "needs", "[I", true)
  | 44 => ("DictProofModel", "marked", "[I", true)
  | 45 => ("DictProofModel", "one", "I", false)
  | 46 => ("DictProofModel", "other", "I", false)
  | 47 => ("DictProofModel", "bound", "[I", true)
  | 48 => ("DictProofModel", "pairOne", "[I", true)
  | 49 => ("DictProofModel", "pairOther", "[I", true)
  | 50 => ("DictProofModel", "pairs", "I", false)
  | 51 => ("DictProofModel", "waiting", "[I", true)
  | 52 => ("DictProofModel", "seedNow", "J", false)
  | 53 => ("DictProofModel", "isKept", "Z", false)
  | 54 => ("DictProofModel", "keptBook", "I", false)
  | 55 => ("DictProofModel", "keptSeen", "I", false)
  | 56 => ("DictProofModel", "keptKind", "[I", true)
  | 57 => ("DictProofModel", "keptSlot", "[I", true)
  | 58 => ("DictProofModel", "keptSize", "[I", true)
  | 59 => ("DictProofModel", "keptInstance", "[I", true)
  | 60 => ("DictProofModel", "keptWhat", "[I", true)
  | 61 => ("DictProofModel", "keptSo", "[I", true)
  | _ => ("DictProofModel", "h", "J", false)
def tyX6 : Nat → FieldType := fun k => match k with
  | 0 => .int
  | 1 => .int
  | 2 => .array .int
  | 3 => .array .int
  | 4 => .int
  | 5 => .array .int
  | 6 => .array .int
  | 7 => .array .int
  | 8 => .array .int
  | 9 => .array .int
  | 10 => .array .int
  | 11 => .array .int
  | 12 => .array .int
  | 13 => .array .int
  | 14 => .array .int
  | 15 => .int
  | 16 => .array .int
  | 17 => .array .int
  | 18 => .array .int
  | 19 => .int
  | 20 => .array .byte
  | 21 => .boolean
  | 22 => .boolean
  | 23 => .int
  | 24 => .int
  | 25 => .array .int
  | 26 => .array .int
  | 27 => .array .int
  | 28 => .array .int
  | 29 => .array .int
  | 30 => .array .int
  | 31 => .array .int
  | 32 => .array .int
  | 33 => .array .int
  | 34 => .int
  | 35 => .array .int
  | 36 => .array .int
  | 37 => .array .int
  | 38 => .array .int
  | 39 => .array .int
  | 40 => .array .int
  | 41 => .array .int
  | 42 => .array .int
  | 43 => .array .int
  | 44 => .array .int
  | 45 => .int
  | 46 => .int
  | 47 => .array .int
  | 48 => .array .int
  | 49 => .array .int
  | 50 => .int
  | 51 => .array .int
  | 52 => .long
  | 53 => .boolean
  | 54 => .int
  | 55 => .int
  | 56 => .array .int
  | 57 => .array .int
  | 58 => .array .int
  | 59 => .array .int
  | 60 => .array .int
  | 61 => .array .int
  | _ => .long
abbrev wsX60 : List Cond := u_ws RX6 TX6 63
set_option maxRecDepth 100000 in
theorem nmX6 : ∀ a, a < 63 → ∀ b, b < 63 → a ≠ b → (TX6 a).2.1 ≠ (TX6 b).2.1 := by decide +kernel
set_option maxRecDepth 100000 in
theorem tyX6_ok : ∀ k, k < 63 → parseFieldDescriptor (TX6 k).2.2.1 = some (tyX6 k) := by decide +kernel
abbrev cX6_init : ByteArray := prog_13_method_1_code
def yX6_init : MethodName := ⟨RX6, "<init>", "()V"⟩
def dkwX6_init_15 : List UInt8 := [181, 0, 143, 177]
abbrev dktX6_init_15 : List UInt8 := dkwX6_init_15 ++ []
def dkwX6_init_14 : List UInt8 := [181, 0, 134, 42, 16, 6, 188, 10, 181, 0, 137, 42, 16, 6, 188, 10, 181, 0, 140, 42, 16, 6, 188, 10]
abbrev dktX6_init_14 : List UInt8 := dkwX6_init_14 ++ dktX6_init_15
def dkwX6_init_13 : List UInt8 := [181, 0, 125, 42, 16, 6, 188, 10, 181, 0, 128, 42, 16, 36, 188, 10, 181, 0, 131, 42, 7, 188, 10]
abbrev dktX6_init_13 : List UInt8 := dkwX6_init_13 ++ dktX6_init_14
def dkwX6_init_12 : List UInt8 := [181, 0, 116, 42, 16, 64, 188, 10, 181, 0, 119, 42, 16, 64, 188, 10, 181, 0, 122, 42, 16, 64, 188, 10]
abbrev dktX6_init_12 : List UInt8 := dkwX6_init_12 ++ dktX6_init_13
def dkwX6_init_11 : List UInt8 := [181, 0, 107, 42, 16, 36, 188, 10, 181, 0, 110, 42, 16, 36, 188, 10, 181, 0, 113, 42, 7, 188, 10]
abbrev dktX6_init_11 : List UInt8 := dkwX6_init_11 ++ dktX6_init_12
def dkwX6_init_10 : List UInt8 := [181, 0, 98, 42, 16, 36, 188, 10, 181, 0, 101, 42, 16, 36, 188, 10, 181, 0, 104, 42, 16, 36, 188, 10]
abbrev dktX6_init_10 : List UInt8 := dkwX6_init_10 ++ dktX6_init_11
def dkwX6_init_9 : List UInt8 := [181, 0, 89, 42, 16, 36, 188, 10, 181, 0, 92, 42, 16, 36, 188, 10, 181, 0, 95, 42, 16, 36, 188, 10]
abbrev dktX6_init_9 : List UInt8 := dkwX6_init_9 ++ dktX6_init_10
def dkwX6_init_8 : List UInt8 := [181, 0, 80, 42, 16, 9, 188, 10, 181, 0, 83, 42, 5, 188, 10, 181, 0, 86, 42, 16, 36, 188, 10]
abbrev dktX6_init_8 : List UInt8 := dkwX6_init_8 ++ dktX6_init_9
def dkwX6_init_7 : List UInt8 := [181, 0, 71, 42, 16, 6, 188, 10, 181, 0, 74, 42, 16, 12, 188, 10, 181, 0, 77, 42, 16, 9, 188, 10]
abbrev dktX6_init_7 : List UInt8 := dkwX6_init_7 ++ dktX6_init_8
def dkwX6_init_6 : List UInt8 := [181, 0, 62, 42, 16, 6, 188, 10, 181, 0, 65, 42, 16, 6, 188, 10, 181, 0, 68, 42, 16, 6, 188, 10]
abbrev dktX6_init_6 : List UInt8 := dkwX6_init_6 ++ dktX6_init_7
def dkwX6_init_5 : List UInt8 := [181, 0, 52, 42, 16, 84, 188, 8, 181, 0, 55, 42, 7, 188, 10, 181, 0, 59, 42, 16, 6, 188, 10]
abbrev dktX6_init_5 : List UInt8 := dkwX6_init_5 ++ dktX6_init_6
def dkwX6_init_4 : List UInt8 := [181, 0, 43, 42, 16, 6, 188, 10, 181, 0, 46, 42, 16, 6, 188, 10, 181, 0, 49, 42, 16, 6, 188, 10]
abbrev dktX6_init_4 : List UInt8 := dkwX6_init_4 ++ dktX6_init_5
def dkwX6_init_3 : List UInt8 := [181, 0, 34, 42, 16, 36, 188, 10, 181, 0, 37, 42, 16, 36, 188, 10, 181, 0, 40, 42, 7, 188, 10]
abbrev dktX6_init_3 : List UInt8 := dkwX6_init_3 ++ dktX6_init_4
def dkwX6_init_2 : List UInt8 := [181, 0, 25, 42, 16, 6, 188, 10, 181, 0, 28, 42, 16, 12, 188, 10, 181, 0, 31, 42, 16, 12, 188, 10]
abbrev dktX6_init_2 : List UInt8 := dkwX6_init_2 ++ dktX6_init_3
def dkwX6_init_1 : List UInt8 := [181, 0, 16, 42, 16, 6, 188, 10, 181, 0, 19, 42, 16, 30, 188, 10, 181, 0, 22, 42, 16, 6, 188, 10]
abbrev dktX6_init_1 : List UInt8 := dkwX6_init_1 ++ dktX6_init_2
def dkwX6_init_0 : List UInt8 := [42, 183, 0, 1, 42, 7, 188, 10, 181, 0, 7, 42, 7, 188, 10, 181, 0, 13, 42, 16, 6, 188, 10]
abbrev dktX6_init_0 : List UInt8 := dkwX6_init_0 ++ dktX6_init_1
theorem dksX6_init_0 : cX6_init.data.toList.drop 0 = dktX6_init_0 := by decide +kernel
theorem dksX6_init_1 : cX6_init.data.toList.drop 23 = dktX6_init_1 := dk_seg dksX6_init_0 23 rfl rfl
theorem dksX6_init_2 : cX6_init.data.toList.drop 47 = dktX6_init_2 := dk_seg dksX6_init_1 24 rfl rfl
theorem dksX6_init_3 : cX6_init.data.toList.drop 71 = dktX6_init_3 := dk_seg dksX6_init_2 24 rfl rfl
theorem dksX6_init_4 : cX6_init.data.toList.drop 94 = dktX6_init_4 := dk_seg dksX6_init_3 23 rfl rfl
theorem dksX6_init_5 : cX6_init.data.toList.drop 118 = dktX6_init_5 := dk_seg dksX6_init_4 24 rfl rfl
theorem dksX6_init_6 : cX6_init.data.toList.drop 141 = dktX6_init_6 := dk_seg dksX6_init_5 23 rfl rfl
theorem dksX6_init_7 : cX6_init.data.toList.drop 165 = dktX6_init_7 := dk_seg dksX6_init_6 24 rfl rfl
theorem dksX6_init_8 : cX6_init.data.toList.drop 189 = dktX6_init_8 := dk_seg dksX6_init_7 24 rfl rfl
theorem dksX6_init_9 : cX6_init.data.toList.drop 212 = dktX6_init_9 := dk_seg dksX6_init_8 23 rfl rfl
theorem dksX6_init_10 : cX6_init.data.toList.drop 236 = dktX6_init_10 := dk_seg dksX6_init_9 24 rfl rfl
theorem dksX6_init_11 : cX6_init.data.toList.drop 260 = dktX6_init_11 := dk_seg dksX6_init_10 24 rfl rfl
theorem dksX6_init_12 : cX6_init.data.toList.drop 283 = dktX6_init_12 := dk_seg dksX6_init_11 23 rfl rfl
theorem dksX6_init_13 : cX6_init.data.toList.drop 307 = dktX6_init_13 := dk_seg dksX6_init_12 24 rfl rfl
theorem dksX6_init_14 : cX6_init.data.toList.drop 330 = dktX6_init_14 := dk_seg dksX6_init_13 23 rfl rfl
theorem dksX6_init_15 : cX6_init.data.toList.drop 354 = dktX6_init_15 := dk_seg dksX6_init_14 24 rfl rfl
theorem dX6_init_0 : decode cX6_init 0 = .ok (.aload_n 0, 1) := dk_42 (dk_at dksX6_init_0 0 rfl rfl)
theorem dX6_init_1 : decode cX6_init 1 = .ok (.invokespecial 1, 3) := dk_183 0 1 (dk_at dksX6_init_0 1 rfl rfl)
theorem dX6_init_4 : decode cX6_init 4 = .ok (.aload_n 0, 1) := dk_42 (dk_at dksX6_init_0 4 rfl rfl)
theorem dX6_init_5 : decode cX6_init 5 = .ok (.iconst 4, 1) := dk_7 (dk_at dksX6_init_0 5 rfl rfl)
theorem dX6_init_6 : decode cX6_init 6 = .ok (.newarray .int, 2) := dk_188_10 (dk_at dksX6_init_0 6 rfl rfl)
theorem dX6_init_8 : decode cX6_init 8 = .ok (.putfield 7, 3) := dk_181 0 7 (dk_at dksX6_init_0 8 rfl rfl)
theorem dX6_init_11 : decode cX6_init 11 = .ok (.aload_n 0, 1) := dk_42 (dk_at dksX6_init_0 11 rfl rfl)
theorem dX6_init_12 : decode cX6_init 12 = .ok (.iconst 4, 1) := dk_7 (dk_at dksX6_init_0 12 rfl rfl)
theorem dX6_init_13 : decode cX6_init 13 = .ok (.newarray .int, 2) := dk_188_10 (dk_at dksX6_init_0 13 rfl rfl)
theorem dX6_init_15 : decode cX6_init 15 = .ok (.putfield 13, 3) := dk_181 0 13 (dk_at dksX6_init_0 15 rfl rfl)
theorem dX6_init_18 : decode cX6_init 18 = .ok (.aload_n 0, 1) := dk_42 (dk_at dksX6_init_0 18 rfl rfl)
theorem dX6_init_19 : decode cX6_init 19 = .ok (.bipush 6, 2) := dk_16 6 (dk_at dksX6_init_0 19 rfl rfl)
theorem dX6_init_21 : decode cX6_init 21 = .ok (.newarray .int, 2) := dk_188_10 (dk_at dksX6_init_0 21 rfl rfl)
theorem dX6_init_23 : decode cX6_init 23 = .ok (.putfield 16, 3) := dk_181 0 16 (dk_at dksX6_init_1 0 rfl rfl)
theorem dX6_init_26 : decode cX6_init 26 = .ok (.aload_n 0, 1) := dk_42 (dk_at dksX6_init_1 3 rfl rfl)
theorem dX6_init_27 : decode cX6_init 27 = .ok (.bipush 6, 2) := dk_16 6 (dk_at dksX6_init_1 4 rfl rfl)
theorem dX6_init_29 : decode cX6_init 29 = .ok (.newarray .int, 2) := dk_188_10 (dk_at dksX6_init_1 6 rfl rfl)
theorem dX6_init_31 : decode cX6_init 31 = .ok (.putfield 19, 3) := dk_181 0 19 (dk_at dksX6_init_1 8 rfl rfl)
theorem dX6_init_34 : decode cX6_init 34 = .ok (.aload_n 0, 1) := dk_42 (dk_at dksX6_init_1 11 rfl rfl)
theorem dX6_init_35 : decode cX6_init 35 = .ok (.bipush 30, 2) := dk_16 30 (dk_at dksX6_init_1 12 rfl rfl)
theorem dX6_init_37 : decode cX6_init 37 = .ok (.newarray .int, 2) := dk_188_10 (dk_at dksX6_init_1 14 rfl rfl)
theorem dX6_init_39 : decode cX6_init 39 = .ok (.putfield 22, 3) := dk_181 0 22 (dk_at dksX6_init_1 16 rfl rfl)
theorem dX6_init_42 : decode cX6_init 42 = .ok (.aload_n 0, 1) := dk_42 (dk_at dksX6_init_1 19 rfl rfl)
theorem dX6_init_43 : decode cX6_init 43 = .ok (.bipush 6, 2) := dk_16 6 (dk_at dksX6_init_1 20 rfl rfl)
theorem dX6_init_45 : decode cX6_init 45 = .ok (.newarray .int, 2) := dk_188_10 (dk_at dksX6_init_1 22 rfl rfl)
theorem dX6_init_47 : decode cX6_init 47 = .ok (.putfield 25, 3) := dk_181 0 25 (dk_at dksX6_init_2 0 rfl rfl)
theorem dX6_init_50 : decode cX6_init 50 = .ok (.aload_n 0, 1) := dk_42 (dk_at dksX6_init_2 3 rfl rfl)
theorem dX6_init_51 : decode cX6_init 51 = .ok (.bipush 6, 2) := dk_16 6 (dk_at dksX6_init_2 4 rfl rfl)
theorem dX6_init_53 : decode cX6_init 53 = .ok (.newarray .int, 2) := dk_188_10 (dk_at dksX6_init_2 6 rfl rfl)
theorem dX6_init_55 : decode cX6_init 55 = .ok (.putfield 28, 3) := dk_181 0 28 (dk_at dksX6_init_2 8 rfl rfl)
theorem dX6_init_58 : decode cX6_init 58 = .ok (.aload_n 0, 1) := dk_42 (dk_at dksX6_init_2 11 rfl rfl)
theorem dX6_init_59 : decode cX6_init 59 = .ok (.bipush 12, 2) := dk_16 12 (dk_at dksX6_init_2 12 rfl rfl)
theorem dX6_init_61 : decode cX6_init 61 = .ok (.newarray .int, 2) := dk_188_10 (dk_at dksX6_init_2 14 rfl rfl)
theorem dX6_init_63 : decode cX6_init 63 = .ok (.putfield 31, 3) := dk_181 0 31 (dk_at dksX6_init_2 16 rfl rfl)
theorem dX6_init_66 : decode cX6_init 66 = .ok (.aload_n 0, 1) := dk_42 (dk_at dksX6_init_2 19 rfl rfl)
theorem dX6_init_67 : decode cX6_init 67 = .ok (.bipush 12, 2) := dk_16 12 (dk_at dksX6_init_2 20 rfl rfl)
theorem dX6_init_69 : decode cX6_init 69 = .ok (.newarray .int, 2) := dk_188_10 (dk_at dksX6_init_2 22 rfl rfl)
theorem dX6_init_71 : decode cX6_init 71 = .ok (.putfield 34, 3) := dk_181 0 34 (dk_at dksX6_init_3 0 rfl rfl)
theorem dX6_init_74 : decode cX6_init 74 = .ok (.aload_n 0, 1) := dk_42 (dk_at dksX6_init_3 3 rfl rfl)
theorem dX6_init_75 : decode cX6_init 75 = .ok (.bipush 36, 2) := dk_16 36 (dk_at dksX6_init_3 4 rfl rfl)
theorem dX6_init_77 : decode cX6_init 77 = .ok (.newarray .int, 2) := dk_188_10 (dk_at dksX6_init_3 6 rfl rfl)
theorem dX6_init_79 : decode cX6_init 79 = .ok (.putfield 37, 3) := dk_181 0 37 (dk_at dksX6_init_3 8 rfl rfl)
theorem dX6_init_82 : decode cX6_init 82 = .ok (.aload_n 0, 1) := dk_42 (dk_at dksX6_init_3 11 rfl rfl)
theorem dX6_init_83 : decode cX6_init 83 = .ok (.bipush 36, 2) := dk_16 36 (dk_at dksX6_init_3 12 rfl rfl)
theorem dX6_init_85 : decode cX6_init 85 = .ok (.newarray .int, 2) := dk_188_10 (dk_at dksX6_init_3 14 rfl rfl)
theorem dX6_init_87 : decode cX6_init 87 = .ok (.putfield 40, 3) := dk_181 0 40 (dk_at dksX6_init_3 16 rfl rfl)
theorem dX6_init_90 : decode cX6_init 90 = .ok (.aload_n 0, 1) := dk_42 (dk_at dksX6_init_3 19 rfl rfl)
theorem dX6_init_91 : decode cX6_init 91 = .ok (.iconst 4, 1) := dk_7 (dk_at dksX6_init_3 20 rfl rfl)
theorem dX6_init_92 : decode cX6_init 92 = .ok (.newarray .int, 2) := dk_188_10 (dk_at dksX6_init_3 21 rfl rfl)
theorem dX6_init_94 : decode cX6_init 94 = .ok (.putfield 43, 3) := dk_181 0 43 (dk_at dksX6_init_4 0 rfl rfl)
theorem dX6_init_97 : decode cX6_init 97 = .ok (.aload_n 0, 1) := dk_42 (dk_at dksX6_init_4 3 rfl rfl)
theorem dX6_init_98 : decode cX6_init 98 = .ok (.bipush 6, 2) := dk_16 6 (dk_at dksX6_init_4 4 rfl rfl)
theorem dX6_init_100 : decode cX6_init 100 = .ok (.newarray .int, 2) := dk_188_10 (dk_at dksX6_init_4 6 rfl rfl)
theorem dX6_init_102 : decode cX6_init 102 = .ok (.putfield 46, 3) := dk_181 0 46 (dk_at dksX6_init_4 8 rfl rfl)
theorem dX6_init_105 : decode cX6_init 105 = .ok (.aload_n 0, 1) := dk_42 (dk_at dksX6_init_4 11 rfl rfl)
theorem dX6_init_106 : decode cX6_init 106 = .ok (.bipush 6, 2) := dk_16 6 (dk_at dksX6_init_4 12 rfl rfl)
theorem dX6_init_108 : decode cX6_init 108 = .ok (.newarray .int, 2) := dk_188_10 (dk_at dksX6_init_4 14 rfl rfl)
theorem dX6_init_110 : decode cX6_init 110 = .ok (.putfield 49, 3) := dk_181 0 49 (dk_at dksX6_init_4 16 rfl rfl)
theorem dX6_init_113 : decode cX6_init 113 = .ok (.aload_n 0, 1) := dk_42 (dk_at dksX6_init_4 19 rfl rfl)
theorem dX6_init_114 : decode cX6_init 114 = .ok (.bipush 6, 2) := dk_16 6 (dk_at dksX6_init_4 20 rfl rfl)
theorem dX6_init_116 : decode cX6_init 116 = .ok (.newarray .int, 2) := dk_188_10 (dk_at dksX6_init_4 22 rfl rfl)
theorem dX6_init_118 : decode cX6_init 118 = .ok (.putfield 52, 3) := dk_181 0 52 (dk_at dksX6_init_5 0 rfl rfl)
theorem dX6_init_121 : decode cX6_init 121 = .ok (.aload_n 0, 1) := dk_42 (dk_at dksX6_init_5 3 rfl rfl)
theorem dX6_init_122 : decode cX6_init 122 = .ok (.bipush 84, 2) := dk_16 84 (dk_at dksX6_init_5 4 rfl rfl)
theorem dX6_init_124 : decode cX6_init 124 = .ok (.newarray .byte, 2) := dk_188_8 (dk_at dksX6_init_5 6 rfl rfl)
theorem dX6_init_126 : decode cX6_init 126 = .ok (.putfield 55, 3) := dk_181 0 55 (dk_at dksX6_init_5 8 rfl rfl)
theorem dX6_init_129 : decode cX6_init 129 = .ok (.aload_n 0, 1) := dk_42 (dk_at dksX6_init_5 11 rfl rfl)
theorem dX6_init_130 : decode cX6_init 130 = .ok (.iconst 4, 1) := dk_7 (dk_at dksX6_init_5 12 rfl rfl)
theorem dX6_init_131 : decode cX6_init 131 = .ok (.newarray .int, 2) := dk_188_10 (dk_at dksX6_init_5 13 rfl rfl)
theorem dX6_init_133 : decode cX6_init 133 = .ok (.putfield 59, 3) := dk_181 0 59 (dk_at dksX6_init_5 15 rfl rfl)
theorem dX6_init_136 : decode cX6_init 136 = .ok (.aload_n 0, 1) := dk_42 (dk_at dksX6_init_5 18 rfl rfl)
theorem dX6_init_137 : decode cX6_init 137 = .ok (.bipush 6, 2) := dk_16 6 (dk_at dksX6_init_5 19 rfl rfl)
theorem dX6_init_139 : decode cX6_init 139 = .ok (.newarray .int, 2) := dk_188_10 (dk_at dksX6_init_5 21 rfl rfl)
theorem dX6_init_141 : decode cX6_init 141 = .ok (.putfield 62, 3) := dk_181 0 62 (dk_at dksX6_init_6 0 rfl rfl)
theorem dX6_init_144 : decode cX6_init 144 = .ok (.aload_n 0, 1) := dk_42 (dk_at dksX6_init_6 3 rfl rfl)
theorem dX6_init_145 : decode cX6_init 145 = .ok (.bipush 6, 2) := dk_16 6 (dk_at dksX6_init_6 4 rfl rfl)
theorem dX6_init_147 : decode cX6_init 147 = .ok (.newarray .int, 2) := dk_188_10 (dk_at dksX6_init_6 6 rfl rfl)
theorem dX6_init_149 : decode cX6_init 149 = .ok (.putfield 65, 3) := dk_181 0 65 (dk_at dksX6_init_6 8 rfl rfl)
theorem dX6_init_152 : decode cX6_init 152 = .ok (.aload_n 0, 1) := dk_42 (dk_at dksX6_init_6 11 rfl rfl)
theorem dX6_init_153 : decode cX6_init 153 = .ok (.bipush 6, 2) := dk_16 6 (dk_at dksX6_init_6 12 rfl rfl)
theorem dX6_init_155 : decode cX6_init 155 = .ok (.newarray .int, 2) := dk_188_10 (dk_at dksX6_init_6 14 rfl rfl)
theorem dX6_init_157 : decode cX6_init 157 = .ok (.putfield 68, 3) := dk_181 0 68 (dk_at dksX6_init_6 16 rfl rfl)
theorem dX6_init_160 : decode cX6_init 160 = .ok (.aload_n 0, 1) := dk_42 (dk_at dksX6_init_6 19 rfl rfl)
theorem dX6_init_161 : decode cX6_init 161 = .ok (.bipush 6, 2) := dk_16 6 (dk_at dksX6_init_6 20 rfl rfl)
theorem dX6_init_163 : decode cX6_init 163 = .ok (.newarray .int, 2) := dk_188_10 (dk_at dksX6_init_6 22 rfl rfl)
theorem dX6_init_165 : decode cX6_init 165 = .ok (.putfield 71, 3) := dk_181 0 71 (dk_at dksX6_init_7 0 rfl rfl)
theorem dX6_init_168 : decode cX6_init 168 = .ok (.aload_n 0, 1) := dk_42 (dk_at dksX6_init_7 3 rfl rfl)
theorem dX6_init_169 : decode cX6_init 169 = .ok (.bipush 6, 2) := dk_16 6 (dk_at dksX6_init_7 4 rfl rfl)
theorem dX6_init_171 : decode cX6_init 171 = .ok (.newarray .int, 2) := dk_188_10 (dk_at dksX6_init_7 6 rfl rfl)
theorem dX6_init_173 : decode cX6_init 173 = .ok (.putfield 74, 3) := dk_181 0 74 (dk_at dksX6_init_7 8 rfl rfl)
theorem dX6_init_176 : decode cX6_init 176 = .ok (.aload_n 0, 1) := dk_42 (dk_at dksX6_init_7 11 rfl rfl)
theorem dX6_init_177 : decode cX6_init 177 = .ok (.bipush 12, 2) := dk_16 12 (dk_at dksX6_init_7 12 rfl rfl)
theorem dX6_init_179 : decode cX6_init 179 = .ok (.newarray .int, 2) := dk_188_10 (dk_at dksX6_init_7 14 rfl rfl)
theorem dX6_init_181 : decode cX6_init 181 = .ok (.putfield 77, 3) := dk_181 0 77 (dk_at dksX6_init_7 16 rfl rfl)
theorem dX6_init_184 : decode cX6_init 184 = .ok (.aload_n 0, 1) := dk_42 (dk_at dksX6_init_7 19 rfl rfl)
theorem dX6_init_185 : decode cX6_init 185 = .ok (.bipush 9, 2) := dk_16 9 (dk_at dksX6_init_7 20 rfl rfl)
theorem dX6_init_187 : decode cX6_init 187 = .ok (.newarray .int, 2) := dk_188_10 (dk_at dksX6_init_7 22 rfl rfl)
theorem dX6_init_189 : decode cX6_init 189 = .ok (.putfield 80, 3) := dk_181 0 80 (dk_at dksX6_init_8 0 rfl rfl)
theorem dX6_init_192 : decode cX6_init 192 = .ok (.aload_n 0, 1) := dk_42 (dk_at dksX6_init_8 3 rfl rfl)
theorem dX6_init_193 : decode cX6_init 193 = .ok (.bipush 9, 2) := dk_16 9 (dk_at dksX6_init_8 4 rfl rfl)
theorem dX6_init_195 : decode cX6_init 195 = .ok (.newarray .int, 2) := dk_188_10 (dk_at dksX6_init_8 6 rfl rfl)
theorem dX6_init_197 : decode cX6_init 197 = .ok (.putfield 83, 3) := dk_181 0 83 (dk_at dksX6_init_8 8 rfl rfl)
theorem dX6_init_200 : decode cX6_init 200 = .ok (.aload_n 0, 1) := dk_42 (dk_at dksX6_init_8 11 rfl rfl)
theorem dX6_init_201 : decode cX6_init 201 = .ok (.iconst 2, 1) := dk_5 (dk_at dksX6_init_8 12 rfl rfl)
theorem dX6_init_202 : decode cX6_init 202 = .ok (.newarray .int, 2) := dk_188_10 (dk_at dksX6_init_8 13 rfl rfl)
theorem dX6_init_204 : decode cX6_init 204 = .ok (.putfield 86, 3) := dk_181 0 86 (dk_at dksX6_init_8 15 rfl rfl)
theorem dX6_init_207 : decode cX6_init 207 = .ok (.aload_n 0, 1) := dk_42 (dk_at dksX6_init_8 18 rfl rfl)
theorem dX6_init_208 : decode cX6_init 208 = .ok (.bipush 36, 2) := dk_16 36 (dk_at dksX6_init_8 19 rfl rfl)
theorem dX6_init_210 : decode cX6_init 210 = .ok (.newarray .int, 2) := dk_188_10 (dk_at dksX6_init_8 21 rfl rfl)
theorem dX6_init_212 : decode cX6_init 212 = .ok (.putfield 89, 3) := dk_181 0 89 (dk_at dksX6_init_9 0 rfl rfl)
theorem dX6_init_215 : decode cX6_init 215 = .ok (.aload_n 0, 1) := dk_42 (dk_at dksX6_init_9 3 rfl rfl)
theorem dX6_init_216 : decode cX6_init 216 = .ok (.bipush 36, 2) := dk_16 36 (dk_at dksX6_init_9 4 rfl rfl)
theorem dX6_init_218 : decode cX6_init 218 = .ok (.newarray .int, 2) := dk_188_10 (dk_at dksX6_init_9 6 rfl rfl)
theorem dX6_init_220 : decode cX6_init 220 = .ok (.putfield 92, 3) := dk_181 0 92 (dk_at dksX6_init_9 8 rfl rfl)
theorem dX6_init_223 : decode cX6_init 223 = .ok (.aload_n 0, 1) := dk_42 (dk_at dksX6_init_9 11 rfl rfl)
theorem dX6_init_224 : decode cX6_init 224 = .ok (.bipush 36, 2) := dk_16 36 (dk_at dksX6_init_9 12 rfl rfl)
theorem dX6_init_226 : decode cX6_init 226 = .ok (.newarray .int, 2) := dk_188_10 (dk_at dksX6_init_9 14 rfl rfl)
theorem dX6_init_228 : decode cX6_init 228 = .ok (.putfield 95, 3) := dk_181 0 95 (dk_at dksX6_init_9 16 rfl rfl)
theorem dX6_init_231 : decode cX6_init 231 = .ok (.aload_n 0, 1) := dk_42 (dk_at dksX6_init_9 19 rfl rfl)
theorem dX6_init_232 : decode cX6_init 232 = .ok (.bipush 36, 2) := dk_16 36 (dk_at dksX6_init_9 20 rfl rfl)
theorem dX6_init_234 : decode cX6_init 234 = .ok (.newarray .int, 2) := dk_188_10 (dk_at dksX6_init_9 22 rfl rfl)
theorem dX6_init_236 : decode cX6_init 236 = .ok (.putfield 98, 3) := dk_181 0 98 (dk_at dksX6_init_10 0 rfl rfl)
theorem dX6_init_239 : decode cX6_init 239 = .ok (.aload_n 0, 1) := dk_42 (dk_at dksX6_init_10 3 rfl rfl)
theorem dX6_init_240 : decode cX6_init 240 = .ok (.bipush 36, 2) := dk_16 36 (dk_at dksX6_init_10 4 rfl rfl)
theorem dX6_init_242 : decode cX6_init 242 = .ok (.newarray .int, 2) := dk_188_10 (dk_at dksX6_init_10 6 rfl rfl)
theorem dX6_init_244 : decode cX6_init 244 = .ok (.putfield 101, 3) := dk_181 0 101 (dk_at dksX6_init_10 8 rfl rfl)
theorem dX6_init_247 : decode cX6_init 247 = .ok (.aload_n 0, 1) := dk_42 (dk_at dksX6_init_10 11 rfl rfl)
theorem dX6_init_248 : decode cX6_init 248 = .ok (.bipush 36, 2) := dk_16 36 (dk_at dksX6_init_10 12 rfl rfl)
theorem dX6_init_250 : decode cX6_init 250 = .ok (.newarray .int, 2) := dk_188_10 (dk_at dksX6_init_10 14 rfl rfl)
theorem dX6_init_252 : decode cX6_init 252 = .ok (.putfield 104, 3) := dk_181 0 104 (dk_at dksX6_init_10 16 rfl rfl)
theorem dX6_init_255 : decode cX6_init 255 = .ok (.aload_n 0, 1) := dk_42 (dk_at dksX6_init_10 19 rfl rfl)
theorem dX6_init_256 : decode cX6_init 256 = .ok (.bipush 36, 2) := dk_16 36 (dk_at dksX6_init_10 20 rfl rfl)
theorem dX6_init_258 : decode cX6_init 258 = .ok (.newarray .int, 2) := dk_188_10 (dk_at dksX6_init_10 22 rfl rfl)
theorem dX6_init_260 : decode cX6_init 260 = .ok (.putfield 107, 3) := dk_181 0 107 (dk_at dksX6_init_11 0 rfl rfl)
theorem dX6_init_263 : decode cX6_init 263 = .ok (.aload_n 0, 1) := dk_42 (dk_at dksX6_init_11 3 rfl rfl)
theorem dX6_init_264 : decode cX6_init 264 = .ok (.bipush 36, 2) := dk_16 36 (dk_at dksX6_init_11 4 rfl rfl)
theorem dX6_init_266 : decode cX6_init 266 = .ok (.newarray .int, 2) := dk_188_10 (dk_at dksX6_init_11 6 rfl rfl)
theorem dX6_init_268 : decode cX6_init 268 = .ok (.putfield 110, 3) := dk_181 0 110 (dk_at dksX6_init_11 8 rfl rfl)
theorem dX6_init_271 : decode cX6_init 271 = .ok (.aload_n 0, 1) := dk_42 (dk_at dksX6_init_11 11 rfl rfl)
theorem dX6_init_272 : decode cX6_init 272 = .ok (.bipush 36, 2) := dk_16 36 (dk_at dksX6_init_11 12 rfl rfl)
theorem dX6_init_274 : decode cX6_init 274 = .ok (.newarray .int, 2) := dk_188_10 (dk_at dksX6_init_11 14 rfl rfl)
theorem dX6_init_276 : decode cX6_init 276 = .ok (.putfield 113, 3) := dk_181 0 113 (dk_at dksX6_init_11 16 rfl rfl)
theorem dX6_init_279 : decode cX6_init 279 = .ok (.aload_n 0, 1) := dk_42 (dk_at dksX6_init_11 19 rfl rfl)
theorem dX6_init_280 : decode cX6_init 280 = .ok (.iconst 4, 1) := dk_7 (dk_at dksX6_init_11 20 rfl rfl)
theorem dX6_init_281 : decode cX6_init 281 = .ok (.newarray .int, 2) := dk_188_10 (dk_at dksX6_init_11 21 rfl rfl)
theorem dX6_init_283 : decode cX6_init 283 = .ok (.putfield 116, 3) := dk_181 0 116 (dk_at dksX6_init_12 0 rfl rfl)
theorem dX6_init_286 : decode cX6_init 286 = .ok (.aload_n 0, 1) := dk_42 (dk_at dksX6_init_12 3 rfl rfl)
theorem dX6_init_287 : decode cX6_init 287 = .ok (.bipush 64, 2) := dk_16 64 (dk_at dksX6_init_12 4 rfl rfl)
theorem dX6_init_289 : decode cX6_init 289 = .ok (.newarray .int, 2) := dk_188_10 (dk_at dksX6_init_12 6 rfl rfl)
theorem dX6_init_291 : decode cX6_init 291 = .ok (.putfield 119, 3) := dk_181 0 119 (dk_at dksX6_init_12 8 rfl rfl)
theorem dX6_init_294 : decode cX6_init 294 = .ok (.aload_n 0, 1) := dk_42 (dk_at dksX6_init_12 11 rfl rfl)
theorem dX6_init_295 : decode cX6_init 295 = .ok (.bipush 64, 2) := dk_16 64 (dk_at dksX6_init_12 12 rfl rfl)
theorem dX6_init_297 : decode cX6_init 297 = .ok (.newarray .int, 2) := dk_188_10 (dk_at dksX6_init_12 14 rfl rfl)
theorem dX6_init_299 : decode cX6_init 299 = .ok (.putfield 122, 3) := dk_181 0 122 (dk_at dksX6_init_12 16 rfl rfl)
theorem dX6_init_302 : decode cX6_init 302 = .ok (.aload_n 0, 1) := dk_42 (dk_at dksX6_init_12 19 rfl rfl)
theorem dX6_init_303 : decode cX6_init 303 = .ok (.bipush 64, 2) := dk_16 64 (dk_at dksX6_init_12 20 rfl rfl)
theorem dX6_init_305 : decode cX6_init 305 = .ok (.newarray .int, 2) := dk_188_10 (dk_at dksX6_init_12 22 rfl rfl)
theorem dX6_init_307 : decode cX6_init 307 = .ok (.putfield 125, 3) := dk_181 0 125 (dk_at dksX6_init_13 0 rfl rfl)
theorem dX6_init_310 : decode cX6_init 310 = .ok (.aload_n 0, 1) := dk_42 (dk_at dksX6_init_13 3 rfl rfl)
theorem dX6_init_311 : decode cX6_init 311 = .ok (.bipush 6, 2) := dk_16 6 (dk_at dksX6_init_13 4 rfl rfl)
theorem dX6_init_313 : decode cX6_init 313 = .ok (.newarray .int, 2) := dk_188_10 (dk_at dksX6_init_13 6 rfl rfl)
theorem dX6_init_315 : decode cX6_init 315 = .ok (.putfield 128, 3) := dk_181 0 128 (dk_at dksX6_init_13 8 rfl rfl)
theorem dX6_init_318 : decode cX6_init 318 = .ok (.aload_n 0, 1) := dk_42 (dk_at dksX6_init_13 11 rfl rfl)
theorem dX6_init_319 : decode cX6_init 319 = .ok (.bipush 36, 2) := dk_16 36 (dk_at dksX6_init_13 12 rfl rfl)
theorem dX6_init_321 : decode cX6_init 321 = .ok (.newarray .int, 2) := dk_188_10 (dk_at dksX6_init_13 14 rfl rfl)
theorem dX6_init_323 : decode cX6_init 323 = .ok (.putfield 131, 3) := dk_181 0 131 (dk_at dksX6_init_13 16 rfl rfl)
theorem dX6_init_326 : decode cX6_init 326 = .ok (.aload_n 0, 1) := dk_42 (dk_at dksX6_init_13 19 rfl rfl)
theorem dX6_init_327 : decode cX6_init 327 = .ok (.iconst 4, 1) := dk_7 (dk_at dksX6_init_13 20 rfl rfl)
theorem dX6_init_328 : decode cX6_init 328 = .ok (.newarray .int, 2) := dk_188_10 (dk_at dksX6_init_13 21 rfl rfl)
theorem dX6_init_330 : decode cX6_init 330 = .ok (.putfield 134, 3) := dk_181 0 134 (dk_at dksX6_init_14 0 rfl rfl)
theorem dX6_init_333 : decode cX6_init 333 = .ok (.aload_n 0, 1) := dk_42 (dk_at dksX6_init_14 3 rfl rfl)
theorem dX6_init_334 : decode cX6_init 334 = .ok (.bipush 6, 2) := dk_16 6 (dk_at dksX6_init_14 4 rfl rfl)
theorem dX6_init_336 : decode cX6_init 336 = .ok (.newarray .int, 2) := dk_188_10 (dk_at dksX6_init_14 6 rfl rfl)
theorem dX6_init_338 : decode cX6_init 338 = .ok (.putfield 137, 3) := dk_181 0 137 (dk_at dksX6_init_14 8 rfl rfl)
theorem dX6_init_341 : decode cX6_init 341 = .ok (.aload_n 0, 1) := dk_42 (dk_at dksX6_init_14 11 rfl rfl)
theorem dX6_init_342 : decode cX6_init 342 = .ok (.bipush 6, 2) := dk_16 6 (dk_at dksX6_init_14 12 rfl rfl)
theorem dX6_init_344 : decode cX6_init 344 = .ok (.newarray .int, 2) := dk_188_10 (dk_at dksX6_init_14 14 rfl rfl)
theorem dX6_init_346 : decode cX6_init 346 = .ok (.putfield 140, 3) := dk_181 0 140 (dk_at dksX6_init_14 16 rfl rfl)
theorem dX6_init_349 : decode cX6_init 349 = .ok (.aload_n 0, 1) := dk_42 (dk_at dksX6_init_14 19 rfl rfl)
theorem dX6_init_350 : decode cX6_init 350 = .ok (.bipush 6, 2) := dk_16 6 (dk_at dksX6_init_14 20 rfl rfl)
theorem dX6_init_352 : decode cX6_init 352 = .ok (.newarray .int, 2) := dk_188_10 (dk_at dksX6_init_14 22 rfl rfl)
theorem dX6_init_354 : decode cX6_init 354 = .ok (.putfield 143, 3) := dk_181 0 143 (dk_at dksX6_init_15 0 rfl rfl)
theorem dX6_init_357 : decode cX6_init 357 = .ok (.return_, 1) := dk_177 (dk_at dksX6_init_15 3 rfl rfl)
abbrev cX6_letter : ByteArray := prog_13_method_8_code
def yX6_letter : MethodName := ⟨RX6, "letter", "(I)I"⟩
def dkwX6_letter_2 : List UInt8 := [42, 180, 0, 150, 172]
abbrev dktX6_letter_2 : List UInt8 := dkwX6_letter_2 ++ []
def dkwX6_letter_1 : List UInt8 := [16, 152, 172, 42, 180, 0, 55, 42, 180, 0, 150, 27, 145, 84, 42, 89, 180, 0, 150, 4, 96, 181, 0, 150]
abbrev dktX6_letter_1 : List UInt8 := dkwX6_letter_1 ++ dktX6_letter_2
def dkwX6_letter_0 : List UInt8 := [27, 16, 32, 16, 126, 184, 0, 146, 154, 0, 6, 16, 154, 172, 42, 180, 0, 150, 16, 84, 160, 0, 6]
abbrev dktX6_letter_0 : List UInt8 := dkwX6_letter_0 ++ dktX6_letter_1
theorem dksX6_letter_0 : cX6_letter.data.toList.drop 0 = dktX6_letter_0 := by decide +kernel
theorem dksX6_letter_1 : cX6_letter.data.toList.drop 23 = dktX6_letter_1 := dk_seg dksX6_letter_0 23 rfl rfl
theorem dksX6_letter_2 : cX6_letter.data.toList.drop 47 = dktX6_letter_2 := dk_seg dksX6_letter_1 24 rfl rfl
theorem dX6_letter_0 : decode cX6_letter 0 = .ok (.iload_n 1, 1) := dk_27 (dk_at dksX6_letter_0 0 rfl rfl)
theorem dX6_letter_1 : decode cX6_letter 1 = .ok (.bipush 32, 2) := dk_16 32 (dk_at dksX6_letter_0 1 rfl rfl)
theorem dX6_letter_3 : decode cX6_letter 3 = .ok (.bipush 126, 2) := dk_16 126 (dk_at dksX6_letter_0 3 rfl rfl)
theorem dX6_letter_5 : decode cX6_letter 5 = .ok (.invokestatic 146, 3) := dk_184 0 146 (dk_at dksX6_letter_0 5 rfl rfl)
theorem dX6_letter_8 : decode cX6_letter 8 = .ok (.ifCond .ne 6, 3) := dk_154 0 6 (dk_at dksX6_letter_0 8 rfl rfl)
theorem dX6_letter_11 : decode cX6_letter 11 = .ok (.bipush (-102), 2) := dk_16 154 (dk_at dksX6_letter_0 11 rfl rfl)
theorem dX6_letter_13 : decode cX6_letter 13 = .ok (.ireturn, 1) := dk_172 (dk_at dksX6_letter_0 13 rfl rfl)
theorem dX6_letter_14 : decode cX6_letter 14 = .ok (.aload_n 0, 1) := dk_42 (dk_at dksX6_letter_0 14 rfl rfl)
theorem dX6_letter_15 : decode cX6_letter 15 = .ok (.getfield 150, 3) := dk_180 0 150 (dk_at dksX6_letter_0 15 rfl rfl)
theorem dX6_letter_18 : decode cX6_letter 18 = .ok (.bipush 84, 2) := dk_16 84 (dk_at dksX6_letter_0 18 rfl rfl)
theorem dX6_letter_20 : decode cX6_letter 20 = .ok (.if_icmp .ne 6, 3) := dk_160 0 6 (dk_at dksX6_letter_0 20 rfl rfl)
theorem dX6_letter_23 : decode cX6_letter 23 = .ok (.bipush (-104), 2) := dk_16 152 (dk_at dksX6_letter_1 0 rfl rfl)
theorem dX6_letter_25 : decode cX6_letter 25 = .ok (.ireturn, 1) := dk_172 (dk_at dksX6_letter_1 2 rfl rfl)
theorem dX6_letter_26 : decode cX6_letter 26 = .ok (.aload_n 0, 1) := dk_42 (dk_at dksX6_letter_1 3 rfl rfl)
theorem dX6_letter_27 : decode cX6_letter 27 = .ok (.getfield 55, 3) := dk_180 0 55 (dk_at dksX6_letter_1 4 rfl rfl)
theorem dX6_letter_30 : decode cX6_letter 30 = .ok (.aload_n 0, 1) := dk_42 (dk_at dksX6_letter_1 7 rfl rfl)
theorem dX6_letter_31 : decode cX6_letter 31 = .ok (.getfield 150, 3) := dk_180 0 150 (dk_at dksX6_letter_1 8 rfl rfl)
theorem dX6_letter_34 : decode cX6_letter 34 = .ok (.iload_n 1, 1) := dk_27 (dk_at dksX6_letter_1 11 rfl rfl)
theorem dX6_letter_35 : decode cX6_letter 35 = .ok (.i2b, 1) := dk_145 (dk_at dksX6_letter_1 12 rfl rfl)
theorem dX6_letter_36 : decode cX6_letter 36 = .ok (.bastore, 1) := dk_84 (dk_at dksX6_letter_1 13 rfl rfl)
theorem dX6_letter_37 : decode cX6_letter 37 = .ok (.aload_n 0, 1) := dk_42 (dk_at dksX6_letter_1 14 rfl rfl)
theorem dX6_letter_38 : decode cX6_letter 38 = .ok (.dup, 1) := dk_89 (dk_at dksX6_letter_1 15 rfl rfl)
theorem dX6_letter_39 : decode cX6_letter 39 = .ok (.getfield 150, 3) := dk_180 0 150 (dk_at dksX6_letter_1 16 rfl rfl)
theorem dX6_letter_42 : decode cX6_letter 42 = .ok (.iconst 1, 1) := dk_4 (dk_at dksX6_letter_1 19 rfl rfl)
theorem dX6_letter_43 : decode cX6_letter 43 = .ok (.iadd, 1) := dk_96 (dk_at dksX6_letter_1 20 rfl rfl)
theorem dX6_letter_44 : decode cX6_letter 44 = .ok (.putfield 150, 3) := dk_181 0 150 (dk_at dksX6_letter_1 21 rfl rfl)
theorem dX6_letter_47 : decode cX6_letter 47 = .ok (.aload_n 0, 1) := dk_42 (dk_at dksX6_letter_2 0 rfl rfl)
theorem dX6_letter_48 : decode cX6_letter 48 = .ok (.getfield 150, 3) := dk_180 0 150 (dk_at dksX6_letter_2 1 rfl rfl)
theorem dX6_letter_51 : decode cX6_letter 51 = .ok (.ireturn, 1) := dk_172 (dk_at dksX6_letter_2 4 rfl rfl)
abbrev cX6_within : ByteArray := prog_13_method_3_code
def yX6_within : MethodName := ⟨RX6, "within", "(III)Z"⟩
def dkwX6_within_0 : List UInt8 := [26, 27, 161, 0, 12, 26, 28, 163, 0, 7, 4, 167, 0, 4, 3, 172]
abbrev dktX6_within_0 : List UInt8 := dkwX6_within_0 ++ []
theorem dksX6_within_0 : cX6_within.data.toList.drop 0 = dktX6_within_0 := by decide +kernel
theorem dX6_within_0 : decode cX6_within 0 = .ok (.iload_n 0, 1) := dk_26 (dk_at dksX6_within_0 0 rfl rfl)
theorem dX6_within_1 : decode cX6_within 1 = .ok (.iload_n 1, 1) := dk_27 (dk_at dksX6_within_0 1 rfl rfl)
theorem dX6_within_2 : decode cX6_within 2 = .ok (.if_icmp .lt 12, 3) := dk_161 0 12 (dk_at dksX6_within_0 2 rfl rfl)
theorem dX6_within_5 : decode cX6_within 5 = .ok (.iload_n 0, 1) := dk_26 (dk_at dksX6_within_0 5 rfl rfl)
theorem dX6_within_6 : decode cX6_within 6 = .ok (.iload_n 2, 1) := dk_28 (dk_at dksX6_within_0 6 rfl rfl)
theorem dX6_within_7 : decode cX6_within 7 = .ok (.if_icmp .gt 7, 3) := dk_163 0 7 (dk_at dksX6_within_0 7 rfl rfl)
theorem dX6_within_10 : decode cX6_within 10 = .ok (.iconst 1, 1) := dk_4 (dk_at dksX6_within_0 10 rfl rfl)
theorem dX6_within_11 : decode cX6_within 11 = .ok (.goto 4, 3) := dk_167 0 4 (dk_at dksX6_within_0 11 rfl rfl)
theorem dX6_within_14 : decode cX6_within 14 = .ok (.iconst 0, 1) := dk_3 (dk_at dksX6_within_0 14 rfl rfl)
theorem dX6_within_15 : decode cX6_within 15 = .ok (.ireturn, 1) := dk_172 (dk_at dksX6_within_0 15 rfl rfl)
abbrev cX6_blank : ByteArray := prog_13_method_9_code
def yX6_blank : MethodName := ⟨RX6, "blank", "()I"⟩
def dkwX6_blank_0 : List UInt8 := [42, 180, 0, 150, 60, 42, 3, 181, 0, 150, 27, 172]
abbrev dktX6_blank_0 : List UInt8 := dkwX6_blank_0 ++ []
theorem dksX6_blank_0 : cX6_blank.data.toList.drop 0 = dktX6_blank_0 := by decide +kernel
theorem dX6_blank_0 : decode cX6_blank 0 = .ok (.aload_n 0, 1) := dk_42 (dk_at dksX6_blank_0 0 rfl rfl)
theorem dX6_blank_1 : decode cX6_blank 1 = .ok (.getfield 150, 3) := dk_180 0 150 (dk_at dksX6_blank_0 1 rfl rfl)
theorem dX6_blank_4 : decode cX6_blank 4 = .ok (.istore_n 1, 1) := dk_60 (dk_at dksX6_blank_0 4 rfl rfl)
theorem dX6_blank_5 : decode cX6_blank 5 = .ok (.aload_n 0, 1) := dk_42 (dk_at dksX6_blank_0 5 rfl rfl)
theorem dX6_blank_6 : decode cX6_blank 6 = .ok (.iconst 0, 1) := dk_3 (dk_at dksX6_blank_0 6 rfl rfl)
theorem dX6_blank_7 : decode cX6_blank 7 = .ok (.putfield 150, 3) := dk_181 0 150 (dk_at dksX6_blank_0 7 rfl rfl)
theorem dX6_blank_10 : decode cX6_blank 10 = .ok (.iload_n 1, 1) := dk_27 (dk_at dksX6_blank_0 10 rfl rfl)
theorem dX6_blank_11 : decode cX6_blank 11 = .ok (.ireturn, 1) := dk_172 (dk_at dksX6_blank_0 11 rfl rfl)
abbrev cX6_fault : ByteArray := prog_13_method_21_code
def yX6_fault : MethodName := ⟨RX6, "fault", "()I"⟩
theorem dX6_fault_0 : decode cX6_fault 0 = .ok (.aload_n 0, 1) := by decide +kernel
theorem dX6_fault_1 : decode cX6_fault 1 = .ok (.invokevirtual 208, 3) := by decide +kernel
theorem dX6_fault_4 : decode cX6_fault 4 = .ok (.ireturn, 1) := by decide +kernel
abbrev cX6_read : ByteArray := prog_13_method_20_code
def yX6_read : MethodName := ⟨RX6, "read", "()I"⟩
def dkwX6_read_4 : List UInt8 := [154, 0, 15, 27, 42, 180, 0, 150, 160, 0, 7, 4, 167, 0, 4, 3, 181, 0, 198, 27, 172]
abbrev dktX6_read_4 : List UInt8 := dkwX6_read_4 ++ []
def dkwX6_read_3 : List UInt8 := [182, 0, 154, 16, 44, 160, 0, 14, 42, 27, 4, 96, 182, 0, 205, 60, 167, 255, 222, 42, 42, 180, 0, 158]
abbrev dktX6_read_3 : List UInt8 := dkwX6_read_3 ++ dktX6_read_4
def dkwX6_read_2 : List UInt8 := [182, 0, 205, 60, 42, 180, 0, 158, 154, 0, 33, 42, 180, 0, 185, 16, 6, 162, 0, 24, 42, 27]
abbrev dktX6_read_2 : List UInt8 := dkwX6_read_2 ++ dktX6_read_3
def dkwX6_read_1 : List UInt8 := [60, 42, 180, 0, 158, 154, 0, 13, 42, 27, 182, 0, 154, 16, 59, 159, 0, 5, 27, 172, 42, 27, 4, 96]
abbrev dktX6_read_1 : List UInt8 := dkwX6_read_1 ++ dktX6_read_2
def dkwX6_read_0 : List UInt8 := [42, 3, 181, 0, 198, 42, 3, 181, 0, 158, 42, 3, 181, 0, 162, 42, 3, 181, 0, 185, 42, 182, 0, 201]
abbrev dktX6_read_0 : List UInt8 := dkwX6_read_0 ++ dktX6_read_1
theorem dksX6_read_0 : cX6_read.data.toList.drop 0 = dktX6_read_0 := by decide +kernel
theorem dksX6_read_1 : cX6_read.data.toList.drop 24 = dktX6_read_1 := dk_seg dksX6_read_0 24 rfl rfl
theorem dksX6_read_2 : cX6_read.data.toList.drop 48 = dktX6_read_2 := dk_seg dksX6_read_1 24 rfl rfl
theorem dksX6_read_3 : cX6_read.data.toList.drop 70 = dktX6_read_3 := dk_seg dksX6_read_2 22 rfl rfl
theorem dksX6_read_4 : cX6_read.data.toList.drop 94 = dktX6_read_4 := dk_seg dksX6_read_3 24 rfl rfl
theorem dX6_read_0 : decode cX6_read 0 = .ok (.aload_n 0, 1) := dk_42 (dk_at dksX6_read_0 0 rfl rfl)
theorem dX6_read_1 : decode cX6_read 1 = .ok (.iconst 0, 1) := dk_3 (dk_at dksX6_read_0 1 rfl rfl)
theorem dX6_read_2 : decode cX6_read 2 = .ok (.putfield 198, 3) := dk_181 0 198 (dk_at dksX6_read_0 2 rfl rfl)
theorem dX6_read_5 : decode cX6_read 5 = .ok (.aload_n 0, 1) := dk_42 (dk_at dksX6_read_0 5 rfl rfl)
theorem dX6_read_6 : decode cX6_read 6 = .ok (.iconst 0, 1) := dk_3 (dk_at dksX6_read_0 6 rfl rfl)
theorem dX6_read_7 : decode cX6_read 7 = .ok (.putfield 158, 3) := dk_181 0 158 (dk_at dksX6_read_0 7 rfl rfl)
theorem dX6_read_10 : decode cX6_read 10 = .ok (.aload_n 0, 1) := dk_42 (dk_at dksX6_read_0 10 rfl rfl)
theorem dX6_read_11 : decode cX6_read 11 = .ok (.iconst 0, 1) := dk_3 (dk_at dksX6_read_0 11 rfl rfl)
theorem dX6_read_12 : decode cX6_read 12 = .ok (.putfield 162, 3) := dk_181 0 162 (dk_at dksX6_read_0 12 rfl rfl)
theorem dX6_read_15 : decode cX6_read 15 = .ok (.aload_n 0, 1) := dk_42 (dk_at dksX6_read_0 15 rfl rfl)
theorem dX6_read_16 : decode cX6_read 16 = .ok (.iconst 0, 1) := dk_3 (dk_at dksX6_read_0 16 rfl rfl)
theorem dX6_read_17 : decode cX6_read 17 = .ok (.putfield 185, 3) := dk_181 0 185 (dk_at dksX6_read_0 17 rfl rfl)
theorem dX6_read_20 : decode cX6_read 20 = .ok (.aload_n 0, 1) := dk_42 (dk_at dksX6_read_0 20 rfl rfl)
theorem dX6_read_21 : decode cX6_read 21 = .ok (.invokevirtual 201, 3) := dk_182 0 201 (dk_at dksX6_read_0 21 rfl rfl)
theorem dX6_read_24 : decode cX6_read 24 = .ok (.istore_n 1, 1) := dk_60 (dk_at dksX6_read_1 0 rfl rfl)
theorem dX6_read_25 : decode cX6_read 25 = .ok (.aload_n 0, 1) := dk_42 (dk_at dksX6_read_1 1 rfl rfl)
theorem dX6_read_26 : decode cX6_read 26 = .ok (.getfield 158, 3) := dk_180 0 158 (dk_at dksX6_read_1 2 rfl rfl)
theorem dX6_read_29 : decode cX6_read 29 = .ok (.ifCond .ne 13, 3) := dk_154 0 13 (dk_at dksX6_read_1 5 rfl rfl)
theorem dX6_read_32 : decode cX6_read 32 = .ok (.aload_n 0, 1) := dk_42 (dk_at dksX6_read_1 8 rfl rfl)
theorem dX6_read_33 : decode cX6_read 33 = .ok (.iload_n 1, 1) := dk_27 (dk_at dksX6_read_1 9 rfl rfl)
theorem dX6_read_34 : decode cX6_read 34 = .ok (.invokevirtual 154, 3) := dk_182 0 154 (dk_at dksX6_read_1 10 rfl rfl)
theorem dX6_read_37 : decode cX6_read 37 = .ok (.bipush 59, 2) := dk_16 59 (dk_at dksX6_read_1 13 rfl rfl)
theorem dX6_read_39 : decode cX6_read 39 = .ok (.if_icmp .eq 5, 3) := dk_159 0 5 (dk_at dksX6_read_1 15 rfl rfl)
theorem dX6_read_42 : decode cX6_read 42 = .ok (.iload_n 1, 1) := dk_27 (dk_at dksX6_read_1 18 rfl rfl)
theorem dX6_read_43 : decode cX6_read 43 = .ok (.ireturn, 1) := dk_172 (dk_at dksX6_read_1 19 rfl rfl)
theorem dX6_read_44 : decode cX6_read 44 = .ok (.aload_n 0, 1) := dk_42 (dk_at dksX6_read_1 20 rfl rfl)
theorem dX6_read_45 : decode cX6_read 45 = .ok (.iload_n 1, 1) := dk_27 (dk_at dksX6_read_1 21 rfl rfl)
theorem dX6_read_46 : decode cX6_read 46 = .ok (.iconst 1, 1) := dk_4 (dk_at dksX6_read_1 22 rfl rfl)
theorem dX6_read_47 : decode cX6_read 47 = .ok (.iadd, 1) := dk_96 (dk_at dksX6_read_1 23 rfl rfl)
theorem dX6_read_48 : decode cX6_read 48 = .ok (.invokevirtual 205, 3) := dk_182 0 205 (dk_at dksX6_read_2 0 rfl rfl)
theorem dX6_read_51 : decode cX6_read 51 = .ok (.istore_n 1, 1) := dk_60 (dk_at dksX6_read_2 3 rfl rfl)
theorem dX6_read_52 : decode cX6_read 52 = .ok (.aload_n 0, 1) := dk_42 (dk_at dksX6_read_2 4 rfl rfl)
theorem dX6_read_53 : decode cX6_read 53 = .ok (.getfield 158, 3) := dk_180 0 158 (dk_at dksX6_read_2 5 rfl rfl)
theorem dX6_read_56 : decode cX6_read 56 = .ok (.ifCond .ne 33, 3) := dk_154 0 33 (dk_at dksX6_read_2 8 rfl rfl)
theorem dX6_read_59 : decode cX6_read 59 = .ok (.aload_n 0, 1) := dk_42 (dk_at dksX6_read_2 11 rfl rfl)
theorem dX6_read_60 : decode cX6_read 60 = .ok (.getfield 185, 3) := dk_180 0 185 (dk_at dksX6_read_2 12 rfl rfl)
theorem dX6_read_63 : decode cX6_read 63 = .ok (.bipush 6, 2) := dk_16 6 (dk_at dksX6_read_2 15 rfl rfl)
theorem dX6_read_65 : decode cX6_read 65 = .ok (.if_icmp .ge 24, 3) := dk_162 0 24 (dk_at dksX6_read_2 17 rfl rfl)
theorem dX6_read_68 : decode cX6_read 68 = .ok (.aload_n 0, 1) := dk_42 (dk_at dksX6_read_2 20 rfl rfl)
theorem dX6_read_69 : decode cX6_read 69 = .ok (.iload_n 1, 1) := dk_27 (dk_at dksX6_read_2 21 rfl rfl)
theorem dX6_read_70 : decode cX6_read 70 = .ok (.invokevirtual 154, 3) := dk_182 0 154 (dk_at dksX6_read_3 0 rfl rfl)
theorem dX6_read_73 : decode cX6_read 73 = .ok (.bipush 44, 2) := dk_16 44 (dk_at dksX6_read_3 3 rfl rfl)
theorem dX6_read_75 : decode cX6_read 75 = .ok (.if_icmp .ne 14, 3) := dk_160 0 14 (dk_at dksX6_read_3 5 rfl rfl)
theorem dX6_read_78 : decode cX6_read 78 = .ok (.aload_n 0, 1) := dk_42 (dk_at dksX6_read_3 8 rfl rfl)
theorem dX6_read_79 : decode cX6_read 79 = .ok (.iload_n 1, 1) := dk_27 (dk_at dksX6_read_3 9 rfl rfl)
theorem dX6_read_80 : decode cX6_read 80 = .ok (.iconst 1, 1) := dk_4 (dk_at dksX6_read_3 10 rfl rfl)
theorem dX6_read_81 : decode cX6_read 81 = .ok (.iadd, 1) := dk_96 (dk_at dksX6_read_3 11 rfl rfl)
theorem dX6_read_82 : decode cX6_read 82 = .ok (.invokevirtual 205, 3) := dk_182 0 205 (dk_at dksX6_read_3 12 rfl rfl)
theorem dX6_read_85 : decode cX6_read 85 = .ok (.istore_n 1, 1) := dk_60 (dk_at dksX6_read_3 15 rfl rfl)
theorem dX6_read_86 : decode cX6_read 86 = .ok (.goto (-34), 3) := dk_167 255 222 (dk_at dksX6_read_3 16 rfl rfl)
theorem dX6_read_89 : decode cX6_read 89 = .ok (.aload_n 0, 1) := dk_42 (dk_at dksX6_read_3 19 rfl rfl)
theorem dX6_read_90 : decode cX6_read 90 = .ok (.aload_n 0, 1) := dk_42 (dk_at dksX6_read_3 20 rfl rfl)
theorem dX6_read_91 : decode cX6_read 91 = .ok (.getfield 158, 3) := dk_180 0 158 (dk_at dksX6_read_3 21 rfl rfl)
theorem dX6_read_94 : decode cX6_read 94 = .ok (.ifCond .ne 15, 3) := dk_154 0 15 (dk_at dksX6_read_4 0 rfl rfl)
theorem dX6_read_97 : decode cX6_read 97 = .ok (.iload_n 1, 1) := dk_27 (dk_at dksX6_read_4 3 rfl rfl)
theorem dX6_read_98 : decode cX6_read 98 = .ok (.aload_n 0, 1) := dk_42 (dk_at dksX6_read_4 4 rfl rfl)
theorem dX6_read_99 : decode cX6_read 99 = .ok (.getfield 150, 3) := dk_180 0 150 (dk_at dksX6_read_4 5 rfl rfl)
theorem dX6_read_102 : decode cX6_read 102 = .ok (.if_icmp .ne 7, 3) := dk_160 0 7 (dk_at dksX6_read_4 8 rfl rfl)
theorem dX6_read_105 : decode cX6_read 105 = .ok (.iconst 1, 1) := dk_4 (dk_at dksX6_read_4 11 rfl rfl)
theorem dX6_read_106 : decode cX6_read 106 = .ok (.goto 4, 3) := dk_167 0 4 (dk_at dksX6_read_4 12 rfl rfl)
theorem dX6_read_109 : decode cX6_read 109 = .ok (.iconst 0, 1) := dk_3 (dk_at dksX6_read_4 15 rfl rfl)
theorem dX6_read_110 : decode cX6_read 110 = .ok (.putfield 198, 3) := dk_181 0 198 (dk_at dksX6_read_4 16 rfl rfl)
theorem dX6_read_113 : decode cX6_read 113 = .ok (.iload_n 1, 1) := dk_27 (dk_at dksX6_read_4 19 rfl rfl)
theorem dX6_read_114 : decode cX6_read 114 = .ok (.ireturn, 1) := dk_172 (dk_at dksX6_read_4 20 rfl rfl)
abbrev cX6_readClasses : ByteArray := prog_13_method_15_code
def yX6_readClasses : MethodName := ⟨RX6, "readClasses", "()I"⟩
def dkwX6_readClasses_1 : List UInt8 := [182, 0, 154, 16, 44, 160, 0, 14, 42, 27, 4, 96, 182, 0, 171, 60, 167, 255, 223, 27, 172]
abbrev dktX6_readClasses_1 : List UInt8 := dkwX6_readClasses_1 ++ []
def dkwX6_readClasses_0 : List UInt8 := [42, 3, 182, 0, 171, 60, 42, 180, 0, 158, 154, 0, 32, 42, 180, 0, 162, 7, 162, 0, 24, 42, 27]
abbrev dktX6_readClasses_0 : List UInt8 := dkwX6_readClasses_0 ++ dktX6_readClasses_1
theorem dksX6_readClasses_0 : cX6_readClasses.data.toList.drop 0 = dktX6_readClasses_0 := by decide +kernel
theorem dksX6_readClasses_1 : cX6_readClasses.data.toList.drop 23 = dktX6_readClasses_1 := dk_seg dksX6_readClasses_0 23 rfl rfl
theorem dX6_readClasses_0 : decode cX6_readClasses 0 = .ok (.aload_n 0, 1) := dk_42 (dk_at dksX6_readClasses_0 0 rfl rfl)
theorem dX6_readClasses_1 : decode cX6_readClasses 1 = .ok (.iconst 0, 1) := dk_3 (dk_at dksX6_readClasses_0 1 rfl rfl)
theorem dX6_readClasses_2 : decode cX6_readClasses 2 = .ok (.invokevirtual 171, 3) := dk_182 0 171 (dk_at dksX6_readClasses_0 2 rfl rfl)
theorem dX6_readClasses_5 : decode cX6_readClasses 5 = .ok (.istore_n 1, 1) := dk_60 (dk_at dksX6_readClasses_0 5 rfl rfl)
theorem dX6_readClasses_6 : decode cX6_readClasses 6 = .ok (.aload_n 0, 1) := dk_42 (dk_at dksX6_readClasses_0 6 rfl rfl)
theorem dX6_readClasses_7 : decode cX6_readClasses 7 = .ok (.getfield 158, 3) := dk_180 0 158 (dk_at dksX6_readClasses_0 7 rfl rfl)
theorem dX6_readClasses_10 : decode cX6_readClasses 10 = .ok (.ifCond .ne 32, 3) := dk_154 0 32 (dk_at dksX6_readClasses_0 10 rfl rfl)
theorem dX6_readClasses_13 : decode cX6_readClasses 13 = .ok (.aload_n 0, 1) := dk_42 (dk_at dksX6_readClasses_0 13 rfl rfl)
theorem dX6_readClasses_14 : decode cX6_readClasses 14 = .ok (.getfield 162, 3) := dk_180 0 162 (dk_at dksX6_readClasses_0 14 rfl rfl)
theorem dX6_readClasses_17 : decode cX6_readClasses 17 = .ok (.iconst 4, 1) := dk_7 (dk_at dksX6_readClasses_0 17 rfl rfl)
theorem dX6_readClasses_18 : decode cX6_readClasses 18 = .ok (.if_icmp .ge 24, 3) := dk_162 0 24 (dk_at dksX6_readClasses_0 18 rfl rfl)
theorem dX6_readClasses_21 : decode cX6_readClasses 21 = .ok (.aload_n 0, 1) := dk_42 (dk_at dksX6_readClasses_0 21 rfl rfl)
theorem dX6_readClasses_22 : decode cX6_readClasses 22 = .ok (.iload_n 1, 1) := dk_27 (dk_at dksX6_readClasses_0 22 rfl rfl)
theorem dX6_readClasses_23 : decode cX6_readClasses 23 = .ok (.invokevirtual 154, 3) := dk_182 0 154 (dk_at dksX6_readClasses_1 0 rfl rfl)
theorem dX6_readClasses_26 : decode cX6_readClasses 26 = .ok (.bipush 44, 2) := dk_16 44 (dk_at dksX6_readClasses_1 3 rfl rfl)
theorem dX6_readClasses_28 : decode cX6_readClasses 28 = .ok (.if_icmp .ne 14, 3) := dk_160 0 14 (dk_at dksX6_readClasses_1 5 rfl rfl)
theorem dX6_readClasses_31 : decode cX6_readClasses 31 = .ok (.aload_n 0, 1) := dk_42 (dk_at dksX6_readClasses_1 8 rfl rfl)
theorem dX6_readClasses_32 : decode cX6_readClasses 32 = .ok (.iload_n 1, 1) := dk_27 (dk_at dksX6_readClasses_1 9 rfl rfl)
theorem dX6_readClasses_33 : decode cX6_readClasses 33 = .ok (.iconst 1, 1) := dk_4 (dk_at dksX6_readClasses_1 10 rfl rfl)
theorem dX6_readClasses_34 : decode cX6_readClasses 34 = .ok (.iadd, 1) := dk_96 (dk_at dksX6_readClasses_1 11 rfl rfl)
theorem dX6_readClasses_35 : decode cX6_readClasses 35 = .ok (.invokevirtual 171, 3) := dk_182 0 171 (dk_at dksX6_readClasses_1 12 rfl rfl)
theorem dX6_readClasses_38 : decode cX6_readClasses 38 = .ok (.istore_n 1, 1) := dk_60 (dk_at dksX6_readClasses_1 15 rfl rfl)
theorem dX6_readClasses_39 : decode cX6_readClasses 39 = .ok (.goto (-33), 3) := dk_167 255 223 (dk_at dksX6_readClasses_1 16 rfl rfl)
theorem dX6_readClasses_42 : decode cX6_readClasses 42 = .ok (.iload_n 1, 1) := dk_27 (dk_at dksX6_readClasses_1 19 rfl rfl)
theorem dX6_readClasses_43 : decode cX6_readClasses 43 = .ok (.ireturn, 1) := dk_172 (dk_at dksX6_readClasses_1 20 rfl rfl)
abbrev cX6_readClass : ByteArray := prog_13_method_14_code
def yX6_readClass : MethodName := ⟨RX6, "readClass", "(I)I"⟩
def dkwX6_readClass_5 : List UInt8 := [167, 255, 180, 42, 89, 180, 0, 162, 4, 96, 181, 0, 162, 28, 172]
abbrev dktX6_readClass_5 : List UInt8 := dkwX6_readClass_5 ++ []
def dkwX6_readClass_4 : List UInt8 := [182, 0, 165, 62, 42, 180, 0, 59, 42, 180, 0, 162, 92, 46, 4, 29, 120, 128, 79, 132, 2, 1]
abbrev dktX6_readClass_4 : List UInt8 := dkwX6_readClass_4 ++ dktX6_readClass_5
def dkwX6_readClass_3 : List UInt8 := [4, 96, 42, 180, 0, 162, 4, 100, 184, 0, 146, 154, 0, 9, 42, 28, 182, 0, 168, 172, 42, 28]
abbrev dktX6_readClass_3 : List UInt8 := dkwX6_readClass_3 ++ dktX6_readClass_4
def dkwX6_readClass_2 : List UInt8 := [27, 159, 0, 17, 42, 28, 182, 0, 165, 3, 16, 9, 184, 0, 146, 153, 0, 56, 42, 28, 182, 0, 165, 29]
abbrev dktX6_readClass_2 : List UInt8 := dkwX6_readClass_2 ++ dktX6_readClass_3
def dkwX6_readClass_1 : List UInt8 := [180, 0, 162, 4, 96, 181, 0, 162, 27, 4, 96, 172, 27, 61, 2, 62, 28, 27, 5, 96, 162, 0, 75, 28]
abbrev dktX6_readClass_1 : List UInt8 := dkwX6_readClass_1 ++ dktX6_readClass_2
def dkwX6_readClass_0 : List UInt8 := [42, 180, 0, 59, 42, 180, 0, 162, 3, 79, 42, 27, 182, 0, 154, 16, 45, 160, 0, 17, 42, 89]
abbrev dktX6_readClass_0 : List UInt8 := dkwX6_readClass_0 ++ dktX6_readClass_1
theorem dksX6_readClass_0 : cX6_readClass.data.toList.drop 0 = dktX6_readClass_0 := by decide +kernel
theorem dksX6_readClass_1 : cX6_readClass.data.toList.drop 22 = dktX6_readClass_1 := dk_seg dksX6_readClass_0 22 rfl rfl
theorem dksX6_readClass_2 : cX6_readClass.data.toList.drop 46 = dktX6_readClass_2 := dk_seg dksX6_readClass_1 24 rfl rfl
theorem dksX6_readClass_3 : cX6_readClass.data.toList.drop 70 = dktX6_readClass_3 := dk_seg dksX6_readClass_2 24 rfl rfl
theorem dksX6_readClass_4 : cX6_readClass.data.toList.drop 92 = dktX6_readClass_4 := dk_seg dksX6_readClass_3 22 rfl rfl
theorem dksX6_readClass_5 : cX6_readClass.data.toList.drop 114 = dktX6_readClass_5 := dk_seg dksX6_readClass_4 22 rfl rfl
theorem dX6_readClass_0 : decode cX6_readClass 0 = .ok (.aload_n 0, 1) := dk_42 (dk_at dksX6_readClass_0 0 rfl rfl)
theorem dX6_readClass_1 : decode cX6_readClass 1 = .ok (.getfield 59, 3) := dk_180 0 59 (dk_at dksX6_readClass_0 1 rfl rfl)
theorem dX6_readClass_4 : decode cX6_readClass 4 = .ok (.aload_n 0, 1) := dk_42 (dk_at dksX6_readClass_0 4 rfl rfl)
theorem dX6_readClass_5 : decode cX6_readClass 5 = .ok (.getfield 162, 3) := dk_180 0 162 (dk_at dksX6_readClass_0 5 rfl rfl)
theorem dX6_readClass_8 : decode cX6_readClass 8 = .ok (.iconst 0, 1) := dk_3 (dk_at dksX6_readClass_0 8 rfl rfl)
theorem dX6_readClass_9 : decode cX6_readClass 9 = .ok (.iastore, 1) := dk_79 (dk_at dksX6_readClass_0 9 rfl rfl)
theorem dX6_readClass_10 : decode cX6_readClass 10 = .ok (.aload_n 0, 1) := dk_42 (dk_at dksX6_readClass_0 10 rfl rfl)
theorem dX6_readClass_11 : decode cX6_readClass 11 = .ok (.iload_n 1, 1) := dk_27 (dk_at dksX6_readClass_0 11 rfl rfl)
theorem dX6_readClass_12 : decode cX6_readClass 12 = .ok (.invokevirtual 154, 3) := dk_182 0 154 (dk_at dksX6_readClass_0 12 rfl rfl)
theorem dX6_readClass_15 : decode cX6_readClass 15 = .ok (.bipush 45, 2) := dk_16 45 (dk_at dksX6_readClass_0 15 rfl rfl)
theorem dX6_readClass_17 : decode cX6_readClass 17 = .ok (.if_icmp .ne 17, 3) := dk_160 0 17 (dk_at dksX6_readClass_0 17 rfl rfl)
theorem dX6_readClass_20 : decode cX6_readClass 20 = .ok (.aload_n 0, 1) := dk_42 (dk_at dksX6_readClass_0 20 rfl rfl)
theorem dX6_readClass_21 : decode cX6_readClass 21 = .ok (.dup, 1) := dk_89 (dk_at dksX6_readClass_0 21 rfl rfl)
theorem dX6_readClass_22 : decode cX6_readClass 22 = .ok (.getfield 162, 3) := dk_180 0 162 (dk_at dksX6_readClass_1 0 rfl rfl)
theorem dX6_readClass_25 : decode cX6_readClass 25 = .ok (.iconst 1, 1) := dk_4 (dk_at dksX6_readClass_1 3 rfl rfl)
theorem dX6_readClass_26 : decode cX6_readClass 26 = .ok (.iadd, 1) := dk_96 (dk_at dksX6_readClass_1 4 rfl rfl)
theorem dX6_readClass_27 : decode cX6_readClass 27 = .ok (.putfield 162, 3) := dk_181 0 162 (dk_at dksX6_readClass_1 5 rfl rfl)
theorem dX6_readClass_30 : decode cX6_readClass 30 = .ok (.iload_n 1, 1) := dk_27 (dk_at dksX6_readClass_1 8 rfl rfl)
theorem dX6_readClass_31 : decode cX6_readClass 31 = .ok (.iconst 1, 1) := dk_4 (dk_at dksX6_readClass_1 9 rfl rfl)
theorem dX6_readClass_32 : decode cX6_readClass 32 = .ok (.iadd, 1) := dk_96 (dk_at dksX6_readClass_1 10 rfl rfl)
theorem dX6_readClass_33 : decode cX6_readClass 33 = .ok (.ireturn, 1) := dk_172 (dk_at dksX6_readClass_1 11 rfl rfl)
theorem dX6_readClass_34 : decode cX6_readClass 34 = .ok (.iload_n 1, 1) := dk_27 (dk_at dksX6_readClass_1 12 rfl rfl)
theorem dX6_readClass_35 : decode cX6_readClass 35 = .ok (.istore_n 2, 1) := dk_61 (dk_at dksX6_readClass_1 13 rfl rfl)
theorem dX6_readClass_36 : decode cX6_readClass 36 = .ok (.iconst (-1), 1) := dk_2 (dk_at dksX6_readClass_1 14 rfl rfl)
theorem dX6_readClass_37 : decode cX6_readClass 37 = .ok (.istore_n 3, 1) := dk_62 (dk_at dksX6_readClass_1 15 rfl rfl)
theorem dX6_readClass_38 : decode cX6_readClass 38 = .ok (.iload_n 2, 1) := dk_28 (dk_at dksX6_readClass_1 16 rfl rfl)
theorem dX6_readClass_39 : decode cX6_readClass 39 = .ok (.iload_n 1, 1) := dk_27 (dk_at dksX6_readClass_1 17 rfl rfl)
theorem dX6_readClass_40 : decode cX6_readClass 40 = .ok (.iconst 2, 1) := dk_5 (dk_at dksX6_readClass_1 18 rfl rfl)
theorem dX6_readClass_41 : decode cX6_readClass 41 = .ok (.iadd, 1) := dk_96 (dk_at dksX6_readClass_1 19 rfl rfl)
theorem dX6_readClass_42 : decode cX6_readClass 42 = .ok (.if_icmp .ge 75, 3) := dk_162 0 75 (dk_at dksX6_readClass_1 20 rfl rfl)
theorem dX6_readClass_45 : decode cX6_readClass 45 = .ok (.iload_n 2, 1) := dk_28 (dk_at dksX6_readClass_1 23 rfl rfl)
theorem dX6_readClass_46 : decode cX6_readClass 46 = .ok (.iload_n 1, 1) := dk_27 (dk_at dksX6_readClass_2 0 rfl rfl)
theorem dX6_readClass_47 : decode cX6_readClass 47 = .ok (.if_icmp .eq 17, 3) := dk_159 0 17 (dk_at dksX6_readClass_2 1 rfl rfl)
theorem dX6_readClass_50 : decode cX6_readClass 50 = .ok (.aload_n 0, 1) := dk_42 (dk_at dksX6_readClass_2 4 rfl rfl)
theorem dX6_readClass_51 : decode cX6_readClass 51 = .ok (.iload_n 2, 1) := dk_28 (dk_at dksX6_readClass_2 5 rfl rfl)
theorem dX6_readClass_52 : decode cX6_readClass 52 = .ok (.invokevirtual 165, 3) := dk_182 0 165 (dk_at dksX6_readClass_2 6 rfl rfl)
theorem dX6_readClass_55 : decode cX6_readClass 55 = .ok (.iconst 0, 1) := dk_3 (dk_at dksX6_readClass_2 9 rfl rfl)
theorem dX6_readClass_56 : decode cX6_readClass 56 = .ok (.bipush 9, 2) := dk_16 9 (dk_at dksX6_readClass_2 10 rfl rfl)
theorem dX6_readClass_58 : decode cX6_readClass 58 = .ok (.invokestatic 146, 3) := dk_184 0 146 (dk_at dksX6_readClass_2 12 rfl rfl)
theorem dX6_readClass_61 : decode cX6_readClass 61 = .ok (.ifCond .eq 56, 3) := dk_153 0 56 (dk_at dksX6_readClass_2 15 rfl rfl)
theorem dX6_readClass_64 : decode cX6_readClass 64 = .ok (.aload_n 0, 1) := dk_42 (dk_at dksX6_readClass_2 18 rfl rfl)
theorem dX6_readClass_65 : decode cX6_readClass 65 = .ok (.iload_n 2, 1) := dk_28 (dk_at dksX6_readClass_2 19 rfl rfl)
theorem dX6_readClass_66 : decode cX6_readClass 66 = .ok (.invokevirtual 165, 3) := dk_182 0 165 (dk_at dksX6_readClass_2 20 rfl rfl)
theorem dX6_readClass_69 : decode cX6_readClass 69 = .ok (.iload_n 3, 1) := dk_29 (dk_at dksX6_readClass_2 23 rfl rfl)
theorem dX6_readClass_70 : decode cX6_readClass 70 = .ok (.iconst 1, 1) := dk_4 (dk_at dksX6_readClass_3 0 rfl rfl)
theorem dX6_readClass_71 : decode cX6_readClass 71 = .ok (.iadd, 1) := dk_96 (dk_at dksX6_readClass_3 1 rfl rfl)
theorem dX6_readClass_72 : decode cX6_readClass 72 = .ok (.aload_n 0, 1) := dk_42 (dk_at dksX6_readClass_3 2 rfl rfl)
theorem dX6_readClass_73 : decode cX6_readClass 73 = .ok (.getfield 162, 3) := dk_180 0 162 (dk_at dksX6_readClass_3 3 rfl rfl)
theorem dX6_readClass_76 : decode cX6_readClass 76 = .ok (.iconst 1, 1) := dk_4 (dk_at dksX6_readClass_3 6 rfl rfl)
theorem dX6_readClass_77 : decode cX6_readClass 77 = .ok (.isub, 1) := dk_100 (dk_at dksX6_readClass_3 7 rfl rfl)
theorem dX6_readClass_78 : decode cX6_readClass 78 = .ok (.invokestatic 146, 3) := dk_184 0 146 (dk_at dksX6_readClass_3 8 rfl rfl)
theorem dX6_readClass_81 : decode cX6_readClass 81 = .ok (.ifCond .ne 9, 3) := dk_154 0 9 (dk_at dksX6_readClass_3 11 rfl rfl)
theorem dX6_readClass_84 : decode cX6_readClass 84 = .ok (.aload_n 0, 1) := dk_42 (dk_at dksX6_readClass_3 14 rfl rfl)
theorem dX6_readClass_85 : decode cX6_readClass 85 = .ok (.iload_n 2, 1) := dk_28 (dk_at dksX6_readClass_3 15 rfl rfl)
theorem dX6_readClass_86 : decode cX6_readClass 86 = .ok (.invokevirtual 168, 3) := dk_182 0 168 (dk_at dksX6_readClass_3 16 rfl rfl)
theorem dX6_readClass_89 : decode cX6_readClass 89 = .ok (.ireturn, 1) := dk_172 (dk_at dksX6_readClass_3 19 rfl rfl)
theorem dX6_readClass_90 : decode cX6_readClass 90 = .ok (.aload_n 0, 1) := dk_42 (dk_at dksX6_readClass_3 20 rfl rfl)
theorem dX6_readClass_91 : decode cX6_readClass 91 = .ok (.iload_n 2, 1) := dk_28 (dk_at dksX6_readClass_3 21 rfl rfl)
theorem dX6_readClass_92 : decode cX6_readClass 92 = .ok (.invokevirtual 165, 3) := dk_182 0 165 (dk_at dksX6_readClass_4 0 rfl rfl)
theorem dX6_readClass_95 : decode cX6_readClass 95 = .ok (.istore_n 3, 1) := dk_62 (dk_at dksX6_readClass_4 3 rfl rfl)
theorem dX6_readClass_96 : decode cX6_readClass 96 = .ok (.aload_n 0, 1) := dk_42 (dk_at dksX6_readClass_4 4 rfl rfl)
theorem dX6_readClass_97 : decode cX6_readClass 97 = .ok (.getfield 59, 3) := dk_180 0 59 (dk_at dksX6_readClass_4 5 rfl rfl)
theorem dX6_readClass_100 : decode cX6_readClass 100 = .ok (.aload_n 0, 1) := dk_42 (dk_at dksX6_readClass_4 8 rfl rfl)
theorem dX6_readClass_101 : decode cX6_readClass 101 = .ok (.getfield 162, 3) := dk_180 0 162 (dk_at dksX6_readClass_4 9 rfl rfl)
theorem dX6_readClass_104 : decode cX6_readClass 104 = .ok (.dup2, 1) := dk_92 (dk_at dksX6_readClass_4 12 rfl rfl)
theorem dX6_readClass_105 : decode cX6_readClass 105 = .ok (.iaload, 1) := dk_46 (dk_at dksX6_readClass_4 13 rfl rfl)
theorem dX6_readClass_106 : decode cX6_readClass 106 = .ok (.iconst 1, 1) := dk_4 (dk_at dksX6_readClass_4 14 rfl rfl)
theorem dX6_readClass_107 : decode cX6_readClass 107 = .ok (.iload_n 3, 1) := dk_29 (dk_at dksX6_readClass_4 15 rfl rfl)
theorem dX6_readClass_108 : decode cX6_readClass 108 = .ok (.ishl, 1) := dk_120 (dk_at dksX6_readClass_4 16 rfl rfl)
theorem dX6_readClass_109 : decode cX6_readClass 109 = .ok (.ior, 1) := dk_128 (dk_at dksX6_readClass_4 17 rfl rfl)
theorem dX6_readClass_110 : decode cX6_readClass 110 = .ok (.iastore, 1) := dk_79 (dk_at dksX6_readClass_4 18 rfl rfl)
theorem dX6_readClass_111 : decode cX6_readClass 111 = .ok (.iinc 2 1, 3) := dk_132 2 1 (dk_at dksX6_readClass_4 19 rfl rfl)
theorem dX6_readClass_114 : decode cX6_readClass 114 = .ok (.goto (-76), 3) := dk_167 255 180 (dk_at dksX6_readClass_5 0 rfl rfl)
theorem dX6_readClass_117 : decode cX6_readClass 117 = .ok (.aload_n 0, 1) := dk_42 (dk_at dksX6_readClass_5 3 rfl rfl)
theorem dX6_readClass_118 : decode cX6_readClass 118 = .ok (.dup, 1) := dk_89 (dk_at dksX6_readClass_5 4 rfl rfl)
theorem dX6_readClass_119 : decode cX6_readClass 119 = .ok (.getfield 162, 3) := dk_180 0 162 (dk_at dksX6_readClass_5 5 rfl rfl)
theorem dX6_readClass_122 : decode cX6_readClass 122 = .ok (.iconst 1, 1) := dk_4 (dk_at dksX6_readClass_5 8 rfl rfl)
theorem dX6_readClass_123 : decode cX6_readClass 123 = .ok (.iadd, 1) := dk_96 (dk_at dksX6_readClass_5 9 rfl rfl)
theorem dX6_readClass_124 : decode cX6_readClass 124 = .ok (.putfield 162, 3) := dk_181 0 162 (dk_at dksX6_readClass_5 10 rfl rfl)
theorem dX6_readClass_127 : decode cX6_readClass 127 = .ok (.iload_n 2, 1) := dk_28 (dk_at dksX6_readClass_5 13 rfl rfl)
theorem dX6_readClass_128 : decode cX6_readClass 128 = .ok (.ireturn, 1) := dk_172 (dk_at dksX6_readClass_5 14 rfl rfl)
abbrev cX6_at : ByteArray := prog_13_method_11_code
def yX6_at : MethodName := ⟨RX6, "at", "(I)I"⟩
def dkwX6_at_0 : List UInt8 := [27, 42, 180, 0, 150, 162, 0, 12, 42, 180, 0, 55, 27, 51, 167, 0, 4, 3, 172]
abbrev dktX6_at_0 : List UInt8 := dkwX6_at_0 ++ []
theorem dksX6_at_0 : cX6_at.data.toList.drop 0 = dktX6_at_0 := by decide +kernel
theorem dX6_at_0 : decode cX6_at 0 = .ok (.iload_n 1, 1) := dk_27 (dk_at dksX6_at_0 0 rfl rfl)
theorem dX6_at_1 : decode cX6_at 1 = .ok (.aload_n 0, 1) := dk_42 (dk_at dksX6_at_0 1 rfl rfl)
theorem dX6_at_2 : decode cX6_at 2 = .ok (.getfield 150, 3) := dk_180 0 150 (dk_at dksX6_at_0 2 rfl rfl)
theorem dX6_at_5 : decode cX6_at 5 = .ok (.if_icmp .ge 12, 3) := dk_162 0 12 (dk_at dksX6_at_0 5 rfl rfl)
theorem dX6_at_8 : decode cX6_at 8 = .ok (.aload_n 0, 1) := dk_42 (dk_at dksX6_at_0 8 rfl rfl)
theorem dX6_at_9 : decode cX6_at 9 = .ok (.getfield 55, 3) := dk_180 0 55 (dk_at dksX6_at_0 9 rfl rfl)
theorem dX6_at_12 : decode cX6_at 12 = .ok (.iload_n 1, 1) := dk_27 (dk_at dksX6_at_0 12 rfl rfl)
theorem dX6_at_13 : decode cX6_at 13 = .ok (.baload, 1) := dk_51 (dk_at dksX6_at_0 13 rfl rfl)
theorem dX6_at_14 : decode cX6_at 14 = .ok (.goto 4, 3) := dk_167 0 4 (dk_at dksX6_at_0 14 rfl rfl)
theorem dX6_at_17 : decode cX6_at 17 = .ok (.iconst 0, 1) := dk_3 (dk_at dksX6_at_0 17 rfl rfl)
theorem dX6_at_18 : decode cX6_at 18 = .ok (.ireturn, 1) := dk_172 (dk_at dksX6_at_0 18 rfl rfl)
abbrev cX6_figure : ByteArray := prog_13_method_12_code
def yX6_figure : MethodName := ⟨RX6, "figure", "(I)I"⟩
def dkwX6_figure_0 : List UInt8 := [42, 27, 182, 0, 154, 16, 48, 100, 172]
abbrev dktX6_figure_0 : List UInt8 := dkwX6_figure_0 ++ []
theorem dksX6_figure_0 : cX6_figure.data.toList.drop 0 = dktX6_figure_0 := by decide +kernel
theorem dX6_figure_0 : decode cX6_figure 0 = .ok (.aload_n 0, 1) := dk_42 (dk_at dksX6_figure_0 0 rfl rfl)
theorem dX6_figure_1 : decode cX6_figure 1 = .ok (.iload_n 1, 1) := dk_27 (dk_at dksX6_figure_0 1 rfl rfl)
theorem dX6_figure_2 : decode cX6_figure 2 = .ok (.invokevirtual 154, 3) := dk_182 0 154 (dk_at dksX6_figure_0 2 rfl rfl)
theorem dX6_figure_5 : decode cX6_figure 5 = .ok (.bipush 48, 2) := dk_16 48 (dk_at dksX6_figure_0 5 rfl rfl)
theorem dX6_figure_7 : decode cX6_figure 7 = .ok (.isub, 1) := dk_100 (dk_at dksX6_figure_0 7 rfl rfl)
theorem dX6_figure_8 : decode cX6_figure 8 = .ok (.ireturn, 1) := dk_172 (dk_at dksX6_figure_0 8 rfl rfl)
abbrev cX6_broken : ByteArray := prog_13_method_13_code
def yX6_broken : MethodName := ⟨RX6, "broken", "(I)I"⟩
def dkwX6_broken_0 : List UInt8 := [42, 4, 181, 0, 158, 27, 172]
abbrev dktX6_broken_0 : List UInt8 := dkwX6_broken_0 ++ []
theorem dksX6_broken_0 : cX6_broken.data.toList.drop 0 = dktX6_broken_0 := by decide +kernel
theorem dX6_broken_0 : decode cX6_broken 0 = .ok (.aload_n 0, 1) := dk_42 (dk_at dksX6_broken_0 0 rfl rfl)
theorem dX6_broken_1 : decode cX6_broken 1 = .ok (.iconst 1, 1) := dk_4 (dk_at dksX6_broken_0 1 rfl rfl)
theorem dX6_broken_2 : decode cX6_broken 2 = .ok (.putfield 158, 3) := dk_181 0 158 (dk_at dksX6_broken_0 2 rfl rfl)
theorem dX6_broken_5 : decode cX6_broken 5 = .ok (.iload_n 1, 1) := dk_27 (dk_at dksX6_broken_0 5 rfl rfl)
theorem dX6_broken_6 : decode cX6_broken 6 = .ok (.ireturn, 1) := dk_172 (dk_at dksX6_broken_0 6 rfl rfl)
abbrev cX6_readInstance : ByteArray := prog_13_method_19_code
def yX6_readInstance : MethodName := ⟨RX6, "readInstance", "(I)I"⟩
def dkwX6_readInstance_4 : List UInt8 := [182, 0, 195, 62, 42, 89, 180, 0, 185, 4, 96, 181, 0, 185, 29, 172]
abbrev dktX6_readInstance_4 : List UInt8 := dkwX6_readInstance_4 ++ []
def dkwX6_readInstance_3 : List UInt8 := [182, 0, 168, 172, 42, 27, 5, 96, 28, 182, 0, 191, 62, 42, 180, 0, 158, 154, 0, 10, 42, 29, 28]
abbrev dktX6_readInstance_3 : List UInt8 := dkwX6_readInstance_3 ++ dktX6_readInstance_4
def dkwX6_readInstance_2 : List UInt8 := [42, 180, 0, 65, 28, 46, 3, 42, 180, 0, 162, 4, 100, 184, 0, 146, 154, 0, 11, 42, 27, 4, 96]
abbrev dktX6_readInstance_2 : List UInt8 := dkwX6_readInstance_2 ++ dktX6_readInstance_3
def dkwX6_readInstance_1 : List UInt8 := [46, 2, 160, 0, 9, 42, 27, 182, 0, 168, 172, 42, 180, 0, 65, 28, 42, 27, 4, 96, 182, 0, 165, 79]
abbrev dktX6_readInstance_1 : List UInt8 := dkwX6_readInstance_1 ++ dktX6_readInstance_2
def dkwX6_readInstance_0 : List UInt8 := [42, 180, 0, 185, 61, 42, 180, 0, 62, 28, 42, 27, 182, 0, 154, 184, 0, 188, 79, 42, 180, 0, 62, 28]
abbrev dktX6_readInstance_0 : List UInt8 := dkwX6_readInstance_0 ++ dktX6_readInstance_1
theorem dksX6_readInstance_0 : cX6_readInstance.data.toList.drop 0 = dktX6_readInstance_0 := by decide +kernel
theorem dksX6_readInstance_1 : cX6_readInstance.data.toList.drop 24 = dktX6_readInstance_1 := dk_seg dksX6_readInstance_0 24 rfl rfl
theorem dksX6_readInstance_2 : cX6_readInstance.data.toList.drop 48 = dktX6_readInstance_2 := dk_seg dksX6_readInstance_1 24 rfl rfl
theorem dksX6_readInstance_3 : cX6_readInstance.data.toList.drop 71 = dktX6_readInstance_3 := dk_seg dksX6_readInstance_2 23 rfl rfl
theorem dksX6_readInstance_4 : cX6_readInstance.data.toList.drop 94 = dktX6_readInstance_4 := dk_seg dksX6_readInstance_3 23 rfl rfl
theorem dX6_readInstance_0 : decode cX6_readInstance 0 = .ok (.aload_n 0, 1) := dk_42 (dk_at dksX6_readInstance_0 0 rfl rfl)
theorem dX6_readInstance_1 : decode cX6_readInstance 1 = .ok (.getfield 185, 3) := dk_180 0 185 (dk_at dksX6_readInstance_0 1 rfl rfl)
theorem dX6_readInstance_4 : decode cX6_readInstance 4 = .ok (.istore_n 2, 1) := dk_61 (dk_at dksX6_readInstance_0 4 rfl rfl)
theorem dX6_readInstance_5 : decode cX6_readInstance 5 = .ok (.aload_n 0, 1) := dk_42 (dk_at dksX6_readInstance_0 5 rfl rfl)
theorem dX6_readInstance_6 : decode cX6_readInstance 6 = .ok (.getfield 62, 3) := dk_180 0 62 (dk_at dksX6_readInstance_0 6 rfl rfl)
theorem dX6_readInstance_9 : decode cX6_readInstance 9 = .ok (.iload_n 2, 1) := dk_28 (dk_at dksX6_readInstance_0 9 rfl rfl)
theorem dX6_readInstance_10 : decode cX6_readInstance 10 = .ok (.aload_n 0, 1) := dk_42 (dk_at dksX6_readInstance_0 10 rfl rfl)
theorem dX6_readInstance_11 : decode cX6_readInstance 11 = .ok (.iload_n 1, 1) := dk_27 (dk_at dksX6_readInstance_0 11 rfl rfl)
theorem dX6_readInstance_12 : decode cX6_readInstance 12 = .ok (.invokevirtual 154, 3) := dk_182 0 154 (dk_at dksX6_readInstance_0 12 rfl rfl)
theorem dX6_readInstance_15 : decode cX6_readInstance 15 = .ok (.invokestatic 188, 3) := dk_184 0 188 (dk_at dksX6_readInstance_0 15 rfl rfl)
theorem dX6_readInstance_18 : decode cX6_readInstance 18 = .ok (.iastore, 1) := dk_79 (dk_at dksX6_readInstance_0 18 rfl rfl)
theorem dX6_readInstance_19 : decode cX6_readInstance 19 = .ok (.aload_n 0, 1) := dk_42 (dk_at dksX6_readInstance_0 19 rfl rfl)
theorem dX6_readInstance_20 : decode cX6_readInstance 20 = .ok (.getfield 62, 3) := dk_180 0 62 (dk_at dksX6_readInstance_0 20 rfl rfl)
theorem dX6_readInstance_23 : decode cX6_readInstance 23 = .ok (.iload_n 2, 1) := dk_28 (dk_at dksX6_readInstance_0 23 rfl rfl)
theorem dX6_readInstance_24 : decode cX6_readInstance 24 = .ok (.iaload, 1) := dk_46 (dk_at dksX6_readInstance_1 0 rfl rfl)
theorem dX6_readInstance_25 : decode cX6_readInstance 25 = .ok (.iconst (-1), 1) := dk_2 (dk_at dksX6_readInstance_1 1 rfl rfl)
theorem dX6_readInstance_26 : decode cX6_readInstance 26 = .ok (.if_icmp .ne 9, 3) := dk_160 0 9 (dk_at dksX6_readInstance_1 2 rfl rfl)
theorem dX6_readInstance_29 : decode cX6_readInstance 29 = .ok (.aload_n 0, 1) := dk_42 (dk_at dksX6_readInstance_1 5 rfl rfl)
theorem dX6_readInstance_30 : decode cX6_readInstance 30 = .ok (.iload_n 1, 1) := dk_27 (dk_at dksX6_readInstance_1 6 rfl rfl)
theorem dX6_readInstance_31 : decode cX6_readInstance 31 = .ok (.invokevirtual 168, 3) := dk_182 0 168 (dk_at dksX6_readInstance_1 7 rfl rfl)
theorem dX6_readInstance_34 : decode cX6_readInstance 34 = .ok (.ireturn, 1) := dk_172 (dk_at dksX6_readInstance_1 10 rfl rfl)
theorem dX6_readInstance_35 : decode cX6_readInstance 35 = .ok (.aload_n 0, 1) := dk_42 (dk_at dksX6_readInstance_1 11 rfl rfl)
theorem dX6_readInstance_36 : decode cX6_readInstance 36 = .ok (.getfield 65, 3) := dk_180 0 65 (dk_at dksX6_readInstance_1 12 rfl rfl)
theorem dX6_readInstance_39 : decode cX6_readInstance 39 = .ok (.iload_n 2, 1) := dk_28 (dk_at dksX6_readInstance_1 15 rfl rfl)
theorem dX6_readInstance_40 : decode cX6_readInstance 40 = .ok (.aload_n 0, 1) := dk_42 (dk_at dksX6_readInstance_1 16 rfl rfl)
theorem dX6_readInstance_41 : decode cX6_readInstance 41 = .ok (.iload_n 1, 1) := dk_27 (dk_at dksX6_readInstance_1 17 rfl rfl)
theorem dX6_readInstance_42 : decode cX6_readInstance 42 = .ok (.iconst 1, 1) := dk_4 (dk_at dksX6_readInstance_1 18 rfl rfl)
theorem dX6_readInstance_43 : decode cX6_readInstance 43 = .ok (.iadd, 1) := dk_96 (dk_at dksX6_readInstance_1 19 rfl rfl)
theorem dX6_readInstance_44 : decode cX6_readInstance 44 = .ok (.invokevirtual 165, 3) := dk_182 0 165 (dk_at dksX6_readInstance_1 20 rfl rfl)
theorem dX6_readInstance_47 : decode cX6_readInstance 47 = .ok (.iastore, 1) := dk_79 (dk_at dksX6_readInstance_1 23 rfl rfl)
theorem dX6_readInstance_48 : decode cX6_readInstance 48 = .ok (.aload_n 0, 1) := dk_42 (dk_at dksX6_readInstance_2 0 rfl rfl)
theorem dX6_readInstance_49 : decode cX6_readInstance 49 = .ok (.getfield 65, 3) := dk_180 0 65 (dk_at dksX6_readInstance_2 1 rfl rfl)
theorem dX6_readInstance_52 : decode cX6_readInstance 52 = .ok (.iload_n 2, 1) := dk_28 (dk_at dksX6_readInstance_2 4 rfl rfl)
theorem dX6_readInstance_53 : decode cX6_readInstance 53 = .ok (.iaload, 1) := dk_46 (dk_at dksX6_readInstance_2 5 rfl rfl)
theorem dX6_readInstance_54 : decode cX6_readInstance 54 = .ok (.iconst 0, 1) := dk_3 (dk_at dksX6_readInstance_2 6 rfl rfl)
theorem dX6_readInstance_55 : decode cX6_readInstance 55 = .ok (.aload_n 0, 1) := dk_42 (dk_at dksX6_readInstance_2 7 rfl rfl)
theorem dX6_readInstance_56 : decode cX6_readInstance 56 = .ok (.getfield 162, 3) := dk_180 0 162 (dk_at dksX6_readInstance_2 8 rfl rfl)
theorem dX6_readInstance_59 : decode cX6_readInstance 59 = .ok (.iconst 1, 1) := dk_4 (dk_at dksX6_readInstance_2 11 rfl rfl)
theorem dX6_readInstance_60 : decode cX6_readInstance 60 = .ok (.isub, 1) := dk_100 (dk_at dksX6_readInstance_2 12 rfl rfl)
theorem dX6_readInstance_61 : decode cX6_readInstance 61 = .ok (.invokestatic 146, 3) := dk_184 0 146 (dk_at dksX6_readInstance_2 13 rfl rfl)
theorem dX6_readInstance_64 : decode cX6_readInstance 64 = .ok (.ifCond .ne 11, 3) := dk_154 0 11 (dk_at dksX6_readInstance_2 16 rfl rfl)
theorem dX6_readInstance_67 : decode cX6_readInstance 67 = .ok (.aload_n 0, 1) := dk_42 (dk_at dksX6_readInstance_2 19 rfl rfl)
theorem dX6_readInstance_68 : decode cX6_readInstance 68 = .ok (.iload_n 1, 1) := dk_27 (dk_at dksX6_readInstance_2 20 rfl rfl)
theorem dX6_readInstance_69 : decode cX6_readInstance 69 = .ok (.iconst 1, 1) := dk_4 (dk_at dksX6_readInstance_2 21 rfl rfl)
theorem dX6_readInstance_70 : decode cX6_readInstance 70 = .ok (.iadd, 1) := dk_96 (dk_at dksX6_readInstance_2 22 rfl rfl)
theorem dX6_readInstance_71 : decode cX6_readInstance 71 = .ok (.invokevirtual 168, 3) := dk_182 0 168 (dk_at dksX6_readInstance_3 0 rfl rfl)
theorem dX6_readInstance_74 : decode cX6_readInstance 74 = .ok (.ireturn, 1) := dk_172 (dk_at dksX6_readInstance_3 3 rfl rfl)
theorem dX6_readInstance_75 : decode cX6_readInstance 75 = .ok (.aload_n 0, 1) := dk_42 (dk_at dksX6_readInstance_3 4 rfl rfl)
theorem dX6_readInstance_76 : decode cX6_readInstance 76 = .ok (.iload_n 1, 1) := dk_27 (dk_at dksX6_readInstance_3 5 rfl rfl)
theorem dX6_readInstance_77 : decode cX6_readInstance 77 = .ok (.iconst 2, 1) := dk_5 (dk_at dksX6_readInstance_3 6 rfl rfl)
theorem dX6_readInstance_78 : decode cX6_readInstance 78 = .ok (.iadd, 1) := dk_96 (dk_at dksX6_readInstance_3 7 rfl rfl)
theorem dX6_readInstance_79 : decode cX6_readInstance 79 = .ok (.iload_n 2, 1) := dk_28 (dk_at dksX6_readInstance_3 8 rfl rfl)
theorem dX6_readInstance_80 : decode cX6_readInstance 80 = .ok (.invokevirtual 191, 3) := dk_182 0 191 (dk_at dksX6_readInstance_3 9 rfl rfl)
theorem dX6_readInstance_83 : decode cX6_readInstance 83 = .ok (.istore_n 3, 1) := dk_62 (dk_at dksX6_readInstance_3 12 rfl rfl)
theorem dX6_readInstance_84 : decode cX6_readInstance 84 = .ok (.aload_n 0, 1) := dk_42 (dk_at dksX6_readInstance_3 13 rfl rfl)
theorem dX6_readInstance_85 : decode cX6_readInstance 85 = .ok (.getfield 158, 3) := dk_180 0 158 (dk_at dksX6_readInstance_3 14 rfl rfl)
theorem dX6_readInstance_88 : decode cX6_readInstance 88 = .ok (.ifCond .ne 10, 3) := dk_154 0 10 (dk_at dksX6_readInstance_3 17 rfl rfl)
theorem dX6_readInstance_91 : decode cX6_readInstance 91 = .ok (.aload_n 0, 1) := dk_42 (dk_at dksX6_readInstance_3 20 rfl rfl)
theorem dX6_readInstance_92 : decode cX6_readInstance 92 = .ok (.iload_n 3, 1) := dk_29 (dk_at dksX6_readInstance_3 21 rfl rfl)
theorem dX6_readInstance_93 : decode cX6_readInstance 93 = .ok (.iload_n 2, 1) := dk_28 (dk_at dksX6_readInstance_3 22 rfl rfl)
theorem dX6_readInstance_94 : decode cX6_readInstance 94 = .ok (.invokevirtual 195, 3) := dk_182 0 195 (dk_at dksX6_readInstance_4 0 rfl rfl)
theorem dX6_readInstance_97 : decode cX6_readInstance 97 = .ok (.istore_n 3, 1) := dk_62 (dk_at dksX6_readInstance_4 3 rfl rfl)
theorem dX6_readInstance_98 : decode cX6_readInstance 98 = .ok (.aload_n 0, 1) := dk_42 (dk_at dksX6_readInstance_4 4 rfl rfl)
theorem dX6_readInstance_99 : decode cX6_readInstance 99 = .ok (.dup, 1) := dk_89 (dk_at dksX6_readInstance_4 5 rfl rfl)
theorem dX6_readInstance_100 : decode cX6_readInstance 100 = .ok (.getfield 185, 3) := dk_180 0 185 (dk_at dksX6_readInstance_4 6 rfl rfl)
theorem dX6_readInstance_103 : decode cX6_readInstance 103 = .ok (.iconst 1, 1) := dk_4 (dk_at dksX6_readInstance_4 9 rfl rfl)
theorem dX6_readInstance_104 : decode cX6_readInstance 104 = .ok (.iadd, 1) := dk_96 (dk_at dksX6_readInstance_4 10 rfl rfl)
theorem dX6_readInstance_105 : decode cX6_readInstance 105 = .ok (.putfield 185, 3) := dk_181 0 185 (dk_at dksX6_readInstance_4 11 rfl rfl)
theorem dX6_readInstance_108 : decode cX6_readInstance 108 = .ok (.iload_n 3, 1) := dk_29 (dk_at dksX6_readInstance_4 14 rfl rfl)
theorem dX6_readInstance_109 : decode cX6_readInstance 109 = .ok (.ireturn, 1) := dk_172 (dk_at dksX6_readInstance_4 15 rfl rfl)
abbrev cX6_kindBy : ByteArray := prog_13_method_10_code
def yX6_kindBy : MethodName := ⟨RX6, "kindBy", "(I)I"⟩
def dkwX6_kindBy_2 : List UInt8 := [3, 172, 4, 172, 5, 172, 6, 172, 7, 172, 2, 172]
abbrev dktX6_kindBy_2 : List UInt8 := dkwX6_kindBy_2 ++ []
def dkwX6_kindBy_1 : List UInt8 := [171, 0, 0, 0, 0, 0, 61, 0, 0, 0, 5, 0, 0, 0, 100, 0, 0, 0, 53, 0, 0, 0, 102, 0, 0, 0, 57, 0, 0, 0, 104, 0, 0, 0, 55, 0, 0, 0, 110, 0, 0, 0, 51, 0, 0, 0, 115, 0, 0, 0, 59]
abbrev dktX6_kindBy_1 : List UInt8 := dkwX6_kindBy_1 ++ dktX6_kindBy_2
def dkwX6_kindBy_0 : List UInt8 := [26]
abbrev dktX6_kindBy_0 : List UInt8 := dkwX6_kindBy_0 ++ dktX6_kindBy_1
theorem dksX6_kindBy_0 : cX6_kindBy.data.toList.drop 0 = dktX6_kindBy_0 := by decide +kernel
theorem dksX6_kindBy_1 : cX6_kindBy.data.toList.drop 1 = dktX6_kindBy_1 := dk_seg dksX6_kindBy_0 1 rfl rfl
theorem dksX6_kindBy_2 : cX6_kindBy.data.toList.drop 52 = dktX6_kindBy_2 := dk_seg dksX6_kindBy_1 51 rfl rfl
theorem dX6_kindBy_0 : decode cX6_kindBy 0 = .ok (.iload_n 0, 1) := dk_26 (dk_at dksX6_kindBy_0 0 rfl rfl)
theorem dX6_kindBy_1 : decode cX6_kindBy 1 = .ok (.lookupswitch 61 #[(100, 53), (102, 57), (104, 55), (110, 51), (115, 59)], 51) := by decide +kernel
theorem dX6_kindBy_52 : decode cX6_kindBy 52 = .ok (.iconst 0, 1) := dk_3 (dk_at dksX6_kindBy_2 0 rfl rfl)
theorem dX6_kindBy_53 : decode cX6_kindBy 53 = .ok (.ireturn, 1) := dk_172 (dk_at dksX6_kindBy_2 1 rfl rfl)
theorem dX6_kindBy_54 : decode cX6_kindBy 54 = .ok (.iconst 1, 1) := dk_4 (dk_at dksX6_kindBy_2 2 rfl rfl)
theorem dX6_kindBy_55 : decode cX6_kindBy 55 = .ok (.ireturn, 1) := dk_172 (dk_at dksX6_kindBy_2 3 rfl rfl)
theorem dX6_kindBy_56 : decode cX6_kindBy 56 = .ok (.iconst 2, 1) := dk_5 (dk_at dksX6_kindBy_2 4 rfl rfl)
theorem dX6_kindBy_57 : decode cX6_kindBy 57 = .ok (.ireturn, 1) := dk_172 (dk_at dksX6_kindBy_2 5 rfl rfl)
theorem dX6_kindBy_58 : decode cX6_kindBy 58 = .ok (.iconst 3, 1) := dk_6 (dk_at dksX6_kindBy_2 6 rfl rfl)
theorem dX6_kindBy_59 : decode cX6_kindBy 59 = .ok (.ireturn, 1) := dk_172 (dk_at dksX6_kindBy_2 7 rfl rfl)
theorem dX6_kindBy_60 : decode cX6_kindBy 60 = .ok (.iconst 4, 1) := dk_7 (dk_at dksX6_kindBy_2 8 rfl rfl)
theorem dX6_kindBy_61 : decode cX6_kindBy 61 = .ok (.ireturn, 1) := dk_172 (dk_at dksX6_kindBy_2 9 rfl rfl)
theorem dX6_kindBy_62 : decode cX6_kindBy 62 = .ok (.iconst (-1), 1) := dk_2 (dk_at dksX6_kindBy_2 10 rfl rfl)
theorem dX6_kindBy_63 : decode cX6_kindBy 63 = .ok (.ireturn, 1) := dk_172 (dk_at dksX6_kindBy_2 11 rfl rfl)
abbrev cX6_readHead : ByteArray := prog_13_method_16_code
def yX6_readHead : MethodName := ⟨RX6, "readHead", "(II)I"⟩
def dkwX6_readHead_3 : List UInt8 := [28, 29, 27, 100, 79, 29, 172]
abbrev dktX6_readHead_3 : List UInt8 := dkwX6_readHead_3 ++ []
def dkwX6_readHead_2 : List UInt8 := [21, 5, 4, 100, 96, 54, 4, 132, 3, 1, 167, 255, 204, 42, 180, 0, 68, 28, 27, 79, 42, 180, 0, 71]
abbrev dktX6_readHead_2 : List UInt8 := dkwX6_readHead_2 ++ dktX6_readHead_3
def dkwX6_readHead_1 : List UInt8 := [159, 0, 16, 29, 27, 100, 21, 4, 96, 21, 5, 96, 8, 164, 0, 9, 42, 29, 182, 0, 168, 172, 21, 4]
abbrev dktX6_readHead_1 : List UInt8 := dkwX6_readHead_1 ++ dktX6_readHead_2
def dkwX6_readHead_0 : List UInt8 := [27, 62, 4, 54, 4, 21, 4, 158, 0, 53, 42, 29, 182, 0, 154, 184, 0, 174, 54, 5, 21, 5, 2]
abbrev dktX6_readHead_0 : List UInt8 := dkwX6_readHead_0 ++ dktX6_readHead_1
theorem dksX6_readHead_0 : cX6_readHead.data.toList.drop 0 = dktX6_readHead_0 := by decide +kernel
theorem dksX6_readHead_1 : cX6_readHead.data.toList.drop 23 = dktX6_readHead_1 := dk_seg dksX6_readHead_0 23 rfl rfl
theorem dksX6_readHead_2 : cX6_readHead.data.toList.drop 47 = dktX6_readHead_2 := dk_seg dksX6_readHead_1 24 rfl rfl
theorem dksX6_readHead_3 : cX6_readHead.data.toList.drop 71 = dktX6_readHead_3 := dk_seg dksX6_readHead_2 24 rfl rfl
theorem dX6_readHead_0 : decode cX6_readHead 0 = .ok (.iload_n 1, 1) := dk_27 (dk_at dksX6_readHead_0 0 rfl rfl)
theorem dX6_readHead_1 : decode cX6_readHead 1 = .ok (.istore_n 3, 1) := dk_62 (dk_at dksX6_readHead_0 1 rfl rfl)
theorem dX6_readHead_2 : decode cX6_readHead 2 = .ok (.iconst 1, 1) := dk_4 (dk_at dksX6_readHead_0 2 rfl rfl)
theorem dX6_readHead_3 : decode cX6_readHead 3 = .ok (.istore 4, 2) := dk_54 4 (dk_at dksX6_readHead_0 3 rfl rfl)
theorem dX6_readHead_5 : decode cX6_readHead 5 = .ok (.iload 4, 2) := dk_21 4 (dk_at dksX6_readHead_0 5 rfl rfl)
theorem dX6_readHead_7 : decode cX6_readHead 7 = .ok (.ifCond .le 53, 3) := dk_158 0 53 (dk_at dksX6_readHead_0 7 rfl rfl)
theorem dX6_readHead_10 : decode cX6_readHead 10 = .ok (.aload_n 0, 1) := dk_42 (dk_at dksX6_readHead_0 10 rfl rfl)
theorem dX6_readHead_11 : decode cX6_readHead 11 = .ok (.iload_n 3, 1) := dk_29 (dk_at dksX6_readHead_0 11 rfl rfl)
theorem dX6_readHead_12 : decode cX6_readHead 12 = .ok (.invokevirtual 154, 3) := dk_182 0 154 (dk_at dksX6_readHead_0 12 rfl rfl)
theorem dX6_readHead_15 : decode cX6_readHead 15 = .ok (.invokestatic 174, 3) := dk_184 0 174 (dk_at dksX6_readHead_0 15 rfl rfl)
theorem dX6_readHead_18 : decode cX6_readHead 18 = .ok (.istore 5, 2) := dk_54 5 (dk_at dksX6_readHead_0 18 rfl rfl)
theorem dX6_readHead_20 : decode cX6_readHead 20 = .ok (.iload 5, 2) := dk_21 5 (dk_at dksX6_readHead_0 20 rfl rfl)
theorem dX6_readHead_22 : decode cX6_readHead 22 = .ok (.iconst (-1), 1) := dk_2 (dk_at dksX6_readHead_0 22 rfl rfl)
theorem dX6_readHead_23 : decode cX6_readHead 23 = .ok (.if_icmp .eq 16, 3) := dk_159 0 16 (dk_at dksX6_readHead_1 0 rfl rfl)
theorem dX6_readHead_26 : decode cX6_readHead 26 = .ok (.iload_n 3, 1) := dk_29 (dk_at dksX6_readHead_1 3 rfl rfl)
theorem dX6_readHead_27 : decode cX6_readHead 27 = .ok (.iload_n 1, 1) := dk_27 (dk_at dksX6_readHead_1 4 rfl rfl)
theorem dX6_readHead_28 : decode cX6_readHead 28 = .ok (.isub, 1) := dk_100 (dk_at dksX6_readHead_1 5 rfl rfl)
theorem dX6_readHead_29 : decode cX6_readHead 29 = .ok (.iload 4, 2) := dk_21 4 (dk_at dksX6_readHead_1 6 rfl rfl)
theorem dX6_readHead_31 : decode cX6_readHead 31 = .ok (.iadd, 1) := dk_96 (dk_at dksX6_readHead_1 8 rfl rfl)
theorem dX6_readHead_32 : decode cX6_readHead 32 = .ok (.iload 5, 2) := dk_21 5 (dk_at dksX6_readHead_1 9 rfl rfl)
theorem dX6_readHead_34 : decode cX6_readHead 34 = .ok (.iadd, 1) := dk_96 (dk_at dksX6_readHead_1 11 rfl rfl)
theorem dX6_readHead_35 : decode cX6_readHead 35 = .ok (.iconst 5, 1) := dk_8 (dk_at dksX6_readHead_1 12 rfl rfl)
theorem dX6_readHead_36 : decode cX6_readHead 36 = .ok (.if_icmp .le 9, 3) := dk_164 0 9 (dk_at dksX6_readHead_1 13 rfl rfl)
theorem dX6_readHead_39 : decode cX6_readHead 39 = .ok (.aload_n 0, 1) := dk_42 (dk_at dksX6_readHead_1 16 rfl rfl)
theorem dX6_readHead_40 : decode cX6_readHead 40 = .ok (.iload_n 3, 1) := dk_29 (dk_at dksX6_readHead_1 17 rfl rfl)
theorem dX6_readHead_41 : decode cX6_readHead 41 = .ok (.invokevirtual 168, 3) := dk_182 0 168 (dk_at dksX6_readHead_1 18 rfl rfl)
theorem dX6_readHead_44 : decode cX6_readHead 44 = .ok (.ireturn, 1) := dk_172 (dk_at dksX6_readHead_1 21 rfl rfl)
theorem dX6_readHead_45 : decode cX6_readHead 45 = .ok (.iload 4, 2) := dk_21 4 (dk_at dksX6_readHead_1 22 rfl rfl)
theorem dX6_readHead_47 : decode cX6_readHead 47 = .ok (.iload 5, 2) := dk_21 5 (dk_at dksX6_readHead_2 0 rfl rfl)
theorem dX6_readHead_49 : decode cX6_readHead 49 = .ok (.iconst 1, 1) := dk_4 (dk_at dksX6_readHead_2 2 rfl rfl)
theorem dX6_readHead_50 : decode cX6_readHead 50 = .ok (.isub, 1) := dk_100 (dk_at dksX6_readHead_2 3 rfl rfl)
theorem dX6_readHead_51 : decode cX6_readHead 51 = .ok (.iadd, 1) := dk_96 (dk_at dksX6_readHead_2 4 rfl rfl)
theorem dX6_readHead_52 : decode cX6_readHead 52 = .ok (.istore 4, 2) := dk_54 4 (dk_at dksX6_readHead_2 5 rfl rfl)
theorem dX6_readHead_54 : decode cX6_readHead 54 = .ok (.iinc 3 1, 3) := dk_132 3 1 (dk_at dksX6_readHead_2 7 rfl rfl)
theorem dX6_readHead_57 : decode cX6_readHead 57 = .ok (.goto (-52), 3) := dk_167 255 204 (dk_at dksX6_readHead_2 10 rfl rfl)
theorem dX6_readHead_60 : decode cX6_readHead 60 = .ok (.aload_n 0, 1) := dk_42 (dk_at dksX6_readHead_2 13 rfl rfl)
theorem dX6_readHead_61 : decode cX6_readHead 61 = .ok (.getfield 68, 3) := dk_180 0 68 (dk_at dksX6_readHead_2 14 rfl rfl)
theorem dX6_readHead_64 : decode cX6_readHead 64 = .ok (.iload_n 2, 1) := dk_28 (dk_at dksX6_readHead_2 17 rfl rfl)
theorem dX6_readHead_65 : decode cX6_readHead 65 = .ok (.iload_n 1, 1) := dk_27 (dk_at dksX6_readHead_2 18 rfl rfl)
theorem dX6_readHead_66 : decode cX6_readHead 66 = .ok (.iastore, 1) := dk_79 (dk_at dksX6_readHead_2 19 rfl rfl)
theorem dX6_readHead_67 : decode cX6_readHead 67 = .ok (.aload_n 0, 1) := dk_42 (dk_at dksX6_readHead_2 20 rfl rfl)
theorem dX6_readHead_68 : decode cX6_readHead 68 = .ok (.getfield 71, 3) := dk_180 0 71 (dk_at dksX6_readHead_2 21 rfl rfl)
theorem dX6_readHead_71 : decode cX6_readHead 71 = .ok (.iload_n 2, 1) := dk_28 (dk_at dksX6_readHead_3 0 rfl rfl)
theorem dX6_readHead_72 : decode cX6_readHead 72 = .ok (.iload_n 3, 1) := dk_29 (dk_at dksX6_readHead_3 1 rfl rfl)
theorem dX6_readHead_73 : decode cX6_readHead 73 = .ok (.iload_n 1, 1) := dk_27 (dk_at dksX6_readHead_3 2 rfl rfl)
theorem dX6_readHead_74 : decode cX6_readHead 74 = .ok (.isub, 1) := dk_100 (dk_at dksX6_readHead_3 3 rfl rfl)
theorem dX6_readHead_75 : decode cX6_readHead 75 = .ok (.iastore, 1) := dk_79 (dk_at dksX6_readHead_3 4 rfl rfl)
theorem dX6_readHead_76 : decode cX6_readHead 76 = .ok (.iload_n 3, 1) := dk_29 (dk_at dksX6_readHead_3 5 rfl rfl)
theorem dX6_readHead_77 : decode cX6_readHead 77 = .ok (.ireturn, 1) := dk_172 (dk_at dksX6_readHead_3 6 rfl rfl)
abbrev cX6_wants : ByteArray := prog_13_method_7_code
def yX6_wants : MethodName := ⟨RX6, "wants", "(I)I"⟩
def dkwX6_wants_2 : List UInt8 := [3, 172, 4, 172, 5, 172, 2, 172]
abbrev dktX6_wants_2 : List UInt8 := dkwX6_wants_2 ++ []
def dkwX6_wants_1 : List UInt8 := [171, 0, 0, 0, 0, 0, 65, 0, 0, 0, 6, 0, 0, 0, 98, 0, 0, 0, 59, 0, 0, 0, 105, 0, 0, 0, 59, 0, 0, 0, 108, 0, 0, 0, 61, 0, 0, 0, 112, 0, 0, 0, 63, 0, 0, 0, 120, 0, 0, 0, 59, 0, 0, 0, 121, 0, 0, 0, 59]
abbrev dktX6_wants_1 : List UInt8 := dkwX6_wants_1 ++ dktX6_wants_2
def dkwX6_wants_0 : List UInt8 := [26]
abbrev dktX6_wants_0 : List UInt8 := dkwX6_wants_0 ++ dktX6_wants_1
theorem dksX6_wants_0 : cX6_wants.data.toList.drop 0 = dktX6_wants_0 := by decide +kernel
theorem dksX6_wants_1 : cX6_wants.data.toList.drop 1 = dktX6_wants_1 := dk_seg dksX6_wants_0 1 rfl rfl
theorem dksX6_wants_2 : cX6_wants.data.toList.drop 60 = dktX6_wants_2 := dk_seg dksX6_wants_1 59 rfl rfl
theorem dX6_wants_0 : decode cX6_wants 0 = .ok (.iload_n 0, 1) := dk_26 (dk_at dksX6_wants_0 0 rfl rfl)
theorem dX6_wants_1 : decode cX6_wants 1 = .ok (.lookupswitch 65 #[(98, 59), (105, 59), (108, 61), (112, 63), (120, 59), (121, 59)], 59) := by decide +kernel
theorem dX6_wants_60 : decode cX6_wants 60 = .ok (.iconst 0, 1) := dk_3 (dk_at dksX6_wants_2 0 rfl rfl)
theorem dX6_wants_61 : decode cX6_wants 61 = .ok (.ireturn, 1) := dk_172 (dk_at dksX6_wants_2 1 rfl rfl)
theorem dX6_wants_62 : decode cX6_wants 62 = .ok (.iconst 1, 1) := dk_4 (dk_at dksX6_wants_2 2 rfl rfl)
theorem dX6_wants_63 : decode cX6_wants 63 = .ok (.ireturn, 1) := dk_172 (dk_at dksX6_wants_2 3 rfl rfl)
theorem dX6_wants_64 : decode cX6_wants 64 = .ok (.iconst 2, 1) := dk_5 (dk_at dksX6_wants_2 4 rfl rfl)
theorem dX6_wants_65 : decode cX6_wants 65 = .ok (.ireturn, 1) := dk_172 (dk_at dksX6_wants_2 5 rfl rfl)
theorem dX6_wants_66 : decode cX6_wants 66 = .ok (.iconst (-1), 1) := dk_2 (dk_at dksX6_wants_2 6 rfl rfl)
theorem dX6_wants_67 : decode cX6_wants 67 = .ok (.ireturn, 1) := dk_172 (dk_at dksX6_wants_2 7 rfl rfl)
abbrev cX6_readConditions : ByteArray := prog_13_method_18_code
def yX6_readConditions : MethodName := ⟨RX6, "readConditions", "(II)I"⟩
def dkwX6_readConditions_6 : List UInt8 := [28, 92, 46, 4, 96, 79, 132, 3, 2, 167, 255, 144, 29, 172]
abbrev dktX6_readConditions_6 : List UInt8 := dkwX6_readConditions_6 ++ []
def dkwX6_readConditions_5 : List UInt8 := [182, 0, 168, 172, 42, 180, 0, 77, 5, 28, 104, 42, 180, 0, 74, 28, 46, 96, 29, 79, 42, 180, 0, 74]
abbrev dktX6_readConditions_5 : List UInt8 := dkwX6_readConditions_5 ++ dktX6_readConditions_6
def dkwX6_readConditions_4 : List UInt8 := [153, 0, 18, 42, 28, 42, 29, 4, 96, 182, 0, 154, 182, 0, 177, 154, 0, 11, 42, 29, 4, 96]
abbrev dktX6_readConditions_4 : List UInt8 := dkwX6_readConditions_4 ++ dktX6_readConditions_5
def dkwX6_readConditions_3 : List UInt8 := [42, 180, 0, 162, 161, 0, 9, 42, 29, 182, 0, 168, 172, 42, 29, 4, 96, 182, 0, 154, 184, 0, 181]
abbrev dktX6_readConditions_3 : List UInt8 := dkwX6_readConditions_3 ++ dktX6_readConditions_4
def dkwX6_readConditions_2 : List UInt8 := [21, 4, 153, 0, 103, 42, 29, 182, 0, 165, 3, 16, 9, 184, 0, 146, 153, 0, 89, 42, 29, 182, 0, 165]
abbrev dktX6_readConditions_2 : List UInt8 := dkwX6_readConditions_2 ++ dktX6_readConditions_3
def dkwX6_readConditions_1 : List UInt8 := [182, 0, 177, 153, 0, 7, 4, 167, 0, 4, 3, 54, 4, 42, 180, 0, 74, 28, 46, 5, 162, 0, 108]
abbrev dktX6_readConditions_1 : List UInt8 := dkwX6_readConditions_1 ++ dktX6_readConditions_2
def dkwX6_readConditions_0 : List UInt8 := [27, 62, 42, 180, 0, 74, 28, 3, 79, 42, 28, 16, 120, 182, 0, 177, 154, 0, 13, 42, 28, 16, 121]
abbrev dktX6_readConditions_0 : List UInt8 := dkwX6_readConditions_0 ++ dktX6_readConditions_1
theorem dksX6_readConditions_0 : cX6_readConditions.data.toList.drop 0 = dktX6_readConditions_0 := by decide +kernel
theorem dksX6_readConditions_1 : cX6_readConditions.data.toList.drop 23 = dktX6_readConditions_1 := dk_seg dksX6_readConditions_0 23 rfl rfl
theorem dksX6_readConditions_2 : cX6_readConditions.data.toList.drop 46 = dktX6_readConditions_2 := dk_seg dksX6_readConditions_1 23 rfl rfl
theorem dksX6_readConditions_3 : cX6_readConditions.data.toList.drop 70 = dktX6_readConditions_3 := dk_seg dksX6_readConditions_2 24 rfl rfl
theorem dksX6_readConditions_4 : cX6_readConditions.data.toList.drop 93 = dktX6_readConditions_4 := dk_seg dksX6_readConditions_3 23 rfl rfl
theorem dksX6_readConditions_5 : cX6_readConditions.data.toList.drop 115 = dktX6_readConditions_5 := dk_seg dksX6_readConditions_4 22 rfl rfl
theorem dksX6_readConditions_6 : cX6_readConditions.data.toList.drop 139 = dktX6_readConditions_6 := dk_seg dksX6_readConditions_5 24 rfl rfl
theorem dX6_readConditions_0 : decode cX6_readConditions 0 = .ok (.iload_n 1, 1) := dk_27 (dk_at dksX6_readConditions_0 0 rfl rfl)
theorem dX6_readConditions_1 : decode cX6_readConditions 1 = .ok (.istore_n 3, 1) := dk_62 (dk_at dksX6_readConditions_0 1 rfl rfl)
theorem dX6_readConditions_2 : decode cX6_readConditions 2 = .ok (.aload_n 0, 1) := dk_42 (dk_at dksX6_readConditions_0 2 rfl rfl)
theorem dX6_readConditions_3 : decode cX6_readConditions 3 = .ok (.getfield 74, 3) := dk_180 0 74 (dk_at dksX6_readConditions_0 3 rfl rfl)
theorem dX6_readConditions_6 : decode cX6_readConditions 6 = .ok (.iload_n 2, 1) := dk_28 (dk_at dksX6_readConditions_0 6 rfl rfl)
theorem dX6_readConditions_7 : decode cX6_readConditions 7 = .ok (.iconst 0, 1) := dk_3 (dk_at dksX6_readConditions_0 7 rfl rfl)
theorem dX6_readConditions_8 : decode cX6_readConditions 8 = .ok (.iastore, 1) := dk_79 (dk_at dksX6_readConditions_0 8 rfl rfl)
theorem dX6_readConditions_9 : decode cX6_readConditions 9 = .ok (.aload_n 0, 1) := dk_42 (dk_at dksX6_readConditions_0 9 rfl rfl)
theorem dX6_readConditions_10 : decode cX6_readConditions 10 = .ok (.iload_n 2, 1) := dk_28 (dk_at dksX6_readConditions_0 10 rfl rfl)
theorem dX6_readConditions_11 : decode cX6_readConditions 11 = .ok (.bipush 120, 2) := dk_16 120 (dk_at dksX6_readConditions_0 11 rfl rfl)
theorem dX6_readConditions_13 : decode cX6_readConditions 13 = .ok (.invokevirtual 177, 3) := dk_182 0 177 (dk_at dksX6_readConditions_0 13 rfl rfl)
theorem dX6_readConditions_16 : decode cX6_readConditions 16 = .ok (.ifCond .ne 13, 3) := dk_154 0 13 (dk_at dksX6_readConditions_0 16 rfl rfl)
theorem dX6_readConditions_19 : decode cX6_readConditions 19 = .ok (.aload_n 0, 1) := dk_42 (dk_at dksX6_readConditions_0 19 rfl rfl)
theorem dX6_readConditions_20 : decode cX6_readConditions 20 = .ok (.iload_n 2, 1) := dk_28 (dk_at dksX6_readConditions_0 20 rfl rfl)
theorem dX6_readConditions_21 : decode cX6_readConditions 21 = .ok (.bipush 121, 2) := dk_16 121 (dk_at dksX6_readConditions_0 21 rfl rfl)
theorem dX6_readConditions_23 : decode cX6_readConditions 23 = .ok (.invokevirtual 177, 3) := dk_182 0 177 (dk_at dksX6_readConditions_1 0 rfl rfl)
theorem dX6_readConditions_26 : decode cX6_readConditions 26 = .ok (.ifCond .eq 7, 3) := dk_153 0 7 (dk_at dksX6_readConditions_1 3 rfl rfl)
theorem dX6_readConditions_29 : decode cX6_readConditions 29 = .ok (.iconst 1, 1) := dk_4 (dk_at dksX6_readConditions_1 6 rfl rfl)
theorem dX6_readConditions_30 : decode cX6_readConditions 30 = .ok (.goto 4, 3) := dk_167 0 4 (dk_at dksX6_readConditions_1 7 rfl rfl)
theorem dX6_readConditions_33 : decode cX6_readConditions 33 = .ok (.iconst 0, 1) := dk_3 (dk_at dksX6_readConditions_1 10 rfl rfl)
theorem dX6_readConditions_34 : decode cX6_readConditions 34 = .ok (.istore 4, 2) := dk_54 4 (dk_at dksX6_readConditions_1 11 rfl rfl)
theorem dX6_readConditions_36 : decode cX6_readConditions 36 = .ok (.aload_n 0, 1) := dk_42 (dk_at dksX6_readConditions_1 13 rfl rfl)
theorem dX6_readConditions_37 : decode cX6_readConditions 37 = .ok (.getfield 74, 3) := dk_180 0 74 (dk_at dksX6_readConditions_1 14 rfl rfl)
theorem dX6_readConditions_40 : decode cX6_readConditions 40 = .ok (.iload_n 2, 1) := dk_28 (dk_at dksX6_readConditions_1 17 rfl rfl)
theorem dX6_readConditions_41 : decode cX6_readConditions 41 = .ok (.iaload, 1) := dk_46 (dk_at dksX6_readConditions_1 18 rfl rfl)
theorem dX6_readConditions_42 : decode cX6_readConditions 42 = .ok (.iconst 2, 1) := dk_5 (dk_at dksX6_readConditions_1 19 rfl rfl)
theorem dX6_readConditions_43 : decode cX6_readConditions 43 = .ok (.if_icmp .ge 108, 3) := dk_162 0 108 (dk_at dksX6_readConditions_1 20 rfl rfl)
theorem dX6_readConditions_46 : decode cX6_readConditions 46 = .ok (.iload 4, 2) := dk_21 4 (dk_at dksX6_readConditions_2 0 rfl rfl)
theorem dX6_readConditions_48 : decode cX6_readConditions 48 = .ok (.ifCond .eq 103, 3) := dk_153 0 103 (dk_at dksX6_readConditions_2 2 rfl rfl)
theorem dX6_readConditions_51 : decode cX6_readConditions 51 = .ok (.aload_n 0, 1) := dk_42 (dk_at dksX6_readConditions_2 5 rfl rfl)
theorem dX6_readConditions_52 : decode cX6_readConditions 52 = .ok (.iload_n 3, 1) := dk_29 (dk_at dksX6_readConditions_2 6 rfl rfl)
theorem dX6_readConditions_53 : decode cX6_readConditions 53 = .ok (.invokevirtual 165, 3) := dk_182 0 165 (dk_at dksX6_readConditions_2 7 rfl rfl)
theorem dX6_readConditions_56 : decode cX6_readConditions 56 = .ok (.iconst 0, 1) := dk_3 (dk_at dksX6_readConditions_2 10 rfl rfl)
theorem dX6_readConditions_57 : decode cX6_readConditions 57 = .ok (.bipush 9, 2) := dk_16 9 (dk_at dksX6_readConditions_2 11 rfl rfl)
theorem dX6_readConditions_59 : decode cX6_readConditions 59 = .ok (.invokestatic 146, 3) := dk_184 0 146 (dk_at dksX6_readConditions_2 13 rfl rfl)
theorem dX6_readConditions_62 : decode cX6_readConditions 62 = .ok (.ifCond .eq 89, 3) := dk_153 0 89 (dk_at dksX6_readConditions_2 16 rfl rfl)
theorem dX6_readConditions_65 : decode cX6_readConditions 65 = .ok (.aload_n 0, 1) := dk_42 (dk_at dksX6_readConditions_2 19 rfl rfl)
theorem dX6_readConditions_66 : decode cX6_readConditions 66 = .ok (.iload_n 3, 1) := dk_29 (dk_at dksX6_readConditions_2 20 rfl rfl)
theorem dX6_readConditions_67 : decode cX6_readConditions 67 = .ok (.invokevirtual 165, 3) := dk_182 0 165 (dk_at dksX6_readConditions_2 21 rfl rfl)
theorem dX6_readConditions_70 : decode cX6_readConditions 70 = .ok (.aload_n 0, 1) := dk_42 (dk_at dksX6_readConditions_3 0 rfl rfl)
theorem dX6_readConditions_71 : decode cX6_readConditions 71 = .ok (.getfield 162, 3) := dk_180 0 162 (dk_at dksX6_readConditions_3 1 rfl rfl)
theorem dX6_readConditions_74 : decode cX6_readConditions 74 = .ok (.if_icmp .lt 9, 3) := dk_161 0 9 (dk_at dksX6_readConditions_3 4 rfl rfl)
theorem dX6_readConditions_77 : decode cX6_readConditions 77 = .ok (.aload_n 0, 1) := dk_42 (dk_at dksX6_readConditions_3 7 rfl rfl)
theorem dX6_readConditions_78 : decode cX6_readConditions 78 = .ok (.iload_n 3, 1) := dk_29 (dk_at dksX6_readConditions_3 8 rfl rfl)
theorem dX6_readConditions_79 : decode cX6_readConditions 79 = .ok (.invokevirtual 168, 3) := dk_182 0 168 (dk_at dksX6_readConditions_3 9 rfl rfl)
theorem dX6_readConditions_82 : decode cX6_readConditions 82 = .ok (.ireturn, 1) := dk_172 (dk_at dksX6_readConditions_3 12 rfl rfl)
theorem dX6_readConditions_83 : decode cX6_readConditions 83 = .ok (.aload_n 0, 1) := dk_42 (dk_at dksX6_readConditions_3 13 rfl rfl)
theorem dX6_readConditions_84 : decode cX6_readConditions 84 = .ok (.iload_n 3, 1) := dk_29 (dk_at dksX6_readConditions_3 14 rfl rfl)
theorem dX6_readConditions_85 : decode cX6_readConditions 85 = .ok (.iconst 1, 1) := dk_4 (dk_at dksX6_readConditions_3 15 rfl rfl)
theorem dX6_readConditions_86 : decode cX6_readConditions 86 = .ok (.iadd, 1) := dk_96 (dk_at dksX6_readConditions_3 16 rfl rfl)
theorem dX6_readConditions_87 : decode cX6_readConditions 87 = .ok (.invokevirtual 154, 3) := dk_182 0 154 (dk_at dksX6_readConditions_3 17 rfl rfl)
theorem dX6_readConditions_90 : decode cX6_readConditions 90 = .ok (.invokestatic 181, 3) := dk_184 0 181 (dk_at dksX6_readConditions_3 20 rfl rfl)
theorem dX6_readConditions_93 : decode cX6_readConditions 93 = .ok (.ifCond .eq 18, 3) := dk_153 0 18 (dk_at dksX6_readConditions_4 0 rfl rfl)
theorem dX6_readConditions_96 : decode cX6_readConditions 96 = .ok (.aload_n 0, 1) := dk_42 (dk_at dksX6_readConditions_4 3 rfl rfl)
theorem dX6_readConditions_97 : decode cX6_readConditions 97 = .ok (.iload_n 2, 1) := dk_28 (dk_at dksX6_readConditions_4 4 rfl rfl)
theorem dX6_readConditions_98 : decode cX6_readConditions 98 = .ok (.aload_n 0, 1) := dk_42 (dk_at dksX6_readConditions_4 5 rfl rfl)
theorem dX6_readConditions_99 : decode cX6_readConditions 99 = .ok (.iload_n 3, 1) := dk_29 (dk_at dksX6_readConditions_4 6 rfl rfl)
theorem dX6_readConditions_100 : decode cX6_readConditions 100 = .ok (.iconst 1, 1) := dk_4 (dk_at dksX6_readConditions_4 7 rfl rfl)
theorem dX6_readConditions_101 : decode cX6_readConditions 101 = .ok (.iadd, 1) := dk_96 (dk_at dksX6_readConditions_4 8 rfl rfl)
theorem dX6_readConditions_102 : decode cX6_readConditions 102 = .ok (.invokevirtual 154, 3) := dk_182 0 154 (dk_at dksX6_readConditions_4 9 rfl rfl)
theorem dX6_readConditions_105 : decode cX6_readConditions 105 = .ok (.invokevirtual 177, 3) := dk_182 0 177 (dk_at dksX6_readConditions_4 12 rfl rfl)
theorem dX6_readConditions_108 : decode cX6_readConditions 108 = .ok (.ifCond .ne 11, 3) := dk_154 0 11 (dk_at dksX6_readConditions_4 15 rfl rfl)
theorem dX6_readConditions_111 : decode cX6_readConditions 111 = .ok (.aload_n 0, 1) := dk_42 (dk_at dksX6_readConditions_4 18 rfl rfl)
theorem dX6_readConditions_112 : decode cX6_readConditions 112 = .ok (.iload_n 3, 1) := dk_29 (dk_at dksX6_readConditions_4 19 rfl rfl)
theorem dX6_readConditions_113 : decode cX6_readConditions 113 = .ok (.iconst 1, 1) := dk_4 (dk_at dksX6_readConditions_4 20 rfl rfl)
theorem dX6_readConditions_114 : decode cX6_readConditions 114 = .ok (.iadd, 1) := dk_96 (dk_at dksX6_readConditions_4 21 rfl rfl)
theorem dX6_readConditions_115 : decode cX6_readConditions 115 = .ok (.invokevirtual 168, 3) := dk_182 0 168 (dk_at dksX6_readConditions_5 0 rfl rfl)
theorem dX6_readConditions_118 : decode cX6_readConditions 118 = .ok (.ireturn, 1) := dk_172 (dk_at dksX6_readConditions_5 3 rfl rfl)
theorem dX6_readConditions_119 : decode cX6_readConditions 119 = .ok (.aload_n 0, 1) := dk_42 (dk_at dksX6_readConditions_5 4 rfl rfl)
theorem dX6_readConditions_120 : decode cX6_readConditions 120 = .ok (.getfield 77, 3) := dk_180 0 77 (dk_at dksX6_readConditions_5 5 rfl rfl)
theorem dX6_readConditions_123 : decode cX6_readConditions 123 = .ok (.iconst 2, 1) := dk_5 (dk_at dksX6_readConditions_5 8 rfl rfl)
theorem dX6_readConditions_124 : decode cX6_readConditions 124 = .ok (.iload_n 2, 1) := dk_28 (dk_at dksX6_readConditions_5 9 rfl rfl)
theorem dX6_readConditions_125 : decode cX6_readConditions 125 = .ok (.imul, 1) := dk_104 (dk_at dksX6_readConditions_5 10 rfl rfl)
theorem dX6_readConditions_126 : decode cX6_readConditions 126 = .ok (.aload_n 0, 1) := dk_42 (dk_at dksX6_readConditions_5 11 rfl rfl)
theorem dX6_readConditions_127 : decode cX6_readConditions 127 = .ok (.getfield 74, 3) := dk_180 0 74 (dk_at dksX6_readConditions_5 12 rfl rfl)
theorem dX6_readConditions_130 : decode cX6_readConditions 130 = .ok (.iload_n 2, 1) := dk_28 (dk_at dksX6_readConditions_5 15 rfl rfl)
theorem dX6_readConditions_131 : decode cX6_readConditions 131 = .ok (.iaload, 1) := dk_46 (dk_at dksX6_readConditions_5 16 rfl rfl)
theorem dX6_readConditions_132 : decode cX6_readConditions 132 = .ok (.iadd, 1) := dk_96 (dk_at dksX6_readConditions_5 17 rfl rfl)
theorem dX6_readConditions_133 : decode cX6_readConditions 133 = .ok (.iload_n 3, 1) := dk_29 (dk_at dksX6_readConditions_5 18 rfl rfl)
theorem dX6_readConditions_134 : decode cX6_readConditions 134 = .ok (.iastore, 1) := dk_79 (dk_at dksX6_readConditions_5 19 rfl rfl)
theorem dX6_readConditions_135 : decode cX6_readConditions 135 = .ok (.aload_n 0, 1) := dk_42 (dk_at dksX6_readConditions_5 20 rfl rfl)
theorem dX6_readConditions_136 : decode cX6_readConditions 136 = .ok (.getfield 74, 3) := dk_180 0 74 (dk_at dksX6_readConditions_5 21 rfl rfl)
theorem dX6_readConditions_139 : decode cX6_readConditions 139 = .ok (.iload_n 2, 1) := dk_28 (dk_at dksX6_readConditions_6 0 rfl rfl)
theorem dX6_readConditions_140 : decode cX6_readConditions 140 = .ok (.dup2, 1) := dk_92 (dk_at dksX6_readConditions_6 1 rfl rfl)
theorem dX6_readConditions_141 : decode cX6_readConditions 141 = .ok (.iaload, 1) := dk_46 (dk_at dksX6_readConditions_6 2 rfl rfl)
theorem dX6_readConditions_142 : decode cX6_readConditions 142 = .ok (.iconst 1, 1) := dk_4 (dk_at dksX6_readConditions_6 3 rfl rfl)
theorem dX6_readConditions_143 : decode cX6_readConditions 143 = .ok (.iadd, 1) := dk_96 (dk_at dksX6_readConditions_6 4 rfl rfl)
theorem dX6_readConditions_144 : decode cX6_readConditions 144 = .ok (.iastore, 1) := dk_79 (dk_at dksX6_readConditions_6 5 rfl rfl)
theorem dX6_readConditions_145 : decode cX6_readConditions 145 = .ok (.iinc 3 2, 3) := dk_132 3 2 (dk_at dksX6_readConditions_6 6 rfl rfl)
theorem dX6_readConditions_148 : decode cX6_readConditions 148 = .ok (.goto (-112), 3) := dk_167 255 144 (dk_at dksX6_readConditions_6 9 rfl rfl)
theorem dX6_readConditions_151 : decode cX6_readConditions 151 = .ok (.iload_n 3, 1) := dk_29 (dk_at dksX6_readConditions_6 12 rfl rfl)
theorem dX6_readConditions_152 : decode cX6_readConditions 152 = .ok (.ireturn, 1) := dk_172 (dk_at dksX6_readConditions_6 13 rfl rfl)
abbrev cX6_isInHead : ByteArray := prog_13_method_17_code
def yX6_isInHead : MethodName := ⟨RX6, "isInHead", "(II)Z"⟩
def dkwX6_isInHead_2 : List UInt8 := [167, 255, 215, 29, 172]
abbrev dktX6_isInHead_2 : List UInt8 := dkwX6_isInHead_2 ++ []
def dkwX6_isInHead_1 : List UInt8 := [180, 0, 68, 27, 46, 21, 4, 96, 182, 0, 154, 28, 160, 0, 7, 4, 167, 0, 4, 3, 62, 132, 4, 1]
abbrev dktX6_isInHead_1 : List UInt8 := dkwX6_isInHead_1 ++ dktX6_isInHead_2
def dkwX6_isInHead_0 : List UInt8 := [3, 62, 3, 54, 4, 21, 4, 42, 180, 0, 71, 27, 46, 162, 0, 36, 29, 154, 0, 20, 42, 42]
abbrev dktX6_isInHead_0 : List UInt8 := dkwX6_isInHead_0 ++ dktX6_isInHead_1
theorem dksX6_isInHead_0 : cX6_isInHead.data.toList.drop 0 = dktX6_isInHead_0 := by decide +kernel
theorem dksX6_isInHead_1 : cX6_isInHead.data.toList.drop 22 = dktX6_isInHead_1 := dk_seg dksX6_isInHead_0 22 rfl rfl
theorem dksX6_isInHead_2 : cX6_isInHead.data.toList.drop 46 = dktX6_isInHead_2 := dk_seg dksX6_isInHead_1 24 rfl rfl
theorem dX6_isInHead_0 : decode cX6_isInHead 0 = .ok (.iconst 0, 1) := dk_3 (dk_at dksX6_isInHead_0 0 rfl rfl)
theorem dX6_isInHead_1 : decode cX6_isInHead 1 = .ok (.istore_n 3, 1) := dk_62 (dk_at dksX6_isInHead_0 1 rfl rfl)
theorem dX6_isInHead_2 : decode cX6_isInHead 2 = .ok (.iconst 0, 1) := dk_3 (dk_at dksX6_isInHead_0 2 rfl rfl)
theorem dX6_isInHead_3 : decode cX6_isInHead 3 = .ok (.istore 4, 2) := dk_54 4 (dk_at dksX6_isInHead_0 3 rfl rfl)
theorem dX6_isInHead_5 : decode cX6_isInHead 5 = .ok (.iload 4, 2) := dk_21 4 (dk_at dksX6_isInHead_0 5 rfl rfl)
theorem dX6_isInHead_7 : decode cX6_isInHead 7 = .ok (.aload_n 0, 1) := dk_42 (dk_at dksX6_isInHead_0 7 rfl rfl)
theorem dX6_isInHead_8 : decode cX6_isInHead 8 = .ok (.getfield 71, 3) := dk_180 0 71 (dk_at dksX6_isInHead_0 8 rfl rfl)
theorem dX6_isInHead_11 : decode cX6_isInHead 11 = .ok (.iload_n 1, 1) := dk_27 (dk_at dksX6_isInHead_0 11 rfl rfl)
theorem dX6_isInHead_12 : decode cX6_isInHead 12 = .ok (.iaload, 1) := dk_46 (dk_at dksX6_isInHead_0 12 rfl rfl)
theorem dX6_isInHead_13 : decode cX6_isInHead 13 = .ok (.if_icmp .ge 36, 3) := dk_162 0 36 (dk_at dksX6_isInHead_0 13 rfl rfl)
theorem dX6_isInHead_16 : decode cX6_isInHead 16 = .ok (.iload_n 3, 1) := dk_29 (dk_at dksX6_isInHead_0 16 rfl rfl)
theorem dX6_isInHead_17 : decode cX6_isInHead 17 = .ok (.ifCond .ne 20, 3) := dk_154 0 20 (dk_at dksX6_isInHead_0 17 rfl rfl)
theorem dX6_isInHead_20 : decode cX6_isInHead 20 = .ok (.aload_n 0, 1) := dk_42 (dk_at dksX6_isInHead_0 20 rfl rfl)
theorem dX6_isInHead_21 : decode cX6_isInHead 21 = .ok (.aload_n 0, 1) := dk_42 (dk_at dksX6_isInHead_0 21 rfl rfl)
theorem dX6_isInHead_22 : decode cX6_isInHead 22 = .ok (.getfield 68, 3) := dk_180 0 68 (dk_at dksX6_isInHead_1 0 rfl rfl)
theorem dX6_isInHead_25 : decode cX6_isInHead 25 = .ok (.iload_n 1, 1) := dk_27 (dk_at dksX6_isInHead_1 3 rfl rfl)
theorem dX6_isInHead_26 : decode cX6_isInHead 26 = .ok (.iaload, 1) := dk_46 (dk_at dksX6_isInHead_1 4 rfl rfl)
theorem dX6_isInHead_27 : decode cX6_isInHead 27 = .ok (.iload 4, 2) := dk_21 4 (dk_at dksX6_isInHead_1 5 rfl rfl)
theorem dX6_isInHead_29 : decode cX6_isInHead 29 = .ok (.iadd, 1) := dk_96 (dk_at dksX6_isInHead_1 7 rfl rfl)
theorem dX6_isInHead_30 : decode cX6_isInHead 30 = .ok (.invokevirtual 154, 3) := dk_182 0 154 (dk_at dksX6_isInHead_1 8 rfl rfl)
theorem dX6_isInHead_33 : decode cX6_isInHead 33 = .ok (.iload_n 2, 1) := dk_28 (dk_at dksX6_isInHead_1 11 rfl rfl)
theorem dX6_isInHead_34 : decode cX6_isInHead 34 = .ok (.if_icmp .ne 7, 3) := dk_160 0 7 (dk_at dksX6_isInHead_1 12 rfl rfl)
theorem dX6_isInHead_37 : decode cX6_isInHead 37 = .ok (.iconst 1, 1) := dk_4 (dk_at dksX6_isInHead_1 15 rfl rfl)
theorem dX6_isInHead_38 : decode cX6_isInHead 38 = .ok (.goto 4, 3) := dk_167 0 4 (dk_at dksX6_isInHead_1 16 rfl rfl)
theorem dX6_isInHead_41 : decode cX6_isInHead 41 = .ok (.iconst 0, 1) := dk_3 (dk_at dksX6_isInHead_1 19 rfl rfl)
theorem dX6_isInHead_42 : decode cX6_isInHead 42 = .ok (.istore_n 3, 1) := dk_62 (dk_at dksX6_isInHead_1 20 rfl rfl)
theorem dX6_isInHead_43 : decode cX6_isInHead 43 = .ok (.iinc 4 1, 3) := dk_132 4 1 (dk_at dksX6_isInHead_1 21 rfl rfl)
theorem dX6_isInHead_46 : decode cX6_isInHead 46 = .ok (.goto (-41), 3) := dk_167 255 215 (dk_at dksX6_isInHead_2 0 rfl rfl)
theorem dX6_isInHead_49 : decode cX6_isInHead 49 = .ok (.iload_n 3, 1) := dk_29 (dk_at dksX6_isInHead_2 3 rfl rfl)
theorem dX6_isInHead_50 : decode cX6_isInHead 50 = .ok (.ireturn, 1) := dk_172 (dk_at dksX6_isInHead_2 4 rfl rfl)
abbrev cX6_isVariable : ByteArray := prog_13_method_6_code
def yX6_isVariable : MethodName := ⟨RX6, "isVariable", "(I)Z"⟩
def dkwX6_isVariable_0 : List UInt8 := [26, 16, 120, 159, 0, 9, 26, 16, 121, 160, 0, 7, 4, 167, 0, 4, 3, 172]
abbrev dktX6_isVariable_0 : List UInt8 := dkwX6_isVariable_0 ++ []
theorem dksX6_isVariable_0 : cX6_isVariable.data.toList.drop 0 = dktX6_isVariable_0 := by decide +kernel
theorem dX6_isVariable_0 : decode cX6_isVariable 0 = .ok (.iload_n 0, 1) := dk_26 (dk_at dksX6_isVariable_0 0 rfl rfl)
theorem dX6_isVariable_1 : decode cX6_isVariable 1 = .ok (.bipush 120, 2) := dk_16 120 (dk_at dksX6_isVariable_0 1 rfl rfl)
theorem dX6_isVariable_3 : decode cX6_isVariable 3 = .ok (.if_icmp .eq 9, 3) := dk_159 0 9 (dk_at dksX6_isVariable_0 3 rfl rfl)
theorem dX6_isVariable_6 : decode cX6_isVariable 6 = .ok (.iload_n 0, 1) := dk_26 (dk_at dksX6_isVariable_0 6 rfl rfl)
theorem dX6_isVariable_7 : decode cX6_isVariable 7 = .ok (.bipush 121, 2) := dk_16 121 (dk_at dksX6_isVariable_0 7 rfl rfl)
theorem dX6_isVariable_9 : decode cX6_isVariable 9 = .ok (.if_icmp .ne 7, 3) := dk_160 0 7 (dk_at dksX6_isVariable_0 9 rfl rfl)
theorem dX6_isVariable_12 : decode cX6_isVariable 12 = .ok (.iconst 1, 1) := dk_4 (dk_at dksX6_isVariable_0 12 rfl rfl)
theorem dX6_isVariable_13 : decode cX6_isVariable 13 = .ok (.goto 4, 3) := dk_167 0 4 (dk_at dksX6_isVariable_0 13 rfl rfl)
theorem dX6_isVariable_16 : decode cX6_isVariable 16 = .ok (.iconst 0, 1) := dk_3 (dk_at dksX6_isVariable_0 16 rfl rfl)
theorem dX6_isVariable_17 : decode cX6_isVariable 17 = .ok (.ireturn, 1) := dk_172 (dk_at dksX6_isVariable_0 17 rfl rfl)
abbrev cX6_book : ByteArray := prog_13_method_22_code
def yX6_book : MethodName := ⟨RX6, "book", "()I"⟩
def dkwX6_book_7 : List UInt8 := [4, 96, 181, 0, 227, 42, 3, 181, 0, 230, 42, 3, 181, 0, 150, 42, 180, 0, 217, 172]
abbrev dktX6_book_7 : List UInt8 := dkwX6_book_7 ++ []
def dkwX6_book_6 : List UInt8 := [60, 27, 7, 162, 0, 16, 42, 180, 0, 43, 27, 3, 79, 132, 1, 1, 167, 255, 241, 42, 89, 180, 0, 227]
abbrev dktX6_book_6 : List UInt8 := dkwX6_book_6 ++ dktX6_book_7
def dkwX6_book_5 : List UInt8 := [27, 42, 180, 0, 217, 162, 0, 14, 42, 27, 182, 0, 220, 132, 1, 1, 167, 255, 240, 42, 182, 0, 224, 3]
abbrev dktX6_book_5 : List UInt8 := dkwX6_book_5 ++ dktX6_book_6
def dkwX6_book_4 : List UInt8 := [128, 79, 132, 2, 1, 167, 255, 216, 132, 1, 1, 167, 255, 176, 42, 42, 180, 0, 185, 181, 0, 217, 3, 60]
abbrev dktX6_book_4 : List UInt8 := dkwX6_book_4 ++ dktX6_book_5
def dkwX6_book_3 : List UInt8 := [46, 42, 180, 0, 59, 27, 46, 28, 184, 0, 214, 153, 0, 12, 42, 180, 0, 13, 28, 46, 167, 0, 4, 3]
abbrev dktX6_book_3 : List UInt8 := dkwX6_book_3 ++ dktX6_book_4
def dkwX6_book_2 : List UInt8 := [180, 0, 13, 27, 42, 180, 0, 59, 27, 46, 79, 3, 61, 28, 27, 162, 0, 41, 42, 180, 0, 13, 27, 92]
abbrev dktX6_book_2 : List UInt8 := dkwX6_book_2 ++ dktX6_book_3
def dkwX6_book_1 : List UInt8 := [60, 27, 42, 180, 0, 211, 162, 0, 78, 42, 180, 0, 7, 27, 42, 180, 0, 59, 27, 46, 79, 42]
abbrev dktX6_book_1 : List UInt8 := dkwX6_book_1 ++ dktX6_book_2
def dkwX6_book_0 : List UInt8 := [42, 182, 0, 208, 87, 42, 180, 0, 198, 154, 0, 6, 16, 153, 172, 42, 42, 180, 0, 162, 181, 0, 211, 3]
abbrev dktX6_book_0 : List UInt8 := dkwX6_book_0 ++ dktX6_book_1
theorem dksX6_book_0 : cX6_book.data.toList.drop 0 = dktX6_book_0 := by decide +kernel
theorem dksX6_book_1 : cX6_book.data.toList.drop 24 = dktX6_book_1 := dk_seg dksX6_book_0 24 rfl rfl
theorem dksX6_book_2 : cX6_book.data.toList.drop 46 = dktX6_book_2 := dk_seg dksX6_book_1 22 rfl rfl
theorem dksX6_book_3 : cX6_book.data.toList.drop 70 = dktX6_book_3 := dk_seg dksX6_book_2 24 rfl rfl
theorem dksX6_book_4 : cX6_book.data.toList.drop 94 = dktX6_book_4 := dk_seg dksX6_book_3 24 rfl rfl
theorem dksX6_book_5 : cX6_book.data.toList.drop 118 = dktX6_book_5 := dk_seg dksX6_book_4 24 rfl rfl
theorem dksX6_book_6 : cX6_book.data.toList.drop 142 = dktX6_book_6 := dk_seg dksX6_book_5 24 rfl rfl
theorem dksX6_book_7 : cX6_book.data.toList.drop 166 = dktX6_book_7 := dk_seg dksX6_book_6 24 rfl rfl
theorem dX6_book_0 : decode cX6_book 0 = .ok (.aload_n 0, 1) := dk_42 (dk_at dksX6_book_0 0 rfl rfl)
theorem dX6_book_1 : decode cX6_book 1 = .ok (.invokevirtual 208, 3) := dk_182 0 208 (dk_at dksX6_book_0 1 rfl rfl)
theorem dX6_book_4 : decode cX6_book 4 = .ok (.pop, 1) := dk_87 (dk_at dksX6_book_0 4 rfl rfl)
theorem dX6_book_5 : decode cX6_book 5 = .ok (.aload_n 0, 1) := dk_42 (dk_at dksX6_book_0 5 rfl rfl)
theorem dX6_book_6 : decode cX6_book 6 = .ok (.getfield 198, 3) := dk_180 0 198 (dk_at dksX6_book_0 6 rfl rfl)
theorem dX6_book_9 : decode cX6_book 9 = .ok (.ifCond .ne 6, 3) := dk_154 0 6 (dk_at dksX6_book_0 9 rfl rfl)
theorem dX6_book_12 : decode cX6_book 12 = .ok (.bipush (-103), 2) := dk_16 153 (dk_at dksX6_book_0 12 rfl rfl)
theorem dX6_book_14 : decode cX6_book 14 = .ok (.ireturn, 1) := dk_172 (dk_at dksX6_book_0 14 rfl rfl)
theorem dX6_book_15 : decode cX6_book 15 = .ok (.aload_n 0, 1) := dk_42 (dk_at dksX6_book_0 15 rfl rfl)
theorem dX6_book_16 : decode cX6_book 16 = .ok (.aload_n 0, 1) := dk_42 (dk_at dksX6_book_0 16 rfl rfl)
theorem dX6_book_17 : decode cX6_book 17 = .ok (.getfield 162, 3) := dk_180 0 162 (dk_at dksX6_book_0 17 rfl rfl)
theorem dX6_book_20 : decode cX6_book 20 = .ok (.putfield 211, 3) := dk_181 0 211 (dk_at dksX6_book_0 20 rfl rfl)
theorem dX6_book_23 : decode cX6_book 23 = .ok (.iconst 0, 1) := dk_3 (dk_at dksX6_book_0 23 rfl rfl)
theorem dX6_book_24 : decode cX6_book 24 = .ok (.istore_n 1, 1) := dk_60 (dk_at dksX6_book_1 0 rfl rfl)
theorem dX6_book_25 : decode cX6_book 25 = .ok (.iload_n 1, 1) := dk_27 (dk_at dksX6_book_1 1 rfl rfl)
theorem dX6_book_26 : decode cX6_book 26 = .ok (.aload_n 0, 1) := dk_42 (dk_at dksX6_book_1 2 rfl rfl)
theorem dX6_book_27 : decode cX6_book 27 = .ok (.getfield 211, 3) := dk_180 0 211 (dk_at dksX6_book_1 3 rfl rfl)
theorem dX6_book_30 : decode cX6_book 30 = .ok (.if_icmp .ge 78, 3) := dk_162 0 78 (dk_at dksX6_book_1 6 rfl rfl)
theorem dX6_book_33 : decode cX6_book 33 = .ok (.aload_n 0, 1) := dk_42 (dk_at dksX6_book_1 9 rfl rfl)
theorem dX6_book_34 : decode cX6_book 34 = .ok (.getfield 7, 3) := dk_180 0 7 (dk_at dksX6_book_1 10 rfl rfl)
theorem dX6_book_37 : decode cX6_book 37 = .ok (.iload_n 1, 1) := dk_27 (dk_at dksX6_book_1 13 rfl rfl)
theorem dX6_book_38 : decode cX6_book 38 = .ok (.aload_n 0, 1) := dk_42 (dk_at dksX6_book_1 14 rfl rfl)
theorem dX6_book_39 : decode cX6_book 39 = .ok (.getfield 59, 3) := dk_180 0 59 (dk_at dksX6_book_1 15 rfl rfl)
theorem dX6_book_42 : decode cX6_book 42 = .ok (.iload_n 1, 1) := dk_27 (dk_at dksX6_book_1 18 rfl rfl)
theorem dX6_book_43 : decode cX6_book 43 = .ok (.iaload, 1) := dk_46 (dk_at dksX6_book_1 19 rfl rfl)
theorem dX6_book_44 : decode cX6_book 44 = .ok (.iastore, 1) := dk_79 (dk_at dksX6_book_1 20 rfl rfl)
theorem dX6_book_45 : decode cX6_book 45 = .ok (.aload_n 0, 1) := dk_42 (dk_at dksX6_book_1 21 rfl rfl)
theorem dX6_book_46 : decode cX6_book 46 = .ok (.getfield 13, 3) := dk_180 0 13 (dk_at dksX6_book_2 0 rfl rfl)
theorem dX6_book_49 : decode cX6_book 49 = .ok (.iload_n 1, 1) := dk_27 (dk_at dksX6_book_2 3 rfl rfl)
theorem dX6_book_50 : decode cX6_book 50 = .ok (.aload_n 0, 1) := dk_42 (dk_at dksX6_book_2 4 rfl rfl)
theorem dX6_book_51 : decode cX6_book 51 = .ok (.getfield 59, 3) := dk_180 0 59 (dk_at dksX6_book_2 5 rfl rfl)
theorem dX6_book_54 : decode cX6_book 54 = .ok (.iload_n 1, 1) := dk_27 (dk_at dksX6_book_2 8 rfl rfl)
theorem dX6_book_55 : decode cX6_book 55 = .ok (.iaload, 1) := dk_46 (dk_at dksX6_book_2 9 rfl rfl)
theorem dX6_book_56 : decode cX6_book 56 = .ok (.iastore, 1) := dk_79 (dk_at dksX6_book_2 10 rfl rfl)
theorem dX6_book_57 : decode cX6_book 57 = .ok (.iconst 0, 1) := dk_3 (dk_at dksX6_book_2 11 rfl rfl)
theorem dX6_book_58 : decode cX6_book 58 = .ok (.istore_n 2, 1) := dk_61 (dk_at dksX6_book_2 12 rfl rfl)
theorem dX6_book_59 : decode cX6_book 59 = .ok (.iload_n 2, 1) := dk_28 (dk_at dksX6_book_2 13 rfl rfl)
theorem dX6_book_60 : decode cX6_book 60 = .ok (.iload_n 1, 1) := dk_27 (dk_at dksX6_book_2 14 rfl rfl)
theorem dX6_book_61 : decode cX6_book 61 = .ok (.if_icmp .ge 41, 3) := dk_162 0 41 (dk_at dksX6_book_2 15 rfl rfl)
theorem dX6_book_64 : decode cX6_book 64 = .ok (.aload_n 0, 1) := dk_42 (dk_at dksX6_book_2 18 rfl rfl)
theorem dX6_book_65 : decode cX6_book 65 = .ok (.getfield 13, 3) := dk_180 0 13 (dk_at dksX6_book_2 19 rfl rfl)
theorem dX6_book_68 : decode cX6_book 68 = .ok (.iload_n 1, 1) := dk_27 (dk_at dksX6_book_2 22 rfl rfl)
theorem dX6_book_69 : decode cX6_book 69 = .ok (.dup2, 1) := dk_92 (dk_at dksX6_book_2 23 rfl rfl)
theorem dX6_book_70 : decode cX6_book 70 = .ok (.iaload, 1) := dk_46 (dk_at dksX6_book_3 0 rfl rfl)
theorem dX6_book_71 : decode cX6_book 71 = .ok (.aload_n 0, 1) := dk_42 (dk_at dksX6_book_3 1 rfl rfl)
theorem dX6_book_72 : decode cX6_book 72 = .ok (.getfield 59, 3) := dk_180 0 59 (dk_at dksX6_book_3 2 rfl rfl)
theorem dX6_book_75 : decode cX6_book 75 = .ok (.iload_n 1, 1) := dk_27 (dk_at dksX6_book_3 5 rfl rfl)
theorem dX6_book_76 : decode cX6_book 76 = .ok (.iaload, 1) := dk_46 (dk_at dksX6_book_3 6 rfl rfl)
theorem dX6_book_77 : decode cX6_book 77 = .ok (.iload_n 2, 1) := dk_28 (dk_at dksX6_book_3 7 rfl rfl)
theorem dX6_book_78 : decode cX6_book 78 = .ok (.invokestatic 214, 3) := dk_184 0 214 (dk_at dksX6_book_3 8 rfl rfl)
theorem dX6_book_81 : decode cX6_book 81 = .ok (.ifCond .eq 12, 3) := dk_153 0 12 (dk_at dksX6_book_3 11 rfl rfl)
theorem dX6_book_84 : decode cX6_book 84 = .ok (.aload_n 0, 1) := dk_42 (dk_at dksX6_book_3 14 rfl rfl)
theorem dX6_book_85 : decode cX6_book 85 = .ok (.getfield 13, 3) := dk_180 0 13 (dk_at dksX6_book_3 15 rfl rfl)
theorem dX6_book_88 : decode cX6_book 88 = .ok (.iload_n 2, 1) := dk_28 (dk_at dksX6_book_3 18 rfl rfl)
theorem dX6_book_89 : decode cX6_book 89 = .ok (.iaload, 1) := dk_46 (dk_at dksX6_book_3 19 rfl rfl)
theorem dX6_book_90 : decode cX6_book 90 = .ok (.goto 4, 3) := dk_167 0 4 (dk_at dksX6_book_3 20 rfl rfl)
theorem dX6_book_93 : decode cX6_book 93 = .ok (.iconst 0, 1) := dk_3 (dk_at dksX6_book_3 23 rfl rfl)
theorem dX6_book_94 : decode cX6_book 94 = .ok (.ior, 1) := dk_128 (dk_at dksX6_book_4 0 rfl rfl)
theorem dX6_book_95 : decode cX6_book 95 = .ok (.iastore, 1) := dk_79 (dk_at dksX6_book_4 1 rfl rfl)
theorem dX6_book_96 : decode cX6_book 96 = .ok (.iinc 2 1, 3) := dk_132 2 1 (dk_at dksX6_book_4 2 rfl rfl)
theorem dX6_book_99 : decode cX6_book 99 = .ok (.goto (-40), 3) := dk_167 255 216 (dk_at dksX6_book_4 5 rfl rfl)
theorem dX6_book_102 : decode cX6_book 102 = .ok (.iinc 1 1, 3) := dk_132 1 1 (dk_at dksX6_book_4 8 rfl rfl)
theorem dX6_book_105 : decode cX6_book 105 = .ok (.goto (-80), 3) := dk_167 255 176 (dk_at dksX6_book_4 11 rfl rfl)
theorem dX6_book_108 : decode cX6_book 108 = .ok (.aload_n 0, 1) := dk_42 (dk_at dksX6_book_4 14 rfl rfl)
theorem dX6_book_109 : decode cX6_book 109 = .ok (.aload_n 0, 1) := dk_42 (dk_at dksX6_book_4 15 rfl rfl)
theorem dX6_book_110 : decode cX6_book 110 = .ok (.getfield 185, 3) := dk_180 0 185 (dk_at dksX6_book_4 16 rfl rfl)
theorem dX6_book_113 : decode cX6_book 113 = .ok (.putfield 217, 3) := dk_181 0 217 (dk_at dksX6_book_4 19 rfl rfl)
theorem dX6_book_116 : decode cX6_book 116 = .ok (.iconst 0, 1) := dk_3 (dk_at dksX6_book_4 22 rfl rfl)
theorem dX6_book_117 : decode cX6_book 117 = .ok (.istore_n 1, 1) := dk_60 (dk_at dksX6_book_4 23 rfl rfl)
theorem dX6_book_118 : decode cX6_book 118 = .ok (.iload_n 1, 1) := dk_27 (dk_at dksX6_book_5 0 rfl rfl)
theorem dX6_book_119 : decode cX6_book 119 = .ok (.aload_n 0, 1) := dk_42 (dk_at dksX6_book_5 1 rfl rfl)
theorem dX6_book_120 : decode cX6_book 120 = .ok (.getfield 217, 3) := dk_180 0 217 (dk_at dksX6_book_5 2 rfl rfl)
theorem dX6_book_123 : decode cX6_book 123 = .ok (.if_icmp .ge 14, 3) := dk_162 0 14 (dk_at dksX6_book_5 5 rfl rfl)
theorem dX6_book_126 : decode cX6_book 126 = .ok (.aload_n 0, 1) := dk_42 (dk_at dksX6_book_5 8 rfl rfl)
theorem dX6_book_127 : decode cX6_book 127 = .ok (.iload_n 1, 1) := dk_27 (dk_at dksX6_book_5 9 rfl rfl)
theorem dX6_book_128 : decode cX6_book 128 = .ok (.invokevirtual 220, 3) := dk_182 0 220 (dk_at dksX6_book_5 10 rfl rfl)
theorem dX6_book_131 : decode cX6_book 131 = .ok (.iinc 1 1, 3) := dk_132 1 1 (dk_at dksX6_book_5 13 rfl rfl)
theorem dX6_book_134 : decode cX6_book 134 = .ok (.goto (-16), 3) := dk_167 255 240 (dk_at dksX6_book_5 16 rfl rfl)
theorem dX6_book_137 : decode cX6_book 137 = .ok (.aload_n 0, 1) := dk_42 (dk_at dksX6_book_5 19 rfl rfl)
theorem dX6_book_138 : decode cX6_book 138 = .ok (.invokevirtual 224, 3) := dk_182 0 224 (dk_at dksX6_book_5 20 rfl rfl)
theorem dX6_book_141 : decode cX6_book 141 = .ok (.iconst 0, 1) := dk_3 (dk_at dksX6_book_5 23 rfl rfl)
theorem dX6_book_142 : decode cX6_book 142 = .ok (.istore_n 1, 1) := dk_60 (dk_at dksX6_book_6 0 rfl rfl)
theorem dX6_book_143 : decode cX6_book 143 = .ok (.iload_n 1, 1) := dk_27 (dk_at dksX6_book_6 1 rfl rfl)
theorem dX6_book_144 : decode cX6_book 144 = .ok (.iconst 4, 1) := dk_7 (dk_at dksX6_book_6 2 rfl rfl)
theorem dX6_book_145 : decode cX6_book 145 = .ok (.if_icmp .ge 16, 3) := dk_162 0 16 (dk_at dksX6_book_6 3 rfl rfl)
theorem dX6_book_148 : decode cX6_book 148 = .ok (.aload_n 0, 1) := dk_42 (dk_at dksX6_book_6 6 rfl rfl)
theorem dX6_book_149 : decode cX6_book 149 = .ok (.getfield 43, 3) := dk_180 0 43 (dk_at dksX6_book_6 7 rfl rfl)
theorem dX6_book_152 : decode cX6_book 152 = .ok (.iload_n 1, 1) := dk_27 (dk_at dksX6_book_6 10 rfl rfl)
theorem dX6_book_153 : decode cX6_book 153 = .ok (.iconst 0, 1) := dk_3 (dk_at dksX6_book_6 11 rfl rfl)
theorem dX6_book_154 : decode cX6_book 154 = .ok (.iastore, 1) := dk_79 (dk_at dksX6_book_6 12 rfl rfl)
theorem dX6_book_155 : decode cX6_book 155 = .ok (.iinc 1 1, 3) := dk_132 1 1 (dk_at dksX6_book_6 13 rfl rfl)
theorem dX6_book_158 : decode cX6_book 158 = .ok (.goto (-15), 3) := dk_167 255 241 (dk_at dksX6_book_6 16 rfl rfl)
theorem dX6_book_161 : decode cX6_book 161 = .ok (.aload_n 0, 1) := dk_42 (dk_at dksX6_book_6 19 rfl rfl)
theorem dX6_book_162 : decode cX6_book 162 = .ok (.dup, 1) := dk_89 (dk_at dksX6_book_6 20 rfl rfl)
theorem dX6_book_163 : decode cX6_book 163 = .ok (.getfield 227, 3) := dk_180 0 227 (dk_at dksX6_book_6 21 rfl rfl)
theorem dX6_book_166 : decode cX6_book 166 = .ok (.iconst 1, 1) := dk_4 (dk_at dksX6_book_7 0 rfl rfl)
theorem dX6_book_167 : decode cX6_book 167 = .ok (.iadd, 1) := dk_96 (dk_at dksX6_book_7 1 rfl rfl)
theorem dX6_book_168 : decode cX6_book 168 = .ok (.putfield 227, 3) := dk_181 0 227 (dk_at dksX6_book_7 2 rfl rfl)
theorem dX6_book_171 : decode cX6_book 171 = .ok (.aload_n 0, 1) := dk_42 (dk_at dksX6_book_7 5 rfl rfl)
theorem dX6_book_172 : decode cX6_book 172 = .ok (.iconst 0, 1) := dk_3 (dk_at dksX6_book_7 6 rfl rfl)
theorem dX6_book_173 : decode cX6_book 173 = .ok (.putfield 230, 3) := dk_181 0 230 (dk_at dksX6_book_7 7 rfl rfl)
theorem dX6_book_176 : decode cX6_book 176 = .ok (.aload_n 0, 1) := dk_42 (dk_at dksX6_book_7 10 rfl rfl)
theorem dX6_book_177 : decode cX6_book 177 = .ok (.iconst 0, 1) := dk_3 (dk_at dksX6_book_7 11 rfl rfl)
theorem dX6_book_178 : decode cX6_book 178 = .ok (.putfield 150, 3) := dk_181 0 150 (dk_at dksX6_book_7 12 rfl rfl)
theorem dX6_book_181 : decode cX6_book 181 = .ok (.aload_n 0, 1) := dk_42 (dk_at dksX6_book_7 15 rfl rfl)
theorem dX6_book_182 : decode cX6_book 182 = .ok (.getfield 217, 3) := dk_180 0 217 (dk_at dksX6_book_7 16 rfl rfl)
theorem dX6_book_185 : decode cX6_book 185 = .ok (.ireturn, 1) := dk_172 (dk_at dksX6_book_7 19 rfl rfl)
abbrev cX6_isIn : ByteArray := prog_13_method_4_code
def yX6_isIn : MethodName := ⟨RX6, "isIn", "(II)Z"⟩
def dkwX6_isIn_0 : List UInt8 := [26, 27, 122, 4, 126, 4, 160, 0, 7, 4, 167, 0, 4, 3, 172]
abbrev dktX6_isIn_0 : List UInt8 := dkwX6_isIn_0 ++ []
theorem dksX6_isIn_0 : cX6_isIn.data.toList.drop 0 = dktX6_isIn_0 := by decide +kernel
theorem dX6_isIn_0 : decode cX6_isIn 0 = .ok (.iload_n 0, 1) := dk_26 (dk_at dksX6_isIn_0 0 rfl rfl)
theorem dX6_isIn_1 : decode cX6_isIn 1 = .ok (.iload_n 1, 1) := dk_27 (dk_at dksX6_isIn_0 1 rfl rfl)
theorem dX6_isIn_2 : decode cX6_isIn 2 = .ok (.ishr, 1) := dk_122 (dk_at dksX6_isIn_0 2 rfl rfl)
theorem dX6_isIn_3 : decode cX6_isIn 3 = .ok (.iconst 1, 1) := dk_4 (dk_at dksX6_isIn_0 3 rfl rfl)
theorem dX6_isIn_4 : decode cX6_isIn 4 = .ok (.iand, 1) := dk_126 (dk_at dksX6_isIn_0 4 rfl rfl)
theorem dX6_isIn_5 : decode cX6_isIn 5 = .ok (.iconst 1, 1) := dk_4 (dk_at dksX6_isIn_0 5 rfl rfl)
theorem dX6_isIn_6 : decode cX6_isIn 6 = .ok (.if_icmp .ne 7, 3) := dk_160 0 7 (dk_at dksX6_isIn_0 6 rfl rfl)
theorem dX6_isIn_9 : decode cX6_isIn 9 = .ok (.iconst 1, 1) := dk_4 (dk_at dksX6_isIn_0 9 rfl rfl)
theorem dX6_isIn_10 : decode cX6_isIn 10 = .ok (.goto 4, 3) := dk_167 0 4 (dk_at dksX6_isIn_0 10 rfl rfl)
theorem dX6_isIn_13 : decode cX6_isIn 13 = .ok (.iconst 0, 1) := dk_3 (dk_at dksX6_isIn_0 13 rfl rfl)
theorem dX6_isIn_14 : decode cX6_isIn 14 = .ok (.ireturn, 1) := dk_172 (dk_at dksX6_isIn_0 14 rfl rfl)
abbrev cX6_takeInstance : ByteArray := prog_13_method_23_code
def yX6_takeInstance : MethodName := ⟨RX6, "takeInstance", "(I)V"⟩
def dkwX6_takeInstance_6 : List UInt8 := [182, 0, 154, 16, 120, 100, 79, 132, 2, 1, 167, 255, 197, 177]
abbrev dktX6_takeInstance_6 : List UInt8 := dkwX6_takeInstance_6 ++ []
def dkwX6_takeInstance_5 : List UInt8 := [27, 104, 28, 96, 42, 29, 182, 0, 165, 79, 42, 180, 0, 34, 5, 27, 104, 28, 96, 42, 29, 4, 96]
abbrev dktX6_takeInstance_5 : List UInt8 := dkwX6_takeInstance_5 ++ dktX6_takeInstance_6
def dkwX6_takeInstance_4 : List UInt8 := [180, 0, 28, 27, 46, 162, 0, 55, 42, 180, 0, 77, 5, 27, 104, 28, 96, 46, 62, 42, 180, 0, 31, 5]
abbrev dktX6_takeInstance_4 : List UInt8 := dkwX6_takeInstance_4 ++ dktX6_takeInstance_5
def dkwX6_takeInstance_3 : List UInt8 := [132, 2, 1, 167, 255, 221, 42, 180, 0, 28, 27, 42, 180, 0, 74, 27, 46, 79, 3, 61, 28, 42]
abbrev dktX6_takeInstance_3 : List UInt8 := dkwX6_takeInstance_3 ++ dktX6_takeInstance_4
def dkwX6_takeInstance_2 : List UInt8 := [42, 180, 0, 22, 8, 27, 104, 28, 96, 42, 42, 180, 0, 68, 27, 46, 28, 96, 182, 0, 154, 79]
abbrev dktX6_takeInstance_2 : List UInt8 := dkwX6_takeInstance_2 ++ dktX6_takeInstance_3
def dkwX6_takeInstance_1 : List UInt8 := [42, 180, 0, 25, 27, 42, 180, 0, 71, 27, 46, 79, 3, 61, 28, 42, 180, 0, 25, 27, 46, 162, 0, 31]
abbrev dktX6_takeInstance_1 : List UInt8 := dkwX6_takeInstance_1 ++ dktX6_takeInstance_2
def dkwX6_takeInstance_0 : List UInt8 := [42, 180, 0, 16, 27, 42, 180, 0, 62, 27, 46, 79, 42, 180, 0, 19, 27, 42, 180, 0, 65, 27, 46, 79]
abbrev dktX6_takeInstance_0 : List UInt8 := dkwX6_takeInstance_0 ++ dktX6_takeInstance_1
theorem dksX6_takeInstance_0 : cX6_takeInstance.data.toList.drop 0 = dktX6_takeInstance_0 := by decide +kernel
theorem dksX6_takeInstance_1 : cX6_takeInstance.data.toList.drop 24 = dktX6_takeInstance_1 := dk_seg dksX6_takeInstance_0 24 rfl rfl
theorem dksX6_takeInstance_2 : cX6_takeInstance.data.toList.drop 48 = dktX6_takeInstance_2 := dk_seg dksX6_takeInstance_1 24 rfl rfl
theorem dksX6_takeInstance_3 : cX6_takeInstance.data.toList.drop 70 = dktX6_takeInstance_3 := dk_seg dksX6_takeInstance_2 22 rfl rfl
theorem dksX6_takeInstance_4 : cX6_takeInstance.data.toList.drop 92 = dktX6_takeInstance_4 := dk_seg dksX6_takeInstance_3 22 rfl rfl
theorem dksX6_takeInstance_5 : cX6_takeInstance.data.toList.drop 116 = dktX6_takeInstance_5 := dk_seg dksX6_takeInstance_4 24 rfl rfl
theorem dksX6_takeInstance_6 : cX6_takeInstance.data.toList.drop 139 = dktX6_takeInstance_6 := dk_seg dksX6_takeInstance_5 23 rfl rfl
theorem dX6_takeInstance_0 : decode cX6_takeInstance 0 = .ok (.aload_n 0, 1) := dk_42 (dk_at dksX6_takeInstance_0 0 rfl rfl)
theorem dX6_takeInstance_1 : decode cX6_takeInstance 1 = .ok (.getfield 16, 3) := dk_180 0 16 (dk_at dksX6_takeInstance_0 1 rfl rfl)
theorem dX6_takeInstance_4 : decode cX6_takeInstance 4 = .ok (.iload_n 1, 1) := dk_27 (dk_at dksX6_takeInstance_0 4 rfl rfl)
theorem dX6_takeInstance_5 : decode cX6_takeInstance 5 = .ok (.aload_n 0, 1) := dk_42 (dk_at dksX6_takeInstance_0 5 rfl rfl)
theorem dX6_takeInstance_6 : decode cX6_takeInstance 6 = .ok (.getfield 62, 3) := dk_180 0 62 (dk_at dksX6_takeInstance_0 6 rfl rfl)
theorem dX6_takeInstance_9 : decode cX6_takeInstance 9 = .ok (.iload_n 1, 1) := dk_27 (dk_at dksX6_takeInstance_0 9 rfl rfl)
theorem dX6_takeInstance_10 : decode cX6_takeInstance 10 = .ok (.iaload, 1) := dk_46 (dk_at dksX6_takeInstance_0 10 rfl rfl)
theorem dX6_takeInstance_11 : decode cX6_takeInstance 11 = .ok (.iastore, 1) := dk_79 (dk_at dksX6_takeInstance_0 11 rfl rfl)
theorem dX6_takeInstance_12 : decode cX6_takeInstance 12 = .ok (.aload_n 0, 1) := dk_42 (dk_at dksX6_takeInstance_0 12 rfl rfl)
theorem dX6_takeInstance_13 : decode cX6_takeInstance 13 = .ok (.getfield 19, 3) := dk_180 0 19 (dk_at dksX6_takeInstance_0 13 rfl rfl)
theorem dX6_takeInstance_16 : decode cX6_takeInstance 16 = .ok (.iload_n 1, 1) := dk_27 (dk_at dksX6_takeInstance_0 16 rfl rfl)
theorem dX6_takeInstance_17 : decode cX6_takeInstance 17 = .ok (.aload_n 0, 1) := dk_42 (dk_at dksX6_takeInstance_0 17 rfl rfl)
theorem dX6_takeInstance_18 : decode cX6_takeInstance 18 = .ok (.getfield 65, 3) := dk_180 0 65 (dk_at dksX6_takeInstance_0 18 rfl rfl)
theorem dX6_takeInstance_21 : decode cX6_takeInstance 21 = .ok (.iload_n 1, 1) := dk_27 (dk_at dksX6_takeInstance_0 21 rfl rfl)
theorem dX6_takeInstance_22 : decode cX6_takeInstance 22 = .ok (.iaload, 1) := dk_46 (dk_at dksX6_takeInstance_0 22 rfl rfl)
theorem dX6_takeInstance_23 : decode cX6_takeInstance 23 = .ok (.iastore, 1) := dk_79 (dk_at dksX6_takeInstance_0 23 rfl rfl)
theorem dX6_takeInstance_24 : decode cX6_takeInstance 24 = .ok (.aload_n 0, 1) := dk_42 (dk_at dksX6_takeInstance_1 0 rfl rfl)
theorem dX6_takeInstance_25 : decode cX6_takeInstance 25 = .ok (.getfield 25, 3) := dk_180 0 25 (dk_at dksX6_takeInstance_1 1 rfl rfl)
theorem dX6_takeInstance_28 : decode cX6_takeInstance 28 = .ok (.iload_n 1, 1) := dk_27 (dk_at dksX6_takeInstance_1 4 rfl rfl)
theorem dX6_takeInstance_29 : decode cX6_takeInstance 29 = .ok (.aload_n 0, 1) := dk_42 (dk_at dksX6_takeInstance_1 5 rfl rfl)
theorem dX6_takeInstance_30 : decode cX6_takeInstance 30 = .ok (.getfield 71, 3) := dk_180 0 71 (dk_at dksX6_takeInstance_1 6 rfl rfl)
theorem dX6_takeInstance_33 : decode cX6_takeInstance 33 = .ok (.iload_n 1, 1) := dk_27 (dk_at dksX6_takeInstance_1 9 rfl rfl)
theorem dX6_takeInstance_34 : decode cX6_takeInstance 34 = .ok (.iaload, 1) := dk_46 (dk_at dksX6_takeInstance_1 10 rfl rfl)
theorem dX6_takeInstance_35 : decode cX6_takeInstance 35 = .ok (.iastore, 1) := dk_79 (dk_at dksX6_takeInstance_1 11 rfl rfl)
theorem dX6_takeInstance_36 : decode cX6_takeInstance 36 = .ok (.iconst 0, 1) := dk_3 (dk_at dksX6_takeInstance_1 12 rfl rfl)
theorem dX6_takeInstance_37 : decode cX6_takeInstance 37 = .ok (.istore_n 2, 1) := dk_61 (dk_at dksX6_takeInstance_1 13 rfl rfl)
theorem dX6_takeInstance_38 : decode cX6_takeInstance 38 = .ok (.iload_n 2, 1) := dk_28 (dk_at dksX6_takeInstance_1 14 rfl rfl)
theorem dX6_takeInstance_39 : decode cX6_takeInstance 39 = .ok (.aload_n 0, 1) := dk_42 (dk_at dksX6_takeInstance_1 15 rfl rfl)
theorem dX6_takeInstance_40 : decode cX6_takeInstance 40 = .ok (.getfield 25, 3) := dk_180 0 25 (dk_at dksX6_takeInstance_1 16 rfl rfl)
theorem dX6_takeInstance_43 : decode cX6_takeInstance 43 = .ok (.iload_n 1, 1) := dk_27 (dk_at dksX6_takeInstance_1 19 rfl rfl)
theorem dX6_takeInstance_44 : decode cX6_takeInstance 44 = .ok (.iaload, 1) := dk_46 (dk_at dksX6_takeInstance_1 20 rfl rfl)
theorem dX6_takeInstance_45 : decode cX6_takeInstance 45 = .ok (.if_icmp .ge 31, 3) := dk_162 0 31 (dk_at dksX6_takeInstance_1 21 rfl rfl)
theorem dX6_takeInstance_48 : decode cX6_takeInstance 48 = .ok (.aload_n 0, 1) := dk_42 (dk_at dksX6_takeInstance_2 0 rfl rfl)
theorem dX6_takeInstance_49 : decode cX6_takeInstance 49 = .ok (.getfield 22, 3) := dk_180 0 22 (dk_at dksX6_takeInstance_2 1 rfl rfl)
theorem dX6_takeInstance_52 : decode cX6_takeInstance 52 = .ok (.iconst 5, 1) := dk_8 (dk_at dksX6_takeInstance_2 4 rfl rfl)
theorem dX6_takeInstance_53 : decode cX6_takeInstance 53 = .ok (.iload_n 1, 1) := dk_27 (dk_at dksX6_takeInstance_2 5 rfl rfl)
theorem dX6_takeInstance_54 : decode cX6_takeInstance 54 = .ok (.imul, 1) := dk_104 (dk_at dksX6_takeInstance_2 6 rfl rfl)
theorem dX6_takeInstance_55 : decode cX6_takeInstance 55 = .ok (.iload_n 2, 1) := dk_28 (dk_at dksX6_takeInstance_2 7 rfl rfl)
theorem dX6_takeInstance_56 : decode cX6_takeInstance 56 = .ok (.iadd, 1) := dk_96 (dk_at dksX6_takeInstance_2 8 rfl rfl)
theorem dX6_takeInstance_57 : decode cX6_takeInstance 57 = .ok (.aload_n 0, 1) := dk_42 (dk_at dksX6_takeInstance_2 9 rfl rfl)
theorem dX6_takeInstance_58 : decode cX6_takeInstance 58 = .ok (.aload_n 0, 1) := dk_42 (dk_at dksX6_takeInstance_2 10 rfl rfl)
theorem dX6_takeInstance_59 : decode cX6_takeInstance 59 = .ok (.getfield 68, 3) := dk_180 0 68 (dk_at dksX6_takeInstance_2 11 rfl rfl)
theorem dX6_takeInstance_62 : decode cX6_takeInstance 62 = .ok (.iload_n 1, 1) := dk_27 (dk_at dksX6_takeInstance_2 14 rfl rfl)
theorem dX6_takeInstance_63 : decode cX6_takeInstance 63 = .ok (.iaload, 1) := dk_46 (dk_at dksX6_takeInstance_2 15 rfl rfl)
theorem dX6_takeInstance_64 : decode cX6_takeInstance 64 = .ok (.iload_n 2, 1) := dk_28 (dk_at dksX6_takeInstance_2 16 rfl rfl)
theorem dX6_takeInstance_65 : decode cX6_takeInstance 65 = .ok (.iadd, 1) := dk_96 (dk_at dksX6_takeInstance_2 17 rfl rfl)
theorem dX6_takeInstance_66 : decode cX6_takeInstance 66 = .ok (.invokevirtual 154, 3) := dk_182 0 154 (dk_at dksX6_takeInstance_2 18 rfl rfl)
theorem dX6_takeInstance_69 : decode cX6_takeInstance 69 = .ok (.iastore, 1) := dk_79 (dk_at dksX6_takeInstance_2 21 rfl rfl)
theorem dX6_takeInstance_70 : decode cX6_takeInstance 70 = .ok (.iinc 2 1, 3) := dk_132 2 1 (dk_at dksX6_takeInstance_3 0 rfl rfl)
theorem dX6_takeInstance_73 : decode cX6_takeInstance 73 = .ok (.goto (-35), 3) := dk_167 255 221 (dk_at dksX6_takeInstance_3 3 rfl rfl)
theorem dX6_takeInstance_76 : decode cX6_takeInstance 76 = .ok (.aload_n 0, 1) := dk_42 (dk_at dksX6_takeInstance_3 6 rfl rfl)
theorem dX6_takeInstance_77 : decode cX6_takeInstance 77 = .ok (.getfield 28, 3) := dk_180 0 28 (dk_at dksX6_takeInstance_3 7 rfl rfl)
theorem dX6_takeInstance_80 : decode cX6_takeInstance 80 = .ok (.iload_n 1, 1) := dk_27 (dk_at dksX6_takeInstance_3 10 rfl rfl)
theorem dX6_takeInstance_81 : decode cX6_takeInstance 81 = .ok (.aload_n 0, 1) := dk_42 (dk_at dksX6_takeInstance_3 11 rfl rfl)
theorem dX6_takeInstance_82 : decode cX6_takeInstance 82 = .ok (.getfield 74, 3) := dk_180 0 74 (dk_at dksX6_takeInstance_3 12 rfl rfl)
theorem dX6_takeInstance_85 : decode cX6_takeInstance 85 = .ok (.iload_n 1, 1) := dk_27 (dk_at dksX6_takeInstance_3 15 rfl rfl)
theorem dX6_takeInstance_86 : decode cX6_takeInstance 86 = .ok (.iaload, 1) := dk_46 (dk_at dksX6_takeInstance_3 16 rfl rfl)
theorem dX6_takeInstance_87 : decode cX6_takeInstance 87 = .ok (.iastore, 1) := dk_79 (dk_at dksX6_takeInstance_3 17 rfl rfl)
theorem dX6_takeInstance_88 : decode cX6_takeInstance 88 = .ok (.iconst 0, 1) := dk_3 (dk_at dksX6_takeInstance_3 18 rfl rfl)
theorem dX6_takeInstance_89 : decode cX6_takeInstance 89 = .ok (.istore_n 2, 1) := dk_61 (dk_at dksX6_takeInstance_3 19 rfl rfl)
theorem dX6_takeInstance_90 : decode cX6_takeInstance 90 = .ok (.iload_n 2, 1) := dk_28 (dk_at dksX6_takeInstance_3 20 rfl rfl)
theorem dX6_takeInstance_91 : decode cX6_takeInstance 91 = .ok (.aload_n 0, 1) := dk_42 (dk_at dksX6_takeInstance_3 21 rfl rfl)
theorem dX6_takeInstance_92 : decode cX6_takeInstance 92 = .ok (.getfield 28, 3) := dk_180 0 28 (dk_at dksX6_takeInstance_4 0 rfl rfl)
theorem dX6_takeInstance_95 : decode cX6_takeInstance 95 = .ok (.iload_n 1, 1) := dk_27 (dk_at dksX6_takeInstance_4 3 rfl rfl)
theorem dX6_takeInstance_96 : decode cX6_takeInstance 96 = .ok (.iaload, 1) := dk_46 (dk_at dksX6_takeInstance_4 4 rfl rfl)
theorem dX6_takeInstance_97 : decode cX6_takeInstance 97 = .ok (.if_icmp .ge 55, 3) := dk_162 0 55 (dk_at dksX6_takeInstance_4 5 rfl rfl)
theorem dX6_takeInstance_100 : decode cX6_takeInstance 100 = .ok (.aload_n 0, 1) := dk_42 (dk_at dksX6_takeInstance_4 8 rfl rfl)
theorem dX6_takeInstance_101 : decode cX6_takeInstance 101 = .ok (.getfield 77, 3) := dk_180 0 77 (dk_at dksX6_takeInstance_4 9 rfl rfl)
theorem dX6_takeInstance_104 : decode cX6_takeInstance 104 = .ok (.iconst 2, 1) := dk_5 (dk_at dksX6_takeInstance_4 12 rfl rfl)
theorem dX6_takeInstance_105 : decode cX6_takeInstance 105 = .ok (.iload_n 1, 1) := dk_27 (dk_at dksX6_takeInstance_4 13 rfl rfl)
theorem dX6_takeInstance_106 : decode cX6_takeInstance 106 = .ok (.imul, 1) := dk_104 (dk_at dksX6_takeInstance_4 14 rfl rfl)
theorem dX6_takeInstance_107 : decode cX6_takeInstance 107 = .ok (.iload_n 2, 1) := dk_28 (dk_at dksX6_takeInstance_4 15 rfl rfl)
theorem dX6_takeInstance_108 : decode cX6_takeInstance 108 = .ok (.iadd, 1) := dk_96 (dk_at dksX6_takeInstance_4 16 rfl rfl)
theorem dX6_takeInstance_109 : decode cX6_takeInstance 109 = .ok (.iaload, 1) := dk_46 (dk_at dksX6_takeInstance_4 17 rfl rfl)
theorem dX6_takeInstance_110 : decode cX6_takeInstance 110 = .ok (.istore_n 3, 1) := dk_62 (dk_at dksX6_takeInstance_4 18 rfl rfl)
theorem dX6_takeInstance_111 : decode cX6_takeInstance 111 = .ok (.aload_n 0, 1) := dk_42 (dk_at dksX6_takeInstance_4 19 rfl rfl)
theorem dX6_takeInstance_112 : decode cX6_takeInstance 112 = .ok (.getfield 31, 3) := dk_180 0 31 (dk_at dksX6_takeInstance_4 20 rfl rfl)
theorem dX6_takeInstance_115 : decode cX6_takeInstance 115 = .ok (.iconst 2, 1) := dk_5 (dk_at dksX6_takeInstance_4 23 rfl rfl)
theorem dX6_takeInstance_116 : decode cX6_takeInstance 116 = .ok (.iload_n 1, 1) := dk_27 (dk_at dksX6_takeInstance_5 0 rfl rfl)
theorem dX6_takeInstance_117 : decode cX6_takeInstance 117 = .ok (.imul, 1) := dk_104 (dk_at dksX6_takeInstance_5 1 rfl rfl)
theorem dX6_takeInstance_118 : decode cX6_takeInstance 118 = .ok (.iload_n 2, 1) := dk_28 (dk_at dksX6_takeInstance_5 2 rfl rfl)
theorem dX6_takeInstance_119 : decode cX6_takeInstance 119 = .ok (.iadd, 1) := dk_96 (dk_at dksX6_takeInstance_5 3 rfl rfl)
theorem dX6_takeInstance_120 : decode cX6_takeInstance 120 = .ok (.aload_n 0, 1) := dk_42 (dk_at dksX6_takeInstance_5 4 rfl rfl)
theorem dX6_takeInstance_121 : decode cX6_takeInstance 121 = .ok (.iload_n 3, 1) := dk_29 (dk_at dksX6_takeInstance_5 5 rfl rfl)
theorem dX6_takeInstance_122 : decode cX6_takeInstance 122 = .ok (.invokevirtual 165, 3) := dk_182 0 165 (dk_at dksX6_takeInstance_5 6 rfl rfl)
theorem dX6_takeInstance_125 : decode cX6_takeInstance 125 = .ok (.iastore, 1) := dk_79 (dk_at dksX6_takeInstance_5 9 rfl rfl)
theorem dX6_takeInstance_126 : decode cX6_takeInstance 126 = .ok (.aload_n 0, 1) := dk_42 (dk_at dksX6_takeInstance_5 10 rfl rfl)
theorem dX6_takeInstance_127 : decode cX6_takeInstance 127 = .ok (.getfield 34, 3) := dk_180 0 34 (dk_at dksX6_takeInstance_5 11 rfl rfl)
theorem dX6_takeInstance_130 : decode cX6_takeInstance 130 = .ok (.iconst 2, 1) := dk_5 (dk_at dksX6_takeInstance_5 14 rfl rfl)
theorem dX6_takeInstance_131 : decode cX6_takeInstance 131 = .ok (.iload_n 1, 1) := dk_27 (dk_at dksX6_takeInstance_5 15 rfl rfl)
theorem dX6_takeInstance_132 : decode cX6_takeInstance 132 = .ok (.imul, 1) := dk_104 (dk_at dksX6_takeInstance_5 16 rfl rfl)
theorem dX6_takeInstance_133 : decode cX6_takeInstance 133 = .ok (.iload_n 2, 1) := dk_28 (dk_at dksX6_takeInstance_5 17 rfl rfl)
theorem dX6_takeInstance_134 : decode cX6_takeInstance 134 = .ok (.iadd, 1) := dk_96 (dk_at dksX6_takeInstance_5 18 rfl rfl)
theorem dX6_takeInstance_135 : decode cX6_takeInstance 135 = .ok (.aload_n 0, 1) := dk_42 (dk_at dksX6_takeInstance_5 19 rfl rfl)
theorem dX6_takeInstance_136 : decode cX6_takeInstance 136 = .ok (.iload_n 3, 1) := dk_29 (dk_at dksX6_takeInstance_5 20 rfl rfl)
theorem dX6_takeInstance_137 : decode cX6_takeInstance 137 = .ok (.iconst 1, 1) := dk_4 (dk_at dksX6_takeInstance_5 21 rfl rfl)
theorem dX6_takeInstance_138 : decode cX6_takeInstance 138 = .ok (.iadd, 1) := dk_96 (dk_at dksX6_takeInstance_5 22 rfl rfl)
theorem dX6_takeInstance_139 : decode cX6_takeInstance 139 = .ok (.invokevirtual 154, 3) := dk_182 0 154 (dk_at dksX6_takeInstance_6 0 rfl rfl)
theorem dX6_takeInstance_142 : decode cX6_takeInstance 142 = .ok (.bipush 120, 2) := dk_16 120 (dk_at dksX6_takeInstance_6 3 rfl rfl)
theorem dX6_takeInstance_144 : decode cX6_takeInstance 144 = .ok (.isub, 1) := dk_100 (dk_at dksX6_takeInstance_6 5 rfl rfl)
theorem dX6_takeInstance_145 : decode cX6_takeInstance 145 = .ok (.iastore, 1) := dk_79 (dk_at dksX6_takeInstance_6 6 rfl rfl)
theorem dX6_takeInstance_146 : decode cX6_takeInstance 146 = .ok (.iinc 2 1, 3) := dk_132 2 1 (dk_at dksX6_takeInstance_6 7 rfl rfl)
theorem dX6_takeInstance_149 : decode cX6_takeInstance 149 = .ok (.goto (-59), 3) := dk_167 255 197 (dk_at dksX6_takeInstance_6 10 rfl rfl)
theorem dX6_takeInstance_152 : decode cX6_takeInstance 152 = .ok (.return_, 1) := dk_177 (dk_at dksX6_takeInstance_6 13 rfl rfl)
abbrev cX6_laySpecial : ByteArray := prog_13_method_29_code
def yX6_laySpecial : MethodName := ⟨RX6, "laySpecial", "()V"⟩
def dkwX6_laySpecial_3 : List UInt8 := [167, 255, 199, 132, 1, 1, 167, 255, 183, 177]
abbrev dktX6_laySpecial_3 : List UInt8 := dkwX6_laySpecial_3 ++ []
def dkwX6_laySpecial_2 : List UInt8 := [96, 29, 153, 0, 16, 42, 27, 3, 182, 0, 245, 154, 0, 7, 4, 167, 0, 4, 3, 79, 132, 2, 1]
abbrev dktX6_laySpecial_2 : List UInt8 := dkwX6_laySpecial_2 ++ dktX6_laySpecial_3
def dkwX6_laySpecial_1 : List UInt8 := [182, 0, 242, 42, 28, 3, 182, 0, 245, 62, 42, 28, 182, 0, 242, 42, 180, 0, 37, 16, 6, 27, 104, 28]
abbrev dktX6_laySpecial_1 : List UInt8 := dkwX6_laySpecial_1 ++ dktX6_laySpecial_2
def dkwX6_laySpecial_0 : List UInt8 := [3, 60, 27, 42, 180, 0, 217, 162, 0, 71, 3, 61, 28, 42, 180, 0, 217, 162, 0, 55, 42, 27]
abbrev dktX6_laySpecial_0 : List UInt8 := dkwX6_laySpecial_0 ++ dktX6_laySpecial_1
theorem dksX6_laySpecial_0 : cX6_laySpecial.data.toList.drop 0 = dktX6_laySpecial_0 := by decide +kernel
theorem dksX6_laySpecial_1 : cX6_laySpecial.data.toList.drop 22 = dktX6_laySpecial_1 := dk_seg dksX6_laySpecial_0 22 rfl rfl
theorem dksX6_laySpecial_2 : cX6_laySpecial.data.toList.drop 46 = dktX6_laySpecial_2 := dk_seg dksX6_laySpecial_1 24 rfl rfl
theorem dksX6_laySpecial_3 : cX6_laySpecial.data.toList.drop 69 = dktX6_laySpecial_3 := dk_seg dksX6_laySpecial_2 23 rfl rfl
theorem dX6_laySpecial_0 : decode cX6_laySpecial 0 = .ok (.iconst 0, 1) := dk_3 (dk_at dksX6_laySpecial_0 0 rfl rfl)
theorem dX6_laySpecial_1 : decode cX6_laySpecial 1 = .ok (.istore_n 1, 1) := dk_60 (dk_at dksX6_laySpecial_0 1 rfl rfl)
theorem dX6_laySpecial_2 : decode cX6_laySpecial 2 = .ok (.iload_n 1, 1) := dk_27 (dk_at dksX6_laySpecial_0 2 rfl rfl)
theorem dX6_laySpecial_3 : decode cX6_laySpecial 3 = .ok (.aload_n 0, 1) := dk_42 (dk_at dksX6_laySpecial_0 3 rfl rfl)
theorem dX6_laySpecial_4 : decode cX6_laySpecial 4 = .ok (.getfield 217, 3) := dk_180 0 217 (dk_at dksX6_laySpecial_0 4 rfl rfl)
theorem dX6_laySpecial_7 : decode cX6_laySpecial 7 = .ok (.if_icmp .ge 71, 3) := dk_162 0 71 (dk_at dksX6_laySpecial_0 7 rfl rfl)
theorem dX6_laySpecial_10 : decode cX6_laySpecial 10 = .ok (.iconst 0, 1) := dk_3 (dk_at dksX6_laySpecial_0 10 rfl rfl)
theorem dX6_laySpecial_11 : decode cX6_laySpecial 11 = .ok (.istore_n 2, 1) := dk_61 (dk_at dksX6_laySpecial_0 11 rfl rfl)
theorem dX6_laySpecial_12 : decode cX6_laySpecial 12 = .ok (.iload_n 2, 1) := dk_28 (dk_at dksX6_laySpecial_0 12 rfl rfl)
theorem dX6_laySpecial_13 : decode cX6_laySpecial 13 = .ok (.aload_n 0, 1) := dk_42 (dk_at dksX6_laySpecial_0 13 rfl rfl)
theorem dX6_laySpecial_14 : decode cX6_laySpecial 14 = .ok (.getfield 217, 3) := dk_180 0 217 (dk_at dksX6_laySpecial_0 14 rfl rfl)
theorem dX6_laySpecial_17 : decode cX6_laySpecial 17 = .ok (.if_icmp .ge 55, 3) := dk_162 0 55 (dk_at dksX6_laySpecial_0 17 rfl rfl)
theorem dX6_laySpecial_20 : decode cX6_laySpecial 20 = .ok (.aload_n 0, 1) := dk_42 (dk_at dksX6_laySpecial_0 20 rfl rfl)
theorem dX6_laySpecial_21 : decode cX6_laySpecial 21 = .ok (.iload_n 1, 1) := dk_27 (dk_at dksX6_laySpecial_0 21 rfl rfl)
theorem dX6_laySpecial_22 : decode cX6_laySpecial 22 = .ok (.invokevirtual 242, 3) := dk_182 0 242 (dk_at dksX6_laySpecial_1 0 rfl rfl)
theorem dX6_laySpecial_25 : decode cX6_laySpecial 25 = .ok (.aload_n 0, 1) := dk_42 (dk_at dksX6_laySpecial_1 3 rfl rfl)
theorem dX6_laySpecial_26 : decode cX6_laySpecial 26 = .ok (.iload_n 2, 1) := dk_28 (dk_at dksX6_laySpecial_1 4 rfl rfl)
theorem dX6_laySpecial_27 : decode cX6_laySpecial 27 = .ok (.iconst 0, 1) := dk_3 (dk_at dksX6_laySpecial_1 5 rfl rfl)
theorem dX6_laySpecial_28 : decode cX6_laySpecial 28 = .ok (.invokevirtual 245, 3) := dk_182 0 245 (dk_at dksX6_laySpecial_1 6 rfl rfl)
theorem dX6_laySpecial_31 : decode cX6_laySpecial 31 = .ok (.istore_n 3, 1) := dk_62 (dk_at dksX6_laySpecial_1 9 rfl rfl)
theorem dX6_laySpecial_32 : decode cX6_laySpecial 32 = .ok (.aload_n 0, 1) := dk_42 (dk_at dksX6_laySpecial_1 10 rfl rfl)
theorem dX6_laySpecial_33 : decode cX6_laySpecial 33 = .ok (.iload_n 2, 1) := dk_28 (dk_at dksX6_laySpecial_1 11 rfl rfl)
theorem dX6_laySpecial_34 : decode cX6_laySpecial 34 = .ok (.invokevirtual 242, 3) := dk_182 0 242 (dk_at dksX6_laySpecial_1 12 rfl rfl)
theorem dX6_laySpecial_37 : decode cX6_laySpecial 37 = .ok (.aload_n 0, 1) := dk_42 (dk_at dksX6_laySpecial_1 15 rfl rfl)
theorem dX6_laySpecial_38 : decode cX6_laySpecial 38 = .ok (.getfield 37, 3) := dk_180 0 37 (dk_at dksX6_laySpecial_1 16 rfl rfl)
theorem dX6_laySpecial_41 : decode cX6_laySpecial 41 = .ok (.bipush 6, 2) := dk_16 6 (dk_at dksX6_laySpecial_1 19 rfl rfl)
theorem dX6_laySpecial_43 : decode cX6_laySpecial 43 = .ok (.iload_n 1, 1) := dk_27 (dk_at dksX6_laySpecial_1 21 rfl rfl)
theorem dX6_laySpecial_44 : decode cX6_laySpecial 44 = .ok (.imul, 1) := dk_104 (dk_at dksX6_laySpecial_1 22 rfl rfl)
theorem dX6_laySpecial_45 : decode cX6_laySpecial 45 = .ok (.iload_n 2, 1) := dk_28 (dk_at dksX6_laySpecial_1 23 rfl rfl)
theorem dX6_laySpecial_46 : decode cX6_laySpecial 46 = .ok (.iadd, 1) := dk_96 (dk_at dksX6_laySpecial_2 0 rfl rfl)
theorem dX6_laySpecial_47 : decode cX6_laySpecial 47 = .ok (.iload_n 3, 1) := dk_29 (dk_at dksX6_laySpecial_2 1 rfl rfl)
theorem dX6_laySpecial_48 : decode cX6_laySpecial 48 = .ok (.ifCond .eq 16, 3) := dk_153 0 16 (dk_at dksX6_laySpecial_2 2 rfl rfl)
theorem dX6_laySpecial_51 : decode cX6_laySpecial 51 = .ok (.aload_n 0, 1) := dk_42 (dk_at dksX6_laySpecial_2 5 rfl rfl)
theorem dX6_laySpecial_52 : decode cX6_laySpecial 52 = .ok (.iload_n 1, 1) := dk_27 (dk_at dksX6_laySpecial_2 6 rfl rfl)
theorem dX6_laySpecial_53 : decode cX6_laySpecial 53 = .ok (.iconst 0, 1) := dk_3 (dk_at dksX6_laySpecial_2 7 rfl rfl)
theorem dX6_laySpecial_54 : decode cX6_laySpecial 54 = .ok (.invokevirtual 245, 3) := dk_182 0 245 (dk_at dksX6_laySpecial_2 8 rfl rfl)
theorem dX6_laySpecial_57 : decode cX6_laySpecial 57 = .ok (.ifCond .ne 7, 3) := dk_154 0 7 (dk_at dksX6_laySpecial_2 11 rfl rfl)
theorem dX6_laySpecial_60 : decode cX6_laySpecial 60 = .ok (.iconst 1, 1) := dk_4 (dk_at dksX6_laySpecial_2 14 rfl rfl)
theorem dX6_laySpecial_61 : decode cX6_laySpecial 61 = .ok (.goto 4, 3) := dk_167 0 4 (dk_at dksX6_laySpecial_2 15 rfl rfl)
theorem dX6_laySpecial_64 : decode cX6_laySpecial 64 = .ok (.iconst 0, 1) := dk_3 (dk_at dksX6_laySpecial_2 18 rfl rfl)
theorem dX6_laySpecial_65 : decode cX6_laySpecial 65 = .ok (.iastore, 1) := dk_79 (dk_at dksX6_laySpecial_2 19 rfl rfl)
theorem dX6_laySpecial_66 : decode cX6_laySpecial 66 = .ok (.iinc 2 1, 3) := dk_132 2 1 (dk_at dksX6_laySpecial_2 20 rfl rfl)
theorem dX6_laySpecial_69 : decode cX6_laySpecial 69 = .ok (.goto (-57), 3) := dk_167 255 199 (dk_at dksX6_laySpecial_3 0 rfl rfl)
theorem dX6_laySpecial_72 : decode cX6_laySpecial 72 = .ok (.iinc 1 1, 3) := dk_132 1 1 (dk_at dksX6_laySpecial_3 3 rfl rfl)
theorem dX6_laySpecial_75 : decode cX6_laySpecial 75 = .ok (.goto (-73), 3) := dk_167 255 183 (dk_at dksX6_laySpecial_3 6 rfl rfl)
theorem dX6_laySpecial_78 : decode cX6_laySpecial 78 = .ok (.return_, 1) := dk_177 (dk_at dksX6_laySpecial_3 9 rfl rfl)
abbrev cX6_layHead : ByteArray := prog_13_method_25_code
def yX6_layHead : MethodName := ⟨RX6, "layHead", "(I)V"⟩
def dkwX6_layHead_1 : List UInt8 := [28, 42, 180, 0, 22, 8, 27, 104, 28, 96, 46, 79, 132, 2, 1, 167, 255, 229, 42, 182, 0, 236, 177]
abbrev dktX6_layHead_1 : List UInt8 := dkwX6_layHead_1 ++ []
def dkwX6_layHead_0 : List UInt8 := [42, 42, 180, 0, 25, 27, 46, 181, 0, 233, 3, 61, 28, 42, 180, 0, 233, 162, 0, 25, 42, 180, 0, 80]
abbrev dktX6_layHead_0 : List UInt8 := dkwX6_layHead_0 ++ dktX6_layHead_1
theorem dksX6_layHead_0 : cX6_layHead.data.toList.drop 0 = dktX6_layHead_0 := by decide +kernel
theorem dksX6_layHead_1 : cX6_layHead.data.toList.drop 24 = dktX6_layHead_1 := dk_seg dksX6_layHead_0 24 rfl rfl
theorem dX6_layHead_0 : decode cX6_layHead 0 = .ok (.aload_n 0, 1) := dk_42 (dk_at dksX6_layHead_0 0 rfl rfl)
theorem dX6_layHead_1 : decode cX6_layHead 1 = .ok (.aload_n 0, 1) := dk_42 (dk_at dksX6_layHead_0 1 rfl rfl)
theorem dX6_layHead_2 : decode cX6_layHead 2 = .ok (.getfield 25, 3) := dk_180 0 25 (dk_at dksX6_layHead_0 2 rfl rfl)
theorem dX6_layHead_5 : decode cX6_layHead 5 = .ok (.iload_n 1, 1) := dk_27 (dk_at dksX6_layHead_0 5 rfl rfl)
theorem dX6_layHead_6 : decode cX6_layHead 6 = .ok (.iaload, 1) := dk_46 (dk_at dksX6_layHead_0 6 rfl rfl)
theorem dX6_layHead_7 : decode cX6_layHead 7 = .ok (.putfield 233, 3) := dk_181 0 233 (dk_at dksX6_layHead_0 7 rfl rfl)
theorem dX6_layHead_10 : decode cX6_layHead 10 = .ok (.iconst 0, 1) := dk_3 (dk_at dksX6_layHead_0 10 rfl rfl)
theorem dX6_layHead_11 : decode cX6_layHead 11 = .ok (.istore_n 2, 1) := dk_61 (dk_at dksX6_layHead_0 11 rfl rfl)
theorem dX6_layHead_12 : decode cX6_layHead 12 = .ok (.iload_n 2, 1) := dk_28 (dk_at dksX6_layHead_0 12 rfl rfl)
theorem dX6_layHead_13 : decode cX6_layHead 13 = .ok (.aload_n 0, 1) := dk_42 (dk_at dksX6_layHead_0 13 rfl rfl)
theorem dX6_layHead_14 : decode cX6_layHead 14 = .ok (.getfield 233, 3) := dk_180 0 233 (dk_at dksX6_layHead_0 14 rfl rfl)
theorem dX6_layHead_17 : decode cX6_layHead 17 = .ok (.if_icmp .ge 25, 3) := dk_162 0 25 (dk_at dksX6_layHead_0 17 rfl rfl)
theorem dX6_layHead_20 : decode cX6_layHead 20 = .ok (.aload_n 0, 1) := dk_42 (dk_at dksX6_layHead_0 20 rfl rfl)
theorem dX6_layHead_21 : decode cX6_layHead 21 = .ok (.getfield 80, 3) := dk_180 0 80 (dk_at dksX6_layHead_0 21 rfl rfl)
theorem dX6_layHead_24 : decode cX6_layHead 24 = .ok (.iload_n 2, 1) := dk_28 (dk_at dksX6_layHead_1 0 rfl rfl)
theorem dX6_layHead_25 : decode cX6_layHead 25 = .ok (.aload_n 0, 1) := dk_42 (dk_at dksX6_layHead_1 1 rfl rfl)
theorem dX6_layHead_26 : decode cX6_layHead 26 = .ok (.getfield 22, 3) := dk_180 0 22 (dk_at dksX6_layHead_1 2 rfl rfl)
theorem dX6_layHead_29 : decode cX6_layHead 29 = .ok (.iconst 5, 1) := dk_8 (dk_at dksX6_layHead_1 5 rfl rfl)
theorem dX6_layHead_30 : decode cX6_layHead 30 = .ok (.iload_n 1, 1) := dk_27 (dk_at dksX6_layHead_1 6 rfl rfl)
theorem dX6_layHead_31 : decode cX6_layHead 31 = .ok (.imul, 1) := dk_104 (dk_at dksX6_layHead_1 7 rfl rfl)
theorem dX6_layHead_32 : decode cX6_layHead 32 = .ok (.iload_n 2, 1) := dk_28 (dk_at dksX6_layHead_1 8 rfl rfl)
theorem dX6_layHead_33 : decode cX6_layHead 33 = .ok (.iadd, 1) := dk_96 (dk_at dksX6_layHead_1 9 rfl rfl)
theorem dX6_layHead_34 : decode cX6_layHead 34 = .ok (.iaload, 1) := dk_46 (dk_at dksX6_layHead_1 10 rfl rfl)
theorem dX6_layHead_35 : decode cX6_layHead 35 = .ok (.iastore, 1) := dk_79 (dk_at dksX6_layHead_1 11 rfl rfl)
theorem dX6_layHead_36 : decode cX6_layHead 36 = .ok (.iinc 2 1, 3) := dk_132 2 1 (dk_at dksX6_layHead_1 12 rfl rfl)
theorem dX6_layHead_39 : decode cX6_layHead 39 = .ok (.goto (-27), 3) := dk_167 255 229 (dk_at dksX6_layHead_1 15 rfl rfl)
theorem dX6_layHead_42 : decode cX6_layHead 42 = .ok (.aload_n 0, 1) := dk_42 (dk_at dksX6_layHead_1 18 rfl rfl)
theorem dX6_layHead_43 : decode cX6_layHead 43 = .ok (.invokevirtual 236, 3) := dk_182 0 236 (dk_at dksX6_layHead_1 19 rfl rfl)
theorem dX6_layHead_46 : decode cX6_layHead 46 = .ok (.return_, 1) := dk_177 (dk_at dksX6_layHead_1 22 rfl rfl)
abbrev cX6_laySizes : ByteArray := prog_13_method_24_code
def yX6_laySizes : MethodName := ⟨RX6, "laySizes", "()V"⟩
def dkwX6_laySizes_2 : List UInt8 := [180, 0, 83, 27, 28, 27, 100, 79, 132, 1, 255, 167, 255, 206, 177]
abbrev dktX6_laySizes_2 : List UInt8 := dkwX6_laySizes_2 ++ []
def dkwX6_laySizes_1 : List UInt8 := [184, 0, 174, 162, 0, 18, 28, 42, 180, 0, 83, 28, 46, 96, 61, 132, 3, 1, 167, 255, 231, 42]
abbrev dktX6_laySizes_1 : List UInt8 := dkwX6_laySizes_1 ++ dktX6_laySizes_2
def dkwX6_laySizes_0 : List UInt8 := [42, 180, 0, 233, 4, 100, 60, 27, 155, 0, 52, 27, 4, 96, 61, 3, 62, 29, 42, 180, 0, 80, 27, 46]
abbrev dktX6_laySizes_0 : List UInt8 := dkwX6_laySizes_0 ++ dktX6_laySizes_1
theorem dksX6_laySizes_0 : cX6_laySizes.data.toList.drop 0 = dktX6_laySizes_0 := by decide +kernel
theorem dksX6_laySizes_1 : cX6_laySizes.data.toList.drop 24 = dktX6_laySizes_1 := dk_seg dksX6_laySizes_0 24 rfl rfl
theorem dksX6_laySizes_2 : cX6_laySizes.data.toList.drop 46 = dktX6_laySizes_2 := dk_seg dksX6_laySizes_1 22 rfl rfl
theorem dX6_laySizes_0 : decode cX6_laySizes 0 = .ok (.aload_n 0, 1) := dk_42 (dk_at dksX6_laySizes_0 0 rfl rfl)
theorem dX6_laySizes_1 : decode cX6_laySizes 1 = .ok (.getfield 233, 3) := dk_180 0 233 (dk_at dksX6_laySizes_0 1 rfl rfl)
theorem dX6_laySizes_4 : decode cX6_laySizes 4 = .ok (.iconst 1, 1) := dk_4 (dk_at dksX6_laySizes_0 4 rfl rfl)
theorem dX6_laySizes_5 : decode cX6_laySizes 5 = .ok (.isub, 1) := dk_100 (dk_at dksX6_laySizes_0 5 rfl rfl)
theorem dX6_laySizes_6 : decode cX6_laySizes 6 = .ok (.istore_n 1, 1) := dk_60 (dk_at dksX6_laySizes_0 6 rfl rfl)
theorem dX6_laySizes_7 : decode cX6_laySizes 7 = .ok (.iload_n 1, 1) := dk_27 (dk_at dksX6_laySizes_0 7 rfl rfl)
theorem dX6_laySizes_8 : decode cX6_laySizes 8 = .ok (.ifCond .lt 52, 3) := dk_155 0 52 (dk_at dksX6_laySizes_0 8 rfl rfl)
theorem dX6_laySizes_11 : decode cX6_laySizes 11 = .ok (.iload_n 1, 1) := dk_27 (dk_at dksX6_laySizes_0 11 rfl rfl)
theorem dX6_laySizes_12 : decode cX6_laySizes 12 = .ok (.iconst 1, 1) := dk_4 (dk_at dksX6_laySizes_0 12 rfl rfl)
theorem dX6_laySizes_13 : decode cX6_laySizes 13 = .ok (.iadd, 1) := dk_96 (dk_at dksX6_laySizes_0 13 rfl rfl)
theorem dX6_laySizes_14 : decode cX6_laySizes 14 = .ok (.istore_n 2, 1) := dk_61 (dk_at dksX6_laySizes_0 14 rfl rfl)
theorem dX6_laySizes_15 : decode cX6_laySizes 15 = .ok (.iconst 0, 1) := dk_3 (dk_at dksX6_laySizes_0 15 rfl rfl)
theorem dX6_laySizes_16 : decode cX6_laySizes 16 = .ok (.istore_n 3, 1) := dk_62 (dk_at dksX6_laySizes_0 16 rfl rfl)
theorem dX6_laySizes_17 : decode cX6_laySizes 17 = .ok (.iload_n 3, 1) := dk_29 (dk_at dksX6_laySizes_0 17 rfl rfl)
theorem dX6_laySizes_18 : decode cX6_laySizes 18 = .ok (.aload_n 0, 1) := dk_42 (dk_at dksX6_laySizes_0 18 rfl rfl)
theorem dX6_laySizes_19 : decode cX6_laySizes 19 = .ok (.getfield 80, 3) := dk_180 0 80 (dk_at dksX6_laySizes_0 19 rfl rfl)
theorem dX6_laySizes_22 : decode cX6_laySizes 22 = .ok (.iload_n 1, 1) := dk_27 (dk_at dksX6_laySizes_0 22 rfl rfl)
theorem dX6_laySizes_23 : decode cX6_laySizes 23 = .ok (.iaload, 1) := dk_46 (dk_at dksX6_laySizes_0 23 rfl rfl)
theorem dX6_laySizes_24 : decode cX6_laySizes 24 = .ok (.invokestatic 174, 3) := dk_184 0 174 (dk_at dksX6_laySizes_1 0 rfl rfl)
theorem dX6_laySizes_27 : decode cX6_laySizes 27 = .ok (.if_icmp .ge 18, 3) := dk_162 0 18 (dk_at dksX6_laySizes_1 3 rfl rfl)
theorem dX6_laySizes_30 : decode cX6_laySizes 30 = .ok (.iload_n 2, 1) := dk_28 (dk_at dksX6_laySizes_1 6 rfl rfl)
theorem dX6_laySizes_31 : decode cX6_laySizes 31 = .ok (.aload_n 0, 1) := dk_42 (dk_at dksX6_laySizes_1 7 rfl rfl)
theorem dX6_laySizes_32 : decode cX6_laySizes 32 = .ok (.getfield 83, 3) := dk_180 0 83 (dk_at dksX6_laySizes_1 8 rfl rfl)
theorem dX6_laySizes_35 : decode cX6_laySizes 35 = .ok (.iload_n 2, 1) := dk_28 (dk_at dksX6_laySizes_1 11 rfl rfl)
theorem dX6_laySizes_36 : decode cX6_laySizes 36 = .ok (.iaload, 1) := dk_46 (dk_at dksX6_laySizes_1 12 rfl rfl)
theorem dX6_laySizes_37 : decode cX6_laySizes 37 = .ok (.iadd, 1) := dk_96 (dk_at dksX6_laySizes_1 13 rfl rfl)
theorem dX6_laySizes_38 : decode cX6_laySizes 38 = .ok (.istore_n 2, 1) := dk_61 (dk_at dksX6_laySizes_1 14 rfl rfl)
theorem dX6_laySizes_39 : decode cX6_laySizes 39 = .ok (.iinc 3 1, 3) := dk_132 3 1 (dk_at dksX6_laySizes_1 15 rfl rfl)
theorem dX6_laySizes_42 : decode cX6_laySizes 42 = .ok (.goto (-25), 3) := dk_167 255 231 (dk_at dksX6_laySizes_1 18 rfl rfl)
theorem dX6_laySizes_45 : decode cX6_laySizes 45 = .ok (.aload_n 0, 1) := dk_42 (dk_at dksX6_laySizes_1 21 rfl rfl)
theorem dX6_laySizes_46 : decode cX6_laySizes 46 = .ok (.getfield 83, 3) := dk_180 0 83 (dk_at dksX6_laySizes_2 0 rfl rfl)
theorem dX6_laySizes_49 : decode cX6_laySizes 49 = .ok (.iload_n 1, 1) := dk_27 (dk_at dksX6_laySizes_2 3 rfl rfl)
theorem dX6_laySizes_50 : decode cX6_laySizes 50 = .ok (.iload_n 2, 1) := dk_28 (dk_at dksX6_laySizes_2 4 rfl rfl)
theorem dX6_laySizes_51 : decode cX6_laySizes 51 = .ok (.iload_n 1, 1) := dk_27 (dk_at dksX6_laySizes_2 5 rfl rfl)
theorem dX6_laySizes_52 : decode cX6_laySizes 52 = .ok (.isub, 1) := dk_100 (dk_at dksX6_laySizes_2 6 rfl rfl)
theorem dX6_laySizes_53 : decode cX6_laySizes 53 = .ok (.iastore, 1) := dk_79 (dk_at dksX6_laySizes_2 7 rfl rfl)
theorem dX6_laySizes_54 : decode cX6_laySizes 54 = .ok (.iinc 1 (-1), 3) := dk_132 1 255 (dk_at dksX6_laySizes_2 8 rfl rfl)
theorem dX6_laySizes_57 : decode cX6_laySizes 57 = .ok (.goto (-50), 3) := dk_167 255 206 (dk_at dksX6_laySizes_2 11 rfl rfl)
theorem dX6_laySizes_60 : decode cX6_laySizes 60 = .ok (.return_, 1) := dk_177 (dk_at dksX6_laySizes_2 14 rfl rfl)
abbrev cX6_fitsAt : ByteArray := prog_13_method_28_code
def yX6_fitsAt : MethodName := ⟨RX6, "fitsAt", "(II)Z"⟩
def dkwX6_fitsAt_5 : List UInt8 := [42, 180, 0, 83, 29, 46, 96, 62, 132, 4, 1, 167, 255, 150, 4, 172]
abbrev dktX6_fitsAt_5 : List UInt8 := dkwX6_fitsAt_5 ++ []
def dkwX6_fitsAt_4 : List UInt8 := [180, 0, 86, 21, 6, 46, 29, 182, 0, 239, 154, 0, 5, 3, 172, 42, 180, 0, 86, 21, 6, 29, 79, 29]
abbrev dktX6_fitsAt_4 : List UInt8 := dkwX6_fitsAt_4 ++ dktX6_fitsAt_5
def dkwX6_fitsAt_3 : List UInt8 := [167, 0, 55, 21, 5, 16, 120, 100, 54, 6, 42, 180, 0, 86, 21, 6, 46, 2, 159, 0, 20, 42, 42]
abbrev dktX6_fitsAt_3 : List UInt8 := dkwX6_fitsAt_3 ++ dktX6_fitsAt_4
def dkwX6_fitsAt_2 : List UInt8 := [184, 0, 181, 154, 0, 22, 42, 180, 0, 80, 29, 46, 21, 5, 159, 0, 5, 3, 172, 132, 3, 1]
abbrev dktX6_fitsAt_2 : List UInt8 := dkwX6_fitsAt_2 ++ dktX6_fitsAt_3
def dkwX6_fitsAt_1 : List UInt8 := [180, 0, 25, 27, 46, 162, 0, 101, 42, 180, 0, 22, 8, 27, 104, 21, 4, 96, 46, 54, 5, 21, 5]
abbrev dktX6_fitsAt_1 : List UInt8 := dkwX6_fitsAt_1 ++ dktX6_fitsAt_2
def dkwX6_fitsAt_0 : List UInt8 := [42, 180, 0, 86, 3, 2, 79, 42, 180, 0, 86, 4, 2, 79, 28, 62, 3, 54, 4, 21, 4, 42]
abbrev dktX6_fitsAt_0 : List UInt8 := dkwX6_fitsAt_0 ++ dktX6_fitsAt_1
theorem dksX6_fitsAt_0 : cX6_fitsAt.data.toList.drop 0 = dktX6_fitsAt_0 := by decide +kernel
theorem dksX6_fitsAt_1 : cX6_fitsAt.data.toList.drop 22 = dktX6_fitsAt_1 := dk_seg dksX6_fitsAt_0 22 rfl rfl
theorem dksX6_fitsAt_2 : cX6_fitsAt.data.toList.drop 45 = dktX6_fitsAt_2 := dk_seg dksX6_fitsAt_1 23 rfl rfl
theorem dksX6_fitsAt_3 : cX6_fitsAt.data.toList.drop 67 = dktX6_fitsAt_3 := dk_seg dksX6_fitsAt_2 22 rfl rfl
theorem dksX6_fitsAt_4 : cX6_fitsAt.data.toList.drop 90 = dktX6_fitsAt_4 := dk_seg dksX6_fitsAt_3 23 rfl rfl
theorem dksX6_fitsAt_5 : cX6_fitsAt.data.toList.drop 114 = dktX6_fitsAt_5 := dk_seg dksX6_fitsAt_4 24 rfl rfl
theorem dX6_fitsAt_0 : decode cX6_fitsAt 0 = .ok (.aload_n 0, 1) := dk_42 (dk_at dksX6_fitsAt_0 0 rfl rfl)
theorem dX6_fitsAt_1 : decode cX6_fitsAt 1 = .ok (.getfield 86, 3) := dk_180 0 86 (dk_at dksX6_fitsAt_0 1 rfl rfl)
theorem dX6_fitsAt_4 : decode cX6_fitsAt 4 = .ok (.iconst 0, 1) := dk_3 (dk_at dksX6_fitsAt_0 4 rfl rfl)
theorem dX6_fitsAt_5 : decode cX6_fitsAt 5 = .ok (.iconst (-1), 1) := dk_2 (dk_at dksX6_fitsAt_0 5 rfl rfl)
theorem dX6_fitsAt_6 : decode cX6_fitsAt 6 = .ok (.iastore, 1) := dk_79 (dk_at dksX6_fitsAt_0 6 rfl rfl)
theorem dX6_fitsAt_7 : decode cX6_fitsAt 7 = .ok (.aload_n 0, 1) := dk_42 (dk_at dksX6_fitsAt_0 7 rfl rfl)
theorem dX6_fitsAt_8 : decode cX6_fitsAt 8 = .ok (.getfield 86, 3) := dk_180 0 86 (dk_at dksX6_fitsAt_0 8 rfl rfl)
theorem dX6_fitsAt_11 : decode cX6_fitsAt 11 = .ok (.iconst 1, 1) := dk_4 (dk_at dksX6_fitsAt_0 11 rfl rfl)
theorem dX6_fitsAt_12 : decode cX6_fitsAt 12 = .ok (.iconst (-1), 1) := dk_2 (dk_at dksX6_fitsAt_0 12 rfl rfl)
theorem dX6_fitsAt_13 : decode cX6_fitsAt 13 = .ok (.iastore, 1) := dk_79 (dk_at dksX6_fitsAt_0 13 rfl rfl)
theorem dX6_fitsAt_14 : decode cX6_fitsAt 14 = .ok (.iload_n 2, 1) := dk_28 (dk_at dksX6_fitsAt_0 14 rfl rfl)
theorem dX6_fitsAt_15 : decode cX6_fitsAt 15 = .ok (.istore_n 3, 1) := dk_62 (dk_at dksX6_fitsAt_0 15 rfl rfl)
theorem dX6_fitsAt_16 : decode cX6_fitsAt 16 = .ok (.iconst 0, 1) := dk_3 (dk_at dksX6_fitsAt_0 16 rfl rfl)
theorem dX6_fitsAt_17 : decode cX6_fitsAt 17 = .ok (.istore 4, 2) := dk_54 4 (dk_at dksX6_fitsAt_0 17 rfl rfl)
theorem dX6_fitsAt_19 : decode cX6_fitsAt 19 = .ok (.iload 4, 2) := dk_21 4 (dk_at dksX6_fitsAt_0 19 rfl rfl)
theorem dX6_fitsAt_21 : decode cX6_fitsAt 21 = .ok (.aload_n 0, 1) := dk_42 (dk_at dksX6_fitsAt_0 21 rfl rfl)
theorem dX6_fitsAt_22 : decode cX6_fitsAt 22 = .ok (.getfield 25, 3) := dk_180 0 25 (dk_at dksX6_fitsAt_1 0 rfl rfl)
theorem dX6_fitsAt_25 : decode cX6_fitsAt 25 = .ok (.iload_n 1, 1) := dk_27 (dk_at dksX6_fitsAt_1 3 rfl rfl)
theorem dX6_fitsAt_26 : decode cX6_fitsAt 26 = .ok (.iaload, 1) := dk_46 (dk_at dksX6_fitsAt_1 4 rfl rfl)
theorem dX6_fitsAt_27 : decode cX6_fitsAt 27 = .ok (.if_icmp .ge 101, 3) := dk_162 0 101 (dk_at dksX6_fitsAt_1 5 rfl rfl)
theorem dX6_fitsAt_30 : decode cX6_fitsAt 30 = .ok (.aload_n 0, 1) := dk_42 (dk_at dksX6_fitsAt_1 8 rfl rfl)
theorem dX6_fitsAt_31 : decode cX6_fitsAt 31 = .ok (.getfield 22, 3) := dk_180 0 22 (dk_at dksX6_fitsAt_1 9 rfl rfl)
theorem dX6_fitsAt_34 : decode cX6_fitsAt 34 = .ok (.iconst 5, 1) := dk_8 (dk_at dksX6_fitsAt_1 12 rfl rfl)
theorem dX6_fitsAt_35 : decode cX6_fitsAt 35 = .ok (.iload_n 1, 1) := dk_27 (dk_at dksX6_fitsAt_1 13 rfl rfl)
theorem dX6_fitsAt_36 : decode cX6_fitsAt 36 = .ok (.imul, 1) := dk_104 (dk_at dksX6_fitsAt_1 14 rfl rfl)
theorem dX6_fitsAt_37 : decode cX6_fitsAt 37 = .ok (.iload 4, 2) := dk_21 4 (dk_at dksX6_fitsAt_1 15 rfl rfl)
theorem dX6_fitsAt_39 : decode cX6_fitsAt 39 = .ok (.iadd, 1) := dk_96 (dk_at dksX6_fitsAt_1 17 rfl rfl)
theorem dX6_fitsAt_40 : decode cX6_fitsAt 40 = .ok (.iaload, 1) := dk_46 (dk_at dksX6_fitsAt_1 18 rfl rfl)
theorem dX6_fitsAt_41 : decode cX6_fitsAt 41 = .ok (.istore 5, 2) := dk_54 5 (dk_at dksX6_fitsAt_1 19 rfl rfl)
theorem dX6_fitsAt_43 : decode cX6_fitsAt 43 = .ok (.iload 5, 2) := dk_21 5 (dk_at dksX6_fitsAt_1 21 rfl rfl)
theorem dX6_fitsAt_45 : decode cX6_fitsAt 45 = .ok (.invokestatic 181, 3) := dk_184 0 181 (dk_at dksX6_fitsAt_2 0 rfl rfl)
theorem dX6_fitsAt_48 : decode cX6_fitsAt 48 = .ok (.ifCond .ne 22, 3) := dk_154 0 22 (dk_at dksX6_fitsAt_2 3 rfl rfl)
theorem dX6_fitsAt_51 : decode cX6_fitsAt 51 = .ok (.aload_n 0, 1) := dk_42 (dk_at dksX6_fitsAt_2 6 rfl rfl)
theorem dX6_fitsAt_52 : decode cX6_fitsAt 52 = .ok (.getfield 80, 3) := dk_180 0 80 (dk_at dksX6_fitsAt_2 7 rfl rfl)
theorem dX6_fitsAt_55 : decode cX6_fitsAt 55 = .ok (.iload_n 3, 1) := dk_29 (dk_at dksX6_fitsAt_2 10 rfl rfl)
theorem dX6_fitsAt_56 : decode cX6_fitsAt 56 = .ok (.iaload, 1) := dk_46 (dk_at dksX6_fitsAt_2 11 rfl rfl)
theorem dX6_fitsAt_57 : decode cX6_fitsAt 57 = .ok (.iload 5, 2) := dk_21 5 (dk_at dksX6_fitsAt_2 12 rfl rfl)
theorem dX6_fitsAt_59 : decode cX6_fitsAt 59 = .ok (.if_icmp .eq 5, 3) := dk_159 0 5 (dk_at dksX6_fitsAt_2 14 rfl rfl)
theorem dX6_fitsAt_62 : decode cX6_fitsAt 62 = .ok (.iconst 0, 1) := dk_3 (dk_at dksX6_fitsAt_2 17 rfl rfl)
theorem dX6_fitsAt_63 : decode cX6_fitsAt 63 = .ok (.ireturn, 1) := dk_172 (dk_at dksX6_fitsAt_2 18 rfl rfl)
theorem dX6_fitsAt_64 : decode cX6_fitsAt 64 = .ok (.iinc 3 1, 3) := dk_132 3 1 (dk_at dksX6_fitsAt_2 19 rfl rfl)
theorem dX6_fitsAt_67 : decode cX6_fitsAt 67 = .ok (.goto 55, 3) := dk_167 0 55 (dk_at dksX6_fitsAt_3 0 rfl rfl)
theorem dX6_fitsAt_70 : decode cX6_fitsAt 70 = .ok (.iload 5, 2) := dk_21 5 (dk_at dksX6_fitsAt_3 3 rfl rfl)
theorem dX6_fitsAt_72 : decode cX6_fitsAt 72 = .ok (.bipush 120, 2) := dk_16 120 (dk_at dksX6_fitsAt_3 5 rfl rfl)
theorem dX6_fitsAt_74 : decode cX6_fitsAt 74 = .ok (.isub, 1) := dk_100 (dk_at dksX6_fitsAt_3 7 rfl rfl)
theorem dX6_fitsAt_75 : decode cX6_fitsAt 75 = .ok (.istore 6, 2) := dk_54 6 (dk_at dksX6_fitsAt_3 8 rfl rfl)
theorem dX6_fitsAt_77 : decode cX6_fitsAt 77 = .ok (.aload_n 0, 1) := dk_42 (dk_at dksX6_fitsAt_3 10 rfl rfl)
theorem dX6_fitsAt_78 : decode cX6_fitsAt 78 = .ok (.getfield 86, 3) := dk_180 0 86 (dk_at dksX6_fitsAt_3 11 rfl rfl)
theorem dX6_fitsAt_81 : decode cX6_fitsAt 81 = .ok (.iload 6, 2) := dk_21 6 (dk_at dksX6_fitsAt_3 14 rfl rfl)
theorem dX6_fitsAt_83 : decode cX6_fitsAt 83 = .ok (.iaload, 1) := dk_46 (dk_at dksX6_fitsAt_3 16 rfl rfl)
theorem dX6_fitsAt_84 : decode cX6_fitsAt 84 = .ok (.iconst (-1), 1) := dk_2 (dk_at dksX6_fitsAt_3 17 rfl rfl)
theorem dX6_fitsAt_85 : decode cX6_fitsAt 85 = .ok (.if_icmp .eq 20, 3) := dk_159 0 20 (dk_at dksX6_fitsAt_3 18 rfl rfl)
theorem dX6_fitsAt_88 : decode cX6_fitsAt 88 = .ok (.aload_n 0, 1) := dk_42 (dk_at dksX6_fitsAt_3 21 rfl rfl)
theorem dX6_fitsAt_89 : decode cX6_fitsAt 89 = .ok (.aload_n 0, 1) := dk_42 (dk_at dksX6_fitsAt_3 22 rfl rfl)
theorem dX6_fitsAt_90 : decode cX6_fitsAt 90 = .ok (.getfield 86, 3) := dk_180 0 86 (dk_at dksX6_fitsAt_4 0 rfl rfl)
theorem dX6_fitsAt_93 : decode cX6_fitsAt 93 = .ok (.iload 6, 2) := dk_21 6 (dk_at dksX6_fitsAt_4 3 rfl rfl)
theorem dX6_fitsAt_95 : decode cX6_fitsAt 95 = .ok (.iaload, 1) := dk_46 (dk_at dksX6_fitsAt_4 5 rfl rfl)
theorem dX6_fitsAt_96 : decode cX6_fitsAt 96 = .ok (.iload_n 3, 1) := dk_29 (dk_at dksX6_fitsAt_4 6 rfl rfl)
theorem dX6_fitsAt_97 : decode cX6_fitsAt 97 = .ok (.invokevirtual 239, 3) := dk_182 0 239 (dk_at dksX6_fitsAt_4 7 rfl rfl)
theorem dX6_fitsAt_100 : decode cX6_fitsAt 100 = .ok (.ifCond .ne 5, 3) := dk_154 0 5 (dk_at dksX6_fitsAt_4 10 rfl rfl)
theorem dX6_fitsAt_103 : decode cX6_fitsAt 103 = .ok (.iconst 0, 1) := dk_3 (dk_at dksX6_fitsAt_4 13 rfl rfl)
theorem dX6_fitsAt_104 : decode cX6_fitsAt 104 = .ok (.ireturn, 1) := dk_172 (dk_at dksX6_fitsAt_4 14 rfl rfl)
theorem dX6_fitsAt_105 : decode cX6_fitsAt 105 = .ok (.aload_n 0, 1) := dk_42 (dk_at dksX6_fitsAt_4 15 rfl rfl)
theorem dX6_fitsAt_106 : decode cX6_fitsAt 106 = .ok (.getfield 86, 3) := dk_180 0 86 (dk_at dksX6_fitsAt_4 16 rfl rfl)
theorem dX6_fitsAt_109 : decode cX6_fitsAt 109 = .ok (.iload 6, 2) := dk_21 6 (dk_at dksX6_fitsAt_4 19 rfl rfl)
theorem dX6_fitsAt_111 : decode cX6_fitsAt 111 = .ok (.iload_n 3, 1) := dk_29 (dk_at dksX6_fitsAt_4 21 rfl rfl)
theorem dX6_fitsAt_112 : decode cX6_fitsAt 112 = .ok (.iastore, 1) := dk_79 (dk_at dksX6_fitsAt_4 22 rfl rfl)
theorem dX6_fitsAt_113 : decode cX6_fitsAt 113 = .ok (.iload_n 3, 1) := dk_29 (dk_at dksX6_fitsAt_4 23 rfl rfl)
theorem dX6_fitsAt_114 : decode cX6_fitsAt 114 = .ok (.aload_n 0, 1) := dk_42 (dk_at dksX6_fitsAt_5 0 rfl rfl)
theorem dX6_fitsAt_115 : decode cX6_fitsAt 115 = .ok (.getfield 83, 3) := dk_180 0 83 (dk_at dksX6_fitsAt_5 1 rfl rfl)
theorem dX6_fitsAt_118 : decode cX6_fitsAt 118 = .ok (.iload_n 3, 1) := dk_29 (dk_at dksX6_fitsAt_5 4 rfl rfl)
theorem dX6_fitsAt_119 : decode cX6_fitsAt 119 = .ok (.iaload, 1) := dk_46 (dk_at dksX6_fitsAt_5 5 rfl rfl)
theorem dX6_fitsAt_120 : decode cX6_fitsAt 120 = .ok (.iadd, 1) := dk_96 (dk_at dksX6_fitsAt_5 6 rfl rfl)
theorem dX6_fitsAt_121 : decode cX6_fitsAt 121 = .ok (.istore_n 3, 1) := dk_62 (dk_at dksX6_fitsAt_5 7 rfl rfl)
theorem dX6_fitsAt_122 : decode cX6_fitsAt 122 = .ok (.iinc 4 1, 3) := dk_132 4 1 (dk_at dksX6_fitsAt_5 8 rfl rfl)
theorem dX6_fitsAt_125 : decode cX6_fitsAt 125 = .ok (.goto (-106), 3) := dk_167 255 150 (dk_at dksX6_fitsAt_5 11 rfl rfl)
theorem dX6_fitsAt_128 : decode cX6_fitsAt 128 = .ok (.iconst 1, 1) := dk_4 (dk_at dksX6_fitsAt_5 14 rfl rfl)
theorem dX6_fitsAt_129 : decode cX6_fitsAt 129 = .ok (.ireturn, 1) := dk_172 (dk_at dksX6_fitsAt_5 15 rfl rfl)
abbrev cX6_isSameAt : ByteArray := prog_13_method_27_code
def yX6_isSameAt : MethodName := ⟨RX6, "isSameAt", "(II)Z"⟩
def dkwX6_isSameAt_3 : List UInt8 := [29, 172]
abbrev dktX6_isSameAt_3 : List UInt8 := dkwX6_isSameAt_3 ++ []
def dkwX6_isSameAt_2 : List UInt8 := [42, 180, 0, 80, 28, 21, 4, 96, 46, 160, 0, 7, 4, 167, 0, 4, 3, 62, 132, 4, 1, 167, 255, 211]
abbrev dktX6_isSameAt_2 : List UInt8 := dkwX6_isSameAt_2 ++ dktX6_isSameAt_3
def dkwX6_isSameAt_1 : List UInt8 := [21, 4, 42, 180, 0, 83, 27, 46, 162, 0, 40, 29, 153, 0, 36, 42, 180, 0, 80, 27, 21, 4, 96, 46]
abbrev dktX6_isSameAt_1 : List UInt8 := dkwX6_isSameAt_1 ++ dktX6_isSameAt_2
def dkwX6_isSameAt_0 : List UInt8 := [42, 180, 0, 83, 27, 46, 42, 180, 0, 83, 28, 46, 160, 0, 7, 4, 167, 0, 4, 3, 62, 3, 54, 4]
abbrev dktX6_isSameAt_0 : List UInt8 := dkwX6_isSameAt_0 ++ dktX6_isSameAt_1
theorem dksX6_isSameAt_0 : cX6_isSameAt.data.toList.drop 0 = dktX6_isSameAt_0 := by decide +kernel
theorem dksX6_isSameAt_1 : cX6_isSameAt.data.toList.drop 24 = dktX6_isSameAt_1 := dk_seg dksX6_isSameAt_0 24 rfl rfl
theorem dksX6_isSameAt_2 : cX6_isSameAt.data.toList.drop 48 = dktX6_isSameAt_2 := dk_seg dksX6_isSameAt_1 24 rfl rfl
theorem dksX6_isSameAt_3 : cX6_isSameAt.data.toList.drop 72 = dktX6_isSameAt_3 := dk_seg dksX6_isSameAt_2 24 rfl rfl
theorem dX6_isSameAt_0 : decode cX6_isSameAt 0 = .ok (.aload_n 0, 1) := dk_42 (dk_at dksX6_isSameAt_0 0 rfl rfl)
theorem dX6_isSameAt_1 : decode cX6_isSameAt 1 = .ok (.getfield 83, 3) := dk_180 0 83 (dk_at dksX6_isSameAt_0 1 rfl rfl)
theorem dX6_isSameAt_4 : decode cX6_isSameAt 4 = .ok (.iload_n 1, 1) := dk_27 (dk_at dksX6_isSameAt_0 4 rfl rfl)
theorem dX6_isSameAt_5 : decode cX6_isSameAt 5 = .ok (.iaload, 1) := dk_46 (dk_at dksX6_isSameAt_0 5 rfl rfl)
theorem dX6_isSameAt_6 : decode cX6_isSameAt 6 = .ok (.aload_n 0, 1) := dk_42 (dk_at dksX6_isSameAt_0 6 rfl rfl)
theorem dX6_isSameAt_7 : decode cX6_isSameAt 7 = .ok (.getfield 83, 3) := dk_180 0 83 (dk_at dksX6_isSameAt_0 7 rfl rfl)
theorem dX6_isSameAt_10 : decode cX6_isSameAt 10 = .ok (.iload_n 2, 1) := dk_28 (dk_at dksX6_isSameAt_0 10 rfl rfl)
theorem dX6_isSameAt_11 : decode cX6_isSameAt 11 = .ok (.iaload, 1) := dk_46 (dk_at dksX6_isSameAt_0 11 rfl rfl)
theorem dX6_isSameAt_12 : decode cX6_isSameAt 12 = .ok (.if_icmp .ne 7, 3) := dk_160 0 7 (dk_at dksX6_isSameAt_0 12 rfl rfl)
theorem dX6_isSameAt_15 : decode cX6_isSameAt 15 = .ok (.iconst 1, 1) := dk_4 (dk_at dksX6_isSameAt_0 15 rfl rfl)
theorem dX6_isSameAt_16 : decode cX6_isSameAt 16 = .ok (.goto 4, 3) := dk_167 0 4 (dk_at dksX6_isSameAt_0 16 rfl rfl)
theorem dX6_isSameAt_19 : decode cX6_isSameAt 19 = .ok (.iconst 0, 1) := dk_3 (dk_at dksX6_isSameAt_0 19 rfl rfl)
theorem dX6_isSameAt_20 : decode cX6_isSameAt 20 = .ok (.istore_n 3, 1) := dk_62 (dk_at dksX6_isSameAt_0 20 rfl rfl)
theorem dX6_isSameAt_21 : decode cX6_isSameAt 21 = .ok (.iconst 0, 1) := dk_3 (dk_at dksX6_isSameAt_0 21 rfl rfl)
theorem dX6_isSameAt_22 : decode cX6_isSameAt 22 = .ok (.istore 4, 2) := dk_54 4 (dk_at dksX6_isSameAt_0 22 rfl rfl)
theorem dX6_isSameAt_24 : decode cX6_isSameAt 24 = .ok (.iload 4, 2) := dk_21 4 (dk_at dksX6_isSameAt_1 0 rfl rfl)
theorem dX6_isSameAt_26 : decode cX6_isSameAt 26 = .ok (.aload_n 0, 1) := dk_42 (dk_at dksX6_isSameAt_1 2 rfl rfl)
theorem dX6_isSameAt_27 : decode cX6_isSameAt 27 = .ok (.getfield 83, 3) := dk_180 0 83 (dk_at dksX6_isSameAt_1 3 rfl rfl)
theorem dX6_isSameAt_30 : decode cX6_isSameAt 30 = .ok (.iload_n 1, 1) := dk_27 (dk_at dksX6_isSameAt_1 6 rfl rfl)
theorem dX6_isSameAt_31 : decode cX6_isSameAt 31 = .ok (.iaload, 1) := dk_46 (dk_at dksX6_isSameAt_1 7 rfl rfl)
theorem dX6_isSameAt_32 : decode cX6_isSameAt 32 = .ok (.if_icmp .ge 40, 3) := dk_162 0 40 (dk_at dksX6_isSameAt_1 8 rfl rfl)
theorem dX6_isSameAt_35 : decode cX6_isSameAt 35 = .ok (.iload_n 3, 1) := dk_29 (dk_at dksX6_isSameAt_1 11 rfl rfl)
theorem dX6_isSameAt_36 : decode cX6_isSameAt 36 = .ok (.ifCond .eq 36, 3) := dk_153 0 36 (dk_at dksX6_isSameAt_1 12 rfl rfl)
theorem dX6_isSameAt_39 : decode cX6_isSameAt 39 = .ok (.aload_n 0, 1) := dk_42 (dk_at dksX6_isSameAt_1 15 rfl rfl)
theorem dX6_isSameAt_40 : decode cX6_isSameAt 40 = .ok (.getfield 80, 3) := dk_180 0 80 (dk_at dksX6_isSameAt_1 16 rfl rfl)
theorem dX6_isSameAt_43 : decode cX6_isSameAt 43 = .ok (.iload_n 1, 1) := dk_27 (dk_at dksX6_isSameAt_1 19 rfl rfl)
theorem dX6_isSameAt_44 : decode cX6_isSameAt 44 = .ok (.iload 4, 2) := dk_21 4 (dk_at dksX6_isSameAt_1 20 rfl rfl)
theorem dX6_isSameAt_46 : decode cX6_isSameAt 46 = .ok (.iadd, 1) := dk_96 (dk_at dksX6_isSameAt_1 22 rfl rfl)
theorem dX6_isSameAt_47 : decode cX6_isSameAt 47 = .ok (.iaload, 1) := dk_46 (dk_at dksX6_isSameAt_1 23 rfl rfl)
theorem dX6_isSameAt_48 : decode cX6_isSameAt 48 = .ok (.aload_n 0, 1) := dk_42 (dk_at dksX6_isSameAt_2 0 rfl rfl)
theorem dX6_isSameAt_49 : decode cX6_isSameAt 49 = .ok (.getfield 80, 3) := dk_180 0 80 (dk_at dksX6_isSameAt_2 1 rfl rfl)
theorem dX6_isSameAt_52 : decode cX6_isSameAt 52 = .ok (.iload_n 2, 1) := dk_28 (dk_at dksX6_isSameAt_2 4 rfl rfl)
theorem dX6_isSameAt_53 : decode cX6_isSameAt 53 = .ok (.iload 4, 2) := dk_21 4 (dk_at dksX6_isSameAt_2 5 rfl rfl)
theorem dX6_isSameAt_55 : decode cX6_isSameAt 55 = .ok (.iadd, 1) := dk_96 (dk_at dksX6_isSameAt_2 7 rfl rfl)
theorem dX6_isSameAt_56 : decode cX6_isSameAt 56 = .ok (.iaload, 1) := dk_46 (dk_at dksX6_isSameAt_2 8 rfl rfl)
theorem dX6_isSameAt_57 : decode cX6_isSameAt 57 = .ok (.if_icmp .ne 7, 3) := dk_160 0 7 (dk_at dksX6_isSameAt_2 9 rfl rfl)
theorem dX6_isSameAt_60 : decode cX6_isSameAt 60 = .ok (.iconst 1, 1) := dk_4 (dk_at dksX6_isSameAt_2 12 rfl rfl)
theorem dX6_isSameAt_61 : decode cX6_isSameAt 61 = .ok (.goto 4, 3) := dk_167 0 4 (dk_at dksX6_isSameAt_2 13 rfl rfl)
theorem dX6_isSameAt_64 : decode cX6_isSameAt 64 = .ok (.iconst 0, 1) := dk_3 (dk_at dksX6_isSameAt_2 16 rfl rfl)
theorem dX6_isSameAt_65 : decode cX6_isSameAt 65 = .ok (.istore_n 3, 1) := dk_62 (dk_at dksX6_isSameAt_2 17 rfl rfl)
theorem dX6_isSameAt_66 : decode cX6_isSameAt 66 = .ok (.iinc 4 1, 3) := dk_132 4 1 (dk_at dksX6_isSameAt_2 18 rfl rfl)
theorem dX6_isSameAt_69 : decode cX6_isSameAt 69 = .ok (.goto (-45), 3) := dk_167 255 211 (dk_at dksX6_isSameAt_2 21 rfl rfl)
theorem dX6_isSameAt_72 : decode cX6_isSameAt 72 = .ok (.iload_n 3, 1) := dk_29 (dk_at dksX6_isSameAt_3 0 rfl rfl)
theorem dX6_isSameAt_73 : decode cX6_isSameAt 73 = .ok (.ireturn, 1) := dk_172 (dk_at dksX6_isSameAt_3 1 rfl rfl)
abbrev cX6_type : ByteArray := prog_13_method_48_code
def yX6_type : MethodName := ⟨RX6, "type", "(I)I"⟩
def dkwX6_type_5 : List UInt8 := [42, 180, 0, 43, 27, 29, 79, 42, 3, 181, 0, 150, 29, 172]
abbrev dktX6_type_5 : List UInt8 := dkwX6_type_5 ++ []
def dkwX6_type_4 : List UInt8 := [42, 180, 0, 40, 16, 9, 27, 104, 21, 4, 96, 42, 21, 4, 182, 0, 154, 79, 132, 4, 1, 167, 255, 229]
abbrev dktX6_type_4 : List UInt8 := dkwX6_type_4 ++ dktX6_type_5
def dkwX6_type_3 : List UInt8 := [159, 0, 6, 16, 153, 172, 29, 16, 9, 164, 0, 6, 16, 152, 172, 3, 54, 4, 21, 4, 29, 162, 0, 27]
abbrev dktX6_type_3 : List UInt8 := dkwX6_type_3 ++ dktX6_type_4
def dkwX6_type_2 : List UInt8 := [132, 3, 1, 167, 255, 224, 42, 180, 0, 227, 153, 0, 15, 28, 157, 0, 11, 29, 42, 180, 0, 150]
abbrev dktX6_type_2 : List UInt8 := dkwX6_type_2 ++ dktX6_type_3
def dkwX6_type_1 : List UInt8 := [182, 0, 154, 184, 0, 174, 2, 159, 0, 22, 28, 42, 29, 182, 0, 154, 184, 0, 174, 4, 100, 96, 61]
abbrev dktX6_type_1 : List UInt8 := dkwX6_type_1 ++ dktX6_type_2
def dkwX6_type_0 : List UInt8 := [27, 3, 6, 184, 0, 146, 154, 0, 6, 16, 155, 172, 4, 61, 3, 62, 28, 158, 0, 34, 42, 29]
abbrev dktX6_type_0 : List UInt8 := dkwX6_type_0 ++ dktX6_type_1
theorem dksX6_type_0 : cX6_type.data.toList.drop 0 = dktX6_type_0 := by decide +kernel
theorem dksX6_type_1 : cX6_type.data.toList.drop 22 = dktX6_type_1 := dk_seg dksX6_type_0 22 rfl rfl
theorem dksX6_type_2 : cX6_type.data.toList.drop 45 = dktX6_type_2 := dk_seg dksX6_type_1 23 rfl rfl
theorem dksX6_type_3 : cX6_type.data.toList.drop 67 = dktX6_type_3 := dk_seg dksX6_type_2 22 rfl rfl
theorem dksX6_type_4 : cX6_type.data.toList.drop 91 = dktX6_type_4 := dk_seg dksX6_type_3 24 rfl rfl
theorem dksX6_type_5 : cX6_type.data.toList.drop 115 = dktX6_type_5 := dk_seg dksX6_type_4 24 rfl rfl
theorem dX6_type_0 : decode cX6_type 0 = .ok (.iload_n 1, 1) := dk_27 (dk_at dksX6_type_0 0 rfl rfl)
theorem dX6_type_1 : decode cX6_type 1 = .ok (.iconst 0, 1) := dk_3 (dk_at dksX6_type_0 1 rfl rfl)
theorem dX6_type_2 : decode cX6_type 2 = .ok (.iconst 3, 1) := dk_6 (dk_at dksX6_type_0 2 rfl rfl)
theorem dX6_type_3 : decode cX6_type 3 = .ok (.invokestatic 146, 3) := dk_184 0 146 (dk_at dksX6_type_0 3 rfl rfl)
theorem dX6_type_6 : decode cX6_type 6 = .ok (.ifCond .ne 6, 3) := dk_154 0 6 (dk_at dksX6_type_0 6 rfl rfl)
theorem dX6_type_9 : decode cX6_type 9 = .ok (.bipush (-101), 2) := dk_16 155 (dk_at dksX6_type_0 9 rfl rfl)
theorem dX6_type_11 : decode cX6_type 11 = .ok (.ireturn, 1) := dk_172 (dk_at dksX6_type_0 11 rfl rfl)
theorem dX6_type_12 : decode cX6_type 12 = .ok (.iconst 1, 1) := dk_4 (dk_at dksX6_type_0 12 rfl rfl)
theorem dX6_type_13 : decode cX6_type 13 = .ok (.istore_n 2, 1) := dk_61 (dk_at dksX6_type_0 13 rfl rfl)
theorem dX6_type_14 : decode cX6_type 14 = .ok (.iconst 0, 1) := dk_3 (dk_at dksX6_type_0 14 rfl rfl)
theorem dX6_type_15 : decode cX6_type 15 = .ok (.istore_n 3, 1) := dk_62 (dk_at dksX6_type_0 15 rfl rfl)
theorem dX6_type_16 : decode cX6_type 16 = .ok (.iload_n 2, 1) := dk_28 (dk_at dksX6_type_0 16 rfl rfl)
theorem dX6_type_17 : decode cX6_type 17 = .ok (.ifCond .le 34, 3) := dk_158 0 34 (dk_at dksX6_type_0 17 rfl rfl)
theorem dX6_type_20 : decode cX6_type 20 = .ok (.aload_n 0, 1) := dk_42 (dk_at dksX6_type_0 20 rfl rfl)
theorem dX6_type_21 : decode cX6_type 21 = .ok (.iload_n 3, 1) := dk_29 (dk_at dksX6_type_0 21 rfl rfl)
theorem dX6_type_22 : decode cX6_type 22 = .ok (.invokevirtual 154, 3) := dk_182 0 154 (dk_at dksX6_type_1 0 rfl rfl)
theorem dX6_type_25 : decode cX6_type 25 = .ok (.invokestatic 174, 3) := dk_184 0 174 (dk_at dksX6_type_1 3 rfl rfl)
theorem dX6_type_28 : decode cX6_type 28 = .ok (.iconst (-1), 1) := dk_2 (dk_at dksX6_type_1 6 rfl rfl)
theorem dX6_type_29 : decode cX6_type 29 = .ok (.if_icmp .eq 22, 3) := dk_159 0 22 (dk_at dksX6_type_1 7 rfl rfl)
theorem dX6_type_32 : decode cX6_type 32 = .ok (.iload_n 2, 1) := dk_28 (dk_at dksX6_type_1 10 rfl rfl)
theorem dX6_type_33 : decode cX6_type 33 = .ok (.aload_n 0, 1) := dk_42 (dk_at dksX6_type_1 11 rfl rfl)
theorem dX6_type_34 : decode cX6_type 34 = .ok (.iload_n 3, 1) := dk_29 (dk_at dksX6_type_1 12 rfl rfl)
theorem dX6_type_35 : decode cX6_type 35 = .ok (.invokevirtual 154, 3) := dk_182 0 154 (dk_at dksX6_type_1 13 rfl rfl)
theorem dX6_type_38 : decode cX6_type 38 = .ok (.invokestatic 174, 3) := dk_184 0 174 (dk_at dksX6_type_1 16 rfl rfl)
theorem dX6_type_41 : decode cX6_type 41 = .ok (.iconst 1, 1) := dk_4 (dk_at dksX6_type_1 19 rfl rfl)
theorem dX6_type_42 : decode cX6_type 42 = .ok (.isub, 1) := dk_100 (dk_at dksX6_type_1 20 rfl rfl)
theorem dX6_type_43 : decode cX6_type 43 = .ok (.iadd, 1) := dk_96 (dk_at dksX6_type_1 21 rfl rfl)
theorem dX6_type_44 : decode cX6_type 44 = .ok (.istore_n 2, 1) := dk_61 (dk_at dksX6_type_1 22 rfl rfl)
theorem dX6_type_45 : decode cX6_type 45 = .ok (.iinc 3 1, 3) := dk_132 3 1 (dk_at dksX6_type_2 0 rfl rfl)
theorem dX6_type_48 : decode cX6_type 48 = .ok (.goto (-32), 3) := dk_167 255 224 (dk_at dksX6_type_2 3 rfl rfl)
theorem dX6_type_51 : decode cX6_type 51 = .ok (.aload_n 0, 1) := dk_42 (dk_at dksX6_type_2 6 rfl rfl)
theorem dX6_type_52 : decode cX6_type 52 = .ok (.getfield 227, 3) := dk_180 0 227 (dk_at dksX6_type_2 7 rfl rfl)
theorem dX6_type_55 : decode cX6_type 55 = .ok (.ifCond .eq 15, 3) := dk_153 0 15 (dk_at dksX6_type_2 10 rfl rfl)
theorem dX6_type_58 : decode cX6_type 58 = .ok (.iload_n 2, 1) := dk_28 (dk_at dksX6_type_2 13 rfl rfl)
theorem dX6_type_59 : decode cX6_type 59 = .ok (.ifCond .gt 11, 3) := dk_157 0 11 (dk_at dksX6_type_2 14 rfl rfl)
theorem dX6_type_62 : decode cX6_type 62 = .ok (.iload_n 3, 1) := dk_29 (dk_at dksX6_type_2 17 rfl rfl)
theorem dX6_type_63 : decode cX6_type 63 = .ok (.aload_n 0, 1) := dk_42 (dk_at dksX6_type_2 18 rfl rfl)
theorem dX6_type_64 : decode cX6_type 64 = .ok (.getfield 150, 3) := dk_180 0 150 (dk_at dksX6_type_2 19 rfl rfl)
theorem dX6_type_67 : decode cX6_type 67 = .ok (.if_icmp .eq 6, 3) := dk_159 0 6 (dk_at dksX6_type_3 0 rfl rfl)
theorem dX6_type_70 : decode cX6_type 70 = .ok (.bipush (-103), 2) := dk_16 153 (dk_at dksX6_type_3 3 rfl rfl)
theorem dX6_type_72 : decode cX6_type 72 = .ok (.ireturn, 1) := dk_172 (dk_at dksX6_type_3 5 rfl rfl)
theorem dX6_type_73 : decode cX6_type 73 = .ok (.iload_n 3, 1) := dk_29 (dk_at dksX6_type_3 6 rfl rfl)
theorem dX6_type_74 : decode cX6_type 74 = .ok (.bipush 9, 2) := dk_16 9 (dk_at dksX6_type_3 7 rfl rfl)
theorem dX6_type_76 : decode cX6_type 76 = .ok (.if_icmp .le 6, 3) := dk_164 0 6 (dk_at dksX6_type_3 9 rfl rfl)
theorem dX6_type_79 : decode cX6_type 79 = .ok (.bipush (-104), 2) := dk_16 152 (dk_at dksX6_type_3 12 rfl rfl)
theorem dX6_type_81 : decode cX6_type 81 = .ok (.ireturn, 1) := dk_172 (dk_at dksX6_type_3 14 rfl rfl)
theorem dX6_type_82 : decode cX6_type 82 = .ok (.iconst 0, 1) := dk_3 (dk_at dksX6_type_3 15 rfl rfl)
theorem dX6_type_83 : decode cX6_type 83 = .ok (.istore 4, 2) := dk_54 4 (dk_at dksX6_type_3 16 rfl rfl)
theorem dX6_type_85 : decode cX6_type 85 = .ok (.iload 4, 2) := dk_21 4 (dk_at dksX6_type_3 18 rfl rfl)
theorem dX6_type_87 : decode cX6_type 87 = .ok (.iload_n 3, 1) := dk_29 (dk_at dksX6_type_3 20 rfl rfl)
theorem dX6_type_88 : decode cX6_type 88 = .ok (.if_icmp .ge 27, 3) := dk_162 0 27 (dk_at dksX6_type_3 21 rfl rfl)
theorem dX6_type_91 : decode cX6_type 91 = .ok (.aload_n 0, 1) := dk_42 (dk_at dksX6_type_4 0 rfl rfl)
theorem dX6_type_92 : decode cX6_type 92 = .ok (.getfield 40, 3) := dk_180 0 40 (dk_at dksX6_type_4 1 rfl rfl)
theorem dX6_type_95 : decode cX6_type 95 = .ok (.bipush 9, 2) := dk_16 9 (dk_at dksX6_type_4 4 rfl rfl)
theorem dX6_type_97 : decode cX6_type 97 = .ok (.iload_n 1, 1) := dk_27 (dk_at dksX6_type_4 6 rfl rfl)
theorem dX6_type_98 : decode cX6_type 98 = .ok (.imul, 1) := dk_104 (dk_at dksX6_type_4 7 rfl rfl)
theorem dX6_type_99 : decode cX6_type 99 = .ok (.iload 4, 2) := dk_21 4 (dk_at dksX6_type_4 8 rfl rfl)
theorem dX6_type_101 : decode cX6_type 101 = .ok (.iadd, 1) := dk_96 (dk_at dksX6_type_4 10 rfl rfl)
theorem dX6_type_102 : decode cX6_type 102 = .ok (.aload_n 0, 1) := dk_42 (dk_at dksX6_type_4 11 rfl rfl)
theorem dX6_type_103 : decode cX6_type 103 = .ok (.iload 4, 2) := dk_21 4 (dk_at dksX6_type_4 12 rfl rfl)
theorem dX6_type_105 : decode cX6_type 105 = .ok (.invokevirtual 154, 3) := dk_182 0 154 (dk_at dksX6_type_4 14 rfl rfl)
theorem dX6_type_108 : decode cX6_type 108 = .ok (.iastore, 1) := dk_79 (dk_at dksX6_type_4 17 rfl rfl)
theorem dX6_type_109 : decode cX6_type 109 = .ok (.iinc 4 1, 3) := dk_132 4 1 (dk_at dksX6_type_4 18 rfl rfl)
theorem dX6_type_112 : decode cX6_type 112 = .ok (.goto (-27), 3) := dk_167 255 229 (dk_at dksX6_type_4 21 rfl rfl)
theorem dX6_type_115 : decode cX6_type 115 = .ok (.aload_n 0, 1) := dk_42 (dk_at dksX6_type_5 0 rfl rfl)
theorem dX6_type_116 : decode cX6_type 116 = .ok (.getfield 43, 3) := dk_180 0 43 (dk_at dksX6_type_5 1 rfl rfl)
theorem dX6_type_119 : decode cX6_type 119 = .ok (.iload_n 1, 1) := dk_27 (dk_at dksX6_type_5 4 rfl rfl)
theorem dX6_type_120 : decode cX6_type 120 = .ok (.iload_n 3, 1) := dk_29 (dk_at dksX6_type_5 5 rfl rfl)
theorem dX6_type_121 : decode cX6_type 121 = .ok (.iastore, 1) := dk_79 (dk_at dksX6_type_5 6 rfl rfl)
theorem dX6_type_122 : decode cX6_type 122 = .ok (.aload_n 0, 1) := dk_42 (dk_at dksX6_type_5 7 rfl rfl)
theorem dX6_type_123 : decode cX6_type 123 = .ok (.iconst 0, 1) := dk_3 (dk_at dksX6_type_5 8 rfl rfl)
theorem dX6_type_124 : decode cX6_type 124 = .ok (.putfield 150, 3) := dk_181 0 150 (dk_at dksX6_type_5 9 rfl rfl)
theorem dX6_type_127 : decode cX6_type 127 = .ok (.iload_n 3, 1) := dk_29 (dk_at dksX6_type_5 12 rfl rfl)
theorem dX6_type_128 : decode cX6_type 128 = .ok (.ireturn, 1) := dk_172 (dk_at dksX6_type_5 13 rfl rfl)
abbrev cX6_about : ByteArray := prog_13_method_51_code
def yX6_about : MethodName := ⟨RX6, "about", "(II)I"⟩
def dkwX6_about_1 : List UInt8 := [28, 182, 1, 36, 167, 0, 5, 16, 154, 172]
abbrev dktX6_about_1 : List UInt8 := dkwX6_about_1 ++ []
def dkwX6_about_0 : List UInt8 := [42, 27, 182, 1, 33, 154, 0, 8, 16, 155, 167, 0, 23, 28, 3, 5, 184, 0, 146, 153, 0, 12, 42, 27]
abbrev dktX6_about_0 : List UInt8 := dkwX6_about_0 ++ dktX6_about_1
theorem dksX6_about_0 : cX6_about.data.toList.drop 0 = dktX6_about_0 := by decide +kernel
theorem dksX6_about_1 : cX6_about.data.toList.drop 24 = dktX6_about_1 := dk_seg dksX6_about_0 24 rfl rfl
theorem dX6_about_0 : decode cX6_about 0 = .ok (.aload_n 0, 1) := dk_42 (dk_at dksX6_about_0 0 rfl rfl)
theorem dX6_about_1 : decode cX6_about 1 = .ok (.iload_n 1, 1) := dk_27 (dk_at dksX6_about_0 1 rfl rfl)
theorem dX6_about_2 : decode cX6_about 2 = .ok (.invokevirtual 289, 3) := dk_182 1 33 (dk_at dksX6_about_0 2 rfl rfl)
theorem dX6_about_5 : decode cX6_about 5 = .ok (.ifCond .ne 8, 3) := dk_154 0 8 (dk_at dksX6_about_0 5 rfl rfl)
theorem dX6_about_8 : decode cX6_about 8 = .ok (.bipush (-101), 2) := dk_16 155 (dk_at dksX6_about_0 8 rfl rfl)
theorem dX6_about_10 : decode cX6_about 10 = .ok (.goto 23, 3) := dk_167 0 23 (dk_at dksX6_about_0 10 rfl rfl)
theorem dX6_about_13 : decode cX6_about 13 = .ok (.iload_n 2, 1) := dk_28 (dk_at dksX6_about_0 13 rfl rfl)
theorem dX6_about_14 : decode cX6_about 14 = .ok (.iconst 0, 1) := dk_3 (dk_at dksX6_about_0 14 rfl rfl)
theorem dX6_about_15 : decode cX6_about 15 = .ok (.iconst 2, 1) := dk_5 (dk_at dksX6_about_0 15 rfl rfl)
theorem dX6_about_16 : decode cX6_about 16 = .ok (.invokestatic 146, 3) := dk_184 0 146 (dk_at dksX6_about_0 16 rfl rfl)
theorem dX6_about_19 : decode cX6_about 19 = .ok (.ifCond .eq 12, 3) := dk_153 0 12 (dk_at dksX6_about_0 19 rfl rfl)
theorem dX6_about_22 : decode cX6_about 22 = .ok (.aload_n 0, 1) := dk_42 (dk_at dksX6_about_0 22 rfl rfl)
theorem dX6_about_23 : decode cX6_about 23 = .ok (.iload_n 1, 1) := dk_27 (dk_at dksX6_about_0 23 rfl rfl)
theorem dX6_about_24 : decode cX6_about 24 = .ok (.iload_n 2, 1) := dk_28 (dk_at dksX6_about_1 0 rfl rfl)
theorem dX6_about_25 : decode cX6_about 25 = .ok (.invokevirtual 292, 3) := dk_182 1 36 (dk_at dksX6_about_1 1 rfl rfl)
theorem dX6_about_28 : decode cX6_about 28 = .ok (.goto 5, 3) := dk_167 0 5 (dk_at dksX6_about_1 4 rfl rfl)
theorem dX6_about_31 : decode cX6_about 31 = .ok (.bipush (-102), 2) := dk_16 154 (dk_at dksX6_about_1 7 rfl rfl)
theorem dX6_about_33 : decode cX6_about 33 = .ok (.ireturn, 1) := dk_172 (dk_at dksX6_about_1 9 rfl rfl)
abbrev cX6_isClass : ByteArray := prog_13_method_45_code
def yX6_isClass : MethodName := ⟨RX6, "isClass", "(I)Z"⟩
def dkwX6_isClass_0 : List UInt8 := [27, 3, 42, 180, 0, 211, 4, 100, 184, 0, 146, 172]
abbrev dktX6_isClass_0 : List UInt8 := dkwX6_isClass_0 ++ []
theorem dksX6_isClass_0 : cX6_isClass.data.toList.drop 0 = dktX6_isClass_0 := by decide +kernel
theorem dX6_isClass_0 : decode cX6_isClass 0 = .ok (.iload_n 1, 1) := dk_27 (dk_at dksX6_isClass_0 0 rfl rfl)
theorem dX6_isClass_1 : decode cX6_isClass 1 = .ok (.iconst 0, 1) := dk_3 (dk_at dksX6_isClass_0 1 rfl rfl)
theorem dX6_isClass_2 : decode cX6_isClass 2 = .ok (.aload_n 0, 1) := dk_42 (dk_at dksX6_isClass_0 2 rfl rfl)
theorem dX6_isClass_3 : decode cX6_isClass 3 = .ok (.getfield 211, 3) := dk_180 0 211 (dk_at dksX6_isClass_0 3 rfl rfl)
theorem dX6_isClass_6 : decode cX6_isClass 6 = .ok (.iconst 1, 1) := dk_4 (dk_at dksX6_isClass_0 6 rfl rfl)
theorem dX6_isClass_7 : decode cX6_isClass 7 = .ok (.isub, 1) := dk_100 (dk_at dksX6_isClass_0 7 rfl rfl)
theorem dX6_isClass_8 : decode cX6_isClass 8 = .ok (.invokestatic 146, 3) := dk_184 0 146 (dk_at dksX6_isClass_0 8 rfl rfl)
theorem dX6_isClass_11 : decode cX6_isClass 11 = .ok (.ireturn, 1) := dk_172 (dk_at dksX6_isClass_0 11 rfl rfl)
abbrev cX6_aboutNow : ByteArray := prog_13_method_50_code
def yX6_aboutNow : MethodName := ⟨RX6, "aboutNow", "(II)I"⟩
def dkwX6_aboutNow_1 : List UInt8 := [167, 0, 8, 42, 27, 182, 1, 30, 172]
abbrev dktX6_aboutNow_1 : List UInt8 := dkwX6_aboutNow_1 ++ []
def dkwX6_aboutNow_0 : List UInt8 := [28, 154, 0, 12, 42, 180, 0, 7, 27, 46, 167, 0, 22, 28, 4, 160, 0, 12, 42, 180, 0, 13, 27, 46]
abbrev dktX6_aboutNow_0 : List UInt8 := dkwX6_aboutNow_0 ++ dktX6_aboutNow_1
theorem dksX6_aboutNow_0 : cX6_aboutNow.data.toList.drop 0 = dktX6_aboutNow_0 := by decide +kernel
theorem dksX6_aboutNow_1 : cX6_aboutNow.data.toList.drop 24 = dktX6_aboutNow_1 := dk_seg dksX6_aboutNow_0 24 rfl rfl
theorem dX6_aboutNow_0 : decode cX6_aboutNow 0 = .ok (.iload_n 2, 1) := dk_28 (dk_at dksX6_aboutNow_0 0 rfl rfl)
theorem dX6_aboutNow_1 : decode cX6_aboutNow 1 = .ok (.ifCond .ne 12, 3) := dk_154 0 12 (dk_at dksX6_aboutNow_0 1 rfl rfl)
theorem dX6_aboutNow_4 : decode cX6_aboutNow 4 = .ok (.aload_n 0, 1) := dk_42 (dk_at dksX6_aboutNow_0 4 rfl rfl)
theorem dX6_aboutNow_5 : decode cX6_aboutNow 5 = .ok (.getfield 7, 3) := dk_180 0 7 (dk_at dksX6_aboutNow_0 5 rfl rfl)
theorem dX6_aboutNow_8 : decode cX6_aboutNow 8 = .ok (.iload_n 1, 1) := dk_27 (dk_at dksX6_aboutNow_0 8 rfl rfl)
theorem dX6_aboutNow_9 : decode cX6_aboutNow 9 = .ok (.iaload, 1) := dk_46 (dk_at dksX6_aboutNow_0 9 rfl rfl)
theorem dX6_aboutNow_10 : decode cX6_aboutNow 10 = .ok (.goto 22, 3) := dk_167 0 22 (dk_at dksX6_aboutNow_0 10 rfl rfl)
theorem dX6_aboutNow_13 : decode cX6_aboutNow 13 = .ok (.iload_n 2, 1) := dk_28 (dk_at dksX6_aboutNow_0 13 rfl rfl)
theorem dX6_aboutNow_14 : decode cX6_aboutNow 14 = .ok (.iconst 1, 1) := dk_4 (dk_at dksX6_aboutNow_0 14 rfl rfl)
theorem dX6_aboutNow_15 : decode cX6_aboutNow 15 = .ok (.if_icmp .ne 12, 3) := dk_160 0 12 (dk_at dksX6_aboutNow_0 15 rfl rfl)
theorem dX6_aboutNow_18 : decode cX6_aboutNow 18 = .ok (.aload_n 0, 1) := dk_42 (dk_at dksX6_aboutNow_0 18 rfl rfl)
theorem dX6_aboutNow_19 : decode cX6_aboutNow 19 = .ok (.getfield 13, 3) := dk_180 0 13 (dk_at dksX6_aboutNow_0 19 rfl rfl)
theorem dX6_aboutNow_22 : decode cX6_aboutNow 22 = .ok (.iload_n 1, 1) := dk_27 (dk_at dksX6_aboutNow_0 22 rfl rfl)
theorem dX6_aboutNow_23 : decode cX6_aboutNow 23 = .ok (.iaload, 1) := dk_46 (dk_at dksX6_aboutNow_0 23 rfl rfl)
theorem dX6_aboutNow_24 : decode cX6_aboutNow 24 = .ok (.goto 8, 3) := dk_167 0 8 (dk_at dksX6_aboutNow_1 0 rfl rfl)
theorem dX6_aboutNow_27 : decode cX6_aboutNow 27 = .ok (.aload_n 0, 1) := dk_42 (dk_at dksX6_aboutNow_1 3 rfl rfl)
theorem dX6_aboutNow_28 : decode cX6_aboutNow 28 = .ok (.iload_n 1, 1) := dk_27 (dk_at dksX6_aboutNow_1 4 rfl rfl)
theorem dX6_aboutNow_29 : decode cX6_aboutNow 29 = .ok (.invokevirtual 286, 3) := dk_182 1 30 (dk_at dksX6_aboutNow_1 5 rfl rfl)
theorem dX6_aboutNow_32 : decode cX6_aboutNow 32 = .ok (.ireturn, 1) := dk_172 (dk_at dksX6_aboutNow_1 8 rfl rfl)
abbrev cX6_instancesOf : ByteArray := prog_13_method_49_code
def yX6_instancesOf : MethodName := ⟨RX6, "instancesOf", "(I)I"⟩
def dkwX6_instancesOf_1 : List UInt8 := [167, 0, 4, 3, 96, 61, 132, 3, 1, 167, 255, 227, 28, 172]
abbrev dktX6_instancesOf_1 : List UInt8 := dkwX6_instancesOf_1 ++ []
def dkwX6_instancesOf_0 : List UInt8 := [3, 61, 3, 62, 29, 42, 180, 0, 217, 162, 0, 27, 28, 42, 180, 0, 19, 29, 46, 27, 160, 0, 7, 4]
abbrev dktX6_instancesOf_0 : List UInt8 := dkwX6_instancesOf_0 ++ dktX6_instancesOf_1
theorem dksX6_instancesOf_0 : cX6_instancesOf.data.toList.drop 0 = dktX6_instancesOf_0 := by decide +kernel
theorem dksX6_instancesOf_1 : cX6_instancesOf.data.toList.drop 24 = dktX6_instancesOf_1 := dk_seg dksX6_instancesOf_0 24 rfl rfl
theorem dX6_instancesOf_0 : decode cX6_instancesOf 0 = .ok (.iconst 0, 1) := dk_3 (dk_at dksX6_instancesOf_0 0 rfl rfl)
theorem dX6_instancesOf_1 : decode cX6_instancesOf 1 = .ok (.istore_n 2, 1) := dk_61 (dk_at dksX6_instancesOf_0 1 rfl rfl)
theorem dX6_instancesOf_2 : decode cX6_instancesOf 2 = .ok (.iconst 0, 1) := dk_3 (dk_at dksX6_instancesOf_0 2 rfl rfl)
theorem dX6_instancesOf_3 : decode cX6_instancesOf 3 = .ok (.istore_n 3, 1) := dk_62 (dk_at dksX6_instancesOf_0 3 rfl rfl)
theorem dX6_instancesOf_4 : decode cX6_instancesOf 4 = .ok (.iload_n 3, 1) := dk_29 (dk_at dksX6_instancesOf_0 4 rfl rfl)
theorem dX6_instancesOf_5 : decode cX6_instancesOf 5 = .ok (.aload_n 0, 1) := dk_42 (dk_at dksX6_instancesOf_0 5 rfl rfl)
theorem dX6_instancesOf_6 : decode cX6_instancesOf 6 = .ok (.getfield 217, 3) := dk_180 0 217 (dk_at dksX6_instancesOf_0 6 rfl rfl)
theorem dX6_instancesOf_9 : decode cX6_instancesOf 9 = .ok (.if_icmp .ge 27, 3) := dk_162 0 27 (dk_at dksX6_instancesOf_0 9 rfl rfl)
theorem dX6_instancesOf_12 : decode cX6_instancesOf 12 = .ok (.iload_n 2, 1) := dk_28 (dk_at dksX6_instancesOf_0 12 rfl rfl)
theorem dX6_instancesOf_13 : decode cX6_instancesOf 13 = .ok (.aload_n 0, 1) := dk_42 (dk_at dksX6_instancesOf_0 13 rfl rfl)
theorem dX6_instancesOf_14 : decode cX6_instancesOf 14 = .ok (.getfield 19, 3) := dk_180 0 19 (dk_at dksX6_instancesOf_0 14 rfl rfl)
theorem dX6_instancesOf_17 : decode cX6_instancesOf 17 = .ok (.iload_n 3, 1) := dk_29 (dk_at dksX6_instancesOf_0 17 rfl rfl)
theorem dX6_instancesOf_18 : decode cX6_instancesOf 18 = .ok (.iaload, 1) := dk_46 (dk_at dksX6_instancesOf_0 18 rfl rfl)
theorem dX6_instancesOf_19 : decode cX6_instancesOf 19 = .ok (.iload_n 1, 1) := dk_27 (dk_at dksX6_instancesOf_0 19 rfl rfl)
theorem dX6_instancesOf_20 : decode cX6_instancesOf 20 = .ok (.if_icmp .ne 7, 3) := dk_160 0 7 (dk_at dksX6_instancesOf_0 20 rfl rfl)
theorem dX6_instancesOf_23 : decode cX6_instancesOf 23 = .ok (.iconst 1, 1) := dk_4 (dk_at dksX6_instancesOf_0 23 rfl rfl)
theorem dX6_instancesOf_24 : decode cX6_instancesOf 24 = .ok (.goto 4, 3) := dk_167 0 4 (dk_at dksX6_instancesOf_1 0 rfl rfl)
theorem dX6_instancesOf_27 : decode cX6_instancesOf 27 = .ok (.iconst 0, 1) := dk_3 (dk_at dksX6_instancesOf_1 3 rfl rfl)
theorem dX6_instancesOf_28 : decode cX6_instancesOf 28 = .ok (.iadd, 1) := dk_96 (dk_at dksX6_instancesOf_1 4 rfl rfl)
theorem dX6_instancesOf_29 : decode cX6_instancesOf 29 = .ok (.istore_n 2, 1) := dk_61 (dk_at dksX6_instancesOf_1 5 rfl rfl)
theorem dX6_instancesOf_30 : decode cX6_instancesOf 30 = .ok (.iinc 3 1, 3) := dk_132 3 1 (dk_at dksX6_instancesOf_1 6 rfl rfl)
theorem dX6_instancesOf_33 : decode cX6_instancesOf 33 = .ok (.goto (-29), 3) := dk_167 255 227 (dk_at dksX6_instancesOf_1 9 rfl rfl)
theorem dX6_instancesOf_36 : decode cX6_instancesOf 36 = .ok (.iload_n 2, 1) := dk_28 (dk_at dksX6_instancesOf_1 12 rfl rfl)
theorem dX6_instancesOf_37 : decode cX6_instancesOf 37 = .ok (.ireturn, 1) := dk_172 (dk_at dksX6_instancesOf_1 13 rfl rfl)
abbrev cX6_instance : ByteArray := prog_13_method_55_code
def yX6_instance : MethodName := ⟨RX6, "instance", "(II)I"⟩
def dkwX6_instance_1 : List UInt8 := [27, 28, 182, 1, 57, 167, 0, 5, 16, 154, 172]
abbrev dktX6_instance_1 : List UInt8 := dkwX6_instance_1 ++ []
def dkwX6_instance_0 : List UInt8 := [42, 27, 182, 1, 54, 154, 0, 8, 16, 155, 167, 0, 24, 28, 3, 16, 7, 184, 0, 146, 153, 0, 12, 42]
abbrev dktX6_instance_0 : List UInt8 := dkwX6_instance_0 ++ dktX6_instance_1
theorem dksX6_instance_0 : cX6_instance.data.toList.drop 0 = dktX6_instance_0 := by decide +kernel
theorem dksX6_instance_1 : cX6_instance.data.toList.drop 24 = dktX6_instance_1 := dk_seg dksX6_instance_0 24 rfl rfl
theorem dX6_instance_0 : decode cX6_instance 0 = .ok (.aload_n 0, 1) := dk_42 (dk_at dksX6_instance_0 0 rfl rfl)
theorem dX6_instance_1 : decode cX6_instance 1 = .ok (.iload_n 1, 1) := dk_27 (dk_at dksX6_instance_0 1 rfl rfl)
theorem dX6_instance_2 : decode cX6_instance 2 = .ok (.invokevirtual 310, 3) := dk_182 1 54 (dk_at dksX6_instance_0 2 rfl rfl)
theorem dX6_instance_5 : decode cX6_instance 5 = .ok (.ifCond .ne 8, 3) := dk_154 0 8 (dk_at dksX6_instance_0 5 rfl rfl)
theorem dX6_instance_8 : decode cX6_instance 8 = .ok (.bipush (-101), 2) := dk_16 155 (dk_at dksX6_instance_0 8 rfl rfl)
theorem dX6_instance_10 : decode cX6_instance 10 = .ok (.goto 24, 3) := dk_167 0 24 (dk_at dksX6_instance_0 10 rfl rfl)
theorem dX6_instance_13 : decode cX6_instance 13 = .ok (.iload_n 2, 1) := dk_28 (dk_at dksX6_instance_0 13 rfl rfl)
theorem dX6_instance_14 : decode cX6_instance 14 = .ok (.iconst 0, 1) := dk_3 (dk_at dksX6_instance_0 14 rfl rfl)
theorem dX6_instance_15 : decode cX6_instance 15 = .ok (.bipush 7, 2) := dk_16 7 (dk_at dksX6_instance_0 15 rfl rfl)
theorem dX6_instance_17 : decode cX6_instance 17 = .ok (.invokestatic 146, 3) := dk_184 0 146 (dk_at dksX6_instance_0 17 rfl rfl)
theorem dX6_instance_20 : decode cX6_instance 20 = .ok (.ifCond .eq 12, 3) := dk_153 0 12 (dk_at dksX6_instance_0 20 rfl rfl)
theorem dX6_instance_23 : decode cX6_instance 23 = .ok (.aload_n 0, 1) := dk_42 (dk_at dksX6_instance_0 23 rfl rfl)
theorem dX6_instance_24 : decode cX6_instance 24 = .ok (.iload_n 1, 1) := dk_27 (dk_at dksX6_instance_1 0 rfl rfl)
theorem dX6_instance_25 : decode cX6_instance 25 = .ok (.iload_n 2, 1) := dk_28 (dk_at dksX6_instance_1 1 rfl rfl)
theorem dX6_instance_26 : decode cX6_instance 26 = .ok (.invokevirtual 313, 3) := dk_182 1 57 (dk_at dksX6_instance_1 2 rfl rfl)
theorem dX6_instance_29 : decode cX6_instance 29 = .ok (.goto 5, 3) := dk_167 0 5 (dk_at dksX6_instance_1 5 rfl rfl)
theorem dX6_instance_32 : decode cX6_instance 32 = .ok (.bipush (-102), 2) := dk_16 154 (dk_at dksX6_instance_1 8 rfl rfl)
theorem dX6_instance_34 : decode cX6_instance 34 = .ok (.ireturn, 1) := dk_172 (dk_at dksX6_instance_1 10 rfl rfl)
abbrev cX6_isInstance : ByteArray := prog_13_method_46_code
def yX6_isInstance : MethodName := ⟨RX6, "isInstance", "(I)Z"⟩
def dkwX6_isInstance_0 : List UInt8 := [27, 3, 42, 180, 0, 217, 4, 100, 184, 0, 146, 172]
abbrev dktX6_isInstance_0 : List UInt8 := dkwX6_isInstance_0 ++ []
theorem dksX6_isInstance_0 : cX6_isInstance.data.toList.drop 0 = dktX6_isInstance_0 := by decide +kernel
theorem dX6_isInstance_0 : decode cX6_isInstance 0 = .ok (.iload_n 1, 1) := dk_27 (dk_at dksX6_isInstance_0 0 rfl rfl)
theorem dX6_isInstance_1 : decode cX6_isInstance 1 = .ok (.iconst 0, 1) := dk_3 (dk_at dksX6_isInstance_0 1 rfl rfl)
theorem dX6_isInstance_2 : decode cX6_isInstance 2 = .ok (.aload_n 0, 1) := dk_42 (dk_at dksX6_isInstance_0 2 rfl rfl)
theorem dX6_isInstance_3 : decode cX6_isInstance 3 = .ok (.getfield 217, 3) := dk_180 0 217 (dk_at dksX6_isInstance_0 3 rfl rfl)
theorem dX6_isInstance_6 : decode cX6_isInstance 6 = .ok (.iconst 1, 1) := dk_4 (dk_at dksX6_isInstance_0 6 rfl rfl)
theorem dX6_isInstance_7 : decode cX6_isInstance 7 = .ok (.isub, 1) := dk_100 (dk_at dksX6_isInstance_0 7 rfl rfl)
theorem dX6_isInstance_8 : decode cX6_isInstance 8 = .ok (.invokestatic 146, 3) := dk_184 0 146 (dk_at dksX6_isInstance_0 8 rfl rfl)
theorem dX6_isInstance_11 : decode cX6_isInstance 11 = .ok (.ireturn, 1) := dk_172 (dk_at dksX6_isInstance_0 11 rfl rfl)
abbrev cX6_instanceNow : ByteArray := prog_13_method_54_code
def yX6_instanceNow : MethodName := ⟨RX6, "instanceNow", "(II)I"⟩
def dkwX6_instanceNow_4 : List UInt8 := [182, 1, 45, 172, 42, 27, 182, 1, 48, 172, 42, 27, 182, 1, 51, 172]
abbrev dktX6_instanceNow_4 : List UInt8 := dkwX6_instanceNow_4 ++ []
def dkwX6_instanceNow_3 : List UInt8 := [180, 0, 28, 27, 46, 172, 42, 27, 182, 0, 248, 153, 0, 7, 4, 167, 0, 4, 3, 172, 42, 27]
abbrev dktX6_instanceNow_3 : List UInt8 := dkwX6_instanceNow_3 ++ dktX6_instanceNow_4
def dkwX6_instanceNow_2 : List UInt8 := [42, 180, 0, 16, 27, 46, 172, 42, 180, 0, 19, 27, 46, 172, 42, 180, 0, 25, 27, 46, 172, 42]
abbrev dktX6_instanceNow_2 : List UInt8 := dkwX6_instanceNow_2 ++ dktX6_instanceNow_3
def dkwX6_instanceNow_1 : List UInt8 := [170, 0, 0, 0, 0, 0, 97, 0, 0, 0, 0, 0, 0, 0, 6, 0, 0, 0, 43, 0, 0, 0, 50, 0, 0, 0, 57, 0, 0, 0, 64, 0, 0, 0, 71, 0, 0, 0, 85, 0, 0, 0, 91]
abbrev dktX6_instanceNow_1 : List UInt8 := dkwX6_instanceNow_1 ++ dktX6_instanceNow_2
def dkwX6_instanceNow_0 : List UInt8 := [28]
abbrev dktX6_instanceNow_0 : List UInt8 := dkwX6_instanceNow_0 ++ dktX6_instanceNow_1
theorem dksX6_instanceNow_0 : cX6_instanceNow.data.toList.drop 0 = dktX6_instanceNow_0 := by decide +kernel
theorem dksX6_instanceNow_1 : cX6_instanceNow.data.toList.drop 1 = dktX6_instanceNow_1 := dk_seg dksX6_instanceNow_0 1 rfl rfl
theorem dksX6_instanceNow_2 : cX6_instanceNow.data.toList.drop 44 = dktX6_instanceNow_2 := dk_seg dksX6_instanceNow_1 43 rfl rfl
theorem dksX6_instanceNow_3 : cX6_instanceNow.data.toList.drop 66 = dktX6_instanceNow_3 := dk_seg dksX6_instanceNow_2 22 rfl rfl
theorem dksX6_instanceNow_4 : cX6_instanceNow.data.toList.drop 88 = dktX6_instanceNow_4 := dk_seg dksX6_instanceNow_3 22 rfl rfl
theorem dX6_instanceNow_0 : decode cX6_instanceNow 0 = .ok (.iload_n 2, 1) := dk_28 (dk_at dksX6_instanceNow_0 0 rfl rfl)
theorem dX6_instanceNow_1 : decode cX6_instanceNow 1 = .ok (.tableswitch 97 0 6 #[43, 50, 57, 64, 71, 85, 91], 43) := by decide +kernel
theorem dX6_instanceNow_44 : decode cX6_instanceNow 44 = .ok (.aload_n 0, 1) := dk_42 (dk_at dksX6_instanceNow_2 0 rfl rfl)
theorem dX6_instanceNow_45 : decode cX6_instanceNow 45 = .ok (.getfield 16, 3) := dk_180 0 16 (dk_at dksX6_instanceNow_2 1 rfl rfl)
theorem dX6_instanceNow_48 : decode cX6_instanceNow 48 = .ok (.iload_n 1, 1) := dk_27 (dk_at dksX6_instanceNow_2 4 rfl rfl)
theorem dX6_instanceNow_49 : decode cX6_instanceNow 49 = .ok (.iaload, 1) := dk_46 (dk_at dksX6_instanceNow_2 5 rfl rfl)
theorem dX6_instanceNow_50 : decode cX6_instanceNow 50 = .ok (.ireturn, 1) := dk_172 (dk_at dksX6_instanceNow_2 6 rfl rfl)
theorem dX6_instanceNow_51 : decode cX6_instanceNow 51 = .ok (.aload_n 0, 1) := dk_42 (dk_at dksX6_instanceNow_2 7 rfl rfl)
theorem dX6_instanceNow_52 : decode cX6_instanceNow 52 = .ok (.getfield 19, 3) := dk_180 0 19 (dk_at dksX6_instanceNow_2 8 rfl rfl)
theorem dX6_instanceNow_55 : decode cX6_instanceNow 55 = .ok (.iload_n 1, 1) := dk_27 (dk_at dksX6_instanceNow_2 11 rfl rfl)
theorem dX6_instanceNow_56 : decode cX6_instanceNow 56 = .ok (.iaload, 1) := dk_46 (dk_at dksX6_instanceNow_2 12 rfl rfl)
theorem dX6_instanceNow_57 : decode cX6_instanceNow 57 = .ok (.ireturn, 1) := dk_172 (dk_at dksX6_instanceNow_2 13 rfl rfl)
theorem dX6_instanceNow_58 : decode cX6_instanceNow 58 = .ok (.aload_n 0, 1) := dk_42 (dk_at dksX6_instanceNow_2 14 rfl rfl)
theorem dX6_instanceNow_59 : decode cX6_instanceNow 59 = .ok (.getfield 25, 3) := dk_180 0 25 (dk_at dksX6_instanceNow_2 15 rfl rfl)
theorem dX6_instanceNow_62 : decode cX6_instanceNow 62 = .ok (.iload_n 1, 1) := dk_27 (dk_at dksX6_instanceNow_2 18 rfl rfl)
theorem dX6_instanceNow_63 : decode cX6_instanceNow 63 = .ok (.iaload, 1) := dk_46 (dk_at dksX6_instanceNow_2 19 rfl rfl)
theorem dX6_instanceNow_64 : decode cX6_instanceNow 64 = .ok (.ireturn, 1) := dk_172 (dk_at dksX6_instanceNow_2 20 rfl rfl)
theorem dX6_instanceNow_65 : decode cX6_instanceNow 65 = .ok (.aload_n 0, 1) := dk_42 (dk_at dksX6_instanceNow_2 21 rfl rfl)
theorem dX6_instanceNow_66 : decode cX6_instanceNow 66 = .ok (.getfield 28, 3) := dk_180 0 28 (dk_at dksX6_instanceNow_3 0 rfl rfl)
theorem dX6_instanceNow_69 : decode cX6_instanceNow 69 = .ok (.iload_n 1, 1) := dk_27 (dk_at dksX6_instanceNow_3 3 rfl rfl)
theorem dX6_instanceNow_70 : decode cX6_instanceNow 70 = .ok (.iaload, 1) := dk_46 (dk_at dksX6_instanceNow_3 4 rfl rfl)
theorem dX6_instanceNow_71 : decode cX6_instanceNow 71 = .ok (.ireturn, 1) := dk_172 (dk_at dksX6_instanceNow_3 5 rfl rfl)
theorem dX6_instanceNow_72 : decode cX6_instanceNow 72 = .ok (.aload_n 0, 1) := dk_42 (dk_at dksX6_instanceNow_3 6 rfl rfl)
theorem dX6_instanceNow_73 : decode cX6_instanceNow 73 = .ok (.iload_n 1, 1) := dk_27 (dk_at dksX6_instanceNow_3 7 rfl rfl)
theorem dX6_instanceNow_74 : decode cX6_instanceNow 74 = .ok (.invokevirtual 248, 3) := dk_182 0 248 (dk_at dksX6_instanceNow_3 8 rfl rfl)
theorem dX6_instanceNow_77 : decode cX6_instanceNow 77 = .ok (.ifCond .eq 7, 3) := dk_153 0 7 (dk_at dksX6_instanceNow_3 11 rfl rfl)
theorem dX6_instanceNow_80 : decode cX6_instanceNow 80 = .ok (.iconst 1, 1) := dk_4 (dk_at dksX6_instanceNow_3 14 rfl rfl)
theorem dX6_instanceNow_81 : decode cX6_instanceNow 81 = .ok (.goto 4, 3) := dk_167 0 4 (dk_at dksX6_instanceNow_3 15 rfl rfl)
theorem dX6_instanceNow_84 : decode cX6_instanceNow 84 = .ok (.iconst 0, 1) := dk_3 (dk_at dksX6_instanceNow_3 18 rfl rfl)
theorem dX6_instanceNow_85 : decode cX6_instanceNow 85 = .ok (.ireturn, 1) := dk_172 (dk_at dksX6_instanceNow_3 19 rfl rfl)
theorem dX6_instanceNow_86 : decode cX6_instanceNow 86 = .ok (.aload_n 0, 1) := dk_42 (dk_at dksX6_instanceNow_3 20 rfl rfl)
theorem dX6_instanceNow_87 : decode cX6_instanceNow 87 = .ok (.iload_n 1, 1) := dk_27 (dk_at dksX6_instanceNow_3 21 rfl rfl)
theorem dX6_instanceNow_88 : decode cX6_instanceNow 88 = .ok (.invokevirtual 301, 3) := dk_182 1 45 (dk_at dksX6_instanceNow_4 0 rfl rfl)
theorem dX6_instanceNow_91 : decode cX6_instanceNow 91 = .ok (.ireturn, 1) := dk_172 (dk_at dksX6_instanceNow_4 3 rfl rfl)
theorem dX6_instanceNow_92 : decode cX6_instanceNow 92 = .ok (.aload_n 0, 1) := dk_42 (dk_at dksX6_instanceNow_4 4 rfl rfl)
theorem dX6_instanceNow_93 : decode cX6_instanceNow 93 = .ok (.iload_n 1, 1) := dk_27 (dk_at dksX6_instanceNow_4 5 rfl rfl)
theorem dX6_instanceNow_94 : decode cX6_instanceNow 94 = .ok (.invokevirtual 304, 3) := dk_182 1 48 (dk_at dksX6_instanceNow_4 6 rfl rfl)
theorem dX6_instanceNow_97 : decode cX6_instanceNow 97 = .ok (.ireturn, 1) := dk_172 (dk_at dksX6_instanceNow_4 9 rfl rfl)
theorem dX6_instanceNow_98 : decode cX6_instanceNow 98 = .ok (.aload_n 0, 1) := dk_42 (dk_at dksX6_instanceNow_4 10 rfl rfl)
theorem dX6_instanceNow_99 : decode cX6_instanceNow 99 = .ok (.iload_n 1, 1) := dk_27 (dk_at dksX6_instanceNow_4 11 rfl rfl)
theorem dX6_instanceNow_100 : decode cX6_instanceNow 100 = .ok (.invokevirtual 307, 3) := dk_182 1 51 (dk_at dksX6_instanceNow_4 12 rfl rfl)
theorem dX6_instanceNow_103 : decode cX6_instanceNow 103 = .ok (.ireturn, 1) := dk_172 (dk_at dksX6_instanceNow_4 15 rfl rfl)
abbrev cX6_isSound : ByteArray := prog_13_method_30_code
def yX6_isSound : MethodName := ⟨RX6, "isSound", "(I)Z"⟩
def dkwX6_isSound_1 : List UInt8 := [27, 104, 46, 184, 0, 181, 154, 0, 7, 4, 167, 0, 4, 3, 172]
abbrev dktX6_isSound_1 : List UInt8 := dkwX6_isSound_1 ++ []
def dkwX6_isSound_0 : List UInt8 := [42, 180, 0, 28, 27, 46, 153, 0, 27, 42, 180, 0, 25, 27, 46, 4, 163, 0, 17, 42, 180, 0, 22, 8]
abbrev dktX6_isSound_0 : List UInt8 := dkwX6_isSound_0 ++ dktX6_isSound_1
theorem dksX6_isSound_0 : cX6_isSound.data.toList.drop 0 = dktX6_isSound_0 := by decide +kernel
theorem dksX6_isSound_1 : cX6_isSound.data.toList.drop 24 = dktX6_isSound_1 := dk_seg dksX6_isSound_0 24 rfl rfl
theorem dX6_isSound_0 : decode cX6_isSound 0 = .ok (.aload_n 0, 1) := dk_42 (dk_at dksX6_isSound_0 0 rfl rfl)
theorem dX6_isSound_1 : decode cX6_isSound 1 = .ok (.getfield 28, 3) := dk_180 0 28 (dk_at dksX6_isSound_0 1 rfl rfl)
theorem dX6_isSound_4 : decode cX6_isSound 4 = .ok (.iload_n 1, 1) := dk_27 (dk_at dksX6_isSound_0 4 rfl rfl)
theorem dX6_isSound_5 : decode cX6_isSound 5 = .ok (.iaload, 1) := dk_46 (dk_at dksX6_isSound_0 5 rfl rfl)
theorem dX6_isSound_6 : decode cX6_isSound 6 = .ok (.ifCond .eq 27, 3) := dk_153 0 27 (dk_at dksX6_isSound_0 6 rfl rfl)
theorem dX6_isSound_9 : decode cX6_isSound 9 = .ok (.aload_n 0, 1) := dk_42 (dk_at dksX6_isSound_0 9 rfl rfl)
theorem dX6_isSound_10 : decode cX6_isSound 10 = .ok (.getfield 25, 3) := dk_180 0 25 (dk_at dksX6_isSound_0 10 rfl rfl)
theorem dX6_isSound_13 : decode cX6_isSound 13 = .ok (.iload_n 1, 1) := dk_27 (dk_at dksX6_isSound_0 13 rfl rfl)
theorem dX6_isSound_14 : decode cX6_isSound 14 = .ok (.iaload, 1) := dk_46 (dk_at dksX6_isSound_0 14 rfl rfl)
theorem dX6_isSound_15 : decode cX6_isSound 15 = .ok (.iconst 1, 1) := dk_4 (dk_at dksX6_isSound_0 15 rfl rfl)
theorem dX6_isSound_16 : decode cX6_isSound 16 = .ok (.if_icmp .gt 17, 3) := dk_163 0 17 (dk_at dksX6_isSound_0 16 rfl rfl)
theorem dX6_isSound_19 : decode cX6_isSound 19 = .ok (.aload_n 0, 1) := dk_42 (dk_at dksX6_isSound_0 19 rfl rfl)
theorem dX6_isSound_20 : decode cX6_isSound 20 = .ok (.getfield 22, 3) := dk_180 0 22 (dk_at dksX6_isSound_0 20 rfl rfl)
theorem dX6_isSound_23 : decode cX6_isSound 23 = .ok (.iconst 5, 1) := dk_8 (dk_at dksX6_isSound_0 23 rfl rfl)
theorem dX6_isSound_24 : decode cX6_isSound 24 = .ok (.iload_n 1, 1) := dk_27 (dk_at dksX6_isSound_1 0 rfl rfl)
theorem dX6_isSound_25 : decode cX6_isSound 25 = .ok (.imul, 1) := dk_104 (dk_at dksX6_isSound_1 1 rfl rfl)
theorem dX6_isSound_26 : decode cX6_isSound 26 = .ok (.iaload, 1) := dk_46 (dk_at dksX6_isSound_1 2 rfl rfl)
theorem dX6_isSound_27 : decode cX6_isSound 27 = .ok (.invokestatic 181, 3) := dk_184 0 181 (dk_at dksX6_isSound_1 3 rfl rfl)
theorem dX6_isSound_30 : decode cX6_isSound 30 = .ok (.ifCond .ne 7, 3) := dk_154 0 7 (dk_at dksX6_isSound_1 6 rfl rfl)
theorem dX6_isSound_33 : decode cX6_isSound 33 = .ok (.iconst 1, 1) := dk_4 (dk_at dksX6_isSound_1 9 rfl rfl)
theorem dX6_isSound_34 : decode cX6_isSound 34 = .ok (.goto 4, 3) := dk_167 0 4 (dk_at dksX6_isSound_1 10 rfl rfl)
theorem dX6_isSound_37 : decode cX6_isSound 37 = .ok (.iconst 0, 1) := dk_3 (dk_at dksX6_isSound_1 13 rfl rfl)
theorem dX6_isSound_38 : decode cX6_isSound 38 = .ok (.ireturn, 1) := dk_172 (dk_at dksX6_isSound_1 14 rfl rfl)
abbrev cX6_sortsOf : ByteArray := prog_13_method_79_code
def yX6_sortsOf : MethodName := ⟨RX6, "sortsOf", "(I)I"⟩
def dkwX6_sortsOf_4 : List UInt8 := [3, 128, 61, 132, 3, 1, 167, 255, 159, 28, 172]
abbrev dktX6_sortsOf_4 : List UInt8 := dkwX6_sortsOf_4 ++ []
def dkwX6_sortsOf_3 : List UInt8 := [167, 0, 4, 3, 54, 4, 132, 5, 1, 167, 255, 191, 28, 21, 4, 153, 0, 9, 4, 29, 120, 167, 0, 4]
abbrev dktX6_sortsOf_3 : List UInt8 := dkwX6_sortsOf_3 ++ dktX6_sortsOf_4
def dkwX6_sortsOf_2 : List UInt8 := [184, 1, 123, 42, 180, 0, 52, 21, 5, 46, 4, 160, 0, 7, 4, 167, 0, 4, 3, 160, 0, 7, 4]
abbrev dktX6_sortsOf_2 : List UInt8 := dkwX6_sortsOf_2 ++ dktX6_sortsOf_3
def dkwX6_sortsOf_1 : List UInt8 := [21, 4, 153, 0, 48, 42, 180, 0, 46, 21, 5, 46, 27, 160, 0, 33, 29, 42, 180, 0, 49, 21, 5, 46]
abbrev dktX6_sortsOf_1 : List UInt8 := dkwX6_sortsOf_1 ++ dktX6_sortsOf_2
def dkwX6_sortsOf_0 : List UInt8 := [3, 61, 3, 62, 29, 7, 163, 0, 98, 4, 54, 4, 3, 54, 5, 21, 5, 42, 180, 0, 230, 162, 0, 62]
abbrev dktX6_sortsOf_0 : List UInt8 := dkwX6_sortsOf_0 ++ dktX6_sortsOf_1
theorem dksX6_sortsOf_0 : cX6_sortsOf.data.toList.drop 0 = dktX6_sortsOf_0 := by decide +kernel
theorem dksX6_sortsOf_1 : cX6_sortsOf.data.toList.drop 24 = dktX6_sortsOf_1 := dk_seg dksX6_sortsOf_0 24 rfl rfl
theorem dksX6_sortsOf_2 : cX6_sortsOf.data.toList.drop 48 = dktX6_sortsOf_2 := dk_seg dksX6_sortsOf_1 24 rfl rfl
theorem dksX6_sortsOf_3 : cX6_sortsOf.data.toList.drop 71 = dktX6_sortsOf_3 := dk_seg dksX6_sortsOf_2 23 rfl rfl
theorem dksX6_sortsOf_4 : cX6_sortsOf.data.toList.drop 95 = dktX6_sortsOf_4 := dk_seg dksX6_sortsOf_3 24 rfl rfl
theorem dX6_sortsOf_0 : decode cX6_sortsOf 0 = .ok (.iconst 0, 1) := dk_3 (dk_at dksX6_sortsOf_0 0 rfl rfl)
theorem dX6_sortsOf_1 : decode cX6_sortsOf 1 = .ok (.istore_n 2, 1) := dk_61 (dk_at dksX6_sortsOf_0 1 rfl rfl)
theorem dX6_sortsOf_2 : decode cX6_sortsOf 2 = .ok (.iconst 0, 1) := dk_3 (dk_at dksX6_sortsOf_0 2 rfl rfl)
theorem dX6_sortsOf_3 : decode cX6_sortsOf 3 = .ok (.istore_n 3, 1) := dk_62 (dk_at dksX6_sortsOf_0 3 rfl rfl)
theorem dX6_sortsOf_4 : decode cX6_sortsOf 4 = .ok (.iload_n 3, 1) := dk_29 (dk_at dksX6_sortsOf_0 4 rfl rfl)
theorem dX6_sortsOf_5 : decode cX6_sortsOf 5 = .ok (.iconst 4, 1) := dk_7 (dk_at dksX6_sortsOf_0 5 rfl rfl)
theorem dX6_sortsOf_6 : decode cX6_sortsOf 6 = .ok (.if_icmp .gt 98, 3) := dk_163 0 98 (dk_at dksX6_sortsOf_0 6 rfl rfl)
theorem dX6_sortsOf_9 : decode cX6_sortsOf 9 = .ok (.iconst 1, 1) := dk_4 (dk_at dksX6_sortsOf_0 9 rfl rfl)
theorem dX6_sortsOf_10 : decode cX6_sortsOf 10 = .ok (.istore 4, 2) := dk_54 4 (dk_at dksX6_sortsOf_0 10 rfl rfl)
theorem dX6_sortsOf_12 : decode cX6_sortsOf 12 = .ok (.iconst 0, 1) := dk_3 (dk_at dksX6_sortsOf_0 12 rfl rfl)
theorem dX6_sortsOf_13 : decode cX6_sortsOf 13 = .ok (.istore 5, 2) := dk_54 5 (dk_at dksX6_sortsOf_0 13 rfl rfl)
theorem dX6_sortsOf_15 : decode cX6_sortsOf 15 = .ok (.iload 5, 2) := dk_21 5 (dk_at dksX6_sortsOf_0 15 rfl rfl)
theorem dX6_sortsOf_17 : decode cX6_sortsOf 17 = .ok (.aload_n 0, 1) := dk_42 (dk_at dksX6_sortsOf_0 17 rfl rfl)
theorem dX6_sortsOf_18 : decode cX6_sortsOf 18 = .ok (.getfield 230, 3) := dk_180 0 230 (dk_at dksX6_sortsOf_0 18 rfl rfl)
theorem dX6_sortsOf_21 : decode cX6_sortsOf 21 = .ok (.if_icmp .ge 62, 3) := dk_162 0 62 (dk_at dksX6_sortsOf_0 21 rfl rfl)
theorem dX6_sortsOf_24 : decode cX6_sortsOf 24 = .ok (.iload 4, 2) := dk_21 4 (dk_at dksX6_sortsOf_1 0 rfl rfl)
theorem dX6_sortsOf_26 : decode cX6_sortsOf 26 = .ok (.ifCond .eq 48, 3) := dk_153 0 48 (dk_at dksX6_sortsOf_1 2 rfl rfl)
theorem dX6_sortsOf_29 : decode cX6_sortsOf 29 = .ok (.aload_n 0, 1) := dk_42 (dk_at dksX6_sortsOf_1 5 rfl rfl)
theorem dX6_sortsOf_30 : decode cX6_sortsOf 30 = .ok (.getfield 46, 3) := dk_180 0 46 (dk_at dksX6_sortsOf_1 6 rfl rfl)
theorem dX6_sortsOf_33 : decode cX6_sortsOf 33 = .ok (.iload 5, 2) := dk_21 5 (dk_at dksX6_sortsOf_1 9 rfl rfl)
theorem dX6_sortsOf_35 : decode cX6_sortsOf 35 = .ok (.iaload, 1) := dk_46 (dk_at dksX6_sortsOf_1 11 rfl rfl)
theorem dX6_sortsOf_36 : decode cX6_sortsOf 36 = .ok (.iload_n 1, 1) := dk_27 (dk_at dksX6_sortsOf_1 12 rfl rfl)
theorem dX6_sortsOf_37 : decode cX6_sortsOf 37 = .ok (.if_icmp .ne 33, 3) := dk_160 0 33 (dk_at dksX6_sortsOf_1 13 rfl rfl)
theorem dX6_sortsOf_40 : decode cX6_sortsOf 40 = .ok (.iload_n 3, 1) := dk_29 (dk_at dksX6_sortsOf_1 16 rfl rfl)
theorem dX6_sortsOf_41 : decode cX6_sortsOf 41 = .ok (.aload_n 0, 1) := dk_42 (dk_at dksX6_sortsOf_1 17 rfl rfl)
theorem dX6_sortsOf_42 : decode cX6_sortsOf 42 = .ok (.getfield 49, 3) := dk_180 0 49 (dk_at dksX6_sortsOf_1 18 rfl rfl)
theorem dX6_sortsOf_45 : decode cX6_sortsOf 45 = .ok (.iload 5, 2) := dk_21 5 (dk_at dksX6_sortsOf_1 21 rfl rfl)
theorem dX6_sortsOf_47 : decode cX6_sortsOf 47 = .ok (.iaload, 1) := dk_46 (dk_at dksX6_sortsOf_1 23 rfl rfl)
theorem dX6_sortsOf_48 : decode cX6_sortsOf 48 = .ok (.invokestatic 379, 3) := dk_184 1 123 (dk_at dksX6_sortsOf_2 0 rfl rfl)
theorem dX6_sortsOf_51 : decode cX6_sortsOf 51 = .ok (.aload_n 0, 1) := dk_42 (dk_at dksX6_sortsOf_2 3 rfl rfl)
theorem dX6_sortsOf_52 : decode cX6_sortsOf 52 = .ok (.getfield 52, 3) := dk_180 0 52 (dk_at dksX6_sortsOf_2 4 rfl rfl)
theorem dX6_sortsOf_55 : decode cX6_sortsOf 55 = .ok (.iload 5, 2) := dk_21 5 (dk_at dksX6_sortsOf_2 7 rfl rfl)
theorem dX6_sortsOf_57 : decode cX6_sortsOf 57 = .ok (.iaload, 1) := dk_46 (dk_at dksX6_sortsOf_2 9 rfl rfl)
theorem dX6_sortsOf_58 : decode cX6_sortsOf 58 = .ok (.iconst 1, 1) := dk_4 (dk_at dksX6_sortsOf_2 10 rfl rfl)
theorem dX6_sortsOf_59 : decode cX6_sortsOf 59 = .ok (.if_icmp .ne 7, 3) := dk_160 0 7 (dk_at dksX6_sortsOf_2 11 rfl rfl)
theorem dX6_sortsOf_62 : decode cX6_sortsOf 62 = .ok (.iconst 1, 1) := dk_4 (dk_at dksX6_sortsOf_2 14 rfl rfl)
theorem dX6_sortsOf_63 : decode cX6_sortsOf 63 = .ok (.goto 4, 3) := dk_167 0 4 (dk_at dksX6_sortsOf_2 15 rfl rfl)
theorem dX6_sortsOf_66 : decode cX6_sortsOf 66 = .ok (.iconst 0, 1) := dk_3 (dk_at dksX6_sortsOf_2 18 rfl rfl)
theorem dX6_sortsOf_67 : decode cX6_sortsOf 67 = .ok (.if_icmp .ne 7, 3) := dk_160 0 7 (dk_at dksX6_sortsOf_2 19 rfl rfl)
theorem dX6_sortsOf_70 : decode cX6_sortsOf 70 = .ok (.iconst 1, 1) := dk_4 (dk_at dksX6_sortsOf_2 22 rfl rfl)
theorem dX6_sortsOf_71 : decode cX6_sortsOf 71 = .ok (.goto 4, 3) := dk_167 0 4 (dk_at dksX6_sortsOf_3 0 rfl rfl)
theorem dX6_sortsOf_74 : decode cX6_sortsOf 74 = .ok (.iconst 0, 1) := dk_3 (dk_at dksX6_sortsOf_3 3 rfl rfl)
theorem dX6_sortsOf_75 : decode cX6_sortsOf 75 = .ok (.istore 4, 2) := dk_54 4 (dk_at dksX6_sortsOf_3 4 rfl rfl)
theorem dX6_sortsOf_77 : decode cX6_sortsOf 77 = .ok (.iinc 5 1, 3) := dk_132 5 1 (dk_at dksX6_sortsOf_3 6 rfl rfl)
theorem dX6_sortsOf_80 : decode cX6_sortsOf 80 = .ok (.goto (-65), 3) := dk_167 255 191 (dk_at dksX6_sortsOf_3 9 rfl rfl)
theorem dX6_sortsOf_83 : decode cX6_sortsOf 83 = .ok (.iload_n 2, 1) := dk_28 (dk_at dksX6_sortsOf_3 12 rfl rfl)
theorem dX6_sortsOf_84 : decode cX6_sortsOf 84 = .ok (.iload 4, 2) := dk_21 4 (dk_at dksX6_sortsOf_3 13 rfl rfl)
theorem dX6_sortsOf_86 : decode cX6_sortsOf 86 = .ok (.ifCond .eq 9, 3) := dk_153 0 9 (dk_at dksX6_sortsOf_3 15 rfl rfl)
theorem dX6_sortsOf_89 : decode cX6_sortsOf 89 = .ok (.iconst 1, 1) := dk_4 (dk_at dksX6_sortsOf_3 18 rfl rfl)
theorem dX6_sortsOf_90 : decode cX6_sortsOf 90 = .ok (.iload_n 3, 1) := dk_29 (dk_at dksX6_sortsOf_3 19 rfl rfl)
theorem dX6_sortsOf_91 : decode cX6_sortsOf 91 = .ok (.ishl, 1) := dk_120 (dk_at dksX6_sortsOf_3 20 rfl rfl)
theorem dX6_sortsOf_92 : decode cX6_sortsOf 92 = .ok (.goto 4, 3) := dk_167 0 4 (dk_at dksX6_sortsOf_3 21 rfl rfl)
theorem dX6_sortsOf_95 : decode cX6_sortsOf 95 = .ok (.iconst 0, 1) := dk_3 (dk_at dksX6_sortsOf_4 0 rfl rfl)
theorem dX6_sortsOf_96 : decode cX6_sortsOf 96 = .ok (.ior, 1) := dk_128 (dk_at dksX6_sortsOf_4 1 rfl rfl)
theorem dX6_sortsOf_97 : decode cX6_sortsOf 97 = .ok (.istore_n 2, 1) := dk_61 (dk_at dksX6_sortsOf_4 2 rfl rfl)
theorem dX6_sortsOf_98 : decode cX6_sortsOf 98 = .ok (.iinc 3 1, 3) := dk_132 3 1 (dk_at dksX6_sortsOf_4 3 rfl rfl)
theorem dX6_sortsOf_101 : decode cX6_sortsOf 101 = .ok (.goto (-97), 3) := dk_167 255 159 (dk_at dksX6_sortsOf_4 6 rfl rfl)
theorem dX6_sortsOf_104 : decode cX6_sortsOf 104 = .ok (.iload_n 2, 1) := dk_28 (dk_at dksX6_sortsOf_4 9 rfl rfl)
theorem dX6_sortsOf_105 : decode cX6_sortsOf 105 = .ok (.ireturn, 1) := dk_172 (dk_at dksX6_sortsOf_4 10 rfl rfl)
abbrev cX6_could : ByteArray := prog_13_method_76_code
def yX6_could : MethodName := ⟨RX6, "could", "(II)Z"⟩
def dkwX6_could_4 : List UInt8 := [167, 0, 4, 3, 172]
abbrev dktX6_could_4 : List UInt8 := dkwX6_could_4 ++ []
def dkwX6_could_3 : List UInt8 := [153, 0, 8, 26, 6, 160, 0, 7, 4, 167, 0, 4, 3, 172, 26, 153, 0, 8, 26, 7, 160, 0, 7, 4]
abbrev dktX6_could_3 : List UInt8 := dkwX6_could_3 ++ dktX6_could_4
def dkwX6_could_2 : List UInt8 := [26, 6, 160, 0, 7, 4, 167, 0, 4, 3, 172, 26, 5, 159, 0, 7, 4, 167, 0, 4, 3, 172, 26]
abbrev dktX6_could_2 : List UInt8 := dkwX6_could_2 ++ dktX6_could_3
def dkwX6_could_1 : List UInt8 := [170, 0, 0, 0, 0, 0, 64, 0, 0, 0, 0, 0, 0, 0, 2, 0, 0, 0, 27, 0, 0, 0, 38, 0, 0, 0, 49]
abbrev dktX6_could_1 : List UInt8 := dkwX6_could_1 ++ dktX6_could_2
def dkwX6_could_0 : List UInt8 := [27]
abbrev dktX6_could_0 : List UInt8 := dkwX6_could_0 ++ dktX6_could_1
theorem dksX6_could_0 : cX6_could.data.toList.drop 0 = dktX6_could_0 := by decide +kernel
theorem dksX6_could_1 : cX6_could.data.toList.drop 1 = dktX6_could_1 := dk_seg dksX6_could_0 1 rfl rfl
theorem dksX6_could_2 : cX6_could.data.toList.drop 28 = dktX6_could_2 := dk_seg dksX6_could_1 27 rfl rfl
theorem dksX6_could_3 : cX6_could.data.toList.drop 51 = dktX6_could_3 := dk_seg dksX6_could_2 23 rfl rfl
theorem dksX6_could_4 : cX6_could.data.toList.drop 75 = dktX6_could_4 := dk_seg dksX6_could_3 24 rfl rfl
theorem dX6_could_0 : decode cX6_could 0 = .ok (.iload_n 1, 1) := dk_27 (dk_at dksX6_could_0 0 rfl rfl)
theorem dX6_could_1 : decode cX6_could 1 = .ok (.tableswitch 64 0 2 #[27, 38, 49], 27) := by decide +kernel
theorem dX6_could_28 : decode cX6_could 28 = .ok (.iload_n 0, 1) := dk_26 (dk_at dksX6_could_2 0 rfl rfl)
theorem dX6_could_29 : decode cX6_could 29 = .ok (.iconst 3, 1) := dk_6 (dk_at dksX6_could_2 1 rfl rfl)
theorem dX6_could_30 : decode cX6_could 30 = .ok (.if_icmp .ne 7, 3) := dk_160 0 7 (dk_at dksX6_could_2 2 rfl rfl)
theorem dX6_could_33 : decode cX6_could 33 = .ok (.iconst 1, 1) := dk_4 (dk_at dksX6_could_2 5 rfl rfl)
theorem dX6_could_34 : decode cX6_could 34 = .ok (.goto 4, 3) := dk_167 0 4 (dk_at dksX6_could_2 6 rfl rfl)
theorem dX6_could_37 : decode cX6_could 37 = .ok (.iconst 0, 1) := dk_3 (dk_at dksX6_could_2 9 rfl rfl)
theorem dX6_could_38 : decode cX6_could 38 = .ok (.ireturn, 1) := dk_172 (dk_at dksX6_could_2 10 rfl rfl)
theorem dX6_could_39 : decode cX6_could 39 = .ok (.iload_n 0, 1) := dk_26 (dk_at dksX6_could_2 11 rfl rfl)
theorem dX6_could_40 : decode cX6_could 40 = .ok (.iconst 2, 1) := dk_5 (dk_at dksX6_could_2 12 rfl rfl)
theorem dX6_could_41 : decode cX6_could 41 = .ok (.if_icmp .eq 7, 3) := dk_159 0 7 (dk_at dksX6_could_2 13 rfl rfl)
theorem dX6_could_44 : decode cX6_could 44 = .ok (.iconst 1, 1) := dk_4 (dk_at dksX6_could_2 16 rfl rfl)
theorem dX6_could_45 : decode cX6_could 45 = .ok (.goto 4, 3) := dk_167 0 4 (dk_at dksX6_could_2 17 rfl rfl)
theorem dX6_could_48 : decode cX6_could 48 = .ok (.iconst 0, 1) := dk_3 (dk_at dksX6_could_2 20 rfl rfl)
theorem dX6_could_49 : decode cX6_could 49 = .ok (.ireturn, 1) := dk_172 (dk_at dksX6_could_2 21 rfl rfl)
theorem dX6_could_50 : decode cX6_could 50 = .ok (.iload_n 0, 1) := dk_26 (dk_at dksX6_could_2 22 rfl rfl)
theorem dX6_could_51 : decode cX6_could 51 = .ok (.ifCond .eq 8, 3) := dk_153 0 8 (dk_at dksX6_could_3 0 rfl rfl)
theorem dX6_could_54 : decode cX6_could 54 = .ok (.iload_n 0, 1) := dk_26 (dk_at dksX6_could_3 3 rfl rfl)
theorem dX6_could_55 : decode cX6_could 55 = .ok (.iconst 3, 1) := dk_6 (dk_at dksX6_could_3 4 rfl rfl)
theorem dX6_could_56 : decode cX6_could 56 = .ok (.if_icmp .ne 7, 3) := dk_160 0 7 (dk_at dksX6_could_3 5 rfl rfl)
theorem dX6_could_59 : decode cX6_could 59 = .ok (.iconst 1, 1) := dk_4 (dk_at dksX6_could_3 8 rfl rfl)
theorem dX6_could_60 : decode cX6_could 60 = .ok (.goto 4, 3) := dk_167 0 4 (dk_at dksX6_could_3 9 rfl rfl)
theorem dX6_could_63 : decode cX6_could 63 = .ok (.iconst 0, 1) := dk_3 (dk_at dksX6_could_3 12 rfl rfl)
theorem dX6_could_64 : decode cX6_could 64 = .ok (.ireturn, 1) := dk_172 (dk_at dksX6_could_3 13 rfl rfl)
theorem dX6_could_65 : decode cX6_could 65 = .ok (.iload_n 0, 1) := dk_26 (dk_at dksX6_could_3 14 rfl rfl)
theorem dX6_could_66 : decode cX6_could 66 = .ok (.ifCond .eq 8, 3) := dk_153 0 8 (dk_at dksX6_could_3 15 rfl rfl)
theorem dX6_could_69 : decode cX6_could 69 = .ok (.iload_n 0, 1) := dk_26 (dk_at dksX6_could_3 18 rfl rfl)
theorem dX6_could_70 : decode cX6_could 70 = .ok (.iconst 4, 1) := dk_7 (dk_at dksX6_could_3 19 rfl rfl)
theorem dX6_could_71 : decode cX6_could 71 = .ok (.if_icmp .ne 7, 3) := dk_160 0 7 (dk_at dksX6_could_3 20 rfl rfl)
theorem dX6_could_74 : decode cX6_could 74 = .ok (.iconst 1, 1) := dk_4 (dk_at dksX6_could_3 23 rfl rfl)
theorem dX6_could_75 : decode cX6_could 75 = .ok (.goto 4, 3) := dk_167 0 4 (dk_at dksX6_could_4 0 rfl rfl)
theorem dX6_could_78 : decode cX6_could 78 = .ok (.iconst 0, 1) := dk_3 (dk_at dksX6_could_4 3 rfl rfl)
theorem dX6_could_79 : decode cX6_could 79 = .ok (.ireturn, 1) := dk_172 (dk_at dksX6_could_4 4 rfl rfl)
abbrev cX6_askOf : ByteArray := prog_13_method_80_code
def yX6_askOf : MethodName := ⟨RX6, "askOf", "(I)I"⟩
def dkwX6_askOf_5 : List UInt8 := [162, 0, 8, 21, 8, 167, 0, 5, 21, 4, 54, 4, 132, 5, 1, 167, 255, 141, 29, 172]
abbrev dktX6_askOf_5 : List UInt8 := dkwX6_askOf_5 ++ []
def dkwX6_askOf_4 : List UInt8 := [21, 7, 54, 8, 21, 8, 21, 4, 162, 0, 8, 21, 5, 167, 0, 4, 29, 62, 21, 8, 21, 4]
abbrev dktX6_askOf_4 : List UInt8 := dkwX6_askOf_4 ++ dktX6_askOf_5
def dkwX6_askOf_3 : List UInt8 := [167, 255, 218, 28, 184, 0, 254, 21, 6, 100, 54, 7, 21, 6, 21, 7, 164, 0, 8, 21, 6, 167, 0, 5]
abbrev dktX6_askOf_3 : List UInt8 := dkwX6_askOf_3 ++ dktX6_askOf_4
def dkwX6_askOf_2 : List UInt8 := [153, 0, 17, 21, 7, 21, 5, 184, 1, 123, 153, 0, 7, 4, 167, 0, 4, 3, 96, 54, 6, 132, 7, 1]
abbrev dktX6_askOf_2 : List UInt8 := dkwX6_askOf_2 ++ dktX6_askOf_3
def dkwX6_askOf_1 : List UInt8 := [153, 0, 111, 3, 54, 6, 3, 54, 7, 21, 7, 7, 163, 0, 38, 21, 6, 28, 21, 7, 184, 0, 214]
abbrev dktX6_askOf_1 : List UInt8 := dkwX6_askOf_1 ++ dktX6_askOf_2
def dkwX6_askOf_0 : List UInt8 := [42, 27, 182, 1, 45, 61, 2, 62, 19, 1, 126, 54, 4, 3, 54, 5, 21, 5, 7, 162, 0, 115, 28]
abbrev dktX6_askOf_0 : List UInt8 := dkwX6_askOf_0 ++ dktX6_askOf_1
theorem dksX6_askOf_0 : cX6_askOf.data.toList.drop 0 = dktX6_askOf_0 := by decide +kernel
theorem dksX6_askOf_1 : cX6_askOf.data.toList.drop 23 = dktX6_askOf_1 := dk_seg dksX6_askOf_0 23 rfl rfl
theorem dksX6_askOf_2 : cX6_askOf.data.toList.drop 46 = dktX6_askOf_2 := dk_seg dksX6_askOf_1 23 rfl rfl
theorem dksX6_askOf_3 : cX6_askOf.data.toList.drop 70 = dktX6_askOf_3 := dk_seg dksX6_askOf_2 24 rfl rfl
theorem dksX6_askOf_4 : cX6_askOf.data.toList.drop 94 = dktX6_askOf_4 := dk_seg dksX6_askOf_3 24 rfl rfl
theorem dksX6_askOf_5 : cX6_askOf.data.toList.drop 116 = dktX6_askOf_5 := dk_seg dksX6_askOf_4 22 rfl rfl
theorem dX6_askOf_0 : decode cX6_askOf 0 = .ok (.aload_n 0, 1) := dk_42 (dk_at dksX6_askOf_0 0 rfl rfl)
theorem dX6_askOf_1 : decode cX6_askOf 1 = .ok (.iload_n 1, 1) := dk_27 (dk_at dksX6_askOf_0 1 rfl rfl)
theorem dX6_askOf_2 : decode cX6_askOf 2 = .ok (.invokevirtual 301, 3) := dk_182 1 45 (dk_at dksX6_askOf_0 2 rfl rfl)
theorem dX6_askOf_5 : decode cX6_askOf 5 = .ok (.istore_n 2, 1) := dk_61 (dk_at dksX6_askOf_0 5 rfl rfl)
theorem dX6_askOf_6 : decode cX6_askOf 6 = .ok (.iconst (-1), 1) := dk_2 (dk_at dksX6_askOf_0 6 rfl rfl)
theorem dX6_askOf_7 : decode cX6_askOf 7 = .ok (.istore_n 3, 1) := dk_62 (dk_at dksX6_askOf_0 7 rfl rfl)
theorem dX6_askOf_8 : decode cX6_askOf 8 = .ok (.ldc_w 382, 3) := dk_19 1 126 (dk_at dksX6_askOf_0 8 rfl rfl)
theorem dX6_askOf_11 : decode cX6_askOf 11 = .ok (.istore 4, 2) := dk_54 4 (dk_at dksX6_askOf_0 11 rfl rfl)
theorem dX6_askOf_13 : decode cX6_askOf 13 = .ok (.iconst 0, 1) := dk_3 (dk_at dksX6_askOf_0 13 rfl rfl)
theorem dX6_askOf_14 : decode cX6_askOf 14 = .ok (.istore 5, 2) := dk_54 5 (dk_at dksX6_askOf_0 14 rfl rfl)
theorem dX6_askOf_16 : decode cX6_askOf 16 = .ok (.iload 5, 2) := dk_21 5 (dk_at dksX6_askOf_0 16 rfl rfl)
theorem dX6_askOf_18 : decode cX6_askOf 18 = .ok (.iconst 4, 1) := dk_7 (dk_at dksX6_askOf_0 18 rfl rfl)
theorem dX6_askOf_19 : decode cX6_askOf 19 = .ok (.if_icmp .ge 115, 3) := dk_162 0 115 (dk_at dksX6_askOf_0 19 rfl rfl)
theorem dX6_askOf_22 : decode cX6_askOf 22 = .ok (.iload_n 2, 1) := dk_28 (dk_at dksX6_askOf_0 22 rfl rfl)
theorem dX6_askOf_23 : decode cX6_askOf 23 = .ok (.ifCond .eq 111, 3) := dk_153 0 111 (dk_at dksX6_askOf_1 0 rfl rfl)
theorem dX6_askOf_26 : decode cX6_askOf 26 = .ok (.iconst 0, 1) := dk_3 (dk_at dksX6_askOf_1 3 rfl rfl)
theorem dX6_askOf_27 : decode cX6_askOf 27 = .ok (.istore 6, 2) := dk_54 6 (dk_at dksX6_askOf_1 4 rfl rfl)
theorem dX6_askOf_29 : decode cX6_askOf 29 = .ok (.iconst 0, 1) := dk_3 (dk_at dksX6_askOf_1 6 rfl rfl)
theorem dX6_askOf_30 : decode cX6_askOf 30 = .ok (.istore 7, 2) := dk_54 7 (dk_at dksX6_askOf_1 7 rfl rfl)
theorem dX6_askOf_32 : decode cX6_askOf 32 = .ok (.iload 7, 2) := dk_21 7 (dk_at dksX6_askOf_1 9 rfl rfl)
theorem dX6_askOf_34 : decode cX6_askOf 34 = .ok (.iconst 4, 1) := dk_7 (dk_at dksX6_askOf_1 11 rfl rfl)
theorem dX6_askOf_35 : decode cX6_askOf 35 = .ok (.if_icmp .gt 38, 3) := dk_163 0 38 (dk_at dksX6_askOf_1 12 rfl rfl)
theorem dX6_askOf_38 : decode cX6_askOf 38 = .ok (.iload 6, 2) := dk_21 6 (dk_at dksX6_askOf_1 15 rfl rfl)
theorem dX6_askOf_40 : decode cX6_askOf 40 = .ok (.iload_n 2, 1) := dk_28 (dk_at dksX6_askOf_1 17 rfl rfl)
theorem dX6_askOf_41 : decode cX6_askOf 41 = .ok (.iload 7, 2) := dk_21 7 (dk_at dksX6_askOf_1 18 rfl rfl)
theorem dX6_askOf_43 : decode cX6_askOf 43 = .ok (.invokestatic 214, 3) := dk_184 0 214 (dk_at dksX6_askOf_1 20 rfl rfl)
theorem dX6_askOf_46 : decode cX6_askOf 46 = .ok (.ifCond .eq 17, 3) := dk_153 0 17 (dk_at dksX6_askOf_2 0 rfl rfl)
theorem dX6_askOf_49 : decode cX6_askOf 49 = .ok (.iload 7, 2) := dk_21 7 (dk_at dksX6_askOf_2 3 rfl rfl)
theorem dX6_askOf_51 : decode cX6_askOf 51 = .ok (.iload 5, 2) := dk_21 5 (dk_at dksX6_askOf_2 5 rfl rfl)
theorem dX6_askOf_53 : decode cX6_askOf 53 = .ok (.invokestatic 379, 3) := dk_184 1 123 (dk_at dksX6_askOf_2 7 rfl rfl)
theorem dX6_askOf_56 : decode cX6_askOf 56 = .ok (.ifCond .eq 7, 3) := dk_153 0 7 (dk_at dksX6_askOf_2 10 rfl rfl)
theorem dX6_askOf_59 : decode cX6_askOf 59 = .ok (.iconst 1, 1) := dk_4 (dk_at dksX6_askOf_2 13 rfl rfl)
theorem dX6_askOf_60 : decode cX6_askOf 60 = .ok (.goto 4, 3) := dk_167 0 4 (dk_at dksX6_askOf_2 14 rfl rfl)
theorem dX6_askOf_63 : decode cX6_askOf 63 = .ok (.iconst 0, 1) := dk_3 (dk_at dksX6_askOf_2 17 rfl rfl)
theorem dX6_askOf_64 : decode cX6_askOf 64 = .ok (.iadd, 1) := dk_96 (dk_at dksX6_askOf_2 18 rfl rfl)
theorem dX6_askOf_65 : decode cX6_askOf 65 = .ok (.istore 6, 2) := dk_54 6 (dk_at dksX6_askOf_2 19 rfl rfl)
theorem dX6_askOf_67 : decode cX6_askOf 67 = .ok (.iinc 7 1, 3) := dk_132 7 1 (dk_at dksX6_askOf_2 21 rfl rfl)
theorem dX6_askOf_70 : decode cX6_askOf 70 = .ok (.goto (-38), 3) := dk_167 255 218 (dk_at dksX6_askOf_3 0 rfl rfl)
theorem dX6_askOf_73 : decode cX6_askOf 73 = .ok (.iload_n 2, 1) := dk_28 (dk_at dksX6_askOf_3 3 rfl rfl)
theorem dX6_askOf_74 : decode cX6_askOf 74 = .ok (.invokestatic 254, 3) := dk_184 0 254 (dk_at dksX6_askOf_3 4 rfl rfl)
theorem dX6_askOf_77 : decode cX6_askOf 77 = .ok (.iload 6, 2) := dk_21 6 (dk_at dksX6_askOf_3 7 rfl rfl)
theorem dX6_askOf_79 : decode cX6_askOf 79 = .ok (.isub, 1) := dk_100 (dk_at dksX6_askOf_3 9 rfl rfl)
theorem dX6_askOf_80 : decode cX6_askOf 80 = .ok (.istore 7, 2) := dk_54 7 (dk_at dksX6_askOf_3 10 rfl rfl)
theorem dX6_askOf_82 : decode cX6_askOf 82 = .ok (.iload 6, 2) := dk_21 6 (dk_at dksX6_askOf_3 12 rfl rfl)
theorem dX6_askOf_84 : decode cX6_askOf 84 = .ok (.iload 7, 2) := dk_21 7 (dk_at dksX6_askOf_3 14 rfl rfl)
theorem dX6_askOf_86 : decode cX6_askOf 86 = .ok (.if_icmp .le 8, 3) := dk_164 0 8 (dk_at dksX6_askOf_3 16 rfl rfl)
theorem dX6_askOf_89 : decode cX6_askOf 89 = .ok (.iload 6, 2) := dk_21 6 (dk_at dksX6_askOf_3 19 rfl rfl)
theorem dX6_askOf_91 : decode cX6_askOf 91 = .ok (.goto 5, 3) := dk_167 0 5 (dk_at dksX6_askOf_3 21 rfl rfl)
theorem dX6_askOf_94 : decode cX6_askOf 94 = .ok (.iload 7, 2) := dk_21 7 (dk_at dksX6_askOf_4 0 rfl rfl)
theorem dX6_askOf_96 : decode cX6_askOf 96 = .ok (.istore 8, 2) := dk_54 8 (dk_at dksX6_askOf_4 2 rfl rfl)
theorem dX6_askOf_98 : decode cX6_askOf 98 = .ok (.iload 8, 2) := dk_21 8 (dk_at dksX6_askOf_4 4 rfl rfl)
theorem dX6_askOf_100 : decode cX6_askOf 100 = .ok (.iload 4, 2) := dk_21 4 (dk_at dksX6_askOf_4 6 rfl rfl)
theorem dX6_askOf_102 : decode cX6_askOf 102 = .ok (.if_icmp .ge 8, 3) := dk_162 0 8 (dk_at dksX6_askOf_4 8 rfl rfl)
theorem dX6_askOf_105 : decode cX6_askOf 105 = .ok (.iload 5, 2) := dk_21 5 (dk_at dksX6_askOf_4 11 rfl rfl)
theorem dX6_askOf_107 : decode cX6_askOf 107 = .ok (.goto 4, 3) := dk_167 0 4 (dk_at dksX6_askOf_4 13 rfl rfl)
theorem dX6_askOf_110 : decode cX6_askOf 110 = .ok (.iload_n 3, 1) := dk_29 (dk_at dksX6_askOf_4 16 rfl rfl)
theorem dX6_askOf_111 : decode cX6_askOf 111 = .ok (.istore_n 3, 1) := dk_62 (dk_at dksX6_askOf_4 17 rfl rfl)
theorem dX6_askOf_112 : decode cX6_askOf 112 = .ok (.iload 8, 2) := dk_21 8 (dk_at dksX6_askOf_4 18 rfl rfl)
theorem dX6_askOf_114 : decode cX6_askOf 114 = .ok (.iload 4, 2) := dk_21 4 (dk_at dksX6_askOf_4 20 rfl rfl)
theorem dX6_askOf_116 : decode cX6_askOf 116 = .ok (.if_icmp .ge 8, 3) := dk_162 0 8 (dk_at dksX6_askOf_5 0 rfl rfl)
theorem dX6_askOf_119 : decode cX6_askOf 119 = .ok (.iload 8, 2) := dk_21 8 (dk_at dksX6_askOf_5 3 rfl rfl)
theorem dX6_askOf_121 : decode cX6_askOf 121 = .ok (.goto 5, 3) := dk_167 0 5 (dk_at dksX6_askOf_5 5 rfl rfl)
theorem dX6_askOf_124 : decode cX6_askOf 124 = .ok (.iload 4, 2) := dk_21 4 (dk_at dksX6_askOf_5 8 rfl rfl)
theorem dX6_askOf_126 : decode cX6_askOf 126 = .ok (.istore 4, 2) := dk_54 4 (dk_at dksX6_askOf_5 10 rfl rfl)
theorem dX6_askOf_128 : decode cX6_askOf 128 = .ok (.iinc 5 1, 3) := dk_132 5 1 (dk_at dksX6_askOf_5 12 rfl rfl)
theorem dX6_askOf_131 : decode cX6_askOf 131 = .ok (.goto (-115), 3) := dk_167 255 141 (dk_at dksX6_askOf_5 15 rfl rfl)
theorem dX6_askOf_134 : decode cX6_askOf 134 = .ok (.iload_n 3, 1) := dk_29 (dk_at dksX6_askOf_5 18 rfl rfl)
theorem dX6_askOf_135 : decode cX6_askOf 135 = .ok (.ireturn, 1) := dk_172 (dk_at dksX6_askOf_5 19 rfl rfl)
abbrev cX6_size : ByteArray := prog_13_method_5_code
def yX6_size : MethodName := ⟨RX6, "size", "(I)I"⟩
def dkwX6_size_1 : List UInt8 := [27, 172]
abbrev dktX6_size_1 : List UInt8 := dkwX6_size_1 ++ []
def dkwX6_size_0 : List UInt8 := [3, 60, 3, 61, 28, 16, 16, 162, 0, 17, 27, 26, 28, 122, 4, 126, 96, 60, 132, 2, 1, 167, 255, 239]
abbrev dktX6_size_0 : List UInt8 := dkwX6_size_0 ++ dktX6_size_1
theorem dksX6_size_0 : cX6_size.data.toList.drop 0 = dktX6_size_0 := by decide +kernel
theorem dksX6_size_1 : cX6_size.data.toList.drop 24 = dktX6_size_1 := dk_seg dksX6_size_0 24 rfl rfl
theorem dX6_size_0 : decode cX6_size 0 = .ok (.iconst 0, 1) := dk_3 (dk_at dksX6_size_0 0 rfl rfl)
theorem dX6_size_1 : decode cX6_size 1 = .ok (.istore_n 1, 1) := dk_60 (dk_at dksX6_size_0 1 rfl rfl)
theorem dX6_size_2 : decode cX6_size 2 = .ok (.iconst 0, 1) := dk_3 (dk_at dksX6_size_0 2 rfl rfl)
theorem dX6_size_3 : decode cX6_size 3 = .ok (.istore_n 2, 1) := dk_61 (dk_at dksX6_size_0 3 rfl rfl)
theorem dX6_size_4 : decode cX6_size 4 = .ok (.iload_n 2, 1) := dk_28 (dk_at dksX6_size_0 4 rfl rfl)
theorem dX6_size_5 : decode cX6_size 5 = .ok (.bipush 16, 2) := dk_16 16 (dk_at dksX6_size_0 5 rfl rfl)
theorem dX6_size_7 : decode cX6_size 7 = .ok (.if_icmp .ge 17, 3) := dk_162 0 17 (dk_at dksX6_size_0 7 rfl rfl)
theorem dX6_size_10 : decode cX6_size 10 = .ok (.iload_n 1, 1) := dk_27 (dk_at dksX6_size_0 10 rfl rfl)
theorem dX6_size_11 : decode cX6_size 11 = .ok (.iload_n 0, 1) := dk_26 (dk_at dksX6_size_0 11 rfl rfl)
theorem dX6_size_12 : decode cX6_size 12 = .ok (.iload_n 2, 1) := dk_28 (dk_at dksX6_size_0 12 rfl rfl)
theorem dX6_size_13 : decode cX6_size 13 = .ok (.ishr, 1) := dk_122 (dk_at dksX6_size_0 13 rfl rfl)
theorem dX6_size_14 : decode cX6_size 14 = .ok (.iconst 1, 1) := dk_4 (dk_at dksX6_size_0 14 rfl rfl)
theorem dX6_size_15 : decode cX6_size 15 = .ok (.iand, 1) := dk_126 (dk_at dksX6_size_0 15 rfl rfl)
theorem dX6_size_16 : decode cX6_size 16 = .ok (.iadd, 1) := dk_96 (dk_at dksX6_size_0 16 rfl rfl)
theorem dX6_size_17 : decode cX6_size 17 = .ok (.istore_n 1, 1) := dk_60 (dk_at dksX6_size_0 17 rfl rfl)
theorem dX6_size_18 : decode cX6_size 18 = .ok (.iinc 2 1, 3) := dk_132 2 1 (dk_at dksX6_size_0 18 rfl rfl)
theorem dX6_size_21 : decode cX6_size 21 = .ok (.goto (-17), 3) := dk_167 255 239 (dk_at dksX6_size_0 21 rfl rfl)
theorem dX6_size_24 : decode cX6_size 24 = .ok (.iload_n 1, 1) := dk_27 (dk_at dksX6_size_1 0 rfl rfl)
theorem dX6_size_25 : decode cX6_size 25 = .ok (.ireturn, 1) := dk_172 (dk_at dksX6_size_1 1 rfl rfl)
abbrev cX6_lacksOf : ByteArray := prog_13_method_53_code
def yX6_lacksOf : MethodName := ⟨RX6, "lacksOf", "(I)I"⟩
def dkwX6_lacksOf_5 : List UInt8 := [154, 0, 9, 4, 29, 120, 167, 0, 4, 3, 128, 61, 132, 3, 1, 167, 255, 135, 28, 172]
abbrev dktX6_lacksOf_5 : List UInt8 := dkwX6_lacksOf_5 ++ []
def dkwX6_lacksOf_4 : List UInt8 := [167, 255, 209, 28, 42, 180, 0, 7, 42, 180, 0, 19, 27, 46, 46, 29, 184, 0, 214, 153, 0, 14, 21, 5]
abbrev dktX6_lacksOf_4 : List UInt8 := dkwX6_lacksOf_4 ++ dktX6_lacksOf_5
def dkwX6_lacksOf_3 : List UInt8 := [153, 0, 13, 42, 27, 21, 6, 182, 1, 42, 153, 0, 7, 4, 167, 0, 4, 3, 54, 5, 132, 6, 1]
abbrev dktX6_lacksOf_3 : List UInt8 := dkwX6_lacksOf_3 ++ dktX6_lacksOf_4
def dkwX6_lacksOf_2 : List UInt8 := [21, 6, 16, 8, 162, 0, 46, 21, 5, 153, 0, 41, 42, 180, 0, 110, 21, 4, 46, 21, 6, 184, 0, 214]
abbrev dktX6_lacksOf_2 : List UInt8 := dkwX6_lacksOf_2 ++ dktX6_lacksOf_3
def dkwX6_lacksOf_1 : List UInt8 := [104, 54, 4, 42, 180, 0, 89, 21, 4, 46, 4, 160, 0, 7, 4, 167, 0, 4, 3, 54, 5, 3, 54, 6]
abbrev dktX6_lacksOf_1 : List UInt8 := dkwX6_lacksOf_1 ++ dktX6_lacksOf_2
def dkwX6_lacksOf_0 : List UInt8 := [42, 27, 182, 0, 242, 42, 182, 1, 39, 3, 61, 3, 62, 29, 42, 180, 0, 211, 162, 0, 119, 16, 9, 29]
abbrev dktX6_lacksOf_0 : List UInt8 := dkwX6_lacksOf_0 ++ dktX6_lacksOf_1
theorem dksX6_lacksOf_0 : cX6_lacksOf.data.toList.drop 0 = dktX6_lacksOf_0 := by decide +kernel
theorem dksX6_lacksOf_1 : cX6_lacksOf.data.toList.drop 24 = dktX6_lacksOf_1 := dk_seg dksX6_lacksOf_0 24 rfl rfl
theorem dksX6_lacksOf_2 : cX6_lacksOf.data.toList.drop 48 = dktX6_lacksOf_2 := dk_seg dksX6_lacksOf_1 24 rfl rfl
theorem dksX6_lacksOf_3 : cX6_lacksOf.data.toList.drop 72 = dktX6_lacksOf_3 := dk_seg dksX6_lacksOf_2 24 rfl rfl
theorem dksX6_lacksOf_4 : cX6_lacksOf.data.toList.drop 95 = dktX6_lacksOf_4 := dk_seg dksX6_lacksOf_3 23 rfl rfl
theorem dksX6_lacksOf_5 : cX6_lacksOf.data.toList.drop 119 = dktX6_lacksOf_5 := dk_seg dksX6_lacksOf_4 24 rfl rfl
theorem dX6_lacksOf_0 : decode cX6_lacksOf 0 = .ok (.aload_n 0, 1) := dk_42 (dk_at dksX6_lacksOf_0 0 rfl rfl)
theorem dX6_lacksOf_1 : decode cX6_lacksOf 1 = .ok (.iload_n 1, 1) := dk_27 (dk_at dksX6_lacksOf_0 1 rfl rfl)
theorem dX6_lacksOf_2 : decode cX6_lacksOf 2 = .ok (.invokevirtual 242, 3) := dk_182 0 242 (dk_at dksX6_lacksOf_0 2 rfl rfl)
theorem dX6_lacksOf_5 : decode cX6_lacksOf 5 = .ok (.aload_n 0, 1) := dk_42 (dk_at dksX6_lacksOf_0 5 rfl rfl)
theorem dX6_lacksOf_6 : decode cX6_lacksOf 6 = .ok (.invokevirtual 295, 3) := dk_182 1 39 (dk_at dksX6_lacksOf_0 6 rfl rfl)
theorem dX6_lacksOf_9 : decode cX6_lacksOf 9 = .ok (.iconst 0, 1) := dk_3 (dk_at dksX6_lacksOf_0 9 rfl rfl)
theorem dX6_lacksOf_10 : decode cX6_lacksOf 10 = .ok (.istore_n 2, 1) := dk_61 (dk_at dksX6_lacksOf_0 10 rfl rfl)
theorem dX6_lacksOf_11 : decode cX6_lacksOf 11 = .ok (.iconst 0, 1) := dk_3 (dk_at dksX6_lacksOf_0 11 rfl rfl)
theorem dX6_lacksOf_12 : decode cX6_lacksOf 12 = .ok (.istore_n 3, 1) := dk_62 (dk_at dksX6_lacksOf_0 12 rfl rfl)
theorem dX6_lacksOf_13 : decode cX6_lacksOf 13 = .ok (.iload_n 3, 1) := dk_29 (dk_at dksX6_lacksOf_0 13 rfl rfl)
theorem dX6_lacksOf_14 : decode cX6_lacksOf 14 = .ok (.aload_n 0, 1) := dk_42 (dk_at dksX6_lacksOf_0 14 rfl rfl)
theorem dX6_lacksOf_15 : decode cX6_lacksOf 15 = .ok (.getfield 211, 3) := dk_180 0 211 (dk_at dksX6_lacksOf_0 15 rfl rfl)
theorem dX6_lacksOf_18 : decode cX6_lacksOf 18 = .ok (.if_icmp .ge 119, 3) := dk_162 0 119 (dk_at dksX6_lacksOf_0 18 rfl rfl)
theorem dX6_lacksOf_21 : decode cX6_lacksOf 21 = .ok (.bipush 9, 2) := dk_16 9 (dk_at dksX6_lacksOf_0 21 rfl rfl)
theorem dX6_lacksOf_23 : decode cX6_lacksOf 23 = .ok (.iload_n 3, 1) := dk_29 (dk_at dksX6_lacksOf_0 23 rfl rfl)
theorem dX6_lacksOf_24 : decode cX6_lacksOf 24 = .ok (.imul, 1) := dk_104 (dk_at dksX6_lacksOf_1 0 rfl rfl)
theorem dX6_lacksOf_25 : decode cX6_lacksOf 25 = .ok (.istore 4, 2) := dk_54 4 (dk_at dksX6_lacksOf_1 1 rfl rfl)
theorem dX6_lacksOf_27 : decode cX6_lacksOf 27 = .ok (.aload_n 0, 1) := dk_42 (dk_at dksX6_lacksOf_1 3 rfl rfl)
theorem dX6_lacksOf_28 : decode cX6_lacksOf 28 = .ok (.getfield 89, 3) := dk_180 0 89 (dk_at dksX6_lacksOf_1 4 rfl rfl)
theorem dX6_lacksOf_31 : decode cX6_lacksOf 31 = .ok (.iload 4, 2) := dk_21 4 (dk_at dksX6_lacksOf_1 7 rfl rfl)
theorem dX6_lacksOf_33 : decode cX6_lacksOf 33 = .ok (.iaload, 1) := dk_46 (dk_at dksX6_lacksOf_1 9 rfl rfl)
theorem dX6_lacksOf_34 : decode cX6_lacksOf 34 = .ok (.iconst 1, 1) := dk_4 (dk_at dksX6_lacksOf_1 10 rfl rfl)
theorem dX6_lacksOf_35 : decode cX6_lacksOf 35 = .ok (.if_icmp .ne 7, 3) := dk_160 0 7 (dk_at dksX6_lacksOf_1 11 rfl rfl)
theorem dX6_lacksOf_38 : decode cX6_lacksOf 38 = .ok (.iconst 1, 1) := dk_4 (dk_at dksX6_lacksOf_1 14 rfl rfl)
theorem dX6_lacksOf_39 : decode cX6_lacksOf 39 = .ok (.goto 4, 3) := dk_167 0 4 (dk_at dksX6_lacksOf_1 15 rfl rfl)
theorem dX6_lacksOf_42 : decode cX6_lacksOf 42 = .ok (.iconst 0, 1) := dk_3 (dk_at dksX6_lacksOf_1 18 rfl rfl)
theorem dX6_lacksOf_43 : decode cX6_lacksOf 43 = .ok (.istore 5, 2) := dk_54 5 (dk_at dksX6_lacksOf_1 19 rfl rfl)
theorem dX6_lacksOf_45 : decode cX6_lacksOf 45 = .ok (.iconst 0, 1) := dk_3 (dk_at dksX6_lacksOf_1 21 rfl rfl)
theorem dX6_lacksOf_46 : decode cX6_lacksOf 46 = .ok (.istore 6, 2) := dk_54 6 (dk_at dksX6_lacksOf_1 22 rfl rfl)
theorem dX6_lacksOf_48 : decode cX6_lacksOf 48 = .ok (.iload 6, 2) := dk_21 6 (dk_at dksX6_lacksOf_2 0 rfl rfl)
theorem dX6_lacksOf_50 : decode cX6_lacksOf 50 = .ok (.bipush 8, 2) := dk_16 8 (dk_at dksX6_lacksOf_2 2 rfl rfl)
theorem dX6_lacksOf_52 : decode cX6_lacksOf 52 = .ok (.if_icmp .ge 46, 3) := dk_162 0 46 (dk_at dksX6_lacksOf_2 4 rfl rfl)
theorem dX6_lacksOf_55 : decode cX6_lacksOf 55 = .ok (.iload 5, 2) := dk_21 5 (dk_at dksX6_lacksOf_2 7 rfl rfl)
theorem dX6_lacksOf_57 : decode cX6_lacksOf 57 = .ok (.ifCond .eq 41, 3) := dk_153 0 41 (dk_at dksX6_lacksOf_2 9 rfl rfl)
theorem dX6_lacksOf_60 : decode cX6_lacksOf 60 = .ok (.aload_n 0, 1) := dk_42 (dk_at dksX6_lacksOf_2 12 rfl rfl)
theorem dX6_lacksOf_61 : decode cX6_lacksOf 61 = .ok (.getfield 110, 3) := dk_180 0 110 (dk_at dksX6_lacksOf_2 13 rfl rfl)
theorem dX6_lacksOf_64 : decode cX6_lacksOf 64 = .ok (.iload 4, 2) := dk_21 4 (dk_at dksX6_lacksOf_2 16 rfl rfl)
theorem dX6_lacksOf_66 : decode cX6_lacksOf 66 = .ok (.iaload, 1) := dk_46 (dk_at dksX6_lacksOf_2 18 rfl rfl)
theorem dX6_lacksOf_67 : decode cX6_lacksOf 67 = .ok (.iload 6, 2) := dk_21 6 (dk_at dksX6_lacksOf_2 19 rfl rfl)
theorem dX6_lacksOf_69 : decode cX6_lacksOf 69 = .ok (.invokestatic 214, 3) := dk_184 0 214 (dk_at dksX6_lacksOf_2 21 rfl rfl)
theorem dX6_lacksOf_72 : decode cX6_lacksOf 72 = .ok (.ifCond .eq 13, 3) := dk_153 0 13 (dk_at dksX6_lacksOf_3 0 rfl rfl)
theorem dX6_lacksOf_75 : decode cX6_lacksOf 75 = .ok (.aload_n 0, 1) := dk_42 (dk_at dksX6_lacksOf_3 3 rfl rfl)
theorem dX6_lacksOf_76 : decode cX6_lacksOf 76 = .ok (.iload_n 1, 1) := dk_27 (dk_at dksX6_lacksOf_3 4 rfl rfl)
theorem dX6_lacksOf_77 : decode cX6_lacksOf 77 = .ok (.iload 6, 2) := dk_21 6 (dk_at dksX6_lacksOf_3 5 rfl rfl)
theorem dX6_lacksOf_79 : decode cX6_lacksOf 79 = .ok (.invokevirtual 298, 3) := dk_182 1 42 (dk_at dksX6_lacksOf_3 7 rfl rfl)
theorem dX6_lacksOf_82 : decode cX6_lacksOf 82 = .ok (.ifCond .eq 7, 3) := dk_153 0 7 (dk_at dksX6_lacksOf_3 10 rfl rfl)
theorem dX6_lacksOf_85 : decode cX6_lacksOf 85 = .ok (.iconst 1, 1) := dk_4 (dk_at dksX6_lacksOf_3 13 rfl rfl)
theorem dX6_lacksOf_86 : decode cX6_lacksOf 86 = .ok (.goto 4, 3) := dk_167 0 4 (dk_at dksX6_lacksOf_3 14 rfl rfl)
theorem dX6_lacksOf_89 : decode cX6_lacksOf 89 = .ok (.iconst 0, 1) := dk_3 (dk_at dksX6_lacksOf_3 17 rfl rfl)
theorem dX6_lacksOf_90 : decode cX6_lacksOf 90 = .ok (.istore 5, 2) := dk_54 5 (dk_at dksX6_lacksOf_3 18 rfl rfl)
theorem dX6_lacksOf_92 : decode cX6_lacksOf 92 = .ok (.iinc 6 1, 3) := dk_132 6 1 (dk_at dksX6_lacksOf_3 20 rfl rfl)
theorem dX6_lacksOf_95 : decode cX6_lacksOf 95 = .ok (.goto (-47), 3) := dk_167 255 209 (dk_at dksX6_lacksOf_4 0 rfl rfl)
theorem dX6_lacksOf_98 : decode cX6_lacksOf 98 = .ok (.iload_n 2, 1) := dk_28 (dk_at dksX6_lacksOf_4 3 rfl rfl)
theorem dX6_lacksOf_99 : decode cX6_lacksOf 99 = .ok (.aload_n 0, 1) := dk_42 (dk_at dksX6_lacksOf_4 4 rfl rfl)
theorem dX6_lacksOf_100 : decode cX6_lacksOf 100 = .ok (.getfield 7, 3) := dk_180 0 7 (dk_at dksX6_lacksOf_4 5 rfl rfl)
theorem dX6_lacksOf_103 : decode cX6_lacksOf 103 = .ok (.aload_n 0, 1) := dk_42 (dk_at dksX6_lacksOf_4 8 rfl rfl)
theorem dX6_lacksOf_104 : decode cX6_lacksOf 104 = .ok (.getfield 19, 3) := dk_180 0 19 (dk_at dksX6_lacksOf_4 9 rfl rfl)
theorem dX6_lacksOf_107 : decode cX6_lacksOf 107 = .ok (.iload_n 1, 1) := dk_27 (dk_at dksX6_lacksOf_4 12 rfl rfl)
theorem dX6_lacksOf_108 : decode cX6_lacksOf 108 = .ok (.iaload, 1) := dk_46 (dk_at dksX6_lacksOf_4 13 rfl rfl)
theorem dX6_lacksOf_109 : decode cX6_lacksOf 109 = .ok (.iaload, 1) := dk_46 (dk_at dksX6_lacksOf_4 14 rfl rfl)
theorem dX6_lacksOf_110 : decode cX6_lacksOf 110 = .ok (.iload_n 3, 1) := dk_29 (dk_at dksX6_lacksOf_4 15 rfl rfl)
theorem dX6_lacksOf_111 : decode cX6_lacksOf 111 = .ok (.invokestatic 214, 3) := dk_184 0 214 (dk_at dksX6_lacksOf_4 16 rfl rfl)
theorem dX6_lacksOf_114 : decode cX6_lacksOf 114 = .ok (.ifCond .eq 14, 3) := dk_153 0 14 (dk_at dksX6_lacksOf_4 19 rfl rfl)
theorem dX6_lacksOf_117 : decode cX6_lacksOf 117 = .ok (.iload 5, 2) := dk_21 5 (dk_at dksX6_lacksOf_4 22 rfl rfl)
theorem dX6_lacksOf_119 : decode cX6_lacksOf 119 = .ok (.ifCond .ne 9, 3) := dk_154 0 9 (dk_at dksX6_lacksOf_5 0 rfl rfl)
theorem dX6_lacksOf_122 : decode cX6_lacksOf 122 = .ok (.iconst 1, 1) := dk_4 (dk_at dksX6_lacksOf_5 3 rfl rfl)
theorem dX6_lacksOf_123 : decode cX6_lacksOf 123 = .ok (.iload_n 3, 1) := dk_29 (dk_at dksX6_lacksOf_5 4 rfl rfl)
theorem dX6_lacksOf_124 : decode cX6_lacksOf 124 = .ok (.ishl, 1) := dk_120 (dk_at dksX6_lacksOf_5 5 rfl rfl)
theorem dX6_lacksOf_125 : decode cX6_lacksOf 125 = .ok (.goto 4, 3) := dk_167 0 4 (dk_at dksX6_lacksOf_5 6 rfl rfl)
theorem dX6_lacksOf_128 : decode cX6_lacksOf 128 = .ok (.iconst 0, 1) := dk_3 (dk_at dksX6_lacksOf_5 9 rfl rfl)
theorem dX6_lacksOf_129 : decode cX6_lacksOf 129 = .ok (.ior, 1) := dk_128 (dk_at dksX6_lacksOf_5 10 rfl rfl)
theorem dX6_lacksOf_130 : decode cX6_lacksOf 130 = .ok (.istore_n 2, 1) := dk_61 (dk_at dksX6_lacksOf_5 11 rfl rfl)
theorem dX6_lacksOf_131 : decode cX6_lacksOf 131 = .ok (.iinc 3 1, 3) := dk_132 3 1 (dk_at dksX6_lacksOf_5 12 rfl rfl)
theorem dX6_lacksOf_134 : decode cX6_lacksOf 134 = .ok (.goto (-121), 3) := dk_167 255 135 (dk_at dksX6_lacksOf_5 15 rfl rfl)
theorem dX6_lacksOf_137 : decode cX6_lacksOf 137 = .ok (.iload_n 2, 1) := dk_28 (dk_at dksX6_lacksOf_5 18 rfl rfl)
theorem dX6_lacksOf_138 : decode cX6_lacksOf 138 = .ok (.ireturn, 1) := dk_172 (dk_at dksX6_lacksOf_5 19 rfl rfl)
abbrev cX6_layGoals : ByteArray := prog_13_method_39_code
def yX6_layGoals : MethodName := ⟨RX6, "layGoals", "()V"⟩
def dkwX6_layGoals_2 : List UInt8 := [182, 1, 21, 132, 2, 1, 167, 255, 218, 132, 1, 255, 167, 255, 206, 177]
abbrev dktX6_layGoals_2 : List UInt8 := dkwX6_layGoals_2 ++ []
def dkwX6_layGoals_1 : List UInt8 := [180, 0, 80, 27, 46, 184, 0, 181, 153, 0, 12, 42, 28, 27, 182, 1, 17, 167, 0, 9, 42, 28, 27]
abbrev dktX6_layGoals_1 : List UInt8 := dkwX6_layGoals_1 ++ dktX6_layGoals_2
def dkwX6_layGoals_0 : List UInt8 := [42, 180, 0, 233, 4, 100, 60, 27, 155, 0, 52, 3, 61, 28, 42, 180, 0, 211, 162, 0, 36, 42]
abbrev dktX6_layGoals_0 : List UInt8 := dkwX6_layGoals_0 ++ dktX6_layGoals_1
theorem dksX6_layGoals_0 : cX6_layGoals.data.toList.drop 0 = dktX6_layGoals_0 := by decide +kernel
theorem dksX6_layGoals_1 : cX6_layGoals.data.toList.drop 22 = dktX6_layGoals_1 := dk_seg dksX6_layGoals_0 22 rfl rfl
theorem dksX6_layGoals_2 : cX6_layGoals.data.toList.drop 45 = dktX6_layGoals_2 := dk_seg dksX6_layGoals_1 23 rfl rfl
theorem dX6_layGoals_0 : decode cX6_layGoals 0 = .ok (.aload_n 0, 1) := dk_42 (dk_at dksX6_layGoals_0 0 rfl rfl)
theorem dX6_layGoals_1 : decode cX6_layGoals 1 = .ok (.getfield 233, 3) := dk_180 0 233 (dk_at dksX6_layGoals_0 1 rfl rfl)
theorem dX6_layGoals_4 : decode cX6_layGoals 4 = .ok (.iconst 1, 1) := dk_4 (dk_at dksX6_layGoals_0 4 rfl rfl)
theorem dX6_layGoals_5 : decode cX6_layGoals 5 = .ok (.isub, 1) := dk_100 (dk_at dksX6_layGoals_0 5 rfl rfl)
theorem dX6_layGoals_6 : decode cX6_layGoals 6 = .ok (.istore_n 1, 1) := dk_60 (dk_at dksX6_layGoals_0 6 rfl rfl)
theorem dX6_layGoals_7 : decode cX6_layGoals 7 = .ok (.iload_n 1, 1) := dk_27 (dk_at dksX6_layGoals_0 7 rfl rfl)
theorem dX6_layGoals_8 : decode cX6_layGoals 8 = .ok (.ifCond .lt 52, 3) := dk_155 0 52 (dk_at dksX6_layGoals_0 8 rfl rfl)
theorem dX6_layGoals_11 : decode cX6_layGoals 11 = .ok (.iconst 0, 1) := dk_3 (dk_at dksX6_layGoals_0 11 rfl rfl)
theorem dX6_layGoals_12 : decode cX6_layGoals 12 = .ok (.istore_n 2, 1) := dk_61 (dk_at dksX6_layGoals_0 12 rfl rfl)
theorem dX6_layGoals_13 : decode cX6_layGoals 13 = .ok (.iload_n 2, 1) := dk_28 (dk_at dksX6_layGoals_0 13 rfl rfl)
theorem dX6_layGoals_14 : decode cX6_layGoals 14 = .ok (.aload_n 0, 1) := dk_42 (dk_at dksX6_layGoals_0 14 rfl rfl)
theorem dX6_layGoals_15 : decode cX6_layGoals 15 = .ok (.getfield 211, 3) := dk_180 0 211 (dk_at dksX6_layGoals_0 15 rfl rfl)
theorem dX6_layGoals_18 : decode cX6_layGoals 18 = .ok (.if_icmp .ge 36, 3) := dk_162 0 36 (dk_at dksX6_layGoals_0 18 rfl rfl)
theorem dX6_layGoals_21 : decode cX6_layGoals 21 = .ok (.aload_n 0, 1) := dk_42 (dk_at dksX6_layGoals_0 21 rfl rfl)
theorem dX6_layGoals_22 : decode cX6_layGoals 22 = .ok (.getfield 80, 3) := dk_180 0 80 (dk_at dksX6_layGoals_1 0 rfl rfl)
theorem dX6_layGoals_25 : decode cX6_layGoals 25 = .ok (.iload_n 1, 1) := dk_27 (dk_at dksX6_layGoals_1 3 rfl rfl)
theorem dX6_layGoals_26 : decode cX6_layGoals 26 = .ok (.iaload, 1) := dk_46 (dk_at dksX6_layGoals_1 4 rfl rfl)
theorem dX6_layGoals_27 : decode cX6_layGoals 27 = .ok (.invokestatic 181, 3) := dk_184 0 181 (dk_at dksX6_layGoals_1 5 rfl rfl)
theorem dX6_layGoals_30 : decode cX6_layGoals 30 = .ok (.ifCond .eq 12, 3) := dk_153 0 12 (dk_at dksX6_layGoals_1 8 rfl rfl)
theorem dX6_layGoals_33 : decode cX6_layGoals 33 = .ok (.aload_n 0, 1) := dk_42 (dk_at dksX6_layGoals_1 11 rfl rfl)
theorem dX6_layGoals_34 : decode cX6_layGoals 34 = .ok (.iload_n 2, 1) := dk_28 (dk_at dksX6_layGoals_1 12 rfl rfl)
theorem dX6_layGoals_35 : decode cX6_layGoals 35 = .ok (.iload_n 1, 1) := dk_27 (dk_at dksX6_layGoals_1 13 rfl rfl)
theorem dX6_layGoals_36 : decode cX6_layGoals 36 = .ok (.invokevirtual 273, 3) := dk_182 1 17 (dk_at dksX6_layGoals_1 14 rfl rfl)
theorem dX6_layGoals_39 : decode cX6_layGoals 39 = .ok (.goto 9, 3) := dk_167 0 9 (dk_at dksX6_layGoals_1 17 rfl rfl)
theorem dX6_layGoals_42 : decode cX6_layGoals 42 = .ok (.aload_n 0, 1) := dk_42 (dk_at dksX6_layGoals_1 20 rfl rfl)
theorem dX6_layGoals_43 : decode cX6_layGoals 43 = .ok (.iload_n 2, 1) := dk_28 (dk_at dksX6_layGoals_1 21 rfl rfl)
theorem dX6_layGoals_44 : decode cX6_layGoals 44 = .ok (.iload_n 1, 1) := dk_27 (dk_at dksX6_layGoals_1 22 rfl rfl)
theorem dX6_layGoals_45 : decode cX6_layGoals 45 = .ok (.invokevirtual 277, 3) := dk_182 1 21 (dk_at dksX6_layGoals_2 0 rfl rfl)
theorem dX6_layGoals_48 : decode cX6_layGoals 48 = .ok (.iinc 2 1, 3) := dk_132 2 1 (dk_at dksX6_layGoals_2 3 rfl rfl)
theorem dX6_layGoals_51 : decode cX6_layGoals 51 = .ok (.goto (-38), 3) := dk_167 255 218 (dk_at dksX6_layGoals_2 6 rfl rfl)
theorem dX6_layGoals_54 : decode cX6_layGoals 54 = .ok (.iinc 1 (-1), 3) := dk_132 1 255 (dk_at dksX6_layGoals_2 9 rfl rfl)
theorem dX6_layGoals_57 : decode cX6_layGoals 57 = .ok (.goto (-50), 3) := dk_167 255 206 (dk_at dksX6_layGoals_2 12 rfl rfl)
theorem dX6_layGoals_60 : decode cX6_layGoals 60 = .ok (.return_, 1) := dk_177 (dk_at dksX6_layGoals_2 15 rfl rfl)
abbrev cX6_layNeed : ByteArray := prog_13_method_36_code
def yX6_layNeed : MethodName := ⟨RX6, "layNeed", "(II)V"⟩
def dkwX6_layNeed_3 : List UInt8 := [180, 0, 107, 29, 4, 79, 42, 180, 0, 110, 29, 4, 5, 27, 104, 21, 4, 96, 120, 79, 177]
abbrev dktX6_layNeed_3 : List UInt8 := dkwX6_layNeed_3 ++ []
def dkwX6_layNeed_2 : List UInt8 := [180, 0, 101, 29, 4, 79, 42, 180, 0, 104, 29, 16, 10, 5, 27, 104, 96, 21, 4, 96, 79, 42]
abbrev dktX6_layNeed_2 : List UInt8 := dkwX6_layNeed_2 ++ dktX6_layNeed_3
def dkwX6_layNeed_1 : List UInt8 := [79, 42, 180, 0, 92, 29, 2, 79, 42, 180, 0, 95, 29, 2, 79, 42, 180, 0, 98, 29, 2, 79, 42]
abbrev dktX6_layNeed_1 : List UInt8 := dkwX6_layNeed_1 ++ dktX6_layNeed_2
def dkwX6_layNeed_0 : List UInt8 := [16, 9, 27, 104, 28, 96, 62, 42, 180, 0, 80, 28, 46, 16, 120, 100, 54, 4, 42, 180, 0, 89, 29, 4]
abbrev dktX6_layNeed_0 : List UInt8 := dkwX6_layNeed_0 ++ dktX6_layNeed_1
theorem dksX6_layNeed_0 : cX6_layNeed.data.toList.drop 0 = dktX6_layNeed_0 := by decide +kernel
theorem dksX6_layNeed_1 : cX6_layNeed.data.toList.drop 24 = dktX6_layNeed_1 := dk_seg dksX6_layNeed_0 24 rfl rfl
theorem dksX6_layNeed_2 : cX6_layNeed.data.toList.drop 47 = dktX6_layNeed_2 := dk_seg dksX6_layNeed_1 23 rfl rfl
theorem dksX6_layNeed_3 : cX6_layNeed.data.toList.drop 69 = dktX6_layNeed_3 := dk_seg dksX6_layNeed_2 22 rfl rfl
theorem dX6_layNeed_0 : decode cX6_layNeed 0 = .ok (.bipush 9, 2) := dk_16 9 (dk_at dksX6_layNeed_0 0 rfl rfl)
theorem dX6_layNeed_2 : decode cX6_layNeed 2 = .ok (.iload_n 1, 1) := dk_27 (dk_at dksX6_layNeed_0 2 rfl rfl)
theorem dX6_layNeed_3 : decode cX6_layNeed 3 = .ok (.imul, 1) := dk_104 (dk_at dksX6_layNeed_0 3 rfl rfl)
theorem dX6_layNeed_4 : decode cX6_layNeed 4 = .ok (.iload_n 2, 1) := dk_28 (dk_at dksX6_layNeed_0 4 rfl rfl)
theorem dX6_layNeed_5 : decode cX6_layNeed 5 = .ok (.iadd, 1) := dk_96 (dk_at dksX6_layNeed_0 5 rfl rfl)
theorem dX6_layNeed_6 : decode cX6_layNeed 6 = .ok (.istore_n 3, 1) := dk_62 (dk_at dksX6_layNeed_0 6 rfl rfl)
theorem dX6_layNeed_7 : decode cX6_layNeed 7 = .ok (.aload_n 0, 1) := dk_42 (dk_at dksX6_layNeed_0 7 rfl rfl)
theorem dX6_layNeed_8 : decode cX6_layNeed 8 = .ok (.getfield 80, 3) := dk_180 0 80 (dk_at dksX6_layNeed_0 8 rfl rfl)
theorem dX6_layNeed_11 : decode cX6_layNeed 11 = .ok (.iload_n 2, 1) := dk_28 (dk_at dksX6_layNeed_0 11 rfl rfl)
theorem dX6_layNeed_12 : decode cX6_layNeed 12 = .ok (.iaload, 1) := dk_46 (dk_at dksX6_layNeed_0 12 rfl rfl)
theorem dX6_layNeed_13 : decode cX6_layNeed 13 = .ok (.bipush 120, 2) := dk_16 120 (dk_at dksX6_layNeed_0 13 rfl rfl)
theorem dX6_layNeed_15 : decode cX6_layNeed 15 = .ok (.isub, 1) := dk_100 (dk_at dksX6_layNeed_0 15 rfl rfl)
theorem dX6_layNeed_16 : decode cX6_layNeed 16 = .ok (.istore 4, 2) := dk_54 4 (dk_at dksX6_layNeed_0 16 rfl rfl)
theorem dX6_layNeed_18 : decode cX6_layNeed 18 = .ok (.aload_n 0, 1) := dk_42 (dk_at dksX6_layNeed_0 18 rfl rfl)
theorem dX6_layNeed_19 : decode cX6_layNeed 19 = .ok (.getfield 89, 3) := dk_180 0 89 (dk_at dksX6_layNeed_0 19 rfl rfl)
theorem dX6_layNeed_22 : decode cX6_layNeed 22 = .ok (.iload_n 3, 1) := dk_29 (dk_at dksX6_layNeed_0 22 rfl rfl)
theorem dX6_layNeed_23 : decode cX6_layNeed 23 = .ok (.iconst 1, 1) := dk_4 (dk_at dksX6_layNeed_0 23 rfl rfl)
theorem dX6_layNeed_24 : decode cX6_layNeed 24 = .ok (.iastore, 1) := dk_79 (dk_at dksX6_layNeed_1 0 rfl rfl)
theorem dX6_layNeed_25 : decode cX6_layNeed 25 = .ok (.aload_n 0, 1) := dk_42 (dk_at dksX6_layNeed_1 1 rfl rfl)
theorem dX6_layNeed_26 : decode cX6_layNeed 26 = .ok (.getfield 92, 3) := dk_180 0 92 (dk_at dksX6_layNeed_1 2 rfl rfl)
theorem dX6_layNeed_29 : decode cX6_layNeed 29 = .ok (.iload_n 3, 1) := dk_29 (dk_at dksX6_layNeed_1 5 rfl rfl)
theorem dX6_layNeed_30 : decode cX6_layNeed 30 = .ok (.iconst (-1), 1) := dk_2 (dk_at dksX6_layNeed_1 6 rfl rfl)
theorem dX6_layNeed_31 : decode cX6_layNeed 31 = .ok (.iastore, 1) := dk_79 (dk_at dksX6_layNeed_1 7 rfl rfl)
theorem dX6_layNeed_32 : decode cX6_layNeed 32 = .ok (.aload_n 0, 1) := dk_42 (dk_at dksX6_layNeed_1 8 rfl rfl)
theorem dX6_layNeed_33 : decode cX6_layNeed 33 = .ok (.getfield 95, 3) := dk_180 0 95 (dk_at dksX6_layNeed_1 9 rfl rfl)
theorem dX6_layNeed_36 : decode cX6_layNeed 36 = .ok (.iload_n 3, 1) := dk_29 (dk_at dksX6_layNeed_1 12 rfl rfl)
theorem dX6_layNeed_37 : decode cX6_layNeed 37 = .ok (.iconst (-1), 1) := dk_2 (dk_at dksX6_layNeed_1 13 rfl rfl)
theorem dX6_layNeed_38 : decode cX6_layNeed 38 = .ok (.iastore, 1) := dk_79 (dk_at dksX6_layNeed_1 14 rfl rfl)
theorem dX6_layNeed_39 : decode cX6_layNeed 39 = .ok (.aload_n 0, 1) := dk_42 (dk_at dksX6_layNeed_1 15 rfl rfl)
theorem dX6_layNeed_40 : decode cX6_layNeed 40 = .ok (.getfield 98, 3) := dk_180 0 98 (dk_at dksX6_layNeed_1 16 rfl rfl)
theorem dX6_layNeed_43 : decode cX6_layNeed 43 = .ok (.iload_n 3, 1) := dk_29 (dk_at dksX6_layNeed_1 19 rfl rfl)
theorem dX6_layNeed_44 : decode cX6_layNeed 44 = .ok (.iconst (-1), 1) := dk_2 (dk_at dksX6_layNeed_1 20 rfl rfl)
theorem dX6_layNeed_45 : decode cX6_layNeed 45 = .ok (.iastore, 1) := dk_79 (dk_at dksX6_layNeed_1 21 rfl rfl)
theorem dX6_layNeed_46 : decode cX6_layNeed 46 = .ok (.aload_n 0, 1) := dk_42 (dk_at dksX6_layNeed_1 22 rfl rfl)
theorem dX6_layNeed_47 : decode cX6_layNeed 47 = .ok (.getfield 101, 3) := dk_180 0 101 (dk_at dksX6_layNeed_2 0 rfl rfl)
theorem dX6_layNeed_50 : decode cX6_layNeed 50 = .ok (.iload_n 3, 1) := dk_29 (dk_at dksX6_layNeed_2 3 rfl rfl)
theorem dX6_layNeed_51 : decode cX6_layNeed 51 = .ok (.iconst 1, 1) := dk_4 (dk_at dksX6_layNeed_2 4 rfl rfl)
theorem dX6_layNeed_52 : decode cX6_layNeed 52 = .ok (.iastore, 1) := dk_79 (dk_at dksX6_layNeed_2 5 rfl rfl)
theorem dX6_layNeed_53 : decode cX6_layNeed 53 = .ok (.aload_n 0, 1) := dk_42 (dk_at dksX6_layNeed_2 6 rfl rfl)
theorem dX6_layNeed_54 : decode cX6_layNeed 54 = .ok (.getfield 104, 3) := dk_180 0 104 (dk_at dksX6_layNeed_2 7 rfl rfl)
theorem dX6_layNeed_57 : decode cX6_layNeed 57 = .ok (.iload_n 3, 1) := dk_29 (dk_at dksX6_layNeed_2 10 rfl rfl)
theorem dX6_layNeed_58 : decode cX6_layNeed 58 = .ok (.bipush 10, 2) := dk_16 10 (dk_at dksX6_layNeed_2 11 rfl rfl)
theorem dX6_layNeed_60 : decode cX6_layNeed 60 = .ok (.iconst 2, 1) := dk_5 (dk_at dksX6_layNeed_2 13 rfl rfl)
theorem dX6_layNeed_61 : decode cX6_layNeed 61 = .ok (.iload_n 1, 1) := dk_27 (dk_at dksX6_layNeed_2 14 rfl rfl)
theorem dX6_layNeed_62 : decode cX6_layNeed 62 = .ok (.imul, 1) := dk_104 (dk_at dksX6_layNeed_2 15 rfl rfl)
theorem dX6_layNeed_63 : decode cX6_layNeed 63 = .ok (.iadd, 1) := dk_96 (dk_at dksX6_layNeed_2 16 rfl rfl)
theorem dX6_layNeed_64 : decode cX6_layNeed 64 = .ok (.iload 4, 2) := dk_21 4 (dk_at dksX6_layNeed_2 17 rfl rfl)
theorem dX6_layNeed_66 : decode cX6_layNeed 66 = .ok (.iadd, 1) := dk_96 (dk_at dksX6_layNeed_2 19 rfl rfl)
theorem dX6_layNeed_67 : decode cX6_layNeed 67 = .ok (.iastore, 1) := dk_79 (dk_at dksX6_layNeed_2 20 rfl rfl)
theorem dX6_layNeed_68 : decode cX6_layNeed 68 = .ok (.aload_n 0, 1) := dk_42 (dk_at dksX6_layNeed_2 21 rfl rfl)
theorem dX6_layNeed_69 : decode cX6_layNeed 69 = .ok (.getfield 107, 3) := dk_180 0 107 (dk_at dksX6_layNeed_3 0 rfl rfl)
theorem dX6_layNeed_72 : decode cX6_layNeed 72 = .ok (.iload_n 3, 1) := dk_29 (dk_at dksX6_layNeed_3 3 rfl rfl)
theorem dX6_layNeed_73 : decode cX6_layNeed 73 = .ok (.iconst 1, 1) := dk_4 (dk_at dksX6_layNeed_3 4 rfl rfl)
theorem dX6_layNeed_74 : decode cX6_layNeed 74 = .ok (.iastore, 1) := dk_79 (dk_at dksX6_layNeed_3 5 rfl rfl)
theorem dX6_layNeed_75 : decode cX6_layNeed 75 = .ok (.aload_n 0, 1) := dk_42 (dk_at dksX6_layNeed_3 6 rfl rfl)
theorem dX6_layNeed_76 : decode cX6_layNeed 76 = .ok (.getfield 110, 3) := dk_180 0 110 (dk_at dksX6_layNeed_3 7 rfl rfl)
theorem dX6_layNeed_79 : decode cX6_layNeed 79 = .ok (.iload_n 3, 1) := dk_29 (dk_at dksX6_layNeed_3 10 rfl rfl)
theorem dX6_layNeed_80 : decode cX6_layNeed 80 = .ok (.iconst 1, 1) := dk_4 (dk_at dksX6_layNeed_3 11 rfl rfl)
theorem dX6_layNeed_81 : decode cX6_layNeed 81 = .ok (.iconst 2, 1) := dk_5 (dk_at dksX6_layNeed_3 12 rfl rfl)
theorem dX6_layNeed_82 : decode cX6_layNeed 82 = .ok (.iload_n 1, 1) := dk_27 (dk_at dksX6_layNeed_3 13 rfl rfl)
theorem dX6_layNeed_83 : decode cX6_layNeed 83 = .ok (.imul, 1) := dk_104 (dk_at dksX6_layNeed_3 14 rfl rfl)
theorem dX6_layNeed_84 : decode cX6_layNeed 84 = .ok (.iload 4, 2) := dk_21 4 (dk_at dksX6_layNeed_3 15 rfl rfl)
theorem dX6_layNeed_86 : decode cX6_layNeed 86 = .ok (.iadd, 1) := dk_96 (dk_at dksX6_layNeed_3 17 rfl rfl)
theorem dX6_layNeed_87 : decode cX6_layNeed 87 = .ok (.ishl, 1) := dk_120 (dk_at dksX6_layNeed_3 18 rfl rfl)
theorem dX6_layNeed_88 : decode cX6_layNeed 88 = .ok (.iastore, 1) := dk_79 (dk_at dksX6_layNeed_3 19 rfl rfl)
theorem dX6_layNeed_89 : decode cX6_layNeed 89 = .ok (.return_, 1) := dk_177 (dk_at dksX6_layNeed_3 20 rfl rfl)
abbrev cX6_layGoal : ByteArray := prog_13_method_38_code
def yX6_layGoal : MethodName := ⟨RX6, "layGoal", "(II)V"⟩
def dkwX6_layGoal_10 : List UInt8 := [79, 177]
abbrev dktX6_layGoal_10 : List UInt8 := dkwX6_layGoal_10 ++ []
def dkwX6_layGoal_9 : List UInt8 := [79, 42, 29, 42, 180, 0, 98, 29, 46, 6, 182, 1, 13, 42, 180, 0, 104, 29, 92, 46, 17, 3, 241, 112]
abbrev dktX6_layGoal_9 : List UInt8 := dkwX6_layGoal_9 ++ dktX6_layGoal_10
def dkwX6_layGoal_8 : List UInt8 := [21, 4, 104, 4, 96, 46, 104, 42, 180, 0, 86, 42, 180, 0, 34, 5, 21, 4, 104, 4, 96, 46, 46, 96]
abbrev dktX6_layGoal_8 : List UInt8 := dkwX6_layGoal_8 ++ dktX6_layGoal_9
def dkwX6_layGoal_7 : List UInt8 := [42, 180, 0, 28, 21, 4, 46, 4, 164, 0, 52, 42, 180, 0, 98, 29, 16, 9, 42, 180, 0, 31, 5]
abbrev dktX6_layGoal_7 : List UInt8 := dkwX6_layGoal_7 ++ dktX6_layGoal_8
def dkwX6_layGoal_6 : List UInt8 := [42, 180, 0, 34, 5, 21, 4, 104, 46, 46, 96, 79, 42, 29, 42, 180, 0, 95, 29, 46, 5, 182, 1, 13]
abbrev dktX6_layGoal_6 : List UInt8 := dkwX6_layGoal_6 ++ dktX6_layGoal_7
def dkwX6_layGoal_5 : List UInt8 := [158, 0, 48, 42, 180, 0, 95, 29, 16, 9, 42, 180, 0, 31, 5, 21, 4, 104, 46, 104, 42, 180, 0, 86]
abbrev dktX6_layGoal_5 : List UInt8 := dkwX6_layGoal_5 ++ dktX6_layGoal_6
def dkwX6_layGoal_4 : List UInt8 := [104, 79, 42, 180, 0, 107, 29, 4, 79, 42, 180, 0, 110, 29, 3, 79, 42, 180, 0, 28, 21, 4, 46]
abbrev dktX6_layGoal_4 : List UInt8 := dkwX6_layGoal_4 ++ dktX6_layGoal_5
def dkwX6_layGoal_3 : List UInt8 := [180, 0, 89, 29, 4, 79, 42, 180, 0, 101, 29, 4, 79, 42, 180, 0, 104, 29, 16, 7, 21, 4, 4, 96]
abbrev dktX6_layGoal_3 : List UInt8 := dkwX6_layGoal_3 ++ dktX6_layGoal_4
def dkwX6_layGoal_2 : List UInt8 := [21, 4, 2, 160, 0, 7, 3, 167, 0, 5, 16, 254, 79, 177, 42, 21, 4, 28, 182, 0, 245, 87, 42]
abbrev dktX6_layGoal_2 : List UInt8 := dkwX6_layGoal_2 ++ dktX6_layGoal_3
def dkwX6_layGoal_1 : List UInt8 := [180, 0, 95, 29, 2, 79, 42, 180, 0, 98, 29, 2, 79, 21, 4, 156, 0, 22, 42, 180, 0, 89, 29]
abbrev dktX6_layGoal_1 : List UInt8 := dkwX6_layGoal_1 ++ dktX6_layGoal_2
def dkwX6_layGoal_0 : List UInt8 := [16, 9, 27, 104, 28, 96, 62, 42, 27, 28, 182, 1, 10, 54, 4, 42, 180, 0, 92, 29, 21, 4, 79, 42]
abbrev dktX6_layGoal_0 : List UInt8 := dkwX6_layGoal_0 ++ dktX6_layGoal_1
theorem dksX6_layGoal_0 : cX6_layGoal.data.toList.drop 0 = dktX6_layGoal_0 := by decide +kernel
theorem dksX6_layGoal_1 : cX6_layGoal.data.toList.drop 24 = dktX6_layGoal_1 := dk_seg dksX6_layGoal_0 24 rfl rfl
theorem dksX6_layGoal_2 : cX6_layGoal.data.toList.drop 47 = dktX6_layGoal_2 := dk_seg dksX6_layGoal_1 23 rfl rfl
theorem dksX6_layGoal_3 : cX6_layGoal.data.toList.drop 70 = dktX6_layGoal_3 := dk_seg dksX6_layGoal_2 23 rfl rfl
theorem dksX6_layGoal_4 : cX6_layGoal.data.toList.drop 94 = dktX6_layGoal_4 := dk_seg dksX6_layGoal_3 24 rfl rfl
theorem dksX6_layGoal_5 : cX6_layGoal.data.toList.drop 117 = dktX6_layGoal_5 := dk_seg dksX6_layGoal_4 23 rfl rfl
theorem dksX6_layGoal_6 : cX6_layGoal.data.toList.drop 141 = dktX6_layGoal_6 := dk_seg dksX6_layGoal_5 24 rfl rfl
theorem dksX6_layGoal_7 : cX6_layGoal.data.toList.drop 165 = dktX6_layGoal_7 := dk_seg dksX6_layGoal_6 24 rfl rfl
theorem dksX6_layGoal_8 : cX6_layGoal.data.toList.drop 188 = dktX6_layGoal_8 := dk_seg dksX6_layGoal_7 23 rfl rfl
theorem dksX6_layGoal_9 : cX6_layGoal.data.toList.drop 212 = dktX6_layGoal_9 := dk_seg dksX6_layGoal_8 24 rfl rfl
theorem dksX6_layGoal_10 : cX6_layGoal.data.toList.drop 236 = dktX6_layGoal_10 := dk_seg dksX6_layGoal_9 24 rfl rfl
theorem dX6_layGoal_0 : decode cX6_layGoal 0 = .ok (.bipush 9, 2) := dk_16 9 (dk_at dksX6_layGoal_0 0 rfl rfl)
theorem dX6_layGoal_2 : decode cX6_layGoal 2 = .ok (.iload_n 1, 1) := dk_27 (dk_at dksX6_layGoal_0 2 rfl rfl)
theorem dX6_layGoal_3 : decode cX6_layGoal 3 = .ok (.imul, 1) := dk_104 (dk_at dksX6_layGoal_0 3 rfl rfl)
theorem dX6_layGoal_4 : decode cX6_layGoal 4 = .ok (.iload_n 2, 1) := dk_28 (dk_at dksX6_layGoal_0 4 rfl rfl)
theorem dX6_layGoal_5 : decode cX6_layGoal 5 = .ok (.iadd, 1) := dk_96 (dk_at dksX6_layGoal_0 5 rfl rfl)
theorem dX6_layGoal_6 : decode cX6_layGoal 6 = .ok (.istore_n 3, 1) := dk_62 (dk_at dksX6_layGoal_0 6 rfl rfl)
theorem dX6_layGoal_7 : decode cX6_layGoal 7 = .ok (.aload_n 0, 1) := dk_42 (dk_at dksX6_layGoal_0 7 rfl rfl)
theorem dX6_layGoal_8 : decode cX6_layGoal 8 = .ok (.iload_n 1, 1) := dk_27 (dk_at dksX6_layGoal_0 8 rfl rfl)
theorem dX6_layGoal_9 : decode cX6_layGoal 9 = .ok (.iload_n 2, 1) := dk_28 (dk_at dksX6_layGoal_0 9 rfl rfl)
theorem dX6_layGoal_10 : decode cX6_layGoal 10 = .ok (.invokevirtual 266, 3) := dk_182 1 10 (dk_at dksX6_layGoal_0 10 rfl rfl)
theorem dX6_layGoal_13 : decode cX6_layGoal 13 = .ok (.istore 4, 2) := dk_54 4 (dk_at dksX6_layGoal_0 13 rfl rfl)
theorem dX6_layGoal_15 : decode cX6_layGoal 15 = .ok (.aload_n 0, 1) := dk_42 (dk_at dksX6_layGoal_0 15 rfl rfl)
theorem dX6_layGoal_16 : decode cX6_layGoal 16 = .ok (.getfield 92, 3) := dk_180 0 92 (dk_at dksX6_layGoal_0 16 rfl rfl)
theorem dX6_layGoal_19 : decode cX6_layGoal 19 = .ok (.iload_n 3, 1) := dk_29 (dk_at dksX6_layGoal_0 19 rfl rfl)
theorem dX6_layGoal_20 : decode cX6_layGoal 20 = .ok (.iload 4, 2) := dk_21 4 (dk_at dksX6_layGoal_0 20 rfl rfl)
theorem dX6_layGoal_22 : decode cX6_layGoal 22 = .ok (.iastore, 1) := dk_79 (dk_at dksX6_layGoal_0 22 rfl rfl)
theorem dX6_layGoal_23 : decode cX6_layGoal 23 = .ok (.aload_n 0, 1) := dk_42 (dk_at dksX6_layGoal_0 23 rfl rfl)
theorem dX6_layGoal_24 : decode cX6_layGoal 24 = .ok (.getfield 95, 3) := dk_180 0 95 (dk_at dksX6_layGoal_1 0 rfl rfl)
theorem dX6_layGoal_27 : decode cX6_layGoal 27 = .ok (.iload_n 3, 1) := dk_29 (dk_at dksX6_layGoal_1 3 rfl rfl)
theorem dX6_layGoal_28 : decode cX6_layGoal 28 = .ok (.iconst (-1), 1) := dk_2 (dk_at dksX6_layGoal_1 4 rfl rfl)
theorem dX6_layGoal_29 : decode cX6_layGoal 29 = .ok (.iastore, 1) := dk_79 (dk_at dksX6_layGoal_1 5 rfl rfl)
theorem dX6_layGoal_30 : decode cX6_layGoal 30 = .ok (.aload_n 0, 1) := dk_42 (dk_at dksX6_layGoal_1 6 rfl rfl)
theorem dX6_layGoal_31 : decode cX6_layGoal 31 = .ok (.getfield 98, 3) := dk_180 0 98 (dk_at dksX6_layGoal_1 7 rfl rfl)
theorem dX6_layGoal_34 : decode cX6_layGoal 34 = .ok (.iload_n 3, 1) := dk_29 (dk_at dksX6_layGoal_1 10 rfl rfl)
theorem dX6_layGoal_35 : decode cX6_layGoal 35 = .ok (.iconst (-1), 1) := dk_2 (dk_at dksX6_layGoal_1 11 rfl rfl)
theorem dX6_layGoal_36 : decode cX6_layGoal 36 = .ok (.iastore, 1) := dk_79 (dk_at dksX6_layGoal_1 12 rfl rfl)
theorem dX6_layGoal_37 : decode cX6_layGoal 37 = .ok (.iload 4, 2) := dk_21 4 (dk_at dksX6_layGoal_1 13 rfl rfl)
theorem dX6_layGoal_39 : decode cX6_layGoal 39 = .ok (.ifCond .ge 22, 3) := dk_156 0 22 (dk_at dksX6_layGoal_1 15 rfl rfl)
theorem dX6_layGoal_42 : decode cX6_layGoal 42 = .ok (.aload_n 0, 1) := dk_42 (dk_at dksX6_layGoal_1 18 rfl rfl)
theorem dX6_layGoal_43 : decode cX6_layGoal 43 = .ok (.getfield 89, 3) := dk_180 0 89 (dk_at dksX6_layGoal_1 19 rfl rfl)
theorem dX6_layGoal_46 : decode cX6_layGoal 46 = .ok (.iload_n 3, 1) := dk_29 (dk_at dksX6_layGoal_1 22 rfl rfl)
theorem dX6_layGoal_47 : decode cX6_layGoal 47 = .ok (.iload 4, 2) := dk_21 4 (dk_at dksX6_layGoal_2 0 rfl rfl)
theorem dX6_layGoal_49 : decode cX6_layGoal 49 = .ok (.iconst (-1), 1) := dk_2 (dk_at dksX6_layGoal_2 2 rfl rfl)
theorem dX6_layGoal_50 : decode cX6_layGoal 50 = .ok (.if_icmp .ne 7, 3) := dk_160 0 7 (dk_at dksX6_layGoal_2 3 rfl rfl)
theorem dX6_layGoal_53 : decode cX6_layGoal 53 = .ok (.iconst 0, 1) := dk_3 (dk_at dksX6_layGoal_2 6 rfl rfl)
theorem dX6_layGoal_54 : decode cX6_layGoal 54 = .ok (.goto 5, 3) := dk_167 0 5 (dk_at dksX6_layGoal_2 7 rfl rfl)
theorem dX6_layGoal_57 : decode cX6_layGoal 57 = .ok (.bipush (-2), 2) := dk_16 254 (dk_at dksX6_layGoal_2 10 rfl rfl)
theorem dX6_layGoal_59 : decode cX6_layGoal 59 = .ok (.iastore, 1) := dk_79 (dk_at dksX6_layGoal_2 12 rfl rfl)
theorem dX6_layGoal_60 : decode cX6_layGoal 60 = .ok (.return_, 1) := dk_177 (dk_at dksX6_layGoal_2 13 rfl rfl)
theorem dX6_layGoal_61 : decode cX6_layGoal 61 = .ok (.aload_n 0, 1) := dk_42 (dk_at dksX6_layGoal_2 14 rfl rfl)
theorem dX6_layGoal_62 : decode cX6_layGoal 62 = .ok (.iload 4, 2) := dk_21 4 (dk_at dksX6_layGoal_2 15 rfl rfl)
theorem dX6_layGoal_64 : decode cX6_layGoal 64 = .ok (.iload_n 2, 1) := dk_28 (dk_at dksX6_layGoal_2 17 rfl rfl)
theorem dX6_layGoal_65 : decode cX6_layGoal 65 = .ok (.invokevirtual 245, 3) := dk_182 0 245 (dk_at dksX6_layGoal_2 18 rfl rfl)
theorem dX6_layGoal_68 : decode cX6_layGoal 68 = .ok (.pop, 1) := dk_87 (dk_at dksX6_layGoal_2 21 rfl rfl)
theorem dX6_layGoal_69 : decode cX6_layGoal 69 = .ok (.aload_n 0, 1) := dk_42 (dk_at dksX6_layGoal_2 22 rfl rfl)
theorem dX6_layGoal_70 : decode cX6_layGoal 70 = .ok (.getfield 89, 3) := dk_180 0 89 (dk_at dksX6_layGoal_3 0 rfl rfl)
theorem dX6_layGoal_73 : decode cX6_layGoal 73 = .ok (.iload_n 3, 1) := dk_29 (dk_at dksX6_layGoal_3 3 rfl rfl)
theorem dX6_layGoal_74 : decode cX6_layGoal 74 = .ok (.iconst 1, 1) := dk_4 (dk_at dksX6_layGoal_3 4 rfl rfl)
theorem dX6_layGoal_75 : decode cX6_layGoal 75 = .ok (.iastore, 1) := dk_79 (dk_at dksX6_layGoal_3 5 rfl rfl)
theorem dX6_layGoal_76 : decode cX6_layGoal 76 = .ok (.aload_n 0, 1) := dk_42 (dk_at dksX6_layGoal_3 6 rfl rfl)
theorem dX6_layGoal_77 : decode cX6_layGoal 77 = .ok (.getfield 101, 3) := dk_180 0 101 (dk_at dksX6_layGoal_3 7 rfl rfl)
theorem dX6_layGoal_80 : decode cX6_layGoal 80 = .ok (.iload_n 3, 1) := dk_29 (dk_at dksX6_layGoal_3 10 rfl rfl)
theorem dX6_layGoal_81 : decode cX6_layGoal 81 = .ok (.iconst 1, 1) := dk_4 (dk_at dksX6_layGoal_3 11 rfl rfl)
theorem dX6_layGoal_82 : decode cX6_layGoal 82 = .ok (.iastore, 1) := dk_79 (dk_at dksX6_layGoal_3 12 rfl rfl)
theorem dX6_layGoal_83 : decode cX6_layGoal 83 = .ok (.aload_n 0, 1) := dk_42 (dk_at dksX6_layGoal_3 13 rfl rfl)
theorem dX6_layGoal_84 : decode cX6_layGoal 84 = .ok (.getfield 104, 3) := dk_180 0 104 (dk_at dksX6_layGoal_3 14 rfl rfl)
theorem dX6_layGoal_87 : decode cX6_layGoal 87 = .ok (.iload_n 3, 1) := dk_29 (dk_at dksX6_layGoal_3 17 rfl rfl)
theorem dX6_layGoal_88 : decode cX6_layGoal 88 = .ok (.bipush 7, 2) := dk_16 7 (dk_at dksX6_layGoal_3 18 rfl rfl)
theorem dX6_layGoal_90 : decode cX6_layGoal 90 = .ok (.iload 4, 2) := dk_21 4 (dk_at dksX6_layGoal_3 20 rfl rfl)
theorem dX6_layGoal_92 : decode cX6_layGoal 92 = .ok (.iconst 1, 1) := dk_4 (dk_at dksX6_layGoal_3 22 rfl rfl)
theorem dX6_layGoal_93 : decode cX6_layGoal 93 = .ok (.iadd, 1) := dk_96 (dk_at dksX6_layGoal_3 23 rfl rfl)
theorem dX6_layGoal_94 : decode cX6_layGoal 94 = .ok (.imul, 1) := dk_104 (dk_at dksX6_layGoal_4 0 rfl rfl)
theorem dX6_layGoal_95 : decode cX6_layGoal 95 = .ok (.iastore, 1) := dk_79 (dk_at dksX6_layGoal_4 1 rfl rfl)
theorem dX6_layGoal_96 : decode cX6_layGoal 96 = .ok (.aload_n 0, 1) := dk_42 (dk_at dksX6_layGoal_4 2 rfl rfl)
theorem dX6_layGoal_97 : decode cX6_layGoal 97 = .ok (.getfield 107, 3) := dk_180 0 107 (dk_at dksX6_layGoal_4 3 rfl rfl)
theorem dX6_layGoal_100 : decode cX6_layGoal 100 = .ok (.iload_n 3, 1) := dk_29 (dk_at dksX6_layGoal_4 6 rfl rfl)
theorem dX6_layGoal_101 : decode cX6_layGoal 101 = .ok (.iconst 1, 1) := dk_4 (dk_at dksX6_layGoal_4 7 rfl rfl)
theorem dX6_layGoal_102 : decode cX6_layGoal 102 = .ok (.iastore, 1) := dk_79 (dk_at dksX6_layGoal_4 8 rfl rfl)
theorem dX6_layGoal_103 : decode cX6_layGoal 103 = .ok (.aload_n 0, 1) := dk_42 (dk_at dksX6_layGoal_4 9 rfl rfl)
theorem dX6_layGoal_104 : decode cX6_layGoal 104 = .ok (.getfield 110, 3) := dk_180 0 110 (dk_at dksX6_layGoal_4 10 rfl rfl)
theorem dX6_layGoal_107 : decode cX6_layGoal 107 = .ok (.iload_n 3, 1) := dk_29 (dk_at dksX6_layGoal_4 13 rfl rfl)
theorem dX6_layGoal_108 : decode cX6_layGoal 108 = .ok (.iconst 0, 1) := dk_3 (dk_at dksX6_layGoal_4 14 rfl rfl)
theorem dX6_layGoal_109 : decode cX6_layGoal 109 = .ok (.iastore, 1) := dk_79 (dk_at dksX6_layGoal_4 15 rfl rfl)
theorem dX6_layGoal_110 : decode cX6_layGoal 110 = .ok (.aload_n 0, 1) := dk_42 (dk_at dksX6_layGoal_4 16 rfl rfl)
theorem dX6_layGoal_111 : decode cX6_layGoal 111 = .ok (.getfield 28, 3) := dk_180 0 28 (dk_at dksX6_layGoal_4 17 rfl rfl)
theorem dX6_layGoal_114 : decode cX6_layGoal 114 = .ok (.iload 4, 2) := dk_21 4 (dk_at dksX6_layGoal_4 20 rfl rfl)
theorem dX6_layGoal_116 : decode cX6_layGoal 116 = .ok (.iaload, 1) := dk_46 (dk_at dksX6_layGoal_4 22 rfl rfl)
theorem dX6_layGoal_117 : decode cX6_layGoal 117 = .ok (.ifCond .le 48, 3) := dk_158 0 48 (dk_at dksX6_layGoal_5 0 rfl rfl)
theorem dX6_layGoal_120 : decode cX6_layGoal 120 = .ok (.aload_n 0, 1) := dk_42 (dk_at dksX6_layGoal_5 3 rfl rfl)
theorem dX6_layGoal_121 : decode cX6_layGoal 121 = .ok (.getfield 95, 3) := dk_180 0 95 (dk_at dksX6_layGoal_5 4 rfl rfl)
theorem dX6_layGoal_124 : decode cX6_layGoal 124 = .ok (.iload_n 3, 1) := dk_29 (dk_at dksX6_layGoal_5 7 rfl rfl)
theorem dX6_layGoal_125 : decode cX6_layGoal 125 = .ok (.bipush 9, 2) := dk_16 9 (dk_at dksX6_layGoal_5 8 rfl rfl)
theorem dX6_layGoal_127 : decode cX6_layGoal 127 = .ok (.aload_n 0, 1) := dk_42 (dk_at dksX6_layGoal_5 10 rfl rfl)
theorem dX6_layGoal_128 : decode cX6_layGoal 128 = .ok (.getfield 31, 3) := dk_180 0 31 (dk_at dksX6_layGoal_5 11 rfl rfl)
theorem dX6_layGoal_131 : decode cX6_layGoal 131 = .ok (.iconst 2, 1) := dk_5 (dk_at dksX6_layGoal_5 14 rfl rfl)
theorem dX6_layGoal_132 : decode cX6_layGoal 132 = .ok (.iload 4, 2) := dk_21 4 (dk_at dksX6_layGoal_5 15 rfl rfl)
theorem dX6_layGoal_134 : decode cX6_layGoal 134 = .ok (.imul, 1) := dk_104 (dk_at dksX6_layGoal_5 17 rfl rfl)
theorem dX6_layGoal_135 : decode cX6_layGoal 135 = .ok (.iaload, 1) := dk_46 (dk_at dksX6_layGoal_5 18 rfl rfl)
theorem dX6_layGoal_136 : decode cX6_layGoal 136 = .ok (.imul, 1) := dk_104 (dk_at dksX6_layGoal_5 19 rfl rfl)
theorem dX6_layGoal_137 : decode cX6_layGoal 137 = .ok (.aload_n 0, 1) := dk_42 (dk_at dksX6_layGoal_5 20 rfl rfl)
theorem dX6_layGoal_138 : decode cX6_layGoal 138 = .ok (.getfield 86, 3) := dk_180 0 86 (dk_at dksX6_layGoal_5 21 rfl rfl)
theorem dX6_layGoal_141 : decode cX6_layGoal 141 = .ok (.aload_n 0, 1) := dk_42 (dk_at dksX6_layGoal_6 0 rfl rfl)
theorem dX6_layGoal_142 : decode cX6_layGoal 142 = .ok (.getfield 34, 3) := dk_180 0 34 (dk_at dksX6_layGoal_6 1 rfl rfl)
theorem dX6_layGoal_145 : decode cX6_layGoal 145 = .ok (.iconst 2, 1) := dk_5 (dk_at dksX6_layGoal_6 4 rfl rfl)
theorem dX6_layGoal_146 : decode cX6_layGoal 146 = .ok (.iload 4, 2) := dk_21 4 (dk_at dksX6_layGoal_6 5 rfl rfl)
theorem dX6_layGoal_148 : decode cX6_layGoal 148 = .ok (.imul, 1) := dk_104 (dk_at dksX6_layGoal_6 7 rfl rfl)
theorem dX6_layGoal_149 : decode cX6_layGoal 149 = .ok (.iaload, 1) := dk_46 (dk_at dksX6_layGoal_6 8 rfl rfl)
theorem dX6_layGoal_150 : decode cX6_layGoal 150 = .ok (.iaload, 1) := dk_46 (dk_at dksX6_layGoal_6 9 rfl rfl)
theorem dX6_layGoal_151 : decode cX6_layGoal 151 = .ok (.iadd, 1) := dk_96 (dk_at dksX6_layGoal_6 10 rfl rfl)
theorem dX6_layGoal_152 : decode cX6_layGoal 152 = .ok (.iastore, 1) := dk_79 (dk_at dksX6_layGoal_6 11 rfl rfl)
theorem dX6_layGoal_153 : decode cX6_layGoal 153 = .ok (.aload_n 0, 1) := dk_42 (dk_at dksX6_layGoal_6 12 rfl rfl)
theorem dX6_layGoal_154 : decode cX6_layGoal 154 = .ok (.iload_n 3, 1) := dk_29 (dk_at dksX6_layGoal_6 13 rfl rfl)
theorem dX6_layGoal_155 : decode cX6_layGoal 155 = .ok (.aload_n 0, 1) := dk_42 (dk_at dksX6_layGoal_6 14 rfl rfl)
theorem dX6_layGoal_156 : decode cX6_layGoal 156 = .ok (.getfield 95, 3) := dk_180 0 95 (dk_at dksX6_layGoal_6 15 rfl rfl)
theorem dX6_layGoal_159 : decode cX6_layGoal 159 = .ok (.iload_n 3, 1) := dk_29 (dk_at dksX6_layGoal_6 18 rfl rfl)
theorem dX6_layGoal_160 : decode cX6_layGoal 160 = .ok (.iaload, 1) := dk_46 (dk_at dksX6_layGoal_6 19 rfl rfl)
theorem dX6_layGoal_161 : decode cX6_layGoal 161 = .ok (.iconst 2, 1) := dk_5 (dk_at dksX6_layGoal_6 20 rfl rfl)
theorem dX6_layGoal_162 : decode cX6_layGoal 162 = .ok (.invokevirtual 269, 3) := dk_182 1 13 (dk_at dksX6_layGoal_6 21 rfl rfl)
theorem dX6_layGoal_165 : decode cX6_layGoal 165 = .ok (.aload_n 0, 1) := dk_42 (dk_at dksX6_layGoal_7 0 rfl rfl)
theorem dX6_layGoal_166 : decode cX6_layGoal 166 = .ok (.getfield 28, 3) := dk_180 0 28 (dk_at dksX6_layGoal_7 1 rfl rfl)
theorem dX6_layGoal_169 : decode cX6_layGoal 169 = .ok (.iload 4, 2) := dk_21 4 (dk_at dksX6_layGoal_7 4 rfl rfl)
theorem dX6_layGoal_171 : decode cX6_layGoal 171 = .ok (.iaload, 1) := dk_46 (dk_at dksX6_layGoal_7 6 rfl rfl)
theorem dX6_layGoal_172 : decode cX6_layGoal 172 = .ok (.iconst 1, 1) := dk_4 (dk_at dksX6_layGoal_7 7 rfl rfl)
theorem dX6_layGoal_173 : decode cX6_layGoal 173 = .ok (.if_icmp .le 52, 3) := dk_164 0 52 (dk_at dksX6_layGoal_7 8 rfl rfl)
theorem dX6_layGoal_176 : decode cX6_layGoal 176 = .ok (.aload_n 0, 1) := dk_42 (dk_at dksX6_layGoal_7 11 rfl rfl)
theorem dX6_layGoal_177 : decode cX6_layGoal 177 = .ok (.getfield 98, 3) := dk_180 0 98 (dk_at dksX6_layGoal_7 12 rfl rfl)
theorem dX6_layGoal_180 : decode cX6_layGoal 180 = .ok (.iload_n 3, 1) := dk_29 (dk_at dksX6_layGoal_7 15 rfl rfl)
theorem dX6_layGoal_181 : decode cX6_layGoal 181 = .ok (.bipush 9, 2) := dk_16 9 (dk_at dksX6_layGoal_7 16 rfl rfl)
theorem dX6_layGoal_183 : decode cX6_layGoal 183 = .ok (.aload_n 0, 1) := dk_42 (dk_at dksX6_layGoal_7 18 rfl rfl)
theorem dX6_layGoal_184 : decode cX6_layGoal 184 = .ok (.getfield 31, 3) := dk_180 0 31 (dk_at dksX6_layGoal_7 19 rfl rfl)
theorem dX6_layGoal_187 : decode cX6_layGoal 187 = .ok (.iconst 2, 1) := dk_5 (dk_at dksX6_layGoal_7 22 rfl rfl)
theorem dX6_layGoal_188 : decode cX6_layGoal 188 = .ok (.iload 4, 2) := dk_21 4 (dk_at dksX6_layGoal_8 0 rfl rfl)
theorem dX6_layGoal_190 : decode cX6_layGoal 190 = .ok (.imul, 1) := dk_104 (dk_at dksX6_layGoal_8 2 rfl rfl)
theorem dX6_layGoal_191 : decode cX6_layGoal 191 = .ok (.iconst 1, 1) := dk_4 (dk_at dksX6_layGoal_8 3 rfl rfl)
theorem dX6_layGoal_192 : decode cX6_layGoal 192 = .ok (.iadd, 1) := dk_96 (dk_at dksX6_layGoal_8 4 rfl rfl)
theorem dX6_layGoal_193 : decode cX6_layGoal 193 = .ok (.iaload, 1) := dk_46 (dk_at dksX6_layGoal_8 5 rfl rfl)
theorem dX6_layGoal_194 : decode cX6_layGoal 194 = .ok (.imul, 1) := dk_104 (dk_at dksX6_layGoal_8 6 rfl rfl)
theorem dX6_layGoal_195 : decode cX6_layGoal 195 = .ok (.aload_n 0, 1) := dk_42 (dk_at dksX6_layGoal_8 7 rfl rfl)
theorem dX6_layGoal_196 : decode cX6_layGoal 196 = .ok (.getfield 86, 3) := dk_180 0 86 (dk_at dksX6_layGoal_8 8 rfl rfl)
theorem dX6_layGoal_199 : decode cX6_layGoal 199 = .ok (.aload_n 0, 1) := dk_42 (dk_at dksX6_layGoal_8 11 rfl rfl)
theorem dX6_layGoal_200 : decode cX6_layGoal 200 = .ok (.getfield 34, 3) := dk_180 0 34 (dk_at dksX6_layGoal_8 12 rfl rfl)
theorem dX6_layGoal_203 : decode cX6_layGoal 203 = .ok (.iconst 2, 1) := dk_5 (dk_at dksX6_layGoal_8 15 rfl rfl)
theorem dX6_layGoal_204 : decode cX6_layGoal 204 = .ok (.iload 4, 2) := dk_21 4 (dk_at dksX6_layGoal_8 16 rfl rfl)
theorem dX6_layGoal_206 : decode cX6_layGoal 206 = .ok (.imul, 1) := dk_104 (dk_at dksX6_layGoal_8 18 rfl rfl)
theorem dX6_layGoal_207 : decode cX6_layGoal 207 = .ok (.iconst 1, 1) := dk_4 (dk_at dksX6_layGoal_8 19 rfl rfl)
theorem dX6_layGoal_208 : decode cX6_layGoal 208 = .ok (.iadd, 1) := dk_96 (dk_at dksX6_layGoal_8 20 rfl rfl)
theorem dX6_layGoal_209 : decode cX6_layGoal 209 = .ok (.iaload, 1) := dk_46 (dk_at dksX6_layGoal_8 21 rfl rfl)
theorem dX6_layGoal_210 : decode cX6_layGoal 210 = .ok (.iaload, 1) := dk_46 (dk_at dksX6_layGoal_8 22 rfl rfl)
theorem dX6_layGoal_211 : decode cX6_layGoal 211 = .ok (.iadd, 1) := dk_96 (dk_at dksX6_layGoal_8 23 rfl rfl)
theorem dX6_layGoal_212 : decode cX6_layGoal 212 = .ok (.iastore, 1) := dk_79 (dk_at dksX6_layGoal_9 0 rfl rfl)
theorem dX6_layGoal_213 : decode cX6_layGoal 213 = .ok (.aload_n 0, 1) := dk_42 (dk_at dksX6_layGoal_9 1 rfl rfl)
theorem dX6_layGoal_214 : decode cX6_layGoal 214 = .ok (.iload_n 3, 1) := dk_29 (dk_at dksX6_layGoal_9 2 rfl rfl)
theorem dX6_layGoal_215 : decode cX6_layGoal 215 = .ok (.aload_n 0, 1) := dk_42 (dk_at dksX6_layGoal_9 3 rfl rfl)
theorem dX6_layGoal_216 : decode cX6_layGoal 216 = .ok (.getfield 98, 3) := dk_180 0 98 (dk_at dksX6_layGoal_9 4 rfl rfl)
theorem dX6_layGoal_219 : decode cX6_layGoal 219 = .ok (.iload_n 3, 1) := dk_29 (dk_at dksX6_layGoal_9 7 rfl rfl)
theorem dX6_layGoal_220 : decode cX6_layGoal 220 = .ok (.iaload, 1) := dk_46 (dk_at dksX6_layGoal_9 8 rfl rfl)
theorem dX6_layGoal_221 : decode cX6_layGoal 221 = .ok (.iconst 3, 1) := dk_6 (dk_at dksX6_layGoal_9 9 rfl rfl)
theorem dX6_layGoal_222 : decode cX6_layGoal 222 = .ok (.invokevirtual 269, 3) := dk_182 1 13 (dk_at dksX6_layGoal_9 10 rfl rfl)
theorem dX6_layGoal_225 : decode cX6_layGoal 225 = .ok (.aload_n 0, 1) := dk_42 (dk_at dksX6_layGoal_9 13 rfl rfl)
theorem dX6_layGoal_226 : decode cX6_layGoal 226 = .ok (.getfield 104, 3) := dk_180 0 104 (dk_at dksX6_layGoal_9 14 rfl rfl)
theorem dX6_layGoal_229 : decode cX6_layGoal 229 = .ok (.iload_n 3, 1) := dk_29 (dk_at dksX6_layGoal_9 17 rfl rfl)
theorem dX6_layGoal_230 : decode cX6_layGoal 230 = .ok (.dup2, 1) := dk_92 (dk_at dksX6_layGoal_9 18 rfl rfl)
theorem dX6_layGoal_231 : decode cX6_layGoal 231 = .ok (.iaload, 1) := dk_46 (dk_at dksX6_layGoal_9 19 rfl rfl)
theorem dX6_layGoal_232 : decode cX6_layGoal 232 = .ok (.sipush 1009, 3) := dk_17 3 241 (dk_at dksX6_layGoal_9 20 rfl rfl)
theorem dX6_layGoal_235 : decode cX6_layGoal 235 = .ok (.irem, 1) := dk_112 (dk_at dksX6_layGoal_9 23 rfl rfl)
theorem dX6_layGoal_236 : decode cX6_layGoal 236 = .ok (.iastore, 1) := dk_79 (dk_at dksX6_layGoal_10 0 rfl rfl)
theorem dX6_layGoal_237 : decode cX6_layGoal 237 = .ok (.return_, 1) := dk_177 (dk_at dksX6_layGoal_10 1 rfl rfl)
abbrev cX6_takes : ByteArray := prog_13_method_35_code
def yX6_takes : MethodName := ⟨RX6, "takes", "(II)I"⟩
def dkwX6_takes_3 : List UInt8 := [54, 5, 21, 5, 2, 160, 0, 8, 16, 254, 167, 0, 5, 21, 5, 172]
abbrev dktX6_takes_3 : List UInt8 := dkwX6_takes_3 ++ []
def dkwX6_takes_2 : List UInt8 := [154, 0, 18, 42, 29, 21, 5, 182, 1, 4, 54, 4, 132, 5, 1, 167, 255, 233, 42, 21, 4, 182, 1, 7]
abbrev dktX6_takes_2 : List UInt8 := dkwX6_takes_2 ++ dktX6_takes_3
def dkwX6_takes_1 : List UInt8 := [182, 1, 1, 153, 0, 6, 16, 254, 172, 3, 54, 4, 3, 54, 5, 21, 5, 6, 162, 0, 23, 21, 4]
abbrev dktX6_takes_1 : List UInt8 := dkwX6_takes_1 ++ dktX6_takes_2
def dkwX6_takes_0 : List UInt8 := [42, 27, 28, 182, 0, 251, 62, 29, 154, 0, 5, 2, 172, 29, 184, 0, 254, 4, 164, 0, 14, 42, 29]
abbrev dktX6_takes_0 : List UInt8 := dkwX6_takes_0 ++ dktX6_takes_1
theorem dksX6_takes_0 : cX6_takes.data.toList.drop 0 = dktX6_takes_0 := by decide +kernel
theorem dksX6_takes_1 : cX6_takes.data.toList.drop 23 = dktX6_takes_1 := dk_seg dksX6_takes_0 23 rfl rfl
theorem dksX6_takes_2 : cX6_takes.data.toList.drop 46 = dktX6_takes_2 := dk_seg dksX6_takes_1 23 rfl rfl
theorem dksX6_takes_3 : cX6_takes.data.toList.drop 70 = dktX6_takes_3 := dk_seg dksX6_takes_2 24 rfl rfl
theorem dX6_takes_0 : decode cX6_takes 0 = .ok (.aload_n 0, 1) := dk_42 (dk_at dksX6_takes_0 0 rfl rfl)
theorem dX6_takes_1 : decode cX6_takes 1 = .ok (.iload_n 1, 1) := dk_27 (dk_at dksX6_takes_0 1 rfl rfl)
theorem dX6_takes_2 : decode cX6_takes 2 = .ok (.iload_n 2, 1) := dk_28 (dk_at dksX6_takes_0 2 rfl rfl)
theorem dX6_takes_3 : decode cX6_takes 3 = .ok (.invokevirtual 251, 3) := dk_182 0 251 (dk_at dksX6_takes_0 3 rfl rfl)
theorem dX6_takes_6 : decode cX6_takes 6 = .ok (.istore_n 3, 1) := dk_62 (dk_at dksX6_takes_0 6 rfl rfl)
theorem dX6_takes_7 : decode cX6_takes 7 = .ok (.iload_n 3, 1) := dk_29 (dk_at dksX6_takes_0 7 rfl rfl)
theorem dX6_takes_8 : decode cX6_takes 8 = .ok (.ifCond .ne 5, 3) := dk_154 0 5 (dk_at dksX6_takes_0 8 rfl rfl)
theorem dX6_takes_11 : decode cX6_takes 11 = .ok (.iconst (-1), 1) := dk_2 (dk_at dksX6_takes_0 11 rfl rfl)
theorem dX6_takes_12 : decode cX6_takes 12 = .ok (.ireturn, 1) := dk_172 (dk_at dksX6_takes_0 12 rfl rfl)
theorem dX6_takes_13 : decode cX6_takes 13 = .ok (.iload_n 3, 1) := dk_29 (dk_at dksX6_takes_0 13 rfl rfl)
theorem dX6_takes_14 : decode cX6_takes 14 = .ok (.invokestatic 254, 3) := dk_184 0 254 (dk_at dksX6_takes_0 14 rfl rfl)
theorem dX6_takes_17 : decode cX6_takes 17 = .ok (.iconst 1, 1) := dk_4 (dk_at dksX6_takes_0 17 rfl rfl)
theorem dX6_takes_18 : decode cX6_takes 18 = .ok (.if_icmp .le 14, 3) := dk_164 0 14 (dk_at dksX6_takes_0 18 rfl rfl)
theorem dX6_takes_21 : decode cX6_takes 21 = .ok (.aload_n 0, 1) := dk_42 (dk_at dksX6_takes_0 21 rfl rfl)
theorem dX6_takes_22 : decode cX6_takes 22 = .ok (.iload_n 3, 1) := dk_29 (dk_at dksX6_takes_0 22 rfl rfl)
theorem dX6_takes_23 : decode cX6_takes 23 = .ok (.invokevirtual 257, 3) := dk_182 1 1 (dk_at dksX6_takes_1 0 rfl rfl)
theorem dX6_takes_26 : decode cX6_takes 26 = .ok (.ifCond .eq 6, 3) := dk_153 0 6 (dk_at dksX6_takes_1 3 rfl rfl)
theorem dX6_takes_29 : decode cX6_takes 29 = .ok (.bipush (-2), 2) := dk_16 254 (dk_at dksX6_takes_1 6 rfl rfl)
theorem dX6_takes_31 : decode cX6_takes 31 = .ok (.ireturn, 1) := dk_172 (dk_at dksX6_takes_1 8 rfl rfl)
theorem dX6_takes_32 : decode cX6_takes 32 = .ok (.iconst 0, 1) := dk_3 (dk_at dksX6_takes_1 9 rfl rfl)
theorem dX6_takes_33 : decode cX6_takes 33 = .ok (.istore 4, 2) := dk_54 4 (dk_at dksX6_takes_1 10 rfl rfl)
theorem dX6_takes_35 : decode cX6_takes 35 = .ok (.iconst 0, 1) := dk_3 (dk_at dksX6_takes_1 12 rfl rfl)
theorem dX6_takes_36 : decode cX6_takes 36 = .ok (.istore 5, 2) := dk_54 5 (dk_at dksX6_takes_1 13 rfl rfl)
theorem dX6_takes_38 : decode cX6_takes 38 = .ok (.iload 5, 2) := dk_21 5 (dk_at dksX6_takes_1 15 rfl rfl)
theorem dX6_takes_40 : decode cX6_takes 40 = .ok (.iconst 3, 1) := dk_6 (dk_at dksX6_takes_1 17 rfl rfl)
theorem dX6_takes_41 : decode cX6_takes 41 = .ok (.if_icmp .ge 23, 3) := dk_162 0 23 (dk_at dksX6_takes_1 18 rfl rfl)
theorem dX6_takes_44 : decode cX6_takes 44 = .ok (.iload 4, 2) := dk_21 4 (dk_at dksX6_takes_1 21 rfl rfl)
theorem dX6_takes_46 : decode cX6_takes 46 = .ok (.ifCond .ne 18, 3) := dk_154 0 18 (dk_at dksX6_takes_2 0 rfl rfl)
theorem dX6_takes_49 : decode cX6_takes 49 = .ok (.aload_n 0, 1) := dk_42 (dk_at dksX6_takes_2 3 rfl rfl)
theorem dX6_takes_50 : decode cX6_takes 50 = .ok (.iload_n 3, 1) := dk_29 (dk_at dksX6_takes_2 4 rfl rfl)
theorem dX6_takes_51 : decode cX6_takes 51 = .ok (.iload 5, 2) := dk_21 5 (dk_at dksX6_takes_2 5 rfl rfl)
theorem dX6_takes_53 : decode cX6_takes 53 = .ok (.invokevirtual 260, 3) := dk_182 1 4 (dk_at dksX6_takes_2 7 rfl rfl)
theorem dX6_takes_56 : decode cX6_takes 56 = .ok (.istore 4, 2) := dk_54 4 (dk_at dksX6_takes_2 10 rfl rfl)
theorem dX6_takes_58 : decode cX6_takes 58 = .ok (.iinc 5 1, 3) := dk_132 5 1 (dk_at dksX6_takes_2 12 rfl rfl)
theorem dX6_takes_61 : decode cX6_takes 61 = .ok (.goto (-23), 3) := dk_167 255 233 (dk_at dksX6_takes_2 15 rfl rfl)
theorem dX6_takes_64 : decode cX6_takes 64 = .ok (.aload_n 0, 1) := dk_42 (dk_at dksX6_takes_2 18 rfl rfl)
theorem dX6_takes_65 : decode cX6_takes 65 = .ok (.iload 4, 2) := dk_21 4 (dk_at dksX6_takes_2 19 rfl rfl)
theorem dX6_takes_67 : decode cX6_takes 67 = .ok (.invokevirtual 263, 3) := dk_182 1 7 (dk_at dksX6_takes_2 21 rfl rfl)
theorem dX6_takes_70 : decode cX6_takes 70 = .ok (.istore 5, 2) := dk_54 5 (dk_at dksX6_takes_3 0 rfl rfl)
theorem dX6_takes_72 : decode cX6_takes 72 = .ok (.iload 5, 2) := dk_21 5 (dk_at dksX6_takes_3 2 rfl rfl)
theorem dX6_takes_74 : decode cX6_takes 74 = .ok (.iconst (-1), 1) := dk_2 (dk_at dksX6_takes_3 4 rfl rfl)
theorem dX6_takes_75 : decode cX6_takes 75 = .ok (.if_icmp .ne 8, 3) := dk_160 0 8 (dk_at dksX6_takes_3 5 rfl rfl)
theorem dX6_takes_78 : decode cX6_takes 78 = .ok (.bipush (-2), 2) := dk_16 254 (dk_at dksX6_takes_3 8 rfl rfl)
theorem dX6_takes_80 : decode cX6_takes 80 = .ok (.goto 5, 3) := dk_167 0 5 (dk_at dksX6_takes_3 10 rfl rfl)
theorem dX6_takes_83 : decode cX6_takes 83 = .ok (.iload 5, 2) := dk_21 5 (dk_at dksX6_takes_3 13 rfl rfl)
theorem dX6_takes_85 : decode cX6_takes 85 = .ok (.ireturn, 1) := dk_172 (dk_at dksX6_takes_3 15 rfl rfl)
abbrev cX6_meantFor : ByteArray := prog_13_method_31_code
def yX6_meantFor : MethodName := ⟨RX6, "meantFor", "(II)I"⟩
def dkwX6_meantFor_3 : List UInt8 := [21, 4, 120, 167, 0, 4, 3, 128, 62, 132, 4, 1, 167, 255, 180, 29, 172]
abbrev dktX6_meantFor_3 : List UInt8 := dkwX6_meantFor_3 ++ []
def dkwX6_meantFor_2 : List UInt8 := [21, 4, 28, 182, 0, 245, 153, 0, 7, 4, 167, 0, 4, 3, 54, 5, 29, 21, 5, 153, 0, 10, 4]
abbrev dktX6_meantFor_2 : List UInt8 := dkwX6_meantFor_2 ++ dktX6_meantFor_3
def dkwX6_meantFor_1 : List UInt8 := [160, 0, 37, 42, 180, 0, 16, 21, 4, 46, 5, 159, 0, 26, 42, 21, 4, 182, 0, 248, 153, 0, 17, 42]
abbrev dktX6_meantFor_1 : List UInt8 := dkwX6_meantFor_1 ++ dktX6_meantFor_2
def dkwX6_meantFor_0 : List UInt8 := [3, 62, 3, 54, 4, 21, 4, 42, 180, 0, 217, 162, 0, 73, 42, 180, 0, 19, 21, 4, 46, 27]
abbrev dktX6_meantFor_0 : List UInt8 := dkwX6_meantFor_0 ++ dktX6_meantFor_1
theorem dksX6_meantFor_0 : cX6_meantFor.data.toList.drop 0 = dktX6_meantFor_0 := by decide +kernel
theorem dksX6_meantFor_1 : cX6_meantFor.data.toList.drop 22 = dktX6_meantFor_1 := dk_seg dksX6_meantFor_0 22 rfl rfl
theorem dksX6_meantFor_2 : cX6_meantFor.data.toList.drop 46 = dktX6_meantFor_2 := dk_seg dksX6_meantFor_1 24 rfl rfl
theorem dksX6_meantFor_3 : cX6_meantFor.data.toList.drop 69 = dktX6_meantFor_3 := dk_seg dksX6_meantFor_2 23 rfl rfl
theorem dX6_meantFor_0 : decode cX6_meantFor 0 = .ok (.iconst 0, 1) := dk_3 (dk_at dksX6_meantFor_0 0 rfl rfl)
theorem dX6_meantFor_1 : decode cX6_meantFor 1 = .ok (.istore_n 3, 1) := dk_62 (dk_at dksX6_meantFor_0 1 rfl rfl)
theorem dX6_meantFor_2 : decode cX6_meantFor 2 = .ok (.iconst 0, 1) := dk_3 (dk_at dksX6_meantFor_0 2 rfl rfl)
theorem dX6_meantFor_3 : decode cX6_meantFor 3 = .ok (.istore 4, 2) := dk_54 4 (dk_at dksX6_meantFor_0 3 rfl rfl)
theorem dX6_meantFor_5 : decode cX6_meantFor 5 = .ok (.iload 4, 2) := dk_21 4 (dk_at dksX6_meantFor_0 5 rfl rfl)
theorem dX6_meantFor_7 : decode cX6_meantFor 7 = .ok (.aload_n 0, 1) := dk_42 (dk_at dksX6_meantFor_0 7 rfl rfl)
theorem dX6_meantFor_8 : decode cX6_meantFor 8 = .ok (.getfield 217, 3) := dk_180 0 217 (dk_at dksX6_meantFor_0 8 rfl rfl)
theorem dX6_meantFor_11 : decode cX6_meantFor 11 = .ok (.if_icmp .ge 73, 3) := dk_162 0 73 (dk_at dksX6_meantFor_0 11 rfl rfl)
theorem dX6_meantFor_14 : decode cX6_meantFor 14 = .ok (.aload_n 0, 1) := dk_42 (dk_at dksX6_meantFor_0 14 rfl rfl)
theorem dX6_meantFor_15 : decode cX6_meantFor 15 = .ok (.getfield 19, 3) := dk_180 0 19 (dk_at dksX6_meantFor_0 15 rfl rfl)
theorem dX6_meantFor_18 : decode cX6_meantFor 18 = .ok (.iload 4, 2) := dk_21 4 (dk_at dksX6_meantFor_0 18 rfl rfl)
theorem dX6_meantFor_20 : decode cX6_meantFor 20 = .ok (.iaload, 1) := dk_46 (dk_at dksX6_meantFor_0 20 rfl rfl)
theorem dX6_meantFor_21 : decode cX6_meantFor 21 = .ok (.iload_n 1, 1) := dk_27 (dk_at dksX6_meantFor_0 21 rfl rfl)
theorem dX6_meantFor_22 : decode cX6_meantFor 22 = .ok (.if_icmp .ne 37, 3) := dk_160 0 37 (dk_at dksX6_meantFor_1 0 rfl rfl)
theorem dX6_meantFor_25 : decode cX6_meantFor 25 = .ok (.aload_n 0, 1) := dk_42 (dk_at dksX6_meantFor_1 3 rfl rfl)
theorem dX6_meantFor_26 : decode cX6_meantFor 26 = .ok (.getfield 16, 3) := dk_180 0 16 (dk_at dksX6_meantFor_1 4 rfl rfl)
theorem dX6_meantFor_29 : decode cX6_meantFor 29 = .ok (.iload 4, 2) := dk_21 4 (dk_at dksX6_meantFor_1 7 rfl rfl)
theorem dX6_meantFor_31 : decode cX6_meantFor 31 = .ok (.iaload, 1) := dk_46 (dk_at dksX6_meantFor_1 9 rfl rfl)
theorem dX6_meantFor_32 : decode cX6_meantFor 32 = .ok (.iconst 2, 1) := dk_5 (dk_at dksX6_meantFor_1 10 rfl rfl)
theorem dX6_meantFor_33 : decode cX6_meantFor 33 = .ok (.if_icmp .eq 26, 3) := dk_159 0 26 (dk_at dksX6_meantFor_1 11 rfl rfl)
theorem dX6_meantFor_36 : decode cX6_meantFor 36 = .ok (.aload_n 0, 1) := dk_42 (dk_at dksX6_meantFor_1 14 rfl rfl)
theorem dX6_meantFor_37 : decode cX6_meantFor 37 = .ok (.iload 4, 2) := dk_21 4 (dk_at dksX6_meantFor_1 15 rfl rfl)
theorem dX6_meantFor_39 : decode cX6_meantFor 39 = .ok (.invokevirtual 248, 3) := dk_182 0 248 (dk_at dksX6_meantFor_1 17 rfl rfl)
theorem dX6_meantFor_42 : decode cX6_meantFor 42 = .ok (.ifCond .eq 17, 3) := dk_153 0 17 (dk_at dksX6_meantFor_1 20 rfl rfl)
theorem dX6_meantFor_45 : decode cX6_meantFor 45 = .ok (.aload_n 0, 1) := dk_42 (dk_at dksX6_meantFor_1 23 rfl rfl)
theorem dX6_meantFor_46 : decode cX6_meantFor 46 = .ok (.iload 4, 2) := dk_21 4 (dk_at dksX6_meantFor_2 0 rfl rfl)
theorem dX6_meantFor_48 : decode cX6_meantFor 48 = .ok (.iload_n 2, 1) := dk_28 (dk_at dksX6_meantFor_2 2 rfl rfl)
theorem dX6_meantFor_49 : decode cX6_meantFor 49 = .ok (.invokevirtual 245, 3) := dk_182 0 245 (dk_at dksX6_meantFor_2 3 rfl rfl)
theorem dX6_meantFor_52 : decode cX6_meantFor 52 = .ok (.ifCond .eq 7, 3) := dk_153 0 7 (dk_at dksX6_meantFor_2 6 rfl rfl)
theorem dX6_meantFor_55 : decode cX6_meantFor 55 = .ok (.iconst 1, 1) := dk_4 (dk_at dksX6_meantFor_2 9 rfl rfl)
theorem dX6_meantFor_56 : decode cX6_meantFor 56 = .ok (.goto 4, 3) := dk_167 0 4 (dk_at dksX6_meantFor_2 10 rfl rfl)
theorem dX6_meantFor_59 : decode cX6_meantFor 59 = .ok (.iconst 0, 1) := dk_3 (dk_at dksX6_meantFor_2 13 rfl rfl)
theorem dX6_meantFor_60 : decode cX6_meantFor 60 = .ok (.istore 5, 2) := dk_54 5 (dk_at dksX6_meantFor_2 14 rfl rfl)
theorem dX6_meantFor_62 : decode cX6_meantFor 62 = .ok (.iload_n 3, 1) := dk_29 (dk_at dksX6_meantFor_2 16 rfl rfl)
theorem dX6_meantFor_63 : decode cX6_meantFor 63 = .ok (.iload 5, 2) := dk_21 5 (dk_at dksX6_meantFor_2 17 rfl rfl)
theorem dX6_meantFor_65 : decode cX6_meantFor 65 = .ok (.ifCond .eq 10, 3) := dk_153 0 10 (dk_at dksX6_meantFor_2 19 rfl rfl)
theorem dX6_meantFor_68 : decode cX6_meantFor 68 = .ok (.iconst 1, 1) := dk_4 (dk_at dksX6_meantFor_2 22 rfl rfl)
theorem dX6_meantFor_69 : decode cX6_meantFor 69 = .ok (.iload 4, 2) := dk_21 4 (dk_at dksX6_meantFor_3 0 rfl rfl)
theorem dX6_meantFor_71 : decode cX6_meantFor 71 = .ok (.ishl, 1) := dk_120 (dk_at dksX6_meantFor_3 2 rfl rfl)
theorem dX6_meantFor_72 : decode cX6_meantFor 72 = .ok (.goto 4, 3) := dk_167 0 4 (dk_at dksX6_meantFor_3 3 rfl rfl)
theorem dX6_meantFor_75 : decode cX6_meantFor 75 = .ok (.iconst 0, 1) := dk_3 (dk_at dksX6_meantFor_3 6 rfl rfl)
theorem dX6_meantFor_76 : decode cX6_meantFor 76 = .ok (.ior, 1) := dk_128 (dk_at dksX6_meantFor_3 7 rfl rfl)
theorem dX6_meantFor_77 : decode cX6_meantFor 77 = .ok (.istore_n 3, 1) := dk_62 (dk_at dksX6_meantFor_3 8 rfl rfl)
theorem dX6_meantFor_78 : decode cX6_meantFor 78 = .ok (.iinc 4 1, 3) := dk_132 4 1 (dk_at dksX6_meantFor_3 9 rfl rfl)
theorem dX6_meantFor_81 : decode cX6_meantFor 81 = .ok (.goto (-76), 3) := dk_167 255 180 (dk_at dksX6_meantFor_3 12 rfl rfl)
theorem dX6_meantFor_84 : decode cX6_meantFor 84 = .ok (.iload_n 3, 1) := dk_29 (dk_at dksX6_meantFor_3 15 rfl rfl)
theorem dX6_meantFor_85 : decode cX6_meantFor 85 = .ok (.ireturn, 1) := dk_172 (dk_at dksX6_meantFor_3 16 rfl rfl)
abbrev cX6_isOneSole : ByteArray := prog_13_method_33_code
def yX6_isOneSole : MethodName := ⟨RX6, "isOneSole", "(I)Z"⟩
def dkwX6_isOneSole_1 : List UInt8 := [42, 180, 0, 16, 29, 46, 7, 160, 0, 7, 4, 167, 0, 4, 3, 61, 132, 3, 1, 167, 255, 217, 28, 172]
abbrev dktX6_isOneSole_1 : List UInt8 := dkwX6_isOneSole_1 ++ []
def dkwX6_isOneSole_0 : List UInt8 := [3, 61, 3, 62, 29, 42, 180, 0, 217, 162, 0, 37, 28, 154, 0, 21, 27, 29, 184, 0, 214, 153, 0, 17]
abbrev dktX6_isOneSole_0 : List UInt8 := dkwX6_isOneSole_0 ++ dktX6_isOneSole_1
theorem dksX6_isOneSole_0 : cX6_isOneSole.data.toList.drop 0 = dktX6_isOneSole_0 := by decide +kernel
theorem dksX6_isOneSole_1 : cX6_isOneSole.data.toList.drop 24 = dktX6_isOneSole_1 := dk_seg dksX6_isOneSole_0 24 rfl rfl
theorem dX6_isOneSole_0 : decode cX6_isOneSole 0 = .ok (.iconst 0, 1) := dk_3 (dk_at dksX6_isOneSole_0 0 rfl rfl)
theorem dX6_isOneSole_1 : decode cX6_isOneSole 1 = .ok (.istore_n 2, 1) := dk_61 (dk_at dksX6_isOneSole_0 1 rfl rfl)
theorem dX6_isOneSole_2 : decode cX6_isOneSole 2 = .ok (.iconst 0, 1) := dk_3 (dk_at dksX6_isOneSole_0 2 rfl rfl)
theorem dX6_isOneSole_3 : decode cX6_isOneSole 3 = .ok (.istore_n 3, 1) := dk_62 (dk_at dksX6_isOneSole_0 3 rfl rfl)
theorem dX6_isOneSole_4 : decode cX6_isOneSole 4 = .ok (.iload_n 3, 1) := dk_29 (dk_at dksX6_isOneSole_0 4 rfl rfl)
theorem dX6_isOneSole_5 : decode cX6_isOneSole 5 = .ok (.aload_n 0, 1) := dk_42 (dk_at dksX6_isOneSole_0 5 rfl rfl)
theorem dX6_isOneSole_6 : decode cX6_isOneSole 6 = .ok (.getfield 217, 3) := dk_180 0 217 (dk_at dksX6_isOneSole_0 6 rfl rfl)
theorem dX6_isOneSole_9 : decode cX6_isOneSole 9 = .ok (.if_icmp .ge 37, 3) := dk_162 0 37 (dk_at dksX6_isOneSole_0 9 rfl rfl)
theorem dX6_isOneSole_12 : decode cX6_isOneSole 12 = .ok (.iload_n 2, 1) := dk_28 (dk_at dksX6_isOneSole_0 12 rfl rfl)
theorem dX6_isOneSole_13 : decode cX6_isOneSole 13 = .ok (.ifCond .ne 21, 3) := dk_154 0 21 (dk_at dksX6_isOneSole_0 13 rfl rfl)
theorem dX6_isOneSole_16 : decode cX6_isOneSole 16 = .ok (.iload_n 1, 1) := dk_27 (dk_at dksX6_isOneSole_0 16 rfl rfl)
theorem dX6_isOneSole_17 : decode cX6_isOneSole 17 = .ok (.iload_n 3, 1) := dk_29 (dk_at dksX6_isOneSole_0 17 rfl rfl)
theorem dX6_isOneSole_18 : decode cX6_isOneSole 18 = .ok (.invokestatic 214, 3) := dk_184 0 214 (dk_at dksX6_isOneSole_0 18 rfl rfl)
theorem dX6_isOneSole_21 : decode cX6_isOneSole 21 = .ok (.ifCond .eq 17, 3) := dk_153 0 17 (dk_at dksX6_isOneSole_0 21 rfl rfl)
theorem dX6_isOneSole_24 : decode cX6_isOneSole 24 = .ok (.aload_n 0, 1) := dk_42 (dk_at dksX6_isOneSole_1 0 rfl rfl)
theorem dX6_isOneSole_25 : decode cX6_isOneSole 25 = .ok (.getfield 16, 3) := dk_180 0 16 (dk_at dksX6_isOneSole_1 1 rfl rfl)
theorem dX6_isOneSole_28 : decode cX6_isOneSole 28 = .ok (.iload_n 3, 1) := dk_29 (dk_at dksX6_isOneSole_1 4 rfl rfl)
theorem dX6_isOneSole_29 : decode cX6_isOneSole 29 = .ok (.iaload, 1) := dk_46 (dk_at dksX6_isOneSole_1 5 rfl rfl)
theorem dX6_isOneSole_30 : decode cX6_isOneSole 30 = .ok (.iconst 4, 1) := dk_7 (dk_at dksX6_isOneSole_1 6 rfl rfl)
theorem dX6_isOneSole_31 : decode cX6_isOneSole 31 = .ok (.if_icmp .ne 7, 3) := dk_160 0 7 (dk_at dksX6_isOneSole_1 7 rfl rfl)
theorem dX6_isOneSole_34 : decode cX6_isOneSole 34 = .ok (.iconst 1, 1) := dk_4 (dk_at dksX6_isOneSole_1 10 rfl rfl)
theorem dX6_isOneSole_35 : decode cX6_isOneSole 35 = .ok (.goto 4, 3) := dk_167 0 4 (dk_at dksX6_isOneSole_1 11 rfl rfl)
theorem dX6_isOneSole_38 : decode cX6_isOneSole 38 = .ok (.iconst 0, 1) := dk_3 (dk_at dksX6_isOneSole_1 14 rfl rfl)
theorem dX6_isOneSole_39 : decode cX6_isOneSole 39 = .ok (.istore_n 2, 1) := dk_61 (dk_at dksX6_isOneSole_1 15 rfl rfl)
theorem dX6_isOneSole_40 : decode cX6_isOneSole 40 = .ok (.iinc 3 1, 3) := dk_132 3 1 (dk_at dksX6_isOneSole_1 16 rfl rfl)
theorem dX6_isOneSole_43 : decode cX6_isOneSole 43 = .ok (.goto (-39), 3) := dk_167 255 217 (dk_at dksX6_isOneSole_1 19 rfl rfl)
theorem dX6_isOneSole_46 : decode cX6_isOneSole 46 = .ok (.iload_n 2, 1) := dk_28 (dk_at dksX6_isOneSole_1 22 rfl rfl)
theorem dX6_isOneSole_47 : decode cX6_isOneSole 47 = .ok (.ireturn, 1) := dk_172 (dk_at dksX6_isOneSole_1 23 rfl rfl)
abbrev cX6_ofRank : ByteArray := prog_13_method_32_code
def yX6_ofRank : MethodName := ⟨RX6, "ofRank", "(II)I"⟩
def dkwX6_ofRank_3 : List UInt8 := [28, 160, 0, 10, 4, 21, 4, 120, 167, 0, 4, 3, 128, 62, 132, 4, 1, 167, 255, 174, 29, 172]
abbrev dktX6_ofRank_3 : List UInt8 := dkwX6_ofRank_3 ++ []
def dkwX6_ofRank_2 : List UInt8 := [46, 4, 160, 0, 7, 5, 167, 0, 4, 4, 54, 5, 29, 27, 21, 4, 184, 0, 214, 153, 0, 16, 21, 5]
abbrev dktX6_ofRank_2 : List UInt8 := dkwX6_ofRank_2 ++ dktX6_ofRank_3
def dkwX6_ofRank_1 : List UInt8 := [159, 0, 14, 42, 180, 0, 16, 21, 4, 46, 7, 160, 0, 7, 3, 167, 0, 19, 42, 180, 0, 16, 21, 4]
abbrev dktX6_ofRank_1 : List UInt8 := dkwX6_ofRank_1 ++ dktX6_ofRank_2
def dkwX6_ofRank_0 : List UInt8 := [3, 62, 3, 54, 4, 21, 4, 42, 180, 0, 217, 162, 0, 79, 42, 180, 0, 16, 21, 4, 46, 6]
abbrev dktX6_ofRank_0 : List UInt8 := dkwX6_ofRank_0 ++ dktX6_ofRank_1
theorem dksX6_ofRank_0 : cX6_ofRank.data.toList.drop 0 = dktX6_ofRank_0 := by decide +kernel
theorem dksX6_ofRank_1 : cX6_ofRank.data.toList.drop 22 = dktX6_ofRank_1 := dk_seg dksX6_ofRank_0 22 rfl rfl
theorem dksX6_ofRank_2 : cX6_ofRank.data.toList.drop 46 = dktX6_ofRank_2 := dk_seg dksX6_ofRank_1 24 rfl rfl
theorem dksX6_ofRank_3 : cX6_ofRank.data.toList.drop 70 = dktX6_ofRank_3 := dk_seg dksX6_ofRank_2 24 rfl rfl
theorem dX6_ofRank_0 : decode cX6_ofRank 0 = .ok (.iconst 0, 1) := dk_3 (dk_at dksX6_ofRank_0 0 rfl rfl)
theorem dX6_ofRank_1 : decode cX6_ofRank 1 = .ok (.istore_n 3, 1) := dk_62 (dk_at dksX6_ofRank_0 1 rfl rfl)
theorem dX6_ofRank_2 : decode cX6_ofRank 2 = .ok (.iconst 0, 1) := dk_3 (dk_at dksX6_ofRank_0 2 rfl rfl)
theorem dX6_ofRank_3 : decode cX6_ofRank 3 = .ok (.istore 4, 2) := dk_54 4 (dk_at dksX6_ofRank_0 3 rfl rfl)
theorem dX6_ofRank_5 : decode cX6_ofRank 5 = .ok (.iload 4, 2) := dk_21 4 (dk_at dksX6_ofRank_0 5 rfl rfl)
theorem dX6_ofRank_7 : decode cX6_ofRank 7 = .ok (.aload_n 0, 1) := dk_42 (dk_at dksX6_ofRank_0 7 rfl rfl)
theorem dX6_ofRank_8 : decode cX6_ofRank 8 = .ok (.getfield 217, 3) := dk_180 0 217 (dk_at dksX6_ofRank_0 8 rfl rfl)
theorem dX6_ofRank_11 : decode cX6_ofRank 11 = .ok (.if_icmp .ge 79, 3) := dk_162 0 79 (dk_at dksX6_ofRank_0 11 rfl rfl)
theorem dX6_ofRank_14 : decode cX6_ofRank 14 = .ok (.aload_n 0, 1) := dk_42 (dk_at dksX6_ofRank_0 14 rfl rfl)
theorem dX6_ofRank_15 : decode cX6_ofRank 15 = .ok (.getfield 16, 3) := dk_180 0 16 (dk_at dksX6_ofRank_0 15 rfl rfl)
theorem dX6_ofRank_18 : decode cX6_ofRank 18 = .ok (.iload 4, 2) := dk_21 4 (dk_at dksX6_ofRank_0 18 rfl rfl)
theorem dX6_ofRank_20 : decode cX6_ofRank 20 = .ok (.iaload, 1) := dk_46 (dk_at dksX6_ofRank_0 20 rfl rfl)
theorem dX6_ofRank_21 : decode cX6_ofRank 21 = .ok (.iconst 3, 1) := dk_6 (dk_at dksX6_ofRank_0 21 rfl rfl)
theorem dX6_ofRank_22 : decode cX6_ofRank 22 = .ok (.if_icmp .eq 14, 3) := dk_159 0 14 (dk_at dksX6_ofRank_1 0 rfl rfl)
theorem dX6_ofRank_25 : decode cX6_ofRank 25 = .ok (.aload_n 0, 1) := dk_42 (dk_at dksX6_ofRank_1 3 rfl rfl)
theorem dX6_ofRank_26 : decode cX6_ofRank 26 = .ok (.getfield 16, 3) := dk_180 0 16 (dk_at dksX6_ofRank_1 4 rfl rfl)
theorem dX6_ofRank_29 : decode cX6_ofRank 29 = .ok (.iload 4, 2) := dk_21 4 (dk_at dksX6_ofRank_1 7 rfl rfl)
theorem dX6_ofRank_31 : decode cX6_ofRank 31 = .ok (.iaload, 1) := dk_46 (dk_at dksX6_ofRank_1 9 rfl rfl)
theorem dX6_ofRank_32 : decode cX6_ofRank 32 = .ok (.iconst 4, 1) := dk_7 (dk_at dksX6_ofRank_1 10 rfl rfl)
theorem dX6_ofRank_33 : decode cX6_ofRank 33 = .ok (.if_icmp .ne 7, 3) := dk_160 0 7 (dk_at dksX6_ofRank_1 11 rfl rfl)
theorem dX6_ofRank_36 : decode cX6_ofRank 36 = .ok (.iconst 0, 1) := dk_3 (dk_at dksX6_ofRank_1 14 rfl rfl)
theorem dX6_ofRank_37 : decode cX6_ofRank 37 = .ok (.goto 19, 3) := dk_167 0 19 (dk_at dksX6_ofRank_1 15 rfl rfl)
theorem dX6_ofRank_40 : decode cX6_ofRank 40 = .ok (.aload_n 0, 1) := dk_42 (dk_at dksX6_ofRank_1 18 rfl rfl)
theorem dX6_ofRank_41 : decode cX6_ofRank 41 = .ok (.getfield 16, 3) := dk_180 0 16 (dk_at dksX6_ofRank_1 19 rfl rfl)
theorem dX6_ofRank_44 : decode cX6_ofRank 44 = .ok (.iload 4, 2) := dk_21 4 (dk_at dksX6_ofRank_1 22 rfl rfl)
theorem dX6_ofRank_46 : decode cX6_ofRank 46 = .ok (.iaload, 1) := dk_46 (dk_at dksX6_ofRank_2 0 rfl rfl)
theorem dX6_ofRank_47 : decode cX6_ofRank 47 = .ok (.iconst 1, 1) := dk_4 (dk_at dksX6_ofRank_2 1 rfl rfl)
theorem dX6_ofRank_48 : decode cX6_ofRank 48 = .ok (.if_icmp .ne 7, 3) := dk_160 0 7 (dk_at dksX6_ofRank_2 2 rfl rfl)
theorem dX6_ofRank_51 : decode cX6_ofRank 51 = .ok (.iconst 2, 1) := dk_5 (dk_at dksX6_ofRank_2 5 rfl rfl)
theorem dX6_ofRank_52 : decode cX6_ofRank 52 = .ok (.goto 4, 3) := dk_167 0 4 (dk_at dksX6_ofRank_2 6 rfl rfl)
theorem dX6_ofRank_55 : decode cX6_ofRank 55 = .ok (.iconst 1, 1) := dk_4 (dk_at dksX6_ofRank_2 9 rfl rfl)
theorem dX6_ofRank_56 : decode cX6_ofRank 56 = .ok (.istore 5, 2) := dk_54 5 (dk_at dksX6_ofRank_2 10 rfl rfl)
theorem dX6_ofRank_58 : decode cX6_ofRank 58 = .ok (.iload_n 3, 1) := dk_29 (dk_at dksX6_ofRank_2 12 rfl rfl)
theorem dX6_ofRank_59 : decode cX6_ofRank 59 = .ok (.iload_n 1, 1) := dk_27 (dk_at dksX6_ofRank_2 13 rfl rfl)
theorem dX6_ofRank_60 : decode cX6_ofRank 60 = .ok (.iload 4, 2) := dk_21 4 (dk_at dksX6_ofRank_2 14 rfl rfl)
theorem dX6_ofRank_62 : decode cX6_ofRank 62 = .ok (.invokestatic 214, 3) := dk_184 0 214 (dk_at dksX6_ofRank_2 16 rfl rfl)
theorem dX6_ofRank_65 : decode cX6_ofRank 65 = .ok (.ifCond .eq 16, 3) := dk_153 0 16 (dk_at dksX6_ofRank_2 19 rfl rfl)
theorem dX6_ofRank_68 : decode cX6_ofRank 68 = .ok (.iload 5, 2) := dk_21 5 (dk_at dksX6_ofRank_2 22 rfl rfl)
theorem dX6_ofRank_70 : decode cX6_ofRank 70 = .ok (.iload_n 2, 1) := dk_28 (dk_at dksX6_ofRank_3 0 rfl rfl)
theorem dX6_ofRank_71 : decode cX6_ofRank 71 = .ok (.if_icmp .ne 10, 3) := dk_160 0 10 (dk_at dksX6_ofRank_3 1 rfl rfl)
theorem dX6_ofRank_74 : decode cX6_ofRank 74 = .ok (.iconst 1, 1) := dk_4 (dk_at dksX6_ofRank_3 4 rfl rfl)
theorem dX6_ofRank_75 : decode cX6_ofRank 75 = .ok (.iload 4, 2) := dk_21 4 (dk_at dksX6_ofRank_3 5 rfl rfl)
theorem dX6_ofRank_77 : decode cX6_ofRank 77 = .ok (.ishl, 1) := dk_120 (dk_at dksX6_ofRank_3 7 rfl rfl)
theorem dX6_ofRank_78 : decode cX6_ofRank 78 = .ok (.goto 4, 3) := dk_167 0 4 (dk_at dksX6_ofRank_3 8 rfl rfl)
theorem dX6_ofRank_81 : decode cX6_ofRank 81 = .ok (.iconst 0, 1) := dk_3 (dk_at dksX6_ofRank_3 11 rfl rfl)
theorem dX6_ofRank_82 : decode cX6_ofRank 82 = .ok (.ior, 1) := dk_128 (dk_at dksX6_ofRank_3 12 rfl rfl)
theorem dX6_ofRank_83 : decode cX6_ofRank 83 = .ok (.istore_n 3, 1) := dk_62 (dk_at dksX6_ofRank_3 13 rfl rfl)
theorem dX6_ofRank_84 : decode cX6_ofRank 84 = .ok (.iinc 4 1, 3) := dk_132 4 1 (dk_at dksX6_ofRank_3 14 rfl rfl)
theorem dX6_ofRank_87 : decode cX6_ofRank 87 = .ok (.goto (-82), 3) := dk_167 255 174 (dk_at dksX6_ofRank_3 17 rfl rfl)
theorem dX6_ofRank_90 : decode cX6_ofRank 90 = .ok (.iload_n 3, 1) := dk_29 (dk_at dksX6_ofRank_3 20 rfl rfl)
theorem dX6_ofRank_91 : decode cX6_ofRank 91 = .ok (.ireturn, 1) := dk_172 (dk_at dksX6_ofRank_3 21 rfl rfl)
abbrev cX6_mostSpecial : ByteArray := prog_13_method_34_code
def yX6_mostSpecial : MethodName := ⟨RX6, "mostSpecial", "(I)I"⟩
def dkwX6_mostSpecial_4 : List UInt8 := [167, 255, 166, 28, 172]
abbrev dktX6_mostSpecial_4 : List UInt8 := dkwX6_mostSpecial_4 ++ []
def dkwX6_mostSpecial_3 : List UInt8 := [54, 4, 132, 5, 1, 167, 255, 201, 21, 4, 153, 0, 7, 29, 167, 0, 4, 28, 61, 132, 3, 1]
abbrev dktX6_mostSpecial_3 : List UInt8 := dkwX6_mostSpecial_3 ++ dktX6_mostSpecial_4
def dkwX6_mostSpecial_2 : List UInt8 := [153, 0, 19, 42, 180, 0, 37, 16, 6, 29, 104, 21, 5, 96, 46, 4, 160, 0, 7, 4, 167, 0, 4, 3]
abbrev dktX6_mostSpecial_2 : List UInt8 := dkwX6_mostSpecial_2 ++ dktX6_mostSpecial_3
def dkwX6_mostSpecial_1 : List UInt8 := [42, 180, 0, 217, 162, 0, 52, 21, 4, 153, 0, 38, 21, 5, 29, 159, 0, 28, 27, 21, 5, 184, 0, 214]
abbrev dktX6_mostSpecial_1 : List UInt8 := dkwX6_mostSpecial_1 ++ dktX6_mostSpecial_2
def dkwX6_mostSpecial_0 : List UInt8 := [2, 61, 3, 62, 29, 42, 180, 0, 217, 162, 0, 88, 27, 29, 184, 0, 214, 54, 4, 3, 54, 5, 21, 5]
abbrev dktX6_mostSpecial_0 : List UInt8 := dkwX6_mostSpecial_0 ++ dktX6_mostSpecial_1
theorem dksX6_mostSpecial_0 : cX6_mostSpecial.data.toList.drop 0 = dktX6_mostSpecial_0 := by decide +kernel
theorem dksX6_mostSpecial_1 : cX6_mostSpecial.data.toList.drop 24 = dktX6_mostSpecial_1 := dk_seg dksX6_mostSpecial_0 24 rfl rfl
theorem dksX6_mostSpecial_2 : cX6_mostSpecial.data.toList.drop 48 = dktX6_mostSpecial_2 := dk_seg dksX6_mostSpecial_1 24 rfl rfl
theorem dksX6_mostSpecial_3 : cX6_mostSpecial.data.toList.drop 72 = dktX6_mostSpecial_3 := dk_seg dksX6_mostSpecial_2 24 rfl rfl
theorem dksX6_mostSpecial_4 : cX6_mostSpecial.data.toList.drop 94 = dktX6_mostSpecial_4 := dk_seg dksX6_mostSpecial_3 22 rfl rfl
theorem dX6_mostSpecial_0 : decode cX6_mostSpecial 0 = .ok (.iconst (-1), 1) := dk_2 (dk_at dksX6_mostSpecial_0 0 rfl rfl)
theorem dX6_mostSpecial_1 : decode cX6_mostSpecial 1 = .ok (.istore_n 2, 1) := dk_61 (dk_at dksX6_mostSpecial_0 1 rfl rfl)
theorem dX6_mostSpecial_2 : decode cX6_mostSpecial 2 = .ok (.iconst 0, 1) := dk_3 (dk_at dksX6_mostSpecial_0 2 rfl rfl)
theorem dX6_mostSpecial_3 : decode cX6_mostSpecial 3 = .ok (.istore_n 3, 1) := dk_62 (dk_at dksX6_mostSpecial_0 3 rfl rfl)
theorem dX6_mostSpecial_4 : decode cX6_mostSpecial 4 = .ok (.iload_n 3, 1) := dk_29 (dk_at dksX6_mostSpecial_0 4 rfl rfl)
theorem dX6_mostSpecial_5 : decode cX6_mostSpecial 5 = .ok (.aload_n 0, 1) := dk_42 (dk_at dksX6_mostSpecial_0 5 rfl rfl)
theorem dX6_mostSpecial_6 : decode cX6_mostSpecial 6 = .ok (.getfield 217, 3) := dk_180 0 217 (dk_at dksX6_mostSpecial_0 6 rfl rfl)
theorem dX6_mostSpecial_9 : decode cX6_mostSpecial 9 = .ok (.if_icmp .ge 88, 3) := dk_162 0 88 (dk_at dksX6_mostSpecial_0 9 rfl rfl)
theorem dX6_mostSpecial_12 : decode cX6_mostSpecial 12 = .ok (.iload_n 1, 1) := dk_27 (dk_at dksX6_mostSpecial_0 12 rfl rfl)
theorem dX6_mostSpecial_13 : decode cX6_mostSpecial 13 = .ok (.iload_n 3, 1) := dk_29 (dk_at dksX6_mostSpecial_0 13 rfl rfl)
theorem dX6_mostSpecial_14 : decode cX6_mostSpecial 14 = .ok (.invokestatic 214, 3) := dk_184 0 214 (dk_at dksX6_mostSpecial_0 14 rfl rfl)
theorem dX6_mostSpecial_17 : decode cX6_mostSpecial 17 = .ok (.istore 4, 2) := dk_54 4 (dk_at dksX6_mostSpecial_0 17 rfl rfl)
theorem dX6_mostSpecial_19 : decode cX6_mostSpecial 19 = .ok (.iconst 0, 1) := dk_3 (dk_at dksX6_mostSpecial_0 19 rfl rfl)
theorem dX6_mostSpecial_20 : decode cX6_mostSpecial 20 = .ok (.istore 5, 2) := dk_54 5 (dk_at dksX6_mostSpecial_0 20 rfl rfl)
theorem dX6_mostSpecial_22 : decode cX6_mostSpecial 22 = .ok (.iload 5, 2) := dk_21 5 (dk_at dksX6_mostSpecial_0 22 rfl rfl)
theorem dX6_mostSpecial_24 : decode cX6_mostSpecial 24 = .ok (.aload_n 0, 1) := dk_42 (dk_at dksX6_mostSpecial_1 0 rfl rfl)
theorem dX6_mostSpecial_25 : decode cX6_mostSpecial 25 = .ok (.getfield 217, 3) := dk_180 0 217 (dk_at dksX6_mostSpecial_1 1 rfl rfl)
theorem dX6_mostSpecial_28 : decode cX6_mostSpecial 28 = .ok (.if_icmp .ge 52, 3) := dk_162 0 52 (dk_at dksX6_mostSpecial_1 4 rfl rfl)
theorem dX6_mostSpecial_31 : decode cX6_mostSpecial 31 = .ok (.iload 4, 2) := dk_21 4 (dk_at dksX6_mostSpecial_1 7 rfl rfl)
theorem dX6_mostSpecial_33 : decode cX6_mostSpecial 33 = .ok (.ifCond .eq 38, 3) := dk_153 0 38 (dk_at dksX6_mostSpecial_1 9 rfl rfl)
theorem dX6_mostSpecial_36 : decode cX6_mostSpecial 36 = .ok (.iload 5, 2) := dk_21 5 (dk_at dksX6_mostSpecial_1 12 rfl rfl)
theorem dX6_mostSpecial_38 : decode cX6_mostSpecial 38 = .ok (.iload_n 3, 1) := dk_29 (dk_at dksX6_mostSpecial_1 14 rfl rfl)
theorem dX6_mostSpecial_39 : decode cX6_mostSpecial 39 = .ok (.if_icmp .eq 28, 3) := dk_159 0 28 (dk_at dksX6_mostSpecial_1 15 rfl rfl)
theorem dX6_mostSpecial_42 : decode cX6_mostSpecial 42 = .ok (.iload_n 1, 1) := dk_27 (dk_at dksX6_mostSpecial_1 18 rfl rfl)
theorem dX6_mostSpecial_43 : decode cX6_mostSpecial 43 = .ok (.iload 5, 2) := dk_21 5 (dk_at dksX6_mostSpecial_1 19 rfl rfl)
theorem dX6_mostSpecial_45 : decode cX6_mostSpecial 45 = .ok (.invokestatic 214, 3) := dk_184 0 214 (dk_at dksX6_mostSpecial_1 21 rfl rfl)
theorem dX6_mostSpecial_48 : decode cX6_mostSpecial 48 = .ok (.ifCond .eq 19, 3) := dk_153 0 19 (dk_at dksX6_mostSpecial_2 0 rfl rfl)
theorem dX6_mostSpecial_51 : decode cX6_mostSpecial 51 = .ok (.aload_n 0, 1) := dk_42 (dk_at dksX6_mostSpecial_2 3 rfl rfl)
theorem dX6_mostSpecial_52 : decode cX6_mostSpecial 52 = .ok (.getfield 37, 3) := dk_180 0 37 (dk_at dksX6_mostSpecial_2 4 rfl rfl)
theorem dX6_mostSpecial_55 : decode cX6_mostSpecial 55 = .ok (.bipush 6, 2) := dk_16 6 (dk_at dksX6_mostSpecial_2 7 rfl rfl)
theorem dX6_mostSpecial_57 : decode cX6_mostSpecial 57 = .ok (.iload_n 3, 1) := dk_29 (dk_at dksX6_mostSpecial_2 9 rfl rfl)
theorem dX6_mostSpecial_58 : decode cX6_mostSpecial 58 = .ok (.imul, 1) := dk_104 (dk_at dksX6_mostSpecial_2 10 rfl rfl)
theorem dX6_mostSpecial_59 : decode cX6_mostSpecial 59 = .ok (.iload 5, 2) := dk_21 5 (dk_at dksX6_mostSpecial_2 11 rfl rfl)
theorem dX6_mostSpecial_61 : decode cX6_mostSpecial 61 = .ok (.iadd, 1) := dk_96 (dk_at dksX6_mostSpecial_2 13 rfl rfl)
theorem dX6_mostSpecial_62 : decode cX6_mostSpecial 62 = .ok (.iaload, 1) := dk_46 (dk_at dksX6_mostSpecial_2 14 rfl rfl)
theorem dX6_mostSpecial_63 : decode cX6_mostSpecial 63 = .ok (.iconst 1, 1) := dk_4 (dk_at dksX6_mostSpecial_2 15 rfl rfl)
theorem dX6_mostSpecial_64 : decode cX6_mostSpecial 64 = .ok (.if_icmp .ne 7, 3) := dk_160 0 7 (dk_at dksX6_mostSpecial_2 16 rfl rfl)
theorem dX6_mostSpecial_67 : decode cX6_mostSpecial 67 = .ok (.iconst 1, 1) := dk_4 (dk_at dksX6_mostSpecial_2 19 rfl rfl)
theorem dX6_mostSpecial_68 : decode cX6_mostSpecial 68 = .ok (.goto 4, 3) := dk_167 0 4 (dk_at dksX6_mostSpecial_2 20 rfl rfl)
theorem dX6_mostSpecial_71 : decode cX6_mostSpecial 71 = .ok (.iconst 0, 1) := dk_3 (dk_at dksX6_mostSpecial_2 23 rfl rfl)
theorem dX6_mostSpecial_72 : decode cX6_mostSpecial 72 = .ok (.istore 4, 2) := dk_54 4 (dk_at dksX6_mostSpecial_3 0 rfl rfl)
theorem dX6_mostSpecial_74 : decode cX6_mostSpecial 74 = .ok (.iinc 5 1, 3) := dk_132 5 1 (dk_at dksX6_mostSpecial_3 2 rfl rfl)
theorem dX6_mostSpecial_77 : decode cX6_mostSpecial 77 = .ok (.goto (-55), 3) := dk_167 255 201 (dk_at dksX6_mostSpecial_3 5 rfl rfl)
theorem dX6_mostSpecial_80 : decode cX6_mostSpecial 80 = .ok (.iload 4, 2) := dk_21 4 (dk_at dksX6_mostSpecial_3 8 rfl rfl)
theorem dX6_mostSpecial_82 : decode cX6_mostSpecial 82 = .ok (.ifCond .eq 7, 3) := dk_153 0 7 (dk_at dksX6_mostSpecial_3 10 rfl rfl)
theorem dX6_mostSpecial_85 : decode cX6_mostSpecial 85 = .ok (.iload_n 3, 1) := dk_29 (dk_at dksX6_mostSpecial_3 13 rfl rfl)
theorem dX6_mostSpecial_86 : decode cX6_mostSpecial 86 = .ok (.goto 4, 3) := dk_167 0 4 (dk_at dksX6_mostSpecial_3 14 rfl rfl)
theorem dX6_mostSpecial_89 : decode cX6_mostSpecial 89 = .ok (.iload_n 2, 1) := dk_28 (dk_at dksX6_mostSpecial_3 17 rfl rfl)
theorem dX6_mostSpecial_90 : decode cX6_mostSpecial 90 = .ok (.istore_n 2, 1) := dk_61 (dk_at dksX6_mostSpecial_3 18 rfl rfl)
theorem dX6_mostSpecial_91 : decode cX6_mostSpecial 91 = .ok (.iinc 3 1, 3) := dk_132 3 1 (dk_at dksX6_mostSpecial_3 19 rfl rfl)
theorem dX6_mostSpecial_94 : decode cX6_mostSpecial 94 = .ok (.goto (-90), 3) := dk_167 255 166 (dk_at dksX6_mostSpecial_4 0 rfl rfl)
theorem dX6_mostSpecial_97 : decode cX6_mostSpecial 97 = .ok (.iload_n 2, 1) := dk_28 (dk_at dksX6_mostSpecial_4 3 rfl rfl)
theorem dX6_mostSpecial_98 : decode cX6_mostSpecial 98 = .ok (.ireturn, 1) := dk_172 (dk_at dksX6_mostSpecial_4 4 rfl rfl)
abbrev cX6_addBelow : ByteArray := prog_13_method_37_code
def yX6_addBelow : MethodName := ⟨RX6, "addBelow", "(III)V"⟩
def dkwX6_addBelow_5 : List UInt8 := [46, 42, 180, 0, 110, 28, 46, 128, 79, 177]
abbrev dktX6_addBelow_5 : List UInt8 := dkwX6_addBelow_5 ++ []
def dkwX6_addBelow_4 : List UInt8 := [42, 180, 0, 107, 28, 46, 4, 96, 167, 0, 9, 42, 180, 0, 107, 27, 46, 79, 42, 180, 0, 110, 27, 92]
abbrev dktX6_addBelow_4 : List UInt8 := dkwX6_addBelow_4 ++ dktX6_addBelow_5
def dkwX6_addBelow_3 : List UInt8 := [96, 79, 42, 180, 0, 107, 27, 42, 180, 0, 107, 28, 46, 4, 96, 42, 180, 0, 107, 27, 46, 164, 0, 14]
abbrev dktX6_addBelow_3 : List UInt8 := dkwX6_addBelow_3 ++ dktX6_addBelow_4
def dkwX6_addBelow_2 : List UInt8 := [46, 42, 180, 0, 101, 28, 46, 96, 79, 42, 180, 0, 104, 27, 92, 46, 29, 42, 180, 0, 104, 28, 46, 104]
abbrev dktX6_addBelow_2 : List UInt8 := dkwX6_addBelow_2 ++ dktX6_addBelow_3
def dkwX6_addBelow_1 : List UInt8 := [27, 42, 180, 0, 89, 28, 46, 79, 42, 180, 0, 89, 27, 46, 4, 160, 0, 90, 42, 180, 0, 101, 27, 92]
abbrev dktX6_addBelow_1 : List UInt8 := dkwX6_addBelow_1 ++ dktX6_addBelow_2
def dkwX6_addBelow_0 : List UInt8 := [42, 180, 0, 89, 27, 46, 4, 160, 0, 25, 42, 180, 0, 89, 28, 46, 4, 159, 0, 15, 42, 180, 0, 89]
abbrev dktX6_addBelow_0 : List UInt8 := dkwX6_addBelow_0 ++ dktX6_addBelow_1
theorem dksX6_addBelow_0 : cX6_addBelow.data.toList.drop 0 = dktX6_addBelow_0 := by decide +kernel
theorem dksX6_addBelow_1 : cX6_addBelow.data.toList.drop 24 = dktX6_addBelow_1 := dk_seg dksX6_addBelow_0 24 rfl rfl
theorem dksX6_addBelow_2 : cX6_addBelow.data.toList.drop 48 = dktX6_addBelow_2 := dk_seg dksX6_addBelow_1 24 rfl rfl
theorem dksX6_addBelow_3 : cX6_addBelow.data.toList.drop 72 = dktX6_addBelow_3 := dk_seg dksX6_addBelow_2 24 rfl rfl
theorem dksX6_addBelow_4 : cX6_addBelow.data.toList.drop 96 = dktX6_addBelow_4 := dk_seg dksX6_addBelow_3 24 rfl rfl
theorem dksX6_addBelow_5 : cX6_addBelow.data.toList.drop 120 = dktX6_addBelow_5 := dk_seg dksX6_addBelow_4 24 rfl rfl
theorem dX6_addBelow_0 : decode cX6_addBelow 0 = .ok (.aload_n 0, 1) := dk_42 (dk_at dksX6_addBelow_0 0 rfl rfl)
theorem dX6_addBelow_1 : decode cX6_addBelow 1 = .ok (.getfield 89, 3) := dk_180 0 89 (dk_at dksX6_addBelow_0 1 rfl rfl)
theorem dX6_addBelow_4 : decode cX6_addBelow 4 = .ok (.iload_n 1, 1) := dk_27 (dk_at dksX6_addBelow_0 4 rfl rfl)
theorem dX6_addBelow_5 : decode cX6_addBelow 5 = .ok (.iaload, 1) := dk_46 (dk_at dksX6_addBelow_0 5 rfl rfl)
theorem dX6_addBelow_6 : decode cX6_addBelow 6 = .ok (.iconst 1, 1) := dk_4 (dk_at dksX6_addBelow_0 6 rfl rfl)
theorem dX6_addBelow_7 : decode cX6_addBelow 7 = .ok (.if_icmp .ne 25, 3) := dk_160 0 25 (dk_at dksX6_addBelow_0 7 rfl rfl)
theorem dX6_addBelow_10 : decode cX6_addBelow 10 = .ok (.aload_n 0, 1) := dk_42 (dk_at dksX6_addBelow_0 10 rfl rfl)
theorem dX6_addBelow_11 : decode cX6_addBelow 11 = .ok (.getfield 89, 3) := dk_180 0 89 (dk_at dksX6_addBelow_0 11 rfl rfl)
theorem dX6_addBelow_14 : decode cX6_addBelow 14 = .ok (.iload_n 2, 1) := dk_28 (dk_at dksX6_addBelow_0 14 rfl rfl)
theorem dX6_addBelow_15 : decode cX6_addBelow 15 = .ok (.iaload, 1) := dk_46 (dk_at dksX6_addBelow_0 15 rfl rfl)
theorem dX6_addBelow_16 : decode cX6_addBelow 16 = .ok (.iconst 1, 1) := dk_4 (dk_at dksX6_addBelow_0 16 rfl rfl)
theorem dX6_addBelow_17 : decode cX6_addBelow 17 = .ok (.if_icmp .eq 15, 3) := dk_159 0 15 (dk_at dksX6_addBelow_0 17 rfl rfl)
theorem dX6_addBelow_20 : decode cX6_addBelow 20 = .ok (.aload_n 0, 1) := dk_42 (dk_at dksX6_addBelow_0 20 rfl rfl)
theorem dX6_addBelow_21 : decode cX6_addBelow 21 = .ok (.getfield 89, 3) := dk_180 0 89 (dk_at dksX6_addBelow_0 21 rfl rfl)
theorem dX6_addBelow_24 : decode cX6_addBelow 24 = .ok (.iload_n 1, 1) := dk_27 (dk_at dksX6_addBelow_1 0 rfl rfl)
theorem dX6_addBelow_25 : decode cX6_addBelow 25 = .ok (.aload_n 0, 1) := dk_42 (dk_at dksX6_addBelow_1 1 rfl rfl)
theorem dX6_addBelow_26 : decode cX6_addBelow 26 = .ok (.getfield 89, 3) := dk_180 0 89 (dk_at dksX6_addBelow_1 2 rfl rfl)
theorem dX6_addBelow_29 : decode cX6_addBelow 29 = .ok (.iload_n 2, 1) := dk_28 (dk_at dksX6_addBelow_1 5 rfl rfl)
theorem dX6_addBelow_30 : decode cX6_addBelow 30 = .ok (.iaload, 1) := dk_46 (dk_at dksX6_addBelow_1 6 rfl rfl)
theorem dX6_addBelow_31 : decode cX6_addBelow 31 = .ok (.iastore, 1) := dk_79 (dk_at dksX6_addBelow_1 7 rfl rfl)
theorem dX6_addBelow_32 : decode cX6_addBelow 32 = .ok (.aload_n 0, 1) := dk_42 (dk_at dksX6_addBelow_1 8 rfl rfl)
theorem dX6_addBelow_33 : decode cX6_addBelow 33 = .ok (.getfield 89, 3) := dk_180 0 89 (dk_at dksX6_addBelow_1 9 rfl rfl)
theorem dX6_addBelow_36 : decode cX6_addBelow 36 = .ok (.iload_n 1, 1) := dk_27 (dk_at dksX6_addBelow_1 12 rfl rfl)
theorem dX6_addBelow_37 : decode cX6_addBelow 37 = .ok (.iaload, 1) := dk_46 (dk_at dksX6_addBelow_1 13 rfl rfl)
theorem dX6_addBelow_38 : decode cX6_addBelow 38 = .ok (.iconst 1, 1) := dk_4 (dk_at dksX6_addBelow_1 14 rfl rfl)
theorem dX6_addBelow_39 : decode cX6_addBelow 39 = .ok (.if_icmp .ne 90, 3) := dk_160 0 90 (dk_at dksX6_addBelow_1 15 rfl rfl)
theorem dX6_addBelow_42 : decode cX6_addBelow 42 = .ok (.aload_n 0, 1) := dk_42 (dk_at dksX6_addBelow_1 18 rfl rfl)
theorem dX6_addBelow_43 : decode cX6_addBelow 43 = .ok (.getfield 101, 3) := dk_180 0 101 (dk_at dksX6_addBelow_1 19 rfl rfl)
theorem dX6_addBelow_46 : decode cX6_addBelow 46 = .ok (.iload_n 1, 1) := dk_27 (dk_at dksX6_addBelow_1 22 rfl rfl)
theorem dX6_addBelow_47 : decode cX6_addBelow 47 = .ok (.dup2, 1) := dk_92 (dk_at dksX6_addBelow_1 23 rfl rfl)
theorem dX6_addBelow_48 : decode cX6_addBelow 48 = .ok (.iaload, 1) := dk_46 (dk_at dksX6_addBelow_2 0 rfl rfl)
theorem dX6_addBelow_49 : decode cX6_addBelow 49 = .ok (.aload_n 0, 1) := dk_42 (dk_at dksX6_addBelow_2 1 rfl rfl)
theorem dX6_addBelow_50 : decode cX6_addBelow 50 = .ok (.getfield 101, 3) := dk_180 0 101 (dk_at dksX6_addBelow_2 2 rfl rfl)
theorem dX6_addBelow_53 : decode cX6_addBelow 53 = .ok (.iload_n 2, 1) := dk_28 (dk_at dksX6_addBelow_2 5 rfl rfl)
theorem dX6_addBelow_54 : decode cX6_addBelow 54 = .ok (.iaload, 1) := dk_46 (dk_at dksX6_addBelow_2 6 rfl rfl)
theorem dX6_addBelow_55 : decode cX6_addBelow 55 = .ok (.iadd, 1) := dk_96 (dk_at dksX6_addBelow_2 7 rfl rfl)
theorem dX6_addBelow_56 : decode cX6_addBelow 56 = .ok (.iastore, 1) := dk_79 (dk_at dksX6_addBelow_2 8 rfl rfl)
theorem dX6_addBelow_57 : decode cX6_addBelow 57 = .ok (.aload_n 0, 1) := dk_42 (dk_at dksX6_addBelow_2 9 rfl rfl)
theorem dX6_addBelow_58 : decode cX6_addBelow 58 = .ok (.getfield 104, 3) := dk_180 0 104 (dk_at dksX6_addBelow_2 10 rfl rfl)
theorem dX6_addBelow_61 : decode cX6_addBelow 61 = .ok (.iload_n 1, 1) := dk_27 (dk_at dksX6_addBelow_2 13 rfl rfl)
theorem dX6_addBelow_62 : decode cX6_addBelow 62 = .ok (.dup2, 1) := dk_92 (dk_at dksX6_addBelow_2 14 rfl rfl)
theorem dX6_addBelow_63 : decode cX6_addBelow 63 = .ok (.iaload, 1) := dk_46 (dk_at dksX6_addBelow_2 15 rfl rfl)
theorem dX6_addBelow_64 : decode cX6_addBelow 64 = .ok (.iload_n 3, 1) := dk_29 (dk_at dksX6_addBelow_2 16 rfl rfl)
theorem dX6_addBelow_65 : decode cX6_addBelow 65 = .ok (.aload_n 0, 1) := dk_42 (dk_at dksX6_addBelow_2 17 rfl rfl)
theorem dX6_addBelow_66 : decode cX6_addBelow 66 = .ok (.getfield 104, 3) := dk_180 0 104 (dk_at dksX6_addBelow_2 18 rfl rfl)
theorem dX6_addBelow_69 : decode cX6_addBelow 69 = .ok (.iload_n 2, 1) := dk_28 (dk_at dksX6_addBelow_2 21 rfl rfl)
theorem dX6_addBelow_70 : decode cX6_addBelow 70 = .ok (.iaload, 1) := dk_46 (dk_at dksX6_addBelow_2 22 rfl rfl)
theorem dX6_addBelow_71 : decode cX6_addBelow 71 = .ok (.imul, 1) := dk_104 (dk_at dksX6_addBelow_2 23 rfl rfl)
theorem dX6_addBelow_72 : decode cX6_addBelow 72 = .ok (.iadd, 1) := dk_96 (dk_at dksX6_addBelow_3 0 rfl rfl)
theorem dX6_addBelow_73 : decode cX6_addBelow 73 = .ok (.iastore, 1) := dk_79 (dk_at dksX6_addBelow_3 1 rfl rfl)
theorem dX6_addBelow_74 : decode cX6_addBelow 74 = .ok (.aload_n 0, 1) := dk_42 (dk_at dksX6_addBelow_3 2 rfl rfl)
theorem dX6_addBelow_75 : decode cX6_addBelow 75 = .ok (.getfield 107, 3) := dk_180 0 107 (dk_at dksX6_addBelow_3 3 rfl rfl)
theorem dX6_addBelow_78 : decode cX6_addBelow 78 = .ok (.iload_n 1, 1) := dk_27 (dk_at dksX6_addBelow_3 6 rfl rfl)
theorem dX6_addBelow_79 : decode cX6_addBelow 79 = .ok (.aload_n 0, 1) := dk_42 (dk_at dksX6_addBelow_3 7 rfl rfl)
theorem dX6_addBelow_80 : decode cX6_addBelow 80 = .ok (.getfield 107, 3) := dk_180 0 107 (dk_at dksX6_addBelow_3 8 rfl rfl)
theorem dX6_addBelow_83 : decode cX6_addBelow 83 = .ok (.iload_n 2, 1) := dk_28 (dk_at dksX6_addBelow_3 11 rfl rfl)
theorem dX6_addBelow_84 : decode cX6_addBelow 84 = .ok (.iaload, 1) := dk_46 (dk_at dksX6_addBelow_3 12 rfl rfl)
theorem dX6_addBelow_85 : decode cX6_addBelow 85 = .ok (.iconst 1, 1) := dk_4 (dk_at dksX6_addBelow_3 13 rfl rfl)
theorem dX6_addBelow_86 : decode cX6_addBelow 86 = .ok (.iadd, 1) := dk_96 (dk_at dksX6_addBelow_3 14 rfl rfl)
theorem dX6_addBelow_87 : decode cX6_addBelow 87 = .ok (.aload_n 0, 1) := dk_42 (dk_at dksX6_addBelow_3 15 rfl rfl)
theorem dX6_addBelow_88 : decode cX6_addBelow 88 = .ok (.getfield 107, 3) := dk_180 0 107 (dk_at dksX6_addBelow_3 16 rfl rfl)
theorem dX6_addBelow_91 : decode cX6_addBelow 91 = .ok (.iload_n 1, 1) := dk_27 (dk_at dksX6_addBelow_3 19 rfl rfl)
theorem dX6_addBelow_92 : decode cX6_addBelow 92 = .ok (.iaload, 1) := dk_46 (dk_at dksX6_addBelow_3 20 rfl rfl)
theorem dX6_addBelow_93 : decode cX6_addBelow 93 = .ok (.if_icmp .le 14, 3) := dk_164 0 14 (dk_at dksX6_addBelow_3 21 rfl rfl)
theorem dX6_addBelow_96 : decode cX6_addBelow 96 = .ok (.aload_n 0, 1) := dk_42 (dk_at dksX6_addBelow_4 0 rfl rfl)
theorem dX6_addBelow_97 : decode cX6_addBelow 97 = .ok (.getfield 107, 3) := dk_180 0 107 (dk_at dksX6_addBelow_4 1 rfl rfl)
theorem dX6_addBelow_100 : decode cX6_addBelow 100 = .ok (.iload_n 2, 1) := dk_28 (dk_at dksX6_addBelow_4 4 rfl rfl)
theorem dX6_addBelow_101 : decode cX6_addBelow 101 = .ok (.iaload, 1) := dk_46 (dk_at dksX6_addBelow_4 5 rfl rfl)
theorem dX6_addBelow_102 : decode cX6_addBelow 102 = .ok (.iconst 1, 1) := dk_4 (dk_at dksX6_addBelow_4 6 rfl rfl)
theorem dX6_addBelow_103 : decode cX6_addBelow 103 = .ok (.iadd, 1) := dk_96 (dk_at dksX6_addBelow_4 7 rfl rfl)
theorem dX6_addBelow_104 : decode cX6_addBelow 104 = .ok (.goto 9, 3) := dk_167 0 9 (dk_at dksX6_addBelow_4 8 rfl rfl)
theorem dX6_addBelow_107 : decode cX6_addBelow 107 = .ok (.aload_n 0, 1) := dk_42 (dk_at dksX6_addBelow_4 11 rfl rfl)
theorem dX6_addBelow_108 : decode cX6_addBelow 108 = .ok (.getfield 107, 3) := dk_180 0 107 (dk_at dksX6_addBelow_4 12 rfl rfl)
theorem dX6_addBelow_111 : decode cX6_addBelow 111 = .ok (.iload_n 1, 1) := dk_27 (dk_at dksX6_addBelow_4 15 rfl rfl)
theorem dX6_addBelow_112 : decode cX6_addBelow 112 = .ok (.iaload, 1) := dk_46 (dk_at dksX6_addBelow_4 16 rfl rfl)
theorem dX6_addBelow_113 : decode cX6_addBelow 113 = .ok (.iastore, 1) := dk_79 (dk_at dksX6_addBelow_4 17 rfl rfl)
theorem dX6_addBelow_114 : decode cX6_addBelow 114 = .ok (.aload_n 0, 1) := dk_42 (dk_at dksX6_addBelow_4 18 rfl rfl)
theorem dX6_addBelow_115 : decode cX6_addBelow 115 = .ok (.getfield 110, 3) := dk_180 0 110 (dk_at dksX6_addBelow_4 19 rfl rfl)
theorem dX6_addBelow_118 : decode cX6_addBelow 118 = .ok (.iload_n 1, 1) := dk_27 (dk_at dksX6_addBelow_4 22 rfl rfl)
theorem dX6_addBelow_119 : decode cX6_addBelow 119 = .ok (.dup2, 1) := dk_92 (dk_at dksX6_addBelow_4 23 rfl rfl)
theorem dX6_addBelow_120 : decode cX6_addBelow 120 = .ok (.iaload, 1) := dk_46 (dk_at dksX6_addBelow_5 0 rfl rfl)
theorem dX6_addBelow_121 : decode cX6_addBelow 121 = .ok (.aload_n 0, 1) := dk_42 (dk_at dksX6_addBelow_5 1 rfl rfl)
theorem dX6_addBelow_122 : decode cX6_addBelow 122 = .ok (.getfield 110, 3) := dk_180 0 110 (dk_at dksX6_addBelow_5 2 rfl rfl)
theorem dX6_addBelow_125 : decode cX6_addBelow 125 = .ok (.iload_n 2, 1) := dk_28 (dk_at dksX6_addBelow_5 5 rfl rfl)
theorem dX6_addBelow_126 : decode cX6_addBelow 126 = .ok (.iaload, 1) := dk_46 (dk_at dksX6_addBelow_5 6 rfl rfl)
theorem dX6_addBelow_127 : decode cX6_addBelow 127 = .ok (.ior, 1) := dk_128 (dk_at dksX6_addBelow_5 7 rfl rfl)
theorem dX6_addBelow_128 : decode cX6_addBelow 128 = .ok (.iastore, 1) := dk_79 (dk_at dksX6_addBelow_5 8 rfl rfl)
theorem dX6_addBelow_129 : decode cX6_addBelow 129 = .ok (.return_, 1) := dk_177 (dk_at dksX6_addBelow_5 9 rfl rfl)
abbrev cX6_isGiven : ByteArray := prog_13_method_52_code
def yX6_isGiven : MethodName := ⟨RX6, "isGiven", "(II)Z"⟩
def dkwX6_isGiven_4 : List UInt8 := [167, 255, 166, 29, 172]
abbrev dktX6_isGiven_4 : List UInt8 := dkwX6_isGiven_4 ++ []
def dkwX6_isGiven_3 : List UInt8 := [21, 4, 96, 46, 28, 5, 112, 160, 0, 12, 21, 6, 153, 0, 7, 4, 167, 0, 4, 3, 62, 132, 4, 1]
abbrev dktX6_isGiven_3 : List UInt8 := dkwX6_isGiven_3 ++ dktX6_isGiven_4
def dkwX6_isGiven_2 : List UInt8 := [184, 0, 214, 153, 0, 7, 4, 167, 0, 4, 3, 54, 6, 29, 154, 0, 25, 42, 180, 0, 34, 5, 27, 104]
abbrev dktX6_isGiven_2 : List UInt8 := dkwX6_isGiven_2 ++ dktX6_isGiven_3
def dkwX6_isGiven_1 : List UInt8 := [21, 4, 96, 46, 54, 5, 21, 5, 28, 5, 108, 159, 0, 19, 42, 180, 0, 13, 21, 5, 46, 28, 5, 108]
abbrev dktX6_isGiven_1 : List UInt8 := dkwX6_isGiven_1 ++ dktX6_isGiven_2
def dkwX6_isGiven_0 : List UInt8 := [3, 62, 3, 54, 4, 21, 4, 42, 180, 0, 28, 27, 46, 162, 0, 85, 42, 180, 0, 31, 5, 27, 104]
abbrev dktX6_isGiven_0 : List UInt8 := dkwX6_isGiven_0 ++ dktX6_isGiven_1
theorem dksX6_isGiven_0 : cX6_isGiven.data.toList.drop 0 = dktX6_isGiven_0 := by decide +kernel
theorem dksX6_isGiven_1 : cX6_isGiven.data.toList.drop 23 = dktX6_isGiven_1 := dk_seg dksX6_isGiven_0 23 rfl rfl
theorem dksX6_isGiven_2 : cX6_isGiven.data.toList.drop 47 = dktX6_isGiven_2 := dk_seg dksX6_isGiven_1 24 rfl rfl
theorem dksX6_isGiven_3 : cX6_isGiven.data.toList.drop 71 = dktX6_isGiven_3 := dk_seg dksX6_isGiven_2 24 rfl rfl
theorem dksX6_isGiven_4 : cX6_isGiven.data.toList.drop 95 = dktX6_isGiven_4 := dk_seg dksX6_isGiven_3 24 rfl rfl
theorem dX6_isGiven_0 : decode cX6_isGiven 0 = .ok (.iconst 0, 1) := dk_3 (dk_at dksX6_isGiven_0 0 rfl rfl)
theorem dX6_isGiven_1 : decode cX6_isGiven 1 = .ok (.istore_n 3, 1) := dk_62 (dk_at dksX6_isGiven_0 1 rfl rfl)
theorem dX6_isGiven_2 : decode cX6_isGiven 2 = .ok (.iconst 0, 1) := dk_3 (dk_at dksX6_isGiven_0 2 rfl rfl)
theorem dX6_isGiven_3 : decode cX6_isGiven 3 = .ok (.istore 4, 2) := dk_54 4 (dk_at dksX6_isGiven_0 3 rfl rfl)
theorem dX6_isGiven_5 : decode cX6_isGiven 5 = .ok (.iload 4, 2) := dk_21 4 (dk_at dksX6_isGiven_0 5 rfl rfl)
theorem dX6_isGiven_7 : decode cX6_isGiven 7 = .ok (.aload_n 0, 1) := dk_42 (dk_at dksX6_isGiven_0 7 rfl rfl)
theorem dX6_isGiven_8 : decode cX6_isGiven 8 = .ok (.getfield 28, 3) := dk_180 0 28 (dk_at dksX6_isGiven_0 8 rfl rfl)
theorem dX6_isGiven_11 : decode cX6_isGiven 11 = .ok (.iload_n 1, 1) := dk_27 (dk_at dksX6_isGiven_0 11 rfl rfl)
theorem dX6_isGiven_12 : decode cX6_isGiven 12 = .ok (.iaload, 1) := dk_46 (dk_at dksX6_isGiven_0 12 rfl rfl)
theorem dX6_isGiven_13 : decode cX6_isGiven 13 = .ok (.if_icmp .ge 85, 3) := dk_162 0 85 (dk_at dksX6_isGiven_0 13 rfl rfl)
theorem dX6_isGiven_16 : decode cX6_isGiven 16 = .ok (.aload_n 0, 1) := dk_42 (dk_at dksX6_isGiven_0 16 rfl rfl)
theorem dX6_isGiven_17 : decode cX6_isGiven 17 = .ok (.getfield 31, 3) := dk_180 0 31 (dk_at dksX6_isGiven_0 17 rfl rfl)
theorem dX6_isGiven_20 : decode cX6_isGiven 20 = .ok (.iconst 2, 1) := dk_5 (dk_at dksX6_isGiven_0 20 rfl rfl)
theorem dX6_isGiven_21 : decode cX6_isGiven 21 = .ok (.iload_n 1, 1) := dk_27 (dk_at dksX6_isGiven_0 21 rfl rfl)
theorem dX6_isGiven_22 : decode cX6_isGiven 22 = .ok (.imul, 1) := dk_104 (dk_at dksX6_isGiven_0 22 rfl rfl)
theorem dX6_isGiven_23 : decode cX6_isGiven 23 = .ok (.iload 4, 2) := dk_21 4 (dk_at dksX6_isGiven_1 0 rfl rfl)
theorem dX6_isGiven_25 : decode cX6_isGiven 25 = .ok (.iadd, 1) := dk_96 (dk_at dksX6_isGiven_1 2 rfl rfl)
theorem dX6_isGiven_26 : decode cX6_isGiven 26 = .ok (.iaload, 1) := dk_46 (dk_at dksX6_isGiven_1 3 rfl rfl)
theorem dX6_isGiven_27 : decode cX6_isGiven 27 = .ok (.istore 5, 2) := dk_54 5 (dk_at dksX6_isGiven_1 4 rfl rfl)
theorem dX6_isGiven_29 : decode cX6_isGiven 29 = .ok (.iload 5, 2) := dk_21 5 (dk_at dksX6_isGiven_1 6 rfl rfl)
theorem dX6_isGiven_31 : decode cX6_isGiven 31 = .ok (.iload_n 2, 1) := dk_28 (dk_at dksX6_isGiven_1 8 rfl rfl)
theorem dX6_isGiven_32 : decode cX6_isGiven 32 = .ok (.iconst 2, 1) := dk_5 (dk_at dksX6_isGiven_1 9 rfl rfl)
theorem dX6_isGiven_33 : decode cX6_isGiven 33 = .ok (.idiv, 1) := dk_108 (dk_at dksX6_isGiven_1 10 rfl rfl)
theorem dX6_isGiven_34 : decode cX6_isGiven 34 = .ok (.if_icmp .eq 19, 3) := dk_159 0 19 (dk_at dksX6_isGiven_1 11 rfl rfl)
theorem dX6_isGiven_37 : decode cX6_isGiven 37 = .ok (.aload_n 0, 1) := dk_42 (dk_at dksX6_isGiven_1 14 rfl rfl)
theorem dX6_isGiven_38 : decode cX6_isGiven 38 = .ok (.getfield 13, 3) := dk_180 0 13 (dk_at dksX6_isGiven_1 15 rfl rfl)
theorem dX6_isGiven_41 : decode cX6_isGiven 41 = .ok (.iload 5, 2) := dk_21 5 (dk_at dksX6_isGiven_1 18 rfl rfl)
theorem dX6_isGiven_43 : decode cX6_isGiven 43 = .ok (.iaload, 1) := dk_46 (dk_at dksX6_isGiven_1 20 rfl rfl)
theorem dX6_isGiven_44 : decode cX6_isGiven 44 = .ok (.iload_n 2, 1) := dk_28 (dk_at dksX6_isGiven_1 21 rfl rfl)
theorem dX6_isGiven_45 : decode cX6_isGiven 45 = .ok (.iconst 2, 1) := dk_5 (dk_at dksX6_isGiven_1 22 rfl rfl)
theorem dX6_isGiven_46 : decode cX6_isGiven 46 = .ok (.idiv, 1) := dk_108 (dk_at dksX6_isGiven_1 23 rfl rfl)
theorem dX6_isGiven_47 : decode cX6_isGiven 47 = .ok (.invokestatic 214, 3) := dk_184 0 214 (dk_at dksX6_isGiven_2 0 rfl rfl)
theorem dX6_isGiven_50 : decode cX6_isGiven 50 = .ok (.ifCond .eq 7, 3) := dk_153 0 7 (dk_at dksX6_isGiven_2 3 rfl rfl)
theorem dX6_isGiven_53 : decode cX6_isGiven 53 = .ok (.iconst 1, 1) := dk_4 (dk_at dksX6_isGiven_2 6 rfl rfl)
theorem dX6_isGiven_54 : decode cX6_isGiven 54 = .ok (.goto 4, 3) := dk_167 0 4 (dk_at dksX6_isGiven_2 7 rfl rfl)
theorem dX6_isGiven_57 : decode cX6_isGiven 57 = .ok (.iconst 0, 1) := dk_3 (dk_at dksX6_isGiven_2 10 rfl rfl)
theorem dX6_isGiven_58 : decode cX6_isGiven 58 = .ok (.istore 6, 2) := dk_54 6 (dk_at dksX6_isGiven_2 11 rfl rfl)
theorem dX6_isGiven_60 : decode cX6_isGiven 60 = .ok (.iload_n 3, 1) := dk_29 (dk_at dksX6_isGiven_2 13 rfl rfl)
theorem dX6_isGiven_61 : decode cX6_isGiven 61 = .ok (.ifCond .ne 25, 3) := dk_154 0 25 (dk_at dksX6_isGiven_2 14 rfl rfl)
theorem dX6_isGiven_64 : decode cX6_isGiven 64 = .ok (.aload_n 0, 1) := dk_42 (dk_at dksX6_isGiven_2 17 rfl rfl)
theorem dX6_isGiven_65 : decode cX6_isGiven 65 = .ok (.getfield 34, 3) := dk_180 0 34 (dk_at dksX6_isGiven_2 18 rfl rfl)
theorem dX6_isGiven_68 : decode cX6_isGiven 68 = .ok (.iconst 2, 1) := dk_5 (dk_at dksX6_isGiven_2 21 rfl rfl)
theorem dX6_isGiven_69 : decode cX6_isGiven 69 = .ok (.iload_n 1, 1) := dk_27 (dk_at dksX6_isGiven_2 22 rfl rfl)
theorem dX6_isGiven_70 : decode cX6_isGiven 70 = .ok (.imul, 1) := dk_104 (dk_at dksX6_isGiven_2 23 rfl rfl)
theorem dX6_isGiven_71 : decode cX6_isGiven 71 = .ok (.iload 4, 2) := dk_21 4 (dk_at dksX6_isGiven_3 0 rfl rfl)
theorem dX6_isGiven_73 : decode cX6_isGiven 73 = .ok (.iadd, 1) := dk_96 (dk_at dksX6_isGiven_3 2 rfl rfl)
theorem dX6_isGiven_74 : decode cX6_isGiven 74 = .ok (.iaload, 1) := dk_46 (dk_at dksX6_isGiven_3 3 rfl rfl)
theorem dX6_isGiven_75 : decode cX6_isGiven 75 = .ok (.iload_n 2, 1) := dk_28 (dk_at dksX6_isGiven_3 4 rfl rfl)
theorem dX6_isGiven_76 : decode cX6_isGiven 76 = .ok (.iconst 2, 1) := dk_5 (dk_at dksX6_isGiven_3 5 rfl rfl)
theorem dX6_isGiven_77 : decode cX6_isGiven 77 = .ok (.irem, 1) := dk_112 (dk_at dksX6_isGiven_3 6 rfl rfl)
theorem dX6_isGiven_78 : decode cX6_isGiven 78 = .ok (.if_icmp .ne 12, 3) := dk_160 0 12 (dk_at dksX6_isGiven_3 7 rfl rfl)
theorem dX6_isGiven_81 : decode cX6_isGiven 81 = .ok (.iload 6, 2) := dk_21 6 (dk_at dksX6_isGiven_3 10 rfl rfl)
theorem dX6_isGiven_83 : decode cX6_isGiven 83 = .ok (.ifCond .eq 7, 3) := dk_153 0 7 (dk_at dksX6_isGiven_3 12 rfl rfl)
theorem dX6_isGiven_86 : decode cX6_isGiven 86 = .ok (.iconst 1, 1) := dk_4 (dk_at dksX6_isGiven_3 15 rfl rfl)
theorem dX6_isGiven_87 : decode cX6_isGiven 87 = .ok (.goto 4, 3) := dk_167 0 4 (dk_at dksX6_isGiven_3 16 rfl rfl)
theorem dX6_isGiven_90 : decode cX6_isGiven 90 = .ok (.iconst 0, 1) := dk_3 (dk_at dksX6_isGiven_3 19 rfl rfl)
theorem dX6_isGiven_91 : decode cX6_isGiven 91 = .ok (.istore_n 3, 1) := dk_62 (dk_at dksX6_isGiven_3 20 rfl rfl)
theorem dX6_isGiven_92 : decode cX6_isGiven 92 = .ok (.iinc 4 1, 3) := dk_132 4 1 (dk_at dksX6_isGiven_3 21 rfl rfl)
theorem dX6_isGiven_95 : decode cX6_isGiven 95 = .ok (.goto (-90), 3) := dk_167 255 166 (dk_at dksX6_isGiven_4 0 rfl rfl)
theorem dX6_isGiven_98 : decode cX6_isGiven 98 = .ok (.iload_n 3, 1) := dk_29 (dk_at dksX6_isGiven_4 3 rfl rfl)
theorem dX6_isGiven_99 : decode cX6_isGiven 99 = .ok (.ireturn, 1) := dk_172 (dk_at dksX6_isGiven_4 4 rfl rfl)
abbrev cX6_as : ByteArray := prog_13_method_56_code
def yX6_as : MethodName := ⟨RX6, "as", "(II)I"⟩
def dkwX6_as_2 : List UInt8 := [160, 0, 7, 27, 167, 0, 4, 2, 172]
abbrev dktX6_as_2 : List UInt8 := dkwX6_as_2 ++ []
def dkwX6_as_1 : List UInt8 := [180, 0, 16, 27, 46, 62, 28, 153, 0, 18, 29, 28, 159, 0, 13, 28, 6, 160, 0, 12, 29, 7]
abbrev dktX6_as_1 : List UInt8 := dkwX6_as_1 ++ dktX6_as_2
def dkwX6_as_0 : List UInt8 := [42, 27, 182, 1, 54, 154, 0, 6, 16, 155, 172, 28, 3, 7, 184, 0, 146, 154, 0, 6, 16, 154, 172, 42]
abbrev dktX6_as_0 : List UInt8 := dkwX6_as_0 ++ dktX6_as_1
theorem dksX6_as_0 : cX6_as.data.toList.drop 0 = dktX6_as_0 := by decide +kernel
theorem dksX6_as_1 : cX6_as.data.toList.drop 24 = dktX6_as_1 := dk_seg dksX6_as_0 24 rfl rfl
theorem dksX6_as_2 : cX6_as.data.toList.drop 46 = dktX6_as_2 := dk_seg dksX6_as_1 22 rfl rfl
theorem dX6_as_0 : decode cX6_as 0 = .ok (.aload_n 0, 1) := dk_42 (dk_at dksX6_as_0 0 rfl rfl)
theorem dX6_as_1 : decode cX6_as 1 = .ok (.iload_n 1, 1) := dk_27 (dk_at dksX6_as_0 1 rfl rfl)
theorem dX6_as_2 : decode cX6_as 2 = .ok (.invokevirtual 310, 3) := dk_182 1 54 (dk_at dksX6_as_0 2 rfl rfl)
theorem dX6_as_5 : decode cX6_as 5 = .ok (.ifCond .ne 6, 3) := dk_154 0 6 (dk_at dksX6_as_0 5 rfl rfl)
theorem dX6_as_8 : decode cX6_as 8 = .ok (.bipush (-101), 2) := dk_16 155 (dk_at dksX6_as_0 8 rfl rfl)
theorem dX6_as_10 : decode cX6_as 10 = .ok (.ireturn, 1) := dk_172 (dk_at dksX6_as_0 10 rfl rfl)
theorem dX6_as_11 : decode cX6_as 11 = .ok (.iload_n 2, 1) := dk_28 (dk_at dksX6_as_0 11 rfl rfl)
theorem dX6_as_12 : decode cX6_as 12 = .ok (.iconst 0, 1) := dk_3 (dk_at dksX6_as_0 12 rfl rfl)
theorem dX6_as_13 : decode cX6_as 13 = .ok (.iconst 4, 1) := dk_7 (dk_at dksX6_as_0 13 rfl rfl)
theorem dX6_as_14 : decode cX6_as 14 = .ok (.invokestatic 146, 3) := dk_184 0 146 (dk_at dksX6_as_0 14 rfl rfl)
theorem dX6_as_17 : decode cX6_as 17 = .ok (.ifCond .ne 6, 3) := dk_154 0 6 (dk_at dksX6_as_0 17 rfl rfl)
theorem dX6_as_20 : decode cX6_as 20 = .ok (.bipush (-102), 2) := dk_16 154 (dk_at dksX6_as_0 20 rfl rfl)
theorem dX6_as_22 : decode cX6_as 22 = .ok (.ireturn, 1) := dk_172 (dk_at dksX6_as_0 22 rfl rfl)
theorem dX6_as_23 : decode cX6_as 23 = .ok (.aload_n 0, 1) := dk_42 (dk_at dksX6_as_0 23 rfl rfl)
theorem dX6_as_24 : decode cX6_as 24 = .ok (.getfield 16, 3) := dk_180 0 16 (dk_at dksX6_as_1 0 rfl rfl)
theorem dX6_as_27 : decode cX6_as 27 = .ok (.iload_n 1, 1) := dk_27 (dk_at dksX6_as_1 3 rfl rfl)
theorem dX6_as_28 : decode cX6_as 28 = .ok (.iaload, 1) := dk_46 (dk_at dksX6_as_1 4 rfl rfl)
theorem dX6_as_29 : decode cX6_as 29 = .ok (.istore_n 3, 1) := dk_62 (dk_at dksX6_as_1 5 rfl rfl)
theorem dX6_as_30 : decode cX6_as 30 = .ok (.iload_n 2, 1) := dk_28 (dk_at dksX6_as_1 6 rfl rfl)
theorem dX6_as_31 : decode cX6_as 31 = .ok (.ifCond .eq 18, 3) := dk_153 0 18 (dk_at dksX6_as_1 7 rfl rfl)
theorem dX6_as_34 : decode cX6_as 34 = .ok (.iload_n 3, 1) := dk_29 (dk_at dksX6_as_1 10 rfl rfl)
theorem dX6_as_35 : decode cX6_as 35 = .ok (.iload_n 2, 1) := dk_28 (dk_at dksX6_as_1 11 rfl rfl)
theorem dX6_as_36 : decode cX6_as 36 = .ok (.if_icmp .eq 13, 3) := dk_159 0 13 (dk_at dksX6_as_1 12 rfl rfl)
theorem dX6_as_39 : decode cX6_as 39 = .ok (.iload_n 2, 1) := dk_28 (dk_at dksX6_as_1 15 rfl rfl)
theorem dX6_as_40 : decode cX6_as 40 = .ok (.iconst 3, 1) := dk_6 (dk_at dksX6_as_1 16 rfl rfl)
theorem dX6_as_41 : decode cX6_as 41 = .ok (.if_icmp .ne 12, 3) := dk_160 0 12 (dk_at dksX6_as_1 17 rfl rfl)
theorem dX6_as_44 : decode cX6_as 44 = .ok (.iload_n 3, 1) := dk_29 (dk_at dksX6_as_1 20 rfl rfl)
theorem dX6_as_45 : decode cX6_as 45 = .ok (.iconst 4, 1) := dk_7 (dk_at dksX6_as_1 21 rfl rfl)
theorem dX6_as_46 : decode cX6_as 46 = .ok (.if_icmp .ne 7, 3) := dk_160 0 7 (dk_at dksX6_as_2 0 rfl rfl)
theorem dX6_as_49 : decode cX6_as 49 = .ok (.iload_n 1, 1) := dk_27 (dk_at dksX6_as_2 3 rfl rfl)
theorem dX6_as_50 : decode cX6_as 50 = .ok (.goto 4, 3) := dk_167 0 4 (dk_at dksX6_as_2 4 rfl rfl)
theorem dX6_as_53 : decode cX6_as 53 = .ok (.iconst (-1), 1) := dk_2 (dk_at dksX6_as_2 7 rfl rfl)
theorem dX6_as_54 : decode cX6_as 54 = .ok (.ireturn, 1) := dk_172 (dk_at dksX6_as_2 8 rfl rfl)
abbrev cX6_change : ByteArray := prog_13_method_57_code
def yX6_change : MethodName := ⟨RX6, "change", "(II)I"⟩
def dkwX6_change_1 : List UInt8 := [180, 0, 16, 27, 46, 62, 42, 180, 0, 16, 27, 28, 79, 29, 172]
abbrev dktX6_change_1 : List UInt8 := dkwX6_change_1 ++ []
def dkwX6_change_0 : List UInt8 := [42, 27, 182, 1, 54, 154, 0, 6, 16, 155, 172, 28, 3, 7, 184, 0, 146, 154, 0, 6, 16, 154, 172, 42]
abbrev dktX6_change_0 : List UInt8 := dkwX6_change_0 ++ dktX6_change_1
theorem dksX6_change_0 : cX6_change.data.toList.drop 0 = dktX6_change_0 := by decide +kernel
theorem dksX6_change_1 : cX6_change.data.toList.drop 24 = dktX6_change_1 := dk_seg dksX6_change_0 24 rfl rfl
theorem dX6_change_0 : decode cX6_change 0 = .ok (.aload_n 0, 1) := dk_42 (dk_at dksX6_change_0 0 rfl rfl)
theorem dX6_change_1 : decode cX6_change 1 = .ok (.iload_n 1, 1) := dk_27 (dk_at dksX6_change_0 1 rfl rfl)
theorem dX6_change_2 : decode cX6_change 2 = .ok (.invokevirtual 310, 3) := dk_182 1 54 (dk_at dksX6_change_0 2 rfl rfl)
theorem dX6_change_5 : decode cX6_change 5 = .ok (.ifCond .ne 6, 3) := dk_154 0 6 (dk_at dksX6_change_0 5 rfl rfl)
theorem dX6_change_8 : decode cX6_change 8 = .ok (.bipush (-101), 2) := dk_16 155 (dk_at dksX6_change_0 8 rfl rfl)
theorem dX6_change_10 : decode cX6_change 10 = .ok (.ireturn, 1) := dk_172 (dk_at dksX6_change_0 10 rfl rfl)
theorem dX6_change_11 : decode cX6_change 11 = .ok (.iload_n 2, 1) := dk_28 (dk_at dksX6_change_0 11 rfl rfl)
theorem dX6_change_12 : decode cX6_change 12 = .ok (.iconst 0, 1) := dk_3 (dk_at dksX6_change_0 12 rfl rfl)
theorem dX6_change_13 : decode cX6_change 13 = .ok (.iconst 4, 1) := dk_7 (dk_at dksX6_change_0 13 rfl rfl)
theorem dX6_change_14 : decode cX6_change 14 = .ok (.invokestatic 146, 3) := dk_184 0 146 (dk_at dksX6_change_0 14 rfl rfl)
theorem dX6_change_17 : decode cX6_change 17 = .ok (.ifCond .ne 6, 3) := dk_154 0 6 (dk_at dksX6_change_0 17 rfl rfl)
theorem dX6_change_20 : decode cX6_change 20 = .ok (.bipush (-102), 2) := dk_16 154 (dk_at dksX6_change_0 20 rfl rfl)
theorem dX6_change_22 : decode cX6_change 22 = .ok (.ireturn, 1) := dk_172 (dk_at dksX6_change_0 22 rfl rfl)
theorem dX6_change_23 : decode cX6_change 23 = .ok (.aload_n 0, 1) := dk_42 (dk_at dksX6_change_0 23 rfl rfl)
theorem dX6_change_24 : decode cX6_change 24 = .ok (.getfield 16, 3) := dk_180 0 16 (dk_at dksX6_change_1 0 rfl rfl)
theorem dX6_change_27 : decode cX6_change 27 = .ok (.iload_n 1, 1) := dk_27 (dk_at dksX6_change_1 3 rfl rfl)
theorem dX6_change_28 : decode cX6_change 28 = .ok (.iaload, 1) := dk_46 (dk_at dksX6_change_1 4 rfl rfl)
theorem dX6_change_29 : decode cX6_change 29 = .ok (.istore_n 3, 1) := dk_62 (dk_at dksX6_change_1 5 rfl rfl)
theorem dX6_change_30 : decode cX6_change 30 = .ok (.aload_n 0, 1) := dk_42 (dk_at dksX6_change_1 6 rfl rfl)
theorem dX6_change_31 : decode cX6_change 31 = .ok (.getfield 16, 3) := dk_180 0 16 (dk_at dksX6_change_1 7 rfl rfl)
theorem dX6_change_34 : decode cX6_change 34 = .ok (.iload_n 1, 1) := dk_27 (dk_at dksX6_change_1 10 rfl rfl)
theorem dX6_change_35 : decode cX6_change 35 = .ok (.iload_n 2, 1) := dk_28 (dk_at dksX6_change_1 11 rfl rfl)
theorem dX6_change_36 : decode cX6_change 36 = .ok (.iastore, 1) := dk_79 (dk_at dksX6_change_1 12 rfl rfl)
theorem dX6_change_37 : decode cX6_change 37 = .ok (.iload_n 3, 1) := dk_29 (dk_at dksX6_change_1 13 rfl rfl)
theorem dX6_change_38 : decode cX6_change 38 = .ok (.ireturn, 1) := dk_172 (dk_at dksX6_change_1 14 rfl rfl)
abbrev cX6_pair : ByteArray := prog_13_method_70_code
def yX6_pair : MethodName := ⟨RX6, "pair", "(III)I"⟩
def dkwX6_pair_2 : List UInt8 := [4, 167, 0, 4, 3, 172]
abbrev dktX6_pair_2 : List UInt8 := dkwX6_pair_2 ++ []
def dkwX6_pair_1 : List UInt8 := [29, 3, 5, 184, 0, 146, 154, 0, 8, 16, 154, 167, 0, 18, 42, 27, 28, 29, 182, 1, 102, 153, 0, 7]
abbrev dktX6_pair_1 : List UInt8 := dkwX6_pair_1 ++ dktX6_pair_2
def dkwX6_pair_0 : List UInt8 := [42, 27, 182, 1, 54, 153, 0, 16, 42, 28, 182, 1, 54, 153, 0, 8, 27, 28, 160, 0, 6, 16, 155, 172]
abbrev dktX6_pair_0 : List UInt8 := dkwX6_pair_0 ++ dktX6_pair_1
theorem dksX6_pair_0 : cX6_pair.data.toList.drop 0 = dktX6_pair_0 := by decide +kernel
theorem dksX6_pair_1 : cX6_pair.data.toList.drop 24 = dktX6_pair_1 := dk_seg dksX6_pair_0 24 rfl rfl
theorem dksX6_pair_2 : cX6_pair.data.toList.drop 48 = dktX6_pair_2 := dk_seg dksX6_pair_1 24 rfl rfl
theorem dX6_pair_0 : decode cX6_pair 0 = .ok (.aload_n 0, 1) := dk_42 (dk_at dksX6_pair_0 0 rfl rfl)
theorem dX6_pair_1 : decode cX6_pair 1 = .ok (.iload_n 1, 1) := dk_27 (dk_at dksX6_pair_0 1 rfl rfl)
theorem dX6_pair_2 : decode cX6_pair 2 = .ok (.invokevirtual 310, 3) := dk_182 1 54 (dk_at dksX6_pair_0 2 rfl rfl)
theorem dX6_pair_5 : decode cX6_pair 5 = .ok (.ifCond .eq 16, 3) := dk_153 0 16 (dk_at dksX6_pair_0 5 rfl rfl)
theorem dX6_pair_8 : decode cX6_pair 8 = .ok (.aload_n 0, 1) := dk_42 (dk_at dksX6_pair_0 8 rfl rfl)
theorem dX6_pair_9 : decode cX6_pair 9 = .ok (.iload_n 2, 1) := dk_28 (dk_at dksX6_pair_0 9 rfl rfl)
theorem dX6_pair_10 : decode cX6_pair 10 = .ok (.invokevirtual 310, 3) := dk_182 1 54 (dk_at dksX6_pair_0 10 rfl rfl)
theorem dX6_pair_13 : decode cX6_pair 13 = .ok (.ifCond .eq 8, 3) := dk_153 0 8 (dk_at dksX6_pair_0 13 rfl rfl)
theorem dX6_pair_16 : decode cX6_pair 16 = .ok (.iload_n 1, 1) := dk_27 (dk_at dksX6_pair_0 16 rfl rfl)
theorem dX6_pair_17 : decode cX6_pair 17 = .ok (.iload_n 2, 1) := dk_28 (dk_at dksX6_pair_0 17 rfl rfl)
theorem dX6_pair_18 : decode cX6_pair 18 = .ok (.if_icmp .ne 6, 3) := dk_160 0 6 (dk_at dksX6_pair_0 18 rfl rfl)
theorem dX6_pair_21 : decode cX6_pair 21 = .ok (.bipush (-101), 2) := dk_16 155 (dk_at dksX6_pair_0 21 rfl rfl)
theorem dX6_pair_23 : decode cX6_pair 23 = .ok (.ireturn, 1) := dk_172 (dk_at dksX6_pair_0 23 rfl rfl)
theorem dX6_pair_24 : decode cX6_pair 24 = .ok (.iload_n 3, 1) := dk_29 (dk_at dksX6_pair_1 0 rfl rfl)
theorem dX6_pair_25 : decode cX6_pair 25 = .ok (.iconst 0, 1) := dk_3 (dk_at dksX6_pair_1 1 rfl rfl)
theorem dX6_pair_26 : decode cX6_pair 26 = .ok (.iconst 2, 1) := dk_5 (dk_at dksX6_pair_1 2 rfl rfl)
theorem dX6_pair_27 : decode cX6_pair 27 = .ok (.invokestatic 146, 3) := dk_184 0 146 (dk_at dksX6_pair_1 3 rfl rfl)
theorem dX6_pair_30 : decode cX6_pair 30 = .ok (.ifCond .ne 8, 3) := dk_154 0 8 (dk_at dksX6_pair_1 6 rfl rfl)
theorem dX6_pair_33 : decode cX6_pair 33 = .ok (.bipush (-102), 2) := dk_16 154 (dk_at dksX6_pair_1 9 rfl rfl)
theorem dX6_pair_35 : decode cX6_pair 35 = .ok (.goto 18, 3) := dk_167 0 18 (dk_at dksX6_pair_1 11 rfl rfl)
theorem dX6_pair_38 : decode cX6_pair 38 = .ok (.aload_n 0, 1) := dk_42 (dk_at dksX6_pair_1 14 rfl rfl)
theorem dX6_pair_39 : decode cX6_pair 39 = .ok (.iload_n 1, 1) := dk_27 (dk_at dksX6_pair_1 15 rfl rfl)
theorem dX6_pair_40 : decode cX6_pair 40 = .ok (.iload_n 2, 1) := dk_28 (dk_at dksX6_pair_1 16 rfl rfl)
theorem dX6_pair_41 : decode cX6_pair 41 = .ok (.iload_n 3, 1) := dk_29 (dk_at dksX6_pair_1 17 rfl rfl)
theorem dX6_pair_42 : decode cX6_pair 42 = .ok (.invokevirtual 358, 3) := dk_182 1 102 (dk_at dksX6_pair_1 18 rfl rfl)
theorem dX6_pair_45 : decode cX6_pair 45 = .ok (.ifCond .eq 7, 3) := dk_153 0 7 (dk_at dksX6_pair_1 21 rfl rfl)
theorem dX6_pair_48 : decode cX6_pair 48 = .ok (.iconst 1, 1) := dk_4 (dk_at dksX6_pair_2 0 rfl rfl)
theorem dX6_pair_49 : decode cX6_pair 49 = .ok (.goto 4, 3) := dk_167 0 4 (dk_at dksX6_pair_2 1 rfl rfl)
theorem dX6_pair_52 : decode cX6_pair 52 = .ok (.iconst 0, 1) := dk_3 (dk_at dksX6_pair_2 4 rfl rfl)
theorem dX6_pair_53 : decode cX6_pair 53 = .ok (.ireturn, 1) := dk_172 (dk_at dksX6_pair_2 5 rfl rfl)
abbrev cX6_pairNow : ByteArray := prog_13_method_69_code
def yX6_pairNow : MethodName := ⟨RX6, "pairNow", "(III)Z"⟩
def dkwX6_pairNow_1 : List UInt8 := [167, 0, 9, 42, 27, 28, 182, 1, 93, 172]
abbrev dktX6_pairNow_1 : List UInt8 := dkwX6_pairNow_1 ++ []
def dkwX6_pairNow_0 : List UInt8 := [29, 154, 0, 12, 42, 27, 28, 182, 1, 96, 167, 0, 23, 29, 4, 160, 0, 12, 42, 27, 28, 182, 1, 99]
abbrev dktX6_pairNow_0 : List UInt8 := dkwX6_pairNow_0 ++ dktX6_pairNow_1
theorem dksX6_pairNow_0 : cX6_pairNow.data.toList.drop 0 = dktX6_pairNow_0 := by decide +kernel
theorem dksX6_pairNow_1 : cX6_pairNow.data.toList.drop 24 = dktX6_pairNow_1 := dk_seg dksX6_pairNow_0 24 rfl rfl
theorem dX6_pairNow_0 : decode cX6_pairNow 0 = .ok (.iload_n 3, 1) := dk_29 (dk_at dksX6_pairNow_0 0 rfl rfl)
theorem dX6_pairNow_1 : decode cX6_pairNow 1 = .ok (.ifCond .ne 12, 3) := dk_154 0 12 (dk_at dksX6_pairNow_0 1 rfl rfl)
theorem dX6_pairNow_4 : decode cX6_pairNow 4 = .ok (.aload_n 0, 1) := dk_42 (dk_at dksX6_pairNow_0 4 rfl rfl)
theorem dX6_pairNow_5 : decode cX6_pairNow 5 = .ok (.iload_n 1, 1) := dk_27 (dk_at dksX6_pairNow_0 5 rfl rfl)
theorem dX6_pairNow_6 : decode cX6_pairNow 6 = .ok (.iload_n 2, 1) := dk_28 (dk_at dksX6_pairNow_0 6 rfl rfl)
theorem dX6_pairNow_7 : decode cX6_pairNow 7 = .ok (.invokevirtual 352, 3) := dk_182 1 96 (dk_at dksX6_pairNow_0 7 rfl rfl)
theorem dX6_pairNow_10 : decode cX6_pairNow 10 = .ok (.goto 23, 3) := dk_167 0 23 (dk_at dksX6_pairNow_0 10 rfl rfl)
theorem dX6_pairNow_13 : decode cX6_pairNow 13 = .ok (.iload_n 3, 1) := dk_29 (dk_at dksX6_pairNow_0 13 rfl rfl)
theorem dX6_pairNow_14 : decode cX6_pairNow 14 = .ok (.iconst 1, 1) := dk_4 (dk_at dksX6_pairNow_0 14 rfl rfl)
theorem dX6_pairNow_15 : decode cX6_pairNow 15 = .ok (.if_icmp .ne 12, 3) := dk_160 0 12 (dk_at dksX6_pairNow_0 15 rfl rfl)
theorem dX6_pairNow_18 : decode cX6_pairNow 18 = .ok (.aload_n 0, 1) := dk_42 (dk_at dksX6_pairNow_0 18 rfl rfl)
theorem dX6_pairNow_19 : decode cX6_pairNow 19 = .ok (.iload_n 1, 1) := dk_27 (dk_at dksX6_pairNow_0 19 rfl rfl)
theorem dX6_pairNow_20 : decode cX6_pairNow 20 = .ok (.iload_n 2, 1) := dk_28 (dk_at dksX6_pairNow_0 20 rfl rfl)
theorem dX6_pairNow_21 : decode cX6_pairNow 21 = .ok (.invokevirtual 355, 3) := dk_182 1 99 (dk_at dksX6_pairNow_0 21 rfl rfl)
theorem dX6_pairNow_24 : decode cX6_pairNow 24 = .ok (.goto 9, 3) := dk_167 0 9 (dk_at dksX6_pairNow_1 0 rfl rfl)
theorem dX6_pairNow_27 : decode cX6_pairNow 27 = .ok (.aload_n 0, 1) := dk_42 (dk_at dksX6_pairNow_1 3 rfl rfl)
theorem dX6_pairNow_28 : decode cX6_pairNow 28 = .ok (.iload_n 1, 1) := dk_27 (dk_at dksX6_pairNow_1 4 rfl rfl)
theorem dX6_pairNow_29 : decode cX6_pairNow 29 = .ok (.iload_n 2, 1) := dk_28 (dk_at dksX6_pairNow_1 5 rfl rfl)
theorem dX6_pairNow_30 : decode cX6_pairNow 30 = .ok (.invokevirtual 349, 3) := dk_182 1 93 (dk_at dksX6_pairNow_1 6 rfl rfl)
theorem dX6_pairNow_33 : decode cX6_pairNow 33 = .ok (.ireturn, 1) := dk_172 (dk_at dksX6_pairNow_1 9 rfl rfl)
abbrev cX6_overlap : ByteArray := prog_13_method_66_code
def yX6_overlap : MethodName := ⟨RX6, "overlap", "(II)Z"⟩
def dkwX6_overlap_2 : List UInt8 := [167, 0, 4, 3, 172]
abbrev dktX6_overlap_2 : List UInt8 := dkwX6_overlap_2 ++ []
def dkwX6_overlap_1 : List UInt8 := [159, 0, 26, 42, 180, 0, 16, 28, 46, 5, 159, 0, 16, 42, 27, 28, 182, 1, 90, 153, 0, 7, 4]
abbrev dktX6_overlap_1 : List UInt8 := dkwX6_overlap_1 ++ dktX6_overlap_2
def dkwX6_overlap_0 : List UInt8 := [42, 180, 0, 19, 27, 46, 42, 180, 0, 19, 28, 46, 160, 0, 36, 42, 180, 0, 16, 27, 46, 5]
abbrev dktX6_overlap_0 : List UInt8 := dkwX6_overlap_0 ++ dktX6_overlap_1
theorem dksX6_overlap_0 : cX6_overlap.data.toList.drop 0 = dktX6_overlap_0 := by decide +kernel
theorem dksX6_overlap_1 : cX6_overlap.data.toList.drop 22 = dktX6_overlap_1 := dk_seg dksX6_overlap_0 22 rfl rfl
theorem dksX6_overlap_2 : cX6_overlap.data.toList.drop 45 = dktX6_overlap_2 := dk_seg dksX6_overlap_1 23 rfl rfl
theorem dX6_overlap_0 : decode cX6_overlap 0 = .ok (.aload_n 0, 1) := dk_42 (dk_at dksX6_overlap_0 0 rfl rfl)
theorem dX6_overlap_1 : decode cX6_overlap 1 = .ok (.getfield 19, 3) := dk_180 0 19 (dk_at dksX6_overlap_0 1 rfl rfl)
theorem dX6_overlap_4 : decode cX6_overlap 4 = .ok (.iload_n 1, 1) := dk_27 (dk_at dksX6_overlap_0 4 rfl rfl)
theorem dX6_overlap_5 : decode cX6_overlap 5 = .ok (.iaload, 1) := dk_46 (dk_at dksX6_overlap_0 5 rfl rfl)
theorem dX6_overlap_6 : decode cX6_overlap 6 = .ok (.aload_n 0, 1) := dk_42 (dk_at dksX6_overlap_0 6 rfl rfl)
theorem dX6_overlap_7 : decode cX6_overlap 7 = .ok (.getfield 19, 3) := dk_180 0 19 (dk_at dksX6_overlap_0 7 rfl rfl)
theorem dX6_overlap_10 : decode cX6_overlap 10 = .ok (.iload_n 2, 1) := dk_28 (dk_at dksX6_overlap_0 10 rfl rfl)
theorem dX6_overlap_11 : decode cX6_overlap 11 = .ok (.iaload, 1) := dk_46 (dk_at dksX6_overlap_0 11 rfl rfl)
theorem dX6_overlap_12 : decode cX6_overlap 12 = .ok (.if_icmp .ne 36, 3) := dk_160 0 36 (dk_at dksX6_overlap_0 12 rfl rfl)
theorem dX6_overlap_15 : decode cX6_overlap 15 = .ok (.aload_n 0, 1) := dk_42 (dk_at dksX6_overlap_0 15 rfl rfl)
theorem dX6_overlap_16 : decode cX6_overlap 16 = .ok (.getfield 16, 3) := dk_180 0 16 (dk_at dksX6_overlap_0 16 rfl rfl)
theorem dX6_overlap_19 : decode cX6_overlap 19 = .ok (.iload_n 1, 1) := dk_27 (dk_at dksX6_overlap_0 19 rfl rfl)
theorem dX6_overlap_20 : decode cX6_overlap 20 = .ok (.iaload, 1) := dk_46 (dk_at dksX6_overlap_0 20 rfl rfl)
theorem dX6_overlap_21 : decode cX6_overlap 21 = .ok (.iconst 2, 1) := dk_5 (dk_at dksX6_overlap_0 21 rfl rfl)
theorem dX6_overlap_22 : decode cX6_overlap 22 = .ok (.if_icmp .eq 26, 3) := dk_159 0 26 (dk_at dksX6_overlap_1 0 rfl rfl)
theorem dX6_overlap_25 : decode cX6_overlap 25 = .ok (.aload_n 0, 1) := dk_42 (dk_at dksX6_overlap_1 3 rfl rfl)
theorem dX6_overlap_26 : decode cX6_overlap 26 = .ok (.getfield 16, 3) := dk_180 0 16 (dk_at dksX6_overlap_1 4 rfl rfl)
theorem dX6_overlap_29 : decode cX6_overlap 29 = .ok (.iload_n 2, 1) := dk_28 (dk_at dksX6_overlap_1 7 rfl rfl)
theorem dX6_overlap_30 : decode cX6_overlap 30 = .ok (.iaload, 1) := dk_46 (dk_at dksX6_overlap_1 8 rfl rfl)
theorem dX6_overlap_31 : decode cX6_overlap 31 = .ok (.iconst 2, 1) := dk_5 (dk_at dksX6_overlap_1 9 rfl rfl)
theorem dX6_overlap_32 : decode cX6_overlap 32 = .ok (.if_icmp .eq 16, 3) := dk_159 0 16 (dk_at dksX6_overlap_1 10 rfl rfl)
theorem dX6_overlap_35 : decode cX6_overlap 35 = .ok (.aload_n 0, 1) := dk_42 (dk_at dksX6_overlap_1 13 rfl rfl)
theorem dX6_overlap_36 : decode cX6_overlap 36 = .ok (.iload_n 1, 1) := dk_27 (dk_at dksX6_overlap_1 14 rfl rfl)
theorem dX6_overlap_37 : decode cX6_overlap 37 = .ok (.iload_n 2, 1) := dk_28 (dk_at dksX6_overlap_1 15 rfl rfl)
theorem dX6_overlap_38 : decode cX6_overlap 38 = .ok (.invokevirtual 346, 3) := dk_182 1 90 (dk_at dksX6_overlap_1 16 rfl rfl)
theorem dX6_overlap_41 : decode cX6_overlap 41 = .ok (.ifCond .eq 7, 3) := dk_153 0 7 (dk_at dksX6_overlap_1 19 rfl rfl)
theorem dX6_overlap_44 : decode cX6_overlap 44 = .ok (.iconst 1, 1) := dk_4 (dk_at dksX6_overlap_1 22 rfl rfl)
theorem dX6_overlap_45 : decode cX6_overlap 45 = .ok (.goto 4, 3) := dk_167 0 4 (dk_at dksX6_overlap_2 0 rfl rfl)
theorem dX6_overlap_48 : decode cX6_overlap 48 = .ok (.iconst 0, 1) := dk_3 (dk_at dksX6_overlap_2 3 rfl rfl)
theorem dX6_overlap_49 : decode cX6_overlap 49 = .ok (.ireturn, 1) := dk_172 (dk_at dksX6_overlap_2 4 rfl rfl)
abbrev cX6_areOne : ByteArray := prog_13_method_65_code
def yX6_areOne : MethodName := ⟨RX6, "areOne", "(II)Z"⟩
def dkwX6_areOne_3 : List UInt8 := [42, 42, 180, 0, 122, 42, 180, 1, 78, 46, 182, 1, 72, 182, 1, 87, 154, 255, 209, 3, 172, 4, 172]
abbrev dktX6_areOne_3 : List UInt8 := dkwX6_areOne_3 ++ []
def dkwX6_areOne_2 : List UInt8 := [42, 89, 180, 1, 78, 4, 100, 181, 1, 78, 42, 42, 42, 180, 0, 119, 42, 180, 1, 78, 46, 182, 1, 72]
abbrev dktX6_areOne_2 : List UInt8 := dkwX6_areOne_2 ++ dktX6_areOne_3
def dkwX6_areOne_1 : List UInt8 := [132, 3, 1, 167, 255, 241, 42, 3, 181, 1, 78, 42, 3, 8, 182, 1, 84, 42, 180, 1, 78, 158, 0, 48]
abbrev dktX6_areOne_1 : List UInt8 := dkwX6_areOne_1 ++ dktX6_areOne_2
def dkwX6_areOne_0 : List UInt8 := [42, 27, 181, 1, 60, 42, 28, 181, 1, 63, 3, 62, 29, 7, 162, 0, 16, 42, 180, 0, 116, 29, 2, 79]
abbrev dktX6_areOne_0 : List UInt8 := dkwX6_areOne_0 ++ dktX6_areOne_1
theorem dksX6_areOne_0 : cX6_areOne.data.toList.drop 0 = dktX6_areOne_0 := by decide +kernel
theorem dksX6_areOne_1 : cX6_areOne.data.toList.drop 24 = dktX6_areOne_1 := dk_seg dksX6_areOne_0 24 rfl rfl
theorem dksX6_areOne_2 : cX6_areOne.data.toList.drop 48 = dktX6_areOne_2 := dk_seg dksX6_areOne_1 24 rfl rfl
theorem dksX6_areOne_3 : cX6_areOne.data.toList.drop 72 = dktX6_areOne_3 := dk_seg dksX6_areOne_2 24 rfl rfl
theorem dX6_areOne_0 : decode cX6_areOne 0 = .ok (.aload_n 0, 1) := dk_42 (dk_at dksX6_areOne_0 0 rfl rfl)
theorem dX6_areOne_1 : decode cX6_areOne 1 = .ok (.iload_n 1, 1) := dk_27 (dk_at dksX6_areOne_0 1 rfl rfl)
theorem dX6_areOne_2 : decode cX6_areOne 2 = .ok (.putfield 316, 3) := dk_181 1 60 (dk_at dksX6_areOne_0 2 rfl rfl)
theorem dX6_areOne_5 : decode cX6_areOne 5 = .ok (.aload_n 0, 1) := dk_42 (dk_at dksX6_areOne_0 5 rfl rfl)
theorem dX6_areOne_6 : decode cX6_areOne 6 = .ok (.iload_n 2, 1) := dk_28 (dk_at dksX6_areOne_0 6 rfl rfl)
theorem dX6_areOne_7 : decode cX6_areOne 7 = .ok (.putfield 319, 3) := dk_181 1 63 (dk_at dksX6_areOne_0 7 rfl rfl)
theorem dX6_areOne_10 : decode cX6_areOne 10 = .ok (.iconst 0, 1) := dk_3 (dk_at dksX6_areOne_0 10 rfl rfl)
theorem dX6_areOne_11 : decode cX6_areOne 11 = .ok (.istore_n 3, 1) := dk_62 (dk_at dksX6_areOne_0 11 rfl rfl)
theorem dX6_areOne_12 : decode cX6_areOne 12 = .ok (.iload_n 3, 1) := dk_29 (dk_at dksX6_areOne_0 12 rfl rfl)
theorem dX6_areOne_13 : decode cX6_areOne 13 = .ok (.iconst 4, 1) := dk_7 (dk_at dksX6_areOne_0 13 rfl rfl)
theorem dX6_areOne_14 : decode cX6_areOne 14 = .ok (.if_icmp .ge 16, 3) := dk_162 0 16 (dk_at dksX6_areOne_0 14 rfl rfl)
theorem dX6_areOne_17 : decode cX6_areOne 17 = .ok (.aload_n 0, 1) := dk_42 (dk_at dksX6_areOne_0 17 rfl rfl)
theorem dX6_areOne_18 : decode cX6_areOne 18 = .ok (.getfield 116, 3) := dk_180 0 116 (dk_at dksX6_areOne_0 18 rfl rfl)
theorem dX6_areOne_21 : decode cX6_areOne 21 = .ok (.iload_n 3, 1) := dk_29 (dk_at dksX6_areOne_0 21 rfl rfl)
theorem dX6_areOne_22 : decode cX6_areOne 22 = .ok (.iconst (-1), 1) := dk_2 (dk_at dksX6_areOne_0 22 rfl rfl)
theorem dX6_areOne_23 : decode cX6_areOne 23 = .ok (.iastore, 1) := dk_79 (dk_at dksX6_areOne_0 23 rfl rfl)
theorem dX6_areOne_24 : decode cX6_areOne 24 = .ok (.iinc 3 1, 3) := dk_132 3 1 (dk_at dksX6_areOne_1 0 rfl rfl)
theorem dX6_areOne_27 : decode cX6_areOne 27 = .ok (.goto (-15), 3) := dk_167 255 241 (dk_at dksX6_areOne_1 3 rfl rfl)
theorem dX6_areOne_30 : decode cX6_areOne 30 = .ok (.aload_n 0, 1) := dk_42 (dk_at dksX6_areOne_1 6 rfl rfl)
theorem dX6_areOne_31 : decode cX6_areOne 31 = .ok (.iconst 0, 1) := dk_3 (dk_at dksX6_areOne_1 7 rfl rfl)
theorem dX6_areOne_32 : decode cX6_areOne 32 = .ok (.putfield 334, 3) := dk_181 1 78 (dk_at dksX6_areOne_1 8 rfl rfl)
theorem dX6_areOne_35 : decode cX6_areOne 35 = .ok (.aload_n 0, 1) := dk_42 (dk_at dksX6_areOne_1 11 rfl rfl)
theorem dX6_areOne_36 : decode cX6_areOne 36 = .ok (.iconst 0, 1) := dk_3 (dk_at dksX6_areOne_1 12 rfl rfl)
theorem dX6_areOne_37 : decode cX6_areOne 37 = .ok (.iconst 5, 1) := dk_8 (dk_at dksX6_areOne_1 13 rfl rfl)
theorem dX6_areOne_38 : decode cX6_areOne 38 = .ok (.invokevirtual 340, 3) := dk_182 1 84 (dk_at dksX6_areOne_1 14 rfl rfl)
theorem dX6_areOne_41 : decode cX6_areOne 41 = .ok (.aload_n 0, 1) := dk_42 (dk_at dksX6_areOne_1 17 rfl rfl)
theorem dX6_areOne_42 : decode cX6_areOne 42 = .ok (.getfield 334, 3) := dk_180 1 78 (dk_at dksX6_areOne_1 18 rfl rfl)
theorem dX6_areOne_45 : decode cX6_areOne 45 = .ok (.ifCond .le 48, 3) := dk_158 0 48 (dk_at dksX6_areOne_1 21 rfl rfl)
theorem dX6_areOne_48 : decode cX6_areOne 48 = .ok (.aload_n 0, 1) := dk_42 (dk_at dksX6_areOne_2 0 rfl rfl)
theorem dX6_areOne_49 : decode cX6_areOne 49 = .ok (.dup, 1) := dk_89 (dk_at dksX6_areOne_2 1 rfl rfl)
theorem dX6_areOne_50 : decode cX6_areOne 50 = .ok (.getfield 334, 3) := dk_180 1 78 (dk_at dksX6_areOne_2 2 rfl rfl)
theorem dX6_areOne_53 : decode cX6_areOne 53 = .ok (.iconst 1, 1) := dk_4 (dk_at dksX6_areOne_2 5 rfl rfl)
theorem dX6_areOne_54 : decode cX6_areOne 54 = .ok (.isub, 1) := dk_100 (dk_at dksX6_areOne_2 6 rfl rfl)
theorem dX6_areOne_55 : decode cX6_areOne 55 = .ok (.putfield 334, 3) := dk_181 1 78 (dk_at dksX6_areOne_2 7 rfl rfl)
theorem dX6_areOne_58 : decode cX6_areOne 58 = .ok (.aload_n 0, 1) := dk_42 (dk_at dksX6_areOne_2 10 rfl rfl)
theorem dX6_areOne_59 : decode cX6_areOne 59 = .ok (.aload_n 0, 1) := dk_42 (dk_at dksX6_areOne_2 11 rfl rfl)
theorem dX6_areOne_60 : decode cX6_areOne 60 = .ok (.aload_n 0, 1) := dk_42 (dk_at dksX6_areOne_2 12 rfl rfl)
theorem dX6_areOne_61 : decode cX6_areOne 61 = .ok (.getfield 119, 3) := dk_180 0 119 (dk_at dksX6_areOne_2 13 rfl rfl)
theorem dX6_areOne_64 : decode cX6_areOne 64 = .ok (.aload_n 0, 1) := dk_42 (dk_at dksX6_areOne_2 16 rfl rfl)
theorem dX6_areOne_65 : decode cX6_areOne 65 = .ok (.getfield 334, 3) := dk_180 1 78 (dk_at dksX6_areOne_2 17 rfl rfl)
theorem dX6_areOne_68 : decode cX6_areOne 68 = .ok (.iaload, 1) := dk_46 (dk_at dksX6_areOne_2 20 rfl rfl)
theorem dX6_areOne_69 : decode cX6_areOne 69 = .ok (.invokevirtual 328, 3) := dk_182 1 72 (dk_at dksX6_areOne_2 21 rfl rfl)
theorem dX6_areOne_72 : decode cX6_areOne 72 = .ok (.aload_n 0, 1) := dk_42 (dk_at dksX6_areOne_3 0 rfl rfl)
theorem dX6_areOne_73 : decode cX6_areOne 73 = .ok (.aload_n 0, 1) := dk_42 (dk_at dksX6_areOne_3 1 rfl rfl)
theorem dX6_areOne_74 : decode cX6_areOne 74 = .ok (.getfield 122, 3) := dk_180 0 122 (dk_at dksX6_areOne_3 2 rfl rfl)
theorem dX6_areOne_77 : decode cX6_areOne 77 = .ok (.aload_n 0, 1) := dk_42 (dk_at dksX6_areOne_3 5 rfl rfl)
theorem dX6_areOne_78 : decode cX6_areOne 78 = .ok (.getfield 334, 3) := dk_180 1 78 (dk_at dksX6_areOne_3 6 rfl rfl)
theorem dX6_areOne_81 : decode cX6_areOne 81 = .ok (.iaload, 1) := dk_46 (dk_at dksX6_areOne_3 9 rfl rfl)
theorem dX6_areOne_82 : decode cX6_areOne 82 = .ok (.invokevirtual 328, 3) := dk_182 1 72 (dk_at dksX6_areOne_3 10 rfl rfl)
theorem dX6_areOne_85 : decode cX6_areOne 85 = .ok (.invokevirtual 343, 3) := dk_182 1 87 (dk_at dksX6_areOne_3 13 rfl rfl)
theorem dX6_areOne_88 : decode cX6_areOne 88 = .ok (.ifCond .ne (-47), 3) := dk_154 255 209 (dk_at dksX6_areOne_3 16 rfl rfl)
theorem dX6_areOne_91 : decode cX6_areOne 91 = .ok (.iconst 0, 1) := dk_3 (dk_at dksX6_areOne_3 19 rfl rfl)
theorem dX6_areOne_92 : decode cX6_areOne 92 = .ok (.ireturn, 1) := dk_172 (dk_at dksX6_areOne_3 20 rfl rfl)
theorem dX6_areOne_93 : decode cX6_areOne 93 = .ok (.iconst 1, 1) := dk_4 (dk_at dksX6_areOne_3 21 rfl rfl)
theorem dX6_areOne_94 : decode cX6_areOne 94 = .ok (.ireturn, 1) := dk_172 (dk_at dksX6_areOne_3 22 rfl rfl)
abbrev cX6_addPair : ByteArray := prog_13_method_63_code
def yX6_addPair : MethodName := ⟨RX6, "addPair", "(II)V"⟩
def dkwX6_addPair_1 : List UInt8 := [180, 1, 78, 4, 96, 181, 1, 78, 177]
abbrev dktX6_addPair_1 : List UInt8 := dkwX6_addPair_1 ++ []
def dkwX6_addPair_0 : List UInt8 := [42, 180, 0, 119, 42, 180, 1, 78, 27, 79, 42, 180, 0, 122, 42, 180, 1, 78, 28, 79, 42, 89]
abbrev dktX6_addPair_0 : List UInt8 := dkwX6_addPair_0 ++ dktX6_addPair_1
theorem dksX6_addPair_0 : cX6_addPair.data.toList.drop 0 = dktX6_addPair_0 := by decide +kernel
theorem dksX6_addPair_1 : cX6_addPair.data.toList.drop 22 = dktX6_addPair_1 := dk_seg dksX6_addPair_0 22 rfl rfl
theorem dX6_addPair_0 : decode cX6_addPair 0 = .ok (.aload_n 0, 1) := dk_42 (dk_at dksX6_addPair_0 0 rfl rfl)
theorem dX6_addPair_1 : decode cX6_addPair 1 = .ok (.getfield 119, 3) := dk_180 0 119 (dk_at dksX6_addPair_0 1 rfl rfl)
theorem dX6_addPair_4 : decode cX6_addPair 4 = .ok (.aload_n 0, 1) := dk_42 (dk_at dksX6_addPair_0 4 rfl rfl)
theorem dX6_addPair_5 : decode cX6_addPair 5 = .ok (.getfield 334, 3) := dk_180 1 78 (dk_at dksX6_addPair_0 5 rfl rfl)
theorem dX6_addPair_8 : decode cX6_addPair 8 = .ok (.iload_n 1, 1) := dk_27 (dk_at dksX6_addPair_0 8 rfl rfl)
theorem dX6_addPair_9 : decode cX6_addPair 9 = .ok (.iastore, 1) := dk_79 (dk_at dksX6_addPair_0 9 rfl rfl)
theorem dX6_addPair_10 : decode cX6_addPair 10 = .ok (.aload_n 0, 1) := dk_42 (dk_at dksX6_addPair_0 10 rfl rfl)
theorem dX6_addPair_11 : decode cX6_addPair 11 = .ok (.getfield 122, 3) := dk_180 0 122 (dk_at dksX6_addPair_0 11 rfl rfl)
theorem dX6_addPair_14 : decode cX6_addPair 14 = .ok (.aload_n 0, 1) := dk_42 (dk_at dksX6_addPair_0 14 rfl rfl)
theorem dX6_addPair_15 : decode cX6_addPair 15 = .ok (.getfield 334, 3) := dk_180 1 78 (dk_at dksX6_addPair_0 15 rfl rfl)
theorem dX6_addPair_18 : decode cX6_addPair 18 = .ok (.iload_n 2, 1) := dk_28 (dk_at dksX6_addPair_0 18 rfl rfl)
theorem dX6_addPair_19 : decode cX6_addPair 19 = .ok (.iastore, 1) := dk_79 (dk_at dksX6_addPair_0 19 rfl rfl)
theorem dX6_addPair_20 : decode cX6_addPair 20 = .ok (.aload_n 0, 1) := dk_42 (dk_at dksX6_addPair_0 20 rfl rfl)
theorem dX6_addPair_21 : decode cX6_addPair 21 = .ok (.dup, 1) := dk_89 (dk_at dksX6_addPair_0 21 rfl rfl)
theorem dX6_addPair_22 : decode cX6_addPair 22 = .ok (.getfield 334, 3) := dk_180 1 78 (dk_at dksX6_addPair_1 0 rfl rfl)
theorem dX6_addPair_25 : decode cX6_addPair 25 = .ok (.iconst 1, 1) := dk_4 (dk_at dksX6_addPair_1 3 rfl rfl)
theorem dX6_addPair_26 : decode cX6_addPair 26 = .ok (.iadd, 1) := dk_96 (dk_at dksX6_addPair_1 4 rfl rfl)
theorem dX6_addPair_27 : decode cX6_addPair 27 = .ok (.putfield 334, 3) := dk_181 1 78 (dk_at dksX6_addPair_1 5 rfl rfl)
theorem dX6_addPair_30 : decode cX6_addPair 30 = .ok (.return_, 1) := dk_177 (dk_at dksX6_addPair_1 8 rfl rfl)
abbrev cX6_standsFor : ByteArray := prog_13_method_60_code
def yX6_standsFor : MethodName := ⟨RX6, "standsFor", "(I)I"⟩
def dkwX6_standsFor_1 : List UInt8 := [159, 0, 17, 42, 180, 0, 116, 42, 28, 182, 1, 69, 46, 61, 167, 255, 220, 28, 172]
abbrev dktX6_standsFor_1 : List UInt8 := dkwX6_standsFor_1 ++ []
def dkwX6_standsFor_0 : List UInt8 := [27, 61, 42, 28, 182, 1, 66, 184, 0, 181, 153, 0, 31, 42, 180, 0, 116, 42, 28, 182, 1, 69, 46, 2]
abbrev dktX6_standsFor_0 : List UInt8 := dkwX6_standsFor_0 ++ dktX6_standsFor_1
theorem dksX6_standsFor_0 : cX6_standsFor.data.toList.drop 0 = dktX6_standsFor_0 := by decide +kernel
theorem dksX6_standsFor_1 : cX6_standsFor.data.toList.drop 24 = dktX6_standsFor_1 := dk_seg dksX6_standsFor_0 24 rfl rfl
theorem dX6_standsFor_0 : decode cX6_standsFor 0 = .ok (.iload_n 1, 1) := dk_27 (dk_at dksX6_standsFor_0 0 rfl rfl)
theorem dX6_standsFor_1 : decode cX6_standsFor 1 = .ok (.istore_n 2, 1) := dk_61 (dk_at dksX6_standsFor_0 1 rfl rfl)
theorem dX6_standsFor_2 : decode cX6_standsFor 2 = .ok (.aload_n 0, 1) := dk_42 (dk_at dksX6_standsFor_0 2 rfl rfl)
theorem dX6_standsFor_3 : decode cX6_standsFor 3 = .ok (.iload_n 2, 1) := dk_28 (dk_at dksX6_standsFor_0 3 rfl rfl)
theorem dX6_standsFor_4 : decode cX6_standsFor 4 = .ok (.invokevirtual 322, 3) := dk_182 1 66 (dk_at dksX6_standsFor_0 4 rfl rfl)
theorem dX6_standsFor_7 : decode cX6_standsFor 7 = .ok (.invokestatic 181, 3) := dk_184 0 181 (dk_at dksX6_standsFor_0 7 rfl rfl)
theorem dX6_standsFor_10 : decode cX6_standsFor 10 = .ok (.ifCond .eq 31, 3) := dk_153 0 31 (dk_at dksX6_standsFor_0 10 rfl rfl)
theorem dX6_standsFor_13 : decode cX6_standsFor 13 = .ok (.aload_n 0, 1) := dk_42 (dk_at dksX6_standsFor_0 13 rfl rfl)
theorem dX6_standsFor_14 : decode cX6_standsFor 14 = .ok (.getfield 116, 3) := dk_180 0 116 (dk_at dksX6_standsFor_0 14 rfl rfl)
theorem dX6_standsFor_17 : decode cX6_standsFor 17 = .ok (.aload_n 0, 1) := dk_42 (dk_at dksX6_standsFor_0 17 rfl rfl)
theorem dX6_standsFor_18 : decode cX6_standsFor 18 = .ok (.iload_n 2, 1) := dk_28 (dk_at dksX6_standsFor_0 18 rfl rfl)
theorem dX6_standsFor_19 : decode cX6_standsFor 19 = .ok (.invokevirtual 325, 3) := dk_182 1 69 (dk_at dksX6_standsFor_0 19 rfl rfl)
theorem dX6_standsFor_22 : decode cX6_standsFor 22 = .ok (.iaload, 1) := dk_46 (dk_at dksX6_standsFor_0 22 rfl rfl)
theorem dX6_standsFor_23 : decode cX6_standsFor 23 = .ok (.iconst (-1), 1) := dk_2 (dk_at dksX6_standsFor_0 23 rfl rfl)
theorem dX6_standsFor_24 : decode cX6_standsFor 24 = .ok (.if_icmp .eq 17, 3) := dk_159 0 17 (dk_at dksX6_standsFor_1 0 rfl rfl)
theorem dX6_standsFor_27 : decode cX6_standsFor 27 = .ok (.aload_n 0, 1) := dk_42 (dk_at dksX6_standsFor_1 3 rfl rfl)
theorem dX6_standsFor_28 : decode cX6_standsFor 28 = .ok (.getfield 116, 3) := dk_180 0 116 (dk_at dksX6_standsFor_1 4 rfl rfl)
theorem dX6_standsFor_31 : decode cX6_standsFor 31 = .ok (.aload_n 0, 1) := dk_42 (dk_at dksX6_standsFor_1 7 rfl rfl)
theorem dX6_standsFor_32 : decode cX6_standsFor 32 = .ok (.iload_n 2, 1) := dk_28 (dk_at dksX6_standsFor_1 8 rfl rfl)
theorem dX6_standsFor_33 : decode cX6_standsFor 33 = .ok (.invokevirtual 325, 3) := dk_182 1 69 (dk_at dksX6_standsFor_1 9 rfl rfl)
theorem dX6_standsFor_36 : decode cX6_standsFor 36 = .ok (.iaload, 1) := dk_46 (dk_at dksX6_standsFor_1 12 rfl rfl)
theorem dX6_standsFor_37 : decode cX6_standsFor 37 = .ok (.istore_n 2, 1) := dk_61 (dk_at dksX6_standsFor_1 13 rfl rfl)
theorem dX6_standsFor_38 : decode cX6_standsFor 38 = .ok (.goto (-36), 3) := dk_167 255 220 (dk_at dksX6_standsFor_1 14 rfl rfl)
theorem dX6_standsFor_41 : decode cX6_standsFor 41 = .ok (.iload_n 2, 1) := dk_28 (dk_at dksX6_standsFor_1 17 rfl rfl)
theorem dX6_standsFor_42 : decode cX6_standsFor 42 = .ok (.ireturn, 1) := dk_172 (dk_at dksX6_standsFor_1 18 rfl rfl)
abbrev cX6_letterOf : ByteArray := prog_13_method_58_code
def yX6_letterOf : MethodName := ⟨RX6, "letterOf", "(I)I"⟩
def dkwX6_letterOf_1 : List UInt8 := [112, 96, 46, 172]
abbrev dktX6_letterOf_1 : List UInt8 := dkwX6_letterOf_1 ++ []
def dkwX6_letterOf_0 : List UInt8 := [42, 180, 0, 22, 8, 27, 8, 162, 0, 10, 42, 180, 1, 60, 167, 0, 7, 42, 180, 1, 63, 104, 27, 8]
abbrev dktX6_letterOf_0 : List UInt8 := dkwX6_letterOf_0 ++ dktX6_letterOf_1
theorem dksX6_letterOf_0 : cX6_letterOf.data.toList.drop 0 = dktX6_letterOf_0 := by decide +kernel
theorem dksX6_letterOf_1 : cX6_letterOf.data.toList.drop 24 = dktX6_letterOf_1 := dk_seg dksX6_letterOf_0 24 rfl rfl
theorem dX6_letterOf_0 : decode cX6_letterOf 0 = .ok (.aload_n 0, 1) := dk_42 (dk_at dksX6_letterOf_0 0 rfl rfl)
theorem dX6_letterOf_1 : decode cX6_letterOf 1 = .ok (.getfield 22, 3) := dk_180 0 22 (dk_at dksX6_letterOf_0 1 rfl rfl)
theorem dX6_letterOf_4 : decode cX6_letterOf 4 = .ok (.iconst 5, 1) := dk_8 (dk_at dksX6_letterOf_0 4 rfl rfl)
theorem dX6_letterOf_5 : decode cX6_letterOf 5 = .ok (.iload_n 1, 1) := dk_27 (dk_at dksX6_letterOf_0 5 rfl rfl)
theorem dX6_letterOf_6 : decode cX6_letterOf 6 = .ok (.iconst 5, 1) := dk_8 (dk_at dksX6_letterOf_0 6 rfl rfl)
theorem dX6_letterOf_7 : decode cX6_letterOf 7 = .ok (.if_icmp .ge 10, 3) := dk_162 0 10 (dk_at dksX6_letterOf_0 7 rfl rfl)
theorem dX6_letterOf_10 : decode cX6_letterOf 10 = .ok (.aload_n 0, 1) := dk_42 (dk_at dksX6_letterOf_0 10 rfl rfl)
theorem dX6_letterOf_11 : decode cX6_letterOf 11 = .ok (.getfield 316, 3) := dk_180 1 60 (dk_at dksX6_letterOf_0 11 rfl rfl)
theorem dX6_letterOf_14 : decode cX6_letterOf 14 = .ok (.goto 7, 3) := dk_167 0 7 (dk_at dksX6_letterOf_0 14 rfl rfl)
theorem dX6_letterOf_17 : decode cX6_letterOf 17 = .ok (.aload_n 0, 1) := dk_42 (dk_at dksX6_letterOf_0 17 rfl rfl)
theorem dX6_letterOf_18 : decode cX6_letterOf 18 = .ok (.getfield 319, 3) := dk_180 1 63 (dk_at dksX6_letterOf_0 18 rfl rfl)
theorem dX6_letterOf_21 : decode cX6_letterOf 21 = .ok (.imul, 1) := dk_104 (dk_at dksX6_letterOf_0 21 rfl rfl)
theorem dX6_letterOf_22 : decode cX6_letterOf 22 = .ok (.iload_n 1, 1) := dk_27 (dk_at dksX6_letterOf_0 22 rfl rfl)
theorem dX6_letterOf_23 : decode cX6_letterOf 23 = .ok (.iconst 5, 1) := dk_8 (dk_at dksX6_letterOf_0 23 rfl rfl)
theorem dX6_letterOf_24 : decode cX6_letterOf 24 = .ok (.irem, 1) := dk_112 (dk_at dksX6_letterOf_1 0 rfl rfl)
theorem dX6_letterOf_25 : decode cX6_letterOf 25 = .ok (.iadd, 1) := dk_96 (dk_at dksX6_letterOf_1 1 rfl rfl)
theorem dX6_letterOf_26 : decode cX6_letterOf 26 = .ok (.iaload, 1) := dk_46 (dk_at dksX6_letterOf_1 2 rfl rfl)
theorem dX6_letterOf_27 : decode cX6_letterOf 27 = .ok (.ireturn, 1) := dk_172 (dk_at dksX6_letterOf_1 3 rfl rfl)
abbrev cX6_variableOf : ByteArray := prog_13_method_59_code
def yX6_variableOf : MethodName := ⟨RX6, "variableOf", "(I)I"⟩
def dkwX6_variableOf_0 : List UInt8 := [27, 8, 108, 5, 104, 42, 27, 182, 1, 66, 96, 16, 120, 100, 172]
abbrev dktX6_variableOf_0 : List UInt8 := dkwX6_variableOf_0 ++ []
theorem dksX6_variableOf_0 : cX6_variableOf.data.toList.drop 0 = dktX6_variableOf_0 := by decide +kernel
theorem dX6_variableOf_0 : decode cX6_variableOf 0 = .ok (.iload_n 1, 1) := dk_27 (dk_at dksX6_variableOf_0 0 rfl rfl)
theorem dX6_variableOf_1 : decode cX6_variableOf 1 = .ok (.iconst 5, 1) := dk_8 (dk_at dksX6_variableOf_0 1 rfl rfl)
theorem dX6_variableOf_2 : decode cX6_variableOf 2 = .ok (.idiv, 1) := dk_108 (dk_at dksX6_variableOf_0 2 rfl rfl)
theorem dX6_variableOf_3 : decode cX6_variableOf 3 = .ok (.iconst 2, 1) := dk_5 (dk_at dksX6_variableOf_0 3 rfl rfl)
theorem dX6_variableOf_4 : decode cX6_variableOf 4 = .ok (.imul, 1) := dk_104 (dk_at dksX6_variableOf_0 4 rfl rfl)
theorem dX6_variableOf_5 : decode cX6_variableOf 5 = .ok (.aload_n 0, 1) := dk_42 (dk_at dksX6_variableOf_0 5 rfl rfl)
theorem dX6_variableOf_6 : decode cX6_variableOf 6 = .ok (.iload_n 1, 1) := dk_27 (dk_at dksX6_variableOf_0 6 rfl rfl)
theorem dX6_variableOf_7 : decode cX6_variableOf 7 = .ok (.invokevirtual 322, 3) := dk_182 1 66 (dk_at dksX6_variableOf_0 7 rfl rfl)
theorem dX6_variableOf_10 : decode cX6_variableOf 10 = .ok (.iadd, 1) := dk_96 (dk_at dksX6_variableOf_0 10 rfl rfl)
theorem dX6_variableOf_11 : decode cX6_variableOf 11 = .ok (.bipush 120, 2) := dk_16 120 (dk_at dksX6_variableOf_0 11 rfl rfl)
theorem dX6_variableOf_13 : decode cX6_variableOf 13 = .ok (.isub, 1) := dk_100 (dk_at dksX6_variableOf_0 13 rfl rfl)
theorem dX6_variableOf_14 : decode cX6_variableOf 14 = .ok (.ireturn, 1) := dk_172 (dk_at dksX6_variableOf_0 14 rfl rfl)
abbrev cX6_joins : ByteArray := prog_13_method_64_code
def yX6_joins : MethodName := ⟨RX6, "joins", "(II)Z"⟩
def dkwX6_joins_7 : List UInt8 := [182, 1, 84, 4, 172]
abbrev dktX6_joins_7 : List UInt8 := dkwX6_joins_7 ++ []
def dkwX6_joins_6 : List UInt8 := [182, 1, 75, 182, 1, 84, 42, 27, 182, 1, 66, 184, 0, 174, 158, 0, 13, 42, 27, 4, 96, 28, 4, 96]
abbrev dktX6_joins_6 : List UInt8 := dkwX6_joins_6 ++ dktX6_joins_7
def dkwX6_joins_5 : List UInt8 := [182, 1, 66, 184, 0, 174, 4, 164, 0, 21, 42, 42, 27, 4, 96, 182, 1, 75, 42, 28, 4, 96]
abbrev dktX6_joins_5 : List UInt8 := dkwX6_joins_5 ++ dktX6_joins_6
def dkwX6_joins_4 : List UInt8 := [21, 5, 21, 6, 79, 4, 172, 42, 27, 182, 1, 66, 42, 28, 182, 1, 66, 159, 0, 5, 3, 172, 42, 27]
abbrev dktX6_joins_4 : List UInt8 := dkwX6_joins_4 ++ dktX6_joins_5
def dkwX6_joins_3 : List UInt8 := [28, 167, 0, 4, 27, 54, 6, 42, 21, 5, 21, 6, 182, 1, 81, 153, 0, 5, 3, 172, 42, 180, 0, 116]
abbrev dktX6_joins_3 : List UInt8 := dkwX6_joins_3 ++ dktX6_joins_4
def dkwX6_joins_2 : List UInt8 := [21, 4, 153, 0, 53, 42, 29, 153, 0, 7, 27, 167, 0, 4, 28, 182, 1, 69, 54, 5, 29, 153, 0, 7]
abbrev dktX6_joins_2 : List UInt8 := dkwX6_joins_2 ++ dktX6_joins_3
def dkwX6_joins_1 : List UInt8 := [21, 4, 153, 0, 18, 42, 27, 182, 1, 69, 42, 28, 182, 1, 69, 160, 0, 5, 4, 172, 29, 154, 0, 8]
abbrev dktX6_joins_1 : List UInt8 := dkwX6_joins_1 ++ dktX6_joins_2
def dkwX6_joins_0 : List UInt8 := [42, 27, 182, 1, 66, 184, 0, 181, 62, 42, 28, 182, 1, 66, 184, 0, 181, 54, 4, 29, 153, 0, 23]
abbrev dktX6_joins_0 : List UInt8 := dkwX6_joins_0 ++ dktX6_joins_1
theorem dksX6_joins_0 : cX6_joins.data.toList.drop 0 = dktX6_joins_0 := by decide +kernel
theorem dksX6_joins_1 : cX6_joins.data.toList.drop 23 = dktX6_joins_1 := dk_seg dksX6_joins_0 23 rfl rfl
theorem dksX6_joins_2 : cX6_joins.data.toList.drop 47 = dktX6_joins_2 := dk_seg dksX6_joins_1 24 rfl rfl
theorem dksX6_joins_3 : cX6_joins.data.toList.drop 71 = dktX6_joins_3 := dk_seg dksX6_joins_2 24 rfl rfl
theorem dksX6_joins_4 : cX6_joins.data.toList.drop 95 = dktX6_joins_4 := dk_seg dksX6_joins_3 24 rfl rfl
theorem dksX6_joins_5 : cX6_joins.data.toList.drop 119 = dktX6_joins_5 := dk_seg dksX6_joins_4 24 rfl rfl
theorem dksX6_joins_6 : cX6_joins.data.toList.drop 141 = dktX6_joins_6 := dk_seg dksX6_joins_5 22 rfl rfl
theorem dksX6_joins_7 : cX6_joins.data.toList.drop 165 = dktX6_joins_7 := dk_seg dksX6_joins_6 24 rfl rfl
theorem dX6_joins_0 : decode cX6_joins 0 = .ok (.aload_n 0, 1) := dk_42 (dk_at dksX6_joins_0 0 rfl rfl)
theorem dX6_joins_1 : decode cX6_joins 1 = .ok (.iload_n 1, 1) := dk_27 (dk_at dksX6_joins_0 1 rfl rfl)
theorem dX6_joins_2 : decode cX6_joins 2 = .ok (.invokevirtual 322, 3) := dk_182 1 66 (dk_at dksX6_joins_0 2 rfl rfl)
theorem dX6_joins_5 : decode cX6_joins 5 = .ok (.invokestatic 181, 3) := dk_184 0 181 (dk_at dksX6_joins_0 5 rfl rfl)
theorem dX6_joins_8 : decode cX6_joins 8 = .ok (.istore_n 3, 1) := dk_62 (dk_at dksX6_joins_0 8 rfl rfl)
theorem dX6_joins_9 : decode cX6_joins 9 = .ok (.aload_n 0, 1) := dk_42 (dk_at dksX6_joins_0 9 rfl rfl)
theorem dX6_joins_10 : decode cX6_joins 10 = .ok (.iload_n 2, 1) := dk_28 (dk_at dksX6_joins_0 10 rfl rfl)
theorem dX6_joins_11 : decode cX6_joins 11 = .ok (.invokevirtual 322, 3) := dk_182 1 66 (dk_at dksX6_joins_0 11 rfl rfl)
theorem dX6_joins_14 : decode cX6_joins 14 = .ok (.invokestatic 181, 3) := dk_184 0 181 (dk_at dksX6_joins_0 14 rfl rfl)
theorem dX6_joins_17 : decode cX6_joins 17 = .ok (.istore 4, 2) := dk_54 4 (dk_at dksX6_joins_0 17 rfl rfl)
theorem dX6_joins_19 : decode cX6_joins 19 = .ok (.iload_n 3, 1) := dk_29 (dk_at dksX6_joins_0 19 rfl rfl)
theorem dX6_joins_20 : decode cX6_joins 20 = .ok (.ifCond .eq 23, 3) := dk_153 0 23 (dk_at dksX6_joins_0 20 rfl rfl)
theorem dX6_joins_23 : decode cX6_joins 23 = .ok (.iload 4, 2) := dk_21 4 (dk_at dksX6_joins_1 0 rfl rfl)
theorem dX6_joins_25 : decode cX6_joins 25 = .ok (.ifCond .eq 18, 3) := dk_153 0 18 (dk_at dksX6_joins_1 2 rfl rfl)
theorem dX6_joins_28 : decode cX6_joins 28 = .ok (.aload_n 0, 1) := dk_42 (dk_at dksX6_joins_1 5 rfl rfl)
theorem dX6_joins_29 : decode cX6_joins 29 = .ok (.iload_n 1, 1) := dk_27 (dk_at dksX6_joins_1 6 rfl rfl)
theorem dX6_joins_30 : decode cX6_joins 30 = .ok (.invokevirtual 325, 3) := dk_182 1 69 (dk_at dksX6_joins_1 7 rfl rfl)
theorem dX6_joins_33 : decode cX6_joins 33 = .ok (.aload_n 0, 1) := dk_42 (dk_at dksX6_joins_1 10 rfl rfl)
theorem dX6_joins_34 : decode cX6_joins 34 = .ok (.iload_n 2, 1) := dk_28 (dk_at dksX6_joins_1 11 rfl rfl)
theorem dX6_joins_35 : decode cX6_joins 35 = .ok (.invokevirtual 325, 3) := dk_182 1 69 (dk_at dksX6_joins_1 12 rfl rfl)
theorem dX6_joins_38 : decode cX6_joins 38 = .ok (.if_icmp .ne 5, 3) := dk_160 0 5 (dk_at dksX6_joins_1 15 rfl rfl)
theorem dX6_joins_41 : decode cX6_joins 41 = .ok (.iconst 1, 1) := dk_4 (dk_at dksX6_joins_1 18 rfl rfl)
theorem dX6_joins_42 : decode cX6_joins 42 = .ok (.ireturn, 1) := dk_172 (dk_at dksX6_joins_1 19 rfl rfl)
theorem dX6_joins_43 : decode cX6_joins 43 = .ok (.iload_n 3, 1) := dk_29 (dk_at dksX6_joins_1 20 rfl rfl)
theorem dX6_joins_44 : decode cX6_joins 44 = .ok (.ifCond .ne 8, 3) := dk_154 0 8 (dk_at dksX6_joins_1 21 rfl rfl)
theorem dX6_joins_47 : decode cX6_joins 47 = .ok (.iload 4, 2) := dk_21 4 (dk_at dksX6_joins_2 0 rfl rfl)
theorem dX6_joins_49 : decode cX6_joins 49 = .ok (.ifCond .eq 53, 3) := dk_153 0 53 (dk_at dksX6_joins_2 2 rfl rfl)
theorem dX6_joins_52 : decode cX6_joins 52 = .ok (.aload_n 0, 1) := dk_42 (dk_at dksX6_joins_2 5 rfl rfl)
theorem dX6_joins_53 : decode cX6_joins 53 = .ok (.iload_n 3, 1) := dk_29 (dk_at dksX6_joins_2 6 rfl rfl)
theorem dX6_joins_54 : decode cX6_joins 54 = .ok (.ifCond .eq 7, 3) := dk_153 0 7 (dk_at dksX6_joins_2 7 rfl rfl)
theorem dX6_joins_57 : decode cX6_joins 57 = .ok (.iload_n 1, 1) := dk_27 (dk_at dksX6_joins_2 10 rfl rfl)
theorem dX6_joins_58 : decode cX6_joins 58 = .ok (.goto 4, 3) := dk_167 0 4 (dk_at dksX6_joins_2 11 rfl rfl)
theorem dX6_joins_61 : decode cX6_joins 61 = .ok (.iload_n 2, 1) := dk_28 (dk_at dksX6_joins_2 14 rfl rfl)
theorem dX6_joins_62 : decode cX6_joins 62 = .ok (.invokevirtual 325, 3) := dk_182 1 69 (dk_at dksX6_joins_2 15 rfl rfl)
theorem dX6_joins_65 : decode cX6_joins 65 = .ok (.istore 5, 2) := dk_54 5 (dk_at dksX6_joins_2 18 rfl rfl)
theorem dX6_joins_67 : decode cX6_joins 67 = .ok (.iload_n 3, 1) := dk_29 (dk_at dksX6_joins_2 20 rfl rfl)
theorem dX6_joins_68 : decode cX6_joins 68 = .ok (.ifCond .eq 7, 3) := dk_153 0 7 (dk_at dksX6_joins_2 21 rfl rfl)
theorem dX6_joins_71 : decode cX6_joins 71 = .ok (.iload_n 2, 1) := dk_28 (dk_at dksX6_joins_3 0 rfl rfl)
theorem dX6_joins_72 : decode cX6_joins 72 = .ok (.goto 4, 3) := dk_167 0 4 (dk_at dksX6_joins_3 1 rfl rfl)
theorem dX6_joins_75 : decode cX6_joins 75 = .ok (.iload_n 1, 1) := dk_27 (dk_at dksX6_joins_3 4 rfl rfl)
theorem dX6_joins_76 : decode cX6_joins 76 = .ok (.istore 6, 2) := dk_54 6 (dk_at dksX6_joins_3 5 rfl rfl)
theorem dX6_joins_78 : decode cX6_joins 78 = .ok (.aload_n 0, 1) := dk_42 (dk_at dksX6_joins_3 7 rfl rfl)
theorem dX6_joins_79 : decode cX6_joins 79 = .ok (.iload 5, 2) := dk_21 5 (dk_at dksX6_joins_3 8 rfl rfl)
theorem dX6_joins_81 : decode cX6_joins 81 = .ok (.iload 6, 2) := dk_21 6 (dk_at dksX6_joins_3 10 rfl rfl)
theorem dX6_joins_83 : decode cX6_joins 83 = .ok (.invokevirtual 337, 3) := dk_182 1 81 (dk_at dksX6_joins_3 12 rfl rfl)
theorem dX6_joins_86 : decode cX6_joins 86 = .ok (.ifCond .eq 5, 3) := dk_153 0 5 (dk_at dksX6_joins_3 15 rfl rfl)
theorem dX6_joins_89 : decode cX6_joins 89 = .ok (.iconst 0, 1) := dk_3 (dk_at dksX6_joins_3 18 rfl rfl)
theorem dX6_joins_90 : decode cX6_joins 90 = .ok (.ireturn, 1) := dk_172 (dk_at dksX6_joins_3 19 rfl rfl)
theorem dX6_joins_91 : decode cX6_joins 91 = .ok (.aload_n 0, 1) := dk_42 (dk_at dksX6_joins_3 20 rfl rfl)
theorem dX6_joins_92 : decode cX6_joins 92 = .ok (.getfield 116, 3) := dk_180 0 116 (dk_at dksX6_joins_3 21 rfl rfl)
theorem dX6_joins_95 : decode cX6_joins 95 = .ok (.iload 5, 2) := dk_21 5 (dk_at dksX6_joins_4 0 rfl rfl)
theorem dX6_joins_97 : decode cX6_joins 97 = .ok (.iload 6, 2) := dk_21 6 (dk_at dksX6_joins_4 2 rfl rfl)
theorem dX6_joins_99 : decode cX6_joins 99 = .ok (.iastore, 1) := dk_79 (dk_at dksX6_joins_4 4 rfl rfl)
theorem dX6_joins_100 : decode cX6_joins 100 = .ok (.iconst 1, 1) := dk_4 (dk_at dksX6_joins_4 5 rfl rfl)
theorem dX6_joins_101 : decode cX6_joins 101 = .ok (.ireturn, 1) := dk_172 (dk_at dksX6_joins_4 6 rfl rfl)
theorem dX6_joins_102 : decode cX6_joins 102 = .ok (.aload_n 0, 1) := dk_42 (dk_at dksX6_joins_4 7 rfl rfl)
theorem dX6_joins_103 : decode cX6_joins 103 = .ok (.iload_n 1, 1) := dk_27 (dk_at dksX6_joins_4 8 rfl rfl)
theorem dX6_joins_104 : decode cX6_joins 104 = .ok (.invokevirtual 322, 3) := dk_182 1 66 (dk_at dksX6_joins_4 9 rfl rfl)
theorem dX6_joins_107 : decode cX6_joins 107 = .ok (.aload_n 0, 1) := dk_42 (dk_at dksX6_joins_4 12 rfl rfl)
theorem dX6_joins_108 : decode cX6_joins 108 = .ok (.iload_n 2, 1) := dk_28 (dk_at dksX6_joins_4 13 rfl rfl)
theorem dX6_joins_109 : decode cX6_joins 109 = .ok (.invokevirtual 322, 3) := dk_182 1 66 (dk_at dksX6_joins_4 14 rfl rfl)
theorem dX6_joins_112 : decode cX6_joins 112 = .ok (.if_icmp .eq 5, 3) := dk_159 0 5 (dk_at dksX6_joins_4 17 rfl rfl)
theorem dX6_joins_115 : decode cX6_joins 115 = .ok (.iconst 0, 1) := dk_3 (dk_at dksX6_joins_4 20 rfl rfl)
theorem dX6_joins_116 : decode cX6_joins 116 = .ok (.ireturn, 1) := dk_172 (dk_at dksX6_joins_4 21 rfl rfl)
theorem dX6_joins_117 : decode cX6_joins 117 = .ok (.aload_n 0, 1) := dk_42 (dk_at dksX6_joins_4 22 rfl rfl)
theorem dX6_joins_118 : decode cX6_joins 118 = .ok (.iload_n 1, 1) := dk_27 (dk_at dksX6_joins_4 23 rfl rfl)
theorem dX6_joins_119 : decode cX6_joins 119 = .ok (.invokevirtual 322, 3) := dk_182 1 66 (dk_at dksX6_joins_5 0 rfl rfl)
theorem dX6_joins_122 : decode cX6_joins 122 = .ok (.invokestatic 174, 3) := dk_184 0 174 (dk_at dksX6_joins_5 3 rfl rfl)
theorem dX6_joins_125 : decode cX6_joins 125 = .ok (.iconst 1, 1) := dk_4 (dk_at dksX6_joins_5 6 rfl rfl)
theorem dX6_joins_126 : decode cX6_joins 126 = .ok (.if_icmp .le 21, 3) := dk_164 0 21 (dk_at dksX6_joins_5 7 rfl rfl)
theorem dX6_joins_129 : decode cX6_joins 129 = .ok (.aload_n 0, 1) := dk_42 (dk_at dksX6_joins_5 10 rfl rfl)
theorem dX6_joins_130 : decode cX6_joins 130 = .ok (.aload_n 0, 1) := dk_42 (dk_at dksX6_joins_5 11 rfl rfl)
theorem dX6_joins_131 : decode cX6_joins 131 = .ok (.iload_n 1, 1) := dk_27 (dk_at dksX6_joins_5 12 rfl rfl)
theorem dX6_joins_132 : decode cX6_joins 132 = .ok (.iconst 1, 1) := dk_4 (dk_at dksX6_joins_5 13 rfl rfl)
theorem dX6_joins_133 : decode cX6_joins 133 = .ok (.iadd, 1) := dk_96 (dk_at dksX6_joins_5 14 rfl rfl)
theorem dX6_joins_134 : decode cX6_joins 134 = .ok (.invokevirtual 331, 3) := dk_182 1 75 (dk_at dksX6_joins_5 15 rfl rfl)
theorem dX6_joins_137 : decode cX6_joins 137 = .ok (.aload_n 0, 1) := dk_42 (dk_at dksX6_joins_5 18 rfl rfl)
theorem dX6_joins_138 : decode cX6_joins 138 = .ok (.iload_n 2, 1) := dk_28 (dk_at dksX6_joins_5 19 rfl rfl)
theorem dX6_joins_139 : decode cX6_joins 139 = .ok (.iconst 1, 1) := dk_4 (dk_at dksX6_joins_5 20 rfl rfl)
theorem dX6_joins_140 : decode cX6_joins 140 = .ok (.iadd, 1) := dk_96 (dk_at dksX6_joins_5 21 rfl rfl)
theorem dX6_joins_141 : decode cX6_joins 141 = .ok (.invokevirtual 331, 3) := dk_182 1 75 (dk_at dksX6_joins_6 0 rfl rfl)
theorem dX6_joins_144 : decode cX6_joins 144 = .ok (.invokevirtual 340, 3) := dk_182 1 84 (dk_at dksX6_joins_6 3 rfl rfl)
theorem dX6_joins_147 : decode cX6_joins 147 = .ok (.aload_n 0, 1) := dk_42 (dk_at dksX6_joins_6 6 rfl rfl)
theorem dX6_joins_148 : decode cX6_joins 148 = .ok (.iload_n 1, 1) := dk_27 (dk_at dksX6_joins_6 7 rfl rfl)
theorem dX6_joins_149 : decode cX6_joins 149 = .ok (.invokevirtual 322, 3) := dk_182 1 66 (dk_at dksX6_joins_6 8 rfl rfl)
theorem dX6_joins_152 : decode cX6_joins 152 = .ok (.invokestatic 174, 3) := dk_184 0 174 (dk_at dksX6_joins_6 11 rfl rfl)
theorem dX6_joins_155 : decode cX6_joins 155 = .ok (.ifCond .le 13, 3) := dk_158 0 13 (dk_at dksX6_joins_6 14 rfl rfl)
theorem dX6_joins_158 : decode cX6_joins 158 = .ok (.aload_n 0, 1) := dk_42 (dk_at dksX6_joins_6 17 rfl rfl)
theorem dX6_joins_159 : decode cX6_joins 159 = .ok (.iload_n 1, 1) := dk_27 (dk_at dksX6_joins_6 18 rfl rfl)
theorem dX6_joins_160 : decode cX6_joins 160 = .ok (.iconst 1, 1) := dk_4 (dk_at dksX6_joins_6 19 rfl rfl)
theorem dX6_joins_161 : decode cX6_joins 161 = .ok (.iadd, 1) := dk_96 (dk_at dksX6_joins_6 20 rfl rfl)
theorem dX6_joins_162 : decode cX6_joins 162 = .ok (.iload_n 2, 1) := dk_28 (dk_at dksX6_joins_6 21 rfl rfl)
theorem dX6_joins_163 : decode cX6_joins 163 = .ok (.iconst 1, 1) := dk_4 (dk_at dksX6_joins_6 22 rfl rfl)
theorem dX6_joins_164 : decode cX6_joins 164 = .ok (.iadd, 1) := dk_96 (dk_at dksX6_joins_6 23 rfl rfl)
theorem dX6_joins_165 : decode cX6_joins 165 = .ok (.invokevirtual 340, 3) := dk_182 1 84 (dk_at dksX6_joins_7 0 rfl rfl)
theorem dX6_joins_168 : decode cX6_joins 168 = .ok (.iconst 1, 1) := dk_4 (dk_at dksX6_joins_7 3 rfl rfl)
theorem dX6_joins_169 : decode cX6_joins 169 = .ok (.ireturn, 1) := dk_172 (dk_at dksX6_joins_7 4 rfl rfl)
abbrev cX6_occurs : ByteArray := prog_13_method_62_code
def yX6_occurs : MethodName := ⟨RX6, "occurs", "(II)Z"⟩
def dkwX6_occurs_4 : List UInt8 := [96, 182, 1, 75, 79, 132, 3, 1, 167, 255, 162, 3, 172]
abbrev dktX6_occurs_4 : List UInt8 := dkwX6_occurs_4 ++ []
def dkwX6_occurs_3 : List UInt8 := [4, 96, 79, 132, 3, 1, 21, 5, 184, 0, 174, 4, 164, 0, 20, 42, 180, 0, 125, 29, 42, 21, 4, 4]
abbrev dktX6_occurs_3 : List UInt8 := dkwX6_occurs_3 ++ dktX6_occurs_4
def dkwX6_occurs_2 : List UInt8 := [182, 1, 69, 27, 160, 0, 5, 4, 172, 21, 5, 184, 0, 174, 158, 0, 16, 42, 180, 0, 125, 29, 21, 4]
abbrev dktX6_occurs_2 : List UInt8 := dkwX6_occurs_2 ++ dktX6_occurs_3
def dkwX6_occurs_1 : List UInt8 := [182, 1, 72, 54, 4, 42, 21, 4, 182, 1, 66, 54, 5, 21, 5, 184, 0, 181, 153, 0, 15, 42, 21, 4]
abbrev dktX6_occurs_1 : List UInt8 := dkwX6_occurs_1 ++ dktX6_occurs_2
def dkwX6_occurs_0 : List UInt8 := [4, 62, 42, 180, 0, 125, 3, 28, 79, 29, 158, 0, 96, 132, 3, 255, 42, 42, 180, 0, 125, 29, 46]
abbrev dktX6_occurs_0 : List UInt8 := dkwX6_occurs_0 ++ dktX6_occurs_1
theorem dksX6_occurs_0 : cX6_occurs.data.toList.drop 0 = dktX6_occurs_0 := by decide +kernel
theorem dksX6_occurs_1 : cX6_occurs.data.toList.drop 23 = dktX6_occurs_1 := dk_seg dksX6_occurs_0 23 rfl rfl
theorem dksX6_occurs_2 : cX6_occurs.data.toList.drop 47 = dktX6_occurs_2 := dk_seg dksX6_occurs_1 24 rfl rfl
theorem dksX6_occurs_3 : cX6_occurs.data.toList.drop 71 = dktX6_occurs_3 := dk_seg dksX6_occurs_2 24 rfl rfl
theorem dksX6_occurs_4 : cX6_occurs.data.toList.drop 95 = dktX6_occurs_4 := dk_seg dksX6_occurs_3 24 rfl rfl
theorem dX6_occurs_0 : decode cX6_occurs 0 = .ok (.iconst 1, 1) := dk_4 (dk_at dksX6_occurs_0 0 rfl rfl)
theorem dX6_occurs_1 : decode cX6_occurs 1 = .ok (.istore_n 3, 1) := dk_62 (dk_at dksX6_occurs_0 1 rfl rfl)
theorem dX6_occurs_2 : decode cX6_occurs 2 = .ok (.aload_n 0, 1) := dk_42 (dk_at dksX6_occurs_0 2 rfl rfl)
theorem dX6_occurs_3 : decode cX6_occurs 3 = .ok (.getfield 125, 3) := dk_180 0 125 (dk_at dksX6_occurs_0 3 rfl rfl)
theorem dX6_occurs_6 : decode cX6_occurs 6 = .ok (.iconst 0, 1) := dk_3 (dk_at dksX6_occurs_0 6 rfl rfl)
theorem dX6_occurs_7 : decode cX6_occurs 7 = .ok (.iload_n 2, 1) := dk_28 (dk_at dksX6_occurs_0 7 rfl rfl)
theorem dX6_occurs_8 : decode cX6_occurs 8 = .ok (.iastore, 1) := dk_79 (dk_at dksX6_occurs_0 8 rfl rfl)
theorem dX6_occurs_9 : decode cX6_occurs 9 = .ok (.iload_n 3, 1) := dk_29 (dk_at dksX6_occurs_0 9 rfl rfl)
theorem dX6_occurs_10 : decode cX6_occurs 10 = .ok (.ifCond .le 96, 3) := dk_158 0 96 (dk_at dksX6_occurs_0 10 rfl rfl)
theorem dX6_occurs_13 : decode cX6_occurs 13 = .ok (.iinc 3 (-1), 3) := dk_132 3 255 (dk_at dksX6_occurs_0 13 rfl rfl)
theorem dX6_occurs_16 : decode cX6_occurs 16 = .ok (.aload_n 0, 1) := dk_42 (dk_at dksX6_occurs_0 16 rfl rfl)
theorem dX6_occurs_17 : decode cX6_occurs 17 = .ok (.aload_n 0, 1) := dk_42 (dk_at dksX6_occurs_0 17 rfl rfl)
theorem dX6_occurs_18 : decode cX6_occurs 18 = .ok (.getfield 125, 3) := dk_180 0 125 (dk_at dksX6_occurs_0 18 rfl rfl)
theorem dX6_occurs_21 : decode cX6_occurs 21 = .ok (.iload_n 3, 1) := dk_29 (dk_at dksX6_occurs_0 21 rfl rfl)
theorem dX6_occurs_22 : decode cX6_occurs 22 = .ok (.iaload, 1) := dk_46 (dk_at dksX6_occurs_0 22 rfl rfl)
theorem dX6_occurs_23 : decode cX6_occurs 23 = .ok (.invokevirtual 328, 3) := dk_182 1 72 (dk_at dksX6_occurs_1 0 rfl rfl)
theorem dX6_occurs_26 : decode cX6_occurs 26 = .ok (.istore 4, 2) := dk_54 4 (dk_at dksX6_occurs_1 3 rfl rfl)
theorem dX6_occurs_28 : decode cX6_occurs 28 = .ok (.aload_n 0, 1) := dk_42 (dk_at dksX6_occurs_1 5 rfl rfl)
theorem dX6_occurs_29 : decode cX6_occurs 29 = .ok (.iload 4, 2) := dk_21 4 (dk_at dksX6_occurs_1 6 rfl rfl)
theorem dX6_occurs_31 : decode cX6_occurs 31 = .ok (.invokevirtual 322, 3) := dk_182 1 66 (dk_at dksX6_occurs_1 8 rfl rfl)
theorem dX6_occurs_34 : decode cX6_occurs 34 = .ok (.istore 5, 2) := dk_54 5 (dk_at dksX6_occurs_1 11 rfl rfl)
theorem dX6_occurs_36 : decode cX6_occurs 36 = .ok (.iload 5, 2) := dk_21 5 (dk_at dksX6_occurs_1 13 rfl rfl)
theorem dX6_occurs_38 : decode cX6_occurs 38 = .ok (.invokestatic 181, 3) := dk_184 0 181 (dk_at dksX6_occurs_1 15 rfl rfl)
theorem dX6_occurs_41 : decode cX6_occurs 41 = .ok (.ifCond .eq 15, 3) := dk_153 0 15 (dk_at dksX6_occurs_1 18 rfl rfl)
theorem dX6_occurs_44 : decode cX6_occurs 44 = .ok (.aload_n 0, 1) := dk_42 (dk_at dksX6_occurs_1 21 rfl rfl)
theorem dX6_occurs_45 : decode cX6_occurs 45 = .ok (.iload 4, 2) := dk_21 4 (dk_at dksX6_occurs_1 22 rfl rfl)
theorem dX6_occurs_47 : decode cX6_occurs 47 = .ok (.invokevirtual 325, 3) := dk_182 1 69 (dk_at dksX6_occurs_2 0 rfl rfl)
theorem dX6_occurs_50 : decode cX6_occurs 50 = .ok (.iload_n 1, 1) := dk_27 (dk_at dksX6_occurs_2 3 rfl rfl)
theorem dX6_occurs_51 : decode cX6_occurs 51 = .ok (.if_icmp .ne 5, 3) := dk_160 0 5 (dk_at dksX6_occurs_2 4 rfl rfl)
theorem dX6_occurs_54 : decode cX6_occurs 54 = .ok (.iconst 1, 1) := dk_4 (dk_at dksX6_occurs_2 7 rfl rfl)
theorem dX6_occurs_55 : decode cX6_occurs 55 = .ok (.ireturn, 1) := dk_172 (dk_at dksX6_occurs_2 8 rfl rfl)
theorem dX6_occurs_56 : decode cX6_occurs 56 = .ok (.iload 5, 2) := dk_21 5 (dk_at dksX6_occurs_2 9 rfl rfl)
theorem dX6_occurs_58 : decode cX6_occurs 58 = .ok (.invokestatic 174, 3) := dk_184 0 174 (dk_at dksX6_occurs_2 11 rfl rfl)
theorem dX6_occurs_61 : decode cX6_occurs 61 = .ok (.ifCond .le 16, 3) := dk_158 0 16 (dk_at dksX6_occurs_2 14 rfl rfl)
theorem dX6_occurs_64 : decode cX6_occurs 64 = .ok (.aload_n 0, 1) := dk_42 (dk_at dksX6_occurs_2 17 rfl rfl)
theorem dX6_occurs_65 : decode cX6_occurs 65 = .ok (.getfield 125, 3) := dk_180 0 125 (dk_at dksX6_occurs_2 18 rfl rfl)
theorem dX6_occurs_68 : decode cX6_occurs 68 = .ok (.iload_n 3, 1) := dk_29 (dk_at dksX6_occurs_2 21 rfl rfl)
theorem dX6_occurs_69 : decode cX6_occurs 69 = .ok (.iload 4, 2) := dk_21 4 (dk_at dksX6_occurs_2 22 rfl rfl)
theorem dX6_occurs_71 : decode cX6_occurs 71 = .ok (.iconst 1, 1) := dk_4 (dk_at dksX6_occurs_3 0 rfl rfl)
theorem dX6_occurs_72 : decode cX6_occurs 72 = .ok (.iadd, 1) := dk_96 (dk_at dksX6_occurs_3 1 rfl rfl)
theorem dX6_occurs_73 : decode cX6_occurs 73 = .ok (.iastore, 1) := dk_79 (dk_at dksX6_occurs_3 2 rfl rfl)
theorem dX6_occurs_74 : decode cX6_occurs 74 = .ok (.iinc 3 1, 3) := dk_132 3 1 (dk_at dksX6_occurs_3 3 rfl rfl)
theorem dX6_occurs_77 : decode cX6_occurs 77 = .ok (.iload 5, 2) := dk_21 5 (dk_at dksX6_occurs_3 6 rfl rfl)
theorem dX6_occurs_79 : decode cX6_occurs 79 = .ok (.invokestatic 174, 3) := dk_184 0 174 (dk_at dksX6_occurs_3 8 rfl rfl)
theorem dX6_occurs_82 : decode cX6_occurs 82 = .ok (.iconst 1, 1) := dk_4 (dk_at dksX6_occurs_3 11 rfl rfl)
theorem dX6_occurs_83 : decode cX6_occurs 83 = .ok (.if_icmp .le 20, 3) := dk_164 0 20 (dk_at dksX6_occurs_3 12 rfl rfl)
theorem dX6_occurs_86 : decode cX6_occurs 86 = .ok (.aload_n 0, 1) := dk_42 (dk_at dksX6_occurs_3 15 rfl rfl)
theorem dX6_occurs_87 : decode cX6_occurs 87 = .ok (.getfield 125, 3) := dk_180 0 125 (dk_at dksX6_occurs_3 16 rfl rfl)
theorem dX6_occurs_90 : decode cX6_occurs 90 = .ok (.iload_n 3, 1) := dk_29 (dk_at dksX6_occurs_3 19 rfl rfl)
theorem dX6_occurs_91 : decode cX6_occurs 91 = .ok (.aload_n 0, 1) := dk_42 (dk_at dksX6_occurs_3 20 rfl rfl)
theorem dX6_occurs_92 : decode cX6_occurs 92 = .ok (.iload 4, 2) := dk_21 4 (dk_at dksX6_occurs_3 21 rfl rfl)
theorem dX6_occurs_94 : decode cX6_occurs 94 = .ok (.iconst 1, 1) := dk_4 (dk_at dksX6_occurs_3 23 rfl rfl)
theorem dX6_occurs_95 : decode cX6_occurs 95 = .ok (.iadd, 1) := dk_96 (dk_at dksX6_occurs_4 0 rfl rfl)
theorem dX6_occurs_96 : decode cX6_occurs 96 = .ok (.invokevirtual 331, 3) := dk_182 1 75 (dk_at dksX6_occurs_4 1 rfl rfl)
theorem dX6_occurs_99 : decode cX6_occurs 99 = .ok (.iastore, 1) := dk_79 (dk_at dksX6_occurs_4 4 rfl rfl)
theorem dX6_occurs_100 : decode cX6_occurs 100 = .ok (.iinc 3 1, 3) := dk_132 3 1 (dk_at dksX6_occurs_4 5 rfl rfl)
theorem dX6_occurs_103 : decode cX6_occurs 103 = .ok (.goto (-94), 3) := dk_167 255 162 (dk_at dksX6_occurs_4 8 rfl rfl)
theorem dX6_occurs_106 : decode cX6_occurs 106 = .ok (.iconst 0, 1) := dk_3 (dk_at dksX6_occurs_4 11 rfl rfl)
theorem dX6_occurs_107 : decode cX6_occurs 107 = .ok (.ireturn, 1) := dk_172 (dk_at dksX6_occurs_4 12 rfl rfl)
abbrev cX6_behind : ByteArray := prog_13_method_61_code
def yX6_behind : MethodName := ⟨RX6, "behind", "(I)I"⟩
def dkwX6_behind_1 : List UInt8 := [167, 255, 236, 29, 172]
abbrev dktX6_behind_1 : List UInt8 := dkwX6_behind_1 ++ []
def dkwX6_behind_0 : List UInt8 := [4, 61, 27, 62, 28, 158, 0, 22, 28, 42, 29, 182, 1, 66, 184, 0, 174, 4, 100, 96, 61, 132, 3, 1]
abbrev dktX6_behind_0 : List UInt8 := dkwX6_behind_0 ++ dktX6_behind_1
theorem dksX6_behind_0 : cX6_behind.data.toList.drop 0 = dktX6_behind_0 := by decide +kernel
theorem dksX6_behind_1 : cX6_behind.data.toList.drop 24 = dktX6_behind_1 := dk_seg dksX6_behind_0 24 rfl rfl
theorem dX6_behind_0 : decode cX6_behind 0 = .ok (.iconst 1, 1) := dk_4 (dk_at dksX6_behind_0 0 rfl rfl)
theorem dX6_behind_1 : decode cX6_behind 1 = .ok (.istore_n 2, 1) := dk_61 (dk_at dksX6_behind_0 1 rfl rfl)
theorem dX6_behind_2 : decode cX6_behind 2 = .ok (.iload_n 1, 1) := dk_27 (dk_at dksX6_behind_0 2 rfl rfl)
theorem dX6_behind_3 : decode cX6_behind 3 = .ok (.istore_n 3, 1) := dk_62 (dk_at dksX6_behind_0 3 rfl rfl)
theorem dX6_behind_4 : decode cX6_behind 4 = .ok (.iload_n 2, 1) := dk_28 (dk_at dksX6_behind_0 4 rfl rfl)
theorem dX6_behind_5 : decode cX6_behind 5 = .ok (.ifCond .le 22, 3) := dk_158 0 22 (dk_at dksX6_behind_0 5 rfl rfl)
theorem dX6_behind_8 : decode cX6_behind 8 = .ok (.iload_n 2, 1) := dk_28 (dk_at dksX6_behind_0 8 rfl rfl)
theorem dX6_behind_9 : decode cX6_behind 9 = .ok (.aload_n 0, 1) := dk_42 (dk_at dksX6_behind_0 9 rfl rfl)
theorem dX6_behind_10 : decode cX6_behind 10 = .ok (.iload_n 3, 1) := dk_29 (dk_at dksX6_behind_0 10 rfl rfl)
theorem dX6_behind_11 : decode cX6_behind 11 = .ok (.invokevirtual 322, 3) := dk_182 1 66 (dk_at dksX6_behind_0 11 rfl rfl)
theorem dX6_behind_14 : decode cX6_behind 14 = .ok (.invokestatic 174, 3) := dk_184 0 174 (dk_at dksX6_behind_0 14 rfl rfl)
theorem dX6_behind_17 : decode cX6_behind 17 = .ok (.iconst 1, 1) := dk_4 (dk_at dksX6_behind_0 17 rfl rfl)
theorem dX6_behind_18 : decode cX6_behind 18 = .ok (.isub, 1) := dk_100 (dk_at dksX6_behind_0 18 rfl rfl)
theorem dX6_behind_19 : decode cX6_behind 19 = .ok (.iadd, 1) := dk_96 (dk_at dksX6_behind_0 19 rfl rfl)
theorem dX6_behind_20 : decode cX6_behind 20 = .ok (.istore_n 2, 1) := dk_61 (dk_at dksX6_behind_0 20 rfl rfl)
theorem dX6_behind_21 : decode cX6_behind 21 = .ok (.iinc 3 1, 3) := dk_132 3 1 (dk_at dksX6_behind_0 21 rfl rfl)
theorem dX6_behind_24 : decode cX6_behind 24 = .ok (.goto (-20), 3) := dk_167 255 236 (dk_at dksX6_behind_1 0 rfl rfl)
theorem dX6_behind_27 : decode cX6_behind 27 = .ok (.iload_n 3, 1) := dk_29 (dk_at dksX6_behind_1 3 rfl rfl)
theorem dX6_behind_28 : decode cX6_behind 28 = .ok (.ireturn, 1) := dk_172 (dk_at dksX6_behind_1 4 rfl rfl)
abbrev cX6_clash : ByteArray := prog_13_method_68_code
def yX6_clash : MethodName := ⟨RX6, "clash", "(II)Z"⟩
def dkwX6_clash_2 : List UInt8 := [180, 0, 16, 28, 46, 7, 160, 0, 7, 4, 167, 0, 4, 3, 172]
abbrev dktX6_clash_2 : List UInt8 := dkwX6_clash_2 ++ []
def dkwX6_clash_1 : List UInt8 := [42, 27, 28, 182, 1, 96, 153, 0, 31, 29, 154, 0, 23, 42, 180, 0, 16, 27, 46, 7, 159, 0, 13, 42]
abbrev dktX6_clash_1 : List UInt8 := dkwX6_clash_1 ++ dktX6_clash_2
def dkwX6_clash_0 : List UInt8 := [42, 27, 28, 182, 1, 93, 154, 0, 16, 42, 28, 27, 182, 1, 93, 154, 0, 7, 4, 167, 0, 4, 3, 62]
abbrev dktX6_clash_0 : List UInt8 := dkwX6_clash_0 ++ dktX6_clash_1
theorem dksX6_clash_0 : cX6_clash.data.toList.drop 0 = dktX6_clash_0 := by decide +kernel
theorem dksX6_clash_1 : cX6_clash.data.toList.drop 24 = dktX6_clash_1 := dk_seg dksX6_clash_0 24 rfl rfl
theorem dksX6_clash_2 : cX6_clash.data.toList.drop 48 = dktX6_clash_2 := dk_seg dksX6_clash_1 24 rfl rfl
theorem dX6_clash_0 : decode cX6_clash 0 = .ok (.aload_n 0, 1) := dk_42 (dk_at dksX6_clash_0 0 rfl rfl)
theorem dX6_clash_1 : decode cX6_clash 1 = .ok (.iload_n 1, 1) := dk_27 (dk_at dksX6_clash_0 1 rfl rfl)
theorem dX6_clash_2 : decode cX6_clash 2 = .ok (.iload_n 2, 1) := dk_28 (dk_at dksX6_clash_0 2 rfl rfl)
theorem dX6_clash_3 : decode cX6_clash 3 = .ok (.invokevirtual 349, 3) := dk_182 1 93 (dk_at dksX6_clash_0 3 rfl rfl)
theorem dX6_clash_6 : decode cX6_clash 6 = .ok (.ifCond .ne 16, 3) := dk_154 0 16 (dk_at dksX6_clash_0 6 rfl rfl)
theorem dX6_clash_9 : decode cX6_clash 9 = .ok (.aload_n 0, 1) := dk_42 (dk_at dksX6_clash_0 9 rfl rfl)
theorem dX6_clash_10 : decode cX6_clash 10 = .ok (.iload_n 2, 1) := dk_28 (dk_at dksX6_clash_0 10 rfl rfl)
theorem dX6_clash_11 : decode cX6_clash 11 = .ok (.iload_n 1, 1) := dk_27 (dk_at dksX6_clash_0 11 rfl rfl)
theorem dX6_clash_12 : decode cX6_clash 12 = .ok (.invokevirtual 349, 3) := dk_182 1 93 (dk_at dksX6_clash_0 12 rfl rfl)
theorem dX6_clash_15 : decode cX6_clash 15 = .ok (.ifCond .ne 7, 3) := dk_154 0 7 (dk_at dksX6_clash_0 15 rfl rfl)
theorem dX6_clash_18 : decode cX6_clash 18 = .ok (.iconst 1, 1) := dk_4 (dk_at dksX6_clash_0 18 rfl rfl)
theorem dX6_clash_19 : decode cX6_clash 19 = .ok (.goto 4, 3) := dk_167 0 4 (dk_at dksX6_clash_0 19 rfl rfl)
theorem dX6_clash_22 : decode cX6_clash 22 = .ok (.iconst 0, 1) := dk_3 (dk_at dksX6_clash_0 22 rfl rfl)
theorem dX6_clash_23 : decode cX6_clash 23 = .ok (.istore_n 3, 1) := dk_62 (dk_at dksX6_clash_0 23 rfl rfl)
theorem dX6_clash_24 : decode cX6_clash 24 = .ok (.aload_n 0, 1) := dk_42 (dk_at dksX6_clash_1 0 rfl rfl)
theorem dX6_clash_25 : decode cX6_clash 25 = .ok (.iload_n 1, 1) := dk_27 (dk_at dksX6_clash_1 1 rfl rfl)
theorem dX6_clash_26 : decode cX6_clash 26 = .ok (.iload_n 2, 1) := dk_28 (dk_at dksX6_clash_1 2 rfl rfl)
theorem dX6_clash_27 : decode cX6_clash 27 = .ok (.invokevirtual 352, 3) := dk_182 1 96 (dk_at dksX6_clash_1 3 rfl rfl)
theorem dX6_clash_30 : decode cX6_clash 30 = .ok (.ifCond .eq 31, 3) := dk_153 0 31 (dk_at dksX6_clash_1 6 rfl rfl)
theorem dX6_clash_33 : decode cX6_clash 33 = .ok (.iload_n 3, 1) := dk_29 (dk_at dksX6_clash_1 9 rfl rfl)
theorem dX6_clash_34 : decode cX6_clash 34 = .ok (.ifCond .ne 23, 3) := dk_154 0 23 (dk_at dksX6_clash_1 10 rfl rfl)
theorem dX6_clash_37 : decode cX6_clash 37 = .ok (.aload_n 0, 1) := dk_42 (dk_at dksX6_clash_1 13 rfl rfl)
theorem dX6_clash_38 : decode cX6_clash 38 = .ok (.getfield 16, 3) := dk_180 0 16 (dk_at dksX6_clash_1 14 rfl rfl)
theorem dX6_clash_41 : decode cX6_clash 41 = .ok (.iload_n 1, 1) := dk_27 (dk_at dksX6_clash_1 17 rfl rfl)
theorem dX6_clash_42 : decode cX6_clash 42 = .ok (.iaload, 1) := dk_46 (dk_at dksX6_clash_1 18 rfl rfl)
theorem dX6_clash_43 : decode cX6_clash 43 = .ok (.iconst 4, 1) := dk_7 (dk_at dksX6_clash_1 19 rfl rfl)
theorem dX6_clash_44 : decode cX6_clash 44 = .ok (.if_icmp .eq 13, 3) := dk_159 0 13 (dk_at dksX6_clash_1 20 rfl rfl)
theorem dX6_clash_47 : decode cX6_clash 47 = .ok (.aload_n 0, 1) := dk_42 (dk_at dksX6_clash_1 23 rfl rfl)
theorem dX6_clash_48 : decode cX6_clash 48 = .ok (.getfield 16, 3) := dk_180 0 16 (dk_at dksX6_clash_2 0 rfl rfl)
theorem dX6_clash_51 : decode cX6_clash 51 = .ok (.iload_n 2, 1) := dk_28 (dk_at dksX6_clash_2 3 rfl rfl)
theorem dX6_clash_52 : decode cX6_clash 52 = .ok (.iaload, 1) := dk_46 (dk_at dksX6_clash_2 4 rfl rfl)
theorem dX6_clash_53 : decode cX6_clash 53 = .ok (.iconst 4, 1) := dk_7 (dk_at dksX6_clash_2 5 rfl rfl)
theorem dX6_clash_54 : decode cX6_clash 54 = .ok (.if_icmp .ne 7, 3) := dk_160 0 7 (dk_at dksX6_clash_2 6 rfl rfl)
theorem dX6_clash_57 : decode cX6_clash 57 = .ok (.iconst 1, 1) := dk_4 (dk_at dksX6_clash_2 9 rfl rfl)
theorem dX6_clash_58 : decode cX6_clash 58 = .ok (.goto 4, 3) := dk_167 0 4 (dk_at dksX6_clash_2 10 rfl rfl)
theorem dX6_clash_61 : decode cX6_clash 61 = .ok (.iconst 0, 1) := dk_3 (dk_at dksX6_clash_2 13 rfl rfl)
theorem dX6_clash_62 : decode cX6_clash 62 = .ok (.ireturn, 1) := dk_172 (dk_at dksX6_clash_2 14 rfl rfl)
abbrev cX6_isSpecial : ByteArray := prog_13_method_67_code
def yX6_isSpecial : MethodName := ⟨RX6, "isSpecial", "(II)Z"⟩
def dkwX6_isSpecial_0 : List UInt8 := [42, 180, 0, 37, 16, 6, 27, 104, 28, 96, 46, 4, 160, 0, 7, 4, 167, 0, 4, 3, 172]
abbrev dktX6_isSpecial_0 : List UInt8 := dkwX6_isSpecial_0 ++ []
theorem dksX6_isSpecial_0 : cX6_isSpecial.data.toList.drop 0 = dktX6_isSpecial_0 := by decide +kernel
theorem dX6_isSpecial_0 : decode cX6_isSpecial 0 = .ok (.aload_n 0, 1) := dk_42 (dk_at dksX6_isSpecial_0 0 rfl rfl)
theorem dX6_isSpecial_1 : decode cX6_isSpecial 1 = .ok (.getfield 37, 3) := dk_180 0 37 (dk_at dksX6_isSpecial_0 1 rfl rfl)
theorem dX6_isSpecial_4 : decode cX6_isSpecial 4 = .ok (.bipush 6, 2) := dk_16 6 (dk_at dksX6_isSpecial_0 4 rfl rfl)
theorem dX6_isSpecial_6 : decode cX6_isSpecial 6 = .ok (.iload_n 1, 1) := dk_27 (dk_at dksX6_isSpecial_0 6 rfl rfl)
theorem dX6_isSpecial_7 : decode cX6_isSpecial 7 = .ok (.imul, 1) := dk_104 (dk_at dksX6_isSpecial_0 7 rfl rfl)
theorem dX6_isSpecial_8 : decode cX6_isSpecial 8 = .ok (.iload_n 2, 1) := dk_28 (dk_at dksX6_isSpecial_0 8 rfl rfl)
theorem dX6_isSpecial_9 : decode cX6_isSpecial 9 = .ok (.iadd, 1) := dk_96 (dk_at dksX6_isSpecial_0 9 rfl rfl)
theorem dX6_isSpecial_10 : decode cX6_isSpecial 10 = .ok (.iaload, 1) := dk_46 (dk_at dksX6_isSpecial_0 10 rfl rfl)
theorem dX6_isSpecial_11 : decode cX6_isSpecial 11 = .ok (.iconst 1, 1) := dk_4 (dk_at dksX6_isSpecial_0 11 rfl rfl)
theorem dX6_isSpecial_12 : decode cX6_isSpecial 12 = .ok (.if_icmp .ne 7, 3) := dk_160 0 7 (dk_at dksX6_isSpecial_0 12 rfl rfl)
theorem dX6_isSpecial_15 : decode cX6_isSpecial 15 = .ok (.iconst 1, 1) := dk_4 (dk_at dksX6_isSpecial_0 15 rfl rfl)
theorem dX6_isSpecial_16 : decode cX6_isSpecial 16 = .ok (.goto 4, 3) := dk_167 0 4 (dk_at dksX6_isSpecial_0 16 rfl rfl)
theorem dX6_isSpecial_19 : decode cX6_isSpecial 19 = .ok (.iconst 0, 1) := dk_3 (dk_at dksX6_isSpecial_0 19 rfl rfl)
theorem dX6_isSpecial_20 : decode cX6_isSpecial 20 = .ok (.ireturn, 1) := dk_172 (dk_at dksX6_isSpecial_0 20 rfl rfl)
abbrev cX6_fits : ByteArray := prog_13_method_71_code
def yX6_fits : MethodName := ⟨RX6, "fits", "(II)I"⟩
def dkwX6_fits_1 : List UInt8 := [42, 27, 3, 182, 0, 245, 153, 0, 7, 4, 167, 0, 4, 3, 172]
abbrev dktX6_fits_1 : List UInt8 := dkwX6_fits_1 ++ []
def dkwX6_fits_0 : List UInt8 := [42, 27, 182, 1, 54, 153, 0, 11, 42, 28, 182, 1, 105, 154, 0, 6, 16, 155, 172, 42, 28, 182, 1, 108]
abbrev dktX6_fits_0 : List UInt8 := dkwX6_fits_0 ++ dktX6_fits_1
theorem dksX6_fits_0 : cX6_fits.data.toList.drop 0 = dktX6_fits_0 := by decide +kernel
theorem dksX6_fits_1 : cX6_fits.data.toList.drop 24 = dktX6_fits_1 := dk_seg dksX6_fits_0 24 rfl rfl
theorem dX6_fits_0 : decode cX6_fits 0 = .ok (.aload_n 0, 1) := dk_42 (dk_at dksX6_fits_0 0 rfl rfl)
theorem dX6_fits_1 : decode cX6_fits 1 = .ok (.iload_n 1, 1) := dk_27 (dk_at dksX6_fits_0 1 rfl rfl)
theorem dX6_fits_2 : decode cX6_fits 2 = .ok (.invokevirtual 310, 3) := dk_182 1 54 (dk_at dksX6_fits_0 2 rfl rfl)
theorem dX6_fits_5 : decode cX6_fits 5 = .ok (.ifCond .eq 11, 3) := dk_153 0 11 (dk_at dksX6_fits_0 5 rfl rfl)
theorem dX6_fits_8 : decode cX6_fits 8 = .ok (.aload_n 0, 1) := dk_42 (dk_at dksX6_fits_0 8 rfl rfl)
theorem dX6_fits_9 : decode cX6_fits 9 = .ok (.iload_n 2, 1) := dk_28 (dk_at dksX6_fits_0 9 rfl rfl)
theorem dX6_fits_10 : decode cX6_fits 10 = .ok (.invokevirtual 361, 3) := dk_182 1 105 (dk_at dksX6_fits_0 10 rfl rfl)
theorem dX6_fits_13 : decode cX6_fits 13 = .ok (.ifCond .ne 6, 3) := dk_154 0 6 (dk_at dksX6_fits_0 13 rfl rfl)
theorem dX6_fits_16 : decode cX6_fits 16 = .ok (.bipush (-101), 2) := dk_16 155 (dk_at dksX6_fits_0 16 rfl rfl)
theorem dX6_fits_18 : decode cX6_fits 18 = .ok (.ireturn, 1) := dk_172 (dk_at dksX6_fits_0 18 rfl rfl)
theorem dX6_fits_19 : decode cX6_fits 19 = .ok (.aload_n 0, 1) := dk_42 (dk_at dksX6_fits_0 19 rfl rfl)
theorem dX6_fits_20 : decode cX6_fits 20 = .ok (.iload_n 2, 1) := dk_28 (dk_at dksX6_fits_0 20 rfl rfl)
theorem dX6_fits_21 : decode cX6_fits 21 = .ok (.invokevirtual 364, 3) := dk_182 1 108 (dk_at dksX6_fits_0 21 rfl rfl)
theorem dX6_fits_24 : decode cX6_fits 24 = .ok (.aload_n 0, 1) := dk_42 (dk_at dksX6_fits_1 0 rfl rfl)
theorem dX6_fits_25 : decode cX6_fits 25 = .ok (.iload_n 1, 1) := dk_27 (dk_at dksX6_fits_1 1 rfl rfl)
theorem dX6_fits_26 : decode cX6_fits 26 = .ok (.iconst 0, 1) := dk_3 (dk_at dksX6_fits_1 2 rfl rfl)
theorem dX6_fits_27 : decode cX6_fits 27 = .ok (.invokevirtual 245, 3) := dk_182 0 245 (dk_at dksX6_fits_1 3 rfl rfl)
theorem dX6_fits_30 : decode cX6_fits 30 = .ok (.ifCond .eq 7, 3) := dk_153 0 7 (dk_at dksX6_fits_1 6 rfl rfl)
theorem dX6_fits_33 : decode cX6_fits 33 = .ok (.iconst 1, 1) := dk_4 (dk_at dksX6_fits_1 9 rfl rfl)
theorem dX6_fits_34 : decode cX6_fits 34 = .ok (.goto 4, 3) := dk_167 0 4 (dk_at dksX6_fits_1 10 rfl rfl)
theorem dX6_fits_37 : decode cX6_fits 37 = .ok (.iconst 0, 1) := dk_3 (dk_at dksX6_fits_1 13 rfl rfl)
theorem dX6_fits_38 : decode cX6_fits 38 = .ok (.ireturn, 1) := dk_172 (dk_at dksX6_fits_1 14 rfl rfl)
abbrev cX6_isFilled : ByteArray := prog_13_method_47_code
def yX6_isFilled : MethodName := ⟨RX6, "isFilled", "(I)Z"⟩
def dkwX6_isFilled_0 : List UInt8 := [27, 3, 6, 184, 0, 146, 153, 0, 16, 42, 180, 0, 43, 27, 46, 158, 0, 7, 4, 167, 0, 4, 3, 172]
abbrev dktX6_isFilled_0 : List UInt8 := dkwX6_isFilled_0 ++ []
theorem dksX6_isFilled_0 : cX6_isFilled.data.toList.drop 0 = dktX6_isFilled_0 := by decide +kernel
theorem dX6_isFilled_0 : decode cX6_isFilled 0 = .ok (.iload_n 1, 1) := dk_27 (dk_at dksX6_isFilled_0 0 rfl rfl)
theorem dX6_isFilled_1 : decode cX6_isFilled 1 = .ok (.iconst 0, 1) := dk_3 (dk_at dksX6_isFilled_0 1 rfl rfl)
theorem dX6_isFilled_2 : decode cX6_isFilled 2 = .ok (.iconst 3, 1) := dk_6 (dk_at dksX6_isFilled_0 2 rfl rfl)
theorem dX6_isFilled_3 : decode cX6_isFilled 3 = .ok (.invokestatic 146, 3) := dk_184 0 146 (dk_at dksX6_isFilled_0 3 rfl rfl)
theorem dX6_isFilled_6 : decode cX6_isFilled 6 = .ok (.ifCond .eq 16, 3) := dk_153 0 16 (dk_at dksX6_isFilled_0 6 rfl rfl)
theorem dX6_isFilled_9 : decode cX6_isFilled 9 = .ok (.aload_n 0, 1) := dk_42 (dk_at dksX6_isFilled_0 9 rfl rfl)
theorem dX6_isFilled_10 : decode cX6_isFilled 10 = .ok (.getfield 43, 3) := dk_180 0 43 (dk_at dksX6_isFilled_0 10 rfl rfl)
theorem dX6_isFilled_13 : decode cX6_isFilled 13 = .ok (.iload_n 1, 1) := dk_27 (dk_at dksX6_isFilled_0 13 rfl rfl)
theorem dX6_isFilled_14 : decode cX6_isFilled 14 = .ok (.iaload, 1) := dk_46 (dk_at dksX6_isFilled_0 14 rfl rfl)
theorem dX6_isFilled_15 : decode cX6_isFilled 15 = .ok (.ifCond .le 7, 3) := dk_158 0 7 (dk_at dksX6_isFilled_0 15 rfl rfl)
theorem dX6_isFilled_18 : decode cX6_isFilled 18 = .ok (.iconst 1, 1) := dk_4 (dk_at dksX6_isFilled_0 18 rfl rfl)
theorem dX6_isFilled_19 : decode cX6_isFilled 19 = .ok (.goto 4, 3) := dk_167 0 4 (dk_at dksX6_isFilled_0 19 rfl rfl)
theorem dX6_isFilled_22 : decode cX6_isFilled 22 = .ok (.iconst 0, 1) := dk_3 (dk_at dksX6_isFilled_0 22 rfl rfl)
theorem dX6_isFilled_23 : decode cX6_isFilled 23 = .ok (.ireturn, 1) := dk_172 (dk_at dksX6_isFilled_0 23 rfl rfl)
abbrev cX6_laySlot : ByteArray := prog_13_method_26_code
def yX6_laySlot : MethodName := ⟨RX6, "laySlot", "(I)V"⟩
def dkwX6_laySlot_1 : List UInt8 := [28, 42, 180, 0, 40, 16, 9, 27, 104, 28, 96, 46, 79, 132, 2, 1, 167, 255, 228, 42, 182, 0, 236, 177]
abbrev dktX6_laySlot_1 : List UInt8 := dkwX6_laySlot_1 ++ []
def dkwX6_laySlot_0 : List UInt8 := [42, 42, 180, 0, 43, 27, 46, 181, 0, 233, 3, 61, 28, 42, 180, 0, 233, 162, 0, 26, 42, 180, 0, 80]
abbrev dktX6_laySlot_0 : List UInt8 := dkwX6_laySlot_0 ++ dktX6_laySlot_1
theorem dksX6_laySlot_0 : cX6_laySlot.data.toList.drop 0 = dktX6_laySlot_0 := by decide +kernel
theorem dksX6_laySlot_1 : cX6_laySlot.data.toList.drop 24 = dktX6_laySlot_1 := dk_seg dksX6_laySlot_0 24 rfl rfl
theorem dX6_laySlot_0 : decode cX6_laySlot 0 = .ok (.aload_n 0, 1) := dk_42 (dk_at dksX6_laySlot_0 0 rfl rfl)
theorem dX6_laySlot_1 : decode cX6_laySlot 1 = .ok (.aload_n 0, 1) := dk_42 (dk_at dksX6_laySlot_0 1 rfl rfl)
theorem dX6_laySlot_2 : decode cX6_laySlot 2 = .ok (.getfield 43, 3) := dk_180 0 43 (dk_at dksX6_laySlot_0 2 rfl rfl)
theorem dX6_laySlot_5 : decode cX6_laySlot 5 = .ok (.iload_n 1, 1) := dk_27 (dk_at dksX6_laySlot_0 5 rfl rfl)
theorem dX6_laySlot_6 : decode cX6_laySlot 6 = .ok (.iaload, 1) := dk_46 (dk_at dksX6_laySlot_0 6 rfl rfl)
theorem dX6_laySlot_7 : decode cX6_laySlot 7 = .ok (.putfield 233, 3) := dk_181 0 233 (dk_at dksX6_laySlot_0 7 rfl rfl)
theorem dX6_laySlot_10 : decode cX6_laySlot 10 = .ok (.iconst 0, 1) := dk_3 (dk_at dksX6_laySlot_0 10 rfl rfl)
theorem dX6_laySlot_11 : decode cX6_laySlot 11 = .ok (.istore_n 2, 1) := dk_61 (dk_at dksX6_laySlot_0 11 rfl rfl)
theorem dX6_laySlot_12 : decode cX6_laySlot 12 = .ok (.iload_n 2, 1) := dk_28 (dk_at dksX6_laySlot_0 12 rfl rfl)
theorem dX6_laySlot_13 : decode cX6_laySlot 13 = .ok (.aload_n 0, 1) := dk_42 (dk_at dksX6_laySlot_0 13 rfl rfl)
theorem dX6_laySlot_14 : decode cX6_laySlot 14 = .ok (.getfield 233, 3) := dk_180 0 233 (dk_at dksX6_laySlot_0 14 rfl rfl)
theorem dX6_laySlot_17 : decode cX6_laySlot 17 = .ok (.if_icmp .ge 26, 3) := dk_162 0 26 (dk_at dksX6_laySlot_0 17 rfl rfl)
theorem dX6_laySlot_20 : decode cX6_laySlot 20 = .ok (.aload_n 0, 1) := dk_42 (dk_at dksX6_laySlot_0 20 rfl rfl)
theorem dX6_laySlot_21 : decode cX6_laySlot 21 = .ok (.getfield 80, 3) := dk_180 0 80 (dk_at dksX6_laySlot_0 21 rfl rfl)
theorem dX6_laySlot_24 : decode cX6_laySlot 24 = .ok (.iload_n 2, 1) := dk_28 (dk_at dksX6_laySlot_1 0 rfl rfl)
theorem dX6_laySlot_25 : decode cX6_laySlot 25 = .ok (.aload_n 0, 1) := dk_42 (dk_at dksX6_laySlot_1 1 rfl rfl)
theorem dX6_laySlot_26 : decode cX6_laySlot 26 = .ok (.getfield 40, 3) := dk_180 0 40 (dk_at dksX6_laySlot_1 2 rfl rfl)
theorem dX6_laySlot_29 : decode cX6_laySlot 29 = .ok (.bipush 9, 2) := dk_16 9 (dk_at dksX6_laySlot_1 5 rfl rfl)
theorem dX6_laySlot_31 : decode cX6_laySlot 31 = .ok (.iload_n 1, 1) := dk_27 (dk_at dksX6_laySlot_1 7 rfl rfl)
theorem dX6_laySlot_32 : decode cX6_laySlot 32 = .ok (.imul, 1) := dk_104 (dk_at dksX6_laySlot_1 8 rfl rfl)
theorem dX6_laySlot_33 : decode cX6_laySlot 33 = .ok (.iload_n 2, 1) := dk_28 (dk_at dksX6_laySlot_1 9 rfl rfl)
theorem dX6_laySlot_34 : decode cX6_laySlot 34 = .ok (.iadd, 1) := dk_96 (dk_at dksX6_laySlot_1 10 rfl rfl)
theorem dX6_laySlot_35 : decode cX6_laySlot 35 = .ok (.iaload, 1) := dk_46 (dk_at dksX6_laySlot_1 11 rfl rfl)
theorem dX6_laySlot_36 : decode cX6_laySlot 36 = .ok (.iastore, 1) := dk_79 (dk_at dksX6_laySlot_1 12 rfl rfl)
theorem dX6_laySlot_37 : decode cX6_laySlot 37 = .ok (.iinc 2 1, 3) := dk_132 2 1 (dk_at dksX6_laySlot_1 13 rfl rfl)
theorem dX6_laySlot_40 : decode cX6_laySlot 40 = .ok (.goto (-28), 3) := dk_167 255 228 (dk_at dksX6_laySlot_1 16 rfl rfl)
theorem dX6_laySlot_43 : decode cX6_laySlot 43 = .ok (.aload_n 0, 1) := dk_42 (dk_at dksX6_laySlot_1 19 rfl rfl)
theorem dX6_laySlot_44 : decode cX6_laySlot 44 = .ok (.invokevirtual 236, 3) := dk_182 0 236 (dk_at dksX6_laySlot_1 20 rfl rfl)
theorem dX6_laySlot_47 : decode cX6_laySlot 47 = .ok (.return_, 1) := dk_177 (dk_at dksX6_laySlot_1 23 rfl rfl)
abbrev cX6_goal : ByteArray := prog_13_method_73_code
def yX6_goal : MethodName := ⟨RX6, "goal", "(III)I"⟩
def dkwX6_goal_2 : List UInt8 := [172]
abbrev dktX6_goal_2 : List UInt8 := dkwX6_goal_2 ++ []
def dkwX6_goal_1 : List UInt8 := [184, 0, 146, 154, 0, 6, 16, 154, 172, 42, 28, 182, 1, 108, 42, 182, 1, 39, 42, 27, 29, 182, 1, 117]
abbrev dktX6_goal_1 : List UInt8 := dkwX6_goal_1 ++ dktX6_goal_2
def dkwX6_goal_0 : List UInt8 := [42, 27, 182, 1, 33, 153, 0, 11, 42, 28, 182, 1, 105, 154, 0, 6, 16, 155, 172, 29, 3, 16, 6]
abbrev dktX6_goal_0 : List UInt8 := dkwX6_goal_0 ++ dktX6_goal_1
theorem dksX6_goal_0 : cX6_goal.data.toList.drop 0 = dktX6_goal_0 := by decide +kernel
theorem dksX6_goal_1 : cX6_goal.data.toList.drop 23 = dktX6_goal_1 := dk_seg dksX6_goal_0 23 rfl rfl
theorem dksX6_goal_2 : cX6_goal.data.toList.drop 47 = dktX6_goal_2 := dk_seg dksX6_goal_1 24 rfl rfl
theorem dX6_goal_0 : decode cX6_goal 0 = .ok (.aload_n 0, 1) := dk_42 (dk_at dksX6_goal_0 0 rfl rfl)
theorem dX6_goal_1 : decode cX6_goal 1 = .ok (.iload_n 1, 1) := dk_27 (dk_at dksX6_goal_0 1 rfl rfl)
theorem dX6_goal_2 : decode cX6_goal 2 = .ok (.invokevirtual 289, 3) := dk_182 1 33 (dk_at dksX6_goal_0 2 rfl rfl)
theorem dX6_goal_5 : decode cX6_goal 5 = .ok (.ifCond .eq 11, 3) := dk_153 0 11 (dk_at dksX6_goal_0 5 rfl rfl)
theorem dX6_goal_8 : decode cX6_goal 8 = .ok (.aload_n 0, 1) := dk_42 (dk_at dksX6_goal_0 8 rfl rfl)
theorem dX6_goal_9 : decode cX6_goal 9 = .ok (.iload_n 2, 1) := dk_28 (dk_at dksX6_goal_0 9 rfl rfl)
theorem dX6_goal_10 : decode cX6_goal 10 = .ok (.invokevirtual 361, 3) := dk_182 1 105 (dk_at dksX6_goal_0 10 rfl rfl)
theorem dX6_goal_13 : decode cX6_goal 13 = .ok (.ifCond .ne 6, 3) := dk_154 0 6 (dk_at dksX6_goal_0 13 rfl rfl)
theorem dX6_goal_16 : decode cX6_goal 16 = .ok (.bipush (-101), 2) := dk_16 155 (dk_at dksX6_goal_0 16 rfl rfl)
theorem dX6_goal_18 : decode cX6_goal 18 = .ok (.ireturn, 1) := dk_172 (dk_at dksX6_goal_0 18 rfl rfl)
theorem dX6_goal_19 : decode cX6_goal 19 = .ok (.iload_n 3, 1) := dk_29 (dk_at dksX6_goal_0 19 rfl rfl)
theorem dX6_goal_20 : decode cX6_goal 20 = .ok (.iconst 0, 1) := dk_3 (dk_at dksX6_goal_0 20 rfl rfl)
theorem dX6_goal_21 : decode cX6_goal 21 = .ok (.bipush 6, 2) := dk_16 6 (dk_at dksX6_goal_0 21 rfl rfl)
theorem dX6_goal_23 : decode cX6_goal 23 = .ok (.invokestatic 146, 3) := dk_184 0 146 (dk_at dksX6_goal_1 0 rfl rfl)
theorem dX6_goal_26 : decode cX6_goal 26 = .ok (.ifCond .ne 6, 3) := dk_154 0 6 (dk_at dksX6_goal_1 3 rfl rfl)
theorem dX6_goal_29 : decode cX6_goal 29 = .ok (.bipush (-102), 2) := dk_16 154 (dk_at dksX6_goal_1 6 rfl rfl)
theorem dX6_goal_31 : decode cX6_goal 31 = .ok (.ireturn, 1) := dk_172 (dk_at dksX6_goal_1 8 rfl rfl)
theorem dX6_goal_32 : decode cX6_goal 32 = .ok (.aload_n 0, 1) := dk_42 (dk_at dksX6_goal_1 9 rfl rfl)
theorem dX6_goal_33 : decode cX6_goal 33 = .ok (.iload_n 2, 1) := dk_28 (dk_at dksX6_goal_1 10 rfl rfl)
theorem dX6_goal_34 : decode cX6_goal 34 = .ok (.invokevirtual 364, 3) := dk_182 1 108 (dk_at dksX6_goal_1 11 rfl rfl)
theorem dX6_goal_37 : decode cX6_goal 37 = .ok (.aload_n 0, 1) := dk_42 (dk_at dksX6_goal_1 14 rfl rfl)
theorem dX6_goal_38 : decode cX6_goal 38 = .ok (.invokevirtual 295, 3) := dk_182 1 39 (dk_at dksX6_goal_1 15 rfl rfl)
theorem dX6_goal_41 : decode cX6_goal 41 = .ok (.aload_n 0, 1) := dk_42 (dk_at dksX6_goal_1 18 rfl rfl)
theorem dX6_goal_42 : decode cX6_goal 42 = .ok (.iload_n 1, 1) := dk_27 (dk_at dksX6_goal_1 19 rfl rfl)
theorem dX6_goal_43 : decode cX6_goal 43 = .ok (.iload_n 3, 1) := dk_29 (dk_at dksX6_goal_1 20 rfl rfl)
theorem dX6_goal_44 : decode cX6_goal 44 = .ok (.invokevirtual 373, 3) := dk_182 1 117 (dk_at dksX6_goal_1 21 rfl rfl)
theorem dX6_goal_47 : decode cX6_goal 47 = .ok (.ireturn, 1) := dk_172 (dk_at dksX6_goal_2 0 rfl rfl)
abbrev cX6_goalNow : ByteArray := prog_13_method_72_code
def yX6_goalNow : MethodName := ⟨RX6, "goalNow", "(II)I"⟩
def dkwX6_goalNow_5 : List UInt8 := [184, 0, 254, 172]
abbrev dktX6_goalNow_5 : List UInt8 := dkwX6_goalNow_5 ++ []
def dkwX6_goalNow_4 : List UInt8 := [29, 46, 172, 42, 180, 0, 110, 29, 46, 184, 0, 254, 172, 42, 42, 180, 0, 110, 29, 46, 182, 1, 114]
abbrev dktX6_goalNow_4 : List UInt8 := dkwX6_goalNow_4 ++ dktX6_goalNow_5
def dkwX6_goalNow_3 : List UInt8 := [42, 180, 0, 101, 29, 46, 172, 42, 180, 0, 104, 29, 46, 172, 42, 29, 182, 1, 111, 172, 42, 180, 0, 107]
abbrev dktX6_goalNow_3 : List UInt8 := dkwX6_goalNow_3 ++ dktX6_goalNow_4
def dkwX6_goalNow_2 : List UInt8 := [170, 0, 0, 0, 0, 0, 72, 0, 0, 0, 1, 0, 0, 0, 5, 0, 0, 0, 35, 0, 0, 0, 42, 0, 0, 0, 49, 0, 0, 0, 55, 0, 0, 0, 62]
abbrev dktX6_goalNow_2 : List UInt8 := dkwX6_goalNow_2 ++ dktX6_goalNow_3
def dkwX6_goalNow_1 : List UInt8 := [159, 0, 5, 2, 172, 28]
abbrev dktX6_goalNow_1 : List UInt8 := dkwX6_goalNow_1 ++ dktX6_goalNow_2
def dkwX6_goalNow_0 : List UInt8 := [16, 9, 27, 104, 62, 28, 154, 0, 10, 42, 180, 0, 89, 29, 46, 172, 42, 180, 0, 89, 29, 46, 4]
abbrev dktX6_goalNow_0 : List UInt8 := dkwX6_goalNow_0 ++ dktX6_goalNow_1
theorem dksX6_goalNow_0 : cX6_goalNow.data.toList.drop 0 = dktX6_goalNow_0 := by decide +kernel
theorem dksX6_goalNow_1 : cX6_goalNow.data.toList.drop 23 = dktX6_goalNow_1 := dk_seg dksX6_goalNow_0 23 rfl rfl
theorem dksX6_goalNow_2 : cX6_goalNow.data.toList.drop 29 = dktX6_goalNow_2 := dk_seg dksX6_goalNow_1 6 rfl rfl
theorem dksX6_goalNow_3 : cX6_goalNow.data.toList.drop 64 = dktX6_goalNow_3 := dk_seg dksX6_goalNow_2 35 rfl rfl
theorem dksX6_goalNow_4 : cX6_goalNow.data.toList.drop 88 = dktX6_goalNow_4 := dk_seg dksX6_goalNow_3 24 rfl rfl
theorem dksX6_goalNow_5 : cX6_goalNow.data.toList.drop 111 = dktX6_goalNow_5 := dk_seg dksX6_goalNow_4 23 rfl rfl
theorem dX6_goalNow_0 : decode cX6_goalNow 0 = .ok (.bipush 9, 2) := dk_16 9 (dk_at dksX6_goalNow_0 0 rfl rfl)
theorem dX6_goalNow_2 : decode cX6_goalNow 2 = .ok (.iload_n 1, 1) := dk_27 (dk_at dksX6_goalNow_0 2 rfl rfl)
theorem dX6_goalNow_3 : decode cX6_goalNow 3 = .ok (.imul, 1) := dk_104 (dk_at dksX6_goalNow_0 3 rfl rfl)
theorem dX6_goalNow_4 : decode cX6_goalNow 4 = .ok (.istore_n 3, 1) := dk_62 (dk_at dksX6_goalNow_0 4 rfl rfl)
theorem dX6_goalNow_5 : decode cX6_goalNow 5 = .ok (.iload_n 2, 1) := dk_28 (dk_at dksX6_goalNow_0 5 rfl rfl)
theorem dX6_goalNow_6 : decode cX6_goalNow 6 = .ok (.ifCond .ne 10, 3) := dk_154 0 10 (dk_at dksX6_goalNow_0 6 rfl rfl)
theorem dX6_goalNow_9 : decode cX6_goalNow 9 = .ok (.aload_n 0, 1) := dk_42 (dk_at dksX6_goalNow_0 9 rfl rfl)
theorem dX6_goalNow_10 : decode cX6_goalNow 10 = .ok (.getfield 89, 3) := dk_180 0 89 (dk_at dksX6_goalNow_0 10 rfl rfl)
theorem dX6_goalNow_13 : decode cX6_goalNow 13 = .ok (.iload_n 3, 1) := dk_29 (dk_at dksX6_goalNow_0 13 rfl rfl)
theorem dX6_goalNow_14 : decode cX6_goalNow 14 = .ok (.iaload, 1) := dk_46 (dk_at dksX6_goalNow_0 14 rfl rfl)
theorem dX6_goalNow_15 : decode cX6_goalNow 15 = .ok (.ireturn, 1) := dk_172 (dk_at dksX6_goalNow_0 15 rfl rfl)
theorem dX6_goalNow_16 : decode cX6_goalNow 16 = .ok (.aload_n 0, 1) := dk_42 (dk_at dksX6_goalNow_0 16 rfl rfl)
theorem dX6_goalNow_17 : decode cX6_goalNow 17 = .ok (.getfield 89, 3) := dk_180 0 89 (dk_at dksX6_goalNow_0 17 rfl rfl)
theorem dX6_goalNow_20 : decode cX6_goalNow 20 = .ok (.iload_n 3, 1) := dk_29 (dk_at dksX6_goalNow_0 20 rfl rfl)
theorem dX6_goalNow_21 : decode cX6_goalNow 21 = .ok (.iaload, 1) := dk_46 (dk_at dksX6_goalNow_0 21 rfl rfl)
theorem dX6_goalNow_22 : decode cX6_goalNow 22 = .ok (.iconst 1, 1) := dk_4 (dk_at dksX6_goalNow_0 22 rfl rfl)
theorem dX6_goalNow_23 : decode cX6_goalNow 23 = .ok (.if_icmp .eq 5, 3) := dk_159 0 5 (dk_at dksX6_goalNow_1 0 rfl rfl)
theorem dX6_goalNow_26 : decode cX6_goalNow 26 = .ok (.iconst (-1), 1) := dk_2 (dk_at dksX6_goalNow_1 3 rfl rfl)
theorem dX6_goalNow_27 : decode cX6_goalNow 27 = .ok (.ireturn, 1) := dk_172 (dk_at dksX6_goalNow_1 4 rfl rfl)
theorem dX6_goalNow_28 : decode cX6_goalNow 28 = .ok (.iload_n 2, 1) := dk_28 (dk_at dksX6_goalNow_1 5 rfl rfl)
theorem dX6_goalNow_29 : decode cX6_goalNow 29 = .ok (.tableswitch 72 1 5 #[35, 42, 49, 55, 62], 35) := by decide +kernel
theorem dX6_goalNow_64 : decode cX6_goalNow 64 = .ok (.aload_n 0, 1) := dk_42 (dk_at dksX6_goalNow_3 0 rfl rfl)
theorem dX6_goalNow_65 : decode cX6_goalNow 65 = .ok (.getfield 101, 3) := dk_180 0 101 (dk_at dksX6_goalNow_3 1 rfl rfl)
theorem dX6_goalNow_68 : decode cX6_goalNow 68 = .ok (.iload_n 3, 1) := dk_29 (dk_at dksX6_goalNow_3 4 rfl rfl)
theorem dX6_goalNow_69 : decode cX6_goalNow 69 = .ok (.iaload, 1) := dk_46 (dk_at dksX6_goalNow_3 5 rfl rfl)
theorem dX6_goalNow_70 : decode cX6_goalNow 70 = .ok (.ireturn, 1) := dk_172 (dk_at dksX6_goalNow_3 6 rfl rfl)
theorem dX6_goalNow_71 : decode cX6_goalNow 71 = .ok (.aload_n 0, 1) := dk_42 (dk_at dksX6_goalNow_3 7 rfl rfl)
theorem dX6_goalNow_72 : decode cX6_goalNow 72 = .ok (.getfield 104, 3) := dk_180 0 104 (dk_at dksX6_goalNow_3 8 rfl rfl)
theorem dX6_goalNow_75 : decode cX6_goalNow 75 = .ok (.iload_n 3, 1) := dk_29 (dk_at dksX6_goalNow_3 11 rfl rfl)
theorem dX6_goalNow_76 : decode cX6_goalNow 76 = .ok (.iaload, 1) := dk_46 (dk_at dksX6_goalNow_3 12 rfl rfl)
theorem dX6_goalNow_77 : decode cX6_goalNow 77 = .ok (.ireturn, 1) := dk_172 (dk_at dksX6_goalNow_3 13 rfl rfl)
theorem dX6_goalNow_78 : decode cX6_goalNow 78 = .ok (.aload_n 0, 1) := dk_42 (dk_at dksX6_goalNow_3 14 rfl rfl)
theorem dX6_goalNow_79 : decode cX6_goalNow 79 = .ok (.iload_n 3, 1) := dk_29 (dk_at dksX6_goalNow_3 15 rfl rfl)
theorem dX6_goalNow_80 : decode cX6_goalNow 80 = .ok (.invokevirtual 367, 3) := dk_182 1 111 (dk_at dksX6_goalNow_3 16 rfl rfl)
theorem dX6_goalNow_83 : decode cX6_goalNow 83 = .ok (.ireturn, 1) := dk_172 (dk_at dksX6_goalNow_3 19 rfl rfl)
theorem dX6_goalNow_84 : decode cX6_goalNow 84 = .ok (.aload_n 0, 1) := dk_42 (dk_at dksX6_goalNow_3 20 rfl rfl)
theorem dX6_goalNow_85 : decode cX6_goalNow 85 = .ok (.getfield 107, 3) := dk_180 0 107 (dk_at dksX6_goalNow_3 21 rfl rfl)
theorem dX6_goalNow_88 : decode cX6_goalNow 88 = .ok (.iload_n 3, 1) := dk_29 (dk_at dksX6_goalNow_4 0 rfl rfl)
theorem dX6_goalNow_89 : decode cX6_goalNow 89 = .ok (.iaload, 1) := dk_46 (dk_at dksX6_goalNow_4 1 rfl rfl)
theorem dX6_goalNow_90 : decode cX6_goalNow 90 = .ok (.ireturn, 1) := dk_172 (dk_at dksX6_goalNow_4 2 rfl rfl)
theorem dX6_goalNow_91 : decode cX6_goalNow 91 = .ok (.aload_n 0, 1) := dk_42 (dk_at dksX6_goalNow_4 3 rfl rfl)
theorem dX6_goalNow_92 : decode cX6_goalNow 92 = .ok (.getfield 110, 3) := dk_180 0 110 (dk_at dksX6_goalNow_4 4 rfl rfl)
theorem dX6_goalNow_95 : decode cX6_goalNow 95 = .ok (.iload_n 3, 1) := dk_29 (dk_at dksX6_goalNow_4 7 rfl rfl)
theorem dX6_goalNow_96 : decode cX6_goalNow 96 = .ok (.iaload, 1) := dk_46 (dk_at dksX6_goalNow_4 8 rfl rfl)
theorem dX6_goalNow_97 : decode cX6_goalNow 97 = .ok (.invokestatic 254, 3) := dk_184 0 254 (dk_at dksX6_goalNow_4 9 rfl rfl)
theorem dX6_goalNow_100 : decode cX6_goalNow 100 = .ok (.ireturn, 1) := dk_172 (dk_at dksX6_goalNow_4 12 rfl rfl)
theorem dX6_goalNow_101 : decode cX6_goalNow 101 = .ok (.aload_n 0, 1) := dk_42 (dk_at dksX6_goalNow_4 13 rfl rfl)
theorem dX6_goalNow_102 : decode cX6_goalNow 102 = .ok (.aload_n 0, 1) := dk_42 (dk_at dksX6_goalNow_4 14 rfl rfl)
theorem dX6_goalNow_103 : decode cX6_goalNow 103 = .ok (.getfield 110, 3) := dk_180 0 110 (dk_at dksX6_goalNow_4 15 rfl rfl)
theorem dX6_goalNow_106 : decode cX6_goalNow 106 = .ok (.iload_n 3, 1) := dk_29 (dk_at dksX6_goalNow_4 18 rfl rfl)
theorem dX6_goalNow_107 : decode cX6_goalNow 107 = .ok (.iaload, 1) := dk_46 (dk_at dksX6_goalNow_4 19 rfl rfl)
theorem dX6_goalNow_108 : decode cX6_goalNow 108 = .ok (.invokevirtual 370, 3) := dk_182 1 114 (dk_at dksX6_goalNow_4 20 rfl rfl)
theorem dX6_goalNow_111 : decode cX6_goalNow 111 = .ok (.invokestatic 254, 3) := dk_184 0 254 (dk_at dksX6_goalNow_5 0 rfl rfl)
theorem dX6_goalNow_114 : decode cX6_goalNow 114 = .ok (.ireturn, 1) := dk_172 (dk_at dksX6_goalNow_5 3 rfl rfl)
abbrev cX6_differentGoals : ByteArray := prog_13_method_41_code
def yX6_differentGoals : MethodName := ⟨RX6, "differentGoals", "(I)I"⟩
def dkwX6_differentGoals_5 : List UInt8 := [167, 255, 184, 132, 3, 1, 167, 255, 167, 28, 172]
abbrev dktX6_differentGoals_5 : List UInt8 := dkwX6_differentGoals_5 ++ []
def dkwX6_differentGoals_4 : List UInt8 := [180, 0, 95, 21, 5, 46, 182, 1, 27, 42, 42, 180, 0, 98, 21, 5, 46, 182, 1, 27, 132, 4, 1]
abbrev dktX6_differentGoals_4 : List UInt8 := dkwX6_differentGoals_4 ++ dktX6_differentGoals_5
def dkwX6_differentGoals_3 : List UInt8 := [160, 0, 43, 28, 42, 21, 4, 29, 182, 1, 24, 153, 0, 7, 4, 167, 0, 4, 3, 96, 61, 42, 42]
abbrev dktX6_differentGoals_3 : List UInt8 := dkwX6_differentGoals_3 ++ dktX6_differentGoals_4
def dkwX6_differentGoals_2 : List UInt8 := [180, 0, 211, 162, 0, 69, 16, 9, 21, 4, 104, 29, 96, 54, 5, 42, 180, 0, 113, 21, 5, 46, 4]
abbrev dktX6_differentGoals_2 : List UInt8 := dkwX6_differentGoals_2 ++ dktX6_differentGoals_3
def dkwX6_differentGoals_1 : List UInt8 := [132, 2, 1, 167, 255, 231, 3, 61, 3, 62, 29, 42, 180, 0, 233, 162, 0, 87, 3, 54, 4, 21, 4, 42]
abbrev dktX6_differentGoals_1 : List UInt8 := dkwX6_differentGoals_1 ++ dktX6_differentGoals_2
def dkwX6_differentGoals_0 : List UInt8 := [3, 61, 28, 16, 36, 162, 0, 25, 42, 180, 0, 113, 28, 28, 27, 160, 0, 7, 4, 167, 0, 4, 3, 79]
abbrev dktX6_differentGoals_0 : List UInt8 := dkwX6_differentGoals_0 ++ dktX6_differentGoals_1
theorem dksX6_differentGoals_0 : cX6_differentGoals.data.toList.drop 0 = dktX6_differentGoals_0 := by decide +kernel
theorem dksX6_differentGoals_1 : cX6_differentGoals.data.toList.drop 24 = dktX6_differentGoals_1 := dk_seg dksX6_differentGoals_0 24 rfl rfl
theorem dksX6_differentGoals_2 : cX6_differentGoals.data.toList.drop 48 = dktX6_differentGoals_2 := dk_seg dksX6_differentGoals_1 24 rfl rfl
theorem dksX6_differentGoals_3 : cX6_differentGoals.data.toList.drop 71 = dktX6_differentGoals_3 := dk_seg dksX6_differentGoals_2 23 rfl rfl
theorem dksX6_differentGoals_4 : cX6_differentGoals.data.toList.drop 94 = dktX6_differentGoals_4 := dk_seg dksX6_differentGoals_3 23 rfl rfl
theorem dksX6_differentGoals_5 : cX6_differentGoals.data.toList.drop 117 = dktX6_differentGoals_5 := dk_seg dksX6_differentGoals_4 23 rfl rfl
theorem dX6_differentGoals_0 : decode cX6_differentGoals 0 = .ok (.iconst 0, 1) := dk_3 (dk_at dksX6_differentGoals_0 0 rfl rfl)
theorem dX6_differentGoals_1 : decode cX6_differentGoals 1 = .ok (.istore_n 2, 1) := dk_61 (dk_at dksX6_differentGoals_0 1 rfl rfl)
theorem dX6_differentGoals_2 : decode cX6_differentGoals 2 = .ok (.iload_n 2, 1) := dk_28 (dk_at dksX6_differentGoals_0 2 rfl rfl)
theorem dX6_differentGoals_3 : decode cX6_differentGoals 3 = .ok (.bipush 36, 2) := dk_16 36 (dk_at dksX6_differentGoals_0 3 rfl rfl)
theorem dX6_differentGoals_5 : decode cX6_differentGoals 5 = .ok (.if_icmp .ge 25, 3) := dk_162 0 25 (dk_at dksX6_differentGoals_0 5 rfl rfl)
theorem dX6_differentGoals_8 : decode cX6_differentGoals 8 = .ok (.aload_n 0, 1) := dk_42 (dk_at dksX6_differentGoals_0 8 rfl rfl)
theorem dX6_differentGoals_9 : decode cX6_differentGoals 9 = .ok (.getfield 113, 3) := dk_180 0 113 (dk_at dksX6_differentGoals_0 9 rfl rfl)
theorem dX6_differentGoals_12 : decode cX6_differentGoals 12 = .ok (.iload_n 2, 1) := dk_28 (dk_at dksX6_differentGoals_0 12 rfl rfl)
theorem dX6_differentGoals_13 : decode cX6_differentGoals 13 = .ok (.iload_n 2, 1) := dk_28 (dk_at dksX6_differentGoals_0 13 rfl rfl)
theorem dX6_differentGoals_14 : decode cX6_differentGoals 14 = .ok (.iload_n 1, 1) := dk_27 (dk_at dksX6_differentGoals_0 14 rfl rfl)
theorem dX6_differentGoals_15 : decode cX6_differentGoals 15 = .ok (.if_icmp .ne 7, 3) := dk_160 0 7 (dk_at dksX6_differentGoals_0 15 rfl rfl)
theorem dX6_differentGoals_18 : decode cX6_differentGoals 18 = .ok (.iconst 1, 1) := dk_4 (dk_at dksX6_differentGoals_0 18 rfl rfl)
theorem dX6_differentGoals_19 : decode cX6_differentGoals 19 = .ok (.goto 4, 3) := dk_167 0 4 (dk_at dksX6_differentGoals_0 19 rfl rfl)
theorem dX6_differentGoals_22 : decode cX6_differentGoals 22 = .ok (.iconst 0, 1) := dk_3 (dk_at dksX6_differentGoals_0 22 rfl rfl)
theorem dX6_differentGoals_23 : decode cX6_differentGoals 23 = .ok (.iastore, 1) := dk_79 (dk_at dksX6_differentGoals_0 23 rfl rfl)
theorem dX6_differentGoals_24 : decode cX6_differentGoals 24 = .ok (.iinc 2 1, 3) := dk_132 2 1 (dk_at dksX6_differentGoals_1 0 rfl rfl)
theorem dX6_differentGoals_27 : decode cX6_differentGoals 27 = .ok (.goto (-25), 3) := dk_167 255 231 (dk_at dksX6_differentGoals_1 3 rfl rfl)
theorem dX6_differentGoals_30 : decode cX6_differentGoals 30 = .ok (.iconst 0, 1) := dk_3 (dk_at dksX6_differentGoals_1 6 rfl rfl)
theorem dX6_differentGoals_31 : decode cX6_differentGoals 31 = .ok (.istore_n 2, 1) := dk_61 (dk_at dksX6_differentGoals_1 7 rfl rfl)
theorem dX6_differentGoals_32 : decode cX6_differentGoals 32 = .ok (.iconst 0, 1) := dk_3 (dk_at dksX6_differentGoals_1 8 rfl rfl)
theorem dX6_differentGoals_33 : decode cX6_differentGoals 33 = .ok (.istore_n 3, 1) := dk_62 (dk_at dksX6_differentGoals_1 9 rfl rfl)
theorem dX6_differentGoals_34 : decode cX6_differentGoals 34 = .ok (.iload_n 3, 1) := dk_29 (dk_at dksX6_differentGoals_1 10 rfl rfl)
theorem dX6_differentGoals_35 : decode cX6_differentGoals 35 = .ok (.aload_n 0, 1) := dk_42 (dk_at dksX6_differentGoals_1 11 rfl rfl)
theorem dX6_differentGoals_36 : decode cX6_differentGoals 36 = .ok (.getfield 233, 3) := dk_180 0 233 (dk_at dksX6_differentGoals_1 12 rfl rfl)
theorem dX6_differentGoals_39 : decode cX6_differentGoals 39 = .ok (.if_icmp .ge 87, 3) := dk_162 0 87 (dk_at dksX6_differentGoals_1 15 rfl rfl)
theorem dX6_differentGoals_42 : decode cX6_differentGoals 42 = .ok (.iconst 0, 1) := dk_3 (dk_at dksX6_differentGoals_1 18 rfl rfl)
theorem dX6_differentGoals_43 : decode cX6_differentGoals 43 = .ok (.istore 4, 2) := dk_54 4 (dk_at dksX6_differentGoals_1 19 rfl rfl)
theorem dX6_differentGoals_45 : decode cX6_differentGoals 45 = .ok (.iload 4, 2) := dk_21 4 (dk_at dksX6_differentGoals_1 21 rfl rfl)
theorem dX6_differentGoals_47 : decode cX6_differentGoals 47 = .ok (.aload_n 0, 1) := dk_42 (dk_at dksX6_differentGoals_1 23 rfl rfl)
theorem dX6_differentGoals_48 : decode cX6_differentGoals 48 = .ok (.getfield 211, 3) := dk_180 0 211 (dk_at dksX6_differentGoals_2 0 rfl rfl)
theorem dX6_differentGoals_51 : decode cX6_differentGoals 51 = .ok (.if_icmp .ge 69, 3) := dk_162 0 69 (dk_at dksX6_differentGoals_2 3 rfl rfl)
theorem dX6_differentGoals_54 : decode cX6_differentGoals 54 = .ok (.bipush 9, 2) := dk_16 9 (dk_at dksX6_differentGoals_2 6 rfl rfl)
theorem dX6_differentGoals_56 : decode cX6_differentGoals 56 = .ok (.iload 4, 2) := dk_21 4 (dk_at dksX6_differentGoals_2 8 rfl rfl)
theorem dX6_differentGoals_58 : decode cX6_differentGoals 58 = .ok (.imul, 1) := dk_104 (dk_at dksX6_differentGoals_2 10 rfl rfl)
theorem dX6_differentGoals_59 : decode cX6_differentGoals 59 = .ok (.iload_n 3, 1) := dk_29 (dk_at dksX6_differentGoals_2 11 rfl rfl)
theorem dX6_differentGoals_60 : decode cX6_differentGoals 60 = .ok (.iadd, 1) := dk_96 (dk_at dksX6_differentGoals_2 12 rfl rfl)
theorem dX6_differentGoals_61 : decode cX6_differentGoals 61 = .ok (.istore 5, 2) := dk_54 5 (dk_at dksX6_differentGoals_2 13 rfl rfl)
theorem dX6_differentGoals_63 : decode cX6_differentGoals 63 = .ok (.aload_n 0, 1) := dk_42 (dk_at dksX6_differentGoals_2 15 rfl rfl)
theorem dX6_differentGoals_64 : decode cX6_differentGoals 64 = .ok (.getfield 113, 3) := dk_180 0 113 (dk_at dksX6_differentGoals_2 16 rfl rfl)
theorem dX6_differentGoals_67 : decode cX6_differentGoals 67 = .ok (.iload 5, 2) := dk_21 5 (dk_at dksX6_differentGoals_2 19 rfl rfl)
theorem dX6_differentGoals_69 : decode cX6_differentGoals 69 = .ok (.iaload, 1) := dk_46 (dk_at dksX6_differentGoals_2 21 rfl rfl)
theorem dX6_differentGoals_70 : decode cX6_differentGoals 70 = .ok (.iconst 1, 1) := dk_4 (dk_at dksX6_differentGoals_2 22 rfl rfl)
theorem dX6_differentGoals_71 : decode cX6_differentGoals 71 = .ok (.if_icmp .ne 43, 3) := dk_160 0 43 (dk_at dksX6_differentGoals_3 0 rfl rfl)
theorem dX6_differentGoals_74 : decode cX6_differentGoals 74 = .ok (.iload_n 2, 1) := dk_28 (dk_at dksX6_differentGoals_3 3 rfl rfl)
theorem dX6_differentGoals_75 : decode cX6_differentGoals 75 = .ok (.aload_n 0, 1) := dk_42 (dk_at dksX6_differentGoals_3 4 rfl rfl)
theorem dX6_differentGoals_76 : decode cX6_differentGoals 76 = .ok (.iload 4, 2) := dk_21 4 (dk_at dksX6_differentGoals_3 5 rfl rfl)
theorem dX6_differentGoals_78 : decode cX6_differentGoals 78 = .ok (.iload_n 3, 1) := dk_29 (dk_at dksX6_differentGoals_3 7 rfl rfl)
theorem dX6_differentGoals_79 : decode cX6_differentGoals 79 = .ok (.invokevirtual 280, 3) := dk_182 1 24 (dk_at dksX6_differentGoals_3 8 rfl rfl)
theorem dX6_differentGoals_82 : decode cX6_differentGoals 82 = .ok (.ifCond .eq 7, 3) := dk_153 0 7 (dk_at dksX6_differentGoals_3 11 rfl rfl)
theorem dX6_differentGoals_85 : decode cX6_differentGoals 85 = .ok (.iconst 1, 1) := dk_4 (dk_at dksX6_differentGoals_3 14 rfl rfl)
theorem dX6_differentGoals_86 : decode cX6_differentGoals 86 = .ok (.goto 4, 3) := dk_167 0 4 (dk_at dksX6_differentGoals_3 15 rfl rfl)
theorem dX6_differentGoals_89 : decode cX6_differentGoals 89 = .ok (.iconst 0, 1) := dk_3 (dk_at dksX6_differentGoals_3 18 rfl rfl)
theorem dX6_differentGoals_90 : decode cX6_differentGoals 90 = .ok (.iadd, 1) := dk_96 (dk_at dksX6_differentGoals_3 19 rfl rfl)
theorem dX6_differentGoals_91 : decode cX6_differentGoals 91 = .ok (.istore_n 2, 1) := dk_61 (dk_at dksX6_differentGoals_3 20 rfl rfl)
theorem dX6_differentGoals_92 : decode cX6_differentGoals 92 = .ok (.aload_n 0, 1) := dk_42 (dk_at dksX6_differentGoals_3 21 rfl rfl)
theorem dX6_differentGoals_93 : decode cX6_differentGoals 93 = .ok (.aload_n 0, 1) := dk_42 (dk_at dksX6_differentGoals_3 22 rfl rfl)
theorem dX6_differentGoals_94 : decode cX6_differentGoals 94 = .ok (.getfield 95, 3) := dk_180 0 95 (dk_at dksX6_differentGoals_4 0 rfl rfl)
theorem dX6_differentGoals_97 : decode cX6_differentGoals 97 = .ok (.iload 5, 2) := dk_21 5 (dk_at dksX6_differentGoals_4 3 rfl rfl)
theorem dX6_differentGoals_99 : decode cX6_differentGoals 99 = .ok (.iaload, 1) := dk_46 (dk_at dksX6_differentGoals_4 5 rfl rfl)
theorem dX6_differentGoals_100 : decode cX6_differentGoals 100 = .ok (.invokevirtual 283, 3) := dk_182 1 27 (dk_at dksX6_differentGoals_4 6 rfl rfl)
theorem dX6_differentGoals_103 : decode cX6_differentGoals 103 = .ok (.aload_n 0, 1) := dk_42 (dk_at dksX6_differentGoals_4 9 rfl rfl)
theorem dX6_differentGoals_104 : decode cX6_differentGoals 104 = .ok (.aload_n 0, 1) := dk_42 (dk_at dksX6_differentGoals_4 10 rfl rfl)
theorem dX6_differentGoals_105 : decode cX6_differentGoals 105 = .ok (.getfield 98, 3) := dk_180 0 98 (dk_at dksX6_differentGoals_4 11 rfl rfl)
theorem dX6_differentGoals_108 : decode cX6_differentGoals 108 = .ok (.iload 5, 2) := dk_21 5 (dk_at dksX6_differentGoals_4 14 rfl rfl)
theorem dX6_differentGoals_110 : decode cX6_differentGoals 110 = .ok (.iaload, 1) := dk_46 (dk_at dksX6_differentGoals_4 16 rfl rfl)
theorem dX6_differentGoals_111 : decode cX6_differentGoals 111 = .ok (.invokevirtual 283, 3) := dk_182 1 27 (dk_at dksX6_differentGoals_4 17 rfl rfl)
theorem dX6_differentGoals_114 : decode cX6_differentGoals 114 = .ok (.iinc 4 1, 3) := dk_132 4 1 (dk_at dksX6_differentGoals_4 20 rfl rfl)
theorem dX6_differentGoals_117 : decode cX6_differentGoals 117 = .ok (.goto (-72), 3) := dk_167 255 184 (dk_at dksX6_differentGoals_5 0 rfl rfl)
theorem dX6_differentGoals_120 : decode cX6_differentGoals 120 = .ok (.iinc 3 1, 3) := dk_132 3 1 (dk_at dksX6_differentGoals_5 3 rfl rfl)
theorem dX6_differentGoals_123 : decode cX6_differentGoals 123 = .ok (.goto (-89), 3) := dk_167 255 167 (dk_at dksX6_differentGoals_5 6 rfl rfl)
theorem dX6_differentGoals_126 : decode cX6_differentGoals 126 = .ok (.iload_n 2, 1) := dk_28 (dk_at dksX6_differentGoals_5 9 rfl rfl)
theorem dX6_differentGoals_127 : decode cX6_differentGoals 127 = .ok (.ireturn, 1) := dk_172 (dk_at dksX6_differentGoals_5 10 rfl rfl)
abbrev cX6_isNew : ByteArray := prog_13_method_40_code
def yX6_isNew : MethodName := ⟨RX6, "isNew", "(II)Z"⟩
def dkwX6_isNew_2 : List UInt8 := [132, 4, 1, 167, 255, 212, 29, 172]
abbrev dktX6_isNew_2 : List UInt8 := dkwX6_isNew_2 ++ []
def dkwX6_isNew_1 : List UInt8 := [21, 4, 96, 46, 153, 0, 13, 42, 21, 4, 28, 182, 0, 239, 154, 0, 7, 4, 167, 0, 4, 3, 62]
abbrev dktX6_isNew_1 : List UInt8 := dkwX6_isNew_1 ++ dktX6_isNew_2
def dkwX6_isNew_0 : List UInt8 := [4, 62, 3, 54, 4, 21, 4, 28, 162, 0, 44, 29, 153, 0, 32, 42, 180, 0, 113, 16, 9, 27, 104]
abbrev dktX6_isNew_0 : List UInt8 := dkwX6_isNew_0 ++ dktX6_isNew_1
theorem dksX6_isNew_0 : cX6_isNew.data.toList.drop 0 = dktX6_isNew_0 := by decide +kernel
theorem dksX6_isNew_1 : cX6_isNew.data.toList.drop 23 = dktX6_isNew_1 := dk_seg dksX6_isNew_0 23 rfl rfl
theorem dksX6_isNew_2 : cX6_isNew.data.toList.drop 46 = dktX6_isNew_2 := dk_seg dksX6_isNew_1 23 rfl rfl
theorem dX6_isNew_0 : decode cX6_isNew 0 = .ok (.iconst 1, 1) := dk_4 (dk_at dksX6_isNew_0 0 rfl rfl)
theorem dX6_isNew_1 : decode cX6_isNew 1 = .ok (.istore_n 3, 1) := dk_62 (dk_at dksX6_isNew_0 1 rfl rfl)
theorem dX6_isNew_2 : decode cX6_isNew 2 = .ok (.iconst 0, 1) := dk_3 (dk_at dksX6_isNew_0 2 rfl rfl)
theorem dX6_isNew_3 : decode cX6_isNew 3 = .ok (.istore 4, 2) := dk_54 4 (dk_at dksX6_isNew_0 3 rfl rfl)
theorem dX6_isNew_5 : decode cX6_isNew 5 = .ok (.iload 4, 2) := dk_21 4 (dk_at dksX6_isNew_0 5 rfl rfl)
theorem dX6_isNew_7 : decode cX6_isNew 7 = .ok (.iload_n 2, 1) := dk_28 (dk_at dksX6_isNew_0 7 rfl rfl)
theorem dX6_isNew_8 : decode cX6_isNew 8 = .ok (.if_icmp .ge 44, 3) := dk_162 0 44 (dk_at dksX6_isNew_0 8 rfl rfl)
theorem dX6_isNew_11 : decode cX6_isNew 11 = .ok (.iload_n 3, 1) := dk_29 (dk_at dksX6_isNew_0 11 rfl rfl)
theorem dX6_isNew_12 : decode cX6_isNew 12 = .ok (.ifCond .eq 32, 3) := dk_153 0 32 (dk_at dksX6_isNew_0 12 rfl rfl)
theorem dX6_isNew_15 : decode cX6_isNew 15 = .ok (.aload_n 0, 1) := dk_42 (dk_at dksX6_isNew_0 15 rfl rfl)
theorem dX6_isNew_16 : decode cX6_isNew 16 = .ok (.getfield 113, 3) := dk_180 0 113 (dk_at dksX6_isNew_0 16 rfl rfl)
theorem dX6_isNew_19 : decode cX6_isNew 19 = .ok (.bipush 9, 2) := dk_16 9 (dk_at dksX6_isNew_0 19 rfl rfl)
theorem dX6_isNew_21 : decode cX6_isNew 21 = .ok (.iload_n 1, 1) := dk_27 (dk_at dksX6_isNew_0 21 rfl rfl)
theorem dX6_isNew_22 : decode cX6_isNew 22 = .ok (.imul, 1) := dk_104 (dk_at dksX6_isNew_0 22 rfl rfl)
theorem dX6_isNew_23 : decode cX6_isNew 23 = .ok (.iload 4, 2) := dk_21 4 (dk_at dksX6_isNew_1 0 rfl rfl)
theorem dX6_isNew_25 : decode cX6_isNew 25 = .ok (.iadd, 1) := dk_96 (dk_at dksX6_isNew_1 2 rfl rfl)
theorem dX6_isNew_26 : decode cX6_isNew 26 = .ok (.iaload, 1) := dk_46 (dk_at dksX6_isNew_1 3 rfl rfl)
theorem dX6_isNew_27 : decode cX6_isNew 27 = .ok (.ifCond .eq 13, 3) := dk_153 0 13 (dk_at dksX6_isNew_1 4 rfl rfl)
theorem dX6_isNew_30 : decode cX6_isNew 30 = .ok (.aload_n 0, 1) := dk_42 (dk_at dksX6_isNew_1 7 rfl rfl)
theorem dX6_isNew_31 : decode cX6_isNew 31 = .ok (.iload 4, 2) := dk_21 4 (dk_at dksX6_isNew_1 8 rfl rfl)
theorem dX6_isNew_33 : decode cX6_isNew 33 = .ok (.iload_n 2, 1) := dk_28 (dk_at dksX6_isNew_1 10 rfl rfl)
theorem dX6_isNew_34 : decode cX6_isNew 34 = .ok (.invokevirtual 239, 3) := dk_182 0 239 (dk_at dksX6_isNew_1 11 rfl rfl)
theorem dX6_isNew_37 : decode cX6_isNew 37 = .ok (.ifCond .ne 7, 3) := dk_154 0 7 (dk_at dksX6_isNew_1 14 rfl rfl)
theorem dX6_isNew_40 : decode cX6_isNew 40 = .ok (.iconst 1, 1) := dk_4 (dk_at dksX6_isNew_1 17 rfl rfl)
theorem dX6_isNew_41 : decode cX6_isNew 41 = .ok (.goto 4, 3) := dk_167 0 4 (dk_at dksX6_isNew_1 18 rfl rfl)
theorem dX6_isNew_44 : decode cX6_isNew 44 = .ok (.iconst 0, 1) := dk_3 (dk_at dksX6_isNew_1 21 rfl rfl)
theorem dX6_isNew_45 : decode cX6_isNew 45 = .ok (.istore_n 3, 1) := dk_62 (dk_at dksX6_isNew_1 22 rfl rfl)
theorem dX6_isNew_46 : decode cX6_isNew 46 = .ok (.iinc 4 1, 3) := dk_132 4 1 (dk_at dksX6_isNew_2 0 rfl rfl)
theorem dX6_isNew_49 : decode cX6_isNew 49 = .ok (.goto (-44), 3) := dk_167 255 212 (dk_at dksX6_isNew_2 3 rfl rfl)
theorem dX6_isNew_52 : decode cX6_isNew 52 = .ok (.iload_n 3, 1) := dk_29 (dk_at dksX6_isNew_2 6 rfl rfl)
theorem dX6_isNew_53 : decode cX6_isNew 53 = .ok (.ireturn, 1) := dk_172 (dk_at dksX6_isNew_2 7 rfl rfl)
abbrev cX6_mark : ByteArray := prog_13_method_42_code
def yX6_mark : MethodName := ⟨RX6, "mark", "(I)V"⟩
def dkwX6_mark_0 : List UInt8 := [27, 2, 159, 0, 10, 42, 180, 0, 113, 27, 4, 79, 177]
abbrev dktX6_mark_0 : List UInt8 := dkwX6_mark_0 ++ []
theorem dksX6_mark_0 : cX6_mark.data.toList.drop 0 = dktX6_mark_0 := by decide +kernel
theorem dX6_mark_0 : decode cX6_mark 0 = .ok (.iload_n 1, 1) := dk_27 (dk_at dksX6_mark_0 0 rfl rfl)
theorem dX6_mark_1 : decode cX6_mark 1 = .ok (.iconst (-1), 1) := dk_2 (dk_at dksX6_mark_0 1 rfl rfl)
theorem dX6_mark_2 : decode cX6_mark 2 = .ok (.if_icmp .eq 10, 3) := dk_159 0 10 (dk_at dksX6_mark_0 2 rfl rfl)
theorem dX6_mark_5 : decode cX6_mark 5 = .ok (.aload_n 0, 1) := dk_42 (dk_at dksX6_mark_0 5 rfl rfl)
theorem dX6_mark_6 : decode cX6_mark 6 = .ok (.getfield 113, 3) := dk_180 0 113 (dk_at dksX6_mark_0 6 rfl rfl)
theorem dX6_mark_9 : decode cX6_mark 9 = .ok (.iload_n 1, 1) := dk_27 (dk_at dksX6_mark_0 9 rfl rfl)
theorem dX6_mark_10 : decode cX6_mark 10 = .ok (.iconst 1, 1) := dk_4 (dk_at dksX6_mark_0 10 rfl rfl)
theorem dX6_mark_11 : decode cX6_mark 11 = .ok (.iastore, 1) := dk_79 (dk_at dksX6_mark_0 11 rfl rfl)
theorem dX6_mark_12 : decode cX6_mark 12 = .ok (.return_, 1) := dk_177 (dk_at dksX6_mark_0 12 rfl rfl)
abbrev cX6_plainOf : ByteArray := prog_13_method_43_code
def yX6_plainOf : MethodName := ⟨RX6, "plainOf", "(I)I"⟩
def dkwX6_plainOf_4 : List UInt8 := [3, 128, 61, 132, 3, 1, 167, 255, 160, 28, 172]
abbrev dktX6_plainOf_4 : List UInt8 := dkwX6_plainOf_4 ++ []
def dkwX6_plainOf_3 : List UInt8 := [167, 0, 4, 3, 54, 4, 132, 5, 1, 167, 255, 197, 28, 21, 4, 153, 0, 9, 4, 29, 120, 167, 0, 4]
abbrev dktX6_plainOf_3 : List UInt8 := dkwX6_plainOf_3 ++ dktX6_plainOf_4
def dkwX6_plainOf_2 : List UInt8 := [160, 0, 21, 42, 180, 0, 13, 21, 5, 5, 108, 46, 29, 5, 108, 184, 0, 214, 154, 0, 7, 4]
abbrev dktX6_plainOf_2 : List UInt8 := dkwX6_plainOf_2 ++ dktX6_plainOf_3
def dkwX6_plainOf_1 : List UInt8 := [162, 0, 58, 21, 4, 153, 0, 44, 27, 21, 5, 184, 0, 214, 153, 0, 31, 21, 5, 5, 112, 29, 5, 112]
abbrev dktX6_plainOf_1 : List UInt8 := dkwX6_plainOf_1 ++ dktX6_plainOf_2
def dkwX6_plainOf_0 : List UInt8 := [3, 61, 3, 62, 29, 16, 8, 162, 0, 96, 27, 29, 184, 0, 214, 54, 4, 3, 54, 5, 21, 5, 16, 8]
abbrev dktX6_plainOf_0 : List UInt8 := dkwX6_plainOf_0 ++ dktX6_plainOf_1
theorem dksX6_plainOf_0 : cX6_plainOf.data.toList.drop 0 = dktX6_plainOf_0 := by decide +kernel
theorem dksX6_plainOf_1 : cX6_plainOf.data.toList.drop 24 = dktX6_plainOf_1 := dk_seg dksX6_plainOf_0 24 rfl rfl
theorem dksX6_plainOf_2 : cX6_plainOf.data.toList.drop 48 = dktX6_plainOf_2 := dk_seg dksX6_plainOf_1 24 rfl rfl
theorem dksX6_plainOf_3 : cX6_plainOf.data.toList.drop 70 = dktX6_plainOf_3 := dk_seg dksX6_plainOf_2 22 rfl rfl
theorem dksX6_plainOf_4 : cX6_plainOf.data.toList.drop 94 = dktX6_plainOf_4 := dk_seg dksX6_plainOf_3 24 rfl rfl
theorem dX6_plainOf_0 : decode cX6_plainOf 0 = .ok (.iconst 0, 1) := dk_3 (dk_at dksX6_plainOf_0 0 rfl rfl)
theorem dX6_plainOf_1 : decode cX6_plainOf 1 = .ok (.istore_n 2, 1) := dk_61 (dk_at dksX6_plainOf_0 1 rfl rfl)
theorem dX6_plainOf_2 : decode cX6_plainOf 2 = .ok (.iconst 0, 1) := dk_3 (dk_at dksX6_plainOf_0 2 rfl rfl)
theorem dX6_plainOf_3 : decode cX6_plainOf 3 = .ok (.istore_n 3, 1) := dk_62 (dk_at dksX6_plainOf_0 3 rfl rfl)
theorem dX6_plainOf_4 : decode cX6_plainOf 4 = .ok (.iload_n 3, 1) := dk_29 (dk_at dksX6_plainOf_0 4 rfl rfl)
theorem dX6_plainOf_5 : decode cX6_plainOf 5 = .ok (.bipush 8, 2) := dk_16 8 (dk_at dksX6_plainOf_0 5 rfl rfl)
theorem dX6_plainOf_7 : decode cX6_plainOf 7 = .ok (.if_icmp .ge 96, 3) := dk_162 0 96 (dk_at dksX6_plainOf_0 7 rfl rfl)
theorem dX6_plainOf_10 : decode cX6_plainOf 10 = .ok (.iload_n 1, 1) := dk_27 (dk_at dksX6_plainOf_0 10 rfl rfl)
theorem dX6_plainOf_11 : decode cX6_plainOf 11 = .ok (.iload_n 3, 1) := dk_29 (dk_at dksX6_plainOf_0 11 rfl rfl)
theorem dX6_plainOf_12 : decode cX6_plainOf 12 = .ok (.invokestatic 214, 3) := dk_184 0 214 (dk_at dksX6_plainOf_0 12 rfl rfl)
theorem dX6_plainOf_15 : decode cX6_plainOf 15 = .ok (.istore 4, 2) := dk_54 4 (dk_at dksX6_plainOf_0 15 rfl rfl)
theorem dX6_plainOf_17 : decode cX6_plainOf 17 = .ok (.iconst 0, 1) := dk_3 (dk_at dksX6_plainOf_0 17 rfl rfl)
theorem dX6_plainOf_18 : decode cX6_plainOf 18 = .ok (.istore 5, 2) := dk_54 5 (dk_at dksX6_plainOf_0 18 rfl rfl)
theorem dX6_plainOf_20 : decode cX6_plainOf 20 = .ok (.iload 5, 2) := dk_21 5 (dk_at dksX6_plainOf_0 20 rfl rfl)
theorem dX6_plainOf_22 : decode cX6_plainOf 22 = .ok (.bipush 8, 2) := dk_16 8 (dk_at dksX6_plainOf_0 22 rfl rfl)
theorem dX6_plainOf_24 : decode cX6_plainOf 24 = .ok (.if_icmp .ge 58, 3) := dk_162 0 58 (dk_at dksX6_plainOf_1 0 rfl rfl)
theorem dX6_plainOf_27 : decode cX6_plainOf 27 = .ok (.iload 4, 2) := dk_21 4 (dk_at dksX6_plainOf_1 3 rfl rfl)
theorem dX6_plainOf_29 : decode cX6_plainOf 29 = .ok (.ifCond .eq 44, 3) := dk_153 0 44 (dk_at dksX6_plainOf_1 5 rfl rfl)
theorem dX6_plainOf_32 : decode cX6_plainOf 32 = .ok (.iload_n 1, 1) := dk_27 (dk_at dksX6_plainOf_1 8 rfl rfl)
theorem dX6_plainOf_33 : decode cX6_plainOf 33 = .ok (.iload 5, 2) := dk_21 5 (dk_at dksX6_plainOf_1 9 rfl rfl)
theorem dX6_plainOf_35 : decode cX6_plainOf 35 = .ok (.invokestatic 214, 3) := dk_184 0 214 (dk_at dksX6_plainOf_1 11 rfl rfl)
theorem dX6_plainOf_38 : decode cX6_plainOf 38 = .ok (.ifCond .eq 31, 3) := dk_153 0 31 (dk_at dksX6_plainOf_1 14 rfl rfl)
theorem dX6_plainOf_41 : decode cX6_plainOf 41 = .ok (.iload 5, 2) := dk_21 5 (dk_at dksX6_plainOf_1 17 rfl rfl)
theorem dX6_plainOf_43 : decode cX6_plainOf 43 = .ok (.iconst 2, 1) := dk_5 (dk_at dksX6_plainOf_1 19 rfl rfl)
theorem dX6_plainOf_44 : decode cX6_plainOf 44 = .ok (.irem, 1) := dk_112 (dk_at dksX6_plainOf_1 20 rfl rfl)
theorem dX6_plainOf_45 : decode cX6_plainOf 45 = .ok (.iload_n 3, 1) := dk_29 (dk_at dksX6_plainOf_1 21 rfl rfl)
theorem dX6_plainOf_46 : decode cX6_plainOf 46 = .ok (.iconst 2, 1) := dk_5 (dk_at dksX6_plainOf_1 22 rfl rfl)
theorem dX6_plainOf_47 : decode cX6_plainOf 47 = .ok (.irem, 1) := dk_112 (dk_at dksX6_plainOf_1 23 rfl rfl)
theorem dX6_plainOf_48 : decode cX6_plainOf 48 = .ok (.if_icmp .ne 21, 3) := dk_160 0 21 (dk_at dksX6_plainOf_2 0 rfl rfl)
theorem dX6_plainOf_51 : decode cX6_plainOf 51 = .ok (.aload_n 0, 1) := dk_42 (dk_at dksX6_plainOf_2 3 rfl rfl)
theorem dX6_plainOf_52 : decode cX6_plainOf 52 = .ok (.getfield 13, 3) := dk_180 0 13 (dk_at dksX6_plainOf_2 4 rfl rfl)
theorem dX6_plainOf_55 : decode cX6_plainOf 55 = .ok (.iload 5, 2) := dk_21 5 (dk_at dksX6_plainOf_2 7 rfl rfl)
theorem dX6_plainOf_57 : decode cX6_plainOf 57 = .ok (.iconst 2, 1) := dk_5 (dk_at dksX6_plainOf_2 9 rfl rfl)
theorem dX6_plainOf_58 : decode cX6_plainOf 58 = .ok (.idiv, 1) := dk_108 (dk_at dksX6_plainOf_2 10 rfl rfl)
theorem dX6_plainOf_59 : decode cX6_plainOf 59 = .ok (.iaload, 1) := dk_46 (dk_at dksX6_plainOf_2 11 rfl rfl)
theorem dX6_plainOf_60 : decode cX6_plainOf 60 = .ok (.iload_n 3, 1) := dk_29 (dk_at dksX6_plainOf_2 12 rfl rfl)
theorem dX6_plainOf_61 : decode cX6_plainOf 61 = .ok (.iconst 2, 1) := dk_5 (dk_at dksX6_plainOf_2 13 rfl rfl)
theorem dX6_plainOf_62 : decode cX6_plainOf 62 = .ok (.idiv, 1) := dk_108 (dk_at dksX6_plainOf_2 14 rfl rfl)
theorem dX6_plainOf_63 : decode cX6_plainOf 63 = .ok (.invokestatic 214, 3) := dk_184 0 214 (dk_at dksX6_plainOf_2 15 rfl rfl)
theorem dX6_plainOf_66 : decode cX6_plainOf 66 = .ok (.ifCond .ne 7, 3) := dk_154 0 7 (dk_at dksX6_plainOf_2 18 rfl rfl)
theorem dX6_plainOf_69 : decode cX6_plainOf 69 = .ok (.iconst 1, 1) := dk_4 (dk_at dksX6_plainOf_2 21 rfl rfl)
theorem dX6_plainOf_70 : decode cX6_plainOf 70 = .ok (.goto 4, 3) := dk_167 0 4 (dk_at dksX6_plainOf_3 0 rfl rfl)
theorem dX6_plainOf_73 : decode cX6_plainOf 73 = .ok (.iconst 0, 1) := dk_3 (dk_at dksX6_plainOf_3 3 rfl rfl)
theorem dX6_plainOf_74 : decode cX6_plainOf 74 = .ok (.istore 4, 2) := dk_54 4 (dk_at dksX6_plainOf_3 4 rfl rfl)
theorem dX6_plainOf_76 : decode cX6_plainOf 76 = .ok (.iinc 5 1, 3) := dk_132 5 1 (dk_at dksX6_plainOf_3 6 rfl rfl)
theorem dX6_plainOf_79 : decode cX6_plainOf 79 = .ok (.goto (-59), 3) := dk_167 255 197 (dk_at dksX6_plainOf_3 9 rfl rfl)
theorem dX6_plainOf_82 : decode cX6_plainOf 82 = .ok (.iload_n 2, 1) := dk_28 (dk_at dksX6_plainOf_3 12 rfl rfl)
theorem dX6_plainOf_83 : decode cX6_plainOf 83 = .ok (.iload 4, 2) := dk_21 4 (dk_at dksX6_plainOf_3 13 rfl rfl)
theorem dX6_plainOf_85 : decode cX6_plainOf 85 = .ok (.ifCond .eq 9, 3) := dk_153 0 9 (dk_at dksX6_plainOf_3 15 rfl rfl)
theorem dX6_plainOf_88 : decode cX6_plainOf 88 = .ok (.iconst 1, 1) := dk_4 (dk_at dksX6_plainOf_3 18 rfl rfl)
theorem dX6_plainOf_89 : decode cX6_plainOf 89 = .ok (.iload_n 3, 1) := dk_29 (dk_at dksX6_plainOf_3 19 rfl rfl)
theorem dX6_plainOf_90 : decode cX6_plainOf 90 = .ok (.ishl, 1) := dk_120 (dk_at dksX6_plainOf_3 20 rfl rfl)
theorem dX6_plainOf_91 : decode cX6_plainOf 91 = .ok (.goto 4, 3) := dk_167 0 4 (dk_at dksX6_plainOf_3 21 rfl rfl)
theorem dX6_plainOf_94 : decode cX6_plainOf 94 = .ok (.iconst 0, 1) := dk_3 (dk_at dksX6_plainOf_4 0 rfl rfl)
theorem dX6_plainOf_95 : decode cX6_plainOf 95 = .ok (.ior, 1) := dk_128 (dk_at dksX6_plainOf_4 1 rfl rfl)
theorem dX6_plainOf_96 : decode cX6_plainOf 96 = .ok (.istore_n 2, 1) := dk_61 (dk_at dksX6_plainOf_4 2 rfl rfl)
theorem dX6_plainOf_97 : decode cX6_plainOf 97 = .ok (.iinc 3 1, 3) := dk_132 3 1 (dk_at dksX6_plainOf_4 3 rfl rfl)
theorem dX6_plainOf_100 : decode cX6_plainOf 100 = .ok (.goto (-96), 3) := dk_167 255 160 (dk_at dksX6_plainOf_4 6 rfl rfl)
theorem dX6_plainOf_103 : decode cX6_plainOf 103 = .ok (.iload_n 2, 1) := dk_28 (dk_at dksX6_plainOf_4 9 rfl rfl)
theorem dX6_plainOf_104 : decode cX6_plainOf 104 = .ok (.ireturn, 1) := dk_172 (dk_at dksX6_plainOf_4 10 rfl rfl)
abbrev cX6_entry : ByteArray := prog_13_method_74_code
def yX6_entry : MethodName := ⟨RX6, "entry", "(III)I"⟩
def dkwX6_entry_3 : List UInt8 := [16, 155, 172]
abbrev dktX6_entry_3 : List UInt8 := dkwX6_entry_3 ++ []
def dkwX6_entry_2 : List UInt8 := [180, 0, 101, 21, 4, 46, 4, 100, 184, 0, 146, 153, 0, 13, 42, 21, 4, 29, 182, 1, 120, 167, 0, 5]
abbrev dktX6_entry_2 : List UInt8 := dkwX6_entry_2 ++ dktX6_entry_3
def dkwX6_entry_1 : List UInt8 := [42, 182, 1, 39, 16, 9, 27, 104, 54, 4, 42, 180, 0, 89, 21, 4, 46, 4, 160, 0, 30, 29, 3, 42]
abbrev dktX6_entry_1 : List UInt8 := dkwX6_entry_1 ++ dktX6_entry_2
def dkwX6_entry_0 : List UInt8 := [42, 27, 182, 1, 33, 153, 0, 11, 42, 28, 182, 1, 105, 154, 0, 6, 16, 155, 172, 42, 28, 182, 1, 108]
abbrev dktX6_entry_0 : List UInt8 := dkwX6_entry_0 ++ dktX6_entry_1
theorem dksX6_entry_0 : cX6_entry.data.toList.drop 0 = dktX6_entry_0 := by decide +kernel
theorem dksX6_entry_1 : cX6_entry.data.toList.drop 24 = dktX6_entry_1 := dk_seg dksX6_entry_0 24 rfl rfl
theorem dksX6_entry_2 : cX6_entry.data.toList.drop 48 = dktX6_entry_2 := dk_seg dksX6_entry_1 24 rfl rfl
theorem dksX6_entry_3 : cX6_entry.data.toList.drop 72 = dktX6_entry_3 := dk_seg dksX6_entry_2 24 rfl rfl
theorem dX6_entry_0 : decode cX6_entry 0 = .ok (.aload_n 0, 1) := dk_42 (dk_at dksX6_entry_0 0 rfl rfl)
theorem dX6_entry_1 : decode cX6_entry 1 = .ok (.iload_n 1, 1) := dk_27 (dk_at dksX6_entry_0 1 rfl rfl)
theorem dX6_entry_2 : decode cX6_entry 2 = .ok (.invokevirtual 289, 3) := dk_182 1 33 (dk_at dksX6_entry_0 2 rfl rfl)
theorem dX6_entry_5 : decode cX6_entry 5 = .ok (.ifCond .eq 11, 3) := dk_153 0 11 (dk_at dksX6_entry_0 5 rfl rfl)
theorem dX6_entry_8 : decode cX6_entry 8 = .ok (.aload_n 0, 1) := dk_42 (dk_at dksX6_entry_0 8 rfl rfl)
theorem dX6_entry_9 : decode cX6_entry 9 = .ok (.iload_n 2, 1) := dk_28 (dk_at dksX6_entry_0 9 rfl rfl)
theorem dX6_entry_10 : decode cX6_entry 10 = .ok (.invokevirtual 361, 3) := dk_182 1 105 (dk_at dksX6_entry_0 10 rfl rfl)
theorem dX6_entry_13 : decode cX6_entry 13 = .ok (.ifCond .ne 6, 3) := dk_154 0 6 (dk_at dksX6_entry_0 13 rfl rfl)
theorem dX6_entry_16 : decode cX6_entry 16 = .ok (.bipush (-101), 2) := dk_16 155 (dk_at dksX6_entry_0 16 rfl rfl)
theorem dX6_entry_18 : decode cX6_entry 18 = .ok (.ireturn, 1) := dk_172 (dk_at dksX6_entry_0 18 rfl rfl)
theorem dX6_entry_19 : decode cX6_entry 19 = .ok (.aload_n 0, 1) := dk_42 (dk_at dksX6_entry_0 19 rfl rfl)
theorem dX6_entry_20 : decode cX6_entry 20 = .ok (.iload_n 2, 1) := dk_28 (dk_at dksX6_entry_0 20 rfl rfl)
theorem dX6_entry_21 : decode cX6_entry 21 = .ok (.invokevirtual 364, 3) := dk_182 1 108 (dk_at dksX6_entry_0 21 rfl rfl)
theorem dX6_entry_24 : decode cX6_entry 24 = .ok (.aload_n 0, 1) := dk_42 (dk_at dksX6_entry_1 0 rfl rfl)
theorem dX6_entry_25 : decode cX6_entry 25 = .ok (.invokevirtual 295, 3) := dk_182 1 39 (dk_at dksX6_entry_1 1 rfl rfl)
theorem dX6_entry_28 : decode cX6_entry 28 = .ok (.bipush 9, 2) := dk_16 9 (dk_at dksX6_entry_1 4 rfl rfl)
theorem dX6_entry_30 : decode cX6_entry 30 = .ok (.iload_n 1, 1) := dk_27 (dk_at dksX6_entry_1 6 rfl rfl)
theorem dX6_entry_31 : decode cX6_entry 31 = .ok (.imul, 1) := dk_104 (dk_at dksX6_entry_1 7 rfl rfl)
theorem dX6_entry_32 : decode cX6_entry 32 = .ok (.istore 4, 2) := dk_54 4 (dk_at dksX6_entry_1 8 rfl rfl)
theorem dX6_entry_34 : decode cX6_entry 34 = .ok (.aload_n 0, 1) := dk_42 (dk_at dksX6_entry_1 10 rfl rfl)
theorem dX6_entry_35 : decode cX6_entry 35 = .ok (.getfield 89, 3) := dk_180 0 89 (dk_at dksX6_entry_1 11 rfl rfl)
theorem dX6_entry_38 : decode cX6_entry 38 = .ok (.iload 4, 2) := dk_21 4 (dk_at dksX6_entry_1 14 rfl rfl)
theorem dX6_entry_40 : decode cX6_entry 40 = .ok (.iaload, 1) := dk_46 (dk_at dksX6_entry_1 16 rfl rfl)
theorem dX6_entry_41 : decode cX6_entry 41 = .ok (.iconst 1, 1) := dk_4 (dk_at dksX6_entry_1 17 rfl rfl)
theorem dX6_entry_42 : decode cX6_entry 42 = .ok (.if_icmp .ne 30, 3) := dk_160 0 30 (dk_at dksX6_entry_1 18 rfl rfl)
theorem dX6_entry_45 : decode cX6_entry 45 = .ok (.iload_n 3, 1) := dk_29 (dk_at dksX6_entry_1 21 rfl rfl)
theorem dX6_entry_46 : decode cX6_entry 46 = .ok (.iconst 0, 1) := dk_3 (dk_at dksX6_entry_1 22 rfl rfl)
theorem dX6_entry_47 : decode cX6_entry 47 = .ok (.aload_n 0, 1) := dk_42 (dk_at dksX6_entry_1 23 rfl rfl)
theorem dX6_entry_48 : decode cX6_entry 48 = .ok (.getfield 101, 3) := dk_180 0 101 (dk_at dksX6_entry_2 0 rfl rfl)
theorem dX6_entry_51 : decode cX6_entry 51 = .ok (.iload 4, 2) := dk_21 4 (dk_at dksX6_entry_2 3 rfl rfl)
theorem dX6_entry_53 : decode cX6_entry 53 = .ok (.iaload, 1) := dk_46 (dk_at dksX6_entry_2 5 rfl rfl)
theorem dX6_entry_54 : decode cX6_entry 54 = .ok (.iconst 1, 1) := dk_4 (dk_at dksX6_entry_2 6 rfl rfl)
theorem dX6_entry_55 : decode cX6_entry 55 = .ok (.isub, 1) := dk_100 (dk_at dksX6_entry_2 7 rfl rfl)
theorem dX6_entry_56 : decode cX6_entry 56 = .ok (.invokestatic 146, 3) := dk_184 0 146 (dk_at dksX6_entry_2 8 rfl rfl)
theorem dX6_entry_59 : decode cX6_entry 59 = .ok (.ifCond .eq 13, 3) := dk_153 0 13 (dk_at dksX6_entry_2 11 rfl rfl)
theorem dX6_entry_62 : decode cX6_entry 62 = .ok (.aload_n 0, 1) := dk_42 (dk_at dksX6_entry_2 14 rfl rfl)
theorem dX6_entry_63 : decode cX6_entry 63 = .ok (.iload 4, 2) := dk_21 4 (dk_at dksX6_entry_2 15 rfl rfl)
theorem dX6_entry_65 : decode cX6_entry 65 = .ok (.iload_n 3, 1) := dk_29 (dk_at dksX6_entry_2 17 rfl rfl)
theorem dX6_entry_66 : decode cX6_entry 66 = .ok (.invokevirtual 376, 3) := dk_182 1 120 (dk_at dksX6_entry_2 18 rfl rfl)
theorem dX6_entry_69 : decode cX6_entry 69 = .ok (.goto 5, 3) := dk_167 0 5 (dk_at dksX6_entry_2 21 rfl rfl)
theorem dX6_entry_72 : decode cX6_entry 72 = .ok (.bipush (-101), 2) := dk_16 155 (dk_at dksX6_entry_3 0 rfl rfl)
theorem dX6_entry_74 : decode cX6_entry 74 = .ok (.ireturn, 1) := dk_172 (dk_at dksX6_entry_3 2 rfl rfl)
abbrev cX6_entryAt : ByteArray := prog_13_method_44_code
def yX6_entryAt : MethodName := ⟨RX6, "entryAt", "(II)I"⟩
def dkwX6_entryAt_4 : List UInt8 := [46, 167, 0, 9, 42, 180, 0, 92, 29, 46, 172]
abbrev dktX6_entryAt_4 : List UInt8 := dkwX6_entryAt_4 ++ []
def dkwX6_entryAt_3 : List UInt8 := [180, 0, 98, 29, 46, 62, 167, 255, 184, 42, 180, 0, 92, 29, 46, 2, 160, 0, 12, 42, 180, 0, 104, 29]
abbrev dktX6_entryAt_3 : List UInt8 := dkwX6_entryAt_3 ++ dktX6_entryAt_4
def dkwX6_entryAt_2 : List UInt8 := [167, 0, 5, 21, 5, 100, 54, 4, 21, 6, 153, 0, 12, 42, 180, 0, 95, 29, 46, 167, 0, 9, 42]
abbrev dktX6_entryAt_2 : List UInt8 := dkwX6_entryAt_2 ++ dktX6_entryAt_3
def dkwX6_entryAt_1 : List UInt8 := [54, 5, 21, 4, 21, 5, 162, 0, 7, 4, 167, 0, 4, 3, 54, 6, 21, 4, 21, 6, 153, 0, 7, 3]
abbrev dktX6_entryAt_1 : List UInt8 := dkwX6_entryAt_1 ++ dktX6_entryAt_2
def dkwX6_entryAt_0 : List UInt8 := [27, 62, 28, 54, 4, 21, 4, 158, 0, 73, 132, 4, 255, 42, 180, 0, 101, 42, 180, 0, 95, 29, 46, 46]
abbrev dktX6_entryAt_0 : List UInt8 := dkwX6_entryAt_0 ++ dktX6_entryAt_1
theorem dksX6_entryAt_0 : cX6_entryAt.data.toList.drop 0 = dktX6_entryAt_0 := by decide +kernel
theorem dksX6_entryAt_1 : cX6_entryAt.data.toList.drop 24 = dktX6_entryAt_1 := dk_seg dksX6_entryAt_0 24 rfl rfl
theorem dksX6_entryAt_2 : cX6_entryAt.data.toList.drop 48 = dktX6_entryAt_2 := dk_seg dksX6_entryAt_1 24 rfl rfl
theorem dksX6_entryAt_3 : cX6_entryAt.data.toList.drop 71 = dktX6_entryAt_3 := dk_seg dksX6_entryAt_2 23 rfl rfl
theorem dksX6_entryAt_4 : cX6_entryAt.data.toList.drop 95 = dktX6_entryAt_4 := dk_seg dksX6_entryAt_3 24 rfl rfl
theorem dX6_entryAt_0 : decode cX6_entryAt 0 = .ok (.iload_n 1, 1) := dk_27 (dk_at dksX6_entryAt_0 0 rfl rfl)
theorem dX6_entryAt_1 : decode cX6_entryAt 1 = .ok (.istore_n 3, 1) := dk_62 (dk_at dksX6_entryAt_0 1 rfl rfl)
theorem dX6_entryAt_2 : decode cX6_entryAt 2 = .ok (.iload_n 2, 1) := dk_28 (dk_at dksX6_entryAt_0 2 rfl rfl)
theorem dX6_entryAt_3 : decode cX6_entryAt 3 = .ok (.istore 4, 2) := dk_54 4 (dk_at dksX6_entryAt_0 3 rfl rfl)
theorem dX6_entryAt_5 : decode cX6_entryAt 5 = .ok (.iload 4, 2) := dk_21 4 (dk_at dksX6_entryAt_0 5 rfl rfl)
theorem dX6_entryAt_7 : decode cX6_entryAt 7 = .ok (.ifCond .le 73, 3) := dk_158 0 73 (dk_at dksX6_entryAt_0 7 rfl rfl)
theorem dX6_entryAt_10 : decode cX6_entryAt 10 = .ok (.iinc 4 (-1), 3) := dk_132 4 255 (dk_at dksX6_entryAt_0 10 rfl rfl)
theorem dX6_entryAt_13 : decode cX6_entryAt 13 = .ok (.aload_n 0, 1) := dk_42 (dk_at dksX6_entryAt_0 13 rfl rfl)
theorem dX6_entryAt_14 : decode cX6_entryAt 14 = .ok (.getfield 101, 3) := dk_180 0 101 (dk_at dksX6_entryAt_0 14 rfl rfl)
theorem dX6_entryAt_17 : decode cX6_entryAt 17 = .ok (.aload_n 0, 1) := dk_42 (dk_at dksX6_entryAt_0 17 rfl rfl)
theorem dX6_entryAt_18 : decode cX6_entryAt 18 = .ok (.getfield 95, 3) := dk_180 0 95 (dk_at dksX6_entryAt_0 18 rfl rfl)
theorem dX6_entryAt_21 : decode cX6_entryAt 21 = .ok (.iload_n 3, 1) := dk_29 (dk_at dksX6_entryAt_0 21 rfl rfl)
theorem dX6_entryAt_22 : decode cX6_entryAt 22 = .ok (.iaload, 1) := dk_46 (dk_at dksX6_entryAt_0 22 rfl rfl)
theorem dX6_entryAt_23 : decode cX6_entryAt 23 = .ok (.iaload, 1) := dk_46 (dk_at dksX6_entryAt_0 23 rfl rfl)
theorem dX6_entryAt_24 : decode cX6_entryAt 24 = .ok (.istore 5, 2) := dk_54 5 (dk_at dksX6_entryAt_1 0 rfl rfl)
theorem dX6_entryAt_26 : decode cX6_entryAt 26 = .ok (.iload 4, 2) := dk_21 4 (dk_at dksX6_entryAt_1 2 rfl rfl)
theorem dX6_entryAt_28 : decode cX6_entryAt 28 = .ok (.iload 5, 2) := dk_21 5 (dk_at dksX6_entryAt_1 4 rfl rfl)
theorem dX6_entryAt_30 : decode cX6_entryAt 30 = .ok (.if_icmp .ge 7, 3) := dk_162 0 7 (dk_at dksX6_entryAt_1 6 rfl rfl)
theorem dX6_entryAt_33 : decode cX6_entryAt 33 = .ok (.iconst 1, 1) := dk_4 (dk_at dksX6_entryAt_1 9 rfl rfl)
theorem dX6_entryAt_34 : decode cX6_entryAt 34 = .ok (.goto 4, 3) := dk_167 0 4 (dk_at dksX6_entryAt_1 10 rfl rfl)
theorem dX6_entryAt_37 : decode cX6_entryAt 37 = .ok (.iconst 0, 1) := dk_3 (dk_at dksX6_entryAt_1 13 rfl rfl)
theorem dX6_entryAt_38 : decode cX6_entryAt 38 = .ok (.istore 6, 2) := dk_54 6 (dk_at dksX6_entryAt_1 14 rfl rfl)
theorem dX6_entryAt_40 : decode cX6_entryAt 40 = .ok (.iload 4, 2) := dk_21 4 (dk_at dksX6_entryAt_1 16 rfl rfl)
theorem dX6_entryAt_42 : decode cX6_entryAt 42 = .ok (.iload 6, 2) := dk_21 6 (dk_at dksX6_entryAt_1 18 rfl rfl)
theorem dX6_entryAt_44 : decode cX6_entryAt 44 = .ok (.ifCond .eq 7, 3) := dk_153 0 7 (dk_at dksX6_entryAt_1 20 rfl rfl)
theorem dX6_entryAt_47 : decode cX6_entryAt 47 = .ok (.iconst 0, 1) := dk_3 (dk_at dksX6_entryAt_1 23 rfl rfl)
theorem dX6_entryAt_48 : decode cX6_entryAt 48 = .ok (.goto 5, 3) := dk_167 0 5 (dk_at dksX6_entryAt_2 0 rfl rfl)
theorem dX6_entryAt_51 : decode cX6_entryAt 51 = .ok (.iload 5, 2) := dk_21 5 (dk_at dksX6_entryAt_2 3 rfl rfl)
theorem dX6_entryAt_53 : decode cX6_entryAt 53 = .ok (.isub, 1) := dk_100 (dk_at dksX6_entryAt_2 5 rfl rfl)
theorem dX6_entryAt_54 : decode cX6_entryAt 54 = .ok (.istore 4, 2) := dk_54 4 (dk_at dksX6_entryAt_2 6 rfl rfl)
theorem dX6_entryAt_56 : decode cX6_entryAt 56 = .ok (.iload 6, 2) := dk_21 6 (dk_at dksX6_entryAt_2 8 rfl rfl)
theorem dX6_entryAt_58 : decode cX6_entryAt 58 = .ok (.ifCond .eq 12, 3) := dk_153 0 12 (dk_at dksX6_entryAt_2 10 rfl rfl)
theorem dX6_entryAt_61 : decode cX6_entryAt 61 = .ok (.aload_n 0, 1) := dk_42 (dk_at dksX6_entryAt_2 13 rfl rfl)
theorem dX6_entryAt_62 : decode cX6_entryAt 62 = .ok (.getfield 95, 3) := dk_180 0 95 (dk_at dksX6_entryAt_2 14 rfl rfl)
theorem dX6_entryAt_65 : decode cX6_entryAt 65 = .ok (.iload_n 3, 1) := dk_29 (dk_at dksX6_entryAt_2 17 rfl rfl)
theorem dX6_entryAt_66 : decode cX6_entryAt 66 = .ok (.iaload, 1) := dk_46 (dk_at dksX6_entryAt_2 18 rfl rfl)
theorem dX6_entryAt_67 : decode cX6_entryAt 67 = .ok (.goto 9, 3) := dk_167 0 9 (dk_at dksX6_entryAt_2 19 rfl rfl)
theorem dX6_entryAt_70 : decode cX6_entryAt 70 = .ok (.aload_n 0, 1) := dk_42 (dk_at dksX6_entryAt_2 22 rfl rfl)
theorem dX6_entryAt_71 : decode cX6_entryAt 71 = .ok (.getfield 98, 3) := dk_180 0 98 (dk_at dksX6_entryAt_3 0 rfl rfl)
theorem dX6_entryAt_74 : decode cX6_entryAt 74 = .ok (.iload_n 3, 1) := dk_29 (dk_at dksX6_entryAt_3 3 rfl rfl)
theorem dX6_entryAt_75 : decode cX6_entryAt 75 = .ok (.iaload, 1) := dk_46 (dk_at dksX6_entryAt_3 4 rfl rfl)
theorem dX6_entryAt_76 : decode cX6_entryAt 76 = .ok (.istore_n 3, 1) := dk_62 (dk_at dksX6_entryAt_3 5 rfl rfl)
theorem dX6_entryAt_77 : decode cX6_entryAt 77 = .ok (.goto (-72), 3) := dk_167 255 184 (dk_at dksX6_entryAt_3 6 rfl rfl)
theorem dX6_entryAt_80 : decode cX6_entryAt 80 = .ok (.aload_n 0, 1) := dk_42 (dk_at dksX6_entryAt_3 9 rfl rfl)
theorem dX6_entryAt_81 : decode cX6_entryAt 81 = .ok (.getfield 92, 3) := dk_180 0 92 (dk_at dksX6_entryAt_3 10 rfl rfl)
theorem dX6_entryAt_84 : decode cX6_entryAt 84 = .ok (.iload_n 3, 1) := dk_29 (dk_at dksX6_entryAt_3 13 rfl rfl)
theorem dX6_entryAt_85 : decode cX6_entryAt 85 = .ok (.iaload, 1) := dk_46 (dk_at dksX6_entryAt_3 14 rfl rfl)
theorem dX6_entryAt_86 : decode cX6_entryAt 86 = .ok (.iconst (-1), 1) := dk_2 (dk_at dksX6_entryAt_3 15 rfl rfl)
theorem dX6_entryAt_87 : decode cX6_entryAt 87 = .ok (.if_icmp .ne 12, 3) := dk_160 0 12 (dk_at dksX6_entryAt_3 16 rfl rfl)
theorem dX6_entryAt_90 : decode cX6_entryAt 90 = .ok (.aload_n 0, 1) := dk_42 (dk_at dksX6_entryAt_3 19 rfl rfl)
theorem dX6_entryAt_91 : decode cX6_entryAt 91 = .ok (.getfield 104, 3) := dk_180 0 104 (dk_at dksX6_entryAt_3 20 rfl rfl)
theorem dX6_entryAt_94 : decode cX6_entryAt 94 = .ok (.iload_n 3, 1) := dk_29 (dk_at dksX6_entryAt_3 23 rfl rfl)
theorem dX6_entryAt_95 : decode cX6_entryAt 95 = .ok (.iaload, 1) := dk_46 (dk_at dksX6_entryAt_4 0 rfl rfl)
theorem dX6_entryAt_96 : decode cX6_entryAt 96 = .ok (.goto 9, 3) := dk_167 0 9 (dk_at dksX6_entryAt_4 1 rfl rfl)
theorem dX6_entryAt_99 : decode cX6_entryAt 99 = .ok (.aload_n 0, 1) := dk_42 (dk_at dksX6_entryAt_4 4 rfl rfl)
theorem dX6_entryAt_100 : decode cX6_entryAt 100 = .ok (.getfield 92, 3) := dk_180 0 92 (dk_at dksX6_entryAt_4 5 rfl rfl)
theorem dX6_entryAt_103 : decode cX6_entryAt 103 = .ok (.iload_n 3, 1) := dk_29 (dk_at dksX6_entryAt_4 8 rfl rfl)
theorem dX6_entryAt_104 : decode cX6_entryAt 104 = .ok (.iaload, 1) := dk_46 (dk_at dksX6_entryAt_4 9 rfl rfl)
theorem dX6_entryAt_105 : decode cX6_entryAt 105 = .ok (.ireturn, 1) := dk_172 (dk_at dksX6_entryAt_4 10 rfl rfl)
abbrev cX6_need : ByteArray := prog_13_method_75_code
def yX6_need : MethodName := ⟨RX6, "need", "(IIII)I"⟩
def dkwX6_need_5 : List UInt8 := [167, 0, 4, 3, 172]
abbrev dktX6_need_5 : List UInt8 := dkwX6_need_5 ++ []
def dkwX6_need_4 : List UInt8 := [21, 7, 184, 0, 214, 153, 0, 7, 5, 167, 0, 18, 21, 6, 21, 7, 184, 0, 214, 153, 0, 7, 4]
abbrev dktX6_need_4 : List UInt8 := dkwX6_need_4 ++ dktX6_need_5
def dkwX6_need_3 : List UInt8 := [21, 5, 46, 167, 0, 4, 3, 54, 6, 5, 29, 104, 21, 4, 96, 54, 7, 42, 21, 6, 182, 1, 114]
abbrev dktX6_need_3 : List UInt8 := dkwX6_need_3 ++ dktX6_need_4
def dkwX6_need_2 : List UInt8 := [182, 1, 39, 16, 9, 27, 104, 54, 5, 42, 180, 0, 89, 21, 5, 46, 4, 160, 0, 13, 42, 180, 0, 110]
abbrev dktX6_need_2 : List UInt8 := dkwX6_need_2 ++ dktX6_need_3
def dkwX6_need_1 : List UInt8 := [153, 0, 13, 21, 4, 3, 4, 184, 0, 146, 154, 0, 6, 16, 154, 172, 42, 28, 182, 1, 108, 42]
abbrev dktX6_need_1 : List UInt8 := dkwX6_need_1 ++ dktX6_need_2
def dkwX6_need_0 : List UInt8 := [42, 27, 182, 1, 33, 153, 0, 11, 42, 28, 182, 1, 105, 154, 0, 6, 16, 155, 172, 42, 29, 182, 1, 33]
abbrev dktX6_need_0 : List UInt8 := dkwX6_need_0 ++ dktX6_need_1
theorem dksX6_need_0 : cX6_need.data.toList.drop 0 = dktX6_need_0 := by decide +kernel
theorem dksX6_need_1 : cX6_need.data.toList.drop 24 = dktX6_need_1 := dk_seg dksX6_need_0 24 rfl rfl
theorem dksX6_need_2 : cX6_need.data.toList.drop 46 = dktX6_need_2 := dk_seg dksX6_need_1 22 rfl rfl
theorem dksX6_need_3 : cX6_need.data.toList.drop 70 = dktX6_need_3 := dk_seg dksX6_need_2 24 rfl rfl
theorem dksX6_need_4 : cX6_need.data.toList.drop 93 = dktX6_need_4 := dk_seg dksX6_need_3 23 rfl rfl
theorem dksX6_need_5 : cX6_need.data.toList.drop 116 = dktX6_need_5 := dk_seg dksX6_need_4 23 rfl rfl
theorem dX6_need_0 : decode cX6_need 0 = .ok (.aload_n 0, 1) := dk_42 (dk_at dksX6_need_0 0 rfl rfl)
theorem dX6_need_1 : decode cX6_need 1 = .ok (.iload_n 1, 1) := dk_27 (dk_at dksX6_need_0 1 rfl rfl)
theorem dX6_need_2 : decode cX6_need 2 = .ok (.invokevirtual 289, 3) := dk_182 1 33 (dk_at dksX6_need_0 2 rfl rfl)
theorem dX6_need_5 : decode cX6_need 5 = .ok (.ifCond .eq 11, 3) := dk_153 0 11 (dk_at dksX6_need_0 5 rfl rfl)
theorem dX6_need_8 : decode cX6_need 8 = .ok (.aload_n 0, 1) := dk_42 (dk_at dksX6_need_0 8 rfl rfl)
theorem dX6_need_9 : decode cX6_need 9 = .ok (.iload_n 2, 1) := dk_28 (dk_at dksX6_need_0 9 rfl rfl)
theorem dX6_need_10 : decode cX6_need 10 = .ok (.invokevirtual 361, 3) := dk_182 1 105 (dk_at dksX6_need_0 10 rfl rfl)
theorem dX6_need_13 : decode cX6_need 13 = .ok (.ifCond .ne 6, 3) := dk_154 0 6 (dk_at dksX6_need_0 13 rfl rfl)
theorem dX6_need_16 : decode cX6_need 16 = .ok (.bipush (-101), 2) := dk_16 155 (dk_at dksX6_need_0 16 rfl rfl)
theorem dX6_need_18 : decode cX6_need 18 = .ok (.ireturn, 1) := dk_172 (dk_at dksX6_need_0 18 rfl rfl)
theorem dX6_need_19 : decode cX6_need 19 = .ok (.aload_n 0, 1) := dk_42 (dk_at dksX6_need_0 19 rfl rfl)
theorem dX6_need_20 : decode cX6_need 20 = .ok (.iload_n 3, 1) := dk_29 (dk_at dksX6_need_0 20 rfl rfl)
theorem dX6_need_21 : decode cX6_need 21 = .ok (.invokevirtual 289, 3) := dk_182 1 33 (dk_at dksX6_need_0 21 rfl rfl)
theorem dX6_need_24 : decode cX6_need 24 = .ok (.ifCond .eq 13, 3) := dk_153 0 13 (dk_at dksX6_need_1 0 rfl rfl)
theorem dX6_need_27 : decode cX6_need 27 = .ok (.iload 4, 2) := dk_21 4 (dk_at dksX6_need_1 3 rfl rfl)
theorem dX6_need_29 : decode cX6_need 29 = .ok (.iconst 0, 1) := dk_3 (dk_at dksX6_need_1 5 rfl rfl)
theorem dX6_need_30 : decode cX6_need 30 = .ok (.iconst 1, 1) := dk_4 (dk_at dksX6_need_1 6 rfl rfl)
theorem dX6_need_31 : decode cX6_need 31 = .ok (.invokestatic 146, 3) := dk_184 0 146 (dk_at dksX6_need_1 7 rfl rfl)
theorem dX6_need_34 : decode cX6_need 34 = .ok (.ifCond .ne 6, 3) := dk_154 0 6 (dk_at dksX6_need_1 10 rfl rfl)
theorem dX6_need_37 : decode cX6_need 37 = .ok (.bipush (-102), 2) := dk_16 154 (dk_at dksX6_need_1 13 rfl rfl)
theorem dX6_need_39 : decode cX6_need 39 = .ok (.ireturn, 1) := dk_172 (dk_at dksX6_need_1 15 rfl rfl)
theorem dX6_need_40 : decode cX6_need 40 = .ok (.aload_n 0, 1) := dk_42 (dk_at dksX6_need_1 16 rfl rfl)
theorem dX6_need_41 : decode cX6_need 41 = .ok (.iload_n 2, 1) := dk_28 (dk_at dksX6_need_1 17 rfl rfl)
theorem dX6_need_42 : decode cX6_need 42 = .ok (.invokevirtual 364, 3) := dk_182 1 108 (dk_at dksX6_need_1 18 rfl rfl)
theorem dX6_need_45 : decode cX6_need 45 = .ok (.aload_n 0, 1) := dk_42 (dk_at dksX6_need_1 21 rfl rfl)
theorem dX6_need_46 : decode cX6_need 46 = .ok (.invokevirtual 295, 3) := dk_182 1 39 (dk_at dksX6_need_2 0 rfl rfl)
theorem dX6_need_49 : decode cX6_need 49 = .ok (.bipush 9, 2) := dk_16 9 (dk_at dksX6_need_2 3 rfl rfl)
theorem dX6_need_51 : decode cX6_need 51 = .ok (.iload_n 1, 1) := dk_27 (dk_at dksX6_need_2 5 rfl rfl)
theorem dX6_need_52 : decode cX6_need 52 = .ok (.imul, 1) := dk_104 (dk_at dksX6_need_2 6 rfl rfl)
theorem dX6_need_53 : decode cX6_need 53 = .ok (.istore 5, 2) := dk_54 5 (dk_at dksX6_need_2 7 rfl rfl)
theorem dX6_need_55 : decode cX6_need 55 = .ok (.aload_n 0, 1) := dk_42 (dk_at dksX6_need_2 9 rfl rfl)
theorem dX6_need_56 : decode cX6_need 56 = .ok (.getfield 89, 3) := dk_180 0 89 (dk_at dksX6_need_2 10 rfl rfl)
theorem dX6_need_59 : decode cX6_need 59 = .ok (.iload 5, 2) := dk_21 5 (dk_at dksX6_need_2 13 rfl rfl)
theorem dX6_need_61 : decode cX6_need 61 = .ok (.iaload, 1) := dk_46 (dk_at dksX6_need_2 15 rfl rfl)
theorem dX6_need_62 : decode cX6_need 62 = .ok (.iconst 1, 1) := dk_4 (dk_at dksX6_need_2 16 rfl rfl)
theorem dX6_need_63 : decode cX6_need 63 = .ok (.if_icmp .ne 13, 3) := dk_160 0 13 (dk_at dksX6_need_2 17 rfl rfl)
theorem dX6_need_66 : decode cX6_need 66 = .ok (.aload_n 0, 1) := dk_42 (dk_at dksX6_need_2 20 rfl rfl)
theorem dX6_need_67 : decode cX6_need 67 = .ok (.getfield 110, 3) := dk_180 0 110 (dk_at dksX6_need_2 21 rfl rfl)
theorem dX6_need_70 : decode cX6_need 70 = .ok (.iload 5, 2) := dk_21 5 (dk_at dksX6_need_3 0 rfl rfl)
theorem dX6_need_72 : decode cX6_need 72 = .ok (.iaload, 1) := dk_46 (dk_at dksX6_need_3 2 rfl rfl)
theorem dX6_need_73 : decode cX6_need 73 = .ok (.goto 4, 3) := dk_167 0 4 (dk_at dksX6_need_3 3 rfl rfl)
theorem dX6_need_76 : decode cX6_need 76 = .ok (.iconst 0, 1) := dk_3 (dk_at dksX6_need_3 6 rfl rfl)
theorem dX6_need_77 : decode cX6_need 77 = .ok (.istore 6, 2) := dk_54 6 (dk_at dksX6_need_3 7 rfl rfl)
theorem dX6_need_79 : decode cX6_need 79 = .ok (.iconst 2, 1) := dk_5 (dk_at dksX6_need_3 9 rfl rfl)
theorem dX6_need_80 : decode cX6_need 80 = .ok (.iload_n 3, 1) := dk_29 (dk_at dksX6_need_3 10 rfl rfl)
theorem dX6_need_81 : decode cX6_need 81 = .ok (.imul, 1) := dk_104 (dk_at dksX6_need_3 11 rfl rfl)
theorem dX6_need_82 : decode cX6_need 82 = .ok (.iload 4, 2) := dk_21 4 (dk_at dksX6_need_3 12 rfl rfl)
theorem dX6_need_84 : decode cX6_need 84 = .ok (.iadd, 1) := dk_96 (dk_at dksX6_need_3 14 rfl rfl)
theorem dX6_need_85 : decode cX6_need 85 = .ok (.istore 7, 2) := dk_54 7 (dk_at dksX6_need_3 15 rfl rfl)
theorem dX6_need_87 : decode cX6_need 87 = .ok (.aload_n 0, 1) := dk_42 (dk_at dksX6_need_3 17 rfl rfl)
theorem dX6_need_88 : decode cX6_need 88 = .ok (.iload 6, 2) := dk_21 6 (dk_at dksX6_need_3 18 rfl rfl)
theorem dX6_need_90 : decode cX6_need 90 = .ok (.invokevirtual 370, 3) := dk_182 1 114 (dk_at dksX6_need_3 20 rfl rfl)
theorem dX6_need_93 : decode cX6_need 93 = .ok (.iload 7, 2) := dk_21 7 (dk_at dksX6_need_4 0 rfl rfl)
theorem dX6_need_95 : decode cX6_need 95 = .ok (.invokestatic 214, 3) := dk_184 0 214 (dk_at dksX6_need_4 2 rfl rfl)
theorem dX6_need_98 : decode cX6_need 98 = .ok (.ifCond .eq 7, 3) := dk_153 0 7 (dk_at dksX6_need_4 5 rfl rfl)
theorem dX6_need_101 : decode cX6_need 101 = .ok (.iconst 2, 1) := dk_5 (dk_at dksX6_need_4 8 rfl rfl)
theorem dX6_need_102 : decode cX6_need 102 = .ok (.goto 18, 3) := dk_167 0 18 (dk_at dksX6_need_4 9 rfl rfl)
theorem dX6_need_105 : decode cX6_need 105 = .ok (.iload 6, 2) := dk_21 6 (dk_at dksX6_need_4 12 rfl rfl)
theorem dX6_need_107 : decode cX6_need 107 = .ok (.iload 7, 2) := dk_21 7 (dk_at dksX6_need_4 14 rfl rfl)
theorem dX6_need_109 : decode cX6_need 109 = .ok (.invokestatic 214, 3) := dk_184 0 214 (dk_at dksX6_need_4 16 rfl rfl)
theorem dX6_need_112 : decode cX6_need 112 = .ok (.ifCond .eq 7, 3) := dk_153 0 7 (dk_at dksX6_need_4 19 rfl rfl)
theorem dX6_need_115 : decode cX6_need 115 = .ok (.iconst 1, 1) := dk_4 (dk_at dksX6_need_4 22 rfl rfl)
theorem dX6_need_116 : decode cX6_need 116 = .ok (.goto 4, 3) := dk_167 0 4 (dk_at dksX6_need_5 0 rfl rfl)
theorem dX6_need_119 : decode cX6_need 119 = .ok (.iconst 0, 1) := dk_3 (dk_at dksX6_need_5 3 rfl rfl)
theorem dX6_need_120 : decode cX6_need 120 = .ok (.ireturn, 1) := dk_172 (dk_at dksX6_need_5 4 rfl rfl)
abbrev cX6_see : ByteArray := prog_13_method_77_code
def yX6_see : MethodName := ⟨RX6, "see", "(IIZ)I"⟩
def dkwX6_see_3 : List UInt8 := [167, 0, 4, 3, 79, 42, 89, 180, 0, 230, 4, 96, 181, 0, 230, 42, 180, 0, 230, 172]
abbrev dktX6_see_3 : List UInt8 := dkwX6_see_3 ++ []
def dkwX6_see_2 : List UInt8 := [180, 0, 49, 42, 180, 0, 230, 28, 79, 42, 180, 0, 52, 42, 180, 0, 230, 29, 153, 0, 7, 4]
abbrev dktX6_see_2 : List UInt8 := dkwX6_see_2 ++ dktX6_see_3
def dkwX6_see_1 : List UInt8 := [180, 0, 230, 16, 6, 160, 0, 6, 16, 152, 172, 42, 180, 0, 46, 42, 180, 0, 230, 27, 79, 42]
abbrev dktX6_see_1 : List UInt8 := dkwX6_see_1 ++ dktX6_see_2
def dkwX6_see_0 : List UInt8 := [42, 27, 182, 1, 54, 154, 0, 6, 16, 155, 172, 28, 3, 6, 184, 0, 146, 154, 0, 6, 16, 154, 172, 42]
abbrev dktX6_see_0 : List UInt8 := dkwX6_see_0 ++ dktX6_see_1
theorem dksX6_see_0 : cX6_see.data.toList.drop 0 = dktX6_see_0 := by decide +kernel
theorem dksX6_see_1 : cX6_see.data.toList.drop 24 = dktX6_see_1 := dk_seg dksX6_see_0 24 rfl rfl
theorem dksX6_see_2 : cX6_see.data.toList.drop 46 = dktX6_see_2 := dk_seg dksX6_see_1 22 rfl rfl
theorem dksX6_see_3 : cX6_see.data.toList.drop 68 = dktX6_see_3 := dk_seg dksX6_see_2 22 rfl rfl
theorem dX6_see_0 : decode cX6_see 0 = .ok (.aload_n 0, 1) := dk_42 (dk_at dksX6_see_0 0 rfl rfl)
theorem dX6_see_1 : decode cX6_see 1 = .ok (.iload_n 1, 1) := dk_27 (dk_at dksX6_see_0 1 rfl rfl)
theorem dX6_see_2 : decode cX6_see 2 = .ok (.invokevirtual 310, 3) := dk_182 1 54 (dk_at dksX6_see_0 2 rfl rfl)
theorem dX6_see_5 : decode cX6_see 5 = .ok (.ifCond .ne 6, 3) := dk_154 0 6 (dk_at dksX6_see_0 5 rfl rfl)
theorem dX6_see_8 : decode cX6_see 8 = .ok (.bipush (-101), 2) := dk_16 155 (dk_at dksX6_see_0 8 rfl rfl)
theorem dX6_see_10 : decode cX6_see 10 = .ok (.ireturn, 1) := dk_172 (dk_at dksX6_see_0 10 rfl rfl)
theorem dX6_see_11 : decode cX6_see 11 = .ok (.iload_n 2, 1) := dk_28 (dk_at dksX6_see_0 11 rfl rfl)
theorem dX6_see_12 : decode cX6_see 12 = .ok (.iconst 0, 1) := dk_3 (dk_at dksX6_see_0 12 rfl rfl)
theorem dX6_see_13 : decode cX6_see 13 = .ok (.iconst 3, 1) := dk_6 (dk_at dksX6_see_0 13 rfl rfl)
theorem dX6_see_14 : decode cX6_see 14 = .ok (.invokestatic 146, 3) := dk_184 0 146 (dk_at dksX6_see_0 14 rfl rfl)
theorem dX6_see_17 : decode cX6_see 17 = .ok (.ifCond .ne 6, 3) := dk_154 0 6 (dk_at dksX6_see_0 17 rfl rfl)
theorem dX6_see_20 : decode cX6_see 20 = .ok (.bipush (-102), 2) := dk_16 154 (dk_at dksX6_see_0 20 rfl rfl)
theorem dX6_see_22 : decode cX6_see 22 = .ok (.ireturn, 1) := dk_172 (dk_at dksX6_see_0 22 rfl rfl)
theorem dX6_see_23 : decode cX6_see 23 = .ok (.aload_n 0, 1) := dk_42 (dk_at dksX6_see_0 23 rfl rfl)
theorem dX6_see_24 : decode cX6_see 24 = .ok (.getfield 230, 3) := dk_180 0 230 (dk_at dksX6_see_1 0 rfl rfl)
theorem dX6_see_27 : decode cX6_see 27 = .ok (.bipush 6, 2) := dk_16 6 (dk_at dksX6_see_1 3 rfl rfl)
theorem dX6_see_29 : decode cX6_see 29 = .ok (.if_icmp .ne 6, 3) := dk_160 0 6 (dk_at dksX6_see_1 5 rfl rfl)
theorem dX6_see_32 : decode cX6_see 32 = .ok (.bipush (-104), 2) := dk_16 152 (dk_at dksX6_see_1 8 rfl rfl)
theorem dX6_see_34 : decode cX6_see 34 = .ok (.ireturn, 1) := dk_172 (dk_at dksX6_see_1 10 rfl rfl)
theorem dX6_see_35 : decode cX6_see 35 = .ok (.aload_n 0, 1) := dk_42 (dk_at dksX6_see_1 11 rfl rfl)
theorem dX6_see_36 : decode cX6_see 36 = .ok (.getfield 46, 3) := dk_180 0 46 (dk_at dksX6_see_1 12 rfl rfl)
theorem dX6_see_39 : decode cX6_see 39 = .ok (.aload_n 0, 1) := dk_42 (dk_at dksX6_see_1 15 rfl rfl)
theorem dX6_see_40 : decode cX6_see 40 = .ok (.getfield 230, 3) := dk_180 0 230 (dk_at dksX6_see_1 16 rfl rfl)
theorem dX6_see_43 : decode cX6_see 43 = .ok (.iload_n 1, 1) := dk_27 (dk_at dksX6_see_1 19 rfl rfl)
theorem dX6_see_44 : decode cX6_see 44 = .ok (.iastore, 1) := dk_79 (dk_at dksX6_see_1 20 rfl rfl)
theorem dX6_see_45 : decode cX6_see 45 = .ok (.aload_n 0, 1) := dk_42 (dk_at dksX6_see_1 21 rfl rfl)
theorem dX6_see_46 : decode cX6_see 46 = .ok (.getfield 49, 3) := dk_180 0 49 (dk_at dksX6_see_2 0 rfl rfl)
theorem dX6_see_49 : decode cX6_see 49 = .ok (.aload_n 0, 1) := dk_42 (dk_at dksX6_see_2 3 rfl rfl)
theorem dX6_see_50 : decode cX6_see 50 = .ok (.getfield 230, 3) := dk_180 0 230 (dk_at dksX6_see_2 4 rfl rfl)
theorem dX6_see_53 : decode cX6_see 53 = .ok (.iload_n 2, 1) := dk_28 (dk_at dksX6_see_2 7 rfl rfl)
theorem dX6_see_54 : decode cX6_see 54 = .ok (.iastore, 1) := dk_79 (dk_at dksX6_see_2 8 rfl rfl)
theorem dX6_see_55 : decode cX6_see 55 = .ok (.aload_n 0, 1) := dk_42 (dk_at dksX6_see_2 9 rfl rfl)
theorem dX6_see_56 : decode cX6_see 56 = .ok (.getfield 52, 3) := dk_180 0 52 (dk_at dksX6_see_2 10 rfl rfl)
theorem dX6_see_59 : decode cX6_see 59 = .ok (.aload_n 0, 1) := dk_42 (dk_at dksX6_see_2 13 rfl rfl)
theorem dX6_see_60 : decode cX6_see 60 = .ok (.getfield 230, 3) := dk_180 0 230 (dk_at dksX6_see_2 14 rfl rfl)
theorem dX6_see_63 : decode cX6_see 63 = .ok (.iload_n 3, 1) := dk_29 (dk_at dksX6_see_2 17 rfl rfl)
theorem dX6_see_64 : decode cX6_see 64 = .ok (.ifCond .eq 7, 3) := dk_153 0 7 (dk_at dksX6_see_2 18 rfl rfl)
theorem dX6_see_67 : decode cX6_see 67 = .ok (.iconst 1, 1) := dk_4 (dk_at dksX6_see_2 21 rfl rfl)
theorem dX6_see_68 : decode cX6_see 68 = .ok (.goto 4, 3) := dk_167 0 4 (dk_at dksX6_see_3 0 rfl rfl)
theorem dX6_see_71 : decode cX6_see 71 = .ok (.iconst 0, 1) := dk_3 (dk_at dksX6_see_3 3 rfl rfl)
theorem dX6_see_72 : decode cX6_see 72 = .ok (.iastore, 1) := dk_79 (dk_at dksX6_see_3 4 rfl rfl)
theorem dX6_see_73 : decode cX6_see 73 = .ok (.aload_n 0, 1) := dk_42 (dk_at dksX6_see_3 5 rfl rfl)
theorem dX6_see_74 : decode cX6_see 74 = .ok (.dup, 1) := dk_89 (dk_at dksX6_see_3 6 rfl rfl)
theorem dX6_see_75 : decode cX6_see 75 = .ok (.getfield 230, 3) := dk_180 0 230 (dk_at dksX6_see_3 7 rfl rfl)
theorem dX6_see_78 : decode cX6_see 78 = .ok (.iconst 1, 1) := dk_4 (dk_at dksX6_see_3 10 rfl rfl)
theorem dX6_see_79 : decode cX6_see 79 = .ok (.iadd, 1) := dk_96 (dk_at dksX6_see_3 11 rfl rfl)
theorem dX6_see_80 : decode cX6_see 80 = .ok (.putfield 230, 3) := dk_181 0 230 (dk_at dksX6_see_3 12 rfl rfl)
theorem dX6_see_83 : decode cX6_see 83 = .ok (.aload_n 0, 1) := dk_42 (dk_at dksX6_see_3 15 rfl rfl)
theorem dX6_see_84 : decode cX6_see 84 = .ok (.getfield 230, 3) := dk_180 0 230 (dk_at dksX6_see_3 16 rfl rfl)
theorem dX6_see_87 : decode cX6_see 87 = .ok (.ireturn, 1) := dk_172 (dk_at dksX6_see_3 19 rfl rfl)
abbrev cX6_forget : ByteArray := prog_13_method_78_code
def yX6_forget : MethodName := ⟨RX6, "forget", "()I"⟩
def dkwX6_forget_0 : List UInt8 := [42, 180, 0, 230, 60, 42, 3, 181, 0, 230, 27, 172]
abbrev dktX6_forget_0 : List UInt8 := dkwX6_forget_0 ++ []
theorem dksX6_forget_0 : cX6_forget.data.toList.drop 0 = dktX6_forget_0 := by decide +kernel
theorem dX6_forget_0 : decode cX6_forget 0 = .ok (.aload_n 0, 1) := dk_42 (dk_at dksX6_forget_0 0 rfl rfl)
theorem dX6_forget_1 : decode cX6_forget 1 = .ok (.getfield 230, 3) := dk_180 0 230 (dk_at dksX6_forget_0 1 rfl rfl)
theorem dX6_forget_4 : decode cX6_forget 4 = .ok (.istore_n 1, 1) := dk_60 (dk_at dksX6_forget_0 4 rfl rfl)
theorem dX6_forget_5 : decode cX6_forget 5 = .ok (.aload_n 0, 1) := dk_42 (dk_at dksX6_forget_0 5 rfl rfl)
theorem dX6_forget_6 : decode cX6_forget 6 = .ok (.iconst 0, 1) := dk_3 (dk_at dksX6_forget_0 6 rfl rfl)
theorem dX6_forget_7 : decode cX6_forget 7 = .ok (.putfield 230, 3) := dk_181 0 230 (dk_at dksX6_forget_0 7 rfl rfl)
theorem dX6_forget_10 : decode cX6_forget 10 = .ok (.iload_n 1, 1) := dk_27 (dk_at dksX6_forget_0 10 rfl rfl)
theorem dX6_forget_11 : decode cX6_forget 11 = .ok (.ireturn, 1) := dk_172 (dk_at dksX6_forget_0 11 rfl rfl)
abbrev cX6_drawn : ByteArray := prog_13_method_86_code
def yX6_drawn : MethodName := ⟨RX6, "drawn", "(III)I"⟩
def dkwX6_drawn_1 : List UInt8 := [16, 154, 172, 42, 180, 0, 227, 154, 0, 8, 16, 153, 167, 0, 10, 42, 27, 28, 29, 182, 1, 151, 172]
abbrev dktX6_drawn_1 : List UInt8 := dkwX6_drawn_1 ++ []
def dkwX6_drawn_0 : List UInt8 := [27, 4, 16, 30, 184, 0, 146, 153, 0, 16, 28, 155, 0, 12, 29, 3, 5, 184, 0, 146, 154, 0, 6]
abbrev dktX6_drawn_0 : List UInt8 := dkwX6_drawn_0 ++ dktX6_drawn_1
theorem dksX6_drawn_0 : cX6_drawn.data.toList.drop 0 = dktX6_drawn_0 := by decide +kernel
theorem dksX6_drawn_1 : cX6_drawn.data.toList.drop 23 = dktX6_drawn_1 := dk_seg dksX6_drawn_0 23 rfl rfl
theorem dX6_drawn_0 : decode cX6_drawn 0 = .ok (.iload_n 1, 1) := dk_27 (dk_at dksX6_drawn_0 0 rfl rfl)
theorem dX6_drawn_1 : decode cX6_drawn 1 = .ok (.iconst 1, 1) := dk_4 (dk_at dksX6_drawn_0 1 rfl rfl)
theorem dX6_drawn_2 : decode cX6_drawn 2 = .ok (.bipush 30, 2) := dk_16 30 (dk_at dksX6_drawn_0 2 rfl rfl)
theorem dX6_drawn_4 : decode cX6_drawn 4 = .ok (.invokestatic 146, 3) := dk_184 0 146 (dk_at dksX6_drawn_0 4 rfl rfl)
theorem dX6_drawn_7 : decode cX6_drawn 7 = .ok (.ifCond .eq 16, 3) := dk_153 0 16 (dk_at dksX6_drawn_0 7 rfl rfl)
theorem dX6_drawn_10 : decode cX6_drawn 10 = .ok (.iload_n 2, 1) := dk_28 (dk_at dksX6_drawn_0 10 rfl rfl)
theorem dX6_drawn_11 : decode cX6_drawn 11 = .ok (.ifCond .lt 12, 3) := dk_155 0 12 (dk_at dksX6_drawn_0 11 rfl rfl)
theorem dX6_drawn_14 : decode cX6_drawn 14 = .ok (.iload_n 3, 1) := dk_29 (dk_at dksX6_drawn_0 14 rfl rfl)
theorem dX6_drawn_15 : decode cX6_drawn 15 = .ok (.iconst 0, 1) := dk_3 (dk_at dksX6_drawn_0 15 rfl rfl)
theorem dX6_drawn_16 : decode cX6_drawn 16 = .ok (.iconst 2, 1) := dk_5 (dk_at dksX6_drawn_0 16 rfl rfl)
theorem dX6_drawn_17 : decode cX6_drawn 17 = .ok (.invokestatic 146, 3) := dk_184 0 146 (dk_at dksX6_drawn_0 17 rfl rfl)
theorem dX6_drawn_20 : decode cX6_drawn 20 = .ok (.ifCond .ne 6, 3) := dk_154 0 6 (dk_at dksX6_drawn_0 20 rfl rfl)
theorem dX6_drawn_23 : decode cX6_drawn 23 = .ok (.bipush (-102), 2) := dk_16 154 (dk_at dksX6_drawn_1 0 rfl rfl)
theorem dX6_drawn_25 : decode cX6_drawn 25 = .ok (.ireturn, 1) := dk_172 (dk_at dksX6_drawn_1 2 rfl rfl)
theorem dX6_drawn_26 : decode cX6_drawn 26 = .ok (.aload_n 0, 1) := dk_42 (dk_at dksX6_drawn_1 3 rfl rfl)
theorem dX6_drawn_27 : decode cX6_drawn 27 = .ok (.getfield 227, 3) := dk_180 0 227 (dk_at dksX6_drawn_1 4 rfl rfl)
theorem dX6_drawn_30 : decode cX6_drawn 30 = .ok (.ifCond .ne 8, 3) := dk_154 0 8 (dk_at dksX6_drawn_1 7 rfl rfl)
theorem dX6_drawn_33 : decode cX6_drawn 33 = .ok (.bipush (-103), 2) := dk_16 153 (dk_at dksX6_drawn_1 10 rfl rfl)
theorem dX6_drawn_35 : decode cX6_drawn 35 = .ok (.goto 10, 3) := dk_167 0 10 (dk_at dksX6_drawn_1 12 rfl rfl)
theorem dX6_drawn_38 : decode cX6_drawn 38 = .ok (.aload_n 0, 1) := dk_42 (dk_at dksX6_drawn_1 15 rfl rfl)
theorem dX6_drawn_39 : decode cX6_drawn 39 = .ok (.iload_n 1, 1) := dk_27 (dk_at dksX6_drawn_1 16 rfl rfl)
theorem dX6_drawn_40 : decode cX6_drawn 40 = .ok (.iload_n 2, 1) := dk_28 (dk_at dksX6_drawn_1 17 rfl rfl)
theorem dX6_drawn_41 : decode cX6_drawn 41 = .ok (.iload_n 3, 1) := dk_29 (dk_at dksX6_drawn_1 18 rfl rfl)
theorem dX6_drawn_42 : decode cX6_drawn 42 = .ok (.invokevirtual 407, 3) := dk_182 1 151 (dk_at dksX6_drawn_1 19 rfl rfl)
theorem dX6_drawn_45 : decode cX6_drawn 45 = .ok (.ireturn, 1) := dk_172 (dk_at dksX6_drawn_1 22 rfl rfl)
abbrev cX6_drawnNow : ByteArray := prog_13_method_85_code
def yX6_drawnNow : MethodName := ⟨RX6, "drawnNow", "(III)I"⟩
def dkwX6_drawnNow_4 : List UInt8 := [167, 0, 8, 42, 180, 1, 129, 136, 172]
abbrev dktX6_drawnNow_4 : List UInt8 := dkwX6_drawnNow_4 ++ []
def dkwX6_drawnNow_3 : List UInt8 := [54, 5, 132, 6, 1, 167, 255, 196, 29, 154, 0, 8, 21, 4, 167, 0, 18, 29, 4, 160, 0, 8, 21, 5]
abbrev dktX6_drawnNow_3 : List UInt8 := dkwX6_drawnNow_3 ++ dktX6_drawnNow_4
def dkwX6_drawnNow_2 : List UInt8 := [21, 7, 104, 46, 4, 160, 0, 7, 4, 167, 0, 4, 3, 96, 54, 4, 21, 5, 42, 180, 0, 233, 96]
abbrev dktX6_drawnNow_2 : List UInt8 := dkwX6_drawnNow_2 ++ dktX6_drawnNow_3
def dkwX6_drawnNow_1 : List UInt8 := [180, 0, 211, 182, 1, 139, 54, 7, 42, 182, 1, 148, 42, 182, 1, 39, 21, 4, 42, 180, 0, 89, 16, 9]
abbrev dktX6_drawnNow_1 : List UInt8 := dkwX6_drawnNow_1 ++ dktX6_drawnNow_2
def dkwX6_drawnNow_0 : List UInt8 := [42, 28, 133, 181, 1, 129, 3, 54, 4, 3, 54, 5, 3, 54, 6, 21, 6, 27, 162, 0, 60, 42, 42]
abbrev dktX6_drawnNow_0 : List UInt8 := dkwX6_drawnNow_0 ++ dktX6_drawnNow_1
theorem dksX6_drawnNow_0 : cX6_drawnNow.data.toList.drop 0 = dktX6_drawnNow_0 := by decide +kernel
theorem dksX6_drawnNow_1 : cX6_drawnNow.data.toList.drop 23 = dktX6_drawnNow_1 := dk_seg dksX6_drawnNow_0 23 rfl rfl
theorem dksX6_drawnNow_2 : cX6_drawnNow.data.toList.drop 47 = dktX6_drawnNow_2 := dk_seg dksX6_drawnNow_1 24 rfl rfl
theorem dksX6_drawnNow_3 : cX6_drawnNow.data.toList.drop 70 = dktX6_drawnNow_3 := dk_seg dksX6_drawnNow_2 23 rfl rfl
theorem dksX6_drawnNow_4 : cX6_drawnNow.data.toList.drop 94 = dktX6_drawnNow_4 := dk_seg dksX6_drawnNow_3 24 rfl rfl
theorem dX6_drawnNow_0 : decode cX6_drawnNow 0 = .ok (.aload_n 0, 1) := dk_42 (dk_at dksX6_drawnNow_0 0 rfl rfl)
theorem dX6_drawnNow_1 : decode cX6_drawnNow 1 = .ok (.iload_n 2, 1) := dk_28 (dk_at dksX6_drawnNow_0 1 rfl rfl)
theorem dX6_drawnNow_2 : decode cX6_drawnNow 2 = .ok (.i2l, 1) := dk_133 (dk_at dksX6_drawnNow_0 2 rfl rfl)
theorem dX6_drawnNow_3 : decode cX6_drawnNow 3 = .ok (.putfield 385, 3) := dk_181 1 129 (dk_at dksX6_drawnNow_0 3 rfl rfl)
theorem dX6_drawnNow_6 : decode cX6_drawnNow 6 = .ok (.iconst 0, 1) := dk_3 (dk_at dksX6_drawnNow_0 6 rfl rfl)
theorem dX6_drawnNow_7 : decode cX6_drawnNow 7 = .ok (.istore 4, 2) := dk_54 4 (dk_at dksX6_drawnNow_0 7 rfl rfl)
theorem dX6_drawnNow_9 : decode cX6_drawnNow 9 = .ok (.iconst 0, 1) := dk_3 (dk_at dksX6_drawnNow_0 9 rfl rfl)
theorem dX6_drawnNow_10 : decode cX6_drawnNow 10 = .ok (.istore 5, 2) := dk_54 5 (dk_at dksX6_drawnNow_0 10 rfl rfl)
theorem dX6_drawnNow_12 : decode cX6_drawnNow 12 = .ok (.iconst 0, 1) := dk_3 (dk_at dksX6_drawnNow_0 12 rfl rfl)
theorem dX6_drawnNow_13 : decode cX6_drawnNow 13 = .ok (.istore 6, 2) := dk_54 6 (dk_at dksX6_drawnNow_0 13 rfl rfl)
theorem dX6_drawnNow_15 : decode cX6_drawnNow 15 = .ok (.iload 6, 2) := dk_21 6 (dk_at dksX6_drawnNow_0 15 rfl rfl)
theorem dX6_drawnNow_17 : decode cX6_drawnNow 17 = .ok (.iload_n 1, 1) := dk_27 (dk_at dksX6_drawnNow_0 17 rfl rfl)
theorem dX6_drawnNow_18 : decode cX6_drawnNow 18 = .ok (.if_icmp .ge 60, 3) := dk_162 0 60 (dk_at dksX6_drawnNow_0 18 rfl rfl)
theorem dX6_drawnNow_21 : decode cX6_drawnNow 21 = .ok (.aload_n 0, 1) := dk_42 (dk_at dksX6_drawnNow_0 21 rfl rfl)
theorem dX6_drawnNow_22 : decode cX6_drawnNow 22 = .ok (.aload_n 0, 1) := dk_42 (dk_at dksX6_drawnNow_0 22 rfl rfl)
theorem dX6_drawnNow_23 : decode cX6_drawnNow 23 = .ok (.getfield 211, 3) := dk_180 0 211 (dk_at dksX6_drawnNow_1 0 rfl rfl)
theorem dX6_drawnNow_26 : decode cX6_drawnNow 26 = .ok (.invokevirtual 395, 3) := dk_182 1 139 (dk_at dksX6_drawnNow_1 3 rfl rfl)
theorem dX6_drawnNow_29 : decode cX6_drawnNow 29 = .ok (.istore 7, 2) := dk_54 7 (dk_at dksX6_drawnNow_1 6 rfl rfl)
theorem dX6_drawnNow_31 : decode cX6_drawnNow 31 = .ok (.aload_n 0, 1) := dk_42 (dk_at dksX6_drawnNow_1 8 rfl rfl)
theorem dX6_drawnNow_32 : decode cX6_drawnNow 32 = .ok (.invokevirtual 404, 3) := dk_182 1 148 (dk_at dksX6_drawnNow_1 9 rfl rfl)
theorem dX6_drawnNow_35 : decode cX6_drawnNow 35 = .ok (.aload_n 0, 1) := dk_42 (dk_at dksX6_drawnNow_1 12 rfl rfl)
theorem dX6_drawnNow_36 : decode cX6_drawnNow 36 = .ok (.invokevirtual 295, 3) := dk_182 1 39 (dk_at dksX6_drawnNow_1 13 rfl rfl)
theorem dX6_drawnNow_39 : decode cX6_drawnNow 39 = .ok (.iload 4, 2) := dk_21 4 (dk_at dksX6_drawnNow_1 16 rfl rfl)
theorem dX6_drawnNow_41 : decode cX6_drawnNow 41 = .ok (.aload_n 0, 1) := dk_42 (dk_at dksX6_drawnNow_1 18 rfl rfl)
theorem dX6_drawnNow_42 : decode cX6_drawnNow 42 = .ok (.getfield 89, 3) := dk_180 0 89 (dk_at dksX6_drawnNow_1 19 rfl rfl)
theorem dX6_drawnNow_45 : decode cX6_drawnNow 45 = .ok (.bipush 9, 2) := dk_16 9 (dk_at dksX6_drawnNow_1 22 rfl rfl)
theorem dX6_drawnNow_47 : decode cX6_drawnNow 47 = .ok (.iload 7, 2) := dk_21 7 (dk_at dksX6_drawnNow_2 0 rfl rfl)
theorem dX6_drawnNow_49 : decode cX6_drawnNow 49 = .ok (.imul, 1) := dk_104 (dk_at dksX6_drawnNow_2 2 rfl rfl)
theorem dX6_drawnNow_50 : decode cX6_drawnNow 50 = .ok (.iaload, 1) := dk_46 (dk_at dksX6_drawnNow_2 3 rfl rfl)
theorem dX6_drawnNow_51 : decode cX6_drawnNow 51 = .ok (.iconst 1, 1) := dk_4 (dk_at dksX6_drawnNow_2 4 rfl rfl)
theorem dX6_drawnNow_52 : decode cX6_drawnNow 52 = .ok (.if_icmp .ne 7, 3) := dk_160 0 7 (dk_at dksX6_drawnNow_2 5 rfl rfl)
theorem dX6_drawnNow_55 : decode cX6_drawnNow 55 = .ok (.iconst 1, 1) := dk_4 (dk_at dksX6_drawnNow_2 8 rfl rfl)
theorem dX6_drawnNow_56 : decode cX6_drawnNow 56 = .ok (.goto 4, 3) := dk_167 0 4 (dk_at dksX6_drawnNow_2 9 rfl rfl)
theorem dX6_drawnNow_59 : decode cX6_drawnNow 59 = .ok (.iconst 0, 1) := dk_3 (dk_at dksX6_drawnNow_2 12 rfl rfl)
theorem dX6_drawnNow_60 : decode cX6_drawnNow 60 = .ok (.iadd, 1) := dk_96 (dk_at dksX6_drawnNow_2 13 rfl rfl)
theorem dX6_drawnNow_61 : decode cX6_drawnNow 61 = .ok (.istore 4, 2) := dk_54 4 (dk_at dksX6_drawnNow_2 14 rfl rfl)
theorem dX6_drawnNow_63 : decode cX6_drawnNow 63 = .ok (.iload 5, 2) := dk_21 5 (dk_at dksX6_drawnNow_2 16 rfl rfl)
theorem dX6_drawnNow_65 : decode cX6_drawnNow 65 = .ok (.aload_n 0, 1) := dk_42 (dk_at dksX6_drawnNow_2 18 rfl rfl)
theorem dX6_drawnNow_66 : decode cX6_drawnNow 66 = .ok (.getfield 233, 3) := dk_180 0 233 (dk_at dksX6_drawnNow_2 19 rfl rfl)
theorem dX6_drawnNow_69 : decode cX6_drawnNow 69 = .ok (.iadd, 1) := dk_96 (dk_at dksX6_drawnNow_2 22 rfl rfl)
theorem dX6_drawnNow_70 : decode cX6_drawnNow 70 = .ok (.istore 5, 2) := dk_54 5 (dk_at dksX6_drawnNow_3 0 rfl rfl)
theorem dX6_drawnNow_72 : decode cX6_drawnNow 72 = .ok (.iinc 6 1, 3) := dk_132 6 1 (dk_at dksX6_drawnNow_3 2 rfl rfl)
theorem dX6_drawnNow_75 : decode cX6_drawnNow 75 = .ok (.goto (-60), 3) := dk_167 255 196 (dk_at dksX6_drawnNow_3 5 rfl rfl)
theorem dX6_drawnNow_78 : decode cX6_drawnNow 78 = .ok (.iload_n 3, 1) := dk_29 (dk_at dksX6_drawnNow_3 8 rfl rfl)
theorem dX6_drawnNow_79 : decode cX6_drawnNow 79 = .ok (.ifCond .ne 8, 3) := dk_154 0 8 (dk_at dksX6_drawnNow_3 9 rfl rfl)
theorem dX6_drawnNow_82 : decode cX6_drawnNow 82 = .ok (.iload 4, 2) := dk_21 4 (dk_at dksX6_drawnNow_3 12 rfl rfl)
theorem dX6_drawnNow_84 : decode cX6_drawnNow 84 = .ok (.goto 18, 3) := dk_167 0 18 (dk_at dksX6_drawnNow_3 14 rfl rfl)
theorem dX6_drawnNow_87 : decode cX6_drawnNow 87 = .ok (.iload_n 3, 1) := dk_29 (dk_at dksX6_drawnNow_3 17 rfl rfl)
theorem dX6_drawnNow_88 : decode cX6_drawnNow 88 = .ok (.iconst 1, 1) := dk_4 (dk_at dksX6_drawnNow_3 18 rfl rfl)
theorem dX6_drawnNow_89 : decode cX6_drawnNow 89 = .ok (.if_icmp .ne 8, 3) := dk_160 0 8 (dk_at dksX6_drawnNow_3 19 rfl rfl)
theorem dX6_drawnNow_92 : decode cX6_drawnNow 92 = .ok (.iload 5, 2) := dk_21 5 (dk_at dksX6_drawnNow_3 22 rfl rfl)
theorem dX6_drawnNow_94 : decode cX6_drawnNow 94 = .ok (.goto 8, 3) := dk_167 0 8 (dk_at dksX6_drawnNow_4 0 rfl rfl)
theorem dX6_drawnNow_97 : decode cX6_drawnNow 97 = .ok (.aload_n 0, 1) := dk_42 (dk_at dksX6_drawnNow_4 3 rfl rfl)
theorem dX6_drawnNow_98 : decode cX6_drawnNow 98 = .ok (.getfield 385, 3) := dk_180 1 129 (dk_at dksX6_drawnNow_4 4 rfl rfl)
theorem dX6_drawnNow_101 : decode cX6_drawnNow 101 = .ok (.l2i, 1) := dk_136 (dk_at dksX6_drawnNow_4 7 rfl rfl)
theorem dX6_drawnNow_102 : decode cX6_drawnNow 102 = .ok (.ireturn, 1) := dk_172 (dk_at dksX6_drawnNow_4 8 rfl rfl)
abbrev cX6_draw : ByteArray := prog_13_method_81_code
def yX6_draw : MethodName := ⟨RX6, "draw", "(I)I"⟩
def dkwX6_draw_1 : List UInt8 := [20, 1, 137, 109, 27, 133, 113, 136, 172]
abbrev dktX6_draw_1 : List UInt8 := dkwX6_draw_1 ++ []
def dkwX6_draw_0 : List UInt8 := [42, 20, 1, 127, 42, 180, 1, 129, 105, 20, 1, 133, 97, 20, 1, 135, 127, 181, 1, 129, 42, 180, 1, 129]
abbrev dktX6_draw_0 : List UInt8 := dkwX6_draw_0 ++ dktX6_draw_1
theorem dksX6_draw_0 : cX6_draw.data.toList.drop 0 = dktX6_draw_0 := by decide +kernel
theorem dksX6_draw_1 : cX6_draw.data.toList.drop 24 = dktX6_draw_1 := dk_seg dksX6_draw_0 24 rfl rfl
theorem dX6_draw_0 : decode cX6_draw 0 = .ok (.aload_n 0, 1) := dk_42 (dk_at dksX6_draw_0 0 rfl rfl)
theorem dX6_draw_1 : decode cX6_draw 1 = .ok (.ldc2_w 383, 3) := dk_20 1 127 (dk_at dksX6_draw_0 1 rfl rfl)
theorem dX6_draw_4 : decode cX6_draw 4 = .ok (.aload_n 0, 1) := dk_42 (dk_at dksX6_draw_0 4 rfl rfl)
theorem dX6_draw_5 : decode cX6_draw 5 = .ok (.getfield 385, 3) := dk_180 1 129 (dk_at dksX6_draw_0 5 rfl rfl)
theorem dX6_draw_8 : decode cX6_draw 8 = .ok (.lmul, 1) := dk_105 (dk_at dksX6_draw_0 8 rfl rfl)
theorem dX6_draw_9 : decode cX6_draw 9 = .ok (.ldc2_w 389, 3) := dk_20 1 133 (dk_at dksX6_draw_0 9 rfl rfl)
theorem dX6_draw_12 : decode cX6_draw 12 = .ok (.ladd, 1) := dk_97 (dk_at dksX6_draw_0 12 rfl rfl)
theorem dX6_draw_13 : decode cX6_draw 13 = .ok (.ldc2_w 391, 3) := dk_20 1 135 (dk_at dksX6_draw_0 13 rfl rfl)
theorem dX6_draw_16 : decode cX6_draw 16 = .ok (.land, 1) := dk_127 (dk_at dksX6_draw_0 16 rfl rfl)
theorem dX6_draw_17 : decode cX6_draw 17 = .ok (.putfield 385, 3) := dk_181 1 129 (dk_at dksX6_draw_0 17 rfl rfl)
theorem dX6_draw_20 : decode cX6_draw 20 = .ok (.aload_n 0, 1) := dk_42 (dk_at dksX6_draw_0 20 rfl rfl)
theorem dX6_draw_21 : decode cX6_draw 21 = .ok (.getfield 385, 3) := dk_180 1 129 (dk_at dksX6_draw_0 21 rfl rfl)
theorem dX6_draw_24 : decode cX6_draw 24 = .ok (.ldc2_w 393, 3) := dk_20 1 137 (dk_at dksX6_draw_1 0 rfl rfl)
theorem dX6_draw_27 : decode cX6_draw 27 = .ok (.ldiv, 1) := dk_109 (dk_at dksX6_draw_1 3 rfl rfl)
theorem dX6_draw_28 : decode cX6_draw 28 = .ok (.iload_n 1, 1) := dk_27 (dk_at dksX6_draw_1 4 rfl rfl)
theorem dX6_draw_29 : decode cX6_draw 29 = .ok (.i2l, 1) := dk_133 (dk_at dksX6_draw_1 5 rfl rfl)
theorem dX6_draw_30 : decode cX6_draw 30 = .ok (.lrem, 1) := dk_113 (dk_at dksX6_draw_1 6 rfl rfl)
theorem dX6_draw_31 : decode cX6_draw 31 = .ok (.l2i, 1) := dk_136 (dk_at dksX6_draw_1 7 rfl rfl)
theorem dX6_draw_32 : decode cX6_draw 32 = .ok (.ireturn, 1) := dk_172 (dk_at dksX6_draw_1 8 rfl rfl)
abbrev cX6_drawType : ByteArray := prog_13_method_84_code
def yX6_drawType : MethodName := ⟨RX6, "drawType", "()V"⟩
def dkwX6_drawType_3 : List UInt8 := [182, 1, 145, 132, 4, 1, 167, 255, 232, 132, 2, 1, 167, 255, 204, 42, 182, 0, 236, 177]
abbrev dktX6_drawType_3 : List UInt8 := dkwX6_drawType_3 ++ []
def dkwX6_drawType_2 : List UInt8 := [182, 1, 145, 3, 54, 4, 21, 4, 29, 184, 0, 174, 162, 0, 21, 42, 42, 5, 182, 1, 139, 184, 1, 142]
abbrev dktX6_drawType_2 : List UInt8 := dkwX6_drawType_2 ++ dktX6_drawType_3
def dkwX6_drawType_1 : List UInt8 := [184, 0, 174, 60, 3, 61, 28, 27, 162, 0, 53, 42, 7, 182, 1, 139, 184, 1, 142, 62, 42, 29]
abbrev dktX6_drawType_1 : List UInt8 := dkwX6_drawType_1 ++ dktX6_drawType_2
def dkwX6_drawType_0 : List UInt8 := [42, 3, 181, 0, 233, 42, 42, 7, 182, 1, 139, 184, 1, 142, 182, 1, 145, 42, 180, 0, 80, 3, 46]
abbrev dktX6_drawType_0 : List UInt8 := dkwX6_drawType_0 ++ dktX6_drawType_1
theorem dksX6_drawType_0 : cX6_drawType.data.toList.drop 0 = dktX6_drawType_0 := by decide +kernel
theorem dksX6_drawType_1 : cX6_drawType.data.toList.drop 23 = dktX6_drawType_1 := dk_seg dksX6_drawType_0 23 rfl rfl
theorem dksX6_drawType_2 : cX6_drawType.data.toList.drop 45 = dktX6_drawType_2 := dk_seg dksX6_drawType_1 22 rfl rfl
theorem dksX6_drawType_3 : cX6_drawType.data.toList.drop 69 = dktX6_drawType_3 := dk_seg dksX6_drawType_2 24 rfl rfl
theorem dX6_drawType_0 : decode cX6_drawType 0 = .ok (.aload_n 0, 1) := dk_42 (dk_at dksX6_drawType_0 0 rfl rfl)
theorem dX6_drawType_1 : decode cX6_drawType 1 = .ok (.iconst 0, 1) := dk_3 (dk_at dksX6_drawType_0 1 rfl rfl)
theorem dX6_drawType_2 : decode cX6_drawType 2 = .ok (.putfield 233, 3) := dk_181 0 233 (dk_at dksX6_drawType_0 2 rfl rfl)
theorem dX6_drawType_5 : decode cX6_drawType 5 = .ok (.aload_n 0, 1) := dk_42 (dk_at dksX6_drawType_0 5 rfl rfl)
theorem dX6_drawType_6 : decode cX6_drawType 6 = .ok (.aload_n 0, 1) := dk_42 (dk_at dksX6_drawType_0 6 rfl rfl)
theorem dX6_drawType_7 : decode cX6_drawType 7 = .ok (.iconst 4, 1) := dk_7 (dk_at dksX6_drawType_0 7 rfl rfl)
theorem dX6_drawType_8 : decode cX6_drawType 8 = .ok (.invokevirtual 395, 3) := dk_182 1 139 (dk_at dksX6_drawType_0 8 rfl rfl)
theorem dX6_drawType_11 : decode cX6_drawType 11 = .ok (.invokestatic 398, 3) := dk_184 1 142 (dk_at dksX6_drawType_0 11 rfl rfl)
theorem dX6_drawType_14 : decode cX6_drawType 14 = .ok (.invokevirtual 401, 3) := dk_182 1 145 (dk_at dksX6_drawType_0 14 rfl rfl)
theorem dX6_drawType_17 : decode cX6_drawType 17 = .ok (.aload_n 0, 1) := dk_42 (dk_at dksX6_drawType_0 17 rfl rfl)
theorem dX6_drawType_18 : decode cX6_drawType 18 = .ok (.getfield 80, 3) := dk_180 0 80 (dk_at dksX6_drawType_0 18 rfl rfl)
theorem dX6_drawType_21 : decode cX6_drawType 21 = .ok (.iconst 0, 1) := dk_3 (dk_at dksX6_drawType_0 21 rfl rfl)
theorem dX6_drawType_22 : decode cX6_drawType 22 = .ok (.iaload, 1) := dk_46 (dk_at dksX6_drawType_0 22 rfl rfl)
theorem dX6_drawType_23 : decode cX6_drawType 23 = .ok (.invokestatic 174, 3) := dk_184 0 174 (dk_at dksX6_drawType_1 0 rfl rfl)
theorem dX6_drawType_26 : decode cX6_drawType 26 = .ok (.istore_n 1, 1) := dk_60 (dk_at dksX6_drawType_1 3 rfl rfl)
theorem dX6_drawType_27 : decode cX6_drawType 27 = .ok (.iconst 0, 1) := dk_3 (dk_at dksX6_drawType_1 4 rfl rfl)
theorem dX6_drawType_28 : decode cX6_drawType 28 = .ok (.istore_n 2, 1) := dk_61 (dk_at dksX6_drawType_1 5 rfl rfl)
theorem dX6_drawType_29 : decode cX6_drawType 29 = .ok (.iload_n 2, 1) := dk_28 (dk_at dksX6_drawType_1 6 rfl rfl)
theorem dX6_drawType_30 : decode cX6_drawType 30 = .ok (.iload_n 1, 1) := dk_27 (dk_at dksX6_drawType_1 7 rfl rfl)
theorem dX6_drawType_31 : decode cX6_drawType 31 = .ok (.if_icmp .ge 53, 3) := dk_162 0 53 (dk_at dksX6_drawType_1 8 rfl rfl)
theorem dX6_drawType_34 : decode cX6_drawType 34 = .ok (.aload_n 0, 1) := dk_42 (dk_at dksX6_drawType_1 11 rfl rfl)
theorem dX6_drawType_35 : decode cX6_drawType 35 = .ok (.iconst 4, 1) := dk_7 (dk_at dksX6_drawType_1 12 rfl rfl)
theorem dX6_drawType_36 : decode cX6_drawType 36 = .ok (.invokevirtual 395, 3) := dk_182 1 139 (dk_at dksX6_drawType_1 13 rfl rfl)
theorem dX6_drawType_39 : decode cX6_drawType 39 = .ok (.invokestatic 398, 3) := dk_184 1 142 (dk_at dksX6_drawType_1 16 rfl rfl)
theorem dX6_drawType_42 : decode cX6_drawType 42 = .ok (.istore_n 3, 1) := dk_62 (dk_at dksX6_drawType_1 19 rfl rfl)
theorem dX6_drawType_43 : decode cX6_drawType 43 = .ok (.aload_n 0, 1) := dk_42 (dk_at dksX6_drawType_1 20 rfl rfl)
theorem dX6_drawType_44 : decode cX6_drawType 44 = .ok (.iload_n 3, 1) := dk_29 (dk_at dksX6_drawType_1 21 rfl rfl)
theorem dX6_drawType_45 : decode cX6_drawType 45 = .ok (.invokevirtual 401, 3) := dk_182 1 145 (dk_at dksX6_drawType_2 0 rfl rfl)
theorem dX6_drawType_48 : decode cX6_drawType 48 = .ok (.iconst 0, 1) := dk_3 (dk_at dksX6_drawType_2 3 rfl rfl)
theorem dX6_drawType_49 : decode cX6_drawType 49 = .ok (.istore 4, 2) := dk_54 4 (dk_at dksX6_drawType_2 4 rfl rfl)
theorem dX6_drawType_51 : decode cX6_drawType 51 = .ok (.iload 4, 2) := dk_21 4 (dk_at dksX6_drawType_2 6 rfl rfl)
theorem dX6_drawType_53 : decode cX6_drawType 53 = .ok (.iload_n 3, 1) := dk_29 (dk_at dksX6_drawType_2 8 rfl rfl)
theorem dX6_drawType_54 : decode cX6_drawType 54 = .ok (.invokestatic 174, 3) := dk_184 0 174 (dk_at dksX6_drawType_2 9 rfl rfl)
theorem dX6_drawType_57 : decode cX6_drawType 57 = .ok (.if_icmp .ge 21, 3) := dk_162 0 21 (dk_at dksX6_drawType_2 12 rfl rfl)
theorem dX6_drawType_60 : decode cX6_drawType 60 = .ok (.aload_n 0, 1) := dk_42 (dk_at dksX6_drawType_2 15 rfl rfl)
theorem dX6_drawType_61 : decode cX6_drawType 61 = .ok (.aload_n 0, 1) := dk_42 (dk_at dksX6_drawType_2 16 rfl rfl)
theorem dX6_drawType_62 : decode cX6_drawType 62 = .ok (.iconst 2, 1) := dk_5 (dk_at dksX6_drawType_2 17 rfl rfl)
theorem dX6_drawType_63 : decode cX6_drawType 63 = .ok (.invokevirtual 395, 3) := dk_182 1 139 (dk_at dksX6_drawType_2 18 rfl rfl)
theorem dX6_drawType_66 : decode cX6_drawType 66 = .ok (.invokestatic 398, 3) := dk_184 1 142 (dk_at dksX6_drawType_2 21 rfl rfl)
theorem dX6_drawType_69 : decode cX6_drawType 69 = .ok (.invokevirtual 401, 3) := dk_182 1 145 (dk_at dksX6_drawType_3 0 rfl rfl)
theorem dX6_drawType_72 : decode cX6_drawType 72 = .ok (.iinc 4 1, 3) := dk_132 4 1 (dk_at dksX6_drawType_3 3 rfl rfl)
theorem dX6_drawType_75 : decode cX6_drawType 75 = .ok (.goto (-24), 3) := dk_167 255 232 (dk_at dksX6_drawType_3 6 rfl rfl)
theorem dX6_drawType_78 : decode cX6_drawType 78 = .ok (.iinc 2 1, 3) := dk_132 2 1 (dk_at dksX6_drawType_3 9 rfl rfl)
theorem dX6_drawType_81 : decode cX6_drawType 81 = .ok (.goto (-52), 3) := dk_167 255 204 (dk_at dksX6_drawType_3 12 rfl rfl)
theorem dX6_drawType_84 : decode cX6_drawType 84 = .ok (.aload_n 0, 1) := dk_42 (dk_at dksX6_drawType_3 15 rfl rfl)
theorem dX6_drawType_85 : decode cX6_drawType 85 = .ok (.invokevirtual 236, 3) := dk_182 0 236 (dk_at dksX6_drawType_3 16 rfl rfl)
theorem dX6_drawType_88 : decode cX6_drawType 88 = .ok (.return_, 1) := dk_177 (dk_at dksX6_drawType_3 19 rfl rfl)
abbrev cX6_letterBy : ByteArray := prog_13_method_82_code
def yX6_letterBy : MethodName := ⟨RX6, "letterBy", "(I)I"⟩
def dkwX6_letterBy_2 : List UInt8 := [16, 105, 172, 16, 98, 172, 16, 108, 172, 16, 112, 172]
abbrev dktX6_letterBy_2 : List UInt8 := dkwX6_letterBy_2 ++ []
def dkwX6_letterBy_1 : List UInt8 := [170, 0, 0, 0, 0, 0, 36, 0, 0, 0, 0, 0, 0, 0, 2, 0, 0, 0, 27, 0, 0, 0, 30, 0, 0, 0, 33]
abbrev dktX6_letterBy_1 : List UInt8 := dkwX6_letterBy_1 ++ dktX6_letterBy_2
def dkwX6_letterBy_0 : List UInt8 := [26]
abbrev dktX6_letterBy_0 : List UInt8 := dkwX6_letterBy_0 ++ dktX6_letterBy_1
theorem dksX6_letterBy_0 : cX6_letterBy.data.toList.drop 0 = dktX6_letterBy_0 := by decide +kernel
theorem dksX6_letterBy_1 : cX6_letterBy.data.toList.drop 1 = dktX6_letterBy_1 := dk_seg dksX6_letterBy_0 1 rfl rfl
theorem dksX6_letterBy_2 : cX6_letterBy.data.toList.drop 28 = dktX6_letterBy_2 := dk_seg dksX6_letterBy_1 27 rfl rfl
theorem dX6_letterBy_0 : decode cX6_letterBy 0 = .ok (.iload_n 0, 1) := dk_26 (dk_at dksX6_letterBy_0 0 rfl rfl)
theorem dX6_letterBy_1 : decode cX6_letterBy 1 = .ok (.tableswitch 36 0 2 #[27, 30, 33], 27) := by decide +kernel
theorem dX6_letterBy_28 : decode cX6_letterBy 28 = .ok (.bipush 105, 2) := dk_16 105 (dk_at dksX6_letterBy_2 0 rfl rfl)
theorem dX6_letterBy_30 : decode cX6_letterBy 30 = .ok (.ireturn, 1) := dk_172 (dk_at dksX6_letterBy_2 2 rfl rfl)
theorem dX6_letterBy_31 : decode cX6_letterBy 31 = .ok (.bipush 98, 2) := dk_16 98 (dk_at dksX6_letterBy_2 3 rfl rfl)
theorem dX6_letterBy_33 : decode cX6_letterBy 33 = .ok (.ireturn, 1) := dk_172 (dk_at dksX6_letterBy_2 5 rfl rfl)
theorem dX6_letterBy_34 : decode cX6_letterBy 34 = .ok (.bipush 108, 2) := dk_16 108 (dk_at dksX6_letterBy_2 6 rfl rfl)
theorem dX6_letterBy_36 : decode cX6_letterBy 36 = .ok (.ireturn, 1) := dk_172 (dk_at dksX6_letterBy_2 8 rfl rfl)
theorem dX6_letterBy_37 : decode cX6_letterBy 37 = .ok (.bipush 112, 2) := dk_16 112 (dk_at dksX6_letterBy_2 9 rfl rfl)
theorem dX6_letterBy_39 : decode cX6_letterBy 39 = .ok (.ireturn, 1) := dk_172 (dk_at dksX6_letterBy_2 11 rfl rfl)
abbrev cX6_addLetter : ByteArray := prog_13_method_83_code
def yX6_addLetter : MethodName := ⟨RX6, "addLetter", "(I)V"⟩
def dkwX6_addLetter_0 : List UInt8 := [42, 180, 0, 80, 42, 180, 0, 233, 27, 79, 42, 89, 180, 0, 233, 4, 96, 181, 0, 233, 177]
abbrev dktX6_addLetter_0 : List UInt8 := dkwX6_addLetter_0 ++ []
theorem dksX6_addLetter_0 : cX6_addLetter.data.toList.drop 0 = dktX6_addLetter_0 := by decide +kernel
theorem dX6_addLetter_0 : decode cX6_addLetter 0 = .ok (.aload_n 0, 1) := dk_42 (dk_at dksX6_addLetter_0 0 rfl rfl)
theorem dX6_addLetter_1 : decode cX6_addLetter 1 = .ok (.getfield 80, 3) := dk_180 0 80 (dk_at dksX6_addLetter_0 1 rfl rfl)
theorem dX6_addLetter_4 : decode cX6_addLetter 4 = .ok (.aload_n 0, 1) := dk_42 (dk_at dksX6_addLetter_0 4 rfl rfl)
theorem dX6_addLetter_5 : decode cX6_addLetter 5 = .ok (.getfield 233, 3) := dk_180 0 233 (dk_at dksX6_addLetter_0 5 rfl rfl)
theorem dX6_addLetter_8 : decode cX6_addLetter 8 = .ok (.iload_n 1, 1) := dk_27 (dk_at dksX6_addLetter_0 8 rfl rfl)
theorem dX6_addLetter_9 : decode cX6_addLetter 9 = .ok (.iastore, 1) := dk_79 (dk_at dksX6_addLetter_0 9 rfl rfl)
theorem dX6_addLetter_10 : decode cX6_addLetter 10 = .ok (.aload_n 0, 1) := dk_42 (dk_at dksX6_addLetter_0 10 rfl rfl)
theorem dX6_addLetter_11 : decode cX6_addLetter 11 = .ok (.dup, 1) := dk_89 (dk_at dksX6_addLetter_0 11 rfl rfl)
theorem dX6_addLetter_12 : decode cX6_addLetter 12 = .ok (.getfield 233, 3) := dk_180 0 233 (dk_at dksX6_addLetter_0 12 rfl rfl)
theorem dX6_addLetter_15 : decode cX6_addLetter 15 = .ok (.iconst 1, 1) := dk_4 (dk_at dksX6_addLetter_0 15 rfl rfl)
theorem dX6_addLetter_16 : decode cX6_addLetter 16 = .ok (.iadd, 1) := dk_96 (dk_at dksX6_addLetter_0 16 rfl rfl)
theorem dX6_addLetter_17 : decode cX6_addLetter 17 = .ok (.putfield 233, 3) := dk_181 0 233 (dk_at dksX6_addLetter_0 17 rfl rfl)
theorem dX6_addLetter_20 : decode cX6_addLetter 20 = .ok (.return_, 1) := dk_177 (dk_at dksX6_addLetter_0 20 rfl rfl)
abbrev cX6_image : ByteArray := prog_13_method_88_code
def yX6_image : MethodName := ⟨RX6, "image", "()I"⟩
def dkwX6_image_6 : List UInt8 := [42, 182, 1, 164, 172]
abbrev dktX6_image_6 : List UInt8 := dkwX6_image_6 ++ []
def dkwX6_image_5 : List UInt8 := [60, 27, 7, 162, 0, 21, 42, 180, 0, 134, 27, 42, 180, 0, 43, 27, 46, 79, 132, 1, 1, 167, 255, 236]
abbrev dktX6_image_5 : List UInt8 := dkwX6_image_5 ++ dktX6_image_6
def dkwX6_image_4 : List UInt8 := [16, 36, 162, 0, 21, 42, 180, 0, 131, 27, 42, 180, 0, 40, 27, 46, 79, 132, 1, 1, 167, 255, 235, 3]
abbrev dktX6_image_4 : List UInt8 := dkwX6_image_4 ++ dktX6_image_5
def dkwX6_image_3 : List UInt8 := [27, 46, 79, 42, 180, 0, 143, 27, 42, 180, 0, 52, 27, 46, 79, 132, 1, 1, 167, 255, 199, 3, 60, 27]
abbrev dktX6_image_3 : List UInt8 := dkwX6_image_3 ++ dktX6_image_4
def dkwX6_image_2 : List UInt8 := [27, 46, 79, 42, 180, 0, 137, 27, 42, 180, 0, 46, 27, 46, 79, 42, 180, 0, 140, 27, 42, 180, 0, 49]
abbrev dktX6_image_2 : List UInt8 := dkwX6_image_2 ++ dktX6_image_3
def dkwX6_image_1 : List UInt8 := [42, 180, 0, 230, 181, 1, 161, 3, 60, 27, 16, 6, 162, 0, 57, 42, 180, 0, 128, 27, 42, 180, 0, 16]
abbrev dktX6_image_1 : List UInt8 := dkwX6_image_1 ++ dktX6_image_2
def dkwX6_image_0 : List UInt8 := [42, 180, 0, 227, 154, 0, 6, 16, 153, 172, 42, 4, 181, 1, 155, 42, 42, 180, 0, 227, 181, 1, 158, 42]
abbrev dktX6_image_0 : List UInt8 := dkwX6_image_0 ++ dktX6_image_1
theorem dksX6_image_0 : cX6_image.data.toList.drop 0 = dktX6_image_0 := by decide +kernel
theorem dksX6_image_1 : cX6_image.data.toList.drop 24 = dktX6_image_1 := dk_seg dksX6_image_0 24 rfl rfl
theorem dksX6_image_2 : cX6_image.data.toList.drop 48 = dktX6_image_2 := dk_seg dksX6_image_1 24 rfl rfl
theorem dksX6_image_3 : cX6_image.data.toList.drop 72 = dktX6_image_3 := dk_seg dksX6_image_2 24 rfl rfl
theorem dksX6_image_4 : cX6_image.data.toList.drop 96 = dktX6_image_4 := dk_seg dksX6_image_3 24 rfl rfl
theorem dksX6_image_5 : cX6_image.data.toList.drop 120 = dktX6_image_5 := dk_seg dksX6_image_4 24 rfl rfl
theorem dksX6_image_6 : cX6_image.data.toList.drop 144 = dktX6_image_6 := dk_seg dksX6_image_5 24 rfl rfl
theorem dX6_image_0 : decode cX6_image 0 = .ok (.aload_n 0, 1) := dk_42 (dk_at dksX6_image_0 0 rfl rfl)
theorem dX6_image_1 : decode cX6_image 1 = .ok (.getfield 227, 3) := dk_180 0 227 (dk_at dksX6_image_0 1 rfl rfl)
theorem dX6_image_4 : decode cX6_image 4 = .ok (.ifCond .ne 6, 3) := dk_154 0 6 (dk_at dksX6_image_0 4 rfl rfl)
theorem dX6_image_7 : decode cX6_image 7 = .ok (.bipush (-103), 2) := dk_16 153 (dk_at dksX6_image_0 7 rfl rfl)
theorem dX6_image_9 : decode cX6_image 9 = .ok (.ireturn, 1) := dk_172 (dk_at dksX6_image_0 9 rfl rfl)
theorem dX6_image_10 : decode cX6_image 10 = .ok (.aload_n 0, 1) := dk_42 (dk_at dksX6_image_0 10 rfl rfl)
theorem dX6_image_11 : decode cX6_image 11 = .ok (.iconst 1, 1) := dk_4 (dk_at dksX6_image_0 11 rfl rfl)
theorem dX6_image_12 : decode cX6_image 12 = .ok (.putfield 411, 3) := dk_181 1 155 (dk_at dksX6_image_0 12 rfl rfl)
theorem dX6_image_15 : decode cX6_image 15 = .ok (.aload_n 0, 1) := dk_42 (dk_at dksX6_image_0 15 rfl rfl)
theorem dX6_image_16 : decode cX6_image 16 = .ok (.aload_n 0, 1) := dk_42 (dk_at dksX6_image_0 16 rfl rfl)
theorem dX6_image_17 : decode cX6_image 17 = .ok (.getfield 227, 3) := dk_180 0 227 (dk_at dksX6_image_0 17 rfl rfl)
theorem dX6_image_20 : decode cX6_image 20 = .ok (.putfield 414, 3) := dk_181 1 158 (dk_at dksX6_image_0 20 rfl rfl)
theorem dX6_image_23 : decode cX6_image 23 = .ok (.aload_n 0, 1) := dk_42 (dk_at dksX6_image_0 23 rfl rfl)
theorem dX6_image_24 : decode cX6_image 24 = .ok (.aload_n 0, 1) := dk_42 (dk_at dksX6_image_1 0 rfl rfl)
theorem dX6_image_25 : decode cX6_image 25 = .ok (.getfield 230, 3) := dk_180 0 230 (dk_at dksX6_image_1 1 rfl rfl)
theorem dX6_image_28 : decode cX6_image 28 = .ok (.putfield 417, 3) := dk_181 1 161 (dk_at dksX6_image_1 4 rfl rfl)
theorem dX6_image_31 : decode cX6_image 31 = .ok (.iconst 0, 1) := dk_3 (dk_at dksX6_image_1 7 rfl rfl)
theorem dX6_image_32 : decode cX6_image 32 = .ok (.istore_n 1, 1) := dk_60 (dk_at dksX6_image_1 8 rfl rfl)
theorem dX6_image_33 : decode cX6_image 33 = .ok (.iload_n 1, 1) := dk_27 (dk_at dksX6_image_1 9 rfl rfl)
theorem dX6_image_34 : decode cX6_image 34 = .ok (.bipush 6, 2) := dk_16 6 (dk_at dksX6_image_1 10 rfl rfl)
theorem dX6_image_36 : decode cX6_image 36 = .ok (.if_icmp .ge 57, 3) := dk_162 0 57 (dk_at dksX6_image_1 12 rfl rfl)
theorem dX6_image_39 : decode cX6_image 39 = .ok (.aload_n 0, 1) := dk_42 (dk_at dksX6_image_1 15 rfl rfl)
theorem dX6_image_40 : decode cX6_image 40 = .ok (.getfield 128, 3) := dk_180 0 128 (dk_at dksX6_image_1 16 rfl rfl)
theorem dX6_image_43 : decode cX6_image 43 = .ok (.iload_n 1, 1) := dk_27 (dk_at dksX6_image_1 19 rfl rfl)
theorem dX6_image_44 : decode cX6_image 44 = .ok (.aload_n 0, 1) := dk_42 (dk_at dksX6_image_1 20 rfl rfl)
theorem dX6_image_45 : decode cX6_image 45 = .ok (.getfield 16, 3) := dk_180 0 16 (dk_at dksX6_image_1 21 rfl rfl)
theorem dX6_image_48 : decode cX6_image 48 = .ok (.iload_n 1, 1) := dk_27 (dk_at dksX6_image_2 0 rfl rfl)
theorem dX6_image_49 : decode cX6_image 49 = .ok (.iaload, 1) := dk_46 (dk_at dksX6_image_2 1 rfl rfl)
theorem dX6_image_50 : decode cX6_image 50 = .ok (.iastore, 1) := dk_79 (dk_at dksX6_image_2 2 rfl rfl)
theorem dX6_image_51 : decode cX6_image 51 = .ok (.aload_n 0, 1) := dk_42 (dk_at dksX6_image_2 3 rfl rfl)
theorem dX6_image_52 : decode cX6_image 52 = .ok (.getfield 137, 3) := dk_180 0 137 (dk_at dksX6_image_2 4 rfl rfl)
theorem dX6_image_55 : decode cX6_image 55 = .ok (.iload_n 1, 1) := dk_27 (dk_at dksX6_image_2 7 rfl rfl)
theorem dX6_image_56 : decode cX6_image 56 = .ok (.aload_n 0, 1) := dk_42 (dk_at dksX6_image_2 8 rfl rfl)
theorem dX6_image_57 : decode cX6_image 57 = .ok (.getfield 46, 3) := dk_180 0 46 (dk_at dksX6_image_2 9 rfl rfl)
theorem dX6_image_60 : decode cX6_image 60 = .ok (.iload_n 1, 1) := dk_27 (dk_at dksX6_image_2 12 rfl rfl)
theorem dX6_image_61 : decode cX6_image 61 = .ok (.iaload, 1) := dk_46 (dk_at dksX6_image_2 13 rfl rfl)
theorem dX6_image_62 : decode cX6_image 62 = .ok (.iastore, 1) := dk_79 (dk_at dksX6_image_2 14 rfl rfl)
theorem dX6_image_63 : decode cX6_image 63 = .ok (.aload_n 0, 1) := dk_42 (dk_at dksX6_image_2 15 rfl rfl)
theorem dX6_image_64 : decode cX6_image 64 = .ok (.getfield 140, 3) := dk_180 0 140 (dk_at dksX6_image_2 16 rfl rfl)
theorem dX6_image_67 : decode cX6_image 67 = .ok (.iload_n 1, 1) := dk_27 (dk_at dksX6_image_2 19 rfl rfl)
theorem dX6_image_68 : decode cX6_image 68 = .ok (.aload_n 0, 1) := dk_42 (dk_at dksX6_image_2 20 rfl rfl)
theorem dX6_image_69 : decode cX6_image 69 = .ok (.getfield 49, 3) := dk_180 0 49 (dk_at dksX6_image_2 21 rfl rfl)
theorem dX6_image_72 : decode cX6_image 72 = .ok (.iload_n 1, 1) := dk_27 (dk_at dksX6_image_3 0 rfl rfl)
theorem dX6_image_73 : decode cX6_image 73 = .ok (.iaload, 1) := dk_46 (dk_at dksX6_image_3 1 rfl rfl)
theorem dX6_image_74 : decode cX6_image 74 = .ok (.iastore, 1) := dk_79 (dk_at dksX6_image_3 2 rfl rfl)
theorem dX6_image_75 : decode cX6_image 75 = .ok (.aload_n 0, 1) := dk_42 (dk_at dksX6_image_3 3 rfl rfl)
theorem dX6_image_76 : decode cX6_image 76 = .ok (.getfield 143, 3) := dk_180 0 143 (dk_at dksX6_image_3 4 rfl rfl)
theorem dX6_image_79 : decode cX6_image 79 = .ok (.iload_n 1, 1) := dk_27 (dk_at dksX6_image_3 7 rfl rfl)
theorem dX6_image_80 : decode cX6_image 80 = .ok (.aload_n 0, 1) := dk_42 (dk_at dksX6_image_3 8 rfl rfl)
theorem dX6_image_81 : decode cX6_image 81 = .ok (.getfield 52, 3) := dk_180 0 52 (dk_at dksX6_image_3 9 rfl rfl)
theorem dX6_image_84 : decode cX6_image 84 = .ok (.iload_n 1, 1) := dk_27 (dk_at dksX6_image_3 12 rfl rfl)
theorem dX6_image_85 : decode cX6_image 85 = .ok (.iaload, 1) := dk_46 (dk_at dksX6_image_3 13 rfl rfl)
theorem dX6_image_86 : decode cX6_image 86 = .ok (.iastore, 1) := dk_79 (dk_at dksX6_image_3 14 rfl rfl)
theorem dX6_image_87 : decode cX6_image 87 = .ok (.iinc 1 1, 3) := dk_132 1 1 (dk_at dksX6_image_3 15 rfl rfl)
theorem dX6_image_90 : decode cX6_image 90 = .ok (.goto (-57), 3) := dk_167 255 199 (dk_at dksX6_image_3 18 rfl rfl)
theorem dX6_image_93 : decode cX6_image 93 = .ok (.iconst 0, 1) := dk_3 (dk_at dksX6_image_3 21 rfl rfl)
theorem dX6_image_94 : decode cX6_image 94 = .ok (.istore_n 1, 1) := dk_60 (dk_at dksX6_image_3 22 rfl rfl)
theorem dX6_image_95 : decode cX6_image 95 = .ok (.iload_n 1, 1) := dk_27 (dk_at dksX6_image_3 23 rfl rfl)
theorem dX6_image_96 : decode cX6_image 96 = .ok (.bipush 36, 2) := dk_16 36 (dk_at dksX6_image_4 0 rfl rfl)
theorem dX6_image_98 : decode cX6_image 98 = .ok (.if_icmp .ge 21, 3) := dk_162 0 21 (dk_at dksX6_image_4 2 rfl rfl)
theorem dX6_image_101 : decode cX6_image 101 = .ok (.aload_n 0, 1) := dk_42 (dk_at dksX6_image_4 5 rfl rfl)
theorem dX6_image_102 : decode cX6_image 102 = .ok (.getfield 131, 3) := dk_180 0 131 (dk_at dksX6_image_4 6 rfl rfl)
theorem dX6_image_105 : decode cX6_image 105 = .ok (.iload_n 1, 1) := dk_27 (dk_at dksX6_image_4 9 rfl rfl)
theorem dX6_image_106 : decode cX6_image 106 = .ok (.aload_n 0, 1) := dk_42 (dk_at dksX6_image_4 10 rfl rfl)
theorem dX6_image_107 : decode cX6_image 107 = .ok (.getfield 40, 3) := dk_180 0 40 (dk_at dksX6_image_4 11 rfl rfl)
theorem dX6_image_110 : decode cX6_image 110 = .ok (.iload_n 1, 1) := dk_27 (dk_at dksX6_image_4 14 rfl rfl)
theorem dX6_image_111 : decode cX6_image 111 = .ok (.iaload, 1) := dk_46 (dk_at dksX6_image_4 15 rfl rfl)
theorem dX6_image_112 : decode cX6_image 112 = .ok (.iastore, 1) := dk_79 (dk_at dksX6_image_4 16 rfl rfl)
theorem dX6_image_113 : decode cX6_image 113 = .ok (.iinc 1 1, 3) := dk_132 1 1 (dk_at dksX6_image_4 17 rfl rfl)
theorem dX6_image_116 : decode cX6_image 116 = .ok (.goto (-21), 3) := dk_167 255 235 (dk_at dksX6_image_4 20 rfl rfl)
theorem dX6_image_119 : decode cX6_image 119 = .ok (.iconst 0, 1) := dk_3 (dk_at dksX6_image_4 23 rfl rfl)
theorem dX6_image_120 : decode cX6_image 120 = .ok (.istore_n 1, 1) := dk_60 (dk_at dksX6_image_5 0 rfl rfl)
theorem dX6_image_121 : decode cX6_image 121 = .ok (.iload_n 1, 1) := dk_27 (dk_at dksX6_image_5 1 rfl rfl)
theorem dX6_image_122 : decode cX6_image 122 = .ok (.iconst 4, 1) := dk_7 (dk_at dksX6_image_5 2 rfl rfl)
theorem dX6_image_123 : decode cX6_image 123 = .ok (.if_icmp .ge 21, 3) := dk_162 0 21 (dk_at dksX6_image_5 3 rfl rfl)
theorem dX6_image_126 : decode cX6_image 126 = .ok (.aload_n 0, 1) := dk_42 (dk_at dksX6_image_5 6 rfl rfl)
theorem dX6_image_127 : decode cX6_image 127 = .ok (.getfield 134, 3) := dk_180 0 134 (dk_at dksX6_image_5 7 rfl rfl)
theorem dX6_image_130 : decode cX6_image 130 = .ok (.iload_n 1, 1) := dk_27 (dk_at dksX6_image_5 10 rfl rfl)
theorem dX6_image_131 : decode cX6_image 131 = .ok (.aload_n 0, 1) := dk_42 (dk_at dksX6_image_5 11 rfl rfl)
theorem dX6_image_132 : decode cX6_image 132 = .ok (.getfield 43, 3) := dk_180 0 43 (dk_at dksX6_image_5 12 rfl rfl)
theorem dX6_image_135 : decode cX6_image 135 = .ok (.iload_n 1, 1) := dk_27 (dk_at dksX6_image_5 15 rfl rfl)
theorem dX6_image_136 : decode cX6_image 136 = .ok (.iaload, 1) := dk_46 (dk_at dksX6_image_5 16 rfl rfl)
theorem dX6_image_137 : decode cX6_image 137 = .ok (.iastore, 1) := dk_79 (dk_at dksX6_image_5 17 rfl rfl)
theorem dX6_image_138 : decode cX6_image 138 = .ok (.iinc 1 1, 3) := dk_132 1 1 (dk_at dksX6_image_5 18 rfl rfl)
theorem dX6_image_141 : decode cX6_image 141 = .ok (.goto (-20), 3) := dk_167 255 236 (dk_at dksX6_image_5 21 rfl rfl)
theorem dX6_image_144 : decode cX6_image 144 = .ok (.aload_n 0, 1) := dk_42 (dk_at dksX6_image_6 0 rfl rfl)
theorem dX6_image_145 : decode cX6_image 145 = .ok (.invokevirtual 420, 3) := dk_182 1 164 (dk_at dksX6_image_6 1 rfl rfl)
theorem dX6_image_148 : decode cX6_image 148 = .ok (.ireturn, 1) := dk_172 (dk_at dksX6_image_6 4 rfl rfl)
abbrev cX6_filled : ByteArray := prog_13_method_87_code
def yX6_filled : MethodName := ⟨RX6, "filled", "()I"⟩
def dkwX6_filled_1 : List UInt8 := [96, 60, 132, 2, 1, 167, 255, 231, 27, 172]
abbrev dktX6_filled_1 : List UInt8 := dkwX6_filled_1 ++ []
def dkwX6_filled_0 : List UInt8 := [3, 60, 3, 61, 28, 7, 162, 0, 26, 27, 42, 180, 0, 43, 28, 46, 158, 0, 7, 4, 167, 0, 4, 3]
abbrev dktX6_filled_0 : List UInt8 := dkwX6_filled_0 ++ dktX6_filled_1
theorem dksX6_filled_0 : cX6_filled.data.toList.drop 0 = dktX6_filled_0 := by decide +kernel
theorem dksX6_filled_1 : cX6_filled.data.toList.drop 24 = dktX6_filled_1 := dk_seg dksX6_filled_0 24 rfl rfl
theorem dX6_filled_0 : decode cX6_filled 0 = .ok (.iconst 0, 1) := dk_3 (dk_at dksX6_filled_0 0 rfl rfl)
theorem dX6_filled_1 : decode cX6_filled 1 = .ok (.istore_n 1, 1) := dk_60 (dk_at dksX6_filled_0 1 rfl rfl)
theorem dX6_filled_2 : decode cX6_filled 2 = .ok (.iconst 0, 1) := dk_3 (dk_at dksX6_filled_0 2 rfl rfl)
theorem dX6_filled_3 : decode cX6_filled 3 = .ok (.istore_n 2, 1) := dk_61 (dk_at dksX6_filled_0 3 rfl rfl)
theorem dX6_filled_4 : decode cX6_filled 4 = .ok (.iload_n 2, 1) := dk_28 (dk_at dksX6_filled_0 4 rfl rfl)
theorem dX6_filled_5 : decode cX6_filled 5 = .ok (.iconst 4, 1) := dk_7 (dk_at dksX6_filled_0 5 rfl rfl)
theorem dX6_filled_6 : decode cX6_filled 6 = .ok (.if_icmp .ge 26, 3) := dk_162 0 26 (dk_at dksX6_filled_0 6 rfl rfl)
theorem dX6_filled_9 : decode cX6_filled 9 = .ok (.iload_n 1, 1) := dk_27 (dk_at dksX6_filled_0 9 rfl rfl)
theorem dX6_filled_10 : decode cX6_filled 10 = .ok (.aload_n 0, 1) := dk_42 (dk_at dksX6_filled_0 10 rfl rfl)
theorem dX6_filled_11 : decode cX6_filled 11 = .ok (.getfield 43, 3) := dk_180 0 43 (dk_at dksX6_filled_0 11 rfl rfl)
theorem dX6_filled_14 : decode cX6_filled 14 = .ok (.iload_n 2, 1) := dk_28 (dk_at dksX6_filled_0 14 rfl rfl)
theorem dX6_filled_15 : decode cX6_filled 15 = .ok (.iaload, 1) := dk_46 (dk_at dksX6_filled_0 15 rfl rfl)
theorem dX6_filled_16 : decode cX6_filled 16 = .ok (.ifCond .le 7, 3) := dk_158 0 7 (dk_at dksX6_filled_0 16 rfl rfl)
theorem dX6_filled_19 : decode cX6_filled 19 = .ok (.iconst 1, 1) := dk_4 (dk_at dksX6_filled_0 19 rfl rfl)
theorem dX6_filled_20 : decode cX6_filled 20 = .ok (.goto 4, 3) := dk_167 0 4 (dk_at dksX6_filled_0 20 rfl rfl)
theorem dX6_filled_23 : decode cX6_filled 23 = .ok (.iconst 0, 1) := dk_3 (dk_at dksX6_filled_0 23 rfl rfl)
theorem dX6_filled_24 : decode cX6_filled 24 = .ok (.iadd, 1) := dk_96 (dk_at dksX6_filled_1 0 rfl rfl)
theorem dX6_filled_25 : decode cX6_filled 25 = .ok (.istore_n 1, 1) := dk_60 (dk_at dksX6_filled_1 1 rfl rfl)
theorem dX6_filled_26 : decode cX6_filled 26 = .ok (.iinc 2 1, 3) := dk_132 2 1 (dk_at dksX6_filled_1 2 rfl rfl)
theorem dX6_filled_29 : decode cX6_filled 29 = .ok (.goto (-25), 3) := dk_167 255 231 (dk_at dksX6_filled_1 5 rfl rfl)
theorem dX6_filled_32 : decode cX6_filled 32 = .ok (.iload_n 1, 1) := dk_27 (dk_at dksX6_filled_1 8 rfl rfl)
theorem dX6_filled_33 : decode cX6_filled 33 = .ok (.ireturn, 1) := dk_172 (dk_at dksX6_filled_1 9 rfl rfl)
abbrev cX6_restore : ByteArray := prog_13_method_89_code
def yX6_restore : MethodName := ⟨RX6, "restore", "()I"⟩
def dkwX6_restore_6 : List UInt8 := [42, 182, 1, 164, 172]
abbrev dktX6_restore_6 : List UInt8 := dkwX6_restore_6 ++ []
def dkwX6_restore_5 : List UInt8 := [60, 27, 7, 162, 0, 21, 42, 180, 0, 43, 27, 42, 180, 0, 134, 27, 46, 79, 132, 1, 1, 167, 255, 236]
abbrev dktX6_restore_5 : List UInt8 := dkwX6_restore_5 ++ dktX6_restore_6
def dkwX6_restore_4 : List UInt8 := [16, 36, 162, 0, 21, 42, 180, 0, 40, 27, 42, 180, 0, 131, 27, 46, 79, 132, 1, 1, 167, 255, 235, 3]
abbrev dktX6_restore_4 : List UInt8 := dkwX6_restore_4 ++ dktX6_restore_5
def dkwX6_restore_3 : List UInt8 := [46, 79, 42, 180, 0, 52, 27, 42, 180, 0, 143, 27, 46, 79, 132, 1, 1, 167, 255, 199, 3, 60, 27]
abbrev dktX6_restore_3 : List UInt8 := dkwX6_restore_3 ++ dktX6_restore_4
def dkwX6_restore_2 : List UInt8 := [46, 79, 42, 180, 0, 46, 27, 42, 180, 0, 137, 27, 46, 79, 42, 180, 0, 49, 27, 42, 180, 0, 140, 27]
abbrev dktX6_restore_2 : List UInt8 := dkwX6_restore_2 ++ dktX6_restore_3
def dkwX6_restore_1 : List UInt8 := [180, 1, 161, 181, 0, 230, 3, 60, 27, 16, 6, 162, 0, 57, 42, 180, 0, 16, 27, 42, 180, 0, 128, 27]
abbrev dktX6_restore_1 : List UInt8 := dkwX6_restore_1 ++ dktX6_restore_2
def dkwX6_restore_0 : List UInt8 := [42, 180, 1, 155, 153, 0, 14, 42, 180, 1, 158, 42, 180, 0, 227, 159, 0, 6, 16, 153, 172, 42, 42]
abbrev dktX6_restore_0 : List UInt8 := dkwX6_restore_0 ++ dktX6_restore_1
theorem dksX6_restore_0 : cX6_restore.data.toList.drop 0 = dktX6_restore_0 := by decide +kernel
theorem dksX6_restore_1 : cX6_restore.data.toList.drop 23 = dktX6_restore_1 := dk_seg dksX6_restore_0 23 rfl rfl
theorem dksX6_restore_2 : cX6_restore.data.toList.drop 47 = dktX6_restore_2 := dk_seg dksX6_restore_1 24 rfl rfl
theorem dksX6_restore_3 : cX6_restore.data.toList.drop 71 = dktX6_restore_3 := dk_seg dksX6_restore_2 24 rfl rfl
theorem dksX6_restore_4 : cX6_restore.data.toList.drop 94 = dktX6_restore_4 := dk_seg dksX6_restore_3 23 rfl rfl
theorem dksX6_restore_5 : cX6_restore.data.toList.drop 118 = dktX6_restore_5 := dk_seg dksX6_restore_4 24 rfl rfl
theorem dksX6_restore_6 : cX6_restore.data.toList.drop 142 = dktX6_restore_6 := dk_seg dksX6_restore_5 24 rfl rfl
theorem dX6_restore_0 : decode cX6_restore 0 = .ok (.aload_n 0, 1) := dk_42 (dk_at dksX6_restore_0 0 rfl rfl)
theorem dX6_restore_1 : decode cX6_restore 1 = .ok (.getfield 411, 3) := dk_180 1 155 (dk_at dksX6_restore_0 1 rfl rfl)
theorem dX6_restore_4 : decode cX6_restore 4 = .ok (.ifCond .eq 14, 3) := dk_153 0 14 (dk_at dksX6_restore_0 4 rfl rfl)
theorem dX6_restore_7 : decode cX6_restore 7 = .ok (.aload_n 0, 1) := dk_42 (dk_at dksX6_restore_0 7 rfl rfl)
theorem dX6_restore_8 : decode cX6_restore 8 = .ok (.getfield 414, 3) := dk_180 1 158 (dk_at dksX6_restore_0 8 rfl rfl)
theorem dX6_restore_11 : decode cX6_restore 11 = .ok (.aload_n 0, 1) := dk_42 (dk_at dksX6_restore_0 11 rfl rfl)
theorem dX6_restore_12 : decode cX6_restore 12 = .ok (.getfield 227, 3) := dk_180 0 227 (dk_at dksX6_restore_0 12 rfl rfl)
theorem dX6_restore_15 : decode cX6_restore 15 = .ok (.if_icmp .eq 6, 3) := dk_159 0 6 (dk_at dksX6_restore_0 15 rfl rfl)
theorem dX6_restore_18 : decode cX6_restore 18 = .ok (.bipush (-103), 2) := dk_16 153 (dk_at dksX6_restore_0 18 rfl rfl)
theorem dX6_restore_20 : decode cX6_restore 20 = .ok (.ireturn, 1) := dk_172 (dk_at dksX6_restore_0 20 rfl rfl)
theorem dX6_restore_21 : decode cX6_restore 21 = .ok (.aload_n 0, 1) := dk_42 (dk_at dksX6_restore_0 21 rfl rfl)
theorem dX6_restore_22 : decode cX6_restore 22 = .ok (.aload_n 0, 1) := dk_42 (dk_at dksX6_restore_0 22 rfl rfl)
theorem dX6_restore_23 : decode cX6_restore 23 = .ok (.getfield 417, 3) := dk_180 1 161 (dk_at dksX6_restore_1 0 rfl rfl)
theorem dX6_restore_26 : decode cX6_restore 26 = .ok (.putfield 230, 3) := dk_181 0 230 (dk_at dksX6_restore_1 3 rfl rfl)
theorem dX6_restore_29 : decode cX6_restore 29 = .ok (.iconst 0, 1) := dk_3 (dk_at dksX6_restore_1 6 rfl rfl)
theorem dX6_restore_30 : decode cX6_restore 30 = .ok (.istore_n 1, 1) := dk_60 (dk_at dksX6_restore_1 7 rfl rfl)
theorem dX6_restore_31 : decode cX6_restore 31 = .ok (.iload_n 1, 1) := dk_27 (dk_at dksX6_restore_1 8 rfl rfl)
theorem dX6_restore_32 : decode cX6_restore 32 = .ok (.bipush 6, 2) := dk_16 6 (dk_at dksX6_restore_1 9 rfl rfl)
theorem dX6_restore_34 : decode cX6_restore 34 = .ok (.if_icmp .ge 57, 3) := dk_162 0 57 (dk_at dksX6_restore_1 11 rfl rfl)
theorem dX6_restore_37 : decode cX6_restore 37 = .ok (.aload_n 0, 1) := dk_42 (dk_at dksX6_restore_1 14 rfl rfl)
theorem dX6_restore_38 : decode cX6_restore 38 = .ok (.getfield 16, 3) := dk_180 0 16 (dk_at dksX6_restore_1 15 rfl rfl)
theorem dX6_restore_41 : decode cX6_restore 41 = .ok (.iload_n 1, 1) := dk_27 (dk_at dksX6_restore_1 18 rfl rfl)
theorem dX6_restore_42 : decode cX6_restore 42 = .ok (.aload_n 0, 1) := dk_42 (dk_at dksX6_restore_1 19 rfl rfl)
theorem dX6_restore_43 : decode cX6_restore 43 = .ok (.getfield 128, 3) := dk_180 0 128 (dk_at dksX6_restore_1 20 rfl rfl)
theorem dX6_restore_46 : decode cX6_restore 46 = .ok (.iload_n 1, 1) := dk_27 (dk_at dksX6_restore_1 23 rfl rfl)
theorem dX6_restore_47 : decode cX6_restore 47 = .ok (.iaload, 1) := dk_46 (dk_at dksX6_restore_2 0 rfl rfl)
theorem dX6_restore_48 : decode cX6_restore 48 = .ok (.iastore, 1) := dk_79 (dk_at dksX6_restore_2 1 rfl rfl)
theorem dX6_restore_49 : decode cX6_restore 49 = .ok (.aload_n 0, 1) := dk_42 (dk_at dksX6_restore_2 2 rfl rfl)
theorem dX6_restore_50 : decode cX6_restore 50 = .ok (.getfield 46, 3) := dk_180 0 46 (dk_at dksX6_restore_2 3 rfl rfl)
theorem dX6_restore_53 : decode cX6_restore 53 = .ok (.iload_n 1, 1) := dk_27 (dk_at dksX6_restore_2 6 rfl rfl)
theorem dX6_restore_54 : decode cX6_restore 54 = .ok (.aload_n 0, 1) := dk_42 (dk_at dksX6_restore_2 7 rfl rfl)
theorem dX6_restore_55 : decode cX6_restore 55 = .ok (.getfield 137, 3) := dk_180 0 137 (dk_at dksX6_restore_2 8 rfl rfl)
theorem dX6_restore_58 : decode cX6_restore 58 = .ok (.iload_n 1, 1) := dk_27 (dk_at dksX6_restore_2 11 rfl rfl)
theorem dX6_restore_59 : decode cX6_restore 59 = .ok (.iaload, 1) := dk_46 (dk_at dksX6_restore_2 12 rfl rfl)
theorem dX6_restore_60 : decode cX6_restore 60 = .ok (.iastore, 1) := dk_79 (dk_at dksX6_restore_2 13 rfl rfl)
theorem dX6_restore_61 : decode cX6_restore 61 = .ok (.aload_n 0, 1) := dk_42 (dk_at dksX6_restore_2 14 rfl rfl)
theorem dX6_restore_62 : decode cX6_restore 62 = .ok (.getfield 49, 3) := dk_180 0 49 (dk_at dksX6_restore_2 15 rfl rfl)
theorem dX6_restore_65 : decode cX6_restore 65 = .ok (.iload_n 1, 1) := dk_27 (dk_at dksX6_restore_2 18 rfl rfl)
theorem dX6_restore_66 : decode cX6_restore 66 = .ok (.aload_n 0, 1) := dk_42 (dk_at dksX6_restore_2 19 rfl rfl)
theorem dX6_restore_67 : decode cX6_restore 67 = .ok (.getfield 140, 3) := dk_180 0 140 (dk_at dksX6_restore_2 20 rfl rfl)
theorem dX6_restore_70 : decode cX6_restore 70 = .ok (.iload_n 1, 1) := dk_27 (dk_at dksX6_restore_2 23 rfl rfl)
theorem dX6_restore_71 : decode cX6_restore 71 = .ok (.iaload, 1) := dk_46 (dk_at dksX6_restore_3 0 rfl rfl)
theorem dX6_restore_72 : decode cX6_restore 72 = .ok (.iastore, 1) := dk_79 (dk_at dksX6_restore_3 1 rfl rfl)
theorem dX6_restore_73 : decode cX6_restore 73 = .ok (.aload_n 0, 1) := dk_42 (dk_at dksX6_restore_3 2 rfl rfl)
theorem dX6_restore_74 : decode cX6_restore 74 = .ok (.getfield 52, 3) := dk_180 0 52 (dk_at dksX6_restore_3 3 rfl rfl)
theorem dX6_restore_77 : decode cX6_restore 77 = .ok (.iload_n 1, 1) := dk_27 (dk_at dksX6_restore_3 6 rfl rfl)
theorem dX6_restore_78 : decode cX6_restore 78 = .ok (.aload_n 0, 1) := dk_42 (dk_at dksX6_restore_3 7 rfl rfl)
theorem dX6_restore_79 : decode cX6_restore 79 = .ok (.getfield 143, 3) := dk_180 0 143 (dk_at dksX6_restore_3 8 rfl rfl)
theorem dX6_restore_82 : decode cX6_restore 82 = .ok (.iload_n 1, 1) := dk_27 (dk_at dksX6_restore_3 11 rfl rfl)
theorem dX6_restore_83 : decode cX6_restore 83 = .ok (.iaload, 1) := dk_46 (dk_at dksX6_restore_3 12 rfl rfl)
theorem dX6_restore_84 : decode cX6_restore 84 = .ok (.iastore, 1) := dk_79 (dk_at dksX6_restore_3 13 rfl rfl)
theorem dX6_restore_85 : decode cX6_restore 85 = .ok (.iinc 1 1, 3) := dk_132 1 1 (dk_at dksX6_restore_3 14 rfl rfl)
theorem dX6_restore_88 : decode cX6_restore 88 = .ok (.goto (-57), 3) := dk_167 255 199 (dk_at dksX6_restore_3 17 rfl rfl)
theorem dX6_restore_91 : decode cX6_restore 91 = .ok (.iconst 0, 1) := dk_3 (dk_at dksX6_restore_3 20 rfl rfl)
theorem dX6_restore_92 : decode cX6_restore 92 = .ok (.istore_n 1, 1) := dk_60 (dk_at dksX6_restore_3 21 rfl rfl)
theorem dX6_restore_93 : decode cX6_restore 93 = .ok (.iload_n 1, 1) := dk_27 (dk_at dksX6_restore_3 22 rfl rfl)
theorem dX6_restore_94 : decode cX6_restore 94 = .ok (.bipush 36, 2) := dk_16 36 (dk_at dksX6_restore_4 0 rfl rfl)
theorem dX6_restore_96 : decode cX6_restore 96 = .ok (.if_icmp .ge 21, 3) := dk_162 0 21 (dk_at dksX6_restore_4 2 rfl rfl)
theorem dX6_restore_99 : decode cX6_restore 99 = .ok (.aload_n 0, 1) := dk_42 (dk_at dksX6_restore_4 5 rfl rfl)
theorem dX6_restore_100 : decode cX6_restore 100 = .ok (.getfield 40, 3) := dk_180 0 40 (dk_at dksX6_restore_4 6 rfl rfl)
theorem dX6_restore_103 : decode cX6_restore 103 = .ok (.iload_n 1, 1) := dk_27 (dk_at dksX6_restore_4 9 rfl rfl)
theorem dX6_restore_104 : decode cX6_restore 104 = .ok (.aload_n 0, 1) := dk_42 (dk_at dksX6_restore_4 10 rfl rfl)
theorem dX6_restore_105 : decode cX6_restore 105 = .ok (.getfield 131, 3) := dk_180 0 131 (dk_at dksX6_restore_4 11 rfl rfl)
theorem dX6_restore_108 : decode cX6_restore 108 = .ok (.iload_n 1, 1) := dk_27 (dk_at dksX6_restore_4 14 rfl rfl)
theorem dX6_restore_109 : decode cX6_restore 109 = .ok (.iaload, 1) := dk_46 (dk_at dksX6_restore_4 15 rfl rfl)
theorem dX6_restore_110 : decode cX6_restore 110 = .ok (.iastore, 1) := dk_79 (dk_at dksX6_restore_4 16 rfl rfl)
theorem dX6_restore_111 : decode cX6_restore 111 = .ok (.iinc 1 1, 3) := dk_132 1 1 (dk_at dksX6_restore_4 17 rfl rfl)
theorem dX6_restore_114 : decode cX6_restore 114 = .ok (.goto (-21), 3) := dk_167 255 235 (dk_at dksX6_restore_4 20 rfl rfl)
theorem dX6_restore_117 : decode cX6_restore 117 = .ok (.iconst 0, 1) := dk_3 (dk_at dksX6_restore_4 23 rfl rfl)
theorem dX6_restore_118 : decode cX6_restore 118 = .ok (.istore_n 1, 1) := dk_60 (dk_at dksX6_restore_5 0 rfl rfl)
theorem dX6_restore_119 : decode cX6_restore 119 = .ok (.iload_n 1, 1) := dk_27 (dk_at dksX6_restore_5 1 rfl rfl)
theorem dX6_restore_120 : decode cX6_restore 120 = .ok (.iconst 4, 1) := dk_7 (dk_at dksX6_restore_5 2 rfl rfl)
theorem dX6_restore_121 : decode cX6_restore 121 = .ok (.if_icmp .ge 21, 3) := dk_162 0 21 (dk_at dksX6_restore_5 3 rfl rfl)
theorem dX6_restore_124 : decode cX6_restore 124 = .ok (.aload_n 0, 1) := dk_42 (dk_at dksX6_restore_5 6 rfl rfl)
theorem dX6_restore_125 : decode cX6_restore 125 = .ok (.getfield 43, 3) := dk_180 0 43 (dk_at dksX6_restore_5 7 rfl rfl)
theorem dX6_restore_128 : decode cX6_restore 128 = .ok (.iload_n 1, 1) := dk_27 (dk_at dksX6_restore_5 10 rfl rfl)
theorem dX6_restore_129 : decode cX6_restore 129 = .ok (.aload_n 0, 1) := dk_42 (dk_at dksX6_restore_5 11 rfl rfl)
theorem dX6_restore_130 : decode cX6_restore 130 = .ok (.getfield 134, 3) := dk_180 0 134 (dk_at dksX6_restore_5 12 rfl rfl)
theorem dX6_restore_133 : decode cX6_restore 133 = .ok (.iload_n 1, 1) := dk_27 (dk_at dksX6_restore_5 15 rfl rfl)
theorem dX6_restore_134 : decode cX6_restore 134 = .ok (.iaload, 1) := dk_46 (dk_at dksX6_restore_5 16 rfl rfl)
theorem dX6_restore_135 : decode cX6_restore 135 = .ok (.iastore, 1) := dk_79 (dk_at dksX6_restore_5 17 rfl rfl)
theorem dX6_restore_136 : decode cX6_restore 136 = .ok (.iinc 1 1, 3) := dk_132 1 1 (dk_at dksX6_restore_5 18 rfl rfl)
theorem dX6_restore_139 : decode cX6_restore 139 = .ok (.goto (-20), 3) := dk_167 255 236 (dk_at dksX6_restore_5 21 rfl rfl)
theorem dX6_restore_142 : decode cX6_restore 142 = .ok (.aload_n 0, 1) := dk_42 (dk_at dksX6_restore_6 0 rfl rfl)
theorem dX6_restore_143 : decode cX6_restore 143 = .ok (.invokevirtual 420, 3) := dk_182 1 164 (dk_at dksX6_restore_6 1 rfl rfl)
theorem dX6_restore_146 : decode cX6_restore 146 = .ok (.ireturn, 1) := dk_172 (dk_at dksX6_restore_6 4 rfl rfl)
abbrev cX6_count : ByteArray := prog_13_method_96_code
def yX6_count : MethodName := ⟨RX6, "count", "(I)I"⟩
def dkwX6_count_0 : List UInt8 := [42, 27, 182, 1, 182, 172]
abbrev dktX6_count_0 : List UInt8 := dkwX6_count_0 ++ []
theorem dksX6_count_0 : cX6_count.data.toList.drop 0 = dktX6_count_0 := by decide +kernel
theorem dX6_count_0 : decode cX6_count 0 = .ok (.aload_n 0, 1) := dk_42 (dk_at dksX6_count_0 0 rfl rfl)
theorem dX6_count_1 : decode cX6_count 1 = .ok (.iload_n 1, 1) := dk_27 (dk_at dksX6_count_0 1 rfl rfl)
theorem dX6_count_2 : decode cX6_count 2 = .ok (.invokevirtual 438, 3) := dk_182 1 182 (dk_at dksX6_count_0 2 rfl rfl)
theorem dX6_count_5 : decode cX6_count 5 = .ok (.ireturn, 1) := dk_172 (dk_at dksX6_count_0 5 rfl rfl)
abbrev cX6_howMany : ByteArray := prog_13_method_95_code
def yX6_howMany : MethodName := ⟨RX6, "howMany", "(I)I"⟩
def dkwX6_howMany_4 : List UInt8 := [42, 180, 0, 227, 172, 16, 154, 172]
abbrev dktX6_howMany_4 : List UInt8 := dkwX6_howMany_4 ++ []
def dkwX6_howMany_3 : List UInt8 := [182, 1, 176, 172, 42, 182, 1, 164, 172, 42, 182, 1, 179, 172, 42, 180, 0, 230, 172, 42, 180, 0, 150, 172]
abbrev dktX6_howMany_3 : List UInt8 := dkwX6_howMany_3 ++ dktX6_howMany_4
def dkwX6_howMany_2 : List UInt8 := [42, 180, 0, 211, 172, 42, 180, 0, 217, 172, 42, 182, 1, 170, 172, 42, 27, 6, 100, 182, 1, 173, 172, 42]
abbrev dktX6_howMany_2 : List UInt8 := dkwX6_howMany_2 ++ dktX6_howMany_3
def dkwX6_howMany_1 : List UInt8 := [170, 0, 0, 0, 0, 0, 112, 0, 0, 0, 0, 0, 0, 0, 10, 0, 0, 0, 59, 0, 0, 0, 64, 0, 0, 0, 69, 0, 0, 0, 74, 0, 0, 0, 74, 0, 0, 0, 82, 0, 0, 0, 87, 0, 0, 0, 92, 0, 0, 0, 97, 0, 0, 0, 102, 0, 0, 0, 107]
abbrev dktX6_howMany_1 : List UInt8 := dkwX6_howMany_1 ++ dktX6_howMany_2
def dkwX6_howMany_0 : List UInt8 := [27]
abbrev dktX6_howMany_0 : List UInt8 := dkwX6_howMany_0 ++ dktX6_howMany_1
theorem dksX6_howMany_0 : cX6_howMany.data.toList.drop 0 = dktX6_howMany_0 := by decide +kernel
theorem dksX6_howMany_1 : cX6_howMany.data.toList.drop 1 = dktX6_howMany_1 := dk_seg dksX6_howMany_0 1 rfl rfl
theorem dksX6_howMany_2 : cX6_howMany.data.toList.drop 60 = dktX6_howMany_2 := dk_seg dksX6_howMany_1 59 rfl rfl
theorem dksX6_howMany_3 : cX6_howMany.data.toList.drop 84 = dktX6_howMany_3 := dk_seg dksX6_howMany_2 24 rfl rfl
theorem dksX6_howMany_4 : cX6_howMany.data.toList.drop 108 = dktX6_howMany_4 := dk_seg dksX6_howMany_3 24 rfl rfl
theorem dX6_howMany_0 : decode cX6_howMany 0 = .ok (.iload_n 1, 1) := dk_27 (dk_at dksX6_howMany_0 0 rfl rfl)
theorem dX6_howMany_1 : decode cX6_howMany 1 = .ok (.tableswitch 112 0 10 #[59, 64, 69, 74, 74, 82, 87, 92, 97, 102, 107], 59) := by decide +kernel
theorem dX6_howMany_60 : decode cX6_howMany 60 = .ok (.aload_n 0, 1) := dk_42 (dk_at dksX6_howMany_2 0 rfl rfl)
theorem dX6_howMany_61 : decode cX6_howMany 61 = .ok (.getfield 211, 3) := dk_180 0 211 (dk_at dksX6_howMany_2 1 rfl rfl)
theorem dX6_howMany_64 : decode cX6_howMany 64 = .ok (.ireturn, 1) := dk_172 (dk_at dksX6_howMany_2 4 rfl rfl)
theorem dX6_howMany_65 : decode cX6_howMany 65 = .ok (.aload_n 0, 1) := dk_42 (dk_at dksX6_howMany_2 5 rfl rfl)
theorem dX6_howMany_66 : decode cX6_howMany 66 = .ok (.getfield 217, 3) := dk_180 0 217 (dk_at dksX6_howMany_2 6 rfl rfl)
theorem dX6_howMany_69 : decode cX6_howMany 69 = .ok (.ireturn, 1) := dk_172 (dk_at dksX6_howMany_2 9 rfl rfl)
theorem dX6_howMany_70 : decode cX6_howMany 70 = .ok (.aload_n 0, 1) := dk_42 (dk_at dksX6_howMany_2 10 rfl rfl)
theorem dX6_howMany_71 : decode cX6_howMany 71 = .ok (.invokevirtual 426, 3) := dk_182 1 170 (dk_at dksX6_howMany_2 11 rfl rfl)
theorem dX6_howMany_74 : decode cX6_howMany 74 = .ok (.ireturn, 1) := dk_172 (dk_at dksX6_howMany_2 14 rfl rfl)
theorem dX6_howMany_75 : decode cX6_howMany 75 = .ok (.aload_n 0, 1) := dk_42 (dk_at dksX6_howMany_2 15 rfl rfl)
theorem dX6_howMany_76 : decode cX6_howMany 76 = .ok (.iload_n 1, 1) := dk_27 (dk_at dksX6_howMany_2 16 rfl rfl)
theorem dX6_howMany_77 : decode cX6_howMany 77 = .ok (.iconst 3, 1) := dk_6 (dk_at dksX6_howMany_2 17 rfl rfl)
theorem dX6_howMany_78 : decode cX6_howMany 78 = .ok (.isub, 1) := dk_100 (dk_at dksX6_howMany_2 18 rfl rfl)
theorem dX6_howMany_79 : decode cX6_howMany 79 = .ok (.invokevirtual 429, 3) := dk_182 1 173 (dk_at dksX6_howMany_2 19 rfl rfl)
theorem dX6_howMany_82 : decode cX6_howMany 82 = .ok (.ireturn, 1) := dk_172 (dk_at dksX6_howMany_2 22 rfl rfl)
theorem dX6_howMany_83 : decode cX6_howMany 83 = .ok (.aload_n 0, 1) := dk_42 (dk_at dksX6_howMany_2 23 rfl rfl)
theorem dX6_howMany_84 : decode cX6_howMany 84 = .ok (.invokevirtual 432, 3) := dk_182 1 176 (dk_at dksX6_howMany_3 0 rfl rfl)
theorem dX6_howMany_87 : decode cX6_howMany 87 = .ok (.ireturn, 1) := dk_172 (dk_at dksX6_howMany_3 3 rfl rfl)
theorem dX6_howMany_88 : decode cX6_howMany 88 = .ok (.aload_n 0, 1) := dk_42 (dk_at dksX6_howMany_3 4 rfl rfl)
theorem dX6_howMany_89 : decode cX6_howMany 89 = .ok (.invokevirtual 420, 3) := dk_182 1 164 (dk_at dksX6_howMany_3 5 rfl rfl)
theorem dX6_howMany_92 : decode cX6_howMany 92 = .ok (.ireturn, 1) := dk_172 (dk_at dksX6_howMany_3 8 rfl rfl)
theorem dX6_howMany_93 : decode cX6_howMany 93 = .ok (.aload_n 0, 1) := dk_42 (dk_at dksX6_howMany_3 9 rfl rfl)
theorem dX6_howMany_94 : decode cX6_howMany 94 = .ok (.invokevirtual 435, 3) := dk_182 1 179 (dk_at dksX6_howMany_3 10 rfl rfl)
theorem dX6_howMany_97 : decode cX6_howMany 97 = .ok (.ireturn, 1) := dk_172 (dk_at dksX6_howMany_3 13 rfl rfl)
theorem dX6_howMany_98 : decode cX6_howMany 98 = .ok (.aload_n 0, 1) := dk_42 (dk_at dksX6_howMany_3 14 rfl rfl)
theorem dX6_howMany_99 : decode cX6_howMany 99 = .ok (.getfield 230, 3) := dk_180 0 230 (dk_at dksX6_howMany_3 15 rfl rfl)
theorem dX6_howMany_102 : decode cX6_howMany 102 = .ok (.ireturn, 1) := dk_172 (dk_at dksX6_howMany_3 18 rfl rfl)
theorem dX6_howMany_103 : decode cX6_howMany 103 = .ok (.aload_n 0, 1) := dk_42 (dk_at dksX6_howMany_3 19 rfl rfl)
theorem dX6_howMany_104 : decode cX6_howMany 104 = .ok (.getfield 150, 3) := dk_180 0 150 (dk_at dksX6_howMany_3 20 rfl rfl)
theorem dX6_howMany_107 : decode cX6_howMany 107 = .ok (.ireturn, 1) := dk_172 (dk_at dksX6_howMany_3 23 rfl rfl)
theorem dX6_howMany_108 : decode cX6_howMany 108 = .ok (.aload_n 0, 1) := dk_42 (dk_at dksX6_howMany_4 0 rfl rfl)
theorem dX6_howMany_109 : decode cX6_howMany 109 = .ok (.getfield 227, 3) := dk_180 0 227 (dk_at dksX6_howMany_4 1 rfl rfl)
theorem dX6_howMany_112 : decode cX6_howMany 112 = .ok (.ireturn, 1) := dk_172 (dk_at dksX6_howMany_4 4 rfl rfl)
theorem dX6_howMany_113 : decode cX6_howMany 113 = .ok (.bipush (-102), 2) := dk_16 154 (dk_at dksX6_howMany_4 5 rfl rfl)
theorem dX6_howMany_115 : decode cX6_howMany 115 = .ok (.ireturn, 1) := dk_172 (dk_at dksX6_howMany_4 7 rfl rfl)
abbrev cX6_unsound : ByteArray := prog_13_method_90_code
def yX6_unsound : MethodName := ⟨RX6, "unsound", "()I"⟩
def dkwX6_unsound_1 : List UInt8 := [167, 0, 4, 4, 96, 60, 132, 2, 1, 167, 255, 229, 27, 172]
abbrev dktX6_unsound_1 : List UInt8 := dkwX6_unsound_1 ++ []
def dkwX6_unsound_0 : List UInt8 := [3, 60, 3, 61, 28, 42, 180, 0, 217, 162, 0, 25, 27, 42, 28, 182, 0, 248, 153, 0, 7, 3]
abbrev dktX6_unsound_0 : List UInt8 := dkwX6_unsound_0 ++ dktX6_unsound_1
theorem dksX6_unsound_0 : cX6_unsound.data.toList.drop 0 = dktX6_unsound_0 := by decide +kernel
theorem dksX6_unsound_1 : cX6_unsound.data.toList.drop 22 = dktX6_unsound_1 := dk_seg dksX6_unsound_0 22 rfl rfl
theorem dX6_unsound_0 : decode cX6_unsound 0 = .ok (.iconst 0, 1) := dk_3 (dk_at dksX6_unsound_0 0 rfl rfl)
theorem dX6_unsound_1 : decode cX6_unsound 1 = .ok (.istore_n 1, 1) := dk_60 (dk_at dksX6_unsound_0 1 rfl rfl)
theorem dX6_unsound_2 : decode cX6_unsound 2 = .ok (.iconst 0, 1) := dk_3 (dk_at dksX6_unsound_0 2 rfl rfl)
theorem dX6_unsound_3 : decode cX6_unsound 3 = .ok (.istore_n 2, 1) := dk_61 (dk_at dksX6_unsound_0 3 rfl rfl)
theorem dX6_unsound_4 : decode cX6_unsound 4 = .ok (.iload_n 2, 1) := dk_28 (dk_at dksX6_unsound_0 4 rfl rfl)
theorem dX6_unsound_5 : decode cX6_unsound 5 = .ok (.aload_n 0, 1) := dk_42 (dk_at dksX6_unsound_0 5 rfl rfl)
theorem dX6_unsound_6 : decode cX6_unsound 6 = .ok (.getfield 217, 3) := dk_180 0 217 (dk_at dksX6_unsound_0 6 rfl rfl)
theorem dX6_unsound_9 : decode cX6_unsound 9 = .ok (.if_icmp .ge 25, 3) := dk_162 0 25 (dk_at dksX6_unsound_0 9 rfl rfl)
theorem dX6_unsound_12 : decode cX6_unsound 12 = .ok (.iload_n 1, 1) := dk_27 (dk_at dksX6_unsound_0 12 rfl rfl)
theorem dX6_unsound_13 : decode cX6_unsound 13 = .ok (.aload_n 0, 1) := dk_42 (dk_at dksX6_unsound_0 13 rfl rfl)
theorem dX6_unsound_14 : decode cX6_unsound 14 = .ok (.iload_n 2, 1) := dk_28 (dk_at dksX6_unsound_0 14 rfl rfl)
theorem dX6_unsound_15 : decode cX6_unsound 15 = .ok (.invokevirtual 248, 3) := dk_182 0 248 (dk_at dksX6_unsound_0 15 rfl rfl)
theorem dX6_unsound_18 : decode cX6_unsound 18 = .ok (.ifCond .eq 7, 3) := dk_153 0 7 (dk_at dksX6_unsound_0 18 rfl rfl)
theorem dX6_unsound_21 : decode cX6_unsound 21 = .ok (.iconst 0, 1) := dk_3 (dk_at dksX6_unsound_0 21 rfl rfl)
theorem dX6_unsound_22 : decode cX6_unsound 22 = .ok (.goto 4, 3) := dk_167 0 4 (dk_at dksX6_unsound_1 0 rfl rfl)
theorem dX6_unsound_25 : decode cX6_unsound 25 = .ok (.iconst 1, 1) := dk_4 (dk_at dksX6_unsound_1 3 rfl rfl)
theorem dX6_unsound_26 : decode cX6_unsound 26 = .ok (.iadd, 1) := dk_96 (dk_at dksX6_unsound_1 4 rfl rfl)
theorem dX6_unsound_27 : decode cX6_unsound 27 = .ok (.istore_n 1, 1) := dk_60 (dk_at dksX6_unsound_1 5 rfl rfl)
theorem dX6_unsound_28 : decode cX6_unsound 28 = .ok (.iinc 2 1, 3) := dk_132 2 1 (dk_at dksX6_unsound_1 6 rfl rfl)
theorem dX6_unsound_31 : decode cX6_unsound 31 = .ok (.goto (-27), 3) := dk_167 255 229 (dk_at dksX6_unsound_1 9 rfl rfl)
theorem dX6_unsound_34 : decode cX6_unsound 34 = .ok (.iload_n 1, 1) := dk_27 (dk_at dksX6_unsound_1 12 rfl rfl)
theorem dX6_unsound_35 : decode cX6_unsound 35 = .ok (.ireturn, 1) := dk_172 (dk_at dksX6_unsound_1 13 rfl rfl)
abbrev cX6_pairsOf : ByteArray := prog_13_method_91_code
def yX6_pairsOf : MethodName := ⟨RX6, "pairsOf", "(I)I"⟩
def dkwX6_pairsOf_2 : List UInt8 := [132, 3, 1, 167, 255, 211, 28, 172]
abbrev dktX6_pairsOf_2 : List UInt8 := dkwX6_pairsOf_2 ++ []
def dkwX6_pairsOf_1 : List UInt8 := [21, 4, 27, 182, 1, 102, 153, 0, 7, 4, 167, 0, 4, 3, 96, 61, 132, 4, 1, 167, 255, 228]
abbrev dktX6_pairsOf_1 : List UInt8 := dkwX6_pairsOf_1 ++ dktX6_pairsOf_2
def dkwX6_pairsOf_0 : List UInt8 := [3, 61, 3, 62, 29, 42, 180, 0, 217, 162, 0, 43, 3, 54, 4, 21, 4, 29, 162, 0, 28, 28, 42, 29]
abbrev dktX6_pairsOf_0 : List UInt8 := dkwX6_pairsOf_0 ++ dktX6_pairsOf_1
theorem dksX6_pairsOf_0 : cX6_pairsOf.data.toList.drop 0 = dktX6_pairsOf_0 := by decide +kernel
theorem dksX6_pairsOf_1 : cX6_pairsOf.data.toList.drop 24 = dktX6_pairsOf_1 := dk_seg dksX6_pairsOf_0 24 rfl rfl
theorem dksX6_pairsOf_2 : cX6_pairsOf.data.toList.drop 46 = dktX6_pairsOf_2 := dk_seg dksX6_pairsOf_1 22 rfl rfl
theorem dX6_pairsOf_0 : decode cX6_pairsOf 0 = .ok (.iconst 0, 1) := dk_3 (dk_at dksX6_pairsOf_0 0 rfl rfl)
theorem dX6_pairsOf_1 : decode cX6_pairsOf 1 = .ok (.istore_n 2, 1) := dk_61 (dk_at dksX6_pairsOf_0 1 rfl rfl)
theorem dX6_pairsOf_2 : decode cX6_pairsOf 2 = .ok (.iconst 0, 1) := dk_3 (dk_at dksX6_pairsOf_0 2 rfl rfl)
theorem dX6_pairsOf_3 : decode cX6_pairsOf 3 = .ok (.istore_n 3, 1) := dk_62 (dk_at dksX6_pairsOf_0 3 rfl rfl)
theorem dX6_pairsOf_4 : decode cX6_pairsOf 4 = .ok (.iload_n 3, 1) := dk_29 (dk_at dksX6_pairsOf_0 4 rfl rfl)
theorem dX6_pairsOf_5 : decode cX6_pairsOf 5 = .ok (.aload_n 0, 1) := dk_42 (dk_at dksX6_pairsOf_0 5 rfl rfl)
theorem dX6_pairsOf_6 : decode cX6_pairsOf 6 = .ok (.getfield 217, 3) := dk_180 0 217 (dk_at dksX6_pairsOf_0 6 rfl rfl)
theorem dX6_pairsOf_9 : decode cX6_pairsOf 9 = .ok (.if_icmp .ge 43, 3) := dk_162 0 43 (dk_at dksX6_pairsOf_0 9 rfl rfl)
theorem dX6_pairsOf_12 : decode cX6_pairsOf 12 = .ok (.iconst 0, 1) := dk_3 (dk_at dksX6_pairsOf_0 12 rfl rfl)
theorem dX6_pairsOf_13 : decode cX6_pairsOf 13 = .ok (.istore 4, 2) := dk_54 4 (dk_at dksX6_pairsOf_0 13 rfl rfl)
theorem dX6_pairsOf_15 : decode cX6_pairsOf 15 = .ok (.iload 4, 2) := dk_21 4 (dk_at dksX6_pairsOf_0 15 rfl rfl)
theorem dX6_pairsOf_17 : decode cX6_pairsOf 17 = .ok (.iload_n 3, 1) := dk_29 (dk_at dksX6_pairsOf_0 17 rfl rfl)
theorem dX6_pairsOf_18 : decode cX6_pairsOf 18 = .ok (.if_icmp .ge 28, 3) := dk_162 0 28 (dk_at dksX6_pairsOf_0 18 rfl rfl)
theorem dX6_pairsOf_21 : decode cX6_pairsOf 21 = .ok (.iload_n 2, 1) := dk_28 (dk_at dksX6_pairsOf_0 21 rfl rfl)
theorem dX6_pairsOf_22 : decode cX6_pairsOf 22 = .ok (.aload_n 0, 1) := dk_42 (dk_at dksX6_pairsOf_0 22 rfl rfl)
theorem dX6_pairsOf_23 : decode cX6_pairsOf 23 = .ok (.iload_n 3, 1) := dk_29 (dk_at dksX6_pairsOf_0 23 rfl rfl)
theorem dX6_pairsOf_24 : decode cX6_pairsOf 24 = .ok (.iload 4, 2) := dk_21 4 (dk_at dksX6_pairsOf_1 0 rfl rfl)
theorem dX6_pairsOf_26 : decode cX6_pairsOf 26 = .ok (.iload_n 1, 1) := dk_27 (dk_at dksX6_pairsOf_1 2 rfl rfl)
theorem dX6_pairsOf_27 : decode cX6_pairsOf 27 = .ok (.invokevirtual 358, 3) := dk_182 1 102 (dk_at dksX6_pairsOf_1 3 rfl rfl)
theorem dX6_pairsOf_30 : decode cX6_pairsOf 30 = .ok (.ifCond .eq 7, 3) := dk_153 0 7 (dk_at dksX6_pairsOf_1 6 rfl rfl)
theorem dX6_pairsOf_33 : decode cX6_pairsOf 33 = .ok (.iconst 1, 1) := dk_4 (dk_at dksX6_pairsOf_1 9 rfl rfl)
theorem dX6_pairsOf_34 : decode cX6_pairsOf 34 = .ok (.goto 4, 3) := dk_167 0 4 (dk_at dksX6_pairsOf_1 10 rfl rfl)
theorem dX6_pairsOf_37 : decode cX6_pairsOf 37 = .ok (.iconst 0, 1) := dk_3 (dk_at dksX6_pairsOf_1 13 rfl rfl)
theorem dX6_pairsOf_38 : decode cX6_pairsOf 38 = .ok (.iadd, 1) := dk_96 (dk_at dksX6_pairsOf_1 14 rfl rfl)
theorem dX6_pairsOf_39 : decode cX6_pairsOf 39 = .ok (.istore_n 2, 1) := dk_61 (dk_at dksX6_pairsOf_1 15 rfl rfl)
theorem dX6_pairsOf_40 : decode cX6_pairsOf 40 = .ok (.iinc 4 1, 3) := dk_132 4 1 (dk_at dksX6_pairsOf_1 16 rfl rfl)
theorem dX6_pairsOf_43 : decode cX6_pairsOf 43 = .ok (.goto (-28), 3) := dk_167 255 228 (dk_at dksX6_pairsOf_1 19 rfl rfl)
theorem dX6_pairsOf_46 : decode cX6_pairsOf 46 = .ok (.iinc 3 1, 3) := dk_132 3 1 (dk_at dksX6_pairsOf_2 0 rfl rfl)
theorem dX6_pairsOf_49 : decode cX6_pairsOf 49 = .ok (.goto (-45), 3) := dk_167 255 211 (dk_at dksX6_pairsOf_2 3 rfl rfl)
theorem dX6_pairsOf_52 : decode cX6_pairsOf 52 = .ok (.iload_n 2, 1) := dk_28 (dk_at dksX6_pairsOf_2 6 rfl rfl)
theorem dX6_pairsOf_53 : decode cX6_pairsOf 53 = .ok (.ireturn, 1) := dk_172 (dk_at dksX6_pairsOf_2 7 rfl rfl)
abbrev cX6_lacksOfAll : ByteArray := prog_13_method_92_code
def yX6_lacksOfAll : MethodName := ⟨RX6, "lacksOfAll", "()I"⟩
def dkwX6_lacksOfAll_1 : List UInt8 := [132, 2, 1, 167, 255, 234, 27, 172]
abbrev dktX6_lacksOfAll_1 : List UInt8 := dkwX6_lacksOfAll_1 ++ []
def dkwX6_lacksOfAll_0 : List UInt8 := [3, 60, 3, 61, 28, 42, 180, 0, 217, 162, 0, 20, 27, 42, 28, 182, 1, 51, 184, 0, 254, 96, 60]
abbrev dktX6_lacksOfAll_0 : List UInt8 := dkwX6_lacksOfAll_0 ++ dktX6_lacksOfAll_1
theorem dksX6_lacksOfAll_0 : cX6_lacksOfAll.data.toList.drop 0 = dktX6_lacksOfAll_0 := by decide +kernel
theorem dksX6_lacksOfAll_1 : cX6_lacksOfAll.data.toList.drop 23 = dktX6_lacksOfAll_1 := dk_seg dksX6_lacksOfAll_0 23 rfl rfl
theorem dX6_lacksOfAll_0 : decode cX6_lacksOfAll 0 = .ok (.iconst 0, 1) := dk_3 (dk_at dksX6_lacksOfAll_0 0 rfl rfl)
theorem dX6_lacksOfAll_1 : decode cX6_lacksOfAll 1 = .ok (.istore_n 1, 1) := dk_60 (dk_at dksX6_lacksOfAll_0 1 rfl rfl)
theorem dX6_lacksOfAll_2 : decode cX6_lacksOfAll 2 = .ok (.iconst 0, 1) := dk_3 (dk_at dksX6_lacksOfAll_0 2 rfl rfl)
theorem dX6_lacksOfAll_3 : decode cX6_lacksOfAll 3 = .ok (.istore_n 2, 1) := dk_61 (dk_at dksX6_lacksOfAll_0 3 rfl rfl)
theorem dX6_lacksOfAll_4 : decode cX6_lacksOfAll 4 = .ok (.iload_n 2, 1) := dk_28 (dk_at dksX6_lacksOfAll_0 4 rfl rfl)
theorem dX6_lacksOfAll_5 : decode cX6_lacksOfAll 5 = .ok (.aload_n 0, 1) := dk_42 (dk_at dksX6_lacksOfAll_0 5 rfl rfl)
theorem dX6_lacksOfAll_6 : decode cX6_lacksOfAll 6 = .ok (.getfield 217, 3) := dk_180 0 217 (dk_at dksX6_lacksOfAll_0 6 rfl rfl)
theorem dX6_lacksOfAll_9 : decode cX6_lacksOfAll 9 = .ok (.if_icmp .ge 20, 3) := dk_162 0 20 (dk_at dksX6_lacksOfAll_0 9 rfl rfl)
theorem dX6_lacksOfAll_12 : decode cX6_lacksOfAll 12 = .ok (.iload_n 1, 1) := dk_27 (dk_at dksX6_lacksOfAll_0 12 rfl rfl)
theorem dX6_lacksOfAll_13 : decode cX6_lacksOfAll 13 = .ok (.aload_n 0, 1) := dk_42 (dk_at dksX6_lacksOfAll_0 13 rfl rfl)
theorem dX6_lacksOfAll_14 : decode cX6_lacksOfAll 14 = .ok (.iload_n 2, 1) := dk_28 (dk_at dksX6_lacksOfAll_0 14 rfl rfl)
theorem dX6_lacksOfAll_15 : decode cX6_lacksOfAll 15 = .ok (.invokevirtual 307, 3) := dk_182 1 51 (dk_at dksX6_lacksOfAll_0 15 rfl rfl)
theorem dX6_lacksOfAll_18 : decode cX6_lacksOfAll 18 = .ok (.invokestatic 254, 3) := dk_184 0 254 (dk_at dksX6_lacksOfAll_0 18 rfl rfl)
theorem dX6_lacksOfAll_21 : decode cX6_lacksOfAll 21 = .ok (.iadd, 1) := dk_96 (dk_at dksX6_lacksOfAll_0 21 rfl rfl)
theorem dX6_lacksOfAll_22 : decode cX6_lacksOfAll 22 = .ok (.istore_n 1, 1) := dk_60 (dk_at dksX6_lacksOfAll_0 22 rfl rfl)
theorem dX6_lacksOfAll_23 : decode cX6_lacksOfAll 23 = .ok (.iinc 2 1, 3) := dk_132 2 1 (dk_at dksX6_lacksOfAll_1 0 rfl rfl)
theorem dX6_lacksOfAll_26 : decode cX6_lacksOfAll 26 = .ok (.goto (-22), 3) := dk_167 255 234 (dk_at dksX6_lacksOfAll_1 3 rfl rfl)
theorem dX6_lacksOfAll_29 : decode cX6_lacksOfAll 29 = .ok (.iload_n 1, 1) := dk_27 (dk_at dksX6_lacksOfAll_1 6 rfl rfl)
theorem dX6_lacksOfAll_30 : decode cX6_lacksOfAll 30 = .ok (.ireturn, 1) := dk_172 (dk_at dksX6_lacksOfAll_1 7 rfl rfl)
abbrev cX6_differentTypes : ByteArray := prog_13_method_94_code
def yX6_differentTypes : MethodName := ⟨RX6, "differentTypes", "()I"⟩
def dkwX6_differentTypes_3 : List UInt8 := [132, 2, 1, 167, 255, 186, 27, 172]
abbrev dktX6_differentTypes_3 : List UInt8 := dkwX6_differentTypes_3 ++ []
def dkwX6_differentTypes_2 : List UInt8 := [167, 0, 4, 3, 62, 132, 4, 1, 167, 255, 227, 27, 29, 153, 0, 7, 4, 167, 0, 4, 3, 96, 60]
abbrev dktX6_differentTypes_2 : List UInt8 := dkwX6_differentTypes_2 ++ dktX6_differentTypes_3
def dkwX6_differentTypes_1 : List UInt8 := [3, 54, 4, 21, 4, 28, 162, 0, 29, 29, 153, 0, 17, 42, 28, 21, 4, 182, 1, 167, 154, 0, 7, 4]
abbrev dktX6_differentTypes_1 : List UInt8 := dkwX6_differentTypes_1 ++ dktX6_differentTypes_2
def dkwX6_differentTypes_0 : List UInt8 := [3, 60, 3, 61, 28, 7, 162, 0, 71, 42, 180, 0, 43, 28, 46, 158, 0, 7, 4, 167, 0, 4, 3, 62]
abbrev dktX6_differentTypes_0 : List UInt8 := dkwX6_differentTypes_0 ++ dktX6_differentTypes_1
theorem dksX6_differentTypes_0 : cX6_differentTypes.data.toList.drop 0 = dktX6_differentTypes_0 := by decide +kernel
theorem dksX6_differentTypes_1 : cX6_differentTypes.data.toList.drop 24 = dktX6_differentTypes_1 := dk_seg dksX6_differentTypes_0 24 rfl rfl
theorem dksX6_differentTypes_2 : cX6_differentTypes.data.toList.drop 48 = dktX6_differentTypes_2 := dk_seg dksX6_differentTypes_1 24 rfl rfl
theorem dksX6_differentTypes_3 : cX6_differentTypes.data.toList.drop 71 = dktX6_differentTypes_3 := dk_seg dksX6_differentTypes_2 23 rfl rfl
theorem dX6_differentTypes_0 : decode cX6_differentTypes 0 = .ok (.iconst 0, 1) := dk_3 (dk_at dksX6_differentTypes_0 0 rfl rfl)
theorem dX6_differentTypes_1 : decode cX6_differentTypes 1 = .ok (.istore_n 1, 1) := dk_60 (dk_at dksX6_differentTypes_0 1 rfl rfl)
theorem dX6_differentTypes_2 : decode cX6_differentTypes 2 = .ok (.iconst 0, 1) := dk_3 (dk_at dksX6_differentTypes_0 2 rfl rfl)
theorem dX6_differentTypes_3 : decode cX6_differentTypes 3 = .ok (.istore_n 2, 1) := dk_61 (dk_at dksX6_differentTypes_0 3 rfl rfl)
theorem dX6_differentTypes_4 : decode cX6_differentTypes 4 = .ok (.iload_n 2, 1) := dk_28 (dk_at dksX6_differentTypes_0 4 rfl rfl)
theorem dX6_differentTypes_5 : decode cX6_differentTypes 5 = .ok (.iconst 4, 1) := dk_7 (dk_at dksX6_differentTypes_0 5 rfl rfl)
theorem dX6_differentTypes_6 : decode cX6_differentTypes 6 = .ok (.if_icmp .ge 71, 3) := dk_162 0 71 (dk_at dksX6_differentTypes_0 6 rfl rfl)
theorem dX6_differentTypes_9 : decode cX6_differentTypes 9 = .ok (.aload_n 0, 1) := dk_42 (dk_at dksX6_differentTypes_0 9 rfl rfl)
theorem dX6_differentTypes_10 : decode cX6_differentTypes 10 = .ok (.getfield 43, 3) := dk_180 0 43 (dk_at dksX6_differentTypes_0 10 rfl rfl)
theorem dX6_differentTypes_13 : decode cX6_differentTypes 13 = .ok (.iload_n 2, 1) := dk_28 (dk_at dksX6_differentTypes_0 13 rfl rfl)
theorem dX6_differentTypes_14 : decode cX6_differentTypes 14 = .ok (.iaload, 1) := dk_46 (dk_at dksX6_differentTypes_0 14 rfl rfl)
theorem dX6_differentTypes_15 : decode cX6_differentTypes 15 = .ok (.ifCond .le 7, 3) := dk_158 0 7 (dk_at dksX6_differentTypes_0 15 rfl rfl)
theorem dX6_differentTypes_18 : decode cX6_differentTypes 18 = .ok (.iconst 1, 1) := dk_4 (dk_at dksX6_differentTypes_0 18 rfl rfl)
theorem dX6_differentTypes_19 : decode cX6_differentTypes 19 = .ok (.goto 4, 3) := dk_167 0 4 (dk_at dksX6_differentTypes_0 19 rfl rfl)
theorem dX6_differentTypes_22 : decode cX6_differentTypes 22 = .ok (.iconst 0, 1) := dk_3 (dk_at dksX6_differentTypes_0 22 rfl rfl)
theorem dX6_differentTypes_23 : decode cX6_differentTypes 23 = .ok (.istore_n 3, 1) := dk_62 (dk_at dksX6_differentTypes_0 23 rfl rfl)
theorem dX6_differentTypes_24 : decode cX6_differentTypes 24 = .ok (.iconst 0, 1) := dk_3 (dk_at dksX6_differentTypes_1 0 rfl rfl)
theorem dX6_differentTypes_25 : decode cX6_differentTypes 25 = .ok (.istore 4, 2) := dk_54 4 (dk_at dksX6_differentTypes_1 1 rfl rfl)
theorem dX6_differentTypes_27 : decode cX6_differentTypes 27 = .ok (.iload 4, 2) := dk_21 4 (dk_at dksX6_differentTypes_1 3 rfl rfl)
theorem dX6_differentTypes_29 : decode cX6_differentTypes 29 = .ok (.iload_n 2, 1) := dk_28 (dk_at dksX6_differentTypes_1 5 rfl rfl)
theorem dX6_differentTypes_30 : decode cX6_differentTypes 30 = .ok (.if_icmp .ge 29, 3) := dk_162 0 29 (dk_at dksX6_differentTypes_1 6 rfl rfl)
theorem dX6_differentTypes_33 : decode cX6_differentTypes 33 = .ok (.iload_n 3, 1) := dk_29 (dk_at dksX6_differentTypes_1 9 rfl rfl)
theorem dX6_differentTypes_34 : decode cX6_differentTypes 34 = .ok (.ifCond .eq 17, 3) := dk_153 0 17 (dk_at dksX6_differentTypes_1 10 rfl rfl)
theorem dX6_differentTypes_37 : decode cX6_differentTypes 37 = .ok (.aload_n 0, 1) := dk_42 (dk_at dksX6_differentTypes_1 13 rfl rfl)
theorem dX6_differentTypes_38 : decode cX6_differentTypes 38 = .ok (.iload_n 2, 1) := dk_28 (dk_at dksX6_differentTypes_1 14 rfl rfl)
theorem dX6_differentTypes_39 : decode cX6_differentTypes 39 = .ok (.iload 4, 2) := dk_21 4 (dk_at dksX6_differentTypes_1 15 rfl rfl)
theorem dX6_differentTypes_41 : decode cX6_differentTypes 41 = .ok (.invokevirtual 423, 3) := dk_182 1 167 (dk_at dksX6_differentTypes_1 17 rfl rfl)
theorem dX6_differentTypes_44 : decode cX6_differentTypes 44 = .ok (.ifCond .ne 7, 3) := dk_154 0 7 (dk_at dksX6_differentTypes_1 20 rfl rfl)
theorem dX6_differentTypes_47 : decode cX6_differentTypes 47 = .ok (.iconst 1, 1) := dk_4 (dk_at dksX6_differentTypes_1 23 rfl rfl)
theorem dX6_differentTypes_48 : decode cX6_differentTypes 48 = .ok (.goto 4, 3) := dk_167 0 4 (dk_at dksX6_differentTypes_2 0 rfl rfl)
theorem dX6_differentTypes_51 : decode cX6_differentTypes 51 = .ok (.iconst 0, 1) := dk_3 (dk_at dksX6_differentTypes_2 3 rfl rfl)
theorem dX6_differentTypes_52 : decode cX6_differentTypes 52 = .ok (.istore_n 3, 1) := dk_62 (dk_at dksX6_differentTypes_2 4 rfl rfl)
theorem dX6_differentTypes_53 : decode cX6_differentTypes 53 = .ok (.iinc 4 1, 3) := dk_132 4 1 (dk_at dksX6_differentTypes_2 5 rfl rfl)
theorem dX6_differentTypes_56 : decode cX6_differentTypes 56 = .ok (.goto (-29), 3) := dk_167 255 227 (dk_at dksX6_differentTypes_2 8 rfl rfl)
theorem dX6_differentTypes_59 : decode cX6_differentTypes 59 = .ok (.iload_n 1, 1) := dk_27 (dk_at dksX6_differentTypes_2 11 rfl rfl)
theorem dX6_differentTypes_60 : decode cX6_differentTypes 60 = .ok (.iload_n 3, 1) := dk_29 (dk_at dksX6_differentTypes_2 12 rfl rfl)
theorem dX6_differentTypes_61 : decode cX6_differentTypes 61 = .ok (.ifCond .eq 7, 3) := dk_153 0 7 (dk_at dksX6_differentTypes_2 13 rfl rfl)
theorem dX6_differentTypes_64 : decode cX6_differentTypes 64 = .ok (.iconst 1, 1) := dk_4 (dk_at dksX6_differentTypes_2 16 rfl rfl)
theorem dX6_differentTypes_65 : decode cX6_differentTypes 65 = .ok (.goto 4, 3) := dk_167 0 4 (dk_at dksX6_differentTypes_2 17 rfl rfl)
theorem dX6_differentTypes_68 : decode cX6_differentTypes 68 = .ok (.iconst 0, 1) := dk_3 (dk_at dksX6_differentTypes_2 20 rfl rfl)
theorem dX6_differentTypes_69 : decode cX6_differentTypes 69 = .ok (.iadd, 1) := dk_96 (dk_at dksX6_differentTypes_2 21 rfl rfl)
theorem dX6_differentTypes_70 : decode cX6_differentTypes 70 = .ok (.istore_n 1, 1) := dk_60 (dk_at dksX6_differentTypes_2 22 rfl rfl)
theorem dX6_differentTypes_71 : decode cX6_differentTypes 71 = .ok (.iinc 2 1, 3) := dk_132 2 1 (dk_at dksX6_differentTypes_3 0 rfl rfl)
theorem dX6_differentTypes_74 : decode cX6_differentTypes 74 = .ok (.goto (-70), 3) := dk_167 255 186 (dk_at dksX6_differentTypes_3 3 rfl rfl)
theorem dX6_differentTypes_77 : decode cX6_differentTypes 77 = .ok (.iload_n 1, 1) := dk_27 (dk_at dksX6_differentTypes_3 6 rfl rfl)
theorem dX6_differentTypes_78 : decode cX6_differentTypes 78 = .ok (.ireturn, 1) := dk_172 (dk_at dksX6_differentTypes_3 7 rfl rfl)
abbrev cX6_isSlotLike : ByteArray := prog_13_method_93_code
def yX6_isSlotLike : MethodName := ⟨RX6, "isSlotLike", "(II)Z"⟩
def dkwX6_isSlotLike_3 : List UInt8 := [62, 132, 4, 1, 167, 255, 205, 29, 172]
abbrev dktX6_isSlotLike_3 : List UInt8 := dkwX6_isSlotLike_3 ++ []
def dkwX6_isSlotLike_2 : List UInt8 := [21, 4, 96, 46, 42, 180, 0, 40, 16, 9, 28, 104, 21, 4, 96, 46, 160, 0, 7, 4, 167, 0, 4, 3]
abbrev dktX6_isSlotLike_2 : List UInt8 := dkwX6_isSlotLike_2 ++ dktX6_isSlotLike_3
def dkwX6_isSlotLike_1 : List UInt8 := [21, 4, 42, 180, 0, 43, 27, 46, 162, 0, 46, 29, 153, 0, 42, 42, 180, 0, 40, 16, 9, 27, 104]
abbrev dktX6_isSlotLike_1 : List UInt8 := dkwX6_isSlotLike_1 ++ dktX6_isSlotLike_2
def dkwX6_isSlotLike_0 : List UInt8 := [42, 180, 0, 43, 27, 46, 42, 180, 0, 43, 28, 46, 160, 0, 7, 4, 167, 0, 4, 3, 62, 3, 54, 4]
abbrev dktX6_isSlotLike_0 : List UInt8 := dkwX6_isSlotLike_0 ++ dktX6_isSlotLike_1
theorem dksX6_isSlotLike_0 : cX6_isSlotLike.data.toList.drop 0 = dktX6_isSlotLike_0 := by decide +kernel
theorem dksX6_isSlotLike_1 : cX6_isSlotLike.data.toList.drop 24 = dktX6_isSlotLike_1 := dk_seg dksX6_isSlotLike_0 24 rfl rfl
theorem dksX6_isSlotLike_2 : cX6_isSlotLike.data.toList.drop 47 = dktX6_isSlotLike_2 := dk_seg dksX6_isSlotLike_1 23 rfl rfl
theorem dksX6_isSlotLike_3 : cX6_isSlotLike.data.toList.drop 71 = dktX6_isSlotLike_3 := dk_seg dksX6_isSlotLike_2 24 rfl rfl
theorem dX6_isSlotLike_0 : decode cX6_isSlotLike 0 = .ok (.aload_n 0, 1) := dk_42 (dk_at dksX6_isSlotLike_0 0 rfl rfl)
theorem dX6_isSlotLike_1 : decode cX6_isSlotLike 1 = .ok (.getfield 43, 3) := dk_180 0 43 (dk_at dksX6_isSlotLike_0 1 rfl rfl)
theorem dX6_isSlotLike_4 : decode cX6_isSlotLike 4 = .ok (.iload_n 1, 1) := dk_27 (dk_at dksX6_isSlotLike_0 4 rfl rfl)
theorem dX6_isSlotLike_5 : decode cX6_isSlotLike 5 = .ok (.iaload, 1) := dk_46 (dk_at dksX6_isSlotLike_0 5 rfl rfl)
theorem dX6_isSlotLike_6 : decode cX6_isSlotLike 6 = .ok (.aload_n 0, 1) := dk_42 (dk_at dksX6_isSlotLike_0 6 rfl rfl)
theorem dX6_isSlotLike_7 : decode cX6_isSlotLike 7 = .ok (.getfield 43, 3) := dk_180 0 43 (dk_at dksX6_isSlotLike_0 7 rfl rfl)
theorem dX6_isSlotLike_10 : decode cX6_isSlotLike 10 = .ok (.iload_n 2, 1) := dk_28 (dk_at dksX6_isSlotLike_0 10 rfl rfl)
theorem dX6_isSlotLike_11 : decode cX6_isSlotLike 11 = .ok (.iaload, 1) := dk_46 (dk_at dksX6_isSlotLike_0 11 rfl rfl)
theorem dX6_isSlotLike_12 : decode cX6_isSlotLike 12 = .ok (.if_icmp .ne 7, 3) := dk_160 0 7 (dk_at dksX6_isSlotLike_0 12 rfl rfl)
theorem dX6_isSlotLike_15 : decode cX6_isSlotLike 15 = .ok (.iconst 1, 1) := dk_4 (dk_at dksX6_isSlotLike_0 15 rfl rfl)
theorem dX6_isSlotLike_16 : decode cX6_isSlotLike 16 = .ok (.goto 4, 3) := dk_167 0 4 (dk_at dksX6_isSlotLike_0 16 rfl rfl)
theorem dX6_isSlotLike_19 : decode cX6_isSlotLike 19 = .ok (.iconst 0, 1) := dk_3 (dk_at dksX6_isSlotLike_0 19 rfl rfl)
theorem dX6_isSlotLike_20 : decode cX6_isSlotLike 20 = .ok (.istore_n 3, 1) := dk_62 (dk_at dksX6_isSlotLike_0 20 rfl rfl)
theorem dX6_isSlotLike_21 : decode cX6_isSlotLike 21 = .ok (.iconst 0, 1) := dk_3 (dk_at dksX6_isSlotLike_0 21 rfl rfl)
theorem dX6_isSlotLike_22 : decode cX6_isSlotLike 22 = .ok (.istore 4, 2) := dk_54 4 (dk_at dksX6_isSlotLike_0 22 rfl rfl)
theorem dX6_isSlotLike_24 : decode cX6_isSlotLike 24 = .ok (.iload 4, 2) := dk_21 4 (dk_at dksX6_isSlotLike_1 0 rfl rfl)
theorem dX6_isSlotLike_26 : decode cX6_isSlotLike 26 = .ok (.aload_n 0, 1) := dk_42 (dk_at dksX6_isSlotLike_1 2 rfl rfl)
theorem dX6_isSlotLike_27 : decode cX6_isSlotLike 27 = .ok (.getfield 43, 3) := dk_180 0 43 (dk_at dksX6_isSlotLike_1 3 rfl rfl)
theorem dX6_isSlotLike_30 : decode cX6_isSlotLike 30 = .ok (.iload_n 1, 1) := dk_27 (dk_at dksX6_isSlotLike_1 6 rfl rfl)
theorem dX6_isSlotLike_31 : decode cX6_isSlotLike 31 = .ok (.iaload, 1) := dk_46 (dk_at dksX6_isSlotLike_1 7 rfl rfl)
theorem dX6_isSlotLike_32 : decode cX6_isSlotLike 32 = .ok (.if_icmp .ge 46, 3) := dk_162 0 46 (dk_at dksX6_isSlotLike_1 8 rfl rfl)
theorem dX6_isSlotLike_35 : decode cX6_isSlotLike 35 = .ok (.iload_n 3, 1) := dk_29 (dk_at dksX6_isSlotLike_1 11 rfl rfl)
theorem dX6_isSlotLike_36 : decode cX6_isSlotLike 36 = .ok (.ifCond .eq 42, 3) := dk_153 0 42 (dk_at dksX6_isSlotLike_1 12 rfl rfl)
theorem dX6_isSlotLike_39 : decode cX6_isSlotLike 39 = .ok (.aload_n 0, 1) := dk_42 (dk_at dksX6_isSlotLike_1 15 rfl rfl)
theorem dX6_isSlotLike_40 : decode cX6_isSlotLike 40 = .ok (.getfield 40, 3) := dk_180 0 40 (dk_at dksX6_isSlotLike_1 16 rfl rfl)
theorem dX6_isSlotLike_43 : decode cX6_isSlotLike 43 = .ok (.bipush 9, 2) := dk_16 9 (dk_at dksX6_isSlotLike_1 19 rfl rfl)
theorem dX6_isSlotLike_45 : decode cX6_isSlotLike 45 = .ok (.iload_n 1, 1) := dk_27 (dk_at dksX6_isSlotLike_1 21 rfl rfl)
theorem dX6_isSlotLike_46 : decode cX6_isSlotLike 46 = .ok (.imul, 1) := dk_104 (dk_at dksX6_isSlotLike_1 22 rfl rfl)
theorem dX6_isSlotLike_47 : decode cX6_isSlotLike 47 = .ok (.iload 4, 2) := dk_21 4 (dk_at dksX6_isSlotLike_2 0 rfl rfl)
theorem dX6_isSlotLike_49 : decode cX6_isSlotLike 49 = .ok (.iadd, 1) := dk_96 (dk_at dksX6_isSlotLike_2 2 rfl rfl)
theorem dX6_isSlotLike_50 : decode cX6_isSlotLike 50 = .ok (.iaload, 1) := dk_46 (dk_at dksX6_isSlotLike_2 3 rfl rfl)
theorem dX6_isSlotLike_51 : decode cX6_isSlotLike 51 = .ok (.aload_n 0, 1) := dk_42 (dk_at dksX6_isSlotLike_2 4 rfl rfl)
theorem dX6_isSlotLike_52 : decode cX6_isSlotLike 52 = .ok (.getfield 40, 3) := dk_180 0 40 (dk_at dksX6_isSlotLike_2 5 rfl rfl)
theorem dX6_isSlotLike_55 : decode cX6_isSlotLike 55 = .ok (.bipush 9, 2) := dk_16 9 (dk_at dksX6_isSlotLike_2 8 rfl rfl)
theorem dX6_isSlotLike_57 : decode cX6_isSlotLike 57 = .ok (.iload_n 2, 1) := dk_28 (dk_at dksX6_isSlotLike_2 10 rfl rfl)
theorem dX6_isSlotLike_58 : decode cX6_isSlotLike 58 = .ok (.imul, 1) := dk_104 (dk_at dksX6_isSlotLike_2 11 rfl rfl)
theorem dX6_isSlotLike_59 : decode cX6_isSlotLike 59 = .ok (.iload 4, 2) := dk_21 4 (dk_at dksX6_isSlotLike_2 12 rfl rfl)
theorem dX6_isSlotLike_61 : decode cX6_isSlotLike 61 = .ok (.iadd, 1) := dk_96 (dk_at dksX6_isSlotLike_2 14 rfl rfl)
theorem dX6_isSlotLike_62 : decode cX6_isSlotLike 62 = .ok (.iaload, 1) := dk_46 (dk_at dksX6_isSlotLike_2 15 rfl rfl)
theorem dX6_isSlotLike_63 : decode cX6_isSlotLike 63 = .ok (.if_icmp .ne 7, 3) := dk_160 0 7 (dk_at dksX6_isSlotLike_2 16 rfl rfl)
theorem dX6_isSlotLike_66 : decode cX6_isSlotLike 66 = .ok (.iconst 1, 1) := dk_4 (dk_at dksX6_isSlotLike_2 19 rfl rfl)
theorem dX6_isSlotLike_67 : decode cX6_isSlotLike 67 = .ok (.goto 4, 3) := dk_167 0 4 (dk_at dksX6_isSlotLike_2 20 rfl rfl)
theorem dX6_isSlotLike_70 : decode cX6_isSlotLike 70 = .ok (.iconst 0, 1) := dk_3 (dk_at dksX6_isSlotLike_2 23 rfl rfl)
theorem dX6_isSlotLike_71 : decode cX6_isSlotLike 71 = .ok (.istore_n 3, 1) := dk_62 (dk_at dksX6_isSlotLike_3 0 rfl rfl)
theorem dX6_isSlotLike_72 : decode cX6_isSlotLike 72 = .ok (.iinc 4 1, 3) := dk_132 4 1 (dk_at dksX6_isSlotLike_3 1 rfl rfl)
theorem dX6_isSlotLike_75 : decode cX6_isSlotLike 75 = .ok (.goto (-51), 3) := dk_167 255 205 (dk_at dksX6_isSlotLike_3 4 rfl rfl)
theorem dX6_isSlotLike_78 : decode cX6_isSlotLike 78 = .ok (.iload_n 3, 1) := dk_29 (dk_at dksX6_isSlotLike_3 7 rfl rfl)
theorem dX6_isSlotLike_79 : decode cX6_isSlotLike 79 = .ok (.ireturn, 1) := dk_172 (dk_at dksX6_isSlotLike_3 8 rfl rfl)
abbrev cX6_digest : ByteArray := prog_13_method_99_code
def yX6_digest : MethodName := ⟨RX6, "digest", "()J"⟩
def dkwX6_digest_7 : List UInt8 := [180, 1, 187, 173]
abbrev dktX6_digest_7 : List UInt8 := dkwX6_digest_7 ++ []
def dkwX6_digest_6 : List UInt8 := [60, 27, 16, 11, 162, 0, 19, 42, 42, 27, 182, 1, 182, 133, 182, 1, 190, 132, 1, 1, 167, 255, 237, 42]
abbrev dktX6_digest_6 : List UInt8 := dkwX6_digest_6 ++ dktX6_digest_7
def dkwX6_digest_5 : List UInt8 := [180, 0, 150, 162, 0, 20, 42, 42, 180, 0, 55, 27, 51, 133, 182, 1, 190, 132, 1, 1, 167, 255, 234, 3]
abbrev dktX6_digest_5 : List UInt8 := dkwX6_digest_5 ++ dktX6_digest_6
def dkwX6_digest_4 : List UInt8 := [180, 0, 43, 27, 46, 158, 0, 8, 42, 27, 182, 1, 196, 132, 1, 1, 167, 255, 234, 3, 60, 27, 42]
abbrev dktX6_digest_4 : List UInt8 := dkwX6_digest_4 ++ dktX6_digest_5
def dkwX6_digest_3 : List UInt8 := [133, 182, 1, 190, 132, 2, 1, 167, 255, 236, 132, 1, 1, 167, 255, 220, 3, 60, 27, 7, 162, 0, 23, 42]
abbrev dktX6_digest_3 : List UInt8 := dkwX6_digest_3 ++ dktX6_digest_4
def dkwX6_digest_2 : List UInt8 := [60, 27, 42, 180, 0, 217, 162, 0, 34, 3, 61, 28, 16, 8, 162, 0, 20, 42, 42, 27, 28, 182, 1, 57]
abbrev dktX6_digest_2 : List UInt8 := dkwX6_digest_2 ++ dktX6_digest_3
def dkwX6_digest_1 : List UInt8 := [42, 42, 27, 28, 182, 1, 36, 133, 182, 1, 190, 132, 2, 1, 167, 255, 237, 132, 1, 1, 167, 255, 221, 3]
abbrev dktX6_digest_1 : List UInt8 := dkwX6_digest_1 ++ dktX6_digest_2
def dkwX6_digest_0 : List UInt8 := [42, 20, 1, 194, 181, 1, 187, 3, 60, 27, 42, 180, 0, 211, 162, 0, 33, 3, 61, 28, 6, 162, 0, 20]
abbrev dktX6_digest_0 : List UInt8 := dkwX6_digest_0 ++ dktX6_digest_1
theorem dksX6_digest_0 : cX6_digest.data.toList.drop 0 = dktX6_digest_0 := by decide +kernel
theorem dksX6_digest_1 : cX6_digest.data.toList.drop 24 = dktX6_digest_1 := dk_seg dksX6_digest_0 24 rfl rfl
theorem dksX6_digest_2 : cX6_digest.data.toList.drop 48 = dktX6_digest_2 := dk_seg dksX6_digest_1 24 rfl rfl
theorem dksX6_digest_3 : cX6_digest.data.toList.drop 72 = dktX6_digest_3 := dk_seg dksX6_digest_2 24 rfl rfl
theorem dksX6_digest_4 : cX6_digest.data.toList.drop 96 = dktX6_digest_4 := dk_seg dksX6_digest_3 24 rfl rfl
theorem dksX6_digest_5 : cX6_digest.data.toList.drop 119 = dktX6_digest_5 := dk_seg dksX6_digest_4 23 rfl rfl
theorem dksX6_digest_6 : cX6_digest.data.toList.drop 143 = dktX6_digest_6 := dk_seg dksX6_digest_5 24 rfl rfl
theorem dksX6_digest_7 : cX6_digest.data.toList.drop 167 = dktX6_digest_7 := dk_seg dksX6_digest_6 24 rfl rfl
theorem dX6_digest_0 : decode cX6_digest 0 = .ok (.aload_n 0, 1) := dk_42 (dk_at dksX6_digest_0 0 rfl rfl)
theorem dX6_digest_1 : decode cX6_digest 1 = .ok (.ldc2_w 450, 3) := dk_20 1 194 (dk_at dksX6_digest_0 1 rfl rfl)
theorem dX6_digest_4 : decode cX6_digest 4 = .ok (.putfield 443, 3) := dk_181 1 187 (dk_at dksX6_digest_0 4 rfl rfl)
theorem dX6_digest_7 : decode cX6_digest 7 = .ok (.iconst 0, 1) := dk_3 (dk_at dksX6_digest_0 7 rfl rfl)
theorem dX6_digest_8 : decode cX6_digest 8 = .ok (.istore_n 1, 1) := dk_60 (dk_at dksX6_digest_0 8 rfl rfl)
theorem dX6_digest_9 : decode cX6_digest 9 = .ok (.iload_n 1, 1) := dk_27 (dk_at dksX6_digest_0 9 rfl rfl)
theorem dX6_digest_10 : decode cX6_digest 10 = .ok (.aload_n 0, 1) := dk_42 (dk_at dksX6_digest_0 10 rfl rfl)
theorem dX6_digest_11 : decode cX6_digest 11 = .ok (.getfield 211, 3) := dk_180 0 211 (dk_at dksX6_digest_0 11 rfl rfl)
theorem dX6_digest_14 : decode cX6_digest 14 = .ok (.if_icmp .ge 33, 3) := dk_162 0 33 (dk_at dksX6_digest_0 14 rfl rfl)
theorem dX6_digest_17 : decode cX6_digest 17 = .ok (.iconst 0, 1) := dk_3 (dk_at dksX6_digest_0 17 rfl rfl)
theorem dX6_digest_18 : decode cX6_digest 18 = .ok (.istore_n 2, 1) := dk_61 (dk_at dksX6_digest_0 18 rfl rfl)
theorem dX6_digest_19 : decode cX6_digest 19 = .ok (.iload_n 2, 1) := dk_28 (dk_at dksX6_digest_0 19 rfl rfl)
theorem dX6_digest_20 : decode cX6_digest 20 = .ok (.iconst 3, 1) := dk_6 (dk_at dksX6_digest_0 20 rfl rfl)
theorem dX6_digest_21 : decode cX6_digest 21 = .ok (.if_icmp .ge 20, 3) := dk_162 0 20 (dk_at dksX6_digest_0 21 rfl rfl)
theorem dX6_digest_24 : decode cX6_digest 24 = .ok (.aload_n 0, 1) := dk_42 (dk_at dksX6_digest_1 0 rfl rfl)
theorem dX6_digest_25 : decode cX6_digest 25 = .ok (.aload_n 0, 1) := dk_42 (dk_at dksX6_digest_1 1 rfl rfl)
theorem dX6_digest_26 : decode cX6_digest 26 = .ok (.iload_n 1, 1) := dk_27 (dk_at dksX6_digest_1 2 rfl rfl)
theorem dX6_digest_27 : decode cX6_digest 27 = .ok (.iload_n 2, 1) := dk_28 (dk_at dksX6_digest_1 3 rfl rfl)
theorem dX6_digest_28 : decode cX6_digest 28 = .ok (.invokevirtual 292, 3) := dk_182 1 36 (dk_at dksX6_digest_1 4 rfl rfl)
theorem dX6_digest_31 : decode cX6_digest 31 = .ok (.i2l, 1) := dk_133 (dk_at dksX6_digest_1 7 rfl rfl)
theorem dX6_digest_32 : decode cX6_digest 32 = .ok (.invokevirtual 446, 3) := dk_182 1 190 (dk_at dksX6_digest_1 8 rfl rfl)
theorem dX6_digest_35 : decode cX6_digest 35 = .ok (.iinc 2 1, 3) := dk_132 2 1 (dk_at dksX6_digest_1 11 rfl rfl)
theorem dX6_digest_38 : decode cX6_digest 38 = .ok (.goto (-19), 3) := dk_167 255 237 (dk_at dksX6_digest_1 14 rfl rfl)
theorem dX6_digest_41 : decode cX6_digest 41 = .ok (.iinc 1 1, 3) := dk_132 1 1 (dk_at dksX6_digest_1 17 rfl rfl)
theorem dX6_digest_44 : decode cX6_digest 44 = .ok (.goto (-35), 3) := dk_167 255 221 (dk_at dksX6_digest_1 20 rfl rfl)
theorem dX6_digest_47 : decode cX6_digest 47 = .ok (.iconst 0, 1) := dk_3 (dk_at dksX6_digest_1 23 rfl rfl)
theorem dX6_digest_48 : decode cX6_digest 48 = .ok (.istore_n 1, 1) := dk_60 (dk_at dksX6_digest_2 0 rfl rfl)
theorem dX6_digest_49 : decode cX6_digest 49 = .ok (.iload_n 1, 1) := dk_27 (dk_at dksX6_digest_2 1 rfl rfl)
theorem dX6_digest_50 : decode cX6_digest 50 = .ok (.aload_n 0, 1) := dk_42 (dk_at dksX6_digest_2 2 rfl rfl)
theorem dX6_digest_51 : decode cX6_digest 51 = .ok (.getfield 217, 3) := dk_180 0 217 (dk_at dksX6_digest_2 3 rfl rfl)
theorem dX6_digest_54 : decode cX6_digest 54 = .ok (.if_icmp .ge 34, 3) := dk_162 0 34 (dk_at dksX6_digest_2 6 rfl rfl)
theorem dX6_digest_57 : decode cX6_digest 57 = .ok (.iconst 0, 1) := dk_3 (dk_at dksX6_digest_2 9 rfl rfl)
theorem dX6_digest_58 : decode cX6_digest 58 = .ok (.istore_n 2, 1) := dk_61 (dk_at dksX6_digest_2 10 rfl rfl)
theorem dX6_digest_59 : decode cX6_digest 59 = .ok (.iload_n 2, 1) := dk_28 (dk_at dksX6_digest_2 11 rfl rfl)
theorem dX6_digest_60 : decode cX6_digest 60 = .ok (.bipush 8, 2) := dk_16 8 (dk_at dksX6_digest_2 12 rfl rfl)
theorem dX6_digest_62 : decode cX6_digest 62 = .ok (.if_icmp .ge 20, 3) := dk_162 0 20 (dk_at dksX6_digest_2 14 rfl rfl)
theorem dX6_digest_65 : decode cX6_digest 65 = .ok (.aload_n 0, 1) := dk_42 (dk_at dksX6_digest_2 17 rfl rfl)
theorem dX6_digest_66 : decode cX6_digest 66 = .ok (.aload_n 0, 1) := dk_42 (dk_at dksX6_digest_2 18 rfl rfl)
theorem dX6_digest_67 : decode cX6_digest 67 = .ok (.iload_n 1, 1) := dk_27 (dk_at dksX6_digest_2 19 rfl rfl)
theorem dX6_digest_68 : decode cX6_digest 68 = .ok (.iload_n 2, 1) := dk_28 (dk_at dksX6_digest_2 20 rfl rfl)
theorem dX6_digest_69 : decode cX6_digest 69 = .ok (.invokevirtual 313, 3) := dk_182 1 57 (dk_at dksX6_digest_2 21 rfl rfl)
theorem dX6_digest_72 : decode cX6_digest 72 = .ok (.i2l, 1) := dk_133 (dk_at dksX6_digest_3 0 rfl rfl)
theorem dX6_digest_73 : decode cX6_digest 73 = .ok (.invokevirtual 446, 3) := dk_182 1 190 (dk_at dksX6_digest_3 1 rfl rfl)
theorem dX6_digest_76 : decode cX6_digest 76 = .ok (.iinc 2 1, 3) := dk_132 2 1 (dk_at dksX6_digest_3 4 rfl rfl)
theorem dX6_digest_79 : decode cX6_digest 79 = .ok (.goto (-20), 3) := dk_167 255 236 (dk_at dksX6_digest_3 7 rfl rfl)
theorem dX6_digest_82 : decode cX6_digest 82 = .ok (.iinc 1 1, 3) := dk_132 1 1 (dk_at dksX6_digest_3 10 rfl rfl)
theorem dX6_digest_85 : decode cX6_digest 85 = .ok (.goto (-36), 3) := dk_167 255 220 (dk_at dksX6_digest_3 13 rfl rfl)
theorem dX6_digest_88 : decode cX6_digest 88 = .ok (.iconst 0, 1) := dk_3 (dk_at dksX6_digest_3 16 rfl rfl)
theorem dX6_digest_89 : decode cX6_digest 89 = .ok (.istore_n 1, 1) := dk_60 (dk_at dksX6_digest_3 17 rfl rfl)
theorem dX6_digest_90 : decode cX6_digest 90 = .ok (.iload_n 1, 1) := dk_27 (dk_at dksX6_digest_3 18 rfl rfl)
theorem dX6_digest_91 : decode cX6_digest 91 = .ok (.iconst 4, 1) := dk_7 (dk_at dksX6_digest_3 19 rfl rfl)
theorem dX6_digest_92 : decode cX6_digest 92 = .ok (.if_icmp .ge 23, 3) := dk_162 0 23 (dk_at dksX6_digest_3 20 rfl rfl)
theorem dX6_digest_95 : decode cX6_digest 95 = .ok (.aload_n 0, 1) := dk_42 (dk_at dksX6_digest_3 23 rfl rfl)
theorem dX6_digest_96 : decode cX6_digest 96 = .ok (.getfield 43, 3) := dk_180 0 43 (dk_at dksX6_digest_4 0 rfl rfl)
theorem dX6_digest_99 : decode cX6_digest 99 = .ok (.iload_n 1, 1) := dk_27 (dk_at dksX6_digest_4 3 rfl rfl)
theorem dX6_digest_100 : decode cX6_digest 100 = .ok (.iaload, 1) := dk_46 (dk_at dksX6_digest_4 4 rfl rfl)
theorem dX6_digest_101 : decode cX6_digest 101 = .ok (.ifCond .le 8, 3) := dk_158 0 8 (dk_at dksX6_digest_4 5 rfl rfl)
theorem dX6_digest_104 : decode cX6_digest 104 = .ok (.aload_n 0, 1) := dk_42 (dk_at dksX6_digest_4 8 rfl rfl)
theorem dX6_digest_105 : decode cX6_digest 105 = .ok (.iload_n 1, 1) := dk_27 (dk_at dksX6_digest_4 9 rfl rfl)
theorem dX6_digest_106 : decode cX6_digest 106 = .ok (.invokevirtual 452, 3) := dk_182 1 196 (dk_at dksX6_digest_4 10 rfl rfl)
theorem dX6_digest_109 : decode cX6_digest 109 = .ok (.iinc 1 1, 3) := dk_132 1 1 (dk_at dksX6_digest_4 13 rfl rfl)
theorem dX6_digest_112 : decode cX6_digest 112 = .ok (.goto (-22), 3) := dk_167 255 234 (dk_at dksX6_digest_4 16 rfl rfl)
theorem dX6_digest_115 : decode cX6_digest 115 = .ok (.iconst 0, 1) := dk_3 (dk_at dksX6_digest_4 19 rfl rfl)
theorem dX6_digest_116 : decode cX6_digest 116 = .ok (.istore_n 1, 1) := dk_60 (dk_at dksX6_digest_4 20 rfl rfl)
theorem dX6_digest_117 : decode cX6_digest 117 = .ok (.iload_n 1, 1) := dk_27 (dk_at dksX6_digest_4 21 rfl rfl)
theorem dX6_digest_118 : decode cX6_digest 118 = .ok (.aload_n 0, 1) := dk_42 (dk_at dksX6_digest_4 22 rfl rfl)
theorem dX6_digest_119 : decode cX6_digest 119 = .ok (.getfield 150, 3) := dk_180 0 150 (dk_at dksX6_digest_5 0 rfl rfl)
theorem dX6_digest_122 : decode cX6_digest 122 = .ok (.if_icmp .ge 20, 3) := dk_162 0 20 (dk_at dksX6_digest_5 3 rfl rfl)
theorem dX6_digest_125 : decode cX6_digest 125 = .ok (.aload_n 0, 1) := dk_42 (dk_at dksX6_digest_5 6 rfl rfl)
theorem dX6_digest_126 : decode cX6_digest 126 = .ok (.aload_n 0, 1) := dk_42 (dk_at dksX6_digest_5 7 rfl rfl)
theorem dX6_digest_127 : decode cX6_digest 127 = .ok (.getfield 55, 3) := dk_180 0 55 (dk_at dksX6_digest_5 8 rfl rfl)
theorem dX6_digest_130 : decode cX6_digest 130 = .ok (.iload_n 1, 1) := dk_27 (dk_at dksX6_digest_5 11 rfl rfl)
theorem dX6_digest_131 : decode cX6_digest 131 = .ok (.baload, 1) := dk_51 (dk_at dksX6_digest_5 12 rfl rfl)
theorem dX6_digest_132 : decode cX6_digest 132 = .ok (.i2l, 1) := dk_133 (dk_at dksX6_digest_5 13 rfl rfl)
theorem dX6_digest_133 : decode cX6_digest 133 = .ok (.invokevirtual 446, 3) := dk_182 1 190 (dk_at dksX6_digest_5 14 rfl rfl)
theorem dX6_digest_136 : decode cX6_digest 136 = .ok (.iinc 1 1, 3) := dk_132 1 1 (dk_at dksX6_digest_5 17 rfl rfl)
theorem dX6_digest_139 : decode cX6_digest 139 = .ok (.goto (-22), 3) := dk_167 255 234 (dk_at dksX6_digest_5 20 rfl rfl)
theorem dX6_digest_142 : decode cX6_digest 142 = .ok (.iconst 0, 1) := dk_3 (dk_at dksX6_digest_5 23 rfl rfl)
theorem dX6_digest_143 : decode cX6_digest 143 = .ok (.istore_n 1, 1) := dk_60 (dk_at dksX6_digest_6 0 rfl rfl)
theorem dX6_digest_144 : decode cX6_digest 144 = .ok (.iload_n 1, 1) := dk_27 (dk_at dksX6_digest_6 1 rfl rfl)
theorem dX6_digest_145 : decode cX6_digest 145 = .ok (.bipush 11, 2) := dk_16 11 (dk_at dksX6_digest_6 2 rfl rfl)
theorem dX6_digest_147 : decode cX6_digest 147 = .ok (.if_icmp .ge 19, 3) := dk_162 0 19 (dk_at dksX6_digest_6 4 rfl rfl)
theorem dX6_digest_150 : decode cX6_digest 150 = .ok (.aload_n 0, 1) := dk_42 (dk_at dksX6_digest_6 7 rfl rfl)
theorem dX6_digest_151 : decode cX6_digest 151 = .ok (.aload_n 0, 1) := dk_42 (dk_at dksX6_digest_6 8 rfl rfl)
theorem dX6_digest_152 : decode cX6_digest 152 = .ok (.iload_n 1, 1) := dk_27 (dk_at dksX6_digest_6 9 rfl rfl)
theorem dX6_digest_153 : decode cX6_digest 153 = .ok (.invokevirtual 438, 3) := dk_182 1 182 (dk_at dksX6_digest_6 10 rfl rfl)
theorem dX6_digest_156 : decode cX6_digest 156 = .ok (.i2l, 1) := dk_133 (dk_at dksX6_digest_6 13 rfl rfl)
theorem dX6_digest_157 : decode cX6_digest 157 = .ok (.invokevirtual 446, 3) := dk_182 1 190 (dk_at dksX6_digest_6 14 rfl rfl)
theorem dX6_digest_160 : decode cX6_digest 160 = .ok (.iinc 1 1, 3) := dk_132 1 1 (dk_at dksX6_digest_6 17 rfl rfl)
theorem dX6_digest_163 : decode cX6_digest 163 = .ok (.goto (-19), 3) := dk_167 255 237 (dk_at dksX6_digest_6 20 rfl rfl)
theorem dX6_digest_166 : decode cX6_digest 166 = .ok (.aload_n 0, 1) := dk_42 (dk_at dksX6_digest_6 23 rfl rfl)
theorem dX6_digest_167 : decode cX6_digest 167 = .ok (.getfield 443, 3) := dk_180 1 187 (dk_at dksX6_digest_7 0 rfl rfl)
theorem dX6_digest_170 : decode cX6_digest 170 = .ok (.lreturn, 1) := dk_173 (dk_at dksX6_digest_7 3 rfl rfl)
abbrev cX6_mix : ByteArray := prog_13_method_97_code
def yX6_mix : MethodName := ⟨RX6, "mix", "(J)V"⟩
def dkwX6_mix_0 : List UInt8 := [42, 20, 1, 185, 42, 180, 1, 187, 105, 31, 97, 181, 1, 187, 177]
abbrev dktX6_mix_0 : List UInt8 := dkwX6_mix_0 ++ []
theorem dksX6_mix_0 : cX6_mix.data.toList.drop 0 = dktX6_mix_0 := by decide +kernel
theorem dX6_mix_0 : decode cX6_mix 0 = .ok (.aload_n 0, 1) := dk_42 (dk_at dksX6_mix_0 0 rfl rfl)
theorem dX6_mix_1 : decode cX6_mix 1 = .ok (.ldc2_w 441, 3) := dk_20 1 185 (dk_at dksX6_mix_0 1 rfl rfl)
theorem dX6_mix_4 : decode cX6_mix 4 = .ok (.aload_n 0, 1) := dk_42 (dk_at dksX6_mix_0 4 rfl rfl)
theorem dX6_mix_5 : decode cX6_mix 5 = .ok (.getfield 443, 3) := dk_180 1 187 (dk_at dksX6_mix_0 5 rfl rfl)
theorem dX6_mix_8 : decode cX6_mix 8 = .ok (.lmul, 1) := dk_105 (dk_at dksX6_mix_0 8 rfl rfl)
theorem dX6_mix_9 : decode cX6_mix 9 = .ok (.lload_n 1, 1) := dk_31 (dk_at dksX6_mix_0 9 rfl rfl)
theorem dX6_mix_10 : decode cX6_mix 10 = .ok (.ladd, 1) := dk_97 (dk_at dksX6_mix_0 10 rfl rfl)
theorem dX6_mix_11 : decode cX6_mix 11 = .ok (.putfield 443, 3) := dk_181 1 187 (dk_at dksX6_mix_0 11 rfl rfl)
theorem dX6_mix_14 : decode cX6_mix 14 = .ok (.return_, 1) := dk_177 (dk_at dksX6_mix_0 14 rfl rfl)
abbrev cX6_mixSlot : ByteArray := prog_13_method_98_code
def yX6_mixSlot : MethodName := ⟨RX6, "mixSlot", "(I)V"⟩
def dkwX6_mixSlot_2 : List UInt8 := [167, 255, 220, 177]
abbrev dktX6_mixSlot_2 : List UInt8 := dkwX6_mixSlot_2 ++ []
def dkwX6_mixSlot_1 : List UInt8 := [162, 0, 20, 42, 42, 28, 29, 182, 1, 117, 133, 182, 1, 190, 132, 3, 1, 167, 255, 236, 132, 2, 1]
abbrev dktX6_mixSlot_1 : List UInt8 := dkwX6_mixSlot_1 ++ dktX6_mixSlot_2
def dkwX6_mixSlot_0 : List UInt8 := [42, 27, 182, 1, 108, 42, 182, 1, 39, 3, 61, 28, 42, 180, 0, 211, 162, 0, 34, 3, 62, 29, 16, 7]
abbrev dktX6_mixSlot_0 : List UInt8 := dkwX6_mixSlot_0 ++ dktX6_mixSlot_1
theorem dksX6_mixSlot_0 : cX6_mixSlot.data.toList.drop 0 = dktX6_mixSlot_0 := by decide +kernel
theorem dksX6_mixSlot_1 : cX6_mixSlot.data.toList.drop 24 = dktX6_mixSlot_1 := dk_seg dksX6_mixSlot_0 24 rfl rfl
theorem dksX6_mixSlot_2 : cX6_mixSlot.data.toList.drop 47 = dktX6_mixSlot_2 := dk_seg dksX6_mixSlot_1 23 rfl rfl
theorem dX6_mixSlot_0 : decode cX6_mixSlot 0 = .ok (.aload_n 0, 1) := dk_42 (dk_at dksX6_mixSlot_0 0 rfl rfl)
theorem dX6_mixSlot_1 : decode cX6_mixSlot 1 = .ok (.iload_n 1, 1) := dk_27 (dk_at dksX6_mixSlot_0 1 rfl rfl)
theorem dX6_mixSlot_2 : decode cX6_mixSlot 2 = .ok (.invokevirtual 364, 3) := dk_182 1 108 (dk_at dksX6_mixSlot_0 2 rfl rfl)
theorem dX6_mixSlot_5 : decode cX6_mixSlot 5 = .ok (.aload_n 0, 1) := dk_42 (dk_at dksX6_mixSlot_0 5 rfl rfl)
theorem dX6_mixSlot_6 : decode cX6_mixSlot 6 = .ok (.invokevirtual 295, 3) := dk_182 1 39 (dk_at dksX6_mixSlot_0 6 rfl rfl)
theorem dX6_mixSlot_9 : decode cX6_mixSlot 9 = .ok (.iconst 0, 1) := dk_3 (dk_at dksX6_mixSlot_0 9 rfl rfl)
theorem dX6_mixSlot_10 : decode cX6_mixSlot 10 = .ok (.istore_n 2, 1) := dk_61 (dk_at dksX6_mixSlot_0 10 rfl rfl)
theorem dX6_mixSlot_11 : decode cX6_mixSlot 11 = .ok (.iload_n 2, 1) := dk_28 (dk_at dksX6_mixSlot_0 11 rfl rfl)
theorem dX6_mixSlot_12 : decode cX6_mixSlot 12 = .ok (.aload_n 0, 1) := dk_42 (dk_at dksX6_mixSlot_0 12 rfl rfl)
theorem dX6_mixSlot_13 : decode cX6_mixSlot 13 = .ok (.getfield 211, 3) := dk_180 0 211 (dk_at dksX6_mixSlot_0 13 rfl rfl)
theorem dX6_mixSlot_16 : decode cX6_mixSlot 16 = .ok (.if_icmp .ge 34, 3) := dk_162 0 34 (dk_at dksX6_mixSlot_0 16 rfl rfl)
theorem dX6_mixSlot_19 : decode cX6_mixSlot 19 = .ok (.iconst 0, 1) := dk_3 (dk_at dksX6_mixSlot_0 19 rfl rfl)
theorem dX6_mixSlot_20 : decode cX6_mixSlot 20 = .ok (.istore_n 3, 1) := dk_62 (dk_at dksX6_mixSlot_0 20 rfl rfl)
theorem dX6_mixSlot_21 : decode cX6_mixSlot 21 = .ok (.iload_n 3, 1) := dk_29 (dk_at dksX6_mixSlot_0 21 rfl rfl)
theorem dX6_mixSlot_22 : decode cX6_mixSlot 22 = .ok (.bipush 7, 2) := dk_16 7 (dk_at dksX6_mixSlot_0 22 rfl rfl)
theorem dX6_mixSlot_24 : decode cX6_mixSlot 24 = .ok (.if_icmp .ge 20, 3) := dk_162 0 20 (dk_at dksX6_mixSlot_1 0 rfl rfl)
theorem dX6_mixSlot_27 : decode cX6_mixSlot 27 = .ok (.aload_n 0, 1) := dk_42 (dk_at dksX6_mixSlot_1 3 rfl rfl)
theorem dX6_mixSlot_28 : decode cX6_mixSlot 28 = .ok (.aload_n 0, 1) := dk_42 (dk_at dksX6_mixSlot_1 4 rfl rfl)
theorem dX6_mixSlot_29 : decode cX6_mixSlot 29 = .ok (.iload_n 2, 1) := dk_28 (dk_at dksX6_mixSlot_1 5 rfl rfl)
theorem dX6_mixSlot_30 : decode cX6_mixSlot 30 = .ok (.iload_n 3, 1) := dk_29 (dk_at dksX6_mixSlot_1 6 rfl rfl)
theorem dX6_mixSlot_31 : decode cX6_mixSlot 31 = .ok (.invokevirtual 373, 3) := dk_182 1 117 (dk_at dksX6_mixSlot_1 7 rfl rfl)
theorem dX6_mixSlot_34 : decode cX6_mixSlot 34 = .ok (.i2l, 1) := dk_133 (dk_at dksX6_mixSlot_1 10 rfl rfl)
theorem dX6_mixSlot_35 : decode cX6_mixSlot 35 = .ok (.invokevirtual 446, 3) := dk_182 1 190 (dk_at dksX6_mixSlot_1 11 rfl rfl)
theorem dX6_mixSlot_38 : decode cX6_mixSlot 38 = .ok (.iinc 3 1, 3) := dk_132 3 1 (dk_at dksX6_mixSlot_1 14 rfl rfl)
theorem dX6_mixSlot_41 : decode cX6_mixSlot 41 = .ok (.goto (-20), 3) := dk_167 255 236 (dk_at dksX6_mixSlot_1 17 rfl rfl)
theorem dX6_mixSlot_44 : decode cX6_mixSlot 44 = .ok (.iinc 2 1, 3) := dk_132 2 1 (dk_at dksX6_mixSlot_1 20 rfl rfl)
theorem dX6_mixSlot_47 : decode cX6_mixSlot 47 = .ok (.goto (-36), 3) := dk_167 255 220 (dk_at dksX6_mixSlot_2 0 rfl rfl)
theorem dX6_mixSlot_50 : decode cX6_mixSlot 50 = .ok (.return_, 1) := dk_177 (dk_at dksX6_mixSlot_2 3 rfl rfl)
theorem q123 : (Jvm.Cond.initialized "DictProofModel") ∈ lw_all := lw_g (lw_at lw_m1 9 rfl) rfl
theorem q572 : (Jvm.Cond.selects "DictProofModel" ({ cls := "java/lang/Object", name := "hashCode", desc := "()I" } : Jvm.MethodName) ({ cls := "java/lang/Object", name := "hashCode", desc := "()I" } : Jvm.MethodName)) ∈ lw_all := lw_g (lw_at lw_m2 218 rfl) rfl
theorem q604 : (Jvm.Cond.selects "DictProofModel" ({ cls := "java/lang/Object", name := "equals", desc := "(Ljava/lang/Object;)Z" } : Jvm.MethodName) ({ cls := "java/lang/Object", name := "equals", desc := "(Ljava/lang/Object;)Z" } : Jvm.MethodName)) ∈ lw_all := lw_g (lw_at lw_m3 10 rfl) rfl
theorem q645 : (Jvm.Cond.selects "DictProofModel" ({ cls := "java/lang/Object", name := "getClass", desc := "()Ljava/lang/Class;" } : Jvm.MethodName) ({ cls := "java/lang/Object", name := "getClass", desc := "()Ljava/lang/Class;" } : Jvm.MethodName)) ∈ lw_all := lw_g (lw_at lw_m3 51 rfl) rfl
theorem q1400 : (Jvm.Cond.instantiable "DictProofModel" (63 : Nat)) ∈ lw_all := lw_g (lw_at lw_m6 86 rfl) rfl
theorem q1402 : (Jvm.Cond.instanceMethod ({ cls := "DictProofModel", name := "<init>", desc := "()V" } : Jvm.MethodName)) ∈ lw_all := lw_g (lw_at lw_m6 88 rfl) rfl
theorem q1403 : (Jvm.Cond.code ({ cls := "DictProofModel", name := "<init>", desc := "()V" } : Jvm.MethodName) prog_13_method_1_code (1 : Nat) (Option.none : Option Jvm.ClassFile.FieldType)) ∈ lw_all := lw_g (lw_at lw_m6 89 rfl) rfl
theorem q1404 : (Jvm.Cond.methodLink "DictProofModel" (1 : Nat) ({ cls := "java/lang/Object", name := "<init>", desc := "()V" } : Jvm.MethodName)) ∈ lw_all := lw_g (lw_at lw_m6 90 rfl) rfl
theorem q1405 : (Jvm.Cond.fieldLink "DictProofModel" (227 : Nat) "DictProofModel" "books" "I") ∈ lw_all := lw_g (lw_at lw_m6 91 rfl) rfl
theorem q1406 : (Jvm.Cond.fieldLink "DictProofModel" (211 : Nat) "DictProofModel" "classes" "I") ∈ lw_all := lw_g (lw_at lw_m6 92 rfl) rfl
theorem q1407 : (Jvm.Cond.fieldLink "DictProofModel" (7 : Nat) "DictProofModel" "rightAbove" "[I") ∈ lw_all := lw_g (lw_at lw_m6 93 rfl) rfl
theorem q1408 : (Jvm.Cond.fieldLink "DictProofModel" (13 : Nat) "DictProofModel" "above" "[I") ∈ lw_all := lw_g (lw_at lw_m6 94 rfl) rfl
theorem q1409 : (Jvm.Cond.fieldLink "DictProofModel" (217 : Nat) "DictProofModel" "instances" "I") ∈ lw_all := lw_g (lw_at lw_m6 95 rfl) rfl
theorem q1410 : (Jvm.Cond.fieldLink "DictProofModel" (16 : Nat) "DictProofModel" "kindOf" "[I") ∈ lw_all := lw_g (lw_at lw_m6 96 rfl) rfl
theorem q1411 : (Jvm.Cond.fieldLink "DictProofModel" (19 : Nat) "DictProofModel" "classOf" "[I") ∈ lw_all := lw_g (lw_at lw_m6 97 rfl) rfl
theorem q1412 : (Jvm.Cond.fieldLink "DictProofModel" (22 : Nat) "DictProofModel" "head" "[I") ∈ lw_all := lw_g (lw_at lw_m6 98 rfl) rfl
theorem q1413 : (Jvm.Cond.fieldLink "DictProofModel" (25 : Nat) "DictProofModel" "headSize" "[I") ∈ lw_all := lw_g (lw_at lw_m6 99 rfl) rfl
theorem q1414 : (Jvm.Cond.fieldLink "DictProofModel" (28 : Nat) "DictProofModel" "conditions" "[I") ∈ lw_all := lw_g (lw_at lw_m6 100 rfl) rfl
theorem q1415 : (Jvm.Cond.fieldLink "DictProofModel" (31 : Nat) "DictProofModel" "conditionClass" "[I") ∈ lw_all := lw_g (lw_at lw_m6 101 rfl) rfl
theorem q1416 : (Jvm.Cond.fieldLink "DictProofModel" (34 : Nat) "DictProofModel" "conditionVariable" "[I") ∈ lw_all := lw_g (lw_at lw_m6 102 rfl) rfl
theorem q1417 : (Jvm.Cond.fieldLink "DictProofModel" (37 : Nat) "DictProofModel" "special" "[I") ∈ lw_all := lw_g (lw_at lw_m6 103 rfl) rfl
theorem q1418 : (Jvm.Cond.fieldLink "DictProofModel" (40 : Nat) "DictProofModel" "slot" "[I") ∈ lw_all := lw_g (lw_at lw_m6 104 rfl) rfl
theorem q1419 : (Jvm.Cond.fieldLink "DictProofModel" (43 : Nat) "DictProofModel" "slotSize" "[I") ∈ lw_all := lw_g (lw_at lw_m6 105 rfl) rfl
theorem q1420 : (Jvm.Cond.fieldLink "DictProofModel" (230 : Nat) "DictProofModel" "seen" "I") ∈ lw_all := lw_g (lw_at lw_m6 106 rfl) rfl
theorem q1421 : (Jvm.Cond.fieldLink "DictProofModel" (46 : Nat) "DictProofModel" "seenInstance" "[I") ∈ lw_all := lw_g (lw_at lw_m6 107 rfl) rfl
theorem q1422 : (Jvm.Cond.fieldLink "DictProofModel" (49 : Nat) "DictProofModel" "seenWhat" "[I") ∈ lw_all := lw_g (lw_at lw_m6 108 rfl) rfl
theorem q1423 : (Jvm.Cond.fieldLink "DictProofModel" (52 : Nat) "DictProofModel" "seenSo" "[I") ∈ lw_all := lw_g (lw_at lw_m6 109 rfl) rfl
theorem q1424 : (Jvm.Cond.fieldLink "DictProofModel" (150 : Nat) "DictProofModel" "pageLength" "I") ∈ lw_all := lw_g (lw_at lw_m6 110 rfl) rfl
theorem q1425 : (Jvm.Cond.fieldLink "DictProofModel" (55 : Nat) "DictProofModel" "page" "[B") ∈ lw_all := lw_g (lw_at lw_m6 111 rfl) rfl
theorem q1426 : (Jvm.Cond.fieldLink "DictProofModel" (198 : Nat) "DictProofModel" "isWhole" "Z") ∈ lw_all := lw_g (lw_at lw_m6 112 rfl) rfl
theorem q1427 : (Jvm.Cond.fieldLink "DictProofModel" (158 : Nat) "DictProofModel" "isBroken" "Z") ∈ lw_all := lw_g (lw_at lw_m6 113 rfl) rfl
theorem q1428 : (Jvm.Cond.fieldLink "DictProofModel" (162 : Nat) "DictProofModel" "newClasses" "I") ∈ lw_all := lw_g (lw_at lw_m6 114 rfl) rfl
theorem q1429 : (Jvm.Cond.fieldLink "DictProofModel" (185 : Nat) "DictProofModel" "newInstances" "I") ∈ lw_all := lw_g (lw_at lw_m6 115 rfl) rfl
theorem q1430 : (Jvm.Cond.fieldLink "DictProofModel" (59 : Nat) "DictProofModel" "newAbove" "[I") ∈ lw_all := lw_g (lw_at lw_m6 116 rfl) rfl
theorem q1431 : (Jvm.Cond.fieldLink "DictProofModel" (62 : Nat) "DictProofModel" "newKind" "[I") ∈ lw_all := lw_g (lw_at lw_m6 117 rfl) rfl
theorem q1432 : (Jvm.Cond.fieldLink "DictProofModel" (65 : Nat) "DictProofModel" "newClass" "[I") ∈ lw_all := lw_g (lw_at lw_m6 118 rfl) rfl
theorem q1433 : (Jvm.Cond.fieldLink "DictProofModel" (68 : Nat) "DictProofModel" "newHeadAt" "[I") ∈ lw_all := lw_g (lw_at lw_m6 119 rfl) rfl
theorem q1434 : (Jvm.Cond.fieldLink "DictProofModel" (71 : Nat) "DictProofModel" "newHeadSize" "[I") ∈ lw_all := lw_g (lw_at lw_m6 120 rfl) rfl
theorem q1435 : (Jvm.Cond.fieldLink "DictProofModel" (74 : Nat) "DictProofModel" "newConditions" "[I") ∈ lw_all := lw_g (lw_at lw_m6 121 rfl) rfl
theorem q1436 : (Jvm.Cond.fieldLink "DictProofModel" (77 : Nat) "DictProofModel" "newConditionAt" "[I") ∈ lw_all := lw_g (lw_at lw_m6 122 rfl) rfl
theorem q1437 : (Jvm.Cond.fieldLink "DictProofModel" (80 : Nat) "DictProofModel" "now" "[I") ∈ lw_all := lw_g (lw_at lw_m6 123 rfl) rfl
theorem q1438 : (Jvm.Cond.fieldLink "DictProofModel" (83 : Nat) "DictProofModel" "sizeAt" "[I") ∈ lw_all := lw_g (lw_at lw_m6 124 rfl) rfl
theorem q1439 : (Jvm.Cond.fieldLink "DictProofModel" (233 : Nat) "DictProofModel" "nowSize" "I") ∈ lw_all := lw_g (lw_at lw_m6 125 rfl) rfl
theorem q1440 : (Jvm.Cond.fieldLink "DictProofModel" (86 : Nat) "DictProofModel" "boundAt" "[I") ∈ lw_all := lw_g (lw_at lw_m6 126 rfl) rfl
theorem q1441 : (Jvm.Cond.fieldLink "DictProofModel" (89 : Nat) "DictProofModel" "status" "[I") ∈ lw_all := lw_g (lw_at lw_m6 127 rfl) rfl
theorem q1442 : (Jvm.Cond.fieldLink "DictProofModel" (92 : Nat) "DictProofModel" "taken" "[I") ∈ lw_all := lw_g (lw_at lw_m6 128 rfl) rfl
theorem q1443 : (Jvm.Cond.fieldLink "DictProofModel" (95 : Nat) "DictProofModel" "firstBelow" "[I") ∈ lw_all := lw_g (lw_at lw_m6 129 rfl) rfl
theorem q1444 : (Jvm.Cond.fieldLink "DictProofModel" (98 : Nat) "DictProofModel" "secondBelow" "[I") ∈ lw_all := lw_g (lw_at lw_m6 130 rfl) rfl
theorem q1445 : (Jvm.Cond.fieldLink "DictProofModel" (101 : Nat) "DictProofModel" "entries" "[I") ∈ lw_all := lw_g (lw_at lw_m6 131 rfl) rfl
theorem q1446 : (Jvm.Cond.fieldLink "DictProofModel" (104 : Nat) "DictProofModel" "worth" "[I") ∈ lw_all := lw_g (lw_at lw_m6 132 rfl) rfl
theorem q1447 : (Jvm.Cond.fieldLink "DictProofModel" (107 : Nat) "DictProofModel" "deep" "[I") ∈ lw_all := lw_g (lw_at lw_m6 133 rfl) rfl
theorem q1448 : (Jvm.Cond.fieldLink "DictProofModel" (110 : Nat) "DictProofModel" "needs" "[I") ∈ lw_all := lw_g (lw_at lw_m6 134 rfl) rfl
theorem q1449 : (Jvm.Cond.fieldLink "DictProofModel" (113 : Nat) "DictProofModel" "marked" "[I") ∈ lw_all := lw_g (lw_at lw_m6 135 rfl) rfl
theorem q1450 : (Jvm.Cond.fieldLink "DictProofModel" (316 : Nat) "DictProofModel" "one" "I") ∈ lw_all := lw_g (lw_at lw_m6 136 rfl) rfl
theorem q1451 : (Jvm.Cond.fieldLink "DictProofModel" (319 : Nat) "DictProofModel" "other" "I") ∈ lw_all := lw_g (lw_at lw_m6 137 rfl) rfl
theorem q1452 : (Jvm.Cond.fieldLink "DictProofModel" (116 : Nat) "DictProofModel" "bound" "[I") ∈ lw_all := lw_g (lw_at lw_m6 138 rfl) rfl
theorem q1453 : (Jvm.Cond.fieldLink "DictProofModel" (119 : Nat) "DictProofModel" "pairOne" "[I") ∈ lw_all := lw_g (lw_at lw_m6 139 rfl) rfl
theorem q1454 : (Jvm.Cond.fieldLink "DictProofModel" (122 : Nat) "DictProofModel" "pairOther" "[I") ∈ lw_all := lw_g (lw_at lw_m6 140 rfl) rfl
theorem q1455 : (Jvm.Cond.fieldLink "DictProofModel" (334 : Nat) "DictProofModel" "pairs" "I") ∈ lw_all := lw_g (lw_at lw_m6 141 rfl) rfl
theorem q1456 : (Jvm.Cond.fieldLink "DictProofModel" (125 : Nat) "DictProofModel" "waiting" "[I") ∈ lw_all := lw_g (lw_at lw_m6 142 rfl) rfl
theorem q1457 : (Jvm.Cond.fieldLink "DictProofModel" (385 : Nat) "DictProofModel" "seedNow" "J") ∈ lw_all := lw_g (lw_at lw_m6 143 rfl) rfl
theorem q1458 : (Jvm.Cond.fieldLink "DictProofModel" (411 : Nat) "DictProofModel" "isKept" "Z") ∈ lw_all := lw_g (lw_at lw_m6 144 rfl) rfl
theorem q1459 : (Jvm.Cond.fieldLink "DictProofModel" (414 : Nat) "DictProofModel" "keptBook" "I") ∈ lw_all := lw_g (lw_at lw_m6 145 rfl) rfl
theorem q1460 : (Jvm.Cond.fieldLink "DictProofModel" (417 : Nat) "DictProofModel" "keptSeen" "I") ∈ lw_all := lw_g (lw_at lw_m6 146 rfl) rfl
theorem q1461 : (Jvm.Cond.fieldLink "DictProofModel" (128 : Nat) "DictProofModel" "keptKind" "[I") ∈ lw_all := lw_g (lw_at lw_m6 147 rfl) rfl
theorem q1462 : (Jvm.Cond.fieldLink "DictProofModel" (131 : Nat) "DictProofModel" "keptSlot" "[I") ∈ lw_all := lw_g (lw_at lw_m6 148 rfl) rfl
theorem q1463 : (Jvm.Cond.fieldLink "DictProofModel" (134 : Nat) "DictProofModel" "keptSize" "[I") ∈ lw_all := lw_g (lw_at lw_m6 149 rfl) rfl
theorem q1464 : (Jvm.Cond.fieldLink "DictProofModel" (137 : Nat) "DictProofModel" "keptInstance" "[I") ∈ lw_all := lw_g (lw_at lw_m6 150 rfl) rfl
theorem q1465 : (Jvm.Cond.fieldLink "DictProofModel" (140 : Nat) "DictProofModel" "keptWhat" "[I") ∈ lw_all := lw_g (lw_at lw_m6 151 rfl) rfl
theorem q1466 : (Jvm.Cond.fieldLink "DictProofModel" (143 : Nat) "DictProofModel" "keptSo" "[I") ∈ lw_all := lw_g (lw_at lw_m6 152 rfl) rfl
theorem q1467 : (Jvm.Cond.fieldLink "DictProofModel" (443 : Nat) "DictProofModel" "h" "J") ∈ lw_all := lw_g (lw_at lw_m6 153 rfl) rfl
theorem q1468 : (Jvm.Cond.lays "DictProofModel" "DictProofModel" "books" "I") ∈ lw_all := lw_g (lw_at lw_m6 154 rfl) rfl
theorem q1469 : (Jvm.Cond.soleField "DictProofModel" "books") ∈ lw_all := lw_g (lw_at lw_m6 155 rfl) rfl
theorem q1470 : (Jvm.Cond.lays "DictProofModel" "DictProofModel" "classes" "I") ∈ lw_all := lw_g (lw_at lw_m6 156 rfl) rfl
theorem q1471 : (Jvm.Cond.soleField "DictProofModel" "classes") ∈ lw_all := lw_g (lw_at lw_m6 157 rfl) rfl
theorem q1472 : (Jvm.Cond.laysFinal "DictProofModel" "DictProofModel" "rightAbove" "[I") ∈ lw_all := lw_g (lw_at lw_m6 158 rfl) rfl
theorem q1473 : (Jvm.Cond.soleField "DictProofModel" "rightAbove") ∈ lw_all := lw_g (lw_at lw_m6 159 rfl) rfl
theorem q1474 : (Jvm.Cond.laysFinal "DictProofModel" "DictProofModel" "above" "[I") ∈ lw_all := lw_g (lw_at lw_m6 160 rfl) rfl
theorem q1475 : (Jvm.Cond.soleField "DictProofModel" "above") ∈ lw_all := lw_g (lw_at lw_m6 161 rfl) rfl
theorem q1476 : (Jvm.Cond.lays "DictProofModel" "DictProofModel" "instances" "I") ∈ lw_all := lw_g (lw_at lw_m6 162 rfl) rfl
theorem q1477 : (Jvm.Cond.soleField "DictProofModel" "instances") ∈ lw_all := lw_g (lw_at lw_m6 163 rfl) rfl
theorem q1478 : (Jvm.Cond.laysFinal "DictProofModel" "DictProofModel" "kindOf" "[I") ∈ lw_all := lw_g (lw_at lw_m6 164 rfl) rfl
theorem q1479 : (Jvm.Cond.soleField "DictProofModel" "kindOf") ∈ lw_all := lw_g (lw_at lw_m6 165 rfl) rfl
theorem q1480 : (Jvm.Cond.laysFinal "DictProofModel" "DictProofModel" "classOf" "[I") ∈ lw_all := lw_g (lw_at lw_m6 166 rfl) rfl
theorem q1481 : (Jvm.Cond.soleField "DictProofModel" "classOf") ∈ lw_all := lw_g (lw_at lw_m6 167 rfl) rfl
theorem q1482 : (Jvm.Cond.laysFinal "DictProofModel" "DictProofModel" "head" "[I") ∈ lw_all := lw_g (lw_at lw_m6 168 rfl) rfl
theorem q1483 : (Jvm.Cond.soleField "DictProofModel" "head") ∈ lw_all := lw_g (lw_at lw_m6 169 rfl) rfl
theorem q1484 : (Jvm.Cond.laysFinal "DictProofModel" "DictProofModel" "headSize" "[I") ∈ lw_all := lw_g (lw_at lw_m6 170 rfl) rfl
theorem q1485 : (Jvm.Cond.soleField "DictProofModel" "headSize") ∈ lw_all := lw_g (lw_at lw_m6 171 rfl) rfl
theorem q1486 : (Jvm.Cond.laysFinal "DictProofModel" "DictProofModel" "conditions" "[I") ∈ lw_all := lw_g (lw_at lw_m6 172 rfl) rfl
theorem q1487 : (Jvm.Cond.soleField "DictProofModel" "conditions") ∈ lw_all := lw_g (lw_at lw_m6 173 rfl) rfl
theorem q1488 : (Jvm.Cond.laysFinal "DictProofModel" "DictProofModel" "conditionClass" "[I") ∈ lw_all := lw_g (lw_at lw_m6 174 rfl) rfl
theorem q1489 : (Jvm.Cond.soleField "DictProofModel" "conditionClass") ∈ lw_all := lw_g (lw_at lw_m6 175 rfl) rfl
theorem q1490 : (Jvm.Cond.laysFinal "DictProofModel" "DictProofModel" "conditionVariable" "[I") ∈ lw_all := lw_g (lw_at lw_m6 176 rfl) rfl
theorem q1491 : (Jvm.Cond.soleField "DictProofModel" "conditionVariable") ∈ lw_all := lw_g (lw_at lw_m6 177 rfl) rfl
theorem q1492 : (Jvm.Cond.laysFinal "DictProofModel" "DictProofModel" "special" "[I") ∈ lw_all := lw_g (lw_at lw_m6 178 rfl) rfl
theorem q1493 : (Jvm.Cond.soleField "DictProofModel" "special") ∈ lw_all := lw_g (lw_at lw_m6 179 rfl) rfl
theorem q1494 : (Jvm.Cond.laysFinal "DictProofModel" "DictProofModel" "slot" "[I") ∈ lw_all := lw_g (lw_at lw_m6 180 rfl) rfl
theorem q1495 : (Jvm.Cond.soleField "DictProofModel" "slot") ∈ lw_all := lw_g (lw_at lw_m6 181 rfl) rfl
theorem q1496 : (Jvm.Cond.laysFinal "DictProofModel" "DictProofModel" "slotSize" "[I") ∈ lw_all := lw_g (lw_at lw_m6 182 rfl) rfl
theorem q1497 : (Jvm.Cond.soleField "DictProofModel" "slotSize") ∈ lw_all := lw_g (lw_at lw_m6 183 rfl) rfl
theorem q1498 : (Jvm.Cond.lays "DictProofModel" "DictProofModel" "seen" "I") ∈ lw_all := lw_g (lw_at lw_m6 184 rfl) rfl
theorem q1499 : (Jvm.Cond.soleField "DictProofModel" "seen") ∈ lw_all := lw_g (lw_at lw_m6 185 rfl) rfl
theorem q1500 : (Jvm.Cond.laysFinal "DictProofModel" "DictProofModel" "seenInstance" "[I") ∈ lw_all := lw_g (lw_at lw_m6 186 rfl) rfl
theorem q1501 : (Jvm.Cond.soleField "DictProofModel" "seenInstance") ∈ lw_all := lw_g (lw_at lw_m6 187 rfl) rfl
theorem q1502 : (Jvm.Cond.laysFinal "DictProofModel" "DictProofModel" "seenWhat" "[I") ∈ lw_all := lw_g (lw_at lw_m6 188 rfl) rfl
theorem q1503 : (Jvm.Cond.soleField "DictProofModel" "seenWhat") ∈ lw_all := lw_g (lw_at lw_m6 189 rfl) rfl
theorem q1504 : (Jvm.Cond.laysFinal "DictProofModel" "DictProofModel" "seenSo" "[I") ∈ lw_all := lw_g (lw_at lw_m6 190 rfl) rfl
theorem q1505 : (Jvm.Cond.soleField "DictProofModel" "seenSo") ∈ lw_all := lw_g (lw_at lw_m6 191 rfl) rfl
theorem q1506 : (Jvm.Cond.lays "DictProofModel" "DictProofModel" "pageLength" "I") ∈ lw_all := lw_g (lw_at lw_m6 192 rfl) rfl
theorem q1507 : (Jvm.Cond.soleField "DictProofModel" "pageLength") ∈ lw_all := lw_g (lw_at lw_m6 193 rfl) rfl
theorem q1508 : (Jvm.Cond.laysFinal "DictProofModel" "DictProofModel" "page" "[B") ∈ lw_all := lw_g (lw_at lw_m6 194 rfl) rfl
theorem q1509 : (Jvm.Cond.soleField "DictProofModel" "page") ∈ lw_all := lw_g (lw_at lw_m6 195 rfl) rfl
theorem q1510 : (Jvm.Cond.lays "DictProofModel" "DictProofModel" "isWhole" "Z") ∈ lw_all := lw_g (lw_at lw_m6 196 rfl) rfl
theorem q1511 : (Jvm.Cond.soleField "DictProofModel" "isWhole") ∈ lw_all := lw_g (lw_at lw_m6 197 rfl) rfl
theorem q1512 : (Jvm.Cond.lays "DictProofModel" "DictProofModel" "isBroken" "Z") ∈ lw_all := lw_g (lw_at lw_m6 198 rfl) rfl
theorem q1513 : (Jvm.Cond.soleField "DictProofModel" "isBroken") ∈ lw_all := lw_g (lw_at lw_m6 199 rfl) rfl
theorem q1514 : (Jvm.Cond.lays "DictProofModel" "DictProofModel" "newClasses" "I") ∈ lw_all := lw_g (lw_at lw_m6 200 rfl) rfl
theorem q1515 : (Jvm.Cond.soleField "DictProofModel" "newClasses") ∈ lw_all := lw_g (lw_at lw_m6 201 rfl) rfl
theorem q1516 : (Jvm.Cond.lays "DictProofModel" "DictProofModel" "newInstances" "I") ∈ lw_all := lw_g (lw_at lw_m6 202 rfl) rfl
theorem q1517 : (Jvm.Cond.soleField "DictProofModel" "newInstances") ∈ lw_all := lw_g (lw_at lw_m6 203 rfl) rfl
theorem q1518 : (Jvm.Cond.laysFinal "DictProofModel" "DictProofModel" "newAbove" "[I") ∈ lw_all := lw_g (lw_at lw_m6 204 rfl) rfl
theorem q1519 : (Jvm.Cond.soleField "DictProofModel" "newAbove") ∈ lw_all := lw_g (lw_at lw_m6 205 rfl) rfl
theorem q1520 : (Jvm.Cond.laysFinal "DictProofModel" "DictProofModel" "newKind" "[I") ∈ lw_all := lw_g (lw_at lw_m6 206 rfl) rfl
theorem q1521 : (Jvm.Cond.soleField "DictProofModel" "newKind") ∈ lw_all := lw_g (lw_at lw_m6 207 rfl) rfl
theorem q1522 : (Jvm.Cond.laysFinal "DictProofModel" "DictProofModel" "newClass" "[I") ∈ lw_all := lw_g (lw_at lw_m6 208 rfl) rfl
theorem q1523 : (Jvm.Cond.soleField "DictProofModel" "newClass") ∈ lw_all := lw_g (lw_at lw_m6 209 rfl) rfl
theorem q1524 : (Jvm.Cond.laysFinal "DictProofModel" "DictProofModel" "newHeadAt" "[I") ∈ lw_all := lw_g (lw_at lw_m6 210 rfl) rfl
theorem q1525 : (Jvm.Cond.soleField "DictProofModel" "newHeadAt") ∈ lw_all := lw_g (lw_at lw_m6 211 rfl) rfl
theorem q1526 : (Jvm.Cond.laysFinal "DictProofModel" "DictProofModel" "newHeadSize" "[I") ∈ lw_all := lw_g (lw_at lw_m6 212 rfl) rfl
theorem q1527 : (Jvm.Cond.soleField "DictProofModel" "newHeadSize") ∈ lw_all := lw_g (lw_at lw_m6 213 rfl) rfl
theorem q1528 : (Jvm.Cond.laysFinal "DictProofModel" "DictProofModel" "newConditions" "[I") ∈ lw_all := lw_g (lw_at lw_m6 214 rfl) rfl
theorem q1529 : (Jvm.Cond.soleField "DictProofModel" "newConditions") ∈ lw_all := lw_g (lw_at lw_m6 215 rfl) rfl
theorem q1530 : (Jvm.Cond.laysFinal "DictProofModel" "DictProofModel" "newConditionAt" "[I") ∈ lw_all := lw_g (lw_at lw_m6 216 rfl) rfl
theorem q1531 : (Jvm.Cond.soleField "DictProofModel" "newConditionAt") ∈ lw_all := lw_g (lw_at lw_m6 217 rfl) rfl
theorem q1532 : (Jvm.Cond.laysFinal "DictProofModel" "DictProofModel" "now" "[I") ∈ lw_all := lw_g (lw_at lw_m6 218 rfl) rfl
theorem q1533 : (Jvm.Cond.soleField "DictProofModel" "now") ∈ lw_all := lw_g (lw_at lw_m6 219 rfl) rfl
theorem q1534 : (Jvm.Cond.laysFinal "DictProofModel" "DictProofModel" "sizeAt" "[I") ∈ lw_all := lw_g (lw_at lw_m6 220 rfl) rfl
theorem q1535 : (Jvm.Cond.soleField "DictProofModel" "sizeAt") ∈ lw_all := lw_g (lw_at lw_m6 221 rfl) rfl
theorem q1536 : (Jvm.Cond.lays "DictProofModel" "DictProofModel" "nowSize" "I") ∈ lw_all := lw_g (lw_at lw_m6 222 rfl) rfl
theorem q1537 : (Jvm.Cond.soleField "DictProofModel" "nowSize") ∈ lw_all := lw_g (lw_at lw_m6 223 rfl) rfl
theorem q1538 : (Jvm.Cond.laysFinal "DictProofModel" "DictProofModel" "boundAt" "[I") ∈ lw_all := lw_g (lw_at lw_m6 224 rfl) rfl
theorem q1539 : (Jvm.Cond.soleField "DictProofModel" "boundAt") ∈ lw_all := lw_g (lw_at lw_m6 225 rfl) rfl
theorem q1540 : (Jvm.Cond.laysFinal "DictProofModel" "DictProofModel" "status" "[I") ∈ lw_all := lw_g (lw_at lw_m6 226 rfl) rfl
theorem q1541 : (Jvm.Cond.soleField "DictProofModel" "status") ∈ lw_all := lw_g (lw_at lw_m6 227 rfl) rfl
theorem q1542 : (Jvm.Cond.laysFinal "DictProofModel" "DictProofModel" "taken" "[I") ∈ lw_all := lw_g (lw_at lw_m6 228 rfl) rfl
theorem q1543 : (Jvm.Cond.soleField "DictProofModel" "taken") ∈ lw_all := lw_g (lw_at lw_m6 229 rfl) rfl
theorem q1544 : (Jvm.Cond.laysFinal "DictProofModel" "DictProofModel" "firstBelow" "[I") ∈ lw_all := lw_g (lw_at lw_m6 230 rfl) rfl
theorem q1545 : (Jvm.Cond.soleField "DictProofModel" "firstBelow") ∈ lw_all := lw_g (lw_at lw_m6 231 rfl) rfl
theorem q1546 : (Jvm.Cond.laysFinal "DictProofModel" "DictProofModel" "secondBelow" "[I") ∈ lw_all := lw_g (lw_at lw_m6 232 rfl) rfl
theorem q1547 : (Jvm.Cond.soleField "DictProofModel" "secondBelow") ∈ lw_all := lw_g (lw_at lw_m6 233 rfl) rfl
theorem q1548 : (Jvm.Cond.laysFinal "DictProofModel" "DictProofModel" "entries" "[I") ∈ lw_all := lw_g (lw_at lw_m6 234 rfl) rfl
theorem q1549 : (Jvm.Cond.soleField "DictProofModel" "entries") ∈ lw_all := lw_g (lw_at lw_m6 235 rfl) rfl
theorem q1550 : (Jvm.Cond.laysFinal "DictProofModel" "DictProofModel" "worth" "[I") ∈ lw_all := lw_g (lw_at lw_m6 236 rfl) rfl
theorem q1551 : (Jvm.Cond.soleField "DictProofModel" "worth") ∈ lw_all := lw_g (lw_at lw_m6 237 rfl) rfl
theorem q1552 : (Jvm.Cond.laysFinal "DictProofModel" "DictProofModel" "deep" "[I") ∈ lw_all := lw_g (lw_at lw_m6 238 rfl) rfl
theorem q1553 : (Jvm.Cond.soleField "DictProofModel" "deep") ∈ lw_all := lw_g (lw_at lw_m6 239 rfl) rfl
theorem q1554 : (Jvm.Cond.laysFinal "DictProofModel" "DictProofModel" "needs" "[I") ∈ lw_all := lw_g (lw_at lw_m7 0 rfl) rfl
theorem q1555 : (Jvm.Cond.soleField "DictProofModel" "needs") ∈ lw_all := lw_g (lw_at lw_m7 1 rfl) rfl
theorem q1556 : (Jvm.Cond.laysFinal "DictProofModel" "DictProofModel" "marked" "[I") ∈ lw_all := lw_g (lw_at lw_m7 2 rfl) rfl
theorem q1557 : (Jvm.Cond.soleField "DictProofModel" "marked") ∈ lw_all := lw_g (lw_at lw_m7 3 rfl) rfl
theorem q1558 : (Jvm.Cond.lays "DictProofModel" "DictProofModel" "one" "I") ∈ lw_all := lw_g (lw_at lw_m7 4 rfl) rfl
theorem q1559 : (Jvm.Cond.soleField "DictProofModel" "one") ∈ lw_all := lw_g (lw_at lw_m7 5 rfl) rfl
theorem q1560 : (Jvm.Cond.lays "DictProofModel" "DictProofModel" "other" "I") ∈ lw_all := lw_g (lw_at lw_m7 6 rfl) rfl
theorem q1561 : (Jvm.Cond.soleField "DictProofModel" "other") ∈ lw_all := lw_g (lw_at lw_m7 7 rfl) rfl
theorem q1562 : (Jvm.Cond.laysFinal "DictProofModel" "DictProofModel" "bound" "[I") ∈ lw_all := lw_g (lw_at lw_m7 8 rfl) rfl
theorem q1563 : (Jvm.Cond.soleField "DictProofModel" "bound") ∈ lw_all := lw_g (lw_at lw_m7 9 rfl) rfl
theorem q1564 : (Jvm.Cond.laysFinal "DictProofModel" "DictProofModel" "pairOne" "[I") ∈ lw_all := lw_g (lw_at lw_m7 10 rfl) rfl
theorem q1565 : (Jvm.Cond.soleField "DictProofModel" "pairOne") ∈ lw_all := lw_g (lw_at lw_m7 11 rfl) rfl
theorem q1566 : (Jvm.Cond.laysFinal "DictProofModel" "DictProofModel" "pairOther" "[I") ∈ lw_all := lw_g (lw_at lw_m7 12 rfl) rfl
theorem q1567 : (Jvm.Cond.soleField "DictProofModel" "pairOther") ∈ lw_all := lw_g (lw_at lw_m7 13 rfl) rfl
theorem q1568 : (Jvm.Cond.lays "DictProofModel" "DictProofModel" "pairs" "I") ∈ lw_all := lw_g (lw_at lw_m7 14 rfl) rfl
theorem q1569 : (Jvm.Cond.soleField "DictProofModel" "pairs") ∈ lw_all := lw_g (lw_at lw_m7 15 rfl) rfl
theorem q1570 : (Jvm.Cond.laysFinal "DictProofModel" "DictProofModel" "waiting" "[I") ∈ lw_all := lw_g (lw_at lw_m7 16 rfl) rfl
theorem q1571 : (Jvm.Cond.soleField "DictProofModel" "waiting") ∈ lw_all := lw_g (lw_at lw_m7 17 rfl) rfl
theorem q1572 : (Jvm.Cond.lays "DictProofModel" "DictProofModel" "seedNow" "J") ∈ lw_all := lw_g (lw_at lw_m7 18 rfl) rfl
theorem q1573 : (Jvm.Cond.soleField "DictProofModel" "seedNow") ∈ lw_all := lw_g (lw_at lw_m7 19 rfl) rfl
theorem q1574 : (Jvm.Cond.lays "DictProofModel" "DictProofModel" "isKept" "Z") ∈ lw_all := lw_g (lw_at lw_m7 20 rfl) rfl
theorem q1575 : (Jvm.Cond.soleField "DictProofModel" "isKept") ∈ lw_all := lw_g (lw_at lw_m7 21 rfl) rfl
theorem q1576 : (Jvm.Cond.lays "DictProofModel" "DictProofModel" "keptBook" "I") ∈ lw_all := lw_g (lw_at lw_m7 22 rfl) rfl
theorem q1577 : (Jvm.Cond.soleField "DictProofModel" "keptBook") ∈ lw_all := lw_g (lw_at lw_m7 23 rfl) rfl
theorem q1578 : (Jvm.Cond.lays "DictProofModel" "DictProofModel" "keptSeen" "I") ∈ lw_all := lw_g (lw_at lw_m7 24 rfl) rfl
theorem q1579 : (Jvm.Cond.soleField "DictProofModel" "keptSeen") ∈ lw_all := lw_g (lw_at lw_m7 25 rfl) rfl
theorem q1580 : (Jvm.Cond.laysFinal "DictProofModel" "DictProofModel" "keptKind" "[I") ∈ lw_all := lw_g (lw_at lw_m7 26 rfl) rfl
theorem q1581 : (Jvm.Cond.soleField "DictProofModel" "keptKind") ∈ lw_all := lw_g (lw_at lw_m7 27 rfl) rfl
theorem q1582 : (Jvm.Cond.laysFinal "DictProofModel" "DictProofModel" "keptSlot" "[I") ∈ lw_all := lw_g (lw_at lw_m7 28 rfl) rfl
theorem q1583 : (Jvm.Cond.soleField "DictProofModel" "keptSlot") ∈ lw_all := lw_g (lw_at lw_m7 29 rfl) rfl
theorem q1584 : (Jvm.Cond.laysFinal "DictProofModel" "DictProofModel" "keptSize" "[I") ∈ lw_all := lw_g (lw_at lw_m7 30 rfl) rfl
theorem q1585 : (Jvm.Cond.soleField "DictProofModel" "keptSize") ∈ lw_all := lw_g (lw_at lw_m7 31 rfl) rfl
theorem q1586 : (Jvm.Cond.laysFinal "DictProofModel" "DictProofModel" "keptInstance" "[I") ∈ lw_all := lw_g (lw_at lw_m7 32 rfl) rfl
theorem q1587 : (Jvm.Cond.soleField "DictProofModel" "keptInstance") ∈ lw_all := lw_g (lw_at lw_m7 33 rfl) rfl
theorem q1588 : (Jvm.Cond.laysFinal "DictProofModel" "DictProofModel" "keptWhat" "[I") ∈ lw_all := lw_g (lw_at lw_m7 34 rfl) rfl
theorem q1589 : (Jvm.Cond.soleField "DictProofModel" "keptWhat") ∈ lw_all := lw_g (lw_at lw_m7 35 rfl) rfl
theorem q1590 : (Jvm.Cond.laysFinal "DictProofModel" "DictProofModel" "keptSo" "[I") ∈ lw_all := lw_g (lw_at lw_m7 36 rfl) rfl
theorem q1591 : (Jvm.Cond.soleField "DictProofModel" "keptSo") ∈ lw_all := lw_g (lw_at lw_m7 37 rfl) rfl
theorem q1592 : (Jvm.Cond.lays "DictProofModel" "DictProofModel" "h" "J") ∈ lw_all := lw_g (lw_at lw_m7 38 rfl) rfl
theorem q1593 : (Jvm.Cond.soleField "DictProofModel" "h") ∈ lw_all := lw_g (lw_at lw_m7 39 rfl) rfl
theorem q1594 : (Jvm.Cond.superclass "DictProofModel" "java/lang/Object") ∈ lw_all := lw_g (lw_at lw_m7 40 rfl) rfl
theorem q1596 : (Jvm.Cond.instanceMethod ({ cls := "DictProofModel", name := "letter", desc := "(I)I" } : Jvm.MethodName)) ∈ lw_all := lw_g (lw_at lw_m7 42 rfl) rfl
theorem q1597 : (Jvm.Cond.selects "DictProofModel" ({ cls := "DictProofModel", name := "letter", desc := "(I)I" } : Jvm.MethodName) ({ cls := "DictProofModel", name := "letter", desc := "(I)I" } : Jvm.MethodName)) ∈ lw_all := lw_g (lw_at lw_m7 43 rfl) rfl
theorem q1598 : (Jvm.Cond.code ({ cls := "DictProofModel", name := "letter", desc := "(I)I" } : Jvm.MethodName) prog_13_method_8_code (2 : Nat) (Option.some Jvm.ClassFile.FieldType.int)) ∈ lw_all := lw_g (lw_at lw_m7 44 rfl) rfl
theorem q1599 : (Jvm.Cond.methodLink "DictProofModel" (146 : Nat) ({ cls := "DictProofModel", name := "within", desc := "(III)Z" } : Jvm.MethodName)) ∈ lw_all := lw_g (lw_at lw_m7 45 rfl) rfl
theorem q1600 : (Jvm.Cond.static ({ cls := "DictProofModel", name := "within", desc := "(III)Z" } : Jvm.MethodName)) ∈ lw_all := lw_g (lw_at lw_m7 46 rfl) rfl
theorem q1601 : (Jvm.Cond.code ({ cls := "DictProofModel", name := "within", desc := "(III)Z" } : Jvm.MethodName) prog_13_method_3_code (3 : Nat) (Option.some Jvm.ClassFile.FieldType.boolean)) ∈ lw_all := lw_g (lw_at lw_m7 47 rfl) rfl
theorem q1603 : (Jvm.Cond.instanceMethod ({ cls := "DictProofModel", name := "blank", desc := "()I" } : Jvm.MethodName)) ∈ lw_all := lw_g (lw_at lw_m7 49 rfl) rfl
theorem q1604 : (Jvm.Cond.selects "DictProofModel" ({ cls := "DictProofModel", name := "blank", desc := "()I" } : Jvm.MethodName) ({ cls := "DictProofModel", name := "blank", desc := "()I" } : Jvm.MethodName)) ∈ lw_all := lw_g (lw_at lw_m7 50 rfl) rfl
theorem q1605 : (Jvm.Cond.code ({ cls := "DictProofModel", name := "blank", desc := "()I" } : Jvm.MethodName) prog_13_method_9_code (2 : Nat) (Option.some Jvm.ClassFile.FieldType.int)) ∈ lw_all := lw_g (lw_at lw_m7 51 rfl) rfl
theorem q1607 : (Jvm.Cond.instanceMethod ({ cls := "DictProofModel", name := "fault", desc := "()I" } : Jvm.MethodName)) ∈ lw_all := lw_g (lw_at lw_m7 53 rfl) rfl
theorem q1608 : (Jvm.Cond.selects "DictProofModel" ({ cls := "DictProofModel", name := "fault", desc := "()I" } : Jvm.MethodName) ({ cls := "DictProofModel", name := "fault", desc := "()I" } : Jvm.MethodName)) ∈ lw_all := lw_g (lw_at lw_m7 54 rfl) rfl
theorem q1609 : (Jvm.Cond.code ({ cls := "DictProofModel", name := "fault", desc := "()I" } : Jvm.MethodName) prog_13_method_21_code (1 : Nat) (Option.some Jvm.ClassFile.FieldType.int)) ∈ lw_all := lw_g (lw_at lw_m7 55 rfl) rfl
theorem q1610 : (Jvm.Cond.methodLink "DictProofModel" (208 : Nat) ({ cls := "DictProofModel", name := "read", desc := "()I" } : Jvm.MethodName)) ∈ lw_all := lw_g (lw_at lw_m7 56 rfl) rfl
theorem q1611 : (Jvm.Cond.privateMethod ({ cls := "DictProofModel", name := "read", desc := "()I" } : Jvm.MethodName)) ∈ lw_tbl := lw_at lw_m7 57 rfl
theorem q1612 : (Jvm.Cond.instanceMethod ({ cls := "DictProofModel", name := "read", desc := "()I" } : Jvm.MethodName)) ∈ lw_all := lw_g (lw_at lw_m7 58 rfl) rfl
theorem q1613 : (Jvm.Cond.code ({ cls := "DictProofModel", name := "read", desc := "()I" } : Jvm.MethodName) prog_13_method_20_code (2 : Nat) (Option.some Jvm.ClassFile.FieldType.int)) ∈ lw_all := lw_g (lw_at lw_m7 59 rfl) rfl
theorem q1614 : (Jvm.Cond.methodLink "DictProofModel" (201 : Nat) ({ cls := "DictProofModel", name := "readClasses", desc := "()I" } : Jvm.MethodName)) ∈ lw_all := lw_g (lw_at lw_m7 60 rfl) rfl
theorem q1615 : (Jvm.Cond.privateMethod ({ cls := "DictProofModel", name := "readClasses", desc := "()I" } : Jvm.MethodName)) ∈ lw_tbl := lw_at lw_m7 61 rfl
theorem q1616 : (Jvm.Cond.instanceMethod ({ cls := "DictProofModel", name := "readClasses", desc := "()I" } : Jvm.MethodName)) ∈ lw_all := lw_g (lw_at lw_m7 62 rfl) rfl
theorem q1617 : (Jvm.Cond.code ({ cls := "DictProofModel", name := "readClasses", desc := "()I" } : Jvm.MethodName) prog_13_method_15_code (2 : Nat) (Option.some Jvm.ClassFile.FieldType.int)) ∈ lw_all := lw_g (lw_at lw_m7 63 rfl) rfl
theorem q1618 : (Jvm.Cond.methodLink "DictProofModel" (171 : Nat) ({ cls := "DictProofModel", name := "readClass", desc := "(I)I" } : Jvm.MethodName)) ∈ lw_all := lw_g (lw_at lw_m7 64 rfl) rfl
theorem q1619 : (Jvm.Cond.privateMethod ({ cls := "DictProofModel", name := "readClass", desc := "(I)I" } : Jvm.MethodName)) ∈ lw_tbl := lw_at lw_m7 65 rfl
theorem q1620 : (Jvm.Cond.instanceMethod ({ cls := "DictProofModel", name := "readClass", desc := "(I)I" } : Jvm.MethodName)) ∈ lw_all := lw_g (lw_at lw_m7 66 rfl) rfl
theorem q1621 : (Jvm.Cond.code ({ cls := "DictProofModel", name := "readClass", desc := "(I)I" } : Jvm.MethodName) prog_13_method_14_code (4 : Nat) (Option.some Jvm.ClassFile.FieldType.int)) ∈ lw_all := lw_g (lw_at lw_m7 67 rfl) rfl
theorem q1622 : (Jvm.Cond.methodLink "DictProofModel" (154 : Nat) ({ cls := "DictProofModel", name := "at", desc := "(I)I" } : Jvm.MethodName)) ∈ lw_all := lw_g (lw_at lw_m7 68 rfl) rfl
theorem q1623 : (Jvm.Cond.privateMethod ({ cls := "DictProofModel", name := "at", desc := "(I)I" } : Jvm.MethodName)) ∈ lw_tbl := lw_at lw_m7 69 rfl
theorem q1624 : (Jvm.Cond.instanceMethod ({ cls := "DictProofModel", name := "at", desc := "(I)I" } : Jvm.MethodName)) ∈ lw_all := lw_g (lw_at lw_m7 70 rfl) rfl
theorem q1625 : (Jvm.Cond.code ({ cls := "DictProofModel", name := "at", desc := "(I)I" } : Jvm.MethodName) prog_13_method_11_code (2 : Nat) (Option.some Jvm.ClassFile.FieldType.int)) ∈ lw_all := lw_g (lw_at lw_m7 71 rfl) rfl
theorem q1626 : (Jvm.Cond.methodLink "DictProofModel" (165 : Nat) ({ cls := "DictProofModel", name := "figure", desc := "(I)I" } : Jvm.MethodName)) ∈ lw_all := lw_g (lw_at lw_m7 72 rfl) rfl
theorem q1627 : (Jvm.Cond.privateMethod ({ cls := "DictProofModel", name := "figure", desc := "(I)I" } : Jvm.MethodName)) ∈ lw_tbl := lw_at lw_m7 73 rfl
theorem q1628 : (Jvm.Cond.instanceMethod ({ cls := "DictProofModel", name := "figure", desc := "(I)I" } : Jvm.MethodName)) ∈ lw_all := lw_g (lw_at lw_m7 74 rfl) rfl
theorem q1629 : (Jvm.Cond.code ({ cls := "DictProofModel", name := "figure", desc := "(I)I" } : Jvm.MethodName) prog_13_method_12_code (2 : Nat) (Option.some Jvm.ClassFile.FieldType.int)) ∈ lw_all := lw_g (lw_at lw_m7 75 rfl) rfl
theorem q1630 : (Jvm.Cond.methodLink "DictProofModel" (168 : Nat) ({ cls := "DictProofModel", name := "broken", desc := "(I)I" } : Jvm.MethodName)) ∈ lw_all := lw_g (lw_at lw_m7 76 rfl) rfl
theorem q1631 : (Jvm.Cond.privateMethod ({ cls := "DictProofModel", name := "broken", desc := "(I)I" } : Jvm.MethodName)) ∈ lw_tbl := lw_at lw_m7 77 rfl
theorem q1632 : (Jvm.Cond.instanceMethod ({ cls := "DictProofModel", name := "broken", desc := "(I)I" } : Jvm.MethodName)) ∈ lw_all := lw_g (lw_at lw_m7 78 rfl) rfl
theorem q1633 : (Jvm.Cond.code ({ cls := "DictProofModel", name := "broken", desc := "(I)I" } : Jvm.MethodName) prog_13_method_13_code (2 : Nat) (Option.some Jvm.ClassFile.FieldType.int)) ∈ lw_all := lw_g (lw_at lw_m7 79 rfl) rfl
theorem q1634 : (Jvm.Cond.methodLink "DictProofModel" (205 : Nat) ({ cls := "DictProofModel", name := "readInstance", desc := "(I)I" } : Jvm.MethodName)) ∈ lw_all := lw_g (lw_at lw_m7 80 rfl) rfl
theorem q1635 : (Jvm.Cond.privateMethod ({ cls := "DictProofModel", name := "readInstance", desc := "(I)I" } : Jvm.MethodName)) ∈ lw_tbl := lw_at lw_m7 81 rfl
theorem q1636 : (Jvm.Cond.instanceMethod ({ cls := "DictProofModel", name := "readInstance", desc := "(I)I" } : Jvm.MethodName)) ∈ lw_all := lw_g (lw_at lw_m7 82 rfl) rfl
theorem q1637 : (Jvm.Cond.code ({ cls := "DictProofModel", name := "readInstance", desc := "(I)I" } : Jvm.MethodName) prog_13_method_19_code (4 : Nat) (Option.some Jvm.ClassFile.FieldType.int)) ∈ lw_all := lw_g (lw_at lw_m7 83 rfl) rfl
theorem q1638 : (Jvm.Cond.methodLink "DictProofModel" (188 : Nat) ({ cls := "DictProofModel", name := "kindBy", desc := "(I)I" } : Jvm.MethodName)) ∈ lw_all := lw_g (lw_at lw_m7 84 rfl) rfl
theorem q1639 : (Jvm.Cond.static ({ cls := "DictProofModel", name := "kindBy", desc := "(I)I" } : Jvm.MethodName)) ∈ lw_all := lw_g (lw_at lw_m7 85 rfl) rfl
theorem q1640 : (Jvm.Cond.code ({ cls := "DictProofModel", name := "kindBy", desc := "(I)I" } : Jvm.MethodName) prog_13_method_10_code (1 : Nat) (Option.some Jvm.ClassFile.FieldType.int)) ∈ lw_all := lw_g (lw_at lw_m7 86 rfl) rfl
theorem q1641 : (Jvm.Cond.methodLink "DictProofModel" (191 : Nat) ({ cls := "DictProofModel", name := "readHead", desc := "(II)I" } : Jvm.MethodName)) ∈ lw_all := lw_g (lw_at lw_m7 87 rfl) rfl
theorem q1642 : (Jvm.Cond.privateMethod ({ cls := "DictProofModel", name := "readHead", desc := "(II)I" } : Jvm.MethodName)) ∈ lw_tbl := lw_at lw_m7 88 rfl
theorem q1643 : (Jvm.Cond.instanceMethod ({ cls := "DictProofModel", name := "readHead", desc := "(II)I" } : Jvm.MethodName)) ∈ lw_all := lw_g (lw_at lw_m7 89 rfl) rfl
theorem q1644 : (Jvm.Cond.code ({ cls := "DictProofModel", name := "readHead", desc := "(II)I" } : Jvm.MethodName) prog_13_method_16_code (6 : Nat) (Option.some Jvm.ClassFile.FieldType.int)) ∈ lw_all := lw_g (lw_at lw_m7 90 rfl) rfl
theorem q1645 : (Jvm.Cond.methodLink "DictProofModel" (174 : Nat) ({ cls := "DictProofModel", name := "wants", desc := "(I)I" } : Jvm.MethodName)) ∈ lw_all := lw_g (lw_at lw_m7 91 rfl) rfl
theorem q1646 : (Jvm.Cond.static ({ cls := "DictProofModel", name := "wants", desc := "(I)I" } : Jvm.MethodName)) ∈ lw_all := lw_g (lw_at lw_m7 92 rfl) rfl
theorem q1647 : (Jvm.Cond.code ({ cls := "DictProofModel", name := "wants", desc := "(I)I" } : Jvm.MethodName) prog_13_method_7_code (1 : Nat) (Option.some Jvm.ClassFile.FieldType.int)) ∈ lw_all := lw_g (lw_at lw_m7 93 rfl) rfl
theorem q1648 : (Jvm.Cond.methodLink "DictProofModel" (195 : Nat) ({ cls := "DictProofModel", name := "readConditions", desc := "(II)I" } : Jvm.MethodName)) ∈ lw_all := lw_g (lw_at lw_m7 94 rfl) rfl
theorem q1649 : (Jvm.Cond.privateMethod ({ cls := "DictProofModel", name := "readConditions", desc := "(II)I" } : Jvm.MethodName)) ∈ lw_tbl := lw_at lw_m7 95 rfl
theorem q1650 : (Jvm.Cond.instanceMethod ({ cls := "DictProofModel", name := "readConditions", desc := "(II)I" } : Jvm.MethodName)) ∈ lw_all := lw_g (lw_at lw_m7 96 rfl) rfl
theorem q1651 : (Jvm.Cond.code ({ cls := "DictProofModel", name := "readConditions", desc := "(II)I" } : Jvm.MethodName) prog_13_method_18_code (5 : Nat) (Option.some Jvm.ClassFile.FieldType.int)) ∈ lw_all := lw_g (lw_at lw_m7 97 rfl) rfl
theorem q1652 : (Jvm.Cond.methodLink "DictProofModel" (177 : Nat) ({ cls := "DictProofModel", name := "isInHead", desc := "(II)Z" } : Jvm.MethodName)) ∈ lw_all := lw_g (lw_at lw_m7 98 rfl) rfl
theorem q1653 : (Jvm.Cond.privateMethod ({ cls := "DictProofModel", name := "isInHead", desc := "(II)Z" } : Jvm.MethodName)) ∈ lw_tbl := lw_at lw_m7 99 rfl
theorem q1654 : (Jvm.Cond.instanceMethod ({ cls := "DictProofModel", name := "isInHead", desc := "(II)Z" } : Jvm.MethodName)) ∈ lw_all := lw_g (lw_at lw_m7 100 rfl) rfl
theorem q1655 : (Jvm.Cond.code ({ cls := "DictProofModel", name := "isInHead", desc := "(II)Z" } : Jvm.MethodName) prog_13_method_17_code (5 : Nat) (Option.some Jvm.ClassFile.FieldType.boolean)) ∈ lw_all := lw_g (lw_at lw_m7 101 rfl) rfl
theorem q1656 : (Jvm.Cond.methodLink "DictProofModel" (181 : Nat) ({ cls := "DictProofModel", name := "isVariable", desc := "(I)Z" } : Jvm.MethodName)) ∈ lw_all := lw_g (lw_at lw_m7 102 rfl) rfl
theorem q1657 : (Jvm.Cond.static ({ cls := "DictProofModel", name := "isVariable", desc := "(I)Z" } : Jvm.MethodName)) ∈ lw_all := lw_g (lw_at lw_m7 103 rfl) rfl
theorem q1658 : (Jvm.Cond.code ({ cls := "DictProofModel", name := "isVariable", desc := "(I)Z" } : Jvm.MethodName) prog_13_method_6_code (1 : Nat) (Option.some Jvm.ClassFile.FieldType.boolean)) ∈ lw_all := lw_g (lw_at lw_m7 104 rfl) rfl
theorem q1660 : (Jvm.Cond.instanceMethod ({ cls := "DictProofModel", name := "book", desc := "()I" } : Jvm.MethodName)) ∈ lw_all := lw_g (lw_at lw_m7 106 rfl) rfl
theorem q1661 : (Jvm.Cond.selects "DictProofModel" ({ cls := "DictProofModel", name := "book", desc := "()I" } : Jvm.MethodName) ({ cls := "DictProofModel", name := "book", desc := "()I" } : Jvm.MethodName)) ∈ lw_all := lw_g (lw_at lw_m7 107 rfl) rfl
theorem q1662 : (Jvm.Cond.code ({ cls := "DictProofModel", name := "book", desc := "()I" } : Jvm.MethodName) prog_13_method_22_code (3 : Nat) (Option.some Jvm.ClassFile.FieldType.int)) ∈ lw_all := lw_g (lw_at lw_m7 108 rfl) rfl
theorem q1663 : (Jvm.Cond.methodLink "DictProofModel" (214 : Nat) ({ cls := "DictProofModel", name := "isIn", desc := "(II)Z" } : Jvm.MethodName)) ∈ lw_all := lw_g (lw_at lw_m7 109 rfl) rfl
theorem q1664 : (Jvm.Cond.static ({ cls := "DictProofModel", name := "isIn", desc := "(II)Z" } : Jvm.MethodName)) ∈ lw_all := lw_g (lw_at lw_m7 110 rfl) rfl
theorem q1665 : (Jvm.Cond.code ({ cls := "DictProofModel", name := "isIn", desc := "(II)Z" } : Jvm.MethodName) prog_13_method_4_code (2 : Nat) (Option.some Jvm.ClassFile.FieldType.boolean)) ∈ lw_all := lw_g (lw_at lw_m7 111 rfl) rfl
theorem q1666 : (Jvm.Cond.methodLink "DictProofModel" (220 : Nat) ({ cls := "DictProofModel", name := "takeInstance", desc := "(I)V" } : Jvm.MethodName)) ∈ lw_all := lw_g (lw_at lw_m7 112 rfl) rfl
theorem q1667 : (Jvm.Cond.privateMethod ({ cls := "DictProofModel", name := "takeInstance", desc := "(I)V" } : Jvm.MethodName)) ∈ lw_tbl := lw_at lw_m7 113 rfl
theorem q1668 : (Jvm.Cond.instanceMethod ({ cls := "DictProofModel", name := "takeInstance", desc := "(I)V" } : Jvm.MethodName)) ∈ lw_all := lw_g (lw_at lw_m7 114 rfl) rfl
theorem q1669 : (Jvm.Cond.code ({ cls := "DictProofModel", name := "takeInstance", desc := "(I)V" } : Jvm.MethodName) prog_13_method_23_code (4 : Nat) (Option.none : Option Jvm.ClassFile.FieldType)) ∈ lw_all := lw_g (lw_at lw_m7 115 rfl) rfl
theorem q1670 : (Jvm.Cond.methodLink "DictProofModel" (224 : Nat) ({ cls := "DictProofModel", name := "laySpecial", desc := "()V" } : Jvm.MethodName)) ∈ lw_all := lw_g (lw_at lw_m7 116 rfl) rfl
theorem q1671 : (Jvm.Cond.privateMethod ({ cls := "DictProofModel", name := "laySpecial", desc := "()V" } : Jvm.MethodName)) ∈ lw_tbl := lw_at lw_m7 117 rfl
theorem q1672 : (Jvm.Cond.instanceMethod ({ cls := "DictProofModel", name := "laySpecial", desc := "()V" } : Jvm.MethodName)) ∈ lw_all := lw_g (lw_at lw_m7 118 rfl) rfl
theorem q1673 : (Jvm.Cond.code ({ cls := "DictProofModel", name := "laySpecial", desc := "()V" } : Jvm.MethodName) prog_13_method_29_code (4 : Nat) (Option.none : Option Jvm.ClassFile.FieldType)) ∈ lw_all := lw_g (lw_at lw_m7 119 rfl) rfl
theorem q1674 : (Jvm.Cond.methodLink "DictProofModel" (242 : Nat) ({ cls := "DictProofModel", name := "layHead", desc := "(I)V" } : Jvm.MethodName)) ∈ lw_all := lw_g (lw_at lw_m7 120 rfl) rfl
theorem q1675 : (Jvm.Cond.privateMethod ({ cls := "DictProofModel", name := "layHead", desc := "(I)V" } : Jvm.MethodName)) ∈ lw_tbl := lw_at lw_m7 121 rfl
theorem q1676 : (Jvm.Cond.instanceMethod ({ cls := "DictProofModel", name := "layHead", desc := "(I)V" } : Jvm.MethodName)) ∈ lw_all := lw_g (lw_at lw_m7 122 rfl) rfl
theorem q1677 : (Jvm.Cond.code ({ cls := "DictProofModel", name := "layHead", desc := "(I)V" } : Jvm.MethodName) prog_13_method_25_code (3 : Nat) (Option.none : Option Jvm.ClassFile.FieldType)) ∈ lw_all := lw_g (lw_at lw_m7 123 rfl) rfl
theorem q1678 : (Jvm.Cond.methodLink "DictProofModel" (236 : Nat) ({ cls := "DictProofModel", name := "laySizes", desc := "()V" } : Jvm.MethodName)) ∈ lw_all := lw_g (lw_at lw_m7 124 rfl) rfl
theorem q1679 : (Jvm.Cond.privateMethod ({ cls := "DictProofModel", name := "laySizes", desc := "()V" } : Jvm.MethodName)) ∈ lw_tbl := lw_at lw_m7 125 rfl
theorem q1680 : (Jvm.Cond.instanceMethod ({ cls := "DictProofModel", name := "laySizes", desc := "()V" } : Jvm.MethodName)) ∈ lw_all := lw_g (lw_at lw_m7 126 rfl) rfl
theorem q1681 : (Jvm.Cond.code ({ cls := "DictProofModel", name := "laySizes", desc := "()V" } : Jvm.MethodName) prog_13_method_24_code (4 : Nat) (Option.none : Option Jvm.ClassFile.FieldType)) ∈ lw_all := lw_g (lw_at lw_m7 127 rfl) rfl
theorem q1682 : (Jvm.Cond.methodLink "DictProofModel" (245 : Nat) ({ cls := "DictProofModel", name := "fitsAt", desc := "(II)Z" } : Jvm.MethodName)) ∈ lw_all := lw_g (lw_at lw_m7 128 rfl) rfl
theorem q1683 : (Jvm.Cond.privateMethod ({ cls := "DictProofModel", name := "fitsAt", desc := "(II)Z" } : Jvm.MethodName)) ∈ lw_tbl := lw_at lw_m7 129 rfl
theorem q1684 : (Jvm.Cond.instanceMethod ({ cls := "DictProofModel", name := "fitsAt", desc := "(II)Z" } : Jvm.MethodName)) ∈ lw_all := lw_g (lw_at lw_m7 130 rfl) rfl
theorem q1685 : (Jvm.Cond.code ({ cls := "DictProofModel", name := "fitsAt", desc := "(II)Z" } : Jvm.MethodName) prog_13_method_28_code (7 : Nat) (Option.some Jvm.ClassFile.FieldType.boolean)) ∈ lw_all := lw_g (lw_at lw_m7 131 rfl) rfl
theorem q1686 : (Jvm.Cond.methodLink "DictProofModel" (239 : Nat) ({ cls := "DictProofModel", name := "isSameAt", desc := "(II)Z" } : Jvm.MethodName)) ∈ lw_all := lw_g (lw_at lw_m7 132 rfl) rfl
theorem q1687 : (Jvm.Cond.privateMethod ({ cls := "DictProofModel", name := "isSameAt", desc := "(II)Z" } : Jvm.MethodName)) ∈ lw_tbl := lw_at lw_m7 133 rfl
theorem q1688 : (Jvm.Cond.instanceMethod ({ cls := "DictProofModel", name := "isSameAt", desc := "(II)Z" } : Jvm.MethodName)) ∈ lw_all := lw_g (lw_at lw_m7 134 rfl) rfl
theorem q1689 : (Jvm.Cond.code ({ cls := "DictProofModel", name := "isSameAt", desc := "(II)Z" } : Jvm.MethodName) prog_13_method_27_code (5 : Nat) (Option.some Jvm.ClassFile.FieldType.boolean)) ∈ lw_all := lw_g (lw_at lw_m7 135 rfl) rfl
theorem q1691 : (Jvm.Cond.instanceMethod ({ cls := "DictProofModel", name := "type", desc := "(I)I" } : Jvm.MethodName)) ∈ lw_all := lw_g (lw_at lw_m7 137 rfl) rfl
theorem q1692 : (Jvm.Cond.selects "DictProofModel" ({ cls := "DictProofModel", name := "type", desc := "(I)I" } : Jvm.MethodName) ({ cls := "DictProofModel", name := "type", desc := "(I)I" } : Jvm.MethodName)) ∈ lw_all := lw_g (lw_at lw_m7 138 rfl) rfl
theorem q1693 : (Jvm.Cond.code ({ cls := "DictProofModel", name := "type", desc := "(I)I" } : Jvm.MethodName) prog_13_method_48_code (5 : Nat) (Option.some Jvm.ClassFile.FieldType.int)) ∈ lw_all := lw_g (lw_at lw_m7 139 rfl) rfl
theorem q1695 : (Jvm.Cond.instanceMethod ({ cls := "DictProofModel", name := "about", desc := "(II)I" } : Jvm.MethodName)) ∈ lw_all := lw_g (lw_at lw_m7 141 rfl) rfl
theorem q1696 : (Jvm.Cond.selects "DictProofModel" ({ cls := "DictProofModel", name := "about", desc := "(II)I" } : Jvm.MethodName) ({ cls := "DictProofModel", name := "about", desc := "(II)I" } : Jvm.MethodName)) ∈ lw_all := lw_g (lw_at lw_m7 142 rfl) rfl
theorem q1697 : (Jvm.Cond.code ({ cls := "DictProofModel", name := "about", desc := "(II)I" } : Jvm.MethodName) prog_13_method_51_code (3 : Nat) (Option.some Jvm.ClassFile.FieldType.int)) ∈ lw_all := lw_g (lw_at lw_m7 143 rfl) rfl
theorem q1698 : (Jvm.Cond.methodLink "DictProofModel" (289 : Nat) ({ cls := "DictProofModel", name := "isClass", desc := "(I)Z" } : Jvm.MethodName)) ∈ lw_all := lw_g (lw_at lw_m7 144 rfl) rfl
theorem q1699 : (Jvm.Cond.privateMethod ({ cls := "DictProofModel", name := "isClass", desc := "(I)Z" } : Jvm.MethodName)) ∈ lw_tbl := lw_at lw_m7 145 rfl
theorem q1700 : (Jvm.Cond.instanceMethod ({ cls := "DictProofModel", name := "isClass", desc := "(I)Z" } : Jvm.MethodName)) ∈ lw_all := lw_g (lw_at lw_m7 146 rfl) rfl
theorem q1701 : (Jvm.Cond.code ({ cls := "DictProofModel", name := "isClass", desc := "(I)Z" } : Jvm.MethodName) prog_13_method_45_code (2 : Nat) (Option.some Jvm.ClassFile.FieldType.boolean)) ∈ lw_all := lw_g (lw_at lw_m7 147 rfl) rfl
theorem q1702 : (Jvm.Cond.methodLink "DictProofModel" (292 : Nat) ({ cls := "DictProofModel", name := "aboutNow", desc := "(II)I" } : Jvm.MethodName)) ∈ lw_all := lw_g (lw_at lw_m7 148 rfl) rfl
theorem q1703 : (Jvm.Cond.privateMethod ({ cls := "DictProofModel", name := "aboutNow", desc := "(II)I" } : Jvm.MethodName)) ∈ lw_tbl := lw_at lw_m7 149 rfl
theorem q1704 : (Jvm.Cond.instanceMethod ({ cls := "DictProofModel", name := "aboutNow", desc := "(II)I" } : Jvm.MethodName)) ∈ lw_all := lw_g (lw_at lw_m7 150 rfl) rfl
theorem q1705 : (Jvm.Cond.code ({ cls := "DictProofModel", name := "aboutNow", desc := "(II)I" } : Jvm.MethodName) prog_13_method_50_code (3 : Nat) (Option.some Jvm.ClassFile.FieldType.int)) ∈ lw_all := lw_g (lw_at lw_m7 151 rfl) rfl
theorem q1706 : (Jvm.Cond.methodLink "DictProofModel" (286 : Nat) ({ cls := "DictProofModel", name := "instancesOf", desc := "(I)I" } : Jvm.MethodName)) ∈ lw_all := lw_g (lw_at lw_m7 152 rfl) rfl
theorem q1707 : (Jvm.Cond.privateMethod ({ cls := "DictProofModel", name := "instancesOf", desc := "(I)I" } : Jvm.MethodName)) ∈ lw_tbl := lw_at lw_m7 153 rfl
theorem q1708 : (Jvm.Cond.instanceMethod ({ cls := "DictProofModel", name := "instancesOf", desc := "(I)I" } : Jvm.MethodName)) ∈ lw_all := lw_g (lw_at lw_m7 154 rfl) rfl
theorem q1709 : (Jvm.Cond.code ({ cls := "DictProofModel", name := "instancesOf", desc := "(I)I" } : Jvm.MethodName) prog_13_method_49_code (4 : Nat) (Option.some Jvm.ClassFile.FieldType.int)) ∈ lw_all := lw_g (lw_at lw_m7 155 rfl) rfl
theorem q1711 : (Jvm.Cond.instanceMethod ({ cls := "DictProofModel", name := "instance", desc := "(II)I" } : Jvm.MethodName)) ∈ lw_all := lw_g (lw_at lw_m7 157 rfl) rfl
theorem q1712 : (Jvm.Cond.selects "DictProofModel" ({ cls := "DictProofModel", name := "instance", desc := "(II)I" } : Jvm.MethodName) ({ cls := "DictProofModel", name := "instance", desc := "(II)I" } : Jvm.MethodName)) ∈ lw_all := lw_g (lw_at lw_m7 158 rfl) rfl
theorem q1713 : (Jvm.Cond.code ({ cls := "DictProofModel", name := "instance", desc := "(II)I" } : Jvm.MethodName) prog_13_method_55_code (3 : Nat) (Option.some Jvm.ClassFile.FieldType.int)) ∈ lw_all := lw_g (lw_at lw_m7 159 rfl) rfl
theorem q1714 : (Jvm.Cond.methodLink "DictProofModel" (310 : Nat) ({ cls := "DictProofModel", name := "isInstance", desc := "(I)Z" } : Jvm.MethodName)) ∈ lw_all := lw_g (lw_at lw_m7 160 rfl) rfl
theorem q1715 : (Jvm.Cond.privateMethod ({ cls := "DictProofModel", name := "isInstance", desc := "(I)Z" } : Jvm.MethodName)) ∈ lw_tbl := lw_at lw_m7 161 rfl
theorem q1716 : (Jvm.Cond.instanceMethod ({ cls := "DictProofModel", name := "isInstance", desc := "(I)Z" } : Jvm.MethodName)) ∈ lw_all := lw_g (lw_at lw_m7 162 rfl) rfl
theorem q1717 : (Jvm.Cond.code ({ cls := "DictProofModel", name := "isInstance", desc := "(I)Z" } : Jvm.MethodName) prog_13_method_46_code (2 : Nat) (Option.some Jvm.ClassFile.FieldType.boolean)) ∈ lw_all := lw_g (lw_at lw_m7 163 rfl) rfl
theorem q1718 : (Jvm.Cond.methodLink "DictProofModel" (313 : Nat) ({ cls := "DictProofModel", name := "instanceNow", desc := "(II)I" } : Jvm.MethodName)) ∈ lw_all := lw_g (lw_at lw_m7 164 rfl) rfl
theorem q1719 : (Jvm.Cond.privateMethod ({ cls := "DictProofModel", name := "instanceNow", desc := "(II)I" } : Jvm.MethodName)) ∈ lw_tbl := lw_at lw_m7 165 rfl
theorem q1720 : (Jvm.Cond.instanceMethod ({ cls := "DictProofModel", name := "instanceNow", desc := "(II)I" } : Jvm.MethodName)) ∈ lw_all := lw_g (lw_at lw_m7 166 rfl) rfl
theorem q1721 : (Jvm.Cond.code ({ cls := "DictProofModel", name := "instanceNow", desc := "(II)I" } : Jvm.MethodName) prog_13_method_54_code (3 : Nat) (Option.some Jvm.ClassFile.FieldType.int)) ∈ lw_all := lw_g (lw_at lw_m7 167 rfl) rfl
theorem q1722 : (Jvm.Cond.methodLink "DictProofModel" (248 : Nat) ({ cls := "DictProofModel", name := "isSound", desc := "(I)Z" } : Jvm.MethodName)) ∈ lw_all := lw_g (lw_at lw_m7 168 rfl) rfl
theorem q1723 : (Jvm.Cond.privateMethod ({ cls := "DictProofModel", name := "isSound", desc := "(I)Z" } : Jvm.MethodName)) ∈ lw_tbl := lw_at lw_m7 169 rfl
theorem q1724 : (Jvm.Cond.instanceMethod ({ cls := "DictProofModel", name := "isSound", desc := "(I)Z" } : Jvm.MethodName)) ∈ lw_all := lw_g (lw_at lw_m7 170 rfl) rfl
theorem q1725 : (Jvm.Cond.code ({ cls := "DictProofModel", name := "isSound", desc := "(I)Z" } : Jvm.MethodName) prog_13_method_30_code (2 : Nat) (Option.some Jvm.ClassFile.FieldType.boolean)) ∈ lw_all := lw_g (lw_at lw_m7 171 rfl) rfl
theorem q1726 : (Jvm.Cond.methodLink "DictProofModel" (301 : Nat) ({ cls := "DictProofModel", name := "sortsOf", desc := "(I)I" } : Jvm.MethodName)) ∈ lw_all := lw_g (lw_at lw_m7 172 rfl) rfl
theorem q1727 : (Jvm.Cond.privateMethod ({ cls := "DictProofModel", name := "sortsOf", desc := "(I)I" } : Jvm.MethodName)) ∈ lw_tbl := lw_at lw_m7 173 rfl
theorem q1728 : (Jvm.Cond.instanceMethod ({ cls := "DictProofModel", name := "sortsOf", desc := "(I)I" } : Jvm.MethodName)) ∈ lw_all := lw_g (lw_at lw_m7 174 rfl) rfl
theorem q1729 : (Jvm.Cond.code ({ cls := "DictProofModel", name := "sortsOf", desc := "(I)I" } : Jvm.MethodName) prog_13_method_79_code (6 : Nat) (Option.some Jvm.ClassFile.FieldType.int)) ∈ lw_all := lw_g (lw_at lw_m7 175 rfl) rfl
theorem q1730 : (Jvm.Cond.methodLink "DictProofModel" (379 : Nat) ({ cls := "DictProofModel", name := "could", desc := "(II)Z" } : Jvm.MethodName)) ∈ lw_all := lw_g (lw_at lw_m7 176 rfl) rfl
theorem q1731 : (Jvm.Cond.static ({ cls := "DictProofModel", name := "could", desc := "(II)Z" } : Jvm.MethodName)) ∈ lw_all := lw_g (lw_at lw_m7 177 rfl) rfl
theorem q1732 : (Jvm.Cond.code ({ cls := "DictProofModel", name := "could", desc := "(II)Z" } : Jvm.MethodName) prog_13_method_76_code (2 : Nat) (Option.some Jvm.ClassFile.FieldType.boolean)) ∈ lw_all := lw_g (lw_at lw_m7 178 rfl) rfl
theorem q1733 : (Jvm.Cond.methodLink "DictProofModel" (304 : Nat) ({ cls := "DictProofModel", name := "askOf", desc := "(I)I" } : Jvm.MethodName)) ∈ lw_all := lw_g (lw_at lw_m7 179 rfl) rfl
theorem q1734 : (Jvm.Cond.privateMethod ({ cls := "DictProofModel", name := "askOf", desc := "(I)I" } : Jvm.MethodName)) ∈ lw_tbl := lw_at lw_m7 180 rfl
theorem q1735 : (Jvm.Cond.instanceMethod ({ cls := "DictProofModel", name := "askOf", desc := "(I)I" } : Jvm.MethodName)) ∈ lw_all := lw_g (lw_at lw_m7 181 rfl) rfl
theorem q1736 : (Jvm.Cond.code ({ cls := "DictProofModel", name := "askOf", desc := "(I)I" } : Jvm.MethodName) prog_13_method_80_code (9 : Nat) (Option.some Jvm.ClassFile.FieldType.int)) ∈ lw_all := lw_g (lw_at lw_m7 182 rfl) rfl
theorem q1737 : (Jvm.Cond.constant "DictProofModel" (382 : Nat) (268435456 : Int32)) ∈ lw_all := lw_g (lw_at lw_m7 183 rfl) rfl
theorem q1738 : (Jvm.Cond.methodLink "DictProofModel" (254 : Nat) ({ cls := "DictProofModel", name := "size", desc := "(I)I" } : Jvm.MethodName)) ∈ lw_all := lw_g (lw_at lw_m7 184 rfl) rfl
theorem q1739 : (Jvm.Cond.static ({ cls := "DictProofModel", name := "size", desc := "(I)I" } : Jvm.MethodName)) ∈ lw_all := lw_g (lw_at lw_m7 185 rfl) rfl
theorem q1740 : (Jvm.Cond.code ({ cls := "DictProofModel", name := "size", desc := "(I)I" } : Jvm.MethodName) prog_13_method_5_code (3 : Nat) (Option.some Jvm.ClassFile.FieldType.int)) ∈ lw_all := lw_g (lw_at lw_m7 186 rfl) rfl
theorem q1741 : (Jvm.Cond.methodLink "DictProofModel" (307 : Nat) ({ cls := "DictProofModel", name := "lacksOf", desc := "(I)I" } : Jvm.MethodName)) ∈ lw_all := lw_g (lw_at lw_m7 187 rfl) rfl
theorem q1742 : (Jvm.Cond.privateMethod ({ cls := "DictProofModel", name := "lacksOf", desc := "(I)I" } : Jvm.MethodName)) ∈ lw_tbl := lw_at lw_m7 188 rfl
theorem q1743 : (Jvm.Cond.instanceMethod ({ cls := "DictProofModel", name := "lacksOf", desc := "(I)I" } : Jvm.MethodName)) ∈ lw_all := lw_g (lw_at lw_m7 189 rfl) rfl
theorem q1744 : (Jvm.Cond.code ({ cls := "DictProofModel", name := "lacksOf", desc := "(I)I" } : Jvm.MethodName) prog_13_method_53_code (7 : Nat) (Option.some Jvm.ClassFile.FieldType.int)) ∈ lw_all := lw_g (lw_at lw_m7 190 rfl) rfl
theorem q1745 : (Jvm.Cond.methodLink "DictProofModel" (295 : Nat) ({ cls := "DictProofModel", name := "layGoals", desc := "()V" } : Jvm.MethodName)) ∈ lw_all := lw_g (lw_at lw_m7 191 rfl) rfl
theorem q1746 : (Jvm.Cond.privateMethod ({ cls := "DictProofModel", name := "layGoals", desc := "()V" } : Jvm.MethodName)) ∈ lw_tbl := lw_at lw_m7 192 rfl
theorem q1747 : (Jvm.Cond.instanceMethod ({ cls := "DictProofModel", name := "layGoals", desc := "()V" } : Jvm.MethodName)) ∈ lw_all := lw_g (lw_at lw_m7 193 rfl) rfl
theorem q1748 : (Jvm.Cond.code ({ cls := "DictProofModel", name := "layGoals", desc := "()V" } : Jvm.MethodName) prog_13_method_39_code (3 : Nat) (Option.none : Option Jvm.ClassFile.FieldType)) ∈ lw_all := lw_g (lw_at lw_m7 194 rfl) rfl
theorem q1749 : (Jvm.Cond.methodLink "DictProofModel" (273 : Nat) ({ cls := "DictProofModel", name := "layNeed", desc := "(II)V" } : Jvm.MethodName)) ∈ lw_all := lw_g (lw_at lw_m7 195 rfl) rfl
theorem q1750 : (Jvm.Cond.privateMethod ({ cls := "DictProofModel", name := "layNeed", desc := "(II)V" } : Jvm.MethodName)) ∈ lw_tbl := lw_at lw_m7 196 rfl
theorem q1751 : (Jvm.Cond.instanceMethod ({ cls := "DictProofModel", name := "layNeed", desc := "(II)V" } : Jvm.MethodName)) ∈ lw_all := lw_g (lw_at lw_m7 197 rfl) rfl
theorem q1752 : (Jvm.Cond.code ({ cls := "DictProofModel", name := "layNeed", desc := "(II)V" } : Jvm.MethodName) prog_13_method_36_code (5 : Nat) (Option.none : Option Jvm.ClassFile.FieldType)) ∈ lw_all := lw_g (lw_at lw_m7 198 rfl) rfl
theorem q1753 : (Jvm.Cond.methodLink "DictProofModel" (277 : Nat) ({ cls := "DictProofModel", name := "layGoal", desc := "(II)V" } : Jvm.MethodName)) ∈ lw_all := lw_g (lw_at lw_m7 199 rfl) rfl
theorem q1754 : (Jvm.Cond.privateMethod ({ cls := "DictProofModel", name := "layGoal", desc := "(II)V" } : Jvm.MethodName)) ∈ lw_tbl := lw_at lw_m7 200 rfl
theorem q1755 : (Jvm.Cond.instanceMethod ({ cls := "DictProofModel", name := "layGoal", desc := "(II)V" } : Jvm.MethodName)) ∈ lw_all := lw_g (lw_at lw_m7 201 rfl) rfl
theorem q1756 : (Jvm.Cond.code ({ cls := "DictProofModel", name := "layGoal", desc := "(II)V" } : Jvm.MethodName) prog_13_method_38_code (5 : Nat) (Option.none : Option Jvm.ClassFile.FieldType)) ∈ lw_all := lw_g (lw_at lw_m7 202 rfl) rfl
theorem q1757 : (Jvm.Cond.methodLink "DictProofModel" (266 : Nat) ({ cls := "DictProofModel", name := "takes", desc := "(II)I" } : Jvm.MethodName)) ∈ lw_all := lw_g (lw_at lw_m7 203 rfl) rfl
theorem q1758 : (Jvm.Cond.privateMethod ({ cls := "DictProofModel", name := "takes", desc := "(II)I" } : Jvm.MethodName)) ∈ lw_tbl := lw_at lw_m7 204 rfl
theorem q1759 : (Jvm.Cond.instanceMethod ({ cls := "DictProofModel", name := "takes", desc := "(II)I" } : Jvm.MethodName)) ∈ lw_all := lw_g (lw_at lw_m7 205 rfl) rfl
theorem q1760 : (Jvm.Cond.code ({ cls := "DictProofModel", name := "takes", desc := "(II)I" } : Jvm.MethodName) prog_13_method_35_code (6 : Nat) (Option.some Jvm.ClassFile.FieldType.int)) ∈ lw_all := lw_g (lw_at lw_m7 206 rfl) rfl
theorem q1761 : (Jvm.Cond.methodLink "DictProofModel" (251 : Nat) ({ cls := "DictProofModel", name := "meantFor", desc := "(II)I" } : Jvm.MethodName)) ∈ lw_all := lw_g (lw_at lw_m7 207 rfl) rfl
theorem q1762 : (Jvm.Cond.privateMethod ({ cls := "DictProofModel", name := "meantFor", desc := "(II)I" } : Jvm.MethodName)) ∈ lw_tbl := lw_at lw_m7 208 rfl
theorem q1763 : (Jvm.Cond.instanceMethod ({ cls := "DictProofModel", name := "meantFor", desc := "(II)I" } : Jvm.MethodName)) ∈ lw_all := lw_g (lw_at lw_m7 209 rfl) rfl
theorem q1764 : (Jvm.Cond.code ({ cls := "DictProofModel", name := "meantFor", desc := "(II)I" } : Jvm.MethodName) prog_13_method_31_code (6 : Nat) (Option.some Jvm.ClassFile.FieldType.int)) ∈ lw_all := lw_g (lw_at lw_m7 210 rfl) rfl
theorem q1765 : (Jvm.Cond.methodLink "DictProofModel" (257 : Nat) ({ cls := "DictProofModel", name := "isOneSole", desc := "(I)Z" } : Jvm.MethodName)) ∈ lw_all := lw_g (lw_at lw_m7 211 rfl) rfl
theorem q1766 : (Jvm.Cond.privateMethod ({ cls := "DictProofModel", name := "isOneSole", desc := "(I)Z" } : Jvm.MethodName)) ∈ lw_tbl := lw_at lw_m7 212 rfl
theorem q1767 : (Jvm.Cond.instanceMethod ({ cls := "DictProofModel", name := "isOneSole", desc := "(I)Z" } : Jvm.MethodName)) ∈ lw_all := lw_g (lw_at lw_m7 213 rfl) rfl
theorem q1768 : (Jvm.Cond.code ({ cls := "DictProofModel", name := "isOneSole", desc := "(I)Z" } : Jvm.MethodName) prog_13_method_33_code (4 : Nat) (Option.some Jvm.ClassFile.FieldType.boolean)) ∈ lw_all := lw_g (lw_at lw_m7 214 rfl) rfl
theorem q1769 : (Jvm.Cond.methodLink "DictProofModel" (260 : Nat) ({ cls := "DictProofModel", name := "ofRank", desc := "(II)I" } : Jvm.MethodName)) ∈ lw_all := lw_g (lw_at lw_m7 215 rfl) rfl
theorem q1770 : (Jvm.Cond.privateMethod ({ cls := "DictProofModel", name := "ofRank", desc := "(II)I" } : Jvm.MethodName)) ∈ lw_tbl := lw_at lw_m7 216 rfl
theorem q1771 : (Jvm.Cond.instanceMethod ({ cls := "DictProofModel", name := "ofRank", desc := "(II)I" } : Jvm.MethodName)) ∈ lw_all := lw_g (lw_at lw_m7 217 rfl) rfl
theorem q1772 : (Jvm.Cond.code ({ cls := "DictProofModel", name := "ofRank", desc := "(II)I" } : Jvm.MethodName) prog_13_method_32_code (6 : Nat) (Option.some Jvm.ClassFile.FieldType.int)) ∈ lw_all := lw_g (lw_at lw_m7 218 rfl) rfl
theorem q1773 : (Jvm.Cond.methodLink "DictProofModel" (263 : Nat) ({ cls := "DictProofModel", name := "mostSpecial", desc := "(I)I" } : Jvm.MethodName)) ∈ lw_all := lw_g (lw_at lw_m7 219 rfl) rfl
theorem q1774 : (Jvm.Cond.privateMethod ({ cls := "DictProofModel", name := "mostSpecial", desc := "(I)I" } : Jvm.MethodName)) ∈ lw_tbl := lw_at lw_m7 220 rfl
theorem q1775 : (Jvm.Cond.instanceMethod ({ cls := "DictProofModel", name := "mostSpecial", desc := "(I)I" } : Jvm.MethodName)) ∈ lw_all := lw_g (lw_at lw_m7 221 rfl) rfl
theorem q1776 : (Jvm.Cond.code ({ cls := "DictProofModel", name := "mostSpecial", desc := "(I)I" } : Jvm.MethodName) prog_13_method_34_code (6 : Nat) (Option.some Jvm.ClassFile.FieldType.int)) ∈ lw_all := lw_g (lw_at lw_m7 222 rfl) rfl
theorem q1777 : (Jvm.Cond.methodLink "DictProofModel" (269 : Nat) ({ cls := "DictProofModel", name := "addBelow", desc := "(III)V" } : Jvm.MethodName)) ∈ lw_all := lw_g (lw_at lw_m7 223 rfl) rfl
theorem q1778 : (Jvm.Cond.privateMethod ({ cls := "DictProofModel", name := "addBelow", desc := "(III)V" } : Jvm.MethodName)) ∈ lw_tbl := lw_at lw_m7 224 rfl
theorem q1779 : (Jvm.Cond.instanceMethod ({ cls := "DictProofModel", name := "addBelow", desc := "(III)V" } : Jvm.MethodName)) ∈ lw_all := lw_g (lw_at lw_m7 225 rfl) rfl
theorem q1780 : (Jvm.Cond.code ({ cls := "DictProofModel", name := "addBelow", desc := "(III)V" } : Jvm.MethodName) prog_13_method_37_code (4 : Nat) (Option.none : Option Jvm.ClassFile.FieldType)) ∈ lw_all := lw_g (lw_at lw_m7 226 rfl) rfl
theorem q1781 : (Jvm.Cond.methodLink "DictProofModel" (298 : Nat) ({ cls := "DictProofModel", name := "isGiven", desc := "(II)Z" } : Jvm.MethodName)) ∈ lw_all := lw_g (lw_at lw_m7 227 rfl) rfl
theorem q1782 : (Jvm.Cond.privateMethod ({ cls := "DictProofModel", name := "isGiven", desc := "(II)Z" } : Jvm.MethodName)) ∈ lw_tbl := lw_at lw_m7 228 rfl
theorem q1783 : (Jvm.Cond.instanceMethod ({ cls := "DictProofModel", name := "isGiven", desc := "(II)Z" } : Jvm.MethodName)) ∈ lw_all := lw_g (lw_at lw_m7 229 rfl) rfl
theorem q1784 : (Jvm.Cond.code ({ cls := "DictProofModel", name := "isGiven", desc := "(II)Z" } : Jvm.MethodName) prog_13_method_52_code (7 : Nat) (Option.some Jvm.ClassFile.FieldType.boolean)) ∈ lw_all := lw_g (lw_at lw_m7 230 rfl) rfl
theorem q1786 : (Jvm.Cond.instanceMethod ({ cls := "DictProofModel", name := "as", desc := "(II)I" } : Jvm.MethodName)) ∈ lw_all := lw_g (lw_at lw_m7 232 rfl) rfl
theorem q1787 : (Jvm.Cond.selects "DictProofModel" ({ cls := "DictProofModel", name := "as", desc := "(II)I" } : Jvm.MethodName) ({ cls := "DictProofModel", name := "as", desc := "(II)I" } : Jvm.MethodName)) ∈ lw_all := lw_g (lw_at lw_m7 233 rfl) rfl
theorem q1788 : (Jvm.Cond.code ({ cls := "DictProofModel", name := "as", desc := "(II)I" } : Jvm.MethodName) prog_13_method_56_code (4 : Nat) (Option.some Jvm.ClassFile.FieldType.int)) ∈ lw_all := lw_g (lw_at lw_m7 234 rfl) rfl
theorem q1790 : (Jvm.Cond.instanceMethod ({ cls := "DictProofModel", name := "change", desc := "(II)I" } : Jvm.MethodName)) ∈ lw_all := lw_g (lw_at lw_m7 236 rfl) rfl
theorem q1791 : (Jvm.Cond.selects "DictProofModel" ({ cls := "DictProofModel", name := "change", desc := "(II)I" } : Jvm.MethodName) ({ cls := "DictProofModel", name := "change", desc := "(II)I" } : Jvm.MethodName)) ∈ lw_all := lw_g (lw_at lw_m7 237 rfl) rfl
theorem q1792 : (Jvm.Cond.code ({ cls := "DictProofModel", name := "change", desc := "(II)I" } : Jvm.MethodName) prog_13_method_57_code (4 : Nat) (Option.some Jvm.ClassFile.FieldType.int)) ∈ lw_all := lw_g (lw_at lw_m7 238 rfl) rfl
theorem q1794 : (Jvm.Cond.instanceMethod ({ cls := "DictProofModel", name := "pair", desc := "(III)I" } : Jvm.MethodName)) ∈ lw_all := lw_g (lw_at lw_m8 0 rfl) rfl
theorem q1795 : (Jvm.Cond.selects "DictProofModel" ({ cls := "DictProofModel", name := "pair", desc := "(III)I" } : Jvm.MethodName) ({ cls := "DictProofModel", name := "pair", desc := "(III)I" } : Jvm.MethodName)) ∈ lw_all := lw_g (lw_at lw_m8 1 rfl) rfl
theorem q1796 : (Jvm.Cond.code ({ cls := "DictProofModel", name := "pair", desc := "(III)I" } : Jvm.MethodName) prog_13_method_70_code (4 : Nat) (Option.some Jvm.ClassFile.FieldType.int)) ∈ lw_all := lw_g (lw_at lw_m8 2 rfl) rfl
theorem q1797 : (Jvm.Cond.methodLink "DictProofModel" (358 : Nat) ({ cls := "DictProofModel", name := "pairNow", desc := "(III)Z" } : Jvm.MethodName)) ∈ lw_all := lw_g (lw_at lw_m8 3 rfl) rfl
theorem q1798 : (Jvm.Cond.privateMethod ({ cls := "DictProofModel", name := "pairNow", desc := "(III)Z" } : Jvm.MethodName)) ∈ lw_tbl := lw_at lw_m8 4 rfl
theorem q1799 : (Jvm.Cond.instanceMethod ({ cls := "DictProofModel", name := "pairNow", desc := "(III)Z" } : Jvm.MethodName)) ∈ lw_all := lw_g (lw_at lw_m8 5 rfl) rfl
theorem q1800 : (Jvm.Cond.code ({ cls := "DictProofModel", name := "pairNow", desc := "(III)Z" } : Jvm.MethodName) prog_13_method_69_code (4 : Nat) (Option.some Jvm.ClassFile.FieldType.boolean)) ∈ lw_all := lw_g (lw_at lw_m8 6 rfl) rfl
theorem q1801 : (Jvm.Cond.methodLink "DictProofModel" (352 : Nat) ({ cls := "DictProofModel", name := "overlap", desc := "(II)Z" } : Jvm.MethodName)) ∈ lw_all := lw_g (lw_at lw_m8 7 rfl) rfl
theorem q1802 : (Jvm.Cond.privateMethod ({ cls := "DictProofModel", name := "overlap", desc := "(II)Z" } : Jvm.MethodName)) ∈ lw_tbl := lw_at lw_m8 8 rfl
theorem q1803 : (Jvm.Cond.instanceMethod ({ cls := "DictProofModel", name := "overlap", desc := "(II)Z" } : Jvm.MethodName)) ∈ lw_all := lw_g (lw_at lw_m8 9 rfl) rfl
theorem q1804 : (Jvm.Cond.code ({ cls := "DictProofModel", name := "overlap", desc := "(II)Z" } : Jvm.MethodName) prog_13_method_66_code (3 : Nat) (Option.some Jvm.ClassFile.FieldType.boolean)) ∈ lw_all := lw_g (lw_at lw_m8 10 rfl) rfl
theorem q1805 : (Jvm.Cond.methodLink "DictProofModel" (346 : Nat) ({ cls := "DictProofModel", name := "areOne", desc := "(II)Z" } : Jvm.MethodName)) ∈ lw_all := lw_g (lw_at lw_m8 11 rfl) rfl
theorem q1806 : (Jvm.Cond.privateMethod ({ cls := "DictProofModel", name := "areOne", desc := "(II)Z" } : Jvm.MethodName)) ∈ lw_tbl := lw_at lw_m8 12 rfl
theorem q1807 : (Jvm.Cond.instanceMethod ({ cls := "DictProofModel", name := "areOne", desc := "(II)Z" } : Jvm.MethodName)) ∈ lw_all := lw_g (lw_at lw_m8 13 rfl) rfl
theorem q1808 : (Jvm.Cond.code ({ cls := "DictProofModel", name := "areOne", desc := "(II)Z" } : Jvm.MethodName) prog_13_method_65_code (4 : Nat) (Option.some Jvm.ClassFile.FieldType.boolean)) ∈ lw_all := lw_g (lw_at lw_m8 14 rfl) rfl
theorem q1809 : (Jvm.Cond.methodLink "DictProofModel" (340 : Nat) ({ cls := "DictProofModel", name := "addPair", desc := "(II)V" } : Jvm.MethodName)) ∈ lw_all := lw_g (lw_at lw_m8 15 rfl) rfl
theorem q1810 : (Jvm.Cond.privateMethod ({ cls := "DictProofModel", name := "addPair", desc := "(II)V" } : Jvm.MethodName)) ∈ lw_tbl := lw_at lw_m8 16 rfl
theorem q1811 : (Jvm.Cond.instanceMethod ({ cls := "DictProofModel", name := "addPair", desc := "(II)V" } : Jvm.MethodName)) ∈ lw_all := lw_g (lw_at lw_m8 17 rfl) rfl
theorem q1812 : (Jvm.Cond.code ({ cls := "DictProofModel", name := "addPair", desc := "(II)V" } : Jvm.MethodName) prog_13_method_63_code (3 : Nat) (Option.none : Option Jvm.ClassFile.FieldType)) ∈ lw_all := lw_g (lw_at lw_m8 18 rfl) rfl
theorem q1813 : (Jvm.Cond.methodLink "DictProofModel" (328 : Nat) ({ cls := "DictProofModel", name := "standsFor", desc := "(I)I" } : Jvm.MethodName)) ∈ lw_all := lw_g (lw_at lw_m8 19 rfl) rfl
theorem q1814 : (Jvm.Cond.privateMethod ({ cls := "DictProofModel", name := "standsFor", desc := "(I)I" } : Jvm.MethodName)) ∈ lw_tbl := lw_at lw_m8 20 rfl
theorem q1815 : (Jvm.Cond.instanceMethod ({ cls := "DictProofModel", name := "standsFor", desc := "(I)I" } : Jvm.MethodName)) ∈ lw_all := lw_g (lw_at lw_m8 21 rfl) rfl
theorem q1816 : (Jvm.Cond.code ({ cls := "DictProofModel", name := "standsFor", desc := "(I)I" } : Jvm.MethodName) prog_13_method_60_code (3 : Nat) (Option.some Jvm.ClassFile.FieldType.int)) ∈ lw_all := lw_g (lw_at lw_m8 22 rfl) rfl
theorem q1817 : (Jvm.Cond.methodLink "DictProofModel" (322 : Nat) ({ cls := "DictProofModel", name := "letterOf", desc := "(I)I" } : Jvm.MethodName)) ∈ lw_all := lw_g (lw_at lw_m8 23 rfl) rfl
theorem q1818 : (Jvm.Cond.privateMethod ({ cls := "DictProofModel", name := "letterOf", desc := "(I)I" } : Jvm.MethodName)) ∈ lw_tbl := lw_at lw_m8 24 rfl
theorem q1819 : (Jvm.Cond.instanceMethod ({ cls := "DictProofModel", name := "letterOf", desc := "(I)I" } : Jvm.MethodName)) ∈ lw_all := lw_g (lw_at lw_m8 25 rfl) rfl
theorem q1820 : (Jvm.Cond.code ({ cls := "DictProofModel", name := "letterOf", desc := "(I)I" } : Jvm.MethodName) prog_13_method_58_code (2 : Nat) (Option.some Jvm.ClassFile.FieldType.int)) ∈ lw_all := lw_g (lw_at lw_m8 26 rfl) rfl
theorem q1821 : (Jvm.Cond.methodLink "DictProofModel" (325 : Nat) ({ cls := "DictProofModel", name := "variableOf", desc := "(I)I" } : Jvm.MethodName)) ∈ lw_all := lw_g (lw_at lw_m8 27 rfl) rfl
theorem q1822 : (Jvm.Cond.privateMethod ({ cls := "DictProofModel", name := "variableOf", desc := "(I)I" } : Jvm.MethodName)) ∈ lw_tbl := lw_at lw_m8 28 rfl
theorem q1823 : (Jvm.Cond.instanceMethod ({ cls := "DictProofModel", name := "variableOf", desc := "(I)I" } : Jvm.MethodName)) ∈ lw_all := lw_g (lw_at lw_m8 29 rfl) rfl
theorem q1824 : (Jvm.Cond.code ({ cls := "DictProofModel", name := "variableOf", desc := "(I)I" } : Jvm.MethodName) prog_13_method_59_code (2 : Nat) (Option.some Jvm.ClassFile.FieldType.int)) ∈ lw_all := lw_g (lw_at lw_m8 30 rfl) rfl
theorem q1825 : (Jvm.Cond.methodLink "DictProofModel" (343 : Nat) ({ cls := "DictProofModel", name := "joins", desc := "(II)Z" } : Jvm.MethodName)) ∈ lw_all := lw_g (lw_at lw_m8 31 rfl) rfl
theorem q1826 : (Jvm.Cond.privateMethod ({ cls := "DictProofModel", name := "joins", desc := "(II)Z" } : Jvm.MethodName)) ∈ lw_tbl := lw_at lw_m8 32 rfl
theorem q1827 : (Jvm.Cond.instanceMethod ({ cls := "DictProofModel", name := "joins", desc := "(II)Z" } : Jvm.MethodName)) ∈ lw_all := lw_g (lw_at lw_m8 33 rfl) rfl
theorem q1828 : (Jvm.Cond.code ({ cls := "DictProofModel", name := "joins", desc := "(II)Z" } : Jvm.MethodName) prog_13_method_64_code (7 : Nat) (Option.some Jvm.ClassFile.FieldType.boolean)) ∈ lw_all := lw_g (lw_at lw_m8 34 rfl) rfl
theorem q1829 : (Jvm.Cond.methodLink "DictProofModel" (337 : Nat) ({ cls := "DictProofModel", name := "occurs", desc := "(II)Z" } : Jvm.MethodName)) ∈ lw_all := lw_g (lw_at lw_m8 35 rfl) rfl
theorem q1830 : (Jvm.Cond.privateMethod ({ cls := "DictProofModel", name := "occurs", desc := "(II)Z" } : Jvm.MethodName)) ∈ lw_tbl := lw_at lw_m8 36 rfl
theorem q1831 : (Jvm.Cond.instanceMethod ({ cls := "DictProofModel", name := "occurs", desc := "(II)Z" } : Jvm.MethodName)) ∈ lw_all := lw_g (lw_at lw_m8 37 rfl) rfl
theorem q1832 : (Jvm.Cond.code ({ cls := "DictProofModel", name := "occurs", desc := "(II)Z" } : Jvm.MethodName) prog_13_method_62_code (6 : Nat) (Option.some Jvm.ClassFile.FieldType.boolean)) ∈ lw_all := lw_g (lw_at lw_m8 38 rfl) rfl
theorem q1833 : (Jvm.Cond.methodLink "DictProofModel" (331 : Nat) ({ cls := "DictProofModel", name := "behind", desc := "(I)I" } : Jvm.MethodName)) ∈ lw_all := lw_g (lw_at lw_m8 39 rfl) rfl
theorem q1834 : (Jvm.Cond.privateMethod ({ cls := "DictProofModel", name := "behind", desc := "(I)I" } : Jvm.MethodName)) ∈ lw_tbl := lw_at lw_m8 40 rfl
theorem q1835 : (Jvm.Cond.instanceMethod ({ cls := "DictProofModel", name := "behind", desc := "(I)I" } : Jvm.MethodName)) ∈ lw_all := lw_g (lw_at lw_m8 41 rfl) rfl
theorem q1836 : (Jvm.Cond.code ({ cls := "DictProofModel", name := "behind", desc := "(I)I" } : Jvm.MethodName) prog_13_method_61_code (4 : Nat) (Option.some Jvm.ClassFile.FieldType.int)) ∈ lw_all := lw_g (lw_at lw_m8 42 rfl) rfl
theorem q1837 : (Jvm.Cond.methodLink "DictProofModel" (355 : Nat) ({ cls := "DictProofModel", name := "clash", desc := "(II)Z" } : Jvm.MethodName)) ∈ lw_all := lw_g (lw_at lw_m8 43 rfl) rfl
theorem q1838 : (Jvm.Cond.privateMethod ({ cls := "DictProofModel", name := "clash", desc := "(II)Z" } : Jvm.MethodName)) ∈ lw_tbl := lw_at lw_m8 44 rfl
theorem q1839 : (Jvm.Cond.instanceMethod ({ cls := "DictProofModel", name := "clash", desc := "(II)Z" } : Jvm.MethodName)) ∈ lw_all := lw_g (lw_at lw_m8 45 rfl) rfl
theorem q1840 : (Jvm.Cond.code ({ cls := "DictProofModel", name := "clash", desc := "(II)Z" } : Jvm.MethodName) prog_13_method_68_code (4 : Nat) (Option.some Jvm.ClassFile.FieldType.boolean)) ∈ lw_all := lw_g (lw_at lw_m8 46 rfl) rfl
theorem q1841 : (Jvm.Cond.methodLink "DictProofModel" (349 : Nat) ({ cls := "DictProofModel", name := "isSpecial", desc := "(II)Z" } : Jvm.MethodName)) ∈ lw_all := lw_g (lw_at lw_m8 47 rfl) rfl
theorem q1842 : (Jvm.Cond.privateMethod ({ cls := "DictProofModel", name := "isSpecial", desc := "(II)Z" } : Jvm.MethodName)) ∈ lw_tbl := lw_at lw_m8 48 rfl
theorem q1843 : (Jvm.Cond.instanceMethod ({ cls := "DictProofModel", name := "isSpecial", desc := "(II)Z" } : Jvm.MethodName)) ∈ lw_all := lw_g (lw_at lw_m8 49 rfl) rfl
theorem q1844 : (Jvm.Cond.code ({ cls := "DictProofModel", name := "isSpecial", desc := "(II)Z" } : Jvm.MethodName) prog_13_method_67_code (3 : Nat) (Option.some Jvm.ClassFile.FieldType.boolean)) ∈ lw_all := lw_g (lw_at lw_m8 50 rfl) rfl
theorem q1846 : (Jvm.Cond.instanceMethod ({ cls := "DictProofModel", name := "fits", desc := "(II)I" } : Jvm.MethodName)) ∈ lw_all := lw_g (lw_at lw_m8 52 rfl) rfl
theorem q1847 : (Jvm.Cond.selects "DictProofModel" ({ cls := "DictProofModel", name := "fits", desc := "(II)I" } : Jvm.MethodName) ({ cls := "DictProofModel", name := "fits", desc := "(II)I" } : Jvm.MethodName)) ∈ lw_all := lw_g (lw_at lw_m8 53 rfl) rfl
theorem q1848 : (Jvm.Cond.code ({ cls := "DictProofModel", name := "fits", desc := "(II)I" } : Jvm.MethodName) prog_13_method_71_code (3 : Nat) (Option.some Jvm.ClassFile.FieldType.int)) ∈ lw_all := lw_g (lw_at lw_m8 54 rfl) rfl
theorem q1849 : (Jvm.Cond.methodLink "DictProofModel" (361 : Nat) ({ cls := "DictProofModel", name := "isFilled", desc := "(I)Z" } : Jvm.MethodName)) ∈ lw_all := lw_g (lw_at lw_m8 55 rfl) rfl
theorem q1850 : (Jvm.Cond.privateMethod ({ cls := "DictProofModel", name := "isFilled", desc := "(I)Z" } : Jvm.MethodName)) ∈ lw_tbl := lw_at lw_m8 56 rfl
theorem q1851 : (Jvm.Cond.instanceMethod ({ cls := "DictProofModel", name := "isFilled", desc := "(I)Z" } : Jvm.MethodName)) ∈ lw_all := lw_g (lw_at lw_m8 57 rfl) rfl
theorem q1852 : (Jvm.Cond.code ({ cls := "DictProofModel", name := "isFilled", desc := "(I)Z" } : Jvm.MethodName) prog_13_method_47_code (2 : Nat) (Option.some Jvm.ClassFile.FieldType.boolean)) ∈ lw_all := lw_g (lw_at lw_m8 58 rfl) rfl
theorem q1853 : (Jvm.Cond.methodLink "DictProofModel" (364 : Nat) ({ cls := "DictProofModel", name := "laySlot", desc := "(I)V" } : Jvm.MethodName)) ∈ lw_all := lw_g (lw_at lw_m8 59 rfl) rfl
theorem q1854 : (Jvm.Cond.privateMethod ({ cls := "DictProofModel", name := "laySlot", desc := "(I)V" } : Jvm.MethodName)) ∈ lw_tbl := lw_at lw_m8 60 rfl
theorem q1855 : (Jvm.Cond.instanceMethod ({ cls := "DictProofModel", name := "laySlot", desc := "(I)V" } : Jvm.MethodName)) ∈ lw_all := lw_g (lw_at lw_m8 61 rfl) rfl
theorem q1856 : (Jvm.Cond.code ({ cls := "DictProofModel", name := "laySlot", desc := "(I)V" } : Jvm.MethodName) prog_13_method_26_code (3 : Nat) (Option.none : Option Jvm.ClassFile.FieldType)) ∈ lw_all := lw_g (lw_at lw_m8 62 rfl) rfl
theorem q1858 : (Jvm.Cond.instanceMethod ({ cls := "DictProofModel", name := "goal", desc := "(III)I" } : Jvm.MethodName)) ∈ lw_all := lw_g (lw_at lw_m8 64 rfl) rfl
theorem q1859 : (Jvm.Cond.selects "DictProofModel" ({ cls := "DictProofModel", name := "goal", desc := "(III)I" } : Jvm.MethodName) ({ cls := "DictProofModel", name := "goal", desc := "(III)I" } : Jvm.MethodName)) ∈ lw_all := lw_g (lw_at lw_m8 65 rfl) rfl
theorem q1860 : (Jvm.Cond.code ({ cls := "DictProofModel", name := "goal", desc := "(III)I" } : Jvm.MethodName) prog_13_method_73_code (4 : Nat) (Option.some Jvm.ClassFile.FieldType.int)) ∈ lw_all := lw_g (lw_at lw_m8 66 rfl) rfl
theorem q1861 : (Jvm.Cond.methodLink "DictProofModel" (373 : Nat) ({ cls := "DictProofModel", name := "goalNow", desc := "(II)I" } : Jvm.MethodName)) ∈ lw_all := lw_g (lw_at lw_m8 67 rfl) rfl
theorem q1862 : (Jvm.Cond.privateMethod ({ cls := "DictProofModel", name := "goalNow", desc := "(II)I" } : Jvm.MethodName)) ∈ lw_tbl := lw_at lw_m8 68 rfl
theorem q1863 : (Jvm.Cond.instanceMethod ({ cls := "DictProofModel", name := "goalNow", desc := "(II)I" } : Jvm.MethodName)) ∈ lw_all := lw_g (lw_at lw_m8 69 rfl) rfl
theorem q1864 : (Jvm.Cond.code ({ cls := "DictProofModel", name := "goalNow", desc := "(II)I" } : Jvm.MethodName) prog_13_method_72_code (4 : Nat) (Option.some Jvm.ClassFile.FieldType.int)) ∈ lw_all := lw_g (lw_at lw_m8 70 rfl) rfl
theorem q1865 : (Jvm.Cond.methodLink "DictProofModel" (367 : Nat) ({ cls := "DictProofModel", name := "differentGoals", desc := "(I)I" } : Jvm.MethodName)) ∈ lw_all := lw_g (lw_at lw_m8 71 rfl) rfl
theorem q1866 : (Jvm.Cond.privateMethod ({ cls := "DictProofModel", name := "differentGoals", desc := "(I)I" } : Jvm.MethodName)) ∈ lw_tbl := lw_at lw_m8 72 rfl
theorem q1867 : (Jvm.Cond.instanceMethod ({ cls := "DictProofModel", name := "differentGoals", desc := "(I)I" } : Jvm.MethodName)) ∈ lw_all := lw_g (lw_at lw_m8 73 rfl) rfl
theorem q1868 : (Jvm.Cond.code ({ cls := "DictProofModel", name := "differentGoals", desc := "(I)I" } : Jvm.MethodName) prog_13_method_41_code (6 : Nat) (Option.some Jvm.ClassFile.FieldType.int)) ∈ lw_all := lw_g (lw_at lw_m8 74 rfl) rfl
theorem q1869 : (Jvm.Cond.methodLink "DictProofModel" (280 : Nat) ({ cls := "DictProofModel", name := "isNew", desc := "(II)Z" } : Jvm.MethodName)) ∈ lw_all := lw_g (lw_at lw_m8 75 rfl) rfl
theorem q1870 : (Jvm.Cond.privateMethod ({ cls := "DictProofModel", name := "isNew", desc := "(II)Z" } : Jvm.MethodName)) ∈ lw_tbl := lw_at lw_m8 76 rfl
theorem q1871 : (Jvm.Cond.instanceMethod ({ cls := "DictProofModel", name := "isNew", desc := "(II)Z" } : Jvm.MethodName)) ∈ lw_all := lw_g (lw_at lw_m8 77 rfl) rfl
theorem q1872 : (Jvm.Cond.code ({ cls := "DictProofModel", name := "isNew", desc := "(II)Z" } : Jvm.MethodName) prog_13_method_40_code (5 : Nat) (Option.some Jvm.ClassFile.FieldType.boolean)) ∈ lw_all := lw_g (lw_at lw_m8 78 rfl) rfl
theorem q1873 : (Jvm.Cond.methodLink "DictProofModel" (283 : Nat) ({ cls := "DictProofModel", name := "mark", desc := "(I)V" } : Jvm.MethodName)) ∈ lw_all := lw_g (lw_at lw_m8 79 rfl) rfl
theorem q1874 : (Jvm.Cond.privateMethod ({ cls := "DictProofModel", name := "mark", desc := "(I)V" } : Jvm.MethodName)) ∈ lw_tbl := lw_at lw_m8 80 rfl
theorem q1875 : (Jvm.Cond.instanceMethod ({ cls := "DictProofModel", name := "mark", desc := "(I)V" } : Jvm.MethodName)) ∈ lw_all := lw_g (lw_at lw_m8 81 rfl) rfl
theorem q1876 : (Jvm.Cond.code ({ cls := "DictProofModel", name := "mark", desc := "(I)V" } : Jvm.MethodName) prog_13_method_42_code (2 : Nat) (Option.none : Option Jvm.ClassFile.FieldType)) ∈ lw_all := lw_g (lw_at lw_m8 82 rfl) rfl
theorem q1877 : (Jvm.Cond.methodLink "DictProofModel" (370 : Nat) ({ cls := "DictProofModel", name := "plainOf", desc := "(I)I" } : Jvm.MethodName)) ∈ lw_all := lw_g (lw_at lw_m8 83 rfl) rfl
theorem q1878 : (Jvm.Cond.privateMethod ({ cls := "DictProofModel", name := "plainOf", desc := "(I)I" } : Jvm.MethodName)) ∈ lw_tbl := lw_at lw_m8 84 rfl
theorem q1879 : (Jvm.Cond.instanceMethod ({ cls := "DictProofModel", name := "plainOf", desc := "(I)I" } : Jvm.MethodName)) ∈ lw_all := lw_g (lw_at lw_m8 85 rfl) rfl
theorem q1880 : (Jvm.Cond.code ({ cls := "DictProofModel", name := "plainOf", desc := "(I)I" } : Jvm.MethodName) prog_13_method_43_code (6 : Nat) (Option.some Jvm.ClassFile.FieldType.int)) ∈ lw_all := lw_g (lw_at lw_m8 86 rfl) rfl
theorem q1882 : (Jvm.Cond.instanceMethod ({ cls := "DictProofModel", name := "entry", desc := "(III)I" } : Jvm.MethodName)) ∈ lw_all := lw_g (lw_at lw_m8 88 rfl) rfl
theorem q1883 : (Jvm.Cond.selects "DictProofModel" ({ cls := "DictProofModel", name := "entry", desc := "(III)I" } : Jvm.MethodName) ({ cls := "DictProofModel", name := "entry", desc := "(III)I" } : Jvm.MethodName)) ∈ lw_all := lw_g (lw_at lw_m8 89 rfl) rfl
theorem q1884 : (Jvm.Cond.code ({ cls := "DictProofModel", name := "entry", desc := "(III)I" } : Jvm.MethodName) prog_13_method_74_code (5 : Nat) (Option.some Jvm.ClassFile.FieldType.int)) ∈ lw_all := lw_g (lw_at lw_m8 90 rfl) rfl
theorem q1885 : (Jvm.Cond.methodLink "DictProofModel" (376 : Nat) ({ cls := "DictProofModel", name := "entryAt", desc := "(II)I" } : Jvm.MethodName)) ∈ lw_all := lw_g (lw_at lw_m8 91 rfl) rfl
theorem q1886 : (Jvm.Cond.privateMethod ({ cls := "DictProofModel", name := "entryAt", desc := "(II)I" } : Jvm.MethodName)) ∈ lw_tbl := lw_at lw_m8 92 rfl
theorem q1887 : (Jvm.Cond.instanceMethod ({ cls := "DictProofModel", name := "entryAt", desc := "(II)I" } : Jvm.MethodName)) ∈ lw_all := lw_g (lw_at lw_m8 93 rfl) rfl
theorem q1888 : (Jvm.Cond.code ({ cls := "DictProofModel", name := "entryAt", desc := "(II)I" } : Jvm.MethodName) prog_13_method_44_code (7 : Nat) (Option.some Jvm.ClassFile.FieldType.int)) ∈ lw_all := lw_g (lw_at lw_m8 94 rfl) rfl
theorem q1890 : (Jvm.Cond.instanceMethod ({ cls := "DictProofModel", name := "need", desc := "(IIII)I" } : Jvm.MethodName)) ∈ lw_all := lw_g (lw_at lw_m8 96 rfl) rfl
theorem q1891 : (Jvm.Cond.selects "DictProofModel" ({ cls := "DictProofModel", name := "need", desc := "(IIII)I" } : Jvm.MethodName) ({ cls := "DictProofModel", name := "need", desc := "(IIII)I" } : Jvm.MethodName)) ∈ lw_all := lw_g (lw_at lw_m8 97 rfl) rfl
theorem q1892 : (Jvm.Cond.code ({ cls := "DictProofModel", name := "need", desc := "(IIII)I" } : Jvm.MethodName) prog_13_method_75_code (8 : Nat) (Option.some Jvm.ClassFile.FieldType.int)) ∈ lw_all := lw_g (lw_at lw_m8 98 rfl) rfl
theorem q1894 : (Jvm.Cond.instanceMethod ({ cls := "DictProofModel", name := "see", desc := "(IIZ)I" } : Jvm.MethodName)) ∈ lw_all := lw_g (lw_at lw_m8 100 rfl) rfl
theorem q1895 : (Jvm.Cond.selects "DictProofModel" ({ cls := "DictProofModel", name := "see", desc := "(IIZ)I" } : Jvm.MethodName) ({ cls := "DictProofModel", name := "see", desc := "(IIZ)I" } : Jvm.MethodName)) ∈ lw_all := lw_g (lw_at lw_m8 101 rfl) rfl
theorem q1896 : (Jvm.Cond.code ({ cls := "DictProofModel", name := "see", desc := "(IIZ)I" } : Jvm.MethodName) prog_13_method_77_code (4 : Nat) (Option.some Jvm.ClassFile.FieldType.int)) ∈ lw_all := lw_g (lw_at lw_m8 102 rfl) rfl
theorem q1898 : (Jvm.Cond.instanceMethod ({ cls := "DictProofModel", name := "forget", desc := "()I" } : Jvm.MethodName)) ∈ lw_all := lw_g (lw_at lw_m8 104 rfl) rfl
theorem q1899 : (Jvm.Cond.selects "DictProofModel" ({ cls := "DictProofModel", name := "forget", desc := "()I" } : Jvm.MethodName) ({ cls := "DictProofModel", name := "forget", desc := "()I" } : Jvm.MethodName)) ∈ lw_all := lw_g (lw_at lw_m8 105 rfl) rfl
theorem q1900 : (Jvm.Cond.code ({ cls := "DictProofModel", name := "forget", desc := "()I" } : Jvm.MethodName) prog_13_method_78_code (2 : Nat) (Option.some Jvm.ClassFile.FieldType.int)) ∈ lw_all := lw_g (lw_at lw_m8 106 rfl) rfl
theorem q1902 : (Jvm.Cond.instanceMethod ({ cls := "DictProofModel", name := "drawn", desc := "(III)I" } : Jvm.MethodName)) ∈ lw_all := lw_g (lw_at lw_m8 108 rfl) rfl
theorem q1903 : (Jvm.Cond.selects "DictProofModel" ({ cls := "DictProofModel", name := "drawn", desc := "(III)I" } : Jvm.MethodName) ({ cls := "DictProofModel", name := "drawn", desc := "(III)I" } : Jvm.MethodName)) ∈ lw_all := lw_g (lw_at lw_m8 109 rfl) rfl
theorem q1904 : (Jvm.Cond.code ({ cls := "DictProofModel", name := "drawn", desc := "(III)I" } : Jvm.MethodName) prog_13_method_86_code (4 : Nat) (Option.some Jvm.ClassFile.FieldType.int)) ∈ lw_all := lw_g (lw_at lw_m8 110 rfl) rfl
theorem q1905 : (Jvm.Cond.methodLink "DictProofModel" (407 : Nat) ({ cls := "DictProofModel", name := "drawnNow", desc := "(III)I" } : Jvm.MethodName)) ∈ lw_all := lw_g (lw_at lw_m8 111 rfl) rfl
theorem q1906 : (Jvm.Cond.privateMethod ({ cls := "DictProofModel", name := "drawnNow", desc := "(III)I" } : Jvm.MethodName)) ∈ lw_tbl := lw_at lw_m8 112 rfl
theorem q1907 : (Jvm.Cond.instanceMethod ({ cls := "DictProofModel", name := "drawnNow", desc := "(III)I" } : Jvm.MethodName)) ∈ lw_all := lw_g (lw_at lw_m8 113 rfl) rfl
theorem q1908 : (Jvm.Cond.code ({ cls := "DictProofModel", name := "drawnNow", desc := "(III)I" } : Jvm.MethodName) prog_13_method_85_code (8 : Nat) (Option.some Jvm.ClassFile.FieldType.int)) ∈ lw_all := lw_g (lw_at lw_m8 114 rfl) rfl
theorem q1909 : (Jvm.Cond.methodLink "DictProofModel" (395 : Nat) ({ cls := "DictProofModel", name := "draw", desc := "(I)I" } : Jvm.MethodName)) ∈ lw_all := lw_g (lw_at lw_m8 115 rfl) rfl
theorem q1910 : (Jvm.Cond.privateMethod ({ cls := "DictProofModel", name := "draw", desc := "(I)I" } : Jvm.MethodName)) ∈ lw_tbl := lw_at lw_m8 116 rfl
theorem q1911 : (Jvm.Cond.instanceMethod ({ cls := "DictProofModel", name := "draw", desc := "(I)I" } : Jvm.MethodName)) ∈ lw_all := lw_g (lw_at lw_m8 117 rfl) rfl
theorem q1912 : (Jvm.Cond.code ({ cls := "DictProofModel", name := "draw", desc := "(I)I" } : Jvm.MethodName) prog_13_method_81_code (2 : Nat) (Option.some Jvm.ClassFile.FieldType.int)) ∈ lw_all := lw_g (lw_at lw_m8 118 rfl) rfl
theorem q1913 : (Jvm.Cond.constantLong "DictProofModel" (383 : Nat) (1103515245 : Int64)) ∈ lw_all := lw_g (lw_at lw_m8 119 rfl) rfl
theorem q1914 : (Jvm.Cond.constantLong "DictProofModel" (389 : Nat) (12345 : Int64)) ∈ lw_all := lw_g (lw_at lw_m8 120 rfl) rfl
theorem q1915 : (Jvm.Cond.constantLong "DictProofModel" (391 : Nat) (2147483647 : Int64)) ∈ lw_all := lw_g (lw_at lw_m8 121 rfl) rfl
theorem q1916 : (Jvm.Cond.constantLong "DictProofModel" (393 : Nat) (65536 : Int64)) ∈ lw_all := lw_g (lw_at lw_m8 122 rfl) rfl
theorem q1917 : (Jvm.Cond.methodLink "DictProofModel" (404 : Nat) ({ cls := "DictProofModel", name := "drawType", desc := "()V" } : Jvm.MethodName)) ∈ lw_all := lw_g (lw_at lw_m8 123 rfl) rfl
theorem q1918 : (Jvm.Cond.privateMethod ({ cls := "DictProofModel", name := "drawType", desc := "()V" } : Jvm.MethodName)) ∈ lw_tbl := lw_at lw_m8 124 rfl
theorem q1919 : (Jvm.Cond.instanceMethod ({ cls := "DictProofModel", name := "drawType", desc := "()V" } : Jvm.MethodName)) ∈ lw_all := lw_g (lw_at lw_m8 125 rfl) rfl
theorem q1920 : (Jvm.Cond.code ({ cls := "DictProofModel", name := "drawType", desc := "()V" } : Jvm.MethodName) prog_13_method_84_code (5 : Nat) (Option.none : Option Jvm.ClassFile.FieldType)) ∈ lw_all := lw_g (lw_at lw_m8 126 rfl) rfl
theorem q1921 : (Jvm.Cond.methodLink "DictProofModel" (398 : Nat) ({ cls := "DictProofModel", name := "letterBy", desc := "(I)I" } : Jvm.MethodName)) ∈ lw_all := lw_g (lw_at lw_m8 127 rfl) rfl
theorem q1922 : (Jvm.Cond.static ({ cls := "DictProofModel", name := "letterBy", desc := "(I)I" } : Jvm.MethodName)) ∈ lw_all := lw_g (lw_at lw_m8 128 rfl) rfl
theorem q1923 : (Jvm.Cond.code ({ cls := "DictProofModel", name := "letterBy", desc := "(I)I" } : Jvm.MethodName) prog_13_method_82_code (1 : Nat) (Option.some Jvm.ClassFile.FieldType.int)) ∈ lw_all := lw_g (lw_at lw_m8 129 rfl) rfl
theorem q1924 : (Jvm.Cond.methodLink "DictProofModel" (401 : Nat) ({ cls := "DictProofModel", name := "addLetter", desc := "(I)V" } : Jvm.MethodName)) ∈ lw_all := lw_g (lw_at lw_m8 130 rfl) rfl
theorem q1925 : (Jvm.Cond.privateMethod ({ cls := "DictProofModel", name := "addLetter", desc := "(I)V" } : Jvm.MethodName)) ∈ lw_tbl := lw_at lw_m8 131 rfl
theorem q1926 : (Jvm.Cond.instanceMethod ({ cls := "DictProofModel", name := "addLetter", desc := "(I)V" } : Jvm.MethodName)) ∈ lw_all := lw_g (lw_at lw_m8 132 rfl) rfl
theorem q1927 : (Jvm.Cond.code ({ cls := "DictProofModel", name := "addLetter", desc := "(I)V" } : Jvm.MethodName) prog_13_method_83_code (2 : Nat) (Option.none : Option Jvm.ClassFile.FieldType)) ∈ lw_all := lw_g (lw_at lw_m8 133 rfl) rfl
theorem q1929 : (Jvm.Cond.instanceMethod ({ cls := "DictProofModel", name := "image", desc := "()I" } : Jvm.MethodName)) ∈ lw_all := lw_g (lw_at lw_m8 135 rfl) rfl
theorem q1930 : (Jvm.Cond.selects "DictProofModel" ({ cls := "DictProofModel", name := "image", desc := "()I" } : Jvm.MethodName) ({ cls := "DictProofModel", name := "image", desc := "()I" } : Jvm.MethodName)) ∈ lw_all := lw_g (lw_at lw_m8 136 rfl) rfl
theorem q1931 : (Jvm.Cond.code ({ cls := "DictProofModel", name := "image", desc := "()I" } : Jvm.MethodName) prog_13_method_88_code (2 : Nat) (Option.some Jvm.ClassFile.FieldType.int)) ∈ lw_all := lw_g (lw_at lw_m8 137 rfl) rfl
theorem q1932 : (Jvm.Cond.methodLink "DictProofModel" (420 : Nat) ({ cls := "DictProofModel", name := "filled", desc := "()I" } : Jvm.MethodName)) ∈ lw_all := lw_g (lw_at lw_m8 138 rfl) rfl
theorem q1933 : (Jvm.Cond.privateMethod ({ cls := "DictProofModel", name := "filled", desc := "()I" } : Jvm.MethodName)) ∈ lw_tbl := lw_at lw_m8 139 rfl
theorem q1934 : (Jvm.Cond.instanceMethod ({ cls := "DictProofModel", name := "filled", desc := "()I" } : Jvm.MethodName)) ∈ lw_all := lw_g (lw_at lw_m8 140 rfl) rfl
theorem q1935 : (Jvm.Cond.code ({ cls := "DictProofModel", name := "filled", desc := "()I" } : Jvm.MethodName) prog_13_method_87_code (3 : Nat) (Option.some Jvm.ClassFile.FieldType.int)) ∈ lw_all := lw_g (lw_at lw_m8 141 rfl) rfl
theorem q1937 : (Jvm.Cond.instanceMethod ({ cls := "DictProofModel", name := "restore", desc := "()I" } : Jvm.MethodName)) ∈ lw_all := lw_g (lw_at lw_m8 143 rfl) rfl
theorem q1938 : (Jvm.Cond.selects "DictProofModel" ({ cls := "DictProofModel", name := "restore", desc := "()I" } : Jvm.MethodName) ({ cls := "DictProofModel", name := "restore", desc := "()I" } : Jvm.MethodName)) ∈ lw_all := lw_g (lw_at lw_m8 144 rfl) rfl
theorem q1939 : (Jvm.Cond.code ({ cls := "DictProofModel", name := "restore", desc := "()I" } : Jvm.MethodName) prog_13_method_89_code (2 : Nat) (Option.some Jvm.ClassFile.FieldType.int)) ∈ lw_all := lw_g (lw_at lw_m8 145 rfl) rfl
theorem q1941 : (Jvm.Cond.instanceMethod ({ cls := "DictProofModel", name := "count", desc := "(I)I" } : Jvm.MethodName)) ∈ lw_all := lw_g (lw_at lw_m8 147 rfl) rfl
theorem q1942 : (Jvm.Cond.selects "DictProofModel" ({ cls := "DictProofModel", name := "count", desc := "(I)I" } : Jvm.MethodName) ({ cls := "DictProofModel", name := "count", desc := "(I)I" } : Jvm.MethodName)) ∈ lw_all := lw_g (lw_at lw_m8 148 rfl) rfl
theorem q1943 : (Jvm.Cond.code ({ cls := "DictProofModel", name := "count", desc := "(I)I" } : Jvm.MethodName) prog_13_method_96_code (2 : Nat) (Option.some Jvm.ClassFile.FieldType.int)) ∈ lw_all := lw_g (lw_at lw_m8 149 rfl) rfl
theorem q1944 : (Jvm.Cond.methodLink "DictProofModel" (438 : Nat) ({ cls := "DictProofModel", name := "howMany", desc := "(I)I" } : Jvm.MethodName)) ∈ lw_all := lw_g (lw_at lw_m8 150 rfl) rfl
theorem q1945 : (Jvm.Cond.privateMethod ({ cls := "DictProofModel", name := "howMany", desc := "(I)I" } : Jvm.MethodName)) ∈ lw_tbl := lw_at lw_m8 151 rfl
theorem q1946 : (Jvm.Cond.instanceMethod ({ cls := "DictProofModel", name := "howMany", desc := "(I)I" } : Jvm.MethodName)) ∈ lw_all := lw_g (lw_at lw_m8 152 rfl) rfl
theorem q1947 : (Jvm.Cond.code ({ cls := "DictProofModel", name := "howMany", desc := "(I)I" } : Jvm.MethodName) prog_13_method_95_code (2 : Nat) (Option.some Jvm.ClassFile.FieldType.int)) ∈ lw_all := lw_g (lw_at lw_m8 153 rfl) rfl
theorem q1948 : (Jvm.Cond.methodLink "DictProofModel" (426 : Nat) ({ cls := "DictProofModel", name := "unsound", desc := "()I" } : Jvm.MethodName)) ∈ lw_all := lw_g (lw_at lw_m8 154 rfl) rfl
theorem q1949 : (Jvm.Cond.privateMethod ({ cls := "DictProofModel", name := "unsound", desc := "()I" } : Jvm.MethodName)) ∈ lw_tbl := lw_at lw_m8 155 rfl
theorem q1950 : (Jvm.Cond.instanceMethod ({ cls := "DictProofModel", name := "unsound", desc := "()I" } : Jvm.MethodName)) ∈ lw_all := lw_g (lw_at lw_m8 156 rfl) rfl
theorem q1951 : (Jvm.Cond.code ({ cls := "DictProofModel", name := "unsound", desc := "()I" } : Jvm.MethodName) prog_13_method_90_code (3 : Nat) (Option.some Jvm.ClassFile.FieldType.int)) ∈ lw_all := lw_g (lw_at lw_m8 157 rfl) rfl
theorem q1952 : (Jvm.Cond.methodLink "DictProofModel" (429 : Nat) ({ cls := "DictProofModel", name := "pairsOf", desc := "(I)I" } : Jvm.MethodName)) ∈ lw_all := lw_g (lw_at lw_m8 158 rfl) rfl
theorem q1953 : (Jvm.Cond.privateMethod ({ cls := "DictProofModel", name := "pairsOf", desc := "(I)I" } : Jvm.MethodName)) ∈ lw_tbl := lw_at lw_m8 159 rfl
theorem q1954 : (Jvm.Cond.instanceMethod ({ cls := "DictProofModel", name := "pairsOf", desc := "(I)I" } : Jvm.MethodName)) ∈ lw_all := lw_g (lw_at lw_m8 160 rfl) rfl
theorem q1955 : (Jvm.Cond.code ({ cls := "DictProofModel", name := "pairsOf", desc := "(I)I" } : Jvm.MethodName) prog_13_method_91_code (5 : Nat) (Option.some Jvm.ClassFile.FieldType.int)) ∈ lw_all := lw_g (lw_at lw_m8 161 rfl) rfl
theorem q1956 : (Jvm.Cond.methodLink "DictProofModel" (432 : Nat) ({ cls := "DictProofModel", name := "lacksOfAll", desc := "()I" } : Jvm.MethodName)) ∈ lw_all := lw_g (lw_at lw_m8 162 rfl) rfl
theorem q1957 : (Jvm.Cond.privateMethod ({ cls := "DictProofModel", name := "lacksOfAll", desc := "()I" } : Jvm.MethodName)) ∈ lw_tbl := lw_at lw_m8 163 rfl
theorem q1958 : (Jvm.Cond.instanceMethod ({ cls := "DictProofModel", name := "lacksOfAll", desc := "()I" } : Jvm.MethodName)) ∈ lw_all := lw_g (lw_at lw_m8 164 rfl) rfl
theorem q1959 : (Jvm.Cond.code ({ cls := "DictProofModel", name := "lacksOfAll", desc := "()I" } : Jvm.MethodName) prog_13_method_92_code (3 : Nat) (Option.some Jvm.ClassFile.FieldType.int)) ∈ lw_all := lw_g (lw_at lw_m8 165 rfl) rfl
theorem q1960 : (Jvm.Cond.methodLink "DictProofModel" (435 : Nat) ({ cls := "DictProofModel", name := "differentTypes", desc := "()I" } : Jvm.MethodName)) ∈ lw_all := lw_g (lw_at lw_m8 166 rfl) rfl
theorem q1961 : (Jvm.Cond.privateMethod ({ cls := "DictProofModel", name := "differentTypes", desc := "()I" } : Jvm.MethodName)) ∈ lw_tbl := lw_at lw_m8 167 rfl
theorem q1962 : (Jvm.Cond.instanceMethod ({ cls := "DictProofModel", name := "differentTypes", desc := "()I" } : Jvm.MethodName)) ∈ lw_all := lw_g (lw_at lw_m8 168 rfl) rfl
theorem q1963 : (Jvm.Cond.code ({ cls := "DictProofModel", name := "differentTypes", desc := "()I" } : Jvm.MethodName) prog_13_method_94_code (5 : Nat) (Option.some Jvm.ClassFile.FieldType.int)) ∈ lw_all := lw_g (lw_at lw_m8 169 rfl) rfl
theorem q1964 : (Jvm.Cond.methodLink "DictProofModel" (423 : Nat) ({ cls := "DictProofModel", name := "isSlotLike", desc := "(II)Z" } : Jvm.MethodName)) ∈ lw_all := lw_g (lw_at lw_m8 170 rfl) rfl
theorem q1965 : (Jvm.Cond.privateMethod ({ cls := "DictProofModel", name := "isSlotLike", desc := "(II)Z" } : Jvm.MethodName)) ∈ lw_tbl := lw_at lw_m8 171 rfl
theorem q1966 : (Jvm.Cond.instanceMethod ({ cls := "DictProofModel", name := "isSlotLike", desc := "(II)Z" } : Jvm.MethodName)) ∈ lw_all := lw_g (lw_at lw_m8 172 rfl) rfl
theorem q1967 : (Jvm.Cond.code ({ cls := "DictProofModel", name := "isSlotLike", desc := "(II)Z" } : Jvm.MethodName) prog_13_method_93_code (5 : Nat) (Option.some Jvm.ClassFile.FieldType.boolean)) ∈ lw_all := lw_g (lw_at lw_m8 173 rfl) rfl
theorem q1969 : (Jvm.Cond.instanceMethod ({ cls := "DictProofModel", name := "digest", desc := "()J" } : Jvm.MethodName)) ∈ lw_all := lw_g (lw_at lw_m8 175 rfl) rfl
theorem q1970 : (Jvm.Cond.selects "DictProofModel" ({ cls := "DictProofModel", name := "digest", desc := "()J" } : Jvm.MethodName) ({ cls := "DictProofModel", name := "digest", desc := "()J" } : Jvm.MethodName)) ∈ lw_all := lw_g (lw_at lw_m8 176 rfl) rfl
theorem q1971 : (Jvm.Cond.code ({ cls := "DictProofModel", name := "digest", desc := "()J" } : Jvm.MethodName) prog_13_method_99_code (3 : Nat) (Option.some Jvm.ClassFile.FieldType.long)) ∈ lw_all := lw_g (lw_at lw_m8 177 rfl) rfl
theorem q1972 : (Jvm.Cond.constantLong "DictProofModel" (450 : Nat) (1367 : Int64)) ∈ lw_all := lw_g (lw_at lw_m8 178 rfl) rfl
theorem q1973 : (Jvm.Cond.methodLink "DictProofModel" (446 : Nat) ({ cls := "DictProofModel", name := "mix", desc := "(J)V" } : Jvm.MethodName)) ∈ lw_all := lw_g (lw_at lw_m8 179 rfl) rfl
theorem q1974 : (Jvm.Cond.privateMethod ({ cls := "DictProofModel", name := "mix", desc := "(J)V" } : Jvm.MethodName)) ∈ lw_tbl := lw_at lw_m8 180 rfl
theorem q1975 : (Jvm.Cond.instanceMethod ({ cls := "DictProofModel", name := "mix", desc := "(J)V" } : Jvm.MethodName)) ∈ lw_all := lw_g (lw_at lw_m8 181 rfl) rfl
theorem q1976 : (Jvm.Cond.code ({ cls := "DictProofModel", name := "mix", desc := "(J)V" } : Jvm.MethodName) prog_13_method_97_code (3 : Nat) (Option.none : Option Jvm.ClassFile.FieldType)) ∈ lw_all := lw_g (lw_at lw_m8 182 rfl) rfl
theorem q1977 : (Jvm.Cond.constantLong "DictProofModel" (441 : Nat) (31 : Int64)) ∈ lw_all := lw_g (lw_at lw_m8 183 rfl) rfl
theorem q1978 : (Jvm.Cond.methodLink "DictProofModel" (452 : Nat) ({ cls := "DictProofModel", name := "mixSlot", desc := "(I)V" } : Jvm.MethodName)) ∈ lw_all := lw_g (lw_at lw_m8 184 rfl) rfl
theorem q1979 : (Jvm.Cond.privateMethod ({ cls := "DictProofModel", name := "mixSlot", desc := "(I)V" } : Jvm.MethodName)) ∈ lw_tbl := lw_at lw_m8 185 rfl
theorem q1980 : (Jvm.Cond.instanceMethod ({ cls := "DictProofModel", name := "mixSlot", desc := "(I)V" } : Jvm.MethodName)) ∈ lw_all := lw_g (lw_at lw_m8 186 rfl) rfl
theorem q1981 : (Jvm.Cond.code ({ cls := "DictProofModel", name := "mixSlot", desc := "(I)V" } : Jvm.MethodName) prog_13_method_98_code (4 : Nat) (Option.none : Option Jvm.ClassFile.FieldType)) ∈ lw_all := lw_g (lw_at lw_m8 187 rfl) rfl
theorem q2000 : (Jvm.Cond.castable "DictProofModel" "java/lang/Object") ∈ lw_tbl := lw_at lw_m8 206 rfl
theorem in_X6 : ∀ w ∈ wsX60, w ∈ lw_all := lw_in wsX60 [1468, 1470, 1472, 1474, 1476, 1478, 1480, 1482, 1484, 1486, 1488, 1490, 1492, 1494, 1496, 1498, 1500, 1502, 1504, 1506, 1508, 1510, 1512, 1514, 1516, 1518, 1520, 1522, 1524, 1526, 1528, 1530, 1532, 1534, 1536, 1538, 1540, 1542, 1544, 1546, 1548, 1550, 1552, 1554, 1556, 1558, 1560, 1562, 1564, 1566, 1568, 1570, 1572, 1574, 1576, 1578, 1580, 1582, 1584, 1586, 1588, 1590, 1592] (by decide +kernel) (by decide +kernel)
