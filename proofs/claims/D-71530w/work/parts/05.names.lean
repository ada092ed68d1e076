/-! DictProof$Instance -/
set_option maxRecDepth 100000
def RX1 : String := "DictProof$Instance"
def TX1 : u_T := fun k => match k with
  | 0 => ("DictProof$Instance", "number", "I", false)
  | 1 => ("DictProof$Instance", "of", "I", false)
  | 2 => ("DictProof$Instance", "head", "LDictProof$Term;", false)
  | 3 => ("DictProof$Instance", "classes", "[I", true)
  | 4 => ("DictProof$Instance", "variables", "[I", true)
  | _ => ("DictProof$Instance", "many", "I", false)
def tyX1 : Nat → FieldType := fun k => match k with
  | 0 => .int
  | 1 => .int
  | 2 => .object "DictProof$Term"
  | 3 => .array .int
  | 4 => .array .int
  | _ => .int
abbrev wsX10 : List Cond := u_ws RX1 TX1 6
theorem nmX1 : ∀ a, a < 6 → ∀ b, b < 6 → a ≠ b → (TX1 a).2.1 ≠ (TX1 b).2.1 := by decide +kernel
theorem tyX1_ok : ∀ k, k < 6 → parseFieldDescriptor (TX1 k).2.2.1 = some (tyX1 k) := by decide +kernel
abbrev cX1_init : ByteArray := prog_5_method_1_code
def yX1_init : MethodName := ⟨RX1, "<init>", "()V"⟩
def dkwX1_init_0 : List UInt8 := [42, 183, 0, 3, 42, 5, 188, 10, 181, 0, 9, 42, 5, 188, 10, 181, 0, 15, 177]
abbrev dktX1_init_0 : List UInt8 := dkwX1_init_0 ++ []
theorem dksX1_init_0 : cX1_init.data.toList.drop 0 = dktX1_init_0 := by decide +kernel
theorem dX1_init_0 : decode cX1_init 0 = .ok (.aload_n 0, 1) := dk_42 (dk_at dksX1_init_0 0 rfl rfl)
theorem dX1_init_1 : decode cX1_init 1 = .ok (.invokespecial 3, 3) := dk_183 0 3 (dk_at dksX1_init_0 1 rfl rfl)
theorem dX1_init_4 : decode cX1_init 4 = .ok (.aload_n 0, 1) := dk_42 (dk_at dksX1_init_0 4 rfl rfl)
theorem dX1_init_5 : decode cX1_init 5 = .ok (.iconst 2, 1) := dk_5 (dk_at dksX1_init_0 5 rfl rfl)
theorem dX1_init_6 : decode cX1_init 6 = .ok (.newarray .int, 2) := dk_188_10 (dk_at dksX1_init_0 6 rfl rfl)
theorem dX1_init_8 : decode cX1_init 8 = .ok (.putfield 9, 3) := dk_181 0 9 (dk_at dksX1_init_0 8 rfl rfl)
theorem dX1_init_11 : decode cX1_init 11 = .ok (.aload_n 0, 1) := dk_42 (dk_at dksX1_init_0 11 rfl rfl)
theorem dX1_init_12 : decode cX1_init 12 = .ok (.iconst 2, 1) := dk_5 (dk_at dksX1_init_0 12 rfl rfl)
theorem dX1_init_13 : decode cX1_init 13 = .ok (.newarray .int, 2) := dk_188_10 (dk_at dksX1_init_0 13 rfl rfl)
theorem dX1_init_15 : decode cX1_init 15 = .ok (.putfield 15, 3) := dk_181 0 15 (dk_at dksX1_init_0 15 rfl rfl)
theorem dX1_init_18 : decode cX1_init 18 = .ok (.return_, 1) := dk_177 (dk_at dksX1_init_0 18 rfl rfl)
abbrev cX1_isUsed : ByteArray := prog_5_method_4_code
def yX1_isUsed : MethodName := ⟨RX1, "isUsed", "()Z"⟩
theorem dX1_isUsed_0 : decode cX1_isUsed 0 = .ok (.iconst 1, 1) := by decide +kernel
theorem dX1_isUsed_1 : decode cX1_isUsed 1 = .ok (.ireturn, 1) := by decide +kernel
abbrev cX1_isSound : ByteArray := prog_5_method_6_code
def yX1_isSound : MethodName := ⟨RX1, "isSound", "()Z"⟩
def dkwX1_isSound_0 : List UInt8 := [42, 180, 0, 18, 153, 0, 14, 42, 180, 0, 22, 182, 0, 26, 2, 160, 0, 7, 4, 167, 0, 4, 3, 172]
abbrev dktX1_isSound_0 : List UInt8 := dkwX1_isSound_0 ++ []
theorem dksX1_isSound_0 : cX1_isSound.data.toList.drop 0 = dktX1_isSound_0 := by decide +kernel
theorem dX1_isSound_0 : decode cX1_isSound 0 = .ok (.aload_n 0, 1) := dk_42 (dk_at dksX1_isSound_0 0 rfl rfl)
theorem dX1_isSound_1 : decode cX1_isSound 1 = .ok (.getfield 18, 3) := dk_180 0 18 (dk_at dksX1_isSound_0 1 rfl rfl)
theorem dX1_isSound_4 : decode cX1_isSound 4 = .ok (.ifCond .eq 14, 3) := dk_153 0 14 (dk_at dksX1_isSound_0 4 rfl rfl)
theorem dX1_isSound_7 : decode cX1_isSound 7 = .ok (.aload_n 0, 1) := dk_42 (dk_at dksX1_isSound_0 7 rfl rfl)
theorem dX1_isSound_8 : decode cX1_isSound 8 = .ok (.getfield 22, 3) := dk_180 0 22 (dk_at dksX1_isSound_0 8 rfl rfl)
theorem dX1_isSound_11 : decode cX1_isSound 11 = .ok (.invokevirtual 26, 3) := dk_182 0 26 (dk_at dksX1_isSound_0 11 rfl rfl)
theorem dX1_isSound_14 : decode cX1_isSound 14 = .ok (.iconst (-1), 1) := dk_2 (dk_at dksX1_isSound_0 14 rfl rfl)
theorem dX1_isSound_15 : decode cX1_isSound 15 = .ok (.if_icmp .ne 7, 3) := dk_160 0 7 (dk_at dksX1_isSound_0 15 rfl rfl)
theorem dX1_isSound_18 : decode cX1_isSound 18 = .ok (.iconst 1, 1) := dk_4 (dk_at dksX1_isSound_0 18 rfl rfl)
theorem dX1_isSound_19 : decode cX1_isSound 19 = .ok (.goto 4, 3) := dk_167 0 4 (dk_at dksX1_isSound_0 19 rfl rfl)
theorem dX1_isSound_22 : decode cX1_isSound 22 = .ok (.iconst 0, 1) := dk_3 (dk_at dksX1_isSound_0 22 rfl rfl)
theorem dX1_isSound_23 : decode cX1_isSound 23 = .ok (.ireturn, 1) := dk_172 (dk_at dksX1_isSound_0 23 rfl rfl)
abbrev cX1_isAlone : ByteArray := prog_5_method_5_code
def yX1_isAlone : MethodName := ⟨RX1, "isAlone", "()Z"⟩
theorem dX1_isAlone_0 : decode cX1_isAlone 0 = .ok (.iconst 0, 1) := by decide +kernel
theorem dX1_isAlone_1 : decode cX1_isAlone 1 = .ok (.ireturn, 1) := by decide +kernel
abbrev cX1_rank : ByteArray := prog_5_method_3_code
def yX1_rank : MethodName := ⟨RX1, "rank", "()I"⟩
theorem dX1_rank_0 : decode cX1_rank 0 = .ok (.iconst 1, 1) := by decide +kernel
theorem dX1_rank_1 : decode cX1_rank 1 = .ok (.ireturn, 1) := by decide +kernel
abbrev cX1_kind : ByteArray := prog_5_method_2_code
def yX1_kind : MethodName := ⟨RX1, "kind", "()I"⟩
theorem dX1_kind_0 : decode cX1_kind 0 = .ok (.iconst 0, 1) := by decide +kernel
theorem dX1_kind_1 : decode cX1_kind 1 = .ok (.ireturn, 1) := by decide +kernel
abbrev cX1_be : ByteArray := prog_5_method_7_code
def yX1_be : MethodName := ⟨RX1, "be", "(LDictProof$Instance;)V"⟩
def dkwX1_be_2 : List UInt8 := [180, 0, 15, 3, 42, 180, 0, 15, 3, 5, 184, 0, 38, 177]
abbrev dktX1_be_2 : List UInt8 := dkwX1_be_2 ++ []
def dkwX1_be_1 : List UInt8 := [42, 43, 180, 0, 18, 181, 0, 18, 43, 180, 0, 9, 3, 42, 180, 0, 9, 3, 5, 184, 0, 38, 43]
abbrev dktX1_be_1 : List UInt8 := dkwX1_be_1 ++ dktX1_be_2
def dkwX1_be_0 : List UInt8 := [42, 43, 180, 0, 32, 181, 0, 32, 42, 43, 180, 0, 35, 181, 0, 35, 42, 43, 180, 0, 22, 181, 0, 22]
abbrev dktX1_be_0 : List UInt8 := dkwX1_be_0 ++ dktX1_be_1
theorem dksX1_be_0 : cX1_be.data.toList.drop 0 = dktX1_be_0 := by decide +kernel
theorem dksX1_be_1 : cX1_be.data.toList.drop 24 = dktX1_be_1 := dk_seg dksX1_be_0 24 rfl rfl
theorem dksX1_be_2 : cX1_be.data.toList.drop 47 = dktX1_be_2 := dk_seg dksX1_be_1 23 rfl rfl
theorem dX1_be_0 : decode cX1_be 0 = .ok (.aload_n 0, 1) := dk_42 (dk_at dksX1_be_0 0 rfl rfl)
theorem dX1_be_1 : decode cX1_be 1 = .ok (.aload_n 1, 1) := dk_43 (dk_at dksX1_be_0 1 rfl rfl)
theorem dX1_be_2 : decode cX1_be 2 = .ok (.getfield 32, 3) := dk_180 0 32 (dk_at dksX1_be_0 2 rfl rfl)
theorem dX1_be_5 : decode cX1_be 5 = .ok (.putfield 32, 3) := dk_181 0 32 (dk_at dksX1_be_0 5 rfl rfl)
theorem dX1_be_8 : decode cX1_be 8 = .ok (.aload_n 0, 1) := dk_42 (dk_at dksX1_be_0 8 rfl rfl)
theorem dX1_be_9 : decode cX1_be 9 = .ok (.aload_n 1, 1) := dk_43 (dk_at dksX1_be_0 9 rfl rfl)
theorem dX1_be_10 : decode cX1_be 10 = .ok (.getfield 35, 3) := dk_180 0 35 (dk_at dksX1_be_0 10 rfl rfl)
theorem dX1_be_13 : decode cX1_be 13 = .ok (.putfield 35, 3) := dk_181 0 35 (dk_at dksX1_be_0 13 rfl rfl)
theorem dX1_be_16 : decode cX1_be 16 = .ok (.aload_n 0, 1) := dk_42 (dk_at dksX1_be_0 16 rfl rfl)
theorem dX1_be_17 : decode cX1_be 17 = .ok (.aload_n 1, 1) := dk_43 (dk_at dksX1_be_0 17 rfl rfl)
theorem dX1_be_18 : decode cX1_be 18 = .ok (.getfield 22, 3) := dk_180 0 22 (dk_at dksX1_be_0 18 rfl rfl)
theorem dX1_be_21 : decode cX1_be 21 = .ok (.putfield 22, 3) := dk_181 0 22 (dk_at dksX1_be_0 21 rfl rfl)
theorem dX1_be_24 : decode cX1_be 24 = .ok (.aload_n 0, 1) := dk_42 (dk_at dksX1_be_1 0 rfl rfl)
theorem dX1_be_25 : decode cX1_be 25 = .ok (.aload_n 1, 1) := dk_43 (dk_at dksX1_be_1 1 rfl rfl)
theorem dX1_be_26 : decode cX1_be 26 = .ok (.getfield 18, 3) := dk_180 0 18 (dk_at dksX1_be_1 2 rfl rfl)
theorem dX1_be_29 : decode cX1_be 29 = .ok (.putfield 18, 3) := dk_181 0 18 (dk_at dksX1_be_1 5 rfl rfl)
theorem dX1_be_32 : decode cX1_be 32 = .ok (.aload_n 1, 1) := dk_43 (dk_at dksX1_be_1 8 rfl rfl)
theorem dX1_be_33 : decode cX1_be 33 = .ok (.getfield 9, 3) := dk_180 0 9 (dk_at dksX1_be_1 9 rfl rfl)
theorem dX1_be_36 : decode cX1_be 36 = .ok (.iconst 0, 1) := dk_3 (dk_at dksX1_be_1 12 rfl rfl)
theorem dX1_be_37 : decode cX1_be 37 = .ok (.aload_n 0, 1) := dk_42 (dk_at dksX1_be_1 13 rfl rfl)
theorem dX1_be_38 : decode cX1_be 38 = .ok (.getfield 9, 3) := dk_180 0 9 (dk_at dksX1_be_1 14 rfl rfl)
theorem dX1_be_41 : decode cX1_be 41 = .ok (.iconst 0, 1) := dk_3 (dk_at dksX1_be_1 17 rfl rfl)
theorem dX1_be_42 : decode cX1_be 42 = .ok (.iconst 2, 1) := dk_5 (dk_at dksX1_be_1 18 rfl rfl)
theorem dX1_be_43 : decode cX1_be 43 = .ok (.invokestatic 38, 3) := dk_184 0 38 (dk_at dksX1_be_1 19 rfl rfl)
theorem dX1_be_46 : decode cX1_be 46 = .ok (.aload_n 1, 1) := dk_43 (dk_at dksX1_be_1 22 rfl rfl)
theorem dX1_be_47 : decode cX1_be 47 = .ok (.getfield 15, 3) := dk_180 0 15 (dk_at dksX1_be_2 0 rfl rfl)
theorem dX1_be_50 : decode cX1_be 50 = .ok (.iconst 0, 1) := dk_3 (dk_at dksX1_be_2 3 rfl rfl)
theorem dX1_be_51 : decode cX1_be 51 = .ok (.aload_n 0, 1) := dk_42 (dk_at dksX1_be_2 4 rfl rfl)
theorem dX1_be_52 : decode cX1_be 52 = .ok (.getfield 15, 3) := dk_180 0 15 (dk_at dksX1_be_2 5 rfl rfl)
theorem dX1_be_55 : decode cX1_be 55 = .ok (.iconst 0, 1) := dk_3 (dk_at dksX1_be_2 8 rfl rfl)
theorem dX1_be_56 : decode cX1_be 56 = .ok (.iconst 2, 1) := dk_5 (dk_at dksX1_be_2 9 rfl rfl)
theorem dX1_be_57 : decode cX1_be 57 = .ok (.invokestatic 38, 3) := dk_184 0 38 (dk_at dksX1_be_2 10 rfl rfl)
theorem dX1_be_60 : decode cX1_be 60 = .ok (.return_, 1) := dk_177 (dk_at dksX1_be_2 13 rfl rfl)
theorem q116 : (Jvm.Cond.initialized "DictProof$Instance") ∈ lw_all := lw_g (lw_at lw_m1 2 rfl) rfl
theorem q154 : (Jvm.Cond.instantiable "DictProof$Instance" (6 : Nat)) ∈ lw_all := lw_g (lw_at lw_m1 40 rfl) rfl
theorem q156 : (Jvm.Cond.instanceMethod ({ cls := "DictProof$Instance", name := "<init>", desc := "()V" } : Jvm.MethodName)) ∈ lw_all := lw_g (lw_at lw_m1 42 rfl) rfl
theorem q157 : (Jvm.Cond.code ({ cls := "DictProof$Instance", name := "<init>", desc := "()V" } : Jvm.MethodName) prog_5_method_1_code (1 : Nat) (Option.none : Option Jvm.ClassFile.FieldType)) ∈ lw_all := lw_g (lw_at lw_m1 43 rfl) rfl
theorem q158 : (Jvm.Cond.methodLink "DictProof$Instance" (3 : Nat) ({ cls := "java/lang/Object", name := "<init>", desc := "()V" } : Jvm.MethodName)) ∈ lw_all := lw_g (lw_at lw_m1 44 rfl) rfl
theorem q160 : (Jvm.Cond.fieldLink "DictProof$Instance" (32 : Nat) "DictProof$Instance" "number" "I") ∈ lw_all := lw_g (lw_at lw_m1 46 rfl) rfl
theorem q170 : (Jvm.Cond.fieldLink "DictProof$Instance" (35 : Nat) "DictProof$Instance" "of" "I") ∈ lw_all := lw_g (lw_at lw_m1 56 rfl) rfl
theorem q172 : (Jvm.Cond.fieldLink "DictProof$Instance" (22 : Nat) "DictProof$Instance" "head" "LDictProof$Term;") ∈ lw_all := lw_g (lw_at lw_m1 58 rfl) rfl
theorem q174 : (Jvm.Cond.fieldLink "DictProof$Instance" (9 : Nat) "DictProof$Instance" "classes" "[I") ∈ lw_all := lw_g (lw_at lw_m1 60 rfl) rfl
theorem q176 : (Jvm.Cond.fieldLink "DictProof$Instance" (15 : Nat) "DictProof$Instance" "variables" "[I") ∈ lw_all := lw_g (lw_at lw_m1 62 rfl) rfl
theorem q179 : (Jvm.Cond.fieldLink "DictProof$Instance" (18 : Nat) "DictProof$Instance" "many" "I") ∈ lw_all := lw_g (lw_at lw_m1 65 rfl) rfl
theorem q181 : (Jvm.Cond.lays "DictProof$Instance" "DictProof$Instance" "number" "I") ∈ lw_all := lw_g (lw_at lw_m1 67 rfl) rfl
theorem q182 : (Jvm.Cond.soleField "DictProof$Instance" "number") ∈ lw_all := lw_g (lw_at lw_m1 68 rfl) rfl
theorem q183 : (Jvm.Cond.lays "DictProof$Instance" "DictProof$Instance" "of" "I") ∈ lw_all := lw_g (lw_at lw_m1 69 rfl) rfl
theorem q184 : (Jvm.Cond.soleField "DictProof$Instance" "of") ∈ lw_all := lw_g (lw_at lw_m1 70 rfl) rfl
theorem q185 : (Jvm.Cond.lays "DictProof$Instance" "DictProof$Instance" "head" "LDictProof$Term;") ∈ lw_all := lw_g (lw_at lw_m1 71 rfl) rfl
theorem q186 : (Jvm.Cond.soleField "DictProof$Instance" "head") ∈ lw_all := lw_g (lw_at lw_m1 72 rfl) rfl
theorem q187 : (Jvm.Cond.laysFinal "DictProof$Instance" "DictProof$Instance" "classes" "[I") ∈ lw_all := lw_g (lw_at lw_m1 73 rfl) rfl
theorem q188 : (Jvm.Cond.soleField "DictProof$Instance" "classes") ∈ lw_all := lw_g (lw_at lw_m1 74 rfl) rfl
theorem q189 : (Jvm.Cond.laysFinal "DictProof$Instance" "DictProof$Instance" "variables" "[I") ∈ lw_all := lw_g (lw_at lw_m1 75 rfl) rfl
theorem q190 : (Jvm.Cond.soleField "DictProof$Instance" "variables") ∈ lw_all := lw_g (lw_at lw_m1 76 rfl) rfl
theorem q191 : (Jvm.Cond.lays "DictProof$Instance" "DictProof$Instance" "many" "I") ∈ lw_all := lw_g (lw_at lw_m1 77 rfl) rfl
theorem q192 : (Jvm.Cond.soleField "DictProof$Instance" "many") ∈ lw_all := lw_g (lw_at lw_m1 78 rfl) rfl
theorem q193 : (Jvm.Cond.superclass "DictProof$Instance" "java/lang/Object") ∈ lw_all := lw_g (lw_at lw_m1 79 rfl) rfl
theorem q566 : (Jvm.Cond.selects "DictProof$Instance" ({ cls := "java/lang/Object", name := "hashCode", desc := "()I" } : Jvm.MethodName) ({ cls := "java/lang/Object", name := "hashCode", desc := "()I" } : Jvm.MethodName)) ∈ lw_all := lw_g (lw_at lw_m2 212 rfl) rfl
theorem q598 : (Jvm.Cond.selects "DictProof$Instance" ({ cls := "java/lang/Object", name := "equals", desc := "(Ljava/lang/Object;)Z" } : Jvm.MethodName) ({ cls := "java/lang/Object", name := "equals", desc := "(Ljava/lang/Object;)Z" } : Jvm.MethodName)) ∈ lw_all := lw_g (lw_at lw_m3 4 rfl) rfl
theorem q639 : (Jvm.Cond.selects "DictProof$Instance" ({ cls := "java/lang/Object", name := "getClass", desc := "()Ljava/lang/Class;" } : Jvm.MethodName) ({ cls := "java/lang/Object", name := "getClass", desc := "()Ljava/lang/Class;" } : Jvm.MethodName)) ∈ lw_all := lw_g (lw_at lw_m3 45 rfl) rfl
theorem q910 : (Jvm.Cond.instanceMethod ({ cls := "DictProof$Instance", name := "isUsed", desc := "()Z" } : Jvm.MethodName)) ∈ lw_all := lw_g (lw_at lw_m4 76 rfl) rfl
theorem q911 : (Jvm.Cond.selects "DictProof$Instance" ({ cls := "DictProof$Instance", name := "isUsed", desc := "()Z" } : Jvm.MethodName) ({ cls := "DictProof$Instance", name := "isUsed", desc := "()Z" } : Jvm.MethodName)) ∈ lw_all := lw_g (lw_at lw_m4 77 rfl) rfl
theorem q912 : (Jvm.Cond.sameMethod "DictProof$Instance" "DictProof$Instance" "isUsed" "()Z") ∈ lw_all := lw_g (lw_at lw_m4 78 rfl) rfl
theorem q918 : (Jvm.Cond.code ({ cls := "DictProof$Instance", name := "isUsed", desc := "()Z" } : Jvm.MethodName) prog_5_method_4_code (1 : Nat) (Option.some Jvm.ClassFile.FieldType.boolean)) ∈ lw_all := lw_g (lw_at lw_m4 84 rfl) rfl
theorem q922 : (Jvm.Cond.instanceMethod ({ cls := "DictProof$Instance", name := "isSound", desc := "()Z" } : Jvm.MethodName)) ∈ lw_all := lw_g (lw_at lw_m4 88 rfl) rfl
theorem q923 : (Jvm.Cond.selects "DictProof$Instance" ({ cls := "DictProof$Instance", name := "isSound", desc := "()Z" } : Jvm.MethodName) ({ cls := "DictProof$Instance", name := "isSound", desc := "()Z" } : Jvm.MethodName)) ∈ lw_all := lw_g (lw_at lw_m4 89 rfl) rfl
theorem q924 : (Jvm.Cond.sameMethod "DictProof$Instance" "DictProof$Instance" "isSound" "()Z") ∈ lw_all := lw_g (lw_at lw_m4 90 rfl) rfl
theorem q929 : (Jvm.Cond.code ({ cls := "DictProof$Instance", name := "isSound", desc := "()Z" } : Jvm.MethodName) prog_5_method_6_code (1 : Nat) (Option.some Jvm.ClassFile.FieldType.boolean)) ∈ lw_all := lw_g (lw_at lw_m4 95 rfl) rfl
theorem q930 : (Jvm.Cond.methodLink "DictProof$Instance" (26 : Nat) ({ cls := "DictProof$Term", name := "variable", desc := "()I" } : Jvm.MethodName)) ∈ lw_all := lw_g (lw_at lw_m4 96 rfl) rfl
theorem q936 : (Jvm.Cond.instanceMethod ({ cls := "DictProof$Instance", name := "isAlone", desc := "()Z" } : Jvm.MethodName)) ∈ lw_all := lw_g (lw_at lw_m4 102 rfl) rfl
theorem q937 : (Jvm.Cond.selects "DictProof$Instance" ({ cls := "DictProof$Instance", name := "isAlone", desc := "()Z" } : Jvm.MethodName) ({ cls := "DictProof$Instance", name := "isAlone", desc := "()Z" } : Jvm.MethodName)) ∈ lw_all := lw_g (lw_at lw_m4 103 rfl) rfl
theorem q938 : (Jvm.Cond.sameMethod "DictProof$Instance" "DictProof$Instance" "isAlone" "()Z") ∈ lw_all := lw_g (lw_at lw_m4 104 rfl) rfl
theorem q946 : (Jvm.Cond.declares ({ cls := "DictProof$Instance", name := "isAlone", desc := "()Z" } : Jvm.MethodName)) ∈ lw_tbl := lw_at lw_m4 112 rfl
theorem q947 : (Jvm.Cond.code ({ cls := "DictProof$Instance", name := "isAlone", desc := "()Z" } : Jvm.MethodName) prog_5_method_5_code (1 : Nat) (Option.some Jvm.ClassFile.FieldType.boolean)) ∈ lw_all := lw_g (lw_at lw_m4 113 rfl) rfl
theorem q958 : (Jvm.Cond.instanceMethod ({ cls := "DictProof$Instance", name := "rank", desc := "()I" } : Jvm.MethodName)) ∈ lw_all := lw_g (lw_at lw_m4 124 rfl) rfl
theorem q959 : (Jvm.Cond.selects "DictProof$Instance" ({ cls := "DictProof$Instance", name := "rank", desc := "()I" } : Jvm.MethodName) ({ cls := "DictProof$Instance", name := "rank", desc := "()I" } : Jvm.MethodName)) ∈ lw_all := lw_g (lw_at lw_m4 125 rfl) rfl
theorem q960 : (Jvm.Cond.sameMethod "DictProof$Instance" "DictProof$Instance" "rank" "()I") ∈ lw_all := lw_g (lw_at lw_m4 126 rfl) rfl
theorem q965 : (Jvm.Cond.code ({ cls := "DictProof$Instance", name := "rank", desc := "()I" } : Jvm.MethodName) prog_5_method_3_code (1 : Nat) (Option.some Jvm.ClassFile.FieldType.int)) ∈ lw_all := lw_g (lw_at lw_m4 131 rfl) rfl
theorem q1098 : (Jvm.Cond.instanceMethod ({ cls := "DictProof$Instance", name := "kind", desc := "()I" } : Jvm.MethodName)) ∈ lw_all := lw_g (lw_at lw_m5 24 rfl) rfl
theorem q1099 : (Jvm.Cond.selects "DictProof$Instance" ({ cls := "DictProof$Instance", name := "kind", desc := "()I" } : Jvm.MethodName) ({ cls := "DictProof$Instance", name := "kind", desc := "()I" } : Jvm.MethodName)) ∈ lw_all := lw_g (lw_at lw_m5 25 rfl) rfl
theorem q1100 : (Jvm.Cond.sameMethod "DictProof$Instance" "DictProof$Instance" "kind" "()I") ∈ lw_all := lw_g (lw_at lw_m5 26 rfl) rfl
theorem q1114 : (Jvm.Cond.code ({ cls := "DictProof$Instance", name := "kind", desc := "()I" } : Jvm.MethodName) prog_5_method_2_code (1 : Nat) (Option.some Jvm.ClassFile.FieldType.int)) ∈ lw_all := lw_g (lw_at lw_m5 40 rfl) rfl
theorem q1130 : (Jvm.Cond.unhidden "DictProof$Instance" "besides" "(I)I") ∈ lw_tbl := lw_at lw_m5 56 rfl
theorem q1143 : (Jvm.Cond.publicMethod ({ cls := "DictProof$Instance", name := "isUsed", desc := "()Z" } : Jvm.MethodName)) ∈ lw_tbl := lw_at lw_m5 69 rfl
theorem q1148 : (Jvm.Cond.castable "DictProof$Instance" "DictProof$Ranked") ∈ lw_tbl := lw_at lw_m5 74 rfl
theorem q1149 : (Jvm.Cond.selects "DictProof$Instance" ({ cls := "DictProof$Ranked", name := "isUsed", desc := "()Z" } : Jvm.MethodName) ({ cls := "DictProof$Instance", name := "isUsed", desc := "()Z" } : Jvm.MethodName)) ∈ lw_all := lw_g (lw_at lw_m5 75 rfl) rfl
theorem q1150 : (Jvm.Cond.unhidden "DictProof$Instance" "isUsed" "()Z") ∈ lw_tbl := lw_at lw_m5 76 rfl
theorem q1163 : (Jvm.Cond.publicMethod ({ cls := "DictProof$Instance", name := "isAlone", desc := "()Z" } : Jvm.MethodName)) ∈ lw_tbl := lw_at lw_m5 89 rfl
theorem q1166 : (Jvm.Cond.selects "DictProof$Instance" ({ cls := "DictProof$Ranked", name := "isAlone", desc := "()Z" } : Jvm.MethodName) ({ cls := "DictProof$Instance", name := "isAlone", desc := "()Z" } : Jvm.MethodName)) ∈ lw_all := lw_g (lw_at lw_m5 92 rfl) rfl
theorem q1167 : (Jvm.Cond.unhidden "DictProof$Instance" "isAlone" "()Z") ∈ lw_tbl := lw_at lw_m5 93 rfl
theorem q1182 : (Jvm.Cond.publicMethod ({ cls := "DictProof$Instance", name := "rank", desc := "()I" } : Jvm.MethodName)) ∈ lw_tbl := lw_at lw_m5 108 rfl
theorem q1183 : (Jvm.Cond.selects "DictProof$Instance" ({ cls := "DictProof$Ranked", name := "rank", desc := "()I" } : Jvm.MethodName) ({ cls := "DictProof$Instance", name := "rank", desc := "()I" } : Jvm.MethodName)) ∈ lw_all := lw_g (lw_at lw_m5 109 rfl) rfl
theorem q1184 : (Jvm.Cond.unhidden "DictProof$Instance" "rank" "()I") ∈ lw_tbl := lw_at lw_m5 110 rfl
theorem q1292 : (Jvm.Cond.instanceMethod ({ cls := "DictProof$Instance", name := "be", desc := "(LDictProof$Instance;)V" } : Jvm.MethodName)) ∈ lw_all := lw_g (lw_at lw_m5 218 rfl) rfl
theorem q1293 : (Jvm.Cond.selects "DictProof$Instance" ({ cls := "DictProof$Instance", name := "be", desc := "(LDictProof$Instance;)V" } : Jvm.MethodName) ({ cls := "DictProof$Instance", name := "be", desc := "(LDictProof$Instance;)V" } : Jvm.MethodName)) ∈ lw_all := lw_g (lw_at lw_m5 219 rfl) rfl
theorem q1294 : (Jvm.Cond.sameMethod "DictProof$Instance" "DictProof$Instance" "be" "(LDictProof$Instance;)V") ∈ lw_all := lw_g (lw_at lw_m5 220 rfl) rfl
theorem q1299 : (Jvm.Cond.code ({ cls := "DictProof$Instance", name := "be", desc := "(LDictProof$Instance;)V" } : Jvm.MethodName) prog_5_method_7_code (2 : Nat) (Option.none : Option Jvm.ClassFile.FieldType)) ∈ lw_all := lw_g (lw_at lw_m5 225 rfl) rfl
theorem q1300 : (Jvm.Cond.methodLink "DictProof$Instance" (38 : Nat) ({ cls := "java/lang/System", name := "arraycopy", desc := "(Ljava/lang/Object;ILjava/lang/Object;II)V" } : Jvm.MethodName)) ∈ lw_all := lw_g (lw_at lw_m5 226 rfl) rfl
theorem q1994 : (Jvm.Cond.castable "DictProof$Instance" "java/lang/Object") ∈ lw_tbl := lw_at lw_m8 200 rfl
theorem in_X1 : ∀ w ∈ wsX10, w ∈ lw_all := lw_in wsX10 [181, 183, 185, 187, 189, 191] (by decide +kernel) (by decide +kernel)

/-! DictProof$Spare -/
set_option maxRecDepth 100000
def RX2 : String := "DictProof$Spare"
def TX2 : u_T := fun k => match k with
  | 0 => ("DictProof$Instance", "number", "I", false)
  | 1 => ("DictProof$Instance", "of", "I", false)
  | 2 => ("DictProof$Instance", "head", "LDictProof$Term;", false)
  | 3 => ("DictProof$Instance", "classes", "[I", true)
  | 4 => ("DictProof$Instance", "variables", "[I", true)
  | _ => ("DictProof$Instance", "many", "I", false)
def tyX2 : Nat → FieldType := fun k => match k with
  | 0 => .int
  | 1 => .int
  | 2 => .object "DictProof$Term"
  | 3 => .array .int
  | 4 => .array .int
  | _ => .int
abbrev wsX20 : List Cond := u_ws RX2 TX2 6
theorem nmX2 : ∀ a, a < 6 → ∀ b, b < 6 → a ≠ b → (TX2 a).2.1 ≠ (TX2 b).2.1 := by decide +kernel
theorem tyX2_ok : ∀ k, k < 6 → parseFieldDescriptor (TX2 k).2.2.1 = some (tyX2 k) := by decide +kernel
abbrev cX2_init : ByteArray := prog_10_method_1_code
def yX2_init : MethodName := ⟨RX2, "<init>", "()V"⟩
theorem dX2_init_0 : decode cX2_init 0 = .ok (.aload_n 0, 1) := by decide +kernel
theorem dX2_init_1 : decode cX2_init 1 = .ok (.invokespecial 1, 3) := by decide +kernel
theorem dX2_init_4 : decode cX2_init 4 = .ok (.return_, 1) := by decide +kernel
abbrev cX2_rank : ByteArray := prog_10_method_3_code
def yX2_rank : MethodName := ⟨RX2, "rank", "()I"⟩
def dkwX2_rank_0 : List UInt8 := [4, 42, 183, 0, 7, 96, 172]
abbrev dktX2_rank_0 : List UInt8 := dkwX2_rank_0 ++ []
theorem dksX2_rank_0 : cX2_rank.data.toList.drop 0 = dktX2_rank_0 := by decide +kernel
theorem dX2_rank_0 : decode cX2_rank 0 = .ok (.iconst 1, 1) := dk_4 (dk_at dksX2_rank_0 0 rfl rfl)
theorem dX2_rank_1 : decode cX2_rank 1 = .ok (.aload_n 0, 1) := dk_42 (dk_at dksX2_rank_0 1 rfl rfl)
theorem dX2_rank_2 : decode cX2_rank 2 = .ok (.invokespecial 7, 3) := dk_183 0 7 (dk_at dksX2_rank_0 2 rfl rfl)
theorem dX2_rank_5 : decode cX2_rank 5 = .ok (.iadd, 1) := dk_96 (dk_at dksX2_rank_0 5 rfl rfl)
theorem dX2_rank_6 : decode cX2_rank 6 = .ok (.ireturn, 1) := dk_172 (dk_at dksX2_rank_0 6 rfl rfl)
abbrev cX2_kind : ByteArray := prog_10_method_2_code
def yX2_kind : MethodName := ⟨RX2, "kind", "()I"⟩
theorem dX2_kind_0 : decode cX2_kind 0 = .ok (.iconst 1, 1) := by decide +kernel
theorem dX2_kind_1 : decode cX2_kind 1 = .ok (.ireturn, 1) := by decide +kernel
theorem q117 : (Jvm.Cond.initialized "DictProof$Spare") ∈ lw_all := lw_g (lw_at lw_m1 3 rfl) rfl
theorem q163 : (Jvm.Cond.sameField "DictProof$Spare" "DictProof$Instance" "number" "I") ∈ lw_all := lw_g (lw_at lw_m1 49 rfl) rfl
theorem q196 : (Jvm.Cond.instantiable "DictProof$Spare" (6 : Nat)) ∈ lw_all := lw_g (lw_at lw_m1 82 rfl) rfl
theorem q198 : (Jvm.Cond.instanceMethod ({ cls := "DictProof$Spare", name := "<init>", desc := "()V" } : Jvm.MethodName)) ∈ lw_all := lw_g (lw_at lw_m1 84 rfl) rfl
theorem q199 : (Jvm.Cond.code ({ cls := "DictProof$Spare", name := "<init>", desc := "()V" } : Jvm.MethodName) prog_10_method_1_code (1 : Nat) (Option.none : Option Jvm.ClassFile.FieldType)) ∈ lw_all := lw_g (lw_at lw_m1 85 rfl) rfl
theorem q200 : (Jvm.Cond.methodLinkNest "DictProof$Spare" (1 : Nat) ({ cls := "DictProof$Instance", name := "<init>", desc := "()V" } : Jvm.MethodName) "DictProof") ∈ lw_tbl := lw_at lw_m1 86 rfl
theorem q201 : (Jvm.Cond.lays "DictProof$Spare" "DictProof$Instance" "number" "I") ∈ lw_all := lw_g (lw_at lw_m1 87 rfl) rfl
theorem q202 : (Jvm.Cond.lays "DictProof$Spare" "DictProof$Instance" "of" "I") ∈ lw_all := lw_g (lw_at lw_m1 88 rfl) rfl
theorem q203 : (Jvm.Cond.lays "DictProof$Spare" "DictProof$Instance" "head" "LDictProof$Term;") ∈ lw_all := lw_g (lw_at lw_m1 89 rfl) rfl
theorem q204 : (Jvm.Cond.laysFinal "DictProof$Spare" "DictProof$Instance" "classes" "[I") ∈ lw_all := lw_g (lw_at lw_m1 90 rfl) rfl
theorem q205 : (Jvm.Cond.laysFinal "DictProof$Spare" "DictProof$Instance" "variables" "[I") ∈ lw_all := lw_g (lw_at lw_m1 91 rfl) rfl
theorem q206 : (Jvm.Cond.lays "DictProof$Spare" "DictProof$Instance" "many" "I") ∈ lw_all := lw_g (lw_at lw_m1 92 rfl) rfl
theorem q207 : (Jvm.Cond.superclass "DictProof$Spare" "DictProof$Instance") ∈ lw_all := lw_g (lw_at lw_m1 93 rfl) rfl
theorem q570 : (Jvm.Cond.selects "DictProof$Spare" ({ cls := "java/lang/Object", name := "hashCode", desc := "()I" } : Jvm.MethodName) ({ cls := "java/lang/Object", name := "hashCode", desc := "()I" } : Jvm.MethodName)) ∈ lw_all := lw_g (lw_at lw_m2 216 rfl) rfl
theorem q602 : (Jvm.Cond.selects "DictProof$Spare" ({ cls := "java/lang/Object", name := "equals", desc := "(Ljava/lang/Object;)Z" } : Jvm.MethodName) ({ cls := "java/lang/Object", name := "equals", desc := "(Ljava/lang/Object;)Z" } : Jvm.MethodName)) ∈ lw_all := lw_g (lw_at lw_m3 8 rfl) rfl
theorem q643 : (Jvm.Cond.selects "DictProof$Spare" ({ cls := "java/lang/Object", name := "getClass", desc := "()Ljava/lang/Class;" } : Jvm.MethodName) ({ cls := "java/lang/Object", name := "getClass", desc := "()Ljava/lang/Class;" } : Jvm.MethodName)) ∈ lw_all := lw_g (lw_at lw_m3 49 rfl) rfl
theorem q920 : (Jvm.Cond.selects "DictProof$Spare" ({ cls := "DictProof$Instance", name := "isUsed", desc := "()Z" } : Jvm.MethodName) ({ cls := "DictProof$Instance", name := "isUsed", desc := "()Z" } : Jvm.MethodName)) ∈ lw_all := lw_g (lw_at lw_m4 86 rfl) rfl
theorem q928 : (Jvm.Cond.selects "DictProof$Spare" ({ cls := "DictProof$Instance", name := "isSound", desc := "()Z" } : Jvm.MethodName) ({ cls := "DictProof$Instance", name := "isSound", desc := "()Z" } : Jvm.MethodName)) ∈ lw_all := lw_g (lw_at lw_m4 94 rfl) rfl
theorem q948 : (Jvm.Cond.selects "DictProof$Spare" ({ cls := "DictProof$Instance", name := "isAlone", desc := "()Z" } : Jvm.MethodName) ({ cls := "DictProof$Instance", name := "isAlone", desc := "()Z" } : Jvm.MethodName)) ∈ lw_all := lw_g (lw_at lw_m4 114 rfl) rfl
theorem q968 : (Jvm.Cond.selects "DictProof$Spare" ({ cls := "DictProof$Instance", name := "rank", desc := "()I" } : Jvm.MethodName) ({ cls := "DictProof$Spare", name := "rank", desc := "()I" } : Jvm.MethodName)) ∈ lw_all := lw_g (lw_at lw_m4 134 rfl) rfl
theorem q969 : (Jvm.Cond.instanceMethod ({ cls := "DictProof$Spare", name := "rank", desc := "()I" } : Jvm.MethodName)) ∈ lw_all := lw_g (lw_at lw_m4 135 rfl) rfl
theorem q970 : (Jvm.Cond.code ({ cls := "DictProof$Spare", name := "rank", desc := "()I" } : Jvm.MethodName) prog_10_method_3_code (1 : Nat) (Option.some Jvm.ClassFile.FieldType.int)) ∈ lw_all := lw_g (lw_at lw_m4 136 rfl) rfl
theorem q971 : (Jvm.Cond.methodLink "DictProof$Spare" (7 : Nat) ({ cls := "DictProof$Instance", name := "rank", desc := "()I" } : Jvm.MethodName)) ∈ lw_all := lw_g (lw_at lw_m4 137 rfl) rfl
theorem q1111 : (Jvm.Cond.selects "DictProof$Spare" ({ cls := "DictProof$Instance", name := "kind", desc := "()I" } : Jvm.MethodName) ({ cls := "DictProof$Spare", name := "kind", desc := "()I" } : Jvm.MethodName)) ∈ lw_all := lw_g (lw_at lw_m5 37 rfl) rfl
theorem q1112 : (Jvm.Cond.instanceMethod ({ cls := "DictProof$Spare", name := "kind", desc := "()I" } : Jvm.MethodName)) ∈ lw_all := lw_g (lw_at lw_m5 38 rfl) rfl
theorem q1113 : (Jvm.Cond.code ({ cls := "DictProof$Spare", name := "kind", desc := "()I" } : Jvm.MethodName) prog_10_method_2_code (1 : Nat) (Option.some Jvm.ClassFile.FieldType.int)) ∈ lw_all := lw_g (lw_at lw_m5 39 rfl) rfl
theorem q1132 : (Jvm.Cond.unhidden "DictProof$Spare" "besides" "(I)I") ∈ lw_tbl := lw_at lw_m5 58 rfl
theorem q1154 : (Jvm.Cond.castable "DictProof$Spare" "DictProof$Ranked") ∈ lw_tbl := lw_at lw_m5 80 rfl
theorem q1155 : (Jvm.Cond.selects "DictProof$Spare" ({ cls := "DictProof$Ranked", name := "isUsed", desc := "()Z" } : Jvm.MethodName) ({ cls := "DictProof$Instance", name := "isUsed", desc := "()Z" } : Jvm.MethodName)) ∈ lw_all := lw_g (lw_at lw_m5 81 rfl) rfl
theorem q1156 : (Jvm.Cond.unhidden "DictProof$Spare" "isUsed" "()Z") ∈ lw_tbl := lw_at lw_m5 82 rfl
theorem q1171 : (Jvm.Cond.selects "DictProof$Spare" ({ cls := "DictProof$Ranked", name := "isAlone", desc := "()Z" } : Jvm.MethodName) ({ cls := "DictProof$Instance", name := "isAlone", desc := "()Z" } : Jvm.MethodName)) ∈ lw_all := lw_g (lw_at lw_m5 97 rfl) rfl
theorem q1172 : (Jvm.Cond.unhidden "DictProof$Spare" "isAlone" "()Z") ∈ lw_tbl := lw_at lw_m5 98 rfl
theorem q1187 : (Jvm.Cond.selects "DictProof$Spare" ({ cls := "DictProof$Ranked", name := "rank", desc := "()I" } : Jvm.MethodName) ({ cls := "DictProof$Spare", name := "rank", desc := "()I" } : Jvm.MethodName)) ∈ lw_all := lw_g (lw_at lw_m5 113 rfl) rfl
theorem q1188 : (Jvm.Cond.unhidden "DictProof$Spare" "rank" "()I") ∈ lw_tbl := lw_at lw_m5 114 rfl
theorem q1189 : (Jvm.Cond.publicMethod ({ cls := "DictProof$Spare", name := "rank", desc := "()I" } : Jvm.MethodName)) ∈ lw_tbl := lw_at lw_m5 115 rfl
theorem q1298 : (Jvm.Cond.selects "DictProof$Spare" ({ cls := "DictProof$Instance", name := "be", desc := "(LDictProof$Instance;)V" } : Jvm.MethodName) ({ cls := "DictProof$Instance", name := "be", desc := "(LDictProof$Instance;)V" } : Jvm.MethodName)) ∈ lw_all := lw_g (lw_at lw_m5 224 rfl) rfl
theorem q1989 : (Jvm.Cond.castable "DictProof$Spare" "DictProof$Instance") ∈ lw_tbl := lw_at lw_m8 195 rfl
theorem q1995 : (Jvm.Cond.castable "DictProof$Spare" "java/lang/Object") ∈ lw_tbl := lw_at lw_m8 201 rfl
theorem in_X2 : ∀ w ∈ wsX20, w ∈ lw_all := lw_in wsX20 [201, 202, 203, 204, 205, 206] (by decide +kernel) (by decide +kernel)

/-! DictProof$Hidden -/
set_option maxRecDepth 100000
def RX3 : String := "DictProof$Hidden"
def TX3 : u_T := fun k => match k with
  | 0 => ("DictProof$Instance", "number", "I", false)
  | 1 => ("DictProof$Instance", "of", "I", false)
  | 2 => ("DictProof$Instance", "head", "LDictProof$Term;", false)
  | 3 => ("DictProof$Instance", "classes", "[I", true)
  | 4 => ("DictProof$Instance", "variables", "[I", true)
  | _ => ("DictProof$Instance", "many", "I", false)
def tyX3 : Nat → FieldType := fun k => match k with
  | 0 => .int
  | 1 => .int
  | 2 => .object "DictProof$Term"
  | 3 => .array .int
  | 4 => .array .int
  | _ => .int
abbrev wsX30 : List Cond := u_ws RX3 TX3 6
theorem nmX3 : ∀ a, a < 6 → ∀ b, b < 6 → a ≠ b → (TX3 a).2.1 ≠ (TX3 b).2.1 := by decide +kernel
theorem tyX3_ok : ∀ k, k < 6 → parseFieldDescriptor (TX3 k).2.2.1 = some (tyX3 k) := by decide +kernel
abbrev cX3_init : ByteArray := prog_4_method_1_code
def yX3_init : MethodName := ⟨RX3, "<init>", "()V"⟩
theorem dX3_init_0 : decode cX3_init 0 = .ok (.aload_n 0, 1) := by decide +kernel
theorem dX3_init_1 : decode cX3_init 1 = .ok (.invokespecial 1, 3) := by decide +kernel
theorem dX3_init_4 : decode cX3_init 4 = .ok (.return_, 1) := by decide +kernel
abbrev cX3_isUsed : ByteArray := prog_4_method_3_code
def yX3_isUsed : MethodName := ⟨RX3, "isUsed", "()Z"⟩
def dkwX3_isUsed_0 : List UInt8 := [42, 183, 0, 7, 154, 0, 7, 4, 167, 0, 4, 3, 172]
abbrev dktX3_isUsed_0 : List UInt8 := dkwX3_isUsed_0 ++ []
theorem dksX3_isUsed_0 : cX3_isUsed.data.toList.drop 0 = dktX3_isUsed_0 := by decide +kernel
theorem dX3_isUsed_0 : decode cX3_isUsed 0 = .ok (.aload_n 0, 1) := dk_42 (dk_at dksX3_isUsed_0 0 rfl rfl)
theorem dX3_isUsed_1 : decode cX3_isUsed 1 = .ok (.invokespecial 7, 3) := dk_183 0 7 (dk_at dksX3_isUsed_0 1 rfl rfl)
theorem dX3_isUsed_4 : decode cX3_isUsed 4 = .ok (.ifCond .ne 7, 3) := dk_154 0 7 (dk_at dksX3_isUsed_0 4 rfl rfl)
theorem dX3_isUsed_7 : decode cX3_isUsed 7 = .ok (.iconst 1, 1) := dk_4 (dk_at dksX3_isUsed_0 7 rfl rfl)
theorem dX3_isUsed_8 : decode cX3_isUsed 8 = .ok (.goto 4, 3) := dk_167 0 4 (dk_at dksX3_isUsed_0 8 rfl rfl)
theorem dX3_isUsed_11 : decode cX3_isUsed 11 = .ok (.iconst 0, 1) := dk_3 (dk_at dksX3_isUsed_0 11 rfl rfl)
theorem dX3_isUsed_12 : decode cX3_isUsed 12 = .ok (.ireturn, 1) := dk_172 (dk_at dksX3_isUsed_0 12 rfl rfl)
abbrev cX3_kind : ByteArray := prog_4_method_2_code
def yX3_kind : MethodName := ⟨RX3, "kind", "()I"⟩
theorem dX3_kind_0 : decode cX3_kind 0 = .ok (.iconst 2, 1) := by decide +kernel
theorem dX3_kind_1 : decode cX3_kind 1 = .ok (.ireturn, 1) := by decide +kernel
theorem q118 : (Jvm.Cond.initialized "DictProof$Hidden") ∈ lw_all := lw_g (lw_at lw_m1 4 rfl) rfl
theorem q165 : (Jvm.Cond.sameField "DictProof$Hidden" "DictProof$Instance" "number" "I") ∈ lw_all := lw_g (lw_at lw_m1 51 rfl) rfl
theorem q209 : (Jvm.Cond.instantiable "DictProof$Hidden" (6 : Nat)) ∈ lw_all := lw_g (lw_at lw_m1 95 rfl) rfl
theorem q211 : (Jvm.Cond.instanceMethod ({ cls := "DictProof$Hidden", name := "<init>", desc := "()V" } : Jvm.MethodName)) ∈ lw_all := lw_g (lw_at lw_m1 97 rfl) rfl
theorem q212 : (Jvm.Cond.code ({ cls := "DictProof$Hidden", name := "<init>", desc := "()V" } : Jvm.MethodName) prog_4_method_1_code (1 : Nat) (Option.none : Option Jvm.ClassFile.FieldType)) ∈ lw_all := lw_g (lw_at lw_m1 98 rfl) rfl
theorem q213 : (Jvm.Cond.methodLinkNest "DictProof$Hidden" (1 : Nat) ({ cls := "DictProof$Instance", name := "<init>", desc := "()V" } : Jvm.MethodName) "DictProof") ∈ lw_tbl := lw_at lw_m1 99 rfl
theorem q214 : (Jvm.Cond.lays "DictProof$Hidden" "DictProof$Instance" "number" "I") ∈ lw_all := lw_g (lw_at lw_m1 100 rfl) rfl
theorem q215 : (Jvm.Cond.lays "DictProof$Hidden" "DictProof$Instance" "of" "I") ∈ lw_all := lw_g (lw_at lw_m1 101 rfl) rfl
theorem q216 : (Jvm.Cond.lays "DictProof$Hidden" "DictProof$Instance" "head" "LDictProof$Term;") ∈ lw_all := lw_g (lw_at lw_m1 102 rfl) rfl
theorem q217 : (Jvm.Cond.laysFinal "DictProof$Hidden" "DictProof$Instance" "classes" "[I") ∈ lw_all := lw_g (lw_at lw_m1 103 rfl) rfl
theorem q218 : (Jvm.Cond.laysFinal "DictProof$Hidden" "DictProof$Instance" "variables" "[I") ∈ lw_all := lw_g (lw_at lw_m1 104 rfl) rfl
theorem q219 : (Jvm.Cond.lays "DictProof$Hidden" "DictProof$Instance" "many" "I") ∈ lw_all := lw_g (lw_at lw_m1 105 rfl) rfl
theorem q220 : (Jvm.Cond.superclass "DictProof$Hidden" "DictProof$Instance") ∈ lw_all := lw_g (lw_at lw_m1 106 rfl) rfl
theorem q565 : (Jvm.Cond.selects "DictProof$Hidden" ({ cls := "java/lang/Object", name := "hashCode", desc := "()I" } : Jvm.MethodName) ({ cls := "java/lang/Object", name := "hashCode", desc := "()I" } : Jvm.MethodName)) ∈ lw_all := lw_g (lw_at lw_m2 211 rfl) rfl
theorem q597 : (Jvm.Cond.selects "DictProof$Hidden" ({ cls := "java/lang/Object", name := "equals", desc := "(Ljava/lang/Object;)Z" } : Jvm.MethodName) ({ cls := "java/lang/Object", name := "equals", desc := "(Ljava/lang/Object;)Z" } : Jvm.MethodName)) ∈ lw_all := lw_g (lw_at lw_m3 3 rfl) rfl
theorem q638 : (Jvm.Cond.selects "DictProof$Hidden" ({ cls := "java/lang/Object", name := "getClass", desc := "()Ljava/lang/Class;" } : Jvm.MethodName) ({ cls := "java/lang/Object", name := "getClass", desc := "()Ljava/lang/Class;" } : Jvm.MethodName)) ∈ lw_all := lw_g (lw_at lw_m3 44 rfl) rfl
theorem q914 : (Jvm.Cond.selects "DictProof$Hidden" ({ cls := "DictProof$Instance", name := "isUsed", desc := "()Z" } : Jvm.MethodName) ({ cls := "DictProof$Hidden", name := "isUsed", desc := "()Z" } : Jvm.MethodName)) ∈ lw_all := lw_g (lw_at lw_m4 80 rfl) rfl
theorem q915 : (Jvm.Cond.instanceMethod ({ cls := "DictProof$Hidden", name := "isUsed", desc := "()Z" } : Jvm.MethodName)) ∈ lw_all := lw_g (lw_at lw_m4 81 rfl) rfl
theorem q916 : (Jvm.Cond.code ({ cls := "DictProof$Hidden", name := "isUsed", desc := "()Z" } : Jvm.MethodName) prog_4_method_3_code (1 : Nat) (Option.some Jvm.ClassFile.FieldType.boolean)) ∈ lw_all := lw_g (lw_at lw_m4 82 rfl) rfl
theorem q917 : (Jvm.Cond.methodLink "DictProof$Hidden" (7 : Nat) ({ cls := "DictProof$Instance", name := "isUsed", desc := "()Z" } : Jvm.MethodName)) ∈ lw_all := lw_g (lw_at lw_m4 83 rfl) rfl
theorem q926 : (Jvm.Cond.selects "DictProof$Hidden" ({ cls := "DictProof$Instance", name := "isSound", desc := "()Z" } : Jvm.MethodName) ({ cls := "DictProof$Instance", name := "isSound", desc := "()Z" } : Jvm.MethodName)) ∈ lw_all := lw_g (lw_at lw_m4 92 rfl) rfl
theorem q940 : (Jvm.Cond.selects "DictProof$Hidden" ({ cls := "DictProof$Instance", name := "isAlone", desc := "()Z" } : Jvm.MethodName) ({ cls := "DictProof$Instance", name := "isAlone", desc := "()Z" } : Jvm.MethodName)) ∈ lw_all := lw_g (lw_at lw_m4 106 rfl) rfl
theorem q966 : (Jvm.Cond.selects "DictProof$Hidden" ({ cls := "DictProof$Instance", name := "rank", desc := "()I" } : Jvm.MethodName) ({ cls := "DictProof$Instance", name := "rank", desc := "()I" } : Jvm.MethodName)) ∈ lw_all := lw_g (lw_at lw_m4 132 rfl) rfl
theorem q1104 : (Jvm.Cond.selects "DictProof$Hidden" ({ cls := "DictProof$Instance", name := "kind", desc := "()I" } : Jvm.MethodName) ({ cls := "DictProof$Hidden", name := "kind", desc := "()I" } : Jvm.MethodName)) ∈ lw_all := lw_g (lw_at lw_m5 30 rfl) rfl
theorem q1105 : (Jvm.Cond.instanceMethod ({ cls := "DictProof$Hidden", name := "kind", desc := "()I" } : Jvm.MethodName)) ∈ lw_all := lw_g (lw_at lw_m5 31 rfl) rfl
theorem q1106 : (Jvm.Cond.code ({ cls := "DictProof$Hidden", name := "kind", desc := "()I" } : Jvm.MethodName) prog_4_method_2_code (1 : Nat) (Option.some Jvm.ClassFile.FieldType.int)) ∈ lw_all := lw_g (lw_at lw_m5 32 rfl) rfl
theorem q1129 : (Jvm.Cond.unhidden "DictProof$Hidden" "besides" "(I)I") ∈ lw_tbl := lw_at lw_m5 55 rfl
theorem q1144 : (Jvm.Cond.castable "DictProof$Hidden" "DictProof$Ranked") ∈ lw_tbl := lw_at lw_m5 70 rfl
theorem q1145 : (Jvm.Cond.selects "DictProof$Hidden" ({ cls := "DictProof$Ranked", name := "isUsed", desc := "()Z" } : Jvm.MethodName) ({ cls := "DictProof$Hidden", name := "isUsed", desc := "()Z" } : Jvm.MethodName)) ∈ lw_all := lw_g (lw_at lw_m5 71 rfl) rfl
theorem q1146 : (Jvm.Cond.unhidden "DictProof$Hidden" "isUsed" "()Z") ∈ lw_tbl := lw_at lw_m5 72 rfl
theorem q1147 : (Jvm.Cond.publicMethod ({ cls := "DictProof$Hidden", name := "isUsed", desc := "()Z" } : Jvm.MethodName)) ∈ lw_tbl := lw_at lw_m5 73 rfl
theorem q1164 : (Jvm.Cond.selects "DictProof$Hidden" ({ cls := "DictProof$Ranked", name := "isAlone", desc := "()Z" } : Jvm.MethodName) ({ cls := "DictProof$Instance", name := "isAlone", desc := "()Z" } : Jvm.MethodName)) ∈ lw_all := lw_g (lw_at lw_m5 90 rfl) rfl
theorem q1165 : (Jvm.Cond.unhidden "DictProof$Hidden" "isAlone" "()Z") ∈ lw_tbl := lw_at lw_m5 91 rfl
theorem q1180 : (Jvm.Cond.selects "DictProof$Hidden" ({ cls := "DictProof$Ranked", name := "rank", desc := "()I" } : Jvm.MethodName) ({ cls := "DictProof$Instance", name := "rank", desc := "()I" } : Jvm.MethodName)) ∈ lw_all := lw_g (lw_at lw_m5 106 rfl) rfl
theorem q1181 : (Jvm.Cond.unhidden "DictProof$Hidden" "rank" "()I") ∈ lw_tbl := lw_at lw_m5 107 rfl
theorem q1296 : (Jvm.Cond.selects "DictProof$Hidden" ({ cls := "DictProof$Instance", name := "be", desc := "(LDictProof$Instance;)V" } : Jvm.MethodName) ({ cls := "DictProof$Instance", name := "be", desc := "(LDictProof$Instance;)V" } : Jvm.MethodName)) ∈ lw_all := lw_g (lw_at lw_m5 222 rfl) rfl
theorem q1987 : (Jvm.Cond.castable "DictProof$Hidden" "DictProof$Instance") ∈ lw_tbl := lw_at lw_m8 193 rfl
theorem q1996 : (Jvm.Cond.castable "DictProof$Hidden" "java/lang/Object") ∈ lw_tbl := lw_at lw_m8 202 rfl
theorem in_X3 : ∀ w ∈ wsX30, w ∈ lw_all := lw_in wsX30 [214, 215, 216, 217, 218, 219] (by decide +kernel) (by decide +kernel)

/-! DictProof$First -/
set_option maxRecDepth 100000
def RX4 : String := "DictProof$First"
def TX4 : u_T := fun k => match k with
  | 0 => ("DictProof$Instance", "number", "I", false)
  | 1 => ("DictProof$Instance", "of", "I", false)
  | 2 => ("DictProof$Instance", "head", "LDictProof$Term;", false)
  | 3 => ("DictProof$Instance", "classes", "[I", true)
  | 4 => ("DictProof$Instance", "variables", "[I", true)
  | _ => ("DictProof$Instance", "many", "I", false)
def tyX4 : Nat → FieldType := fun k => match k with
  | 0 => .int
  | 1 => .int
  | 2 => .object "DictProof$Term"
  | 3 => .array .int
  | 4 => .array .int
  | _ => .int
abbrev wsX40 : List Cond := u_ws RX4 TX4 6
theorem nmX4 : ∀ a, a < 6 → ∀ b, b < 6 → a ≠ b → (TX4 a).2.1 ≠ (TX4 b).2.1 := by decide +kernel
theorem tyX4_ok : ∀ k, k < 6 → parseFieldDescriptor (TX4 k).2.2.1 = some (tyX4 k) := by decide +kernel
abbrev cX4_init : ByteArray := prog_2_method_1_code
def yX4_init : MethodName := ⟨RX4, "<init>", "()V"⟩
theorem dX4_init_0 : decode cX4_init 0 = .ok (.aload_n 0, 1) := by decide +kernel
theorem dX4_init_1 : decode cX4_init 1 = .ok (.invokespecial 1, 3) := by decide +kernel
theorem dX4_init_4 : decode cX4_init 4 = .ok (.return_, 1) := by decide +kernel
abbrev cX4_rank : ByteArray := prog_2_method_3_code
def yX4_rank : MethodName := ⟨RX4, "rank", "()I"⟩
def dkwX4_rank_0 : List UInt8 := [42, 183, 0, 7, 4, 100, 172]
abbrev dktX4_rank_0 : List UInt8 := dkwX4_rank_0 ++ []
theorem dksX4_rank_0 : cX4_rank.data.toList.drop 0 = dktX4_rank_0 := by decide +kernel
theorem dX4_rank_0 : decode cX4_rank 0 = .ok (.aload_n 0, 1) := dk_42 (dk_at dksX4_rank_0 0 rfl rfl)
theorem dX4_rank_1 : decode cX4_rank 1 = .ok (.invokespecial 7, 3) := dk_183 0 7 (dk_at dksX4_rank_0 1 rfl rfl)
theorem dX4_rank_4 : decode cX4_rank 4 = .ok (.iconst 1, 1) := dk_4 (dk_at dksX4_rank_0 4 rfl rfl)
theorem dX4_rank_5 : decode cX4_rank 5 = .ok (.isub, 1) := dk_100 (dk_at dksX4_rank_0 5 rfl rfl)
theorem dX4_rank_6 : decode cX4_rank 6 = .ok (.ireturn, 1) := dk_172 (dk_at dksX4_rank_0 6 rfl rfl)
abbrev cX4_kind : ByteArray := prog_2_method_2_code
def yX4_kind : MethodName := ⟨RX4, "kind", "()I"⟩
theorem dX4_kind_0 : decode cX4_kind 0 = .ok (.iconst 3, 1) := by decide +kernel
theorem dX4_kind_1 : decode cX4_kind 1 = .ok (.ireturn, 1) := by decide +kernel
theorem q119 : (Jvm.Cond.initialized "DictProof$First") ∈ lw_all := lw_g (lw_at lw_m1 5 rfl) rfl
theorem q167 : (Jvm.Cond.sameField "DictProof$First" "DictProof$Instance" "number" "I") ∈ lw_all := lw_g (lw_at lw_m1 53 rfl) rfl
theorem q222 : (Jvm.Cond.instantiable "DictProof$First" (6 : Nat)) ∈ lw_all := lw_g (lw_at lw_m1 108 rfl) rfl
theorem q224 : (Jvm.Cond.instanceMethod ({ cls := "DictProof$First", name := "<init>", desc := "()V" } : Jvm.MethodName)) ∈ lw_all := lw_g (lw_at lw_m1 110 rfl) rfl
theorem q225 : (Jvm.Cond.code ({ cls := "DictProof$First", name := "<init>", desc := "()V" } : Jvm.MethodName) prog_2_method_1_code (1 : Nat) (Option.none : Option Jvm.ClassFile.FieldType)) ∈ lw_all := lw_g (lw_at lw_m1 111 rfl) rfl
theorem q226 : (Jvm.Cond.methodLinkNest "DictProof$First" (1 : Nat) ({ cls := "DictProof$Instance", name := "<init>", desc := "()V" } : Jvm.MethodName) "DictProof") ∈ lw_tbl := lw_at lw_m1 112 rfl
theorem q227 : (Jvm.Cond.lays "DictProof$First" "DictProof$Instance" "number" "I") ∈ lw_all := lw_g (lw_at lw_m1 113 rfl) rfl
theorem q228 : (Jvm.Cond.lays "DictProof$First" "DictProof$Instance" "of" "I") ∈ lw_all := lw_g (lw_at lw_m1 114 rfl) rfl
theorem q229 : (Jvm.Cond.lays "DictProof$First" "DictProof$Instance" "head" "LDictProof$Term;") ∈ lw_all := lw_g (lw_at lw_m1 115 rfl) rfl
theorem q230 : (Jvm.Cond.laysFinal "DictProof$First" "DictProof$Instance" "classes" "[I") ∈ lw_all := lw_g (lw_at lw_m1 116 rfl) rfl
theorem q231 : (Jvm.Cond.laysFinal "DictProof$First" "DictProof$Instance" "variables" "[I") ∈ lw_all := lw_g (lw_at lw_m1 117 rfl) rfl
theorem q232 : (Jvm.Cond.lays "DictProof$First" "DictProof$Instance" "many" "I") ∈ lw_all := lw_g (lw_at lw_m1 118 rfl) rfl
theorem q233 : (Jvm.Cond.superclass "DictProof$First" "DictProof$Instance") ∈ lw_all := lw_g (lw_at lw_m1 119 rfl) rfl
theorem q555 : (Jvm.Cond.selects "DictProof$First" ({ cls := "java/lang/Object", name := "hashCode", desc := "()I" } : Jvm.MethodName) ({ cls := "java/lang/Object", name := "hashCode", desc := "()I" } : Jvm.MethodName)) ∈ lw_all := lw_g (lw_at lw_m2 201 rfl) rfl
theorem q586 : (Jvm.Cond.selects "DictProof$First" ({ cls := "java/lang/Object", name := "equals", desc := "(Ljava/lang/Object;)Z" } : Jvm.MethodName) ({ cls := "java/lang/Object", name := "equals", desc := "(Ljava/lang/Object;)Z" } : Jvm.MethodName)) ∈ lw_all := lw_g (lw_at lw_m2 232 rfl) rfl
theorem q636 : (Jvm.Cond.selects "DictProof$First" ({ cls := "java/lang/Object", name := "getClass", desc := "()Ljava/lang/Class;" } : Jvm.MethodName) ({ cls := "java/lang/Object", name := "getClass", desc := "()Ljava/lang/Class;" } : Jvm.MethodName)) ∈ lw_all := lw_g (lw_at lw_m3 42 rfl) rfl
theorem q913 : (Jvm.Cond.selects "DictProof$First" ({ cls := "DictProof$Instance", name := "isUsed", desc := "()Z" } : Jvm.MethodName) ({ cls := "DictProof$Instance", name := "isUsed", desc := "()Z" } : Jvm.MethodName)) ∈ lw_all := lw_g (lw_at lw_m4 79 rfl) rfl
theorem q925 : (Jvm.Cond.selects "DictProof$First" ({ cls := "DictProof$Instance", name := "isSound", desc := "()Z" } : Jvm.MethodName) ({ cls := "DictProof$Instance", name := "isSound", desc := "()Z" } : Jvm.MethodName)) ∈ lw_all := lw_g (lw_at lw_m4 91 rfl) rfl
theorem q939 : (Jvm.Cond.selects "DictProof$First" ({ cls := "DictProof$Instance", name := "isAlone", desc := "()Z" } : Jvm.MethodName) ({ cls := "DictProof$Instance", name := "isAlone", desc := "()Z" } : Jvm.MethodName)) ∈ lw_all := lw_g (lw_at lw_m4 105 rfl) rfl
theorem q945 : (Jvm.Cond.sameMethod "DictProof$First" "DictProof$Instance" "isAlone" "()Z") ∈ lw_all := lw_g (lw_at lw_m4 111 rfl) rfl
theorem q961 : (Jvm.Cond.selects "DictProof$First" ({ cls := "DictProof$Instance", name := "rank", desc := "()I" } : Jvm.MethodName) ({ cls := "DictProof$First", name := "rank", desc := "()I" } : Jvm.MethodName)) ∈ lw_all := lw_g (lw_at lw_m4 127 rfl) rfl
theorem q962 : (Jvm.Cond.instanceMethod ({ cls := "DictProof$First", name := "rank", desc := "()I" } : Jvm.MethodName)) ∈ lw_all := lw_g (lw_at lw_m4 128 rfl) rfl
theorem q963 : (Jvm.Cond.code ({ cls := "DictProof$First", name := "rank", desc := "()I" } : Jvm.MethodName) prog_2_method_3_code (1 : Nat) (Option.some Jvm.ClassFile.FieldType.int)) ∈ lw_all := lw_g (lw_at lw_m4 129 rfl) rfl
theorem q964 : (Jvm.Cond.methodLink "DictProof$First" (7 : Nat) ({ cls := "DictProof$Instance", name := "rank", desc := "()I" } : Jvm.MethodName)) ∈ lw_all := lw_g (lw_at lw_m4 130 rfl) rfl
theorem q1101 : (Jvm.Cond.selects "DictProof$First" ({ cls := "DictProof$Instance", name := "kind", desc := "()I" } : Jvm.MethodName) ({ cls := "DictProof$First", name := "kind", desc := "()I" } : Jvm.MethodName)) ∈ lw_all := lw_g (lw_at lw_m5 27 rfl) rfl
theorem q1102 : (Jvm.Cond.instanceMethod ({ cls := "DictProof$First", name := "kind", desc := "()I" } : Jvm.MethodName)) ∈ lw_all := lw_g (lw_at lw_m5 28 rfl) rfl
theorem q1103 : (Jvm.Cond.code ({ cls := "DictProof$First", name := "kind", desc := "()I" } : Jvm.MethodName) prog_2_method_2_code (1 : Nat) (Option.some Jvm.ClassFile.FieldType.int)) ∈ lw_all := lw_g (lw_at lw_m5 29 rfl) rfl
theorem q1128 : (Jvm.Cond.unhidden "DictProof$First" "besides" "(I)I") ∈ lw_tbl := lw_at lw_m5 54 rfl
theorem q1140 : (Jvm.Cond.castable "DictProof$First" "DictProof$Ranked") ∈ lw_tbl := lw_at lw_m5 66 rfl
theorem q1141 : (Jvm.Cond.selects "DictProof$First" ({ cls := "DictProof$Ranked", name := "isUsed", desc := "()Z" } : Jvm.MethodName) ({ cls := "DictProof$Instance", name := "isUsed", desc := "()Z" } : Jvm.MethodName)) ∈ lw_all := lw_g (lw_at lw_m5 67 rfl) rfl
theorem q1142 : (Jvm.Cond.unhidden "DictProof$First" "isUsed" "()Z") ∈ lw_tbl := lw_at lw_m5 68 rfl
theorem q1161 : (Jvm.Cond.selects "DictProof$First" ({ cls := "DictProof$Ranked", name := "isAlone", desc := "()Z" } : Jvm.MethodName) ({ cls := "DictProof$Instance", name := "isAlone", desc := "()Z" } : Jvm.MethodName)) ∈ lw_all := lw_g (lw_at lw_m5 87 rfl) rfl
theorem q1162 : (Jvm.Cond.unhidden "DictProof$First" "isAlone" "()Z") ∈ lw_tbl := lw_at lw_m5 88 rfl
theorem q1177 : (Jvm.Cond.selects "DictProof$First" ({ cls := "DictProof$Ranked", name := "rank", desc := "()I" } : Jvm.MethodName) ({ cls := "DictProof$First", name := "rank", desc := "()I" } : Jvm.MethodName)) ∈ lw_all := lw_g (lw_at lw_m5 103 rfl) rfl
theorem q1178 : (Jvm.Cond.unhidden "DictProof$First" "rank" "()I") ∈ lw_tbl := lw_at lw_m5 104 rfl
theorem q1179 : (Jvm.Cond.publicMethod ({ cls := "DictProof$First", name := "rank", desc := "()I" } : Jvm.MethodName)) ∈ lw_tbl := lw_at lw_m5 105 rfl
theorem q1295 : (Jvm.Cond.selects "DictProof$First" ({ cls := "DictProof$Instance", name := "be", desc := "(LDictProof$Instance;)V" } : Jvm.MethodName) ({ cls := "DictProof$Instance", name := "be", desc := "(LDictProof$Instance;)V" } : Jvm.MethodName)) ∈ lw_all := lw_g (lw_at lw_m5 221 rfl) rfl
theorem q1982 : (Jvm.Cond.sameMethod "DictProof$First" "DictProof$First" "kind" "()I") ∈ lw_all := lw_g (lw_at lw_m8 188 rfl) rfl
theorem q1986 : (Jvm.Cond.castable "DictProof$First" "DictProof$Instance") ∈ lw_tbl := lw_at lw_m8 192 rfl
theorem q1997 : (Jvm.Cond.castable "DictProof$First" "java/lang/Object") ∈ lw_tbl := lw_at lw_m8 203 rfl
theorem in_X4 : ∀ w ∈ wsX40, w ∈ lw_all := lw_in wsX40 [227, 228, 229, 230, 231, 232] (by decide +kernel) (by decide +kernel)

/-! DictProof$Sole -/
set_option maxRecDepth 100000
def RX5 : String := "DictProof$Sole"
def TX5 : u_T := fun k => match k with
  | 0 => ("DictProof$Instance", "number", "I", false)
  | 1 => ("DictProof$Instance", "of", "I", false)
  | 2 => ("DictProof$Instance", "head", "LDictProof$Term;", false)
  | 3 => ("DictProof$Instance", "classes", "[I", true)
  | 4 => ("DictProof$Instance", "variables", "[I", true)
  | _ => ("DictProof$Instance", "many", "I", false)
def tyX5 : Nat → FieldType := fun k => match k with
  | 0 => .int
  | 1 => .int
  | 2 => .object "DictProof$Term"
  | 3 => .array .int
  | 4 => .array .int
  | _ => .int
abbrev wsX50 : List Cond := u_ws RX5 TX5 6
theorem nmX5 : ∀ a, a < 6 → ∀ b, b < 6 → a ≠ b → (TX5 a).2.1 ≠ (TX5 b).2.1 := by decide +kernel
theorem tyX5_ok : ∀ k, k < 6 → parseFieldDescriptor (TX5 k).2.2.1 = some (tyX5 k) := by decide +kernel
abbrev cX5_init : ByteArray := prog_9_method_1_code
def yX5_init : MethodName := ⟨RX5, "<init>", "()V"⟩
theorem dX5_init_0 : decode cX5_init 0 = .ok (.aload_n 0, 1) := by decide +kernel
theorem dX5_init_1 : decode cX5_init 1 = .ok (.invokespecial 1, 3) := by decide +kernel
theorem dX5_init_4 : decode cX5_init 4 = .ok (.return_, 1) := by decide +kernel
abbrev cX5_isAlone : ByteArray := prog_9_method_3_code
def yX5_isAlone : MethodName := ⟨RX5, "isAlone", "()Z"⟩
def dkwX5_isAlone_0 : List UInt8 := [42, 183, 0, 11, 154, 0, 7, 4, 167, 0, 4, 3, 172]
abbrev dktX5_isAlone_0 : List UInt8 := dkwX5_isAlone_0 ++ []
theorem dksX5_isAlone_0 : cX5_isAlone.data.toList.drop 0 = dktX5_isAlone_0 := by decide +kernel
theorem dX5_isAlone_0 : decode cX5_isAlone 0 = .ok (.aload_n 0, 1) := dk_42 (dk_at dksX5_isAlone_0 0 rfl rfl)
theorem dX5_isAlone_1 : decode cX5_isAlone 1 = .ok (.invokespecial 11, 3) := dk_183 0 11 (dk_at dksX5_isAlone_0 1 rfl rfl)
theorem dX5_isAlone_4 : decode cX5_isAlone 4 = .ok (.ifCond .ne 7, 3) := dk_154 0 7 (dk_at dksX5_isAlone_0 4 rfl rfl)
theorem dX5_isAlone_7 : decode cX5_isAlone 7 = .ok (.iconst 1, 1) := dk_4 (dk_at dksX5_isAlone_0 7 rfl rfl)
theorem dX5_isAlone_8 : decode cX5_isAlone 8 = .ok (.goto 4, 3) := dk_167 0 4 (dk_at dksX5_isAlone_0 8 rfl rfl)
theorem dX5_isAlone_11 : decode cX5_isAlone 11 = .ok (.iconst 0, 1) := dk_3 (dk_at dksX5_isAlone_0 11 rfl rfl)
theorem dX5_isAlone_12 : decode cX5_isAlone 12 = .ok (.ireturn, 1) := dk_172 (dk_at dksX5_isAlone_0 12 rfl rfl)
abbrev cX5_kind : ByteArray := prog_9_method_2_code
def yX5_kind : MethodName := ⟨RX5, "kind", "()I"⟩
def dkwX5_kind_0 : List UInt8 := [4, 42, 183, 0, 7, 96, 172]
abbrev dktX5_kind_0 : List UInt8 := dkwX5_kind_0 ++ []
theorem dksX5_kind_0 : cX5_kind.data.toList.drop 0 = dktX5_kind_0 := by decide +kernel
theorem dX5_kind_0 : decode cX5_kind 0 = .ok (.iconst 1, 1) := dk_4 (dk_at dksX5_kind_0 0 rfl rfl)
theorem dX5_kind_1 : decode cX5_kind 1 = .ok (.aload_n 0, 1) := dk_42 (dk_at dksX5_kind_0 1 rfl rfl)
theorem dX5_kind_2 : decode cX5_kind 2 = .ok (.invokespecial 7, 3) := dk_183 0 7 (dk_at dksX5_kind_0 2 rfl rfl)
theorem dX5_kind_5 : decode cX5_kind 5 = .ok (.iadd, 1) := dk_96 (dk_at dksX5_kind_0 5 rfl rfl)
theorem dX5_kind_6 : decode cX5_kind 6 = .ok (.ireturn, 1) := dk_172 (dk_at dksX5_kind_0 6 rfl rfl)
theorem q120 : (Jvm.Cond.initialized "DictProof$Sole") ∈ lw_all := lw_g (lw_at lw_m1 6 rfl) rfl
theorem q169 : (Jvm.Cond.sameField "DictProof$Sole" "DictProof$Instance" "number" "I") ∈ lw_all := lw_g (lw_at lw_m1 55 rfl) rfl
theorem q235 : (Jvm.Cond.instantiable "DictProof$Sole" (6 : Nat)) ∈ lw_all := lw_g (lw_at lw_m1 121 rfl) rfl
theorem q237 : (Jvm.Cond.instanceMethod ({ cls := "DictProof$Sole", name := "<init>", desc := "()V" } : Jvm.MethodName)) ∈ lw_all := lw_g (lw_at lw_m1 123 rfl) rfl
theorem q238 : (Jvm.Cond.code ({ cls := "DictProof$Sole", name := "<init>", desc := "()V" } : Jvm.MethodName) prog_9_method_1_code (1 : Nat) (Option.none : Option Jvm.ClassFile.FieldType)) ∈ lw_all := lw_g (lw_at lw_m1 124 rfl) rfl
theorem q239 : (Jvm.Cond.methodLinkNest "DictProof$Sole" (1 : Nat) ({ cls := "DictProof$First", name := "<init>", desc := "()V" } : Jvm.MethodName) "DictProof") ∈ lw_tbl := lw_at lw_m1 125 rfl
theorem q240 : (Jvm.Cond.lays "DictProof$Sole" "DictProof$Instance" "number" "I") ∈ lw_all := lw_g (lw_at lw_m1 126 rfl) rfl
theorem q241 : (Jvm.Cond.lays "DictProof$Sole" "DictProof$Instance" "of" "I") ∈ lw_all := lw_g (lw_at lw_m1 127 rfl) rfl
theorem q242 : (Jvm.Cond.lays "DictProof$Sole" "DictProof$Instance" "head" "LDictProof$Term;") ∈ lw_all := lw_g (lw_at lw_m1 128 rfl) rfl
theorem q243 : (Jvm.Cond.laysFinal "DictProof$Sole" "DictProof$Instance" "classes" "[I") ∈ lw_all := lw_g (lw_at lw_m1 129 rfl) rfl
theorem q244 : (Jvm.Cond.laysFinal "DictProof$Sole" "DictProof$Instance" "variables" "[I") ∈ lw_all := lw_g (lw_at lw_m1 130 rfl) rfl
theorem q245 : (Jvm.Cond.lays "DictProof$Sole" "DictProof$Instance" "many" "I") ∈ lw_all := lw_g (lw_at lw_m1 131 rfl) rfl
theorem q246 : (Jvm.Cond.superclass "DictProof$Sole" "DictProof$First") ∈ lw_all := lw_g (lw_at lw_m1 132 rfl) rfl
theorem q569 : (Jvm.Cond.selects "DictProof$Sole" ({ cls := "java/lang/Object", name := "hashCode", desc := "()I" } : Jvm.MethodName) ({ cls := "java/lang/Object", name := "hashCode", desc := "()I" } : Jvm.MethodName)) ∈ lw_all := lw_g (lw_at lw_m2 215 rfl) rfl
theorem q601 : (Jvm.Cond.selects "DictProof$Sole" ({ cls := "java/lang/Object", name := "equals", desc := "(Ljava/lang/Object;)Z" } : Jvm.MethodName) ({ cls := "java/lang/Object", name := "equals", desc := "(Ljava/lang/Object;)Z" } : Jvm.MethodName)) ∈ lw_all := lw_g (lw_at lw_m3 7 rfl) rfl
theorem q642 : (Jvm.Cond.selects "DictProof$Sole" ({ cls := "java/lang/Object", name := "getClass", desc := "()Ljava/lang/Class;" } : Jvm.MethodName) ({ cls := "java/lang/Object", name := "getClass", desc := "()Ljava/lang/Class;" } : Jvm.MethodName)) ∈ lw_all := lw_g (lw_at lw_m3 48 rfl) rfl
theorem q919 : (Jvm.Cond.selects "DictProof$Sole" ({ cls := "DictProof$Instance", name := "isUsed", desc := "()Z" } : Jvm.MethodName) ({ cls := "DictProof$Instance", name := "isUsed", desc := "()Z" } : Jvm.MethodName)) ∈ lw_all := lw_g (lw_at lw_m4 85 rfl) rfl
theorem q927 : (Jvm.Cond.selects "DictProof$Sole" ({ cls := "DictProof$Instance", name := "isSound", desc := "()Z" } : Jvm.MethodName) ({ cls := "DictProof$Instance", name := "isSound", desc := "()Z" } : Jvm.MethodName)) ∈ lw_all := lw_g (lw_at lw_m4 93 rfl) rfl
theorem q941 : (Jvm.Cond.selects "DictProof$Sole" ({ cls := "DictProof$Instance", name := "isAlone", desc := "()Z" } : Jvm.MethodName) ({ cls := "DictProof$Sole", name := "isAlone", desc := "()Z" } : Jvm.MethodName)) ∈ lw_all := lw_g (lw_at lw_m4 107 rfl) rfl
theorem q942 : (Jvm.Cond.instanceMethod ({ cls := "DictProof$Sole", name := "isAlone", desc := "()Z" } : Jvm.MethodName)) ∈ lw_all := lw_g (lw_at lw_m4 108 rfl) rfl
theorem q943 : (Jvm.Cond.code ({ cls := "DictProof$Sole", name := "isAlone", desc := "()Z" } : Jvm.MethodName) prog_9_method_3_code (1 : Nat) (Option.some Jvm.ClassFile.FieldType.boolean)) ∈ lw_all := lw_g (lw_at lw_m4 109 rfl) rfl
theorem q944 : (Jvm.Cond.methodLink "DictProof$Sole" (11 : Nat) ({ cls := "DictProof$First", name := "isAlone", desc := "()Z" } : Jvm.MethodName)) ∈ lw_all := lw_g (lw_at lw_m4 110 rfl) rfl
theorem q967 : (Jvm.Cond.selects "DictProof$Sole" ({ cls := "DictProof$Instance", name := "rank", desc := "()I" } : Jvm.MethodName) ({ cls := "DictProof$First", name := "rank", desc := "()I" } : Jvm.MethodName)) ∈ lw_all := lw_g (lw_at lw_m4 133 rfl) rfl
theorem q1107 : (Jvm.Cond.selects "DictProof$Sole" ({ cls := "DictProof$Instance", name := "kind", desc := "()I" } : Jvm.MethodName) ({ cls := "DictProof$Sole", name := "kind", desc := "()I" } : Jvm.MethodName)) ∈ lw_all := lw_g (lw_at lw_m5 33 rfl) rfl
theorem q1108 : (Jvm.Cond.instanceMethod ({ cls := "DictProof$Sole", name := "kind", desc := "()I" } : Jvm.MethodName)) ∈ lw_all := lw_g (lw_at lw_m5 34 rfl) rfl
theorem q1109 : (Jvm.Cond.code ({ cls := "DictProof$Sole", name := "kind", desc := "()I" } : Jvm.MethodName) prog_9_method_2_code (1 : Nat) (Option.some Jvm.ClassFile.FieldType.int)) ∈ lw_all := lw_g (lw_at lw_m5 35 rfl) rfl
theorem q1110 : (Jvm.Cond.methodLink "DictProof$Sole" (7 : Nat) ({ cls := "DictProof$First", name := "kind", desc := "()I" } : Jvm.MethodName)) ∈ lw_all := lw_g (lw_at lw_m5 36 rfl) rfl
theorem q1131 : (Jvm.Cond.unhidden "DictProof$Sole" "besides" "(I)I") ∈ lw_tbl := lw_at lw_m5 57 rfl
theorem q1151 : (Jvm.Cond.castable "DictProof$Sole" "DictProof$Ranked") ∈ lw_tbl := lw_at lw_m5 77 rfl
theorem q1152 : (Jvm.Cond.selects "DictProof$Sole" ({ cls := "DictProof$Ranked", name := "isUsed", desc := "()Z" } : Jvm.MethodName) ({ cls := "DictProof$Instance", name := "isUsed", desc := "()Z" } : Jvm.MethodName)) ∈ lw_all := lw_g (lw_at lw_m5 78 rfl) rfl
theorem q1153 : (Jvm.Cond.unhidden "DictProof$Sole" "isUsed" "()Z") ∈ lw_tbl := lw_at lw_m5 79 rfl
theorem q1168 : (Jvm.Cond.selects "DictProof$Sole" ({ cls := "DictProof$Ranked", name := "isAlone", desc := "()Z" } : Jvm.MethodName) ({ cls := "DictProof$Sole", name := "isAlone", desc := "()Z" } : Jvm.MethodName)) ∈ lw_all := lw_g (lw_at lw_m5 94 rfl) rfl
theorem q1169 : (Jvm.Cond.unhidden "DictProof$Sole" "isAlone" "()Z") ∈ lw_tbl := lw_at lw_m5 95 rfl
theorem q1170 : (Jvm.Cond.publicMethod ({ cls := "DictProof$Sole", name := "isAlone", desc := "()Z" } : Jvm.MethodName)) ∈ lw_tbl := lw_at lw_m5 96 rfl
theorem q1185 : (Jvm.Cond.selects "DictProof$Sole" ({ cls := "DictProof$Ranked", name := "rank", desc := "()I" } : Jvm.MethodName) ({ cls := "DictProof$First", name := "rank", desc := "()I" } : Jvm.MethodName)) ∈ lw_all := lw_g (lw_at lw_m5 111 rfl) rfl
theorem q1186 : (Jvm.Cond.unhidden "DictProof$Sole" "rank" "()I") ∈ lw_tbl := lw_at lw_m5 112 rfl
theorem q1297 : (Jvm.Cond.selects "DictProof$Sole" ({ cls := "DictProof$Instance", name := "be", desc := "(LDictProof$Instance;)V" } : Jvm.MethodName) ({ cls := "DictProof$Instance", name := "be", desc := "(LDictProof$Instance;)V" } : Jvm.MethodName)) ∈ lw_all := lw_g (lw_at lw_m5 223 rfl) rfl
theorem q1988 : (Jvm.Cond.castable "DictProof$Sole" "DictProof$Instance") ∈ lw_tbl := lw_at lw_m8 194 rfl
theorem q1990 : (Jvm.Cond.castable "DictProof$Sole" "DictProof$First") ∈ lw_tbl := lw_at lw_m8 196 rfl
theorem q1998 : (Jvm.Cond.castable "DictProof$Sole" "java/lang/Object") ∈ lw_tbl := lw_at lw_m8 204 rfl
theorem in_X5 : ∀ w ∈ wsX50, w ∈ lw_all := lw_in wsX50 [240, 241, 242, 243, 244, 245] (by decide +kernel) (by decide +kernel)

/-! java/util/AbstractMap -/
set_option maxRecDepth 100000
def RJ0 : String := "java/util/AbstractMap"
abbrev cJ0_init : ByteArray := prog_31_method_1_code
def yJ0_init : MethodName := ⟨RJ0, "<init>", "()V"⟩
theorem dJ0_init_0 : decode cJ0_init 0 = .ok (.aload_n 0, 1) := by decide +kernel
theorem dJ0_init_1 : decode cJ0_init 1 = .ok (.invokespecial 1, 3) := by decide +kernel
theorem dJ0_init_4 : decode cJ0_init 4 = .ok (.return_, 1) := by decide +kernel
theorem q121 : (Jvm.Cond.initialized "java/util/AbstractMap") ∈ lw_all := lw_g (lw_at lw_m1 7 rfl) rfl
theorem q255 : (Jvm.Cond.instanceMethod ({ cls := "java/util/AbstractMap", name := "<init>", desc := "()V" } : Jvm.MethodName)) ∈ lw_all := lw_g (lw_at lw_m1 141 rfl) rfl
theorem q256 : (Jvm.Cond.code ({ cls := "java/util/AbstractMap", name := "<init>", desc := "()V" } : Jvm.MethodName) prog_31_method_1_code (1 : Nat) (Option.none : Option Jvm.ClassFile.FieldType)) ∈ lw_all := lw_g (lw_at lw_m1 142 rfl) rfl
theorem q257 : (Jvm.Cond.methodLink "java/util/AbstractMap" (1 : Nat) ({ cls := "java/lang/Object", name := "<init>", desc := "()V" } : Jvm.MethodName)) ∈ lw_all := lw_g (lw_at lw_m1 143 rfl) rfl
theorem q277 : (Jvm.Cond.soleField "java/util/AbstractMap" "keySet") ∈ lw_all := lw_g (lw_at lw_m1 163 rfl) rfl
theorem q279 : (Jvm.Cond.soleField "java/util/AbstractMap" "values") ∈ lw_all := lw_g (lw_at lw_m1 165 rfl) rfl

/-! DictProof$Term -/
set_option maxRecDepth 100000
def RX7 : String := "DictProof$Term"
def TX7 : u_T := fun k => match k with
  | 0 => ("DictProof$Term", "sign", "I", true)
  | 1 => ("DictProof$Term", "one", "LDictProof$Term;", true)
  | _ => ("DictProof$Term", "two", "LDictProof$Term;", true)
def tyX7 : Nat → FieldType := fun k => match k with
  | 0 => .int
  | 1 => .object "DictProof$Term"
  | _ => .object "DictProof$Term"
abbrev wsX70 : List Cond := u_ws RX7 TX7 3
theorem nmX7 : ∀ a, a < 3 → ∀ b, b < 3 → a ≠ b → (TX7 a).2.1 ≠ (TX7 b).2.1 := by decide +kernel
theorem tyX7_ok : ∀ k, k < 3 → parseFieldDescriptor (TX7 k).2.2.1 = some (tyX7 k) := by decide +kernel
abbrev cX7_init : ByteArray := prog_11_method_1_code
def yX7_init : MethodName := ⟨RX7, "<init>", "(ILDictProof$Term;LDictProof$Term;)V"⟩
def dkwX7_init_0 : List UInt8 := [42, 183, 0, 3, 42, 27, 181, 0, 9, 42, 44, 181, 0, 15, 42, 45, 181, 0, 19, 177]
abbrev dktX7_init_0 : List UInt8 := dkwX7_init_0 ++ []
theorem dksX7_init_0 : cX7_init.data.toList.drop 0 = dktX7_init_0 := by decide +kernel
theorem dX7_init_0 : decode cX7_init 0 = .ok (.aload_n 0, 1) := dk_42 (dk_at dksX7_init_0 0 rfl rfl)
theorem dX7_init_1 : decode cX7_init 1 = .ok (.invokespecial 3, 3) := dk_183 0 3 (dk_at dksX7_init_0 1 rfl rfl)
theorem dX7_init_4 : decode cX7_init 4 = .ok (.aload_n 0, 1) := dk_42 (dk_at dksX7_init_0 4 rfl rfl)
theorem dX7_init_5 : decode cX7_init 5 = .ok (.iload_n 1, 1) := dk_27 (dk_at dksX7_init_0 5 rfl rfl)
theorem dX7_init_6 : decode cX7_init 6 = .ok (.putfield 9, 3) := dk_181 0 9 (dk_at dksX7_init_0 6 rfl rfl)
theorem dX7_init_9 : decode cX7_init 9 = .ok (.aload_n 0, 1) := dk_42 (dk_at dksX7_init_0 9 rfl rfl)
theorem dX7_init_10 : decode cX7_init 10 = .ok (.aload_n 2, 1) := dk_44 (dk_at dksX7_init_0 10 rfl rfl)
theorem dX7_init_11 : decode cX7_init 11 = .ok (.putfield 15, 3) := dk_181 0 15 (dk_at dksX7_init_0 11 rfl rfl)
theorem dX7_init_14 : decode cX7_init 14 = .ok (.aload_n 0, 1) := dk_42 (dk_at dksX7_init_0 14 rfl rfl)
theorem dX7_init_15 : decode cX7_init 15 = .ok (.aload_n 3, 1) := dk_45 (dk_at dksX7_init_0 15 rfl rfl)
theorem dX7_init_16 : decode cX7_init 16 = .ok (.putfield 19, 3) := dk_181 0 19 (dk_at dksX7_init_0 16 rfl rfl)
theorem dX7_init_19 : decode cX7_init 19 = .ok (.return_, 1) := dk_177 (dk_at dksX7_init_0 19 rfl rfl)
abbrev cX7_variable : ByteArray := prog_11_method_3_code
def yX7_variable : MethodName := ⟨RX7, "variable", "()I"⟩
def dkwX7_variable_0 : List UInt8 := [42, 180, 0, 9, 184, 0, 26, 153, 0, 13, 42, 180, 0, 9, 16, 120, 100, 167, 0, 4, 2, 172]
abbrev dktX7_variable_0 : List UInt8 := dkwX7_variable_0 ++ []
theorem dksX7_variable_0 : cX7_variable.data.toList.drop 0 = dktX7_variable_0 := by decide +kernel
theorem dX7_variable_0 : decode cX7_variable 0 = .ok (.aload_n 0, 1) := dk_42 (dk_at dksX7_variable_0 0 rfl rfl)
theorem dX7_variable_1 : decode cX7_variable 1 = .ok (.getfield 9, 3) := dk_180 0 9 (dk_at dksX7_variable_0 1 rfl rfl)
theorem dX7_variable_4 : decode cX7_variable 4 = .ok (.invokestatic 26, 3) := dk_184 0 26 (dk_at dksX7_variable_0 4 rfl rfl)
theorem dX7_variable_7 : decode cX7_variable 7 = .ok (.ifCond .eq 13, 3) := dk_153 0 13 (dk_at dksX7_variable_0 7 rfl rfl)
theorem dX7_variable_10 : decode cX7_variable 10 = .ok (.aload_n 0, 1) := dk_42 (dk_at dksX7_variable_0 10 rfl rfl)
theorem dX7_variable_11 : decode cX7_variable 11 = .ok (.getfield 9, 3) := dk_180 0 9 (dk_at dksX7_variable_0 11 rfl rfl)
theorem dX7_variable_14 : decode cX7_variable 14 = .ok (.bipush 120, 2) := dk_16 120 (dk_at dksX7_variable_0 14 rfl rfl)
theorem dX7_variable_16 : decode cX7_variable 16 = .ok (.isub, 1) := dk_100 (dk_at dksX7_variable_0 16 rfl rfl)
theorem dX7_variable_17 : decode cX7_variable 17 = .ok (.goto 4, 3) := dk_167 0 4 (dk_at dksX7_variable_0 17 rfl rfl)
theorem dX7_variable_20 : decode cX7_variable 20 = .ok (.iconst (-1), 1) := dk_2 (dk_at dksX7_variable_0 20 rfl rfl)
theorem dX7_variable_21 : decode cX7_variable 21 = .ok (.ireturn, 1) := dk_172 (dk_at dksX7_variable_0 21 rfl rfl)
abbrev cX7_hashCode : ByteArray := prog_11_method_5_code
def yX7_hashCode : MethodName := ⟨RX7, "hashCode", "()I"⟩
def dkwX7_hashCode_2 : List UInt8 := [96, 60, 27, 18, 37, 104, 27, 16, 13, 124, 130, 172]
abbrev dktX7_hashCode_2 : List UInt8 := dkwX7_hashCode_2 ++ []
def dkwX7_hashCode_1 : List UInt8 := [104, 96, 17, 3, 241, 42, 180, 0, 19, 199, 0, 7, 3, 167, 0, 10, 42, 180, 0, 19, 182, 0, 34, 104]
abbrev dktX7_hashCode_1 : List UInt8 := dkwX7_hashCode_1 ++ dktX7_hashCode_2
def dkwX7_hashCode_0 : List UInt8 := [42, 180, 0, 9, 16, 31, 42, 180, 0, 15, 199, 0, 7, 3, 167, 0, 10, 42, 180, 0, 15, 182, 0, 34]
abbrev dktX7_hashCode_0 : List UInt8 := dkwX7_hashCode_0 ++ dktX7_hashCode_1
theorem dksX7_hashCode_0 : cX7_hashCode.data.toList.drop 0 = dktX7_hashCode_0 := by decide +kernel
theorem dksX7_hashCode_1 : cX7_hashCode.data.toList.drop 24 = dktX7_hashCode_1 := dk_seg dksX7_hashCode_0 24 rfl rfl
theorem dksX7_hashCode_2 : cX7_hashCode.data.toList.drop 48 = dktX7_hashCode_2 := dk_seg dksX7_hashCode_1 24 rfl rfl
theorem dX7_hashCode_0 : decode cX7_hashCode 0 = .ok (.aload_n 0, 1) := dk_42 (dk_at dksX7_hashCode_0 0 rfl rfl)
theorem dX7_hashCode_1 : decode cX7_hashCode 1 = .ok (.getfield 9, 3) := dk_180 0 9 (dk_at dksX7_hashCode_0 1 rfl rfl)
theorem dX7_hashCode_4 : decode cX7_hashCode 4 = .ok (.bipush 31, 2) := dk_16 31 (dk_at dksX7_hashCode_0 4 rfl rfl)
theorem dX7_hashCode_6 : decode cX7_hashCode 6 = .ok (.aload_n 0, 1) := dk_42 (dk_at dksX7_hashCode_0 6 rfl rfl)
theorem dX7_hashCode_7 : decode cX7_hashCode 7 = .ok (.getfield 15, 3) := dk_180 0 15 (dk_at dksX7_hashCode_0 7 rfl rfl)
theorem dX7_hashCode_10 : decode cX7_hashCode 10 = .ok (.ifnonnull 7, 3) := dk_199 0 7 (dk_at dksX7_hashCode_0 10 rfl rfl)
theorem dX7_hashCode_13 : decode cX7_hashCode 13 = .ok (.iconst 0, 1) := dk_3 (dk_at dksX7_hashCode_0 13 rfl rfl)
theorem dX7_hashCode_14 : decode cX7_hashCode 14 = .ok (.goto 10, 3) := dk_167 0 10 (dk_at dksX7_hashCode_0 14 rfl rfl)
theorem dX7_hashCode_17 : decode cX7_hashCode 17 = .ok (.aload_n 0, 1) := dk_42 (dk_at dksX7_hashCode_0 17 rfl rfl)
theorem dX7_hashCode_18 : decode cX7_hashCode 18 = .ok (.getfield 15, 3) := dk_180 0 15 (dk_at dksX7_hashCode_0 18 rfl rfl)
theorem dX7_hashCode_21 : decode cX7_hashCode 21 = .ok (.invokevirtual 34, 3) := dk_182 0 34 (dk_at dksX7_hashCode_0 21 rfl rfl)
theorem dX7_hashCode_24 : decode cX7_hashCode 24 = .ok (.imul, 1) := dk_104 (dk_at dksX7_hashCode_1 0 rfl rfl)
theorem dX7_hashCode_25 : decode cX7_hashCode 25 = .ok (.iadd, 1) := dk_96 (dk_at dksX7_hashCode_1 1 rfl rfl)
theorem dX7_hashCode_26 : decode cX7_hashCode 26 = .ok (.sipush 1009, 3) := dk_17 3 241 (dk_at dksX7_hashCode_1 2 rfl rfl)
theorem dX7_hashCode_29 : decode cX7_hashCode 29 = .ok (.aload_n 0, 1) := dk_42 (dk_at dksX7_hashCode_1 5 rfl rfl)
theorem dX7_hashCode_30 : decode cX7_hashCode 30 = .ok (.getfield 19, 3) := dk_180 0 19 (dk_at dksX7_hashCode_1 6 rfl rfl)
theorem dX7_hashCode_33 : decode cX7_hashCode 33 = .ok (.ifnonnull 7, 3) := dk_199 0 7 (dk_at dksX7_hashCode_1 9 rfl rfl)
theorem dX7_hashCode_36 : decode cX7_hashCode 36 = .ok (.iconst 0, 1) := dk_3 (dk_at dksX7_hashCode_1 12 rfl rfl)
theorem dX7_hashCode_37 : decode cX7_hashCode 37 = .ok (.goto 10, 3) := dk_167 0 10 (dk_at dksX7_hashCode_1 13 rfl rfl)
theorem dX7_hashCode_40 : decode cX7_hashCode 40 = .ok (.aload_n 0, 1) := dk_42 (dk_at dksX7_hashCode_1 16 rfl rfl)
theorem dX7_hashCode_41 : decode cX7_hashCode 41 = .ok (.getfield 19, 3) := dk_180 0 19 (dk_at dksX7_hashCode_1 17 rfl rfl)
theorem dX7_hashCode_44 : decode cX7_hashCode 44 = .ok (.invokevirtual 34, 3) := dk_182 0 34 (dk_at dksX7_hashCode_1 20 rfl rfl)
theorem dX7_hashCode_47 : decode cX7_hashCode 47 = .ok (.imul, 1) := dk_104 (dk_at dksX7_hashCode_1 23 rfl rfl)
theorem dX7_hashCode_48 : decode cX7_hashCode 48 = .ok (.iadd, 1) := dk_96 (dk_at dksX7_hashCode_2 0 rfl rfl)
theorem dX7_hashCode_49 : decode cX7_hashCode 49 = .ok (.istore_n 1, 1) := dk_60 (dk_at dksX7_hashCode_2 1 rfl rfl)
theorem dX7_hashCode_50 : decode cX7_hashCode 50 = .ok (.iload_n 1, 1) := dk_27 (dk_at dksX7_hashCode_2 2 rfl rfl)
theorem dX7_hashCode_51 : decode cX7_hashCode 51 = .ok (.ldc 37, 2) := dk_18 37 (dk_at dksX7_hashCode_2 3 rfl rfl)
theorem dX7_hashCode_53 : decode cX7_hashCode 53 = .ok (.imul, 1) := dk_104 (dk_at dksX7_hashCode_2 5 rfl rfl)
theorem dX7_hashCode_54 : decode cX7_hashCode 54 = .ok (.iload_n 1, 1) := dk_27 (dk_at dksX7_hashCode_2 6 rfl rfl)
theorem dX7_hashCode_55 : decode cX7_hashCode 55 = .ok (.bipush 13, 2) := dk_16 13 (dk_at dksX7_hashCode_2 7 rfl rfl)
theorem dX7_hashCode_57 : decode cX7_hashCode 57 = .ok (.iushr, 1) := dk_124 (dk_at dksX7_hashCode_2 9 rfl rfl)
theorem dX7_hashCode_58 : decode cX7_hashCode 58 = .ok (.ixor, 1) := dk_130 (dk_at dksX7_hashCode_2 10 rfl rfl)
theorem dX7_hashCode_59 : decode cX7_hashCode 59 = .ok (.ireturn, 1) := dk_172 (dk_at dksX7_hashCode_2 11 rfl rfl)
abbrev cX7_equals : ByteArray := prog_11_method_4_code
def yX7_equals : MethodName := ⟨RX7, "equals", "(Ljava/lang/Object;)Z"⟩
def dkwX7_equals_3 : List UInt8 := [3, 172]
abbrev dktX7_equals_3 : List UInt8 := dkwX7_equals_3 ++ []
def dkwX7_equals_2 : List UInt8 := [180, 0, 19, 198, 0, 17, 42, 180, 0, 19, 44, 180, 0, 19, 182, 0, 30, 153, 0, 7, 4, 167, 0, 4]
abbrev dktX7_equals_2 : List UInt8 := dkwX7_equals_2 ++ dktX7_equals_3
def dkwX7_equals_1 : List UInt8 := [172, 42, 180, 0, 15, 198, 0, 17, 42, 180, 0, 15, 44, 180, 0, 15, 182, 0, 30, 153, 0, 28, 42]
abbrev dktX7_equals_1 : List UInt8 := dkwX7_equals_1 ++ dktX7_equals_2
def dkwX7_equals_0 : List UInt8 := [43, 193, 0, 10, 153, 0, 19, 43, 192, 0, 10, 77, 44, 180, 0, 9, 42, 180, 0, 9, 159, 0, 5, 3]
abbrev dktX7_equals_0 : List UInt8 := dkwX7_equals_0 ++ dktX7_equals_1
theorem dksX7_equals_0 : cX7_equals.data.toList.drop 0 = dktX7_equals_0 := by decide +kernel
theorem dksX7_equals_1 : cX7_equals.data.toList.drop 24 = dktX7_equals_1 := dk_seg dksX7_equals_0 24 rfl rfl
theorem dksX7_equals_2 : cX7_equals.data.toList.drop 47 = dktX7_equals_2 := dk_seg dksX7_equals_1 23 rfl rfl
theorem dksX7_equals_3 : cX7_equals.data.toList.drop 71 = dktX7_equals_3 := dk_seg dksX7_equals_2 24 rfl rfl
theorem dX7_equals_0 : decode cX7_equals 0 = .ok (.aload_n 1, 1) := dk_43 (dk_at dksX7_equals_0 0 rfl rfl)
theorem dX7_equals_1 : decode cX7_equals 1 = .ok (.instanceof 10, 3) := dk_193 0 10 (dk_at dksX7_equals_0 1 rfl rfl)
theorem dX7_equals_4 : decode cX7_equals 4 = .ok (.ifCond .eq 19, 3) := dk_153 0 19 (dk_at dksX7_equals_0 4 rfl rfl)
theorem dX7_equals_7 : decode cX7_equals 7 = .ok (.aload_n 1, 1) := dk_43 (dk_at dksX7_equals_0 7 rfl rfl)
theorem dX7_equals_8 : decode cX7_equals 8 = .ok (.checkcast 10, 3) := dk_192 0 10 (dk_at dksX7_equals_0 8 rfl rfl)
theorem dX7_equals_11 : decode cX7_equals 11 = .ok (.astore_n 2, 1) := dk_77 (dk_at dksX7_equals_0 11 rfl rfl)
theorem dX7_equals_12 : decode cX7_equals 12 = .ok (.aload_n 2, 1) := dk_44 (dk_at dksX7_equals_0 12 rfl rfl)
theorem dX7_equals_13 : decode cX7_equals 13 = .ok (.getfield 9, 3) := dk_180 0 9 (dk_at dksX7_equals_0 13 rfl rfl)
theorem dX7_equals_16 : decode cX7_equals 16 = .ok (.aload_n 0, 1) := dk_42 (dk_at dksX7_equals_0 16 rfl rfl)
theorem dX7_equals_17 : decode cX7_equals 17 = .ok (.getfield 9, 3) := dk_180 0 9 (dk_at dksX7_equals_0 17 rfl rfl)
theorem dX7_equals_20 : decode cX7_equals 20 = .ok (.if_icmp .eq 5, 3) := dk_159 0 5 (dk_at dksX7_equals_0 20 rfl rfl)
theorem dX7_equals_23 : decode cX7_equals 23 = .ok (.iconst 0, 1) := dk_3 (dk_at dksX7_equals_0 23 rfl rfl)
theorem dX7_equals_24 : decode cX7_equals 24 = .ok (.ireturn, 1) := dk_172 (dk_at dksX7_equals_1 0 rfl rfl)
theorem dX7_equals_25 : decode cX7_equals 25 = .ok (.aload_n 0, 1) := dk_42 (dk_at dksX7_equals_1 1 rfl rfl)
theorem dX7_equals_26 : decode cX7_equals 26 = .ok (.getfield 15, 3) := dk_180 0 15 (dk_at dksX7_equals_1 2 rfl rfl)
theorem dX7_equals_29 : decode cX7_equals 29 = .ok (.ifnull 17, 3) := dk_198 0 17 (dk_at dksX7_equals_1 5 rfl rfl)
theorem dX7_equals_32 : decode cX7_equals 32 = .ok (.aload_n 0, 1) := dk_42 (dk_at dksX7_equals_1 8 rfl rfl)
theorem dX7_equals_33 : decode cX7_equals 33 = .ok (.getfield 15, 3) := dk_180 0 15 (dk_at dksX7_equals_1 9 rfl rfl)
theorem dX7_equals_36 : decode cX7_equals 36 = .ok (.aload_n 2, 1) := dk_44 (dk_at dksX7_equals_1 12 rfl rfl)
theorem dX7_equals_37 : decode cX7_equals 37 = .ok (.getfield 15, 3) := dk_180 0 15 (dk_at dksX7_equals_1 13 rfl rfl)
theorem dX7_equals_40 : decode cX7_equals 40 = .ok (.invokevirtual 30, 3) := dk_182 0 30 (dk_at dksX7_equals_1 16 rfl rfl)
theorem dX7_equals_43 : decode cX7_equals 43 = .ok (.ifCond .eq 28, 3) := dk_153 0 28 (dk_at dksX7_equals_1 19 rfl rfl)
theorem dX7_equals_46 : decode cX7_equals 46 = .ok (.aload_n 0, 1) := dk_42 (dk_at dksX7_equals_1 22 rfl rfl)
theorem dX7_equals_47 : decode cX7_equals 47 = .ok (.getfield 19, 3) := dk_180 0 19 (dk_at dksX7_equals_2 0 rfl rfl)
theorem dX7_equals_50 : decode cX7_equals 50 = .ok (.ifnull 17, 3) := dk_198 0 17 (dk_at dksX7_equals_2 3 rfl rfl)
theorem dX7_equals_53 : decode cX7_equals 53 = .ok (.aload_n 0, 1) := dk_42 (dk_at dksX7_equals_2 6 rfl rfl)
theorem dX7_equals_54 : decode cX7_equals 54 = .ok (.getfield 19, 3) := dk_180 0 19 (dk_at dksX7_equals_2 7 rfl rfl)
theorem dX7_equals_57 : decode cX7_equals 57 = .ok (.aload_n 2, 1) := dk_44 (dk_at dksX7_equals_2 10 rfl rfl)
theorem dX7_equals_58 : decode cX7_equals 58 = .ok (.getfield 19, 3) := dk_180 0 19 (dk_at dksX7_equals_2 11 rfl rfl)
theorem dX7_equals_61 : decode cX7_equals 61 = .ok (.invokevirtual 30, 3) := dk_182 0 30 (dk_at dksX7_equals_2 14 rfl rfl)
theorem dX7_equals_64 : decode cX7_equals 64 = .ok (.ifCond .eq 7, 3) := dk_153 0 7 (dk_at dksX7_equals_2 17 rfl rfl)
theorem dX7_equals_67 : decode cX7_equals 67 = .ok (.iconst 1, 1) := dk_4 (dk_at dksX7_equals_2 20 rfl rfl)
theorem dX7_equals_68 : decode cX7_equals 68 = .ok (.goto 4, 3) := dk_167 0 4 (dk_at dksX7_equals_2 21 rfl rfl)
theorem dX7_equals_71 : decode cX7_equals 71 = .ok (.iconst 0, 1) := dk_3 (dk_at dksX7_equals_3 0 rfl rfl)
theorem dX7_equals_72 : decode cX7_equals 72 = .ok (.ireturn, 1) := dk_172 (dk_at dksX7_equals_3 1 rfl rfl)
abbrev cX7_size : ByteArray := prog_11_method_2_code
def yX7_size : MethodName := ⟨RX7, "size", "()I"⟩
def dkwX7_size_1 : List UInt8 := [199, 0, 7, 3, 167, 0, 10, 42, 180, 0, 19, 182, 0, 22, 96, 172]
abbrev dktX7_size_1 : List UInt8 := dkwX7_size_1 ++ []
def dkwX7_size_0 : List UInt8 := [4, 42, 180, 0, 15, 199, 0, 7, 3, 167, 0, 10, 42, 180, 0, 15, 182, 0, 22, 96, 42, 180, 0, 19]
abbrev dktX7_size_0 : List UInt8 := dkwX7_size_0 ++ dktX7_size_1
theorem dksX7_size_0 : cX7_size.data.toList.drop 0 = dktX7_size_0 := by decide +kernel
theorem dksX7_size_1 : cX7_size.data.toList.drop 24 = dktX7_size_1 := dk_seg dksX7_size_0 24 rfl rfl
theorem dX7_size_0 : decode cX7_size 0 = .ok (.iconst 1, 1) := dk_4 (dk_at dksX7_size_0 0 rfl rfl)
theorem dX7_size_1 : decode cX7_size 1 = .ok (.aload_n 0, 1) := dk_42 (dk_at dksX7_size_0 1 rfl rfl)
theorem dX7_size_2 : decode cX7_size 2 = .ok (.getfield 15, 3) := dk_180 0 15 (dk_at dksX7_size_0 2 rfl rfl)
theorem dX7_size_5 : decode cX7_size 5 = .ok (.ifnonnull 7, 3) := dk_199 0 7 (dk_at dksX7_size_0 5 rfl rfl)
theorem dX7_size_8 : decode cX7_size 8 = .ok (.iconst 0, 1) := dk_3 (dk_at dksX7_size_0 8 rfl rfl)
theorem dX7_size_9 : decode cX7_size 9 = .ok (.goto 10, 3) := dk_167 0 10 (dk_at dksX7_size_0 9 rfl rfl)
theorem dX7_size_12 : decode cX7_size 12 = .ok (.aload_n 0, 1) := dk_42 (dk_at dksX7_size_0 12 rfl rfl)
theorem dX7_size_13 : decode cX7_size 13 = .ok (.getfield 15, 3) := dk_180 0 15 (dk_at dksX7_size_0 13 rfl rfl)
theorem dX7_size_16 : decode cX7_size 16 = .ok (.invokevirtual 22, 3) := dk_182 0 22 (dk_at dksX7_size_0 16 rfl rfl)
theorem dX7_size_19 : decode cX7_size 19 = .ok (.iadd, 1) := dk_96 (dk_at dksX7_size_0 19 rfl rfl)
theorem dX7_size_20 : decode cX7_size 20 = .ok (.aload_n 0, 1) := dk_42 (dk_at dksX7_size_0 20 rfl rfl)
theorem dX7_size_21 : decode cX7_size 21 = .ok (.getfield 19, 3) := dk_180 0 19 (dk_at dksX7_size_0 21 rfl rfl)
theorem dX7_size_24 : decode cX7_size 24 = .ok (.ifnonnull 7, 3) := dk_199 0 7 (dk_at dksX7_size_1 0 rfl rfl)
theorem dX7_size_27 : decode cX7_size 27 = .ok (.iconst 0, 1) := dk_3 (dk_at dksX7_size_1 3 rfl rfl)
theorem dX7_size_28 : decode cX7_size 28 = .ok (.goto 10, 3) := dk_167 0 10 (dk_at dksX7_size_1 4 rfl rfl)
theorem dX7_size_31 : decode cX7_size 31 = .ok (.aload_n 0, 1) := dk_42 (dk_at dksX7_size_1 7 rfl rfl)
theorem dX7_size_32 : decode cX7_size 32 = .ok (.getfield 19, 3) := dk_180 0 19 (dk_at dksX7_size_1 8 rfl rfl)
theorem dX7_size_35 : decode cX7_size 35 = .ok (.invokevirtual 22, 3) := dk_182 0 22 (dk_at dksX7_size_1 11 rfl rfl)
theorem dX7_size_38 : decode cX7_size 38 = .ok (.iadd, 1) := dk_96 (dk_at dksX7_size_1 14 rfl rfl)
theorem dX7_size_39 : decode cX7_size 39 = .ok (.ireturn, 1) := dk_172 (dk_at dksX7_size_1 15 rfl rfl)
theorem q124 : (Jvm.Cond.initialized "DictProof$Term") ∈ lw_all := lw_g (lw_at lw_m1 10 rfl) rfl
theorem q464 : (Jvm.Cond.instantiable "DictProof$Term" (3 : Nat)) ∈ lw_all := lw_g (lw_at lw_m2 110 rfl) rfl
theorem q466 : (Jvm.Cond.instanceMethod ({ cls := "DictProof$Term", name := "<init>", desc := "(ILDictProof$Term;LDictProof$Term;)V" } : Jvm.MethodName)) ∈ lw_all := lw_g (lw_at lw_m2 112 rfl) rfl
theorem q467 : (Jvm.Cond.code ({ cls := "DictProof$Term", name := "<init>", desc := "(ILDictProof$Term;LDictProof$Term;)V" } : Jvm.MethodName) prog_11_method_1_code (4 : Nat) (Option.none : Option Jvm.ClassFile.FieldType)) ∈ lw_all := lw_g (lw_at lw_m2 113 rfl) rfl
theorem q468 : (Jvm.Cond.methodLink "DictProof$Term" (3 : Nat) ({ cls := "java/lang/Object", name := "<init>", desc := "()V" } : Jvm.MethodName)) ∈ lw_all := lw_g (lw_at lw_m2 114 rfl) rfl
theorem q469 : (Jvm.Cond.fieldLink "DictProof$Term" (9 : Nat) "DictProof$Term" "sign" "I") ∈ lw_all := lw_g (lw_at lw_m2 115 rfl) rfl
theorem q471 : (Jvm.Cond.fieldLink "DictProof$Term" (15 : Nat) "DictProof$Term" "one" "LDictProof$Term;") ∈ lw_all := lw_g (lw_at lw_m2 117 rfl) rfl
theorem q473 : (Jvm.Cond.fieldLink "DictProof$Term" (19 : Nat) "DictProof$Term" "two" "LDictProof$Term;") ∈ lw_all := lw_g (lw_at lw_m2 119 rfl) rfl
theorem q475 : (Jvm.Cond.laysFinal "DictProof$Term" "DictProof$Term" "sign" "I") ∈ lw_all := lw_g (lw_at lw_m2 121 rfl) rfl
theorem q476 : (Jvm.Cond.soleField "DictProof$Term" "sign") ∈ lw_all := lw_g (lw_at lw_m2 122 rfl) rfl
theorem q477 : (Jvm.Cond.laysFinal "DictProof$Term" "DictProof$Term" "one" "LDictProof$Term;") ∈ lw_all := lw_g (lw_at lw_m2 123 rfl) rfl
theorem q478 : (Jvm.Cond.soleField "DictProof$Term" "one") ∈ lw_all := lw_g (lw_at lw_m2 124 rfl) rfl
theorem q479 : (Jvm.Cond.laysFinal "DictProof$Term" "DictProof$Term" "two" "LDictProof$Term;") ∈ lw_all := lw_g (lw_at lw_m2 125 rfl) rfl
theorem q480 : (Jvm.Cond.soleField "DictProof$Term" "two") ∈ lw_all := lw_g (lw_at lw_m2 126 rfl) rfl
theorem q481 : (Jvm.Cond.superclass "DictProof$Term" "java/lang/Object") ∈ lw_all := lw_g (lw_at lw_m2 127 rfl) rfl
theorem q515 : (Jvm.Cond.instanceMethod ({ cls := "DictProof$Term", name := "variable", desc := "()I" } : Jvm.MethodName)) ∈ lw_all := lw_g (lw_at lw_m2 161 rfl) rfl
theorem q516 : (Jvm.Cond.selects "DictProof$Term" ({ cls := "DictProof$Term", name := "variable", desc := "()I" } : Jvm.MethodName) ({ cls := "DictProof$Term", name := "variable", desc := "()I" } : Jvm.MethodName)) ∈ lw_all := lw_g (lw_at lw_m2 162 rfl) rfl
theorem q517 : (Jvm.Cond.code ({ cls := "DictProof$Term", name := "variable", desc := "()I" } : Jvm.MethodName) prog_11_method_3_code (1 : Nat) (Option.some Jvm.ClassFile.FieldType.int)) ∈ lw_all := lw_g (lw_at lw_m2 163 rfl) rfl
theorem q518 : (Jvm.Cond.methodLinkNest "DictProof$Term" (26 : Nat) ({ cls := "DictProof", name := "isVariableSign", desc := "(I)Z" } : Jvm.MethodName) "DictProof") ∈ lw_tbl := lw_at lw_m2 164 rfl
theorem q560 : (Jvm.Cond.instanceMethod ({ cls := "DictProof$Term", name := "hashCode", desc := "()I" } : Jvm.MethodName)) ∈ lw_all := lw_g (lw_at lw_m2 206 rfl) rfl
theorem q561 : (Jvm.Cond.selects "DictProof$Term" ({ cls := "DictProof$Term", name := "hashCode", desc := "()I" } : Jvm.MethodName) ({ cls := "DictProof$Term", name := "hashCode", desc := "()I" } : Jvm.MethodName)) ∈ lw_all := lw_g (lw_at lw_m2 207 rfl) rfl
theorem q562 : (Jvm.Cond.code ({ cls := "DictProof$Term", name := "hashCode", desc := "()I" } : Jvm.MethodName) prog_11_method_5_code (2 : Nat) (Option.some Jvm.ClassFile.FieldType.int)) ∈ lw_all := lw_g (lw_at lw_m2 208 rfl) rfl
theorem q563 : (Jvm.Cond.methodLink "DictProof$Term" (34 : Nat) ({ cls := "DictProof$Term", name := "hashCode", desc := "()I" } : Jvm.MethodName)) ∈ lw_all := lw_g (lw_at lw_m2 209 rfl) rfl
theorem q564 : (Jvm.Cond.constant "DictProof$Term" (37 : Nat) (-1640531535 : Int32)) ∈ lw_all := lw_g (lw_at lw_m2 210 rfl) rfl
theorem q571 : (Jvm.Cond.selects "DictProof$Term" ({ cls := "java/lang/Object", name := "hashCode", desc := "()I" } : Jvm.MethodName) ({ cls := "DictProof$Term", name := "hashCode", desc := "()I" } : Jvm.MethodName)) ∈ lw_all := lw_g (lw_at lw_m2 217 rfl) rfl
theorem q592 : (Jvm.Cond.instanceMethod ({ cls := "DictProof$Term", name := "equals", desc := "(Ljava/lang/Object;)Z" } : Jvm.MethodName)) ∈ lw_all := lw_g (lw_at lw_m2 238 rfl) rfl
theorem q593 : (Jvm.Cond.selects "DictProof$Term" ({ cls := "DictProof$Term", name := "equals", desc := "(Ljava/lang/Object;)Z" } : Jvm.MethodName) ({ cls := "DictProof$Term", name := "equals", desc := "(Ljava/lang/Object;)Z" } : Jvm.MethodName)) ∈ lw_all := lw_g (lw_at lw_m2 239 rfl) rfl
theorem q594 : (Jvm.Cond.code ({ cls := "DictProof$Term", name := "equals", desc := "(Ljava/lang/Object;)Z" } : Jvm.MethodName) prog_11_method_4_code (3 : Nat) (Option.some Jvm.ClassFile.FieldType.boolean)) ∈ lw_all := lw_g (lw_at lw_m3 0 rfl) rfl
theorem q595 : (Jvm.Cond.classLink "DictProof$Term" (10 : Nat) "DictProof$Term") ∈ lw_all := lw_g (lw_at lw_m3 1 rfl) rfl
theorem q596 : (Jvm.Cond.methodLink "DictProof$Term" (30 : Nat) ({ cls := "DictProof$Term", name := "equals", desc := "(Ljava/lang/Object;)Z" } : Jvm.MethodName)) ∈ lw_all := lw_g (lw_at lw_m3 2 rfl) rfl
theorem q603 : (Jvm.Cond.selects "DictProof$Term" ({ cls := "java/lang/Object", name := "equals", desc := "(Ljava/lang/Object;)Z" } : Jvm.MethodName) ({ cls := "DictProof$Term", name := "equals", desc := "(Ljava/lang/Object;)Z" } : Jvm.MethodName)) ∈ lw_all := lw_g (lw_at lw_m3 9 rfl) rfl
theorem q644 : (Jvm.Cond.selects "DictProof$Term" ({ cls := "java/lang/Object", name := "getClass", desc := "()Ljava/lang/Class;" } : Jvm.MethodName) ({ cls := "java/lang/Object", name := "getClass", desc := "()Ljava/lang/Class;" } : Jvm.MethodName)) ∈ lw_all := lw_g (lw_at lw_m3 50 rfl) rfl
theorem q841 : (Jvm.Cond.instanceMethod ({ cls := "DictProof$Term", name := "size", desc := "()I" } : Jvm.MethodName)) ∈ lw_all := lw_g (lw_at lw_m4 7 rfl) rfl
theorem q842 : (Jvm.Cond.selects "DictProof$Term" ({ cls := "DictProof$Term", name := "size", desc := "()I" } : Jvm.MethodName) ({ cls := "DictProof$Term", name := "size", desc := "()I" } : Jvm.MethodName)) ∈ lw_all := lw_g (lw_at lw_m4 8 rfl) rfl
theorem q843 : (Jvm.Cond.code ({ cls := "DictProof$Term", name := "size", desc := "()I" } : Jvm.MethodName) prog_11_method_2_code (1 : Nat) (Option.some Jvm.ClassFile.FieldType.int)) ∈ lw_all := lw_g (lw_at lw_m4 9 rfl) rfl
theorem q844 : (Jvm.Cond.methodLink "DictProof$Term" (22 : Nat) ({ cls := "DictProof$Term", name := "size", desc := "()I" } : Jvm.MethodName)) ∈ lw_all := lw_g (lw_at lw_m4 10 rfl) rfl
theorem q2001 : (Jvm.Cond.castable "DictProof$Term" "java/lang/Object") ∈ lw_tbl := lw_at lw_m8 207 rfl
theorem in_X7 : ∀ w ∈ wsX70, w ∈ lw_all := lw_in wsX70 [475, 477, 479] (by decide +kernel) (by decide +kernel)

/-! DictProof$Part -/
set_option maxRecDepth 100000
def RX8 : String := "DictProof$Part"
def TX8 : u_T := fun k => match k with
  | 0 => ("DictProof$Part", "term", "LDictProof$Term;", true)
  | _ => ("DictProof$Part", "from", "I", true)
def tyX8 : Nat → FieldType := fun k => match k with
  | 0 => .object "DictProof$Term"
  | _ => .int
abbrev wsX80 : List Cond := u_ws RX8 TX8 2
theorem nmX8 : ∀ a, a < 2 → ∀ b, b < 2 → a ≠ b → (TX8 a).2.1 ≠ (TX8 b).2.1 := by decide +kernel
theorem tyX8_ok : ∀ k, k < 2 → parseFieldDescriptor (TX8 k).2.2.1 = some (tyX8 k) := by decide +kernel
abbrev cX8_init : ByteArray := prog_6_method_1_code
def yX8_init : MethodName := ⟨RX8, "<init>", "(LDictProof$Term;I)V"⟩
def dkwX8_init_0 : List UInt8 := [42, 183, 0, 1, 42, 43, 181, 0, 7, 42, 28, 181, 0, 13, 177]
abbrev dktX8_init_0 : List UInt8 := dkwX8_init_0 ++ []
theorem dksX8_init_0 : cX8_init.data.toList.drop 0 = dktX8_init_0 := by decide +kernel
theorem dX8_init_0 : decode cX8_init 0 = .ok (.aload_n 0, 1) := dk_42 (dk_at dksX8_init_0 0 rfl rfl)
theorem dX8_init_1 : decode cX8_init 1 = .ok (.invokespecial 1, 3) := dk_183 0 1 (dk_at dksX8_init_0 1 rfl rfl)
theorem dX8_init_4 : decode cX8_init 4 = .ok (.aload_n 0, 1) := dk_42 (dk_at dksX8_init_0 4 rfl rfl)
theorem dX8_init_5 : decode cX8_init 5 = .ok (.aload_n 1, 1) := dk_43 (dk_at dksX8_init_0 5 rfl rfl)
theorem dX8_init_6 : decode cX8_init 6 = .ok (.putfield 7, 3) := dk_181 0 7 (dk_at dksX8_init_0 6 rfl rfl)
theorem dX8_init_9 : decode cX8_init 9 = .ok (.aload_n 0, 1) := dk_42 (dk_at dksX8_init_0 9 rfl rfl)
theorem dX8_init_10 : decode cX8_init 10 = .ok (.iload_n 2, 1) := dk_28 (dk_at dksX8_init_0 10 rfl rfl)
theorem dX8_init_11 : decode cX8_init 11 = .ok (.putfield 13, 3) := dk_181 0 13 (dk_at dksX8_init_0 11 rfl rfl)
theorem dX8_init_14 : decode cX8_init 14 = .ok (.return_, 1) := dk_177 (dk_at dksX8_init_0 14 rfl rfl)
abbrev cX8_name : ByteArray := prog_6_method_2_code
def yX8_name : MethodName := ⟨RX8, "name", "()I"⟩
def dkwX8_name_0 : List UInt8 := [42, 180, 0, 7, 42, 180, 0, 13, 184, 0, 17, 172]
abbrev dktX8_name_0 : List UInt8 := dkwX8_name_0 ++ []
theorem dksX8_name_0 : cX8_name.data.toList.drop 0 = dktX8_name_0 := by decide +kernel
theorem dX8_name_0 : decode cX8_name 0 = .ok (.aload_n 0, 1) := dk_42 (dk_at dksX8_name_0 0 rfl rfl)
theorem dX8_name_1 : decode cX8_name 1 = .ok (.getfield 7, 3) := dk_180 0 7 (dk_at dksX8_name_0 1 rfl rfl)
theorem dX8_name_4 : decode cX8_name 4 = .ok (.aload_n 0, 1) := dk_42 (dk_at dksX8_name_0 4 rfl rfl)
theorem dX8_name_5 : decode cX8_name 5 = .ok (.getfield 13, 3) := dk_180 0 13 (dk_at dksX8_name_0 5 rfl rfl)
theorem dX8_name_8 : decode cX8_name 8 = .ok (.invokestatic 17, 3) := dk_184 0 17 (dk_at dksX8_name_0 8 rfl rfl)
theorem dX8_name_11 : decode cX8_name 11 = .ok (.ireturn, 1) := dk_172 (dk_at dksX8_name_0 11 rfl rfl)
theorem q125 : (Jvm.Cond.initialized "DictProof$Part") ∈ lw_all := lw_g (lw_at lw_m1 11 rfl) rfl
theorem q490 : (Jvm.Cond.instantiable "DictProof$Part" (2 : Nat)) ∈ lw_all := lw_g (lw_at lw_m2 136 rfl) rfl
theorem q492 : (Jvm.Cond.instanceMethod ({ cls := "DictProof$Part", name := "<init>", desc := "(LDictProof$Term;I)V" } : Jvm.MethodName)) ∈ lw_all := lw_g (lw_at lw_m2 138 rfl) rfl
theorem q493 : (Jvm.Cond.code ({ cls := "DictProof$Part", name := "<init>", desc := "(LDictProof$Term;I)V" } : Jvm.MethodName) prog_6_method_1_code (3 : Nat) (Option.none : Option Jvm.ClassFile.FieldType)) ∈ lw_all := lw_g (lw_at lw_m2 139 rfl) rfl
theorem q494 : (Jvm.Cond.methodLink "DictProof$Part" (1 : Nat) ({ cls := "java/lang/Object", name := "<init>", desc := "()V" } : Jvm.MethodName)) ∈ lw_all := lw_g (lw_at lw_m2 140 rfl) rfl
theorem q495 : (Jvm.Cond.fieldLink "DictProof$Part" (7 : Nat) "DictProof$Part" "term" "LDictProof$Term;") ∈ lw_all := lw_g (lw_at lw_m2 141 rfl) rfl
theorem q497 : (Jvm.Cond.fieldLink "DictProof$Part" (13 : Nat) "DictProof$Part" "from" "I") ∈ lw_all := lw_g (lw_at lw_m2 143 rfl) rfl
theorem q499 : (Jvm.Cond.laysFinal "DictProof$Part" "DictProof$Part" "term" "LDictProof$Term;") ∈ lw_all := lw_g (lw_at lw_m2 145 rfl) rfl
theorem q500 : (Jvm.Cond.soleField "DictProof$Part" "term") ∈ lw_all := lw_g (lw_at lw_m2 146 rfl) rfl
theorem q501 : (Jvm.Cond.laysFinal "DictProof$Part" "DictProof$Part" "from" "I") ∈ lw_all := lw_g (lw_at lw_m2 147 rfl) rfl
theorem q502 : (Jvm.Cond.soleField "DictProof$Part" "from") ∈ lw_all := lw_g (lw_at lw_m2 148 rfl) rfl
theorem q503 : (Jvm.Cond.superclass "DictProof$Part" "java/lang/Object") ∈ lw_all := lw_g (lw_at lw_m2 149 rfl) rfl
theorem q508 : (Jvm.Cond.instanceMethod ({ cls := "DictProof$Part", name := "name", desc := "()I" } : Jvm.MethodName)) ∈ lw_all := lw_g (lw_at lw_m2 154 rfl) rfl
theorem q509 : (Jvm.Cond.selects "DictProof$Part" ({ cls := "DictProof$Part", name := "name", desc := "()I" } : Jvm.MethodName) ({ cls := "DictProof$Part", name := "name", desc := "()I" } : Jvm.MethodName)) ∈ lw_all := lw_g (lw_at lw_m2 155 rfl) rfl
theorem q510 : (Jvm.Cond.code ({ cls := "DictProof$Part", name := "name", desc := "()I" } : Jvm.MethodName) prog_6_method_2_code (1 : Nat) (Option.some Jvm.ClassFile.FieldType.int)) ∈ lw_all := lw_g (lw_at lw_m2 156 rfl) rfl
theorem q511 : (Jvm.Cond.methodLinkNest "DictProof$Part" (17 : Nat) ({ cls := "DictProof", name := "nameOf", desc := "(LDictProof$Term;I)I" } : Jvm.MethodName) "DictProof") ∈ lw_tbl := lw_at lw_m2 157 rfl
theorem q567 : (Jvm.Cond.selects "DictProof$Part" ({ cls := "java/lang/Object", name := "hashCode", desc := "()I" } : Jvm.MethodName) ({ cls := "java/lang/Object", name := "hashCode", desc := "()I" } : Jvm.MethodName)) ∈ lw_all := lw_g (lw_at lw_m2 213 rfl) rfl
theorem q599 : (Jvm.Cond.selects "DictProof$Part" ({ cls := "java/lang/Object", name := "equals", desc := "(Ljava/lang/Object;)Z" } : Jvm.MethodName) ({ cls := "java/lang/Object", name := "equals", desc := "(Ljava/lang/Object;)Z" } : Jvm.MethodName)) ∈ lw_all := lw_g (lw_at lw_m3 5 rfl) rfl
theorem q640 : (Jvm.Cond.selects "DictProof$Part" ({ cls := "java/lang/Object", name := "getClass", desc := "()Ljava/lang/Class;" } : Jvm.MethodName) ({ cls := "java/lang/Object", name := "getClass", desc := "()Ljava/lang/Class;" } : Jvm.MethodName)) ∈ lw_all := lw_g (lw_at lw_m3 46 rfl) rfl
theorem q2002 : (Jvm.Cond.castable "DictProof$Part" "java/lang/Object") ∈ lw_tbl := lw_at lw_m8 208 rfl
theorem in_X8 : ∀ w ∈ wsX80, w ∈ lw_all := lw_in wsX80 [499, 501] (by decide +kernel) (by decide +kernel)

/-! java/lang/Number -/
set_option maxRecDepth 100000
def RJ2 : String := "java/lang/Number"
abbrev cJ2_init : ByteArray := prog_23_method_1_code
def yJ2_init : MethodName := ⟨RJ2, "<init>", "()V"⟩
theorem dJ2_init_0 : decode cJ2_init 0 = .ok (.aload_n 0, 1) := by decide +kernel
theorem dJ2_init_1 : decode cJ2_init 1 = .ok (.invokespecial 1, 3) := by decide +kernel
theorem dJ2_init_4 : decode cJ2_init 4 = .ok (.return_, 1) := by decide +kernel
theorem q126 : (Jvm.Cond.initialized "java/lang/Number") ∈ lw_all := lw_g (lw_at lw_m1 12 rfl) rfl
theorem q532 : (Jvm.Cond.instanceMethod ({ cls := "java/lang/Number", name := "<init>", desc := "()V" } : Jvm.MethodName)) ∈ lw_all := lw_g (lw_at lw_m2 178 rfl) rfl
theorem q533 : (Jvm.Cond.code ({ cls := "java/lang/Number", name := "<init>", desc := "()V" } : Jvm.MethodName) prog_23_method_1_code (1 : Nat) (Option.none : Option Jvm.ClassFile.FieldType)) ∈ lw_all := lw_g (lw_at lw_m2 179 rfl) rfl
theorem q534 : (Jvm.Cond.methodLink "java/lang/Number" (1 : Nat) ({ cls := "java/lang/Object", name := "<init>", desc := "()V" } : Jvm.MethodName)) ∈ lw_all := lw_g (lw_at lw_m2 180 rfl) rfl

/-! java/lang/Integer -/
set_option maxRecDepth 100000
def RJ3 : String := "java/lang/Integer"
def TJ3 : u_T := fun k => match k with
  | _ => ("java/lang/Integer", "value", "I", true)
def tyJ3 : Nat → FieldType := fun k => match k with
  | _ => .int
abbrev wsJ30 : List Cond := u_ws RJ3 TJ3 1
theorem nmJ3 : ∀ a, a < 1 → ∀ b, b < 1 → a ≠ b → (TJ3 a).2.1 ≠ (TJ3 b).2.1 := by decide +kernel
theorem tyJ3_ok : ∀ k, k < 1 → parseFieldDescriptor (TJ3 k).2.2.1 = some (tyJ3 k) := by decide +kernel
abbrev cJ3_valueOf : ByteArray := prog_19_method_22_code
def yJ3_valueOf : MethodName := ⟨RJ3, "valueOf", "(I)Ljava/lang/Integer;"⟩
def dkwJ3_valueOf_1 : List UInt8 := [187, 0, 1, 89, 26, 183, 0, 199, 176]
abbrev dktJ3_valueOf_1 : List UInt8 := dkwJ3_valueOf_1 ++ []
def dkwJ3_valueOf_0 : List UInt8 := [26, 16, 128, 161, 0, 20, 26, 178, 0, 191, 163, 0, 13, 178, 0, 195, 26, 17, 0, 128, 96, 50, 176]
abbrev dktJ3_valueOf_0 : List UInt8 := dkwJ3_valueOf_0 ++ dktJ3_valueOf_1
theorem dksJ3_valueOf_0 : cJ3_valueOf.data.toList.drop 0 = dktJ3_valueOf_0 := by decide +kernel
theorem dksJ3_valueOf_1 : cJ3_valueOf.data.toList.drop 23 = dktJ3_valueOf_1 := dk_seg dksJ3_valueOf_0 23 rfl rfl
theorem dJ3_valueOf_0 : decode cJ3_valueOf 0 = .ok (.iload_n 0, 1) := dk_26 (dk_at dksJ3_valueOf_0 0 rfl rfl)
theorem dJ3_valueOf_1 : decode cJ3_valueOf 1 = .ok (.bipush (-128), 2) := dk_16 128 (dk_at dksJ3_valueOf_0 1 rfl rfl)
theorem dJ3_valueOf_3 : decode cJ3_valueOf 3 = .ok (.if_icmp .lt 20, 3) := dk_161 0 20 (dk_at dksJ3_valueOf_0 3 rfl rfl)
theorem dJ3_valueOf_6 : decode cJ3_valueOf 6 = .ok (.iload_n 0, 1) := dk_26 (dk_at dksJ3_valueOf_0 6 rfl rfl)
theorem dJ3_valueOf_7 : decode cJ3_valueOf 7 = .ok (.getstatic 191, 3) := dk_178 0 191 (dk_at dksJ3_valueOf_0 7 rfl rfl)
theorem dJ3_valueOf_10 : decode cJ3_valueOf 10 = .ok (.if_icmp .gt 13, 3) := dk_163 0 13 (dk_at dksJ3_valueOf_0 10 rfl rfl)
theorem dJ3_valueOf_13 : decode cJ3_valueOf 13 = .ok (.getstatic 195, 3) := dk_178 0 195 (dk_at dksJ3_valueOf_0 13 rfl rfl)
theorem dJ3_valueOf_16 : decode cJ3_valueOf 16 = .ok (.iload_n 0, 1) := dk_26 (dk_at dksJ3_valueOf_0 16 rfl rfl)
theorem dJ3_valueOf_17 : decode cJ3_valueOf 17 = .ok (.sipush 128, 3) := dk_17 0 128 (dk_at dksJ3_valueOf_0 17 rfl rfl)
theorem dJ3_valueOf_20 : decode cJ3_valueOf 20 = .ok (.iadd, 1) := dk_96 (dk_at dksJ3_valueOf_0 20 rfl rfl)
theorem dJ3_valueOf_21 : decode cJ3_valueOf 21 = .ok (.aaload, 1) := dk_50 (dk_at dksJ3_valueOf_0 21 rfl rfl)
theorem dJ3_valueOf_22 : decode cJ3_valueOf 22 = .ok (.areturn, 1) := dk_176 (dk_at dksJ3_valueOf_0 22 rfl rfl)
theorem dJ3_valueOf_23 : decode cJ3_valueOf 23 = .ok (.new 1, 3) := dk_187 0 1 (dk_at dksJ3_valueOf_1 0 rfl rfl)
theorem dJ3_valueOf_26 : decode cJ3_valueOf 26 = .ok (.dup, 1) := dk_89 (dk_at dksJ3_valueOf_1 3 rfl rfl)
theorem dJ3_valueOf_27 : decode cJ3_valueOf 27 = .ok (.iload_n 0, 1) := dk_26 (dk_at dksJ3_valueOf_1 4 rfl rfl)
theorem dJ3_valueOf_28 : decode cJ3_valueOf 28 = .ok (.invokespecial 199, 3) := dk_183 0 199 (dk_at dksJ3_valueOf_1 5 rfl rfl)
theorem dJ3_valueOf_31 : decode cJ3_valueOf 31 = .ok (.areturn, 1) := dk_176 (dk_at dksJ3_valueOf_1 8 rfl rfl)
abbrev cJ3_init : ByteArray := prog_19_method_23_code
def yJ3_init : MethodName := ⟨RJ3, "<init>", "(I)V"⟩
def dkwJ3_init_0 : List UInt8 := [42, 183, 0, 202, 42, 27, 181, 0, 205, 177]
abbrev dktJ3_init_0 : List UInt8 := dkwJ3_init_0 ++ []
theorem dksJ3_init_0 : cJ3_init.data.toList.drop 0 = dktJ3_init_0 := by decide +kernel
theorem dJ3_init_0 : decode cJ3_init 0 = .ok (.aload_n 0, 1) := dk_42 (dk_at dksJ3_init_0 0 rfl rfl)
theorem dJ3_init_1 : decode cJ3_init 1 = .ok (.invokespecial 202, 3) := dk_183 0 202 (dk_at dksJ3_init_0 1 rfl rfl)
theorem dJ3_init_4 : decode cJ3_init 4 = .ok (.aload_n 0, 1) := dk_42 (dk_at dksJ3_init_0 4 rfl rfl)
theorem dJ3_init_5 : decode cJ3_init 5 = .ok (.iload_n 1, 1) := dk_27 (dk_at dksJ3_init_0 5 rfl rfl)
theorem dJ3_init_6 : decode cJ3_init 6 = .ok (.putfield 205, 3) := dk_181 0 205 (dk_at dksJ3_init_0 6 rfl rfl)
theorem dJ3_init_9 : decode cJ3_init 9 = .ok (.return_, 1) := dk_177 (dk_at dksJ3_init_0 9 rfl rfl)
abbrev cJ3_hashCode : ByteArray := prog_19_method_32_code
def yJ3_hashCode : MethodName := ⟨RJ3, "hashCode", "()I"⟩
def dkwJ3_hashCode_0 : List UInt8 := [42, 180, 0, 205, 184, 0, 208, 172]
abbrev dktJ3_hashCode_0 : List UInt8 := dkwJ3_hashCode_0 ++ []
theorem dksJ3_hashCode_0 : cJ3_hashCode.data.toList.drop 0 = dktJ3_hashCode_0 := by decide +kernel
theorem dJ3_hashCode_0 : decode cJ3_hashCode 0 = .ok (.aload_n 0, 1) := dk_42 (dk_at dksJ3_hashCode_0 0 rfl rfl)
theorem dJ3_hashCode_1 : decode cJ3_hashCode 1 = .ok (.getfield 205, 3) := dk_180 0 205 (dk_at dksJ3_hashCode_0 1 rfl rfl)
theorem dJ3_hashCode_4 : decode cJ3_hashCode 4 = .ok (.invokestatic 208, 3) := dk_184 0 208 (dk_at dksJ3_hashCode_0 4 rfl rfl)
theorem dJ3_hashCode_7 : decode cJ3_hashCode 7 = .ok (.ireturn, 1) := dk_172 (dk_at dksJ3_hashCode_0 7 rfl rfl)
abbrev cJ3_hashCode_2 : ByteArray := prog_19_method_33_code
def yJ3_hashCode_2 : MethodName := ⟨RJ3, "hashCode", "(I)I"⟩
theorem dJ3_hashCode_2_0 : decode cJ3_hashCode_2 0 = .ok (.iload_n 0, 1) := by decide +kernel
theorem dJ3_hashCode_2_1 : decode cJ3_hashCode_2 1 = .ok (.ireturn, 1) := by decide +kernel
abbrev cJ3_equals : ByteArray := prog_19_method_34_code
def yJ3_equals : MethodName := ⟨RJ3, "equals", "(Ljava/lang/Object;)Z"⟩
def dkwJ3_equals_1 : List UInt8 := [167, 0, 4, 3, 172, 3, 172]
abbrev dktJ3_equals_1 : List UInt8 := dkwJ3_equals_1 ++ []
def dkwJ3_equals_0 : List UInt8 := [43, 193, 0, 1, 153, 0, 23, 42, 180, 0, 205, 43, 192, 0, 1, 182, 0, 211, 160, 0, 7, 4]
abbrev dktJ3_equals_0 : List UInt8 := dkwJ3_equals_0 ++ dktJ3_equals_1
theorem dksJ3_equals_0 : cJ3_equals.data.toList.drop 0 = dktJ3_equals_0 := by decide +kernel
theorem dksJ3_equals_1 : cJ3_equals.data.toList.drop 22 = dktJ3_equals_1 := dk_seg dksJ3_equals_0 22 rfl rfl
theorem dJ3_equals_0 : decode cJ3_equals 0 = .ok (.aload_n 1, 1) := dk_43 (dk_at dksJ3_equals_0 0 rfl rfl)
theorem dJ3_equals_1 : decode cJ3_equals 1 = .ok (.instanceof 1, 3) := dk_193 0 1 (dk_at dksJ3_equals_0 1 rfl rfl)
theorem dJ3_equals_4 : decode cJ3_equals 4 = .ok (.ifCond .eq 23, 3) := dk_153 0 23 (dk_at dksJ3_equals_0 4 rfl rfl)
theorem dJ3_equals_7 : decode cJ3_equals 7 = .ok (.aload_n 0, 1) := dk_42 (dk_at dksJ3_equals_0 7 rfl rfl)
theorem dJ3_equals_8 : decode cJ3_equals 8 = .ok (.getfield 205, 3) := dk_180 0 205 (dk_at dksJ3_equals_0 8 rfl rfl)
theorem dJ3_equals_11 : decode cJ3_equals 11 = .ok (.aload_n 1, 1) := dk_43 (dk_at dksJ3_equals_0 11 rfl rfl)
theorem dJ3_equals_12 : decode cJ3_equals 12 = .ok (.checkcast 1, 3) := dk_192 0 1 (dk_at dksJ3_equals_0 12 rfl rfl)
theorem dJ3_equals_15 : decode cJ3_equals 15 = .ok (.invokevirtual 211, 3) := dk_182 0 211 (dk_at dksJ3_equals_0 15 rfl rfl)
theorem dJ3_equals_18 : decode cJ3_equals 18 = .ok (.if_icmp .ne 7, 3) := dk_160 0 7 (dk_at dksJ3_equals_0 18 rfl rfl)
theorem dJ3_equals_21 : decode cJ3_equals 21 = .ok (.iconst 1, 1) := dk_4 (dk_at dksJ3_equals_0 21 rfl rfl)
theorem dJ3_equals_22 : decode cJ3_equals 22 = .ok (.goto 4, 3) := dk_167 0 4 (dk_at dksJ3_equals_1 0 rfl rfl)
theorem dJ3_equals_25 : decode cJ3_equals 25 = .ok (.iconst 0, 1) := dk_3 (dk_at dksJ3_equals_1 3 rfl rfl)
theorem dJ3_equals_26 : decode cJ3_equals 26 = .ok (.ireturn, 1) := dk_172 (dk_at dksJ3_equals_1 4 rfl rfl)
theorem dJ3_equals_27 : decode cJ3_equals 27 = .ok (.iconst 0, 1) := dk_3 (dk_at dksJ3_equals_1 5 rfl rfl)
theorem dJ3_equals_28 : decode cJ3_equals 28 = .ok (.ireturn, 1) := dk_172 (dk_at dksJ3_equals_1 6 rfl rfl)
abbrev cJ3_intValue : ByteArray := prog_19_method_27_code
def yJ3_intValue : MethodName := ⟨RJ3, "intValue", "()I"⟩
theorem dJ3_intValue_0 : decode cJ3_intValue 0 = .ok (.aload_n 0, 1) := by decide +kernel
theorem dJ3_intValue_1 : decode cJ3_intValue 1 = .ok (.getfield 205, 3) := by decide +kernel
theorem dJ3_intValue_4 : decode cJ3_intValue 4 = .ok (.ireturn, 1) := by decide +kernel
abbrev cJ3_compareTo : ByteArray := prog_19_method_63_code
def yJ3_compareTo : MethodName := ⟨RJ3, "compareTo", "(Ljava/lang/Object;)I"⟩
def dkwJ3_compareTo_0 : List UInt8 := [42, 43, 192, 0, 1, 182, 1, 28, 172]
abbrev dktJ3_compareTo_0 : List UInt8 := dkwJ3_compareTo_0 ++ []
theorem dksJ3_compareTo_0 : cJ3_compareTo.data.toList.drop 0 = dktJ3_compareTo_0 := by decide +kernel
theorem dJ3_compareTo_0 : decode cJ3_compareTo 0 = .ok (.aload_n 0, 1) := dk_42 (dk_at dksJ3_compareTo_0 0 rfl rfl)
theorem dJ3_compareTo_1 : decode cJ3_compareTo 1 = .ok (.aload_n 1, 1) := dk_43 (dk_at dksJ3_compareTo_0 1 rfl rfl)
theorem dJ3_compareTo_2 : decode cJ3_compareTo 2 = .ok (.checkcast 1, 3) := dk_192 0 1 (dk_at dksJ3_compareTo_0 2 rfl rfl)
theorem dJ3_compareTo_5 : decode cJ3_compareTo 5 = .ok (.invokevirtual 284, 3) := dk_182 1 28 (dk_at dksJ3_compareTo_0 5 rfl rfl)
theorem dJ3_compareTo_8 : decode cJ3_compareTo 8 = .ok (.ireturn, 1) := dk_172 (dk_at dksJ3_compareTo_0 8 rfl rfl)
abbrev cJ3_compareTo_2 : ByteArray := prog_19_method_39_code
def yJ3_compareTo_2 : MethodName := ⟨RJ3, "compareTo", "(Ljava/lang/Integer;)I"⟩
def dkwJ3_compareTo_2_0 : List UInt8 := [42, 180, 0, 205, 43, 180, 0, 205, 184, 1, 3, 172]
abbrev dktJ3_compareTo_2_0 : List UInt8 := dkwJ3_compareTo_2_0 ++ []
theorem dksJ3_compareTo_2_0 : cJ3_compareTo_2.data.toList.drop 0 = dktJ3_compareTo_2_0 := by decide +kernel
theorem dJ3_compareTo_2_0 : decode cJ3_compareTo_2 0 = .ok (.aload_n 0, 1) := dk_42 (dk_at dksJ3_compareTo_2_0 0 rfl rfl)
theorem dJ3_compareTo_2_1 : decode cJ3_compareTo_2 1 = .ok (.getfield 205, 3) := dk_180 0 205 (dk_at dksJ3_compareTo_2_0 1 rfl rfl)
theorem dJ3_compareTo_2_4 : decode cJ3_compareTo_2 4 = .ok (.aload_n 1, 1) := dk_43 (dk_at dksJ3_compareTo_2_0 4 rfl rfl)
theorem dJ3_compareTo_2_5 : decode cJ3_compareTo_2 5 = .ok (.getfield 205, 3) := dk_180 0 205 (dk_at dksJ3_compareTo_2_0 5 rfl rfl)
theorem dJ3_compareTo_2_8 : decode cJ3_compareTo_2 8 = .ok (.invokestatic 259, 3) := dk_184 1 3 (dk_at dksJ3_compareTo_2_0 8 rfl rfl)
theorem dJ3_compareTo_2_11 : decode cJ3_compareTo_2 11 = .ok (.ireturn, 1) := dk_172 (dk_at dksJ3_compareTo_2_0 11 rfl rfl)
abbrev cJ3_compare : ByteArray := prog_19_method_40_code
def yJ3_compare : MethodName := ⟨RJ3, "compare", "(II)I"⟩
def dkwJ3_compare_0 : List UInt8 := [26, 27, 162, 0, 7, 2, 167, 0, 13, 26, 27, 160, 0, 7, 3, 167, 0, 4, 4, 172]
abbrev dktJ3_compare_0 : List UInt8 := dkwJ3_compare_0 ++ []
theorem dksJ3_compare_0 : cJ3_compare.data.toList.drop 0 = dktJ3_compare_0 := by decide +kernel
theorem dJ3_compare_0 : decode cJ3_compare 0 = .ok (.iload_n 0, 1) := dk_26 (dk_at dksJ3_compare_0 0 rfl rfl)
theorem dJ3_compare_1 : decode cJ3_compare 1 = .ok (.iload_n 1, 1) := dk_27 (dk_at dksJ3_compare_0 1 rfl rfl)
theorem dJ3_compare_2 : decode cJ3_compare 2 = .ok (.if_icmp .ge 7, 3) := dk_162 0 7 (dk_at dksJ3_compare_0 2 rfl rfl)
theorem dJ3_compare_5 : decode cJ3_compare 5 = .ok (.iconst (-1), 1) := dk_2 (dk_at dksJ3_compare_0 5 rfl rfl)
theorem dJ3_compare_6 : decode cJ3_compare 6 = .ok (.goto 13, 3) := dk_167 0 13 (dk_at dksJ3_compare_0 6 rfl rfl)
theorem dJ3_compare_9 : decode cJ3_compare 9 = .ok (.iload_n 0, 1) := dk_26 (dk_at dksJ3_compare_0 9 rfl rfl)
theorem dJ3_compare_10 : decode cJ3_compare 10 = .ok (.iload_n 1, 1) := dk_27 (dk_at dksJ3_compare_0 10 rfl rfl)
theorem dJ3_compare_11 : decode cJ3_compare 11 = .ok (.if_icmp .ne 7, 3) := dk_160 0 7 (dk_at dksJ3_compare_0 11 rfl rfl)
theorem dJ3_compare_14 : decode cJ3_compare 14 = .ok (.iconst 0, 1) := dk_3 (dk_at dksJ3_compare_0 14 rfl rfl)
theorem dJ3_compare_15 : decode cJ3_compare 15 = .ok (.goto 4, 3) := dk_167 0 4 (dk_at dksJ3_compare_0 15 rfl rfl)
theorem dJ3_compare_18 : decode cJ3_compare 18 = .ok (.iconst 1, 1) := dk_4 (dk_at dksJ3_compare_0 18 rfl rfl)
theorem dJ3_compare_19 : decode cJ3_compare 19 = .ok (.ireturn, 1) := dk_172 (dk_at dksJ3_compare_0 19 rfl rfl)
abbrev cJ3_bitCount : ByteArray := prog_19_method_49_code
def yJ3_bitCount : MethodName := ⟨RJ3, "bitCount", "(I)I"⟩
def dkwJ3_bitCount_2 : List UInt8 := [26, 16, 63, 126, 172]
abbrev dktJ3_bitCount_2 : List UInt8 := dkwJ3_bitCount_2 ++ []
def dkwJ3_bitCount_1 : List UInt8 := [26, 26, 7, 124, 96, 19, 1, 11, 126, 59, 26, 26, 16, 8, 124, 96, 59, 26, 26, 16, 16, 124, 96, 59]
abbrev dktJ3_bitCount_1 : List UInt8 := dkwJ3_bitCount_1 ++ dktJ3_bitCount_2
def dkwJ3_bitCount_0 : List UInt8 := [26, 26, 4, 124, 19, 1, 9, 126, 100, 59, 26, 19, 1, 10, 126, 26, 5, 124, 19, 1, 10, 126, 96, 59]
abbrev dktJ3_bitCount_0 : List UInt8 := dkwJ3_bitCount_0 ++ dktJ3_bitCount_1
theorem dksJ3_bitCount_0 : cJ3_bitCount.data.toList.drop 0 = dktJ3_bitCount_0 := by decide +kernel
theorem dksJ3_bitCount_1 : cJ3_bitCount.data.toList.drop 24 = dktJ3_bitCount_1 := dk_seg dksJ3_bitCount_0 24 rfl rfl
theorem dksJ3_bitCount_2 : cJ3_bitCount.data.toList.drop 48 = dktJ3_bitCount_2 := dk_seg dksJ3_bitCount_1 24 rfl rfl
theorem dJ3_bitCount_0 : decode cJ3_bitCount 0 = .ok (.iload_n 0, 1) := dk_26 (dk_at dksJ3_bitCount_0 0 rfl rfl)
theorem dJ3_bitCount_1 : decode cJ3_bitCount 1 = .ok (.iload_n 0, 1) := dk_26 (dk_at dksJ3_bitCount_0 1 rfl rfl)
theorem dJ3_bitCount_2 : decode cJ3_bitCount 2 = .ok (.iconst 1, 1) := dk_4 (dk_at dksJ3_bitCount_0 2 rfl rfl)
theorem dJ3_bitCount_3 : decode cJ3_bitCount 3 = .ok (.iushr, 1) := dk_124 (dk_at dksJ3_bitCount_0 3 rfl rfl)
theorem dJ3_bitCount_4 : decode cJ3_bitCount 4 = .ok (.ldc_w 265, 3) := dk_19 1 9 (dk_at dksJ3_bitCount_0 4 rfl rfl)
theorem dJ3_bitCount_7 : decode cJ3_bitCount 7 = .ok (.iand, 1) := dk_126 (dk_at dksJ3_bitCount_0 7 rfl rfl)
theorem dJ3_bitCount_8 : decode cJ3_bitCount 8 = .ok (.isub, 1) := dk_100 (dk_at dksJ3_bitCount_0 8 rfl rfl)
theorem dJ3_bitCount_9 : decode cJ3_bitCount 9 = .ok (.istore_n 0, 1) := dk_59 (dk_at dksJ3_bitCount_0 9 rfl rfl)
theorem dJ3_bitCount_10 : decode cJ3_bitCount 10 = .ok (.iload_n 0, 1) := dk_26 (dk_at dksJ3_bitCount_0 10 rfl rfl)
theorem dJ3_bitCount_11 : decode cJ3_bitCount 11 = .ok (.ldc_w 266, 3) := dk_19 1 10 (dk_at dksJ3_bitCount_0 11 rfl rfl)
theorem dJ3_bitCount_14 : decode cJ3_bitCount 14 = .ok (.iand, 1) := dk_126 (dk_at dksJ3_bitCount_0 14 rfl rfl)
theorem dJ3_bitCount_15 : decode cJ3_bitCount 15 = .ok (.iload_n 0, 1) := dk_26 (dk_at dksJ3_bitCount_0 15 rfl rfl)
theorem dJ3_bitCount_16 : decode cJ3_bitCount 16 = .ok (.iconst 2, 1) := dk_5 (dk_at dksJ3_bitCount_0 16 rfl rfl)
theorem dJ3_bitCount_17 : decode cJ3_bitCount 17 = .ok (.iushr, 1) := dk_124 (dk_at dksJ3_bitCount_0 17 rfl rfl)
theorem dJ3_bitCount_18 : decode cJ3_bitCount 18 = .ok (.ldc_w 266, 3) := dk_19 1 10 (dk_at dksJ3_bitCount_0 18 rfl rfl)
theorem dJ3_bitCount_21 : decode cJ3_bitCount 21 = .ok (.iand, 1) := dk_126 (dk_at dksJ3_bitCount_0 21 rfl rfl)
theorem dJ3_bitCount_22 : decode cJ3_bitCount 22 = .ok (.iadd, 1) := dk_96 (dk_at dksJ3_bitCount_0 22 rfl rfl)
theorem dJ3_bitCount_23 : decode cJ3_bitCount 23 = .ok (.istore_n 0, 1) := dk_59 (dk_at dksJ3_bitCount_0 23 rfl rfl)
theorem dJ3_bitCount_24 : decode cJ3_bitCount 24 = .ok (.iload_n 0, 1) := dk_26 (dk_at dksJ3_bitCount_1 0 rfl rfl)
theorem dJ3_bitCount_25 : decode cJ3_bitCount 25 = .ok (.iload_n 0, 1) := dk_26 (dk_at dksJ3_bitCount_1 1 rfl rfl)
theorem dJ3_bitCount_26 : decode cJ3_bitCount 26 = .ok (.iconst 4, 1) := dk_7 (dk_at dksJ3_bitCount_1 2 rfl rfl)
theorem dJ3_bitCount_27 : decode cJ3_bitCount 27 = .ok (.iushr, 1) := dk_124 (dk_at dksJ3_bitCount_1 3 rfl rfl)
theorem dJ3_bitCount_28 : decode cJ3_bitCount 28 = .ok (.iadd, 1) := dk_96 (dk_at dksJ3_bitCount_1 4 rfl rfl)
theorem dJ3_bitCount_29 : decode cJ3_bitCount 29 = .ok (.ldc_w 267, 3) := dk_19 1 11 (dk_at dksJ3_bitCount_1 5 rfl rfl)
theorem dJ3_bitCount_32 : decode cJ3_bitCount 32 = .ok (.iand, 1) := dk_126 (dk_at dksJ3_bitCount_1 8 rfl rfl)
theorem dJ3_bitCount_33 : decode cJ3_bitCount 33 = .ok (.istore_n 0, 1) := dk_59 (dk_at dksJ3_bitCount_1 9 rfl rfl)
theorem dJ3_bitCount_34 : decode cJ3_bitCount 34 = .ok (.iload_n 0, 1) := dk_26 (dk_at dksJ3_bitCount_1 10 rfl rfl)
theorem dJ3_bitCount_35 : decode cJ3_bitCount 35 = .ok (.iload_n 0, 1) := dk_26 (dk_at dksJ3_bitCount_1 11 rfl rfl)
theorem dJ3_bitCount_36 : decode cJ3_bitCount 36 = .ok (.bipush 8, 2) := dk_16 8 (dk_at dksJ3_bitCount_1 12 rfl rfl)
theorem dJ3_bitCount_38 : decode cJ3_bitCount 38 = .ok (.iushr, 1) := dk_124 (dk_at dksJ3_bitCount_1 14 rfl rfl)
theorem dJ3_bitCount_39 : decode cJ3_bitCount 39 = .ok (.iadd, 1) := dk_96 (dk_at dksJ3_bitCount_1 15 rfl rfl)
theorem dJ3_bitCount_40 : decode cJ3_bitCount 40 = .ok (.istore_n 0, 1) := dk_59 (dk_at dksJ3_bitCount_1 16 rfl rfl)
theorem dJ3_bitCount_41 : decode cJ3_bitCount 41 = .ok (.iload_n 0, 1) := dk_26 (dk_at dksJ3_bitCount_1 17 rfl rfl)
theorem dJ3_bitCount_42 : decode cJ3_bitCount 42 = .ok (.iload_n 0, 1) := dk_26 (dk_at dksJ3_bitCount_1 18 rfl rfl)
theorem dJ3_bitCount_43 : decode cJ3_bitCount 43 = .ok (.bipush 16, 2) := dk_16 16 (dk_at dksJ3_bitCount_1 19 rfl rfl)
theorem dJ3_bitCount_45 : decode cJ3_bitCount 45 = .ok (.iushr, 1) := dk_124 (dk_at dksJ3_bitCount_1 21 rfl rfl)
theorem dJ3_bitCount_46 : decode cJ3_bitCount 46 = .ok (.iadd, 1) := dk_96 (dk_at dksJ3_bitCount_1 22 rfl rfl)
theorem dJ3_bitCount_47 : decode cJ3_bitCount 47 = .ok (.istore_n 0, 1) := dk_59 (dk_at dksJ3_bitCount_1 23 rfl rfl)
theorem dJ3_bitCount_48 : decode cJ3_bitCount 48 = .ok (.iload_n 0, 1) := dk_26 (dk_at dksJ3_bitCount_2 0 rfl rfl)
theorem dJ3_bitCount_49 : decode cJ3_bitCount 49 = .ok (.bipush 63, 2) := dk_16 63 (dk_at dksJ3_bitCount_2 1 rfl rfl)
theorem dJ3_bitCount_51 : decode cJ3_bitCount 51 = .ok (.iand, 1) := dk_126 (dk_at dksJ3_bitCount_2 3 rfl rfl)
theorem dJ3_bitCount_52 : decode cJ3_bitCount 52 = .ok (.ireturn, 1) := dk_172 (dk_at dksJ3_bitCount_2 4 rfl rfl)
theorem q127 : (Jvm.Cond.initialized "java/lang/Integer") ∈ lw_all := lw_g (lw_at lw_m1 13 rfl) rfl
theorem q520 : (Jvm.Cond.static ({ cls := "java/lang/Integer", name := "valueOf", desc := "(I)Ljava/lang/Integer;" } : Jvm.MethodName)) ∈ lw_all := lw_g (lw_at lw_m2 166 rfl) rfl
theorem q521 : (Jvm.Cond.code ({ cls := "java/lang/Integer", name := "valueOf", desc := "(I)Ljava/lang/Integer;" } : Jvm.MethodName) prog_19_method_22_code (1 : Nat) (Option.some (Jvm.ClassFile.FieldType.object "java/lang/Integer"))) ∈ lw_all := lw_g (lw_at lw_m2 167 rfl) rfl
theorem q522 : (Jvm.Cond.fieldLink "java/lang/Integer" (191 : Nat) "java/lang/Integer$IntegerCache" "high" "I") ∈ lw_all := lw_g (lw_at lw_m2 168 rfl) rfl
theorem q524 : (Jvm.Cond.fieldLink "java/lang/Integer" (195 : Nat) "java/lang/Integer$IntegerCache" "cache" "[Ljava/lang/Integer;") ∈ lw_all := lw_g (lw_at lw_m2 170 rfl) rfl
theorem q526 : (Jvm.Cond.classLink "java/lang/Integer" (1 : Nat) "java/lang/Integer") ∈ lw_all := lw_g (lw_at lw_m2 172 rfl) rfl
theorem q527 : (Jvm.Cond.instantiable "java/lang/Integer" (1 : Nat)) ∈ lw_all := lw_g (lw_at lw_m2 173 rfl) rfl
theorem q528 : (Jvm.Cond.methodLink "java/lang/Integer" (199 : Nat) ({ cls := "java/lang/Integer", name := "<init>", desc := "(I)V" } : Jvm.MethodName)) ∈ lw_all := lw_g (lw_at lw_m2 174 rfl) rfl
theorem q529 : (Jvm.Cond.instanceMethod ({ cls := "java/lang/Integer", name := "<init>", desc := "(I)V" } : Jvm.MethodName)) ∈ lw_all := lw_g (lw_at lw_m2 175 rfl) rfl
theorem q530 : (Jvm.Cond.code ({ cls := "java/lang/Integer", name := "<init>", desc := "(I)V" } : Jvm.MethodName) prog_19_method_23_code (2 : Nat) (Option.none : Option Jvm.ClassFile.FieldType)) ∈ lw_all := lw_g (lw_at lw_m2 176 rfl) rfl
theorem q531 : (Jvm.Cond.methodLink "java/lang/Integer" (202 : Nat) ({ cls := "java/lang/Number", name := "<init>", desc := "()V" } : Jvm.MethodName)) ∈ lw_all := lw_g (lw_at lw_m2 177 rfl) rfl
theorem q535 : (Jvm.Cond.fieldLink "java/lang/Integer" (205 : Nat) "java/lang/Integer" "value" "I") ∈ lw_all := lw_g (lw_at lw_m2 181 rfl) rfl
theorem q536 : (Jvm.Cond.laysFinal "java/lang/Integer" "java/lang/Integer" "value" "I") ∈ lw_all := lw_g (lw_at lw_m2 182 rfl) rfl
theorem q537 : (Jvm.Cond.soleField "java/lang/Integer" "value") ∈ lw_all := lw_g (lw_at lw_m2 183 rfl) rfl
theorem q538 : (Jvm.Cond.superclass "java/lang/Integer" "java/lang/Number") ∈ lw_all := lw_g (lw_at lw_m2 184 rfl) rfl
theorem q574 : (Jvm.Cond.selects "java/lang/Integer" ({ cls := "java/lang/Object", name := "hashCode", desc := "()I" } : Jvm.MethodName) ({ cls := "java/lang/Integer", name := "hashCode", desc := "()I" } : Jvm.MethodName)) ∈ lw_all := lw_g (lw_at lw_m2 220 rfl) rfl
theorem q575 : (Jvm.Cond.instanceMethod ({ cls := "java/lang/Integer", name := "hashCode", desc := "()I" } : Jvm.MethodName)) ∈ lw_all := lw_g (lw_at lw_m2 221 rfl) rfl
theorem q576 : (Jvm.Cond.code ({ cls := "java/lang/Integer", name := "hashCode", desc := "()I" } : Jvm.MethodName) prog_19_method_32_code (1 : Nat) (Option.some Jvm.ClassFile.FieldType.int)) ∈ lw_all := lw_g (lw_at lw_m2 222 rfl) rfl
theorem q577 : (Jvm.Cond.methodLink "java/lang/Integer" (208 : Nat) ({ cls := "java/lang/Integer", name := "hashCode", desc := "(I)I" } : Jvm.MethodName)) ∈ lw_all := lw_g (lw_at lw_m2 223 rfl) rfl
theorem q578 : (Jvm.Cond.static ({ cls := "java/lang/Integer", name := "hashCode", desc := "(I)I" } : Jvm.MethodName)) ∈ lw_all := lw_g (lw_at lw_m2 224 rfl) rfl
theorem q579 : (Jvm.Cond.code ({ cls := "java/lang/Integer", name := "hashCode", desc := "(I)I" } : Jvm.MethodName) prog_19_method_33_code (1 : Nat) (Option.some Jvm.ClassFile.FieldType.int)) ∈ lw_all := lw_g (lw_at lw_m2 225 rfl) rfl
theorem q606 : (Jvm.Cond.selects "java/lang/Integer" ({ cls := "java/lang/Object", name := "equals", desc := "(Ljava/lang/Object;)Z" } : Jvm.MethodName) ({ cls := "java/lang/Integer", name := "equals", desc := "(Ljava/lang/Object;)Z" } : Jvm.MethodName)) ∈ lw_all := lw_g (lw_at lw_m3 12 rfl) rfl
theorem q607 : (Jvm.Cond.instanceMethod ({ cls := "java/lang/Integer", name := "equals", desc := "(Ljava/lang/Object;)Z" } : Jvm.MethodName)) ∈ lw_all := lw_g (lw_at lw_m3 13 rfl) rfl
theorem q608 : (Jvm.Cond.code ({ cls := "java/lang/Integer", name := "equals", desc := "(Ljava/lang/Object;)Z" } : Jvm.MethodName) prog_19_method_34_code (2 : Nat) (Option.some Jvm.ClassFile.FieldType.boolean)) ∈ lw_all := lw_g (lw_at lw_m3 14 rfl) rfl
theorem q609 : (Jvm.Cond.methodLink "java/lang/Integer" (211 : Nat) ({ cls := "java/lang/Integer", name := "intValue", desc := "()I" } : Jvm.MethodName)) ∈ lw_all := lw_g (lw_at lw_m3 15 rfl) rfl
theorem q610 : (Jvm.Cond.instanceMethod ({ cls := "java/lang/Integer", name := "intValue", desc := "()I" } : Jvm.MethodName)) ∈ lw_all := lw_g (lw_at lw_m3 16 rfl) rfl
theorem q611 : (Jvm.Cond.selects "java/lang/Integer" ({ cls := "java/lang/Integer", name := "intValue", desc := "()I" } : Jvm.MethodName) ({ cls := "java/lang/Integer", name := "intValue", desc := "()I" } : Jvm.MethodName)) ∈ lw_all := lw_g (lw_at lw_m3 17 rfl) rfl
theorem q612 : (Jvm.Cond.code ({ cls := "java/lang/Integer", name := "intValue", desc := "()I" } : Jvm.MethodName) prog_19_method_27_code (1 : Nat) (Option.some Jvm.ClassFile.FieldType.int)) ∈ lw_all := lw_g (lw_at lw_m3 18 rfl) rfl
theorem q647 : (Jvm.Cond.selects "java/lang/Integer" ({ cls := "java/lang/Object", name := "getClass", desc := "()Ljava/lang/Class;" } : Jvm.MethodName) ({ cls := "java/lang/Object", name := "getClass", desc := "()Ljava/lang/Class;" } : Jvm.MethodName)) ∈ lw_all := lw_g (lw_at lw_m3 53 rfl) rfl
theorem q661 : (Jvm.Cond.castable "java/lang/Integer" "java/lang/Comparable") ∈ lw_tbl := lw_at lw_m3 67 rfl
theorem q662 : (Jvm.Cond.selects "java/lang/Integer" ({ cls := "java/lang/Comparable", name := "compareTo", desc := "(Ljava/lang/Object;)I" } : Jvm.MethodName) ({ cls := "java/lang/Integer", name := "compareTo", desc := "(Ljava/lang/Object;)I" } : Jvm.MethodName)) ∈ lw_all := lw_g (lw_at lw_m3 68 rfl) rfl
theorem q663 : (Jvm.Cond.unhidden "java/lang/Integer" "compareTo" "(Ljava/lang/Object;)I") ∈ lw_tbl := lw_at lw_m3 69 rfl
theorem q664 : (Jvm.Cond.instanceMethod ({ cls := "java/lang/Integer", name := "compareTo", desc := "(Ljava/lang/Object;)I" } : Jvm.MethodName)) ∈ lw_all := lw_g (lw_at lw_m3 70 rfl) rfl
theorem q665 : (Jvm.Cond.publicMethod ({ cls := "java/lang/Integer", name := "compareTo", desc := "(Ljava/lang/Object;)I" } : Jvm.MethodName)) ∈ lw_tbl := lw_at lw_m3 71 rfl
theorem q666 : (Jvm.Cond.code ({ cls := "java/lang/Integer", name := "compareTo", desc := "(Ljava/lang/Object;)I" } : Jvm.MethodName) prog_19_method_63_code (2 : Nat) (Option.some Jvm.ClassFile.FieldType.int)) ∈ lw_all := lw_g (lw_at lw_m3 72 rfl) rfl
theorem q667 : (Jvm.Cond.methodLink "java/lang/Integer" (284 : Nat) ({ cls := "java/lang/Integer", name := "compareTo", desc := "(Ljava/lang/Integer;)I" } : Jvm.MethodName)) ∈ lw_all := lw_g (lw_at lw_m3 73 rfl) rfl
theorem q668 : (Jvm.Cond.instanceMethod ({ cls := "java/lang/Integer", name := "compareTo", desc := "(Ljava/lang/Integer;)I" } : Jvm.MethodName)) ∈ lw_all := lw_g (lw_at lw_m3 74 rfl) rfl
theorem q669 : (Jvm.Cond.selects "java/lang/Integer" ({ cls := "java/lang/Integer", name := "compareTo", desc := "(Ljava/lang/Integer;)I" } : Jvm.MethodName) ({ cls := "java/lang/Integer", name := "compareTo", desc := "(Ljava/lang/Integer;)I" } : Jvm.MethodName)) ∈ lw_all := lw_g (lw_at lw_m3 75 rfl) rfl
theorem q670 : (Jvm.Cond.code ({ cls := "java/lang/Integer", name := "compareTo", desc := "(Ljava/lang/Integer;)I" } : Jvm.MethodName) prog_19_method_39_code (2 : Nat) (Option.some Jvm.ClassFile.FieldType.int)) ∈ lw_all := lw_g (lw_at lw_m3 76 rfl) rfl
theorem q671 : (Jvm.Cond.methodLink "java/lang/Integer" (259 : Nat) ({ cls := "java/lang/Integer", name := "compare", desc := "(II)I" } : Jvm.MethodName)) ∈ lw_all := lw_g (lw_at lw_m3 77 rfl) rfl
theorem q672 : (Jvm.Cond.static ({ cls := "java/lang/Integer", name := "compare", desc := "(II)I" } : Jvm.MethodName)) ∈ lw_all := lw_g (lw_at lw_m3 78 rfl) rfl
theorem q673 : (Jvm.Cond.code ({ cls := "java/lang/Integer", name := "compare", desc := "(II)I" } : Jvm.MethodName) prog_19_method_40_code (2 : Nat) (Option.some Jvm.ClassFile.FieldType.int)) ∈ lw_all := lw_g (lw_at lw_m3 79 rfl) rfl
theorem q1051 : (Jvm.Cond.static ({ cls := "java/lang/Integer", name := "bitCount", desc := "(I)I" } : Jvm.MethodName)) ∈ lw_all := lw_g (lw_at lw_m4 217 rfl) rfl
theorem q1052 : (Jvm.Cond.code ({ cls := "java/lang/Integer", name := "bitCount", desc := "(I)I" } : Jvm.MethodName) prog_19_method_49_code (1 : Nat) (Option.some Jvm.ClassFile.FieldType.int)) ∈ lw_all := lw_g (lw_at lw_m4 218 rfl) rfl
theorem q1053 : (Jvm.Cond.constant "java/lang/Integer" (265 : Nat) (1431655765 : Int32)) ∈ lw_all := lw_g (lw_at lw_m4 219 rfl) rfl
theorem q1054 : (Jvm.Cond.constant "java/lang/Integer" (266 : Nat) (858993459 : Int32)) ∈ lw_all := lw_g (lw_at lw_m4 220 rfl) rfl
theorem q1055 : (Jvm.Cond.constant "java/lang/Integer" (267 : Nat) (252645135 : Int32)) ∈ lw_all := lw_g (lw_at lw_m4 221 rfl) rfl
theorem q2003 : (Jvm.Cond.castable "java/lang/Integer" "java/lang/Object") ∈ lw_tbl := lw_at lw_m8 209 rfl
theorem in_J3 : ∀ w ∈ wsJ30, w ∈ lw_all := lw_in wsJ30 [536] (by decide +kernel) (by decide +kernel)

/-! java/util/HashMap$Node -/
set_option maxRecDepth 100000
def RJ4 : String := "java/util/HashMap$Node"
def TJ4 : u_T := fun k => match k with
  | 0 => ("java/util/HashMap$Node", "hash", "I", true)
  | 1 => ("java/util/HashMap$Node", "key", "Ljava/lang/Object;", true)
  | 2 => ("java/util/HashMap$Node", "value", "Ljava/lang/Object;", false)
  | _ => ("java/util/HashMap$Node", "next", "Ljava/util/HashMap$Node;", false)
def tyJ4 : Nat → FieldType := fun k => match k with
  | 0 => .int
  | 1 => .object "java/lang/Object"
  | 2 => .object "java/lang/Object"
  | _ => .object "java/util/HashMap$Node"
abbrev wsJ40 : List Cond := u_ws RJ4 TJ4 4
theorem nmJ4 : ∀ a, a < 4 → ∀ b, b < 4 → a ≠ b → (TJ4 a).2.1 ≠ (TJ4 b).2.1 := by decide +kernel
theorem tyJ4_ok : ∀ k, k < 4 → parseFieldDescriptor (TJ4 k).2.2.1 = some (tyJ4 k) := by decide +kernel
abbrev cJ4_init : ByteArray := prog_35_method_1_code
def yJ4_init : MethodName := ⟨RJ4, "<init>", "(ILjava/lang/Object;Ljava/lang/Object;Ljava/util/HashMap$Node;)V"⟩
def dkwJ4_init_1 : List UInt8 := [181, 0, 20, 177]
abbrev dktJ4_init_1 : List UInt8 := dkwJ4_init_1 ++ []
def dkwJ4_init_0 : List UInt8 := [42, 183, 0, 1, 42, 27, 181, 0, 7, 42, 44, 181, 0, 13, 42, 45, 181, 0, 17, 42, 25, 4]
abbrev dktJ4_init_0 : List UInt8 := dkwJ4_init_0 ++ dktJ4_init_1
theorem dksJ4_init_0 : cJ4_init.data.toList.drop 0 = dktJ4_init_0 := by decide +kernel
theorem dksJ4_init_1 : cJ4_init.data.toList.drop 22 = dktJ4_init_1 := dk_seg dksJ4_init_0 22 rfl rfl
theorem dJ4_init_0 : decode cJ4_init 0 = .ok (.aload_n 0, 1) := dk_42 (dk_at dksJ4_init_0 0 rfl rfl)
theorem dJ4_init_1 : decode cJ4_init 1 = .ok (.invokespecial 1, 3) := dk_183 0 1 (dk_at dksJ4_init_0 1 rfl rfl)
theorem dJ4_init_4 : decode cJ4_init 4 = .ok (.aload_n 0, 1) := dk_42 (dk_at dksJ4_init_0 4 rfl rfl)
theorem dJ4_init_5 : decode cJ4_init 5 = .ok (.iload_n 1, 1) := dk_27 (dk_at dksJ4_init_0 5 rfl rfl)
theorem dJ4_init_6 : decode cJ4_init 6 = .ok (.putfield 7, 3) := dk_181 0 7 (dk_at dksJ4_init_0 6 rfl rfl)
theorem dJ4_init_9 : decode cJ4_init 9 = .ok (.aload_n 0, 1) := dk_42 (dk_at dksJ4_init_0 9 rfl rfl)
theorem dJ4_init_10 : decode cJ4_init 10 = .ok (.aload_n 2, 1) := dk_44 (dk_at dksJ4_init_0 10 rfl rfl)
theorem dJ4_init_11 : decode cJ4_init 11 = .ok (.putfield 13, 3) := dk_181 0 13 (dk_at dksJ4_init_0 11 rfl rfl)
theorem dJ4_init_14 : decode cJ4_init 14 = .ok (.aload_n 0, 1) := dk_42 (dk_at dksJ4_init_0 14 rfl rfl)
theorem dJ4_init_15 : decode cJ4_init 15 = .ok (.aload_n 3, 1) := dk_45 (dk_at dksJ4_init_0 15 rfl rfl)
theorem dJ4_init_16 : decode cJ4_init 16 = .ok (.putfield 17, 3) := dk_181 0 17 (dk_at dksJ4_init_0 16 rfl rfl)
theorem dJ4_init_19 : decode cJ4_init 19 = .ok (.aload_n 0, 1) := dk_42 (dk_at dksJ4_init_0 19 rfl rfl)
theorem dJ4_init_20 : decode cJ4_init 20 = .ok (.aload 4, 2) := dk_25 4 (dk_at dksJ4_init_0 20 rfl rfl)
theorem dJ4_init_22 : decode cJ4_init 22 = .ok (.putfield 20, 3) := dk_181 0 20 (dk_at dksJ4_init_1 0 rfl rfl)
theorem dJ4_init_25 : decode cJ4_init 25 = .ok (.return_, 1) := dk_177 (dk_at dksJ4_init_1 3 rfl rfl)
theorem q129 : (Jvm.Cond.initialized "java/util/HashMap$Node") ∈ lw_all := lw_g (lw_at lw_m1 15 rfl) rfl
theorem q649 : (Jvm.Cond.selects "java/util/HashMap$Node" ({ cls := "java/lang/Object", name := "getClass", desc := "()Ljava/lang/Class;" } : Jvm.MethodName) ({ cls := "java/lang/Object", name := "getClass", desc := "()Ljava/lang/Class;" } : Jvm.MethodName)) ∈ lw_all := lw_g (lw_at lw_m3 55 rfl) rfl
theorem q710 : (Jvm.Cond.instantiable "java/util/HashMap$Node" (4 : Nat)) ∈ lw_all := lw_g (lw_at lw_m3 116 rfl) rfl
theorem q712 : (Jvm.Cond.instanceMethod ({ cls := "java/util/HashMap$Node", name := "<init>", desc := "(ILjava/lang/Object;Ljava/lang/Object;Ljava/util/HashMap$Node;)V" } : Jvm.MethodName)) ∈ lw_all := lw_g (lw_at lw_m3 118 rfl) rfl
theorem q713 : (Jvm.Cond.code ({ cls := "java/util/HashMap$Node", name := "<init>", desc := "(ILjava/lang/Object;Ljava/lang/Object;Ljava/util/HashMap$Node;)V" } : Jvm.MethodName) prog_35_method_1_code (5 : Nat) (Option.none : Option Jvm.ClassFile.FieldType)) ∈ lw_all := lw_g (lw_at lw_m3 119 rfl) rfl
theorem q714 : (Jvm.Cond.methodLink "java/util/HashMap$Node" (1 : Nat) ({ cls := "java/lang/Object", name := "<init>", desc := "()V" } : Jvm.MethodName)) ∈ lw_all := lw_g (lw_at lw_m3 120 rfl) rfl
theorem q715 : (Jvm.Cond.fieldLink "java/util/HashMap$Node" (7 : Nat) "java/util/HashMap$Node" "hash" "I") ∈ lw_all := lw_g (lw_at lw_m3 121 rfl) rfl
theorem q719 : (Jvm.Cond.fieldLink "java/util/HashMap$Node" (13 : Nat) "java/util/HashMap$Node" "key" "Ljava/lang/Object;") ∈ lw_all := lw_g (lw_at lw_m3 125 rfl) rfl
theorem q723 : (Jvm.Cond.fieldLink "java/util/HashMap$Node" (17 : Nat) "java/util/HashMap$Node" "value" "Ljava/lang/Object;") ∈ lw_all := lw_g (lw_at lw_m3 129 rfl) rfl
theorem q725 : (Jvm.Cond.fieldLink "java/util/HashMap$Node" (20 : Nat) "java/util/HashMap$Node" "next" "Ljava/util/HashMap$Node;") ∈ lw_all := lw_g (lw_at lw_m3 131 rfl) rfl
theorem q731 : (Jvm.Cond.laysFinal "java/util/HashMap$Node" "java/util/HashMap$Node" "hash" "I") ∈ lw_all := lw_g (lw_at lw_m3 137 rfl) rfl
theorem q732 : (Jvm.Cond.soleField "java/util/HashMap$Node" "hash") ∈ lw_all := lw_g (lw_at lw_m3 138 rfl) rfl
theorem q733 : (Jvm.Cond.laysFinal "java/util/HashMap$Node" "java/util/HashMap$Node" "key" "Ljava/lang/Object;") ∈ lw_all := lw_g (lw_at lw_m3 139 rfl) rfl
theorem q734 : (Jvm.Cond.soleField "java/util/HashMap$Node" "key") ∈ lw_all := lw_g (lw_at lw_m3 140 rfl) rfl
theorem q735 : (Jvm.Cond.lays "java/util/HashMap$Node" "java/util/HashMap$Node" "value" "Ljava/lang/Object;") ∈ lw_all := lw_g (lw_at lw_m3 141 rfl) rfl
theorem q736 : (Jvm.Cond.soleField "java/util/HashMap$Node" "value") ∈ lw_all := lw_g (lw_at lw_m3 142 rfl) rfl
theorem q737 : (Jvm.Cond.lays "java/util/HashMap$Node" "java/util/HashMap$Node" "next" "Ljava/util/HashMap$Node;") ∈ lw_all := lw_g (lw_at lw_m3 143 rfl) rfl
theorem q738 : (Jvm.Cond.soleField "java/util/HashMap$Node" "next") ∈ lw_all := lw_g (lw_at lw_m3 144 rfl) rfl
theorem q739 : (Jvm.Cond.superclass "java/util/HashMap$Node" "java/lang/Object") ∈ lw_all := lw_g (lw_at lw_m3 145 rfl) rfl
theorem q2004 : (Jvm.Cond.castable "java/util/HashMap$Node" "java/lang/Object") ∈ lw_tbl := lw_at lw_m8 210 rfl
theorem in_J4 : ∀ w ∈ wsJ40, w ∈ lw_all := lw_in wsJ40 [731, 733, 735, 737] (by decide +kernel) (by decide +kernel)

/-! java/util/LinkedHashMap$Entry -/
set_option maxRecDepth 100000
def RJ5 : String := "java/util/LinkedHashMap$Entry"
abbrev cJ5_init : ByteArray := prog_38_method_1_code
def yJ5_init : MethodName := ⟨RJ5, "<init>", "(ILjava/lang/Object;Ljava/lang/Object;Ljava/util/HashMap$Node;)V"⟩
def dkwJ5_init_0 : List UInt8 := [42, 27, 44, 45, 25, 4, 183, 0, 1, 177]
abbrev dktJ5_init_0 : List UInt8 := dkwJ5_init_0 ++ []
theorem dksJ5_init_0 : cJ5_init.data.toList.drop 0 = dktJ5_init_0 := by decide +kernel
theorem dJ5_init_0 : decode cJ5_init 0 = .ok (.aload_n 0, 1) := dk_42 (dk_at dksJ5_init_0 0 rfl rfl)
theorem dJ5_init_1 : decode cJ5_init 1 = .ok (.iload_n 1, 1) := dk_27 (dk_at dksJ5_init_0 1 rfl rfl)
theorem dJ5_init_2 : decode cJ5_init 2 = .ok (.aload_n 2, 1) := dk_44 (dk_at dksJ5_init_0 2 rfl rfl)
theorem dJ5_init_3 : decode cJ5_init 3 = .ok (.aload_n 3, 1) := dk_45 (dk_at dksJ5_init_0 3 rfl rfl)
theorem dJ5_init_4 : decode cJ5_init 4 = .ok (.aload 4, 2) := dk_25 4 (dk_at dksJ5_init_0 4 rfl rfl)
theorem dJ5_init_6 : decode cJ5_init 6 = .ok (.invokespecial 1, 3) := dk_183 0 1 (dk_at dksJ5_init_0 6 rfl rfl)
theorem dJ5_init_9 : decode cJ5_init 9 = .ok (.return_, 1) := dk_177 (dk_at dksJ5_init_0 9 rfl rfl)
theorem q130 : (Jvm.Cond.initialized "java/util/LinkedHashMap$Entry") ∈ lw_all := lw_g (lw_at lw_m1 16 rfl) rfl
theorem q775 : (Jvm.Cond.instanceMethod ({ cls := "java/util/LinkedHashMap$Entry", name := "<init>", desc := "(ILjava/lang/Object;Ljava/lang/Object;Ljava/util/HashMap$Node;)V" } : Jvm.MethodName)) ∈ lw_all := lw_g (lw_at lw_m3 181 rfl) rfl
theorem q776 : (Jvm.Cond.code ({ cls := "java/util/LinkedHashMap$Entry", name := "<init>", desc := "(ILjava/lang/Object;Ljava/lang/Object;Ljava/util/HashMap$Node;)V" } : Jvm.MethodName) prog_38_method_1_code (5 : Nat) (Option.none : Option Jvm.ClassFile.FieldType)) ∈ lw_all := lw_g (lw_at lw_m3 182 rfl) rfl
theorem q777 : (Jvm.Cond.methodLink "java/util/LinkedHashMap$Entry" (1 : Nat) ({ cls := "java/util/HashMap$Node", name := "<init>", desc := "(ILjava/lang/Object;Ljava/lang/Object;Ljava/util/HashMap$Node;)V" } : Jvm.MethodName)) ∈ lw_all := lw_g (lw_at lw_m3 183 rfl) rfl
theorem q795 : (Jvm.Cond.soleField "java/util/LinkedHashMap$Entry" "before") ∈ lw_all := lw_g (lw_at lw_m3 201 rfl) rfl
theorem q797 : (Jvm.Cond.soleField "java/util/LinkedHashMap$Entry" "after") ∈ lw_all := lw_g (lw_at lw_m3 203 rfl) rfl

/-! java/lang/Math -/
set_option maxRecDepth 100000
def RJ7 : String := "java/lang/Math"
abbrev cJ7_max : ByteArray := prog_22_method_65_code
def yJ7_max : MethodName := ⟨RJ7, "max", "(II)I"⟩
def dkwJ7_max_0 : List UInt8 := [26, 27, 161, 0, 7, 26, 167, 0, 4, 27, 172]
abbrev dktJ7_max_0 : List UInt8 := dkwJ7_max_0 ++ []
theorem dksJ7_max_0 : cJ7_max.data.toList.drop 0 = dktJ7_max_0 := by decide +kernel
theorem dJ7_max_0 : decode cJ7_max 0 = .ok (.iload_n 0, 1) := dk_26 (dk_at dksJ7_max_0 0 rfl rfl)
theorem dJ7_max_1 : decode cJ7_max 1 = .ok (.iload_n 1, 1) := dk_27 (dk_at dksJ7_max_0 1 rfl rfl)
theorem dJ7_max_2 : decode cJ7_max 2 = .ok (.if_icmp .lt 7, 3) := dk_161 0 7 (dk_at dksJ7_max_0 2 rfl rfl)
theorem dJ7_max_5 : decode cJ7_max 5 = .ok (.iload_n 0, 1) := dk_26 (dk_at dksJ7_max_0 5 rfl rfl)
theorem dJ7_max_6 : decode cJ7_max 6 = .ok (.goto 4, 3) := dk_167 0 4 (dk_at dksJ7_max_0 6 rfl rfl)
theorem dJ7_max_9 : decode cJ7_max 9 = .ok (.iload_n 1, 1) := dk_27 (dk_at dksJ7_max_0 9 rfl rfl)
theorem dJ7_max_10 : decode cJ7_max 10 = .ok (.ireturn, 1) := dk_172 (dk_at dksJ7_max_0 10 rfl rfl)
abbrev cJ7_min : ByteArray := prog_22_method_69_code
def yJ7_min : MethodName := ⟨RJ7, "min", "(II)I"⟩
def dkwJ7_min_0 : List UInt8 := [26, 27, 163, 0, 7, 26, 167, 0, 4, 27, 172]
abbrev dktJ7_min_0 : List UInt8 := dkwJ7_min_0 ++ []
theorem dksJ7_min_0 : cJ7_min.data.toList.drop 0 = dktJ7_min_0 := by decide +kernel
theorem dJ7_min_0 : decode cJ7_min 0 = .ok (.iload_n 0, 1) := dk_26 (dk_at dksJ7_min_0 0 rfl rfl)
theorem dJ7_min_1 : decode cJ7_min 1 = .ok (.iload_n 1, 1) := dk_27 (dk_at dksJ7_min_0 1 rfl rfl)
theorem dJ7_min_2 : decode cJ7_min 2 = .ok (.if_icmp .gt 7, 3) := dk_163 0 7 (dk_at dksJ7_min_0 2 rfl rfl)
theorem dJ7_min_5 : decode cJ7_min 5 = .ok (.iload_n 0, 1) := dk_26 (dk_at dksJ7_min_0 5 rfl rfl)
theorem dJ7_min_6 : decode cJ7_min 6 = .ok (.goto 4, 3) := dk_167 0 4 (dk_at dksJ7_min_0 6 rfl rfl)
theorem dJ7_min_9 : decode cJ7_min 9 = .ok (.iload_n 1, 1) := dk_27 (dk_at dksJ7_min_0 9 rfl rfl)
theorem dJ7_min_10 : decode cJ7_min 10 = .ok (.ireturn, 1) := dk_172 (dk_at dksJ7_min_0 10 rfl rfl)
theorem q132 : (Jvm.Cond.initialized "java/lang/Math") ∈ lw_all := lw_g (lw_at lw_m1 18 rfl) rfl
theorem q1043 : (Jvm.Cond.static ({ cls := "java/lang/Math", name := "max", desc := "(II)I" } : Jvm.MethodName)) ∈ lw_all := lw_g (lw_at lw_m4 209 rfl) rfl
theorem q1044 : (Jvm.Cond.code ({ cls := "java/lang/Math", name := "max", desc := "(II)I" } : Jvm.MethodName) prog_22_method_65_code (2 : Nat) (Option.some Jvm.ClassFile.FieldType.int)) ∈ lw_all := lw_g (lw_at lw_m4 210 rfl) rfl
theorem q1196 : (Jvm.Cond.static ({ cls := "java/lang/Math", name := "min", desc := "(II)I" } : Jvm.MethodName)) ∈ lw_all := lw_g (lw_at lw_m5 122 rfl) rfl
theorem q1197 : (Jvm.Cond.code ({ cls := "java/lang/Math", name := "min", desc := "(II)I" } : Jvm.MethodName) prog_22_method_69_code (2 : Nat) (Option.some Jvm.ClassFile.FieldType.int)) ∈ lw_all := lw_g (lw_at lw_m5 123 rfl) rfl

/-! DictProof$Goal -/
set_option maxRecDepth 100000
def RX9 : String := "DictProof$Goal"
def TX9 : u_T := fun k => match k with
  | 0 => ("DictProof$Goal", "of", "I", true)
  | _ => ("DictProof$Goal", "type", "LDictProof$Term;", true)
def tyX9 : Nat → FieldType := fun k => match k with
  | 0 => .int
  | _ => .object "DictProof$Term"
abbrev wsX90 : List Cond := u_ws RX9 TX9 2
theorem nmX9 : ∀ a, a < 2 → ∀ b, b < 2 → a ≠ b → (TX9 a).2.1 ≠ (TX9 b).2.1 := by decide +kernel
theorem tyX9_ok : ∀ k, k < 2 → parseFieldDescriptor (TX9 k).2.2.1 = some (tyX9 k) := by decide +kernel
abbrev cX9_hashCode : ByteArray := prog_3_method_4_code
def yX9_hashCode : MethodName := ⟨RX9, "hashCode", "()I"⟩
def dkwX9_hashCode_0 : List UInt8 := [16, 31, 42, 180, 0, 15, 182, 0, 29, 104, 42, 180, 0, 9, 96, 172]
abbrev dktX9_hashCode_0 : List UInt8 := dkwX9_hashCode_0 ++ []
theorem dksX9_hashCode_0 : cX9_hashCode.data.toList.drop 0 = dktX9_hashCode_0 := by decide +kernel
theorem dX9_hashCode_0 : decode cX9_hashCode 0 = .ok (.bipush 31, 2) := dk_16 31 (dk_at dksX9_hashCode_0 0 rfl rfl)
theorem dX9_hashCode_2 : decode cX9_hashCode 2 = .ok (.aload_n 0, 1) := dk_42 (dk_at dksX9_hashCode_0 2 rfl rfl)
theorem dX9_hashCode_3 : decode cX9_hashCode 3 = .ok (.getfield 15, 3) := dk_180 0 15 (dk_at dksX9_hashCode_0 3 rfl rfl)
theorem dX9_hashCode_6 : decode cX9_hashCode 6 = .ok (.invokevirtual 29, 3) := dk_182 0 29 (dk_at dksX9_hashCode_0 6 rfl rfl)
theorem dX9_hashCode_9 : decode cX9_hashCode 9 = .ok (.imul, 1) := dk_104 (dk_at dksX9_hashCode_0 9 rfl rfl)
theorem dX9_hashCode_10 : decode cX9_hashCode 10 = .ok (.aload_n 0, 1) := dk_42 (dk_at dksX9_hashCode_0 10 rfl rfl)
theorem dX9_hashCode_11 : decode cX9_hashCode 11 = .ok (.getfield 9, 3) := dk_180 0 9 (dk_at dksX9_hashCode_0 11 rfl rfl)
theorem dX9_hashCode_14 : decode cX9_hashCode 14 = .ok (.iadd, 1) := dk_96 (dk_at dksX9_hashCode_0 14 rfl rfl)
theorem dX9_hashCode_15 : decode cX9_hashCode 15 = .ok (.ireturn, 1) := dk_172 (dk_at dksX9_hashCode_0 15 rfl rfl)
abbrev cX9_equals : ByteArray := prog_3_method_3_code
def yX9_equals : MethodName := ⟨RX9, "equals", "(Ljava/lang/Object;)Z"⟩
def dkwX9_equals_1 : List UInt8 := [180, 0, 15, 42, 180, 0, 15, 182, 0, 25, 153, 0, 7, 4, 167, 0, 4, 3, 172]
abbrev dktX9_equals_1 : List UInt8 := dkwX9_equals_1 ++ []
def dkwX9_equals_0 : List UInt8 := [43, 193, 0, 10, 153, 0, 37, 43, 192, 0, 10, 77, 44, 180, 0, 9, 42, 180, 0, 9, 160, 0, 21, 44]
abbrev dktX9_equals_0 : List UInt8 := dkwX9_equals_0 ++ dktX9_equals_1
theorem dksX9_equals_0 : cX9_equals.data.toList.drop 0 = dktX9_equals_0 := by decide +kernel
theorem dksX9_equals_1 : cX9_equals.data.toList.drop 24 = dktX9_equals_1 := dk_seg dksX9_equals_0 24 rfl rfl
theorem dX9_equals_0 : decode cX9_equals 0 = .ok (.aload_n 1, 1) := dk_43 (dk_at dksX9_equals_0 0 rfl rfl)
theorem dX9_equals_1 : decode cX9_equals 1 = .ok (.instanceof 10, 3) := dk_193 0 10 (dk_at dksX9_equals_0 1 rfl rfl)
theorem dX9_equals_4 : decode cX9_equals 4 = .ok (.ifCond .eq 37, 3) := dk_153 0 37 (dk_at dksX9_equals_0 4 rfl rfl)
theorem dX9_equals_7 : decode cX9_equals 7 = .ok (.aload_n 1, 1) := dk_43 (dk_at dksX9_equals_0 7 rfl rfl)
theorem dX9_equals_8 : decode cX9_equals 8 = .ok (.checkcast 10, 3) := dk_192 0 10 (dk_at dksX9_equals_0 8 rfl rfl)
theorem dX9_equals_11 : decode cX9_equals 11 = .ok (.astore_n 2, 1) := dk_77 (dk_at dksX9_equals_0 11 rfl rfl)
theorem dX9_equals_12 : decode cX9_equals 12 = .ok (.aload_n 2, 1) := dk_44 (dk_at dksX9_equals_0 12 rfl rfl)
theorem dX9_equals_13 : decode cX9_equals 13 = .ok (.getfield 9, 3) := dk_180 0 9 (dk_at dksX9_equals_0 13 rfl rfl)
theorem dX9_equals_16 : decode cX9_equals 16 = .ok (.aload_n 0, 1) := dk_42 (dk_at dksX9_equals_0 16 rfl rfl)
theorem dX9_equals_17 : decode cX9_equals 17 = .ok (.getfield 9, 3) := dk_180 0 9 (dk_at dksX9_equals_0 17 rfl rfl)
theorem dX9_equals_20 : decode cX9_equals 20 = .ok (.if_icmp .ne 21, 3) := dk_160 0 21 (dk_at dksX9_equals_0 20 rfl rfl)
theorem dX9_equals_23 : decode cX9_equals 23 = .ok (.aload_n 2, 1) := dk_44 (dk_at dksX9_equals_0 23 rfl rfl)
theorem dX9_equals_24 : decode cX9_equals 24 = .ok (.getfield 15, 3) := dk_180 0 15 (dk_at dksX9_equals_1 0 rfl rfl)
theorem dX9_equals_27 : decode cX9_equals 27 = .ok (.aload_n 0, 1) := dk_42 (dk_at dksX9_equals_1 3 rfl rfl)
theorem dX9_equals_28 : decode cX9_equals 28 = .ok (.getfield 15, 3) := dk_180 0 15 (dk_at dksX9_equals_1 4 rfl rfl)
theorem dX9_equals_31 : decode cX9_equals 31 = .ok (.invokevirtual 25, 3) := dk_182 0 25 (dk_at dksX9_equals_1 7 rfl rfl)
theorem dX9_equals_34 : decode cX9_equals 34 = .ok (.ifCond .eq 7, 3) := dk_153 0 7 (dk_at dksX9_equals_1 10 rfl rfl)
theorem dX9_equals_37 : decode cX9_equals 37 = .ok (.iconst 1, 1) := dk_4 (dk_at dksX9_equals_1 13 rfl rfl)
theorem dX9_equals_38 : decode cX9_equals 38 = .ok (.goto 4, 3) := dk_167 0 4 (dk_at dksX9_equals_1 14 rfl rfl)
theorem dX9_equals_41 : decode cX9_equals 41 = .ok (.iconst 0, 1) := dk_3 (dk_at dksX9_equals_1 17 rfl rfl)
theorem dX9_equals_42 : decode cX9_equals 42 = .ok (.ireturn, 1) := dk_172 (dk_at dksX9_equals_1 18 rfl rfl)
abbrev cX9_init : ByteArray := prog_3_method_1_code
def yX9_init : MethodName := ⟨RX9, "<init>", "(ILDictProof$Term;)V"⟩
def dkwX9_init_0 : List UInt8 := [42, 183, 0, 3, 42, 27, 181, 0, 9, 42, 44, 181, 0, 15, 177]
abbrev dktX9_init_0 : List UInt8 := dkwX9_init_0 ++ []
theorem dksX9_init_0 : cX9_init.data.toList.drop 0 = dktX9_init_0 := by decide +kernel
theorem dX9_init_0 : decode cX9_init 0 = .ok (.aload_n 0, 1) := dk_42 (dk_at dksX9_init_0 0 rfl rfl)
theorem dX9_init_1 : decode cX9_init 1 = .ok (.invokespecial 3, 3) := dk_183 0 3 (dk_at dksX9_init_0 1 rfl rfl)
theorem dX9_init_4 : decode cX9_init 4 = .ok (.aload_n 0, 1) := dk_42 (dk_at dksX9_init_0 4 rfl rfl)
theorem dX9_init_5 : decode cX9_init 5 = .ok (.iload_n 1, 1) := dk_27 (dk_at dksX9_init_0 5 rfl rfl)
theorem dX9_init_6 : decode cX9_init 6 = .ok (.putfield 9, 3) := dk_181 0 9 (dk_at dksX9_init_0 6 rfl rfl)
theorem dX9_init_9 : decode cX9_init 9 = .ok (.aload_n 0, 1) := dk_42 (dk_at dksX9_init_0 9 rfl rfl)
theorem dX9_init_10 : decode cX9_init 10 = .ok (.aload_n 2, 1) := dk_44 (dk_at dksX9_init_0 10 rfl rfl)
theorem dX9_init_11 : decode cX9_init 11 = .ok (.putfield 15, 3) := dk_181 0 15 (dk_at dksX9_init_0 11 rfl rfl)
theorem dX9_init_14 : decode cX9_init 14 = .ok (.return_, 1) := dk_177 (dk_at dksX9_init_0 14 rfl rfl)
abbrev cX9_need : ByteArray := prog_3_method_2_code
def yX9_need : MethodName := ⟨RX9, "need", "()I"⟩
def dkwX9_need_0 : List UInt8 := [16, 10, 5, 42, 180, 0, 9, 104, 96, 42, 180, 0, 15, 182, 0, 19, 96, 172]
abbrev dktX9_need_0 : List UInt8 := dkwX9_need_0 ++ []
theorem dksX9_need_0 : cX9_need.data.toList.drop 0 = dktX9_need_0 := by decide +kernel
theorem dX9_need_0 : decode cX9_need 0 = .ok (.bipush 10, 2) := dk_16 10 (dk_at dksX9_need_0 0 rfl rfl)
theorem dX9_need_2 : decode cX9_need 2 = .ok (.iconst 2, 1) := dk_5 (dk_at dksX9_need_0 2 rfl rfl)
theorem dX9_need_3 : decode cX9_need 3 = .ok (.aload_n 0, 1) := dk_42 (dk_at dksX9_need_0 3 rfl rfl)
theorem dX9_need_4 : decode cX9_need 4 = .ok (.getfield 9, 3) := dk_180 0 9 (dk_at dksX9_need_0 4 rfl rfl)
theorem dX9_need_7 : decode cX9_need 7 = .ok (.imul, 1) := dk_104 (dk_at dksX9_need_0 7 rfl rfl)
theorem dX9_need_8 : decode cX9_need 8 = .ok (.iadd, 1) := dk_96 (dk_at dksX9_need_0 8 rfl rfl)
theorem dX9_need_9 : decode cX9_need 9 = .ok (.aload_n 0, 1) := dk_42 (dk_at dksX9_need_0 9 rfl rfl)
theorem dX9_need_10 : decode cX9_need 10 = .ok (.getfield 15, 3) := dk_180 0 15 (dk_at dksX9_need_0 10 rfl rfl)
theorem dX9_need_13 : decode cX9_need 13 = .ok (.invokevirtual 19, 3) := dk_182 0 19 (dk_at dksX9_need_0 13 rfl rfl)
theorem dX9_need_16 : decode cX9_need 16 = .ok (.iadd, 1) := dk_96 (dk_at dksX9_need_0 16 rfl rfl)
theorem dX9_need_17 : decode cX9_need 17 = .ok (.ireturn, 1) := dk_172 (dk_at dksX9_need_0 17 rfl rfl)
theorem q133 : (Jvm.Cond.initialized "DictProof$Goal") ∈ lw_all := lw_g (lw_at lw_m1 19 rfl) rfl
theorem q556 : (Jvm.Cond.selects "DictProof$Goal" ({ cls := "java/lang/Object", name := "hashCode", desc := "()I" } : Jvm.MethodName) ({ cls := "DictProof$Goal", name := "hashCode", desc := "()I" } : Jvm.MethodName)) ∈ lw_all := lw_g (lw_at lw_m2 202 rfl) rfl
theorem q557 : (Jvm.Cond.instanceMethod ({ cls := "DictProof$Goal", name := "hashCode", desc := "()I" } : Jvm.MethodName)) ∈ lw_all := lw_g (lw_at lw_m2 203 rfl) rfl
theorem q558 : (Jvm.Cond.code ({ cls := "DictProof$Goal", name := "hashCode", desc := "()I" } : Jvm.MethodName) prog_3_method_4_code (1 : Nat) (Option.some Jvm.ClassFile.FieldType.int)) ∈ lw_all := lw_g (lw_at lw_m2 204 rfl) rfl
theorem q559 : (Jvm.Cond.methodLink "DictProof$Goal" (29 : Nat) ({ cls := "DictProof$Term", name := "hashCode", desc := "()I" } : Jvm.MethodName)) ∈ lw_all := lw_g (lw_at lw_m2 205 rfl) rfl
theorem q587 : (Jvm.Cond.selects "DictProof$Goal" ({ cls := "java/lang/Object", name := "equals", desc := "(Ljava/lang/Object;)Z" } : Jvm.MethodName) ({ cls := "DictProof$Goal", name := "equals", desc := "(Ljava/lang/Object;)Z" } : Jvm.MethodName)) ∈ lw_all := lw_g (lw_at lw_m2 233 rfl) rfl
theorem q588 : (Jvm.Cond.instanceMethod ({ cls := "DictProof$Goal", name := "equals", desc := "(Ljava/lang/Object;)Z" } : Jvm.MethodName)) ∈ lw_all := lw_g (lw_at lw_m2 234 rfl) rfl
theorem q589 : (Jvm.Cond.code ({ cls := "DictProof$Goal", name := "equals", desc := "(Ljava/lang/Object;)Z" } : Jvm.MethodName) prog_3_method_3_code (3 : Nat) (Option.some Jvm.ClassFile.FieldType.boolean)) ∈ lw_all := lw_g (lw_at lw_m2 235 rfl) rfl
theorem q590 : (Jvm.Cond.classLink "DictProof$Goal" (10 : Nat) "DictProof$Goal") ∈ lw_all := lw_g (lw_at lw_m2 236 rfl) rfl
theorem q591 : (Jvm.Cond.methodLink "DictProof$Goal" (25 : Nat) ({ cls := "DictProof$Term", name := "equals", desc := "(Ljava/lang/Object;)Z" } : Jvm.MethodName)) ∈ lw_all := lw_g (lw_at lw_m2 237 rfl) rfl
theorem q637 : (Jvm.Cond.selects "DictProof$Goal" ({ cls := "java/lang/Object", name := "getClass", desc := "()Ljava/lang/Class;" } : Jvm.MethodName) ({ cls := "java/lang/Object", name := "getClass", desc := "()Ljava/lang/Class;" } : Jvm.MethodName)) ∈ lw_all := lw_g (lw_at lw_m3 43 rfl) rfl
theorem q863 : (Jvm.Cond.instantiable "DictProof$Goal" (2 : Nat)) ∈ lw_all := lw_g (lw_at lw_m4 29 rfl) rfl
theorem q865 : (Jvm.Cond.instanceMethod ({ cls := "DictProof$Goal", name := "<init>", desc := "(ILDictProof$Term;)V" } : Jvm.MethodName)) ∈ lw_all := lw_g (lw_at lw_m4 31 rfl) rfl
theorem q866 : (Jvm.Cond.code ({ cls := "DictProof$Goal", name := "<init>", desc := "(ILDictProof$Term;)V" } : Jvm.MethodName) prog_3_method_1_code (3 : Nat) (Option.none : Option Jvm.ClassFile.FieldType)) ∈ lw_all := lw_g (lw_at lw_m4 32 rfl) rfl
theorem q867 : (Jvm.Cond.methodLink "DictProof$Goal" (3 : Nat) ({ cls := "java/lang/Object", name := "<init>", desc := "()V" } : Jvm.MethodName)) ∈ lw_all := lw_g (lw_at lw_m4 33 rfl) rfl
theorem q868 : (Jvm.Cond.fieldLink "DictProof$Goal" (9 : Nat) "DictProof$Goal" "of" "I") ∈ lw_all := lw_g (lw_at lw_m4 34 rfl) rfl
theorem q870 : (Jvm.Cond.fieldLink "DictProof$Goal" (15 : Nat) "DictProof$Goal" "type" "LDictProof$Term;") ∈ lw_all := lw_g (lw_at lw_m4 36 rfl) rfl
theorem q872 : (Jvm.Cond.laysFinal "DictProof$Goal" "DictProof$Goal" "of" "I") ∈ lw_all := lw_g (lw_at lw_m4 38 rfl) rfl
theorem q873 : (Jvm.Cond.soleField "DictProof$Goal" "of") ∈ lw_all := lw_g (lw_at lw_m4 39 rfl) rfl
theorem q874 : (Jvm.Cond.laysFinal "DictProof$Goal" "DictProof$Goal" "type" "LDictProof$Term;") ∈ lw_all := lw_g (lw_at lw_m4 40 rfl) rfl
theorem q875 : (Jvm.Cond.soleField "DictProof$Goal" "type") ∈ lw_all := lw_g (lw_at lw_m4 41 rfl) rfl
theorem q876 : (Jvm.Cond.superclass "DictProof$Goal" "java/lang/Object") ∈ lw_all := lw_g (lw_at lw_m4 42 rfl) rfl
theorem q991 : (Jvm.Cond.instanceMethod ({ cls := "DictProof$Goal", name := "need", desc := "()I" } : Jvm.MethodName)) ∈ lw_all := lw_g (lw_at lw_m4 157 rfl) rfl
theorem q992 : (Jvm.Cond.selects "DictProof$Goal" ({ cls := "DictProof$Goal", name := "need", desc := "()I" } : Jvm.MethodName) ({ cls := "DictProof$Goal", name := "need", desc := "()I" } : Jvm.MethodName)) ∈ lw_all := lw_g (lw_at lw_m4 158 rfl) rfl
theorem q993 : (Jvm.Cond.code ({ cls := "DictProof$Goal", name := "need", desc := "()I" } : Jvm.MethodName) prog_3_method_2_code (1 : Nat) (Option.some Jvm.ClassFile.FieldType.int)) ∈ lw_all := lw_g (lw_at lw_m4 159 rfl) rfl
theorem q994 : (Jvm.Cond.methodLink "DictProof$Goal" (19 : Nat) ({ cls := "DictProof$Term", name := "variable", desc := "()I" } : Jvm.MethodName)) ∈ lw_all := lw_g (lw_at lw_m4 160 rfl) rfl
theorem q2006 : (Jvm.Cond.castable "DictProof$Goal" "java/lang/Object") ∈ lw_tbl := lw_at lw_m8 212 rfl
theorem in_X9 : ∀ w ∈ wsX90, w ∈ lw_all := lw_in wsX90 [872, 874] (by decide +kernel) (by decide +kernel)

/-! DictProof$Proof -/
set_option maxRecDepth 100000
def RX10 : String := "DictProof$Proof"
def TX10 : u_T := fun k => match k with
  | 0 => ("DictProof$Proof", "goal", "LDictProof$Goal;", true)
  | 1 => ("DictProof$Proof", "outcome", "I", true)
  | 2 => ("DictProof$Proof", "taken", "LDictProof$Instance;", true)
  | _ => ("DictProof$Proof", "parts", "[LDictProof$Proof;", true)
def tyX10 : Nat → FieldType := fun k => match k with
  | 0 => .object "DictProof$Goal"
  | 1 => .int
  | 2 => .object "DictProof$Instance"
  | _ => .array (.object "DictProof$Proof")
abbrev wsX100 : List Cond := u_ws RX10 TX10 4
theorem nmX10 : ∀ a, a < 4 → ∀ b, b < 4 → a ≠ b → (TX10 a).2.1 ≠ (TX10 b).2.1 := by decide +kernel
theorem tyX10_ok : ∀ k, k < 4 → parseFieldDescriptor (TX10 k).2.2.1 = some (tyX10 k) := by decide +kernel
abbrev cX10_init : ByteArray := prog_7_method_1_code
def yX10_init : MethodName := ⟨RX10, "<init>", "(LDictProof$Goal;ILDictProof$Instance;[LDictProof$Proof;)V"⟩
def dkwX10_init_1 : List UInt8 := [181, 0, 23, 177]
abbrev dktX10_init_1 : List UInt8 := dkwX10_init_1 ++ []
def dkwX10_init_0 : List UInt8 := [42, 183, 0, 3, 42, 43, 181, 0, 9, 42, 28, 181, 0, 15, 42, 45, 181, 0, 19, 42, 25, 4]
abbrev dktX10_init_0 : List UInt8 := dkwX10_init_0 ++ dktX10_init_1
theorem dksX10_init_0 : cX10_init.data.toList.drop 0 = dktX10_init_0 := by decide +kernel
theorem dksX10_init_1 : cX10_init.data.toList.drop 22 = dktX10_init_1 := dk_seg dksX10_init_0 22 rfl rfl
theorem dX10_init_0 : decode cX10_init 0 = .ok (.aload_n 0, 1) := dk_42 (dk_at dksX10_init_0 0 rfl rfl)
theorem dX10_init_1 : decode cX10_init 1 = .ok (.invokespecial 3, 3) := dk_183 0 3 (dk_at dksX10_init_0 1 rfl rfl)
theorem dX10_init_4 : decode cX10_init 4 = .ok (.aload_n 0, 1) := dk_42 (dk_at dksX10_init_0 4 rfl rfl)
theorem dX10_init_5 : decode cX10_init 5 = .ok (.aload_n 1, 1) := dk_43 (dk_at dksX10_init_0 5 rfl rfl)
theorem dX10_init_6 : decode cX10_init 6 = .ok (.putfield 9, 3) := dk_181 0 9 (dk_at dksX10_init_0 6 rfl rfl)
theorem dX10_init_9 : decode cX10_init 9 = .ok (.aload_n 0, 1) := dk_42 (dk_at dksX10_init_0 9 rfl rfl)
theorem dX10_init_10 : decode cX10_init 10 = .ok (.iload_n 2, 1) := dk_28 (dk_at dksX10_init_0 10 rfl rfl)
theorem dX10_init_11 : decode cX10_init 11 = .ok (.putfield 15, 3) := dk_181 0 15 (dk_at dksX10_init_0 11 rfl rfl)
theorem dX10_init_14 : decode cX10_init 14 = .ok (.aload_n 0, 1) := dk_42 (dk_at dksX10_init_0 14 rfl rfl)
theorem dX10_init_15 : decode cX10_init 15 = .ok (.aload_n 3, 1) := dk_45 (dk_at dksX10_init_0 15 rfl rfl)
theorem dX10_init_16 : decode cX10_init 16 = .ok (.putfield 19, 3) := dk_181 0 19 (dk_at dksX10_init_0 16 rfl rfl)
theorem dX10_init_19 : decode cX10_init 19 = .ok (.aload_n 0, 1) := dk_42 (dk_at dksX10_init_0 19 rfl rfl)
theorem dX10_init_20 : decode cX10_init 20 = .ok (.aload 4, 2) := dk_25 4 (dk_at dksX10_init_0 20 rfl rfl)
theorem dX10_init_22 : decode cX10_init 22 = .ok (.putfield 23, 3) := dk_181 0 23 (dk_at dksX10_init_1 0 rfl rfl)
theorem dX10_init_25 : decode cX10_init 25 = .ok (.return_, 1) := dk_177 (dk_at dksX10_init_1 3 rfl rfl)
abbrev cX10_size : ByteArray := prog_7_method_2_code
def yX10_size : MethodName := ⟨RX10, "size", "()I"⟩
def dkwX10_size_1 : List UInt8 := [180, 0, 23, 28, 50, 182, 0, 32, 96, 60, 132, 2, 1, 167, 255, 223, 27, 172]
abbrev dktX10_size_1 : List UInt8 := dkwX10_size_1 ++ []
def dkwX10_size_0 : List UInt8 := [4, 60, 3, 61, 42, 180, 0, 19, 198, 0, 32, 28, 42, 180, 0, 19, 180, 0, 27, 162, 0, 21, 27, 42]
abbrev dktX10_size_0 : List UInt8 := dkwX10_size_0 ++ dktX10_size_1
theorem dksX10_size_0 : cX10_size.data.toList.drop 0 = dktX10_size_0 := by decide +kernel
theorem dksX10_size_1 : cX10_size.data.toList.drop 24 = dktX10_size_1 := dk_seg dksX10_size_0 24 rfl rfl
theorem dX10_size_0 : decode cX10_size 0 = .ok (.iconst 1, 1) := dk_4 (dk_at dksX10_size_0 0 rfl rfl)
theorem dX10_size_1 : decode cX10_size 1 = .ok (.istore_n 1, 1) := dk_60 (dk_at dksX10_size_0 1 rfl rfl)
theorem dX10_size_2 : decode cX10_size 2 = .ok (.iconst 0, 1) := dk_3 (dk_at dksX10_size_0 2 rfl rfl)
theorem dX10_size_3 : decode cX10_size 3 = .ok (.istore_n 2, 1) := dk_61 (dk_at dksX10_size_0 3 rfl rfl)
theorem dX10_size_4 : decode cX10_size 4 = .ok (.aload_n 0, 1) := dk_42 (dk_at dksX10_size_0 4 rfl rfl)
theorem dX10_size_5 : decode cX10_size 5 = .ok (.getfield 19, 3) := dk_180 0 19 (dk_at dksX10_size_0 5 rfl rfl)
theorem dX10_size_8 : decode cX10_size 8 = .ok (.ifnull 32, 3) := dk_198 0 32 (dk_at dksX10_size_0 8 rfl rfl)
theorem dX10_size_11 : decode cX10_size 11 = .ok (.iload_n 2, 1) := dk_28 (dk_at dksX10_size_0 11 rfl rfl)
theorem dX10_size_12 : decode cX10_size 12 = .ok (.aload_n 0, 1) := dk_42 (dk_at dksX10_size_0 12 rfl rfl)
theorem dX10_size_13 : decode cX10_size 13 = .ok (.getfield 19, 3) := dk_180 0 19 (dk_at dksX10_size_0 13 rfl rfl)
theorem dX10_size_16 : decode cX10_size 16 = .ok (.getfield 27, 3) := dk_180 0 27 (dk_at dksX10_size_0 16 rfl rfl)
theorem dX10_size_19 : decode cX10_size 19 = .ok (.if_icmp .ge 21, 3) := dk_162 0 21 (dk_at dksX10_size_0 19 rfl rfl)
theorem dX10_size_22 : decode cX10_size 22 = .ok (.iload_n 1, 1) := dk_27 (dk_at dksX10_size_0 22 rfl rfl)
theorem dX10_size_23 : decode cX10_size 23 = .ok (.aload_n 0, 1) := dk_42 (dk_at dksX10_size_0 23 rfl rfl)
theorem dX10_size_24 : decode cX10_size 24 = .ok (.getfield 23, 3) := dk_180 0 23 (dk_at dksX10_size_1 0 rfl rfl)
theorem dX10_size_27 : decode cX10_size 27 = .ok (.iload_n 2, 1) := dk_28 (dk_at dksX10_size_1 3 rfl rfl)
theorem dX10_size_28 : decode cX10_size 28 = .ok (.aaload, 1) := dk_50 (dk_at dksX10_size_1 4 rfl rfl)
theorem dX10_size_29 : decode cX10_size 29 = .ok (.invokevirtual 32, 3) := dk_182 0 32 (dk_at dksX10_size_1 5 rfl rfl)
theorem dX10_size_32 : decode cX10_size 32 = .ok (.iadd, 1) := dk_96 (dk_at dksX10_size_1 8 rfl rfl)
theorem dX10_size_33 : decode cX10_size 33 = .ok (.istore_n 1, 1) := dk_60 (dk_at dksX10_size_1 9 rfl rfl)
theorem dX10_size_34 : decode cX10_size 34 = .ok (.iinc 2 1, 3) := dk_132 2 1 (dk_at dksX10_size_1 10 rfl rfl)
theorem dX10_size_37 : decode cX10_size 37 = .ok (.goto (-33), 3) := dk_167 255 223 (dk_at dksX10_size_1 13 rfl rfl)
theorem dX10_size_40 : decode cX10_size 40 = .ok (.iload_n 1, 1) := dk_27 (dk_at dksX10_size_1 16 rfl rfl)
theorem dX10_size_41 : decode cX10_size 41 = .ok (.ireturn, 1) := dk_172 (dk_at dksX10_size_1 17 rfl rfl)
abbrev cX10_worth : ByteArray := prog_7_method_3_code
def yX10_worth : MethodName := ⟨RX10, "worth", "()I"⟩
def dkwX10_worth_2 : List UInt8 := [180, 0, 23, 28, 50, 182, 0, 44, 104, 96, 60, 132, 2, 1, 167, 255, 226, 27, 17, 3, 241, 112, 172]
abbrev dktX10_worth_2 : List UInt8 := dkwX10_worth_2 ++ []
def dkwX10_worth_1 : List UInt8 := [4, 96, 104, 60, 3, 61, 28, 42, 180, 0, 19, 180, 0, 27, 162, 0, 25, 27, 28, 5, 96, 42]
abbrev dktX10_worth_1 : List UInt8 := dkwX10_worth_1 ++ dktX10_worth_2
def dkwX10_worth_0 : List UInt8 := [42, 180, 0, 19, 199, 0, 11, 42, 180, 0, 9, 182, 0, 36, 172, 16, 7, 42, 180, 0, 19, 180, 0, 41]
abbrev dktX10_worth_0 : List UInt8 := dkwX10_worth_0 ++ dktX10_worth_1
theorem dksX10_worth_0 : cX10_worth.data.toList.drop 0 = dktX10_worth_0 := by decide +kernel
theorem dksX10_worth_1 : cX10_worth.data.toList.drop 24 = dktX10_worth_1 := dk_seg dksX10_worth_0 24 rfl rfl
theorem dksX10_worth_2 : cX10_worth.data.toList.drop 46 = dktX10_worth_2 := dk_seg dksX10_worth_1 22 rfl rfl
theorem dX10_worth_0 : decode cX10_worth 0 = .ok (.aload_n 0, 1) := dk_42 (dk_at dksX10_worth_0 0 rfl rfl)
theorem dX10_worth_1 : decode cX10_worth 1 = .ok (.getfield 19, 3) := dk_180 0 19 (dk_at dksX10_worth_0 1 rfl rfl)
theorem dX10_worth_4 : decode cX10_worth 4 = .ok (.ifnonnull 11, 3) := dk_199 0 11 (dk_at dksX10_worth_0 4 rfl rfl)
theorem dX10_worth_7 : decode cX10_worth 7 = .ok (.aload_n 0, 1) := dk_42 (dk_at dksX10_worth_0 7 rfl rfl)
theorem dX10_worth_8 : decode cX10_worth 8 = .ok (.getfield 9, 3) := dk_180 0 9 (dk_at dksX10_worth_0 8 rfl rfl)
theorem dX10_worth_11 : decode cX10_worth 11 = .ok (.invokevirtual 36, 3) := dk_182 0 36 (dk_at dksX10_worth_0 11 rfl rfl)
theorem dX10_worth_14 : decode cX10_worth 14 = .ok (.ireturn, 1) := dk_172 (dk_at dksX10_worth_0 14 rfl rfl)
theorem dX10_worth_15 : decode cX10_worth 15 = .ok (.bipush 7, 2) := dk_16 7 (dk_at dksX10_worth_0 15 rfl rfl)
theorem dX10_worth_17 : decode cX10_worth 17 = .ok (.aload_n 0, 1) := dk_42 (dk_at dksX10_worth_0 17 rfl rfl)
theorem dX10_worth_18 : decode cX10_worth 18 = .ok (.getfield 19, 3) := dk_180 0 19 (dk_at dksX10_worth_0 18 rfl rfl)
theorem dX10_worth_21 : decode cX10_worth 21 = .ok (.getfield 41, 3) := dk_180 0 41 (dk_at dksX10_worth_0 21 rfl rfl)
theorem dX10_worth_24 : decode cX10_worth 24 = .ok (.iconst 1, 1) := dk_4 (dk_at dksX10_worth_1 0 rfl rfl)
theorem dX10_worth_25 : decode cX10_worth 25 = .ok (.iadd, 1) := dk_96 (dk_at dksX10_worth_1 1 rfl rfl)
theorem dX10_worth_26 : decode cX10_worth 26 = .ok (.imul, 1) := dk_104 (dk_at dksX10_worth_1 2 rfl rfl)
theorem dX10_worth_27 : decode cX10_worth 27 = .ok (.istore_n 1, 1) := dk_60 (dk_at dksX10_worth_1 3 rfl rfl)
theorem dX10_worth_28 : decode cX10_worth 28 = .ok (.iconst 0, 1) := dk_3 (dk_at dksX10_worth_1 4 rfl rfl)
theorem dX10_worth_29 : decode cX10_worth 29 = .ok (.istore_n 2, 1) := dk_61 (dk_at dksX10_worth_1 5 rfl rfl)
theorem dX10_worth_30 : decode cX10_worth 30 = .ok (.iload_n 2, 1) := dk_28 (dk_at dksX10_worth_1 6 rfl rfl)
theorem dX10_worth_31 : decode cX10_worth 31 = .ok (.aload_n 0, 1) := dk_42 (dk_at dksX10_worth_1 7 rfl rfl)
theorem dX10_worth_32 : decode cX10_worth 32 = .ok (.getfield 19, 3) := dk_180 0 19 (dk_at dksX10_worth_1 8 rfl rfl)
theorem dX10_worth_35 : decode cX10_worth 35 = .ok (.getfield 27, 3) := dk_180 0 27 (dk_at dksX10_worth_1 11 rfl rfl)
theorem dX10_worth_38 : decode cX10_worth 38 = .ok (.if_icmp .ge 25, 3) := dk_162 0 25 (dk_at dksX10_worth_1 14 rfl rfl)
theorem dX10_worth_41 : decode cX10_worth 41 = .ok (.iload_n 1, 1) := dk_27 (dk_at dksX10_worth_1 17 rfl rfl)
theorem dX10_worth_42 : decode cX10_worth 42 = .ok (.iload_n 2, 1) := dk_28 (dk_at dksX10_worth_1 18 rfl rfl)
theorem dX10_worth_43 : decode cX10_worth 43 = .ok (.iconst 2, 1) := dk_5 (dk_at dksX10_worth_1 19 rfl rfl)
theorem dX10_worth_44 : decode cX10_worth 44 = .ok (.iadd, 1) := dk_96 (dk_at dksX10_worth_1 20 rfl rfl)
theorem dX10_worth_45 : decode cX10_worth 45 = .ok (.aload_n 0, 1) := dk_42 (dk_at dksX10_worth_1 21 rfl rfl)
theorem dX10_worth_46 : decode cX10_worth 46 = .ok (.getfield 23, 3) := dk_180 0 23 (dk_at dksX10_worth_2 0 rfl rfl)
theorem dX10_worth_49 : decode cX10_worth 49 = .ok (.iload_n 2, 1) := dk_28 (dk_at dksX10_worth_2 3 rfl rfl)
theorem dX10_worth_50 : decode cX10_worth 50 = .ok (.aaload, 1) := dk_50 (dk_at dksX10_worth_2 4 rfl rfl)
theorem dX10_worth_51 : decode cX10_worth 51 = .ok (.invokevirtual 44, 3) := dk_182 0 44 (dk_at dksX10_worth_2 5 rfl rfl)
theorem dX10_worth_54 : decode cX10_worth 54 = .ok (.imul, 1) := dk_104 (dk_at dksX10_worth_2 8 rfl rfl)
theorem dX10_worth_55 : decode cX10_worth 55 = .ok (.iadd, 1) := dk_96 (dk_at dksX10_worth_2 9 rfl rfl)
theorem dX10_worth_56 : decode cX10_worth 56 = .ok (.istore_n 1, 1) := dk_60 (dk_at dksX10_worth_2 10 rfl rfl)
theorem dX10_worth_57 : decode cX10_worth 57 = .ok (.iinc 2 1, 3) := dk_132 2 1 (dk_at dksX10_worth_2 11 rfl rfl)
theorem dX10_worth_60 : decode cX10_worth 60 = .ok (.goto (-30), 3) := dk_167 255 226 (dk_at dksX10_worth_2 14 rfl rfl)
theorem dX10_worth_63 : decode cX10_worth 63 = .ok (.iload_n 1, 1) := dk_27 (dk_at dksX10_worth_2 17 rfl rfl)
theorem dX10_worth_64 : decode cX10_worth 64 = .ok (.sipush 1009, 3) := dk_17 3 241 (dk_at dksX10_worth_2 18 rfl rfl)
theorem dX10_worth_67 : decode cX10_worth 67 = .ok (.irem, 1) := dk_112 (dk_at dksX10_worth_2 21 rfl rfl)
theorem dX10_worth_68 : decode cX10_worth 68 = .ok (.ireturn, 1) := dk_172 (dk_at dksX10_worth_2 22 rfl rfl)
abbrev cX10_gather : ByteArray := prog_7_method_5_code
def yX10_gather : MethodName := ⟨RX10, "gather", "(Ljava/util/HashSet;)V"⟩
def dkwX10_gather_1 : List UInt8 := [180, 0, 27, 162, 0, 19, 42, 180, 0, 23, 28, 50, 43, 182, 0, 62, 132, 2, 1, 167, 255, 225, 177]
abbrev dktX10_gather_1 : List UInt8 := dkwX10_gather_1 ++ []
def dkwX10_gather_0 : List UInt8 := [43, 42, 180, 0, 9, 182, 0, 56, 87, 3, 61, 42, 180, 0, 19, 198, 0, 30, 28, 42, 180, 0, 19]
abbrev dktX10_gather_0 : List UInt8 := dkwX10_gather_0 ++ dktX10_gather_1
theorem dksX10_gather_0 : cX10_gather.data.toList.drop 0 = dktX10_gather_0 := by decide +kernel
theorem dksX10_gather_1 : cX10_gather.data.toList.drop 23 = dktX10_gather_1 := dk_seg dksX10_gather_0 23 rfl rfl
theorem dX10_gather_0 : decode cX10_gather 0 = .ok (.aload_n 1, 1) := dk_43 (dk_at dksX10_gather_0 0 rfl rfl)
theorem dX10_gather_1 : decode cX10_gather 1 = .ok (.aload_n 0, 1) := dk_42 (dk_at dksX10_gather_0 1 rfl rfl)
theorem dX10_gather_2 : decode cX10_gather 2 = .ok (.getfield 9, 3) := dk_180 0 9 (dk_at dksX10_gather_0 2 rfl rfl)
theorem dX10_gather_5 : decode cX10_gather 5 = .ok (.invokevirtual 56, 3) := dk_182 0 56 (dk_at dksX10_gather_0 5 rfl rfl)
theorem dX10_gather_8 : decode cX10_gather 8 = .ok (.pop, 1) := dk_87 (dk_at dksX10_gather_0 8 rfl rfl)
theorem dX10_gather_9 : decode cX10_gather 9 = .ok (.iconst 0, 1) := dk_3 (dk_at dksX10_gather_0 9 rfl rfl)
theorem dX10_gather_10 : decode cX10_gather 10 = .ok (.istore_n 2, 1) := dk_61 (dk_at dksX10_gather_0 10 rfl rfl)
theorem dX10_gather_11 : decode cX10_gather 11 = .ok (.aload_n 0, 1) := dk_42 (dk_at dksX10_gather_0 11 rfl rfl)
theorem dX10_gather_12 : decode cX10_gather 12 = .ok (.getfield 19, 3) := dk_180 0 19 (dk_at dksX10_gather_0 12 rfl rfl)
theorem dX10_gather_15 : decode cX10_gather 15 = .ok (.ifnull 30, 3) := dk_198 0 30 (dk_at dksX10_gather_0 15 rfl rfl)
theorem dX10_gather_18 : decode cX10_gather 18 = .ok (.iload_n 2, 1) := dk_28 (dk_at dksX10_gather_0 18 rfl rfl)
theorem dX10_gather_19 : decode cX10_gather 19 = .ok (.aload_n 0, 1) := dk_42 (dk_at dksX10_gather_0 19 rfl rfl)
theorem dX10_gather_20 : decode cX10_gather 20 = .ok (.getfield 19, 3) := dk_180 0 19 (dk_at dksX10_gather_0 20 rfl rfl)
theorem dX10_gather_23 : decode cX10_gather 23 = .ok (.getfield 27, 3) := dk_180 0 27 (dk_at dksX10_gather_1 0 rfl rfl)
theorem dX10_gather_26 : decode cX10_gather 26 = .ok (.if_icmp .ge 19, 3) := dk_162 0 19 (dk_at dksX10_gather_1 3 rfl rfl)
theorem dX10_gather_29 : decode cX10_gather 29 = .ok (.aload_n 0, 1) := dk_42 (dk_at dksX10_gather_1 6 rfl rfl)
theorem dX10_gather_30 : decode cX10_gather 30 = .ok (.getfield 23, 3) := dk_180 0 23 (dk_at dksX10_gather_1 7 rfl rfl)
theorem dX10_gather_33 : decode cX10_gather 33 = .ok (.iload_n 2, 1) := dk_28 (dk_at dksX10_gather_1 10 rfl rfl)
theorem dX10_gather_34 : decode cX10_gather 34 = .ok (.aaload, 1) := dk_50 (dk_at dksX10_gather_1 11 rfl rfl)
theorem dX10_gather_35 : decode cX10_gather 35 = .ok (.aload_n 1, 1) := dk_43 (dk_at dksX10_gather_1 12 rfl rfl)
theorem dX10_gather_36 : decode cX10_gather 36 = .ok (.invokevirtual 62, 3) := dk_182 0 62 (dk_at dksX10_gather_1 13 rfl rfl)
theorem dX10_gather_39 : decode cX10_gather 39 = .ok (.iinc 2 1, 3) := dk_132 2 1 (dk_at dksX10_gather_1 16 rfl rfl)
theorem dX10_gather_42 : decode cX10_gather 42 = .ok (.goto (-31), 3) := dk_167 255 225 (dk_at dksX10_gather_1 19 rfl rfl)
theorem dX10_gather_45 : decode cX10_gather 45 = .ok (.return_, 1) := dk_177 (dk_at dksX10_gather_1 22 rfl rfl)
abbrev cX10_depth : ByteArray := prog_7_method_4_code
def yX10_depth : MethodName := ⟨RX10, "depth", "()I"⟩
def dkwX10_depth_1 : List UInt8 := [180, 0, 23, 28, 50, 182, 0, 47, 184, 0, 50, 60, 132, 2, 1, 167, 255, 221, 27, 4, 96, 172]
abbrev dktX10_depth_1 : List UInt8 := dkwX10_depth_1 ++ []
def dkwX10_depth_0 : List UInt8 := [3, 60, 3, 61, 42, 180, 0, 19, 198, 0, 34, 28, 42, 180, 0, 19, 180, 0, 27, 162, 0, 23, 27, 42]
abbrev dktX10_depth_0 : List UInt8 := dkwX10_depth_0 ++ dktX10_depth_1
theorem dksX10_depth_0 : cX10_depth.data.toList.drop 0 = dktX10_depth_0 := by decide +kernel
theorem dksX10_depth_1 : cX10_depth.data.toList.drop 24 = dktX10_depth_1 := dk_seg dksX10_depth_0 24 rfl rfl
theorem dX10_depth_0 : decode cX10_depth 0 = .ok (.iconst 0, 1) := dk_3 (dk_at dksX10_depth_0 0 rfl rfl)
theorem dX10_depth_1 : decode cX10_depth 1 = .ok (.istore_n 1, 1) := dk_60 (dk_at dksX10_depth_0 1 rfl rfl)
theorem dX10_depth_2 : decode cX10_depth 2 = .ok (.iconst 0, 1) := dk_3 (dk_at dksX10_depth_0 2 rfl rfl)
theorem dX10_depth_3 : decode cX10_depth 3 = .ok (.istore_n 2, 1) := dk_61 (dk_at dksX10_depth_0 3 rfl rfl)
theorem dX10_depth_4 : decode cX10_depth 4 = .ok (.aload_n 0, 1) := dk_42 (dk_at dksX10_depth_0 4 rfl rfl)
theorem dX10_depth_5 : decode cX10_depth 5 = .ok (.getfield 19, 3) := dk_180 0 19 (dk_at dksX10_depth_0 5 rfl rfl)
theorem dX10_depth_8 : decode cX10_depth 8 = .ok (.ifnull 34, 3) := dk_198 0 34 (dk_at dksX10_depth_0 8 rfl rfl)
theorem dX10_depth_11 : decode cX10_depth 11 = .ok (.iload_n 2, 1) := dk_28 (dk_at dksX10_depth_0 11 rfl rfl)
theorem dX10_depth_12 : decode cX10_depth 12 = .ok (.aload_n 0, 1) := dk_42 (dk_at dksX10_depth_0 12 rfl rfl)
theorem dX10_depth_13 : decode cX10_depth 13 = .ok (.getfield 19, 3) := dk_180 0 19 (dk_at dksX10_depth_0 13 rfl rfl)
theorem dX10_depth_16 : decode cX10_depth 16 = .ok (.getfield 27, 3) := dk_180 0 27 (dk_at dksX10_depth_0 16 rfl rfl)
theorem dX10_depth_19 : decode cX10_depth 19 = .ok (.if_icmp .ge 23, 3) := dk_162 0 23 (dk_at dksX10_depth_0 19 rfl rfl)
theorem dX10_depth_22 : decode cX10_depth 22 = .ok (.iload_n 1, 1) := dk_27 (dk_at dksX10_depth_0 22 rfl rfl)
theorem dX10_depth_23 : decode cX10_depth 23 = .ok (.aload_n 0, 1) := dk_42 (dk_at dksX10_depth_0 23 rfl rfl)
theorem dX10_depth_24 : decode cX10_depth 24 = .ok (.getfield 23, 3) := dk_180 0 23 (dk_at dksX10_depth_1 0 rfl rfl)
theorem dX10_depth_27 : decode cX10_depth 27 = .ok (.iload_n 2, 1) := dk_28 (dk_at dksX10_depth_1 3 rfl rfl)
theorem dX10_depth_28 : decode cX10_depth 28 = .ok (.aaload, 1) := dk_50 (dk_at dksX10_depth_1 4 rfl rfl)
theorem dX10_depth_29 : decode cX10_depth 29 = .ok (.invokevirtual 47, 3) := dk_182 0 47 (dk_at dksX10_depth_1 5 rfl rfl)
theorem dX10_depth_32 : decode cX10_depth 32 = .ok (.invokestatic 50, 3) := dk_184 0 50 (dk_at dksX10_depth_1 8 rfl rfl)
theorem dX10_depth_35 : decode cX10_depth 35 = .ok (.istore_n 1, 1) := dk_60 (dk_at dksX10_depth_1 11 rfl rfl)
theorem dX10_depth_36 : decode cX10_depth 36 = .ok (.iinc 2 1, 3) := dk_132 2 1 (dk_at dksX10_depth_1 12 rfl rfl)
theorem dX10_depth_39 : decode cX10_depth 39 = .ok (.goto (-35), 3) := dk_167 255 221 (dk_at dksX10_depth_1 15 rfl rfl)
theorem dX10_depth_42 : decode cX10_depth 42 = .ok (.iload_n 1, 1) := dk_27 (dk_at dksX10_depth_1 18 rfl rfl)
theorem dX10_depth_43 : decode cX10_depth 43 = .ok (.iconst 1, 1) := dk_4 (dk_at dksX10_depth_1 19 rfl rfl)
theorem dX10_depth_44 : decode cX10_depth 44 = .ok (.iadd, 1) := dk_96 (dk_at dksX10_depth_1 20 rfl rfl)
theorem dX10_depth_45 : decode cX10_depth 45 = .ok (.ireturn, 1) := dk_172 (dk_at dksX10_depth_1 21 rfl rfl)
abbrev cX10_needs : ByteArray := prog_7_method_6_code
def yX10_needs : MethodName := ⟨RX10, "needs", "()I"⟩
def dkwX10_needs_2 : List UInt8 := [180, 0, 23, 28, 50, 182, 0, 66, 128, 60, 132, 2, 1, 167, 255, 223, 27, 172]
abbrev dktX10_needs_2 : List UInt8 := dkwX10_needs_2 ++ []
def dkwX10_needs_1 : List UInt8 := [3, 61, 42, 180, 0, 19, 198, 0, 32, 28, 42, 180, 0, 19, 180, 0, 27, 162, 0, 21, 27, 42]
abbrev dktX10_needs_1 : List UInt8 := dkwX10_needs_1 ++ dktX10_needs_2
def dkwX10_needs_0 : List UInt8 := [42, 180, 0, 19, 199, 0, 18, 4, 42, 180, 0, 9, 182, 0, 36, 16, 10, 100, 120, 167, 0, 4, 3, 60]
abbrev dktX10_needs_0 : List UInt8 := dkwX10_needs_0 ++ dktX10_needs_1
theorem dksX10_needs_0 : cX10_needs.data.toList.drop 0 = dktX10_needs_0 := by decide +kernel
theorem dksX10_needs_1 : cX10_needs.data.toList.drop 24 = dktX10_needs_1 := dk_seg dksX10_needs_0 24 rfl rfl
theorem dksX10_needs_2 : cX10_needs.data.toList.drop 46 = dktX10_needs_2 := dk_seg dksX10_needs_1 22 rfl rfl
theorem dX10_needs_0 : decode cX10_needs 0 = .ok (.aload_n 0, 1) := dk_42 (dk_at dksX10_needs_0 0 rfl rfl)
theorem dX10_needs_1 : decode cX10_needs 1 = .ok (.getfield 19, 3) := dk_180 0 19 (dk_at dksX10_needs_0 1 rfl rfl)
theorem dX10_needs_4 : decode cX10_needs 4 = .ok (.ifnonnull 18, 3) := dk_199 0 18 (dk_at dksX10_needs_0 4 rfl rfl)
theorem dX10_needs_7 : decode cX10_needs 7 = .ok (.iconst 1, 1) := dk_4 (dk_at dksX10_needs_0 7 rfl rfl)
theorem dX10_needs_8 : decode cX10_needs 8 = .ok (.aload_n 0, 1) := dk_42 (dk_at dksX10_needs_0 8 rfl rfl)
theorem dX10_needs_9 : decode cX10_needs 9 = .ok (.getfield 9, 3) := dk_180 0 9 (dk_at dksX10_needs_0 9 rfl rfl)
theorem dX10_needs_12 : decode cX10_needs 12 = .ok (.invokevirtual 36, 3) := dk_182 0 36 (dk_at dksX10_needs_0 12 rfl rfl)
theorem dX10_needs_15 : decode cX10_needs 15 = .ok (.bipush 10, 2) := dk_16 10 (dk_at dksX10_needs_0 15 rfl rfl)
theorem dX10_needs_17 : decode cX10_needs 17 = .ok (.isub, 1) := dk_100 (dk_at dksX10_needs_0 17 rfl rfl)
theorem dX10_needs_18 : decode cX10_needs 18 = .ok (.ishl, 1) := dk_120 (dk_at dksX10_needs_0 18 rfl rfl)
theorem dX10_needs_19 : decode cX10_needs 19 = .ok (.goto 4, 3) := dk_167 0 4 (dk_at dksX10_needs_0 19 rfl rfl)
theorem dX10_needs_22 : decode cX10_needs 22 = .ok (.iconst 0, 1) := dk_3 (dk_at dksX10_needs_0 22 rfl rfl)
theorem dX10_needs_23 : decode cX10_needs 23 = .ok (.istore_n 1, 1) := dk_60 (dk_at dksX10_needs_0 23 rfl rfl)
theorem dX10_needs_24 : decode cX10_needs 24 = .ok (.iconst 0, 1) := dk_3 (dk_at dksX10_needs_1 0 rfl rfl)
theorem dX10_needs_25 : decode cX10_needs 25 = .ok (.istore_n 2, 1) := dk_61 (dk_at dksX10_needs_1 1 rfl rfl)
theorem dX10_needs_26 : decode cX10_needs 26 = .ok (.aload_n 0, 1) := dk_42 (dk_at dksX10_needs_1 2 rfl rfl)
theorem dX10_needs_27 : decode cX10_needs 27 = .ok (.getfield 19, 3) := dk_180 0 19 (dk_at dksX10_needs_1 3 rfl rfl)
theorem dX10_needs_30 : decode cX10_needs 30 = .ok (.ifnull 32, 3) := dk_198 0 32 (dk_at dksX10_needs_1 6 rfl rfl)
theorem dX10_needs_33 : decode cX10_needs 33 = .ok (.iload_n 2, 1) := dk_28 (dk_at dksX10_needs_1 9 rfl rfl)
theorem dX10_needs_34 : decode cX10_needs 34 = .ok (.aload_n 0, 1) := dk_42 (dk_at dksX10_needs_1 10 rfl rfl)
theorem dX10_needs_35 : decode cX10_needs 35 = .ok (.getfield 19, 3) := dk_180 0 19 (dk_at dksX10_needs_1 11 rfl rfl)
theorem dX10_needs_38 : decode cX10_needs 38 = .ok (.getfield 27, 3) := dk_180 0 27 (dk_at dksX10_needs_1 14 rfl rfl)
theorem dX10_needs_41 : decode cX10_needs 41 = .ok (.if_icmp .ge 21, 3) := dk_162 0 21 (dk_at dksX10_needs_1 17 rfl rfl)
theorem dX10_needs_44 : decode cX10_needs 44 = .ok (.iload_n 1, 1) := dk_27 (dk_at dksX10_needs_1 20 rfl rfl)
theorem dX10_needs_45 : decode cX10_needs 45 = .ok (.aload_n 0, 1) := dk_42 (dk_at dksX10_needs_1 21 rfl rfl)
theorem dX10_needs_46 : decode cX10_needs 46 = .ok (.getfield 23, 3) := dk_180 0 23 (dk_at dksX10_needs_2 0 rfl rfl)
theorem dX10_needs_49 : decode cX10_needs 49 = .ok (.iload_n 2, 1) := dk_28 (dk_at dksX10_needs_2 3 rfl rfl)
theorem dX10_needs_50 : decode cX10_needs 50 = .ok (.aaload, 1) := dk_50 (dk_at dksX10_needs_2 4 rfl rfl)
theorem dX10_needs_51 : decode cX10_needs 51 = .ok (.invokevirtual 66, 3) := dk_182 0 66 (dk_at dksX10_needs_2 5 rfl rfl)
theorem dX10_needs_54 : decode cX10_needs 54 = .ok (.ior, 1) := dk_128 (dk_at dksX10_needs_2 8 rfl rfl)
theorem dX10_needs_55 : decode cX10_needs 55 = .ok (.istore_n 1, 1) := dk_60 (dk_at dksX10_needs_2 9 rfl rfl)
theorem dX10_needs_56 : decode cX10_needs 56 = .ok (.iinc 2 1, 3) := dk_132 2 1 (dk_at dksX10_needs_2 10 rfl rfl)
theorem dX10_needs_59 : decode cX10_needs 59 = .ok (.goto (-33), 3) := dk_167 255 223 (dk_at dksX10_needs_2 13 rfl rfl)
theorem dX10_needs_62 : decode cX10_needs 62 = .ok (.iload_n 1, 1) := dk_27 (dk_at dksX10_needs_2 16 rfl rfl)
theorem dX10_needs_63 : decode cX10_needs 63 = .ok (.ireturn, 1) := dk_172 (dk_at dksX10_needs_2 17 rfl rfl)
abbrev cX10_entry : ByteArray := prog_7_method_7_code
def yX10_entry : MethodName := ⟨RX10, "entry", "(I)I"⟩
def dkwX10_entry_3 : List UInt8 := [180, 0, 23, 29, 50, 28, 182, 0, 69, 172]
abbrev dktX10_entry_3 : List UInt8 := dkwX10_entry_3 ++ []
def dkwX10_entry_2 : List UInt8 := [161, 0, 21, 28, 42, 180, 0, 23, 29, 50, 182, 0, 32, 100, 61, 132, 3, 1, 167, 255, 228, 42]
abbrev dktX10_entry_2 : List UInt8 := dkwX10_entry_2 ++ dktX10_entry_3
def dkwX10_entry_1 : List UInt8 := [180, 0, 19, 180, 0, 41, 172, 27, 4, 100, 61, 3, 62, 28, 42, 180, 0, 23, 29, 50, 182, 0, 32]
abbrev dktX10_entry_1 : List UInt8 := dkwX10_entry_1 ++ dktX10_entry_2
def dkwX10_entry_0 : List UInt8 := [27, 154, 0, 28, 42, 180, 0, 19, 199, 0, 13, 42, 180, 0, 9, 182, 0, 36, 167, 0, 10, 42]
abbrev dktX10_entry_0 : List UInt8 := dkwX10_entry_0 ++ dktX10_entry_1
theorem dksX10_entry_0 : cX10_entry.data.toList.drop 0 = dktX10_entry_0 := by decide +kernel
theorem dksX10_entry_1 : cX10_entry.data.toList.drop 22 = dktX10_entry_1 := dk_seg dksX10_entry_0 22 rfl rfl
theorem dksX10_entry_2 : cX10_entry.data.toList.drop 45 = dktX10_entry_2 := dk_seg dksX10_entry_1 23 rfl rfl
theorem dksX10_entry_3 : cX10_entry.data.toList.drop 67 = dktX10_entry_3 := dk_seg dksX10_entry_2 22 rfl rfl
theorem dX10_entry_0 : decode cX10_entry 0 = .ok (.iload_n 1, 1) := dk_27 (dk_at dksX10_entry_0 0 rfl rfl)
theorem dX10_entry_1 : decode cX10_entry 1 = .ok (.ifCond .ne 28, 3) := dk_154 0 28 (dk_at dksX10_entry_0 1 rfl rfl)
theorem dX10_entry_4 : decode cX10_entry 4 = .ok (.aload_n 0, 1) := dk_42 (dk_at dksX10_entry_0 4 rfl rfl)
theorem dX10_entry_5 : decode cX10_entry 5 = .ok (.getfield 19, 3) := dk_180 0 19 (dk_at dksX10_entry_0 5 rfl rfl)
theorem dX10_entry_8 : decode cX10_entry 8 = .ok (.ifnonnull 13, 3) := dk_199 0 13 (dk_at dksX10_entry_0 8 rfl rfl)
theorem dX10_entry_11 : decode cX10_entry 11 = .ok (.aload_n 0, 1) := dk_42 (dk_at dksX10_entry_0 11 rfl rfl)
theorem dX10_entry_12 : decode cX10_entry 12 = .ok (.getfield 9, 3) := dk_180 0 9 (dk_at dksX10_entry_0 12 rfl rfl)
theorem dX10_entry_15 : decode cX10_entry 15 = .ok (.invokevirtual 36, 3) := dk_182 0 36 (dk_at dksX10_entry_0 15 rfl rfl)
theorem dX10_entry_18 : decode cX10_entry 18 = .ok (.goto 10, 3) := dk_167 0 10 (dk_at dksX10_entry_0 18 rfl rfl)
theorem dX10_entry_21 : decode cX10_entry 21 = .ok (.aload_n 0, 1) := dk_42 (dk_at dksX10_entry_0 21 rfl rfl)
theorem dX10_entry_22 : decode cX10_entry 22 = .ok (.getfield 19, 3) := dk_180 0 19 (dk_at dksX10_entry_1 0 rfl rfl)
theorem dX10_entry_25 : decode cX10_entry 25 = .ok (.getfield 41, 3) := dk_180 0 41 (dk_at dksX10_entry_1 3 rfl rfl)
theorem dX10_entry_28 : decode cX10_entry 28 = .ok (.ireturn, 1) := dk_172 (dk_at dksX10_entry_1 6 rfl rfl)
theorem dX10_entry_29 : decode cX10_entry 29 = .ok (.iload_n 1, 1) := dk_27 (dk_at dksX10_entry_1 7 rfl rfl)
theorem dX10_entry_30 : decode cX10_entry 30 = .ok (.iconst 1, 1) := dk_4 (dk_at dksX10_entry_1 8 rfl rfl)
theorem dX10_entry_31 : decode cX10_entry 31 = .ok (.isub, 1) := dk_100 (dk_at dksX10_entry_1 9 rfl rfl)
theorem dX10_entry_32 : decode cX10_entry 32 = .ok (.istore_n 2, 1) := dk_61 (dk_at dksX10_entry_1 10 rfl rfl)
theorem dX10_entry_33 : decode cX10_entry 33 = .ok (.iconst 0, 1) := dk_3 (dk_at dksX10_entry_1 11 rfl rfl)
theorem dX10_entry_34 : decode cX10_entry 34 = .ok (.istore_n 3, 1) := dk_62 (dk_at dksX10_entry_1 12 rfl rfl)
theorem dX10_entry_35 : decode cX10_entry 35 = .ok (.iload_n 2, 1) := dk_28 (dk_at dksX10_entry_1 13 rfl rfl)
theorem dX10_entry_36 : decode cX10_entry 36 = .ok (.aload_n 0, 1) := dk_42 (dk_at dksX10_entry_1 14 rfl rfl)
theorem dX10_entry_37 : decode cX10_entry 37 = .ok (.getfield 23, 3) := dk_180 0 23 (dk_at dksX10_entry_1 15 rfl rfl)
theorem dX10_entry_40 : decode cX10_entry 40 = .ok (.iload_n 3, 1) := dk_29 (dk_at dksX10_entry_1 18 rfl rfl)
theorem dX10_entry_41 : decode cX10_entry 41 = .ok (.aaload, 1) := dk_50 (dk_at dksX10_entry_1 19 rfl rfl)
theorem dX10_entry_42 : decode cX10_entry 42 = .ok (.invokevirtual 32, 3) := dk_182 0 32 (dk_at dksX10_entry_1 20 rfl rfl)
theorem dX10_entry_45 : decode cX10_entry 45 = .ok (.if_icmp .lt 21, 3) := dk_161 0 21 (dk_at dksX10_entry_2 0 rfl rfl)
theorem dX10_entry_48 : decode cX10_entry 48 = .ok (.iload_n 2, 1) := dk_28 (dk_at dksX10_entry_2 3 rfl rfl)
theorem dX10_entry_49 : decode cX10_entry 49 = .ok (.aload_n 0, 1) := dk_42 (dk_at dksX10_entry_2 4 rfl rfl)
theorem dX10_entry_50 : decode cX10_entry 50 = .ok (.getfield 23, 3) := dk_180 0 23 (dk_at dksX10_entry_2 5 rfl rfl)
theorem dX10_entry_53 : decode cX10_entry 53 = .ok (.iload_n 3, 1) := dk_29 (dk_at dksX10_entry_2 8 rfl rfl)
theorem dX10_entry_54 : decode cX10_entry 54 = .ok (.aaload, 1) := dk_50 (dk_at dksX10_entry_2 9 rfl rfl)
theorem dX10_entry_55 : decode cX10_entry 55 = .ok (.invokevirtual 32, 3) := dk_182 0 32 (dk_at dksX10_entry_2 10 rfl rfl)
theorem dX10_entry_58 : decode cX10_entry 58 = .ok (.isub, 1) := dk_100 (dk_at dksX10_entry_2 13 rfl rfl)
theorem dX10_entry_59 : decode cX10_entry 59 = .ok (.istore_n 2, 1) := dk_61 (dk_at dksX10_entry_2 14 rfl rfl)
theorem dX10_entry_60 : decode cX10_entry 60 = .ok (.iinc 3 1, 3) := dk_132 3 1 (dk_at dksX10_entry_2 15 rfl rfl)
theorem dX10_entry_63 : decode cX10_entry 63 = .ok (.goto (-28), 3) := dk_167 255 228 (dk_at dksX10_entry_2 18 rfl rfl)
theorem dX10_entry_66 : decode cX10_entry 66 = .ok (.aload_n 0, 1) := dk_42 (dk_at dksX10_entry_2 21 rfl rfl)
theorem dX10_entry_67 : decode cX10_entry 67 = .ok (.getfield 23, 3) := dk_180 0 23 (dk_at dksX10_entry_3 0 rfl rfl)
theorem dX10_entry_70 : decode cX10_entry 70 = .ok (.iload_n 3, 1) := dk_29 (dk_at dksX10_entry_3 3 rfl rfl)
theorem dX10_entry_71 : decode cX10_entry 71 = .ok (.aaload, 1) := dk_50 (dk_at dksX10_entry_3 4 rfl rfl)
theorem dX10_entry_72 : decode cX10_entry 72 = .ok (.iload_n 2, 1) := dk_28 (dk_at dksX10_entry_3 5 rfl rfl)
theorem dX10_entry_73 : decode cX10_entry 73 = .ok (.invokevirtual 69, 3) := dk_182 0 69 (dk_at dksX10_entry_3 6 rfl rfl)
theorem dX10_entry_76 : decode cX10_entry 76 = .ok (.ireturn, 1) := dk_172 (dk_at dksX10_entry_3 9 rfl rfl)
theorem q134 : (Jvm.Cond.initialized "DictProof$Proof") ∈ lw_all := lw_g (lw_at lw_m1 20 rfl) rfl
theorem q159 : (Jvm.Cond.fieldLink "DictProof$Proof" (41 : Nat) "DictProof$Instance" "number" "I") ∈ lw_all := lw_g (lw_at lw_m1 45 rfl) rfl
theorem q178 : (Jvm.Cond.fieldLink "DictProof$Proof" (27 : Nat) "DictProof$Instance" "many" "I") ∈ lw_all := lw_g (lw_at lw_m1 64 rfl) rfl
theorem q568 : (Jvm.Cond.selects "DictProof$Proof" ({ cls := "java/lang/Object", name := "hashCode", desc := "()I" } : Jvm.MethodName) ({ cls := "java/lang/Object", name := "hashCode", desc := "()I" } : Jvm.MethodName)) ∈ lw_all := lw_g (lw_at lw_m2 214 rfl) rfl
theorem q600 : (Jvm.Cond.selects "DictProof$Proof" ({ cls := "java/lang/Object", name := "equals", desc := "(Ljava/lang/Object;)Z" } : Jvm.MethodName) ({ cls := "java/lang/Object", name := "equals", desc := "(Ljava/lang/Object;)Z" } : Jvm.MethodName)) ∈ lw_all := lw_g (lw_at lw_m3 6 rfl) rfl
theorem q641 : (Jvm.Cond.selects "DictProof$Proof" ({ cls := "java/lang/Object", name := "getClass", desc := "()Ljava/lang/Class;" } : Jvm.MethodName) ({ cls := "java/lang/Object", name := "getClass", desc := "()Ljava/lang/Class;" } : Jvm.MethodName)) ∈ lw_all := lw_g (lw_at lw_m3 47 rfl) rfl
theorem q886 : (Jvm.Cond.instantiable "DictProof$Proof" (4 : Nat)) ∈ lw_all := lw_g (lw_at lw_m4 52 rfl) rfl
theorem q888 : (Jvm.Cond.instanceMethod ({ cls := "DictProof$Proof", name := "<init>", desc := "(LDictProof$Goal;ILDictProof$Instance;[LDictProof$Proof;)V" } : Jvm.MethodName)) ∈ lw_all := lw_g (lw_at lw_m4 54 rfl) rfl
theorem q889 : (Jvm.Cond.code ({ cls := "DictProof$Proof", name := "<init>", desc := "(LDictProof$Goal;ILDictProof$Instance;[LDictProof$Proof;)V" } : Jvm.MethodName) prog_7_method_1_code (5 : Nat) (Option.none : Option Jvm.ClassFile.FieldType)) ∈ lw_all := lw_g (lw_at lw_m4 55 rfl) rfl
theorem q890 : (Jvm.Cond.methodLink "DictProof$Proof" (3 : Nat) ({ cls := "java/lang/Object", name := "<init>", desc := "()V" } : Jvm.MethodName)) ∈ lw_all := lw_g (lw_at lw_m4 56 rfl) rfl
theorem q891 : (Jvm.Cond.fieldLink "DictProof$Proof" (9 : Nat) "DictProof$Proof" "goal" "LDictProof$Goal;") ∈ lw_all := lw_g (lw_at lw_m4 57 rfl) rfl
theorem q892 : (Jvm.Cond.fieldLink "DictProof$Proof" (15 : Nat) "DictProof$Proof" "outcome" "I") ∈ lw_all := lw_g (lw_at lw_m4 58 rfl) rfl
theorem q894 : (Jvm.Cond.fieldLink "DictProof$Proof" (19 : Nat) "DictProof$Proof" "taken" "LDictProof$Instance;") ∈ lw_all := lw_g (lw_at lw_m4 60 rfl) rfl
theorem q895 : (Jvm.Cond.fieldLink "DictProof$Proof" (23 : Nat) "DictProof$Proof" "parts" "[LDictProof$Proof;") ∈ lw_all := lw_g (lw_at lw_m4 61 rfl) rfl
theorem q896 : (Jvm.Cond.laysFinal "DictProof$Proof" "DictProof$Proof" "goal" "LDictProof$Goal;") ∈ lw_all := lw_g (lw_at lw_m4 62 rfl) rfl
theorem q897 : (Jvm.Cond.soleField "DictProof$Proof" "goal") ∈ lw_all := lw_g (lw_at lw_m4 63 rfl) rfl
theorem q898 : (Jvm.Cond.laysFinal "DictProof$Proof" "DictProof$Proof" "outcome" "I") ∈ lw_all := lw_g (lw_at lw_m4 64 rfl) rfl
theorem q899 : (Jvm.Cond.soleField "DictProof$Proof" "outcome") ∈ lw_all := lw_g (lw_at lw_m4 65 rfl) rfl
theorem q900 : (Jvm.Cond.laysFinal "DictProof$Proof" "DictProof$Proof" "taken" "LDictProof$Instance;") ∈ lw_all := lw_g (lw_at lw_m4 66 rfl) rfl
theorem q901 : (Jvm.Cond.soleField "DictProof$Proof" "taken") ∈ lw_all := lw_g (lw_at lw_m4 67 rfl) rfl
theorem q902 : (Jvm.Cond.laysFinal "DictProof$Proof" "DictProof$Proof" "parts" "[LDictProof$Proof;") ∈ lw_all := lw_g (lw_at lw_m4 68 rfl) rfl
theorem q903 : (Jvm.Cond.soleField "DictProof$Proof" "parts") ∈ lw_all := lw_g (lw_at lw_m4 69 rfl) rfl
theorem q904 : (Jvm.Cond.superclass "DictProof$Proof" "java/lang/Object") ∈ lw_all := lw_g (lw_at lw_m4 70 rfl) rfl
theorem q982 : (Jvm.Cond.instanceMethod ({ cls := "DictProof$Proof", name := "size", desc := "()I" } : Jvm.MethodName)) ∈ lw_all := lw_g (lw_at lw_m4 148 rfl) rfl
theorem q983 : (Jvm.Cond.selects "DictProof$Proof" ({ cls := "DictProof$Proof", name := "size", desc := "()I" } : Jvm.MethodName) ({ cls := "DictProof$Proof", name := "size", desc := "()I" } : Jvm.MethodName)) ∈ lw_all := lw_g (lw_at lw_m4 149 rfl) rfl
theorem q984 : (Jvm.Cond.code ({ cls := "DictProof$Proof", name := "size", desc := "()I" } : Jvm.MethodName) prog_7_method_2_code (3 : Nat) (Option.some Jvm.ClassFile.FieldType.int)) ∈ lw_all := lw_g (lw_at lw_m4 150 rfl) rfl
theorem q985 : (Jvm.Cond.methodLink "DictProof$Proof" (32 : Nat) ({ cls := "DictProof$Proof", name := "size", desc := "()I" } : Jvm.MethodName)) ∈ lw_all := lw_g (lw_at lw_m4 151 rfl) rfl
theorem q987 : (Jvm.Cond.instanceMethod ({ cls := "DictProof$Proof", name := "worth", desc := "()I" } : Jvm.MethodName)) ∈ lw_all := lw_g (lw_at lw_m4 153 rfl) rfl
theorem q988 : (Jvm.Cond.selects "DictProof$Proof" ({ cls := "DictProof$Proof", name := "worth", desc := "()I" } : Jvm.MethodName) ({ cls := "DictProof$Proof", name := "worth", desc := "()I" } : Jvm.MethodName)) ∈ lw_all := lw_g (lw_at lw_m4 154 rfl) rfl
theorem q989 : (Jvm.Cond.code ({ cls := "DictProof$Proof", name := "worth", desc := "()I" } : Jvm.MethodName) prog_7_method_3_code (3 : Nat) (Option.some Jvm.ClassFile.FieldType.int)) ∈ lw_all := lw_g (lw_at lw_m4 155 rfl) rfl
theorem q990 : (Jvm.Cond.methodLink "DictProof$Proof" (36 : Nat) ({ cls := "DictProof$Goal", name := "need", desc := "()I" } : Jvm.MethodName)) ∈ lw_all := lw_g (lw_at lw_m4 156 rfl) rfl
theorem q995 : (Jvm.Cond.methodLink "DictProof$Proof" (44 : Nat) ({ cls := "DictProof$Proof", name := "worth", desc := "()I" } : Jvm.MethodName)) ∈ lw_all := lw_g (lw_at lw_m4 161 rfl) rfl
theorem q1018 : (Jvm.Cond.instanceMethod ({ cls := "DictProof$Proof", name := "gather", desc := "(Ljava/util/HashSet;)V" } : Jvm.MethodName)) ∈ lw_all := lw_g (lw_at lw_m4 184 rfl) rfl
theorem q1019 : (Jvm.Cond.selects "DictProof$Proof" ({ cls := "DictProof$Proof", name := "gather", desc := "(Ljava/util/HashSet;)V" } : Jvm.MethodName) ({ cls := "DictProof$Proof", name := "gather", desc := "(Ljava/util/HashSet;)V" } : Jvm.MethodName)) ∈ lw_all := lw_g (lw_at lw_m4 185 rfl) rfl
theorem q1020 : (Jvm.Cond.code ({ cls := "DictProof$Proof", name := "gather", desc := "(Ljava/util/HashSet;)V" } : Jvm.MethodName) prog_7_method_5_code (3 : Nat) (Option.none : Option Jvm.ClassFile.FieldType)) ∈ lw_all := lw_g (lw_at lw_m4 186 rfl) rfl
theorem q1021 : (Jvm.Cond.methodLink "DictProof$Proof" (56 : Nat) ({ cls := "java/util/HashSet", name := "add", desc := "(Ljava/lang/Object;)Z" } : Jvm.MethodName)) ∈ lw_all := lw_g (lw_at lw_m4 187 rfl) rfl
theorem q1028 : (Jvm.Cond.methodLink "DictProof$Proof" (62 : Nat) ({ cls := "DictProof$Proof", name := "gather", desc := "(Ljava/util/HashSet;)V" } : Jvm.MethodName)) ∈ lw_all := lw_g (lw_at lw_m4 194 rfl) rfl
theorem q1038 : (Jvm.Cond.instanceMethod ({ cls := "DictProof$Proof", name := "depth", desc := "()I" } : Jvm.MethodName)) ∈ lw_all := lw_g (lw_at lw_m4 204 rfl) rfl
theorem q1039 : (Jvm.Cond.selects "DictProof$Proof" ({ cls := "DictProof$Proof", name := "depth", desc := "()I" } : Jvm.MethodName) ({ cls := "DictProof$Proof", name := "depth", desc := "()I" } : Jvm.MethodName)) ∈ lw_all := lw_g (lw_at lw_m4 205 rfl) rfl
theorem q1040 : (Jvm.Cond.code ({ cls := "DictProof$Proof", name := "depth", desc := "()I" } : Jvm.MethodName) prog_7_method_4_code (3 : Nat) (Option.some Jvm.ClassFile.FieldType.int)) ∈ lw_all := lw_g (lw_at lw_m4 206 rfl) rfl
theorem q1041 : (Jvm.Cond.methodLink "DictProof$Proof" (47 : Nat) ({ cls := "DictProof$Proof", name := "depth", desc := "()I" } : Jvm.MethodName)) ∈ lw_all := lw_g (lw_at lw_m4 207 rfl) rfl
theorem q1042 : (Jvm.Cond.methodLink "DictProof$Proof" (50 : Nat) ({ cls := "java/lang/Math", name := "max", desc := "(II)I" } : Jvm.MethodName)) ∈ lw_all := lw_g (lw_at lw_m4 208 rfl) rfl
theorem q1046 : (Jvm.Cond.instanceMethod ({ cls := "DictProof$Proof", name := "needs", desc := "()I" } : Jvm.MethodName)) ∈ lw_all := lw_g (lw_at lw_m4 212 rfl) rfl
theorem q1047 : (Jvm.Cond.selects "DictProof$Proof" ({ cls := "DictProof$Proof", name := "needs", desc := "()I" } : Jvm.MethodName) ({ cls := "DictProof$Proof", name := "needs", desc := "()I" } : Jvm.MethodName)) ∈ lw_all := lw_g (lw_at lw_m4 213 rfl) rfl
theorem q1048 : (Jvm.Cond.code ({ cls := "DictProof$Proof", name := "needs", desc := "()I" } : Jvm.MethodName) prog_7_method_6_code (3 : Nat) (Option.some Jvm.ClassFile.FieldType.int)) ∈ lw_all := lw_g (lw_at lw_m4 214 rfl) rfl
theorem q1049 : (Jvm.Cond.methodLink "DictProof$Proof" (66 : Nat) ({ cls := "DictProof$Proof", name := "needs", desc := "()I" } : Jvm.MethodName)) ∈ lw_all := lw_g (lw_at lw_m4 215 rfl) rfl
theorem q1065 : (Jvm.Cond.instanceMethod ({ cls := "DictProof$Proof", name := "entry", desc := "(I)I" } : Jvm.MethodName)) ∈ lw_all := lw_g (lw_at lw_m4 231 rfl) rfl
theorem q1066 : (Jvm.Cond.selects "DictProof$Proof" ({ cls := "DictProof$Proof", name := "entry", desc := "(I)I" } : Jvm.MethodName) ({ cls := "DictProof$Proof", name := "entry", desc := "(I)I" } : Jvm.MethodName)) ∈ lw_all := lw_g (lw_at lw_m4 232 rfl) rfl
theorem q1067 : (Jvm.Cond.code ({ cls := "DictProof$Proof", name := "entry", desc := "(I)I" } : Jvm.MethodName) prog_7_method_7_code (4 : Nat) (Option.some Jvm.ClassFile.FieldType.int)) ∈ lw_all := lw_g (lw_at lw_m4 233 rfl) rfl
theorem q1068 : (Jvm.Cond.methodLink "DictProof$Proof" (69 : Nat) ({ cls := "DictProof$Proof", name := "entry", desc := "(I)I" } : Jvm.MethodName)) ∈ lw_all := lw_g (lw_at lw_m4 234 rfl) rfl
theorem q2007 : (Jvm.Cond.castable "DictProof$Proof" "java/lang/Object") ∈ lw_tbl := lw_at lw_m8 213 rfl
theorem in_X10 : ∀ w ∈ wsX100, w ∈ lw_all := lw_in wsX100 [896, 898, 900, 902] (by decide +kernel) (by decide +kernel)

/-! java/lang/Throwable -/
set_option maxRecDepth 100000
def RJ8 : String := "java/lang/Throwable"
def TJ8 : u_T := fun k => match k with
  | 0 => ("java/lang/Throwable", "cause", "Ljava/lang/Throwable;", false)
  | 1 => ("java/lang/Throwable", "stackTrace", "[Ljava/lang/StackTraceElement;", false)
  | 2 => ("java/lang/Throwable", "suppressedExceptions", "Ljava/util/List;", false)
  | 3 => ("java/lang/Throwable", "detailMessage", "Ljava/lang/String;", false)
  | _ => ("java/lang/Throwable", "backtrace", "Ljava/lang/Object;", false)
def tyJ8 : Nat → FieldType := fun k => match k with
  | 0 => .object "java/lang/Throwable"
  | 1 => .array (.object "java/lang/StackTraceElement")
  | 2 => .object "java/util/List"
  | 3 => .object "java/lang/String"
  | _ => .object "java/lang/Object"
abbrev wsJ80 : List Cond := u_ws RJ8 TJ8 5
theorem nmJ8 : ∀ a, a < 5 → ∀ b, b < 5 → a ≠ b → (TJ8 a).2.1 ≠ (TJ8 b).2.1 := by decide +kernel
theorem tyJ8_ok : ∀ k, k < 5 → parseFieldDescriptor (TJ8 k).2.2.1 = some (tyJ8 k) := by decide +kernel
abbrev cJ8_init : ByteArray := prog_27_method_2_code
def yJ8_init : MethodName := ⟨RJ8, "<init>", "(Ljava/lang/String;)V"⟩
def dkwJ8_init_1 : List UInt8 := [182, 0, 27, 87, 42, 43, 181, 0, 31, 177]
abbrev dktJ8_init_1 : List UInt8 := dkwJ8_init_1 ++ []
def dkwJ8_init_0 : List UInt8 := [42, 183, 0, 1, 42, 42, 181, 0, 7, 42, 178, 0, 13, 181, 0, 17, 42, 178, 0, 20, 181, 0, 24, 42]
abbrev dktJ8_init_0 : List UInt8 := dkwJ8_init_0 ++ dktJ8_init_1
theorem dksJ8_init_0 : cJ8_init.data.toList.drop 0 = dktJ8_init_0 := by decide +kernel
theorem dksJ8_init_1 : cJ8_init.data.toList.drop 24 = dktJ8_init_1 := dk_seg dksJ8_init_0 24 rfl rfl
theorem dJ8_init_0 : decode cJ8_init 0 = .ok (.aload_n 0, 1) := dk_42 (dk_at dksJ8_init_0 0 rfl rfl)
theorem dJ8_init_1 : decode cJ8_init 1 = .ok (.invokespecial 1, 3) := dk_183 0 1 (dk_at dksJ8_init_0 1 rfl rfl)
theorem dJ8_init_4 : decode cJ8_init 4 = .ok (.aload_n 0, 1) := dk_42 (dk_at dksJ8_init_0 4 rfl rfl)
theorem dJ8_init_5 : decode cJ8_init 5 = .ok (.aload_n 0, 1) := dk_42 (dk_at dksJ8_init_0 5 rfl rfl)
theorem dJ8_init_6 : decode cJ8_init 6 = .ok (.putfield 7, 3) := dk_181 0 7 (dk_at dksJ8_init_0 6 rfl rfl)
theorem dJ8_init_9 : decode cJ8_init 9 = .ok (.aload_n 0, 1) := dk_42 (dk_at dksJ8_init_0 9 rfl rfl)
theorem dJ8_init_10 : decode cJ8_init 10 = .ok (.getstatic 13, 3) := dk_178 0 13 (dk_at dksJ8_init_0 10 rfl rfl)
theorem dJ8_init_13 : decode cJ8_init 13 = .ok (.putfield 17, 3) := dk_181 0 17 (dk_at dksJ8_init_0 13 rfl rfl)
theorem dJ8_init_16 : decode cJ8_init 16 = .ok (.aload_n 0, 1) := dk_42 (dk_at dksJ8_init_0 16 rfl rfl)
theorem dJ8_init_17 : decode cJ8_init 17 = .ok (.getstatic 20, 3) := dk_178 0 20 (dk_at dksJ8_init_0 17 rfl rfl)
theorem dJ8_init_20 : decode cJ8_init 20 = .ok (.putfield 24, 3) := dk_181 0 24 (dk_at dksJ8_init_0 20 rfl rfl)
theorem dJ8_init_23 : decode cJ8_init 23 = .ok (.aload_n 0, 1) := dk_42 (dk_at dksJ8_init_0 23 rfl rfl)
theorem dJ8_init_24 : decode cJ8_init 24 = .ok (.invokevirtual 27, 3) := dk_182 0 27 (dk_at dksJ8_init_1 0 rfl rfl)
theorem dJ8_init_27 : decode cJ8_init 27 = .ok (.pop, 1) := dk_87 (dk_at dksJ8_init_1 3 rfl rfl)
theorem dJ8_init_28 : decode cJ8_init 28 = .ok (.aload_n 0, 1) := dk_42 (dk_at dksJ8_init_1 4 rfl rfl)
theorem dJ8_init_29 : decode cJ8_init 29 = .ok (.aload_n 1, 1) := dk_43 (dk_at dksJ8_init_1 5 rfl rfl)
theorem dJ8_init_30 : decode cJ8_init 30 = .ok (.putfield 31, 3) := dk_181 0 31 (dk_at dksJ8_init_1 6 rfl rfl)
theorem dJ8_init_33 : decode cJ8_init 33 = .ok (.return_, 1) := dk_177 (dk_at dksJ8_init_1 9 rfl rfl)
abbrev cJ8_init_2 : ByteArray := prog_27_method_1_code
def yJ8_init_2 : MethodName := ⟨RJ8, "<init>", "()V"⟩
def dkwJ8_init_2_1 : List UInt8 := [182, 0, 27, 87, 177]
abbrev dktJ8_init_2_1 : List UInt8 := dkwJ8_init_2_1 ++ []
def dkwJ8_init_2_0 : List UInt8 := [42, 183, 0, 1, 42, 42, 181, 0, 7, 42, 178, 0, 13, 181, 0, 17, 42, 178, 0, 20, 181, 0, 24, 42]
abbrev dktJ8_init_2_0 : List UInt8 := dkwJ8_init_2_0 ++ dktJ8_init_2_1
theorem dksJ8_init_2_0 : cJ8_init_2.data.toList.drop 0 = dktJ8_init_2_0 := by decide +kernel
theorem dksJ8_init_2_1 : cJ8_init_2.data.toList.drop 24 = dktJ8_init_2_1 := dk_seg dksJ8_init_2_0 24 rfl rfl
theorem dJ8_init_2_0 : decode cJ8_init_2 0 = .ok (.aload_n 0, 1) := dk_42 (dk_at dksJ8_init_2_0 0 rfl rfl)
theorem dJ8_init_2_1 : decode cJ8_init_2 1 = .ok (.invokespecial 1, 3) := dk_183 0 1 (dk_at dksJ8_init_2_0 1 rfl rfl)
theorem dJ8_init_2_4 : decode cJ8_init_2 4 = .ok (.aload_n 0, 1) := dk_42 (dk_at dksJ8_init_2_0 4 rfl rfl)
theorem dJ8_init_2_5 : decode cJ8_init_2 5 = .ok (.aload_n 0, 1) := dk_42 (dk_at dksJ8_init_2_0 5 rfl rfl)
theorem dJ8_init_2_6 : decode cJ8_init_2 6 = .ok (.putfield 7, 3) := dk_181 0 7 (dk_at dksJ8_init_2_0 6 rfl rfl)
theorem dJ8_init_2_9 : decode cJ8_init_2 9 = .ok (.aload_n 0, 1) := dk_42 (dk_at dksJ8_init_2_0 9 rfl rfl)
theorem dJ8_init_2_10 : decode cJ8_init_2 10 = .ok (.getstatic 13, 3) := dk_178 0 13 (dk_at dksJ8_init_2_0 10 rfl rfl)
theorem dJ8_init_2_13 : decode cJ8_init_2 13 = .ok (.putfield 17, 3) := dk_181 0 17 (dk_at dksJ8_init_2_0 13 rfl rfl)
theorem dJ8_init_2_16 : decode cJ8_init_2 16 = .ok (.aload_n 0, 1) := dk_42 (dk_at dksJ8_init_2_0 16 rfl rfl)
theorem dJ8_init_2_17 : decode cJ8_init_2 17 = .ok (.getstatic 20, 3) := dk_178 0 20 (dk_at dksJ8_init_2_0 17 rfl rfl)
theorem dJ8_init_2_20 : decode cJ8_init_2 20 = .ok (.putfield 24, 3) := dk_181 0 24 (dk_at dksJ8_init_2_0 20 rfl rfl)
theorem dJ8_init_2_23 : decode cJ8_init_2 23 = .ok (.aload_n 0, 1) := dk_42 (dk_at dksJ8_init_2_0 23 rfl rfl)
theorem dJ8_init_2_24 : decode cJ8_init_2 24 = .ok (.invokevirtual 27, 3) := dk_182 0 27 (dk_at dksJ8_init_2_1 0 rfl rfl)
theorem dJ8_init_2_27 : decode cJ8_init_2 27 = .ok (.pop, 1) := dk_87 (dk_at dksJ8_init_2_1 3 rfl rfl)
theorem dJ8_init_2_28 : decode cJ8_init_2 28 = .ok (.return_, 1) := dk_177 (dk_at dksJ8_init_2_1 4 rfl rfl)
theorem q135 : (Jvm.Cond.initialized "java/lang/Throwable") ∈ lw_all := lw_g (lw_at lw_m1 21 rfl) rfl
theorem q1221 : (Jvm.Cond.instanceMethod ({ cls := "java/lang/Throwable", name := "<init>", desc := "(Ljava/lang/String;)V" } : Jvm.MethodName)) ∈ lw_all := lw_g (lw_at lw_m5 147 rfl) rfl
theorem q1222 : (Jvm.Cond.code ({ cls := "java/lang/Throwable", name := "<init>", desc := "(Ljava/lang/String;)V" } : Jvm.MethodName) prog_27_method_2_code (2 : Nat) (Option.none : Option Jvm.ClassFile.FieldType)) ∈ lw_all := lw_g (lw_at lw_m5 148 rfl) rfl
theorem q1223 : (Jvm.Cond.methodLink "java/lang/Throwable" (1 : Nat) ({ cls := "java/lang/Object", name := "<init>", desc := "()V" } : Jvm.MethodName)) ∈ lw_all := lw_g (lw_at lw_m5 149 rfl) rfl
theorem q1224 : (Jvm.Cond.fieldLink "java/lang/Throwable" (13 : Nat) "java/lang/Throwable" "UNASSIGNED_STACK" "[Ljava/lang/StackTraceElement;") ∈ lw_all := lw_g (lw_at lw_m5 150 rfl) rfl
theorem q1225 : (Jvm.Cond.laysStatic "java/lang/Throwable" "UNASSIGNED_STACK" "[Ljava/lang/StackTraceElement;") ∈ lw_tbl := lw_at lw_m5 151 rfl
theorem q1226 : (Jvm.Cond.fieldLink "java/lang/Throwable" (20 : Nat) "java/lang/Throwable" "SUPPRESSED_SENTINEL" "Ljava/util/List;") ∈ lw_all := lw_g (lw_at lw_m5 152 rfl) rfl
theorem q1227 : (Jvm.Cond.laysStatic "java/lang/Throwable" "SUPPRESSED_SENTINEL" "Ljava/util/List;") ∈ lw_tbl := lw_at lw_m5 153 rfl
theorem q1228 : (Jvm.Cond.methodLink "java/lang/Throwable" (27 : Nat) ({ cls := "java/lang/Throwable", name := "fillInStackTrace", desc := "()Ljava/lang/Throwable;" } : Jvm.MethodName)) ∈ lw_all := lw_g (lw_at lw_m5 154 rfl) rfl
theorem q1229 : (Jvm.Cond.instanceMethod ({ cls := "java/lang/Throwable", name := "fillInStackTrace", desc := "()Ljava/lang/Throwable;" } : Jvm.MethodName)) ∈ lw_all := lw_g (lw_at lw_m5 155 rfl) rfl
theorem q1230 : (Jvm.Cond.sameMethod "java/lang/Throwable" "java/lang/Throwable" "fillInStackTrace" "()Ljava/lang/Throwable;") ∈ lw_all := lw_g (lw_at lw_m5 156 rfl) rfl
theorem q1232 : (Jvm.Cond.codeSync ({ cls := "java/lang/Throwable", name := "fillInStackTrace", desc := "()Ljava/lang/Throwable;" } : Jvm.MethodName) prog_27_method_18_code (1 : Nat) (Option.some (Jvm.ClassFile.FieldType.object "java/lang/Throwable"))) ∈ lw_all := lw_g (lw_at lw_m5 158 rfl) rfl
theorem q1233 : (Jvm.Cond.methodLink "java/lang/Throwable" (202 : Nat) ({ cls := "java/lang/Throwable", name := "fillInStackTrace", desc := "(I)Ljava/lang/Throwable;" } : Jvm.MethodName)) ∈ lw_all := lw_g (lw_at lw_m5 159 rfl) rfl
theorem q1234 : (Jvm.Cond.privateMethod ({ cls := "java/lang/Throwable", name := "fillInStackTrace", desc := "(I)Ljava/lang/Throwable;" } : Jvm.MethodName)) ∈ lw_tbl := lw_at lw_m5 160 rfl
theorem q1235 : (Jvm.Cond.instanceMethod ({ cls := "java/lang/Throwable", name := "fillInStackTrace", desc := "(I)Ljava/lang/Throwable;" } : Jvm.MethodName)) ∈ lw_all := lw_g (lw_at lw_m5 161 rfl) rfl
theorem q1236 : (Jvm.Cond.instantiable "java/lang/Throwable" (6 : Nat)) ∈ lw_all := lw_g (lw_at lw_m5 162 rfl) rfl
theorem q1237 : (Jvm.Cond.native ({ cls := "java/lang/Throwable", name := "fillInStackTrace", desc := "(I)Ljava/lang/Throwable;" } : Jvm.MethodName)) ∈ lw_all := lw_g (lw_at lw_m5 163 rfl) rfl
theorem q1238 : (Jvm.Cond.fieldLink "java/lang/Throwable" (198 : Nat) "java/lang/Throwable" "backtrace" "Ljava/lang/Object;") ∈ lw_all := lw_g (lw_at lw_m5 164 rfl) rfl
theorem q1239 : (Jvm.Cond.fieldLink "java/lang/Throwable" (31 : Nat) "java/lang/Throwable" "detailMessage" "Ljava/lang/String;") ∈ lw_all := lw_g (lw_at lw_m5 165 rfl) rfl
theorem q1240 : (Jvm.Cond.fieldLink "java/lang/Throwable" (7 : Nat) "java/lang/Throwable" "cause" "Ljava/lang/Throwable;") ∈ lw_all := lw_g (lw_at lw_m5 166 rfl) rfl
theorem q1241 : (Jvm.Cond.fieldLink "java/lang/Throwable" (17 : Nat) "java/lang/Throwable" "stackTrace" "[Ljava/lang/StackTraceElement;") ∈ lw_all := lw_g (lw_at lw_m5 167 rfl) rfl
theorem q1242 : (Jvm.Cond.fieldLink "java/lang/Throwable" (24 : Nat) "java/lang/Throwable" "suppressedExceptions" "Ljava/util/List;") ∈ lw_all := lw_g (lw_at lw_m5 168 rfl) rfl
theorem q1244 : (Jvm.Cond.soleField "java/lang/Throwable" "backtrace") ∈ lw_all := lw_g (lw_at lw_m5 170 rfl) rfl
theorem q1246 : (Jvm.Cond.soleField "java/lang/Throwable" "detailMessage") ∈ lw_all := lw_g (lw_at lw_m5 172 rfl) rfl
theorem q1248 : (Jvm.Cond.soleField "java/lang/Throwable" "cause") ∈ lw_all := lw_g (lw_at lw_m5 174 rfl) rfl
theorem q1250 : (Jvm.Cond.soleField "java/lang/Throwable" "stackTrace") ∈ lw_all := lw_g (lw_at lw_m5 176 rfl) rfl
theorem q1252 : (Jvm.Cond.soleField "java/lang/Throwable" "depth") ∈ lw_all := lw_g (lw_at lw_m5 178 rfl) rfl
theorem q1254 : (Jvm.Cond.soleField "java/lang/Throwable" "suppressedExceptions") ∈ lw_all := lw_g (lw_at lw_m5 180 rfl) rfl
theorem q1261 : (Jvm.Cond.declares ({ cls := "java/lang/Throwable", name := "<init>", desc := "()V" } : Jvm.MethodName)) ∈ lw_tbl := lw_at lw_m5 187 rfl
theorem q1262 : (Jvm.Cond.declares ({ cls := "java/lang/Throwable", name := "<init>", desc := "(Ljava/lang/String;)V" } : Jvm.MethodName)) ∈ lw_tbl := lw_at lw_m5 188 rfl
theorem q1264 : (Jvm.Cond.lays "java/lang/Throwable" "java/lang/Throwable" "cause" "Ljava/lang/Throwable;") ∈ lw_all := lw_g (lw_at lw_m5 190 rfl) rfl
theorem q1265 : (Jvm.Cond.lays "java/lang/Throwable" "java/lang/Throwable" "stackTrace" "[Ljava/lang/StackTraceElement;") ∈ lw_all := lw_g (lw_at lw_m5 191 rfl) rfl
theorem q1266 : (Jvm.Cond.lays "java/lang/Throwable" "java/lang/Throwable" "suppressedExceptions" "Ljava/util/List;") ∈ lw_all := lw_g (lw_at lw_m5 192 rfl) rfl
theorem q1267 : (Jvm.Cond.lays "java/lang/Throwable" "java/lang/Throwable" "detailMessage" "Ljava/lang/String;") ∈ lw_all := lw_g (lw_at lw_m5 193 rfl) rfl
theorem q1268 : (Jvm.Cond.lays "java/lang/Throwable" "java/lang/Throwable" "backtrace" "Ljava/lang/Object;") ∈ lw_all := lw_g (lw_at lw_m5 194 rfl) rfl
theorem q1269 : (Jvm.Cond.fieldLink "java/lang/Throwable" (198 : Nat) "java/lang/Throwable" "backtrace" "Ljava/lang/Object;") ∈ lw_all := lw_g (lw_at lw_m5 195 rfl) rfl
theorem q1270 : (Jvm.Cond.superclass "java/lang/Throwable" "java/lang/Object") ∈ lw_all := lw_g (lw_at lw_m5 196 rfl) rfl
theorem q1271 : (Jvm.Cond.instanceMethod ({ cls := "java/lang/Throwable", name := "<init>", desc := "()V" } : Jvm.MethodName)) ∈ lw_all := lw_g (lw_at lw_m5 197 rfl) rfl
theorem q1272 : (Jvm.Cond.code ({ cls := "java/lang/Throwable", name := "<init>", desc := "()V" } : Jvm.MethodName) prog_27_method_1_code (1 : Nat) (Option.none : Option Jvm.ClassFile.FieldType)) ∈ lw_all := lw_g (lw_at lw_m5 198 rfl) rfl
theorem q1983 : (Jvm.Cond.sameMethod "java/lang/Throwable" "java/lang/Throwable" "fillInStackTrace" "(I)Ljava/lang/Throwable;") ∈ lw_all := lw_g (lw_at lw_m8 189 rfl) rfl
theorem q2010 : (Jvm.Cond.castable "java/lang/Throwable" "java/lang/Object") ∈ lw_tbl := lw_at lw_m8 216 rfl
theorem in_J8 : ∀ w ∈ wsJ80, w ∈ lw_all := lw_in wsJ80 [1264, 1265, 1266, 1267, 1268] (by decide +kernel) (by decide +kernel)

/-! java/lang/Exception -/
set_option maxRecDepth 100000
def RJ9 : String := "java/lang/Exception"
abbrev cJ9_init : ByteArray := prog_18_method_2_code
def yJ9_init : MethodName := ⟨RJ9, "<init>", "(Ljava/lang/String;)V"⟩
def dkwJ9_init_0 : List UInt8 := [42, 43, 183, 0, 7, 177]
abbrev dktJ9_init_0 : List UInt8 := dkwJ9_init_0 ++ []
theorem dksJ9_init_0 : cJ9_init.data.toList.drop 0 = dktJ9_init_0 := by decide +kernel
theorem dJ9_init_0 : decode cJ9_init 0 = .ok (.aload_n 0, 1) := dk_42 (dk_at dksJ9_init_0 0 rfl rfl)
theorem dJ9_init_1 : decode cJ9_init 1 = .ok (.aload_n 1, 1) := dk_43 (dk_at dksJ9_init_0 1 rfl rfl)
theorem dJ9_init_2 : decode cJ9_init 2 = .ok (.invokespecial 7, 3) := dk_183 0 7 (dk_at dksJ9_init_0 2 rfl rfl)
theorem dJ9_init_5 : decode cJ9_init 5 = .ok (.return_, 1) := dk_177 (dk_at dksJ9_init_0 5 rfl rfl)
theorem q136 : (Jvm.Cond.initialized "java/lang/Exception") ∈ lw_all := lw_g (lw_at lw_m1 22 rfl) rfl
theorem q1218 : (Jvm.Cond.instanceMethod ({ cls := "java/lang/Exception", name := "<init>", desc := "(Ljava/lang/String;)V" } : Jvm.MethodName)) ∈ lw_all := lw_g (lw_at lw_m5 144 rfl) rfl
theorem q1219 : (Jvm.Cond.code ({ cls := "java/lang/Exception", name := "<init>", desc := "(Ljava/lang/String;)V" } : Jvm.MethodName) prog_18_method_2_code (2 : Nat) (Option.none : Option Jvm.ClassFile.FieldType)) ∈ lw_all := lw_g (lw_at lw_m5 145 rfl) rfl
theorem q1220 : (Jvm.Cond.methodLink "java/lang/Exception" (7 : Nat) ({ cls := "java/lang/Throwable", name := "<init>", desc := "(Ljava/lang/String;)V" } : Jvm.MethodName)) ∈ lw_all := lw_g (lw_at lw_m5 146 rfl) rfl
theorem q1259 : (Jvm.Cond.declares ({ cls := "java/lang/Exception", name := "<init>", desc := "()V" } : Jvm.MethodName)) ∈ lw_tbl := lw_at lw_m5 185 rfl
theorem q1260 : (Jvm.Cond.declares ({ cls := "java/lang/Exception", name := "<init>", desc := "(Ljava/lang/String;)V" } : Jvm.MethodName)) ∈ lw_tbl := lw_at lw_m5 186 rfl

/-! java/lang/RuntimeException -/
set_option maxRecDepth 100000
def RJ10 : String := "java/lang/RuntimeException"
abbrev cJ10_init : ByteArray := prog_24_method_2_code
def yJ10_init : MethodName := ⟨RJ10, "<init>", "(Ljava/lang/String;)V"⟩
def dkwJ10_init_0 : List UInt8 := [42, 43, 183, 0, 7, 177]
abbrev dktJ10_init_0 : List UInt8 := dkwJ10_init_0 ++ []
theorem dksJ10_init_0 : cJ10_init.data.toList.drop 0 = dktJ10_init_0 := by decide +kernel
theorem dJ10_init_0 : decode cJ10_init 0 = .ok (.aload_n 0, 1) := dk_42 (dk_at dksJ10_init_0 0 rfl rfl)
theorem dJ10_init_1 : decode cJ10_init 1 = .ok (.aload_n 1, 1) := dk_43 (dk_at dksJ10_init_0 1 rfl rfl)
theorem dJ10_init_2 : decode cJ10_init 2 = .ok (.invokespecial 7, 3) := dk_183 0 7 (dk_at dksJ10_init_0 2 rfl rfl)
theorem dJ10_init_5 : decode cJ10_init 5 = .ok (.return_, 1) := dk_177 (dk_at dksJ10_init_0 5 rfl rfl)
theorem q137 : (Jvm.Cond.initialized "java/lang/RuntimeException") ∈ lw_all := lw_g (lw_at lw_m1 23 rfl) rfl
theorem q1215 : (Jvm.Cond.instanceMethod ({ cls := "java/lang/RuntimeException", name := "<init>", desc := "(Ljava/lang/String;)V" } : Jvm.MethodName)) ∈ lw_all := lw_g (lw_at lw_m5 141 rfl) rfl
theorem q1216 : (Jvm.Cond.code ({ cls := "java/lang/RuntimeException", name := "<init>", desc := "(Ljava/lang/String;)V" } : Jvm.MethodName) prog_24_method_2_code (2 : Nat) (Option.none : Option Jvm.ClassFile.FieldType)) ∈ lw_all := lw_g (lw_at lw_m5 142 rfl) rfl
theorem q1217 : (Jvm.Cond.methodLink "java/lang/RuntimeException" (7 : Nat) ({ cls := "java/lang/Exception", name := "<init>", desc := "(Ljava/lang/String;)V" } : Jvm.MethodName)) ∈ lw_all := lw_g (lw_at lw_m5 143 rfl) rfl
theorem q1257 : (Jvm.Cond.declares ({ cls := "java/lang/RuntimeException", name := "<init>", desc := "()V" } : Jvm.MethodName)) ∈ lw_tbl := lw_at lw_m5 183 rfl
theorem q1258 : (Jvm.Cond.declares ({ cls := "java/lang/RuntimeException", name := "<init>", desc := "(Ljava/lang/String;)V" } : Jvm.MethodName)) ∈ lw_tbl := lw_at lw_m5 184 rfl

/-! java/lang/ClassCastException -/
set_option maxRecDepth 100000
def RJ11 : String := "java/lang/ClassCastException"
def TJ11 : u_T := fun k => match k with
  | 0 => ("java/lang/Throwable", "backtrace", "Ljava/lang/Object;", false)
  | 1 => ("java/lang/Throwable", "detailMessage", "Ljava/lang/String;", false)
  | 2 => ("java/lang/Throwable", "cause", "Ljava/lang/Throwable;", false)
  | 3 => ("java/lang/Throwable", "stackTrace", "[Ljava/lang/StackTraceElement;", false)
  | 4 => ("java/lang/Throwable", "depth", "I", false)
  | _ => ("java/lang/Throwable", "suppressedExceptions", "Ljava/util/List;", false)
def tyJ11 : Nat → FieldType := fun k => match k with
  | 0 => .object "java/lang/Object"
  | 1 => .object "java/lang/String"
  | 2 => .object "java/lang/Throwable"
  | 3 => .array (.object "java/lang/StackTraceElement")
  | 4 => .int
  | _ => .object "java/util/List"
abbrev wsJ110 : List Cond := u_ws RJ11 TJ11 6
theorem nmJ11 : ∀ a, a < 6 → ∀ b, b < 6 → a ≠ b → (TJ11 a).2.1 ≠ (TJ11 b).2.1 := by decide +kernel
theorem tyJ11_ok : ∀ k, k < 6 → parseFieldDescriptor (TJ11 k).2.2.1 = some (tyJ11 k) := by decide +kernel
abbrev cJ11_init : ByteArray := prog_15_method_2_code
def yJ11_init : MethodName := ⟨RJ11, "<init>", "(Ljava/lang/String;)V"⟩
def dkwJ11_init_0 : List UInt8 := [42, 43, 183, 0, 7, 177]
abbrev dktJ11_init_0 : List UInt8 := dkwJ11_init_0 ++ []
theorem dksJ11_init_0 : cJ11_init.data.toList.drop 0 = dktJ11_init_0 := by decide +kernel
theorem dJ11_init_0 : decode cJ11_init 0 = .ok (.aload_n 0, 1) := dk_42 (dk_at dksJ11_init_0 0 rfl rfl)
theorem dJ11_init_1 : decode cJ11_init 1 = .ok (.aload_n 1, 1) := dk_43 (dk_at dksJ11_init_0 1 rfl rfl)
theorem dJ11_init_2 : decode cJ11_init 2 = .ok (.invokespecial 7, 3) := dk_183 0 7 (dk_at dksJ11_init_0 2 rfl rfl)
theorem dJ11_init_5 : decode cJ11_init 5 = .ok (.return_, 1) := dk_177 (dk_at dksJ11_init_0 5 rfl rfl)
theorem q138 : (Jvm.Cond.initialized "java/lang/ClassCastException") ∈ lw_all := lw_g (lw_at lw_m1 24 rfl) rfl
theorem q573 : (Jvm.Cond.selects "java/lang/ClassCastException" ({ cls := "java/lang/Object", name := "hashCode", desc := "()I" } : Jvm.MethodName) ({ cls := "java/lang/Object", name := "hashCode", desc := "()I" } : Jvm.MethodName)) ∈ lw_all := lw_g (lw_at lw_m2 219 rfl) rfl
theorem q605 : (Jvm.Cond.selects "java/lang/ClassCastException" ({ cls := "java/lang/Object", name := "equals", desc := "(Ljava/lang/Object;)Z" } : Jvm.MethodName) ({ cls := "java/lang/Object", name := "equals", desc := "(Ljava/lang/Object;)Z" } : Jvm.MethodName)) ∈ lw_all := lw_g (lw_at lw_m3 11 rfl) rfl
theorem q646 : (Jvm.Cond.selects "java/lang/ClassCastException" ({ cls := "java/lang/Object", name := "getClass", desc := "()Ljava/lang/Class;" } : Jvm.MethodName) ({ cls := "java/lang/Object", name := "getClass", desc := "()Ljava/lang/Class;" } : Jvm.MethodName)) ∈ lw_all := lw_g (lw_at lw_m3 52 rfl) rfl
theorem q1211 : (Jvm.Cond.instantiable "java/lang/ClassCastException" (6 : Nat)) ∈ lw_all := lw_g (lw_at lw_m5 137 rfl) rfl
theorem q1212 : (Jvm.Cond.instanceMethod ({ cls := "java/lang/ClassCastException", name := "<init>", desc := "(Ljava/lang/String;)V" } : Jvm.MethodName)) ∈ lw_all := lw_g (lw_at lw_m5 138 rfl) rfl
theorem q1213 : (Jvm.Cond.code ({ cls := "java/lang/ClassCastException", name := "<init>", desc := "(Ljava/lang/String;)V" } : Jvm.MethodName) prog_15_method_2_code (2 : Nat) (Option.none : Option Jvm.ClassFile.FieldType)) ∈ lw_all := lw_g (lw_at lw_m5 139 rfl) rfl
theorem q1214 : (Jvm.Cond.methodLink "java/lang/ClassCastException" (7 : Nat) ({ cls := "java/lang/RuntimeException", name := "<init>", desc := "(Ljava/lang/String;)V" } : Jvm.MethodName)) ∈ lw_all := lw_g (lw_at lw_m5 140 rfl) rfl
theorem q1231 : (Jvm.Cond.selects "java/lang/ClassCastException" ({ cls := "java/lang/Throwable", name := "fillInStackTrace", desc := "()Ljava/lang/Throwable;" } : Jvm.MethodName) ({ cls := "java/lang/Throwable", name := "fillInStackTrace", desc := "()Ljava/lang/Throwable;" } : Jvm.MethodName)) ∈ lw_all := lw_g (lw_at lw_m5 157 rfl) rfl
theorem q1243 : (Jvm.Cond.lays "java/lang/ClassCastException" "java/lang/Throwable" "backtrace" "Ljava/lang/Object;") ∈ lw_all := lw_g (lw_at lw_m5 169 rfl) rfl
theorem q1245 : (Jvm.Cond.lays "java/lang/ClassCastException" "java/lang/Throwable" "detailMessage" "Ljava/lang/String;") ∈ lw_all := lw_g (lw_at lw_m5 171 rfl) rfl
theorem q1247 : (Jvm.Cond.lays "java/lang/ClassCastException" "java/lang/Throwable" "cause" "Ljava/lang/Throwable;") ∈ lw_all := lw_g (lw_at lw_m5 173 rfl) rfl
theorem q1249 : (Jvm.Cond.lays "java/lang/ClassCastException" "java/lang/Throwable" "stackTrace" "[Ljava/lang/StackTraceElement;") ∈ lw_all := lw_g (lw_at lw_m5 175 rfl) rfl
theorem q1251 : (Jvm.Cond.lays "java/lang/ClassCastException" "java/lang/Throwable" "depth" "I") ∈ lw_all := lw_g (lw_at lw_m5 177 rfl) rfl
theorem q1253 : (Jvm.Cond.lays "java/lang/ClassCastException" "java/lang/Throwable" "suppressedExceptions" "Ljava/util/List;") ∈ lw_all := lw_g (lw_at lw_m5 179 rfl) rfl
theorem q1255 : (Jvm.Cond.superclass "java/lang/ClassCastException" "java/lang/RuntimeException") ∈ lw_all := lw_g (lw_at lw_m5 181 rfl) rfl
theorem q1256 : (Jvm.Cond.castable "java/lang/ClassCastException" "java/lang/ClassCastException") ∈ lw_tbl := lw_at lw_m5 182 rfl
theorem q1263 : (Jvm.Cond.selects "java/lang/ClassCastException" ({ cls := "java/lang/Throwable", name := "fillInStackTrace", desc := "(I)Ljava/lang/Throwable;" } : Jvm.MethodName) ({ cls := "java/lang/Throwable", name := "fillInStackTrace", desc := "(I)Ljava/lang/Throwable;" } : Jvm.MethodName)) ∈ lw_all := lw_g (lw_at lw_m5 189 rfl) rfl
theorem q2008 : (Jvm.Cond.castable "java/lang/ClassCastException" "java/lang/Object") ∈ lw_tbl := lw_at lw_m8 214 rfl
theorem in_J11 : ∀ w ∈ wsJ110, w ∈ lw_all := lw_in wsJ110 [1243, 1245, 1247, 1249, 1251, 1253] (by decide +kernel) (by decide +kernel)

/-! java/lang/String -/
set_option maxRecDepth 100000
def RJ12 : String := "java/lang/String"
def TJ12 : u_T := fun k => match k with
  | 0 => ("java/lang/String", "value", "[B", true)
  | _ => ("java/lang/String", "coder", "B", true)
def tyJ12 : Nat → FieldType := fun k => match k with
  | 0 => .array .byte
  | _ => .byte
abbrev wsJ120 : List Cond := u_ws RJ12 TJ12 2
theorem nmJ12 : ∀ a, a < 2 → ∀ b, b < 2 → a ≠ b → (TJ12 a).2.1 ≠ (TJ12 b).2.1 := by decide +kernel
theorem tyJ12_ok : ∀ k, k < 2 → parseFieldDescriptor (TJ12 k).2.2.1 = some (tyJ12 k) := by decide +kernel
theorem q139 : (Jvm.Cond.initialized "java/lang/String") ∈ lw_all := lw_g (lw_at lw_m1 25 rfl) rfl
theorem q1273 : (Jvm.Cond.instantiable "java/lang/String" (4 : Nat)) ∈ lw_all := lw_g (lw_at lw_m5 199 rfl) rfl
theorem q1275 : (Jvm.Cond.laysFinal "java/lang/String" "java/lang/String" "value" "[B") ∈ lw_all := lw_g (lw_at lw_m5 201 rfl) rfl
theorem q1276 : (Jvm.Cond.soleField "java/lang/String" "value") ∈ lw_all := lw_g (lw_at lw_m5 202 rfl) rfl
theorem q1277 : (Jvm.Cond.laysFinal "java/lang/String" "java/lang/String" "coder" "B") ∈ lw_all := lw_g (lw_at lw_m5 203 rfl) rfl
theorem q1278 : (Jvm.Cond.soleField "java/lang/String" "coder") ∈ lw_all := lw_g (lw_at lw_m5 204 rfl) rfl
theorem q1992 : (Jvm.Cond.castable "java/lang/String" "java/lang/Comparable") ∈ lw_tbl := lw_at lw_m8 198 rfl
theorem q2011 : (Jvm.Cond.castable "java/lang/String" "java/lang/Object") ∈ lw_tbl := lw_at lw_m8 217 rfl
theorem in_J12 : ∀ w ∈ wsJ120, w ∈ lw_all := lw_in wsJ120 [1275, 1277] (by decide +kernel) (by decide +kernel)

/-! java/util/AbstractCollection -/
set_option maxRecDepth 100000
def RJ13 : String := "java/util/AbstractCollection"
abbrev cJ13_init : ByteArray := prog_30_method_1_code
def yJ13_init : MethodName := ⟨RJ13, "<init>", "()V"⟩
theorem dJ13_init_0 : decode cJ13_init 0 = .ok (.aload_n 0, 1) := by decide +kernel
theorem dJ13_init_1 : decode cJ13_init 1 = .ok (.invokespecial 1, 3) := by decide +kernel
theorem dJ13_init_4 : decode cJ13_init 4 = .ok (.return_, 1) := by decide +kernel
theorem q141 : (Jvm.Cond.initialized "java/util/AbstractCollection") ∈ lw_all := lw_g (lw_at lw_m1 27 rfl) rfl
theorem q1008 : (Jvm.Cond.instanceMethod ({ cls := "java/util/AbstractCollection", name := "<init>", desc := "()V" } : Jvm.MethodName)) ∈ lw_all := lw_g (lw_at lw_m4 174 rfl) rfl
theorem q1009 : (Jvm.Cond.code ({ cls := "java/util/AbstractCollection", name := "<init>", desc := "()V" } : Jvm.MethodName) prog_30_method_1_code (1 : Nat) (Option.none : Option Jvm.ClassFile.FieldType)) ∈ lw_all := lw_g (lw_at lw_m4 175 rfl) rfl
theorem q1010 : (Jvm.Cond.methodLink "java/util/AbstractCollection" (1 : Nat) ({ cls := "java/lang/Object", name := "<init>", desc := "()V" } : Jvm.MethodName)) ∈ lw_all := lw_g (lw_at lw_m4 176 rfl) rfl

/-! java/util/AbstractSet -/
set_option maxRecDepth 100000
def RJ14 : String := "java/util/AbstractSet"
abbrev cJ14_init : ByteArray := prog_32_method_1_code
def yJ14_init : MethodName := ⟨RJ14, "<init>", "()V"⟩
theorem dJ14_init_0 : decode cJ14_init 0 = .ok (.aload_n 0, 1) := by decide +kernel
theorem dJ14_init_1 : decode cJ14_init 1 = .ok (.invokespecial 1, 3) := by decide +kernel
theorem dJ14_init_4 : decode cJ14_init 4 = .ok (.return_, 1) := by decide +kernel
theorem q142 : (Jvm.Cond.initialized "java/util/AbstractSet") ∈ lw_all := lw_g (lw_at lw_m1 28 rfl) rfl
theorem q1005 : (Jvm.Cond.instanceMethod ({ cls := "java/util/AbstractSet", name := "<init>", desc := "()V" } : Jvm.MethodName)) ∈ lw_all := lw_g (lw_at lw_m4 171 rfl) rfl
theorem q1006 : (Jvm.Cond.code ({ cls := "java/util/AbstractSet", name := "<init>", desc := "()V" } : Jvm.MethodName) prog_32_method_1_code (1 : Nat) (Option.none : Option Jvm.ClassFile.FieldType)) ∈ lw_all := lw_g (lw_at lw_m4 172 rfl) rfl
theorem q1007 : (Jvm.Cond.methodLink "java/util/AbstractSet" (1 : Nat) ({ cls := "java/util/AbstractCollection", name := "<init>", desc := "()V" } : Jvm.MethodName)) ∈ lw_all := lw_g (lw_at lw_m4 173 rfl) rfl

/-! java/util/HashSet -/
set_option maxRecDepth 100000
def RJ15 : String := "java/util/HashSet"
def TJ15 : u_T := fun k => match k with
  | _ => ("java/util/HashSet", "map", "Ljava/util/HashMap;", false)
def tyJ15 : Nat → FieldType := fun k => match k with
  | _ => .object "java/util/HashMap"
abbrev wsJ150 : List Cond := u_ws RJ15 TJ15 1
theorem nmJ15 : ∀ a, a < 1 → ∀ b, b < 1 → a ≠ b → (TJ15 a).2.1 ≠ (TJ15 b).2.1 := by decide +kernel
theorem tyJ15_ok : ∀ k, k < 1 → parseFieldDescriptor (TJ15 k).2.2.1 = some (tyJ15 k) := by decide +kernel
abbrev cJ15_init : ByteArray := prog_37_method_1_code
def yJ15_init : MethodName := ⟨RJ15, "<init>", "()V"⟩
def dkwJ15_init_0 : List UInt8 := [42, 183, 0, 1, 42, 187, 0, 7, 89, 183, 0, 9, 181, 0, 10, 177]
abbrev dktJ15_init_0 : List UInt8 := dkwJ15_init_0 ++ []
theorem dksJ15_init_0 : cJ15_init.data.toList.drop 0 = dktJ15_init_0 := by decide +kernel
theorem dJ15_init_0 : decode cJ15_init 0 = .ok (.aload_n 0, 1) := dk_42 (dk_at dksJ15_init_0 0 rfl rfl)
theorem dJ15_init_1 : decode cJ15_init 1 = .ok (.invokespecial 1, 3) := dk_183 0 1 (dk_at dksJ15_init_0 1 rfl rfl)
theorem dJ15_init_4 : decode cJ15_init 4 = .ok (.aload_n 0, 1) := dk_42 (dk_at dksJ15_init_0 4 rfl rfl)
theorem dJ15_init_5 : decode cJ15_init 5 = .ok (.new 7, 3) := dk_187 0 7 (dk_at dksJ15_init_0 5 rfl rfl)
theorem dJ15_init_8 : decode cJ15_init 8 = .ok (.dup, 1) := dk_89 (dk_at dksJ15_init_0 8 rfl rfl)
theorem dJ15_init_9 : decode cJ15_init 9 = .ok (.invokespecial 9, 3) := dk_183 0 9 (dk_at dksJ15_init_0 9 rfl rfl)
theorem dJ15_init_12 : decode cJ15_init 12 = .ok (.putfield 10, 3) := dk_181 0 10 (dk_at dksJ15_init_0 12 rfl rfl)
theorem dJ15_init_15 : decode cJ15_init 15 = .ok (.return_, 1) := dk_177 (dk_at dksJ15_init_0 15 rfl rfl)
abbrev cJ15_add : ByteArray := prog_37_method_10_code
def yJ15_add : MethodName := ⟨RJ15, "add", "(Ljava/lang/Object;)Z"⟩
def dkwJ15_add_0 : List UInt8 := [42, 180, 0, 10, 43, 178, 0, 64, 182, 0, 68, 199, 0, 7, 4, 167, 0, 4, 3, 172]
abbrev dktJ15_add_0 : List UInt8 := dkwJ15_add_0 ++ []
theorem dksJ15_add_0 : cJ15_add.data.toList.drop 0 = dktJ15_add_0 := by decide +kernel
theorem dJ15_add_0 : decode cJ15_add 0 = .ok (.aload_n 0, 1) := dk_42 (dk_at dksJ15_add_0 0 rfl rfl)
theorem dJ15_add_1 : decode cJ15_add 1 = .ok (.getfield 10, 3) := dk_180 0 10 (dk_at dksJ15_add_0 1 rfl rfl)
theorem dJ15_add_4 : decode cJ15_add 4 = .ok (.aload_n 1, 1) := dk_43 (dk_at dksJ15_add_0 4 rfl rfl)
theorem dJ15_add_5 : decode cJ15_add 5 = .ok (.getstatic 64, 3) := dk_178 0 64 (dk_at dksJ15_add_0 5 rfl rfl)
theorem dJ15_add_8 : decode cJ15_add 8 = .ok (.invokevirtual 68, 3) := dk_182 0 68 (dk_at dksJ15_add_0 8 rfl rfl)
theorem dJ15_add_11 : decode cJ15_add 11 = .ok (.ifnonnull 7, 3) := dk_199 0 7 (dk_at dksJ15_add_0 11 rfl rfl)
theorem dJ15_add_14 : decode cJ15_add 14 = .ok (.iconst 1, 1) := dk_4 (dk_at dksJ15_add_0 14 rfl rfl)
theorem dJ15_add_15 : decode cJ15_add 15 = .ok (.goto 4, 3) := dk_167 0 4 (dk_at dksJ15_add_0 15 rfl rfl)
theorem dJ15_add_18 : decode cJ15_add 18 = .ok (.iconst 0, 1) := dk_3 (dk_at dksJ15_add_0 18 rfl rfl)
theorem dJ15_add_19 : decode cJ15_add 19 = .ok (.ireturn, 1) := dk_172 (dk_at dksJ15_add_0 19 rfl rfl)
abbrev cJ15_size : ByteArray := prog_37_method_7_code
def yJ15_size : MethodName := ⟨RJ15, "size", "()I"⟩
def dkwJ15_size_0 : List UInt8 := [42, 180, 0, 10, 182, 0, 55, 172]
abbrev dktJ15_size_0 : List UInt8 := dkwJ15_size_0 ++ []
theorem dksJ15_size_0 : cJ15_size.data.toList.drop 0 = dktJ15_size_0 := by decide +kernel
theorem dJ15_size_0 : decode cJ15_size 0 = .ok (.aload_n 0, 1) := dk_42 (dk_at dksJ15_size_0 0 rfl rfl)
theorem dJ15_size_1 : decode cJ15_size 1 = .ok (.getfield 10, 3) := dk_180 0 10 (dk_at dksJ15_size_0 1 rfl rfl)
theorem dJ15_size_4 : decode cJ15_size 4 = .ok (.invokevirtual 55, 3) := dk_182 0 55 (dk_at dksJ15_size_0 4 rfl rfl)
theorem dJ15_size_7 : decode cJ15_size 7 = .ok (.ireturn, 1) := dk_172 (dk_at dksJ15_size_0 7 rfl rfl)
theorem q143 : (Jvm.Cond.initialized "java/util/HashSet") ∈ lw_all := lw_g (lw_at lw_m1 29 rfl) rfl
theorem q651 : (Jvm.Cond.selects "java/util/HashSet" ({ cls := "java/lang/Object", name := "getClass", desc := "()Ljava/lang/Class;" } : Jvm.MethodName) ({ cls := "java/lang/Object", name := "getClass", desc := "()Ljava/lang/Class;" } : Jvm.MethodName)) ∈ lw_all := lw_g (lw_at lw_m3 57 rfl) rfl
theorem q1000 : (Jvm.Cond.instantiable "java/util/HashSet" (1 : Nat)) ∈ lw_all := lw_g (lw_at lw_m4 166 rfl) rfl
theorem q1002 : (Jvm.Cond.instanceMethod ({ cls := "java/util/HashSet", name := "<init>", desc := "()V" } : Jvm.MethodName)) ∈ lw_all := lw_g (lw_at lw_m4 168 rfl) rfl
theorem q1003 : (Jvm.Cond.code ({ cls := "java/util/HashSet", name := "<init>", desc := "()V" } : Jvm.MethodName) prog_37_method_1_code (1 : Nat) (Option.none : Option Jvm.ClassFile.FieldType)) ∈ lw_all := lw_g (lw_at lw_m4 169 rfl) rfl
theorem q1004 : (Jvm.Cond.methodLink "java/util/HashSet" (1 : Nat) ({ cls := "java/util/AbstractSet", name := "<init>", desc := "()V" } : Jvm.MethodName)) ∈ lw_all := lw_g (lw_at lw_m4 170 rfl) rfl
theorem q1011 : (Jvm.Cond.classLink "java/util/HashSet" (7 : Nat) "java/util/HashMap") ∈ lw_all := lw_g (lw_at lw_m4 177 rfl) rfl
theorem q1012 : (Jvm.Cond.methodLink "java/util/HashSet" (9 : Nat) ({ cls := "java/util/HashMap", name := "<init>", desc := "()V" } : Jvm.MethodName)) ∈ lw_all := lw_g (lw_at lw_m4 178 rfl) rfl
theorem q1013 : (Jvm.Cond.fieldLink "java/util/HashSet" (10 : Nat) "java/util/HashSet" "map" "Ljava/util/HashMap;") ∈ lw_all := lw_g (lw_at lw_m4 179 rfl) rfl
theorem q1014 : (Jvm.Cond.lays "java/util/HashSet" "java/util/HashSet" "map" "Ljava/util/HashMap;") ∈ lw_all := lw_g (lw_at lw_m4 180 rfl) rfl
theorem q1015 : (Jvm.Cond.soleField "java/util/HashSet" "map") ∈ lw_all := lw_g (lw_at lw_m4 181 rfl) rfl
theorem q1016 : (Jvm.Cond.superclass "java/util/HashSet" "java/util/AbstractSet") ∈ lw_all := lw_g (lw_at lw_m4 182 rfl) rfl
theorem q1022 : (Jvm.Cond.instanceMethod ({ cls := "java/util/HashSet", name := "add", desc := "(Ljava/lang/Object;)Z" } : Jvm.MethodName)) ∈ lw_all := lw_g (lw_at lw_m4 188 rfl) rfl
theorem q1023 : (Jvm.Cond.selects "java/util/HashSet" ({ cls := "java/util/HashSet", name := "add", desc := "(Ljava/lang/Object;)Z" } : Jvm.MethodName) ({ cls := "java/util/HashSet", name := "add", desc := "(Ljava/lang/Object;)Z" } : Jvm.MethodName)) ∈ lw_all := lw_g (lw_at lw_m4 189 rfl) rfl
theorem q1024 : (Jvm.Cond.code ({ cls := "java/util/HashSet", name := "add", desc := "(Ljava/lang/Object;)Z" } : Jvm.MethodName) prog_37_method_10_code (2 : Nat) (Option.some Jvm.ClassFile.FieldType.boolean)) ∈ lw_all := lw_g (lw_at lw_m4 190 rfl) rfl
theorem q1025 : (Jvm.Cond.fieldLink "java/util/HashSet" (64 : Nat) "java/util/HashSet" "PRESENT" "Ljava/lang/Object;") ∈ lw_all := lw_g (lw_at lw_m4 191 rfl) rfl
theorem q1026 : (Jvm.Cond.laysStatic "java/util/HashSet" "PRESENT" "Ljava/lang/Object;") ∈ lw_tbl := lw_at lw_m4 192 rfl
theorem q1027 : (Jvm.Cond.methodLink "java/util/HashSet" (68 : Nat) ({ cls := "java/util/HashMap", name := "put", desc := "(Ljava/lang/Object;Ljava/lang/Object;)Ljava/lang/Object;" } : Jvm.MethodName)) ∈ lw_all := lw_g (lw_at lw_m4 193 rfl) rfl
theorem q1030 : (Jvm.Cond.instanceMethod ({ cls := "java/util/HashSet", name := "size", desc := "()I" } : Jvm.MethodName)) ∈ lw_all := lw_g (lw_at lw_m4 196 rfl) rfl
theorem q1031 : (Jvm.Cond.selects "java/util/HashSet" ({ cls := "java/util/HashSet", name := "size", desc := "()I" } : Jvm.MethodName) ({ cls := "java/util/HashSet", name := "size", desc := "()I" } : Jvm.MethodName)) ∈ lw_all := lw_g (lw_at lw_m4 197 rfl) rfl
theorem q1032 : (Jvm.Cond.code ({ cls := "java/util/HashSet", name := "size", desc := "()I" } : Jvm.MethodName) prog_37_method_7_code (1 : Nat) (Option.some Jvm.ClassFile.FieldType.int)) ∈ lw_all := lw_g (lw_at lw_m4 198 rfl) rfl
theorem q1033 : (Jvm.Cond.methodLink "java/util/HashSet" (55 : Nat) ({ cls := "java/util/HashMap", name := "size", desc := "()I" } : Jvm.MethodName)) ∈ lw_all := lw_g (lw_at lw_m4 199 rfl) rfl
theorem q2009 : (Jvm.Cond.castable "java/util/HashSet" "java/lang/Object") ∈ lw_tbl := lw_at lw_m8 215 rfl
theorem in_J15 : ∀ w ∈ wsJ150, w ∈ lw_all := lw_in wsJ150 [1014] (by decide +kernel) (by decide +kernel)

/-! java/lang/Object -/
set_option maxRecDepth 100000
def RJ16 : String := "java/lang/Object"
abbrev cJ16_init : ByteArray := object_method_1_code
def yJ16_init : MethodName := ⟨RJ16, "<init>", "()V"⟩
theorem dJ16_init_0 : decode cJ16_init 0 = .ok (.return_, 1) := by decide +kernel
abbrev cJ16_equals : ByteArray := object_method_4_code
def yJ16_equals : MethodName := ⟨RJ16, "equals", "(Ljava/lang/Object;)Z"⟩
def dkwJ16_equals_0 : List UInt8 := [42, 43, 166, 0, 7, 4, 167, 0, 4, 3, 172]
abbrev dktJ16_equals_0 : List UInt8 := dkwJ16_equals_0 ++ []
theorem dksJ16_equals_0 : cJ16_equals.data.toList.drop 0 = dktJ16_equals_0 := by decide +kernel
theorem dJ16_equals_0 : decode cJ16_equals 0 = .ok (.aload_n 0, 1) := dk_42 (dk_at dksJ16_equals_0 0 rfl rfl)
theorem dJ16_equals_1 : decode cJ16_equals 1 = .ok (.aload_n 1, 1) := dk_43 (dk_at dksJ16_equals_0 1 rfl rfl)
theorem dJ16_equals_2 : decode cJ16_equals 2 = .ok (.if_acmp .ne 7, 3) := dk_166 0 7 (dk_at dksJ16_equals_0 2 rfl rfl)
theorem dJ16_equals_5 : decode cJ16_equals 5 = .ok (.iconst 1, 1) := dk_4 (dk_at dksJ16_equals_0 5 rfl rfl)
theorem dJ16_equals_6 : decode cJ16_equals 6 = .ok (.goto 4, 3) := dk_167 0 4 (dk_at dksJ16_equals_0 6 rfl rfl)
theorem dJ16_equals_9 : decode cJ16_equals 9 = .ok (.iconst 0, 1) := dk_3 (dk_at dksJ16_equals_0 9 rfl rfl)
theorem dJ16_equals_10 : decode cJ16_equals 10 = .ok (.ireturn, 1) := dk_172 (dk_at dksJ16_equals_0 10 rfl rfl)
theorem q150 : (Jvm.Cond.instanceMethod ({ cls := "java/lang/Object", name := "<init>", desc := "()V" } : Jvm.MethodName)) ∈ lw_all := lw_g (lw_at lw_m1 36 rfl) rfl
theorem q151 : (Jvm.Cond.code ({ cls := "java/lang/Object", name := "<init>", desc := "()V" } : Jvm.MethodName) object_method_1_code (1 : Nat) (Option.none : Option Jvm.ClassFile.FieldType)) ∈ lw_all := lw_g (lw_at lw_m1 37 rfl) rfl
theorem q550 : (Jvm.Cond.declares ({ cls := "java/lang/Object", name := "hashCode", desc := "()I" } : Jvm.MethodName)) ∈ lw_tbl := lw_at lw_m2 196 rfl
theorem q552 : (Jvm.Cond.instanceMethod ({ cls := "java/lang/Object", name := "hashCode", desc := "()I" } : Jvm.MethodName)) ∈ lw_all := lw_g (lw_at lw_m2 198 rfl) rfl
theorem q553 : (Jvm.Cond.sameMethod "java/lang/Object" "java/lang/Object" "hashCode" "()I") ∈ lw_all := lw_g (lw_at lw_m2 199 rfl) rfl
theorem q580 : (Jvm.Cond.native ({ cls := "java/lang/Object", name := "hashCode", desc := "()I" } : Jvm.MethodName)) ∈ lw_all := lw_g (lw_at lw_m2 226 rfl) rfl
theorem q581 : (Jvm.Cond.declares ({ cls := "java/lang/Object", name := "equals", desc := "(Ljava/lang/Object;)Z" } : Jvm.MethodName)) ∈ lw_tbl := lw_at lw_m2 227 rfl
theorem q583 : (Jvm.Cond.instanceMethod ({ cls := "java/lang/Object", name := "equals", desc := "(Ljava/lang/Object;)Z" } : Jvm.MethodName)) ∈ lw_all := lw_g (lw_at lw_m2 229 rfl) rfl
theorem q584 : (Jvm.Cond.sameMethod "java/lang/Object" "java/lang/Object" "equals" "(Ljava/lang/Object;)Z") ∈ lw_all := lw_g (lw_at lw_m2 230 rfl) rfl
theorem q613 : (Jvm.Cond.code ({ cls := "java/lang/Object", name := "equals", desc := "(Ljava/lang/Object;)Z" } : Jvm.MethodName) object_method_4_code (2 : Nat) (Option.some Jvm.ClassFile.FieldType.boolean)) ∈ lw_all := lw_g (lw_at lw_m3 19 rfl) rfl
theorem q633 : (Jvm.Cond.instanceMethod ({ cls := "java/lang/Object", name := "getClass", desc := "()Ljava/lang/Class;" } : Jvm.MethodName)) ∈ lw_all := lw_g (lw_at lw_m3 39 rfl) rfl
theorem q634 : (Jvm.Cond.sameMethod "java/lang/Object" "java/lang/Object" "getClass" "()Ljava/lang/Class;") ∈ lw_all := lw_g (lw_at lw_m3 40 rfl) rfl
theorem q652 : (Jvm.Cond.native ({ cls := "java/lang/Object", name := "getClass", desc := "()Ljava/lang/Class;" } : Jvm.MethodName)) ∈ lw_all := lw_g (lw_at lw_m3 58 rfl) rfl
theorem q1984 : (Jvm.Cond.initialized "java/lang/Object") ∈ lw_all := lw_g (lw_at lw_m8 190 rfl) rfl
theorem q1991 : (Jvm.Cond.selects "java/lang/Object" ({ cls := "java/lang/Object", name := "equals", desc := "(Ljava/lang/Object;)Z" } : Jvm.MethodName) ({ cls := "java/lang/Object", name := "equals", desc := "(Ljava/lang/Object;)Z" } : Jvm.MethodName)) ∈ lw_all := lw_g (lw_at lw_m8 197 rfl) rfl
theorem q2016 : (Jvm.Cond.declares ({ cls := "java/lang/Object", name := "getClass", desc := "()Ljava/lang/Class;" } : Jvm.MethodName)) ∈ lw_tbl := lw_at lw_m8 222 rfl

/-! DictProof$Ranked -/
set_option maxRecDepth 100000
def RX11 : String := "DictProof$Ranked"
abbrev cX11_besides : ByteArray := prog_8_method_4_code
def yX11_besides : MethodName := ⟨RX11, "besides", "(I)I"⟩
def dkwX11_besides_2 : List UInt8 := [185, 0, 10, 1, 0, 160, 0, 7, 5, 167, 0, 4, 4, 172]
abbrev dktX11_besides_2 : List UInt8 := dkwX11_besides_2 ++ []
def dkwX11_besides_1 : List UInt8 := [185, 0, 10, 1, 0, 162, 0, 7, 3, 167, 0, 27, 42, 185, 0, 7, 1, 0, 154, 0, 13, 27, 42]
abbrev dktX11_besides_1 : List UInt8 := dkwX11_besides_1 ++ dktX11_besides_2
def dkwX11_besides_0 : List UInt8 := [42, 185, 0, 1, 1, 0, 153, 0, 22, 42, 185, 0, 7, 1, 0, 154, 0, 17, 27, 42]
abbrev dktX11_besides_0 : List UInt8 := dkwX11_besides_0 ++ dktX11_besides_1
theorem dksX11_besides_0 : cX11_besides.data.toList.drop 0 = dktX11_besides_0 := by decide +kernel
theorem dksX11_besides_1 : cX11_besides.data.toList.drop 20 = dktX11_besides_1 := dk_seg dksX11_besides_0 20 rfl rfl
theorem dksX11_besides_2 : cX11_besides.data.toList.drop 43 = dktX11_besides_2 := dk_seg dksX11_besides_1 23 rfl rfl
theorem dX11_besides_0 : decode cX11_besides 0 = .ok (.aload_n 0, 1) := dk_42 (dk_at dksX11_besides_0 0 rfl rfl)
theorem dX11_besides_1 : decode cX11_besides 1 = .ok (.invokeinterface 1 1, 5) := by decide +kernel
theorem dX11_besides_6 : decode cX11_besides 6 = .ok (.ifCond .eq 22, 3) := dk_153 0 22 (dk_at dksX11_besides_0 6 rfl rfl)
theorem dX11_besides_9 : decode cX11_besides 9 = .ok (.aload_n 0, 1) := dk_42 (dk_at dksX11_besides_0 9 rfl rfl)
theorem dX11_besides_10 : decode cX11_besides 10 = .ok (.invokeinterface 7 1, 5) := by decide +kernel
theorem dX11_besides_15 : decode cX11_besides 15 = .ok (.ifCond .ne 17, 3) := dk_154 0 17 (dk_at dksX11_besides_0 15 rfl rfl)
theorem dX11_besides_18 : decode cX11_besides 18 = .ok (.iload_n 1, 1) := dk_27 (dk_at dksX11_besides_0 18 rfl rfl)
theorem dX11_besides_19 : decode cX11_besides 19 = .ok (.aload_n 0, 1) := dk_42 (dk_at dksX11_besides_0 19 rfl rfl)
theorem dX11_besides_20 : decode cX11_besides 20 = .ok (.invokeinterface 10 1, 5) := by decide +kernel
theorem dX11_besides_25 : decode cX11_besides 25 = .ok (.if_icmp .ge 7, 3) := dk_162 0 7 (dk_at dksX11_besides_1 5 rfl rfl)
theorem dX11_besides_28 : decode cX11_besides 28 = .ok (.iconst 0, 1) := dk_3 (dk_at dksX11_besides_1 8 rfl rfl)
theorem dX11_besides_29 : decode cX11_besides 29 = .ok (.goto 27, 3) := dk_167 0 27 (dk_at dksX11_besides_1 9 rfl rfl)
theorem dX11_besides_32 : decode cX11_besides 32 = .ok (.aload_n 0, 1) := dk_42 (dk_at dksX11_besides_1 12 rfl rfl)
theorem dX11_besides_33 : decode cX11_besides 33 = .ok (.invokeinterface 7 1, 5) := by decide +kernel
theorem dX11_besides_38 : decode cX11_besides 38 = .ok (.ifCond .ne 13, 3) := dk_154 0 13 (dk_at dksX11_besides_1 18 rfl rfl)
theorem dX11_besides_41 : decode cX11_besides 41 = .ok (.iload_n 1, 1) := dk_27 (dk_at dksX11_besides_1 21 rfl rfl)
theorem dX11_besides_42 : decode cX11_besides 42 = .ok (.aload_n 0, 1) := dk_42 (dk_at dksX11_besides_1 22 rfl rfl)
theorem dX11_besides_43 : decode cX11_besides 43 = .ok (.invokeinterface 10 1, 5) := by decide +kernel
theorem dX11_besides_48 : decode cX11_besides 48 = .ok (.if_icmp .ne 7, 3) := dk_160 0 7 (dk_at dksX11_besides_2 5 rfl rfl)
theorem dX11_besides_51 : decode cX11_besides 51 = .ok (.iconst 2, 1) := dk_5 (dk_at dksX11_besides_2 8 rfl rfl)
theorem dX11_besides_52 : decode cX11_besides 52 = .ok (.goto 4, 3) := dk_167 0 4 (dk_at dksX11_besides_2 9 rfl rfl)
theorem dX11_besides_55 : decode cX11_besides 55 = .ok (.iconst 1, 1) := dk_4 (dk_at dksX11_besides_2 12 rfl rfl)
theorem dX11_besides_56 : decode cX11_besides 56 = .ok (.ireturn, 1) := dk_172 (dk_at dksX11_besides_2 13 rfl rfl)
theorem q1127 : (Jvm.Cond.declares ({ cls := "DictProof$Ranked", name := "besides", desc := "(I)I" } : Jvm.MethodName)) ∈ lw_tbl := lw_at lw_m5 53 rfl
theorem q1133 : (Jvm.Cond.instanceMethod ({ cls := "DictProof$Ranked", name := "besides", desc := "(I)I" } : Jvm.MethodName)) ∈ lw_all := lw_g (lw_at lw_m5 59 rfl) rfl
theorem q1134 : (Jvm.Cond.publicMethod ({ cls := "DictProof$Ranked", name := "besides", desc := "(I)I" } : Jvm.MethodName)) ∈ lw_tbl := lw_at lw_m5 60 rfl
theorem q1135 : (Jvm.Cond.code ({ cls := "DictProof$Ranked", name := "besides", desc := "(I)I" } : Jvm.MethodName) prog_8_method_4_code (2 : Nat) (Option.some Jvm.ClassFile.FieldType.int)) ∈ lw_all := lw_g (lw_at lw_m5 61 rfl) rfl
theorem q1136 : (Jvm.Cond.interfaceEntry "DictProof$Ranked" (1 : Nat)) ∈ lw_tbl := lw_at lw_m5 62 rfl
theorem q1137 : (Jvm.Cond.methodLink "DictProof$Ranked" (1 : Nat) ({ cls := "DictProof$Ranked", name := "isUsed", desc := "()Z" } : Jvm.MethodName)) ∈ lw_all := lw_g (lw_at lw_m5 63 rfl) rfl
theorem q1138 : (Jvm.Cond.interfaceMethod "DictProof$Ranked" "DictProof$Ranked" "isUsed" "()Z") ∈ lw_tbl := lw_at lw_m5 64 rfl
theorem q1139 : (Jvm.Cond.declares ({ cls := "DictProof$Ranked", name := "isUsed", desc := "()Z" } : Jvm.MethodName)) ∈ lw_tbl := lw_at lw_m5 65 rfl
theorem q1157 : (Jvm.Cond.interfaceEntry "DictProof$Ranked" (7 : Nat)) ∈ lw_tbl := lw_at lw_m5 83 rfl
theorem q1158 : (Jvm.Cond.methodLink "DictProof$Ranked" (7 : Nat) ({ cls := "DictProof$Ranked", name := "isAlone", desc := "()Z" } : Jvm.MethodName)) ∈ lw_all := lw_g (lw_at lw_m5 84 rfl) rfl
theorem q1159 : (Jvm.Cond.interfaceMethod "DictProof$Ranked" "DictProof$Ranked" "isAlone" "()Z") ∈ lw_tbl := lw_at lw_m5 85 rfl
theorem q1160 : (Jvm.Cond.declares ({ cls := "DictProof$Ranked", name := "isAlone", desc := "()Z" } : Jvm.MethodName)) ∈ lw_tbl := lw_at lw_m5 86 rfl
theorem q1173 : (Jvm.Cond.interfaceEntry "DictProof$Ranked" (10 : Nat)) ∈ lw_tbl := lw_at lw_m5 99 rfl
theorem q1174 : (Jvm.Cond.methodLink "DictProof$Ranked" (10 : Nat) ({ cls := "DictProof$Ranked", name := "rank", desc := "()I" } : Jvm.MethodName)) ∈ lw_all := lw_g (lw_at lw_m5 100 rfl) rfl
theorem q1175 : (Jvm.Cond.interfaceMethod "DictProof$Ranked" "DictProof$Ranked" "rank" "()I") ∈ lw_tbl := lw_at lw_m5 101 rfl
theorem q1176 : (Jvm.Cond.declares ({ cls := "DictProof$Ranked", name := "rank", desc := "()I" } : Jvm.MethodName)) ∈ lw_tbl := lw_at lw_m5 102 rfl
theorem q1985 : (Jvm.Cond.initialized "DictProof$Ranked") ∈ lw_all := lw_g (lw_at lw_m8 191 rfl) rfl

theorem q153 : (Jvm.Cond.arrayOver (Jvm.ClassFile.FieldType.object "DictProof$Instance")) ∈ lw_tbl := lw_at lw_m1 39 rfl
set_option maxRecDepth 100000
theorem q194 : (Jvm.Cond.arrayClass Jvm.ClassFile.FieldType.int) ∈ lw_all := lw_g (lw_at lw_m1 80 rfl) rfl
theorem q248 : (Jvm.Cond.arrayOver (Jvm.ClassFile.FieldType.object "DictProof$Term")) ∈ lw_tbl := lw_at lw_m1 134 rfl
theorem q390 : (Jvm.Cond.arrayClass Jvm.ClassFile.FieldType.boolean) ∈ lw_all := lw_g (lw_at lw_m2 36 rfl) rfl
theorem q696 : (Jvm.Cond.arrayOver (Jvm.ClassFile.FieldType.object "java/util/HashMap$Node")) ∈ lw_tbl := lw_at lw_m3 102 rfl
theorem q976 : (Jvm.Cond.arrayOver (Jvm.ClassFile.FieldType.object "DictProof$Proof")) ∈ lw_tbl := lw_at lw_m4 142 rfl
theorem q1274 : (Jvm.Cond.arrayClass Jvm.ClassFile.FieldType.byte) ∈ lw_all := lw_g (lw_at lw_m5 200 rfl) rfl
theorem q2013 : (Jvm.Cond.arrayOver (Jvm.ClassFile.FieldType.object "java/lang/Object")) ∈ lw_tbl := lw_at lw_m8 219 rfl

theorem q114 : (Jvm.Cond.initialized "DictProofLaw") ∈ lw_all := lw_g (lw_at lw_m1 0 rfl) rfl
set_option maxRecDepth 100000
theorem q144 : (Jvm.Cond.classLink "DictProofLaw" (7 : Nat) "DictProof") ∈ lw_all := lw_g (lw_at lw_m1 30 rfl) rfl
theorem q146 : (Jvm.Cond.methodLink "DictProofLaw" (9 : Nat) ({ cls := "DictProof", name := "<init>", desc := "()V" } : Jvm.MethodName)) ∈ lw_all := lw_g (lw_at lw_m1 32 rfl) rfl
theorem q391 : (Jvm.Cond.methodLink "DictProofLaw" (13 : Nat) ({ cls := "DictProof", name := "letter", desc := "(I)I" } : Jvm.MethodName)) ∈ lw_all := lw_g (lw_at lw_m2 37 rfl) rfl
theorem q400 : (Jvm.Cond.methodLink "DictProofLaw" (18 : Nat) ({ cls := "DictProof", name := "blank", desc := "()I" } : Jvm.MethodName)) ∈ lw_all := lw_g (lw_at lw_m2 46 rfl) rfl
theorem q404 : (Jvm.Cond.methodLink "DictProofLaw" (23 : Nat) ({ cls := "DictProof", name := "fault", desc := "()I" } : Jvm.MethodName)) ∈ lw_all := lw_g (lw_at lw_m2 50 rfl) rfl
theorem q444 : (Jvm.Cond.methodLink "DictProofLaw" (27 : Nat) ({ cls := "DictProof", name := "book", desc := "()I" } : Jvm.MethodName)) ∈ lw_all := lw_g (lw_at lw_m2 90 rfl) rfl
theorem q831 : (Jvm.Cond.methodLink "DictProofLaw" (31 : Nat) ({ cls := "DictProof", name := "type", desc := "(I)I" } : Jvm.MethodName)) ∈ lw_all := lw_g (lw_at lw_m3 237 rfl) rfl
theorem q845 : (Jvm.Cond.methodLink "DictProofLaw" (61 : Nat) ({ cls := "DictProof", name := "goal", desc := "(III)I" } : Jvm.MethodName)) ∈ lw_all := lw_g (lw_at lw_m4 11 rfl) rfl
theorem q1060 : (Jvm.Cond.methodLink "DictProofLaw" (65 : Nat) ({ cls := "DictProof", name := "entry", desc := "(III)I" } : Jvm.MethodName)) ∈ lw_all := lw_g (lw_at lw_m4 226 rfl) rfl
theorem q1069 : (Jvm.Cond.methodLink "DictProofLaw" (69 : Nat) ({ cls := "DictProof", name := "need", desc := "(IIII)I" } : Jvm.MethodName)) ∈ lw_all := lw_g (lw_at lw_m4 235 rfl) rfl
theorem q1077 : (Jvm.Cond.methodLink "DictProofLaw" (35 : Nat) ({ cls := "DictProof", name := "about", desc := "(II)I" } : Jvm.MethodName)) ∈ lw_all := lw_g (lw_at lw_m5 3 rfl) rfl
theorem q1085 : (Jvm.Cond.methodLink "DictProofLaw" (40 : Nat) ({ cls := "DictProof", name := "instance", desc := "(II)I" } : Jvm.MethodName)) ∈ lw_all := lw_g (lw_at lw_m5 11 rfl) rfl
theorem q1206 : (Jvm.Cond.methodLink "DictProofLaw" (44 : Nat) ({ cls := "DictProof", name := "as", desc := "(II)I" } : Jvm.MethodName)) ∈ lw_all := lw_g (lw_at lw_m5 132 rfl) rfl
theorem q1283 : (Jvm.Cond.methodLink "DictProofLaw" (48 : Nat) ({ cls := "DictProof", name := "change", desc := "(II)I" } : Jvm.MethodName)) ∈ lw_all := lw_g (lw_at lw_m5 209 rfl) rfl
theorem q1303 : (Jvm.Cond.methodLink "DictProofLaw" (52 : Nat) ({ cls := "DictProof", name := "pair", desc := "(III)I" } : Jvm.MethodName)) ∈ lw_all := lw_g (lw_at lw_m5 229 rfl) rfl
theorem q1320 : (Jvm.Cond.methodLink "DictProofLaw" (57 : Nat) ({ cls := "DictProof", name := "fits", desc := "(II)I" } : Jvm.MethodName)) ∈ lw_all := lw_g (lw_at lw_m6 6 rfl) rfl
theorem q1324 : (Jvm.Cond.methodLink "DictProofLaw" (74 : Nat) ({ cls := "DictProof", name := "see", desc := "(IIZ)I" } : Jvm.MethodName)) ∈ lw_all := lw_g (lw_at lw_m6 10 rfl) rfl
theorem q1328 : (Jvm.Cond.methodLink "DictProofLaw" (79 : Nat) ({ cls := "DictProof", name := "forget", desc := "()I" } : Jvm.MethodName)) ∈ lw_all := lw_g (lw_at lw_m6 14 rfl) rfl
theorem q1332 : (Jvm.Cond.methodLink "DictProofLaw" (83 : Nat) ({ cls := "DictProof", name := "drawn", desc := "(III)I" } : Jvm.MethodName)) ∈ lw_all := lw_g (lw_at lw_m6 18 rfl) rfl
theorem q1353 : (Jvm.Cond.methodLink "DictProofLaw" (87 : Nat) ({ cls := "DictProof", name := "image", desc := "()I" } : Jvm.MethodName)) ∈ lw_all := lw_g (lw_at lw_m6 39 rfl) rfl
theorem q1362 : (Jvm.Cond.methodLink "DictProofLaw" (91 : Nat) ({ cls := "DictProof", name := "restore", desc := "()I" } : Jvm.MethodName)) ∈ lw_all := lw_g (lw_at lw_m6 48 rfl) rfl
theorem q1366 : (Jvm.Cond.methodLink "DictProofLaw" (95 : Nat) ({ cls := "DictProof", name := "count", desc := "(I)I" } : Jvm.MethodName)) ∈ lw_all := lw_g (lw_at lw_m6 52 rfl) rfl
theorem q1387 : (Jvm.Cond.methodLink "DictProofLaw" (99 : Nat) ({ cls := "DictProof", name := "digest", desc := "()J" } : Jvm.MethodName)) ∈ lw_all := lw_g (lw_at lw_m6 73 rfl) rfl
theorem q1399 : (Jvm.Cond.classLink "DictProofLaw" (10 : Nat) "DictProofModel") ∈ lw_all := lw_g (lw_at lw_m6 85 rfl) rfl
theorem q1401 : (Jvm.Cond.methodLink "DictProofLaw" (12 : Nat) ({ cls := "DictProofModel", name := "<init>", desc := "()V" } : Jvm.MethodName)) ∈ lw_all := lw_g (lw_at lw_m6 87 rfl) rfl
theorem q1595 : (Jvm.Cond.methodLink "DictProofLaw" (17 : Nat) ({ cls := "DictProofModel", name := "letter", desc := "(I)I" } : Jvm.MethodName)) ∈ lw_all := lw_g (lw_at lw_m7 41 rfl) rfl
theorem q1602 : (Jvm.Cond.methodLink "DictProofLaw" (22 : Nat) ({ cls := "DictProofModel", name := "blank", desc := "()I" } : Jvm.MethodName)) ∈ lw_all := lw_g (lw_at lw_m7 48 rfl) rfl
theorem q1606 : (Jvm.Cond.methodLink "DictProofLaw" (26 : Nat) ({ cls := "DictProofModel", name := "fault", desc := "()I" } : Jvm.MethodName)) ∈ lw_all := lw_g (lw_at lw_m7 52 rfl) rfl
theorem q1659 : (Jvm.Cond.methodLink "DictProofLaw" (30 : Nat) ({ cls := "DictProofModel", name := "book", desc := "()I" } : Jvm.MethodName)) ∈ lw_all := lw_g (lw_at lw_m7 105 rfl) rfl
theorem q1690 : (Jvm.Cond.methodLink "DictProofLaw" (34 : Nat) ({ cls := "DictProofModel", name := "type", desc := "(I)I" } : Jvm.MethodName)) ∈ lw_all := lw_g (lw_at lw_m7 136 rfl) rfl
theorem q1694 : (Jvm.Cond.methodLink "DictProofLaw" (39 : Nat) ({ cls := "DictProofModel", name := "about", desc := "(II)I" } : Jvm.MethodName)) ∈ lw_all := lw_g (lw_at lw_m7 140 rfl) rfl
theorem q1710 : (Jvm.Cond.methodLink "DictProofLaw" (43 : Nat) ({ cls := "DictProofModel", name := "instance", desc := "(II)I" } : Jvm.MethodName)) ∈ lw_all := lw_g (lw_at lw_m7 156 rfl) rfl
theorem q1785 : (Jvm.Cond.methodLink "DictProofLaw" (47 : Nat) ({ cls := "DictProofModel", name := "as", desc := "(II)I" } : Jvm.MethodName)) ∈ lw_all := lw_g (lw_at lw_m7 231 rfl) rfl
theorem q1789 : (Jvm.Cond.methodLink "DictProofLaw" (51 : Nat) ({ cls := "DictProofModel", name := "change", desc := "(II)I" } : Jvm.MethodName)) ∈ lw_all := lw_g (lw_at lw_m7 235 rfl) rfl
theorem q1793 : (Jvm.Cond.methodLink "DictProofLaw" (56 : Nat) ({ cls := "DictProofModel", name := "pair", desc := "(III)I" } : Jvm.MethodName)) ∈ lw_all := lw_g (lw_at lw_m7 239 rfl) rfl
theorem q1845 : (Jvm.Cond.methodLink "DictProofLaw" (60 : Nat) ({ cls := "DictProofModel", name := "fits", desc := "(II)I" } : Jvm.MethodName)) ∈ lw_all := lw_g (lw_at lw_m8 51 rfl) rfl
theorem q1857 : (Jvm.Cond.methodLink "DictProofLaw" (64 : Nat) ({ cls := "DictProofModel", name := "goal", desc := "(III)I" } : Jvm.MethodName)) ∈ lw_all := lw_g (lw_at lw_m8 63 rfl) rfl
theorem q1881 : (Jvm.Cond.methodLink "DictProofLaw" (68 : Nat) ({ cls := "DictProofModel", name := "entry", desc := "(III)I" } : Jvm.MethodName)) ∈ lw_all := lw_g (lw_at lw_m8 87 rfl) rfl
theorem q1889 : (Jvm.Cond.methodLink "DictProofLaw" (73 : Nat) ({ cls := "DictProofModel", name := "need", desc := "(IIII)I" } : Jvm.MethodName)) ∈ lw_all := lw_g (lw_at lw_m8 95 rfl) rfl
theorem q1893 : (Jvm.Cond.methodLink "DictProofLaw" (78 : Nat) ({ cls := "DictProofModel", name := "see", desc := "(IIZ)I" } : Jvm.MethodName)) ∈ lw_all := lw_g (lw_at lw_m8 99 rfl) rfl
theorem q1897 : (Jvm.Cond.methodLink "DictProofLaw" (82 : Nat) ({ cls := "DictProofModel", name := "forget", desc := "()I" } : Jvm.MethodName)) ∈ lw_all := lw_g (lw_at lw_m8 103 rfl) rfl
theorem q1901 : (Jvm.Cond.methodLink "DictProofLaw" (86 : Nat) ({ cls := "DictProofModel", name := "drawn", desc := "(III)I" } : Jvm.MethodName)) ∈ lw_all := lw_g (lw_at lw_m8 107 rfl) rfl
theorem q1928 : (Jvm.Cond.methodLink "DictProofLaw" (90 : Nat) ({ cls := "DictProofModel", name := "image", desc := "()I" } : Jvm.MethodName)) ∈ lw_all := lw_g (lw_at lw_m8 134 rfl) rfl
theorem q1936 : (Jvm.Cond.methodLink "DictProofLaw" (94 : Nat) ({ cls := "DictProofModel", name := "restore", desc := "()I" } : Jvm.MethodName)) ∈ lw_all := lw_g (lw_at lw_m8 142 rfl) rfl
theorem q1940 : (Jvm.Cond.methodLink "DictProofLaw" (98 : Nat) ({ cls := "DictProofModel", name := "count", desc := "(I)I" } : Jvm.MethodName)) ∈ lw_all := lw_g (lw_at lw_m8 146 rfl) rfl
theorem q1968 : (Jvm.Cond.methodLink "DictProofLaw" (103 : Nat) ({ cls := "DictProofModel", name := "digest", desc := "()J" } : Jvm.MethodName)) ∈ lw_all := lw_g (lw_at lw_m8 174 rfl) rfl

theorem q128 : (Jvm.Cond.initialized "java/lang/Integer$IntegerCache") ∈ lw_all := lw_g (lw_at lw_m1 14 rfl) rfl
set_option maxRecDepth 100000
theorem q523 : (Jvm.Cond.laysStatic "java/lang/Integer$IntegerCache" "high" "I") ∈ lw_tbl := lw_at lw_m2 169 rfl
theorem q525 : (Jvm.Cond.laysStatic "java/lang/Integer$IntegerCache" "cache" "[Ljava/lang/Integer;") ∈ lw_tbl := lw_at lw_m2 171 rfl

theorem q140 : (Jvm.Cond.initialized "java/lang/System") ∈ lw_all := lw_g (lw_at lw_m1 26 rfl) rfl
set_option maxRecDepth 100000
theorem q1301 : (Jvm.Cond.static ({ cls := "java/lang/System", name := "arraycopy", desc := "(Ljava/lang/Object;ILjava/lang/Object;II)V" } : Jvm.MethodName)) ∈ lw_all := lw_g (lw_at lw_m5 227 rfl) rfl
theorem q1302 : (Jvm.Cond.native ({ cls := "java/lang/System", name := "arraycopy", desc := "(Ljava/lang/Object;ILjava/lang/Object;II)V" } : Jvm.MethodName)) ∈ lw_all := lw_g (lw_at lw_m5 228 rfl) rfl

theorem q659 : (Jvm.Cond.interfaceMethod "java/lang/Comparable" "java/lang/Comparable" "compareTo" "(Ljava/lang/Object;)I") ∈ lw_tbl := lw_at lw_m3 65 rfl
set_option maxRecDepth 100000
theorem q660 : (Jvm.Cond.declares ({ cls := "java/lang/Comparable", name := "compareTo", desc := "(Ljava/lang/Object;)I" } : Jvm.MethodName)) ∈ lw_tbl := lw_at lw_m3 66 rfl

theorem q2014 : (Jvm.Cond.sameMethod "[Ljava/lang/Object;" "java/lang/Object" "getClass" "()Ljava/lang/Class;") ∈ lw_all := lw_g (lw_at lw_m8 220 rfl) rfl
set_option maxRecDepth 100000
theorem q2015 : (Jvm.Cond.selects "[Ljava/lang/Object;" ({ cls := "java/lang/Object", name := "getClass", desc := "()Ljava/lang/Class;" } : Jvm.MethodName) ({ cls := "java/lang/Object", name := "getClass", desc := "()Ljava/lang/Class;" } : Jvm.MethodName)) ∈ lw_all := lw_g (lw_at lw_m8 221 rfl) rfl
theorem q2024 : (Jvm.Cond.castable "[Ljava/lang/Object;" "java/lang/Object") ∈ lw_tbl := lw_at lw_m8 230 rfl

theorem q2017 : (Jvm.Cond.castable "[LDictProof$Instance;" "java/lang/Object") ∈ lw_tbl := lw_at lw_m8 223 rfl
set_option maxRecDepth 100000

theorem q2018 : (Jvm.Cond.castable "[I" "java/lang/Object") ∈ lw_tbl := lw_at lw_m8 224 rfl
set_option maxRecDepth 100000

theorem q2019 : (Jvm.Cond.castable "[LDictProof$Term;" "java/lang/Object") ∈ lw_tbl := lw_at lw_m8 225 rfl
set_option maxRecDepth 100000

theorem q2020 : (Jvm.Cond.castable "[Z" "java/lang/Object") ∈ lw_tbl := lw_at lw_m8 226 rfl
set_option maxRecDepth 100000

theorem q2021 : (Jvm.Cond.castable "[Ljava/util/HashMap$Node;" "java/lang/Object") ∈ lw_tbl := lw_at lw_m8 227 rfl
set_option maxRecDepth 100000

theorem q2022 : (Jvm.Cond.castable "[LDictProof$Proof;" "java/lang/Object") ∈ lw_tbl := lw_at lw_m8 228 rfl
set_option maxRecDepth 100000

theorem q2023 : (Jvm.Cond.castable "[B" "java/lang/Object") ∈ lw_tbl := lw_at lw_m8 229 rfl
set_option maxRecDepth 100000
