/-! PupilsPupil$School -/
set_option maxRecDepth 100000
def RX1 : String := "PupilsPupil$School"
def TX1 : u_T := fun k => match k with
  | 0 => ("PupilsPupil$School", "statements", "I", false)
  | 1 => ("PupilsPupil$School", "pass", "I", false)
  | 2 => ("PupilsPupil$School", "tries", "I", false)
  | 3 => ("PupilsPupil$School", "ill", "I", false)
  | 4 => ("PupilsPupil$School", "facts", "Ljava/util/List;", true)
  | 5 => ("PupilsPupil$School", "people", "Ljava/util/List;", true)
  | 6 => ("PupilsPupil$School", "takes", "LPupilsPupil$Test;", false)
  | 7 => ("PupilsPupil$School", "garble", "LPupilsPupil$Test;", false)
  | _ => ("PupilsPupil$School", "sits", "LPupilsPupil$Test;", false)
def tyX1 : Nat → FieldType := fun k => match k with
  | 0 => .int
  | 1 => .int
  | 2 => .int
  | 3 => .int
  | 4 => .object "java/util/List"
  | 5 => .object "java/util/List"
  | 6 => .object "PupilsPupil$Test"
  | 7 => .object "PupilsPupil$Test"
  | _ => .object "PupilsPupil$Test"
abbrev wsX10 : List Cond := u_ws RX1 TX1 9
theorem nmX1 : ∀ a, a < 9 → ∀ b, b < 9 → a ≠ b → (TX1 a).2.1 ≠ (TX1 b).2.1 := by decide +kernel
theorem tyX1_ok : ∀ k, k < 9 → parseFieldDescriptor (TX1 k).2.2.1 = some (tyX1 k) := by decide +kernel
abbrev cX1_init : ByteArray := prog_16_method_1_code
def yX1_init : MethodName := ⟨RX1, "<init>", "()V"⟩
def dkwX1_init_1 : List UInt8 := [181, 0, 23, 42, 187, 0, 18, 89, 7, 183, 0, 20, 181, 0, 27, 177]
abbrev dktX1_init_1 : List UInt8 := dkwX1_init_1 ++ []
def dkwX1_init_0 : List UInt8 := [42, 183, 0, 3, 42, 16, 10, 181, 0, 9, 42, 6, 181, 0, 15, 42, 187, 0, 18, 89, 7, 183, 0, 20]
abbrev dktX1_init_0 : List UInt8 := dkwX1_init_0 ++ dktX1_init_1
theorem dksX1_init_0 : cX1_init.data.toList.drop 0 = dktX1_init_0 := by decide +kernel
theorem dksX1_init_1 : cX1_init.data.toList.drop 24 = dktX1_init_1 := dk_seg dksX1_init_0 24 rfl rfl
theorem dX1_init_0 : decode cX1_init 0 = .ok (.aload_n 0, 1) := dk_42 (dk_at dksX1_init_0 0 rfl rfl)
theorem dX1_init_1 : decode cX1_init 1 = .ok (.invokespecial 3, 3) := dk_183 0 3 (dk_at dksX1_init_0 1 rfl rfl)
theorem dX1_init_4 : decode cX1_init 4 = .ok (.aload_n 0, 1) := dk_42 (dk_at dksX1_init_0 4 rfl rfl)
theorem dX1_init_5 : decode cX1_init 5 = .ok (.bipush 10, 2) := dk_16 10 (dk_at dksX1_init_0 5 rfl rfl)
theorem dX1_init_7 : decode cX1_init 7 = .ok (.putfield 9, 3) := dk_181 0 9 (dk_at dksX1_init_0 7 rfl rfl)
theorem dX1_init_10 : decode cX1_init 10 = .ok (.aload_n 0, 1) := dk_42 (dk_at dksX1_init_0 10 rfl rfl)
theorem dX1_init_11 : decode cX1_init 11 = .ok (.iconst 3, 1) := dk_6 (dk_at dksX1_init_0 11 rfl rfl)
theorem dX1_init_12 : decode cX1_init 12 = .ok (.putfield 15, 3) := dk_181 0 15 (dk_at dksX1_init_0 12 rfl rfl)
theorem dX1_init_15 : decode cX1_init 15 = .ok (.aload_n 0, 1) := dk_42 (dk_at dksX1_init_0 15 rfl rfl)
theorem dX1_init_16 : decode cX1_init 16 = .ok (.new 18, 3) := dk_187 0 18 (dk_at dksX1_init_0 16 rfl rfl)
theorem dX1_init_19 : decode cX1_init 19 = .ok (.dup, 1) := dk_89 (dk_at dksX1_init_0 19 rfl rfl)
theorem dX1_init_20 : decode cX1_init 20 = .ok (.iconst 4, 1) := dk_7 (dk_at dksX1_init_0 20 rfl rfl)
theorem dX1_init_21 : decode cX1_init 21 = .ok (.invokespecial 20, 3) := dk_183 0 20 (dk_at dksX1_init_0 21 rfl rfl)
theorem dX1_init_24 : decode cX1_init 24 = .ok (.putfield 23, 3) := dk_181 0 23 (dk_at dksX1_init_1 0 rfl rfl)
theorem dX1_init_27 : decode cX1_init 27 = .ok (.aload_n 0, 1) := dk_42 (dk_at dksX1_init_1 3 rfl rfl)
theorem dX1_init_28 : decode cX1_init 28 = .ok (.new 18, 3) := dk_187 0 18 (dk_at dksX1_init_1 4 rfl rfl)
theorem dX1_init_31 : decode cX1_init 31 = .ok (.dup, 1) := dk_89 (dk_at dksX1_init_1 7 rfl rfl)
theorem dX1_init_32 : decode cX1_init 32 = .ok (.iconst 4, 1) := dk_7 (dk_at dksX1_init_1 8 rfl rfl)
theorem dX1_init_33 : decode cX1_init 33 = .ok (.invokespecial 20, 3) := dk_183 0 20 (dk_at dksX1_init_1 9 rfl rfl)
theorem dX1_init_36 : decode cX1_init 36 = .ok (.putfield 27, 3) := dk_181 0 27 (dk_at dksX1_init_1 12 rfl rfl)
theorem dX1_init_39 : decode cX1_init 39 = .ok (.return_, 1) := dk_177 (dk_at dksX1_init_1 15 rfl rfl)
abbrev cX1_isBy : ByteArray := prog_16_method_2_code
def yX1_isBy : MethodName := ⟨RX1, "isBy", "(II)Z"⟩
def dkwX1_isBy_1 : List UInt8 := [192, 0, 36, 180, 0, 38, 62, 167, 255, 229, 29, 28, 160, 0, 7, 4, 167, 0, 4, 3, 172]
abbrev dktX1_isBy_1 : List UInt8 := dkwX1_isBy_1 ++ []
def dkwX1_isBy_0 : List UInt8 := [27, 62, 29, 2, 159, 0, 28, 29, 28, 159, 0, 23, 42, 180, 0, 27, 29, 185, 0, 30, 2, 0]
abbrev dktX1_isBy_0 : List UInt8 := dkwX1_isBy_0 ++ dktX1_isBy_1
theorem dksX1_isBy_0 : cX1_isBy.data.toList.drop 0 = dktX1_isBy_0 := by decide +kernel
theorem dksX1_isBy_1 : cX1_isBy.data.toList.drop 22 = dktX1_isBy_1 := dk_seg dksX1_isBy_0 22 rfl rfl
theorem dX1_isBy_0 : decode cX1_isBy 0 = .ok (.iload_n 1, 1) := dk_27 (dk_at dksX1_isBy_0 0 rfl rfl)
theorem dX1_isBy_1 : decode cX1_isBy 1 = .ok (.istore_n 3, 1) := dk_62 (dk_at dksX1_isBy_0 1 rfl rfl)
theorem dX1_isBy_2 : decode cX1_isBy 2 = .ok (.iload_n 3, 1) := dk_29 (dk_at dksX1_isBy_0 2 rfl rfl)
theorem dX1_isBy_3 : decode cX1_isBy 3 = .ok (.iconst (-1), 1) := dk_2 (dk_at dksX1_isBy_0 3 rfl rfl)
theorem dX1_isBy_4 : decode cX1_isBy 4 = .ok (.if_icmp .eq 28, 3) := dk_159 0 28 (dk_at dksX1_isBy_0 4 rfl rfl)
theorem dX1_isBy_7 : decode cX1_isBy 7 = .ok (.iload_n 3, 1) := dk_29 (dk_at dksX1_isBy_0 7 rfl rfl)
theorem dX1_isBy_8 : decode cX1_isBy 8 = .ok (.iload_n 2, 1) := dk_28 (dk_at dksX1_isBy_0 8 rfl rfl)
theorem dX1_isBy_9 : decode cX1_isBy 9 = .ok (.if_icmp .eq 23, 3) := dk_159 0 23 (dk_at dksX1_isBy_0 9 rfl rfl)
theorem dX1_isBy_12 : decode cX1_isBy 12 = .ok (.aload_n 0, 1) := dk_42 (dk_at dksX1_isBy_0 12 rfl rfl)
theorem dX1_isBy_13 : decode cX1_isBy 13 = .ok (.getfield 27, 3) := dk_180 0 27 (dk_at dksX1_isBy_0 13 rfl rfl)
theorem dX1_isBy_16 : decode cX1_isBy 16 = .ok (.iload_n 3, 1) := dk_29 (dk_at dksX1_isBy_0 16 rfl rfl)
theorem dX1_isBy_17 : decode cX1_isBy 17 = .ok (.invokeinterface 30 2, 5) := by decide +kernel
theorem dX1_isBy_22 : decode cX1_isBy 22 = .ok (.checkcast 36, 3) := dk_192 0 36 (dk_at dksX1_isBy_1 0 rfl rfl)
theorem dX1_isBy_25 : decode cX1_isBy 25 = .ok (.getfield 38, 3) := dk_180 0 38 (dk_at dksX1_isBy_1 3 rfl rfl)
theorem dX1_isBy_28 : decode cX1_isBy 28 = .ok (.istore_n 3, 1) := dk_62 (dk_at dksX1_isBy_1 6 rfl rfl)
theorem dX1_isBy_29 : decode cX1_isBy 29 = .ok (.goto (-27), 3) := dk_167 255 229 (dk_at dksX1_isBy_1 7 rfl rfl)
theorem dX1_isBy_32 : decode cX1_isBy 32 = .ok (.iload_n 3, 1) := dk_29 (dk_at dksX1_isBy_1 10 rfl rfl)
theorem dX1_isBy_33 : decode cX1_isBy 33 = .ok (.iload_n 2, 1) := dk_28 (dk_at dksX1_isBy_1 11 rfl rfl)
theorem dX1_isBy_34 : decode cX1_isBy 34 = .ok (.if_icmp .ne 7, 3) := dk_160 0 7 (dk_at dksX1_isBy_1 12 rfl rfl)
theorem dX1_isBy_37 : decode cX1_isBy 37 = .ok (.iconst 1, 1) := dk_4 (dk_at dksX1_isBy_1 15 rfl rfl)
theorem dX1_isBy_38 : decode cX1_isBy 38 = .ok (.goto 4, 3) := dk_167 0 4 (dk_at dksX1_isBy_1 16 rfl rfl)
theorem dX1_isBy_41 : decode cX1_isBy 41 = .ok (.iconst 0, 1) := dk_3 (dk_at dksX1_isBy_1 19 rfl rfl)
theorem dX1_isBy_42 : decode cX1_isBy 42 = .ok (.ireturn, 1) := dk_172 (dk_at dksX1_isBy_1 20 rfl rfl)
theorem q146 : (Jvm.Cond.initialized "PupilsPupil$School") ∈ lw_all := lw_g (lw_at lw_m1 2 rfl) rfl
theorem q193 : (Jvm.Cond.instantiable "PupilsPupil$School" (9 : Nat)) ∈ lw_all := lw_g (lw_at lw_m1 49 rfl) rfl
theorem q195 : (Jvm.Cond.instanceMethod ({ cls := "PupilsPupil$School", name := "<init>", desc := "()V" } : Jvm.MethodName)) ∈ lw_all := lw_g (lw_at lw_m1 51 rfl) rfl
theorem q196 : (Jvm.Cond.code ({ cls := "PupilsPupil$School", name := "<init>", desc := "()V" } : Jvm.MethodName) prog_16_method_1_code (1 : Nat) (Option.none : Option Jvm.ClassFile.FieldType)) ∈ lw_all := lw_g (lw_at lw_m1 52 rfl) rfl
theorem q197 : (Jvm.Cond.methodLink "PupilsPupil$School" (3 : Nat) ({ cls := "java/lang/Object", name := "<init>", desc := "()V" } : Jvm.MethodName)) ∈ lw_all := lw_g (lw_at lw_m1 53 rfl) rfl
theorem q198 : (Jvm.Cond.classLink "PupilsPupil$School" (18 : Nat) "java/util/ArrayList") ∈ lw_all := lw_g (lw_at lw_m1 54 rfl) rfl
theorem q200 : (Jvm.Cond.methodLink "PupilsPupil$School" (20 : Nat) ({ cls := "java/util/ArrayList", name := "<init>", desc := "(I)V" } : Jvm.MethodName)) ∈ lw_all := lw_g (lw_at lw_m1 56 rfl) rfl
theorem q228 : (Jvm.Cond.fieldLink "PupilsPupil$School" (9 : Nat) "PupilsPupil$School" "pass" "I") ∈ lw_all := lw_g (lw_at lw_m1 84 rfl) rfl
theorem q232 : (Jvm.Cond.fieldLink "PupilsPupil$School" (15 : Nat) "PupilsPupil$School" "tries" "I") ∈ lw_all := lw_g (lw_at lw_m1 88 rfl) rfl
theorem q238 : (Jvm.Cond.fieldLink "PupilsPupil$School" (23 : Nat) "PupilsPupil$School" "facts" "Ljava/util/List;") ∈ lw_all := lw_g (lw_at lw_m1 94 rfl) rfl
theorem q241 : (Jvm.Cond.fieldLink "PupilsPupil$School" (27 : Nat) "PupilsPupil$School" "people" "Ljava/util/List;") ∈ lw_all := lw_g (lw_at lw_m1 97 rfl) rfl
theorem q251 : (Jvm.Cond.lays "PupilsPupil$School" "PupilsPupil$School" "statements" "I") ∈ lw_all := lw_g (lw_at lw_m1 107 rfl) rfl
theorem q252 : (Jvm.Cond.soleField "PupilsPupil$School" "statements") ∈ lw_all := lw_g (lw_at lw_m1 108 rfl) rfl
theorem q253 : (Jvm.Cond.lays "PupilsPupil$School" "PupilsPupil$School" "pass" "I") ∈ lw_all := lw_g (lw_at lw_m1 109 rfl) rfl
theorem q254 : (Jvm.Cond.soleField "PupilsPupil$School" "pass") ∈ lw_all := lw_g (lw_at lw_m1 110 rfl) rfl
theorem q255 : (Jvm.Cond.lays "PupilsPupil$School" "PupilsPupil$School" "tries" "I") ∈ lw_all := lw_g (lw_at lw_m1 111 rfl) rfl
theorem q256 : (Jvm.Cond.soleField "PupilsPupil$School" "tries") ∈ lw_all := lw_g (lw_at lw_m1 112 rfl) rfl
theorem q257 : (Jvm.Cond.lays "PupilsPupil$School" "PupilsPupil$School" "ill" "I") ∈ lw_all := lw_g (lw_at lw_m1 113 rfl) rfl
theorem q258 : (Jvm.Cond.soleField "PupilsPupil$School" "ill") ∈ lw_all := lw_g (lw_at lw_m1 114 rfl) rfl
theorem q259 : (Jvm.Cond.laysFinal "PupilsPupil$School" "PupilsPupil$School" "facts" "Ljava/util/List;") ∈ lw_all := lw_g (lw_at lw_m1 115 rfl) rfl
theorem q260 : (Jvm.Cond.soleField "PupilsPupil$School" "facts") ∈ lw_all := lw_g (lw_at lw_m1 116 rfl) rfl
theorem q261 : (Jvm.Cond.laysFinal "PupilsPupil$School" "PupilsPupil$School" "people" "Ljava/util/List;") ∈ lw_all := lw_g (lw_at lw_m1 117 rfl) rfl
theorem q262 : (Jvm.Cond.soleField "PupilsPupil$School" "people") ∈ lw_all := lw_g (lw_at lw_m1 118 rfl) rfl
theorem q263 : (Jvm.Cond.lays "PupilsPupil$School" "PupilsPupil$School" "takes" "LPupilsPupil$Test;") ∈ lw_all := lw_g (lw_at lw_m1 119 rfl) rfl
theorem q264 : (Jvm.Cond.soleField "PupilsPupil$School" "takes") ∈ lw_all := lw_g (lw_at lw_m1 120 rfl) rfl
theorem q265 : (Jvm.Cond.lays "PupilsPupil$School" "PupilsPupil$School" "garble" "LPupilsPupil$Test;") ∈ lw_all := lw_g (lw_at lw_m1 121 rfl) rfl
theorem q266 : (Jvm.Cond.soleField "PupilsPupil$School" "garble") ∈ lw_all := lw_g (lw_at lw_m1 122 rfl) rfl
theorem q267 : (Jvm.Cond.lays "PupilsPupil$School" "PupilsPupil$School" "sits" "LPupilsPupil$Test;") ∈ lw_all := lw_g (lw_at lw_m1 123 rfl) rfl
theorem q268 : (Jvm.Cond.soleField "PupilsPupil$School" "sits") ∈ lw_all := lw_g (lw_at lw_m1 124 rfl) rfl
theorem q269 : (Jvm.Cond.superclass "PupilsPupil$School" "java/lang/Object") ∈ lw_all := lw_g (lw_at lw_m1 125 rfl) rfl
theorem q862 : (Jvm.Cond.selects "PupilsPupil$School" ({ cls := "java/lang/Object", name := "getClass", desc := "()Ljava/lang/Class;" } : Jvm.MethodName) ({ cls := "java/lang/Object", name := "getClass", desc := "()Ljava/lang/Class;" } : Jvm.MethodName)) ∈ lw_all := lw_g (lw_at lw_m3 238 rfl) rfl
theorem q891 : (Jvm.Cond.fieldLinkNest "PupilsPupil$School" (38 : Nat) "PupilsPupil$Person" "master" "I" "PupilsPupil") ∈ lw_tbl := lw_at lw_m4 27 rfl
theorem q918 : (Jvm.Cond.instanceMethod ({ cls := "PupilsPupil$School", name := "isBy", desc := "(II)Z" } : Jvm.MethodName)) ∈ lw_all := lw_g (lw_at lw_m4 54 rfl) rfl
theorem q919 : (Jvm.Cond.selects "PupilsPupil$School" ({ cls := "PupilsPupil$School", name := "isBy", desc := "(II)Z" } : Jvm.MethodName) ({ cls := "PupilsPupil$School", name := "isBy", desc := "(II)Z" } : Jvm.MethodName)) ∈ lw_all := lw_g (lw_at lw_m4 55 rfl) rfl
theorem q920 : (Jvm.Cond.code ({ cls := "PupilsPupil$School", name := "isBy", desc := "(II)Z" } : Jvm.MethodName) prog_16_method_2_code (4 : Nat) (Option.some Jvm.ClassFile.FieldType.boolean)) ∈ lw_all := lw_g (lw_at lw_m4 56 rfl) rfl
theorem q921 : (Jvm.Cond.interfaceEntry "PupilsPupil$School" (30 : Nat)) ∈ lw_tbl := lw_at lw_m4 57 rfl
theorem q922 : (Jvm.Cond.methodLink "PupilsPupil$School" (30 : Nat) ({ cls := "java/util/List", name := "get", desc := "(I)Ljava/lang/Object;" } : Jvm.MethodName)) ∈ lw_all := lw_g (lw_at lw_m4 58 rfl) rfl
theorem q923 : (Jvm.Cond.classLink "PupilsPupil$School" (36 : Nat) "PupilsPupil$Person") ∈ lw_all := lw_g (lw_at lw_m4 59 rfl) rfl
theorem q2481 : (Jvm.Cond.castable "PupilsPupil$School" "java/lang/Object") ∈ lw_tbl := lw_at lw_m10 177 rfl
theorem in_X1 : ∀ w ∈ wsX10, w ∈ lw_all := lw_in wsX10 [251, 253, 255, 257, 259, 261, 263, 265, 267] (by decide +kernel) (by decide +kernel)

/-! PupilsPupil$Facts -/
set_option maxRecDepth 100000
def RX10 : String := "PupilsPupil$Facts"
def TX10 : u_T := fun k => match k with
  | 0 => ("PupilsPupil$Facts", "tests", "Ljava/util/List;", true)
  | _ => ("PupilsPupil$Facts", "all", "Z", true)
def tyX10 : Nat → FieldType := fun k => match k with
  | 0 => .object "java/util/List"
  | _ => .boolean
abbrev wsX100 : List Cond := u_ws RX10 TX10 2
theorem nmX10 : ∀ a, a < 2 → ∀ b, b < 2 → a ≠ b → (TX10 a).2.1 ≠ (TX10 b).2.1 := by decide +kernel
theorem tyX10_ok : ∀ k, k < 2 → parseFieldDescriptor (TX10 k).2.2.1 = some (tyX10 k) := by decide +kernel
abbrev cX10_init : ByteArray := prog_5_method_1_code
def yX10_init : MethodName := ⟨RX10, "<init>", "(Z)V"⟩
def dkwX10_init_0 : List UInt8 := [42, 183, 0, 1, 42, 187, 0, 7, 89, 5, 183, 0, 9, 181, 0, 12, 42, 27, 181, 0, 18, 177]
abbrev dktX10_init_0 : List UInt8 := dkwX10_init_0 ++ []
theorem dksX10_init_0 : cX10_init.data.toList.drop 0 = dktX10_init_0 := by decide +kernel
theorem dX10_init_0 : decode cX10_init 0 = .ok (.aload_n 0, 1) := dk_42 (dk_at dksX10_init_0 0 rfl rfl)
theorem dX10_init_1 : decode cX10_init 1 = .ok (.invokespecial 1, 3) := dk_183 0 1 (dk_at dksX10_init_0 1 rfl rfl)
theorem dX10_init_4 : decode cX10_init 4 = .ok (.aload_n 0, 1) := dk_42 (dk_at dksX10_init_0 4 rfl rfl)
theorem dX10_init_5 : decode cX10_init 5 = .ok (.new 7, 3) := dk_187 0 7 (dk_at dksX10_init_0 5 rfl rfl)
theorem dX10_init_8 : decode cX10_init 8 = .ok (.dup, 1) := dk_89 (dk_at dksX10_init_0 8 rfl rfl)
theorem dX10_init_9 : decode cX10_init 9 = .ok (.iconst 2, 1) := dk_5 (dk_at dksX10_init_0 9 rfl rfl)
theorem dX10_init_10 : decode cX10_init 10 = .ok (.invokespecial 9, 3) := dk_183 0 9 (dk_at dksX10_init_0 10 rfl rfl)
theorem dX10_init_13 : decode cX10_init 13 = .ok (.putfield 12, 3) := dk_181 0 12 (dk_at dksX10_init_0 13 rfl rfl)
theorem dX10_init_16 : decode cX10_init 16 = .ok (.aload_n 0, 1) := dk_42 (dk_at dksX10_init_0 16 rfl rfl)
theorem dX10_init_17 : decode cX10_init 17 = .ok (.iload_n 1, 1) := dk_27 (dk_at dksX10_init_0 17 rfl rfl)
theorem dX10_init_18 : decode cX10_init 18 = .ok (.putfield 18, 3) := dk_181 0 18 (dk_at dksX10_init_0 18 rfl rfl)
theorem dX10_init_21 : decode cX10_init 21 = .ok (.return_, 1) := dk_177 (dk_at dksX10_init_0 21 rfl rfl)
abbrev cX10_holds : ByteArray := prog_5_method_2_code
def yX10_holds : MethodName := ⟨RX10, "holds", "(LPupilsPupil$Moment;)Z"⟩
def dkwX10_holds_2 : List UInt8 := [154, 0, 7, 4, 167, 0, 4, 3, 172, 132, 2, 1, 167, 255, 203, 42, 180, 0, 18, 172]
abbrev dktX10_holds_2 : List UInt8 := dkwX10_holds_2 ++ []
def dkwX10_holds_1 : List UInt8 := [185, 0, 28, 2, 0, 192, 0, 2, 43, 182, 0, 32, 42, 180, 0, 18, 159, 0, 16, 42, 180, 0, 18]
abbrev dktX10_holds_1 : List UInt8 := dkwX10_holds_1 ++ dktX10_holds_2
def dkwX10_holds_0 : List UInt8 := [3, 61, 28, 42, 180, 0, 12, 185, 0, 22, 1, 0, 162, 0, 46, 42, 180, 0, 12, 28]
abbrev dktX10_holds_0 : List UInt8 := dkwX10_holds_0 ++ dktX10_holds_1
theorem dksX10_holds_0 : cX10_holds.data.toList.drop 0 = dktX10_holds_0 := by decide +kernel
theorem dksX10_holds_1 : cX10_holds.data.toList.drop 20 = dktX10_holds_1 := dk_seg dksX10_holds_0 20 rfl rfl
theorem dksX10_holds_2 : cX10_holds.data.toList.drop 43 = dktX10_holds_2 := dk_seg dksX10_holds_1 23 rfl rfl
theorem dX10_holds_0 : decode cX10_holds 0 = .ok (.iconst 0, 1) := dk_3 (dk_at dksX10_holds_0 0 rfl rfl)
theorem dX10_holds_1 : decode cX10_holds 1 = .ok (.istore_n 2, 1) := dk_61 (dk_at dksX10_holds_0 1 rfl rfl)
theorem dX10_holds_2 : decode cX10_holds 2 = .ok (.iload_n 2, 1) := dk_28 (dk_at dksX10_holds_0 2 rfl rfl)
theorem dX10_holds_3 : decode cX10_holds 3 = .ok (.aload_n 0, 1) := dk_42 (dk_at dksX10_holds_0 3 rfl rfl)
theorem dX10_holds_4 : decode cX10_holds 4 = .ok (.getfield 12, 3) := dk_180 0 12 (dk_at dksX10_holds_0 4 rfl rfl)
theorem dX10_holds_7 : decode cX10_holds 7 = .ok (.invokeinterface 22 1, 5) := by decide +kernel
theorem dX10_holds_12 : decode cX10_holds 12 = .ok (.if_icmp .ge 46, 3) := dk_162 0 46 (dk_at dksX10_holds_0 12 rfl rfl)
theorem dX10_holds_15 : decode cX10_holds 15 = .ok (.aload_n 0, 1) := dk_42 (dk_at dksX10_holds_0 15 rfl rfl)
theorem dX10_holds_16 : decode cX10_holds 16 = .ok (.getfield 12, 3) := dk_180 0 12 (dk_at dksX10_holds_0 16 rfl rfl)
theorem dX10_holds_19 : decode cX10_holds 19 = .ok (.iload_n 2, 1) := dk_28 (dk_at dksX10_holds_0 19 rfl rfl)
theorem dX10_holds_20 : decode cX10_holds 20 = .ok (.invokeinterface 28 2, 5) := by decide +kernel
theorem dX10_holds_25 : decode cX10_holds 25 = .ok (.checkcast 2, 3) := dk_192 0 2 (dk_at dksX10_holds_1 5 rfl rfl)
theorem dX10_holds_28 : decode cX10_holds 28 = .ok (.aload_n 1, 1) := dk_43 (dk_at dksX10_holds_1 8 rfl rfl)
theorem dX10_holds_29 : decode cX10_holds 29 = .ok (.invokevirtual 32, 3) := dk_182 0 32 (dk_at dksX10_holds_1 9 rfl rfl)
theorem dX10_holds_32 : decode cX10_holds 32 = .ok (.aload_n 0, 1) := dk_42 (dk_at dksX10_holds_1 12 rfl rfl)
theorem dX10_holds_33 : decode cX10_holds 33 = .ok (.getfield 18, 3) := dk_180 0 18 (dk_at dksX10_holds_1 13 rfl rfl)
theorem dX10_holds_36 : decode cX10_holds 36 = .ok (.if_icmp .eq 16, 3) := dk_159 0 16 (dk_at dksX10_holds_1 16 rfl rfl)
theorem dX10_holds_39 : decode cX10_holds 39 = .ok (.aload_n 0, 1) := dk_42 (dk_at dksX10_holds_1 19 rfl rfl)
theorem dX10_holds_40 : decode cX10_holds 40 = .ok (.getfield 18, 3) := dk_180 0 18 (dk_at dksX10_holds_1 20 rfl rfl)
theorem dX10_holds_43 : decode cX10_holds 43 = .ok (.ifCond .ne 7, 3) := dk_154 0 7 (dk_at dksX10_holds_2 0 rfl rfl)
theorem dX10_holds_46 : decode cX10_holds 46 = .ok (.iconst 1, 1) := dk_4 (dk_at dksX10_holds_2 3 rfl rfl)
theorem dX10_holds_47 : decode cX10_holds 47 = .ok (.goto 4, 3) := dk_167 0 4 (dk_at dksX10_holds_2 4 rfl rfl)
theorem dX10_holds_50 : decode cX10_holds 50 = .ok (.iconst 0, 1) := dk_3 (dk_at dksX10_holds_2 7 rfl rfl)
theorem dX10_holds_51 : decode cX10_holds 51 = .ok (.ireturn, 1) := dk_172 (dk_at dksX10_holds_2 8 rfl rfl)
theorem dX10_holds_52 : decode cX10_holds 52 = .ok (.iinc 2 1, 3) := dk_132 2 1 (dk_at dksX10_holds_2 9 rfl rfl)
theorem dX10_holds_55 : decode cX10_holds 55 = .ok (.goto (-53), 3) := dk_167 255 203 (dk_at dksX10_holds_2 12 rfl rfl)
theorem dX10_holds_58 : decode cX10_holds 58 = .ok (.aload_n 0, 1) := dk_42 (dk_at dksX10_holds_2 15 rfl rfl)
theorem dX10_holds_59 : decode cX10_holds 59 = .ok (.getfield 18, 3) := dk_180 0 18 (dk_at dksX10_holds_2 16 rfl rfl)
theorem dX10_holds_62 : decode cX10_holds 62 = .ok (.ireturn, 1) := dk_172 (dk_at dksX10_holds_2 19 rfl rfl)
theorem q170 : (Jvm.Cond.initialized "PupilsPupil$Facts") ∈ lw_all := lw_g (lw_at lw_m1 26 rfl) rfl
theorem q851 : (Jvm.Cond.selects "PupilsPupil$Facts" ({ cls := "java/lang/Object", name := "getClass", desc := "()Ljava/lang/Class;" } : Jvm.MethodName) ({ cls := "java/lang/Object", name := "getClass", desc := "()Ljava/lang/Class;" } : Jvm.MethodName)) ∈ lw_all := lw_g (lw_at lw_m3 227 rfl) rfl
theorem q943 : (Jvm.Cond.instantiable "PupilsPupil$Facts" (2 : Nat)) ∈ lw_all := lw_g (lw_at lw_m4 79 rfl) rfl
theorem q945 : (Jvm.Cond.instanceMethod ({ cls := "PupilsPupil$Facts", name := "<init>", desc := "(Z)V" } : Jvm.MethodName)) ∈ lw_all := lw_g (lw_at lw_m4 81 rfl) rfl
theorem q946 : (Jvm.Cond.code ({ cls := "PupilsPupil$Facts", name := "<init>", desc := "(Z)V" } : Jvm.MethodName) prog_5_method_1_code (2 : Nat) (Option.none : Option Jvm.ClassFile.FieldType)) ∈ lw_all := lw_g (lw_at lw_m4 82 rfl) rfl
theorem q947 : (Jvm.Cond.methodLinkNest "PupilsPupil$Facts" (1 : Nat) ({ cls := "PupilsPupil$Test", name := "<init>", desc := "()V" } : Jvm.MethodName) "PupilsPupil") ∈ lw_tbl := lw_at lw_m4 83 rfl
theorem q951 : (Jvm.Cond.classLink "PupilsPupil$Facts" (7 : Nat) "java/util/ArrayList") ∈ lw_all := lw_g (lw_at lw_m4 87 rfl) rfl
theorem q952 : (Jvm.Cond.methodLink "PupilsPupil$Facts" (9 : Nat) ({ cls := "java/util/ArrayList", name := "<init>", desc := "(I)V" } : Jvm.MethodName)) ∈ lw_all := lw_g (lw_at lw_m4 88 rfl) rfl
theorem q953 : (Jvm.Cond.fieldLink "PupilsPupil$Facts" (12 : Nat) "PupilsPupil$Facts" "tests" "Ljava/util/List;") ∈ lw_all := lw_g (lw_at lw_m4 89 rfl) rfl
theorem q955 : (Jvm.Cond.fieldLink "PupilsPupil$Facts" (18 : Nat) "PupilsPupil$Facts" "all" "Z") ∈ lw_all := lw_g (lw_at lw_m4 91 rfl) rfl
theorem q956 : (Jvm.Cond.laysFinal "PupilsPupil$Facts" "PupilsPupil$Facts" "tests" "Ljava/util/List;") ∈ lw_all := lw_g (lw_at lw_m4 92 rfl) rfl
theorem q957 : (Jvm.Cond.soleField "PupilsPupil$Facts" "tests") ∈ lw_all := lw_g (lw_at lw_m4 93 rfl) rfl
theorem q958 : (Jvm.Cond.laysFinal "PupilsPupil$Facts" "PupilsPupil$Facts" "all" "Z") ∈ lw_all := lw_g (lw_at lw_m4 94 rfl) rfl
theorem q959 : (Jvm.Cond.soleField "PupilsPupil$Facts" "all") ∈ lw_all := lw_g (lw_at lw_m4 95 rfl) rfl
theorem q960 : (Jvm.Cond.superclass "PupilsPupil$Facts" "PupilsPupil$Test") ∈ lw_all := lw_g (lw_at lw_m4 96 rfl) rfl
theorem q1335 : (Jvm.Cond.selects "PupilsPupil$Facts" ({ cls := "PupilsPupil$Test", name := "holds", desc := "(LPupilsPupil$Moment;)Z" } : Jvm.MethodName) ({ cls := "PupilsPupil$Facts", name := "holds", desc := "(LPupilsPupil$Moment;)Z" } : Jvm.MethodName)) ∈ lw_all := lw_g (lw_at lw_m5 231 rfl) rfl
theorem q1336 : (Jvm.Cond.instanceMethod ({ cls := "PupilsPupil$Facts", name := "holds", desc := "(LPupilsPupil$Moment;)Z" } : Jvm.MethodName)) ∈ lw_all := lw_g (lw_at lw_m5 232 rfl) rfl
theorem q1337 : (Jvm.Cond.code ({ cls := "PupilsPupil$Facts", name := "holds", desc := "(LPupilsPupil$Moment;)Z" } : Jvm.MethodName) prog_5_method_2_code (3 : Nat) (Option.some Jvm.ClassFile.FieldType.boolean)) ∈ lw_all := lw_g (lw_at lw_m5 233 rfl) rfl
theorem q1338 : (Jvm.Cond.interfaceEntry "PupilsPupil$Facts" (22 : Nat)) ∈ lw_tbl := lw_at lw_m5 234 rfl
theorem q1339 : (Jvm.Cond.methodLink "PupilsPupil$Facts" (22 : Nat) ({ cls := "java/util/List", name := "size", desc := "()I" } : Jvm.MethodName)) ∈ lw_all := lw_g (lw_at lw_m5 235 rfl) rfl
theorem q1340 : (Jvm.Cond.interfaceEntry "PupilsPupil$Facts" (28 : Nat)) ∈ lw_tbl := lw_at lw_m5 236 rfl
theorem q1341 : (Jvm.Cond.methodLink "PupilsPupil$Facts" (28 : Nat) ({ cls := "java/util/List", name := "get", desc := "(I)Ljava/lang/Object;" } : Jvm.MethodName)) ∈ lw_all := lw_g (lw_at lw_m5 237 rfl) rfl
theorem q1342 : (Jvm.Cond.classLink "PupilsPupil$Facts" (2 : Nat) "PupilsPupil$Test") ∈ lw_all := lw_g (lw_at lw_m5 238 rfl) rfl
theorem q1343 : (Jvm.Cond.methodLink "PupilsPupil$Facts" (32 : Nat) ({ cls := "PupilsPupil$Test", name := "holds", desc := "(LPupilsPupil$Moment;)Z" } : Jvm.MethodName)) ∈ lw_all := lw_g (lw_at lw_m5 239 rfl) rfl
theorem q2470 : (Jvm.Cond.castable "PupilsPupil$Facts" "PupilsPupil$Test") ∈ lw_tbl := lw_at lw_m10 166 rfl
theorem q2490 : (Jvm.Cond.castable "PupilsPupil$Facts" "java/lang/Object") ∈ lw_tbl := lw_at lw_m10 186 rfl
theorem in_X10 : ∀ w ∈ wsX100, w ∈ lw_all := lw_in wsX100 [956, 958] (by decide +kernel) (by decide +kernel)

/-! PupilsPupil$Not -/
set_option maxRecDepth 100000
def RX11 : String := "PupilsPupil$Not"
def TX11 : u_T := fun k => match k with
  | _ => ("PupilsPupil$Not", "test", "LPupilsPupil$Test;", true)
def tyX11 : Nat → FieldType := fun k => match k with
  | _ => .object "PupilsPupil$Test"
abbrev wsX110 : List Cond := u_ws RX11 TX11 1
theorem nmX11 : ∀ a, a < 1 → ∀ b, b < 1 → a ≠ b → (TX11 a).2.1 ≠ (TX11 b).2.1 := by decide +kernel
theorem tyX11_ok : ∀ k, k < 1 → parseFieldDescriptor (TX11 k).2.2.1 = some (tyX11 k) := by decide +kernel
abbrev cX11_init : ByteArray := prog_11_method_1_code
def yX11_init : MethodName := ⟨RX11, "<init>", "(LPupilsPupil$Test;)V"⟩
def dkwX11_init_0 : List UInt8 := [42, 183, 0, 1, 42, 43, 181, 0, 7, 177]
abbrev dktX11_init_0 : List UInt8 := dkwX11_init_0 ++ []
theorem dksX11_init_0 : cX11_init.data.toList.drop 0 = dktX11_init_0 := by decide +kernel
theorem dX11_init_0 : decode cX11_init 0 = .ok (.aload_n 0, 1) := dk_42 (dk_at dksX11_init_0 0 rfl rfl)
theorem dX11_init_1 : decode cX11_init 1 = .ok (.invokespecial 1, 3) := dk_183 0 1 (dk_at dksX11_init_0 1 rfl rfl)
theorem dX11_init_4 : decode cX11_init 4 = .ok (.aload_n 0, 1) := dk_42 (dk_at dksX11_init_0 4 rfl rfl)
theorem dX11_init_5 : decode cX11_init 5 = .ok (.aload_n 1, 1) := dk_43 (dk_at dksX11_init_0 5 rfl rfl)
theorem dX11_init_6 : decode cX11_init 6 = .ok (.putfield 7, 3) := dk_181 0 7 (dk_at dksX11_init_0 6 rfl rfl)
theorem dX11_init_9 : decode cX11_init 9 = .ok (.return_, 1) := dk_177 (dk_at dksX11_init_0 9 rfl rfl)
abbrev cX11_holds : ByteArray := prog_11_method_2_code
def yX11_holds : MethodName := ⟨RX11, "holds", "(LPupilsPupil$Moment;)Z"⟩
def dkwX11_holds_0 : List UInt8 := [42, 180, 0, 7, 43, 182, 0, 13, 154, 0, 7, 4, 167, 0, 4, 3, 172]
abbrev dktX11_holds_0 : List UInt8 := dkwX11_holds_0 ++ []
theorem dksX11_holds_0 : cX11_holds.data.toList.drop 0 = dktX11_holds_0 := by decide +kernel
theorem dX11_holds_0 : decode cX11_holds 0 = .ok (.aload_n 0, 1) := dk_42 (dk_at dksX11_holds_0 0 rfl rfl)
theorem dX11_holds_1 : decode cX11_holds 1 = .ok (.getfield 7, 3) := dk_180 0 7 (dk_at dksX11_holds_0 1 rfl rfl)
theorem dX11_holds_4 : decode cX11_holds 4 = .ok (.aload_n 1, 1) := dk_43 (dk_at dksX11_holds_0 4 rfl rfl)
theorem dX11_holds_5 : decode cX11_holds 5 = .ok (.invokevirtual 13, 3) := dk_182 0 13 (dk_at dksX11_holds_0 5 rfl rfl)
theorem dX11_holds_8 : decode cX11_holds 8 = .ok (.ifCond .ne 7, 3) := dk_154 0 7 (dk_at dksX11_holds_0 8 rfl rfl)
theorem dX11_holds_11 : decode cX11_holds 11 = .ok (.iconst 1, 1) := dk_4 (dk_at dksX11_holds_0 11 rfl rfl)
theorem dX11_holds_12 : decode cX11_holds 12 = .ok (.goto 4, 3) := dk_167 0 4 (dk_at dksX11_holds_0 12 rfl rfl)
theorem dX11_holds_15 : decode cX11_holds 15 = .ok (.iconst 0, 1) := dk_3 (dk_at dksX11_holds_0 15 rfl rfl)
theorem dX11_holds_16 : decode cX11_holds 16 = .ok (.ireturn, 1) := dk_172 (dk_at dksX11_holds_0 16 rfl rfl)
theorem q171 : (Jvm.Cond.initialized "PupilsPupil$Not") ∈ lw_all := lw_g (lw_at lw_m1 27 rfl) rfl
theorem q857 : (Jvm.Cond.selects "PupilsPupil$Not" ({ cls := "java/lang/Object", name := "getClass", desc := "()Ljava/lang/Class;" } : Jvm.MethodName) ({ cls := "java/lang/Object", name := "getClass", desc := "()Ljava/lang/Class;" } : Jvm.MethodName)) ∈ lw_all := lw_g (lw_at lw_m3 233 rfl) rfl
theorem q983 : (Jvm.Cond.instantiable "PupilsPupil$Not" (1 : Nat)) ∈ lw_all := lw_g (lw_at lw_m4 119 rfl) rfl
theorem q985 : (Jvm.Cond.instanceMethod ({ cls := "PupilsPupil$Not", name := "<init>", desc := "(LPupilsPupil$Test;)V" } : Jvm.MethodName)) ∈ lw_all := lw_g (lw_at lw_m4 121 rfl) rfl
theorem q986 : (Jvm.Cond.code ({ cls := "PupilsPupil$Not", name := "<init>", desc := "(LPupilsPupil$Test;)V" } : Jvm.MethodName) prog_11_method_1_code (2 : Nat) (Option.none : Option Jvm.ClassFile.FieldType)) ∈ lw_all := lw_g (lw_at lw_m4 122 rfl) rfl
theorem q987 : (Jvm.Cond.methodLinkNest "PupilsPupil$Not" (1 : Nat) ({ cls := "PupilsPupil$Test", name := "<init>", desc := "()V" } : Jvm.MethodName) "PupilsPupil") ∈ lw_tbl := lw_at lw_m4 123 rfl
theorem q988 : (Jvm.Cond.fieldLink "PupilsPupil$Not" (7 : Nat) "PupilsPupil$Not" "test" "LPupilsPupil$Test;") ∈ lw_all := lw_g (lw_at lw_m4 124 rfl) rfl
theorem q989 : (Jvm.Cond.laysFinal "PupilsPupil$Not" "PupilsPupil$Not" "test" "LPupilsPupil$Test;") ∈ lw_all := lw_g (lw_at lw_m4 125 rfl) rfl
theorem q990 : (Jvm.Cond.soleField "PupilsPupil$Not" "test") ∈ lw_all := lw_g (lw_at lw_m4 126 rfl) rfl
theorem q991 : (Jvm.Cond.superclass "PupilsPupil$Not" "PupilsPupil$Test") ∈ lw_all := lw_g (lw_at lw_m4 127 rfl) rfl
theorem q1344 : (Jvm.Cond.instanceMethod ({ cls := "PupilsPupil$Not", name := "holds", desc := "(LPupilsPupil$Moment;)Z" } : Jvm.MethodName)) ∈ lw_all := lw_g (lw_at lw_m6 0 rfl) rfl
theorem q1345 : (Jvm.Cond.code ({ cls := "PupilsPupil$Not", name := "holds", desc := "(LPupilsPupil$Moment;)Z" } : Jvm.MethodName) prog_11_method_2_code (2 : Nat) (Option.some Jvm.ClassFile.FieldType.boolean)) ∈ lw_all := lw_g (lw_at lw_m6 1 rfl) rfl
theorem q1346 : (Jvm.Cond.methodLink "PupilsPupil$Not" (13 : Nat) ({ cls := "PupilsPupil$Test", name := "holds", desc := "(LPupilsPupil$Moment;)Z" } : Jvm.MethodName)) ∈ lw_all := lw_g (lw_at lw_m6 2 rfl) rfl
theorem q1408 : (Jvm.Cond.selects "PupilsPupil$Not" ({ cls := "PupilsPupil$Test", name := "holds", desc := "(LPupilsPupil$Moment;)Z" } : Jvm.MethodName) ({ cls := "PupilsPupil$Not", name := "holds", desc := "(LPupilsPupil$Moment;)Z" } : Jvm.MethodName)) ∈ lw_all := lw_g (lw_at lw_m6 64 rfl) rfl
theorem q2471 : (Jvm.Cond.castable "PupilsPupil$Not" "PupilsPupil$Test") ∈ lw_tbl := lw_at lw_m10 167 rfl
theorem q2491 : (Jvm.Cond.castable "PupilsPupil$Not" "java/lang/Object") ∈ lw_tbl := lw_at lw_m10 187 rfl
theorem in_X11 : ∀ w ∈ wsX110, w ∈ lw_all := lw_in wsX110 [989] (by decide +kernel) (by decide +kernel)

/-! PupilsPupil$All -/
set_option maxRecDepth 100000
def RX12 : String := "PupilsPupil$All"
abbrev cX12_init : ByteArray := prog_2_method_1_code
def yX12_init : MethodName := ⟨RX12, "<init>", "()V"⟩
theorem dX12_init_0 : decode cX12_init 0 = .ok (.aload_n 0, 1) := by decide +kernel
theorem dX12_init_1 : decode cX12_init 1 = .ok (.invokespecial 1, 3) := by decide +kernel
theorem dX12_init_4 : decode cX12_init 4 = .ok (.return_, 1) := by decide +kernel
abbrev cX12_holds : ByteArray := prog_2_method_2_code
def yX12_holds : MethodName := ⟨RX12, "holds", "(LPupilsPupil$Moment;)Z"⟩
theorem dX12_holds_0 : decode cX12_holds 0 = .ok (.iconst 1, 1) := by decide +kernel
theorem dX12_holds_1 : decode cX12_holds 1 = .ok (.ireturn, 1) := by decide +kernel
theorem q172 : (Jvm.Cond.initialized "PupilsPupil$All") ∈ lw_all := lw_g (lw_at lw_m1 28 rfl) rfl
theorem q848 : (Jvm.Cond.selects "PupilsPupil$All" ({ cls := "java/lang/Object", name := "getClass", desc := "()Ljava/lang/Class;" } : Jvm.MethodName) ({ cls := "java/lang/Object", name := "getClass", desc := "()Ljava/lang/Class;" } : Jvm.MethodName)) ∈ lw_all := lw_g (lw_at lw_m3 224 rfl) rfl
theorem q994 : (Jvm.Cond.instantiable "PupilsPupil$All" (0 : Nat)) ∈ lw_all := lw_g (lw_at lw_m4 130 rfl) rfl
theorem q996 : (Jvm.Cond.instanceMethod ({ cls := "PupilsPupil$All", name := "<init>", desc := "()V" } : Jvm.MethodName)) ∈ lw_all := lw_g (lw_at lw_m4 132 rfl) rfl
theorem q997 : (Jvm.Cond.code ({ cls := "PupilsPupil$All", name := "<init>", desc := "()V" } : Jvm.MethodName) prog_2_method_1_code (1 : Nat) (Option.none : Option Jvm.ClassFile.FieldType)) ∈ lw_all := lw_g (lw_at lw_m4 133 rfl) rfl
theorem q998 : (Jvm.Cond.methodLinkNest "PupilsPupil$All" (1 : Nat) ({ cls := "PupilsPupil$Test", name := "<init>", desc := "()V" } : Jvm.MethodName) "PupilsPupil") ∈ lw_tbl := lw_at lw_m4 134 rfl
theorem q999 : (Jvm.Cond.superclass "PupilsPupil$All" "PupilsPupil$Test") ∈ lw_all := lw_g (lw_at lw_m4 135 rfl) rfl
theorem q1332 : (Jvm.Cond.selects "PupilsPupil$All" ({ cls := "PupilsPupil$Test", name := "holds", desc := "(LPupilsPupil$Moment;)Z" } : Jvm.MethodName) ({ cls := "PupilsPupil$All", name := "holds", desc := "(LPupilsPupil$Moment;)Z" } : Jvm.MethodName)) ∈ lw_all := lw_g (lw_at lw_m5 228 rfl) rfl
theorem q1333 : (Jvm.Cond.instanceMethod ({ cls := "PupilsPupil$All", name := "holds", desc := "(LPupilsPupil$Moment;)Z" } : Jvm.MethodName)) ∈ lw_all := lw_g (lw_at lw_m5 229 rfl) rfl
theorem q1334 : (Jvm.Cond.code ({ cls := "PupilsPupil$All", name := "holds", desc := "(LPupilsPupil$Moment;)Z" } : Jvm.MethodName) prog_2_method_2_code (2 : Nat) (Option.some Jvm.ClassFile.FieldType.boolean)) ∈ lw_all := lw_g (lw_at lw_m5 230 rfl) rfl
theorem q2469 : (Jvm.Cond.castable "PupilsPupil$All" "PupilsPupil$Test") ∈ lw_tbl := lw_at lw_m10 165 rfl
theorem q2492 : (Jvm.Cond.castable "PupilsPupil$All" "java/lang/Object") ∈ lw_tbl := lw_at lw_m10 188 rfl

/-! PupilsPupil$Value -/
set_option maxRecDepth 100000
def RX13 : String := "PupilsPupil$Value"
abbrev cX13_init : ByteArray := prog_20_method_1_code
def yX13_init : MethodName := ⟨RX13, "<init>", "()V"⟩
theorem dX13_init_0 : decode cX13_init 0 = .ok (.aload_n 0, 1) := by decide +kernel
theorem dX13_init_1 : decode cX13_init 1 = .ok (.invokespecial 1, 3) := by decide +kernel
theorem dX13_init_4 : decode cX13_init 4 = .ok (.return_, 1) := by decide +kernel
theorem q173 : (Jvm.Cond.initialized "PupilsPupil$Value") ∈ lw_all := lw_g (lw_at lw_m1 29 rfl) rfl
theorem q1010 : (Jvm.Cond.instanceMethod ({ cls := "PupilsPupil$Value", name := "<init>", desc := "()V" } : Jvm.MethodName)) ∈ lw_all := lw_g (lw_at lw_m4 146 rfl) rfl
theorem q1011 : (Jvm.Cond.code ({ cls := "PupilsPupil$Value", name := "<init>", desc := "()V" } : Jvm.MethodName) prog_20_method_1_code (1 : Nat) (Option.none : Option Jvm.ClassFile.FieldType)) ∈ lw_all := lw_g (lw_at lw_m4 147 rfl) rfl
theorem q1012 : (Jvm.Cond.methodLink "PupilsPupil$Value" (1 : Nat) ({ cls := "java/lang/Object", name := "<init>", desc := "()V" } : Jvm.MethodName)) ∈ lw_all := lw_g (lw_at lw_m4 148 rfl) rfl
theorem q1350 : (Jvm.Cond.declares ({ cls := "PupilsPupil$Value", name := "at", desc := "(LPupilsPupil$Moment;)J" } : Jvm.MethodName)) ∈ lw_tbl := lw_at lw_m6 6 rfl
theorem q1351 : (Jvm.Cond.sameMethod "PupilsPupil$Value" "PupilsPupil$Value" "at" "(LPupilsPupil$Moment;)J") ∈ lw_all := lw_g (lw_at lw_m6 7 rfl) rfl

/-! PupilsPupil$Chain -/
set_option maxRecDepth 100000
def RX14 : String := "PupilsPupil$Chain"
def TX14 : u_T := fun k => match k with
  | 0 => ("PupilsPupil$Chain", "values", "Ljava/util/List;", true)
  | _ => ("PupilsPupil$Chain", "signs", "Ljava/lang/StringBuilder;", true)
def tyX14 : Nat → FieldType := fun k => match k with
  | 0 => .object "java/util/List"
  | _ => .object "java/lang/StringBuilder"
abbrev wsX140 : List Cond := u_ws RX14 TX14 2
theorem nmX14 : ∀ a, a < 2 → ∀ b, b < 2 → a ≠ b → (TX14 a).2.1 ≠ (TX14 b).2.1 := by decide +kernel
theorem tyX14_ok : ∀ k, k < 2 → parseFieldDescriptor (TX14 k).2.2.1 = some (tyX14 k) := by decide +kernel
abbrev cX14_init : ByteArray := prog_4_method_1_code
def yX14_init : MethodName := ⟨RX14, "<init>", "()V"⟩
def dkwX14_init_1 : List UInt8 := [181, 0, 21, 177]
abbrev dktX14_init_1 : List UInt8 := dkwX14_init_1 ++ []
def dkwX14_init_0 : List UInt8 := [42, 183, 0, 1, 42, 187, 0, 7, 89, 5, 183, 0, 9, 181, 0, 12, 42, 187, 0, 18, 89, 183, 0, 20]
abbrev dktX14_init_0 : List UInt8 := dkwX14_init_0 ++ dktX14_init_1
theorem dksX14_init_0 : cX14_init.data.toList.drop 0 = dktX14_init_0 := by decide +kernel
theorem dksX14_init_1 : cX14_init.data.toList.drop 24 = dktX14_init_1 := dk_seg dksX14_init_0 24 rfl rfl
theorem dX14_init_0 : decode cX14_init 0 = .ok (.aload_n 0, 1) := dk_42 (dk_at dksX14_init_0 0 rfl rfl)
theorem dX14_init_1 : decode cX14_init 1 = .ok (.invokespecial 1, 3) := dk_183 0 1 (dk_at dksX14_init_0 1 rfl rfl)
theorem dX14_init_4 : decode cX14_init 4 = .ok (.aload_n 0, 1) := dk_42 (dk_at dksX14_init_0 4 rfl rfl)
theorem dX14_init_5 : decode cX14_init 5 = .ok (.new 7, 3) := dk_187 0 7 (dk_at dksX14_init_0 5 rfl rfl)
theorem dX14_init_8 : decode cX14_init 8 = .ok (.dup, 1) := dk_89 (dk_at dksX14_init_0 8 rfl rfl)
theorem dX14_init_9 : decode cX14_init 9 = .ok (.iconst 2, 1) := dk_5 (dk_at dksX14_init_0 9 rfl rfl)
theorem dX14_init_10 : decode cX14_init 10 = .ok (.invokespecial 9, 3) := dk_183 0 9 (dk_at dksX14_init_0 10 rfl rfl)
theorem dX14_init_13 : decode cX14_init 13 = .ok (.putfield 12, 3) := dk_181 0 12 (dk_at dksX14_init_0 13 rfl rfl)
theorem dX14_init_16 : decode cX14_init 16 = .ok (.aload_n 0, 1) := dk_42 (dk_at dksX14_init_0 16 rfl rfl)
theorem dX14_init_17 : decode cX14_init 17 = .ok (.new 18, 3) := dk_187 0 18 (dk_at dksX14_init_0 17 rfl rfl)
theorem dX14_init_20 : decode cX14_init 20 = .ok (.dup, 1) := dk_89 (dk_at dksX14_init_0 20 rfl rfl)
theorem dX14_init_21 : decode cX14_init 21 = .ok (.invokespecial 20, 3) := dk_183 0 20 (dk_at dksX14_init_0 21 rfl rfl)
theorem dX14_init_24 : decode cX14_init 24 = .ok (.putfield 21, 3) := dk_181 0 21 (dk_at dksX14_init_1 0 rfl rfl)
theorem dX14_init_27 : decode cX14_init 27 = .ok (.return_, 1) := dk_177 (dk_at dksX14_init_1 3 rfl rfl)
abbrev cX14_add : ByteArray := prog_4_method_2_code
def yX14_add : MethodName := ⟨RX14, "add", "(CLPupilsPupil$Value;)V"⟩
def dkwX14_add_0 : List UInt8 := [42, 180, 0, 21, 27, 182, 0, 25, 87, 42, 180, 0, 12, 44, 185, 0, 29, 2, 0, 87, 177]
abbrev dktX14_add_0 : List UInt8 := dkwX14_add_0 ++ []
theorem dksX14_add_0 : cX14_add.data.toList.drop 0 = dktX14_add_0 := by decide +kernel
theorem dX14_add_0 : decode cX14_add 0 = .ok (.aload_n 0, 1) := dk_42 (dk_at dksX14_add_0 0 rfl rfl)
theorem dX14_add_1 : decode cX14_add 1 = .ok (.getfield 21, 3) := dk_180 0 21 (dk_at dksX14_add_0 1 rfl rfl)
theorem dX14_add_4 : decode cX14_add 4 = .ok (.iload_n 1, 1) := dk_27 (dk_at dksX14_add_0 4 rfl rfl)
theorem dX14_add_5 : decode cX14_add 5 = .ok (.invokevirtual 25, 3) := dk_182 0 25 (dk_at dksX14_add_0 5 rfl rfl)
theorem dX14_add_8 : decode cX14_add 8 = .ok (.pop, 1) := dk_87 (dk_at dksX14_add_0 8 rfl rfl)
theorem dX14_add_9 : decode cX14_add 9 = .ok (.aload_n 0, 1) := dk_42 (dk_at dksX14_add_0 9 rfl rfl)
theorem dX14_add_10 : decode cX14_add 10 = .ok (.getfield 12, 3) := dk_180 0 12 (dk_at dksX14_add_0 10 rfl rfl)
theorem dX14_add_13 : decode cX14_add 13 = .ok (.aload_n 2, 1) := dk_44 (dk_at dksX14_add_0 13 rfl rfl)
theorem dX14_add_14 : decode cX14_add 14 = .ok (.invokeinterface 29 2, 5) := by decide +kernel
theorem dX14_add_19 : decode cX14_add 19 = .ok (.pop, 1) := dk_87 (dk_at dksX14_add_0 19 rfl rfl)
theorem dX14_add_20 : decode cX14_add 20 = .ok (.return_, 1) := dk_177 (dk_at dksX14_add_0 20 rfl rfl)
abbrev cX14_at : ByteArray := prog_4_method_3_code
def yX14_at : MethodName := ⟨RX14, "at", "(LPupilsPupil$Moment;)J"⟩
def dkwX14_at_3 : List UInt8 := [132, 4, 1, 167, 255, 204, 32, 173]
abbrev dktX14_at_3 : List UInt8 := dkwX14_at_3 ++ []
def dkwX14_at_2 : List UInt8 := [180, 0, 12, 21, 4, 185, 0, 35, 2, 0, 192, 0, 2, 43, 182, 0, 39, 184, 0, 51, 184, 0, 55, 65]
abbrev dktX14_at_2 : List UInt8 := dkwX14_at_2 ++ dktX14_at_3
def dkwX14_at_1 : List UInt8 := [180, 0, 12, 185, 0, 43, 1, 0, 162, 0, 44, 42, 180, 0, 21, 21, 4, 182, 0, 47, 32, 42]
abbrev dktX14_at_1 : List UInt8 := dkwX14_at_1 ++ dktX14_at_2
def dkwX14_at_0 : List UInt8 := [42, 180, 0, 12, 3, 185, 0, 35, 2, 0, 192, 0, 2, 43, 182, 0, 39, 65, 4, 54, 4, 21, 4, 42]
abbrev dktX14_at_0 : List UInt8 := dkwX14_at_0 ++ dktX14_at_1
theorem dksX14_at_0 : cX14_at.data.toList.drop 0 = dktX14_at_0 := by decide +kernel
theorem dksX14_at_1 : cX14_at.data.toList.drop 24 = dktX14_at_1 := dk_seg dksX14_at_0 24 rfl rfl
theorem dksX14_at_2 : cX14_at.data.toList.drop 46 = dktX14_at_2 := dk_seg dksX14_at_1 22 rfl rfl
theorem dksX14_at_3 : cX14_at.data.toList.drop 70 = dktX14_at_3 := dk_seg dksX14_at_2 24 rfl rfl
theorem dX14_at_0 : decode cX14_at 0 = .ok (.aload_n 0, 1) := dk_42 (dk_at dksX14_at_0 0 rfl rfl)
theorem dX14_at_1 : decode cX14_at 1 = .ok (.getfield 12, 3) := dk_180 0 12 (dk_at dksX14_at_0 1 rfl rfl)
theorem dX14_at_4 : decode cX14_at 4 = .ok (.iconst 0, 1) := dk_3 (dk_at dksX14_at_0 4 rfl rfl)
theorem dX14_at_5 : decode cX14_at 5 = .ok (.invokeinterface 35 2, 5) := by decide +kernel
theorem dX14_at_10 : decode cX14_at 10 = .ok (.checkcast 2, 3) := dk_192 0 2 (dk_at dksX14_at_0 10 rfl rfl)
theorem dX14_at_13 : decode cX14_at 13 = .ok (.aload_n 1, 1) := dk_43 (dk_at dksX14_at_0 13 rfl rfl)
theorem dX14_at_14 : decode cX14_at 14 = .ok (.invokevirtual 39, 3) := dk_182 0 39 (dk_at dksX14_at_0 14 rfl rfl)
theorem dX14_at_17 : decode cX14_at 17 = .ok (.lstore_n 2, 1) := dk_65 (dk_at dksX14_at_0 17 rfl rfl)
theorem dX14_at_18 : decode cX14_at 18 = .ok (.iconst 1, 1) := dk_4 (dk_at dksX14_at_0 18 rfl rfl)
theorem dX14_at_19 : decode cX14_at 19 = .ok (.istore 4, 2) := dk_54 4 (dk_at dksX14_at_0 19 rfl rfl)
theorem dX14_at_21 : decode cX14_at 21 = .ok (.iload 4, 2) := dk_21 4 (dk_at dksX14_at_0 21 rfl rfl)
theorem dX14_at_23 : decode cX14_at 23 = .ok (.aload_n 0, 1) := dk_42 (dk_at dksX14_at_0 23 rfl rfl)
theorem dX14_at_24 : decode cX14_at 24 = .ok (.getfield 12, 3) := dk_180 0 12 (dk_at dksX14_at_1 0 rfl rfl)
theorem dX14_at_27 : decode cX14_at 27 = .ok (.invokeinterface 43 1, 5) := by decide +kernel
theorem dX14_at_32 : decode cX14_at 32 = .ok (.if_icmp .ge 44, 3) := dk_162 0 44 (dk_at dksX14_at_1 8 rfl rfl)
theorem dX14_at_35 : decode cX14_at 35 = .ok (.aload_n 0, 1) := dk_42 (dk_at dksX14_at_1 11 rfl rfl)
theorem dX14_at_36 : decode cX14_at 36 = .ok (.getfield 21, 3) := dk_180 0 21 (dk_at dksX14_at_1 12 rfl rfl)
theorem dX14_at_39 : decode cX14_at 39 = .ok (.iload 4, 2) := dk_21 4 (dk_at dksX14_at_1 15 rfl rfl)
theorem dX14_at_41 : decode cX14_at 41 = .ok (.invokevirtual 47, 3) := dk_182 0 47 (dk_at dksX14_at_1 17 rfl rfl)
theorem dX14_at_44 : decode cX14_at 44 = .ok (.lload_n 2, 1) := dk_32 (dk_at dksX14_at_1 20 rfl rfl)
theorem dX14_at_45 : decode cX14_at 45 = .ok (.aload_n 0, 1) := dk_42 (dk_at dksX14_at_1 21 rfl rfl)
theorem dX14_at_46 : decode cX14_at 46 = .ok (.getfield 12, 3) := dk_180 0 12 (dk_at dksX14_at_2 0 rfl rfl)
theorem dX14_at_49 : decode cX14_at 49 = .ok (.iload 4, 2) := dk_21 4 (dk_at dksX14_at_2 3 rfl rfl)
theorem dX14_at_51 : decode cX14_at 51 = .ok (.invokeinterface 35 2, 5) := by decide +kernel
theorem dX14_at_56 : decode cX14_at 56 = .ok (.checkcast 2, 3) := dk_192 0 2 (dk_at dksX14_at_2 10 rfl rfl)
theorem dX14_at_59 : decode cX14_at 59 = .ok (.aload_n 1, 1) := dk_43 (dk_at dksX14_at_2 13 rfl rfl)
theorem dX14_at_60 : decode cX14_at 60 = .ok (.invokevirtual 39, 3) := dk_182 0 39 (dk_at dksX14_at_2 14 rfl rfl)
theorem dX14_at_63 : decode cX14_at 63 = .ok (.invokestatic 51, 3) := dk_184 0 51 (dk_at dksX14_at_2 17 rfl rfl)
theorem dX14_at_66 : decode cX14_at 66 = .ok (.invokestatic 55, 3) := dk_184 0 55 (dk_at dksX14_at_2 20 rfl rfl)
theorem dX14_at_69 : decode cX14_at 69 = .ok (.lstore_n 2, 1) := dk_65 (dk_at dksX14_at_2 23 rfl rfl)
theorem dX14_at_70 : decode cX14_at 70 = .ok (.iinc 4 1, 3) := dk_132 4 1 (dk_at dksX14_at_3 0 rfl rfl)
theorem dX14_at_73 : decode cX14_at 73 = .ok (.goto (-52), 3) := dk_167 255 204 (dk_at dksX14_at_3 3 rfl rfl)
theorem dX14_at_76 : decode cX14_at 76 = .ok (.lload_n 2, 1) := dk_32 (dk_at dksX14_at_3 6 rfl rfl)
theorem dX14_at_77 : decode cX14_at 77 = .ok (.lreturn, 1) := dk_173 (dk_at dksX14_at_3 7 rfl rfl)
abbrev cX14_two : ByteArray := prog_4_method_4_code
def yX14_two : MethodName := ⟨RX14, "two", "(CJJ)J"⟩
def dkwX14_two_3 : List UInt8 := [184, 0, 61, 173]
abbrev dktX14_two_3 : List UInt8 := dkwX14_two_3 ++ []
def dkwX14_two_2 : List UInt8 := [31, 33, 97, 173, 31, 33, 101, 173, 31, 33, 105, 173, 33, 9, 148, 154, 0, 7, 9, 167, 0, 8, 31, 33]
abbrev dktX14_two_2 : List UInt8 := dkwX14_two_2 ++ dktX14_two_3
def dkwX14_two_1 : List UInt8 := [170, 0, 0, 0, 0, 0, 43, 0, 0, 0, 42, 0, 0, 0, 45, 0, 0, 0, 39, 0, 0, 0, 31, 0, 0, 0, 43, 0, 0, 0, 35]
abbrev dktX14_two_1 : List UInt8 := dkwX14_two_1 ++ dktX14_two_2
def dkwX14_two_0 : List UInt8 := [26]
abbrev dktX14_two_0 : List UInt8 := dkwX14_two_0 ++ dktX14_two_1
theorem dksX14_two_0 : cX14_two.data.toList.drop 0 = dktX14_two_0 := by decide +kernel
theorem dksX14_two_1 : cX14_two.data.toList.drop 1 = dktX14_two_1 := dk_seg dksX14_two_0 1 rfl rfl
theorem dksX14_two_2 : cX14_two.data.toList.drop 32 = dktX14_two_2 := dk_seg dksX14_two_1 31 rfl rfl
theorem dksX14_two_3 : cX14_two.data.toList.drop 56 = dktX14_two_3 := dk_seg dksX14_two_2 24 rfl rfl
theorem dX14_two_0 : decode cX14_two 0 = .ok (.iload_n 0, 1) := dk_26 (dk_at dksX14_two_0 0 rfl rfl)
theorem dX14_two_1 : decode cX14_two 1 = .ok (.tableswitch 43 42 45 #[39, 31, 43, 35], 31) := by decide +kernel
theorem dX14_two_32 : decode cX14_two 32 = .ok (.lload_n 1, 1) := dk_31 (dk_at dksX14_two_2 0 rfl rfl)
theorem dX14_two_33 : decode cX14_two 33 = .ok (.lload_n 3, 1) := dk_33 (dk_at dksX14_two_2 1 rfl rfl)
theorem dX14_two_34 : decode cX14_two 34 = .ok (.ladd, 1) := dk_97 (dk_at dksX14_two_2 2 rfl rfl)
theorem dX14_two_35 : decode cX14_two 35 = .ok (.lreturn, 1) := dk_173 (dk_at dksX14_two_2 3 rfl rfl)
theorem dX14_two_36 : decode cX14_two 36 = .ok (.lload_n 1, 1) := dk_31 (dk_at dksX14_two_2 4 rfl rfl)
theorem dX14_two_37 : decode cX14_two 37 = .ok (.lload_n 3, 1) := dk_33 (dk_at dksX14_two_2 5 rfl rfl)
theorem dX14_two_38 : decode cX14_two 38 = .ok (.lsub, 1) := dk_101 (dk_at dksX14_two_2 6 rfl rfl)
theorem dX14_two_39 : decode cX14_two 39 = .ok (.lreturn, 1) := dk_173 (dk_at dksX14_two_2 7 rfl rfl)
theorem dX14_two_40 : decode cX14_two 40 = .ok (.lload_n 1, 1) := dk_31 (dk_at dksX14_two_2 8 rfl rfl)
theorem dX14_two_41 : decode cX14_two 41 = .ok (.lload_n 3, 1) := dk_33 (dk_at dksX14_two_2 9 rfl rfl)
theorem dX14_two_42 : decode cX14_two 42 = .ok (.lmul, 1) := dk_105 (dk_at dksX14_two_2 10 rfl rfl)
theorem dX14_two_43 : decode cX14_two 43 = .ok (.lreturn, 1) := dk_173 (dk_at dksX14_two_2 11 rfl rfl)
theorem dX14_two_44 : decode cX14_two 44 = .ok (.lload_n 3, 1) := dk_33 (dk_at dksX14_two_2 12 rfl rfl)
theorem dX14_two_45 : decode cX14_two 45 = .ok (.lconst 0, 1) := dk_9 (dk_at dksX14_two_2 13 rfl rfl)
theorem dX14_two_46 : decode cX14_two 46 = .ok (.lcmp, 1) := dk_148 (dk_at dksX14_two_2 14 rfl rfl)
theorem dX14_two_47 : decode cX14_two 47 = .ok (.ifCond .ne 7, 3) := dk_154 0 7 (dk_at dksX14_two_2 15 rfl rfl)
theorem dX14_two_50 : decode cX14_two 50 = .ok (.lconst 0, 1) := dk_9 (dk_at dksX14_two_2 18 rfl rfl)
theorem dX14_two_51 : decode cX14_two 51 = .ok (.goto 8, 3) := dk_167 0 8 (dk_at dksX14_two_2 19 rfl rfl)
theorem dX14_two_54 : decode cX14_two 54 = .ok (.lload_n 1, 1) := dk_31 (dk_at dksX14_two_2 22 rfl rfl)
theorem dX14_two_55 : decode cX14_two 55 = .ok (.lload_n 3, 1) := dk_33 (dk_at dksX14_two_2 23 rfl rfl)
theorem dX14_two_56 : decode cX14_two 56 = .ok (.invokestatic 61, 3) := dk_184 0 61 (dk_at dksX14_two_3 0 rfl rfl)
theorem dX14_two_59 : decode cX14_two 59 = .ok (.lreturn, 1) := dk_173 (dk_at dksX14_two_3 3 rfl rfl)
theorem q174 : (Jvm.Cond.initialized "PupilsPupil$Chain") ∈ lw_all := lw_g (lw_at lw_m1 30 rfl) rfl
theorem q850 : (Jvm.Cond.selects "PupilsPupil$Chain" ({ cls := "java/lang/Object", name := "getClass", desc := "()Ljava/lang/Class;" } : Jvm.MethodName) ({ cls := "java/lang/Object", name := "getClass", desc := "()Ljava/lang/Class;" } : Jvm.MethodName)) ∈ lw_all := lw_g (lw_at lw_m3 226 rfl) rfl
theorem q1005 : (Jvm.Cond.instantiable "PupilsPupil$Chain" (2 : Nat)) ∈ lw_all := lw_g (lw_at lw_m4 141 rfl) rfl
theorem q1007 : (Jvm.Cond.instanceMethod ({ cls := "PupilsPupil$Chain", name := "<init>", desc := "()V" } : Jvm.MethodName)) ∈ lw_all := lw_g (lw_at lw_m4 143 rfl) rfl
theorem q1008 : (Jvm.Cond.code ({ cls := "PupilsPupil$Chain", name := "<init>", desc := "()V" } : Jvm.MethodName) prog_4_method_1_code (1 : Nat) (Option.none : Option Jvm.ClassFile.FieldType)) ∈ lw_all := lw_g (lw_at lw_m4 144 rfl) rfl
theorem q1009 : (Jvm.Cond.methodLinkNest "PupilsPupil$Chain" (1 : Nat) ({ cls := "PupilsPupil$Value", name := "<init>", desc := "()V" } : Jvm.MethodName) "PupilsPupil") ∈ lw_tbl := lw_at lw_m4 145 rfl
theorem q1013 : (Jvm.Cond.classLink "PupilsPupil$Chain" (7 : Nat) "java/util/ArrayList") ∈ lw_all := lw_g (lw_at lw_m4 149 rfl) rfl
theorem q1014 : (Jvm.Cond.methodLink "PupilsPupil$Chain" (9 : Nat) ({ cls := "java/util/ArrayList", name := "<init>", desc := "(I)V" } : Jvm.MethodName)) ∈ lw_all := lw_g (lw_at lw_m4 150 rfl) rfl
theorem q1015 : (Jvm.Cond.classLink "PupilsPupil$Chain" (18 : Nat) "java/lang/StringBuilder") ∈ lw_all := lw_g (lw_at lw_m4 151 rfl) rfl
theorem q1017 : (Jvm.Cond.methodLink "PupilsPupil$Chain" (20 : Nat) ({ cls := "java/lang/StringBuilder", name := "<init>", desc := "()V" } : Jvm.MethodName)) ∈ lw_all := lw_g (lw_at lw_m4 153 rfl) rfl
theorem q1038 : (Jvm.Cond.fieldLink "PupilsPupil$Chain" (12 : Nat) "PupilsPupil$Chain" "values" "Ljava/util/List;") ∈ lw_all := lw_g (lw_at lw_m4 174 rfl) rfl
theorem q1039 : (Jvm.Cond.fieldLink "PupilsPupil$Chain" (21 : Nat) "PupilsPupil$Chain" "signs" "Ljava/lang/StringBuilder;") ∈ lw_all := lw_g (lw_at lw_m4 175 rfl) rfl
theorem q1040 : (Jvm.Cond.laysFinal "PupilsPupil$Chain" "PupilsPupil$Chain" "values" "Ljava/util/List;") ∈ lw_all := lw_g (lw_at lw_m4 176 rfl) rfl
theorem q1041 : (Jvm.Cond.soleField "PupilsPupil$Chain" "values") ∈ lw_all := lw_g (lw_at lw_m4 177 rfl) rfl
theorem q1042 : (Jvm.Cond.laysFinal "PupilsPupil$Chain" "PupilsPupil$Chain" "signs" "Ljava/lang/StringBuilder;") ∈ lw_all := lw_g (lw_at lw_m4 178 rfl) rfl
theorem q1043 : (Jvm.Cond.soleField "PupilsPupil$Chain" "signs") ∈ lw_all := lw_g (lw_at lw_m4 179 rfl) rfl
theorem q1044 : (Jvm.Cond.superclass "PupilsPupil$Chain" "PupilsPupil$Value") ∈ lw_all := lw_g (lw_at lw_m4 180 rfl) rfl
theorem q1120 : (Jvm.Cond.instanceMethod ({ cls := "PupilsPupil$Chain", name := "add", desc := "(CLPupilsPupil$Value;)V" } : Jvm.MethodName)) ∈ lw_all := lw_g (lw_at lw_m5 16 rfl) rfl
theorem q1121 : (Jvm.Cond.selects "PupilsPupil$Chain" ({ cls := "PupilsPupil$Chain", name := "add", desc := "(CLPupilsPupil$Value;)V" } : Jvm.MethodName) ({ cls := "PupilsPupil$Chain", name := "add", desc := "(CLPupilsPupil$Value;)V" } : Jvm.MethodName)) ∈ lw_all := lw_g (lw_at lw_m5 17 rfl) rfl
theorem q1122 : (Jvm.Cond.code ({ cls := "PupilsPupil$Chain", name := "add", desc := "(CLPupilsPupil$Value;)V" } : Jvm.MethodName) prog_4_method_2_code (3 : Nat) (Option.none : Option Jvm.ClassFile.FieldType)) ∈ lw_all := lw_g (lw_at lw_m5 18 rfl) rfl
theorem q1123 : (Jvm.Cond.methodLink "PupilsPupil$Chain" (25 : Nat) ({ cls := "java/lang/StringBuilder", name := "append", desc := "(C)Ljava/lang/StringBuilder;" } : Jvm.MethodName)) ∈ lw_all := lw_g (lw_at lw_m5 19 rfl) rfl
theorem q1178 : (Jvm.Cond.interfaceEntry "PupilsPupil$Chain" (29 : Nat)) ∈ lw_tbl := lw_at lw_m5 74 rfl
theorem q1179 : (Jvm.Cond.methodLink "PupilsPupil$Chain" (29 : Nat) ({ cls := "java/util/List", name := "add", desc := "(Ljava/lang/Object;)Z" } : Jvm.MethodName)) ∈ lw_all := lw_g (lw_at lw_m5 75 rfl) rfl
theorem q1366 : (Jvm.Cond.selects "PupilsPupil$Chain" ({ cls := "PupilsPupil$Value", name := "at", desc := "(LPupilsPupil$Moment;)J" } : Jvm.MethodName) ({ cls := "PupilsPupil$Chain", name := "at", desc := "(LPupilsPupil$Moment;)J" } : Jvm.MethodName)) ∈ lw_all := lw_g (lw_at lw_m6 22 rfl) rfl
theorem q1367 : (Jvm.Cond.instanceMethod ({ cls := "PupilsPupil$Chain", name := "at", desc := "(LPupilsPupil$Moment;)J" } : Jvm.MethodName)) ∈ lw_all := lw_g (lw_at lw_m6 23 rfl) rfl
theorem q1368 : (Jvm.Cond.code ({ cls := "PupilsPupil$Chain", name := "at", desc := "(LPupilsPupil$Moment;)J" } : Jvm.MethodName) prog_4_method_3_code (5 : Nat) (Option.some Jvm.ClassFile.FieldType.long)) ∈ lw_all := lw_g (lw_at lw_m6 24 rfl) rfl
theorem q1369 : (Jvm.Cond.interfaceEntry "PupilsPupil$Chain" (35 : Nat)) ∈ lw_tbl := lw_at lw_m6 25 rfl
theorem q1370 : (Jvm.Cond.methodLink "PupilsPupil$Chain" (35 : Nat) ({ cls := "java/util/List", name := "get", desc := "(I)Ljava/lang/Object;" } : Jvm.MethodName)) ∈ lw_all := lw_g (lw_at lw_m6 26 rfl) rfl
theorem q1371 : (Jvm.Cond.classLink "PupilsPupil$Chain" (2 : Nat) "PupilsPupil$Value") ∈ lw_all := lw_g (lw_at lw_m6 27 rfl) rfl
theorem q1372 : (Jvm.Cond.methodLink "PupilsPupil$Chain" (39 : Nat) ({ cls := "PupilsPupil$Value", name := "at", desc := "(LPupilsPupil$Moment;)J" } : Jvm.MethodName)) ∈ lw_all := lw_g (lw_at lw_m6 28 rfl) rfl
theorem q1386 : (Jvm.Cond.interfaceEntry "PupilsPupil$Chain" (43 : Nat)) ∈ lw_tbl := lw_at lw_m6 42 rfl
theorem q1387 : (Jvm.Cond.methodLink "PupilsPupil$Chain" (43 : Nat) ({ cls := "java/util/List", name := "size", desc := "()I" } : Jvm.MethodName)) ∈ lw_all := lw_g (lw_at lw_m6 43 rfl) rfl
theorem q1388 : (Jvm.Cond.methodLink "PupilsPupil$Chain" (47 : Nat) ({ cls := "java/lang/StringBuilder", name := "charAt", desc := "(I)C" } : Jvm.MethodName)) ∈ lw_all := lw_g (lw_at lw_m6 44 rfl) rfl
theorem q1398 : (Jvm.Cond.methodLink "PupilsPupil$Chain" (51 : Nat) ({ cls := "PupilsPupil$Chain", name := "two", desc := "(CJJ)J" } : Jvm.MethodName)) ∈ lw_all := lw_g (lw_at lw_m6 54 rfl) rfl
theorem q1399 : (Jvm.Cond.static ({ cls := "PupilsPupil$Chain", name := "two", desc := "(CJJ)J" } : Jvm.MethodName)) ∈ lw_all := lw_g (lw_at lw_m6 55 rfl) rfl
theorem q1400 : (Jvm.Cond.code ({ cls := "PupilsPupil$Chain", name := "two", desc := "(CJJ)J" } : Jvm.MethodName) prog_4_method_4_code (5 : Nat) (Option.some Jvm.ClassFile.FieldType.long)) ∈ lw_all := lw_g (lw_at lw_m6 56 rfl) rfl
theorem q1401 : (Jvm.Cond.methodLink "PupilsPupil$Chain" (61 : Nat) ({ cls := "java/lang/Math", name := "floorDiv", desc := "(JJ)J" } : Jvm.MethodName)) ∈ lw_all := lw_g (lw_at lw_m6 57 rfl) rfl
theorem q1404 : (Jvm.Cond.methodLinkNest "PupilsPupil$Chain" (55 : Nat) ({ cls := "PupilsPupil", name := "held", desc := "(J)J" } : Jvm.MethodName) "PupilsPupil") ∈ lw_tbl := lw_at lw_m6 60 rfl
theorem q2474 : (Jvm.Cond.castable "PupilsPupil$Chain" "PupilsPupil$Value") ∈ lw_tbl := lw_at lw_m10 170 rfl
theorem q2493 : (Jvm.Cond.castable "PupilsPupil$Chain" "java/lang/Object") ∈ lw_tbl := lw_at lw_m10 189 rfl
theorem in_X14 : ∀ w ∈ wsX140, w ∈ lw_all := lw_in wsX140 [1040, 1042] (by decide +kernel) (by decide +kernel)

/-! PupilsPupil$Pair -/
set_option maxRecDepth 100000
def RX15 : String := "PupilsPupil$Pair"
def TX15 : u_T := fun k => match k with
  | 0 => ("PupilsPupil$Pair", "most", "Z", true)
  | 1 => ("PupilsPupil$Pair", "first", "LPupilsPupil$Value;", true)
  | _ => ("PupilsPupil$Pair", "second", "LPupilsPupil$Value;", true)
def tyX15 : Nat → FieldType := fun k => match k with
  | 0 => .boolean
  | 1 => .object "PupilsPupil$Value"
  | _ => .object "PupilsPupil$Value"
abbrev wsX150 : List Cond := u_ws RX15 TX15 3
theorem nmX15 : ∀ a, a < 3 → ∀ b, b < 3 → a ≠ b → (TX15 a).2.1 ≠ (TX15 b).2.1 := by decide +kernel
theorem tyX15_ok : ∀ k, k < 3 → parseFieldDescriptor (TX15 k).2.2.1 = some (tyX15 k) := by decide +kernel
abbrev cX15_init : ByteArray := prog_12_method_1_code
def yX15_init : MethodName := ⟨RX15, "<init>", "(ZLPupilsPupil$Value;LPupilsPupil$Value;)V"⟩
def dkwX15_init_0 : List UInt8 := [42, 183, 0, 1, 42, 27, 181, 0, 7, 42, 44, 181, 0, 13, 42, 45, 181, 0, 17, 177]
abbrev dktX15_init_0 : List UInt8 := dkwX15_init_0 ++ []
theorem dksX15_init_0 : cX15_init.data.toList.drop 0 = dktX15_init_0 := by decide +kernel
theorem dX15_init_0 : decode cX15_init 0 = .ok (.aload_n 0, 1) := dk_42 (dk_at dksX15_init_0 0 rfl rfl)
theorem dX15_init_1 : decode cX15_init 1 = .ok (.invokespecial 1, 3) := dk_183 0 1 (dk_at dksX15_init_0 1 rfl rfl)
theorem dX15_init_4 : decode cX15_init 4 = .ok (.aload_n 0, 1) := dk_42 (dk_at dksX15_init_0 4 rfl rfl)
theorem dX15_init_5 : decode cX15_init 5 = .ok (.iload_n 1, 1) := dk_27 (dk_at dksX15_init_0 5 rfl rfl)
theorem dX15_init_6 : decode cX15_init 6 = .ok (.putfield 7, 3) := dk_181 0 7 (dk_at dksX15_init_0 6 rfl rfl)
theorem dX15_init_9 : decode cX15_init 9 = .ok (.aload_n 0, 1) := dk_42 (dk_at dksX15_init_0 9 rfl rfl)
theorem dX15_init_10 : decode cX15_init 10 = .ok (.aload_n 2, 1) := dk_44 (dk_at dksX15_init_0 10 rfl rfl)
theorem dX15_init_11 : decode cX15_init 11 = .ok (.putfield 13, 3) := dk_181 0 13 (dk_at dksX15_init_0 11 rfl rfl)
theorem dX15_init_14 : decode cX15_init 14 = .ok (.aload_n 0, 1) := dk_42 (dk_at dksX15_init_0 14 rfl rfl)
theorem dX15_init_15 : decode cX15_init 15 = .ok (.aload_n 3, 1) := dk_45 (dk_at dksX15_init_0 15 rfl rfl)
theorem dX15_init_16 : decode cX15_init 16 = .ok (.putfield 17, 3) := dk_181 0 17 (dk_at dksX15_init_0 16 rfl rfl)
theorem dX15_init_19 : decode cX15_init 19 = .ok (.return_, 1) := dk_177 (dk_at dksX15_init_0 19 rfl rfl)
abbrev cX15_at : ByteArray := prog_12_method_2_code
def yX15_at : MethodName := ⟨RX15, "at", "(LPupilsPupil$Moment;)J"⟩
def dkwX15_at_1 : List UInt8 := [22, 4, 148, 158, 0, 7, 4, 167, 0, 4, 3, 160, 0, 7, 32, 167, 0, 5, 22, 4, 173]
abbrev dktX15_at_1 : List UInt8 := dkwX15_at_1 ++ []
def dkwX15_at_0 : List UInt8 := [42, 180, 0, 13, 43, 182, 0, 20, 65, 42, 180, 0, 17, 43, 182, 0, 20, 55, 4, 42, 180, 0, 7, 32]
abbrev dktX15_at_0 : List UInt8 := dkwX15_at_0 ++ dktX15_at_1
theorem dksX15_at_0 : cX15_at.data.toList.drop 0 = dktX15_at_0 := by decide +kernel
theorem dksX15_at_1 : cX15_at.data.toList.drop 24 = dktX15_at_1 := dk_seg dksX15_at_0 24 rfl rfl
theorem dX15_at_0 : decode cX15_at 0 = .ok (.aload_n 0, 1) := dk_42 (dk_at dksX15_at_0 0 rfl rfl)
theorem dX15_at_1 : decode cX15_at 1 = .ok (.getfield 13, 3) := dk_180 0 13 (dk_at dksX15_at_0 1 rfl rfl)
theorem dX15_at_4 : decode cX15_at 4 = .ok (.aload_n 1, 1) := dk_43 (dk_at dksX15_at_0 4 rfl rfl)
theorem dX15_at_5 : decode cX15_at 5 = .ok (.invokevirtual 20, 3) := dk_182 0 20 (dk_at dksX15_at_0 5 rfl rfl)
theorem dX15_at_8 : decode cX15_at 8 = .ok (.lstore_n 2, 1) := dk_65 (dk_at dksX15_at_0 8 rfl rfl)
theorem dX15_at_9 : decode cX15_at 9 = .ok (.aload_n 0, 1) := dk_42 (dk_at dksX15_at_0 9 rfl rfl)
theorem dX15_at_10 : decode cX15_at 10 = .ok (.getfield 17, 3) := dk_180 0 17 (dk_at dksX15_at_0 10 rfl rfl)
theorem dX15_at_13 : decode cX15_at 13 = .ok (.aload_n 1, 1) := dk_43 (dk_at dksX15_at_0 13 rfl rfl)
theorem dX15_at_14 : decode cX15_at 14 = .ok (.invokevirtual 20, 3) := dk_182 0 20 (dk_at dksX15_at_0 14 rfl rfl)
theorem dX15_at_17 : decode cX15_at 17 = .ok (.lstore 4, 2) := dk_55 4 (dk_at dksX15_at_0 17 rfl rfl)
theorem dX15_at_19 : decode cX15_at 19 = .ok (.aload_n 0, 1) := dk_42 (dk_at dksX15_at_0 19 rfl rfl)
theorem dX15_at_20 : decode cX15_at 20 = .ok (.getfield 7, 3) := dk_180 0 7 (dk_at dksX15_at_0 20 rfl rfl)
theorem dX15_at_23 : decode cX15_at 23 = .ok (.lload_n 2, 1) := dk_32 (dk_at dksX15_at_0 23 rfl rfl)
theorem dX15_at_24 : decode cX15_at 24 = .ok (.lload 4, 2) := dk_22 4 (dk_at dksX15_at_1 0 rfl rfl)
theorem dX15_at_26 : decode cX15_at 26 = .ok (.lcmp, 1) := dk_148 (dk_at dksX15_at_1 2 rfl rfl)
theorem dX15_at_27 : decode cX15_at 27 = .ok (.ifCond .le 7, 3) := dk_158 0 7 (dk_at dksX15_at_1 3 rfl rfl)
theorem dX15_at_30 : decode cX15_at 30 = .ok (.iconst 1, 1) := dk_4 (dk_at dksX15_at_1 6 rfl rfl)
theorem dX15_at_31 : decode cX15_at 31 = .ok (.goto 4, 3) := dk_167 0 4 (dk_at dksX15_at_1 7 rfl rfl)
theorem dX15_at_34 : decode cX15_at 34 = .ok (.iconst 0, 1) := dk_3 (dk_at dksX15_at_1 10 rfl rfl)
theorem dX15_at_35 : decode cX15_at 35 = .ok (.if_icmp .ne 7, 3) := dk_160 0 7 (dk_at dksX15_at_1 11 rfl rfl)
theorem dX15_at_38 : decode cX15_at 38 = .ok (.lload_n 2, 1) := dk_32 (dk_at dksX15_at_1 14 rfl rfl)
theorem dX15_at_39 : decode cX15_at 39 = .ok (.goto 5, 3) := dk_167 0 5 (dk_at dksX15_at_1 15 rfl rfl)
theorem dX15_at_42 : decode cX15_at 42 = .ok (.lload 4, 2) := dk_22 4 (dk_at dksX15_at_1 18 rfl rfl)
theorem dX15_at_44 : decode cX15_at 44 = .ok (.lreturn, 1) := dk_173 (dk_at dksX15_at_1 20 rfl rfl)
theorem q177 : (Jvm.Cond.initialized "PupilsPupil$Pair") ∈ lw_all := lw_g (lw_at lw_m1 33 rfl) rfl
theorem q858 : (Jvm.Cond.selects "PupilsPupil$Pair" ({ cls := "java/lang/Object", name := "getClass", desc := "()Ljava/lang/Class;" } : Jvm.MethodName) ({ cls := "java/lang/Object", name := "getClass", desc := "()Ljava/lang/Class;" } : Jvm.MethodName)) ∈ lw_all := lw_g (lw_at lw_m3 234 rfl) rfl
theorem q1058 : (Jvm.Cond.instantiable "PupilsPupil$Pair" (3 : Nat)) ∈ lw_all := lw_g (lw_at lw_m4 194 rfl) rfl
theorem q1060 : (Jvm.Cond.instanceMethod ({ cls := "PupilsPupil$Pair", name := "<init>", desc := "(ZLPupilsPupil$Value;LPupilsPupil$Value;)V" } : Jvm.MethodName)) ∈ lw_all := lw_g (lw_at lw_m4 196 rfl) rfl
theorem q1061 : (Jvm.Cond.code ({ cls := "PupilsPupil$Pair", name := "<init>", desc := "(ZLPupilsPupil$Value;LPupilsPupil$Value;)V" } : Jvm.MethodName) prog_12_method_1_code (4 : Nat) (Option.none : Option Jvm.ClassFile.FieldType)) ∈ lw_all := lw_g (lw_at lw_m4 197 rfl) rfl
theorem q1062 : (Jvm.Cond.methodLinkNest "PupilsPupil$Pair" (1 : Nat) ({ cls := "PupilsPupil$Value", name := "<init>", desc := "()V" } : Jvm.MethodName) "PupilsPupil") ∈ lw_tbl := lw_at lw_m4 198 rfl
theorem q1063 : (Jvm.Cond.fieldLink "PupilsPupil$Pair" (7 : Nat) "PupilsPupil$Pair" "most" "Z") ∈ lw_all := lw_g (lw_at lw_m4 199 rfl) rfl
theorem q1064 : (Jvm.Cond.fieldLink "PupilsPupil$Pair" (13 : Nat) "PupilsPupil$Pair" "first" "LPupilsPupil$Value;") ∈ lw_all := lw_g (lw_at lw_m4 200 rfl) rfl
theorem q1065 : (Jvm.Cond.fieldLink "PupilsPupil$Pair" (17 : Nat) "PupilsPupil$Pair" "second" "LPupilsPupil$Value;") ∈ lw_all := lw_g (lw_at lw_m4 201 rfl) rfl
theorem q1066 : (Jvm.Cond.laysFinal "PupilsPupil$Pair" "PupilsPupil$Pair" "most" "Z") ∈ lw_all := lw_g (lw_at lw_m4 202 rfl) rfl
theorem q1067 : (Jvm.Cond.soleField "PupilsPupil$Pair" "most") ∈ lw_all := lw_g (lw_at lw_m4 203 rfl) rfl
theorem q1068 : (Jvm.Cond.laysFinal "PupilsPupil$Pair" "PupilsPupil$Pair" "first" "LPupilsPupil$Value;") ∈ lw_all := lw_g (lw_at lw_m4 204 rfl) rfl
theorem q1069 : (Jvm.Cond.soleField "PupilsPupil$Pair" "first") ∈ lw_all := lw_g (lw_at lw_m4 205 rfl) rfl
theorem q1070 : (Jvm.Cond.laysFinal "PupilsPupil$Pair" "PupilsPupil$Pair" "second" "LPupilsPupil$Value;") ∈ lw_all := lw_g (lw_at lw_m4 206 rfl) rfl
theorem q1071 : (Jvm.Cond.soleField "PupilsPupil$Pair" "second") ∈ lw_all := lw_g (lw_at lw_m4 207 rfl) rfl
theorem q1072 : (Jvm.Cond.superclass "PupilsPupil$Pair" "PupilsPupil$Value") ∈ lw_all := lw_g (lw_at lw_m4 208 rfl) rfl
theorem q1378 : (Jvm.Cond.instanceMethod ({ cls := "PupilsPupil$Pair", name := "at", desc := "(LPupilsPupil$Moment;)J" } : Jvm.MethodName)) ∈ lw_all := lw_g (lw_at lw_m6 34 rfl) rfl
theorem q1379 : (Jvm.Cond.code ({ cls := "PupilsPupil$Pair", name := "at", desc := "(LPupilsPupil$Moment;)J" } : Jvm.MethodName) prog_12_method_2_code (6 : Nat) (Option.some Jvm.ClassFile.FieldType.long)) ∈ lw_all := lw_g (lw_at lw_m6 35 rfl) rfl
theorem q1380 : (Jvm.Cond.methodLink "PupilsPupil$Pair" (20 : Nat) ({ cls := "PupilsPupil$Value", name := "at", desc := "(LPupilsPupil$Moment;)J" } : Jvm.MethodName)) ∈ lw_all := lw_g (lw_at lw_m6 36 rfl) rfl
theorem q1407 : (Jvm.Cond.selects "PupilsPupil$Pair" ({ cls := "PupilsPupil$Value", name := "at", desc := "(LPupilsPupil$Moment;)J" } : Jvm.MethodName) ({ cls := "PupilsPupil$Pair", name := "at", desc := "(LPupilsPupil$Moment;)J" } : Jvm.MethodName)) ∈ lw_all := lw_g (lw_at lw_m6 63 rfl) rfl
theorem q2477 : (Jvm.Cond.castable "PupilsPupil$Pair" "PupilsPupil$Value") ∈ lw_tbl := lw_at lw_m10 173 rfl
theorem q2495 : (Jvm.Cond.castable "PupilsPupil$Pair" "java/lang/Object") ∈ lw_tbl := lw_at lw_m10 191 rfl
theorem in_X15 : ∀ w ∈ wsX150, w ∈ lw_all := lw_in wsX150 [1066, 1068, 1070] (by decide +kernel) (by decide +kernel)

/-! PupilsPupil$Fixed -/
set_option maxRecDepth 100000
def RX16 : String := "PupilsPupil$Fixed"
def TX16 : u_T := fun k => match k with
  | _ => ("PupilsPupil$Fixed", "value", "J", true)
def tyX16 : Nat → FieldType := fun k => match k with
  | _ => .long
abbrev wsX160 : List Cond := u_ws RX16 TX16 1
theorem nmX16 : ∀ a, a < 1 → ∀ b, b < 1 → a ≠ b → (TX16 a).2.1 ≠ (TX16 b).2.1 := by decide +kernel
theorem tyX16_ok : ∀ k, k < 1 → parseFieldDescriptor (TX16 k).2.2.1 = some (tyX16 k) := by decide +kernel
abbrev cX16_init : ByteArray := prog_7_method_1_code
def yX16_init : MethodName := ⟨RX16, "<init>", "(J)V"⟩
def dkwX16_init_0 : List UInt8 := [42, 183, 0, 1, 42, 31, 181, 0, 7, 177]
abbrev dktX16_init_0 : List UInt8 := dkwX16_init_0 ++ []
theorem dksX16_init_0 : cX16_init.data.toList.drop 0 = dktX16_init_0 := by decide +kernel
theorem dX16_init_0 : decode cX16_init 0 = .ok (.aload_n 0, 1) := dk_42 (dk_at dksX16_init_0 0 rfl rfl)
theorem dX16_init_1 : decode cX16_init 1 = .ok (.invokespecial 1, 3) := dk_183 0 1 (dk_at dksX16_init_0 1 rfl rfl)
theorem dX16_init_4 : decode cX16_init 4 = .ok (.aload_n 0, 1) := dk_42 (dk_at dksX16_init_0 4 rfl rfl)
theorem dX16_init_5 : decode cX16_init 5 = .ok (.lload_n 1, 1) := dk_31 (dk_at dksX16_init_0 5 rfl rfl)
theorem dX16_init_6 : decode cX16_init 6 = .ok (.putfield 7, 3) := dk_181 0 7 (dk_at dksX16_init_0 6 rfl rfl)
theorem dX16_init_9 : decode cX16_init 9 = .ok (.return_, 1) := dk_177 (dk_at dksX16_init_0 9 rfl rfl)
abbrev cX16_at : ByteArray := prog_7_method_2_code
def yX16_at : MethodName := ⟨RX16, "at", "(LPupilsPupil$Moment;)J"⟩
theorem dX16_at_0 : decode cX16_at 0 = .ok (.aload_n 0, 1) := by decide +kernel
theorem dX16_at_1 : decode cX16_at 1 = .ok (.getfield 7, 3) := by decide +kernel
theorem dX16_at_4 : decode cX16_at 4 = .ok (.lreturn, 1) := by decide +kernel
theorem q178 : (Jvm.Cond.initialized "PupilsPupil$Fixed") ∈ lw_all := lw_g (lw_at lw_m1 34 rfl) rfl
theorem q853 : (Jvm.Cond.selects "PupilsPupil$Fixed" ({ cls := "java/lang/Object", name := "getClass", desc := "()Ljava/lang/Class;" } : Jvm.MethodName) ({ cls := "java/lang/Object", name := "getClass", desc := "()Ljava/lang/Class;" } : Jvm.MethodName)) ∈ lw_all := lw_g (lw_at lw_m3 229 rfl) rfl
theorem q1074 : (Jvm.Cond.instantiable "PupilsPupil$Fixed" (1 : Nat)) ∈ lw_all := lw_g (lw_at lw_m4 210 rfl) rfl
theorem q1076 : (Jvm.Cond.instanceMethod ({ cls := "PupilsPupil$Fixed", name := "<init>", desc := "(J)V" } : Jvm.MethodName)) ∈ lw_all := lw_g (lw_at lw_m4 212 rfl) rfl
theorem q1077 : (Jvm.Cond.code ({ cls := "PupilsPupil$Fixed", name := "<init>", desc := "(J)V" } : Jvm.MethodName) prog_7_method_1_code (3 : Nat) (Option.none : Option Jvm.ClassFile.FieldType)) ∈ lw_all := lw_g (lw_at lw_m4 213 rfl) rfl
theorem q1078 : (Jvm.Cond.methodLinkNest "PupilsPupil$Fixed" (1 : Nat) ({ cls := "PupilsPupil$Value", name := "<init>", desc := "()V" } : Jvm.MethodName) "PupilsPupil") ∈ lw_tbl := lw_at lw_m4 214 rfl
theorem q1079 : (Jvm.Cond.fieldLink "PupilsPupil$Fixed" (7 : Nat) "PupilsPupil$Fixed" "value" "J") ∈ lw_all := lw_g (lw_at lw_m4 215 rfl) rfl
theorem q1080 : (Jvm.Cond.laysFinal "PupilsPupil$Fixed" "PupilsPupil$Fixed" "value" "J") ∈ lw_all := lw_g (lw_at lw_m4 216 rfl) rfl
theorem q1081 : (Jvm.Cond.soleField "PupilsPupil$Fixed" "value") ∈ lw_all := lw_g (lw_at lw_m4 217 rfl) rfl
theorem q1082 : (Jvm.Cond.superclass "PupilsPupil$Fixed" "PupilsPupil$Value") ∈ lw_all := lw_g (lw_at lw_m4 218 rfl) rfl
theorem q1373 : (Jvm.Cond.instanceMethod ({ cls := "PupilsPupil$Fixed", name := "at", desc := "(LPupilsPupil$Moment;)J" } : Jvm.MethodName)) ∈ lw_all := lw_g (lw_at lw_m6 29 rfl) rfl
theorem q1374 : (Jvm.Cond.code ({ cls := "PupilsPupil$Fixed", name := "at", desc := "(LPupilsPupil$Moment;)J" } : Jvm.MethodName) prog_7_method_2_code (2 : Nat) (Option.some Jvm.ClassFile.FieldType.long)) ∈ lw_all := lw_g (lw_at lw_m6 30 rfl) rfl
theorem q1405 : (Jvm.Cond.selects "PupilsPupil$Fixed" ({ cls := "PupilsPupil$Value", name := "at", desc := "(LPupilsPupil$Moment;)J" } : Jvm.MethodName) ({ cls := "PupilsPupil$Fixed", name := "at", desc := "(LPupilsPupil$Moment;)J" } : Jvm.MethodName)) ∈ lw_all := lw_g (lw_at lw_m6 61 rfl) rfl
theorem q2475 : (Jvm.Cond.castable "PupilsPupil$Fixed" "PupilsPupil$Value") ∈ lw_tbl := lw_at lw_m10 171 rfl
theorem q2496 : (Jvm.Cond.castable "PupilsPupil$Fixed" "java/lang/Object") ∈ lw_tbl := lw_at lw_m10 192 rfl
theorem in_X16 : ∀ w ∈ wsX160, w ∈ lw_all := lw_in wsX160 [1080] (by decide +kernel) (by decide +kernel)

/-! PupilsPupil$Asked -/
set_option maxRecDepth 100000
def RX17 : String := "PupilsPupil$Asked"
def TX17 : u_T := fun k => match k with
  | _ => ("PupilsPupil$Asked", "what", "I", true)
def tyX17 : Nat → FieldType := fun k => match k with
  | _ => .int
abbrev wsX170 : List Cond := u_ws RX17 TX17 1
theorem nmX17 : ∀ a, a < 1 → ∀ b, b < 1 → a ≠ b → (TX17 a).2.1 ≠ (TX17 b).2.1 := by decide +kernel
theorem tyX17_ok : ∀ k, k < 1 → parseFieldDescriptor (TX17 k).2.2.1 = some (tyX17 k) := by decide +kernel
abbrev cX17_init : ByteArray := prog_3_method_1_code
def yX17_init : MethodName := ⟨RX17, "<init>", "(I)V"⟩
def dkwX17_init_0 : List UInt8 := [42, 183, 0, 1, 42, 27, 181, 0, 7, 177]
abbrev dktX17_init_0 : List UInt8 := dkwX17_init_0 ++ []
theorem dksX17_init_0 : cX17_init.data.toList.drop 0 = dktX17_init_0 := by decide +kernel
theorem dX17_init_0 : decode cX17_init 0 = .ok (.aload_n 0, 1) := dk_42 (dk_at dksX17_init_0 0 rfl rfl)
theorem dX17_init_1 : decode cX17_init 1 = .ok (.invokespecial 1, 3) := dk_183 0 1 (dk_at dksX17_init_0 1 rfl rfl)
theorem dX17_init_4 : decode cX17_init 4 = .ok (.aload_n 0, 1) := dk_42 (dk_at dksX17_init_0 4 rfl rfl)
theorem dX17_init_5 : decode cX17_init 5 = .ok (.iload_n 1, 1) := dk_27 (dk_at dksX17_init_0 5 rfl rfl)
theorem dX17_init_6 : decode cX17_init 6 = .ok (.putfield 7, 3) := dk_181 0 7 (dk_at dksX17_init_0 6 rfl rfl)
theorem dX17_init_9 : decode cX17_init 9 = .ok (.return_, 1) := dk_177 (dk_at dksX17_init_0 9 rfl rfl)
abbrev cX17_at : ByteArray := prog_3_method_2_code
def yX17_at : MethodName := ⟨RX17, "at", "(LPupilsPupil$Moment;)J"⟩
def dkwX17_at_0 : List UInt8 := [43, 180, 0, 13, 42, 180, 0, 7, 47, 184, 0, 19, 173]
abbrev dktX17_at_0 : List UInt8 := dkwX17_at_0 ++ []
theorem dksX17_at_0 : cX17_at.data.toList.drop 0 = dktX17_at_0 := by decide +kernel
theorem dX17_at_0 : decode cX17_at 0 = .ok (.aload_n 1, 1) := dk_43 (dk_at dksX17_at_0 0 rfl rfl)
theorem dX17_at_1 : decode cX17_at 1 = .ok (.getfield 13, 3) := dk_180 0 13 (dk_at dksX17_at_0 1 rfl rfl)
theorem dX17_at_4 : decode cX17_at 4 = .ok (.aload_n 0, 1) := dk_42 (dk_at dksX17_at_0 4 rfl rfl)
theorem dX17_at_5 : decode cX17_at 5 = .ok (.getfield 7, 3) := dk_180 0 7 (dk_at dksX17_at_0 5 rfl rfl)
theorem dX17_at_8 : decode cX17_at 8 = .ok (.laload, 1) := dk_47 (dk_at dksX17_at_0 8 rfl rfl)
theorem dX17_at_9 : decode cX17_at 9 = .ok (.invokestatic 19, 3) := dk_184 0 19 (dk_at dksX17_at_0 9 rfl rfl)
theorem dX17_at_12 : decode cX17_at 12 = .ok (.lreturn, 1) := dk_173 (dk_at dksX17_at_0 12 rfl rfl)
theorem q179 : (Jvm.Cond.initialized "PupilsPupil$Asked") ∈ lw_all := lw_g (lw_at lw_m1 35 rfl) rfl
theorem q381 : (Jvm.Cond.fieldLinkNest "PupilsPupil$Asked" (13 : Nat) "PupilsPupil$Moment" "of" "[J" "PupilsPupil") ∈ lw_tbl := lw_at lw_m1 237 rfl
theorem q849 : (Jvm.Cond.selects "PupilsPupil$Asked" ({ cls := "java/lang/Object", name := "getClass", desc := "()Ljava/lang/Class;" } : Jvm.MethodName) ({ cls := "java/lang/Object", name := "getClass", desc := "()Ljava/lang/Class;" } : Jvm.MethodName)) ∈ lw_all := lw_g (lw_at lw_m3 225 rfl) rfl
theorem q1086 : (Jvm.Cond.instantiable "PupilsPupil$Asked" (1 : Nat)) ∈ lw_all := lw_g (lw_at lw_m4 222 rfl) rfl
theorem q1088 : (Jvm.Cond.instanceMethod ({ cls := "PupilsPupil$Asked", name := "<init>", desc := "(I)V" } : Jvm.MethodName)) ∈ lw_all := lw_g (lw_at lw_m4 224 rfl) rfl
theorem q1089 : (Jvm.Cond.code ({ cls := "PupilsPupil$Asked", name := "<init>", desc := "(I)V" } : Jvm.MethodName) prog_3_method_1_code (2 : Nat) (Option.none : Option Jvm.ClassFile.FieldType)) ∈ lw_all := lw_g (lw_at lw_m4 225 rfl) rfl
theorem q1090 : (Jvm.Cond.methodLinkNest "PupilsPupil$Asked" (1 : Nat) ({ cls := "PupilsPupil$Value", name := "<init>", desc := "()V" } : Jvm.MethodName) "PupilsPupil") ∈ lw_tbl := lw_at lw_m4 226 rfl
theorem q1091 : (Jvm.Cond.fieldLink "PupilsPupil$Asked" (7 : Nat) "PupilsPupil$Asked" "what" "I") ∈ lw_all := lw_g (lw_at lw_m4 227 rfl) rfl
theorem q1092 : (Jvm.Cond.laysFinal "PupilsPupil$Asked" "PupilsPupil$Asked" "what" "I") ∈ lw_all := lw_g (lw_at lw_m4 228 rfl) rfl
theorem q1093 : (Jvm.Cond.soleField "PupilsPupil$Asked" "what") ∈ lw_all := lw_g (lw_at lw_m4 229 rfl) rfl
theorem q1094 : (Jvm.Cond.superclass "PupilsPupil$Asked" "PupilsPupil$Value") ∈ lw_all := lw_g (lw_at lw_m4 230 rfl) rfl
theorem q1352 : (Jvm.Cond.selects "PupilsPupil$Asked" ({ cls := "PupilsPupil$Value", name := "at", desc := "(LPupilsPupil$Moment;)J" } : Jvm.MethodName) ({ cls := "PupilsPupil$Asked", name := "at", desc := "(LPupilsPupil$Moment;)J" } : Jvm.MethodName)) ∈ lw_all := lw_g (lw_at lw_m6 8 rfl) rfl
theorem q1353 : (Jvm.Cond.instanceMethod ({ cls := "PupilsPupil$Asked", name := "at", desc := "(LPupilsPupil$Moment;)J" } : Jvm.MethodName)) ∈ lw_all := lw_g (lw_at lw_m6 9 rfl) rfl
theorem q1354 : (Jvm.Cond.code ({ cls := "PupilsPupil$Asked", name := "at", desc := "(LPupilsPupil$Moment;)J" } : Jvm.MethodName) prog_3_method_2_code (2 : Nat) (Option.some Jvm.ClassFile.FieldType.long)) ∈ lw_all := lw_g (lw_at lw_m6 10 rfl) rfl
theorem q1355 : (Jvm.Cond.methodLinkNest "PupilsPupil$Asked" (19 : Nat) ({ cls := "PupilsPupil", name := "held", desc := "(J)J" } : Jvm.MethodName) "PupilsPupil") ∈ lw_tbl := lw_at lw_m6 11 rfl
theorem q2473 : (Jvm.Cond.castable "PupilsPupil$Asked" "PupilsPupil$Value") ∈ lw_tbl := lw_at lw_m10 169 rfl
theorem q2497 : (Jvm.Cond.castable "PupilsPupil$Asked" "java/lang/Object") ∈ lw_tbl := lw_at lw_m10 193 rfl
theorem in_X17 : ∀ w ∈ wsX170, w ∈ lw_all := lw_in wsX170 [1092] (by decide +kernel) (by decide +kernel)

/-! PupilsPupil$Looked -/
set_option maxRecDepth 100000
def RX18 : String := "PupilsPupil$Looked"
def TX18 : u_T := fun k => match k with
  | 0 => ("PupilsPupil$Looked", "what", "I", true)
  | 1 => ("PupilsPupil$Looked", "of", "LPupilsPupil$Value;", true)
  | _ => ("PupilsPupil$Looked", "this$0", "LPupilsPupil;", true)
def tyX18 : Nat → FieldType := fun k => match k with
  | 0 => .int
  | 1 => .object "PupilsPupil$Value"
  | _ => .object "PupilsPupil"
abbrev wsX180 : List Cond := u_ws RX18 TX18 3
theorem nmX18 : ∀ a, a < 3 → ∀ b, b < 3 → a ≠ b → (TX18 a).2.1 ≠ (TX18 b).2.1 := by decide +kernel
theorem tyX18_ok : ∀ k, k < 3 → parseFieldDescriptor (TX18 k).2.2.1 = some (tyX18 k) := by decide +kernel
abbrev cX18_init : ByteArray := prog_8_method_1_code
def yX18_init : MethodName := ⟨RX18, "<init>", "(LPupilsPupil;ILPupilsPupil$Value;)V"⟩
def dkwX18_init_0 : List UInt8 := [42, 43, 181, 0, 1, 42, 183, 0, 7, 42, 28, 181, 0, 13, 42, 45, 181, 0, 17, 177]
abbrev dktX18_init_0 : List UInt8 := dkwX18_init_0 ++ []
theorem dksX18_init_0 : cX18_init.data.toList.drop 0 = dktX18_init_0 := by decide +kernel
theorem dX18_init_0 : decode cX18_init 0 = .ok (.aload_n 0, 1) := dk_42 (dk_at dksX18_init_0 0 rfl rfl)
theorem dX18_init_1 : decode cX18_init 1 = .ok (.aload_n 1, 1) := dk_43 (dk_at dksX18_init_0 1 rfl rfl)
theorem dX18_init_2 : decode cX18_init 2 = .ok (.putfield 1, 3) := dk_181 0 1 (dk_at dksX18_init_0 2 rfl rfl)
theorem dX18_init_5 : decode cX18_init 5 = .ok (.aload_n 0, 1) := dk_42 (dk_at dksX18_init_0 5 rfl rfl)
theorem dX18_init_6 : decode cX18_init 6 = .ok (.invokespecial 7, 3) := dk_183 0 7 (dk_at dksX18_init_0 6 rfl rfl)
theorem dX18_init_9 : decode cX18_init 9 = .ok (.aload_n 0, 1) := dk_42 (dk_at dksX18_init_0 9 rfl rfl)
theorem dX18_init_10 : decode cX18_init 10 = .ok (.iload_n 2, 1) := dk_28 (dk_at dksX18_init_0 10 rfl rfl)
theorem dX18_init_11 : decode cX18_init 11 = .ok (.putfield 13, 3) := dk_181 0 13 (dk_at dksX18_init_0 11 rfl rfl)
theorem dX18_init_14 : decode cX18_init 14 = .ok (.aload_n 0, 1) := dk_42 (dk_at dksX18_init_0 14 rfl rfl)
theorem dX18_init_15 : decode cX18_init 15 = .ok (.aload_n 3, 1) := dk_45 (dk_at dksX18_init_0 15 rfl rfl)
theorem dX18_init_16 : decode cX18_init 16 = .ok (.putfield 17, 3) := dk_181 0 17 (dk_at dksX18_init_0 16 rfl rfl)
theorem dX18_init_19 : decode cX18_init 19 = .ok (.return_, 1) := dk_177 (dk_at dksX18_init_0 19 rfl rfl)
abbrev cX18_at : ByteArray := prog_8_method_2_code
def yX18_at : MethodName := ⟨RX18, "at", "(LPupilsPupil$Moment;)J"⟩
def dkwX18_at_0 : List UInt8 := [42, 180, 0, 1, 42, 180, 0, 13, 42, 180, 0, 17, 43, 182, 0, 21, 182, 0, 25, 184, 0, 31, 173]
abbrev dktX18_at_0 : List UInt8 := dkwX18_at_0 ++ []
theorem dksX18_at_0 : cX18_at.data.toList.drop 0 = dktX18_at_0 := by decide +kernel
theorem dX18_at_0 : decode cX18_at 0 = .ok (.aload_n 0, 1) := dk_42 (dk_at dksX18_at_0 0 rfl rfl)
theorem dX18_at_1 : decode cX18_at 1 = .ok (.getfield 1, 3) := dk_180 0 1 (dk_at dksX18_at_0 1 rfl rfl)
theorem dX18_at_4 : decode cX18_at 4 = .ok (.aload_n 0, 1) := dk_42 (dk_at dksX18_at_0 4 rfl rfl)
theorem dX18_at_5 : decode cX18_at 5 = .ok (.getfield 13, 3) := dk_180 0 13 (dk_at dksX18_at_0 5 rfl rfl)
theorem dX18_at_8 : decode cX18_at 8 = .ok (.aload_n 0, 1) := dk_42 (dk_at dksX18_at_0 8 rfl rfl)
theorem dX18_at_9 : decode cX18_at 9 = .ok (.getfield 17, 3) := dk_180 0 17 (dk_at dksX18_at_0 9 rfl rfl)
theorem dX18_at_12 : decode cX18_at 12 = .ok (.aload_n 1, 1) := dk_43 (dk_at dksX18_at_0 12 rfl rfl)
theorem dX18_at_13 : decode cX18_at 13 = .ok (.invokevirtual 21, 3) := dk_182 0 21 (dk_at dksX18_at_0 13 rfl rfl)
theorem dX18_at_16 : decode cX18_at 16 = .ok (.invokevirtual 25, 3) := dk_182 0 25 (dk_at dksX18_at_0 16 rfl rfl)
theorem dX18_at_19 : decode cX18_at 19 = .ok (.invokestatic 31, 3) := dk_184 0 31 (dk_at dksX18_at_0 19 rfl rfl)
theorem dX18_at_22 : decode cX18_at 22 = .ok (.lreturn, 1) := dk_173 (dk_at dksX18_at_0 22 rfl rfl)
theorem q180 : (Jvm.Cond.initialized "PupilsPupil$Looked") ∈ lw_all := lw_g (lw_at lw_m1 36 rfl) rfl
theorem q854 : (Jvm.Cond.selects "PupilsPupil$Looked" ({ cls := "java/lang/Object", name := "getClass", desc := "()Ljava/lang/Class;" } : Jvm.MethodName) ({ cls := "java/lang/Object", name := "getClass", desc := "()Ljava/lang/Class;" } : Jvm.MethodName)) ∈ lw_all := lw_g (lw_at lw_m3 230 rfl) rfl
theorem q1102 : (Jvm.Cond.instantiable "PupilsPupil$Looked" (3 : Nat)) ∈ lw_all := lw_g (lw_at lw_m4 238 rfl) rfl
theorem q1104 : (Jvm.Cond.instanceMethod ({ cls := "PupilsPupil$Looked", name := "<init>", desc := "(LPupilsPupil;ILPupilsPupil$Value;)V" } : Jvm.MethodName)) ∈ lw_all := lw_g (lw_at lw_m5 0 rfl) rfl
theorem q1105 : (Jvm.Cond.code ({ cls := "PupilsPupil$Looked", name := "<init>", desc := "(LPupilsPupil;ILPupilsPupil$Value;)V" } : Jvm.MethodName) prog_8_method_1_code (4 : Nat) (Option.none : Option Jvm.ClassFile.FieldType)) ∈ lw_all := lw_g (lw_at lw_m5 1 rfl) rfl
theorem q1106 : (Jvm.Cond.methodLinkNest "PupilsPupil$Looked" (7 : Nat) ({ cls := "PupilsPupil$Value", name := "<init>", desc := "()V" } : Jvm.MethodName) "PupilsPupil") ∈ lw_tbl := lw_at lw_m5 2 rfl
theorem q1107 : (Jvm.Cond.fieldLink "PupilsPupil$Looked" (13 : Nat) "PupilsPupil$Looked" "what" "I") ∈ lw_all := lw_g (lw_at lw_m5 3 rfl) rfl
theorem q1108 : (Jvm.Cond.fieldLink "PupilsPupil$Looked" (17 : Nat) "PupilsPupil$Looked" "of" "LPupilsPupil$Value;") ∈ lw_all := lw_g (lw_at lw_m5 4 rfl) rfl
theorem q1109 : (Jvm.Cond.fieldLink "PupilsPupil$Looked" (1 : Nat) "PupilsPupil$Looked" "this$0" "LPupilsPupil;") ∈ lw_all := lw_g (lw_at lw_m5 5 rfl) rfl
theorem q1110 : (Jvm.Cond.laysFinal "PupilsPupil$Looked" "PupilsPupil$Looked" "what" "I") ∈ lw_all := lw_g (lw_at lw_m5 6 rfl) rfl
theorem q1111 : (Jvm.Cond.soleField "PupilsPupil$Looked" "what") ∈ lw_all := lw_g (lw_at lw_m5 7 rfl) rfl
theorem q1112 : (Jvm.Cond.laysFinal "PupilsPupil$Looked" "PupilsPupil$Looked" "of" "LPupilsPupil$Value;") ∈ lw_all := lw_g (lw_at lw_m5 8 rfl) rfl
theorem q1113 : (Jvm.Cond.soleField "PupilsPupil$Looked" "of") ∈ lw_all := lw_g (lw_at lw_m5 9 rfl) rfl
theorem q1114 : (Jvm.Cond.laysFinal "PupilsPupil$Looked" "PupilsPupil$Looked" "this$0" "LPupilsPupil;") ∈ lw_all := lw_g (lw_at lw_m5 10 rfl) rfl
theorem q1115 : (Jvm.Cond.soleField "PupilsPupil$Looked" "this$0") ∈ lw_all := lw_g (lw_at lw_m5 11 rfl) rfl
theorem q1116 : (Jvm.Cond.superclass "PupilsPupil$Looked" "PupilsPupil$Value") ∈ lw_all := lw_g (lw_at lw_m5 12 rfl) rfl
theorem q1375 : (Jvm.Cond.instanceMethod ({ cls := "PupilsPupil$Looked", name := "at", desc := "(LPupilsPupil$Moment;)J" } : Jvm.MethodName)) ∈ lw_all := lw_g (lw_at lw_m6 31 rfl) rfl
theorem q1376 : (Jvm.Cond.code ({ cls := "PupilsPupil$Looked", name := "at", desc := "(LPupilsPupil$Moment;)J" } : Jvm.MethodName) prog_8_method_2_code (2 : Nat) (Option.some Jvm.ClassFile.FieldType.long)) ∈ lw_all := lw_g (lw_at lw_m6 32 rfl) rfl
theorem q1377 : (Jvm.Cond.methodLink "PupilsPupil$Looked" (21 : Nat) ({ cls := "PupilsPupil$Value", name := "at", desc := "(LPupilsPupil$Moment;)J" } : Jvm.MethodName)) ∈ lw_all := lw_g (lw_at lw_m6 33 rfl) rfl
theorem q1381 : (Jvm.Cond.methodLinkNest "PupilsPupil$Looked" (25 : Nat) ({ cls := "PupilsPupil", name := "looked", desc := "(IJ)J" } : Jvm.MethodName) "PupilsPupil") ∈ lw_tbl := lw_at lw_m6 37 rfl
theorem q1385 : (Jvm.Cond.methodLinkNest "PupilsPupil$Looked" (31 : Nat) ({ cls := "PupilsPupil", name := "held", desc := "(J)J" } : Jvm.MethodName) "PupilsPupil") ∈ lw_tbl := lw_at lw_m6 41 rfl
theorem q1406 : (Jvm.Cond.selects "PupilsPupil$Looked" ({ cls := "PupilsPupil$Value", name := "at", desc := "(LPupilsPupil$Moment;)J" } : Jvm.MethodName) ({ cls := "PupilsPupil$Looked", name := "at", desc := "(LPupilsPupil$Moment;)J" } : Jvm.MethodName)) ∈ lw_all := lw_g (lw_at lw_m6 62 rfl) rfl
theorem q2476 : (Jvm.Cond.castable "PupilsPupil$Looked" "PupilsPupil$Value") ∈ lw_tbl := lw_at lw_m10 172 rfl
theorem q2498 : (Jvm.Cond.castable "PupilsPupil$Looked" "java/lang/Object") ∈ lw_tbl := lw_at lw_m10 194 rfl
theorem in_X18 : ∀ w ∈ wsX180, w ∈ lw_all := lw_in wsX180 [1110, 1112, 1114] (by decide +kernel) (by decide +kernel)

/-! PupilsPupil$Than -/
set_option maxRecDepth 100000
def RX19 : String := "PupilsPupil$Than"
def TX19 : u_T := fun k => match k with
  | 0 => ("PupilsPupil$Than", "a", "LPupilsPupil$Value;", true)
  | 1 => ("PupilsPupil$Than", "b", "LPupilsPupil$Value;", true)
  | _ => ("PupilsPupil$Than", "sign", "I", true)
def tyX19 : Nat → FieldType := fun k => match k with
  | 0 => .object "PupilsPupil$Value"
  | 1 => .object "PupilsPupil$Value"
  | _ => .int
abbrev wsX190 : List Cond := u_ws RX19 TX19 3
theorem nmX19 : ∀ a, a < 3 → ∀ b, b < 3 → a ≠ b → (TX19 a).2.1 ≠ (TX19 b).2.1 := by decide +kernel
theorem tyX19_ok : ∀ k, k < 3 → parseFieldDescriptor (TX19 k).2.2.1 = some (tyX19 k) := by decide +kernel
abbrev cX19_init : ByteArray := prog_19_method_1_code
def yX19_init : MethodName := ⟨RX19, "<init>", "(LPupilsPupil$Value;ILPupilsPupil$Value;)V"⟩
def dkwX19_init_0 : List UInt8 := [42, 183, 0, 1, 42, 43, 181, 0, 7, 42, 28, 181, 0, 13, 42, 45, 181, 0, 17, 177]
abbrev dktX19_init_0 : List UInt8 := dkwX19_init_0 ++ []
theorem dksX19_init_0 : cX19_init.data.toList.drop 0 = dktX19_init_0 := by decide +kernel
theorem dX19_init_0 : decode cX19_init 0 = .ok (.aload_n 0, 1) := dk_42 (dk_at dksX19_init_0 0 rfl rfl)
theorem dX19_init_1 : decode cX19_init 1 = .ok (.invokespecial 1, 3) := dk_183 0 1 (dk_at dksX19_init_0 1 rfl rfl)
theorem dX19_init_4 : decode cX19_init 4 = .ok (.aload_n 0, 1) := dk_42 (dk_at dksX19_init_0 4 rfl rfl)
theorem dX19_init_5 : decode cX19_init 5 = .ok (.aload_n 1, 1) := dk_43 (dk_at dksX19_init_0 5 rfl rfl)
theorem dX19_init_6 : decode cX19_init 6 = .ok (.putfield 7, 3) := dk_181 0 7 (dk_at dksX19_init_0 6 rfl rfl)
theorem dX19_init_9 : decode cX19_init 9 = .ok (.aload_n 0, 1) := dk_42 (dk_at dksX19_init_0 9 rfl rfl)
theorem dX19_init_10 : decode cX19_init 10 = .ok (.iload_n 2, 1) := dk_28 (dk_at dksX19_init_0 10 rfl rfl)
theorem dX19_init_11 : decode cX19_init 11 = .ok (.putfield 13, 3) := dk_181 0 13 (dk_at dksX19_init_0 11 rfl rfl)
theorem dX19_init_14 : decode cX19_init 14 = .ok (.aload_n 0, 1) := dk_42 (dk_at dksX19_init_0 14 rfl rfl)
theorem dX19_init_15 : decode cX19_init 15 = .ok (.aload_n 3, 1) := dk_45 (dk_at dksX19_init_0 15 rfl rfl)
theorem dX19_init_16 : decode cX19_init 16 = .ok (.putfield 17, 3) := dk_181 0 17 (dk_at dksX19_init_0 16 rfl rfl)
theorem dX19_init_19 : decode cX19_init 19 = .ok (.return_, 1) := dk_177 (dk_at dksX19_init_0 19 rfl rfl)
abbrev cX19_holds : ByteArray := prog_19_method_2_code
def yX19_holds : MethodName := ⟨RX19, "holds", "(LPupilsPupil$Moment;)Z"⟩
def dkwX19_holds_3 : List UInt8 := [154, 0, 7, 4, 167, 0, 4, 3, 172]
abbrev dktX19_holds_3 : List UInt8 := dkwX19_holds_3 ++ []
def dkwX19_holds_2 : List UInt8 := [16, 62, 160, 0, 18, 32, 22, 4, 148, 158, 0, 7, 4, 167, 0, 19, 3, 167, 0, 15, 32, 22, 4, 148]
abbrev dktX19_holds_2 : List UInt8 := dkwX19_holds_2 ++ dktX19_holds_3
def dkwX19_holds_1 : List UInt8 := [16, 60, 160, 0, 18, 32, 22, 4, 148, 156, 0, 7, 4, 167, 0, 43, 3, 167, 0, 39, 42, 180, 0, 13]
abbrev dktX19_holds_1 : List UInt8 := dkwX19_holds_1 ++ dktX19_holds_2
def dkwX19_holds_0 : List UInt8 := [42, 180, 0, 7, 43, 182, 0, 20, 65, 42, 180, 0, 17, 43, 182, 0, 20, 55, 4, 42, 180, 0, 13]
abbrev dktX19_holds_0 : List UInt8 := dkwX19_holds_0 ++ dktX19_holds_1
theorem dksX19_holds_0 : cX19_holds.data.toList.drop 0 = dktX19_holds_0 := by decide +kernel
theorem dksX19_holds_1 : cX19_holds.data.toList.drop 23 = dktX19_holds_1 := dk_seg dksX19_holds_0 23 rfl rfl
theorem dksX19_holds_2 : cX19_holds.data.toList.drop 47 = dktX19_holds_2 := dk_seg dksX19_holds_1 24 rfl rfl
theorem dksX19_holds_3 : cX19_holds.data.toList.drop 71 = dktX19_holds_3 := dk_seg dksX19_holds_2 24 rfl rfl
theorem dX19_holds_0 : decode cX19_holds 0 = .ok (.aload_n 0, 1) := dk_42 (dk_at dksX19_holds_0 0 rfl rfl)
theorem dX19_holds_1 : decode cX19_holds 1 = .ok (.getfield 7, 3) := dk_180 0 7 (dk_at dksX19_holds_0 1 rfl rfl)
theorem dX19_holds_4 : decode cX19_holds 4 = .ok (.aload_n 1, 1) := dk_43 (dk_at dksX19_holds_0 4 rfl rfl)
theorem dX19_holds_5 : decode cX19_holds 5 = .ok (.invokevirtual 20, 3) := dk_182 0 20 (dk_at dksX19_holds_0 5 rfl rfl)
theorem dX19_holds_8 : decode cX19_holds 8 = .ok (.lstore_n 2, 1) := dk_65 (dk_at dksX19_holds_0 8 rfl rfl)
theorem dX19_holds_9 : decode cX19_holds 9 = .ok (.aload_n 0, 1) := dk_42 (dk_at dksX19_holds_0 9 rfl rfl)
theorem dX19_holds_10 : decode cX19_holds 10 = .ok (.getfield 17, 3) := dk_180 0 17 (dk_at dksX19_holds_0 10 rfl rfl)
theorem dX19_holds_13 : decode cX19_holds 13 = .ok (.aload_n 1, 1) := dk_43 (dk_at dksX19_holds_0 13 rfl rfl)
theorem dX19_holds_14 : decode cX19_holds 14 = .ok (.invokevirtual 20, 3) := dk_182 0 20 (dk_at dksX19_holds_0 14 rfl rfl)
theorem dX19_holds_17 : decode cX19_holds 17 = .ok (.lstore 4, 2) := dk_55 4 (dk_at dksX19_holds_0 17 rfl rfl)
theorem dX19_holds_19 : decode cX19_holds 19 = .ok (.aload_n 0, 1) := dk_42 (dk_at dksX19_holds_0 19 rfl rfl)
theorem dX19_holds_20 : decode cX19_holds 20 = .ok (.getfield 13, 3) := dk_180 0 13 (dk_at dksX19_holds_0 20 rfl rfl)
theorem dX19_holds_23 : decode cX19_holds 23 = .ok (.bipush 60, 2) := dk_16 60 (dk_at dksX19_holds_1 0 rfl rfl)
theorem dX19_holds_25 : decode cX19_holds 25 = .ok (.if_icmp .ne 18, 3) := dk_160 0 18 (dk_at dksX19_holds_1 2 rfl rfl)
theorem dX19_holds_28 : decode cX19_holds 28 = .ok (.lload_n 2, 1) := dk_32 (dk_at dksX19_holds_1 5 rfl rfl)
theorem dX19_holds_29 : decode cX19_holds 29 = .ok (.lload 4, 2) := dk_22 4 (dk_at dksX19_holds_1 6 rfl rfl)
theorem dX19_holds_31 : decode cX19_holds 31 = .ok (.lcmp, 1) := dk_148 (dk_at dksX19_holds_1 8 rfl rfl)
theorem dX19_holds_32 : decode cX19_holds 32 = .ok (.ifCond .ge 7, 3) := dk_156 0 7 (dk_at dksX19_holds_1 9 rfl rfl)
theorem dX19_holds_35 : decode cX19_holds 35 = .ok (.iconst 1, 1) := dk_4 (dk_at dksX19_holds_1 12 rfl rfl)
theorem dX19_holds_36 : decode cX19_holds 36 = .ok (.goto 43, 3) := dk_167 0 43 (dk_at dksX19_holds_1 13 rfl rfl)
theorem dX19_holds_39 : decode cX19_holds 39 = .ok (.iconst 0, 1) := dk_3 (dk_at dksX19_holds_1 16 rfl rfl)
theorem dX19_holds_40 : decode cX19_holds 40 = .ok (.goto 39, 3) := dk_167 0 39 (dk_at dksX19_holds_1 17 rfl rfl)
theorem dX19_holds_43 : decode cX19_holds 43 = .ok (.aload_n 0, 1) := dk_42 (dk_at dksX19_holds_1 20 rfl rfl)
theorem dX19_holds_44 : decode cX19_holds 44 = .ok (.getfield 13, 3) := dk_180 0 13 (dk_at dksX19_holds_1 21 rfl rfl)
theorem dX19_holds_47 : decode cX19_holds 47 = .ok (.bipush 62, 2) := dk_16 62 (dk_at dksX19_holds_2 0 rfl rfl)
theorem dX19_holds_49 : decode cX19_holds 49 = .ok (.if_icmp .ne 18, 3) := dk_160 0 18 (dk_at dksX19_holds_2 2 rfl rfl)
theorem dX19_holds_52 : decode cX19_holds 52 = .ok (.lload_n 2, 1) := dk_32 (dk_at dksX19_holds_2 5 rfl rfl)
theorem dX19_holds_53 : decode cX19_holds 53 = .ok (.lload 4, 2) := dk_22 4 (dk_at dksX19_holds_2 6 rfl rfl)
theorem dX19_holds_55 : decode cX19_holds 55 = .ok (.lcmp, 1) := dk_148 (dk_at dksX19_holds_2 8 rfl rfl)
theorem dX19_holds_56 : decode cX19_holds 56 = .ok (.ifCond .le 7, 3) := dk_158 0 7 (dk_at dksX19_holds_2 9 rfl rfl)
theorem dX19_holds_59 : decode cX19_holds 59 = .ok (.iconst 1, 1) := dk_4 (dk_at dksX19_holds_2 12 rfl rfl)
theorem dX19_holds_60 : decode cX19_holds 60 = .ok (.goto 19, 3) := dk_167 0 19 (dk_at dksX19_holds_2 13 rfl rfl)
theorem dX19_holds_63 : decode cX19_holds 63 = .ok (.iconst 0, 1) := dk_3 (dk_at dksX19_holds_2 16 rfl rfl)
theorem dX19_holds_64 : decode cX19_holds 64 = .ok (.goto 15, 3) := dk_167 0 15 (dk_at dksX19_holds_2 17 rfl rfl)
theorem dX19_holds_67 : decode cX19_holds 67 = .ok (.lload_n 2, 1) := dk_32 (dk_at dksX19_holds_2 20 rfl rfl)
theorem dX19_holds_68 : decode cX19_holds 68 = .ok (.lload 4, 2) := dk_22 4 (dk_at dksX19_holds_2 21 rfl rfl)
theorem dX19_holds_70 : decode cX19_holds 70 = .ok (.lcmp, 1) := dk_148 (dk_at dksX19_holds_2 23 rfl rfl)
theorem dX19_holds_71 : decode cX19_holds 71 = .ok (.ifCond .ne 7, 3) := dk_154 0 7 (dk_at dksX19_holds_3 0 rfl rfl)
theorem dX19_holds_74 : decode cX19_holds 74 = .ok (.iconst 1, 1) := dk_4 (dk_at dksX19_holds_3 3 rfl rfl)
theorem dX19_holds_75 : decode cX19_holds 75 = .ok (.goto 4, 3) := dk_167 0 4 (dk_at dksX19_holds_3 4 rfl rfl)
theorem dX19_holds_78 : decode cX19_holds 78 = .ok (.iconst 0, 1) := dk_3 (dk_at dksX19_holds_3 7 rfl rfl)
theorem dX19_holds_79 : decode cX19_holds 79 = .ok (.ireturn, 1) := dk_172 (dk_at dksX19_holds_3 8 rfl rfl)
theorem q181 : (Jvm.Cond.initialized "PupilsPupil$Than") ∈ lw_all := lw_g (lw_at lw_m1 37 rfl) rfl
theorem q864 : (Jvm.Cond.selects "PupilsPupil$Than" ({ cls := "java/lang/Object", name := "getClass", desc := "()Ljava/lang/Class;" } : Jvm.MethodName) ({ cls := "java/lang/Object", name := "getClass", desc := "()Ljava/lang/Class;" } : Jvm.MethodName)) ∈ lw_all := lw_g (lw_at lw_m4 0 rfl) rfl
theorem q1185 : (Jvm.Cond.instantiable "PupilsPupil$Than" (3 : Nat)) ∈ lw_all := lw_g (lw_at lw_m5 81 rfl) rfl
theorem q1187 : (Jvm.Cond.instanceMethod ({ cls := "PupilsPupil$Than", name := "<init>", desc := "(LPupilsPupil$Value;ILPupilsPupil$Value;)V" } : Jvm.MethodName)) ∈ lw_all := lw_g (lw_at lw_m5 83 rfl) rfl
theorem q1188 : (Jvm.Cond.code ({ cls := "PupilsPupil$Than", name := "<init>", desc := "(LPupilsPupil$Value;ILPupilsPupil$Value;)V" } : Jvm.MethodName) prog_19_method_1_code (4 : Nat) (Option.none : Option Jvm.ClassFile.FieldType)) ∈ lw_all := lw_g (lw_at lw_m5 84 rfl) rfl
theorem q1189 : (Jvm.Cond.methodLinkNest "PupilsPupil$Than" (1 : Nat) ({ cls := "PupilsPupil$Test", name := "<init>", desc := "()V" } : Jvm.MethodName) "PupilsPupil") ∈ lw_tbl := lw_at lw_m5 85 rfl
theorem q1190 : (Jvm.Cond.fieldLink "PupilsPupil$Than" (7 : Nat) "PupilsPupil$Than" "a" "LPupilsPupil$Value;") ∈ lw_all := lw_g (lw_at lw_m5 86 rfl) rfl
theorem q1191 : (Jvm.Cond.fieldLink "PupilsPupil$Than" (17 : Nat) "PupilsPupil$Than" "b" "LPupilsPupil$Value;") ∈ lw_all := lw_g (lw_at lw_m5 87 rfl) rfl
theorem q1192 : (Jvm.Cond.fieldLink "PupilsPupil$Than" (13 : Nat) "PupilsPupil$Than" "sign" "I") ∈ lw_all := lw_g (lw_at lw_m5 88 rfl) rfl
theorem q1193 : (Jvm.Cond.laysFinal "PupilsPupil$Than" "PupilsPupil$Than" "a" "LPupilsPupil$Value;") ∈ lw_all := lw_g (lw_at lw_m5 89 rfl) rfl
theorem q1194 : (Jvm.Cond.soleField "PupilsPupil$Than" "a") ∈ lw_all := lw_g (lw_at lw_m5 90 rfl) rfl
theorem q1195 : (Jvm.Cond.laysFinal "PupilsPupil$Than" "PupilsPupil$Than" "b" "LPupilsPupil$Value;") ∈ lw_all := lw_g (lw_at lw_m5 91 rfl) rfl
theorem q1196 : (Jvm.Cond.soleField "PupilsPupil$Than" "b") ∈ lw_all := lw_g (lw_at lw_m5 92 rfl) rfl
theorem q1197 : (Jvm.Cond.laysFinal "PupilsPupil$Than" "PupilsPupil$Than" "sign" "I") ∈ lw_all := lw_g (lw_at lw_m5 93 rfl) rfl
theorem q1198 : (Jvm.Cond.soleField "PupilsPupil$Than" "sign") ∈ lw_all := lw_g (lw_at lw_m5 94 rfl) rfl
theorem q1199 : (Jvm.Cond.superclass "PupilsPupil$Than" "PupilsPupil$Test") ∈ lw_all := lw_g (lw_at lw_m5 95 rfl) rfl
theorem q1347 : (Jvm.Cond.instanceMethod ({ cls := "PupilsPupil$Than", name := "holds", desc := "(LPupilsPupil$Moment;)Z" } : Jvm.MethodName)) ∈ lw_all := lw_g (lw_at lw_m6 3 rfl) rfl
theorem q1348 : (Jvm.Cond.code ({ cls := "PupilsPupil$Than", name := "holds", desc := "(LPupilsPupil$Moment;)Z" } : Jvm.MethodName) prog_19_method_2_code (6 : Nat) (Option.some Jvm.ClassFile.FieldType.boolean)) ∈ lw_all := lw_g (lw_at lw_m6 4 rfl) rfl
theorem q1349 : (Jvm.Cond.methodLink "PupilsPupil$Than" (20 : Nat) ({ cls := "PupilsPupil$Value", name := "at", desc := "(LPupilsPupil$Moment;)J" } : Jvm.MethodName)) ∈ lw_all := lw_g (lw_at lw_m6 5 rfl) rfl
theorem q1409 : (Jvm.Cond.selects "PupilsPupil$Than" ({ cls := "PupilsPupil$Test", name := "holds", desc := "(LPupilsPupil$Moment;)Z" } : Jvm.MethodName) ({ cls := "PupilsPupil$Than", name := "holds", desc := "(LPupilsPupil$Moment;)Z" } : Jvm.MethodName)) ∈ lw_all := lw_g (lw_at lw_m6 65 rfl) rfl
theorem q2472 : (Jvm.Cond.castable "PupilsPupil$Than" "PupilsPupil$Test") ∈ lw_tbl := lw_at lw_m10 168 rfl
theorem q2499 : (Jvm.Cond.castable "PupilsPupil$Than" "java/lang/Object") ∈ lw_tbl := lw_at lw_m10 195 rfl
theorem in_X19 : ∀ w ∈ wsX190, w ∈ lw_all := lw_in wsX190 [1193, 1195, 1197] (by decide +kernel) (by decide +kernel)

/-! PupilsPupil$Question -/
set_option maxRecDepth 100000
def RX20 : String := "PupilsPupil$Question"
def TX20 : u_T := fun k => match k with
  | 0 => ("PupilsPupil$Question", "what", "I", true)
  | 1 => ("PupilsPupil$Question", "test", "LPupilsPupil$Test;", true)
  | 2 => ("PupilsPupil$Question", "sum", "LPupilsPupil$Value;", true)
  | 3 => ("PupilsPupil$Question", "found", "J", false)
  | _ => ("PupilsPupil$Question", "has", "Z", false)
def tyX20 : Nat → FieldType := fun k => match k with
  | 0 => .int
  | 1 => .object "PupilsPupil$Test"
  | 2 => .object "PupilsPupil$Value"
  | 3 => .long
  | _ => .boolean
abbrev wsX200 : List Cond := u_ws RX20 TX20 5
theorem nmX20 : ∀ a, a < 5 → ∀ b, b < 5 → a ≠ b → (TX20 a).2.1 ≠ (TX20 b).2.1 := by decide +kernel
theorem tyX20_ok : ∀ k, k < 5 → parseFieldDescriptor (TX20 k).2.2.1 = some (tyX20 k) := by decide +kernel
abbrev cX20_init : ByteArray := prog_14_method_1_code
def yX20_init : MethodName := ⟨RX20, "<init>", "(ILPupilsPupil$Test;LPupilsPupil$Value;)V"⟩
def dkwX20_init_1 : List UInt8 := [181, 0, 25, 177]
abbrev dktX20_init_1 : List UInt8 := dkwX20_init_1 ++ []
def dkwX20_init_0 : List UInt8 := [42, 183, 0, 3, 42, 20, 0, 9, 181, 0, 11, 42, 27, 181, 0, 17, 42, 44, 181, 0, 21, 42, 45]
abbrev dktX20_init_0 : List UInt8 := dkwX20_init_0 ++ dktX20_init_1
theorem dksX20_init_0 : cX20_init.data.toList.drop 0 = dktX20_init_0 := by decide +kernel
theorem dksX20_init_1 : cX20_init.data.toList.drop 23 = dktX20_init_1 := dk_seg dksX20_init_0 23 rfl rfl
theorem dX20_init_0 : decode cX20_init 0 = .ok (.aload_n 0, 1) := dk_42 (dk_at dksX20_init_0 0 rfl rfl)
theorem dX20_init_1 : decode cX20_init 1 = .ok (.invokespecial 3, 3) := dk_183 0 3 (dk_at dksX20_init_0 1 rfl rfl)
theorem dX20_init_4 : decode cX20_init 4 = .ok (.aload_n 0, 1) := dk_42 (dk_at dksX20_init_0 4 rfl rfl)
theorem dX20_init_5 : decode cX20_init 5 = .ok (.ldc2_w 9, 3) := dk_20 0 9 (dk_at dksX20_init_0 5 rfl rfl)
theorem dX20_init_8 : decode cX20_init 8 = .ok (.putfield 11, 3) := dk_181 0 11 (dk_at dksX20_init_0 8 rfl rfl)
theorem dX20_init_11 : decode cX20_init 11 = .ok (.aload_n 0, 1) := dk_42 (dk_at dksX20_init_0 11 rfl rfl)
theorem dX20_init_12 : decode cX20_init 12 = .ok (.iload_n 1, 1) := dk_27 (dk_at dksX20_init_0 12 rfl rfl)
theorem dX20_init_13 : decode cX20_init 13 = .ok (.putfield 17, 3) := dk_181 0 17 (dk_at dksX20_init_0 13 rfl rfl)
theorem dX20_init_16 : decode cX20_init 16 = .ok (.aload_n 0, 1) := dk_42 (dk_at dksX20_init_0 16 rfl rfl)
theorem dX20_init_17 : decode cX20_init 17 = .ok (.aload_n 2, 1) := dk_44 (dk_at dksX20_init_0 17 rfl rfl)
theorem dX20_init_18 : decode cX20_init 18 = .ok (.putfield 21, 3) := dk_181 0 21 (dk_at dksX20_init_0 18 rfl rfl)
theorem dX20_init_21 : decode cX20_init 21 = .ok (.aload_n 0, 1) := dk_42 (dk_at dksX20_init_0 21 rfl rfl)
theorem dX20_init_22 : decode cX20_init 22 = .ok (.aload_n 3, 1) := dk_45 (dk_at dksX20_init_0 22 rfl rfl)
theorem dX20_init_23 : decode cX20_init 23 = .ok (.putfield 25, 3) := dk_181 0 25 (dk_at dksX20_init_1 0 rfl rfl)
theorem dX20_init_26 : decode cX20_init 26 = .ok (.return_, 1) := dk_177 (dk_at dksX20_init_1 3 rfl rfl)
abbrev cX20_meets : ByteArray := prog_14_method_2_code
def yX20_meets : MethodName := ⟨RX20, "meets", "(ILPupilsPupil$Moment;)V"⟩
def dkwX20_meets_6 : List UInt8 := [181, 0, 11, 42, 4, 181, 0, 41, 177]
abbrev dktX20_meets_6 : List UInt8 := dkwX20_meets_6 ++ []
def dkwX20_meets_5 : List UInt8 := [7, 160, 0, 14, 42, 180, 0, 11, 33, 184, 0, 35, 167, 0, 11, 42, 180, 0, 11, 33, 184, 0, 51]
abbrev dktX20_meets_5 : List UInt8 := dkwX20_meets_5 ++ dktX20_meets_6
def dkwX20_meets_4 : List UInt8 := [167, 0, 47, 42, 180, 0, 17, 6, 160, 0, 12, 42, 180, 0, 11, 33, 97, 167, 0, 30, 42, 180, 0, 17]
abbrev dktX20_meets_4 : List UInt8 := dkwX20_meets_4 ++ dktX20_meets_5
def dkwX20_meets_3 : List UInt8 := [181, 0, 41, 177, 42, 180, 0, 25, 44, 182, 0, 45, 66, 42, 42, 180, 0, 41, 154, 0, 7, 33]
abbrev dktX20_meets_3 : List UInt8 := dkwX20_meets_3 ++ dktX20_meets_4
def dkwX20_meets_2 : List UInt8 := [154, 0, 17, 42, 180, 0, 41, 153, 0, 10, 42, 180, 0, 11, 167, 0, 5, 27, 133, 181, 0, 11, 42, 4]
abbrev dktX20_meets_2 : List UInt8 := dkwX20_meets_2 ++ dktX20_meets_3
def dkwX20_meets_1 : List UInt8 := [180, 0, 17, 5, 160, 0, 16, 9, 42, 180, 0, 11, 184, 0, 35, 10, 97, 167, 0, 26, 42, 180, 0, 17]
abbrev dktX20_meets_1 : List UInt8 := dkwX20_meets_1 ++ dktX20_meets_2
def dkwX20_meets_0 : List UInt8 := [42, 180, 0, 17, 6, 162, 0, 69, 42, 180, 0, 21, 44, 182, 0, 29, 154, 0, 4, 177, 42, 42]
abbrev dktX20_meets_0 : List UInt8 := dkwX20_meets_0 ++ dktX20_meets_1
theorem dksX20_meets_0 : cX20_meets.data.toList.drop 0 = dktX20_meets_0 := by decide +kernel
theorem dksX20_meets_1 : cX20_meets.data.toList.drop 22 = dktX20_meets_1 := dk_seg dksX20_meets_0 22 rfl rfl
theorem dksX20_meets_2 : cX20_meets.data.toList.drop 46 = dktX20_meets_2 := dk_seg dksX20_meets_1 24 rfl rfl
theorem dksX20_meets_3 : cX20_meets.data.toList.drop 70 = dktX20_meets_3 := dk_seg dksX20_meets_2 24 rfl rfl
theorem dksX20_meets_4 : cX20_meets.data.toList.drop 92 = dktX20_meets_4 := dk_seg dksX20_meets_3 22 rfl rfl
theorem dksX20_meets_5 : cX20_meets.data.toList.drop 116 = dktX20_meets_5 := dk_seg dksX20_meets_4 24 rfl rfl
theorem dksX20_meets_6 : cX20_meets.data.toList.drop 139 = dktX20_meets_6 := dk_seg dksX20_meets_5 23 rfl rfl
theorem dX20_meets_0 : decode cX20_meets 0 = .ok (.aload_n 0, 1) := dk_42 (dk_at dksX20_meets_0 0 rfl rfl)
theorem dX20_meets_1 : decode cX20_meets 1 = .ok (.getfield 17, 3) := dk_180 0 17 (dk_at dksX20_meets_0 1 rfl rfl)
theorem dX20_meets_4 : decode cX20_meets 4 = .ok (.iconst 3, 1) := dk_6 (dk_at dksX20_meets_0 4 rfl rfl)
theorem dX20_meets_5 : decode cX20_meets 5 = .ok (.if_icmp .ge 69, 3) := dk_162 0 69 (dk_at dksX20_meets_0 5 rfl rfl)
theorem dX20_meets_8 : decode cX20_meets 8 = .ok (.aload_n 0, 1) := dk_42 (dk_at dksX20_meets_0 8 rfl rfl)
theorem dX20_meets_9 : decode cX20_meets 9 = .ok (.getfield 21, 3) := dk_180 0 21 (dk_at dksX20_meets_0 9 rfl rfl)
theorem dX20_meets_12 : decode cX20_meets 12 = .ok (.aload_n 2, 1) := dk_44 (dk_at dksX20_meets_0 12 rfl rfl)
theorem dX20_meets_13 : decode cX20_meets 13 = .ok (.invokevirtual 29, 3) := dk_182 0 29 (dk_at dksX20_meets_0 13 rfl rfl)
theorem dX20_meets_16 : decode cX20_meets 16 = .ok (.ifCond .ne 4, 3) := dk_154 0 4 (dk_at dksX20_meets_0 16 rfl rfl)
theorem dX20_meets_19 : decode cX20_meets 19 = .ok (.return_, 1) := dk_177 (dk_at dksX20_meets_0 19 rfl rfl)
theorem dX20_meets_20 : decode cX20_meets 20 = .ok (.aload_n 0, 1) := dk_42 (dk_at dksX20_meets_0 20 rfl rfl)
theorem dX20_meets_21 : decode cX20_meets 21 = .ok (.aload_n 0, 1) := dk_42 (dk_at dksX20_meets_0 21 rfl rfl)
theorem dX20_meets_22 : decode cX20_meets 22 = .ok (.getfield 17, 3) := dk_180 0 17 (dk_at dksX20_meets_1 0 rfl rfl)
theorem dX20_meets_25 : decode cX20_meets 25 = .ok (.iconst 2, 1) := dk_5 (dk_at dksX20_meets_1 3 rfl rfl)
theorem dX20_meets_26 : decode cX20_meets 26 = .ok (.if_icmp .ne 16, 3) := dk_160 0 16 (dk_at dksX20_meets_1 4 rfl rfl)
theorem dX20_meets_29 : decode cX20_meets 29 = .ok (.lconst 0, 1) := dk_9 (dk_at dksX20_meets_1 7 rfl rfl)
theorem dX20_meets_30 : decode cX20_meets 30 = .ok (.aload_n 0, 1) := dk_42 (dk_at dksX20_meets_1 8 rfl rfl)
theorem dX20_meets_31 : decode cX20_meets 31 = .ok (.getfield 11, 3) := dk_180 0 11 (dk_at dksX20_meets_1 9 rfl rfl)
theorem dX20_meets_34 : decode cX20_meets 34 = .ok (.invokestatic 35, 3) := dk_184 0 35 (dk_at dksX20_meets_1 12 rfl rfl)
theorem dX20_meets_37 : decode cX20_meets 37 = .ok (.lconst 1, 1) := dk_10 (dk_at dksX20_meets_1 15 rfl rfl)
theorem dX20_meets_38 : decode cX20_meets 38 = .ok (.ladd, 1) := dk_97 (dk_at dksX20_meets_1 16 rfl rfl)
theorem dX20_meets_39 : decode cX20_meets 39 = .ok (.goto 26, 3) := dk_167 0 26 (dk_at dksX20_meets_1 17 rfl rfl)
theorem dX20_meets_42 : decode cX20_meets 42 = .ok (.aload_n 0, 1) := dk_42 (dk_at dksX20_meets_1 20 rfl rfl)
theorem dX20_meets_43 : decode cX20_meets 43 = .ok (.getfield 17, 3) := dk_180 0 17 (dk_at dksX20_meets_1 21 rfl rfl)
theorem dX20_meets_46 : decode cX20_meets 46 = .ok (.ifCond .ne 17, 3) := dk_154 0 17 (dk_at dksX20_meets_2 0 rfl rfl)
theorem dX20_meets_49 : decode cX20_meets 49 = .ok (.aload_n 0, 1) := dk_42 (dk_at dksX20_meets_2 3 rfl rfl)
theorem dX20_meets_50 : decode cX20_meets 50 = .ok (.getfield 41, 3) := dk_180 0 41 (dk_at dksX20_meets_2 4 rfl rfl)
theorem dX20_meets_53 : decode cX20_meets 53 = .ok (.ifCond .eq 10, 3) := dk_153 0 10 (dk_at dksX20_meets_2 7 rfl rfl)
theorem dX20_meets_56 : decode cX20_meets 56 = .ok (.aload_n 0, 1) := dk_42 (dk_at dksX20_meets_2 10 rfl rfl)
theorem dX20_meets_57 : decode cX20_meets 57 = .ok (.getfield 11, 3) := dk_180 0 11 (dk_at dksX20_meets_2 11 rfl rfl)
theorem dX20_meets_60 : decode cX20_meets 60 = .ok (.goto 5, 3) := dk_167 0 5 (dk_at dksX20_meets_2 14 rfl rfl)
theorem dX20_meets_63 : decode cX20_meets 63 = .ok (.iload_n 1, 1) := dk_27 (dk_at dksX20_meets_2 17 rfl rfl)
theorem dX20_meets_64 : decode cX20_meets 64 = .ok (.i2l, 1) := dk_133 (dk_at dksX20_meets_2 18 rfl rfl)
theorem dX20_meets_65 : decode cX20_meets 65 = .ok (.putfield 11, 3) := dk_181 0 11 (dk_at dksX20_meets_2 19 rfl rfl)
theorem dX20_meets_68 : decode cX20_meets 68 = .ok (.aload_n 0, 1) := dk_42 (dk_at dksX20_meets_2 22 rfl rfl)
theorem dX20_meets_69 : decode cX20_meets 69 = .ok (.iconst 1, 1) := dk_4 (dk_at dksX20_meets_2 23 rfl rfl)
theorem dX20_meets_70 : decode cX20_meets 70 = .ok (.putfield 41, 3) := dk_181 0 41 (dk_at dksX20_meets_3 0 rfl rfl)
theorem dX20_meets_73 : decode cX20_meets 73 = .ok (.return_, 1) := dk_177 (dk_at dksX20_meets_3 3 rfl rfl)
theorem dX20_meets_74 : decode cX20_meets 74 = .ok (.aload_n 0, 1) := dk_42 (dk_at dksX20_meets_3 4 rfl rfl)
theorem dX20_meets_75 : decode cX20_meets 75 = .ok (.getfield 25, 3) := dk_180 0 25 (dk_at dksX20_meets_3 5 rfl rfl)
theorem dX20_meets_78 : decode cX20_meets 78 = .ok (.aload_n 2, 1) := dk_44 (dk_at dksX20_meets_3 8 rfl rfl)
theorem dX20_meets_79 : decode cX20_meets 79 = .ok (.invokevirtual 45, 3) := dk_182 0 45 (dk_at dksX20_meets_3 9 rfl rfl)
theorem dX20_meets_82 : decode cX20_meets 82 = .ok (.lstore_n 3, 1) := dk_66 (dk_at dksX20_meets_3 12 rfl rfl)
theorem dX20_meets_83 : decode cX20_meets 83 = .ok (.aload_n 0, 1) := dk_42 (dk_at dksX20_meets_3 13 rfl rfl)
theorem dX20_meets_84 : decode cX20_meets 84 = .ok (.aload_n 0, 1) := dk_42 (dk_at dksX20_meets_3 14 rfl rfl)
theorem dX20_meets_85 : decode cX20_meets 85 = .ok (.getfield 41, 3) := dk_180 0 41 (dk_at dksX20_meets_3 15 rfl rfl)
theorem dX20_meets_88 : decode cX20_meets 88 = .ok (.ifCond .ne 7, 3) := dk_154 0 7 (dk_at dksX20_meets_3 18 rfl rfl)
theorem dX20_meets_91 : decode cX20_meets 91 = .ok (.lload_n 3, 1) := dk_33 (dk_at dksX20_meets_3 21 rfl rfl)
theorem dX20_meets_92 : decode cX20_meets 92 = .ok (.goto 47, 3) := dk_167 0 47 (dk_at dksX20_meets_4 0 rfl rfl)
theorem dX20_meets_95 : decode cX20_meets 95 = .ok (.aload_n 0, 1) := dk_42 (dk_at dksX20_meets_4 3 rfl rfl)
theorem dX20_meets_96 : decode cX20_meets 96 = .ok (.getfield 17, 3) := dk_180 0 17 (dk_at dksX20_meets_4 4 rfl rfl)
theorem dX20_meets_99 : decode cX20_meets 99 = .ok (.iconst 3, 1) := dk_6 (dk_at dksX20_meets_4 7 rfl rfl)
theorem dX20_meets_100 : decode cX20_meets 100 = .ok (.if_icmp .ne 12, 3) := dk_160 0 12 (dk_at dksX20_meets_4 8 rfl rfl)
theorem dX20_meets_103 : decode cX20_meets 103 = .ok (.aload_n 0, 1) := dk_42 (dk_at dksX20_meets_4 11 rfl rfl)
theorem dX20_meets_104 : decode cX20_meets 104 = .ok (.getfield 11, 3) := dk_180 0 11 (dk_at dksX20_meets_4 12 rfl rfl)
theorem dX20_meets_107 : decode cX20_meets 107 = .ok (.lload_n 3, 1) := dk_33 (dk_at dksX20_meets_4 15 rfl rfl)
theorem dX20_meets_108 : decode cX20_meets 108 = .ok (.ladd, 1) := dk_97 (dk_at dksX20_meets_4 16 rfl rfl)
theorem dX20_meets_109 : decode cX20_meets 109 = .ok (.goto 30, 3) := dk_167 0 30 (dk_at dksX20_meets_4 17 rfl rfl)
theorem dX20_meets_112 : decode cX20_meets 112 = .ok (.aload_n 0, 1) := dk_42 (dk_at dksX20_meets_4 20 rfl rfl)
theorem dX20_meets_113 : decode cX20_meets 113 = .ok (.getfield 17, 3) := dk_180 0 17 (dk_at dksX20_meets_4 21 rfl rfl)
theorem dX20_meets_116 : decode cX20_meets 116 = .ok (.iconst 4, 1) := dk_7 (dk_at dksX20_meets_5 0 rfl rfl)
theorem dX20_meets_117 : decode cX20_meets 117 = .ok (.if_icmp .ne 14, 3) := dk_160 0 14 (dk_at dksX20_meets_5 1 rfl rfl)
theorem dX20_meets_120 : decode cX20_meets 120 = .ok (.aload_n 0, 1) := dk_42 (dk_at dksX20_meets_5 4 rfl rfl)
theorem dX20_meets_121 : decode cX20_meets 121 = .ok (.getfield 11, 3) := dk_180 0 11 (dk_at dksX20_meets_5 5 rfl rfl)
theorem dX20_meets_124 : decode cX20_meets 124 = .ok (.lload_n 3, 1) := dk_33 (dk_at dksX20_meets_5 8 rfl rfl)
theorem dX20_meets_125 : decode cX20_meets 125 = .ok (.invokestatic 35, 3) := dk_184 0 35 (dk_at dksX20_meets_5 9 rfl rfl)
theorem dX20_meets_128 : decode cX20_meets 128 = .ok (.goto 11, 3) := dk_167 0 11 (dk_at dksX20_meets_5 12 rfl rfl)
theorem dX20_meets_131 : decode cX20_meets 131 = .ok (.aload_n 0, 1) := dk_42 (dk_at dksX20_meets_5 15 rfl rfl)
theorem dX20_meets_132 : decode cX20_meets 132 = .ok (.getfield 11, 3) := dk_180 0 11 (dk_at dksX20_meets_5 16 rfl rfl)
theorem dX20_meets_135 : decode cX20_meets 135 = .ok (.lload_n 3, 1) := dk_33 (dk_at dksX20_meets_5 19 rfl rfl)
theorem dX20_meets_136 : decode cX20_meets 136 = .ok (.invokestatic 51, 3) := dk_184 0 51 (dk_at dksX20_meets_5 20 rfl rfl)
theorem dX20_meets_139 : decode cX20_meets 139 = .ok (.putfield 11, 3) := dk_181 0 11 (dk_at dksX20_meets_6 0 rfl rfl)
theorem dX20_meets_142 : decode cX20_meets 142 = .ok (.aload_n 0, 1) := dk_42 (dk_at dksX20_meets_6 3 rfl rfl)
theorem dX20_meets_143 : decode cX20_meets 143 = .ok (.iconst 1, 1) := dk_4 (dk_at dksX20_meets_6 4 rfl rfl)
theorem dX20_meets_144 : decode cX20_meets 144 = .ok (.putfield 41, 3) := dk_181 0 41 (dk_at dksX20_meets_6 5 rfl rfl)
theorem dX20_meets_147 : decode cX20_meets 147 = .ok (.return_, 1) := dk_177 (dk_at dksX20_meets_6 8 rfl rfl)
abbrev cX20_answer : ByteArray := prog_14_method_3_code
def yX20_answer : MethodName := ⟨RX20, "answer", "()J"⟩
def dkwX20_answer_0 : List UInt8 := [42, 180, 0, 41, 154, 0, 11, 42, 180, 0, 17, 5, 162, 0, 10, 42, 180, 0, 11, 167, 0, 4, 9, 173]
abbrev dktX20_answer_0 : List UInt8 := dkwX20_answer_0 ++ []
theorem dksX20_answer_0 : cX20_answer.data.toList.drop 0 = dktX20_answer_0 := by decide +kernel
theorem dX20_answer_0 : decode cX20_answer 0 = .ok (.aload_n 0, 1) := dk_42 (dk_at dksX20_answer_0 0 rfl rfl)
theorem dX20_answer_1 : decode cX20_answer 1 = .ok (.getfield 41, 3) := dk_180 0 41 (dk_at dksX20_answer_0 1 rfl rfl)
theorem dX20_answer_4 : decode cX20_answer 4 = .ok (.ifCond .ne 11, 3) := dk_154 0 11 (dk_at dksX20_answer_0 4 rfl rfl)
theorem dX20_answer_7 : decode cX20_answer 7 = .ok (.aload_n 0, 1) := dk_42 (dk_at dksX20_answer_0 7 rfl rfl)
theorem dX20_answer_8 : decode cX20_answer 8 = .ok (.getfield 17, 3) := dk_180 0 17 (dk_at dksX20_answer_0 8 rfl rfl)
theorem dX20_answer_11 : decode cX20_answer 11 = .ok (.iconst 2, 1) := dk_5 (dk_at dksX20_answer_0 11 rfl rfl)
theorem dX20_answer_12 : decode cX20_answer 12 = .ok (.if_icmp .ge 10, 3) := dk_162 0 10 (dk_at dksX20_answer_0 12 rfl rfl)
theorem dX20_answer_15 : decode cX20_answer 15 = .ok (.aload_n 0, 1) := dk_42 (dk_at dksX20_answer_0 15 rfl rfl)
theorem dX20_answer_16 : decode cX20_answer 16 = .ok (.getfield 11, 3) := dk_180 0 11 (dk_at dksX20_answer_0 16 rfl rfl)
theorem dX20_answer_19 : decode cX20_answer 19 = .ok (.goto 4, 3) := dk_167 0 4 (dk_at dksX20_answer_0 19 rfl rfl)
theorem dX20_answer_22 : decode cX20_answer 22 = .ok (.lconst 0, 1) := dk_9 (dk_at dksX20_answer_0 22 rfl rfl)
theorem dX20_answer_23 : decode cX20_answer 23 = .ok (.lreturn, 1) := dk_173 (dk_at dksX20_answer_0 23 rfl rfl)
theorem q183 : (Jvm.Cond.initialized "PupilsPupil$Question") ∈ lw_all := lw_g (lw_at lw_m1 39 rfl) rfl
theorem q860 : (Jvm.Cond.selects "PupilsPupil$Question" ({ cls := "java/lang/Object", name := "getClass", desc := "()Ljava/lang/Class;" } : Jvm.MethodName) ({ cls := "java/lang/Object", name := "getClass", desc := "()Ljava/lang/Class;" } : Jvm.MethodName)) ∈ lw_all := lw_g (lw_at lw_m3 236 rfl) rfl
theorem q1557 : (Jvm.Cond.instantiable "PupilsPupil$Question" (5 : Nat)) ∈ lw_all := lw_g (lw_at lw_m6 213 rfl) rfl
theorem q1559 : (Jvm.Cond.instanceMethod ({ cls := "PupilsPupil$Question", name := "<init>", desc := "(ILPupilsPupil$Test;LPupilsPupil$Value;)V" } : Jvm.MethodName)) ∈ lw_all := lw_g (lw_at lw_m6 215 rfl) rfl
theorem q1560 : (Jvm.Cond.code ({ cls := "PupilsPupil$Question", name := "<init>", desc := "(ILPupilsPupil$Test;LPupilsPupil$Value;)V" } : Jvm.MethodName) prog_14_method_1_code (4 : Nat) (Option.none : Option Jvm.ClassFile.FieldType)) ∈ lw_all := lw_g (lw_at lw_m6 216 rfl) rfl
theorem q1561 : (Jvm.Cond.methodLink "PupilsPupil$Question" (3 : Nat) ({ cls := "java/lang/Object", name := "<init>", desc := "()V" } : Jvm.MethodName)) ∈ lw_all := lw_g (lw_at lw_m6 217 rfl) rfl
theorem q1562 : (Jvm.Cond.constantLong "PupilsPupil$Question" (9 : Nat) (-1 : Int64)) ∈ lw_all := lw_g (lw_at lw_m6 218 rfl) rfl
theorem q1563 : (Jvm.Cond.fieldLink "PupilsPupil$Question" (17 : Nat) "PupilsPupil$Question" "what" "I") ∈ lw_all := lw_g (lw_at lw_m6 219 rfl) rfl
theorem q1564 : (Jvm.Cond.fieldLink "PupilsPupil$Question" (21 : Nat) "PupilsPupil$Question" "test" "LPupilsPupil$Test;") ∈ lw_all := lw_g (lw_at lw_m6 220 rfl) rfl
theorem q1565 : (Jvm.Cond.fieldLink "PupilsPupil$Question" (25 : Nat) "PupilsPupil$Question" "sum" "LPupilsPupil$Value;") ∈ lw_all := lw_g (lw_at lw_m6 221 rfl) rfl
theorem q1566 : (Jvm.Cond.fieldLink "PupilsPupil$Question" (11 : Nat) "PupilsPupil$Question" "found" "J") ∈ lw_all := lw_g (lw_at lw_m6 222 rfl) rfl
theorem q1567 : (Jvm.Cond.fieldLink "PupilsPupil$Question" (41 : Nat) "PupilsPupil$Question" "has" "Z") ∈ lw_all := lw_g (lw_at lw_m6 223 rfl) rfl
theorem q1568 : (Jvm.Cond.laysFinal "PupilsPupil$Question" "PupilsPupil$Question" "what" "I") ∈ lw_all := lw_g (lw_at lw_m6 224 rfl) rfl
theorem q1569 : (Jvm.Cond.soleField "PupilsPupil$Question" "what") ∈ lw_all := lw_g (lw_at lw_m6 225 rfl) rfl
theorem q1570 : (Jvm.Cond.laysFinal "PupilsPupil$Question" "PupilsPupil$Question" "test" "LPupilsPupil$Test;") ∈ lw_all := lw_g (lw_at lw_m6 226 rfl) rfl
theorem q1571 : (Jvm.Cond.soleField "PupilsPupil$Question" "test") ∈ lw_all := lw_g (lw_at lw_m6 227 rfl) rfl
theorem q1572 : (Jvm.Cond.laysFinal "PupilsPupil$Question" "PupilsPupil$Question" "sum" "LPupilsPupil$Value;") ∈ lw_all := lw_g (lw_at lw_m6 228 rfl) rfl
theorem q1573 : (Jvm.Cond.soleField "PupilsPupil$Question" "sum") ∈ lw_all := lw_g (lw_at lw_m6 229 rfl) rfl
theorem q1574 : (Jvm.Cond.lays "PupilsPupil$Question" "PupilsPupil$Question" "found" "J") ∈ lw_all := lw_g (lw_at lw_m6 230 rfl) rfl
theorem q1575 : (Jvm.Cond.soleField "PupilsPupil$Question" "found") ∈ lw_all := lw_g (lw_at lw_m6 231 rfl) rfl
theorem q1576 : (Jvm.Cond.lays "PupilsPupil$Question" "PupilsPupil$Question" "has" "Z") ∈ lw_all := lw_g (lw_at lw_m6 232 rfl) rfl
theorem q1577 : (Jvm.Cond.soleField "PupilsPupil$Question" "has") ∈ lw_all := lw_g (lw_at lw_m6 233 rfl) rfl
theorem q1578 : (Jvm.Cond.superclass "PupilsPupil$Question" "java/lang/Object") ∈ lw_all := lw_g (lw_at lw_m6 234 rfl) rfl
theorem q1580 : (Jvm.Cond.instanceMethod ({ cls := "PupilsPupil$Question", name := "meets", desc := "(ILPupilsPupil$Moment;)V" } : Jvm.MethodName)) ∈ lw_all := lw_g (lw_at lw_m6 236 rfl) rfl
theorem q1581 : (Jvm.Cond.selects "PupilsPupil$Question" ({ cls := "PupilsPupil$Question", name := "meets", desc := "(ILPupilsPupil$Moment;)V" } : Jvm.MethodName) ({ cls := "PupilsPupil$Question", name := "meets", desc := "(ILPupilsPupil$Moment;)V" } : Jvm.MethodName)) ∈ lw_all := lw_g (lw_at lw_m6 237 rfl) rfl
theorem q1582 : (Jvm.Cond.code ({ cls := "PupilsPupil$Question", name := "meets", desc := "(ILPupilsPupil$Moment;)V" } : Jvm.MethodName) prog_14_method_2_code (5 : Nat) (Option.none : Option Jvm.ClassFile.FieldType)) ∈ lw_all := lw_g (lw_at lw_m6 238 rfl) rfl
theorem q1583 : (Jvm.Cond.methodLink "PupilsPupil$Question" (29 : Nat) ({ cls := "PupilsPupil$Test", name := "holds", desc := "(LPupilsPupil$Moment;)Z" } : Jvm.MethodName)) ∈ lw_all := lw_g (lw_at lw_m6 239 rfl) rfl
theorem q1584 : (Jvm.Cond.methodLink "PupilsPupil$Question" (35 : Nat) ({ cls := "java/lang/Math", name := "max", desc := "(JJ)J" } : Jvm.MethodName)) ∈ lw_all := lw_g (lw_at lw_m7 0 rfl) rfl
theorem q1585 : (Jvm.Cond.methodLink "PupilsPupil$Question" (45 : Nat) ({ cls := "PupilsPupil$Value", name := "at", desc := "(LPupilsPupil$Moment;)J" } : Jvm.MethodName)) ∈ lw_all := lw_g (lw_at lw_m7 1 rfl) rfl
theorem q1586 : (Jvm.Cond.methodLink "PupilsPupil$Question" (51 : Nat) ({ cls := "java/lang/Math", name := "min", desc := "(JJ)J" } : Jvm.MethodName)) ∈ lw_all := lw_g (lw_at lw_m7 2 rfl) rfl
theorem q1588 : (Jvm.Cond.instanceMethod ({ cls := "PupilsPupil$Question", name := "answer", desc := "()J" } : Jvm.MethodName)) ∈ lw_all := lw_g (lw_at lw_m7 4 rfl) rfl
theorem q1589 : (Jvm.Cond.selects "PupilsPupil$Question" ({ cls := "PupilsPupil$Question", name := "answer", desc := "()J" } : Jvm.MethodName) ({ cls := "PupilsPupil$Question", name := "answer", desc := "()J" } : Jvm.MethodName)) ∈ lw_all := lw_g (lw_at lw_m7 5 rfl) rfl
theorem q1590 : (Jvm.Cond.code ({ cls := "PupilsPupil$Question", name := "answer", desc := "()J" } : Jvm.MethodName) prog_14_method_3_code (1 : Nat) (Option.some Jvm.ClassFile.FieldType.long)) ∈ lw_all := lw_g (lw_at lw_m7 6 rfl) rfl
theorem q2500 : (Jvm.Cond.castable "PupilsPupil$Question" "java/lang/Object") ∈ lw_tbl := lw_at lw_m10 196 rfl
theorem in_X20 : ∀ w ∈ wsX200, w ∈ lw_all := lw_in wsX200 [1568, 1570, 1572, 1574, 1576] (by decide +kernel) (by decide +kernel)

/-! PupilsPupil$Fault -/
set_option maxRecDepth 100000
def RX3 : String := "PupilsPupil$Fault"
def TX3 : u_T := fun k => match k with
  | 0 => ("java/lang/Throwable", "cause", "Ljava/lang/Throwable;", false)
  | 1 => ("java/lang/Throwable", "stackTrace", "[Ljava/lang/StackTraceElement;", false)
  | 2 => ("java/lang/Throwable", "suppressedExceptions", "Ljava/util/List;", false)
  | 3 => ("java/lang/Throwable", "detailMessage", "Ljava/lang/String;", false)
  | 4 => ("java/lang/Throwable", "backtrace", "Ljava/lang/Object;", false)
  | 5 => ("java/lang/Throwable", "depth", "I", false)
  | 6 => ("PupilsPupil$Fault", "kind", "I", false)
  | _ => ("PupilsPupil$Fault", "place", "I", false)
def tyX3 : Nat → FieldType := fun k => match k with
  | 0 => .object "java/lang/Throwable"
  | 1 => .array (.object "java/lang/StackTraceElement")
  | 2 => .object "java/util/List"
  | 3 => .object "java/lang/String"
  | 4 => .object "java/lang/Object"
  | 5 => .int
  | 6 => .int
  | _ => .int
abbrev wsX30 : List Cond := u_ws RX3 TX3 8
theorem nmX3 : ∀ a, a < 8 → ∀ b, b < 8 → a ≠ b → (TX3 a).2.1 ≠ (TX3 b).2.1 := by decide +kernel
theorem tyX3_ok : ∀ k, k < 8 → parseFieldDescriptor (TX3 k).2.2.1 = some (tyX3 k) := by decide +kernel
abbrev cX3_init : ByteArray := prog_6_method_1_code
def yX3_init : MethodName := ⟨RX3, "<init>", "()V"⟩
def dkwX3_init_0 : List UInt8 := [42, 1, 1, 3, 3, 183, 0, 1, 177]
abbrev dktX3_init_0 : List UInt8 := dkwX3_init_0 ++ []
theorem dksX3_init_0 : cX3_init.data.toList.drop 0 = dktX3_init_0 := by decide +kernel
theorem dX3_init_0 : decode cX3_init 0 = .ok (.aload_n 0, 1) := dk_42 (dk_at dksX3_init_0 0 rfl rfl)
theorem dX3_init_1 : decode cX3_init 1 = .ok (.aconst_null, 1) := dk_1 (dk_at dksX3_init_0 1 rfl rfl)
theorem dX3_init_2 : decode cX3_init 2 = .ok (.aconst_null, 1) := dk_1 (dk_at dksX3_init_0 2 rfl rfl)
theorem dX3_init_3 : decode cX3_init 3 = .ok (.iconst 0, 1) := dk_3 (dk_at dksX3_init_0 3 rfl rfl)
theorem dX3_init_4 : decode cX3_init 4 = .ok (.iconst 0, 1) := dk_3 (dk_at dksX3_init_0 4 rfl rfl)
theorem dX3_init_5 : decode cX3_init 5 = .ok (.invokespecial 1, 3) := dk_183 0 1 (dk_at dksX3_init_0 5 rfl rfl)
theorem dX3_init_8 : decode cX3_init 8 = .ok (.return_, 1) := dk_177 (dk_at dksX3_init_0 8 rfl rfl)
theorem q154 : (Jvm.Cond.initialized "PupilsPupil$Fault") ∈ lw_all := lw_g (lw_at lw_m1 10 rfl) rfl
theorem q277 : (Jvm.Cond.instantiable "PupilsPupil$Fault" (8 : Nat)) ∈ lw_all := lw_g (lw_at lw_m1 133 rfl) rfl
theorem q278 : (Jvm.Cond.castable "PupilsPupil$Fault" "PupilsPupil$Fault") ∈ lw_tbl := lw_at lw_m1 134 rfl
theorem q285 : (Jvm.Cond.selects "PupilsPupil$Fault" ({ cls := "java/lang/Throwable", name := "fillInStackTrace", desc := "(I)Ljava/lang/Throwable;" } : Jvm.MethodName) ({ cls := "java/lang/Throwable", name := "fillInStackTrace", desc := "(I)Ljava/lang/Throwable;" } : Jvm.MethodName)) ∈ lw_all := lw_g (lw_at lw_m1 141 rfl) rfl
theorem q286 : (Jvm.Cond.selects "PupilsPupil$Fault" ({ cls := "java/lang/Throwable", name := "fillInStackTrace", desc := "()Ljava/lang/Throwable;" } : Jvm.MethodName) ({ cls := "java/lang/Throwable", name := "fillInStackTrace", desc := "()Ljava/lang/Throwable;" } : Jvm.MethodName)) ∈ lw_all := lw_g (lw_at lw_m1 142 rfl) rfl
theorem q287 : (Jvm.Cond.lays "PupilsPupil$Fault" "java/lang/Throwable" "cause" "Ljava/lang/Throwable;") ∈ lw_all := lw_g (lw_at lw_m1 143 rfl) rfl
theorem q289 : (Jvm.Cond.lays "PupilsPupil$Fault" "java/lang/Throwable" "stackTrace" "[Ljava/lang/StackTraceElement;") ∈ lw_all := lw_g (lw_at lw_m1 145 rfl) rfl
theorem q291 : (Jvm.Cond.lays "PupilsPupil$Fault" "java/lang/Throwable" "suppressedExceptions" "Ljava/util/List;") ∈ lw_all := lw_g (lw_at lw_m1 147 rfl) rfl
theorem q293 : (Jvm.Cond.lays "PupilsPupil$Fault" "java/lang/Throwable" "detailMessage" "Ljava/lang/String;") ∈ lw_all := lw_g (lw_at lw_m1 149 rfl) rfl
theorem q295 : (Jvm.Cond.lays "PupilsPupil$Fault" "java/lang/Throwable" "backtrace" "Ljava/lang/Object;") ∈ lw_all := lw_g (lw_at lw_m1 151 rfl) rfl
theorem q316 : (Jvm.Cond.instanceMethod ({ cls := "PupilsPupil$Fault", name := "<init>", desc := "()V" } : Jvm.MethodName)) ∈ lw_all := lw_g (lw_at lw_m1 172 rfl) rfl
theorem q317 : (Jvm.Cond.code ({ cls := "PupilsPupil$Fault", name := "<init>", desc := "()V" } : Jvm.MethodName) prog_6_method_1_code (1 : Nat) (Option.none : Option Jvm.ClassFile.FieldType)) ∈ lw_all := lw_g (lw_at lw_m1 173 rfl) rfl
theorem q318 : (Jvm.Cond.methodLink "PupilsPupil$Fault" (1 : Nat) ({ cls := "java/lang/RuntimeException", name := "<init>", desc := "(Ljava/lang/String;Ljava/lang/Throwable;ZZ)V" } : Jvm.MethodName)) ∈ lw_all := lw_g (lw_at lw_m1 174 rfl) rfl
theorem q336 : (Jvm.Cond.lays "PupilsPupil$Fault" "PupilsPupil$Fault" "kind" "I") ∈ lw_all := lw_g (lw_at lw_m1 192 rfl) rfl
theorem q337 : (Jvm.Cond.soleField "PupilsPupil$Fault" "kind") ∈ lw_all := lw_g (lw_at lw_m1 193 rfl) rfl
theorem q338 : (Jvm.Cond.lays "PupilsPupil$Fault" "PupilsPupil$Fault" "place" "I") ∈ lw_all := lw_g (lw_at lw_m1 194 rfl) rfl
theorem q339 : (Jvm.Cond.soleField "PupilsPupil$Fault" "place") ∈ lw_all := lw_g (lw_at lw_m1 195 rfl) rfl
theorem q344 : (Jvm.Cond.lays "PupilsPupil$Fault" "java/lang/Throwable" "depth" "I") ∈ lw_all := lw_g (lw_at lw_m1 200 rfl) rfl
theorem q347 : (Jvm.Cond.superclass "PupilsPupil$Fault" "java/lang/RuntimeException") ∈ lw_all := lw_g (lw_at lw_m1 203 rfl) rfl
theorem q852 : (Jvm.Cond.selects "PupilsPupil$Fault" ({ cls := "java/lang/Object", name := "getClass", desc := "()Ljava/lang/Class;" } : Jvm.MethodName) ({ cls := "java/lang/Object", name := "getClass", desc := "()Ljava/lang/Class;" } : Jvm.MethodName)) ∈ lw_all := lw_g (lw_at lw_m3 228 rfl) rfl
theorem q2484 : (Jvm.Cond.castable "PupilsPupil$Fault" "java/lang/Object") ∈ lw_tbl := lw_at lw_m10 180 rfl
theorem in_X3 : ∀ w ∈ wsX30, w ∈ lw_all := lw_in wsX30 [287, 289, 291, 293, 295, 344, 336, 338] (by decide +kernel) (by decide +kernel)

/-! PupilsPupil$Moment -/
set_option maxRecDepth 100000
def RX4 : String := "PupilsPupil$Moment"
def TX4 : u_T := fun k => match k with
  | _ => ("PupilsPupil$Moment", "of", "[J", true)
def tyX4 : Nat → FieldType := fun k => match k with
  | _ => .array .long
abbrev wsX40 : List Cond := u_ws RX4 TX4 1
theorem nmX4 : ∀ a, a < 1 → ∀ b, b < 1 → a ≠ b → (TX4 a).2.1 ≠ (TX4 b).2.1 := by decide +kernel
theorem tyX4_ok : ∀ k, k < 1 → parseFieldDescriptor (TX4 k).2.2.1 = some (tyX4 k) := by decide +kernel
abbrev cX4_init : ByteArray := prog_9_method_1_code
def yX4_init : MethodName := ⟨RX4, "<init>", "()V"⟩
def dkwX4_init_0 : List UInt8 := [42, 183, 0, 1, 42, 16, 12, 188, 11, 181, 0, 7, 177]
abbrev dktX4_init_0 : List UInt8 := dkwX4_init_0 ++ []
theorem dksX4_init_0 : cX4_init.data.toList.drop 0 = dktX4_init_0 := by decide +kernel
theorem dX4_init_0 : decode cX4_init 0 = .ok (.aload_n 0, 1) := dk_42 (dk_at dksX4_init_0 0 rfl rfl)
theorem dX4_init_1 : decode cX4_init 1 = .ok (.invokespecial 1, 3) := dk_183 0 1 (dk_at dksX4_init_0 1 rfl rfl)
theorem dX4_init_4 : decode cX4_init 4 = .ok (.aload_n 0, 1) := dk_42 (dk_at dksX4_init_0 4 rfl rfl)
theorem dX4_init_5 : decode cX4_init 5 = .ok (.bipush 12, 2) := dk_16 12 (dk_at dksX4_init_0 5 rfl rfl)
theorem dX4_init_7 : decode cX4_init 7 = .ok (.newarray .long, 2) := dk_188_11 (dk_at dksX4_init_0 7 rfl rfl)
theorem dX4_init_9 : decode cX4_init 9 = .ok (.putfield 7, 3) := dk_181 0 7 (dk_at dksX4_init_0 9 rfl rfl)
theorem dX4_init_12 : decode cX4_init 12 = .ok (.return_, 1) := dk_177 (dk_at dksX4_init_0 12 rfl rfl)
theorem q155 : (Jvm.Cond.initialized "PupilsPupil$Moment") ∈ lw_all := lw_g (lw_at lw_m1 11 rfl) rfl
theorem q375 : (Jvm.Cond.instantiable "PupilsPupil$Moment" (1 : Nat)) ∈ lw_all := lw_g (lw_at lw_m1 231 rfl) rfl
theorem q377 : (Jvm.Cond.instanceMethod ({ cls := "PupilsPupil$Moment", name := "<init>", desc := "()V" } : Jvm.MethodName)) ∈ lw_all := lw_g (lw_at lw_m1 233 rfl) rfl
theorem q378 : (Jvm.Cond.code ({ cls := "PupilsPupil$Moment", name := "<init>", desc := "()V" } : Jvm.MethodName) prog_9_method_1_code (1 : Nat) (Option.none : Option Jvm.ClassFile.FieldType)) ∈ lw_all := lw_g (lw_at lw_m1 234 rfl) rfl
theorem q379 : (Jvm.Cond.methodLink "PupilsPupil$Moment" (1 : Nat) ({ cls := "java/lang/Object", name := "<init>", desc := "()V" } : Jvm.MethodName)) ∈ lw_all := lw_g (lw_at lw_m1 235 rfl) rfl
theorem q380 : (Jvm.Cond.fieldLink "PupilsPupil$Moment" (7 : Nat) "PupilsPupil$Moment" "of" "[J") ∈ lw_all := lw_g (lw_at lw_m1 236 rfl) rfl
theorem q384 : (Jvm.Cond.laysFinal "PupilsPupil$Moment" "PupilsPupil$Moment" "of" "[J") ∈ lw_all := lw_g (lw_at lw_m2 0 rfl) rfl
theorem q385 : (Jvm.Cond.soleField "PupilsPupil$Moment" "of") ∈ lw_all := lw_g (lw_at lw_m2 1 rfl) rfl
theorem q386 : (Jvm.Cond.superclass "PupilsPupil$Moment" "java/lang/Object") ∈ lw_all := lw_g (lw_at lw_m2 2 rfl) rfl
theorem q855 : (Jvm.Cond.selects "PupilsPupil$Moment" ({ cls := "java/lang/Object", name := "getClass", desc := "()Ljava/lang/Class;" } : Jvm.MethodName) ({ cls := "java/lang/Object", name := "getClass", desc := "()Ljava/lang/Class;" } : Jvm.MethodName)) ∈ lw_all := lw_g (lw_at lw_m3 231 rfl) rfl
theorem q2485 : (Jvm.Cond.castable "PupilsPupil$Moment" "java/lang/Object") ∈ lw_tbl := lw_at lw_m10 181 rfl
theorem in_X4 : ∀ w ∈ wsX40, w ∈ lw_all := lw_in wsX40 [384] (by decide +kernel) (by decide +kernel)

/-! PupilsPupil$Named -/
set_option maxRecDepth 100000
def RX7 : String := "PupilsPupil$Named"
def TX7 : u_T := fun k => match k with
  | 0 => ("PupilsPupil$Named", "name", "Ljava/lang/String;", true)
  | _ => ("PupilsPupil$Named", "told", "I", true)
def tyX7 : Nat → FieldType := fun k => match k with
  | 0 => .object "java/lang/String"
  | _ => .int
abbrev wsX70 : List Cond := u_ws RX7 TX7 2
theorem nmX7 : ∀ a, a < 2 → ∀ b, b < 2 → a ≠ b → (TX7 a).2.1 ≠ (TX7 b).2.1 := by decide +kernel
theorem tyX7_ok : ∀ k, k < 2 → parseFieldDescriptor (TX7 k).2.2.1 = some (tyX7 k) := by decide +kernel
abbrev cX7_find : ByteArray := prog_10_method_2_code
def yX7_find : MethodName := ⟨RX7, "find", "(Ljava/util/List;Ljava/lang/String;)I"⟩
def dkwX7_find_1 : List UInt8 := [180, 0, 9, 43, 182, 0, 29, 153, 0, 5, 28, 172, 132, 2, 1, 167, 255, 221, 2, 172]
abbrev dktX7_find_1 : List UInt8 := dkwX7_find_1 ++ []
def dkwX7_find_0 : List UInt8 := [3, 61, 28, 42, 185, 0, 19, 1, 0, 162, 0, 31, 42, 28, 185, 0, 25, 2, 0, 192, 0, 10]
abbrev dktX7_find_0 : List UInt8 := dkwX7_find_0 ++ dktX7_find_1
theorem dksX7_find_0 : cX7_find.data.toList.drop 0 = dktX7_find_0 := by decide +kernel
theorem dksX7_find_1 : cX7_find.data.toList.drop 22 = dktX7_find_1 := dk_seg dksX7_find_0 22 rfl rfl
theorem dX7_find_0 : decode cX7_find 0 = .ok (.iconst 0, 1) := dk_3 (dk_at dksX7_find_0 0 rfl rfl)
theorem dX7_find_1 : decode cX7_find 1 = .ok (.istore_n 2, 1) := dk_61 (dk_at dksX7_find_0 1 rfl rfl)
theorem dX7_find_2 : decode cX7_find 2 = .ok (.iload_n 2, 1) := dk_28 (dk_at dksX7_find_0 2 rfl rfl)
theorem dX7_find_3 : decode cX7_find 3 = .ok (.aload_n 0, 1) := dk_42 (dk_at dksX7_find_0 3 rfl rfl)
theorem dX7_find_4 : decode cX7_find 4 = .ok (.invokeinterface 19 1, 5) := by decide +kernel
theorem dX7_find_9 : decode cX7_find 9 = .ok (.if_icmp .ge 31, 3) := dk_162 0 31 (dk_at dksX7_find_0 9 rfl rfl)
theorem dX7_find_12 : decode cX7_find 12 = .ok (.aload_n 0, 1) := dk_42 (dk_at dksX7_find_0 12 rfl rfl)
theorem dX7_find_13 : decode cX7_find 13 = .ok (.iload_n 2, 1) := dk_28 (dk_at dksX7_find_0 13 rfl rfl)
theorem dX7_find_14 : decode cX7_find 14 = .ok (.invokeinterface 25 2, 5) := by decide +kernel
theorem dX7_find_19 : decode cX7_find 19 = .ok (.checkcast 10, 3) := dk_192 0 10 (dk_at dksX7_find_0 19 rfl rfl)
theorem dX7_find_22 : decode cX7_find 22 = .ok (.getfield 9, 3) := dk_180 0 9 (dk_at dksX7_find_1 0 rfl rfl)
theorem dX7_find_25 : decode cX7_find 25 = .ok (.aload_n 1, 1) := dk_43 (dk_at dksX7_find_1 3 rfl rfl)
theorem dX7_find_26 : decode cX7_find 26 = .ok (.invokevirtual 29, 3) := dk_182 0 29 (dk_at dksX7_find_1 4 rfl rfl)
theorem dX7_find_29 : decode cX7_find 29 = .ok (.ifCond .eq 5, 3) := dk_153 0 5 (dk_at dksX7_find_1 7 rfl rfl)
theorem dX7_find_32 : decode cX7_find 32 = .ok (.iload_n 2, 1) := dk_28 (dk_at dksX7_find_1 10 rfl rfl)
theorem dX7_find_33 : decode cX7_find 33 = .ok (.ireturn, 1) := dk_172 (dk_at dksX7_find_1 11 rfl rfl)
theorem dX7_find_34 : decode cX7_find 34 = .ok (.iinc 2 1, 3) := dk_132 2 1 (dk_at dksX7_find_1 12 rfl rfl)
theorem dX7_find_37 : decode cX7_find 37 = .ok (.goto (-35), 3) := dk_167 255 221 (dk_at dksX7_find_1 15 rfl rfl)
theorem dX7_find_40 : decode cX7_find 40 = .ok (.iconst (-1), 1) := dk_2 (dk_at dksX7_find_1 18 rfl rfl)
theorem dX7_find_41 : decode cX7_find 41 = .ok (.ireturn, 1) := dk_172 (dk_at dksX7_find_1 19 rfl rfl)
abbrev cX7_init : ByteArray := prog_10_method_1_code
def yX7_init : MethodName := ⟨RX7, "<init>", "(Ljava/lang/String;I)V"⟩
def dkwX7_init_0 : List UInt8 := [42, 183, 0, 3, 42, 43, 181, 0, 9, 42, 28, 181, 0, 15, 177]
abbrev dktX7_init_0 : List UInt8 := dkwX7_init_0 ++ []
theorem dksX7_init_0 : cX7_init.data.toList.drop 0 = dktX7_init_0 := by decide +kernel
theorem dX7_init_0 : decode cX7_init 0 = .ok (.aload_n 0, 1) := dk_42 (dk_at dksX7_init_0 0 rfl rfl)
theorem dX7_init_1 : decode cX7_init 1 = .ok (.invokespecial 3, 3) := dk_183 0 3 (dk_at dksX7_init_0 1 rfl rfl)
theorem dX7_init_4 : decode cX7_init 4 = .ok (.aload_n 0, 1) := dk_42 (dk_at dksX7_init_0 4 rfl rfl)
theorem dX7_init_5 : decode cX7_init 5 = .ok (.aload_n 1, 1) := dk_43 (dk_at dksX7_init_0 5 rfl rfl)
theorem dX7_init_6 : decode cX7_init 6 = .ok (.putfield 9, 3) := dk_181 0 9 (dk_at dksX7_init_0 6 rfl rfl)
theorem dX7_init_9 : decode cX7_init 9 = .ok (.aload_n 0, 1) := dk_42 (dk_at dksX7_init_0 9 rfl rfl)
theorem dX7_init_10 : decode cX7_init 10 = .ok (.iload_n 2, 1) := dk_28 (dk_at dksX7_init_0 10 rfl rfl)
theorem dX7_init_11 : decode cX7_init 11 = .ok (.putfield 15, 3) := dk_181 0 15 (dk_at dksX7_init_0 11 rfl rfl)
theorem dX7_init_14 : decode cX7_init 14 = .ok (.return_, 1) := dk_177 (dk_at dksX7_init_0 14 rfl rfl)
abbrev cX7_letter : ByteArray := prog_10_method_3_code
def yX7_letter : MethodName := ⟨RX7, "letter", "(I)I"⟩
def dkwX7_letter_1 : List UInt8 := [167, 0, 4, 3, 172]
abbrev dktX7_letter_1 : List UInt8 := dkwX7_letter_1 ++ []
def dkwX7_letter_0 : List UInt8 := [27, 42, 180, 0, 9, 182, 0, 35, 162, 0, 19, 42, 180, 0, 9, 27, 182, 0, 38, 16, 97, 100, 4, 96]
abbrev dktX7_letter_0 : List UInt8 := dkwX7_letter_0 ++ dktX7_letter_1
theorem dksX7_letter_0 : cX7_letter.data.toList.drop 0 = dktX7_letter_0 := by decide +kernel
theorem dksX7_letter_1 : cX7_letter.data.toList.drop 24 = dktX7_letter_1 := dk_seg dksX7_letter_0 24 rfl rfl
theorem dX7_letter_0 : decode cX7_letter 0 = .ok (.iload_n 1, 1) := dk_27 (dk_at dksX7_letter_0 0 rfl rfl)
theorem dX7_letter_1 : decode cX7_letter 1 = .ok (.aload_n 0, 1) := dk_42 (dk_at dksX7_letter_0 1 rfl rfl)
theorem dX7_letter_2 : decode cX7_letter 2 = .ok (.getfield 9, 3) := dk_180 0 9 (dk_at dksX7_letter_0 2 rfl rfl)
theorem dX7_letter_5 : decode cX7_letter 5 = .ok (.invokevirtual 35, 3) := dk_182 0 35 (dk_at dksX7_letter_0 5 rfl rfl)
theorem dX7_letter_8 : decode cX7_letter 8 = .ok (.if_icmp .ge 19, 3) := dk_162 0 19 (dk_at dksX7_letter_0 8 rfl rfl)
theorem dX7_letter_11 : decode cX7_letter 11 = .ok (.aload_n 0, 1) := dk_42 (dk_at dksX7_letter_0 11 rfl rfl)
theorem dX7_letter_12 : decode cX7_letter 12 = .ok (.getfield 9, 3) := dk_180 0 9 (dk_at dksX7_letter_0 12 rfl rfl)
theorem dX7_letter_15 : decode cX7_letter 15 = .ok (.iload_n 1, 1) := dk_27 (dk_at dksX7_letter_0 15 rfl rfl)
theorem dX7_letter_16 : decode cX7_letter 16 = .ok (.invokevirtual 38, 3) := dk_182 0 38 (dk_at dksX7_letter_0 16 rfl rfl)
theorem dX7_letter_19 : decode cX7_letter 19 = .ok (.bipush 97, 2) := dk_16 97 (dk_at dksX7_letter_0 19 rfl rfl)
theorem dX7_letter_21 : decode cX7_letter 21 = .ok (.isub, 1) := dk_100 (dk_at dksX7_letter_0 21 rfl rfl)
theorem dX7_letter_22 : decode cX7_letter 22 = .ok (.iconst 1, 1) := dk_4 (dk_at dksX7_letter_0 22 rfl rfl)
theorem dX7_letter_23 : decode cX7_letter 23 = .ok (.iadd, 1) := dk_96 (dk_at dksX7_letter_0 23 rfl rfl)
theorem dX7_letter_24 : decode cX7_letter 24 = .ok (.goto 4, 3) := dk_167 0 4 (dk_at dksX7_letter_1 0 rfl rfl)
theorem dX7_letter_27 : decode cX7_letter 27 = .ok (.iconst 0, 1) := dk_3 (dk_at dksX7_letter_1 3 rfl rfl)
theorem dX7_letter_28 : decode cX7_letter 28 = .ok (.ireturn, 1) := dk_172 (dk_at dksX7_letter_1 4 rfl rfl)
theorem q163 : (Jvm.Cond.initialized "PupilsPupil$Named") ∈ lw_all := lw_g (lw_at lw_m1 19 rfl) rfl
theorem q753 : (Jvm.Cond.static ({ cls := "PupilsPupil$Named", name := "find", desc := "(Ljava/util/List;Ljava/lang/String;)I" } : Jvm.MethodName)) ∈ lw_all := lw_g (lw_at lw_m3 129 rfl) rfl
theorem q754 : (Jvm.Cond.code ({ cls := "PupilsPupil$Named", name := "find", desc := "(Ljava/util/List;Ljava/lang/String;)I" } : Jvm.MethodName) prog_10_method_2_code (3 : Nat) (Option.some Jvm.ClassFile.FieldType.int)) ∈ lw_all := lw_g (lw_at lw_m3 130 rfl) rfl
theorem q755 : (Jvm.Cond.interfaceEntry "PupilsPupil$Named" (19 : Nat)) ∈ lw_tbl := lw_at lw_m3 131 rfl
theorem q756 : (Jvm.Cond.methodLink "PupilsPupil$Named" (19 : Nat) ({ cls := "java/util/List", name := "size", desc := "()I" } : Jvm.MethodName)) ∈ lw_all := lw_g (lw_at lw_m3 132 rfl) rfl
theorem q757 : (Jvm.Cond.interfaceEntry "PupilsPupil$Named" (25 : Nat)) ∈ lw_tbl := lw_at lw_m3 133 rfl
theorem q758 : (Jvm.Cond.methodLink "PupilsPupil$Named" (25 : Nat) ({ cls := "java/util/List", name := "get", desc := "(I)Ljava/lang/Object;" } : Jvm.MethodName)) ∈ lw_all := lw_g (lw_at lw_m3 134 rfl) rfl
theorem q776 : (Jvm.Cond.classLink "PupilsPupil$Named" (10 : Nat) "PupilsPupil$Named") ∈ lw_all := lw_g (lw_at lw_m3 152 rfl) rfl
theorem q777 : (Jvm.Cond.methodLink "PupilsPupil$Named" (29 : Nat) ({ cls := "java/lang/String", name := "equals", desc := "(Ljava/lang/Object;)Z" } : Jvm.MethodName)) ∈ lw_all := lw_g (lw_at lw_m3 153 rfl) rfl
theorem q779 : (Jvm.Cond.instantiable "PupilsPupil$Named" (2 : Nat)) ∈ lw_all := lw_g (lw_at lw_m3 155 rfl) rfl
theorem q797 : (Jvm.Cond.instanceMethod ({ cls := "PupilsPupil$Named", name := "<init>", desc := "(Ljava/lang/String;I)V" } : Jvm.MethodName)) ∈ lw_all := lw_g (lw_at lw_m3 173 rfl) rfl
theorem q798 : (Jvm.Cond.code ({ cls := "PupilsPupil$Named", name := "<init>", desc := "(Ljava/lang/String;I)V" } : Jvm.MethodName) prog_10_method_1_code (3 : Nat) (Option.none : Option Jvm.ClassFile.FieldType)) ∈ lw_all := lw_g (lw_at lw_m3 174 rfl) rfl
theorem q799 : (Jvm.Cond.methodLink "PupilsPupil$Named" (3 : Nat) ({ cls := "java/lang/Object", name := "<init>", desc := "()V" } : Jvm.MethodName)) ∈ lw_all := lw_g (lw_at lw_m3 175 rfl) rfl
theorem q800 : (Jvm.Cond.fieldLink "PupilsPupil$Named" (9 : Nat) "PupilsPupil$Named" "name" "Ljava/lang/String;") ∈ lw_all := lw_g (lw_at lw_m3 176 rfl) rfl
theorem q801 : (Jvm.Cond.fieldLink "PupilsPupil$Named" (15 : Nat) "PupilsPupil$Named" "told" "I") ∈ lw_all := lw_g (lw_at lw_m3 177 rfl) rfl
theorem q803 : (Jvm.Cond.laysFinal "PupilsPupil$Named" "PupilsPupil$Named" "name" "Ljava/lang/String;") ∈ lw_all := lw_g (lw_at lw_m3 179 rfl) rfl
theorem q804 : (Jvm.Cond.soleField "PupilsPupil$Named" "name") ∈ lw_all := lw_g (lw_at lw_m3 180 rfl) rfl
theorem q805 : (Jvm.Cond.laysFinal "PupilsPupil$Named" "PupilsPupil$Named" "told" "I") ∈ lw_all := lw_g (lw_at lw_m3 181 rfl) rfl
theorem q806 : (Jvm.Cond.soleField "PupilsPupil$Named" "told") ∈ lw_all := lw_g (lw_at lw_m3 182 rfl) rfl
theorem q807 : (Jvm.Cond.superclass "PupilsPupil$Named" "java/lang/Object") ∈ lw_all := lw_g (lw_at lw_m3 183 rfl) rfl
theorem q856 : (Jvm.Cond.selects "PupilsPupil$Named" ({ cls := "java/lang/Object", name := "getClass", desc := "()Ljava/lang/Class;" } : Jvm.MethodName) ({ cls := "java/lang/Object", name := "getClass", desc := "()Ljava/lang/Class;" } : Jvm.MethodName)) ∈ lw_all := lw_g (lw_at lw_m3 232 rfl) rfl
theorem q1248 : (Jvm.Cond.instanceMethod ({ cls := "PupilsPupil$Named", name := "letter", desc := "(I)I" } : Jvm.MethodName)) ∈ lw_all := lw_g (lw_at lw_m5 144 rfl) rfl
theorem q1249 : (Jvm.Cond.selects "PupilsPupil$Named" ({ cls := "PupilsPupil$Named", name := "letter", desc := "(I)I" } : Jvm.MethodName) ({ cls := "PupilsPupil$Named", name := "letter", desc := "(I)I" } : Jvm.MethodName)) ∈ lw_all := lw_g (lw_at lw_m5 145 rfl) rfl
theorem q1250 : (Jvm.Cond.sameMethod "PupilsPupil$Named" "PupilsPupil$Named" "letter" "(I)I") ∈ lw_all := lw_g (lw_at lw_m5 146 rfl) rfl
theorem q1252 : (Jvm.Cond.code ({ cls := "PupilsPupil$Named", name := "letter", desc := "(I)I" } : Jvm.MethodName) prog_10_method_3_code (2 : Nat) (Option.some Jvm.ClassFile.FieldType.int)) ∈ lw_all := lw_g (lw_at lw_m5 148 rfl) rfl
theorem q1253 : (Jvm.Cond.methodLink "PupilsPupil$Named" (35 : Nat) ({ cls := "java/lang/String", name := "length", desc := "()I" } : Jvm.MethodName)) ∈ lw_all := lw_g (lw_at lw_m5 149 rfl) rfl
theorem q1254 : (Jvm.Cond.methodLink "PupilsPupil$Named" (38 : Nat) ({ cls := "java/lang/String", name := "charAt", desc := "(I)C" } : Jvm.MethodName)) ∈ lw_all := lw_g (lw_at lw_m5 150 rfl) rfl
theorem q2488 : (Jvm.Cond.castable "PupilsPupil$Named" "java/lang/Object") ∈ lw_tbl := lw_at lw_m10 184 rfl
theorem in_X7 : ∀ w ∈ wsX70, w ∈ lw_all := lw_in wsX70 [803, 805] (by decide +kernel) (by decide +kernel)

/-! PupilsPupil$Person -/
set_option maxRecDepth 100000
def RX8 : String := "PupilsPupil$Person"
def TX8 : u_T := fun k => match k with
  | 0 => ("PupilsPupil$Named", "name", "Ljava/lang/String;", true)
  | 1 => ("PupilsPupil$Named", "told", "I", true)
  | 2 => ("PupilsPupil$Person", "master", "I", false)
  | 3 => ("PupilsPupil$Person", "right", "I", false)
  | _ => ("PupilsPupil$Person", "wrong", "I", false)
def tyX8 : Nat → FieldType := fun k => match k with
  | 0 => .object "java/lang/String"
  | 1 => .int
  | 2 => .int
  | 3 => .int
  | _ => .int
abbrev wsX80 : List Cond := u_ws RX8 TX8 5
theorem nmX8 : ∀ a, a < 5 → ∀ b, b < 5 → a ≠ b → (TX8 a).2.1 ≠ (TX8 b).2.1 := by decide +kernel
theorem tyX8_ok : ∀ k, k < 5 → parseFieldDescriptor (TX8 k).2.2.1 = some (tyX8 k) := by decide +kernel
abbrev cX8_init : ByteArray := prog_13_method_1_code
def yX8_init : MethodName := ⟨RX8, "<init>", "(Ljava/lang/String;I)V"⟩
def dkwX8_init_0 : List UInt8 := [42, 43, 28, 183, 0, 3, 42, 2, 181, 0, 9, 177]
abbrev dktX8_init_0 : List UInt8 := dkwX8_init_0 ++ []
theorem dksX8_init_0 : cX8_init.data.toList.drop 0 = dktX8_init_0 := by decide +kernel
theorem dX8_init_0 : decode cX8_init 0 = .ok (.aload_n 0, 1) := dk_42 (dk_at dksX8_init_0 0 rfl rfl)
theorem dX8_init_1 : decode cX8_init 1 = .ok (.aload_n 1, 1) := dk_43 (dk_at dksX8_init_0 1 rfl rfl)
theorem dX8_init_2 : decode cX8_init 2 = .ok (.iload_n 2, 1) := dk_28 (dk_at dksX8_init_0 2 rfl rfl)
theorem dX8_init_3 : decode cX8_init 3 = .ok (.invokespecial 3, 3) := dk_183 0 3 (dk_at dksX8_init_0 3 rfl rfl)
theorem dX8_init_6 : decode cX8_init 6 = .ok (.aload_n 0, 1) := dk_42 (dk_at dksX8_init_0 6 rfl rfl)
theorem dX8_init_7 : decode cX8_init 7 = .ok (.iconst (-1), 1) := dk_2 (dk_at dksX8_init_0 7 rfl rfl)
theorem dX8_init_8 : decode cX8_init 8 = .ok (.putfield 9, 3) := dk_181 0 9 (dk_at dksX8_init_0 8 rfl rfl)
theorem dX8_init_11 : decode cX8_init 11 = .ok (.return_, 1) := dk_177 (dk_at dksX8_init_0 11 rfl rfl)
theorem q168 : (Jvm.Cond.initialized "PupilsPupil$Person") ∈ lw_all := lw_g (lw_at lw_m1 24 rfl) rfl
theorem q859 : (Jvm.Cond.selects "PupilsPupil$Person" ({ cls := "java/lang/Object", name := "getClass", desc := "()Ljava/lang/Class;" } : Jvm.MethodName) ({ cls := "java/lang/Object", name := "getClass", desc := "()Ljava/lang/Class;" } : Jvm.MethodName)) ∈ lw_all := lw_g (lw_at lw_m3 235 rfl) rfl
theorem q884 : (Jvm.Cond.instantiable "PupilsPupil$Person" (5 : Nat)) ∈ lw_all := lw_g (lw_at lw_m4 20 rfl) rfl
theorem q887 : (Jvm.Cond.instanceMethod ({ cls := "PupilsPupil$Person", name := "<init>", desc := "(Ljava/lang/String;I)V" } : Jvm.MethodName)) ∈ lw_all := lw_g (lw_at lw_m4 23 rfl) rfl
theorem q888 : (Jvm.Cond.code ({ cls := "PupilsPupil$Person", name := "<init>", desc := "(Ljava/lang/String;I)V" } : Jvm.MethodName) prog_13_method_1_code (3 : Nat) (Option.none : Option Jvm.ClassFile.FieldType)) ∈ lw_all := lw_g (lw_at lw_m4 24 rfl) rfl
theorem q889 : (Jvm.Cond.methodLink "PupilsPupil$Person" (3 : Nat) ({ cls := "PupilsPupil$Named", name := "<init>", desc := "(Ljava/lang/String;I)V" } : Jvm.MethodName)) ∈ lw_all := lw_g (lw_at lw_m4 25 rfl) rfl
theorem q890 : (Jvm.Cond.fieldLink "PupilsPupil$Person" (9 : Nat) "PupilsPupil$Person" "master" "I") ∈ lw_all := lw_g (lw_at lw_m4 26 rfl) rfl
theorem q898 : (Jvm.Cond.lays "PupilsPupil$Person" "PupilsPupil$Person" "master" "I") ∈ lw_all := lw_g (lw_at lw_m4 34 rfl) rfl
theorem q899 : (Jvm.Cond.soleField "PupilsPupil$Person" "master") ∈ lw_all := lw_g (lw_at lw_m4 35 rfl) rfl
theorem q900 : (Jvm.Cond.lays "PupilsPupil$Person" "PupilsPupil$Person" "right" "I") ∈ lw_all := lw_g (lw_at lw_m4 36 rfl) rfl
theorem q901 : (Jvm.Cond.soleField "PupilsPupil$Person" "right") ∈ lw_all := lw_g (lw_at lw_m4 37 rfl) rfl
theorem q902 : (Jvm.Cond.lays "PupilsPupil$Person" "PupilsPupil$Person" "wrong" "I") ∈ lw_all := lw_g (lw_at lw_m4 38 rfl) rfl
theorem q903 : (Jvm.Cond.soleField "PupilsPupil$Person" "wrong") ∈ lw_all := lw_g (lw_at lw_m4 39 rfl) rfl
theorem q904 : (Jvm.Cond.laysFinal "PupilsPupil$Person" "PupilsPupil$Named" "name" "Ljava/lang/String;") ∈ lw_all := lw_g (lw_at lw_m4 40 rfl) rfl
theorem q905 : (Jvm.Cond.laysFinal "PupilsPupil$Person" "PupilsPupil$Named" "told" "I") ∈ lw_all := lw_g (lw_at lw_m4 41 rfl) rfl
theorem q906 : (Jvm.Cond.superclass "PupilsPupil$Person" "PupilsPupil$Named") ∈ lw_all := lw_g (lw_at lw_m4 42 rfl) rfl
theorem q1251 : (Jvm.Cond.selects "PupilsPupil$Person" ({ cls := "PupilsPupil$Named", name := "letter", desc := "(I)I" } : Jvm.MethodName) ({ cls := "PupilsPupil$Named", name := "letter", desc := "(I)I" } : Jvm.MethodName)) ∈ lw_all := lw_g (lw_at lw_m5 147 rfl) rfl
theorem q2468 : (Jvm.Cond.castable "PupilsPupil$Person" "PupilsPupil$Named") ∈ lw_tbl := lw_at lw_m10 164 rfl
theorem q2489 : (Jvm.Cond.castable "PupilsPupil$Person" "java/lang/Object") ∈ lw_tbl := lw_at lw_m10 185 rfl
theorem in_X8 : ∀ w ∈ wsX80, w ∈ lw_all := lw_in wsX80 [904, 905, 898, 900, 902] (by decide +kernel) (by decide +kernel)

/-! PupilsPupil$Test -/
set_option maxRecDepth 100000
def RX9 : String := "PupilsPupil$Test"
abbrev cX9_init : ByteArray := prog_18_method_1_code
def yX9_init : MethodName := ⟨RX9, "<init>", "()V"⟩
theorem dX9_init_0 : decode cX9_init 0 = .ok (.aload_n 0, 1) := by decide +kernel
theorem dX9_init_1 : decode cX9_init 1 = .ok (.invokespecial 1, 3) := by decide +kernel
theorem dX9_init_4 : decode cX9_init 4 = .ok (.return_, 1) := by decide +kernel
theorem q169 : (Jvm.Cond.initialized "PupilsPupil$Test") ∈ lw_all := lw_g (lw_at lw_m1 25 rfl) rfl
theorem q948 : (Jvm.Cond.instanceMethod ({ cls := "PupilsPupil$Test", name := "<init>", desc := "()V" } : Jvm.MethodName)) ∈ lw_all := lw_g (lw_at lw_m4 84 rfl) rfl
theorem q949 : (Jvm.Cond.code ({ cls := "PupilsPupil$Test", name := "<init>", desc := "()V" } : Jvm.MethodName) prog_18_method_1_code (1 : Nat) (Option.none : Option Jvm.ClassFile.FieldType)) ∈ lw_all := lw_g (lw_at lw_m4 85 rfl) rfl
theorem q950 : (Jvm.Cond.methodLink "PupilsPupil$Test" (1 : Nat) ({ cls := "java/lang/Object", name := "<init>", desc := "()V" } : Jvm.MethodName)) ∈ lw_all := lw_g (lw_at lw_m4 86 rfl) rfl
theorem q1330 : (Jvm.Cond.declares ({ cls := "PupilsPupil$Test", name := "holds", desc := "(LPupilsPupil$Moment;)Z" } : Jvm.MethodName)) ∈ lw_tbl := lw_at lw_m5 226 rfl
theorem q1331 : (Jvm.Cond.sameMethod "PupilsPupil$Test" "PupilsPupil$Test" "holds" "(LPupilsPupil$Moment;)Z") ∈ lw_all := lw_g (lw_at lw_m5 227 rfl) rfl

