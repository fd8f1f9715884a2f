/-! PupilsPupil$Reader -/
set_option maxRecDepth 100000
def RX2 : String := "PupilsPupil$Reader"
def TX2 : u_T := fun k => match k with
  | 0 => ("PupilsPupil$Reader", "fault", "LPupilsPupil$Fault;", true)
  | 1 => ("PupilsPupil$Reader", "size", "I", false)
  | 2 => ("PupilsPupil$Reader", "at", "I", false)
  | 3 => ("PupilsPupil$Reader", "from", "I", false)
  | 4 => ("PupilsPupil$Reader", "open", "I", false)
  | 5 => ("PupilsPupil$Reader", "context", "I", false)
  | 6 => ("PupilsPupil$Reader", "to", "LPupilsPupil$School;", false)
  | _ => ("PupilsPupil$Reader", "this$0", "LPupilsPupil;", true)
def tyX2 : Nat → FieldType := fun k => match k with
  | 0 => .object "PupilsPupil$Fault"
  | 1 => .int
  | 2 => .int
  | 3 => .int
  | 4 => .int
  | 5 => .int
  | 6 => .object "PupilsPupil$School"
  | _ => .object "PupilsPupil"
abbrev wsX20 : List Cond := u_ws RX2 TX2 8
theorem nmX2 : ∀ a, a < 8 → ∀ b, b < 8 → a ≠ b → (TX2 a).2.1 ≠ (TX2 b).2.1 := by decide +kernel
theorem tyX2_ok : ∀ k, k < 8 → parseFieldDescriptor (TX2 k).2.2.1 = some (tyX2 k) := by decide +kernel
abbrev cX2_init : ByteArray := prog_15_method_1_code
def yX2_init : MethodName := ⟨RX2, "<init>", "(LPupilsPupil;)V"⟩
def dkwX2_init_0 : List UInt8 := [42, 43, 181, 0, 3, 42, 183, 0, 9, 42, 187, 0, 15, 89, 183, 0, 17, 181, 0, 18, 177]
abbrev dktX2_init_0 : List UInt8 := dkwX2_init_0 ++ []
theorem dksX2_init_0 : cX2_init.data.toList.drop 0 = dktX2_init_0 := by decide +kernel
theorem dX2_init_0 : decode cX2_init 0 = .ok (.aload_n 0, 1) := dk_42 (dk_at dksX2_init_0 0 rfl rfl)
theorem dX2_init_1 : decode cX2_init 1 = .ok (.aload_n 1, 1) := dk_43 (dk_at dksX2_init_0 1 rfl rfl)
theorem dX2_init_2 : decode cX2_init 2 = .ok (.putfield 3, 3) := dk_181 0 3 (dk_at dksX2_init_0 2 rfl rfl)
theorem dX2_init_5 : decode cX2_init 5 = .ok (.aload_n 0, 1) := dk_42 (dk_at dksX2_init_0 5 rfl rfl)
theorem dX2_init_6 : decode cX2_init 6 = .ok (.invokespecial 9, 3) := dk_183 0 9 (dk_at dksX2_init_0 6 rfl rfl)
theorem dX2_init_9 : decode cX2_init 9 = .ok (.aload_n 0, 1) := dk_42 (dk_at dksX2_init_0 9 rfl rfl)
theorem dX2_init_10 : decode cX2_init 10 = .ok (.new 15, 3) := dk_187 0 15 (dk_at dksX2_init_0 10 rfl rfl)
theorem dX2_init_13 : decode cX2_init 13 = .ok (.dup, 1) := dk_89 (dk_at dksX2_init_0 13 rfl rfl)
theorem dX2_init_14 : decode cX2_init 14 = .ok (.invokespecial 17, 3) := dk_183 0 17 (dk_at dksX2_init_0 14 rfl rfl)
theorem dX2_init_17 : decode cX2_init 17 = .ok (.putfield 18, 3) := dk_181 0 18 (dk_at dksX2_init_0 17 rfl rfl)
theorem dX2_init_20 : decode cX2_init 20 = .ok (.return_, 1) := dk_177 (dk_at dksX2_init_0 20 rfl rfl)
abbrev cX2_all : ByteArray := prog_15_method_16_code
def yX2_all : MethodName := ⟨RX2, "all", "(I)LPupilsPupil$School;"⟩
def dkwX2_all_4 : List UInt8 := [180, 0, 61, 182, 0, 135, 42, 16, 59, 182, 0, 139, 167, 255, 178, 42, 180, 0, 103, 176]
abbrev dktX2_all_4 : List UInt8 := dkwX2_all_4 ++ []
def dkwX2_all_3 : List UInt8 := [181, 0, 125, 42, 182, 0, 70, 77, 42, 44, 42, 180, 0, 61, 182, 0, 132, 154, 0, 12, 42, 44, 42]
abbrev dktX2_all_3 : List UInt8 := dkwX2_all_3 ++ dktX2_all_4
def dkwX2_all_2 : List UInt8 := [4, 167, 0, 4, 3, 42, 180, 0, 36, 182, 0, 128, 42, 180, 0, 103, 89, 180, 0, 125, 4, 96]
abbrev dktX2_all_2 : List UInt8 := dkwX2_all_2 ++ dktX2_all_3
def dkwX2_all_1 : List UInt8 := [181, 0, 122, 42, 182, 0, 43, 2, 159, 0, 76, 42, 42, 180, 0, 103, 180, 0, 125, 16, 80, 160, 0, 7]
abbrev dktX2_all_1 : List UInt8 := dkwX2_all_1 ++ dktX2_all_2
def dkwX2_all_0 : List UInt8 := [42, 187, 0, 108, 89, 183, 0, 121, 181, 0, 103, 42, 27, 181, 0, 29, 42, 3, 181, 0, 36, 42, 3]
abbrev dktX2_all_0 : List UInt8 := dkwX2_all_0 ++ dktX2_all_1
theorem dksX2_all_0 : cX2_all.data.toList.drop 0 = dktX2_all_0 := by decide +kernel
theorem dksX2_all_1 : cX2_all.data.toList.drop 23 = dktX2_all_1 := dk_seg dksX2_all_0 23 rfl rfl
theorem dksX2_all_2 : cX2_all.data.toList.drop 47 = dktX2_all_2 := dk_seg dksX2_all_1 24 rfl rfl
theorem dksX2_all_3 : cX2_all.data.toList.drop 69 = dktX2_all_3 := dk_seg dksX2_all_2 22 rfl rfl
theorem dksX2_all_4 : cX2_all.data.toList.drop 92 = dktX2_all_4 := dk_seg dksX2_all_3 23 rfl rfl
theorem dX2_all_0 : decode cX2_all 0 = .ok (.aload_n 0, 1) := dk_42 (dk_at dksX2_all_0 0 rfl rfl)
theorem dX2_all_1 : decode cX2_all 1 = .ok (.new 108, 3) := dk_187 0 108 (dk_at dksX2_all_0 1 rfl rfl)
theorem dX2_all_4 : decode cX2_all 4 = .ok (.dup, 1) := dk_89 (dk_at dksX2_all_0 4 rfl rfl)
theorem dX2_all_5 : decode cX2_all 5 = .ok (.invokespecial 121, 3) := dk_183 0 121 (dk_at dksX2_all_0 5 rfl rfl)
theorem dX2_all_8 : decode cX2_all 8 = .ok (.putfield 103, 3) := dk_181 0 103 (dk_at dksX2_all_0 8 rfl rfl)
theorem dX2_all_11 : decode cX2_all 11 = .ok (.aload_n 0, 1) := dk_42 (dk_at dksX2_all_0 11 rfl rfl)
theorem dX2_all_12 : decode cX2_all 12 = .ok (.iload_n 1, 1) := dk_27 (dk_at dksX2_all_0 12 rfl rfl)
theorem dX2_all_13 : decode cX2_all 13 = .ok (.putfield 29, 3) := dk_181 0 29 (dk_at dksX2_all_0 13 rfl rfl)
theorem dX2_all_16 : decode cX2_all 16 = .ok (.aload_n 0, 1) := dk_42 (dk_at dksX2_all_0 16 rfl rfl)
theorem dX2_all_17 : decode cX2_all 17 = .ok (.iconst 0, 1) := dk_3 (dk_at dksX2_all_0 17 rfl rfl)
theorem dX2_all_18 : decode cX2_all 18 = .ok (.putfield 36, 3) := dk_181 0 36 (dk_at dksX2_all_0 18 rfl rfl)
theorem dX2_all_21 : decode cX2_all 21 = .ok (.aload_n 0, 1) := dk_42 (dk_at dksX2_all_0 21 rfl rfl)
theorem dX2_all_22 : decode cX2_all 22 = .ok (.iconst 0, 1) := dk_3 (dk_at dksX2_all_0 22 rfl rfl)
theorem dX2_all_23 : decode cX2_all 23 = .ok (.putfield 122, 3) := dk_181 0 122 (dk_at dksX2_all_1 0 rfl rfl)
theorem dX2_all_26 : decode cX2_all 26 = .ok (.aload_n 0, 1) := dk_42 (dk_at dksX2_all_1 3 rfl rfl)
theorem dX2_all_27 : decode cX2_all 27 = .ok (.invokevirtual 43, 3) := dk_182 0 43 (dk_at dksX2_all_1 4 rfl rfl)
theorem dX2_all_30 : decode cX2_all 30 = .ok (.iconst (-1), 1) := dk_2 (dk_at dksX2_all_1 7 rfl rfl)
theorem dX2_all_31 : decode cX2_all 31 = .ok (.if_icmp .eq 76, 3) := dk_159 0 76 (dk_at dksX2_all_1 8 rfl rfl)
theorem dX2_all_34 : decode cX2_all 34 = .ok (.aload_n 0, 1) := dk_42 (dk_at dksX2_all_1 11 rfl rfl)
theorem dX2_all_35 : decode cX2_all 35 = .ok (.aload_n 0, 1) := dk_42 (dk_at dksX2_all_1 12 rfl rfl)
theorem dX2_all_36 : decode cX2_all 36 = .ok (.getfield 103, 3) := dk_180 0 103 (dk_at dksX2_all_1 13 rfl rfl)
theorem dX2_all_39 : decode cX2_all 39 = .ok (.getfield 125, 3) := dk_180 0 125 (dk_at dksX2_all_1 16 rfl rfl)
theorem dX2_all_42 : decode cX2_all 42 = .ok (.bipush 80, 2) := dk_16 80 (dk_at dksX2_all_1 19 rfl rfl)
theorem dX2_all_44 : decode cX2_all 44 = .ok (.if_icmp .ne 7, 3) := dk_160 0 7 (dk_at dksX2_all_1 21 rfl rfl)
theorem dX2_all_47 : decode cX2_all 47 = .ok (.iconst 1, 1) := dk_4 (dk_at dksX2_all_2 0 rfl rfl)
theorem dX2_all_48 : decode cX2_all 48 = .ok (.goto 4, 3) := dk_167 0 4 (dk_at dksX2_all_2 1 rfl rfl)
theorem dX2_all_51 : decode cX2_all 51 = .ok (.iconst 0, 1) := dk_3 (dk_at dksX2_all_2 4 rfl rfl)
theorem dX2_all_52 : decode cX2_all 52 = .ok (.aload_n 0, 1) := dk_42 (dk_at dksX2_all_2 5 rfl rfl)
theorem dX2_all_53 : decode cX2_all 53 = .ok (.getfield 36, 3) := dk_180 0 36 (dk_at dksX2_all_2 6 rfl rfl)
theorem dX2_all_56 : decode cX2_all 56 = .ok (.invokevirtual 128, 3) := dk_182 0 128 (dk_at dksX2_all_2 9 rfl rfl)
theorem dX2_all_59 : decode cX2_all 59 = .ok (.aload_n 0, 1) := dk_42 (dk_at dksX2_all_2 12 rfl rfl)
theorem dX2_all_60 : decode cX2_all 60 = .ok (.getfield 103, 3) := dk_180 0 103 (dk_at dksX2_all_2 13 rfl rfl)
theorem dX2_all_63 : decode cX2_all 63 = .ok (.dup, 1) := dk_89 (dk_at dksX2_all_2 16 rfl rfl)
theorem dX2_all_64 : decode cX2_all 64 = .ok (.getfield 125, 3) := dk_180 0 125 (dk_at dksX2_all_2 17 rfl rfl)
theorem dX2_all_67 : decode cX2_all 67 = .ok (.iconst 1, 1) := dk_4 (dk_at dksX2_all_2 20 rfl rfl)
theorem dX2_all_68 : decode cX2_all 68 = .ok (.iadd, 1) := dk_96 (dk_at dksX2_all_2 21 rfl rfl)
theorem dX2_all_69 : decode cX2_all 69 = .ok (.putfield 125, 3) := dk_181 0 125 (dk_at dksX2_all_3 0 rfl rfl)
theorem dX2_all_72 : decode cX2_all 72 = .ok (.aload_n 0, 1) := dk_42 (dk_at dksX2_all_3 3 rfl rfl)
theorem dX2_all_73 : decode cX2_all 73 = .ok (.invokevirtual 70, 3) := dk_182 0 70 (dk_at dksX2_all_3 4 rfl rfl)
theorem dX2_all_76 : decode cX2_all 76 = .ok (.astore_n 2, 1) := dk_77 (dk_at dksX2_all_3 7 rfl rfl)
theorem dX2_all_77 : decode cX2_all 77 = .ok (.aload_n 0, 1) := dk_42 (dk_at dksX2_all_3 8 rfl rfl)
theorem dX2_all_78 : decode cX2_all 78 = .ok (.aload_n 2, 1) := dk_44 (dk_at dksX2_all_3 9 rfl rfl)
theorem dX2_all_79 : decode cX2_all 79 = .ok (.aload_n 0, 1) := dk_42 (dk_at dksX2_all_3 10 rfl rfl)
theorem dX2_all_80 : decode cX2_all 80 = .ok (.getfield 61, 3) := dk_180 0 61 (dk_at dksX2_all_3 11 rfl rfl)
theorem dX2_all_83 : decode cX2_all 83 = .ok (.invokevirtual 132, 3) := dk_182 0 132 (dk_at dksX2_all_3 14 rfl rfl)
theorem dX2_all_86 : decode cX2_all 86 = .ok (.ifCond .ne 12, 3) := dk_154 0 12 (dk_at dksX2_all_3 17 rfl rfl)
theorem dX2_all_89 : decode cX2_all 89 = .ok (.aload_n 0, 1) := dk_42 (dk_at dksX2_all_3 20 rfl rfl)
theorem dX2_all_90 : decode cX2_all 90 = .ok (.aload_n 2, 1) := dk_44 (dk_at dksX2_all_3 21 rfl rfl)
theorem dX2_all_91 : decode cX2_all 91 = .ok (.aload_n 0, 1) := dk_42 (dk_at dksX2_all_3 22 rfl rfl)
theorem dX2_all_92 : decode cX2_all 92 = .ok (.getfield 61, 3) := dk_180 0 61 (dk_at dksX2_all_4 0 rfl rfl)
theorem dX2_all_95 : decode cX2_all 95 = .ok (.invokevirtual 135, 3) := dk_182 0 135 (dk_at dksX2_all_4 3 rfl rfl)
theorem dX2_all_98 : decode cX2_all 98 = .ok (.aload_n 0, 1) := dk_42 (dk_at dksX2_all_4 6 rfl rfl)
theorem dX2_all_99 : decode cX2_all 99 = .ok (.bipush 59, 2) := dk_16 59 (dk_at dksX2_all_4 7 rfl rfl)
theorem dX2_all_101 : decode cX2_all 101 = .ok (.invokevirtual 139, 3) := dk_182 0 139 (dk_at dksX2_all_4 9 rfl rfl)
theorem dX2_all_104 : decode cX2_all 104 = .ok (.goto (-78), 3) := dk_167 255 178 (dk_at dksX2_all_4 12 rfl rfl)
theorem dX2_all_107 : decode cX2_all 107 = .ok (.aload_n 0, 1) := dk_42 (dk_at dksX2_all_4 15 rfl rfl)
theorem dX2_all_108 : decode cX2_all 108 = .ok (.getfield 103, 3) := dk_180 0 103 (dk_at dksX2_all_4 16 rfl rfl)
theorem dX2_all_111 : decode cX2_all 111 = .ok (.areturn, 1) := dk_176 (dk_at dksX2_all_4 19 rfl rfl)
abbrev cX2_here : ByteArray := prog_15_method_4_code
def yX2_here : MethodName := ⟨RX2, "here", "()I"⟩
def dkwX2_here_2 : List UInt8 := [172]
abbrev dktX2_here_2 : List UInt8 := dkwX2_here_2 ++ []
def dkwX2_here_1 : List UInt8 := [160, 0, 16, 42, 89, 180, 0, 36, 4, 96, 181, 0, 36, 167, 255, 220, 42, 42, 180, 0, 36, 182, 0, 39]
abbrev dktX2_here_1 : List UInt8 := dkwX2_here_1 ++ dktX2_here_2
def dkwX2_here_0 : List UInt8 := [42, 42, 180, 0, 36, 182, 0, 39, 16, 32, 159, 0, 16, 42, 42, 180, 0, 36, 182, 0, 39, 16, 10]
abbrev dktX2_here_0 : List UInt8 := dkwX2_here_0 ++ dktX2_here_1
theorem dksX2_here_0 : cX2_here.data.toList.drop 0 = dktX2_here_0 := by decide +kernel
theorem dksX2_here_1 : cX2_here.data.toList.drop 23 = dktX2_here_1 := dk_seg dksX2_here_0 23 rfl rfl
theorem dksX2_here_2 : cX2_here.data.toList.drop 47 = dktX2_here_2 := dk_seg dksX2_here_1 24 rfl rfl
theorem dX2_here_0 : decode cX2_here 0 = .ok (.aload_n 0, 1) := dk_42 (dk_at dksX2_here_0 0 rfl rfl)
theorem dX2_here_1 : decode cX2_here 1 = .ok (.aload_n 0, 1) := dk_42 (dk_at dksX2_here_0 1 rfl rfl)
theorem dX2_here_2 : decode cX2_here 2 = .ok (.getfield 36, 3) := dk_180 0 36 (dk_at dksX2_here_0 2 rfl rfl)
theorem dX2_here_5 : decode cX2_here 5 = .ok (.invokevirtual 39, 3) := dk_182 0 39 (dk_at dksX2_here_0 5 rfl rfl)
theorem dX2_here_8 : decode cX2_here 8 = .ok (.bipush 32, 2) := dk_16 32 (dk_at dksX2_here_0 8 rfl rfl)
theorem dX2_here_10 : decode cX2_here 10 = .ok (.if_icmp .eq 16, 3) := dk_159 0 16 (dk_at dksX2_here_0 10 rfl rfl)
theorem dX2_here_13 : decode cX2_here 13 = .ok (.aload_n 0, 1) := dk_42 (dk_at dksX2_here_0 13 rfl rfl)
theorem dX2_here_14 : decode cX2_here 14 = .ok (.aload_n 0, 1) := dk_42 (dk_at dksX2_here_0 14 rfl rfl)
theorem dX2_here_15 : decode cX2_here 15 = .ok (.getfield 36, 3) := dk_180 0 36 (dk_at dksX2_here_0 15 rfl rfl)
theorem dX2_here_18 : decode cX2_here 18 = .ok (.invokevirtual 39, 3) := dk_182 0 39 (dk_at dksX2_here_0 18 rfl rfl)
theorem dX2_here_21 : decode cX2_here 21 = .ok (.bipush 10, 2) := dk_16 10 (dk_at dksX2_here_0 21 rfl rfl)
theorem dX2_here_23 : decode cX2_here 23 = .ok (.if_icmp .ne 16, 3) := dk_160 0 16 (dk_at dksX2_here_1 0 rfl rfl)
theorem dX2_here_26 : decode cX2_here 26 = .ok (.aload_n 0, 1) := dk_42 (dk_at dksX2_here_1 3 rfl rfl)
theorem dX2_here_27 : decode cX2_here 27 = .ok (.dup, 1) := dk_89 (dk_at dksX2_here_1 4 rfl rfl)
theorem dX2_here_28 : decode cX2_here 28 = .ok (.getfield 36, 3) := dk_180 0 36 (dk_at dksX2_here_1 5 rfl rfl)
theorem dX2_here_31 : decode cX2_here 31 = .ok (.iconst 1, 1) := dk_4 (dk_at dksX2_here_1 8 rfl rfl)
theorem dX2_here_32 : decode cX2_here 32 = .ok (.iadd, 1) := dk_96 (dk_at dksX2_here_1 9 rfl rfl)
theorem dX2_here_33 : decode cX2_here 33 = .ok (.putfield 36, 3) := dk_181 0 36 (dk_at dksX2_here_1 10 rfl rfl)
theorem dX2_here_36 : decode cX2_here 36 = .ok (.goto (-36), 3) := dk_167 255 220 (dk_at dksX2_here_1 13 rfl rfl)
theorem dX2_here_39 : decode cX2_here 39 = .ok (.aload_n 0, 1) := dk_42 (dk_at dksX2_here_1 16 rfl rfl)
theorem dX2_here_40 : decode cX2_here 40 = .ok (.aload_n 0, 1) := dk_42 (dk_at dksX2_here_1 17 rfl rfl)
theorem dX2_here_41 : decode cX2_here 41 = .ok (.getfield 36, 3) := dk_180 0 36 (dk_at dksX2_here_1 18 rfl rfl)
theorem dX2_here_44 : decode cX2_here 44 = .ok (.invokevirtual 39, 3) := dk_182 0 39 (dk_at dksX2_here_1 21 rfl rfl)
theorem dX2_here_47 : decode cX2_here 47 = .ok (.ireturn, 1) := dk_172 (dk_at dksX2_here_2 0 rfl rfl)
abbrev cX2_byteAt : ByteArray := prog_15_method_3_code
def yX2_byteAt : MethodName := ⟨RX2, "byteAt", "(I)I"⟩
def dkwX2_byteAt_1 : List UInt8 := [126, 167, 0, 4, 2, 172]
abbrev dktX2_byteAt_1 : List UInt8 := dkwX2_byteAt_1 ++ []
def dkwX2_byteAt_0 : List UInt8 := [27, 155, 0, 27, 27, 42, 180, 0, 29, 162, 0, 19, 42, 180, 0, 3, 180, 0, 32, 27, 51, 17, 0, 255]
abbrev dktX2_byteAt_0 : List UInt8 := dkwX2_byteAt_0 ++ dktX2_byteAt_1
theorem dksX2_byteAt_0 : cX2_byteAt.data.toList.drop 0 = dktX2_byteAt_0 := by decide +kernel
theorem dksX2_byteAt_1 : cX2_byteAt.data.toList.drop 24 = dktX2_byteAt_1 := dk_seg dksX2_byteAt_0 24 rfl rfl
theorem dX2_byteAt_0 : decode cX2_byteAt 0 = .ok (.iload_n 1, 1) := dk_27 (dk_at dksX2_byteAt_0 0 rfl rfl)
theorem dX2_byteAt_1 : decode cX2_byteAt 1 = .ok (.ifCond .lt 27, 3) := dk_155 0 27 (dk_at dksX2_byteAt_0 1 rfl rfl)
theorem dX2_byteAt_4 : decode cX2_byteAt 4 = .ok (.iload_n 1, 1) := dk_27 (dk_at dksX2_byteAt_0 4 rfl rfl)
theorem dX2_byteAt_5 : decode cX2_byteAt 5 = .ok (.aload_n 0, 1) := dk_42 (dk_at dksX2_byteAt_0 5 rfl rfl)
theorem dX2_byteAt_6 : decode cX2_byteAt 6 = .ok (.getfield 29, 3) := dk_180 0 29 (dk_at dksX2_byteAt_0 6 rfl rfl)
theorem dX2_byteAt_9 : decode cX2_byteAt 9 = .ok (.if_icmp .ge 19, 3) := dk_162 0 19 (dk_at dksX2_byteAt_0 9 rfl rfl)
theorem dX2_byteAt_12 : decode cX2_byteAt 12 = .ok (.aload_n 0, 1) := dk_42 (dk_at dksX2_byteAt_0 12 rfl rfl)
theorem dX2_byteAt_13 : decode cX2_byteAt 13 = .ok (.getfield 3, 3) := dk_180 0 3 (dk_at dksX2_byteAt_0 13 rfl rfl)
theorem dX2_byteAt_16 : decode cX2_byteAt 16 = .ok (.getfield 32, 3) := dk_180 0 32 (dk_at dksX2_byteAt_0 16 rfl rfl)
theorem dX2_byteAt_19 : decode cX2_byteAt 19 = .ok (.iload_n 1, 1) := dk_27 (dk_at dksX2_byteAt_0 19 rfl rfl)
theorem dX2_byteAt_20 : decode cX2_byteAt 20 = .ok (.baload, 1) := dk_51 (dk_at dksX2_byteAt_0 20 rfl rfl)
theorem dX2_byteAt_21 : decode cX2_byteAt 21 = .ok (.sipush 255, 3) := dk_17 0 255 (dk_at dksX2_byteAt_0 21 rfl rfl)
theorem dX2_byteAt_24 : decode cX2_byteAt 24 = .ok (.iand, 1) := dk_126 (dk_at dksX2_byteAt_1 0 rfl rfl)
theorem dX2_byteAt_25 : decode cX2_byteAt 25 = .ok (.goto 4, 3) := dk_167 0 4 (dk_at dksX2_byteAt_1 1 rfl rfl)
theorem dX2_byteAt_28 : decode cX2_byteAt 28 = .ok (.iconst (-1), 1) := dk_2 (dk_at dksX2_byteAt_1 4 rfl rfl)
theorem dX2_byteAt_29 : decode cX2_byteAt 29 = .ok (.ireturn, 1) := dk_172 (dk_at dksX2_byteAt_1 5 rfl rfl)
abbrev cX2_most : ByteArray := prog_15_method_15_code
def yX2_most : MethodName := ⟨RX2, "most", "(ZI)V"⟩
def dkwX2_most_0 : List UInt8 := [27, 153, 0, 10, 42, 8, 28, 182, 0, 47, 191, 177]
abbrev dktX2_most_0 : List UInt8 := dkwX2_most_0 ++ []
theorem dksX2_most_0 : cX2_most.data.toList.drop 0 = dktX2_most_0 := by decide +kernel
theorem dX2_most_0 : decode cX2_most 0 = .ok (.iload_n 1, 1) := dk_27 (dk_at dksX2_most_0 0 rfl rfl)
theorem dX2_most_1 : decode cX2_most 1 = .ok (.ifCond .eq 10, 3) := dk_153 0 10 (dk_at dksX2_most_0 1 rfl rfl)
theorem dX2_most_4 : decode cX2_most 4 = .ok (.aload_n 0, 1) := dk_42 (dk_at dksX2_most_0 4 rfl rfl)
theorem dX2_most_5 : decode cX2_most 5 = .ok (.iconst 5, 1) := dk_8 (dk_at dksX2_most_0 5 rfl rfl)
theorem dX2_most_6 : decode cX2_most 6 = .ok (.iload_n 2, 1) := dk_28 (dk_at dksX2_most_0 6 rfl rfl)
theorem dX2_most_7 : decode cX2_most 7 = .ok (.invokevirtual 47, 3) := dk_182 0 47 (dk_at dksX2_most_0 7 rfl rfl)
theorem dX2_most_10 : decode cX2_most 10 = .ok (.athrow, 1) := dk_191 (dk_at dksX2_most_0 10 rfl rfl)
theorem dX2_most_11 : decode cX2_most 11 = .ok (.return_, 1) := dk_177 (dk_at dksX2_most_0 11 rfl rfl)
abbrev cX2_wrong : ByteArray := prog_15_method_2_code
def yX2_wrong : MethodName := ⟨RX2, "wrong", "(II)LPupilsPupil$Fault;"⟩
def dkwX2_wrong_0 : List UInt8 := [42, 180, 0, 18, 27, 181, 0, 22, 42, 180, 0, 18, 28, 181, 0, 26, 42, 180, 0, 18, 176]
abbrev dktX2_wrong_0 : List UInt8 := dkwX2_wrong_0 ++ []
theorem dksX2_wrong_0 : cX2_wrong.data.toList.drop 0 = dktX2_wrong_0 := by decide +kernel
theorem dX2_wrong_0 : decode cX2_wrong 0 = .ok (.aload_n 0, 1) := dk_42 (dk_at dksX2_wrong_0 0 rfl rfl)
theorem dX2_wrong_1 : decode cX2_wrong 1 = .ok (.getfield 18, 3) := dk_180 0 18 (dk_at dksX2_wrong_0 1 rfl rfl)
theorem dX2_wrong_4 : decode cX2_wrong 4 = .ok (.iload_n 1, 1) := dk_27 (dk_at dksX2_wrong_0 4 rfl rfl)
theorem dX2_wrong_5 : decode cX2_wrong 5 = .ok (.putfield 22, 3) := dk_181 0 22 (dk_at dksX2_wrong_0 5 rfl rfl)
theorem dX2_wrong_8 : decode cX2_wrong 8 = .ok (.aload_n 0, 1) := dk_42 (dk_at dksX2_wrong_0 8 rfl rfl)
theorem dX2_wrong_9 : decode cX2_wrong 9 = .ok (.getfield 18, 3) := dk_180 0 18 (dk_at dksX2_wrong_0 9 rfl rfl)
theorem dX2_wrong_12 : decode cX2_wrong 12 = .ok (.iload_n 2, 1) := dk_28 (dk_at dksX2_wrong_0 12 rfl rfl)
theorem dX2_wrong_13 : decode cX2_wrong 13 = .ok (.putfield 26, 3) := dk_181 0 26 (dk_at dksX2_wrong_0 13 rfl rfl)
theorem dX2_wrong_16 : decode cX2_wrong 16 = .ok (.aload_n 0, 1) := dk_42 (dk_at dksX2_wrong_0 16 rfl rfl)
theorem dX2_wrong_17 : decode cX2_wrong 17 = .ok (.getfield 18, 3) := dk_180 0 18 (dk_at dksX2_wrong_0 17 rfl rfl)
theorem dX2_wrong_20 : decode cX2_wrong 20 = .ok (.areturn, 1) := dk_176 (dk_at dksX2_wrong_0 20 rfl rfl)
abbrev cX2_word : ByteArray := prog_15_method_7_code
def yX2_word : MethodName := ⟨RX2, "word", "()Ljava/lang/String;"⟩
def dkwX2_word_4 : List UInt8 := [180, 0, 32, 28, 51, 146, 85, 132, 2, 1, 167, 255, 227, 43, 184, 0, 64, 176]
abbrev dktX2_word_4 : List UInt8 := dkwX2_word_4 ++ []
def dkwX2_word_3 : List UInt8 := [180, 0, 61, 61, 28, 42, 180, 0, 36, 162, 0, 27, 43, 28, 42, 180, 0, 61, 100, 42, 180, 0, 3]
abbrev dktX2_word_3 : List UInt8 := dkwX2_word_3 ++ dktX2_word_4
def dkwX2_word_2 : List UInt8 := [180, 0, 36, 4, 96, 181, 0, 36, 167, 255, 232, 42, 180, 0, 36, 42, 180, 0, 61, 100, 188, 5, 76, 42]
abbrev dktX2_word_2 : List UInt8 := dkwX2_word_2 ++ dktX2_word_3
def dkwX2_word_1 : List UInt8 := [42, 42, 180, 0, 36, 181, 0, 61, 42, 42, 180, 0, 36, 182, 0, 39, 184, 0, 51, 153, 0, 16, 42, 89]
abbrev dktX2_word_1 : List UInt8 := dkwX2_word_1 ++ dktX2_word_2
def dkwX2_word_0 : List UInt8 := [42, 182, 0, 43, 184, 0, 51, 154, 0, 13, 42, 4, 42, 180, 0, 36, 182, 0, 47, 191, 42, 182, 0, 58]
abbrev dktX2_word_0 : List UInt8 := dkwX2_word_0 ++ dktX2_word_1
theorem dksX2_word_0 : cX2_word.data.toList.drop 0 = dktX2_word_0 := by decide +kernel
theorem dksX2_word_1 : cX2_word.data.toList.drop 24 = dktX2_word_1 := dk_seg dksX2_word_0 24 rfl rfl
theorem dksX2_word_2 : cX2_word.data.toList.drop 48 = dktX2_word_2 := dk_seg dksX2_word_1 24 rfl rfl
theorem dksX2_word_3 : cX2_word.data.toList.drop 72 = dktX2_word_3 := dk_seg dksX2_word_2 24 rfl rfl
theorem dksX2_word_4 : cX2_word.data.toList.drop 95 = dktX2_word_4 := dk_seg dksX2_word_3 23 rfl rfl
theorem dX2_word_0 : decode cX2_word 0 = .ok (.aload_n 0, 1) := dk_42 (dk_at dksX2_word_0 0 rfl rfl)
theorem dX2_word_1 : decode cX2_word 1 = .ok (.invokevirtual 43, 3) := dk_182 0 43 (dk_at dksX2_word_0 1 rfl rfl)
theorem dX2_word_4 : decode cX2_word 4 = .ok (.invokestatic 51, 3) := dk_184 0 51 (dk_at dksX2_word_0 4 rfl rfl)
theorem dX2_word_7 : decode cX2_word 7 = .ok (.ifCond .ne 13, 3) := dk_154 0 13 (dk_at dksX2_word_0 7 rfl rfl)
theorem dX2_word_10 : decode cX2_word 10 = .ok (.aload_n 0, 1) := dk_42 (dk_at dksX2_word_0 10 rfl rfl)
theorem dX2_word_11 : decode cX2_word 11 = .ok (.iconst 1, 1) := dk_4 (dk_at dksX2_word_0 11 rfl rfl)
theorem dX2_word_12 : decode cX2_word 12 = .ok (.aload_n 0, 1) := dk_42 (dk_at dksX2_word_0 12 rfl rfl)
theorem dX2_word_13 : decode cX2_word 13 = .ok (.getfield 36, 3) := dk_180 0 36 (dk_at dksX2_word_0 13 rfl rfl)
theorem dX2_word_16 : decode cX2_word 16 = .ok (.invokevirtual 47, 3) := dk_182 0 47 (dk_at dksX2_word_0 16 rfl rfl)
theorem dX2_word_19 : decode cX2_word 19 = .ok (.athrow, 1) := dk_191 (dk_at dksX2_word_0 19 rfl rfl)
theorem dX2_word_20 : decode cX2_word 20 = .ok (.aload_n 0, 1) := dk_42 (dk_at dksX2_word_0 20 rfl rfl)
theorem dX2_word_21 : decode cX2_word 21 = .ok (.invokevirtual 58, 3) := dk_182 0 58 (dk_at dksX2_word_0 21 rfl rfl)
theorem dX2_word_24 : decode cX2_word 24 = .ok (.aload_n 0, 1) := dk_42 (dk_at dksX2_word_1 0 rfl rfl)
theorem dX2_word_25 : decode cX2_word 25 = .ok (.aload_n 0, 1) := dk_42 (dk_at dksX2_word_1 1 rfl rfl)
theorem dX2_word_26 : decode cX2_word 26 = .ok (.getfield 36, 3) := dk_180 0 36 (dk_at dksX2_word_1 2 rfl rfl)
theorem dX2_word_29 : decode cX2_word 29 = .ok (.putfield 61, 3) := dk_181 0 61 (dk_at dksX2_word_1 5 rfl rfl)
theorem dX2_word_32 : decode cX2_word 32 = .ok (.aload_n 0, 1) := dk_42 (dk_at dksX2_word_1 8 rfl rfl)
theorem dX2_word_33 : decode cX2_word 33 = .ok (.aload_n 0, 1) := dk_42 (dk_at dksX2_word_1 9 rfl rfl)
theorem dX2_word_34 : decode cX2_word 34 = .ok (.getfield 36, 3) := dk_180 0 36 (dk_at dksX2_word_1 10 rfl rfl)
theorem dX2_word_37 : decode cX2_word 37 = .ok (.invokevirtual 39, 3) := dk_182 0 39 (dk_at dksX2_word_1 13 rfl rfl)
theorem dX2_word_40 : decode cX2_word 40 = .ok (.invokestatic 51, 3) := dk_184 0 51 (dk_at dksX2_word_1 16 rfl rfl)
theorem dX2_word_43 : decode cX2_word 43 = .ok (.ifCond .eq 16, 3) := dk_153 0 16 (dk_at dksX2_word_1 19 rfl rfl)
theorem dX2_word_46 : decode cX2_word 46 = .ok (.aload_n 0, 1) := dk_42 (dk_at dksX2_word_1 22 rfl rfl)
theorem dX2_word_47 : decode cX2_word 47 = .ok (.dup, 1) := dk_89 (dk_at dksX2_word_1 23 rfl rfl)
theorem dX2_word_48 : decode cX2_word 48 = .ok (.getfield 36, 3) := dk_180 0 36 (dk_at dksX2_word_2 0 rfl rfl)
theorem dX2_word_51 : decode cX2_word 51 = .ok (.iconst 1, 1) := dk_4 (dk_at dksX2_word_2 3 rfl rfl)
theorem dX2_word_52 : decode cX2_word 52 = .ok (.iadd, 1) := dk_96 (dk_at dksX2_word_2 4 rfl rfl)
theorem dX2_word_53 : decode cX2_word 53 = .ok (.putfield 36, 3) := dk_181 0 36 (dk_at dksX2_word_2 5 rfl rfl)
theorem dX2_word_56 : decode cX2_word 56 = .ok (.goto (-24), 3) := dk_167 255 232 (dk_at dksX2_word_2 8 rfl rfl)
theorem dX2_word_59 : decode cX2_word 59 = .ok (.aload_n 0, 1) := dk_42 (dk_at dksX2_word_2 11 rfl rfl)
theorem dX2_word_60 : decode cX2_word 60 = .ok (.getfield 36, 3) := dk_180 0 36 (dk_at dksX2_word_2 12 rfl rfl)
theorem dX2_word_63 : decode cX2_word 63 = .ok (.aload_n 0, 1) := dk_42 (dk_at dksX2_word_2 15 rfl rfl)
theorem dX2_word_64 : decode cX2_word 64 = .ok (.getfield 61, 3) := dk_180 0 61 (dk_at dksX2_word_2 16 rfl rfl)
theorem dX2_word_67 : decode cX2_word 67 = .ok (.isub, 1) := dk_100 (dk_at dksX2_word_2 19 rfl rfl)
theorem dX2_word_68 : decode cX2_word 68 = .ok (.newarray .char, 2) := dk_188_5 (dk_at dksX2_word_2 20 rfl rfl)
theorem dX2_word_70 : decode cX2_word 70 = .ok (.astore_n 1, 1) := dk_76 (dk_at dksX2_word_2 22 rfl rfl)
theorem dX2_word_71 : decode cX2_word 71 = .ok (.aload_n 0, 1) := dk_42 (dk_at dksX2_word_2 23 rfl rfl)
theorem dX2_word_72 : decode cX2_word 72 = .ok (.getfield 61, 3) := dk_180 0 61 (dk_at dksX2_word_3 0 rfl rfl)
theorem dX2_word_75 : decode cX2_word 75 = .ok (.istore_n 2, 1) := dk_61 (dk_at dksX2_word_3 3 rfl rfl)
theorem dX2_word_76 : decode cX2_word 76 = .ok (.iload_n 2, 1) := dk_28 (dk_at dksX2_word_3 4 rfl rfl)
theorem dX2_word_77 : decode cX2_word 77 = .ok (.aload_n 0, 1) := dk_42 (dk_at dksX2_word_3 5 rfl rfl)
theorem dX2_word_78 : decode cX2_word 78 = .ok (.getfield 36, 3) := dk_180 0 36 (dk_at dksX2_word_3 6 rfl rfl)
theorem dX2_word_81 : decode cX2_word 81 = .ok (.if_icmp .ge 27, 3) := dk_162 0 27 (dk_at dksX2_word_3 9 rfl rfl)
theorem dX2_word_84 : decode cX2_word 84 = .ok (.aload_n 1, 1) := dk_43 (dk_at dksX2_word_3 12 rfl rfl)
theorem dX2_word_85 : decode cX2_word 85 = .ok (.iload_n 2, 1) := dk_28 (dk_at dksX2_word_3 13 rfl rfl)
theorem dX2_word_86 : decode cX2_word 86 = .ok (.aload_n 0, 1) := dk_42 (dk_at dksX2_word_3 14 rfl rfl)
theorem dX2_word_87 : decode cX2_word 87 = .ok (.getfield 61, 3) := dk_180 0 61 (dk_at dksX2_word_3 15 rfl rfl)
theorem dX2_word_90 : decode cX2_word 90 = .ok (.isub, 1) := dk_100 (dk_at dksX2_word_3 18 rfl rfl)
theorem dX2_word_91 : decode cX2_word 91 = .ok (.aload_n 0, 1) := dk_42 (dk_at dksX2_word_3 19 rfl rfl)
theorem dX2_word_92 : decode cX2_word 92 = .ok (.getfield 3, 3) := dk_180 0 3 (dk_at dksX2_word_3 20 rfl rfl)
theorem dX2_word_95 : decode cX2_word 95 = .ok (.getfield 32, 3) := dk_180 0 32 (dk_at dksX2_word_4 0 rfl rfl)
theorem dX2_word_98 : decode cX2_word 98 = .ok (.iload_n 2, 1) := dk_28 (dk_at dksX2_word_4 3 rfl rfl)
theorem dX2_word_99 : decode cX2_word 99 = .ok (.baload, 1) := dk_51 (dk_at dksX2_word_4 4 rfl rfl)
theorem dX2_word_100 : decode cX2_word 100 = .ok (.i2c, 1) := dk_146 (dk_at dksX2_word_4 5 rfl rfl)
theorem dX2_word_101 : decode cX2_word 101 = .ok (.castore, 1) := dk_85 (dk_at dksX2_word_4 6 rfl rfl)
theorem dX2_word_102 : decode cX2_word 102 = .ok (.iinc 2 1, 3) := dk_132 2 1 (dk_at dksX2_word_4 7 rfl rfl)
theorem dX2_word_105 : decode cX2_word 105 = .ok (.goto (-29), 3) := dk_167 255 227 (dk_at dksX2_word_4 10 rfl rfl)
theorem dX2_word_108 : decode cX2_word 108 = .ok (.aload_n 1, 1) := dk_43 (dk_at dksX2_word_4 13 rfl rfl)
theorem dX2_word_109 : decode cX2_word 109 = .ok (.invokestatic 64, 3) := dk_184 0 64 (dk_at dksX2_word_4 14 rfl rfl)
theorem dX2_word_112 : decode cX2_word 112 = .ok (.areturn, 1) := dk_176 (dk_at dksX2_word_4 17 rfl rfl)
abbrev cX2_parted : ByteArray := prog_15_method_6_code
def yX2_parted : MethodName := ⟨RX2, "parted", "()V"⟩
def dkwX2_parted_1 : List UInt8 := [182, 0, 39, 184, 0, 55, 153, 0, 13, 42, 4, 42, 180, 0, 36, 182, 0, 47, 191, 177]
abbrev dktX2_parted_1 : List UInt8 := dkwX2_parted_1 ++ []
def dkwX2_parted_0 : List UInt8 := [42, 42, 180, 0, 36, 4, 100, 182, 0, 39, 184, 0, 51, 154, 0, 19, 42, 42, 180, 0, 36, 4, 100]
abbrev dktX2_parted_0 : List UInt8 := dkwX2_parted_0 ++ dktX2_parted_1
theorem dksX2_parted_0 : cX2_parted.data.toList.drop 0 = dktX2_parted_0 := by decide +kernel
theorem dksX2_parted_1 : cX2_parted.data.toList.drop 23 = dktX2_parted_1 := dk_seg dksX2_parted_0 23 rfl rfl
theorem dX2_parted_0 : decode cX2_parted 0 = .ok (.aload_n 0, 1) := dk_42 (dk_at dksX2_parted_0 0 rfl rfl)
theorem dX2_parted_1 : decode cX2_parted 1 = .ok (.aload_n 0, 1) := dk_42 (dk_at dksX2_parted_0 1 rfl rfl)
theorem dX2_parted_2 : decode cX2_parted 2 = .ok (.getfield 36, 3) := dk_180 0 36 (dk_at dksX2_parted_0 2 rfl rfl)
theorem dX2_parted_5 : decode cX2_parted 5 = .ok (.iconst 1, 1) := dk_4 (dk_at dksX2_parted_0 5 rfl rfl)
theorem dX2_parted_6 : decode cX2_parted 6 = .ok (.isub, 1) := dk_100 (dk_at dksX2_parted_0 6 rfl rfl)
theorem dX2_parted_7 : decode cX2_parted 7 = .ok (.invokevirtual 39, 3) := dk_182 0 39 (dk_at dksX2_parted_0 7 rfl rfl)
theorem dX2_parted_10 : decode cX2_parted 10 = .ok (.invokestatic 51, 3) := dk_184 0 51 (dk_at dksX2_parted_0 10 rfl rfl)
theorem dX2_parted_13 : decode cX2_parted 13 = .ok (.ifCond .ne 19, 3) := dk_154 0 19 (dk_at dksX2_parted_0 13 rfl rfl)
theorem dX2_parted_16 : decode cX2_parted 16 = .ok (.aload_n 0, 1) := dk_42 (dk_at dksX2_parted_0 16 rfl rfl)
theorem dX2_parted_17 : decode cX2_parted 17 = .ok (.aload_n 0, 1) := dk_42 (dk_at dksX2_parted_0 17 rfl rfl)
theorem dX2_parted_18 : decode cX2_parted 18 = .ok (.getfield 36, 3) := dk_180 0 36 (dk_at dksX2_parted_0 18 rfl rfl)
theorem dX2_parted_21 : decode cX2_parted 21 = .ok (.iconst 1, 1) := dk_4 (dk_at dksX2_parted_0 21 rfl rfl)
theorem dX2_parted_22 : decode cX2_parted 22 = .ok (.isub, 1) := dk_100 (dk_at dksX2_parted_0 22 rfl rfl)
theorem dX2_parted_23 : decode cX2_parted 23 = .ok (.invokevirtual 39, 3) := dk_182 0 39 (dk_at dksX2_parted_1 0 rfl rfl)
theorem dX2_parted_26 : decode cX2_parted 26 = .ok (.invokestatic 55, 3) := dk_184 0 55 (dk_at dksX2_parted_1 3 rfl rfl)
theorem dX2_parted_29 : decode cX2_parted 29 = .ok (.ifCond .eq 13, 3) := dk_153 0 13 (dk_at dksX2_parted_1 6 rfl rfl)
theorem dX2_parted_32 : decode cX2_parted 32 = .ok (.aload_n 0, 1) := dk_42 (dk_at dksX2_parted_1 9 rfl rfl)
theorem dX2_parted_33 : decode cX2_parted 33 = .ok (.iconst 1, 1) := dk_4 (dk_at dksX2_parted_1 10 rfl rfl)
theorem dX2_parted_34 : decode cX2_parted 34 = .ok (.aload_n 0, 1) := dk_42 (dk_at dksX2_parted_1 11 rfl rfl)
theorem dX2_parted_35 : decode cX2_parted 35 = .ok (.getfield 36, 3) := dk_180 0 36 (dk_at dksX2_parted_1 12 rfl rfl)
theorem dX2_parted_38 : decode cX2_parted 38 = .ok (.invokevirtual 47, 3) := dk_182 0 47 (dk_at dksX2_parted_1 15 rfl rfl)
theorem dX2_parted_41 : decode cX2_parted 41 = .ok (.athrow, 1) := dk_191 (dk_at dksX2_parted_1 18 rfl rfl)
theorem dX2_parted_42 : decode cX2_parted 42 = .ok (.return_, 1) := dk_177 (dk_at dksX2_parted_1 19 rfl rfl)
abbrev cX2_people : ByteArray := prog_15_method_17_code
def yX2_people : MethodName := ⟨RX2, "people", "(Ljava/lang/String;I)Z"⟩
def dkwX2_people_22 : List UInt8 := [181, 0, 195, 4, 172, 3, 172]
abbrev dktX2_people_22 : List UInt8 := dkwX2_people_22 ++ []
def dkwX2_people_21 : List UInt8 := [182, 0, 47, 191, 42, 180, 0, 103, 180, 0, 118, 21, 9, 185, 0, 182, 2, 0, 192, 0, 173, 21, 10]
abbrev dktX2_people_21 : List UInt8 := dkwX2_people_21 ++ dktX2_people_22
def dkwX2_people_20 : List UInt8 := [54, 10, 42, 180, 0, 103, 21, 10, 21, 9, 182, 0, 200, 153, 0, 13, 42, 6, 42, 180, 0, 61]
abbrev dktX2_people_20 : List UInt8 := dkwX2_people_20 ++ dktX2_people_21
def dkwX2_people_19 : List UInt8 := [180, 0, 61, 182, 0, 47, 191, 42, 18, 198, 182, 0, 93, 42, 42, 180, 0, 103, 180, 0, 118, 182, 0, 178]
abbrev dktX2_people_19 : List UInt8 := dkwX2_people_19 ++ dktX2_people_20
def dkwX2_people_18 : List UInt8 := [180, 0, 118, 21, 9, 185, 0, 182, 2, 0, 192, 0, 173, 180, 0, 195, 2, 159, 0, 13, 42, 6, 42]
abbrev dktX2_people_18 : List UInt8 := dkwX2_people_18 ++ dktX2_people_19
def dkwX2_people_17 : List UInt8 := [120, 128, 181, 0, 189, 4, 172, 42, 42, 180, 0, 103, 180, 0, 118, 182, 0, 178, 54, 9, 42, 180, 0, 103]
abbrev dktX2_people_17 : List UInt8 := dkwX2_people_17 ++ dktX2_people_18
def dkwX2_people_16 : List UInt8 := [89, 180, 0, 186, 4, 21, 8, 120, 128, 181, 0, 186, 167, 0, 17, 25, 7, 89, 180, 0, 189, 4, 21, 8]
abbrev dktX2_people_16 : List UInt8 := dkwX2_people_16 ++ dktX2_people_17
def dkwX2_people_15 : List UInt8 := [153, 0, 13, 42, 6, 42, 180, 0, 61, 182, 0, 47, 191, 43, 18, 150, 182, 0, 74, 153, 0, 20, 25, 7]
abbrev dktX2_people_15 : List UInt8 := dkwX2_people_15 ++ dktX2_people_16
def dkwX2_people_14 : List UInt8 := [180, 0, 107, 182, 0, 178, 54, 8, 25, 7, 180, 0, 186, 25, 7, 180, 0, 189, 128, 21, 8, 184, 0, 191]
abbrev dktX2_people_14 : List UInt8 := dkwX2_people_14 ++ dktX2_people_15
def dkwX2_people_13 : List UInt8 := [180, 0, 103, 180, 0, 118, 182, 0, 178, 185, 0, 182, 2, 0, 192, 0, 173, 58, 7, 42, 42, 180, 0, 103]
abbrev dktX2_people_13 : List UInt8 := dkwX2_people_13 ++ dktX2_people_14
def dkwX2_people_12 : List UInt8 := [182, 0, 165, 183, 0, 177, 185, 0, 170, 2, 0, 87, 4, 172, 42, 180, 0, 103, 180, 0, 118, 42, 42]
abbrev dktX2_people_12 : List UInt8 := dkwX2_people_12 ++ dktX2_people_13
def dkwX2_people_11 : List UInt8 := [182, 0, 160, 58, 6, 42, 180, 0, 103, 180, 0, 118, 187, 0, 173, 89, 25, 6, 42, 18, 175, 3, 16, 99]
abbrev dktX2_people_11 : List UInt8 := dkwX2_people_11 ++ dktX2_people_12
def dkwX2_people_10 : List UInt8 := [180, 0, 118, 185, 0, 156, 1, 0, 16, 8, 160, 0, 7, 4, 167, 0, 4, 3, 28, 182, 0, 128, 42]
abbrev dktX2_people_10 : List UInt8 := dkwX2_people_10 ++ dktX2_people_11
def dkwX2_people_9 : List UInt8 := [18, 163, 4, 16, 9, 182, 0, 165, 183, 0, 168, 185, 0, 170, 2, 0, 87, 4, 172, 42, 42, 180, 0, 103]
abbrev dktX2_people_9 : List UInt8 := dkwX2_people_9 ++ dktX2_people_10
def dkwX2_people_8 : List UInt8 := [182, 0, 128, 42, 182, 0, 160, 58, 5, 42, 180, 0, 103, 180, 0, 107, 187, 0, 114, 89, 25, 5, 42]
abbrev dktX2_people_8 : List UInt8 := dkwX2_people_8 ++ dktX2_people_9
def dkwX2_people_7 : List UInt8 := [42, 42, 180, 0, 103, 180, 0, 107, 185, 0, 156, 1, 0, 16, 8, 160, 0, 7, 4, 167, 0, 4, 3, 28]
abbrev dktX2_people_7 : List UInt8 := dkwX2_people_7 ++ dktX2_people_8
def dkwX2_people_6 : List UInt8 := [170, 0, 0, 0, 1, 136, 0, 0, 0, 0, 0, 0, 0, 4, 0, 0, 0, 34, 0, 0, 0, 100, 0, 0, 0, 166, 0, 0, 0, 166, 0, 0, 1, 22]
abbrev dktX2_people_6 : List UInt8 := dkwX2_people_6 ++ dktX2_people_7
def dkwX2_people_5 : List UInt8 := [21, 4]
abbrev dktX2_people_5 : List UInt8 := dkwX2_people_5 ++ dktX2_people_6
def dkwX2_people_4 : List UInt8 := [182, 0, 74, 153, 0, 21, 6, 54, 4, 167, 0, 15, 45, 18, 154, 182, 0, 74, 153, 0, 6, 7, 54, 4]
abbrev dktX2_people_4 : List UInt8 := dkwX2_people_4 ++ dktX2_people_5
def dkwX2_people_3 : List UInt8 := [4, 54, 4, 167, 0, 45, 45, 18, 150, 182, 0, 74, 153, 0, 36, 5, 54, 4, 167, 0, 30, 45, 18, 152]
abbrev dktX2_people_3 : List UInt8 := dkwX2_people_3 ++ dktX2_people_4
def dkwX2_people_2 : List UInt8 := [45, 18, 146, 182, 0, 74, 153, 0, 66, 3, 54, 4, 167, 0, 60, 45, 18, 148, 182, 0, 74, 153, 0, 51]
abbrev dktX2_people_2 : List UInt8 := dkwX2_people_2 ++ dktX2_people_3
def dkwX2_people_1 : List UInt8 := [171, 0, 0, 0, 0, 0, 123, 0, 0, 0, 5, 196, 227, 155, 85, 0, 0, 0, 66, 203, 127, 207, 11, 0, 0, 0, 111, 0, 47, 163, 174, 0, 0, 0, 96, 0, 47, 214, 108, 0, 0, 0, 51, 6, 23, 131, 72, 0, 0, 0, 81]
abbrev dktX2_people_1 : List UInt8 := dkwX2_people_1 ++ dktX2_people_2
def dkwX2_people_0 : List UInt8 := [43, 78, 2, 54, 4, 45, 182, 0, 143]
abbrev dktX2_people_0 : List UInt8 := dkwX2_people_0 ++ dktX2_people_1
theorem dksX2_people_0 : cX2_people.data.toList.drop 0 = dktX2_people_0 := by decide +kernel
theorem dksX2_people_1 : cX2_people.data.toList.drop 9 = dktX2_people_1 := dk_seg dksX2_people_0 9 rfl rfl
theorem dksX2_people_2 : cX2_people.data.toList.drop 60 = dktX2_people_2 := dk_seg dksX2_people_1 51 rfl rfl
theorem dksX2_people_3 : cX2_people.data.toList.drop 84 = dktX2_people_3 := dk_seg dksX2_people_2 24 rfl rfl
theorem dksX2_people_4 : cX2_people.data.toList.drop 108 = dktX2_people_4 := dk_seg dksX2_people_3 24 rfl rfl
theorem dksX2_people_5 : cX2_people.data.toList.drop 132 = dktX2_people_5 := dk_seg dksX2_people_4 24 rfl rfl
theorem dksX2_people_6 : cX2_people.data.toList.drop 134 = dktX2_people_6 := dk_seg dksX2_people_5 2 rfl rfl
theorem dksX2_people_7 : cX2_people.data.toList.drop 168 = dktX2_people_7 := dk_seg dksX2_people_6 34 rfl rfl
theorem dksX2_people_8 : cX2_people.data.toList.drop 192 = dktX2_people_8 := dk_seg dksX2_people_7 24 rfl rfl
theorem dksX2_people_9 : cX2_people.data.toList.drop 215 = dktX2_people_9 := dk_seg dksX2_people_8 23 rfl rfl
theorem dksX2_people_10 : cX2_people.data.toList.drop 239 = dktX2_people_10 := dk_seg dksX2_people_9 24 rfl rfl
theorem dksX2_people_11 : cX2_people.data.toList.drop 262 = dktX2_people_11 := dk_seg dksX2_people_10 23 rfl rfl
theorem dksX2_people_12 : cX2_people.data.toList.drop 286 = dktX2_people_12 := dk_seg dksX2_people_11 24 rfl rfl
theorem dksX2_people_13 : cX2_people.data.toList.drop 309 = dktX2_people_13 := dk_seg dksX2_people_12 23 rfl rfl
theorem dksX2_people_14 : cX2_people.data.toList.drop 333 = dktX2_people_14 := dk_seg dksX2_people_13 24 rfl rfl
theorem dksX2_people_15 : cX2_people.data.toList.drop 357 = dktX2_people_15 := dk_seg dksX2_people_14 24 rfl rfl
theorem dksX2_people_16 : cX2_people.data.toList.drop 381 = dktX2_people_16 := dk_seg dksX2_people_15 24 rfl rfl
theorem dksX2_people_17 : cX2_people.data.toList.drop 405 = dktX2_people_17 := dk_seg dksX2_people_16 24 rfl rfl
theorem dksX2_people_18 : cX2_people.data.toList.drop 429 = dktX2_people_18 := dk_seg dksX2_people_17 24 rfl rfl
theorem dksX2_people_19 : cX2_people.data.toList.drop 452 = dktX2_people_19 := dk_seg dksX2_people_18 23 rfl rfl
theorem dksX2_people_20 : cX2_people.data.toList.drop 476 = dktX2_people_20 := dk_seg dksX2_people_19 24 rfl rfl
theorem dksX2_people_21 : cX2_people.data.toList.drop 498 = dktX2_people_21 := dk_seg dksX2_people_20 22 rfl rfl
theorem dksX2_people_22 : cX2_people.data.toList.drop 521 = dktX2_people_22 := dk_seg dksX2_people_21 23 rfl rfl
theorem dX2_people_0 : decode cX2_people 0 = .ok (.aload_n 1, 1) := dk_43 (dk_at dksX2_people_0 0 rfl rfl)
theorem dX2_people_1 : decode cX2_people 1 = .ok (.astore_n 3, 1) := dk_78 (dk_at dksX2_people_0 1 rfl rfl)
theorem dX2_people_2 : decode cX2_people 2 = .ok (.iconst (-1), 1) := dk_2 (dk_at dksX2_people_0 2 rfl rfl)
theorem dX2_people_3 : decode cX2_people 3 = .ok (.istore 4, 2) := dk_54 4 (dk_at dksX2_people_0 3 rfl rfl)
theorem dX2_people_5 : decode cX2_people 5 = .ok (.aload_n 3, 1) := dk_45 (dk_at dksX2_people_0 5 rfl rfl)
theorem dX2_people_6 : decode cX2_people 6 = .ok (.invokevirtual 143, 3) := dk_182 0 143 (dk_at dksX2_people_0 6 rfl rfl)
theorem dX2_people_9 : decode cX2_people 9 = .ok (.lookupswitch 123 #[(-991716523, 66), (-880816373, 111), (3122094, 96), (3135084, 51), (102204232, 81)], 51) := by decide +kernel
theorem dX2_people_60 : decode cX2_people 60 = .ok (.aload_n 3, 1) := dk_45 (dk_at dksX2_people_2 0 rfl rfl)
theorem dX2_people_61 : decode cX2_people 61 = .ok (.ldc 146, 2) := dk_18 146 (dk_at dksX2_people_2 1 rfl rfl)
theorem dX2_people_63 : decode cX2_people 63 = .ok (.invokevirtual 74, 3) := dk_182 0 74 (dk_at dksX2_people_2 3 rfl rfl)
theorem dX2_people_66 : decode cX2_people 66 = .ok (.ifCond .eq 66, 3) := dk_153 0 66 (dk_at dksX2_people_2 6 rfl rfl)
theorem dX2_people_69 : decode cX2_people 69 = .ok (.iconst 0, 1) := dk_3 (dk_at dksX2_people_2 9 rfl rfl)
theorem dX2_people_70 : decode cX2_people 70 = .ok (.istore 4, 2) := dk_54 4 (dk_at dksX2_people_2 10 rfl rfl)
theorem dX2_people_72 : decode cX2_people 72 = .ok (.goto 60, 3) := dk_167 0 60 (dk_at dksX2_people_2 12 rfl rfl)
theorem dX2_people_75 : decode cX2_people 75 = .ok (.aload_n 3, 1) := dk_45 (dk_at dksX2_people_2 15 rfl rfl)
theorem dX2_people_76 : decode cX2_people 76 = .ok (.ldc 148, 2) := dk_18 148 (dk_at dksX2_people_2 16 rfl rfl)
theorem dX2_people_78 : decode cX2_people 78 = .ok (.invokevirtual 74, 3) := dk_182 0 74 (dk_at dksX2_people_2 18 rfl rfl)
theorem dX2_people_81 : decode cX2_people 81 = .ok (.ifCond .eq 51, 3) := dk_153 0 51 (dk_at dksX2_people_2 21 rfl rfl)
theorem dX2_people_84 : decode cX2_people 84 = .ok (.iconst 1, 1) := dk_4 (dk_at dksX2_people_3 0 rfl rfl)
theorem dX2_people_85 : decode cX2_people 85 = .ok (.istore 4, 2) := dk_54 4 (dk_at dksX2_people_3 1 rfl rfl)
theorem dX2_people_87 : decode cX2_people 87 = .ok (.goto 45, 3) := dk_167 0 45 (dk_at dksX2_people_3 3 rfl rfl)
theorem dX2_people_90 : decode cX2_people 90 = .ok (.aload_n 3, 1) := dk_45 (dk_at dksX2_people_3 6 rfl rfl)
theorem dX2_people_91 : decode cX2_people 91 = .ok (.ldc 150, 2) := dk_18 150 (dk_at dksX2_people_3 7 rfl rfl)
theorem dX2_people_93 : decode cX2_people 93 = .ok (.invokevirtual 74, 3) := dk_182 0 74 (dk_at dksX2_people_3 9 rfl rfl)
theorem dX2_people_96 : decode cX2_people 96 = .ok (.ifCond .eq 36, 3) := dk_153 0 36 (dk_at dksX2_people_3 12 rfl rfl)
theorem dX2_people_99 : decode cX2_people 99 = .ok (.iconst 2, 1) := dk_5 (dk_at dksX2_people_3 15 rfl rfl)
theorem dX2_people_100 : decode cX2_people 100 = .ok (.istore 4, 2) := dk_54 4 (dk_at dksX2_people_3 16 rfl rfl)
theorem dX2_people_102 : decode cX2_people 102 = .ok (.goto 30, 3) := dk_167 0 30 (dk_at dksX2_people_3 18 rfl rfl)
theorem dX2_people_105 : decode cX2_people 105 = .ok (.aload_n 3, 1) := dk_45 (dk_at dksX2_people_3 21 rfl rfl)
theorem dX2_people_106 : decode cX2_people 106 = .ok (.ldc 152, 2) := dk_18 152 (dk_at dksX2_people_3 22 rfl rfl)
theorem dX2_people_108 : decode cX2_people 108 = .ok (.invokevirtual 74, 3) := dk_182 0 74 (dk_at dksX2_people_4 0 rfl rfl)
theorem dX2_people_111 : decode cX2_people 111 = .ok (.ifCond .eq 21, 3) := dk_153 0 21 (dk_at dksX2_people_4 3 rfl rfl)
theorem dX2_people_114 : decode cX2_people 114 = .ok (.iconst 3, 1) := dk_6 (dk_at dksX2_people_4 6 rfl rfl)
theorem dX2_people_115 : decode cX2_people 115 = .ok (.istore 4, 2) := dk_54 4 (dk_at dksX2_people_4 7 rfl rfl)
theorem dX2_people_117 : decode cX2_people 117 = .ok (.goto 15, 3) := dk_167 0 15 (dk_at dksX2_people_4 9 rfl rfl)
theorem dX2_people_120 : decode cX2_people 120 = .ok (.aload_n 3, 1) := dk_45 (dk_at dksX2_people_4 12 rfl rfl)
theorem dX2_people_121 : decode cX2_people 121 = .ok (.ldc 154, 2) := dk_18 154 (dk_at dksX2_people_4 13 rfl rfl)
theorem dX2_people_123 : decode cX2_people 123 = .ok (.invokevirtual 74, 3) := dk_182 0 74 (dk_at dksX2_people_4 15 rfl rfl)
theorem dX2_people_126 : decode cX2_people 126 = .ok (.ifCond .eq 6, 3) := dk_153 0 6 (dk_at dksX2_people_4 18 rfl rfl)
theorem dX2_people_129 : decode cX2_people 129 = .ok (.iconst 4, 1) := dk_7 (dk_at dksX2_people_4 21 rfl rfl)
theorem dX2_people_130 : decode cX2_people 130 = .ok (.istore 4, 2) := dk_54 4 (dk_at dksX2_people_4 22 rfl rfl)
theorem dX2_people_132 : decode cX2_people 132 = .ok (.iload 4, 2) := dk_21 4 (dk_at dksX2_people_5 0 rfl rfl)
theorem dX2_people_134 : decode cX2_people 134 = .ok (.tableswitch 392 0 4 #[34, 100, 166, 166, 278], 34) := by decide +kernel
theorem dX2_people_168 : decode cX2_people 168 = .ok (.aload_n 0, 1) := dk_42 (dk_at dksX2_people_7 0 rfl rfl)
theorem dX2_people_169 : decode cX2_people 169 = .ok (.aload_n 0, 1) := dk_42 (dk_at dksX2_people_7 1 rfl rfl)
theorem dX2_people_170 : decode cX2_people 170 = .ok (.getfield 103, 3) := dk_180 0 103 (dk_at dksX2_people_7 2 rfl rfl)
theorem dX2_people_173 : decode cX2_people 173 = .ok (.getfield 107, 3) := dk_180 0 107 (dk_at dksX2_people_7 5 rfl rfl)
theorem dX2_people_176 : decode cX2_people 176 = .ok (.invokeinterface 156 1, 5) := by decide +kernel
theorem dX2_people_181 : decode cX2_people 181 = .ok (.bipush 8, 2) := dk_16 8 (dk_at dksX2_people_7 13 rfl rfl)
theorem dX2_people_183 : decode cX2_people 183 = .ok (.if_icmp .ne 7, 3) := dk_160 0 7 (dk_at dksX2_people_7 15 rfl rfl)
theorem dX2_people_186 : decode cX2_people 186 = .ok (.iconst 1, 1) := dk_4 (dk_at dksX2_people_7 18 rfl rfl)
theorem dX2_people_187 : decode cX2_people 187 = .ok (.goto 4, 3) := dk_167 0 4 (dk_at dksX2_people_7 19 rfl rfl)
theorem dX2_people_190 : decode cX2_people 190 = .ok (.iconst 0, 1) := dk_3 (dk_at dksX2_people_7 22 rfl rfl)
theorem dX2_people_191 : decode cX2_people 191 = .ok (.iload_n 2, 1) := dk_28 (dk_at dksX2_people_7 23 rfl rfl)
theorem dX2_people_192 : decode cX2_people 192 = .ok (.invokevirtual 128, 3) := dk_182 0 128 (dk_at dksX2_people_8 0 rfl rfl)
theorem dX2_people_195 : decode cX2_people 195 = .ok (.aload_n 0, 1) := dk_42 (dk_at dksX2_people_8 3 rfl rfl)
theorem dX2_people_196 : decode cX2_people 196 = .ok (.invokevirtual 160, 3) := dk_182 0 160 (dk_at dksX2_people_8 4 rfl rfl)
theorem dX2_people_199 : decode cX2_people 199 = .ok (.astore 5, 2) := dk_58 5 (dk_at dksX2_people_8 7 rfl rfl)
theorem dX2_people_201 : decode cX2_people 201 = .ok (.aload_n 0, 1) := dk_42 (dk_at dksX2_people_8 9 rfl rfl)
theorem dX2_people_202 : decode cX2_people 202 = .ok (.getfield 103, 3) := dk_180 0 103 (dk_at dksX2_people_8 10 rfl rfl)
theorem dX2_people_205 : decode cX2_people 205 = .ok (.getfield 107, 3) := dk_180 0 107 (dk_at dksX2_people_8 13 rfl rfl)
theorem dX2_people_208 : decode cX2_people 208 = .ok (.new 114, 3) := dk_187 0 114 (dk_at dksX2_people_8 16 rfl rfl)
theorem dX2_people_211 : decode cX2_people 211 = .ok (.dup, 1) := dk_89 (dk_at dksX2_people_8 19 rfl rfl)
theorem dX2_people_212 : decode cX2_people 212 = .ok (.aload 5, 2) := dk_25 5 (dk_at dksX2_people_8 20 rfl rfl)
theorem dX2_people_214 : decode cX2_people 214 = .ok (.aload_n 0, 1) := dk_42 (dk_at dksX2_people_8 22 rfl rfl)
theorem dX2_people_215 : decode cX2_people 215 = .ok (.ldc 163, 2) := dk_18 163 (dk_at dksX2_people_9 0 rfl rfl)
theorem dX2_people_217 : decode cX2_people 217 = .ok (.iconst 1, 1) := dk_4 (dk_at dksX2_people_9 2 rfl rfl)
theorem dX2_people_218 : decode cX2_people 218 = .ok (.bipush 9, 2) := dk_16 9 (dk_at dksX2_people_9 3 rfl rfl)
theorem dX2_people_220 : decode cX2_people 220 = .ok (.invokevirtual 165, 3) := dk_182 0 165 (dk_at dksX2_people_9 5 rfl rfl)
theorem dX2_people_223 : decode cX2_people 223 = .ok (.invokespecial 168, 3) := dk_183 0 168 (dk_at dksX2_people_9 8 rfl rfl)
theorem dX2_people_226 : decode cX2_people 226 = .ok (.invokeinterface 170 2, 5) := by decide +kernel
theorem dX2_people_231 : decode cX2_people 231 = .ok (.pop, 1) := dk_87 (dk_at dksX2_people_9 16 rfl rfl)
theorem dX2_people_232 : decode cX2_people 232 = .ok (.iconst 1, 1) := dk_4 (dk_at dksX2_people_9 17 rfl rfl)
theorem dX2_people_233 : decode cX2_people 233 = .ok (.ireturn, 1) := dk_172 (dk_at dksX2_people_9 18 rfl rfl)
theorem dX2_people_234 : decode cX2_people 234 = .ok (.aload_n 0, 1) := dk_42 (dk_at dksX2_people_9 19 rfl rfl)
theorem dX2_people_235 : decode cX2_people 235 = .ok (.aload_n 0, 1) := dk_42 (dk_at dksX2_people_9 20 rfl rfl)
theorem dX2_people_236 : decode cX2_people 236 = .ok (.getfield 103, 3) := dk_180 0 103 (dk_at dksX2_people_9 21 rfl rfl)
theorem dX2_people_239 : decode cX2_people 239 = .ok (.getfield 118, 3) := dk_180 0 118 (dk_at dksX2_people_10 0 rfl rfl)
theorem dX2_people_242 : decode cX2_people 242 = .ok (.invokeinterface 156 1, 5) := by decide +kernel
theorem dX2_people_247 : decode cX2_people 247 = .ok (.bipush 8, 2) := dk_16 8 (dk_at dksX2_people_10 8 rfl rfl)
theorem dX2_people_249 : decode cX2_people 249 = .ok (.if_icmp .ne 7, 3) := dk_160 0 7 (dk_at dksX2_people_10 10 rfl rfl)
theorem dX2_people_252 : decode cX2_people 252 = .ok (.iconst 1, 1) := dk_4 (dk_at dksX2_people_10 13 rfl rfl)
theorem dX2_people_253 : decode cX2_people 253 = .ok (.goto 4, 3) := dk_167 0 4 (dk_at dksX2_people_10 14 rfl rfl)
theorem dX2_people_256 : decode cX2_people 256 = .ok (.iconst 0, 1) := dk_3 (dk_at dksX2_people_10 17 rfl rfl)
theorem dX2_people_257 : decode cX2_people 257 = .ok (.iload_n 2, 1) := dk_28 (dk_at dksX2_people_10 18 rfl rfl)
theorem dX2_people_258 : decode cX2_people 258 = .ok (.invokevirtual 128, 3) := dk_182 0 128 (dk_at dksX2_people_10 19 rfl rfl)
theorem dX2_people_261 : decode cX2_people 261 = .ok (.aload_n 0, 1) := dk_42 (dk_at dksX2_people_10 22 rfl rfl)
theorem dX2_people_262 : decode cX2_people 262 = .ok (.invokevirtual 160, 3) := dk_182 0 160 (dk_at dksX2_people_11 0 rfl rfl)
theorem dX2_people_265 : decode cX2_people 265 = .ok (.astore 6, 2) := dk_58 6 (dk_at dksX2_people_11 3 rfl rfl)
theorem dX2_people_267 : decode cX2_people 267 = .ok (.aload_n 0, 1) := dk_42 (dk_at dksX2_people_11 5 rfl rfl)
theorem dX2_people_268 : decode cX2_people 268 = .ok (.getfield 103, 3) := dk_180 0 103 (dk_at dksX2_people_11 6 rfl rfl)
theorem dX2_people_271 : decode cX2_people 271 = .ok (.getfield 118, 3) := dk_180 0 118 (dk_at dksX2_people_11 9 rfl rfl)
theorem dX2_people_274 : decode cX2_people 274 = .ok (.new 173, 3) := dk_187 0 173 (dk_at dksX2_people_11 12 rfl rfl)
theorem dX2_people_277 : decode cX2_people 277 = .ok (.dup, 1) := dk_89 (dk_at dksX2_people_11 15 rfl rfl)
theorem dX2_people_278 : decode cX2_people 278 = .ok (.aload 6, 2) := dk_25 6 (dk_at dksX2_people_11 16 rfl rfl)
theorem dX2_people_280 : decode cX2_people 280 = .ok (.aload_n 0, 1) := dk_42 (dk_at dksX2_people_11 18 rfl rfl)
theorem dX2_people_281 : decode cX2_people 281 = .ok (.ldc 175, 2) := dk_18 175 (dk_at dksX2_people_11 19 rfl rfl)
theorem dX2_people_283 : decode cX2_people 283 = .ok (.iconst 0, 1) := dk_3 (dk_at dksX2_people_11 21 rfl rfl)
theorem dX2_people_284 : decode cX2_people 284 = .ok (.bipush 99, 2) := dk_16 99 (dk_at dksX2_people_11 22 rfl rfl)
theorem dX2_people_286 : decode cX2_people 286 = .ok (.invokevirtual 165, 3) := dk_182 0 165 (dk_at dksX2_people_12 0 rfl rfl)
theorem dX2_people_289 : decode cX2_people 289 = .ok (.invokespecial 177, 3) := dk_183 0 177 (dk_at dksX2_people_12 3 rfl rfl)
theorem dX2_people_292 : decode cX2_people 292 = .ok (.invokeinterface 170 2, 5) := by decide +kernel
theorem dX2_people_297 : decode cX2_people 297 = .ok (.pop, 1) := dk_87 (dk_at dksX2_people_12 11 rfl rfl)
theorem dX2_people_298 : decode cX2_people 298 = .ok (.iconst 1, 1) := dk_4 (dk_at dksX2_people_12 12 rfl rfl)
theorem dX2_people_299 : decode cX2_people 299 = .ok (.ireturn, 1) := dk_172 (dk_at dksX2_people_12 13 rfl rfl)
theorem dX2_people_300 : decode cX2_people 300 = .ok (.aload_n 0, 1) := dk_42 (dk_at dksX2_people_12 14 rfl rfl)
theorem dX2_people_301 : decode cX2_people 301 = .ok (.getfield 103, 3) := dk_180 0 103 (dk_at dksX2_people_12 15 rfl rfl)
theorem dX2_people_304 : decode cX2_people 304 = .ok (.getfield 118, 3) := dk_180 0 118 (dk_at dksX2_people_12 18 rfl rfl)
theorem dX2_people_307 : decode cX2_people 307 = .ok (.aload_n 0, 1) := dk_42 (dk_at dksX2_people_12 21 rfl rfl)
theorem dX2_people_308 : decode cX2_people 308 = .ok (.aload_n 0, 1) := dk_42 (dk_at dksX2_people_12 22 rfl rfl)
theorem dX2_people_309 : decode cX2_people 309 = .ok (.getfield 103, 3) := dk_180 0 103 (dk_at dksX2_people_13 0 rfl rfl)
theorem dX2_people_312 : decode cX2_people 312 = .ok (.getfield 118, 3) := dk_180 0 118 (dk_at dksX2_people_13 3 rfl rfl)
theorem dX2_people_315 : decode cX2_people 315 = .ok (.invokevirtual 178, 3) := dk_182 0 178 (dk_at dksX2_people_13 6 rfl rfl)
theorem dX2_people_318 : decode cX2_people 318 = .ok (.invokeinterface 182 2, 5) := by decide +kernel
theorem dX2_people_323 : decode cX2_people 323 = .ok (.checkcast 173, 3) := dk_192 0 173 (dk_at dksX2_people_13 14 rfl rfl)
theorem dX2_people_326 : decode cX2_people 326 = .ok (.astore 7, 2) := dk_58 7 (dk_at dksX2_people_13 17 rfl rfl)
theorem dX2_people_328 : decode cX2_people 328 = .ok (.aload_n 0, 1) := dk_42 (dk_at dksX2_people_13 19 rfl rfl)
theorem dX2_people_329 : decode cX2_people 329 = .ok (.aload_n 0, 1) := dk_42 (dk_at dksX2_people_13 20 rfl rfl)
theorem dX2_people_330 : decode cX2_people 330 = .ok (.getfield 103, 3) := dk_180 0 103 (dk_at dksX2_people_13 21 rfl rfl)
theorem dX2_people_333 : decode cX2_people 333 = .ok (.getfield 107, 3) := dk_180 0 107 (dk_at dksX2_people_14 0 rfl rfl)
theorem dX2_people_336 : decode cX2_people 336 = .ok (.invokevirtual 178, 3) := dk_182 0 178 (dk_at dksX2_people_14 3 rfl rfl)
theorem dX2_people_339 : decode cX2_people 339 = .ok (.istore 8, 2) := dk_54 8 (dk_at dksX2_people_14 6 rfl rfl)
theorem dX2_people_341 : decode cX2_people 341 = .ok (.aload 7, 2) := dk_25 7 (dk_at dksX2_people_14 8 rfl rfl)
theorem dX2_people_343 : decode cX2_people 343 = .ok (.getfield 186, 3) := dk_180 0 186 (dk_at dksX2_people_14 10 rfl rfl)
theorem dX2_people_346 : decode cX2_people 346 = .ok (.aload 7, 2) := dk_25 7 (dk_at dksX2_people_14 13 rfl rfl)
theorem dX2_people_348 : decode cX2_people 348 = .ok (.getfield 189, 3) := dk_180 0 189 (dk_at dksX2_people_14 15 rfl rfl)
theorem dX2_people_351 : decode cX2_people 351 = .ok (.ior, 1) := dk_128 (dk_at dksX2_people_14 18 rfl rfl)
theorem dX2_people_352 : decode cX2_people 352 = .ok (.iload 8, 2) := dk_21 8 (dk_at dksX2_people_14 19 rfl rfl)
theorem dX2_people_354 : decode cX2_people 354 = .ok (.invokestatic 191, 3) := dk_184 0 191 (dk_at dksX2_people_14 21 rfl rfl)
theorem dX2_people_357 : decode cX2_people 357 = .ok (.ifCond .eq 13, 3) := dk_153 0 13 (dk_at dksX2_people_15 0 rfl rfl)
theorem dX2_people_360 : decode cX2_people 360 = .ok (.aload_n 0, 1) := dk_42 (dk_at dksX2_people_15 3 rfl rfl)
theorem dX2_people_361 : decode cX2_people 361 = .ok (.iconst 3, 1) := dk_6 (dk_at dksX2_people_15 4 rfl rfl)
theorem dX2_people_362 : decode cX2_people 362 = .ok (.aload_n 0, 1) := dk_42 (dk_at dksX2_people_15 5 rfl rfl)
theorem dX2_people_363 : decode cX2_people 363 = .ok (.getfield 61, 3) := dk_180 0 61 (dk_at dksX2_people_15 6 rfl rfl)
theorem dX2_people_366 : decode cX2_people 366 = .ok (.invokevirtual 47, 3) := dk_182 0 47 (dk_at dksX2_people_15 9 rfl rfl)
theorem dX2_people_369 : decode cX2_people 369 = .ok (.athrow, 1) := dk_191 (dk_at dksX2_people_15 12 rfl rfl)
theorem dX2_people_370 : decode cX2_people 370 = .ok (.aload_n 1, 1) := dk_43 (dk_at dksX2_people_15 13 rfl rfl)
theorem dX2_people_371 : decode cX2_people 371 = .ok (.ldc 150, 2) := dk_18 150 (dk_at dksX2_people_15 14 rfl rfl)
theorem dX2_people_373 : decode cX2_people 373 = .ok (.invokevirtual 74, 3) := dk_182 0 74 (dk_at dksX2_people_15 16 rfl rfl)
theorem dX2_people_376 : decode cX2_people 376 = .ok (.ifCond .eq 20, 3) := dk_153 0 20 (dk_at dksX2_people_15 19 rfl rfl)
theorem dX2_people_379 : decode cX2_people 379 = .ok (.aload 7, 2) := dk_25 7 (dk_at dksX2_people_15 22 rfl rfl)
theorem dX2_people_381 : decode cX2_people 381 = .ok (.dup, 1) := dk_89 (dk_at dksX2_people_16 0 rfl rfl)
theorem dX2_people_382 : decode cX2_people 382 = .ok (.getfield 186, 3) := dk_180 0 186 (dk_at dksX2_people_16 1 rfl rfl)
theorem dX2_people_385 : decode cX2_people 385 = .ok (.iconst 1, 1) := dk_4 (dk_at dksX2_people_16 4 rfl rfl)
theorem dX2_people_386 : decode cX2_people 386 = .ok (.iload 8, 2) := dk_21 8 (dk_at dksX2_people_16 5 rfl rfl)
theorem dX2_people_388 : decode cX2_people 388 = .ok (.ishl, 1) := dk_120 (dk_at dksX2_people_16 7 rfl rfl)
theorem dX2_people_389 : decode cX2_people 389 = .ok (.ior, 1) := dk_128 (dk_at dksX2_people_16 8 rfl rfl)
theorem dX2_people_390 : decode cX2_people 390 = .ok (.putfield 186, 3) := dk_181 0 186 (dk_at dksX2_people_16 9 rfl rfl)
theorem dX2_people_393 : decode cX2_people 393 = .ok (.goto 17, 3) := dk_167 0 17 (dk_at dksX2_people_16 12 rfl rfl)
theorem dX2_people_396 : decode cX2_people 396 = .ok (.aload 7, 2) := dk_25 7 (dk_at dksX2_people_16 15 rfl rfl)
theorem dX2_people_398 : decode cX2_people 398 = .ok (.dup, 1) := dk_89 (dk_at dksX2_people_16 17 rfl rfl)
theorem dX2_people_399 : decode cX2_people 399 = .ok (.getfield 189, 3) := dk_180 0 189 (dk_at dksX2_people_16 18 rfl rfl)
theorem dX2_people_402 : decode cX2_people 402 = .ok (.iconst 1, 1) := dk_4 (dk_at dksX2_people_16 21 rfl rfl)
theorem dX2_people_403 : decode cX2_people 403 = .ok (.iload 8, 2) := dk_21 8 (dk_at dksX2_people_16 22 rfl rfl)
theorem dX2_people_405 : decode cX2_people 405 = .ok (.ishl, 1) := dk_120 (dk_at dksX2_people_17 0 rfl rfl)
theorem dX2_people_406 : decode cX2_people 406 = .ok (.ior, 1) := dk_128 (dk_at dksX2_people_17 1 rfl rfl)
theorem dX2_people_407 : decode cX2_people 407 = .ok (.putfield 189, 3) := dk_181 0 189 (dk_at dksX2_people_17 2 rfl rfl)
theorem dX2_people_410 : decode cX2_people 410 = .ok (.iconst 1, 1) := dk_4 (dk_at dksX2_people_17 5 rfl rfl)
theorem dX2_people_411 : decode cX2_people 411 = .ok (.ireturn, 1) := dk_172 (dk_at dksX2_people_17 6 rfl rfl)
theorem dX2_people_412 : decode cX2_people 412 = .ok (.aload_n 0, 1) := dk_42 (dk_at dksX2_people_17 7 rfl rfl)
theorem dX2_people_413 : decode cX2_people 413 = .ok (.aload_n 0, 1) := dk_42 (dk_at dksX2_people_17 8 rfl rfl)
theorem dX2_people_414 : decode cX2_people 414 = .ok (.getfield 103, 3) := dk_180 0 103 (dk_at dksX2_people_17 9 rfl rfl)
theorem dX2_people_417 : decode cX2_people 417 = .ok (.getfield 118, 3) := dk_180 0 118 (dk_at dksX2_people_17 12 rfl rfl)
theorem dX2_people_420 : decode cX2_people 420 = .ok (.invokevirtual 178, 3) := dk_182 0 178 (dk_at dksX2_people_17 15 rfl rfl)
theorem dX2_people_423 : decode cX2_people 423 = .ok (.istore 9, 2) := dk_54 9 (dk_at dksX2_people_17 18 rfl rfl)
theorem dX2_people_425 : decode cX2_people 425 = .ok (.aload_n 0, 1) := dk_42 (dk_at dksX2_people_17 20 rfl rfl)
theorem dX2_people_426 : decode cX2_people 426 = .ok (.getfield 103, 3) := dk_180 0 103 (dk_at dksX2_people_17 21 rfl rfl)
theorem dX2_people_429 : decode cX2_people 429 = .ok (.getfield 118, 3) := dk_180 0 118 (dk_at dksX2_people_18 0 rfl rfl)
theorem dX2_people_432 : decode cX2_people 432 = .ok (.iload 9, 2) := dk_21 9 (dk_at dksX2_people_18 3 rfl rfl)
theorem dX2_people_434 : decode cX2_people 434 = .ok (.invokeinterface 182 2, 5) := by decide +kernel
theorem dX2_people_439 : decode cX2_people 439 = .ok (.checkcast 173, 3) := dk_192 0 173 (dk_at dksX2_people_18 10 rfl rfl)
theorem dX2_people_442 : decode cX2_people 442 = .ok (.getfield 195, 3) := dk_180 0 195 (dk_at dksX2_people_18 13 rfl rfl)
theorem dX2_people_445 : decode cX2_people 445 = .ok (.iconst (-1), 1) := dk_2 (dk_at dksX2_people_18 16 rfl rfl)
theorem dX2_people_446 : decode cX2_people 446 = .ok (.if_icmp .eq 13, 3) := dk_159 0 13 (dk_at dksX2_people_18 17 rfl rfl)
theorem dX2_people_449 : decode cX2_people 449 = .ok (.aload_n 0, 1) := dk_42 (dk_at dksX2_people_18 20 rfl rfl)
theorem dX2_people_450 : decode cX2_people 450 = .ok (.iconst 3, 1) := dk_6 (dk_at dksX2_people_18 21 rfl rfl)
theorem dX2_people_451 : decode cX2_people 451 = .ok (.aload_n 0, 1) := dk_42 (dk_at dksX2_people_18 22 rfl rfl)
theorem dX2_people_452 : decode cX2_people 452 = .ok (.getfield 61, 3) := dk_180 0 61 (dk_at dksX2_people_19 0 rfl rfl)
theorem dX2_people_455 : decode cX2_people 455 = .ok (.invokevirtual 47, 3) := dk_182 0 47 (dk_at dksX2_people_19 3 rfl rfl)
theorem dX2_people_458 : decode cX2_people 458 = .ok (.athrow, 1) := dk_191 (dk_at dksX2_people_19 6 rfl rfl)
theorem dX2_people_459 : decode cX2_people 459 = .ok (.aload_n 0, 1) := dk_42 (dk_at dksX2_people_19 7 rfl rfl)
theorem dX2_people_460 : decode cX2_people 460 = .ok (.ldc 198, 2) := dk_18 198 (dk_at dksX2_people_19 8 rfl rfl)
theorem dX2_people_462 : decode cX2_people 462 = .ok (.invokevirtual 93, 3) := dk_182 0 93 (dk_at dksX2_people_19 10 rfl rfl)
theorem dX2_people_465 : decode cX2_people 465 = .ok (.aload_n 0, 1) := dk_42 (dk_at dksX2_people_19 13 rfl rfl)
theorem dX2_people_466 : decode cX2_people 466 = .ok (.aload_n 0, 1) := dk_42 (dk_at dksX2_people_19 14 rfl rfl)
theorem dX2_people_467 : decode cX2_people 467 = .ok (.getfield 103, 3) := dk_180 0 103 (dk_at dksX2_people_19 15 rfl rfl)
theorem dX2_people_470 : decode cX2_people 470 = .ok (.getfield 118, 3) := dk_180 0 118 (dk_at dksX2_people_19 18 rfl rfl)
theorem dX2_people_473 : decode cX2_people 473 = .ok (.invokevirtual 178, 3) := dk_182 0 178 (dk_at dksX2_people_19 21 rfl rfl)
theorem dX2_people_476 : decode cX2_people 476 = .ok (.istore 10, 2) := dk_54 10 (dk_at dksX2_people_20 0 rfl rfl)
theorem dX2_people_478 : decode cX2_people 478 = .ok (.aload_n 0, 1) := dk_42 (dk_at dksX2_people_20 2 rfl rfl)
theorem dX2_people_479 : decode cX2_people 479 = .ok (.getfield 103, 3) := dk_180 0 103 (dk_at dksX2_people_20 3 rfl rfl)
theorem dX2_people_482 : decode cX2_people 482 = .ok (.iload 10, 2) := dk_21 10 (dk_at dksX2_people_20 6 rfl rfl)
theorem dX2_people_484 : decode cX2_people 484 = .ok (.iload 9, 2) := dk_21 9 (dk_at dksX2_people_20 8 rfl rfl)
theorem dX2_people_486 : decode cX2_people 486 = .ok (.invokevirtual 200, 3) := dk_182 0 200 (dk_at dksX2_people_20 10 rfl rfl)
theorem dX2_people_489 : decode cX2_people 489 = .ok (.ifCond .eq 13, 3) := dk_153 0 13 (dk_at dksX2_people_20 13 rfl rfl)
theorem dX2_people_492 : decode cX2_people 492 = .ok (.aload_n 0, 1) := dk_42 (dk_at dksX2_people_20 16 rfl rfl)
theorem dX2_people_493 : decode cX2_people 493 = .ok (.iconst 3, 1) := dk_6 (dk_at dksX2_people_20 17 rfl rfl)
theorem dX2_people_494 : decode cX2_people 494 = .ok (.aload_n 0, 1) := dk_42 (dk_at dksX2_people_20 18 rfl rfl)
theorem dX2_people_495 : decode cX2_people 495 = .ok (.getfield 61, 3) := dk_180 0 61 (dk_at dksX2_people_20 19 rfl rfl)
theorem dX2_people_498 : decode cX2_people 498 = .ok (.invokevirtual 47, 3) := dk_182 0 47 (dk_at dksX2_people_21 0 rfl rfl)
theorem dX2_people_501 : decode cX2_people 501 = .ok (.athrow, 1) := dk_191 (dk_at dksX2_people_21 3 rfl rfl)
theorem dX2_people_502 : decode cX2_people 502 = .ok (.aload_n 0, 1) := dk_42 (dk_at dksX2_people_21 4 rfl rfl)
theorem dX2_people_503 : decode cX2_people 503 = .ok (.getfield 103, 3) := dk_180 0 103 (dk_at dksX2_people_21 5 rfl rfl)
theorem dX2_people_506 : decode cX2_people 506 = .ok (.getfield 118, 3) := dk_180 0 118 (dk_at dksX2_people_21 8 rfl rfl)
theorem dX2_people_509 : decode cX2_people 509 = .ok (.iload 9, 2) := dk_21 9 (dk_at dksX2_people_21 11 rfl rfl)
theorem dX2_people_511 : decode cX2_people 511 = .ok (.invokeinterface 182 2, 5) := by decide +kernel
theorem dX2_people_516 : decode cX2_people 516 = .ok (.checkcast 173, 3) := dk_192 0 173 (dk_at dksX2_people_21 18 rfl rfl)
theorem dX2_people_519 : decode cX2_people 519 = .ok (.iload 10, 2) := dk_21 10 (dk_at dksX2_people_21 21 rfl rfl)
theorem dX2_people_521 : decode cX2_people 521 = .ok (.putfield 195, 3) := dk_181 0 195 (dk_at dksX2_people_22 0 rfl rfl)
theorem dX2_people_524 : decode cX2_people 524 = .ok (.iconst 1, 1) := dk_4 (dk_at dksX2_people_22 3 rfl rfl)
theorem dX2_people_525 : decode cX2_people 525 = .ok (.ireturn, 1) := dk_172 (dk_at dksX2_people_22 4 rfl rfl)
theorem dX2_people_526 : decode cX2_people 526 = .ok (.iconst 0, 1) := dk_3 (dk_at dksX2_people_22 5 rfl rfl)
theorem dX2_people_527 : decode cX2_people 527 = .ok (.ireturn, 1) := dk_172 (dk_at dksX2_people_22 6 rfl rfl)
abbrev cX2_fresh : ByteArray := prog_15_method_13_code
def yX2_fresh : MethodName := ⟨RX2, "fresh", "()Ljava/lang/String;"⟩
def dkwX2_fresh_1 : List UInt8 := [180, 0, 118, 43, 184, 0, 113, 2, 159, 0, 13, 42, 6, 42, 180, 0, 61, 182, 0, 47, 191, 43, 176]
abbrev dktX2_fresh_1 : List UInt8 := dkwX2_fresh_1 ++ []
def dkwX2_fresh_0 : List UInt8 := [42, 182, 0, 100, 76, 42, 180, 0, 103, 180, 0, 107, 43, 184, 0, 113, 2, 160, 0, 18, 42, 180, 0, 103]
abbrev dktX2_fresh_0 : List UInt8 := dkwX2_fresh_0 ++ dktX2_fresh_1
theorem dksX2_fresh_0 : cX2_fresh.data.toList.drop 0 = dktX2_fresh_0 := by decide +kernel
theorem dksX2_fresh_1 : cX2_fresh.data.toList.drop 24 = dktX2_fresh_1 := dk_seg dksX2_fresh_0 24 rfl rfl
theorem dX2_fresh_0 : decode cX2_fresh 0 = .ok (.aload_n 0, 1) := dk_42 (dk_at dksX2_fresh_0 0 rfl rfl)
theorem dX2_fresh_1 : decode cX2_fresh 1 = .ok (.invokevirtual 100, 3) := dk_182 0 100 (dk_at dksX2_fresh_0 1 rfl rfl)
theorem dX2_fresh_4 : decode cX2_fresh 4 = .ok (.astore_n 1, 1) := dk_76 (dk_at dksX2_fresh_0 4 rfl rfl)
theorem dX2_fresh_5 : decode cX2_fresh 5 = .ok (.aload_n 0, 1) := dk_42 (dk_at dksX2_fresh_0 5 rfl rfl)
theorem dX2_fresh_6 : decode cX2_fresh 6 = .ok (.getfield 103, 3) := dk_180 0 103 (dk_at dksX2_fresh_0 6 rfl rfl)
theorem dX2_fresh_9 : decode cX2_fresh 9 = .ok (.getfield 107, 3) := dk_180 0 107 (dk_at dksX2_fresh_0 9 rfl rfl)
theorem dX2_fresh_12 : decode cX2_fresh 12 = .ok (.aload_n 1, 1) := dk_43 (dk_at dksX2_fresh_0 12 rfl rfl)
theorem dX2_fresh_13 : decode cX2_fresh 13 = .ok (.invokestatic 113, 3) := dk_184 0 113 (dk_at dksX2_fresh_0 13 rfl rfl)
theorem dX2_fresh_16 : decode cX2_fresh 16 = .ok (.iconst (-1), 1) := dk_2 (dk_at dksX2_fresh_0 16 rfl rfl)
theorem dX2_fresh_17 : decode cX2_fresh 17 = .ok (.if_icmp .ne 18, 3) := dk_160 0 18 (dk_at dksX2_fresh_0 17 rfl rfl)
theorem dX2_fresh_20 : decode cX2_fresh 20 = .ok (.aload_n 0, 1) := dk_42 (dk_at dksX2_fresh_0 20 rfl rfl)
theorem dX2_fresh_21 : decode cX2_fresh 21 = .ok (.getfield 103, 3) := dk_180 0 103 (dk_at dksX2_fresh_0 21 rfl rfl)
theorem dX2_fresh_24 : decode cX2_fresh 24 = .ok (.getfield 118, 3) := dk_180 0 118 (dk_at dksX2_fresh_1 0 rfl rfl)
theorem dX2_fresh_27 : decode cX2_fresh 27 = .ok (.aload_n 1, 1) := dk_43 (dk_at dksX2_fresh_1 3 rfl rfl)
theorem dX2_fresh_28 : decode cX2_fresh 28 = .ok (.invokestatic 113, 3) := dk_184 0 113 (dk_at dksX2_fresh_1 4 rfl rfl)
theorem dX2_fresh_31 : decode cX2_fresh 31 = .ok (.iconst (-1), 1) := dk_2 (dk_at dksX2_fresh_1 7 rfl rfl)
theorem dX2_fresh_32 : decode cX2_fresh 32 = .ok (.if_icmp .eq 13, 3) := dk_159 0 13 (dk_at dksX2_fresh_1 8 rfl rfl)
theorem dX2_fresh_35 : decode cX2_fresh 35 = .ok (.aload_n 0, 1) := dk_42 (dk_at dksX2_fresh_1 11 rfl rfl)
theorem dX2_fresh_36 : decode cX2_fresh 36 = .ok (.iconst 3, 1) := dk_6 (dk_at dksX2_fresh_1 12 rfl rfl)
theorem dX2_fresh_37 : decode cX2_fresh 37 = .ok (.aload_n 0, 1) := dk_42 (dk_at dksX2_fresh_1 13 rfl rfl)
theorem dX2_fresh_38 : decode cX2_fresh 38 = .ok (.getfield 61, 3) := dk_180 0 61 (dk_at dksX2_fresh_1 14 rfl rfl)
theorem dX2_fresh_41 : decode cX2_fresh 41 = .ok (.invokevirtual 47, 3) := dk_182 0 47 (dk_at dksX2_fresh_1 17 rfl rfl)
theorem dX2_fresh_44 : decode cX2_fresh 44 = .ok (.athrow, 1) := dk_191 (dk_at dksX2_fresh_1 20 rfl rfl)
theorem dX2_fresh_45 : decode cX2_fresh 45 = .ok (.aload_n 1, 1) := dk_43 (dk_at dksX2_fresh_1 21 rfl rfl)
theorem dX2_fresh_46 : decode cX2_fresh 46 = .ok (.areturn, 1) := dk_176 (dk_at dksX2_fresh_1 22 rfl rfl)
abbrev cX2_name : ByteArray := prog_15_method_10_code
def yX2_name : MethodName := ⟨RX2, "name", "()Ljava/lang/String;"⟩
def dkwX2_name_2 : List UInt8 := [182, 0, 47, 191, 43, 176]
abbrev dktX2_name_2 : List UInt8 := dkwX2_name_2 ++ []
def dkwX2_name_1 : List UInt8 := [182, 0, 47, 191, 43, 182, 0, 86, 16, 6, 164, 0, 16, 42, 4, 42, 180, 0, 61, 16, 6, 96]
abbrev dktX2_name_1 : List UInt8 := dkwX2_name_1 ++ dktX2_name_2
def dkwX2_name_0 : List UInt8 := [42, 182, 0, 70, 76, 43, 178, 0, 78, 184, 0, 82, 2, 159, 0, 13, 42, 4, 42, 180, 0, 61]
abbrev dktX2_name_0 : List UInt8 := dkwX2_name_0 ++ dktX2_name_1
theorem dksX2_name_0 : cX2_name.data.toList.drop 0 = dktX2_name_0 := by decide +kernel
theorem dksX2_name_1 : cX2_name.data.toList.drop 22 = dktX2_name_1 := dk_seg dksX2_name_0 22 rfl rfl
theorem dksX2_name_2 : cX2_name.data.toList.drop 44 = dktX2_name_2 := dk_seg dksX2_name_1 22 rfl rfl
theorem dX2_name_0 : decode cX2_name 0 = .ok (.aload_n 0, 1) := dk_42 (dk_at dksX2_name_0 0 rfl rfl)
theorem dX2_name_1 : decode cX2_name 1 = .ok (.invokevirtual 70, 3) := dk_182 0 70 (dk_at dksX2_name_0 1 rfl rfl)
theorem dX2_name_4 : decode cX2_name 4 = .ok (.astore_n 1, 1) := dk_76 (dk_at dksX2_name_0 4 rfl rfl)
theorem dX2_name_5 : decode cX2_name 5 = .ok (.aload_n 1, 1) := dk_43 (dk_at dksX2_name_0 5 rfl rfl)
theorem dX2_name_6 : decode cX2_name 6 = .ok (.getstatic 78, 3) := dk_178 0 78 (dk_at dksX2_name_0 6 rfl rfl)
theorem dX2_name_9 : decode cX2_name 9 = .ok (.invokestatic 82, 3) := dk_184 0 82 (dk_at dksX2_name_0 9 rfl rfl)
theorem dX2_name_12 : decode cX2_name 12 = .ok (.iconst (-1), 1) := dk_2 (dk_at dksX2_name_0 12 rfl rfl)
theorem dX2_name_13 : decode cX2_name 13 = .ok (.if_icmp .eq 13, 3) := dk_159 0 13 (dk_at dksX2_name_0 13 rfl rfl)
theorem dX2_name_16 : decode cX2_name 16 = .ok (.aload_n 0, 1) := dk_42 (dk_at dksX2_name_0 16 rfl rfl)
theorem dX2_name_17 : decode cX2_name 17 = .ok (.iconst 1, 1) := dk_4 (dk_at dksX2_name_0 17 rfl rfl)
theorem dX2_name_18 : decode cX2_name 18 = .ok (.aload_n 0, 1) := dk_42 (dk_at dksX2_name_0 18 rfl rfl)
theorem dX2_name_19 : decode cX2_name 19 = .ok (.getfield 61, 3) := dk_180 0 61 (dk_at dksX2_name_0 19 rfl rfl)
theorem dX2_name_22 : decode cX2_name 22 = .ok (.invokevirtual 47, 3) := dk_182 0 47 (dk_at dksX2_name_1 0 rfl rfl)
theorem dX2_name_25 : decode cX2_name 25 = .ok (.athrow, 1) := dk_191 (dk_at dksX2_name_1 3 rfl rfl)
theorem dX2_name_26 : decode cX2_name 26 = .ok (.aload_n 1, 1) := dk_43 (dk_at dksX2_name_1 4 rfl rfl)
theorem dX2_name_27 : decode cX2_name 27 = .ok (.invokevirtual 86, 3) := dk_182 0 86 (dk_at dksX2_name_1 5 rfl rfl)
theorem dX2_name_30 : decode cX2_name 30 = .ok (.bipush 6, 2) := dk_16 6 (dk_at dksX2_name_1 8 rfl rfl)
theorem dX2_name_32 : decode cX2_name 32 = .ok (.if_icmp .le 16, 3) := dk_164 0 16 (dk_at dksX2_name_1 10 rfl rfl)
theorem dX2_name_35 : decode cX2_name 35 = .ok (.aload_n 0, 1) := dk_42 (dk_at dksX2_name_1 13 rfl rfl)
theorem dX2_name_36 : decode cX2_name 36 = .ok (.iconst 1, 1) := dk_4 (dk_at dksX2_name_1 14 rfl rfl)
theorem dX2_name_37 : decode cX2_name 37 = .ok (.aload_n 0, 1) := dk_42 (dk_at dksX2_name_1 15 rfl rfl)
theorem dX2_name_38 : decode cX2_name 38 = .ok (.getfield 61, 3) := dk_180 0 61 (dk_at dksX2_name_1 16 rfl rfl)
theorem dX2_name_41 : decode cX2_name 41 = .ok (.bipush 6, 2) := dk_16 6 (dk_at dksX2_name_1 19 rfl rfl)
theorem dX2_name_43 : decode cX2_name 43 = .ok (.iadd, 1) := dk_96 (dk_at dksX2_name_1 21 rfl rfl)
theorem dX2_name_44 : decode cX2_name 44 = .ok (.invokevirtual 47, 3) := dk_182 0 47 (dk_at dksX2_name_2 0 rfl rfl)
theorem dX2_name_47 : decode cX2_name 47 = .ok (.athrow, 1) := dk_191 (dk_at dksX2_name_2 3 rfl rfl)
theorem dX2_name_48 : decode cX2_name 48 = .ok (.aload_n 1, 1) := dk_43 (dk_at dksX2_name_2 4 rfl rfl)
theorem dX2_name_49 : decode cX2_name 49 = .ok (.areturn, 1) := dk_176 (dk_at dksX2_name_2 5 rfl rfl)
abbrev cX2_number : ByteArray := prog_15_method_12_code
def yX2_number : MethodName := ⟨RX2, "number", "(Ljava/lang/String;II)I"⟩
def dkwX2_number_0 : List UInt8 := [42, 43, 182, 0, 93, 42, 28, 29, 182, 0, 96, 172]
abbrev dktX2_number_0 : List UInt8 := dkwX2_number_0 ++ []
theorem dksX2_number_0 : cX2_number.data.toList.drop 0 = dktX2_number_0 := by decide +kernel
theorem dX2_number_0 : decode cX2_number 0 = .ok (.aload_n 0, 1) := dk_42 (dk_at dksX2_number_0 0 rfl rfl)
theorem dX2_number_1 : decode cX2_number 1 = .ok (.aload_n 1, 1) := dk_43 (dk_at dksX2_number_0 1 rfl rfl)
theorem dX2_number_2 : decode cX2_number 2 = .ok (.invokevirtual 93, 3) := dk_182 0 93 (dk_at dksX2_number_0 2 rfl rfl)
theorem dX2_number_5 : decode cX2_number 5 = .ok (.aload_n 0, 1) := dk_42 (dk_at dksX2_number_0 5 rfl rfl)
theorem dX2_number_6 : decode cX2_number 6 = .ok (.iload_n 2, 1) := dk_28 (dk_at dksX2_number_0 6 rfl rfl)
theorem dX2_number_7 : decode cX2_number 7 = .ok (.iload_n 3, 1) := dk_29 (dk_at dksX2_number_0 7 rfl rfl)
theorem dX2_number_8 : decode cX2_number 8 = .ok (.invokevirtual 96, 3) := dk_182 0 96 (dk_at dksX2_number_0 8 rfl rfl)
theorem dX2_number_11 : decode cX2_number 11 = .ok (.ireturn, 1) := dk_172 (dk_at dksX2_number_0 11 rfl rfl)
abbrev cX2_word_2 : ByteArray := prog_15_method_8_code
def yX2_word_2 : MethodName := ⟨RX2, "word", "(Ljava/lang/String;)V"⟩
def dkwX2_word_2_0 : List UInt8 := [42, 182, 0, 70, 43, 182, 0, 74, 154, 0, 13, 42, 4, 42, 180, 0, 61, 182, 0, 47, 191, 177]
abbrev dktX2_word_2_0 : List UInt8 := dkwX2_word_2_0 ++ []
theorem dksX2_word_2_0 : cX2_word_2.data.toList.drop 0 = dktX2_word_2_0 := by decide +kernel
theorem dX2_word_2_0 : decode cX2_word_2 0 = .ok (.aload_n 0, 1) := dk_42 (dk_at dksX2_word_2_0 0 rfl rfl)
theorem dX2_word_2_1 : decode cX2_word_2 1 = .ok (.invokevirtual 70, 3) := dk_182 0 70 (dk_at dksX2_word_2_0 1 rfl rfl)
theorem dX2_word_2_4 : decode cX2_word_2 4 = .ok (.aload_n 1, 1) := dk_43 (dk_at dksX2_word_2_0 4 rfl rfl)
theorem dX2_word_2_5 : decode cX2_word_2 5 = .ok (.invokevirtual 74, 3) := dk_182 0 74 (dk_at dksX2_word_2_0 5 rfl rfl)
theorem dX2_word_2_8 : decode cX2_word_2 8 = .ok (.ifCond .ne 13, 3) := dk_154 0 13 (dk_at dksX2_word_2_0 8 rfl rfl)
theorem dX2_word_2_11 : decode cX2_word_2 11 = .ok (.aload_n 0, 1) := dk_42 (dk_at dksX2_word_2_0 11 rfl rfl)
theorem dX2_word_2_12 : decode cX2_word_2 12 = .ok (.iconst 1, 1) := dk_4 (dk_at dksX2_word_2_0 12 rfl rfl)
theorem dX2_word_2_13 : decode cX2_word_2 13 = .ok (.aload_n 0, 1) := dk_42 (dk_at dksX2_word_2_0 13 rfl rfl)
theorem dX2_word_2_14 : decode cX2_word_2 14 = .ok (.getfield 61, 3) := dk_180 0 61 (dk_at dksX2_word_2_0 14 rfl rfl)
theorem dX2_word_2_17 : decode cX2_word_2 17 = .ok (.invokevirtual 47, 3) := dk_182 0 47 (dk_at dksX2_word_2_0 17 rfl rfl)
theorem dX2_word_2_20 : decode cX2_word_2 20 = .ok (.athrow, 1) := dk_191 (dk_at dksX2_word_2_0 20 rfl rfl)
theorem dX2_word_2_21 : decode cX2_word_2 21 = .ok (.return_, 1) := dk_177 (dk_at dksX2_word_2_0 21 rfl rfl)
abbrev cX2_number_2 : ByteArray := prog_15_method_11_code
def yX2_number_2 : MethodName := ⟨RX2, "number", "(II)I"⟩
def dkwX2_number_2_5 : List UInt8 := [191, 29, 172]
abbrev dktX2_number_2_5 : List UInt8 := dkwX2_number_2_5 ++ []
def dkwX2_number_2_4 : List UInt8 := [181, 0, 36, 167, 255, 192, 29, 27, 28, 184, 0, 89, 154, 0, 13, 42, 5, 42, 180, 0, 61, 182, 0, 47]
abbrev dktX2_number_2_4 : List UInt8 := dkwX2_number_2_4 ++ dktX2_number_2_5
def dkwX2_number_2_3 : List UInt8 := [16, 10, 29, 104, 42, 42, 180, 0, 36, 182, 0, 39, 96, 16, 48, 100, 62, 42, 89, 180, 0, 36, 4, 96]
abbrev dktX2_number_2_3 : List UInt8 := dkwX2_number_2_3 ++ dktX2_number_2_4
def dkwX2_number_2_2 : List UInt8 := [42, 180, 0, 36, 42, 180, 0, 61, 100, 7, 160, 0, 13, 42, 4, 42, 180, 0, 36, 182, 0, 47, 191]
abbrev dktX2_number_2_2 : List UInt8 := dkwX2_number_2_2 ++ dktX2_number_2_3
def dkwX2_number_2_1 : List UInt8 := [42, 42, 180, 0, 36, 181, 0, 61, 3, 62, 42, 42, 180, 0, 36, 182, 0, 39, 184, 0, 55, 153, 0, 56]
abbrev dktX2_number_2_1 : List UInt8 := dkwX2_number_2_1 ++ dktX2_number_2_2
def dkwX2_number_2_0 : List UInt8 := [42, 182, 0, 43, 184, 0, 55, 154, 0, 13, 42, 4, 42, 180, 0, 36, 182, 0, 47, 191, 42, 182, 0, 58]
abbrev dktX2_number_2_0 : List UInt8 := dkwX2_number_2_0 ++ dktX2_number_2_1
theorem dksX2_number_2_0 : cX2_number_2.data.toList.drop 0 = dktX2_number_2_0 := by decide +kernel
theorem dksX2_number_2_1 : cX2_number_2.data.toList.drop 24 = dktX2_number_2_1 := dk_seg dksX2_number_2_0 24 rfl rfl
theorem dksX2_number_2_2 : cX2_number_2.data.toList.drop 48 = dktX2_number_2_2 := dk_seg dksX2_number_2_1 24 rfl rfl
theorem dksX2_number_2_3 : cX2_number_2.data.toList.drop 71 = dktX2_number_2_3 := dk_seg dksX2_number_2_2 23 rfl rfl
theorem dksX2_number_2_4 : cX2_number_2.data.toList.drop 95 = dktX2_number_2_4 := dk_seg dksX2_number_2_3 24 rfl rfl
theorem dksX2_number_2_5 : cX2_number_2.data.toList.drop 119 = dktX2_number_2_5 := dk_seg dksX2_number_2_4 24 rfl rfl
theorem dX2_number_2_0 : decode cX2_number_2 0 = .ok (.aload_n 0, 1) := dk_42 (dk_at dksX2_number_2_0 0 rfl rfl)
theorem dX2_number_2_1 : decode cX2_number_2 1 = .ok (.invokevirtual 43, 3) := dk_182 0 43 (dk_at dksX2_number_2_0 1 rfl rfl)
theorem dX2_number_2_4 : decode cX2_number_2 4 = .ok (.invokestatic 55, 3) := dk_184 0 55 (dk_at dksX2_number_2_0 4 rfl rfl)
theorem dX2_number_2_7 : decode cX2_number_2 7 = .ok (.ifCond .ne 13, 3) := dk_154 0 13 (dk_at dksX2_number_2_0 7 rfl rfl)
theorem dX2_number_2_10 : decode cX2_number_2 10 = .ok (.aload_n 0, 1) := dk_42 (dk_at dksX2_number_2_0 10 rfl rfl)
theorem dX2_number_2_11 : decode cX2_number_2 11 = .ok (.iconst 1, 1) := dk_4 (dk_at dksX2_number_2_0 11 rfl rfl)
theorem dX2_number_2_12 : decode cX2_number_2 12 = .ok (.aload_n 0, 1) := dk_42 (dk_at dksX2_number_2_0 12 rfl rfl)
theorem dX2_number_2_13 : decode cX2_number_2 13 = .ok (.getfield 36, 3) := dk_180 0 36 (dk_at dksX2_number_2_0 13 rfl rfl)
theorem dX2_number_2_16 : decode cX2_number_2 16 = .ok (.invokevirtual 47, 3) := dk_182 0 47 (dk_at dksX2_number_2_0 16 rfl rfl)
theorem dX2_number_2_19 : decode cX2_number_2 19 = .ok (.athrow, 1) := dk_191 (dk_at dksX2_number_2_0 19 rfl rfl)
theorem dX2_number_2_20 : decode cX2_number_2 20 = .ok (.aload_n 0, 1) := dk_42 (dk_at dksX2_number_2_0 20 rfl rfl)
theorem dX2_number_2_21 : decode cX2_number_2 21 = .ok (.invokevirtual 58, 3) := dk_182 0 58 (dk_at dksX2_number_2_0 21 rfl rfl)
theorem dX2_number_2_24 : decode cX2_number_2 24 = .ok (.aload_n 0, 1) := dk_42 (dk_at dksX2_number_2_1 0 rfl rfl)
theorem dX2_number_2_25 : decode cX2_number_2 25 = .ok (.aload_n 0, 1) := dk_42 (dk_at dksX2_number_2_1 1 rfl rfl)
theorem dX2_number_2_26 : decode cX2_number_2 26 = .ok (.getfield 36, 3) := dk_180 0 36 (dk_at dksX2_number_2_1 2 rfl rfl)
theorem dX2_number_2_29 : decode cX2_number_2 29 = .ok (.putfield 61, 3) := dk_181 0 61 (dk_at dksX2_number_2_1 5 rfl rfl)
theorem dX2_number_2_32 : decode cX2_number_2 32 = .ok (.iconst 0, 1) := dk_3 (dk_at dksX2_number_2_1 8 rfl rfl)
theorem dX2_number_2_33 : decode cX2_number_2 33 = .ok (.istore_n 3, 1) := dk_62 (dk_at dksX2_number_2_1 9 rfl rfl)
theorem dX2_number_2_34 : decode cX2_number_2 34 = .ok (.aload_n 0, 1) := dk_42 (dk_at dksX2_number_2_1 10 rfl rfl)
theorem dX2_number_2_35 : decode cX2_number_2 35 = .ok (.aload_n 0, 1) := dk_42 (dk_at dksX2_number_2_1 11 rfl rfl)
theorem dX2_number_2_36 : decode cX2_number_2 36 = .ok (.getfield 36, 3) := dk_180 0 36 (dk_at dksX2_number_2_1 12 rfl rfl)
theorem dX2_number_2_39 : decode cX2_number_2 39 = .ok (.invokevirtual 39, 3) := dk_182 0 39 (dk_at dksX2_number_2_1 15 rfl rfl)
theorem dX2_number_2_42 : decode cX2_number_2 42 = .ok (.invokestatic 55, 3) := dk_184 0 55 (dk_at dksX2_number_2_1 18 rfl rfl)
theorem dX2_number_2_45 : decode cX2_number_2 45 = .ok (.ifCond .eq 56, 3) := dk_153 0 56 (dk_at dksX2_number_2_1 21 rfl rfl)
theorem dX2_number_2_48 : decode cX2_number_2 48 = .ok (.aload_n 0, 1) := dk_42 (dk_at dksX2_number_2_2 0 rfl rfl)
theorem dX2_number_2_49 : decode cX2_number_2 49 = .ok (.getfield 36, 3) := dk_180 0 36 (dk_at dksX2_number_2_2 1 rfl rfl)
theorem dX2_number_2_52 : decode cX2_number_2 52 = .ok (.aload_n 0, 1) := dk_42 (dk_at dksX2_number_2_2 4 rfl rfl)
theorem dX2_number_2_53 : decode cX2_number_2 53 = .ok (.getfield 61, 3) := dk_180 0 61 (dk_at dksX2_number_2_2 5 rfl rfl)
theorem dX2_number_2_56 : decode cX2_number_2 56 = .ok (.isub, 1) := dk_100 (dk_at dksX2_number_2_2 8 rfl rfl)
theorem dX2_number_2_57 : decode cX2_number_2 57 = .ok (.iconst 4, 1) := dk_7 (dk_at dksX2_number_2_2 9 rfl rfl)
theorem dX2_number_2_58 : decode cX2_number_2 58 = .ok (.if_icmp .ne 13, 3) := dk_160 0 13 (dk_at dksX2_number_2_2 10 rfl rfl)
theorem dX2_number_2_61 : decode cX2_number_2 61 = .ok (.aload_n 0, 1) := dk_42 (dk_at dksX2_number_2_2 13 rfl rfl)
theorem dX2_number_2_62 : decode cX2_number_2 62 = .ok (.iconst 1, 1) := dk_4 (dk_at dksX2_number_2_2 14 rfl rfl)
theorem dX2_number_2_63 : decode cX2_number_2 63 = .ok (.aload_n 0, 1) := dk_42 (dk_at dksX2_number_2_2 15 rfl rfl)
theorem dX2_number_2_64 : decode cX2_number_2 64 = .ok (.getfield 36, 3) := dk_180 0 36 (dk_at dksX2_number_2_2 16 rfl rfl)
theorem dX2_number_2_67 : decode cX2_number_2 67 = .ok (.invokevirtual 47, 3) := dk_182 0 47 (dk_at dksX2_number_2_2 19 rfl rfl)
theorem dX2_number_2_70 : decode cX2_number_2 70 = .ok (.athrow, 1) := dk_191 (dk_at dksX2_number_2_2 22 rfl rfl)
theorem dX2_number_2_71 : decode cX2_number_2 71 = .ok (.bipush 10, 2) := dk_16 10 (dk_at dksX2_number_2_3 0 rfl rfl)
theorem dX2_number_2_73 : decode cX2_number_2 73 = .ok (.iload_n 3, 1) := dk_29 (dk_at dksX2_number_2_3 2 rfl rfl)
theorem dX2_number_2_74 : decode cX2_number_2 74 = .ok (.imul, 1) := dk_104 (dk_at dksX2_number_2_3 3 rfl rfl)
theorem dX2_number_2_75 : decode cX2_number_2 75 = .ok (.aload_n 0, 1) := dk_42 (dk_at dksX2_number_2_3 4 rfl rfl)
theorem dX2_number_2_76 : decode cX2_number_2 76 = .ok (.aload_n 0, 1) := dk_42 (dk_at dksX2_number_2_3 5 rfl rfl)
theorem dX2_number_2_77 : decode cX2_number_2 77 = .ok (.getfield 36, 3) := dk_180 0 36 (dk_at dksX2_number_2_3 6 rfl rfl)
theorem dX2_number_2_80 : decode cX2_number_2 80 = .ok (.invokevirtual 39, 3) := dk_182 0 39 (dk_at dksX2_number_2_3 9 rfl rfl)
theorem dX2_number_2_83 : decode cX2_number_2 83 = .ok (.iadd, 1) := dk_96 (dk_at dksX2_number_2_3 12 rfl rfl)
theorem dX2_number_2_84 : decode cX2_number_2 84 = .ok (.bipush 48, 2) := dk_16 48 (dk_at dksX2_number_2_3 13 rfl rfl)
theorem dX2_number_2_86 : decode cX2_number_2 86 = .ok (.isub, 1) := dk_100 (dk_at dksX2_number_2_3 15 rfl rfl)
theorem dX2_number_2_87 : decode cX2_number_2 87 = .ok (.istore_n 3, 1) := dk_62 (dk_at dksX2_number_2_3 16 rfl rfl)
theorem dX2_number_2_88 : decode cX2_number_2 88 = .ok (.aload_n 0, 1) := dk_42 (dk_at dksX2_number_2_3 17 rfl rfl)
theorem dX2_number_2_89 : decode cX2_number_2 89 = .ok (.dup, 1) := dk_89 (dk_at dksX2_number_2_3 18 rfl rfl)
theorem dX2_number_2_90 : decode cX2_number_2 90 = .ok (.getfield 36, 3) := dk_180 0 36 (dk_at dksX2_number_2_3 19 rfl rfl)
theorem dX2_number_2_93 : decode cX2_number_2 93 = .ok (.iconst 1, 1) := dk_4 (dk_at dksX2_number_2_3 22 rfl rfl)
theorem dX2_number_2_94 : decode cX2_number_2 94 = .ok (.iadd, 1) := dk_96 (dk_at dksX2_number_2_3 23 rfl rfl)
theorem dX2_number_2_95 : decode cX2_number_2 95 = .ok (.putfield 36, 3) := dk_181 0 36 (dk_at dksX2_number_2_4 0 rfl rfl)
theorem dX2_number_2_98 : decode cX2_number_2 98 = .ok (.goto (-64), 3) := dk_167 255 192 (dk_at dksX2_number_2_4 3 rfl rfl)
theorem dX2_number_2_101 : decode cX2_number_2 101 = .ok (.iload_n 3, 1) := dk_29 (dk_at dksX2_number_2_4 6 rfl rfl)
theorem dX2_number_2_102 : decode cX2_number_2 102 = .ok (.iload_n 1, 1) := dk_27 (dk_at dksX2_number_2_4 7 rfl rfl)
theorem dX2_number_2_103 : decode cX2_number_2 103 = .ok (.iload_n 2, 1) := dk_28 (dk_at dksX2_number_2_4 8 rfl rfl)
theorem dX2_number_2_104 : decode cX2_number_2 104 = .ok (.invokestatic 89, 3) := dk_184 0 89 (dk_at dksX2_number_2_4 9 rfl rfl)
theorem dX2_number_2_107 : decode cX2_number_2 107 = .ok (.ifCond .ne 13, 3) := dk_154 0 13 (dk_at dksX2_number_2_4 12 rfl rfl)
theorem dX2_number_2_110 : decode cX2_number_2 110 = .ok (.aload_n 0, 1) := dk_42 (dk_at dksX2_number_2_4 15 rfl rfl)
theorem dX2_number_2_111 : decode cX2_number_2 111 = .ok (.iconst 2, 1) := dk_5 (dk_at dksX2_number_2_4 16 rfl rfl)
theorem dX2_number_2_112 : decode cX2_number_2 112 = .ok (.aload_n 0, 1) := dk_42 (dk_at dksX2_number_2_4 17 rfl rfl)
theorem dX2_number_2_113 : decode cX2_number_2 113 = .ok (.getfield 61, 3) := dk_180 0 61 (dk_at dksX2_number_2_4 18 rfl rfl)
theorem dX2_number_2_116 : decode cX2_number_2 116 = .ok (.invokevirtual 47, 3) := dk_182 0 47 (dk_at dksX2_number_2_4 21 rfl rfl)
theorem dX2_number_2_119 : decode cX2_number_2 119 = .ok (.athrow, 1) := dk_191 (dk_at dksX2_number_2_5 0 rfl rfl)
theorem dX2_number_2_120 : decode cX2_number_2 120 = .ok (.iload_n 3, 1) := dk_29 (dk_at dksX2_number_2_5 1 rfl rfl)
theorem dX2_number_2_121 : decode cX2_number_2 121 = .ok (.ireturn, 1) := dk_172 (dk_at dksX2_number_2_5 2 rfl rfl)
abbrev cX2_known : ByteArray := prog_15_method_14_code
def yX2_known : MethodName := ⟨RX2, "known", "(Ljava/util/List;)I"⟩
def dkwX2_known_1 : List UInt8 := [28, 172]
abbrev dktX2_known_1 : List UInt8 := dkwX2_known_1 ++ []
def dkwX2_known_0 : List UInt8 := [43, 42, 182, 0, 100, 184, 0, 113, 61, 28, 2, 160, 0, 13, 42, 6, 42, 180, 0, 61, 182, 0, 47, 191]
abbrev dktX2_known_0 : List UInt8 := dkwX2_known_0 ++ dktX2_known_1
theorem dksX2_known_0 : cX2_known.data.toList.drop 0 = dktX2_known_0 := by decide +kernel
theorem dksX2_known_1 : cX2_known.data.toList.drop 24 = dktX2_known_1 := dk_seg dksX2_known_0 24 rfl rfl
theorem dX2_known_0 : decode cX2_known 0 = .ok (.aload_n 1, 1) := dk_43 (dk_at dksX2_known_0 0 rfl rfl)
theorem dX2_known_1 : decode cX2_known 1 = .ok (.aload_n 0, 1) := dk_42 (dk_at dksX2_known_0 1 rfl rfl)
theorem dX2_known_2 : decode cX2_known 2 = .ok (.invokevirtual 100, 3) := dk_182 0 100 (dk_at dksX2_known_0 2 rfl rfl)
theorem dX2_known_5 : decode cX2_known 5 = .ok (.invokestatic 113, 3) := dk_184 0 113 (dk_at dksX2_known_0 5 rfl rfl)
theorem dX2_known_8 : decode cX2_known 8 = .ok (.istore_n 2, 1) := dk_61 (dk_at dksX2_known_0 8 rfl rfl)
theorem dX2_known_9 : decode cX2_known 9 = .ok (.iload_n 2, 1) := dk_28 (dk_at dksX2_known_0 9 rfl rfl)
theorem dX2_known_10 : decode cX2_known 10 = .ok (.iconst (-1), 1) := dk_2 (dk_at dksX2_known_0 10 rfl rfl)
theorem dX2_known_11 : decode cX2_known 11 = .ok (.if_icmp .ne 13, 3) := dk_160 0 13 (dk_at dksX2_known_0 11 rfl rfl)
theorem dX2_known_14 : decode cX2_known 14 = .ok (.aload_n 0, 1) := dk_42 (dk_at dksX2_known_0 14 rfl rfl)
theorem dX2_known_15 : decode cX2_known 15 = .ok (.iconst 3, 1) := dk_6 (dk_at dksX2_known_0 15 rfl rfl)
theorem dX2_known_16 : decode cX2_known 16 = .ok (.aload_n 0, 1) := dk_42 (dk_at dksX2_known_0 16 rfl rfl)
theorem dX2_known_17 : decode cX2_known 17 = .ok (.getfield 61, 3) := dk_180 0 61 (dk_at dksX2_known_0 17 rfl rfl)
theorem dX2_known_20 : decode cX2_known 20 = .ok (.invokevirtual 47, 3) := dk_182 0 47 (dk_at dksX2_known_0 20 rfl rfl)
theorem dX2_known_23 : decode cX2_known 23 = .ok (.athrow, 1) := dk_191 (dk_at dksX2_known_0 23 rfl rfl)
theorem dX2_known_24 : decode cX2_known 24 = .ok (.iload_n 2, 1) := dk_28 (dk_at dksX2_known_1 0 rfl rfl)
theorem dX2_known_25 : decode cX2_known 25 = .ok (.ireturn, 1) := dk_172 (dk_at dksX2_known_1 1 rfl rfl)
abbrev cX2_more : ByteArray := prog_15_method_19_code
def yX2_more : MethodName := ⟨RX2, "more", "(Ljava/lang/String;I)V"⟩
def dkwX2_more_12 : List UInt8 := [181, 0, 237, 167, 0, 10, 42, 4, 28, 182, 0, 47, 191, 177]
abbrev dktX2_more_12 : List UInt8 := dkwX2_more_12 ++ []
def dkwX2_more_11 : List UInt8 := [42, 3, 16, 9, 182, 0, 96, 181, 0, 235, 167, 0, 27, 42, 180, 0, 103, 42, 3, 16, 100, 182, 0, 96]
abbrev dktX2_more_11 : List UInt8 := dkwX2_more_11 ++ dktX2_more_12
def dkwX2_more_10 : List UInt8 := [167, 0, 61, 42, 180, 0, 103, 42, 3, 16, 99, 182, 0, 96, 181, 0, 233, 167, 0, 44, 42, 180, 0, 103]
abbrev dktX2_more_10 : List UInt8 := dkwX2_more_10 ++ dktX2_more_11
def dkwX2_more_9 : List UInt8 := [42, 180, 0, 103, 42, 42, 180, 0, 103, 180, 0, 231, 28, 17, 1, 143, 182, 0, 225, 181, 0, 231]
abbrev dktX2_more_9 : List UInt8 := dkwX2_more_9 ++ dktX2_more_10
def dkwX2_more_8 : List UInt8 := [42, 180, 0, 103, 42, 42, 180, 0, 103, 180, 0, 229, 28, 16, 127, 182, 0, 225, 181, 0, 229, 167, 0, 86]
abbrev dktX2_more_8 : List UInt8 := dkwX2_more_8 ++ dktX2_more_9
def dkwX2_more_7 : List UInt8 := [42, 180, 0, 103, 42, 42, 180, 0, 103, 180, 0, 222, 28, 16, 127, 182, 0, 225, 181, 0, 222, 167, 0, 110]
abbrev dktX2_more_7 : List UInt8 := dkwX2_more_7 ++ dktX2_more_8
def dkwX2_more_6 : List UInt8 := [170, 0, 0, 0, 0, 0, 163, 0, 0, 0, 0, 0, 0, 0, 5, 0, 0, 0, 39, 0, 0, 0, 63, 0, 0, 0, 87, 0, 0, 0, 112, 0, 0, 0, 129, 0, 0, 0, 146]
abbrev dktX2_more_6 : List UInt8 := dkwX2_more_6 ++ dktX2_more_7
def dkwX2_more_5 : List UInt8 := [167, 0, 15, 45, 18, 220, 182, 0, 74, 153, 0, 6, 8, 54, 4, 21, 4]
abbrev dktX2_more_5 : List UInt8 := dkwX2_more_5 ++ dktX2_more_6
def dkwX2_more_4 : List UInt8 := [182, 0, 74, 153, 0, 36, 6, 54, 4, 167, 0, 30, 45, 18, 218, 182, 0, 74, 153, 0, 21, 7, 54, 4]
abbrev dktX2_more_4 : List UInt8 := dkwX2_more_4 ++ dktX2_more_5
def dkwX2_more_3 : List UInt8 := [4, 54, 4, 167, 0, 60, 45, 18, 214, 182, 0, 74, 153, 0, 51, 5, 54, 4, 167, 0, 45, 45, 18, 216]
abbrev dktX2_more_3 : List UInt8 := dkwX2_more_3 ++ dktX2_more_4
def dkwX2_more_2 : List UInt8 := [45, 18, 210, 182, 0, 74, 153, 0, 81, 3, 54, 4, 167, 0, 75, 45, 18, 212, 182, 0, 74, 153, 0, 66]
abbrev dktX2_more_2 : List UInt8 := dkwX2_more_2 ++ dktX2_more_3
def dkwX2_more_1 : List UInt8 := [171, 0, 0, 0, 0, 0, 146, 0, 0, 0, 6, 181, 79, 95, 131, 0, 0, 0, 74, 0, 1, 151, 169, 0, 0, 0, 134, 0, 52, 100, 17, 0, 0, 0, 104, 0, 53, 223, 85, 0, 0, 0, 89, 6, 144, 92, 204, 0, 0, 0, 59, 6, 152, 15, 153, 0, 0, 0, 119]
abbrev dktX2_more_1 : List UInt8 := dkwX2_more_1 ++ dktX2_more_2
def dkwX2_more_0 : List UInt8 := [43, 78, 2, 54, 4, 45, 182, 0, 143]
abbrev dktX2_more_0 : List UInt8 := dkwX2_more_0 ++ dktX2_more_1
theorem dksX2_more_0 : cX2_more.data.toList.drop 0 = dktX2_more_0 := by decide +kernel
theorem dksX2_more_1 : cX2_more.data.toList.drop 9 = dktX2_more_1 := dk_seg dksX2_more_0 9 rfl rfl
theorem dksX2_more_2 : cX2_more.data.toList.drop 68 = dktX2_more_2 := dk_seg dksX2_more_1 59 rfl rfl
theorem dksX2_more_3 : cX2_more.data.toList.drop 92 = dktX2_more_3 := dk_seg dksX2_more_2 24 rfl rfl
theorem dksX2_more_4 : cX2_more.data.toList.drop 116 = dktX2_more_4 := dk_seg dksX2_more_3 24 rfl rfl
theorem dksX2_more_5 : cX2_more.data.toList.drop 140 = dktX2_more_5 := dk_seg dksX2_more_4 24 rfl rfl
theorem dksX2_more_6 : cX2_more.data.toList.drop 157 = dktX2_more_6 := dk_seg dksX2_more_5 17 rfl rfl
theorem dksX2_more_7 : cX2_more.data.toList.drop 196 = dktX2_more_7 := dk_seg dksX2_more_6 39 rfl rfl
theorem dksX2_more_8 : cX2_more.data.toList.drop 220 = dktX2_more_8 := dk_seg dksX2_more_7 24 rfl rfl
theorem dksX2_more_9 : cX2_more.data.toList.drop 244 = dktX2_more_9 := dk_seg dksX2_more_8 24 rfl rfl
theorem dksX2_more_10 : cX2_more.data.toList.drop 266 = dktX2_more_10 := dk_seg dksX2_more_9 22 rfl rfl
theorem dksX2_more_11 : cX2_more.data.toList.drop 290 = dktX2_more_11 := dk_seg dksX2_more_10 24 rfl rfl
theorem dksX2_more_12 : cX2_more.data.toList.drop 314 = dktX2_more_12 := dk_seg dksX2_more_11 24 rfl rfl
theorem dX2_more_0 : decode cX2_more 0 = .ok (.aload_n 1, 1) := dk_43 (dk_at dksX2_more_0 0 rfl rfl)
theorem dX2_more_1 : decode cX2_more 1 = .ok (.astore_n 3, 1) := dk_78 (dk_at dksX2_more_0 1 rfl rfl)
theorem dX2_more_2 : decode cX2_more 2 = .ok (.iconst (-1), 1) := dk_2 (dk_at dksX2_more_0 2 rfl rfl)
theorem dX2_more_3 : decode cX2_more 3 = .ok (.istore 4, 2) := dk_54 4 (dk_at dksX2_more_0 3 rfl rfl)
theorem dX2_more_5 : decode cX2_more 5 = .ok (.aload_n 3, 1) := dk_45 (dk_at dksX2_more_0 5 rfl rfl)
theorem dX2_more_6 : decode cX2_more 6 = .ok (.invokevirtual 143, 3) := dk_182 0 143 (dk_at dksX2_more_0 6 rfl rfl)
theorem dX2_more_9 : decode cX2_more 9 = .ok (.lookupswitch 146 #[(-1253089405, 74), (104361, 134), (3433489, 104), (3530581, 89), (110124236, 59), (110628761, 119)], 59) := by decide +kernel
theorem dX2_more_68 : decode cX2_more 68 = .ok (.aload_n 3, 1) := dk_45 (dk_at dksX2_more_2 0 rfl rfl)
theorem dX2_more_69 : decode cX2_more 69 = .ok (.ldc 210, 2) := dk_18 210 (dk_at dksX2_more_2 1 rfl rfl)
theorem dX2_more_71 : decode cX2_more 71 = .ok (.invokevirtual 74, 3) := dk_182 0 74 (dk_at dksX2_more_2 3 rfl rfl)
theorem dX2_more_74 : decode cX2_more 74 = .ok (.ifCond .eq 81, 3) := dk_153 0 81 (dk_at dksX2_more_2 6 rfl rfl)
theorem dX2_more_77 : decode cX2_more 77 = .ok (.iconst 0, 1) := dk_3 (dk_at dksX2_more_2 9 rfl rfl)
theorem dX2_more_78 : decode cX2_more 78 = .ok (.istore 4, 2) := dk_54 4 (dk_at dksX2_more_2 10 rfl rfl)
theorem dX2_more_80 : decode cX2_more 80 = .ok (.goto 75, 3) := dk_167 0 75 (dk_at dksX2_more_2 12 rfl rfl)
theorem dX2_more_83 : decode cX2_more 83 = .ok (.aload_n 3, 1) := dk_45 (dk_at dksX2_more_2 15 rfl rfl)
theorem dX2_more_84 : decode cX2_more 84 = .ok (.ldc 212, 2) := dk_18 212 (dk_at dksX2_more_2 16 rfl rfl)
theorem dX2_more_86 : decode cX2_more 86 = .ok (.invokevirtual 74, 3) := dk_182 0 74 (dk_at dksX2_more_2 18 rfl rfl)
theorem dX2_more_89 : decode cX2_more 89 = .ok (.ifCond .eq 66, 3) := dk_153 0 66 (dk_at dksX2_more_2 21 rfl rfl)
theorem dX2_more_92 : decode cX2_more 92 = .ok (.iconst 1, 1) := dk_4 (dk_at dksX2_more_3 0 rfl rfl)
theorem dX2_more_93 : decode cX2_more 93 = .ok (.istore 4, 2) := dk_54 4 (dk_at dksX2_more_3 1 rfl rfl)
theorem dX2_more_95 : decode cX2_more 95 = .ok (.goto 60, 3) := dk_167 0 60 (dk_at dksX2_more_3 3 rfl rfl)
theorem dX2_more_98 : decode cX2_more 98 = .ok (.aload_n 3, 1) := dk_45 (dk_at dksX2_more_3 6 rfl rfl)
theorem dX2_more_99 : decode cX2_more 99 = .ok (.ldc 214, 2) := dk_18 214 (dk_at dksX2_more_3 7 rfl rfl)
theorem dX2_more_101 : decode cX2_more 101 = .ok (.invokevirtual 74, 3) := dk_182 0 74 (dk_at dksX2_more_3 9 rfl rfl)
theorem dX2_more_104 : decode cX2_more 104 = .ok (.ifCond .eq 51, 3) := dk_153 0 51 (dk_at dksX2_more_3 12 rfl rfl)
theorem dX2_more_107 : decode cX2_more 107 = .ok (.iconst 2, 1) := dk_5 (dk_at dksX2_more_3 15 rfl rfl)
theorem dX2_more_108 : decode cX2_more 108 = .ok (.istore 4, 2) := dk_54 4 (dk_at dksX2_more_3 16 rfl rfl)
theorem dX2_more_110 : decode cX2_more 110 = .ok (.goto 45, 3) := dk_167 0 45 (dk_at dksX2_more_3 18 rfl rfl)
theorem dX2_more_113 : decode cX2_more 113 = .ok (.aload_n 3, 1) := dk_45 (dk_at dksX2_more_3 21 rfl rfl)
theorem dX2_more_114 : decode cX2_more 114 = .ok (.ldc 216, 2) := dk_18 216 (dk_at dksX2_more_3 22 rfl rfl)
theorem dX2_more_116 : decode cX2_more 116 = .ok (.invokevirtual 74, 3) := dk_182 0 74 (dk_at dksX2_more_4 0 rfl rfl)
theorem dX2_more_119 : decode cX2_more 119 = .ok (.ifCond .eq 36, 3) := dk_153 0 36 (dk_at dksX2_more_4 3 rfl rfl)
theorem dX2_more_122 : decode cX2_more 122 = .ok (.iconst 3, 1) := dk_6 (dk_at dksX2_more_4 6 rfl rfl)
theorem dX2_more_123 : decode cX2_more 123 = .ok (.istore 4, 2) := dk_54 4 (dk_at dksX2_more_4 7 rfl rfl)
theorem dX2_more_125 : decode cX2_more 125 = .ok (.goto 30, 3) := dk_167 0 30 (dk_at dksX2_more_4 9 rfl rfl)
theorem dX2_more_128 : decode cX2_more 128 = .ok (.aload_n 3, 1) := dk_45 (dk_at dksX2_more_4 12 rfl rfl)
theorem dX2_more_129 : decode cX2_more 129 = .ok (.ldc 218, 2) := dk_18 218 (dk_at dksX2_more_4 13 rfl rfl)
theorem dX2_more_131 : decode cX2_more 131 = .ok (.invokevirtual 74, 3) := dk_182 0 74 (dk_at dksX2_more_4 15 rfl rfl)
theorem dX2_more_134 : decode cX2_more 134 = .ok (.ifCond .eq 21, 3) := dk_153 0 21 (dk_at dksX2_more_4 18 rfl rfl)
theorem dX2_more_137 : decode cX2_more 137 = .ok (.iconst 4, 1) := dk_7 (dk_at dksX2_more_4 21 rfl rfl)
theorem dX2_more_138 : decode cX2_more 138 = .ok (.istore 4, 2) := dk_54 4 (dk_at dksX2_more_4 22 rfl rfl)
theorem dX2_more_140 : decode cX2_more 140 = .ok (.goto 15, 3) := dk_167 0 15 (dk_at dksX2_more_5 0 rfl rfl)
theorem dX2_more_143 : decode cX2_more 143 = .ok (.aload_n 3, 1) := dk_45 (dk_at dksX2_more_5 3 rfl rfl)
theorem dX2_more_144 : decode cX2_more 144 = .ok (.ldc 220, 2) := dk_18 220 (dk_at dksX2_more_5 4 rfl rfl)
theorem dX2_more_146 : decode cX2_more 146 = .ok (.invokevirtual 74, 3) := dk_182 0 74 (dk_at dksX2_more_5 6 rfl rfl)
theorem dX2_more_149 : decode cX2_more 149 = .ok (.ifCond .eq 6, 3) := dk_153 0 6 (dk_at dksX2_more_5 9 rfl rfl)
theorem dX2_more_152 : decode cX2_more 152 = .ok (.iconst 5, 1) := dk_8 (dk_at dksX2_more_5 12 rfl rfl)
theorem dX2_more_153 : decode cX2_more 153 = .ok (.istore 4, 2) := dk_54 4 (dk_at dksX2_more_5 13 rfl rfl)
theorem dX2_more_155 : decode cX2_more 155 = .ok (.iload 4, 2) := dk_21 4 (dk_at dksX2_more_5 15 rfl rfl)
theorem dX2_more_157 : decode cX2_more 157 = .ok (.tableswitch 163 0 5 #[39, 63, 87, 112, 129, 146], 39) := by decide +kernel
theorem dX2_more_196 : decode cX2_more 196 = .ok (.aload_n 0, 1) := dk_42 (dk_at dksX2_more_7 0 rfl rfl)
theorem dX2_more_197 : decode cX2_more 197 = .ok (.getfield 103, 3) := dk_180 0 103 (dk_at dksX2_more_7 1 rfl rfl)
theorem dX2_more_200 : decode cX2_more 200 = .ok (.aload_n 0, 1) := dk_42 (dk_at dksX2_more_7 4 rfl rfl)
theorem dX2_more_201 : decode cX2_more 201 = .ok (.aload_n 0, 1) := dk_42 (dk_at dksX2_more_7 5 rfl rfl)
theorem dX2_more_202 : decode cX2_more 202 = .ok (.getfield 103, 3) := dk_180 0 103 (dk_at dksX2_more_7 6 rfl rfl)
theorem dX2_more_205 : decode cX2_more 205 = .ok (.getfield 222, 3) := dk_180 0 222 (dk_at dksX2_more_7 9 rfl rfl)
theorem dX2_more_208 : decode cX2_more 208 = .ok (.iload_n 2, 1) := dk_28 (dk_at dksX2_more_7 12 rfl rfl)
theorem dX2_more_209 : decode cX2_more 209 = .ok (.bipush 127, 2) := dk_16 127 (dk_at dksX2_more_7 13 rfl rfl)
theorem dX2_more_211 : decode cX2_more 211 = .ok (.invokevirtual 225, 3) := dk_182 0 225 (dk_at dksX2_more_7 15 rfl rfl)
theorem dX2_more_214 : decode cX2_more 214 = .ok (.putfield 222, 3) := dk_181 0 222 (dk_at dksX2_more_7 18 rfl rfl)
theorem dX2_more_217 : decode cX2_more 217 = .ok (.goto 110, 3) := dk_167 0 110 (dk_at dksX2_more_7 21 rfl rfl)
theorem dX2_more_220 : decode cX2_more 220 = .ok (.aload_n 0, 1) := dk_42 (dk_at dksX2_more_8 0 rfl rfl)
theorem dX2_more_221 : decode cX2_more 221 = .ok (.getfield 103, 3) := dk_180 0 103 (dk_at dksX2_more_8 1 rfl rfl)
theorem dX2_more_224 : decode cX2_more 224 = .ok (.aload_n 0, 1) := dk_42 (dk_at dksX2_more_8 4 rfl rfl)
theorem dX2_more_225 : decode cX2_more 225 = .ok (.aload_n 0, 1) := dk_42 (dk_at dksX2_more_8 5 rfl rfl)
theorem dX2_more_226 : decode cX2_more 226 = .ok (.getfield 103, 3) := dk_180 0 103 (dk_at dksX2_more_8 6 rfl rfl)
theorem dX2_more_229 : decode cX2_more 229 = .ok (.getfield 229, 3) := dk_180 0 229 (dk_at dksX2_more_8 9 rfl rfl)
theorem dX2_more_232 : decode cX2_more 232 = .ok (.iload_n 2, 1) := dk_28 (dk_at dksX2_more_8 12 rfl rfl)
theorem dX2_more_233 : decode cX2_more 233 = .ok (.bipush 127, 2) := dk_16 127 (dk_at dksX2_more_8 13 rfl rfl)
theorem dX2_more_235 : decode cX2_more 235 = .ok (.invokevirtual 225, 3) := dk_182 0 225 (dk_at dksX2_more_8 15 rfl rfl)
theorem dX2_more_238 : decode cX2_more 238 = .ok (.putfield 229, 3) := dk_181 0 229 (dk_at dksX2_more_8 18 rfl rfl)
theorem dX2_more_241 : decode cX2_more 241 = .ok (.goto 86, 3) := dk_167 0 86 (dk_at dksX2_more_8 21 rfl rfl)
theorem dX2_more_244 : decode cX2_more 244 = .ok (.aload_n 0, 1) := dk_42 (dk_at dksX2_more_9 0 rfl rfl)
theorem dX2_more_245 : decode cX2_more 245 = .ok (.getfield 103, 3) := dk_180 0 103 (dk_at dksX2_more_9 1 rfl rfl)
theorem dX2_more_248 : decode cX2_more 248 = .ok (.aload_n 0, 1) := dk_42 (dk_at dksX2_more_9 4 rfl rfl)
theorem dX2_more_249 : decode cX2_more 249 = .ok (.aload_n 0, 1) := dk_42 (dk_at dksX2_more_9 5 rfl rfl)
theorem dX2_more_250 : decode cX2_more 250 = .ok (.getfield 103, 3) := dk_180 0 103 (dk_at dksX2_more_9 6 rfl rfl)
theorem dX2_more_253 : decode cX2_more 253 = .ok (.getfield 231, 3) := dk_180 0 231 (dk_at dksX2_more_9 9 rfl rfl)
theorem dX2_more_256 : decode cX2_more 256 = .ok (.iload_n 2, 1) := dk_28 (dk_at dksX2_more_9 12 rfl rfl)
theorem dX2_more_257 : decode cX2_more 257 = .ok (.sipush 399, 3) := dk_17 1 143 (dk_at dksX2_more_9 13 rfl rfl)
theorem dX2_more_260 : decode cX2_more 260 = .ok (.invokevirtual 225, 3) := dk_182 0 225 (dk_at dksX2_more_9 16 rfl rfl)
theorem dX2_more_263 : decode cX2_more 263 = .ok (.putfield 231, 3) := dk_181 0 231 (dk_at dksX2_more_9 19 rfl rfl)
theorem dX2_more_266 : decode cX2_more 266 = .ok (.goto 61, 3) := dk_167 0 61 (dk_at dksX2_more_10 0 rfl rfl)
theorem dX2_more_269 : decode cX2_more 269 = .ok (.aload_n 0, 1) := dk_42 (dk_at dksX2_more_10 3 rfl rfl)
theorem dX2_more_270 : decode cX2_more 270 = .ok (.getfield 103, 3) := dk_180 0 103 (dk_at dksX2_more_10 4 rfl rfl)
theorem dX2_more_273 : decode cX2_more 273 = .ok (.aload_n 0, 1) := dk_42 (dk_at dksX2_more_10 7 rfl rfl)
theorem dX2_more_274 : decode cX2_more 274 = .ok (.iconst 0, 1) := dk_3 (dk_at dksX2_more_10 8 rfl rfl)
theorem dX2_more_275 : decode cX2_more 275 = .ok (.bipush 99, 2) := dk_16 99 (dk_at dksX2_more_10 9 rfl rfl)
theorem dX2_more_277 : decode cX2_more 277 = .ok (.invokevirtual 96, 3) := dk_182 0 96 (dk_at dksX2_more_10 11 rfl rfl)
theorem dX2_more_280 : decode cX2_more 280 = .ok (.putfield 233, 3) := dk_181 0 233 (dk_at dksX2_more_10 14 rfl rfl)
theorem dX2_more_283 : decode cX2_more 283 = .ok (.goto 44, 3) := dk_167 0 44 (dk_at dksX2_more_10 17 rfl rfl)
theorem dX2_more_286 : decode cX2_more 286 = .ok (.aload_n 0, 1) := dk_42 (dk_at dksX2_more_10 20 rfl rfl)
theorem dX2_more_287 : decode cX2_more 287 = .ok (.getfield 103, 3) := dk_180 0 103 (dk_at dksX2_more_10 21 rfl rfl)
theorem dX2_more_290 : decode cX2_more 290 = .ok (.aload_n 0, 1) := dk_42 (dk_at dksX2_more_11 0 rfl rfl)
theorem dX2_more_291 : decode cX2_more 291 = .ok (.iconst 0, 1) := dk_3 (dk_at dksX2_more_11 1 rfl rfl)
theorem dX2_more_292 : decode cX2_more 292 = .ok (.bipush 9, 2) := dk_16 9 (dk_at dksX2_more_11 2 rfl rfl)
theorem dX2_more_294 : decode cX2_more 294 = .ok (.invokevirtual 96, 3) := dk_182 0 96 (dk_at dksX2_more_11 4 rfl rfl)
theorem dX2_more_297 : decode cX2_more 297 = .ok (.putfield 235, 3) := dk_181 0 235 (dk_at dksX2_more_11 7 rfl rfl)
theorem dX2_more_300 : decode cX2_more 300 = .ok (.goto 27, 3) := dk_167 0 27 (dk_at dksX2_more_11 10 rfl rfl)
theorem dX2_more_303 : decode cX2_more 303 = .ok (.aload_n 0, 1) := dk_42 (dk_at dksX2_more_11 13 rfl rfl)
theorem dX2_more_304 : decode cX2_more 304 = .ok (.getfield 103, 3) := dk_180 0 103 (dk_at dksX2_more_11 14 rfl rfl)
theorem dX2_more_307 : decode cX2_more 307 = .ok (.aload_n 0, 1) := dk_42 (dk_at dksX2_more_11 17 rfl rfl)
theorem dX2_more_308 : decode cX2_more 308 = .ok (.iconst 0, 1) := dk_3 (dk_at dksX2_more_11 18 rfl rfl)
theorem dX2_more_309 : decode cX2_more 309 = .ok (.bipush 100, 2) := dk_16 100 (dk_at dksX2_more_11 19 rfl rfl)
theorem dX2_more_311 : decode cX2_more 311 = .ok (.invokevirtual 96, 3) := dk_182 0 96 (dk_at dksX2_more_11 21 rfl rfl)
theorem dX2_more_314 : decode cX2_more 314 = .ok (.putfield 237, 3) := dk_181 0 237 (dk_at dksX2_more_12 0 rfl rfl)
theorem dX2_more_317 : decode cX2_more 317 = .ok (.goto 10, 3) := dk_167 0 10 (dk_at dksX2_more_12 3 rfl rfl)
theorem dX2_more_320 : decode cX2_more 320 = .ok (.aload_n 0, 1) := dk_42 (dk_at dksX2_more_12 6 rfl rfl)
theorem dX2_more_321 : decode cX2_more 321 = .ok (.iconst 1, 1) := dk_4 (dk_at dksX2_more_12 7 rfl rfl)
theorem dX2_more_322 : decode cX2_more 322 = .ok (.iload_n 2, 1) := dk_28 (dk_at dksX2_more_12 8 rfl rfl)
theorem dX2_more_323 : decode cX2_more 323 = .ok (.invokevirtual 47, 3) := dk_182 0 47 (dk_at dksX2_more_12 9 rfl rfl)
theorem dX2_more_326 : decode cX2_more 326 = .ok (.athrow, 1) := dk_191 (dk_at dksX2_more_12 12 rfl rfl)
theorem dX2_more_327 : decode cX2_more 327 = .ok (.return_, 1) := dk_177 (dk_at dksX2_more_12 13 rfl rfl)
abbrev cX2_once : ByteArray := prog_15_method_18_code
def yX2_once : MethodName := ⟨RX2, "once", "(LPupilsPupil$Test;II)LPupilsPupil$Test;"⟩
def dkwX2_once_0 : List UInt8 := [42, 43, 198, 0, 7, 4, 167, 0, 4, 3, 28, 182, 0, 128, 42, 29, 181, 0, 203, 42, 182, 0, 206, 176]
abbrev dktX2_once_0 : List UInt8 := dkwX2_once_0 ++ []
theorem dksX2_once_0 : cX2_once.data.toList.drop 0 = dktX2_once_0 := by decide +kernel
theorem dX2_once_0 : decode cX2_once 0 = .ok (.aload_n 0, 1) := dk_42 (dk_at dksX2_once_0 0 rfl rfl)
theorem dX2_once_1 : decode cX2_once 1 = .ok (.aload_n 1, 1) := dk_43 (dk_at dksX2_once_0 1 rfl rfl)
theorem dX2_once_2 : decode cX2_once 2 = .ok (.ifnull 7, 3) := dk_198 0 7 (dk_at dksX2_once_0 2 rfl rfl)
theorem dX2_once_5 : decode cX2_once 5 = .ok (.iconst 1, 1) := dk_4 (dk_at dksX2_once_0 5 rfl rfl)
theorem dX2_once_6 : decode cX2_once 6 = .ok (.goto 4, 3) := dk_167 0 4 (dk_at dksX2_once_0 6 rfl rfl)
theorem dX2_once_9 : decode cX2_once 9 = .ok (.iconst 0, 1) := dk_3 (dk_at dksX2_once_0 9 rfl rfl)
theorem dX2_once_10 : decode cX2_once 10 = .ok (.iload_n 2, 1) := dk_28 (dk_at dksX2_once_0 10 rfl rfl)
theorem dX2_once_11 : decode cX2_once 11 = .ok (.invokevirtual 128, 3) := dk_182 0 128 (dk_at dksX2_once_0 11 rfl rfl)
theorem dX2_once_14 : decode cX2_once 14 = .ok (.aload_n 0, 1) := dk_42 (dk_at dksX2_once_0 14 rfl rfl)
theorem dX2_once_15 : decode cX2_once 15 = .ok (.iload_n 3, 1) := dk_29 (dk_at dksX2_once_0 15 rfl rfl)
theorem dX2_once_16 : decode cX2_once 16 = .ok (.putfield 203, 3) := dk_181 0 203 (dk_at dksX2_once_0 16 rfl rfl)
theorem dX2_once_19 : decode cX2_once 19 = .ok (.aload_n 0, 1) := dk_42 (dk_at dksX2_once_0 19 rfl rfl)
theorem dX2_once_20 : decode cX2_once 20 = .ok (.invokevirtual 206, 3) := dk_182 0 206 (dk_at dksX2_once_0 20 rfl rfl)
theorem dX2_once_23 : decode cX2_once 23 = .ok (.areturn, 1) := dk_176 (dk_at dksX2_once_0 23 rfl rfl)
abbrev cX2_test : ByteArray := prog_15_method_26_code
def yX2_test : MethodName := ⟨RX2, "test", "()LPupilsPupil$Test;"⟩
def dkwX2_test_2 : List UInt8 := [167, 255, 232, 43, 176]
abbrev dktX2_test_2 : List UInt8 := dkwX2_test_2 ++ []
def dkwX2_test_1 : List UInt8 := [19, 1, 46, 182, 1, 48, 153, 0, 20, 43, 180, 1, 40, 42, 182, 1, 43, 185, 0, 170, 2, 0, 87]
abbrev dktX2_test_1 : List UInt8 := dkwX2_test_1 ++ dktX2_test_2
def dkwX2_test_0 : List UInt8 := [187, 1, 35, 89, 3, 183, 1, 37, 76, 43, 180, 1, 40, 42, 182, 1, 43, 185, 0, 170, 2, 0, 87, 42]
abbrev dktX2_test_0 : List UInt8 := dkwX2_test_0 ++ dktX2_test_1
theorem dksX2_test_0 : cX2_test.data.toList.drop 0 = dktX2_test_0 := by decide +kernel
theorem dksX2_test_1 : cX2_test.data.toList.drop 24 = dktX2_test_1 := dk_seg dksX2_test_0 24 rfl rfl
theorem dksX2_test_2 : cX2_test.data.toList.drop 47 = dktX2_test_2 := dk_seg dksX2_test_1 23 rfl rfl
theorem dX2_test_0 : decode cX2_test 0 = .ok (.new 291, 3) := dk_187 1 35 (dk_at dksX2_test_0 0 rfl rfl)
theorem dX2_test_3 : decode cX2_test 3 = .ok (.dup, 1) := dk_89 (dk_at dksX2_test_0 3 rfl rfl)
theorem dX2_test_4 : decode cX2_test 4 = .ok (.iconst 0, 1) := dk_3 (dk_at dksX2_test_0 4 rfl rfl)
theorem dX2_test_5 : decode cX2_test 5 = .ok (.invokespecial 293, 3) := dk_183 1 37 (dk_at dksX2_test_0 5 rfl rfl)
theorem dX2_test_8 : decode cX2_test 8 = .ok (.astore_n 1, 1) := dk_76 (dk_at dksX2_test_0 8 rfl rfl)
theorem dX2_test_9 : decode cX2_test 9 = .ok (.aload_n 1, 1) := dk_43 (dk_at dksX2_test_0 9 rfl rfl)
theorem dX2_test_10 : decode cX2_test 10 = .ok (.getfield 296, 3) := dk_180 1 40 (dk_at dksX2_test_0 10 rfl rfl)
theorem dX2_test_13 : decode cX2_test 13 = .ok (.aload_n 0, 1) := dk_42 (dk_at dksX2_test_0 13 rfl rfl)
theorem dX2_test_14 : decode cX2_test 14 = .ok (.invokevirtual 299, 3) := dk_182 1 43 (dk_at dksX2_test_0 14 rfl rfl)
theorem dX2_test_17 : decode cX2_test 17 = .ok (.invokeinterface 170 2, 5) := by decide +kernel
theorem dX2_test_22 : decode cX2_test 22 = .ok (.pop, 1) := dk_87 (dk_at dksX2_test_0 22 rfl rfl)
theorem dX2_test_23 : decode cX2_test 23 = .ok (.aload_n 0, 1) := dk_42 (dk_at dksX2_test_0 23 rfl rfl)
theorem dX2_test_24 : decode cX2_test 24 = .ok (.ldc_w 302, 3) := dk_19 1 46 (dk_at dksX2_test_1 0 rfl rfl)
theorem dX2_test_27 : decode cX2_test 27 = .ok (.invokevirtual 304, 3) := dk_182 1 48 (dk_at dksX2_test_1 3 rfl rfl)
theorem dX2_test_30 : decode cX2_test 30 = .ok (.ifCond .eq 20, 3) := dk_153 0 20 (dk_at dksX2_test_1 6 rfl rfl)
theorem dX2_test_33 : decode cX2_test 33 = .ok (.aload_n 1, 1) := dk_43 (dk_at dksX2_test_1 9 rfl rfl)
theorem dX2_test_34 : decode cX2_test 34 = .ok (.getfield 296, 3) := dk_180 1 40 (dk_at dksX2_test_1 10 rfl rfl)
theorem dX2_test_37 : decode cX2_test 37 = .ok (.aload_n 0, 1) := dk_42 (dk_at dksX2_test_1 13 rfl rfl)
theorem dX2_test_38 : decode cX2_test 38 = .ok (.invokevirtual 299, 3) := dk_182 1 43 (dk_at dksX2_test_1 14 rfl rfl)
theorem dX2_test_41 : decode cX2_test 41 = .ok (.invokeinterface 170 2, 5) := by decide +kernel
theorem dX2_test_46 : decode cX2_test 46 = .ok (.pop, 1) := dk_87 (dk_at dksX2_test_1 22 rfl rfl)
theorem dX2_test_47 : decode cX2_test 47 = .ok (.goto (-24), 3) := dk_167 255 232 (dk_at dksX2_test_2 0 rfl rfl)
theorem dX2_test_50 : decode cX2_test 50 = .ok (.aload_n 1, 1) := dk_43 (dk_at dksX2_test_2 3 rfl rfl)
theorem dX2_test_51 : decode cX2_test 51 = .ok (.areturn, 1) := dk_176 (dk_at dksX2_test_2 4 rfl rfl)
abbrev cX2_both : ByteArray := prog_15_method_27_code
def yX2_both : MethodName := ⟨RX2, "both", "()LPupilsPupil$Test;"⟩
def dkwX2_both_2 : List UInt8 := [167, 255, 232, 43, 176]
abbrev dktX2_both_2 : List UInt8 := dkwX2_both_2 ++ []
def dkwX2_both_1 : List UInt8 := [19, 1, 54, 182, 1, 48, 153, 0, 20, 43, 180, 1, 40, 42, 182, 1, 52, 185, 0, 170, 2, 0, 87]
abbrev dktX2_both_1 : List UInt8 := dkwX2_both_1 ++ dktX2_both_2
def dkwX2_both_0 : List UInt8 := [187, 1, 35, 89, 4, 183, 1, 37, 76, 43, 180, 1, 40, 42, 182, 1, 52, 185, 0, 170, 2, 0, 87, 42]
abbrev dktX2_both_0 : List UInt8 := dkwX2_both_0 ++ dktX2_both_1
theorem dksX2_both_0 : cX2_both.data.toList.drop 0 = dktX2_both_0 := by decide +kernel
theorem dksX2_both_1 : cX2_both.data.toList.drop 24 = dktX2_both_1 := dk_seg dksX2_both_0 24 rfl rfl
theorem dksX2_both_2 : cX2_both.data.toList.drop 47 = dktX2_both_2 := dk_seg dksX2_both_1 23 rfl rfl
theorem dX2_both_0 : decode cX2_both 0 = .ok (.new 291, 3) := dk_187 1 35 (dk_at dksX2_both_0 0 rfl rfl)
theorem dX2_both_3 : decode cX2_both 3 = .ok (.dup, 1) := dk_89 (dk_at dksX2_both_0 3 rfl rfl)
theorem dX2_both_4 : decode cX2_both 4 = .ok (.iconst 1, 1) := dk_4 (dk_at dksX2_both_0 4 rfl rfl)
theorem dX2_both_5 : decode cX2_both 5 = .ok (.invokespecial 293, 3) := dk_183 1 37 (dk_at dksX2_both_0 5 rfl rfl)
theorem dX2_both_8 : decode cX2_both 8 = .ok (.astore_n 1, 1) := dk_76 (dk_at dksX2_both_0 8 rfl rfl)
theorem dX2_both_9 : decode cX2_both 9 = .ok (.aload_n 1, 1) := dk_43 (dk_at dksX2_both_0 9 rfl rfl)
theorem dX2_both_10 : decode cX2_both 10 = .ok (.getfield 296, 3) := dk_180 1 40 (dk_at dksX2_both_0 10 rfl rfl)
theorem dX2_both_13 : decode cX2_both 13 = .ok (.aload_n 0, 1) := dk_42 (dk_at dksX2_both_0 13 rfl rfl)
theorem dX2_both_14 : decode cX2_both 14 = .ok (.invokevirtual 308, 3) := dk_182 1 52 (dk_at dksX2_both_0 14 rfl rfl)
theorem dX2_both_17 : decode cX2_both 17 = .ok (.invokeinterface 170 2, 5) := by decide +kernel
theorem dX2_both_22 : decode cX2_both 22 = .ok (.pop, 1) := dk_87 (dk_at dksX2_both_0 22 rfl rfl)
theorem dX2_both_23 : decode cX2_both 23 = .ok (.aload_n 0, 1) := dk_42 (dk_at dksX2_both_0 23 rfl rfl)
theorem dX2_both_24 : decode cX2_both 24 = .ok (.ldc_w 310, 3) := dk_19 1 54 (dk_at dksX2_both_1 0 rfl rfl)
theorem dX2_both_27 : decode cX2_both 27 = .ok (.invokevirtual 304, 3) := dk_182 1 48 (dk_at dksX2_both_1 3 rfl rfl)
theorem dX2_both_30 : decode cX2_both 30 = .ok (.ifCond .eq 20, 3) := dk_153 0 20 (dk_at dksX2_both_1 6 rfl rfl)
theorem dX2_both_33 : decode cX2_both 33 = .ok (.aload_n 1, 1) := dk_43 (dk_at dksX2_both_1 9 rfl rfl)
theorem dX2_both_34 : decode cX2_both 34 = .ok (.getfield 296, 3) := dk_180 1 40 (dk_at dksX2_both_1 10 rfl rfl)
theorem dX2_both_37 : decode cX2_both 37 = .ok (.aload_n 0, 1) := dk_42 (dk_at dksX2_both_1 13 rfl rfl)
theorem dX2_both_38 : decode cX2_both 38 = .ok (.invokevirtual 308, 3) := dk_182 1 52 (dk_at dksX2_both_1 14 rfl rfl)
theorem dX2_both_41 : decode cX2_both 41 = .ok (.invokeinterface 170 2, 5) := by decide +kernel
theorem dX2_both_46 : decode cX2_both 46 = .ok (.pop, 1) := dk_87 (dk_at dksX2_both_1 22 rfl rfl)
theorem dX2_both_47 : decode cX2_both 47 = .ok (.goto (-24), 3) := dk_167 255 232 (dk_at dksX2_both_2 0 rfl rfl)
theorem dX2_both_50 : decode cX2_both 50 = .ok (.aload_n 1, 1) := dk_43 (dk_at dksX2_both_2 3 rfl rfl)
theorem dX2_both_51 : decode cX2_both 51 = .ok (.areturn, 1) := dk_176 (dk_at dksX2_both_2 4 rfl rfl)
abbrev cX2_fact : ByteArray := prog_15_method_28_code
def yX2_fact : MethodName := ⟨RX2, "fact", "()LPupilsPupil$Test;"⟩
def dkwX2_fact_7 : List UInt8 := [183, 1, 70, 176]
abbrev dktX2_fact_7 : List UInt8 := dkwX2_fact_7 ++ []
def dkwX2_fact_6 : List UInt8 := [182, 0, 47, 191, 42, 89, 180, 0, 36, 4, 96, 181, 0, 36, 187, 1, 68, 89, 43, 28, 42, 182, 1, 1]
abbrev dktX2_fact_6 : List UInt8 := dkwX2_fact_6 ++ dktX2_fact_7
def dkwX2_fact_5 : List UInt8 := [28, 16, 60, 159, 0, 25, 28, 16, 62, 159, 0, 19, 28, 16, 61, 159, 0, 13, 42, 4, 42, 180, 0, 36]
abbrev dktX2_fact_5 : List UInt8 := dkwX2_fact_5 ++ dktX2_fact_6
def dkwX2_fact_4 : List UInt8 := [182, 1, 48, 153, 0, 11, 187, 1, 65, 89, 183, 1, 67, 176, 42, 182, 1, 1, 76, 42, 182, 0, 43, 61]
abbrev dktX2_fact_4 : List UInt8 := dkwX2_fact_4 ++ dktX2_fact_5
def dkwX2_fact_3 : List UInt8 := [42, 182, 1, 52, 183, 1, 60, 76, 42, 89, 180, 0, 122, 4, 100, 181, 0, 122, 43, 176, 42, 19, 1, 63]
abbrev dktX2_fact_3 : List UInt8 := dkwX2_fact_3 ++ dktX2_fact_4
def dkwX2_fact_2 : List UInt8 := [43, 176, 42, 19, 1, 56, 182, 1, 48, 153, 0, 35, 42, 42, 180, 0, 61, 182, 0, 254, 187, 1, 58, 89]
abbrev dktX2_fact_2 : List UInt8 := dkwX2_fact_2 ++ dktX2_fact_3
def dkwX2_fact_1 : List UInt8 := [181, 0, 36, 42, 182, 0, 206, 76, 42, 16, 93, 182, 0, 139, 42, 89, 180, 0, 122, 4, 100, 181, 0, 122]
abbrev dktX2_fact_1 : List UInt8 := dkwX2_fact_1 ++ dktX2_fact_2
def dkwX2_fact_0 : List UInt8 := [42, 182, 0, 43, 16, 91, 160, 0, 44, 42, 42, 180, 0, 36, 182, 0, 254, 42, 89, 180, 0, 36, 4, 96]
abbrev dktX2_fact_0 : List UInt8 := dkwX2_fact_0 ++ dktX2_fact_1
theorem dksX2_fact_0 : cX2_fact.data.toList.drop 0 = dktX2_fact_0 := by decide +kernel
theorem dksX2_fact_1 : cX2_fact.data.toList.drop 24 = dktX2_fact_1 := dk_seg dksX2_fact_0 24 rfl rfl
theorem dksX2_fact_2 : cX2_fact.data.toList.drop 48 = dktX2_fact_2 := dk_seg dksX2_fact_1 24 rfl rfl
theorem dksX2_fact_3 : cX2_fact.data.toList.drop 72 = dktX2_fact_3 := dk_seg dksX2_fact_2 24 rfl rfl
theorem dksX2_fact_4 : cX2_fact.data.toList.drop 96 = dktX2_fact_4 := dk_seg dksX2_fact_3 24 rfl rfl
theorem dksX2_fact_5 : cX2_fact.data.toList.drop 120 = dktX2_fact_5 := dk_seg dksX2_fact_4 24 rfl rfl
theorem dksX2_fact_6 : cX2_fact.data.toList.drop 144 = dktX2_fact_6 := dk_seg dksX2_fact_5 24 rfl rfl
theorem dksX2_fact_7 : cX2_fact.data.toList.drop 168 = dktX2_fact_7 := dk_seg dksX2_fact_6 24 rfl rfl
theorem dX2_fact_0 : decode cX2_fact 0 = .ok (.aload_n 0, 1) := dk_42 (dk_at dksX2_fact_0 0 rfl rfl)
theorem dX2_fact_1 : decode cX2_fact 1 = .ok (.invokevirtual 43, 3) := dk_182 0 43 (dk_at dksX2_fact_0 1 rfl rfl)
theorem dX2_fact_4 : decode cX2_fact 4 = .ok (.bipush 91, 2) := dk_16 91 (dk_at dksX2_fact_0 4 rfl rfl)
theorem dX2_fact_6 : decode cX2_fact 6 = .ok (.if_icmp .ne 44, 3) := dk_160 0 44 (dk_at dksX2_fact_0 6 rfl rfl)
theorem dX2_fact_9 : decode cX2_fact 9 = .ok (.aload_n 0, 1) := dk_42 (dk_at dksX2_fact_0 9 rfl rfl)
theorem dX2_fact_10 : decode cX2_fact 10 = .ok (.aload_n 0, 1) := dk_42 (dk_at dksX2_fact_0 10 rfl rfl)
theorem dX2_fact_11 : decode cX2_fact 11 = .ok (.getfield 36, 3) := dk_180 0 36 (dk_at dksX2_fact_0 11 rfl rfl)
theorem dX2_fact_14 : decode cX2_fact 14 = .ok (.invokevirtual 254, 3) := dk_182 0 254 (dk_at dksX2_fact_0 14 rfl rfl)
theorem dX2_fact_17 : decode cX2_fact 17 = .ok (.aload_n 0, 1) := dk_42 (dk_at dksX2_fact_0 17 rfl rfl)
theorem dX2_fact_18 : decode cX2_fact 18 = .ok (.dup, 1) := dk_89 (dk_at dksX2_fact_0 18 rfl rfl)
theorem dX2_fact_19 : decode cX2_fact 19 = .ok (.getfield 36, 3) := dk_180 0 36 (dk_at dksX2_fact_0 19 rfl rfl)
theorem dX2_fact_22 : decode cX2_fact 22 = .ok (.iconst 1, 1) := dk_4 (dk_at dksX2_fact_0 22 rfl rfl)
theorem dX2_fact_23 : decode cX2_fact 23 = .ok (.iadd, 1) := dk_96 (dk_at dksX2_fact_0 23 rfl rfl)
theorem dX2_fact_24 : decode cX2_fact 24 = .ok (.putfield 36, 3) := dk_181 0 36 (dk_at dksX2_fact_1 0 rfl rfl)
theorem dX2_fact_27 : decode cX2_fact 27 = .ok (.aload_n 0, 1) := dk_42 (dk_at dksX2_fact_1 3 rfl rfl)
theorem dX2_fact_28 : decode cX2_fact 28 = .ok (.invokevirtual 206, 3) := dk_182 0 206 (dk_at dksX2_fact_1 4 rfl rfl)
theorem dX2_fact_31 : decode cX2_fact 31 = .ok (.astore_n 1, 1) := dk_76 (dk_at dksX2_fact_1 7 rfl rfl)
theorem dX2_fact_32 : decode cX2_fact 32 = .ok (.aload_n 0, 1) := dk_42 (dk_at dksX2_fact_1 8 rfl rfl)
theorem dX2_fact_33 : decode cX2_fact 33 = .ok (.bipush 93, 2) := dk_16 93 (dk_at dksX2_fact_1 9 rfl rfl)
theorem dX2_fact_35 : decode cX2_fact 35 = .ok (.invokevirtual 139, 3) := dk_182 0 139 (dk_at dksX2_fact_1 11 rfl rfl)
theorem dX2_fact_38 : decode cX2_fact 38 = .ok (.aload_n 0, 1) := dk_42 (dk_at dksX2_fact_1 14 rfl rfl)
theorem dX2_fact_39 : decode cX2_fact 39 = .ok (.dup, 1) := dk_89 (dk_at dksX2_fact_1 15 rfl rfl)
theorem dX2_fact_40 : decode cX2_fact 40 = .ok (.getfield 122, 3) := dk_180 0 122 (dk_at dksX2_fact_1 16 rfl rfl)
theorem dX2_fact_43 : decode cX2_fact 43 = .ok (.iconst 1, 1) := dk_4 (dk_at dksX2_fact_1 19 rfl rfl)
theorem dX2_fact_44 : decode cX2_fact 44 = .ok (.isub, 1) := dk_100 (dk_at dksX2_fact_1 20 rfl rfl)
theorem dX2_fact_45 : decode cX2_fact 45 = .ok (.putfield 122, 3) := dk_181 0 122 (dk_at dksX2_fact_1 21 rfl rfl)
theorem dX2_fact_48 : decode cX2_fact 48 = .ok (.aload_n 1, 1) := dk_43 (dk_at dksX2_fact_2 0 rfl rfl)
theorem dX2_fact_49 : decode cX2_fact 49 = .ok (.areturn, 1) := dk_176 (dk_at dksX2_fact_2 1 rfl rfl)
theorem dX2_fact_50 : decode cX2_fact 50 = .ok (.aload_n 0, 1) := dk_42 (dk_at dksX2_fact_2 2 rfl rfl)
theorem dX2_fact_51 : decode cX2_fact 51 = .ok (.ldc_w 312, 3) := dk_19 1 56 (dk_at dksX2_fact_2 3 rfl rfl)
theorem dX2_fact_54 : decode cX2_fact 54 = .ok (.invokevirtual 304, 3) := dk_182 1 48 (dk_at dksX2_fact_2 6 rfl rfl)
theorem dX2_fact_57 : decode cX2_fact 57 = .ok (.ifCond .eq 35, 3) := dk_153 0 35 (dk_at dksX2_fact_2 9 rfl rfl)
theorem dX2_fact_60 : decode cX2_fact 60 = .ok (.aload_n 0, 1) := dk_42 (dk_at dksX2_fact_2 12 rfl rfl)
theorem dX2_fact_61 : decode cX2_fact 61 = .ok (.aload_n 0, 1) := dk_42 (dk_at dksX2_fact_2 13 rfl rfl)
theorem dX2_fact_62 : decode cX2_fact 62 = .ok (.getfield 61, 3) := dk_180 0 61 (dk_at dksX2_fact_2 14 rfl rfl)
theorem dX2_fact_65 : decode cX2_fact 65 = .ok (.invokevirtual 254, 3) := dk_182 0 254 (dk_at dksX2_fact_2 17 rfl rfl)
theorem dX2_fact_68 : decode cX2_fact 68 = .ok (.new 314, 3) := dk_187 1 58 (dk_at dksX2_fact_2 20 rfl rfl)
theorem dX2_fact_71 : decode cX2_fact 71 = .ok (.dup, 1) := dk_89 (dk_at dksX2_fact_2 23 rfl rfl)
theorem dX2_fact_72 : decode cX2_fact 72 = .ok (.aload_n 0, 1) := dk_42 (dk_at dksX2_fact_3 0 rfl rfl)
theorem dX2_fact_73 : decode cX2_fact 73 = .ok (.invokevirtual 308, 3) := dk_182 1 52 (dk_at dksX2_fact_3 1 rfl rfl)
theorem dX2_fact_76 : decode cX2_fact 76 = .ok (.invokespecial 316, 3) := dk_183 1 60 (dk_at dksX2_fact_3 4 rfl rfl)
theorem dX2_fact_79 : decode cX2_fact 79 = .ok (.astore_n 1, 1) := dk_76 (dk_at dksX2_fact_3 7 rfl rfl)
theorem dX2_fact_80 : decode cX2_fact 80 = .ok (.aload_n 0, 1) := dk_42 (dk_at dksX2_fact_3 8 rfl rfl)
theorem dX2_fact_81 : decode cX2_fact 81 = .ok (.dup, 1) := dk_89 (dk_at dksX2_fact_3 9 rfl rfl)
theorem dX2_fact_82 : decode cX2_fact 82 = .ok (.getfield 122, 3) := dk_180 0 122 (dk_at dksX2_fact_3 10 rfl rfl)
theorem dX2_fact_85 : decode cX2_fact 85 = .ok (.iconst 1, 1) := dk_4 (dk_at dksX2_fact_3 13 rfl rfl)
theorem dX2_fact_86 : decode cX2_fact 86 = .ok (.isub, 1) := dk_100 (dk_at dksX2_fact_3 14 rfl rfl)
theorem dX2_fact_87 : decode cX2_fact 87 = .ok (.putfield 122, 3) := dk_181 0 122 (dk_at dksX2_fact_3 15 rfl rfl)
theorem dX2_fact_90 : decode cX2_fact 90 = .ok (.aload_n 1, 1) := dk_43 (dk_at dksX2_fact_3 18 rfl rfl)
theorem dX2_fact_91 : decode cX2_fact 91 = .ok (.areturn, 1) := dk_176 (dk_at dksX2_fact_3 19 rfl rfl)
theorem dX2_fact_92 : decode cX2_fact 92 = .ok (.aload_n 0, 1) := dk_42 (dk_at dksX2_fact_3 20 rfl rfl)
theorem dX2_fact_93 : decode cX2_fact 93 = .ok (.ldc_w 319, 3) := dk_19 1 63 (dk_at dksX2_fact_3 21 rfl rfl)
theorem dX2_fact_96 : decode cX2_fact 96 = .ok (.invokevirtual 304, 3) := dk_182 1 48 (dk_at dksX2_fact_4 0 rfl rfl)
theorem dX2_fact_99 : decode cX2_fact 99 = .ok (.ifCond .eq 11, 3) := dk_153 0 11 (dk_at dksX2_fact_4 3 rfl rfl)
theorem dX2_fact_102 : decode cX2_fact 102 = .ok (.new 321, 3) := dk_187 1 65 (dk_at dksX2_fact_4 6 rfl rfl)
theorem dX2_fact_105 : decode cX2_fact 105 = .ok (.dup, 1) := dk_89 (dk_at dksX2_fact_4 9 rfl rfl)
theorem dX2_fact_106 : decode cX2_fact 106 = .ok (.invokespecial 323, 3) := dk_183 1 67 (dk_at dksX2_fact_4 10 rfl rfl)
theorem dX2_fact_109 : decode cX2_fact 109 = .ok (.areturn, 1) := dk_176 (dk_at dksX2_fact_4 13 rfl rfl)
theorem dX2_fact_110 : decode cX2_fact 110 = .ok (.aload_n 0, 1) := dk_42 (dk_at dksX2_fact_4 14 rfl rfl)
theorem dX2_fact_111 : decode cX2_fact 111 = .ok (.invokevirtual 257, 3) := dk_182 1 1 (dk_at dksX2_fact_4 15 rfl rfl)
theorem dX2_fact_114 : decode cX2_fact 114 = .ok (.astore_n 1, 1) := dk_76 (dk_at dksX2_fact_4 18 rfl rfl)
theorem dX2_fact_115 : decode cX2_fact 115 = .ok (.aload_n 0, 1) := dk_42 (dk_at dksX2_fact_4 19 rfl rfl)
theorem dX2_fact_116 : decode cX2_fact 116 = .ok (.invokevirtual 43, 3) := dk_182 0 43 (dk_at dksX2_fact_4 20 rfl rfl)
theorem dX2_fact_119 : decode cX2_fact 119 = .ok (.istore_n 2, 1) := dk_61 (dk_at dksX2_fact_4 23 rfl rfl)
theorem dX2_fact_120 : decode cX2_fact 120 = .ok (.iload_n 2, 1) := dk_28 (dk_at dksX2_fact_5 0 rfl rfl)
theorem dX2_fact_121 : decode cX2_fact 121 = .ok (.bipush 60, 2) := dk_16 60 (dk_at dksX2_fact_5 1 rfl rfl)
theorem dX2_fact_123 : decode cX2_fact 123 = .ok (.if_icmp .eq 25, 3) := dk_159 0 25 (dk_at dksX2_fact_5 3 rfl rfl)
theorem dX2_fact_126 : decode cX2_fact 126 = .ok (.iload_n 2, 1) := dk_28 (dk_at dksX2_fact_5 6 rfl rfl)
theorem dX2_fact_127 : decode cX2_fact 127 = .ok (.bipush 62, 2) := dk_16 62 (dk_at dksX2_fact_5 7 rfl rfl)
theorem dX2_fact_129 : decode cX2_fact 129 = .ok (.if_icmp .eq 19, 3) := dk_159 0 19 (dk_at dksX2_fact_5 9 rfl rfl)
theorem dX2_fact_132 : decode cX2_fact 132 = .ok (.iload_n 2, 1) := dk_28 (dk_at dksX2_fact_5 12 rfl rfl)
theorem dX2_fact_133 : decode cX2_fact 133 = .ok (.bipush 61, 2) := dk_16 61 (dk_at dksX2_fact_5 13 rfl rfl)
theorem dX2_fact_135 : decode cX2_fact 135 = .ok (.if_icmp .eq 13, 3) := dk_159 0 13 (dk_at dksX2_fact_5 15 rfl rfl)
theorem dX2_fact_138 : decode cX2_fact 138 = .ok (.aload_n 0, 1) := dk_42 (dk_at dksX2_fact_5 18 rfl rfl)
theorem dX2_fact_139 : decode cX2_fact 139 = .ok (.iconst 1, 1) := dk_4 (dk_at dksX2_fact_5 19 rfl rfl)
theorem dX2_fact_140 : decode cX2_fact 140 = .ok (.aload_n 0, 1) := dk_42 (dk_at dksX2_fact_5 20 rfl rfl)
theorem dX2_fact_141 : decode cX2_fact 141 = .ok (.getfield 36, 3) := dk_180 0 36 (dk_at dksX2_fact_5 21 rfl rfl)
theorem dX2_fact_144 : decode cX2_fact 144 = .ok (.invokevirtual 47, 3) := dk_182 0 47 (dk_at dksX2_fact_6 0 rfl rfl)
theorem dX2_fact_147 : decode cX2_fact 147 = .ok (.athrow, 1) := dk_191 (dk_at dksX2_fact_6 3 rfl rfl)
theorem dX2_fact_148 : decode cX2_fact 148 = .ok (.aload_n 0, 1) := dk_42 (dk_at dksX2_fact_6 4 rfl rfl)
theorem dX2_fact_149 : decode cX2_fact 149 = .ok (.dup, 1) := dk_89 (dk_at dksX2_fact_6 5 rfl rfl)
theorem dX2_fact_150 : decode cX2_fact 150 = .ok (.getfield 36, 3) := dk_180 0 36 (dk_at dksX2_fact_6 6 rfl rfl)
theorem dX2_fact_153 : decode cX2_fact 153 = .ok (.iconst 1, 1) := dk_4 (dk_at dksX2_fact_6 9 rfl rfl)
theorem dX2_fact_154 : decode cX2_fact 154 = .ok (.iadd, 1) := dk_96 (dk_at dksX2_fact_6 10 rfl rfl)
theorem dX2_fact_155 : decode cX2_fact 155 = .ok (.putfield 36, 3) := dk_181 0 36 (dk_at dksX2_fact_6 11 rfl rfl)
theorem dX2_fact_158 : decode cX2_fact 158 = .ok (.new 324, 3) := dk_187 1 68 (dk_at dksX2_fact_6 14 rfl rfl)
theorem dX2_fact_161 : decode cX2_fact 161 = .ok (.dup, 1) := dk_89 (dk_at dksX2_fact_6 17 rfl rfl)
theorem dX2_fact_162 : decode cX2_fact 162 = .ok (.aload_n 1, 1) := dk_43 (dk_at dksX2_fact_6 18 rfl rfl)
theorem dX2_fact_163 : decode cX2_fact 163 = .ok (.iload_n 2, 1) := dk_28 (dk_at dksX2_fact_6 19 rfl rfl)
theorem dX2_fact_164 : decode cX2_fact 164 = .ok (.aload_n 0, 1) := dk_42 (dk_at dksX2_fact_6 20 rfl rfl)
theorem dX2_fact_165 : decode cX2_fact 165 = .ok (.invokevirtual 257, 3) := dk_182 1 1 (dk_at dksX2_fact_6 21 rfl rfl)
theorem dX2_fact_168 : decode cX2_fact 168 = .ok (.invokespecial 326, 3) := dk_183 1 70 (dk_at dksX2_fact_7 0 rfl rfl)
theorem dX2_fact_171 : decode cX2_fact 171 = .ok (.areturn, 1) := dk_176 (dk_at dksX2_fact_7 3 rfl rfl)
abbrev cX2_opens : ByteArray := prog_15_method_23_code
def yX2_opens : MethodName := ⟨RX2, "opens", "(I)V"⟩
def dkwX2_opens_1 : List UInt8 := [181, 0, 122, 177]
abbrev dktX2_opens_1 : List UInt8 := dkwX2_opens_1 ++ []
def dkwX2_opens_0 : List UInt8 := [42, 180, 0, 122, 16, 6, 160, 0, 10, 42, 7, 27, 182, 0, 47, 191, 42, 89, 180, 0, 122, 4, 96]
abbrev dktX2_opens_0 : List UInt8 := dkwX2_opens_0 ++ dktX2_opens_1
theorem dksX2_opens_0 : cX2_opens.data.toList.drop 0 = dktX2_opens_0 := by decide +kernel
theorem dksX2_opens_1 : cX2_opens.data.toList.drop 23 = dktX2_opens_1 := dk_seg dksX2_opens_0 23 rfl rfl
theorem dX2_opens_0 : decode cX2_opens 0 = .ok (.aload_n 0, 1) := dk_42 (dk_at dksX2_opens_0 0 rfl rfl)
theorem dX2_opens_1 : decode cX2_opens 1 = .ok (.getfield 122, 3) := dk_180 0 122 (dk_at dksX2_opens_0 1 rfl rfl)
theorem dX2_opens_4 : decode cX2_opens 4 = .ok (.bipush 6, 2) := dk_16 6 (dk_at dksX2_opens_0 4 rfl rfl)
theorem dX2_opens_6 : decode cX2_opens 6 = .ok (.if_icmp .ne 10, 3) := dk_160 0 10 (dk_at dksX2_opens_0 6 rfl rfl)
theorem dX2_opens_9 : decode cX2_opens 9 = .ok (.aload_n 0, 1) := dk_42 (dk_at dksX2_opens_0 9 rfl rfl)
theorem dX2_opens_10 : decode cX2_opens 10 = .ok (.iconst 4, 1) := dk_7 (dk_at dksX2_opens_0 10 rfl rfl)
theorem dX2_opens_11 : decode cX2_opens 11 = .ok (.iload_n 1, 1) := dk_27 (dk_at dksX2_opens_0 11 rfl rfl)
theorem dX2_opens_12 : decode cX2_opens 12 = .ok (.invokevirtual 47, 3) := dk_182 0 47 (dk_at dksX2_opens_0 12 rfl rfl)
theorem dX2_opens_15 : decode cX2_opens 15 = .ok (.athrow, 1) := dk_191 (dk_at dksX2_opens_0 15 rfl rfl)
theorem dX2_opens_16 : decode cX2_opens 16 = .ok (.aload_n 0, 1) := dk_42 (dk_at dksX2_opens_0 16 rfl rfl)
theorem dX2_opens_17 : decode cX2_opens 17 = .ok (.dup, 1) := dk_89 (dk_at dksX2_opens_0 17 rfl rfl)
theorem dX2_opens_18 : decode cX2_opens 18 = .ok (.getfield 122, 3) := dk_180 0 122 (dk_at dksX2_opens_0 18 rfl rfl)
theorem dX2_opens_21 : decode cX2_opens 21 = .ok (.iconst 1, 1) := dk_4 (dk_at dksX2_opens_0 21 rfl rfl)
theorem dX2_opens_22 : decode cX2_opens 22 = .ok (.iadd, 1) := dk_96 (dk_at dksX2_opens_0 22 rfl rfl)
theorem dX2_opens_23 : decode cX2_opens 23 = .ok (.putfield 122, 3) := dk_181 0 122 (dk_at dksX2_opens_1 0 rfl rfl)
theorem dX2_opens_26 : decode cX2_opens 26 = .ok (.return_, 1) := dk_177 (dk_at dksX2_opens_1 3 rfl rfl)
abbrev cX2_must : ByteArray := prog_15_method_5_code
def yX2_must : MethodName := ⟨RX2, "must", "(I)V"⟩
def dkwX2_must_1 : List UInt8 := [96, 181, 0, 36, 177]
abbrev dktX2_must_1 : List UInt8 := dkwX2_must_1 ++ []
def dkwX2_must_0 : List UInt8 := [42, 182, 0, 43, 27, 159, 0, 13, 42, 4, 42, 180, 0, 36, 182, 0, 47, 191, 42, 89, 180, 0, 36, 4]
abbrev dktX2_must_0 : List UInt8 := dkwX2_must_0 ++ dktX2_must_1
theorem dksX2_must_0 : cX2_must.data.toList.drop 0 = dktX2_must_0 := by decide +kernel
theorem dksX2_must_1 : cX2_must.data.toList.drop 24 = dktX2_must_1 := dk_seg dksX2_must_0 24 rfl rfl
theorem dX2_must_0 : decode cX2_must 0 = .ok (.aload_n 0, 1) := dk_42 (dk_at dksX2_must_0 0 rfl rfl)
theorem dX2_must_1 : decode cX2_must 1 = .ok (.invokevirtual 43, 3) := dk_182 0 43 (dk_at dksX2_must_0 1 rfl rfl)
theorem dX2_must_4 : decode cX2_must 4 = .ok (.iload_n 1, 1) := dk_27 (dk_at dksX2_must_0 4 rfl rfl)
theorem dX2_must_5 : decode cX2_must 5 = .ok (.if_icmp .eq 13, 3) := dk_159 0 13 (dk_at dksX2_must_0 5 rfl rfl)
theorem dX2_must_8 : decode cX2_must 8 = .ok (.aload_n 0, 1) := dk_42 (dk_at dksX2_must_0 8 rfl rfl)
theorem dX2_must_9 : decode cX2_must 9 = .ok (.iconst 1, 1) := dk_4 (dk_at dksX2_must_0 9 rfl rfl)
theorem dX2_must_10 : decode cX2_must 10 = .ok (.aload_n 0, 1) := dk_42 (dk_at dksX2_must_0 10 rfl rfl)
theorem dX2_must_11 : decode cX2_must 11 = .ok (.getfield 36, 3) := dk_180 0 36 (dk_at dksX2_must_0 11 rfl rfl)
theorem dX2_must_14 : decode cX2_must 14 = .ok (.invokevirtual 47, 3) := dk_182 0 47 (dk_at dksX2_must_0 14 rfl rfl)
theorem dX2_must_17 : decode cX2_must 17 = .ok (.athrow, 1) := dk_191 (dk_at dksX2_must_0 17 rfl rfl)
theorem dX2_must_18 : decode cX2_must 18 = .ok (.aload_n 0, 1) := dk_42 (dk_at dksX2_must_0 18 rfl rfl)
theorem dX2_must_19 : decode cX2_must 19 = .ok (.dup, 1) := dk_89 (dk_at dksX2_must_0 19 rfl rfl)
theorem dX2_must_20 : decode cX2_must 20 = .ok (.getfield 36, 3) := dk_180 0 36 (dk_at dksX2_must_0 20 rfl rfl)
theorem dX2_must_23 : decode cX2_must 23 = .ok (.iconst 1, 1) := dk_4 (dk_at dksX2_must_0 23 rfl rfl)
theorem dX2_must_24 : decode cX2_must 24 = .ok (.iadd, 1) := dk_96 (dk_at dksX2_must_1 0 rfl rfl)
theorem dX2_must_25 : decode cX2_must 25 = .ok (.putfield 36, 3) := dk_181 0 36 (dk_at dksX2_must_1 1 rfl rfl)
theorem dX2_must_28 : decode cX2_must 28 = .ok (.return_, 1) := dk_177 (dk_at dksX2_must_1 4 rfl rfl)
abbrev cX2_passes : ByteArray := prog_15_method_9_code
def yX2_passes : MethodName := ⟨RX2, "passes", "(Ljava/lang/String;)Z"⟩
def dkwX2_passes_1 : List UInt8 := [182, 0, 74, 153, 0, 5, 4, 172, 42, 28, 181, 0, 36, 3, 172]
abbrev dktX2_passes_1 : List UInt8 := dkwX2_passes_1 ++ []
def dkwX2_passes_0 : List UInt8 := [42, 180, 0, 36, 61, 42, 182, 0, 43, 184, 0, 51, 154, 0, 5, 3, 172, 42, 182, 0, 70, 43]
abbrev dktX2_passes_0 : List UInt8 := dkwX2_passes_0 ++ dktX2_passes_1
theorem dksX2_passes_0 : cX2_passes.data.toList.drop 0 = dktX2_passes_0 := by decide +kernel
theorem dksX2_passes_1 : cX2_passes.data.toList.drop 22 = dktX2_passes_1 := dk_seg dksX2_passes_0 22 rfl rfl
theorem dX2_passes_0 : decode cX2_passes 0 = .ok (.aload_n 0, 1) := dk_42 (dk_at dksX2_passes_0 0 rfl rfl)
theorem dX2_passes_1 : decode cX2_passes 1 = .ok (.getfield 36, 3) := dk_180 0 36 (dk_at dksX2_passes_0 1 rfl rfl)
theorem dX2_passes_4 : decode cX2_passes 4 = .ok (.istore_n 2, 1) := dk_61 (dk_at dksX2_passes_0 4 rfl rfl)
theorem dX2_passes_5 : decode cX2_passes 5 = .ok (.aload_n 0, 1) := dk_42 (dk_at dksX2_passes_0 5 rfl rfl)
theorem dX2_passes_6 : decode cX2_passes 6 = .ok (.invokevirtual 43, 3) := dk_182 0 43 (dk_at dksX2_passes_0 6 rfl rfl)
theorem dX2_passes_9 : decode cX2_passes 9 = .ok (.invokestatic 51, 3) := dk_184 0 51 (dk_at dksX2_passes_0 9 rfl rfl)
theorem dX2_passes_12 : decode cX2_passes 12 = .ok (.ifCond .ne 5, 3) := dk_154 0 5 (dk_at dksX2_passes_0 12 rfl rfl)
theorem dX2_passes_15 : decode cX2_passes 15 = .ok (.iconst 0, 1) := dk_3 (dk_at dksX2_passes_0 15 rfl rfl)
theorem dX2_passes_16 : decode cX2_passes 16 = .ok (.ireturn, 1) := dk_172 (dk_at dksX2_passes_0 16 rfl rfl)
theorem dX2_passes_17 : decode cX2_passes 17 = .ok (.aload_n 0, 1) := dk_42 (dk_at dksX2_passes_0 17 rfl rfl)
theorem dX2_passes_18 : decode cX2_passes 18 = .ok (.invokevirtual 70, 3) := dk_182 0 70 (dk_at dksX2_passes_0 18 rfl rfl)
theorem dX2_passes_21 : decode cX2_passes 21 = .ok (.aload_n 1, 1) := dk_43 (dk_at dksX2_passes_0 21 rfl rfl)
theorem dX2_passes_22 : decode cX2_passes 22 = .ok (.invokevirtual 74, 3) := dk_182 0 74 (dk_at dksX2_passes_1 0 rfl rfl)
theorem dX2_passes_25 : decode cX2_passes 25 = .ok (.ifCond .eq 5, 3) := dk_153 0 5 (dk_at dksX2_passes_1 3 rfl rfl)
theorem dX2_passes_28 : decode cX2_passes 28 = .ok (.iconst 1, 1) := dk_4 (dk_at dksX2_passes_1 6 rfl rfl)
theorem dX2_passes_29 : decode cX2_passes 29 = .ok (.ireturn, 1) := dk_172 (dk_at dksX2_passes_1 7 rfl rfl)
theorem dX2_passes_30 : decode cX2_passes 30 = .ok (.aload_n 0, 1) := dk_42 (dk_at dksX2_passes_1 8 rfl rfl)
theorem dX2_passes_31 : decode cX2_passes 31 = .ok (.iload_n 2, 1) := dk_28 (dk_at dksX2_passes_1 9 rfl rfl)
theorem dX2_passes_32 : decode cX2_passes 32 = .ok (.putfield 36, 3) := dk_181 0 36 (dk_at dksX2_passes_1 10 rfl rfl)
theorem dX2_passes_35 : decode cX2_passes 35 = .ok (.iconst 0, 1) := dk_3 (dk_at dksX2_passes_1 13 rfl rfl)
theorem dX2_passes_36 : decode cX2_passes 36 = .ok (.ireturn, 1) := dk_172 (dk_at dksX2_passes_1 14 rfl rfl)
abbrev cX2_sum : ByteArray := prog_15_method_21_code
def yX2_sum : MethodName := ⟨RX2, "sum", "()LPupilsPupil$Value;"⟩
def dkwX2_sum_3 : List UInt8 := [167, 255, 206, 43, 176]
abbrev dktX2_sum_3 : List UInt8 := dkwX2_sum_3 ++ []
def dkwX2_sum_2 : List UInt8 := [16, 45, 182, 0, 249, 153, 0, 16, 43, 16, 45, 42, 182, 0, 242, 182, 0, 246, 167, 255, 211, 3, 61]
abbrev dktX2_sum_2 : List UInt8 := dkwX2_sum_2 ++ dktX2_sum_3
def dkwX2_sum_1 : List UInt8 := [42, 16, 43, 182, 0, 249, 153, 0, 16, 43, 16, 43, 42, 182, 0, 242, 182, 0, 246, 167, 255, 233, 42]
abbrev dktX2_sum_1 : List UInt8 := dkwX2_sum_1 ++ dktX2_sum_2
def dkwX2_sum_0 : List UInt8 := [187, 0, 239, 89, 183, 0, 241, 76, 43, 16, 43, 42, 182, 0, 242, 182, 0, 246, 4, 61, 28, 153, 0, 52]
abbrev dktX2_sum_0 : List UInt8 := dkwX2_sum_0 ++ dktX2_sum_1
theorem dksX2_sum_0 : cX2_sum.data.toList.drop 0 = dktX2_sum_0 := by decide +kernel
theorem dksX2_sum_1 : cX2_sum.data.toList.drop 24 = dktX2_sum_1 := dk_seg dksX2_sum_0 24 rfl rfl
theorem dksX2_sum_2 : cX2_sum.data.toList.drop 47 = dktX2_sum_2 := dk_seg dksX2_sum_1 23 rfl rfl
theorem dksX2_sum_3 : cX2_sum.data.toList.drop 70 = dktX2_sum_3 := dk_seg dksX2_sum_2 23 rfl rfl
theorem dX2_sum_0 : decode cX2_sum 0 = .ok (.new 239, 3) := dk_187 0 239 (dk_at dksX2_sum_0 0 rfl rfl)
theorem dX2_sum_3 : decode cX2_sum 3 = .ok (.dup, 1) := dk_89 (dk_at dksX2_sum_0 3 rfl rfl)
theorem dX2_sum_4 : decode cX2_sum 4 = .ok (.invokespecial 241, 3) := dk_183 0 241 (dk_at dksX2_sum_0 4 rfl rfl)
theorem dX2_sum_7 : decode cX2_sum 7 = .ok (.astore_n 1, 1) := dk_76 (dk_at dksX2_sum_0 7 rfl rfl)
theorem dX2_sum_8 : decode cX2_sum 8 = .ok (.aload_n 1, 1) := dk_43 (dk_at dksX2_sum_0 8 rfl rfl)
theorem dX2_sum_9 : decode cX2_sum 9 = .ok (.bipush 43, 2) := dk_16 43 (dk_at dksX2_sum_0 9 rfl rfl)
theorem dX2_sum_11 : decode cX2_sum 11 = .ok (.aload_n 0, 1) := dk_42 (dk_at dksX2_sum_0 11 rfl rfl)
theorem dX2_sum_12 : decode cX2_sum 12 = .ok (.invokevirtual 242, 3) := dk_182 0 242 (dk_at dksX2_sum_0 12 rfl rfl)
theorem dX2_sum_15 : decode cX2_sum 15 = .ok (.invokevirtual 246, 3) := dk_182 0 246 (dk_at dksX2_sum_0 15 rfl rfl)
theorem dX2_sum_18 : decode cX2_sum 18 = .ok (.iconst 1, 1) := dk_4 (dk_at dksX2_sum_0 18 rfl rfl)
theorem dX2_sum_19 : decode cX2_sum 19 = .ok (.istore_n 2, 1) := dk_61 (dk_at dksX2_sum_0 19 rfl rfl)
theorem dX2_sum_20 : decode cX2_sum 20 = .ok (.iload_n 2, 1) := dk_28 (dk_at dksX2_sum_0 20 rfl rfl)
theorem dX2_sum_21 : decode cX2_sum 21 = .ok (.ifCond .eq 52, 3) := dk_153 0 52 (dk_at dksX2_sum_0 21 rfl rfl)
theorem dX2_sum_24 : decode cX2_sum 24 = .ok (.aload_n 0, 1) := dk_42 (dk_at dksX2_sum_1 0 rfl rfl)
theorem dX2_sum_25 : decode cX2_sum 25 = .ok (.bipush 43, 2) := dk_16 43 (dk_at dksX2_sum_1 1 rfl rfl)
theorem dX2_sum_27 : decode cX2_sum 27 = .ok (.invokevirtual 249, 3) := dk_182 0 249 (dk_at dksX2_sum_1 3 rfl rfl)
theorem dX2_sum_30 : decode cX2_sum 30 = .ok (.ifCond .eq 16, 3) := dk_153 0 16 (dk_at dksX2_sum_1 6 rfl rfl)
theorem dX2_sum_33 : decode cX2_sum 33 = .ok (.aload_n 1, 1) := dk_43 (dk_at dksX2_sum_1 9 rfl rfl)
theorem dX2_sum_34 : decode cX2_sum 34 = .ok (.bipush 43, 2) := dk_16 43 (dk_at dksX2_sum_1 10 rfl rfl)
theorem dX2_sum_36 : decode cX2_sum 36 = .ok (.aload_n 0, 1) := dk_42 (dk_at dksX2_sum_1 12 rfl rfl)
theorem dX2_sum_37 : decode cX2_sum 37 = .ok (.invokevirtual 242, 3) := dk_182 0 242 (dk_at dksX2_sum_1 13 rfl rfl)
theorem dX2_sum_40 : decode cX2_sum 40 = .ok (.invokevirtual 246, 3) := dk_182 0 246 (dk_at dksX2_sum_1 16 rfl rfl)
theorem dX2_sum_43 : decode cX2_sum 43 = .ok (.goto (-23), 3) := dk_167 255 233 (dk_at dksX2_sum_1 19 rfl rfl)
theorem dX2_sum_46 : decode cX2_sum 46 = .ok (.aload_n 0, 1) := dk_42 (dk_at dksX2_sum_1 22 rfl rfl)
theorem dX2_sum_47 : decode cX2_sum 47 = .ok (.bipush 45, 2) := dk_16 45 (dk_at dksX2_sum_2 0 rfl rfl)
theorem dX2_sum_49 : decode cX2_sum 49 = .ok (.invokevirtual 249, 3) := dk_182 0 249 (dk_at dksX2_sum_2 2 rfl rfl)
theorem dX2_sum_52 : decode cX2_sum 52 = .ok (.ifCond .eq 16, 3) := dk_153 0 16 (dk_at dksX2_sum_2 5 rfl rfl)
theorem dX2_sum_55 : decode cX2_sum 55 = .ok (.aload_n 1, 1) := dk_43 (dk_at dksX2_sum_2 8 rfl rfl)
theorem dX2_sum_56 : decode cX2_sum 56 = .ok (.bipush 45, 2) := dk_16 45 (dk_at dksX2_sum_2 9 rfl rfl)
theorem dX2_sum_58 : decode cX2_sum 58 = .ok (.aload_n 0, 1) := dk_42 (dk_at dksX2_sum_2 11 rfl rfl)
theorem dX2_sum_59 : decode cX2_sum 59 = .ok (.invokevirtual 242, 3) := dk_182 0 242 (dk_at dksX2_sum_2 12 rfl rfl)
theorem dX2_sum_62 : decode cX2_sum 62 = .ok (.invokevirtual 246, 3) := dk_182 0 246 (dk_at dksX2_sum_2 15 rfl rfl)
theorem dX2_sum_65 : decode cX2_sum 65 = .ok (.goto (-45), 3) := dk_167 255 211 (dk_at dksX2_sum_2 18 rfl rfl)
theorem dX2_sum_68 : decode cX2_sum 68 = .ok (.iconst 0, 1) := dk_3 (dk_at dksX2_sum_2 21 rfl rfl)
theorem dX2_sum_69 : decode cX2_sum 69 = .ok (.istore_n 2, 1) := dk_61 (dk_at dksX2_sum_2 22 rfl rfl)
theorem dX2_sum_70 : decode cX2_sum 70 = .ok (.goto (-50), 3) := dk_167 255 206 (dk_at dksX2_sum_3 0 rfl rfl)
theorem dX2_sum_73 : decode cX2_sum 73 = .ok (.aload_n 1, 1) := dk_43 (dk_at dksX2_sum_3 3 rfl rfl)
theorem dX2_sum_74 : decode cX2_sum 74 = .ok (.areturn, 1) := dk_176 (dk_at dksX2_sum_3 4 rfl rfl)
abbrev cX2_product : ByteArray := prog_15_method_22_code
def yX2_product : MethodName := ⟨RX2, "product", "()LPupilsPupil$Value;"⟩
def dkwX2_product_3 : List UInt8 := [167, 255, 206, 43, 176]
abbrev dktX2_product_3 : List UInt8 := dkwX2_product_3 ++ []
def dkwX2_product_2 : List UInt8 := [16, 47, 182, 0, 249, 153, 0, 16, 43, 16, 47, 42, 182, 0, 251, 182, 0, 246, 167, 255, 211, 3, 61]
abbrev dktX2_product_2 : List UInt8 := dkwX2_product_2 ++ dktX2_product_3
def dkwX2_product_1 : List UInt8 := [42, 16, 42, 182, 0, 249, 153, 0, 16, 43, 16, 42, 42, 182, 0, 251, 182, 0, 246, 167, 255, 233, 42]
abbrev dktX2_product_1 : List UInt8 := dkwX2_product_1 ++ dktX2_product_2
def dkwX2_product_0 : List UInt8 := [187, 0, 239, 89, 183, 0, 241, 76, 43, 16, 42, 42, 182, 0, 251, 182, 0, 246, 4, 61, 28, 153, 0, 52]
abbrev dktX2_product_0 : List UInt8 := dkwX2_product_0 ++ dktX2_product_1
theorem dksX2_product_0 : cX2_product.data.toList.drop 0 = dktX2_product_0 := by decide +kernel
theorem dksX2_product_1 : cX2_product.data.toList.drop 24 = dktX2_product_1 := dk_seg dksX2_product_0 24 rfl rfl
theorem dksX2_product_2 : cX2_product.data.toList.drop 47 = dktX2_product_2 := dk_seg dksX2_product_1 23 rfl rfl
theorem dksX2_product_3 : cX2_product.data.toList.drop 70 = dktX2_product_3 := dk_seg dksX2_product_2 23 rfl rfl
theorem dX2_product_0 : decode cX2_product 0 = .ok (.new 239, 3) := dk_187 0 239 (dk_at dksX2_product_0 0 rfl rfl)
theorem dX2_product_3 : decode cX2_product 3 = .ok (.dup, 1) := dk_89 (dk_at dksX2_product_0 3 rfl rfl)
theorem dX2_product_4 : decode cX2_product 4 = .ok (.invokespecial 241, 3) := dk_183 0 241 (dk_at dksX2_product_0 4 rfl rfl)
theorem dX2_product_7 : decode cX2_product 7 = .ok (.astore_n 1, 1) := dk_76 (dk_at dksX2_product_0 7 rfl rfl)
theorem dX2_product_8 : decode cX2_product 8 = .ok (.aload_n 1, 1) := dk_43 (dk_at dksX2_product_0 8 rfl rfl)
theorem dX2_product_9 : decode cX2_product 9 = .ok (.bipush 42, 2) := dk_16 42 (dk_at dksX2_product_0 9 rfl rfl)
theorem dX2_product_11 : decode cX2_product 11 = .ok (.aload_n 0, 1) := dk_42 (dk_at dksX2_product_0 11 rfl rfl)
theorem dX2_product_12 : decode cX2_product 12 = .ok (.invokevirtual 251, 3) := dk_182 0 251 (dk_at dksX2_product_0 12 rfl rfl)
theorem dX2_product_15 : decode cX2_product 15 = .ok (.invokevirtual 246, 3) := dk_182 0 246 (dk_at dksX2_product_0 15 rfl rfl)
theorem dX2_product_18 : decode cX2_product 18 = .ok (.iconst 1, 1) := dk_4 (dk_at dksX2_product_0 18 rfl rfl)
theorem dX2_product_19 : decode cX2_product 19 = .ok (.istore_n 2, 1) := dk_61 (dk_at dksX2_product_0 19 rfl rfl)
theorem dX2_product_20 : decode cX2_product 20 = .ok (.iload_n 2, 1) := dk_28 (dk_at dksX2_product_0 20 rfl rfl)
theorem dX2_product_21 : decode cX2_product 21 = .ok (.ifCond .eq 52, 3) := dk_153 0 52 (dk_at dksX2_product_0 21 rfl rfl)
theorem dX2_product_24 : decode cX2_product 24 = .ok (.aload_n 0, 1) := dk_42 (dk_at dksX2_product_1 0 rfl rfl)
theorem dX2_product_25 : decode cX2_product 25 = .ok (.bipush 42, 2) := dk_16 42 (dk_at dksX2_product_1 1 rfl rfl)
theorem dX2_product_27 : decode cX2_product 27 = .ok (.invokevirtual 249, 3) := dk_182 0 249 (dk_at dksX2_product_1 3 rfl rfl)
theorem dX2_product_30 : decode cX2_product 30 = .ok (.ifCond .eq 16, 3) := dk_153 0 16 (dk_at dksX2_product_1 6 rfl rfl)
theorem dX2_product_33 : decode cX2_product 33 = .ok (.aload_n 1, 1) := dk_43 (dk_at dksX2_product_1 9 rfl rfl)
theorem dX2_product_34 : decode cX2_product 34 = .ok (.bipush 42, 2) := dk_16 42 (dk_at dksX2_product_1 10 rfl rfl)
theorem dX2_product_36 : decode cX2_product 36 = .ok (.aload_n 0, 1) := dk_42 (dk_at dksX2_product_1 12 rfl rfl)
theorem dX2_product_37 : decode cX2_product 37 = .ok (.invokevirtual 251, 3) := dk_182 0 251 (dk_at dksX2_product_1 13 rfl rfl)
theorem dX2_product_40 : decode cX2_product 40 = .ok (.invokevirtual 246, 3) := dk_182 0 246 (dk_at dksX2_product_1 16 rfl rfl)
theorem dX2_product_43 : decode cX2_product 43 = .ok (.goto (-23), 3) := dk_167 255 233 (dk_at dksX2_product_1 19 rfl rfl)
theorem dX2_product_46 : decode cX2_product 46 = .ok (.aload_n 0, 1) := dk_42 (dk_at dksX2_product_1 22 rfl rfl)
theorem dX2_product_47 : decode cX2_product 47 = .ok (.bipush 47, 2) := dk_16 47 (dk_at dksX2_product_2 0 rfl rfl)
theorem dX2_product_49 : decode cX2_product 49 = .ok (.invokevirtual 249, 3) := dk_182 0 249 (dk_at dksX2_product_2 2 rfl rfl)
theorem dX2_product_52 : decode cX2_product 52 = .ok (.ifCond .eq 16, 3) := dk_153 0 16 (dk_at dksX2_product_2 5 rfl rfl)
theorem dX2_product_55 : decode cX2_product 55 = .ok (.aload_n 1, 1) := dk_43 (dk_at dksX2_product_2 8 rfl rfl)
theorem dX2_product_56 : decode cX2_product 56 = .ok (.bipush 47, 2) := dk_16 47 (dk_at dksX2_product_2 9 rfl rfl)
theorem dX2_product_58 : decode cX2_product 58 = .ok (.aload_n 0, 1) := dk_42 (dk_at dksX2_product_2 11 rfl rfl)
theorem dX2_product_59 : decode cX2_product 59 = .ok (.invokevirtual 251, 3) := dk_182 0 251 (dk_at dksX2_product_2 12 rfl rfl)
theorem dX2_product_62 : decode cX2_product 62 = .ok (.invokevirtual 246, 3) := dk_182 0 246 (dk_at dksX2_product_2 15 rfl rfl)
theorem dX2_product_65 : decode cX2_product 65 = .ok (.goto (-45), 3) := dk_167 255 211 (dk_at dksX2_product_2 18 rfl rfl)
theorem dX2_product_68 : decode cX2_product 68 = .ok (.iconst 0, 1) := dk_3 (dk_at dksX2_product_2 21 rfl rfl)
theorem dX2_product_69 : decode cX2_product 69 = .ok (.istore_n 2, 1) := dk_61 (dk_at dksX2_product_2 22 rfl rfl)
theorem dX2_product_70 : decode cX2_product 70 = .ok (.goto (-50), 3) := dk_167 255 206 (dk_at dksX2_product_3 0 rfl rfl)
theorem dX2_product_73 : decode cX2_product 73 = .ok (.aload_n 1, 1) := dk_43 (dk_at dksX2_product_3 3 rfl rfl)
theorem dX2_product_74 : decode cX2_product 74 = .ok (.areturn, 1) := dk_176 (dk_at dksX2_product_3 4 rfl rfl)
abbrev cX2_atom : ByteArray := prog_15_method_25_code
def yX2_atom : MethodName := ⟨RX2, "atom", "()LPupilsPupil$Value;"⟩
def dkwX2_atom_7 : List UInt8 := [182, 1, 9, 176]
abbrev dktX2_atom_7 : List UInt8 := dkwX2_atom_7 ++ []
def dkwX2_atom_6 : List UInt8 := [180, 0, 61, 182, 0, 47, 191, 42, 43, 19, 1, 31, 182, 0, 74, 153, 0, 7, 4, 167, 0, 4, 5]
abbrev dktX2_atom_6 : List UInt8 := dkwX2_atom_6 ++ dktX2_atom_7
def dkwX2_atom_5 : List UInt8 := [19, 1, 31, 182, 0, 74, 154, 0, 23, 43, 19, 1, 33, 182, 0, 74, 154, 0, 13, 42, 4, 42]
abbrev dktX2_atom_5 : List UInt8 := dkwX2_atom_5 ++ dktX2_atom_6
def dkwX2_atom_4 : List UInt8 := [178, 1, 25, 184, 0, 82, 167, 0, 4, 2, 61, 28, 2, 159, 0, 9, 42, 28, 182, 1, 28, 176, 43]
abbrev dktX2_atom_4 : List UInt8 := dkwX2_atom_4 ++ dktX2_atom_5
def dkwX2_atom_3 : List UInt8 := [153, 0, 12, 187, 1, 21, 89, 28, 183, 1, 23, 176, 42, 180, 0, 203, 17, 15, 159, 160, 0, 13, 43]
abbrev dktX2_atom_3 : List UInt8 := dkwX2_atom_3 ++ dktX2_atom_4
def dkwX2_atom_2 : List UInt8 := [76, 43, 178, 1, 18, 184, 0, 82, 61, 28, 2, 159, 0, 23, 42, 180, 0, 203, 28, 184, 0, 191]
abbrev dktX2_atom_2 : List UInt8 := dkwX2_atom_2 ++ dktX2_atom_3
def dkwX2_atom_1 : List UInt8 := [153, 0, 20, 187, 1, 13, 89, 42, 3, 17, 39, 15, 182, 0, 96, 133, 183, 1, 15, 176, 42, 182, 0, 70]
abbrev dktX2_atom_1 : List UInt8 := dkwX2_atom_1 ++ dktX2_atom_2
def dkwX2_atom_0 : List UInt8 := [42, 182, 0, 43, 16, 40, 160, 0, 9, 42, 3, 182, 1, 9, 176, 42, 182, 0, 43, 184, 0, 55]
abbrev dktX2_atom_0 : List UInt8 := dkwX2_atom_0 ++ dktX2_atom_1
theorem dksX2_atom_0 : cX2_atom.data.toList.drop 0 = dktX2_atom_0 := by decide +kernel
theorem dksX2_atom_1 : cX2_atom.data.toList.drop 22 = dktX2_atom_1 := dk_seg dksX2_atom_0 22 rfl rfl
theorem dksX2_atom_2 : cX2_atom.data.toList.drop 46 = dktX2_atom_2 := dk_seg dksX2_atom_1 24 rfl rfl
theorem dksX2_atom_3 : cX2_atom.data.toList.drop 68 = dktX2_atom_3 := dk_seg dksX2_atom_2 22 rfl rfl
theorem dksX2_atom_4 : cX2_atom.data.toList.drop 91 = dktX2_atom_4 := dk_seg dksX2_atom_3 23 rfl rfl
theorem dksX2_atom_5 : cX2_atom.data.toList.drop 114 = dktX2_atom_5 := dk_seg dksX2_atom_4 23 rfl rfl
theorem dksX2_atom_6 : cX2_atom.data.toList.drop 136 = dktX2_atom_6 := dk_seg dksX2_atom_5 22 rfl rfl
theorem dksX2_atom_7 : cX2_atom.data.toList.drop 159 = dktX2_atom_7 := dk_seg dksX2_atom_6 23 rfl rfl
theorem dX2_atom_0 : decode cX2_atom 0 = .ok (.aload_n 0, 1) := dk_42 (dk_at dksX2_atom_0 0 rfl rfl)
theorem dX2_atom_1 : decode cX2_atom 1 = .ok (.invokevirtual 43, 3) := dk_182 0 43 (dk_at dksX2_atom_0 1 rfl rfl)
theorem dX2_atom_4 : decode cX2_atom 4 = .ok (.bipush 40, 2) := dk_16 40 (dk_at dksX2_atom_0 4 rfl rfl)
theorem dX2_atom_6 : decode cX2_atom 6 = .ok (.if_icmp .ne 9, 3) := dk_160 0 9 (dk_at dksX2_atom_0 6 rfl rfl)
theorem dX2_atom_9 : decode cX2_atom 9 = .ok (.aload_n 0, 1) := dk_42 (dk_at dksX2_atom_0 9 rfl rfl)
theorem dX2_atom_10 : decode cX2_atom 10 = .ok (.iconst 0, 1) := dk_3 (dk_at dksX2_atom_0 10 rfl rfl)
theorem dX2_atom_11 : decode cX2_atom 11 = .ok (.invokevirtual 265, 3) := dk_182 1 9 (dk_at dksX2_atom_0 11 rfl rfl)
theorem dX2_atom_14 : decode cX2_atom 14 = .ok (.areturn, 1) := dk_176 (dk_at dksX2_atom_0 14 rfl rfl)
theorem dX2_atom_15 : decode cX2_atom 15 = .ok (.aload_n 0, 1) := dk_42 (dk_at dksX2_atom_0 15 rfl rfl)
theorem dX2_atom_16 : decode cX2_atom 16 = .ok (.invokevirtual 43, 3) := dk_182 0 43 (dk_at dksX2_atom_0 16 rfl rfl)
theorem dX2_atom_19 : decode cX2_atom 19 = .ok (.invokestatic 55, 3) := dk_184 0 55 (dk_at dksX2_atom_0 19 rfl rfl)
theorem dX2_atom_22 : decode cX2_atom 22 = .ok (.ifCond .eq 20, 3) := dk_153 0 20 (dk_at dksX2_atom_1 0 rfl rfl)
theorem dX2_atom_25 : decode cX2_atom 25 = .ok (.new 269, 3) := dk_187 1 13 (dk_at dksX2_atom_1 3 rfl rfl)
theorem dX2_atom_28 : decode cX2_atom 28 = .ok (.dup, 1) := dk_89 (dk_at dksX2_atom_1 6 rfl rfl)
theorem dX2_atom_29 : decode cX2_atom 29 = .ok (.aload_n 0, 1) := dk_42 (dk_at dksX2_atom_1 7 rfl rfl)
theorem dX2_atom_30 : decode cX2_atom 30 = .ok (.iconst 0, 1) := dk_3 (dk_at dksX2_atom_1 8 rfl rfl)
theorem dX2_atom_31 : decode cX2_atom 31 = .ok (.sipush 9999, 3) := dk_17 39 15 (dk_at dksX2_atom_1 9 rfl rfl)
theorem dX2_atom_34 : decode cX2_atom 34 = .ok (.invokevirtual 96, 3) := dk_182 0 96 (dk_at dksX2_atom_1 12 rfl rfl)
theorem dX2_atom_37 : decode cX2_atom 37 = .ok (.i2l, 1) := dk_133 (dk_at dksX2_atom_1 15 rfl rfl)
theorem dX2_atom_38 : decode cX2_atom 38 = .ok (.invokespecial 271, 3) := dk_183 1 15 (dk_at dksX2_atom_1 16 rfl rfl)
theorem dX2_atom_41 : decode cX2_atom 41 = .ok (.areturn, 1) := dk_176 (dk_at dksX2_atom_1 19 rfl rfl)
theorem dX2_atom_42 : decode cX2_atom 42 = .ok (.aload_n 0, 1) := dk_42 (dk_at dksX2_atom_1 20 rfl rfl)
theorem dX2_atom_43 : decode cX2_atom 43 = .ok (.invokevirtual 70, 3) := dk_182 0 70 (dk_at dksX2_atom_1 21 rfl rfl)
theorem dX2_atom_46 : decode cX2_atom 46 = .ok (.astore_n 1, 1) := dk_76 (dk_at dksX2_atom_2 0 rfl rfl)
theorem dX2_atom_47 : decode cX2_atom 47 = .ok (.aload_n 1, 1) := dk_43 (dk_at dksX2_atom_2 1 rfl rfl)
theorem dX2_atom_48 : decode cX2_atom 48 = .ok (.getstatic 274, 3) := dk_178 1 18 (dk_at dksX2_atom_2 2 rfl rfl)
theorem dX2_atom_51 : decode cX2_atom 51 = .ok (.invokestatic 82, 3) := dk_184 0 82 (dk_at dksX2_atom_2 5 rfl rfl)
theorem dX2_atom_54 : decode cX2_atom 54 = .ok (.istore_n 2, 1) := dk_61 (dk_at dksX2_atom_2 8 rfl rfl)
theorem dX2_atom_55 : decode cX2_atom 55 = .ok (.iload_n 2, 1) := dk_28 (dk_at dksX2_atom_2 9 rfl rfl)
theorem dX2_atom_56 : decode cX2_atom 56 = .ok (.iconst (-1), 1) := dk_2 (dk_at dksX2_atom_2 10 rfl rfl)
theorem dX2_atom_57 : decode cX2_atom 57 = .ok (.if_icmp .eq 23, 3) := dk_159 0 23 (dk_at dksX2_atom_2 11 rfl rfl)
theorem dX2_atom_60 : decode cX2_atom 60 = .ok (.aload_n 0, 1) := dk_42 (dk_at dksX2_atom_2 14 rfl rfl)
theorem dX2_atom_61 : decode cX2_atom 61 = .ok (.getfield 203, 3) := dk_180 0 203 (dk_at dksX2_atom_2 15 rfl rfl)
theorem dX2_atom_64 : decode cX2_atom 64 = .ok (.iload_n 2, 1) := dk_28 (dk_at dksX2_atom_2 18 rfl rfl)
theorem dX2_atom_65 : decode cX2_atom 65 = .ok (.invokestatic 191, 3) := dk_184 0 191 (dk_at dksX2_atom_2 19 rfl rfl)
theorem dX2_atom_68 : decode cX2_atom 68 = .ok (.ifCond .eq 12, 3) := dk_153 0 12 (dk_at dksX2_atom_3 0 rfl rfl)
theorem dX2_atom_71 : decode cX2_atom 71 = .ok (.new 277, 3) := dk_187 1 21 (dk_at dksX2_atom_3 3 rfl rfl)
theorem dX2_atom_74 : decode cX2_atom 74 = .ok (.dup, 1) := dk_89 (dk_at dksX2_atom_3 6 rfl rfl)
theorem dX2_atom_75 : decode cX2_atom 75 = .ok (.iload_n 2, 1) := dk_28 (dk_at dksX2_atom_3 7 rfl rfl)
theorem dX2_atom_76 : decode cX2_atom 76 = .ok (.invokespecial 279, 3) := dk_183 1 23 (dk_at dksX2_atom_3 8 rfl rfl)
theorem dX2_atom_79 : decode cX2_atom 79 = .ok (.areturn, 1) := dk_176 (dk_at dksX2_atom_3 11 rfl rfl)
theorem dX2_atom_80 : decode cX2_atom 80 = .ok (.aload_n 0, 1) := dk_42 (dk_at dksX2_atom_3 12 rfl rfl)
theorem dX2_atom_81 : decode cX2_atom 81 = .ok (.getfield 203, 3) := dk_180 0 203 (dk_at dksX2_atom_3 13 rfl rfl)
theorem dX2_atom_84 : decode cX2_atom 84 = .ok (.sipush 3999, 3) := dk_17 15 159 (dk_at dksX2_atom_3 16 rfl rfl)
theorem dX2_atom_87 : decode cX2_atom 87 = .ok (.if_icmp .ne 13, 3) := dk_160 0 13 (dk_at dksX2_atom_3 19 rfl rfl)
theorem dX2_atom_90 : decode cX2_atom 90 = .ok (.aload_n 1, 1) := dk_43 (dk_at dksX2_atom_3 22 rfl rfl)
theorem dX2_atom_91 : decode cX2_atom 91 = .ok (.getstatic 281, 3) := dk_178 1 25 (dk_at dksX2_atom_4 0 rfl rfl)
theorem dX2_atom_94 : decode cX2_atom 94 = .ok (.invokestatic 82, 3) := dk_184 0 82 (dk_at dksX2_atom_4 3 rfl rfl)
theorem dX2_atom_97 : decode cX2_atom 97 = .ok (.goto 4, 3) := dk_167 0 4 (dk_at dksX2_atom_4 6 rfl rfl)
theorem dX2_atom_100 : decode cX2_atom 100 = .ok (.iconst (-1), 1) := dk_2 (dk_at dksX2_atom_4 9 rfl rfl)
theorem dX2_atom_101 : decode cX2_atom 101 = .ok (.istore_n 2, 1) := dk_61 (dk_at dksX2_atom_4 10 rfl rfl)
theorem dX2_atom_102 : decode cX2_atom 102 = .ok (.iload_n 2, 1) := dk_28 (dk_at dksX2_atom_4 11 rfl rfl)
theorem dX2_atom_103 : decode cX2_atom 103 = .ok (.iconst (-1), 1) := dk_2 (dk_at dksX2_atom_4 12 rfl rfl)
theorem dX2_atom_104 : decode cX2_atom 104 = .ok (.if_icmp .eq 9, 3) := dk_159 0 9 (dk_at dksX2_atom_4 13 rfl rfl)
theorem dX2_atom_107 : decode cX2_atom 107 = .ok (.aload_n 0, 1) := dk_42 (dk_at dksX2_atom_4 16 rfl rfl)
theorem dX2_atom_108 : decode cX2_atom 108 = .ok (.iload_n 2, 1) := dk_28 (dk_at dksX2_atom_4 17 rfl rfl)
theorem dX2_atom_109 : decode cX2_atom 109 = .ok (.invokevirtual 284, 3) := dk_182 1 28 (dk_at dksX2_atom_4 18 rfl rfl)
theorem dX2_atom_112 : decode cX2_atom 112 = .ok (.areturn, 1) := dk_176 (dk_at dksX2_atom_4 21 rfl rfl)
theorem dX2_atom_113 : decode cX2_atom 113 = .ok (.aload_n 1, 1) := dk_43 (dk_at dksX2_atom_4 22 rfl rfl)
theorem dX2_atom_114 : decode cX2_atom 114 = .ok (.ldc_w 287, 3) := dk_19 1 31 (dk_at dksX2_atom_5 0 rfl rfl)
theorem dX2_atom_117 : decode cX2_atom 117 = .ok (.invokevirtual 74, 3) := dk_182 0 74 (dk_at dksX2_atom_5 3 rfl rfl)
theorem dX2_atom_120 : decode cX2_atom 120 = .ok (.ifCond .ne 23, 3) := dk_154 0 23 (dk_at dksX2_atom_5 6 rfl rfl)
theorem dX2_atom_123 : decode cX2_atom 123 = .ok (.aload_n 1, 1) := dk_43 (dk_at dksX2_atom_5 9 rfl rfl)
theorem dX2_atom_124 : decode cX2_atom 124 = .ok (.ldc_w 289, 3) := dk_19 1 33 (dk_at dksX2_atom_5 10 rfl rfl)
theorem dX2_atom_127 : decode cX2_atom 127 = .ok (.invokevirtual 74, 3) := dk_182 0 74 (dk_at dksX2_atom_5 13 rfl rfl)
theorem dX2_atom_130 : decode cX2_atom 130 = .ok (.ifCond .ne 13, 3) := dk_154 0 13 (dk_at dksX2_atom_5 16 rfl rfl)
theorem dX2_atom_133 : decode cX2_atom 133 = .ok (.aload_n 0, 1) := dk_42 (dk_at dksX2_atom_5 19 rfl rfl)
theorem dX2_atom_134 : decode cX2_atom 134 = .ok (.iconst 1, 1) := dk_4 (dk_at dksX2_atom_5 20 rfl rfl)
theorem dX2_atom_135 : decode cX2_atom 135 = .ok (.aload_n 0, 1) := dk_42 (dk_at dksX2_atom_5 21 rfl rfl)
theorem dX2_atom_136 : decode cX2_atom 136 = .ok (.getfield 61, 3) := dk_180 0 61 (dk_at dksX2_atom_6 0 rfl rfl)
theorem dX2_atom_139 : decode cX2_atom 139 = .ok (.invokevirtual 47, 3) := dk_182 0 47 (dk_at dksX2_atom_6 3 rfl rfl)
theorem dX2_atom_142 : decode cX2_atom 142 = .ok (.athrow, 1) := dk_191 (dk_at dksX2_atom_6 6 rfl rfl)
theorem dX2_atom_143 : decode cX2_atom 143 = .ok (.aload_n 0, 1) := dk_42 (dk_at dksX2_atom_6 7 rfl rfl)
theorem dX2_atom_144 : decode cX2_atom 144 = .ok (.aload_n 1, 1) := dk_43 (dk_at dksX2_atom_6 8 rfl rfl)
theorem dX2_atom_145 : decode cX2_atom 145 = .ok (.ldc_w 287, 3) := dk_19 1 31 (dk_at dksX2_atom_6 9 rfl rfl)
theorem dX2_atom_148 : decode cX2_atom 148 = .ok (.invokevirtual 74, 3) := dk_182 0 74 (dk_at dksX2_atom_6 12 rfl rfl)
theorem dX2_atom_151 : decode cX2_atom 151 = .ok (.ifCond .eq 7, 3) := dk_153 0 7 (dk_at dksX2_atom_6 15 rfl rfl)
theorem dX2_atom_154 : decode cX2_atom 154 = .ok (.iconst 1, 1) := dk_4 (dk_at dksX2_atom_6 18 rfl rfl)
theorem dX2_atom_155 : decode cX2_atom 155 = .ok (.goto 4, 3) := dk_167 0 4 (dk_at dksX2_atom_6 19 rfl rfl)
theorem dX2_atom_158 : decode cX2_atom 158 = .ok (.iconst 2, 1) := dk_5 (dk_at dksX2_atom_6 22 rfl rfl)
theorem dX2_atom_159 : decode cX2_atom 159 = .ok (.invokevirtual 265, 3) := dk_182 1 9 (dk_at dksX2_atom_7 0 rfl rfl)
theorem dX2_atom_162 : decode cX2_atom 162 = .ok (.areturn, 1) := dk_176 (dk_at dksX2_atom_7 3 rfl rfl)
abbrev cX2_within : ByteArray := prog_15_method_24_code
def yX2_within : MethodName := ⟨RX2, "within", "(I)LPupilsPupil$Value;"⟩
def dkwX2_within_4 : List UInt8 := [176]
abbrev dktX2_within_4 : List UInt8 := dkwX2_within_4 ++ []
def dkwX2_within_3 : List UInt8 := [182, 1, 1, 183, 1, 6, 78, 42, 16, 41, 182, 0, 139, 42, 89, 180, 0, 122, 4, 100, 181, 0, 122, 45]
abbrev dktX2_within_3 : List UInt8 := dkwX2_within_3 ++ dktX2_within_4
def dkwX2_within_2 : List UInt8 := [42, 16, 44, 182, 0, 139, 187, 1, 4, 89, 27, 5, 160, 0, 7, 4, 167, 0, 4, 3, 44, 42]
abbrev dktX2_within_2 : List UInt8 := dkwX2_within_2 ++ dktX2_within_3
def dkwX2_within_1 : List UInt8 := [182, 0, 254, 42, 89, 180, 0, 36, 4, 96, 181, 0, 36, 42, 182, 1, 1, 77, 44, 78, 27, 158, 0, 32]
abbrev dktX2_within_1 : List UInt8 := dkwX2_within_1 ++ dktX2_within_2
def dkwX2_within_0 : List UInt8 := [42, 182, 0, 43, 16, 40, 159, 0, 13, 42, 4, 42, 180, 0, 36, 182, 0, 47, 191, 42, 42, 180, 0, 36]
abbrev dktX2_within_0 : List UInt8 := dkwX2_within_0 ++ dktX2_within_1
theorem dksX2_within_0 : cX2_within.data.toList.drop 0 = dktX2_within_0 := by decide +kernel
theorem dksX2_within_1 : cX2_within.data.toList.drop 24 = dktX2_within_1 := dk_seg dksX2_within_0 24 rfl rfl
theorem dksX2_within_2 : cX2_within.data.toList.drop 48 = dktX2_within_2 := dk_seg dksX2_within_1 24 rfl rfl
theorem dksX2_within_3 : cX2_within.data.toList.drop 70 = dktX2_within_3 := dk_seg dksX2_within_2 22 rfl rfl
theorem dksX2_within_4 : cX2_within.data.toList.drop 94 = dktX2_within_4 := dk_seg dksX2_within_3 24 rfl rfl
theorem dX2_within_0 : decode cX2_within 0 = .ok (.aload_n 0, 1) := dk_42 (dk_at dksX2_within_0 0 rfl rfl)
theorem dX2_within_1 : decode cX2_within 1 = .ok (.invokevirtual 43, 3) := dk_182 0 43 (dk_at dksX2_within_0 1 rfl rfl)
theorem dX2_within_4 : decode cX2_within 4 = .ok (.bipush 40, 2) := dk_16 40 (dk_at dksX2_within_0 4 rfl rfl)
theorem dX2_within_6 : decode cX2_within 6 = .ok (.if_icmp .eq 13, 3) := dk_159 0 13 (dk_at dksX2_within_0 6 rfl rfl)
theorem dX2_within_9 : decode cX2_within 9 = .ok (.aload_n 0, 1) := dk_42 (dk_at dksX2_within_0 9 rfl rfl)
theorem dX2_within_10 : decode cX2_within 10 = .ok (.iconst 1, 1) := dk_4 (dk_at dksX2_within_0 10 rfl rfl)
theorem dX2_within_11 : decode cX2_within 11 = .ok (.aload_n 0, 1) := dk_42 (dk_at dksX2_within_0 11 rfl rfl)
theorem dX2_within_12 : decode cX2_within 12 = .ok (.getfield 36, 3) := dk_180 0 36 (dk_at dksX2_within_0 12 rfl rfl)
theorem dX2_within_15 : decode cX2_within 15 = .ok (.invokevirtual 47, 3) := dk_182 0 47 (dk_at dksX2_within_0 15 rfl rfl)
theorem dX2_within_18 : decode cX2_within 18 = .ok (.athrow, 1) := dk_191 (dk_at dksX2_within_0 18 rfl rfl)
theorem dX2_within_19 : decode cX2_within 19 = .ok (.aload_n 0, 1) := dk_42 (dk_at dksX2_within_0 19 rfl rfl)
theorem dX2_within_20 : decode cX2_within 20 = .ok (.aload_n 0, 1) := dk_42 (dk_at dksX2_within_0 20 rfl rfl)
theorem dX2_within_21 : decode cX2_within 21 = .ok (.getfield 36, 3) := dk_180 0 36 (dk_at dksX2_within_0 21 rfl rfl)
theorem dX2_within_24 : decode cX2_within 24 = .ok (.invokevirtual 254, 3) := dk_182 0 254 (dk_at dksX2_within_1 0 rfl rfl)
theorem dX2_within_27 : decode cX2_within 27 = .ok (.aload_n 0, 1) := dk_42 (dk_at dksX2_within_1 3 rfl rfl)
theorem dX2_within_28 : decode cX2_within 28 = .ok (.dup, 1) := dk_89 (dk_at dksX2_within_1 4 rfl rfl)
theorem dX2_within_29 : decode cX2_within 29 = .ok (.getfield 36, 3) := dk_180 0 36 (dk_at dksX2_within_1 5 rfl rfl)
theorem dX2_within_32 : decode cX2_within 32 = .ok (.iconst 1, 1) := dk_4 (dk_at dksX2_within_1 8 rfl rfl)
theorem dX2_within_33 : decode cX2_within 33 = .ok (.iadd, 1) := dk_96 (dk_at dksX2_within_1 9 rfl rfl)
theorem dX2_within_34 : decode cX2_within 34 = .ok (.putfield 36, 3) := dk_181 0 36 (dk_at dksX2_within_1 10 rfl rfl)
theorem dX2_within_37 : decode cX2_within 37 = .ok (.aload_n 0, 1) := dk_42 (dk_at dksX2_within_1 13 rfl rfl)
theorem dX2_within_38 : decode cX2_within 38 = .ok (.invokevirtual 257, 3) := dk_182 1 1 (dk_at dksX2_within_1 14 rfl rfl)
theorem dX2_within_41 : decode cX2_within 41 = .ok (.astore_n 2, 1) := dk_77 (dk_at dksX2_within_1 17 rfl rfl)
theorem dX2_within_42 : decode cX2_within 42 = .ok (.aload_n 2, 1) := dk_44 (dk_at dksX2_within_1 18 rfl rfl)
theorem dX2_within_43 : decode cX2_within 43 = .ok (.astore_n 3, 1) := dk_78 (dk_at dksX2_within_1 19 rfl rfl)
theorem dX2_within_44 : decode cX2_within 44 = .ok (.iload_n 1, 1) := dk_27 (dk_at dksX2_within_1 20 rfl rfl)
theorem dX2_within_45 : decode cX2_within 45 = .ok (.ifCond .le 32, 3) := dk_158 0 32 (dk_at dksX2_within_1 21 rfl rfl)
theorem dX2_within_48 : decode cX2_within 48 = .ok (.aload_n 0, 1) := dk_42 (dk_at dksX2_within_2 0 rfl rfl)
theorem dX2_within_49 : decode cX2_within 49 = .ok (.bipush 44, 2) := dk_16 44 (dk_at dksX2_within_2 1 rfl rfl)
theorem dX2_within_51 : decode cX2_within 51 = .ok (.invokevirtual 139, 3) := dk_182 0 139 (dk_at dksX2_within_2 3 rfl rfl)
theorem dX2_within_54 : decode cX2_within 54 = .ok (.new 260, 3) := dk_187 1 4 (dk_at dksX2_within_2 6 rfl rfl)
theorem dX2_within_57 : decode cX2_within 57 = .ok (.dup, 1) := dk_89 (dk_at dksX2_within_2 9 rfl rfl)
theorem dX2_within_58 : decode cX2_within 58 = .ok (.iload_n 1, 1) := dk_27 (dk_at dksX2_within_2 10 rfl rfl)
theorem dX2_within_59 : decode cX2_within 59 = .ok (.iconst 2, 1) := dk_5 (dk_at dksX2_within_2 11 rfl rfl)
theorem dX2_within_60 : decode cX2_within 60 = .ok (.if_icmp .ne 7, 3) := dk_160 0 7 (dk_at dksX2_within_2 12 rfl rfl)
theorem dX2_within_63 : decode cX2_within 63 = .ok (.iconst 1, 1) := dk_4 (dk_at dksX2_within_2 15 rfl rfl)
theorem dX2_within_64 : decode cX2_within 64 = .ok (.goto 4, 3) := dk_167 0 4 (dk_at dksX2_within_2 16 rfl rfl)
theorem dX2_within_67 : decode cX2_within 67 = .ok (.iconst 0, 1) := dk_3 (dk_at dksX2_within_2 19 rfl rfl)
theorem dX2_within_68 : decode cX2_within 68 = .ok (.aload_n 2, 1) := dk_44 (dk_at dksX2_within_2 20 rfl rfl)
theorem dX2_within_69 : decode cX2_within 69 = .ok (.aload_n 0, 1) := dk_42 (dk_at dksX2_within_2 21 rfl rfl)
theorem dX2_within_70 : decode cX2_within 70 = .ok (.invokevirtual 257, 3) := dk_182 1 1 (dk_at dksX2_within_3 0 rfl rfl)
theorem dX2_within_73 : decode cX2_within 73 = .ok (.invokespecial 262, 3) := dk_183 1 6 (dk_at dksX2_within_3 3 rfl rfl)
theorem dX2_within_76 : decode cX2_within 76 = .ok (.astore_n 3, 1) := dk_78 (dk_at dksX2_within_3 6 rfl rfl)
theorem dX2_within_77 : decode cX2_within 77 = .ok (.aload_n 0, 1) := dk_42 (dk_at dksX2_within_3 7 rfl rfl)
theorem dX2_within_78 : decode cX2_within 78 = .ok (.bipush 41, 2) := dk_16 41 (dk_at dksX2_within_3 8 rfl rfl)
theorem dX2_within_80 : decode cX2_within 80 = .ok (.invokevirtual 139, 3) := dk_182 0 139 (dk_at dksX2_within_3 10 rfl rfl)
theorem dX2_within_83 : decode cX2_within 83 = .ok (.aload_n 0, 1) := dk_42 (dk_at dksX2_within_3 13 rfl rfl)
theorem dX2_within_84 : decode cX2_within 84 = .ok (.dup, 1) := dk_89 (dk_at dksX2_within_3 14 rfl rfl)
theorem dX2_within_85 : decode cX2_within 85 = .ok (.getfield 122, 3) := dk_180 0 122 (dk_at dksX2_within_3 15 rfl rfl)
theorem dX2_within_88 : decode cX2_within 88 = .ok (.iconst 1, 1) := dk_4 (dk_at dksX2_within_3 18 rfl rfl)
theorem dX2_within_89 : decode cX2_within 89 = .ok (.isub, 1) := dk_100 (dk_at dksX2_within_3 19 rfl rfl)
theorem dX2_within_90 : decode cX2_within 90 = .ok (.putfield 122, 3) := dk_181 0 122 (dk_at dksX2_within_3 20 rfl rfl)
theorem dX2_within_93 : decode cX2_within 93 = .ok (.aload_n 3, 1) := dk_45 (dk_at dksX2_within_3 23 rfl rfl)
theorem dX2_within_94 : decode cX2_within 94 = .ok (.areturn, 1) := dk_176 (dk_at dksX2_within_4 0 rfl rfl)
abbrev cX2_looked : ByteArray := prog_15_method_29_code
def yX2_looked : MethodName := ⟨RX2, "looked", "(I)LPupilsPupil$Value;"⟩
def dkwX2_looked_1 : List UInt8 := [77, 42, 89, 180, 0, 122, 4, 100, 181, 0, 122, 44, 176]
abbrev dktX2_looked_1 : List UInt8 := dkwX2_looked_1 ++ []
def dkwX2_looked_0 : List UInt8 := [42, 42, 180, 0, 61, 182, 0, 254, 187, 1, 73, 89, 42, 180, 0, 3, 27, 42, 182, 0, 251, 183, 1, 75]
abbrev dktX2_looked_0 : List UInt8 := dkwX2_looked_0 ++ dktX2_looked_1
theorem dksX2_looked_0 : cX2_looked.data.toList.drop 0 = dktX2_looked_0 := by decide +kernel
theorem dksX2_looked_1 : cX2_looked.data.toList.drop 24 = dktX2_looked_1 := dk_seg dksX2_looked_0 24 rfl rfl
theorem dX2_looked_0 : decode cX2_looked 0 = .ok (.aload_n 0, 1) := dk_42 (dk_at dksX2_looked_0 0 rfl rfl)
theorem dX2_looked_1 : decode cX2_looked 1 = .ok (.aload_n 0, 1) := dk_42 (dk_at dksX2_looked_0 1 rfl rfl)
theorem dX2_looked_2 : decode cX2_looked 2 = .ok (.getfield 61, 3) := dk_180 0 61 (dk_at dksX2_looked_0 2 rfl rfl)
theorem dX2_looked_5 : decode cX2_looked 5 = .ok (.invokevirtual 254, 3) := dk_182 0 254 (dk_at dksX2_looked_0 5 rfl rfl)
theorem dX2_looked_8 : decode cX2_looked 8 = .ok (.new 329, 3) := dk_187 1 73 (dk_at dksX2_looked_0 8 rfl rfl)
theorem dX2_looked_11 : decode cX2_looked 11 = .ok (.dup, 1) := dk_89 (dk_at dksX2_looked_0 11 rfl rfl)
theorem dX2_looked_12 : decode cX2_looked 12 = .ok (.aload_n 0, 1) := dk_42 (dk_at dksX2_looked_0 12 rfl rfl)
theorem dX2_looked_13 : decode cX2_looked 13 = .ok (.getfield 3, 3) := dk_180 0 3 (dk_at dksX2_looked_0 13 rfl rfl)
theorem dX2_looked_16 : decode cX2_looked 16 = .ok (.iload_n 1, 1) := dk_27 (dk_at dksX2_looked_0 16 rfl rfl)
theorem dX2_looked_17 : decode cX2_looked 17 = .ok (.aload_n 0, 1) := dk_42 (dk_at dksX2_looked_0 17 rfl rfl)
theorem dX2_looked_18 : decode cX2_looked 18 = .ok (.invokevirtual 251, 3) := dk_182 0 251 (dk_at dksX2_looked_0 18 rfl rfl)
theorem dX2_looked_21 : decode cX2_looked 21 = .ok (.invokespecial 331, 3) := dk_183 1 75 (dk_at dksX2_looked_0 21 rfl rfl)
theorem dX2_looked_24 : decode cX2_looked 24 = .ok (.astore_n 2, 1) := dk_77 (dk_at dksX2_looked_1 0 rfl rfl)
theorem dX2_looked_25 : decode cX2_looked 25 = .ok (.aload_n 0, 1) := dk_42 (dk_at dksX2_looked_1 1 rfl rfl)
theorem dX2_looked_26 : decode cX2_looked 26 = .ok (.dup, 1) := dk_89 (dk_at dksX2_looked_1 2 rfl rfl)
theorem dX2_looked_27 : decode cX2_looked 27 = .ok (.getfield 122, 3) := dk_180 0 122 (dk_at dksX2_looked_1 3 rfl rfl)
theorem dX2_looked_30 : decode cX2_looked 30 = .ok (.iconst 1, 1) := dk_4 (dk_at dksX2_looked_1 6 rfl rfl)
theorem dX2_looked_31 : decode cX2_looked 31 = .ok (.isub, 1) := dk_100 (dk_at dksX2_looked_1 7 rfl rfl)
theorem dX2_looked_32 : decode cX2_looked 32 = .ok (.putfield 122, 3) := dk_181 0 122 (dk_at dksX2_looked_1 8 rfl rfl)
theorem dX2_looked_35 : decode cX2_looked 35 = .ok (.aload_n 2, 1) := dk_44 (dk_at dksX2_looked_1 11 rfl rfl)
theorem dX2_looked_36 : decode cX2_looked 36 = .ok (.areturn, 1) := dk_176 (dk_at dksX2_looked_1 12 rfl rfl)
abbrev cX2_takes : ByteArray := prog_15_method_20_code
def yX2_takes : MethodName := ⟨RX2, "takes", "(I)Z"⟩
def dkwX2_takes_1 : List UInt8 := [167, 0, 4, 3, 96, 181, 0, 36, 28, 172]
abbrev dktX2_takes_1 : List UInt8 := dkwX2_takes_1 ++ []
def dkwX2_takes_0 : List UInt8 := [42, 182, 0, 43, 27, 160, 0, 7, 4, 167, 0, 4, 3, 61, 42, 89, 180, 0, 36, 28, 153, 0, 7, 4]
abbrev dktX2_takes_0 : List UInt8 := dkwX2_takes_0 ++ dktX2_takes_1
theorem dksX2_takes_0 : cX2_takes.data.toList.drop 0 = dktX2_takes_0 := by decide +kernel
theorem dksX2_takes_1 : cX2_takes.data.toList.drop 24 = dktX2_takes_1 := dk_seg dksX2_takes_0 24 rfl rfl
theorem dX2_takes_0 : decode cX2_takes 0 = .ok (.aload_n 0, 1) := dk_42 (dk_at dksX2_takes_0 0 rfl rfl)
theorem dX2_takes_1 : decode cX2_takes 1 = .ok (.invokevirtual 43, 3) := dk_182 0 43 (dk_at dksX2_takes_0 1 rfl rfl)
theorem dX2_takes_4 : decode cX2_takes 4 = .ok (.iload_n 1, 1) := dk_27 (dk_at dksX2_takes_0 4 rfl rfl)
theorem dX2_takes_5 : decode cX2_takes 5 = .ok (.if_icmp .ne 7, 3) := dk_160 0 7 (dk_at dksX2_takes_0 5 rfl rfl)
theorem dX2_takes_8 : decode cX2_takes 8 = .ok (.iconst 1, 1) := dk_4 (dk_at dksX2_takes_0 8 rfl rfl)
theorem dX2_takes_9 : decode cX2_takes 9 = .ok (.goto 4, 3) := dk_167 0 4 (dk_at dksX2_takes_0 9 rfl rfl)
theorem dX2_takes_12 : decode cX2_takes 12 = .ok (.iconst 0, 1) := dk_3 (dk_at dksX2_takes_0 12 rfl rfl)
theorem dX2_takes_13 : decode cX2_takes 13 = .ok (.istore_n 2, 1) := dk_61 (dk_at dksX2_takes_0 13 rfl rfl)
theorem dX2_takes_14 : decode cX2_takes 14 = .ok (.aload_n 0, 1) := dk_42 (dk_at dksX2_takes_0 14 rfl rfl)
theorem dX2_takes_15 : decode cX2_takes 15 = .ok (.dup, 1) := dk_89 (dk_at dksX2_takes_0 15 rfl rfl)
theorem dX2_takes_16 : decode cX2_takes 16 = .ok (.getfield 36, 3) := dk_180 0 36 (dk_at dksX2_takes_0 16 rfl rfl)
theorem dX2_takes_19 : decode cX2_takes 19 = .ok (.iload_n 2, 1) := dk_28 (dk_at dksX2_takes_0 19 rfl rfl)
theorem dX2_takes_20 : decode cX2_takes 20 = .ok (.ifCond .eq 7, 3) := dk_153 0 7 (dk_at dksX2_takes_0 20 rfl rfl)
theorem dX2_takes_23 : decode cX2_takes 23 = .ok (.iconst 1, 1) := dk_4 (dk_at dksX2_takes_0 23 rfl rfl)
theorem dX2_takes_24 : decode cX2_takes 24 = .ok (.goto 4, 3) := dk_167 0 4 (dk_at dksX2_takes_1 0 rfl rfl)
theorem dX2_takes_27 : decode cX2_takes 27 = .ok (.iconst 0, 1) := dk_3 (dk_at dksX2_takes_1 3 rfl rfl)
theorem dX2_takes_28 : decode cX2_takes 28 = .ok (.iadd, 1) := dk_96 (dk_at dksX2_takes_1 4 rfl rfl)
theorem dX2_takes_29 : decode cX2_takes 29 = .ok (.putfield 36, 3) := dk_181 0 36 (dk_at dksX2_takes_1 5 rfl rfl)
theorem dX2_takes_32 : decode cX2_takes 32 = .ok (.iload_n 2, 1) := dk_28 (dk_at dksX2_takes_1 8 rfl rfl)
theorem dX2_takes_33 : decode cX2_takes 33 = .ok (.ireturn, 1) := dk_172 (dk_at dksX2_takes_1 9 rfl rfl)
abbrev cX2_question : ByteArray := prog_15_method_30_code
def yX2_question : MethodName := ⟨RX2, "question", "(I)LPupilsPupil$Question;"⟩
def dkwX2_question_4 : List UInt8 := [42, 180, 0, 36, 182, 0, 47, 191, 45, 176]
abbrev dktX2_question_4 : List UInt8 := dkwX2_question_4 ++ []
def dkwX2_question_3 : List UInt8 := [187, 1, 81, 89, 28, 1, 42, 182, 1, 1, 183, 1, 83, 78, 42, 182, 0, 43, 2, 159, 0, 13, 42, 4]
abbrev dktX2_question_3 : List UInt8 := dkwX2_question_3 ++ dktX2_question_4
def dkwX2_question_2 : List UInt8 := [191, 28, 6, 162, 0, 19, 187, 1, 81, 89, 28, 42, 182, 0, 206, 1, 183, 1, 83, 167, 0, 16]
abbrev dktX2_question_2 : List UInt8 := dkwX2_question_2 ++ dktX2_question_3
def dkwX2_question_1 : List UInt8 := [182, 0, 70, 178, 1, 78, 184, 0, 82, 61, 28, 2, 160, 0, 13, 42, 4, 42, 180, 0, 61, 182, 0, 47]
abbrev dktX2_question_1 : List UInt8 := dkwX2_question_1 ++ dktX2_question_2
def dkwX2_question_0 : List UInt8 := [42, 27, 181, 0, 29, 42, 3, 181, 0, 36, 42, 3, 181, 0, 122, 42, 17, 15, 159, 181, 0, 203, 42]
abbrev dktX2_question_0 : List UInt8 := dkwX2_question_0 ++ dktX2_question_1
theorem dksX2_question_0 : cX2_question.data.toList.drop 0 = dktX2_question_0 := by decide +kernel
theorem dksX2_question_1 : cX2_question.data.toList.drop 23 = dktX2_question_1 := dk_seg dksX2_question_0 23 rfl rfl
theorem dksX2_question_2 : cX2_question.data.toList.drop 47 = dktX2_question_2 := dk_seg dksX2_question_1 24 rfl rfl
theorem dksX2_question_3 : cX2_question.data.toList.drop 69 = dktX2_question_3 := dk_seg dksX2_question_2 22 rfl rfl
theorem dksX2_question_4 : cX2_question.data.toList.drop 93 = dktX2_question_4 := dk_seg dksX2_question_3 24 rfl rfl
theorem dX2_question_0 : decode cX2_question 0 = .ok (.aload_n 0, 1) := dk_42 (dk_at dksX2_question_0 0 rfl rfl)
theorem dX2_question_1 : decode cX2_question 1 = .ok (.iload_n 1, 1) := dk_27 (dk_at dksX2_question_0 1 rfl rfl)
theorem dX2_question_2 : decode cX2_question 2 = .ok (.putfield 29, 3) := dk_181 0 29 (dk_at dksX2_question_0 2 rfl rfl)
theorem dX2_question_5 : decode cX2_question 5 = .ok (.aload_n 0, 1) := dk_42 (dk_at dksX2_question_0 5 rfl rfl)
theorem dX2_question_6 : decode cX2_question 6 = .ok (.iconst 0, 1) := dk_3 (dk_at dksX2_question_0 6 rfl rfl)
theorem dX2_question_7 : decode cX2_question 7 = .ok (.putfield 36, 3) := dk_181 0 36 (dk_at dksX2_question_0 7 rfl rfl)
theorem dX2_question_10 : decode cX2_question 10 = .ok (.aload_n 0, 1) := dk_42 (dk_at dksX2_question_0 10 rfl rfl)
theorem dX2_question_11 : decode cX2_question 11 = .ok (.iconst 0, 1) := dk_3 (dk_at dksX2_question_0 11 rfl rfl)
theorem dX2_question_12 : decode cX2_question 12 = .ok (.putfield 122, 3) := dk_181 0 122 (dk_at dksX2_question_0 12 rfl rfl)
theorem dX2_question_15 : decode cX2_question 15 = .ok (.aload_n 0, 1) := dk_42 (dk_at dksX2_question_0 15 rfl rfl)
theorem dX2_question_16 : decode cX2_question 16 = .ok (.sipush 3999, 3) := dk_17 15 159 (dk_at dksX2_question_0 16 rfl rfl)
theorem dX2_question_19 : decode cX2_question 19 = .ok (.putfield 203, 3) := dk_181 0 203 (dk_at dksX2_question_0 19 rfl rfl)
theorem dX2_question_22 : decode cX2_question 22 = .ok (.aload_n 0, 1) := dk_42 (dk_at dksX2_question_0 22 rfl rfl)
theorem dX2_question_23 : decode cX2_question 23 = .ok (.invokevirtual 70, 3) := dk_182 0 70 (dk_at dksX2_question_1 0 rfl rfl)
theorem dX2_question_26 : decode cX2_question 26 = .ok (.getstatic 334, 3) := dk_178 1 78 (dk_at dksX2_question_1 3 rfl rfl)
theorem dX2_question_29 : decode cX2_question 29 = .ok (.invokestatic 82, 3) := dk_184 0 82 (dk_at dksX2_question_1 6 rfl rfl)
theorem dX2_question_32 : decode cX2_question 32 = .ok (.istore_n 2, 1) := dk_61 (dk_at dksX2_question_1 9 rfl rfl)
theorem dX2_question_33 : decode cX2_question 33 = .ok (.iload_n 2, 1) := dk_28 (dk_at dksX2_question_1 10 rfl rfl)
theorem dX2_question_34 : decode cX2_question 34 = .ok (.iconst (-1), 1) := dk_2 (dk_at dksX2_question_1 11 rfl rfl)
theorem dX2_question_35 : decode cX2_question 35 = .ok (.if_icmp .ne 13, 3) := dk_160 0 13 (dk_at dksX2_question_1 12 rfl rfl)
theorem dX2_question_38 : decode cX2_question 38 = .ok (.aload_n 0, 1) := dk_42 (dk_at dksX2_question_1 15 rfl rfl)
theorem dX2_question_39 : decode cX2_question 39 = .ok (.iconst 1, 1) := dk_4 (dk_at dksX2_question_1 16 rfl rfl)
theorem dX2_question_40 : decode cX2_question 40 = .ok (.aload_n 0, 1) := dk_42 (dk_at dksX2_question_1 17 rfl rfl)
theorem dX2_question_41 : decode cX2_question 41 = .ok (.getfield 61, 3) := dk_180 0 61 (dk_at dksX2_question_1 18 rfl rfl)
theorem dX2_question_44 : decode cX2_question 44 = .ok (.invokevirtual 47, 3) := dk_182 0 47 (dk_at dksX2_question_1 21 rfl rfl)
theorem dX2_question_47 : decode cX2_question 47 = .ok (.athrow, 1) := dk_191 (dk_at dksX2_question_2 0 rfl rfl)
theorem dX2_question_48 : decode cX2_question 48 = .ok (.iload_n 2, 1) := dk_28 (dk_at dksX2_question_2 1 rfl rfl)
theorem dX2_question_49 : decode cX2_question 49 = .ok (.iconst 3, 1) := dk_6 (dk_at dksX2_question_2 2 rfl rfl)
theorem dX2_question_50 : decode cX2_question 50 = .ok (.if_icmp .ge 19, 3) := dk_162 0 19 (dk_at dksX2_question_2 3 rfl rfl)
theorem dX2_question_53 : decode cX2_question 53 = .ok (.new 337, 3) := dk_187 1 81 (dk_at dksX2_question_2 6 rfl rfl)
theorem dX2_question_56 : decode cX2_question 56 = .ok (.dup, 1) := dk_89 (dk_at dksX2_question_2 9 rfl rfl)
theorem dX2_question_57 : decode cX2_question 57 = .ok (.iload_n 2, 1) := dk_28 (dk_at dksX2_question_2 10 rfl rfl)
theorem dX2_question_58 : decode cX2_question 58 = .ok (.aload_n 0, 1) := dk_42 (dk_at dksX2_question_2 11 rfl rfl)
theorem dX2_question_59 : decode cX2_question 59 = .ok (.invokevirtual 206, 3) := dk_182 0 206 (dk_at dksX2_question_2 12 rfl rfl)
theorem dX2_question_62 : decode cX2_question 62 = .ok (.aconst_null, 1) := dk_1 (dk_at dksX2_question_2 15 rfl rfl)
theorem dX2_question_63 : decode cX2_question 63 = .ok (.invokespecial 339, 3) := dk_183 1 83 (dk_at dksX2_question_2 16 rfl rfl)
theorem dX2_question_66 : decode cX2_question 66 = .ok (.goto 16, 3) := dk_167 0 16 (dk_at dksX2_question_2 19 rfl rfl)
theorem dX2_question_69 : decode cX2_question 69 = .ok (.new 337, 3) := dk_187 1 81 (dk_at dksX2_question_3 0 rfl rfl)
theorem dX2_question_72 : decode cX2_question 72 = .ok (.dup, 1) := dk_89 (dk_at dksX2_question_3 3 rfl rfl)
theorem dX2_question_73 : decode cX2_question 73 = .ok (.iload_n 2, 1) := dk_28 (dk_at dksX2_question_3 4 rfl rfl)
theorem dX2_question_74 : decode cX2_question 74 = .ok (.aconst_null, 1) := dk_1 (dk_at dksX2_question_3 5 rfl rfl)
theorem dX2_question_75 : decode cX2_question 75 = .ok (.aload_n 0, 1) := dk_42 (dk_at dksX2_question_3 6 rfl rfl)
theorem dX2_question_76 : decode cX2_question 76 = .ok (.invokevirtual 257, 3) := dk_182 1 1 (dk_at dksX2_question_3 7 rfl rfl)
theorem dX2_question_79 : decode cX2_question 79 = .ok (.invokespecial 339, 3) := dk_183 1 83 (dk_at dksX2_question_3 10 rfl rfl)
theorem dX2_question_82 : decode cX2_question 82 = .ok (.astore_n 3, 1) := dk_78 (dk_at dksX2_question_3 13 rfl rfl)
theorem dX2_question_83 : decode cX2_question 83 = .ok (.aload_n 0, 1) := dk_42 (dk_at dksX2_question_3 14 rfl rfl)
theorem dX2_question_84 : decode cX2_question 84 = .ok (.invokevirtual 43, 3) := dk_182 0 43 (dk_at dksX2_question_3 15 rfl rfl)
theorem dX2_question_87 : decode cX2_question 87 = .ok (.iconst (-1), 1) := dk_2 (dk_at dksX2_question_3 18 rfl rfl)
theorem dX2_question_88 : decode cX2_question 88 = .ok (.if_icmp .eq 13, 3) := dk_159 0 13 (dk_at dksX2_question_3 19 rfl rfl)
theorem dX2_question_91 : decode cX2_question 91 = .ok (.aload_n 0, 1) := dk_42 (dk_at dksX2_question_3 22 rfl rfl)
theorem dX2_question_92 : decode cX2_question 92 = .ok (.iconst 1, 1) := dk_4 (dk_at dksX2_question_3 23 rfl rfl)
theorem dX2_question_93 : decode cX2_question 93 = .ok (.aload_n 0, 1) := dk_42 (dk_at dksX2_question_4 0 rfl rfl)
theorem dX2_question_94 : decode cX2_question 94 = .ok (.getfield 36, 3) := dk_180 0 36 (dk_at dksX2_question_4 1 rfl rfl)
theorem dX2_question_97 : decode cX2_question 97 = .ok (.invokevirtual 47, 3) := dk_182 0 47 (dk_at dksX2_question_4 4 rfl rfl)
theorem dX2_question_100 : decode cX2_question 100 = .ok (.athrow, 1) := dk_191 (dk_at dksX2_question_4 7 rfl rfl)
theorem dX2_question_101 : decode cX2_question 101 = .ok (.aload_n 3, 1) := dk_45 (dk_at dksX2_question_4 8 rfl rfl)
theorem dX2_question_102 : decode cX2_question 102 = .ok (.areturn, 1) := dk_176 (dk_at dksX2_question_4 9 rfl rfl)
theorem q150 : (Jvm.Cond.initialized "PupilsPupil$Reader") ∈ lw_all := lw_g (lw_at lw_m1 6 rfl) rfl
theorem q227 : (Jvm.Cond.fieldLinkNest "PupilsPupil$Reader" (125 : Nat) "PupilsPupil$School" "statements" "I" "PupilsPupil") ∈ lw_tbl := lw_at lw_m1 83 rfl
theorem q230 : (Jvm.Cond.fieldLinkNest "PupilsPupil$Reader" (233 : Nat) "PupilsPupil$School" "pass" "I" "PupilsPupil") ∈ lw_tbl := lw_at lw_m1 86 rfl
theorem q234 : (Jvm.Cond.fieldLinkNest "PupilsPupil$Reader" (235 : Nat) "PupilsPupil$School" "tries" "I" "PupilsPupil") ∈ lw_tbl := lw_at lw_m1 90 rfl
theorem q236 : (Jvm.Cond.fieldLinkNest "PupilsPupil$Reader" (237 : Nat) "PupilsPupil$School" "ill" "I" "PupilsPupil") ∈ lw_tbl := lw_at lw_m1 92 rfl
theorem q239 : (Jvm.Cond.fieldLinkNest "PupilsPupil$Reader" (107 : Nat) "PupilsPupil$School" "facts" "Ljava/util/List;" "PupilsPupil") ∈ lw_tbl := lw_at lw_m1 95 rfl
theorem q243 : (Jvm.Cond.fieldLinkNest "PupilsPupil$Reader" (118 : Nat) "PupilsPupil$School" "people" "Ljava/util/List;" "PupilsPupil") ∈ lw_tbl := lw_at lw_m1 99 rfl
theorem q246 : (Jvm.Cond.fieldLinkNest "PupilsPupil$Reader" (222 : Nat) "PupilsPupil$School" "takes" "LPupilsPupil$Test;" "PupilsPupil") ∈ lw_tbl := lw_at lw_m1 102 rfl
theorem q248 : (Jvm.Cond.fieldLinkNest "PupilsPupil$Reader" (229 : Nat) "PupilsPupil$School" "garble" "LPupilsPupil$Test;" "PupilsPupil") ∈ lw_tbl := lw_at lw_m1 104 rfl
theorem q250 : (Jvm.Cond.fieldLinkNest "PupilsPupil$Reader" (231 : Nat) "PupilsPupil$School" "sits" "LPupilsPupil$Test;" "PupilsPupil") ∈ lw_tbl := lw_at lw_m1 106 rfl
theorem q271 : (Jvm.Cond.instantiable "PupilsPupil$Reader" (8 : Nat)) ∈ lw_all := lw_g (lw_at lw_m1 127 rfl) rfl
theorem q273 : (Jvm.Cond.instanceMethod ({ cls := "PupilsPupil$Reader", name := "<init>", desc := "(LPupilsPupil;)V" } : Jvm.MethodName)) ∈ lw_all := lw_g (lw_at lw_m1 129 rfl) rfl
theorem q274 : (Jvm.Cond.code ({ cls := "PupilsPupil$Reader", name := "<init>", desc := "(LPupilsPupil;)V" } : Jvm.MethodName) prog_15_method_1_code (2 : Nat) (Option.none : Option Jvm.ClassFile.FieldType)) ∈ lw_all := lw_g (lw_at lw_m1 130 rfl) rfl
theorem q275 : (Jvm.Cond.methodLink "PupilsPupil$Reader" (9 : Nat) ({ cls := "java/lang/Object", name := "<init>", desc := "()V" } : Jvm.MethodName)) ∈ lw_all := lw_g (lw_at lw_m1 131 rfl) rfl
theorem q276 : (Jvm.Cond.classLink "PupilsPupil$Reader" (15 : Nat) "PupilsPupil$Fault") ∈ lw_all := lw_g (lw_at lw_m1 132 rfl) rfl
theorem q315 : (Jvm.Cond.methodLink "PupilsPupil$Reader" (17 : Nat) ({ cls := "PupilsPupil$Fault", name := "<init>", desc := "()V" } : Jvm.MethodName)) ∈ lw_all := lw_g (lw_at lw_m1 171 rfl) rfl
theorem q327 : (Jvm.Cond.fieldLinkNest "PupilsPupil$Reader" (22 : Nat) "PupilsPupil$Fault" "kind" "I" "PupilsPupil") ∈ lw_tbl := lw_at lw_m1 183 rfl
theorem q329 : (Jvm.Cond.fieldLinkNest "PupilsPupil$Reader" (26 : Nat) "PupilsPupil$Fault" "place" "I" "PupilsPupil") ∈ lw_tbl := lw_at lw_m1 185 rfl
theorem q349 : (Jvm.Cond.fieldLink "PupilsPupil$Reader" (18 : Nat) "PupilsPupil$Reader" "fault" "LPupilsPupil$Fault;") ∈ lw_all := lw_g (lw_at lw_m1 205 rfl) rfl
theorem q350 : (Jvm.Cond.fieldLink "PupilsPupil$Reader" (29 : Nat) "PupilsPupil$Reader" "size" "I") ∈ lw_all := lw_g (lw_at lw_m1 206 rfl) rfl
theorem q351 : (Jvm.Cond.fieldLink "PupilsPupil$Reader" (36 : Nat) "PupilsPupil$Reader" "at" "I") ∈ lw_all := lw_g (lw_at lw_m1 207 rfl) rfl
theorem q352 : (Jvm.Cond.fieldLink "PupilsPupil$Reader" (61 : Nat) "PupilsPupil$Reader" "from" "I") ∈ lw_all := lw_g (lw_at lw_m1 208 rfl) rfl
theorem q353 : (Jvm.Cond.fieldLink "PupilsPupil$Reader" (122 : Nat) "PupilsPupil$Reader" "open" "I") ∈ lw_all := lw_g (lw_at lw_m1 209 rfl) rfl
theorem q354 : (Jvm.Cond.fieldLink "PupilsPupil$Reader" (203 : Nat) "PupilsPupil$Reader" "context" "I") ∈ lw_all := lw_g (lw_at lw_m1 210 rfl) rfl
theorem q355 : (Jvm.Cond.fieldLink "PupilsPupil$Reader" (103 : Nat) "PupilsPupil$Reader" "to" "LPupilsPupil$School;") ∈ lw_all := lw_g (lw_at lw_m1 211 rfl) rfl
theorem q356 : (Jvm.Cond.fieldLink "PupilsPupil$Reader" (3 : Nat) "PupilsPupil$Reader" "this$0" "LPupilsPupil;") ∈ lw_all := lw_g (lw_at lw_m1 212 rfl) rfl
theorem q357 : (Jvm.Cond.laysFinal "PupilsPupil$Reader" "PupilsPupil$Reader" "fault" "LPupilsPupil$Fault;") ∈ lw_all := lw_g (lw_at lw_m1 213 rfl) rfl
theorem q358 : (Jvm.Cond.soleField "PupilsPupil$Reader" "fault") ∈ lw_all := lw_g (lw_at lw_m1 214 rfl) rfl
theorem q359 : (Jvm.Cond.lays "PupilsPupil$Reader" "PupilsPupil$Reader" "size" "I") ∈ lw_all := lw_g (lw_at lw_m1 215 rfl) rfl
theorem q360 : (Jvm.Cond.soleField "PupilsPupil$Reader" "size") ∈ lw_all := lw_g (lw_at lw_m1 216 rfl) rfl
theorem q361 : (Jvm.Cond.lays "PupilsPupil$Reader" "PupilsPupil$Reader" "at" "I") ∈ lw_all := lw_g (lw_at lw_m1 217 rfl) rfl
theorem q362 : (Jvm.Cond.soleField "PupilsPupil$Reader" "at") ∈ lw_all := lw_g (lw_at lw_m1 218 rfl) rfl
theorem q363 : (Jvm.Cond.lays "PupilsPupil$Reader" "PupilsPupil$Reader" "from" "I") ∈ lw_all := lw_g (lw_at lw_m1 219 rfl) rfl
theorem q364 : (Jvm.Cond.soleField "PupilsPupil$Reader" "from") ∈ lw_all := lw_g (lw_at lw_m1 220 rfl) rfl
theorem q365 : (Jvm.Cond.lays "PupilsPupil$Reader" "PupilsPupil$Reader" "open" "I") ∈ lw_all := lw_g (lw_at lw_m1 221 rfl) rfl
theorem q366 : (Jvm.Cond.soleField "PupilsPupil$Reader" "open") ∈ lw_all := lw_g (lw_at lw_m1 222 rfl) rfl
theorem q367 : (Jvm.Cond.lays "PupilsPupil$Reader" "PupilsPupil$Reader" "context" "I") ∈ lw_all := lw_g (lw_at lw_m1 223 rfl) rfl
theorem q368 : (Jvm.Cond.soleField "PupilsPupil$Reader" "context") ∈ lw_all := lw_g (lw_at lw_m1 224 rfl) rfl
theorem q369 : (Jvm.Cond.lays "PupilsPupil$Reader" "PupilsPupil$Reader" "to" "LPupilsPupil$School;") ∈ lw_all := lw_g (lw_at lw_m1 225 rfl) rfl
theorem q370 : (Jvm.Cond.soleField "PupilsPupil$Reader" "to") ∈ lw_all := lw_g (lw_at lw_m1 226 rfl) rfl
theorem q371 : (Jvm.Cond.laysFinal "PupilsPupil$Reader" "PupilsPupil$Reader" "this$0" "LPupilsPupil;") ∈ lw_all := lw_g (lw_at lw_m1 227 rfl) rfl
theorem q372 : (Jvm.Cond.soleField "PupilsPupil$Reader" "this$0") ∈ lw_all := lw_g (lw_at lw_m1 228 rfl) rfl
theorem q373 : (Jvm.Cond.superclass "PupilsPupil$Reader" "java/lang/Object") ∈ lw_all := lw_g (lw_at lw_m1 229 rfl) rfl
theorem q447 : (Jvm.Cond.fieldLinkNest "PupilsPupil$Reader" (32 : Nat) "PupilsPupil" "tape" "[B" "PupilsPupil") ∈ lw_tbl := lw_at lw_m2 63 rfl
theorem q538 : (Jvm.Cond.instanceMethod ({ cls := "PupilsPupil$Reader", name := "all", desc := "(I)LPupilsPupil$School;" } : Jvm.MethodName)) ∈ lw_all := lw_g (lw_at lw_m2 154 rfl) rfl
theorem q539 : (Jvm.Cond.selects "PupilsPupil$Reader" ({ cls := "PupilsPupil$Reader", name := "all", desc := "(I)LPupilsPupil$School;" } : Jvm.MethodName) ({ cls := "PupilsPupil$Reader", name := "all", desc := "(I)LPupilsPupil$School;" } : Jvm.MethodName)) ∈ lw_all := lw_g (lw_at lw_m2 155 rfl) rfl
theorem q540 : (Jvm.Cond.code ({ cls := "PupilsPupil$Reader", name := "all", desc := "(I)LPupilsPupil$School;" } : Jvm.MethodName) prog_15_method_16_code (3 : Nat) (Option.some (Jvm.ClassFile.FieldType.object "PupilsPupil$School"))) ∈ lw_all := lw_g (lw_at lw_m2 156 rfl) rfl
theorem q541 : (Jvm.Cond.classLink "PupilsPupil$Reader" (108 : Nat) "PupilsPupil$School") ∈ lw_all := lw_g (lw_at lw_m2 157 rfl) rfl
theorem q542 : (Jvm.Cond.methodLinkNest "PupilsPupil$Reader" (121 : Nat) ({ cls := "PupilsPupil$School", name := "<init>", desc := "()V" } : Jvm.MethodName) "PupilsPupil") ∈ lw_tbl := lw_at lw_m2 158 rfl
theorem q543 : (Jvm.Cond.methodLink "PupilsPupil$Reader" (43 : Nat) ({ cls := "PupilsPupil$Reader", name := "here", desc := "()I" } : Jvm.MethodName)) ∈ lw_all := lw_g (lw_at lw_m2 159 rfl) rfl
theorem q544 : (Jvm.Cond.privateMethod ({ cls := "PupilsPupil$Reader", name := "here", desc := "()I" } : Jvm.MethodName)) ∈ lw_tbl := lw_at lw_m2 160 rfl
theorem q545 : (Jvm.Cond.instanceMethod ({ cls := "PupilsPupil$Reader", name := "here", desc := "()I" } : Jvm.MethodName)) ∈ lw_all := lw_g (lw_at lw_m2 161 rfl) rfl
theorem q546 : (Jvm.Cond.code ({ cls := "PupilsPupil$Reader", name := "here", desc := "()I" } : Jvm.MethodName) prog_15_method_4_code (1 : Nat) (Option.some Jvm.ClassFile.FieldType.int)) ∈ lw_all := lw_g (lw_at lw_m2 162 rfl) rfl
theorem q547 : (Jvm.Cond.methodLink "PupilsPupil$Reader" (39 : Nat) ({ cls := "PupilsPupil$Reader", name := "byteAt", desc := "(I)I" } : Jvm.MethodName)) ∈ lw_all := lw_g (lw_at lw_m2 163 rfl) rfl
theorem q548 : (Jvm.Cond.privateMethod ({ cls := "PupilsPupil$Reader", name := "byteAt", desc := "(I)I" } : Jvm.MethodName)) ∈ lw_tbl := lw_at lw_m2 164 rfl
theorem q549 : (Jvm.Cond.instanceMethod ({ cls := "PupilsPupil$Reader", name := "byteAt", desc := "(I)I" } : Jvm.MethodName)) ∈ lw_all := lw_g (lw_at lw_m2 165 rfl) rfl
theorem q550 : (Jvm.Cond.code ({ cls := "PupilsPupil$Reader", name := "byteAt", desc := "(I)I" } : Jvm.MethodName) prog_15_method_3_code (2 : Nat) (Option.some Jvm.ClassFile.FieldType.int)) ∈ lw_all := lw_g (lw_at lw_m2 166 rfl) rfl
theorem q551 : (Jvm.Cond.methodLink "PupilsPupil$Reader" (128 : Nat) ({ cls := "PupilsPupil$Reader", name := "most", desc := "(ZI)V" } : Jvm.MethodName)) ∈ lw_all := lw_g (lw_at lw_m2 167 rfl) rfl
theorem q552 : (Jvm.Cond.privateMethod ({ cls := "PupilsPupil$Reader", name := "most", desc := "(ZI)V" } : Jvm.MethodName)) ∈ lw_tbl := lw_at lw_m2 168 rfl
theorem q553 : (Jvm.Cond.instanceMethod ({ cls := "PupilsPupil$Reader", name := "most", desc := "(ZI)V" } : Jvm.MethodName)) ∈ lw_all := lw_g (lw_at lw_m2 169 rfl) rfl
theorem q554 : (Jvm.Cond.code ({ cls := "PupilsPupil$Reader", name := "most", desc := "(ZI)V" } : Jvm.MethodName) prog_15_method_15_code (3 : Nat) (Option.none : Option Jvm.ClassFile.FieldType)) ∈ lw_all := lw_g (lw_at lw_m2 170 rfl) rfl
theorem q555 : (Jvm.Cond.methodLink "PupilsPupil$Reader" (47 : Nat) ({ cls := "PupilsPupil$Reader", name := "wrong", desc := "(II)LPupilsPupil$Fault;" } : Jvm.MethodName)) ∈ lw_all := lw_g (lw_at lw_m2 171 rfl) rfl
theorem q556 : (Jvm.Cond.privateMethod ({ cls := "PupilsPupil$Reader", name := "wrong", desc := "(II)LPupilsPupil$Fault;" } : Jvm.MethodName)) ∈ lw_tbl := lw_at lw_m2 172 rfl
theorem q557 : (Jvm.Cond.instanceMethod ({ cls := "PupilsPupil$Reader", name := "wrong", desc := "(II)LPupilsPupil$Fault;" } : Jvm.MethodName)) ∈ lw_all := lw_g (lw_at lw_m2 173 rfl) rfl
theorem q558 : (Jvm.Cond.code ({ cls := "PupilsPupil$Reader", name := "wrong", desc := "(II)LPupilsPupil$Fault;" } : Jvm.MethodName) prog_15_method_2_code (3 : Nat) (Option.some (Jvm.ClassFile.FieldType.object "PupilsPupil$Fault"))) ∈ lw_all := lw_g (lw_at lw_m2 174 rfl) rfl
theorem q559 : (Jvm.Cond.methodLink "PupilsPupil$Reader" (70 : Nat) ({ cls := "PupilsPupil$Reader", name := "word", desc := "()Ljava/lang/String;" } : Jvm.MethodName)) ∈ lw_all := lw_g (lw_at lw_m2 175 rfl) rfl
theorem q560 : (Jvm.Cond.privateMethod ({ cls := "PupilsPupil$Reader", name := "word", desc := "()Ljava/lang/String;" } : Jvm.MethodName)) ∈ lw_tbl := lw_at lw_m2 176 rfl
theorem q561 : (Jvm.Cond.instanceMethod ({ cls := "PupilsPupil$Reader", name := "word", desc := "()Ljava/lang/String;" } : Jvm.MethodName)) ∈ lw_all := lw_g (lw_at lw_m2 177 rfl) rfl
theorem q562 : (Jvm.Cond.code ({ cls := "PupilsPupil$Reader", name := "word", desc := "()Ljava/lang/String;" } : Jvm.MethodName) prog_15_method_7_code (3 : Nat) (Option.some (Jvm.ClassFile.FieldType.object "java/lang/String"))) ∈ lw_all := lw_g (lw_at lw_m2 178 rfl) rfl
theorem q563 : (Jvm.Cond.methodLinkNest "PupilsPupil$Reader" (51 : Nat) ({ cls := "PupilsPupil", name := "isLetter", desc := "(I)Z" } : Jvm.MethodName) "PupilsPupil") ∈ lw_tbl := lw_at lw_m2 179 rfl
theorem q566 : (Jvm.Cond.methodLink "PupilsPupil$Reader" (58 : Nat) ({ cls := "PupilsPupil$Reader", name := "parted", desc := "()V" } : Jvm.MethodName)) ∈ lw_all := lw_g (lw_at lw_m2 182 rfl) rfl
theorem q567 : (Jvm.Cond.privateMethod ({ cls := "PupilsPupil$Reader", name := "parted", desc := "()V" } : Jvm.MethodName)) ∈ lw_tbl := lw_at lw_m2 183 rfl
theorem q568 : (Jvm.Cond.instanceMethod ({ cls := "PupilsPupil$Reader", name := "parted", desc := "()V" } : Jvm.MethodName)) ∈ lw_all := lw_g (lw_at lw_m2 184 rfl) rfl
theorem q569 : (Jvm.Cond.code ({ cls := "PupilsPupil$Reader", name := "parted", desc := "()V" } : Jvm.MethodName) prog_15_method_6_code (1 : Nat) (Option.none : Option Jvm.ClassFile.FieldType)) ∈ lw_all := lw_g (lw_at lw_m2 185 rfl) rfl
theorem q570 : (Jvm.Cond.methodLinkNest "PupilsPupil$Reader" (55 : Nat) ({ cls := "PupilsPupil", name := "isDigit", desc := "(I)Z" } : Jvm.MethodName) "PupilsPupil") ∈ lw_tbl := lw_at lw_m2 186 rfl
theorem q573 : (Jvm.Cond.methodLink "PupilsPupil$Reader" (64 : Nat) ({ cls := "java/lang/String", name := "valueOf", desc := "([C)Ljava/lang/String;" } : Jvm.MethodName)) ∈ lw_all := lw_g (lw_at lw_m2 189 rfl) rfl
theorem q651 : (Jvm.Cond.methodLink "PupilsPupil$Reader" (132 : Nat) ({ cls := "PupilsPupil$Reader", name := "people", desc := "(Ljava/lang/String;I)Z" } : Jvm.MethodName)) ∈ lw_all := lw_g (lw_at lw_m3 27 rfl) rfl
theorem q652 : (Jvm.Cond.privateMethod ({ cls := "PupilsPupil$Reader", name := "people", desc := "(Ljava/lang/String;I)Z" } : Jvm.MethodName)) ∈ lw_tbl := lw_at lw_m3 28 rfl
theorem q653 : (Jvm.Cond.instanceMethod ({ cls := "PupilsPupil$Reader", name := "people", desc := "(Ljava/lang/String;I)Z" } : Jvm.MethodName)) ∈ lw_all := lw_g (lw_at lw_m3 29 rfl) rfl
theorem q654 : (Jvm.Cond.code ({ cls := "PupilsPupil$Reader", name := "people", desc := "(Ljava/lang/String;I)Z" } : Jvm.MethodName) prog_15_method_17_code (11 : Nat) (Option.some Jvm.ClassFile.FieldType.boolean)) ∈ lw_all := lw_g (lw_at lw_m3 30 rfl) rfl
theorem q655 : (Jvm.Cond.methodLink "PupilsPupil$Reader" (143 : Nat) ({ cls := "java/lang/String", name := "hashCode", desc := "()I" } : Jvm.MethodName)) ∈ lw_all := lw_g (lw_at lw_m3 31 rfl) rfl
theorem q708 : (Jvm.Cond.stringRef "PupilsPupil$Reader" (146 : Nat) "fact") ∈ lw_tbl := lw_at lw_m3 84 rfl
theorem q709 : (Jvm.Cond.methodLink "PupilsPupil$Reader" (74 : Nat) ({ cls := "java/lang/String", name := "equals", desc := "(Ljava/lang/Object;)Z" } : Jvm.MethodName)) ∈ lw_all := lw_g (lw_at lw_m3 85 rfl) rfl
theorem q716 : (Jvm.Cond.stringRef "PupilsPupil$Reader" (148 : Nat) "person") ∈ lw_tbl := lw_at lw_m3 92 rfl
theorem q717 : (Jvm.Cond.stringRef "PupilsPupil$Reader" (150 : Nat) "knows") ∈ lw_tbl := lw_at lw_m3 93 rfl
theorem q718 : (Jvm.Cond.stringRef "PupilsPupil$Reader" (152 : Nat) "errs") ∈ lw_tbl := lw_at lw_m3 94 rfl
theorem q719 : (Jvm.Cond.stringRef "PupilsPupil$Reader" (154 : Nat) "taught") ∈ lw_tbl := lw_at lw_m3 95 rfl
theorem q720 : (Jvm.Cond.interfaceEntry "PupilsPupil$Reader" (156 : Nat)) ∈ lw_tbl := lw_at lw_m3 96 rfl
theorem q721 : (Jvm.Cond.methodLink "PupilsPupil$Reader" (156 : Nat) ({ cls := "java/util/List", name := "size", desc := "()I" } : Jvm.MethodName)) ∈ lw_all := lw_g (lw_at lw_m3 97 rfl) rfl
theorem q730 : (Jvm.Cond.methodLink "PupilsPupil$Reader" (160 : Nat) ({ cls := "PupilsPupil$Reader", name := "fresh", desc := "()Ljava/lang/String;" } : Jvm.MethodName)) ∈ lw_all := lw_g (lw_at lw_m3 106 rfl) rfl
theorem q731 : (Jvm.Cond.privateMethod ({ cls := "PupilsPupil$Reader", name := "fresh", desc := "()Ljava/lang/String;" } : Jvm.MethodName)) ∈ lw_tbl := lw_at lw_m3 107 rfl
theorem q732 : (Jvm.Cond.instanceMethod ({ cls := "PupilsPupil$Reader", name := "fresh", desc := "()Ljava/lang/String;" } : Jvm.MethodName)) ∈ lw_all := lw_g (lw_at lw_m3 108 rfl) rfl
theorem q733 : (Jvm.Cond.code ({ cls := "PupilsPupil$Reader", name := "fresh", desc := "()Ljava/lang/String;" } : Jvm.MethodName) prog_15_method_13_code (2 : Nat) (Option.some (Jvm.ClassFile.FieldType.object "java/lang/String"))) ∈ lw_all := lw_g (lw_at lw_m3 109 rfl) rfl
theorem q734 : (Jvm.Cond.methodLink "PupilsPupil$Reader" (100 : Nat) ({ cls := "PupilsPupil$Reader", name := "name", desc := "()Ljava/lang/String;" } : Jvm.MethodName)) ∈ lw_all := lw_g (lw_at lw_m3 110 rfl) rfl
theorem q735 : (Jvm.Cond.privateMethod ({ cls := "PupilsPupil$Reader", name := "name", desc := "()Ljava/lang/String;" } : Jvm.MethodName)) ∈ lw_tbl := lw_at lw_m3 111 rfl
theorem q736 : (Jvm.Cond.instanceMethod ({ cls := "PupilsPupil$Reader", name := "name", desc := "()Ljava/lang/String;" } : Jvm.MethodName)) ∈ lw_all := lw_g (lw_at lw_m3 112 rfl) rfl
theorem q737 : (Jvm.Cond.code ({ cls := "PupilsPupil$Reader", name := "name", desc := "()Ljava/lang/String;" } : Jvm.MethodName) prog_15_method_10_code (2 : Nat) (Option.some (Jvm.ClassFile.FieldType.object "java/lang/String"))) ∈ lw_all := lw_g (lw_at lw_m3 113 rfl) rfl
theorem q738 : (Jvm.Cond.fieldLinkNest "PupilsPupil$Reader" (78 : Nat) "PupilsPupil" "OWN" "[Ljava/lang/String;" "PupilsPupil") ∈ lw_tbl := lw_at lw_m3 114 rfl
theorem q740 : (Jvm.Cond.methodLinkNest "PupilsPupil$Reader" (82 : Nat) ({ cls := "PupilsPupil", name := "find", desc := "(Ljava/lang/String;[Ljava/lang/String;)I" } : Jvm.MethodName) "PupilsPupil") ∈ lw_tbl := lw_at lw_m3 116 rfl
theorem q744 : (Jvm.Cond.methodLink "PupilsPupil$Reader" (86 : Nat) ({ cls := "java/lang/String", name := "length", desc := "()I" } : Jvm.MethodName)) ∈ lw_all := lw_g (lw_at lw_m3 120 rfl) rfl
theorem q752 : (Jvm.Cond.methodLink "PupilsPupil$Reader" (113 : Nat) ({ cls := "PupilsPupil$Named", name := "find", desc := "(Ljava/util/List;Ljava/lang/String;)I" } : Jvm.MethodName)) ∈ lw_all := lw_g (lw_at lw_m3 128 rfl) rfl
theorem q778 : (Jvm.Cond.classLink "PupilsPupil$Reader" (114 : Nat) "PupilsPupil$Named") ∈ lw_all := lw_g (lw_at lw_m3 154 rfl) rfl
theorem q780 : (Jvm.Cond.stringRef "PupilsPupil$Reader" (163 : Nat) "worth") ∈ lw_tbl := lw_at lw_m3 156 rfl
theorem q781 : (Jvm.Cond.methodLink "PupilsPupil$Reader" (165 : Nat) ({ cls := "PupilsPupil$Reader", name := "number", desc := "(Ljava/lang/String;II)I" } : Jvm.MethodName)) ∈ lw_all := lw_g (lw_at lw_m3 157 rfl) rfl
theorem q782 : (Jvm.Cond.privateMethod ({ cls := "PupilsPupil$Reader", name := "number", desc := "(Ljava/lang/String;II)I" } : Jvm.MethodName)) ∈ lw_tbl := lw_at lw_m3 158 rfl
theorem q783 : (Jvm.Cond.instanceMethod ({ cls := "PupilsPupil$Reader", name := "number", desc := "(Ljava/lang/String;II)I" } : Jvm.MethodName)) ∈ lw_all := lw_g (lw_at lw_m3 159 rfl) rfl
theorem q784 : (Jvm.Cond.code ({ cls := "PupilsPupil$Reader", name := "number", desc := "(Ljava/lang/String;II)I" } : Jvm.MethodName) prog_15_method_12_code (4 : Nat) (Option.some Jvm.ClassFile.FieldType.int)) ∈ lw_all := lw_g (lw_at lw_m3 160 rfl) rfl
theorem q785 : (Jvm.Cond.methodLink "PupilsPupil$Reader" (93 : Nat) ({ cls := "PupilsPupil$Reader", name := "word", desc := "(Ljava/lang/String;)V" } : Jvm.MethodName)) ∈ lw_all := lw_g (lw_at lw_m3 161 rfl) rfl
theorem q786 : (Jvm.Cond.privateMethod ({ cls := "PupilsPupil$Reader", name := "word", desc := "(Ljava/lang/String;)V" } : Jvm.MethodName)) ∈ lw_tbl := lw_at lw_m3 162 rfl
theorem q787 : (Jvm.Cond.instanceMethod ({ cls := "PupilsPupil$Reader", name := "word", desc := "(Ljava/lang/String;)V" } : Jvm.MethodName)) ∈ lw_all := lw_g (lw_at lw_m3 163 rfl) rfl
theorem q788 : (Jvm.Cond.code ({ cls := "PupilsPupil$Reader", name := "word", desc := "(Ljava/lang/String;)V" } : Jvm.MethodName) prog_15_method_8_code (2 : Nat) (Option.none : Option Jvm.ClassFile.FieldType)) ∈ lw_all := lw_g (lw_at lw_m3 164 rfl) rfl
theorem q789 : (Jvm.Cond.methodLink "PupilsPupil$Reader" (96 : Nat) ({ cls := "PupilsPupil$Reader", name := "number", desc := "(II)I" } : Jvm.MethodName)) ∈ lw_all := lw_g (lw_at lw_m3 165 rfl) rfl
theorem q790 : (Jvm.Cond.privateMethod ({ cls := "PupilsPupil$Reader", name := "number", desc := "(II)I" } : Jvm.MethodName)) ∈ lw_tbl := lw_at lw_m3 166 rfl
theorem q791 : (Jvm.Cond.instanceMethod ({ cls := "PupilsPupil$Reader", name := "number", desc := "(II)I" } : Jvm.MethodName)) ∈ lw_all := lw_g (lw_at lw_m3 167 rfl) rfl
theorem q792 : (Jvm.Cond.code ({ cls := "PupilsPupil$Reader", name := "number", desc := "(II)I" } : Jvm.MethodName) prog_15_method_11_code (4 : Nat) (Option.some Jvm.ClassFile.FieldType.int)) ∈ lw_all := lw_g (lw_at lw_m3 168 rfl) rfl
theorem q793 : (Jvm.Cond.methodLinkNest "PupilsPupil$Reader" (89 : Nat) ({ cls := "PupilsPupil", name := "is", desc := "(III)Z" } : Jvm.MethodName) "PupilsPupil") ∈ lw_tbl := lw_at lw_m3 169 rfl
theorem q796 : (Jvm.Cond.methodLink "PupilsPupil$Reader" (168 : Nat) ({ cls := "PupilsPupil$Named", name := "<init>", desc := "(Ljava/lang/String;I)V" } : Jvm.MethodName)) ∈ lw_all := lw_g (lw_at lw_m3 172 rfl) rfl
theorem q808 : (Jvm.Cond.interfaceEntry "PupilsPupil$Reader" (170 : Nat)) ∈ lw_tbl := lw_at lw_m3 184 rfl
theorem q809 : (Jvm.Cond.methodLink "PupilsPupil$Reader" (170 : Nat) ({ cls := "java/util/List", name := "add", desc := "(Ljava/lang/Object;)Z" } : Jvm.MethodName)) ∈ lw_all := lw_g (lw_at lw_m3 185 rfl) rfl
theorem q861 : (Jvm.Cond.selects "PupilsPupil$Reader" ({ cls := "java/lang/Object", name := "getClass", desc := "()Ljava/lang/Class;" } : Jvm.MethodName) ({ cls := "java/lang/Object", name := "getClass", desc := "()Ljava/lang/Class;" } : Jvm.MethodName)) ∈ lw_all := lw_g (lw_at lw_m3 237 rfl) rfl
theorem q883 : (Jvm.Cond.classLink "PupilsPupil$Reader" (173 : Nat) "PupilsPupil$Person") ∈ lw_all := lw_g (lw_at lw_m4 19 rfl) rfl
theorem q885 : (Jvm.Cond.stringRef "PupilsPupil$Reader" (175 : Nat) "calm") ∈ lw_tbl := lw_at lw_m4 21 rfl
theorem q886 : (Jvm.Cond.methodLink "PupilsPupil$Reader" (177 : Nat) ({ cls := "PupilsPupil$Person", name := "<init>", desc := "(Ljava/lang/String;I)V" } : Jvm.MethodName)) ∈ lw_all := lw_g (lw_at lw_m4 22 rfl) rfl
theorem q893 : (Jvm.Cond.fieldLinkNest "PupilsPupil$Reader" (195 : Nat) "PupilsPupil$Person" "master" "I" "PupilsPupil") ∈ lw_tbl := lw_at lw_m4 29 rfl
theorem q895 : (Jvm.Cond.fieldLinkNest "PupilsPupil$Reader" (186 : Nat) "PupilsPupil$Person" "right" "I" "PupilsPupil") ∈ lw_tbl := lw_at lw_m4 31 rfl
theorem q897 : (Jvm.Cond.fieldLinkNest "PupilsPupil$Reader" (189 : Nat) "PupilsPupil$Person" "wrong" "I" "PupilsPupil") ∈ lw_tbl := lw_at lw_m4 33 rfl
theorem q907 : (Jvm.Cond.methodLink "PupilsPupil$Reader" (178 : Nat) ({ cls := "PupilsPupil$Reader", name := "known", desc := "(Ljava/util/List;)I" } : Jvm.MethodName)) ∈ lw_all := lw_g (lw_at lw_m4 43 rfl) rfl
theorem q908 : (Jvm.Cond.privateMethod ({ cls := "PupilsPupil$Reader", name := "known", desc := "(Ljava/util/List;)I" } : Jvm.MethodName)) ∈ lw_tbl := lw_at lw_m4 44 rfl
theorem q909 : (Jvm.Cond.instanceMethod ({ cls := "PupilsPupil$Reader", name := "known", desc := "(Ljava/util/List;)I" } : Jvm.MethodName)) ∈ lw_all := lw_g (lw_at lw_m4 45 rfl) rfl
theorem q910 : (Jvm.Cond.code ({ cls := "PupilsPupil$Reader", name := "known", desc := "(Ljava/util/List;)I" } : Jvm.MethodName) prog_15_method_14_code (3 : Nat) (Option.some Jvm.ClassFile.FieldType.int)) ∈ lw_all := lw_g (lw_at lw_m4 46 rfl) rfl
theorem q911 : (Jvm.Cond.interfaceEntry "PupilsPupil$Reader" (182 : Nat)) ∈ lw_tbl := lw_at lw_m4 47 rfl
theorem q912 : (Jvm.Cond.methodLink "PupilsPupil$Reader" (182 : Nat) ({ cls := "java/util/List", name := "get", desc := "(I)Ljava/lang/Object;" } : Jvm.MethodName)) ∈ lw_all := lw_g (lw_at lw_m4 48 rfl) rfl
theorem q913 : (Jvm.Cond.methodLinkNest "PupilsPupil$Reader" (191 : Nat) ({ cls := "PupilsPupil", name := "has", desc := "(II)Z" } : Jvm.MethodName) "PupilsPupil") ∈ lw_tbl := lw_at lw_m4 49 rfl
theorem q916 : (Jvm.Cond.stringRef "PupilsPupil$Reader" (198 : Nat) "by") ∈ lw_tbl := lw_at lw_m4 52 rfl
theorem q917 : (Jvm.Cond.methodLink "PupilsPupil$Reader" (200 : Nat) ({ cls := "PupilsPupil$School", name := "isBy", desc := "(II)Z" } : Jvm.MethodName)) ∈ lw_all := lw_g (lw_at lw_m4 53 rfl) rfl
theorem q924 : (Jvm.Cond.methodLink "PupilsPupil$Reader" (135 : Nat) ({ cls := "PupilsPupil$Reader", name := "more", desc := "(Ljava/lang/String;I)V" } : Jvm.MethodName)) ∈ lw_all := lw_g (lw_at lw_m4 60 rfl) rfl
theorem q925 : (Jvm.Cond.privateMethod ({ cls := "PupilsPupil$Reader", name := "more", desc := "(Ljava/lang/String;I)V" } : Jvm.MethodName)) ∈ lw_tbl := lw_at lw_m4 61 rfl
theorem q926 : (Jvm.Cond.instanceMethod ({ cls := "PupilsPupil$Reader", name := "more", desc := "(Ljava/lang/String;I)V" } : Jvm.MethodName)) ∈ lw_all := lw_g (lw_at lw_m4 62 rfl) rfl
theorem q927 : (Jvm.Cond.code ({ cls := "PupilsPupil$Reader", name := "more", desc := "(Ljava/lang/String;I)V" } : Jvm.MethodName) prog_15_method_19_code (5 : Nat) (Option.none : Option Jvm.ClassFile.FieldType)) ∈ lw_all := lw_g (lw_at lw_m4 63 rfl) rfl
theorem q928 : (Jvm.Cond.stringRef "PupilsPupil$Reader" (210 : Nat) "takes") ∈ lw_tbl := lw_at lw_m4 64 rfl
theorem q929 : (Jvm.Cond.stringRef "PupilsPupil$Reader" (212 : Nat) "garble") ∈ lw_tbl := lw_at lw_m4 65 rfl
theorem q930 : (Jvm.Cond.stringRef "PupilsPupil$Reader" (214 : Nat) "sits") ∈ lw_tbl := lw_at lw_m4 66 rfl
theorem q931 : (Jvm.Cond.stringRef "PupilsPupil$Reader" (216 : Nat) "pass") ∈ lw_tbl := lw_at lw_m4 67 rfl
theorem q932 : (Jvm.Cond.stringRef "PupilsPupil$Reader" (218 : Nat) "tries") ∈ lw_tbl := lw_at lw_m4 68 rfl
theorem q933 : (Jvm.Cond.stringRef "PupilsPupil$Reader" (220 : Nat) "ill") ∈ lw_tbl := lw_at lw_m4 69 rfl
theorem q934 : (Jvm.Cond.methodLink "PupilsPupil$Reader" (225 : Nat) ({ cls := "PupilsPupil$Reader", name := "once", desc := "(LPupilsPupil$Test;II)LPupilsPupil$Test;" } : Jvm.MethodName)) ∈ lw_all := lw_g (lw_at lw_m4 70 rfl) rfl
theorem q935 : (Jvm.Cond.privateMethod ({ cls := "PupilsPupil$Reader", name := "once", desc := "(LPupilsPupil$Test;II)LPupilsPupil$Test;" } : Jvm.MethodName)) ∈ lw_tbl := lw_at lw_m4 71 rfl
theorem q936 : (Jvm.Cond.instanceMethod ({ cls := "PupilsPupil$Reader", name := "once", desc := "(LPupilsPupil$Test;II)LPupilsPupil$Test;" } : Jvm.MethodName)) ∈ lw_all := lw_g (lw_at lw_m4 72 rfl) rfl
theorem q937 : (Jvm.Cond.code ({ cls := "PupilsPupil$Reader", name := "once", desc := "(LPupilsPupil$Test;II)LPupilsPupil$Test;" } : Jvm.MethodName) prog_15_method_18_code (4 : Nat) (Option.some (Jvm.ClassFile.FieldType.object "PupilsPupil$Test"))) ∈ lw_all := lw_g (lw_at lw_m4 73 rfl) rfl
theorem q938 : (Jvm.Cond.methodLink "PupilsPupil$Reader" (206 : Nat) ({ cls := "PupilsPupil$Reader", name := "test", desc := "()LPupilsPupil$Test;" } : Jvm.MethodName)) ∈ lw_all := lw_g (lw_at lw_m4 74 rfl) rfl
theorem q939 : (Jvm.Cond.privateMethod ({ cls := "PupilsPupil$Reader", name := "test", desc := "()LPupilsPupil$Test;" } : Jvm.MethodName)) ∈ lw_tbl := lw_at lw_m4 75 rfl
theorem q940 : (Jvm.Cond.instanceMethod ({ cls := "PupilsPupil$Reader", name := "test", desc := "()LPupilsPupil$Test;" } : Jvm.MethodName)) ∈ lw_all := lw_g (lw_at lw_m4 76 rfl) rfl
theorem q941 : (Jvm.Cond.code ({ cls := "PupilsPupil$Reader", name := "test", desc := "()LPupilsPupil$Test;" } : Jvm.MethodName) prog_15_method_26_code (2 : Nat) (Option.some (Jvm.ClassFile.FieldType.object "PupilsPupil$Test"))) ∈ lw_all := lw_g (lw_at lw_m4 77 rfl) rfl
theorem q942 : (Jvm.Cond.classLink "PupilsPupil$Reader" (291 : Nat) "PupilsPupil$Facts") ∈ lw_all := lw_g (lw_at lw_m4 78 rfl) rfl
theorem q944 : (Jvm.Cond.methodLink "PupilsPupil$Reader" (293 : Nat) ({ cls := "PupilsPupil$Facts", name := "<init>", desc := "(Z)V" } : Jvm.MethodName)) ∈ lw_all := lw_g (lw_at lw_m4 80 rfl) rfl
theorem q954 : (Jvm.Cond.fieldLinkNest "PupilsPupil$Reader" (296 : Nat) "PupilsPupil$Facts" "tests" "Ljava/util/List;" "PupilsPupil") ∈ lw_tbl := lw_at lw_m4 90 rfl
theorem q961 : (Jvm.Cond.methodLink "PupilsPupil$Reader" (299 : Nat) ({ cls := "PupilsPupil$Reader", name := "both", desc := "()LPupilsPupil$Test;" } : Jvm.MethodName)) ∈ lw_all := lw_g (lw_at lw_m4 97 rfl) rfl
theorem q962 : (Jvm.Cond.privateMethod ({ cls := "PupilsPupil$Reader", name := "both", desc := "()LPupilsPupil$Test;" } : Jvm.MethodName)) ∈ lw_tbl := lw_at lw_m4 98 rfl
theorem q963 : (Jvm.Cond.instanceMethod ({ cls := "PupilsPupil$Reader", name := "both", desc := "()LPupilsPupil$Test;" } : Jvm.MethodName)) ∈ lw_all := lw_g (lw_at lw_m4 99 rfl) rfl
theorem q964 : (Jvm.Cond.code ({ cls := "PupilsPupil$Reader", name := "both", desc := "()LPupilsPupil$Test;" } : Jvm.MethodName) prog_15_method_27_code (2 : Nat) (Option.some (Jvm.ClassFile.FieldType.object "PupilsPupil$Test"))) ∈ lw_all := lw_g (lw_at lw_m4 100 rfl) rfl
theorem q965 : (Jvm.Cond.methodLink "PupilsPupil$Reader" (308 : Nat) ({ cls := "PupilsPupil$Reader", name := "fact", desc := "()LPupilsPupil$Test;" } : Jvm.MethodName)) ∈ lw_all := lw_g (lw_at lw_m4 101 rfl) rfl
theorem q966 : (Jvm.Cond.privateMethod ({ cls := "PupilsPupil$Reader", name := "fact", desc := "()LPupilsPupil$Test;" } : Jvm.MethodName)) ∈ lw_tbl := lw_at lw_m4 102 rfl
theorem q967 : (Jvm.Cond.instanceMethod ({ cls := "PupilsPupil$Reader", name := "fact", desc := "()LPupilsPupil$Test;" } : Jvm.MethodName)) ∈ lw_all := lw_g (lw_at lw_m4 103 rfl) rfl
theorem q968 : (Jvm.Cond.code ({ cls := "PupilsPupil$Reader", name := "fact", desc := "()LPupilsPupil$Test;" } : Jvm.MethodName) prog_15_method_28_code (3 : Nat) (Option.some (Jvm.ClassFile.FieldType.object "PupilsPupil$Test"))) ∈ lw_all := lw_g (lw_at lw_m4 104 rfl) rfl
theorem q969 : (Jvm.Cond.methodLink "PupilsPupil$Reader" (254 : Nat) ({ cls := "PupilsPupil$Reader", name := "opens", desc := "(I)V" } : Jvm.MethodName)) ∈ lw_all := lw_g (lw_at lw_m4 105 rfl) rfl
theorem q970 : (Jvm.Cond.privateMethod ({ cls := "PupilsPupil$Reader", name := "opens", desc := "(I)V" } : Jvm.MethodName)) ∈ lw_tbl := lw_at lw_m4 106 rfl
theorem q971 : (Jvm.Cond.instanceMethod ({ cls := "PupilsPupil$Reader", name := "opens", desc := "(I)V" } : Jvm.MethodName)) ∈ lw_all := lw_g (lw_at lw_m4 107 rfl) rfl
theorem q972 : (Jvm.Cond.code ({ cls := "PupilsPupil$Reader", name := "opens", desc := "(I)V" } : Jvm.MethodName) prog_15_method_23_code (2 : Nat) (Option.none : Option Jvm.ClassFile.FieldType)) ∈ lw_all := lw_g (lw_at lw_m4 108 rfl) rfl
theorem q973 : (Jvm.Cond.methodLink "PupilsPupil$Reader" (139 : Nat) ({ cls := "PupilsPupil$Reader", name := "must", desc := "(I)V" } : Jvm.MethodName)) ∈ lw_all := lw_g (lw_at lw_m4 109 rfl) rfl
theorem q974 : (Jvm.Cond.privateMethod ({ cls := "PupilsPupil$Reader", name := "must", desc := "(I)V" } : Jvm.MethodName)) ∈ lw_tbl := lw_at lw_m4 110 rfl
theorem q975 : (Jvm.Cond.instanceMethod ({ cls := "PupilsPupil$Reader", name := "must", desc := "(I)V" } : Jvm.MethodName)) ∈ lw_all := lw_g (lw_at lw_m4 111 rfl) rfl
theorem q976 : (Jvm.Cond.code ({ cls := "PupilsPupil$Reader", name := "must", desc := "(I)V" } : Jvm.MethodName) prog_15_method_5_code (2 : Nat) (Option.none : Option Jvm.ClassFile.FieldType)) ∈ lw_all := lw_g (lw_at lw_m4 112 rfl) rfl
theorem q977 : (Jvm.Cond.stringRef "PupilsPupil$Reader" (312 : Nat) "not") ∈ lw_tbl := lw_at lw_m4 113 rfl
theorem q978 : (Jvm.Cond.methodLink "PupilsPupil$Reader" (304 : Nat) ({ cls := "PupilsPupil$Reader", name := "passes", desc := "(Ljava/lang/String;)Z" } : Jvm.MethodName)) ∈ lw_all := lw_g (lw_at lw_m4 114 rfl) rfl
theorem q979 : (Jvm.Cond.privateMethod ({ cls := "PupilsPupil$Reader", name := "passes", desc := "(Ljava/lang/String;)Z" } : Jvm.MethodName)) ∈ lw_tbl := lw_at lw_m4 115 rfl
theorem q980 : (Jvm.Cond.instanceMethod ({ cls := "PupilsPupil$Reader", name := "passes", desc := "(Ljava/lang/String;)Z" } : Jvm.MethodName)) ∈ lw_all := lw_g (lw_at lw_m4 116 rfl) rfl
theorem q981 : (Jvm.Cond.code ({ cls := "PupilsPupil$Reader", name := "passes", desc := "(Ljava/lang/String;)Z" } : Jvm.MethodName) prog_15_method_9_code (3 : Nat) (Option.some Jvm.ClassFile.FieldType.boolean)) ∈ lw_all := lw_g (lw_at lw_m4 117 rfl) rfl
theorem q982 : (Jvm.Cond.classLink "PupilsPupil$Reader" (314 : Nat) "PupilsPupil$Not") ∈ lw_all := lw_g (lw_at lw_m4 118 rfl) rfl
theorem q984 : (Jvm.Cond.methodLink "PupilsPupil$Reader" (316 : Nat) ({ cls := "PupilsPupil$Not", name := "<init>", desc := "(LPupilsPupil$Test;)V" } : Jvm.MethodName)) ∈ lw_all := lw_g (lw_at lw_m4 120 rfl) rfl
theorem q992 : (Jvm.Cond.stringRef "PupilsPupil$Reader" (319 : Nat) "all") ∈ lw_tbl := lw_at lw_m4 128 rfl
theorem q993 : (Jvm.Cond.classLink "PupilsPupil$Reader" (321 : Nat) "PupilsPupil$All") ∈ lw_all := lw_g (lw_at lw_m4 129 rfl) rfl
theorem q995 : (Jvm.Cond.methodLinkNest "PupilsPupil$Reader" (323 : Nat) ({ cls := "PupilsPupil$All", name := "<init>", desc := "()V" } : Jvm.MethodName) "PupilsPupil") ∈ lw_tbl := lw_at lw_m4 131 rfl
theorem q1000 : (Jvm.Cond.methodLink "PupilsPupil$Reader" (257 : Nat) ({ cls := "PupilsPupil$Reader", name := "sum", desc := "()LPupilsPupil$Value;" } : Jvm.MethodName)) ∈ lw_all := lw_g (lw_at lw_m4 136 rfl) rfl
theorem q1001 : (Jvm.Cond.privateMethod ({ cls := "PupilsPupil$Reader", name := "sum", desc := "()LPupilsPupil$Value;" } : Jvm.MethodName)) ∈ lw_tbl := lw_at lw_m4 137 rfl
theorem q1002 : (Jvm.Cond.instanceMethod ({ cls := "PupilsPupil$Reader", name := "sum", desc := "()LPupilsPupil$Value;" } : Jvm.MethodName)) ∈ lw_all := lw_g (lw_at lw_m4 138 rfl) rfl
theorem q1003 : (Jvm.Cond.code ({ cls := "PupilsPupil$Reader", name := "sum", desc := "()LPupilsPupil$Value;" } : Jvm.MethodName) prog_15_method_21_code (3 : Nat) (Option.some (Jvm.ClassFile.FieldType.object "PupilsPupil$Value"))) ∈ lw_all := lw_g (lw_at lw_m4 139 rfl) rfl
theorem q1004 : (Jvm.Cond.classLink "PupilsPupil$Reader" (239 : Nat) "PupilsPupil$Chain") ∈ lw_all := lw_g (lw_at lw_m4 140 rfl) rfl
theorem q1006 : (Jvm.Cond.methodLinkNest "PupilsPupil$Reader" (241 : Nat) ({ cls := "PupilsPupil$Chain", name := "<init>", desc := "()V" } : Jvm.MethodName) "PupilsPupil") ∈ lw_tbl := lw_at lw_m4 142 rfl
theorem q1045 : (Jvm.Cond.methodLink "PupilsPupil$Reader" (242 : Nat) ({ cls := "PupilsPupil$Reader", name := "product", desc := "()LPupilsPupil$Value;" } : Jvm.MethodName)) ∈ lw_all := lw_g (lw_at lw_m4 181 rfl) rfl
theorem q1046 : (Jvm.Cond.privateMethod ({ cls := "PupilsPupil$Reader", name := "product", desc := "()LPupilsPupil$Value;" } : Jvm.MethodName)) ∈ lw_tbl := lw_at lw_m4 182 rfl
theorem q1047 : (Jvm.Cond.instanceMethod ({ cls := "PupilsPupil$Reader", name := "product", desc := "()LPupilsPupil$Value;" } : Jvm.MethodName)) ∈ lw_all := lw_g (lw_at lw_m4 183 rfl) rfl
theorem q1048 : (Jvm.Cond.code ({ cls := "PupilsPupil$Reader", name := "product", desc := "()LPupilsPupil$Value;" } : Jvm.MethodName) prog_15_method_22_code (3 : Nat) (Option.some (Jvm.ClassFile.FieldType.object "PupilsPupil$Value"))) ∈ lw_all := lw_g (lw_at lw_m4 184 rfl) rfl
theorem q1049 : (Jvm.Cond.methodLink "PupilsPupil$Reader" (251 : Nat) ({ cls := "PupilsPupil$Reader", name := "atom", desc := "()LPupilsPupil$Value;" } : Jvm.MethodName)) ∈ lw_all := lw_g (lw_at lw_m4 185 rfl) rfl
theorem q1050 : (Jvm.Cond.privateMethod ({ cls := "PupilsPupil$Reader", name := "atom", desc := "()LPupilsPupil$Value;" } : Jvm.MethodName)) ∈ lw_tbl := lw_at lw_m4 186 rfl
theorem q1051 : (Jvm.Cond.instanceMethod ({ cls := "PupilsPupil$Reader", name := "atom", desc := "()LPupilsPupil$Value;" } : Jvm.MethodName)) ∈ lw_all := lw_g (lw_at lw_m4 187 rfl) rfl
theorem q1052 : (Jvm.Cond.code ({ cls := "PupilsPupil$Reader", name := "atom", desc := "()LPupilsPupil$Value;" } : Jvm.MethodName) prog_15_method_25_code (3 : Nat) (Option.some (Jvm.ClassFile.FieldType.object "PupilsPupil$Value"))) ∈ lw_all := lw_g (lw_at lw_m4 188 rfl) rfl
theorem q1053 : (Jvm.Cond.methodLink "PupilsPupil$Reader" (265 : Nat) ({ cls := "PupilsPupil$Reader", name := "within", desc := "(I)LPupilsPupil$Value;" } : Jvm.MethodName)) ∈ lw_all := lw_g (lw_at lw_m4 189 rfl) rfl
theorem q1054 : (Jvm.Cond.privateMethod ({ cls := "PupilsPupil$Reader", name := "within", desc := "(I)LPupilsPupil$Value;" } : Jvm.MethodName)) ∈ lw_tbl := lw_at lw_m4 190 rfl
theorem q1055 : (Jvm.Cond.instanceMethod ({ cls := "PupilsPupil$Reader", name := "within", desc := "(I)LPupilsPupil$Value;" } : Jvm.MethodName)) ∈ lw_all := lw_g (lw_at lw_m4 191 rfl) rfl
theorem q1056 : (Jvm.Cond.code ({ cls := "PupilsPupil$Reader", name := "within", desc := "(I)LPupilsPupil$Value;" } : Jvm.MethodName) prog_15_method_24_code (4 : Nat) (Option.some (Jvm.ClassFile.FieldType.object "PupilsPupil$Value"))) ∈ lw_all := lw_g (lw_at lw_m4 192 rfl) rfl
theorem q1057 : (Jvm.Cond.classLink "PupilsPupil$Reader" (260 : Nat) "PupilsPupil$Pair") ∈ lw_all := lw_g (lw_at lw_m4 193 rfl) rfl
theorem q1059 : (Jvm.Cond.methodLink "PupilsPupil$Reader" (262 : Nat) ({ cls := "PupilsPupil$Pair", name := "<init>", desc := "(ZLPupilsPupil$Value;LPupilsPupil$Value;)V" } : Jvm.MethodName)) ∈ lw_all := lw_g (lw_at lw_m4 195 rfl) rfl
theorem q1073 : (Jvm.Cond.classLink "PupilsPupil$Reader" (269 : Nat) "PupilsPupil$Fixed") ∈ lw_all := lw_g (lw_at lw_m4 209 rfl) rfl
theorem q1075 : (Jvm.Cond.methodLink "PupilsPupil$Reader" (271 : Nat) ({ cls := "PupilsPupil$Fixed", name := "<init>", desc := "(J)V" } : Jvm.MethodName)) ∈ lw_all := lw_g (lw_at lw_m4 211 rfl) rfl
theorem q1083 : (Jvm.Cond.fieldLinkNest "PupilsPupil$Reader" (274 : Nat) "PupilsPupil" "ASKED" "[Ljava/lang/String;" "PupilsPupil") ∈ lw_tbl := lw_at lw_m4 219 rfl
theorem q1085 : (Jvm.Cond.classLink "PupilsPupil$Reader" (277 : Nat) "PupilsPupil$Asked") ∈ lw_all := lw_g (lw_at lw_m4 221 rfl) rfl
theorem q1087 : (Jvm.Cond.methodLink "PupilsPupil$Reader" (279 : Nat) ({ cls := "PupilsPupil$Asked", name := "<init>", desc := "(I)V" } : Jvm.MethodName)) ∈ lw_all := lw_g (lw_at lw_m4 223 rfl) rfl
theorem q1095 : (Jvm.Cond.fieldLinkNest "PupilsPupil$Reader" (281 : Nat) "PupilsPupil" "LOOKED" "[Ljava/lang/String;" "PupilsPupil") ∈ lw_tbl := lw_at lw_m4 231 rfl
theorem q1097 : (Jvm.Cond.methodLink "PupilsPupil$Reader" (284 : Nat) ({ cls := "PupilsPupil$Reader", name := "looked", desc := "(I)LPupilsPupil$Value;" } : Jvm.MethodName)) ∈ lw_all := lw_g (lw_at lw_m4 233 rfl) rfl
theorem q1098 : (Jvm.Cond.privateMethod ({ cls := "PupilsPupil$Reader", name := "looked", desc := "(I)LPupilsPupil$Value;" } : Jvm.MethodName)) ∈ lw_tbl := lw_at lw_m4 234 rfl
theorem q1099 : (Jvm.Cond.instanceMethod ({ cls := "PupilsPupil$Reader", name := "looked", desc := "(I)LPupilsPupil$Value;" } : Jvm.MethodName)) ∈ lw_all := lw_g (lw_at lw_m4 235 rfl) rfl
theorem q1100 : (Jvm.Cond.code ({ cls := "PupilsPupil$Reader", name := "looked", desc := "(I)LPupilsPupil$Value;" } : Jvm.MethodName) prog_15_method_29_code (3 : Nat) (Option.some (Jvm.ClassFile.FieldType.object "PupilsPupil$Value"))) ∈ lw_all := lw_g (lw_at lw_m4 236 rfl) rfl
theorem q1101 : (Jvm.Cond.classLink "PupilsPupil$Reader" (329 : Nat) "PupilsPupil$Looked") ∈ lw_all := lw_g (lw_at lw_m4 237 rfl) rfl
theorem q1103 : (Jvm.Cond.methodLink "PupilsPupil$Reader" (331 : Nat) ({ cls := "PupilsPupil$Looked", name := "<init>", desc := "(LPupilsPupil;ILPupilsPupil$Value;)V" } : Jvm.MethodName)) ∈ lw_all := lw_g (lw_at lw_m4 239 rfl) rfl
theorem q1117 : (Jvm.Cond.stringRef "PupilsPupil$Reader" (287 : Nat) "min") ∈ lw_tbl := lw_at lw_m5 13 rfl
theorem q1118 : (Jvm.Cond.stringRef "PupilsPupil$Reader" (289 : Nat) "max") ∈ lw_tbl := lw_at lw_m5 14 rfl
theorem q1119 : (Jvm.Cond.methodLink "PupilsPupil$Reader" (246 : Nat) ({ cls := "PupilsPupil$Chain", name := "add", desc := "(CLPupilsPupil$Value;)V" } : Jvm.MethodName)) ∈ lw_all := lw_g (lw_at lw_m5 15 rfl) rfl
theorem q1180 : (Jvm.Cond.methodLink "PupilsPupil$Reader" (249 : Nat) ({ cls := "PupilsPupil$Reader", name := "takes", desc := "(I)Z" } : Jvm.MethodName)) ∈ lw_all := lw_g (lw_at lw_m5 76 rfl) rfl
theorem q1181 : (Jvm.Cond.privateMethod ({ cls := "PupilsPupil$Reader", name := "takes", desc := "(I)Z" } : Jvm.MethodName)) ∈ lw_tbl := lw_at lw_m5 77 rfl
theorem q1182 : (Jvm.Cond.instanceMethod ({ cls := "PupilsPupil$Reader", name := "takes", desc := "(I)Z" } : Jvm.MethodName)) ∈ lw_all := lw_g (lw_at lw_m5 78 rfl) rfl
theorem q1183 : (Jvm.Cond.code ({ cls := "PupilsPupil$Reader", name := "takes", desc := "(I)Z" } : Jvm.MethodName) prog_15_method_20_code (3 : Nat) (Option.some Jvm.ClassFile.FieldType.boolean)) ∈ lw_all := lw_g (lw_at lw_m5 79 rfl) rfl
theorem q1184 : (Jvm.Cond.classLink "PupilsPupil$Reader" (324 : Nat) "PupilsPupil$Than") ∈ lw_all := lw_g (lw_at lw_m5 80 rfl) rfl
theorem q1186 : (Jvm.Cond.methodLink "PupilsPupil$Reader" (326 : Nat) ({ cls := "PupilsPupil$Than", name := "<init>", desc := "(LPupilsPupil$Value;ILPupilsPupil$Value;)V" } : Jvm.MethodName)) ∈ lw_all := lw_g (lw_at lw_m5 82 rfl) rfl
theorem q1200 : (Jvm.Cond.stringRef "PupilsPupil$Reader" (310 : Nat) "and") ∈ lw_tbl := lw_at lw_m5 96 rfl
theorem q1201 : (Jvm.Cond.stringRef "PupilsPupil$Reader" (302 : Nat) "or") ∈ lw_tbl := lw_at lw_m5 97 rfl
theorem q1551 : (Jvm.Cond.instanceMethod ({ cls := "PupilsPupil$Reader", name := "question", desc := "(I)LPupilsPupil$Question;" } : Jvm.MethodName)) ∈ lw_all := lw_g (lw_at lw_m6 207 rfl) rfl
theorem q1552 : (Jvm.Cond.selects "PupilsPupil$Reader" ({ cls := "PupilsPupil$Reader", name := "question", desc := "(I)LPupilsPupil$Question;" } : Jvm.MethodName) ({ cls := "PupilsPupil$Reader", name := "question", desc := "(I)LPupilsPupil$Question;" } : Jvm.MethodName)) ∈ lw_all := lw_g (lw_at lw_m6 208 rfl) rfl
theorem q1553 : (Jvm.Cond.code ({ cls := "PupilsPupil$Reader", name := "question", desc := "(I)LPupilsPupil$Question;" } : Jvm.MethodName) prog_15_method_30_code (4 : Nat) (Option.some (Jvm.ClassFile.FieldType.object "PupilsPupil$Question"))) ∈ lw_all := lw_g (lw_at lw_m6 209 rfl) rfl
theorem q1554 : (Jvm.Cond.fieldLinkNest "PupilsPupil$Reader" (334 : Nat) "PupilsPupil" "TOLD_OF" "[Ljava/lang/String;" "PupilsPupil") ∈ lw_tbl := lw_at lw_m6 210 rfl
theorem q1556 : (Jvm.Cond.classLink "PupilsPupil$Reader" (337 : Nat) "PupilsPupil$Question") ∈ lw_all := lw_g (lw_at lw_m6 212 rfl) rfl
theorem q1558 : (Jvm.Cond.methodLink "PupilsPupil$Reader" (339 : Nat) ({ cls := "PupilsPupil$Question", name := "<init>", desc := "(ILPupilsPupil$Test;LPupilsPupil$Value;)V" } : Jvm.MethodName)) ∈ lw_all := lw_g (lw_at lw_m6 214 rfl) rfl
theorem q2483 : (Jvm.Cond.castable "PupilsPupil$Reader" "java/lang/Object") ∈ lw_tbl := lw_at lw_m10 179 rfl
theorem in_X2 : ∀ w ∈ wsX20, w ∈ lw_all := lw_in wsX20 [357, 359, 361, 363, 365, 367, 369, 371] (by decide +kernel) (by decide +kernel)

/-! PupilsPupil$State -/
set_option maxRecDepth 100000
def RX5 : String := "PupilsPupil$State"
def TX5 : u_T := fun k => match k with
  | 0 => ("PupilsPupil$State", "year", "I", false)
  | 1 => ("PupilsPupil$State", "passed", "I", false)
  | 2 => ("PupilsPupil$State", "doctors", "I", false)
  | 3 => ("PupilsPupil$State", "keeps", "I", false)
  | 4 => ("PupilsPupil$State", "master", "[I", true)
  | 5 => ("PupilsPupil$State", "right", "[I", true)
  | 6 => ("PupilsPupil$State", "wrong", "[I", true)
  | 7 => ("PupilsPupil$State", "left", "[I", true)
  | 8 => ("PupilsPupil$State", "rows", "[[I", true)
  | 9 => ("PupilsPupil$State", "lesson", "[I", true)
  | 10 => ("PupilsPupil$State", "garbled", "I", false)
  | _ => ("PupilsPupil$State", "this$0", "LPupilsPupil;", true)
def tyX5 : Nat → FieldType := fun k => match k with
  | 0 => .int
  | 1 => .int
  | 2 => .int
  | 3 => .int
  | 4 => .array .int
  | 5 => .array .int
  | 6 => .array .int
  | 7 => .array .int
  | 8 => .array (.array .int)
  | 9 => .array .int
  | 10 => .int
  | _ => .object "PupilsPupil"
abbrev wsX50 : List Cond := u_ws RX5 TX5 12
theorem nmX5 : ∀ a, a < 12 → ∀ b, b < 12 → a ≠ b → (TX5 a).2.1 ≠ (TX5 b).2.1 := by decide +kernel
theorem tyX5_ok : ∀ k, k < 12 → parseFieldDescriptor (TX5 k).2.2.1 = some (tyX5 k) := by decide +kernel
abbrev cX5_init : ByteArray := prog_17_method_1_code
def yX5_init : MethodName := ⟨RX5, "<init>", "(LPupilsPupil;)V"⟩
def dkwX5_init_2 : List UInt8 := [197, 0, 28, 2, 181, 0, 30, 42, 16, 8, 188, 10, 181, 0, 33, 177]
abbrev dktX5_init_2 : List UInt8 := dkwX5_init_2 ++ []
def dkwX5_init_1 : List UInt8 := [181, 0, 19, 42, 16, 8, 188, 10, 181, 0, 22, 42, 16, 8, 188, 10, 181, 0, 25, 42, 16, 30, 6]
abbrev dktX5_init_1 : List UInt8 := dkwX5_init_1 ++ dktX5_init_2
def dkwX5_init_0 : List UInt8 := [42, 43, 181, 0, 3, 42, 183, 0, 9, 42, 16, 8, 188, 10, 181, 0, 15, 42, 16, 8, 188, 10]
abbrev dktX5_init_0 : List UInt8 := dkwX5_init_0 ++ dktX5_init_1
theorem dksX5_init_0 : cX5_init.data.toList.drop 0 = dktX5_init_0 := by decide +kernel
theorem dksX5_init_1 : cX5_init.data.toList.drop 22 = dktX5_init_1 := dk_seg dksX5_init_0 22 rfl rfl
theorem dksX5_init_2 : cX5_init.data.toList.drop 45 = dktX5_init_2 := dk_seg dksX5_init_1 23 rfl rfl
theorem dX5_init_0 : decode cX5_init 0 = .ok (.aload_n 0, 1) := dk_42 (dk_at dksX5_init_0 0 rfl rfl)
theorem dX5_init_1 : decode cX5_init 1 = .ok (.aload_n 1, 1) := dk_43 (dk_at dksX5_init_0 1 rfl rfl)
theorem dX5_init_2 : decode cX5_init 2 = .ok (.putfield 3, 3) := dk_181 0 3 (dk_at dksX5_init_0 2 rfl rfl)
theorem dX5_init_5 : decode cX5_init 5 = .ok (.aload_n 0, 1) := dk_42 (dk_at dksX5_init_0 5 rfl rfl)
theorem dX5_init_6 : decode cX5_init 6 = .ok (.invokespecial 9, 3) := dk_183 0 9 (dk_at dksX5_init_0 6 rfl rfl)
theorem dX5_init_9 : decode cX5_init 9 = .ok (.aload_n 0, 1) := dk_42 (dk_at dksX5_init_0 9 rfl rfl)
theorem dX5_init_10 : decode cX5_init 10 = .ok (.bipush 8, 2) := dk_16 8 (dk_at dksX5_init_0 10 rfl rfl)
theorem dX5_init_12 : decode cX5_init 12 = .ok (.newarray .int, 2) := dk_188_10 (dk_at dksX5_init_0 12 rfl rfl)
theorem dX5_init_14 : decode cX5_init 14 = .ok (.putfield 15, 3) := dk_181 0 15 (dk_at dksX5_init_0 14 rfl rfl)
theorem dX5_init_17 : decode cX5_init 17 = .ok (.aload_n 0, 1) := dk_42 (dk_at dksX5_init_0 17 rfl rfl)
theorem dX5_init_18 : decode cX5_init 18 = .ok (.bipush 8, 2) := dk_16 8 (dk_at dksX5_init_0 18 rfl rfl)
theorem dX5_init_20 : decode cX5_init 20 = .ok (.newarray .int, 2) := dk_188_10 (dk_at dksX5_init_0 20 rfl rfl)
theorem dX5_init_22 : decode cX5_init 22 = .ok (.putfield 19, 3) := dk_181 0 19 (dk_at dksX5_init_1 0 rfl rfl)
theorem dX5_init_25 : decode cX5_init 25 = .ok (.aload_n 0, 1) := dk_42 (dk_at dksX5_init_1 3 rfl rfl)
theorem dX5_init_26 : decode cX5_init 26 = .ok (.bipush 8, 2) := dk_16 8 (dk_at dksX5_init_1 4 rfl rfl)
theorem dX5_init_28 : decode cX5_init 28 = .ok (.newarray .int, 2) := dk_188_10 (dk_at dksX5_init_1 6 rfl rfl)
theorem dX5_init_30 : decode cX5_init 30 = .ok (.putfield 22, 3) := dk_181 0 22 (dk_at dksX5_init_1 8 rfl rfl)
theorem dX5_init_33 : decode cX5_init 33 = .ok (.aload_n 0, 1) := dk_42 (dk_at dksX5_init_1 11 rfl rfl)
theorem dX5_init_34 : decode cX5_init 34 = .ok (.bipush 8, 2) := dk_16 8 (dk_at dksX5_init_1 12 rfl rfl)
theorem dX5_init_36 : decode cX5_init 36 = .ok (.newarray .int, 2) := dk_188_10 (dk_at dksX5_init_1 14 rfl rfl)
theorem dX5_init_38 : decode cX5_init 38 = .ok (.putfield 25, 3) := dk_181 0 25 (dk_at dksX5_init_1 16 rfl rfl)
theorem dX5_init_41 : decode cX5_init 41 = .ok (.aload_n 0, 1) := dk_42 (dk_at dksX5_init_1 19 rfl rfl)
theorem dX5_init_42 : decode cX5_init 42 = .ok (.bipush 30, 2) := dk_16 30 (dk_at dksX5_init_1 20 rfl rfl)
theorem dX5_init_44 : decode cX5_init 44 = .ok (.iconst 3, 1) := dk_6 (dk_at dksX5_init_1 22 rfl rfl)
theorem dX5_init_45 : decode cX5_init 45 = .ok (.multianewarray 28 2, 4) := by decide +kernel
theorem dX5_init_49 : decode cX5_init 49 = .ok (.putfield 30, 3) := dk_181 0 30 (dk_at dksX5_init_2 4 rfl rfl)
theorem dX5_init_52 : decode cX5_init 52 = .ok (.aload_n 0, 1) := dk_42 (dk_at dksX5_init_2 7 rfl rfl)
theorem dX5_init_53 : decode cX5_init 53 = .ok (.bipush 8, 2) := dk_16 8 (dk_at dksX5_init_2 8 rfl rfl)
theorem dX5_init_55 : decode cX5_init 55 = .ok (.newarray .int, 2) := dk_188_10 (dk_at dksX5_init_2 10 rfl rfl)
theorem dX5_init_57 : decode cX5_init 57 = .ok (.putfield 33, 3) := dk_181 0 33 (dk_at dksX5_init_2 12 rfl rfl)
theorem dX5_init_60 : decode cX5_init 60 = .ok (.return_, 1) := dk_177 (dk_at dksX5_init_2 15 rfl rfl)
abbrev cX5_begins : ByteArray := prog_17_method_2_code
def yX5_begins : MethodName := ⟨RX5, "begins", "()V"⟩
def dkwX5_begins_5 : List UInt8 := [180, 0, 25, 27, 42, 180, 0, 3, 180, 0, 53, 180, 0, 76, 79, 132, 1, 1, 167, 255, 142, 177]
abbrev dktX5_begins_5 : List UInt8 := dkwX5_begins_5 ++ []
def dkwX5_begins_4 : List UInt8 := [42, 180, 0, 3, 180, 0, 53, 180, 0, 57, 27, 185, 0, 62, 2, 0, 192, 0, 68, 180, 0, 74, 79, 42]
abbrev dktX5_begins_4 : List UInt8 := dkwX5_begins_4 ++ dktX5_begins_5
def dkwX5_begins_3 : List UInt8 := [180, 0, 53, 180, 0, 57, 27, 185, 0, 62, 2, 0, 192, 0, 68, 180, 0, 72, 79, 42, 180, 0, 22, 27]
abbrev dktX5_begins_3 : List UInt8 := dkwX5_begins_3 ++ dktX5_begins_4
def dkwX5_begins_2 : List UInt8 := [27, 185, 0, 62, 2, 0, 192, 0, 68, 180, 0, 70, 79, 42, 180, 0, 19, 27, 42, 180, 0, 3]
abbrev dktX5_begins_2 : List UInt8 := dkwX5_begins_2 ++ dktX5_begins_3
def dkwX5_begins_1 : List UInt8 := [180, 0, 3, 182, 0, 49, 162, 0, 109, 42, 180, 0, 15, 27, 42, 180, 0, 3, 180, 0, 53, 180, 0, 57]
abbrev dktX5_begins_1 : List UInt8 := dkwX5_begins_1 ++ dktX5_begins_2
def dkwX5_begins_0 : List UInt8 := [42, 3, 181, 0, 36, 42, 3, 181, 0, 40, 42, 3, 181, 0, 43, 42, 3, 181, 0, 46, 3, 60, 27, 42]
abbrev dktX5_begins_0 : List UInt8 := dkwX5_begins_0 ++ dktX5_begins_1
theorem dksX5_begins_0 : cX5_begins.data.toList.drop 0 = dktX5_begins_0 := by decide +kernel
theorem dksX5_begins_1 : cX5_begins.data.toList.drop 24 = dktX5_begins_1 := dk_seg dksX5_begins_0 24 rfl rfl
theorem dksX5_begins_2 : cX5_begins.data.toList.drop 48 = dktX5_begins_2 := dk_seg dksX5_begins_1 24 rfl rfl
theorem dksX5_begins_3 : cX5_begins.data.toList.drop 70 = dktX5_begins_3 := dk_seg dksX5_begins_2 22 rfl rfl
theorem dksX5_begins_4 : cX5_begins.data.toList.drop 94 = dktX5_begins_4 := dk_seg dksX5_begins_3 24 rfl rfl
theorem dksX5_begins_5 : cX5_begins.data.toList.drop 118 = dktX5_begins_5 := dk_seg dksX5_begins_4 24 rfl rfl
theorem dX5_begins_0 : decode cX5_begins 0 = .ok (.aload_n 0, 1) := dk_42 (dk_at dksX5_begins_0 0 rfl rfl)
theorem dX5_begins_1 : decode cX5_begins 1 = .ok (.iconst 0, 1) := dk_3 (dk_at dksX5_begins_0 1 rfl rfl)
theorem dX5_begins_2 : decode cX5_begins 2 = .ok (.putfield 36, 3) := dk_181 0 36 (dk_at dksX5_begins_0 2 rfl rfl)
theorem dX5_begins_5 : decode cX5_begins 5 = .ok (.aload_n 0, 1) := dk_42 (dk_at dksX5_begins_0 5 rfl rfl)
theorem dX5_begins_6 : decode cX5_begins 6 = .ok (.iconst 0, 1) := dk_3 (dk_at dksX5_begins_0 6 rfl rfl)
theorem dX5_begins_7 : decode cX5_begins 7 = .ok (.putfield 40, 3) := dk_181 0 40 (dk_at dksX5_begins_0 7 rfl rfl)
theorem dX5_begins_10 : decode cX5_begins 10 = .ok (.aload_n 0, 1) := dk_42 (dk_at dksX5_begins_0 10 rfl rfl)
theorem dX5_begins_11 : decode cX5_begins 11 = .ok (.iconst 0, 1) := dk_3 (dk_at dksX5_begins_0 11 rfl rfl)
theorem dX5_begins_12 : decode cX5_begins 12 = .ok (.putfield 43, 3) := dk_181 0 43 (dk_at dksX5_begins_0 12 rfl rfl)
theorem dX5_begins_15 : decode cX5_begins 15 = .ok (.aload_n 0, 1) := dk_42 (dk_at dksX5_begins_0 15 rfl rfl)
theorem dX5_begins_16 : decode cX5_begins 16 = .ok (.iconst 0, 1) := dk_3 (dk_at dksX5_begins_0 16 rfl rfl)
theorem dX5_begins_17 : decode cX5_begins 17 = .ok (.putfield 46, 3) := dk_181 0 46 (dk_at dksX5_begins_0 17 rfl rfl)
theorem dX5_begins_20 : decode cX5_begins 20 = .ok (.iconst 0, 1) := dk_3 (dk_at dksX5_begins_0 20 rfl rfl)
theorem dX5_begins_21 : decode cX5_begins 21 = .ok (.istore_n 1, 1) := dk_60 (dk_at dksX5_begins_0 21 rfl rfl)
theorem dX5_begins_22 : decode cX5_begins 22 = .ok (.iload_n 1, 1) := dk_27 (dk_at dksX5_begins_0 22 rfl rfl)
theorem dX5_begins_23 : decode cX5_begins 23 = .ok (.aload_n 0, 1) := dk_42 (dk_at dksX5_begins_0 23 rfl rfl)
theorem dX5_begins_24 : decode cX5_begins 24 = .ok (.getfield 3, 3) := dk_180 0 3 (dk_at dksX5_begins_1 0 rfl rfl)
theorem dX5_begins_27 : decode cX5_begins 27 = .ok (.invokevirtual 49, 3) := dk_182 0 49 (dk_at dksX5_begins_1 3 rfl rfl)
theorem dX5_begins_30 : decode cX5_begins 30 = .ok (.if_icmp .ge 109, 3) := dk_162 0 109 (dk_at dksX5_begins_1 6 rfl rfl)
theorem dX5_begins_33 : decode cX5_begins 33 = .ok (.aload_n 0, 1) := dk_42 (dk_at dksX5_begins_1 9 rfl rfl)
theorem dX5_begins_34 : decode cX5_begins 34 = .ok (.getfield 15, 3) := dk_180 0 15 (dk_at dksX5_begins_1 10 rfl rfl)
theorem dX5_begins_37 : decode cX5_begins 37 = .ok (.iload_n 1, 1) := dk_27 (dk_at dksX5_begins_1 13 rfl rfl)
theorem dX5_begins_38 : decode cX5_begins 38 = .ok (.aload_n 0, 1) := dk_42 (dk_at dksX5_begins_1 14 rfl rfl)
theorem dX5_begins_39 : decode cX5_begins 39 = .ok (.getfield 3, 3) := dk_180 0 3 (dk_at dksX5_begins_1 15 rfl rfl)
theorem dX5_begins_42 : decode cX5_begins 42 = .ok (.getfield 53, 3) := dk_180 0 53 (dk_at dksX5_begins_1 18 rfl rfl)
theorem dX5_begins_45 : decode cX5_begins 45 = .ok (.getfield 57, 3) := dk_180 0 57 (dk_at dksX5_begins_1 21 rfl rfl)
theorem dX5_begins_48 : decode cX5_begins 48 = .ok (.iload_n 1, 1) := dk_27 (dk_at dksX5_begins_2 0 rfl rfl)
theorem dX5_begins_49 : decode cX5_begins 49 = .ok (.invokeinterface 62 2, 5) := by decide +kernel
theorem dX5_begins_54 : decode cX5_begins 54 = .ok (.checkcast 68, 3) := dk_192 0 68 (dk_at dksX5_begins_2 6 rfl rfl)
theorem dX5_begins_57 : decode cX5_begins 57 = .ok (.getfield 70, 3) := dk_180 0 70 (dk_at dksX5_begins_2 9 rfl rfl)
theorem dX5_begins_60 : decode cX5_begins 60 = .ok (.iastore, 1) := dk_79 (dk_at dksX5_begins_2 12 rfl rfl)
theorem dX5_begins_61 : decode cX5_begins 61 = .ok (.aload_n 0, 1) := dk_42 (dk_at dksX5_begins_2 13 rfl rfl)
theorem dX5_begins_62 : decode cX5_begins 62 = .ok (.getfield 19, 3) := dk_180 0 19 (dk_at dksX5_begins_2 14 rfl rfl)
theorem dX5_begins_65 : decode cX5_begins 65 = .ok (.iload_n 1, 1) := dk_27 (dk_at dksX5_begins_2 17 rfl rfl)
theorem dX5_begins_66 : decode cX5_begins 66 = .ok (.aload_n 0, 1) := dk_42 (dk_at dksX5_begins_2 18 rfl rfl)
theorem dX5_begins_67 : decode cX5_begins 67 = .ok (.getfield 3, 3) := dk_180 0 3 (dk_at dksX5_begins_2 19 rfl rfl)
theorem dX5_begins_70 : decode cX5_begins 70 = .ok (.getfield 53, 3) := dk_180 0 53 (dk_at dksX5_begins_3 0 rfl rfl)
theorem dX5_begins_73 : decode cX5_begins 73 = .ok (.getfield 57, 3) := dk_180 0 57 (dk_at dksX5_begins_3 3 rfl rfl)
theorem dX5_begins_76 : decode cX5_begins 76 = .ok (.iload_n 1, 1) := dk_27 (dk_at dksX5_begins_3 6 rfl rfl)
theorem dX5_begins_77 : decode cX5_begins 77 = .ok (.invokeinterface 62 2, 5) := by decide +kernel
theorem dX5_begins_82 : decode cX5_begins 82 = .ok (.checkcast 68, 3) := dk_192 0 68 (dk_at dksX5_begins_3 12 rfl rfl)
theorem dX5_begins_85 : decode cX5_begins 85 = .ok (.getfield 72, 3) := dk_180 0 72 (dk_at dksX5_begins_3 15 rfl rfl)
theorem dX5_begins_88 : decode cX5_begins 88 = .ok (.iastore, 1) := dk_79 (dk_at dksX5_begins_3 18 rfl rfl)
theorem dX5_begins_89 : decode cX5_begins 89 = .ok (.aload_n 0, 1) := dk_42 (dk_at dksX5_begins_3 19 rfl rfl)
theorem dX5_begins_90 : decode cX5_begins 90 = .ok (.getfield 22, 3) := dk_180 0 22 (dk_at dksX5_begins_3 20 rfl rfl)
theorem dX5_begins_93 : decode cX5_begins 93 = .ok (.iload_n 1, 1) := dk_27 (dk_at dksX5_begins_3 23 rfl rfl)
theorem dX5_begins_94 : decode cX5_begins 94 = .ok (.aload_n 0, 1) := dk_42 (dk_at dksX5_begins_4 0 rfl rfl)
theorem dX5_begins_95 : decode cX5_begins 95 = .ok (.getfield 3, 3) := dk_180 0 3 (dk_at dksX5_begins_4 1 rfl rfl)
theorem dX5_begins_98 : decode cX5_begins 98 = .ok (.getfield 53, 3) := dk_180 0 53 (dk_at dksX5_begins_4 4 rfl rfl)
theorem dX5_begins_101 : decode cX5_begins 101 = .ok (.getfield 57, 3) := dk_180 0 57 (dk_at dksX5_begins_4 7 rfl rfl)
theorem dX5_begins_104 : decode cX5_begins 104 = .ok (.iload_n 1, 1) := dk_27 (dk_at dksX5_begins_4 10 rfl rfl)
theorem dX5_begins_105 : decode cX5_begins 105 = .ok (.invokeinterface 62 2, 5) := by decide +kernel
theorem dX5_begins_110 : decode cX5_begins 110 = .ok (.checkcast 68, 3) := dk_192 0 68 (dk_at dksX5_begins_4 16 rfl rfl)
theorem dX5_begins_113 : decode cX5_begins 113 = .ok (.getfield 74, 3) := dk_180 0 74 (dk_at dksX5_begins_4 19 rfl rfl)
theorem dX5_begins_116 : decode cX5_begins 116 = .ok (.iastore, 1) := dk_79 (dk_at dksX5_begins_4 22 rfl rfl)
theorem dX5_begins_117 : decode cX5_begins 117 = .ok (.aload_n 0, 1) := dk_42 (dk_at dksX5_begins_4 23 rfl rfl)
theorem dX5_begins_118 : decode cX5_begins 118 = .ok (.getfield 25, 3) := dk_180 0 25 (dk_at dksX5_begins_5 0 rfl rfl)
theorem dX5_begins_121 : decode cX5_begins 121 = .ok (.iload_n 1, 1) := dk_27 (dk_at dksX5_begins_5 3 rfl rfl)
theorem dX5_begins_122 : decode cX5_begins 122 = .ok (.aload_n 0, 1) := dk_42 (dk_at dksX5_begins_5 4 rfl rfl)
theorem dX5_begins_123 : decode cX5_begins 123 = .ok (.getfield 3, 3) := dk_180 0 3 (dk_at dksX5_begins_5 5 rfl rfl)
theorem dX5_begins_126 : decode cX5_begins 126 = .ok (.getfield 53, 3) := dk_180 0 53 (dk_at dksX5_begins_5 8 rfl rfl)
theorem dX5_begins_129 : decode cX5_begins 129 = .ok (.getfield 76, 3) := dk_180 0 76 (dk_at dksX5_begins_5 11 rfl rfl)
theorem dX5_begins_132 : decode cX5_begins 132 = .ok (.iastore, 1) := dk_79 (dk_at dksX5_begins_5 14 rfl rfl)
theorem dX5_begins_133 : decode cX5_begins 133 = .ok (.iinc 1 1, 3) := dk_132 1 1 (dk_at dksX5_begins_5 15 rfl rfl)
theorem dX5_begins_136 : decode cX5_begins 136 = .ok (.goto (-114), 3) := dk_167 255 142 (dk_at dksX5_begins_5 18 rfl rfl)
theorem dX5_begins_139 : decode cX5_begins 139 = .ok (.return_, 1) := dk_177 (dk_at dksX5_begins_5 21 rfl rfl)
abbrev cX5_beliefs : ByteArray := prog_17_method_14_code
def yX5_beliefs : MethodName := ⟨RX5, "beliefs", "(Z)I"⟩
def dkwX5_beliefs_1 : List UInt8 := [29, 46, 167, 0, 9, 42, 180, 0, 22, 29, 46, 184, 0, 103, 96, 61, 132, 3, 1, 167, 255, 217, 28, 172]
abbrev dktX5_beliefs_1 : List UInt8 := dkwX5_beliefs_1 ++ []
def dkwX5_beliefs_0 : List UInt8 := [3, 61, 3, 62, 29, 42, 180, 0, 3, 182, 0, 49, 162, 0, 34, 28, 27, 153, 0, 12, 42, 180, 0, 19]
abbrev dktX5_beliefs_0 : List UInt8 := dkwX5_beliefs_0 ++ dktX5_beliefs_1
theorem dksX5_beliefs_0 : cX5_beliefs.data.toList.drop 0 = dktX5_beliefs_0 := by decide +kernel
theorem dksX5_beliefs_1 : cX5_beliefs.data.toList.drop 24 = dktX5_beliefs_1 := dk_seg dksX5_beliefs_0 24 rfl rfl
theorem dX5_beliefs_0 : decode cX5_beliefs 0 = .ok (.iconst 0, 1) := dk_3 (dk_at dksX5_beliefs_0 0 rfl rfl)
theorem dX5_beliefs_1 : decode cX5_beliefs 1 = .ok (.istore_n 2, 1) := dk_61 (dk_at dksX5_beliefs_0 1 rfl rfl)
theorem dX5_beliefs_2 : decode cX5_beliefs 2 = .ok (.iconst 0, 1) := dk_3 (dk_at dksX5_beliefs_0 2 rfl rfl)
theorem dX5_beliefs_3 : decode cX5_beliefs 3 = .ok (.istore_n 3, 1) := dk_62 (dk_at dksX5_beliefs_0 3 rfl rfl)
theorem dX5_beliefs_4 : decode cX5_beliefs 4 = .ok (.iload_n 3, 1) := dk_29 (dk_at dksX5_beliefs_0 4 rfl rfl)
theorem dX5_beliefs_5 : decode cX5_beliefs 5 = .ok (.aload_n 0, 1) := dk_42 (dk_at dksX5_beliefs_0 5 rfl rfl)
theorem dX5_beliefs_6 : decode cX5_beliefs 6 = .ok (.getfield 3, 3) := dk_180 0 3 (dk_at dksX5_beliefs_0 6 rfl rfl)
theorem dX5_beliefs_9 : decode cX5_beliefs 9 = .ok (.invokevirtual 49, 3) := dk_182 0 49 (dk_at dksX5_beliefs_0 9 rfl rfl)
theorem dX5_beliefs_12 : decode cX5_beliefs 12 = .ok (.if_icmp .ge 34, 3) := dk_162 0 34 (dk_at dksX5_beliefs_0 12 rfl rfl)
theorem dX5_beliefs_15 : decode cX5_beliefs 15 = .ok (.iload_n 2, 1) := dk_28 (dk_at dksX5_beliefs_0 15 rfl rfl)
theorem dX5_beliefs_16 : decode cX5_beliefs 16 = .ok (.iload_n 1, 1) := dk_27 (dk_at dksX5_beliefs_0 16 rfl rfl)
theorem dX5_beliefs_17 : decode cX5_beliefs 17 = .ok (.ifCond .eq 12, 3) := dk_153 0 12 (dk_at dksX5_beliefs_0 17 rfl rfl)
theorem dX5_beliefs_20 : decode cX5_beliefs 20 = .ok (.aload_n 0, 1) := dk_42 (dk_at dksX5_beliefs_0 20 rfl rfl)
theorem dX5_beliefs_21 : decode cX5_beliefs 21 = .ok (.getfield 19, 3) := dk_180 0 19 (dk_at dksX5_beliefs_0 21 rfl rfl)
theorem dX5_beliefs_24 : decode cX5_beliefs 24 = .ok (.iload_n 3, 1) := dk_29 (dk_at dksX5_beliefs_1 0 rfl rfl)
theorem dX5_beliefs_25 : decode cX5_beliefs 25 = .ok (.iaload, 1) := dk_46 (dk_at dksX5_beliefs_1 1 rfl rfl)
theorem dX5_beliefs_26 : decode cX5_beliefs 26 = .ok (.goto 9, 3) := dk_167 0 9 (dk_at dksX5_beliefs_1 2 rfl rfl)
theorem dX5_beliefs_29 : decode cX5_beliefs 29 = .ok (.aload_n 0, 1) := dk_42 (dk_at dksX5_beliefs_1 5 rfl rfl)
theorem dX5_beliefs_30 : decode cX5_beliefs 30 = .ok (.getfield 22, 3) := dk_180 0 22 (dk_at dksX5_beliefs_1 6 rfl rfl)
theorem dX5_beliefs_33 : decode cX5_beliefs 33 = .ok (.iload_n 3, 1) := dk_29 (dk_at dksX5_beliefs_1 9 rfl rfl)
theorem dX5_beliefs_34 : decode cX5_beliefs 34 = .ok (.iaload, 1) := dk_46 (dk_at dksX5_beliefs_1 10 rfl rfl)
theorem dX5_beliefs_35 : decode cX5_beliefs 35 = .ok (.invokestatic 103, 3) := dk_184 0 103 (dk_at dksX5_beliefs_1 11 rfl rfl)
theorem dX5_beliefs_38 : decode cX5_beliefs 38 = .ok (.iadd, 1) := dk_96 (dk_at dksX5_beliefs_1 14 rfl rfl)
theorem dX5_beliefs_39 : decode cX5_beliefs 39 = .ok (.istore_n 2, 1) := dk_61 (dk_at dksX5_beliefs_1 15 rfl rfl)
theorem dX5_beliefs_40 : decode cX5_beliefs 40 = .ok (.iinc 3 1, 3) := dk_132 3 1 (dk_at dksX5_beliefs_1 16 rfl rfl)
theorem dX5_beliefs_43 : decode cX5_beliefs 43 = .ok (.goto (-39), 3) := dk_167 255 217 (dk_at dksX5_beliefs_1 19 rfl rfl)
theorem dX5_beliefs_46 : decode cX5_beliefs 46 = .ok (.iload_n 2, 1) := dk_28 (dk_at dksX5_beliefs_1 22 rfl rfl)
theorem dX5_beliefs_47 : decode cX5_beliefs 47 = .ok (.ireturn, 1) := dk_172 (dk_at dksX5_beliefs_1 23 rfl rfl)
abbrev cX5_stands : ByteArray := prog_17_method_15_code
def yX5_stands : MethodName := ⟨RX5, "stands", "(II)I"⟩
def dkwX5_stands_1 : List UInt8 := [184, 0, 82, 153, 0, 7, 5, 167, 0, 4, 3, 172]
abbrev dktX5_stands_1 : List UInt8 := dkwX5_stands_1 ++ []
def dkwX5_stands_0 : List UInt8 := [42, 180, 0, 19, 27, 46, 28, 184, 0, 82, 153, 0, 7, 4, 167, 0, 21, 42, 180, 0, 22, 27, 46, 28]
abbrev dktX5_stands_0 : List UInt8 := dkwX5_stands_0 ++ dktX5_stands_1
theorem dksX5_stands_0 : cX5_stands.data.toList.drop 0 = dktX5_stands_0 := by decide +kernel
theorem dksX5_stands_1 : cX5_stands.data.toList.drop 24 = dktX5_stands_1 := dk_seg dksX5_stands_0 24 rfl rfl
theorem dX5_stands_0 : decode cX5_stands 0 = .ok (.aload_n 0, 1) := dk_42 (dk_at dksX5_stands_0 0 rfl rfl)
theorem dX5_stands_1 : decode cX5_stands 1 = .ok (.getfield 19, 3) := dk_180 0 19 (dk_at dksX5_stands_0 1 rfl rfl)
theorem dX5_stands_4 : decode cX5_stands 4 = .ok (.iload_n 1, 1) := dk_27 (dk_at dksX5_stands_0 4 rfl rfl)
theorem dX5_stands_5 : decode cX5_stands 5 = .ok (.iaload, 1) := dk_46 (dk_at dksX5_stands_0 5 rfl rfl)
theorem dX5_stands_6 : decode cX5_stands 6 = .ok (.iload_n 2, 1) := dk_28 (dk_at dksX5_stands_0 6 rfl rfl)
theorem dX5_stands_7 : decode cX5_stands 7 = .ok (.invokestatic 82, 3) := dk_184 0 82 (dk_at dksX5_stands_0 7 rfl rfl)
theorem dX5_stands_10 : decode cX5_stands 10 = .ok (.ifCond .eq 7, 3) := dk_153 0 7 (dk_at dksX5_stands_0 10 rfl rfl)
theorem dX5_stands_13 : decode cX5_stands 13 = .ok (.iconst 1, 1) := dk_4 (dk_at dksX5_stands_0 13 rfl rfl)
theorem dX5_stands_14 : decode cX5_stands 14 = .ok (.goto 21, 3) := dk_167 0 21 (dk_at dksX5_stands_0 14 rfl rfl)
theorem dX5_stands_17 : decode cX5_stands 17 = .ok (.aload_n 0, 1) := dk_42 (dk_at dksX5_stands_0 17 rfl rfl)
theorem dX5_stands_18 : decode cX5_stands 18 = .ok (.getfield 22, 3) := dk_180 0 22 (dk_at dksX5_stands_0 18 rfl rfl)
theorem dX5_stands_21 : decode cX5_stands 21 = .ok (.iload_n 1, 1) := dk_27 (dk_at dksX5_stands_0 21 rfl rfl)
theorem dX5_stands_22 : decode cX5_stands 22 = .ok (.iaload, 1) := dk_46 (dk_at dksX5_stands_0 22 rfl rfl)
theorem dX5_stands_23 : decode cX5_stands 23 = .ok (.iload_n 2, 1) := dk_28 (dk_at dksX5_stands_0 23 rfl rfl)
theorem dX5_stands_24 : decode cX5_stands 24 = .ok (.invokestatic 82, 3) := dk_184 0 82 (dk_at dksX5_stands_1 0 rfl rfl)
theorem dX5_stands_27 : decode cX5_stands 27 = .ok (.ifCond .eq 7, 3) := dk_153 0 7 (dk_at dksX5_stands_1 3 rfl rfl)
theorem dX5_stands_30 : decode cX5_stands 30 = .ok (.iconst 2, 1) := dk_5 (dk_at dksX5_stands_1 6 rfl rfl)
theorem dX5_stands_31 : decode cX5_stands 31 = .ok (.goto 4, 3) := dk_167 0 4 (dk_at dksX5_stands_1 7 rfl rfl)
theorem dX5_stands_34 : decode cX5_stands 34 = .ok (.iconst 0, 1) := dk_3 (dk_at dksX5_stands_1 10 rfl rfl)
theorem dX5_stands_35 : decode cX5_stands 35 = .ok (.ireturn, 1) := dk_172 (dk_at dksX5_stands_1 11 rfl rfl)
abbrev cX5_pupils : ByteArray := prog_17_method_4_code
def yX5_pupils : MethodName := ⟨RX5, "pupils", "(I)I"⟩
def dkwX5_pupils_1 : List UInt8 := [160, 0, 9, 4, 29, 120, 167, 0, 4, 3, 128, 61, 132, 3, 1, 167, 255, 222, 28, 172]
abbrev dktX5_pupils_1 : List UInt8 := dkwX5_pupils_1 ++ []
def dkwX5_pupils_0 : List UInt8 := [3, 61, 3, 62, 29, 42, 180, 0, 3, 182, 0, 49, 162, 0, 29, 28, 42, 180, 0, 15, 29, 46, 27]
abbrev dktX5_pupils_0 : List UInt8 := dkwX5_pupils_0 ++ dktX5_pupils_1
theorem dksX5_pupils_0 : cX5_pupils.data.toList.drop 0 = dktX5_pupils_0 := by decide +kernel
theorem dksX5_pupils_1 : cX5_pupils.data.toList.drop 23 = dktX5_pupils_1 := dk_seg dksX5_pupils_0 23 rfl rfl
theorem dX5_pupils_0 : decode cX5_pupils 0 = .ok (.iconst 0, 1) := dk_3 (dk_at dksX5_pupils_0 0 rfl rfl)
theorem dX5_pupils_1 : decode cX5_pupils 1 = .ok (.istore_n 2, 1) := dk_61 (dk_at dksX5_pupils_0 1 rfl rfl)
theorem dX5_pupils_2 : decode cX5_pupils 2 = .ok (.iconst 0, 1) := dk_3 (dk_at dksX5_pupils_0 2 rfl rfl)
theorem dX5_pupils_3 : decode cX5_pupils 3 = .ok (.istore_n 3, 1) := dk_62 (dk_at dksX5_pupils_0 3 rfl rfl)
theorem dX5_pupils_4 : decode cX5_pupils 4 = .ok (.iload_n 3, 1) := dk_29 (dk_at dksX5_pupils_0 4 rfl rfl)
theorem dX5_pupils_5 : decode cX5_pupils 5 = .ok (.aload_n 0, 1) := dk_42 (dk_at dksX5_pupils_0 5 rfl rfl)
theorem dX5_pupils_6 : decode cX5_pupils 6 = .ok (.getfield 3, 3) := dk_180 0 3 (dk_at dksX5_pupils_0 6 rfl rfl)
theorem dX5_pupils_9 : decode cX5_pupils 9 = .ok (.invokevirtual 49, 3) := dk_182 0 49 (dk_at dksX5_pupils_0 9 rfl rfl)
theorem dX5_pupils_12 : decode cX5_pupils 12 = .ok (.if_icmp .ge 29, 3) := dk_162 0 29 (dk_at dksX5_pupils_0 12 rfl rfl)
theorem dX5_pupils_15 : decode cX5_pupils 15 = .ok (.iload_n 2, 1) := dk_28 (dk_at dksX5_pupils_0 15 rfl rfl)
theorem dX5_pupils_16 : decode cX5_pupils 16 = .ok (.aload_n 0, 1) := dk_42 (dk_at dksX5_pupils_0 16 rfl rfl)
theorem dX5_pupils_17 : decode cX5_pupils 17 = .ok (.getfield 15, 3) := dk_180 0 15 (dk_at dksX5_pupils_0 17 rfl rfl)
theorem dX5_pupils_20 : decode cX5_pupils 20 = .ok (.iload_n 3, 1) := dk_29 (dk_at dksX5_pupils_0 20 rfl rfl)
theorem dX5_pupils_21 : decode cX5_pupils 21 = .ok (.iaload, 1) := dk_46 (dk_at dksX5_pupils_0 21 rfl rfl)
theorem dX5_pupils_22 : decode cX5_pupils 22 = .ok (.iload_n 1, 1) := dk_27 (dk_at dksX5_pupils_0 22 rfl rfl)
theorem dX5_pupils_23 : decode cX5_pupils 23 = .ok (.if_icmp .ne 9, 3) := dk_160 0 9 (dk_at dksX5_pupils_1 0 rfl rfl)
theorem dX5_pupils_26 : decode cX5_pupils 26 = .ok (.iconst 1, 1) := dk_4 (dk_at dksX5_pupils_1 3 rfl rfl)
theorem dX5_pupils_27 : decode cX5_pupils 27 = .ok (.iload_n 3, 1) := dk_29 (dk_at dksX5_pupils_1 4 rfl rfl)
theorem dX5_pupils_28 : decode cX5_pupils 28 = .ok (.ishl, 1) := dk_120 (dk_at dksX5_pupils_1 5 rfl rfl)
theorem dX5_pupils_29 : decode cX5_pupils 29 = .ok (.goto 4, 3) := dk_167 0 4 (dk_at dksX5_pupils_1 6 rfl rfl)
theorem dX5_pupils_32 : decode cX5_pupils 32 = .ok (.iconst 0, 1) := dk_3 (dk_at dksX5_pupils_1 9 rfl rfl)
theorem dX5_pupils_33 : decode cX5_pupils 33 = .ok (.ior, 1) := dk_128 (dk_at dksX5_pupils_1 10 rfl rfl)
theorem dX5_pupils_34 : decode cX5_pupils 34 = .ok (.istore_n 2, 1) := dk_61 (dk_at dksX5_pupils_1 11 rfl rfl)
theorem dX5_pupils_35 : decode cX5_pupils 35 = .ok (.iinc 3 1, 3) := dk_132 3 1 (dk_at dksX5_pupils_1 12 rfl rfl)
theorem dX5_pupils_38 : decode cX5_pupils 38 = .ok (.goto (-34), 3) := dk_167 255 222 (dk_at dksX5_pupils_1 15 rfl rfl)
theorem dX5_pupils_41 : decode cX5_pupils 41 = .ok (.iload_n 2, 1) := dk_28 (dk_at dksX5_pupils_1 18 rfl rfl)
theorem dX5_pupils_42 : decode cX5_pupils 42 = .ok (.ireturn, 1) := dk_172 (dk_at dksX5_pupils_1 19 rfl rfl)
abbrev cX5_marks : ByteArray := prog_17_method_6_code
def yX5_marks : MethodName := ⟨RX5, "marks", "(I)I"⟩
def dkwX5_marks_3 : List UInt8 := [167, 255, 189, 28, 172]
abbrev dktX5_marks_3 : List UInt8 := dkwX5_marks_3 ++ []
def dkwX5_marks_2 : List UInt8 := [184, 0, 82, 153, 0, 15, 42, 180, 0, 3, 29, 182, 0, 86, 116, 167, 0, 4, 3, 96, 61, 132, 3, 1]
abbrev dktX5_marks_2 : List UInt8 := dkwX5_marks_2 ++ dktX5_marks_3
def dkwX5_marks_1 : List UInt8 := [184, 0, 82, 153, 0, 14, 42, 180, 0, 3, 29, 182, 0, 86, 167, 0, 29, 42, 180, 0, 22, 27, 46, 29]
abbrev dktX5_marks_1 : List UInt8 := dkwX5_marks_1 ++ dktX5_marks_2
def dkwX5_marks_0 : List UInt8 := [3, 61, 3, 62, 29, 42, 180, 0, 3, 182, 0, 79, 162, 0, 62, 28, 42, 180, 0, 19, 27, 46, 29]
abbrev dktX5_marks_0 : List UInt8 := dkwX5_marks_0 ++ dktX5_marks_1
theorem dksX5_marks_0 : cX5_marks.data.toList.drop 0 = dktX5_marks_0 := by decide +kernel
theorem dksX5_marks_1 : cX5_marks.data.toList.drop 23 = dktX5_marks_1 := dk_seg dksX5_marks_0 23 rfl rfl
theorem dksX5_marks_2 : cX5_marks.data.toList.drop 47 = dktX5_marks_2 := dk_seg dksX5_marks_1 24 rfl rfl
theorem dksX5_marks_3 : cX5_marks.data.toList.drop 71 = dktX5_marks_3 := dk_seg dksX5_marks_2 24 rfl rfl
theorem dX5_marks_0 : decode cX5_marks 0 = .ok (.iconst 0, 1) := dk_3 (dk_at dksX5_marks_0 0 rfl rfl)
theorem dX5_marks_1 : decode cX5_marks 1 = .ok (.istore_n 2, 1) := dk_61 (dk_at dksX5_marks_0 1 rfl rfl)
theorem dX5_marks_2 : decode cX5_marks 2 = .ok (.iconst 0, 1) := dk_3 (dk_at dksX5_marks_0 2 rfl rfl)
theorem dX5_marks_3 : decode cX5_marks 3 = .ok (.istore_n 3, 1) := dk_62 (dk_at dksX5_marks_0 3 rfl rfl)
theorem dX5_marks_4 : decode cX5_marks 4 = .ok (.iload_n 3, 1) := dk_29 (dk_at dksX5_marks_0 4 rfl rfl)
theorem dX5_marks_5 : decode cX5_marks 5 = .ok (.aload_n 0, 1) := dk_42 (dk_at dksX5_marks_0 5 rfl rfl)
theorem dX5_marks_6 : decode cX5_marks 6 = .ok (.getfield 3, 3) := dk_180 0 3 (dk_at dksX5_marks_0 6 rfl rfl)
theorem dX5_marks_9 : decode cX5_marks 9 = .ok (.invokevirtual 79, 3) := dk_182 0 79 (dk_at dksX5_marks_0 9 rfl rfl)
theorem dX5_marks_12 : decode cX5_marks 12 = .ok (.if_icmp .ge 62, 3) := dk_162 0 62 (dk_at dksX5_marks_0 12 rfl rfl)
theorem dX5_marks_15 : decode cX5_marks 15 = .ok (.iload_n 2, 1) := dk_28 (dk_at dksX5_marks_0 15 rfl rfl)
theorem dX5_marks_16 : decode cX5_marks 16 = .ok (.aload_n 0, 1) := dk_42 (dk_at dksX5_marks_0 16 rfl rfl)
theorem dX5_marks_17 : decode cX5_marks 17 = .ok (.getfield 19, 3) := dk_180 0 19 (dk_at dksX5_marks_0 17 rfl rfl)
theorem dX5_marks_20 : decode cX5_marks 20 = .ok (.iload_n 1, 1) := dk_27 (dk_at dksX5_marks_0 20 rfl rfl)
theorem dX5_marks_21 : decode cX5_marks 21 = .ok (.iaload, 1) := dk_46 (dk_at dksX5_marks_0 21 rfl rfl)
theorem dX5_marks_22 : decode cX5_marks 22 = .ok (.iload_n 3, 1) := dk_29 (dk_at dksX5_marks_0 22 rfl rfl)
theorem dX5_marks_23 : decode cX5_marks 23 = .ok (.invokestatic 82, 3) := dk_184 0 82 (dk_at dksX5_marks_1 0 rfl rfl)
theorem dX5_marks_26 : decode cX5_marks 26 = .ok (.ifCond .eq 14, 3) := dk_153 0 14 (dk_at dksX5_marks_1 3 rfl rfl)
theorem dX5_marks_29 : decode cX5_marks 29 = .ok (.aload_n 0, 1) := dk_42 (dk_at dksX5_marks_1 6 rfl rfl)
theorem dX5_marks_30 : decode cX5_marks 30 = .ok (.getfield 3, 3) := dk_180 0 3 (dk_at dksX5_marks_1 7 rfl rfl)
theorem dX5_marks_33 : decode cX5_marks 33 = .ok (.iload_n 3, 1) := dk_29 (dk_at dksX5_marks_1 10 rfl rfl)
theorem dX5_marks_34 : decode cX5_marks 34 = .ok (.invokevirtual 86, 3) := dk_182 0 86 (dk_at dksX5_marks_1 11 rfl rfl)
theorem dX5_marks_37 : decode cX5_marks 37 = .ok (.goto 29, 3) := dk_167 0 29 (dk_at dksX5_marks_1 14 rfl rfl)
theorem dX5_marks_40 : decode cX5_marks 40 = .ok (.aload_n 0, 1) := dk_42 (dk_at dksX5_marks_1 17 rfl rfl)
theorem dX5_marks_41 : decode cX5_marks 41 = .ok (.getfield 22, 3) := dk_180 0 22 (dk_at dksX5_marks_1 18 rfl rfl)
theorem dX5_marks_44 : decode cX5_marks 44 = .ok (.iload_n 1, 1) := dk_27 (dk_at dksX5_marks_1 21 rfl rfl)
theorem dX5_marks_45 : decode cX5_marks 45 = .ok (.iaload, 1) := dk_46 (dk_at dksX5_marks_1 22 rfl rfl)
theorem dX5_marks_46 : decode cX5_marks 46 = .ok (.iload_n 3, 1) := dk_29 (dk_at dksX5_marks_1 23 rfl rfl)
theorem dX5_marks_47 : decode cX5_marks 47 = .ok (.invokestatic 82, 3) := dk_184 0 82 (dk_at dksX5_marks_2 0 rfl rfl)
theorem dX5_marks_50 : decode cX5_marks 50 = .ok (.ifCond .eq 15, 3) := dk_153 0 15 (dk_at dksX5_marks_2 3 rfl rfl)
theorem dX5_marks_53 : decode cX5_marks 53 = .ok (.aload_n 0, 1) := dk_42 (dk_at dksX5_marks_2 6 rfl rfl)
theorem dX5_marks_54 : decode cX5_marks 54 = .ok (.getfield 3, 3) := dk_180 0 3 (dk_at dksX5_marks_2 7 rfl rfl)
theorem dX5_marks_57 : decode cX5_marks 57 = .ok (.iload_n 3, 1) := dk_29 (dk_at dksX5_marks_2 10 rfl rfl)
theorem dX5_marks_58 : decode cX5_marks 58 = .ok (.invokevirtual 86, 3) := dk_182 0 86 (dk_at dksX5_marks_2 11 rfl rfl)
theorem dX5_marks_61 : decode cX5_marks 61 = .ok (.ineg, 1) := dk_116 (dk_at dksX5_marks_2 14 rfl rfl)
theorem dX5_marks_62 : decode cX5_marks 62 = .ok (.goto 4, 3) := dk_167 0 4 (dk_at dksX5_marks_2 15 rfl rfl)
theorem dX5_marks_65 : decode cX5_marks 65 = .ok (.iconst 0, 1) := dk_3 (dk_at dksX5_marks_2 18 rfl rfl)
theorem dX5_marks_66 : decode cX5_marks 66 = .ok (.iadd, 1) := dk_96 (dk_at dksX5_marks_2 19 rfl rfl)
theorem dX5_marks_67 : decode cX5_marks 67 = .ok (.istore_n 2, 1) := dk_61 (dk_at dksX5_marks_2 20 rfl rfl)
theorem dX5_marks_68 : decode cX5_marks 68 = .ok (.iinc 3 1, 3) := dk_132 3 1 (dk_at dksX5_marks_2 21 rfl rfl)
theorem dX5_marks_71 : decode cX5_marks 71 = .ok (.goto (-67), 3) := dk_167 255 189 (dk_at dksX5_marks_3 0 rfl rfl)
theorem dX5_marks_74 : decode cX5_marks 74 = .ok (.iload_n 2, 1) := dk_28 (dk_at dksX5_marks_3 3 rfl rfl)
theorem dX5_marks_75 : decode cX5_marks 75 = .ok (.ireturn, 1) := dk_172 (dk_at dksX5_marks_3 4 rfl rfl)
abbrev cX5_lesson : ByteArray := prog_17_method_8_code
def yX5_lesson : MethodName := ⟨RX5, "lesson", "(I)I"⟩
def dkwX5_lesson_5 : List UInt8 := [180, 0, 53, 180, 0, 120, 27, 29, 182, 0, 124, 153, 0, 5, 29, 172, 132, 3, 1, 167, 255, 144, 2, 172]
abbrev dktX5_lesson_5 : List UInt8 := dkwX5_lesson_5 ++ []
def dkwX5_lesson_4 : List UInt8 := [21, 4, 153, 0, 37, 42, 180, 0, 3, 180, 0, 53, 180, 0, 120, 198, 0, 22, 42, 42, 180, 0, 3]
abbrev dktX5_lesson_4 : List UInt8 := dkwX5_lesson_4 ++ dktX5_lesson_5
def dkwX5_lesson_3 : List UInt8 := [153, 0, 20, 42, 180, 0, 22, 27, 46, 29, 184, 0, 82, 154, 0, 7, 4, 167, 0, 4, 3, 54, 4]
abbrev dktX5_lesson_3 : List UInt8 := dkwX5_lesson_3 ++ dktX5_lesson_4
def dkwX5_lesson_2 : List UInt8 := [180, 0, 19, 28, 46, 29, 184, 0, 82, 154, 0, 29, 42, 180, 0, 22, 28, 46, 29, 184, 0, 82]
abbrev dktX5_lesson_2 : List UInt8 := dkwX5_lesson_2 ++ dktX5_lesson_3
def dkwX5_lesson_1 : List UInt8 := [180, 0, 3, 182, 0, 79, 162, 0, 107, 42, 180, 0, 19, 27, 46, 29, 184, 0, 82, 154, 0, 46, 42]
abbrev dktX5_lesson_1 : List UInt8 := dkwX5_lesson_1 ++ dktX5_lesson_2
def dkwX5_lesson_0 : List UInt8 := [42, 180, 0, 15, 27, 46, 2, 160, 0, 5, 2, 172, 42, 180, 0, 15, 27, 46, 61, 3, 62, 29, 42]
abbrev dktX5_lesson_0 : List UInt8 := dkwX5_lesson_0 ++ dktX5_lesson_1
theorem dksX5_lesson_0 : cX5_lesson.data.toList.drop 0 = dktX5_lesson_0 := by decide +kernel
theorem dksX5_lesson_1 : cX5_lesson.data.toList.drop 23 = dktX5_lesson_1 := dk_seg dksX5_lesson_0 23 rfl rfl
theorem dksX5_lesson_2 : cX5_lesson.data.toList.drop 46 = dktX5_lesson_2 := dk_seg dksX5_lesson_1 23 rfl rfl
theorem dksX5_lesson_3 : cX5_lesson.data.toList.drop 68 = dktX5_lesson_3 := dk_seg dksX5_lesson_2 22 rfl rfl
theorem dksX5_lesson_4 : cX5_lesson.data.toList.drop 91 = dktX5_lesson_4 := dk_seg dksX5_lesson_3 23 rfl rfl
theorem dksX5_lesson_5 : cX5_lesson.data.toList.drop 114 = dktX5_lesson_5 := dk_seg dksX5_lesson_4 23 rfl rfl
theorem dX5_lesson_0 : decode cX5_lesson 0 = .ok (.aload_n 0, 1) := dk_42 (dk_at dksX5_lesson_0 0 rfl rfl)
theorem dX5_lesson_1 : decode cX5_lesson 1 = .ok (.getfield 15, 3) := dk_180 0 15 (dk_at dksX5_lesson_0 1 rfl rfl)
theorem dX5_lesson_4 : decode cX5_lesson 4 = .ok (.iload_n 1, 1) := dk_27 (dk_at dksX5_lesson_0 4 rfl rfl)
theorem dX5_lesson_5 : decode cX5_lesson 5 = .ok (.iaload, 1) := dk_46 (dk_at dksX5_lesson_0 5 rfl rfl)
theorem dX5_lesson_6 : decode cX5_lesson 6 = .ok (.iconst (-1), 1) := dk_2 (dk_at dksX5_lesson_0 6 rfl rfl)
theorem dX5_lesson_7 : decode cX5_lesson 7 = .ok (.if_icmp .ne 5, 3) := dk_160 0 5 (dk_at dksX5_lesson_0 7 rfl rfl)
theorem dX5_lesson_10 : decode cX5_lesson 10 = .ok (.iconst (-1), 1) := dk_2 (dk_at dksX5_lesson_0 10 rfl rfl)
theorem dX5_lesson_11 : decode cX5_lesson 11 = .ok (.ireturn, 1) := dk_172 (dk_at dksX5_lesson_0 11 rfl rfl)
theorem dX5_lesson_12 : decode cX5_lesson 12 = .ok (.aload_n 0, 1) := dk_42 (dk_at dksX5_lesson_0 12 rfl rfl)
theorem dX5_lesson_13 : decode cX5_lesson 13 = .ok (.getfield 15, 3) := dk_180 0 15 (dk_at dksX5_lesson_0 13 rfl rfl)
theorem dX5_lesson_16 : decode cX5_lesson 16 = .ok (.iload_n 1, 1) := dk_27 (dk_at dksX5_lesson_0 16 rfl rfl)
theorem dX5_lesson_17 : decode cX5_lesson 17 = .ok (.iaload, 1) := dk_46 (dk_at dksX5_lesson_0 17 rfl rfl)
theorem dX5_lesson_18 : decode cX5_lesson 18 = .ok (.istore_n 2, 1) := dk_61 (dk_at dksX5_lesson_0 18 rfl rfl)
theorem dX5_lesson_19 : decode cX5_lesson 19 = .ok (.iconst 0, 1) := dk_3 (dk_at dksX5_lesson_0 19 rfl rfl)
theorem dX5_lesson_20 : decode cX5_lesson 20 = .ok (.istore_n 3, 1) := dk_62 (dk_at dksX5_lesson_0 20 rfl rfl)
theorem dX5_lesson_21 : decode cX5_lesson 21 = .ok (.iload_n 3, 1) := dk_29 (dk_at dksX5_lesson_0 21 rfl rfl)
theorem dX5_lesson_22 : decode cX5_lesson 22 = .ok (.aload_n 0, 1) := dk_42 (dk_at dksX5_lesson_0 22 rfl rfl)
theorem dX5_lesson_23 : decode cX5_lesson 23 = .ok (.getfield 3, 3) := dk_180 0 3 (dk_at dksX5_lesson_1 0 rfl rfl)
theorem dX5_lesson_26 : decode cX5_lesson 26 = .ok (.invokevirtual 79, 3) := dk_182 0 79 (dk_at dksX5_lesson_1 3 rfl rfl)
theorem dX5_lesson_29 : decode cX5_lesson 29 = .ok (.if_icmp .ge 107, 3) := dk_162 0 107 (dk_at dksX5_lesson_1 6 rfl rfl)
theorem dX5_lesson_32 : decode cX5_lesson 32 = .ok (.aload_n 0, 1) := dk_42 (dk_at dksX5_lesson_1 9 rfl rfl)
theorem dX5_lesson_33 : decode cX5_lesson 33 = .ok (.getfield 19, 3) := dk_180 0 19 (dk_at dksX5_lesson_1 10 rfl rfl)
theorem dX5_lesson_36 : decode cX5_lesson 36 = .ok (.iload_n 1, 1) := dk_27 (dk_at dksX5_lesson_1 13 rfl rfl)
theorem dX5_lesson_37 : decode cX5_lesson 37 = .ok (.iaload, 1) := dk_46 (dk_at dksX5_lesson_1 14 rfl rfl)
theorem dX5_lesson_38 : decode cX5_lesson 38 = .ok (.iload_n 3, 1) := dk_29 (dk_at dksX5_lesson_1 15 rfl rfl)
theorem dX5_lesson_39 : decode cX5_lesson 39 = .ok (.invokestatic 82, 3) := dk_184 0 82 (dk_at dksX5_lesson_1 16 rfl rfl)
theorem dX5_lesson_42 : decode cX5_lesson 42 = .ok (.ifCond .ne 46, 3) := dk_154 0 46 (dk_at dksX5_lesson_1 19 rfl rfl)
theorem dX5_lesson_45 : decode cX5_lesson 45 = .ok (.aload_n 0, 1) := dk_42 (dk_at dksX5_lesson_1 22 rfl rfl)
theorem dX5_lesson_46 : decode cX5_lesson 46 = .ok (.getfield 19, 3) := dk_180 0 19 (dk_at dksX5_lesson_2 0 rfl rfl)
theorem dX5_lesson_49 : decode cX5_lesson 49 = .ok (.iload_n 2, 1) := dk_28 (dk_at dksX5_lesson_2 3 rfl rfl)
theorem dX5_lesson_50 : decode cX5_lesson 50 = .ok (.iaload, 1) := dk_46 (dk_at dksX5_lesson_2 4 rfl rfl)
theorem dX5_lesson_51 : decode cX5_lesson 51 = .ok (.iload_n 3, 1) := dk_29 (dk_at dksX5_lesson_2 5 rfl rfl)
theorem dX5_lesson_52 : decode cX5_lesson 52 = .ok (.invokestatic 82, 3) := dk_184 0 82 (dk_at dksX5_lesson_2 6 rfl rfl)
theorem dX5_lesson_55 : decode cX5_lesson 55 = .ok (.ifCond .ne 29, 3) := dk_154 0 29 (dk_at dksX5_lesson_2 9 rfl rfl)
theorem dX5_lesson_58 : decode cX5_lesson 58 = .ok (.aload_n 0, 1) := dk_42 (dk_at dksX5_lesson_2 12 rfl rfl)
theorem dX5_lesson_59 : decode cX5_lesson 59 = .ok (.getfield 22, 3) := dk_180 0 22 (dk_at dksX5_lesson_2 13 rfl rfl)
theorem dX5_lesson_62 : decode cX5_lesson 62 = .ok (.iload_n 2, 1) := dk_28 (dk_at dksX5_lesson_2 16 rfl rfl)
theorem dX5_lesson_63 : decode cX5_lesson 63 = .ok (.iaload, 1) := dk_46 (dk_at dksX5_lesson_2 17 rfl rfl)
theorem dX5_lesson_64 : decode cX5_lesson 64 = .ok (.iload_n 3, 1) := dk_29 (dk_at dksX5_lesson_2 18 rfl rfl)
theorem dX5_lesson_65 : decode cX5_lesson 65 = .ok (.invokestatic 82, 3) := dk_184 0 82 (dk_at dksX5_lesson_2 19 rfl rfl)
theorem dX5_lesson_68 : decode cX5_lesson 68 = .ok (.ifCond .eq 20, 3) := dk_153 0 20 (dk_at dksX5_lesson_3 0 rfl rfl)
theorem dX5_lesson_71 : decode cX5_lesson 71 = .ok (.aload_n 0, 1) := dk_42 (dk_at dksX5_lesson_3 3 rfl rfl)
theorem dX5_lesson_72 : decode cX5_lesson 72 = .ok (.getfield 22, 3) := dk_180 0 22 (dk_at dksX5_lesson_3 4 rfl rfl)
theorem dX5_lesson_75 : decode cX5_lesson 75 = .ok (.iload_n 1, 1) := dk_27 (dk_at dksX5_lesson_3 7 rfl rfl)
theorem dX5_lesson_76 : decode cX5_lesson 76 = .ok (.iaload, 1) := dk_46 (dk_at dksX5_lesson_3 8 rfl rfl)
theorem dX5_lesson_77 : decode cX5_lesson 77 = .ok (.iload_n 3, 1) := dk_29 (dk_at dksX5_lesson_3 9 rfl rfl)
theorem dX5_lesson_78 : decode cX5_lesson 78 = .ok (.invokestatic 82, 3) := dk_184 0 82 (dk_at dksX5_lesson_3 10 rfl rfl)
theorem dX5_lesson_81 : decode cX5_lesson 81 = .ok (.ifCond .ne 7, 3) := dk_154 0 7 (dk_at dksX5_lesson_3 13 rfl rfl)
theorem dX5_lesson_84 : decode cX5_lesson 84 = .ok (.iconst 1, 1) := dk_4 (dk_at dksX5_lesson_3 16 rfl rfl)
theorem dX5_lesson_85 : decode cX5_lesson 85 = .ok (.goto 4, 3) := dk_167 0 4 (dk_at dksX5_lesson_3 17 rfl rfl)
theorem dX5_lesson_88 : decode cX5_lesson 88 = .ok (.iconst 0, 1) := dk_3 (dk_at dksX5_lesson_3 20 rfl rfl)
theorem dX5_lesson_89 : decode cX5_lesson 89 = .ok (.istore 4, 2) := dk_54 4 (dk_at dksX5_lesson_3 21 rfl rfl)
theorem dX5_lesson_91 : decode cX5_lesson 91 = .ok (.iload 4, 2) := dk_21 4 (dk_at dksX5_lesson_4 0 rfl rfl)
theorem dX5_lesson_93 : decode cX5_lesson 93 = .ok (.ifCond .eq 37, 3) := dk_153 0 37 (dk_at dksX5_lesson_4 2 rfl rfl)
theorem dX5_lesson_96 : decode cX5_lesson 96 = .ok (.aload_n 0, 1) := dk_42 (dk_at dksX5_lesson_4 5 rfl rfl)
theorem dX5_lesson_97 : decode cX5_lesson 97 = .ok (.getfield 3, 3) := dk_180 0 3 (dk_at dksX5_lesson_4 6 rfl rfl)
theorem dX5_lesson_100 : decode cX5_lesson 100 = .ok (.getfield 53, 3) := dk_180 0 53 (dk_at dksX5_lesson_4 9 rfl rfl)
theorem dX5_lesson_103 : decode cX5_lesson 103 = .ok (.getfield 120, 3) := dk_180 0 120 (dk_at dksX5_lesson_4 12 rfl rfl)
theorem dX5_lesson_106 : decode cX5_lesson 106 = .ok (.ifnull 22, 3) := dk_198 0 22 (dk_at dksX5_lesson_4 15 rfl rfl)
theorem dX5_lesson_109 : decode cX5_lesson 109 = .ok (.aload_n 0, 1) := dk_42 (dk_at dksX5_lesson_4 18 rfl rfl)
theorem dX5_lesson_110 : decode cX5_lesson 110 = .ok (.aload_n 0, 1) := dk_42 (dk_at dksX5_lesson_4 19 rfl rfl)
theorem dX5_lesson_111 : decode cX5_lesson 111 = .ok (.getfield 3, 3) := dk_180 0 3 (dk_at dksX5_lesson_4 20 rfl rfl)
theorem dX5_lesson_114 : decode cX5_lesson 114 = .ok (.getfield 53, 3) := dk_180 0 53 (dk_at dksX5_lesson_5 0 rfl rfl)
theorem dX5_lesson_117 : decode cX5_lesson 117 = .ok (.getfield 120, 3) := dk_180 0 120 (dk_at dksX5_lesson_5 3 rfl rfl)
theorem dX5_lesson_120 : decode cX5_lesson 120 = .ok (.iload_n 1, 1) := dk_27 (dk_at dksX5_lesson_5 6 rfl rfl)
theorem dX5_lesson_121 : decode cX5_lesson 121 = .ok (.iload_n 3, 1) := dk_29 (dk_at dksX5_lesson_5 7 rfl rfl)
theorem dX5_lesson_122 : decode cX5_lesson 122 = .ok (.invokevirtual 124, 3) := dk_182 0 124 (dk_at dksX5_lesson_5 8 rfl rfl)
theorem dX5_lesson_125 : decode cX5_lesson 125 = .ok (.ifCond .eq 5, 3) := dk_153 0 5 (dk_at dksX5_lesson_5 11 rfl rfl)
theorem dX5_lesson_128 : decode cX5_lesson 128 = .ok (.iload_n 3, 1) := dk_29 (dk_at dksX5_lesson_5 14 rfl rfl)
theorem dX5_lesson_129 : decode cX5_lesson 129 = .ok (.ireturn, 1) := dk_172 (dk_at dksX5_lesson_5 15 rfl rfl)
theorem dX5_lesson_130 : decode cX5_lesson 130 = .ok (.iinc 3 1, 3) := dk_132 3 1 (dk_at dksX5_lesson_5 16 rfl rfl)
theorem dX5_lesson_133 : decode cX5_lesson 133 = .ok (.goto (-112), 3) := dk_167 255 144 (dk_at dksX5_lesson_5 19 rfl rfl)
theorem dX5_lesson_136 : decode cX5_lesson 136 = .ok (.iconst (-1), 1) := dk_2 (dk_at dksX5_lesson_5 22 rfl rfl)
theorem dX5_lesson_137 : decode cX5_lesson 137 = .ok (.ireturn, 1) := dk_172 (dk_at dksX5_lesson_5 23 rfl rfl)
abbrev cX5_holds : ByteArray := prog_17_method_7_code
def yX5_holds : MethodName := ⟨RX5, "holds", "(LPupilsPupil$Test;II)Z"⟩
def dkwX5_holds_9 : List UInt8 := [180, 0, 3, 180, 0, 90, 182, 0, 114, 172]
abbrev dktX5_holds_9 : List UInt8 := dkwX5_holds_9 ++ []
def dkwX5_holds_8 : List UInt8 := [80, 42, 180, 0, 3, 180, 0, 90, 180, 0, 94, 16, 8, 42, 28, 182, 0, 111, 133, 80, 43, 42]
abbrev dktX5_holds_8 : List UInt8 := dkwX5_holds_8 ++ dktX5_holds_9
def dkwX5_holds_7 : List UInt8 := [133, 80, 167, 0, 42, 42, 180, 0, 3, 180, 0, 90, 180, 0, 94, 16, 7, 42, 180, 0, 25, 28, 46, 133]
abbrev dktX5_holds_7 : List UInt8 := dkwX5_holds_7 ++ dktX5_holds_8
def dkwX5_holds_6 : List UInt8 := [180, 0, 3, 180, 0, 90, 180, 0, 94, 16, 6, 42, 180, 0, 3, 42, 180, 0, 15, 28, 46, 182, 0, 100]
abbrev dktX5_holds_6 : List UInt8 := dkwX5_holds_6 ++ dktX5_holds_7
def dkwX5_holds_5 : List UInt8 := [180, 0, 90, 180, 0, 94, 8, 42, 42, 180, 0, 15, 28, 46, 182, 0, 108, 184, 0, 103, 133, 80, 42]
abbrev dktX5_holds_5 : List UInt8 := dkwX5_holds_5 ++ dktX5_holds_6
def dkwX5_holds_4 : List UInt8 := [180, 0, 3, 180, 0, 90, 180, 0, 94, 7, 42, 180, 0, 3, 29, 182, 0, 86, 133, 80, 42, 180, 0, 3]
abbrev dktX5_holds_4 : List UInt8 := dkwX5_holds_4 ++ dktX5_holds_5
def dkwX5_holds_3 : List UInt8 := [180, 0, 3, 180, 0, 90, 180, 0, 94, 6, 42, 180, 0, 36, 133, 80, 29, 2, 159, 0, 80, 42]
abbrev dktX5_holds_3 : List UInt8 := dkwX5_holds_3 ++ dktX5_holds_4
def dkwX5_holds_2 : List UInt8 := [180, 0, 3, 180, 0, 90, 180, 0, 94, 5, 42, 180, 0, 22, 28, 46, 184, 0, 103, 133, 80, 42]
abbrev dktX5_holds_2 : List UInt8 := dkwX5_holds_2 ++ dktX5_holds_3
def dkwX5_holds_1 : List UInt8 := [180, 0, 3, 180, 0, 90, 180, 0, 94, 4, 42, 180, 0, 19, 28, 46, 184, 0, 103, 133, 80, 42]
abbrev dktX5_holds_1 : List UInt8 := dkwX5_holds_1 ++ dktX5_holds_2
def dkwX5_holds_0 : List UInt8 := [42, 180, 0, 3, 180, 0, 90, 180, 0, 94, 3, 42, 180, 0, 3, 28, 182, 0, 100, 133, 80, 42]
abbrev dktX5_holds_0 : List UInt8 := dkwX5_holds_0 ++ dktX5_holds_1
theorem dksX5_holds_0 : cX5_holds.data.toList.drop 0 = dktX5_holds_0 := by decide +kernel
theorem dksX5_holds_1 : cX5_holds.data.toList.drop 22 = dktX5_holds_1 := dk_seg dksX5_holds_0 22 rfl rfl
theorem dksX5_holds_2 : cX5_holds.data.toList.drop 44 = dktX5_holds_2 := dk_seg dksX5_holds_1 22 rfl rfl
theorem dksX5_holds_3 : cX5_holds.data.toList.drop 66 = dktX5_holds_3 := dk_seg dksX5_holds_2 22 rfl rfl
theorem dksX5_holds_4 : cX5_holds.data.toList.drop 88 = dktX5_holds_4 := dk_seg dksX5_holds_3 22 rfl rfl
theorem dksX5_holds_5 : cX5_holds.data.toList.drop 112 = dktX5_holds_5 := dk_seg dksX5_holds_4 24 rfl rfl
theorem dksX5_holds_6 : cX5_holds.data.toList.drop 135 = dktX5_holds_6 := dk_seg dksX5_holds_5 23 rfl rfl
theorem dksX5_holds_7 : cX5_holds.data.toList.drop 159 = dktX5_holds_7 := dk_seg dksX5_holds_6 24 rfl rfl
theorem dksX5_holds_8 : cX5_holds.data.toList.drop 183 = dktX5_holds_8 := dk_seg dksX5_holds_7 24 rfl rfl
theorem dksX5_holds_9 : cX5_holds.data.toList.drop 205 = dktX5_holds_9 := dk_seg dksX5_holds_8 22 rfl rfl
theorem dX5_holds_0 : decode cX5_holds 0 = .ok (.aload_n 0, 1) := dk_42 (dk_at dksX5_holds_0 0 rfl rfl)
theorem dX5_holds_1 : decode cX5_holds 1 = .ok (.getfield 3, 3) := dk_180 0 3 (dk_at dksX5_holds_0 1 rfl rfl)
theorem dX5_holds_4 : decode cX5_holds 4 = .ok (.getfield 90, 3) := dk_180 0 90 (dk_at dksX5_holds_0 4 rfl rfl)
theorem dX5_holds_7 : decode cX5_holds 7 = .ok (.getfield 94, 3) := dk_180 0 94 (dk_at dksX5_holds_0 7 rfl rfl)
theorem dX5_holds_10 : decode cX5_holds 10 = .ok (.iconst 0, 1) := dk_3 (dk_at dksX5_holds_0 10 rfl rfl)
theorem dX5_holds_11 : decode cX5_holds 11 = .ok (.aload_n 0, 1) := dk_42 (dk_at dksX5_holds_0 11 rfl rfl)
theorem dX5_holds_12 : decode cX5_holds 12 = .ok (.getfield 3, 3) := dk_180 0 3 (dk_at dksX5_holds_0 12 rfl rfl)
theorem dX5_holds_15 : decode cX5_holds 15 = .ok (.iload_n 2, 1) := dk_28 (dk_at dksX5_holds_0 15 rfl rfl)
theorem dX5_holds_16 : decode cX5_holds 16 = .ok (.invokevirtual 100, 3) := dk_182 0 100 (dk_at dksX5_holds_0 16 rfl rfl)
theorem dX5_holds_19 : decode cX5_holds 19 = .ok (.i2l, 1) := dk_133 (dk_at dksX5_holds_0 19 rfl rfl)
theorem dX5_holds_20 : decode cX5_holds 20 = .ok (.lastore, 1) := dk_80 (dk_at dksX5_holds_0 20 rfl rfl)
theorem dX5_holds_21 : decode cX5_holds 21 = .ok (.aload_n 0, 1) := dk_42 (dk_at dksX5_holds_0 21 rfl rfl)
theorem dX5_holds_22 : decode cX5_holds 22 = .ok (.getfield 3, 3) := dk_180 0 3 (dk_at dksX5_holds_1 0 rfl rfl)
theorem dX5_holds_25 : decode cX5_holds 25 = .ok (.getfield 90, 3) := dk_180 0 90 (dk_at dksX5_holds_1 3 rfl rfl)
theorem dX5_holds_28 : decode cX5_holds 28 = .ok (.getfield 94, 3) := dk_180 0 94 (dk_at dksX5_holds_1 6 rfl rfl)
theorem dX5_holds_31 : decode cX5_holds 31 = .ok (.iconst 1, 1) := dk_4 (dk_at dksX5_holds_1 9 rfl rfl)
theorem dX5_holds_32 : decode cX5_holds 32 = .ok (.aload_n 0, 1) := dk_42 (dk_at dksX5_holds_1 10 rfl rfl)
theorem dX5_holds_33 : decode cX5_holds 33 = .ok (.getfield 19, 3) := dk_180 0 19 (dk_at dksX5_holds_1 11 rfl rfl)
theorem dX5_holds_36 : decode cX5_holds 36 = .ok (.iload_n 2, 1) := dk_28 (dk_at dksX5_holds_1 14 rfl rfl)
theorem dX5_holds_37 : decode cX5_holds 37 = .ok (.iaload, 1) := dk_46 (dk_at dksX5_holds_1 15 rfl rfl)
theorem dX5_holds_38 : decode cX5_holds 38 = .ok (.invokestatic 103, 3) := dk_184 0 103 (dk_at dksX5_holds_1 16 rfl rfl)
theorem dX5_holds_41 : decode cX5_holds 41 = .ok (.i2l, 1) := dk_133 (dk_at dksX5_holds_1 19 rfl rfl)
theorem dX5_holds_42 : decode cX5_holds 42 = .ok (.lastore, 1) := dk_80 (dk_at dksX5_holds_1 20 rfl rfl)
theorem dX5_holds_43 : decode cX5_holds 43 = .ok (.aload_n 0, 1) := dk_42 (dk_at dksX5_holds_1 21 rfl rfl)
theorem dX5_holds_44 : decode cX5_holds 44 = .ok (.getfield 3, 3) := dk_180 0 3 (dk_at dksX5_holds_2 0 rfl rfl)
theorem dX5_holds_47 : decode cX5_holds 47 = .ok (.getfield 90, 3) := dk_180 0 90 (dk_at dksX5_holds_2 3 rfl rfl)
theorem dX5_holds_50 : decode cX5_holds 50 = .ok (.getfield 94, 3) := dk_180 0 94 (dk_at dksX5_holds_2 6 rfl rfl)
theorem dX5_holds_53 : decode cX5_holds 53 = .ok (.iconst 2, 1) := dk_5 (dk_at dksX5_holds_2 9 rfl rfl)
theorem dX5_holds_54 : decode cX5_holds 54 = .ok (.aload_n 0, 1) := dk_42 (dk_at dksX5_holds_2 10 rfl rfl)
theorem dX5_holds_55 : decode cX5_holds 55 = .ok (.getfield 22, 3) := dk_180 0 22 (dk_at dksX5_holds_2 11 rfl rfl)
theorem dX5_holds_58 : decode cX5_holds 58 = .ok (.iload_n 2, 1) := dk_28 (dk_at dksX5_holds_2 14 rfl rfl)
theorem dX5_holds_59 : decode cX5_holds 59 = .ok (.iaload, 1) := dk_46 (dk_at dksX5_holds_2 15 rfl rfl)
theorem dX5_holds_60 : decode cX5_holds 60 = .ok (.invokestatic 103, 3) := dk_184 0 103 (dk_at dksX5_holds_2 16 rfl rfl)
theorem dX5_holds_63 : decode cX5_holds 63 = .ok (.i2l, 1) := dk_133 (dk_at dksX5_holds_2 19 rfl rfl)
theorem dX5_holds_64 : decode cX5_holds 64 = .ok (.lastore, 1) := dk_80 (dk_at dksX5_holds_2 20 rfl rfl)
theorem dX5_holds_65 : decode cX5_holds 65 = .ok (.aload_n 0, 1) := dk_42 (dk_at dksX5_holds_2 21 rfl rfl)
theorem dX5_holds_66 : decode cX5_holds 66 = .ok (.getfield 3, 3) := dk_180 0 3 (dk_at dksX5_holds_3 0 rfl rfl)
theorem dX5_holds_69 : decode cX5_holds 69 = .ok (.getfield 90, 3) := dk_180 0 90 (dk_at dksX5_holds_3 3 rfl rfl)
theorem dX5_holds_72 : decode cX5_holds 72 = .ok (.getfield 94, 3) := dk_180 0 94 (dk_at dksX5_holds_3 6 rfl rfl)
theorem dX5_holds_75 : decode cX5_holds 75 = .ok (.iconst 3, 1) := dk_6 (dk_at dksX5_holds_3 9 rfl rfl)
theorem dX5_holds_76 : decode cX5_holds 76 = .ok (.aload_n 0, 1) := dk_42 (dk_at dksX5_holds_3 10 rfl rfl)
theorem dX5_holds_77 : decode cX5_holds 77 = .ok (.getfield 36, 3) := dk_180 0 36 (dk_at dksX5_holds_3 11 rfl rfl)
theorem dX5_holds_80 : decode cX5_holds 80 = .ok (.i2l, 1) := dk_133 (dk_at dksX5_holds_3 14 rfl rfl)
theorem dX5_holds_81 : decode cX5_holds 81 = .ok (.lastore, 1) := dk_80 (dk_at dksX5_holds_3 15 rfl rfl)
theorem dX5_holds_82 : decode cX5_holds 82 = .ok (.iload_n 3, 1) := dk_29 (dk_at dksX5_holds_3 16 rfl rfl)
theorem dX5_holds_83 : decode cX5_holds 83 = .ok (.iconst (-1), 1) := dk_2 (dk_at dksX5_holds_3 17 rfl rfl)
theorem dX5_holds_84 : decode cX5_holds 84 = .ok (.if_icmp .eq 80, 3) := dk_159 0 80 (dk_at dksX5_holds_3 18 rfl rfl)
theorem dX5_holds_87 : decode cX5_holds 87 = .ok (.aload_n 0, 1) := dk_42 (dk_at dksX5_holds_3 21 rfl rfl)
theorem dX5_holds_88 : decode cX5_holds 88 = .ok (.getfield 3, 3) := dk_180 0 3 (dk_at dksX5_holds_4 0 rfl rfl)
theorem dX5_holds_91 : decode cX5_holds 91 = .ok (.getfield 90, 3) := dk_180 0 90 (dk_at dksX5_holds_4 3 rfl rfl)
theorem dX5_holds_94 : decode cX5_holds 94 = .ok (.getfield 94, 3) := dk_180 0 94 (dk_at dksX5_holds_4 6 rfl rfl)
theorem dX5_holds_97 : decode cX5_holds 97 = .ok (.iconst 4, 1) := dk_7 (dk_at dksX5_holds_4 9 rfl rfl)
theorem dX5_holds_98 : decode cX5_holds 98 = .ok (.aload_n 0, 1) := dk_42 (dk_at dksX5_holds_4 10 rfl rfl)
theorem dX5_holds_99 : decode cX5_holds 99 = .ok (.getfield 3, 3) := dk_180 0 3 (dk_at dksX5_holds_4 11 rfl rfl)
theorem dX5_holds_102 : decode cX5_holds 102 = .ok (.iload_n 3, 1) := dk_29 (dk_at dksX5_holds_4 14 rfl rfl)
theorem dX5_holds_103 : decode cX5_holds 103 = .ok (.invokevirtual 86, 3) := dk_182 0 86 (dk_at dksX5_holds_4 15 rfl rfl)
theorem dX5_holds_106 : decode cX5_holds 106 = .ok (.i2l, 1) := dk_133 (dk_at dksX5_holds_4 18 rfl rfl)
theorem dX5_holds_107 : decode cX5_holds 107 = .ok (.lastore, 1) := dk_80 (dk_at dksX5_holds_4 19 rfl rfl)
theorem dX5_holds_108 : decode cX5_holds 108 = .ok (.aload_n 0, 1) := dk_42 (dk_at dksX5_holds_4 20 rfl rfl)
theorem dX5_holds_109 : decode cX5_holds 109 = .ok (.getfield 3, 3) := dk_180 0 3 (dk_at dksX5_holds_4 21 rfl rfl)
theorem dX5_holds_112 : decode cX5_holds 112 = .ok (.getfield 90, 3) := dk_180 0 90 (dk_at dksX5_holds_5 0 rfl rfl)
theorem dX5_holds_115 : decode cX5_holds 115 = .ok (.getfield 94, 3) := dk_180 0 94 (dk_at dksX5_holds_5 3 rfl rfl)
theorem dX5_holds_118 : decode cX5_holds 118 = .ok (.iconst 5, 1) := dk_8 (dk_at dksX5_holds_5 6 rfl rfl)
theorem dX5_holds_119 : decode cX5_holds 119 = .ok (.aload_n 0, 1) := dk_42 (dk_at dksX5_holds_5 7 rfl rfl)
theorem dX5_holds_120 : decode cX5_holds 120 = .ok (.aload_n 0, 1) := dk_42 (dk_at dksX5_holds_5 8 rfl rfl)
theorem dX5_holds_121 : decode cX5_holds 121 = .ok (.getfield 15, 3) := dk_180 0 15 (dk_at dksX5_holds_5 9 rfl rfl)
theorem dX5_holds_124 : decode cX5_holds 124 = .ok (.iload_n 2, 1) := dk_28 (dk_at dksX5_holds_5 12 rfl rfl)
theorem dX5_holds_125 : decode cX5_holds 125 = .ok (.iaload, 1) := dk_46 (dk_at dksX5_holds_5 13 rfl rfl)
theorem dX5_holds_126 : decode cX5_holds 126 = .ok (.invokevirtual 108, 3) := dk_182 0 108 (dk_at dksX5_holds_5 14 rfl rfl)
theorem dX5_holds_129 : decode cX5_holds 129 = .ok (.invokestatic 103, 3) := dk_184 0 103 (dk_at dksX5_holds_5 17 rfl rfl)
theorem dX5_holds_132 : decode cX5_holds 132 = .ok (.i2l, 1) := dk_133 (dk_at dksX5_holds_5 20 rfl rfl)
theorem dX5_holds_133 : decode cX5_holds 133 = .ok (.lastore, 1) := dk_80 (dk_at dksX5_holds_5 21 rfl rfl)
theorem dX5_holds_134 : decode cX5_holds 134 = .ok (.aload_n 0, 1) := dk_42 (dk_at dksX5_holds_5 22 rfl rfl)
theorem dX5_holds_135 : decode cX5_holds 135 = .ok (.getfield 3, 3) := dk_180 0 3 (dk_at dksX5_holds_6 0 rfl rfl)
theorem dX5_holds_138 : decode cX5_holds 138 = .ok (.getfield 90, 3) := dk_180 0 90 (dk_at dksX5_holds_6 3 rfl rfl)
theorem dX5_holds_141 : decode cX5_holds 141 = .ok (.getfield 94, 3) := dk_180 0 94 (dk_at dksX5_holds_6 6 rfl rfl)
theorem dX5_holds_144 : decode cX5_holds 144 = .ok (.bipush 6, 2) := dk_16 6 (dk_at dksX5_holds_6 9 rfl rfl)
theorem dX5_holds_146 : decode cX5_holds 146 = .ok (.aload_n 0, 1) := dk_42 (dk_at dksX5_holds_6 11 rfl rfl)
theorem dX5_holds_147 : decode cX5_holds 147 = .ok (.getfield 3, 3) := dk_180 0 3 (dk_at dksX5_holds_6 12 rfl rfl)
theorem dX5_holds_150 : decode cX5_holds 150 = .ok (.aload_n 0, 1) := dk_42 (dk_at dksX5_holds_6 15 rfl rfl)
theorem dX5_holds_151 : decode cX5_holds 151 = .ok (.getfield 15, 3) := dk_180 0 15 (dk_at dksX5_holds_6 16 rfl rfl)
theorem dX5_holds_154 : decode cX5_holds 154 = .ok (.iload_n 2, 1) := dk_28 (dk_at dksX5_holds_6 19 rfl rfl)
theorem dX5_holds_155 : decode cX5_holds 155 = .ok (.iaload, 1) := dk_46 (dk_at dksX5_holds_6 20 rfl rfl)
theorem dX5_holds_156 : decode cX5_holds 156 = .ok (.invokevirtual 100, 3) := dk_182 0 100 (dk_at dksX5_holds_6 21 rfl rfl)
theorem dX5_holds_159 : decode cX5_holds 159 = .ok (.i2l, 1) := dk_133 (dk_at dksX5_holds_7 0 rfl rfl)
theorem dX5_holds_160 : decode cX5_holds 160 = .ok (.lastore, 1) := dk_80 (dk_at dksX5_holds_7 1 rfl rfl)
theorem dX5_holds_161 : decode cX5_holds 161 = .ok (.goto 42, 3) := dk_167 0 42 (dk_at dksX5_holds_7 2 rfl rfl)
theorem dX5_holds_164 : decode cX5_holds 164 = .ok (.aload_n 0, 1) := dk_42 (dk_at dksX5_holds_7 5 rfl rfl)
theorem dX5_holds_165 : decode cX5_holds 165 = .ok (.getfield 3, 3) := dk_180 0 3 (dk_at dksX5_holds_7 6 rfl rfl)
theorem dX5_holds_168 : decode cX5_holds 168 = .ok (.getfield 90, 3) := dk_180 0 90 (dk_at dksX5_holds_7 9 rfl rfl)
theorem dX5_holds_171 : decode cX5_holds 171 = .ok (.getfield 94, 3) := dk_180 0 94 (dk_at dksX5_holds_7 12 rfl rfl)
theorem dX5_holds_174 : decode cX5_holds 174 = .ok (.bipush 7, 2) := dk_16 7 (dk_at dksX5_holds_7 15 rfl rfl)
theorem dX5_holds_176 : decode cX5_holds 176 = .ok (.aload_n 0, 1) := dk_42 (dk_at dksX5_holds_7 17 rfl rfl)
theorem dX5_holds_177 : decode cX5_holds 177 = .ok (.getfield 25, 3) := dk_180 0 25 (dk_at dksX5_holds_7 18 rfl rfl)
theorem dX5_holds_180 : decode cX5_holds 180 = .ok (.iload_n 2, 1) := dk_28 (dk_at dksX5_holds_7 21 rfl rfl)
theorem dX5_holds_181 : decode cX5_holds 181 = .ok (.iaload, 1) := dk_46 (dk_at dksX5_holds_7 22 rfl rfl)
theorem dX5_holds_182 : decode cX5_holds 182 = .ok (.i2l, 1) := dk_133 (dk_at dksX5_holds_7 23 rfl rfl)
theorem dX5_holds_183 : decode cX5_holds 183 = .ok (.lastore, 1) := dk_80 (dk_at dksX5_holds_8 0 rfl rfl)
theorem dX5_holds_184 : decode cX5_holds 184 = .ok (.aload_n 0, 1) := dk_42 (dk_at dksX5_holds_8 1 rfl rfl)
theorem dX5_holds_185 : decode cX5_holds 185 = .ok (.getfield 3, 3) := dk_180 0 3 (dk_at dksX5_holds_8 2 rfl rfl)
theorem dX5_holds_188 : decode cX5_holds 188 = .ok (.getfield 90, 3) := dk_180 0 90 (dk_at dksX5_holds_8 5 rfl rfl)
theorem dX5_holds_191 : decode cX5_holds 191 = .ok (.getfield 94, 3) := dk_180 0 94 (dk_at dksX5_holds_8 8 rfl rfl)
theorem dX5_holds_194 : decode cX5_holds 194 = .ok (.bipush 8, 2) := dk_16 8 (dk_at dksX5_holds_8 11 rfl rfl)
theorem dX5_holds_196 : decode cX5_holds 196 = .ok (.aload_n 0, 1) := dk_42 (dk_at dksX5_holds_8 13 rfl rfl)
theorem dX5_holds_197 : decode cX5_holds 197 = .ok (.iload_n 2, 1) := dk_28 (dk_at dksX5_holds_8 14 rfl rfl)
theorem dX5_holds_198 : decode cX5_holds 198 = .ok (.invokevirtual 111, 3) := dk_182 0 111 (dk_at dksX5_holds_8 15 rfl rfl)
theorem dX5_holds_201 : decode cX5_holds 201 = .ok (.i2l, 1) := dk_133 (dk_at dksX5_holds_8 18 rfl rfl)
theorem dX5_holds_202 : decode cX5_holds 202 = .ok (.lastore, 1) := dk_80 (dk_at dksX5_holds_8 19 rfl rfl)
theorem dX5_holds_203 : decode cX5_holds 203 = .ok (.aload_n 1, 1) := dk_43 (dk_at dksX5_holds_8 20 rfl rfl)
theorem dX5_holds_204 : decode cX5_holds 204 = .ok (.aload_n 0, 1) := dk_42 (dk_at dksX5_holds_8 21 rfl rfl)
theorem dX5_holds_205 : decode cX5_holds 205 = .ok (.getfield 3, 3) := dk_180 0 3 (dk_at dksX5_holds_9 0 rfl rfl)
theorem dX5_holds_208 : decode cX5_holds 208 = .ok (.getfield 90, 3) := dk_180 0 90 (dk_at dksX5_holds_9 3 rfl rfl)
theorem dX5_holds_211 : decode cX5_holds 211 = .ok (.invokevirtual 114, 3) := dk_182 0 114 (dk_at dksX5_holds_9 6 rfl rfl)
theorem dX5_holds_214 : decode cX5_holds 214 = .ok (.ireturn, 1) := dk_172 (dk_at dksX5_holds_9 9 rfl rfl)
abbrev cX5_copy : ByteArray := prog_17_method_3_code
def yX5_copy : MethodName := ⟨RX5, "copy", "(LPupilsPupil$State;)LPupilsPupil$State;"⟩
def dkwX5_copy_5 : List UInt8 := [43, 180, 0, 30, 28, 50, 29, 46, 79, 132, 3, 1, 167, 255, 232, 132, 2, 1, 167, 255, 216, 42, 176]
abbrev dktX5_copy_5 : List UInt8 := dkwX5_copy_5 ++ []
def dkwX5_copy_4 : List UInt8 := [3, 61, 28, 42, 180, 0, 46, 162, 0, 38, 3, 62, 29, 6, 162, 0, 25, 42, 180, 0, 30, 28, 50, 29]
abbrev dktX5_copy_4 : List UInt8 := dkwX5_copy_4 ++ dktX5_copy_5
def dkwX5_copy_3 : List UInt8 := [180, 0, 22, 28, 46, 79, 42, 180, 0, 25, 28, 43, 180, 0, 25, 28, 46, 79, 132, 2, 1, 167, 255, 199]
abbrev dktX5_copy_3 : List UInt8 := dkwX5_copy_3 ++ dktX5_copy_4
def dkwX5_copy_2 : List UInt8 := [180, 0, 15, 28, 46, 79, 42, 180, 0, 19, 28, 43, 180, 0, 19, 28, 46, 79, 42, 180, 0, 22, 28, 43]
abbrev dktX5_copy_2 : List UInt8 := dkwX5_copy_2 ++ dktX5_copy_3
def dkwX5_copy_1 : List UInt8 := [42, 43, 180, 0, 46, 181, 0, 46, 3, 61, 28, 16, 8, 162, 0, 57, 42, 180, 0, 15, 28, 43]
abbrev dktX5_copy_1 : List UInt8 := dkwX5_copy_1 ++ dktX5_copy_2
def dkwX5_copy_0 : List UInt8 := [42, 43, 180, 0, 36, 181, 0, 36, 42, 43, 180, 0, 40, 181, 0, 40, 42, 43, 180, 0, 43, 181, 0, 43]
abbrev dktX5_copy_0 : List UInt8 := dkwX5_copy_0 ++ dktX5_copy_1
theorem dksX5_copy_0 : cX5_copy.data.toList.drop 0 = dktX5_copy_0 := by decide +kernel
theorem dksX5_copy_1 : cX5_copy.data.toList.drop 24 = dktX5_copy_1 := dk_seg dksX5_copy_0 24 rfl rfl
theorem dksX5_copy_2 : cX5_copy.data.toList.drop 46 = dktX5_copy_2 := dk_seg dksX5_copy_1 22 rfl rfl
theorem dksX5_copy_3 : cX5_copy.data.toList.drop 70 = dktX5_copy_3 := dk_seg dksX5_copy_2 24 rfl rfl
theorem dksX5_copy_4 : cX5_copy.data.toList.drop 94 = dktX5_copy_4 := dk_seg dksX5_copy_3 24 rfl rfl
theorem dksX5_copy_5 : cX5_copy.data.toList.drop 118 = dktX5_copy_5 := dk_seg dksX5_copy_4 24 rfl rfl
theorem dX5_copy_0 : decode cX5_copy 0 = .ok (.aload_n 0, 1) := dk_42 (dk_at dksX5_copy_0 0 rfl rfl)
theorem dX5_copy_1 : decode cX5_copy 1 = .ok (.aload_n 1, 1) := dk_43 (dk_at dksX5_copy_0 1 rfl rfl)
theorem dX5_copy_2 : decode cX5_copy 2 = .ok (.getfield 36, 3) := dk_180 0 36 (dk_at dksX5_copy_0 2 rfl rfl)
theorem dX5_copy_5 : decode cX5_copy 5 = .ok (.putfield 36, 3) := dk_181 0 36 (dk_at dksX5_copy_0 5 rfl rfl)
theorem dX5_copy_8 : decode cX5_copy 8 = .ok (.aload_n 0, 1) := dk_42 (dk_at dksX5_copy_0 8 rfl rfl)
theorem dX5_copy_9 : decode cX5_copy 9 = .ok (.aload_n 1, 1) := dk_43 (dk_at dksX5_copy_0 9 rfl rfl)
theorem dX5_copy_10 : decode cX5_copy 10 = .ok (.getfield 40, 3) := dk_180 0 40 (dk_at dksX5_copy_0 10 rfl rfl)
theorem dX5_copy_13 : decode cX5_copy 13 = .ok (.putfield 40, 3) := dk_181 0 40 (dk_at dksX5_copy_0 13 rfl rfl)
theorem dX5_copy_16 : decode cX5_copy 16 = .ok (.aload_n 0, 1) := dk_42 (dk_at dksX5_copy_0 16 rfl rfl)
theorem dX5_copy_17 : decode cX5_copy 17 = .ok (.aload_n 1, 1) := dk_43 (dk_at dksX5_copy_0 17 rfl rfl)
theorem dX5_copy_18 : decode cX5_copy 18 = .ok (.getfield 43, 3) := dk_180 0 43 (dk_at dksX5_copy_0 18 rfl rfl)
theorem dX5_copy_21 : decode cX5_copy 21 = .ok (.putfield 43, 3) := dk_181 0 43 (dk_at dksX5_copy_0 21 rfl rfl)
theorem dX5_copy_24 : decode cX5_copy 24 = .ok (.aload_n 0, 1) := dk_42 (dk_at dksX5_copy_1 0 rfl rfl)
theorem dX5_copy_25 : decode cX5_copy 25 = .ok (.aload_n 1, 1) := dk_43 (dk_at dksX5_copy_1 1 rfl rfl)
theorem dX5_copy_26 : decode cX5_copy 26 = .ok (.getfield 46, 3) := dk_180 0 46 (dk_at dksX5_copy_1 2 rfl rfl)
theorem dX5_copy_29 : decode cX5_copy 29 = .ok (.putfield 46, 3) := dk_181 0 46 (dk_at dksX5_copy_1 5 rfl rfl)
theorem dX5_copy_32 : decode cX5_copy 32 = .ok (.iconst 0, 1) := dk_3 (dk_at dksX5_copy_1 8 rfl rfl)
theorem dX5_copy_33 : decode cX5_copy 33 = .ok (.istore_n 2, 1) := dk_61 (dk_at dksX5_copy_1 9 rfl rfl)
theorem dX5_copy_34 : decode cX5_copy 34 = .ok (.iload_n 2, 1) := dk_28 (dk_at dksX5_copy_1 10 rfl rfl)
theorem dX5_copy_35 : decode cX5_copy 35 = .ok (.bipush 8, 2) := dk_16 8 (dk_at dksX5_copy_1 11 rfl rfl)
theorem dX5_copy_37 : decode cX5_copy 37 = .ok (.if_icmp .ge 57, 3) := dk_162 0 57 (dk_at dksX5_copy_1 13 rfl rfl)
theorem dX5_copy_40 : decode cX5_copy 40 = .ok (.aload_n 0, 1) := dk_42 (dk_at dksX5_copy_1 16 rfl rfl)
theorem dX5_copy_41 : decode cX5_copy 41 = .ok (.getfield 15, 3) := dk_180 0 15 (dk_at dksX5_copy_1 17 rfl rfl)
theorem dX5_copy_44 : decode cX5_copy 44 = .ok (.iload_n 2, 1) := dk_28 (dk_at dksX5_copy_1 20 rfl rfl)
theorem dX5_copy_45 : decode cX5_copy 45 = .ok (.aload_n 1, 1) := dk_43 (dk_at dksX5_copy_1 21 rfl rfl)
theorem dX5_copy_46 : decode cX5_copy 46 = .ok (.getfield 15, 3) := dk_180 0 15 (dk_at dksX5_copy_2 0 rfl rfl)
theorem dX5_copy_49 : decode cX5_copy 49 = .ok (.iload_n 2, 1) := dk_28 (dk_at dksX5_copy_2 3 rfl rfl)
theorem dX5_copy_50 : decode cX5_copy 50 = .ok (.iaload, 1) := dk_46 (dk_at dksX5_copy_2 4 rfl rfl)
theorem dX5_copy_51 : decode cX5_copy 51 = .ok (.iastore, 1) := dk_79 (dk_at dksX5_copy_2 5 rfl rfl)
theorem dX5_copy_52 : decode cX5_copy 52 = .ok (.aload_n 0, 1) := dk_42 (dk_at dksX5_copy_2 6 rfl rfl)
theorem dX5_copy_53 : decode cX5_copy 53 = .ok (.getfield 19, 3) := dk_180 0 19 (dk_at dksX5_copy_2 7 rfl rfl)
theorem dX5_copy_56 : decode cX5_copy 56 = .ok (.iload_n 2, 1) := dk_28 (dk_at dksX5_copy_2 10 rfl rfl)
theorem dX5_copy_57 : decode cX5_copy 57 = .ok (.aload_n 1, 1) := dk_43 (dk_at dksX5_copy_2 11 rfl rfl)
theorem dX5_copy_58 : decode cX5_copy 58 = .ok (.getfield 19, 3) := dk_180 0 19 (dk_at dksX5_copy_2 12 rfl rfl)
theorem dX5_copy_61 : decode cX5_copy 61 = .ok (.iload_n 2, 1) := dk_28 (dk_at dksX5_copy_2 15 rfl rfl)
theorem dX5_copy_62 : decode cX5_copy 62 = .ok (.iaload, 1) := dk_46 (dk_at dksX5_copy_2 16 rfl rfl)
theorem dX5_copy_63 : decode cX5_copy 63 = .ok (.iastore, 1) := dk_79 (dk_at dksX5_copy_2 17 rfl rfl)
theorem dX5_copy_64 : decode cX5_copy 64 = .ok (.aload_n 0, 1) := dk_42 (dk_at dksX5_copy_2 18 rfl rfl)
theorem dX5_copy_65 : decode cX5_copy 65 = .ok (.getfield 22, 3) := dk_180 0 22 (dk_at dksX5_copy_2 19 rfl rfl)
theorem dX5_copy_68 : decode cX5_copy 68 = .ok (.iload_n 2, 1) := dk_28 (dk_at dksX5_copy_2 22 rfl rfl)
theorem dX5_copy_69 : decode cX5_copy 69 = .ok (.aload_n 1, 1) := dk_43 (dk_at dksX5_copy_2 23 rfl rfl)
theorem dX5_copy_70 : decode cX5_copy 70 = .ok (.getfield 22, 3) := dk_180 0 22 (dk_at dksX5_copy_3 0 rfl rfl)
theorem dX5_copy_73 : decode cX5_copy 73 = .ok (.iload_n 2, 1) := dk_28 (dk_at dksX5_copy_3 3 rfl rfl)
theorem dX5_copy_74 : decode cX5_copy 74 = .ok (.iaload, 1) := dk_46 (dk_at dksX5_copy_3 4 rfl rfl)
theorem dX5_copy_75 : decode cX5_copy 75 = .ok (.iastore, 1) := dk_79 (dk_at dksX5_copy_3 5 rfl rfl)
theorem dX5_copy_76 : decode cX5_copy 76 = .ok (.aload_n 0, 1) := dk_42 (dk_at dksX5_copy_3 6 rfl rfl)
theorem dX5_copy_77 : decode cX5_copy 77 = .ok (.getfield 25, 3) := dk_180 0 25 (dk_at dksX5_copy_3 7 rfl rfl)
theorem dX5_copy_80 : decode cX5_copy 80 = .ok (.iload_n 2, 1) := dk_28 (dk_at dksX5_copy_3 10 rfl rfl)
theorem dX5_copy_81 : decode cX5_copy 81 = .ok (.aload_n 1, 1) := dk_43 (dk_at dksX5_copy_3 11 rfl rfl)
theorem dX5_copy_82 : decode cX5_copy 82 = .ok (.getfield 25, 3) := dk_180 0 25 (dk_at dksX5_copy_3 12 rfl rfl)
theorem dX5_copy_85 : decode cX5_copy 85 = .ok (.iload_n 2, 1) := dk_28 (dk_at dksX5_copy_3 15 rfl rfl)
theorem dX5_copy_86 : decode cX5_copy 86 = .ok (.iaload, 1) := dk_46 (dk_at dksX5_copy_3 16 rfl rfl)
theorem dX5_copy_87 : decode cX5_copy 87 = .ok (.iastore, 1) := dk_79 (dk_at dksX5_copy_3 17 rfl rfl)
theorem dX5_copy_88 : decode cX5_copy 88 = .ok (.iinc 2 1, 3) := dk_132 2 1 (dk_at dksX5_copy_3 18 rfl rfl)
theorem dX5_copy_91 : decode cX5_copy 91 = .ok (.goto (-57), 3) := dk_167 255 199 (dk_at dksX5_copy_3 21 rfl rfl)
theorem dX5_copy_94 : decode cX5_copy 94 = .ok (.iconst 0, 1) := dk_3 (dk_at dksX5_copy_4 0 rfl rfl)
theorem dX5_copy_95 : decode cX5_copy 95 = .ok (.istore_n 2, 1) := dk_61 (dk_at dksX5_copy_4 1 rfl rfl)
theorem dX5_copy_96 : decode cX5_copy 96 = .ok (.iload_n 2, 1) := dk_28 (dk_at dksX5_copy_4 2 rfl rfl)
theorem dX5_copy_97 : decode cX5_copy 97 = .ok (.aload_n 0, 1) := dk_42 (dk_at dksX5_copy_4 3 rfl rfl)
theorem dX5_copy_98 : decode cX5_copy 98 = .ok (.getfield 46, 3) := dk_180 0 46 (dk_at dksX5_copy_4 4 rfl rfl)
theorem dX5_copy_101 : decode cX5_copy 101 = .ok (.if_icmp .ge 38, 3) := dk_162 0 38 (dk_at dksX5_copy_4 7 rfl rfl)
theorem dX5_copy_104 : decode cX5_copy 104 = .ok (.iconst 0, 1) := dk_3 (dk_at dksX5_copy_4 10 rfl rfl)
theorem dX5_copy_105 : decode cX5_copy 105 = .ok (.istore_n 3, 1) := dk_62 (dk_at dksX5_copy_4 11 rfl rfl)
theorem dX5_copy_106 : decode cX5_copy 106 = .ok (.iload_n 3, 1) := dk_29 (dk_at dksX5_copy_4 12 rfl rfl)
theorem dX5_copy_107 : decode cX5_copy 107 = .ok (.iconst 3, 1) := dk_6 (dk_at dksX5_copy_4 13 rfl rfl)
theorem dX5_copy_108 : decode cX5_copy 108 = .ok (.if_icmp .ge 25, 3) := dk_162 0 25 (dk_at dksX5_copy_4 14 rfl rfl)
theorem dX5_copy_111 : decode cX5_copy 111 = .ok (.aload_n 0, 1) := dk_42 (dk_at dksX5_copy_4 17 rfl rfl)
theorem dX5_copy_112 : decode cX5_copy 112 = .ok (.getfield 30, 3) := dk_180 0 30 (dk_at dksX5_copy_4 18 rfl rfl)
theorem dX5_copy_115 : decode cX5_copy 115 = .ok (.iload_n 2, 1) := dk_28 (dk_at dksX5_copy_4 21 rfl rfl)
theorem dX5_copy_116 : decode cX5_copy 116 = .ok (.aaload, 1) := dk_50 (dk_at dksX5_copy_4 22 rfl rfl)
theorem dX5_copy_117 : decode cX5_copy 117 = .ok (.iload_n 3, 1) := dk_29 (dk_at dksX5_copy_4 23 rfl rfl)
theorem dX5_copy_118 : decode cX5_copy 118 = .ok (.aload_n 1, 1) := dk_43 (dk_at dksX5_copy_5 0 rfl rfl)
theorem dX5_copy_119 : decode cX5_copy 119 = .ok (.getfield 30, 3) := dk_180 0 30 (dk_at dksX5_copy_5 1 rfl rfl)
theorem dX5_copy_122 : decode cX5_copy 122 = .ok (.iload_n 2, 1) := dk_28 (dk_at dksX5_copy_5 4 rfl rfl)
theorem dX5_copy_123 : decode cX5_copy 123 = .ok (.aaload, 1) := dk_50 (dk_at dksX5_copy_5 5 rfl rfl)
theorem dX5_copy_124 : decode cX5_copy 124 = .ok (.iload_n 3, 1) := dk_29 (dk_at dksX5_copy_5 6 rfl rfl)
theorem dX5_copy_125 : decode cX5_copy 125 = .ok (.iaload, 1) := dk_46 (dk_at dksX5_copy_5 7 rfl rfl)
theorem dX5_copy_126 : decode cX5_copy 126 = .ok (.iastore, 1) := dk_79 (dk_at dksX5_copy_5 8 rfl rfl)
theorem dX5_copy_127 : decode cX5_copy 127 = .ok (.iinc 3 1, 3) := dk_132 3 1 (dk_at dksX5_copy_5 9 rfl rfl)
theorem dX5_copy_130 : decode cX5_copy 130 = .ok (.goto (-24), 3) := dk_167 255 232 (dk_at dksX5_copy_5 12 rfl rfl)
theorem dX5_copy_133 : decode cX5_copy 133 = .ok (.iinc 2 1, 3) := dk_132 2 1 (dk_at dksX5_copy_5 15 rfl rfl)
theorem dX5_copy_136 : decode cX5_copy 136 = .ok (.goto (-40), 3) := dk_167 255 216 (dk_at dksX5_copy_5 18 rfl rfl)
theorem dX5_copy_139 : decode cX5_copy 139 = .ok (.aload_n 0, 1) := dk_42 (dk_at dksX5_copy_5 21 rfl rfl)
theorem dX5_copy_140 : decode cX5_copy 140 = .ok (.areturn, 1) := dk_176 (dk_at dksX5_copy_5 22 rfl rfl)
abbrev cX5_years : ByteArray := prog_17_method_13_code
def yX5_years : MethodName := ⟨RX5, "years", "(I)LPupilsPupil$State;"⟩
def dkwX5_years_0 : List UInt8 := [3, 61, 28, 27, 162, 0, 15, 42, 3, 182, 0, 152, 87, 132, 2, 1, 167, 255, 242, 42, 176]
abbrev dktX5_years_0 : List UInt8 := dkwX5_years_0 ++ []
theorem dksX5_years_0 : cX5_years.data.toList.drop 0 = dktX5_years_0 := by decide +kernel
theorem dX5_years_0 : decode cX5_years 0 = .ok (.iconst 0, 1) := dk_3 (dk_at dksX5_years_0 0 rfl rfl)
theorem dX5_years_1 : decode cX5_years 1 = .ok (.istore_n 2, 1) := dk_61 (dk_at dksX5_years_0 1 rfl rfl)
theorem dX5_years_2 : decode cX5_years 2 = .ok (.iload_n 2, 1) := dk_28 (dk_at dksX5_years_0 2 rfl rfl)
theorem dX5_years_3 : decode cX5_years 3 = .ok (.iload_n 1, 1) := dk_27 (dk_at dksX5_years_0 3 rfl rfl)
theorem dX5_years_4 : decode cX5_years 4 = .ok (.if_icmp .ge 15, 3) := dk_162 0 15 (dk_at dksX5_years_0 4 rfl rfl)
theorem dX5_years_7 : decode cX5_years 7 = .ok (.aload_n 0, 1) := dk_42 (dk_at dksX5_years_0 7 rfl rfl)
theorem dX5_years_8 : decode cX5_years 8 = .ok (.iconst 0, 1) := dk_3 (dk_at dksX5_years_0 8 rfl rfl)
theorem dX5_years_9 : decode cX5_years 9 = .ok (.invokevirtual 152, 3) := dk_182 0 152 (dk_at dksX5_years_0 9 rfl rfl)
theorem dX5_years_12 : decode cX5_years 12 = .ok (.pop, 1) := dk_87 (dk_at dksX5_years_0 12 rfl rfl)
theorem dX5_years_13 : decode cX5_years 13 = .ok (.iinc 2 1, 3) := dk_132 2 1 (dk_at dksX5_years_0 13 rfl rfl)
theorem dX5_years_16 : decode cX5_years 16 = .ok (.goto (-14), 3) := dk_167 255 242 (dk_at dksX5_years_0 16 rfl rfl)
theorem dX5_years_19 : decode cX5_years 19 = .ok (.aload_n 0, 1) := dk_42 (dk_at dksX5_years_0 19 rfl rfl)
theorem dX5_years_20 : decode cX5_years 20 = .ok (.areturn, 1) := dk_176 (dk_at dksX5_years_0 20 rfl rfl)
abbrev cX5_passes : ByteArray := prog_17_method_12_code
def yX5_passes : MethodName := ⟨RX5, "passes", "(I)I"⟩
def dkwX5_passes_7 : List UInt8 := [2, 130, 126, 172]
abbrev dktX5_passes_7 : List UInt8 := dkwX5_passes_7 ++ []
def dkwX5_passes_6 : List UInt8 := [89, 180, 0, 43, 29, 128, 181, 0, 43, 42, 89, 180, 0, 36, 4, 96, 181, 0, 36, 42, 180, 0, 40, 28]
abbrev dktX5_passes_6 : List UInt8 := dkwX5_passes_6 ++ dktX5_passes_7
def dkwX5_passes_5 : List UInt8 := [130, 126, 21, 4, 184, 0, 82, 153, 0, 10, 42, 21, 4, 5, 182, 0, 141, 132, 4, 1, 167, 255, 218, 42]
abbrev dktX5_passes_5 : List UInt8 := dkwX5_passes_5 ++ dktX5_passes_6
def dkwX5_passes_4 : List UInt8 := [167, 255, 185, 3, 54, 4, 21, 4, 42, 180, 0, 3, 182, 0, 49, 162, 0, 32, 29, 42, 180, 0, 43, 2]
abbrev dktX5_passes_4 : List UInt8 := dkwX5_passes_4 ++ dktX5_passes_5
def dkwX5_passes_3 : List UInt8 := [159, 0, 20, 29, 4, 42, 180, 0, 15, 42, 180, 0, 15, 21, 4, 46, 46, 120, 128, 62, 132, 4, 1]
abbrev dktX5_passes_3 : List UInt8 := dkwX5_passes_3 ++ dktX5_passes_4
def dkwX5_passes_2 : List UInt8 := [180, 0, 15, 21, 4, 46, 2, 159, 0, 36, 42, 180, 0, 15, 42, 180, 0, 15, 21, 4, 46, 46, 2]
abbrev dktX5_passes_2 : List UInt8 := dkwX5_passes_2 ++ dktX5_passes_3
def dkwX5_passes_1 : List UInt8 := [180, 0, 3, 182, 0, 49, 162, 0, 65, 42, 180, 0, 40, 21, 4, 184, 0, 82, 153, 0, 47, 42]
abbrev dktX5_passes_1 : List UInt8 := dkwX5_passes_1 ++ dktX5_passes_2
def dkwX5_passes_0 : List UInt8 := [42, 180, 0, 40, 61, 42, 27, 182, 0, 145, 42, 27, 182, 0, 149, 3, 62, 3, 54, 4, 21, 4, 42]
abbrev dktX5_passes_0 : List UInt8 := dkwX5_passes_0 ++ dktX5_passes_1
theorem dksX5_passes_0 : cX5_passes.data.toList.drop 0 = dktX5_passes_0 := by decide +kernel
theorem dksX5_passes_1 : cX5_passes.data.toList.drop 23 = dktX5_passes_1 := dk_seg dksX5_passes_0 23 rfl rfl
theorem dksX5_passes_2 : cX5_passes.data.toList.drop 45 = dktX5_passes_2 := dk_seg dksX5_passes_1 22 rfl rfl
theorem dksX5_passes_3 : cX5_passes.data.toList.drop 68 = dktX5_passes_3 := dk_seg dksX5_passes_2 23 rfl rfl
theorem dksX5_passes_4 : cX5_passes.data.toList.drop 91 = dktX5_passes_4 := dk_seg dksX5_passes_3 23 rfl rfl
theorem dksX5_passes_5 : cX5_passes.data.toList.drop 115 = dktX5_passes_5 := dk_seg dksX5_passes_4 24 rfl rfl
theorem dksX5_passes_6 : cX5_passes.data.toList.drop 139 = dktX5_passes_6 := dk_seg dksX5_passes_5 24 rfl rfl
theorem dksX5_passes_7 : cX5_passes.data.toList.drop 163 = dktX5_passes_7 := dk_seg dksX5_passes_6 24 rfl rfl
theorem dX5_passes_0 : decode cX5_passes 0 = .ok (.aload_n 0, 1) := dk_42 (dk_at dksX5_passes_0 0 rfl rfl)
theorem dX5_passes_1 : decode cX5_passes 1 = .ok (.getfield 40, 3) := dk_180 0 40 (dk_at dksX5_passes_0 1 rfl rfl)
theorem dX5_passes_4 : decode cX5_passes 4 = .ok (.istore_n 2, 1) := dk_61 (dk_at dksX5_passes_0 4 rfl rfl)
theorem dX5_passes_5 : decode cX5_passes 5 = .ok (.aload_n 0, 1) := dk_42 (dk_at dksX5_passes_0 5 rfl rfl)
theorem dX5_passes_6 : decode cX5_passes 6 = .ok (.iload_n 1, 1) := dk_27 (dk_at dksX5_passes_0 6 rfl rfl)
theorem dX5_passes_7 : decode cX5_passes 7 = .ok (.invokevirtual 145, 3) := dk_182 0 145 (dk_at dksX5_passes_0 7 rfl rfl)
theorem dX5_passes_10 : decode cX5_passes 10 = .ok (.aload_n 0, 1) := dk_42 (dk_at dksX5_passes_0 10 rfl rfl)
theorem dX5_passes_11 : decode cX5_passes 11 = .ok (.iload_n 1, 1) := dk_27 (dk_at dksX5_passes_0 11 rfl rfl)
theorem dX5_passes_12 : decode cX5_passes 12 = .ok (.invokevirtual 149, 3) := dk_182 0 149 (dk_at dksX5_passes_0 12 rfl rfl)
theorem dX5_passes_15 : decode cX5_passes 15 = .ok (.iconst 0, 1) := dk_3 (dk_at dksX5_passes_0 15 rfl rfl)
theorem dX5_passes_16 : decode cX5_passes 16 = .ok (.istore_n 3, 1) := dk_62 (dk_at dksX5_passes_0 16 rfl rfl)
theorem dX5_passes_17 : decode cX5_passes 17 = .ok (.iconst 0, 1) := dk_3 (dk_at dksX5_passes_0 17 rfl rfl)
theorem dX5_passes_18 : decode cX5_passes 18 = .ok (.istore 4, 2) := dk_54 4 (dk_at dksX5_passes_0 18 rfl rfl)
theorem dX5_passes_20 : decode cX5_passes 20 = .ok (.iload 4, 2) := dk_21 4 (dk_at dksX5_passes_0 20 rfl rfl)
theorem dX5_passes_22 : decode cX5_passes 22 = .ok (.aload_n 0, 1) := dk_42 (dk_at dksX5_passes_0 22 rfl rfl)
theorem dX5_passes_23 : decode cX5_passes 23 = .ok (.getfield 3, 3) := dk_180 0 3 (dk_at dksX5_passes_1 0 rfl rfl)
theorem dX5_passes_26 : decode cX5_passes 26 = .ok (.invokevirtual 49, 3) := dk_182 0 49 (dk_at dksX5_passes_1 3 rfl rfl)
theorem dX5_passes_29 : decode cX5_passes 29 = .ok (.if_icmp .ge 65, 3) := dk_162 0 65 (dk_at dksX5_passes_1 6 rfl rfl)
theorem dX5_passes_32 : decode cX5_passes 32 = .ok (.aload_n 0, 1) := dk_42 (dk_at dksX5_passes_1 9 rfl rfl)
theorem dX5_passes_33 : decode cX5_passes 33 = .ok (.getfield 40, 3) := dk_180 0 40 (dk_at dksX5_passes_1 10 rfl rfl)
theorem dX5_passes_36 : decode cX5_passes 36 = .ok (.iload 4, 2) := dk_21 4 (dk_at dksX5_passes_1 13 rfl rfl)
theorem dX5_passes_38 : decode cX5_passes 38 = .ok (.invokestatic 82, 3) := dk_184 0 82 (dk_at dksX5_passes_1 15 rfl rfl)
theorem dX5_passes_41 : decode cX5_passes 41 = .ok (.ifCond .eq 47, 3) := dk_153 0 47 (dk_at dksX5_passes_1 18 rfl rfl)
theorem dX5_passes_44 : decode cX5_passes 44 = .ok (.aload_n 0, 1) := dk_42 (dk_at dksX5_passes_1 21 rfl rfl)
theorem dX5_passes_45 : decode cX5_passes 45 = .ok (.getfield 15, 3) := dk_180 0 15 (dk_at dksX5_passes_2 0 rfl rfl)
theorem dX5_passes_48 : decode cX5_passes 48 = .ok (.iload 4, 2) := dk_21 4 (dk_at dksX5_passes_2 3 rfl rfl)
theorem dX5_passes_50 : decode cX5_passes 50 = .ok (.iaload, 1) := dk_46 (dk_at dksX5_passes_2 5 rfl rfl)
theorem dX5_passes_51 : decode cX5_passes 51 = .ok (.iconst (-1), 1) := dk_2 (dk_at dksX5_passes_2 6 rfl rfl)
theorem dX5_passes_52 : decode cX5_passes 52 = .ok (.if_icmp .eq 36, 3) := dk_159 0 36 (dk_at dksX5_passes_2 7 rfl rfl)
theorem dX5_passes_55 : decode cX5_passes 55 = .ok (.aload_n 0, 1) := dk_42 (dk_at dksX5_passes_2 10 rfl rfl)
theorem dX5_passes_56 : decode cX5_passes 56 = .ok (.getfield 15, 3) := dk_180 0 15 (dk_at dksX5_passes_2 11 rfl rfl)
theorem dX5_passes_59 : decode cX5_passes 59 = .ok (.aload_n 0, 1) := dk_42 (dk_at dksX5_passes_2 14 rfl rfl)
theorem dX5_passes_60 : decode cX5_passes 60 = .ok (.getfield 15, 3) := dk_180 0 15 (dk_at dksX5_passes_2 15 rfl rfl)
theorem dX5_passes_63 : decode cX5_passes 63 = .ok (.iload 4, 2) := dk_21 4 (dk_at dksX5_passes_2 18 rfl rfl)
theorem dX5_passes_65 : decode cX5_passes 65 = .ok (.iaload, 1) := dk_46 (dk_at dksX5_passes_2 20 rfl rfl)
theorem dX5_passes_66 : decode cX5_passes 66 = .ok (.iaload, 1) := dk_46 (dk_at dksX5_passes_2 21 rfl rfl)
theorem dX5_passes_67 : decode cX5_passes 67 = .ok (.iconst (-1), 1) := dk_2 (dk_at dksX5_passes_2 22 rfl rfl)
theorem dX5_passes_68 : decode cX5_passes 68 = .ok (.if_icmp .eq 20, 3) := dk_159 0 20 (dk_at dksX5_passes_3 0 rfl rfl)
theorem dX5_passes_71 : decode cX5_passes 71 = .ok (.iload_n 3, 1) := dk_29 (dk_at dksX5_passes_3 3 rfl rfl)
theorem dX5_passes_72 : decode cX5_passes 72 = .ok (.iconst 1, 1) := dk_4 (dk_at dksX5_passes_3 4 rfl rfl)
theorem dX5_passes_73 : decode cX5_passes 73 = .ok (.aload_n 0, 1) := dk_42 (dk_at dksX5_passes_3 5 rfl rfl)
theorem dX5_passes_74 : decode cX5_passes 74 = .ok (.getfield 15, 3) := dk_180 0 15 (dk_at dksX5_passes_3 6 rfl rfl)
theorem dX5_passes_77 : decode cX5_passes 77 = .ok (.aload_n 0, 1) := dk_42 (dk_at dksX5_passes_3 9 rfl rfl)
theorem dX5_passes_78 : decode cX5_passes 78 = .ok (.getfield 15, 3) := dk_180 0 15 (dk_at dksX5_passes_3 10 rfl rfl)
theorem dX5_passes_81 : decode cX5_passes 81 = .ok (.iload 4, 2) := dk_21 4 (dk_at dksX5_passes_3 13 rfl rfl)
theorem dX5_passes_83 : decode cX5_passes 83 = .ok (.iaload, 1) := dk_46 (dk_at dksX5_passes_3 15 rfl rfl)
theorem dX5_passes_84 : decode cX5_passes 84 = .ok (.iaload, 1) := dk_46 (dk_at dksX5_passes_3 16 rfl rfl)
theorem dX5_passes_85 : decode cX5_passes 85 = .ok (.ishl, 1) := dk_120 (dk_at dksX5_passes_3 17 rfl rfl)
theorem dX5_passes_86 : decode cX5_passes 86 = .ok (.ior, 1) := dk_128 (dk_at dksX5_passes_3 18 rfl rfl)
theorem dX5_passes_87 : decode cX5_passes 87 = .ok (.istore_n 3, 1) := dk_62 (dk_at dksX5_passes_3 19 rfl rfl)
theorem dX5_passes_88 : decode cX5_passes 88 = .ok (.iinc 4 1, 3) := dk_132 4 1 (dk_at dksX5_passes_3 20 rfl rfl)
theorem dX5_passes_91 : decode cX5_passes 91 = .ok (.goto (-71), 3) := dk_167 255 185 (dk_at dksX5_passes_4 0 rfl rfl)
theorem dX5_passes_94 : decode cX5_passes 94 = .ok (.iconst 0, 1) := dk_3 (dk_at dksX5_passes_4 3 rfl rfl)
theorem dX5_passes_95 : decode cX5_passes 95 = .ok (.istore 4, 2) := dk_54 4 (dk_at dksX5_passes_4 4 rfl rfl)
theorem dX5_passes_97 : decode cX5_passes 97 = .ok (.iload 4, 2) := dk_21 4 (dk_at dksX5_passes_4 6 rfl rfl)
theorem dX5_passes_99 : decode cX5_passes 99 = .ok (.aload_n 0, 1) := dk_42 (dk_at dksX5_passes_4 8 rfl rfl)
theorem dX5_passes_100 : decode cX5_passes 100 = .ok (.getfield 3, 3) := dk_180 0 3 (dk_at dksX5_passes_4 9 rfl rfl)
theorem dX5_passes_103 : decode cX5_passes 103 = .ok (.invokevirtual 49, 3) := dk_182 0 49 (dk_at dksX5_passes_4 12 rfl rfl)
theorem dX5_passes_106 : decode cX5_passes 106 = .ok (.if_icmp .ge 32, 3) := dk_162 0 32 (dk_at dksX5_passes_4 15 rfl rfl)
theorem dX5_passes_109 : decode cX5_passes 109 = .ok (.iload_n 3, 1) := dk_29 (dk_at dksX5_passes_4 18 rfl rfl)
theorem dX5_passes_110 : decode cX5_passes 110 = .ok (.aload_n 0, 1) := dk_42 (dk_at dksX5_passes_4 19 rfl rfl)
theorem dX5_passes_111 : decode cX5_passes 111 = .ok (.getfield 43, 3) := dk_180 0 43 (dk_at dksX5_passes_4 20 rfl rfl)
theorem dX5_passes_114 : decode cX5_passes 114 = .ok (.iconst (-1), 1) := dk_2 (dk_at dksX5_passes_4 23 rfl rfl)
theorem dX5_passes_115 : decode cX5_passes 115 = .ok (.ixor, 1) := dk_130 (dk_at dksX5_passes_5 0 rfl rfl)
theorem dX5_passes_116 : decode cX5_passes 116 = .ok (.iand, 1) := dk_126 (dk_at dksX5_passes_5 1 rfl rfl)
theorem dX5_passes_117 : decode cX5_passes 117 = .ok (.iload 4, 2) := dk_21 4 (dk_at dksX5_passes_5 2 rfl rfl)
theorem dX5_passes_119 : decode cX5_passes 119 = .ok (.invokestatic 82, 3) := dk_184 0 82 (dk_at dksX5_passes_5 4 rfl rfl)
theorem dX5_passes_122 : decode cX5_passes 122 = .ok (.ifCond .eq 10, 3) := dk_153 0 10 (dk_at dksX5_passes_5 7 rfl rfl)
theorem dX5_passes_125 : decode cX5_passes 125 = .ok (.aload_n 0, 1) := dk_42 (dk_at dksX5_passes_5 10 rfl rfl)
theorem dX5_passes_126 : decode cX5_passes 126 = .ok (.iload 4, 2) := dk_21 4 (dk_at dksX5_passes_5 11 rfl rfl)
theorem dX5_passes_128 : decode cX5_passes 128 = .ok (.iconst 2, 1) := dk_5 (dk_at dksX5_passes_5 13 rfl rfl)
theorem dX5_passes_129 : decode cX5_passes 129 = .ok (.invokevirtual 141, 3) := dk_182 0 141 (dk_at dksX5_passes_5 14 rfl rfl)
theorem dX5_passes_132 : decode cX5_passes 132 = .ok (.iinc 4 1, 3) := dk_132 4 1 (dk_at dksX5_passes_5 17 rfl rfl)
theorem dX5_passes_135 : decode cX5_passes 135 = .ok (.goto (-38), 3) := dk_167 255 218 (dk_at dksX5_passes_5 20 rfl rfl)
theorem dX5_passes_138 : decode cX5_passes 138 = .ok (.aload_n 0, 1) := dk_42 (dk_at dksX5_passes_5 23 rfl rfl)
theorem dX5_passes_139 : decode cX5_passes 139 = .ok (.dup, 1) := dk_89 (dk_at dksX5_passes_6 0 rfl rfl)
theorem dX5_passes_140 : decode cX5_passes 140 = .ok (.getfield 43, 3) := dk_180 0 43 (dk_at dksX5_passes_6 1 rfl rfl)
theorem dX5_passes_143 : decode cX5_passes 143 = .ok (.iload_n 3, 1) := dk_29 (dk_at dksX5_passes_6 4 rfl rfl)
theorem dX5_passes_144 : decode cX5_passes 144 = .ok (.ior, 1) := dk_128 (dk_at dksX5_passes_6 5 rfl rfl)
theorem dX5_passes_145 : decode cX5_passes 145 = .ok (.putfield 43, 3) := dk_181 0 43 (dk_at dksX5_passes_6 6 rfl rfl)
theorem dX5_passes_148 : decode cX5_passes 148 = .ok (.aload_n 0, 1) := dk_42 (dk_at dksX5_passes_6 9 rfl rfl)
theorem dX5_passes_149 : decode cX5_passes 149 = .ok (.dup, 1) := dk_89 (dk_at dksX5_passes_6 10 rfl rfl)
theorem dX5_passes_150 : decode cX5_passes 150 = .ok (.getfield 36, 3) := dk_180 0 36 (dk_at dksX5_passes_6 11 rfl rfl)
theorem dX5_passes_153 : decode cX5_passes 153 = .ok (.iconst 1, 1) := dk_4 (dk_at dksX5_passes_6 14 rfl rfl)
theorem dX5_passes_154 : decode cX5_passes 154 = .ok (.iadd, 1) := dk_96 (dk_at dksX5_passes_6 15 rfl rfl)
theorem dX5_passes_155 : decode cX5_passes 155 = .ok (.putfield 36, 3) := dk_181 0 36 (dk_at dksX5_passes_6 16 rfl rfl)
theorem dX5_passes_158 : decode cX5_passes 158 = .ok (.aload_n 0, 1) := dk_42 (dk_at dksX5_passes_6 19 rfl rfl)
theorem dX5_passes_159 : decode cX5_passes 159 = .ok (.getfield 40, 3) := dk_180 0 40 (dk_at dksX5_passes_6 20 rfl rfl)
theorem dX5_passes_162 : decode cX5_passes 162 = .ok (.iload_n 2, 1) := dk_28 (dk_at dksX5_passes_6 23 rfl rfl)
theorem dX5_passes_163 : decode cX5_passes 163 = .ok (.iconst (-1), 1) := dk_2 (dk_at dksX5_passes_7 0 rfl rfl)
theorem dX5_passes_164 : decode cX5_passes 164 = .ok (.ixor, 1) := dk_130 (dk_at dksX5_passes_7 1 rfl rfl)
theorem dX5_passes_165 : decode cX5_passes 165 = .ok (.iand, 1) := dk_126 (dk_at dksX5_passes_7 2 rfl rfl)
theorem dX5_passes_166 : decode cX5_passes 166 = .ok (.ireturn, 1) := dk_172 (dk_at dksX5_passes_7 3 rfl rfl)
abbrev cX5_teaches : ByteArray := prog_17_method_9_code
def yX5_teaches : MethodName := ⟨RX5, "teaches", "(I)V"⟩
def dkwX5_teaches_10 : List UInt8 := [92, 46, 29, 128, 79, 132, 2, 1, 167, 255, 174, 177]
abbrev dktX5_teaches_10 : List UInt8 := dkwX5_teaches_10 ++ []
def dkwX5_teaches_9 : List UInt8 := [184, 0, 82, 153, 0, 16, 42, 180, 0, 22, 28, 92, 46, 29, 128, 79, 167, 0, 13, 42, 180, 0, 19, 28]
abbrev dktX5_teaches_9 : List UInt8 := dkwX5_teaches_9 ++ dktX5_teaches_10
def dkwX5_teaches_8 : List UInt8 := [180, 0, 33, 28, 46, 120, 62, 42, 180, 0, 22, 28, 92, 46, 29, 2, 130, 126, 79, 42, 180, 0, 127, 28]
abbrev dktX5_teaches_8 : List UInt8 := dkwX5_teaches_8 ++ dktX5_teaches_9
def dkwX5_teaches_7 : List UInt8 := [180, 0, 3, 182, 0, 49, 162, 0, 77, 42, 180, 0, 33, 28, 46, 2, 160, 0, 6, 167, 0, 58, 4, 42]
abbrev dktX5_teaches_7 : List UInt8 := dkwX5_teaches_7 ++ dktX5_teaches_8
def dkwX5_teaches_6 : List UInt8 := [153, 0, 9, 4, 28, 120, 167, 0, 4, 3, 128, 181, 0, 127, 132, 2, 1, 167, 255, 102, 3, 61, 28, 42]
abbrev dktX5_teaches_6 : List UInt8 := dkwX5_teaches_6 ++ dktX5_teaches_7
def dkwX5_teaches_5 : List UInt8 := [42, 180, 0, 33, 28, 46, 182, 0, 124, 153, 0, 7, 4, 167, 0, 4, 3, 62, 42, 89, 180, 0, 127, 29]
abbrev dktX5_teaches_5 : List UInt8 := dkwX5_teaches_5 ++ dktX5_teaches_6
def dkwX5_teaches_4 : List UInt8 := [180, 0, 3, 180, 0, 53, 180, 0, 132, 198, 0, 31, 42, 42, 180, 0, 3, 180, 0, 53, 180, 0, 132, 28]
abbrev dktX5_teaches_4 : List UInt8 := dkwX5_teaches_4 ++ dktX5_teaches_5
def dkwX5_teaches_3 : List UInt8 := [42, 180, 0, 22, 42, 180, 0, 15, 28, 46, 46, 42, 180, 0, 33, 28, 46, 184, 0, 82, 154, 0, 40, 42]
abbrev dktX5_teaches_3 : List UInt8 := dkwX5_teaches_3 ++ dktX5_teaches_4
def dkwX5_teaches_2 : List UInt8 := [159, 0, 110, 42, 180, 0, 22, 28, 46, 42, 180, 0, 33, 28, 46, 184, 0, 82, 153, 0, 6, 167, 0, 89]
abbrev dktX5_teaches_2 : List UInt8 := dkwX5_teaches_2 ++ dktX5_teaches_3
def dkwX5_teaches_1 : List UInt8 := [28, 184, 0, 82, 153, 0, 7, 2, 167, 0, 8, 42, 28, 182, 0, 130, 79, 42, 180, 0, 33, 28, 46, 2]
abbrev dktX5_teaches_1 : List UInt8 := dkwX5_teaches_1 ++ dktX5_teaches_2
def dkwX5_teaches_0 : List UInt8 := [42, 3, 181, 0, 127, 3, 61, 28, 42, 180, 0, 3, 182, 0, 49, 162, 0, 149, 42, 180, 0, 33, 28, 27]
abbrev dktX5_teaches_0 : List UInt8 := dkwX5_teaches_0 ++ dktX5_teaches_1
theorem dksX5_teaches_0 : cX5_teaches.data.toList.drop 0 = dktX5_teaches_0 := by decide +kernel
theorem dksX5_teaches_1 : cX5_teaches.data.toList.drop 24 = dktX5_teaches_1 := dk_seg dksX5_teaches_0 24 rfl rfl
theorem dksX5_teaches_2 : cX5_teaches.data.toList.drop 48 = dktX5_teaches_2 := dk_seg dksX5_teaches_1 24 rfl rfl
theorem dksX5_teaches_3 : cX5_teaches.data.toList.drop 72 = dktX5_teaches_3 := dk_seg dksX5_teaches_2 24 rfl rfl
theorem dksX5_teaches_4 : cX5_teaches.data.toList.drop 96 = dktX5_teaches_4 := dk_seg dksX5_teaches_3 24 rfl rfl
theorem dksX5_teaches_5 : cX5_teaches.data.toList.drop 120 = dktX5_teaches_5 := dk_seg dksX5_teaches_4 24 rfl rfl
theorem dksX5_teaches_6 : cX5_teaches.data.toList.drop 144 = dktX5_teaches_6 := dk_seg dksX5_teaches_5 24 rfl rfl
theorem dksX5_teaches_7 : cX5_teaches.data.toList.drop 168 = dktX5_teaches_7 := dk_seg dksX5_teaches_6 24 rfl rfl
theorem dksX5_teaches_8 : cX5_teaches.data.toList.drop 192 = dktX5_teaches_8 := dk_seg dksX5_teaches_7 24 rfl rfl
theorem dksX5_teaches_9 : cX5_teaches.data.toList.drop 216 = dktX5_teaches_9 := dk_seg dksX5_teaches_8 24 rfl rfl
theorem dksX5_teaches_10 : cX5_teaches.data.toList.drop 240 = dktX5_teaches_10 := dk_seg dksX5_teaches_9 24 rfl rfl
theorem dX5_teaches_0 : decode cX5_teaches 0 = .ok (.aload_n 0, 1) := dk_42 (dk_at dksX5_teaches_0 0 rfl rfl)
theorem dX5_teaches_1 : decode cX5_teaches 1 = .ok (.iconst 0, 1) := dk_3 (dk_at dksX5_teaches_0 1 rfl rfl)
theorem dX5_teaches_2 : decode cX5_teaches 2 = .ok (.putfield 127, 3) := dk_181 0 127 (dk_at dksX5_teaches_0 2 rfl rfl)
theorem dX5_teaches_5 : decode cX5_teaches 5 = .ok (.iconst 0, 1) := dk_3 (dk_at dksX5_teaches_0 5 rfl rfl)
theorem dX5_teaches_6 : decode cX5_teaches 6 = .ok (.istore_n 2, 1) := dk_61 (dk_at dksX5_teaches_0 6 rfl rfl)
theorem dX5_teaches_7 : decode cX5_teaches 7 = .ok (.iload_n 2, 1) := dk_28 (dk_at dksX5_teaches_0 7 rfl rfl)
theorem dX5_teaches_8 : decode cX5_teaches 8 = .ok (.aload_n 0, 1) := dk_42 (dk_at dksX5_teaches_0 8 rfl rfl)
theorem dX5_teaches_9 : decode cX5_teaches 9 = .ok (.getfield 3, 3) := dk_180 0 3 (dk_at dksX5_teaches_0 9 rfl rfl)
theorem dX5_teaches_12 : decode cX5_teaches 12 = .ok (.invokevirtual 49, 3) := dk_182 0 49 (dk_at dksX5_teaches_0 12 rfl rfl)
theorem dX5_teaches_15 : decode cX5_teaches 15 = .ok (.if_icmp .ge 149, 3) := dk_162 0 149 (dk_at dksX5_teaches_0 15 rfl rfl)
theorem dX5_teaches_18 : decode cX5_teaches 18 = .ok (.aload_n 0, 1) := dk_42 (dk_at dksX5_teaches_0 18 rfl rfl)
theorem dX5_teaches_19 : decode cX5_teaches 19 = .ok (.getfield 33, 3) := dk_180 0 33 (dk_at dksX5_teaches_0 19 rfl rfl)
theorem dX5_teaches_22 : decode cX5_teaches 22 = .ok (.iload_n 2, 1) := dk_28 (dk_at dksX5_teaches_0 22 rfl rfl)
theorem dX5_teaches_23 : decode cX5_teaches 23 = .ok (.iload_n 1, 1) := dk_27 (dk_at dksX5_teaches_0 23 rfl rfl)
theorem dX5_teaches_24 : decode cX5_teaches 24 = .ok (.iload_n 2, 1) := dk_28 (dk_at dksX5_teaches_1 0 rfl rfl)
theorem dX5_teaches_25 : decode cX5_teaches 25 = .ok (.invokestatic 82, 3) := dk_184 0 82 (dk_at dksX5_teaches_1 1 rfl rfl)
theorem dX5_teaches_28 : decode cX5_teaches 28 = .ok (.ifCond .eq 7, 3) := dk_153 0 7 (dk_at dksX5_teaches_1 4 rfl rfl)
theorem dX5_teaches_31 : decode cX5_teaches 31 = .ok (.iconst (-1), 1) := dk_2 (dk_at dksX5_teaches_1 7 rfl rfl)
theorem dX5_teaches_32 : decode cX5_teaches 32 = .ok (.goto 8, 3) := dk_167 0 8 (dk_at dksX5_teaches_1 8 rfl rfl)
theorem dX5_teaches_35 : decode cX5_teaches 35 = .ok (.aload_n 0, 1) := dk_42 (dk_at dksX5_teaches_1 11 rfl rfl)
theorem dX5_teaches_36 : decode cX5_teaches 36 = .ok (.iload_n 2, 1) := dk_28 (dk_at dksX5_teaches_1 12 rfl rfl)
theorem dX5_teaches_37 : decode cX5_teaches 37 = .ok (.invokevirtual 130, 3) := dk_182 0 130 (dk_at dksX5_teaches_1 13 rfl rfl)
theorem dX5_teaches_40 : decode cX5_teaches 40 = .ok (.iastore, 1) := dk_79 (dk_at dksX5_teaches_1 16 rfl rfl)
theorem dX5_teaches_41 : decode cX5_teaches 41 = .ok (.aload_n 0, 1) := dk_42 (dk_at dksX5_teaches_1 17 rfl rfl)
theorem dX5_teaches_42 : decode cX5_teaches 42 = .ok (.getfield 33, 3) := dk_180 0 33 (dk_at dksX5_teaches_1 18 rfl rfl)
theorem dX5_teaches_45 : decode cX5_teaches 45 = .ok (.iload_n 2, 1) := dk_28 (dk_at dksX5_teaches_1 21 rfl rfl)
theorem dX5_teaches_46 : decode cX5_teaches 46 = .ok (.iaload, 1) := dk_46 (dk_at dksX5_teaches_1 22 rfl rfl)
theorem dX5_teaches_47 : decode cX5_teaches 47 = .ok (.iconst (-1), 1) := dk_2 (dk_at dksX5_teaches_1 23 rfl rfl)
theorem dX5_teaches_48 : decode cX5_teaches 48 = .ok (.if_icmp .eq 110, 3) := dk_159 0 110 (dk_at dksX5_teaches_2 0 rfl rfl)
theorem dX5_teaches_51 : decode cX5_teaches 51 = .ok (.aload_n 0, 1) := dk_42 (dk_at dksX5_teaches_2 3 rfl rfl)
theorem dX5_teaches_52 : decode cX5_teaches 52 = .ok (.getfield 22, 3) := dk_180 0 22 (dk_at dksX5_teaches_2 4 rfl rfl)
theorem dX5_teaches_55 : decode cX5_teaches 55 = .ok (.iload_n 2, 1) := dk_28 (dk_at dksX5_teaches_2 7 rfl rfl)
theorem dX5_teaches_56 : decode cX5_teaches 56 = .ok (.iaload, 1) := dk_46 (dk_at dksX5_teaches_2 8 rfl rfl)
theorem dX5_teaches_57 : decode cX5_teaches 57 = .ok (.aload_n 0, 1) := dk_42 (dk_at dksX5_teaches_2 9 rfl rfl)
theorem dX5_teaches_58 : decode cX5_teaches 58 = .ok (.getfield 33, 3) := dk_180 0 33 (dk_at dksX5_teaches_2 10 rfl rfl)
theorem dX5_teaches_61 : decode cX5_teaches 61 = .ok (.iload_n 2, 1) := dk_28 (dk_at dksX5_teaches_2 13 rfl rfl)
theorem dX5_teaches_62 : decode cX5_teaches 62 = .ok (.iaload, 1) := dk_46 (dk_at dksX5_teaches_2 14 rfl rfl)
theorem dX5_teaches_63 : decode cX5_teaches 63 = .ok (.invokestatic 82, 3) := dk_184 0 82 (dk_at dksX5_teaches_2 15 rfl rfl)
theorem dX5_teaches_66 : decode cX5_teaches 66 = .ok (.ifCond .eq 6, 3) := dk_153 0 6 (dk_at dksX5_teaches_2 18 rfl rfl)
theorem dX5_teaches_69 : decode cX5_teaches 69 = .ok (.goto 89, 3) := dk_167 0 89 (dk_at dksX5_teaches_2 21 rfl rfl)
theorem dX5_teaches_72 : decode cX5_teaches 72 = .ok (.aload_n 0, 1) := dk_42 (dk_at dksX5_teaches_3 0 rfl rfl)
theorem dX5_teaches_73 : decode cX5_teaches 73 = .ok (.getfield 22, 3) := dk_180 0 22 (dk_at dksX5_teaches_3 1 rfl rfl)
theorem dX5_teaches_76 : decode cX5_teaches 76 = .ok (.aload_n 0, 1) := dk_42 (dk_at dksX5_teaches_3 4 rfl rfl)
theorem dX5_teaches_77 : decode cX5_teaches 77 = .ok (.getfield 15, 3) := dk_180 0 15 (dk_at dksX5_teaches_3 5 rfl rfl)
theorem dX5_teaches_80 : decode cX5_teaches 80 = .ok (.iload_n 2, 1) := dk_28 (dk_at dksX5_teaches_3 8 rfl rfl)
theorem dX5_teaches_81 : decode cX5_teaches 81 = .ok (.iaload, 1) := dk_46 (dk_at dksX5_teaches_3 9 rfl rfl)
theorem dX5_teaches_82 : decode cX5_teaches 82 = .ok (.iaload, 1) := dk_46 (dk_at dksX5_teaches_3 10 rfl rfl)
theorem dX5_teaches_83 : decode cX5_teaches 83 = .ok (.aload_n 0, 1) := dk_42 (dk_at dksX5_teaches_3 11 rfl rfl)
theorem dX5_teaches_84 : decode cX5_teaches 84 = .ok (.getfield 33, 3) := dk_180 0 33 (dk_at dksX5_teaches_3 12 rfl rfl)
theorem dX5_teaches_87 : decode cX5_teaches 87 = .ok (.iload_n 2, 1) := dk_28 (dk_at dksX5_teaches_3 15 rfl rfl)
theorem dX5_teaches_88 : decode cX5_teaches 88 = .ok (.iaload, 1) := dk_46 (dk_at dksX5_teaches_3 16 rfl rfl)
theorem dX5_teaches_89 : decode cX5_teaches 89 = .ok (.invokestatic 82, 3) := dk_184 0 82 (dk_at dksX5_teaches_3 17 rfl rfl)
theorem dX5_teaches_92 : decode cX5_teaches 92 = .ok (.ifCond .ne 40, 3) := dk_154 0 40 (dk_at dksX5_teaches_3 20 rfl rfl)
theorem dX5_teaches_95 : decode cX5_teaches 95 = .ok (.aload_n 0, 1) := dk_42 (dk_at dksX5_teaches_3 23 rfl rfl)
theorem dX5_teaches_96 : decode cX5_teaches 96 = .ok (.getfield 3, 3) := dk_180 0 3 (dk_at dksX5_teaches_4 0 rfl rfl)
theorem dX5_teaches_99 : decode cX5_teaches 99 = .ok (.getfield 53, 3) := dk_180 0 53 (dk_at dksX5_teaches_4 3 rfl rfl)
theorem dX5_teaches_102 : decode cX5_teaches 102 = .ok (.getfield 132, 3) := dk_180 0 132 (dk_at dksX5_teaches_4 6 rfl rfl)
theorem dX5_teaches_105 : decode cX5_teaches 105 = .ok (.ifnull 31, 3) := dk_198 0 31 (dk_at dksX5_teaches_4 9 rfl rfl)
theorem dX5_teaches_108 : decode cX5_teaches 108 = .ok (.aload_n 0, 1) := dk_42 (dk_at dksX5_teaches_4 12 rfl rfl)
theorem dX5_teaches_109 : decode cX5_teaches 109 = .ok (.aload_n 0, 1) := dk_42 (dk_at dksX5_teaches_4 13 rfl rfl)
theorem dX5_teaches_110 : decode cX5_teaches 110 = .ok (.getfield 3, 3) := dk_180 0 3 (dk_at dksX5_teaches_4 14 rfl rfl)
theorem dX5_teaches_113 : decode cX5_teaches 113 = .ok (.getfield 53, 3) := dk_180 0 53 (dk_at dksX5_teaches_4 17 rfl rfl)
theorem dX5_teaches_116 : decode cX5_teaches 116 = .ok (.getfield 132, 3) := dk_180 0 132 (dk_at dksX5_teaches_4 20 rfl rfl)
theorem dX5_teaches_119 : decode cX5_teaches 119 = .ok (.iload_n 2, 1) := dk_28 (dk_at dksX5_teaches_4 23 rfl rfl)
theorem dX5_teaches_120 : decode cX5_teaches 120 = .ok (.aload_n 0, 1) := dk_42 (dk_at dksX5_teaches_5 0 rfl rfl)
theorem dX5_teaches_121 : decode cX5_teaches 121 = .ok (.getfield 33, 3) := dk_180 0 33 (dk_at dksX5_teaches_5 1 rfl rfl)
theorem dX5_teaches_124 : decode cX5_teaches 124 = .ok (.iload_n 2, 1) := dk_28 (dk_at dksX5_teaches_5 4 rfl rfl)
theorem dX5_teaches_125 : decode cX5_teaches 125 = .ok (.iaload, 1) := dk_46 (dk_at dksX5_teaches_5 5 rfl rfl)
theorem dX5_teaches_126 : decode cX5_teaches 126 = .ok (.invokevirtual 124, 3) := dk_182 0 124 (dk_at dksX5_teaches_5 6 rfl rfl)
theorem dX5_teaches_129 : decode cX5_teaches 129 = .ok (.ifCond .eq 7, 3) := dk_153 0 7 (dk_at dksX5_teaches_5 9 rfl rfl)
theorem dX5_teaches_132 : decode cX5_teaches 132 = .ok (.iconst 1, 1) := dk_4 (dk_at dksX5_teaches_5 12 rfl rfl)
theorem dX5_teaches_133 : decode cX5_teaches 133 = .ok (.goto 4, 3) := dk_167 0 4 (dk_at dksX5_teaches_5 13 rfl rfl)
theorem dX5_teaches_136 : decode cX5_teaches 136 = .ok (.iconst 0, 1) := dk_3 (dk_at dksX5_teaches_5 16 rfl rfl)
theorem dX5_teaches_137 : decode cX5_teaches 137 = .ok (.istore_n 3, 1) := dk_62 (dk_at dksX5_teaches_5 17 rfl rfl)
theorem dX5_teaches_138 : decode cX5_teaches 138 = .ok (.aload_n 0, 1) := dk_42 (dk_at dksX5_teaches_5 18 rfl rfl)
theorem dX5_teaches_139 : decode cX5_teaches 139 = .ok (.dup, 1) := dk_89 (dk_at dksX5_teaches_5 19 rfl rfl)
theorem dX5_teaches_140 : decode cX5_teaches 140 = .ok (.getfield 127, 3) := dk_180 0 127 (dk_at dksX5_teaches_5 20 rfl rfl)
theorem dX5_teaches_143 : decode cX5_teaches 143 = .ok (.iload_n 3, 1) := dk_29 (dk_at dksX5_teaches_5 23 rfl rfl)
theorem dX5_teaches_144 : decode cX5_teaches 144 = .ok (.ifCond .eq 9, 3) := dk_153 0 9 (dk_at dksX5_teaches_6 0 rfl rfl)
theorem dX5_teaches_147 : decode cX5_teaches 147 = .ok (.iconst 1, 1) := dk_4 (dk_at dksX5_teaches_6 3 rfl rfl)
theorem dX5_teaches_148 : decode cX5_teaches 148 = .ok (.iload_n 2, 1) := dk_28 (dk_at dksX5_teaches_6 4 rfl rfl)
theorem dX5_teaches_149 : decode cX5_teaches 149 = .ok (.ishl, 1) := dk_120 (dk_at dksX5_teaches_6 5 rfl rfl)
theorem dX5_teaches_150 : decode cX5_teaches 150 = .ok (.goto 4, 3) := dk_167 0 4 (dk_at dksX5_teaches_6 6 rfl rfl)
theorem dX5_teaches_153 : decode cX5_teaches 153 = .ok (.iconst 0, 1) := dk_3 (dk_at dksX5_teaches_6 9 rfl rfl)
theorem dX5_teaches_154 : decode cX5_teaches 154 = .ok (.ior, 1) := dk_128 (dk_at dksX5_teaches_6 10 rfl rfl)
theorem dX5_teaches_155 : decode cX5_teaches 155 = .ok (.putfield 127, 3) := dk_181 0 127 (dk_at dksX5_teaches_6 11 rfl rfl)
theorem dX5_teaches_158 : decode cX5_teaches 158 = .ok (.iinc 2 1, 3) := dk_132 2 1 (dk_at dksX5_teaches_6 14 rfl rfl)
theorem dX5_teaches_161 : decode cX5_teaches 161 = .ok (.goto (-154), 3) := dk_167 255 102 (dk_at dksX5_teaches_6 17 rfl rfl)
theorem dX5_teaches_164 : decode cX5_teaches 164 = .ok (.iconst 0, 1) := dk_3 (dk_at dksX5_teaches_6 20 rfl rfl)
theorem dX5_teaches_165 : decode cX5_teaches 165 = .ok (.istore_n 2, 1) := dk_61 (dk_at dksX5_teaches_6 21 rfl rfl)
theorem dX5_teaches_166 : decode cX5_teaches 166 = .ok (.iload_n 2, 1) := dk_28 (dk_at dksX5_teaches_6 22 rfl rfl)
theorem dX5_teaches_167 : decode cX5_teaches 167 = .ok (.aload_n 0, 1) := dk_42 (dk_at dksX5_teaches_6 23 rfl rfl)
theorem dX5_teaches_168 : decode cX5_teaches 168 = .ok (.getfield 3, 3) := dk_180 0 3 (dk_at dksX5_teaches_7 0 rfl rfl)
theorem dX5_teaches_171 : decode cX5_teaches 171 = .ok (.invokevirtual 49, 3) := dk_182 0 49 (dk_at dksX5_teaches_7 3 rfl rfl)
theorem dX5_teaches_174 : decode cX5_teaches 174 = .ok (.if_icmp .ge 77, 3) := dk_162 0 77 (dk_at dksX5_teaches_7 6 rfl rfl)
theorem dX5_teaches_177 : decode cX5_teaches 177 = .ok (.aload_n 0, 1) := dk_42 (dk_at dksX5_teaches_7 9 rfl rfl)
theorem dX5_teaches_178 : decode cX5_teaches 178 = .ok (.getfield 33, 3) := dk_180 0 33 (dk_at dksX5_teaches_7 10 rfl rfl)
theorem dX5_teaches_181 : decode cX5_teaches 181 = .ok (.iload_n 2, 1) := dk_28 (dk_at dksX5_teaches_7 13 rfl rfl)
theorem dX5_teaches_182 : decode cX5_teaches 182 = .ok (.iaload, 1) := dk_46 (dk_at dksX5_teaches_7 14 rfl rfl)
theorem dX5_teaches_183 : decode cX5_teaches 183 = .ok (.iconst (-1), 1) := dk_2 (dk_at dksX5_teaches_7 15 rfl rfl)
theorem dX5_teaches_184 : decode cX5_teaches 184 = .ok (.if_icmp .ne 6, 3) := dk_160 0 6 (dk_at dksX5_teaches_7 16 rfl rfl)
theorem dX5_teaches_187 : decode cX5_teaches 187 = .ok (.goto 58, 3) := dk_167 0 58 (dk_at dksX5_teaches_7 19 rfl rfl)
theorem dX5_teaches_190 : decode cX5_teaches 190 = .ok (.iconst 1, 1) := dk_4 (dk_at dksX5_teaches_7 22 rfl rfl)
theorem dX5_teaches_191 : decode cX5_teaches 191 = .ok (.aload_n 0, 1) := dk_42 (dk_at dksX5_teaches_7 23 rfl rfl)
theorem dX5_teaches_192 : decode cX5_teaches 192 = .ok (.getfield 33, 3) := dk_180 0 33 (dk_at dksX5_teaches_8 0 rfl rfl)
theorem dX5_teaches_195 : decode cX5_teaches 195 = .ok (.iload_n 2, 1) := dk_28 (dk_at dksX5_teaches_8 3 rfl rfl)
theorem dX5_teaches_196 : decode cX5_teaches 196 = .ok (.iaload, 1) := dk_46 (dk_at dksX5_teaches_8 4 rfl rfl)
theorem dX5_teaches_197 : decode cX5_teaches 197 = .ok (.ishl, 1) := dk_120 (dk_at dksX5_teaches_8 5 rfl rfl)
theorem dX5_teaches_198 : decode cX5_teaches 198 = .ok (.istore_n 3, 1) := dk_62 (dk_at dksX5_teaches_8 6 rfl rfl)
theorem dX5_teaches_199 : decode cX5_teaches 199 = .ok (.aload_n 0, 1) := dk_42 (dk_at dksX5_teaches_8 7 rfl rfl)
theorem dX5_teaches_200 : decode cX5_teaches 200 = .ok (.getfield 22, 3) := dk_180 0 22 (dk_at dksX5_teaches_8 8 rfl rfl)
theorem dX5_teaches_203 : decode cX5_teaches 203 = .ok (.iload_n 2, 1) := dk_28 (dk_at dksX5_teaches_8 11 rfl rfl)
theorem dX5_teaches_204 : decode cX5_teaches 204 = .ok (.dup2, 1) := dk_92 (dk_at dksX5_teaches_8 12 rfl rfl)
theorem dX5_teaches_205 : decode cX5_teaches 205 = .ok (.iaload, 1) := dk_46 (dk_at dksX5_teaches_8 13 rfl rfl)
theorem dX5_teaches_206 : decode cX5_teaches 206 = .ok (.iload_n 3, 1) := dk_29 (dk_at dksX5_teaches_8 14 rfl rfl)
theorem dX5_teaches_207 : decode cX5_teaches 207 = .ok (.iconst (-1), 1) := dk_2 (dk_at dksX5_teaches_8 15 rfl rfl)
theorem dX5_teaches_208 : decode cX5_teaches 208 = .ok (.ixor, 1) := dk_130 (dk_at dksX5_teaches_8 16 rfl rfl)
theorem dX5_teaches_209 : decode cX5_teaches 209 = .ok (.iand, 1) := dk_126 (dk_at dksX5_teaches_8 17 rfl rfl)
theorem dX5_teaches_210 : decode cX5_teaches 210 = .ok (.iastore, 1) := dk_79 (dk_at dksX5_teaches_8 18 rfl rfl)
theorem dX5_teaches_211 : decode cX5_teaches 211 = .ok (.aload_n 0, 1) := dk_42 (dk_at dksX5_teaches_8 19 rfl rfl)
theorem dX5_teaches_212 : decode cX5_teaches 212 = .ok (.getfield 127, 3) := dk_180 0 127 (dk_at dksX5_teaches_8 20 rfl rfl)
theorem dX5_teaches_215 : decode cX5_teaches 215 = .ok (.iload_n 2, 1) := dk_28 (dk_at dksX5_teaches_8 23 rfl rfl)
theorem dX5_teaches_216 : decode cX5_teaches 216 = .ok (.invokestatic 82, 3) := dk_184 0 82 (dk_at dksX5_teaches_9 0 rfl rfl)
theorem dX5_teaches_219 : decode cX5_teaches 219 = .ok (.ifCond .eq 16, 3) := dk_153 0 16 (dk_at dksX5_teaches_9 3 rfl rfl)
theorem dX5_teaches_222 : decode cX5_teaches 222 = .ok (.aload_n 0, 1) := dk_42 (dk_at dksX5_teaches_9 6 rfl rfl)
theorem dX5_teaches_223 : decode cX5_teaches 223 = .ok (.getfield 22, 3) := dk_180 0 22 (dk_at dksX5_teaches_9 7 rfl rfl)
theorem dX5_teaches_226 : decode cX5_teaches 226 = .ok (.iload_n 2, 1) := dk_28 (dk_at dksX5_teaches_9 10 rfl rfl)
theorem dX5_teaches_227 : decode cX5_teaches 227 = .ok (.dup2, 1) := dk_92 (dk_at dksX5_teaches_9 11 rfl rfl)
theorem dX5_teaches_228 : decode cX5_teaches 228 = .ok (.iaload, 1) := dk_46 (dk_at dksX5_teaches_9 12 rfl rfl)
theorem dX5_teaches_229 : decode cX5_teaches 229 = .ok (.iload_n 3, 1) := dk_29 (dk_at dksX5_teaches_9 13 rfl rfl)
theorem dX5_teaches_230 : decode cX5_teaches 230 = .ok (.ior, 1) := dk_128 (dk_at dksX5_teaches_9 14 rfl rfl)
theorem dX5_teaches_231 : decode cX5_teaches 231 = .ok (.iastore, 1) := dk_79 (dk_at dksX5_teaches_9 15 rfl rfl)
theorem dX5_teaches_232 : decode cX5_teaches 232 = .ok (.goto 13, 3) := dk_167 0 13 (dk_at dksX5_teaches_9 16 rfl rfl)
theorem dX5_teaches_235 : decode cX5_teaches 235 = .ok (.aload_n 0, 1) := dk_42 (dk_at dksX5_teaches_9 19 rfl rfl)
theorem dX5_teaches_236 : decode cX5_teaches 236 = .ok (.getfield 19, 3) := dk_180 0 19 (dk_at dksX5_teaches_9 20 rfl rfl)
theorem dX5_teaches_239 : decode cX5_teaches 239 = .ok (.iload_n 2, 1) := dk_28 (dk_at dksX5_teaches_9 23 rfl rfl)
theorem dX5_teaches_240 : decode cX5_teaches 240 = .ok (.dup2, 1) := dk_92 (dk_at dksX5_teaches_10 0 rfl rfl)
theorem dX5_teaches_241 : decode cX5_teaches 241 = .ok (.iaload, 1) := dk_46 (dk_at dksX5_teaches_10 1 rfl rfl)
theorem dX5_teaches_242 : decode cX5_teaches 242 = .ok (.iload_n 3, 1) := dk_29 (dk_at dksX5_teaches_10 2 rfl rfl)
theorem dX5_teaches_243 : decode cX5_teaches 243 = .ok (.ior, 1) := dk_128 (dk_at dksX5_teaches_10 3 rfl rfl)
theorem dX5_teaches_244 : decode cX5_teaches 244 = .ok (.iastore, 1) := dk_79 (dk_at dksX5_teaches_10 4 rfl rfl)
theorem dX5_teaches_245 : decode cX5_teaches 245 = .ok (.iinc 2 1, 3) := dk_132 2 1 (dk_at dksX5_teaches_10 5 rfl rfl)
theorem dX5_teaches_248 : decode cX5_teaches 248 = .ok (.goto (-82), 3) := dk_167 255 174 (dk_at dksX5_teaches_10 8 rfl rfl)
theorem dX5_teaches_251 : decode cX5_teaches 251 = .ok (.return_, 1) := dk_177 (dk_at dksX5_teaches_10 11 rfl rfl)
abbrev cX5_examines : ByteArray := prog_17_method_11_code
def yX5_examines : MethodName := ⟨RX5, "examines", "(I)V"⟩
def dkwX5_examines_5 : List UInt8 := [92, 46, 4, 100, 79, 132, 2, 1, 167, 255, 136, 177]
abbrev dktX5_examines_5 : List UInt8 := dkwX5_examines_5 ++ []
def dkwX5_examines_4 : List UInt8 := [180, 0, 40, 4, 28, 120, 128, 181, 0, 40, 42, 28, 4, 182, 0, 141, 167, 0, 13, 42, 180, 0, 25, 28]
abbrev dktX5_examines_4 : List UInt8 := dkwX5_examines_4 ++ dktX5_examines_5
def dkwX5_examines_3 : List UInt8 := [167, 0, 52, 42, 28, 182, 0, 111, 42, 180, 0, 3, 180, 0, 53, 180, 0, 138, 161, 0, 24, 42, 89]
abbrev dktX5_examines_3 : List UInt8 := dkwX5_examines_3 ++ dktX5_examines_4
def dkwX5_examines_2 : List UInt8 := [198, 0, 25, 42, 42, 180, 0, 3, 180, 0, 53, 180, 0, 135, 28, 2, 182, 0, 124, 154, 0, 6]
abbrev dktX5_examines_2 : List UInt8 := dkwX5_examines_2 ++ dktX5_examines_3
def dkwX5_examines_1 : List UInt8 := [154, 0, 96, 42, 180, 0, 25, 28, 46, 153, 0, 87, 42, 180, 0, 3, 180, 0, 53, 180, 0, 135]
abbrev dktX5_examines_1 : List UInt8 := dkwX5_examines_1 ++ dktX5_examines_2
def dkwX5_examines_0 : List UInt8 := [3, 61, 28, 42, 180, 0, 3, 182, 0, 49, 162, 0, 115, 42, 180, 0, 40, 27, 128, 28, 184, 0, 82]
abbrev dktX5_examines_0 : List UInt8 := dkwX5_examines_0 ++ dktX5_examines_1
theorem dksX5_examines_0 : cX5_examines.data.toList.drop 0 = dktX5_examines_0 := by decide +kernel
theorem dksX5_examines_1 : cX5_examines.data.toList.drop 23 = dktX5_examines_1 := dk_seg dksX5_examines_0 23 rfl rfl
theorem dksX5_examines_2 : cX5_examines.data.toList.drop 45 = dktX5_examines_2 := dk_seg dksX5_examines_1 22 rfl rfl
theorem dksX5_examines_3 : cX5_examines.data.toList.drop 67 = dktX5_examines_3 := dk_seg dksX5_examines_2 22 rfl rfl
theorem dksX5_examines_4 : cX5_examines.data.toList.drop 90 = dktX5_examines_4 := dk_seg dksX5_examines_3 23 rfl rfl
theorem dksX5_examines_5 : cX5_examines.data.toList.drop 114 = dktX5_examines_5 := dk_seg dksX5_examines_4 24 rfl rfl
theorem dX5_examines_0 : decode cX5_examines 0 = .ok (.iconst 0, 1) := dk_3 (dk_at dksX5_examines_0 0 rfl rfl)
theorem dX5_examines_1 : decode cX5_examines 1 = .ok (.istore_n 2, 1) := dk_61 (dk_at dksX5_examines_0 1 rfl rfl)
theorem dX5_examines_2 : decode cX5_examines 2 = .ok (.iload_n 2, 1) := dk_28 (dk_at dksX5_examines_0 2 rfl rfl)
theorem dX5_examines_3 : decode cX5_examines 3 = .ok (.aload_n 0, 1) := dk_42 (dk_at dksX5_examines_0 3 rfl rfl)
theorem dX5_examines_4 : decode cX5_examines 4 = .ok (.getfield 3, 3) := dk_180 0 3 (dk_at dksX5_examines_0 4 rfl rfl)
theorem dX5_examines_7 : decode cX5_examines 7 = .ok (.invokevirtual 49, 3) := dk_182 0 49 (dk_at dksX5_examines_0 7 rfl rfl)
theorem dX5_examines_10 : decode cX5_examines 10 = .ok (.if_icmp .ge 115, 3) := dk_162 0 115 (dk_at dksX5_examines_0 10 rfl rfl)
theorem dX5_examines_13 : decode cX5_examines 13 = .ok (.aload_n 0, 1) := dk_42 (dk_at dksX5_examines_0 13 rfl rfl)
theorem dX5_examines_14 : decode cX5_examines 14 = .ok (.getfield 40, 3) := dk_180 0 40 (dk_at dksX5_examines_0 14 rfl rfl)
theorem dX5_examines_17 : decode cX5_examines 17 = .ok (.iload_n 1, 1) := dk_27 (dk_at dksX5_examines_0 17 rfl rfl)
theorem dX5_examines_18 : decode cX5_examines 18 = .ok (.ior, 1) := dk_128 (dk_at dksX5_examines_0 18 rfl rfl)
theorem dX5_examines_19 : decode cX5_examines 19 = .ok (.iload_n 2, 1) := dk_28 (dk_at dksX5_examines_0 19 rfl rfl)
theorem dX5_examines_20 : decode cX5_examines 20 = .ok (.invokestatic 82, 3) := dk_184 0 82 (dk_at dksX5_examines_0 20 rfl rfl)
theorem dX5_examines_23 : decode cX5_examines 23 = .ok (.ifCond .ne 96, 3) := dk_154 0 96 (dk_at dksX5_examines_1 0 rfl rfl)
theorem dX5_examines_26 : decode cX5_examines 26 = .ok (.aload_n 0, 1) := dk_42 (dk_at dksX5_examines_1 3 rfl rfl)
theorem dX5_examines_27 : decode cX5_examines 27 = .ok (.getfield 25, 3) := dk_180 0 25 (dk_at dksX5_examines_1 4 rfl rfl)
theorem dX5_examines_30 : decode cX5_examines 30 = .ok (.iload_n 2, 1) := dk_28 (dk_at dksX5_examines_1 7 rfl rfl)
theorem dX5_examines_31 : decode cX5_examines 31 = .ok (.iaload, 1) := dk_46 (dk_at dksX5_examines_1 8 rfl rfl)
theorem dX5_examines_32 : decode cX5_examines 32 = .ok (.ifCond .eq 87, 3) := dk_153 0 87 (dk_at dksX5_examines_1 9 rfl rfl)
theorem dX5_examines_35 : decode cX5_examines 35 = .ok (.aload_n 0, 1) := dk_42 (dk_at dksX5_examines_1 12 rfl rfl)
theorem dX5_examines_36 : decode cX5_examines 36 = .ok (.getfield 3, 3) := dk_180 0 3 (dk_at dksX5_examines_1 13 rfl rfl)
theorem dX5_examines_39 : decode cX5_examines 39 = .ok (.getfield 53, 3) := dk_180 0 53 (dk_at dksX5_examines_1 16 rfl rfl)
theorem dX5_examines_42 : decode cX5_examines 42 = .ok (.getfield 135, 3) := dk_180 0 135 (dk_at dksX5_examines_1 19 rfl rfl)
theorem dX5_examines_45 : decode cX5_examines 45 = .ok (.ifnull 25, 3) := dk_198 0 25 (dk_at dksX5_examines_2 0 rfl rfl)
theorem dX5_examines_48 : decode cX5_examines 48 = .ok (.aload_n 0, 1) := dk_42 (dk_at dksX5_examines_2 3 rfl rfl)
theorem dX5_examines_49 : decode cX5_examines 49 = .ok (.aload_n 0, 1) := dk_42 (dk_at dksX5_examines_2 4 rfl rfl)
theorem dX5_examines_50 : decode cX5_examines 50 = .ok (.getfield 3, 3) := dk_180 0 3 (dk_at dksX5_examines_2 5 rfl rfl)
theorem dX5_examines_53 : decode cX5_examines 53 = .ok (.getfield 53, 3) := dk_180 0 53 (dk_at dksX5_examines_2 8 rfl rfl)
theorem dX5_examines_56 : decode cX5_examines 56 = .ok (.getfield 135, 3) := dk_180 0 135 (dk_at dksX5_examines_2 11 rfl rfl)
theorem dX5_examines_59 : decode cX5_examines 59 = .ok (.iload_n 2, 1) := dk_28 (dk_at dksX5_examines_2 14 rfl rfl)
theorem dX5_examines_60 : decode cX5_examines 60 = .ok (.iconst (-1), 1) := dk_2 (dk_at dksX5_examines_2 15 rfl rfl)
theorem dX5_examines_61 : decode cX5_examines 61 = .ok (.invokevirtual 124, 3) := dk_182 0 124 (dk_at dksX5_examines_2 16 rfl rfl)
theorem dX5_examines_64 : decode cX5_examines 64 = .ok (.ifCond .ne 6, 3) := dk_154 0 6 (dk_at dksX5_examines_2 19 rfl rfl)
theorem dX5_examines_67 : decode cX5_examines 67 = .ok (.goto 52, 3) := dk_167 0 52 (dk_at dksX5_examines_3 0 rfl rfl)
theorem dX5_examines_70 : decode cX5_examines 70 = .ok (.aload_n 0, 1) := dk_42 (dk_at dksX5_examines_3 3 rfl rfl)
theorem dX5_examines_71 : decode cX5_examines 71 = .ok (.iload_n 2, 1) := dk_28 (dk_at dksX5_examines_3 4 rfl rfl)
theorem dX5_examines_72 : decode cX5_examines 72 = .ok (.invokevirtual 111, 3) := dk_182 0 111 (dk_at dksX5_examines_3 5 rfl rfl)
theorem dX5_examines_75 : decode cX5_examines 75 = .ok (.aload_n 0, 1) := dk_42 (dk_at dksX5_examines_3 8 rfl rfl)
theorem dX5_examines_76 : decode cX5_examines 76 = .ok (.getfield 3, 3) := dk_180 0 3 (dk_at dksX5_examines_3 9 rfl rfl)
theorem dX5_examines_79 : decode cX5_examines 79 = .ok (.getfield 53, 3) := dk_180 0 53 (dk_at dksX5_examines_3 12 rfl rfl)
theorem dX5_examines_82 : decode cX5_examines 82 = .ok (.getfield 138, 3) := dk_180 0 138 (dk_at dksX5_examines_3 15 rfl rfl)
theorem dX5_examines_85 : decode cX5_examines 85 = .ok (.if_icmp .lt 24, 3) := dk_161 0 24 (dk_at dksX5_examines_3 18 rfl rfl)
theorem dX5_examines_88 : decode cX5_examines 88 = .ok (.aload_n 0, 1) := dk_42 (dk_at dksX5_examines_3 21 rfl rfl)
theorem dX5_examines_89 : decode cX5_examines 89 = .ok (.dup, 1) := dk_89 (dk_at dksX5_examines_3 22 rfl rfl)
theorem dX5_examines_90 : decode cX5_examines 90 = .ok (.getfield 40, 3) := dk_180 0 40 (dk_at dksX5_examines_4 0 rfl rfl)
theorem dX5_examines_93 : decode cX5_examines 93 = .ok (.iconst 1, 1) := dk_4 (dk_at dksX5_examines_4 3 rfl rfl)
theorem dX5_examines_94 : decode cX5_examines 94 = .ok (.iload_n 2, 1) := dk_28 (dk_at dksX5_examines_4 4 rfl rfl)
theorem dX5_examines_95 : decode cX5_examines 95 = .ok (.ishl, 1) := dk_120 (dk_at dksX5_examines_4 5 rfl rfl)
theorem dX5_examines_96 : decode cX5_examines 96 = .ok (.ior, 1) := dk_128 (dk_at dksX5_examines_4 6 rfl rfl)
theorem dX5_examines_97 : decode cX5_examines 97 = .ok (.putfield 40, 3) := dk_181 0 40 (dk_at dksX5_examines_4 7 rfl rfl)
theorem dX5_examines_100 : decode cX5_examines 100 = .ok (.aload_n 0, 1) := dk_42 (dk_at dksX5_examines_4 10 rfl rfl)
theorem dX5_examines_101 : decode cX5_examines 101 = .ok (.iload_n 2, 1) := dk_28 (dk_at dksX5_examines_4 11 rfl rfl)
theorem dX5_examines_102 : decode cX5_examines 102 = .ok (.iconst 1, 1) := dk_4 (dk_at dksX5_examines_4 12 rfl rfl)
theorem dX5_examines_103 : decode cX5_examines 103 = .ok (.invokevirtual 141, 3) := dk_182 0 141 (dk_at dksX5_examines_4 13 rfl rfl)
theorem dX5_examines_106 : decode cX5_examines 106 = .ok (.goto 13, 3) := dk_167 0 13 (dk_at dksX5_examines_4 16 rfl rfl)
theorem dX5_examines_109 : decode cX5_examines 109 = .ok (.aload_n 0, 1) := dk_42 (dk_at dksX5_examines_4 19 rfl rfl)
theorem dX5_examines_110 : decode cX5_examines 110 = .ok (.getfield 25, 3) := dk_180 0 25 (dk_at dksX5_examines_4 20 rfl rfl)
theorem dX5_examines_113 : decode cX5_examines 113 = .ok (.iload_n 2, 1) := dk_28 (dk_at dksX5_examines_4 23 rfl rfl)
theorem dX5_examines_114 : decode cX5_examines 114 = .ok (.dup2, 1) := dk_92 (dk_at dksX5_examines_5 0 rfl rfl)
theorem dX5_examines_115 : decode cX5_examines 115 = .ok (.iaload, 1) := dk_46 (dk_at dksX5_examines_5 1 rfl rfl)
theorem dX5_examines_116 : decode cX5_examines 116 = .ok (.iconst 1, 1) := dk_4 (dk_at dksX5_examines_5 2 rfl rfl)
theorem dX5_examines_117 : decode cX5_examines 117 = .ok (.isub, 1) := dk_100 (dk_at dksX5_examines_5 3 rfl rfl)
theorem dX5_examines_118 : decode cX5_examines 118 = .ok (.iastore, 1) := dk_79 (dk_at dksX5_examines_5 4 rfl rfl)
theorem dX5_examines_119 : decode cX5_examines 119 = .ok (.iinc 2 1, 3) := dk_132 2 1 (dk_at dksX5_examines_5 5 rfl rfl)
theorem dX5_examines_122 : decode cX5_examines 122 = .ok (.goto (-120), 3) := dk_167 255 136 (dk_at dksX5_examines_5 8 rfl rfl)
theorem dX5_examines_125 : decode cX5_examines 125 = .ok (.return_, 1) := dk_177 (dk_at dksX5_examines_5 11 rfl rfl)
abbrev cX5_tells : ByteArray := prog_17_method_10_code
def yX5_tells : MethodName := ⟨RX5, "tells", "(II)V"⟩
def dkwX5_tells_5 : List UInt8 := [177]
abbrev dktX5_tells_5 : List UInt8 := dkwX5_tells_5 ++ []
def dkwX5_tells_4 : List UInt8 := [27, 79, 42, 180, 0, 30, 42, 180, 0, 46, 50, 5, 28, 79, 42, 89, 180, 0, 46, 4, 96, 181, 0, 46]
abbrev dktX5_tells_4 : List UInt8 := dkwX5_tells_4 ++ dktX5_tells_5
def dkwX5_tells_3 : List UInt8 := [180, 0, 30, 42, 180, 0, 46, 50, 3, 42, 180, 0, 36, 79, 42, 180, 0, 30, 42, 180, 0, 46, 50, 4]
abbrev dktX5_tells_3 : List UInt8 := dkwX5_tells_3 ++ dktX5_tells_4
def dkwX5_tells_2 : List UInt8 := [167, 255, 230, 42, 180, 0, 30, 16, 29, 45, 83, 42, 89, 180, 0, 46, 4, 100, 181, 0, 46, 42]
abbrev dktX5_tells_2 : List UInt8 := dkwX5_tells_2 ++ dktX5_tells_3
def dkwX5_tells_1 : List UInt8 := [162, 0, 25, 42, 180, 0, 30, 21, 4, 4, 100, 42, 180, 0, 30, 21, 4, 50, 83, 132, 4, 1]
abbrev dktX5_tells_1 : List UInt8 := dkwX5_tells_1 ++ dktX5_tells_2
def dkwX5_tells_0 : List UInt8 := [42, 180, 0, 46, 16, 30, 160, 0, 60, 42, 180, 0, 30, 3, 50, 78, 4, 54, 4, 21, 4, 16, 30]
abbrev dktX5_tells_0 : List UInt8 := dkwX5_tells_0 ++ dktX5_tells_1
theorem dksX5_tells_0 : cX5_tells.data.toList.drop 0 = dktX5_tells_0 := by decide +kernel
theorem dksX5_tells_1 : cX5_tells.data.toList.drop 23 = dktX5_tells_1 := dk_seg dksX5_tells_0 23 rfl rfl
theorem dksX5_tells_2 : cX5_tells.data.toList.drop 45 = dktX5_tells_2 := dk_seg dksX5_tells_1 22 rfl rfl
theorem dksX5_tells_3 : cX5_tells.data.toList.drop 67 = dktX5_tells_3 := dk_seg dksX5_tells_2 22 rfl rfl
theorem dksX5_tells_4 : cX5_tells.data.toList.drop 91 = dktX5_tells_4 := dk_seg dksX5_tells_3 24 rfl rfl
theorem dksX5_tells_5 : cX5_tells.data.toList.drop 115 = dktX5_tells_5 := dk_seg dksX5_tells_4 24 rfl rfl
theorem dX5_tells_0 : decode cX5_tells 0 = .ok (.aload_n 0, 1) := dk_42 (dk_at dksX5_tells_0 0 rfl rfl)
theorem dX5_tells_1 : decode cX5_tells 1 = .ok (.getfield 46, 3) := dk_180 0 46 (dk_at dksX5_tells_0 1 rfl rfl)
theorem dX5_tells_4 : decode cX5_tells 4 = .ok (.bipush 30, 2) := dk_16 30 (dk_at dksX5_tells_0 4 rfl rfl)
theorem dX5_tells_6 : decode cX5_tells 6 = .ok (.if_icmp .ne 60, 3) := dk_160 0 60 (dk_at dksX5_tells_0 6 rfl rfl)
theorem dX5_tells_9 : decode cX5_tells 9 = .ok (.aload_n 0, 1) := dk_42 (dk_at dksX5_tells_0 9 rfl rfl)
theorem dX5_tells_10 : decode cX5_tells 10 = .ok (.getfield 30, 3) := dk_180 0 30 (dk_at dksX5_tells_0 10 rfl rfl)
theorem dX5_tells_13 : decode cX5_tells 13 = .ok (.iconst 0, 1) := dk_3 (dk_at dksX5_tells_0 13 rfl rfl)
theorem dX5_tells_14 : decode cX5_tells 14 = .ok (.aaload, 1) := dk_50 (dk_at dksX5_tells_0 14 rfl rfl)
theorem dX5_tells_15 : decode cX5_tells 15 = .ok (.astore_n 3, 1) := dk_78 (dk_at dksX5_tells_0 15 rfl rfl)
theorem dX5_tells_16 : decode cX5_tells 16 = .ok (.iconst 1, 1) := dk_4 (dk_at dksX5_tells_0 16 rfl rfl)
theorem dX5_tells_17 : decode cX5_tells 17 = .ok (.istore 4, 2) := dk_54 4 (dk_at dksX5_tells_0 17 rfl rfl)
theorem dX5_tells_19 : decode cX5_tells 19 = .ok (.iload 4, 2) := dk_21 4 (dk_at dksX5_tells_0 19 rfl rfl)
theorem dX5_tells_21 : decode cX5_tells 21 = .ok (.bipush 30, 2) := dk_16 30 (dk_at dksX5_tells_0 21 rfl rfl)
theorem dX5_tells_23 : decode cX5_tells 23 = .ok (.if_icmp .ge 25, 3) := dk_162 0 25 (dk_at dksX5_tells_1 0 rfl rfl)
theorem dX5_tells_26 : decode cX5_tells 26 = .ok (.aload_n 0, 1) := dk_42 (dk_at dksX5_tells_1 3 rfl rfl)
theorem dX5_tells_27 : decode cX5_tells 27 = .ok (.getfield 30, 3) := dk_180 0 30 (dk_at dksX5_tells_1 4 rfl rfl)
theorem dX5_tells_30 : decode cX5_tells 30 = .ok (.iload 4, 2) := dk_21 4 (dk_at dksX5_tells_1 7 rfl rfl)
theorem dX5_tells_32 : decode cX5_tells 32 = .ok (.iconst 1, 1) := dk_4 (dk_at dksX5_tells_1 9 rfl rfl)
theorem dX5_tells_33 : decode cX5_tells 33 = .ok (.isub, 1) := dk_100 (dk_at dksX5_tells_1 10 rfl rfl)
theorem dX5_tells_34 : decode cX5_tells 34 = .ok (.aload_n 0, 1) := dk_42 (dk_at dksX5_tells_1 11 rfl rfl)
theorem dX5_tells_35 : decode cX5_tells 35 = .ok (.getfield 30, 3) := dk_180 0 30 (dk_at dksX5_tells_1 12 rfl rfl)
theorem dX5_tells_38 : decode cX5_tells 38 = .ok (.iload 4, 2) := dk_21 4 (dk_at dksX5_tells_1 15 rfl rfl)
theorem dX5_tells_40 : decode cX5_tells 40 = .ok (.aaload, 1) := dk_50 (dk_at dksX5_tells_1 17 rfl rfl)
theorem dX5_tells_41 : decode cX5_tells 41 = .ok (.aastore, 1) := dk_83 (dk_at dksX5_tells_1 18 rfl rfl)
theorem dX5_tells_42 : decode cX5_tells 42 = .ok (.iinc 4 1, 3) := dk_132 4 1 (dk_at dksX5_tells_1 19 rfl rfl)
theorem dX5_tells_45 : decode cX5_tells 45 = .ok (.goto (-26), 3) := dk_167 255 230 (dk_at dksX5_tells_2 0 rfl rfl)
theorem dX5_tells_48 : decode cX5_tells 48 = .ok (.aload_n 0, 1) := dk_42 (dk_at dksX5_tells_2 3 rfl rfl)
theorem dX5_tells_49 : decode cX5_tells 49 = .ok (.getfield 30, 3) := dk_180 0 30 (dk_at dksX5_tells_2 4 rfl rfl)
theorem dX5_tells_52 : decode cX5_tells 52 = .ok (.bipush 29, 2) := dk_16 29 (dk_at dksX5_tells_2 7 rfl rfl)
theorem dX5_tells_54 : decode cX5_tells 54 = .ok (.aload_n 3, 1) := dk_45 (dk_at dksX5_tells_2 9 rfl rfl)
theorem dX5_tells_55 : decode cX5_tells 55 = .ok (.aastore, 1) := dk_83 (dk_at dksX5_tells_2 10 rfl rfl)
theorem dX5_tells_56 : decode cX5_tells 56 = .ok (.aload_n 0, 1) := dk_42 (dk_at dksX5_tells_2 11 rfl rfl)
theorem dX5_tells_57 : decode cX5_tells 57 = .ok (.dup, 1) := dk_89 (dk_at dksX5_tells_2 12 rfl rfl)
theorem dX5_tells_58 : decode cX5_tells 58 = .ok (.getfield 46, 3) := dk_180 0 46 (dk_at dksX5_tells_2 13 rfl rfl)
theorem dX5_tells_61 : decode cX5_tells 61 = .ok (.iconst 1, 1) := dk_4 (dk_at dksX5_tells_2 16 rfl rfl)
theorem dX5_tells_62 : decode cX5_tells 62 = .ok (.isub, 1) := dk_100 (dk_at dksX5_tells_2 17 rfl rfl)
theorem dX5_tells_63 : decode cX5_tells 63 = .ok (.putfield 46, 3) := dk_181 0 46 (dk_at dksX5_tells_2 18 rfl rfl)
theorem dX5_tells_66 : decode cX5_tells 66 = .ok (.aload_n 0, 1) := dk_42 (dk_at dksX5_tells_2 21 rfl rfl)
theorem dX5_tells_67 : decode cX5_tells 67 = .ok (.getfield 30, 3) := dk_180 0 30 (dk_at dksX5_tells_3 0 rfl rfl)
theorem dX5_tells_70 : decode cX5_tells 70 = .ok (.aload_n 0, 1) := dk_42 (dk_at dksX5_tells_3 3 rfl rfl)
theorem dX5_tells_71 : decode cX5_tells 71 = .ok (.getfield 46, 3) := dk_180 0 46 (dk_at dksX5_tells_3 4 rfl rfl)
theorem dX5_tells_74 : decode cX5_tells 74 = .ok (.aaload, 1) := dk_50 (dk_at dksX5_tells_3 7 rfl rfl)
theorem dX5_tells_75 : decode cX5_tells 75 = .ok (.iconst 0, 1) := dk_3 (dk_at dksX5_tells_3 8 rfl rfl)
theorem dX5_tells_76 : decode cX5_tells 76 = .ok (.aload_n 0, 1) := dk_42 (dk_at dksX5_tells_3 9 rfl rfl)
theorem dX5_tells_77 : decode cX5_tells 77 = .ok (.getfield 36, 3) := dk_180 0 36 (dk_at dksX5_tells_3 10 rfl rfl)
theorem dX5_tells_80 : decode cX5_tells 80 = .ok (.iastore, 1) := dk_79 (dk_at dksX5_tells_3 13 rfl rfl)
theorem dX5_tells_81 : decode cX5_tells 81 = .ok (.aload_n 0, 1) := dk_42 (dk_at dksX5_tells_3 14 rfl rfl)
theorem dX5_tells_82 : decode cX5_tells 82 = .ok (.getfield 30, 3) := dk_180 0 30 (dk_at dksX5_tells_3 15 rfl rfl)
theorem dX5_tells_85 : decode cX5_tells 85 = .ok (.aload_n 0, 1) := dk_42 (dk_at dksX5_tells_3 18 rfl rfl)
theorem dX5_tells_86 : decode cX5_tells 86 = .ok (.getfield 46, 3) := dk_180 0 46 (dk_at dksX5_tells_3 19 rfl rfl)
theorem dX5_tells_89 : decode cX5_tells 89 = .ok (.aaload, 1) := dk_50 (dk_at dksX5_tells_3 22 rfl rfl)
theorem dX5_tells_90 : decode cX5_tells 90 = .ok (.iconst 1, 1) := dk_4 (dk_at dksX5_tells_3 23 rfl rfl)
theorem dX5_tells_91 : decode cX5_tells 91 = .ok (.iload_n 1, 1) := dk_27 (dk_at dksX5_tells_4 0 rfl rfl)
theorem dX5_tells_92 : decode cX5_tells 92 = .ok (.iastore, 1) := dk_79 (dk_at dksX5_tells_4 1 rfl rfl)
theorem dX5_tells_93 : decode cX5_tells 93 = .ok (.aload_n 0, 1) := dk_42 (dk_at dksX5_tells_4 2 rfl rfl)
theorem dX5_tells_94 : decode cX5_tells 94 = .ok (.getfield 30, 3) := dk_180 0 30 (dk_at dksX5_tells_4 3 rfl rfl)
theorem dX5_tells_97 : decode cX5_tells 97 = .ok (.aload_n 0, 1) := dk_42 (dk_at dksX5_tells_4 6 rfl rfl)
theorem dX5_tells_98 : decode cX5_tells 98 = .ok (.getfield 46, 3) := dk_180 0 46 (dk_at dksX5_tells_4 7 rfl rfl)
theorem dX5_tells_101 : decode cX5_tells 101 = .ok (.aaload, 1) := dk_50 (dk_at dksX5_tells_4 10 rfl rfl)
theorem dX5_tells_102 : decode cX5_tells 102 = .ok (.iconst 2, 1) := dk_5 (dk_at dksX5_tells_4 11 rfl rfl)
theorem dX5_tells_103 : decode cX5_tells 103 = .ok (.iload_n 2, 1) := dk_28 (dk_at dksX5_tells_4 12 rfl rfl)
theorem dX5_tells_104 : decode cX5_tells 104 = .ok (.iastore, 1) := dk_79 (dk_at dksX5_tells_4 13 rfl rfl)
theorem dX5_tells_105 : decode cX5_tells 105 = .ok (.aload_n 0, 1) := dk_42 (dk_at dksX5_tells_4 14 rfl rfl)
theorem dX5_tells_106 : decode cX5_tells 106 = .ok (.dup, 1) := dk_89 (dk_at dksX5_tells_4 15 rfl rfl)
theorem dX5_tells_107 : decode cX5_tells 107 = .ok (.getfield 46, 3) := dk_180 0 46 (dk_at dksX5_tells_4 16 rfl rfl)
theorem dX5_tells_110 : decode cX5_tells 110 = .ok (.iconst 1, 1) := dk_4 (dk_at dksX5_tells_4 19 rfl rfl)
theorem dX5_tells_111 : decode cX5_tells 111 = .ok (.iadd, 1) := dk_96 (dk_at dksX5_tells_4 20 rfl rfl)
theorem dX5_tells_112 : decode cX5_tells 112 = .ok (.putfield 46, 3) := dk_181 0 46 (dk_at dksX5_tells_4 21 rfl rfl)
theorem dX5_tells_115 : decode cX5_tells 115 = .ok (.return_, 1) := dk_177 (dk_at dksX5_tells_5 0 rfl rfl)
abbrev cX5_isBy : ByteArray := prog_17_method_5_code
def yX5_isBy : MethodName := ⟨RX5, "isBy", "(II)Z"⟩
def dkwX5_isBy_1 : List UInt8 := [180, 0, 15, 29, 46, 62, 132, 4, 1, 167, 255, 229, 29, 28, 160, 0, 7, 4, 167, 0, 4, 3, 172]
abbrev dktX5_isBy_1 : List UInt8 := dkwX5_isBy_1 ++ []
def dkwX5_isBy_0 : List UInt8 := [27, 62, 3, 54, 4, 21, 4, 16, 8, 162, 0, 26, 29, 2, 159, 0, 21, 29, 28, 159, 0, 16, 42]
abbrev dktX5_isBy_0 : List UInt8 := dkwX5_isBy_0 ++ dktX5_isBy_1
theorem dksX5_isBy_0 : cX5_isBy.data.toList.drop 0 = dktX5_isBy_0 := by decide +kernel
theorem dksX5_isBy_1 : cX5_isBy.data.toList.drop 23 = dktX5_isBy_1 := dk_seg dksX5_isBy_0 23 rfl rfl
theorem dX5_isBy_0 : decode cX5_isBy 0 = .ok (.iload_n 1, 1) := dk_27 (dk_at dksX5_isBy_0 0 rfl rfl)
theorem dX5_isBy_1 : decode cX5_isBy 1 = .ok (.istore_n 3, 1) := dk_62 (dk_at dksX5_isBy_0 1 rfl rfl)
theorem dX5_isBy_2 : decode cX5_isBy 2 = .ok (.iconst 0, 1) := dk_3 (dk_at dksX5_isBy_0 2 rfl rfl)
theorem dX5_isBy_3 : decode cX5_isBy 3 = .ok (.istore 4, 2) := dk_54 4 (dk_at dksX5_isBy_0 3 rfl rfl)
theorem dX5_isBy_5 : decode cX5_isBy 5 = .ok (.iload 4, 2) := dk_21 4 (dk_at dksX5_isBy_0 5 rfl rfl)
theorem dX5_isBy_7 : decode cX5_isBy 7 = .ok (.bipush 8, 2) := dk_16 8 (dk_at dksX5_isBy_0 7 rfl rfl)
theorem dX5_isBy_9 : decode cX5_isBy 9 = .ok (.if_icmp .ge 26, 3) := dk_162 0 26 (dk_at dksX5_isBy_0 9 rfl rfl)
theorem dX5_isBy_12 : decode cX5_isBy 12 = .ok (.iload_n 3, 1) := dk_29 (dk_at dksX5_isBy_0 12 rfl rfl)
theorem dX5_isBy_13 : decode cX5_isBy 13 = .ok (.iconst (-1), 1) := dk_2 (dk_at dksX5_isBy_0 13 rfl rfl)
theorem dX5_isBy_14 : decode cX5_isBy 14 = .ok (.if_icmp .eq 21, 3) := dk_159 0 21 (dk_at dksX5_isBy_0 14 rfl rfl)
theorem dX5_isBy_17 : decode cX5_isBy 17 = .ok (.iload_n 3, 1) := dk_29 (dk_at dksX5_isBy_0 17 rfl rfl)
theorem dX5_isBy_18 : decode cX5_isBy 18 = .ok (.iload_n 2, 1) := dk_28 (dk_at dksX5_isBy_0 18 rfl rfl)
theorem dX5_isBy_19 : decode cX5_isBy 19 = .ok (.if_icmp .eq 16, 3) := dk_159 0 16 (dk_at dksX5_isBy_0 19 rfl rfl)
theorem dX5_isBy_22 : decode cX5_isBy 22 = .ok (.aload_n 0, 1) := dk_42 (dk_at dksX5_isBy_0 22 rfl rfl)
theorem dX5_isBy_23 : decode cX5_isBy 23 = .ok (.getfield 15, 3) := dk_180 0 15 (dk_at dksX5_isBy_1 0 rfl rfl)
theorem dX5_isBy_26 : decode cX5_isBy 26 = .ok (.iload_n 3, 1) := dk_29 (dk_at dksX5_isBy_1 3 rfl rfl)
theorem dX5_isBy_27 : decode cX5_isBy 27 = .ok (.iaload, 1) := dk_46 (dk_at dksX5_isBy_1 4 rfl rfl)
theorem dX5_isBy_28 : decode cX5_isBy 28 = .ok (.istore_n 3, 1) := dk_62 (dk_at dksX5_isBy_1 5 rfl rfl)
theorem dX5_isBy_29 : decode cX5_isBy 29 = .ok (.iinc 4 1, 3) := dk_132 4 1 (dk_at dksX5_isBy_1 6 rfl rfl)
theorem dX5_isBy_32 : decode cX5_isBy 32 = .ok (.goto (-27), 3) := dk_167 255 229 (dk_at dksX5_isBy_1 9 rfl rfl)
theorem dX5_isBy_35 : decode cX5_isBy 35 = .ok (.iload_n 3, 1) := dk_29 (dk_at dksX5_isBy_1 12 rfl rfl)
theorem dX5_isBy_36 : decode cX5_isBy 36 = .ok (.iload_n 2, 1) := dk_28 (dk_at dksX5_isBy_1 13 rfl rfl)
theorem dX5_isBy_37 : decode cX5_isBy 37 = .ok (.if_icmp .ne 7, 3) := dk_160 0 7 (dk_at dksX5_isBy_1 14 rfl rfl)
theorem dX5_isBy_40 : decode cX5_isBy 40 = .ok (.iconst 1, 1) := dk_4 (dk_at dksX5_isBy_1 17 rfl rfl)
theorem dX5_isBy_41 : decode cX5_isBy 41 = .ok (.goto 4, 3) := dk_167 0 4 (dk_at dksX5_isBy_1 18 rfl rfl)
theorem dX5_isBy_44 : decode cX5_isBy 44 = .ok (.iconst 0, 1) := dk_3 (dk_at dksX5_isBy_1 21 rfl rfl)
theorem dX5_isBy_45 : decode cX5_isBy 45 = .ok (.ireturn, 1) := dk_172 (dk_at dksX5_isBy_1 22 rfl rfl)
abbrev cX5_hears : ByteArray := prog_17_method_16_code
def yX5_hears : MethodName := ⟨RX5, "hears", "(II)V"⟩
def dkwX5_hears_1 : List UInt8 := [126, 79, 177]
abbrev dktX5_hears_1 : List UInt8 := dkwX5_hears_1 ++ []
def dkwX5_hears_0 : List UInt8 := [42, 180, 0, 19, 27, 92, 46, 4, 28, 120, 128, 79, 42, 180, 0, 22, 27, 92, 46, 4, 28, 120, 2, 130]
abbrev dktX5_hears_0 : List UInt8 := dkwX5_hears_0 ++ dktX5_hears_1
theorem dksX5_hears_0 : cX5_hears.data.toList.drop 0 = dktX5_hears_0 := by decide +kernel
theorem dksX5_hears_1 : cX5_hears.data.toList.drop 24 = dktX5_hears_1 := dk_seg dksX5_hears_0 24 rfl rfl
theorem dX5_hears_0 : decode cX5_hears 0 = .ok (.aload_n 0, 1) := dk_42 (dk_at dksX5_hears_0 0 rfl rfl)
theorem dX5_hears_1 : decode cX5_hears 1 = .ok (.getfield 19, 3) := dk_180 0 19 (dk_at dksX5_hears_0 1 rfl rfl)
theorem dX5_hears_4 : decode cX5_hears 4 = .ok (.iload_n 1, 1) := dk_27 (dk_at dksX5_hears_0 4 rfl rfl)
theorem dX5_hears_5 : decode cX5_hears 5 = .ok (.dup2, 1) := dk_92 (dk_at dksX5_hears_0 5 rfl rfl)
theorem dX5_hears_6 : decode cX5_hears 6 = .ok (.iaload, 1) := dk_46 (dk_at dksX5_hears_0 6 rfl rfl)
theorem dX5_hears_7 : decode cX5_hears 7 = .ok (.iconst 1, 1) := dk_4 (dk_at dksX5_hears_0 7 rfl rfl)
theorem dX5_hears_8 : decode cX5_hears 8 = .ok (.iload_n 2, 1) := dk_28 (dk_at dksX5_hears_0 8 rfl rfl)
theorem dX5_hears_9 : decode cX5_hears 9 = .ok (.ishl, 1) := dk_120 (dk_at dksX5_hears_0 9 rfl rfl)
theorem dX5_hears_10 : decode cX5_hears 10 = .ok (.ior, 1) := dk_128 (dk_at dksX5_hears_0 10 rfl rfl)
theorem dX5_hears_11 : decode cX5_hears 11 = .ok (.iastore, 1) := dk_79 (dk_at dksX5_hears_0 11 rfl rfl)
theorem dX5_hears_12 : decode cX5_hears 12 = .ok (.aload_n 0, 1) := dk_42 (dk_at dksX5_hears_0 12 rfl rfl)
theorem dX5_hears_13 : decode cX5_hears 13 = .ok (.getfield 22, 3) := dk_180 0 22 (dk_at dksX5_hears_0 13 rfl rfl)
theorem dX5_hears_16 : decode cX5_hears 16 = .ok (.iload_n 1, 1) := dk_27 (dk_at dksX5_hears_0 16 rfl rfl)
theorem dX5_hears_17 : decode cX5_hears 17 = .ok (.dup2, 1) := dk_92 (dk_at dksX5_hears_0 17 rfl rfl)
theorem dX5_hears_18 : decode cX5_hears 18 = .ok (.iaload, 1) := dk_46 (dk_at dksX5_hears_0 18 rfl rfl)
theorem dX5_hears_19 : decode cX5_hears 19 = .ok (.iconst 1, 1) := dk_4 (dk_at dksX5_hears_0 19 rfl rfl)
theorem dX5_hears_20 : decode cX5_hears 20 = .ok (.iload_n 2, 1) := dk_28 (dk_at dksX5_hears_0 20 rfl rfl)
theorem dX5_hears_21 : decode cX5_hears 21 = .ok (.ishl, 1) := dk_120 (dk_at dksX5_hears_0 21 rfl rfl)
theorem dX5_hears_22 : decode cX5_hears 22 = .ok (.iconst (-1), 1) := dk_2 (dk_at dksX5_hears_0 22 rfl rfl)
theorem dX5_hears_23 : decode cX5_hears 23 = .ok (.ixor, 1) := dk_130 (dk_at dksX5_hears_0 23 rfl rfl)
theorem dX5_hears_24 : decode cX5_hears 24 = .ok (.iand, 1) := dk_126 (dk_at dksX5_hears_1 0 rfl rfl)
theorem dX5_hears_25 : decode cX5_hears 25 = .ok (.iastore, 1) := dk_79 (dk_at dksX5_hears_1 1 rfl rfl)
theorem dX5_hears_26 : decode cX5_hears 26 = .ok (.return_, 1) := dk_177 (dk_at dksX5_hears_1 2 rfl rfl)
theorem q156 : (Jvm.Cond.initialized "PupilsPupil$State") ∈ lw_all := lw_g (lw_at lw_m1 12 rfl) rfl
theorem q229 : (Jvm.Cond.fieldLinkNest "PupilsPupil$State" (138 : Nat) "PupilsPupil$School" "pass" "I" "PupilsPupil") ∈ lw_tbl := lw_at lw_m1 85 rfl
theorem q233 : (Jvm.Cond.fieldLinkNest "PupilsPupil$State" (76 : Nat) "PupilsPupil$School" "tries" "I" "PupilsPupil") ∈ lw_tbl := lw_at lw_m1 89 rfl
theorem q242 : (Jvm.Cond.fieldLinkNest "PupilsPupil$State" (57 : Nat) "PupilsPupil$School" "people" "Ljava/util/List;" "PupilsPupil") ∈ lw_tbl := lw_at lw_m1 98 rfl
theorem q245 : (Jvm.Cond.fieldLinkNest "PupilsPupil$State" (120 : Nat) "PupilsPupil$School" "takes" "LPupilsPupil$Test;" "PupilsPupil") ∈ lw_tbl := lw_at lw_m1 101 rfl
theorem q247 : (Jvm.Cond.fieldLinkNest "PupilsPupil$State" (132 : Nat) "PupilsPupil$School" "garble" "LPupilsPupil$Test;" "PupilsPupil") ∈ lw_tbl := lw_at lw_m1 103 rfl
theorem q249 : (Jvm.Cond.fieldLinkNest "PupilsPupil$State" (135 : Nat) "PupilsPupil$School" "sits" "LPupilsPupil$Test;" "PupilsPupil") ∈ lw_tbl := lw_at lw_m1 105 rfl
theorem q382 : (Jvm.Cond.fieldLinkNest "PupilsPupil$State" (94 : Nat) "PupilsPupil$Moment" "of" "[J" "PupilsPupil") ∈ lw_tbl := lw_at lw_m1 238 rfl
theorem q389 : (Jvm.Cond.instantiable "PupilsPupil$State" (12 : Nat)) ∈ lw_all := lw_g (lw_at lw_m2 5 rfl) rfl
theorem q391 : (Jvm.Cond.instanceMethod ({ cls := "PupilsPupil$State", name := "<init>", desc := "(LPupilsPupil;)V" } : Jvm.MethodName)) ∈ lw_all := lw_g (lw_at lw_m2 7 rfl) rfl
theorem q392 : (Jvm.Cond.code ({ cls := "PupilsPupil$State", name := "<init>", desc := "(LPupilsPupil;)V" } : Jvm.MethodName) prog_17_method_1_code (2 : Nat) (Option.none : Option Jvm.ClassFile.FieldType)) ∈ lw_all := lw_g (lw_at lw_m2 8 rfl) rfl
theorem q393 : (Jvm.Cond.methodLink "PupilsPupil$State" (9 : Nat) ({ cls := "java/lang/Object", name := "<init>", desc := "()V" } : Jvm.MethodName)) ∈ lw_all := lw_g (lw_at lw_m2 9 rfl) rfl
theorem q394 : (Jvm.Cond.classLink "PupilsPupil$State" (28 : Nat) "[[I") ∈ lw_all := lw_g (lw_at lw_m2 10 rfl) rfl
theorem q396 : (Jvm.Cond.fieldLink "PupilsPupil$State" (36 : Nat) "PupilsPupil$State" "year" "I") ∈ lw_all := lw_g (lw_at lw_m2 12 rfl) rfl
theorem q398 : (Jvm.Cond.fieldLink "PupilsPupil$State" (40 : Nat) "PupilsPupil$State" "passed" "I") ∈ lw_all := lw_g (lw_at lw_m2 14 rfl) rfl
theorem q400 : (Jvm.Cond.fieldLink "PupilsPupil$State" (43 : Nat) "PupilsPupil$State" "doctors" "I") ∈ lw_all := lw_g (lw_at lw_m2 16 rfl) rfl
theorem q402 : (Jvm.Cond.fieldLink "PupilsPupil$State" (46 : Nat) "PupilsPupil$State" "keeps" "I") ∈ lw_all := lw_g (lw_at lw_m2 18 rfl) rfl
theorem q404 : (Jvm.Cond.fieldLink "PupilsPupil$State" (15 : Nat) "PupilsPupil$State" "master" "[I") ∈ lw_all := lw_g (lw_at lw_m2 20 rfl) rfl
theorem q406 : (Jvm.Cond.fieldLink "PupilsPupil$State" (19 : Nat) "PupilsPupil$State" "right" "[I") ∈ lw_all := lw_g (lw_at lw_m2 22 rfl) rfl
theorem q408 : (Jvm.Cond.fieldLink "PupilsPupil$State" (22 : Nat) "PupilsPupil$State" "wrong" "[I") ∈ lw_all := lw_g (lw_at lw_m2 24 rfl) rfl
theorem q410 : (Jvm.Cond.fieldLink "PupilsPupil$State" (25 : Nat) "PupilsPupil$State" "left" "[I") ∈ lw_all := lw_g (lw_at lw_m2 26 rfl) rfl
theorem q412 : (Jvm.Cond.fieldLink "PupilsPupil$State" (30 : Nat) "PupilsPupil$State" "rows" "[[I") ∈ lw_all := lw_g (lw_at lw_m2 28 rfl) rfl
theorem q414 : (Jvm.Cond.fieldLink "PupilsPupil$State" (33 : Nat) "PupilsPupil$State" "lesson" "[I") ∈ lw_all := lw_g (lw_at lw_m2 30 rfl) rfl
theorem q415 : (Jvm.Cond.fieldLink "PupilsPupil$State" (127 : Nat) "PupilsPupil$State" "garbled" "I") ∈ lw_all := lw_g (lw_at lw_m2 31 rfl) rfl
theorem q416 : (Jvm.Cond.fieldLink "PupilsPupil$State" (3 : Nat) "PupilsPupil$State" "this$0" "LPupilsPupil;") ∈ lw_all := lw_g (lw_at lw_m2 32 rfl) rfl
theorem q417 : (Jvm.Cond.lays "PupilsPupil$State" "PupilsPupil$State" "year" "I") ∈ lw_all := lw_g (lw_at lw_m2 33 rfl) rfl
theorem q418 : (Jvm.Cond.soleField "PupilsPupil$State" "year") ∈ lw_all := lw_g (lw_at lw_m2 34 rfl) rfl
theorem q419 : (Jvm.Cond.lays "PupilsPupil$State" "PupilsPupil$State" "passed" "I") ∈ lw_all := lw_g (lw_at lw_m2 35 rfl) rfl
theorem q420 : (Jvm.Cond.soleField "PupilsPupil$State" "passed") ∈ lw_all := lw_g (lw_at lw_m2 36 rfl) rfl
theorem q421 : (Jvm.Cond.lays "PupilsPupil$State" "PupilsPupil$State" "doctors" "I") ∈ lw_all := lw_g (lw_at lw_m2 37 rfl) rfl
theorem q422 : (Jvm.Cond.soleField "PupilsPupil$State" "doctors") ∈ lw_all := lw_g (lw_at lw_m2 38 rfl) rfl
theorem q423 : (Jvm.Cond.lays "PupilsPupil$State" "PupilsPupil$State" "keeps" "I") ∈ lw_all := lw_g (lw_at lw_m2 39 rfl) rfl
theorem q424 : (Jvm.Cond.soleField "PupilsPupil$State" "keeps") ∈ lw_all := lw_g (lw_at lw_m2 40 rfl) rfl
theorem q425 : (Jvm.Cond.laysFinal "PupilsPupil$State" "PupilsPupil$State" "master" "[I") ∈ lw_all := lw_g (lw_at lw_m2 41 rfl) rfl
theorem q426 : (Jvm.Cond.soleField "PupilsPupil$State" "master") ∈ lw_all := lw_g (lw_at lw_m2 42 rfl) rfl
theorem q427 : (Jvm.Cond.laysFinal "PupilsPupil$State" "PupilsPupil$State" "right" "[I") ∈ lw_all := lw_g (lw_at lw_m2 43 rfl) rfl
theorem q428 : (Jvm.Cond.soleField "PupilsPupil$State" "right") ∈ lw_all := lw_g (lw_at lw_m2 44 rfl) rfl
theorem q429 : (Jvm.Cond.laysFinal "PupilsPupil$State" "PupilsPupil$State" "wrong" "[I") ∈ lw_all := lw_g (lw_at lw_m2 45 rfl) rfl
theorem q430 : (Jvm.Cond.soleField "PupilsPupil$State" "wrong") ∈ lw_all := lw_g (lw_at lw_m2 46 rfl) rfl
theorem q431 : (Jvm.Cond.laysFinal "PupilsPupil$State" "PupilsPupil$State" "left" "[I") ∈ lw_all := lw_g (lw_at lw_m2 47 rfl) rfl
theorem q432 : (Jvm.Cond.soleField "PupilsPupil$State" "left") ∈ lw_all := lw_g (lw_at lw_m2 48 rfl) rfl
theorem q433 : (Jvm.Cond.laysFinal "PupilsPupil$State" "PupilsPupil$State" "rows" "[[I") ∈ lw_all := lw_g (lw_at lw_m2 49 rfl) rfl
theorem q434 : (Jvm.Cond.soleField "PupilsPupil$State" "rows") ∈ lw_all := lw_g (lw_at lw_m2 50 rfl) rfl
theorem q435 : (Jvm.Cond.laysFinal "PupilsPupil$State" "PupilsPupil$State" "lesson" "[I") ∈ lw_all := lw_g (lw_at lw_m2 51 rfl) rfl
theorem q436 : (Jvm.Cond.soleField "PupilsPupil$State" "lesson") ∈ lw_all := lw_g (lw_at lw_m2 52 rfl) rfl
theorem q437 : (Jvm.Cond.lays "PupilsPupil$State" "PupilsPupil$State" "garbled" "I") ∈ lw_all := lw_g (lw_at lw_m2 53 rfl) rfl
theorem q438 : (Jvm.Cond.soleField "PupilsPupil$State" "garbled") ∈ lw_all := lw_g (lw_at lw_m2 54 rfl) rfl
theorem q439 : (Jvm.Cond.laysFinal "PupilsPupil$State" "PupilsPupil$State" "this$0" "LPupilsPupil;") ∈ lw_all := lw_g (lw_at lw_m2 55 rfl) rfl
theorem q440 : (Jvm.Cond.soleField "PupilsPupil$State" "this$0") ∈ lw_all := lw_g (lw_at lw_m2 56 rfl) rfl
theorem q441 : (Jvm.Cond.superclass "PupilsPupil$State" "java/lang/Object") ∈ lw_all := lw_g (lw_at lw_m2 57 rfl) rfl
theorem q445 : (Jvm.Cond.fieldLinkNest "PupilsPupil$State" (53 : Nat) "PupilsPupil" "school" "LPupilsPupil$School;" "PupilsPupil") ∈ lw_tbl := lw_at lw_m2 61 rfl
theorem q453 : (Jvm.Cond.fieldLinkNest "PupilsPupil$State" (90 : Nat) "PupilsPupil" "moment" "LPupilsPupil$Moment;" "PupilsPupil") ∈ lw_tbl := lw_at lw_m2 69 rfl
theorem q863 : (Jvm.Cond.selects "PupilsPupil$State" ({ cls := "java/lang/Object", name := "getClass", desc := "()Ljava/lang/Class;" } : Jvm.MethodName) ({ cls := "java/lang/Object", name := "getClass", desc := "()Ljava/lang/Class;" } : Jvm.MethodName)) ∈ lw_all := lw_g (lw_at lw_m3 239 rfl) rfl
theorem q892 : (Jvm.Cond.fieldLinkNest "PupilsPupil$State" (70 : Nat) "PupilsPupil$Person" "master" "I" "PupilsPupil") ∈ lw_tbl := lw_at lw_m4 28 rfl
theorem q894 : (Jvm.Cond.fieldLinkNest "PupilsPupil$State" (72 : Nat) "PupilsPupil$Person" "right" "I" "PupilsPupil") ∈ lw_tbl := lw_at lw_m4 30 rfl
theorem q896 : (Jvm.Cond.fieldLinkNest "PupilsPupil$State" (74 : Nat) "PupilsPupil$Person" "wrong" "I" "PupilsPupil") ∈ lw_tbl := lw_at lw_m4 32 rfl
theorem q1203 : (Jvm.Cond.instanceMethod ({ cls := "PupilsPupil$State", name := "begins", desc := "()V" } : Jvm.MethodName)) ∈ lw_all := lw_g (lw_at lw_m5 99 rfl) rfl
theorem q1204 : (Jvm.Cond.selects "PupilsPupil$State" ({ cls := "PupilsPupil$State", name := "begins", desc := "()V" } : Jvm.MethodName) ({ cls := "PupilsPupil$State", name := "begins", desc := "()V" } : Jvm.MethodName)) ∈ lw_all := lw_g (lw_at lw_m5 100 rfl) rfl
theorem q1205 : (Jvm.Cond.code ({ cls := "PupilsPupil$State", name := "begins", desc := "()V" } : Jvm.MethodName) prog_17_method_2_code (2 : Nat) (Option.none : Option Jvm.ClassFile.FieldType)) ∈ lw_all := lw_g (lw_at lw_m5 101 rfl) rfl
theorem q1206 : (Jvm.Cond.methodLinkNest "PupilsPupil$State" (49 : Nat) ({ cls := "PupilsPupil", name := "people", desc := "()I" } : Jvm.MethodName) "PupilsPupil") ∈ lw_tbl := lw_at lw_m5 102 rfl
theorem q1212 : (Jvm.Cond.interfaceEntry "PupilsPupil$State" (62 : Nat)) ∈ lw_tbl := lw_at lw_m5 108 rfl
theorem q1213 : (Jvm.Cond.methodLink "PupilsPupil$State" (62 : Nat) ({ cls := "java/util/List", name := "get", desc := "(I)Ljava/lang/Object;" } : Jvm.MethodName)) ∈ lw_all := lw_g (lw_at lw_m5 109 rfl) rfl
theorem q1214 : (Jvm.Cond.classLink "PupilsPupil$State" (68 : Nat) "PupilsPupil$Person") ∈ lw_all := lw_g (lw_at lw_m5 110 rfl) rfl
theorem q1235 : (Jvm.Cond.instanceMethod ({ cls := "PupilsPupil$State", name := "beliefs", desc := "(Z)I" } : Jvm.MethodName)) ∈ lw_all := lw_g (lw_at lw_m5 131 rfl) rfl
theorem q1236 : (Jvm.Cond.selects "PupilsPupil$State" ({ cls := "PupilsPupil$State", name := "beliefs", desc := "(Z)I" } : Jvm.MethodName) ({ cls := "PupilsPupil$State", name := "beliefs", desc := "(Z)I" } : Jvm.MethodName)) ∈ lw_all := lw_g (lw_at lw_m5 132 rfl) rfl
theorem q1237 : (Jvm.Cond.code ({ cls := "PupilsPupil$State", name := "beliefs", desc := "(Z)I" } : Jvm.MethodName) prog_17_method_14_code (4 : Nat) (Option.some Jvm.ClassFile.FieldType.int)) ∈ lw_all := lw_g (lw_at lw_m5 133 rfl) rfl
theorem q1238 : (Jvm.Cond.methodLink "PupilsPupil$State" (103 : Nat) ({ cls := "java/lang/Integer", name := "bitCount", desc := "(I)I" } : Jvm.MethodName)) ∈ lw_all := lw_g (lw_at lw_m5 134 rfl) rfl
theorem q1282 : (Jvm.Cond.instanceMethod ({ cls := "PupilsPupil$State", name := "stands", desc := "(II)I" } : Jvm.MethodName)) ∈ lw_all := lw_g (lw_at lw_m5 178 rfl) rfl
theorem q1283 : (Jvm.Cond.selects "PupilsPupil$State" ({ cls := "PupilsPupil$State", name := "stands", desc := "(II)I" } : Jvm.MethodName) ({ cls := "PupilsPupil$State", name := "stands", desc := "(II)I" } : Jvm.MethodName)) ∈ lw_all := lw_g (lw_at lw_m5 179 rfl) rfl
theorem q1284 : (Jvm.Cond.code ({ cls := "PupilsPupil$State", name := "stands", desc := "(II)I" } : Jvm.MethodName) prog_17_method_15_code (3 : Nat) (Option.some Jvm.ClassFile.FieldType.int)) ∈ lw_all := lw_g (lw_at lw_m5 180 rfl) rfl
theorem q1285 : (Jvm.Cond.methodLinkNest "PupilsPupil$State" (82 : Nat) ({ cls := "PupilsPupil", name := "has", desc := "(II)Z" } : Jvm.MethodName) "PupilsPupil") ∈ lw_tbl := lw_at lw_m5 181 rfl
theorem q1299 : (Jvm.Cond.instanceMethod ({ cls := "PupilsPupil$State", name := "pupils", desc := "(I)I" } : Jvm.MethodName)) ∈ lw_all := lw_g (lw_at lw_m5 195 rfl) rfl
theorem q1300 : (Jvm.Cond.selects "PupilsPupil$State" ({ cls := "PupilsPupil$State", name := "pupils", desc := "(I)I" } : Jvm.MethodName) ({ cls := "PupilsPupil$State", name := "pupils", desc := "(I)I" } : Jvm.MethodName)) ∈ lw_all := lw_g (lw_at lw_m5 196 rfl) rfl
theorem q1301 : (Jvm.Cond.code ({ cls := "PupilsPupil$State", name := "pupils", desc := "(I)I" } : Jvm.MethodName) prog_17_method_4_code (4 : Nat) (Option.some Jvm.ClassFile.FieldType.int)) ∈ lw_all := lw_g (lw_at lw_m5 197 rfl) rfl
theorem q1308 : (Jvm.Cond.instanceMethod ({ cls := "PupilsPupil$State", name := "marks", desc := "(I)I" } : Jvm.MethodName)) ∈ lw_all := lw_g (lw_at lw_m5 204 rfl) rfl
theorem q1309 : (Jvm.Cond.selects "PupilsPupil$State" ({ cls := "PupilsPupil$State", name := "marks", desc := "(I)I" } : Jvm.MethodName) ({ cls := "PupilsPupil$State", name := "marks", desc := "(I)I" } : Jvm.MethodName)) ∈ lw_all := lw_g (lw_at lw_m5 205 rfl) rfl
theorem q1310 : (Jvm.Cond.code ({ cls := "PupilsPupil$State", name := "marks", desc := "(I)I" } : Jvm.MethodName) prog_17_method_6_code (4 : Nat) (Option.some Jvm.ClassFile.FieldType.int)) ∈ lw_all := lw_g (lw_at lw_m5 206 rfl) rfl
theorem q1311 : (Jvm.Cond.methodLinkNest "PupilsPupil$State" (79 : Nat) ({ cls := "PupilsPupil", name := "facts", desc := "()I" } : Jvm.MethodName) "PupilsPupil") ∈ lw_tbl := lw_at lw_m5 207 rfl
theorem q1312 : (Jvm.Cond.methodLinkNest "PupilsPupil$State" (86 : Nat) ({ cls := "PupilsPupil", name := "worthOf", desc := "(I)I" } : Jvm.MethodName) "PupilsPupil") ∈ lw_tbl := lw_at lw_m5 208 rfl
theorem q1319 : (Jvm.Cond.instanceMethod ({ cls := "PupilsPupil$State", name := "lesson", desc := "(I)I" } : Jvm.MethodName)) ∈ lw_all := lw_g (lw_at lw_m5 215 rfl) rfl
theorem q1320 : (Jvm.Cond.selects "PupilsPupil$State" ({ cls := "PupilsPupil$State", name := "lesson", desc := "(I)I" } : Jvm.MethodName) ({ cls := "PupilsPupil$State", name := "lesson", desc := "(I)I" } : Jvm.MethodName)) ∈ lw_all := lw_g (lw_at lw_m5 216 rfl) rfl
theorem q1321 : (Jvm.Cond.code ({ cls := "PupilsPupil$State", name := "lesson", desc := "(I)I" } : Jvm.MethodName) prog_17_method_8_code (5 : Nat) (Option.some Jvm.ClassFile.FieldType.int)) ∈ lw_all := lw_g (lw_at lw_m5 217 rfl) rfl
theorem q1322 : (Jvm.Cond.methodLink "PupilsPupil$State" (124 : Nat) ({ cls := "PupilsPupil$State", name := "holds", desc := "(LPupilsPupil$Test;II)Z" } : Jvm.MethodName)) ∈ lw_all := lw_g (lw_at lw_m5 218 rfl) rfl
theorem q1323 : (Jvm.Cond.privateMethod ({ cls := "PupilsPupil$State", name := "holds", desc := "(LPupilsPupil$Test;II)Z" } : Jvm.MethodName)) ∈ lw_tbl := lw_at lw_m5 219 rfl
theorem q1324 : (Jvm.Cond.instanceMethod ({ cls := "PupilsPupil$State", name := "holds", desc := "(LPupilsPupil$Test;II)Z" } : Jvm.MethodName)) ∈ lw_all := lw_g (lw_at lw_m5 220 rfl) rfl
theorem q1325 : (Jvm.Cond.code ({ cls := "PupilsPupil$State", name := "holds", desc := "(LPupilsPupil$Test;II)Z" } : Jvm.MethodName) prog_17_method_7_code (4 : Nat) (Option.some Jvm.ClassFile.FieldType.boolean)) ∈ lw_all := lw_g (lw_at lw_m5 221 rfl) rfl
theorem q1326 : (Jvm.Cond.methodLinkNest "PupilsPupil$State" (100 : Nat) ({ cls := "PupilsPupil", name := "calmOf", desc := "(I)I" } : Jvm.MethodName) "PupilsPupil") ∈ lw_tbl := lw_at lw_m5 222 rfl
theorem q1327 : (Jvm.Cond.methodLink "PupilsPupil$State" (108 : Nat) ({ cls := "PupilsPupil$State", name := "pupils", desc := "(I)I" } : Jvm.MethodName)) ∈ lw_all := lw_g (lw_at lw_m5 223 rfl) rfl
theorem q1328 : (Jvm.Cond.methodLink "PupilsPupil$State" (111 : Nat) ({ cls := "PupilsPupil$State", name := "marks", desc := "(I)I" } : Jvm.MethodName)) ∈ lw_all := lw_g (lw_at lw_m5 224 rfl) rfl
theorem q1329 : (Jvm.Cond.methodLink "PupilsPupil$State" (114 : Nat) ({ cls := "PupilsPupil$Test", name := "holds", desc := "(LPupilsPupil$Moment;)Z" } : Jvm.MethodName)) ∈ lw_all := lw_g (lw_at lw_m5 225 rfl) rfl
theorem q1423 : (Jvm.Cond.instanceMethod ({ cls := "PupilsPupil$State", name := "copy", desc := "(LPupilsPupil$State;)LPupilsPupil$State;" } : Jvm.MethodName)) ∈ lw_all := lw_g (lw_at lw_m6 79 rfl) rfl
theorem q1424 : (Jvm.Cond.selects "PupilsPupil$State" ({ cls := "PupilsPupil$State", name := "copy", desc := "(LPupilsPupil$State;)LPupilsPupil$State;" } : Jvm.MethodName) ({ cls := "PupilsPupil$State", name := "copy", desc := "(LPupilsPupil$State;)LPupilsPupil$State;" } : Jvm.MethodName)) ∈ lw_all := lw_g (lw_at lw_m6 80 rfl) rfl
theorem q1425 : (Jvm.Cond.code ({ cls := "PupilsPupil$State", name := "copy", desc := "(LPupilsPupil$State;)LPupilsPupil$State;" } : Jvm.MethodName) prog_17_method_3_code (4 : Nat) (Option.some (Jvm.ClassFile.FieldType.object "PupilsPupil$State"))) ∈ lw_all := lw_g (lw_at lw_m6 81 rfl) rfl
theorem q1427 : (Jvm.Cond.instanceMethod ({ cls := "PupilsPupil$State", name := "years", desc := "(I)LPupilsPupil$State;" } : Jvm.MethodName)) ∈ lw_all := lw_g (lw_at lw_m6 83 rfl) rfl
theorem q1428 : (Jvm.Cond.selects "PupilsPupil$State" ({ cls := "PupilsPupil$State", name := "years", desc := "(I)LPupilsPupil$State;" } : Jvm.MethodName) ({ cls := "PupilsPupil$State", name := "years", desc := "(I)LPupilsPupil$State;" } : Jvm.MethodName)) ∈ lw_all := lw_g (lw_at lw_m6 84 rfl) rfl
theorem q1429 : (Jvm.Cond.code ({ cls := "PupilsPupil$State", name := "years", desc := "(I)LPupilsPupil$State;" } : Jvm.MethodName) prog_17_method_13_code (3 : Nat) (Option.some (Jvm.ClassFile.FieldType.object "PupilsPupil$State"))) ∈ lw_all := lw_g (lw_at lw_m6 85 rfl) rfl
theorem q1430 : (Jvm.Cond.methodLink "PupilsPupil$State" (152 : Nat) ({ cls := "PupilsPupil$State", name := "passes", desc := "(I)I" } : Jvm.MethodName)) ∈ lw_all := lw_g (lw_at lw_m6 86 rfl) rfl
theorem q1431 : (Jvm.Cond.instanceMethod ({ cls := "PupilsPupil$State", name := "passes", desc := "(I)I" } : Jvm.MethodName)) ∈ lw_all := lw_g (lw_at lw_m6 87 rfl) rfl
theorem q1432 : (Jvm.Cond.selects "PupilsPupil$State" ({ cls := "PupilsPupil$State", name := "passes", desc := "(I)I" } : Jvm.MethodName) ({ cls := "PupilsPupil$State", name := "passes", desc := "(I)I" } : Jvm.MethodName)) ∈ lw_all := lw_g (lw_at lw_m6 88 rfl) rfl
theorem q1433 : (Jvm.Cond.code ({ cls := "PupilsPupil$State", name := "passes", desc := "(I)I" } : Jvm.MethodName) prog_17_method_12_code (5 : Nat) (Option.some Jvm.ClassFile.FieldType.int)) ∈ lw_all := lw_g (lw_at lw_m6 89 rfl) rfl
theorem q1434 : (Jvm.Cond.methodLink "PupilsPupil$State" (145 : Nat) ({ cls := "PupilsPupil$State", name := "teaches", desc := "(I)V" } : Jvm.MethodName)) ∈ lw_all := lw_g (lw_at lw_m6 90 rfl) rfl
theorem q1435 : (Jvm.Cond.privateMethod ({ cls := "PupilsPupil$State", name := "teaches", desc := "(I)V" } : Jvm.MethodName)) ∈ lw_tbl := lw_at lw_m6 91 rfl
theorem q1436 : (Jvm.Cond.instanceMethod ({ cls := "PupilsPupil$State", name := "teaches", desc := "(I)V" } : Jvm.MethodName)) ∈ lw_all := lw_g (lw_at lw_m6 92 rfl) rfl
theorem q1437 : (Jvm.Cond.code ({ cls := "PupilsPupil$State", name := "teaches", desc := "(I)V" } : Jvm.MethodName) prog_17_method_9_code (4 : Nat) (Option.none : Option Jvm.ClassFile.FieldType)) ∈ lw_all := lw_g (lw_at lw_m6 93 rfl) rfl
theorem q1438 : (Jvm.Cond.methodLink "PupilsPupil$State" (130 : Nat) ({ cls := "PupilsPupil$State", name := "lesson", desc := "(I)I" } : Jvm.MethodName)) ∈ lw_all := lw_g (lw_at lw_m6 94 rfl) rfl
theorem q1439 : (Jvm.Cond.methodLink "PupilsPupil$State" (149 : Nat) ({ cls := "PupilsPupil$State", name := "examines", desc := "(I)V" } : Jvm.MethodName)) ∈ lw_all := lw_g (lw_at lw_m6 95 rfl) rfl
theorem q1440 : (Jvm.Cond.privateMethod ({ cls := "PupilsPupil$State", name := "examines", desc := "(I)V" } : Jvm.MethodName)) ∈ lw_tbl := lw_at lw_m6 96 rfl
theorem q1441 : (Jvm.Cond.instanceMethod ({ cls := "PupilsPupil$State", name := "examines", desc := "(I)V" } : Jvm.MethodName)) ∈ lw_all := lw_g (lw_at lw_m6 97 rfl) rfl
theorem q1442 : (Jvm.Cond.code ({ cls := "PupilsPupil$State", name := "examines", desc := "(I)V" } : Jvm.MethodName) prog_17_method_11_code (3 : Nat) (Option.none : Option Jvm.ClassFile.FieldType)) ∈ lw_all := lw_g (lw_at lw_m6 98 rfl) rfl
theorem q1443 : (Jvm.Cond.methodLink "PupilsPupil$State" (141 : Nat) ({ cls := "PupilsPupil$State", name := "tells", desc := "(II)V" } : Jvm.MethodName)) ∈ lw_all := lw_g (lw_at lw_m6 99 rfl) rfl
theorem q1444 : (Jvm.Cond.privateMethod ({ cls := "PupilsPupil$State", name := "tells", desc := "(II)V" } : Jvm.MethodName)) ∈ lw_tbl := lw_at lw_m6 100 rfl
theorem q1445 : (Jvm.Cond.instanceMethod ({ cls := "PupilsPupil$State", name := "tells", desc := "(II)V" } : Jvm.MethodName)) ∈ lw_all := lw_g (lw_at lw_m6 101 rfl) rfl
theorem q1446 : (Jvm.Cond.code ({ cls := "PupilsPupil$State", name := "tells", desc := "(II)V" } : Jvm.MethodName) prog_17_method_10_code (5 : Nat) (Option.none : Option Jvm.ClassFile.FieldType)) ∈ lw_all := lw_g (lw_at lw_m6 102 rfl) rfl
theorem q1461 : (Jvm.Cond.instanceMethod ({ cls := "PupilsPupil$State", name := "isBy", desc := "(II)Z" } : Jvm.MethodName)) ∈ lw_all := lw_g (lw_at lw_m6 117 rfl) rfl
theorem q1462 : (Jvm.Cond.selects "PupilsPupil$State" ({ cls := "PupilsPupil$State", name := "isBy", desc := "(II)Z" } : Jvm.MethodName) ({ cls := "PupilsPupil$State", name := "isBy", desc := "(II)Z" } : Jvm.MethodName)) ∈ lw_all := lw_g (lw_at lw_m6 118 rfl) rfl
theorem q1463 : (Jvm.Cond.code ({ cls := "PupilsPupil$State", name := "isBy", desc := "(II)Z" } : Jvm.MethodName) prog_17_method_5_code (5 : Nat) (Option.some Jvm.ClassFile.FieldType.boolean)) ∈ lw_all := lw_g (lw_at lw_m6 119 rfl) rfl
theorem q1469 : (Jvm.Cond.instanceMethod ({ cls := "PupilsPupil$State", name := "hears", desc := "(II)V" } : Jvm.MethodName)) ∈ lw_all := lw_g (lw_at lw_m6 125 rfl) rfl
theorem q1470 : (Jvm.Cond.selects "PupilsPupil$State" ({ cls := "PupilsPupil$State", name := "hears", desc := "(II)V" } : Jvm.MethodName) ({ cls := "PupilsPupil$State", name := "hears", desc := "(II)V" } : Jvm.MethodName)) ∈ lw_all := lw_g (lw_at lw_m6 126 rfl) rfl
theorem q1471 : (Jvm.Cond.code ({ cls := "PupilsPupil$State", name := "hears", desc := "(II)V" } : Jvm.MethodName) prog_17_method_16_code (3 : Nat) (Option.none : Option Jvm.ClassFile.FieldType)) ∈ lw_all := lw_g (lw_at lw_m6 127 rfl) rfl
theorem q2478 : (Jvm.Cond.castable "PupilsPupil$State" "java/lang/Object") ∈ lw_tbl := lw_at lw_m10 174 rfl
theorem in_X5 : ∀ w ∈ wsX50, w ∈ lw_all := lw_in wsX50 [417, 419, 421, 423, 425, 427, 429, 431, 433, 435, 437, 439] (by decide +kernel) (by decide +kernel)

