/-! PupilsPupil -/
set_option maxRecDepth 100000
def RX0 : String := "PupilsPupil"
def TX0 : u_T := fun k => match k with
  | 0 => ("PupilsPupil", "school", "LPupilsPupil$School;", false)
  | 1 => ("PupilsPupil", "tape", "[B", true)
  | 2 => ("PupilsPupil", "taped", "I", false)
  | 3 => ("PupilsPupil", "faultKind", "I", false)
  | 4 => ("PupilsPupil", "faultPlace", "I", false)
  | 5 => ("PupilsPupil", "reader", "LPupilsPupil$Reader;", true)
  | 6 => ("PupilsPupil", "moment", "LPupilsPupil$Moment;", true)
  | 7 => ("PupilsPupil", "asked", "LPupilsPupil$Moment;", true)
  | 8 => ("PupilsPupil", "refused", "[I", true)
  | 9 => ("PupilsPupil", "now", "LPupilsPupil$State;", true)
  | 10 => ("PupilsPupil", "tried", "LPupilsPupil$State;", true)
  | 11 => ("PupilsPupil", "heardWho", "[I", true)
  | 12 => ("PupilsPupil", "heardAs", "[I", true)
  | 13 => ("PupilsPupil", "rows", "I", false)
  | 14 => ("PupilsPupil", "standsBy", "[[I", true)
  | 15 => ("PupilsPupil", "kept", "[LPupilsPupil$State;", true)
  | 16 => ("PupilsPupil", "undos", "I", false)
  | 17 => ("PupilsPupil", "seeds", "J", false)
  | 18 => ("PupilsPupil", "askedFact", "I", false)
  | 19 => ("PupilsPupil", "out", "[B", true)
  | _ => ("PupilsPupil", "outs", "I", false)
def tyX0 : Nat → FieldType := fun k => match k with
  | 0 => .object "PupilsPupil$School"
  | 1 => .array .byte
  | 2 => .int
  | 3 => .int
  | 4 => .int
  | 5 => .object "PupilsPupil$Reader"
  | 6 => .object "PupilsPupil$Moment"
  | 7 => .object "PupilsPupil$Moment"
  | 8 => .array .int
  | 9 => .object "PupilsPupil$State"
  | 10 => .object "PupilsPupil$State"
  | 11 => .array .int
  | 12 => .array .int
  | 13 => .int
  | 14 => .array (.array .int)
  | 15 => .array (.object "PupilsPupil$State")
  | 16 => .int
  | 17 => .long
  | 18 => .int
  | 19 => .array .byte
  | _ => .int
abbrev wsX00 : List Cond := u_ws RX0 TX0 21
set_option maxRecDepth 100000 in
theorem nmX0 : ∀ a, a < 21 → ∀ b, b < 21 → a ≠ b → (TX0 a).2.1 ≠ (TX0 b).2.1 := by decide +kernel
set_option maxRecDepth 100000 in
theorem tyX0_ok : ∀ k, k < 21 → parseFieldDescriptor (TX0 k).2.2.1 = some (tyX0 k) := by decide +kernel
abbrev cX0_init : ByteArray := prog_1_method_7_code
def yX0_init : MethodName := ⟨RX0, "<init>", "()V"⟩
def dkwX0_init_7 : List UInt8 := [181, 0, 91, 42, 16, 43, 188, 8, 181, 0, 95, 177]
abbrev dktX0_init_7 : List UInt8 := dkwX0_init_7 ++ []
def dkwX0_init_6 : List UInt8 := [42, 180, 0, 87, 27, 187, 0, 66, 89, 42, 183, 0, 68, 83, 132, 1, 1, 167, 255, 233, 42, 10]
abbrev dktX0_init_6 : List UInt8 := dkwX0_init_6 ++ dktX0_init_7
def dkwX0_init_5 : List UInt8 := [197, 0, 82, 2, 181, 0, 84, 42, 16, 20, 189, 0, 66, 181, 0, 87, 3, 60, 27, 16, 20, 162, 0, 23]
abbrev dktX0_init_5 : List UInt8 := dkwX0_init_5 ++ dktX0_init_6
def dkwX0_init_4 : List UInt8 := [181, 0, 73, 42, 16, 16, 188, 10, 181, 0, 76, 42, 16, 16, 188, 10, 181, 0, 79, 42, 16, 8, 6]
abbrev dktX0_init_4 : List UInt8 := dkwX0_init_4 ++ dktX0_init_5
def dkwX0_init_3 : List UInt8 := [181, 0, 62, 42, 187, 0, 66, 89, 42, 183, 0, 68, 181, 0, 69, 42, 187, 0, 66, 89, 42, 183, 0, 68]
abbrev dktX0_init_3 : List UInt8 := dkwX0_init_3 ++ dktX0_init_4
def dkwX0_init_2 : List UInt8 := [183, 0, 54, 181, 0, 55, 42, 187, 0, 52, 89, 183, 0, 54, 181, 0, 59, 42, 16, 6, 188, 10]
abbrev dktX0_init_2 : List UInt8 := dkwX0_init_2 ++ dktX0_init_3
def dkwX0_init_1 : List UInt8 := [42, 2, 181, 0, 39, 42, 187, 0, 43, 89, 42, 183, 0, 45, 181, 0, 48, 42, 187, 0, 52, 89]
abbrev dktX0_init_1 : List UInt8 := dkwX0_init_1 ++ dktX0_init_2
def dkwX0_init_0 : List UInt8 := [42, 183, 0, 22, 42, 187, 0, 28, 89, 183, 0, 30, 181, 0, 31, 42, 17, 6, 64, 188, 8, 181, 0, 35]
abbrev dktX0_init_0 : List UInt8 := dkwX0_init_0 ++ dktX0_init_1
theorem dksX0_init_0 : cX0_init.data.toList.drop 0 = dktX0_init_0 := by decide +kernel
theorem dksX0_init_1 : cX0_init.data.toList.drop 24 = dktX0_init_1 := dk_seg dksX0_init_0 24 rfl rfl
theorem dksX0_init_2 : cX0_init.data.toList.drop 46 = dktX0_init_2 := dk_seg dksX0_init_1 22 rfl rfl
theorem dksX0_init_3 : cX0_init.data.toList.drop 68 = dktX0_init_3 := dk_seg dksX0_init_2 22 rfl rfl
theorem dksX0_init_4 : cX0_init.data.toList.drop 92 = dktX0_init_4 := dk_seg dksX0_init_3 24 rfl rfl
theorem dksX0_init_5 : cX0_init.data.toList.drop 115 = dktX0_init_5 := dk_seg dksX0_init_4 23 rfl rfl
theorem dksX0_init_6 : cX0_init.data.toList.drop 139 = dktX0_init_6 := dk_seg dksX0_init_5 24 rfl rfl
theorem dksX0_init_7 : cX0_init.data.toList.drop 161 = dktX0_init_7 := dk_seg dksX0_init_6 22 rfl rfl
theorem dX0_init_0 : decode cX0_init 0 = .ok (.aload_n 0, 1) := dk_42 (dk_at dksX0_init_0 0 rfl rfl)
theorem dX0_init_1 : decode cX0_init 1 = .ok (.invokespecial 22, 3) := dk_183 0 22 (dk_at dksX0_init_0 1 rfl rfl)
theorem dX0_init_4 : decode cX0_init 4 = .ok (.aload_n 0, 1) := dk_42 (dk_at dksX0_init_0 4 rfl rfl)
theorem dX0_init_5 : decode cX0_init 5 = .ok (.new 28, 3) := dk_187 0 28 (dk_at dksX0_init_0 5 rfl rfl)
theorem dX0_init_8 : decode cX0_init 8 = .ok (.dup, 1) := dk_89 (dk_at dksX0_init_0 8 rfl rfl)
theorem dX0_init_9 : decode cX0_init 9 = .ok (.invokespecial 30, 3) := dk_183 0 30 (dk_at dksX0_init_0 9 rfl rfl)
theorem dX0_init_12 : decode cX0_init 12 = .ok (.putfield 31, 3) := dk_181 0 31 (dk_at dksX0_init_0 12 rfl rfl)
theorem dX0_init_15 : decode cX0_init 15 = .ok (.aload_n 0, 1) := dk_42 (dk_at dksX0_init_0 15 rfl rfl)
theorem dX0_init_16 : decode cX0_init 16 = .ok (.sipush 1600, 3) := dk_17 6 64 (dk_at dksX0_init_0 16 rfl rfl)
theorem dX0_init_19 : decode cX0_init 19 = .ok (.newarray .byte, 2) := dk_188_8 (dk_at dksX0_init_0 19 rfl rfl)
theorem dX0_init_21 : decode cX0_init 21 = .ok (.putfield 35, 3) := dk_181 0 35 (dk_at dksX0_init_0 21 rfl rfl)
theorem dX0_init_24 : decode cX0_init 24 = .ok (.aload_n 0, 1) := dk_42 (dk_at dksX0_init_1 0 rfl rfl)
theorem dX0_init_25 : decode cX0_init 25 = .ok (.iconst (-1), 1) := dk_2 (dk_at dksX0_init_1 1 rfl rfl)
theorem dX0_init_26 : decode cX0_init 26 = .ok (.putfield 39, 3) := dk_181 0 39 (dk_at dksX0_init_1 2 rfl rfl)
theorem dX0_init_29 : decode cX0_init 29 = .ok (.aload_n 0, 1) := dk_42 (dk_at dksX0_init_1 5 rfl rfl)
theorem dX0_init_30 : decode cX0_init 30 = .ok (.new 43, 3) := dk_187 0 43 (dk_at dksX0_init_1 6 rfl rfl)
theorem dX0_init_33 : decode cX0_init 33 = .ok (.dup, 1) := dk_89 (dk_at dksX0_init_1 9 rfl rfl)
theorem dX0_init_34 : decode cX0_init 34 = .ok (.aload_n 0, 1) := dk_42 (dk_at dksX0_init_1 10 rfl rfl)
theorem dX0_init_35 : decode cX0_init 35 = .ok (.invokespecial 45, 3) := dk_183 0 45 (dk_at dksX0_init_1 11 rfl rfl)
theorem dX0_init_38 : decode cX0_init 38 = .ok (.putfield 48, 3) := dk_181 0 48 (dk_at dksX0_init_1 14 rfl rfl)
theorem dX0_init_41 : decode cX0_init 41 = .ok (.aload_n 0, 1) := dk_42 (dk_at dksX0_init_1 17 rfl rfl)
theorem dX0_init_42 : decode cX0_init 42 = .ok (.new 52, 3) := dk_187 0 52 (dk_at dksX0_init_1 18 rfl rfl)
theorem dX0_init_45 : decode cX0_init 45 = .ok (.dup, 1) := dk_89 (dk_at dksX0_init_1 21 rfl rfl)
theorem dX0_init_46 : decode cX0_init 46 = .ok (.invokespecial 54, 3) := dk_183 0 54 (dk_at dksX0_init_2 0 rfl rfl)
theorem dX0_init_49 : decode cX0_init 49 = .ok (.putfield 55, 3) := dk_181 0 55 (dk_at dksX0_init_2 3 rfl rfl)
theorem dX0_init_52 : decode cX0_init 52 = .ok (.aload_n 0, 1) := dk_42 (dk_at dksX0_init_2 6 rfl rfl)
theorem dX0_init_53 : decode cX0_init 53 = .ok (.new 52, 3) := dk_187 0 52 (dk_at dksX0_init_2 7 rfl rfl)
theorem dX0_init_56 : decode cX0_init 56 = .ok (.dup, 1) := dk_89 (dk_at dksX0_init_2 10 rfl rfl)
theorem dX0_init_57 : decode cX0_init 57 = .ok (.invokespecial 54, 3) := dk_183 0 54 (dk_at dksX0_init_2 11 rfl rfl)
theorem dX0_init_60 : decode cX0_init 60 = .ok (.putfield 59, 3) := dk_181 0 59 (dk_at dksX0_init_2 14 rfl rfl)
theorem dX0_init_63 : decode cX0_init 63 = .ok (.aload_n 0, 1) := dk_42 (dk_at dksX0_init_2 17 rfl rfl)
theorem dX0_init_64 : decode cX0_init 64 = .ok (.bipush 6, 2) := dk_16 6 (dk_at dksX0_init_2 18 rfl rfl)
theorem dX0_init_66 : decode cX0_init 66 = .ok (.newarray .int, 2) := dk_188_10 (dk_at dksX0_init_2 20 rfl rfl)
theorem dX0_init_68 : decode cX0_init 68 = .ok (.putfield 62, 3) := dk_181 0 62 (dk_at dksX0_init_3 0 rfl rfl)
theorem dX0_init_71 : decode cX0_init 71 = .ok (.aload_n 0, 1) := dk_42 (dk_at dksX0_init_3 3 rfl rfl)
theorem dX0_init_72 : decode cX0_init 72 = .ok (.new 66, 3) := dk_187 0 66 (dk_at dksX0_init_3 4 rfl rfl)
theorem dX0_init_75 : decode cX0_init 75 = .ok (.dup, 1) := dk_89 (dk_at dksX0_init_3 7 rfl rfl)
theorem dX0_init_76 : decode cX0_init 76 = .ok (.aload_n 0, 1) := dk_42 (dk_at dksX0_init_3 8 rfl rfl)
theorem dX0_init_77 : decode cX0_init 77 = .ok (.invokespecial 68, 3) := dk_183 0 68 (dk_at dksX0_init_3 9 rfl rfl)
theorem dX0_init_80 : decode cX0_init 80 = .ok (.putfield 69, 3) := dk_181 0 69 (dk_at dksX0_init_3 12 rfl rfl)
theorem dX0_init_83 : decode cX0_init 83 = .ok (.aload_n 0, 1) := dk_42 (dk_at dksX0_init_3 15 rfl rfl)
theorem dX0_init_84 : decode cX0_init 84 = .ok (.new 66, 3) := dk_187 0 66 (dk_at dksX0_init_3 16 rfl rfl)
theorem dX0_init_87 : decode cX0_init 87 = .ok (.dup, 1) := dk_89 (dk_at dksX0_init_3 19 rfl rfl)
theorem dX0_init_88 : decode cX0_init 88 = .ok (.aload_n 0, 1) := dk_42 (dk_at dksX0_init_3 20 rfl rfl)
theorem dX0_init_89 : decode cX0_init 89 = .ok (.invokespecial 68, 3) := dk_183 0 68 (dk_at dksX0_init_3 21 rfl rfl)
theorem dX0_init_92 : decode cX0_init 92 = .ok (.putfield 73, 3) := dk_181 0 73 (dk_at dksX0_init_4 0 rfl rfl)
theorem dX0_init_95 : decode cX0_init 95 = .ok (.aload_n 0, 1) := dk_42 (dk_at dksX0_init_4 3 rfl rfl)
theorem dX0_init_96 : decode cX0_init 96 = .ok (.bipush 16, 2) := dk_16 16 (dk_at dksX0_init_4 4 rfl rfl)
theorem dX0_init_98 : decode cX0_init 98 = .ok (.newarray .int, 2) := dk_188_10 (dk_at dksX0_init_4 6 rfl rfl)
theorem dX0_init_100 : decode cX0_init 100 = .ok (.putfield 76, 3) := dk_181 0 76 (dk_at dksX0_init_4 8 rfl rfl)
theorem dX0_init_103 : decode cX0_init 103 = .ok (.aload_n 0, 1) := dk_42 (dk_at dksX0_init_4 11 rfl rfl)
theorem dX0_init_104 : decode cX0_init 104 = .ok (.bipush 16, 2) := dk_16 16 (dk_at dksX0_init_4 12 rfl rfl)
theorem dX0_init_106 : decode cX0_init 106 = .ok (.newarray .int, 2) := dk_188_10 (dk_at dksX0_init_4 14 rfl rfl)
theorem dX0_init_108 : decode cX0_init 108 = .ok (.putfield 79, 3) := dk_181 0 79 (dk_at dksX0_init_4 16 rfl rfl)
theorem dX0_init_111 : decode cX0_init 111 = .ok (.aload_n 0, 1) := dk_42 (dk_at dksX0_init_4 19 rfl rfl)
theorem dX0_init_112 : decode cX0_init 112 = .ok (.bipush 8, 2) := dk_16 8 (dk_at dksX0_init_4 20 rfl rfl)
theorem dX0_init_114 : decode cX0_init 114 = .ok (.iconst 3, 1) := dk_6 (dk_at dksX0_init_4 22 rfl rfl)
theorem dX0_init_115 : decode cX0_init 115 = .ok (.multianewarray 82 2, 4) := by decide +kernel
theorem dX0_init_119 : decode cX0_init 119 = .ok (.putfield 84, 3) := dk_181 0 84 (dk_at dksX0_init_5 4 rfl rfl)
theorem dX0_init_122 : decode cX0_init 122 = .ok (.aload_n 0, 1) := dk_42 (dk_at dksX0_init_5 7 rfl rfl)
theorem dX0_init_123 : decode cX0_init 123 = .ok (.bipush 20, 2) := dk_16 20 (dk_at dksX0_init_5 8 rfl rfl)
theorem dX0_init_125 : decode cX0_init 125 = .ok (.anewarray 66, 3) := dk_189 0 66 (dk_at dksX0_init_5 10 rfl rfl)
theorem dX0_init_128 : decode cX0_init 128 = .ok (.putfield 87, 3) := dk_181 0 87 (dk_at dksX0_init_5 13 rfl rfl)
theorem dX0_init_131 : decode cX0_init 131 = .ok (.iconst 0, 1) := dk_3 (dk_at dksX0_init_5 16 rfl rfl)
theorem dX0_init_132 : decode cX0_init 132 = .ok (.istore_n 1, 1) := dk_60 (dk_at dksX0_init_5 17 rfl rfl)
theorem dX0_init_133 : decode cX0_init 133 = .ok (.iload_n 1, 1) := dk_27 (dk_at dksX0_init_5 18 rfl rfl)
theorem dX0_init_134 : decode cX0_init 134 = .ok (.bipush 20, 2) := dk_16 20 (dk_at dksX0_init_5 19 rfl rfl)
theorem dX0_init_136 : decode cX0_init 136 = .ok (.if_icmp .ge 23, 3) := dk_162 0 23 (dk_at dksX0_init_5 21 rfl rfl)
theorem dX0_init_139 : decode cX0_init 139 = .ok (.aload_n 0, 1) := dk_42 (dk_at dksX0_init_6 0 rfl rfl)
theorem dX0_init_140 : decode cX0_init 140 = .ok (.getfield 87, 3) := dk_180 0 87 (dk_at dksX0_init_6 1 rfl rfl)
theorem dX0_init_143 : decode cX0_init 143 = .ok (.iload_n 1, 1) := dk_27 (dk_at dksX0_init_6 4 rfl rfl)
theorem dX0_init_144 : decode cX0_init 144 = .ok (.new 66, 3) := dk_187 0 66 (dk_at dksX0_init_6 5 rfl rfl)
theorem dX0_init_147 : decode cX0_init 147 = .ok (.dup, 1) := dk_89 (dk_at dksX0_init_6 8 rfl rfl)
theorem dX0_init_148 : decode cX0_init 148 = .ok (.aload_n 0, 1) := dk_42 (dk_at dksX0_init_6 9 rfl rfl)
theorem dX0_init_149 : decode cX0_init 149 = .ok (.invokespecial 68, 3) := dk_183 0 68 (dk_at dksX0_init_6 10 rfl rfl)
theorem dX0_init_152 : decode cX0_init 152 = .ok (.aastore, 1) := dk_83 (dk_at dksX0_init_6 13 rfl rfl)
theorem dX0_init_153 : decode cX0_init 153 = .ok (.iinc 1 1, 3) := dk_132 1 1 (dk_at dksX0_init_6 14 rfl rfl)
theorem dX0_init_156 : decode cX0_init 156 = .ok (.goto (-23), 3) := dk_167 255 233 (dk_at dksX0_init_6 17 rfl rfl)
theorem dX0_init_159 : decode cX0_init 159 = .ok (.aload_n 0, 1) := dk_42 (dk_at dksX0_init_6 20 rfl rfl)
theorem dX0_init_160 : decode cX0_init 160 = .ok (.lconst 1, 1) := dk_10 (dk_at dksX0_init_6 21 rfl rfl)
theorem dX0_init_161 : decode cX0_init 161 = .ok (.putfield 91, 3) := dk_181 0 91 (dk_at dksX0_init_7 0 rfl rfl)
theorem dX0_init_164 : decode cX0_init 164 = .ok (.aload_n 0, 1) := dk_42 (dk_at dksX0_init_7 3 rfl rfl)
theorem dX0_init_165 : decode cX0_init 165 = .ok (.bipush 43, 2) := dk_16 43 (dk_at dksX0_init_7 4 rfl rfl)
theorem dX0_init_167 : decode cX0_init 167 = .ok (.newarray .byte, 2) := dk_188_8 (dk_at dksX0_init_7 6 rfl rfl)
theorem dX0_init_169 : decode cX0_init 169 = .ok (.putfield 95, 3) := dk_181 0 95 (dk_at dksX0_init_7 8 rfl rfl)
theorem dX0_init_172 : decode cX0_init 172 = .ok (.return_, 1) := dk_177 (dk_at dksX0_init_7 11 rfl rfl)
abbrev cX0_feed : ByteArray := prog_1_method_10_code
def yX0_feed : MethodName := ⟨RX0, "feed", "(IIIII)I"⟩
def dkwX0_feed_2 : List UInt8 := [180, 0, 98, 172]
abbrev dktX0_feed_2 : List UInt8 := dkwX0_feed_2 ++ []
def dkwX0_feed_1 : List UInt8 := [42, 28, 182, 0, 105, 42, 29, 182, 0, 105, 42, 21, 4, 182, 0, 105, 42, 21, 5, 182, 0, 105, 42]
abbrev dktX0_feed_1 : List UInt8 := dkwX0_feed_1 ++ dktX0_feed_2
def dkwX0_feed_0 : List UInt8 := [42, 180, 0, 98, 16, 20, 96, 17, 6, 64, 164, 0, 9, 42, 3, 182, 0, 101, 172, 42, 27, 182, 0, 105]
abbrev dktX0_feed_0 : List UInt8 := dkwX0_feed_0 ++ dktX0_feed_1
theorem dksX0_feed_0 : cX0_feed.data.toList.drop 0 = dktX0_feed_0 := by decide +kernel
theorem dksX0_feed_1 : cX0_feed.data.toList.drop 24 = dktX0_feed_1 := dk_seg dksX0_feed_0 24 rfl rfl
theorem dksX0_feed_2 : cX0_feed.data.toList.drop 47 = dktX0_feed_2 := dk_seg dksX0_feed_1 23 rfl rfl
theorem dX0_feed_0 : decode cX0_feed 0 = .ok (.aload_n 0, 1) := dk_42 (dk_at dksX0_feed_0 0 rfl rfl)
theorem dX0_feed_1 : decode cX0_feed 1 = .ok (.getfield 98, 3) := dk_180 0 98 (dk_at dksX0_feed_0 1 rfl rfl)
theorem dX0_feed_4 : decode cX0_feed 4 = .ok (.bipush 20, 2) := dk_16 20 (dk_at dksX0_feed_0 4 rfl rfl)
theorem dX0_feed_6 : decode cX0_feed 6 = .ok (.iadd, 1) := dk_96 (dk_at dksX0_feed_0 6 rfl rfl)
theorem dX0_feed_7 : decode cX0_feed 7 = .ok (.sipush 1600, 3) := dk_17 6 64 (dk_at dksX0_feed_0 7 rfl rfl)
theorem dX0_feed_10 : decode cX0_feed 10 = .ok (.if_icmp .le 9, 3) := dk_164 0 9 (dk_at dksX0_feed_0 10 rfl rfl)
theorem dX0_feed_13 : decode cX0_feed 13 = .ok (.aload_n 0, 1) := dk_42 (dk_at dksX0_feed_0 13 rfl rfl)
theorem dX0_feed_14 : decode cX0_feed 14 = .ok (.iconst 0, 1) := dk_3 (dk_at dksX0_feed_0 14 rfl rfl)
theorem dX0_feed_15 : decode cX0_feed 15 = .ok (.invokevirtual 101, 3) := dk_182 0 101 (dk_at dksX0_feed_0 15 rfl rfl)
theorem dX0_feed_18 : decode cX0_feed 18 = .ok (.ireturn, 1) := dk_172 (dk_at dksX0_feed_0 18 rfl rfl)
theorem dX0_feed_19 : decode cX0_feed 19 = .ok (.aload_n 0, 1) := dk_42 (dk_at dksX0_feed_0 19 rfl rfl)
theorem dX0_feed_20 : decode cX0_feed 20 = .ok (.iload_n 1, 1) := dk_27 (dk_at dksX0_feed_0 20 rfl rfl)
theorem dX0_feed_21 : decode cX0_feed 21 = .ok (.invokevirtual 105, 3) := dk_182 0 105 (dk_at dksX0_feed_0 21 rfl rfl)
theorem dX0_feed_24 : decode cX0_feed 24 = .ok (.aload_n 0, 1) := dk_42 (dk_at dksX0_feed_1 0 rfl rfl)
theorem dX0_feed_25 : decode cX0_feed 25 = .ok (.iload_n 2, 1) := dk_28 (dk_at dksX0_feed_1 1 rfl rfl)
theorem dX0_feed_26 : decode cX0_feed 26 = .ok (.invokevirtual 105, 3) := dk_182 0 105 (dk_at dksX0_feed_1 2 rfl rfl)
theorem dX0_feed_29 : decode cX0_feed 29 = .ok (.aload_n 0, 1) := dk_42 (dk_at dksX0_feed_1 5 rfl rfl)
theorem dX0_feed_30 : decode cX0_feed 30 = .ok (.iload_n 3, 1) := dk_29 (dk_at dksX0_feed_1 6 rfl rfl)
theorem dX0_feed_31 : decode cX0_feed 31 = .ok (.invokevirtual 105, 3) := dk_182 0 105 (dk_at dksX0_feed_1 7 rfl rfl)
theorem dX0_feed_34 : decode cX0_feed 34 = .ok (.aload_n 0, 1) := dk_42 (dk_at dksX0_feed_1 10 rfl rfl)
theorem dX0_feed_35 : decode cX0_feed 35 = .ok (.iload 4, 2) := dk_21 4 (dk_at dksX0_feed_1 11 rfl rfl)
theorem dX0_feed_37 : decode cX0_feed 37 = .ok (.invokevirtual 105, 3) := dk_182 0 105 (dk_at dksX0_feed_1 13 rfl rfl)
theorem dX0_feed_40 : decode cX0_feed 40 = .ok (.aload_n 0, 1) := dk_42 (dk_at dksX0_feed_1 16 rfl rfl)
theorem dX0_feed_41 : decode cX0_feed 41 = .ok (.iload 5, 2) := dk_21 5 (dk_at dksX0_feed_1 17 rfl rfl)
theorem dX0_feed_43 : decode cX0_feed 43 = .ok (.invokevirtual 105, 3) := dk_182 0 105 (dk_at dksX0_feed_1 19 rfl rfl)
theorem dX0_feed_46 : decode cX0_feed 46 = .ok (.aload_n 0, 1) := dk_42 (dk_at dksX0_feed_1 22 rfl rfl)
theorem dX0_feed_47 : decode cX0_feed 47 = .ok (.getfield 98, 3) := dk_180 0 98 (dk_at dksX0_feed_2 0 rfl rfl)
theorem dX0_feed_50 : decode cX0_feed 50 = .ok (.ireturn, 1) := dk_172 (dk_at dksX0_feed_2 3 rfl rfl)
abbrev cX0_refuses : ByteArray := prog_1_method_8_code
def yX0_refuses : MethodName := ⟨RX0, "refuses", "(I)I"⟩
def dkwX0_refuses_0 : List UInt8 := [42, 180, 0, 62, 27, 92, 46, 4, 96, 79, 2, 172]
abbrev dktX0_refuses_0 : List UInt8 := dkwX0_refuses_0 ++ []
theorem dksX0_refuses_0 : cX0_refuses.data.toList.drop 0 = dktX0_refuses_0 := by decide +kernel
theorem dX0_refuses_0 : decode cX0_refuses 0 = .ok (.aload_n 0, 1) := dk_42 (dk_at dksX0_refuses_0 0 rfl rfl)
theorem dX0_refuses_1 : decode cX0_refuses 1 = .ok (.getfield 62, 3) := dk_180 0 62 (dk_at dksX0_refuses_0 1 rfl rfl)
theorem dX0_refuses_4 : decode cX0_refuses 4 = .ok (.iload_n 1, 1) := dk_27 (dk_at dksX0_refuses_0 4 rfl rfl)
theorem dX0_refuses_5 : decode cX0_refuses 5 = .ok (.dup2, 1) := dk_92 (dk_at dksX0_refuses_0 5 rfl rfl)
theorem dX0_refuses_6 : decode cX0_refuses 6 = .ok (.iaload, 1) := dk_46 (dk_at dksX0_refuses_0 6 rfl rfl)
theorem dX0_refuses_7 : decode cX0_refuses 7 = .ok (.iconst 1, 1) := dk_4 (dk_at dksX0_refuses_0 7 rfl rfl)
theorem dX0_refuses_8 : decode cX0_refuses 8 = .ok (.iadd, 1) := dk_96 (dk_at dksX0_refuses_0 8 rfl rfl)
theorem dX0_refuses_9 : decode cX0_refuses 9 = .ok (.iastore, 1) := dk_79 (dk_at dksX0_refuses_0 9 rfl rfl)
theorem dX0_refuses_10 : decode cX0_refuses 10 = .ok (.iconst (-1), 1) := dk_2 (dk_at dksX0_refuses_0 10 rfl rfl)
theorem dX0_refuses_11 : decode cX0_refuses 11 = .ok (.ireturn, 1) := dk_172 (dk_at dksX0_refuses_0 11 rfl rfl)
abbrev cX0_put : ByteArray := prog_1_method_9_code
def yX0_put : MethodName := ⟨RX0, "put", "(I)V"⟩
def dkwX0_put_1 : List UInt8 := [122, 145, 84, 132, 2, 248, 167, 255, 229, 177]
abbrev dktX0_put_1 : List UInt8 := dkwX0_put_1 ++ []
def dkwX0_put_0 : List UInt8 := [16, 24, 61, 28, 155, 0, 29, 42, 180, 0, 35, 42, 89, 180, 0, 98, 90, 4, 96, 181, 0, 98, 27, 28]
abbrev dktX0_put_0 : List UInt8 := dkwX0_put_0 ++ dktX0_put_1
theorem dksX0_put_0 : cX0_put.data.toList.drop 0 = dktX0_put_0 := by decide +kernel
theorem dksX0_put_1 : cX0_put.data.toList.drop 24 = dktX0_put_1 := dk_seg dksX0_put_0 24 rfl rfl
theorem dX0_put_0 : decode cX0_put 0 = .ok (.bipush 24, 2) := dk_16 24 (dk_at dksX0_put_0 0 rfl rfl)
theorem dX0_put_2 : decode cX0_put 2 = .ok (.istore_n 2, 1) := dk_61 (dk_at dksX0_put_0 2 rfl rfl)
theorem dX0_put_3 : decode cX0_put 3 = .ok (.iload_n 2, 1) := dk_28 (dk_at dksX0_put_0 3 rfl rfl)
theorem dX0_put_4 : decode cX0_put 4 = .ok (.ifCond .lt 29, 3) := dk_155 0 29 (dk_at dksX0_put_0 4 rfl rfl)
theorem dX0_put_7 : decode cX0_put 7 = .ok (.aload_n 0, 1) := dk_42 (dk_at dksX0_put_0 7 rfl rfl)
theorem dX0_put_8 : decode cX0_put 8 = .ok (.getfield 35, 3) := dk_180 0 35 (dk_at dksX0_put_0 8 rfl rfl)
theorem dX0_put_11 : decode cX0_put 11 = .ok (.aload_n 0, 1) := dk_42 (dk_at dksX0_put_0 11 rfl rfl)
theorem dX0_put_12 : decode cX0_put 12 = .ok (.dup, 1) := dk_89 (dk_at dksX0_put_0 12 rfl rfl)
theorem dX0_put_13 : decode cX0_put 13 = .ok (.getfield 98, 3) := dk_180 0 98 (dk_at dksX0_put_0 13 rfl rfl)
theorem dX0_put_16 : decode cX0_put 16 = .ok (.dup_x1, 1) := dk_90 (dk_at dksX0_put_0 16 rfl rfl)
theorem dX0_put_17 : decode cX0_put 17 = .ok (.iconst 1, 1) := dk_4 (dk_at dksX0_put_0 17 rfl rfl)
theorem dX0_put_18 : decode cX0_put 18 = .ok (.iadd, 1) := dk_96 (dk_at dksX0_put_0 18 rfl rfl)
theorem dX0_put_19 : decode cX0_put 19 = .ok (.putfield 98, 3) := dk_181 0 98 (dk_at dksX0_put_0 19 rfl rfl)
theorem dX0_put_22 : decode cX0_put 22 = .ok (.iload_n 1, 1) := dk_27 (dk_at dksX0_put_0 22 rfl rfl)
theorem dX0_put_23 : decode cX0_put 23 = .ok (.iload_n 2, 1) := dk_28 (dk_at dksX0_put_0 23 rfl rfl)
theorem dX0_put_24 : decode cX0_put 24 = .ok (.ishr, 1) := dk_122 (dk_at dksX0_put_1 0 rfl rfl)
theorem dX0_put_25 : decode cX0_put 25 = .ok (.i2b, 1) := dk_145 (dk_at dksX0_put_1 1 rfl rfl)
theorem dX0_put_26 : decode cX0_put 26 = .ok (.bastore, 1) := dk_84 (dk_at dksX0_put_1 2 rfl rfl)
theorem dX0_put_27 : decode cX0_put 27 = .ok (.iinc 2 (-8), 3) := dk_132 2 248 (dk_at dksX0_put_1 3 rfl rfl)
theorem dX0_put_30 : decode cX0_put 30 = .ok (.goto (-27), 3) := dk_167 255 229 (dk_at dksX0_put_1 6 rfl rfl)
theorem dX0_put_33 : decode cX0_put 33 = .ok (.return_, 1) := dk_177 (dk_at dksX0_put_1 9 rfl rfl)
abbrev cX0_end : ByteArray := prog_1_method_11_code
def yX0_end : MethodName := ⟨RX0, "end", "(I)Z"⟩
def dkwX0_end_1 : List UInt8 := [3, 172, 42, 27, 181, 0, 98, 4, 172]
abbrev dktX0_end_1 : List UInt8 := dkwX0_end_1 ++ []
def dkwX0_end_0 : List UInt8 := [27, 155, 0, 11, 27, 42, 180, 0, 98, 164, 0, 17, 42, 3, 182, 0, 101, 155, 0, 7, 4, 167, 0, 4]
abbrev dktX0_end_0 : List UInt8 := dkwX0_end_0 ++ dktX0_end_1
theorem dksX0_end_0 : cX0_end.data.toList.drop 0 = dktX0_end_0 := by decide +kernel
theorem dksX0_end_1 : cX0_end.data.toList.drop 24 = dktX0_end_1 := dk_seg dksX0_end_0 24 rfl rfl
theorem dX0_end_0 : decode cX0_end 0 = .ok (.iload_n 1, 1) := dk_27 (dk_at dksX0_end_0 0 rfl rfl)
theorem dX0_end_1 : decode cX0_end 1 = .ok (.ifCond .lt 11, 3) := dk_155 0 11 (dk_at dksX0_end_0 1 rfl rfl)
theorem dX0_end_4 : decode cX0_end 4 = .ok (.iload_n 1, 1) := dk_27 (dk_at dksX0_end_0 4 rfl rfl)
theorem dX0_end_5 : decode cX0_end 5 = .ok (.aload_n 0, 1) := dk_42 (dk_at dksX0_end_0 5 rfl rfl)
theorem dX0_end_6 : decode cX0_end 6 = .ok (.getfield 98, 3) := dk_180 0 98 (dk_at dksX0_end_0 6 rfl rfl)
theorem dX0_end_9 : decode cX0_end 9 = .ok (.if_icmp .le 17, 3) := dk_164 0 17 (dk_at dksX0_end_0 9 rfl rfl)
theorem dX0_end_12 : decode cX0_end 12 = .ok (.aload_n 0, 1) := dk_42 (dk_at dksX0_end_0 12 rfl rfl)
theorem dX0_end_13 : decode cX0_end 13 = .ok (.iconst 0, 1) := dk_3 (dk_at dksX0_end_0 13 rfl rfl)
theorem dX0_end_14 : decode cX0_end 14 = .ok (.invokevirtual 101, 3) := dk_182 0 101 (dk_at dksX0_end_0 14 rfl rfl)
theorem dX0_end_17 : decode cX0_end 17 = .ok (.ifCond .lt 7, 3) := dk_155 0 7 (dk_at dksX0_end_0 17 rfl rfl)
theorem dX0_end_20 : decode cX0_end 20 = .ok (.iconst 1, 1) := dk_4 (dk_at dksX0_end_0 20 rfl rfl)
theorem dX0_end_21 : decode cX0_end 21 = .ok (.goto 4, 3) := dk_167 0 4 (dk_at dksX0_end_0 21 rfl rfl)
theorem dX0_end_24 : decode cX0_end 24 = .ok (.iconst 0, 1) := dk_3 (dk_at dksX0_end_1 0 rfl rfl)
theorem dX0_end_25 : decode cX0_end 25 = .ok (.ireturn, 1) := dk_172 (dk_at dksX0_end_1 1 rfl rfl)
theorem dX0_end_26 : decode cX0_end 26 = .ok (.aload_n 0, 1) := dk_42 (dk_at dksX0_end_1 2 rfl rfl)
theorem dX0_end_27 : decode cX0_end 27 = .ok (.iload_n 1, 1) := dk_27 (dk_at dksX0_end_1 3 rfl rfl)
theorem dX0_end_28 : decode cX0_end 28 = .ok (.putfield 98, 3) := dk_181 0 98 (dk_at dksX0_end_1 4 rfl rfl)
theorem dX0_end_31 : decode cX0_end 31 = .ok (.iconst 1, 1) := dk_4 (dk_at dksX0_end_1 7 rfl rfl)
theorem dX0_end_32 : decode cX0_end 32 = .ok (.ireturn, 1) := dk_172 (dk_at dksX0_end_1 8 rfl rfl)
abbrev cX0_school : ByteArray := prog_1_method_13_code
def yX0_school : MethodName := ⟨RX0, "school", "()I"⟩
def dkwX0_school_3 : List UInt8 := [180, 0, 31, 180, 0, 137, 172]
abbrev dktX0_school_3 : List UInt8 := dkwX0_school_3 ++ []
def dkwX0_school_2 : List UInt8 := [4, 182, 0, 101, 172, 42, 180, 0, 69, 182, 0, 128, 42, 3, 181, 0, 131, 42, 3, 181, 0, 134, 42]
abbrev dktX0_school_2 : List UInt8 := dkwX0_school_2 ++ dktX0_school_3
def dkwX0_school_1 : List UInt8 := [181, 0, 31, 167, 0, 26, 76, 42, 43, 180, 0, 122, 181, 0, 109, 42, 43, 180, 0, 125, 181, 0, 39, 42]
abbrev dktX0_school_1 : List UInt8 := dkwX0_school_1 ++ dktX0_school_2
def dkwX0_school_0 : List UInt8 := [42, 3, 181, 0, 109, 42, 2, 181, 0, 39, 42, 42, 180, 0, 48, 42, 182, 0, 112, 182, 0, 116]
abbrev dktX0_school_0 : List UInt8 := dkwX0_school_0 ++ dktX0_school_1
theorem dksX0_school_0 : cX0_school.data.toList.drop 0 = dktX0_school_0 := by decide +kernel
theorem dksX0_school_1 : cX0_school.data.toList.drop 22 = dktX0_school_1 := dk_seg dksX0_school_0 22 rfl rfl
theorem dksX0_school_2 : cX0_school.data.toList.drop 46 = dktX0_school_2 := dk_seg dksX0_school_1 24 rfl rfl
theorem dksX0_school_3 : cX0_school.data.toList.drop 69 = dktX0_school_3 := dk_seg dksX0_school_2 23 rfl rfl
theorem dX0_school_0 : decode cX0_school 0 = .ok (.aload_n 0, 1) := dk_42 (dk_at dksX0_school_0 0 rfl rfl)
theorem dX0_school_1 : decode cX0_school 1 = .ok (.iconst 0, 1) := dk_3 (dk_at dksX0_school_0 1 rfl rfl)
theorem dX0_school_2 : decode cX0_school 2 = .ok (.putfield 109, 3) := dk_181 0 109 (dk_at dksX0_school_0 2 rfl rfl)
theorem dX0_school_5 : decode cX0_school 5 = .ok (.aload_n 0, 1) := dk_42 (dk_at dksX0_school_0 5 rfl rfl)
theorem dX0_school_6 : decode cX0_school 6 = .ok (.iconst (-1), 1) := dk_2 (dk_at dksX0_school_0 6 rfl rfl)
theorem dX0_school_7 : decode cX0_school 7 = .ok (.putfield 39, 3) := dk_181 0 39 (dk_at dksX0_school_0 7 rfl rfl)
theorem dX0_school_10 : decode cX0_school 10 = .ok (.aload_n 0, 1) := dk_42 (dk_at dksX0_school_0 10 rfl rfl)
theorem dX0_school_11 : decode cX0_school 11 = .ok (.aload_n 0, 1) := dk_42 (dk_at dksX0_school_0 11 rfl rfl)
theorem dX0_school_12 : decode cX0_school 12 = .ok (.getfield 48, 3) := dk_180 0 48 (dk_at dksX0_school_0 12 rfl rfl)
theorem dX0_school_15 : decode cX0_school 15 = .ok (.aload_n 0, 1) := dk_42 (dk_at dksX0_school_0 15 rfl rfl)
theorem dX0_school_16 : decode cX0_school 16 = .ok (.invokevirtual 112, 3) := dk_182 0 112 (dk_at dksX0_school_0 16 rfl rfl)
theorem dX0_school_19 : decode cX0_school 19 = .ok (.invokevirtual 116, 3) := dk_182 0 116 (dk_at dksX0_school_0 19 rfl rfl)
theorem dX0_school_22 : decode cX0_school 22 = .ok (.putfield 31, 3) := dk_181 0 31 (dk_at dksX0_school_1 0 rfl rfl)
theorem dX0_school_25 : decode cX0_school 25 = .ok (.goto 26, 3) := dk_167 0 26 (dk_at dksX0_school_1 3 rfl rfl)
theorem dX0_school_28 : decode cX0_school 28 = .ok (.astore_n 1, 1) := dk_76 (dk_at dksX0_school_1 6 rfl rfl)
theorem dX0_school_29 : decode cX0_school 29 = .ok (.aload_n 0, 1) := dk_42 (dk_at dksX0_school_1 7 rfl rfl)
theorem dX0_school_30 : decode cX0_school 30 = .ok (.aload_n 1, 1) := dk_43 (dk_at dksX0_school_1 8 rfl rfl)
theorem dX0_school_31 : decode cX0_school 31 = .ok (.getfield 122, 3) := dk_180 0 122 (dk_at dksX0_school_1 9 rfl rfl)
theorem dX0_school_34 : decode cX0_school 34 = .ok (.putfield 109, 3) := dk_181 0 109 (dk_at dksX0_school_1 12 rfl rfl)
theorem dX0_school_37 : decode cX0_school 37 = .ok (.aload_n 0, 1) := dk_42 (dk_at dksX0_school_1 15 rfl rfl)
theorem dX0_school_38 : decode cX0_school 38 = .ok (.aload_n 1, 1) := dk_43 (dk_at dksX0_school_1 16 rfl rfl)
theorem dX0_school_39 : decode cX0_school 39 = .ok (.getfield 125, 3) := dk_180 0 125 (dk_at dksX0_school_1 17 rfl rfl)
theorem dX0_school_42 : decode cX0_school 42 = .ok (.putfield 39, 3) := dk_181 0 39 (dk_at dksX0_school_1 20 rfl rfl)
theorem dX0_school_45 : decode cX0_school 45 = .ok (.aload_n 0, 1) := dk_42 (dk_at dksX0_school_1 23 rfl rfl)
theorem dX0_school_46 : decode cX0_school 46 = .ok (.iconst 1, 1) := dk_4 (dk_at dksX0_school_2 0 rfl rfl)
theorem dX0_school_47 : decode cX0_school 47 = .ok (.invokevirtual 101, 3) := dk_182 0 101 (dk_at dksX0_school_2 1 rfl rfl)
theorem dX0_school_50 : decode cX0_school 50 = .ok (.ireturn, 1) := dk_172 (dk_at dksX0_school_2 4 rfl rfl)
theorem dX0_school_51 : decode cX0_school 51 = .ok (.aload_n 0, 1) := dk_42 (dk_at dksX0_school_2 5 rfl rfl)
theorem dX0_school_52 : decode cX0_school 52 = .ok (.getfield 69, 3) := dk_180 0 69 (dk_at dksX0_school_2 6 rfl rfl)
theorem dX0_school_55 : decode cX0_school 55 = .ok (.invokevirtual 128, 3) := dk_182 0 128 (dk_at dksX0_school_2 9 rfl rfl)
theorem dX0_school_58 : decode cX0_school 58 = .ok (.aload_n 0, 1) := dk_42 (dk_at dksX0_school_2 12 rfl rfl)
theorem dX0_school_59 : decode cX0_school 59 = .ok (.iconst 0, 1) := dk_3 (dk_at dksX0_school_2 13 rfl rfl)
theorem dX0_school_60 : decode cX0_school 60 = .ok (.putfield 131, 3) := dk_181 0 131 (dk_at dksX0_school_2 14 rfl rfl)
theorem dX0_school_63 : decode cX0_school 63 = .ok (.aload_n 0, 1) := dk_42 (dk_at dksX0_school_2 17 rfl rfl)
theorem dX0_school_64 : decode cX0_school 64 = .ok (.iconst 0, 1) := dk_3 (dk_at dksX0_school_2 18 rfl rfl)
theorem dX0_school_65 : decode cX0_school 65 = .ok (.putfield 134, 3) := dk_181 0 134 (dk_at dksX0_school_2 19 rfl rfl)
theorem dX0_school_68 : decode cX0_school 68 = .ok (.aload_n 0, 1) := dk_42 (dk_at dksX0_school_2 22 rfl rfl)
theorem dX0_school_69 : decode cX0_school 69 = .ok (.getfield 31, 3) := dk_180 0 31 (dk_at dksX0_school_3 0 rfl rfl)
theorem dX0_school_72 : decode cX0_school 72 = .ok (.getfield 137, 3) := dk_180 0 137 (dk_at dksX0_school_3 3 rfl rfl)
theorem dX0_school_75 : decode cX0_school 75 = .ok (.ireturn, 1) := dk_172 (dk_at dksX0_school_3 6 rfl rfl)
abbrev cX0_taken : ByteArray := prog_1_method_12_code
def yX0_taken : MethodName := ⟨RX0, "taken", "()I"⟩
def dkwX0_taken_0 : List UInt8 := [42, 180, 0, 98, 60, 42, 3, 181, 0, 98, 27, 172]
abbrev dktX0_taken_0 : List UInt8 := dkwX0_taken_0 ++ []
theorem dksX0_taken_0 : cX0_taken.data.toList.drop 0 = dktX0_taken_0 := by decide +kernel
theorem dX0_taken_0 : decode cX0_taken 0 = .ok (.aload_n 0, 1) := dk_42 (dk_at dksX0_taken_0 0 rfl rfl)
theorem dX0_taken_1 : decode cX0_taken 1 = .ok (.getfield 98, 3) := dk_180 0 98 (dk_at dksX0_taken_0 1 rfl rfl)
theorem dX0_taken_4 : decode cX0_taken 4 = .ok (.istore_n 1, 1) := dk_60 (dk_at dksX0_taken_0 4 rfl rfl)
theorem dX0_taken_5 : decode cX0_taken 5 = .ok (.aload_n 0, 1) := dk_42 (dk_at dksX0_taken_0 5 rfl rfl)
theorem dX0_taken_6 : decode cX0_taken 6 = .ok (.iconst 0, 1) := dk_3 (dk_at dksX0_taken_0 6 rfl rfl)
theorem dX0_taken_7 : decode cX0_taken 7 = .ok (.putfield 98, 3) := dk_181 0 98 (dk_at dksX0_taken_0 7 rfl rfl)
theorem dX0_taken_10 : decode cX0_taken 10 = .ok (.iload_n 1, 1) := dk_27 (dk_at dksX0_taken_0 10 rfl rfl)
theorem dX0_taken_11 : decode cX0_taken 11 = .ok (.ireturn, 1) := dk_172 (dk_at dksX0_taken_0 11 rfl rfl)
abbrev cX0_isLetter : ByteArray := prog_1_method_4_code
def yX0_isLetter : MethodName := ⟨RX0, "isLetter", "(I)Z"⟩
def dkwX0_isLetter_0 : List UInt8 := [26, 16, 97, 161, 0, 13, 26, 16, 122, 163, 0, 7, 4, 167, 0, 4, 3, 172]
abbrev dktX0_isLetter_0 : List UInt8 := dkwX0_isLetter_0 ++ []
theorem dksX0_isLetter_0 : cX0_isLetter.data.toList.drop 0 = dktX0_isLetter_0 := by decide +kernel
theorem dX0_isLetter_0 : decode cX0_isLetter 0 = .ok (.iload_n 0, 1) := dk_26 (dk_at dksX0_isLetter_0 0 rfl rfl)
theorem dX0_isLetter_1 : decode cX0_isLetter 1 = .ok (.bipush 97, 2) := dk_16 97 (dk_at dksX0_isLetter_0 1 rfl rfl)
theorem dX0_isLetter_3 : decode cX0_isLetter 3 = .ok (.if_icmp .lt 13, 3) := dk_161 0 13 (dk_at dksX0_isLetter_0 3 rfl rfl)
theorem dX0_isLetter_6 : decode cX0_isLetter 6 = .ok (.iload_n 0, 1) := dk_26 (dk_at dksX0_isLetter_0 6 rfl rfl)
theorem dX0_isLetter_7 : decode cX0_isLetter 7 = .ok (.bipush 122, 2) := dk_16 122 (dk_at dksX0_isLetter_0 7 rfl rfl)
theorem dX0_isLetter_9 : decode cX0_isLetter 9 = .ok (.if_icmp .gt 7, 3) := dk_163 0 7 (dk_at dksX0_isLetter_0 9 rfl rfl)
theorem dX0_isLetter_12 : decode cX0_isLetter 12 = .ok (.iconst 1, 1) := dk_4 (dk_at dksX0_isLetter_0 12 rfl rfl)
theorem dX0_isLetter_13 : decode cX0_isLetter 13 = .ok (.goto 4, 3) := dk_167 0 4 (dk_at dksX0_isLetter_0 13 rfl rfl)
theorem dX0_isLetter_16 : decode cX0_isLetter 16 = .ok (.iconst 0, 1) := dk_3 (dk_at dksX0_isLetter_0 16 rfl rfl)
theorem dX0_isLetter_17 : decode cX0_isLetter 17 = .ok (.ireturn, 1) := dk_172 (dk_at dksX0_isLetter_0 17 rfl rfl)
abbrev cX0_isDigit : ByteArray := prog_1_method_5_code
def yX0_isDigit : MethodName := ⟨RX0, "isDigit", "(I)Z"⟩
def dkwX0_isDigit_0 : List UInt8 := [26, 16, 48, 161, 0, 13, 26, 16, 57, 163, 0, 7, 4, 167, 0, 4, 3, 172]
abbrev dktX0_isDigit_0 : List UInt8 := dkwX0_isDigit_0 ++ []
theorem dksX0_isDigit_0 : cX0_isDigit.data.toList.drop 0 = dktX0_isDigit_0 := by decide +kernel
theorem dX0_isDigit_0 : decode cX0_isDigit 0 = .ok (.iload_n 0, 1) := dk_26 (dk_at dksX0_isDigit_0 0 rfl rfl)
theorem dX0_isDigit_1 : decode cX0_isDigit 1 = .ok (.bipush 48, 2) := dk_16 48 (dk_at dksX0_isDigit_0 1 rfl rfl)
theorem dX0_isDigit_3 : decode cX0_isDigit 3 = .ok (.if_icmp .lt 13, 3) := dk_161 0 13 (dk_at dksX0_isDigit_0 3 rfl rfl)
theorem dX0_isDigit_6 : decode cX0_isDigit 6 = .ok (.iload_n 0, 1) := dk_26 (dk_at dksX0_isDigit_0 6 rfl rfl)
theorem dX0_isDigit_7 : decode cX0_isDigit 7 = .ok (.bipush 57, 2) := dk_16 57 (dk_at dksX0_isDigit_0 7 rfl rfl)
theorem dX0_isDigit_9 : decode cX0_isDigit 9 = .ok (.if_icmp .gt 7, 3) := dk_163 0 7 (dk_at dksX0_isDigit_0 9 rfl rfl)
theorem dX0_isDigit_12 : decode cX0_isDigit 12 = .ok (.iconst 1, 1) := dk_4 (dk_at dksX0_isDigit_0 12 rfl rfl)
theorem dX0_isDigit_13 : decode cX0_isDigit 13 = .ok (.goto 4, 3) := dk_167 0 4 (dk_at dksX0_isDigit_0 13 rfl rfl)
theorem dX0_isDigit_16 : decode cX0_isDigit 16 = .ok (.iconst 0, 1) := dk_3 (dk_at dksX0_isDigit_0 16 rfl rfl)
theorem dX0_isDigit_17 : decode cX0_isDigit 17 = .ok (.ireturn, 1) := dk_172 (dk_at dksX0_isDigit_0 17 rfl rfl)
abbrev cX0_find : ByteArray := prog_1_method_6_code
def yX0_find : MethodName := ⟨RX0, "find", "(Ljava/lang/String;[Ljava/lang/String;)I"⟩
def dkwX0_find_1 : List UInt8 := [167, 255, 235, 2, 172]
abbrev dktX0_find_1 : List UInt8 := dkwX0_find_1 ++ []
def dkwX0_find_0 : List UInt8 := [3, 61, 28, 43, 190, 162, 0, 21, 43, 28, 50, 42, 182, 0, 16, 153, 0, 5, 28, 172, 132, 2, 1]
abbrev dktX0_find_0 : List UInt8 := dkwX0_find_0 ++ dktX0_find_1
theorem dksX0_find_0 : cX0_find.data.toList.drop 0 = dktX0_find_0 := by decide +kernel
theorem dksX0_find_1 : cX0_find.data.toList.drop 23 = dktX0_find_1 := dk_seg dksX0_find_0 23 rfl rfl
theorem dX0_find_0 : decode cX0_find 0 = .ok (.iconst 0, 1) := dk_3 (dk_at dksX0_find_0 0 rfl rfl)
theorem dX0_find_1 : decode cX0_find 1 = .ok (.istore_n 2, 1) := dk_61 (dk_at dksX0_find_0 1 rfl rfl)
theorem dX0_find_2 : decode cX0_find 2 = .ok (.iload_n 2, 1) := dk_28 (dk_at dksX0_find_0 2 rfl rfl)
theorem dX0_find_3 : decode cX0_find 3 = .ok (.aload_n 1, 1) := dk_43 (dk_at dksX0_find_0 3 rfl rfl)
theorem dX0_find_4 : decode cX0_find 4 = .ok (.arraylength, 1) := dk_190 (dk_at dksX0_find_0 4 rfl rfl)
theorem dX0_find_5 : decode cX0_find 5 = .ok (.if_icmp .ge 21, 3) := dk_162 0 21 (dk_at dksX0_find_0 5 rfl rfl)
theorem dX0_find_8 : decode cX0_find 8 = .ok (.aload_n 1, 1) := dk_43 (dk_at dksX0_find_0 8 rfl rfl)
theorem dX0_find_9 : decode cX0_find 9 = .ok (.iload_n 2, 1) := dk_28 (dk_at dksX0_find_0 9 rfl rfl)
theorem dX0_find_10 : decode cX0_find 10 = .ok (.aaload, 1) := dk_50 (dk_at dksX0_find_0 10 rfl rfl)
theorem dX0_find_11 : decode cX0_find 11 = .ok (.aload_n 0, 1) := dk_42 (dk_at dksX0_find_0 11 rfl rfl)
theorem dX0_find_12 : decode cX0_find 12 = .ok (.invokevirtual 16, 3) := dk_182 0 16 (dk_at dksX0_find_0 12 rfl rfl)
theorem dX0_find_15 : decode cX0_find 15 = .ok (.ifCond .eq 5, 3) := dk_153 0 5 (dk_at dksX0_find_0 15 rfl rfl)
theorem dX0_find_18 : decode cX0_find 18 = .ok (.iload_n 2, 1) := dk_28 (dk_at dksX0_find_0 18 rfl rfl)
theorem dX0_find_19 : decode cX0_find 19 = .ok (.ireturn, 1) := dk_172 (dk_at dksX0_find_0 19 rfl rfl)
theorem dX0_find_20 : decode cX0_find 20 = .ok (.iinc 2 1, 3) := dk_132 2 1 (dk_at dksX0_find_0 20 rfl rfl)
theorem dX0_find_23 : decode cX0_find 23 = .ok (.goto (-21), 3) := dk_167 255 235 (dk_at dksX0_find_1 0 rfl rfl)
theorem dX0_find_26 : decode cX0_find 26 = .ok (.iconst (-1), 1) := dk_2 (dk_at dksX0_find_1 3 rfl rfl)
theorem dX0_find_27 : decode cX0_find 27 = .ok (.ireturn, 1) := dk_172 (dk_at dksX0_find_1 4 rfl rfl)
abbrev cX0_is : ByteArray := prog_1_method_1_code
def yX0_is : MethodName := ⟨RX0, "is", "(III)Z"⟩
def dkwX0_is_0 : List UInt8 := [26, 27, 161, 0, 12, 26, 28, 163, 0, 7, 4, 167, 0, 4, 3, 172]
abbrev dktX0_is_0 : List UInt8 := dkwX0_is_0 ++ []
theorem dksX0_is_0 : cX0_is.data.toList.drop 0 = dktX0_is_0 := by decide +kernel
theorem dX0_is_0 : decode cX0_is 0 = .ok (.iload_n 0, 1) := dk_26 (dk_at dksX0_is_0 0 rfl rfl)
theorem dX0_is_1 : decode cX0_is 1 = .ok (.iload_n 1, 1) := dk_27 (dk_at dksX0_is_0 1 rfl rfl)
theorem dX0_is_2 : decode cX0_is 2 = .ok (.if_icmp .lt 12, 3) := dk_161 0 12 (dk_at dksX0_is_0 2 rfl rfl)
theorem dX0_is_5 : decode cX0_is 5 = .ok (.iload_n 0, 1) := dk_26 (dk_at dksX0_is_0 5 rfl rfl)
theorem dX0_is_6 : decode cX0_is 6 = .ok (.iload_n 2, 1) := dk_28 (dk_at dksX0_is_0 6 rfl rfl)
theorem dX0_is_7 : decode cX0_is 7 = .ok (.if_icmp .gt 7, 3) := dk_163 0 7 (dk_at dksX0_is_0 7 rfl rfl)
theorem dX0_is_10 : decode cX0_is 10 = .ok (.iconst 1, 1) := dk_4 (dk_at dksX0_is_0 10 rfl rfl)
theorem dX0_is_11 : decode cX0_is 11 = .ok (.goto 4, 3) := dk_167 0 4 (dk_at dksX0_is_0 11 rfl rfl)
theorem dX0_is_14 : decode cX0_is 14 = .ok (.iconst 0, 1) := dk_3 (dk_at dksX0_is_0 14 rfl rfl)
theorem dX0_is_15 : decode cX0_is 15 = .ok (.ireturn, 1) := dk_172 (dk_at dksX0_is_0 15 rfl rfl)
abbrev cX0_has : ByteArray := prog_1_method_2_code
def yX0_has : MethodName := ⟨RX0, "has", "(II)Z"⟩
def dkwX0_has_0 : List UInt8 := [26, 27, 122, 4, 126, 4, 160, 0, 7, 4, 167, 0, 4, 3, 172]
abbrev dktX0_has_0 : List UInt8 := dkwX0_has_0 ++ []
theorem dksX0_has_0 : cX0_has.data.toList.drop 0 = dktX0_has_0 := by decide +kernel
theorem dX0_has_0 : decode cX0_has 0 = .ok (.iload_n 0, 1) := dk_26 (dk_at dksX0_has_0 0 rfl rfl)
theorem dX0_has_1 : decode cX0_has 1 = .ok (.iload_n 1, 1) := dk_27 (dk_at dksX0_has_0 1 rfl rfl)
theorem dX0_has_2 : decode cX0_has 2 = .ok (.ishr, 1) := dk_122 (dk_at dksX0_has_0 2 rfl rfl)
theorem dX0_has_3 : decode cX0_has 3 = .ok (.iconst 1, 1) := dk_4 (dk_at dksX0_has_0 3 rfl rfl)
theorem dX0_has_4 : decode cX0_has 4 = .ok (.iand, 1) := dk_126 (dk_at dksX0_has_0 4 rfl rfl)
theorem dX0_has_5 : decode cX0_has 5 = .ok (.iconst 1, 1) := dk_4 (dk_at dksX0_has_0 5 rfl rfl)
theorem dX0_has_6 : decode cX0_has 6 = .ok (.if_icmp .ne 7, 3) := dk_160 0 7 (dk_at dksX0_has_0 6 rfl rfl)
theorem dX0_has_9 : decode cX0_has 9 = .ok (.iconst 1, 1) := dk_4 (dk_at dksX0_has_0 9 rfl rfl)
theorem dX0_has_10 : decode cX0_has 10 = .ok (.goto 4, 3) := dk_167 0 4 (dk_at dksX0_has_0 10 rfl rfl)
theorem dX0_has_13 : decode cX0_has 13 = .ok (.iconst 0, 1) := dk_3 (dk_at dksX0_has_0 13 rfl rfl)
theorem dX0_has_14 : decode cX0_has 14 = .ok (.ireturn, 1) := dk_172 (dk_at dksX0_has_0 14 rfl rfl)
abbrev cX0_people : ByteArray := prog_1_method_16_code
def yX0_people : MethodName := ⟨RX0, "people", "()I"⟩
def dkwX0_people_0 : List UInt8 := [42, 180, 0, 31, 180, 0, 149, 185, 0, 144, 1, 0, 172]
abbrev dktX0_people_0 : List UInt8 := dkwX0_people_0 ++ []
theorem dksX0_people_0 : cX0_people.data.toList.drop 0 = dktX0_people_0 := by decide +kernel
theorem dX0_people_0 : decode cX0_people 0 = .ok (.aload_n 0, 1) := dk_42 (dk_at dksX0_people_0 0 rfl rfl)
theorem dX0_people_1 : decode cX0_people 1 = .ok (.getfield 31, 3) := dk_180 0 31 (dk_at dksX0_people_0 1 rfl rfl)
theorem dX0_people_4 : decode cX0_people 4 = .ok (.getfield 149, 3) := dk_180 0 149 (dk_at dksX0_people_0 4 rfl rfl)
theorem dX0_people_7 : decode cX0_people 7 = .ok (.invokeinterface 144 1, 5) := by decide +kernel
theorem dX0_people_12 : decode cX0_people 12 = .ok (.ireturn, 1) := dk_172 (dk_at dksX0_people_0 12 rfl rfl)
abbrev cX0_fault : ByteArray := prog_1_method_14_code
def yX0_fault : MethodName := ⟨RX0, "fault", "(I)I"⟩
def dkwX0_fault_1 : List UInt8 := [172]
abbrev dktX0_fault_1 : List UInt8 := dkwX0_fault_1 ++ []
def dkwX0_fault_0 : List UInt8 := [27, 154, 0, 10, 42, 180, 0, 109, 167, 0, 16, 27, 4, 160, 0, 10, 42, 180, 0, 39, 167, 0, 4, 2]
abbrev dktX0_fault_0 : List UInt8 := dkwX0_fault_0 ++ dktX0_fault_1
theorem dksX0_fault_0 : cX0_fault.data.toList.drop 0 = dktX0_fault_0 := by decide +kernel
theorem dksX0_fault_1 : cX0_fault.data.toList.drop 24 = dktX0_fault_1 := dk_seg dksX0_fault_0 24 rfl rfl
theorem dX0_fault_0 : decode cX0_fault 0 = .ok (.iload_n 1, 1) := dk_27 (dk_at dksX0_fault_0 0 rfl rfl)
theorem dX0_fault_1 : decode cX0_fault 1 = .ok (.ifCond .ne 10, 3) := dk_154 0 10 (dk_at dksX0_fault_0 1 rfl rfl)
theorem dX0_fault_4 : decode cX0_fault 4 = .ok (.aload_n 0, 1) := dk_42 (dk_at dksX0_fault_0 4 rfl rfl)
theorem dX0_fault_5 : decode cX0_fault 5 = .ok (.getfield 109, 3) := dk_180 0 109 (dk_at dksX0_fault_0 5 rfl rfl)
theorem dX0_fault_8 : decode cX0_fault 8 = .ok (.goto 16, 3) := dk_167 0 16 (dk_at dksX0_fault_0 8 rfl rfl)
theorem dX0_fault_11 : decode cX0_fault 11 = .ok (.iload_n 1, 1) := dk_27 (dk_at dksX0_fault_0 11 rfl rfl)
theorem dX0_fault_12 : decode cX0_fault 12 = .ok (.iconst 1, 1) := dk_4 (dk_at dksX0_fault_0 12 rfl rfl)
theorem dX0_fault_13 : decode cX0_fault 13 = .ok (.if_icmp .ne 10, 3) := dk_160 0 10 (dk_at dksX0_fault_0 13 rfl rfl)
theorem dX0_fault_16 : decode cX0_fault 16 = .ok (.aload_n 0, 1) := dk_42 (dk_at dksX0_fault_0 16 rfl rfl)
theorem dX0_fault_17 : decode cX0_fault 17 = .ok (.getfield 39, 3) := dk_180 0 39 (dk_at dksX0_fault_0 17 rfl rfl)
theorem dX0_fault_20 : decode cX0_fault 20 = .ok (.goto 4, 3) := dk_167 0 4 (dk_at dksX0_fault_0 20 rfl rfl)
theorem dX0_fault_23 : decode cX0_fault 23 = .ok (.iconst (-1), 1) := dk_2 (dk_at dksX0_fault_0 23 rfl rfl)
theorem dX0_fault_24 : decode cX0_fault 24 = .ok (.ireturn, 1) := dk_172 (dk_at dksX0_fault_1 0 rfl rfl)
abbrev cX0_has_2 : ByteArray := prog_1_method_22_code
def yX0_has_2 : MethodName := ⟨RX0, "has", "(I)I"⟩
def dkwX0_has_2_5 : List UInt8 := [180, 0, 189, 172, 42, 180, 0, 134, 172, 42, 180, 0, 131, 172, 2, 172]
abbrev dktX0_has_2_5 : List UInt8 := dkwX0_has_2_5 ++ []
def dkwX0_has_2_4 : List UInt8 := [180, 0, 69, 180, 0, 182, 184, 0, 177, 172, 42, 180, 0, 69, 3, 182, 0, 185, 172, 42, 180, 0, 69]
abbrev dktX0_has_2_4 : List UInt8 := dkwX0_has_2_4 ++ dktX0_has_2_5
def dkwX0_has_2_3 : List UInt8 := [180, 0, 168, 172, 42, 180, 0, 69, 180, 0, 171, 172, 42, 180, 0, 69, 180, 0, 174, 184, 0, 177, 172, 42]
abbrev dktX0_has_2_3 : List UInt8 := dkwX0_has_2_3 ++ dktX0_has_2_4
def dkwX0_has_2_2 : List UInt8 := [42, 182, 0, 152, 172, 42, 182, 0, 154, 172, 42, 180, 0, 31, 180, 0, 165, 172, 42, 180, 0, 31]
abbrev dktX0_has_2_2 : List UInt8 := dkwX0_has_2_2 ++ dktX0_has_2_3
def dkwX0_has_2_1 : List UInt8 := [170, 0, 0, 0, 0, 0, 142, 0, 0, 0, 0, 0, 0, 0, 10, 0, 0, 0, 59, 0, 0, 0, 64, 0, 0, 0, 69, 0, 0, 0, 77, 0, 0, 0, 85, 0, 0, 0, 93, 0, 0, 0, 104, 0, 0, 0, 115, 0, 0, 0, 124, 0, 0, 0, 132, 0, 0, 0, 137]
abbrev dktX0_has_2_1 : List UInt8 := dkwX0_has_2_1 ++ dktX0_has_2_2
def dkwX0_has_2_0 : List UInt8 := [27]
abbrev dktX0_has_2_0 : List UInt8 := dkwX0_has_2_0 ++ dktX0_has_2_1
theorem dksX0_has_2_0 : cX0_has_2.data.toList.drop 0 = dktX0_has_2_0 := by decide +kernel
theorem dksX0_has_2_1 : cX0_has_2.data.toList.drop 1 = dktX0_has_2_1 := dk_seg dksX0_has_2_0 1 rfl rfl
theorem dksX0_has_2_2 : cX0_has_2.data.toList.drop 60 = dktX0_has_2_2 := dk_seg dksX0_has_2_1 59 rfl rfl
theorem dksX0_has_2_3 : cX0_has_2.data.toList.drop 82 = dktX0_has_2_3 := dk_seg dksX0_has_2_2 22 rfl rfl
theorem dksX0_has_2_4 : cX0_has_2.data.toList.drop 106 = dktX0_has_2_4 := dk_seg dksX0_has_2_3 24 rfl rfl
theorem dksX0_has_2_5 : cX0_has_2.data.toList.drop 129 = dktX0_has_2_5 := dk_seg dksX0_has_2_4 23 rfl rfl
theorem dX0_has_2_0 : decode cX0_has_2 0 = .ok (.iload_n 1, 1) := dk_27 (dk_at dksX0_has_2_0 0 rfl rfl)
theorem dX0_has_2_1 : decode cX0_has_2 1 = .ok (.tableswitch 142 0 10 #[59, 64, 69, 77, 85, 93, 104, 115, 124, 132, 137], 59) := by decide +kernel
theorem dX0_has_2_60 : decode cX0_has_2 60 = .ok (.aload_n 0, 1) := dk_42 (dk_at dksX0_has_2_2 0 rfl rfl)
theorem dX0_has_2_61 : decode cX0_has_2 61 = .ok (.invokevirtual 152, 3) := dk_182 0 152 (dk_at dksX0_has_2_2 1 rfl rfl)
theorem dX0_has_2_64 : decode cX0_has_2 64 = .ok (.ireturn, 1) := dk_172 (dk_at dksX0_has_2_2 4 rfl rfl)
theorem dX0_has_2_65 : decode cX0_has_2 65 = .ok (.aload_n 0, 1) := dk_42 (dk_at dksX0_has_2_2 5 rfl rfl)
theorem dX0_has_2_66 : decode cX0_has_2 66 = .ok (.invokevirtual 154, 3) := dk_182 0 154 (dk_at dksX0_has_2_2 6 rfl rfl)
theorem dX0_has_2_69 : decode cX0_has_2 69 = .ok (.ireturn, 1) := dk_172 (dk_at dksX0_has_2_2 9 rfl rfl)
theorem dX0_has_2_70 : decode cX0_has_2 70 = .ok (.aload_n 0, 1) := dk_42 (dk_at dksX0_has_2_2 10 rfl rfl)
theorem dX0_has_2_71 : decode cX0_has_2 71 = .ok (.getfield 31, 3) := dk_180 0 31 (dk_at dksX0_has_2_2 11 rfl rfl)
theorem dX0_has_2_74 : decode cX0_has_2 74 = .ok (.getfield 165, 3) := dk_180 0 165 (dk_at dksX0_has_2_2 14 rfl rfl)
theorem dX0_has_2_77 : decode cX0_has_2 77 = .ok (.ireturn, 1) := dk_172 (dk_at dksX0_has_2_2 17 rfl rfl)
theorem dX0_has_2_78 : decode cX0_has_2 78 = .ok (.aload_n 0, 1) := dk_42 (dk_at dksX0_has_2_2 18 rfl rfl)
theorem dX0_has_2_79 : decode cX0_has_2 79 = .ok (.getfield 31, 3) := dk_180 0 31 (dk_at dksX0_has_2_2 19 rfl rfl)
theorem dX0_has_2_82 : decode cX0_has_2 82 = .ok (.getfield 168, 3) := dk_180 0 168 (dk_at dksX0_has_2_3 0 rfl rfl)
theorem dX0_has_2_85 : decode cX0_has_2 85 = .ok (.ireturn, 1) := dk_172 (dk_at dksX0_has_2_3 3 rfl rfl)
theorem dX0_has_2_86 : decode cX0_has_2 86 = .ok (.aload_n 0, 1) := dk_42 (dk_at dksX0_has_2_3 4 rfl rfl)
theorem dX0_has_2_87 : decode cX0_has_2 87 = .ok (.getfield 69, 3) := dk_180 0 69 (dk_at dksX0_has_2_3 5 rfl rfl)
theorem dX0_has_2_90 : decode cX0_has_2 90 = .ok (.getfield 171, 3) := dk_180 0 171 (dk_at dksX0_has_2_3 8 rfl rfl)
theorem dX0_has_2_93 : decode cX0_has_2 93 = .ok (.ireturn, 1) := dk_172 (dk_at dksX0_has_2_3 11 rfl rfl)
theorem dX0_has_2_94 : decode cX0_has_2 94 = .ok (.aload_n 0, 1) := dk_42 (dk_at dksX0_has_2_3 12 rfl rfl)
theorem dX0_has_2_95 : decode cX0_has_2 95 = .ok (.getfield 69, 3) := dk_180 0 69 (dk_at dksX0_has_2_3 13 rfl rfl)
theorem dX0_has_2_98 : decode cX0_has_2 98 = .ok (.getfield 174, 3) := dk_180 0 174 (dk_at dksX0_has_2_3 16 rfl rfl)
theorem dX0_has_2_101 : decode cX0_has_2 101 = .ok (.invokestatic 177, 3) := dk_184 0 177 (dk_at dksX0_has_2_3 19 rfl rfl)
theorem dX0_has_2_104 : decode cX0_has_2 104 = .ok (.ireturn, 1) := dk_172 (dk_at dksX0_has_2_3 22 rfl rfl)
theorem dX0_has_2_105 : decode cX0_has_2 105 = .ok (.aload_n 0, 1) := dk_42 (dk_at dksX0_has_2_3 23 rfl rfl)
theorem dX0_has_2_106 : decode cX0_has_2 106 = .ok (.getfield 69, 3) := dk_180 0 69 (dk_at dksX0_has_2_4 0 rfl rfl)
theorem dX0_has_2_109 : decode cX0_has_2 109 = .ok (.getfield 182, 3) := dk_180 0 182 (dk_at dksX0_has_2_4 3 rfl rfl)
theorem dX0_has_2_112 : decode cX0_has_2 112 = .ok (.invokestatic 177, 3) := dk_184 0 177 (dk_at dksX0_has_2_4 6 rfl rfl)
theorem dX0_has_2_115 : decode cX0_has_2 115 = .ok (.ireturn, 1) := dk_172 (dk_at dksX0_has_2_4 9 rfl rfl)
theorem dX0_has_2_116 : decode cX0_has_2 116 = .ok (.aload_n 0, 1) := dk_42 (dk_at dksX0_has_2_4 10 rfl rfl)
theorem dX0_has_2_117 : decode cX0_has_2 117 = .ok (.getfield 69, 3) := dk_180 0 69 (dk_at dksX0_has_2_4 11 rfl rfl)
theorem dX0_has_2_120 : decode cX0_has_2 120 = .ok (.iconst 0, 1) := dk_3 (dk_at dksX0_has_2_4 14 rfl rfl)
theorem dX0_has_2_121 : decode cX0_has_2 121 = .ok (.invokevirtual 185, 3) := dk_182 0 185 (dk_at dksX0_has_2_4 15 rfl rfl)
theorem dX0_has_2_124 : decode cX0_has_2 124 = .ok (.ireturn, 1) := dk_172 (dk_at dksX0_has_2_4 18 rfl rfl)
theorem dX0_has_2_125 : decode cX0_has_2 125 = .ok (.aload_n 0, 1) := dk_42 (dk_at dksX0_has_2_4 19 rfl rfl)
theorem dX0_has_2_126 : decode cX0_has_2 126 = .ok (.getfield 69, 3) := dk_180 0 69 (dk_at dksX0_has_2_4 20 rfl rfl)
theorem dX0_has_2_129 : decode cX0_has_2 129 = .ok (.getfield 189, 3) := dk_180 0 189 (dk_at dksX0_has_2_5 0 rfl rfl)
theorem dX0_has_2_132 : decode cX0_has_2 132 = .ok (.ireturn, 1) := dk_172 (dk_at dksX0_has_2_5 3 rfl rfl)
theorem dX0_has_2_133 : decode cX0_has_2 133 = .ok (.aload_n 0, 1) := dk_42 (dk_at dksX0_has_2_5 4 rfl rfl)
theorem dX0_has_2_134 : decode cX0_has_2 134 = .ok (.getfield 134, 3) := dk_180 0 134 (dk_at dksX0_has_2_5 5 rfl rfl)
theorem dX0_has_2_137 : decode cX0_has_2 137 = .ok (.ireturn, 1) := dk_172 (dk_at dksX0_has_2_5 8 rfl rfl)
theorem dX0_has_2_138 : decode cX0_has_2 138 = .ok (.aload_n 0, 1) := dk_42 (dk_at dksX0_has_2_5 9 rfl rfl)
theorem dX0_has_2_139 : decode cX0_has_2 139 = .ok (.getfield 131, 3) := dk_180 0 131 (dk_at dksX0_has_2_5 10 rfl rfl)
theorem dX0_has_2_142 : decode cX0_has_2 142 = .ok (.ireturn, 1) := dk_172 (dk_at dksX0_has_2_5 13 rfl rfl)
theorem dX0_has_2_143 : decode cX0_has_2 143 = .ok (.iconst (-1), 1) := dk_2 (dk_at dksX0_has_2_5 14 rfl rfl)
theorem dX0_has_2_144 : decode cX0_has_2 144 = .ok (.ireturn, 1) := dk_172 (dk_at dksX0_has_2_5 15 rfl rfl)
abbrev cX0_facts : ByteArray := prog_1_method_15_code
def yX0_facts : MethodName := ⟨RX0, "facts", "()I"⟩
def dkwX0_facts_0 : List UInt8 := [42, 180, 0, 31, 180, 0, 140, 185, 0, 144, 1, 0, 172]
abbrev dktX0_facts_0 : List UInt8 := dkwX0_facts_0 ++ []
theorem dksX0_facts_0 : cX0_facts.data.toList.drop 0 = dktX0_facts_0 := by decide +kernel
theorem dX0_facts_0 : decode cX0_facts 0 = .ok (.aload_n 0, 1) := dk_42 (dk_at dksX0_facts_0 0 rfl rfl)
theorem dX0_facts_1 : decode cX0_facts 1 = .ok (.getfield 31, 3) := dk_180 0 31 (dk_at dksX0_facts_0 1 rfl rfl)
theorem dX0_facts_4 : decode cX0_facts 4 = .ok (.getfield 140, 3) := dk_180 0 140 (dk_at dksX0_facts_0 4 rfl rfl)
theorem dX0_facts_7 : decode cX0_facts 7 = .ok (.invokeinterface 144 1, 5) := by decide +kernel
theorem dX0_facts_12 : decode cX0_facts 12 = .ok (.ireturn, 1) := dk_172 (dk_at dksX0_facts_0 12 rfl rfl)
abbrev cX0_letter : ByteArray := prog_1_method_23_code
def yX0_letter : MethodName := ⟨RX0, "letter", "(III)I"⟩
def dkwX0_letter_3 : List UInt8 := [182, 0, 196, 167, 0, 4, 2, 172]
abbrev dktX0_letter_3 : List UInt8 := dkwX0_letter_3 ++ []
def dkwX0_letter_2 : List UInt8 := [25, 4, 185, 0, 144, 1, 0, 162, 0, 21, 25, 4, 28, 185, 0, 156, 2, 0, 192, 0, 160, 29]
abbrev dktX0_letter_2 : List UInt8 := dkwX0_letter_2 ++ dktX0_letter_3
def dkwX0_letter_1 : List UInt8 := [27, 154, 0, 13, 42, 180, 0, 31, 180, 0, 140, 167, 0, 10, 42, 180, 0, 31, 180, 0, 149, 58, 4, 28]
abbrev dktX0_letter_1 : List UInt8 := dkwX0_letter_1 ++ dktX0_letter_2
def dkwX0_letter_0 : List UInt8 := [29, 3, 8, 184, 0, 192, 153, 0, 16, 27, 3, 4, 184, 0, 192, 153, 0, 7, 28, 156, 0, 5, 2, 172]
abbrev dktX0_letter_0 : List UInt8 := dkwX0_letter_0 ++ dktX0_letter_1
theorem dksX0_letter_0 : cX0_letter.data.toList.drop 0 = dktX0_letter_0 := by decide +kernel
theorem dksX0_letter_1 : cX0_letter.data.toList.drop 24 = dktX0_letter_1 := dk_seg dksX0_letter_0 24 rfl rfl
theorem dksX0_letter_2 : cX0_letter.data.toList.drop 48 = dktX0_letter_2 := dk_seg dksX0_letter_1 24 rfl rfl
theorem dksX0_letter_3 : cX0_letter.data.toList.drop 70 = dktX0_letter_3 := dk_seg dksX0_letter_2 22 rfl rfl
theorem dX0_letter_0 : decode cX0_letter 0 = .ok (.iload_n 3, 1) := dk_29 (dk_at dksX0_letter_0 0 rfl rfl)
theorem dX0_letter_1 : decode cX0_letter 1 = .ok (.iconst 0, 1) := dk_3 (dk_at dksX0_letter_0 1 rfl rfl)
theorem dX0_letter_2 : decode cX0_letter 2 = .ok (.iconst 5, 1) := dk_8 (dk_at dksX0_letter_0 2 rfl rfl)
theorem dX0_letter_3 : decode cX0_letter 3 = .ok (.invokestatic 192, 3) := dk_184 0 192 (dk_at dksX0_letter_0 3 rfl rfl)
theorem dX0_letter_6 : decode cX0_letter 6 = .ok (.ifCond .eq 16, 3) := dk_153 0 16 (dk_at dksX0_letter_0 6 rfl rfl)
theorem dX0_letter_9 : decode cX0_letter 9 = .ok (.iload_n 1, 1) := dk_27 (dk_at dksX0_letter_0 9 rfl rfl)
theorem dX0_letter_10 : decode cX0_letter 10 = .ok (.iconst 0, 1) := dk_3 (dk_at dksX0_letter_0 10 rfl rfl)
theorem dX0_letter_11 : decode cX0_letter 11 = .ok (.iconst 1, 1) := dk_4 (dk_at dksX0_letter_0 11 rfl rfl)
theorem dX0_letter_12 : decode cX0_letter 12 = .ok (.invokestatic 192, 3) := dk_184 0 192 (dk_at dksX0_letter_0 12 rfl rfl)
theorem dX0_letter_15 : decode cX0_letter 15 = .ok (.ifCond .eq 7, 3) := dk_153 0 7 (dk_at dksX0_letter_0 15 rfl rfl)
theorem dX0_letter_18 : decode cX0_letter 18 = .ok (.iload_n 2, 1) := dk_28 (dk_at dksX0_letter_0 18 rfl rfl)
theorem dX0_letter_19 : decode cX0_letter 19 = .ok (.ifCond .ge 5, 3) := dk_156 0 5 (dk_at dksX0_letter_0 19 rfl rfl)
theorem dX0_letter_22 : decode cX0_letter 22 = .ok (.iconst (-1), 1) := dk_2 (dk_at dksX0_letter_0 22 rfl rfl)
theorem dX0_letter_23 : decode cX0_letter 23 = .ok (.ireturn, 1) := dk_172 (dk_at dksX0_letter_0 23 rfl rfl)
theorem dX0_letter_24 : decode cX0_letter 24 = .ok (.iload_n 1, 1) := dk_27 (dk_at dksX0_letter_1 0 rfl rfl)
theorem dX0_letter_25 : decode cX0_letter 25 = .ok (.ifCond .ne 13, 3) := dk_154 0 13 (dk_at dksX0_letter_1 1 rfl rfl)
theorem dX0_letter_28 : decode cX0_letter 28 = .ok (.aload_n 0, 1) := dk_42 (dk_at dksX0_letter_1 4 rfl rfl)
theorem dX0_letter_29 : decode cX0_letter 29 = .ok (.getfield 31, 3) := dk_180 0 31 (dk_at dksX0_letter_1 5 rfl rfl)
theorem dX0_letter_32 : decode cX0_letter 32 = .ok (.getfield 140, 3) := dk_180 0 140 (dk_at dksX0_letter_1 8 rfl rfl)
theorem dX0_letter_35 : decode cX0_letter 35 = .ok (.goto 10, 3) := dk_167 0 10 (dk_at dksX0_letter_1 11 rfl rfl)
theorem dX0_letter_38 : decode cX0_letter 38 = .ok (.aload_n 0, 1) := dk_42 (dk_at dksX0_letter_1 14 rfl rfl)
theorem dX0_letter_39 : decode cX0_letter 39 = .ok (.getfield 31, 3) := dk_180 0 31 (dk_at dksX0_letter_1 15 rfl rfl)
theorem dX0_letter_42 : decode cX0_letter 42 = .ok (.getfield 149, 3) := dk_180 0 149 (dk_at dksX0_letter_1 18 rfl rfl)
theorem dX0_letter_45 : decode cX0_letter 45 = .ok (.astore 4, 2) := dk_58 4 (dk_at dksX0_letter_1 21 rfl rfl)
theorem dX0_letter_47 : decode cX0_letter 47 = .ok (.iload_n 2, 1) := dk_28 (dk_at dksX0_letter_1 23 rfl rfl)
theorem dX0_letter_48 : decode cX0_letter 48 = .ok (.aload 4, 2) := dk_25 4 (dk_at dksX0_letter_2 0 rfl rfl)
theorem dX0_letter_50 : decode cX0_letter 50 = .ok (.invokeinterface 144 1, 5) := by decide +kernel
theorem dX0_letter_55 : decode cX0_letter 55 = .ok (.if_icmp .ge 21, 3) := dk_162 0 21 (dk_at dksX0_letter_2 7 rfl rfl)
theorem dX0_letter_58 : decode cX0_letter 58 = .ok (.aload 4, 2) := dk_25 4 (dk_at dksX0_letter_2 10 rfl rfl)
theorem dX0_letter_60 : decode cX0_letter 60 = .ok (.iload_n 2, 1) := dk_28 (dk_at dksX0_letter_2 12 rfl rfl)
theorem dX0_letter_61 : decode cX0_letter 61 = .ok (.invokeinterface 156 2, 5) := by decide +kernel
theorem dX0_letter_66 : decode cX0_letter 66 = .ok (.checkcast 160, 3) := dk_192 0 160 (dk_at dksX0_letter_2 18 rfl rfl)
theorem dX0_letter_69 : decode cX0_letter 69 = .ok (.iload_n 3, 1) := dk_29 (dk_at dksX0_letter_2 21 rfl rfl)
theorem dX0_letter_70 : decode cX0_letter 70 = .ok (.invokevirtual 196, 3) := dk_182 0 196 (dk_at dksX0_letter_3 0 rfl rfl)
theorem dX0_letter_73 : decode cX0_letter 73 = .ok (.goto 4, 3) := dk_167 0 4 (dk_at dksX0_letter_3 3 rfl rfl)
theorem dX0_letter_76 : decode cX0_letter 76 = .ok (.iconst (-1), 1) := dk_2 (dk_at dksX0_letter_3 6 rfl rfl)
theorem dX0_letter_77 : decode cX0_letter 77 = .ok (.ireturn, 1) := dk_172 (dk_at dksX0_letter_3 7 rfl rfl)
abbrev cX0_fact : ByteArray := prog_1_method_25_code
def yX0_fact : MethodName := ⟨RX0, "fact", "(II)I"⟩
def dkwX0_fact_1 : List UInt8 := [159, 0, 8, 28, 5, 160, 0, 12, 42, 27, 28, 182, 0, 210, 167, 0, 4, 2, 172]
abbrev dktX0_fact_1 : List UInt8 := dkwX0_fact_1 ++ []
def dkwX0_fact_0 : List UInt8 := [42, 27, 182, 0, 203, 154, 0, 5, 2, 172, 28, 154, 0, 11, 42, 27, 182, 0, 207, 167, 0, 23, 28, 4]
abbrev dktX0_fact_0 : List UInt8 := dkwX0_fact_0 ++ dktX0_fact_1
theorem dksX0_fact_0 : cX0_fact.data.toList.drop 0 = dktX0_fact_0 := by decide +kernel
theorem dksX0_fact_1 : cX0_fact.data.toList.drop 24 = dktX0_fact_1 := dk_seg dksX0_fact_0 24 rfl rfl
theorem dX0_fact_0 : decode cX0_fact 0 = .ok (.aload_n 0, 1) := dk_42 (dk_at dksX0_fact_0 0 rfl rfl)
theorem dX0_fact_1 : decode cX0_fact 1 = .ok (.iload_n 1, 1) := dk_27 (dk_at dksX0_fact_0 1 rfl rfl)
theorem dX0_fact_2 : decode cX0_fact 2 = .ok (.invokevirtual 203, 3) := dk_182 0 203 (dk_at dksX0_fact_0 2 rfl rfl)
theorem dX0_fact_5 : decode cX0_fact 5 = .ok (.ifCond .ne 5, 3) := dk_154 0 5 (dk_at dksX0_fact_0 5 rfl rfl)
theorem dX0_fact_8 : decode cX0_fact 8 = .ok (.iconst (-1), 1) := dk_2 (dk_at dksX0_fact_0 8 rfl rfl)
theorem dX0_fact_9 : decode cX0_fact 9 = .ok (.ireturn, 1) := dk_172 (dk_at dksX0_fact_0 9 rfl rfl)
theorem dX0_fact_10 : decode cX0_fact 10 = .ok (.iload_n 2, 1) := dk_28 (dk_at dksX0_fact_0 10 rfl rfl)
theorem dX0_fact_11 : decode cX0_fact 11 = .ok (.ifCond .ne 11, 3) := dk_154 0 11 (dk_at dksX0_fact_0 11 rfl rfl)
theorem dX0_fact_14 : decode cX0_fact 14 = .ok (.aload_n 0, 1) := dk_42 (dk_at dksX0_fact_0 14 rfl rfl)
theorem dX0_fact_15 : decode cX0_fact 15 = .ok (.iload_n 1, 1) := dk_27 (dk_at dksX0_fact_0 15 rfl rfl)
theorem dX0_fact_16 : decode cX0_fact 16 = .ok (.invokevirtual 207, 3) := dk_182 0 207 (dk_at dksX0_fact_0 16 rfl rfl)
theorem dX0_fact_19 : decode cX0_fact 19 = .ok (.goto 23, 3) := dk_167 0 23 (dk_at dksX0_fact_0 19 rfl rfl)
theorem dX0_fact_22 : decode cX0_fact 22 = .ok (.iload_n 2, 1) := dk_28 (dk_at dksX0_fact_0 22 rfl rfl)
theorem dX0_fact_23 : decode cX0_fact 23 = .ok (.iconst 1, 1) := dk_4 (dk_at dksX0_fact_0 23 rfl rfl)
theorem dX0_fact_24 : decode cX0_fact 24 = .ok (.if_icmp .eq 8, 3) := dk_159 0 8 (dk_at dksX0_fact_1 0 rfl rfl)
theorem dX0_fact_27 : decode cX0_fact 27 = .ok (.iload_n 2, 1) := dk_28 (dk_at dksX0_fact_1 3 rfl rfl)
theorem dX0_fact_28 : decode cX0_fact 28 = .ok (.iconst 2, 1) := dk_5 (dk_at dksX0_fact_1 4 rfl rfl)
theorem dX0_fact_29 : decode cX0_fact 29 = .ok (.if_icmp .ne 12, 3) := dk_160 0 12 (dk_at dksX0_fact_1 5 rfl rfl)
theorem dX0_fact_32 : decode cX0_fact 32 = .ok (.aload_n 0, 1) := dk_42 (dk_at dksX0_fact_1 8 rfl rfl)
theorem dX0_fact_33 : decode cX0_fact 33 = .ok (.iload_n 1, 1) := dk_27 (dk_at dksX0_fact_1 9 rfl rfl)
theorem dX0_fact_34 : decode cX0_fact 34 = .ok (.iload_n 2, 1) := dk_28 (dk_at dksX0_fact_1 10 rfl rfl)
theorem dX0_fact_35 : decode cX0_fact 35 = .ok (.invokevirtual 210, 3) := dk_182 0 210 (dk_at dksX0_fact_1 11 rfl rfl)
theorem dX0_fact_38 : decode cX0_fact 38 = .ok (.goto 4, 3) := dk_167 0 4 (dk_at dksX0_fact_1 14 rfl rfl)
theorem dX0_fact_41 : decode cX0_fact 41 = .ok (.iconst (-1), 1) := dk_2 (dk_at dksX0_fact_1 17 rfl rfl)
theorem dX0_fact_42 : decode cX0_fact 42 = .ok (.ireturn, 1) := dk_172 (dk_at dksX0_fact_1 18 rfl rfl)
abbrev cX0_isFact : ByteArray := prog_1_method_17_code
def yX0_isFact : MethodName := ⟨RX0, "isFact", "(I)Z"⟩
def dkwX0_isFact_0 : List UInt8 := [27, 155, 0, 15, 27, 42, 182, 0, 152, 162, 0, 7, 4, 167, 0, 4, 3, 172]
abbrev dktX0_isFact_0 : List UInt8 := dkwX0_isFact_0 ++ []
theorem dksX0_isFact_0 : cX0_isFact.data.toList.drop 0 = dktX0_isFact_0 := by decide +kernel
theorem dX0_isFact_0 : decode cX0_isFact 0 = .ok (.iload_n 1, 1) := dk_27 (dk_at dksX0_isFact_0 0 rfl rfl)
theorem dX0_isFact_1 : decode cX0_isFact 1 = .ok (.ifCond .lt 15, 3) := dk_155 0 15 (dk_at dksX0_isFact_0 1 rfl rfl)
theorem dX0_isFact_4 : decode cX0_isFact 4 = .ok (.iload_n 1, 1) := dk_27 (dk_at dksX0_isFact_0 4 rfl rfl)
theorem dX0_isFact_5 : decode cX0_isFact 5 = .ok (.aload_n 0, 1) := dk_42 (dk_at dksX0_isFact_0 5 rfl rfl)
theorem dX0_isFact_6 : decode cX0_isFact 6 = .ok (.invokevirtual 152, 3) := dk_182 0 152 (dk_at dksX0_isFact_0 6 rfl rfl)
theorem dX0_isFact_9 : decode cX0_isFact 9 = .ok (.if_icmp .ge 7, 3) := dk_162 0 7 (dk_at dksX0_isFact_0 9 rfl rfl)
theorem dX0_isFact_12 : decode cX0_isFact 12 = .ok (.iconst 1, 1) := dk_4 (dk_at dksX0_isFact_0 12 rfl rfl)
theorem dX0_isFact_13 : decode cX0_isFact 13 = .ok (.goto 4, 3) := dk_167 0 4 (dk_at dksX0_isFact_0 13 rfl rfl)
theorem dX0_isFact_16 : decode cX0_isFact 16 = .ok (.iconst 0, 1) := dk_3 (dk_at dksX0_isFact_0 16 rfl rfl)
theorem dX0_isFact_17 : decode cX0_isFact 17 = .ok (.ireturn, 1) := dk_172 (dk_at dksX0_isFact_0 17 rfl rfl)
abbrev cX0_worthOf : ByteArray := prog_1_method_19_code
def yX0_worthOf : MethodName := ⟨RX0, "worthOf", "(I)I"⟩
def dkwX0_worthOf_0 : List UInt8 := [42, 180, 0, 31, 180, 0, 140, 27, 185, 0, 156, 2, 0, 192, 0, 160, 180, 0, 162, 172]
abbrev dktX0_worthOf_0 : List UInt8 := dkwX0_worthOf_0 ++ []
theorem dksX0_worthOf_0 : cX0_worthOf.data.toList.drop 0 = dktX0_worthOf_0 := by decide +kernel
theorem dX0_worthOf_0 : decode cX0_worthOf 0 = .ok (.aload_n 0, 1) := dk_42 (dk_at dksX0_worthOf_0 0 rfl rfl)
theorem dX0_worthOf_1 : decode cX0_worthOf 1 = .ok (.getfield 31, 3) := dk_180 0 31 (dk_at dksX0_worthOf_0 1 rfl rfl)
theorem dX0_worthOf_4 : decode cX0_worthOf 4 = .ok (.getfield 140, 3) := dk_180 0 140 (dk_at dksX0_worthOf_0 4 rfl rfl)
theorem dX0_worthOf_7 : decode cX0_worthOf 7 = .ok (.iload_n 1, 1) := dk_27 (dk_at dksX0_worthOf_0 7 rfl rfl)
theorem dX0_worthOf_8 : decode cX0_worthOf 8 = .ok (.invokeinterface 156 2, 5) := by decide +kernel
theorem dX0_worthOf_13 : decode cX0_worthOf 13 = .ok (.checkcast 160, 3) := dk_192 0 160 (dk_at dksX0_worthOf_0 13 rfl rfl)
theorem dX0_worthOf_16 : decode cX0_worthOf 16 = .ok (.getfield 162, 3) := dk_180 0 162 (dk_at dksX0_worthOf_0 16 rfl rfl)
theorem dX0_worthOf_19 : decode cX0_worthOf 19 = .ok (.ireturn, 1) := dk_172 (dk_at dksX0_worthOf_0 19 rfl rfl)
abbrev cX0_standing : ByteArray := prog_1_method_24_code
def yX0_standing : MethodName := ⟨RX0, "standing", "(II)I"⟩
def dkwX0_standing_1 : List UInt8 := [182, 0, 199, 28, 160, 0, 7, 4, 167, 0, 4, 3, 96, 62, 132, 4, 1, 167, 255, 222, 29, 172]
abbrev dktX0_standing_1 : List UInt8 := dkwX0_standing_1 ++ []
def dkwX0_standing_0 : List UInt8 := [3, 62, 3, 54, 4, 21, 4, 42, 182, 0, 154, 162, 0, 31, 29, 42, 180, 0, 69, 21, 4, 27]
abbrev dktX0_standing_0 : List UInt8 := dkwX0_standing_0 ++ dktX0_standing_1
theorem dksX0_standing_0 : cX0_standing.data.toList.drop 0 = dktX0_standing_0 := by decide +kernel
theorem dksX0_standing_1 : cX0_standing.data.toList.drop 22 = dktX0_standing_1 := dk_seg dksX0_standing_0 22 rfl rfl
theorem dX0_standing_0 : decode cX0_standing 0 = .ok (.iconst 0, 1) := dk_3 (dk_at dksX0_standing_0 0 rfl rfl)
theorem dX0_standing_1 : decode cX0_standing 1 = .ok (.istore_n 3, 1) := dk_62 (dk_at dksX0_standing_0 1 rfl rfl)
theorem dX0_standing_2 : decode cX0_standing 2 = .ok (.iconst 0, 1) := dk_3 (dk_at dksX0_standing_0 2 rfl rfl)
theorem dX0_standing_3 : decode cX0_standing 3 = .ok (.istore 4, 2) := dk_54 4 (dk_at dksX0_standing_0 3 rfl rfl)
theorem dX0_standing_5 : decode cX0_standing 5 = .ok (.iload 4, 2) := dk_21 4 (dk_at dksX0_standing_0 5 rfl rfl)
theorem dX0_standing_7 : decode cX0_standing 7 = .ok (.aload_n 0, 1) := dk_42 (dk_at dksX0_standing_0 7 rfl rfl)
theorem dX0_standing_8 : decode cX0_standing 8 = .ok (.invokevirtual 154, 3) := dk_182 0 154 (dk_at dksX0_standing_0 8 rfl rfl)
theorem dX0_standing_11 : decode cX0_standing 11 = .ok (.if_icmp .ge 31, 3) := dk_162 0 31 (dk_at dksX0_standing_0 11 rfl rfl)
theorem dX0_standing_14 : decode cX0_standing 14 = .ok (.iload_n 3, 1) := dk_29 (dk_at dksX0_standing_0 14 rfl rfl)
theorem dX0_standing_15 : decode cX0_standing 15 = .ok (.aload_n 0, 1) := dk_42 (dk_at dksX0_standing_0 15 rfl rfl)
theorem dX0_standing_16 : decode cX0_standing 16 = .ok (.getfield 69, 3) := dk_180 0 69 (dk_at dksX0_standing_0 16 rfl rfl)
theorem dX0_standing_19 : decode cX0_standing 19 = .ok (.iload 4, 2) := dk_21 4 (dk_at dksX0_standing_0 19 rfl rfl)
theorem dX0_standing_21 : decode cX0_standing 21 = .ok (.iload_n 1, 1) := dk_27 (dk_at dksX0_standing_0 21 rfl rfl)
theorem dX0_standing_22 : decode cX0_standing 22 = .ok (.invokevirtual 199, 3) := dk_182 0 199 (dk_at dksX0_standing_1 0 rfl rfl)
theorem dX0_standing_25 : decode cX0_standing 25 = .ok (.iload_n 2, 1) := dk_28 (dk_at dksX0_standing_1 3 rfl rfl)
theorem dX0_standing_26 : decode cX0_standing 26 = .ok (.if_icmp .ne 7, 3) := dk_160 0 7 (dk_at dksX0_standing_1 4 rfl rfl)
theorem dX0_standing_29 : decode cX0_standing 29 = .ok (.iconst 1, 1) := dk_4 (dk_at dksX0_standing_1 7 rfl rfl)
theorem dX0_standing_30 : decode cX0_standing 30 = .ok (.goto 4, 3) := dk_167 0 4 (dk_at dksX0_standing_1 8 rfl rfl)
theorem dX0_standing_33 : decode cX0_standing 33 = .ok (.iconst 0, 1) := dk_3 (dk_at dksX0_standing_1 11 rfl rfl)
theorem dX0_standing_34 : decode cX0_standing 34 = .ok (.iadd, 1) := dk_96 (dk_at dksX0_standing_1 12 rfl rfl)
theorem dX0_standing_35 : decode cX0_standing 35 = .ok (.istore_n 3, 1) := dk_62 (dk_at dksX0_standing_1 13 rfl rfl)
theorem dX0_standing_36 : decode cX0_standing 36 = .ok (.iinc 4 1, 3) := dk_132 4 1 (dk_at dksX0_standing_1 14 rfl rfl)
theorem dX0_standing_39 : decode cX0_standing 39 = .ok (.goto (-34), 3) := dk_167 255 222 (dk_at dksX0_standing_1 17 rfl rfl)
theorem dX0_standing_42 : decode cX0_standing 42 = .ok (.iload_n 3, 1) := dk_29 (dk_at dksX0_standing_1 20 rfl rfl)
theorem dX0_standing_43 : decode cX0_standing 43 = .ok (.ireturn, 1) := dk_172 (dk_at dksX0_standing_1 21 rfl rfl)
abbrev cX0_person : ByteArray := prog_1_method_26_code
def yX0_person : MethodName := ⟨RX0, "person", "(II)I"⟩
def dkwX0_person_6 : List UInt8 := [172, 2, 172]
abbrev dktX0_person_6 : List UInt8 := dkwX0_person_6 ++ []
def dkwX0_person_5 : List UInt8 := [167, 0, 4, 3, 172, 42, 180, 0, 69, 180, 0, 182, 27, 184, 0, 234, 153, 0, 7, 4, 167, 0, 4, 3]
abbrev dktX0_person_5 : List UInt8 := dkwX0_person_5 ++ dktX0_person_6
def dkwX0_person_4 : List UInt8 := [180, 0, 69, 180, 0, 231, 27, 46, 172, 42, 180, 0, 69, 180, 0, 174, 27, 184, 0, 234, 153, 0, 7, 4]
abbrev dktX0_person_4 : List UInt8 := dkwX0_person_4 ++ dktX0_person_5
def dkwX0_person_3 : List UInt8 := [172, 42, 180, 0, 69, 180, 0, 225, 27, 46, 172, 42, 180, 0, 69, 180, 0, 228, 27, 46, 172, 42]
abbrev dktX0_person_3 : List UInt8 := dkwX0_person_3 ++ dktX0_person_4
def dkwX0_person_2 : List UInt8 := [42, 27, 182, 0, 216, 172, 42, 180, 0, 69, 180, 0, 219, 27, 46, 172, 42, 180, 0, 69, 27, 182, 0, 222]
abbrev dktX0_person_2 : List UInt8 := dkwX0_person_2 ++ dktX0_person_3
def dkwX0_person_1 : List UInt8 := [170, 0, 0, 0, 140, 0, 0, 0, 0, 0, 0, 0, 7, 0, 0, 0, 45, 0, 0, 0, 51, 0, 0, 0, 61, 0, 0, 0, 70, 0, 0, 0, 80, 0, 0, 0, 90, 0, 0, 0, 100, 0, 0, 0, 120]
abbrev dktX0_person_1 : List UInt8 := dkwX0_person_1 ++ dktX0_person_2
def dkwX0_person_0 : List UInt8 := [42, 27, 182, 0, 213, 154, 0, 5, 2, 172, 28]
abbrev dktX0_person_0 : List UInt8 := dkwX0_person_0 ++ dktX0_person_1
theorem dksX0_person_0 : cX0_person.data.toList.drop 0 = dktX0_person_0 := by decide +kernel
theorem dksX0_person_1 : cX0_person.data.toList.drop 11 = dktX0_person_1 := dk_seg dksX0_person_0 11 rfl rfl
theorem dksX0_person_2 : cX0_person.data.toList.drop 56 = dktX0_person_2 := dk_seg dksX0_person_1 45 rfl rfl
theorem dksX0_person_3 : cX0_person.data.toList.drop 80 = dktX0_person_3 := dk_seg dksX0_person_2 24 rfl rfl
theorem dksX0_person_4 : cX0_person.data.toList.drop 102 = dktX0_person_4 := dk_seg dksX0_person_3 22 rfl rfl
theorem dksX0_person_5 : cX0_person.data.toList.drop 126 = dktX0_person_5 := dk_seg dksX0_person_4 24 rfl rfl
theorem dksX0_person_6 : cX0_person.data.toList.drop 150 = dktX0_person_6 := dk_seg dksX0_person_5 24 rfl rfl
theorem dX0_person_0 : decode cX0_person 0 = .ok (.aload_n 0, 1) := dk_42 (dk_at dksX0_person_0 0 rfl rfl)
theorem dX0_person_1 : decode cX0_person 1 = .ok (.iload_n 1, 1) := dk_27 (dk_at dksX0_person_0 1 rfl rfl)
theorem dX0_person_2 : decode cX0_person 2 = .ok (.invokevirtual 213, 3) := dk_182 0 213 (dk_at dksX0_person_0 2 rfl rfl)
theorem dX0_person_5 : decode cX0_person 5 = .ok (.ifCond .ne 5, 3) := dk_154 0 5 (dk_at dksX0_person_0 5 rfl rfl)
theorem dX0_person_8 : decode cX0_person 8 = .ok (.iconst (-1), 1) := dk_2 (dk_at dksX0_person_0 8 rfl rfl)
theorem dX0_person_9 : decode cX0_person 9 = .ok (.ireturn, 1) := dk_172 (dk_at dksX0_person_0 9 rfl rfl)
theorem dX0_person_10 : decode cX0_person 10 = .ok (.iload_n 2, 1) := dk_28 (dk_at dksX0_person_0 10 rfl rfl)
theorem dX0_person_11 : decode cX0_person 11 = .ok (.tableswitch 140 0 7 #[45, 51, 61, 70, 80, 90, 100, 120], 45) := by decide +kernel
theorem dX0_person_56 : decode cX0_person 56 = .ok (.aload_n 0, 1) := dk_42 (dk_at dksX0_person_2 0 rfl rfl)
theorem dX0_person_57 : decode cX0_person 57 = .ok (.iload_n 1, 1) := dk_27 (dk_at dksX0_person_2 1 rfl rfl)
theorem dX0_person_58 : decode cX0_person 58 = .ok (.invokevirtual 216, 3) := dk_182 0 216 (dk_at dksX0_person_2 2 rfl rfl)
theorem dX0_person_61 : decode cX0_person 61 = .ok (.ireturn, 1) := dk_172 (dk_at dksX0_person_2 5 rfl rfl)
theorem dX0_person_62 : decode cX0_person 62 = .ok (.aload_n 0, 1) := dk_42 (dk_at dksX0_person_2 6 rfl rfl)
theorem dX0_person_63 : decode cX0_person 63 = .ok (.getfield 69, 3) := dk_180 0 69 (dk_at dksX0_person_2 7 rfl rfl)
theorem dX0_person_66 : decode cX0_person 66 = .ok (.getfield 219, 3) := dk_180 0 219 (dk_at dksX0_person_2 10 rfl rfl)
theorem dX0_person_69 : decode cX0_person 69 = .ok (.iload_n 1, 1) := dk_27 (dk_at dksX0_person_2 13 rfl rfl)
theorem dX0_person_70 : decode cX0_person 70 = .ok (.iaload, 1) := dk_46 (dk_at dksX0_person_2 14 rfl rfl)
theorem dX0_person_71 : decode cX0_person 71 = .ok (.ireturn, 1) := dk_172 (dk_at dksX0_person_2 15 rfl rfl)
theorem dX0_person_72 : decode cX0_person 72 = .ok (.aload_n 0, 1) := dk_42 (dk_at dksX0_person_2 16 rfl rfl)
theorem dX0_person_73 : decode cX0_person 73 = .ok (.getfield 69, 3) := dk_180 0 69 (dk_at dksX0_person_2 17 rfl rfl)
theorem dX0_person_76 : decode cX0_person 76 = .ok (.iload_n 1, 1) := dk_27 (dk_at dksX0_person_2 20 rfl rfl)
theorem dX0_person_77 : decode cX0_person 77 = .ok (.invokevirtual 222, 3) := dk_182 0 222 (dk_at dksX0_person_2 21 rfl rfl)
theorem dX0_person_80 : decode cX0_person 80 = .ok (.ireturn, 1) := dk_172 (dk_at dksX0_person_3 0 rfl rfl)
theorem dX0_person_81 : decode cX0_person 81 = .ok (.aload_n 0, 1) := dk_42 (dk_at dksX0_person_3 1 rfl rfl)
theorem dX0_person_82 : decode cX0_person 82 = .ok (.getfield 69, 3) := dk_180 0 69 (dk_at dksX0_person_3 2 rfl rfl)
theorem dX0_person_85 : decode cX0_person 85 = .ok (.getfield 225, 3) := dk_180 0 225 (dk_at dksX0_person_3 5 rfl rfl)
theorem dX0_person_88 : decode cX0_person 88 = .ok (.iload_n 1, 1) := dk_27 (dk_at dksX0_person_3 8 rfl rfl)
theorem dX0_person_89 : decode cX0_person 89 = .ok (.iaload, 1) := dk_46 (dk_at dksX0_person_3 9 rfl rfl)
theorem dX0_person_90 : decode cX0_person 90 = .ok (.ireturn, 1) := dk_172 (dk_at dksX0_person_3 10 rfl rfl)
theorem dX0_person_91 : decode cX0_person 91 = .ok (.aload_n 0, 1) := dk_42 (dk_at dksX0_person_3 11 rfl rfl)
theorem dX0_person_92 : decode cX0_person 92 = .ok (.getfield 69, 3) := dk_180 0 69 (dk_at dksX0_person_3 12 rfl rfl)
theorem dX0_person_95 : decode cX0_person 95 = .ok (.getfield 228, 3) := dk_180 0 228 (dk_at dksX0_person_3 15 rfl rfl)
theorem dX0_person_98 : decode cX0_person 98 = .ok (.iload_n 1, 1) := dk_27 (dk_at dksX0_person_3 18 rfl rfl)
theorem dX0_person_99 : decode cX0_person 99 = .ok (.iaload, 1) := dk_46 (dk_at dksX0_person_3 19 rfl rfl)
theorem dX0_person_100 : decode cX0_person 100 = .ok (.ireturn, 1) := dk_172 (dk_at dksX0_person_3 20 rfl rfl)
theorem dX0_person_101 : decode cX0_person 101 = .ok (.aload_n 0, 1) := dk_42 (dk_at dksX0_person_3 21 rfl rfl)
theorem dX0_person_102 : decode cX0_person 102 = .ok (.getfield 69, 3) := dk_180 0 69 (dk_at dksX0_person_4 0 rfl rfl)
theorem dX0_person_105 : decode cX0_person 105 = .ok (.getfield 231, 3) := dk_180 0 231 (dk_at dksX0_person_4 3 rfl rfl)
theorem dX0_person_108 : decode cX0_person 108 = .ok (.iload_n 1, 1) := dk_27 (dk_at dksX0_person_4 6 rfl rfl)
theorem dX0_person_109 : decode cX0_person 109 = .ok (.iaload, 1) := dk_46 (dk_at dksX0_person_4 7 rfl rfl)
theorem dX0_person_110 : decode cX0_person 110 = .ok (.ireturn, 1) := dk_172 (dk_at dksX0_person_4 8 rfl rfl)
theorem dX0_person_111 : decode cX0_person 111 = .ok (.aload_n 0, 1) := dk_42 (dk_at dksX0_person_4 9 rfl rfl)
theorem dX0_person_112 : decode cX0_person 112 = .ok (.getfield 69, 3) := dk_180 0 69 (dk_at dksX0_person_4 10 rfl rfl)
theorem dX0_person_115 : decode cX0_person 115 = .ok (.getfield 174, 3) := dk_180 0 174 (dk_at dksX0_person_4 13 rfl rfl)
theorem dX0_person_118 : decode cX0_person 118 = .ok (.iload_n 1, 1) := dk_27 (dk_at dksX0_person_4 16 rfl rfl)
theorem dX0_person_119 : decode cX0_person 119 = .ok (.invokestatic 234, 3) := dk_184 0 234 (dk_at dksX0_person_4 17 rfl rfl)
theorem dX0_person_122 : decode cX0_person 122 = .ok (.ifCond .eq 7, 3) := dk_153 0 7 (dk_at dksX0_person_4 20 rfl rfl)
theorem dX0_person_125 : decode cX0_person 125 = .ok (.iconst 1, 1) := dk_4 (dk_at dksX0_person_4 23 rfl rfl)
theorem dX0_person_126 : decode cX0_person 126 = .ok (.goto 4, 3) := dk_167 0 4 (dk_at dksX0_person_5 0 rfl rfl)
theorem dX0_person_129 : decode cX0_person 129 = .ok (.iconst 0, 1) := dk_3 (dk_at dksX0_person_5 3 rfl rfl)
theorem dX0_person_130 : decode cX0_person 130 = .ok (.ireturn, 1) := dk_172 (dk_at dksX0_person_5 4 rfl rfl)
theorem dX0_person_131 : decode cX0_person 131 = .ok (.aload_n 0, 1) := dk_42 (dk_at dksX0_person_5 5 rfl rfl)
theorem dX0_person_132 : decode cX0_person 132 = .ok (.getfield 69, 3) := dk_180 0 69 (dk_at dksX0_person_5 6 rfl rfl)
theorem dX0_person_135 : decode cX0_person 135 = .ok (.getfield 182, 3) := dk_180 0 182 (dk_at dksX0_person_5 9 rfl rfl)
theorem dX0_person_138 : decode cX0_person 138 = .ok (.iload_n 1, 1) := dk_27 (dk_at dksX0_person_5 12 rfl rfl)
theorem dX0_person_139 : decode cX0_person 139 = .ok (.invokestatic 234, 3) := dk_184 0 234 (dk_at dksX0_person_5 13 rfl rfl)
theorem dX0_person_142 : decode cX0_person 142 = .ok (.ifCond .eq 7, 3) := dk_153 0 7 (dk_at dksX0_person_5 16 rfl rfl)
theorem dX0_person_145 : decode cX0_person 145 = .ok (.iconst 1, 1) := dk_4 (dk_at dksX0_person_5 19 rfl rfl)
theorem dX0_person_146 : decode cX0_person 146 = .ok (.goto 4, 3) := dk_167 0 4 (dk_at dksX0_person_5 20 rfl rfl)
theorem dX0_person_149 : decode cX0_person 149 = .ok (.iconst 0, 1) := dk_3 (dk_at dksX0_person_5 23 rfl rfl)
theorem dX0_person_150 : decode cX0_person 150 = .ok (.ireturn, 1) := dk_172 (dk_at dksX0_person_6 0 rfl rfl)
theorem dX0_person_151 : decode cX0_person 151 = .ok (.iconst (-1), 1) := dk_2 (dk_at dksX0_person_6 1 rfl rfl)
theorem dX0_person_152 : decode cX0_person 152 = .ok (.ireturn, 1) := dk_172 (dk_at dksX0_person_6 2 rfl rfl)
abbrev cX0_isPerson : ByteArray := prog_1_method_18_code
def yX0_isPerson : MethodName := ⟨RX0, "isPerson", "(I)Z"⟩
def dkwX0_isPerson_0 : List UInt8 := [27, 155, 0, 15, 27, 42, 182, 0, 154, 162, 0, 7, 4, 167, 0, 4, 3, 172]
abbrev dktX0_isPerson_0 : List UInt8 := dkwX0_isPerson_0 ++ []
theorem dksX0_isPerson_0 : cX0_isPerson.data.toList.drop 0 = dktX0_isPerson_0 := by decide +kernel
theorem dX0_isPerson_0 : decode cX0_isPerson 0 = .ok (.iload_n 1, 1) := dk_27 (dk_at dksX0_isPerson_0 0 rfl rfl)
theorem dX0_isPerson_1 : decode cX0_isPerson 1 = .ok (.ifCond .lt 15, 3) := dk_155 0 15 (dk_at dksX0_isPerson_0 1 rfl rfl)
theorem dX0_isPerson_4 : decode cX0_isPerson 4 = .ok (.iload_n 1, 1) := dk_27 (dk_at dksX0_isPerson_0 4 rfl rfl)
theorem dX0_isPerson_5 : decode cX0_isPerson 5 = .ok (.aload_n 0, 1) := dk_42 (dk_at dksX0_isPerson_0 5 rfl rfl)
theorem dX0_isPerson_6 : decode cX0_isPerson 6 = .ok (.invokevirtual 154, 3) := dk_182 0 154 (dk_at dksX0_isPerson_0 6 rfl rfl)
theorem dX0_isPerson_9 : decode cX0_isPerson 9 = .ok (.if_icmp .ge 7, 3) := dk_162 0 7 (dk_at dksX0_isPerson_0 9 rfl rfl)
theorem dX0_isPerson_12 : decode cX0_isPerson 12 = .ok (.iconst 1, 1) := dk_4 (dk_at dksX0_isPerson_0 12 rfl rfl)
theorem dX0_isPerson_13 : decode cX0_isPerson 13 = .ok (.goto 4, 3) := dk_167 0 4 (dk_at dksX0_isPerson_0 13 rfl rfl)
theorem dX0_isPerson_16 : decode cX0_isPerson 16 = .ok (.iconst 0, 1) := dk_3 (dk_at dksX0_isPerson_0 16 rfl rfl)
theorem dX0_isPerson_17 : decode cX0_isPerson 17 = .ok (.ireturn, 1) := dk_172 (dk_at dksX0_isPerson_0 17 rfl rfl)
abbrev cX0_calmOf : ByteArray := prog_1_method_20_code
def yX0_calmOf : MethodName := ⟨RX0, "calmOf", "(I)I"⟩
def dkwX0_calmOf_0 : List UInt8 := [42, 180, 0, 31, 180, 0, 149, 27, 185, 0, 156, 2, 0, 192, 0, 160, 180, 0, 162, 172]
abbrev dktX0_calmOf_0 : List UInt8 := dkwX0_calmOf_0 ++ []
theorem dksX0_calmOf_0 : cX0_calmOf.data.toList.drop 0 = dktX0_calmOf_0 := by decide +kernel
theorem dX0_calmOf_0 : decode cX0_calmOf 0 = .ok (.aload_n 0, 1) := dk_42 (dk_at dksX0_calmOf_0 0 rfl rfl)
theorem dX0_calmOf_1 : decode cX0_calmOf 1 = .ok (.getfield 31, 3) := dk_180 0 31 (dk_at dksX0_calmOf_0 1 rfl rfl)
theorem dX0_calmOf_4 : decode cX0_calmOf 4 = .ok (.getfield 149, 3) := dk_180 0 149 (dk_at dksX0_calmOf_0 4 rfl rfl)
theorem dX0_calmOf_7 : decode cX0_calmOf 7 = .ok (.iload_n 1, 1) := dk_27 (dk_at dksX0_calmOf_0 7 rfl rfl)
theorem dX0_calmOf_8 : decode cX0_calmOf 8 = .ok (.invokeinterface 156 2, 5) := by decide +kernel
theorem dX0_calmOf_13 : decode cX0_calmOf 13 = .ok (.checkcast 160, 3) := dk_192 0 160 (dk_at dksX0_calmOf_0 13 rfl rfl)
theorem dX0_calmOf_16 : decode cX0_calmOf 16 = .ok (.getfield 162, 3) := dk_180 0 162 (dk_at dksX0_calmOf_0 16 rfl rfl)
theorem dX0_calmOf_19 : decode cX0_calmOf 19 = .ok (.ireturn, 1) := dk_172 (dk_at dksX0_calmOf_0 19 rfl rfl)
abbrev cX0_marks : ByteArray := prog_1_method_27_code
def yX0_marks : MethodName := ⟨RX0, "marks", "(I)J"⟩
def dkwX0_marks_0 : List UInt8 := [42, 27, 182, 0, 213, 153, 0, 15, 42, 180, 0, 69, 27, 182, 0, 238, 133, 167, 0, 6, 20, 0, 241, 173]
abbrev dktX0_marks_0 : List UInt8 := dkwX0_marks_0 ++ []
theorem dksX0_marks_0 : cX0_marks.data.toList.drop 0 = dktX0_marks_0 := by decide +kernel
theorem dX0_marks_0 : decode cX0_marks 0 = .ok (.aload_n 0, 1) := dk_42 (dk_at dksX0_marks_0 0 rfl rfl)
theorem dX0_marks_1 : decode cX0_marks 1 = .ok (.iload_n 1, 1) := dk_27 (dk_at dksX0_marks_0 1 rfl rfl)
theorem dX0_marks_2 : decode cX0_marks 2 = .ok (.invokevirtual 213, 3) := dk_182 0 213 (dk_at dksX0_marks_0 2 rfl rfl)
theorem dX0_marks_5 : decode cX0_marks 5 = .ok (.ifCond .eq 15, 3) := dk_153 0 15 (dk_at dksX0_marks_0 5 rfl rfl)
theorem dX0_marks_8 : decode cX0_marks 8 = .ok (.aload_n 0, 1) := dk_42 (dk_at dksX0_marks_0 8 rfl rfl)
theorem dX0_marks_9 : decode cX0_marks 9 = .ok (.getfield 69, 3) := dk_180 0 69 (dk_at dksX0_marks_0 9 rfl rfl)
theorem dX0_marks_12 : decode cX0_marks 12 = .ok (.iload_n 1, 1) := dk_27 (dk_at dksX0_marks_0 12 rfl rfl)
theorem dX0_marks_13 : decode cX0_marks 13 = .ok (.invokevirtual 238, 3) := dk_182 0 238 (dk_at dksX0_marks_0 13 rfl rfl)
theorem dX0_marks_16 : decode cX0_marks 16 = .ok (.i2l, 1) := dk_133 (dk_at dksX0_marks_0 16 rfl rfl)
theorem dX0_marks_17 : decode cX0_marks 17 = .ok (.goto 6, 3) := dk_167 0 6 (dk_at dksX0_marks_0 17 rfl rfl)
theorem dX0_marks_20 : decode cX0_marks 20 = .ok (.ldc2_w 241, 3) := dk_20 0 241 (dk_at dksX0_marks_0 20 rfl rfl)
theorem dX0_marks_23 : decode cX0_marks 23 = .ok (.lreturn, 1) := dk_173 (dk_at dksX0_marks_0 23 rfl rfl)
abbrev cX0_next : ByteArray := prog_1_method_28_code
def yX0_next : MethodName := ⟨RX0, "next", "(I)I"⟩
def dkwX0_next_0 : List UInt8 := [42, 27, 182, 0, 213, 153, 0, 14, 42, 180, 0, 69, 27, 182, 0, 243, 167, 0, 4, 2, 172]
abbrev dktX0_next_0 : List UInt8 := dkwX0_next_0 ++ []
theorem dksX0_next_0 : cX0_next.data.toList.drop 0 = dktX0_next_0 := by decide +kernel
theorem dX0_next_0 : decode cX0_next 0 = .ok (.aload_n 0, 1) := dk_42 (dk_at dksX0_next_0 0 rfl rfl)
theorem dX0_next_1 : decode cX0_next 1 = .ok (.iload_n 1, 1) := dk_27 (dk_at dksX0_next_0 1 rfl rfl)
theorem dX0_next_2 : decode cX0_next 2 = .ok (.invokevirtual 213, 3) := dk_182 0 213 (dk_at dksX0_next_0 2 rfl rfl)
theorem dX0_next_5 : decode cX0_next 5 = .ok (.ifCond .eq 14, 3) := dk_153 0 14 (dk_at dksX0_next_0 5 rfl rfl)
theorem dX0_next_8 : decode cX0_next 8 = .ok (.aload_n 0, 1) := dk_42 (dk_at dksX0_next_0 8 rfl rfl)
theorem dX0_next_9 : decode cX0_next 9 = .ok (.getfield 69, 3) := dk_180 0 69 (dk_at dksX0_next_0 9 rfl rfl)
theorem dX0_next_12 : decode cX0_next 12 = .ok (.iload_n 1, 1) := dk_27 (dk_at dksX0_next_0 12 rfl rfl)
theorem dX0_next_13 : decode cX0_next 13 = .ok (.invokevirtual 243, 3) := dk_182 0 243 (dk_at dksX0_next_0 13 rfl rfl)
theorem dX0_next_16 : decode cX0_next 16 = .ok (.goto 4, 3) := dk_167 0 4 (dk_at dksX0_next_0 16 rfl rfl)
theorem dX0_next_19 : decode cX0_next 19 = .ok (.iconst (-1), 1) := dk_2 (dk_at dksX0_next_0 19 rfl rfl)
theorem dX0_next_20 : decode cX0_next 20 = .ok (.ireturn, 1) := dk_172 (dk_at dksX0_next_0 20 rfl rfl)
abbrev cX0_held : ByteArray := prog_1_method_3_code
def yX0_held : MethodName := ⟨RX0, "held", "(J)J"⟩
def dkwX0_held_0 : List UInt8 := [20, 0, 3, 20, 0, 5, 30, 184, 0, 7, 184, 0, 13, 173]
abbrev dktX0_held_0 : List UInt8 := dkwX0_held_0 ++ []
theorem dksX0_held_0 : cX0_held.data.toList.drop 0 = dktX0_held_0 := by decide +kernel
theorem dX0_held_0 : decode cX0_held 0 = .ok (.ldc2_w 3, 3) := dk_20 0 3 (dk_at dksX0_held_0 0 rfl rfl)
theorem dX0_held_3 : decode cX0_held 3 = .ok (.ldc2_w 5, 3) := dk_20 0 5 (dk_at dksX0_held_0 3 rfl rfl)
theorem dX0_held_6 : decode cX0_held 6 = .ok (.lload_n 0, 1) := dk_30 (dk_at dksX0_held_0 6 rfl rfl)
theorem dX0_held_7 : decode cX0_held 7 = .ok (.invokestatic 7, 3) := dk_184 0 7 (dk_at dksX0_held_0 7 rfl rfl)
theorem dX0_held_10 : decode cX0_held 10 = .ok (.invokestatic 13, 3) := dk_184 0 13 (dk_at dksX0_held_0 10 rfl rfl)
theorem dX0_held_13 : decode cX0_held 13 = .ok (.lreturn, 1) := dk_173 (dk_at dksX0_held_0 13 rfl rfl)
abbrev cX0_looked : ByteArray := prog_1_method_52_code
def yX0_looked : MethodName := ⟨RX0, "looked", "(IJ)J"⟩
def dkwX0_looked_1 : List UInt8 := [32, 136, 42, 180, 1, 44, 182, 0, 199, 4, 160, 0, 7, 10, 167, 0, 4, 9, 173]
abbrev dktX0_looked_1 : List UInt8 := dkwX0_looked_1 ++ []
def dkwX0_looked_0 : List UInt8 := [27, 154, 0, 40, 32, 9, 148, 155, 0, 34, 32, 42, 182, 0, 154, 133, 148, 156, 0, 24, 42, 180, 0, 69]
abbrev dktX0_looked_0 : List UInt8 := dkwX0_looked_0 ++ dktX0_looked_1
theorem dksX0_looked_0 : cX0_looked.data.toList.drop 0 = dktX0_looked_0 := by decide +kernel
theorem dksX0_looked_1 : cX0_looked.data.toList.drop 24 = dktX0_looked_1 := dk_seg dksX0_looked_0 24 rfl rfl
theorem dX0_looked_0 : decode cX0_looked 0 = .ok (.iload_n 1, 1) := dk_27 (dk_at dksX0_looked_0 0 rfl rfl)
theorem dX0_looked_1 : decode cX0_looked 1 = .ok (.ifCond .ne 40, 3) := dk_154 0 40 (dk_at dksX0_looked_0 1 rfl rfl)
theorem dX0_looked_4 : decode cX0_looked 4 = .ok (.lload_n 2, 1) := dk_32 (dk_at dksX0_looked_0 4 rfl rfl)
theorem dX0_looked_5 : decode cX0_looked 5 = .ok (.lconst 0, 1) := dk_9 (dk_at dksX0_looked_0 5 rfl rfl)
theorem dX0_looked_6 : decode cX0_looked 6 = .ok (.lcmp, 1) := dk_148 (dk_at dksX0_looked_0 6 rfl rfl)
theorem dX0_looked_7 : decode cX0_looked 7 = .ok (.ifCond .lt 34, 3) := dk_155 0 34 (dk_at dksX0_looked_0 7 rfl rfl)
theorem dX0_looked_10 : decode cX0_looked 10 = .ok (.lload_n 2, 1) := dk_32 (dk_at dksX0_looked_0 10 rfl rfl)
theorem dX0_looked_11 : decode cX0_looked 11 = .ok (.aload_n 0, 1) := dk_42 (dk_at dksX0_looked_0 11 rfl rfl)
theorem dX0_looked_12 : decode cX0_looked 12 = .ok (.invokevirtual 154, 3) := dk_182 0 154 (dk_at dksX0_looked_0 12 rfl rfl)
theorem dX0_looked_15 : decode cX0_looked 15 = .ok (.i2l, 1) := dk_133 (dk_at dksX0_looked_0 15 rfl rfl)
theorem dX0_looked_16 : decode cX0_looked 16 = .ok (.lcmp, 1) := dk_148 (dk_at dksX0_looked_0 16 rfl rfl)
theorem dX0_looked_17 : decode cX0_looked 17 = .ok (.ifCond .ge 24, 3) := dk_156 0 24 (dk_at dksX0_looked_0 17 rfl rfl)
theorem dX0_looked_20 : decode cX0_looked 20 = .ok (.aload_n 0, 1) := dk_42 (dk_at dksX0_looked_0 20 rfl rfl)
theorem dX0_looked_21 : decode cX0_looked 21 = .ok (.getfield 69, 3) := dk_180 0 69 (dk_at dksX0_looked_0 21 rfl rfl)
theorem dX0_looked_24 : decode cX0_looked 24 = .ok (.lload_n 2, 1) := dk_32 (dk_at dksX0_looked_1 0 rfl rfl)
theorem dX0_looked_25 : decode cX0_looked 25 = .ok (.l2i, 1) := dk_136 (dk_at dksX0_looked_1 1 rfl rfl)
theorem dX0_looked_26 : decode cX0_looked 26 = .ok (.aload_n 0, 1) := dk_42 (dk_at dksX0_looked_1 2 rfl rfl)
theorem dX0_looked_27 : decode cX0_looked 27 = .ok (.getfield 300, 3) := dk_180 1 44 (dk_at dksX0_looked_1 3 rfl rfl)
theorem dX0_looked_30 : decode cX0_looked 30 = .ok (.invokevirtual 199, 3) := dk_182 0 199 (dk_at dksX0_looked_1 6 rfl rfl)
theorem dX0_looked_33 : decode cX0_looked 33 = .ok (.iconst 1, 1) := dk_4 (dk_at dksX0_looked_1 9 rfl rfl)
theorem dX0_looked_34 : decode cX0_looked 34 = .ok (.if_icmp .ne 7, 3) := dk_160 0 7 (dk_at dksX0_looked_1 10 rfl rfl)
theorem dX0_looked_37 : decode cX0_looked 37 = .ok (.lconst 1, 1) := dk_10 (dk_at dksX0_looked_1 13 rfl rfl)
theorem dX0_looked_38 : decode cX0_looked 38 = .ok (.goto 4, 3) := dk_167 0 4 (dk_at dksX0_looked_1 14 rfl rfl)
theorem dX0_looked_41 : decode cX0_looked 41 = .ok (.lconst 0, 1) := dk_9 (dk_at dksX0_looked_1 17 rfl rfl)
theorem dX0_looked_42 : decode cX0_looked 42 = .ok (.lreturn, 1) := dk_173 (dk_at dksX0_looked_1 18 rfl rfl)
abbrev cX0_kept : ByteArray := prog_1_method_29_code
def yX0_kept : MethodName := ⟨RX0, "kept", "(II)I"⟩
def dkwX0_kept_1 : List UInt8 := [153, 0, 17, 42, 180, 0, 69, 180, 0, 246, 27, 50, 28, 46, 167, 0, 4, 2, 172]
abbrev dktX0_kept_1 : List UInt8 := dkwX0_kept_1 ++ []
def dkwX0_kept_0 : List UInt8 := [27, 3, 42, 180, 0, 69, 180, 0, 189, 4, 100, 184, 0, 192, 153, 0, 26, 28, 3, 5, 184, 0, 192]
abbrev dktX0_kept_0 : List UInt8 := dkwX0_kept_0 ++ dktX0_kept_1
theorem dksX0_kept_0 : cX0_kept.data.toList.drop 0 = dktX0_kept_0 := by decide +kernel
theorem dksX0_kept_1 : cX0_kept.data.toList.drop 23 = dktX0_kept_1 := dk_seg dksX0_kept_0 23 rfl rfl
theorem dX0_kept_0 : decode cX0_kept 0 = .ok (.iload_n 1, 1) := dk_27 (dk_at dksX0_kept_0 0 rfl rfl)
theorem dX0_kept_1 : decode cX0_kept 1 = .ok (.iconst 0, 1) := dk_3 (dk_at dksX0_kept_0 1 rfl rfl)
theorem dX0_kept_2 : decode cX0_kept 2 = .ok (.aload_n 0, 1) := dk_42 (dk_at dksX0_kept_0 2 rfl rfl)
theorem dX0_kept_3 : decode cX0_kept 3 = .ok (.getfield 69, 3) := dk_180 0 69 (dk_at dksX0_kept_0 3 rfl rfl)
theorem dX0_kept_6 : decode cX0_kept 6 = .ok (.getfield 189, 3) := dk_180 0 189 (dk_at dksX0_kept_0 6 rfl rfl)
theorem dX0_kept_9 : decode cX0_kept 9 = .ok (.iconst 1, 1) := dk_4 (dk_at dksX0_kept_0 9 rfl rfl)
theorem dX0_kept_10 : decode cX0_kept 10 = .ok (.isub, 1) := dk_100 (dk_at dksX0_kept_0 10 rfl rfl)
theorem dX0_kept_11 : decode cX0_kept 11 = .ok (.invokestatic 192, 3) := dk_184 0 192 (dk_at dksX0_kept_0 11 rfl rfl)
theorem dX0_kept_14 : decode cX0_kept 14 = .ok (.ifCond .eq 26, 3) := dk_153 0 26 (dk_at dksX0_kept_0 14 rfl rfl)
theorem dX0_kept_17 : decode cX0_kept 17 = .ok (.iload_n 2, 1) := dk_28 (dk_at dksX0_kept_0 17 rfl rfl)
theorem dX0_kept_18 : decode cX0_kept 18 = .ok (.iconst 0, 1) := dk_3 (dk_at dksX0_kept_0 18 rfl rfl)
theorem dX0_kept_19 : decode cX0_kept 19 = .ok (.iconst 2, 1) := dk_5 (dk_at dksX0_kept_0 19 rfl rfl)
theorem dX0_kept_20 : decode cX0_kept 20 = .ok (.invokestatic 192, 3) := dk_184 0 192 (dk_at dksX0_kept_0 20 rfl rfl)
theorem dX0_kept_23 : decode cX0_kept 23 = .ok (.ifCond .eq 17, 3) := dk_153 0 17 (dk_at dksX0_kept_1 0 rfl rfl)
theorem dX0_kept_26 : decode cX0_kept 26 = .ok (.aload_n 0, 1) := dk_42 (dk_at dksX0_kept_1 3 rfl rfl)
theorem dX0_kept_27 : decode cX0_kept 27 = .ok (.getfield 69, 3) := dk_180 0 69 (dk_at dksX0_kept_1 4 rfl rfl)
theorem dX0_kept_30 : decode cX0_kept 30 = .ok (.getfield 246, 3) := dk_180 0 246 (dk_at dksX0_kept_1 7 rfl rfl)
theorem dX0_kept_33 : decode cX0_kept 33 = .ok (.iload_n 1, 1) := dk_27 (dk_at dksX0_kept_1 10 rfl rfl)
theorem dX0_kept_34 : decode cX0_kept 34 = .ok (.aaload, 1) := dk_50 (dk_at dksX0_kept_1 11 rfl rfl)
theorem dX0_kept_35 : decode cX0_kept 35 = .ok (.iload_n 2, 1) := dk_28 (dk_at dksX0_kept_1 12 rfl rfl)
theorem dX0_kept_36 : decode cX0_kept 36 = .ok (.iaload, 1) := dk_46 (dk_at dksX0_kept_1 13 rfl rfl)
theorem dX0_kept_37 : decode cX0_kept 37 = .ok (.goto 4, 3) := dk_167 0 4 (dk_at dksX0_kept_1 14 rfl rfl)
theorem dX0_kept_40 : decode cX0_kept 40 = .ok (.iconst (-1), 1) := dk_2 (dk_at dksX0_kept_1 17 rfl rfl)
theorem dX0_kept_41 : decode cX0_kept 41 = .ok (.ireturn, 1) := dk_172 (dk_at dksX0_kept_1 18 rfl rfl)
abbrev cX0_later : ByteArray := prog_1_method_31_code
def yX0_later : MethodName := ⟨RX0, "later", "(II)I"⟩
def dkwX0_later_3 : List UInt8 := [180, 0, 73, 28, 6, 160, 0, 7, 4, 167, 0, 4, 3, 182, 0, 185, 172]
abbrev dktX0_later_3 : List UInt8 := dkwX0_later_3 ++ []
def dkwX0_later_2 : List UInt8 := [180, 0, 174, 167, 0, 35, 28, 4, 160, 0, 13, 42, 180, 0, 73, 180, 0, 182, 167, 0, 20, 42]
abbrev dktX0_later_2 : List UInt8 := dkwX0_later_2 ++ dktX0_later_3
def dkwX0_later_1 : List UInt8 := [180, 0, 73, 42, 180, 0, 69, 182, 0, 251, 27, 182, 0, 255, 87, 28, 154, 0, 13, 42, 180, 0, 73]
abbrev dktX0_later_1 : List UInt8 := dkwX0_later_1 ++ dktX0_later_2
def dkwX0_later_0 : List UInt8 := [42, 27, 3, 16, 40, 182, 0, 248, 153, 0, 12, 28, 3, 6, 184, 0, 192, 154, 0, 5, 2, 172, 42]
abbrev dktX0_later_0 : List UInt8 := dkwX0_later_0 ++ dktX0_later_1
theorem dksX0_later_0 : cX0_later.data.toList.drop 0 = dktX0_later_0 := by decide +kernel
theorem dksX0_later_1 : cX0_later.data.toList.drop 23 = dktX0_later_1 := dk_seg dksX0_later_0 23 rfl rfl
theorem dksX0_later_2 : cX0_later.data.toList.drop 46 = dktX0_later_2 := dk_seg dksX0_later_1 23 rfl rfl
theorem dksX0_later_3 : cX0_later.data.toList.drop 68 = dktX0_later_3 := dk_seg dksX0_later_2 22 rfl rfl
theorem dX0_later_0 : decode cX0_later 0 = .ok (.aload_n 0, 1) := dk_42 (dk_at dksX0_later_0 0 rfl rfl)
theorem dX0_later_1 : decode cX0_later 1 = .ok (.iload_n 1, 1) := dk_27 (dk_at dksX0_later_0 1 rfl rfl)
theorem dX0_later_2 : decode cX0_later 2 = .ok (.iconst 0, 1) := dk_3 (dk_at dksX0_later_0 2 rfl rfl)
theorem dX0_later_3 : decode cX0_later 3 = .ok (.bipush 40, 2) := dk_16 40 (dk_at dksX0_later_0 3 rfl rfl)
theorem dX0_later_5 : decode cX0_later 5 = .ok (.invokevirtual 248, 3) := dk_182 0 248 (dk_at dksX0_later_0 5 rfl rfl)
theorem dX0_later_8 : decode cX0_later 8 = .ok (.ifCond .eq 12, 3) := dk_153 0 12 (dk_at dksX0_later_0 8 rfl rfl)
theorem dX0_later_11 : decode cX0_later 11 = .ok (.iload_n 2, 1) := dk_28 (dk_at dksX0_later_0 11 rfl rfl)
theorem dX0_later_12 : decode cX0_later 12 = .ok (.iconst 0, 1) := dk_3 (dk_at dksX0_later_0 12 rfl rfl)
theorem dX0_later_13 : decode cX0_later 13 = .ok (.iconst 3, 1) := dk_6 (dk_at dksX0_later_0 13 rfl rfl)
theorem dX0_later_14 : decode cX0_later 14 = .ok (.invokestatic 192, 3) := dk_184 0 192 (dk_at dksX0_later_0 14 rfl rfl)
theorem dX0_later_17 : decode cX0_later 17 = .ok (.ifCond .ne 5, 3) := dk_154 0 5 (dk_at dksX0_later_0 17 rfl rfl)
theorem dX0_later_20 : decode cX0_later 20 = .ok (.iconst (-1), 1) := dk_2 (dk_at dksX0_later_0 20 rfl rfl)
theorem dX0_later_21 : decode cX0_later 21 = .ok (.ireturn, 1) := dk_172 (dk_at dksX0_later_0 21 rfl rfl)
theorem dX0_later_22 : decode cX0_later 22 = .ok (.aload_n 0, 1) := dk_42 (dk_at dksX0_later_0 22 rfl rfl)
theorem dX0_later_23 : decode cX0_later 23 = .ok (.getfield 73, 3) := dk_180 0 73 (dk_at dksX0_later_1 0 rfl rfl)
theorem dX0_later_26 : decode cX0_later 26 = .ok (.aload_n 0, 1) := dk_42 (dk_at dksX0_later_1 3 rfl rfl)
theorem dX0_later_27 : decode cX0_later 27 = .ok (.getfield 69, 3) := dk_180 0 69 (dk_at dksX0_later_1 4 rfl rfl)
theorem dX0_later_30 : decode cX0_later 30 = .ok (.invokevirtual 251, 3) := dk_182 0 251 (dk_at dksX0_later_1 7 rfl rfl)
theorem dX0_later_33 : decode cX0_later 33 = .ok (.iload_n 1, 1) := dk_27 (dk_at dksX0_later_1 10 rfl rfl)
theorem dX0_later_34 : decode cX0_later 34 = .ok (.invokevirtual 255, 3) := dk_182 0 255 (dk_at dksX0_later_1 11 rfl rfl)
theorem dX0_later_37 : decode cX0_later 37 = .ok (.pop, 1) := dk_87 (dk_at dksX0_later_1 14 rfl rfl)
theorem dX0_later_38 : decode cX0_later 38 = .ok (.iload_n 2, 1) := dk_28 (dk_at dksX0_later_1 15 rfl rfl)
theorem dX0_later_39 : decode cX0_later 39 = .ok (.ifCond .ne 13, 3) := dk_154 0 13 (dk_at dksX0_later_1 16 rfl rfl)
theorem dX0_later_42 : decode cX0_later 42 = .ok (.aload_n 0, 1) := dk_42 (dk_at dksX0_later_1 19 rfl rfl)
theorem dX0_later_43 : decode cX0_later 43 = .ok (.getfield 73, 3) := dk_180 0 73 (dk_at dksX0_later_1 20 rfl rfl)
theorem dX0_later_46 : decode cX0_later 46 = .ok (.getfield 174, 3) := dk_180 0 174 (dk_at dksX0_later_2 0 rfl rfl)
theorem dX0_later_49 : decode cX0_later 49 = .ok (.goto 35, 3) := dk_167 0 35 (dk_at dksX0_later_2 3 rfl rfl)
theorem dX0_later_52 : decode cX0_later 52 = .ok (.iload_n 2, 1) := dk_28 (dk_at dksX0_later_2 6 rfl rfl)
theorem dX0_later_53 : decode cX0_later 53 = .ok (.iconst 1, 1) := dk_4 (dk_at dksX0_later_2 7 rfl rfl)
theorem dX0_later_54 : decode cX0_later 54 = .ok (.if_icmp .ne 13, 3) := dk_160 0 13 (dk_at dksX0_later_2 8 rfl rfl)
theorem dX0_later_57 : decode cX0_later 57 = .ok (.aload_n 0, 1) := dk_42 (dk_at dksX0_later_2 11 rfl rfl)
theorem dX0_later_58 : decode cX0_later 58 = .ok (.getfield 73, 3) := dk_180 0 73 (dk_at dksX0_later_2 12 rfl rfl)
theorem dX0_later_61 : decode cX0_later 61 = .ok (.getfield 182, 3) := dk_180 0 182 (dk_at dksX0_later_2 15 rfl rfl)
theorem dX0_later_64 : decode cX0_later 64 = .ok (.goto 20, 3) := dk_167 0 20 (dk_at dksX0_later_2 18 rfl rfl)
theorem dX0_later_67 : decode cX0_later 67 = .ok (.aload_n 0, 1) := dk_42 (dk_at dksX0_later_2 21 rfl rfl)
theorem dX0_later_68 : decode cX0_later 68 = .ok (.getfield 73, 3) := dk_180 0 73 (dk_at dksX0_later_3 0 rfl rfl)
theorem dX0_later_71 : decode cX0_later 71 = .ok (.iload_n 2, 1) := dk_28 (dk_at dksX0_later_3 3 rfl rfl)
theorem dX0_later_72 : decode cX0_later 72 = .ok (.iconst 3, 1) := dk_6 (dk_at dksX0_later_3 4 rfl rfl)
theorem dX0_later_73 : decode cX0_later 73 = .ok (.if_icmp .ne 7, 3) := dk_160 0 7 (dk_at dksX0_later_3 5 rfl rfl)
theorem dX0_later_76 : decode cX0_later 76 = .ok (.iconst 1, 1) := dk_4 (dk_at dksX0_later_3 8 rfl rfl)
theorem dX0_later_77 : decode cX0_later 77 = .ok (.goto 4, 3) := dk_167 0 4 (dk_at dksX0_later_3 9 rfl rfl)
theorem dX0_later_80 : decode cX0_later 80 = .ok (.iconst 0, 1) := dk_3 (dk_at dksX0_later_3 12 rfl rfl)
theorem dX0_later_81 : decode cX0_later 81 = .ok (.invokevirtual 185, 3) := dk_182 0 185 (dk_at dksX0_later_3 13 rfl rfl)
theorem dX0_later_84 : decode cX0_later 84 = .ok (.ireturn, 1) := dk_172 (dk_at dksX0_later_3 16 rfl rfl)
abbrev cX0_isAhead : ByteArray := prog_1_method_30_code
def yX0_isAhead : MethodName := ⟨RX0, "isAhead", "(III)Z"⟩
def dkwX0_isAhead_1 : List UInt8 := [4, 167, 0, 4, 3, 172]
abbrev dktX0_isAhead_1 : List UInt8 := dkwX0_isAhead_1 ++ []
def dkwX0_isAhead_0 : List UInt8 := [27, 28, 29, 184, 0, 192, 153, 0, 22, 42, 180, 0, 69, 180, 0, 171, 27, 96, 17, 3, 231, 163, 0, 7]
abbrev dktX0_isAhead_0 : List UInt8 := dkwX0_isAhead_0 ++ dktX0_isAhead_1
theorem dksX0_isAhead_0 : cX0_isAhead.data.toList.drop 0 = dktX0_isAhead_0 := by decide +kernel
theorem dksX0_isAhead_1 : cX0_isAhead.data.toList.drop 24 = dktX0_isAhead_1 := dk_seg dksX0_isAhead_0 24 rfl rfl
theorem dX0_isAhead_0 : decode cX0_isAhead 0 = .ok (.iload_n 1, 1) := dk_27 (dk_at dksX0_isAhead_0 0 rfl rfl)
theorem dX0_isAhead_1 : decode cX0_isAhead 1 = .ok (.iload_n 2, 1) := dk_28 (dk_at dksX0_isAhead_0 1 rfl rfl)
theorem dX0_isAhead_2 : decode cX0_isAhead 2 = .ok (.iload_n 3, 1) := dk_29 (dk_at dksX0_isAhead_0 2 rfl rfl)
theorem dX0_isAhead_3 : decode cX0_isAhead 3 = .ok (.invokestatic 192, 3) := dk_184 0 192 (dk_at dksX0_isAhead_0 3 rfl rfl)
theorem dX0_isAhead_6 : decode cX0_isAhead 6 = .ok (.ifCond .eq 22, 3) := dk_153 0 22 (dk_at dksX0_isAhead_0 6 rfl rfl)
theorem dX0_isAhead_9 : decode cX0_isAhead 9 = .ok (.aload_n 0, 1) := dk_42 (dk_at dksX0_isAhead_0 9 rfl rfl)
theorem dX0_isAhead_10 : decode cX0_isAhead 10 = .ok (.getfield 69, 3) := dk_180 0 69 (dk_at dksX0_isAhead_0 10 rfl rfl)
theorem dX0_isAhead_13 : decode cX0_isAhead 13 = .ok (.getfield 171, 3) := dk_180 0 171 (dk_at dksX0_isAhead_0 13 rfl rfl)
theorem dX0_isAhead_16 : decode cX0_isAhead 16 = .ok (.iload_n 1, 1) := dk_27 (dk_at dksX0_isAhead_0 16 rfl rfl)
theorem dX0_isAhead_17 : decode cX0_isAhead 17 = .ok (.iadd, 1) := dk_96 (dk_at dksX0_isAhead_0 17 rfl rfl)
theorem dX0_isAhead_18 : decode cX0_isAhead 18 = .ok (.sipush 999, 3) := dk_17 3 231 (dk_at dksX0_isAhead_0 18 rfl rfl)
theorem dX0_isAhead_21 : decode cX0_isAhead 21 = .ok (.if_icmp .gt 7, 3) := dk_163 0 7 (dk_at dksX0_isAhead_0 21 rfl rfl)
theorem dX0_isAhead_24 : decode cX0_isAhead 24 = .ok (.iconst 1, 1) := dk_4 (dk_at dksX0_isAhead_1 0 rfl rfl)
theorem dX0_isAhead_25 : decode cX0_isAhead 25 = .ok (.goto 4, 3) := dk_167 0 4 (dk_at dksX0_isAhead_1 1 rfl rfl)
theorem dX0_isAhead_28 : decode cX0_isAhead 28 = .ok (.iconst 0, 1) := dk_3 (dk_at dksX0_isAhead_1 4 rfl rfl)
theorem dX0_isAhead_29 : decode cX0_isAhead 29 = .ok (.ireturn, 1) := dk_172 (dk_at dksX0_isAhead_1 5 rfl rfl)
abbrev cX0_doctor : ByteArray := prog_1_method_32_code
def yX0_doctor : MethodName := ⟨RX0, "doctor", "(I)I"⟩
def dkwX0_doctor_2 : List UInt8 := [153, 0, 5, 28, 172, 42, 180, 0, 73, 4, 182, 0, 255, 87, 132, 2, 1, 167, 255, 217, 2, 172]
abbrev dktX0_doctor_2 : List UInt8 := dkwX0_doctor_2 ++ []
def dkwX0_doctor_1 : List UInt8 := [42, 28, 3, 16, 40, 182, 0, 248, 153, 0, 34, 42, 180, 0, 73, 180, 0, 182, 27, 184, 0, 234]
abbrev dktX0_doctor_1 : List UInt8 := dkwX0_doctor_1 ++ dktX0_doctor_2
def dkwX0_doctor_0 : List UInt8 := [42, 27, 182, 0, 213, 154, 0, 5, 2, 172, 42, 180, 0, 73, 42, 180, 0, 69, 182, 0, 251, 87, 3, 61]
abbrev dktX0_doctor_0 : List UInt8 := dkwX0_doctor_0 ++ dktX0_doctor_1
theorem dksX0_doctor_0 : cX0_doctor.data.toList.drop 0 = dktX0_doctor_0 := by decide +kernel
theorem dksX0_doctor_1 : cX0_doctor.data.toList.drop 24 = dktX0_doctor_1 := dk_seg dksX0_doctor_0 24 rfl rfl
theorem dksX0_doctor_2 : cX0_doctor.data.toList.drop 46 = dktX0_doctor_2 := dk_seg dksX0_doctor_1 22 rfl rfl
theorem dX0_doctor_0 : decode cX0_doctor 0 = .ok (.aload_n 0, 1) := dk_42 (dk_at dksX0_doctor_0 0 rfl rfl)
theorem dX0_doctor_1 : decode cX0_doctor 1 = .ok (.iload_n 1, 1) := dk_27 (dk_at dksX0_doctor_0 1 rfl rfl)
theorem dX0_doctor_2 : decode cX0_doctor 2 = .ok (.invokevirtual 213, 3) := dk_182 0 213 (dk_at dksX0_doctor_0 2 rfl rfl)
theorem dX0_doctor_5 : decode cX0_doctor 5 = .ok (.ifCond .ne 5, 3) := dk_154 0 5 (dk_at dksX0_doctor_0 5 rfl rfl)
theorem dX0_doctor_8 : decode cX0_doctor 8 = .ok (.iconst (-1), 1) := dk_2 (dk_at dksX0_doctor_0 8 rfl rfl)
theorem dX0_doctor_9 : decode cX0_doctor 9 = .ok (.ireturn, 1) := dk_172 (dk_at dksX0_doctor_0 9 rfl rfl)
theorem dX0_doctor_10 : decode cX0_doctor 10 = .ok (.aload_n 0, 1) := dk_42 (dk_at dksX0_doctor_0 10 rfl rfl)
theorem dX0_doctor_11 : decode cX0_doctor 11 = .ok (.getfield 73, 3) := dk_180 0 73 (dk_at dksX0_doctor_0 11 rfl rfl)
theorem dX0_doctor_14 : decode cX0_doctor 14 = .ok (.aload_n 0, 1) := dk_42 (dk_at dksX0_doctor_0 14 rfl rfl)
theorem dX0_doctor_15 : decode cX0_doctor 15 = .ok (.getfield 69, 3) := dk_180 0 69 (dk_at dksX0_doctor_0 15 rfl rfl)
theorem dX0_doctor_18 : decode cX0_doctor 18 = .ok (.invokevirtual 251, 3) := dk_182 0 251 (dk_at dksX0_doctor_0 18 rfl rfl)
theorem dX0_doctor_21 : decode cX0_doctor 21 = .ok (.pop, 1) := dk_87 (dk_at dksX0_doctor_0 21 rfl rfl)
theorem dX0_doctor_22 : decode cX0_doctor 22 = .ok (.iconst 0, 1) := dk_3 (dk_at dksX0_doctor_0 22 rfl rfl)
theorem dX0_doctor_23 : decode cX0_doctor 23 = .ok (.istore_n 2, 1) := dk_61 (dk_at dksX0_doctor_0 23 rfl rfl)
theorem dX0_doctor_24 : decode cX0_doctor 24 = .ok (.aload_n 0, 1) := dk_42 (dk_at dksX0_doctor_1 0 rfl rfl)
theorem dX0_doctor_25 : decode cX0_doctor 25 = .ok (.iload_n 2, 1) := dk_28 (dk_at dksX0_doctor_1 1 rfl rfl)
theorem dX0_doctor_26 : decode cX0_doctor 26 = .ok (.iconst 0, 1) := dk_3 (dk_at dksX0_doctor_1 2 rfl rfl)
theorem dX0_doctor_27 : decode cX0_doctor 27 = .ok (.bipush 40, 2) := dk_16 40 (dk_at dksX0_doctor_1 3 rfl rfl)
theorem dX0_doctor_29 : decode cX0_doctor 29 = .ok (.invokevirtual 248, 3) := dk_182 0 248 (dk_at dksX0_doctor_1 5 rfl rfl)
theorem dX0_doctor_32 : decode cX0_doctor 32 = .ok (.ifCond .eq 34, 3) := dk_153 0 34 (dk_at dksX0_doctor_1 8 rfl rfl)
theorem dX0_doctor_35 : decode cX0_doctor 35 = .ok (.aload_n 0, 1) := dk_42 (dk_at dksX0_doctor_1 11 rfl rfl)
theorem dX0_doctor_36 : decode cX0_doctor 36 = .ok (.getfield 73, 3) := dk_180 0 73 (dk_at dksX0_doctor_1 12 rfl rfl)
theorem dX0_doctor_39 : decode cX0_doctor 39 = .ok (.getfield 182, 3) := dk_180 0 182 (dk_at dksX0_doctor_1 15 rfl rfl)
theorem dX0_doctor_42 : decode cX0_doctor 42 = .ok (.iload_n 1, 1) := dk_27 (dk_at dksX0_doctor_1 18 rfl rfl)
theorem dX0_doctor_43 : decode cX0_doctor 43 = .ok (.invokestatic 234, 3) := dk_184 0 234 (dk_at dksX0_doctor_1 19 rfl rfl)
theorem dX0_doctor_46 : decode cX0_doctor 46 = .ok (.ifCond .eq 5, 3) := dk_153 0 5 (dk_at dksX0_doctor_2 0 rfl rfl)
theorem dX0_doctor_49 : decode cX0_doctor 49 = .ok (.iload_n 2, 1) := dk_28 (dk_at dksX0_doctor_2 3 rfl rfl)
theorem dX0_doctor_50 : decode cX0_doctor 50 = .ok (.ireturn, 1) := dk_172 (dk_at dksX0_doctor_2 4 rfl rfl)
theorem dX0_doctor_51 : decode cX0_doctor 51 = .ok (.aload_n 0, 1) := dk_42 (dk_at dksX0_doctor_2 5 rfl rfl)
theorem dX0_doctor_52 : decode cX0_doctor 52 = .ok (.getfield 73, 3) := dk_180 0 73 (dk_at dksX0_doctor_2 6 rfl rfl)
theorem dX0_doctor_55 : decode cX0_doctor 55 = .ok (.iconst 1, 1) := dk_4 (dk_at dksX0_doctor_2 9 rfl rfl)
theorem dX0_doctor_56 : decode cX0_doctor 56 = .ok (.invokevirtual 255, 3) := dk_182 0 255 (dk_at dksX0_doctor_2 10 rfl rfl)
theorem dX0_doctor_59 : decode cX0_doctor 59 = .ok (.pop, 1) := dk_87 (dk_at dksX0_doctor_2 13 rfl rfl)
theorem dX0_doctor_60 : decode cX0_doctor 60 = .ok (.iinc 2 1, 3) := dk_132 2 1 (dk_at dksX0_doctor_2 14 rfl rfl)
theorem dX0_doctor_63 : decode cX0_doctor 63 = .ok (.goto (-39), 3) := dk_167 255 217 (dk_at dksX0_doctor_2 17 rfl rfl)
theorem dX0_doctor_66 : decode cX0_doctor 66 = .ok (.iconst (-1), 1) := dk_2 (dk_at dksX0_doctor_2 20 rfl rfl)
theorem dX0_doctor_67 : decode cX0_doctor 67 = .ok (.ireturn, 1) := dk_172 (dk_at dksX0_doctor_2 21 rfl rfl)
abbrev cX0_lost : ByteArray := prog_1_method_33_code
def yX0_lost : MethodName := ⟨RX0, "lost", "(I)I"⟩
def dkwX0_lost_4 : List UInt8 := [28, 172, 42, 180, 0, 73, 4, 182, 0, 255, 87, 132, 2, 1, 167, 255, 181, 2, 172]
abbrev dktX0_lost_4 : List UInt8 := dkwX0_lost_4 ++ []
def dkwX0_lost_3 : List UInt8 := [160, 0, 7, 4, 167, 0, 4, 3, 96, 62, 132, 4, 1, 167, 255, 222, 29, 42, 182, 0, 154, 160, 0, 5]
abbrev dktX0_lost_3 : List UInt8 := dkwX0_lost_3 ++ dktX0_lost_4
def dkwX0_lost_2 : List UInt8 := [54, 4, 21, 4, 42, 182, 0, 154, 162, 0, 31, 29, 42, 180, 0, 73, 21, 4, 27, 182, 0, 199, 5]
abbrev dktX0_lost_2 : List UInt8 := dkwX0_lost_2 ++ dktX0_lost_3
def dkwX0_lost_1 : List UInt8 := [180, 0, 69, 182, 0, 251, 87, 3, 61, 42, 28, 3, 16, 40, 182, 0, 248, 153, 0, 70, 3, 62, 3]
abbrev dktX0_lost_1 : List UInt8 := dkwX0_lost_1 ++ dktX0_lost_2
def dkwX0_lost_0 : List UInt8 := [42, 27, 182, 0, 203, 153, 0, 10, 42, 182, 0, 154, 154, 0, 5, 2, 172, 42, 180, 0, 73, 42]
abbrev dktX0_lost_0 : List UInt8 := dkwX0_lost_0 ++ dktX0_lost_1
theorem dksX0_lost_0 : cX0_lost.data.toList.drop 0 = dktX0_lost_0 := by decide +kernel
theorem dksX0_lost_1 : cX0_lost.data.toList.drop 22 = dktX0_lost_1 := dk_seg dksX0_lost_0 22 rfl rfl
theorem dksX0_lost_2 : cX0_lost.data.toList.drop 45 = dktX0_lost_2 := dk_seg dksX0_lost_1 23 rfl rfl
theorem dksX0_lost_3 : cX0_lost.data.toList.drop 68 = dktX0_lost_3 := dk_seg dksX0_lost_2 23 rfl rfl
theorem dksX0_lost_4 : cX0_lost.data.toList.drop 92 = dktX0_lost_4 := dk_seg dksX0_lost_3 24 rfl rfl
theorem dX0_lost_0 : decode cX0_lost 0 = .ok (.aload_n 0, 1) := dk_42 (dk_at dksX0_lost_0 0 rfl rfl)
theorem dX0_lost_1 : decode cX0_lost 1 = .ok (.iload_n 1, 1) := dk_27 (dk_at dksX0_lost_0 1 rfl rfl)
theorem dX0_lost_2 : decode cX0_lost 2 = .ok (.invokevirtual 203, 3) := dk_182 0 203 (dk_at dksX0_lost_0 2 rfl rfl)
theorem dX0_lost_5 : decode cX0_lost 5 = .ok (.ifCond .eq 10, 3) := dk_153 0 10 (dk_at dksX0_lost_0 5 rfl rfl)
theorem dX0_lost_8 : decode cX0_lost 8 = .ok (.aload_n 0, 1) := dk_42 (dk_at dksX0_lost_0 8 rfl rfl)
theorem dX0_lost_9 : decode cX0_lost 9 = .ok (.invokevirtual 154, 3) := dk_182 0 154 (dk_at dksX0_lost_0 9 rfl rfl)
theorem dX0_lost_12 : decode cX0_lost 12 = .ok (.ifCond .ne 5, 3) := dk_154 0 5 (dk_at dksX0_lost_0 12 rfl rfl)
theorem dX0_lost_15 : decode cX0_lost 15 = .ok (.iconst (-1), 1) := dk_2 (dk_at dksX0_lost_0 15 rfl rfl)
theorem dX0_lost_16 : decode cX0_lost 16 = .ok (.ireturn, 1) := dk_172 (dk_at dksX0_lost_0 16 rfl rfl)
theorem dX0_lost_17 : decode cX0_lost 17 = .ok (.aload_n 0, 1) := dk_42 (dk_at dksX0_lost_0 17 rfl rfl)
theorem dX0_lost_18 : decode cX0_lost 18 = .ok (.getfield 73, 3) := dk_180 0 73 (dk_at dksX0_lost_0 18 rfl rfl)
theorem dX0_lost_21 : decode cX0_lost 21 = .ok (.aload_n 0, 1) := dk_42 (dk_at dksX0_lost_0 21 rfl rfl)
theorem dX0_lost_22 : decode cX0_lost 22 = .ok (.getfield 69, 3) := dk_180 0 69 (dk_at dksX0_lost_1 0 rfl rfl)
theorem dX0_lost_25 : decode cX0_lost 25 = .ok (.invokevirtual 251, 3) := dk_182 0 251 (dk_at dksX0_lost_1 3 rfl rfl)
theorem dX0_lost_28 : decode cX0_lost 28 = .ok (.pop, 1) := dk_87 (dk_at dksX0_lost_1 6 rfl rfl)
theorem dX0_lost_29 : decode cX0_lost 29 = .ok (.iconst 0, 1) := dk_3 (dk_at dksX0_lost_1 7 rfl rfl)
theorem dX0_lost_30 : decode cX0_lost 30 = .ok (.istore_n 2, 1) := dk_61 (dk_at dksX0_lost_1 8 rfl rfl)
theorem dX0_lost_31 : decode cX0_lost 31 = .ok (.aload_n 0, 1) := dk_42 (dk_at dksX0_lost_1 9 rfl rfl)
theorem dX0_lost_32 : decode cX0_lost 32 = .ok (.iload_n 2, 1) := dk_28 (dk_at dksX0_lost_1 10 rfl rfl)
theorem dX0_lost_33 : decode cX0_lost 33 = .ok (.iconst 0, 1) := dk_3 (dk_at dksX0_lost_1 11 rfl rfl)
theorem dX0_lost_34 : decode cX0_lost 34 = .ok (.bipush 40, 2) := dk_16 40 (dk_at dksX0_lost_1 12 rfl rfl)
theorem dX0_lost_36 : decode cX0_lost 36 = .ok (.invokevirtual 248, 3) := dk_182 0 248 (dk_at dksX0_lost_1 14 rfl rfl)
theorem dX0_lost_39 : decode cX0_lost 39 = .ok (.ifCond .eq 70, 3) := dk_153 0 70 (dk_at dksX0_lost_1 17 rfl rfl)
theorem dX0_lost_42 : decode cX0_lost 42 = .ok (.iconst 0, 1) := dk_3 (dk_at dksX0_lost_1 20 rfl rfl)
theorem dX0_lost_43 : decode cX0_lost 43 = .ok (.istore_n 3, 1) := dk_62 (dk_at dksX0_lost_1 21 rfl rfl)
theorem dX0_lost_44 : decode cX0_lost 44 = .ok (.iconst 0, 1) := dk_3 (dk_at dksX0_lost_1 22 rfl rfl)
theorem dX0_lost_45 : decode cX0_lost 45 = .ok (.istore 4, 2) := dk_54 4 (dk_at dksX0_lost_2 0 rfl rfl)
theorem dX0_lost_47 : decode cX0_lost 47 = .ok (.iload 4, 2) := dk_21 4 (dk_at dksX0_lost_2 2 rfl rfl)
theorem dX0_lost_49 : decode cX0_lost 49 = .ok (.aload_n 0, 1) := dk_42 (dk_at dksX0_lost_2 4 rfl rfl)
theorem dX0_lost_50 : decode cX0_lost 50 = .ok (.invokevirtual 154, 3) := dk_182 0 154 (dk_at dksX0_lost_2 5 rfl rfl)
theorem dX0_lost_53 : decode cX0_lost 53 = .ok (.if_icmp .ge 31, 3) := dk_162 0 31 (dk_at dksX0_lost_2 8 rfl rfl)
theorem dX0_lost_56 : decode cX0_lost 56 = .ok (.iload_n 3, 1) := dk_29 (dk_at dksX0_lost_2 11 rfl rfl)
theorem dX0_lost_57 : decode cX0_lost 57 = .ok (.aload_n 0, 1) := dk_42 (dk_at dksX0_lost_2 12 rfl rfl)
theorem dX0_lost_58 : decode cX0_lost 58 = .ok (.getfield 73, 3) := dk_180 0 73 (dk_at dksX0_lost_2 13 rfl rfl)
theorem dX0_lost_61 : decode cX0_lost 61 = .ok (.iload 4, 2) := dk_21 4 (dk_at dksX0_lost_2 16 rfl rfl)
theorem dX0_lost_63 : decode cX0_lost 63 = .ok (.iload_n 1, 1) := dk_27 (dk_at dksX0_lost_2 18 rfl rfl)
theorem dX0_lost_64 : decode cX0_lost 64 = .ok (.invokevirtual 199, 3) := dk_182 0 199 (dk_at dksX0_lost_2 19 rfl rfl)
theorem dX0_lost_67 : decode cX0_lost 67 = .ok (.iconst 2, 1) := dk_5 (dk_at dksX0_lost_2 22 rfl rfl)
theorem dX0_lost_68 : decode cX0_lost 68 = .ok (.if_icmp .ne 7, 3) := dk_160 0 7 (dk_at dksX0_lost_3 0 rfl rfl)
theorem dX0_lost_71 : decode cX0_lost 71 = .ok (.iconst 1, 1) := dk_4 (dk_at dksX0_lost_3 3 rfl rfl)
theorem dX0_lost_72 : decode cX0_lost 72 = .ok (.goto 4, 3) := dk_167 0 4 (dk_at dksX0_lost_3 4 rfl rfl)
theorem dX0_lost_75 : decode cX0_lost 75 = .ok (.iconst 0, 1) := dk_3 (dk_at dksX0_lost_3 7 rfl rfl)
theorem dX0_lost_76 : decode cX0_lost 76 = .ok (.iadd, 1) := dk_96 (dk_at dksX0_lost_3 8 rfl rfl)
theorem dX0_lost_77 : decode cX0_lost 77 = .ok (.istore_n 3, 1) := dk_62 (dk_at dksX0_lost_3 9 rfl rfl)
theorem dX0_lost_78 : decode cX0_lost 78 = .ok (.iinc 4 1, 3) := dk_132 4 1 (dk_at dksX0_lost_3 10 rfl rfl)
theorem dX0_lost_81 : decode cX0_lost 81 = .ok (.goto (-34), 3) := dk_167 255 222 (dk_at dksX0_lost_3 13 rfl rfl)
theorem dX0_lost_84 : decode cX0_lost 84 = .ok (.iload_n 3, 1) := dk_29 (dk_at dksX0_lost_3 16 rfl rfl)
theorem dX0_lost_85 : decode cX0_lost 85 = .ok (.aload_n 0, 1) := dk_42 (dk_at dksX0_lost_3 17 rfl rfl)
theorem dX0_lost_86 : decode cX0_lost 86 = .ok (.invokevirtual 154, 3) := dk_182 0 154 (dk_at dksX0_lost_3 18 rfl rfl)
theorem dX0_lost_89 : decode cX0_lost 89 = .ok (.if_icmp .ne 5, 3) := dk_160 0 5 (dk_at dksX0_lost_3 21 rfl rfl)
theorem dX0_lost_92 : decode cX0_lost 92 = .ok (.iload_n 2, 1) := dk_28 (dk_at dksX0_lost_4 0 rfl rfl)
theorem dX0_lost_93 : decode cX0_lost 93 = .ok (.ireturn, 1) := dk_172 (dk_at dksX0_lost_4 1 rfl rfl)
theorem dX0_lost_94 : decode cX0_lost 94 = .ok (.aload_n 0, 1) := dk_42 (dk_at dksX0_lost_4 2 rfl rfl)
theorem dX0_lost_95 : decode cX0_lost 95 = .ok (.getfield 73, 3) := dk_180 0 73 (dk_at dksX0_lost_4 3 rfl rfl)
theorem dX0_lost_98 : decode cX0_lost 98 = .ok (.iconst 1, 1) := dk_4 (dk_at dksX0_lost_4 6 rfl rfl)
theorem dX0_lost_99 : decode cX0_lost 99 = .ok (.invokevirtual 255, 3) := dk_182 0 255 (dk_at dksX0_lost_4 7 rfl rfl)
theorem dX0_lost_102 : decode cX0_lost 102 = .ok (.pop, 1) := dk_87 (dk_at dksX0_lost_4 10 rfl rfl)
theorem dX0_lost_103 : decode cX0_lost 103 = .ok (.iinc 2 1, 3) := dk_132 2 1 (dk_at dksX0_lost_4 11 rfl rfl)
theorem dX0_lost_106 : decode cX0_lost 106 = .ok (.goto (-75), 3) := dk_167 255 181 (dk_at dksX0_lost_4 14 rfl rfl)
theorem dX0_lost_109 : decode cX0_lost 109 = .ok (.iconst (-1), 1) := dk_2 (dk_at dksX0_lost_4 17 rfl rfl)
theorem dX0_lost_110 : decode cX0_lost 110 = .ok (.ireturn, 1) := dk_172 (dk_at dksX0_lost_4 18 rfl rfl)
abbrev cX0_master : ByteArray := prog_1_method_34_code
def yX0_master : MethodName := ⟨RX0, "master", "(II)I"⟩
def dkwX0_master_6 : List UInt8 := [154, 0, 7, 29, 167, 0, 5, 21, 4, 172]
abbrev dktX0_master_6 : List UInt8 := dkwX0_master_6 ++ []
def dkwX0_master_5 : List UInt8 := [4, 182, 0, 255, 87, 132, 6, 1, 167, 255, 204, 132, 5, 1, 167, 255, 152, 29, 2, 159, 0, 7, 28]
abbrev dktX0_master_5 : List UInt8 := dkwX0_master_5 ++ dktX0_master_6
def dkwX0_master_4 : List UInt8 := [180, 0, 73, 180, 0, 174, 27, 184, 0, 234, 153, 0, 10, 21, 6, 54, 4, 21, 5, 62, 42, 180, 0, 73]
abbrev dktX0_master_4 : List UInt8 := dkwX0_master_4 ++ dktX0_master_5
def dkwX0_master_3 : List UInt8 := [3, 54, 6, 42, 21, 6, 3, 16, 40, 182, 0, 248, 153, 0, 46, 21, 6, 21, 4, 162, 0, 39, 42]
abbrev dktX0_master_3 : List UInt8 := dkwX0_master_3 ++ dktX0_master_4
def dkwX0_master_2 : List UInt8 := [153, 0, 6, 167, 0, 79, 42, 180, 0, 73, 42, 180, 0, 69, 182, 0, 251, 180, 0, 219, 27, 21, 5, 79]
abbrev dktX0_master_2 : List UInt8 := dkwX0_master_2 ++ dktX0_master_3
def dkwX0_master_1 : List UInt8 := [54, 4, 3, 54, 5, 21, 5, 42, 182, 0, 154, 162, 0, 101, 42, 180, 0, 69, 21, 5, 27, 182, 1, 4]
abbrev dktX0_master_1 : List UInt8 := dkwX0_master_1 ++ dktX0_master_2
def dkwX0_master_0 : List UInt8 := [42, 27, 182, 0, 213, 153, 0, 12, 28, 3, 4, 184, 0, 192, 154, 0, 5, 2, 172, 2, 62, 19, 1, 3]
abbrev dktX0_master_0 : List UInt8 := dkwX0_master_0 ++ dktX0_master_1
theorem dksX0_master_0 : cX0_master.data.toList.drop 0 = dktX0_master_0 := by decide +kernel
theorem dksX0_master_1 : cX0_master.data.toList.drop 24 = dktX0_master_1 := dk_seg dksX0_master_0 24 rfl rfl
theorem dksX0_master_2 : cX0_master.data.toList.drop 48 = dktX0_master_2 := dk_seg dksX0_master_1 24 rfl rfl
theorem dksX0_master_3 : cX0_master.data.toList.drop 72 = dktX0_master_3 := dk_seg dksX0_master_2 24 rfl rfl
theorem dksX0_master_4 : cX0_master.data.toList.drop 95 = dktX0_master_4 := dk_seg dksX0_master_3 23 rfl rfl
theorem dksX0_master_5 : cX0_master.data.toList.drop 119 = dktX0_master_5 := dk_seg dksX0_master_4 24 rfl rfl
theorem dksX0_master_6 : cX0_master.data.toList.drop 142 = dktX0_master_6 := dk_seg dksX0_master_5 23 rfl rfl
theorem dX0_master_0 : decode cX0_master 0 = .ok (.aload_n 0, 1) := dk_42 (dk_at dksX0_master_0 0 rfl rfl)
theorem dX0_master_1 : decode cX0_master 1 = .ok (.iload_n 1, 1) := dk_27 (dk_at dksX0_master_0 1 rfl rfl)
theorem dX0_master_2 : decode cX0_master 2 = .ok (.invokevirtual 213, 3) := dk_182 0 213 (dk_at dksX0_master_0 2 rfl rfl)
theorem dX0_master_5 : decode cX0_master 5 = .ok (.ifCond .eq 12, 3) := dk_153 0 12 (dk_at dksX0_master_0 5 rfl rfl)
theorem dX0_master_8 : decode cX0_master 8 = .ok (.iload_n 2, 1) := dk_28 (dk_at dksX0_master_0 8 rfl rfl)
theorem dX0_master_9 : decode cX0_master 9 = .ok (.iconst 0, 1) := dk_3 (dk_at dksX0_master_0 9 rfl rfl)
theorem dX0_master_10 : decode cX0_master 10 = .ok (.iconst 1, 1) := dk_4 (dk_at dksX0_master_0 10 rfl rfl)
theorem dX0_master_11 : decode cX0_master 11 = .ok (.invokestatic 192, 3) := dk_184 0 192 (dk_at dksX0_master_0 11 rfl rfl)
theorem dX0_master_14 : decode cX0_master 14 = .ok (.ifCond .ne 5, 3) := dk_154 0 5 (dk_at dksX0_master_0 14 rfl rfl)
theorem dX0_master_17 : decode cX0_master 17 = .ok (.iconst (-1), 1) := dk_2 (dk_at dksX0_master_0 17 rfl rfl)
theorem dX0_master_18 : decode cX0_master 18 = .ok (.ireturn, 1) := dk_172 (dk_at dksX0_master_0 18 rfl rfl)
theorem dX0_master_19 : decode cX0_master 19 = .ok (.iconst (-1), 1) := dk_2 (dk_at dksX0_master_0 19 rfl rfl)
theorem dX0_master_20 : decode cX0_master 20 = .ok (.istore_n 3, 1) := dk_62 (dk_at dksX0_master_0 20 rfl rfl)
theorem dX0_master_21 : decode cX0_master 21 = .ok (.ldc_w 259, 3) := dk_19 1 3 (dk_at dksX0_master_0 21 rfl rfl)
theorem dX0_master_24 : decode cX0_master 24 = .ok (.istore 4, 2) := dk_54 4 (dk_at dksX0_master_1 0 rfl rfl)
theorem dX0_master_26 : decode cX0_master 26 = .ok (.iconst 0, 1) := dk_3 (dk_at dksX0_master_1 2 rfl rfl)
theorem dX0_master_27 : decode cX0_master 27 = .ok (.istore 5, 2) := dk_54 5 (dk_at dksX0_master_1 3 rfl rfl)
theorem dX0_master_29 : decode cX0_master 29 = .ok (.iload 5, 2) := dk_21 5 (dk_at dksX0_master_1 5 rfl rfl)
theorem dX0_master_31 : decode cX0_master 31 = .ok (.aload_n 0, 1) := dk_42 (dk_at dksX0_master_1 7 rfl rfl)
theorem dX0_master_32 : decode cX0_master 32 = .ok (.invokevirtual 154, 3) := dk_182 0 154 (dk_at dksX0_master_1 8 rfl rfl)
theorem dX0_master_35 : decode cX0_master 35 = .ok (.if_icmp .ge 101, 3) := dk_162 0 101 (dk_at dksX0_master_1 11 rfl rfl)
theorem dX0_master_38 : decode cX0_master 38 = .ok (.aload_n 0, 1) := dk_42 (dk_at dksX0_master_1 14 rfl rfl)
theorem dX0_master_39 : decode cX0_master 39 = .ok (.getfield 69, 3) := dk_180 0 69 (dk_at dksX0_master_1 15 rfl rfl)
theorem dX0_master_42 : decode cX0_master 42 = .ok (.iload 5, 2) := dk_21 5 (dk_at dksX0_master_1 18 rfl rfl)
theorem dX0_master_44 : decode cX0_master 44 = .ok (.iload_n 1, 1) := dk_27 (dk_at dksX0_master_1 20 rfl rfl)
theorem dX0_master_45 : decode cX0_master 45 = .ok (.invokevirtual 260, 3) := dk_182 1 4 (dk_at dksX0_master_1 21 rfl rfl)
theorem dX0_master_48 : decode cX0_master 48 = .ok (.ifCond .eq 6, 3) := dk_153 0 6 (dk_at dksX0_master_2 0 rfl rfl)
theorem dX0_master_51 : decode cX0_master 51 = .ok (.goto 79, 3) := dk_167 0 79 (dk_at dksX0_master_2 3 rfl rfl)
theorem dX0_master_54 : decode cX0_master 54 = .ok (.aload_n 0, 1) := dk_42 (dk_at dksX0_master_2 6 rfl rfl)
theorem dX0_master_55 : decode cX0_master 55 = .ok (.getfield 73, 3) := dk_180 0 73 (dk_at dksX0_master_2 7 rfl rfl)
theorem dX0_master_58 : decode cX0_master 58 = .ok (.aload_n 0, 1) := dk_42 (dk_at dksX0_master_2 10 rfl rfl)
theorem dX0_master_59 : decode cX0_master 59 = .ok (.getfield 69, 3) := dk_180 0 69 (dk_at dksX0_master_2 11 rfl rfl)
theorem dX0_master_62 : decode cX0_master 62 = .ok (.invokevirtual 251, 3) := dk_182 0 251 (dk_at dksX0_master_2 14 rfl rfl)
theorem dX0_master_65 : decode cX0_master 65 = .ok (.getfield 219, 3) := dk_180 0 219 (dk_at dksX0_master_2 17 rfl rfl)
theorem dX0_master_68 : decode cX0_master 68 = .ok (.iload_n 1, 1) := dk_27 (dk_at dksX0_master_2 20 rfl rfl)
theorem dX0_master_69 : decode cX0_master 69 = .ok (.iload 5, 2) := dk_21 5 (dk_at dksX0_master_2 21 rfl rfl)
theorem dX0_master_71 : decode cX0_master 71 = .ok (.iastore, 1) := dk_79 (dk_at dksX0_master_2 23 rfl rfl)
theorem dX0_master_72 : decode cX0_master 72 = .ok (.iconst 0, 1) := dk_3 (dk_at dksX0_master_3 0 rfl rfl)
theorem dX0_master_73 : decode cX0_master 73 = .ok (.istore 6, 2) := dk_54 6 (dk_at dksX0_master_3 1 rfl rfl)
theorem dX0_master_75 : decode cX0_master 75 = .ok (.aload_n 0, 1) := dk_42 (dk_at dksX0_master_3 3 rfl rfl)
theorem dX0_master_76 : decode cX0_master 76 = .ok (.iload 6, 2) := dk_21 6 (dk_at dksX0_master_3 4 rfl rfl)
theorem dX0_master_78 : decode cX0_master 78 = .ok (.iconst 0, 1) := dk_3 (dk_at dksX0_master_3 6 rfl rfl)
theorem dX0_master_79 : decode cX0_master 79 = .ok (.bipush 40, 2) := dk_16 40 (dk_at dksX0_master_3 7 rfl rfl)
theorem dX0_master_81 : decode cX0_master 81 = .ok (.invokevirtual 248, 3) := dk_182 0 248 (dk_at dksX0_master_3 9 rfl rfl)
theorem dX0_master_84 : decode cX0_master 84 = .ok (.ifCond .eq 46, 3) := dk_153 0 46 (dk_at dksX0_master_3 12 rfl rfl)
theorem dX0_master_87 : decode cX0_master 87 = .ok (.iload 6, 2) := dk_21 6 (dk_at dksX0_master_3 15 rfl rfl)
theorem dX0_master_89 : decode cX0_master 89 = .ok (.iload 4, 2) := dk_21 4 (dk_at dksX0_master_3 17 rfl rfl)
theorem dX0_master_91 : decode cX0_master 91 = .ok (.if_icmp .ge 39, 3) := dk_162 0 39 (dk_at dksX0_master_3 19 rfl rfl)
theorem dX0_master_94 : decode cX0_master 94 = .ok (.aload_n 0, 1) := dk_42 (dk_at dksX0_master_3 22 rfl rfl)
theorem dX0_master_95 : decode cX0_master 95 = .ok (.getfield 73, 3) := dk_180 0 73 (dk_at dksX0_master_4 0 rfl rfl)
theorem dX0_master_98 : decode cX0_master 98 = .ok (.getfield 174, 3) := dk_180 0 174 (dk_at dksX0_master_4 3 rfl rfl)
theorem dX0_master_101 : decode cX0_master 101 = .ok (.iload_n 1, 1) := dk_27 (dk_at dksX0_master_4 6 rfl rfl)
theorem dX0_master_102 : decode cX0_master 102 = .ok (.invokestatic 234, 3) := dk_184 0 234 (dk_at dksX0_master_4 7 rfl rfl)
theorem dX0_master_105 : decode cX0_master 105 = .ok (.ifCond .eq 10, 3) := dk_153 0 10 (dk_at dksX0_master_4 10 rfl rfl)
theorem dX0_master_108 : decode cX0_master 108 = .ok (.iload 6, 2) := dk_21 6 (dk_at dksX0_master_4 13 rfl rfl)
theorem dX0_master_110 : decode cX0_master 110 = .ok (.istore 4, 2) := dk_54 4 (dk_at dksX0_master_4 15 rfl rfl)
theorem dX0_master_112 : decode cX0_master 112 = .ok (.iload 5, 2) := dk_21 5 (dk_at dksX0_master_4 17 rfl rfl)
theorem dX0_master_114 : decode cX0_master 114 = .ok (.istore_n 3, 1) := dk_62 (dk_at dksX0_master_4 19 rfl rfl)
theorem dX0_master_115 : decode cX0_master 115 = .ok (.aload_n 0, 1) := dk_42 (dk_at dksX0_master_4 20 rfl rfl)
theorem dX0_master_116 : decode cX0_master 116 = .ok (.getfield 73, 3) := dk_180 0 73 (dk_at dksX0_master_4 21 rfl rfl)
theorem dX0_master_119 : decode cX0_master 119 = .ok (.iconst 1, 1) := dk_4 (dk_at dksX0_master_5 0 rfl rfl)
theorem dX0_master_120 : decode cX0_master 120 = .ok (.invokevirtual 255, 3) := dk_182 0 255 (dk_at dksX0_master_5 1 rfl rfl)
theorem dX0_master_123 : decode cX0_master 123 = .ok (.pop, 1) := dk_87 (dk_at dksX0_master_5 4 rfl rfl)
theorem dX0_master_124 : decode cX0_master 124 = .ok (.iinc 6 1, 3) := dk_132 6 1 (dk_at dksX0_master_5 5 rfl rfl)
theorem dX0_master_127 : decode cX0_master 127 = .ok (.goto (-52), 3) := dk_167 255 204 (dk_at dksX0_master_5 8 rfl rfl)
theorem dX0_master_130 : decode cX0_master 130 = .ok (.iinc 5 1, 3) := dk_132 5 1 (dk_at dksX0_master_5 11 rfl rfl)
theorem dX0_master_133 : decode cX0_master 133 = .ok (.goto (-104), 3) := dk_167 255 152 (dk_at dksX0_master_5 14 rfl rfl)
theorem dX0_master_136 : decode cX0_master 136 = .ok (.iload_n 3, 1) := dk_29 (dk_at dksX0_master_5 17 rfl rfl)
theorem dX0_master_137 : decode cX0_master 137 = .ok (.iconst (-1), 1) := dk_2 (dk_at dksX0_master_5 18 rfl rfl)
theorem dX0_master_138 : decode cX0_master 138 = .ok (.if_icmp .eq 7, 3) := dk_159 0 7 (dk_at dksX0_master_5 19 rfl rfl)
theorem dX0_master_141 : decode cX0_master 141 = .ok (.iload_n 2, 1) := dk_28 (dk_at dksX0_master_5 22 rfl rfl)
theorem dX0_master_142 : decode cX0_master 142 = .ok (.ifCond .ne 7, 3) := dk_154 0 7 (dk_at dksX0_master_6 0 rfl rfl)
theorem dX0_master_145 : decode cX0_master 145 = .ok (.iload_n 3, 1) := dk_29 (dk_at dksX0_master_6 3 rfl rfl)
theorem dX0_master_146 : decode cX0_master 146 = .ok (.goto 5, 3) := dk_167 0 5 (dk_at dksX0_master_6 4 rfl rfl)
theorem dX0_master_149 : decode cX0_master 149 = .ok (.iload 4, 2) := dk_21 4 (dk_at dksX0_master_6 7 rfl rfl)
theorem dX0_master_151 : decode cX0_master 151 = .ok (.ireturn, 1) := dk_172 (dk_at dksX0_master_6 9 rfl rfl)
abbrev cX0_gift : ByteArray := prog_1_method_35_code
def yX0_gift : MethodName := ⟨RX0, "gift", "(III)I"⟩
def dkwX0_gift_8 : List UInt8 := [21, 4, 167, 0, 5, 21, 5, 172]
abbrev dktX0_gift_8 : List UInt8 := dkwX0_gift_8 ++ []
def dkwX0_gift_7 : List UInt8 := [21, 6, 54, 4, 21, 7, 54, 5, 132, 7, 1, 167, 255, 155, 132, 6, 1, 167, 255, 137, 29, 154, 0, 8]
abbrev dktX0_gift_7 : List UInt8 := dkwX0_gift_7 ++ dktX0_gift_8
def dkwX0_gift_6 : List UInt8 := [182, 1, 7, 42, 180, 0, 73, 28, 182, 0, 255, 180, 0, 182, 27, 184, 0, 234, 154, 0, 6, 167, 0, 11]
abbrev dktX0_gift_6 : List UInt8 := dkwX0_gift_6 ++ dktX0_gift_7
def dkwX0_gift_5 : List UInt8 := [182, 0, 207, 161, 0, 6, 167, 0, 50, 42, 180, 0, 73, 42, 180, 0, 69, 182, 0, 251, 21, 6, 21, 7]
abbrev dktX0_gift_5 : List UInt8 := dkwX0_gift_5 ++ dktX0_gift_6
def dkwX0_gift_4 : List UInt8 := [46, 21, 7, 184, 0, 234, 154, 0, 74, 21, 4, 2, 159, 0, 21, 42, 21, 7, 182, 0, 207, 42, 21, 5]
abbrev dktX0_gift_4 : List UInt8 := dkwX0_gift_4 ++ dktX0_gift_5
def dkwX0_gift_3 : List UInt8 := [162, 0, 116, 3, 54, 7, 21, 7, 42, 182, 0, 152, 162, 0, 98, 42, 180, 0, 69, 180, 0, 225, 21, 6]
abbrev dktX0_gift_3 : List UInt8 := dkwX0_gift_3 ++ dktX0_gift_4
def dkwX0_gift_2 : List UInt8 := [27, 184, 0, 234, 153, 0, 5, 2, 172, 2, 54, 4, 2, 54, 5, 3, 54, 6, 21, 6, 42, 182, 0, 154]
abbrev dktX0_gift_2 : List UInt8 := dkwX0_gift_2 ++ dktX0_gift_3
def dkwX0_gift_1 : List UInt8 := [184, 0, 192, 153, 0, 28, 42, 180, 0, 73, 42, 180, 0, 69, 182, 0, 251, 28, 182, 0, 255, 180, 0, 182]
abbrev dktX0_gift_1 : List UInt8 := dkwX0_gift_1 ++ dktX0_gift_2
def dkwX0_gift_0 : List UInt8 := [42, 27, 182, 0, 213, 153, 0, 48, 42, 28, 3, 16, 20, 182, 0, 248, 153, 0, 37, 29, 3, 4]
abbrev dktX0_gift_0 : List UInt8 := dkwX0_gift_0 ++ dktX0_gift_1
theorem dksX0_gift_0 : cX0_gift.data.toList.drop 0 = dktX0_gift_0 := by decide +kernel
theorem dksX0_gift_1 : cX0_gift.data.toList.drop 22 = dktX0_gift_1 := dk_seg dksX0_gift_0 22 rfl rfl
theorem dksX0_gift_2 : cX0_gift.data.toList.drop 46 = dktX0_gift_2 := dk_seg dksX0_gift_1 24 rfl rfl
theorem dksX0_gift_3 : cX0_gift.data.toList.drop 70 = dktX0_gift_3 := dk_seg dksX0_gift_2 24 rfl rfl
theorem dksX0_gift_4 : cX0_gift.data.toList.drop 94 = dktX0_gift_4 := dk_seg dksX0_gift_3 24 rfl rfl
theorem dksX0_gift_5 : cX0_gift.data.toList.drop 118 = dktX0_gift_5 := dk_seg dksX0_gift_4 24 rfl rfl
theorem dksX0_gift_6 : cX0_gift.data.toList.drop 142 = dktX0_gift_6 := dk_seg dksX0_gift_5 24 rfl rfl
theorem dksX0_gift_7 : cX0_gift.data.toList.drop 166 = dktX0_gift_7 := dk_seg dksX0_gift_6 24 rfl rfl
theorem dksX0_gift_8 : cX0_gift.data.toList.drop 190 = dktX0_gift_8 := dk_seg dksX0_gift_7 24 rfl rfl
theorem dX0_gift_0 : decode cX0_gift 0 = .ok (.aload_n 0, 1) := dk_42 (dk_at dksX0_gift_0 0 rfl rfl)
theorem dX0_gift_1 : decode cX0_gift 1 = .ok (.iload_n 1, 1) := dk_27 (dk_at dksX0_gift_0 1 rfl rfl)
theorem dX0_gift_2 : decode cX0_gift 2 = .ok (.invokevirtual 213, 3) := dk_182 0 213 (dk_at dksX0_gift_0 2 rfl rfl)
theorem dX0_gift_5 : decode cX0_gift 5 = .ok (.ifCond .eq 48, 3) := dk_153 0 48 (dk_at dksX0_gift_0 5 rfl rfl)
theorem dX0_gift_8 : decode cX0_gift 8 = .ok (.aload_n 0, 1) := dk_42 (dk_at dksX0_gift_0 8 rfl rfl)
theorem dX0_gift_9 : decode cX0_gift 9 = .ok (.iload_n 2, 1) := dk_28 (dk_at dksX0_gift_0 9 rfl rfl)
theorem dX0_gift_10 : decode cX0_gift 10 = .ok (.iconst 0, 1) := dk_3 (dk_at dksX0_gift_0 10 rfl rfl)
theorem dX0_gift_11 : decode cX0_gift 11 = .ok (.bipush 20, 2) := dk_16 20 (dk_at dksX0_gift_0 11 rfl rfl)
theorem dX0_gift_13 : decode cX0_gift 13 = .ok (.invokevirtual 248, 3) := dk_182 0 248 (dk_at dksX0_gift_0 13 rfl rfl)
theorem dX0_gift_16 : decode cX0_gift 16 = .ok (.ifCond .eq 37, 3) := dk_153 0 37 (dk_at dksX0_gift_0 16 rfl rfl)
theorem dX0_gift_19 : decode cX0_gift 19 = .ok (.iload_n 3, 1) := dk_29 (dk_at dksX0_gift_0 19 rfl rfl)
theorem dX0_gift_20 : decode cX0_gift 20 = .ok (.iconst 0, 1) := dk_3 (dk_at dksX0_gift_0 20 rfl rfl)
theorem dX0_gift_21 : decode cX0_gift 21 = .ok (.iconst 1, 1) := dk_4 (dk_at dksX0_gift_0 21 rfl rfl)
theorem dX0_gift_22 : decode cX0_gift 22 = .ok (.invokestatic 192, 3) := dk_184 0 192 (dk_at dksX0_gift_1 0 rfl rfl)
theorem dX0_gift_25 : decode cX0_gift 25 = .ok (.ifCond .eq 28, 3) := dk_153 0 28 (dk_at dksX0_gift_1 3 rfl rfl)
theorem dX0_gift_28 : decode cX0_gift 28 = .ok (.aload_n 0, 1) := dk_42 (dk_at dksX0_gift_1 6 rfl rfl)
theorem dX0_gift_29 : decode cX0_gift 29 = .ok (.getfield 73, 3) := dk_180 0 73 (dk_at dksX0_gift_1 7 rfl rfl)
theorem dX0_gift_32 : decode cX0_gift 32 = .ok (.aload_n 0, 1) := dk_42 (dk_at dksX0_gift_1 10 rfl rfl)
theorem dX0_gift_33 : decode cX0_gift 33 = .ok (.getfield 69, 3) := dk_180 0 69 (dk_at dksX0_gift_1 11 rfl rfl)
theorem dX0_gift_36 : decode cX0_gift 36 = .ok (.invokevirtual 251, 3) := dk_182 0 251 (dk_at dksX0_gift_1 14 rfl rfl)
theorem dX0_gift_39 : decode cX0_gift 39 = .ok (.iload_n 2, 1) := dk_28 (dk_at dksX0_gift_1 17 rfl rfl)
theorem dX0_gift_40 : decode cX0_gift 40 = .ok (.invokevirtual 255, 3) := dk_182 0 255 (dk_at dksX0_gift_1 18 rfl rfl)
theorem dX0_gift_43 : decode cX0_gift 43 = .ok (.getfield 182, 3) := dk_180 0 182 (dk_at dksX0_gift_1 21 rfl rfl)
theorem dX0_gift_46 : decode cX0_gift 46 = .ok (.iload_n 1, 1) := dk_27 (dk_at dksX0_gift_2 0 rfl rfl)
theorem dX0_gift_47 : decode cX0_gift 47 = .ok (.invokestatic 234, 3) := dk_184 0 234 (dk_at dksX0_gift_2 1 rfl rfl)
theorem dX0_gift_50 : decode cX0_gift 50 = .ok (.ifCond .eq 5, 3) := dk_153 0 5 (dk_at dksX0_gift_2 4 rfl rfl)
theorem dX0_gift_53 : decode cX0_gift 53 = .ok (.iconst (-1), 1) := dk_2 (dk_at dksX0_gift_2 7 rfl rfl)
theorem dX0_gift_54 : decode cX0_gift 54 = .ok (.ireturn, 1) := dk_172 (dk_at dksX0_gift_2 8 rfl rfl)
theorem dX0_gift_55 : decode cX0_gift 55 = .ok (.iconst (-1), 1) := dk_2 (dk_at dksX0_gift_2 9 rfl rfl)
theorem dX0_gift_56 : decode cX0_gift 56 = .ok (.istore 4, 2) := dk_54 4 (dk_at dksX0_gift_2 10 rfl rfl)
theorem dX0_gift_58 : decode cX0_gift 58 = .ok (.iconst (-1), 1) := dk_2 (dk_at dksX0_gift_2 12 rfl rfl)
theorem dX0_gift_59 : decode cX0_gift 59 = .ok (.istore 5, 2) := dk_54 5 (dk_at dksX0_gift_2 13 rfl rfl)
theorem dX0_gift_61 : decode cX0_gift 61 = .ok (.iconst 0, 1) := dk_3 (dk_at dksX0_gift_2 15 rfl rfl)
theorem dX0_gift_62 : decode cX0_gift 62 = .ok (.istore 6, 2) := dk_54 6 (dk_at dksX0_gift_2 16 rfl rfl)
theorem dX0_gift_64 : decode cX0_gift 64 = .ok (.iload 6, 2) := dk_21 6 (dk_at dksX0_gift_2 18 rfl rfl)
theorem dX0_gift_66 : decode cX0_gift 66 = .ok (.aload_n 0, 1) := dk_42 (dk_at dksX0_gift_2 20 rfl rfl)
theorem dX0_gift_67 : decode cX0_gift 67 = .ok (.invokevirtual 154, 3) := dk_182 0 154 (dk_at dksX0_gift_2 21 rfl rfl)
theorem dX0_gift_70 : decode cX0_gift 70 = .ok (.if_icmp .ge 116, 3) := dk_162 0 116 (dk_at dksX0_gift_3 0 rfl rfl)
theorem dX0_gift_73 : decode cX0_gift 73 = .ok (.iconst 0, 1) := dk_3 (dk_at dksX0_gift_3 3 rfl rfl)
theorem dX0_gift_74 : decode cX0_gift 74 = .ok (.istore 7, 2) := dk_54 7 (dk_at dksX0_gift_3 4 rfl rfl)
theorem dX0_gift_76 : decode cX0_gift 76 = .ok (.iload 7, 2) := dk_21 7 (dk_at dksX0_gift_3 6 rfl rfl)
theorem dX0_gift_78 : decode cX0_gift 78 = .ok (.aload_n 0, 1) := dk_42 (dk_at dksX0_gift_3 8 rfl rfl)
theorem dX0_gift_79 : decode cX0_gift 79 = .ok (.invokevirtual 152, 3) := dk_182 0 152 (dk_at dksX0_gift_3 9 rfl rfl)
theorem dX0_gift_82 : decode cX0_gift 82 = .ok (.if_icmp .ge 98, 3) := dk_162 0 98 (dk_at dksX0_gift_3 12 rfl rfl)
theorem dX0_gift_85 : decode cX0_gift 85 = .ok (.aload_n 0, 1) := dk_42 (dk_at dksX0_gift_3 15 rfl rfl)
theorem dX0_gift_86 : decode cX0_gift 86 = .ok (.getfield 69, 3) := dk_180 0 69 (dk_at dksX0_gift_3 16 rfl rfl)
theorem dX0_gift_89 : decode cX0_gift 89 = .ok (.getfield 225, 3) := dk_180 0 225 (dk_at dksX0_gift_3 19 rfl rfl)
theorem dX0_gift_92 : decode cX0_gift 92 = .ok (.iload 6, 2) := dk_21 6 (dk_at dksX0_gift_3 22 rfl rfl)
theorem dX0_gift_94 : decode cX0_gift 94 = .ok (.iaload, 1) := dk_46 (dk_at dksX0_gift_4 0 rfl rfl)
theorem dX0_gift_95 : decode cX0_gift 95 = .ok (.iload 7, 2) := dk_21 7 (dk_at dksX0_gift_4 1 rfl rfl)
theorem dX0_gift_97 : decode cX0_gift 97 = .ok (.invokestatic 234, 3) := dk_184 0 234 (dk_at dksX0_gift_4 3 rfl rfl)
theorem dX0_gift_100 : decode cX0_gift 100 = .ok (.ifCond .ne 74, 3) := dk_154 0 74 (dk_at dksX0_gift_4 6 rfl rfl)
theorem dX0_gift_103 : decode cX0_gift 103 = .ok (.iload 4, 2) := dk_21 4 (dk_at dksX0_gift_4 9 rfl rfl)
theorem dX0_gift_105 : decode cX0_gift 105 = .ok (.iconst (-1), 1) := dk_2 (dk_at dksX0_gift_4 11 rfl rfl)
theorem dX0_gift_106 : decode cX0_gift 106 = .ok (.if_icmp .eq 21, 3) := dk_159 0 21 (dk_at dksX0_gift_4 12 rfl rfl)
theorem dX0_gift_109 : decode cX0_gift 109 = .ok (.aload_n 0, 1) := dk_42 (dk_at dksX0_gift_4 15 rfl rfl)
theorem dX0_gift_110 : decode cX0_gift 110 = .ok (.iload 7, 2) := dk_21 7 (dk_at dksX0_gift_4 16 rfl rfl)
theorem dX0_gift_112 : decode cX0_gift 112 = .ok (.invokevirtual 207, 3) := dk_182 0 207 (dk_at dksX0_gift_4 18 rfl rfl)
theorem dX0_gift_115 : decode cX0_gift 115 = .ok (.aload_n 0, 1) := dk_42 (dk_at dksX0_gift_4 21 rfl rfl)
theorem dX0_gift_116 : decode cX0_gift 116 = .ok (.iload 5, 2) := dk_21 5 (dk_at dksX0_gift_4 22 rfl rfl)
theorem dX0_gift_118 : decode cX0_gift 118 = .ok (.invokevirtual 207, 3) := dk_182 0 207 (dk_at dksX0_gift_5 0 rfl rfl)
theorem dX0_gift_121 : decode cX0_gift 121 = .ok (.if_icmp .lt 6, 3) := dk_161 0 6 (dk_at dksX0_gift_5 3 rfl rfl)
theorem dX0_gift_124 : decode cX0_gift 124 = .ok (.goto 50, 3) := dk_167 0 50 (dk_at dksX0_gift_5 6 rfl rfl)
theorem dX0_gift_127 : decode cX0_gift 127 = .ok (.aload_n 0, 1) := dk_42 (dk_at dksX0_gift_5 9 rfl rfl)
theorem dX0_gift_128 : decode cX0_gift 128 = .ok (.getfield 73, 3) := dk_180 0 73 (dk_at dksX0_gift_5 10 rfl rfl)
theorem dX0_gift_131 : decode cX0_gift 131 = .ok (.aload_n 0, 1) := dk_42 (dk_at dksX0_gift_5 13 rfl rfl)
theorem dX0_gift_132 : decode cX0_gift 132 = .ok (.getfield 69, 3) := dk_180 0 69 (dk_at dksX0_gift_5 14 rfl rfl)
theorem dX0_gift_135 : decode cX0_gift 135 = .ok (.invokevirtual 251, 3) := dk_182 0 251 (dk_at dksX0_gift_5 17 rfl rfl)
theorem dX0_gift_138 : decode cX0_gift 138 = .ok (.iload 6, 2) := dk_21 6 (dk_at dksX0_gift_5 20 rfl rfl)
theorem dX0_gift_140 : decode cX0_gift 140 = .ok (.iload 7, 2) := dk_21 7 (dk_at dksX0_gift_5 22 rfl rfl)
theorem dX0_gift_142 : decode cX0_gift 142 = .ok (.invokevirtual 263, 3) := dk_182 1 7 (dk_at dksX0_gift_6 0 rfl rfl)
theorem dX0_gift_145 : decode cX0_gift 145 = .ok (.aload_n 0, 1) := dk_42 (dk_at dksX0_gift_6 3 rfl rfl)
theorem dX0_gift_146 : decode cX0_gift 146 = .ok (.getfield 73, 3) := dk_180 0 73 (dk_at dksX0_gift_6 4 rfl rfl)
theorem dX0_gift_149 : decode cX0_gift 149 = .ok (.iload_n 2, 1) := dk_28 (dk_at dksX0_gift_6 7 rfl rfl)
theorem dX0_gift_150 : decode cX0_gift 150 = .ok (.invokevirtual 255, 3) := dk_182 0 255 (dk_at dksX0_gift_6 8 rfl rfl)
theorem dX0_gift_153 : decode cX0_gift 153 = .ok (.getfield 182, 3) := dk_180 0 182 (dk_at dksX0_gift_6 11 rfl rfl)
theorem dX0_gift_156 : decode cX0_gift 156 = .ok (.iload_n 1, 1) := dk_27 (dk_at dksX0_gift_6 14 rfl rfl)
theorem dX0_gift_157 : decode cX0_gift 157 = .ok (.invokestatic 234, 3) := dk_184 0 234 (dk_at dksX0_gift_6 15 rfl rfl)
theorem dX0_gift_160 : decode cX0_gift 160 = .ok (.ifCond .ne 6, 3) := dk_154 0 6 (dk_at dksX0_gift_6 18 rfl rfl)
theorem dX0_gift_163 : decode cX0_gift 163 = .ok (.goto 11, 3) := dk_167 0 11 (dk_at dksX0_gift_6 21 rfl rfl)
theorem dX0_gift_166 : decode cX0_gift 166 = .ok (.iload 6, 2) := dk_21 6 (dk_at dksX0_gift_7 0 rfl rfl)
theorem dX0_gift_168 : decode cX0_gift 168 = .ok (.istore 4, 2) := dk_54 4 (dk_at dksX0_gift_7 2 rfl rfl)
theorem dX0_gift_170 : decode cX0_gift 170 = .ok (.iload 7, 2) := dk_21 7 (dk_at dksX0_gift_7 4 rfl rfl)
theorem dX0_gift_172 : decode cX0_gift 172 = .ok (.istore 5, 2) := dk_54 5 (dk_at dksX0_gift_7 6 rfl rfl)
theorem dX0_gift_174 : decode cX0_gift 174 = .ok (.iinc 7 1, 3) := dk_132 7 1 (dk_at dksX0_gift_7 8 rfl rfl)
theorem dX0_gift_177 : decode cX0_gift 177 = .ok (.goto (-101), 3) := dk_167 255 155 (dk_at dksX0_gift_7 11 rfl rfl)
theorem dX0_gift_180 : decode cX0_gift 180 = .ok (.iinc 6 1, 3) := dk_132 6 1 (dk_at dksX0_gift_7 14 rfl rfl)
theorem dX0_gift_183 : decode cX0_gift 183 = .ok (.goto (-119), 3) := dk_167 255 137 (dk_at dksX0_gift_7 17 rfl rfl)
theorem dX0_gift_186 : decode cX0_gift 186 = .ok (.iload_n 3, 1) := dk_29 (dk_at dksX0_gift_7 20 rfl rfl)
theorem dX0_gift_187 : decode cX0_gift 187 = .ok (.ifCond .ne 8, 3) := dk_154 0 8 (dk_at dksX0_gift_7 21 rfl rfl)
theorem dX0_gift_190 : decode cX0_gift 190 = .ok (.iload 4, 2) := dk_21 4 (dk_at dksX0_gift_8 0 rfl rfl)
theorem dX0_gift_192 : decode cX0_gift 192 = .ok (.goto 5, 3) := dk_167 0 5 (dk_at dksX0_gift_8 2 rfl rfl)
theorem dX0_gift_195 : decode cX0_gift 195 = .ok (.iload 5, 2) := dk_21 5 (dk_at dksX0_gift_8 5 rfl rfl)
theorem dX0_gift_197 : decode cX0_gift 197 = .ok (.ireturn, 1) := dk_172 (dk_at dksX0_gift_8 7 rfl rfl)
abbrev cX0_law : ByteArray := prog_1_method_36_code
def yX0_law : MethodName := ⟨RX0, "law", "(II)I"⟩
def dkwX0_law_6 : List UInt8 := [132, 5, 1, 167, 255, 143, 28, 154, 0, 7, 29, 167, 0, 5, 21, 4, 172]
abbrev dktX0_law_6 : List UInt8 := dkwX0_law_6 ++ []
def dkwX0_law_5 : List UInt8 := [184, 0, 177, 54, 6, 21, 6, 21, 4, 163, 0, 6, 167, 0, 10, 21, 6, 54, 4, 21, 5, 62]
abbrev dktX0_law_5 : List UInt8 := dkwX0_law_5 ++ dktX0_law_6
def dkwX0_law_4 : List UInt8 := [167, 0, 5, 21, 5, 79, 132, 6, 1, 167, 255, 204, 42, 180, 0, 73, 27, 182, 0, 255, 180, 0, 182]
abbrev dktX0_law_4 : List UInt8 := dkwX0_law_4 ++ dktX0_law_5
def dkwX0_law_3 : List UInt8 := [180, 0, 69, 180, 0, 174, 21, 6, 184, 0, 234, 153, 0, 16, 42, 180, 0, 69, 180, 0, 231, 21, 6, 46]
abbrev dktX0_law_3 : List UInt8 := dkwX0_law_3 ++ dktX0_law_4
def dkwX0_law_2 : List UInt8 := [87, 3, 54, 6, 21, 6, 42, 182, 0, 154, 162, 0, 49, 42, 180, 0, 73, 180, 0, 231, 21, 6, 42]
abbrev dktX0_law_2 : List UInt8 := dkwX0_law_2 ++ dktX0_law_3
def dkwX0_law_1 : List UInt8 := [2, 54, 4, 3, 54, 5, 21, 5, 16, 9, 163, 0, 112, 42, 180, 0, 73, 42, 180, 0, 69, 182, 0, 251]
abbrev dktX0_law_1 : List UInt8 := dkwX0_law_1 ++ dktX0_law_2
def dkwX0_law_0 : List UInt8 := [42, 27, 3, 16, 20, 182, 0, 248, 153, 0, 12, 28, 3, 4, 184, 0, 192, 154, 0, 5, 2, 172, 2, 62]
abbrev dktX0_law_0 : List UInt8 := dkwX0_law_0 ++ dktX0_law_1
theorem dksX0_law_0 : cX0_law.data.toList.drop 0 = dktX0_law_0 := by decide +kernel
theorem dksX0_law_1 : cX0_law.data.toList.drop 24 = dktX0_law_1 := dk_seg dksX0_law_0 24 rfl rfl
theorem dksX0_law_2 : cX0_law.data.toList.drop 48 = dktX0_law_2 := dk_seg dksX0_law_1 24 rfl rfl
theorem dksX0_law_3 : cX0_law.data.toList.drop 71 = dktX0_law_3 := dk_seg dksX0_law_2 23 rfl rfl
theorem dksX0_law_4 : cX0_law.data.toList.drop 95 = dktX0_law_4 := dk_seg dksX0_law_3 24 rfl rfl
theorem dksX0_law_5 : cX0_law.data.toList.drop 118 = dktX0_law_5 := dk_seg dksX0_law_4 23 rfl rfl
theorem dksX0_law_6 : cX0_law.data.toList.drop 140 = dktX0_law_6 := dk_seg dksX0_law_5 22 rfl rfl
theorem dX0_law_0 : decode cX0_law 0 = .ok (.aload_n 0, 1) := dk_42 (dk_at dksX0_law_0 0 rfl rfl)
theorem dX0_law_1 : decode cX0_law 1 = .ok (.iload_n 1, 1) := dk_27 (dk_at dksX0_law_0 1 rfl rfl)
theorem dX0_law_2 : decode cX0_law 2 = .ok (.iconst 0, 1) := dk_3 (dk_at dksX0_law_0 2 rfl rfl)
theorem dX0_law_3 : decode cX0_law 3 = .ok (.bipush 20, 2) := dk_16 20 (dk_at dksX0_law_0 3 rfl rfl)
theorem dX0_law_5 : decode cX0_law 5 = .ok (.invokevirtual 248, 3) := dk_182 0 248 (dk_at dksX0_law_0 5 rfl rfl)
theorem dX0_law_8 : decode cX0_law 8 = .ok (.ifCond .eq 12, 3) := dk_153 0 12 (dk_at dksX0_law_0 8 rfl rfl)
theorem dX0_law_11 : decode cX0_law 11 = .ok (.iload_n 2, 1) := dk_28 (dk_at dksX0_law_0 11 rfl rfl)
theorem dX0_law_12 : decode cX0_law 12 = .ok (.iconst 0, 1) := dk_3 (dk_at dksX0_law_0 12 rfl rfl)
theorem dX0_law_13 : decode cX0_law 13 = .ok (.iconst 1, 1) := dk_4 (dk_at dksX0_law_0 13 rfl rfl)
theorem dX0_law_14 : decode cX0_law 14 = .ok (.invokestatic 192, 3) := dk_184 0 192 (dk_at dksX0_law_0 14 rfl rfl)
theorem dX0_law_17 : decode cX0_law 17 = .ok (.ifCond .ne 5, 3) := dk_154 0 5 (dk_at dksX0_law_0 17 rfl rfl)
theorem dX0_law_20 : decode cX0_law 20 = .ok (.iconst (-1), 1) := dk_2 (dk_at dksX0_law_0 20 rfl rfl)
theorem dX0_law_21 : decode cX0_law 21 = .ok (.ireturn, 1) := dk_172 (dk_at dksX0_law_0 21 rfl rfl)
theorem dX0_law_22 : decode cX0_law 22 = .ok (.iconst (-1), 1) := dk_2 (dk_at dksX0_law_0 22 rfl rfl)
theorem dX0_law_23 : decode cX0_law 23 = .ok (.istore_n 3, 1) := dk_62 (dk_at dksX0_law_0 23 rfl rfl)
theorem dX0_law_24 : decode cX0_law 24 = .ok (.iconst (-1), 1) := dk_2 (dk_at dksX0_law_1 0 rfl rfl)
theorem dX0_law_25 : decode cX0_law 25 = .ok (.istore 4, 2) := dk_54 4 (dk_at dksX0_law_1 1 rfl rfl)
theorem dX0_law_27 : decode cX0_law 27 = .ok (.iconst 0, 1) := dk_3 (dk_at dksX0_law_1 3 rfl rfl)
theorem dX0_law_28 : decode cX0_law 28 = .ok (.istore 5, 2) := dk_54 5 (dk_at dksX0_law_1 4 rfl rfl)
theorem dX0_law_30 : decode cX0_law 30 = .ok (.iload 5, 2) := dk_21 5 (dk_at dksX0_law_1 6 rfl rfl)
theorem dX0_law_32 : decode cX0_law 32 = .ok (.bipush 9, 2) := dk_16 9 (dk_at dksX0_law_1 8 rfl rfl)
theorem dX0_law_34 : decode cX0_law 34 = .ok (.if_icmp .gt 112, 3) := dk_163 0 112 (dk_at dksX0_law_1 10 rfl rfl)
theorem dX0_law_37 : decode cX0_law 37 = .ok (.aload_n 0, 1) := dk_42 (dk_at dksX0_law_1 13 rfl rfl)
theorem dX0_law_38 : decode cX0_law 38 = .ok (.getfield 73, 3) := dk_180 0 73 (dk_at dksX0_law_1 14 rfl rfl)
theorem dX0_law_41 : decode cX0_law 41 = .ok (.aload_n 0, 1) := dk_42 (dk_at dksX0_law_1 17 rfl rfl)
theorem dX0_law_42 : decode cX0_law 42 = .ok (.getfield 69, 3) := dk_180 0 69 (dk_at dksX0_law_1 18 rfl rfl)
theorem dX0_law_45 : decode cX0_law 45 = .ok (.invokevirtual 251, 3) := dk_182 0 251 (dk_at dksX0_law_1 21 rfl rfl)
theorem dX0_law_48 : decode cX0_law 48 = .ok (.pop, 1) := dk_87 (dk_at dksX0_law_2 0 rfl rfl)
theorem dX0_law_49 : decode cX0_law 49 = .ok (.iconst 0, 1) := dk_3 (dk_at dksX0_law_2 1 rfl rfl)
theorem dX0_law_50 : decode cX0_law 50 = .ok (.istore 6, 2) := dk_54 6 (dk_at dksX0_law_2 2 rfl rfl)
theorem dX0_law_52 : decode cX0_law 52 = .ok (.iload 6, 2) := dk_21 6 (dk_at dksX0_law_2 4 rfl rfl)
theorem dX0_law_54 : decode cX0_law 54 = .ok (.aload_n 0, 1) := dk_42 (dk_at dksX0_law_2 6 rfl rfl)
theorem dX0_law_55 : decode cX0_law 55 = .ok (.invokevirtual 154, 3) := dk_182 0 154 (dk_at dksX0_law_2 7 rfl rfl)
theorem dX0_law_58 : decode cX0_law 58 = .ok (.if_icmp .ge 49, 3) := dk_162 0 49 (dk_at dksX0_law_2 10 rfl rfl)
theorem dX0_law_61 : decode cX0_law 61 = .ok (.aload_n 0, 1) := dk_42 (dk_at dksX0_law_2 13 rfl rfl)
theorem dX0_law_62 : decode cX0_law 62 = .ok (.getfield 73, 3) := dk_180 0 73 (dk_at dksX0_law_2 14 rfl rfl)
theorem dX0_law_65 : decode cX0_law 65 = .ok (.getfield 231, 3) := dk_180 0 231 (dk_at dksX0_law_2 17 rfl rfl)
theorem dX0_law_68 : decode cX0_law 68 = .ok (.iload 6, 2) := dk_21 6 (dk_at dksX0_law_2 20 rfl rfl)
theorem dX0_law_70 : decode cX0_law 70 = .ok (.aload_n 0, 1) := dk_42 (dk_at dksX0_law_2 22 rfl rfl)
theorem dX0_law_71 : decode cX0_law 71 = .ok (.getfield 69, 3) := dk_180 0 69 (dk_at dksX0_law_3 0 rfl rfl)
theorem dX0_law_74 : decode cX0_law 74 = .ok (.getfield 174, 3) := dk_180 0 174 (dk_at dksX0_law_3 3 rfl rfl)
theorem dX0_law_77 : decode cX0_law 77 = .ok (.iload 6, 2) := dk_21 6 (dk_at dksX0_law_3 6 rfl rfl)
theorem dX0_law_79 : decode cX0_law 79 = .ok (.invokestatic 234, 3) := dk_184 0 234 (dk_at dksX0_law_3 8 rfl rfl)
theorem dX0_law_82 : decode cX0_law 82 = .ok (.ifCond .eq 16, 3) := dk_153 0 16 (dk_at dksX0_law_3 11 rfl rfl)
theorem dX0_law_85 : decode cX0_law 85 = .ok (.aload_n 0, 1) := dk_42 (dk_at dksX0_law_3 14 rfl rfl)
theorem dX0_law_86 : decode cX0_law 86 = .ok (.getfield 69, 3) := dk_180 0 69 (dk_at dksX0_law_3 15 rfl rfl)
theorem dX0_law_89 : decode cX0_law 89 = .ok (.getfield 231, 3) := dk_180 0 231 (dk_at dksX0_law_3 18 rfl rfl)
theorem dX0_law_92 : decode cX0_law 92 = .ok (.iload 6, 2) := dk_21 6 (dk_at dksX0_law_3 21 rfl rfl)
theorem dX0_law_94 : decode cX0_law 94 = .ok (.iaload, 1) := dk_46 (dk_at dksX0_law_3 23 rfl rfl)
theorem dX0_law_95 : decode cX0_law 95 = .ok (.goto 5, 3) := dk_167 0 5 (dk_at dksX0_law_4 0 rfl rfl)
theorem dX0_law_98 : decode cX0_law 98 = .ok (.iload 5, 2) := dk_21 5 (dk_at dksX0_law_4 3 rfl rfl)
theorem dX0_law_100 : decode cX0_law 100 = .ok (.iastore, 1) := dk_79 (dk_at dksX0_law_4 5 rfl rfl)
theorem dX0_law_101 : decode cX0_law 101 = .ok (.iinc 6 1, 3) := dk_132 6 1 (dk_at dksX0_law_4 6 rfl rfl)
theorem dX0_law_104 : decode cX0_law 104 = .ok (.goto (-52), 3) := dk_167 255 204 (dk_at dksX0_law_4 9 rfl rfl)
theorem dX0_law_107 : decode cX0_law 107 = .ok (.aload_n 0, 1) := dk_42 (dk_at dksX0_law_4 12 rfl rfl)
theorem dX0_law_108 : decode cX0_law 108 = .ok (.getfield 73, 3) := dk_180 0 73 (dk_at dksX0_law_4 13 rfl rfl)
theorem dX0_law_111 : decode cX0_law 111 = .ok (.iload_n 1, 1) := dk_27 (dk_at dksX0_law_4 16 rfl rfl)
theorem dX0_law_112 : decode cX0_law 112 = .ok (.invokevirtual 255, 3) := dk_182 0 255 (dk_at dksX0_law_4 17 rfl rfl)
theorem dX0_law_115 : decode cX0_law 115 = .ok (.getfield 182, 3) := dk_180 0 182 (dk_at dksX0_law_4 20 rfl rfl)
theorem dX0_law_118 : decode cX0_law 118 = .ok (.invokestatic 177, 3) := dk_184 0 177 (dk_at dksX0_law_5 0 rfl rfl)
theorem dX0_law_121 : decode cX0_law 121 = .ok (.istore 6, 2) := dk_54 6 (dk_at dksX0_law_5 3 rfl rfl)
theorem dX0_law_123 : decode cX0_law 123 = .ok (.iload 6, 2) := dk_21 6 (dk_at dksX0_law_5 5 rfl rfl)
theorem dX0_law_125 : decode cX0_law 125 = .ok (.iload 4, 2) := dk_21 4 (dk_at dksX0_law_5 7 rfl rfl)
theorem dX0_law_127 : decode cX0_law 127 = .ok (.if_icmp .gt 6, 3) := dk_163 0 6 (dk_at dksX0_law_5 9 rfl rfl)
theorem dX0_law_130 : decode cX0_law 130 = .ok (.goto 10, 3) := dk_167 0 10 (dk_at dksX0_law_5 12 rfl rfl)
theorem dX0_law_133 : decode cX0_law 133 = .ok (.iload 6, 2) := dk_21 6 (dk_at dksX0_law_5 15 rfl rfl)
theorem dX0_law_135 : decode cX0_law 135 = .ok (.istore 4, 2) := dk_54 4 (dk_at dksX0_law_5 17 rfl rfl)
theorem dX0_law_137 : decode cX0_law 137 = .ok (.iload 5, 2) := dk_21 5 (dk_at dksX0_law_5 19 rfl rfl)
theorem dX0_law_139 : decode cX0_law 139 = .ok (.istore_n 3, 1) := dk_62 (dk_at dksX0_law_5 21 rfl rfl)
theorem dX0_law_140 : decode cX0_law 140 = .ok (.iinc 5 1, 3) := dk_132 5 1 (dk_at dksX0_law_6 0 rfl rfl)
theorem dX0_law_143 : decode cX0_law 143 = .ok (.goto (-113), 3) := dk_167 255 143 (dk_at dksX0_law_6 3 rfl rfl)
theorem dX0_law_146 : decode cX0_law 146 = .ok (.iload_n 2, 1) := dk_28 (dk_at dksX0_law_6 6 rfl rfl)
theorem dX0_law_147 : decode cX0_law 147 = .ok (.ifCond .ne 7, 3) := dk_154 0 7 (dk_at dksX0_law_6 7 rfl rfl)
theorem dX0_law_150 : decode cX0_law 150 = .ok (.iload_n 3, 1) := dk_29 (dk_at dksX0_law_6 10 rfl rfl)
theorem dX0_law_151 : decode cX0_law 151 = .ok (.goto 5, 3) := dk_167 0 5 (dk_at dksX0_law_6 11 rfl rfl)
theorem dX0_law_154 : decode cX0_law 154 = .ok (.iload 4, 2) := dk_21 4 (dk_at dksX0_law_6 14 rfl rfl)
theorem dX0_law_156 : decode cX0_law 156 = .ok (.ireturn, 1) := dk_172 (dk_at dksX0_law_6 16 rfl rfl)
abbrev cX0_hear : ByteArray := prog_1_method_38_code
def yX0_hear : MethodName := ⟨RX0, "hear", "()I"⟩
def dkwX0_hear_6 : List UInt8 := [172]
abbrev dktX0_hear_6 : List UInt8 := dkwX0_hear_6 ++ []
def dkwX0_hear_5 : List UInt8 := [180, 0, 79, 29, 42, 5, 29, 104, 4, 96, 182, 1, 11, 79, 132, 3, 1, 167, 255, 217, 42, 180, 0, 134]
abbrev dktX0_hear_5 : List UInt8 := dkwX0_hear_5 ++ dktX0_hear_6
def dkwX0_hear_4 : List UInt8 := [62, 29, 42, 180, 0, 134, 162, 0, 37, 42, 180, 0, 76, 29, 42, 5, 29, 104, 182, 1, 11, 79, 42]
abbrev dktX0_hear_4 : List UInt8 := dkwX0_hear_4 ++ dktX0_hear_5
def dkwX0_hear_3 : List UInt8 := [132, 3, 2, 167, 255, 215, 28, 154, 0, 9, 42, 4, 182, 0, 101, 172, 42, 27, 5, 108, 181, 0, 134, 3]
abbrev dktX0_hear_3 : List UInt8 := dkwX0_hear_3 ++ dktX0_hear_4
def dkwX0_hear_2 : List UInt8 := [182, 0, 213, 153, 0, 18, 42, 29, 4, 96, 182, 1, 11, 6, 162, 0, 7, 4, 167, 0, 4, 3, 61]
abbrev dktX0_hear_2 : List UInt8 := dkwX0_hear_2 ++ dktX0_hear_3
def dkwX0_hear_1 : List UInt8 := [167, 0, 4, 3, 61, 3, 62, 29, 27, 162, 0, 42, 28, 153, 0, 38, 42, 42, 29, 182, 1, 11]
abbrev dktX0_hear_1 : List UInt8 := dkwX0_hear_1 ++ dktX0_hear_2
def dkwX0_hear_0 : List UInt8 := [42, 182, 0, 112, 60, 27, 158, 0, 19, 27, 5, 112, 154, 0, 13, 27, 16, 32, 163, 0, 7, 4]
abbrev dktX0_hear_0 : List UInt8 := dkwX0_hear_0 ++ dktX0_hear_1
theorem dksX0_hear_0 : cX0_hear.data.toList.drop 0 = dktX0_hear_0 := by decide +kernel
theorem dksX0_hear_1 : cX0_hear.data.toList.drop 22 = dktX0_hear_1 := dk_seg dksX0_hear_0 22 rfl rfl
theorem dksX0_hear_2 : cX0_hear.data.toList.drop 44 = dktX0_hear_2 := dk_seg dksX0_hear_1 22 rfl rfl
theorem dksX0_hear_3 : cX0_hear.data.toList.drop 67 = dktX0_hear_3 := dk_seg dksX0_hear_2 23 rfl rfl
theorem dksX0_hear_4 : cX0_hear.data.toList.drop 91 = dktX0_hear_4 := dk_seg dksX0_hear_3 24 rfl rfl
theorem dksX0_hear_5 : cX0_hear.data.toList.drop 114 = dktX0_hear_5 := dk_seg dksX0_hear_4 23 rfl rfl
theorem dksX0_hear_6 : cX0_hear.data.toList.drop 138 = dktX0_hear_6 := dk_seg dksX0_hear_5 24 rfl rfl
theorem dX0_hear_0 : decode cX0_hear 0 = .ok (.aload_n 0, 1) := dk_42 (dk_at dksX0_hear_0 0 rfl rfl)
theorem dX0_hear_1 : decode cX0_hear 1 = .ok (.invokevirtual 112, 3) := dk_182 0 112 (dk_at dksX0_hear_0 1 rfl rfl)
theorem dX0_hear_4 : decode cX0_hear 4 = .ok (.istore_n 1, 1) := dk_60 (dk_at dksX0_hear_0 4 rfl rfl)
theorem dX0_hear_5 : decode cX0_hear 5 = .ok (.iload_n 1, 1) := dk_27 (dk_at dksX0_hear_0 5 rfl rfl)
theorem dX0_hear_6 : decode cX0_hear 6 = .ok (.ifCond .le 19, 3) := dk_158 0 19 (dk_at dksX0_hear_0 6 rfl rfl)
theorem dX0_hear_9 : decode cX0_hear 9 = .ok (.iload_n 1, 1) := dk_27 (dk_at dksX0_hear_0 9 rfl rfl)
theorem dX0_hear_10 : decode cX0_hear 10 = .ok (.iconst 2, 1) := dk_5 (dk_at dksX0_hear_0 10 rfl rfl)
theorem dX0_hear_11 : decode cX0_hear 11 = .ok (.irem, 1) := dk_112 (dk_at dksX0_hear_0 11 rfl rfl)
theorem dX0_hear_12 : decode cX0_hear 12 = .ok (.ifCond .ne 13, 3) := dk_154 0 13 (dk_at dksX0_hear_0 12 rfl rfl)
theorem dX0_hear_15 : decode cX0_hear 15 = .ok (.iload_n 1, 1) := dk_27 (dk_at dksX0_hear_0 15 rfl rfl)
theorem dX0_hear_16 : decode cX0_hear 16 = .ok (.bipush 32, 2) := dk_16 32 (dk_at dksX0_hear_0 16 rfl rfl)
theorem dX0_hear_18 : decode cX0_hear 18 = .ok (.if_icmp .gt 7, 3) := dk_163 0 7 (dk_at dksX0_hear_0 18 rfl rfl)
theorem dX0_hear_21 : decode cX0_hear 21 = .ok (.iconst 1, 1) := dk_4 (dk_at dksX0_hear_0 21 rfl rfl)
theorem dX0_hear_22 : decode cX0_hear 22 = .ok (.goto 4, 3) := dk_167 0 4 (dk_at dksX0_hear_1 0 rfl rfl)
theorem dX0_hear_25 : decode cX0_hear 25 = .ok (.iconst 0, 1) := dk_3 (dk_at dksX0_hear_1 3 rfl rfl)
theorem dX0_hear_26 : decode cX0_hear 26 = .ok (.istore_n 2, 1) := dk_61 (dk_at dksX0_hear_1 4 rfl rfl)
theorem dX0_hear_27 : decode cX0_hear 27 = .ok (.iconst 0, 1) := dk_3 (dk_at dksX0_hear_1 5 rfl rfl)
theorem dX0_hear_28 : decode cX0_hear 28 = .ok (.istore_n 3, 1) := dk_62 (dk_at dksX0_hear_1 6 rfl rfl)
theorem dX0_hear_29 : decode cX0_hear 29 = .ok (.iload_n 3, 1) := dk_29 (dk_at dksX0_hear_1 7 rfl rfl)
theorem dX0_hear_30 : decode cX0_hear 30 = .ok (.iload_n 1, 1) := dk_27 (dk_at dksX0_hear_1 8 rfl rfl)
theorem dX0_hear_31 : decode cX0_hear 31 = .ok (.if_icmp .ge 42, 3) := dk_162 0 42 (dk_at dksX0_hear_1 9 rfl rfl)
theorem dX0_hear_34 : decode cX0_hear 34 = .ok (.iload_n 2, 1) := dk_28 (dk_at dksX0_hear_1 12 rfl rfl)
theorem dX0_hear_35 : decode cX0_hear 35 = .ok (.ifCond .eq 38, 3) := dk_153 0 38 (dk_at dksX0_hear_1 13 rfl rfl)
theorem dX0_hear_38 : decode cX0_hear 38 = .ok (.aload_n 0, 1) := dk_42 (dk_at dksX0_hear_1 16 rfl rfl)
theorem dX0_hear_39 : decode cX0_hear 39 = .ok (.aload_n 0, 1) := dk_42 (dk_at dksX0_hear_1 17 rfl rfl)
theorem dX0_hear_40 : decode cX0_hear 40 = .ok (.iload_n 3, 1) := dk_29 (dk_at dksX0_hear_1 18 rfl rfl)
theorem dX0_hear_41 : decode cX0_hear 41 = .ok (.invokevirtual 267, 3) := dk_182 1 11 (dk_at dksX0_hear_1 19 rfl rfl)
theorem dX0_hear_44 : decode cX0_hear 44 = .ok (.invokevirtual 213, 3) := dk_182 0 213 (dk_at dksX0_hear_2 0 rfl rfl)
theorem dX0_hear_47 : decode cX0_hear 47 = .ok (.ifCond .eq 18, 3) := dk_153 0 18 (dk_at dksX0_hear_2 3 rfl rfl)
theorem dX0_hear_50 : decode cX0_hear 50 = .ok (.aload_n 0, 1) := dk_42 (dk_at dksX0_hear_2 6 rfl rfl)
theorem dX0_hear_51 : decode cX0_hear 51 = .ok (.iload_n 3, 1) := dk_29 (dk_at dksX0_hear_2 7 rfl rfl)
theorem dX0_hear_52 : decode cX0_hear 52 = .ok (.iconst 1, 1) := dk_4 (dk_at dksX0_hear_2 8 rfl rfl)
theorem dX0_hear_53 : decode cX0_hear 53 = .ok (.iadd, 1) := dk_96 (dk_at dksX0_hear_2 9 rfl rfl)
theorem dX0_hear_54 : decode cX0_hear 54 = .ok (.invokevirtual 267, 3) := dk_182 1 11 (dk_at dksX0_hear_2 10 rfl rfl)
theorem dX0_hear_57 : decode cX0_hear 57 = .ok (.iconst 3, 1) := dk_6 (dk_at dksX0_hear_2 13 rfl rfl)
theorem dX0_hear_58 : decode cX0_hear 58 = .ok (.if_icmp .ge 7, 3) := dk_162 0 7 (dk_at dksX0_hear_2 14 rfl rfl)
theorem dX0_hear_61 : decode cX0_hear 61 = .ok (.iconst 1, 1) := dk_4 (dk_at dksX0_hear_2 17 rfl rfl)
theorem dX0_hear_62 : decode cX0_hear 62 = .ok (.goto 4, 3) := dk_167 0 4 (dk_at dksX0_hear_2 18 rfl rfl)
theorem dX0_hear_65 : decode cX0_hear 65 = .ok (.iconst 0, 1) := dk_3 (dk_at dksX0_hear_2 21 rfl rfl)
theorem dX0_hear_66 : decode cX0_hear 66 = .ok (.istore_n 2, 1) := dk_61 (dk_at dksX0_hear_2 22 rfl rfl)
theorem dX0_hear_67 : decode cX0_hear 67 = .ok (.iinc 3 2, 3) := dk_132 3 2 (dk_at dksX0_hear_3 0 rfl rfl)
theorem dX0_hear_70 : decode cX0_hear 70 = .ok (.goto (-41), 3) := dk_167 255 215 (dk_at dksX0_hear_3 3 rfl rfl)
theorem dX0_hear_73 : decode cX0_hear 73 = .ok (.iload_n 2, 1) := dk_28 (dk_at dksX0_hear_3 6 rfl rfl)
theorem dX0_hear_74 : decode cX0_hear 74 = .ok (.ifCond .ne 9, 3) := dk_154 0 9 (dk_at dksX0_hear_3 7 rfl rfl)
theorem dX0_hear_77 : decode cX0_hear 77 = .ok (.aload_n 0, 1) := dk_42 (dk_at dksX0_hear_3 10 rfl rfl)
theorem dX0_hear_78 : decode cX0_hear 78 = .ok (.iconst 1, 1) := dk_4 (dk_at dksX0_hear_3 11 rfl rfl)
theorem dX0_hear_79 : decode cX0_hear 79 = .ok (.invokevirtual 101, 3) := dk_182 0 101 (dk_at dksX0_hear_3 12 rfl rfl)
theorem dX0_hear_82 : decode cX0_hear 82 = .ok (.ireturn, 1) := dk_172 (dk_at dksX0_hear_3 15 rfl rfl)
theorem dX0_hear_83 : decode cX0_hear 83 = .ok (.aload_n 0, 1) := dk_42 (dk_at dksX0_hear_3 16 rfl rfl)
theorem dX0_hear_84 : decode cX0_hear 84 = .ok (.iload_n 1, 1) := dk_27 (dk_at dksX0_hear_3 17 rfl rfl)
theorem dX0_hear_85 : decode cX0_hear 85 = .ok (.iconst 2, 1) := dk_5 (dk_at dksX0_hear_3 18 rfl rfl)
theorem dX0_hear_86 : decode cX0_hear 86 = .ok (.idiv, 1) := dk_108 (dk_at dksX0_hear_3 19 rfl rfl)
theorem dX0_hear_87 : decode cX0_hear 87 = .ok (.putfield 134, 3) := dk_181 0 134 (dk_at dksX0_hear_3 20 rfl rfl)
theorem dX0_hear_90 : decode cX0_hear 90 = .ok (.iconst 0, 1) := dk_3 (dk_at dksX0_hear_3 23 rfl rfl)
theorem dX0_hear_91 : decode cX0_hear 91 = .ok (.istore_n 3, 1) := dk_62 (dk_at dksX0_hear_4 0 rfl rfl)
theorem dX0_hear_92 : decode cX0_hear 92 = .ok (.iload_n 3, 1) := dk_29 (dk_at dksX0_hear_4 1 rfl rfl)
theorem dX0_hear_93 : decode cX0_hear 93 = .ok (.aload_n 0, 1) := dk_42 (dk_at dksX0_hear_4 2 rfl rfl)
theorem dX0_hear_94 : decode cX0_hear 94 = .ok (.getfield 134, 3) := dk_180 0 134 (dk_at dksX0_hear_4 3 rfl rfl)
theorem dX0_hear_97 : decode cX0_hear 97 = .ok (.if_icmp .ge 37, 3) := dk_162 0 37 (dk_at dksX0_hear_4 6 rfl rfl)
theorem dX0_hear_100 : decode cX0_hear 100 = .ok (.aload_n 0, 1) := dk_42 (dk_at dksX0_hear_4 9 rfl rfl)
theorem dX0_hear_101 : decode cX0_hear 101 = .ok (.getfield 76, 3) := dk_180 0 76 (dk_at dksX0_hear_4 10 rfl rfl)
theorem dX0_hear_104 : decode cX0_hear 104 = .ok (.iload_n 3, 1) := dk_29 (dk_at dksX0_hear_4 13 rfl rfl)
theorem dX0_hear_105 : decode cX0_hear 105 = .ok (.aload_n 0, 1) := dk_42 (dk_at dksX0_hear_4 14 rfl rfl)
theorem dX0_hear_106 : decode cX0_hear 106 = .ok (.iconst 2, 1) := dk_5 (dk_at dksX0_hear_4 15 rfl rfl)
theorem dX0_hear_107 : decode cX0_hear 107 = .ok (.iload_n 3, 1) := dk_29 (dk_at dksX0_hear_4 16 rfl rfl)
theorem dX0_hear_108 : decode cX0_hear 108 = .ok (.imul, 1) := dk_104 (dk_at dksX0_hear_4 17 rfl rfl)
theorem dX0_hear_109 : decode cX0_hear 109 = .ok (.invokevirtual 267, 3) := dk_182 1 11 (dk_at dksX0_hear_4 18 rfl rfl)
theorem dX0_hear_112 : decode cX0_hear 112 = .ok (.iastore, 1) := dk_79 (dk_at dksX0_hear_4 21 rfl rfl)
theorem dX0_hear_113 : decode cX0_hear 113 = .ok (.aload_n 0, 1) := dk_42 (dk_at dksX0_hear_4 22 rfl rfl)
theorem dX0_hear_114 : decode cX0_hear 114 = .ok (.getfield 79, 3) := dk_180 0 79 (dk_at dksX0_hear_5 0 rfl rfl)
theorem dX0_hear_117 : decode cX0_hear 117 = .ok (.iload_n 3, 1) := dk_29 (dk_at dksX0_hear_5 3 rfl rfl)
theorem dX0_hear_118 : decode cX0_hear 118 = .ok (.aload_n 0, 1) := dk_42 (dk_at dksX0_hear_5 4 rfl rfl)
theorem dX0_hear_119 : decode cX0_hear 119 = .ok (.iconst 2, 1) := dk_5 (dk_at dksX0_hear_5 5 rfl rfl)
theorem dX0_hear_120 : decode cX0_hear 120 = .ok (.iload_n 3, 1) := dk_29 (dk_at dksX0_hear_5 6 rfl rfl)
theorem dX0_hear_121 : decode cX0_hear 121 = .ok (.imul, 1) := dk_104 (dk_at dksX0_hear_5 7 rfl rfl)
theorem dX0_hear_122 : decode cX0_hear 122 = .ok (.iconst 1, 1) := dk_4 (dk_at dksX0_hear_5 8 rfl rfl)
theorem dX0_hear_123 : decode cX0_hear 123 = .ok (.iadd, 1) := dk_96 (dk_at dksX0_hear_5 9 rfl rfl)
theorem dX0_hear_124 : decode cX0_hear 124 = .ok (.invokevirtual 267, 3) := dk_182 1 11 (dk_at dksX0_hear_5 10 rfl rfl)
theorem dX0_hear_127 : decode cX0_hear 127 = .ok (.iastore, 1) := dk_79 (dk_at dksX0_hear_5 13 rfl rfl)
theorem dX0_hear_128 : decode cX0_hear 128 = .ok (.iinc 3 1, 3) := dk_132 3 1 (dk_at dksX0_hear_5 14 rfl rfl)
theorem dX0_hear_131 : decode cX0_hear 131 = .ok (.goto (-39), 3) := dk_167 255 217 (dk_at dksX0_hear_5 17 rfl rfl)
theorem dX0_hear_134 : decode cX0_hear 134 = .ok (.aload_n 0, 1) := dk_42 (dk_at dksX0_hear_5 20 rfl rfl)
theorem dX0_hear_135 : decode cX0_hear 135 = .ok (.getfield 134, 3) := dk_180 0 134 (dk_at dksX0_hear_5 21 rfl rfl)
theorem dX0_hear_138 : decode cX0_hear 138 = .ok (.ireturn, 1) := dk_172 (dk_at dksX0_hear_6 0 rfl rfl)
abbrev cX0_byteAt : ByteArray := prog_1_method_37_code
def yX0_byteAt : MethodName := ⟨RX0, "byteAt", "(I)I"⟩
def dkwX0_byteAt_0 : List UInt8 := [42, 180, 0, 35, 27, 51, 17, 0, 255, 126, 172]
abbrev dktX0_byteAt_0 : List UInt8 := dkwX0_byteAt_0 ++ []
theorem dksX0_byteAt_0 : cX0_byteAt.data.toList.drop 0 = dktX0_byteAt_0 := by decide +kernel
theorem dX0_byteAt_0 : decode cX0_byteAt 0 = .ok (.aload_n 0, 1) := dk_42 (dk_at dksX0_byteAt_0 0 rfl rfl)
theorem dX0_byteAt_1 : decode cX0_byteAt 1 = .ok (.getfield 35, 3) := dk_180 0 35 (dk_at dksX0_byteAt_0 1 rfl rfl)
theorem dX0_byteAt_4 : decode cX0_byteAt 4 = .ok (.iload_n 1, 1) := dk_27 (dk_at dksX0_byteAt_0 4 rfl rfl)
theorem dX0_byteAt_5 : decode cX0_byteAt 5 = .ok (.baload, 1) := dk_51 (dk_at dksX0_byteAt_0 5 rfl rfl)
theorem dX0_byteAt_6 : decode cX0_byteAt 6 = .ok (.sipush 255, 3) := dk_17 0 255 (dk_at dksX0_byteAt_0 6 rfl rfl)
theorem dX0_byteAt_9 : decode cX0_byteAt 9 = .ok (.iand, 1) := dk_126 (dk_at dksX0_byteAt_0 9 rfl rfl)
theorem dX0_byteAt_10 : decode cX0_byteAt 10 = .ok (.ireturn, 1) := dk_172 (dk_at dksX0_byteAt_0 10 rfl rfl)
abbrev cX0_sources : ByteArray := prog_1_method_40_code
def yX0_sources : MethodName := ⟨RX0, "sources", "(II)I"⟩
def dkwX0_sources_2 : List UInt8 := [21, 4, 120, 167, 0, 4, 3, 128, 62, 132, 4, 1, 167, 255, 222, 29, 172]
abbrev dktX0_sources_2 : List UInt8 := dkwX0_sources_2 ++ []
def dkwX0_sources_1 : List UInt8 := [54, 4, 21, 4, 42, 182, 0, 154, 162, 0, 31, 29, 42, 21, 4, 27, 28, 182, 1, 14, 153, 0, 10, 4]
abbrev dktX0_sources_1 : List UInt8 := dkwX0_sources_1 ++ dktX0_sources_2
def dkwX0_sources_0 : List UInt8 := [42, 27, 182, 0, 203, 153, 0, 14, 42, 28, 3, 16, 20, 182, 0, 248, 154, 0, 5, 2, 172, 3, 62, 3]
abbrev dktX0_sources_0 : List UInt8 := dkwX0_sources_0 ++ dktX0_sources_1
theorem dksX0_sources_0 : cX0_sources.data.toList.drop 0 = dktX0_sources_0 := by decide +kernel
theorem dksX0_sources_1 : cX0_sources.data.toList.drop 24 = dktX0_sources_1 := dk_seg dksX0_sources_0 24 rfl rfl
theorem dksX0_sources_2 : cX0_sources.data.toList.drop 48 = dktX0_sources_2 := dk_seg dksX0_sources_1 24 rfl rfl
theorem dX0_sources_0 : decode cX0_sources 0 = .ok (.aload_n 0, 1) := dk_42 (dk_at dksX0_sources_0 0 rfl rfl)
theorem dX0_sources_1 : decode cX0_sources 1 = .ok (.iload_n 1, 1) := dk_27 (dk_at dksX0_sources_0 1 rfl rfl)
theorem dX0_sources_2 : decode cX0_sources 2 = .ok (.invokevirtual 203, 3) := dk_182 0 203 (dk_at dksX0_sources_0 2 rfl rfl)
theorem dX0_sources_5 : decode cX0_sources 5 = .ok (.ifCond .eq 14, 3) := dk_153 0 14 (dk_at dksX0_sources_0 5 rfl rfl)
theorem dX0_sources_8 : decode cX0_sources 8 = .ok (.aload_n 0, 1) := dk_42 (dk_at dksX0_sources_0 8 rfl rfl)
theorem dX0_sources_9 : decode cX0_sources 9 = .ok (.iload_n 2, 1) := dk_28 (dk_at dksX0_sources_0 9 rfl rfl)
theorem dX0_sources_10 : decode cX0_sources 10 = .ok (.iconst 0, 1) := dk_3 (dk_at dksX0_sources_0 10 rfl rfl)
theorem dX0_sources_11 : decode cX0_sources 11 = .ok (.bipush 20, 2) := dk_16 20 (dk_at dksX0_sources_0 11 rfl rfl)
theorem dX0_sources_13 : decode cX0_sources 13 = .ok (.invokevirtual 248, 3) := dk_182 0 248 (dk_at dksX0_sources_0 13 rfl rfl)
theorem dX0_sources_16 : decode cX0_sources 16 = .ok (.ifCond .ne 5, 3) := dk_154 0 5 (dk_at dksX0_sources_0 16 rfl rfl)
theorem dX0_sources_19 : decode cX0_sources 19 = .ok (.iconst (-1), 1) := dk_2 (dk_at dksX0_sources_0 19 rfl rfl)
theorem dX0_sources_20 : decode cX0_sources 20 = .ok (.ireturn, 1) := dk_172 (dk_at dksX0_sources_0 20 rfl rfl)
theorem dX0_sources_21 : decode cX0_sources 21 = .ok (.iconst 0, 1) := dk_3 (dk_at dksX0_sources_0 21 rfl rfl)
theorem dX0_sources_22 : decode cX0_sources 22 = .ok (.istore_n 3, 1) := dk_62 (dk_at dksX0_sources_0 22 rfl rfl)
theorem dX0_sources_23 : decode cX0_sources 23 = .ok (.iconst 0, 1) := dk_3 (dk_at dksX0_sources_0 23 rfl rfl)
theorem dX0_sources_24 : decode cX0_sources 24 = .ok (.istore 4, 2) := dk_54 4 (dk_at dksX0_sources_1 0 rfl rfl)
theorem dX0_sources_26 : decode cX0_sources 26 = .ok (.iload 4, 2) := dk_21 4 (dk_at dksX0_sources_1 2 rfl rfl)
theorem dX0_sources_28 : decode cX0_sources 28 = .ok (.aload_n 0, 1) := dk_42 (dk_at dksX0_sources_1 4 rfl rfl)
theorem dX0_sources_29 : decode cX0_sources 29 = .ok (.invokevirtual 154, 3) := dk_182 0 154 (dk_at dksX0_sources_1 5 rfl rfl)
theorem dX0_sources_32 : decode cX0_sources 32 = .ok (.if_icmp .ge 31, 3) := dk_162 0 31 (dk_at dksX0_sources_1 8 rfl rfl)
theorem dX0_sources_35 : decode cX0_sources 35 = .ok (.iload_n 3, 1) := dk_29 (dk_at dksX0_sources_1 11 rfl rfl)
theorem dX0_sources_36 : decode cX0_sources 36 = .ok (.aload_n 0, 1) := dk_42 (dk_at dksX0_sources_1 12 rfl rfl)
theorem dX0_sources_37 : decode cX0_sources 37 = .ok (.iload 4, 2) := dk_21 4 (dk_at dksX0_sources_1 13 rfl rfl)
theorem dX0_sources_39 : decode cX0_sources 39 = .ok (.iload_n 1, 1) := dk_27 (dk_at dksX0_sources_1 15 rfl rfl)
theorem dX0_sources_40 : decode cX0_sources 40 = .ok (.iload_n 2, 1) := dk_28 (dk_at dksX0_sources_1 16 rfl rfl)
theorem dX0_sources_41 : decode cX0_sources 41 = .ok (.invokevirtual 270, 3) := dk_182 1 14 (dk_at dksX0_sources_1 17 rfl rfl)
theorem dX0_sources_44 : decode cX0_sources 44 = .ok (.ifCond .eq 10, 3) := dk_153 0 10 (dk_at dksX0_sources_1 20 rfl rfl)
theorem dX0_sources_47 : decode cX0_sources 47 = .ok (.iconst 1, 1) := dk_4 (dk_at dksX0_sources_1 23 rfl rfl)
theorem dX0_sources_48 : decode cX0_sources 48 = .ok (.iload 4, 2) := dk_21 4 (dk_at dksX0_sources_2 0 rfl rfl)
theorem dX0_sources_50 : decode cX0_sources 50 = .ok (.ishl, 1) := dk_120 (dk_at dksX0_sources_2 2 rfl rfl)
theorem dX0_sources_51 : decode cX0_sources 51 = .ok (.goto 4, 3) := dk_167 0 4 (dk_at dksX0_sources_2 3 rfl rfl)
theorem dX0_sources_54 : decode cX0_sources 54 = .ok (.iconst 0, 1) := dk_3 (dk_at dksX0_sources_2 6 rfl rfl)
theorem dX0_sources_55 : decode cX0_sources 55 = .ok (.ior, 1) := dk_128 (dk_at dksX0_sources_2 7 rfl rfl)
theorem dX0_sources_56 : decode cX0_sources 56 = .ok (.istore_n 3, 1) := dk_62 (dk_at dksX0_sources_2 8 rfl rfl)
theorem dX0_sources_57 : decode cX0_sources 57 = .ok (.iinc 4 1, 3) := dk_132 4 1 (dk_at dksX0_sources_2 9 rfl rfl)
theorem dX0_sources_60 : decode cX0_sources 60 = .ok (.goto (-34), 3) := dk_167 255 222 (dk_at dksX0_sources_2 12 rfl rfl)
theorem dX0_sources_63 : decode cX0_sources 63 = .ok (.iload_n 3, 1) := dk_29 (dk_at dksX0_sources_2 15 rfl rfl)
theorem dX0_sources_64 : decode cX0_sources 64 = .ok (.ireturn, 1) := dk_172 (dk_at dksX0_sources_2 16 rfl rfl)
abbrev cX0_isSource : ByteArray := prog_1_method_39_code
def yX0_isSource : MethodName := ⟨RX0, "isSource", "(III)Z"⟩
def dkwX0_isSource_6 : List UInt8 := [180, 0, 79, 21, 4, 46, 159, 0, 5, 3, 172, 132, 4, 1, 167, 255, 217, 4, 172]
abbrev dktX0_isSource_6 : List UInt8 := dkwX0_isSource_6 ++ []
def dkwX0_isSource_5 : List UInt8 := [180, 0, 134, 162, 0, 36, 42, 180, 0, 73, 42, 180, 0, 76, 21, 4, 46, 28, 182, 0, 199, 42]
abbrev dktX0_isSource_5 : List UInt8 := dkwX0_isSource_5 ++ dktX0_isSource_6
def dkwX0_isSource_4 : List UInt8 := [92, 46, 4, 28, 120, 128, 79, 42, 180, 0, 73, 29, 182, 0, 255, 87, 3, 54, 4, 21, 4, 42]
abbrev dktX0_isSource_4 : List UInt8 := dkwX0_isSource_4 ++ dktX0_isSource_5
def dkwX0_isSource_3 : List UInt8 := [180, 0, 73, 180, 0, 225, 27, 92, 46, 4, 28, 120, 2, 130, 126, 79, 42, 180, 0, 73, 180, 0, 228, 27]
abbrev dktX0_isSource_3 : List UInt8 := dkwX0_isSource_3 ++ dktX0_isSource_4
def dkwX0_isSource_2 : List UInt8 := [182, 0, 199, 5, 160, 0, 13, 42, 180, 0, 73, 21, 4, 28, 182, 1, 7, 132, 4, 1, 167, 255, 220, 42]
abbrev dktX0_isSource_2 : List UInt8 := dkwX0_isSource_2 ++ dktX0_isSource_3
def dkwX0_isSource_1 : List UInt8 := [182, 0, 251, 87, 3, 54, 4, 21, 4, 42, 182, 0, 154, 162, 0, 33, 42, 180, 0, 69, 21, 4, 28]
abbrev dktX0_isSource_1 : List UInt8 := dkwX0_isSource_1 ++ dktX0_isSource_2
def dkwX0_isSource_0 : List UInt8 := [42, 180, 0, 69, 27, 28, 182, 0, 199, 154, 0, 5, 3, 172, 42, 180, 0, 73, 42, 180, 0, 69]
abbrev dktX0_isSource_0 : List UInt8 := dkwX0_isSource_0 ++ dktX0_isSource_1
theorem dksX0_isSource_0 : cX0_isSource.data.toList.drop 0 = dktX0_isSource_0 := by decide +kernel
theorem dksX0_isSource_1 : cX0_isSource.data.toList.drop 22 = dktX0_isSource_1 := dk_seg dksX0_isSource_0 22 rfl rfl
theorem dksX0_isSource_2 : cX0_isSource.data.toList.drop 45 = dktX0_isSource_2 := dk_seg dksX0_isSource_1 23 rfl rfl
theorem dksX0_isSource_3 : cX0_isSource.data.toList.drop 69 = dktX0_isSource_3 := dk_seg dksX0_isSource_2 24 rfl rfl
theorem dksX0_isSource_4 : cX0_isSource.data.toList.drop 93 = dktX0_isSource_4 := dk_seg dksX0_isSource_3 24 rfl rfl
theorem dksX0_isSource_5 : cX0_isSource.data.toList.drop 115 = dktX0_isSource_5 := dk_seg dksX0_isSource_4 22 rfl rfl
theorem dksX0_isSource_6 : cX0_isSource.data.toList.drop 137 = dktX0_isSource_6 := dk_seg dksX0_isSource_5 22 rfl rfl
theorem dX0_isSource_0 : decode cX0_isSource 0 = .ok (.aload_n 0, 1) := dk_42 (dk_at dksX0_isSource_0 0 rfl rfl)
theorem dX0_isSource_1 : decode cX0_isSource 1 = .ok (.getfield 69, 3) := dk_180 0 69 (dk_at dksX0_isSource_0 1 rfl rfl)
theorem dX0_isSource_4 : decode cX0_isSource 4 = .ok (.iload_n 1, 1) := dk_27 (dk_at dksX0_isSource_0 4 rfl rfl)
theorem dX0_isSource_5 : decode cX0_isSource 5 = .ok (.iload_n 2, 1) := dk_28 (dk_at dksX0_isSource_0 5 rfl rfl)
theorem dX0_isSource_6 : decode cX0_isSource 6 = .ok (.invokevirtual 199, 3) := dk_182 0 199 (dk_at dksX0_isSource_0 6 rfl rfl)
theorem dX0_isSource_9 : decode cX0_isSource 9 = .ok (.ifCond .ne 5, 3) := dk_154 0 5 (dk_at dksX0_isSource_0 9 rfl rfl)
theorem dX0_isSource_12 : decode cX0_isSource 12 = .ok (.iconst 0, 1) := dk_3 (dk_at dksX0_isSource_0 12 rfl rfl)
theorem dX0_isSource_13 : decode cX0_isSource 13 = .ok (.ireturn, 1) := dk_172 (dk_at dksX0_isSource_0 13 rfl rfl)
theorem dX0_isSource_14 : decode cX0_isSource 14 = .ok (.aload_n 0, 1) := dk_42 (dk_at dksX0_isSource_0 14 rfl rfl)
theorem dX0_isSource_15 : decode cX0_isSource 15 = .ok (.getfield 73, 3) := dk_180 0 73 (dk_at dksX0_isSource_0 15 rfl rfl)
theorem dX0_isSource_18 : decode cX0_isSource 18 = .ok (.aload_n 0, 1) := dk_42 (dk_at dksX0_isSource_0 18 rfl rfl)
theorem dX0_isSource_19 : decode cX0_isSource 19 = .ok (.getfield 69, 3) := dk_180 0 69 (dk_at dksX0_isSource_0 19 rfl rfl)
theorem dX0_isSource_22 : decode cX0_isSource 22 = .ok (.invokevirtual 251, 3) := dk_182 0 251 (dk_at dksX0_isSource_1 0 rfl rfl)
theorem dX0_isSource_25 : decode cX0_isSource 25 = .ok (.pop, 1) := dk_87 (dk_at dksX0_isSource_1 3 rfl rfl)
theorem dX0_isSource_26 : decode cX0_isSource 26 = .ok (.iconst 0, 1) := dk_3 (dk_at dksX0_isSource_1 4 rfl rfl)
theorem dX0_isSource_27 : decode cX0_isSource 27 = .ok (.istore 4, 2) := dk_54 4 (dk_at dksX0_isSource_1 5 rfl rfl)
theorem dX0_isSource_29 : decode cX0_isSource 29 = .ok (.iload 4, 2) := dk_21 4 (dk_at dksX0_isSource_1 7 rfl rfl)
theorem dX0_isSource_31 : decode cX0_isSource 31 = .ok (.aload_n 0, 1) := dk_42 (dk_at dksX0_isSource_1 9 rfl rfl)
theorem dX0_isSource_32 : decode cX0_isSource 32 = .ok (.invokevirtual 154, 3) := dk_182 0 154 (dk_at dksX0_isSource_1 10 rfl rfl)
theorem dX0_isSource_35 : decode cX0_isSource 35 = .ok (.if_icmp .ge 33, 3) := dk_162 0 33 (dk_at dksX0_isSource_1 13 rfl rfl)
theorem dX0_isSource_38 : decode cX0_isSource 38 = .ok (.aload_n 0, 1) := dk_42 (dk_at dksX0_isSource_1 16 rfl rfl)
theorem dX0_isSource_39 : decode cX0_isSource 39 = .ok (.getfield 69, 3) := dk_180 0 69 (dk_at dksX0_isSource_1 17 rfl rfl)
theorem dX0_isSource_42 : decode cX0_isSource 42 = .ok (.iload 4, 2) := dk_21 4 (dk_at dksX0_isSource_1 20 rfl rfl)
theorem dX0_isSource_44 : decode cX0_isSource 44 = .ok (.iload_n 2, 1) := dk_28 (dk_at dksX0_isSource_1 22 rfl rfl)
theorem dX0_isSource_45 : decode cX0_isSource 45 = .ok (.invokevirtual 199, 3) := dk_182 0 199 (dk_at dksX0_isSource_2 0 rfl rfl)
theorem dX0_isSource_48 : decode cX0_isSource 48 = .ok (.iconst 2, 1) := dk_5 (dk_at dksX0_isSource_2 3 rfl rfl)
theorem dX0_isSource_49 : decode cX0_isSource 49 = .ok (.if_icmp .ne 13, 3) := dk_160 0 13 (dk_at dksX0_isSource_2 4 rfl rfl)
theorem dX0_isSource_52 : decode cX0_isSource 52 = .ok (.aload_n 0, 1) := dk_42 (dk_at dksX0_isSource_2 7 rfl rfl)
theorem dX0_isSource_53 : decode cX0_isSource 53 = .ok (.getfield 73, 3) := dk_180 0 73 (dk_at dksX0_isSource_2 8 rfl rfl)
theorem dX0_isSource_56 : decode cX0_isSource 56 = .ok (.iload 4, 2) := dk_21 4 (dk_at dksX0_isSource_2 11 rfl rfl)
theorem dX0_isSource_58 : decode cX0_isSource 58 = .ok (.iload_n 2, 1) := dk_28 (dk_at dksX0_isSource_2 13 rfl rfl)
theorem dX0_isSource_59 : decode cX0_isSource 59 = .ok (.invokevirtual 263, 3) := dk_182 1 7 (dk_at dksX0_isSource_2 14 rfl rfl)
theorem dX0_isSource_62 : decode cX0_isSource 62 = .ok (.iinc 4 1, 3) := dk_132 4 1 (dk_at dksX0_isSource_2 17 rfl rfl)
theorem dX0_isSource_65 : decode cX0_isSource 65 = .ok (.goto (-36), 3) := dk_167 255 220 (dk_at dksX0_isSource_2 20 rfl rfl)
theorem dX0_isSource_68 : decode cX0_isSource 68 = .ok (.aload_n 0, 1) := dk_42 (dk_at dksX0_isSource_2 23 rfl rfl)
theorem dX0_isSource_69 : decode cX0_isSource 69 = .ok (.getfield 73, 3) := dk_180 0 73 (dk_at dksX0_isSource_3 0 rfl rfl)
theorem dX0_isSource_72 : decode cX0_isSource 72 = .ok (.getfield 225, 3) := dk_180 0 225 (dk_at dksX0_isSource_3 3 rfl rfl)
theorem dX0_isSource_75 : decode cX0_isSource 75 = .ok (.iload_n 1, 1) := dk_27 (dk_at dksX0_isSource_3 6 rfl rfl)
theorem dX0_isSource_76 : decode cX0_isSource 76 = .ok (.dup2, 1) := dk_92 (dk_at dksX0_isSource_3 7 rfl rfl)
theorem dX0_isSource_77 : decode cX0_isSource 77 = .ok (.iaload, 1) := dk_46 (dk_at dksX0_isSource_3 8 rfl rfl)
theorem dX0_isSource_78 : decode cX0_isSource 78 = .ok (.iconst 1, 1) := dk_4 (dk_at dksX0_isSource_3 9 rfl rfl)
theorem dX0_isSource_79 : decode cX0_isSource 79 = .ok (.iload_n 2, 1) := dk_28 (dk_at dksX0_isSource_3 10 rfl rfl)
theorem dX0_isSource_80 : decode cX0_isSource 80 = .ok (.ishl, 1) := dk_120 (dk_at dksX0_isSource_3 11 rfl rfl)
theorem dX0_isSource_81 : decode cX0_isSource 81 = .ok (.iconst (-1), 1) := dk_2 (dk_at dksX0_isSource_3 12 rfl rfl)
theorem dX0_isSource_82 : decode cX0_isSource 82 = .ok (.ixor, 1) := dk_130 (dk_at dksX0_isSource_3 13 rfl rfl)
theorem dX0_isSource_83 : decode cX0_isSource 83 = .ok (.iand, 1) := dk_126 (dk_at dksX0_isSource_3 14 rfl rfl)
theorem dX0_isSource_84 : decode cX0_isSource 84 = .ok (.iastore, 1) := dk_79 (dk_at dksX0_isSource_3 15 rfl rfl)
theorem dX0_isSource_85 : decode cX0_isSource 85 = .ok (.aload_n 0, 1) := dk_42 (dk_at dksX0_isSource_3 16 rfl rfl)
theorem dX0_isSource_86 : decode cX0_isSource 86 = .ok (.getfield 73, 3) := dk_180 0 73 (dk_at dksX0_isSource_3 17 rfl rfl)
theorem dX0_isSource_89 : decode cX0_isSource 89 = .ok (.getfield 228, 3) := dk_180 0 228 (dk_at dksX0_isSource_3 20 rfl rfl)
theorem dX0_isSource_92 : decode cX0_isSource 92 = .ok (.iload_n 1, 1) := dk_27 (dk_at dksX0_isSource_3 23 rfl rfl)
theorem dX0_isSource_93 : decode cX0_isSource 93 = .ok (.dup2, 1) := dk_92 (dk_at dksX0_isSource_4 0 rfl rfl)
theorem dX0_isSource_94 : decode cX0_isSource 94 = .ok (.iaload, 1) := dk_46 (dk_at dksX0_isSource_4 1 rfl rfl)
theorem dX0_isSource_95 : decode cX0_isSource 95 = .ok (.iconst 1, 1) := dk_4 (dk_at dksX0_isSource_4 2 rfl rfl)
theorem dX0_isSource_96 : decode cX0_isSource 96 = .ok (.iload_n 2, 1) := dk_28 (dk_at dksX0_isSource_4 3 rfl rfl)
theorem dX0_isSource_97 : decode cX0_isSource 97 = .ok (.ishl, 1) := dk_120 (dk_at dksX0_isSource_4 4 rfl rfl)
theorem dX0_isSource_98 : decode cX0_isSource 98 = .ok (.ior, 1) := dk_128 (dk_at dksX0_isSource_4 5 rfl rfl)
theorem dX0_isSource_99 : decode cX0_isSource 99 = .ok (.iastore, 1) := dk_79 (dk_at dksX0_isSource_4 6 rfl rfl)
theorem dX0_isSource_100 : decode cX0_isSource 100 = .ok (.aload_n 0, 1) := dk_42 (dk_at dksX0_isSource_4 7 rfl rfl)
theorem dX0_isSource_101 : decode cX0_isSource 101 = .ok (.getfield 73, 3) := dk_180 0 73 (dk_at dksX0_isSource_4 8 rfl rfl)
theorem dX0_isSource_104 : decode cX0_isSource 104 = .ok (.iload_n 3, 1) := dk_29 (dk_at dksX0_isSource_4 11 rfl rfl)
theorem dX0_isSource_105 : decode cX0_isSource 105 = .ok (.invokevirtual 255, 3) := dk_182 0 255 (dk_at dksX0_isSource_4 12 rfl rfl)
theorem dX0_isSource_108 : decode cX0_isSource 108 = .ok (.pop, 1) := dk_87 (dk_at dksX0_isSource_4 15 rfl rfl)
theorem dX0_isSource_109 : decode cX0_isSource 109 = .ok (.iconst 0, 1) := dk_3 (dk_at dksX0_isSource_4 16 rfl rfl)
theorem dX0_isSource_110 : decode cX0_isSource 110 = .ok (.istore 4, 2) := dk_54 4 (dk_at dksX0_isSource_4 17 rfl rfl)
theorem dX0_isSource_112 : decode cX0_isSource 112 = .ok (.iload 4, 2) := dk_21 4 (dk_at dksX0_isSource_4 19 rfl rfl)
theorem dX0_isSource_114 : decode cX0_isSource 114 = .ok (.aload_n 0, 1) := dk_42 (dk_at dksX0_isSource_4 21 rfl rfl)
theorem dX0_isSource_115 : decode cX0_isSource 115 = .ok (.getfield 134, 3) := dk_180 0 134 (dk_at dksX0_isSource_5 0 rfl rfl)
theorem dX0_isSource_118 : decode cX0_isSource 118 = .ok (.if_icmp .ge 36, 3) := dk_162 0 36 (dk_at dksX0_isSource_5 3 rfl rfl)
theorem dX0_isSource_121 : decode cX0_isSource 121 = .ok (.aload_n 0, 1) := dk_42 (dk_at dksX0_isSource_5 6 rfl rfl)
theorem dX0_isSource_122 : decode cX0_isSource 122 = .ok (.getfield 73, 3) := dk_180 0 73 (dk_at dksX0_isSource_5 7 rfl rfl)
theorem dX0_isSource_125 : decode cX0_isSource 125 = .ok (.aload_n 0, 1) := dk_42 (dk_at dksX0_isSource_5 10 rfl rfl)
theorem dX0_isSource_126 : decode cX0_isSource 126 = .ok (.getfield 76, 3) := dk_180 0 76 (dk_at dksX0_isSource_5 11 rfl rfl)
theorem dX0_isSource_129 : decode cX0_isSource 129 = .ok (.iload 4, 2) := dk_21 4 (dk_at dksX0_isSource_5 14 rfl rfl)
theorem dX0_isSource_131 : decode cX0_isSource 131 = .ok (.iaload, 1) := dk_46 (dk_at dksX0_isSource_5 16 rfl rfl)
theorem dX0_isSource_132 : decode cX0_isSource 132 = .ok (.iload_n 2, 1) := dk_28 (dk_at dksX0_isSource_5 17 rfl rfl)
theorem dX0_isSource_133 : decode cX0_isSource 133 = .ok (.invokevirtual 199, 3) := dk_182 0 199 (dk_at dksX0_isSource_5 18 rfl rfl)
theorem dX0_isSource_136 : decode cX0_isSource 136 = .ok (.aload_n 0, 1) := dk_42 (dk_at dksX0_isSource_5 21 rfl rfl)
theorem dX0_isSource_137 : decode cX0_isSource 137 = .ok (.getfield 79, 3) := dk_180 0 79 (dk_at dksX0_isSource_6 0 rfl rfl)
theorem dX0_isSource_140 : decode cX0_isSource 140 = .ok (.iload 4, 2) := dk_21 4 (dk_at dksX0_isSource_6 3 rfl rfl)
theorem dX0_isSource_142 : decode cX0_isSource 142 = .ok (.iaload, 1) := dk_46 (dk_at dksX0_isSource_6 5 rfl rfl)
theorem dX0_isSource_143 : decode cX0_isSource 143 = .ok (.if_icmp .eq 5, 3) := dk_159 0 5 (dk_at dksX0_isSource_6 6 rfl rfl)
theorem dX0_isSource_146 : decode cX0_isSource 146 = .ok (.iconst 0, 1) := dk_3 (dk_at dksX0_isSource_6 9 rfl rfl)
theorem dX0_isSource_147 : decode cX0_isSource 147 = .ok (.ireturn, 1) := dk_172 (dk_at dksX0_isSource_6 10 rfl rfl)
theorem dX0_isSource_148 : decode cX0_isSource 148 = .ok (.iinc 4 1, 3) := dk_132 4 1 (dk_at dksX0_isSource_6 11 rfl rfl)
theorem dX0_isSource_151 : decode cX0_isSource 151 = .ok (.goto (-39), 3) := dk_167 255 217 (dk_at dksX0_isSource_6 14 rfl rfl)
theorem dX0_isSource_154 : decode cX0_isSource 154 = .ok (.iconst 1, 1) := dk_4 (dk_at dksX0_isSource_6 17 rfl rfl)
theorem dX0_isSource_155 : decode cX0_isSource 155 = .ok (.ireturn, 1) := dk_172 (dk_at dksX0_isSource_6 18 rfl rfl)
abbrev cX0_probe : ByteArray := prog_1_method_41_code
def yX0_probe : MethodName := ⟨RX0, "probe", "(III)I"⟩
def dkwX0_probe_11 : List UInt8 := [167, 0, 5, 21, 6, 172]
abbrev dktX0_probe_11 : List UInt8 := dkwX0_probe_11 ++ []
def dkwX0_probe_10 : List UInt8 := [54, 6, 21, 7, 54, 5, 132, 7, 1, 167, 255, 186, 21, 5, 2, 159, 0, 7, 29, 154, 0, 8, 21, 5]
abbrev dktX0_probe_10 : List UInt8 := dkwX0_probe_10 ++ dktX0_probe_11
def dkwX0_probe_9 : List UInt8 := [50, 5, 46, 184, 1, 17, 184, 1, 17, 54, 8, 21, 8, 21, 6, 161, 0, 6, 167, 0, 11, 21, 8]
abbrev dktX0_probe_9 : List UInt8 := dkwX0_probe_9 ++ dktX0_probe_10
def dkwX0_probe_8 : List UInt8 := [42, 180, 0, 84, 21, 7, 50, 3, 46, 42, 180, 0, 84, 21, 7, 50, 4, 46, 42, 180, 0, 84, 21, 7]
abbrev dktX0_probe_8 : List UInt8 := dkwX0_probe_8 ++ dktX0_probe_9
def dkwX0_probe_7 : List UInt8 := [54, 5, 19, 1, 3, 54, 6, 3, 54, 7, 21, 7, 42, 182, 0, 154, 162, 0, 67, 21, 4, 158, 0, 62]
abbrev dktX0_probe_7 : List UInt8 := dkwX0_probe_7 ++ dktX0_probe_8
def dkwX0_probe_6 : List UInt8 := [21, 6, 27, 182, 0, 199, 92, 46, 4, 96, 79, 132, 6, 1, 167, 255, 222, 132, 5, 1, 167, 255, 187, 2]
abbrev dktX0_probe_6 : List UInt8 := dkwX0_probe_6 ++ dktX0_probe_7
def dkwX0_probe_5 : List UInt8 := [3, 54, 6, 21, 6, 42, 182, 0, 154, 162, 0, 31, 42, 180, 0, 84, 21, 6, 50, 42, 180, 0, 73]
abbrev dktX0_probe_5 : List UInt8 := dkwX0_probe_5 ++ dktX0_probe_6
def dkwX0_probe_4 : List UInt8 := [42, 182, 0, 154, 162, 0, 66, 42, 21, 5, 27, 28, 182, 1, 14, 154, 0, 6, 167, 0, 46, 132, 4, 1]
abbrev dktX0_probe_4 : List UInt8 := dkwX0_probe_4 ++ dktX0_probe_5
def dkwX0_probe_3 : List UInt8 := [21, 8, 3, 79, 132, 8, 1, 167, 255, 241, 132, 6, 1, 167, 255, 218, 3, 54, 4, 3, 54, 5, 21, 5]
abbrev dktX0_probe_3 : List UInt8 := dkwX0_probe_3 ++ dktX0_probe_4
def dkwX0_probe_2 : List UInt8 := [21, 5, 162, 0, 37, 25, 4, 21, 6, 50, 58, 7, 3, 54, 8, 21, 8, 6, 162, 0, 15, 25, 7]
abbrev dktX0_probe_2 : List UInt8 := dkwX0_probe_2 ++ dktX0_probe_3
def dkwX0_probe_1 : List UInt8 := [184, 0, 192, 154, 0, 5, 2, 172, 42, 180, 0, 84, 58, 4, 25, 4, 190, 54, 5, 3, 54, 6, 21, 6]
abbrev dktX0_probe_1 : List UInt8 := dkwX0_probe_1 ++ dktX0_probe_2
def dkwX0_probe_0 : List UInt8 := [42, 27, 182, 0, 203, 153, 0, 23, 42, 28, 3, 16, 20, 182, 0, 248, 153, 0, 12, 29, 3, 4]
abbrev dktX0_probe_0 : List UInt8 := dkwX0_probe_0 ++ dktX0_probe_1
theorem dksX0_probe_0 : cX0_probe.data.toList.drop 0 = dktX0_probe_0 := by decide +kernel
theorem dksX0_probe_1 : cX0_probe.data.toList.drop 22 = dktX0_probe_1 := dk_seg dksX0_probe_0 22 rfl rfl
theorem dksX0_probe_2 : cX0_probe.data.toList.drop 46 = dktX0_probe_2 := dk_seg dksX0_probe_1 24 rfl rfl
theorem dksX0_probe_3 : cX0_probe.data.toList.drop 69 = dktX0_probe_3 := dk_seg dksX0_probe_2 23 rfl rfl
theorem dksX0_probe_4 : cX0_probe.data.toList.drop 93 = dktX0_probe_4 := dk_seg dksX0_probe_3 24 rfl rfl
theorem dksX0_probe_5 : cX0_probe.data.toList.drop 117 = dktX0_probe_5 := dk_seg dksX0_probe_4 24 rfl rfl
theorem dksX0_probe_6 : cX0_probe.data.toList.drop 140 = dktX0_probe_6 := dk_seg dksX0_probe_5 23 rfl rfl
theorem dksX0_probe_7 : cX0_probe.data.toList.drop 164 = dktX0_probe_7 := dk_seg dksX0_probe_6 24 rfl rfl
theorem dksX0_probe_8 : cX0_probe.data.toList.drop 188 = dktX0_probe_8 := dk_seg dksX0_probe_7 24 rfl rfl
theorem dksX0_probe_9 : cX0_probe.data.toList.drop 212 = dktX0_probe_9 := dk_seg dksX0_probe_8 24 rfl rfl
theorem dksX0_probe_10 : cX0_probe.data.toList.drop 235 = dktX0_probe_10 := dk_seg dksX0_probe_9 23 rfl rfl
theorem dksX0_probe_11 : cX0_probe.data.toList.drop 259 = dktX0_probe_11 := dk_seg dksX0_probe_10 24 rfl rfl
theorem dX0_probe_0 : decode cX0_probe 0 = .ok (.aload_n 0, 1) := dk_42 (dk_at dksX0_probe_0 0 rfl rfl)
theorem dX0_probe_1 : decode cX0_probe 1 = .ok (.iload_n 1, 1) := dk_27 (dk_at dksX0_probe_0 1 rfl rfl)
theorem dX0_probe_2 : decode cX0_probe 2 = .ok (.invokevirtual 203, 3) := dk_182 0 203 (dk_at dksX0_probe_0 2 rfl rfl)
theorem dX0_probe_5 : decode cX0_probe 5 = .ok (.ifCond .eq 23, 3) := dk_153 0 23 (dk_at dksX0_probe_0 5 rfl rfl)
theorem dX0_probe_8 : decode cX0_probe 8 = .ok (.aload_n 0, 1) := dk_42 (dk_at dksX0_probe_0 8 rfl rfl)
theorem dX0_probe_9 : decode cX0_probe 9 = .ok (.iload_n 2, 1) := dk_28 (dk_at dksX0_probe_0 9 rfl rfl)
theorem dX0_probe_10 : decode cX0_probe 10 = .ok (.iconst 0, 1) := dk_3 (dk_at dksX0_probe_0 10 rfl rfl)
theorem dX0_probe_11 : decode cX0_probe 11 = .ok (.bipush 20, 2) := dk_16 20 (dk_at dksX0_probe_0 11 rfl rfl)
theorem dX0_probe_13 : decode cX0_probe 13 = .ok (.invokevirtual 248, 3) := dk_182 0 248 (dk_at dksX0_probe_0 13 rfl rfl)
theorem dX0_probe_16 : decode cX0_probe 16 = .ok (.ifCond .eq 12, 3) := dk_153 0 12 (dk_at dksX0_probe_0 16 rfl rfl)
theorem dX0_probe_19 : decode cX0_probe 19 = .ok (.iload_n 3, 1) := dk_29 (dk_at dksX0_probe_0 19 rfl rfl)
theorem dX0_probe_20 : decode cX0_probe 20 = .ok (.iconst 0, 1) := dk_3 (dk_at dksX0_probe_0 20 rfl rfl)
theorem dX0_probe_21 : decode cX0_probe 21 = .ok (.iconst 1, 1) := dk_4 (dk_at dksX0_probe_0 21 rfl rfl)
theorem dX0_probe_22 : decode cX0_probe 22 = .ok (.invokestatic 192, 3) := dk_184 0 192 (dk_at dksX0_probe_1 0 rfl rfl)
theorem dX0_probe_25 : decode cX0_probe 25 = .ok (.ifCond .ne 5, 3) := dk_154 0 5 (dk_at dksX0_probe_1 3 rfl rfl)
theorem dX0_probe_28 : decode cX0_probe 28 = .ok (.iconst (-1), 1) := dk_2 (dk_at dksX0_probe_1 6 rfl rfl)
theorem dX0_probe_29 : decode cX0_probe 29 = .ok (.ireturn, 1) := dk_172 (dk_at dksX0_probe_1 7 rfl rfl)
theorem dX0_probe_30 : decode cX0_probe 30 = .ok (.aload_n 0, 1) := dk_42 (dk_at dksX0_probe_1 8 rfl rfl)
theorem dX0_probe_31 : decode cX0_probe 31 = .ok (.getfield 84, 3) := dk_180 0 84 (dk_at dksX0_probe_1 9 rfl rfl)
theorem dX0_probe_34 : decode cX0_probe 34 = .ok (.astore 4, 2) := dk_58 4 (dk_at dksX0_probe_1 12 rfl rfl)
theorem dX0_probe_36 : decode cX0_probe 36 = .ok (.aload 4, 2) := dk_25 4 (dk_at dksX0_probe_1 14 rfl rfl)
theorem dX0_probe_38 : decode cX0_probe 38 = .ok (.arraylength, 1) := dk_190 (dk_at dksX0_probe_1 16 rfl rfl)
theorem dX0_probe_39 : decode cX0_probe 39 = .ok (.istore 5, 2) := dk_54 5 (dk_at dksX0_probe_1 17 rfl rfl)
theorem dX0_probe_41 : decode cX0_probe 41 = .ok (.iconst 0, 1) := dk_3 (dk_at dksX0_probe_1 19 rfl rfl)
theorem dX0_probe_42 : decode cX0_probe 42 = .ok (.istore 6, 2) := dk_54 6 (dk_at dksX0_probe_1 20 rfl rfl)
theorem dX0_probe_44 : decode cX0_probe 44 = .ok (.iload 6, 2) := dk_21 6 (dk_at dksX0_probe_1 22 rfl rfl)
theorem dX0_probe_46 : decode cX0_probe 46 = .ok (.iload 5, 2) := dk_21 5 (dk_at dksX0_probe_2 0 rfl rfl)
theorem dX0_probe_48 : decode cX0_probe 48 = .ok (.if_icmp .ge 37, 3) := dk_162 0 37 (dk_at dksX0_probe_2 2 rfl rfl)
theorem dX0_probe_51 : decode cX0_probe 51 = .ok (.aload 4, 2) := dk_25 4 (dk_at dksX0_probe_2 5 rfl rfl)
theorem dX0_probe_53 : decode cX0_probe 53 = .ok (.iload 6, 2) := dk_21 6 (dk_at dksX0_probe_2 7 rfl rfl)
theorem dX0_probe_55 : decode cX0_probe 55 = .ok (.aaload, 1) := dk_50 (dk_at dksX0_probe_2 9 rfl rfl)
theorem dX0_probe_56 : decode cX0_probe 56 = .ok (.astore 7, 2) := dk_58 7 (dk_at dksX0_probe_2 10 rfl rfl)
theorem dX0_probe_58 : decode cX0_probe 58 = .ok (.iconst 0, 1) := dk_3 (dk_at dksX0_probe_2 12 rfl rfl)
theorem dX0_probe_59 : decode cX0_probe 59 = .ok (.istore 8, 2) := dk_54 8 (dk_at dksX0_probe_2 13 rfl rfl)
theorem dX0_probe_61 : decode cX0_probe 61 = .ok (.iload 8, 2) := dk_21 8 (dk_at dksX0_probe_2 15 rfl rfl)
theorem dX0_probe_63 : decode cX0_probe 63 = .ok (.iconst 3, 1) := dk_6 (dk_at dksX0_probe_2 17 rfl rfl)
theorem dX0_probe_64 : decode cX0_probe 64 = .ok (.if_icmp .ge 15, 3) := dk_162 0 15 (dk_at dksX0_probe_2 18 rfl rfl)
theorem dX0_probe_67 : decode cX0_probe 67 = .ok (.aload 7, 2) := dk_25 7 (dk_at dksX0_probe_2 21 rfl rfl)
theorem dX0_probe_69 : decode cX0_probe 69 = .ok (.iload 8, 2) := dk_21 8 (dk_at dksX0_probe_3 0 rfl rfl)
theorem dX0_probe_71 : decode cX0_probe 71 = .ok (.iconst 0, 1) := dk_3 (dk_at dksX0_probe_3 2 rfl rfl)
theorem dX0_probe_72 : decode cX0_probe 72 = .ok (.iastore, 1) := dk_79 (dk_at dksX0_probe_3 3 rfl rfl)
theorem dX0_probe_73 : decode cX0_probe 73 = .ok (.iinc 8 1, 3) := dk_132 8 1 (dk_at dksX0_probe_3 4 rfl rfl)
theorem dX0_probe_76 : decode cX0_probe 76 = .ok (.goto (-15), 3) := dk_167 255 241 (dk_at dksX0_probe_3 7 rfl rfl)
theorem dX0_probe_79 : decode cX0_probe 79 = .ok (.iinc 6 1, 3) := dk_132 6 1 (dk_at dksX0_probe_3 10 rfl rfl)
theorem dX0_probe_82 : decode cX0_probe 82 = .ok (.goto (-38), 3) := dk_167 255 218 (dk_at dksX0_probe_3 13 rfl rfl)
theorem dX0_probe_85 : decode cX0_probe 85 = .ok (.iconst 0, 1) := dk_3 (dk_at dksX0_probe_3 16 rfl rfl)
theorem dX0_probe_86 : decode cX0_probe 86 = .ok (.istore 4, 2) := dk_54 4 (dk_at dksX0_probe_3 17 rfl rfl)
theorem dX0_probe_88 : decode cX0_probe 88 = .ok (.iconst 0, 1) := dk_3 (dk_at dksX0_probe_3 19 rfl rfl)
theorem dX0_probe_89 : decode cX0_probe 89 = .ok (.istore 5, 2) := dk_54 5 (dk_at dksX0_probe_3 20 rfl rfl)
theorem dX0_probe_91 : decode cX0_probe 91 = .ok (.iload 5, 2) := dk_21 5 (dk_at dksX0_probe_3 22 rfl rfl)
theorem dX0_probe_93 : decode cX0_probe 93 = .ok (.aload_n 0, 1) := dk_42 (dk_at dksX0_probe_4 0 rfl rfl)
theorem dX0_probe_94 : decode cX0_probe 94 = .ok (.invokevirtual 154, 3) := dk_182 0 154 (dk_at dksX0_probe_4 1 rfl rfl)
theorem dX0_probe_97 : decode cX0_probe 97 = .ok (.if_icmp .ge 66, 3) := dk_162 0 66 (dk_at dksX0_probe_4 4 rfl rfl)
theorem dX0_probe_100 : decode cX0_probe 100 = .ok (.aload_n 0, 1) := dk_42 (dk_at dksX0_probe_4 7 rfl rfl)
theorem dX0_probe_101 : decode cX0_probe 101 = .ok (.iload 5, 2) := dk_21 5 (dk_at dksX0_probe_4 8 rfl rfl)
theorem dX0_probe_103 : decode cX0_probe 103 = .ok (.iload_n 1, 1) := dk_27 (dk_at dksX0_probe_4 10 rfl rfl)
theorem dX0_probe_104 : decode cX0_probe 104 = .ok (.iload_n 2, 1) := dk_28 (dk_at dksX0_probe_4 11 rfl rfl)
theorem dX0_probe_105 : decode cX0_probe 105 = .ok (.invokevirtual 270, 3) := dk_182 1 14 (dk_at dksX0_probe_4 12 rfl rfl)
theorem dX0_probe_108 : decode cX0_probe 108 = .ok (.ifCond .ne 6, 3) := dk_154 0 6 (dk_at dksX0_probe_4 15 rfl rfl)
theorem dX0_probe_111 : decode cX0_probe 111 = .ok (.goto 46, 3) := dk_167 0 46 (dk_at dksX0_probe_4 18 rfl rfl)
theorem dX0_probe_114 : decode cX0_probe 114 = .ok (.iinc 4 1, 3) := dk_132 4 1 (dk_at dksX0_probe_4 21 rfl rfl)
theorem dX0_probe_117 : decode cX0_probe 117 = .ok (.iconst 0, 1) := dk_3 (dk_at dksX0_probe_5 0 rfl rfl)
theorem dX0_probe_118 : decode cX0_probe 118 = .ok (.istore 6, 2) := dk_54 6 (dk_at dksX0_probe_5 1 rfl rfl)
theorem dX0_probe_120 : decode cX0_probe 120 = .ok (.iload 6, 2) := dk_21 6 (dk_at dksX0_probe_5 3 rfl rfl)
theorem dX0_probe_122 : decode cX0_probe 122 = .ok (.aload_n 0, 1) := dk_42 (dk_at dksX0_probe_5 5 rfl rfl)
theorem dX0_probe_123 : decode cX0_probe 123 = .ok (.invokevirtual 154, 3) := dk_182 0 154 (dk_at dksX0_probe_5 6 rfl rfl)
theorem dX0_probe_126 : decode cX0_probe 126 = .ok (.if_icmp .ge 31, 3) := dk_162 0 31 (dk_at dksX0_probe_5 9 rfl rfl)
theorem dX0_probe_129 : decode cX0_probe 129 = .ok (.aload_n 0, 1) := dk_42 (dk_at dksX0_probe_5 12 rfl rfl)
theorem dX0_probe_130 : decode cX0_probe 130 = .ok (.getfield 84, 3) := dk_180 0 84 (dk_at dksX0_probe_5 13 rfl rfl)
theorem dX0_probe_133 : decode cX0_probe 133 = .ok (.iload 6, 2) := dk_21 6 (dk_at dksX0_probe_5 16 rfl rfl)
theorem dX0_probe_135 : decode cX0_probe 135 = .ok (.aaload, 1) := dk_50 (dk_at dksX0_probe_5 18 rfl rfl)
theorem dX0_probe_136 : decode cX0_probe 136 = .ok (.aload_n 0, 1) := dk_42 (dk_at dksX0_probe_5 19 rfl rfl)
theorem dX0_probe_137 : decode cX0_probe 137 = .ok (.getfield 73, 3) := dk_180 0 73 (dk_at dksX0_probe_5 20 rfl rfl)
theorem dX0_probe_140 : decode cX0_probe 140 = .ok (.iload 6, 2) := dk_21 6 (dk_at dksX0_probe_6 0 rfl rfl)
theorem dX0_probe_142 : decode cX0_probe 142 = .ok (.iload_n 1, 1) := dk_27 (dk_at dksX0_probe_6 2 rfl rfl)
theorem dX0_probe_143 : decode cX0_probe 143 = .ok (.invokevirtual 199, 3) := dk_182 0 199 (dk_at dksX0_probe_6 3 rfl rfl)
theorem dX0_probe_146 : decode cX0_probe 146 = .ok (.dup2, 1) := dk_92 (dk_at dksX0_probe_6 6 rfl rfl)
theorem dX0_probe_147 : decode cX0_probe 147 = .ok (.iaload, 1) := dk_46 (dk_at dksX0_probe_6 7 rfl rfl)
theorem dX0_probe_148 : decode cX0_probe 148 = .ok (.iconst 1, 1) := dk_4 (dk_at dksX0_probe_6 8 rfl rfl)
theorem dX0_probe_149 : decode cX0_probe 149 = .ok (.iadd, 1) := dk_96 (dk_at dksX0_probe_6 9 rfl rfl)
theorem dX0_probe_150 : decode cX0_probe 150 = .ok (.iastore, 1) := dk_79 (dk_at dksX0_probe_6 10 rfl rfl)
theorem dX0_probe_151 : decode cX0_probe 151 = .ok (.iinc 6 1, 3) := dk_132 6 1 (dk_at dksX0_probe_6 11 rfl rfl)
theorem dX0_probe_154 : decode cX0_probe 154 = .ok (.goto (-34), 3) := dk_167 255 222 (dk_at dksX0_probe_6 14 rfl rfl)
theorem dX0_probe_157 : decode cX0_probe 157 = .ok (.iinc 5 1, 3) := dk_132 5 1 (dk_at dksX0_probe_6 17 rfl rfl)
theorem dX0_probe_160 : decode cX0_probe 160 = .ok (.goto (-69), 3) := dk_167 255 187 (dk_at dksX0_probe_6 20 rfl rfl)
theorem dX0_probe_163 : decode cX0_probe 163 = .ok (.iconst (-1), 1) := dk_2 (dk_at dksX0_probe_6 23 rfl rfl)
theorem dX0_probe_164 : decode cX0_probe 164 = .ok (.istore 5, 2) := dk_54 5 (dk_at dksX0_probe_7 0 rfl rfl)
theorem dX0_probe_166 : decode cX0_probe 166 = .ok (.ldc_w 259, 3) := dk_19 1 3 (dk_at dksX0_probe_7 2 rfl rfl)
theorem dX0_probe_169 : decode cX0_probe 169 = .ok (.istore 6, 2) := dk_54 6 (dk_at dksX0_probe_7 5 rfl rfl)
theorem dX0_probe_171 : decode cX0_probe 171 = .ok (.iconst 0, 1) := dk_3 (dk_at dksX0_probe_7 7 rfl rfl)
theorem dX0_probe_172 : decode cX0_probe 172 = .ok (.istore 7, 2) := dk_54 7 (dk_at dksX0_probe_7 8 rfl rfl)
theorem dX0_probe_174 : decode cX0_probe 174 = .ok (.iload 7, 2) := dk_21 7 (dk_at dksX0_probe_7 10 rfl rfl)
theorem dX0_probe_176 : decode cX0_probe 176 = .ok (.aload_n 0, 1) := dk_42 (dk_at dksX0_probe_7 12 rfl rfl)
theorem dX0_probe_177 : decode cX0_probe 177 = .ok (.invokevirtual 154, 3) := dk_182 0 154 (dk_at dksX0_probe_7 13 rfl rfl)
theorem dX0_probe_180 : decode cX0_probe 180 = .ok (.if_icmp .ge 67, 3) := dk_162 0 67 (dk_at dksX0_probe_7 16 rfl rfl)
theorem dX0_probe_183 : decode cX0_probe 183 = .ok (.iload 4, 2) := dk_21 4 (dk_at dksX0_probe_7 19 rfl rfl)
theorem dX0_probe_185 : decode cX0_probe 185 = .ok (.ifCond .le 62, 3) := dk_158 0 62 (dk_at dksX0_probe_7 21 rfl rfl)
theorem dX0_probe_188 : decode cX0_probe 188 = .ok (.aload_n 0, 1) := dk_42 (dk_at dksX0_probe_8 0 rfl rfl)
theorem dX0_probe_189 : decode cX0_probe 189 = .ok (.getfield 84, 3) := dk_180 0 84 (dk_at dksX0_probe_8 1 rfl rfl)
theorem dX0_probe_192 : decode cX0_probe 192 = .ok (.iload 7, 2) := dk_21 7 (dk_at dksX0_probe_8 4 rfl rfl)
theorem dX0_probe_194 : decode cX0_probe 194 = .ok (.aaload, 1) := dk_50 (dk_at dksX0_probe_8 6 rfl rfl)
theorem dX0_probe_195 : decode cX0_probe 195 = .ok (.iconst 0, 1) := dk_3 (dk_at dksX0_probe_8 7 rfl rfl)
theorem dX0_probe_196 : decode cX0_probe 196 = .ok (.iaload, 1) := dk_46 (dk_at dksX0_probe_8 8 rfl rfl)
theorem dX0_probe_197 : decode cX0_probe 197 = .ok (.aload_n 0, 1) := dk_42 (dk_at dksX0_probe_8 9 rfl rfl)
theorem dX0_probe_198 : decode cX0_probe 198 = .ok (.getfield 84, 3) := dk_180 0 84 (dk_at dksX0_probe_8 10 rfl rfl)
theorem dX0_probe_201 : decode cX0_probe 201 = .ok (.iload 7, 2) := dk_21 7 (dk_at dksX0_probe_8 13 rfl rfl)
theorem dX0_probe_203 : decode cX0_probe 203 = .ok (.aaload, 1) := dk_50 (dk_at dksX0_probe_8 15 rfl rfl)
theorem dX0_probe_204 : decode cX0_probe 204 = .ok (.iconst 1, 1) := dk_4 (dk_at dksX0_probe_8 16 rfl rfl)
theorem dX0_probe_205 : decode cX0_probe 205 = .ok (.iaload, 1) := dk_46 (dk_at dksX0_probe_8 17 rfl rfl)
theorem dX0_probe_206 : decode cX0_probe 206 = .ok (.aload_n 0, 1) := dk_42 (dk_at dksX0_probe_8 18 rfl rfl)
theorem dX0_probe_207 : decode cX0_probe 207 = .ok (.getfield 84, 3) := dk_180 0 84 (dk_at dksX0_probe_8 19 rfl rfl)
theorem dX0_probe_210 : decode cX0_probe 210 = .ok (.iload 7, 2) := dk_21 7 (dk_at dksX0_probe_8 22 rfl rfl)
theorem dX0_probe_212 : decode cX0_probe 212 = .ok (.aaload, 1) := dk_50 (dk_at dksX0_probe_9 0 rfl rfl)
theorem dX0_probe_213 : decode cX0_probe 213 = .ok (.iconst 2, 1) := dk_5 (dk_at dksX0_probe_9 1 rfl rfl)
theorem dX0_probe_214 : decode cX0_probe 214 = .ok (.iaload, 1) := dk_46 (dk_at dksX0_probe_9 2 rfl rfl)
theorem dX0_probe_215 : decode cX0_probe 215 = .ok (.invokestatic 273, 3) := dk_184 1 17 (dk_at dksX0_probe_9 3 rfl rfl)
theorem dX0_probe_218 : decode cX0_probe 218 = .ok (.invokestatic 273, 3) := dk_184 1 17 (dk_at dksX0_probe_9 6 rfl rfl)
theorem dX0_probe_221 : decode cX0_probe 221 = .ok (.istore 8, 2) := dk_54 8 (dk_at dksX0_probe_9 9 rfl rfl)
theorem dX0_probe_223 : decode cX0_probe 223 = .ok (.iload 8, 2) := dk_21 8 (dk_at dksX0_probe_9 11 rfl rfl)
theorem dX0_probe_225 : decode cX0_probe 225 = .ok (.iload 6, 2) := dk_21 6 (dk_at dksX0_probe_9 13 rfl rfl)
theorem dX0_probe_227 : decode cX0_probe 227 = .ok (.if_icmp .lt 6, 3) := dk_161 0 6 (dk_at dksX0_probe_9 15 rfl rfl)
theorem dX0_probe_230 : decode cX0_probe 230 = .ok (.goto 11, 3) := dk_167 0 11 (dk_at dksX0_probe_9 18 rfl rfl)
theorem dX0_probe_233 : decode cX0_probe 233 = .ok (.iload 8, 2) := dk_21 8 (dk_at dksX0_probe_9 21 rfl rfl)
theorem dX0_probe_235 : decode cX0_probe 235 = .ok (.istore 6, 2) := dk_54 6 (dk_at dksX0_probe_10 0 rfl rfl)
theorem dX0_probe_237 : decode cX0_probe 237 = .ok (.iload 7, 2) := dk_21 7 (dk_at dksX0_probe_10 2 rfl rfl)
theorem dX0_probe_239 : decode cX0_probe 239 = .ok (.istore 5, 2) := dk_54 5 (dk_at dksX0_probe_10 4 rfl rfl)
theorem dX0_probe_241 : decode cX0_probe 241 = .ok (.iinc 7 1, 3) := dk_132 7 1 (dk_at dksX0_probe_10 6 rfl rfl)
theorem dX0_probe_244 : decode cX0_probe 244 = .ok (.goto (-70), 3) := dk_167 255 186 (dk_at dksX0_probe_10 9 rfl rfl)
theorem dX0_probe_247 : decode cX0_probe 247 = .ok (.iload 5, 2) := dk_21 5 (dk_at dksX0_probe_10 12 rfl rfl)
theorem dX0_probe_249 : decode cX0_probe 249 = .ok (.iconst (-1), 1) := dk_2 (dk_at dksX0_probe_10 14 rfl rfl)
theorem dX0_probe_250 : decode cX0_probe 250 = .ok (.if_icmp .eq 7, 3) := dk_159 0 7 (dk_at dksX0_probe_10 15 rfl rfl)
theorem dX0_probe_253 : decode cX0_probe 253 = .ok (.iload_n 3, 1) := dk_29 (dk_at dksX0_probe_10 18 rfl rfl)
theorem dX0_probe_254 : decode cX0_probe 254 = .ok (.ifCond .ne 8, 3) := dk_154 0 8 (dk_at dksX0_probe_10 19 rfl rfl)
theorem dX0_probe_257 : decode cX0_probe 257 = .ok (.iload 5, 2) := dk_21 5 (dk_at dksX0_probe_10 22 rfl rfl)
theorem dX0_probe_259 : decode cX0_probe 259 = .ok (.goto 5, 3) := dk_167 0 5 (dk_at dksX0_probe_11 0 rfl rfl)
theorem dX0_probe_262 : decode cX0_probe 262 = .ok (.iload 6, 2) := dk_21 6 (dk_at dksX0_probe_11 3 rfl rfl)
theorem dX0_probe_264 : decode cX0_probe 264 = .ok (.ireturn, 1) := dk_172 (dk_at dksX0_probe_11 5 rfl rfl)
abbrev cX0_part : ByteArray := prog_1_method_43_code
def yX0_part : MethodName := ⟨RX0, "part", "(II)I"⟩
def dkwX0_part_3 : List UInt8 := [21, 4, 62, 132, 4, 1, 167, 255, 211, 29, 172]
abbrev dktX0_part_3 : List UInt8 := dkwX0_part_3 ++ []
def dkwX0_part_2 : List UInt8 := [21, 4, 184, 0, 177, 29, 184, 0, 177, 162, 0, 17, 42, 27, 28, 21, 4, 182, 1, 22, 153, 0, 6]
abbrev dktX0_part_2 : List UInt8 := dkwX0_part_2 ++ dktX0_part_3
def dkwX0_part_1 : List UInt8 := [2, 172, 2, 62, 3, 54, 4, 21, 4, 4, 42, 182, 0, 152, 120, 162, 0, 40, 29, 2, 159, 0, 15]
abbrev dktX0_part_1 : List UInt8 := dkwX0_part_1 ++ dktX0_part_2
def dkwX0_part_0 : List UInt8 := [27, 155, 0, 23, 28, 155, 0, 19, 27, 28, 128, 42, 182, 1, 19, 163, 0, 9, 27, 28, 126, 153, 0, 5]
abbrev dktX0_part_0 : List UInt8 := dkwX0_part_0 ++ dktX0_part_1
theorem dksX0_part_0 : cX0_part.data.toList.drop 0 = dktX0_part_0 := by decide +kernel
theorem dksX0_part_1 : cX0_part.data.toList.drop 24 = dktX0_part_1 := dk_seg dksX0_part_0 24 rfl rfl
theorem dksX0_part_2 : cX0_part.data.toList.drop 47 = dktX0_part_2 := dk_seg dksX0_part_1 23 rfl rfl
theorem dksX0_part_3 : cX0_part.data.toList.drop 70 = dktX0_part_3 := dk_seg dksX0_part_2 23 rfl rfl
theorem dX0_part_0 : decode cX0_part 0 = .ok (.iload_n 1, 1) := dk_27 (dk_at dksX0_part_0 0 rfl rfl)
theorem dX0_part_1 : decode cX0_part 1 = .ok (.ifCond .lt 23, 3) := dk_155 0 23 (dk_at dksX0_part_0 1 rfl rfl)
theorem dX0_part_4 : decode cX0_part 4 = .ok (.iload_n 2, 1) := dk_28 (dk_at dksX0_part_0 4 rfl rfl)
theorem dX0_part_5 : decode cX0_part 5 = .ok (.ifCond .lt 19, 3) := dk_155 0 19 (dk_at dksX0_part_0 5 rfl rfl)
theorem dX0_part_8 : decode cX0_part 8 = .ok (.iload_n 1, 1) := dk_27 (dk_at dksX0_part_0 8 rfl rfl)
theorem dX0_part_9 : decode cX0_part 9 = .ok (.iload_n 2, 1) := dk_28 (dk_at dksX0_part_0 9 rfl rfl)
theorem dX0_part_10 : decode cX0_part 10 = .ok (.ior, 1) := dk_128 (dk_at dksX0_part_0 10 rfl rfl)
theorem dX0_part_11 : decode cX0_part 11 = .ok (.aload_n 0, 1) := dk_42 (dk_at dksX0_part_0 11 rfl rfl)
theorem dX0_part_12 : decode cX0_part 12 = .ok (.invokevirtual 275, 3) := dk_182 1 19 (dk_at dksX0_part_0 12 rfl rfl)
theorem dX0_part_15 : decode cX0_part 15 = .ok (.if_icmp .gt 9, 3) := dk_163 0 9 (dk_at dksX0_part_0 15 rfl rfl)
theorem dX0_part_18 : decode cX0_part 18 = .ok (.iload_n 1, 1) := dk_27 (dk_at dksX0_part_0 18 rfl rfl)
theorem dX0_part_19 : decode cX0_part 19 = .ok (.iload_n 2, 1) := dk_28 (dk_at dksX0_part_0 19 rfl rfl)
theorem dX0_part_20 : decode cX0_part 20 = .ok (.iand, 1) := dk_126 (dk_at dksX0_part_0 20 rfl rfl)
theorem dX0_part_21 : decode cX0_part 21 = .ok (.ifCond .eq 5, 3) := dk_153 0 5 (dk_at dksX0_part_0 21 rfl rfl)
theorem dX0_part_24 : decode cX0_part 24 = .ok (.iconst (-1), 1) := dk_2 (dk_at dksX0_part_1 0 rfl rfl)
theorem dX0_part_25 : decode cX0_part 25 = .ok (.ireturn, 1) := dk_172 (dk_at dksX0_part_1 1 rfl rfl)
theorem dX0_part_26 : decode cX0_part 26 = .ok (.iconst (-1), 1) := dk_2 (dk_at dksX0_part_1 2 rfl rfl)
theorem dX0_part_27 : decode cX0_part 27 = .ok (.istore_n 3, 1) := dk_62 (dk_at dksX0_part_1 3 rfl rfl)
theorem dX0_part_28 : decode cX0_part 28 = .ok (.iconst 0, 1) := dk_3 (dk_at dksX0_part_1 4 rfl rfl)
theorem dX0_part_29 : decode cX0_part 29 = .ok (.istore 4, 2) := dk_54 4 (dk_at dksX0_part_1 5 rfl rfl)
theorem dX0_part_31 : decode cX0_part 31 = .ok (.iload 4, 2) := dk_21 4 (dk_at dksX0_part_1 7 rfl rfl)
theorem dX0_part_33 : decode cX0_part 33 = .ok (.iconst 1, 1) := dk_4 (dk_at dksX0_part_1 9 rfl rfl)
theorem dX0_part_34 : decode cX0_part 34 = .ok (.aload_n 0, 1) := dk_42 (dk_at dksX0_part_1 10 rfl rfl)
theorem dX0_part_35 : decode cX0_part 35 = .ok (.invokevirtual 152, 3) := dk_182 0 152 (dk_at dksX0_part_1 11 rfl rfl)
theorem dX0_part_38 : decode cX0_part 38 = .ok (.ishl, 1) := dk_120 (dk_at dksX0_part_1 14 rfl rfl)
theorem dX0_part_39 : decode cX0_part 39 = .ok (.if_icmp .ge 40, 3) := dk_162 0 40 (dk_at dksX0_part_1 15 rfl rfl)
theorem dX0_part_42 : decode cX0_part 42 = .ok (.iload_n 3, 1) := dk_29 (dk_at dksX0_part_1 18 rfl rfl)
theorem dX0_part_43 : decode cX0_part 43 = .ok (.iconst (-1), 1) := dk_2 (dk_at dksX0_part_1 19 rfl rfl)
theorem dX0_part_44 : decode cX0_part 44 = .ok (.if_icmp .eq 15, 3) := dk_159 0 15 (dk_at dksX0_part_1 20 rfl rfl)
theorem dX0_part_47 : decode cX0_part 47 = .ok (.iload 4, 2) := dk_21 4 (dk_at dksX0_part_2 0 rfl rfl)
theorem dX0_part_49 : decode cX0_part 49 = .ok (.invokestatic 177, 3) := dk_184 0 177 (dk_at dksX0_part_2 2 rfl rfl)
theorem dX0_part_52 : decode cX0_part 52 = .ok (.iload_n 3, 1) := dk_29 (dk_at dksX0_part_2 5 rfl rfl)
theorem dX0_part_53 : decode cX0_part 53 = .ok (.invokestatic 177, 3) := dk_184 0 177 (dk_at dksX0_part_2 6 rfl rfl)
theorem dX0_part_56 : decode cX0_part 56 = .ok (.if_icmp .ge 17, 3) := dk_162 0 17 (dk_at dksX0_part_2 9 rfl rfl)
theorem dX0_part_59 : decode cX0_part 59 = .ok (.aload_n 0, 1) := dk_42 (dk_at dksX0_part_2 12 rfl rfl)
theorem dX0_part_60 : decode cX0_part 60 = .ok (.iload_n 1, 1) := dk_27 (dk_at dksX0_part_2 13 rfl rfl)
theorem dX0_part_61 : decode cX0_part 61 = .ok (.iload_n 2, 1) := dk_28 (dk_at dksX0_part_2 14 rfl rfl)
theorem dX0_part_62 : decode cX0_part 62 = .ok (.iload 4, 2) := dk_21 4 (dk_at dksX0_part_2 15 rfl rfl)
theorem dX0_part_64 : decode cX0_part 64 = .ok (.invokevirtual 278, 3) := dk_182 1 22 (dk_at dksX0_part_2 17 rfl rfl)
theorem dX0_part_67 : decode cX0_part 67 = .ok (.ifCond .eq 6, 3) := dk_153 0 6 (dk_at dksX0_part_2 20 rfl rfl)
theorem dX0_part_70 : decode cX0_part 70 = .ok (.iload 4, 2) := dk_21 4 (dk_at dksX0_part_3 0 rfl rfl)
theorem dX0_part_72 : decode cX0_part 72 = .ok (.istore_n 3, 1) := dk_62 (dk_at dksX0_part_3 2 rfl rfl)
theorem dX0_part_73 : decode cX0_part 73 = .ok (.iinc 4 1, 3) := dk_132 4 1 (dk_at dksX0_part_3 3 rfl rfl)
theorem dX0_part_76 : decode cX0_part 76 = .ok (.goto (-45), 3) := dk_167 255 211 (dk_at dksX0_part_3 6 rfl rfl)
theorem dX0_part_79 : decode cX0_part 79 = .ok (.iload_n 3, 1) := dk_29 (dk_at dksX0_part_3 9 rfl rfl)
theorem dX0_part_80 : decode cX0_part 80 = .ok (.ireturn, 1) := dk_172 (dk_at dksX0_part_3 10 rfl rfl)
abbrev cX0_allPeople : ByteArray := prog_1_method_21_code
def yX0_allPeople : MethodName := ⟨RX0, "allPeople", "()I"⟩
def dkwX0_allPeople_0 : List UInt8 := [4, 42, 182, 0, 154, 120, 4, 100, 172]
abbrev dktX0_allPeople_0 : List UInt8 := dkwX0_allPeople_0 ++ []
theorem dksX0_allPeople_0 : cX0_allPeople.data.toList.drop 0 = dktX0_allPeople_0 := by decide +kernel
theorem dX0_allPeople_0 : decode cX0_allPeople 0 = .ok (.iconst 1, 1) := dk_4 (dk_at dksX0_allPeople_0 0 rfl rfl)
theorem dX0_allPeople_1 : decode cX0_allPeople 1 = .ok (.aload_n 0, 1) := dk_42 (dk_at dksX0_allPeople_0 1 rfl rfl)
theorem dX0_allPeople_2 : decode cX0_allPeople 2 = .ok (.invokevirtual 154, 3) := dk_182 0 154 (dk_at dksX0_allPeople_0 2 rfl rfl)
theorem dX0_allPeople_5 : decode cX0_allPeople 5 = .ok (.ishl, 1) := dk_120 (dk_at dksX0_allPeople_0 5 rfl rfl)
theorem dX0_allPeople_6 : decode cX0_allPeople 6 = .ok (.iconst 1, 1) := dk_4 (dk_at dksX0_allPeople_0 6 rfl rfl)
theorem dX0_allPeople_7 : decode cX0_allPeople 7 = .ok (.isub, 1) := dk_100 (dk_at dksX0_allPeople_0 7 rfl rfl)
theorem dX0_allPeople_8 : decode cX0_allPeople 8 = .ok (.ireturn, 1) := dk_172 (dk_at dksX0_allPeople_0 8 rfl rfl)
abbrev cX0_areParted : ByteArray := prog_1_method_42_code
def yX0_areParted : MethodName := ⟨RX0, "areParted", "(III)Z"⟩
def dkwX0_areParted_3 : List UInt8 := [184, 0, 177, 163, 0, 5, 3, 172, 132, 5, 1, 167, 255, 191, 132, 4, 1, 167, 255, 173, 4, 172]
abbrev dktX0_areParted_3 : List UInt8 := dkwX0_areParted_3 ++ []
def dkwX0_areParted_2 : List UInt8 := [180, 0, 225, 21, 4, 46, 29, 126, 184, 0, 177, 42, 180, 0, 69, 180, 0, 225, 21, 5, 46, 29, 126]
abbrev dktX0_areParted_2 : List UInt8 := dkwX0_areParted_2 ++ dktX0_areParted_3
def dkwX0_areParted_1 : List UInt8 := [27, 21, 4, 184, 0, 234, 153, 0, 47, 28, 21, 5, 184, 0, 234, 153, 0, 38, 42, 180, 0, 69]
abbrev dktX0_areParted_1 : List UInt8 := dkwX0_areParted_1 ++ dktX0_areParted_2
def dkwX0_areParted_0 : List UInt8 := [3, 54, 4, 21, 4, 42, 182, 0, 154, 162, 0, 80, 3, 54, 5, 21, 5, 42, 182, 0, 154, 162, 0, 62]
abbrev dktX0_areParted_0 : List UInt8 := dkwX0_areParted_0 ++ dktX0_areParted_1
theorem dksX0_areParted_0 : cX0_areParted.data.toList.drop 0 = dktX0_areParted_0 := by decide +kernel
theorem dksX0_areParted_1 : cX0_areParted.data.toList.drop 24 = dktX0_areParted_1 := dk_seg dksX0_areParted_0 24 rfl rfl
theorem dksX0_areParted_2 : cX0_areParted.data.toList.drop 46 = dktX0_areParted_2 := dk_seg dksX0_areParted_1 22 rfl rfl
theorem dksX0_areParted_3 : cX0_areParted.data.toList.drop 69 = dktX0_areParted_3 := dk_seg dksX0_areParted_2 23 rfl rfl
theorem dX0_areParted_0 : decode cX0_areParted 0 = .ok (.iconst 0, 1) := dk_3 (dk_at dksX0_areParted_0 0 rfl rfl)
theorem dX0_areParted_1 : decode cX0_areParted 1 = .ok (.istore 4, 2) := dk_54 4 (dk_at dksX0_areParted_0 1 rfl rfl)
theorem dX0_areParted_3 : decode cX0_areParted 3 = .ok (.iload 4, 2) := dk_21 4 (dk_at dksX0_areParted_0 3 rfl rfl)
theorem dX0_areParted_5 : decode cX0_areParted 5 = .ok (.aload_n 0, 1) := dk_42 (dk_at dksX0_areParted_0 5 rfl rfl)
theorem dX0_areParted_6 : decode cX0_areParted 6 = .ok (.invokevirtual 154, 3) := dk_182 0 154 (dk_at dksX0_areParted_0 6 rfl rfl)
theorem dX0_areParted_9 : decode cX0_areParted 9 = .ok (.if_icmp .ge 80, 3) := dk_162 0 80 (dk_at dksX0_areParted_0 9 rfl rfl)
theorem dX0_areParted_12 : decode cX0_areParted 12 = .ok (.iconst 0, 1) := dk_3 (dk_at dksX0_areParted_0 12 rfl rfl)
theorem dX0_areParted_13 : decode cX0_areParted 13 = .ok (.istore 5, 2) := dk_54 5 (dk_at dksX0_areParted_0 13 rfl rfl)
theorem dX0_areParted_15 : decode cX0_areParted 15 = .ok (.iload 5, 2) := dk_21 5 (dk_at dksX0_areParted_0 15 rfl rfl)
theorem dX0_areParted_17 : decode cX0_areParted 17 = .ok (.aload_n 0, 1) := dk_42 (dk_at dksX0_areParted_0 17 rfl rfl)
theorem dX0_areParted_18 : decode cX0_areParted 18 = .ok (.invokevirtual 154, 3) := dk_182 0 154 (dk_at dksX0_areParted_0 18 rfl rfl)
theorem dX0_areParted_21 : decode cX0_areParted 21 = .ok (.if_icmp .ge 62, 3) := dk_162 0 62 (dk_at dksX0_areParted_0 21 rfl rfl)
theorem dX0_areParted_24 : decode cX0_areParted 24 = .ok (.iload_n 1, 1) := dk_27 (dk_at dksX0_areParted_1 0 rfl rfl)
theorem dX0_areParted_25 : decode cX0_areParted 25 = .ok (.iload 4, 2) := dk_21 4 (dk_at dksX0_areParted_1 1 rfl rfl)
theorem dX0_areParted_27 : decode cX0_areParted 27 = .ok (.invokestatic 234, 3) := dk_184 0 234 (dk_at dksX0_areParted_1 3 rfl rfl)
theorem dX0_areParted_30 : decode cX0_areParted 30 = .ok (.ifCond .eq 47, 3) := dk_153 0 47 (dk_at dksX0_areParted_1 6 rfl rfl)
theorem dX0_areParted_33 : decode cX0_areParted 33 = .ok (.iload_n 2, 1) := dk_28 (dk_at dksX0_areParted_1 9 rfl rfl)
theorem dX0_areParted_34 : decode cX0_areParted 34 = .ok (.iload 5, 2) := dk_21 5 (dk_at dksX0_areParted_1 10 rfl rfl)
theorem dX0_areParted_36 : decode cX0_areParted 36 = .ok (.invokestatic 234, 3) := dk_184 0 234 (dk_at dksX0_areParted_1 12 rfl rfl)
theorem dX0_areParted_39 : decode cX0_areParted 39 = .ok (.ifCond .eq 38, 3) := dk_153 0 38 (dk_at dksX0_areParted_1 15 rfl rfl)
theorem dX0_areParted_42 : decode cX0_areParted 42 = .ok (.aload_n 0, 1) := dk_42 (dk_at dksX0_areParted_1 18 rfl rfl)
theorem dX0_areParted_43 : decode cX0_areParted 43 = .ok (.getfield 69, 3) := dk_180 0 69 (dk_at dksX0_areParted_1 19 rfl rfl)
theorem dX0_areParted_46 : decode cX0_areParted 46 = .ok (.getfield 225, 3) := dk_180 0 225 (dk_at dksX0_areParted_2 0 rfl rfl)
theorem dX0_areParted_49 : decode cX0_areParted 49 = .ok (.iload 4, 2) := dk_21 4 (dk_at dksX0_areParted_2 3 rfl rfl)
theorem dX0_areParted_51 : decode cX0_areParted 51 = .ok (.iaload, 1) := dk_46 (dk_at dksX0_areParted_2 5 rfl rfl)
theorem dX0_areParted_52 : decode cX0_areParted 52 = .ok (.iload_n 3, 1) := dk_29 (dk_at dksX0_areParted_2 6 rfl rfl)
theorem dX0_areParted_53 : decode cX0_areParted 53 = .ok (.iand, 1) := dk_126 (dk_at dksX0_areParted_2 7 rfl rfl)
theorem dX0_areParted_54 : decode cX0_areParted 54 = .ok (.invokestatic 177, 3) := dk_184 0 177 (dk_at dksX0_areParted_2 8 rfl rfl)
theorem dX0_areParted_57 : decode cX0_areParted 57 = .ok (.aload_n 0, 1) := dk_42 (dk_at dksX0_areParted_2 11 rfl rfl)
theorem dX0_areParted_58 : decode cX0_areParted 58 = .ok (.getfield 69, 3) := dk_180 0 69 (dk_at dksX0_areParted_2 12 rfl rfl)
theorem dX0_areParted_61 : decode cX0_areParted 61 = .ok (.getfield 225, 3) := dk_180 0 225 (dk_at dksX0_areParted_2 15 rfl rfl)
theorem dX0_areParted_64 : decode cX0_areParted 64 = .ok (.iload 5, 2) := dk_21 5 (dk_at dksX0_areParted_2 18 rfl rfl)
theorem dX0_areParted_66 : decode cX0_areParted 66 = .ok (.iaload, 1) := dk_46 (dk_at dksX0_areParted_2 20 rfl rfl)
theorem dX0_areParted_67 : decode cX0_areParted 67 = .ok (.iload_n 3, 1) := dk_29 (dk_at dksX0_areParted_2 21 rfl rfl)
theorem dX0_areParted_68 : decode cX0_areParted 68 = .ok (.iand, 1) := dk_126 (dk_at dksX0_areParted_2 22 rfl rfl)
theorem dX0_areParted_69 : decode cX0_areParted 69 = .ok (.invokestatic 177, 3) := dk_184 0 177 (dk_at dksX0_areParted_3 0 rfl rfl)
theorem dX0_areParted_72 : decode cX0_areParted 72 = .ok (.if_icmp .gt 5, 3) := dk_163 0 5 (dk_at dksX0_areParted_3 3 rfl rfl)
theorem dX0_areParted_75 : decode cX0_areParted 75 = .ok (.iconst 0, 1) := dk_3 (dk_at dksX0_areParted_3 6 rfl rfl)
theorem dX0_areParted_76 : decode cX0_areParted 76 = .ok (.ireturn, 1) := dk_172 (dk_at dksX0_areParted_3 7 rfl rfl)
theorem dX0_areParted_77 : decode cX0_areParted 77 = .ok (.iinc 5 1, 3) := dk_132 5 1 (dk_at dksX0_areParted_3 8 rfl rfl)
theorem dX0_areParted_80 : decode cX0_areParted 80 = .ok (.goto (-65), 3) := dk_167 255 191 (dk_at dksX0_areParted_3 11 rfl rfl)
theorem dX0_areParted_83 : decode cX0_areParted 83 = .ok (.iinc 4 1, 3) := dk_132 4 1 (dk_at dksX0_areParted_3 14 rfl rfl)
theorem dX0_areParted_86 : decode cX0_areParted 86 = .ok (.goto (-83), 3) := dk_167 255 173 (dk_at dksX0_areParted_3 17 rfl rfl)
theorem dX0_areParted_89 : decode cX0_areParted 89 = .ok (.iconst 1, 1) := dk_4 (dk_at dksX0_areParted_3 20 rfl rfl)
theorem dX0_areParted_90 : decode cX0_areParted 90 = .ok (.ireturn, 1) := dk_172 (dk_at dksX0_areParted_3 21 rfl rfl)
abbrev cX0_undo : ByteArray := prog_1_method_45_code
def yX0_undo : MethodName := ⟨RX0, "undo", "()Z"⟩
def dkwX0_undo_2 : List UInt8 := [87, 4, 172]
abbrev dktX0_undo_2 : List UInt8 := dkwX0_undo_2 ++ []
def dkwX0_undo_1 : List UInt8 := [180, 0, 131, 4, 100, 181, 0, 131, 42, 180, 0, 69, 42, 180, 0, 87, 42, 180, 0, 131, 50, 182, 0, 251]
abbrev dktX0_undo_1 : List UInt8 := dkwX0_undo_1 ++ dktX0_undo_2
def dkwX0_undo_0 : List UInt8 := [42, 180, 0, 131, 154, 0, 17, 42, 7, 182, 0, 101, 155, 0, 7, 4, 167, 0, 4, 3, 172, 42, 89]
abbrev dktX0_undo_0 : List UInt8 := dkwX0_undo_0 ++ dktX0_undo_1
theorem dksX0_undo_0 : cX0_undo.data.toList.drop 0 = dktX0_undo_0 := by decide +kernel
theorem dksX0_undo_1 : cX0_undo.data.toList.drop 23 = dktX0_undo_1 := dk_seg dksX0_undo_0 23 rfl rfl
theorem dksX0_undo_2 : cX0_undo.data.toList.drop 47 = dktX0_undo_2 := dk_seg dksX0_undo_1 24 rfl rfl
theorem dX0_undo_0 : decode cX0_undo 0 = .ok (.aload_n 0, 1) := dk_42 (dk_at dksX0_undo_0 0 rfl rfl)
theorem dX0_undo_1 : decode cX0_undo 1 = .ok (.getfield 131, 3) := dk_180 0 131 (dk_at dksX0_undo_0 1 rfl rfl)
theorem dX0_undo_4 : decode cX0_undo 4 = .ok (.ifCond .ne 17, 3) := dk_154 0 17 (dk_at dksX0_undo_0 4 rfl rfl)
theorem dX0_undo_7 : decode cX0_undo 7 = .ok (.aload_n 0, 1) := dk_42 (dk_at dksX0_undo_0 7 rfl rfl)
theorem dX0_undo_8 : decode cX0_undo 8 = .ok (.iconst 4, 1) := dk_7 (dk_at dksX0_undo_0 8 rfl rfl)
theorem dX0_undo_9 : decode cX0_undo 9 = .ok (.invokevirtual 101, 3) := dk_182 0 101 (dk_at dksX0_undo_0 9 rfl rfl)
theorem dX0_undo_12 : decode cX0_undo 12 = .ok (.ifCond .lt 7, 3) := dk_155 0 7 (dk_at dksX0_undo_0 12 rfl rfl)
theorem dX0_undo_15 : decode cX0_undo 15 = .ok (.iconst 1, 1) := dk_4 (dk_at dksX0_undo_0 15 rfl rfl)
theorem dX0_undo_16 : decode cX0_undo 16 = .ok (.goto 4, 3) := dk_167 0 4 (dk_at dksX0_undo_0 16 rfl rfl)
theorem dX0_undo_19 : decode cX0_undo 19 = .ok (.iconst 0, 1) := dk_3 (dk_at dksX0_undo_0 19 rfl rfl)
theorem dX0_undo_20 : decode cX0_undo 20 = .ok (.ireturn, 1) := dk_172 (dk_at dksX0_undo_0 20 rfl rfl)
theorem dX0_undo_21 : decode cX0_undo 21 = .ok (.aload_n 0, 1) := dk_42 (dk_at dksX0_undo_0 21 rfl rfl)
theorem dX0_undo_22 : decode cX0_undo 22 = .ok (.dup, 1) := dk_89 (dk_at dksX0_undo_0 22 rfl rfl)
theorem dX0_undo_23 : decode cX0_undo 23 = .ok (.getfield 131, 3) := dk_180 0 131 (dk_at dksX0_undo_1 0 rfl rfl)
theorem dX0_undo_26 : decode cX0_undo 26 = .ok (.iconst 1, 1) := dk_4 (dk_at dksX0_undo_1 3 rfl rfl)
theorem dX0_undo_27 : decode cX0_undo 27 = .ok (.isub, 1) := dk_100 (dk_at dksX0_undo_1 4 rfl rfl)
theorem dX0_undo_28 : decode cX0_undo 28 = .ok (.putfield 131, 3) := dk_181 0 131 (dk_at dksX0_undo_1 5 rfl rfl)
theorem dX0_undo_31 : decode cX0_undo 31 = .ok (.aload_n 0, 1) := dk_42 (dk_at dksX0_undo_1 8 rfl rfl)
theorem dX0_undo_32 : decode cX0_undo 32 = .ok (.getfield 69, 3) := dk_180 0 69 (dk_at dksX0_undo_1 9 rfl rfl)
theorem dX0_undo_35 : decode cX0_undo 35 = .ok (.aload_n 0, 1) := dk_42 (dk_at dksX0_undo_1 12 rfl rfl)
theorem dX0_undo_36 : decode cX0_undo 36 = .ok (.getfield 87, 3) := dk_180 0 87 (dk_at dksX0_undo_1 13 rfl rfl)
theorem dX0_undo_39 : decode cX0_undo 39 = .ok (.aload_n 0, 1) := dk_42 (dk_at dksX0_undo_1 16 rfl rfl)
theorem dX0_undo_40 : decode cX0_undo 40 = .ok (.getfield 131, 3) := dk_180 0 131 (dk_at dksX0_undo_1 17 rfl rfl)
theorem dX0_undo_43 : decode cX0_undo 43 = .ok (.aaload, 1) := dk_50 (dk_at dksX0_undo_1 20 rfl rfl)
theorem dX0_undo_44 : decode cX0_undo 44 = .ok (.invokevirtual 251, 3) := dk_182 0 251 (dk_at dksX0_undo_1 21 rfl rfl)
theorem dX0_undo_47 : decode cX0_undo 47 = .ok (.pop, 1) := dk_87 (dk_at dksX0_undo_2 0 rfl rfl)
theorem dX0_undo_48 : decode cX0_undo 48 = .ok (.iconst 1, 1) := dk_4 (dk_at dksX0_undo_2 1 rfl rfl)
theorem dX0_undo_49 : decode cX0_undo 49 = .ok (.ireturn, 1) := dk_172 (dk_at dksX0_undo_2 2 rfl rfl)
abbrev cX0_teach : ByteArray := prog_1_method_46_code
def yX0_teach : MethodName := ⟨RX0, "teach", "(II)Z"⟩
def dkwX0_teach_3 : List UInt8 := [180, 0, 219, 27, 28, 79, 4, 172]
abbrev dktX0_teach_3 : List UInt8 := dkwX0_teach_3 ++ []
def dkwX0_teach_2 : List UInt8 := [42, 5, 182, 0, 101, 155, 0, 7, 4, 167, 0, 4, 3, 172, 42, 182, 1, 25, 42, 180, 0, 69]
abbrev dktX0_teach_2 : List UInt8 := dkwX0_teach_2 ++ dktX0_teach_3
def dkwX0_teach_1 : List UInt8 := [180, 0, 69, 28, 27, 182, 1, 4, 154, 0, 16, 42, 180, 0, 69, 180, 0, 219, 27, 46, 28, 160, 0, 17]
abbrev dktX0_teach_1 : List UInt8 := dkwX0_teach_1 ++ dktX0_teach_2
def dkwX0_teach_0 : List UInt8 := [42, 27, 182, 0, 213, 153, 0, 41, 28, 2, 159, 0, 23, 42, 28, 182, 0, 213, 153, 0, 28, 42]
abbrev dktX0_teach_0 : List UInt8 := dkwX0_teach_0 ++ dktX0_teach_1
theorem dksX0_teach_0 : cX0_teach.data.toList.drop 0 = dktX0_teach_0 := by decide +kernel
theorem dksX0_teach_1 : cX0_teach.data.toList.drop 22 = dktX0_teach_1 := dk_seg dksX0_teach_0 22 rfl rfl
theorem dksX0_teach_2 : cX0_teach.data.toList.drop 46 = dktX0_teach_2 := dk_seg dksX0_teach_1 24 rfl rfl
theorem dksX0_teach_3 : cX0_teach.data.toList.drop 68 = dktX0_teach_3 := dk_seg dksX0_teach_2 22 rfl rfl
theorem dX0_teach_0 : decode cX0_teach 0 = .ok (.aload_n 0, 1) := dk_42 (dk_at dksX0_teach_0 0 rfl rfl)
theorem dX0_teach_1 : decode cX0_teach 1 = .ok (.iload_n 1, 1) := dk_27 (dk_at dksX0_teach_0 1 rfl rfl)
theorem dX0_teach_2 : decode cX0_teach 2 = .ok (.invokevirtual 213, 3) := dk_182 0 213 (dk_at dksX0_teach_0 2 rfl rfl)
theorem dX0_teach_5 : decode cX0_teach 5 = .ok (.ifCond .eq 41, 3) := dk_153 0 41 (dk_at dksX0_teach_0 5 rfl rfl)
theorem dX0_teach_8 : decode cX0_teach 8 = .ok (.iload_n 2, 1) := dk_28 (dk_at dksX0_teach_0 8 rfl rfl)
theorem dX0_teach_9 : decode cX0_teach 9 = .ok (.iconst (-1), 1) := dk_2 (dk_at dksX0_teach_0 9 rfl rfl)
theorem dX0_teach_10 : decode cX0_teach 10 = .ok (.if_icmp .eq 23, 3) := dk_159 0 23 (dk_at dksX0_teach_0 10 rfl rfl)
theorem dX0_teach_13 : decode cX0_teach 13 = .ok (.aload_n 0, 1) := dk_42 (dk_at dksX0_teach_0 13 rfl rfl)
theorem dX0_teach_14 : decode cX0_teach 14 = .ok (.iload_n 2, 1) := dk_28 (dk_at dksX0_teach_0 14 rfl rfl)
theorem dX0_teach_15 : decode cX0_teach 15 = .ok (.invokevirtual 213, 3) := dk_182 0 213 (dk_at dksX0_teach_0 15 rfl rfl)
theorem dX0_teach_18 : decode cX0_teach 18 = .ok (.ifCond .eq 28, 3) := dk_153 0 28 (dk_at dksX0_teach_0 18 rfl rfl)
theorem dX0_teach_21 : decode cX0_teach 21 = .ok (.aload_n 0, 1) := dk_42 (dk_at dksX0_teach_0 21 rfl rfl)
theorem dX0_teach_22 : decode cX0_teach 22 = .ok (.getfield 69, 3) := dk_180 0 69 (dk_at dksX0_teach_1 0 rfl rfl)
theorem dX0_teach_25 : decode cX0_teach 25 = .ok (.iload_n 2, 1) := dk_28 (dk_at dksX0_teach_1 3 rfl rfl)
theorem dX0_teach_26 : decode cX0_teach 26 = .ok (.iload_n 1, 1) := dk_27 (dk_at dksX0_teach_1 4 rfl rfl)
theorem dX0_teach_27 : decode cX0_teach 27 = .ok (.invokevirtual 260, 3) := dk_182 1 4 (dk_at dksX0_teach_1 5 rfl rfl)
theorem dX0_teach_30 : decode cX0_teach 30 = .ok (.ifCond .ne 16, 3) := dk_154 0 16 (dk_at dksX0_teach_1 8 rfl rfl)
theorem dX0_teach_33 : decode cX0_teach 33 = .ok (.aload_n 0, 1) := dk_42 (dk_at dksX0_teach_1 11 rfl rfl)
theorem dX0_teach_34 : decode cX0_teach 34 = .ok (.getfield 69, 3) := dk_180 0 69 (dk_at dksX0_teach_1 12 rfl rfl)
theorem dX0_teach_37 : decode cX0_teach 37 = .ok (.getfield 219, 3) := dk_180 0 219 (dk_at dksX0_teach_1 15 rfl rfl)
theorem dX0_teach_40 : decode cX0_teach 40 = .ok (.iload_n 1, 1) := dk_27 (dk_at dksX0_teach_1 18 rfl rfl)
theorem dX0_teach_41 : decode cX0_teach 41 = .ok (.iaload, 1) := dk_46 (dk_at dksX0_teach_1 19 rfl rfl)
theorem dX0_teach_42 : decode cX0_teach 42 = .ok (.iload_n 2, 1) := dk_28 (dk_at dksX0_teach_1 20 rfl rfl)
theorem dX0_teach_43 : decode cX0_teach 43 = .ok (.if_icmp .ne 17, 3) := dk_160 0 17 (dk_at dksX0_teach_1 21 rfl rfl)
theorem dX0_teach_46 : decode cX0_teach 46 = .ok (.aload_n 0, 1) := dk_42 (dk_at dksX0_teach_2 0 rfl rfl)
theorem dX0_teach_47 : decode cX0_teach 47 = .ok (.iconst 2, 1) := dk_5 (dk_at dksX0_teach_2 1 rfl rfl)
theorem dX0_teach_48 : decode cX0_teach 48 = .ok (.invokevirtual 101, 3) := dk_182 0 101 (dk_at dksX0_teach_2 2 rfl rfl)
theorem dX0_teach_51 : decode cX0_teach 51 = .ok (.ifCond .lt 7, 3) := dk_155 0 7 (dk_at dksX0_teach_2 5 rfl rfl)
theorem dX0_teach_54 : decode cX0_teach 54 = .ok (.iconst 1, 1) := dk_4 (dk_at dksX0_teach_2 8 rfl rfl)
theorem dX0_teach_55 : decode cX0_teach 55 = .ok (.goto 4, 3) := dk_167 0 4 (dk_at dksX0_teach_2 9 rfl rfl)
theorem dX0_teach_58 : decode cX0_teach 58 = .ok (.iconst 0, 1) := dk_3 (dk_at dksX0_teach_2 12 rfl rfl)
theorem dX0_teach_59 : decode cX0_teach 59 = .ok (.ireturn, 1) := dk_172 (dk_at dksX0_teach_2 13 rfl rfl)
theorem dX0_teach_60 : decode cX0_teach 60 = .ok (.aload_n 0, 1) := dk_42 (dk_at dksX0_teach_2 14 rfl rfl)
theorem dX0_teach_61 : decode cX0_teach 61 = .ok (.invokevirtual 281, 3) := dk_182 1 25 (dk_at dksX0_teach_2 15 rfl rfl)
theorem dX0_teach_64 : decode cX0_teach 64 = .ok (.aload_n 0, 1) := dk_42 (dk_at dksX0_teach_2 18 rfl rfl)
theorem dX0_teach_65 : decode cX0_teach 65 = .ok (.getfield 69, 3) := dk_180 0 69 (dk_at dksX0_teach_2 19 rfl rfl)
theorem dX0_teach_68 : decode cX0_teach 68 = .ok (.getfield 219, 3) := dk_180 0 219 (dk_at dksX0_teach_3 0 rfl rfl)
theorem dX0_teach_71 : decode cX0_teach 71 = .ok (.iload_n 1, 1) := dk_27 (dk_at dksX0_teach_3 3 rfl rfl)
theorem dX0_teach_72 : decode cX0_teach 72 = .ok (.iload_n 2, 1) := dk_28 (dk_at dksX0_teach_3 4 rfl rfl)
theorem dX0_teach_73 : decode cX0_teach 73 = .ok (.iastore, 1) := dk_79 (dk_at dksX0_teach_3 5 rfl rfl)
theorem dX0_teach_74 : decode cX0_teach 74 = .ok (.iconst 1, 1) := dk_4 (dk_at dksX0_teach_3 6 rfl rfl)
theorem dX0_teach_75 : decode cX0_teach 75 = .ok (.ireturn, 1) := dk_172 (dk_at dksX0_teach_3 7 rfl rfl)
abbrev cX0_keeps : ByteArray := prog_1_method_44_code
def yX0_keeps : MethodName := ⟨RX0, "keeps", "()V"⟩
def dkwX0_keeps_3 : List UInt8 := [180, 0, 69, 182, 0, 251, 87, 42, 89, 180, 0, 131, 4, 96, 181, 0, 131, 177]
abbrev dktX0_keeps_3 : List UInt8 := dkwX0_keeps_3 ++ []
def dkwX0_keeps_2 : List UInt8 := [16, 19, 43, 83, 42, 89, 180, 0, 131, 4, 100, 181, 0, 131, 42, 180, 0, 87, 42, 180, 0, 131, 50, 42]
abbrev dktX0_keeps_2 : List UInt8 := dkwX0_keeps_2 ++ dktX0_keeps_3
def dkwX0_keeps_1 : List UInt8 := [42, 180, 0, 87, 28, 4, 100, 42, 180, 0, 87, 28, 50, 83, 132, 2, 1, 167, 255, 233, 42, 180, 0, 87]
abbrev dktX0_keeps_1 : List UInt8 := dkwX0_keeps_1 ++ dktX0_keeps_2
def dkwX0_keeps_0 : List UInt8 := [42, 180, 0, 131, 16, 20, 160, 0, 56, 42, 180, 0, 87, 3, 50, 76, 4, 61, 28, 16, 20, 162, 0, 23]
abbrev dktX0_keeps_0 : List UInt8 := dkwX0_keeps_0 ++ dktX0_keeps_1
theorem dksX0_keeps_0 : cX0_keeps.data.toList.drop 0 = dktX0_keeps_0 := by decide +kernel
theorem dksX0_keeps_1 : cX0_keeps.data.toList.drop 24 = dktX0_keeps_1 := dk_seg dksX0_keeps_0 24 rfl rfl
theorem dksX0_keeps_2 : cX0_keeps.data.toList.drop 48 = dktX0_keeps_2 := dk_seg dksX0_keeps_1 24 rfl rfl
theorem dksX0_keeps_3 : cX0_keeps.data.toList.drop 72 = dktX0_keeps_3 := dk_seg dksX0_keeps_2 24 rfl rfl
theorem dX0_keeps_0 : decode cX0_keeps 0 = .ok (.aload_n 0, 1) := dk_42 (dk_at dksX0_keeps_0 0 rfl rfl)
theorem dX0_keeps_1 : decode cX0_keeps 1 = .ok (.getfield 131, 3) := dk_180 0 131 (dk_at dksX0_keeps_0 1 rfl rfl)
theorem dX0_keeps_4 : decode cX0_keeps 4 = .ok (.bipush 20, 2) := dk_16 20 (dk_at dksX0_keeps_0 4 rfl rfl)
theorem dX0_keeps_6 : decode cX0_keeps 6 = .ok (.if_icmp .ne 56, 3) := dk_160 0 56 (dk_at dksX0_keeps_0 6 rfl rfl)
theorem dX0_keeps_9 : decode cX0_keeps 9 = .ok (.aload_n 0, 1) := dk_42 (dk_at dksX0_keeps_0 9 rfl rfl)
theorem dX0_keeps_10 : decode cX0_keeps 10 = .ok (.getfield 87, 3) := dk_180 0 87 (dk_at dksX0_keeps_0 10 rfl rfl)
theorem dX0_keeps_13 : decode cX0_keeps 13 = .ok (.iconst 0, 1) := dk_3 (dk_at dksX0_keeps_0 13 rfl rfl)
theorem dX0_keeps_14 : decode cX0_keeps 14 = .ok (.aaload, 1) := dk_50 (dk_at dksX0_keeps_0 14 rfl rfl)
theorem dX0_keeps_15 : decode cX0_keeps 15 = .ok (.astore_n 1, 1) := dk_76 (dk_at dksX0_keeps_0 15 rfl rfl)
theorem dX0_keeps_16 : decode cX0_keeps 16 = .ok (.iconst 1, 1) := dk_4 (dk_at dksX0_keeps_0 16 rfl rfl)
theorem dX0_keeps_17 : decode cX0_keeps 17 = .ok (.istore_n 2, 1) := dk_61 (dk_at dksX0_keeps_0 17 rfl rfl)
theorem dX0_keeps_18 : decode cX0_keeps 18 = .ok (.iload_n 2, 1) := dk_28 (dk_at dksX0_keeps_0 18 rfl rfl)
theorem dX0_keeps_19 : decode cX0_keeps 19 = .ok (.bipush 20, 2) := dk_16 20 (dk_at dksX0_keeps_0 19 rfl rfl)
theorem dX0_keeps_21 : decode cX0_keeps 21 = .ok (.if_icmp .ge 23, 3) := dk_162 0 23 (dk_at dksX0_keeps_0 21 rfl rfl)
theorem dX0_keeps_24 : decode cX0_keeps 24 = .ok (.aload_n 0, 1) := dk_42 (dk_at dksX0_keeps_1 0 rfl rfl)
theorem dX0_keeps_25 : decode cX0_keeps 25 = .ok (.getfield 87, 3) := dk_180 0 87 (dk_at dksX0_keeps_1 1 rfl rfl)
theorem dX0_keeps_28 : decode cX0_keeps 28 = .ok (.iload_n 2, 1) := dk_28 (dk_at dksX0_keeps_1 4 rfl rfl)
theorem dX0_keeps_29 : decode cX0_keeps 29 = .ok (.iconst 1, 1) := dk_4 (dk_at dksX0_keeps_1 5 rfl rfl)
theorem dX0_keeps_30 : decode cX0_keeps 30 = .ok (.isub, 1) := dk_100 (dk_at dksX0_keeps_1 6 rfl rfl)
theorem dX0_keeps_31 : decode cX0_keeps 31 = .ok (.aload_n 0, 1) := dk_42 (dk_at dksX0_keeps_1 7 rfl rfl)
theorem dX0_keeps_32 : decode cX0_keeps 32 = .ok (.getfield 87, 3) := dk_180 0 87 (dk_at dksX0_keeps_1 8 rfl rfl)
theorem dX0_keeps_35 : decode cX0_keeps 35 = .ok (.iload_n 2, 1) := dk_28 (dk_at dksX0_keeps_1 11 rfl rfl)
theorem dX0_keeps_36 : decode cX0_keeps 36 = .ok (.aaload, 1) := dk_50 (dk_at dksX0_keeps_1 12 rfl rfl)
theorem dX0_keeps_37 : decode cX0_keeps 37 = .ok (.aastore, 1) := dk_83 (dk_at dksX0_keeps_1 13 rfl rfl)
theorem dX0_keeps_38 : decode cX0_keeps 38 = .ok (.iinc 2 1, 3) := dk_132 2 1 (dk_at dksX0_keeps_1 14 rfl rfl)
theorem dX0_keeps_41 : decode cX0_keeps 41 = .ok (.goto (-23), 3) := dk_167 255 233 (dk_at dksX0_keeps_1 17 rfl rfl)
theorem dX0_keeps_44 : decode cX0_keeps 44 = .ok (.aload_n 0, 1) := dk_42 (dk_at dksX0_keeps_1 20 rfl rfl)
theorem dX0_keeps_45 : decode cX0_keeps 45 = .ok (.getfield 87, 3) := dk_180 0 87 (dk_at dksX0_keeps_1 21 rfl rfl)
theorem dX0_keeps_48 : decode cX0_keeps 48 = .ok (.bipush 19, 2) := dk_16 19 (dk_at dksX0_keeps_2 0 rfl rfl)
theorem dX0_keeps_50 : decode cX0_keeps 50 = .ok (.aload_n 1, 1) := dk_43 (dk_at dksX0_keeps_2 2 rfl rfl)
theorem dX0_keeps_51 : decode cX0_keeps 51 = .ok (.aastore, 1) := dk_83 (dk_at dksX0_keeps_2 3 rfl rfl)
theorem dX0_keeps_52 : decode cX0_keeps 52 = .ok (.aload_n 0, 1) := dk_42 (dk_at dksX0_keeps_2 4 rfl rfl)
theorem dX0_keeps_53 : decode cX0_keeps 53 = .ok (.dup, 1) := dk_89 (dk_at dksX0_keeps_2 5 rfl rfl)
theorem dX0_keeps_54 : decode cX0_keeps 54 = .ok (.getfield 131, 3) := dk_180 0 131 (dk_at dksX0_keeps_2 6 rfl rfl)
theorem dX0_keeps_57 : decode cX0_keeps 57 = .ok (.iconst 1, 1) := dk_4 (dk_at dksX0_keeps_2 9 rfl rfl)
theorem dX0_keeps_58 : decode cX0_keeps 58 = .ok (.isub, 1) := dk_100 (dk_at dksX0_keeps_2 10 rfl rfl)
theorem dX0_keeps_59 : decode cX0_keeps 59 = .ok (.putfield 131, 3) := dk_181 0 131 (dk_at dksX0_keeps_2 11 rfl rfl)
theorem dX0_keeps_62 : decode cX0_keeps 62 = .ok (.aload_n 0, 1) := dk_42 (dk_at dksX0_keeps_2 14 rfl rfl)
theorem dX0_keeps_63 : decode cX0_keeps 63 = .ok (.getfield 87, 3) := dk_180 0 87 (dk_at dksX0_keeps_2 15 rfl rfl)
theorem dX0_keeps_66 : decode cX0_keeps 66 = .ok (.aload_n 0, 1) := dk_42 (dk_at dksX0_keeps_2 18 rfl rfl)
theorem dX0_keeps_67 : decode cX0_keeps 67 = .ok (.getfield 131, 3) := dk_180 0 131 (dk_at dksX0_keeps_2 19 rfl rfl)
theorem dX0_keeps_70 : decode cX0_keeps 70 = .ok (.aaload, 1) := dk_50 (dk_at dksX0_keeps_2 22 rfl rfl)
theorem dX0_keeps_71 : decode cX0_keeps 71 = .ok (.aload_n 0, 1) := dk_42 (dk_at dksX0_keeps_2 23 rfl rfl)
theorem dX0_keeps_72 : decode cX0_keeps 72 = .ok (.getfield 69, 3) := dk_180 0 69 (dk_at dksX0_keeps_3 0 rfl rfl)
theorem dX0_keeps_75 : decode cX0_keeps 75 = .ok (.invokevirtual 251, 3) := dk_182 0 251 (dk_at dksX0_keeps_3 3 rfl rfl)
theorem dX0_keeps_78 : decode cX0_keeps 78 = .ok (.pop, 1) := dk_87 (dk_at dksX0_keeps_3 6 rfl rfl)
theorem dX0_keeps_79 : decode cX0_keeps 79 = .ok (.aload_n 0, 1) := dk_42 (dk_at dksX0_keeps_3 7 rfl rfl)
theorem dX0_keeps_80 : decode cX0_keeps 80 = .ok (.dup, 1) := dk_89 (dk_at dksX0_keeps_3 8 rfl rfl)
theorem dX0_keeps_81 : decode cX0_keeps 81 = .ok (.getfield 131, 3) := dk_180 0 131 (dk_at dksX0_keeps_3 9 rfl rfl)
theorem dX0_keeps_84 : decode cX0_keeps 84 = .ok (.iconst 1, 1) := dk_4 (dk_at dksX0_keeps_3 12 rfl rfl)
theorem dX0_keeps_85 : decode cX0_keeps 85 = .ok (.iadd, 1) := dk_96 (dk_at dksX0_keeps_3 13 rfl rfl)
theorem dX0_keeps_86 : decode cX0_keeps 86 = .ok (.putfield 131, 3) := dk_181 0 131 (dk_at dksX0_keeps_3 14 rfl rfl)
theorem dX0_keeps_89 : decode cX0_keeps 89 = .ok (.return_, 1) := dk_177 (dk_at dksX0_keeps_3 17 rfl rfl)
abbrev cX0_tell : ByteArray := prog_1_method_47_code
def yX0_tell : MethodName := ⟨RX0, "tell", "(II)Z"⟩
def dkwX0_tell_2 : List UInt8 := [182, 1, 25, 42, 180, 0, 69, 27, 28, 182, 1, 7, 4, 172]
abbrev dktX0_tell_2 : List UInt8 := dkwX0_tell_2 ++ []
def dkwX0_tell_1 : List UInt8 := [46, 28, 184, 0, 234, 153, 0, 17, 42, 5, 182, 0, 101, 155, 0, 7, 4, 167, 0, 4, 3, 172, 42]
abbrev dktX0_tell_1 : List UInt8 := dkwX0_tell_1 ++ dktX0_tell_2
def dkwX0_tell_0 : List UInt8 := [42, 27, 182, 0, 213, 153, 0, 27, 42, 28, 182, 0, 203, 153, 0, 19, 42, 180, 0, 69, 180, 0, 225, 27]
abbrev dktX0_tell_0 : List UInt8 := dkwX0_tell_0 ++ dktX0_tell_1
theorem dksX0_tell_0 : cX0_tell.data.toList.drop 0 = dktX0_tell_0 := by decide +kernel
theorem dksX0_tell_1 : cX0_tell.data.toList.drop 24 = dktX0_tell_1 := dk_seg dksX0_tell_0 24 rfl rfl
theorem dksX0_tell_2 : cX0_tell.data.toList.drop 47 = dktX0_tell_2 := dk_seg dksX0_tell_1 23 rfl rfl
theorem dX0_tell_0 : decode cX0_tell 0 = .ok (.aload_n 0, 1) := dk_42 (dk_at dksX0_tell_0 0 rfl rfl)
theorem dX0_tell_1 : decode cX0_tell 1 = .ok (.iload_n 1, 1) := dk_27 (dk_at dksX0_tell_0 1 rfl rfl)
theorem dX0_tell_2 : decode cX0_tell 2 = .ok (.invokevirtual 213, 3) := dk_182 0 213 (dk_at dksX0_tell_0 2 rfl rfl)
theorem dX0_tell_5 : decode cX0_tell 5 = .ok (.ifCond .eq 27, 3) := dk_153 0 27 (dk_at dksX0_tell_0 5 rfl rfl)
theorem dX0_tell_8 : decode cX0_tell 8 = .ok (.aload_n 0, 1) := dk_42 (dk_at dksX0_tell_0 8 rfl rfl)
theorem dX0_tell_9 : decode cX0_tell 9 = .ok (.iload_n 2, 1) := dk_28 (dk_at dksX0_tell_0 9 rfl rfl)
theorem dX0_tell_10 : decode cX0_tell 10 = .ok (.invokevirtual 203, 3) := dk_182 0 203 (dk_at dksX0_tell_0 10 rfl rfl)
theorem dX0_tell_13 : decode cX0_tell 13 = .ok (.ifCond .eq 19, 3) := dk_153 0 19 (dk_at dksX0_tell_0 13 rfl rfl)
theorem dX0_tell_16 : decode cX0_tell 16 = .ok (.aload_n 0, 1) := dk_42 (dk_at dksX0_tell_0 16 rfl rfl)
theorem dX0_tell_17 : decode cX0_tell 17 = .ok (.getfield 69, 3) := dk_180 0 69 (dk_at dksX0_tell_0 17 rfl rfl)
theorem dX0_tell_20 : decode cX0_tell 20 = .ok (.getfield 225, 3) := dk_180 0 225 (dk_at dksX0_tell_0 20 rfl rfl)
theorem dX0_tell_23 : decode cX0_tell 23 = .ok (.iload_n 1, 1) := dk_27 (dk_at dksX0_tell_0 23 rfl rfl)
theorem dX0_tell_24 : decode cX0_tell 24 = .ok (.iaload, 1) := dk_46 (dk_at dksX0_tell_1 0 rfl rfl)
theorem dX0_tell_25 : decode cX0_tell 25 = .ok (.iload_n 2, 1) := dk_28 (dk_at dksX0_tell_1 1 rfl rfl)
theorem dX0_tell_26 : decode cX0_tell 26 = .ok (.invokestatic 234, 3) := dk_184 0 234 (dk_at dksX0_tell_1 2 rfl rfl)
theorem dX0_tell_29 : decode cX0_tell 29 = .ok (.ifCond .eq 17, 3) := dk_153 0 17 (dk_at dksX0_tell_1 5 rfl rfl)
theorem dX0_tell_32 : decode cX0_tell 32 = .ok (.aload_n 0, 1) := dk_42 (dk_at dksX0_tell_1 8 rfl rfl)
theorem dX0_tell_33 : decode cX0_tell 33 = .ok (.iconst 2, 1) := dk_5 (dk_at dksX0_tell_1 9 rfl rfl)
theorem dX0_tell_34 : decode cX0_tell 34 = .ok (.invokevirtual 101, 3) := dk_182 0 101 (dk_at dksX0_tell_1 10 rfl rfl)
theorem dX0_tell_37 : decode cX0_tell 37 = .ok (.ifCond .lt 7, 3) := dk_155 0 7 (dk_at dksX0_tell_1 13 rfl rfl)
theorem dX0_tell_40 : decode cX0_tell 40 = .ok (.iconst 1, 1) := dk_4 (dk_at dksX0_tell_1 16 rfl rfl)
theorem dX0_tell_41 : decode cX0_tell 41 = .ok (.goto 4, 3) := dk_167 0 4 (dk_at dksX0_tell_1 17 rfl rfl)
theorem dX0_tell_44 : decode cX0_tell 44 = .ok (.iconst 0, 1) := dk_3 (dk_at dksX0_tell_1 20 rfl rfl)
theorem dX0_tell_45 : decode cX0_tell 45 = .ok (.ireturn, 1) := dk_172 (dk_at dksX0_tell_1 21 rfl rfl)
theorem dX0_tell_46 : decode cX0_tell 46 = .ok (.aload_n 0, 1) := dk_42 (dk_at dksX0_tell_1 22 rfl rfl)
theorem dX0_tell_47 : decode cX0_tell 47 = .ok (.invokevirtual 281, 3) := dk_182 1 25 (dk_at dksX0_tell_2 0 rfl rfl)
theorem dX0_tell_50 : decode cX0_tell 50 = .ok (.aload_n 0, 1) := dk_42 (dk_at dksX0_tell_2 3 rfl rfl)
theorem dX0_tell_51 : decode cX0_tell 51 = .ok (.getfield 69, 3) := dk_180 0 69 (dk_at dksX0_tell_2 4 rfl rfl)
theorem dX0_tell_54 : decode cX0_tell 54 = .ok (.iload_n 1, 1) := dk_27 (dk_at dksX0_tell_2 7 rfl rfl)
theorem dX0_tell_55 : decode cX0_tell 55 = .ok (.iload_n 2, 1) := dk_28 (dk_at dksX0_tell_2 8 rfl rfl)
theorem dX0_tell_56 : decode cX0_tell 56 = .ok (.invokevirtual 263, 3) := dk_182 1 7 (dk_at dksX0_tell_2 9 rfl rfl)
theorem dX0_tell_59 : decode cX0_tell 59 = .ok (.iconst 1, 1) := dk_4 (dk_at dksX0_tell_2 12 rfl rfl)
theorem dX0_tell_60 : decode cX0_tell 60 = .ok (.ireturn, 1) := dk_172 (dk_at dksX0_tell_2 13 rfl rfl)
abbrev cX0_years : ByteArray := prog_1_method_48_code
def yX0_years : MethodName := ⟨RX0, "years", "(I)I"⟩
def dkwX0_years_2 : List UInt8 := [167, 255, 234, 28, 172]
abbrev dktX0_years_2 : List UInt8 := dkwX0_years_2 ++ []
def dkwX0_years_1 : List UInt8 := [62, 29, 27, 162, 0, 23, 28, 42, 180, 0, 69, 3, 182, 1, 27, 184, 0, 177, 96, 61, 132, 3, 1]
abbrev dktX0_years_1 : List UInt8 := dkwX0_years_1 ++ dktX0_years_2
def dkwX0_years_0 : List UInt8 := [42, 27, 4, 16, 100, 182, 0, 248, 154, 0, 9, 42, 6, 182, 0, 101, 172, 42, 182, 1, 25, 3, 61, 3]
abbrev dktX0_years_0 : List UInt8 := dkwX0_years_0 ++ dktX0_years_1
theorem dksX0_years_0 : cX0_years.data.toList.drop 0 = dktX0_years_0 := by decide +kernel
theorem dksX0_years_1 : cX0_years.data.toList.drop 24 = dktX0_years_1 := dk_seg dksX0_years_0 24 rfl rfl
theorem dksX0_years_2 : cX0_years.data.toList.drop 47 = dktX0_years_2 := dk_seg dksX0_years_1 23 rfl rfl
theorem dX0_years_0 : decode cX0_years 0 = .ok (.aload_n 0, 1) := dk_42 (dk_at dksX0_years_0 0 rfl rfl)
theorem dX0_years_1 : decode cX0_years 1 = .ok (.iload_n 1, 1) := dk_27 (dk_at dksX0_years_0 1 rfl rfl)
theorem dX0_years_2 : decode cX0_years 2 = .ok (.iconst 1, 1) := dk_4 (dk_at dksX0_years_0 2 rfl rfl)
theorem dX0_years_3 : decode cX0_years 3 = .ok (.bipush 100, 2) := dk_16 100 (dk_at dksX0_years_0 3 rfl rfl)
theorem dX0_years_5 : decode cX0_years 5 = .ok (.invokevirtual 248, 3) := dk_182 0 248 (dk_at dksX0_years_0 5 rfl rfl)
theorem dX0_years_8 : decode cX0_years 8 = .ok (.ifCond .ne 9, 3) := dk_154 0 9 (dk_at dksX0_years_0 8 rfl rfl)
theorem dX0_years_11 : decode cX0_years 11 = .ok (.aload_n 0, 1) := dk_42 (dk_at dksX0_years_0 11 rfl rfl)
theorem dX0_years_12 : decode cX0_years 12 = .ok (.iconst 3, 1) := dk_6 (dk_at dksX0_years_0 12 rfl rfl)
theorem dX0_years_13 : decode cX0_years 13 = .ok (.invokevirtual 101, 3) := dk_182 0 101 (dk_at dksX0_years_0 13 rfl rfl)
theorem dX0_years_16 : decode cX0_years 16 = .ok (.ireturn, 1) := dk_172 (dk_at dksX0_years_0 16 rfl rfl)
theorem dX0_years_17 : decode cX0_years 17 = .ok (.aload_n 0, 1) := dk_42 (dk_at dksX0_years_0 17 rfl rfl)
theorem dX0_years_18 : decode cX0_years 18 = .ok (.invokevirtual 281, 3) := dk_182 1 25 (dk_at dksX0_years_0 18 rfl rfl)
theorem dX0_years_21 : decode cX0_years 21 = .ok (.iconst 0, 1) := dk_3 (dk_at dksX0_years_0 21 rfl rfl)
theorem dX0_years_22 : decode cX0_years 22 = .ok (.istore_n 2, 1) := dk_61 (dk_at dksX0_years_0 22 rfl rfl)
theorem dX0_years_23 : decode cX0_years 23 = .ok (.iconst 0, 1) := dk_3 (dk_at dksX0_years_0 23 rfl rfl)
theorem dX0_years_24 : decode cX0_years 24 = .ok (.istore_n 3, 1) := dk_62 (dk_at dksX0_years_1 0 rfl rfl)
theorem dX0_years_25 : decode cX0_years 25 = .ok (.iload_n 3, 1) := dk_29 (dk_at dksX0_years_1 1 rfl rfl)
theorem dX0_years_26 : decode cX0_years 26 = .ok (.iload_n 1, 1) := dk_27 (dk_at dksX0_years_1 2 rfl rfl)
theorem dX0_years_27 : decode cX0_years 27 = .ok (.if_icmp .ge 23, 3) := dk_162 0 23 (dk_at dksX0_years_1 3 rfl rfl)
theorem dX0_years_30 : decode cX0_years 30 = .ok (.iload_n 2, 1) := dk_28 (dk_at dksX0_years_1 6 rfl rfl)
theorem dX0_years_31 : decode cX0_years 31 = .ok (.aload_n 0, 1) := dk_42 (dk_at dksX0_years_1 7 rfl rfl)
theorem dX0_years_32 : decode cX0_years 32 = .ok (.getfield 69, 3) := dk_180 0 69 (dk_at dksX0_years_1 8 rfl rfl)
theorem dX0_years_35 : decode cX0_years 35 = .ok (.iconst 0, 1) := dk_3 (dk_at dksX0_years_1 11 rfl rfl)
theorem dX0_years_36 : decode cX0_years 36 = .ok (.invokevirtual 283, 3) := dk_182 1 27 (dk_at dksX0_years_1 12 rfl rfl)
theorem dX0_years_39 : decode cX0_years 39 = .ok (.invokestatic 177, 3) := dk_184 0 177 (dk_at dksX0_years_1 15 rfl rfl)
theorem dX0_years_42 : decode cX0_years 42 = .ok (.iadd, 1) := dk_96 (dk_at dksX0_years_1 18 rfl rfl)
theorem dX0_years_43 : decode cX0_years 43 = .ok (.istore_n 2, 1) := dk_61 (dk_at dksX0_years_1 19 rfl rfl)
theorem dX0_years_44 : decode cX0_years 44 = .ok (.iinc 3 1, 3) := dk_132 3 1 (dk_at dksX0_years_1 20 rfl rfl)
theorem dX0_years_47 : decode cX0_years 47 = .ok (.goto (-22), 3) := dk_167 255 234 (dk_at dksX0_years_2 0 rfl rfl)
theorem dX0_years_50 : decode cX0_years 50 = .ok (.iload_n 2, 1) := dk_28 (dk_at dksX0_years_2 3 rfl rfl)
theorem dX0_years_51 : decode cX0_years 51 = .ok (.ireturn, 1) := dk_172 (dk_at dksX0_years_2 4 rfl rfl)
abbrev cX0_chance : ByteArray := prog_1_method_50_code
def yX0_chance : MethodName := ⟨RX0, "chance", "(I)I"⟩
def dkwX0_chance_4 : List UInt8 := [182, 1, 27, 87, 132, 3, 1, 167, 255, 180, 28, 172]
abbrev dktX0_chance_4 : List UInt8 := dkwX0_chance_4 ++ []
def dkwX0_chance_3 : List UInt8 := [54, 4, 132, 5, 1, 167, 255, 215, 28, 21, 4, 184, 0, 177, 96, 61, 42, 180, 0, 69, 21, 4]
abbrev dktX0_chance_3 : List UInt8 := dkwX0_chance_3 ++ dktX0_chance_4
def dkwX0_chance_2 : List UInt8 := [16, 100, 182, 1, 38, 42, 180, 0, 31, 180, 1, 41, 162, 0, 10, 4, 21, 5, 120, 167, 0, 4, 3, 128]
abbrev dktX0_chance_2 : List UInt8 := dkwX0_chance_2 ++ dktX0_chance_3
def dkwX0_chance_1 : List UInt8 := [62, 29, 27, 162, 0, 77, 3, 54, 4, 3, 54, 5, 21, 5, 42, 182, 0, 154, 162, 0, 38, 21, 4, 42]
abbrev dktX0_chance_1 : List UInt8 := dkwX0_chance_1 ++ dktX0_chance_2
def dkwX0_chance_0 : List UInt8 := [42, 27, 4, 16, 100, 182, 0, 248, 154, 0, 9, 42, 6, 182, 0, 101, 172, 42, 182, 1, 25, 3, 61, 3]
abbrev dktX0_chance_0 : List UInt8 := dkwX0_chance_0 ++ dktX0_chance_1
theorem dksX0_chance_0 : cX0_chance.data.toList.drop 0 = dktX0_chance_0 := by decide +kernel
theorem dksX0_chance_1 : cX0_chance.data.toList.drop 24 = dktX0_chance_1 := dk_seg dksX0_chance_0 24 rfl rfl
theorem dksX0_chance_2 : cX0_chance.data.toList.drop 48 = dktX0_chance_2 := dk_seg dksX0_chance_1 24 rfl rfl
theorem dksX0_chance_3 : cX0_chance.data.toList.drop 72 = dktX0_chance_3 := dk_seg dksX0_chance_2 24 rfl rfl
theorem dksX0_chance_4 : cX0_chance.data.toList.drop 94 = dktX0_chance_4 := dk_seg dksX0_chance_3 22 rfl rfl
theorem dX0_chance_0 : decode cX0_chance 0 = .ok (.aload_n 0, 1) := dk_42 (dk_at dksX0_chance_0 0 rfl rfl)
theorem dX0_chance_1 : decode cX0_chance 1 = .ok (.iload_n 1, 1) := dk_27 (dk_at dksX0_chance_0 1 rfl rfl)
theorem dX0_chance_2 : decode cX0_chance 2 = .ok (.iconst 1, 1) := dk_4 (dk_at dksX0_chance_0 2 rfl rfl)
theorem dX0_chance_3 : decode cX0_chance 3 = .ok (.bipush 100, 2) := dk_16 100 (dk_at dksX0_chance_0 3 rfl rfl)
theorem dX0_chance_5 : decode cX0_chance 5 = .ok (.invokevirtual 248, 3) := dk_182 0 248 (dk_at dksX0_chance_0 5 rfl rfl)
theorem dX0_chance_8 : decode cX0_chance 8 = .ok (.ifCond .ne 9, 3) := dk_154 0 9 (dk_at dksX0_chance_0 8 rfl rfl)
theorem dX0_chance_11 : decode cX0_chance 11 = .ok (.aload_n 0, 1) := dk_42 (dk_at dksX0_chance_0 11 rfl rfl)
theorem dX0_chance_12 : decode cX0_chance 12 = .ok (.iconst 3, 1) := dk_6 (dk_at dksX0_chance_0 12 rfl rfl)
theorem dX0_chance_13 : decode cX0_chance 13 = .ok (.invokevirtual 101, 3) := dk_182 0 101 (dk_at dksX0_chance_0 13 rfl rfl)
theorem dX0_chance_16 : decode cX0_chance 16 = .ok (.ireturn, 1) := dk_172 (dk_at dksX0_chance_0 16 rfl rfl)
theorem dX0_chance_17 : decode cX0_chance 17 = .ok (.aload_n 0, 1) := dk_42 (dk_at dksX0_chance_0 17 rfl rfl)
theorem dX0_chance_18 : decode cX0_chance 18 = .ok (.invokevirtual 281, 3) := dk_182 1 25 (dk_at dksX0_chance_0 18 rfl rfl)
theorem dX0_chance_21 : decode cX0_chance 21 = .ok (.iconst 0, 1) := dk_3 (dk_at dksX0_chance_0 21 rfl rfl)
theorem dX0_chance_22 : decode cX0_chance 22 = .ok (.istore_n 2, 1) := dk_61 (dk_at dksX0_chance_0 22 rfl rfl)
theorem dX0_chance_23 : decode cX0_chance 23 = .ok (.iconst 0, 1) := dk_3 (dk_at dksX0_chance_0 23 rfl rfl)
theorem dX0_chance_24 : decode cX0_chance 24 = .ok (.istore_n 3, 1) := dk_62 (dk_at dksX0_chance_1 0 rfl rfl)
theorem dX0_chance_25 : decode cX0_chance 25 = .ok (.iload_n 3, 1) := dk_29 (dk_at dksX0_chance_1 1 rfl rfl)
theorem dX0_chance_26 : decode cX0_chance 26 = .ok (.iload_n 1, 1) := dk_27 (dk_at dksX0_chance_1 2 rfl rfl)
theorem dX0_chance_27 : decode cX0_chance 27 = .ok (.if_icmp .ge 77, 3) := dk_162 0 77 (dk_at dksX0_chance_1 3 rfl rfl)
theorem dX0_chance_30 : decode cX0_chance 30 = .ok (.iconst 0, 1) := dk_3 (dk_at dksX0_chance_1 6 rfl rfl)
theorem dX0_chance_31 : decode cX0_chance 31 = .ok (.istore 4, 2) := dk_54 4 (dk_at dksX0_chance_1 7 rfl rfl)
theorem dX0_chance_33 : decode cX0_chance 33 = .ok (.iconst 0, 1) := dk_3 (dk_at dksX0_chance_1 9 rfl rfl)
theorem dX0_chance_34 : decode cX0_chance 34 = .ok (.istore 5, 2) := dk_54 5 (dk_at dksX0_chance_1 10 rfl rfl)
theorem dX0_chance_36 : decode cX0_chance 36 = .ok (.iload 5, 2) := dk_21 5 (dk_at dksX0_chance_1 12 rfl rfl)
theorem dX0_chance_38 : decode cX0_chance 38 = .ok (.aload_n 0, 1) := dk_42 (dk_at dksX0_chance_1 14 rfl rfl)
theorem dX0_chance_39 : decode cX0_chance 39 = .ok (.invokevirtual 154, 3) := dk_182 0 154 (dk_at dksX0_chance_1 15 rfl rfl)
theorem dX0_chance_42 : decode cX0_chance 42 = .ok (.if_icmp .ge 38, 3) := dk_162 0 38 (dk_at dksX0_chance_1 18 rfl rfl)
theorem dX0_chance_45 : decode cX0_chance 45 = .ok (.iload 4, 2) := dk_21 4 (dk_at dksX0_chance_1 21 rfl rfl)
theorem dX0_chance_47 : decode cX0_chance 47 = .ok (.aload_n 0, 1) := dk_42 (dk_at dksX0_chance_1 23 rfl rfl)
theorem dX0_chance_48 : decode cX0_chance 48 = .ok (.bipush 100, 2) := dk_16 100 (dk_at dksX0_chance_2 0 rfl rfl)
theorem dX0_chance_50 : decode cX0_chance 50 = .ok (.invokevirtual 294, 3) := dk_182 1 38 (dk_at dksX0_chance_2 2 rfl rfl)
theorem dX0_chance_53 : decode cX0_chance 53 = .ok (.aload_n 0, 1) := dk_42 (dk_at dksX0_chance_2 5 rfl rfl)
theorem dX0_chance_54 : decode cX0_chance 54 = .ok (.getfield 31, 3) := dk_180 0 31 (dk_at dksX0_chance_2 6 rfl rfl)
theorem dX0_chance_57 : decode cX0_chance 57 = .ok (.getfield 297, 3) := dk_180 1 41 (dk_at dksX0_chance_2 9 rfl rfl)
theorem dX0_chance_60 : decode cX0_chance 60 = .ok (.if_icmp .ge 10, 3) := dk_162 0 10 (dk_at dksX0_chance_2 12 rfl rfl)
theorem dX0_chance_63 : decode cX0_chance 63 = .ok (.iconst 1, 1) := dk_4 (dk_at dksX0_chance_2 15 rfl rfl)
theorem dX0_chance_64 : decode cX0_chance 64 = .ok (.iload 5, 2) := dk_21 5 (dk_at dksX0_chance_2 16 rfl rfl)
theorem dX0_chance_66 : decode cX0_chance 66 = .ok (.ishl, 1) := dk_120 (dk_at dksX0_chance_2 18 rfl rfl)
theorem dX0_chance_67 : decode cX0_chance 67 = .ok (.goto 4, 3) := dk_167 0 4 (dk_at dksX0_chance_2 19 rfl rfl)
theorem dX0_chance_70 : decode cX0_chance 70 = .ok (.iconst 0, 1) := dk_3 (dk_at dksX0_chance_2 22 rfl rfl)
theorem dX0_chance_71 : decode cX0_chance 71 = .ok (.ior, 1) := dk_128 (dk_at dksX0_chance_2 23 rfl rfl)
theorem dX0_chance_72 : decode cX0_chance 72 = .ok (.istore 4, 2) := dk_54 4 (dk_at dksX0_chance_3 0 rfl rfl)
theorem dX0_chance_74 : decode cX0_chance 74 = .ok (.iinc 5 1, 3) := dk_132 5 1 (dk_at dksX0_chance_3 2 rfl rfl)
theorem dX0_chance_77 : decode cX0_chance 77 = .ok (.goto (-41), 3) := dk_167 255 215 (dk_at dksX0_chance_3 5 rfl rfl)
theorem dX0_chance_80 : decode cX0_chance 80 = .ok (.iload_n 2, 1) := dk_28 (dk_at dksX0_chance_3 8 rfl rfl)
theorem dX0_chance_81 : decode cX0_chance 81 = .ok (.iload 4, 2) := dk_21 4 (dk_at dksX0_chance_3 9 rfl rfl)
theorem dX0_chance_83 : decode cX0_chance 83 = .ok (.invokestatic 177, 3) := dk_184 0 177 (dk_at dksX0_chance_3 11 rfl rfl)
theorem dX0_chance_86 : decode cX0_chance 86 = .ok (.iadd, 1) := dk_96 (dk_at dksX0_chance_3 14 rfl rfl)
theorem dX0_chance_87 : decode cX0_chance 87 = .ok (.istore_n 2, 1) := dk_61 (dk_at dksX0_chance_3 15 rfl rfl)
theorem dX0_chance_88 : decode cX0_chance 88 = .ok (.aload_n 0, 1) := dk_42 (dk_at dksX0_chance_3 16 rfl rfl)
theorem dX0_chance_89 : decode cX0_chance 89 = .ok (.getfield 69, 3) := dk_180 0 69 (dk_at dksX0_chance_3 17 rfl rfl)
theorem dX0_chance_92 : decode cX0_chance 92 = .ok (.iload 4, 2) := dk_21 4 (dk_at dksX0_chance_3 20 rfl rfl)
theorem dX0_chance_94 : decode cX0_chance 94 = .ok (.invokevirtual 283, 3) := dk_182 1 27 (dk_at dksX0_chance_4 0 rfl rfl)
theorem dX0_chance_97 : decode cX0_chance 97 = .ok (.pop, 1) := dk_87 (dk_at dksX0_chance_4 3 rfl rfl)
theorem dX0_chance_98 : decode cX0_chance 98 = .ok (.iinc 3 1, 3) := dk_132 3 1 (dk_at dksX0_chance_4 4 rfl rfl)
theorem dX0_chance_101 : decode cX0_chance 101 = .ok (.goto (-76), 3) := dk_167 255 180 (dk_at dksX0_chance_4 7 rfl rfl)
theorem dX0_chance_104 : decode cX0_chance 104 = .ok (.iload_n 2, 1) := dk_28 (dk_at dksX0_chance_4 10 rfl rfl)
theorem dX0_chance_105 : decode cX0_chance 105 = .ok (.ireturn, 1) := dk_172 (dk_at dksX0_chance_4 11 rfl rfl)
abbrev cX0_draw : ByteArray := prog_1_method_49_code
def yX0_draw : MethodName := ⟨RX0, "draw", "(I)I"⟩
def dkwX0_draw_1 : List UInt8 := [20, 1, 36, 109, 27, 133, 113, 136, 172]
abbrev dktX0_draw_1 : List UInt8 := dkwX0_draw_1 ++ []
def dkwX0_draw_0 : List UInt8 := [42, 20, 1, 30, 42, 180, 0, 91, 105, 20, 1, 32, 97, 20, 1, 34, 113, 181, 0, 91, 42, 180, 0, 91]
abbrev dktX0_draw_0 : List UInt8 := dkwX0_draw_0 ++ dktX0_draw_1
theorem dksX0_draw_0 : cX0_draw.data.toList.drop 0 = dktX0_draw_0 := by decide +kernel
theorem dksX0_draw_1 : cX0_draw.data.toList.drop 24 = dktX0_draw_1 := dk_seg dksX0_draw_0 24 rfl rfl
theorem dX0_draw_0 : decode cX0_draw 0 = .ok (.aload_n 0, 1) := dk_42 (dk_at dksX0_draw_0 0 rfl rfl)
theorem dX0_draw_1 : decode cX0_draw 1 = .ok (.ldc2_w 286, 3) := dk_20 1 30 (dk_at dksX0_draw_0 1 rfl rfl)
theorem dX0_draw_4 : decode cX0_draw 4 = .ok (.aload_n 0, 1) := dk_42 (dk_at dksX0_draw_0 4 rfl rfl)
theorem dX0_draw_5 : decode cX0_draw 5 = .ok (.getfield 91, 3) := dk_180 0 91 (dk_at dksX0_draw_0 5 rfl rfl)
theorem dX0_draw_8 : decode cX0_draw 8 = .ok (.lmul, 1) := dk_105 (dk_at dksX0_draw_0 8 rfl rfl)
theorem dX0_draw_9 : decode cX0_draw 9 = .ok (.ldc2_w 288, 3) := dk_20 1 32 (dk_at dksX0_draw_0 9 rfl rfl)
theorem dX0_draw_12 : decode cX0_draw 12 = .ok (.ladd, 1) := dk_97 (dk_at dksX0_draw_0 12 rfl rfl)
theorem dX0_draw_13 : decode cX0_draw 13 = .ok (.ldc2_w 290, 3) := dk_20 1 34 (dk_at dksX0_draw_0 13 rfl rfl)
theorem dX0_draw_16 : decode cX0_draw 16 = .ok (.lrem, 1) := dk_113 (dk_at dksX0_draw_0 16 rfl rfl)
theorem dX0_draw_17 : decode cX0_draw 17 = .ok (.putfield 91, 3) := dk_181 0 91 (dk_at dksX0_draw_0 17 rfl rfl)
theorem dX0_draw_20 : decode cX0_draw 20 = .ok (.aload_n 0, 1) := dk_42 (dk_at dksX0_draw_0 20 rfl rfl)
theorem dX0_draw_21 : decode cX0_draw 21 = .ok (.getfield 91, 3) := dk_180 0 91 (dk_at dksX0_draw_0 21 rfl rfl)
theorem dX0_draw_24 : decode cX0_draw 24 = .ok (.ldc2_w 292, 3) := dk_20 1 36 (dk_at dksX0_draw_1 0 rfl rfl)
theorem dX0_draw_27 : decode cX0_draw 27 = .ok (.ldiv, 1) := dk_109 (dk_at dksX0_draw_1 3 rfl rfl)
theorem dX0_draw_28 : decode cX0_draw 28 = .ok (.iload_n 1, 1) := dk_27 (dk_at dksX0_draw_1 4 rfl rfl)
theorem dX0_draw_29 : decode cX0_draw 29 = .ok (.i2l, 1) := dk_133 (dk_at dksX0_draw_1 5 rfl rfl)
theorem dX0_draw_30 : decode cX0_draw 30 = .ok (.lrem, 1) := dk_113 (dk_at dksX0_draw_1 6 rfl rfl)
theorem dX0_draw_31 : decode cX0_draw 31 = .ok (.l2i, 1) := dk_136 (dk_at dksX0_draw_1 7 rfl rfl)
theorem dX0_draw_32 : decode cX0_draw 32 = .ok (.ireturn, 1) := dk_172 (dk_at dksX0_draw_1 8 rfl rfl)
abbrev cX0_seed : ByteArray := prog_1_method_51_code
def yX0_seed : MethodName := ⟨RX0, "seed", "(I)Z"⟩
def dkwX0_seed_1 : List UInt8 := [4, 172]
abbrev dktX0_seed_1 : List UInt8 := dkwX0_seed_1 ++ []
def dkwX0_seed_0 : List UInt8 := [27, 156, 0, 17, 42, 8, 182, 0, 101, 155, 0, 7, 4, 167, 0, 4, 3, 172, 42, 27, 133, 181, 0, 91]
abbrev dktX0_seed_0 : List UInt8 := dkwX0_seed_0 ++ dktX0_seed_1
theorem dksX0_seed_0 : cX0_seed.data.toList.drop 0 = dktX0_seed_0 := by decide +kernel
theorem dksX0_seed_1 : cX0_seed.data.toList.drop 24 = dktX0_seed_1 := dk_seg dksX0_seed_0 24 rfl rfl
theorem dX0_seed_0 : decode cX0_seed 0 = .ok (.iload_n 1, 1) := dk_27 (dk_at dksX0_seed_0 0 rfl rfl)
theorem dX0_seed_1 : decode cX0_seed 1 = .ok (.ifCond .ge 17, 3) := dk_156 0 17 (dk_at dksX0_seed_0 1 rfl rfl)
theorem dX0_seed_4 : decode cX0_seed 4 = .ok (.aload_n 0, 1) := dk_42 (dk_at dksX0_seed_0 4 rfl rfl)
theorem dX0_seed_5 : decode cX0_seed 5 = .ok (.iconst 5, 1) := dk_8 (dk_at dksX0_seed_0 5 rfl rfl)
theorem dX0_seed_6 : decode cX0_seed 6 = .ok (.invokevirtual 101, 3) := dk_182 0 101 (dk_at dksX0_seed_0 6 rfl rfl)
theorem dX0_seed_9 : decode cX0_seed 9 = .ok (.ifCond .lt 7, 3) := dk_155 0 7 (dk_at dksX0_seed_0 9 rfl rfl)
theorem dX0_seed_12 : decode cX0_seed 12 = .ok (.iconst 1, 1) := dk_4 (dk_at dksX0_seed_0 12 rfl rfl)
theorem dX0_seed_13 : decode cX0_seed 13 = .ok (.goto 4, 3) := dk_167 0 4 (dk_at dksX0_seed_0 13 rfl rfl)
theorem dX0_seed_16 : decode cX0_seed 16 = .ok (.iconst 0, 1) := dk_3 (dk_at dksX0_seed_0 16 rfl rfl)
theorem dX0_seed_17 : decode cX0_seed 17 = .ok (.ireturn, 1) := dk_172 (dk_at dksX0_seed_0 17 rfl rfl)
theorem dX0_seed_18 : decode cX0_seed 18 = .ok (.aload_n 0, 1) := dk_42 (dk_at dksX0_seed_0 18 rfl rfl)
theorem dX0_seed_19 : decode cX0_seed 19 = .ok (.iload_n 1, 1) := dk_27 (dk_at dksX0_seed_0 19 rfl rfl)
theorem dX0_seed_20 : decode cX0_seed 20 = .ok (.i2l, 1) := dk_133 (dk_at dksX0_seed_0 20 rfl rfl)
theorem dX0_seed_21 : decode cX0_seed 21 = .ok (.putfield 91, 3) := dk_181 0 91 (dk_at dksX0_seed_0 21 rfl rfl)
theorem dX0_seed_24 : decode cX0_seed 24 = .ok (.iconst 1, 1) := dk_4 (dk_at dksX0_seed_1 0 rfl rfl)
theorem dX0_seed_25 : decode cX0_seed 25 = .ok (.ireturn, 1) := dk_172 (dk_at dksX0_seed_1 1 rfl rfl)
abbrev cX0_ask : ByteArray := prog_1_method_53_code
def yX0_ask : MethodName := ⟨RX0, "ask", "(I)J"⟩
def dkwX0_ask_13 : List UInt8 := [181, 1, 44, 167, 255, 19, 45, 182, 1, 61, 173]
abbrev dktX0_ask_13 : List UInt8 := dkwX0_ask_13 ++ []
def dkwX0_ask_12 : List UInt8 := [167, 0, 4, 9, 80, 45, 42, 180, 1, 44, 42, 180, 0, 59, 182, 1, 55, 42, 89, 180, 1, 44, 4, 96]
abbrev dktX0_ask_12 : List UInt8 := dkwX0_ask_12 ++ dktX0_ask_13
def dkwX0_ask_11 : List UInt8 := [180, 1, 51, 16, 11, 42, 180, 0, 69, 27, 42, 180, 1, 44, 182, 0, 199, 5, 160, 0, 7, 10]
abbrev dktX0_ask_11 : List UInt8 := dkwX0_ask_11 ++ dktX0_ask_12
def dkwX0_ask_10 : List UInt8 := [27, 42, 180, 1, 44, 182, 0, 199, 4, 160, 0, 7, 10, 167, 0, 4, 9, 80, 42, 180, 0, 59]
abbrev dktX0_ask_10 : List UInt8 := dkwX0_ask_10 ++ dktX0_ask_11
def dkwX0_ask_9 : List UInt8 := [180, 1, 51, 16, 9, 42, 180, 1, 44, 133, 80, 42, 180, 0, 59, 180, 1, 51, 16, 10, 42, 180, 0, 69]
abbrev dktX0_ask_9 : List UInt8 := dkwX0_ask_9 ++ dktX0_ask_10
def dkwX0_ask_8 : List UInt8 := [180, 0, 59, 180, 1, 51, 16, 8, 42, 180, 0, 69, 27, 182, 0, 238, 133, 80, 42, 180, 0, 59]
abbrev dktX0_ask_8 : List UInt8 := dkwX0_ask_8 ++ dktX0_ask_9
def dkwX0_ask_7 : List UInt8 := [133, 80, 42, 180, 0, 59, 180, 1, 51, 16, 7, 42, 180, 0, 69, 180, 0, 231, 27, 46, 133, 80, 42]
abbrev dktX0_ask_7 : List UInt8 := dkwX0_ask_7 ++ dktX0_ask_8
def dkwX0_ask_6 : List UInt8 := [180, 0, 69, 180, 0, 171, 133, 80, 42, 180, 0, 59, 180, 1, 51, 7, 42, 42, 180, 1, 44, 182, 0, 207]
abbrev dktX0_ask_6 : List UInt8 := dkwX0_ask_6 ++ dktX0_ask_7
def dkwX0_ask_5 : List UInt8 := [180, 1, 51, 5, 42, 42, 180, 1, 44, 5, 182, 0, 210, 133, 80, 42, 180, 0, 59, 180, 1, 51, 6, 42]
abbrev dktX0_ask_5 : List UInt8 := dkwX0_ask_5 ++ dktX0_ask_6
def dkwX0_ask_4 : List UInt8 := [80, 42, 180, 0, 59, 180, 1, 51, 4, 42, 42, 180, 1, 44, 4, 182, 0, 210, 133, 80, 42, 180, 0, 59]
abbrev dktX0_ask_4 : List UInt8 := dkwX0_ask_4 ++ dktX0_ask_5
def dkwX0_ask_3 : List UInt8 := [180, 1, 44, 42, 182, 0, 152, 162, 0, 232, 42, 180, 0, 59, 180, 1, 51, 3, 42, 27, 182, 0, 216, 133]
abbrev dktX0_ask_3 : List UInt8 := dkwX0_ask_3 ++ dktX0_ask_4
def dkwX0_ask_2 : List UInt8 := [181, 0, 109, 42, 25, 4, 180, 0, 125, 181, 0, 39, 20, 0, 241, 173, 42, 3, 181, 1, 44, 42]
abbrev dktX0_ask_2 : List UInt8 := dkwX0_ask_2 ++ dktX0_ask_3
def dkwX0_ask_1 : List UInt8 := [181, 0, 39, 42, 180, 0, 48, 28, 182, 1, 47, 78, 167, 0, 27, 58, 4, 42, 25, 4, 180, 0, 122]
abbrev dktX0_ask_1 : List UInt8 := dkwX0_ask_1 ++ dktX0_ask_2
def dkwX0_ask_0 : List UInt8 := [42, 182, 0, 112, 61, 42, 27, 182, 0, 213, 154, 0, 7, 20, 0, 241, 173, 42, 3, 181, 0, 109, 42, 2]
abbrev dktX0_ask_0 : List UInt8 := dkwX0_ask_0 ++ dktX0_ask_1
theorem dksX0_ask_0 : cX0_ask.data.toList.drop 0 = dktX0_ask_0 := by decide +kernel
theorem dksX0_ask_1 : cX0_ask.data.toList.drop 24 = dktX0_ask_1 := dk_seg dksX0_ask_0 24 rfl rfl
theorem dksX0_ask_2 : cX0_ask.data.toList.drop 47 = dktX0_ask_2 := dk_seg dksX0_ask_1 23 rfl rfl
theorem dksX0_ask_3 : cX0_ask.data.toList.drop 69 = dktX0_ask_3 := dk_seg dksX0_ask_2 22 rfl rfl
theorem dksX0_ask_4 : cX0_ask.data.toList.drop 93 = dktX0_ask_4 := dk_seg dksX0_ask_3 24 rfl rfl
theorem dksX0_ask_5 : cX0_ask.data.toList.drop 117 = dktX0_ask_5 := dk_seg dksX0_ask_4 24 rfl rfl
theorem dksX0_ask_6 : cX0_ask.data.toList.drop 141 = dktX0_ask_6 := dk_seg dksX0_ask_5 24 rfl rfl
theorem dksX0_ask_7 : cX0_ask.data.toList.drop 165 = dktX0_ask_7 := dk_seg dksX0_ask_6 24 rfl rfl
theorem dksX0_ask_8 : cX0_ask.data.toList.drop 188 = dktX0_ask_8 := dk_seg dksX0_ask_7 23 rfl rfl
theorem dksX0_ask_9 : cX0_ask.data.toList.drop 210 = dktX0_ask_9 := dk_seg dksX0_ask_8 22 rfl rfl
theorem dksX0_ask_10 : cX0_ask.data.toList.drop 234 = dktX0_ask_10 := dk_seg dksX0_ask_9 24 rfl rfl
theorem dksX0_ask_11 : cX0_ask.data.toList.drop 256 = dktX0_ask_11 := dk_seg dksX0_ask_10 22 rfl rfl
theorem dksX0_ask_12 : cX0_ask.data.toList.drop 278 = dktX0_ask_12 := dk_seg dksX0_ask_11 22 rfl rfl
theorem dksX0_ask_13 : cX0_ask.data.toList.drop 302 = dktX0_ask_13 := dk_seg dksX0_ask_12 24 rfl rfl
theorem dX0_ask_0 : decode cX0_ask 0 = .ok (.aload_n 0, 1) := dk_42 (dk_at dksX0_ask_0 0 rfl rfl)
theorem dX0_ask_1 : decode cX0_ask 1 = .ok (.invokevirtual 112, 3) := dk_182 0 112 (dk_at dksX0_ask_0 1 rfl rfl)
theorem dX0_ask_4 : decode cX0_ask 4 = .ok (.istore_n 2, 1) := dk_61 (dk_at dksX0_ask_0 4 rfl rfl)
theorem dX0_ask_5 : decode cX0_ask 5 = .ok (.aload_n 0, 1) := dk_42 (dk_at dksX0_ask_0 5 rfl rfl)
theorem dX0_ask_6 : decode cX0_ask 6 = .ok (.iload_n 1, 1) := dk_27 (dk_at dksX0_ask_0 6 rfl rfl)
theorem dX0_ask_7 : decode cX0_ask 7 = .ok (.invokevirtual 213, 3) := dk_182 0 213 (dk_at dksX0_ask_0 7 rfl rfl)
theorem dX0_ask_10 : decode cX0_ask 10 = .ok (.ifCond .ne 7, 3) := dk_154 0 7 (dk_at dksX0_ask_0 10 rfl rfl)
theorem dX0_ask_13 : decode cX0_ask 13 = .ok (.ldc2_w 241, 3) := dk_20 0 241 (dk_at dksX0_ask_0 13 rfl rfl)
theorem dX0_ask_16 : decode cX0_ask 16 = .ok (.lreturn, 1) := dk_173 (dk_at dksX0_ask_0 16 rfl rfl)
theorem dX0_ask_17 : decode cX0_ask 17 = .ok (.aload_n 0, 1) := dk_42 (dk_at dksX0_ask_0 17 rfl rfl)
theorem dX0_ask_18 : decode cX0_ask 18 = .ok (.iconst 0, 1) := dk_3 (dk_at dksX0_ask_0 18 rfl rfl)
theorem dX0_ask_19 : decode cX0_ask 19 = .ok (.putfield 109, 3) := dk_181 0 109 (dk_at dksX0_ask_0 19 rfl rfl)
theorem dX0_ask_22 : decode cX0_ask 22 = .ok (.aload_n 0, 1) := dk_42 (dk_at dksX0_ask_0 22 rfl rfl)
theorem dX0_ask_23 : decode cX0_ask 23 = .ok (.iconst (-1), 1) := dk_2 (dk_at dksX0_ask_0 23 rfl rfl)
theorem dX0_ask_24 : decode cX0_ask 24 = .ok (.putfield 39, 3) := dk_181 0 39 (dk_at dksX0_ask_1 0 rfl rfl)
theorem dX0_ask_27 : decode cX0_ask 27 = .ok (.aload_n 0, 1) := dk_42 (dk_at dksX0_ask_1 3 rfl rfl)
theorem dX0_ask_28 : decode cX0_ask 28 = .ok (.getfield 48, 3) := dk_180 0 48 (dk_at dksX0_ask_1 4 rfl rfl)
theorem dX0_ask_31 : decode cX0_ask 31 = .ok (.iload_n 2, 1) := dk_28 (dk_at dksX0_ask_1 7 rfl rfl)
theorem dX0_ask_32 : decode cX0_ask 32 = .ok (.invokevirtual 303, 3) := dk_182 1 47 (dk_at dksX0_ask_1 8 rfl rfl)
theorem dX0_ask_35 : decode cX0_ask 35 = .ok (.astore_n 3, 1) := dk_78 (dk_at dksX0_ask_1 11 rfl rfl)
theorem dX0_ask_36 : decode cX0_ask 36 = .ok (.goto 27, 3) := dk_167 0 27 (dk_at dksX0_ask_1 12 rfl rfl)
theorem dX0_ask_39 : decode cX0_ask 39 = .ok (.astore 4, 2) := dk_58 4 (dk_at dksX0_ask_1 15 rfl rfl)
theorem dX0_ask_41 : decode cX0_ask 41 = .ok (.aload_n 0, 1) := dk_42 (dk_at dksX0_ask_1 17 rfl rfl)
theorem dX0_ask_42 : decode cX0_ask 42 = .ok (.aload 4, 2) := dk_25 4 (dk_at dksX0_ask_1 18 rfl rfl)
theorem dX0_ask_44 : decode cX0_ask 44 = .ok (.getfield 122, 3) := dk_180 0 122 (dk_at dksX0_ask_1 20 rfl rfl)
theorem dX0_ask_47 : decode cX0_ask 47 = .ok (.putfield 109, 3) := dk_181 0 109 (dk_at dksX0_ask_2 0 rfl rfl)
theorem dX0_ask_50 : decode cX0_ask 50 = .ok (.aload_n 0, 1) := dk_42 (dk_at dksX0_ask_2 3 rfl rfl)
theorem dX0_ask_51 : decode cX0_ask 51 = .ok (.aload 4, 2) := dk_25 4 (dk_at dksX0_ask_2 4 rfl rfl)
theorem dX0_ask_53 : decode cX0_ask 53 = .ok (.getfield 125, 3) := dk_180 0 125 (dk_at dksX0_ask_2 6 rfl rfl)
theorem dX0_ask_56 : decode cX0_ask 56 = .ok (.putfield 39, 3) := dk_181 0 39 (dk_at dksX0_ask_2 9 rfl rfl)
theorem dX0_ask_59 : decode cX0_ask 59 = .ok (.ldc2_w 241, 3) := dk_20 0 241 (dk_at dksX0_ask_2 12 rfl rfl)
theorem dX0_ask_62 : decode cX0_ask 62 = .ok (.lreturn, 1) := dk_173 (dk_at dksX0_ask_2 15 rfl rfl)
theorem dX0_ask_63 : decode cX0_ask 63 = .ok (.aload_n 0, 1) := dk_42 (dk_at dksX0_ask_2 16 rfl rfl)
theorem dX0_ask_64 : decode cX0_ask 64 = .ok (.iconst 0, 1) := dk_3 (dk_at dksX0_ask_2 17 rfl rfl)
theorem dX0_ask_65 : decode cX0_ask 65 = .ok (.putfield 300, 3) := dk_181 1 44 (dk_at dksX0_ask_2 18 rfl rfl)
theorem dX0_ask_68 : decode cX0_ask 68 = .ok (.aload_n 0, 1) := dk_42 (dk_at dksX0_ask_2 21 rfl rfl)
theorem dX0_ask_69 : decode cX0_ask 69 = .ok (.getfield 300, 3) := dk_180 1 44 (dk_at dksX0_ask_3 0 rfl rfl)
theorem dX0_ask_72 : decode cX0_ask 72 = .ok (.aload_n 0, 1) := dk_42 (dk_at dksX0_ask_3 3 rfl rfl)
theorem dX0_ask_73 : decode cX0_ask 73 = .ok (.invokevirtual 152, 3) := dk_182 0 152 (dk_at dksX0_ask_3 4 rfl rfl)
theorem dX0_ask_76 : decode cX0_ask 76 = .ok (.if_icmp .ge 232, 3) := dk_162 0 232 (dk_at dksX0_ask_3 7 rfl rfl)
theorem dX0_ask_79 : decode cX0_ask 79 = .ok (.aload_n 0, 1) := dk_42 (dk_at dksX0_ask_3 10 rfl rfl)
theorem dX0_ask_80 : decode cX0_ask 80 = .ok (.getfield 59, 3) := dk_180 0 59 (dk_at dksX0_ask_3 11 rfl rfl)
theorem dX0_ask_83 : decode cX0_ask 83 = .ok (.getfield 307, 3) := dk_180 1 51 (dk_at dksX0_ask_3 14 rfl rfl)
theorem dX0_ask_86 : decode cX0_ask 86 = .ok (.iconst 0, 1) := dk_3 (dk_at dksX0_ask_3 17 rfl rfl)
theorem dX0_ask_87 : decode cX0_ask 87 = .ok (.aload_n 0, 1) := dk_42 (dk_at dksX0_ask_3 18 rfl rfl)
theorem dX0_ask_88 : decode cX0_ask 88 = .ok (.iload_n 1, 1) := dk_27 (dk_at dksX0_ask_3 19 rfl rfl)
theorem dX0_ask_89 : decode cX0_ask 89 = .ok (.invokevirtual 216, 3) := dk_182 0 216 (dk_at dksX0_ask_3 20 rfl rfl)
theorem dX0_ask_92 : decode cX0_ask 92 = .ok (.i2l, 1) := dk_133 (dk_at dksX0_ask_3 23 rfl rfl)
theorem dX0_ask_93 : decode cX0_ask 93 = .ok (.lastore, 1) := dk_80 (dk_at dksX0_ask_4 0 rfl rfl)
theorem dX0_ask_94 : decode cX0_ask 94 = .ok (.aload_n 0, 1) := dk_42 (dk_at dksX0_ask_4 1 rfl rfl)
theorem dX0_ask_95 : decode cX0_ask 95 = .ok (.getfield 59, 3) := dk_180 0 59 (dk_at dksX0_ask_4 2 rfl rfl)
theorem dX0_ask_98 : decode cX0_ask 98 = .ok (.getfield 307, 3) := dk_180 1 51 (dk_at dksX0_ask_4 5 rfl rfl)
theorem dX0_ask_101 : decode cX0_ask 101 = .ok (.iconst 1, 1) := dk_4 (dk_at dksX0_ask_4 8 rfl rfl)
theorem dX0_ask_102 : decode cX0_ask 102 = .ok (.aload_n 0, 1) := dk_42 (dk_at dksX0_ask_4 9 rfl rfl)
theorem dX0_ask_103 : decode cX0_ask 103 = .ok (.aload_n 0, 1) := dk_42 (dk_at dksX0_ask_4 10 rfl rfl)
theorem dX0_ask_104 : decode cX0_ask 104 = .ok (.getfield 300, 3) := dk_180 1 44 (dk_at dksX0_ask_4 11 rfl rfl)
theorem dX0_ask_107 : decode cX0_ask 107 = .ok (.iconst 1, 1) := dk_4 (dk_at dksX0_ask_4 14 rfl rfl)
theorem dX0_ask_108 : decode cX0_ask 108 = .ok (.invokevirtual 210, 3) := dk_182 0 210 (dk_at dksX0_ask_4 15 rfl rfl)
theorem dX0_ask_111 : decode cX0_ask 111 = .ok (.i2l, 1) := dk_133 (dk_at dksX0_ask_4 18 rfl rfl)
theorem dX0_ask_112 : decode cX0_ask 112 = .ok (.lastore, 1) := dk_80 (dk_at dksX0_ask_4 19 rfl rfl)
theorem dX0_ask_113 : decode cX0_ask 113 = .ok (.aload_n 0, 1) := dk_42 (dk_at dksX0_ask_4 20 rfl rfl)
theorem dX0_ask_114 : decode cX0_ask 114 = .ok (.getfield 59, 3) := dk_180 0 59 (dk_at dksX0_ask_4 21 rfl rfl)
theorem dX0_ask_117 : decode cX0_ask 117 = .ok (.getfield 307, 3) := dk_180 1 51 (dk_at dksX0_ask_5 0 rfl rfl)
theorem dX0_ask_120 : decode cX0_ask 120 = .ok (.iconst 2, 1) := dk_5 (dk_at dksX0_ask_5 3 rfl rfl)
theorem dX0_ask_121 : decode cX0_ask 121 = .ok (.aload_n 0, 1) := dk_42 (dk_at dksX0_ask_5 4 rfl rfl)
theorem dX0_ask_122 : decode cX0_ask 122 = .ok (.aload_n 0, 1) := dk_42 (dk_at dksX0_ask_5 5 rfl rfl)
theorem dX0_ask_123 : decode cX0_ask 123 = .ok (.getfield 300, 3) := dk_180 1 44 (dk_at dksX0_ask_5 6 rfl rfl)
theorem dX0_ask_126 : decode cX0_ask 126 = .ok (.iconst 2, 1) := dk_5 (dk_at dksX0_ask_5 9 rfl rfl)
theorem dX0_ask_127 : decode cX0_ask 127 = .ok (.invokevirtual 210, 3) := dk_182 0 210 (dk_at dksX0_ask_5 10 rfl rfl)
theorem dX0_ask_130 : decode cX0_ask 130 = .ok (.i2l, 1) := dk_133 (dk_at dksX0_ask_5 13 rfl rfl)
theorem dX0_ask_131 : decode cX0_ask 131 = .ok (.lastore, 1) := dk_80 (dk_at dksX0_ask_5 14 rfl rfl)
theorem dX0_ask_132 : decode cX0_ask 132 = .ok (.aload_n 0, 1) := dk_42 (dk_at dksX0_ask_5 15 rfl rfl)
theorem dX0_ask_133 : decode cX0_ask 133 = .ok (.getfield 59, 3) := dk_180 0 59 (dk_at dksX0_ask_5 16 rfl rfl)
theorem dX0_ask_136 : decode cX0_ask 136 = .ok (.getfield 307, 3) := dk_180 1 51 (dk_at dksX0_ask_5 19 rfl rfl)
theorem dX0_ask_139 : decode cX0_ask 139 = .ok (.iconst 3, 1) := dk_6 (dk_at dksX0_ask_5 22 rfl rfl)
theorem dX0_ask_140 : decode cX0_ask 140 = .ok (.aload_n 0, 1) := dk_42 (dk_at dksX0_ask_5 23 rfl rfl)
theorem dX0_ask_141 : decode cX0_ask 141 = .ok (.getfield 69, 3) := dk_180 0 69 (dk_at dksX0_ask_6 0 rfl rfl)
theorem dX0_ask_144 : decode cX0_ask 144 = .ok (.getfield 171, 3) := dk_180 0 171 (dk_at dksX0_ask_6 3 rfl rfl)
theorem dX0_ask_147 : decode cX0_ask 147 = .ok (.i2l, 1) := dk_133 (dk_at dksX0_ask_6 6 rfl rfl)
theorem dX0_ask_148 : decode cX0_ask 148 = .ok (.lastore, 1) := dk_80 (dk_at dksX0_ask_6 7 rfl rfl)
theorem dX0_ask_149 : decode cX0_ask 149 = .ok (.aload_n 0, 1) := dk_42 (dk_at dksX0_ask_6 8 rfl rfl)
theorem dX0_ask_150 : decode cX0_ask 150 = .ok (.getfield 59, 3) := dk_180 0 59 (dk_at dksX0_ask_6 9 rfl rfl)
theorem dX0_ask_153 : decode cX0_ask 153 = .ok (.getfield 307, 3) := dk_180 1 51 (dk_at dksX0_ask_6 12 rfl rfl)
theorem dX0_ask_156 : decode cX0_ask 156 = .ok (.iconst 4, 1) := dk_7 (dk_at dksX0_ask_6 15 rfl rfl)
theorem dX0_ask_157 : decode cX0_ask 157 = .ok (.aload_n 0, 1) := dk_42 (dk_at dksX0_ask_6 16 rfl rfl)
theorem dX0_ask_158 : decode cX0_ask 158 = .ok (.aload_n 0, 1) := dk_42 (dk_at dksX0_ask_6 17 rfl rfl)
theorem dX0_ask_159 : decode cX0_ask 159 = .ok (.getfield 300, 3) := dk_180 1 44 (dk_at dksX0_ask_6 18 rfl rfl)
theorem dX0_ask_162 : decode cX0_ask 162 = .ok (.invokevirtual 207, 3) := dk_182 0 207 (dk_at dksX0_ask_6 21 rfl rfl)
theorem dX0_ask_165 : decode cX0_ask 165 = .ok (.i2l, 1) := dk_133 (dk_at dksX0_ask_7 0 rfl rfl)
theorem dX0_ask_166 : decode cX0_ask 166 = .ok (.lastore, 1) := dk_80 (dk_at dksX0_ask_7 1 rfl rfl)
theorem dX0_ask_167 : decode cX0_ask 167 = .ok (.aload_n 0, 1) := dk_42 (dk_at dksX0_ask_7 2 rfl rfl)
theorem dX0_ask_168 : decode cX0_ask 168 = .ok (.getfield 59, 3) := dk_180 0 59 (dk_at dksX0_ask_7 3 rfl rfl)
theorem dX0_ask_171 : decode cX0_ask 171 = .ok (.getfield 307, 3) := dk_180 1 51 (dk_at dksX0_ask_7 6 rfl rfl)
theorem dX0_ask_174 : decode cX0_ask 174 = .ok (.bipush 7, 2) := dk_16 7 (dk_at dksX0_ask_7 9 rfl rfl)
theorem dX0_ask_176 : decode cX0_ask 176 = .ok (.aload_n 0, 1) := dk_42 (dk_at dksX0_ask_7 11 rfl rfl)
theorem dX0_ask_177 : decode cX0_ask 177 = .ok (.getfield 69, 3) := dk_180 0 69 (dk_at dksX0_ask_7 12 rfl rfl)
theorem dX0_ask_180 : decode cX0_ask 180 = .ok (.getfield 231, 3) := dk_180 0 231 (dk_at dksX0_ask_7 15 rfl rfl)
theorem dX0_ask_183 : decode cX0_ask 183 = .ok (.iload_n 1, 1) := dk_27 (dk_at dksX0_ask_7 18 rfl rfl)
theorem dX0_ask_184 : decode cX0_ask 184 = .ok (.iaload, 1) := dk_46 (dk_at dksX0_ask_7 19 rfl rfl)
theorem dX0_ask_185 : decode cX0_ask 185 = .ok (.i2l, 1) := dk_133 (dk_at dksX0_ask_7 20 rfl rfl)
theorem dX0_ask_186 : decode cX0_ask 186 = .ok (.lastore, 1) := dk_80 (dk_at dksX0_ask_7 21 rfl rfl)
theorem dX0_ask_187 : decode cX0_ask 187 = .ok (.aload_n 0, 1) := dk_42 (dk_at dksX0_ask_7 22 rfl rfl)
theorem dX0_ask_188 : decode cX0_ask 188 = .ok (.getfield 59, 3) := dk_180 0 59 (dk_at dksX0_ask_8 0 rfl rfl)
theorem dX0_ask_191 : decode cX0_ask 191 = .ok (.getfield 307, 3) := dk_180 1 51 (dk_at dksX0_ask_8 3 rfl rfl)
theorem dX0_ask_194 : decode cX0_ask 194 = .ok (.bipush 8, 2) := dk_16 8 (dk_at dksX0_ask_8 6 rfl rfl)
theorem dX0_ask_196 : decode cX0_ask 196 = .ok (.aload_n 0, 1) := dk_42 (dk_at dksX0_ask_8 8 rfl rfl)
theorem dX0_ask_197 : decode cX0_ask 197 = .ok (.getfield 69, 3) := dk_180 0 69 (dk_at dksX0_ask_8 9 rfl rfl)
theorem dX0_ask_200 : decode cX0_ask 200 = .ok (.iload_n 1, 1) := dk_27 (dk_at dksX0_ask_8 12 rfl rfl)
theorem dX0_ask_201 : decode cX0_ask 201 = .ok (.invokevirtual 238, 3) := dk_182 0 238 (dk_at dksX0_ask_8 13 rfl rfl)
theorem dX0_ask_204 : decode cX0_ask 204 = .ok (.i2l, 1) := dk_133 (dk_at dksX0_ask_8 16 rfl rfl)
theorem dX0_ask_205 : decode cX0_ask 205 = .ok (.lastore, 1) := dk_80 (dk_at dksX0_ask_8 17 rfl rfl)
theorem dX0_ask_206 : decode cX0_ask 206 = .ok (.aload_n 0, 1) := dk_42 (dk_at dksX0_ask_8 18 rfl rfl)
theorem dX0_ask_207 : decode cX0_ask 207 = .ok (.getfield 59, 3) := dk_180 0 59 (dk_at dksX0_ask_8 19 rfl rfl)
theorem dX0_ask_210 : decode cX0_ask 210 = .ok (.getfield 307, 3) := dk_180 1 51 (dk_at dksX0_ask_9 0 rfl rfl)
theorem dX0_ask_213 : decode cX0_ask 213 = .ok (.bipush 9, 2) := dk_16 9 (dk_at dksX0_ask_9 3 rfl rfl)
theorem dX0_ask_215 : decode cX0_ask 215 = .ok (.aload_n 0, 1) := dk_42 (dk_at dksX0_ask_9 5 rfl rfl)
theorem dX0_ask_216 : decode cX0_ask 216 = .ok (.getfield 300, 3) := dk_180 1 44 (dk_at dksX0_ask_9 6 rfl rfl)
theorem dX0_ask_219 : decode cX0_ask 219 = .ok (.i2l, 1) := dk_133 (dk_at dksX0_ask_9 9 rfl rfl)
theorem dX0_ask_220 : decode cX0_ask 220 = .ok (.lastore, 1) := dk_80 (dk_at dksX0_ask_9 10 rfl rfl)
theorem dX0_ask_221 : decode cX0_ask 221 = .ok (.aload_n 0, 1) := dk_42 (dk_at dksX0_ask_9 11 rfl rfl)
theorem dX0_ask_222 : decode cX0_ask 222 = .ok (.getfield 59, 3) := dk_180 0 59 (dk_at dksX0_ask_9 12 rfl rfl)
theorem dX0_ask_225 : decode cX0_ask 225 = .ok (.getfield 307, 3) := dk_180 1 51 (dk_at dksX0_ask_9 15 rfl rfl)
theorem dX0_ask_228 : decode cX0_ask 228 = .ok (.bipush 10, 2) := dk_16 10 (dk_at dksX0_ask_9 18 rfl rfl)
theorem dX0_ask_230 : decode cX0_ask 230 = .ok (.aload_n 0, 1) := dk_42 (dk_at dksX0_ask_9 20 rfl rfl)
theorem dX0_ask_231 : decode cX0_ask 231 = .ok (.getfield 69, 3) := dk_180 0 69 (dk_at dksX0_ask_9 21 rfl rfl)
theorem dX0_ask_234 : decode cX0_ask 234 = .ok (.iload_n 1, 1) := dk_27 (dk_at dksX0_ask_10 0 rfl rfl)
theorem dX0_ask_235 : decode cX0_ask 235 = .ok (.aload_n 0, 1) := dk_42 (dk_at dksX0_ask_10 1 rfl rfl)
theorem dX0_ask_236 : decode cX0_ask 236 = .ok (.getfield 300, 3) := dk_180 1 44 (dk_at dksX0_ask_10 2 rfl rfl)
theorem dX0_ask_239 : decode cX0_ask 239 = .ok (.invokevirtual 199, 3) := dk_182 0 199 (dk_at dksX0_ask_10 5 rfl rfl)
theorem dX0_ask_242 : decode cX0_ask 242 = .ok (.iconst 1, 1) := dk_4 (dk_at dksX0_ask_10 8 rfl rfl)
theorem dX0_ask_243 : decode cX0_ask 243 = .ok (.if_icmp .ne 7, 3) := dk_160 0 7 (dk_at dksX0_ask_10 9 rfl rfl)
theorem dX0_ask_246 : decode cX0_ask 246 = .ok (.lconst 1, 1) := dk_10 (dk_at dksX0_ask_10 12 rfl rfl)
theorem dX0_ask_247 : decode cX0_ask 247 = .ok (.goto 4, 3) := dk_167 0 4 (dk_at dksX0_ask_10 13 rfl rfl)
theorem dX0_ask_250 : decode cX0_ask 250 = .ok (.lconst 0, 1) := dk_9 (dk_at dksX0_ask_10 16 rfl rfl)
theorem dX0_ask_251 : decode cX0_ask 251 = .ok (.lastore, 1) := dk_80 (dk_at dksX0_ask_10 17 rfl rfl)
theorem dX0_ask_252 : decode cX0_ask 252 = .ok (.aload_n 0, 1) := dk_42 (dk_at dksX0_ask_10 18 rfl rfl)
theorem dX0_ask_253 : decode cX0_ask 253 = .ok (.getfield 59, 3) := dk_180 0 59 (dk_at dksX0_ask_10 19 rfl rfl)
theorem dX0_ask_256 : decode cX0_ask 256 = .ok (.getfield 307, 3) := dk_180 1 51 (dk_at dksX0_ask_11 0 rfl rfl)
theorem dX0_ask_259 : decode cX0_ask 259 = .ok (.bipush 11, 2) := dk_16 11 (dk_at dksX0_ask_11 3 rfl rfl)
theorem dX0_ask_261 : decode cX0_ask 261 = .ok (.aload_n 0, 1) := dk_42 (dk_at dksX0_ask_11 5 rfl rfl)
theorem dX0_ask_262 : decode cX0_ask 262 = .ok (.getfield 69, 3) := dk_180 0 69 (dk_at dksX0_ask_11 6 rfl rfl)
theorem dX0_ask_265 : decode cX0_ask 265 = .ok (.iload_n 1, 1) := dk_27 (dk_at dksX0_ask_11 9 rfl rfl)
theorem dX0_ask_266 : decode cX0_ask 266 = .ok (.aload_n 0, 1) := dk_42 (dk_at dksX0_ask_11 10 rfl rfl)
theorem dX0_ask_267 : decode cX0_ask 267 = .ok (.getfield 300, 3) := dk_180 1 44 (dk_at dksX0_ask_11 11 rfl rfl)
theorem dX0_ask_270 : decode cX0_ask 270 = .ok (.invokevirtual 199, 3) := dk_182 0 199 (dk_at dksX0_ask_11 14 rfl rfl)
theorem dX0_ask_273 : decode cX0_ask 273 = .ok (.iconst 2, 1) := dk_5 (dk_at dksX0_ask_11 17 rfl rfl)
theorem dX0_ask_274 : decode cX0_ask 274 = .ok (.if_icmp .ne 7, 3) := dk_160 0 7 (dk_at dksX0_ask_11 18 rfl rfl)
theorem dX0_ask_277 : decode cX0_ask 277 = .ok (.lconst 1, 1) := dk_10 (dk_at dksX0_ask_11 21 rfl rfl)
theorem dX0_ask_278 : decode cX0_ask 278 = .ok (.goto 4, 3) := dk_167 0 4 (dk_at dksX0_ask_12 0 rfl rfl)
theorem dX0_ask_281 : decode cX0_ask 281 = .ok (.lconst 0, 1) := dk_9 (dk_at dksX0_ask_12 3 rfl rfl)
theorem dX0_ask_282 : decode cX0_ask 282 = .ok (.lastore, 1) := dk_80 (dk_at dksX0_ask_12 4 rfl rfl)
theorem dX0_ask_283 : decode cX0_ask 283 = .ok (.aload_n 3, 1) := dk_45 (dk_at dksX0_ask_12 5 rfl rfl)
theorem dX0_ask_284 : decode cX0_ask 284 = .ok (.aload_n 0, 1) := dk_42 (dk_at dksX0_ask_12 6 rfl rfl)
theorem dX0_ask_285 : decode cX0_ask 285 = .ok (.getfield 300, 3) := dk_180 1 44 (dk_at dksX0_ask_12 7 rfl rfl)
theorem dX0_ask_288 : decode cX0_ask 288 = .ok (.aload_n 0, 1) := dk_42 (dk_at dksX0_ask_12 10 rfl rfl)
theorem dX0_ask_289 : decode cX0_ask 289 = .ok (.getfield 59, 3) := dk_180 0 59 (dk_at dksX0_ask_12 11 rfl rfl)
theorem dX0_ask_292 : decode cX0_ask 292 = .ok (.invokevirtual 311, 3) := dk_182 1 55 (dk_at dksX0_ask_12 14 rfl rfl)
theorem dX0_ask_295 : decode cX0_ask 295 = .ok (.aload_n 0, 1) := dk_42 (dk_at dksX0_ask_12 17 rfl rfl)
theorem dX0_ask_296 : decode cX0_ask 296 = .ok (.dup, 1) := dk_89 (dk_at dksX0_ask_12 18 rfl rfl)
theorem dX0_ask_297 : decode cX0_ask 297 = .ok (.getfield 300, 3) := dk_180 1 44 (dk_at dksX0_ask_12 19 rfl rfl)
theorem dX0_ask_300 : decode cX0_ask 300 = .ok (.iconst 1, 1) := dk_4 (dk_at dksX0_ask_12 22 rfl rfl)
theorem dX0_ask_301 : decode cX0_ask 301 = .ok (.iadd, 1) := dk_96 (dk_at dksX0_ask_12 23 rfl rfl)
theorem dX0_ask_302 : decode cX0_ask 302 = .ok (.putfield 300, 3) := dk_181 1 44 (dk_at dksX0_ask_13 0 rfl rfl)
theorem dX0_ask_305 : decode cX0_ask 305 = .ok (.goto (-237), 3) := dk_167 255 19 (dk_at dksX0_ask_13 3 rfl rfl)
theorem dX0_ask_308 : decode cX0_ask 308 = .ok (.aload_n 3, 1) := dk_45 (dk_at dksX0_ask_13 6 rfl rfl)
theorem dX0_ask_309 : decode cX0_ask 309 = .ok (.invokevirtual 317, 3) := dk_182 1 61 (dk_at dksX0_ask_13 7 rfl rfl)
theorem dX0_ask_312 : decode cX0_ask 312 = .ok (.lreturn, 1) := dk_173 (dk_at dksX0_ask_13 10 rfl rfl)
abbrev cX0_image : ByteArray := prog_1_method_56_code
def yX0_image : MethodName := ⟨RX0, "image", "()I"⟩
def dkwX0_image_6 : List UInt8 := [167, 255, 148, 42, 42, 180, 0, 95, 42, 180, 1, 65, 184, 1, 71, 182, 1, 68, 42, 180, 1, 65, 172]
abbrev dktX0_image_6 : List UInt8 := dkwX0_image_6 ++ []
def dkwX0_image_5 : List UInt8 := [180, 0, 182, 27, 184, 0, 234, 153, 0, 7, 5, 167, 0, 4, 3, 96, 182, 1, 68, 132, 1, 1]
abbrev dktX0_image_5 : List UInt8 := dkwX0_image_5 ++ dktX0_image_6
def dkwX0_image_4 : List UInt8 := [42, 42, 180, 0, 69, 180, 0, 174, 27, 184, 0, 234, 153, 0, 7, 4, 167, 0, 4, 3, 42, 180, 0, 69]
abbrev dktX0_image_4 : List UInt8 := dkwX0_image_4 ++ dktX0_image_5
def dkwX0_image_3 : List UInt8 := [180, 0, 69, 180, 0, 228, 27, 46, 182, 1, 68, 42, 42, 180, 0, 69, 180, 0, 231, 27, 46, 182, 1, 68]
abbrev dktX0_image_3 : List UInt8 := dkwX0_image_3 ++ dktX0_image_4
def dkwX0_image_2 : List UInt8 := [27, 46, 4, 96, 182, 1, 68, 42, 42, 180, 0, 69, 180, 0, 225, 27, 46, 182, 1, 68, 42, 42]
abbrev dktX0_image_2 : List UInt8 := dkwX0_image_2 ++ dktX0_image_3
def dkwX0_image_1 : List UInt8 := [180, 0, 171, 182, 1, 68, 3, 60, 27, 42, 182, 0, 154, 162, 0, 106, 42, 42, 180, 0, 69, 180, 0, 219]
abbrev dktX0_image_1 : List UInt8 := dkwX0_image_1 ++ dktX0_image_2
def dkwX0_image_0 : List UInt8 := [42, 3, 181, 1, 65, 42, 42, 180, 0, 69, 180, 0, 171, 16, 8, 122, 182, 1, 68, 42, 42, 180, 0, 69]
abbrev dktX0_image_0 : List UInt8 := dkwX0_image_0 ++ dktX0_image_1
theorem dksX0_image_0 : cX0_image.data.toList.drop 0 = dktX0_image_0 := by decide +kernel
theorem dksX0_image_1 : cX0_image.data.toList.drop 24 = dktX0_image_1 := dk_seg dksX0_image_0 24 rfl rfl
theorem dksX0_image_2 : cX0_image.data.toList.drop 48 = dktX0_image_2 := dk_seg dksX0_image_1 24 rfl rfl
theorem dksX0_image_3 : cX0_image.data.toList.drop 70 = dktX0_image_3 := dk_seg dksX0_image_2 22 rfl rfl
theorem dksX0_image_4 : cX0_image.data.toList.drop 94 = dktX0_image_4 := dk_seg dksX0_image_3 24 rfl rfl
theorem dksX0_image_5 : cX0_image.data.toList.drop 118 = dktX0_image_5 := dk_seg dksX0_image_4 24 rfl rfl
theorem dksX0_image_6 : cX0_image.data.toList.drop 140 = dktX0_image_6 := dk_seg dksX0_image_5 22 rfl rfl
theorem dX0_image_0 : decode cX0_image 0 = .ok (.aload_n 0, 1) := dk_42 (dk_at dksX0_image_0 0 rfl rfl)
theorem dX0_image_1 : decode cX0_image 1 = .ok (.iconst 0, 1) := dk_3 (dk_at dksX0_image_0 1 rfl rfl)
theorem dX0_image_2 : decode cX0_image 2 = .ok (.putfield 321, 3) := dk_181 1 65 (dk_at dksX0_image_0 2 rfl rfl)
theorem dX0_image_5 : decode cX0_image 5 = .ok (.aload_n 0, 1) := dk_42 (dk_at dksX0_image_0 5 rfl rfl)
theorem dX0_image_6 : decode cX0_image 6 = .ok (.aload_n 0, 1) := dk_42 (dk_at dksX0_image_0 6 rfl rfl)
theorem dX0_image_7 : decode cX0_image 7 = .ok (.getfield 69, 3) := dk_180 0 69 (dk_at dksX0_image_0 7 rfl rfl)
theorem dX0_image_10 : decode cX0_image 10 = .ok (.getfield 171, 3) := dk_180 0 171 (dk_at dksX0_image_0 10 rfl rfl)
theorem dX0_image_13 : decode cX0_image 13 = .ok (.bipush 8, 2) := dk_16 8 (dk_at dksX0_image_0 13 rfl rfl)
theorem dX0_image_15 : decode cX0_image 15 = .ok (.ishr, 1) := dk_122 (dk_at dksX0_image_0 15 rfl rfl)
theorem dX0_image_16 : decode cX0_image 16 = .ok (.invokevirtual 324, 3) := dk_182 1 68 (dk_at dksX0_image_0 16 rfl rfl)
theorem dX0_image_19 : decode cX0_image 19 = .ok (.aload_n 0, 1) := dk_42 (dk_at dksX0_image_0 19 rfl rfl)
theorem dX0_image_20 : decode cX0_image 20 = .ok (.aload_n 0, 1) := dk_42 (dk_at dksX0_image_0 20 rfl rfl)
theorem dX0_image_21 : decode cX0_image 21 = .ok (.getfield 69, 3) := dk_180 0 69 (dk_at dksX0_image_0 21 rfl rfl)
theorem dX0_image_24 : decode cX0_image 24 = .ok (.getfield 171, 3) := dk_180 0 171 (dk_at dksX0_image_1 0 rfl rfl)
theorem dX0_image_27 : decode cX0_image 27 = .ok (.invokevirtual 324, 3) := dk_182 1 68 (dk_at dksX0_image_1 3 rfl rfl)
theorem dX0_image_30 : decode cX0_image 30 = .ok (.iconst 0, 1) := dk_3 (dk_at dksX0_image_1 6 rfl rfl)
theorem dX0_image_31 : decode cX0_image 31 = .ok (.istore_n 1, 1) := dk_60 (dk_at dksX0_image_1 7 rfl rfl)
theorem dX0_image_32 : decode cX0_image 32 = .ok (.iload_n 1, 1) := dk_27 (dk_at dksX0_image_1 8 rfl rfl)
theorem dX0_image_33 : decode cX0_image 33 = .ok (.aload_n 0, 1) := dk_42 (dk_at dksX0_image_1 9 rfl rfl)
theorem dX0_image_34 : decode cX0_image 34 = .ok (.invokevirtual 154, 3) := dk_182 0 154 (dk_at dksX0_image_1 10 rfl rfl)
theorem dX0_image_37 : decode cX0_image 37 = .ok (.if_icmp .ge 106, 3) := dk_162 0 106 (dk_at dksX0_image_1 13 rfl rfl)
theorem dX0_image_40 : decode cX0_image 40 = .ok (.aload_n 0, 1) := dk_42 (dk_at dksX0_image_1 16 rfl rfl)
theorem dX0_image_41 : decode cX0_image 41 = .ok (.aload_n 0, 1) := dk_42 (dk_at dksX0_image_1 17 rfl rfl)
theorem dX0_image_42 : decode cX0_image 42 = .ok (.getfield 69, 3) := dk_180 0 69 (dk_at dksX0_image_1 18 rfl rfl)
theorem dX0_image_45 : decode cX0_image 45 = .ok (.getfield 219, 3) := dk_180 0 219 (dk_at dksX0_image_1 21 rfl rfl)
theorem dX0_image_48 : decode cX0_image 48 = .ok (.iload_n 1, 1) := dk_27 (dk_at dksX0_image_2 0 rfl rfl)
theorem dX0_image_49 : decode cX0_image 49 = .ok (.iaload, 1) := dk_46 (dk_at dksX0_image_2 1 rfl rfl)
theorem dX0_image_50 : decode cX0_image 50 = .ok (.iconst 1, 1) := dk_4 (dk_at dksX0_image_2 2 rfl rfl)
theorem dX0_image_51 : decode cX0_image 51 = .ok (.iadd, 1) := dk_96 (dk_at dksX0_image_2 3 rfl rfl)
theorem dX0_image_52 : decode cX0_image 52 = .ok (.invokevirtual 324, 3) := dk_182 1 68 (dk_at dksX0_image_2 4 rfl rfl)
theorem dX0_image_55 : decode cX0_image 55 = .ok (.aload_n 0, 1) := dk_42 (dk_at dksX0_image_2 7 rfl rfl)
theorem dX0_image_56 : decode cX0_image 56 = .ok (.aload_n 0, 1) := dk_42 (dk_at dksX0_image_2 8 rfl rfl)
theorem dX0_image_57 : decode cX0_image 57 = .ok (.getfield 69, 3) := dk_180 0 69 (dk_at dksX0_image_2 9 rfl rfl)
theorem dX0_image_60 : decode cX0_image 60 = .ok (.getfield 225, 3) := dk_180 0 225 (dk_at dksX0_image_2 12 rfl rfl)
theorem dX0_image_63 : decode cX0_image 63 = .ok (.iload_n 1, 1) := dk_27 (dk_at dksX0_image_2 15 rfl rfl)
theorem dX0_image_64 : decode cX0_image 64 = .ok (.iaload, 1) := dk_46 (dk_at dksX0_image_2 16 rfl rfl)
theorem dX0_image_65 : decode cX0_image 65 = .ok (.invokevirtual 324, 3) := dk_182 1 68 (dk_at dksX0_image_2 17 rfl rfl)
theorem dX0_image_68 : decode cX0_image 68 = .ok (.aload_n 0, 1) := dk_42 (dk_at dksX0_image_2 20 rfl rfl)
theorem dX0_image_69 : decode cX0_image 69 = .ok (.aload_n 0, 1) := dk_42 (dk_at dksX0_image_2 21 rfl rfl)
theorem dX0_image_70 : decode cX0_image 70 = .ok (.getfield 69, 3) := dk_180 0 69 (dk_at dksX0_image_3 0 rfl rfl)
theorem dX0_image_73 : decode cX0_image 73 = .ok (.getfield 228, 3) := dk_180 0 228 (dk_at dksX0_image_3 3 rfl rfl)
theorem dX0_image_76 : decode cX0_image 76 = .ok (.iload_n 1, 1) := dk_27 (dk_at dksX0_image_3 6 rfl rfl)
theorem dX0_image_77 : decode cX0_image 77 = .ok (.iaload, 1) := dk_46 (dk_at dksX0_image_3 7 rfl rfl)
theorem dX0_image_78 : decode cX0_image 78 = .ok (.invokevirtual 324, 3) := dk_182 1 68 (dk_at dksX0_image_3 8 rfl rfl)
theorem dX0_image_81 : decode cX0_image 81 = .ok (.aload_n 0, 1) := dk_42 (dk_at dksX0_image_3 11 rfl rfl)
theorem dX0_image_82 : decode cX0_image 82 = .ok (.aload_n 0, 1) := dk_42 (dk_at dksX0_image_3 12 rfl rfl)
theorem dX0_image_83 : decode cX0_image 83 = .ok (.getfield 69, 3) := dk_180 0 69 (dk_at dksX0_image_3 13 rfl rfl)
theorem dX0_image_86 : decode cX0_image 86 = .ok (.getfield 231, 3) := dk_180 0 231 (dk_at dksX0_image_3 16 rfl rfl)
theorem dX0_image_89 : decode cX0_image 89 = .ok (.iload_n 1, 1) := dk_27 (dk_at dksX0_image_3 19 rfl rfl)
theorem dX0_image_90 : decode cX0_image 90 = .ok (.iaload, 1) := dk_46 (dk_at dksX0_image_3 20 rfl rfl)
theorem dX0_image_91 : decode cX0_image 91 = .ok (.invokevirtual 324, 3) := dk_182 1 68 (dk_at dksX0_image_3 21 rfl rfl)
theorem dX0_image_94 : decode cX0_image 94 = .ok (.aload_n 0, 1) := dk_42 (dk_at dksX0_image_4 0 rfl rfl)
theorem dX0_image_95 : decode cX0_image 95 = .ok (.aload_n 0, 1) := dk_42 (dk_at dksX0_image_4 1 rfl rfl)
theorem dX0_image_96 : decode cX0_image 96 = .ok (.getfield 69, 3) := dk_180 0 69 (dk_at dksX0_image_4 2 rfl rfl)
theorem dX0_image_99 : decode cX0_image 99 = .ok (.getfield 174, 3) := dk_180 0 174 (dk_at dksX0_image_4 5 rfl rfl)
theorem dX0_image_102 : decode cX0_image 102 = .ok (.iload_n 1, 1) := dk_27 (dk_at dksX0_image_4 8 rfl rfl)
theorem dX0_image_103 : decode cX0_image 103 = .ok (.invokestatic 234, 3) := dk_184 0 234 (dk_at dksX0_image_4 9 rfl rfl)
theorem dX0_image_106 : decode cX0_image 106 = .ok (.ifCond .eq 7, 3) := dk_153 0 7 (dk_at dksX0_image_4 12 rfl rfl)
theorem dX0_image_109 : decode cX0_image 109 = .ok (.iconst 1, 1) := dk_4 (dk_at dksX0_image_4 15 rfl rfl)
theorem dX0_image_110 : decode cX0_image 110 = .ok (.goto 4, 3) := dk_167 0 4 (dk_at dksX0_image_4 16 rfl rfl)
theorem dX0_image_113 : decode cX0_image 113 = .ok (.iconst 0, 1) := dk_3 (dk_at dksX0_image_4 19 rfl rfl)
theorem dX0_image_114 : decode cX0_image 114 = .ok (.aload_n 0, 1) := dk_42 (dk_at dksX0_image_4 20 rfl rfl)
theorem dX0_image_115 : decode cX0_image 115 = .ok (.getfield 69, 3) := dk_180 0 69 (dk_at dksX0_image_4 21 rfl rfl)
theorem dX0_image_118 : decode cX0_image 118 = .ok (.getfield 182, 3) := dk_180 0 182 (dk_at dksX0_image_5 0 rfl rfl)
theorem dX0_image_121 : decode cX0_image 121 = .ok (.iload_n 1, 1) := dk_27 (dk_at dksX0_image_5 3 rfl rfl)
theorem dX0_image_122 : decode cX0_image 122 = .ok (.invokestatic 234, 3) := dk_184 0 234 (dk_at dksX0_image_5 4 rfl rfl)
theorem dX0_image_125 : decode cX0_image 125 = .ok (.ifCond .eq 7, 3) := dk_153 0 7 (dk_at dksX0_image_5 7 rfl rfl)
theorem dX0_image_128 : decode cX0_image 128 = .ok (.iconst 2, 1) := dk_5 (dk_at dksX0_image_5 10 rfl rfl)
theorem dX0_image_129 : decode cX0_image 129 = .ok (.goto 4, 3) := dk_167 0 4 (dk_at dksX0_image_5 11 rfl rfl)
theorem dX0_image_132 : decode cX0_image 132 = .ok (.iconst 0, 1) := dk_3 (dk_at dksX0_image_5 14 rfl rfl)
theorem dX0_image_133 : decode cX0_image 133 = .ok (.iadd, 1) := dk_96 (dk_at dksX0_image_5 15 rfl rfl)
theorem dX0_image_134 : decode cX0_image 134 = .ok (.invokevirtual 324, 3) := dk_182 1 68 (dk_at dksX0_image_5 16 rfl rfl)
theorem dX0_image_137 : decode cX0_image 137 = .ok (.iinc 1 1, 3) := dk_132 1 1 (dk_at dksX0_image_5 19 rfl rfl)
theorem dX0_image_140 : decode cX0_image 140 = .ok (.goto (-108), 3) := dk_167 255 148 (dk_at dksX0_image_6 0 rfl rfl)
theorem dX0_image_143 : decode cX0_image 143 = .ok (.aload_n 0, 1) := dk_42 (dk_at dksX0_image_6 3 rfl rfl)
theorem dX0_image_144 : decode cX0_image 144 = .ok (.aload_n 0, 1) := dk_42 (dk_at dksX0_image_6 4 rfl rfl)
theorem dX0_image_145 : decode cX0_image 145 = .ok (.getfield 95, 3) := dk_180 0 95 (dk_at dksX0_image_6 5 rfl rfl)
theorem dX0_image_148 : decode cX0_image 148 = .ok (.aload_n 0, 1) := dk_42 (dk_at dksX0_image_6 8 rfl rfl)
theorem dX0_image_149 : decode cX0_image 149 = .ok (.getfield 321, 3) := dk_180 1 65 (dk_at dksX0_image_6 9 rfl rfl)
theorem dX0_image_152 : decode cX0_image 152 = .ok (.invokestatic 327, 3) := dk_184 1 71 (dk_at dksX0_image_6 12 rfl rfl)
theorem dX0_image_155 : decode cX0_image 155 = .ok (.invokevirtual 324, 3) := dk_182 1 68 (dk_at dksX0_image_6 15 rfl rfl)
theorem dX0_image_158 : decode cX0_image 158 = .ok (.aload_n 0, 1) := dk_42 (dk_at dksX0_image_6 18 rfl rfl)
theorem dX0_image_159 : decode cX0_image 159 = .ok (.getfield 321, 3) := dk_180 1 65 (dk_at dksX0_image_6 19 rfl rfl)
theorem dX0_image_162 : decode cX0_image 162 = .ok (.ireturn, 1) := dk_172 (dk_at dksX0_image_6 22 rfl rfl)
abbrev cX0_writes : ByteArray := prog_1_method_54_code
def yX0_writes : MethodName := ⟨RX0, "writes", "(I)V"⟩
def dkwX0_writes_0 : List UInt8 := [42, 180, 0, 95, 42, 89, 180, 1, 65, 90, 4, 96, 181, 1, 65, 27, 145, 84, 177]
abbrev dktX0_writes_0 : List UInt8 := dkwX0_writes_0 ++ []
theorem dksX0_writes_0 : cX0_writes.data.toList.drop 0 = dktX0_writes_0 := by decide +kernel
theorem dX0_writes_0 : decode cX0_writes 0 = .ok (.aload_n 0, 1) := dk_42 (dk_at dksX0_writes_0 0 rfl rfl)
theorem dX0_writes_1 : decode cX0_writes 1 = .ok (.getfield 95, 3) := dk_180 0 95 (dk_at dksX0_writes_0 1 rfl rfl)
theorem dX0_writes_4 : decode cX0_writes 4 = .ok (.aload_n 0, 1) := dk_42 (dk_at dksX0_writes_0 4 rfl rfl)
theorem dX0_writes_5 : decode cX0_writes 5 = .ok (.dup, 1) := dk_89 (dk_at dksX0_writes_0 5 rfl rfl)
theorem dX0_writes_6 : decode cX0_writes 6 = .ok (.getfield 321, 3) := dk_180 1 65 (dk_at dksX0_writes_0 6 rfl rfl)
theorem dX0_writes_9 : decode cX0_writes 9 = .ok (.dup_x1, 1) := dk_90 (dk_at dksX0_writes_0 9 rfl rfl)
theorem dX0_writes_10 : decode cX0_writes 10 = .ok (.iconst 1, 1) := dk_4 (dk_at dksX0_writes_0 10 rfl rfl)
theorem dX0_writes_11 : decode cX0_writes 11 = .ok (.iadd, 1) := dk_96 (dk_at dksX0_writes_0 11 rfl rfl)
theorem dX0_writes_12 : decode cX0_writes 12 = .ok (.putfield 321, 3) := dk_181 1 65 (dk_at dksX0_writes_0 12 rfl rfl)
theorem dX0_writes_15 : decode cX0_writes 15 = .ok (.iload_n 1, 1) := dk_27 (dk_at dksX0_writes_0 15 rfl rfl)
theorem dX0_writes_16 : decode cX0_writes 16 = .ok (.i2b, 1) := dk_145 (dk_at dksX0_writes_0 16 rfl rfl)
theorem dX0_writes_17 : decode cX0_writes 17 = .ok (.bastore, 1) := dk_84 (dk_at dksX0_writes_0 17 rfl rfl)
theorem dX0_writes_18 : decode cX0_writes 18 = .ok (.return_, 1) := dk_177 (dk_at dksX0_writes_0 18 rfl rfl)
abbrev cX0_check : ByteArray := prog_1_method_55_code
def yX0_check : MethodName := ⟨RX0, "check", "([BI)I"⟩
def dkwX0_check_1 : List UInt8 := [112, 61, 132, 3, 1, 167, 255, 232, 28, 172]
abbrev dktX0_check_1 : List UInt8 := dkwX0_check_1 ++ []
def dkwX0_check_0 : List UInt8 := [16, 43, 61, 3, 62, 29, 27, 162, 0, 25, 6, 28, 104, 42, 29, 51, 17, 0, 255, 126, 96, 17, 0, 251]
abbrev dktX0_check_0 : List UInt8 := dkwX0_check_0 ++ dktX0_check_1
theorem dksX0_check_0 : cX0_check.data.toList.drop 0 = dktX0_check_0 := by decide +kernel
theorem dksX0_check_1 : cX0_check.data.toList.drop 24 = dktX0_check_1 := dk_seg dksX0_check_0 24 rfl rfl
theorem dX0_check_0 : decode cX0_check 0 = .ok (.bipush 43, 2) := dk_16 43 (dk_at dksX0_check_0 0 rfl rfl)
theorem dX0_check_2 : decode cX0_check 2 = .ok (.istore_n 2, 1) := dk_61 (dk_at dksX0_check_0 2 rfl rfl)
theorem dX0_check_3 : decode cX0_check 3 = .ok (.iconst 0, 1) := dk_3 (dk_at dksX0_check_0 3 rfl rfl)
theorem dX0_check_4 : decode cX0_check 4 = .ok (.istore_n 3, 1) := dk_62 (dk_at dksX0_check_0 4 rfl rfl)
theorem dX0_check_5 : decode cX0_check 5 = .ok (.iload_n 3, 1) := dk_29 (dk_at dksX0_check_0 5 rfl rfl)
theorem dX0_check_6 : decode cX0_check 6 = .ok (.iload_n 1, 1) := dk_27 (dk_at dksX0_check_0 6 rfl rfl)
theorem dX0_check_7 : decode cX0_check 7 = .ok (.if_icmp .ge 25, 3) := dk_162 0 25 (dk_at dksX0_check_0 7 rfl rfl)
theorem dX0_check_10 : decode cX0_check 10 = .ok (.iconst 3, 1) := dk_6 (dk_at dksX0_check_0 10 rfl rfl)
theorem dX0_check_11 : decode cX0_check 11 = .ok (.iload_n 2, 1) := dk_28 (dk_at dksX0_check_0 11 rfl rfl)
theorem dX0_check_12 : decode cX0_check 12 = .ok (.imul, 1) := dk_104 (dk_at dksX0_check_0 12 rfl rfl)
theorem dX0_check_13 : decode cX0_check 13 = .ok (.aload_n 0, 1) := dk_42 (dk_at dksX0_check_0 13 rfl rfl)
theorem dX0_check_14 : decode cX0_check 14 = .ok (.iload_n 3, 1) := dk_29 (dk_at dksX0_check_0 14 rfl rfl)
theorem dX0_check_15 : decode cX0_check 15 = .ok (.baload, 1) := dk_51 (dk_at dksX0_check_0 15 rfl rfl)
theorem dX0_check_16 : decode cX0_check 16 = .ok (.sipush 255, 3) := dk_17 0 255 (dk_at dksX0_check_0 16 rfl rfl)
theorem dX0_check_19 : decode cX0_check 19 = .ok (.iand, 1) := dk_126 (dk_at dksX0_check_0 19 rfl rfl)
theorem dX0_check_20 : decode cX0_check 20 = .ok (.iadd, 1) := dk_96 (dk_at dksX0_check_0 20 rfl rfl)
theorem dX0_check_21 : decode cX0_check 21 = .ok (.sipush 251, 3) := dk_17 0 251 (dk_at dksX0_check_0 21 rfl rfl)
theorem dX0_check_24 : decode cX0_check 24 = .ok (.irem, 1) := dk_112 (dk_at dksX0_check_1 0 rfl rfl)
theorem dX0_check_25 : decode cX0_check 25 = .ok (.istore_n 2, 1) := dk_61 (dk_at dksX0_check_1 1 rfl rfl)
theorem dX0_check_26 : decode cX0_check 26 = .ok (.iinc 3 1, 3) := dk_132 3 1 (dk_at dksX0_check_1 2 rfl rfl)
theorem dX0_check_29 : decode cX0_check 29 = .ok (.goto (-24), 3) := dk_167 255 232 (dk_at dksX0_check_1 5 rfl rfl)
theorem dX0_check_32 : decode cX0_check 32 = .ok (.iload_n 2, 1) := dk_28 (dk_at dksX0_check_1 8 rfl rfl)
theorem dX0_check_33 : decode cX0_check 33 = .ok (.ireturn, 1) := dk_172 (dk_at dksX0_check_1 9 rfl rfl)
abbrev cX0_octet : ByteArray := prog_1_method_57_code
def yX0_octet : MethodName := ⟨RX0, "octet", "(I)I"⟩
def dkwX0_octet_1 : List UInt8 := [17, 0, 255, 126, 172]
abbrev dktX0_octet_1 : List UInt8 := dkwX0_octet_1 ++ []
def dkwX0_octet_0 : List UInt8 := [27, 155, 0, 11, 27, 42, 180, 1, 65, 161, 0, 7, 2, 167, 0, 13, 42, 180, 0, 95, 27, 51]
abbrev dktX0_octet_0 : List UInt8 := dkwX0_octet_0 ++ dktX0_octet_1
theorem dksX0_octet_0 : cX0_octet.data.toList.drop 0 = dktX0_octet_0 := by decide +kernel
theorem dksX0_octet_1 : cX0_octet.data.toList.drop 22 = dktX0_octet_1 := dk_seg dksX0_octet_0 22 rfl rfl
theorem dX0_octet_0 : decode cX0_octet 0 = .ok (.iload_n 1, 1) := dk_27 (dk_at dksX0_octet_0 0 rfl rfl)
theorem dX0_octet_1 : decode cX0_octet 1 = .ok (.ifCond .lt 11, 3) := dk_155 0 11 (dk_at dksX0_octet_0 1 rfl rfl)
theorem dX0_octet_4 : decode cX0_octet 4 = .ok (.iload_n 1, 1) := dk_27 (dk_at dksX0_octet_0 4 rfl rfl)
theorem dX0_octet_5 : decode cX0_octet 5 = .ok (.aload_n 0, 1) := dk_42 (dk_at dksX0_octet_0 5 rfl rfl)
theorem dX0_octet_6 : decode cX0_octet 6 = .ok (.getfield 321, 3) := dk_180 1 65 (dk_at dksX0_octet_0 6 rfl rfl)
theorem dX0_octet_9 : decode cX0_octet 9 = .ok (.if_icmp .lt 7, 3) := dk_161 0 7 (dk_at dksX0_octet_0 9 rfl rfl)
theorem dX0_octet_12 : decode cX0_octet 12 = .ok (.iconst (-1), 1) := dk_2 (dk_at dksX0_octet_0 12 rfl rfl)
theorem dX0_octet_13 : decode cX0_octet 13 = .ok (.goto 13, 3) := dk_167 0 13 (dk_at dksX0_octet_0 13 rfl rfl)
theorem dX0_octet_16 : decode cX0_octet 16 = .ok (.aload_n 0, 1) := dk_42 (dk_at dksX0_octet_0 16 rfl rfl)
theorem dX0_octet_17 : decode cX0_octet 17 = .ok (.getfield 95, 3) := dk_180 0 95 (dk_at dksX0_octet_0 17 rfl rfl)
theorem dX0_octet_20 : decode cX0_octet 20 = .ok (.iload_n 1, 1) := dk_27 (dk_at dksX0_octet_0 20 rfl rfl)
theorem dX0_octet_21 : decode cX0_octet 21 = .ok (.baload, 1) := dk_51 (dk_at dksX0_octet_0 21 rfl rfl)
theorem dX0_octet_22 : decode cX0_octet 22 = .ok (.sipush 255, 3) := dk_17 0 255 (dk_at dksX0_octet_1 0 rfl rfl)
theorem dX0_octet_25 : decode cX0_octet 25 = .ok (.iand, 1) := dk_126 (dk_at dksX0_octet_1 3 rfl rfl)
theorem dX0_octet_26 : decode cX0_octet 26 = .ok (.ireturn, 1) := dk_172 (dk_at dksX0_octet_1 4 rfl rfl)
abbrev cX0_on : ByteArray := prog_1_method_59_code
def yX0_on : MethodName := ⟨RX0, "on", "()Z"⟩
def dkwX0_on_10 : List UInt8 := [3, 181, 0, 131, 4, 172]
abbrev dktX0_on_10 : List UInt8 := dkwX0_on_10 ++ []
def dkwX0_on_9 : List UInt8 := [181, 0, 171, 42, 180, 0, 73, 3, 181, 0, 189, 42, 180, 0, 69, 42, 180, 0, 73, 182, 0, 251, 87, 42]
abbrev dktX0_on_9 : List UInt8 := dkwX0_on_9 ++ dktX0_on_10
def dkwX0_on_8 : List UInt8 := [167, 0, 4, 3, 172, 42, 180, 0, 73, 42, 3, 182, 1, 11, 16, 8, 120, 42, 4, 182, 1, 11, 128]
abbrev dktX0_on_8 : List UInt8 := dkwX0_on_8 ++ dktX0_on_9
def dkwX0_on_7 : List UInt8 := [167, 0, 4, 3, 61, 132, 3, 1, 167, 255, 202, 28, 154, 0, 17, 42, 8, 182, 0, 101, 155, 0, 7, 4]
abbrev dktX0_on_7 : List UInt8 := dkwX0_on_7 ++ dktX0_on_8
def dkwX0_on_6 : List UInt8 := [159, 0, 23, 42, 180, 0, 73, 42, 180, 0, 73, 180, 0, 219, 29, 46, 29, 182, 1, 4, 154, 0, 7, 4]
abbrev dktX0_on_6 : List UInt8 := dkwX0_on_6 ++ dktX0_on_7
def dkwX0_on_5 : List UInt8 := [3, 62, 29, 42, 182, 0, 154, 162, 0, 52, 28, 153, 0, 48, 42, 180, 0, 73, 180, 0, 219, 29, 46, 2]
abbrev dktX0_on_5 : List UInt8 := dkwX0_on_5 ++ dktX0_on_6
def dkwX0_on_4 : List UInt8 := [162, 0, 24, 28, 153, 0, 20, 42, 29, 5, 8, 29, 104, 96, 182, 1, 75, 61, 132, 3, 1, 167, 255, 230]
abbrev dktX0_on_4 : List UInt8 := dkwX0_on_4 ++ dktX0_on_5
def dkwX0_on_3 : List UInt8 := [182, 0, 251, 3, 181, 0, 174, 42, 180, 0, 73, 3, 181, 0, 182, 3, 62, 29, 42, 182, 0, 154]
abbrev dktX0_on_3 : List UInt8 := dkwX0_on_3 ++ dktX0_on_4
def dkwX0_on_2 : List UInt8 := [182, 1, 11, 128, 17, 3, 231, 163, 0, 7, 4, 167, 0, 4, 3, 61, 42, 180, 0, 73, 42, 180, 0, 69]
abbrev dktX0_on_2 : List UInt8 := dkwX0_on_2 ++ dktX0_on_3
def dkwX0_on_1 : List UInt8 := [42, 180, 0, 35, 27, 4, 100, 184, 1, 71, 160, 0, 27, 42, 3, 182, 1, 11, 16, 8, 120, 42, 4]
abbrev dktX0_on_1 : List UInt8 := dkwX0_on_1 ++ dktX0_on_2
def dkwX0_on_0 : List UInt8 := [42, 182, 0, 112, 60, 27, 6, 8, 42, 182, 0, 154, 104, 96, 160, 0, 47, 42, 27, 4, 100, 182, 1, 11]
abbrev dktX0_on_0 : List UInt8 := dkwX0_on_0 ++ dktX0_on_1
theorem dksX0_on_0 : cX0_on.data.toList.drop 0 = dktX0_on_0 := by decide +kernel
theorem dksX0_on_1 : cX0_on.data.toList.drop 24 = dktX0_on_1 := dk_seg dksX0_on_0 24 rfl rfl
theorem dksX0_on_2 : cX0_on.data.toList.drop 47 = dktX0_on_2 := dk_seg dksX0_on_1 23 rfl rfl
theorem dksX0_on_3 : cX0_on.data.toList.drop 71 = dktX0_on_3 := dk_seg dksX0_on_2 24 rfl rfl
theorem dksX0_on_4 : cX0_on.data.toList.drop 93 = dktX0_on_4 := dk_seg dksX0_on_3 22 rfl rfl
theorem dksX0_on_5 : cX0_on.data.toList.drop 117 = dktX0_on_5 := dk_seg dksX0_on_4 24 rfl rfl
theorem dksX0_on_6 : cX0_on.data.toList.drop 141 = dktX0_on_6 := dk_seg dksX0_on_5 24 rfl rfl
theorem dksX0_on_7 : cX0_on.data.toList.drop 165 = dktX0_on_7 := dk_seg dksX0_on_6 24 rfl rfl
theorem dksX0_on_8 : cX0_on.data.toList.drop 189 = dktX0_on_8 := dk_seg dksX0_on_7 24 rfl rfl
theorem dksX0_on_9 : cX0_on.data.toList.drop 212 = dktX0_on_9 := dk_seg dksX0_on_8 23 rfl rfl
theorem dksX0_on_10 : cX0_on.data.toList.drop 236 = dktX0_on_10 := dk_seg dksX0_on_9 24 rfl rfl
theorem dX0_on_0 : decode cX0_on 0 = .ok (.aload_n 0, 1) := dk_42 (dk_at dksX0_on_0 0 rfl rfl)
theorem dX0_on_1 : decode cX0_on 1 = .ok (.invokevirtual 112, 3) := dk_182 0 112 (dk_at dksX0_on_0 1 rfl rfl)
theorem dX0_on_4 : decode cX0_on 4 = .ok (.istore_n 1, 1) := dk_60 (dk_at dksX0_on_0 4 rfl rfl)
theorem dX0_on_5 : decode cX0_on 5 = .ok (.iload_n 1, 1) := dk_27 (dk_at dksX0_on_0 5 rfl rfl)
theorem dX0_on_6 : decode cX0_on 6 = .ok (.iconst 3, 1) := dk_6 (dk_at dksX0_on_0 6 rfl rfl)
theorem dX0_on_7 : decode cX0_on 7 = .ok (.iconst 5, 1) := dk_8 (dk_at dksX0_on_0 7 rfl rfl)
theorem dX0_on_8 : decode cX0_on 8 = .ok (.aload_n 0, 1) := dk_42 (dk_at dksX0_on_0 8 rfl rfl)
theorem dX0_on_9 : decode cX0_on 9 = .ok (.invokevirtual 154, 3) := dk_182 0 154 (dk_at dksX0_on_0 9 rfl rfl)
theorem dX0_on_12 : decode cX0_on 12 = .ok (.imul, 1) := dk_104 (dk_at dksX0_on_0 12 rfl rfl)
theorem dX0_on_13 : decode cX0_on 13 = .ok (.iadd, 1) := dk_96 (dk_at dksX0_on_0 13 rfl rfl)
theorem dX0_on_14 : decode cX0_on 14 = .ok (.if_icmp .ne 47, 3) := dk_160 0 47 (dk_at dksX0_on_0 14 rfl rfl)
theorem dX0_on_17 : decode cX0_on 17 = .ok (.aload_n 0, 1) := dk_42 (dk_at dksX0_on_0 17 rfl rfl)
theorem dX0_on_18 : decode cX0_on 18 = .ok (.iload_n 1, 1) := dk_27 (dk_at dksX0_on_0 18 rfl rfl)
theorem dX0_on_19 : decode cX0_on 19 = .ok (.iconst 1, 1) := dk_4 (dk_at dksX0_on_0 19 rfl rfl)
theorem dX0_on_20 : decode cX0_on 20 = .ok (.isub, 1) := dk_100 (dk_at dksX0_on_0 20 rfl rfl)
theorem dX0_on_21 : decode cX0_on 21 = .ok (.invokevirtual 267, 3) := dk_182 1 11 (dk_at dksX0_on_0 21 rfl rfl)
theorem dX0_on_24 : decode cX0_on 24 = .ok (.aload_n 0, 1) := dk_42 (dk_at dksX0_on_1 0 rfl rfl)
theorem dX0_on_25 : decode cX0_on 25 = .ok (.getfield 35, 3) := dk_180 0 35 (dk_at dksX0_on_1 1 rfl rfl)
theorem dX0_on_28 : decode cX0_on 28 = .ok (.iload_n 1, 1) := dk_27 (dk_at dksX0_on_1 4 rfl rfl)
theorem dX0_on_29 : decode cX0_on 29 = .ok (.iconst 1, 1) := dk_4 (dk_at dksX0_on_1 5 rfl rfl)
theorem dX0_on_30 : decode cX0_on 30 = .ok (.isub, 1) := dk_100 (dk_at dksX0_on_1 6 rfl rfl)
theorem dX0_on_31 : decode cX0_on 31 = .ok (.invokestatic 327, 3) := dk_184 1 71 (dk_at dksX0_on_1 7 rfl rfl)
theorem dX0_on_34 : decode cX0_on 34 = .ok (.if_icmp .ne 27, 3) := dk_160 0 27 (dk_at dksX0_on_1 10 rfl rfl)
theorem dX0_on_37 : decode cX0_on 37 = .ok (.aload_n 0, 1) := dk_42 (dk_at dksX0_on_1 13 rfl rfl)
theorem dX0_on_38 : decode cX0_on 38 = .ok (.iconst 0, 1) := dk_3 (dk_at dksX0_on_1 14 rfl rfl)
theorem dX0_on_39 : decode cX0_on 39 = .ok (.invokevirtual 267, 3) := dk_182 1 11 (dk_at dksX0_on_1 15 rfl rfl)
theorem dX0_on_42 : decode cX0_on 42 = .ok (.bipush 8, 2) := dk_16 8 (dk_at dksX0_on_1 18 rfl rfl)
theorem dX0_on_44 : decode cX0_on 44 = .ok (.ishl, 1) := dk_120 (dk_at dksX0_on_1 20 rfl rfl)
theorem dX0_on_45 : decode cX0_on 45 = .ok (.aload_n 0, 1) := dk_42 (dk_at dksX0_on_1 21 rfl rfl)
theorem dX0_on_46 : decode cX0_on 46 = .ok (.iconst 1, 1) := dk_4 (dk_at dksX0_on_1 22 rfl rfl)
theorem dX0_on_47 : decode cX0_on 47 = .ok (.invokevirtual 267, 3) := dk_182 1 11 (dk_at dksX0_on_2 0 rfl rfl)
theorem dX0_on_50 : decode cX0_on 50 = .ok (.ior, 1) := dk_128 (dk_at dksX0_on_2 3 rfl rfl)
theorem dX0_on_51 : decode cX0_on 51 = .ok (.sipush 999, 3) := dk_17 3 231 (dk_at dksX0_on_2 4 rfl rfl)
theorem dX0_on_54 : decode cX0_on 54 = .ok (.if_icmp .gt 7, 3) := dk_163 0 7 (dk_at dksX0_on_2 7 rfl rfl)
theorem dX0_on_57 : decode cX0_on 57 = .ok (.iconst 1, 1) := dk_4 (dk_at dksX0_on_2 10 rfl rfl)
theorem dX0_on_58 : decode cX0_on 58 = .ok (.goto 4, 3) := dk_167 0 4 (dk_at dksX0_on_2 11 rfl rfl)
theorem dX0_on_61 : decode cX0_on 61 = .ok (.iconst 0, 1) := dk_3 (dk_at dksX0_on_2 14 rfl rfl)
theorem dX0_on_62 : decode cX0_on 62 = .ok (.istore_n 2, 1) := dk_61 (dk_at dksX0_on_2 15 rfl rfl)
theorem dX0_on_63 : decode cX0_on 63 = .ok (.aload_n 0, 1) := dk_42 (dk_at dksX0_on_2 16 rfl rfl)
theorem dX0_on_64 : decode cX0_on 64 = .ok (.getfield 73, 3) := dk_180 0 73 (dk_at dksX0_on_2 17 rfl rfl)
theorem dX0_on_67 : decode cX0_on 67 = .ok (.aload_n 0, 1) := dk_42 (dk_at dksX0_on_2 20 rfl rfl)
theorem dX0_on_68 : decode cX0_on 68 = .ok (.getfield 69, 3) := dk_180 0 69 (dk_at dksX0_on_2 21 rfl rfl)
theorem dX0_on_71 : decode cX0_on 71 = .ok (.invokevirtual 251, 3) := dk_182 0 251 (dk_at dksX0_on_3 0 rfl rfl)
theorem dX0_on_74 : decode cX0_on 74 = .ok (.iconst 0, 1) := dk_3 (dk_at dksX0_on_3 3 rfl rfl)
theorem dX0_on_75 : decode cX0_on 75 = .ok (.putfield 174, 3) := dk_181 0 174 (dk_at dksX0_on_3 4 rfl rfl)
theorem dX0_on_78 : decode cX0_on 78 = .ok (.aload_n 0, 1) := dk_42 (dk_at dksX0_on_3 7 rfl rfl)
theorem dX0_on_79 : decode cX0_on 79 = .ok (.getfield 73, 3) := dk_180 0 73 (dk_at dksX0_on_3 8 rfl rfl)
theorem dX0_on_82 : decode cX0_on 82 = .ok (.iconst 0, 1) := dk_3 (dk_at dksX0_on_3 11 rfl rfl)
theorem dX0_on_83 : decode cX0_on 83 = .ok (.putfield 182, 3) := dk_181 0 182 (dk_at dksX0_on_3 12 rfl rfl)
theorem dX0_on_86 : decode cX0_on 86 = .ok (.iconst 0, 1) := dk_3 (dk_at dksX0_on_3 15 rfl rfl)
theorem dX0_on_87 : decode cX0_on 87 = .ok (.istore_n 3, 1) := dk_62 (dk_at dksX0_on_3 16 rfl rfl)
theorem dX0_on_88 : decode cX0_on 88 = .ok (.iload_n 3, 1) := dk_29 (dk_at dksX0_on_3 17 rfl rfl)
theorem dX0_on_89 : decode cX0_on 89 = .ok (.aload_n 0, 1) := dk_42 (dk_at dksX0_on_3 18 rfl rfl)
theorem dX0_on_90 : decode cX0_on 90 = .ok (.invokevirtual 154, 3) := dk_182 0 154 (dk_at dksX0_on_3 19 rfl rfl)
theorem dX0_on_93 : decode cX0_on 93 = .ok (.if_icmp .ge 24, 3) := dk_162 0 24 (dk_at dksX0_on_4 0 rfl rfl)
theorem dX0_on_96 : decode cX0_on 96 = .ok (.iload_n 2, 1) := dk_28 (dk_at dksX0_on_4 3 rfl rfl)
theorem dX0_on_97 : decode cX0_on 97 = .ok (.ifCond .eq 20, 3) := dk_153 0 20 (dk_at dksX0_on_4 4 rfl rfl)
theorem dX0_on_100 : decode cX0_on 100 = .ok (.aload_n 0, 1) := dk_42 (dk_at dksX0_on_4 7 rfl rfl)
theorem dX0_on_101 : decode cX0_on 101 = .ok (.iload_n 3, 1) := dk_29 (dk_at dksX0_on_4 8 rfl rfl)
theorem dX0_on_102 : decode cX0_on 102 = .ok (.iconst 2, 1) := dk_5 (dk_at dksX0_on_4 9 rfl rfl)
theorem dX0_on_103 : decode cX0_on 103 = .ok (.iconst 5, 1) := dk_8 (dk_at dksX0_on_4 10 rfl rfl)
theorem dX0_on_104 : decode cX0_on 104 = .ok (.iload_n 3, 1) := dk_29 (dk_at dksX0_on_4 11 rfl rfl)
theorem dX0_on_105 : decode cX0_on 105 = .ok (.imul, 1) := dk_104 (dk_at dksX0_on_4 12 rfl rfl)
theorem dX0_on_106 : decode cX0_on 106 = .ok (.iadd, 1) := dk_96 (dk_at dksX0_on_4 13 rfl rfl)
theorem dX0_on_107 : decode cX0_on 107 = .ok (.invokevirtual 331, 3) := dk_182 1 75 (dk_at dksX0_on_4 14 rfl rfl)
theorem dX0_on_110 : decode cX0_on 110 = .ok (.istore_n 2, 1) := dk_61 (dk_at dksX0_on_4 17 rfl rfl)
theorem dX0_on_111 : decode cX0_on 111 = .ok (.iinc 3 1, 3) := dk_132 3 1 (dk_at dksX0_on_4 18 rfl rfl)
theorem dX0_on_114 : decode cX0_on 114 = .ok (.goto (-26), 3) := dk_167 255 230 (dk_at dksX0_on_4 21 rfl rfl)
theorem dX0_on_117 : decode cX0_on 117 = .ok (.iconst 0, 1) := dk_3 (dk_at dksX0_on_5 0 rfl rfl)
theorem dX0_on_118 : decode cX0_on 118 = .ok (.istore_n 3, 1) := dk_62 (dk_at dksX0_on_5 1 rfl rfl)
theorem dX0_on_119 : decode cX0_on 119 = .ok (.iload_n 3, 1) := dk_29 (dk_at dksX0_on_5 2 rfl rfl)
theorem dX0_on_120 : decode cX0_on 120 = .ok (.aload_n 0, 1) := dk_42 (dk_at dksX0_on_5 3 rfl rfl)
theorem dX0_on_121 : decode cX0_on 121 = .ok (.invokevirtual 154, 3) := dk_182 0 154 (dk_at dksX0_on_5 4 rfl rfl)
theorem dX0_on_124 : decode cX0_on 124 = .ok (.if_icmp .ge 52, 3) := dk_162 0 52 (dk_at dksX0_on_5 7 rfl rfl)
theorem dX0_on_127 : decode cX0_on 127 = .ok (.iload_n 2, 1) := dk_28 (dk_at dksX0_on_5 10 rfl rfl)
theorem dX0_on_128 : decode cX0_on 128 = .ok (.ifCond .eq 48, 3) := dk_153 0 48 (dk_at dksX0_on_5 11 rfl rfl)
theorem dX0_on_131 : decode cX0_on 131 = .ok (.aload_n 0, 1) := dk_42 (dk_at dksX0_on_5 14 rfl rfl)
theorem dX0_on_132 : decode cX0_on 132 = .ok (.getfield 73, 3) := dk_180 0 73 (dk_at dksX0_on_5 15 rfl rfl)
theorem dX0_on_135 : decode cX0_on 135 = .ok (.getfield 219, 3) := dk_180 0 219 (dk_at dksX0_on_5 18 rfl rfl)
theorem dX0_on_138 : decode cX0_on 138 = .ok (.iload_n 3, 1) := dk_29 (dk_at dksX0_on_5 21 rfl rfl)
theorem dX0_on_139 : decode cX0_on 139 = .ok (.iaload, 1) := dk_46 (dk_at dksX0_on_5 22 rfl rfl)
theorem dX0_on_140 : decode cX0_on 140 = .ok (.iconst (-1), 1) := dk_2 (dk_at dksX0_on_5 23 rfl rfl)
theorem dX0_on_141 : decode cX0_on 141 = .ok (.if_icmp .eq 23, 3) := dk_159 0 23 (dk_at dksX0_on_6 0 rfl rfl)
theorem dX0_on_144 : decode cX0_on 144 = .ok (.aload_n 0, 1) := dk_42 (dk_at dksX0_on_6 3 rfl rfl)
theorem dX0_on_145 : decode cX0_on 145 = .ok (.getfield 73, 3) := dk_180 0 73 (dk_at dksX0_on_6 4 rfl rfl)
theorem dX0_on_148 : decode cX0_on 148 = .ok (.aload_n 0, 1) := dk_42 (dk_at dksX0_on_6 7 rfl rfl)
theorem dX0_on_149 : decode cX0_on 149 = .ok (.getfield 73, 3) := dk_180 0 73 (dk_at dksX0_on_6 8 rfl rfl)
theorem dX0_on_152 : decode cX0_on 152 = .ok (.getfield 219, 3) := dk_180 0 219 (dk_at dksX0_on_6 11 rfl rfl)
theorem dX0_on_155 : decode cX0_on 155 = .ok (.iload_n 3, 1) := dk_29 (dk_at dksX0_on_6 14 rfl rfl)
theorem dX0_on_156 : decode cX0_on 156 = .ok (.iaload, 1) := dk_46 (dk_at dksX0_on_6 15 rfl rfl)
theorem dX0_on_157 : decode cX0_on 157 = .ok (.iload_n 3, 1) := dk_29 (dk_at dksX0_on_6 16 rfl rfl)
theorem dX0_on_158 : decode cX0_on 158 = .ok (.invokevirtual 260, 3) := dk_182 1 4 (dk_at dksX0_on_6 17 rfl rfl)
theorem dX0_on_161 : decode cX0_on 161 = .ok (.ifCond .ne 7, 3) := dk_154 0 7 (dk_at dksX0_on_6 20 rfl rfl)
theorem dX0_on_164 : decode cX0_on 164 = .ok (.iconst 1, 1) := dk_4 (dk_at dksX0_on_6 23 rfl rfl)
theorem dX0_on_165 : decode cX0_on 165 = .ok (.goto 4, 3) := dk_167 0 4 (dk_at dksX0_on_7 0 rfl rfl)
theorem dX0_on_168 : decode cX0_on 168 = .ok (.iconst 0, 1) := dk_3 (dk_at dksX0_on_7 3 rfl rfl)
theorem dX0_on_169 : decode cX0_on 169 = .ok (.istore_n 2, 1) := dk_61 (dk_at dksX0_on_7 4 rfl rfl)
theorem dX0_on_170 : decode cX0_on 170 = .ok (.iinc 3 1, 3) := dk_132 3 1 (dk_at dksX0_on_7 5 rfl rfl)
theorem dX0_on_173 : decode cX0_on 173 = .ok (.goto (-54), 3) := dk_167 255 202 (dk_at dksX0_on_7 8 rfl rfl)
theorem dX0_on_176 : decode cX0_on 176 = .ok (.iload_n 2, 1) := dk_28 (dk_at dksX0_on_7 11 rfl rfl)
theorem dX0_on_177 : decode cX0_on 177 = .ok (.ifCond .ne 17, 3) := dk_154 0 17 (dk_at dksX0_on_7 12 rfl rfl)
theorem dX0_on_180 : decode cX0_on 180 = .ok (.aload_n 0, 1) := dk_42 (dk_at dksX0_on_7 15 rfl rfl)
theorem dX0_on_181 : decode cX0_on 181 = .ok (.iconst 5, 1) := dk_8 (dk_at dksX0_on_7 16 rfl rfl)
theorem dX0_on_182 : decode cX0_on 182 = .ok (.invokevirtual 101, 3) := dk_182 0 101 (dk_at dksX0_on_7 17 rfl rfl)
theorem dX0_on_185 : decode cX0_on 185 = .ok (.ifCond .lt 7, 3) := dk_155 0 7 (dk_at dksX0_on_7 20 rfl rfl)
theorem dX0_on_188 : decode cX0_on 188 = .ok (.iconst 1, 1) := dk_4 (dk_at dksX0_on_7 23 rfl rfl)
theorem dX0_on_189 : decode cX0_on 189 = .ok (.goto 4, 3) := dk_167 0 4 (dk_at dksX0_on_8 0 rfl rfl)
theorem dX0_on_192 : decode cX0_on 192 = .ok (.iconst 0, 1) := dk_3 (dk_at dksX0_on_8 3 rfl rfl)
theorem dX0_on_193 : decode cX0_on 193 = .ok (.ireturn, 1) := dk_172 (dk_at dksX0_on_8 4 rfl rfl)
theorem dX0_on_194 : decode cX0_on 194 = .ok (.aload_n 0, 1) := dk_42 (dk_at dksX0_on_8 5 rfl rfl)
theorem dX0_on_195 : decode cX0_on 195 = .ok (.getfield 73, 3) := dk_180 0 73 (dk_at dksX0_on_8 6 rfl rfl)
theorem dX0_on_198 : decode cX0_on 198 = .ok (.aload_n 0, 1) := dk_42 (dk_at dksX0_on_8 9 rfl rfl)
theorem dX0_on_199 : decode cX0_on 199 = .ok (.iconst 0, 1) := dk_3 (dk_at dksX0_on_8 10 rfl rfl)
theorem dX0_on_200 : decode cX0_on 200 = .ok (.invokevirtual 267, 3) := dk_182 1 11 (dk_at dksX0_on_8 11 rfl rfl)
theorem dX0_on_203 : decode cX0_on 203 = .ok (.bipush 8, 2) := dk_16 8 (dk_at dksX0_on_8 14 rfl rfl)
theorem dX0_on_205 : decode cX0_on 205 = .ok (.ishl, 1) := dk_120 (dk_at dksX0_on_8 16 rfl rfl)
theorem dX0_on_206 : decode cX0_on 206 = .ok (.aload_n 0, 1) := dk_42 (dk_at dksX0_on_8 17 rfl rfl)
theorem dX0_on_207 : decode cX0_on 207 = .ok (.iconst 1, 1) := dk_4 (dk_at dksX0_on_8 18 rfl rfl)
theorem dX0_on_208 : decode cX0_on 208 = .ok (.invokevirtual 267, 3) := dk_182 1 11 (dk_at dksX0_on_8 19 rfl rfl)
theorem dX0_on_211 : decode cX0_on 211 = .ok (.ior, 1) := dk_128 (dk_at dksX0_on_8 22 rfl rfl)
theorem dX0_on_212 : decode cX0_on 212 = .ok (.putfield 171, 3) := dk_181 0 171 (dk_at dksX0_on_9 0 rfl rfl)
theorem dX0_on_215 : decode cX0_on 215 = .ok (.aload_n 0, 1) := dk_42 (dk_at dksX0_on_9 3 rfl rfl)
theorem dX0_on_216 : decode cX0_on 216 = .ok (.getfield 73, 3) := dk_180 0 73 (dk_at dksX0_on_9 4 rfl rfl)
theorem dX0_on_219 : decode cX0_on 219 = .ok (.iconst 0, 1) := dk_3 (dk_at dksX0_on_9 7 rfl rfl)
theorem dX0_on_220 : decode cX0_on 220 = .ok (.putfield 189, 3) := dk_181 0 189 (dk_at dksX0_on_9 8 rfl rfl)
theorem dX0_on_223 : decode cX0_on 223 = .ok (.aload_n 0, 1) := dk_42 (dk_at dksX0_on_9 11 rfl rfl)
theorem dX0_on_224 : decode cX0_on 224 = .ok (.getfield 69, 3) := dk_180 0 69 (dk_at dksX0_on_9 12 rfl rfl)
theorem dX0_on_227 : decode cX0_on 227 = .ok (.aload_n 0, 1) := dk_42 (dk_at dksX0_on_9 15 rfl rfl)
theorem dX0_on_228 : decode cX0_on 228 = .ok (.getfield 73, 3) := dk_180 0 73 (dk_at dksX0_on_9 16 rfl rfl)
theorem dX0_on_231 : decode cX0_on 231 = .ok (.invokevirtual 251, 3) := dk_182 0 251 (dk_at dksX0_on_9 19 rfl rfl)
theorem dX0_on_234 : decode cX0_on 234 = .ok (.pop, 1) := dk_87 (dk_at dksX0_on_9 22 rfl rfl)
theorem dX0_on_235 : decode cX0_on 235 = .ok (.aload_n 0, 1) := dk_42 (dk_at dksX0_on_9 23 rfl rfl)
theorem dX0_on_236 : decode cX0_on 236 = .ok (.iconst 0, 1) := dk_3 (dk_at dksX0_on_10 0 rfl rfl)
theorem dX0_on_237 : decode cX0_on 237 = .ok (.putfield 131, 3) := dk_181 0 131 (dk_at dksX0_on_10 1 rfl rfl)
theorem dX0_on_240 : decode cX0_on 240 = .ok (.iconst 1, 1) := dk_4 (dk_at dksX0_on_10 4 rfl rfl)
theorem dX0_on_241 : decode cX0_on 241 = .ok (.ireturn, 1) := dk_172 (dk_at dksX0_on_10 5 rfl rfl)
abbrev cX0_personOn : ByteArray := prog_1_method_58_code
def yX0_personOn : MethodName := ⟨RX0, "personOn", "(II)Z"⟩
def dkwX0_personOn_9 : List UInt8 := [167, 0, 4, 3, 172]
abbrev dktX0_personOn_9 : List UInt8 := dkwX0_personOn_9 ++ []
def dkwX0_personOn_8 : List UInt8 := [42, 28, 6, 96, 182, 1, 11, 16, 9, 163, 0, 18, 42, 28, 7, 96, 182, 1, 11, 6, 163, 0, 7, 4]
abbrev dktX0_personOn_8 : List UInt8 := dkwX0_personOn_8 ++ dktX0_personOn_9
def dkwX0_personOn_7 : List UInt8 := [182, 1, 11, 42, 28, 5, 96, 182, 1, 11, 126, 154, 0, 7, 4, 167, 0, 4, 3, 62, 29, 153, 0, 30]
abbrev dktX0_personOn_7 : List UInt8 := dkwX0_personOn_7 ++ dktX0_personOn_8
def dkwX0_personOn_6 : List UInt8 := [182, 1, 11, 42, 28, 5, 96, 182, 1, 11, 128, 4, 42, 182, 0, 152, 120, 162, 0, 25, 42, 28, 4, 96]
abbrev dktX0_personOn_6 : List UInt8 := dkwX0_personOn_6 ++ dktX0_personOn_7
def dkwX0_personOn_5 : List UInt8 := [167, 0, 4, 3, 128, 181, 0, 182, 42, 28, 182, 1, 11, 42, 182, 0, 154, 163, 0, 49, 42, 28, 4, 96]
abbrev dktX0_personOn_5 : List UInt8 := dkwX0_personOn_5 ++ dktX0_personOn_6
def dkwX0_personOn_4 : List UInt8 := [180, 0, 73, 89, 180, 0, 182, 42, 28, 7, 96, 182, 1, 11, 5, 126, 158, 0, 9, 4, 27, 120]
abbrev dktX0_personOn_4 : List UInt8 := dkwX0_personOn_4 ++ dktX0_personOn_5
def dkwX0_personOn_3 : List UInt8 := [42, 28, 7, 96, 182, 1, 11, 4, 126, 158, 0, 9, 4, 27, 120, 167, 0, 4, 3, 128, 181, 0, 174, 42]
abbrev dktX0_personOn_3 : List UInt8 := dkwX0_personOn_3 ++ dktX0_personOn_4
def dkwX0_personOn_2 : List UInt8 := [42, 180, 0, 73, 180, 0, 231, 27, 42, 28, 6, 96, 182, 1, 11, 79, 42, 180, 0, 73, 89, 180, 0, 174]
abbrev dktX0_personOn_2 : List UInt8 := dkwX0_personOn_2 ++ dktX0_personOn_3
def dkwX0_personOn_1 : List UInt8 := [42, 28, 4, 96, 182, 1, 11, 79, 42, 180, 0, 73, 180, 0, 228, 27, 42, 28, 5, 96, 182, 1, 11, 79]
abbrev dktX0_personOn_1 : List UInt8 := dkwX0_personOn_1 ++ dktX0_personOn_2
def dkwX0_personOn_0 : List UInt8 := [42, 180, 0, 73, 180, 0, 219, 27, 42, 28, 182, 1, 11, 4, 100, 79, 42, 180, 0, 73, 180, 0, 225, 27]
abbrev dktX0_personOn_0 : List UInt8 := dkwX0_personOn_0 ++ dktX0_personOn_1
theorem dksX0_personOn_0 : cX0_personOn.data.toList.drop 0 = dktX0_personOn_0 := by decide +kernel
theorem dksX0_personOn_1 : cX0_personOn.data.toList.drop 24 = dktX0_personOn_1 := dk_seg dksX0_personOn_0 24 rfl rfl
theorem dksX0_personOn_2 : cX0_personOn.data.toList.drop 48 = dktX0_personOn_2 := dk_seg dksX0_personOn_1 24 rfl rfl
theorem dksX0_personOn_3 : cX0_personOn.data.toList.drop 72 = dktX0_personOn_3 := dk_seg dksX0_personOn_2 24 rfl rfl
theorem dksX0_personOn_4 : cX0_personOn.data.toList.drop 96 = dktX0_personOn_4 := dk_seg dksX0_personOn_3 24 rfl rfl
theorem dksX0_personOn_5 : cX0_personOn.data.toList.drop 118 = dktX0_personOn_5 := dk_seg dksX0_personOn_4 22 rfl rfl
theorem dksX0_personOn_6 : cX0_personOn.data.toList.drop 142 = dktX0_personOn_6 := dk_seg dksX0_personOn_5 24 rfl rfl
theorem dksX0_personOn_7 : cX0_personOn.data.toList.drop 166 = dktX0_personOn_7 := dk_seg dksX0_personOn_6 24 rfl rfl
theorem dksX0_personOn_8 : cX0_personOn.data.toList.drop 190 = dktX0_personOn_8 := dk_seg dksX0_personOn_7 24 rfl rfl
theorem dksX0_personOn_9 : cX0_personOn.data.toList.drop 214 = dktX0_personOn_9 := dk_seg dksX0_personOn_8 24 rfl rfl
theorem dX0_personOn_0 : decode cX0_personOn 0 = .ok (.aload_n 0, 1) := dk_42 (dk_at dksX0_personOn_0 0 rfl rfl)
theorem dX0_personOn_1 : decode cX0_personOn 1 = .ok (.getfield 73, 3) := dk_180 0 73 (dk_at dksX0_personOn_0 1 rfl rfl)
theorem dX0_personOn_4 : decode cX0_personOn 4 = .ok (.getfield 219, 3) := dk_180 0 219 (dk_at dksX0_personOn_0 4 rfl rfl)
theorem dX0_personOn_7 : decode cX0_personOn 7 = .ok (.iload_n 1, 1) := dk_27 (dk_at dksX0_personOn_0 7 rfl rfl)
theorem dX0_personOn_8 : decode cX0_personOn 8 = .ok (.aload_n 0, 1) := dk_42 (dk_at dksX0_personOn_0 8 rfl rfl)
theorem dX0_personOn_9 : decode cX0_personOn 9 = .ok (.iload_n 2, 1) := dk_28 (dk_at dksX0_personOn_0 9 rfl rfl)
theorem dX0_personOn_10 : decode cX0_personOn 10 = .ok (.invokevirtual 267, 3) := dk_182 1 11 (dk_at dksX0_personOn_0 10 rfl rfl)
theorem dX0_personOn_13 : decode cX0_personOn 13 = .ok (.iconst 1, 1) := dk_4 (dk_at dksX0_personOn_0 13 rfl rfl)
theorem dX0_personOn_14 : decode cX0_personOn 14 = .ok (.isub, 1) := dk_100 (dk_at dksX0_personOn_0 14 rfl rfl)
theorem dX0_personOn_15 : decode cX0_personOn 15 = .ok (.iastore, 1) := dk_79 (dk_at dksX0_personOn_0 15 rfl rfl)
theorem dX0_personOn_16 : decode cX0_personOn 16 = .ok (.aload_n 0, 1) := dk_42 (dk_at dksX0_personOn_0 16 rfl rfl)
theorem dX0_personOn_17 : decode cX0_personOn 17 = .ok (.getfield 73, 3) := dk_180 0 73 (dk_at dksX0_personOn_0 17 rfl rfl)
theorem dX0_personOn_20 : decode cX0_personOn 20 = .ok (.getfield 225, 3) := dk_180 0 225 (dk_at dksX0_personOn_0 20 rfl rfl)
theorem dX0_personOn_23 : decode cX0_personOn 23 = .ok (.iload_n 1, 1) := dk_27 (dk_at dksX0_personOn_0 23 rfl rfl)
theorem dX0_personOn_24 : decode cX0_personOn 24 = .ok (.aload_n 0, 1) := dk_42 (dk_at dksX0_personOn_1 0 rfl rfl)
theorem dX0_personOn_25 : decode cX0_personOn 25 = .ok (.iload_n 2, 1) := dk_28 (dk_at dksX0_personOn_1 1 rfl rfl)
theorem dX0_personOn_26 : decode cX0_personOn 26 = .ok (.iconst 1, 1) := dk_4 (dk_at dksX0_personOn_1 2 rfl rfl)
theorem dX0_personOn_27 : decode cX0_personOn 27 = .ok (.iadd, 1) := dk_96 (dk_at dksX0_personOn_1 3 rfl rfl)
theorem dX0_personOn_28 : decode cX0_personOn 28 = .ok (.invokevirtual 267, 3) := dk_182 1 11 (dk_at dksX0_personOn_1 4 rfl rfl)
theorem dX0_personOn_31 : decode cX0_personOn 31 = .ok (.iastore, 1) := dk_79 (dk_at dksX0_personOn_1 7 rfl rfl)
theorem dX0_personOn_32 : decode cX0_personOn 32 = .ok (.aload_n 0, 1) := dk_42 (dk_at dksX0_personOn_1 8 rfl rfl)
theorem dX0_personOn_33 : decode cX0_personOn 33 = .ok (.getfield 73, 3) := dk_180 0 73 (dk_at dksX0_personOn_1 9 rfl rfl)
theorem dX0_personOn_36 : decode cX0_personOn 36 = .ok (.getfield 228, 3) := dk_180 0 228 (dk_at dksX0_personOn_1 12 rfl rfl)
theorem dX0_personOn_39 : decode cX0_personOn 39 = .ok (.iload_n 1, 1) := dk_27 (dk_at dksX0_personOn_1 15 rfl rfl)
theorem dX0_personOn_40 : decode cX0_personOn 40 = .ok (.aload_n 0, 1) := dk_42 (dk_at dksX0_personOn_1 16 rfl rfl)
theorem dX0_personOn_41 : decode cX0_personOn 41 = .ok (.iload_n 2, 1) := dk_28 (dk_at dksX0_personOn_1 17 rfl rfl)
theorem dX0_personOn_42 : decode cX0_personOn 42 = .ok (.iconst 2, 1) := dk_5 (dk_at dksX0_personOn_1 18 rfl rfl)
theorem dX0_personOn_43 : decode cX0_personOn 43 = .ok (.iadd, 1) := dk_96 (dk_at dksX0_personOn_1 19 rfl rfl)
theorem dX0_personOn_44 : decode cX0_personOn 44 = .ok (.invokevirtual 267, 3) := dk_182 1 11 (dk_at dksX0_personOn_1 20 rfl rfl)
theorem dX0_personOn_47 : decode cX0_personOn 47 = .ok (.iastore, 1) := dk_79 (dk_at dksX0_personOn_1 23 rfl rfl)
theorem dX0_personOn_48 : decode cX0_personOn 48 = .ok (.aload_n 0, 1) := dk_42 (dk_at dksX0_personOn_2 0 rfl rfl)
theorem dX0_personOn_49 : decode cX0_personOn 49 = .ok (.getfield 73, 3) := dk_180 0 73 (dk_at dksX0_personOn_2 1 rfl rfl)
theorem dX0_personOn_52 : decode cX0_personOn 52 = .ok (.getfield 231, 3) := dk_180 0 231 (dk_at dksX0_personOn_2 4 rfl rfl)
theorem dX0_personOn_55 : decode cX0_personOn 55 = .ok (.iload_n 1, 1) := dk_27 (dk_at dksX0_personOn_2 7 rfl rfl)
theorem dX0_personOn_56 : decode cX0_personOn 56 = .ok (.aload_n 0, 1) := dk_42 (dk_at dksX0_personOn_2 8 rfl rfl)
theorem dX0_personOn_57 : decode cX0_personOn 57 = .ok (.iload_n 2, 1) := dk_28 (dk_at dksX0_personOn_2 9 rfl rfl)
theorem dX0_personOn_58 : decode cX0_personOn 58 = .ok (.iconst 3, 1) := dk_6 (dk_at dksX0_personOn_2 10 rfl rfl)
theorem dX0_personOn_59 : decode cX0_personOn 59 = .ok (.iadd, 1) := dk_96 (dk_at dksX0_personOn_2 11 rfl rfl)
theorem dX0_personOn_60 : decode cX0_personOn 60 = .ok (.invokevirtual 267, 3) := dk_182 1 11 (dk_at dksX0_personOn_2 12 rfl rfl)
theorem dX0_personOn_63 : decode cX0_personOn 63 = .ok (.iastore, 1) := dk_79 (dk_at dksX0_personOn_2 15 rfl rfl)
theorem dX0_personOn_64 : decode cX0_personOn 64 = .ok (.aload_n 0, 1) := dk_42 (dk_at dksX0_personOn_2 16 rfl rfl)
theorem dX0_personOn_65 : decode cX0_personOn 65 = .ok (.getfield 73, 3) := dk_180 0 73 (dk_at dksX0_personOn_2 17 rfl rfl)
theorem dX0_personOn_68 : decode cX0_personOn 68 = .ok (.dup, 1) := dk_89 (dk_at dksX0_personOn_2 20 rfl rfl)
theorem dX0_personOn_69 : decode cX0_personOn 69 = .ok (.getfield 174, 3) := dk_180 0 174 (dk_at dksX0_personOn_2 21 rfl rfl)
theorem dX0_personOn_72 : decode cX0_personOn 72 = .ok (.aload_n 0, 1) := dk_42 (dk_at dksX0_personOn_3 0 rfl rfl)
theorem dX0_personOn_73 : decode cX0_personOn 73 = .ok (.iload_n 2, 1) := dk_28 (dk_at dksX0_personOn_3 1 rfl rfl)
theorem dX0_personOn_74 : decode cX0_personOn 74 = .ok (.iconst 4, 1) := dk_7 (dk_at dksX0_personOn_3 2 rfl rfl)
theorem dX0_personOn_75 : decode cX0_personOn 75 = .ok (.iadd, 1) := dk_96 (dk_at dksX0_personOn_3 3 rfl rfl)
theorem dX0_personOn_76 : decode cX0_personOn 76 = .ok (.invokevirtual 267, 3) := dk_182 1 11 (dk_at dksX0_personOn_3 4 rfl rfl)
theorem dX0_personOn_79 : decode cX0_personOn 79 = .ok (.iconst 1, 1) := dk_4 (dk_at dksX0_personOn_3 7 rfl rfl)
theorem dX0_personOn_80 : decode cX0_personOn 80 = .ok (.iand, 1) := dk_126 (dk_at dksX0_personOn_3 8 rfl rfl)
theorem dX0_personOn_81 : decode cX0_personOn 81 = .ok (.ifCond .le 9, 3) := dk_158 0 9 (dk_at dksX0_personOn_3 9 rfl rfl)
theorem dX0_personOn_84 : decode cX0_personOn 84 = .ok (.iconst 1, 1) := dk_4 (dk_at dksX0_personOn_3 12 rfl rfl)
theorem dX0_personOn_85 : decode cX0_personOn 85 = .ok (.iload_n 1, 1) := dk_27 (dk_at dksX0_personOn_3 13 rfl rfl)
theorem dX0_personOn_86 : decode cX0_personOn 86 = .ok (.ishl, 1) := dk_120 (dk_at dksX0_personOn_3 14 rfl rfl)
theorem dX0_personOn_87 : decode cX0_personOn 87 = .ok (.goto 4, 3) := dk_167 0 4 (dk_at dksX0_personOn_3 15 rfl rfl)
theorem dX0_personOn_90 : decode cX0_personOn 90 = .ok (.iconst 0, 1) := dk_3 (dk_at dksX0_personOn_3 18 rfl rfl)
theorem dX0_personOn_91 : decode cX0_personOn 91 = .ok (.ior, 1) := dk_128 (dk_at dksX0_personOn_3 19 rfl rfl)
theorem dX0_personOn_92 : decode cX0_personOn 92 = .ok (.putfield 174, 3) := dk_181 0 174 (dk_at dksX0_personOn_3 20 rfl rfl)
theorem dX0_personOn_95 : decode cX0_personOn 95 = .ok (.aload_n 0, 1) := dk_42 (dk_at dksX0_personOn_3 23 rfl rfl)
theorem dX0_personOn_96 : decode cX0_personOn 96 = .ok (.getfield 73, 3) := dk_180 0 73 (dk_at dksX0_personOn_4 0 rfl rfl)
theorem dX0_personOn_99 : decode cX0_personOn 99 = .ok (.dup, 1) := dk_89 (dk_at dksX0_personOn_4 3 rfl rfl)
theorem dX0_personOn_100 : decode cX0_personOn 100 = .ok (.getfield 182, 3) := dk_180 0 182 (dk_at dksX0_personOn_4 4 rfl rfl)
theorem dX0_personOn_103 : decode cX0_personOn 103 = .ok (.aload_n 0, 1) := dk_42 (dk_at dksX0_personOn_4 7 rfl rfl)
theorem dX0_personOn_104 : decode cX0_personOn 104 = .ok (.iload_n 2, 1) := dk_28 (dk_at dksX0_personOn_4 8 rfl rfl)
theorem dX0_personOn_105 : decode cX0_personOn 105 = .ok (.iconst 4, 1) := dk_7 (dk_at dksX0_personOn_4 9 rfl rfl)
theorem dX0_personOn_106 : decode cX0_personOn 106 = .ok (.iadd, 1) := dk_96 (dk_at dksX0_personOn_4 10 rfl rfl)
theorem dX0_personOn_107 : decode cX0_personOn 107 = .ok (.invokevirtual 267, 3) := dk_182 1 11 (dk_at dksX0_personOn_4 11 rfl rfl)
theorem dX0_personOn_110 : decode cX0_personOn 110 = .ok (.iconst 2, 1) := dk_5 (dk_at dksX0_personOn_4 14 rfl rfl)
theorem dX0_personOn_111 : decode cX0_personOn 111 = .ok (.iand, 1) := dk_126 (dk_at dksX0_personOn_4 15 rfl rfl)
theorem dX0_personOn_112 : decode cX0_personOn 112 = .ok (.ifCond .le 9, 3) := dk_158 0 9 (dk_at dksX0_personOn_4 16 rfl rfl)
theorem dX0_personOn_115 : decode cX0_personOn 115 = .ok (.iconst 1, 1) := dk_4 (dk_at dksX0_personOn_4 19 rfl rfl)
theorem dX0_personOn_116 : decode cX0_personOn 116 = .ok (.iload_n 1, 1) := dk_27 (dk_at dksX0_personOn_4 20 rfl rfl)
theorem dX0_personOn_117 : decode cX0_personOn 117 = .ok (.ishl, 1) := dk_120 (dk_at dksX0_personOn_4 21 rfl rfl)
theorem dX0_personOn_118 : decode cX0_personOn 118 = .ok (.goto 4, 3) := dk_167 0 4 (dk_at dksX0_personOn_5 0 rfl rfl)
theorem dX0_personOn_121 : decode cX0_personOn 121 = .ok (.iconst 0, 1) := dk_3 (dk_at dksX0_personOn_5 3 rfl rfl)
theorem dX0_personOn_122 : decode cX0_personOn 122 = .ok (.ior, 1) := dk_128 (dk_at dksX0_personOn_5 4 rfl rfl)
theorem dX0_personOn_123 : decode cX0_personOn 123 = .ok (.putfield 182, 3) := dk_181 0 182 (dk_at dksX0_personOn_5 5 rfl rfl)
theorem dX0_personOn_126 : decode cX0_personOn 126 = .ok (.aload_n 0, 1) := dk_42 (dk_at dksX0_personOn_5 8 rfl rfl)
theorem dX0_personOn_127 : decode cX0_personOn 127 = .ok (.iload_n 2, 1) := dk_28 (dk_at dksX0_personOn_5 9 rfl rfl)
theorem dX0_personOn_128 : decode cX0_personOn 128 = .ok (.invokevirtual 267, 3) := dk_182 1 11 (dk_at dksX0_personOn_5 10 rfl rfl)
theorem dX0_personOn_131 : decode cX0_personOn 131 = .ok (.aload_n 0, 1) := dk_42 (dk_at dksX0_personOn_5 13 rfl rfl)
theorem dX0_personOn_132 : decode cX0_personOn 132 = .ok (.invokevirtual 154, 3) := dk_182 0 154 (dk_at dksX0_personOn_5 14 rfl rfl)
theorem dX0_personOn_135 : decode cX0_personOn 135 = .ok (.if_icmp .gt 49, 3) := dk_163 0 49 (dk_at dksX0_personOn_5 17 rfl rfl)
theorem dX0_personOn_138 : decode cX0_personOn 138 = .ok (.aload_n 0, 1) := dk_42 (dk_at dksX0_personOn_5 20 rfl rfl)
theorem dX0_personOn_139 : decode cX0_personOn 139 = .ok (.iload_n 2, 1) := dk_28 (dk_at dksX0_personOn_5 21 rfl rfl)
theorem dX0_personOn_140 : decode cX0_personOn 140 = .ok (.iconst 1, 1) := dk_4 (dk_at dksX0_personOn_5 22 rfl rfl)
theorem dX0_personOn_141 : decode cX0_personOn 141 = .ok (.iadd, 1) := dk_96 (dk_at dksX0_personOn_5 23 rfl rfl)
theorem dX0_personOn_142 : decode cX0_personOn 142 = .ok (.invokevirtual 267, 3) := dk_182 1 11 (dk_at dksX0_personOn_6 0 rfl rfl)
theorem dX0_personOn_145 : decode cX0_personOn 145 = .ok (.aload_n 0, 1) := dk_42 (dk_at dksX0_personOn_6 3 rfl rfl)
theorem dX0_personOn_146 : decode cX0_personOn 146 = .ok (.iload_n 2, 1) := dk_28 (dk_at dksX0_personOn_6 4 rfl rfl)
theorem dX0_personOn_147 : decode cX0_personOn 147 = .ok (.iconst 2, 1) := dk_5 (dk_at dksX0_personOn_6 5 rfl rfl)
theorem dX0_personOn_148 : decode cX0_personOn 148 = .ok (.iadd, 1) := dk_96 (dk_at dksX0_personOn_6 6 rfl rfl)
theorem dX0_personOn_149 : decode cX0_personOn 149 = .ok (.invokevirtual 267, 3) := dk_182 1 11 (dk_at dksX0_personOn_6 7 rfl rfl)
theorem dX0_personOn_152 : decode cX0_personOn 152 = .ok (.ior, 1) := dk_128 (dk_at dksX0_personOn_6 10 rfl rfl)
theorem dX0_personOn_153 : decode cX0_personOn 153 = .ok (.iconst 1, 1) := dk_4 (dk_at dksX0_personOn_6 11 rfl rfl)
theorem dX0_personOn_154 : decode cX0_personOn 154 = .ok (.aload_n 0, 1) := dk_42 (dk_at dksX0_personOn_6 12 rfl rfl)
theorem dX0_personOn_155 : decode cX0_personOn 155 = .ok (.invokevirtual 152, 3) := dk_182 0 152 (dk_at dksX0_personOn_6 13 rfl rfl)
theorem dX0_personOn_158 : decode cX0_personOn 158 = .ok (.ishl, 1) := dk_120 (dk_at dksX0_personOn_6 16 rfl rfl)
theorem dX0_personOn_159 : decode cX0_personOn 159 = .ok (.if_icmp .ge 25, 3) := dk_162 0 25 (dk_at dksX0_personOn_6 17 rfl rfl)
theorem dX0_personOn_162 : decode cX0_personOn 162 = .ok (.aload_n 0, 1) := dk_42 (dk_at dksX0_personOn_6 20 rfl rfl)
theorem dX0_personOn_163 : decode cX0_personOn 163 = .ok (.iload_n 2, 1) := dk_28 (dk_at dksX0_personOn_6 21 rfl rfl)
theorem dX0_personOn_164 : decode cX0_personOn 164 = .ok (.iconst 1, 1) := dk_4 (dk_at dksX0_personOn_6 22 rfl rfl)
theorem dX0_personOn_165 : decode cX0_personOn 165 = .ok (.iadd, 1) := dk_96 (dk_at dksX0_personOn_6 23 rfl rfl)
theorem dX0_personOn_166 : decode cX0_personOn 166 = .ok (.invokevirtual 267, 3) := dk_182 1 11 (dk_at dksX0_personOn_7 0 rfl rfl)
theorem dX0_personOn_169 : decode cX0_personOn 169 = .ok (.aload_n 0, 1) := dk_42 (dk_at dksX0_personOn_7 3 rfl rfl)
theorem dX0_personOn_170 : decode cX0_personOn 170 = .ok (.iload_n 2, 1) := dk_28 (dk_at dksX0_personOn_7 4 rfl rfl)
theorem dX0_personOn_171 : decode cX0_personOn 171 = .ok (.iconst 2, 1) := dk_5 (dk_at dksX0_personOn_7 5 rfl rfl)
theorem dX0_personOn_172 : decode cX0_personOn 172 = .ok (.iadd, 1) := dk_96 (dk_at dksX0_personOn_7 6 rfl rfl)
theorem dX0_personOn_173 : decode cX0_personOn 173 = .ok (.invokevirtual 267, 3) := dk_182 1 11 (dk_at dksX0_personOn_7 7 rfl rfl)
theorem dX0_personOn_176 : decode cX0_personOn 176 = .ok (.iand, 1) := dk_126 (dk_at dksX0_personOn_7 10 rfl rfl)
theorem dX0_personOn_177 : decode cX0_personOn 177 = .ok (.ifCond .ne 7, 3) := dk_154 0 7 (dk_at dksX0_personOn_7 11 rfl rfl)
theorem dX0_personOn_180 : decode cX0_personOn 180 = .ok (.iconst 1, 1) := dk_4 (dk_at dksX0_personOn_7 14 rfl rfl)
theorem dX0_personOn_181 : decode cX0_personOn 181 = .ok (.goto 4, 3) := dk_167 0 4 (dk_at dksX0_personOn_7 15 rfl rfl)
theorem dX0_personOn_184 : decode cX0_personOn 184 = .ok (.iconst 0, 1) := dk_3 (dk_at dksX0_personOn_7 18 rfl rfl)
theorem dX0_personOn_185 : decode cX0_personOn 185 = .ok (.istore_n 3, 1) := dk_62 (dk_at dksX0_personOn_7 19 rfl rfl)
theorem dX0_personOn_186 : decode cX0_personOn 186 = .ok (.iload_n 3, 1) := dk_29 (dk_at dksX0_personOn_7 20 rfl rfl)
theorem dX0_personOn_187 : decode cX0_personOn 187 = .ok (.ifCond .eq 30, 3) := dk_153 0 30 (dk_at dksX0_personOn_7 21 rfl rfl)
theorem dX0_personOn_190 : decode cX0_personOn 190 = .ok (.aload_n 0, 1) := dk_42 (dk_at dksX0_personOn_8 0 rfl rfl)
theorem dX0_personOn_191 : decode cX0_personOn 191 = .ok (.iload_n 2, 1) := dk_28 (dk_at dksX0_personOn_8 1 rfl rfl)
theorem dX0_personOn_192 : decode cX0_personOn 192 = .ok (.iconst 3, 1) := dk_6 (dk_at dksX0_personOn_8 2 rfl rfl)
theorem dX0_personOn_193 : decode cX0_personOn 193 = .ok (.iadd, 1) := dk_96 (dk_at dksX0_personOn_8 3 rfl rfl)
theorem dX0_personOn_194 : decode cX0_personOn 194 = .ok (.invokevirtual 267, 3) := dk_182 1 11 (dk_at dksX0_personOn_8 4 rfl rfl)
theorem dX0_personOn_197 : decode cX0_personOn 197 = .ok (.bipush 9, 2) := dk_16 9 (dk_at dksX0_personOn_8 7 rfl rfl)
theorem dX0_personOn_199 : decode cX0_personOn 199 = .ok (.if_icmp .gt 18, 3) := dk_163 0 18 (dk_at dksX0_personOn_8 9 rfl rfl)
theorem dX0_personOn_202 : decode cX0_personOn 202 = .ok (.aload_n 0, 1) := dk_42 (dk_at dksX0_personOn_8 12 rfl rfl)
theorem dX0_personOn_203 : decode cX0_personOn 203 = .ok (.iload_n 2, 1) := dk_28 (dk_at dksX0_personOn_8 13 rfl rfl)
theorem dX0_personOn_204 : decode cX0_personOn 204 = .ok (.iconst 4, 1) := dk_7 (dk_at dksX0_personOn_8 14 rfl rfl)
theorem dX0_personOn_205 : decode cX0_personOn 205 = .ok (.iadd, 1) := dk_96 (dk_at dksX0_personOn_8 15 rfl rfl)
theorem dX0_personOn_206 : decode cX0_personOn 206 = .ok (.invokevirtual 267, 3) := dk_182 1 11 (dk_at dksX0_personOn_8 16 rfl rfl)
theorem dX0_personOn_209 : decode cX0_personOn 209 = .ok (.iconst 3, 1) := dk_6 (dk_at dksX0_personOn_8 19 rfl rfl)
theorem dX0_personOn_210 : decode cX0_personOn 210 = .ok (.if_icmp .gt 7, 3) := dk_163 0 7 (dk_at dksX0_personOn_8 20 rfl rfl)
theorem dX0_personOn_213 : decode cX0_personOn 213 = .ok (.iconst 1, 1) := dk_4 (dk_at dksX0_personOn_8 23 rfl rfl)
theorem dX0_personOn_214 : decode cX0_personOn 214 = .ok (.goto 4, 3) := dk_167 0 4 (dk_at dksX0_personOn_9 0 rfl rfl)
theorem dX0_personOn_217 : decode cX0_personOn 217 = .ok (.iconst 0, 1) := dk_3 (dk_at dksX0_personOn_9 3 rfl rfl)
theorem dX0_personOn_218 : decode cX0_personOn 218 = .ok (.ireturn, 1) := dk_172 (dk_at dksX0_personOn_9 4 rfl rfl)
abbrev cX0_status : ByteArray := prog_1_method_60_code
def yX0_status : MethodName := ⟨RX0, "status", "(I)I"⟩
def dkwX0_status_0 : List UInt8 := [27, 3, 8, 184, 0, 192, 153, 0, 12, 42, 180, 0, 62, 27, 46, 167, 0, 4, 2, 172]
abbrev dktX0_status_0 : List UInt8 := dkwX0_status_0 ++ []
theorem dksX0_status_0 : cX0_status.data.toList.drop 0 = dktX0_status_0 := by decide +kernel
theorem dX0_status_0 : decode cX0_status 0 = .ok (.iload_n 1, 1) := dk_27 (dk_at dksX0_status_0 0 rfl rfl)
theorem dX0_status_1 : decode cX0_status 1 = .ok (.iconst 0, 1) := dk_3 (dk_at dksX0_status_0 1 rfl rfl)
theorem dX0_status_2 : decode cX0_status 2 = .ok (.iconst 5, 1) := dk_8 (dk_at dksX0_status_0 2 rfl rfl)
theorem dX0_status_3 : decode cX0_status 3 = .ok (.invokestatic 192, 3) := dk_184 0 192 (dk_at dksX0_status_0 3 rfl rfl)
theorem dX0_status_6 : decode cX0_status 6 = .ok (.ifCond .eq 12, 3) := dk_153 0 12 (dk_at dksX0_status_0 6 rfl rfl)
theorem dX0_status_9 : decode cX0_status 9 = .ok (.aload_n 0, 1) := dk_42 (dk_at dksX0_status_0 9 rfl rfl)
theorem dX0_status_10 : decode cX0_status 10 = .ok (.getfield 62, 3) := dk_180 0 62 (dk_at dksX0_status_0 10 rfl rfl)
theorem dX0_status_13 : decode cX0_status 13 = .ok (.iload_n 1, 1) := dk_27 (dk_at dksX0_status_0 13 rfl rfl)
theorem dX0_status_14 : decode cX0_status 14 = .ok (.iaload, 1) := dk_46 (dk_at dksX0_status_0 14 rfl rfl)
theorem dX0_status_15 : decode cX0_status 15 = .ok (.goto 4, 3) := dk_167 0 4 (dk_at dksX0_status_0 15 rfl rfl)
theorem dX0_status_18 : decode cX0_status 18 = .ok (.iconst (-1), 1) := dk_2 (dk_at dksX0_status_0 18 rfl rfl)
theorem dX0_status_19 : decode cX0_status 19 = .ok (.ireturn, 1) := dk_172 (dk_at dksX0_status_0 19 rfl rfl)
theorem q145 : (Jvm.Cond.initialized "PupilsPupil") ∈ lw_all := lw_g (lw_at lw_m1 1 rfl) rfl
theorem q185 : (Jvm.Cond.instantiable "PupilsPupil" (21 : Nat)) ∈ lw_all := lw_g (lw_at lw_m1 41 rfl) rfl
theorem q187 : (Jvm.Cond.instanceMethod ({ cls := "PupilsPupil", name := "<init>", desc := "()V" } : Jvm.MethodName)) ∈ lw_all := lw_g (lw_at lw_m1 43 rfl) rfl
theorem q188 : (Jvm.Cond.code ({ cls := "PupilsPupil", name := "<init>", desc := "()V" } : Jvm.MethodName) prog_1_method_7_code (2 : Nat) (Option.none : Option Jvm.ClassFile.FieldType)) ∈ lw_all := lw_g (lw_at lw_m1 44 rfl) rfl
theorem q189 : (Jvm.Cond.methodLink "PupilsPupil" (22 : Nat) ({ cls := "java/lang/Object", name := "<init>", desc := "()V" } : Jvm.MethodName)) ∈ lw_all := lw_g (lw_at lw_m1 45 rfl) rfl
theorem q192 : (Jvm.Cond.classLink "PupilsPupil" (28 : Nat) "PupilsPupil$School") ∈ lw_all := lw_g (lw_at lw_m1 48 rfl) rfl
theorem q194 : (Jvm.Cond.methodLinkNest "PupilsPupil" (30 : Nat) ({ cls := "PupilsPupil$School", name := "<init>", desc := "()V" } : Jvm.MethodName) "PupilsPupil") ∈ lw_tbl := lw_at lw_m1 50 rfl
theorem q226 : (Jvm.Cond.fieldLinkNest "PupilsPupil" (137 : Nat) "PupilsPupil$School" "statements" "I" "PupilsPupil") ∈ lw_tbl := lw_at lw_m1 82 rfl
theorem q231 : (Jvm.Cond.fieldLinkNest "PupilsPupil" (165 : Nat) "PupilsPupil$School" "pass" "I" "PupilsPupil") ∈ lw_tbl := lw_at lw_m1 87 rfl
theorem q235 : (Jvm.Cond.fieldLinkNest "PupilsPupil" (168 : Nat) "PupilsPupil$School" "tries" "I" "PupilsPupil") ∈ lw_tbl := lw_at lw_m1 91 rfl
theorem q237 : (Jvm.Cond.fieldLinkNest "PupilsPupil" (297 : Nat) "PupilsPupil$School" "ill" "I" "PupilsPupil") ∈ lw_tbl := lw_at lw_m1 93 rfl
theorem q240 : (Jvm.Cond.fieldLinkNest "PupilsPupil" (140 : Nat) "PupilsPupil$School" "facts" "Ljava/util/List;" "PupilsPupil") ∈ lw_tbl := lw_at lw_m1 96 rfl
theorem q244 : (Jvm.Cond.fieldLinkNest "PupilsPupil" (149 : Nat) "PupilsPupil$School" "people" "Ljava/util/List;" "PupilsPupil") ∈ lw_tbl := lw_at lw_m1 100 rfl
theorem q270 : (Jvm.Cond.classLink "PupilsPupil" (43 : Nat) "PupilsPupil$Reader") ∈ lw_all := lw_g (lw_at lw_m1 126 rfl) rfl
theorem q272 : (Jvm.Cond.methodLinkNest "PupilsPupil" (45 : Nat) ({ cls := "PupilsPupil$Reader", name := "<init>", desc := "(LPupilsPupil;)V" } : Jvm.MethodName) "PupilsPupil") ∈ lw_tbl := lw_at lw_m1 128 rfl
theorem q328 : (Jvm.Cond.fieldLinkNest "PupilsPupil" (122 : Nat) "PupilsPupil$Fault" "kind" "I" "PupilsPupil") ∈ lw_tbl := lw_at lw_m1 184 rfl
theorem q330 : (Jvm.Cond.fieldLinkNest "PupilsPupil" (125 : Nat) "PupilsPupil$Fault" "place" "I" "PupilsPupil") ∈ lw_tbl := lw_at lw_m1 186 rfl
theorem q374 : (Jvm.Cond.classLink "PupilsPupil" (52 : Nat) "PupilsPupil$Moment") ∈ lw_all := lw_g (lw_at lw_m1 230 rfl) rfl
theorem q376 : (Jvm.Cond.methodLinkNest "PupilsPupil" (54 : Nat) ({ cls := "PupilsPupil$Moment", name := "<init>", desc := "()V" } : Jvm.MethodName) "PupilsPupil") ∈ lw_tbl := lw_at lw_m1 232 rfl
theorem q383 : (Jvm.Cond.fieldLinkNest "PupilsPupil" (307 : Nat) "PupilsPupil$Moment" "of" "[J" "PupilsPupil") ∈ lw_tbl := lw_at lw_m1 239 rfl
theorem q388 : (Jvm.Cond.classLink "PupilsPupil" (66 : Nat) "PupilsPupil$State") ∈ lw_all := lw_g (lw_at lw_m2 4 rfl) rfl
theorem q390 : (Jvm.Cond.methodLinkNest "PupilsPupil" (68 : Nat) ({ cls := "PupilsPupil$State", name := "<init>", desc := "(LPupilsPupil;)V" } : Jvm.MethodName) "PupilsPupil") ∈ lw_tbl := lw_at lw_m2 6 rfl
theorem q397 : (Jvm.Cond.fieldLinkNest "PupilsPupil" (171 : Nat) "PupilsPupil$State" "year" "I" "PupilsPupil") ∈ lw_tbl := lw_at lw_m2 13 rfl
theorem q399 : (Jvm.Cond.fieldLinkNest "PupilsPupil" (174 : Nat) "PupilsPupil$State" "passed" "I" "PupilsPupil") ∈ lw_tbl := lw_at lw_m2 15 rfl
theorem q401 : (Jvm.Cond.fieldLinkNest "PupilsPupil" (182 : Nat) "PupilsPupil$State" "doctors" "I" "PupilsPupil") ∈ lw_tbl := lw_at lw_m2 17 rfl
theorem q403 : (Jvm.Cond.fieldLinkNest "PupilsPupil" (189 : Nat) "PupilsPupil$State" "keeps" "I" "PupilsPupil") ∈ lw_tbl := lw_at lw_m2 19 rfl
theorem q405 : (Jvm.Cond.fieldLinkNest "PupilsPupil" (219 : Nat) "PupilsPupil$State" "master" "[I" "PupilsPupil") ∈ lw_tbl := lw_at lw_m2 21 rfl
theorem q407 : (Jvm.Cond.fieldLinkNest "PupilsPupil" (225 : Nat) "PupilsPupil$State" "right" "[I" "PupilsPupil") ∈ lw_tbl := lw_at lw_m2 23 rfl
theorem q409 : (Jvm.Cond.fieldLinkNest "PupilsPupil" (228 : Nat) "PupilsPupil$State" "wrong" "[I" "PupilsPupil") ∈ lw_tbl := lw_at lw_m2 25 rfl
theorem q411 : (Jvm.Cond.fieldLinkNest "PupilsPupil" (231 : Nat) "PupilsPupil$State" "left" "[I" "PupilsPupil") ∈ lw_tbl := lw_at lw_m2 27 rfl
theorem q413 : (Jvm.Cond.fieldLinkNest "PupilsPupil" (246 : Nat) "PupilsPupil$State" "rows" "[[I" "PupilsPupil") ∈ lw_tbl := lw_at lw_m2 29 rfl
theorem q443 : (Jvm.Cond.classLink "PupilsPupil" (82 : Nat) "[[I") ∈ lw_all := lw_g (lw_at lw_m2 59 rfl) rfl
theorem q446 : (Jvm.Cond.fieldLink "PupilsPupil" (31 : Nat) "PupilsPupil" "school" "LPupilsPupil$School;") ∈ lw_all := lw_g (lw_at lw_m2 62 rfl) rfl
theorem q448 : (Jvm.Cond.fieldLink "PupilsPupil" (35 : Nat) "PupilsPupil" "tape" "[B") ∈ lw_all := lw_g (lw_at lw_m2 64 rfl) rfl
theorem q449 : (Jvm.Cond.fieldLink "PupilsPupil" (98 : Nat) "PupilsPupil" "taped" "I") ∈ lw_all := lw_g (lw_at lw_m2 65 rfl) rfl
theorem q450 : (Jvm.Cond.fieldLink "PupilsPupil" (109 : Nat) "PupilsPupil" "faultKind" "I") ∈ lw_all := lw_g (lw_at lw_m2 66 rfl) rfl
theorem q451 : (Jvm.Cond.fieldLink "PupilsPupil" (39 : Nat) "PupilsPupil" "faultPlace" "I") ∈ lw_all := lw_g (lw_at lw_m2 67 rfl) rfl
theorem q452 : (Jvm.Cond.fieldLink "PupilsPupil" (48 : Nat) "PupilsPupil" "reader" "LPupilsPupil$Reader;") ∈ lw_all := lw_g (lw_at lw_m2 68 rfl) rfl
theorem q454 : (Jvm.Cond.fieldLink "PupilsPupil" (55 : Nat) "PupilsPupil" "moment" "LPupilsPupil$Moment;") ∈ lw_all := lw_g (lw_at lw_m2 70 rfl) rfl
theorem q455 : (Jvm.Cond.fieldLink "PupilsPupil" (59 : Nat) "PupilsPupil" "asked" "LPupilsPupil$Moment;") ∈ lw_all := lw_g (lw_at lw_m2 71 rfl) rfl
theorem q456 : (Jvm.Cond.fieldLink "PupilsPupil" (62 : Nat) "PupilsPupil" "refused" "[I") ∈ lw_all := lw_g (lw_at lw_m2 72 rfl) rfl
theorem q457 : (Jvm.Cond.fieldLink "PupilsPupil" (69 : Nat) "PupilsPupil" "now" "LPupilsPupil$State;") ∈ lw_all := lw_g (lw_at lw_m2 73 rfl) rfl
theorem q458 : (Jvm.Cond.fieldLink "PupilsPupil" (73 : Nat) "PupilsPupil" "tried" "LPupilsPupil$State;") ∈ lw_all := lw_g (lw_at lw_m2 74 rfl) rfl
theorem q459 : (Jvm.Cond.fieldLink "PupilsPupil" (76 : Nat) "PupilsPupil" "heardWho" "[I") ∈ lw_all := lw_g (lw_at lw_m2 75 rfl) rfl
theorem q460 : (Jvm.Cond.fieldLink "PupilsPupil" (79 : Nat) "PupilsPupil" "heardAs" "[I") ∈ lw_all := lw_g (lw_at lw_m2 76 rfl) rfl
theorem q461 : (Jvm.Cond.fieldLink "PupilsPupil" (134 : Nat) "PupilsPupil" "rows" "I") ∈ lw_all := lw_g (lw_at lw_m2 77 rfl) rfl
theorem q462 : (Jvm.Cond.fieldLink "PupilsPupil" (84 : Nat) "PupilsPupil" "standsBy" "[[I") ∈ lw_all := lw_g (lw_at lw_m2 78 rfl) rfl
theorem q463 : (Jvm.Cond.fieldLink "PupilsPupil" (87 : Nat) "PupilsPupil" "kept" "[LPupilsPupil$State;") ∈ lw_all := lw_g (lw_at lw_m2 79 rfl) rfl
theorem q464 : (Jvm.Cond.fieldLink "PupilsPupil" (131 : Nat) "PupilsPupil" "undos" "I") ∈ lw_all := lw_g (lw_at lw_m2 80 rfl) rfl
theorem q465 : (Jvm.Cond.fieldLink "PupilsPupil" (91 : Nat) "PupilsPupil" "seeds" "J") ∈ lw_all := lw_g (lw_at lw_m2 81 rfl) rfl
theorem q466 : (Jvm.Cond.fieldLink "PupilsPupil" (300 : Nat) "PupilsPupil" "askedFact" "I") ∈ lw_all := lw_g (lw_at lw_m2 82 rfl) rfl
theorem q467 : (Jvm.Cond.fieldLink "PupilsPupil" (95 : Nat) "PupilsPupil" "out" "[B") ∈ lw_all := lw_g (lw_at lw_m2 83 rfl) rfl
theorem q468 : (Jvm.Cond.fieldLink "PupilsPupil" (321 : Nat) "PupilsPupil" "outs" "I") ∈ lw_all := lw_g (lw_at lw_m2 84 rfl) rfl
theorem q469 : (Jvm.Cond.lays "PupilsPupil" "PupilsPupil" "school" "LPupilsPupil$School;") ∈ lw_all := lw_g (lw_at lw_m2 85 rfl) rfl
theorem q470 : (Jvm.Cond.soleField "PupilsPupil" "school") ∈ lw_all := lw_g (lw_at lw_m2 86 rfl) rfl
theorem q471 : (Jvm.Cond.laysFinal "PupilsPupil" "PupilsPupil" "tape" "[B") ∈ lw_all := lw_g (lw_at lw_m2 87 rfl) rfl
theorem q472 : (Jvm.Cond.soleField "PupilsPupil" "tape") ∈ lw_all := lw_g (lw_at lw_m2 88 rfl) rfl
theorem q473 : (Jvm.Cond.lays "PupilsPupil" "PupilsPupil" "taped" "I") ∈ lw_all := lw_g (lw_at lw_m2 89 rfl) rfl
theorem q474 : (Jvm.Cond.soleField "PupilsPupil" "taped") ∈ lw_all := lw_g (lw_at lw_m2 90 rfl) rfl
theorem q475 : (Jvm.Cond.lays "PupilsPupil" "PupilsPupil" "faultKind" "I") ∈ lw_all := lw_g (lw_at lw_m2 91 rfl) rfl
theorem q476 : (Jvm.Cond.soleField "PupilsPupil" "faultKind") ∈ lw_all := lw_g (lw_at lw_m2 92 rfl) rfl
theorem q477 : (Jvm.Cond.lays "PupilsPupil" "PupilsPupil" "faultPlace" "I") ∈ lw_all := lw_g (lw_at lw_m2 93 rfl) rfl
theorem q478 : (Jvm.Cond.soleField "PupilsPupil" "faultPlace") ∈ lw_all := lw_g (lw_at lw_m2 94 rfl) rfl
theorem q479 : (Jvm.Cond.laysFinal "PupilsPupil" "PupilsPupil" "reader" "LPupilsPupil$Reader;") ∈ lw_all := lw_g (lw_at lw_m2 95 rfl) rfl
theorem q480 : (Jvm.Cond.soleField "PupilsPupil" "reader") ∈ lw_all := lw_g (lw_at lw_m2 96 rfl) rfl
theorem q481 : (Jvm.Cond.laysFinal "PupilsPupil" "PupilsPupil" "moment" "LPupilsPupil$Moment;") ∈ lw_all := lw_g (lw_at lw_m2 97 rfl) rfl
theorem q482 : (Jvm.Cond.soleField "PupilsPupil" "moment") ∈ lw_all := lw_g (lw_at lw_m2 98 rfl) rfl
theorem q483 : (Jvm.Cond.laysFinal "PupilsPupil" "PupilsPupil" "asked" "LPupilsPupil$Moment;") ∈ lw_all := lw_g (lw_at lw_m2 99 rfl) rfl
theorem q484 : (Jvm.Cond.soleField "PupilsPupil" "asked") ∈ lw_all := lw_g (lw_at lw_m2 100 rfl) rfl
theorem q485 : (Jvm.Cond.laysFinal "PupilsPupil" "PupilsPupil" "refused" "[I") ∈ lw_all := lw_g (lw_at lw_m2 101 rfl) rfl
theorem q486 : (Jvm.Cond.soleField "PupilsPupil" "refused") ∈ lw_all := lw_g (lw_at lw_m2 102 rfl) rfl
theorem q487 : (Jvm.Cond.laysFinal "PupilsPupil" "PupilsPupil" "now" "LPupilsPupil$State;") ∈ lw_all := lw_g (lw_at lw_m2 103 rfl) rfl
theorem q488 : (Jvm.Cond.soleField "PupilsPupil" "now") ∈ lw_all := lw_g (lw_at lw_m2 104 rfl) rfl
theorem q489 : (Jvm.Cond.laysFinal "PupilsPupil" "PupilsPupil" "tried" "LPupilsPupil$State;") ∈ lw_all := lw_g (lw_at lw_m2 105 rfl) rfl
theorem q490 : (Jvm.Cond.soleField "PupilsPupil" "tried") ∈ lw_all := lw_g (lw_at lw_m2 106 rfl) rfl
theorem q491 : (Jvm.Cond.laysFinal "PupilsPupil" "PupilsPupil" "heardWho" "[I") ∈ lw_all := lw_g (lw_at lw_m2 107 rfl) rfl
theorem q492 : (Jvm.Cond.soleField "PupilsPupil" "heardWho") ∈ lw_all := lw_g (lw_at lw_m2 108 rfl) rfl
theorem q493 : (Jvm.Cond.laysFinal "PupilsPupil" "PupilsPupil" "heardAs" "[I") ∈ lw_all := lw_g (lw_at lw_m2 109 rfl) rfl
theorem q494 : (Jvm.Cond.soleField "PupilsPupil" "heardAs") ∈ lw_all := lw_g (lw_at lw_m2 110 rfl) rfl
theorem q495 : (Jvm.Cond.lays "PupilsPupil" "PupilsPupil" "rows" "I") ∈ lw_all := lw_g (lw_at lw_m2 111 rfl) rfl
theorem q496 : (Jvm.Cond.soleField "PupilsPupil" "rows") ∈ lw_all := lw_g (lw_at lw_m2 112 rfl) rfl
theorem q497 : (Jvm.Cond.laysFinal "PupilsPupil" "PupilsPupil" "standsBy" "[[I") ∈ lw_all := lw_g (lw_at lw_m2 113 rfl) rfl
theorem q498 : (Jvm.Cond.soleField "PupilsPupil" "standsBy") ∈ lw_all := lw_g (lw_at lw_m2 114 rfl) rfl
theorem q499 : (Jvm.Cond.laysFinal "PupilsPupil" "PupilsPupil" "kept" "[LPupilsPupil$State;") ∈ lw_all := lw_g (lw_at lw_m2 115 rfl) rfl
theorem q500 : (Jvm.Cond.soleField "PupilsPupil" "kept") ∈ lw_all := lw_g (lw_at lw_m2 116 rfl) rfl
theorem q501 : (Jvm.Cond.lays "PupilsPupil" "PupilsPupil" "undos" "I") ∈ lw_all := lw_g (lw_at lw_m2 117 rfl) rfl
theorem q502 : (Jvm.Cond.soleField "PupilsPupil" "undos") ∈ lw_all := lw_g (lw_at lw_m2 118 rfl) rfl
theorem q503 : (Jvm.Cond.lays "PupilsPupil" "PupilsPupil" "seeds" "J") ∈ lw_all := lw_g (lw_at lw_m2 119 rfl) rfl
theorem q504 : (Jvm.Cond.soleField "PupilsPupil" "seeds") ∈ lw_all := lw_g (lw_at lw_m2 120 rfl) rfl
theorem q505 : (Jvm.Cond.lays "PupilsPupil" "PupilsPupil" "askedFact" "I") ∈ lw_all := lw_g (lw_at lw_m2 121 rfl) rfl
theorem q506 : (Jvm.Cond.soleField "PupilsPupil" "askedFact") ∈ lw_all := lw_g (lw_at lw_m2 122 rfl) rfl
theorem q507 : (Jvm.Cond.laysFinal "PupilsPupil" "PupilsPupil" "out" "[B") ∈ lw_all := lw_g (lw_at lw_m2 123 rfl) rfl
theorem q508 : (Jvm.Cond.soleField "PupilsPupil" "out") ∈ lw_all := lw_g (lw_at lw_m2 124 rfl) rfl
theorem q509 : (Jvm.Cond.lays "PupilsPupil" "PupilsPupil" "outs" "I") ∈ lw_all := lw_g (lw_at lw_m2 125 rfl) rfl
theorem q510 : (Jvm.Cond.soleField "PupilsPupil" "outs") ∈ lw_all := lw_g (lw_at lw_m2 126 rfl) rfl
theorem q511 : (Jvm.Cond.superclass "PupilsPupil" "java/lang/Object") ∈ lw_all := lw_g (lw_at lw_m2 127 rfl) rfl
theorem q513 : (Jvm.Cond.instanceMethod ({ cls := "PupilsPupil", name := "feed", desc := "(IIIII)I" } : Jvm.MethodName)) ∈ lw_all := lw_g (lw_at lw_m2 129 rfl) rfl
theorem q514 : (Jvm.Cond.selects "PupilsPupil" ({ cls := "PupilsPupil", name := "feed", desc := "(IIIII)I" } : Jvm.MethodName) ({ cls := "PupilsPupil", name := "feed", desc := "(IIIII)I" } : Jvm.MethodName)) ∈ lw_all := lw_g (lw_at lw_m2 130 rfl) rfl
theorem q515 : (Jvm.Cond.code ({ cls := "PupilsPupil", name := "feed", desc := "(IIIII)I" } : Jvm.MethodName) prog_1_method_10_code (6 : Nat) (Option.some Jvm.ClassFile.FieldType.int)) ∈ lw_all := lw_g (lw_at lw_m2 131 rfl) rfl
theorem q516 : (Jvm.Cond.methodLink "PupilsPupil" (101 : Nat) ({ cls := "PupilsPupil", name := "refuses", desc := "(I)I" } : Jvm.MethodName)) ∈ lw_all := lw_g (lw_at lw_m2 132 rfl) rfl
theorem q517 : (Jvm.Cond.privateMethod ({ cls := "PupilsPupil", name := "refuses", desc := "(I)I" } : Jvm.MethodName)) ∈ lw_tbl := lw_at lw_m2 133 rfl
theorem q518 : (Jvm.Cond.instanceMethod ({ cls := "PupilsPupil", name := "refuses", desc := "(I)I" } : Jvm.MethodName)) ∈ lw_all := lw_g (lw_at lw_m2 134 rfl) rfl
theorem q519 : (Jvm.Cond.code ({ cls := "PupilsPupil", name := "refuses", desc := "(I)I" } : Jvm.MethodName) prog_1_method_8_code (2 : Nat) (Option.some Jvm.ClassFile.FieldType.int)) ∈ lw_all := lw_g (lw_at lw_m2 135 rfl) rfl
theorem q520 : (Jvm.Cond.methodLink "PupilsPupil" (105 : Nat) ({ cls := "PupilsPupil", name := "put", desc := "(I)V" } : Jvm.MethodName)) ∈ lw_all := lw_g (lw_at lw_m2 136 rfl) rfl
theorem q521 : (Jvm.Cond.privateMethod ({ cls := "PupilsPupil", name := "put", desc := "(I)V" } : Jvm.MethodName)) ∈ lw_tbl := lw_at lw_m2 137 rfl
theorem q522 : (Jvm.Cond.instanceMethod ({ cls := "PupilsPupil", name := "put", desc := "(I)V" } : Jvm.MethodName)) ∈ lw_all := lw_g (lw_at lw_m2 138 rfl) rfl
theorem q523 : (Jvm.Cond.code ({ cls := "PupilsPupil", name := "put", desc := "(I)V" } : Jvm.MethodName) prog_1_method_9_code (3 : Nat) (Option.none : Option Jvm.ClassFile.FieldType)) ∈ lw_all := lw_g (lw_at lw_m2 139 rfl) rfl
theorem q525 : (Jvm.Cond.instanceMethod ({ cls := "PupilsPupil", name := "end", desc := "(I)Z" } : Jvm.MethodName)) ∈ lw_all := lw_g (lw_at lw_m2 141 rfl) rfl
theorem q526 : (Jvm.Cond.selects "PupilsPupil" ({ cls := "PupilsPupil", name := "end", desc := "(I)Z" } : Jvm.MethodName) ({ cls := "PupilsPupil", name := "end", desc := "(I)Z" } : Jvm.MethodName)) ∈ lw_all := lw_g (lw_at lw_m2 142 rfl) rfl
theorem q527 : (Jvm.Cond.code ({ cls := "PupilsPupil", name := "end", desc := "(I)Z" } : Jvm.MethodName) prog_1_method_11_code (2 : Nat) (Option.some Jvm.ClassFile.FieldType.boolean)) ∈ lw_all := lw_g (lw_at lw_m2 143 rfl) rfl
theorem q529 : (Jvm.Cond.instanceMethod ({ cls := "PupilsPupil", name := "school", desc := "()I" } : Jvm.MethodName)) ∈ lw_all := lw_g (lw_at lw_m2 145 rfl) rfl
theorem q530 : (Jvm.Cond.selects "PupilsPupil" ({ cls := "PupilsPupil", name := "school", desc := "()I" } : Jvm.MethodName) ({ cls := "PupilsPupil", name := "school", desc := "()I" } : Jvm.MethodName)) ∈ lw_all := lw_g (lw_at lw_m2 146 rfl) rfl
theorem q531 : (Jvm.Cond.codeWith ({ cls := "PupilsPupil", name := "school", desc := "()I" } : Jvm.MethodName) prog_1_method_13_code (2 : Nat) (Option.some Jvm.ClassFile.FieldType.int) [((10 : Nat), (25 : Nat), (28 : Nat), (120 : Nat))]) ∈ lw_all := lw_g (lw_at lw_m2 147 rfl) rfl
theorem q532 : (Jvm.Cond.classLink "PupilsPupil" (120 : Nat) "PupilsPupil$Fault") ∈ lw_all := lw_g (lw_at lw_m2 148 rfl) rfl
theorem q533 : (Jvm.Cond.methodLink "PupilsPupil" (112 : Nat) ({ cls := "PupilsPupil", name := "taken", desc := "()I" } : Jvm.MethodName)) ∈ lw_all := lw_g (lw_at lw_m2 149 rfl) rfl
theorem q534 : (Jvm.Cond.privateMethod ({ cls := "PupilsPupil", name := "taken", desc := "()I" } : Jvm.MethodName)) ∈ lw_tbl := lw_at lw_m2 150 rfl
theorem q535 : (Jvm.Cond.instanceMethod ({ cls := "PupilsPupil", name := "taken", desc := "()I" } : Jvm.MethodName)) ∈ lw_all := lw_g (lw_at lw_m2 151 rfl) rfl
theorem q536 : (Jvm.Cond.code ({ cls := "PupilsPupil", name := "taken", desc := "()I" } : Jvm.MethodName) prog_1_method_12_code (2 : Nat) (Option.some Jvm.ClassFile.FieldType.int)) ∈ lw_all := lw_g (lw_at lw_m2 152 rfl) rfl
theorem q537 : (Jvm.Cond.methodLink "PupilsPupil" (116 : Nat) ({ cls := "PupilsPupil$Reader", name := "all", desc := "(I)LPupilsPupil$School;" } : Jvm.MethodName)) ∈ lw_all := lw_g (lw_at lw_m2 153 rfl) rfl
theorem q564 : (Jvm.Cond.static ({ cls := "PupilsPupil", name := "isLetter", desc := "(I)Z" } : Jvm.MethodName)) ∈ lw_all := lw_g (lw_at lw_m2 180 rfl) rfl
theorem q565 : (Jvm.Cond.code ({ cls := "PupilsPupil", name := "isLetter", desc := "(I)Z" } : Jvm.MethodName) prog_1_method_4_code (1 : Nat) (Option.some Jvm.ClassFile.FieldType.boolean)) ∈ lw_all := lw_g (lw_at lw_m2 181 rfl) rfl
theorem q571 : (Jvm.Cond.static ({ cls := "PupilsPupil", name := "isDigit", desc := "(I)Z" } : Jvm.MethodName)) ∈ lw_all := lw_g (lw_at lw_m2 187 rfl) rfl
theorem q572 : (Jvm.Cond.code ({ cls := "PupilsPupil", name := "isDigit", desc := "(I)Z" } : Jvm.MethodName) prog_1_method_5_code (1 : Nat) (Option.some Jvm.ClassFile.FieldType.boolean)) ∈ lw_all := lw_g (lw_at lw_m2 188 rfl) rfl
theorem q739 : (Jvm.Cond.laysStatic "PupilsPupil" "OWN" "[Ljava/lang/String;") ∈ lw_tbl := lw_at lw_m3 115 rfl
theorem q741 : (Jvm.Cond.static ({ cls := "PupilsPupil", name := "find", desc := "(Ljava/lang/String;[Ljava/lang/String;)I" } : Jvm.MethodName)) ∈ lw_all := lw_g (lw_at lw_m3 117 rfl) rfl
theorem q742 : (Jvm.Cond.code ({ cls := "PupilsPupil", name := "find", desc := "(Ljava/lang/String;[Ljava/lang/String;)I" } : Jvm.MethodName) prog_1_method_6_code (3 : Nat) (Option.some Jvm.ClassFile.FieldType.int)) ∈ lw_all := lw_g (lw_at lw_m3 118 rfl) rfl
theorem q743 : (Jvm.Cond.methodLink "PupilsPupil" (16 : Nat) ({ cls := "java/lang/String", name := "equals", desc := "(Ljava/lang/Object;)Z" } : Jvm.MethodName)) ∈ lw_all := lw_g (lw_at lw_m3 119 rfl) rfl
theorem q794 : (Jvm.Cond.static ({ cls := "PupilsPupil", name := "is", desc := "(III)Z" } : Jvm.MethodName)) ∈ lw_all := lw_g (lw_at lw_m3 170 rfl) rfl
theorem q795 : (Jvm.Cond.code ({ cls := "PupilsPupil", name := "is", desc := "(III)Z" } : Jvm.MethodName) prog_1_method_1_code (3 : Nat) (Option.some Jvm.ClassFile.FieldType.boolean)) ∈ lw_all := lw_g (lw_at lw_m3 171 rfl) rfl
theorem q802 : (Jvm.Cond.fieldLinkNest "PupilsPupil" (162 : Nat) "PupilsPupil$Named" "told" "I" "PupilsPupil") ∈ lw_tbl := lw_at lw_m3 178 rfl
theorem q847 : (Jvm.Cond.selects "PupilsPupil" ({ cls := "java/lang/Object", name := "getClass", desc := "()Ljava/lang/Class;" } : Jvm.MethodName) ({ cls := "java/lang/Object", name := "getClass", desc := "()Ljava/lang/Class;" } : Jvm.MethodName)) ∈ lw_all := lw_g (lw_at lw_m3 223 rfl) rfl
theorem q914 : (Jvm.Cond.static ({ cls := "PupilsPupil", name := "has", desc := "(II)Z" } : Jvm.MethodName)) ∈ lw_all := lw_g (lw_at lw_m4 50 rfl) rfl
theorem q915 : (Jvm.Cond.code ({ cls := "PupilsPupil", name := "has", desc := "(II)Z" } : Jvm.MethodName) prog_1_method_2_code (2 : Nat) (Option.some Jvm.ClassFile.FieldType.boolean)) ∈ lw_all := lw_g (lw_at lw_m4 51 rfl) rfl
theorem q1084 : (Jvm.Cond.laysStatic "PupilsPupil" "ASKED" "[Ljava/lang/String;") ∈ lw_tbl := lw_at lw_m4 220 rfl
theorem q1096 : (Jvm.Cond.laysStatic "PupilsPupil" "LOOKED" "[Ljava/lang/String;") ∈ lw_tbl := lw_at lw_m4 232 rfl
theorem q1202 : (Jvm.Cond.methodLink "PupilsPupil" (128 : Nat) ({ cls := "PupilsPupil$State", name := "begins", desc := "()V" } : Jvm.MethodName)) ∈ lw_all := lw_g (lw_at lw_m5 98 rfl) rfl
theorem q1207 : (Jvm.Cond.privateMethod ({ cls := "PupilsPupil", name := "people", desc := "()I" } : Jvm.MethodName)) ∈ lw_tbl := lw_at lw_m5 103 rfl
theorem q1208 : (Jvm.Cond.instanceMethod ({ cls := "PupilsPupil", name := "people", desc := "()I" } : Jvm.MethodName)) ∈ lw_all := lw_g (lw_at lw_m5 104 rfl) rfl
theorem q1209 : (Jvm.Cond.code ({ cls := "PupilsPupil", name := "people", desc := "()I" } : Jvm.MethodName) prog_1_method_16_code (1 : Nat) (Option.some Jvm.ClassFile.FieldType.int)) ∈ lw_all := lw_g (lw_at lw_m5 105 rfl) rfl
theorem q1210 : (Jvm.Cond.interfaceEntry "PupilsPupil" (144 : Nat)) ∈ lw_tbl := lw_at lw_m5 106 rfl
theorem q1211 : (Jvm.Cond.methodLink "PupilsPupil" (144 : Nat) ({ cls := "java/util/List", name := "size", desc := "()I" } : Jvm.MethodName)) ∈ lw_all := lw_g (lw_at lw_m5 107 rfl) rfl
theorem q1216 : (Jvm.Cond.instanceMethod ({ cls := "PupilsPupil", name := "fault", desc := "(I)I" } : Jvm.MethodName)) ∈ lw_all := lw_g (lw_at lw_m5 112 rfl) rfl
theorem q1217 : (Jvm.Cond.selects "PupilsPupil" ({ cls := "PupilsPupil", name := "fault", desc := "(I)I" } : Jvm.MethodName) ({ cls := "PupilsPupil", name := "fault", desc := "(I)I" } : Jvm.MethodName)) ∈ lw_all := lw_g (lw_at lw_m5 113 rfl) rfl
theorem q1218 : (Jvm.Cond.code ({ cls := "PupilsPupil", name := "fault", desc := "(I)I" } : Jvm.MethodName) prog_1_method_14_code (2 : Nat) (Option.some Jvm.ClassFile.FieldType.int)) ∈ lw_all := lw_g (lw_at lw_m5 114 rfl) rfl
theorem q1220 : (Jvm.Cond.instanceMethod ({ cls := "PupilsPupil", name := "has", desc := "(I)I" } : Jvm.MethodName)) ∈ lw_all := lw_g (lw_at lw_m5 116 rfl) rfl
theorem q1221 : (Jvm.Cond.selects "PupilsPupil" ({ cls := "PupilsPupil", name := "has", desc := "(I)I" } : Jvm.MethodName) ({ cls := "PupilsPupil", name := "has", desc := "(I)I" } : Jvm.MethodName)) ∈ lw_all := lw_g (lw_at lw_m5 117 rfl) rfl
theorem q1222 : (Jvm.Cond.code ({ cls := "PupilsPupil", name := "has", desc := "(I)I" } : Jvm.MethodName) prog_1_method_22_code (2 : Nat) (Option.some Jvm.ClassFile.FieldType.int)) ∈ lw_all := lw_g (lw_at lw_m5 118 rfl) rfl
theorem q1223 : (Jvm.Cond.methodLink "PupilsPupil" (152 : Nat) ({ cls := "PupilsPupil", name := "facts", desc := "()I" } : Jvm.MethodName)) ∈ lw_all := lw_g (lw_at lw_m5 119 rfl) rfl
theorem q1224 : (Jvm.Cond.privateMethod ({ cls := "PupilsPupil", name := "facts", desc := "()I" } : Jvm.MethodName)) ∈ lw_tbl := lw_at lw_m5 120 rfl
theorem q1225 : (Jvm.Cond.instanceMethod ({ cls := "PupilsPupil", name := "facts", desc := "()I" } : Jvm.MethodName)) ∈ lw_all := lw_g (lw_at lw_m5 121 rfl) rfl
theorem q1226 : (Jvm.Cond.code ({ cls := "PupilsPupil", name := "facts", desc := "()I" } : Jvm.MethodName) prog_1_method_15_code (1 : Nat) (Option.some Jvm.ClassFile.FieldType.int)) ∈ lw_all := lw_g (lw_at lw_m5 122 rfl) rfl
theorem q1227 : (Jvm.Cond.methodLink "PupilsPupil" (154 : Nat) ({ cls := "PupilsPupil", name := "people", desc := "()I" } : Jvm.MethodName)) ∈ lw_all := lw_g (lw_at lw_m5 123 rfl) rfl
theorem q1228 : (Jvm.Cond.methodLink "PupilsPupil" (177 : Nat) ({ cls := "java/lang/Integer", name := "bitCount", desc := "(I)I" } : Jvm.MethodName)) ∈ lw_all := lw_g (lw_at lw_m5 124 rfl) rfl
theorem q1234 : (Jvm.Cond.methodLink "PupilsPupil" (185 : Nat) ({ cls := "PupilsPupil$State", name := "beliefs", desc := "(Z)I" } : Jvm.MethodName)) ∈ lw_all := lw_g (lw_at lw_m5 130 rfl) rfl
theorem q1240 : (Jvm.Cond.instanceMethod ({ cls := "PupilsPupil", name := "letter", desc := "(III)I" } : Jvm.MethodName)) ∈ lw_all := lw_g (lw_at lw_m5 136 rfl) rfl
theorem q1241 : (Jvm.Cond.selects "PupilsPupil" ({ cls := "PupilsPupil", name := "letter", desc := "(III)I" } : Jvm.MethodName) ({ cls := "PupilsPupil", name := "letter", desc := "(III)I" } : Jvm.MethodName)) ∈ lw_all := lw_g (lw_at lw_m5 137 rfl) rfl
theorem q1242 : (Jvm.Cond.code ({ cls := "PupilsPupil", name := "letter", desc := "(III)I" } : Jvm.MethodName) prog_1_method_23_code (5 : Nat) (Option.some Jvm.ClassFile.FieldType.int)) ∈ lw_all := lw_g (lw_at lw_m5 138 rfl) rfl
theorem q1243 : (Jvm.Cond.methodLink "PupilsPupil" (192 : Nat) ({ cls := "PupilsPupil", name := "is", desc := "(III)Z" } : Jvm.MethodName)) ∈ lw_all := lw_g (lw_at lw_m5 139 rfl) rfl
theorem q1244 : (Jvm.Cond.interfaceEntry "PupilsPupil" (156 : Nat)) ∈ lw_tbl := lw_at lw_m5 140 rfl
theorem q1245 : (Jvm.Cond.methodLink "PupilsPupil" (156 : Nat) ({ cls := "java/util/List", name := "get", desc := "(I)Ljava/lang/Object;" } : Jvm.MethodName)) ∈ lw_all := lw_g (lw_at lw_m5 141 rfl) rfl
theorem q1246 : (Jvm.Cond.classLink "PupilsPupil" (160 : Nat) "PupilsPupil$Named") ∈ lw_all := lw_g (lw_at lw_m5 142 rfl) rfl
theorem q1247 : (Jvm.Cond.methodLink "PupilsPupil" (196 : Nat) ({ cls := "PupilsPupil$Named", name := "letter", desc := "(I)I" } : Jvm.MethodName)) ∈ lw_all := lw_g (lw_at lw_m5 143 rfl) rfl
theorem q1266 : (Jvm.Cond.instanceMethod ({ cls := "PupilsPupil", name := "fact", desc := "(II)I" } : Jvm.MethodName)) ∈ lw_all := lw_g (lw_at lw_m5 162 rfl) rfl
theorem q1267 : (Jvm.Cond.selects "PupilsPupil" ({ cls := "PupilsPupil", name := "fact", desc := "(II)I" } : Jvm.MethodName) ({ cls := "PupilsPupil", name := "fact", desc := "(II)I" } : Jvm.MethodName)) ∈ lw_all := lw_g (lw_at lw_m5 163 rfl) rfl
theorem q1268 : (Jvm.Cond.code ({ cls := "PupilsPupil", name := "fact", desc := "(II)I" } : Jvm.MethodName) prog_1_method_25_code (3 : Nat) (Option.some Jvm.ClassFile.FieldType.int)) ∈ lw_all := lw_g (lw_at lw_m5 164 rfl) rfl
theorem q1269 : (Jvm.Cond.methodLink "PupilsPupil" (203 : Nat) ({ cls := "PupilsPupil", name := "isFact", desc := "(I)Z" } : Jvm.MethodName)) ∈ lw_all := lw_g (lw_at lw_m5 165 rfl) rfl
theorem q1270 : (Jvm.Cond.privateMethod ({ cls := "PupilsPupil", name := "isFact", desc := "(I)Z" } : Jvm.MethodName)) ∈ lw_tbl := lw_at lw_m5 166 rfl
theorem q1271 : (Jvm.Cond.instanceMethod ({ cls := "PupilsPupil", name := "isFact", desc := "(I)Z" } : Jvm.MethodName)) ∈ lw_all := lw_g (lw_at lw_m5 167 rfl) rfl
theorem q1272 : (Jvm.Cond.code ({ cls := "PupilsPupil", name := "isFact", desc := "(I)Z" } : Jvm.MethodName) prog_1_method_17_code (2 : Nat) (Option.some Jvm.ClassFile.FieldType.boolean)) ∈ lw_all := lw_g (lw_at lw_m5 168 rfl) rfl
theorem q1273 : (Jvm.Cond.methodLink "PupilsPupil" (207 : Nat) ({ cls := "PupilsPupil", name := "worthOf", desc := "(I)I" } : Jvm.MethodName)) ∈ lw_all := lw_g (lw_at lw_m5 169 rfl) rfl
theorem q1274 : (Jvm.Cond.privateMethod ({ cls := "PupilsPupil", name := "worthOf", desc := "(I)I" } : Jvm.MethodName)) ∈ lw_tbl := lw_at lw_m5 170 rfl
theorem q1275 : (Jvm.Cond.instanceMethod ({ cls := "PupilsPupil", name := "worthOf", desc := "(I)I" } : Jvm.MethodName)) ∈ lw_all := lw_g (lw_at lw_m5 171 rfl) rfl
theorem q1276 : (Jvm.Cond.code ({ cls := "PupilsPupil", name := "worthOf", desc := "(I)I" } : Jvm.MethodName) prog_1_method_19_code (2 : Nat) (Option.some Jvm.ClassFile.FieldType.int)) ∈ lw_all := lw_g (lw_at lw_m5 172 rfl) rfl
theorem q1277 : (Jvm.Cond.methodLink "PupilsPupil" (210 : Nat) ({ cls := "PupilsPupil", name := "standing", desc := "(II)I" } : Jvm.MethodName)) ∈ lw_all := lw_g (lw_at lw_m5 173 rfl) rfl
theorem q1278 : (Jvm.Cond.privateMethod ({ cls := "PupilsPupil", name := "standing", desc := "(II)I" } : Jvm.MethodName)) ∈ lw_tbl := lw_at lw_m5 174 rfl
theorem q1279 : (Jvm.Cond.instanceMethod ({ cls := "PupilsPupil", name := "standing", desc := "(II)I" } : Jvm.MethodName)) ∈ lw_all := lw_g (lw_at lw_m5 175 rfl) rfl
theorem q1280 : (Jvm.Cond.code ({ cls := "PupilsPupil", name := "standing", desc := "(II)I" } : Jvm.MethodName) prog_1_method_24_code (5 : Nat) (Option.some Jvm.ClassFile.FieldType.int)) ∈ lw_all := lw_g (lw_at lw_m5 176 rfl) rfl
theorem q1281 : (Jvm.Cond.methodLink "PupilsPupil" (199 : Nat) ({ cls := "PupilsPupil$State", name := "stands", desc := "(II)I" } : Jvm.MethodName)) ∈ lw_all := lw_g (lw_at lw_m5 177 rfl) rfl
theorem q1287 : (Jvm.Cond.instanceMethod ({ cls := "PupilsPupil", name := "person", desc := "(II)I" } : Jvm.MethodName)) ∈ lw_all := lw_g (lw_at lw_m5 183 rfl) rfl
theorem q1288 : (Jvm.Cond.selects "PupilsPupil" ({ cls := "PupilsPupil", name := "person", desc := "(II)I" } : Jvm.MethodName) ({ cls := "PupilsPupil", name := "person", desc := "(II)I" } : Jvm.MethodName)) ∈ lw_all := lw_g (lw_at lw_m5 184 rfl) rfl
theorem q1289 : (Jvm.Cond.code ({ cls := "PupilsPupil", name := "person", desc := "(II)I" } : Jvm.MethodName) prog_1_method_26_code (3 : Nat) (Option.some Jvm.ClassFile.FieldType.int)) ∈ lw_all := lw_g (lw_at lw_m5 185 rfl) rfl
theorem q1290 : (Jvm.Cond.methodLink "PupilsPupil" (213 : Nat) ({ cls := "PupilsPupil", name := "isPerson", desc := "(I)Z" } : Jvm.MethodName)) ∈ lw_all := lw_g (lw_at lw_m5 186 rfl) rfl
theorem q1291 : (Jvm.Cond.privateMethod ({ cls := "PupilsPupil", name := "isPerson", desc := "(I)Z" } : Jvm.MethodName)) ∈ lw_tbl := lw_at lw_m5 187 rfl
theorem q1292 : (Jvm.Cond.instanceMethod ({ cls := "PupilsPupil", name := "isPerson", desc := "(I)Z" } : Jvm.MethodName)) ∈ lw_all := lw_g (lw_at lw_m5 188 rfl) rfl
theorem q1293 : (Jvm.Cond.code ({ cls := "PupilsPupil", name := "isPerson", desc := "(I)Z" } : Jvm.MethodName) prog_1_method_18_code (2 : Nat) (Option.some Jvm.ClassFile.FieldType.boolean)) ∈ lw_all := lw_g (lw_at lw_m5 189 rfl) rfl
theorem q1294 : (Jvm.Cond.methodLink "PupilsPupil" (216 : Nat) ({ cls := "PupilsPupil", name := "calmOf", desc := "(I)I" } : Jvm.MethodName)) ∈ lw_all := lw_g (lw_at lw_m5 190 rfl) rfl
theorem q1295 : (Jvm.Cond.privateMethod ({ cls := "PupilsPupil", name := "calmOf", desc := "(I)I" } : Jvm.MethodName)) ∈ lw_tbl := lw_at lw_m5 191 rfl
theorem q1296 : (Jvm.Cond.instanceMethod ({ cls := "PupilsPupil", name := "calmOf", desc := "(I)I" } : Jvm.MethodName)) ∈ lw_all := lw_g (lw_at lw_m5 192 rfl) rfl
theorem q1297 : (Jvm.Cond.code ({ cls := "PupilsPupil", name := "calmOf", desc := "(I)I" } : Jvm.MethodName) prog_1_method_20_code (2 : Nat) (Option.some Jvm.ClassFile.FieldType.int)) ∈ lw_all := lw_g (lw_at lw_m5 193 rfl) rfl
theorem q1298 : (Jvm.Cond.methodLink "PupilsPupil" (222 : Nat) ({ cls := "PupilsPupil$State", name := "pupils", desc := "(I)I" } : Jvm.MethodName)) ∈ lw_all := lw_g (lw_at lw_m5 194 rfl) rfl
theorem q1302 : (Jvm.Cond.methodLink "PupilsPupil" (234 : Nat) ({ cls := "PupilsPupil", name := "has", desc := "(II)Z" } : Jvm.MethodName)) ∈ lw_all := lw_g (lw_at lw_m5 198 rfl) rfl
theorem q1304 : (Jvm.Cond.instanceMethod ({ cls := "PupilsPupil", name := "marks", desc := "(I)J" } : Jvm.MethodName)) ∈ lw_all := lw_g (lw_at lw_m5 200 rfl) rfl
theorem q1305 : (Jvm.Cond.selects "PupilsPupil" ({ cls := "PupilsPupil", name := "marks", desc := "(I)J" } : Jvm.MethodName) ({ cls := "PupilsPupil", name := "marks", desc := "(I)J" } : Jvm.MethodName)) ∈ lw_all := lw_g (lw_at lw_m5 201 rfl) rfl
theorem q1306 : (Jvm.Cond.code ({ cls := "PupilsPupil", name := "marks", desc := "(I)J" } : Jvm.MethodName) prog_1_method_27_code (2 : Nat) (Option.some Jvm.ClassFile.FieldType.long)) ∈ lw_all := lw_g (lw_at lw_m5 202 rfl) rfl
theorem q1307 : (Jvm.Cond.methodLink "PupilsPupil" (238 : Nat) ({ cls := "PupilsPupil$State", name := "marks", desc := "(I)I" } : Jvm.MethodName)) ∈ lw_all := lw_g (lw_at lw_m5 203 rfl) rfl
theorem q1313 : (Jvm.Cond.constantLong "PupilsPupil" (241 : Nat) (-1000000000000000 : Int64)) ∈ lw_all := lw_g (lw_at lw_m5 209 rfl) rfl
theorem q1315 : (Jvm.Cond.instanceMethod ({ cls := "PupilsPupil", name := "next", desc := "(I)I" } : Jvm.MethodName)) ∈ lw_all := lw_g (lw_at lw_m5 211 rfl) rfl
theorem q1316 : (Jvm.Cond.selects "PupilsPupil" ({ cls := "PupilsPupil", name := "next", desc := "(I)I" } : Jvm.MethodName) ({ cls := "PupilsPupil", name := "next", desc := "(I)I" } : Jvm.MethodName)) ∈ lw_all := lw_g (lw_at lw_m5 212 rfl) rfl
theorem q1317 : (Jvm.Cond.code ({ cls := "PupilsPupil", name := "next", desc := "(I)I" } : Jvm.MethodName) prog_1_method_28_code (2 : Nat) (Option.some Jvm.ClassFile.FieldType.int)) ∈ lw_all := lw_g (lw_at lw_m5 213 rfl) rfl
theorem q1318 : (Jvm.Cond.methodLink "PupilsPupil" (243 : Nat) ({ cls := "PupilsPupil$State", name := "lesson", desc := "(I)I" } : Jvm.MethodName)) ∈ lw_all := lw_g (lw_at lw_m5 214 rfl) rfl
theorem q1356 : (Jvm.Cond.static ({ cls := "PupilsPupil", name := "held", desc := "(J)J" } : Jvm.MethodName)) ∈ lw_all := lw_g (lw_at lw_m6 12 rfl) rfl
theorem q1357 : (Jvm.Cond.code ({ cls := "PupilsPupil", name := "held", desc := "(J)J" } : Jvm.MethodName) prog_1_method_3_code (2 : Nat) (Option.some Jvm.ClassFile.FieldType.long)) ∈ lw_all := lw_g (lw_at lw_m6 13 rfl) rfl
theorem q1358 : (Jvm.Cond.constantLong "PupilsPupil" (3 : Nat) (-1000000 : Int64)) ∈ lw_all := lw_g (lw_at lw_m6 14 rfl) rfl
theorem q1359 : (Jvm.Cond.constantLong "PupilsPupil" (5 : Nat) (1000000 : Int64)) ∈ lw_all := lw_g (lw_at lw_m6 15 rfl) rfl
theorem q1360 : (Jvm.Cond.methodLink "PupilsPupil" (7 : Nat) ({ cls := "java/lang/Math", name := "min", desc := "(JJ)J" } : Jvm.MethodName)) ∈ lw_all := lw_g (lw_at lw_m6 16 rfl) rfl
theorem q1363 : (Jvm.Cond.methodLink "PupilsPupil" (13 : Nat) ({ cls := "java/lang/Math", name := "max", desc := "(JJ)J" } : Jvm.MethodName)) ∈ lw_all := lw_g (lw_at lw_m6 19 rfl) rfl
theorem q1382 : (Jvm.Cond.privateMethod ({ cls := "PupilsPupil", name := "looked", desc := "(IJ)J" } : Jvm.MethodName)) ∈ lw_tbl := lw_at lw_m6 38 rfl
theorem q1383 : (Jvm.Cond.instanceMethod ({ cls := "PupilsPupil", name := "looked", desc := "(IJ)J" } : Jvm.MethodName)) ∈ lw_all := lw_g (lw_at lw_m6 39 rfl) rfl
theorem q1384 : (Jvm.Cond.code ({ cls := "PupilsPupil", name := "looked", desc := "(IJ)J" } : Jvm.MethodName) prog_1_method_52_code (4 : Nat) (Option.some Jvm.ClassFile.FieldType.long)) ∈ lw_all := lw_g (lw_at lw_m6 40 rfl) rfl
theorem q1411 : (Jvm.Cond.instanceMethod ({ cls := "PupilsPupil", name := "kept", desc := "(II)I" } : Jvm.MethodName)) ∈ lw_all := lw_g (lw_at lw_m6 67 rfl) rfl
theorem q1412 : (Jvm.Cond.selects "PupilsPupil" ({ cls := "PupilsPupil", name := "kept", desc := "(II)I" } : Jvm.MethodName) ({ cls := "PupilsPupil", name := "kept", desc := "(II)I" } : Jvm.MethodName)) ∈ lw_all := lw_g (lw_at lw_m6 68 rfl) rfl
theorem q1413 : (Jvm.Cond.code ({ cls := "PupilsPupil", name := "kept", desc := "(II)I" } : Jvm.MethodName) prog_1_method_29_code (3 : Nat) (Option.some Jvm.ClassFile.FieldType.int)) ∈ lw_all := lw_g (lw_at lw_m6 69 rfl) rfl
theorem q1415 : (Jvm.Cond.instanceMethod ({ cls := "PupilsPupil", name := "later", desc := "(II)I" } : Jvm.MethodName)) ∈ lw_all := lw_g (lw_at lw_m6 71 rfl) rfl
theorem q1416 : (Jvm.Cond.selects "PupilsPupil" ({ cls := "PupilsPupil", name := "later", desc := "(II)I" } : Jvm.MethodName) ({ cls := "PupilsPupil", name := "later", desc := "(II)I" } : Jvm.MethodName)) ∈ lw_all := lw_g (lw_at lw_m6 72 rfl) rfl
theorem q1417 : (Jvm.Cond.code ({ cls := "PupilsPupil", name := "later", desc := "(II)I" } : Jvm.MethodName) prog_1_method_31_code (3 : Nat) (Option.some Jvm.ClassFile.FieldType.int)) ∈ lw_all := lw_g (lw_at lw_m6 73 rfl) rfl
theorem q1418 : (Jvm.Cond.methodLink "PupilsPupil" (248 : Nat) ({ cls := "PupilsPupil", name := "isAhead", desc := "(III)Z" } : Jvm.MethodName)) ∈ lw_all := lw_g (lw_at lw_m6 74 rfl) rfl
theorem q1419 : (Jvm.Cond.privateMethod ({ cls := "PupilsPupil", name := "isAhead", desc := "(III)Z" } : Jvm.MethodName)) ∈ lw_tbl := lw_at lw_m6 75 rfl
theorem q1420 : (Jvm.Cond.instanceMethod ({ cls := "PupilsPupil", name := "isAhead", desc := "(III)Z" } : Jvm.MethodName)) ∈ lw_all := lw_g (lw_at lw_m6 76 rfl) rfl
theorem q1421 : (Jvm.Cond.code ({ cls := "PupilsPupil", name := "isAhead", desc := "(III)Z" } : Jvm.MethodName) prog_1_method_30_code (4 : Nat) (Option.some Jvm.ClassFile.FieldType.boolean)) ∈ lw_all := lw_g (lw_at lw_m6 77 rfl) rfl
theorem q1422 : (Jvm.Cond.methodLink "PupilsPupil" (251 : Nat) ({ cls := "PupilsPupil$State", name := "copy", desc := "(LPupilsPupil$State;)LPupilsPupil$State;" } : Jvm.MethodName)) ∈ lw_all := lw_g (lw_at lw_m6 78 rfl) rfl
theorem q1426 : (Jvm.Cond.methodLink "PupilsPupil" (255 : Nat) ({ cls := "PupilsPupil$State", name := "years", desc := "(I)LPupilsPupil$State;" } : Jvm.MethodName)) ∈ lw_all := lw_g (lw_at lw_m6 82 rfl) rfl
theorem q1448 : (Jvm.Cond.instanceMethod ({ cls := "PupilsPupil", name := "doctor", desc := "(I)I" } : Jvm.MethodName)) ∈ lw_all := lw_g (lw_at lw_m6 104 rfl) rfl
theorem q1449 : (Jvm.Cond.selects "PupilsPupil" ({ cls := "PupilsPupil", name := "doctor", desc := "(I)I" } : Jvm.MethodName) ({ cls := "PupilsPupil", name := "doctor", desc := "(I)I" } : Jvm.MethodName)) ∈ lw_all := lw_g (lw_at lw_m6 105 rfl) rfl
theorem q1450 : (Jvm.Cond.code ({ cls := "PupilsPupil", name := "doctor", desc := "(I)I" } : Jvm.MethodName) prog_1_method_32_code (3 : Nat) (Option.some Jvm.ClassFile.FieldType.int)) ∈ lw_all := lw_g (lw_at lw_m6 106 rfl) rfl
theorem q1452 : (Jvm.Cond.instanceMethod ({ cls := "PupilsPupil", name := "lost", desc := "(I)I" } : Jvm.MethodName)) ∈ lw_all := lw_g (lw_at lw_m6 108 rfl) rfl
theorem q1453 : (Jvm.Cond.selects "PupilsPupil" ({ cls := "PupilsPupil", name := "lost", desc := "(I)I" } : Jvm.MethodName) ({ cls := "PupilsPupil", name := "lost", desc := "(I)I" } : Jvm.MethodName)) ∈ lw_all := lw_g (lw_at lw_m6 109 rfl) rfl
theorem q1454 : (Jvm.Cond.code ({ cls := "PupilsPupil", name := "lost", desc := "(I)I" } : Jvm.MethodName) prog_1_method_33_code (5 : Nat) (Option.some Jvm.ClassFile.FieldType.int)) ∈ lw_all := lw_g (lw_at lw_m6 110 rfl) rfl
theorem q1456 : (Jvm.Cond.instanceMethod ({ cls := "PupilsPupil", name := "master", desc := "(II)I" } : Jvm.MethodName)) ∈ lw_all := lw_g (lw_at lw_m6 112 rfl) rfl
theorem q1457 : (Jvm.Cond.selects "PupilsPupil" ({ cls := "PupilsPupil", name := "master", desc := "(II)I" } : Jvm.MethodName) ({ cls := "PupilsPupil", name := "master", desc := "(II)I" } : Jvm.MethodName)) ∈ lw_all := lw_g (lw_at lw_m6 113 rfl) rfl
theorem q1458 : (Jvm.Cond.code ({ cls := "PupilsPupil", name := "master", desc := "(II)I" } : Jvm.MethodName) prog_1_method_34_code (7 : Nat) (Option.some Jvm.ClassFile.FieldType.int)) ∈ lw_all := lw_g (lw_at lw_m6 114 rfl) rfl
theorem q1459 : (Jvm.Cond.constant "PupilsPupil" (259 : Nat) (100000000 : Int32)) ∈ lw_all := lw_g (lw_at lw_m6 115 rfl) rfl
theorem q1460 : (Jvm.Cond.methodLink "PupilsPupil" (260 : Nat) ({ cls := "PupilsPupil$State", name := "isBy", desc := "(II)Z" } : Jvm.MethodName)) ∈ lw_all := lw_g (lw_at lw_m6 116 rfl) rfl
theorem q1465 : (Jvm.Cond.instanceMethod ({ cls := "PupilsPupil", name := "gift", desc := "(III)I" } : Jvm.MethodName)) ∈ lw_all := lw_g (lw_at lw_m6 121 rfl) rfl
theorem q1466 : (Jvm.Cond.selects "PupilsPupil" ({ cls := "PupilsPupil", name := "gift", desc := "(III)I" } : Jvm.MethodName) ({ cls := "PupilsPupil", name := "gift", desc := "(III)I" } : Jvm.MethodName)) ∈ lw_all := lw_g (lw_at lw_m6 122 rfl) rfl
theorem q1467 : (Jvm.Cond.code ({ cls := "PupilsPupil", name := "gift", desc := "(III)I" } : Jvm.MethodName) prog_1_method_35_code (8 : Nat) (Option.some Jvm.ClassFile.FieldType.int)) ∈ lw_all := lw_g (lw_at lw_m6 123 rfl) rfl
theorem q1468 : (Jvm.Cond.methodLink "PupilsPupil" (263 : Nat) ({ cls := "PupilsPupil$State", name := "hears", desc := "(II)V" } : Jvm.MethodName)) ∈ lw_all := lw_g (lw_at lw_m6 124 rfl) rfl
theorem q1473 : (Jvm.Cond.instanceMethod ({ cls := "PupilsPupil", name := "law", desc := "(II)I" } : Jvm.MethodName)) ∈ lw_all := lw_g (lw_at lw_m6 129 rfl) rfl
theorem q1474 : (Jvm.Cond.selects "PupilsPupil" ({ cls := "PupilsPupil", name := "law", desc := "(II)I" } : Jvm.MethodName) ({ cls := "PupilsPupil", name := "law", desc := "(II)I" } : Jvm.MethodName)) ∈ lw_all := lw_g (lw_at lw_m6 130 rfl) rfl
theorem q1475 : (Jvm.Cond.code ({ cls := "PupilsPupil", name := "law", desc := "(II)I" } : Jvm.MethodName) prog_1_method_36_code (7 : Nat) (Option.some Jvm.ClassFile.FieldType.int)) ∈ lw_all := lw_g (lw_at lw_m6 131 rfl) rfl
theorem q1477 : (Jvm.Cond.instanceMethod ({ cls := "PupilsPupil", name := "hear", desc := "()I" } : Jvm.MethodName)) ∈ lw_all := lw_g (lw_at lw_m6 133 rfl) rfl
theorem q1478 : (Jvm.Cond.selects "PupilsPupil" ({ cls := "PupilsPupil", name := "hear", desc := "()I" } : Jvm.MethodName) ({ cls := "PupilsPupil", name := "hear", desc := "()I" } : Jvm.MethodName)) ∈ lw_all := lw_g (lw_at lw_m6 134 rfl) rfl
theorem q1479 : (Jvm.Cond.code ({ cls := "PupilsPupil", name := "hear", desc := "()I" } : Jvm.MethodName) prog_1_method_38_code (4 : Nat) (Option.some Jvm.ClassFile.FieldType.int)) ∈ lw_all := lw_g (lw_at lw_m6 135 rfl) rfl
theorem q1480 : (Jvm.Cond.methodLink "PupilsPupil" (267 : Nat) ({ cls := "PupilsPupil", name := "byteAt", desc := "(I)I" } : Jvm.MethodName)) ∈ lw_all := lw_g (lw_at lw_m6 136 rfl) rfl
theorem q1481 : (Jvm.Cond.privateMethod ({ cls := "PupilsPupil", name := "byteAt", desc := "(I)I" } : Jvm.MethodName)) ∈ lw_tbl := lw_at lw_m6 137 rfl
theorem q1482 : (Jvm.Cond.instanceMethod ({ cls := "PupilsPupil", name := "byteAt", desc := "(I)I" } : Jvm.MethodName)) ∈ lw_all := lw_g (lw_at lw_m6 138 rfl) rfl
theorem q1483 : (Jvm.Cond.code ({ cls := "PupilsPupil", name := "byteAt", desc := "(I)I" } : Jvm.MethodName) prog_1_method_37_code (2 : Nat) (Option.some Jvm.ClassFile.FieldType.int)) ∈ lw_all := lw_g (lw_at lw_m6 139 rfl) rfl
theorem q1485 : (Jvm.Cond.instanceMethod ({ cls := "PupilsPupil", name := "sources", desc := "(II)I" } : Jvm.MethodName)) ∈ lw_all := lw_g (lw_at lw_m6 141 rfl) rfl
theorem q1486 : (Jvm.Cond.selects "PupilsPupil" ({ cls := "PupilsPupil", name := "sources", desc := "(II)I" } : Jvm.MethodName) ({ cls := "PupilsPupil", name := "sources", desc := "(II)I" } : Jvm.MethodName)) ∈ lw_all := lw_g (lw_at lw_m6 142 rfl) rfl
theorem q1487 : (Jvm.Cond.code ({ cls := "PupilsPupil", name := "sources", desc := "(II)I" } : Jvm.MethodName) prog_1_method_40_code (5 : Nat) (Option.some Jvm.ClassFile.FieldType.int)) ∈ lw_all := lw_g (lw_at lw_m6 143 rfl) rfl
theorem q1488 : (Jvm.Cond.methodLink "PupilsPupil" (270 : Nat) ({ cls := "PupilsPupil", name := "isSource", desc := "(III)Z" } : Jvm.MethodName)) ∈ lw_all := lw_g (lw_at lw_m6 144 rfl) rfl
theorem q1489 : (Jvm.Cond.privateMethod ({ cls := "PupilsPupil", name := "isSource", desc := "(III)Z" } : Jvm.MethodName)) ∈ lw_tbl := lw_at lw_m6 145 rfl
theorem q1490 : (Jvm.Cond.instanceMethod ({ cls := "PupilsPupil", name := "isSource", desc := "(III)Z" } : Jvm.MethodName)) ∈ lw_all := lw_g (lw_at lw_m6 146 rfl) rfl
theorem q1491 : (Jvm.Cond.code ({ cls := "PupilsPupil", name := "isSource", desc := "(III)Z" } : Jvm.MethodName) prog_1_method_39_code (5 : Nat) (Option.some Jvm.ClassFile.FieldType.boolean)) ∈ lw_all := lw_g (lw_at lw_m6 147 rfl) rfl
theorem q1493 : (Jvm.Cond.instanceMethod ({ cls := "PupilsPupil", name := "probe", desc := "(III)I" } : Jvm.MethodName)) ∈ lw_all := lw_g (lw_at lw_m6 149 rfl) rfl
theorem q1494 : (Jvm.Cond.selects "PupilsPupil" ({ cls := "PupilsPupil", name := "probe", desc := "(III)I" } : Jvm.MethodName) ({ cls := "PupilsPupil", name := "probe", desc := "(III)I" } : Jvm.MethodName)) ∈ lw_all := lw_g (lw_at lw_m6 150 rfl) rfl
theorem q1495 : (Jvm.Cond.code ({ cls := "PupilsPupil", name := "probe", desc := "(III)I" } : Jvm.MethodName) prog_1_method_41_code (9 : Nat) (Option.some Jvm.ClassFile.FieldType.int)) ∈ lw_all := lw_g (lw_at lw_m6 151 rfl) rfl
theorem q1496 : (Jvm.Cond.methodLink "PupilsPupil" (273 : Nat) ({ cls := "java/lang/Math", name := "max", desc := "(II)I" } : Jvm.MethodName)) ∈ lw_all := lw_g (lw_at lw_m6 152 rfl) rfl
theorem q1498 : (Jvm.Cond.instanceMethod ({ cls := "PupilsPupil", name := "part", desc := "(II)I" } : Jvm.MethodName)) ∈ lw_all := lw_g (lw_at lw_m6 154 rfl) rfl
theorem q1499 : (Jvm.Cond.selects "PupilsPupil" ({ cls := "PupilsPupil", name := "part", desc := "(II)I" } : Jvm.MethodName) ({ cls := "PupilsPupil", name := "part", desc := "(II)I" } : Jvm.MethodName)) ∈ lw_all := lw_g (lw_at lw_m6 155 rfl) rfl
theorem q1500 : (Jvm.Cond.code ({ cls := "PupilsPupil", name := "part", desc := "(II)I" } : Jvm.MethodName) prog_1_method_43_code (5 : Nat) (Option.some Jvm.ClassFile.FieldType.int)) ∈ lw_all := lw_g (lw_at lw_m6 156 rfl) rfl
theorem q1501 : (Jvm.Cond.methodLink "PupilsPupil" (275 : Nat) ({ cls := "PupilsPupil", name := "allPeople", desc := "()I" } : Jvm.MethodName)) ∈ lw_all := lw_g (lw_at lw_m6 157 rfl) rfl
theorem q1502 : (Jvm.Cond.privateMethod ({ cls := "PupilsPupil", name := "allPeople", desc := "()I" } : Jvm.MethodName)) ∈ lw_tbl := lw_at lw_m6 158 rfl
theorem q1503 : (Jvm.Cond.instanceMethod ({ cls := "PupilsPupil", name := "allPeople", desc := "()I" } : Jvm.MethodName)) ∈ lw_all := lw_g (lw_at lw_m6 159 rfl) rfl
theorem q1504 : (Jvm.Cond.code ({ cls := "PupilsPupil", name := "allPeople", desc := "()I" } : Jvm.MethodName) prog_1_method_21_code (1 : Nat) (Option.some Jvm.ClassFile.FieldType.int)) ∈ lw_all := lw_g (lw_at lw_m6 160 rfl) rfl
theorem q1505 : (Jvm.Cond.methodLink "PupilsPupil" (278 : Nat) ({ cls := "PupilsPupil", name := "areParted", desc := "(III)Z" } : Jvm.MethodName)) ∈ lw_all := lw_g (lw_at lw_m6 161 rfl) rfl
theorem q1506 : (Jvm.Cond.privateMethod ({ cls := "PupilsPupil", name := "areParted", desc := "(III)Z" } : Jvm.MethodName)) ∈ lw_tbl := lw_at lw_m6 162 rfl
theorem q1507 : (Jvm.Cond.instanceMethod ({ cls := "PupilsPupil", name := "areParted", desc := "(III)Z" } : Jvm.MethodName)) ∈ lw_all := lw_g (lw_at lw_m6 163 rfl) rfl
theorem q1508 : (Jvm.Cond.code ({ cls := "PupilsPupil", name := "areParted", desc := "(III)Z" } : Jvm.MethodName) prog_1_method_42_code (6 : Nat) (Option.some Jvm.ClassFile.FieldType.boolean)) ∈ lw_all := lw_g (lw_at lw_m6 164 rfl) rfl
theorem q1510 : (Jvm.Cond.instanceMethod ({ cls := "PupilsPupil", name := "undo", desc := "()Z" } : Jvm.MethodName)) ∈ lw_all := lw_g (lw_at lw_m6 166 rfl) rfl
theorem q1511 : (Jvm.Cond.selects "PupilsPupil" ({ cls := "PupilsPupil", name := "undo", desc := "()Z" } : Jvm.MethodName) ({ cls := "PupilsPupil", name := "undo", desc := "()Z" } : Jvm.MethodName)) ∈ lw_all := lw_g (lw_at lw_m6 167 rfl) rfl
theorem q1512 : (Jvm.Cond.code ({ cls := "PupilsPupil", name := "undo", desc := "()Z" } : Jvm.MethodName) prog_1_method_45_code (1 : Nat) (Option.some Jvm.ClassFile.FieldType.boolean)) ∈ lw_all := lw_g (lw_at lw_m6 168 rfl) rfl
theorem q1514 : (Jvm.Cond.instanceMethod ({ cls := "PupilsPupil", name := "teach", desc := "(II)Z" } : Jvm.MethodName)) ∈ lw_all := lw_g (lw_at lw_m6 170 rfl) rfl
theorem q1515 : (Jvm.Cond.selects "PupilsPupil" ({ cls := "PupilsPupil", name := "teach", desc := "(II)Z" } : Jvm.MethodName) ({ cls := "PupilsPupil", name := "teach", desc := "(II)Z" } : Jvm.MethodName)) ∈ lw_all := lw_g (lw_at lw_m6 171 rfl) rfl
theorem q1516 : (Jvm.Cond.code ({ cls := "PupilsPupil", name := "teach", desc := "(II)Z" } : Jvm.MethodName) prog_1_method_46_code (3 : Nat) (Option.some Jvm.ClassFile.FieldType.boolean)) ∈ lw_all := lw_g (lw_at lw_m6 172 rfl) rfl
theorem q1517 : (Jvm.Cond.methodLink "PupilsPupil" (281 : Nat) ({ cls := "PupilsPupil", name := "keeps", desc := "()V" } : Jvm.MethodName)) ∈ lw_all := lw_g (lw_at lw_m6 173 rfl) rfl
theorem q1518 : (Jvm.Cond.privateMethod ({ cls := "PupilsPupil", name := "keeps", desc := "()V" } : Jvm.MethodName)) ∈ lw_tbl := lw_at lw_m6 174 rfl
theorem q1519 : (Jvm.Cond.instanceMethod ({ cls := "PupilsPupil", name := "keeps", desc := "()V" } : Jvm.MethodName)) ∈ lw_all := lw_g (lw_at lw_m6 175 rfl) rfl
theorem q1520 : (Jvm.Cond.code ({ cls := "PupilsPupil", name := "keeps", desc := "()V" } : Jvm.MethodName) prog_1_method_44_code (3 : Nat) (Option.none : Option Jvm.ClassFile.FieldType)) ∈ lw_all := lw_g (lw_at lw_m6 176 rfl) rfl
theorem q1522 : (Jvm.Cond.instanceMethod ({ cls := "PupilsPupil", name := "tell", desc := "(II)Z" } : Jvm.MethodName)) ∈ lw_all := lw_g (lw_at lw_m6 178 rfl) rfl
theorem q1523 : (Jvm.Cond.selects "PupilsPupil" ({ cls := "PupilsPupil", name := "tell", desc := "(II)Z" } : Jvm.MethodName) ({ cls := "PupilsPupil", name := "tell", desc := "(II)Z" } : Jvm.MethodName)) ∈ lw_all := lw_g (lw_at lw_m6 179 rfl) rfl
theorem q1524 : (Jvm.Cond.code ({ cls := "PupilsPupil", name := "tell", desc := "(II)Z" } : Jvm.MethodName) prog_1_method_47_code (3 : Nat) (Option.some Jvm.ClassFile.FieldType.boolean)) ∈ lw_all := lw_g (lw_at lw_m6 180 rfl) rfl
theorem q1526 : (Jvm.Cond.instanceMethod ({ cls := "PupilsPupil", name := "years", desc := "(I)I" } : Jvm.MethodName)) ∈ lw_all := lw_g (lw_at lw_m6 182 rfl) rfl
theorem q1527 : (Jvm.Cond.selects "PupilsPupil" ({ cls := "PupilsPupil", name := "years", desc := "(I)I" } : Jvm.MethodName) ({ cls := "PupilsPupil", name := "years", desc := "(I)I" } : Jvm.MethodName)) ∈ lw_all := lw_g (lw_at lw_m6 183 rfl) rfl
theorem q1528 : (Jvm.Cond.code ({ cls := "PupilsPupil", name := "years", desc := "(I)I" } : Jvm.MethodName) prog_1_method_48_code (4 : Nat) (Option.some Jvm.ClassFile.FieldType.int)) ∈ lw_all := lw_g (lw_at lw_m6 184 rfl) rfl
theorem q1529 : (Jvm.Cond.methodLink "PupilsPupil" (283 : Nat) ({ cls := "PupilsPupil$State", name := "passes", desc := "(I)I" } : Jvm.MethodName)) ∈ lw_all := lw_g (lw_at lw_m6 185 rfl) rfl
theorem q1531 : (Jvm.Cond.instanceMethod ({ cls := "PupilsPupil", name := "chance", desc := "(I)I" } : Jvm.MethodName)) ∈ lw_all := lw_g (lw_at lw_m6 187 rfl) rfl
theorem q1532 : (Jvm.Cond.selects "PupilsPupil" ({ cls := "PupilsPupil", name := "chance", desc := "(I)I" } : Jvm.MethodName) ({ cls := "PupilsPupil", name := "chance", desc := "(I)I" } : Jvm.MethodName)) ∈ lw_all := lw_g (lw_at lw_m6 188 rfl) rfl
theorem q1533 : (Jvm.Cond.code ({ cls := "PupilsPupil", name := "chance", desc := "(I)I" } : Jvm.MethodName) prog_1_method_50_code (6 : Nat) (Option.some Jvm.ClassFile.FieldType.int)) ∈ lw_all := lw_g (lw_at lw_m6 189 rfl) rfl
theorem q1534 : (Jvm.Cond.methodLink "PupilsPupil" (294 : Nat) ({ cls := "PupilsPupil", name := "draw", desc := "(I)I" } : Jvm.MethodName)) ∈ lw_all := lw_g (lw_at lw_m6 190 rfl) rfl
theorem q1535 : (Jvm.Cond.privateMethod ({ cls := "PupilsPupil", name := "draw", desc := "(I)I" } : Jvm.MethodName)) ∈ lw_tbl := lw_at lw_m6 191 rfl
theorem q1536 : (Jvm.Cond.instanceMethod ({ cls := "PupilsPupil", name := "draw", desc := "(I)I" } : Jvm.MethodName)) ∈ lw_all := lw_g (lw_at lw_m6 192 rfl) rfl
theorem q1537 : (Jvm.Cond.code ({ cls := "PupilsPupil", name := "draw", desc := "(I)I" } : Jvm.MethodName) prog_1_method_49_code (2 : Nat) (Option.some Jvm.ClassFile.FieldType.int)) ∈ lw_all := lw_g (lw_at lw_m6 193 rfl) rfl
theorem q1538 : (Jvm.Cond.constantLong "PupilsPupil" (286 : Nat) (1103515245 : Int64)) ∈ lw_all := lw_g (lw_at lw_m6 194 rfl) rfl
theorem q1539 : (Jvm.Cond.constantLong "PupilsPupil" (288 : Nat) (12345 : Int64)) ∈ lw_all := lw_g (lw_at lw_m6 195 rfl) rfl
theorem q1540 : (Jvm.Cond.constantLong "PupilsPupil" (290 : Nat) (2147483648 : Int64)) ∈ lw_all := lw_g (lw_at lw_m6 196 rfl) rfl
theorem q1541 : (Jvm.Cond.constantLong "PupilsPupil" (292 : Nat) (64 : Int64)) ∈ lw_all := lw_g (lw_at lw_m6 197 rfl) rfl
theorem q1543 : (Jvm.Cond.instanceMethod ({ cls := "PupilsPupil", name := "seed", desc := "(I)Z" } : Jvm.MethodName)) ∈ lw_all := lw_g (lw_at lw_m6 199 rfl) rfl
theorem q1544 : (Jvm.Cond.selects "PupilsPupil" ({ cls := "PupilsPupil", name := "seed", desc := "(I)Z" } : Jvm.MethodName) ({ cls := "PupilsPupil", name := "seed", desc := "(I)Z" } : Jvm.MethodName)) ∈ lw_all := lw_g (lw_at lw_m6 200 rfl) rfl
theorem q1545 : (Jvm.Cond.code ({ cls := "PupilsPupil", name := "seed", desc := "(I)Z" } : Jvm.MethodName) prog_1_method_51_code (2 : Nat) (Option.some Jvm.ClassFile.FieldType.boolean)) ∈ lw_all := lw_g (lw_at lw_m6 201 rfl) rfl
theorem q1547 : (Jvm.Cond.instanceMethod ({ cls := "PupilsPupil", name := "ask", desc := "(I)J" } : Jvm.MethodName)) ∈ lw_all := lw_g (lw_at lw_m6 203 rfl) rfl
theorem q1548 : (Jvm.Cond.selects "PupilsPupil" ({ cls := "PupilsPupil", name := "ask", desc := "(I)J" } : Jvm.MethodName) ({ cls := "PupilsPupil", name := "ask", desc := "(I)J" } : Jvm.MethodName)) ∈ lw_all := lw_g (lw_at lw_m6 204 rfl) rfl
theorem q1549 : (Jvm.Cond.codeWith ({ cls := "PupilsPupil", name := "ask", desc := "(I)J" } : Jvm.MethodName) prog_1_method_53_code (5 : Nat) (Option.some Jvm.ClassFile.FieldType.long) [((27 : Nat), (36 : Nat), (39 : Nat), (120 : Nat))]) ∈ lw_all := lw_g (lw_at lw_m6 205 rfl) rfl
theorem q1550 : (Jvm.Cond.methodLink "PupilsPupil" (303 : Nat) ({ cls := "PupilsPupil$Reader", name := "question", desc := "(I)LPupilsPupil$Question;" } : Jvm.MethodName)) ∈ lw_all := lw_g (lw_at lw_m6 206 rfl) rfl
theorem q1555 : (Jvm.Cond.laysStatic "PupilsPupil" "TOLD_OF" "[Ljava/lang/String;") ∈ lw_tbl := lw_at lw_m6 211 rfl
theorem q1579 : (Jvm.Cond.methodLink "PupilsPupil" (311 : Nat) ({ cls := "PupilsPupil$Question", name := "meets", desc := "(ILPupilsPupil$Moment;)V" } : Jvm.MethodName)) ∈ lw_all := lw_g (lw_at lw_m6 235 rfl) rfl
theorem q1587 : (Jvm.Cond.methodLink "PupilsPupil" (317 : Nat) ({ cls := "PupilsPupil$Question", name := "answer", desc := "()J" } : Jvm.MethodName)) ∈ lw_all := lw_g (lw_at lw_m7 3 rfl) rfl
theorem q1592 : (Jvm.Cond.instanceMethod ({ cls := "PupilsPupil", name := "image", desc := "()I" } : Jvm.MethodName)) ∈ lw_all := lw_g (lw_at lw_m7 8 rfl) rfl
theorem q1593 : (Jvm.Cond.selects "PupilsPupil" ({ cls := "PupilsPupil", name := "image", desc := "()I" } : Jvm.MethodName) ({ cls := "PupilsPupil", name := "image", desc := "()I" } : Jvm.MethodName)) ∈ lw_all := lw_g (lw_at lw_m7 9 rfl) rfl
theorem q1594 : (Jvm.Cond.code ({ cls := "PupilsPupil", name := "image", desc := "()I" } : Jvm.MethodName) prog_1_method_56_code (2 : Nat) (Option.some Jvm.ClassFile.FieldType.int)) ∈ lw_all := lw_g (lw_at lw_m7 10 rfl) rfl
theorem q1595 : (Jvm.Cond.methodLink "PupilsPupil" (324 : Nat) ({ cls := "PupilsPupil", name := "writes", desc := "(I)V" } : Jvm.MethodName)) ∈ lw_all := lw_g (lw_at lw_m7 11 rfl) rfl
theorem q1596 : (Jvm.Cond.privateMethod ({ cls := "PupilsPupil", name := "writes", desc := "(I)V" } : Jvm.MethodName)) ∈ lw_tbl := lw_at lw_m7 12 rfl
theorem q1597 : (Jvm.Cond.instanceMethod ({ cls := "PupilsPupil", name := "writes", desc := "(I)V" } : Jvm.MethodName)) ∈ lw_all := lw_g (lw_at lw_m7 13 rfl) rfl
theorem q1598 : (Jvm.Cond.code ({ cls := "PupilsPupil", name := "writes", desc := "(I)V" } : Jvm.MethodName) prog_1_method_54_code (2 : Nat) (Option.none : Option Jvm.ClassFile.FieldType)) ∈ lw_all := lw_g (lw_at lw_m7 14 rfl) rfl
theorem q1599 : (Jvm.Cond.methodLink "PupilsPupil" (327 : Nat) ({ cls := "PupilsPupil", name := "check", desc := "([BI)I" } : Jvm.MethodName)) ∈ lw_all := lw_g (lw_at lw_m7 15 rfl) rfl
theorem q1600 : (Jvm.Cond.static ({ cls := "PupilsPupil", name := "check", desc := "([BI)I" } : Jvm.MethodName)) ∈ lw_all := lw_g (lw_at lw_m7 16 rfl) rfl
theorem q1601 : (Jvm.Cond.code ({ cls := "PupilsPupil", name := "check", desc := "([BI)I" } : Jvm.MethodName) prog_1_method_55_code (4 : Nat) (Option.some Jvm.ClassFile.FieldType.int)) ∈ lw_all := lw_g (lw_at lw_m7 17 rfl) rfl
theorem q1603 : (Jvm.Cond.instanceMethod ({ cls := "PupilsPupil", name := "octet", desc := "(I)I" } : Jvm.MethodName)) ∈ lw_all := lw_g (lw_at lw_m7 19 rfl) rfl
theorem q1604 : (Jvm.Cond.selects "PupilsPupil" ({ cls := "PupilsPupil", name := "octet", desc := "(I)I" } : Jvm.MethodName) ({ cls := "PupilsPupil", name := "octet", desc := "(I)I" } : Jvm.MethodName)) ∈ lw_all := lw_g (lw_at lw_m7 20 rfl) rfl
theorem q1605 : (Jvm.Cond.code ({ cls := "PupilsPupil", name := "octet", desc := "(I)I" } : Jvm.MethodName) prog_1_method_57_code (2 : Nat) (Option.some Jvm.ClassFile.FieldType.int)) ∈ lw_all := lw_g (lw_at lw_m7 21 rfl) rfl
theorem q1607 : (Jvm.Cond.instanceMethod ({ cls := "PupilsPupil", name := "on", desc := "()Z" } : Jvm.MethodName)) ∈ lw_all := lw_g (lw_at lw_m7 23 rfl) rfl
theorem q1608 : (Jvm.Cond.selects "PupilsPupil" ({ cls := "PupilsPupil", name := "on", desc := "()Z" } : Jvm.MethodName) ({ cls := "PupilsPupil", name := "on", desc := "()Z" } : Jvm.MethodName)) ∈ lw_all := lw_g (lw_at lw_m7 24 rfl) rfl
theorem q1609 : (Jvm.Cond.code ({ cls := "PupilsPupil", name := "on", desc := "()Z" } : Jvm.MethodName) prog_1_method_59_code (4 : Nat) (Option.some Jvm.ClassFile.FieldType.boolean)) ∈ lw_all := lw_g (lw_at lw_m7 25 rfl) rfl
theorem q1610 : (Jvm.Cond.methodLink "PupilsPupil" (331 : Nat) ({ cls := "PupilsPupil", name := "personOn", desc := "(II)Z" } : Jvm.MethodName)) ∈ lw_all := lw_g (lw_at lw_m7 26 rfl) rfl
theorem q1611 : (Jvm.Cond.privateMethod ({ cls := "PupilsPupil", name := "personOn", desc := "(II)Z" } : Jvm.MethodName)) ∈ lw_tbl := lw_at lw_m7 27 rfl
theorem q1612 : (Jvm.Cond.instanceMethod ({ cls := "PupilsPupil", name := "personOn", desc := "(II)Z" } : Jvm.MethodName)) ∈ lw_all := lw_g (lw_at lw_m7 28 rfl) rfl
theorem q1613 : (Jvm.Cond.code ({ cls := "PupilsPupil", name := "personOn", desc := "(II)Z" } : Jvm.MethodName) prog_1_method_58_code (4 : Nat) (Option.some Jvm.ClassFile.FieldType.boolean)) ∈ lw_all := lw_g (lw_at lw_m7 29 rfl) rfl
theorem q1615 : (Jvm.Cond.instanceMethod ({ cls := "PupilsPupil", name := "status", desc := "(I)I" } : Jvm.MethodName)) ∈ lw_all := lw_g (lw_at lw_m7 31 rfl) rfl
theorem q1616 : (Jvm.Cond.selects "PupilsPupil" ({ cls := "PupilsPupil", name := "status", desc := "(I)I" } : Jvm.MethodName) ({ cls := "PupilsPupil", name := "status", desc := "(I)I" } : Jvm.MethodName)) ∈ lw_all := lw_g (lw_at lw_m7 32 rfl) rfl
theorem q1617 : (Jvm.Cond.code ({ cls := "PupilsPupil", name := "status", desc := "(I)I" } : Jvm.MethodName) prog_1_method_60_code (2 : Nat) (Option.some Jvm.ClassFile.FieldType.int)) ∈ lw_all := lw_g (lw_at lw_m7 33 rfl) rfl
theorem q2480 : (Jvm.Cond.castable "PupilsPupil" "java/lang/Object") ∈ lw_tbl := lw_at lw_m10 176 rfl
theorem q2514 : (Jvm.Cond.stringRef "PupilsPupil" (377 : Nat) "fact") ∈ lw_tbl := lw_at lw_m10 210 rfl
theorem q2515 : (Jvm.Cond.stringRef "PupilsPupil" (339 : Nat) "worth") ∈ lw_tbl := lw_at lw_m10 211 rfl
theorem q2516 : (Jvm.Cond.stringRef "PupilsPupil" (379 : Nat) "person") ∈ lw_tbl := lw_at lw_m10 212 rfl
theorem q2517 : (Jvm.Cond.stringRef "PupilsPupil" (334 : Nat) "calm") ∈ lw_tbl := lw_at lw_m10 213 rfl
theorem q2518 : (Jvm.Cond.stringRef "PupilsPupil" (349 : Nat) "knows") ∈ lw_tbl := lw_at lw_m10 214 rfl
theorem q2519 : (Jvm.Cond.stringRef "PupilsPupil" (351 : Nat) "errs") ∈ lw_tbl := lw_at lw_m10 215 rfl
theorem q2520 : (Jvm.Cond.stringRef "PupilsPupil" (381 : Nat) "taught") ∈ lw_tbl := lw_at lw_m10 216 rfl
theorem q2521 : (Jvm.Cond.stringRef "PupilsPupil" (357 : Nat) "by") ∈ lw_tbl := lw_at lw_m10 217 rfl
theorem q2522 : (Jvm.Cond.stringRef "PupilsPupil" (383 : Nat) "takes") ∈ lw_tbl := lw_at lw_m10 218 rfl
theorem q2523 : (Jvm.Cond.stringRef "PupilsPupil" (385 : Nat) "garble") ∈ lw_tbl := lw_at lw_m10 219 rfl
theorem q2524 : (Jvm.Cond.stringRef "PupilsPupil" (387 : Nat) "sits") ∈ lw_tbl := lw_at lw_m10 220 rfl
theorem q2525 : (Jvm.Cond.stringRef "PupilsPupil" (389 : Nat) "pass") ∈ lw_tbl := lw_at lw_m10 221 rfl
theorem q2526 : (Jvm.Cond.stringRef "PupilsPupil" (390 : Nat) "tries") ∈ lw_tbl := lw_at lw_m10 222 rfl
theorem q2527 : (Jvm.Cond.stringRef "PupilsPupil" (391 : Nat) "ill") ∈ lw_tbl := lw_at lw_m10 223 rfl
theorem q2528 : (Jvm.Cond.stringRef "PupilsPupil" (336 : Nat) "right") ∈ lw_tbl := lw_at lw_m10 224 rfl
theorem q2529 : (Jvm.Cond.stringRef "PupilsPupil" (337 : Nat) "wrong") ∈ lw_tbl := lw_at lw_m10 225 rfl
theorem q2530 : (Jvm.Cond.stringRef "PupilsPupil" (338 : Nat) "year") ∈ lw_tbl := lw_at lw_m10 226 rfl
theorem q2531 : (Jvm.Cond.stringRef "PupilsPupil" (341 : Nat) "class") ∈ lw_tbl := lw_at lw_m10 227 rfl
theorem q2532 : (Jvm.Cond.stringRef "PupilsPupil" (343 : Nat) "mcalm") ∈ lw_tbl := lw_at lw_m10 228 rfl
theorem q2533 : (Jvm.Cond.stringRef "PupilsPupil" (345 : Nat) "left") ∈ lw_tbl := lw_at lw_m10 229 rfl
theorem q2534 : (Jvm.Cond.stringRef "PupilsPupil" (346 : Nat) "marks") ∈ lw_tbl := lw_at lw_m10 230 rfl
theorem q2535 : (Jvm.Cond.stringRef "PupilsPupil" (347 : Nat) "number") ∈ lw_tbl := lw_at lw_m10 231 rfl
theorem q2536 : (Jvm.Cond.stringRef "PupilsPupil" (392 : Nat) "or") ∈ lw_tbl := lw_at lw_m10 232 rfl
theorem q2537 : (Jvm.Cond.stringRef "PupilsPupil" (394 : Nat) "and") ∈ lw_tbl := lw_at lw_m10 233 rfl
theorem q2538 : (Jvm.Cond.stringRef "PupilsPupil" (396 : Nat) "not") ∈ lw_tbl := lw_at lw_m10 234 rfl
theorem q2539 : (Jvm.Cond.stringRef "PupilsPupil" (398 : Nat) "all") ∈ lw_tbl := lw_at lw_m10 235 rfl
theorem q2540 : (Jvm.Cond.stringRef "PupilsPupil" (399 : Nat) "min") ∈ lw_tbl := lw_at lw_m10 236 rfl
theorem q2541 : (Jvm.Cond.stringRef "PupilsPupil" (400 : Nat) "max") ∈ lw_tbl := lw_at lw_m10 237 rfl
theorem q2543 : (Jvm.Cond.stringRef "PupilsPupil" (362 : Nat) "first") ∈ lw_tbl := lw_at lw_m10 239 rfl
theorem q2544 : (Jvm.Cond.stringRef "PupilsPupil" (364 : Nat) "last") ∈ lw_tbl := lw_at lw_m11 0 rfl
theorem q2545 : (Jvm.Cond.stringRef "PupilsPupil" (366 : Nat) "often") ∈ lw_tbl := lw_at lw_m11 1 rfl
theorem q2546 : (Jvm.Cond.stringRef "PupilsPupil" (368 : Nat) "total") ∈ lw_tbl := lw_at lw_m11 2 rfl
theorem q2547 : (Jvm.Cond.stringRef "PupilsPupil" (370 : Nat) "most") ∈ lw_tbl := lw_at lw_m11 3 rfl
theorem q2548 : (Jvm.Cond.stringRef "PupilsPupil" (372 : Nat) "least") ∈ lw_tbl := lw_at lw_m11 4 rfl
theorem in_X0 : ∀ w ∈ wsX00, w ∈ lw_all := lw_in wsX00 [469, 471, 473, 475, 477, 479, 481, 483, 485, 487, 489, 491, 493, 495, 497, 499, 501, 503, 505, 507, 509] (by decide +kernel) (by decide +kernel)

