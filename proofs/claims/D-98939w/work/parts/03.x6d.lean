set_option maxRecDepth 100000
abbrev cX6_makes : ByteArray := prog_22_method_43_code
def yX6_makes : MethodName := ⟨RX6, "makes", "(III)V"⟩
def dkwX6_makes_3 : List UInt8 := [96, 92, 46, 4, 28, 120, 128, 79, 177]
abbrev dktX6_makes_3 : List UInt8 := dkwX6_makes_3 ++ []
def dkwX6_makes_2 : List UInt8 := [180, 0, 139, 21, 4, 92, 46, 4, 28, 120, 128, 79, 29, 5, 160, 0, 18, 42, 180, 0, 139, 21, 4, 4]
abbrev dktX6_makes_2 : List UInt8 := dkwX6_makes_2 ++ dktX6_makes_3
def dkwX6_makes_1 : List UInt8 := [42, 180, 0, 139, 21, 4, 4, 96, 92, 46, 4, 28, 120, 2, 130, 126, 79, 29, 4, 160, 0, 16, 42]
abbrev dktX6_makes_1 : List UInt8 := dkwX6_makes_1 ++ dktX6_makes_2
def dkwX6_makes_0 : List UInt8 := [4, 8, 27, 104, 96, 4, 96, 54, 4, 42, 180, 0, 139, 21, 4, 92, 46, 4, 28, 120, 2, 130, 126, 79]
abbrev dktX6_makes_0 : List UInt8 := dkwX6_makes_0 ++ dktX6_makes_1
theorem dksX6_makes_0 : cX6_makes.data.toList.drop 0 = dktX6_makes_0 := by decide +kernel
theorem dksX6_makes_1 : cX6_makes.data.toList.drop 24 = dktX6_makes_1 := dk_seg dksX6_makes_0 24 rfl rfl
theorem dksX6_makes_2 : cX6_makes.data.toList.drop 47 = dktX6_makes_2 := dk_seg dksX6_makes_1 23 rfl rfl
theorem dksX6_makes_3 : cX6_makes.data.toList.drop 71 = dktX6_makes_3 := dk_seg dksX6_makes_2 24 rfl rfl
theorem dX6_makes_0 : decode cX6_makes 0 = .ok (.iconst 1, 1) := dk_4 (dk_at dksX6_makes_0 0 rfl rfl)
theorem dX6_makes_1 : decode cX6_makes 1 = .ok (.iconst 5, 1) := dk_8 (dk_at dksX6_makes_0 1 rfl rfl)
theorem dX6_makes_2 : decode cX6_makes 2 = .ok (.iload_n 1, 1) := dk_27 (dk_at dksX6_makes_0 2 rfl rfl)
theorem dX6_makes_3 : decode cX6_makes 3 = .ok (.imul, 1) := dk_104 (dk_at dksX6_makes_0 3 rfl rfl)
theorem dX6_makes_4 : decode cX6_makes 4 = .ok (.iadd, 1) := dk_96 (dk_at dksX6_makes_0 4 rfl rfl)
theorem dX6_makes_5 : decode cX6_makes 5 = .ok (.iconst 1, 1) := dk_4 (dk_at dksX6_makes_0 5 rfl rfl)
theorem dX6_makes_6 : decode cX6_makes 6 = .ok (.iadd, 1) := dk_96 (dk_at dksX6_makes_0 6 rfl rfl)
theorem dX6_makes_7 : decode cX6_makes 7 = .ok (.istore 4, 2) := dk_54 4 (dk_at dksX6_makes_0 7 rfl rfl)
theorem dX6_makes_9 : decode cX6_makes 9 = .ok (.aload_n 0, 1) := dk_42 (dk_at dksX6_makes_0 9 rfl rfl)
theorem dX6_makes_10 : decode cX6_makes 10 = .ok (.getfield 139, 3) := dk_180 0 139 (dk_at dksX6_makes_0 10 rfl rfl)
theorem dX6_makes_13 : decode cX6_makes 13 = .ok (.iload 4, 2) := dk_21 4 (dk_at dksX6_makes_0 13 rfl rfl)
theorem dX6_makes_15 : decode cX6_makes 15 = .ok (.dup2, 1) := dk_92 (dk_at dksX6_makes_0 15 rfl rfl)
theorem dX6_makes_16 : decode cX6_makes 16 = .ok (.iaload, 1) := dk_46 (dk_at dksX6_makes_0 16 rfl rfl)
theorem dX6_makes_17 : decode cX6_makes 17 = .ok (.iconst 1, 1) := dk_4 (dk_at dksX6_makes_0 17 rfl rfl)
theorem dX6_makes_18 : decode cX6_makes 18 = .ok (.iload_n 2, 1) := dk_28 (dk_at dksX6_makes_0 18 rfl rfl)
theorem dX6_makes_19 : decode cX6_makes 19 = .ok (.ishl, 1) := dk_120 (dk_at dksX6_makes_0 19 rfl rfl)
theorem dX6_makes_20 : decode cX6_makes 20 = .ok (.iconst (-1), 1) := dk_2 (dk_at dksX6_makes_0 20 rfl rfl)
theorem dX6_makes_21 : decode cX6_makes 21 = .ok (.ixor, 1) := dk_130 (dk_at dksX6_makes_0 21 rfl rfl)
theorem dX6_makes_22 : decode cX6_makes 22 = .ok (.iand, 1) := dk_126 (dk_at dksX6_makes_0 22 rfl rfl)
theorem dX6_makes_23 : decode cX6_makes 23 = .ok (.iastore, 1) := dk_79 (dk_at dksX6_makes_0 23 rfl rfl)
theorem dX6_makes_24 : decode cX6_makes 24 = .ok (.aload_n 0, 1) := dk_42 (dk_at dksX6_makes_1 0 rfl rfl)
theorem dX6_makes_25 : decode cX6_makes 25 = .ok (.getfield 139, 3) := dk_180 0 139 (dk_at dksX6_makes_1 1 rfl rfl)
theorem dX6_makes_28 : decode cX6_makes 28 = .ok (.iload 4, 2) := dk_21 4 (dk_at dksX6_makes_1 4 rfl rfl)
theorem dX6_makes_30 : decode cX6_makes 30 = .ok (.iconst 1, 1) := dk_4 (dk_at dksX6_makes_1 6 rfl rfl)
theorem dX6_makes_31 : decode cX6_makes 31 = .ok (.iadd, 1) := dk_96 (dk_at dksX6_makes_1 7 rfl rfl)
theorem dX6_makes_32 : decode cX6_makes 32 = .ok (.dup2, 1) := dk_92 (dk_at dksX6_makes_1 8 rfl rfl)
theorem dX6_makes_33 : decode cX6_makes 33 = .ok (.iaload, 1) := dk_46 (dk_at dksX6_makes_1 9 rfl rfl)
theorem dX6_makes_34 : decode cX6_makes 34 = .ok (.iconst 1, 1) := dk_4 (dk_at dksX6_makes_1 10 rfl rfl)
theorem dX6_makes_35 : decode cX6_makes 35 = .ok (.iload_n 2, 1) := dk_28 (dk_at dksX6_makes_1 11 rfl rfl)
theorem dX6_makes_36 : decode cX6_makes 36 = .ok (.ishl, 1) := dk_120 (dk_at dksX6_makes_1 12 rfl rfl)
theorem dX6_makes_37 : decode cX6_makes 37 = .ok (.iconst (-1), 1) := dk_2 (dk_at dksX6_makes_1 13 rfl rfl)
theorem dX6_makes_38 : decode cX6_makes 38 = .ok (.ixor, 1) := dk_130 (dk_at dksX6_makes_1 14 rfl rfl)
theorem dX6_makes_39 : decode cX6_makes 39 = .ok (.iand, 1) := dk_126 (dk_at dksX6_makes_1 15 rfl rfl)
theorem dX6_makes_40 : decode cX6_makes 40 = .ok (.iastore, 1) := dk_79 (dk_at dksX6_makes_1 16 rfl rfl)
theorem dX6_makes_41 : decode cX6_makes 41 = .ok (.iload_n 3, 1) := dk_29 (dk_at dksX6_makes_1 17 rfl rfl)
theorem dX6_makes_42 : decode cX6_makes 42 = .ok (.iconst 1, 1) := dk_4 (dk_at dksX6_makes_1 18 rfl rfl)
theorem dX6_makes_43 : decode cX6_makes 43 = .ok (.if_icmp .ne 16, 3) := dk_160 0 16 (dk_at dksX6_makes_1 19 rfl rfl)
theorem dX6_makes_46 : decode cX6_makes 46 = .ok (.aload_n 0, 1) := dk_42 (dk_at dksX6_makes_1 22 rfl rfl)
theorem dX6_makes_47 : decode cX6_makes 47 = .ok (.getfield 139, 3) := dk_180 0 139 (dk_at dksX6_makes_2 0 rfl rfl)
theorem dX6_makes_50 : decode cX6_makes 50 = .ok (.iload 4, 2) := dk_21 4 (dk_at dksX6_makes_2 3 rfl rfl)
theorem dX6_makes_52 : decode cX6_makes 52 = .ok (.dup2, 1) := dk_92 (dk_at dksX6_makes_2 5 rfl rfl)
theorem dX6_makes_53 : decode cX6_makes 53 = .ok (.iaload, 1) := dk_46 (dk_at dksX6_makes_2 6 rfl rfl)
theorem dX6_makes_54 : decode cX6_makes 54 = .ok (.iconst 1, 1) := dk_4 (dk_at dksX6_makes_2 7 rfl rfl)
theorem dX6_makes_55 : decode cX6_makes 55 = .ok (.iload_n 2, 1) := dk_28 (dk_at dksX6_makes_2 8 rfl rfl)
theorem dX6_makes_56 : decode cX6_makes 56 = .ok (.ishl, 1) := dk_120 (dk_at dksX6_makes_2 9 rfl rfl)
theorem dX6_makes_57 : decode cX6_makes 57 = .ok (.ior, 1) := dk_128 (dk_at dksX6_makes_2 10 rfl rfl)
theorem dX6_makes_58 : decode cX6_makes 58 = .ok (.iastore, 1) := dk_79 (dk_at dksX6_makes_2 11 rfl rfl)
theorem dX6_makes_59 : decode cX6_makes 59 = .ok (.iload_n 3, 1) := dk_29 (dk_at dksX6_makes_2 12 rfl rfl)
theorem dX6_makes_60 : decode cX6_makes 60 = .ok (.iconst 2, 1) := dk_5 (dk_at dksX6_makes_2 13 rfl rfl)
theorem dX6_makes_61 : decode cX6_makes 61 = .ok (.if_icmp .ne 18, 3) := dk_160 0 18 (dk_at dksX6_makes_2 14 rfl rfl)
theorem dX6_makes_64 : decode cX6_makes 64 = .ok (.aload_n 0, 1) := dk_42 (dk_at dksX6_makes_2 17 rfl rfl)
theorem dX6_makes_65 : decode cX6_makes 65 = .ok (.getfield 139, 3) := dk_180 0 139 (dk_at dksX6_makes_2 18 rfl rfl)
theorem dX6_makes_68 : decode cX6_makes 68 = .ok (.iload 4, 2) := dk_21 4 (dk_at dksX6_makes_2 21 rfl rfl)
theorem dX6_makes_70 : decode cX6_makes 70 = .ok (.iconst 1, 1) := dk_4 (dk_at dksX6_makes_2 23 rfl rfl)
theorem dX6_makes_71 : decode cX6_makes 71 = .ok (.iadd, 1) := dk_96 (dk_at dksX6_makes_3 0 rfl rfl)
theorem dX6_makes_72 : decode cX6_makes 72 = .ok (.dup2, 1) := dk_92 (dk_at dksX6_makes_3 1 rfl rfl)
theorem dX6_makes_73 : decode cX6_makes 73 = .ok (.iaload, 1) := dk_46 (dk_at dksX6_makes_3 2 rfl rfl)
theorem dX6_makes_74 : decode cX6_makes 74 = .ok (.iconst 1, 1) := dk_4 (dk_at dksX6_makes_3 3 rfl rfl)
theorem dX6_makes_75 : decode cX6_makes 75 = .ok (.iload_n 2, 1) := dk_28 (dk_at dksX6_makes_3 4 rfl rfl)
theorem dX6_makes_76 : decode cX6_makes 76 = .ok (.ishl, 1) := dk_120 (dk_at dksX6_makes_3 5 rfl rfl)
theorem dX6_makes_77 : decode cX6_makes 77 = .ok (.ior, 1) := dk_128 (dk_at dksX6_makes_3 6 rfl rfl)
theorem dX6_makes_78 : decode cX6_makes 78 = .ok (.iastore, 1) := dk_79 (dk_at dksX6_makes_3 7 rfl rfl)
theorem dX6_makes_79 : decode cX6_makes 79 = .ok (.return_, 1) := dk_177 (dk_at dksX6_makes_3 8 rfl rfl)
abbrev cX6_sitsFor : ByteArray := prog_22_method_53_code
def yX6_sitsFor : MethodName := ⟨RX6, "sitsFor", "(I)V"⟩
def dkwX6_sitsFor_3 : List UInt8 := [182, 1, 200, 42, 89, 180, 1, 203, 4, 96, 181, 1, 203, 42, 27, 4, 182, 1, 206, 177]
abbrev dktX6_sitsFor_3 : List UInt8 := dkwX6_sitsFor_3 ++ []
def dkwX6_sitsFor_2 : List UInt8 := [46, 162, 0, 20, 42, 180, 0, 139, 4, 8, 27, 104, 96, 6, 96, 92, 46, 4, 100, 79, 177, 42, 27, 4]
abbrev dktX6_sitsFor_2 : List UInt8 := dkwX6_sitsFor_2 ++ dktX6_sitsFor_3
def dkwX6_sitsFor_1 : List UInt8 := [159, 0, 14, 42, 5, 27, 3, 182, 1, 177, 154, 0, 4, 177, 42, 27, 182, 1, 197, 42, 180, 0, 127, 6]
abbrev dktX6_sitsFor_1 : List UInt8 := dkwX6_sitsFor_1 ++ dktX6_sitsFor_2
def dkwX6_sitsFor_0 : List UInt8 := [42, 27, 182, 1, 191, 154, 0, 31, 42, 27, 182, 1, 194, 153, 0, 23, 42, 180, 0, 130, 8, 46, 2]
abbrev dktX6_sitsFor_0 : List UInt8 := dkwX6_sitsFor_0 ++ dktX6_sitsFor_1
theorem dksX6_sitsFor_0 : cX6_sitsFor.data.toList.drop 0 = dktX6_sitsFor_0 := by decide +kernel
theorem dksX6_sitsFor_1 : cX6_sitsFor.data.toList.drop 23 = dktX6_sitsFor_1 := dk_seg dksX6_sitsFor_0 23 rfl rfl
theorem dksX6_sitsFor_2 : cX6_sitsFor.data.toList.drop 47 = dktX6_sitsFor_2 := dk_seg dksX6_sitsFor_1 24 rfl rfl
theorem dksX6_sitsFor_3 : cX6_sitsFor.data.toList.drop 71 = dktX6_sitsFor_3 := dk_seg dksX6_sitsFor_2 24 rfl rfl
theorem dX6_sitsFor_0 : decode cX6_sitsFor 0 = .ok (.aload_n 0, 1) := dk_42 (dk_at dksX6_sitsFor_0 0 rfl rfl)
theorem dX6_sitsFor_1 : decode cX6_sitsFor 1 = .ok (.iload_n 1, 1) := dk_27 (dk_at dksX6_sitsFor_0 1 rfl rfl)
theorem dX6_sitsFor_2 : decode cX6_sitsFor 2 = .ok (.invokevirtual 447, 3) := dk_182 1 191 (dk_at dksX6_sitsFor_0 2 rfl rfl)
theorem dX6_sitsFor_5 : decode cX6_sitsFor 5 = .ok (.ifCond .ne 31, 3) := dk_154 0 31 (dk_at dksX6_sitsFor_0 5 rfl rfl)
theorem dX6_sitsFor_8 : decode cX6_sitsFor 8 = .ok (.aload_n 0, 1) := dk_42 (dk_at dksX6_sitsFor_0 8 rfl rfl)
theorem dX6_sitsFor_9 : decode cX6_sitsFor 9 = .ok (.iload_n 1, 1) := dk_27 (dk_at dksX6_sitsFor_0 9 rfl rfl)
theorem dX6_sitsFor_10 : decode cX6_sitsFor 10 = .ok (.invokevirtual 450, 3) := dk_182 1 194 (dk_at dksX6_sitsFor_0 10 rfl rfl)
theorem dX6_sitsFor_13 : decode cX6_sitsFor 13 = .ok (.ifCond .eq 23, 3) := dk_153 0 23 (dk_at dksX6_sitsFor_0 13 rfl rfl)
theorem dX6_sitsFor_16 : decode cX6_sitsFor 16 = .ok (.aload_n 0, 1) := dk_42 (dk_at dksX6_sitsFor_0 16 rfl rfl)
theorem dX6_sitsFor_17 : decode cX6_sitsFor 17 = .ok (.getfield 130, 3) := dk_180 0 130 (dk_at dksX6_sitsFor_0 17 rfl rfl)
theorem dX6_sitsFor_20 : decode cX6_sitsFor 20 = .ok (.iconst 5, 1) := dk_8 (dk_at dksX6_sitsFor_0 20 rfl rfl)
theorem dX6_sitsFor_21 : decode cX6_sitsFor 21 = .ok (.iaload, 1) := dk_46 (dk_at dksX6_sitsFor_0 21 rfl rfl)
theorem dX6_sitsFor_22 : decode cX6_sitsFor 22 = .ok (.iconst (-1), 1) := dk_2 (dk_at dksX6_sitsFor_0 22 rfl rfl)
theorem dX6_sitsFor_23 : decode cX6_sitsFor 23 = .ok (.if_icmp .eq 14, 3) := dk_159 0 14 (dk_at dksX6_sitsFor_1 0 rfl rfl)
theorem dX6_sitsFor_26 : decode cX6_sitsFor 26 = .ok (.aload_n 0, 1) := dk_42 (dk_at dksX6_sitsFor_1 3 rfl rfl)
theorem dX6_sitsFor_27 : decode cX6_sitsFor 27 = .ok (.iconst 2, 1) := dk_5 (dk_at dksX6_sitsFor_1 4 rfl rfl)
theorem dX6_sitsFor_28 : decode cX6_sitsFor 28 = .ok (.iload_n 1, 1) := dk_27 (dk_at dksX6_sitsFor_1 5 rfl rfl)
theorem dX6_sitsFor_29 : decode cX6_sitsFor 29 = .ok (.iconst 0, 1) := dk_3 (dk_at dksX6_sitsFor_1 6 rfl rfl)
theorem dX6_sitsFor_30 : decode cX6_sitsFor 30 = .ok (.invokevirtual 433, 3) := dk_182 1 177 (dk_at dksX6_sitsFor_1 7 rfl rfl)
theorem dX6_sitsFor_33 : decode cX6_sitsFor 33 = .ok (.ifCond .ne 4, 3) := dk_154 0 4 (dk_at dksX6_sitsFor_1 10 rfl rfl)
theorem dX6_sitsFor_36 : decode cX6_sitsFor 36 = .ok (.return_, 1) := dk_177 (dk_at dksX6_sitsFor_1 13 rfl rfl)
theorem dX6_sitsFor_37 : decode cX6_sitsFor 37 = .ok (.aload_n 0, 1) := dk_42 (dk_at dksX6_sitsFor_1 14 rfl rfl)
theorem dX6_sitsFor_38 : decode cX6_sitsFor 38 = .ok (.iload_n 1, 1) := dk_27 (dk_at dksX6_sitsFor_1 15 rfl rfl)
theorem dX6_sitsFor_39 : decode cX6_sitsFor 39 = .ok (.invokevirtual 453, 3) := dk_182 1 197 (dk_at dksX6_sitsFor_1 16 rfl rfl)
theorem dX6_sitsFor_42 : decode cX6_sitsFor 42 = .ok (.aload_n 0, 1) := dk_42 (dk_at dksX6_sitsFor_1 19 rfl rfl)
theorem dX6_sitsFor_43 : decode cX6_sitsFor 43 = .ok (.getfield 127, 3) := dk_180 0 127 (dk_at dksX6_sitsFor_1 20 rfl rfl)
theorem dX6_sitsFor_46 : decode cX6_sitsFor 46 = .ok (.iconst 3, 1) := dk_6 (dk_at dksX6_sitsFor_1 23 rfl rfl)
theorem dX6_sitsFor_47 : decode cX6_sitsFor 47 = .ok (.iaload, 1) := dk_46 (dk_at dksX6_sitsFor_2 0 rfl rfl)
theorem dX6_sitsFor_48 : decode cX6_sitsFor 48 = .ok (.if_icmp .ge 20, 3) := dk_162 0 20 (dk_at dksX6_sitsFor_2 1 rfl rfl)
theorem dX6_sitsFor_51 : decode cX6_sitsFor 51 = .ok (.aload_n 0, 1) := dk_42 (dk_at dksX6_sitsFor_2 4 rfl rfl)
theorem dX6_sitsFor_52 : decode cX6_sitsFor 52 = .ok (.getfield 139, 3) := dk_180 0 139 (dk_at dksX6_sitsFor_2 5 rfl rfl)
theorem dX6_sitsFor_55 : decode cX6_sitsFor 55 = .ok (.iconst 1, 1) := dk_4 (dk_at dksX6_sitsFor_2 8 rfl rfl)
theorem dX6_sitsFor_56 : decode cX6_sitsFor 56 = .ok (.iconst 5, 1) := dk_8 (dk_at dksX6_sitsFor_2 9 rfl rfl)
theorem dX6_sitsFor_57 : decode cX6_sitsFor 57 = .ok (.iload_n 1, 1) := dk_27 (dk_at dksX6_sitsFor_2 10 rfl rfl)
theorem dX6_sitsFor_58 : decode cX6_sitsFor 58 = .ok (.imul, 1) := dk_104 (dk_at dksX6_sitsFor_2 11 rfl rfl)
theorem dX6_sitsFor_59 : decode cX6_sitsFor 59 = .ok (.iadd, 1) := dk_96 (dk_at dksX6_sitsFor_2 12 rfl rfl)
theorem dX6_sitsFor_60 : decode cX6_sitsFor 60 = .ok (.iconst 3, 1) := dk_6 (dk_at dksX6_sitsFor_2 13 rfl rfl)
theorem dX6_sitsFor_61 : decode cX6_sitsFor 61 = .ok (.iadd, 1) := dk_96 (dk_at dksX6_sitsFor_2 14 rfl rfl)
theorem dX6_sitsFor_62 : decode cX6_sitsFor 62 = .ok (.dup2, 1) := dk_92 (dk_at dksX6_sitsFor_2 15 rfl rfl)
theorem dX6_sitsFor_63 : decode cX6_sitsFor 63 = .ok (.iaload, 1) := dk_46 (dk_at dksX6_sitsFor_2 16 rfl rfl)
theorem dX6_sitsFor_64 : decode cX6_sitsFor 64 = .ok (.iconst 1, 1) := dk_4 (dk_at dksX6_sitsFor_2 17 rfl rfl)
theorem dX6_sitsFor_65 : decode cX6_sitsFor 65 = .ok (.isub, 1) := dk_100 (dk_at dksX6_sitsFor_2 18 rfl rfl)
theorem dX6_sitsFor_66 : decode cX6_sitsFor 66 = .ok (.iastore, 1) := dk_79 (dk_at dksX6_sitsFor_2 19 rfl rfl)
theorem dX6_sitsFor_67 : decode cX6_sitsFor 67 = .ok (.return_, 1) := dk_177 (dk_at dksX6_sitsFor_2 20 rfl rfl)
theorem dX6_sitsFor_68 : decode cX6_sitsFor 68 = .ok (.aload_n 0, 1) := dk_42 (dk_at dksX6_sitsFor_2 21 rfl rfl)
theorem dX6_sitsFor_69 : decode cX6_sitsFor 69 = .ok (.iload_n 1, 1) := dk_27 (dk_at dksX6_sitsFor_2 22 rfl rfl)
theorem dX6_sitsFor_70 : decode cX6_sitsFor 70 = .ok (.iconst 1, 1) := dk_4 (dk_at dksX6_sitsFor_2 23 rfl rfl)
theorem dX6_sitsFor_71 : decode cX6_sitsFor 71 = .ok (.invokevirtual 456, 3) := dk_182 1 200 (dk_at dksX6_sitsFor_3 0 rfl rfl)
theorem dX6_sitsFor_74 : decode cX6_sitsFor 74 = .ok (.aload_n 0, 1) := dk_42 (dk_at dksX6_sitsFor_3 3 rfl rfl)
theorem dX6_sitsFor_75 : decode cX6_sitsFor 75 = .ok (.dup, 1) := dk_89 (dk_at dksX6_sitsFor_3 4 rfl rfl)
theorem dX6_sitsFor_76 : decode cX6_sitsFor 76 = .ok (.getfield 459, 3) := dk_180 1 203 (dk_at dksX6_sitsFor_3 5 rfl rfl)
theorem dX6_sitsFor_79 : decode cX6_sitsFor 79 = .ok (.iconst 1, 1) := dk_4 (dk_at dksX6_sitsFor_3 8 rfl rfl)
theorem dX6_sitsFor_80 : decode cX6_sitsFor 80 = .ok (.iadd, 1) := dk_96 (dk_at dksX6_sitsFor_3 9 rfl rfl)
theorem dX6_sitsFor_81 : decode cX6_sitsFor 81 = .ok (.putfield 459, 3) := dk_181 1 203 (dk_at dksX6_sitsFor_3 10 rfl rfl)
theorem dX6_sitsFor_84 : decode cX6_sitsFor 84 = .ok (.aload_n 0, 1) := dk_42 (dk_at dksX6_sitsFor_3 13 rfl rfl)
theorem dX6_sitsFor_85 : decode cX6_sitsFor 85 = .ok (.iload_n 1, 1) := dk_27 (dk_at dksX6_sitsFor_3 14 rfl rfl)
theorem dX6_sitsFor_86 : decode cX6_sitsFor 86 = .ok (.iconst 1, 1) := dk_4 (dk_at dksX6_sitsFor_3 15 rfl rfl)
theorem dX6_sitsFor_87 : decode cX6_sitsFor 87 = .ok (.invokevirtual 462, 3) := dk_182 1 206 (dk_at dksX6_sitsFor_3 16 rfl rfl)
theorem dX6_sitsFor_90 : decode cX6_sitsFor 90 = .ok (.return_, 1) := dk_177 (dk_at dksX6_sitsFor_3 19 rfl rfl)
abbrev cX6_becomes : ByteArray := prog_22_method_41_code
def yX6_becomes : MethodName := ⟨RX6, "becomes", "(II)V"⟩
def dkwX6_becomes_0 : List UInt8 := [42, 180, 0, 139, 4, 8, 27, 104, 96, 7, 96, 92, 46, 28, 128, 79, 177]
abbrev dktX6_becomes_0 : List UInt8 := dkwX6_becomes_0 ++ []
theorem dksX6_becomes_0 : cX6_becomes.data.toList.drop 0 = dktX6_becomes_0 := by decide +kernel
theorem dX6_becomes_0 : decode cX6_becomes 0 = .ok (.aload_n 0, 1) := dk_42 (dk_at dksX6_becomes_0 0 rfl rfl)
theorem dX6_becomes_1 : decode cX6_becomes 1 = .ok (.getfield 139, 3) := dk_180 0 139 (dk_at dksX6_becomes_0 1 rfl rfl)
theorem dX6_becomes_4 : decode cX6_becomes 4 = .ok (.iconst 1, 1) := dk_4 (dk_at dksX6_becomes_0 4 rfl rfl)
theorem dX6_becomes_5 : decode cX6_becomes 5 = .ok (.iconst 5, 1) := dk_8 (dk_at dksX6_becomes_0 5 rfl rfl)
theorem dX6_becomes_6 : decode cX6_becomes 6 = .ok (.iload_n 1, 1) := dk_27 (dk_at dksX6_becomes_0 6 rfl rfl)
theorem dX6_becomes_7 : decode cX6_becomes 7 = .ok (.imul, 1) := dk_104 (dk_at dksX6_becomes_0 7 rfl rfl)
theorem dX6_becomes_8 : decode cX6_becomes 8 = .ok (.iadd, 1) := dk_96 (dk_at dksX6_becomes_0 8 rfl rfl)
theorem dX6_becomes_9 : decode cX6_becomes 9 = .ok (.iconst 4, 1) := dk_7 (dk_at dksX6_becomes_0 9 rfl rfl)
theorem dX6_becomes_10 : decode cX6_becomes 10 = .ok (.iadd, 1) := dk_96 (dk_at dksX6_becomes_0 10 rfl rfl)
theorem dX6_becomes_11 : decode cX6_becomes 11 = .ok (.dup2, 1) := dk_92 (dk_at dksX6_becomes_0 11 rfl rfl)
theorem dX6_becomes_12 : decode cX6_becomes 12 = .ok (.iaload, 1) := dk_46 (dk_at dksX6_becomes_0 12 rfl rfl)
theorem dX6_becomes_13 : decode cX6_becomes 13 = .ok (.iload_n 2, 1) := dk_28 (dk_at dksX6_becomes_0 13 rfl rfl)
theorem dX6_becomes_14 : decode cX6_becomes 14 = .ok (.ior, 1) := dk_128 (dk_at dksX6_becomes_0 14 rfl rfl)
theorem dX6_becomes_15 : decode cX6_becomes 15 = .ok (.iastore, 1) := dk_79 (dk_at dksX6_becomes_0 15 rfl rfl)
theorem dX6_becomes_16 : decode cX6_becomes 16 = .ok (.return_, 1) := dk_177 (dk_at dksX6_becomes_0 16 rfl rfl)
abbrev cX6_isKept : ByteArray := prog_22_method_52_code
def yX6_isKept : MethodName := ⟨RX6, "isKept", "(II)V"⟩
def dkwX6_isKept_4 : List UInt8 := [29, 4, 96, 27, 79, 42, 180, 0, 139, 29, 5, 96, 28, 79, 177]
abbrev dktX6_isKept_4 : List UInt8 := dkwX6_isKept_4 ++ []
def dkwX6_isKept_3 : List UInt8 := [16, 41, 46, 104, 96, 6, 100, 62, 42, 180, 0, 139, 29, 42, 180, 0, 139, 3, 46, 79, 42, 180, 0, 139]
abbrev dktX6_isKept_3 : List UInt8 := dkwX6_isKept_3 ++ dktX6_isKept_4
def dkwX6_isKept_2 : List UInt8 := [167, 255, 232, 167, 0, 14, 42, 180, 0, 139, 16, 41, 92, 46, 4, 96, 79, 16, 42, 6, 42, 180, 0, 139]
abbrev dktX6_isKept_2 : List UInt8 := dkwX6_isKept_2 ++ dktX6_isKept_3
def dkwX6_isKept_1 : List UInt8 := [17, 0, 129, 162, 0, 23, 42, 180, 0, 139, 29, 42, 180, 0, 139, 29, 6, 96, 46, 79, 132, 3, 1]
abbrev dktX6_isKept_1 : List UInt8 := dkwX6_isKept_1 ++ dktX6_isKept_2
def dkwX6_isKept_0 : List UInt8 := [42, 180, 1, 187, 153, 0, 4, 177, 42, 180, 0, 139, 16, 41, 46, 16, 30, 160, 0, 36, 16, 42, 62, 29]
abbrev dktX6_isKept_0 : List UInt8 := dkwX6_isKept_0 ++ dktX6_isKept_1
theorem dksX6_isKept_0 : cX6_isKept.data.toList.drop 0 = dktX6_isKept_0 := by decide +kernel
theorem dksX6_isKept_1 : cX6_isKept.data.toList.drop 24 = dktX6_isKept_1 := dk_seg dksX6_isKept_0 24 rfl rfl
theorem dksX6_isKept_2 : cX6_isKept.data.toList.drop 47 = dktX6_isKept_2 := dk_seg dksX6_isKept_1 23 rfl rfl
theorem dksX6_isKept_3 : cX6_isKept.data.toList.drop 71 = dktX6_isKept_3 := dk_seg dksX6_isKept_2 24 rfl rfl
theorem dksX6_isKept_4 : cX6_isKept.data.toList.drop 95 = dktX6_isKept_4 := dk_seg dksX6_isKept_3 24 rfl rfl
theorem dX6_isKept_0 : decode cX6_isKept 0 = .ok (.aload_n 0, 1) := dk_42 (dk_at dksX6_isKept_0 0 rfl rfl)
theorem dX6_isKept_1 : decode cX6_isKept 1 = .ok (.getfield 443, 3) := dk_180 1 187 (dk_at dksX6_isKept_0 1 rfl rfl)
theorem dX6_isKept_4 : decode cX6_isKept 4 = .ok (.ifCond .eq 4, 3) := dk_153 0 4 (dk_at dksX6_isKept_0 4 rfl rfl)
theorem dX6_isKept_7 : decode cX6_isKept 7 = .ok (.return_, 1) := dk_177 (dk_at dksX6_isKept_0 7 rfl rfl)
theorem dX6_isKept_8 : decode cX6_isKept 8 = .ok (.aload_n 0, 1) := dk_42 (dk_at dksX6_isKept_0 8 rfl rfl)
theorem dX6_isKept_9 : decode cX6_isKept 9 = .ok (.getfield 139, 3) := dk_180 0 139 (dk_at dksX6_isKept_0 9 rfl rfl)
theorem dX6_isKept_12 : decode cX6_isKept 12 = .ok (.bipush 41, 2) := dk_16 41 (dk_at dksX6_isKept_0 12 rfl rfl)
theorem dX6_isKept_14 : decode cX6_isKept 14 = .ok (.iaload, 1) := dk_46 (dk_at dksX6_isKept_0 14 rfl rfl)
theorem dX6_isKept_15 : decode cX6_isKept 15 = .ok (.bipush 30, 2) := dk_16 30 (dk_at dksX6_isKept_0 15 rfl rfl)
theorem dX6_isKept_17 : decode cX6_isKept 17 = .ok (.if_icmp .ne 36, 3) := dk_160 0 36 (dk_at dksX6_isKept_0 17 rfl rfl)
theorem dX6_isKept_20 : decode cX6_isKept 20 = .ok (.bipush 42, 2) := dk_16 42 (dk_at dksX6_isKept_0 20 rfl rfl)
theorem dX6_isKept_22 : decode cX6_isKept 22 = .ok (.istore_n 3, 1) := dk_62 (dk_at dksX6_isKept_0 22 rfl rfl)
theorem dX6_isKept_23 : decode cX6_isKept 23 = .ok (.iload_n 3, 1) := dk_29 (dk_at dksX6_isKept_0 23 rfl rfl)
theorem dX6_isKept_24 : decode cX6_isKept 24 = .ok (.sipush 129, 3) := dk_17 0 129 (dk_at dksX6_isKept_1 0 rfl rfl)
theorem dX6_isKept_27 : decode cX6_isKept 27 = .ok (.if_icmp .ge 23, 3) := dk_162 0 23 (dk_at dksX6_isKept_1 3 rfl rfl)
theorem dX6_isKept_30 : decode cX6_isKept 30 = .ok (.aload_n 0, 1) := dk_42 (dk_at dksX6_isKept_1 6 rfl rfl)
theorem dX6_isKept_31 : decode cX6_isKept 31 = .ok (.getfield 139, 3) := dk_180 0 139 (dk_at dksX6_isKept_1 7 rfl rfl)
theorem dX6_isKept_34 : decode cX6_isKept 34 = .ok (.iload_n 3, 1) := dk_29 (dk_at dksX6_isKept_1 10 rfl rfl)
theorem dX6_isKept_35 : decode cX6_isKept 35 = .ok (.aload_n 0, 1) := dk_42 (dk_at dksX6_isKept_1 11 rfl rfl)
theorem dX6_isKept_36 : decode cX6_isKept 36 = .ok (.getfield 139, 3) := dk_180 0 139 (dk_at dksX6_isKept_1 12 rfl rfl)
theorem dX6_isKept_39 : decode cX6_isKept 39 = .ok (.iload_n 3, 1) := dk_29 (dk_at dksX6_isKept_1 15 rfl rfl)
theorem dX6_isKept_40 : decode cX6_isKept 40 = .ok (.iconst 3, 1) := dk_6 (dk_at dksX6_isKept_1 16 rfl rfl)
theorem dX6_isKept_41 : decode cX6_isKept 41 = .ok (.iadd, 1) := dk_96 (dk_at dksX6_isKept_1 17 rfl rfl)
theorem dX6_isKept_42 : decode cX6_isKept 42 = .ok (.iaload, 1) := dk_46 (dk_at dksX6_isKept_1 18 rfl rfl)
theorem dX6_isKept_43 : decode cX6_isKept 43 = .ok (.iastore, 1) := dk_79 (dk_at dksX6_isKept_1 19 rfl rfl)
theorem dX6_isKept_44 : decode cX6_isKept 44 = .ok (.iinc 3 1, 3) := dk_132 3 1 (dk_at dksX6_isKept_1 20 rfl rfl)
theorem dX6_isKept_47 : decode cX6_isKept 47 = .ok (.goto (-24), 3) := dk_167 255 232 (dk_at dksX6_isKept_2 0 rfl rfl)
theorem dX6_isKept_50 : decode cX6_isKept 50 = .ok (.goto 14, 3) := dk_167 0 14 (dk_at dksX6_isKept_2 3 rfl rfl)
theorem dX6_isKept_53 : decode cX6_isKept 53 = .ok (.aload_n 0, 1) := dk_42 (dk_at dksX6_isKept_2 6 rfl rfl)
theorem dX6_isKept_54 : decode cX6_isKept 54 = .ok (.getfield 139, 3) := dk_180 0 139 (dk_at dksX6_isKept_2 7 rfl rfl)
theorem dX6_isKept_57 : decode cX6_isKept 57 = .ok (.bipush 41, 2) := dk_16 41 (dk_at dksX6_isKept_2 10 rfl rfl)
theorem dX6_isKept_59 : decode cX6_isKept 59 = .ok (.dup2, 1) := dk_92 (dk_at dksX6_isKept_2 12 rfl rfl)
theorem dX6_isKept_60 : decode cX6_isKept 60 = .ok (.iaload, 1) := dk_46 (dk_at dksX6_isKept_2 13 rfl rfl)
theorem dX6_isKept_61 : decode cX6_isKept 61 = .ok (.iconst 1, 1) := dk_4 (dk_at dksX6_isKept_2 14 rfl rfl)
theorem dX6_isKept_62 : decode cX6_isKept 62 = .ok (.iadd, 1) := dk_96 (dk_at dksX6_isKept_2 15 rfl rfl)
theorem dX6_isKept_63 : decode cX6_isKept 63 = .ok (.iastore, 1) := dk_79 (dk_at dksX6_isKept_2 16 rfl rfl)
theorem dX6_isKept_64 : decode cX6_isKept 64 = .ok (.bipush 42, 2) := dk_16 42 (dk_at dksX6_isKept_2 17 rfl rfl)
theorem dX6_isKept_66 : decode cX6_isKept 66 = .ok (.iconst 3, 1) := dk_6 (dk_at dksX6_isKept_2 19 rfl rfl)
theorem dX6_isKept_67 : decode cX6_isKept 67 = .ok (.aload_n 0, 1) := dk_42 (dk_at dksX6_isKept_2 20 rfl rfl)
theorem dX6_isKept_68 : decode cX6_isKept 68 = .ok (.getfield 139, 3) := dk_180 0 139 (dk_at dksX6_isKept_2 21 rfl rfl)
theorem dX6_isKept_71 : decode cX6_isKept 71 = .ok (.bipush 41, 2) := dk_16 41 (dk_at dksX6_isKept_3 0 rfl rfl)
theorem dX6_isKept_73 : decode cX6_isKept 73 = .ok (.iaload, 1) := dk_46 (dk_at dksX6_isKept_3 2 rfl rfl)
theorem dX6_isKept_74 : decode cX6_isKept 74 = .ok (.imul, 1) := dk_104 (dk_at dksX6_isKept_3 3 rfl rfl)
theorem dX6_isKept_75 : decode cX6_isKept 75 = .ok (.iadd, 1) := dk_96 (dk_at dksX6_isKept_3 4 rfl rfl)
theorem dX6_isKept_76 : decode cX6_isKept 76 = .ok (.iconst 3, 1) := dk_6 (dk_at dksX6_isKept_3 5 rfl rfl)
theorem dX6_isKept_77 : decode cX6_isKept 77 = .ok (.isub, 1) := dk_100 (dk_at dksX6_isKept_3 6 rfl rfl)
theorem dX6_isKept_78 : decode cX6_isKept 78 = .ok (.istore_n 3, 1) := dk_62 (dk_at dksX6_isKept_3 7 rfl rfl)
theorem dX6_isKept_79 : decode cX6_isKept 79 = .ok (.aload_n 0, 1) := dk_42 (dk_at dksX6_isKept_3 8 rfl rfl)
theorem dX6_isKept_80 : decode cX6_isKept 80 = .ok (.getfield 139, 3) := dk_180 0 139 (dk_at dksX6_isKept_3 9 rfl rfl)
theorem dX6_isKept_83 : decode cX6_isKept 83 = .ok (.iload_n 3, 1) := dk_29 (dk_at dksX6_isKept_3 12 rfl rfl)
theorem dX6_isKept_84 : decode cX6_isKept 84 = .ok (.aload_n 0, 1) := dk_42 (dk_at dksX6_isKept_3 13 rfl rfl)
theorem dX6_isKept_85 : decode cX6_isKept 85 = .ok (.getfield 139, 3) := dk_180 0 139 (dk_at dksX6_isKept_3 14 rfl rfl)
theorem dX6_isKept_88 : decode cX6_isKept 88 = .ok (.iconst 0, 1) := dk_3 (dk_at dksX6_isKept_3 17 rfl rfl)
theorem dX6_isKept_89 : decode cX6_isKept 89 = .ok (.iaload, 1) := dk_46 (dk_at dksX6_isKept_3 18 rfl rfl)
theorem dX6_isKept_90 : decode cX6_isKept 90 = .ok (.iastore, 1) := dk_79 (dk_at dksX6_isKept_3 19 rfl rfl)
theorem dX6_isKept_91 : decode cX6_isKept 91 = .ok (.aload_n 0, 1) := dk_42 (dk_at dksX6_isKept_3 20 rfl rfl)
theorem dX6_isKept_92 : decode cX6_isKept 92 = .ok (.getfield 139, 3) := dk_180 0 139 (dk_at dksX6_isKept_3 21 rfl rfl)
theorem dX6_isKept_95 : decode cX6_isKept 95 = .ok (.iload_n 3, 1) := dk_29 (dk_at dksX6_isKept_4 0 rfl rfl)
theorem dX6_isKept_96 : decode cX6_isKept 96 = .ok (.iconst 1, 1) := dk_4 (dk_at dksX6_isKept_4 1 rfl rfl)
theorem dX6_isKept_97 : decode cX6_isKept 97 = .ok (.iadd, 1) := dk_96 (dk_at dksX6_isKept_4 2 rfl rfl)
theorem dX6_isKept_98 : decode cX6_isKept 98 = .ok (.iload_n 1, 1) := dk_27 (dk_at dksX6_isKept_4 3 rfl rfl)
theorem dX6_isKept_99 : decode cX6_isKept 99 = .ok (.iastore, 1) := dk_79 (dk_at dksX6_isKept_4 4 rfl rfl)
theorem dX6_isKept_100 : decode cX6_isKept 100 = .ok (.aload_n 0, 1) := dk_42 (dk_at dksX6_isKept_4 5 rfl rfl)
theorem dX6_isKept_101 : decode cX6_isKept 101 = .ok (.getfield 139, 3) := dk_180 0 139 (dk_at dksX6_isKept_4 6 rfl rfl)
theorem dX6_isKept_104 : decode cX6_isKept 104 = .ok (.iload_n 3, 1) := dk_29 (dk_at dksX6_isKept_4 9 rfl rfl)
theorem dX6_isKept_105 : decode cX6_isKept 105 = .ok (.iconst 2, 1) := dk_5 (dk_at dksX6_isKept_4 10 rfl rfl)
theorem dX6_isKept_106 : decode cX6_isKept 106 = .ok (.iadd, 1) := dk_96 (dk_at dksX6_isKept_4 11 rfl rfl)
theorem dX6_isKept_107 : decode cX6_isKept 107 = .ok (.iload_n 2, 1) := dk_28 (dk_at dksX6_isKept_4 12 rfl rfl)
theorem dX6_isKept_108 : decode cX6_isKept 108 = .ok (.iastore, 1) := dk_79 (dk_at dksX6_isKept_4 13 rfl rfl)
theorem dX6_isKept_109 : decode cX6_isKept 109 = .ok (.return_, 1) := dk_177 (dk_at dksX6_isKept_4 14 rfl rfl)
abbrev cX6_isMastersMaster : ByteArray := prog_22_method_54_code
def yX6_isMastersMaster : MethodName := ⟨RX6, "isMastersMaster", "(I)Z"⟩
def dkwX6_isMastersMaster_2 : List UInt8 := [3, 172]
abbrev dktX6_isMastersMaster_2 : List UInt8 := dkwX6_isMastersMaster_2 ++ []
def dkwX6_isMastersMaster_1 : List UInt8 := [159, 0, 18, 42, 42, 28, 182, 1, 154, 182, 1, 154, 27, 160, 0, 5, 4, 172, 132, 2, 1, 167, 255, 213]
abbrev dktX6_isMastersMaster_1 : List UInt8 := dkwX6_isMastersMaster_1 ++ dktX6_isMastersMaster_2
def dkwX6_isMastersMaster_0 : List UInt8 := [3, 61, 28, 42, 182, 1, 145, 162, 0, 41, 42, 28, 182, 1, 191, 153, 0, 27, 42, 28, 182, 1, 154, 2]
abbrev dktX6_isMastersMaster_0 : List UInt8 := dkwX6_isMastersMaster_0 ++ dktX6_isMastersMaster_1
theorem dksX6_isMastersMaster_0 : cX6_isMastersMaster.data.toList.drop 0 = dktX6_isMastersMaster_0 := by decide +kernel
theorem dksX6_isMastersMaster_1 : cX6_isMastersMaster.data.toList.drop 24 = dktX6_isMastersMaster_1 := dk_seg dksX6_isMastersMaster_0 24 rfl rfl
theorem dksX6_isMastersMaster_2 : cX6_isMastersMaster.data.toList.drop 48 = dktX6_isMastersMaster_2 := dk_seg dksX6_isMastersMaster_1 24 rfl rfl
theorem dX6_isMastersMaster_0 : decode cX6_isMastersMaster 0 = .ok (.iconst 0, 1) := dk_3 (dk_at dksX6_isMastersMaster_0 0 rfl rfl)
theorem dX6_isMastersMaster_1 : decode cX6_isMastersMaster 1 = .ok (.istore_n 2, 1) := dk_61 (dk_at dksX6_isMastersMaster_0 1 rfl rfl)
theorem dX6_isMastersMaster_2 : decode cX6_isMastersMaster 2 = .ok (.iload_n 2, 1) := dk_28 (dk_at dksX6_isMastersMaster_0 2 rfl rfl)
theorem dX6_isMastersMaster_3 : decode cX6_isMastersMaster 3 = .ok (.aload_n 0, 1) := dk_42 (dk_at dksX6_isMastersMaster_0 3 rfl rfl)
theorem dX6_isMastersMaster_4 : decode cX6_isMastersMaster 4 = .ok (.invokevirtual 401, 3) := dk_182 1 145 (dk_at dksX6_isMastersMaster_0 4 rfl rfl)
theorem dX6_isMastersMaster_7 : decode cX6_isMastersMaster 7 = .ok (.if_icmp .ge 41, 3) := dk_162 0 41 (dk_at dksX6_isMastersMaster_0 7 rfl rfl)
theorem dX6_isMastersMaster_10 : decode cX6_isMastersMaster 10 = .ok (.aload_n 0, 1) := dk_42 (dk_at dksX6_isMastersMaster_0 10 rfl rfl)
theorem dX6_isMastersMaster_11 : decode cX6_isMastersMaster 11 = .ok (.iload_n 2, 1) := dk_28 (dk_at dksX6_isMastersMaster_0 11 rfl rfl)
theorem dX6_isMastersMaster_12 : decode cX6_isMastersMaster 12 = .ok (.invokevirtual 447, 3) := dk_182 1 191 (dk_at dksX6_isMastersMaster_0 12 rfl rfl)
theorem dX6_isMastersMaster_15 : decode cX6_isMastersMaster 15 = .ok (.ifCond .eq 27, 3) := dk_153 0 27 (dk_at dksX6_isMastersMaster_0 15 rfl rfl)
theorem dX6_isMastersMaster_18 : decode cX6_isMastersMaster 18 = .ok (.aload_n 0, 1) := dk_42 (dk_at dksX6_isMastersMaster_0 18 rfl rfl)
theorem dX6_isMastersMaster_19 : decode cX6_isMastersMaster 19 = .ok (.iload_n 2, 1) := dk_28 (dk_at dksX6_isMastersMaster_0 19 rfl rfl)
theorem dX6_isMastersMaster_20 : decode cX6_isMastersMaster 20 = .ok (.invokevirtual 410, 3) := dk_182 1 154 (dk_at dksX6_isMastersMaster_0 20 rfl rfl)
theorem dX6_isMastersMaster_23 : decode cX6_isMastersMaster 23 = .ok (.iconst (-1), 1) := dk_2 (dk_at dksX6_isMastersMaster_0 23 rfl rfl)
theorem dX6_isMastersMaster_24 : decode cX6_isMastersMaster 24 = .ok (.if_icmp .eq 18, 3) := dk_159 0 18 (dk_at dksX6_isMastersMaster_1 0 rfl rfl)
theorem dX6_isMastersMaster_27 : decode cX6_isMastersMaster 27 = .ok (.aload_n 0, 1) := dk_42 (dk_at dksX6_isMastersMaster_1 3 rfl rfl)
theorem dX6_isMastersMaster_28 : decode cX6_isMastersMaster 28 = .ok (.aload_n 0, 1) := dk_42 (dk_at dksX6_isMastersMaster_1 4 rfl rfl)
theorem dX6_isMastersMaster_29 : decode cX6_isMastersMaster 29 = .ok (.iload_n 2, 1) := dk_28 (dk_at dksX6_isMastersMaster_1 5 rfl rfl)
theorem dX6_isMastersMaster_30 : decode cX6_isMastersMaster 30 = .ok (.invokevirtual 410, 3) := dk_182 1 154 (dk_at dksX6_isMastersMaster_1 6 rfl rfl)
theorem dX6_isMastersMaster_33 : decode cX6_isMastersMaster 33 = .ok (.invokevirtual 410, 3) := dk_182 1 154 (dk_at dksX6_isMastersMaster_1 9 rfl rfl)
theorem dX6_isMastersMaster_36 : decode cX6_isMastersMaster 36 = .ok (.iload_n 1, 1) := dk_27 (dk_at dksX6_isMastersMaster_1 12 rfl rfl)
theorem dX6_isMastersMaster_37 : decode cX6_isMastersMaster 37 = .ok (.if_icmp .ne 5, 3) := dk_160 0 5 (dk_at dksX6_isMastersMaster_1 13 rfl rfl)
theorem dX6_isMastersMaster_40 : decode cX6_isMastersMaster 40 = .ok (.iconst 1, 1) := dk_4 (dk_at dksX6_isMastersMaster_1 16 rfl rfl)
theorem dX6_isMastersMaster_41 : decode cX6_isMastersMaster 41 = .ok (.ireturn, 1) := dk_172 (dk_at dksX6_isMastersMaster_1 17 rfl rfl)
theorem dX6_isMastersMaster_42 : decode cX6_isMastersMaster 42 = .ok (.iinc 2 1, 3) := dk_132 2 1 (dk_at dksX6_isMastersMaster_1 18 rfl rfl)
theorem dX6_isMastersMaster_45 : decode cX6_isMastersMaster 45 = .ok (.goto (-43), 3) := dk_167 255 213 (dk_at dksX6_isMastersMaster_1 21 rfl rfl)
theorem dX6_isMastersMaster_48 : decode cX6_isMastersMaster 48 = .ok (.iconst 0, 1) := dk_3 (dk_at dksX6_isMastersMaster_2 0 rfl rfl)
theorem dX6_isMastersMaster_49 : decode cX6_isMastersMaster 49 = .ok (.ireturn, 1) := dk_172 (dk_at dksX6_isMastersMaster_2 1 rfl rfl)
abbrev cX6_takesBack : ByteArray := prog_22_method_59_code
def yX6_takesBack : MethodName := ⟨RX6, "takesBack", "()V"⟩
def dkwX6_takesBack_0 : List UInt8 := [42, 182, 1, 224, 42, 3, 181, 1, 187, 177]
abbrev dktX6_takesBack_0 : List UInt8 := dkwX6_takesBack_0 ++ []
theorem dksX6_takesBack_0 : cX6_takesBack.data.toList.drop 0 = dktX6_takesBack_0 := by decide +kernel
theorem dX6_takesBack_0 : decode cX6_takesBack 0 = .ok (.aload_n 0, 1) := dk_42 (dk_at dksX6_takesBack_0 0 rfl rfl)
theorem dX6_takesBack_1 : decode cX6_takesBack 1 = .ok (.invokevirtual 480, 3) := dk_182 1 224 (dk_at dksX6_takesBack_0 1 rfl rfl)
theorem dX6_takesBack_4 : decode cX6_takesBack 4 = .ok (.aload_n 0, 1) := dk_42 (dk_at dksX6_takesBack_0 4 rfl rfl)
theorem dX6_takesBack_5 : decode cX6_takesBack 5 = .ok (.iconst 0, 1) := dk_3 (dk_at dksX6_takesBack_0 5 rfl rfl)
theorem dX6_takesBack_6 : decode cX6_takesBack 6 = .ok (.putfield 443, 3) := dk_181 1 187 (dk_at dksX6_takesBack_0 6 rfl rfl)
theorem dX6_takesBack_9 : decode cX6_takesBack 9 = .ok (.return_, 1) := dk_177 (dk_at dksX6_takesBack_0 9 rfl rfl)
abbrev cX6_triesAnew : ByteArray := prog_22_method_58_code
def yX6_triesAnew : MethodName := ⟨RX6, "triesAnew", "()V"⟩
def dkwX6_triesAnew_1 : List UInt8 := [167, 255, 235, 177]
abbrev dktX6_triesAnew_1 : List UInt8 := dkwX6_triesAnew_1 ++ []
def dkwX6_triesAnew_0 : List UInt8 := [3, 60, 27, 16, 41, 162, 0, 21, 42, 180, 0, 139, 27, 42, 180, 0, 142, 27, 46, 79, 132, 1, 1]
abbrev dktX6_triesAnew_0 : List UInt8 := dkwX6_triesAnew_0 ++ dktX6_triesAnew_1
theorem dksX6_triesAnew_0 : cX6_triesAnew.data.toList.drop 0 = dktX6_triesAnew_0 := by decide +kernel
theorem dksX6_triesAnew_1 : cX6_triesAnew.data.toList.drop 23 = dktX6_triesAnew_1 := dk_seg dksX6_triesAnew_0 23 rfl rfl
theorem dX6_triesAnew_0 : decode cX6_triesAnew 0 = .ok (.iconst 0, 1) := dk_3 (dk_at dksX6_triesAnew_0 0 rfl rfl)
theorem dX6_triesAnew_1 : decode cX6_triesAnew 1 = .ok (.istore_n 1, 1) := dk_60 (dk_at dksX6_triesAnew_0 1 rfl rfl)
theorem dX6_triesAnew_2 : decode cX6_triesAnew 2 = .ok (.iload_n 1, 1) := dk_27 (dk_at dksX6_triesAnew_0 2 rfl rfl)
theorem dX6_triesAnew_3 : decode cX6_triesAnew 3 = .ok (.bipush 41, 2) := dk_16 41 (dk_at dksX6_triesAnew_0 3 rfl rfl)
theorem dX6_triesAnew_5 : decode cX6_triesAnew 5 = .ok (.if_icmp .ge 21, 3) := dk_162 0 21 (dk_at dksX6_triesAnew_0 5 rfl rfl)
theorem dX6_triesAnew_8 : decode cX6_triesAnew 8 = .ok (.aload_n 0, 1) := dk_42 (dk_at dksX6_triesAnew_0 8 rfl rfl)
theorem dX6_triesAnew_9 : decode cX6_triesAnew 9 = .ok (.getfield 139, 3) := dk_180 0 139 (dk_at dksX6_triesAnew_0 9 rfl rfl)
theorem dX6_triesAnew_12 : decode cX6_triesAnew 12 = .ok (.iload_n 1, 1) := dk_27 (dk_at dksX6_triesAnew_0 12 rfl rfl)
theorem dX6_triesAnew_13 : decode cX6_triesAnew 13 = .ok (.aload_n 0, 1) := dk_42 (dk_at dksX6_triesAnew_0 13 rfl rfl)
theorem dX6_triesAnew_14 : decode cX6_triesAnew 14 = .ok (.getfield 142, 3) := dk_180 0 142 (dk_at dksX6_triesAnew_0 14 rfl rfl)
theorem dX6_triesAnew_17 : decode cX6_triesAnew 17 = .ok (.iload_n 1, 1) := dk_27 (dk_at dksX6_triesAnew_0 17 rfl rfl)
theorem dX6_triesAnew_18 : decode cX6_triesAnew 18 = .ok (.iaload, 1) := dk_46 (dk_at dksX6_triesAnew_0 18 rfl rfl)
theorem dX6_triesAnew_19 : decode cX6_triesAnew 19 = .ok (.iastore, 1) := dk_79 (dk_at dksX6_triesAnew_0 19 rfl rfl)
theorem dX6_triesAnew_20 : decode cX6_triesAnew 20 = .ok (.iinc 1 1, 3) := dk_132 1 1 (dk_at dksX6_triesAnew_0 20 rfl rfl)
theorem dX6_triesAnew_23 : decode cX6_triesAnew 23 = .ok (.goto (-21), 3) := dk_167 255 235 (dk_at dksX6_triesAnew_1 0 rfl rfl)
theorem dX6_triesAnew_26 : decode cX6_triesAnew 26 = .ok (.return_, 1) := dk_177 (dk_at dksX6_triesAnew_1 3 rfl rfl)
abbrev cX6_doctor : ByteArray := prog_22_method_71_code
def yX6_doctor : MethodName := ⟨RX6, "doctor", "(I)I"⟩
def dkwX6_doctor_3 : List UInt8 := [2, 172]
abbrev dktX6_doctor_3 : List UInt8 := dkwX6_doctor_3 ++ []
def dkwX6_doctor_2 : List UInt8 := [132, 2, 1, 167, 255, 222, 42, 27, 182, 1, 215, 62, 42, 182, 2, 13, 29, 153, 0, 7, 28, 167, 0, 4]
abbrev dktX6_doctor_2 : List UInt8 := dkwX6_doctor_2 ++ dktX6_doctor_3
def dkwX6_doctor_1 : List UInt8 := [28, 16, 40, 162, 0, 26, 42, 180, 0, 139, 3, 46, 17, 3, 231, 162, 0, 14, 42, 3, 182, 1, 221]
abbrev dktX6_doctor_1 : List UInt8 := dkwX6_doctor_1 ++ dktX6_doctor_2
def dkwX6_doctor_0 : List UInt8 := [42, 27, 182, 1, 248, 154, 0, 5, 2, 172, 42, 182, 2, 7, 3, 61, 42, 27, 182, 1, 215, 154, 0, 32]
abbrev dktX6_doctor_0 : List UInt8 := dkwX6_doctor_0 ++ dktX6_doctor_1
theorem dksX6_doctor_0 : cX6_doctor.data.toList.drop 0 = dktX6_doctor_0 := by decide +kernel
theorem dksX6_doctor_1 : cX6_doctor.data.toList.drop 24 = dktX6_doctor_1 := dk_seg dksX6_doctor_0 24 rfl rfl
theorem dksX6_doctor_2 : cX6_doctor.data.toList.drop 47 = dktX6_doctor_2 := dk_seg dksX6_doctor_1 23 rfl rfl
theorem dksX6_doctor_3 : cX6_doctor.data.toList.drop 71 = dktX6_doctor_3 := dk_seg dksX6_doctor_2 24 rfl rfl
theorem dX6_doctor_0 : decode cX6_doctor 0 = .ok (.aload_n 0, 1) := dk_42 (dk_at dksX6_doctor_0 0 rfl rfl)
theorem dX6_doctor_1 : decode cX6_doctor 1 = .ok (.iload_n 1, 1) := dk_27 (dk_at dksX6_doctor_0 1 rfl rfl)
theorem dX6_doctor_2 : decode cX6_doctor 2 = .ok (.invokevirtual 504, 3) := dk_182 1 248 (dk_at dksX6_doctor_0 2 rfl rfl)
theorem dX6_doctor_5 : decode cX6_doctor 5 = .ok (.ifCond .ne 5, 3) := dk_154 0 5 (dk_at dksX6_doctor_0 5 rfl rfl)
theorem dX6_doctor_8 : decode cX6_doctor 8 = .ok (.iconst (-1), 1) := dk_2 (dk_at dksX6_doctor_0 8 rfl rfl)
theorem dX6_doctor_9 : decode cX6_doctor 9 = .ok (.ireturn, 1) := dk_172 (dk_at dksX6_doctor_0 9 rfl rfl)
theorem dX6_doctor_10 : decode cX6_doctor 10 = .ok (.aload_n 0, 1) := dk_42 (dk_at dksX6_doctor_0 10 rfl rfl)
theorem dX6_doctor_11 : decode cX6_doctor 11 = .ok (.invokevirtual 519, 3) := dk_182 2 7 (dk_at dksX6_doctor_0 11 rfl rfl)
theorem dX6_doctor_14 : decode cX6_doctor 14 = .ok (.iconst 0, 1) := dk_3 (dk_at dksX6_doctor_0 14 rfl rfl)
theorem dX6_doctor_15 : decode cX6_doctor 15 = .ok (.istore_n 2, 1) := dk_61 (dk_at dksX6_doctor_0 15 rfl rfl)
theorem dX6_doctor_16 : decode cX6_doctor 16 = .ok (.aload_n 0, 1) := dk_42 (dk_at dksX6_doctor_0 16 rfl rfl)
theorem dX6_doctor_17 : decode cX6_doctor 17 = .ok (.iload_n 1, 1) := dk_27 (dk_at dksX6_doctor_0 17 rfl rfl)
theorem dX6_doctor_18 : decode cX6_doctor 18 = .ok (.invokevirtual 471, 3) := dk_182 1 215 (dk_at dksX6_doctor_0 18 rfl rfl)
theorem dX6_doctor_21 : decode cX6_doctor 21 = .ok (.ifCond .ne 32, 3) := dk_154 0 32 (dk_at dksX6_doctor_0 21 rfl rfl)
theorem dX6_doctor_24 : decode cX6_doctor 24 = .ok (.iload_n 2, 1) := dk_28 (dk_at dksX6_doctor_1 0 rfl rfl)
theorem dX6_doctor_25 : decode cX6_doctor 25 = .ok (.bipush 40, 2) := dk_16 40 (dk_at dksX6_doctor_1 1 rfl rfl)
theorem dX6_doctor_27 : decode cX6_doctor 27 = .ok (.if_icmp .ge 26, 3) := dk_162 0 26 (dk_at dksX6_doctor_1 3 rfl rfl)
theorem dX6_doctor_30 : decode cX6_doctor 30 = .ok (.aload_n 0, 1) := dk_42 (dk_at dksX6_doctor_1 6 rfl rfl)
theorem dX6_doctor_31 : decode cX6_doctor 31 = .ok (.getfield 139, 3) := dk_180 0 139 (dk_at dksX6_doctor_1 7 rfl rfl)
theorem dX6_doctor_34 : decode cX6_doctor 34 = .ok (.iconst 0, 1) := dk_3 (dk_at dksX6_doctor_1 10 rfl rfl)
theorem dX6_doctor_35 : decode cX6_doctor 35 = .ok (.iaload, 1) := dk_46 (dk_at dksX6_doctor_1 11 rfl rfl)
theorem dX6_doctor_36 : decode cX6_doctor 36 = .ok (.sipush 999, 3) := dk_17 3 231 (dk_at dksX6_doctor_1 12 rfl rfl)
theorem dX6_doctor_39 : decode cX6_doctor 39 = .ok (.if_icmp .ge 14, 3) := dk_162 0 14 (dk_at dksX6_doctor_1 15 rfl rfl)
theorem dX6_doctor_42 : decode cX6_doctor 42 = .ok (.aload_n 0, 1) := dk_42 (dk_at dksX6_doctor_1 18 rfl rfl)
theorem dX6_doctor_43 : decode cX6_doctor 43 = .ok (.iconst 0, 1) := dk_3 (dk_at dksX6_doctor_1 19 rfl rfl)
theorem dX6_doctor_44 : decode cX6_doctor 44 = .ok (.invokevirtual 477, 3) := dk_182 1 221 (dk_at dksX6_doctor_1 20 rfl rfl)
theorem dX6_doctor_47 : decode cX6_doctor 47 = .ok (.iinc 2 1, 3) := dk_132 2 1 (dk_at dksX6_doctor_2 0 rfl rfl)
theorem dX6_doctor_50 : decode cX6_doctor 50 = .ok (.goto (-34), 3) := dk_167 255 222 (dk_at dksX6_doctor_2 3 rfl rfl)
theorem dX6_doctor_53 : decode cX6_doctor 53 = .ok (.aload_n 0, 1) := dk_42 (dk_at dksX6_doctor_2 6 rfl rfl)
theorem dX6_doctor_54 : decode cX6_doctor 54 = .ok (.iload_n 1, 1) := dk_27 (dk_at dksX6_doctor_2 7 rfl rfl)
theorem dX6_doctor_55 : decode cX6_doctor 55 = .ok (.invokevirtual 471, 3) := dk_182 1 215 (dk_at dksX6_doctor_2 8 rfl rfl)
theorem dX6_doctor_58 : decode cX6_doctor 58 = .ok (.istore_n 3, 1) := dk_62 (dk_at dksX6_doctor_2 11 rfl rfl)
theorem dX6_doctor_59 : decode cX6_doctor 59 = .ok (.aload_n 0, 1) := dk_42 (dk_at dksX6_doctor_2 12 rfl rfl)
theorem dX6_doctor_60 : decode cX6_doctor 60 = .ok (.invokevirtual 525, 3) := dk_182 2 13 (dk_at dksX6_doctor_2 13 rfl rfl)
theorem dX6_doctor_63 : decode cX6_doctor 63 = .ok (.iload_n 3, 1) := dk_29 (dk_at dksX6_doctor_2 16 rfl rfl)
theorem dX6_doctor_64 : decode cX6_doctor 64 = .ok (.ifCond .eq 7, 3) := dk_153 0 7 (dk_at dksX6_doctor_2 17 rfl rfl)
theorem dX6_doctor_67 : decode cX6_doctor 67 = .ok (.iload_n 2, 1) := dk_28 (dk_at dksX6_doctor_2 20 rfl rfl)
theorem dX6_doctor_68 : decode cX6_doctor 68 = .ok (.goto 4, 3) := dk_167 0 4 (dk_at dksX6_doctor_2 21 rfl rfl)
theorem dX6_doctor_71 : decode cX6_doctor 71 = .ok (.iconst (-1), 1) := dk_2 (dk_at dksX6_doctor_3 0 rfl rfl)
theorem dX6_doctor_72 : decode cX6_doctor 72 = .ok (.ireturn, 1) := dk_172 (dk_at dksX6_doctor_3 1 rfl rfl)
abbrev cX6_lost : ByteArray := prog_22_method_72_code
def yX6_lost : MethodName := ⟨RX6, "lost", "(I)I"⟩
def dkwX6_lost_4 : List UInt8 := [2, 172]
abbrev dktX6_lost_4 : List UInt8 := dkwX6_lost_4 ++ []
def dkwX6_lost_3 : List UInt8 := [182, 1, 145, 160, 0, 7, 4, 167, 0, 4, 3, 62, 42, 182, 2, 13, 29, 153, 0, 7, 28, 167, 0, 4]
abbrev dktX6_lost_3 : List UInt8 := dkwX6_lost_3 ++ dktX6_lost_4
def dkwX6_lost_2 : List UInt8 := [17, 3, 231, 162, 0, 14, 42, 3, 182, 1, 221, 132, 2, 1, 167, 255, 218, 42, 27, 182, 1, 245, 42]
abbrev dktX6_lost_2 : List UInt8 := dkwX6_lost_2 ++ dktX6_lost_3
def dkwX6_lost_1 : List UInt8 := [27, 182, 1, 245, 42, 182, 1, 145, 162, 0, 32, 28, 16, 40, 162, 0, 26, 42, 180, 0, 139, 3, 46]
abbrev dktX6_lost_1 : List UInt8 := dkwX6_lost_1 ++ dktX6_lost_2
def dkwX6_lost_0 : List UInt8 := [42, 27, 182, 1, 239, 153, 0, 10, 42, 182, 1, 145, 154, 0, 5, 2, 172, 42, 182, 2, 7, 3, 61, 42]
abbrev dktX6_lost_0 : List UInt8 := dkwX6_lost_0 ++ dktX6_lost_1
theorem dksX6_lost_0 : cX6_lost.data.toList.drop 0 = dktX6_lost_0 := by decide +kernel
theorem dksX6_lost_1 : cX6_lost.data.toList.drop 24 = dktX6_lost_1 := dk_seg dksX6_lost_0 24 rfl rfl
theorem dksX6_lost_2 : cX6_lost.data.toList.drop 47 = dktX6_lost_2 := dk_seg dksX6_lost_1 23 rfl rfl
theorem dksX6_lost_3 : cX6_lost.data.toList.drop 70 = dktX6_lost_3 := dk_seg dksX6_lost_2 23 rfl rfl
theorem dksX6_lost_4 : cX6_lost.data.toList.drop 94 = dktX6_lost_4 := dk_seg dksX6_lost_3 24 rfl rfl
theorem dX6_lost_0 : decode cX6_lost 0 = .ok (.aload_n 0, 1) := dk_42 (dk_at dksX6_lost_0 0 rfl rfl)
theorem dX6_lost_1 : decode cX6_lost 1 = .ok (.iload_n 1, 1) := dk_27 (dk_at dksX6_lost_0 1 rfl rfl)
theorem dX6_lost_2 : decode cX6_lost 2 = .ok (.invokevirtual 495, 3) := dk_182 1 239 (dk_at dksX6_lost_0 2 rfl rfl)
theorem dX6_lost_5 : decode cX6_lost 5 = .ok (.ifCond .eq 10, 3) := dk_153 0 10 (dk_at dksX6_lost_0 5 rfl rfl)
theorem dX6_lost_8 : decode cX6_lost 8 = .ok (.aload_n 0, 1) := dk_42 (dk_at dksX6_lost_0 8 rfl rfl)
theorem dX6_lost_9 : decode cX6_lost 9 = .ok (.invokevirtual 401, 3) := dk_182 1 145 (dk_at dksX6_lost_0 9 rfl rfl)
theorem dX6_lost_12 : decode cX6_lost 12 = .ok (.ifCond .ne 5, 3) := dk_154 0 5 (dk_at dksX6_lost_0 12 rfl rfl)
theorem dX6_lost_15 : decode cX6_lost 15 = .ok (.iconst (-1), 1) := dk_2 (dk_at dksX6_lost_0 15 rfl rfl)
theorem dX6_lost_16 : decode cX6_lost 16 = .ok (.ireturn, 1) := dk_172 (dk_at dksX6_lost_0 16 rfl rfl)
theorem dX6_lost_17 : decode cX6_lost 17 = .ok (.aload_n 0, 1) := dk_42 (dk_at dksX6_lost_0 17 rfl rfl)
theorem dX6_lost_18 : decode cX6_lost 18 = .ok (.invokevirtual 519, 3) := dk_182 2 7 (dk_at dksX6_lost_0 18 rfl rfl)
theorem dX6_lost_21 : decode cX6_lost 21 = .ok (.iconst 0, 1) := dk_3 (dk_at dksX6_lost_0 21 rfl rfl)
theorem dX6_lost_22 : decode cX6_lost 22 = .ok (.istore_n 2, 1) := dk_61 (dk_at dksX6_lost_0 22 rfl rfl)
theorem dX6_lost_23 : decode cX6_lost 23 = .ok (.aload_n 0, 1) := dk_42 (dk_at dksX6_lost_0 23 rfl rfl)
theorem dX6_lost_24 : decode cX6_lost 24 = .ok (.iload_n 1, 1) := dk_27 (dk_at dksX6_lost_1 0 rfl rfl)
theorem dX6_lost_25 : decode cX6_lost 25 = .ok (.invokevirtual 501, 3) := dk_182 1 245 (dk_at dksX6_lost_1 1 rfl rfl)
theorem dX6_lost_28 : decode cX6_lost 28 = .ok (.aload_n 0, 1) := dk_42 (dk_at dksX6_lost_1 4 rfl rfl)
theorem dX6_lost_29 : decode cX6_lost 29 = .ok (.invokevirtual 401, 3) := dk_182 1 145 (dk_at dksX6_lost_1 5 rfl rfl)
theorem dX6_lost_32 : decode cX6_lost 32 = .ok (.if_icmp .ge 32, 3) := dk_162 0 32 (dk_at dksX6_lost_1 8 rfl rfl)
theorem dX6_lost_35 : decode cX6_lost 35 = .ok (.iload_n 2, 1) := dk_28 (dk_at dksX6_lost_1 11 rfl rfl)
theorem dX6_lost_36 : decode cX6_lost 36 = .ok (.bipush 40, 2) := dk_16 40 (dk_at dksX6_lost_1 12 rfl rfl)
theorem dX6_lost_38 : decode cX6_lost 38 = .ok (.if_icmp .ge 26, 3) := dk_162 0 26 (dk_at dksX6_lost_1 14 rfl rfl)
theorem dX6_lost_41 : decode cX6_lost 41 = .ok (.aload_n 0, 1) := dk_42 (dk_at dksX6_lost_1 17 rfl rfl)
theorem dX6_lost_42 : decode cX6_lost 42 = .ok (.getfield 139, 3) := dk_180 0 139 (dk_at dksX6_lost_1 18 rfl rfl)
theorem dX6_lost_45 : decode cX6_lost 45 = .ok (.iconst 0, 1) := dk_3 (dk_at dksX6_lost_1 21 rfl rfl)
theorem dX6_lost_46 : decode cX6_lost 46 = .ok (.iaload, 1) := dk_46 (dk_at dksX6_lost_1 22 rfl rfl)
theorem dX6_lost_47 : decode cX6_lost 47 = .ok (.sipush 999, 3) := dk_17 3 231 (dk_at dksX6_lost_2 0 rfl rfl)
theorem dX6_lost_50 : decode cX6_lost 50 = .ok (.if_icmp .ge 14, 3) := dk_162 0 14 (dk_at dksX6_lost_2 3 rfl rfl)
theorem dX6_lost_53 : decode cX6_lost 53 = .ok (.aload_n 0, 1) := dk_42 (dk_at dksX6_lost_2 6 rfl rfl)
theorem dX6_lost_54 : decode cX6_lost 54 = .ok (.iconst 0, 1) := dk_3 (dk_at dksX6_lost_2 7 rfl rfl)
theorem dX6_lost_55 : decode cX6_lost 55 = .ok (.invokevirtual 477, 3) := dk_182 1 221 (dk_at dksX6_lost_2 8 rfl rfl)
theorem dX6_lost_58 : decode cX6_lost 58 = .ok (.iinc 2 1, 3) := dk_132 2 1 (dk_at dksX6_lost_2 11 rfl rfl)
theorem dX6_lost_61 : decode cX6_lost 61 = .ok (.goto (-38), 3) := dk_167 255 218 (dk_at dksX6_lost_2 14 rfl rfl)
theorem dX6_lost_64 : decode cX6_lost 64 = .ok (.aload_n 0, 1) := dk_42 (dk_at dksX6_lost_2 17 rfl rfl)
theorem dX6_lost_65 : decode cX6_lost 65 = .ok (.iload_n 1, 1) := dk_27 (dk_at dksX6_lost_2 18 rfl rfl)
theorem dX6_lost_66 : decode cX6_lost 66 = .ok (.invokevirtual 501, 3) := dk_182 1 245 (dk_at dksX6_lost_2 19 rfl rfl)
theorem dX6_lost_69 : decode cX6_lost 69 = .ok (.aload_n 0, 1) := dk_42 (dk_at dksX6_lost_2 22 rfl rfl)
theorem dX6_lost_70 : decode cX6_lost 70 = .ok (.invokevirtual 401, 3) := dk_182 1 145 (dk_at dksX6_lost_3 0 rfl rfl)
theorem dX6_lost_73 : decode cX6_lost 73 = .ok (.if_icmp .ne 7, 3) := dk_160 0 7 (dk_at dksX6_lost_3 3 rfl rfl)
theorem dX6_lost_76 : decode cX6_lost 76 = .ok (.iconst 1, 1) := dk_4 (dk_at dksX6_lost_3 6 rfl rfl)
theorem dX6_lost_77 : decode cX6_lost 77 = .ok (.goto 4, 3) := dk_167 0 4 (dk_at dksX6_lost_3 7 rfl rfl)
theorem dX6_lost_80 : decode cX6_lost 80 = .ok (.iconst 0, 1) := dk_3 (dk_at dksX6_lost_3 10 rfl rfl)
theorem dX6_lost_81 : decode cX6_lost 81 = .ok (.istore_n 3, 1) := dk_62 (dk_at dksX6_lost_3 11 rfl rfl)
theorem dX6_lost_82 : decode cX6_lost 82 = .ok (.aload_n 0, 1) := dk_42 (dk_at dksX6_lost_3 12 rfl rfl)
theorem dX6_lost_83 : decode cX6_lost 83 = .ok (.invokevirtual 525, 3) := dk_182 2 13 (dk_at dksX6_lost_3 13 rfl rfl)
theorem dX6_lost_86 : decode cX6_lost 86 = .ok (.iload_n 3, 1) := dk_29 (dk_at dksX6_lost_3 16 rfl rfl)
theorem dX6_lost_87 : decode cX6_lost 87 = .ok (.ifCond .eq 7, 3) := dk_153 0 7 (dk_at dksX6_lost_3 17 rfl rfl)
theorem dX6_lost_90 : decode cX6_lost 90 = .ok (.iload_n 2, 1) := dk_28 (dk_at dksX6_lost_3 20 rfl rfl)
theorem dX6_lost_91 : decode cX6_lost 91 = .ok (.goto 4, 3) := dk_167 0 4 (dk_at dksX6_lost_3 21 rfl rfl)
theorem dX6_lost_94 : decode cX6_lost 94 = .ok (.iconst (-1), 1) := dk_2 (dk_at dksX6_lost_4 0 rfl rfl)
theorem dX6_lost_95 : decode cX6_lost 95 = .ok (.ireturn, 1) := dk_172 (dk_at dksX6_lost_4 1 rfl rfl)
abbrev cX6_master : ByteArray := prog_22_method_75_code
def yX6_master : MethodName := ⟨RX6, "master", "(II)I"⟩
def dkwX6_master_5 : List UInt8 := [154, 0, 7, 29, 167, 0, 5, 21, 4, 172]
abbrev dktX6_master_5 : List UInt8 := dkwX6_master_5 ++ []
def dkwX6_master_4 : List UInt8 := [54, 4, 132, 5, 1, 167, 255, 191, 42, 182, 2, 13, 29, 2, 160, 0, 7, 2, 167, 0, 13, 28]
abbrev dktX6_master_4 : List UInt8 := dkwX6_master_4 ++ dktX6_master_5
def dkwX6_master_3 : List UInt8 := [182, 2, 20, 54, 6, 42, 182, 1, 224, 21, 6, 21, 4, 161, 0, 6, 167, 0, 10, 21, 5, 62, 21, 6]
abbrev dktX6_master_3 : List UInt8 := dkwX6_master_3 ++ dktX6_master_4
def dkwX6_master_2 : List UInt8 := [182, 2, 16, 153, 0, 6, 167, 0, 43, 42, 180, 0, 139, 4, 8, 27, 104, 96, 21, 5, 79, 42, 27]
abbrev dktX6_master_2 : List UInt8 := dkwX6_master_2 ++ dktX6_master_3
def dkwX6_master_1 : List UInt8 := [54, 4, 42, 182, 2, 7, 3, 54, 5, 21, 5, 42, 182, 1, 145, 162, 0, 62, 42, 21, 5, 27]
abbrev dktX6_master_1 : List UInt8 := dkwX6_master_1 ++ dktX6_master_2
def dkwX6_master_0 : List UInt8 := [42, 27, 182, 1, 248, 153, 0, 13, 28, 133, 9, 10, 184, 1, 41, 154, 0, 5, 2, 172, 2, 62, 16, 41]
abbrev dktX6_master_0 : List UInt8 := dkwX6_master_0 ++ dktX6_master_1
theorem dksX6_master_0 : cX6_master.data.toList.drop 0 = dktX6_master_0 := by decide +kernel
theorem dksX6_master_1 : cX6_master.data.toList.drop 24 = dktX6_master_1 := dk_seg dksX6_master_0 24 rfl rfl
theorem dksX6_master_2 : cX6_master.data.toList.drop 46 = dktX6_master_2 := dk_seg dksX6_master_1 22 rfl rfl
theorem dksX6_master_3 : cX6_master.data.toList.drop 69 = dktX6_master_3 := dk_seg dksX6_master_2 23 rfl rfl
theorem dksX6_master_4 : cX6_master.data.toList.drop 93 = dktX6_master_4 := dk_seg dksX6_master_3 24 rfl rfl
theorem dksX6_master_5 : cX6_master.data.toList.drop 115 = dktX6_master_5 := dk_seg dksX6_master_4 22 rfl rfl
theorem dX6_master_0 : decode cX6_master 0 = .ok (.aload_n 0, 1) := dk_42 (dk_at dksX6_master_0 0 rfl rfl)
theorem dX6_master_1 : decode cX6_master 1 = .ok (.iload_n 1, 1) := dk_27 (dk_at dksX6_master_0 1 rfl rfl)
theorem dX6_master_2 : decode cX6_master 2 = .ok (.invokevirtual 504, 3) := dk_182 1 248 (dk_at dksX6_master_0 2 rfl rfl)
theorem dX6_master_5 : decode cX6_master 5 = .ok (.ifCond .eq 13, 3) := dk_153 0 13 (dk_at dksX6_master_0 5 rfl rfl)
theorem dX6_master_8 : decode cX6_master 8 = .ok (.iload_n 2, 1) := dk_28 (dk_at dksX6_master_0 8 rfl rfl)
theorem dX6_master_9 : decode cX6_master 9 = .ok (.i2l, 1) := dk_133 (dk_at dksX6_master_0 9 rfl rfl)
theorem dX6_master_10 : decode cX6_master 10 = .ok (.lconst 0, 1) := dk_9 (dk_at dksX6_master_0 10 rfl rfl)
theorem dX6_master_11 : decode cX6_master 11 = .ok (.lconst 1, 1) := dk_10 (dk_at dksX6_master_0 11 rfl rfl)
theorem dX6_master_12 : decode cX6_master 12 = .ok (.invokestatic 297, 3) := dk_184 1 41 (dk_at dksX6_master_0 12 rfl rfl)
theorem dX6_master_15 : decode cX6_master 15 = .ok (.ifCond .ne 5, 3) := dk_154 0 5 (dk_at dksX6_master_0 15 rfl rfl)
theorem dX6_master_18 : decode cX6_master 18 = .ok (.iconst (-1), 1) := dk_2 (dk_at dksX6_master_0 18 rfl rfl)
theorem dX6_master_19 : decode cX6_master 19 = .ok (.ireturn, 1) := dk_172 (dk_at dksX6_master_0 19 rfl rfl)
theorem dX6_master_20 : decode cX6_master 20 = .ok (.iconst (-1), 1) := dk_2 (dk_at dksX6_master_0 20 rfl rfl)
theorem dX6_master_21 : decode cX6_master 21 = .ok (.istore_n 3, 1) := dk_62 (dk_at dksX6_master_0 21 rfl rfl)
theorem dX6_master_22 : decode cX6_master 22 = .ok (.bipush 41, 2) := dk_16 41 (dk_at dksX6_master_0 22 rfl rfl)
theorem dX6_master_24 : decode cX6_master 24 = .ok (.istore 4, 2) := dk_54 4 (dk_at dksX6_master_1 0 rfl rfl)
theorem dX6_master_26 : decode cX6_master 26 = .ok (.aload_n 0, 1) := dk_42 (dk_at dksX6_master_1 2 rfl rfl)
theorem dX6_master_27 : decode cX6_master 27 = .ok (.invokevirtual 519, 3) := dk_182 2 7 (dk_at dksX6_master_1 3 rfl rfl)
theorem dX6_master_30 : decode cX6_master 30 = .ok (.iconst 0, 1) := dk_3 (dk_at dksX6_master_1 6 rfl rfl)
theorem dX6_master_31 : decode cX6_master 31 = .ok (.istore 5, 2) := dk_54 5 (dk_at dksX6_master_1 7 rfl rfl)
theorem dX6_master_33 : decode cX6_master 33 = .ok (.iload 5, 2) := dk_21 5 (dk_at dksX6_master_1 9 rfl rfl)
theorem dX6_master_35 : decode cX6_master 35 = .ok (.aload_n 0, 1) := dk_42 (dk_at dksX6_master_1 11 rfl rfl)
theorem dX6_master_36 : decode cX6_master 36 = .ok (.invokevirtual 401, 3) := dk_182 1 145 (dk_at dksX6_master_1 12 rfl rfl)
theorem dX6_master_39 : decode cX6_master 39 = .ok (.if_icmp .ge 62, 3) := dk_162 0 62 (dk_at dksX6_master_1 15 rfl rfl)
theorem dX6_master_42 : decode cX6_master 42 = .ok (.aload_n 0, 1) := dk_42 (dk_at dksX6_master_1 18 rfl rfl)
theorem dX6_master_43 : decode cX6_master 43 = .ok (.iload 5, 2) := dk_21 5 (dk_at dksX6_master_1 19 rfl rfl)
theorem dX6_master_45 : decode cX6_master 45 = .ok (.iload_n 1, 1) := dk_27 (dk_at dksX6_master_1 21 rfl rfl)
theorem dX6_master_46 : decode cX6_master 46 = .ok (.invokevirtual 528, 3) := dk_182 2 16 (dk_at dksX6_master_2 0 rfl rfl)
theorem dX6_master_49 : decode cX6_master 49 = .ok (.ifCond .eq 6, 3) := dk_153 0 6 (dk_at dksX6_master_2 3 rfl rfl)
theorem dX6_master_52 : decode cX6_master 52 = .ok (.goto 43, 3) := dk_167 0 43 (dk_at dksX6_master_2 6 rfl rfl)
theorem dX6_master_55 : decode cX6_master 55 = .ok (.aload_n 0, 1) := dk_42 (dk_at dksX6_master_2 9 rfl rfl)
theorem dX6_master_56 : decode cX6_master 56 = .ok (.getfield 139, 3) := dk_180 0 139 (dk_at dksX6_master_2 10 rfl rfl)
theorem dX6_master_59 : decode cX6_master 59 = .ok (.iconst 1, 1) := dk_4 (dk_at dksX6_master_2 13 rfl rfl)
theorem dX6_master_60 : decode cX6_master 60 = .ok (.iconst 5, 1) := dk_8 (dk_at dksX6_master_2 14 rfl rfl)
theorem dX6_master_61 : decode cX6_master 61 = .ok (.iload_n 1, 1) := dk_27 (dk_at dksX6_master_2 15 rfl rfl)
theorem dX6_master_62 : decode cX6_master 62 = .ok (.imul, 1) := dk_104 (dk_at dksX6_master_2 16 rfl rfl)
theorem dX6_master_63 : decode cX6_master 63 = .ok (.iadd, 1) := dk_96 (dk_at dksX6_master_2 17 rfl rfl)
theorem dX6_master_64 : decode cX6_master 64 = .ok (.iload 5, 2) := dk_21 5 (dk_at dksX6_master_2 18 rfl rfl)
theorem dX6_master_66 : decode cX6_master 66 = .ok (.iastore, 1) := dk_79 (dk_at dksX6_master_2 20 rfl rfl)
theorem dX6_master_67 : decode cX6_master 67 = .ok (.aload_n 0, 1) := dk_42 (dk_at dksX6_master_2 21 rfl rfl)
theorem dX6_master_68 : decode cX6_master 68 = .ok (.iload_n 1, 1) := dk_27 (dk_at dksX6_master_2 22 rfl rfl)
theorem dX6_master_69 : decode cX6_master 69 = .ok (.invokevirtual 532, 3) := dk_182 2 20 (dk_at dksX6_master_3 0 rfl rfl)
theorem dX6_master_72 : decode cX6_master 72 = .ok (.istore 6, 2) := dk_54 6 (dk_at dksX6_master_3 3 rfl rfl)
theorem dX6_master_74 : decode cX6_master 74 = .ok (.aload_n 0, 1) := dk_42 (dk_at dksX6_master_3 5 rfl rfl)
theorem dX6_master_75 : decode cX6_master 75 = .ok (.invokevirtual 480, 3) := dk_182 1 224 (dk_at dksX6_master_3 6 rfl rfl)
theorem dX6_master_78 : decode cX6_master 78 = .ok (.iload 6, 2) := dk_21 6 (dk_at dksX6_master_3 9 rfl rfl)
theorem dX6_master_80 : decode cX6_master 80 = .ok (.iload 4, 2) := dk_21 4 (dk_at dksX6_master_3 11 rfl rfl)
theorem dX6_master_82 : decode cX6_master 82 = .ok (.if_icmp .lt 6, 3) := dk_161 0 6 (dk_at dksX6_master_3 13 rfl rfl)
theorem dX6_master_85 : decode cX6_master 85 = .ok (.goto 10, 3) := dk_167 0 10 (dk_at dksX6_master_3 16 rfl rfl)
theorem dX6_master_88 : decode cX6_master 88 = .ok (.iload 5, 2) := dk_21 5 (dk_at dksX6_master_3 19 rfl rfl)
theorem dX6_master_90 : decode cX6_master 90 = .ok (.istore_n 3, 1) := dk_62 (dk_at dksX6_master_3 21 rfl rfl)
theorem dX6_master_91 : decode cX6_master 91 = .ok (.iload 6, 2) := dk_21 6 (dk_at dksX6_master_3 22 rfl rfl)
theorem dX6_master_93 : decode cX6_master 93 = .ok (.istore 4, 2) := dk_54 4 (dk_at dksX6_master_4 0 rfl rfl)
theorem dX6_master_95 : decode cX6_master 95 = .ok (.iinc 5 1, 3) := dk_132 5 1 (dk_at dksX6_master_4 2 rfl rfl)
theorem dX6_master_98 : decode cX6_master 98 = .ok (.goto (-65), 3) := dk_167 255 191 (dk_at dksX6_master_4 5 rfl rfl)
theorem dX6_master_101 : decode cX6_master 101 = .ok (.aload_n 0, 1) := dk_42 (dk_at dksX6_master_4 8 rfl rfl)
theorem dX6_master_102 : decode cX6_master 102 = .ok (.invokevirtual 525, 3) := dk_182 2 13 (dk_at dksX6_master_4 9 rfl rfl)
theorem dX6_master_105 : decode cX6_master 105 = .ok (.iload_n 3, 1) := dk_29 (dk_at dksX6_master_4 12 rfl rfl)
theorem dX6_master_106 : decode cX6_master 106 = .ok (.iconst (-1), 1) := dk_2 (dk_at dksX6_master_4 13 rfl rfl)
theorem dX6_master_107 : decode cX6_master 107 = .ok (.if_icmp .ne 7, 3) := dk_160 0 7 (dk_at dksX6_master_4 14 rfl rfl)
theorem dX6_master_110 : decode cX6_master 110 = .ok (.iconst (-1), 1) := dk_2 (dk_at dksX6_master_4 17 rfl rfl)
theorem dX6_master_111 : decode cX6_master 111 = .ok (.goto 13, 3) := dk_167 0 13 (dk_at dksX6_master_4 18 rfl rfl)
theorem dX6_master_114 : decode cX6_master 114 = .ok (.iload_n 2, 1) := dk_28 (dk_at dksX6_master_4 21 rfl rfl)
theorem dX6_master_115 : decode cX6_master 115 = .ok (.ifCond .ne 7, 3) := dk_154 0 7 (dk_at dksX6_master_5 0 rfl rfl)
theorem dX6_master_118 : decode cX6_master 118 = .ok (.iload_n 3, 1) := dk_29 (dk_at dksX6_master_5 3 rfl rfl)
theorem dX6_master_119 : decode cX6_master 119 = .ok (.goto 5, 3) := dk_167 0 5 (dk_at dksX6_master_5 4 rfl rfl)
theorem dX6_master_122 : decode cX6_master 122 = .ok (.iload 4, 2) := dk_21 4 (dk_at dksX6_master_5 7 rfl rfl)
theorem dX6_master_124 : decode cX6_master 124 = .ok (.ireturn, 1) := dk_172 (dk_at dksX6_master_5 9 rfl rfl)
abbrev cX6_isTaughtBy : ByteArray := prog_22_method_73_code
def yX6_isTaughtBy : MethodName := ⟨RX6, "isTaughtBy", "(II)Z"⟩
def dkwX6_isTaughtBy_1 : List UInt8 := [160, 0, 7, 4, 167, 0, 4, 3, 172]
abbrev dktX6_isTaughtBy_1 : List UInt8 := dkwX6_isTaughtBy_1 ++ []
def dkwX6_isTaughtBy_0 : List UInt8 := [27, 62, 29, 2, 159, 0, 17, 29, 28, 159, 0, 12, 42, 29, 182, 1, 154, 62, 167, 255, 240, 29, 28]
abbrev dktX6_isTaughtBy_0 : List UInt8 := dkwX6_isTaughtBy_0 ++ dktX6_isTaughtBy_1
theorem dksX6_isTaughtBy_0 : cX6_isTaughtBy.data.toList.drop 0 = dktX6_isTaughtBy_0 := by decide +kernel
theorem dksX6_isTaughtBy_1 : cX6_isTaughtBy.data.toList.drop 23 = dktX6_isTaughtBy_1 := dk_seg dksX6_isTaughtBy_0 23 rfl rfl
theorem dX6_isTaughtBy_0 : decode cX6_isTaughtBy 0 = .ok (.iload_n 1, 1) := dk_27 (dk_at dksX6_isTaughtBy_0 0 rfl rfl)
theorem dX6_isTaughtBy_1 : decode cX6_isTaughtBy 1 = .ok (.istore_n 3, 1) := dk_62 (dk_at dksX6_isTaughtBy_0 1 rfl rfl)
theorem dX6_isTaughtBy_2 : decode cX6_isTaughtBy 2 = .ok (.iload_n 3, 1) := dk_29 (dk_at dksX6_isTaughtBy_0 2 rfl rfl)
theorem dX6_isTaughtBy_3 : decode cX6_isTaughtBy 3 = .ok (.iconst (-1), 1) := dk_2 (dk_at dksX6_isTaughtBy_0 3 rfl rfl)
theorem dX6_isTaughtBy_4 : decode cX6_isTaughtBy 4 = .ok (.if_icmp .eq 17, 3) := dk_159 0 17 (dk_at dksX6_isTaughtBy_0 4 rfl rfl)
theorem dX6_isTaughtBy_7 : decode cX6_isTaughtBy 7 = .ok (.iload_n 3, 1) := dk_29 (dk_at dksX6_isTaughtBy_0 7 rfl rfl)
theorem dX6_isTaughtBy_8 : decode cX6_isTaughtBy 8 = .ok (.iload_n 2, 1) := dk_28 (dk_at dksX6_isTaughtBy_0 8 rfl rfl)
theorem dX6_isTaughtBy_9 : decode cX6_isTaughtBy 9 = .ok (.if_icmp .eq 12, 3) := dk_159 0 12 (dk_at dksX6_isTaughtBy_0 9 rfl rfl)
theorem dX6_isTaughtBy_12 : decode cX6_isTaughtBy 12 = .ok (.aload_n 0, 1) := dk_42 (dk_at dksX6_isTaughtBy_0 12 rfl rfl)
theorem dX6_isTaughtBy_13 : decode cX6_isTaughtBy 13 = .ok (.iload_n 3, 1) := dk_29 (dk_at dksX6_isTaughtBy_0 13 rfl rfl)
theorem dX6_isTaughtBy_14 : decode cX6_isTaughtBy 14 = .ok (.invokevirtual 410, 3) := dk_182 1 154 (dk_at dksX6_isTaughtBy_0 14 rfl rfl)
theorem dX6_isTaughtBy_17 : decode cX6_isTaughtBy 17 = .ok (.istore_n 3, 1) := dk_62 (dk_at dksX6_isTaughtBy_0 17 rfl rfl)
theorem dX6_isTaughtBy_18 : decode cX6_isTaughtBy 18 = .ok (.goto (-16), 3) := dk_167 255 240 (dk_at dksX6_isTaughtBy_0 18 rfl rfl)
theorem dX6_isTaughtBy_21 : decode cX6_isTaughtBy 21 = .ok (.iload_n 3, 1) := dk_29 (dk_at dksX6_isTaughtBy_0 21 rfl rfl)
theorem dX6_isTaughtBy_22 : decode cX6_isTaughtBy 22 = .ok (.iload_n 2, 1) := dk_28 (dk_at dksX6_isTaughtBy_0 22 rfl rfl)
theorem dX6_isTaughtBy_23 : decode cX6_isTaughtBy 23 = .ok (.if_icmp .ne 7, 3) := dk_160 0 7 (dk_at dksX6_isTaughtBy_1 0 rfl rfl)
theorem dX6_isTaughtBy_26 : decode cX6_isTaughtBy 26 = .ok (.iconst 1, 1) := dk_4 (dk_at dksX6_isTaughtBy_1 3 rfl rfl)
theorem dX6_isTaughtBy_27 : decode cX6_isTaughtBy 27 = .ok (.goto 4, 3) := dk_167 0 4 (dk_at dksX6_isTaughtBy_1 4 rfl rfl)
theorem dX6_isTaughtBy_30 : decode cX6_isTaughtBy 30 = .ok (.iconst 0, 1) := dk_3 (dk_at dksX6_isTaughtBy_1 7 rfl rfl)
theorem dX6_isTaughtBy_31 : decode cX6_isTaughtBy 31 = .ok (.ireturn, 1) := dk_172 (dk_at dksX6_isTaughtBy_1 8 rfl rfl)
abbrev cX6_yearsTill : ByteArray := prog_22_method_74_code
def yX6_yearsTill : MethodName := ⟨RX6, "yearsTill", "(I)I"⟩
def dkwX6_yearsTill_2 : List UInt8 := [61, 167, 255, 210, 28, 172]
abbrev dktX6_yearsTill_2 : List UInt8 := dkwX6_yearsTill_2 ++ []
def dkwX6_yearsTill_1 : List UInt8 := [180, 0, 139, 3, 46, 17, 3, 231, 162, 0, 14, 42, 3, 182, 1, 221, 132, 2, 1, 167, 255, 216, 16, 41]
abbrev dktX6_yearsTill_1 : List UInt8 := dkwX6_yearsTill_1 ++ dktX6_yearsTill_2
def dkwX6_yearsTill_0 : List UInt8 := [3, 61, 42, 27, 182, 1, 191, 154, 0, 44, 28, 16, 40, 163, 0, 38, 28, 16, 40, 162, 0, 26, 42]
abbrev dktX6_yearsTill_0 : List UInt8 := dkwX6_yearsTill_0 ++ dktX6_yearsTill_1
theorem dksX6_yearsTill_0 : cX6_yearsTill.data.toList.drop 0 = dktX6_yearsTill_0 := by decide +kernel
theorem dksX6_yearsTill_1 : cX6_yearsTill.data.toList.drop 23 = dktX6_yearsTill_1 := dk_seg dksX6_yearsTill_0 23 rfl rfl
theorem dksX6_yearsTill_2 : cX6_yearsTill.data.toList.drop 47 = dktX6_yearsTill_2 := dk_seg dksX6_yearsTill_1 24 rfl rfl
theorem dX6_yearsTill_0 : decode cX6_yearsTill 0 = .ok (.iconst 0, 1) := dk_3 (dk_at dksX6_yearsTill_0 0 rfl rfl)
theorem dX6_yearsTill_1 : decode cX6_yearsTill 1 = .ok (.istore_n 2, 1) := dk_61 (dk_at dksX6_yearsTill_0 1 rfl rfl)
theorem dX6_yearsTill_2 : decode cX6_yearsTill 2 = .ok (.aload_n 0, 1) := dk_42 (dk_at dksX6_yearsTill_0 2 rfl rfl)
theorem dX6_yearsTill_3 : decode cX6_yearsTill 3 = .ok (.iload_n 1, 1) := dk_27 (dk_at dksX6_yearsTill_0 3 rfl rfl)
theorem dX6_yearsTill_4 : decode cX6_yearsTill 4 = .ok (.invokevirtual 447, 3) := dk_182 1 191 (dk_at dksX6_yearsTill_0 4 rfl rfl)
theorem dX6_yearsTill_7 : decode cX6_yearsTill 7 = .ok (.ifCond .ne 44, 3) := dk_154 0 44 (dk_at dksX6_yearsTill_0 7 rfl rfl)
theorem dX6_yearsTill_10 : decode cX6_yearsTill 10 = .ok (.iload_n 2, 1) := dk_28 (dk_at dksX6_yearsTill_0 10 rfl rfl)
theorem dX6_yearsTill_11 : decode cX6_yearsTill 11 = .ok (.bipush 40, 2) := dk_16 40 (dk_at dksX6_yearsTill_0 11 rfl rfl)
theorem dX6_yearsTill_13 : decode cX6_yearsTill 13 = .ok (.if_icmp .gt 38, 3) := dk_163 0 38 (dk_at dksX6_yearsTill_0 13 rfl rfl)
theorem dX6_yearsTill_16 : decode cX6_yearsTill 16 = .ok (.iload_n 2, 1) := dk_28 (dk_at dksX6_yearsTill_0 16 rfl rfl)
theorem dX6_yearsTill_17 : decode cX6_yearsTill 17 = .ok (.bipush 40, 2) := dk_16 40 (dk_at dksX6_yearsTill_0 17 rfl rfl)
theorem dX6_yearsTill_19 : decode cX6_yearsTill 19 = .ok (.if_icmp .ge 26, 3) := dk_162 0 26 (dk_at dksX6_yearsTill_0 19 rfl rfl)
theorem dX6_yearsTill_22 : decode cX6_yearsTill 22 = .ok (.aload_n 0, 1) := dk_42 (dk_at dksX6_yearsTill_0 22 rfl rfl)
theorem dX6_yearsTill_23 : decode cX6_yearsTill 23 = .ok (.getfield 139, 3) := dk_180 0 139 (dk_at dksX6_yearsTill_1 0 rfl rfl)
theorem dX6_yearsTill_26 : decode cX6_yearsTill 26 = .ok (.iconst 0, 1) := dk_3 (dk_at dksX6_yearsTill_1 3 rfl rfl)
theorem dX6_yearsTill_27 : decode cX6_yearsTill 27 = .ok (.iaload, 1) := dk_46 (dk_at dksX6_yearsTill_1 4 rfl rfl)
theorem dX6_yearsTill_28 : decode cX6_yearsTill 28 = .ok (.sipush 999, 3) := dk_17 3 231 (dk_at dksX6_yearsTill_1 5 rfl rfl)
theorem dX6_yearsTill_31 : decode cX6_yearsTill 31 = .ok (.if_icmp .ge 14, 3) := dk_162 0 14 (dk_at dksX6_yearsTill_1 8 rfl rfl)
theorem dX6_yearsTill_34 : decode cX6_yearsTill 34 = .ok (.aload_n 0, 1) := dk_42 (dk_at dksX6_yearsTill_1 11 rfl rfl)
theorem dX6_yearsTill_35 : decode cX6_yearsTill 35 = .ok (.iconst 0, 1) := dk_3 (dk_at dksX6_yearsTill_1 12 rfl rfl)
theorem dX6_yearsTill_36 : decode cX6_yearsTill 36 = .ok (.invokevirtual 477, 3) := dk_182 1 221 (dk_at dksX6_yearsTill_1 13 rfl rfl)
theorem dX6_yearsTill_39 : decode cX6_yearsTill 39 = .ok (.iinc 2 1, 3) := dk_132 2 1 (dk_at dksX6_yearsTill_1 16 rfl rfl)
theorem dX6_yearsTill_42 : decode cX6_yearsTill 42 = .ok (.goto (-40), 3) := dk_167 255 216 (dk_at dksX6_yearsTill_1 19 rfl rfl)
theorem dX6_yearsTill_45 : decode cX6_yearsTill 45 = .ok (.bipush 41, 2) := dk_16 41 (dk_at dksX6_yearsTill_1 22 rfl rfl)
theorem dX6_yearsTill_47 : decode cX6_yearsTill 47 = .ok (.istore_n 2, 1) := dk_61 (dk_at dksX6_yearsTill_2 0 rfl rfl)
theorem dX6_yearsTill_48 : decode cX6_yearsTill 48 = .ok (.goto (-46), 3) := dk_167 255 210 (dk_at dksX6_yearsTill_2 1 rfl rfl)
theorem dX6_yearsTill_51 : decode cX6_yearsTill 51 = .ok (.iload_n 2, 1) := dk_28 (dk_at dksX6_yearsTill_2 4 rfl rfl)
theorem dX6_yearsTill_52 : decode cX6_yearsTill 52 = .ok (.ireturn, 1) := dk_172 (dk_at dksX6_yearsTill_2 5 rfl rfl)
abbrev cX6_gift : ByteArray := prog_22_method_77_code
def yX6_gift : MethodName := ⟨RX6, "gift", "(III)I"⟩
def dkwX6_gift_8 : List UInt8 := [172]
abbrev dktX6_gift_8 : List UInt8 := dkwX6_gift_8 ++ []
def dkwX6_gift_7 : List UInt8 := [182, 2, 13, 21, 4, 2, 160, 0, 7, 2, 167, 0, 14, 29, 154, 0, 8, 21, 4, 167, 0, 5, 21, 5]
abbrev dktX6_gift_7 : List UInt8 := dkwX6_gift_7 ++ dktX6_gift_8
def dkwX6_gift_6 : List UInt8 := [167, 0, 11, 21, 7, 54, 4, 21, 8, 54, 5, 132, 8, 1, 167, 255, 171, 132, 7, 1, 167, 255, 148, 42]
abbrev dktX6_gift_6 : List UInt8 := dkwX6_gift_6 ++ dktX6_gift_7
def dkwX6_gift_5 : List UInt8 := [161, 0, 6, 167, 0, 32, 42, 21, 7, 21, 8, 4, 182, 1, 183, 42, 27, 28, 182, 2, 23, 154, 0, 6]
abbrev dktX6_gift_5 : List UInt8 := dkwX6_gift_5 ++ dktX6_gift_6
def dkwX6_gift_4 : List UInt8 := [159, 0, 29, 42, 180, 0, 112, 16, 8, 21, 8, 96, 46, 42, 180, 0, 112, 16, 8, 21, 5, 96, 46]
abbrev dktX6_gift_4 : List UInt8 := dkwX6_gift_4 ++ dktX6_gift_5
def dkwX6_gift_3 : List UInt8 := [42, 182, 1, 142, 162, 0, 82, 42, 21, 7, 21, 8, 182, 1, 174, 4, 159, 0, 64, 21, 4, 2]
abbrev dktX6_gift_3 : List UInt8 := dkwX6_gift_3 ++ dktX6_gift_4
def dkwX6_gift_2 : List UInt8 := [54, 6, 3, 54, 7, 21, 7, 42, 182, 1, 145, 162, 0, 105, 21, 6, 154, 0, 100, 3, 54, 8, 21, 8]
abbrev dktX6_gift_2 : List UInt8 := dkwX6_gift_2 ++ dktX6_gift_3
def dkwX6_gift_1 : List UInt8 := [184, 1, 41, 154, 0, 5, 2, 172, 2, 54, 4, 2, 54, 5, 42, 182, 2, 7, 42, 27, 28, 182, 2, 23]
abbrev dktX6_gift_1 : List UInt8 := dkwX6_gift_1 ++ dktX6_gift_2
def dkwX6_gift_0 : List UInt8 := [42, 27, 182, 1, 248, 153, 0, 24, 42, 28, 3, 16, 20, 182, 2, 2, 153, 0, 13, 29, 133, 9, 10]
abbrev dktX6_gift_0 : List UInt8 := dkwX6_gift_0 ++ dktX6_gift_1
theorem dksX6_gift_0 : cX6_gift.data.toList.drop 0 = dktX6_gift_0 := by decide +kernel
theorem dksX6_gift_1 : cX6_gift.data.toList.drop 23 = dktX6_gift_1 := dk_seg dksX6_gift_0 23 rfl rfl
theorem dksX6_gift_2 : cX6_gift.data.toList.drop 47 = dktX6_gift_2 := dk_seg dksX6_gift_1 24 rfl rfl
theorem dksX6_gift_3 : cX6_gift.data.toList.drop 71 = dktX6_gift_3 := dk_seg dksX6_gift_2 24 rfl rfl
theorem dksX6_gift_4 : cX6_gift.data.toList.drop 93 = dktX6_gift_4 := dk_seg dksX6_gift_3 22 rfl rfl
theorem dksX6_gift_5 : cX6_gift.data.toList.drop 116 = dktX6_gift_5 := dk_seg dksX6_gift_4 23 rfl rfl
theorem dksX6_gift_6 : cX6_gift.data.toList.drop 140 = dktX6_gift_6 := dk_seg dksX6_gift_5 24 rfl rfl
theorem dksX6_gift_7 : cX6_gift.data.toList.drop 164 = dktX6_gift_7 := dk_seg dksX6_gift_6 24 rfl rfl
theorem dksX6_gift_8 : cX6_gift.data.toList.drop 188 = dktX6_gift_8 := dk_seg dksX6_gift_7 24 rfl rfl
theorem dX6_gift_0 : decode cX6_gift 0 = .ok (.aload_n 0, 1) := dk_42 (dk_at dksX6_gift_0 0 rfl rfl)
theorem dX6_gift_1 : decode cX6_gift 1 = .ok (.iload_n 1, 1) := dk_27 (dk_at dksX6_gift_0 1 rfl rfl)
theorem dX6_gift_2 : decode cX6_gift 2 = .ok (.invokevirtual 504, 3) := dk_182 1 248 (dk_at dksX6_gift_0 2 rfl rfl)
theorem dX6_gift_5 : decode cX6_gift 5 = .ok (.ifCond .eq 24, 3) := dk_153 0 24 (dk_at dksX6_gift_0 5 rfl rfl)
theorem dX6_gift_8 : decode cX6_gift 8 = .ok (.aload_n 0, 1) := dk_42 (dk_at dksX6_gift_0 8 rfl rfl)
theorem dX6_gift_9 : decode cX6_gift 9 = .ok (.iload_n 2, 1) := dk_28 (dk_at dksX6_gift_0 9 rfl rfl)
theorem dX6_gift_10 : decode cX6_gift 10 = .ok (.iconst 0, 1) := dk_3 (dk_at dksX6_gift_0 10 rfl rfl)
theorem dX6_gift_11 : decode cX6_gift 11 = .ok (.bipush 20, 2) := dk_16 20 (dk_at dksX6_gift_0 11 rfl rfl)
theorem dX6_gift_13 : decode cX6_gift 13 = .ok (.invokevirtual 514, 3) := dk_182 2 2 (dk_at dksX6_gift_0 13 rfl rfl)
theorem dX6_gift_16 : decode cX6_gift 16 = .ok (.ifCond .eq 13, 3) := dk_153 0 13 (dk_at dksX6_gift_0 16 rfl rfl)
theorem dX6_gift_19 : decode cX6_gift 19 = .ok (.iload_n 3, 1) := dk_29 (dk_at dksX6_gift_0 19 rfl rfl)
theorem dX6_gift_20 : decode cX6_gift 20 = .ok (.i2l, 1) := dk_133 (dk_at dksX6_gift_0 20 rfl rfl)
theorem dX6_gift_21 : decode cX6_gift 21 = .ok (.lconst 0, 1) := dk_9 (dk_at dksX6_gift_0 21 rfl rfl)
theorem dX6_gift_22 : decode cX6_gift 22 = .ok (.lconst 1, 1) := dk_10 (dk_at dksX6_gift_0 22 rfl rfl)
theorem dX6_gift_23 : decode cX6_gift 23 = .ok (.invokestatic 297, 3) := dk_184 1 41 (dk_at dksX6_gift_1 0 rfl rfl)
theorem dX6_gift_26 : decode cX6_gift 26 = .ok (.ifCond .ne 5, 3) := dk_154 0 5 (dk_at dksX6_gift_1 3 rfl rfl)
theorem dX6_gift_29 : decode cX6_gift 29 = .ok (.iconst (-1), 1) := dk_2 (dk_at dksX6_gift_1 6 rfl rfl)
theorem dX6_gift_30 : decode cX6_gift 30 = .ok (.ireturn, 1) := dk_172 (dk_at dksX6_gift_1 7 rfl rfl)
theorem dX6_gift_31 : decode cX6_gift 31 = .ok (.iconst (-1), 1) := dk_2 (dk_at dksX6_gift_1 8 rfl rfl)
theorem dX6_gift_32 : decode cX6_gift 32 = .ok (.istore 4, 2) := dk_54 4 (dk_at dksX6_gift_1 9 rfl rfl)
theorem dX6_gift_34 : decode cX6_gift 34 = .ok (.iconst (-1), 1) := dk_2 (dk_at dksX6_gift_1 11 rfl rfl)
theorem dX6_gift_35 : decode cX6_gift 35 = .ok (.istore 5, 2) := dk_54 5 (dk_at dksX6_gift_1 12 rfl rfl)
theorem dX6_gift_37 : decode cX6_gift 37 = .ok (.aload_n 0, 1) := dk_42 (dk_at dksX6_gift_1 14 rfl rfl)
theorem dX6_gift_38 : decode cX6_gift 38 = .ok (.invokevirtual 519, 3) := dk_182 2 7 (dk_at dksX6_gift_1 15 rfl rfl)
theorem dX6_gift_41 : decode cX6_gift 41 = .ok (.aload_n 0, 1) := dk_42 (dk_at dksX6_gift_1 18 rfl rfl)
theorem dX6_gift_42 : decode cX6_gift 42 = .ok (.iload_n 1, 1) := dk_27 (dk_at dksX6_gift_1 19 rfl rfl)
theorem dX6_gift_43 : decode cX6_gift 43 = .ok (.iload_n 2, 1) := dk_28 (dk_at dksX6_gift_1 20 rfl rfl)
theorem dX6_gift_44 : decode cX6_gift 44 = .ok (.invokevirtual 535, 3) := dk_182 2 23 (dk_at dksX6_gift_1 21 rfl rfl)
theorem dX6_gift_47 : decode cX6_gift 47 = .ok (.istore 6, 2) := dk_54 6 (dk_at dksX6_gift_2 0 rfl rfl)
theorem dX6_gift_49 : decode cX6_gift 49 = .ok (.iconst 0, 1) := dk_3 (dk_at dksX6_gift_2 2 rfl rfl)
theorem dX6_gift_50 : decode cX6_gift 50 = .ok (.istore 7, 2) := dk_54 7 (dk_at dksX6_gift_2 3 rfl rfl)
theorem dX6_gift_52 : decode cX6_gift 52 = .ok (.iload 7, 2) := dk_21 7 (dk_at dksX6_gift_2 5 rfl rfl)
theorem dX6_gift_54 : decode cX6_gift 54 = .ok (.aload_n 0, 1) := dk_42 (dk_at dksX6_gift_2 7 rfl rfl)
theorem dX6_gift_55 : decode cX6_gift 55 = .ok (.invokevirtual 401, 3) := dk_182 1 145 (dk_at dksX6_gift_2 8 rfl rfl)
theorem dX6_gift_58 : decode cX6_gift 58 = .ok (.if_icmp .ge 105, 3) := dk_162 0 105 (dk_at dksX6_gift_2 11 rfl rfl)
theorem dX6_gift_61 : decode cX6_gift 61 = .ok (.iload 6, 2) := dk_21 6 (dk_at dksX6_gift_2 14 rfl rfl)
theorem dX6_gift_63 : decode cX6_gift 63 = .ok (.ifCond .ne 100, 3) := dk_154 0 100 (dk_at dksX6_gift_2 16 rfl rfl)
theorem dX6_gift_66 : decode cX6_gift 66 = .ok (.iconst 0, 1) := dk_3 (dk_at dksX6_gift_2 19 rfl rfl)
theorem dX6_gift_67 : decode cX6_gift 67 = .ok (.istore 8, 2) := dk_54 8 (dk_at dksX6_gift_2 20 rfl rfl)
theorem dX6_gift_69 : decode cX6_gift 69 = .ok (.iload 8, 2) := dk_21 8 (dk_at dksX6_gift_2 22 rfl rfl)
theorem dX6_gift_71 : decode cX6_gift 71 = .ok (.aload_n 0, 1) := dk_42 (dk_at dksX6_gift_3 0 rfl rfl)
theorem dX6_gift_72 : decode cX6_gift 72 = .ok (.invokevirtual 398, 3) := dk_182 1 142 (dk_at dksX6_gift_3 1 rfl rfl)
theorem dX6_gift_75 : decode cX6_gift 75 = .ok (.if_icmp .ge 82, 3) := dk_162 0 82 (dk_at dksX6_gift_3 4 rfl rfl)
theorem dX6_gift_78 : decode cX6_gift 78 = .ok (.aload_n 0, 1) := dk_42 (dk_at dksX6_gift_3 7 rfl rfl)
theorem dX6_gift_79 : decode cX6_gift 79 = .ok (.iload 7, 2) := dk_21 7 (dk_at dksX6_gift_3 8 rfl rfl)
theorem dX6_gift_81 : decode cX6_gift 81 = .ok (.iload 8, 2) := dk_21 8 (dk_at dksX6_gift_3 10 rfl rfl)
theorem dX6_gift_83 : decode cX6_gift 83 = .ok (.invokevirtual 430, 3) := dk_182 1 174 (dk_at dksX6_gift_3 12 rfl rfl)
theorem dX6_gift_86 : decode cX6_gift 86 = .ok (.iconst 1, 1) := dk_4 (dk_at dksX6_gift_3 15 rfl rfl)
theorem dX6_gift_87 : decode cX6_gift 87 = .ok (.if_icmp .eq 64, 3) := dk_159 0 64 (dk_at dksX6_gift_3 16 rfl rfl)
theorem dX6_gift_90 : decode cX6_gift 90 = .ok (.iload 4, 2) := dk_21 4 (dk_at dksX6_gift_3 19 rfl rfl)
theorem dX6_gift_92 : decode cX6_gift 92 = .ok (.iconst (-1), 1) := dk_2 (dk_at dksX6_gift_3 21 rfl rfl)
theorem dX6_gift_93 : decode cX6_gift 93 = .ok (.if_icmp .eq 29, 3) := dk_159 0 29 (dk_at dksX6_gift_4 0 rfl rfl)
theorem dX6_gift_96 : decode cX6_gift 96 = .ok (.aload_n 0, 1) := dk_42 (dk_at dksX6_gift_4 3 rfl rfl)
theorem dX6_gift_97 : decode cX6_gift 97 = .ok (.getfield 112, 3) := dk_180 0 112 (dk_at dksX6_gift_4 4 rfl rfl)
theorem dX6_gift_100 : decode cX6_gift 100 = .ok (.bipush 8, 2) := dk_16 8 (dk_at dksX6_gift_4 7 rfl rfl)
theorem dX6_gift_102 : decode cX6_gift 102 = .ok (.iload 8, 2) := dk_21 8 (dk_at dksX6_gift_4 9 rfl rfl)
theorem dX6_gift_104 : decode cX6_gift 104 = .ok (.iadd, 1) := dk_96 (dk_at dksX6_gift_4 11 rfl rfl)
theorem dX6_gift_105 : decode cX6_gift 105 = .ok (.iaload, 1) := dk_46 (dk_at dksX6_gift_4 12 rfl rfl)
theorem dX6_gift_106 : decode cX6_gift 106 = .ok (.aload_n 0, 1) := dk_42 (dk_at dksX6_gift_4 13 rfl rfl)
theorem dX6_gift_107 : decode cX6_gift 107 = .ok (.getfield 112, 3) := dk_180 0 112 (dk_at dksX6_gift_4 14 rfl rfl)
theorem dX6_gift_110 : decode cX6_gift 110 = .ok (.bipush 8, 2) := dk_16 8 (dk_at dksX6_gift_4 17 rfl rfl)
theorem dX6_gift_112 : decode cX6_gift 112 = .ok (.iload 5, 2) := dk_21 5 (dk_at dksX6_gift_4 19 rfl rfl)
theorem dX6_gift_114 : decode cX6_gift 114 = .ok (.iadd, 1) := dk_96 (dk_at dksX6_gift_4 21 rfl rfl)
theorem dX6_gift_115 : decode cX6_gift 115 = .ok (.iaload, 1) := dk_46 (dk_at dksX6_gift_4 22 rfl rfl)
theorem dX6_gift_116 : decode cX6_gift 116 = .ok (.if_icmp .lt 6, 3) := dk_161 0 6 (dk_at dksX6_gift_5 0 rfl rfl)
theorem dX6_gift_119 : decode cX6_gift 119 = .ok (.goto 32, 3) := dk_167 0 32 (dk_at dksX6_gift_5 3 rfl rfl)
theorem dX6_gift_122 : decode cX6_gift 122 = .ok (.aload_n 0, 1) := dk_42 (dk_at dksX6_gift_5 6 rfl rfl)
theorem dX6_gift_123 : decode cX6_gift 123 = .ok (.iload 7, 2) := dk_21 7 (dk_at dksX6_gift_5 7 rfl rfl)
theorem dX6_gift_125 : decode cX6_gift 125 = .ok (.iload 8, 2) := dk_21 8 (dk_at dksX6_gift_5 9 rfl rfl)
theorem dX6_gift_127 : decode cX6_gift 127 = .ok (.iconst 1, 1) := dk_4 (dk_at dksX6_gift_5 11 rfl rfl)
theorem dX6_gift_128 : decode cX6_gift 128 = .ok (.invokevirtual 439, 3) := dk_182 1 183 (dk_at dksX6_gift_5 12 rfl rfl)
theorem dX6_gift_131 : decode cX6_gift 131 = .ok (.aload_n 0, 1) := dk_42 (dk_at dksX6_gift_5 15 rfl rfl)
theorem dX6_gift_132 : decode cX6_gift 132 = .ok (.iload_n 1, 1) := dk_27 (dk_at dksX6_gift_5 16 rfl rfl)
theorem dX6_gift_133 : decode cX6_gift 133 = .ok (.iload_n 2, 1) := dk_28 (dk_at dksX6_gift_5 17 rfl rfl)
theorem dX6_gift_134 : decode cX6_gift 134 = .ok (.invokevirtual 535, 3) := dk_182 2 23 (dk_at dksX6_gift_5 18 rfl rfl)
theorem dX6_gift_137 : decode cX6_gift 137 = .ok (.ifCond .ne 6, 3) := dk_154 0 6 (dk_at dksX6_gift_5 21 rfl rfl)
theorem dX6_gift_140 : decode cX6_gift 140 = .ok (.goto 11, 3) := dk_167 0 11 (dk_at dksX6_gift_6 0 rfl rfl)
theorem dX6_gift_143 : decode cX6_gift 143 = .ok (.iload 7, 2) := dk_21 7 (dk_at dksX6_gift_6 3 rfl rfl)
theorem dX6_gift_145 : decode cX6_gift 145 = .ok (.istore 4, 2) := dk_54 4 (dk_at dksX6_gift_6 5 rfl rfl)
theorem dX6_gift_147 : decode cX6_gift 147 = .ok (.iload 8, 2) := dk_21 8 (dk_at dksX6_gift_6 7 rfl rfl)
theorem dX6_gift_149 : decode cX6_gift 149 = .ok (.istore 5, 2) := dk_54 5 (dk_at dksX6_gift_6 9 rfl rfl)
theorem dX6_gift_151 : decode cX6_gift 151 = .ok (.iinc 8 1, 3) := dk_132 8 1 (dk_at dksX6_gift_6 11 rfl rfl)
theorem dX6_gift_154 : decode cX6_gift 154 = .ok (.goto (-85), 3) := dk_167 255 171 (dk_at dksX6_gift_6 14 rfl rfl)
theorem dX6_gift_157 : decode cX6_gift 157 = .ok (.iinc 7 1, 3) := dk_132 7 1 (dk_at dksX6_gift_6 17 rfl rfl)
theorem dX6_gift_160 : decode cX6_gift 160 = .ok (.goto (-108), 3) := dk_167 255 148 (dk_at dksX6_gift_6 20 rfl rfl)
theorem dX6_gift_163 : decode cX6_gift 163 = .ok (.aload_n 0, 1) := dk_42 (dk_at dksX6_gift_6 23 rfl rfl)
theorem dX6_gift_164 : decode cX6_gift 164 = .ok (.invokevirtual 525, 3) := dk_182 2 13 (dk_at dksX6_gift_7 0 rfl rfl)
theorem dX6_gift_167 : decode cX6_gift 167 = .ok (.iload 4, 2) := dk_21 4 (dk_at dksX6_gift_7 3 rfl rfl)
theorem dX6_gift_169 : decode cX6_gift 169 = .ok (.iconst (-1), 1) := dk_2 (dk_at dksX6_gift_7 5 rfl rfl)
theorem dX6_gift_170 : decode cX6_gift 170 = .ok (.if_icmp .ne 7, 3) := dk_160 0 7 (dk_at dksX6_gift_7 6 rfl rfl)
theorem dX6_gift_173 : decode cX6_gift 173 = .ok (.iconst (-1), 1) := dk_2 (dk_at dksX6_gift_7 9 rfl rfl)
theorem dX6_gift_174 : decode cX6_gift 174 = .ok (.goto 14, 3) := dk_167 0 14 (dk_at dksX6_gift_7 10 rfl rfl)
theorem dX6_gift_177 : decode cX6_gift 177 = .ok (.iload_n 3, 1) := dk_29 (dk_at dksX6_gift_7 13 rfl rfl)
theorem dX6_gift_178 : decode cX6_gift 178 = .ok (.ifCond .ne 8, 3) := dk_154 0 8 (dk_at dksX6_gift_7 14 rfl rfl)
theorem dX6_gift_181 : decode cX6_gift 181 = .ok (.iload 4, 2) := dk_21 4 (dk_at dksX6_gift_7 17 rfl rfl)
theorem dX6_gift_183 : decode cX6_gift 183 = .ok (.goto 5, 3) := dk_167 0 5 (dk_at dksX6_gift_7 19 rfl rfl)
theorem dX6_gift_186 : decode cX6_gift 186 = .ok (.iload 5, 2) := dk_21 5 (dk_at dksX6_gift_7 22 rfl rfl)
theorem dX6_gift_188 : decode cX6_gift 188 = .ok (.ireturn, 1) := dk_172 (dk_at dksX6_gift_8 0 rfl rfl)
abbrev cX6_isDoctorBehind : ByteArray := prog_22_method_76_code
def yX6_isDoctorBehind : MethodName := ⟨RX6, "isDoctorBehind", "(II)Z"⟩
def dkwX6_isDoctorBehind_0 : List UInt8 := [42, 28, 182, 2, 10, 42, 27, 182, 1, 215, 62, 42, 182, 1, 224, 29, 172]
abbrev dktX6_isDoctorBehind_0 : List UInt8 := dkwX6_isDoctorBehind_0 ++ []
theorem dksX6_isDoctorBehind_0 : cX6_isDoctorBehind.data.toList.drop 0 = dktX6_isDoctorBehind_0 := by decide +kernel
theorem dX6_isDoctorBehind_0 : decode cX6_isDoctorBehind 0 = .ok (.aload_n 0, 1) := dk_42 (dk_at dksX6_isDoctorBehind_0 0 rfl rfl)
theorem dX6_isDoctorBehind_1 : decode cX6_isDoctorBehind 1 = .ok (.iload_n 2, 1) := dk_28 (dk_at dksX6_isDoctorBehind_0 1 rfl rfl)
theorem dX6_isDoctorBehind_2 : decode cX6_isDoctorBehind 2 = .ok (.invokevirtual 522, 3) := dk_182 2 10 (dk_at dksX6_isDoctorBehind_0 2 rfl rfl)
theorem dX6_isDoctorBehind_5 : decode cX6_isDoctorBehind 5 = .ok (.aload_n 0, 1) := dk_42 (dk_at dksX6_isDoctorBehind_0 5 rfl rfl)
theorem dX6_isDoctorBehind_6 : decode cX6_isDoctorBehind 6 = .ok (.iload_n 1, 1) := dk_27 (dk_at dksX6_isDoctorBehind_0 6 rfl rfl)
theorem dX6_isDoctorBehind_7 : decode cX6_isDoctorBehind 7 = .ok (.invokevirtual 471, 3) := dk_182 1 215 (dk_at dksX6_isDoctorBehind_0 7 rfl rfl)
theorem dX6_isDoctorBehind_10 : decode cX6_isDoctorBehind 10 = .ok (.istore_n 3, 1) := dk_62 (dk_at dksX6_isDoctorBehind_0 10 rfl rfl)
theorem dX6_isDoctorBehind_11 : decode cX6_isDoctorBehind 11 = .ok (.aload_n 0, 1) := dk_42 (dk_at dksX6_isDoctorBehind_0 11 rfl rfl)
theorem dX6_isDoctorBehind_12 : decode cX6_isDoctorBehind 12 = .ok (.invokevirtual 480, 3) := dk_182 1 224 (dk_at dksX6_isDoctorBehind_0 12 rfl rfl)
theorem dX6_isDoctorBehind_15 : decode cX6_isDoctorBehind 15 = .ok (.iload_n 3, 1) := dk_29 (dk_at dksX6_isDoctorBehind_0 15 rfl rfl)
theorem dX6_isDoctorBehind_16 : decode cX6_isDoctorBehind 16 = .ok (.ireturn, 1) := dk_172 (dk_at dksX6_isDoctorBehind_0 16 rfl rfl)
abbrev cX6_law : ByteArray := prog_22_method_78_code
def yX6_law : MethodName := ⟨RX6, "law", "(II)I"⟩
def dkwX6_law_5 : List UInt8 := [21, 5, 62, 132, 5, 1, 167, 255, 168, 42, 182, 2, 13, 28, 154, 0, 7, 29, 167, 0, 5, 21, 4, 172]
abbrev dktX6_law_5 : List UInt8 := dkwX6_law_5 ++ []
def dkwX6_law_4 : List UInt8 := [184, 1, 227, 54, 6, 42, 182, 1, 224, 21, 6, 21, 4, 163, 0, 6, 167, 0, 10, 21, 6, 54, 4]
abbrev dktX6_law_4 : List UInt8 := dkwX6_law_4 ++ dktX6_law_5
def dkwX6_law_3 : List UInt8 := [96, 6, 96, 21, 5, 79, 132, 6, 1, 167, 255, 220, 42, 27, 182, 2, 10, 42, 5, 182, 1, 230]
abbrev dktX6_law_3 : List UInt8 := dkwX6_law_3 ++ dktX6_law_4
def dkwX6_law_2 : List UInt8 := [182, 1, 145, 162, 0, 33, 42, 21, 6, 182, 1, 191, 154, 0, 18, 42, 180, 0, 139, 4, 8, 21, 6, 104]
abbrev dktX6_law_2 : List UInt8 := dkwX6_law_2 ++ dktX6_law_3
def dkwX6_law_1 : List UInt8 := [62, 2, 54, 4, 42, 182, 2, 7, 3, 54, 5, 21, 5, 16, 9, 163, 0, 87, 3, 54, 6, 21, 6, 42]
abbrev dktX6_law_1 : List UInt8 := dkwX6_law_1 ++ dktX6_law_2
def dkwX6_law_0 : List UInt8 := [42, 27, 3, 16, 20, 182, 2, 2, 153, 0, 13, 28, 133, 9, 10, 184, 1, 41, 154, 0, 5, 2, 172, 3]
abbrev dktX6_law_0 : List UInt8 := dkwX6_law_0 ++ dktX6_law_1
theorem dksX6_law_0 : cX6_law.data.toList.drop 0 = dktX6_law_0 := by decide +kernel
theorem dksX6_law_1 : cX6_law.data.toList.drop 24 = dktX6_law_1 := dk_seg dksX6_law_0 24 rfl rfl
theorem dksX6_law_2 : cX6_law.data.toList.drop 48 = dktX6_law_2 := dk_seg dksX6_law_1 24 rfl rfl
theorem dksX6_law_3 : cX6_law.data.toList.drop 72 = dktX6_law_3 := dk_seg dksX6_law_2 24 rfl rfl
theorem dksX6_law_4 : cX6_law.data.toList.drop 94 = dktX6_law_4 := dk_seg dksX6_law_3 22 rfl rfl
theorem dksX6_law_5 : cX6_law.data.toList.drop 117 = dktX6_law_5 := dk_seg dksX6_law_4 23 rfl rfl
theorem dX6_law_0 : decode cX6_law 0 = .ok (.aload_n 0, 1) := dk_42 (dk_at dksX6_law_0 0 rfl rfl)
theorem dX6_law_1 : decode cX6_law 1 = .ok (.iload_n 1, 1) := dk_27 (dk_at dksX6_law_0 1 rfl rfl)
theorem dX6_law_2 : decode cX6_law 2 = .ok (.iconst 0, 1) := dk_3 (dk_at dksX6_law_0 2 rfl rfl)
theorem dX6_law_3 : decode cX6_law 3 = .ok (.bipush 20, 2) := dk_16 20 (dk_at dksX6_law_0 3 rfl rfl)
theorem dX6_law_5 : decode cX6_law 5 = .ok (.invokevirtual 514, 3) := dk_182 2 2 (dk_at dksX6_law_0 5 rfl rfl)
theorem dX6_law_8 : decode cX6_law 8 = .ok (.ifCond .eq 13, 3) := dk_153 0 13 (dk_at dksX6_law_0 8 rfl rfl)
theorem dX6_law_11 : decode cX6_law 11 = .ok (.iload_n 2, 1) := dk_28 (dk_at dksX6_law_0 11 rfl rfl)
theorem dX6_law_12 : decode cX6_law 12 = .ok (.i2l, 1) := dk_133 (dk_at dksX6_law_0 12 rfl rfl)
theorem dX6_law_13 : decode cX6_law 13 = .ok (.lconst 0, 1) := dk_9 (dk_at dksX6_law_0 13 rfl rfl)
theorem dX6_law_14 : decode cX6_law 14 = .ok (.lconst 1, 1) := dk_10 (dk_at dksX6_law_0 14 rfl rfl)
theorem dX6_law_15 : decode cX6_law 15 = .ok (.invokestatic 297, 3) := dk_184 1 41 (dk_at dksX6_law_0 15 rfl rfl)
theorem dX6_law_18 : decode cX6_law 18 = .ok (.ifCond .ne 5, 3) := dk_154 0 5 (dk_at dksX6_law_0 18 rfl rfl)
theorem dX6_law_21 : decode cX6_law 21 = .ok (.iconst (-1), 1) := dk_2 (dk_at dksX6_law_0 21 rfl rfl)
theorem dX6_law_22 : decode cX6_law 22 = .ok (.ireturn, 1) := dk_172 (dk_at dksX6_law_0 22 rfl rfl)
theorem dX6_law_23 : decode cX6_law 23 = .ok (.iconst 0, 1) := dk_3 (dk_at dksX6_law_0 23 rfl rfl)
theorem dX6_law_24 : decode cX6_law 24 = .ok (.istore_n 3, 1) := dk_62 (dk_at dksX6_law_1 0 rfl rfl)
theorem dX6_law_25 : decode cX6_law 25 = .ok (.iconst (-1), 1) := dk_2 (dk_at dksX6_law_1 1 rfl rfl)
theorem dX6_law_26 : decode cX6_law 26 = .ok (.istore 4, 2) := dk_54 4 (dk_at dksX6_law_1 2 rfl rfl)
theorem dX6_law_28 : decode cX6_law 28 = .ok (.aload_n 0, 1) := dk_42 (dk_at dksX6_law_1 4 rfl rfl)
theorem dX6_law_29 : decode cX6_law 29 = .ok (.invokevirtual 519, 3) := dk_182 2 7 (dk_at dksX6_law_1 5 rfl rfl)
theorem dX6_law_32 : decode cX6_law 32 = .ok (.iconst 0, 1) := dk_3 (dk_at dksX6_law_1 8 rfl rfl)
theorem dX6_law_33 : decode cX6_law 33 = .ok (.istore 5, 2) := dk_54 5 (dk_at dksX6_law_1 9 rfl rfl)
theorem dX6_law_35 : decode cX6_law 35 = .ok (.iload 5, 2) := dk_21 5 (dk_at dksX6_law_1 11 rfl rfl)
theorem dX6_law_37 : decode cX6_law 37 = .ok (.bipush 9, 2) := dk_16 9 (dk_at dksX6_law_1 13 rfl rfl)
theorem dX6_law_39 : decode cX6_law 39 = .ok (.if_icmp .gt 87, 3) := dk_163 0 87 (dk_at dksX6_law_1 15 rfl rfl)
theorem dX6_law_42 : decode cX6_law 42 = .ok (.iconst 0, 1) := dk_3 (dk_at dksX6_law_1 18 rfl rfl)
theorem dX6_law_43 : decode cX6_law 43 = .ok (.istore 6, 2) := dk_54 6 (dk_at dksX6_law_1 19 rfl rfl)
theorem dX6_law_45 : decode cX6_law 45 = .ok (.iload 6, 2) := dk_21 6 (dk_at dksX6_law_1 21 rfl rfl)
theorem dX6_law_47 : decode cX6_law 47 = .ok (.aload_n 0, 1) := dk_42 (dk_at dksX6_law_1 23 rfl rfl)
theorem dX6_law_48 : decode cX6_law 48 = .ok (.invokevirtual 401, 3) := dk_182 1 145 (dk_at dksX6_law_2 0 rfl rfl)
theorem dX6_law_51 : decode cX6_law 51 = .ok (.if_icmp .ge 33, 3) := dk_162 0 33 (dk_at dksX6_law_2 3 rfl rfl)
theorem dX6_law_54 : decode cX6_law 54 = .ok (.aload_n 0, 1) := dk_42 (dk_at dksX6_law_2 6 rfl rfl)
theorem dX6_law_55 : decode cX6_law 55 = .ok (.iload 6, 2) := dk_21 6 (dk_at dksX6_law_2 7 rfl rfl)
theorem dX6_law_57 : decode cX6_law 57 = .ok (.invokevirtual 447, 3) := dk_182 1 191 (dk_at dksX6_law_2 9 rfl rfl)
theorem dX6_law_60 : decode cX6_law 60 = .ok (.ifCond .ne 18, 3) := dk_154 0 18 (dk_at dksX6_law_2 12 rfl rfl)
theorem dX6_law_63 : decode cX6_law 63 = .ok (.aload_n 0, 1) := dk_42 (dk_at dksX6_law_2 15 rfl rfl)
theorem dX6_law_64 : decode cX6_law 64 = .ok (.getfield 139, 3) := dk_180 0 139 (dk_at dksX6_law_2 16 rfl rfl)
theorem dX6_law_67 : decode cX6_law 67 = .ok (.iconst 1, 1) := dk_4 (dk_at dksX6_law_2 19 rfl rfl)
theorem dX6_law_68 : decode cX6_law 68 = .ok (.iconst 5, 1) := dk_8 (dk_at dksX6_law_2 20 rfl rfl)
theorem dX6_law_69 : decode cX6_law 69 = .ok (.iload 6, 2) := dk_21 6 (dk_at dksX6_law_2 21 rfl rfl)
theorem dX6_law_71 : decode cX6_law 71 = .ok (.imul, 1) := dk_104 (dk_at dksX6_law_2 23 rfl rfl)
theorem dX6_law_72 : decode cX6_law 72 = .ok (.iadd, 1) := dk_96 (dk_at dksX6_law_3 0 rfl rfl)
theorem dX6_law_73 : decode cX6_law 73 = .ok (.iconst 3, 1) := dk_6 (dk_at dksX6_law_3 1 rfl rfl)
theorem dX6_law_74 : decode cX6_law 74 = .ok (.iadd, 1) := dk_96 (dk_at dksX6_law_3 2 rfl rfl)
theorem dX6_law_75 : decode cX6_law 75 = .ok (.iload 5, 2) := dk_21 5 (dk_at dksX6_law_3 3 rfl rfl)
theorem dX6_law_77 : decode cX6_law 77 = .ok (.iastore, 1) := dk_79 (dk_at dksX6_law_3 5 rfl rfl)
theorem dX6_law_78 : decode cX6_law 78 = .ok (.iinc 6 1, 3) := dk_132 6 1 (dk_at dksX6_law_3 6 rfl rfl)
theorem dX6_law_81 : decode cX6_law 81 = .ok (.goto (-36), 3) := dk_167 255 220 (dk_at dksX6_law_3 9 rfl rfl)
theorem dX6_law_84 : decode cX6_law 84 = .ok (.aload_n 0, 1) := dk_42 (dk_at dksX6_law_3 12 rfl rfl)
theorem dX6_law_85 : decode cX6_law 85 = .ok (.iload_n 1, 1) := dk_27 (dk_at dksX6_law_3 13 rfl rfl)
theorem dX6_law_86 : decode cX6_law 86 = .ok (.invokevirtual 522, 3) := dk_182 2 10 (dk_at dksX6_law_3 14 rfl rfl)
theorem dX6_law_89 : decode cX6_law 89 = .ok (.aload_n 0, 1) := dk_42 (dk_at dksX6_law_3 17 rfl rfl)
theorem dX6_law_90 : decode cX6_law 90 = .ok (.iconst 2, 1) := dk_5 (dk_at dksX6_law_3 18 rfl rfl)
theorem dX6_law_91 : decode cX6_law 91 = .ok (.invokevirtual 486, 3) := dk_182 1 230 (dk_at dksX6_law_3 19 rfl rfl)
theorem dX6_law_94 : decode cX6_law 94 = .ok (.invokestatic 483, 3) := dk_184 1 227 (dk_at dksX6_law_4 0 rfl rfl)
theorem dX6_law_97 : decode cX6_law 97 = .ok (.istore 6, 2) := dk_54 6 (dk_at dksX6_law_4 3 rfl rfl)
theorem dX6_law_99 : decode cX6_law 99 = .ok (.aload_n 0, 1) := dk_42 (dk_at dksX6_law_4 5 rfl rfl)
theorem dX6_law_100 : decode cX6_law 100 = .ok (.invokevirtual 480, 3) := dk_182 1 224 (dk_at dksX6_law_4 6 rfl rfl)
theorem dX6_law_103 : decode cX6_law 103 = .ok (.iload 6, 2) := dk_21 6 (dk_at dksX6_law_4 9 rfl rfl)
theorem dX6_law_105 : decode cX6_law 105 = .ok (.iload 4, 2) := dk_21 4 (dk_at dksX6_law_4 11 rfl rfl)
theorem dX6_law_107 : decode cX6_law 107 = .ok (.if_icmp .gt 6, 3) := dk_163 0 6 (dk_at dksX6_law_4 13 rfl rfl)
theorem dX6_law_110 : decode cX6_law 110 = .ok (.goto 10, 3) := dk_167 0 10 (dk_at dksX6_law_4 16 rfl rfl)
theorem dX6_law_113 : decode cX6_law 113 = .ok (.iload 6, 2) := dk_21 6 (dk_at dksX6_law_4 19 rfl rfl)
theorem dX6_law_115 : decode cX6_law 115 = .ok (.istore 4, 2) := dk_54 4 (dk_at dksX6_law_4 21 rfl rfl)
theorem dX6_law_117 : decode cX6_law 117 = .ok (.iload 5, 2) := dk_21 5 (dk_at dksX6_law_5 0 rfl rfl)
theorem dX6_law_119 : decode cX6_law 119 = .ok (.istore_n 3, 1) := dk_62 (dk_at dksX6_law_5 2 rfl rfl)
theorem dX6_law_120 : decode cX6_law 120 = .ok (.iinc 5 1, 3) := dk_132 5 1 (dk_at dksX6_law_5 3 rfl rfl)
theorem dX6_law_123 : decode cX6_law 123 = .ok (.goto (-88), 3) := dk_167 255 168 (dk_at dksX6_law_5 6 rfl rfl)
theorem dX6_law_126 : decode cX6_law 126 = .ok (.aload_n 0, 1) := dk_42 (dk_at dksX6_law_5 9 rfl rfl)
theorem dX6_law_127 : decode cX6_law 127 = .ok (.invokevirtual 525, 3) := dk_182 2 13 (dk_at dksX6_law_5 10 rfl rfl)
theorem dX6_law_130 : decode cX6_law 130 = .ok (.iload_n 2, 1) := dk_28 (dk_at dksX6_law_5 13 rfl rfl)
theorem dX6_law_131 : decode cX6_law 131 = .ok (.ifCond .ne 7, 3) := dk_154 0 7 (dk_at dksX6_law_5 14 rfl rfl)
theorem dX6_law_134 : decode cX6_law 134 = .ok (.iload_n 3, 1) := dk_29 (dk_at dksX6_law_5 17 rfl rfl)
theorem dX6_law_135 : decode cX6_law 135 = .ok (.goto 5, 3) := dk_167 0 5 (dk_at dksX6_law_5 18 rfl rfl)
theorem dX6_law_138 : decode cX6_law 138 = .ok (.iload 4, 2) := dk_21 4 (dk_at dksX6_law_5 21 rfl rfl)
theorem dX6_law_140 : decode cX6_law 140 = .ok (.ireturn, 1) := dk_172 (dk_at dksX6_law_5 23 rfl rfl)
abbrev cX6_hear : ByteArray := prog_22_method_79_code
def yX6_hear : MethodName := ⟨RX6, "hear", "()I"⟩
def dkwX6_hear_5 : List UInt8 := [132, 3, 1, 167, 255, 236, 42, 27, 5, 108, 181, 1, 139, 42, 180, 1, 139, 172]
abbrev dktX6_hear_5 : List UInt8 := dkwX6_hear_5 ++ []
def dkwX6_hear_4 : List UInt8 := [79, 2, 172, 3, 62, 29, 27, 162, 0, 21, 42, 180, 0, 151, 29, 42, 180, 0, 7, 29, 46, 79]
abbrev dktX6_hear_4 : List UInt8 := dkwX6_hear_4 ++ dktX6_hear_5
def dkwX6_hear_3 : List UInt8 := [167, 0, 4, 3, 61, 132, 3, 2, 167, 255, 213, 28, 154, 0, 15, 42, 180, 0, 17, 4, 92, 46, 4, 96]
abbrev dktX6_hear_3 : List UInt8 := dkwX6_hear_3 ++ dktX6_hear_4
def dkwX6_hear_2 : List UInt8 := [180, 0, 7, 29, 46, 182, 1, 248, 153, 0, 19, 42, 180, 0, 7, 29, 4, 96, 46, 6, 162, 0, 7, 4]
abbrev dktX6_hear_2 : List UInt8 := dkwX6_hear_2 ++ dktX6_hear_3
def dkwX6_hear_1 : List UInt8 := [16, 16, 163, 0, 7, 4, 167, 0, 4, 3, 61, 3, 62, 29, 27, 162, 0, 44, 28, 153, 0, 40, 42, 42]
abbrev dktX6_hear_1 : List UInt8 := dkwX6_hear_1 ++ dktX6_hear_2
def dkwX6_hear_0 : List UInt8 := [42, 180, 0, 254, 60, 42, 3, 181, 0, 254, 27, 158, 0, 21, 27, 5, 112, 154, 0, 15, 27, 5, 108]
abbrev dktX6_hear_0 : List UInt8 := dkwX6_hear_0 ++ dktX6_hear_1
theorem dksX6_hear_0 : cX6_hear.data.toList.drop 0 = dktX6_hear_0 := by decide +kernel
theorem dksX6_hear_1 : cX6_hear.data.toList.drop 23 = dktX6_hear_1 := dk_seg dksX6_hear_0 23 rfl rfl
theorem dksX6_hear_2 : cX6_hear.data.toList.drop 47 = dktX6_hear_2 := dk_seg dksX6_hear_1 24 rfl rfl
theorem dksX6_hear_3 : cX6_hear.data.toList.drop 71 = dktX6_hear_3 := dk_seg dksX6_hear_2 24 rfl rfl
theorem dksX6_hear_4 : cX6_hear.data.toList.drop 95 = dktX6_hear_4 := dk_seg dksX6_hear_3 24 rfl rfl
theorem dksX6_hear_5 : cX6_hear.data.toList.drop 117 = dktX6_hear_5 := dk_seg dksX6_hear_4 22 rfl rfl
theorem dX6_hear_0 : decode cX6_hear 0 = .ok (.aload_n 0, 1) := dk_42 (dk_at dksX6_hear_0 0 rfl rfl)
theorem dX6_hear_1 : decode cX6_hear 1 = .ok (.getfield 254, 3) := dk_180 0 254 (dk_at dksX6_hear_0 1 rfl rfl)
theorem dX6_hear_4 : decode cX6_hear 4 = .ok (.istore_n 1, 1) := dk_60 (dk_at dksX6_hear_0 4 rfl rfl)
theorem dX6_hear_5 : decode cX6_hear 5 = .ok (.aload_n 0, 1) := dk_42 (dk_at dksX6_hear_0 5 rfl rfl)
theorem dX6_hear_6 : decode cX6_hear 6 = .ok (.iconst 0, 1) := dk_3 (dk_at dksX6_hear_0 6 rfl rfl)
theorem dX6_hear_7 : decode cX6_hear 7 = .ok (.putfield 254, 3) := dk_181 0 254 (dk_at dksX6_hear_0 7 rfl rfl)
theorem dX6_hear_10 : decode cX6_hear 10 = .ok (.iload_n 1, 1) := dk_27 (dk_at dksX6_hear_0 10 rfl rfl)
theorem dX6_hear_11 : decode cX6_hear 11 = .ok (.ifCond .le 21, 3) := dk_158 0 21 (dk_at dksX6_hear_0 11 rfl rfl)
theorem dX6_hear_14 : decode cX6_hear 14 = .ok (.iload_n 1, 1) := dk_27 (dk_at dksX6_hear_0 14 rfl rfl)
theorem dX6_hear_15 : decode cX6_hear 15 = .ok (.iconst 2, 1) := dk_5 (dk_at dksX6_hear_0 15 rfl rfl)
theorem dX6_hear_16 : decode cX6_hear 16 = .ok (.irem, 1) := dk_112 (dk_at dksX6_hear_0 16 rfl rfl)
theorem dX6_hear_17 : decode cX6_hear 17 = .ok (.ifCond .ne 15, 3) := dk_154 0 15 (dk_at dksX6_hear_0 17 rfl rfl)
theorem dX6_hear_20 : decode cX6_hear 20 = .ok (.iload_n 1, 1) := dk_27 (dk_at dksX6_hear_0 20 rfl rfl)
theorem dX6_hear_21 : decode cX6_hear 21 = .ok (.iconst 2, 1) := dk_5 (dk_at dksX6_hear_0 21 rfl rfl)
theorem dX6_hear_22 : decode cX6_hear 22 = .ok (.idiv, 1) := dk_108 (dk_at dksX6_hear_0 22 rfl rfl)
theorem dX6_hear_23 : decode cX6_hear 23 = .ok (.bipush 16, 2) := dk_16 16 (dk_at dksX6_hear_1 0 rfl rfl)
theorem dX6_hear_25 : decode cX6_hear 25 = .ok (.if_icmp .gt 7, 3) := dk_163 0 7 (dk_at dksX6_hear_1 2 rfl rfl)
theorem dX6_hear_28 : decode cX6_hear 28 = .ok (.iconst 1, 1) := dk_4 (dk_at dksX6_hear_1 5 rfl rfl)
theorem dX6_hear_29 : decode cX6_hear 29 = .ok (.goto 4, 3) := dk_167 0 4 (dk_at dksX6_hear_1 6 rfl rfl)
theorem dX6_hear_32 : decode cX6_hear 32 = .ok (.iconst 0, 1) := dk_3 (dk_at dksX6_hear_1 9 rfl rfl)
theorem dX6_hear_33 : decode cX6_hear 33 = .ok (.istore_n 2, 1) := dk_61 (dk_at dksX6_hear_1 10 rfl rfl)
theorem dX6_hear_34 : decode cX6_hear 34 = .ok (.iconst 0, 1) := dk_3 (dk_at dksX6_hear_1 11 rfl rfl)
theorem dX6_hear_35 : decode cX6_hear 35 = .ok (.istore_n 3, 1) := dk_62 (dk_at dksX6_hear_1 12 rfl rfl)
theorem dX6_hear_36 : decode cX6_hear 36 = .ok (.iload_n 3, 1) := dk_29 (dk_at dksX6_hear_1 13 rfl rfl)
theorem dX6_hear_37 : decode cX6_hear 37 = .ok (.iload_n 1, 1) := dk_27 (dk_at dksX6_hear_1 14 rfl rfl)
theorem dX6_hear_38 : decode cX6_hear 38 = .ok (.if_icmp .ge 44, 3) := dk_162 0 44 (dk_at dksX6_hear_1 15 rfl rfl)
theorem dX6_hear_41 : decode cX6_hear 41 = .ok (.iload_n 2, 1) := dk_28 (dk_at dksX6_hear_1 18 rfl rfl)
theorem dX6_hear_42 : decode cX6_hear 42 = .ok (.ifCond .eq 40, 3) := dk_153 0 40 (dk_at dksX6_hear_1 19 rfl rfl)
theorem dX6_hear_45 : decode cX6_hear 45 = .ok (.aload_n 0, 1) := dk_42 (dk_at dksX6_hear_1 22 rfl rfl)
theorem dX6_hear_46 : decode cX6_hear 46 = .ok (.aload_n 0, 1) := dk_42 (dk_at dksX6_hear_1 23 rfl rfl)
theorem dX6_hear_47 : decode cX6_hear 47 = .ok (.getfield 7, 3) := dk_180 0 7 (dk_at dksX6_hear_2 0 rfl rfl)
theorem dX6_hear_50 : decode cX6_hear 50 = .ok (.iload_n 3, 1) := dk_29 (dk_at dksX6_hear_2 3 rfl rfl)
theorem dX6_hear_51 : decode cX6_hear 51 = .ok (.iaload, 1) := dk_46 (dk_at dksX6_hear_2 4 rfl rfl)
theorem dX6_hear_52 : decode cX6_hear 52 = .ok (.invokevirtual 504, 3) := dk_182 1 248 (dk_at dksX6_hear_2 5 rfl rfl)
theorem dX6_hear_55 : decode cX6_hear 55 = .ok (.ifCond .eq 19, 3) := dk_153 0 19 (dk_at dksX6_hear_2 8 rfl rfl)
theorem dX6_hear_58 : decode cX6_hear 58 = .ok (.aload_n 0, 1) := dk_42 (dk_at dksX6_hear_2 11 rfl rfl)
theorem dX6_hear_59 : decode cX6_hear 59 = .ok (.getfield 7, 3) := dk_180 0 7 (dk_at dksX6_hear_2 12 rfl rfl)
theorem dX6_hear_62 : decode cX6_hear 62 = .ok (.iload_n 3, 1) := dk_29 (dk_at dksX6_hear_2 15 rfl rfl)
theorem dX6_hear_63 : decode cX6_hear 63 = .ok (.iconst 1, 1) := dk_4 (dk_at dksX6_hear_2 16 rfl rfl)
theorem dX6_hear_64 : decode cX6_hear 64 = .ok (.iadd, 1) := dk_96 (dk_at dksX6_hear_2 17 rfl rfl)
theorem dX6_hear_65 : decode cX6_hear 65 = .ok (.iaload, 1) := dk_46 (dk_at dksX6_hear_2 18 rfl rfl)
theorem dX6_hear_66 : decode cX6_hear 66 = .ok (.iconst 3, 1) := dk_6 (dk_at dksX6_hear_2 19 rfl rfl)
theorem dX6_hear_67 : decode cX6_hear 67 = .ok (.if_icmp .ge 7, 3) := dk_162 0 7 (dk_at dksX6_hear_2 20 rfl rfl)
theorem dX6_hear_70 : decode cX6_hear 70 = .ok (.iconst 1, 1) := dk_4 (dk_at dksX6_hear_2 23 rfl rfl)
theorem dX6_hear_71 : decode cX6_hear 71 = .ok (.goto 4, 3) := dk_167 0 4 (dk_at dksX6_hear_3 0 rfl rfl)
theorem dX6_hear_74 : decode cX6_hear 74 = .ok (.iconst 0, 1) := dk_3 (dk_at dksX6_hear_3 3 rfl rfl)
theorem dX6_hear_75 : decode cX6_hear 75 = .ok (.istore_n 2, 1) := dk_61 (dk_at dksX6_hear_3 4 rfl rfl)
theorem dX6_hear_76 : decode cX6_hear 76 = .ok (.iinc 3 2, 3) := dk_132 3 2 (dk_at dksX6_hear_3 5 rfl rfl)
theorem dX6_hear_79 : decode cX6_hear 79 = .ok (.goto (-43), 3) := dk_167 255 213 (dk_at dksX6_hear_3 8 rfl rfl)
theorem dX6_hear_82 : decode cX6_hear 82 = .ok (.iload_n 2, 1) := dk_28 (dk_at dksX6_hear_3 11 rfl rfl)
theorem dX6_hear_83 : decode cX6_hear 83 = .ok (.ifCond .ne 15, 3) := dk_154 0 15 (dk_at dksX6_hear_3 12 rfl rfl)
theorem dX6_hear_86 : decode cX6_hear 86 = .ok (.aload_n 0, 1) := dk_42 (dk_at dksX6_hear_3 15 rfl rfl)
theorem dX6_hear_87 : decode cX6_hear 87 = .ok (.getfield 17, 3) := dk_180 0 17 (dk_at dksX6_hear_3 16 rfl rfl)
theorem dX6_hear_90 : decode cX6_hear 90 = .ok (.iconst 1, 1) := dk_4 (dk_at dksX6_hear_3 19 rfl rfl)
theorem dX6_hear_91 : decode cX6_hear 91 = .ok (.dup2, 1) := dk_92 (dk_at dksX6_hear_3 20 rfl rfl)
theorem dX6_hear_92 : decode cX6_hear 92 = .ok (.iaload, 1) := dk_46 (dk_at dksX6_hear_3 21 rfl rfl)
theorem dX6_hear_93 : decode cX6_hear 93 = .ok (.iconst 1, 1) := dk_4 (dk_at dksX6_hear_3 22 rfl rfl)
theorem dX6_hear_94 : decode cX6_hear 94 = .ok (.iadd, 1) := dk_96 (dk_at dksX6_hear_3 23 rfl rfl)
theorem dX6_hear_95 : decode cX6_hear 95 = .ok (.iastore, 1) := dk_79 (dk_at dksX6_hear_4 0 rfl rfl)
theorem dX6_hear_96 : decode cX6_hear 96 = .ok (.iconst (-1), 1) := dk_2 (dk_at dksX6_hear_4 1 rfl rfl)
theorem dX6_hear_97 : decode cX6_hear 97 = .ok (.ireturn, 1) := dk_172 (dk_at dksX6_hear_4 2 rfl rfl)
theorem dX6_hear_98 : decode cX6_hear 98 = .ok (.iconst 0, 1) := dk_3 (dk_at dksX6_hear_4 3 rfl rfl)
theorem dX6_hear_99 : decode cX6_hear 99 = .ok (.istore_n 3, 1) := dk_62 (dk_at dksX6_hear_4 4 rfl rfl)
theorem dX6_hear_100 : decode cX6_hear 100 = .ok (.iload_n 3, 1) := dk_29 (dk_at dksX6_hear_4 5 rfl rfl)
theorem dX6_hear_101 : decode cX6_hear 101 = .ok (.iload_n 1, 1) := dk_27 (dk_at dksX6_hear_4 6 rfl rfl)
theorem dX6_hear_102 : decode cX6_hear 102 = .ok (.if_icmp .ge 21, 3) := dk_162 0 21 (dk_at dksX6_hear_4 7 rfl rfl)
theorem dX6_hear_105 : decode cX6_hear 105 = .ok (.aload_n 0, 1) := dk_42 (dk_at dksX6_hear_4 10 rfl rfl)
theorem dX6_hear_106 : decode cX6_hear 106 = .ok (.getfield 151, 3) := dk_180 0 151 (dk_at dksX6_hear_4 11 rfl rfl)
theorem dX6_hear_109 : decode cX6_hear 109 = .ok (.iload_n 3, 1) := dk_29 (dk_at dksX6_hear_4 14 rfl rfl)
theorem dX6_hear_110 : decode cX6_hear 110 = .ok (.aload_n 0, 1) := dk_42 (dk_at dksX6_hear_4 15 rfl rfl)
theorem dX6_hear_111 : decode cX6_hear 111 = .ok (.getfield 7, 3) := dk_180 0 7 (dk_at dksX6_hear_4 16 rfl rfl)
theorem dX6_hear_114 : decode cX6_hear 114 = .ok (.iload_n 3, 1) := dk_29 (dk_at dksX6_hear_4 19 rfl rfl)
theorem dX6_hear_115 : decode cX6_hear 115 = .ok (.iaload, 1) := dk_46 (dk_at dksX6_hear_4 20 rfl rfl)
theorem dX6_hear_116 : decode cX6_hear 116 = .ok (.iastore, 1) := dk_79 (dk_at dksX6_hear_4 21 rfl rfl)
theorem dX6_hear_117 : decode cX6_hear 117 = .ok (.iinc 3 1, 3) := dk_132 3 1 (dk_at dksX6_hear_5 0 rfl rfl)
theorem dX6_hear_120 : decode cX6_hear 120 = .ok (.goto (-20), 3) := dk_167 255 236 (dk_at dksX6_hear_5 3 rfl rfl)
theorem dX6_hear_123 : decode cX6_hear 123 = .ok (.aload_n 0, 1) := dk_42 (dk_at dksX6_hear_5 6 rfl rfl)
theorem dX6_hear_124 : decode cX6_hear 124 = .ok (.iload_n 1, 1) := dk_27 (dk_at dksX6_hear_5 7 rfl rfl)
theorem dX6_hear_125 : decode cX6_hear 125 = .ok (.iconst 2, 1) := dk_5 (dk_at dksX6_hear_5 8 rfl rfl)
theorem dX6_hear_126 : decode cX6_hear 126 = .ok (.idiv, 1) := dk_108 (dk_at dksX6_hear_5 9 rfl rfl)
theorem dX6_hear_127 : decode cX6_hear 127 = .ok (.putfield 395, 3) := dk_181 1 139 (dk_at dksX6_hear_5 10 rfl rfl)
theorem dX6_hear_130 : decode cX6_hear 130 = .ok (.aload_n 0, 1) := dk_42 (dk_at dksX6_hear_5 13 rfl rfl)
theorem dX6_hear_131 : decode cX6_hear 131 = .ok (.getfield 395, 3) := dk_180 1 139 (dk_at dksX6_hear_5 14 rfl rfl)
theorem dX6_hear_134 : decode cX6_hear 134 = .ok (.ireturn, 1) := dk_172 (dk_at dksX6_hear_5 17 rfl rfl)
abbrev cX6_sources : ByteArray := prog_22_method_81_code
def yX6_sources : MethodName := ⟨RX6, "sources", "(II)I"⟩
def dkwX6_sources_2 : List UInt8 := [153, 0, 10, 29, 4, 21, 4, 120, 128, 62, 132, 4, 1, 167, 255, 226, 42, 182, 2, 13, 29, 172]
abbrev dktX6_sources_2 : List UInt8 := dkwX6_sources_2 ++ []
def dkwX6_sources_1 : List UInt8 := [182, 2, 7, 3, 54, 4, 21, 4, 42, 182, 1, 145, 162, 0, 27, 42, 21, 4, 27, 28, 182, 2, 26]
abbrev dktX6_sources_1 : List UInt8 := dkwX6_sources_1 ++ dktX6_sources_2
def dkwX6_sources_0 : List UInt8 := [42, 27, 182, 1, 239, 153, 0, 14, 42, 28, 3, 16, 20, 182, 2, 2, 154, 0, 5, 2, 172, 3, 62, 42]
abbrev dktX6_sources_0 : List UInt8 := dkwX6_sources_0 ++ dktX6_sources_1
theorem dksX6_sources_0 : cX6_sources.data.toList.drop 0 = dktX6_sources_0 := by decide +kernel
theorem dksX6_sources_1 : cX6_sources.data.toList.drop 24 = dktX6_sources_1 := dk_seg dksX6_sources_0 24 rfl rfl
theorem dksX6_sources_2 : cX6_sources.data.toList.drop 47 = dktX6_sources_2 := dk_seg dksX6_sources_1 23 rfl rfl
theorem dX6_sources_0 : decode cX6_sources 0 = .ok (.aload_n 0, 1) := dk_42 (dk_at dksX6_sources_0 0 rfl rfl)
theorem dX6_sources_1 : decode cX6_sources 1 = .ok (.iload_n 1, 1) := dk_27 (dk_at dksX6_sources_0 1 rfl rfl)
theorem dX6_sources_2 : decode cX6_sources 2 = .ok (.invokevirtual 495, 3) := dk_182 1 239 (dk_at dksX6_sources_0 2 rfl rfl)
theorem dX6_sources_5 : decode cX6_sources 5 = .ok (.ifCond .eq 14, 3) := dk_153 0 14 (dk_at dksX6_sources_0 5 rfl rfl)
theorem dX6_sources_8 : decode cX6_sources 8 = .ok (.aload_n 0, 1) := dk_42 (dk_at dksX6_sources_0 8 rfl rfl)
theorem dX6_sources_9 : decode cX6_sources 9 = .ok (.iload_n 2, 1) := dk_28 (dk_at dksX6_sources_0 9 rfl rfl)
theorem dX6_sources_10 : decode cX6_sources 10 = .ok (.iconst 0, 1) := dk_3 (dk_at dksX6_sources_0 10 rfl rfl)
theorem dX6_sources_11 : decode cX6_sources 11 = .ok (.bipush 20, 2) := dk_16 20 (dk_at dksX6_sources_0 11 rfl rfl)
theorem dX6_sources_13 : decode cX6_sources 13 = .ok (.invokevirtual 514, 3) := dk_182 2 2 (dk_at dksX6_sources_0 13 rfl rfl)
theorem dX6_sources_16 : decode cX6_sources 16 = .ok (.ifCond .ne 5, 3) := dk_154 0 5 (dk_at dksX6_sources_0 16 rfl rfl)
theorem dX6_sources_19 : decode cX6_sources 19 = .ok (.iconst (-1), 1) := dk_2 (dk_at dksX6_sources_0 19 rfl rfl)
theorem dX6_sources_20 : decode cX6_sources 20 = .ok (.ireturn, 1) := dk_172 (dk_at dksX6_sources_0 20 rfl rfl)
theorem dX6_sources_21 : decode cX6_sources 21 = .ok (.iconst 0, 1) := dk_3 (dk_at dksX6_sources_0 21 rfl rfl)
theorem dX6_sources_22 : decode cX6_sources 22 = .ok (.istore_n 3, 1) := dk_62 (dk_at dksX6_sources_0 22 rfl rfl)
theorem dX6_sources_23 : decode cX6_sources 23 = .ok (.aload_n 0, 1) := dk_42 (dk_at dksX6_sources_0 23 rfl rfl)
theorem dX6_sources_24 : decode cX6_sources 24 = .ok (.invokevirtual 519, 3) := dk_182 2 7 (dk_at dksX6_sources_1 0 rfl rfl)
theorem dX6_sources_27 : decode cX6_sources 27 = .ok (.iconst 0, 1) := dk_3 (dk_at dksX6_sources_1 3 rfl rfl)
theorem dX6_sources_28 : decode cX6_sources 28 = .ok (.istore 4, 2) := dk_54 4 (dk_at dksX6_sources_1 4 rfl rfl)
theorem dX6_sources_30 : decode cX6_sources 30 = .ok (.iload 4, 2) := dk_21 4 (dk_at dksX6_sources_1 6 rfl rfl)
theorem dX6_sources_32 : decode cX6_sources 32 = .ok (.aload_n 0, 1) := dk_42 (dk_at dksX6_sources_1 8 rfl rfl)
theorem dX6_sources_33 : decode cX6_sources 33 = .ok (.invokevirtual 401, 3) := dk_182 1 145 (dk_at dksX6_sources_1 9 rfl rfl)
theorem dX6_sources_36 : decode cX6_sources 36 = .ok (.if_icmp .ge 27, 3) := dk_162 0 27 (dk_at dksX6_sources_1 12 rfl rfl)
theorem dX6_sources_39 : decode cX6_sources 39 = .ok (.aload_n 0, 1) := dk_42 (dk_at dksX6_sources_1 15 rfl rfl)
theorem dX6_sources_40 : decode cX6_sources 40 = .ok (.iload 4, 2) := dk_21 4 (dk_at dksX6_sources_1 16 rfl rfl)
theorem dX6_sources_42 : decode cX6_sources 42 = .ok (.iload_n 1, 1) := dk_27 (dk_at dksX6_sources_1 18 rfl rfl)
theorem dX6_sources_43 : decode cX6_sources 43 = .ok (.iload_n 2, 1) := dk_28 (dk_at dksX6_sources_1 19 rfl rfl)
theorem dX6_sources_44 : decode cX6_sources 44 = .ok (.invokevirtual 538, 3) := dk_182 2 26 (dk_at dksX6_sources_1 20 rfl rfl)
theorem dX6_sources_47 : decode cX6_sources 47 = .ok (.ifCond .eq 10, 3) := dk_153 0 10 (dk_at dksX6_sources_2 0 rfl rfl)
theorem dX6_sources_50 : decode cX6_sources 50 = .ok (.iload_n 3, 1) := dk_29 (dk_at dksX6_sources_2 3 rfl rfl)
theorem dX6_sources_51 : decode cX6_sources 51 = .ok (.iconst 1, 1) := dk_4 (dk_at dksX6_sources_2 4 rfl rfl)
theorem dX6_sources_52 : decode cX6_sources 52 = .ok (.iload 4, 2) := dk_21 4 (dk_at dksX6_sources_2 5 rfl rfl)
theorem dX6_sources_54 : decode cX6_sources 54 = .ok (.ishl, 1) := dk_120 (dk_at dksX6_sources_2 7 rfl rfl)
theorem dX6_sources_55 : decode cX6_sources 55 = .ok (.ior, 1) := dk_128 (dk_at dksX6_sources_2 8 rfl rfl)
theorem dX6_sources_56 : decode cX6_sources 56 = .ok (.istore_n 3, 1) := dk_62 (dk_at dksX6_sources_2 9 rfl rfl)
theorem dX6_sources_57 : decode cX6_sources 57 = .ok (.iinc 4 1, 3) := dk_132 4 1 (dk_at dksX6_sources_2 10 rfl rfl)
theorem dX6_sources_60 : decode cX6_sources 60 = .ok (.goto (-30), 3) := dk_167 255 226 (dk_at dksX6_sources_2 13 rfl rfl)
theorem dX6_sources_63 : decode cX6_sources 63 = .ok (.aload_n 0, 1) := dk_42 (dk_at dksX6_sources_2 16 rfl rfl)
theorem dX6_sources_64 : decode cX6_sources 64 = .ok (.invokevirtual 525, 3) := dk_182 2 13 (dk_at dksX6_sources_2 17 rfl rfl)
theorem dX6_sources_67 : decode cX6_sources 67 = .ok (.iload_n 3, 1) := dk_29 (dk_at dksX6_sources_2 20 rfl rfl)
theorem dX6_sources_68 : decode cX6_sources 68 = .ok (.ireturn, 1) := dk_172 (dk_at dksX6_sources_2 21 rfl rfl)
abbrev cX6_isSource : ByteArray := prog_22_method_80_code
def yX6_isSource : MethodName := ⟨RX6, "isSource", "(III)Z"⟩
def dkwX6_isSource_6 : List UInt8 := [167, 255, 214, 4, 172]
abbrev dktX6_isSource_6 : List UInt8 := dkwX6_isSource_6 ++ []
def dkwX6_isSource_5 : List UInt8 := [21, 4, 104, 46, 46, 42, 180, 0, 151, 5, 21, 4, 104, 4, 96, 46, 159, 0, 5, 3, 172, 132, 4, 1]
abbrev dktX6_isSource_5 : List UInt8 := dkwX6_isSource_5 ++ dktX6_isSource_6
def dkwX6_isSource_4 : List UInt8 := [182, 1, 224, 3, 54, 4, 21, 4, 42, 180, 1, 139, 162, 0, 39, 42, 180, 0, 154, 42, 180, 0, 151, 5]
abbrev dktX6_isSource_4 : List UInt8 := dkwX6_isSource_4 ++ dktX6_isSource_5
def dkwX6_isSource_3 : List UInt8 := [162, 0, 23, 42, 180, 0, 154, 21, 4, 42, 21, 4, 28, 182, 1, 174, 79, 132, 4, 1, 167, 255, 230, 42]
abbrev dktX6_isSource_3 : List UInt8 := dkwX6_isSource_3 ++ dktX6_isSource_4
def dkwX6_isSource_2 : List UInt8 := [182, 1, 183, 132, 4, 1, 167, 255, 216, 42, 29, 182, 2, 10, 3, 54, 4, 21, 4, 42, 182, 1, 145]
abbrev dktX6_isSource_2 : List UInt8 := dkwX6_isSource_2 ++ dktX6_isSource_3
def dkwX6_isSource_1 : List UInt8 := [21, 4, 28, 182, 1, 174, 153, 0, 21, 42, 21, 4, 28, 21, 4, 27, 160, 0, 7, 5, 167, 0, 4, 4]
abbrev dktX6_isSource_1 : List UInt8 := dkwX6_isSource_1 ++ dktX6_isSource_2
def dkwX6_isSource_0 : List UInt8 := [42, 27, 28, 182, 1, 174, 154, 0, 5, 3, 172, 3, 54, 4, 21, 4, 42, 182, 1, 145, 162, 0, 37, 42]
abbrev dktX6_isSource_0 : List UInt8 := dkwX6_isSource_0 ++ dktX6_isSource_1
theorem dksX6_isSource_0 : cX6_isSource.data.toList.drop 0 = dktX6_isSource_0 := by decide +kernel
theorem dksX6_isSource_1 : cX6_isSource.data.toList.drop 24 = dktX6_isSource_1 := dk_seg dksX6_isSource_0 24 rfl rfl
theorem dksX6_isSource_2 : cX6_isSource.data.toList.drop 48 = dktX6_isSource_2 := dk_seg dksX6_isSource_1 24 rfl rfl
theorem dksX6_isSource_3 : cX6_isSource.data.toList.drop 71 = dktX6_isSource_3 := dk_seg dksX6_isSource_2 23 rfl rfl
theorem dksX6_isSource_4 : cX6_isSource.data.toList.drop 95 = dktX6_isSource_4 := dk_seg dksX6_isSource_3 24 rfl rfl
theorem dksX6_isSource_5 : cX6_isSource.data.toList.drop 119 = dktX6_isSource_5 := dk_seg dksX6_isSource_4 24 rfl rfl
theorem dksX6_isSource_6 : cX6_isSource.data.toList.drop 143 = dktX6_isSource_6 := dk_seg dksX6_isSource_5 24 rfl rfl
theorem dX6_isSource_0 : decode cX6_isSource 0 = .ok (.aload_n 0, 1) := dk_42 (dk_at dksX6_isSource_0 0 rfl rfl)
theorem dX6_isSource_1 : decode cX6_isSource 1 = .ok (.iload_n 1, 1) := dk_27 (dk_at dksX6_isSource_0 1 rfl rfl)
theorem dX6_isSource_2 : decode cX6_isSource 2 = .ok (.iload_n 2, 1) := dk_28 (dk_at dksX6_isSource_0 2 rfl rfl)
theorem dX6_isSource_3 : decode cX6_isSource 3 = .ok (.invokevirtual 430, 3) := dk_182 1 174 (dk_at dksX6_isSource_0 3 rfl rfl)
theorem dX6_isSource_6 : decode cX6_isSource 6 = .ok (.ifCond .ne 5, 3) := dk_154 0 5 (dk_at dksX6_isSource_0 6 rfl rfl)
theorem dX6_isSource_9 : decode cX6_isSource 9 = .ok (.iconst 0, 1) := dk_3 (dk_at dksX6_isSource_0 9 rfl rfl)
theorem dX6_isSource_10 : decode cX6_isSource 10 = .ok (.ireturn, 1) := dk_172 (dk_at dksX6_isSource_0 10 rfl rfl)
theorem dX6_isSource_11 : decode cX6_isSource 11 = .ok (.iconst 0, 1) := dk_3 (dk_at dksX6_isSource_0 11 rfl rfl)
theorem dX6_isSource_12 : decode cX6_isSource 12 = .ok (.istore 4, 2) := dk_54 4 (dk_at dksX6_isSource_0 12 rfl rfl)
theorem dX6_isSource_14 : decode cX6_isSource 14 = .ok (.iload 4, 2) := dk_21 4 (dk_at dksX6_isSource_0 14 rfl rfl)
theorem dX6_isSource_16 : decode cX6_isSource 16 = .ok (.aload_n 0, 1) := dk_42 (dk_at dksX6_isSource_0 16 rfl rfl)
theorem dX6_isSource_17 : decode cX6_isSource 17 = .ok (.invokevirtual 401, 3) := dk_182 1 145 (dk_at dksX6_isSource_0 17 rfl rfl)
theorem dX6_isSource_20 : decode cX6_isSource 20 = .ok (.if_icmp .ge 37, 3) := dk_162 0 37 (dk_at dksX6_isSource_0 20 rfl rfl)
theorem dX6_isSource_23 : decode cX6_isSource 23 = .ok (.aload_n 0, 1) := dk_42 (dk_at dksX6_isSource_0 23 rfl rfl)
theorem dX6_isSource_24 : decode cX6_isSource 24 = .ok (.iload 4, 2) := dk_21 4 (dk_at dksX6_isSource_1 0 rfl rfl)
theorem dX6_isSource_26 : decode cX6_isSource 26 = .ok (.iload_n 2, 1) := dk_28 (dk_at dksX6_isSource_1 2 rfl rfl)
theorem dX6_isSource_27 : decode cX6_isSource 27 = .ok (.invokevirtual 430, 3) := dk_182 1 174 (dk_at dksX6_isSource_1 3 rfl rfl)
theorem dX6_isSource_30 : decode cX6_isSource 30 = .ok (.ifCond .eq 21, 3) := dk_153 0 21 (dk_at dksX6_isSource_1 6 rfl rfl)
theorem dX6_isSource_33 : decode cX6_isSource 33 = .ok (.aload_n 0, 1) := dk_42 (dk_at dksX6_isSource_1 9 rfl rfl)
theorem dX6_isSource_34 : decode cX6_isSource 34 = .ok (.iload 4, 2) := dk_21 4 (dk_at dksX6_isSource_1 10 rfl rfl)
theorem dX6_isSource_36 : decode cX6_isSource 36 = .ok (.iload_n 2, 1) := dk_28 (dk_at dksX6_isSource_1 12 rfl rfl)
theorem dX6_isSource_37 : decode cX6_isSource 37 = .ok (.iload 4, 2) := dk_21 4 (dk_at dksX6_isSource_1 13 rfl rfl)
theorem dX6_isSource_39 : decode cX6_isSource 39 = .ok (.iload_n 1, 1) := dk_27 (dk_at dksX6_isSource_1 15 rfl rfl)
theorem dX6_isSource_40 : decode cX6_isSource 40 = .ok (.if_icmp .ne 7, 3) := dk_160 0 7 (dk_at dksX6_isSource_1 16 rfl rfl)
theorem dX6_isSource_43 : decode cX6_isSource 43 = .ok (.iconst 2, 1) := dk_5 (dk_at dksX6_isSource_1 19 rfl rfl)
theorem dX6_isSource_44 : decode cX6_isSource 44 = .ok (.goto 4, 3) := dk_167 0 4 (dk_at dksX6_isSource_1 20 rfl rfl)
theorem dX6_isSource_47 : decode cX6_isSource 47 = .ok (.iconst 1, 1) := dk_4 (dk_at dksX6_isSource_1 23 rfl rfl)
theorem dX6_isSource_48 : decode cX6_isSource 48 = .ok (.invokevirtual 439, 3) := dk_182 1 183 (dk_at dksX6_isSource_2 0 rfl rfl)
theorem dX6_isSource_51 : decode cX6_isSource 51 = .ok (.iinc 4 1, 3) := dk_132 4 1 (dk_at dksX6_isSource_2 3 rfl rfl)
theorem dX6_isSource_54 : decode cX6_isSource 54 = .ok (.goto (-40), 3) := dk_167 255 216 (dk_at dksX6_isSource_2 6 rfl rfl)
theorem dX6_isSource_57 : decode cX6_isSource 57 = .ok (.aload_n 0, 1) := dk_42 (dk_at dksX6_isSource_2 9 rfl rfl)
theorem dX6_isSource_58 : decode cX6_isSource 58 = .ok (.iload_n 3, 1) := dk_29 (dk_at dksX6_isSource_2 10 rfl rfl)
theorem dX6_isSource_59 : decode cX6_isSource 59 = .ok (.invokevirtual 522, 3) := dk_182 2 10 (dk_at dksX6_isSource_2 11 rfl rfl)
theorem dX6_isSource_62 : decode cX6_isSource 62 = .ok (.iconst 0, 1) := dk_3 (dk_at dksX6_isSource_2 14 rfl rfl)
theorem dX6_isSource_63 : decode cX6_isSource 63 = .ok (.istore 4, 2) := dk_54 4 (dk_at dksX6_isSource_2 15 rfl rfl)
theorem dX6_isSource_65 : decode cX6_isSource 65 = .ok (.iload 4, 2) := dk_21 4 (dk_at dksX6_isSource_2 17 rfl rfl)
theorem dX6_isSource_67 : decode cX6_isSource 67 = .ok (.aload_n 0, 1) := dk_42 (dk_at dksX6_isSource_2 19 rfl rfl)
theorem dX6_isSource_68 : decode cX6_isSource 68 = .ok (.invokevirtual 401, 3) := dk_182 1 145 (dk_at dksX6_isSource_2 20 rfl rfl)
theorem dX6_isSource_71 : decode cX6_isSource 71 = .ok (.if_icmp .ge 23, 3) := dk_162 0 23 (dk_at dksX6_isSource_3 0 rfl rfl)
theorem dX6_isSource_74 : decode cX6_isSource 74 = .ok (.aload_n 0, 1) := dk_42 (dk_at dksX6_isSource_3 3 rfl rfl)
theorem dX6_isSource_75 : decode cX6_isSource 75 = .ok (.getfield 154, 3) := dk_180 0 154 (dk_at dksX6_isSource_3 4 rfl rfl)
theorem dX6_isSource_78 : decode cX6_isSource 78 = .ok (.iload 4, 2) := dk_21 4 (dk_at dksX6_isSource_3 7 rfl rfl)
theorem dX6_isSource_80 : decode cX6_isSource 80 = .ok (.aload_n 0, 1) := dk_42 (dk_at dksX6_isSource_3 9 rfl rfl)
theorem dX6_isSource_81 : decode cX6_isSource 81 = .ok (.iload 4, 2) := dk_21 4 (dk_at dksX6_isSource_3 10 rfl rfl)
theorem dX6_isSource_83 : decode cX6_isSource 83 = .ok (.iload_n 2, 1) := dk_28 (dk_at dksX6_isSource_3 12 rfl rfl)
theorem dX6_isSource_84 : decode cX6_isSource 84 = .ok (.invokevirtual 430, 3) := dk_182 1 174 (dk_at dksX6_isSource_3 13 rfl rfl)
theorem dX6_isSource_87 : decode cX6_isSource 87 = .ok (.iastore, 1) := dk_79 (dk_at dksX6_isSource_3 16 rfl rfl)
theorem dX6_isSource_88 : decode cX6_isSource 88 = .ok (.iinc 4 1, 3) := dk_132 4 1 (dk_at dksX6_isSource_3 17 rfl rfl)
theorem dX6_isSource_91 : decode cX6_isSource 91 = .ok (.goto (-26), 3) := dk_167 255 230 (dk_at dksX6_isSource_3 20 rfl rfl)
theorem dX6_isSource_94 : decode cX6_isSource 94 = .ok (.aload_n 0, 1) := dk_42 (dk_at dksX6_isSource_3 23 rfl rfl)
theorem dX6_isSource_95 : decode cX6_isSource 95 = .ok (.invokevirtual 480, 3) := dk_182 1 224 (dk_at dksX6_isSource_4 0 rfl rfl)
theorem dX6_isSource_98 : decode cX6_isSource 98 = .ok (.iconst 0, 1) := dk_3 (dk_at dksX6_isSource_4 3 rfl rfl)
theorem dX6_isSource_99 : decode cX6_isSource 99 = .ok (.istore 4, 2) := dk_54 4 (dk_at dksX6_isSource_4 4 rfl rfl)
theorem dX6_isSource_101 : decode cX6_isSource 101 = .ok (.iload 4, 2) := dk_21 4 (dk_at dksX6_isSource_4 6 rfl rfl)
theorem dX6_isSource_103 : decode cX6_isSource 103 = .ok (.aload_n 0, 1) := dk_42 (dk_at dksX6_isSource_4 8 rfl rfl)
theorem dX6_isSource_104 : decode cX6_isSource 104 = .ok (.getfield 395, 3) := dk_180 1 139 (dk_at dksX6_isSource_4 9 rfl rfl)
theorem dX6_isSource_107 : decode cX6_isSource 107 = .ok (.if_icmp .ge 39, 3) := dk_162 0 39 (dk_at dksX6_isSource_4 12 rfl rfl)
theorem dX6_isSource_110 : decode cX6_isSource 110 = .ok (.aload_n 0, 1) := dk_42 (dk_at dksX6_isSource_4 15 rfl rfl)
theorem dX6_isSource_111 : decode cX6_isSource 111 = .ok (.getfield 154, 3) := dk_180 0 154 (dk_at dksX6_isSource_4 16 rfl rfl)
theorem dX6_isSource_114 : decode cX6_isSource 114 = .ok (.aload_n 0, 1) := dk_42 (dk_at dksX6_isSource_4 19 rfl rfl)
theorem dX6_isSource_115 : decode cX6_isSource 115 = .ok (.getfield 151, 3) := dk_180 0 151 (dk_at dksX6_isSource_4 20 rfl rfl)
theorem dX6_isSource_118 : decode cX6_isSource 118 = .ok (.iconst 2, 1) := dk_5 (dk_at dksX6_isSource_4 23 rfl rfl)
theorem dX6_isSource_119 : decode cX6_isSource 119 = .ok (.iload 4, 2) := dk_21 4 (dk_at dksX6_isSource_5 0 rfl rfl)
theorem dX6_isSource_121 : decode cX6_isSource 121 = .ok (.imul, 1) := dk_104 (dk_at dksX6_isSource_5 2 rfl rfl)
theorem dX6_isSource_122 : decode cX6_isSource 122 = .ok (.iaload, 1) := dk_46 (dk_at dksX6_isSource_5 3 rfl rfl)
theorem dX6_isSource_123 : decode cX6_isSource 123 = .ok (.iaload, 1) := dk_46 (dk_at dksX6_isSource_5 4 rfl rfl)
theorem dX6_isSource_124 : decode cX6_isSource 124 = .ok (.aload_n 0, 1) := dk_42 (dk_at dksX6_isSource_5 5 rfl rfl)
theorem dX6_isSource_125 : decode cX6_isSource 125 = .ok (.getfield 151, 3) := dk_180 0 151 (dk_at dksX6_isSource_5 6 rfl rfl)
theorem dX6_isSource_128 : decode cX6_isSource 128 = .ok (.iconst 2, 1) := dk_5 (dk_at dksX6_isSource_5 9 rfl rfl)
theorem dX6_isSource_129 : decode cX6_isSource 129 = .ok (.iload 4, 2) := dk_21 4 (dk_at dksX6_isSource_5 10 rfl rfl)
theorem dX6_isSource_131 : decode cX6_isSource 131 = .ok (.imul, 1) := dk_104 (dk_at dksX6_isSource_5 12 rfl rfl)
theorem dX6_isSource_132 : decode cX6_isSource 132 = .ok (.iconst 1, 1) := dk_4 (dk_at dksX6_isSource_5 13 rfl rfl)
theorem dX6_isSource_133 : decode cX6_isSource 133 = .ok (.iadd, 1) := dk_96 (dk_at dksX6_isSource_5 14 rfl rfl)
theorem dX6_isSource_134 : decode cX6_isSource 134 = .ok (.iaload, 1) := dk_46 (dk_at dksX6_isSource_5 15 rfl rfl)
theorem dX6_isSource_135 : decode cX6_isSource 135 = .ok (.if_icmp .eq 5, 3) := dk_159 0 5 (dk_at dksX6_isSource_5 16 rfl rfl)
theorem dX6_isSource_138 : decode cX6_isSource 138 = .ok (.iconst 0, 1) := dk_3 (dk_at dksX6_isSource_5 19 rfl rfl)
theorem dX6_isSource_139 : decode cX6_isSource 139 = .ok (.ireturn, 1) := dk_172 (dk_at dksX6_isSource_5 20 rfl rfl)
theorem dX6_isSource_140 : decode cX6_isSource 140 = .ok (.iinc 4 1, 3) := dk_132 4 1 (dk_at dksX6_isSource_5 21 rfl rfl)
theorem dX6_isSource_143 : decode cX6_isSource 143 = .ok (.goto (-42), 3) := dk_167 255 214 (dk_at dksX6_isSource_6 0 rfl rfl)
theorem dX6_isSource_146 : decode cX6_isSource 146 = .ok (.iconst 1, 1) := dk_4 (dk_at dksX6_isSource_6 3 rfl rfl)
theorem dX6_isSource_147 : decode cX6_isSource 147 = .ok (.ireturn, 1) := dk_172 (dk_at dksX6_isSource_6 4 rfl rfl)
abbrev cX6_probe : ByteArray := prog_22_method_82_code
def yX6_probe : MethodName := ⟨RX6, "probe", "(III)I"⟩
def dkwX6_probe_12 : List UInt8 := [167, 0, 5, 21, 6, 172]
abbrev dktX6_probe_12 : List UInt8 := dkwX6_probe_12 ++ []
def dkwX6_probe_11 : List UInt8 := [132, 7, 1, 167, 255, 146, 21, 5, 2, 160, 0, 7, 2, 167, 0, 14, 29, 154, 0, 8, 21, 5]
abbrev dktX6_probe_11 : List UInt8 := dkwX6_probe_11 ++ dktX6_probe_12
def dkwX6_probe_10 : List UInt8 := [21, 5, 2, 159, 0, 13, 21, 8, 21, 6, 161, 0, 6, 167, 0, 11, 21, 7, 54, 5, 21, 8, 54, 6]
abbrev dktX6_probe_10 : List UInt8 := dkwX6_probe_10 ++ dktX6_probe_11
def dkwX6_probe_9 : List UInt8 := [21, 7, 104, 5, 96, 46, 21, 8, 164, 0, 16, 42, 180, 0, 157, 6, 21, 7, 104, 5, 96, 46, 54, 8]
abbrev dktX6_probe_9 : List UInt8 := dkwX6_probe_9 ++ dktX6_probe_10
def dkwX6_probe_8 : List UInt8 := [46, 21, 8, 164, 0, 16, 42, 180, 0, 157, 6, 21, 7, 104, 4, 96, 46, 54, 8, 42, 180, 0, 157, 6]
abbrev dktX6_probe_8 : List UInt8 := dkwX6_probe_8 ++ dktX6_probe_9
def dkwX6_probe_7 : List UInt8 := [158, 0, 102, 42, 180, 0, 157, 6, 21, 7, 104, 46, 54, 8, 42, 180, 0, 157, 6, 21, 7, 104, 4, 96]
abbrev dktX6_probe_7 : List UInt8 := dkwX6_probe_7 ++ dktX6_probe_8
def dkwX6_probe_6 : List UInt8 := [182, 2, 13, 2, 54, 5, 3, 54, 6, 3, 54, 7, 21, 7, 42, 182, 1, 145, 162, 0, 107, 21, 4]
abbrev dktX6_probe_6 : List UInt8 := dkwX6_probe_6 ++ dktX6_probe_7
def dkwX6_probe_5 : List UInt8 := [21, 6, 46, 96, 92, 46, 4, 96, 79, 132, 6, 1, 167, 255, 223, 132, 5, 1, 167, 255, 188, 42]
abbrev dktX6_probe_5 : List UInt8 := dkwX6_probe_5 ++ dktX6_probe_6
def dkwX6_probe_4 : List UInt8 := [54, 6, 21, 6, 42, 182, 1, 145, 162, 0, 30, 42, 180, 0, 157, 6, 21, 6, 104, 42, 180, 0, 154]
abbrev dktX6_probe_4 : List UInt8 := dkwX6_probe_4 ++ dktX6_probe_5
def dkwX6_probe_3 : List UInt8 := [182, 1, 145, 162, 0, 65, 42, 21, 5, 27, 28, 182, 2, 26, 154, 0, 6, 167, 0, 45, 132, 4, 1, 3]
abbrev dktX6_probe_3 : List UInt8 := dkwX6_probe_3 ++ dktX6_probe_4
def dkwX6_probe_2 : List UInt8 := [180, 0, 157, 21, 5, 3, 79, 132, 5, 1, 167, 255, 238, 42, 182, 2, 7, 3, 54, 5, 21, 5, 42]
abbrev dktX6_probe_2 : List UInt8 := dkwX6_probe_2 ++ dktX6_probe_3
def dkwX6_probe_1 : List UInt8 := [184, 1, 41, 154, 0, 5, 2, 172, 3, 54, 4, 3, 54, 5, 21, 5, 16, 24, 162, 0, 17, 42]
abbrev dktX6_probe_1 : List UInt8 := dkwX6_probe_1 ++ dktX6_probe_2
def dkwX6_probe_0 : List UInt8 := [42, 27, 182, 1, 239, 153, 0, 24, 42, 28, 3, 16, 20, 182, 2, 2, 153, 0, 13, 29, 133, 9, 10]
abbrev dktX6_probe_0 : List UInt8 := dkwX6_probe_0 ++ dktX6_probe_1
theorem dksX6_probe_0 : cX6_probe.data.toList.drop 0 = dktX6_probe_0 := by decide +kernel
theorem dksX6_probe_1 : cX6_probe.data.toList.drop 23 = dktX6_probe_1 := dk_seg dksX6_probe_0 23 rfl rfl
theorem dksX6_probe_2 : cX6_probe.data.toList.drop 45 = dktX6_probe_2 := dk_seg dksX6_probe_1 22 rfl rfl
theorem dksX6_probe_3 : cX6_probe.data.toList.drop 68 = dktX6_probe_3 := dk_seg dksX6_probe_2 23 rfl rfl
theorem dksX6_probe_4 : cX6_probe.data.toList.drop 92 = dktX6_probe_4 := dk_seg dksX6_probe_3 24 rfl rfl
theorem dksX6_probe_5 : cX6_probe.data.toList.drop 115 = dktX6_probe_5 := dk_seg dksX6_probe_4 23 rfl rfl
theorem dksX6_probe_6 : cX6_probe.data.toList.drop 137 = dktX6_probe_6 := dk_seg dksX6_probe_5 22 rfl rfl
theorem dksX6_probe_7 : cX6_probe.data.toList.drop 160 = dktX6_probe_7 := dk_seg dksX6_probe_6 23 rfl rfl
theorem dksX6_probe_8 : cX6_probe.data.toList.drop 184 = dktX6_probe_8 := dk_seg dksX6_probe_7 24 rfl rfl
theorem dksX6_probe_9 : cX6_probe.data.toList.drop 208 = dktX6_probe_9 := dk_seg dksX6_probe_8 24 rfl rfl
theorem dksX6_probe_10 : cX6_probe.data.toList.drop 232 = dktX6_probe_10 := dk_seg dksX6_probe_9 24 rfl rfl
theorem dksX6_probe_11 : cX6_probe.data.toList.drop 256 = dktX6_probe_11 := dk_seg dksX6_probe_10 24 rfl rfl
theorem dksX6_probe_12 : cX6_probe.data.toList.drop 278 = dktX6_probe_12 := dk_seg dksX6_probe_11 22 rfl rfl
theorem dX6_probe_0 : decode cX6_probe 0 = .ok (.aload_n 0, 1) := dk_42 (dk_at dksX6_probe_0 0 rfl rfl)
theorem dX6_probe_1 : decode cX6_probe 1 = .ok (.iload_n 1, 1) := dk_27 (dk_at dksX6_probe_0 1 rfl rfl)
theorem dX6_probe_2 : decode cX6_probe 2 = .ok (.invokevirtual 495, 3) := dk_182 1 239 (dk_at dksX6_probe_0 2 rfl rfl)
theorem dX6_probe_5 : decode cX6_probe 5 = .ok (.ifCond .eq 24, 3) := dk_153 0 24 (dk_at dksX6_probe_0 5 rfl rfl)
theorem dX6_probe_8 : decode cX6_probe 8 = .ok (.aload_n 0, 1) := dk_42 (dk_at dksX6_probe_0 8 rfl rfl)
theorem dX6_probe_9 : decode cX6_probe 9 = .ok (.iload_n 2, 1) := dk_28 (dk_at dksX6_probe_0 9 rfl rfl)
theorem dX6_probe_10 : decode cX6_probe 10 = .ok (.iconst 0, 1) := dk_3 (dk_at dksX6_probe_0 10 rfl rfl)
theorem dX6_probe_11 : decode cX6_probe 11 = .ok (.bipush 20, 2) := dk_16 20 (dk_at dksX6_probe_0 11 rfl rfl)
theorem dX6_probe_13 : decode cX6_probe 13 = .ok (.invokevirtual 514, 3) := dk_182 2 2 (dk_at dksX6_probe_0 13 rfl rfl)
theorem dX6_probe_16 : decode cX6_probe 16 = .ok (.ifCond .eq 13, 3) := dk_153 0 13 (dk_at dksX6_probe_0 16 rfl rfl)
theorem dX6_probe_19 : decode cX6_probe 19 = .ok (.iload_n 3, 1) := dk_29 (dk_at dksX6_probe_0 19 rfl rfl)
theorem dX6_probe_20 : decode cX6_probe 20 = .ok (.i2l, 1) := dk_133 (dk_at dksX6_probe_0 20 rfl rfl)
theorem dX6_probe_21 : decode cX6_probe 21 = .ok (.lconst 0, 1) := dk_9 (dk_at dksX6_probe_0 21 rfl rfl)
theorem dX6_probe_22 : decode cX6_probe 22 = .ok (.lconst 1, 1) := dk_10 (dk_at dksX6_probe_0 22 rfl rfl)
theorem dX6_probe_23 : decode cX6_probe 23 = .ok (.invokestatic 297, 3) := dk_184 1 41 (dk_at dksX6_probe_1 0 rfl rfl)
theorem dX6_probe_26 : decode cX6_probe 26 = .ok (.ifCond .ne 5, 3) := dk_154 0 5 (dk_at dksX6_probe_1 3 rfl rfl)
theorem dX6_probe_29 : decode cX6_probe 29 = .ok (.iconst (-1), 1) := dk_2 (dk_at dksX6_probe_1 6 rfl rfl)
theorem dX6_probe_30 : decode cX6_probe 30 = .ok (.ireturn, 1) := dk_172 (dk_at dksX6_probe_1 7 rfl rfl)
theorem dX6_probe_31 : decode cX6_probe 31 = .ok (.iconst 0, 1) := dk_3 (dk_at dksX6_probe_1 8 rfl rfl)
theorem dX6_probe_32 : decode cX6_probe 32 = .ok (.istore 4, 2) := dk_54 4 (dk_at dksX6_probe_1 9 rfl rfl)
theorem dX6_probe_34 : decode cX6_probe 34 = .ok (.iconst 0, 1) := dk_3 (dk_at dksX6_probe_1 11 rfl rfl)
theorem dX6_probe_35 : decode cX6_probe 35 = .ok (.istore 5, 2) := dk_54 5 (dk_at dksX6_probe_1 12 rfl rfl)
theorem dX6_probe_37 : decode cX6_probe 37 = .ok (.iload 5, 2) := dk_21 5 (dk_at dksX6_probe_1 14 rfl rfl)
theorem dX6_probe_39 : decode cX6_probe 39 = .ok (.bipush 24, 2) := dk_16 24 (dk_at dksX6_probe_1 16 rfl rfl)
theorem dX6_probe_41 : decode cX6_probe 41 = .ok (.if_icmp .ge 17, 3) := dk_162 0 17 (dk_at dksX6_probe_1 18 rfl rfl)
theorem dX6_probe_44 : decode cX6_probe 44 = .ok (.aload_n 0, 1) := dk_42 (dk_at dksX6_probe_1 21 rfl rfl)
theorem dX6_probe_45 : decode cX6_probe 45 = .ok (.getfield 157, 3) := dk_180 0 157 (dk_at dksX6_probe_2 0 rfl rfl)
theorem dX6_probe_48 : decode cX6_probe 48 = .ok (.iload 5, 2) := dk_21 5 (dk_at dksX6_probe_2 3 rfl rfl)
theorem dX6_probe_50 : decode cX6_probe 50 = .ok (.iconst 0, 1) := dk_3 (dk_at dksX6_probe_2 5 rfl rfl)
theorem dX6_probe_51 : decode cX6_probe 51 = .ok (.iastore, 1) := dk_79 (dk_at dksX6_probe_2 6 rfl rfl)
theorem dX6_probe_52 : decode cX6_probe 52 = .ok (.iinc 5 1, 3) := dk_132 5 1 (dk_at dksX6_probe_2 7 rfl rfl)
theorem dX6_probe_55 : decode cX6_probe 55 = .ok (.goto (-18), 3) := dk_167 255 238 (dk_at dksX6_probe_2 10 rfl rfl)
theorem dX6_probe_58 : decode cX6_probe 58 = .ok (.aload_n 0, 1) := dk_42 (dk_at dksX6_probe_2 13 rfl rfl)
theorem dX6_probe_59 : decode cX6_probe 59 = .ok (.invokevirtual 519, 3) := dk_182 2 7 (dk_at dksX6_probe_2 14 rfl rfl)
theorem dX6_probe_62 : decode cX6_probe 62 = .ok (.iconst 0, 1) := dk_3 (dk_at dksX6_probe_2 17 rfl rfl)
theorem dX6_probe_63 : decode cX6_probe 63 = .ok (.istore 5, 2) := dk_54 5 (dk_at dksX6_probe_2 18 rfl rfl)
theorem dX6_probe_65 : decode cX6_probe 65 = .ok (.iload 5, 2) := dk_21 5 (dk_at dksX6_probe_2 20 rfl rfl)
theorem dX6_probe_67 : decode cX6_probe 67 = .ok (.aload_n 0, 1) := dk_42 (dk_at dksX6_probe_2 22 rfl rfl)
theorem dX6_probe_68 : decode cX6_probe 68 = .ok (.invokevirtual 401, 3) := dk_182 1 145 (dk_at dksX6_probe_3 0 rfl rfl)
theorem dX6_probe_71 : decode cX6_probe 71 = .ok (.if_icmp .ge 65, 3) := dk_162 0 65 (dk_at dksX6_probe_3 3 rfl rfl)
theorem dX6_probe_74 : decode cX6_probe 74 = .ok (.aload_n 0, 1) := dk_42 (dk_at dksX6_probe_3 6 rfl rfl)
theorem dX6_probe_75 : decode cX6_probe 75 = .ok (.iload 5, 2) := dk_21 5 (dk_at dksX6_probe_3 7 rfl rfl)
theorem dX6_probe_77 : decode cX6_probe 77 = .ok (.iload_n 1, 1) := dk_27 (dk_at dksX6_probe_3 9 rfl rfl)
theorem dX6_probe_78 : decode cX6_probe 78 = .ok (.iload_n 2, 1) := dk_28 (dk_at dksX6_probe_3 10 rfl rfl)
theorem dX6_probe_79 : decode cX6_probe 79 = .ok (.invokevirtual 538, 3) := dk_182 2 26 (dk_at dksX6_probe_3 11 rfl rfl)
theorem dX6_probe_82 : decode cX6_probe 82 = .ok (.ifCond .ne 6, 3) := dk_154 0 6 (dk_at dksX6_probe_3 14 rfl rfl)
theorem dX6_probe_85 : decode cX6_probe 85 = .ok (.goto 45, 3) := dk_167 0 45 (dk_at dksX6_probe_3 17 rfl rfl)
theorem dX6_probe_88 : decode cX6_probe 88 = .ok (.iinc 4 1, 3) := dk_132 4 1 (dk_at dksX6_probe_3 20 rfl rfl)
theorem dX6_probe_91 : decode cX6_probe 91 = .ok (.iconst 0, 1) := dk_3 (dk_at dksX6_probe_3 23 rfl rfl)
theorem dX6_probe_92 : decode cX6_probe 92 = .ok (.istore 6, 2) := dk_54 6 (dk_at dksX6_probe_4 0 rfl rfl)
theorem dX6_probe_94 : decode cX6_probe 94 = .ok (.iload 6, 2) := dk_21 6 (dk_at dksX6_probe_4 2 rfl rfl)
theorem dX6_probe_96 : decode cX6_probe 96 = .ok (.aload_n 0, 1) := dk_42 (dk_at dksX6_probe_4 4 rfl rfl)
theorem dX6_probe_97 : decode cX6_probe 97 = .ok (.invokevirtual 401, 3) := dk_182 1 145 (dk_at dksX6_probe_4 5 rfl rfl)
theorem dX6_probe_100 : decode cX6_probe 100 = .ok (.if_icmp .ge 30, 3) := dk_162 0 30 (dk_at dksX6_probe_4 8 rfl rfl)
theorem dX6_probe_103 : decode cX6_probe 103 = .ok (.aload_n 0, 1) := dk_42 (dk_at dksX6_probe_4 11 rfl rfl)
theorem dX6_probe_104 : decode cX6_probe 104 = .ok (.getfield 157, 3) := dk_180 0 157 (dk_at dksX6_probe_4 12 rfl rfl)
theorem dX6_probe_107 : decode cX6_probe 107 = .ok (.iconst 3, 1) := dk_6 (dk_at dksX6_probe_4 15 rfl rfl)
theorem dX6_probe_108 : decode cX6_probe 108 = .ok (.iload 6, 2) := dk_21 6 (dk_at dksX6_probe_4 16 rfl rfl)
theorem dX6_probe_110 : decode cX6_probe 110 = .ok (.imul, 1) := dk_104 (dk_at dksX6_probe_4 18 rfl rfl)
theorem dX6_probe_111 : decode cX6_probe 111 = .ok (.aload_n 0, 1) := dk_42 (dk_at dksX6_probe_4 19 rfl rfl)
theorem dX6_probe_112 : decode cX6_probe 112 = .ok (.getfield 154, 3) := dk_180 0 154 (dk_at dksX6_probe_4 20 rfl rfl)
theorem dX6_probe_115 : decode cX6_probe 115 = .ok (.iload 6, 2) := dk_21 6 (dk_at dksX6_probe_5 0 rfl rfl)
theorem dX6_probe_117 : decode cX6_probe 117 = .ok (.iaload, 1) := dk_46 (dk_at dksX6_probe_5 2 rfl rfl)
theorem dX6_probe_118 : decode cX6_probe 118 = .ok (.iadd, 1) := dk_96 (dk_at dksX6_probe_5 3 rfl rfl)
theorem dX6_probe_119 : decode cX6_probe 119 = .ok (.dup2, 1) := dk_92 (dk_at dksX6_probe_5 4 rfl rfl)
theorem dX6_probe_120 : decode cX6_probe 120 = .ok (.iaload, 1) := dk_46 (dk_at dksX6_probe_5 5 rfl rfl)
theorem dX6_probe_121 : decode cX6_probe 121 = .ok (.iconst 1, 1) := dk_4 (dk_at dksX6_probe_5 6 rfl rfl)
theorem dX6_probe_122 : decode cX6_probe 122 = .ok (.iadd, 1) := dk_96 (dk_at dksX6_probe_5 7 rfl rfl)
theorem dX6_probe_123 : decode cX6_probe 123 = .ok (.iastore, 1) := dk_79 (dk_at dksX6_probe_5 8 rfl rfl)
theorem dX6_probe_124 : decode cX6_probe 124 = .ok (.iinc 6 1, 3) := dk_132 6 1 (dk_at dksX6_probe_5 9 rfl rfl)
theorem dX6_probe_127 : decode cX6_probe 127 = .ok (.goto (-33), 3) := dk_167 255 223 (dk_at dksX6_probe_5 12 rfl rfl)
theorem dX6_probe_130 : decode cX6_probe 130 = .ok (.iinc 5 1, 3) := dk_132 5 1 (dk_at dksX6_probe_5 15 rfl rfl)
theorem dX6_probe_133 : decode cX6_probe 133 = .ok (.goto (-68), 3) := dk_167 255 188 (dk_at dksX6_probe_5 18 rfl rfl)
theorem dX6_probe_136 : decode cX6_probe 136 = .ok (.aload_n 0, 1) := dk_42 (dk_at dksX6_probe_5 21 rfl rfl)
theorem dX6_probe_137 : decode cX6_probe 137 = .ok (.invokevirtual 525, 3) := dk_182 2 13 (dk_at dksX6_probe_6 0 rfl rfl)
theorem dX6_probe_140 : decode cX6_probe 140 = .ok (.iconst (-1), 1) := dk_2 (dk_at dksX6_probe_6 3 rfl rfl)
theorem dX6_probe_141 : decode cX6_probe 141 = .ok (.istore 5, 2) := dk_54 5 (dk_at dksX6_probe_6 4 rfl rfl)
theorem dX6_probe_143 : decode cX6_probe 143 = .ok (.iconst 0, 1) := dk_3 (dk_at dksX6_probe_6 6 rfl rfl)
theorem dX6_probe_144 : decode cX6_probe 144 = .ok (.istore 6, 2) := dk_54 6 (dk_at dksX6_probe_6 7 rfl rfl)
theorem dX6_probe_146 : decode cX6_probe 146 = .ok (.iconst 0, 1) := dk_3 (dk_at dksX6_probe_6 9 rfl rfl)
theorem dX6_probe_147 : decode cX6_probe 147 = .ok (.istore 7, 2) := dk_54 7 (dk_at dksX6_probe_6 10 rfl rfl)
theorem dX6_probe_149 : decode cX6_probe 149 = .ok (.iload 7, 2) := dk_21 7 (dk_at dksX6_probe_6 12 rfl rfl)
theorem dX6_probe_151 : decode cX6_probe 151 = .ok (.aload_n 0, 1) := dk_42 (dk_at dksX6_probe_6 14 rfl rfl)
theorem dX6_probe_152 : decode cX6_probe 152 = .ok (.invokevirtual 401, 3) := dk_182 1 145 (dk_at dksX6_probe_6 15 rfl rfl)
theorem dX6_probe_155 : decode cX6_probe 155 = .ok (.if_icmp .ge 107, 3) := dk_162 0 107 (dk_at dksX6_probe_6 18 rfl rfl)
theorem dX6_probe_158 : decode cX6_probe 158 = .ok (.iload 4, 2) := dk_21 4 (dk_at dksX6_probe_6 21 rfl rfl)
theorem dX6_probe_160 : decode cX6_probe 160 = .ok (.ifCond .le 102, 3) := dk_158 0 102 (dk_at dksX6_probe_7 0 rfl rfl)
theorem dX6_probe_163 : decode cX6_probe 163 = .ok (.aload_n 0, 1) := dk_42 (dk_at dksX6_probe_7 3 rfl rfl)
theorem dX6_probe_164 : decode cX6_probe 164 = .ok (.getfield 157, 3) := dk_180 0 157 (dk_at dksX6_probe_7 4 rfl rfl)
theorem dX6_probe_167 : decode cX6_probe 167 = .ok (.iconst 3, 1) := dk_6 (dk_at dksX6_probe_7 7 rfl rfl)
theorem dX6_probe_168 : decode cX6_probe 168 = .ok (.iload 7, 2) := dk_21 7 (dk_at dksX6_probe_7 8 rfl rfl)
theorem dX6_probe_170 : decode cX6_probe 170 = .ok (.imul, 1) := dk_104 (dk_at dksX6_probe_7 10 rfl rfl)
theorem dX6_probe_171 : decode cX6_probe 171 = .ok (.iaload, 1) := dk_46 (dk_at dksX6_probe_7 11 rfl rfl)
theorem dX6_probe_172 : decode cX6_probe 172 = .ok (.istore 8, 2) := dk_54 8 (dk_at dksX6_probe_7 12 rfl rfl)
theorem dX6_probe_174 : decode cX6_probe 174 = .ok (.aload_n 0, 1) := dk_42 (dk_at dksX6_probe_7 14 rfl rfl)
theorem dX6_probe_175 : decode cX6_probe 175 = .ok (.getfield 157, 3) := dk_180 0 157 (dk_at dksX6_probe_7 15 rfl rfl)
theorem dX6_probe_178 : decode cX6_probe 178 = .ok (.iconst 3, 1) := dk_6 (dk_at dksX6_probe_7 18 rfl rfl)
theorem dX6_probe_179 : decode cX6_probe 179 = .ok (.iload 7, 2) := dk_21 7 (dk_at dksX6_probe_7 19 rfl rfl)
theorem dX6_probe_181 : decode cX6_probe 181 = .ok (.imul, 1) := dk_104 (dk_at dksX6_probe_7 21 rfl rfl)
theorem dX6_probe_182 : decode cX6_probe 182 = .ok (.iconst 1, 1) := dk_4 (dk_at dksX6_probe_7 22 rfl rfl)
theorem dX6_probe_183 : decode cX6_probe 183 = .ok (.iadd, 1) := dk_96 (dk_at dksX6_probe_7 23 rfl rfl)
theorem dX6_probe_184 : decode cX6_probe 184 = .ok (.iaload, 1) := dk_46 (dk_at dksX6_probe_8 0 rfl rfl)
theorem dX6_probe_185 : decode cX6_probe 185 = .ok (.iload 8, 2) := dk_21 8 (dk_at dksX6_probe_8 1 rfl rfl)
theorem dX6_probe_187 : decode cX6_probe 187 = .ok (.if_icmp .le 16, 3) := dk_164 0 16 (dk_at dksX6_probe_8 3 rfl rfl)
theorem dX6_probe_190 : decode cX6_probe 190 = .ok (.aload_n 0, 1) := dk_42 (dk_at dksX6_probe_8 6 rfl rfl)
theorem dX6_probe_191 : decode cX6_probe 191 = .ok (.getfield 157, 3) := dk_180 0 157 (dk_at dksX6_probe_8 7 rfl rfl)
theorem dX6_probe_194 : decode cX6_probe 194 = .ok (.iconst 3, 1) := dk_6 (dk_at dksX6_probe_8 10 rfl rfl)
theorem dX6_probe_195 : decode cX6_probe 195 = .ok (.iload 7, 2) := dk_21 7 (dk_at dksX6_probe_8 11 rfl rfl)
theorem dX6_probe_197 : decode cX6_probe 197 = .ok (.imul, 1) := dk_104 (dk_at dksX6_probe_8 13 rfl rfl)
theorem dX6_probe_198 : decode cX6_probe 198 = .ok (.iconst 1, 1) := dk_4 (dk_at dksX6_probe_8 14 rfl rfl)
theorem dX6_probe_199 : decode cX6_probe 199 = .ok (.iadd, 1) := dk_96 (dk_at dksX6_probe_8 15 rfl rfl)
theorem dX6_probe_200 : decode cX6_probe 200 = .ok (.iaload, 1) := dk_46 (dk_at dksX6_probe_8 16 rfl rfl)
theorem dX6_probe_201 : decode cX6_probe 201 = .ok (.istore 8, 2) := dk_54 8 (dk_at dksX6_probe_8 17 rfl rfl)
theorem dX6_probe_203 : decode cX6_probe 203 = .ok (.aload_n 0, 1) := dk_42 (dk_at dksX6_probe_8 19 rfl rfl)
theorem dX6_probe_204 : decode cX6_probe 204 = .ok (.getfield 157, 3) := dk_180 0 157 (dk_at dksX6_probe_8 20 rfl rfl)
theorem dX6_probe_207 : decode cX6_probe 207 = .ok (.iconst 3, 1) := dk_6 (dk_at dksX6_probe_8 23 rfl rfl)
theorem dX6_probe_208 : decode cX6_probe 208 = .ok (.iload 7, 2) := dk_21 7 (dk_at dksX6_probe_9 0 rfl rfl)
theorem dX6_probe_210 : decode cX6_probe 210 = .ok (.imul, 1) := dk_104 (dk_at dksX6_probe_9 2 rfl rfl)
theorem dX6_probe_211 : decode cX6_probe 211 = .ok (.iconst 2, 1) := dk_5 (dk_at dksX6_probe_9 3 rfl rfl)
theorem dX6_probe_212 : decode cX6_probe 212 = .ok (.iadd, 1) := dk_96 (dk_at dksX6_probe_9 4 rfl rfl)
theorem dX6_probe_213 : decode cX6_probe 213 = .ok (.iaload, 1) := dk_46 (dk_at dksX6_probe_9 5 rfl rfl)
theorem dX6_probe_214 : decode cX6_probe 214 = .ok (.iload 8, 2) := dk_21 8 (dk_at dksX6_probe_9 6 rfl rfl)
theorem dX6_probe_216 : decode cX6_probe 216 = .ok (.if_icmp .le 16, 3) := dk_164 0 16 (dk_at dksX6_probe_9 8 rfl rfl)
theorem dX6_probe_219 : decode cX6_probe 219 = .ok (.aload_n 0, 1) := dk_42 (dk_at dksX6_probe_9 11 rfl rfl)
theorem dX6_probe_220 : decode cX6_probe 220 = .ok (.getfield 157, 3) := dk_180 0 157 (dk_at dksX6_probe_9 12 rfl rfl)
theorem dX6_probe_223 : decode cX6_probe 223 = .ok (.iconst 3, 1) := dk_6 (dk_at dksX6_probe_9 15 rfl rfl)
theorem dX6_probe_224 : decode cX6_probe 224 = .ok (.iload 7, 2) := dk_21 7 (dk_at dksX6_probe_9 16 rfl rfl)
theorem dX6_probe_226 : decode cX6_probe 226 = .ok (.imul, 1) := dk_104 (dk_at dksX6_probe_9 18 rfl rfl)
theorem dX6_probe_227 : decode cX6_probe 227 = .ok (.iconst 2, 1) := dk_5 (dk_at dksX6_probe_9 19 rfl rfl)
theorem dX6_probe_228 : decode cX6_probe 228 = .ok (.iadd, 1) := dk_96 (dk_at dksX6_probe_9 20 rfl rfl)
theorem dX6_probe_229 : decode cX6_probe 229 = .ok (.iaload, 1) := dk_46 (dk_at dksX6_probe_9 21 rfl rfl)
theorem dX6_probe_230 : decode cX6_probe 230 = .ok (.istore 8, 2) := dk_54 8 (dk_at dksX6_probe_9 22 rfl rfl)
theorem dX6_probe_232 : decode cX6_probe 232 = .ok (.iload 5, 2) := dk_21 5 (dk_at dksX6_probe_10 0 rfl rfl)
theorem dX6_probe_234 : decode cX6_probe 234 = .ok (.iconst (-1), 1) := dk_2 (dk_at dksX6_probe_10 2 rfl rfl)
theorem dX6_probe_235 : decode cX6_probe 235 = .ok (.if_icmp .eq 13, 3) := dk_159 0 13 (dk_at dksX6_probe_10 3 rfl rfl)
theorem dX6_probe_238 : decode cX6_probe 238 = .ok (.iload 8, 2) := dk_21 8 (dk_at dksX6_probe_10 6 rfl rfl)
theorem dX6_probe_240 : decode cX6_probe 240 = .ok (.iload 6, 2) := dk_21 6 (dk_at dksX6_probe_10 8 rfl rfl)
theorem dX6_probe_242 : decode cX6_probe 242 = .ok (.if_icmp .lt 6, 3) := dk_161 0 6 (dk_at dksX6_probe_10 10 rfl rfl)
theorem dX6_probe_245 : decode cX6_probe 245 = .ok (.goto 11, 3) := dk_167 0 11 (dk_at dksX6_probe_10 13 rfl rfl)
theorem dX6_probe_248 : decode cX6_probe 248 = .ok (.iload 7, 2) := dk_21 7 (dk_at dksX6_probe_10 16 rfl rfl)
theorem dX6_probe_250 : decode cX6_probe 250 = .ok (.istore 5, 2) := dk_54 5 (dk_at dksX6_probe_10 18 rfl rfl)
theorem dX6_probe_252 : decode cX6_probe 252 = .ok (.iload 8, 2) := dk_21 8 (dk_at dksX6_probe_10 20 rfl rfl)
theorem dX6_probe_254 : decode cX6_probe 254 = .ok (.istore 6, 2) := dk_54 6 (dk_at dksX6_probe_10 22 rfl rfl)
theorem dX6_probe_256 : decode cX6_probe 256 = .ok (.iinc 7 1, 3) := dk_132 7 1 (dk_at dksX6_probe_11 0 rfl rfl)
theorem dX6_probe_259 : decode cX6_probe 259 = .ok (.goto (-110), 3) := dk_167 255 146 (dk_at dksX6_probe_11 3 rfl rfl)
theorem dX6_probe_262 : decode cX6_probe 262 = .ok (.iload 5, 2) := dk_21 5 (dk_at dksX6_probe_11 6 rfl rfl)
theorem dX6_probe_264 : decode cX6_probe 264 = .ok (.iconst (-1), 1) := dk_2 (dk_at dksX6_probe_11 8 rfl rfl)
theorem dX6_probe_265 : decode cX6_probe 265 = .ok (.if_icmp .ne 7, 3) := dk_160 0 7 (dk_at dksX6_probe_11 9 rfl rfl)
theorem dX6_probe_268 : decode cX6_probe 268 = .ok (.iconst (-1), 1) := dk_2 (dk_at dksX6_probe_11 12 rfl rfl)
theorem dX6_probe_269 : decode cX6_probe 269 = .ok (.goto 14, 3) := dk_167 0 14 (dk_at dksX6_probe_11 13 rfl rfl)
theorem dX6_probe_272 : decode cX6_probe 272 = .ok (.iload_n 3, 1) := dk_29 (dk_at dksX6_probe_11 16 rfl rfl)
theorem dX6_probe_273 : decode cX6_probe 273 = .ok (.ifCond .ne 8, 3) := dk_154 0 8 (dk_at dksX6_probe_11 17 rfl rfl)
theorem dX6_probe_276 : decode cX6_probe 276 = .ok (.iload 5, 2) := dk_21 5 (dk_at dksX6_probe_11 20 rfl rfl)
theorem dX6_probe_278 : decode cX6_probe 278 = .ok (.goto 5, 3) := dk_167 0 5 (dk_at dksX6_probe_12 0 rfl rfl)
theorem dX6_probe_281 : decode cX6_probe 281 = .ok (.iload 6, 2) := dk_21 6 (dk_at dksX6_probe_12 3 rfl rfl)
theorem dX6_probe_283 : decode cX6_probe 283 = .ok (.ireturn, 1) := dk_172 (dk_at dksX6_probe_12 5 rfl rfl)
abbrev cX6_part : ByteArray := prog_22_method_84_code
def yX6_part : MethodName := ⟨RX6, "part", "(II)I"⟩
def dkwX6_part_4 : List UInt8 := [21, 4, 172]
abbrev dktX6_part_4 : List UInt8 := dkwX6_part_4 ++ []
def dkwX6_part_3 : List UInt8 := [162, 0, 18, 42, 27, 28, 21, 5, 182, 2, 29, 153, 0, 7, 21, 5, 54, 4, 132, 5, 1, 167, 255, 208]
abbrev dktX6_part_3 : List UInt8 := dkwX6_part_3 ++ dktX6_part_4
def dkwX6_part_2 : List UInt8 := [42, 182, 1, 142, 120, 162, 0, 43, 21, 4, 2, 159, 0, 16, 21, 5, 184, 1, 227, 21, 4, 184, 1, 227]
abbrev dktX6_part_2 : List UInt8 := dkwX6_part_2 ++ dktX6_part_3
def dkwX6_part_1 : List UInt8 := [133, 184, 1, 41, 153, 0, 9, 27, 28, 126, 153, 0, 5, 2, 172, 2, 54, 4, 3, 54, 5, 21, 5, 4]
abbrev dktX6_part_1 : List UInt8 := dkwX6_part_1 ++ dktX6_part_2
def dkwX6_part_0 : List UInt8 := [4, 42, 182, 1, 145, 120, 4, 100, 62, 27, 133, 9, 29, 133, 184, 1, 41, 153, 0, 20, 28, 133, 9, 29]
abbrev dktX6_part_0 : List UInt8 := dkwX6_part_0 ++ dktX6_part_1
theorem dksX6_part_0 : cX6_part.data.toList.drop 0 = dktX6_part_0 := by decide +kernel
theorem dksX6_part_1 : cX6_part.data.toList.drop 24 = dktX6_part_1 := dk_seg dksX6_part_0 24 rfl rfl
theorem dksX6_part_2 : cX6_part.data.toList.drop 48 = dktX6_part_2 := dk_seg dksX6_part_1 24 rfl rfl
theorem dksX6_part_3 : cX6_part.data.toList.drop 72 = dktX6_part_3 := dk_seg dksX6_part_2 24 rfl rfl
theorem dksX6_part_4 : cX6_part.data.toList.drop 96 = dktX6_part_4 := dk_seg dksX6_part_3 24 rfl rfl
theorem dX6_part_0 : decode cX6_part 0 = .ok (.iconst 1, 1) := dk_4 (dk_at dksX6_part_0 0 rfl rfl)
theorem dX6_part_1 : decode cX6_part 1 = .ok (.aload_n 0, 1) := dk_42 (dk_at dksX6_part_0 1 rfl rfl)
theorem dX6_part_2 : decode cX6_part 2 = .ok (.invokevirtual 401, 3) := dk_182 1 145 (dk_at dksX6_part_0 2 rfl rfl)
theorem dX6_part_5 : decode cX6_part 5 = .ok (.ishl, 1) := dk_120 (dk_at dksX6_part_0 5 rfl rfl)
theorem dX6_part_6 : decode cX6_part 6 = .ok (.iconst 1, 1) := dk_4 (dk_at dksX6_part_0 6 rfl rfl)
theorem dX6_part_7 : decode cX6_part 7 = .ok (.isub, 1) := dk_100 (dk_at dksX6_part_0 7 rfl rfl)
theorem dX6_part_8 : decode cX6_part 8 = .ok (.istore_n 3, 1) := dk_62 (dk_at dksX6_part_0 8 rfl rfl)
theorem dX6_part_9 : decode cX6_part 9 = .ok (.iload_n 1, 1) := dk_27 (dk_at dksX6_part_0 9 rfl rfl)
theorem dX6_part_10 : decode cX6_part 10 = .ok (.i2l, 1) := dk_133 (dk_at dksX6_part_0 10 rfl rfl)
theorem dX6_part_11 : decode cX6_part 11 = .ok (.lconst 0, 1) := dk_9 (dk_at dksX6_part_0 11 rfl rfl)
theorem dX6_part_12 : decode cX6_part 12 = .ok (.iload_n 3, 1) := dk_29 (dk_at dksX6_part_0 12 rfl rfl)
theorem dX6_part_13 : decode cX6_part 13 = .ok (.i2l, 1) := dk_133 (dk_at dksX6_part_0 13 rfl rfl)
theorem dX6_part_14 : decode cX6_part 14 = .ok (.invokestatic 297, 3) := dk_184 1 41 (dk_at dksX6_part_0 14 rfl rfl)
theorem dX6_part_17 : decode cX6_part 17 = .ok (.ifCond .eq 20, 3) := dk_153 0 20 (dk_at dksX6_part_0 17 rfl rfl)
theorem dX6_part_20 : decode cX6_part 20 = .ok (.iload_n 2, 1) := dk_28 (dk_at dksX6_part_0 20 rfl rfl)
theorem dX6_part_21 : decode cX6_part 21 = .ok (.i2l, 1) := dk_133 (dk_at dksX6_part_0 21 rfl rfl)
theorem dX6_part_22 : decode cX6_part 22 = .ok (.lconst 0, 1) := dk_9 (dk_at dksX6_part_0 22 rfl rfl)
theorem dX6_part_23 : decode cX6_part 23 = .ok (.iload_n 3, 1) := dk_29 (dk_at dksX6_part_0 23 rfl rfl)
theorem dX6_part_24 : decode cX6_part 24 = .ok (.i2l, 1) := dk_133 (dk_at dksX6_part_1 0 rfl rfl)
theorem dX6_part_25 : decode cX6_part 25 = .ok (.invokestatic 297, 3) := dk_184 1 41 (dk_at dksX6_part_1 1 rfl rfl)
theorem dX6_part_28 : decode cX6_part 28 = .ok (.ifCond .eq 9, 3) := dk_153 0 9 (dk_at dksX6_part_1 4 rfl rfl)
theorem dX6_part_31 : decode cX6_part 31 = .ok (.iload_n 1, 1) := dk_27 (dk_at dksX6_part_1 7 rfl rfl)
theorem dX6_part_32 : decode cX6_part 32 = .ok (.iload_n 2, 1) := dk_28 (dk_at dksX6_part_1 8 rfl rfl)
theorem dX6_part_33 : decode cX6_part 33 = .ok (.iand, 1) := dk_126 (dk_at dksX6_part_1 9 rfl rfl)
theorem dX6_part_34 : decode cX6_part 34 = .ok (.ifCond .eq 5, 3) := dk_153 0 5 (dk_at dksX6_part_1 10 rfl rfl)
theorem dX6_part_37 : decode cX6_part 37 = .ok (.iconst (-1), 1) := dk_2 (dk_at dksX6_part_1 13 rfl rfl)
theorem dX6_part_38 : decode cX6_part 38 = .ok (.ireturn, 1) := dk_172 (dk_at dksX6_part_1 14 rfl rfl)
theorem dX6_part_39 : decode cX6_part 39 = .ok (.iconst (-1), 1) := dk_2 (dk_at dksX6_part_1 15 rfl rfl)
theorem dX6_part_40 : decode cX6_part 40 = .ok (.istore 4, 2) := dk_54 4 (dk_at dksX6_part_1 16 rfl rfl)
theorem dX6_part_42 : decode cX6_part 42 = .ok (.iconst 0, 1) := dk_3 (dk_at dksX6_part_1 18 rfl rfl)
theorem dX6_part_43 : decode cX6_part 43 = .ok (.istore 5, 2) := dk_54 5 (dk_at dksX6_part_1 19 rfl rfl)
theorem dX6_part_45 : decode cX6_part 45 = .ok (.iload 5, 2) := dk_21 5 (dk_at dksX6_part_1 21 rfl rfl)
theorem dX6_part_47 : decode cX6_part 47 = .ok (.iconst 1, 1) := dk_4 (dk_at dksX6_part_1 23 rfl rfl)
theorem dX6_part_48 : decode cX6_part 48 = .ok (.aload_n 0, 1) := dk_42 (dk_at dksX6_part_2 0 rfl rfl)
theorem dX6_part_49 : decode cX6_part 49 = .ok (.invokevirtual 398, 3) := dk_182 1 142 (dk_at dksX6_part_2 1 rfl rfl)
theorem dX6_part_52 : decode cX6_part 52 = .ok (.ishl, 1) := dk_120 (dk_at dksX6_part_2 4 rfl rfl)
theorem dX6_part_53 : decode cX6_part 53 = .ok (.if_icmp .ge 43, 3) := dk_162 0 43 (dk_at dksX6_part_2 5 rfl rfl)
theorem dX6_part_56 : decode cX6_part 56 = .ok (.iload 4, 2) := dk_21 4 (dk_at dksX6_part_2 8 rfl rfl)
theorem dX6_part_58 : decode cX6_part 58 = .ok (.iconst (-1), 1) := dk_2 (dk_at dksX6_part_2 10 rfl rfl)
theorem dX6_part_59 : decode cX6_part 59 = .ok (.if_icmp .eq 16, 3) := dk_159 0 16 (dk_at dksX6_part_2 11 rfl rfl)
theorem dX6_part_62 : decode cX6_part 62 = .ok (.iload 5, 2) := dk_21 5 (dk_at dksX6_part_2 14 rfl rfl)
theorem dX6_part_64 : decode cX6_part 64 = .ok (.invokestatic 483, 3) := dk_184 1 227 (dk_at dksX6_part_2 16 rfl rfl)
theorem dX6_part_67 : decode cX6_part 67 = .ok (.iload 4, 2) := dk_21 4 (dk_at dksX6_part_2 19 rfl rfl)
theorem dX6_part_69 : decode cX6_part 69 = .ok (.invokestatic 483, 3) := dk_184 1 227 (dk_at dksX6_part_2 21 rfl rfl)
theorem dX6_part_72 : decode cX6_part 72 = .ok (.if_icmp .ge 18, 3) := dk_162 0 18 (dk_at dksX6_part_3 0 rfl rfl)
theorem dX6_part_75 : decode cX6_part 75 = .ok (.aload_n 0, 1) := dk_42 (dk_at dksX6_part_3 3 rfl rfl)
theorem dX6_part_76 : decode cX6_part 76 = .ok (.iload_n 1, 1) := dk_27 (dk_at dksX6_part_3 4 rfl rfl)
theorem dX6_part_77 : decode cX6_part 77 = .ok (.iload_n 2, 1) := dk_28 (dk_at dksX6_part_3 5 rfl rfl)
theorem dX6_part_78 : decode cX6_part 78 = .ok (.iload 5, 2) := dk_21 5 (dk_at dksX6_part_3 6 rfl rfl)
theorem dX6_part_80 : decode cX6_part 80 = .ok (.invokevirtual 541, 3) := dk_182 2 29 (dk_at dksX6_part_3 8 rfl rfl)
theorem dX6_part_83 : decode cX6_part 83 = .ok (.ifCond .eq 7, 3) := dk_153 0 7 (dk_at dksX6_part_3 11 rfl rfl)
theorem dX6_part_86 : decode cX6_part 86 = .ok (.iload 5, 2) := dk_21 5 (dk_at dksX6_part_3 14 rfl rfl)
theorem dX6_part_88 : decode cX6_part 88 = .ok (.istore 4, 2) := dk_54 4 (dk_at dksX6_part_3 16 rfl rfl)
theorem dX6_part_90 : decode cX6_part 90 = .ok (.iinc 5 1, 3) := dk_132 5 1 (dk_at dksX6_part_3 18 rfl rfl)
theorem dX6_part_93 : decode cX6_part 93 = .ok (.goto (-48), 3) := dk_167 255 208 (dk_at dksX6_part_3 21 rfl rfl)
theorem dX6_part_96 : decode cX6_part 96 = .ok (.iload 4, 2) := dk_21 4 (dk_at dksX6_part_4 0 rfl rfl)
theorem dX6_part_98 : decode cX6_part 98 = .ok (.ireturn, 1) := dk_172 (dk_at dksX6_part_4 2 rfl rfl)
abbrev cX6_areParted : ByteArray := prog_22_method_83_code
def yX6_areParted : MethodName := ⟨RX6, "areParted", "(III)Z"⟩
def dkwX6_areParted_3 : List UInt8 := [132, 5, 1, 167, 255, 197, 132, 4, 1, 167, 255, 179, 4, 172]
abbrev dktX6_areParted_3 : List UInt8 := dkwX6_areParted_3 ++ []
def dkwX6_areParted_2 : List UInt8 := [182, 1, 148, 29, 126, 184, 1, 227, 42, 21, 5, 182, 1, 148, 29, 126, 184, 1, 227, 163, 0, 5, 3, 172]
abbrev dktX6_areParted_2 : List UInt8 := dkwX6_areParted_2 ++ dktX6_areParted_3
def dkwX6_areParted_1 : List UInt8 := [27, 21, 4, 122, 4, 126, 4, 160, 0, 40, 28, 21, 5, 122, 4, 126, 4, 160, 0, 30, 42, 21, 4]
abbrev dktX6_areParted_1 : List UInt8 := dkwX6_areParted_1 ++ dktX6_areParted_2
def dkwX6_areParted_0 : List UInt8 := [3, 54, 4, 21, 4, 42, 182, 1, 145, 162, 0, 74, 3, 54, 5, 21, 5, 42, 182, 1, 145, 162, 0, 56]
abbrev dktX6_areParted_0 : List UInt8 := dkwX6_areParted_0 ++ dktX6_areParted_1
theorem dksX6_areParted_0 : cX6_areParted.data.toList.drop 0 = dktX6_areParted_0 := by decide +kernel
theorem dksX6_areParted_1 : cX6_areParted.data.toList.drop 24 = dktX6_areParted_1 := dk_seg dksX6_areParted_0 24 rfl rfl
theorem dksX6_areParted_2 : cX6_areParted.data.toList.drop 47 = dktX6_areParted_2 := dk_seg dksX6_areParted_1 23 rfl rfl
theorem dksX6_areParted_3 : cX6_areParted.data.toList.drop 71 = dktX6_areParted_3 := dk_seg dksX6_areParted_2 24 rfl rfl
theorem dX6_areParted_0 : decode cX6_areParted 0 = .ok (.iconst 0, 1) := dk_3 (dk_at dksX6_areParted_0 0 rfl rfl)
theorem dX6_areParted_1 : decode cX6_areParted 1 = .ok (.istore 4, 2) := dk_54 4 (dk_at dksX6_areParted_0 1 rfl rfl)
theorem dX6_areParted_3 : decode cX6_areParted 3 = .ok (.iload 4, 2) := dk_21 4 (dk_at dksX6_areParted_0 3 rfl rfl)
theorem dX6_areParted_5 : decode cX6_areParted 5 = .ok (.aload_n 0, 1) := dk_42 (dk_at dksX6_areParted_0 5 rfl rfl)
theorem dX6_areParted_6 : decode cX6_areParted 6 = .ok (.invokevirtual 401, 3) := dk_182 1 145 (dk_at dksX6_areParted_0 6 rfl rfl)
theorem dX6_areParted_9 : decode cX6_areParted 9 = .ok (.if_icmp .ge 74, 3) := dk_162 0 74 (dk_at dksX6_areParted_0 9 rfl rfl)
theorem dX6_areParted_12 : decode cX6_areParted 12 = .ok (.iconst 0, 1) := dk_3 (dk_at dksX6_areParted_0 12 rfl rfl)
theorem dX6_areParted_13 : decode cX6_areParted 13 = .ok (.istore 5, 2) := dk_54 5 (dk_at dksX6_areParted_0 13 rfl rfl)
theorem dX6_areParted_15 : decode cX6_areParted 15 = .ok (.iload 5, 2) := dk_21 5 (dk_at dksX6_areParted_0 15 rfl rfl)
theorem dX6_areParted_17 : decode cX6_areParted 17 = .ok (.aload_n 0, 1) := dk_42 (dk_at dksX6_areParted_0 17 rfl rfl)
theorem dX6_areParted_18 : decode cX6_areParted 18 = .ok (.invokevirtual 401, 3) := dk_182 1 145 (dk_at dksX6_areParted_0 18 rfl rfl)
theorem dX6_areParted_21 : decode cX6_areParted 21 = .ok (.if_icmp .ge 56, 3) := dk_162 0 56 (dk_at dksX6_areParted_0 21 rfl rfl)
theorem dX6_areParted_24 : decode cX6_areParted 24 = .ok (.iload_n 1, 1) := dk_27 (dk_at dksX6_areParted_1 0 rfl rfl)
theorem dX6_areParted_25 : decode cX6_areParted 25 = .ok (.iload 4, 2) := dk_21 4 (dk_at dksX6_areParted_1 1 rfl rfl)
theorem dX6_areParted_27 : decode cX6_areParted 27 = .ok (.ishr, 1) := dk_122 (dk_at dksX6_areParted_1 3 rfl rfl)
theorem dX6_areParted_28 : decode cX6_areParted 28 = .ok (.iconst 1, 1) := dk_4 (dk_at dksX6_areParted_1 4 rfl rfl)
theorem dX6_areParted_29 : decode cX6_areParted 29 = .ok (.iand, 1) := dk_126 (dk_at dksX6_areParted_1 5 rfl rfl)
theorem dX6_areParted_30 : decode cX6_areParted 30 = .ok (.iconst 1, 1) := dk_4 (dk_at dksX6_areParted_1 6 rfl rfl)
theorem dX6_areParted_31 : decode cX6_areParted 31 = .ok (.if_icmp .ne 40, 3) := dk_160 0 40 (dk_at dksX6_areParted_1 7 rfl rfl)
theorem dX6_areParted_34 : decode cX6_areParted 34 = .ok (.iload_n 2, 1) := dk_28 (dk_at dksX6_areParted_1 10 rfl rfl)
theorem dX6_areParted_35 : decode cX6_areParted 35 = .ok (.iload 5, 2) := dk_21 5 (dk_at dksX6_areParted_1 11 rfl rfl)
theorem dX6_areParted_37 : decode cX6_areParted 37 = .ok (.ishr, 1) := dk_122 (dk_at dksX6_areParted_1 13 rfl rfl)
theorem dX6_areParted_38 : decode cX6_areParted 38 = .ok (.iconst 1, 1) := dk_4 (dk_at dksX6_areParted_1 14 rfl rfl)
theorem dX6_areParted_39 : decode cX6_areParted 39 = .ok (.iand, 1) := dk_126 (dk_at dksX6_areParted_1 15 rfl rfl)
theorem dX6_areParted_40 : decode cX6_areParted 40 = .ok (.iconst 1, 1) := dk_4 (dk_at dksX6_areParted_1 16 rfl rfl)
theorem dX6_areParted_41 : decode cX6_areParted 41 = .ok (.if_icmp .ne 30, 3) := dk_160 0 30 (dk_at dksX6_areParted_1 17 rfl rfl)
theorem dX6_areParted_44 : decode cX6_areParted 44 = .ok (.aload_n 0, 1) := dk_42 (dk_at dksX6_areParted_1 20 rfl rfl)
theorem dX6_areParted_45 : decode cX6_areParted 45 = .ok (.iload 4, 2) := dk_21 4 (dk_at dksX6_areParted_1 21 rfl rfl)
theorem dX6_areParted_47 : decode cX6_areParted 47 = .ok (.invokevirtual 404, 3) := dk_182 1 148 (dk_at dksX6_areParted_2 0 rfl rfl)
theorem dX6_areParted_50 : decode cX6_areParted 50 = .ok (.iload_n 3, 1) := dk_29 (dk_at dksX6_areParted_2 3 rfl rfl)
theorem dX6_areParted_51 : decode cX6_areParted 51 = .ok (.iand, 1) := dk_126 (dk_at dksX6_areParted_2 4 rfl rfl)
theorem dX6_areParted_52 : decode cX6_areParted 52 = .ok (.invokestatic 483, 3) := dk_184 1 227 (dk_at dksX6_areParted_2 5 rfl rfl)
theorem dX6_areParted_55 : decode cX6_areParted 55 = .ok (.aload_n 0, 1) := dk_42 (dk_at dksX6_areParted_2 8 rfl rfl)
theorem dX6_areParted_56 : decode cX6_areParted 56 = .ok (.iload 5, 2) := dk_21 5 (dk_at dksX6_areParted_2 9 rfl rfl)
theorem dX6_areParted_58 : decode cX6_areParted 58 = .ok (.invokevirtual 404, 3) := dk_182 1 148 (dk_at dksX6_areParted_2 11 rfl rfl)
theorem dX6_areParted_61 : decode cX6_areParted 61 = .ok (.iload_n 3, 1) := dk_29 (dk_at dksX6_areParted_2 14 rfl rfl)
theorem dX6_areParted_62 : decode cX6_areParted 62 = .ok (.iand, 1) := dk_126 (dk_at dksX6_areParted_2 15 rfl rfl)
theorem dX6_areParted_63 : decode cX6_areParted 63 = .ok (.invokestatic 483, 3) := dk_184 1 227 (dk_at dksX6_areParted_2 16 rfl rfl)
theorem dX6_areParted_66 : decode cX6_areParted 66 = .ok (.if_icmp .gt 5, 3) := dk_163 0 5 (dk_at dksX6_areParted_2 19 rfl rfl)
theorem dX6_areParted_69 : decode cX6_areParted 69 = .ok (.iconst 0, 1) := dk_3 (dk_at dksX6_areParted_2 22 rfl rfl)
theorem dX6_areParted_70 : decode cX6_areParted 70 = .ok (.ireturn, 1) := dk_172 (dk_at dksX6_areParted_2 23 rfl rfl)
theorem dX6_areParted_71 : decode cX6_areParted 71 = .ok (.iinc 5 1, 3) := dk_132 5 1 (dk_at dksX6_areParted_3 0 rfl rfl)
theorem dX6_areParted_74 : decode cX6_areParted 74 = .ok (.goto (-59), 3) := dk_167 255 197 (dk_at dksX6_areParted_3 3 rfl rfl)
theorem dX6_areParted_77 : decode cX6_areParted 77 = .ok (.iinc 4 1, 3) := dk_132 4 1 (dk_at dksX6_areParted_3 6 rfl rfl)
theorem dX6_areParted_80 : decode cX6_areParted 80 = .ok (.goto (-77), 3) := dk_167 255 179 (dk_at dksX6_areParted_3 9 rfl rfl)
theorem dX6_areParted_83 : decode cX6_areParted 83 = .ok (.iconst 1, 1) := dk_4 (dk_at dksX6_areParted_3 12 rfl rfl)
theorem dX6_areParted_84 : decode cX6_areParted 84 = .ok (.ireturn, 1) := dk_172 (dk_at dksX6_areParted_3 13 rfl rfl)
abbrev cX6_undo : ByteArray := prog_22_method_86_code
def yX6_undo : MethodName := ⟨RX6, "undo", "()Z"⟩
def dkwX6_undo_3 : List UInt8 := [181, 2, 32, 42, 89, 180, 1, 136, 4, 100, 181, 1, 136, 4, 172]
abbrev dktX6_undo_3 : List UInt8 := dkwX6_undo_3 ++ []
def dkwX6_undo_2 : List UInt8 := [96, 46, 79, 132, 1, 1, 167, 255, 225, 42, 42, 180, 2, 32, 16, 20, 96, 4, 100, 16, 20, 112]
abbrev dktX6_undo_2 : List UInt8 := dkwX6_undo_2 ++ dktX6_undo_3
def dkwX6_undo_1 : List UInt8 := [17, 0, 132, 162, 0, 30, 42, 180, 0, 139, 27, 42, 180, 0, 160, 17, 0, 132, 42, 180, 2, 32, 104, 27]
abbrev dktX6_undo_1 : List UInt8 := dkwX6_undo_1 ++ dktX6_undo_2
def dkwX6_undo_0 : List UInt8 := [42, 180, 1, 136, 154, 0, 15, 42, 180, 0, 17, 7, 92, 46, 4, 96, 79, 3, 172, 3, 60, 27]
abbrev dktX6_undo_0 : List UInt8 := dkwX6_undo_0 ++ dktX6_undo_1
theorem dksX6_undo_0 : cX6_undo.data.toList.drop 0 = dktX6_undo_0 := by decide +kernel
theorem dksX6_undo_1 : cX6_undo.data.toList.drop 22 = dktX6_undo_1 := dk_seg dksX6_undo_0 22 rfl rfl
theorem dksX6_undo_2 : cX6_undo.data.toList.drop 46 = dktX6_undo_2 := dk_seg dksX6_undo_1 24 rfl rfl
theorem dksX6_undo_3 : cX6_undo.data.toList.drop 68 = dktX6_undo_3 := dk_seg dksX6_undo_2 22 rfl rfl
theorem dX6_undo_0 : decode cX6_undo 0 = .ok (.aload_n 0, 1) := dk_42 (dk_at dksX6_undo_0 0 rfl rfl)
theorem dX6_undo_1 : decode cX6_undo 1 = .ok (.getfield 392, 3) := dk_180 1 136 (dk_at dksX6_undo_0 1 rfl rfl)
theorem dX6_undo_4 : decode cX6_undo 4 = .ok (.ifCond .ne 15, 3) := dk_154 0 15 (dk_at dksX6_undo_0 4 rfl rfl)
theorem dX6_undo_7 : decode cX6_undo 7 = .ok (.aload_n 0, 1) := dk_42 (dk_at dksX6_undo_0 7 rfl rfl)
theorem dX6_undo_8 : decode cX6_undo 8 = .ok (.getfield 17, 3) := dk_180 0 17 (dk_at dksX6_undo_0 8 rfl rfl)
theorem dX6_undo_11 : decode cX6_undo 11 = .ok (.iconst 4, 1) := dk_7 (dk_at dksX6_undo_0 11 rfl rfl)
theorem dX6_undo_12 : decode cX6_undo 12 = .ok (.dup2, 1) := dk_92 (dk_at dksX6_undo_0 12 rfl rfl)
theorem dX6_undo_13 : decode cX6_undo 13 = .ok (.iaload, 1) := dk_46 (dk_at dksX6_undo_0 13 rfl rfl)
theorem dX6_undo_14 : decode cX6_undo 14 = .ok (.iconst 1, 1) := dk_4 (dk_at dksX6_undo_0 14 rfl rfl)
theorem dX6_undo_15 : decode cX6_undo 15 = .ok (.iadd, 1) := dk_96 (dk_at dksX6_undo_0 15 rfl rfl)
theorem dX6_undo_16 : decode cX6_undo 16 = .ok (.iastore, 1) := dk_79 (dk_at dksX6_undo_0 16 rfl rfl)
theorem dX6_undo_17 : decode cX6_undo 17 = .ok (.iconst 0, 1) := dk_3 (dk_at dksX6_undo_0 17 rfl rfl)
theorem dX6_undo_18 : decode cX6_undo 18 = .ok (.ireturn, 1) := dk_172 (dk_at dksX6_undo_0 18 rfl rfl)
theorem dX6_undo_19 : decode cX6_undo 19 = .ok (.iconst 0, 1) := dk_3 (dk_at dksX6_undo_0 19 rfl rfl)
theorem dX6_undo_20 : decode cX6_undo 20 = .ok (.istore_n 1, 1) := dk_60 (dk_at dksX6_undo_0 20 rfl rfl)
theorem dX6_undo_21 : decode cX6_undo 21 = .ok (.iload_n 1, 1) := dk_27 (dk_at dksX6_undo_0 21 rfl rfl)
theorem dX6_undo_22 : decode cX6_undo 22 = .ok (.sipush 132, 3) := dk_17 0 132 (dk_at dksX6_undo_1 0 rfl rfl)
theorem dX6_undo_25 : decode cX6_undo 25 = .ok (.if_icmp .ge 30, 3) := dk_162 0 30 (dk_at dksX6_undo_1 3 rfl rfl)
theorem dX6_undo_28 : decode cX6_undo 28 = .ok (.aload_n 0, 1) := dk_42 (dk_at dksX6_undo_1 6 rfl rfl)
theorem dX6_undo_29 : decode cX6_undo 29 = .ok (.getfield 139, 3) := dk_180 0 139 (dk_at dksX6_undo_1 7 rfl rfl)
theorem dX6_undo_32 : decode cX6_undo 32 = .ok (.iload_n 1, 1) := dk_27 (dk_at dksX6_undo_1 10 rfl rfl)
theorem dX6_undo_33 : decode cX6_undo 33 = .ok (.aload_n 0, 1) := dk_42 (dk_at dksX6_undo_1 11 rfl rfl)
theorem dX6_undo_34 : decode cX6_undo 34 = .ok (.getfield 160, 3) := dk_180 0 160 (dk_at dksX6_undo_1 12 rfl rfl)
theorem dX6_undo_37 : decode cX6_undo 37 = .ok (.sipush 132, 3) := dk_17 0 132 (dk_at dksX6_undo_1 15 rfl rfl)
theorem dX6_undo_40 : decode cX6_undo 40 = .ok (.aload_n 0, 1) := dk_42 (dk_at dksX6_undo_1 18 rfl rfl)
theorem dX6_undo_41 : decode cX6_undo 41 = .ok (.getfield 544, 3) := dk_180 2 32 (dk_at dksX6_undo_1 19 rfl rfl)
theorem dX6_undo_44 : decode cX6_undo 44 = .ok (.imul, 1) := dk_104 (dk_at dksX6_undo_1 22 rfl rfl)
theorem dX6_undo_45 : decode cX6_undo 45 = .ok (.iload_n 1, 1) := dk_27 (dk_at dksX6_undo_1 23 rfl rfl)
theorem dX6_undo_46 : decode cX6_undo 46 = .ok (.iadd, 1) := dk_96 (dk_at dksX6_undo_2 0 rfl rfl)
theorem dX6_undo_47 : decode cX6_undo 47 = .ok (.iaload, 1) := dk_46 (dk_at dksX6_undo_2 1 rfl rfl)
theorem dX6_undo_48 : decode cX6_undo 48 = .ok (.iastore, 1) := dk_79 (dk_at dksX6_undo_2 2 rfl rfl)
theorem dX6_undo_49 : decode cX6_undo 49 = .ok (.iinc 1 1, 3) := dk_132 1 1 (dk_at dksX6_undo_2 3 rfl rfl)
theorem dX6_undo_52 : decode cX6_undo 52 = .ok (.goto (-31), 3) := dk_167 255 225 (dk_at dksX6_undo_2 6 rfl rfl)
theorem dX6_undo_55 : decode cX6_undo 55 = .ok (.aload_n 0, 1) := dk_42 (dk_at dksX6_undo_2 9 rfl rfl)
theorem dX6_undo_56 : decode cX6_undo 56 = .ok (.aload_n 0, 1) := dk_42 (dk_at dksX6_undo_2 10 rfl rfl)
theorem dX6_undo_57 : decode cX6_undo 57 = .ok (.getfield 544, 3) := dk_180 2 32 (dk_at dksX6_undo_2 11 rfl rfl)
theorem dX6_undo_60 : decode cX6_undo 60 = .ok (.bipush 20, 2) := dk_16 20 (dk_at dksX6_undo_2 14 rfl rfl)
theorem dX6_undo_62 : decode cX6_undo 62 = .ok (.iadd, 1) := dk_96 (dk_at dksX6_undo_2 16 rfl rfl)
theorem dX6_undo_63 : decode cX6_undo 63 = .ok (.iconst 1, 1) := dk_4 (dk_at dksX6_undo_2 17 rfl rfl)
theorem dX6_undo_64 : decode cX6_undo 64 = .ok (.isub, 1) := dk_100 (dk_at dksX6_undo_2 18 rfl rfl)
theorem dX6_undo_65 : decode cX6_undo 65 = .ok (.bipush 20, 2) := dk_16 20 (dk_at dksX6_undo_2 19 rfl rfl)
theorem dX6_undo_67 : decode cX6_undo 67 = .ok (.irem, 1) := dk_112 (dk_at dksX6_undo_2 21 rfl rfl)
theorem dX6_undo_68 : decode cX6_undo 68 = .ok (.putfield 544, 3) := dk_181 2 32 (dk_at dksX6_undo_3 0 rfl rfl)
theorem dX6_undo_71 : decode cX6_undo 71 = .ok (.aload_n 0, 1) := dk_42 (dk_at dksX6_undo_3 3 rfl rfl)
theorem dX6_undo_72 : decode cX6_undo 72 = .ok (.dup, 1) := dk_89 (dk_at dksX6_undo_3 4 rfl rfl)
theorem dX6_undo_73 : decode cX6_undo 73 = .ok (.getfield 392, 3) := dk_180 1 136 (dk_at dksX6_undo_3 5 rfl rfl)
theorem dX6_undo_76 : decode cX6_undo 76 = .ok (.iconst 1, 1) := dk_4 (dk_at dksX6_undo_3 8 rfl rfl)
theorem dX6_undo_77 : decode cX6_undo 77 = .ok (.isub, 1) := dk_100 (dk_at dksX6_undo_3 9 rfl rfl)
theorem dX6_undo_78 : decode cX6_undo 78 = .ok (.putfield 392, 3) := dk_181 1 136 (dk_at dksX6_undo_3 10 rfl rfl)
theorem dX6_undo_81 : decode cX6_undo 81 = .ok (.iconst 1, 1) := dk_4 (dk_at dksX6_undo_3 13 rfl rfl)
theorem dX6_undo_82 : decode cX6_undo 82 = .ok (.ireturn, 1) := dk_172 (dk_at dksX6_undo_3 14 rfl rfl)
abbrev cX6_teach : ByteArray := prog_22_method_87_code
def yX6_teach : MethodName := ⟨RX6, "teach", "(II)Z"⟩
def dkwX6_teach_2 : List UInt8 := [79, 3, 172, 42, 182, 2, 35, 42, 180, 0, 139, 4, 8, 27, 104, 96, 28, 79, 4, 172]
abbrev dktX6_teach_2 : List UInt8 := dkwX6_teach_2 ++ []
def dkwX6_teach_1 : List UInt8 := [182, 2, 16, 154, 0, 12, 42, 27, 182, 1, 154, 28, 160, 0, 15, 42, 180, 0, 17, 5, 92, 46, 4, 96]
abbrev dktX6_teach_1 : List UInt8 := dkwX6_teach_1 ++ dktX6_teach_2
def dkwX6_teach_0 : List UInt8 := [42, 27, 182, 1, 248, 153, 0, 34, 28, 2, 159, 0, 20, 42, 28, 182, 1, 248, 153, 0, 21, 42, 28, 27]
abbrev dktX6_teach_0 : List UInt8 := dkwX6_teach_0 ++ dktX6_teach_1
theorem dksX6_teach_0 : cX6_teach.data.toList.drop 0 = dktX6_teach_0 := by decide +kernel
theorem dksX6_teach_1 : cX6_teach.data.toList.drop 24 = dktX6_teach_1 := dk_seg dksX6_teach_0 24 rfl rfl
theorem dksX6_teach_2 : cX6_teach.data.toList.drop 48 = dktX6_teach_2 := dk_seg dksX6_teach_1 24 rfl rfl
theorem dX6_teach_0 : decode cX6_teach 0 = .ok (.aload_n 0, 1) := dk_42 (dk_at dksX6_teach_0 0 rfl rfl)
theorem dX6_teach_1 : decode cX6_teach 1 = .ok (.iload_n 1, 1) := dk_27 (dk_at dksX6_teach_0 1 rfl rfl)
theorem dX6_teach_2 : decode cX6_teach 2 = .ok (.invokevirtual 504, 3) := dk_182 1 248 (dk_at dksX6_teach_0 2 rfl rfl)
theorem dX6_teach_5 : decode cX6_teach 5 = .ok (.ifCond .eq 34, 3) := dk_153 0 34 (dk_at dksX6_teach_0 5 rfl rfl)
theorem dX6_teach_8 : decode cX6_teach 8 = .ok (.iload_n 2, 1) := dk_28 (dk_at dksX6_teach_0 8 rfl rfl)
theorem dX6_teach_9 : decode cX6_teach 9 = .ok (.iconst (-1), 1) := dk_2 (dk_at dksX6_teach_0 9 rfl rfl)
theorem dX6_teach_10 : decode cX6_teach 10 = .ok (.if_icmp .eq 20, 3) := dk_159 0 20 (dk_at dksX6_teach_0 10 rfl rfl)
theorem dX6_teach_13 : decode cX6_teach 13 = .ok (.aload_n 0, 1) := dk_42 (dk_at dksX6_teach_0 13 rfl rfl)
theorem dX6_teach_14 : decode cX6_teach 14 = .ok (.iload_n 2, 1) := dk_28 (dk_at dksX6_teach_0 14 rfl rfl)
theorem dX6_teach_15 : decode cX6_teach 15 = .ok (.invokevirtual 504, 3) := dk_182 1 248 (dk_at dksX6_teach_0 15 rfl rfl)
theorem dX6_teach_18 : decode cX6_teach 18 = .ok (.ifCond .eq 21, 3) := dk_153 0 21 (dk_at dksX6_teach_0 18 rfl rfl)
theorem dX6_teach_21 : decode cX6_teach 21 = .ok (.aload_n 0, 1) := dk_42 (dk_at dksX6_teach_0 21 rfl rfl)
theorem dX6_teach_22 : decode cX6_teach 22 = .ok (.iload_n 2, 1) := dk_28 (dk_at dksX6_teach_0 22 rfl rfl)
theorem dX6_teach_23 : decode cX6_teach 23 = .ok (.iload_n 1, 1) := dk_27 (dk_at dksX6_teach_0 23 rfl rfl)
theorem dX6_teach_24 : decode cX6_teach 24 = .ok (.invokevirtual 528, 3) := dk_182 2 16 (dk_at dksX6_teach_1 0 rfl rfl)
theorem dX6_teach_27 : decode cX6_teach 27 = .ok (.ifCond .ne 12, 3) := dk_154 0 12 (dk_at dksX6_teach_1 3 rfl rfl)
theorem dX6_teach_30 : decode cX6_teach 30 = .ok (.aload_n 0, 1) := dk_42 (dk_at dksX6_teach_1 6 rfl rfl)
theorem dX6_teach_31 : decode cX6_teach 31 = .ok (.iload_n 1, 1) := dk_27 (dk_at dksX6_teach_1 7 rfl rfl)
theorem dX6_teach_32 : decode cX6_teach 32 = .ok (.invokevirtual 410, 3) := dk_182 1 154 (dk_at dksX6_teach_1 8 rfl rfl)
theorem dX6_teach_35 : decode cX6_teach 35 = .ok (.iload_n 2, 1) := dk_28 (dk_at dksX6_teach_1 11 rfl rfl)
theorem dX6_teach_36 : decode cX6_teach 36 = .ok (.if_icmp .ne 15, 3) := dk_160 0 15 (dk_at dksX6_teach_1 12 rfl rfl)
theorem dX6_teach_39 : decode cX6_teach 39 = .ok (.aload_n 0, 1) := dk_42 (dk_at dksX6_teach_1 15 rfl rfl)
theorem dX6_teach_40 : decode cX6_teach 40 = .ok (.getfield 17, 3) := dk_180 0 17 (dk_at dksX6_teach_1 16 rfl rfl)
theorem dX6_teach_43 : decode cX6_teach 43 = .ok (.iconst 2, 1) := dk_5 (dk_at dksX6_teach_1 19 rfl rfl)
theorem dX6_teach_44 : decode cX6_teach 44 = .ok (.dup2, 1) := dk_92 (dk_at dksX6_teach_1 20 rfl rfl)
theorem dX6_teach_45 : decode cX6_teach 45 = .ok (.iaload, 1) := dk_46 (dk_at dksX6_teach_1 21 rfl rfl)
theorem dX6_teach_46 : decode cX6_teach 46 = .ok (.iconst 1, 1) := dk_4 (dk_at dksX6_teach_1 22 rfl rfl)
theorem dX6_teach_47 : decode cX6_teach 47 = .ok (.iadd, 1) := dk_96 (dk_at dksX6_teach_1 23 rfl rfl)
theorem dX6_teach_48 : decode cX6_teach 48 = .ok (.iastore, 1) := dk_79 (dk_at dksX6_teach_2 0 rfl rfl)
theorem dX6_teach_49 : decode cX6_teach 49 = .ok (.iconst 0, 1) := dk_3 (dk_at dksX6_teach_2 1 rfl rfl)
theorem dX6_teach_50 : decode cX6_teach 50 = .ok (.ireturn, 1) := dk_172 (dk_at dksX6_teach_2 2 rfl rfl)
theorem dX6_teach_51 : decode cX6_teach 51 = .ok (.aload_n 0, 1) := dk_42 (dk_at dksX6_teach_2 3 rfl rfl)
theorem dX6_teach_52 : decode cX6_teach 52 = .ok (.invokevirtual 547, 3) := dk_182 2 35 (dk_at dksX6_teach_2 4 rfl rfl)
theorem dX6_teach_55 : decode cX6_teach 55 = .ok (.aload_n 0, 1) := dk_42 (dk_at dksX6_teach_2 7 rfl rfl)
theorem dX6_teach_56 : decode cX6_teach 56 = .ok (.getfield 139, 3) := dk_180 0 139 (dk_at dksX6_teach_2 8 rfl rfl)
theorem dX6_teach_59 : decode cX6_teach 59 = .ok (.iconst 1, 1) := dk_4 (dk_at dksX6_teach_2 11 rfl rfl)
theorem dX6_teach_60 : decode cX6_teach 60 = .ok (.iconst 5, 1) := dk_8 (dk_at dksX6_teach_2 12 rfl rfl)
theorem dX6_teach_61 : decode cX6_teach 61 = .ok (.iload_n 1, 1) := dk_27 (dk_at dksX6_teach_2 13 rfl rfl)
theorem dX6_teach_62 : decode cX6_teach 62 = .ok (.imul, 1) := dk_104 (dk_at dksX6_teach_2 14 rfl rfl)
theorem dX6_teach_63 : decode cX6_teach 63 = .ok (.iadd, 1) := dk_96 (dk_at dksX6_teach_2 15 rfl rfl)
theorem dX6_teach_64 : decode cX6_teach 64 = .ok (.iload_n 2, 1) := dk_28 (dk_at dksX6_teach_2 16 rfl rfl)
theorem dX6_teach_65 : decode cX6_teach 65 = .ok (.iastore, 1) := dk_79 (dk_at dksX6_teach_2 17 rfl rfl)
theorem dX6_teach_66 : decode cX6_teach 66 = .ok (.iconst 1, 1) := dk_4 (dk_at dksX6_teach_2 18 rfl rfl)
theorem dX6_teach_67 : decode cX6_teach 67 = .ok (.ireturn, 1) := dk_172 (dk_at dksX6_teach_2 19 rfl rfl)
abbrev cX6_keeps : ByteArray := prog_22_method_85_code
def yX6_keeps : MethodName := ⟨RX6, "keeps", "()V"⟩
def dkwX6_keeps_2 : List UInt8 := [167, 255, 225, 42, 180, 1, 136, 16, 20, 162, 0, 13, 42, 89, 180, 1, 136, 4, 96, 181, 1, 136, 177]
abbrev dktX6_keeps_2 : List UInt8 := dkwX6_keeps_2 ++ []
def dkwX6_keeps_1 : List UInt8 := [180, 0, 160, 17, 0, 132, 42, 180, 2, 32, 104, 27, 96, 42, 180, 0, 139, 27, 46, 79, 132, 1, 1]
abbrev dktX6_keeps_1 : List UInt8 := dkwX6_keeps_1 ++ dktX6_keeps_2
def dkwX6_keeps_0 : List UInt8 := [42, 42, 180, 2, 32, 4, 96, 16, 20, 112, 181, 2, 32, 3, 60, 27, 17, 0, 132, 162, 0, 30, 42]
abbrev dktX6_keeps_0 : List UInt8 := dkwX6_keeps_0 ++ dktX6_keeps_1
theorem dksX6_keeps_0 : cX6_keeps.data.toList.drop 0 = dktX6_keeps_0 := by decide +kernel
theorem dksX6_keeps_1 : cX6_keeps.data.toList.drop 23 = dktX6_keeps_1 := dk_seg dksX6_keeps_0 23 rfl rfl
theorem dksX6_keeps_2 : cX6_keeps.data.toList.drop 46 = dktX6_keeps_2 := dk_seg dksX6_keeps_1 23 rfl rfl
theorem dX6_keeps_0 : decode cX6_keeps 0 = .ok (.aload_n 0, 1) := dk_42 (dk_at dksX6_keeps_0 0 rfl rfl)
theorem dX6_keeps_1 : decode cX6_keeps 1 = .ok (.aload_n 0, 1) := dk_42 (dk_at dksX6_keeps_0 1 rfl rfl)
theorem dX6_keeps_2 : decode cX6_keeps 2 = .ok (.getfield 544, 3) := dk_180 2 32 (dk_at dksX6_keeps_0 2 rfl rfl)
theorem dX6_keeps_5 : decode cX6_keeps 5 = .ok (.iconst 1, 1) := dk_4 (dk_at dksX6_keeps_0 5 rfl rfl)
theorem dX6_keeps_6 : decode cX6_keeps 6 = .ok (.iadd, 1) := dk_96 (dk_at dksX6_keeps_0 6 rfl rfl)
theorem dX6_keeps_7 : decode cX6_keeps 7 = .ok (.bipush 20, 2) := dk_16 20 (dk_at dksX6_keeps_0 7 rfl rfl)
theorem dX6_keeps_9 : decode cX6_keeps 9 = .ok (.irem, 1) := dk_112 (dk_at dksX6_keeps_0 9 rfl rfl)
theorem dX6_keeps_10 : decode cX6_keeps 10 = .ok (.putfield 544, 3) := dk_181 2 32 (dk_at dksX6_keeps_0 10 rfl rfl)
theorem dX6_keeps_13 : decode cX6_keeps 13 = .ok (.iconst 0, 1) := dk_3 (dk_at dksX6_keeps_0 13 rfl rfl)
theorem dX6_keeps_14 : decode cX6_keeps 14 = .ok (.istore_n 1, 1) := dk_60 (dk_at dksX6_keeps_0 14 rfl rfl)
theorem dX6_keeps_15 : decode cX6_keeps 15 = .ok (.iload_n 1, 1) := dk_27 (dk_at dksX6_keeps_0 15 rfl rfl)
theorem dX6_keeps_16 : decode cX6_keeps 16 = .ok (.sipush 132, 3) := dk_17 0 132 (dk_at dksX6_keeps_0 16 rfl rfl)
theorem dX6_keeps_19 : decode cX6_keeps 19 = .ok (.if_icmp .ge 30, 3) := dk_162 0 30 (dk_at dksX6_keeps_0 19 rfl rfl)
theorem dX6_keeps_22 : decode cX6_keeps 22 = .ok (.aload_n 0, 1) := dk_42 (dk_at dksX6_keeps_0 22 rfl rfl)
theorem dX6_keeps_23 : decode cX6_keeps 23 = .ok (.getfield 160, 3) := dk_180 0 160 (dk_at dksX6_keeps_1 0 rfl rfl)
theorem dX6_keeps_26 : decode cX6_keeps 26 = .ok (.sipush 132, 3) := dk_17 0 132 (dk_at dksX6_keeps_1 3 rfl rfl)
theorem dX6_keeps_29 : decode cX6_keeps 29 = .ok (.aload_n 0, 1) := dk_42 (dk_at dksX6_keeps_1 6 rfl rfl)
theorem dX6_keeps_30 : decode cX6_keeps 30 = .ok (.getfield 544, 3) := dk_180 2 32 (dk_at dksX6_keeps_1 7 rfl rfl)
theorem dX6_keeps_33 : decode cX6_keeps 33 = .ok (.imul, 1) := dk_104 (dk_at dksX6_keeps_1 10 rfl rfl)
theorem dX6_keeps_34 : decode cX6_keeps 34 = .ok (.iload_n 1, 1) := dk_27 (dk_at dksX6_keeps_1 11 rfl rfl)
theorem dX6_keeps_35 : decode cX6_keeps 35 = .ok (.iadd, 1) := dk_96 (dk_at dksX6_keeps_1 12 rfl rfl)
theorem dX6_keeps_36 : decode cX6_keeps 36 = .ok (.aload_n 0, 1) := dk_42 (dk_at dksX6_keeps_1 13 rfl rfl)
theorem dX6_keeps_37 : decode cX6_keeps 37 = .ok (.getfield 139, 3) := dk_180 0 139 (dk_at dksX6_keeps_1 14 rfl rfl)
theorem dX6_keeps_40 : decode cX6_keeps 40 = .ok (.iload_n 1, 1) := dk_27 (dk_at dksX6_keeps_1 17 rfl rfl)
theorem dX6_keeps_41 : decode cX6_keeps 41 = .ok (.iaload, 1) := dk_46 (dk_at dksX6_keeps_1 18 rfl rfl)
theorem dX6_keeps_42 : decode cX6_keeps 42 = .ok (.iastore, 1) := dk_79 (dk_at dksX6_keeps_1 19 rfl rfl)
theorem dX6_keeps_43 : decode cX6_keeps 43 = .ok (.iinc 1 1, 3) := dk_132 1 1 (dk_at dksX6_keeps_1 20 rfl rfl)
theorem dX6_keeps_46 : decode cX6_keeps 46 = .ok (.goto (-31), 3) := dk_167 255 225 (dk_at dksX6_keeps_2 0 rfl rfl)
theorem dX6_keeps_49 : decode cX6_keeps 49 = .ok (.aload_n 0, 1) := dk_42 (dk_at dksX6_keeps_2 3 rfl rfl)
theorem dX6_keeps_50 : decode cX6_keeps 50 = .ok (.getfield 392, 3) := dk_180 1 136 (dk_at dksX6_keeps_2 4 rfl rfl)
theorem dX6_keeps_53 : decode cX6_keeps 53 = .ok (.bipush 20, 2) := dk_16 20 (dk_at dksX6_keeps_2 7 rfl rfl)
theorem dX6_keeps_55 : decode cX6_keeps 55 = .ok (.if_icmp .ge 13, 3) := dk_162 0 13 (dk_at dksX6_keeps_2 9 rfl rfl)
theorem dX6_keeps_58 : decode cX6_keeps 58 = .ok (.aload_n 0, 1) := dk_42 (dk_at dksX6_keeps_2 12 rfl rfl)
theorem dX6_keeps_59 : decode cX6_keeps 59 = .ok (.dup, 1) := dk_89 (dk_at dksX6_keeps_2 13 rfl rfl)
theorem dX6_keeps_60 : decode cX6_keeps 60 = .ok (.getfield 392, 3) := dk_180 1 136 (dk_at dksX6_keeps_2 14 rfl rfl)
theorem dX6_keeps_63 : decode cX6_keeps 63 = .ok (.iconst 1, 1) := dk_4 (dk_at dksX6_keeps_2 17 rfl rfl)
theorem dX6_keeps_64 : decode cX6_keeps 64 = .ok (.iadd, 1) := dk_96 (dk_at dksX6_keeps_2 18 rfl rfl)
theorem dX6_keeps_65 : decode cX6_keeps 65 = .ok (.putfield 392, 3) := dk_181 1 136 (dk_at dksX6_keeps_2 19 rfl rfl)
theorem dX6_keeps_68 : decode cX6_keeps 68 = .ok (.return_, 1) := dk_177 (dk_at dksX6_keeps_2 22 rfl rfl)
abbrev cX6_tell : ByteArray := prog_22_method_88_code
def yX6_tell : MethodName := ⟨RX6, "tell", "(II)Z"⟩
def dkwX6_tell_2 : List UInt8 := [182, 1, 183, 4, 172]
abbrev dktX6_tell_2 : List UInt8 := dkwX6_tell_2 ++ []
def dkwX6_tell_1 : List UInt8 := [160, 0, 15, 42, 180, 0, 17, 5, 92, 46, 4, 96, 79, 3, 172, 42, 182, 2, 35, 42, 27, 28, 4]
abbrev dktX6_tell_1 : List UInt8 := dkwX6_tell_1 ++ dktX6_tell_2
def dkwX6_tell_0 : List UInt8 := [42, 27, 182, 1, 248, 153, 0, 21, 42, 28, 182, 1, 239, 153, 0, 13, 42, 27, 28, 182, 1, 174, 4]
abbrev dktX6_tell_0 : List UInt8 := dkwX6_tell_0 ++ dktX6_tell_1
theorem dksX6_tell_0 : cX6_tell.data.toList.drop 0 = dktX6_tell_0 := by decide +kernel
theorem dksX6_tell_1 : cX6_tell.data.toList.drop 23 = dktX6_tell_1 := dk_seg dksX6_tell_0 23 rfl rfl
theorem dksX6_tell_2 : cX6_tell.data.toList.drop 46 = dktX6_tell_2 := dk_seg dksX6_tell_1 23 rfl rfl
theorem dX6_tell_0 : decode cX6_tell 0 = .ok (.aload_n 0, 1) := dk_42 (dk_at dksX6_tell_0 0 rfl rfl)
theorem dX6_tell_1 : decode cX6_tell 1 = .ok (.iload_n 1, 1) := dk_27 (dk_at dksX6_tell_0 1 rfl rfl)
theorem dX6_tell_2 : decode cX6_tell 2 = .ok (.invokevirtual 504, 3) := dk_182 1 248 (dk_at dksX6_tell_0 2 rfl rfl)
theorem dX6_tell_5 : decode cX6_tell 5 = .ok (.ifCond .eq 21, 3) := dk_153 0 21 (dk_at dksX6_tell_0 5 rfl rfl)
theorem dX6_tell_8 : decode cX6_tell 8 = .ok (.aload_n 0, 1) := dk_42 (dk_at dksX6_tell_0 8 rfl rfl)
theorem dX6_tell_9 : decode cX6_tell 9 = .ok (.iload_n 2, 1) := dk_28 (dk_at dksX6_tell_0 9 rfl rfl)
theorem dX6_tell_10 : decode cX6_tell 10 = .ok (.invokevirtual 495, 3) := dk_182 1 239 (dk_at dksX6_tell_0 10 rfl rfl)
theorem dX6_tell_13 : decode cX6_tell 13 = .ok (.ifCond .eq 13, 3) := dk_153 0 13 (dk_at dksX6_tell_0 13 rfl rfl)
theorem dX6_tell_16 : decode cX6_tell 16 = .ok (.aload_n 0, 1) := dk_42 (dk_at dksX6_tell_0 16 rfl rfl)
theorem dX6_tell_17 : decode cX6_tell 17 = .ok (.iload_n 1, 1) := dk_27 (dk_at dksX6_tell_0 17 rfl rfl)
theorem dX6_tell_18 : decode cX6_tell 18 = .ok (.iload_n 2, 1) := dk_28 (dk_at dksX6_tell_0 18 rfl rfl)
theorem dX6_tell_19 : decode cX6_tell 19 = .ok (.invokevirtual 430, 3) := dk_182 1 174 (dk_at dksX6_tell_0 19 rfl rfl)
theorem dX6_tell_22 : decode cX6_tell 22 = .ok (.iconst 1, 1) := dk_4 (dk_at dksX6_tell_0 22 rfl rfl)
theorem dX6_tell_23 : decode cX6_tell 23 = .ok (.if_icmp .ne 15, 3) := dk_160 0 15 (dk_at dksX6_tell_1 0 rfl rfl)
theorem dX6_tell_26 : decode cX6_tell 26 = .ok (.aload_n 0, 1) := dk_42 (dk_at dksX6_tell_1 3 rfl rfl)
theorem dX6_tell_27 : decode cX6_tell 27 = .ok (.getfield 17, 3) := dk_180 0 17 (dk_at dksX6_tell_1 4 rfl rfl)
theorem dX6_tell_30 : decode cX6_tell 30 = .ok (.iconst 2, 1) := dk_5 (dk_at dksX6_tell_1 7 rfl rfl)
theorem dX6_tell_31 : decode cX6_tell 31 = .ok (.dup2, 1) := dk_92 (dk_at dksX6_tell_1 8 rfl rfl)
theorem dX6_tell_32 : decode cX6_tell 32 = .ok (.iaload, 1) := dk_46 (dk_at dksX6_tell_1 9 rfl rfl)
theorem dX6_tell_33 : decode cX6_tell 33 = .ok (.iconst 1, 1) := dk_4 (dk_at dksX6_tell_1 10 rfl rfl)
theorem dX6_tell_34 : decode cX6_tell 34 = .ok (.iadd, 1) := dk_96 (dk_at dksX6_tell_1 11 rfl rfl)
theorem dX6_tell_35 : decode cX6_tell 35 = .ok (.iastore, 1) := dk_79 (dk_at dksX6_tell_1 12 rfl rfl)
theorem dX6_tell_36 : decode cX6_tell 36 = .ok (.iconst 0, 1) := dk_3 (dk_at dksX6_tell_1 13 rfl rfl)
theorem dX6_tell_37 : decode cX6_tell 37 = .ok (.ireturn, 1) := dk_172 (dk_at dksX6_tell_1 14 rfl rfl)
theorem dX6_tell_38 : decode cX6_tell 38 = .ok (.aload_n 0, 1) := dk_42 (dk_at dksX6_tell_1 15 rfl rfl)
theorem dX6_tell_39 : decode cX6_tell 39 = .ok (.invokevirtual 547, 3) := dk_182 2 35 (dk_at dksX6_tell_1 16 rfl rfl)
theorem dX6_tell_42 : decode cX6_tell 42 = .ok (.aload_n 0, 1) := dk_42 (dk_at dksX6_tell_1 19 rfl rfl)
theorem dX6_tell_43 : decode cX6_tell 43 = .ok (.iload_n 1, 1) := dk_27 (dk_at dksX6_tell_1 20 rfl rfl)
theorem dX6_tell_44 : decode cX6_tell 44 = .ok (.iload_n 2, 1) := dk_28 (dk_at dksX6_tell_1 21 rfl rfl)
theorem dX6_tell_45 : decode cX6_tell 45 = .ok (.iconst 1, 1) := dk_4 (dk_at dksX6_tell_1 22 rfl rfl)
theorem dX6_tell_46 : decode cX6_tell 46 = .ok (.invokevirtual 439, 3) := dk_182 1 183 (dk_at dksX6_tell_2 0 rfl rfl)
theorem dX6_tell_49 : decode cX6_tell 49 = .ok (.iconst 1, 1) := dk_4 (dk_at dksX6_tell_2 3 rfl rfl)
theorem dX6_tell_50 : decode cX6_tell 50 = .ok (.ireturn, 1) := dk_172 (dk_at dksX6_tell_2 4 rfl rfl)
abbrev cX6_years : ByteArray := prog_22_method_89_code
def yX6_years : MethodName := ⟨RX6, "years", "(I)I"⟩
def dkwX6_years_1 : List UInt8 := [182, 2, 35, 42, 3, 181, 1, 203, 42, 27, 182, 2, 10, 42, 180, 1, 203, 172]
abbrev dktX6_years_1 : List UInt8 := dkwX6_years_1 ++ []
def dkwX6_years_0 : List UInt8 := [42, 27, 4, 16, 100, 182, 2, 2, 154, 0, 15, 42, 180, 0, 17, 6, 92, 46, 4, 96, 79, 2, 172, 42]
abbrev dktX6_years_0 : List UInt8 := dkwX6_years_0 ++ dktX6_years_1
theorem dksX6_years_0 : cX6_years.data.toList.drop 0 = dktX6_years_0 := by decide +kernel
theorem dksX6_years_1 : cX6_years.data.toList.drop 24 = dktX6_years_1 := dk_seg dksX6_years_0 24 rfl rfl
theorem dX6_years_0 : decode cX6_years 0 = .ok (.aload_n 0, 1) := dk_42 (dk_at dksX6_years_0 0 rfl rfl)
theorem dX6_years_1 : decode cX6_years 1 = .ok (.iload_n 1, 1) := dk_27 (dk_at dksX6_years_0 1 rfl rfl)
theorem dX6_years_2 : decode cX6_years 2 = .ok (.iconst 1, 1) := dk_4 (dk_at dksX6_years_0 2 rfl rfl)
theorem dX6_years_3 : decode cX6_years 3 = .ok (.bipush 100, 2) := dk_16 100 (dk_at dksX6_years_0 3 rfl rfl)
theorem dX6_years_5 : decode cX6_years 5 = .ok (.invokevirtual 514, 3) := dk_182 2 2 (dk_at dksX6_years_0 5 rfl rfl)
theorem dX6_years_8 : decode cX6_years 8 = .ok (.ifCond .ne 15, 3) := dk_154 0 15 (dk_at dksX6_years_0 8 rfl rfl)
theorem dX6_years_11 : decode cX6_years 11 = .ok (.aload_n 0, 1) := dk_42 (dk_at dksX6_years_0 11 rfl rfl)
theorem dX6_years_12 : decode cX6_years 12 = .ok (.getfield 17, 3) := dk_180 0 17 (dk_at dksX6_years_0 12 rfl rfl)
theorem dX6_years_15 : decode cX6_years 15 = .ok (.iconst 3, 1) := dk_6 (dk_at dksX6_years_0 15 rfl rfl)
theorem dX6_years_16 : decode cX6_years 16 = .ok (.dup2, 1) := dk_92 (dk_at dksX6_years_0 16 rfl rfl)
theorem dX6_years_17 : decode cX6_years 17 = .ok (.iaload, 1) := dk_46 (dk_at dksX6_years_0 17 rfl rfl)
theorem dX6_years_18 : decode cX6_years 18 = .ok (.iconst 1, 1) := dk_4 (dk_at dksX6_years_0 18 rfl rfl)
theorem dX6_years_19 : decode cX6_years 19 = .ok (.iadd, 1) := dk_96 (dk_at dksX6_years_0 19 rfl rfl)
theorem dX6_years_20 : decode cX6_years 20 = .ok (.iastore, 1) := dk_79 (dk_at dksX6_years_0 20 rfl rfl)
theorem dX6_years_21 : decode cX6_years 21 = .ok (.iconst (-1), 1) := dk_2 (dk_at dksX6_years_0 21 rfl rfl)
theorem dX6_years_22 : decode cX6_years 22 = .ok (.ireturn, 1) := dk_172 (dk_at dksX6_years_0 22 rfl rfl)
theorem dX6_years_23 : decode cX6_years 23 = .ok (.aload_n 0, 1) := dk_42 (dk_at dksX6_years_0 23 rfl rfl)
theorem dX6_years_24 : decode cX6_years 24 = .ok (.invokevirtual 547, 3) := dk_182 2 35 (dk_at dksX6_years_1 0 rfl rfl)
theorem dX6_years_27 : decode cX6_years 27 = .ok (.aload_n 0, 1) := dk_42 (dk_at dksX6_years_1 3 rfl rfl)
theorem dX6_years_28 : decode cX6_years 28 = .ok (.iconst 0, 1) := dk_3 (dk_at dksX6_years_1 4 rfl rfl)
theorem dX6_years_29 : decode cX6_years 29 = .ok (.putfield 459, 3) := dk_181 1 203 (dk_at dksX6_years_1 5 rfl rfl)
theorem dX6_years_32 : decode cX6_years 32 = .ok (.aload_n 0, 1) := dk_42 (dk_at dksX6_years_1 8 rfl rfl)
theorem dX6_years_33 : decode cX6_years 33 = .ok (.iload_n 1, 1) := dk_27 (dk_at dksX6_years_1 9 rfl rfl)
theorem dX6_years_34 : decode cX6_years 34 = .ok (.invokevirtual 522, 3) := dk_182 2 10 (dk_at dksX6_years_1 10 rfl rfl)
theorem dX6_years_37 : decode cX6_years 37 = .ok (.aload_n 0, 1) := dk_42 (dk_at dksX6_years_1 13 rfl rfl)
theorem dX6_years_38 : decode cX6_years 38 = .ok (.getfield 459, 3) := dk_180 1 203 (dk_at dksX6_years_1 14 rfl rfl)
theorem dX6_years_41 : decode cX6_years 41 = .ok (.ireturn, 1) := dk_172 (dk_at dksX6_years_1 17 rfl rfl)
abbrev cX6_seed : ByteArray := prog_22_method_90_code
def yX6_seed : MethodName := ⟨RX6, "seed", "(I)Z"⟩
def dkwX6_seed_0 : List UInt8 := [27, 156, 0, 15, 42, 180, 0, 17, 8, 92, 46, 4, 96, 79, 3, 172, 42, 27, 133, 181, 0, 163, 4, 172]
abbrev dktX6_seed_0 : List UInt8 := dkwX6_seed_0 ++ []
theorem dksX6_seed_0 : cX6_seed.data.toList.drop 0 = dktX6_seed_0 := by decide +kernel
theorem dX6_seed_0 : decode cX6_seed 0 = .ok (.iload_n 1, 1) := dk_27 (dk_at dksX6_seed_0 0 rfl rfl)
theorem dX6_seed_1 : decode cX6_seed 1 = .ok (.ifCond .ge 15, 3) := dk_156 0 15 (dk_at dksX6_seed_0 1 rfl rfl)
theorem dX6_seed_4 : decode cX6_seed 4 = .ok (.aload_n 0, 1) := dk_42 (dk_at dksX6_seed_0 4 rfl rfl)
theorem dX6_seed_5 : decode cX6_seed 5 = .ok (.getfield 17, 3) := dk_180 0 17 (dk_at dksX6_seed_0 5 rfl rfl)
theorem dX6_seed_8 : decode cX6_seed 8 = .ok (.iconst 5, 1) := dk_8 (dk_at dksX6_seed_0 8 rfl rfl)
theorem dX6_seed_9 : decode cX6_seed 9 = .ok (.dup2, 1) := dk_92 (dk_at dksX6_seed_0 9 rfl rfl)
theorem dX6_seed_10 : decode cX6_seed 10 = .ok (.iaload, 1) := dk_46 (dk_at dksX6_seed_0 10 rfl rfl)
theorem dX6_seed_11 : decode cX6_seed 11 = .ok (.iconst 1, 1) := dk_4 (dk_at dksX6_seed_0 11 rfl rfl)
theorem dX6_seed_12 : decode cX6_seed 12 = .ok (.iadd, 1) := dk_96 (dk_at dksX6_seed_0 12 rfl rfl)
theorem dX6_seed_13 : decode cX6_seed 13 = .ok (.iastore, 1) := dk_79 (dk_at dksX6_seed_0 13 rfl rfl)
theorem dX6_seed_14 : decode cX6_seed 14 = .ok (.iconst 0, 1) := dk_3 (dk_at dksX6_seed_0 14 rfl rfl)
theorem dX6_seed_15 : decode cX6_seed 15 = .ok (.ireturn, 1) := dk_172 (dk_at dksX6_seed_0 15 rfl rfl)
theorem dX6_seed_16 : decode cX6_seed 16 = .ok (.aload_n 0, 1) := dk_42 (dk_at dksX6_seed_0 16 rfl rfl)
theorem dX6_seed_17 : decode cX6_seed 17 = .ok (.iload_n 1, 1) := dk_27 (dk_at dksX6_seed_0 17 rfl rfl)
theorem dX6_seed_18 : decode cX6_seed 18 = .ok (.i2l, 1) := dk_133 (dk_at dksX6_seed_0 18 rfl rfl)
theorem dX6_seed_19 : decode cX6_seed 19 = .ok (.putfield 163, 3) := dk_181 0 163 (dk_at dksX6_seed_0 19 rfl rfl)
theorem dX6_seed_22 : decode cX6_seed 22 = .ok (.iconst 1, 1) := dk_4 (dk_at dksX6_seed_0 22 rfl rfl)
theorem dX6_seed_23 : decode cX6_seed 23 = .ok (.ireturn, 1) := dk_172 (dk_at dksX6_seed_0 23 rfl rfl)
abbrev cX6_chance : ByteArray := prog_22_method_92_code
def yX6_chance : MethodName := ⟨RX6, "chance", "(I)I"⟩
def dkwX6_chance_4 : List UInt8 := [132, 3, 1, 167, 255, 189, 28, 172]
abbrev dktX6_chance_4 : List UInt8 := dkwX6_chance_4 ++ []
def dkwX6_chance_3 : List UInt8 := [128, 54, 4, 132, 5, 1, 167, 255, 220, 28, 21, 4, 184, 1, 227, 96, 61, 42, 21, 4, 182, 1, 221]
abbrev dktX6_chance_3 : List UInt8 := dkwX6_chance_3 ++ dktX6_chance_4
def dkwX6_chance_2 : List UInt8 := [162, 0, 33, 42, 16, 100, 182, 2, 46, 42, 180, 0, 127, 8, 46, 162, 0, 12, 21, 4, 4, 21, 5, 120]
abbrev dktX6_chance_2 : List UInt8 := dkwX6_chance_2 ++ dktX6_chance_3
def dkwX6_chance_1 : List UInt8 := [182, 2, 35, 3, 61, 3, 62, 29, 27, 162, 0, 68, 3, 54, 4, 3, 54, 5, 21, 5, 42, 182, 1, 145]
abbrev dktX6_chance_1 : List UInt8 := dkwX6_chance_1 ++ dktX6_chance_2
def dkwX6_chance_0 : List UInt8 := [42, 27, 4, 16, 100, 182, 2, 2, 154, 0, 15, 42, 180, 0, 17, 6, 92, 46, 4, 96, 79, 2, 172, 42]
abbrev dktX6_chance_0 : List UInt8 := dkwX6_chance_0 ++ dktX6_chance_1
theorem dksX6_chance_0 : cX6_chance.data.toList.drop 0 = dktX6_chance_0 := by decide +kernel
theorem dksX6_chance_1 : cX6_chance.data.toList.drop 24 = dktX6_chance_1 := dk_seg dksX6_chance_0 24 rfl rfl
theorem dksX6_chance_2 : cX6_chance.data.toList.drop 48 = dktX6_chance_2 := dk_seg dksX6_chance_1 24 rfl rfl
theorem dksX6_chance_3 : cX6_chance.data.toList.drop 72 = dktX6_chance_3 := dk_seg dksX6_chance_2 24 rfl rfl
theorem dksX6_chance_4 : cX6_chance.data.toList.drop 95 = dktX6_chance_4 := dk_seg dksX6_chance_3 23 rfl rfl
theorem dX6_chance_0 : decode cX6_chance 0 = .ok (.aload_n 0, 1) := dk_42 (dk_at dksX6_chance_0 0 rfl rfl)
theorem dX6_chance_1 : decode cX6_chance 1 = .ok (.iload_n 1, 1) := dk_27 (dk_at dksX6_chance_0 1 rfl rfl)
theorem dX6_chance_2 : decode cX6_chance 2 = .ok (.iconst 1, 1) := dk_4 (dk_at dksX6_chance_0 2 rfl rfl)
theorem dX6_chance_3 : decode cX6_chance 3 = .ok (.bipush 100, 2) := dk_16 100 (dk_at dksX6_chance_0 3 rfl rfl)
theorem dX6_chance_5 : decode cX6_chance 5 = .ok (.invokevirtual 514, 3) := dk_182 2 2 (dk_at dksX6_chance_0 5 rfl rfl)
theorem dX6_chance_8 : decode cX6_chance 8 = .ok (.ifCond .ne 15, 3) := dk_154 0 15 (dk_at dksX6_chance_0 8 rfl rfl)
theorem dX6_chance_11 : decode cX6_chance 11 = .ok (.aload_n 0, 1) := dk_42 (dk_at dksX6_chance_0 11 rfl rfl)
theorem dX6_chance_12 : decode cX6_chance 12 = .ok (.getfield 17, 3) := dk_180 0 17 (dk_at dksX6_chance_0 12 rfl rfl)
theorem dX6_chance_15 : decode cX6_chance 15 = .ok (.iconst 3, 1) := dk_6 (dk_at dksX6_chance_0 15 rfl rfl)
theorem dX6_chance_16 : decode cX6_chance 16 = .ok (.dup2, 1) := dk_92 (dk_at dksX6_chance_0 16 rfl rfl)
theorem dX6_chance_17 : decode cX6_chance 17 = .ok (.iaload, 1) := dk_46 (dk_at dksX6_chance_0 17 rfl rfl)
theorem dX6_chance_18 : decode cX6_chance 18 = .ok (.iconst 1, 1) := dk_4 (dk_at dksX6_chance_0 18 rfl rfl)
theorem dX6_chance_19 : decode cX6_chance 19 = .ok (.iadd, 1) := dk_96 (dk_at dksX6_chance_0 19 rfl rfl)
theorem dX6_chance_20 : decode cX6_chance 20 = .ok (.iastore, 1) := dk_79 (dk_at dksX6_chance_0 20 rfl rfl)
theorem dX6_chance_21 : decode cX6_chance 21 = .ok (.iconst (-1), 1) := dk_2 (dk_at dksX6_chance_0 21 rfl rfl)
theorem dX6_chance_22 : decode cX6_chance 22 = .ok (.ireturn, 1) := dk_172 (dk_at dksX6_chance_0 22 rfl rfl)
theorem dX6_chance_23 : decode cX6_chance 23 = .ok (.aload_n 0, 1) := dk_42 (dk_at dksX6_chance_0 23 rfl rfl)
theorem dX6_chance_24 : decode cX6_chance 24 = .ok (.invokevirtual 547, 3) := dk_182 2 35 (dk_at dksX6_chance_1 0 rfl rfl)
theorem dX6_chance_27 : decode cX6_chance 27 = .ok (.iconst 0, 1) := dk_3 (dk_at dksX6_chance_1 3 rfl rfl)
theorem dX6_chance_28 : decode cX6_chance 28 = .ok (.istore_n 2, 1) := dk_61 (dk_at dksX6_chance_1 4 rfl rfl)
theorem dX6_chance_29 : decode cX6_chance 29 = .ok (.iconst 0, 1) := dk_3 (dk_at dksX6_chance_1 5 rfl rfl)
theorem dX6_chance_30 : decode cX6_chance 30 = .ok (.istore_n 3, 1) := dk_62 (dk_at dksX6_chance_1 6 rfl rfl)
theorem dX6_chance_31 : decode cX6_chance 31 = .ok (.iload_n 3, 1) := dk_29 (dk_at dksX6_chance_1 7 rfl rfl)
theorem dX6_chance_32 : decode cX6_chance 32 = .ok (.iload_n 1, 1) := dk_27 (dk_at dksX6_chance_1 8 rfl rfl)
theorem dX6_chance_33 : decode cX6_chance 33 = .ok (.if_icmp .ge 68, 3) := dk_162 0 68 (dk_at dksX6_chance_1 9 rfl rfl)
theorem dX6_chance_36 : decode cX6_chance 36 = .ok (.iconst 0, 1) := dk_3 (dk_at dksX6_chance_1 12 rfl rfl)
theorem dX6_chance_37 : decode cX6_chance 37 = .ok (.istore 4, 2) := dk_54 4 (dk_at dksX6_chance_1 13 rfl rfl)
theorem dX6_chance_39 : decode cX6_chance 39 = .ok (.iconst 0, 1) := dk_3 (dk_at dksX6_chance_1 15 rfl rfl)
theorem dX6_chance_40 : decode cX6_chance 40 = .ok (.istore 5, 2) := dk_54 5 (dk_at dksX6_chance_1 16 rfl rfl)
theorem dX6_chance_42 : decode cX6_chance 42 = .ok (.iload 5, 2) := dk_21 5 (dk_at dksX6_chance_1 18 rfl rfl)
theorem dX6_chance_44 : decode cX6_chance 44 = .ok (.aload_n 0, 1) := dk_42 (dk_at dksX6_chance_1 20 rfl rfl)
theorem dX6_chance_45 : decode cX6_chance 45 = .ok (.invokevirtual 401, 3) := dk_182 1 145 (dk_at dksX6_chance_1 21 rfl rfl)
theorem dX6_chance_48 : decode cX6_chance 48 = .ok (.if_icmp .ge 33, 3) := dk_162 0 33 (dk_at dksX6_chance_2 0 rfl rfl)
theorem dX6_chance_51 : decode cX6_chance 51 = .ok (.aload_n 0, 1) := dk_42 (dk_at dksX6_chance_2 3 rfl rfl)
theorem dX6_chance_52 : decode cX6_chance 52 = .ok (.bipush 100, 2) := dk_16 100 (dk_at dksX6_chance_2 4 rfl rfl)
theorem dX6_chance_54 : decode cX6_chance 54 = .ok (.invokevirtual 558, 3) := dk_182 2 46 (dk_at dksX6_chance_2 6 rfl rfl)
theorem dX6_chance_57 : decode cX6_chance 57 = .ok (.aload_n 0, 1) := dk_42 (dk_at dksX6_chance_2 9 rfl rfl)
theorem dX6_chance_58 : decode cX6_chance 58 = .ok (.getfield 127, 3) := dk_180 0 127 (dk_at dksX6_chance_2 10 rfl rfl)
theorem dX6_chance_61 : decode cX6_chance 61 = .ok (.iconst 5, 1) := dk_8 (dk_at dksX6_chance_2 13 rfl rfl)
theorem dX6_chance_62 : decode cX6_chance 62 = .ok (.iaload, 1) := dk_46 (dk_at dksX6_chance_2 14 rfl rfl)
theorem dX6_chance_63 : decode cX6_chance 63 = .ok (.if_icmp .ge 12, 3) := dk_162 0 12 (dk_at dksX6_chance_2 15 rfl rfl)
theorem dX6_chance_66 : decode cX6_chance 66 = .ok (.iload 4, 2) := dk_21 4 (dk_at dksX6_chance_2 18 rfl rfl)
theorem dX6_chance_68 : decode cX6_chance 68 = .ok (.iconst 1, 1) := dk_4 (dk_at dksX6_chance_2 20 rfl rfl)
theorem dX6_chance_69 : decode cX6_chance 69 = .ok (.iload 5, 2) := dk_21 5 (dk_at dksX6_chance_2 21 rfl rfl)
theorem dX6_chance_71 : decode cX6_chance 71 = .ok (.ishl, 1) := dk_120 (dk_at dksX6_chance_2 23 rfl rfl)
theorem dX6_chance_72 : decode cX6_chance 72 = .ok (.ior, 1) := dk_128 (dk_at dksX6_chance_3 0 rfl rfl)
theorem dX6_chance_73 : decode cX6_chance 73 = .ok (.istore 4, 2) := dk_54 4 (dk_at dksX6_chance_3 1 rfl rfl)
theorem dX6_chance_75 : decode cX6_chance 75 = .ok (.iinc 5 1, 3) := dk_132 5 1 (dk_at dksX6_chance_3 3 rfl rfl)
theorem dX6_chance_78 : decode cX6_chance 78 = .ok (.goto (-36), 3) := dk_167 255 220 (dk_at dksX6_chance_3 6 rfl rfl)
theorem dX6_chance_81 : decode cX6_chance 81 = .ok (.iload_n 2, 1) := dk_28 (dk_at dksX6_chance_3 9 rfl rfl)
theorem dX6_chance_82 : decode cX6_chance 82 = .ok (.iload 4, 2) := dk_21 4 (dk_at dksX6_chance_3 10 rfl rfl)
theorem dX6_chance_84 : decode cX6_chance 84 = .ok (.invokestatic 483, 3) := dk_184 1 227 (dk_at dksX6_chance_3 12 rfl rfl)
theorem dX6_chance_87 : decode cX6_chance 87 = .ok (.iadd, 1) := dk_96 (dk_at dksX6_chance_3 15 rfl rfl)
theorem dX6_chance_88 : decode cX6_chance 88 = .ok (.istore_n 2, 1) := dk_61 (dk_at dksX6_chance_3 16 rfl rfl)
theorem dX6_chance_89 : decode cX6_chance 89 = .ok (.aload_n 0, 1) := dk_42 (dk_at dksX6_chance_3 17 rfl rfl)
theorem dX6_chance_90 : decode cX6_chance 90 = .ok (.iload 4, 2) := dk_21 4 (dk_at dksX6_chance_3 18 rfl rfl)
theorem dX6_chance_92 : decode cX6_chance 92 = .ok (.invokevirtual 477, 3) := dk_182 1 221 (dk_at dksX6_chance_3 20 rfl rfl)
theorem dX6_chance_95 : decode cX6_chance 95 = .ok (.iinc 3 1, 3) := dk_132 3 1 (dk_at dksX6_chance_4 0 rfl rfl)
theorem dX6_chance_98 : decode cX6_chance 98 = .ok (.goto (-67), 3) := dk_167 255 189 (dk_at dksX6_chance_4 3 rfl rfl)
theorem dX6_chance_101 : decode cX6_chance 101 = .ok (.iload_n 2, 1) := dk_28 (dk_at dksX6_chance_4 6 rfl rfl)
theorem dX6_chance_102 : decode cX6_chance 102 = .ok (.ireturn, 1) := dk_172 (dk_at dksX6_chance_4 7 rfl rfl)
abbrev cX6_drawOf : ByteArray := prog_22_method_91_code
def yX6_drawOf : MethodName := ⟨RX6, "drawOf", "(I)I"⟩
def dkwX6_drawOf_1 : List UInt8 := [20, 2, 44, 109, 27, 133, 113, 136, 172]
abbrev dktX6_drawOf_1 : List UInt8 := dkwX6_drawOf_1 ++ []
def dkwX6_drawOf_0 : List UInt8 := [42, 20, 2, 38, 42, 180, 0, 163, 105, 20, 2, 40, 97, 20, 2, 42, 113, 181, 0, 163, 42, 180, 0, 163]
abbrev dktX6_drawOf_0 : List UInt8 := dkwX6_drawOf_0 ++ dktX6_drawOf_1
theorem dksX6_drawOf_0 : cX6_drawOf.data.toList.drop 0 = dktX6_drawOf_0 := by decide +kernel
theorem dksX6_drawOf_1 : cX6_drawOf.data.toList.drop 24 = dktX6_drawOf_1 := dk_seg dksX6_drawOf_0 24 rfl rfl
theorem dX6_drawOf_0 : decode cX6_drawOf 0 = .ok (.aload_n 0, 1) := dk_42 (dk_at dksX6_drawOf_0 0 rfl rfl)
theorem dX6_drawOf_1 : decode cX6_drawOf 1 = .ok (.ldc2_w 550, 3) := dk_20 2 38 (dk_at dksX6_drawOf_0 1 rfl rfl)
theorem dX6_drawOf_4 : decode cX6_drawOf 4 = .ok (.aload_n 0, 1) := dk_42 (dk_at dksX6_drawOf_0 4 rfl rfl)
theorem dX6_drawOf_5 : decode cX6_drawOf 5 = .ok (.getfield 163, 3) := dk_180 0 163 (dk_at dksX6_drawOf_0 5 rfl rfl)
theorem dX6_drawOf_8 : decode cX6_drawOf 8 = .ok (.lmul, 1) := dk_105 (dk_at dksX6_drawOf_0 8 rfl rfl)
theorem dX6_drawOf_9 : decode cX6_drawOf 9 = .ok (.ldc2_w 552, 3) := dk_20 2 40 (dk_at dksX6_drawOf_0 9 rfl rfl)
theorem dX6_drawOf_12 : decode cX6_drawOf 12 = .ok (.ladd, 1) := dk_97 (dk_at dksX6_drawOf_0 12 rfl rfl)
theorem dX6_drawOf_13 : decode cX6_drawOf 13 = .ok (.ldc2_w 554, 3) := dk_20 2 42 (dk_at dksX6_drawOf_0 13 rfl rfl)
theorem dX6_drawOf_16 : decode cX6_drawOf 16 = .ok (.lrem, 1) := dk_113 (dk_at dksX6_drawOf_0 16 rfl rfl)
theorem dX6_drawOf_17 : decode cX6_drawOf 17 = .ok (.putfield 163, 3) := dk_181 0 163 (dk_at dksX6_drawOf_0 17 rfl rfl)
theorem dX6_drawOf_20 : decode cX6_drawOf 20 = .ok (.aload_n 0, 1) := dk_42 (dk_at dksX6_drawOf_0 20 rfl rfl)
theorem dX6_drawOf_21 : decode cX6_drawOf 21 = .ok (.getfield 163, 3) := dk_180 0 163 (dk_at dksX6_drawOf_0 21 rfl rfl)
theorem dX6_drawOf_24 : decode cX6_drawOf 24 = .ok (.ldc2_w 556, 3) := dk_20 2 44 (dk_at dksX6_drawOf_1 0 rfl rfl)
theorem dX6_drawOf_27 : decode cX6_drawOf 27 = .ok (.ldiv, 1) := dk_109 (dk_at dksX6_drawOf_1 3 rfl rfl)
theorem dX6_drawOf_28 : decode cX6_drawOf 28 = .ok (.iload_n 1, 1) := dk_27 (dk_at dksX6_drawOf_1 4 rfl rfl)
theorem dX6_drawOf_29 : decode cX6_drawOf 29 = .ok (.i2l, 1) := dk_133 (dk_at dksX6_drawOf_1 5 rfl rfl)
theorem dX6_drawOf_30 : decode cX6_drawOf 30 = .ok (.lrem, 1) := dk_113 (dk_at dksX6_drawOf_1 6 rfl rfl)
theorem dX6_drawOf_31 : decode cX6_drawOf 31 = .ok (.l2i, 1) := dk_136 (dk_at dksX6_drawOf_1 7 rfl rfl)
theorem dX6_drawOf_32 : decode cX6_drawOf 32 = .ok (.ireturn, 1) := dk_172 (dk_at dksX6_drawOf_1 8 rfl rfl)
abbrev cX6_ask : ByteArray := prog_22_method_121_code
def yX6_ask : MethodName := ⟨RX6, "ask", "(I)J"⟩
def dkwX6_ask_9 : List UInt8 := [167, 255, 234, 42, 180, 2, 122, 173]
abbrev dktX6_ask_9 : List UInt8 := dkwX6_ask_9 ++ []
def dkwX6_ask_8 : List UInt8 := [3, 62, 29, 42, 182, 1, 142, 162, 0, 20, 42, 28, 42, 29, 182, 2, 133, 29, 182, 2, 137, 132, 3, 1]
abbrev dktX6_ask_8 : List UInt8 := dkwX6_ask_8 ++ dktX6_ask_9
def dkwX6_ask_7 : List UInt8 := [5, 162, 0, 9, 20, 2, 125, 167, 0, 4, 9, 181, 2, 122, 42, 4, 181, 2, 127, 42, 27, 181, 1, 157]
abbrev dktX6_ask_7 : List UInt8 := dkwX6_ask_7 ++ dktX6_ask_8
def dkwX6_ask_6 : List UInt8 := [181, 1, 130, 42, 42, 180, 1, 4, 181, 0, 13, 42, 180, 1, 1, 153, 0, 7, 20, 1, 254, 173, 42, 28]
abbrev dktX6_ask_6 : List UInt8 := dkwX6_ask_6 ++ dktX6_ask_7
def dkwX6_ask_5 : List UInt8 := [42, 182, 1, 13, 2, 159, 0, 12, 42, 4, 42, 180, 1, 7, 182, 1, 31, 42, 42, 180, 1, 1]
abbrev dktX6_ask_5 : List UInt8 := dkwX6_ask_5 ++ dktX6_ask_6
def dkwX6_ask_4 : List UInt8 := [182, 1, 98, 167, 0, 14, 42, 180, 1, 1, 154, 0, 7, 42, 182, 2, 91, 42, 180, 1, 1, 154, 0, 20]
abbrev dktX6_ask_4 : List UInt8 := dkwX6_ask_4 ++ dktX6_ask_5
def dkwX6_ask_3 : List UInt8 := [42, 3, 181, 1, 95, 42, 182, 2, 130, 61, 42, 180, 1, 1, 154, 0, 15, 28, 6, 162, 0, 10, 42]
abbrev dktX6_ask_3 : List UInt8 := dkwX6_ask_3 ++ dktX6_ask_4
def dkwX6_ask_2 : List UInt8 := [2, 181, 1, 4, 42, 5, 181, 1, 56, 42, 3, 181, 1, 86, 42, 3, 181, 1, 89, 42, 3, 181, 1, 92]
abbrev dktX6_ask_2 : List UInt8 := dkwX6_ask_2 ++ dktX6_ask_3
def dkwX6_ask_1 : List UInt8 := [181, 1, 10, 42, 3, 181, 0, 254, 42, 3, 181, 1, 7, 42, 2, 181, 1, 21, 42, 3, 181, 1, 1, 42]
abbrev dktX6_ask_1 : List UInt8 := dkwX6_ask_1 ++ dktX6_ask_2
def dkwX6_ask_0 : List UInt8 := [42, 27, 182, 1, 248, 154, 0, 12, 42, 3, 181, 0, 254, 20, 1, 254, 173, 42, 42, 180, 0, 254]
abbrev dktX6_ask_0 : List UInt8 := dkwX6_ask_0 ++ dktX6_ask_1
theorem dksX6_ask_0 : cX6_ask.data.toList.drop 0 = dktX6_ask_0 := by decide +kernel
theorem dksX6_ask_1 : cX6_ask.data.toList.drop 22 = dktX6_ask_1 := dk_seg dksX6_ask_0 22 rfl rfl
theorem dksX6_ask_2 : cX6_ask.data.toList.drop 46 = dktX6_ask_2 := dk_seg dksX6_ask_1 24 rfl rfl
theorem dksX6_ask_3 : cX6_ask.data.toList.drop 70 = dktX6_ask_3 := dk_seg dksX6_ask_2 24 rfl rfl
theorem dksX6_ask_4 : cX6_ask.data.toList.drop 93 = dktX6_ask_4 := dk_seg dksX6_ask_3 23 rfl rfl
theorem dksX6_ask_5 : cX6_ask.data.toList.drop 117 = dktX6_ask_5 := dk_seg dksX6_ask_4 24 rfl rfl
theorem dksX6_ask_6 : cX6_ask.data.toList.drop 139 = dktX6_ask_6 := dk_seg dksX6_ask_5 22 rfl rfl
theorem dksX6_ask_7 : cX6_ask.data.toList.drop 163 = dktX6_ask_7 := dk_seg dksX6_ask_6 24 rfl rfl
theorem dksX6_ask_8 : cX6_ask.data.toList.drop 187 = dktX6_ask_8 := dk_seg dksX6_ask_7 24 rfl rfl
theorem dksX6_ask_9 : cX6_ask.data.toList.drop 211 = dktX6_ask_9 := dk_seg dksX6_ask_8 24 rfl rfl
theorem dX6_ask_0 : decode cX6_ask 0 = .ok (.aload_n 0, 1) := dk_42 (dk_at dksX6_ask_0 0 rfl rfl)
theorem dX6_ask_1 : decode cX6_ask 1 = .ok (.iload_n 1, 1) := dk_27 (dk_at dksX6_ask_0 1 rfl rfl)
theorem dX6_ask_2 : decode cX6_ask 2 = .ok (.invokevirtual 504, 3) := dk_182 1 248 (dk_at dksX6_ask_0 2 rfl rfl)
theorem dX6_ask_5 : decode cX6_ask 5 = .ok (.ifCond .ne 12, 3) := dk_154 0 12 (dk_at dksX6_ask_0 5 rfl rfl)
theorem dX6_ask_8 : decode cX6_ask 8 = .ok (.aload_n 0, 1) := dk_42 (dk_at dksX6_ask_0 8 rfl rfl)
theorem dX6_ask_9 : decode cX6_ask 9 = .ok (.iconst 0, 1) := dk_3 (dk_at dksX6_ask_0 9 rfl rfl)
theorem dX6_ask_10 : decode cX6_ask 10 = .ok (.putfield 254, 3) := dk_181 0 254 (dk_at dksX6_ask_0 10 rfl rfl)
theorem dX6_ask_13 : decode cX6_ask 13 = .ok (.ldc2_w 510, 3) := dk_20 1 254 (dk_at dksX6_ask_0 13 rfl rfl)
theorem dX6_ask_16 : decode cX6_ask 16 = .ok (.lreturn, 1) := dk_173 (dk_at dksX6_ask_0 16 rfl rfl)
theorem dX6_ask_17 : decode cX6_ask 17 = .ok (.aload_n 0, 1) := dk_42 (dk_at dksX6_ask_0 17 rfl rfl)
theorem dX6_ask_18 : decode cX6_ask 18 = .ok (.aload_n 0, 1) := dk_42 (dk_at dksX6_ask_0 18 rfl rfl)
theorem dX6_ask_19 : decode cX6_ask 19 = .ok (.getfield 254, 3) := dk_180 0 254 (dk_at dksX6_ask_0 19 rfl rfl)
theorem dX6_ask_22 : decode cX6_ask 22 = .ok (.putfield 266, 3) := dk_181 1 10 (dk_at dksX6_ask_1 0 rfl rfl)
theorem dX6_ask_25 : decode cX6_ask 25 = .ok (.aload_n 0, 1) := dk_42 (dk_at dksX6_ask_1 3 rfl rfl)
theorem dX6_ask_26 : decode cX6_ask 26 = .ok (.iconst 0, 1) := dk_3 (dk_at dksX6_ask_1 4 rfl rfl)
theorem dX6_ask_27 : decode cX6_ask 27 = .ok (.putfield 254, 3) := dk_181 0 254 (dk_at dksX6_ask_1 5 rfl rfl)
theorem dX6_ask_30 : decode cX6_ask 30 = .ok (.aload_n 0, 1) := dk_42 (dk_at dksX6_ask_1 8 rfl rfl)
theorem dX6_ask_31 : decode cX6_ask 31 = .ok (.iconst 0, 1) := dk_3 (dk_at dksX6_ask_1 9 rfl rfl)
theorem dX6_ask_32 : decode cX6_ask 32 = .ok (.putfield 263, 3) := dk_181 1 7 (dk_at dksX6_ask_1 10 rfl rfl)
theorem dX6_ask_35 : decode cX6_ask 35 = .ok (.aload_n 0, 1) := dk_42 (dk_at dksX6_ask_1 13 rfl rfl)
theorem dX6_ask_36 : decode cX6_ask 36 = .ok (.iconst (-1), 1) := dk_2 (dk_at dksX6_ask_1 14 rfl rfl)
theorem dX6_ask_37 : decode cX6_ask 37 = .ok (.putfield 277, 3) := dk_181 1 21 (dk_at dksX6_ask_1 15 rfl rfl)
theorem dX6_ask_40 : decode cX6_ask 40 = .ok (.aload_n 0, 1) := dk_42 (dk_at dksX6_ask_1 18 rfl rfl)
theorem dX6_ask_41 : decode cX6_ask 41 = .ok (.iconst 0, 1) := dk_3 (dk_at dksX6_ask_1 19 rfl rfl)
theorem dX6_ask_42 : decode cX6_ask 42 = .ok (.putfield 257, 3) := dk_181 1 1 (dk_at dksX6_ask_1 20 rfl rfl)
theorem dX6_ask_45 : decode cX6_ask 45 = .ok (.aload_n 0, 1) := dk_42 (dk_at dksX6_ask_1 23 rfl rfl)
theorem dX6_ask_46 : decode cX6_ask 46 = .ok (.iconst (-1), 1) := dk_2 (dk_at dksX6_ask_2 0 rfl rfl)
theorem dX6_ask_47 : decode cX6_ask 47 = .ok (.putfield 260, 3) := dk_181 1 4 (dk_at dksX6_ask_2 1 rfl rfl)
theorem dX6_ask_50 : decode cX6_ask 50 = .ok (.aload_n 0, 1) := dk_42 (dk_at dksX6_ask_2 4 rfl rfl)
theorem dX6_ask_51 : decode cX6_ask 51 = .ok (.iconst 2, 1) := dk_5 (dk_at dksX6_ask_2 5 rfl rfl)
theorem dX6_ask_52 : decode cX6_ask 52 = .ok (.putfield 312, 3) := dk_181 1 56 (dk_at dksX6_ask_2 6 rfl rfl)
theorem dX6_ask_55 : decode cX6_ask 55 = .ok (.aload_n 0, 1) := dk_42 (dk_at dksX6_ask_2 9 rfl rfl)
theorem dX6_ask_56 : decode cX6_ask 56 = .ok (.iconst 0, 1) := dk_3 (dk_at dksX6_ask_2 10 rfl rfl)
theorem dX6_ask_57 : decode cX6_ask 57 = .ok (.putfield 342, 3) := dk_181 1 86 (dk_at dksX6_ask_2 11 rfl rfl)
theorem dX6_ask_60 : decode cX6_ask 60 = .ok (.aload_n 0, 1) := dk_42 (dk_at dksX6_ask_2 14 rfl rfl)
theorem dX6_ask_61 : decode cX6_ask 61 = .ok (.iconst 0, 1) := dk_3 (dk_at dksX6_ask_2 15 rfl rfl)
theorem dX6_ask_62 : decode cX6_ask 62 = .ok (.putfield 345, 3) := dk_181 1 89 (dk_at dksX6_ask_2 16 rfl rfl)
theorem dX6_ask_65 : decode cX6_ask 65 = .ok (.aload_n 0, 1) := dk_42 (dk_at dksX6_ask_2 19 rfl rfl)
theorem dX6_ask_66 : decode cX6_ask 66 = .ok (.iconst 0, 1) := dk_3 (dk_at dksX6_ask_2 20 rfl rfl)
theorem dX6_ask_67 : decode cX6_ask 67 = .ok (.putfield 348, 3) := dk_181 1 92 (dk_at dksX6_ask_2 21 rfl rfl)
theorem dX6_ask_70 : decode cX6_ask 70 = .ok (.aload_n 0, 1) := dk_42 (dk_at dksX6_ask_3 0 rfl rfl)
theorem dX6_ask_71 : decode cX6_ask 71 = .ok (.iconst 0, 1) := dk_3 (dk_at dksX6_ask_3 1 rfl rfl)
theorem dX6_ask_72 : decode cX6_ask 72 = .ok (.putfield 351, 3) := dk_181 1 95 (dk_at dksX6_ask_3 2 rfl rfl)
theorem dX6_ask_75 : decode cX6_ask 75 = .ok (.aload_n 0, 1) := dk_42 (dk_at dksX6_ask_3 5 rfl rfl)
theorem dX6_ask_76 : decode cX6_ask 76 = .ok (.invokevirtual 642, 3) := dk_182 2 130 (dk_at dksX6_ask_3 6 rfl rfl)
theorem dX6_ask_79 : decode cX6_ask 79 = .ok (.istore_n 2, 1) := dk_61 (dk_at dksX6_ask_3 9 rfl rfl)
theorem dX6_ask_80 : decode cX6_ask 80 = .ok (.aload_n 0, 1) := dk_42 (dk_at dksX6_ask_3 10 rfl rfl)
theorem dX6_ask_81 : decode cX6_ask 81 = .ok (.getfield 257, 3) := dk_180 1 1 (dk_at dksX6_ask_3 11 rfl rfl)
theorem dX6_ask_84 : decode cX6_ask 84 = .ok (.ifCond .ne 15, 3) := dk_154 0 15 (dk_at dksX6_ask_3 14 rfl rfl)
theorem dX6_ask_87 : decode cX6_ask 87 = .ok (.iload_n 2, 1) := dk_28 (dk_at dksX6_ask_3 17 rfl rfl)
theorem dX6_ask_88 : decode cX6_ask 88 = .ok (.iconst 3, 1) := dk_6 (dk_at dksX6_ask_3 18 rfl rfl)
theorem dX6_ask_89 : decode cX6_ask 89 = .ok (.if_icmp .ge 10, 3) := dk_162 0 10 (dk_at dksX6_ask_3 19 rfl rfl)
theorem dX6_ask_92 : decode cX6_ask 92 = .ok (.aload_n 0, 1) := dk_42 (dk_at dksX6_ask_3 22 rfl rfl)
theorem dX6_ask_93 : decode cX6_ask 93 = .ok (.invokevirtual 354, 3) := dk_182 1 98 (dk_at dksX6_ask_4 0 rfl rfl)
theorem dX6_ask_96 : decode cX6_ask 96 = .ok (.goto 14, 3) := dk_167 0 14 (dk_at dksX6_ask_4 3 rfl rfl)
theorem dX6_ask_99 : decode cX6_ask 99 = .ok (.aload_n 0, 1) := dk_42 (dk_at dksX6_ask_4 6 rfl rfl)
theorem dX6_ask_100 : decode cX6_ask 100 = .ok (.getfield 257, 3) := dk_180 1 1 (dk_at dksX6_ask_4 7 rfl rfl)
theorem dX6_ask_103 : decode cX6_ask 103 = .ok (.ifCond .ne 7, 3) := dk_154 0 7 (dk_at dksX6_ask_4 10 rfl rfl)
theorem dX6_ask_106 : decode cX6_ask 106 = .ok (.aload_n 0, 1) := dk_42 (dk_at dksX6_ask_4 13 rfl rfl)
theorem dX6_ask_107 : decode cX6_ask 107 = .ok (.invokevirtual 603, 3) := dk_182 2 91 (dk_at dksX6_ask_4 14 rfl rfl)
theorem dX6_ask_110 : decode cX6_ask 110 = .ok (.aload_n 0, 1) := dk_42 (dk_at dksX6_ask_4 17 rfl rfl)
theorem dX6_ask_111 : decode cX6_ask 111 = .ok (.getfield 257, 3) := dk_180 1 1 (dk_at dksX6_ask_4 18 rfl rfl)
theorem dX6_ask_114 : decode cX6_ask 114 = .ok (.ifCond .ne 20, 3) := dk_154 0 20 (dk_at dksX6_ask_4 21 rfl rfl)
theorem dX6_ask_117 : decode cX6_ask 117 = .ok (.aload_n 0, 1) := dk_42 (dk_at dksX6_ask_5 0 rfl rfl)
theorem dX6_ask_118 : decode cX6_ask 118 = .ok (.invokevirtual 269, 3) := dk_182 1 13 (dk_at dksX6_ask_5 1 rfl rfl)
theorem dX6_ask_121 : decode cX6_ask 121 = .ok (.iconst (-1), 1) := dk_2 (dk_at dksX6_ask_5 4 rfl rfl)
theorem dX6_ask_122 : decode cX6_ask 122 = .ok (.if_icmp .eq 12, 3) := dk_159 0 12 (dk_at dksX6_ask_5 5 rfl rfl)
theorem dX6_ask_125 : decode cX6_ask 125 = .ok (.aload_n 0, 1) := dk_42 (dk_at dksX6_ask_5 8 rfl rfl)
theorem dX6_ask_126 : decode cX6_ask 126 = .ok (.iconst 1, 1) := dk_4 (dk_at dksX6_ask_5 9 rfl rfl)
theorem dX6_ask_127 : decode cX6_ask 127 = .ok (.aload_n 0, 1) := dk_42 (dk_at dksX6_ask_5 10 rfl rfl)
theorem dX6_ask_128 : decode cX6_ask 128 = .ok (.getfield 263, 3) := dk_180 1 7 (dk_at dksX6_ask_5 11 rfl rfl)
theorem dX6_ask_131 : decode cX6_ask 131 = .ok (.invokevirtual 287, 3) := dk_182 1 31 (dk_at dksX6_ask_5 14 rfl rfl)
theorem dX6_ask_134 : decode cX6_ask 134 = .ok (.aload_n 0, 1) := dk_42 (dk_at dksX6_ask_5 17 rfl rfl)
theorem dX6_ask_135 : decode cX6_ask 135 = .ok (.aload_n 0, 1) := dk_42 (dk_at dksX6_ask_5 18 rfl rfl)
theorem dX6_ask_136 : decode cX6_ask 136 = .ok (.getfield 257, 3) := dk_180 1 1 (dk_at dksX6_ask_5 19 rfl rfl)
theorem dX6_ask_139 : decode cX6_ask 139 = .ok (.putfield 386, 3) := dk_181 1 130 (dk_at dksX6_ask_6 0 rfl rfl)
theorem dX6_ask_142 : decode cX6_ask 142 = .ok (.aload_n 0, 1) := dk_42 (dk_at dksX6_ask_6 3 rfl rfl)
theorem dX6_ask_143 : decode cX6_ask 143 = .ok (.aload_n 0, 1) := dk_42 (dk_at dksX6_ask_6 4 rfl rfl)
theorem dX6_ask_144 : decode cX6_ask 144 = .ok (.getfield 260, 3) := dk_180 1 4 (dk_at dksX6_ask_6 5 rfl rfl)
theorem dX6_ask_147 : decode cX6_ask 147 = .ok (.putfield 13, 3) := dk_181 0 13 (dk_at dksX6_ask_6 8 rfl rfl)
theorem dX6_ask_150 : decode cX6_ask 150 = .ok (.aload_n 0, 1) := dk_42 (dk_at dksX6_ask_6 11 rfl rfl)
theorem dX6_ask_151 : decode cX6_ask 151 = .ok (.getfield 257, 3) := dk_180 1 1 (dk_at dksX6_ask_6 12 rfl rfl)
theorem dX6_ask_154 : decode cX6_ask 154 = .ok (.ifCond .eq 7, 3) := dk_153 0 7 (dk_at dksX6_ask_6 15 rfl rfl)
theorem dX6_ask_157 : decode cX6_ask 157 = .ok (.ldc2_w 510, 3) := dk_20 1 254 (dk_at dksX6_ask_6 18 rfl rfl)
theorem dX6_ask_160 : decode cX6_ask 160 = .ok (.lreturn, 1) := dk_173 (dk_at dksX6_ask_6 21 rfl rfl)
theorem dX6_ask_161 : decode cX6_ask 161 = .ok (.aload_n 0, 1) := dk_42 (dk_at dksX6_ask_6 22 rfl rfl)
theorem dX6_ask_162 : decode cX6_ask 162 = .ok (.iload_n 2, 1) := dk_28 (dk_at dksX6_ask_6 23 rfl rfl)
theorem dX6_ask_163 : decode cX6_ask 163 = .ok (.iconst 2, 1) := dk_5 (dk_at dksX6_ask_7 0 rfl rfl)
theorem dX6_ask_164 : decode cX6_ask 164 = .ok (.if_icmp .ge 9, 3) := dk_162 0 9 (dk_at dksX6_ask_7 1 rfl rfl)
theorem dX6_ask_167 : decode cX6_ask 167 = .ok (.ldc2_w 637, 3) := dk_20 2 125 (dk_at dksX6_ask_7 4 rfl rfl)
theorem dX6_ask_170 : decode cX6_ask 170 = .ok (.goto 4, 3) := dk_167 0 4 (dk_at dksX6_ask_7 7 rfl rfl)
theorem dX6_ask_173 : decode cX6_ask 173 = .ok (.lconst 0, 1) := dk_9 (dk_at dksX6_ask_7 10 rfl rfl)
theorem dX6_ask_174 : decode cX6_ask 174 = .ok (.putfield 634, 3) := dk_181 2 122 (dk_at dksX6_ask_7 11 rfl rfl)
theorem dX6_ask_177 : decode cX6_ask 177 = .ok (.aload_n 0, 1) := dk_42 (dk_at dksX6_ask_7 14 rfl rfl)
theorem dX6_ask_178 : decode cX6_ask 178 = .ok (.iconst 1, 1) := dk_4 (dk_at dksX6_ask_7 15 rfl rfl)
theorem dX6_ask_179 : decode cX6_ask 179 = .ok (.putfield 639, 3) := dk_181 2 127 (dk_at dksX6_ask_7 16 rfl rfl)
theorem dX6_ask_182 : decode cX6_ask 182 = .ok (.aload_n 0, 1) := dk_42 (dk_at dksX6_ask_7 19 rfl rfl)
theorem dX6_ask_183 : decode cX6_ask 183 = .ok (.iload_n 1, 1) := dk_27 (dk_at dksX6_ask_7 20 rfl rfl)
theorem dX6_ask_184 : decode cX6_ask 184 = .ok (.putfield 413, 3) := dk_181 1 157 (dk_at dksX6_ask_7 21 rfl rfl)
theorem dX6_ask_187 : decode cX6_ask 187 = .ok (.iconst 0, 1) := dk_3 (dk_at dksX6_ask_8 0 rfl rfl)
theorem dX6_ask_188 : decode cX6_ask 188 = .ok (.istore_n 3, 1) := dk_62 (dk_at dksX6_ask_8 1 rfl rfl)
theorem dX6_ask_189 : decode cX6_ask 189 = .ok (.iload_n 3, 1) := dk_29 (dk_at dksX6_ask_8 2 rfl rfl)
theorem dX6_ask_190 : decode cX6_ask 190 = .ok (.aload_n 0, 1) := dk_42 (dk_at dksX6_ask_8 3 rfl rfl)
theorem dX6_ask_191 : decode cX6_ask 191 = .ok (.invokevirtual 398, 3) := dk_182 1 142 (dk_at dksX6_ask_8 4 rfl rfl)
theorem dX6_ask_194 : decode cX6_ask 194 = .ok (.if_icmp .ge 20, 3) := dk_162 0 20 (dk_at dksX6_ask_8 7 rfl rfl)
theorem dX6_ask_197 : decode cX6_ask 197 = .ok (.aload_n 0, 1) := dk_42 (dk_at dksX6_ask_8 10 rfl rfl)
theorem dX6_ask_198 : decode cX6_ask 198 = .ok (.iload_n 2, 1) := dk_28 (dk_at dksX6_ask_8 11 rfl rfl)
theorem dX6_ask_199 : decode cX6_ask 199 = .ok (.aload_n 0, 1) := dk_42 (dk_at dksX6_ask_8 12 rfl rfl)
theorem dX6_ask_200 : decode cX6_ask 200 = .ok (.iload_n 3, 1) := dk_29 (dk_at dksX6_ask_8 13 rfl rfl)
theorem dX6_ask_201 : decode cX6_ask 201 = .ok (.invokevirtual 645, 3) := dk_182 2 133 (dk_at dksX6_ask_8 14 rfl rfl)
theorem dX6_ask_204 : decode cX6_ask 204 = .ok (.iload_n 3, 1) := dk_29 (dk_at dksX6_ask_8 17 rfl rfl)
theorem dX6_ask_205 : decode cX6_ask 205 = .ok (.invokevirtual 649, 3) := dk_182 2 137 (dk_at dksX6_ask_8 18 rfl rfl)
theorem dX6_ask_208 : decode cX6_ask 208 = .ok (.iinc 3 1, 3) := dk_132 3 1 (dk_at dksX6_ask_8 21 rfl rfl)
theorem dX6_ask_211 : decode cX6_ask 211 = .ok (.goto (-22), 3) := dk_167 255 234 (dk_at dksX6_ask_9 0 rfl rfl)
theorem dX6_ask_214 : decode cX6_ask 214 = .ok (.aload_n 0, 1) := dk_42 (dk_at dksX6_ask_9 3 rfl rfl)
theorem dX6_ask_215 : decode cX6_ask 215 = .ok (.getfield 634, 3) := dk_180 2 122 (dk_at dksX6_ask_9 4 rfl rfl)
theorem dX6_ask_218 : decode cX6_ask 218 = .ok (.lreturn, 1) := dk_173 (dk_at dksX6_ask_9 7 rfl rfl)
abbrev cX6_qKind : ByteArray := prog_22_method_119_code
def yX6_qKind : MethodName := ⟨RX6, "qKind", "()I"⟩
def dkwX6_qKind_3 : List UInt8 := [7, 167, 0, 4, 8, 60, 27, 8, 160, 0, 11, 42, 42, 180, 0, 182, 182, 1, 74, 27, 172]
abbrev dktX6_qKind_3 : List UInt8 := dkwX6_qKind_3 ++ []
def dkwX6_qKind_2 : List UInt8 := [180, 0, 176, 182, 1, 28, 153, 0, 7, 6, 167, 0, 19, 42, 42, 180, 0, 179, 182, 1, 28, 153, 0, 7]
abbrev dktX6_qKind_2 : List UInt8 := dkwX6_qKind_2 ++ dktX6_qKind_3
def dkwX6_qKind_1 : List UInt8 := [153, 0, 7, 4, 167, 0, 49, 42, 42, 180, 0, 173, 182, 1, 28, 153, 0, 7, 5, 167, 0, 34, 42, 42]
abbrev dktX6_qKind_1 : List UInt8 := dkwX6_qKind_1 ++ dktX6_qKind_2
def dkwX6_qKind_0 : List UInt8 := [42, 42, 180, 0, 167, 182, 1, 28, 153, 0, 7, 3, 167, 0, 64, 42, 42, 180, 0, 170, 182, 1, 28]
abbrev dktX6_qKind_0 : List UInt8 := dkwX6_qKind_0 ++ dktX6_qKind_1
theorem dksX6_qKind_0 : cX6_qKind.data.toList.drop 0 = dktX6_qKind_0 := by decide +kernel
theorem dksX6_qKind_1 : cX6_qKind.data.toList.drop 23 = dktX6_qKind_1 := dk_seg dksX6_qKind_0 23 rfl rfl
theorem dksX6_qKind_2 : cX6_qKind.data.toList.drop 47 = dktX6_qKind_2 := dk_seg dksX6_qKind_1 24 rfl rfl
theorem dksX6_qKind_3 : cX6_qKind.data.toList.drop 71 = dktX6_qKind_3 := dk_seg dksX6_qKind_2 24 rfl rfl
theorem dX6_qKind_0 : decode cX6_qKind 0 = .ok (.aload_n 0, 1) := dk_42 (dk_at dksX6_qKind_0 0 rfl rfl)
theorem dX6_qKind_1 : decode cX6_qKind 1 = .ok (.aload_n 0, 1) := dk_42 (dk_at dksX6_qKind_0 1 rfl rfl)
theorem dX6_qKind_2 : decode cX6_qKind 2 = .ok (.getfield 167, 3) := dk_180 0 167 (dk_at dksX6_qKind_0 2 rfl rfl)
theorem dX6_qKind_5 : decode cX6_qKind 5 = .ok (.invokevirtual 284, 3) := dk_182 1 28 (dk_at dksX6_qKind_0 5 rfl rfl)
theorem dX6_qKind_8 : decode cX6_qKind 8 = .ok (.ifCond .eq 7, 3) := dk_153 0 7 (dk_at dksX6_qKind_0 8 rfl rfl)
theorem dX6_qKind_11 : decode cX6_qKind 11 = .ok (.iconst 0, 1) := dk_3 (dk_at dksX6_qKind_0 11 rfl rfl)
theorem dX6_qKind_12 : decode cX6_qKind 12 = .ok (.goto 64, 3) := dk_167 0 64 (dk_at dksX6_qKind_0 12 rfl rfl)
theorem dX6_qKind_15 : decode cX6_qKind 15 = .ok (.aload_n 0, 1) := dk_42 (dk_at dksX6_qKind_0 15 rfl rfl)
theorem dX6_qKind_16 : decode cX6_qKind 16 = .ok (.aload_n 0, 1) := dk_42 (dk_at dksX6_qKind_0 16 rfl rfl)
theorem dX6_qKind_17 : decode cX6_qKind 17 = .ok (.getfield 170, 3) := dk_180 0 170 (dk_at dksX6_qKind_0 17 rfl rfl)
theorem dX6_qKind_20 : decode cX6_qKind 20 = .ok (.invokevirtual 284, 3) := dk_182 1 28 (dk_at dksX6_qKind_0 20 rfl rfl)
theorem dX6_qKind_23 : decode cX6_qKind 23 = .ok (.ifCond .eq 7, 3) := dk_153 0 7 (dk_at dksX6_qKind_1 0 rfl rfl)
theorem dX6_qKind_26 : decode cX6_qKind 26 = .ok (.iconst 1, 1) := dk_4 (dk_at dksX6_qKind_1 3 rfl rfl)
theorem dX6_qKind_27 : decode cX6_qKind 27 = .ok (.goto 49, 3) := dk_167 0 49 (dk_at dksX6_qKind_1 4 rfl rfl)
theorem dX6_qKind_30 : decode cX6_qKind 30 = .ok (.aload_n 0, 1) := dk_42 (dk_at dksX6_qKind_1 7 rfl rfl)
theorem dX6_qKind_31 : decode cX6_qKind 31 = .ok (.aload_n 0, 1) := dk_42 (dk_at dksX6_qKind_1 8 rfl rfl)
theorem dX6_qKind_32 : decode cX6_qKind 32 = .ok (.getfield 173, 3) := dk_180 0 173 (dk_at dksX6_qKind_1 9 rfl rfl)
theorem dX6_qKind_35 : decode cX6_qKind 35 = .ok (.invokevirtual 284, 3) := dk_182 1 28 (dk_at dksX6_qKind_1 12 rfl rfl)
theorem dX6_qKind_38 : decode cX6_qKind 38 = .ok (.ifCond .eq 7, 3) := dk_153 0 7 (dk_at dksX6_qKind_1 15 rfl rfl)
theorem dX6_qKind_41 : decode cX6_qKind 41 = .ok (.iconst 2, 1) := dk_5 (dk_at dksX6_qKind_1 18 rfl rfl)
theorem dX6_qKind_42 : decode cX6_qKind 42 = .ok (.goto 34, 3) := dk_167 0 34 (dk_at dksX6_qKind_1 19 rfl rfl)
theorem dX6_qKind_45 : decode cX6_qKind 45 = .ok (.aload_n 0, 1) := dk_42 (dk_at dksX6_qKind_1 22 rfl rfl)
theorem dX6_qKind_46 : decode cX6_qKind 46 = .ok (.aload_n 0, 1) := dk_42 (dk_at dksX6_qKind_1 23 rfl rfl)
theorem dX6_qKind_47 : decode cX6_qKind 47 = .ok (.getfield 176, 3) := dk_180 0 176 (dk_at dksX6_qKind_2 0 rfl rfl)
theorem dX6_qKind_50 : decode cX6_qKind 50 = .ok (.invokevirtual 284, 3) := dk_182 1 28 (dk_at dksX6_qKind_2 3 rfl rfl)
theorem dX6_qKind_53 : decode cX6_qKind 53 = .ok (.ifCond .eq 7, 3) := dk_153 0 7 (dk_at dksX6_qKind_2 6 rfl rfl)
theorem dX6_qKind_56 : decode cX6_qKind 56 = .ok (.iconst 3, 1) := dk_6 (dk_at dksX6_qKind_2 9 rfl rfl)
theorem dX6_qKind_57 : decode cX6_qKind 57 = .ok (.goto 19, 3) := dk_167 0 19 (dk_at dksX6_qKind_2 10 rfl rfl)
theorem dX6_qKind_60 : decode cX6_qKind 60 = .ok (.aload_n 0, 1) := dk_42 (dk_at dksX6_qKind_2 13 rfl rfl)
theorem dX6_qKind_61 : decode cX6_qKind 61 = .ok (.aload_n 0, 1) := dk_42 (dk_at dksX6_qKind_2 14 rfl rfl)
theorem dX6_qKind_62 : decode cX6_qKind 62 = .ok (.getfield 179, 3) := dk_180 0 179 (dk_at dksX6_qKind_2 15 rfl rfl)
theorem dX6_qKind_65 : decode cX6_qKind 65 = .ok (.invokevirtual 284, 3) := dk_182 1 28 (dk_at dksX6_qKind_2 18 rfl rfl)
theorem dX6_qKind_68 : decode cX6_qKind 68 = .ok (.ifCond .eq 7, 3) := dk_153 0 7 (dk_at dksX6_qKind_2 21 rfl rfl)
theorem dX6_qKind_71 : decode cX6_qKind 71 = .ok (.iconst 4, 1) := dk_7 (dk_at dksX6_qKind_3 0 rfl rfl)
theorem dX6_qKind_72 : decode cX6_qKind 72 = .ok (.goto 4, 3) := dk_167 0 4 (dk_at dksX6_qKind_3 1 rfl rfl)
theorem dX6_qKind_75 : decode cX6_qKind 75 = .ok (.iconst 5, 1) := dk_8 (dk_at dksX6_qKind_3 4 rfl rfl)
theorem dX6_qKind_76 : decode cX6_qKind 76 = .ok (.istore_n 1, 1) := dk_60 (dk_at dksX6_qKind_3 5 rfl rfl)
theorem dX6_qKind_77 : decode cX6_qKind 77 = .ok (.iload_n 1, 1) := dk_27 (dk_at dksX6_qKind_3 6 rfl rfl)
theorem dX6_qKind_78 : decode cX6_qKind 78 = .ok (.iconst 5, 1) := dk_8 (dk_at dksX6_qKind_3 7 rfl rfl)
theorem dX6_qKind_79 : decode cX6_qKind 79 = .ok (.if_icmp .ne 11, 3) := dk_160 0 11 (dk_at dksX6_qKind_3 8 rfl rfl)
theorem dX6_qKind_82 : decode cX6_qKind 82 = .ok (.aload_n 0, 1) := dk_42 (dk_at dksX6_qKind_3 11 rfl rfl)
theorem dX6_qKind_83 : decode cX6_qKind 83 = .ok (.aload_n 0, 1) := dk_42 (dk_at dksX6_qKind_3 12 rfl rfl)
theorem dX6_qKind_84 : decode cX6_qKind 84 = .ok (.getfield 182, 3) := dk_180 0 182 (dk_at dksX6_qKind_3 13 rfl rfl)
theorem dX6_qKind_87 : decode cX6_qKind 87 = .ok (.invokevirtual 330, 3) := dk_182 1 74 (dk_at dksX6_qKind_3 16 rfl rfl)
theorem dX6_qKind_90 : decode cX6_qKind 90 = .ok (.iload_n 1, 1) := dk_27 (dk_at dksX6_qKind_3 19 rfl rfl)
theorem dX6_qKind_91 : decode cX6_qKind 91 = .ok (.ireturn, 1) := dk_172 (dk_at dksX6_qKind_3 20 rfl rfl)
abbrev cX6_qTold : ByteArray := prog_22_method_118_code
def yX6_qTold : MethodName := ⟨RX6, "qTold", "(I)J"⟩
def dkwX6_qTold_7 : List UInt8 := [132, 2, 1, 167, 255, 98, 42, 180, 0, 248, 3, 47, 173]
abbrev dktX6_qTold_7 : List UInt8 := dkwX6_qTold_7 ++ []
def dkwX6_qTold_6 : List UInt8 := [10, 42, 180, 0, 248, 42, 180, 1, 160, 4, 100, 47, 101, 80, 167, 0, 8, 42, 29, 182, 1, 171]
abbrev dktX6_qTold_6 : List UInt8 := dkwX6_qTold_6 ++ dktX6_qTold_7
def dkwX6_qTold_5 : List UInt8 := [42, 10, 182, 1, 163, 167, 0, 41, 29, 16, 12, 160, 0, 30, 42, 180, 0, 248, 42, 180, 1, 160, 4, 100]
abbrev dktX6_qTold_5 : List UInt8 := dkwX6_qTold_5 ++ dktX6_qTold_6
def dkwX6_qTold_4 : List UInt8 := [42, 29, 16, 40, 100, 27, 182, 1, 167, 184, 2, 110, 182, 1, 163, 167, 0, 55, 29, 16, 13, 160, 0, 11]
abbrev dktX6_qTold_4 : List UInt8 := dkwX6_qTold_4 ++ dktX6_qTold_5
def dkwX6_qTold_3 : List UInt8 := [180, 1, 160, 4, 100, 47, 27, 182, 2, 118, 184, 2, 110, 80, 167, 0, 80, 29, 16, 40, 161, 0, 22, 42]
abbrev dktX6_qTold_3 : List UInt8 := dkwX6_qTold_3 ++ dktX6_qTold_4
def dkwX6_qTold_2 : List UInt8 := [161, 0, 40, 42, 180, 0, 248, 42, 180, 1, 160, 4, 100, 42, 29, 16, 60, 100, 42, 180, 0, 248, 42]
abbrev dktX6_qTold_2 : List UInt8 := dkwX6_qTold_2 ++ dktX6_qTold_3
def dkwX6_qTold_1 : List UInt8 := [17, 3, 232, 161, 0, 16, 42, 29, 17, 3, 232, 100, 133, 182, 1, 163, 167, 0, 123, 29, 16, 60]
abbrev dktX6_qTold_1 : List UInt8 := dkwX6_qTold_1 ++ dktX6_qTold_2
def dkwX6_qTold_0 : List UInt8 := [42, 3, 181, 1, 160, 3, 61, 28, 42, 180, 1, 86, 162, 0, 156, 42, 180, 0, 242, 28, 46, 62, 29]
abbrev dktX6_qTold_0 : List UInt8 := dkwX6_qTold_0 ++ dktX6_qTold_1
theorem dksX6_qTold_0 : cX6_qTold.data.toList.drop 0 = dktX6_qTold_0 := by decide +kernel
theorem dksX6_qTold_1 : cX6_qTold.data.toList.drop 23 = dktX6_qTold_1 := dk_seg dksX6_qTold_0 23 rfl rfl
theorem dksX6_qTold_2 : cX6_qTold.data.toList.drop 45 = dktX6_qTold_2 := dk_seg dksX6_qTold_1 22 rfl rfl
theorem dksX6_qTold_3 : cX6_qTold.data.toList.drop 68 = dktX6_qTold_3 := dk_seg dksX6_qTold_2 23 rfl rfl
theorem dksX6_qTold_4 : cX6_qTold.data.toList.drop 92 = dktX6_qTold_4 := dk_seg dksX6_qTold_3 24 rfl rfl
theorem dksX6_qTold_5 : cX6_qTold.data.toList.drop 116 = dktX6_qTold_5 := dk_seg dksX6_qTold_4 24 rfl rfl
theorem dksX6_qTold_6 : cX6_qTold.data.toList.drop 140 = dktX6_qTold_6 := dk_seg dksX6_qTold_5 24 rfl rfl
theorem dksX6_qTold_7 : cX6_qTold.data.toList.drop 162 = dktX6_qTold_7 := dk_seg dksX6_qTold_6 22 rfl rfl
theorem dX6_qTold_0 : decode cX6_qTold 0 = .ok (.aload_n 0, 1) := dk_42 (dk_at dksX6_qTold_0 0 rfl rfl)
theorem dX6_qTold_1 : decode cX6_qTold 1 = .ok (.iconst 0, 1) := dk_3 (dk_at dksX6_qTold_0 1 rfl rfl)
theorem dX6_qTold_2 : decode cX6_qTold 2 = .ok (.putfield 416, 3) := dk_181 1 160 (dk_at dksX6_qTold_0 2 rfl rfl)
theorem dX6_qTold_5 : decode cX6_qTold 5 = .ok (.iconst 0, 1) := dk_3 (dk_at dksX6_qTold_0 5 rfl rfl)
theorem dX6_qTold_6 : decode cX6_qTold 6 = .ok (.istore_n 2, 1) := dk_61 (dk_at dksX6_qTold_0 6 rfl rfl)
theorem dX6_qTold_7 : decode cX6_qTold 7 = .ok (.iload_n 2, 1) := dk_28 (dk_at dksX6_qTold_0 7 rfl rfl)
theorem dX6_qTold_8 : decode cX6_qTold 8 = .ok (.aload_n 0, 1) := dk_42 (dk_at dksX6_qTold_0 8 rfl rfl)
theorem dX6_qTold_9 : decode cX6_qTold 9 = .ok (.getfield 342, 3) := dk_180 1 86 (dk_at dksX6_qTold_0 9 rfl rfl)
theorem dX6_qTold_12 : decode cX6_qTold 12 = .ok (.if_icmp .ge 156, 3) := dk_162 0 156 (dk_at dksX6_qTold_0 12 rfl rfl)
theorem dX6_qTold_15 : decode cX6_qTold 15 = .ok (.aload_n 0, 1) := dk_42 (dk_at dksX6_qTold_0 15 rfl rfl)
theorem dX6_qTold_16 : decode cX6_qTold 16 = .ok (.getfield 242, 3) := dk_180 0 242 (dk_at dksX6_qTold_0 16 rfl rfl)
theorem dX6_qTold_19 : decode cX6_qTold 19 = .ok (.iload_n 2, 1) := dk_28 (dk_at dksX6_qTold_0 19 rfl rfl)
theorem dX6_qTold_20 : decode cX6_qTold 20 = .ok (.iaload, 1) := dk_46 (dk_at dksX6_qTold_0 20 rfl rfl)
theorem dX6_qTold_21 : decode cX6_qTold 21 = .ok (.istore_n 3, 1) := dk_62 (dk_at dksX6_qTold_0 21 rfl rfl)
theorem dX6_qTold_22 : decode cX6_qTold 22 = .ok (.iload_n 3, 1) := dk_29 (dk_at dksX6_qTold_0 22 rfl rfl)
theorem dX6_qTold_23 : decode cX6_qTold 23 = .ok (.sipush 1000, 3) := dk_17 3 232 (dk_at dksX6_qTold_1 0 rfl rfl)
theorem dX6_qTold_26 : decode cX6_qTold 26 = .ok (.if_icmp .lt 16, 3) := dk_161 0 16 (dk_at dksX6_qTold_1 3 rfl rfl)
theorem dX6_qTold_29 : decode cX6_qTold 29 = .ok (.aload_n 0, 1) := dk_42 (dk_at dksX6_qTold_1 6 rfl rfl)
theorem dX6_qTold_30 : decode cX6_qTold 30 = .ok (.iload_n 3, 1) := dk_29 (dk_at dksX6_qTold_1 7 rfl rfl)
theorem dX6_qTold_31 : decode cX6_qTold 31 = .ok (.sipush 1000, 3) := dk_17 3 232 (dk_at dksX6_qTold_1 8 rfl rfl)
theorem dX6_qTold_34 : decode cX6_qTold 34 = .ok (.isub, 1) := dk_100 (dk_at dksX6_qTold_1 11 rfl rfl)
theorem dX6_qTold_35 : decode cX6_qTold 35 = .ok (.i2l, 1) := dk_133 (dk_at dksX6_qTold_1 12 rfl rfl)
theorem dX6_qTold_36 : decode cX6_qTold 36 = .ok (.invokevirtual 419, 3) := dk_182 1 163 (dk_at dksX6_qTold_1 13 rfl rfl)
theorem dX6_qTold_39 : decode cX6_qTold 39 = .ok (.goto 123, 3) := dk_167 0 123 (dk_at dksX6_qTold_1 16 rfl rfl)
theorem dX6_qTold_42 : decode cX6_qTold 42 = .ok (.iload_n 3, 1) := dk_29 (dk_at dksX6_qTold_1 19 rfl rfl)
theorem dX6_qTold_43 : decode cX6_qTold 43 = .ok (.bipush 60, 2) := dk_16 60 (dk_at dksX6_qTold_1 20 rfl rfl)
theorem dX6_qTold_45 : decode cX6_qTold 45 = .ok (.if_icmp .lt 40, 3) := dk_161 0 40 (dk_at dksX6_qTold_2 0 rfl rfl)
theorem dX6_qTold_48 : decode cX6_qTold 48 = .ok (.aload_n 0, 1) := dk_42 (dk_at dksX6_qTold_2 3 rfl rfl)
theorem dX6_qTold_49 : decode cX6_qTold 49 = .ok (.getfield 248, 3) := dk_180 0 248 (dk_at dksX6_qTold_2 4 rfl rfl)
theorem dX6_qTold_52 : decode cX6_qTold 52 = .ok (.aload_n 0, 1) := dk_42 (dk_at dksX6_qTold_2 7 rfl rfl)
theorem dX6_qTold_53 : decode cX6_qTold 53 = .ok (.getfield 416, 3) := dk_180 1 160 (dk_at dksX6_qTold_2 8 rfl rfl)
theorem dX6_qTold_56 : decode cX6_qTold 56 = .ok (.iconst 1, 1) := dk_4 (dk_at dksX6_qTold_2 11 rfl rfl)
theorem dX6_qTold_57 : decode cX6_qTold 57 = .ok (.isub, 1) := dk_100 (dk_at dksX6_qTold_2 12 rfl rfl)
theorem dX6_qTold_58 : decode cX6_qTold 58 = .ok (.aload_n 0, 1) := dk_42 (dk_at dksX6_qTold_2 13 rfl rfl)
theorem dX6_qTold_59 : decode cX6_qTold 59 = .ok (.iload_n 3, 1) := dk_29 (dk_at dksX6_qTold_2 14 rfl rfl)
theorem dX6_qTold_60 : decode cX6_qTold 60 = .ok (.bipush 60, 2) := dk_16 60 (dk_at dksX6_qTold_2 15 rfl rfl)
theorem dX6_qTold_62 : decode cX6_qTold 62 = .ok (.isub, 1) := dk_100 (dk_at dksX6_qTold_2 17 rfl rfl)
theorem dX6_qTold_63 : decode cX6_qTold 63 = .ok (.aload_n 0, 1) := dk_42 (dk_at dksX6_qTold_2 18 rfl rfl)
theorem dX6_qTold_64 : decode cX6_qTold 64 = .ok (.getfield 248, 3) := dk_180 0 248 (dk_at dksX6_qTold_2 19 rfl rfl)
theorem dX6_qTold_67 : decode cX6_qTold 67 = .ok (.aload_n 0, 1) := dk_42 (dk_at dksX6_qTold_2 22 rfl rfl)
theorem dX6_qTold_68 : decode cX6_qTold 68 = .ok (.getfield 416, 3) := dk_180 1 160 (dk_at dksX6_qTold_3 0 rfl rfl)
theorem dX6_qTold_71 : decode cX6_qTold 71 = .ok (.iconst 1, 1) := dk_4 (dk_at dksX6_qTold_3 3 rfl rfl)
theorem dX6_qTold_72 : decode cX6_qTold 72 = .ok (.isub, 1) := dk_100 (dk_at dksX6_qTold_3 4 rfl rfl)
theorem dX6_qTold_73 : decode cX6_qTold 73 = .ok (.laload, 1) := dk_47 (dk_at dksX6_qTold_3 5 rfl rfl)
theorem dX6_qTold_74 : decode cX6_qTold 74 = .ok (.iload_n 1, 1) := dk_27 (dk_at dksX6_qTold_3 6 rfl rfl)
theorem dX6_qTold_75 : decode cX6_qTold 75 = .ok (.invokevirtual 630, 3) := dk_182 2 118 (dk_at dksX6_qTold_3 7 rfl rfl)
theorem dX6_qTold_78 : decode cX6_qTold 78 = .ok (.invokestatic 622, 3) := dk_184 2 110 (dk_at dksX6_qTold_3 10 rfl rfl)
theorem dX6_qTold_81 : decode cX6_qTold 81 = .ok (.lastore, 1) := dk_80 (dk_at dksX6_qTold_3 13 rfl rfl)
theorem dX6_qTold_82 : decode cX6_qTold 82 = .ok (.goto 80, 3) := dk_167 0 80 (dk_at dksX6_qTold_3 14 rfl rfl)
theorem dX6_qTold_85 : decode cX6_qTold 85 = .ok (.iload_n 3, 1) := dk_29 (dk_at dksX6_qTold_3 17 rfl rfl)
theorem dX6_qTold_86 : decode cX6_qTold 86 = .ok (.bipush 40, 2) := dk_16 40 (dk_at dksX6_qTold_3 18 rfl rfl)
theorem dX6_qTold_88 : decode cX6_qTold 88 = .ok (.if_icmp .lt 22, 3) := dk_161 0 22 (dk_at dksX6_qTold_3 20 rfl rfl)
theorem dX6_qTold_91 : decode cX6_qTold 91 = .ok (.aload_n 0, 1) := dk_42 (dk_at dksX6_qTold_3 23 rfl rfl)
theorem dX6_qTold_92 : decode cX6_qTold 92 = .ok (.aload_n 0, 1) := dk_42 (dk_at dksX6_qTold_4 0 rfl rfl)
theorem dX6_qTold_93 : decode cX6_qTold 93 = .ok (.iload_n 3, 1) := dk_29 (dk_at dksX6_qTold_4 1 rfl rfl)
theorem dX6_qTold_94 : decode cX6_qTold 94 = .ok (.bipush 40, 2) := dk_16 40 (dk_at dksX6_qTold_4 2 rfl rfl)
theorem dX6_qTold_96 : decode cX6_qTold 96 = .ok (.isub, 1) := dk_100 (dk_at dksX6_qTold_4 4 rfl rfl)
theorem dX6_qTold_97 : decode cX6_qTold 97 = .ok (.iload_n 1, 1) := dk_27 (dk_at dksX6_qTold_4 5 rfl rfl)
theorem dX6_qTold_98 : decode cX6_qTold 98 = .ok (.invokevirtual 423, 3) := dk_182 1 167 (dk_at dksX6_qTold_4 6 rfl rfl)
theorem dX6_qTold_101 : decode cX6_qTold 101 = .ok (.invokestatic 622, 3) := dk_184 2 110 (dk_at dksX6_qTold_4 9 rfl rfl)
theorem dX6_qTold_104 : decode cX6_qTold 104 = .ok (.invokevirtual 419, 3) := dk_182 1 163 (dk_at dksX6_qTold_4 12 rfl rfl)
theorem dX6_qTold_107 : decode cX6_qTold 107 = .ok (.goto 55, 3) := dk_167 0 55 (dk_at dksX6_qTold_4 15 rfl rfl)
theorem dX6_qTold_110 : decode cX6_qTold 110 = .ok (.iload_n 3, 1) := dk_29 (dk_at dksX6_qTold_4 18 rfl rfl)
theorem dX6_qTold_111 : decode cX6_qTold 111 = .ok (.bipush 13, 2) := dk_16 13 (dk_at dksX6_qTold_4 19 rfl rfl)
theorem dX6_qTold_113 : decode cX6_qTold 113 = .ok (.if_icmp .ne 11, 3) := dk_160 0 11 (dk_at dksX6_qTold_4 21 rfl rfl)
theorem dX6_qTold_116 : decode cX6_qTold 116 = .ok (.aload_n 0, 1) := dk_42 (dk_at dksX6_qTold_5 0 rfl rfl)
theorem dX6_qTold_117 : decode cX6_qTold 117 = .ok (.lconst 1, 1) := dk_10 (dk_at dksX6_qTold_5 1 rfl rfl)
theorem dX6_qTold_118 : decode cX6_qTold 118 = .ok (.invokevirtual 419, 3) := dk_182 1 163 (dk_at dksX6_qTold_5 2 rfl rfl)
theorem dX6_qTold_121 : decode cX6_qTold 121 = .ok (.goto 41, 3) := dk_167 0 41 (dk_at dksX6_qTold_5 5 rfl rfl)
theorem dX6_qTold_124 : decode cX6_qTold 124 = .ok (.iload_n 3, 1) := dk_29 (dk_at dksX6_qTold_5 8 rfl rfl)
theorem dX6_qTold_125 : decode cX6_qTold 125 = .ok (.bipush 12, 2) := dk_16 12 (dk_at dksX6_qTold_5 9 rfl rfl)
theorem dX6_qTold_127 : decode cX6_qTold 127 = .ok (.if_icmp .ne 30, 3) := dk_160 0 30 (dk_at dksX6_qTold_5 11 rfl rfl)
theorem dX6_qTold_130 : decode cX6_qTold 130 = .ok (.aload_n 0, 1) := dk_42 (dk_at dksX6_qTold_5 14 rfl rfl)
theorem dX6_qTold_131 : decode cX6_qTold 131 = .ok (.getfield 248, 3) := dk_180 0 248 (dk_at dksX6_qTold_5 15 rfl rfl)
theorem dX6_qTold_134 : decode cX6_qTold 134 = .ok (.aload_n 0, 1) := dk_42 (dk_at dksX6_qTold_5 18 rfl rfl)
theorem dX6_qTold_135 : decode cX6_qTold 135 = .ok (.getfield 416, 3) := dk_180 1 160 (dk_at dksX6_qTold_5 19 rfl rfl)
theorem dX6_qTold_138 : decode cX6_qTold 138 = .ok (.iconst 1, 1) := dk_4 (dk_at dksX6_qTold_5 22 rfl rfl)
theorem dX6_qTold_139 : decode cX6_qTold 139 = .ok (.isub, 1) := dk_100 (dk_at dksX6_qTold_5 23 rfl rfl)
theorem dX6_qTold_140 : decode cX6_qTold 140 = .ok (.lconst 1, 1) := dk_10 (dk_at dksX6_qTold_6 0 rfl rfl)
theorem dX6_qTold_141 : decode cX6_qTold 141 = .ok (.aload_n 0, 1) := dk_42 (dk_at dksX6_qTold_6 1 rfl rfl)
theorem dX6_qTold_142 : decode cX6_qTold 142 = .ok (.getfield 248, 3) := dk_180 0 248 (dk_at dksX6_qTold_6 2 rfl rfl)
theorem dX6_qTold_145 : decode cX6_qTold 145 = .ok (.aload_n 0, 1) := dk_42 (dk_at dksX6_qTold_6 5 rfl rfl)
theorem dX6_qTold_146 : decode cX6_qTold 146 = .ok (.getfield 416, 3) := dk_180 1 160 (dk_at dksX6_qTold_6 6 rfl rfl)
theorem dX6_qTold_149 : decode cX6_qTold 149 = .ok (.iconst 1, 1) := dk_4 (dk_at dksX6_qTold_6 9 rfl rfl)
theorem dX6_qTold_150 : decode cX6_qTold 150 = .ok (.isub, 1) := dk_100 (dk_at dksX6_qTold_6 10 rfl rfl)
theorem dX6_qTold_151 : decode cX6_qTold 151 = .ok (.laload, 1) := dk_47 (dk_at dksX6_qTold_6 11 rfl rfl)
theorem dX6_qTold_152 : decode cX6_qTold 152 = .ok (.lsub, 1) := dk_101 (dk_at dksX6_qTold_6 12 rfl rfl)
theorem dX6_qTold_153 : decode cX6_qTold 153 = .ok (.lastore, 1) := dk_80 (dk_at dksX6_qTold_6 13 rfl rfl)
theorem dX6_qTold_154 : decode cX6_qTold 154 = .ok (.goto 8, 3) := dk_167 0 8 (dk_at dksX6_qTold_6 14 rfl rfl)
theorem dX6_qTold_157 : decode cX6_qTold 157 = .ok (.aload_n 0, 1) := dk_42 (dk_at dksX6_qTold_6 17 rfl rfl)
theorem dX6_qTold_158 : decode cX6_qTold 158 = .ok (.iload_n 3, 1) := dk_29 (dk_at dksX6_qTold_6 18 rfl rfl)
theorem dX6_qTold_159 : decode cX6_qTold 159 = .ok (.invokevirtual 427, 3) := dk_182 1 171 (dk_at dksX6_qTold_6 19 rfl rfl)
theorem dX6_qTold_162 : decode cX6_qTold 162 = .ok (.iinc 2 1, 3) := dk_132 2 1 (dk_at dksX6_qTold_7 0 rfl rfl)
theorem dX6_qTold_165 : decode cX6_qTold 165 = .ok (.goto (-158), 3) := dk_167 255 98 (dk_at dksX6_qTold_7 3 rfl rfl)
theorem dX6_qTold_168 : decode cX6_qTold 168 = .ok (.aload_n 0, 1) := dk_42 (dk_at dksX6_qTold_7 6 rfl rfl)
theorem dX6_qTold_169 : decode cX6_qTold 169 = .ok (.getfield 248, 3) := dk_180 0 248 (dk_at dksX6_qTold_7 7 rfl rfl)
theorem dX6_qTold_172 : decode cX6_qTold 172 = .ok (.iconst 0, 1) := dk_3 (dk_at dksX6_qTold_7 10 rfl rfl)
theorem dX6_qTold_173 : decode cX6_qTold 173 = .ok (.laload, 1) := dk_47 (dk_at dksX6_qTold_7 11 rfl rfl)
theorem dX6_qTold_174 : decode cX6_qTold 174 = .ok (.lreturn, 1) := dk_173 (dk_at dksX6_qTold_7 12 rfl rfl)
abbrev cX6_qOf : ByteArray := prog_22_method_117_code
def yX6_qOf : MethodName := ⟨RX6, "qOf", "(IJI)J"⟩
def dkwX6_qOf_1 : List UInt8 := [153, 0, 18, 42, 32, 136, 182, 1, 148, 21, 4, 122, 4, 126, 133, 167, 0, 4, 9, 173]
abbrev dktX6_qOf_1 : List UInt8 := dkwX6_qOf_1 ++ []
def dkwX6_qOf_0 : List UInt8 := [27, 171, 0, 0, 0, 0, 0, 11, 0, 0, 0, 0, 32, 9, 42, 182, 1, 145, 4, 100, 133, 184, 1, 41]
abbrev dktX6_qOf_0 : List UInt8 := dkwX6_qOf_0 ++ dktX6_qOf_1
theorem dksX6_qOf_0 : cX6_qOf.data.toList.drop 0 = dktX6_qOf_0 := by decide +kernel
theorem dksX6_qOf_1 : cX6_qOf.data.toList.drop 24 = dktX6_qOf_1 := dk_seg dksX6_qOf_0 24 rfl rfl
theorem dX6_qOf_0 : decode cX6_qOf 0 = .ok (.iload_n 1, 1) := dk_27 (dk_at dksX6_qOf_0 0 rfl rfl)
theorem dX6_qOf_1 : decode cX6_qOf 1 = .ok (.lookupswitch 11 #[], 11) := by decide +kernel
theorem dX6_qOf_12 : decode cX6_qOf 12 = .ok (.lload_n 2, 1) := dk_32 (dk_at dksX6_qOf_0 12 rfl rfl)
theorem dX6_qOf_13 : decode cX6_qOf 13 = .ok (.lconst 0, 1) := dk_9 (dk_at dksX6_qOf_0 13 rfl rfl)
theorem dX6_qOf_14 : decode cX6_qOf 14 = .ok (.aload_n 0, 1) := dk_42 (dk_at dksX6_qOf_0 14 rfl rfl)
theorem dX6_qOf_15 : decode cX6_qOf 15 = .ok (.invokevirtual 401, 3) := dk_182 1 145 (dk_at dksX6_qOf_0 15 rfl rfl)
theorem dX6_qOf_18 : decode cX6_qOf 18 = .ok (.iconst 1, 1) := dk_4 (dk_at dksX6_qOf_0 18 rfl rfl)
theorem dX6_qOf_19 : decode cX6_qOf 19 = .ok (.isub, 1) := dk_100 (dk_at dksX6_qOf_0 19 rfl rfl)
theorem dX6_qOf_20 : decode cX6_qOf 20 = .ok (.i2l, 1) := dk_133 (dk_at dksX6_qOf_0 20 rfl rfl)
theorem dX6_qOf_21 : decode cX6_qOf 21 = .ok (.invokestatic 297, 3) := dk_184 1 41 (dk_at dksX6_qOf_0 21 rfl rfl)
theorem dX6_qOf_24 : decode cX6_qOf 24 = .ok (.ifCond .eq 18, 3) := dk_153 0 18 (dk_at dksX6_qOf_1 0 rfl rfl)
theorem dX6_qOf_27 : decode cX6_qOf 27 = .ok (.aload_n 0, 1) := dk_42 (dk_at dksX6_qOf_1 3 rfl rfl)
theorem dX6_qOf_28 : decode cX6_qOf 28 = .ok (.lload_n 2, 1) := dk_32 (dk_at dksX6_qOf_1 4 rfl rfl)
theorem dX6_qOf_29 : decode cX6_qOf 29 = .ok (.l2i, 1) := dk_136 (dk_at dksX6_qOf_1 5 rfl rfl)
theorem dX6_qOf_30 : decode cX6_qOf 30 = .ok (.invokevirtual 404, 3) := dk_182 1 148 (dk_at dksX6_qOf_1 6 rfl rfl)
theorem dX6_qOf_33 : decode cX6_qOf 33 = .ok (.iload 4, 2) := dk_21 4 (dk_at dksX6_qOf_1 9 rfl rfl)
theorem dX6_qOf_35 : decode cX6_qOf 35 = .ok (.ishr, 1) := dk_122 (dk_at dksX6_qOf_1 11 rfl rfl)
theorem dX6_qOf_36 : decode cX6_qOf 36 = .ok (.iconst 1, 1) := dk_4 (dk_at dksX6_qOf_1 12 rfl rfl)
theorem dX6_qOf_37 : decode cX6_qOf 37 = .ok (.iand, 1) := dk_126 (dk_at dksX6_qOf_1 13 rfl rfl)
theorem dX6_qOf_38 : decode cX6_qOf 38 = .ok (.i2l, 1) := dk_133 (dk_at dksX6_qOf_1 14 rfl rfl)
theorem dX6_qOf_39 : decode cX6_qOf 39 = .ok (.goto 4, 3) := dk_167 0 4 (dk_at dksX6_qOf_1 15 rfl rfl)
theorem dX6_qOf_42 : decode cX6_qOf 42 = .ok (.lconst 0, 1) := dk_9 (dk_at dksX6_qOf_1 18 rfl rfl)
theorem dX6_qOf_43 : decode cX6_qOf 43 = .ok (.lreturn, 1) := dk_173 (dk_at dksX6_qOf_1 19 rfl rfl)
