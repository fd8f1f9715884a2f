set_option maxRecDepth 100000
abbrev cX6_qTakes : ByteArray := prog_22_method_120_code
def yX6_qTakes : MethodName := ⟨RX6, "qTakes", "(IJI)V"⟩
def dkwX6_qTakes_5 : List UInt8 := [42, 180, 2, 122, 148, 156, 0, 8, 42, 32, 181, 2, 122, 42, 3, 181, 2, 127, 177]
abbrev dktX6_qTakes_5 : List UInt8 := dkwX6_qTakes_5 ++ []
def dkwX6_qTakes_4 : List UInt8 := [180, 2, 127, 154, 0, 29, 27, 7, 160, 0, 15, 32, 42, 180, 2, 122, 148, 158, 0, 20, 167, 0, 12, 32]
abbrev dktX6_qTakes_4 : List UInt8 := dkwX6_qTakes_4 ++ dktX6_qTakes_5
def dkwX6_qTakes_3 : List UInt8 := [181, 2, 122, 27, 6, 160, 0, 13, 42, 89, 180, 2, 122, 32, 97, 181, 2, 122, 27, 6, 164, 0, 41, 42]
abbrev dktX6_qTakes_3 : List UInt8 := dkwX6_qTakes_3 ++ dktX6_qTakes_4
def dkwX6_qTakes_2 : List UInt8 := [42, 21, 4, 133, 181, 2, 122, 27, 5, 160, 0, 18, 21, 5, 153, 0, 13, 42, 89, 180, 2, 122, 10, 97]
abbrev dktX6_qTakes_2 : List UInt8 := dkwX6_qTakes_2 ++ dktX6_qTakes_3
def dkwX6_qTakes_1 : List UInt8 := [153, 0, 14, 42, 180, 2, 122, 20, 2, 125, 148, 153, 0, 13, 27, 4, 160, 0, 15, 21, 5, 153, 0, 10]
abbrev dktX6_qTakes_1 : List UInt8 := dkwX6_qTakes_1 ++ dktX6_qTakes_2
def dkwX6_qTakes_0 : List UInt8 := [27, 6, 162, 0, 13, 32, 10, 148, 154, 0, 7, 4, 167, 0, 4, 3, 54, 5, 27, 154, 0, 19, 21, 5]
abbrev dktX6_qTakes_0 : List UInt8 := dkwX6_qTakes_0 ++ dktX6_qTakes_1
theorem dksX6_qTakes_0 : cX6_qTakes.data.toList.drop 0 = dktX6_qTakes_0 := by decide +kernel
theorem dksX6_qTakes_1 : cX6_qTakes.data.toList.drop 24 = dktX6_qTakes_1 := dk_seg dksX6_qTakes_0 24 rfl rfl
theorem dksX6_qTakes_2 : cX6_qTakes.data.toList.drop 48 = dktX6_qTakes_2 := dk_seg dksX6_qTakes_1 24 rfl rfl
theorem dksX6_qTakes_3 : cX6_qTakes.data.toList.drop 72 = dktX6_qTakes_3 := dk_seg dksX6_qTakes_2 24 rfl rfl
theorem dksX6_qTakes_4 : cX6_qTakes.data.toList.drop 96 = dktX6_qTakes_4 := dk_seg dksX6_qTakes_3 24 rfl rfl
theorem dksX6_qTakes_5 : cX6_qTakes.data.toList.drop 120 = dktX6_qTakes_5 := dk_seg dksX6_qTakes_4 24 rfl rfl
theorem dX6_qTakes_0 : decode cX6_qTakes 0 = .ok (.iload_n 1, 1) := dk_27 (dk_at dksX6_qTakes_0 0 rfl rfl)
theorem dX6_qTakes_1 : decode cX6_qTakes 1 = .ok (.iconst 3, 1) := dk_6 (dk_at dksX6_qTakes_0 1 rfl rfl)
theorem dX6_qTakes_2 : decode cX6_qTakes 2 = .ok (.if_icmp .ge 13, 3) := dk_162 0 13 (dk_at dksX6_qTakes_0 2 rfl rfl)
theorem dX6_qTakes_5 : decode cX6_qTakes 5 = .ok (.lload_n 2, 1) := dk_32 (dk_at dksX6_qTakes_0 5 rfl rfl)
theorem dX6_qTakes_6 : decode cX6_qTakes 6 = .ok (.lconst 1, 1) := dk_10 (dk_at dksX6_qTakes_0 6 rfl rfl)
theorem dX6_qTakes_7 : decode cX6_qTakes 7 = .ok (.lcmp, 1) := dk_148 (dk_at dksX6_qTakes_0 7 rfl rfl)
theorem dX6_qTakes_8 : decode cX6_qTakes 8 = .ok (.ifCond .ne 7, 3) := dk_154 0 7 (dk_at dksX6_qTakes_0 8 rfl rfl)
theorem dX6_qTakes_11 : decode cX6_qTakes 11 = .ok (.iconst 1, 1) := dk_4 (dk_at dksX6_qTakes_0 11 rfl rfl)
theorem dX6_qTakes_12 : decode cX6_qTakes 12 = .ok (.goto 4, 3) := dk_167 0 4 (dk_at dksX6_qTakes_0 12 rfl rfl)
theorem dX6_qTakes_15 : decode cX6_qTakes 15 = .ok (.iconst 0, 1) := dk_3 (dk_at dksX6_qTakes_0 15 rfl rfl)
theorem dX6_qTakes_16 : decode cX6_qTakes 16 = .ok (.istore 5, 2) := dk_54 5 (dk_at dksX6_qTakes_0 16 rfl rfl)
theorem dX6_qTakes_18 : decode cX6_qTakes 18 = .ok (.iload_n 1, 1) := dk_27 (dk_at dksX6_qTakes_0 18 rfl rfl)
theorem dX6_qTakes_19 : decode cX6_qTakes 19 = .ok (.ifCond .ne 19, 3) := dk_154 0 19 (dk_at dksX6_qTakes_0 19 rfl rfl)
theorem dX6_qTakes_22 : decode cX6_qTakes 22 = .ok (.iload 5, 2) := dk_21 5 (dk_at dksX6_qTakes_0 22 rfl rfl)
theorem dX6_qTakes_24 : decode cX6_qTakes 24 = .ok (.ifCond .eq 14, 3) := dk_153 0 14 (dk_at dksX6_qTakes_1 0 rfl rfl)
theorem dX6_qTakes_27 : decode cX6_qTakes 27 = .ok (.aload_n 0, 1) := dk_42 (dk_at dksX6_qTakes_1 3 rfl rfl)
theorem dX6_qTakes_28 : decode cX6_qTakes 28 = .ok (.getfield 634, 3) := dk_180 2 122 (dk_at dksX6_qTakes_1 4 rfl rfl)
theorem dX6_qTakes_31 : decode cX6_qTakes 31 = .ok (.ldc2_w 637, 3) := dk_20 2 125 (dk_at dksX6_qTakes_1 7 rfl rfl)
theorem dX6_qTakes_34 : decode cX6_qTakes 34 = .ok (.lcmp, 1) := dk_148 (dk_at dksX6_qTakes_1 10 rfl rfl)
theorem dX6_qTakes_35 : decode cX6_qTakes 35 = .ok (.ifCond .eq 13, 3) := dk_153 0 13 (dk_at dksX6_qTakes_1 11 rfl rfl)
theorem dX6_qTakes_38 : decode cX6_qTakes 38 = .ok (.iload_n 1, 1) := dk_27 (dk_at dksX6_qTakes_1 14 rfl rfl)
theorem dX6_qTakes_39 : decode cX6_qTakes 39 = .ok (.iconst 1, 1) := dk_4 (dk_at dksX6_qTakes_1 15 rfl rfl)
theorem dX6_qTakes_40 : decode cX6_qTakes 40 = .ok (.if_icmp .ne 15, 3) := dk_160 0 15 (dk_at dksX6_qTakes_1 16 rfl rfl)
theorem dX6_qTakes_43 : decode cX6_qTakes 43 = .ok (.iload 5, 2) := dk_21 5 (dk_at dksX6_qTakes_1 19 rfl rfl)
theorem dX6_qTakes_45 : decode cX6_qTakes 45 = .ok (.ifCond .eq 10, 3) := dk_153 0 10 (dk_at dksX6_qTakes_1 21 rfl rfl)
theorem dX6_qTakes_48 : decode cX6_qTakes 48 = .ok (.aload_n 0, 1) := dk_42 (dk_at dksX6_qTakes_2 0 rfl rfl)
theorem dX6_qTakes_49 : decode cX6_qTakes 49 = .ok (.iload 4, 2) := dk_21 4 (dk_at dksX6_qTakes_2 1 rfl rfl)
theorem dX6_qTakes_51 : decode cX6_qTakes 51 = .ok (.i2l, 1) := dk_133 (dk_at dksX6_qTakes_2 3 rfl rfl)
theorem dX6_qTakes_52 : decode cX6_qTakes 52 = .ok (.putfield 634, 3) := dk_181 2 122 (dk_at dksX6_qTakes_2 4 rfl rfl)
theorem dX6_qTakes_55 : decode cX6_qTakes 55 = .ok (.iload_n 1, 1) := dk_27 (dk_at dksX6_qTakes_2 7 rfl rfl)
theorem dX6_qTakes_56 : decode cX6_qTakes 56 = .ok (.iconst 2, 1) := dk_5 (dk_at dksX6_qTakes_2 8 rfl rfl)
theorem dX6_qTakes_57 : decode cX6_qTakes 57 = .ok (.if_icmp .ne 18, 3) := dk_160 0 18 (dk_at dksX6_qTakes_2 9 rfl rfl)
theorem dX6_qTakes_60 : decode cX6_qTakes 60 = .ok (.iload 5, 2) := dk_21 5 (dk_at dksX6_qTakes_2 12 rfl rfl)
theorem dX6_qTakes_62 : decode cX6_qTakes 62 = .ok (.ifCond .eq 13, 3) := dk_153 0 13 (dk_at dksX6_qTakes_2 14 rfl rfl)
theorem dX6_qTakes_65 : decode cX6_qTakes 65 = .ok (.aload_n 0, 1) := dk_42 (dk_at dksX6_qTakes_2 17 rfl rfl)
theorem dX6_qTakes_66 : decode cX6_qTakes 66 = .ok (.dup, 1) := dk_89 (dk_at dksX6_qTakes_2 18 rfl rfl)
theorem dX6_qTakes_67 : decode cX6_qTakes 67 = .ok (.getfield 634, 3) := dk_180 2 122 (dk_at dksX6_qTakes_2 19 rfl rfl)
theorem dX6_qTakes_70 : decode cX6_qTakes 70 = .ok (.lconst 1, 1) := dk_10 (dk_at dksX6_qTakes_2 22 rfl rfl)
theorem dX6_qTakes_71 : decode cX6_qTakes 71 = .ok (.ladd, 1) := dk_97 (dk_at dksX6_qTakes_2 23 rfl rfl)
theorem dX6_qTakes_72 : decode cX6_qTakes 72 = .ok (.putfield 634, 3) := dk_181 2 122 (dk_at dksX6_qTakes_3 0 rfl rfl)
theorem dX6_qTakes_75 : decode cX6_qTakes 75 = .ok (.iload_n 1, 1) := dk_27 (dk_at dksX6_qTakes_3 3 rfl rfl)
theorem dX6_qTakes_76 : decode cX6_qTakes 76 = .ok (.iconst 3, 1) := dk_6 (dk_at dksX6_qTakes_3 4 rfl rfl)
theorem dX6_qTakes_77 : decode cX6_qTakes 77 = .ok (.if_icmp .ne 13, 3) := dk_160 0 13 (dk_at dksX6_qTakes_3 5 rfl rfl)
theorem dX6_qTakes_80 : decode cX6_qTakes 80 = .ok (.aload_n 0, 1) := dk_42 (dk_at dksX6_qTakes_3 8 rfl rfl)
theorem dX6_qTakes_81 : decode cX6_qTakes 81 = .ok (.dup, 1) := dk_89 (dk_at dksX6_qTakes_3 9 rfl rfl)
theorem dX6_qTakes_82 : decode cX6_qTakes 82 = .ok (.getfield 634, 3) := dk_180 2 122 (dk_at dksX6_qTakes_3 10 rfl rfl)
theorem dX6_qTakes_85 : decode cX6_qTakes 85 = .ok (.lload_n 2, 1) := dk_32 (dk_at dksX6_qTakes_3 13 rfl rfl)
theorem dX6_qTakes_86 : decode cX6_qTakes 86 = .ok (.ladd, 1) := dk_97 (dk_at dksX6_qTakes_3 14 rfl rfl)
theorem dX6_qTakes_87 : decode cX6_qTakes 87 = .ok (.putfield 634, 3) := dk_181 2 122 (dk_at dksX6_qTakes_3 15 rfl rfl)
theorem dX6_qTakes_90 : decode cX6_qTakes 90 = .ok (.iload_n 1, 1) := dk_27 (dk_at dksX6_qTakes_3 18 rfl rfl)
theorem dX6_qTakes_91 : decode cX6_qTakes 91 = .ok (.iconst 3, 1) := dk_6 (dk_at dksX6_qTakes_3 19 rfl rfl)
theorem dX6_qTakes_92 : decode cX6_qTakes 92 = .ok (.if_icmp .le 41, 3) := dk_164 0 41 (dk_at dksX6_qTakes_3 20 rfl rfl)
theorem dX6_qTakes_95 : decode cX6_qTakes 95 = .ok (.aload_n 0, 1) := dk_42 (dk_at dksX6_qTakes_3 23 rfl rfl)
theorem dX6_qTakes_96 : decode cX6_qTakes 96 = .ok (.getfield 639, 3) := dk_180 2 127 (dk_at dksX6_qTakes_4 0 rfl rfl)
theorem dX6_qTakes_99 : decode cX6_qTakes 99 = .ok (.ifCond .ne 29, 3) := dk_154 0 29 (dk_at dksX6_qTakes_4 3 rfl rfl)
theorem dX6_qTakes_102 : decode cX6_qTakes 102 = .ok (.iload_n 1, 1) := dk_27 (dk_at dksX6_qTakes_4 6 rfl rfl)
theorem dX6_qTakes_103 : decode cX6_qTakes 103 = .ok (.iconst 4, 1) := dk_7 (dk_at dksX6_qTakes_4 7 rfl rfl)
theorem dX6_qTakes_104 : decode cX6_qTakes 104 = .ok (.if_icmp .ne 15, 3) := dk_160 0 15 (dk_at dksX6_qTakes_4 8 rfl rfl)
theorem dX6_qTakes_107 : decode cX6_qTakes 107 = .ok (.lload_n 2, 1) := dk_32 (dk_at dksX6_qTakes_4 11 rfl rfl)
theorem dX6_qTakes_108 : decode cX6_qTakes 108 = .ok (.aload_n 0, 1) := dk_42 (dk_at dksX6_qTakes_4 12 rfl rfl)
theorem dX6_qTakes_109 : decode cX6_qTakes 109 = .ok (.getfield 634, 3) := dk_180 2 122 (dk_at dksX6_qTakes_4 13 rfl rfl)
theorem dX6_qTakes_112 : decode cX6_qTakes 112 = .ok (.lcmp, 1) := dk_148 (dk_at dksX6_qTakes_4 16 rfl rfl)
theorem dX6_qTakes_113 : decode cX6_qTakes 113 = .ok (.ifCond .le 20, 3) := dk_158 0 20 (dk_at dksX6_qTakes_4 17 rfl rfl)
theorem dX6_qTakes_116 : decode cX6_qTakes 116 = .ok (.goto 12, 3) := dk_167 0 12 (dk_at dksX6_qTakes_4 20 rfl rfl)
theorem dX6_qTakes_119 : decode cX6_qTakes 119 = .ok (.lload_n 2, 1) := dk_32 (dk_at dksX6_qTakes_4 23 rfl rfl)
theorem dX6_qTakes_120 : decode cX6_qTakes 120 = .ok (.aload_n 0, 1) := dk_42 (dk_at dksX6_qTakes_5 0 rfl rfl)
theorem dX6_qTakes_121 : decode cX6_qTakes 121 = .ok (.getfield 634, 3) := dk_180 2 122 (dk_at dksX6_qTakes_5 1 rfl rfl)
theorem dX6_qTakes_124 : decode cX6_qTakes 124 = .ok (.lcmp, 1) := dk_148 (dk_at dksX6_qTakes_5 4 rfl rfl)
theorem dX6_qTakes_125 : decode cX6_qTakes 125 = .ok (.ifCond .ge 8, 3) := dk_156 0 8 (dk_at dksX6_qTakes_5 5 rfl rfl)
theorem dX6_qTakes_128 : decode cX6_qTakes 128 = .ok (.aload_n 0, 1) := dk_42 (dk_at dksX6_qTakes_5 8 rfl rfl)
theorem dX6_qTakes_129 : decode cX6_qTakes 129 = .ok (.lload_n 2, 1) := dk_32 (dk_at dksX6_qTakes_5 9 rfl rfl)
theorem dX6_qTakes_130 : decode cX6_qTakes 130 = .ok (.putfield 634, 3) := dk_181 2 122 (dk_at dksX6_qTakes_5 10 rfl rfl)
theorem dX6_qTakes_133 : decode cX6_qTakes 133 = .ok (.aload_n 0, 1) := dk_42 (dk_at dksX6_qTakes_5 13 rfl rfl)
theorem dX6_qTakes_134 : decode cX6_qTakes 134 = .ok (.iconst 0, 1) := dk_3 (dk_at dksX6_qTakes_5 14 rfl rfl)
theorem dX6_qTakes_135 : decode cX6_qTakes 135 = .ok (.putfield 639, 3) := dk_181 2 127 (dk_at dksX6_qTakes_5 15 rfl rfl)
theorem dX6_qTakes_138 : decode cX6_qTakes 138 = .ok (.return_, 1) := dk_177 (dk_at dksX6_qTakes_5 18 rfl rfl)
abbrev cX6_image : ByteArray := prog_22_method_124_code
def yX6_image : MethodName := ⟨RX6, "image", "()I"⟩
def dkwX6_image_4 : List UInt8 := [42, 180, 2, 141, 184, 2, 147, 182, 2, 144, 42, 180, 2, 141, 172]
abbrev dktX6_image_4 : List UInt8 := dkwX6_image_4 ++ []
def dkwX6_image_3 : List UInt8 := [96, 28, 96, 46, 182, 2, 144, 132, 2, 1, 167, 255, 232, 132, 1, 1, 167, 255, 205, 42, 42, 180, 0, 251]
abbrev dktX6_image_3 : List UInt8 := dkwX6_image_3 ++ dktX6_image_4
def dkwX6_image_2 : List UInt8 := [182, 1, 154, 4, 96, 182, 2, 144, 4, 61, 28, 8, 162, 0, 25, 42, 42, 180, 0, 139, 4, 8, 27, 104]
abbrev dktX6_image_2 : List UInt8 := dkwX6_image_2 ++ dktX6_image_3
def dkwX6_image_1 : List UInt8 := [3, 46, 17, 1, 0, 112, 182, 2, 144, 3, 60, 27, 42, 182, 1, 145, 162, 0, 49, 42, 42, 27]
abbrev dktX6_image_1 : List UInt8 := dkwX6_image_1 ++ dktX6_image_2
def dkwX6_image_0 : List UInt8 := [42, 3, 181, 2, 141, 42, 42, 180, 0, 139, 3, 46, 17, 1, 0, 108, 182, 2, 144, 42, 42, 180, 0, 139]
abbrev dktX6_image_0 : List UInt8 := dkwX6_image_0 ++ dktX6_image_1
theorem dksX6_image_0 : cX6_image.data.toList.drop 0 = dktX6_image_0 := by decide +kernel
theorem dksX6_image_1 : cX6_image.data.toList.drop 24 = dktX6_image_1 := dk_seg dksX6_image_0 24 rfl rfl
theorem dksX6_image_2 : cX6_image.data.toList.drop 46 = dktX6_image_2 := dk_seg dksX6_image_1 22 rfl rfl
theorem dksX6_image_3 : cX6_image.data.toList.drop 70 = dktX6_image_3 := dk_seg dksX6_image_2 24 rfl rfl
theorem dksX6_image_4 : cX6_image.data.toList.drop 94 = dktX6_image_4 := dk_seg dksX6_image_3 24 rfl rfl
theorem dX6_image_0 : decode cX6_image 0 = .ok (.aload_n 0, 1) := dk_42 (dk_at dksX6_image_0 0 rfl rfl)
theorem dX6_image_1 : decode cX6_image 1 = .ok (.iconst 0, 1) := dk_3 (dk_at dksX6_image_0 1 rfl rfl)
theorem dX6_image_2 : decode cX6_image 2 = .ok (.putfield 653, 3) := dk_181 2 141 (dk_at dksX6_image_0 2 rfl rfl)
theorem dX6_image_5 : decode cX6_image 5 = .ok (.aload_n 0, 1) := dk_42 (dk_at dksX6_image_0 5 rfl rfl)
theorem dX6_image_6 : decode cX6_image 6 = .ok (.aload_n 0, 1) := dk_42 (dk_at dksX6_image_0 6 rfl rfl)
theorem dX6_image_7 : decode cX6_image 7 = .ok (.getfield 139, 3) := dk_180 0 139 (dk_at dksX6_image_0 7 rfl rfl)
theorem dX6_image_10 : decode cX6_image 10 = .ok (.iconst 0, 1) := dk_3 (dk_at dksX6_image_0 10 rfl rfl)
theorem dX6_image_11 : decode cX6_image 11 = .ok (.iaload, 1) := dk_46 (dk_at dksX6_image_0 11 rfl rfl)
theorem dX6_image_12 : decode cX6_image 12 = .ok (.sipush 256, 3) := dk_17 1 0 (dk_at dksX6_image_0 12 rfl rfl)
theorem dX6_image_15 : decode cX6_image 15 = .ok (.idiv, 1) := dk_108 (dk_at dksX6_image_0 15 rfl rfl)
theorem dX6_image_16 : decode cX6_image 16 = .ok (.invokevirtual 656, 3) := dk_182 2 144 (dk_at dksX6_image_0 16 rfl rfl)
theorem dX6_image_19 : decode cX6_image 19 = .ok (.aload_n 0, 1) := dk_42 (dk_at dksX6_image_0 19 rfl rfl)
theorem dX6_image_20 : decode cX6_image 20 = .ok (.aload_n 0, 1) := dk_42 (dk_at dksX6_image_0 20 rfl rfl)
theorem dX6_image_21 : decode cX6_image 21 = .ok (.getfield 139, 3) := dk_180 0 139 (dk_at dksX6_image_0 21 rfl rfl)
theorem dX6_image_24 : decode cX6_image 24 = .ok (.iconst 0, 1) := dk_3 (dk_at dksX6_image_1 0 rfl rfl)
theorem dX6_image_25 : decode cX6_image 25 = .ok (.iaload, 1) := dk_46 (dk_at dksX6_image_1 1 rfl rfl)
theorem dX6_image_26 : decode cX6_image 26 = .ok (.sipush 256, 3) := dk_17 1 0 (dk_at dksX6_image_1 2 rfl rfl)
theorem dX6_image_29 : decode cX6_image 29 = .ok (.irem, 1) := dk_112 (dk_at dksX6_image_1 5 rfl rfl)
theorem dX6_image_30 : decode cX6_image 30 = .ok (.invokevirtual 656, 3) := dk_182 2 144 (dk_at dksX6_image_1 6 rfl rfl)
theorem dX6_image_33 : decode cX6_image 33 = .ok (.iconst 0, 1) := dk_3 (dk_at dksX6_image_1 9 rfl rfl)
theorem dX6_image_34 : decode cX6_image 34 = .ok (.istore_n 1, 1) := dk_60 (dk_at dksX6_image_1 10 rfl rfl)
theorem dX6_image_35 : decode cX6_image 35 = .ok (.iload_n 1, 1) := dk_27 (dk_at dksX6_image_1 11 rfl rfl)
theorem dX6_image_36 : decode cX6_image 36 = .ok (.aload_n 0, 1) := dk_42 (dk_at dksX6_image_1 12 rfl rfl)
theorem dX6_image_37 : decode cX6_image 37 = .ok (.invokevirtual 401, 3) := dk_182 1 145 (dk_at dksX6_image_1 13 rfl rfl)
theorem dX6_image_40 : decode cX6_image 40 = .ok (.if_icmp .ge 49, 3) := dk_162 0 49 (dk_at dksX6_image_1 16 rfl rfl)
theorem dX6_image_43 : decode cX6_image 43 = .ok (.aload_n 0, 1) := dk_42 (dk_at dksX6_image_1 19 rfl rfl)
theorem dX6_image_44 : decode cX6_image 44 = .ok (.aload_n 0, 1) := dk_42 (dk_at dksX6_image_1 20 rfl rfl)
theorem dX6_image_45 : decode cX6_image 45 = .ok (.iload_n 1, 1) := dk_27 (dk_at dksX6_image_1 21 rfl rfl)
theorem dX6_image_46 : decode cX6_image 46 = .ok (.invokevirtual 410, 3) := dk_182 1 154 (dk_at dksX6_image_2 0 rfl rfl)
theorem dX6_image_49 : decode cX6_image 49 = .ok (.iconst 1, 1) := dk_4 (dk_at dksX6_image_2 3 rfl rfl)
theorem dX6_image_50 : decode cX6_image 50 = .ok (.iadd, 1) := dk_96 (dk_at dksX6_image_2 4 rfl rfl)
theorem dX6_image_51 : decode cX6_image 51 = .ok (.invokevirtual 656, 3) := dk_182 2 144 (dk_at dksX6_image_2 5 rfl rfl)
theorem dX6_image_54 : decode cX6_image 54 = .ok (.iconst 1, 1) := dk_4 (dk_at dksX6_image_2 8 rfl rfl)
theorem dX6_image_55 : decode cX6_image 55 = .ok (.istore_n 2, 1) := dk_61 (dk_at dksX6_image_2 9 rfl rfl)
theorem dX6_image_56 : decode cX6_image 56 = .ok (.iload_n 2, 1) := dk_28 (dk_at dksX6_image_2 10 rfl rfl)
theorem dX6_image_57 : decode cX6_image 57 = .ok (.iconst 5, 1) := dk_8 (dk_at dksX6_image_2 11 rfl rfl)
theorem dX6_image_58 : decode cX6_image 58 = .ok (.if_icmp .ge 25, 3) := dk_162 0 25 (dk_at dksX6_image_2 12 rfl rfl)
theorem dX6_image_61 : decode cX6_image 61 = .ok (.aload_n 0, 1) := dk_42 (dk_at dksX6_image_2 15 rfl rfl)
theorem dX6_image_62 : decode cX6_image 62 = .ok (.aload_n 0, 1) := dk_42 (dk_at dksX6_image_2 16 rfl rfl)
theorem dX6_image_63 : decode cX6_image 63 = .ok (.getfield 139, 3) := dk_180 0 139 (dk_at dksX6_image_2 17 rfl rfl)
theorem dX6_image_66 : decode cX6_image 66 = .ok (.iconst 1, 1) := dk_4 (dk_at dksX6_image_2 20 rfl rfl)
theorem dX6_image_67 : decode cX6_image 67 = .ok (.iconst 5, 1) := dk_8 (dk_at dksX6_image_2 21 rfl rfl)
theorem dX6_image_68 : decode cX6_image 68 = .ok (.iload_n 1, 1) := dk_27 (dk_at dksX6_image_2 22 rfl rfl)
theorem dX6_image_69 : decode cX6_image 69 = .ok (.imul, 1) := dk_104 (dk_at dksX6_image_2 23 rfl rfl)
theorem dX6_image_70 : decode cX6_image 70 = .ok (.iadd, 1) := dk_96 (dk_at dksX6_image_3 0 rfl rfl)
theorem dX6_image_71 : decode cX6_image 71 = .ok (.iload_n 2, 1) := dk_28 (dk_at dksX6_image_3 1 rfl rfl)
theorem dX6_image_72 : decode cX6_image 72 = .ok (.iadd, 1) := dk_96 (dk_at dksX6_image_3 2 rfl rfl)
theorem dX6_image_73 : decode cX6_image 73 = .ok (.iaload, 1) := dk_46 (dk_at dksX6_image_3 3 rfl rfl)
theorem dX6_image_74 : decode cX6_image 74 = .ok (.invokevirtual 656, 3) := dk_182 2 144 (dk_at dksX6_image_3 4 rfl rfl)
theorem dX6_image_77 : decode cX6_image 77 = .ok (.iinc 2 1, 3) := dk_132 2 1 (dk_at dksX6_image_3 7 rfl rfl)
theorem dX6_image_80 : decode cX6_image 80 = .ok (.goto (-24), 3) := dk_167 255 232 (dk_at dksX6_image_3 10 rfl rfl)
theorem dX6_image_83 : decode cX6_image 83 = .ok (.iinc 1 1, 3) := dk_132 1 1 (dk_at dksX6_image_3 13 rfl rfl)
theorem dX6_image_86 : decode cX6_image 86 = .ok (.goto (-51), 3) := dk_167 255 205 (dk_at dksX6_image_3 16 rfl rfl)
theorem dX6_image_89 : decode cX6_image 89 = .ok (.aload_n 0, 1) := dk_42 (dk_at dksX6_image_3 19 rfl rfl)
theorem dX6_image_90 : decode cX6_image 90 = .ok (.aload_n 0, 1) := dk_42 (dk_at dksX6_image_3 20 rfl rfl)
theorem dX6_image_91 : decode cX6_image 91 = .ok (.getfield 251, 3) := dk_180 0 251 (dk_at dksX6_image_3 21 rfl rfl)
theorem dX6_image_94 : decode cX6_image 94 = .ok (.aload_n 0, 1) := dk_42 (dk_at dksX6_image_4 0 rfl rfl)
theorem dX6_image_95 : decode cX6_image 95 = .ok (.getfield 653, 3) := dk_180 2 141 (dk_at dksX6_image_4 1 rfl rfl)
theorem dX6_image_98 : decode cX6_image 98 = .ok (.invokestatic 659, 3) := dk_184 2 147 (dk_at dksX6_image_4 4 rfl rfl)
theorem dX6_image_101 : decode cX6_image 101 = .ok (.invokevirtual 656, 3) := dk_182 2 144 (dk_at dksX6_image_4 7 rfl rfl)
theorem dX6_image_104 : decode cX6_image 104 = .ok (.aload_n 0, 1) := dk_42 (dk_at dksX6_image_4 10 rfl rfl)
theorem dX6_image_105 : decode cX6_image 105 = .ok (.getfield 653, 3) := dk_180 2 141 (dk_at dksX6_image_4 11 rfl rfl)
theorem dX6_image_108 : decode cX6_image 108 = .ok (.ireturn, 1) := dk_172 (dk_at dksX6_image_4 14 rfl rfl)
abbrev cX6_writes : ByteArray := prog_22_method_123_code
def yX6_writes : MethodName := ⟨RX6, "writes", "(I)V"⟩
def dkwX6_writes_0 : List UInt8 := [42, 180, 0, 251, 42, 180, 2, 141, 27, 79, 42, 89, 180, 2, 141, 4, 96, 181, 2, 141, 177]
abbrev dktX6_writes_0 : List UInt8 := dkwX6_writes_0 ++ []
theorem dksX6_writes_0 : cX6_writes.data.toList.drop 0 = dktX6_writes_0 := by decide +kernel
theorem dX6_writes_0 : decode cX6_writes 0 = .ok (.aload_n 0, 1) := dk_42 (dk_at dksX6_writes_0 0 rfl rfl)
theorem dX6_writes_1 : decode cX6_writes 1 = .ok (.getfield 251, 3) := dk_180 0 251 (dk_at dksX6_writes_0 1 rfl rfl)
theorem dX6_writes_4 : decode cX6_writes 4 = .ok (.aload_n 0, 1) := dk_42 (dk_at dksX6_writes_0 4 rfl rfl)
theorem dX6_writes_5 : decode cX6_writes 5 = .ok (.getfield 653, 3) := dk_180 2 141 (dk_at dksX6_writes_0 5 rfl rfl)
theorem dX6_writes_8 : decode cX6_writes 8 = .ok (.iload_n 1, 1) := dk_27 (dk_at dksX6_writes_0 8 rfl rfl)
theorem dX6_writes_9 : decode cX6_writes 9 = .ok (.iastore, 1) := dk_79 (dk_at dksX6_writes_0 9 rfl rfl)
theorem dX6_writes_10 : decode cX6_writes 10 = .ok (.aload_n 0, 1) := dk_42 (dk_at dksX6_writes_0 10 rfl rfl)
theorem dX6_writes_11 : decode cX6_writes 11 = .ok (.dup, 1) := dk_89 (dk_at dksX6_writes_0 11 rfl rfl)
theorem dX6_writes_12 : decode cX6_writes 12 = .ok (.getfield 653, 3) := dk_180 2 141 (dk_at dksX6_writes_0 12 rfl rfl)
theorem dX6_writes_15 : decode cX6_writes 15 = .ok (.iconst 1, 1) := dk_4 (dk_at dksX6_writes_0 15 rfl rfl)
theorem dX6_writes_16 : decode cX6_writes 16 = .ok (.iadd, 1) := dk_96 (dk_at dksX6_writes_0 16 rfl rfl)
theorem dX6_writes_17 : decode cX6_writes 17 = .ok (.putfield 653, 3) := dk_181 2 141 (dk_at dksX6_writes_0 17 rfl rfl)
theorem dX6_writes_20 : decode cX6_writes 20 = .ok (.return_, 1) := dk_177 (dk_at dksX6_writes_0 20 rfl rfl)
abbrev cX6_checked : ByteArray := prog_22_method_122_code
def yX6_checked : MethodName := ⟨RX6, "checked", "([II)I"⟩
def dkwX6_checked_1 : List UInt8 := [132, 3, 1, 167, 255, 236, 28, 172]
abbrev dktX6_checked_1 : List UInt8 := dkwX6_checked_1 ++ []
def dkwX6_checked_0 : List UInt8 := [16, 43, 61, 3, 62, 29, 27, 162, 0, 21, 6, 28, 104, 42, 29, 46, 96, 17, 0, 251, 112, 61]
abbrev dktX6_checked_0 : List UInt8 := dkwX6_checked_0 ++ dktX6_checked_1
theorem dksX6_checked_0 : cX6_checked.data.toList.drop 0 = dktX6_checked_0 := by decide +kernel
theorem dksX6_checked_1 : cX6_checked.data.toList.drop 22 = dktX6_checked_1 := dk_seg dksX6_checked_0 22 rfl rfl
theorem dX6_checked_0 : decode cX6_checked 0 = .ok (.bipush 43, 2) := dk_16 43 (dk_at dksX6_checked_0 0 rfl rfl)
theorem dX6_checked_2 : decode cX6_checked 2 = .ok (.istore_n 2, 1) := dk_61 (dk_at dksX6_checked_0 2 rfl rfl)
theorem dX6_checked_3 : decode cX6_checked 3 = .ok (.iconst 0, 1) := dk_3 (dk_at dksX6_checked_0 3 rfl rfl)
theorem dX6_checked_4 : decode cX6_checked 4 = .ok (.istore_n 3, 1) := dk_62 (dk_at dksX6_checked_0 4 rfl rfl)
theorem dX6_checked_5 : decode cX6_checked 5 = .ok (.iload_n 3, 1) := dk_29 (dk_at dksX6_checked_0 5 rfl rfl)
theorem dX6_checked_6 : decode cX6_checked 6 = .ok (.iload_n 1, 1) := dk_27 (dk_at dksX6_checked_0 6 rfl rfl)
theorem dX6_checked_7 : decode cX6_checked 7 = .ok (.if_icmp .ge 21, 3) := dk_162 0 21 (dk_at dksX6_checked_0 7 rfl rfl)
theorem dX6_checked_10 : decode cX6_checked 10 = .ok (.iconst 3, 1) := dk_6 (dk_at dksX6_checked_0 10 rfl rfl)
theorem dX6_checked_11 : decode cX6_checked 11 = .ok (.iload_n 2, 1) := dk_28 (dk_at dksX6_checked_0 11 rfl rfl)
theorem dX6_checked_12 : decode cX6_checked 12 = .ok (.imul, 1) := dk_104 (dk_at dksX6_checked_0 12 rfl rfl)
theorem dX6_checked_13 : decode cX6_checked 13 = .ok (.aload_n 0, 1) := dk_42 (dk_at dksX6_checked_0 13 rfl rfl)
theorem dX6_checked_14 : decode cX6_checked 14 = .ok (.iload_n 3, 1) := dk_29 (dk_at dksX6_checked_0 14 rfl rfl)
theorem dX6_checked_15 : decode cX6_checked 15 = .ok (.iaload, 1) := dk_46 (dk_at dksX6_checked_0 15 rfl rfl)
theorem dX6_checked_16 : decode cX6_checked 16 = .ok (.iadd, 1) := dk_96 (dk_at dksX6_checked_0 16 rfl rfl)
theorem dX6_checked_17 : decode cX6_checked 17 = .ok (.sipush 251, 3) := dk_17 0 251 (dk_at dksX6_checked_0 17 rfl rfl)
theorem dX6_checked_20 : decode cX6_checked 20 = .ok (.irem, 1) := dk_112 (dk_at dksX6_checked_0 20 rfl rfl)
theorem dX6_checked_21 : decode cX6_checked 21 = .ok (.istore_n 2, 1) := dk_61 (dk_at dksX6_checked_0 21 rfl rfl)
theorem dX6_checked_22 : decode cX6_checked 22 = .ok (.iinc 3 1, 3) := dk_132 3 1 (dk_at dksX6_checked_1 0 rfl rfl)
theorem dX6_checked_25 : decode cX6_checked 25 = .ok (.goto (-20), 3) := dk_167 255 236 (dk_at dksX6_checked_1 3 rfl rfl)
theorem dX6_checked_28 : decode cX6_checked 28 = .ok (.iload_n 2, 1) := dk_28 (dk_at dksX6_checked_1 6 rfl rfl)
theorem dX6_checked_29 : decode cX6_checked 29 = .ok (.ireturn, 1) := dk_172 (dk_at dksX6_checked_1 7 rfl rfl)
abbrev cX6_octet : ByteArray := prog_22_method_125_code
def yX6_octet : MethodName := ⟨RX6, "octet", "(I)I"⟩
def dkwX6_octet_0 : List UInt8 := [27, 155, 0, 20, 27, 42, 180, 2, 141, 162, 0, 12, 42, 180, 0, 251, 27, 46, 167, 0, 4, 2, 172]
abbrev dktX6_octet_0 : List UInt8 := dkwX6_octet_0 ++ []
theorem dksX6_octet_0 : cX6_octet.data.toList.drop 0 = dktX6_octet_0 := by decide +kernel
theorem dX6_octet_0 : decode cX6_octet 0 = .ok (.iload_n 1, 1) := dk_27 (dk_at dksX6_octet_0 0 rfl rfl)
theorem dX6_octet_1 : decode cX6_octet 1 = .ok (.ifCond .lt 20, 3) := dk_155 0 20 (dk_at dksX6_octet_0 1 rfl rfl)
theorem dX6_octet_4 : decode cX6_octet 4 = .ok (.iload_n 1, 1) := dk_27 (dk_at dksX6_octet_0 4 rfl rfl)
theorem dX6_octet_5 : decode cX6_octet 5 = .ok (.aload_n 0, 1) := dk_42 (dk_at dksX6_octet_0 5 rfl rfl)
theorem dX6_octet_6 : decode cX6_octet 6 = .ok (.getfield 653, 3) := dk_180 2 141 (dk_at dksX6_octet_0 6 rfl rfl)
theorem dX6_octet_9 : decode cX6_octet 9 = .ok (.if_icmp .ge 12, 3) := dk_162 0 12 (dk_at dksX6_octet_0 9 rfl rfl)
theorem dX6_octet_12 : decode cX6_octet 12 = .ok (.aload_n 0, 1) := dk_42 (dk_at dksX6_octet_0 12 rfl rfl)
theorem dX6_octet_13 : decode cX6_octet 13 = .ok (.getfield 251, 3) := dk_180 0 251 (dk_at dksX6_octet_0 13 rfl rfl)
theorem dX6_octet_16 : decode cX6_octet 16 = .ok (.iload_n 1, 1) := dk_27 (dk_at dksX6_octet_0 16 rfl rfl)
theorem dX6_octet_17 : decode cX6_octet 17 = .ok (.iaload, 1) := dk_46 (dk_at dksX6_octet_0 17 rfl rfl)
theorem dX6_octet_18 : decode cX6_octet 18 = .ok (.goto 4, 3) := dk_167 0 4 (dk_at dksX6_octet_0 18 rfl rfl)
theorem dX6_octet_21 : decode cX6_octet 21 = .ok (.iconst (-1), 1) := dk_2 (dk_at dksX6_octet_0 21 rfl rfl)
theorem dX6_octet_22 : decode cX6_octet 22 = .ok (.ireturn, 1) := dk_172 (dk_at dksX6_octet_0 22 rfl rfl)
abbrev cX6_on : ByteArray := prog_22_method_129_code
def yX6_on : MethodName := ⟨RX6, "on", "()Z"⟩
def dkwX6_on_6 : List UInt8 := [181, 1, 136, 4, 172]
abbrev dktX6_on_6 : List UInt8 := dkwX6_on_6 ++ []
def dkwX6_on_5 : List UInt8 := [132, 3, 1, 167, 255, 224, 132, 2, 1, 167, 255, 186, 42, 180, 0, 139, 16, 41, 3, 79, 42, 3]
abbrev dktX6_on_5 : List UInt8 := dkwX6_on_5 ++ dktX6_on_6
def dkwX6_on_4 : List UInt8 := [180, 0, 139, 4, 8, 28, 104, 96, 29, 96, 42, 180, 0, 7, 5, 8, 28, 104, 96, 29, 96, 46, 79]
abbrev dktX6_on_4 : List UInt8 := dkwX6_on_4 ++ dktX6_on_5
def dkwX6_on_3 : List UInt8 := [104, 96, 42, 180, 0, 7, 5, 8, 28, 104, 96, 46, 4, 100, 79, 4, 62, 29, 8, 162, 0, 33, 42]
abbrev dktX6_on_3 : List UInt8 := dkwX6_on_3 ++ dktX6_on_4
def dkwX6_on_2 : List UInt8 := [180, 0, 7, 4, 46, 96, 79, 3, 61, 28, 42, 182, 1, 145, 162, 0, 68, 42, 180, 0, 139, 4, 8, 28]
abbrev dktX6_on_2 : List UInt8 := dkwX6_on_2 ++ dktX6_on_3
def dkwX6_on_1 : List UInt8 := [46, 4, 96, 79, 3, 172, 42, 180, 0, 139, 3, 17, 1, 0, 42, 180, 0, 7, 3, 46, 104, 42]
abbrev dktX6_on_1 : List UInt8 := dkwX6_on_1 ++ dktX6_on_2
def dkwX6_on_0 : List UInt8 := [42, 180, 0, 254, 60, 42, 3, 181, 0, 254, 42, 27, 182, 2, 157, 154, 0, 15, 42, 180, 0, 17, 8, 92]
abbrev dktX6_on_0 : List UInt8 := dkwX6_on_0 ++ dktX6_on_1
theorem dksX6_on_0 : cX6_on.data.toList.drop 0 = dktX6_on_0 := by decide +kernel
theorem dksX6_on_1 : cX6_on.data.toList.drop 24 = dktX6_on_1 := dk_seg dksX6_on_0 24 rfl rfl
theorem dksX6_on_2 : cX6_on.data.toList.drop 46 = dktX6_on_2 := dk_seg dksX6_on_1 22 rfl rfl
theorem dksX6_on_3 : cX6_on.data.toList.drop 70 = dktX6_on_3 := dk_seg dksX6_on_2 24 rfl rfl
theorem dksX6_on_4 : cX6_on.data.toList.drop 93 = dktX6_on_4 := dk_seg dksX6_on_3 23 rfl rfl
theorem dksX6_on_5 : cX6_on.data.toList.drop 116 = dktX6_on_5 := dk_seg dksX6_on_4 23 rfl rfl
theorem dksX6_on_6 : cX6_on.data.toList.drop 138 = dktX6_on_6 := dk_seg dksX6_on_5 22 rfl rfl
theorem dX6_on_0 : decode cX6_on 0 = .ok (.aload_n 0, 1) := dk_42 (dk_at dksX6_on_0 0 rfl rfl)
theorem dX6_on_1 : decode cX6_on 1 = .ok (.getfield 254, 3) := dk_180 0 254 (dk_at dksX6_on_0 1 rfl rfl)
theorem dX6_on_4 : decode cX6_on 4 = .ok (.istore_n 1, 1) := dk_60 (dk_at dksX6_on_0 4 rfl rfl)
theorem dX6_on_5 : decode cX6_on 5 = .ok (.aload_n 0, 1) := dk_42 (dk_at dksX6_on_0 5 rfl rfl)
theorem dX6_on_6 : decode cX6_on 6 = .ok (.iconst 0, 1) := dk_3 (dk_at dksX6_on_0 6 rfl rfl)
theorem dX6_on_7 : decode cX6_on 7 = .ok (.putfield 254, 3) := dk_181 0 254 (dk_at dksX6_on_0 7 rfl rfl)
theorem dX6_on_10 : decode cX6_on 10 = .ok (.aload_n 0, 1) := dk_42 (dk_at dksX6_on_0 10 rfl rfl)
theorem dX6_on_11 : decode cX6_on 11 = .ok (.iload_n 1, 1) := dk_27 (dk_at dksX6_on_0 11 rfl rfl)
theorem dX6_on_12 : decode cX6_on 12 = .ok (.invokevirtual 669, 3) := dk_182 2 157 (dk_at dksX6_on_0 12 rfl rfl)
theorem dX6_on_15 : decode cX6_on 15 = .ok (.ifCond .ne 15, 3) := dk_154 0 15 (dk_at dksX6_on_0 15 rfl rfl)
theorem dX6_on_18 : decode cX6_on 18 = .ok (.aload_n 0, 1) := dk_42 (dk_at dksX6_on_0 18 rfl rfl)
theorem dX6_on_19 : decode cX6_on 19 = .ok (.getfield 17, 3) := dk_180 0 17 (dk_at dksX6_on_0 19 rfl rfl)
theorem dX6_on_22 : decode cX6_on 22 = .ok (.iconst 5, 1) := dk_8 (dk_at dksX6_on_0 22 rfl rfl)
theorem dX6_on_23 : decode cX6_on 23 = .ok (.dup2, 1) := dk_92 (dk_at dksX6_on_0 23 rfl rfl)
theorem dX6_on_24 : decode cX6_on 24 = .ok (.iaload, 1) := dk_46 (dk_at dksX6_on_1 0 rfl rfl)
theorem dX6_on_25 : decode cX6_on 25 = .ok (.iconst 1, 1) := dk_4 (dk_at dksX6_on_1 1 rfl rfl)
theorem dX6_on_26 : decode cX6_on 26 = .ok (.iadd, 1) := dk_96 (dk_at dksX6_on_1 2 rfl rfl)
theorem dX6_on_27 : decode cX6_on 27 = .ok (.iastore, 1) := dk_79 (dk_at dksX6_on_1 3 rfl rfl)
theorem dX6_on_28 : decode cX6_on 28 = .ok (.iconst 0, 1) := dk_3 (dk_at dksX6_on_1 4 rfl rfl)
theorem dX6_on_29 : decode cX6_on 29 = .ok (.ireturn, 1) := dk_172 (dk_at dksX6_on_1 5 rfl rfl)
theorem dX6_on_30 : decode cX6_on 30 = .ok (.aload_n 0, 1) := dk_42 (dk_at dksX6_on_1 6 rfl rfl)
theorem dX6_on_31 : decode cX6_on 31 = .ok (.getfield 139, 3) := dk_180 0 139 (dk_at dksX6_on_1 7 rfl rfl)
theorem dX6_on_34 : decode cX6_on 34 = .ok (.iconst 0, 1) := dk_3 (dk_at dksX6_on_1 10 rfl rfl)
theorem dX6_on_35 : decode cX6_on 35 = .ok (.sipush 256, 3) := dk_17 1 0 (dk_at dksX6_on_1 11 rfl rfl)
theorem dX6_on_38 : decode cX6_on 38 = .ok (.aload_n 0, 1) := dk_42 (dk_at dksX6_on_1 14 rfl rfl)
theorem dX6_on_39 : decode cX6_on 39 = .ok (.getfield 7, 3) := dk_180 0 7 (dk_at dksX6_on_1 15 rfl rfl)
theorem dX6_on_42 : decode cX6_on 42 = .ok (.iconst 0, 1) := dk_3 (dk_at dksX6_on_1 18 rfl rfl)
theorem dX6_on_43 : decode cX6_on 43 = .ok (.iaload, 1) := dk_46 (dk_at dksX6_on_1 19 rfl rfl)
theorem dX6_on_44 : decode cX6_on 44 = .ok (.imul, 1) := dk_104 (dk_at dksX6_on_1 20 rfl rfl)
theorem dX6_on_45 : decode cX6_on 45 = .ok (.aload_n 0, 1) := dk_42 (dk_at dksX6_on_1 21 rfl rfl)
theorem dX6_on_46 : decode cX6_on 46 = .ok (.getfield 7, 3) := dk_180 0 7 (dk_at dksX6_on_2 0 rfl rfl)
theorem dX6_on_49 : decode cX6_on 49 = .ok (.iconst 1, 1) := dk_4 (dk_at dksX6_on_2 3 rfl rfl)
theorem dX6_on_50 : decode cX6_on 50 = .ok (.iaload, 1) := dk_46 (dk_at dksX6_on_2 4 rfl rfl)
theorem dX6_on_51 : decode cX6_on 51 = .ok (.iadd, 1) := dk_96 (dk_at dksX6_on_2 5 rfl rfl)
theorem dX6_on_52 : decode cX6_on 52 = .ok (.iastore, 1) := dk_79 (dk_at dksX6_on_2 6 rfl rfl)
theorem dX6_on_53 : decode cX6_on 53 = .ok (.iconst 0, 1) := dk_3 (dk_at dksX6_on_2 7 rfl rfl)
theorem dX6_on_54 : decode cX6_on 54 = .ok (.istore_n 2, 1) := dk_61 (dk_at dksX6_on_2 8 rfl rfl)
theorem dX6_on_55 : decode cX6_on 55 = .ok (.iload_n 2, 1) := dk_28 (dk_at dksX6_on_2 9 rfl rfl)
theorem dX6_on_56 : decode cX6_on 56 = .ok (.aload_n 0, 1) := dk_42 (dk_at dksX6_on_2 10 rfl rfl)
theorem dX6_on_57 : decode cX6_on 57 = .ok (.invokevirtual 401, 3) := dk_182 1 145 (dk_at dksX6_on_2 11 rfl rfl)
theorem dX6_on_60 : decode cX6_on 60 = .ok (.if_icmp .ge 68, 3) := dk_162 0 68 (dk_at dksX6_on_2 14 rfl rfl)
theorem dX6_on_63 : decode cX6_on 63 = .ok (.aload_n 0, 1) := dk_42 (dk_at dksX6_on_2 17 rfl rfl)
theorem dX6_on_64 : decode cX6_on 64 = .ok (.getfield 139, 3) := dk_180 0 139 (dk_at dksX6_on_2 18 rfl rfl)
theorem dX6_on_67 : decode cX6_on 67 = .ok (.iconst 1, 1) := dk_4 (dk_at dksX6_on_2 21 rfl rfl)
theorem dX6_on_68 : decode cX6_on 68 = .ok (.iconst 5, 1) := dk_8 (dk_at dksX6_on_2 22 rfl rfl)
theorem dX6_on_69 : decode cX6_on 69 = .ok (.iload_n 2, 1) := dk_28 (dk_at dksX6_on_2 23 rfl rfl)
theorem dX6_on_70 : decode cX6_on 70 = .ok (.imul, 1) := dk_104 (dk_at dksX6_on_3 0 rfl rfl)
theorem dX6_on_71 : decode cX6_on 71 = .ok (.iadd, 1) := dk_96 (dk_at dksX6_on_3 1 rfl rfl)
theorem dX6_on_72 : decode cX6_on 72 = .ok (.aload_n 0, 1) := dk_42 (dk_at dksX6_on_3 2 rfl rfl)
theorem dX6_on_73 : decode cX6_on 73 = .ok (.getfield 7, 3) := dk_180 0 7 (dk_at dksX6_on_3 3 rfl rfl)
theorem dX6_on_76 : decode cX6_on 76 = .ok (.iconst 2, 1) := dk_5 (dk_at dksX6_on_3 6 rfl rfl)
theorem dX6_on_77 : decode cX6_on 77 = .ok (.iconst 5, 1) := dk_8 (dk_at dksX6_on_3 7 rfl rfl)
theorem dX6_on_78 : decode cX6_on 78 = .ok (.iload_n 2, 1) := dk_28 (dk_at dksX6_on_3 8 rfl rfl)
theorem dX6_on_79 : decode cX6_on 79 = .ok (.imul, 1) := dk_104 (dk_at dksX6_on_3 9 rfl rfl)
theorem dX6_on_80 : decode cX6_on 80 = .ok (.iadd, 1) := dk_96 (dk_at dksX6_on_3 10 rfl rfl)
theorem dX6_on_81 : decode cX6_on 81 = .ok (.iaload, 1) := dk_46 (dk_at dksX6_on_3 11 rfl rfl)
theorem dX6_on_82 : decode cX6_on 82 = .ok (.iconst 1, 1) := dk_4 (dk_at dksX6_on_3 12 rfl rfl)
theorem dX6_on_83 : decode cX6_on 83 = .ok (.isub, 1) := dk_100 (dk_at dksX6_on_3 13 rfl rfl)
theorem dX6_on_84 : decode cX6_on 84 = .ok (.iastore, 1) := dk_79 (dk_at dksX6_on_3 14 rfl rfl)
theorem dX6_on_85 : decode cX6_on 85 = .ok (.iconst 1, 1) := dk_4 (dk_at dksX6_on_3 15 rfl rfl)
theorem dX6_on_86 : decode cX6_on 86 = .ok (.istore_n 3, 1) := dk_62 (dk_at dksX6_on_3 16 rfl rfl)
theorem dX6_on_87 : decode cX6_on 87 = .ok (.iload_n 3, 1) := dk_29 (dk_at dksX6_on_3 17 rfl rfl)
theorem dX6_on_88 : decode cX6_on 88 = .ok (.iconst 5, 1) := dk_8 (dk_at dksX6_on_3 18 rfl rfl)
theorem dX6_on_89 : decode cX6_on 89 = .ok (.if_icmp .ge 33, 3) := dk_162 0 33 (dk_at dksX6_on_3 19 rfl rfl)
theorem dX6_on_92 : decode cX6_on 92 = .ok (.aload_n 0, 1) := dk_42 (dk_at dksX6_on_3 22 rfl rfl)
theorem dX6_on_93 : decode cX6_on 93 = .ok (.getfield 139, 3) := dk_180 0 139 (dk_at dksX6_on_4 0 rfl rfl)
theorem dX6_on_96 : decode cX6_on 96 = .ok (.iconst 1, 1) := dk_4 (dk_at dksX6_on_4 3 rfl rfl)
theorem dX6_on_97 : decode cX6_on 97 = .ok (.iconst 5, 1) := dk_8 (dk_at dksX6_on_4 4 rfl rfl)
theorem dX6_on_98 : decode cX6_on 98 = .ok (.iload_n 2, 1) := dk_28 (dk_at dksX6_on_4 5 rfl rfl)
theorem dX6_on_99 : decode cX6_on 99 = .ok (.imul, 1) := dk_104 (dk_at dksX6_on_4 6 rfl rfl)
theorem dX6_on_100 : decode cX6_on 100 = .ok (.iadd, 1) := dk_96 (dk_at dksX6_on_4 7 rfl rfl)
theorem dX6_on_101 : decode cX6_on 101 = .ok (.iload_n 3, 1) := dk_29 (dk_at dksX6_on_4 8 rfl rfl)
theorem dX6_on_102 : decode cX6_on 102 = .ok (.iadd, 1) := dk_96 (dk_at dksX6_on_4 9 rfl rfl)
theorem dX6_on_103 : decode cX6_on 103 = .ok (.aload_n 0, 1) := dk_42 (dk_at dksX6_on_4 10 rfl rfl)
theorem dX6_on_104 : decode cX6_on 104 = .ok (.getfield 7, 3) := dk_180 0 7 (dk_at dksX6_on_4 11 rfl rfl)
theorem dX6_on_107 : decode cX6_on 107 = .ok (.iconst 2, 1) := dk_5 (dk_at dksX6_on_4 14 rfl rfl)
theorem dX6_on_108 : decode cX6_on 108 = .ok (.iconst 5, 1) := dk_8 (dk_at dksX6_on_4 15 rfl rfl)
theorem dX6_on_109 : decode cX6_on 109 = .ok (.iload_n 2, 1) := dk_28 (dk_at dksX6_on_4 16 rfl rfl)
theorem dX6_on_110 : decode cX6_on 110 = .ok (.imul, 1) := dk_104 (dk_at dksX6_on_4 17 rfl rfl)
theorem dX6_on_111 : decode cX6_on 111 = .ok (.iadd, 1) := dk_96 (dk_at dksX6_on_4 18 rfl rfl)
theorem dX6_on_112 : decode cX6_on 112 = .ok (.iload_n 3, 1) := dk_29 (dk_at dksX6_on_4 19 rfl rfl)
theorem dX6_on_113 : decode cX6_on 113 = .ok (.iadd, 1) := dk_96 (dk_at dksX6_on_4 20 rfl rfl)
theorem dX6_on_114 : decode cX6_on 114 = .ok (.iaload, 1) := dk_46 (dk_at dksX6_on_4 21 rfl rfl)
theorem dX6_on_115 : decode cX6_on 115 = .ok (.iastore, 1) := dk_79 (dk_at dksX6_on_4 22 rfl rfl)
theorem dX6_on_116 : decode cX6_on 116 = .ok (.iinc 3 1, 3) := dk_132 3 1 (dk_at dksX6_on_5 0 rfl rfl)
theorem dX6_on_119 : decode cX6_on 119 = .ok (.goto (-32), 3) := dk_167 255 224 (dk_at dksX6_on_5 3 rfl rfl)
theorem dX6_on_122 : decode cX6_on 122 = .ok (.iinc 2 1, 3) := dk_132 2 1 (dk_at dksX6_on_5 6 rfl rfl)
theorem dX6_on_125 : decode cX6_on 125 = .ok (.goto (-70), 3) := dk_167 255 186 (dk_at dksX6_on_5 9 rfl rfl)
theorem dX6_on_128 : decode cX6_on 128 = .ok (.aload_n 0, 1) := dk_42 (dk_at dksX6_on_5 12 rfl rfl)
theorem dX6_on_129 : decode cX6_on 129 = .ok (.getfield 139, 3) := dk_180 0 139 (dk_at dksX6_on_5 13 rfl rfl)
theorem dX6_on_132 : decode cX6_on 132 = .ok (.bipush 41, 2) := dk_16 41 (dk_at dksX6_on_5 16 rfl rfl)
theorem dX6_on_134 : decode cX6_on 134 = .ok (.iconst 0, 1) := dk_3 (dk_at dksX6_on_5 18 rfl rfl)
theorem dX6_on_135 : decode cX6_on 135 = .ok (.iastore, 1) := dk_79 (dk_at dksX6_on_5 19 rfl rfl)
theorem dX6_on_136 : decode cX6_on 136 = .ok (.aload_n 0, 1) := dk_42 (dk_at dksX6_on_5 20 rfl rfl)
theorem dX6_on_137 : decode cX6_on 137 = .ok (.iconst 0, 1) := dk_3 (dk_at dksX6_on_5 21 rfl rfl)
theorem dX6_on_138 : decode cX6_on 138 = .ok (.putfield 392, 3) := dk_181 1 136 (dk_at dksX6_on_6 0 rfl rfl)
theorem dX6_on_141 : decode cX6_on 141 = .ok (.iconst 1, 1) := dk_4 (dk_at dksX6_on_6 3 rfl rfl)
theorem dX6_on_142 : decode cX6_on 142 = .ok (.ireturn, 1) := dk_172 (dk_at dksX6_on_6 4 rfl rfl)
abbrev cX6_isImage : ByteArray := prog_22_method_128_code
def yX6_isImage : MethodName := ⟨RX6, "isImage", "(I)Z"⟩
def dkwX6_isImage_5 : List UInt8 := [3, 172, 132, 2, 1, 167, 255, 235, 4, 172]
abbrev dktX6_isImage_5 : List UInt8 := dkwX6_isImage_5 ++ []
def dkwX6_isImage_4 : List UInt8 := [132, 2, 1, 167, 255, 218, 3, 61, 28, 42, 182, 1, 145, 162, 0, 19, 42, 28, 182, 2, 154, 153, 0, 5]
abbrev dktX6_isImage_4 : List UInt8 := dkwX6_isImage_4 ++ dktX6_isImage_5
def dkwX6_isImage_3 : List UInt8 := [5, 8, 28, 104, 96, 46, 42, 182, 1, 145, 163, 0, 11, 42, 28, 182, 2, 151, 154, 0, 5, 3, 172]
abbrev dktX6_isImage_3 : List UInt8 := dkwX6_isImage_3 ++ dktX6_isImage_4
def dkwX6_isImage_2 : List UInt8 := [46, 96, 17, 3, 231, 164, 0, 5, 3, 172, 3, 61, 28, 42, 182, 1, 145, 162, 0, 36, 42, 180, 0, 7]
abbrev dktX6_isImage_2 : List UInt8 := dkwX6_isImage_2 ++ dktX6_isImage_3
def dkwX6_isImage_1 : List UInt8 := [27, 4, 100, 184, 2, 147, 160, 0, 26, 17, 1, 0, 42, 180, 0, 7, 3, 46, 104, 42, 180, 0, 7, 4]
abbrev dktX6_isImage_1 : List UInt8 := dkwX6_isImage_1 ++ dktX6_isImage_2
def dkwX6_isImage_0 : List UInt8 := [27, 6, 8, 42, 182, 1, 145, 104, 96, 160, 0, 47, 42, 180, 0, 7, 27, 4, 100, 46, 42, 180, 0, 7]
abbrev dktX6_isImage_0 : List UInt8 := dkwX6_isImage_0 ++ dktX6_isImage_1
theorem dksX6_isImage_0 : cX6_isImage.data.toList.drop 0 = dktX6_isImage_0 := by decide +kernel
theorem dksX6_isImage_1 : cX6_isImage.data.toList.drop 24 = dktX6_isImage_1 := dk_seg dksX6_isImage_0 24 rfl rfl
theorem dksX6_isImage_2 : cX6_isImage.data.toList.drop 48 = dktX6_isImage_2 := dk_seg dksX6_isImage_1 24 rfl rfl
theorem dksX6_isImage_3 : cX6_isImage.data.toList.drop 72 = dktX6_isImage_3 := dk_seg dksX6_isImage_2 24 rfl rfl
theorem dksX6_isImage_4 : cX6_isImage.data.toList.drop 95 = dktX6_isImage_4 := dk_seg dksX6_isImage_3 23 rfl rfl
theorem dksX6_isImage_5 : cX6_isImage.data.toList.drop 119 = dktX6_isImage_5 := dk_seg dksX6_isImage_4 24 rfl rfl
theorem dX6_isImage_0 : decode cX6_isImage 0 = .ok (.iload_n 1, 1) := dk_27 (dk_at dksX6_isImage_0 0 rfl rfl)
theorem dX6_isImage_1 : decode cX6_isImage 1 = .ok (.iconst 3, 1) := dk_6 (dk_at dksX6_isImage_0 1 rfl rfl)
theorem dX6_isImage_2 : decode cX6_isImage 2 = .ok (.iconst 5, 1) := dk_8 (dk_at dksX6_isImage_0 2 rfl rfl)
theorem dX6_isImage_3 : decode cX6_isImage 3 = .ok (.aload_n 0, 1) := dk_42 (dk_at dksX6_isImage_0 3 rfl rfl)
theorem dX6_isImage_4 : decode cX6_isImage 4 = .ok (.invokevirtual 401, 3) := dk_182 1 145 (dk_at dksX6_isImage_0 4 rfl rfl)
theorem dX6_isImage_7 : decode cX6_isImage 7 = .ok (.imul, 1) := dk_104 (dk_at dksX6_isImage_0 7 rfl rfl)
theorem dX6_isImage_8 : decode cX6_isImage 8 = .ok (.iadd, 1) := dk_96 (dk_at dksX6_isImage_0 8 rfl rfl)
theorem dX6_isImage_9 : decode cX6_isImage 9 = .ok (.if_icmp .ne 47, 3) := dk_160 0 47 (dk_at dksX6_isImage_0 9 rfl rfl)
theorem dX6_isImage_12 : decode cX6_isImage 12 = .ok (.aload_n 0, 1) := dk_42 (dk_at dksX6_isImage_0 12 rfl rfl)
theorem dX6_isImage_13 : decode cX6_isImage 13 = .ok (.getfield 7, 3) := dk_180 0 7 (dk_at dksX6_isImage_0 13 rfl rfl)
theorem dX6_isImage_16 : decode cX6_isImage 16 = .ok (.iload_n 1, 1) := dk_27 (dk_at dksX6_isImage_0 16 rfl rfl)
theorem dX6_isImage_17 : decode cX6_isImage 17 = .ok (.iconst 1, 1) := dk_4 (dk_at dksX6_isImage_0 17 rfl rfl)
theorem dX6_isImage_18 : decode cX6_isImage 18 = .ok (.isub, 1) := dk_100 (dk_at dksX6_isImage_0 18 rfl rfl)
theorem dX6_isImage_19 : decode cX6_isImage 19 = .ok (.iaload, 1) := dk_46 (dk_at dksX6_isImage_0 19 rfl rfl)
theorem dX6_isImage_20 : decode cX6_isImage 20 = .ok (.aload_n 0, 1) := dk_42 (dk_at dksX6_isImage_0 20 rfl rfl)
theorem dX6_isImage_21 : decode cX6_isImage 21 = .ok (.getfield 7, 3) := dk_180 0 7 (dk_at dksX6_isImage_0 21 rfl rfl)
theorem dX6_isImage_24 : decode cX6_isImage 24 = .ok (.iload_n 1, 1) := dk_27 (dk_at dksX6_isImage_1 0 rfl rfl)
theorem dX6_isImage_25 : decode cX6_isImage 25 = .ok (.iconst 1, 1) := dk_4 (dk_at dksX6_isImage_1 1 rfl rfl)
theorem dX6_isImage_26 : decode cX6_isImage 26 = .ok (.isub, 1) := dk_100 (dk_at dksX6_isImage_1 2 rfl rfl)
theorem dX6_isImage_27 : decode cX6_isImage 27 = .ok (.invokestatic 659, 3) := dk_184 2 147 (dk_at dksX6_isImage_1 3 rfl rfl)
theorem dX6_isImage_30 : decode cX6_isImage 30 = .ok (.if_icmp .ne 26, 3) := dk_160 0 26 (dk_at dksX6_isImage_1 6 rfl rfl)
theorem dX6_isImage_33 : decode cX6_isImage 33 = .ok (.sipush 256, 3) := dk_17 1 0 (dk_at dksX6_isImage_1 9 rfl rfl)
theorem dX6_isImage_36 : decode cX6_isImage 36 = .ok (.aload_n 0, 1) := dk_42 (dk_at dksX6_isImage_1 12 rfl rfl)
theorem dX6_isImage_37 : decode cX6_isImage 37 = .ok (.getfield 7, 3) := dk_180 0 7 (dk_at dksX6_isImage_1 13 rfl rfl)
theorem dX6_isImage_40 : decode cX6_isImage 40 = .ok (.iconst 0, 1) := dk_3 (dk_at dksX6_isImage_1 16 rfl rfl)
theorem dX6_isImage_41 : decode cX6_isImage 41 = .ok (.iaload, 1) := dk_46 (dk_at dksX6_isImage_1 17 rfl rfl)
theorem dX6_isImage_42 : decode cX6_isImage 42 = .ok (.imul, 1) := dk_104 (dk_at dksX6_isImage_1 18 rfl rfl)
theorem dX6_isImage_43 : decode cX6_isImage 43 = .ok (.aload_n 0, 1) := dk_42 (dk_at dksX6_isImage_1 19 rfl rfl)
theorem dX6_isImage_44 : decode cX6_isImage 44 = .ok (.getfield 7, 3) := dk_180 0 7 (dk_at dksX6_isImage_1 20 rfl rfl)
theorem dX6_isImage_47 : decode cX6_isImage 47 = .ok (.iconst 1, 1) := dk_4 (dk_at dksX6_isImage_1 23 rfl rfl)
theorem dX6_isImage_48 : decode cX6_isImage 48 = .ok (.iaload, 1) := dk_46 (dk_at dksX6_isImage_2 0 rfl rfl)
theorem dX6_isImage_49 : decode cX6_isImage 49 = .ok (.iadd, 1) := dk_96 (dk_at dksX6_isImage_2 1 rfl rfl)
theorem dX6_isImage_50 : decode cX6_isImage 50 = .ok (.sipush 999, 3) := dk_17 3 231 (dk_at dksX6_isImage_2 2 rfl rfl)
theorem dX6_isImage_53 : decode cX6_isImage 53 = .ok (.if_icmp .le 5, 3) := dk_164 0 5 (dk_at dksX6_isImage_2 5 rfl rfl)
theorem dX6_isImage_56 : decode cX6_isImage 56 = .ok (.iconst 0, 1) := dk_3 (dk_at dksX6_isImage_2 8 rfl rfl)
theorem dX6_isImage_57 : decode cX6_isImage 57 = .ok (.ireturn, 1) := dk_172 (dk_at dksX6_isImage_2 9 rfl rfl)
theorem dX6_isImage_58 : decode cX6_isImage 58 = .ok (.iconst 0, 1) := dk_3 (dk_at dksX6_isImage_2 10 rfl rfl)
theorem dX6_isImage_59 : decode cX6_isImage 59 = .ok (.istore_n 2, 1) := dk_61 (dk_at dksX6_isImage_2 11 rfl rfl)
theorem dX6_isImage_60 : decode cX6_isImage 60 = .ok (.iload_n 2, 1) := dk_28 (dk_at dksX6_isImage_2 12 rfl rfl)
theorem dX6_isImage_61 : decode cX6_isImage 61 = .ok (.aload_n 0, 1) := dk_42 (dk_at dksX6_isImage_2 13 rfl rfl)
theorem dX6_isImage_62 : decode cX6_isImage 62 = .ok (.invokevirtual 401, 3) := dk_182 1 145 (dk_at dksX6_isImage_2 14 rfl rfl)
theorem dX6_isImage_65 : decode cX6_isImage 65 = .ok (.if_icmp .ge 36, 3) := dk_162 0 36 (dk_at dksX6_isImage_2 17 rfl rfl)
theorem dX6_isImage_68 : decode cX6_isImage 68 = .ok (.aload_n 0, 1) := dk_42 (dk_at dksX6_isImage_2 20 rfl rfl)
theorem dX6_isImage_69 : decode cX6_isImage 69 = .ok (.getfield 7, 3) := dk_180 0 7 (dk_at dksX6_isImage_2 21 rfl rfl)
theorem dX6_isImage_72 : decode cX6_isImage 72 = .ok (.iconst 2, 1) := dk_5 (dk_at dksX6_isImage_3 0 rfl rfl)
theorem dX6_isImage_73 : decode cX6_isImage 73 = .ok (.iconst 5, 1) := dk_8 (dk_at dksX6_isImage_3 1 rfl rfl)
theorem dX6_isImage_74 : decode cX6_isImage 74 = .ok (.iload_n 2, 1) := dk_28 (dk_at dksX6_isImage_3 2 rfl rfl)
theorem dX6_isImage_75 : decode cX6_isImage 75 = .ok (.imul, 1) := dk_104 (dk_at dksX6_isImage_3 3 rfl rfl)
theorem dX6_isImage_76 : decode cX6_isImage 76 = .ok (.iadd, 1) := dk_96 (dk_at dksX6_isImage_3 4 rfl rfl)
theorem dX6_isImage_77 : decode cX6_isImage 77 = .ok (.iaload, 1) := dk_46 (dk_at dksX6_isImage_3 5 rfl rfl)
theorem dX6_isImage_78 : decode cX6_isImage 78 = .ok (.aload_n 0, 1) := dk_42 (dk_at dksX6_isImage_3 6 rfl rfl)
theorem dX6_isImage_79 : decode cX6_isImage 79 = .ok (.invokevirtual 401, 3) := dk_182 1 145 (dk_at dksX6_isImage_3 7 rfl rfl)
theorem dX6_isImage_82 : decode cX6_isImage 82 = .ok (.if_icmp .gt 11, 3) := dk_163 0 11 (dk_at dksX6_isImage_3 10 rfl rfl)
theorem dX6_isImage_85 : decode cX6_isImage 85 = .ok (.aload_n 0, 1) := dk_42 (dk_at dksX6_isImage_3 13 rfl rfl)
theorem dX6_isImage_86 : decode cX6_isImage 86 = .ok (.iload_n 2, 1) := dk_28 (dk_at dksX6_isImage_3 14 rfl rfl)
theorem dX6_isImage_87 : decode cX6_isImage 87 = .ok (.invokevirtual 663, 3) := dk_182 2 151 (dk_at dksX6_isImage_3 15 rfl rfl)
theorem dX6_isImage_90 : decode cX6_isImage 90 = .ok (.ifCond .ne 5, 3) := dk_154 0 5 (dk_at dksX6_isImage_3 18 rfl rfl)
theorem dX6_isImage_93 : decode cX6_isImage 93 = .ok (.iconst 0, 1) := dk_3 (dk_at dksX6_isImage_3 21 rfl rfl)
theorem dX6_isImage_94 : decode cX6_isImage 94 = .ok (.ireturn, 1) := dk_172 (dk_at dksX6_isImage_3 22 rfl rfl)
theorem dX6_isImage_95 : decode cX6_isImage 95 = .ok (.iinc 2 1, 3) := dk_132 2 1 (dk_at dksX6_isImage_4 0 rfl rfl)
theorem dX6_isImage_98 : decode cX6_isImage 98 = .ok (.goto (-38), 3) := dk_167 255 218 (dk_at dksX6_isImage_4 3 rfl rfl)
theorem dX6_isImage_101 : decode cX6_isImage 101 = .ok (.iconst 0, 1) := dk_3 (dk_at dksX6_isImage_4 6 rfl rfl)
theorem dX6_isImage_102 : decode cX6_isImage 102 = .ok (.istore_n 2, 1) := dk_61 (dk_at dksX6_isImage_4 7 rfl rfl)
theorem dX6_isImage_103 : decode cX6_isImage 103 = .ok (.iload_n 2, 1) := dk_28 (dk_at dksX6_isImage_4 8 rfl rfl)
theorem dX6_isImage_104 : decode cX6_isImage 104 = .ok (.aload_n 0, 1) := dk_42 (dk_at dksX6_isImage_4 9 rfl rfl)
theorem dX6_isImage_105 : decode cX6_isImage 105 = .ok (.invokevirtual 401, 3) := dk_182 1 145 (dk_at dksX6_isImage_4 10 rfl rfl)
theorem dX6_isImage_108 : decode cX6_isImage 108 = .ok (.if_icmp .ge 19, 3) := dk_162 0 19 (dk_at dksX6_isImage_4 13 rfl rfl)
theorem dX6_isImage_111 : decode cX6_isImage 111 = .ok (.aload_n 0, 1) := dk_42 (dk_at dksX6_isImage_4 16 rfl rfl)
theorem dX6_isImage_112 : decode cX6_isImage 112 = .ok (.iload_n 2, 1) := dk_28 (dk_at dksX6_isImage_4 17 rfl rfl)
theorem dX6_isImage_113 : decode cX6_isImage 113 = .ok (.invokevirtual 666, 3) := dk_182 2 154 (dk_at dksX6_isImage_4 18 rfl rfl)
theorem dX6_isImage_116 : decode cX6_isImage 116 = .ok (.ifCond .eq 5, 3) := dk_153 0 5 (dk_at dksX6_isImage_4 21 rfl rfl)
theorem dX6_isImage_119 : decode cX6_isImage 119 = .ok (.iconst 0, 1) := dk_3 (dk_at dksX6_isImage_5 0 rfl rfl)
theorem dX6_isImage_120 : decode cX6_isImage 120 = .ok (.ireturn, 1) := dk_172 (dk_at dksX6_isImage_5 1 rfl rfl)
theorem dX6_isImage_121 : decode cX6_isImage 121 = .ok (.iinc 2 1, 3) := dk_132 2 1 (dk_at dksX6_isImage_5 2 rfl rfl)
theorem dX6_isImage_124 : decode cX6_isImage 124 = .ok (.goto (-21), 3) := dk_167 255 235 (dk_at dksX6_isImage_5 5 rfl rfl)
theorem dX6_isImage_127 : decode cX6_isImage 127 = .ok (.iconst 1, 1) := dk_4 (dk_at dksX6_isImage_5 8 rfl rfl)
theorem dX6_isImage_128 : decode cX6_isImage 128 = .ok (.ireturn, 1) := dk_172 (dk_at dksX6_isImage_5 9 rfl rfl)
abbrev cX6_isPersonTold : ByteArray := prog_22_method_127_code
def yX6_isPersonTold : MethodName := ⟨RX6, "isPersonTold", "(I)Z"⟩
def dkwX6_isPersonTold_3 : List UInt8 := [42, 180, 0, 7, 28, 7, 96, 46, 7, 162, 0, 7, 4, 167, 0, 4, 3, 172]
abbrev dktX6_isPersonTold_3 : List UInt8 := dkwX6_isPersonTold_3 ++ []
def dkwX6_isPersonTold_2 : List UInt8 := [180, 0, 7, 28, 5, 96, 46, 126, 154, 0, 32, 42, 180, 0, 7, 28, 6, 96, 46, 16, 9, 163, 0, 19]
abbrev dktX6_isPersonTold_2 : List UInt8 := dkwX6_isPersonTold_2 ++ dktX6_isPersonTold_3
def dkwX6_isPersonTold_1 : List UInt8 := [162, 0, 64, 42, 180, 0, 7, 28, 5, 96, 46, 29, 162, 0, 52, 42, 180, 0, 7, 28, 4, 96, 46, 42]
abbrev dktX6_isPersonTold_1 : List UInt8 := dkwX6_isPersonTold_1 ++ dktX6_isPersonTold_2
def dkwX6_isPersonTold_0 : List UInt8 := [5, 8, 27, 104, 96, 61, 4, 42, 182, 1, 142, 120, 62, 42, 180, 0, 7, 28, 4, 96, 46, 29]
abbrev dktX6_isPersonTold_0 : List UInt8 := dkwX6_isPersonTold_0 ++ dktX6_isPersonTold_1
theorem dksX6_isPersonTold_0 : cX6_isPersonTold.data.toList.drop 0 = dktX6_isPersonTold_0 := by decide +kernel
theorem dksX6_isPersonTold_1 : cX6_isPersonTold.data.toList.drop 22 = dktX6_isPersonTold_1 := dk_seg dksX6_isPersonTold_0 22 rfl rfl
theorem dksX6_isPersonTold_2 : cX6_isPersonTold.data.toList.drop 46 = dktX6_isPersonTold_2 := dk_seg dksX6_isPersonTold_1 24 rfl rfl
theorem dksX6_isPersonTold_3 : cX6_isPersonTold.data.toList.drop 70 = dktX6_isPersonTold_3 := dk_seg dksX6_isPersonTold_2 24 rfl rfl
theorem dX6_isPersonTold_0 : decode cX6_isPersonTold 0 = .ok (.iconst 2, 1) := dk_5 (dk_at dksX6_isPersonTold_0 0 rfl rfl)
theorem dX6_isPersonTold_1 : decode cX6_isPersonTold 1 = .ok (.iconst 5, 1) := dk_8 (dk_at dksX6_isPersonTold_0 1 rfl rfl)
theorem dX6_isPersonTold_2 : decode cX6_isPersonTold 2 = .ok (.iload_n 1, 1) := dk_27 (dk_at dksX6_isPersonTold_0 2 rfl rfl)
theorem dX6_isPersonTold_3 : decode cX6_isPersonTold 3 = .ok (.imul, 1) := dk_104 (dk_at dksX6_isPersonTold_0 3 rfl rfl)
theorem dX6_isPersonTold_4 : decode cX6_isPersonTold 4 = .ok (.iadd, 1) := dk_96 (dk_at dksX6_isPersonTold_0 4 rfl rfl)
theorem dX6_isPersonTold_5 : decode cX6_isPersonTold 5 = .ok (.istore_n 2, 1) := dk_61 (dk_at dksX6_isPersonTold_0 5 rfl rfl)
theorem dX6_isPersonTold_6 : decode cX6_isPersonTold 6 = .ok (.iconst 1, 1) := dk_4 (dk_at dksX6_isPersonTold_0 6 rfl rfl)
theorem dX6_isPersonTold_7 : decode cX6_isPersonTold 7 = .ok (.aload_n 0, 1) := dk_42 (dk_at dksX6_isPersonTold_0 7 rfl rfl)
theorem dX6_isPersonTold_8 : decode cX6_isPersonTold 8 = .ok (.invokevirtual 398, 3) := dk_182 1 142 (dk_at dksX6_isPersonTold_0 8 rfl rfl)
theorem dX6_isPersonTold_11 : decode cX6_isPersonTold 11 = .ok (.ishl, 1) := dk_120 (dk_at dksX6_isPersonTold_0 11 rfl rfl)
theorem dX6_isPersonTold_12 : decode cX6_isPersonTold 12 = .ok (.istore_n 3, 1) := dk_62 (dk_at dksX6_isPersonTold_0 12 rfl rfl)
theorem dX6_isPersonTold_13 : decode cX6_isPersonTold 13 = .ok (.aload_n 0, 1) := dk_42 (dk_at dksX6_isPersonTold_0 13 rfl rfl)
theorem dX6_isPersonTold_14 : decode cX6_isPersonTold 14 = .ok (.getfield 7, 3) := dk_180 0 7 (dk_at dksX6_isPersonTold_0 14 rfl rfl)
theorem dX6_isPersonTold_17 : decode cX6_isPersonTold 17 = .ok (.iload_n 2, 1) := dk_28 (dk_at dksX6_isPersonTold_0 17 rfl rfl)
theorem dX6_isPersonTold_18 : decode cX6_isPersonTold 18 = .ok (.iconst 1, 1) := dk_4 (dk_at dksX6_isPersonTold_0 18 rfl rfl)
theorem dX6_isPersonTold_19 : decode cX6_isPersonTold 19 = .ok (.iadd, 1) := dk_96 (dk_at dksX6_isPersonTold_0 19 rfl rfl)
theorem dX6_isPersonTold_20 : decode cX6_isPersonTold 20 = .ok (.iaload, 1) := dk_46 (dk_at dksX6_isPersonTold_0 20 rfl rfl)
theorem dX6_isPersonTold_21 : decode cX6_isPersonTold 21 = .ok (.iload_n 3, 1) := dk_29 (dk_at dksX6_isPersonTold_0 21 rfl rfl)
theorem dX6_isPersonTold_22 : decode cX6_isPersonTold 22 = .ok (.if_icmp .ge 64, 3) := dk_162 0 64 (dk_at dksX6_isPersonTold_1 0 rfl rfl)
theorem dX6_isPersonTold_25 : decode cX6_isPersonTold 25 = .ok (.aload_n 0, 1) := dk_42 (dk_at dksX6_isPersonTold_1 3 rfl rfl)
theorem dX6_isPersonTold_26 : decode cX6_isPersonTold 26 = .ok (.getfield 7, 3) := dk_180 0 7 (dk_at dksX6_isPersonTold_1 4 rfl rfl)
theorem dX6_isPersonTold_29 : decode cX6_isPersonTold 29 = .ok (.iload_n 2, 1) := dk_28 (dk_at dksX6_isPersonTold_1 7 rfl rfl)
theorem dX6_isPersonTold_30 : decode cX6_isPersonTold 30 = .ok (.iconst 2, 1) := dk_5 (dk_at dksX6_isPersonTold_1 8 rfl rfl)
theorem dX6_isPersonTold_31 : decode cX6_isPersonTold 31 = .ok (.iadd, 1) := dk_96 (dk_at dksX6_isPersonTold_1 9 rfl rfl)
theorem dX6_isPersonTold_32 : decode cX6_isPersonTold 32 = .ok (.iaload, 1) := dk_46 (dk_at dksX6_isPersonTold_1 10 rfl rfl)
theorem dX6_isPersonTold_33 : decode cX6_isPersonTold 33 = .ok (.iload_n 3, 1) := dk_29 (dk_at dksX6_isPersonTold_1 11 rfl rfl)
theorem dX6_isPersonTold_34 : decode cX6_isPersonTold 34 = .ok (.if_icmp .ge 52, 3) := dk_162 0 52 (dk_at dksX6_isPersonTold_1 12 rfl rfl)
theorem dX6_isPersonTold_37 : decode cX6_isPersonTold 37 = .ok (.aload_n 0, 1) := dk_42 (dk_at dksX6_isPersonTold_1 15 rfl rfl)
theorem dX6_isPersonTold_38 : decode cX6_isPersonTold 38 = .ok (.getfield 7, 3) := dk_180 0 7 (dk_at dksX6_isPersonTold_1 16 rfl rfl)
theorem dX6_isPersonTold_41 : decode cX6_isPersonTold 41 = .ok (.iload_n 2, 1) := dk_28 (dk_at dksX6_isPersonTold_1 19 rfl rfl)
theorem dX6_isPersonTold_42 : decode cX6_isPersonTold 42 = .ok (.iconst 1, 1) := dk_4 (dk_at dksX6_isPersonTold_1 20 rfl rfl)
theorem dX6_isPersonTold_43 : decode cX6_isPersonTold 43 = .ok (.iadd, 1) := dk_96 (dk_at dksX6_isPersonTold_1 21 rfl rfl)
theorem dX6_isPersonTold_44 : decode cX6_isPersonTold 44 = .ok (.iaload, 1) := dk_46 (dk_at dksX6_isPersonTold_1 22 rfl rfl)
theorem dX6_isPersonTold_45 : decode cX6_isPersonTold 45 = .ok (.aload_n 0, 1) := dk_42 (dk_at dksX6_isPersonTold_1 23 rfl rfl)
theorem dX6_isPersonTold_46 : decode cX6_isPersonTold 46 = .ok (.getfield 7, 3) := dk_180 0 7 (dk_at dksX6_isPersonTold_2 0 rfl rfl)
theorem dX6_isPersonTold_49 : decode cX6_isPersonTold 49 = .ok (.iload_n 2, 1) := dk_28 (dk_at dksX6_isPersonTold_2 3 rfl rfl)
theorem dX6_isPersonTold_50 : decode cX6_isPersonTold 50 = .ok (.iconst 2, 1) := dk_5 (dk_at dksX6_isPersonTold_2 4 rfl rfl)
theorem dX6_isPersonTold_51 : decode cX6_isPersonTold 51 = .ok (.iadd, 1) := dk_96 (dk_at dksX6_isPersonTold_2 5 rfl rfl)
theorem dX6_isPersonTold_52 : decode cX6_isPersonTold 52 = .ok (.iaload, 1) := dk_46 (dk_at dksX6_isPersonTold_2 6 rfl rfl)
theorem dX6_isPersonTold_53 : decode cX6_isPersonTold 53 = .ok (.iand, 1) := dk_126 (dk_at dksX6_isPersonTold_2 7 rfl rfl)
theorem dX6_isPersonTold_54 : decode cX6_isPersonTold 54 = .ok (.ifCond .ne 32, 3) := dk_154 0 32 (dk_at dksX6_isPersonTold_2 8 rfl rfl)
theorem dX6_isPersonTold_57 : decode cX6_isPersonTold 57 = .ok (.aload_n 0, 1) := dk_42 (dk_at dksX6_isPersonTold_2 11 rfl rfl)
theorem dX6_isPersonTold_58 : decode cX6_isPersonTold 58 = .ok (.getfield 7, 3) := dk_180 0 7 (dk_at dksX6_isPersonTold_2 12 rfl rfl)
theorem dX6_isPersonTold_61 : decode cX6_isPersonTold 61 = .ok (.iload_n 2, 1) := dk_28 (dk_at dksX6_isPersonTold_2 15 rfl rfl)
theorem dX6_isPersonTold_62 : decode cX6_isPersonTold 62 = .ok (.iconst 3, 1) := dk_6 (dk_at dksX6_isPersonTold_2 16 rfl rfl)
theorem dX6_isPersonTold_63 : decode cX6_isPersonTold 63 = .ok (.iadd, 1) := dk_96 (dk_at dksX6_isPersonTold_2 17 rfl rfl)
theorem dX6_isPersonTold_64 : decode cX6_isPersonTold 64 = .ok (.iaload, 1) := dk_46 (dk_at dksX6_isPersonTold_2 18 rfl rfl)
theorem dX6_isPersonTold_65 : decode cX6_isPersonTold 65 = .ok (.bipush 9, 2) := dk_16 9 (dk_at dksX6_isPersonTold_2 19 rfl rfl)
theorem dX6_isPersonTold_67 : decode cX6_isPersonTold 67 = .ok (.if_icmp .gt 19, 3) := dk_163 0 19 (dk_at dksX6_isPersonTold_2 21 rfl rfl)
theorem dX6_isPersonTold_70 : decode cX6_isPersonTold 70 = .ok (.aload_n 0, 1) := dk_42 (dk_at dksX6_isPersonTold_3 0 rfl rfl)
theorem dX6_isPersonTold_71 : decode cX6_isPersonTold 71 = .ok (.getfield 7, 3) := dk_180 0 7 (dk_at dksX6_isPersonTold_3 1 rfl rfl)
theorem dX6_isPersonTold_74 : decode cX6_isPersonTold 74 = .ok (.iload_n 2, 1) := dk_28 (dk_at dksX6_isPersonTold_3 4 rfl rfl)
theorem dX6_isPersonTold_75 : decode cX6_isPersonTold 75 = .ok (.iconst 4, 1) := dk_7 (dk_at dksX6_isPersonTold_3 5 rfl rfl)
theorem dX6_isPersonTold_76 : decode cX6_isPersonTold 76 = .ok (.iadd, 1) := dk_96 (dk_at dksX6_isPersonTold_3 6 rfl rfl)
theorem dX6_isPersonTold_77 : decode cX6_isPersonTold 77 = .ok (.iaload, 1) := dk_46 (dk_at dksX6_isPersonTold_3 7 rfl rfl)
theorem dX6_isPersonTold_78 : decode cX6_isPersonTold 78 = .ok (.iconst 4, 1) := dk_7 (dk_at dksX6_isPersonTold_3 8 rfl rfl)
theorem dX6_isPersonTold_79 : decode cX6_isPersonTold 79 = .ok (.if_icmp .ge 7, 3) := dk_162 0 7 (dk_at dksX6_isPersonTold_3 9 rfl rfl)
theorem dX6_isPersonTold_82 : decode cX6_isPersonTold 82 = .ok (.iconst 1, 1) := dk_4 (dk_at dksX6_isPersonTold_3 12 rfl rfl)
theorem dX6_isPersonTold_83 : decode cX6_isPersonTold 83 = .ok (.goto 4, 3) := dk_167 0 4 (dk_at dksX6_isPersonTold_3 13 rfl rfl)
theorem dX6_isPersonTold_86 : decode cX6_isPersonTold 86 = .ok (.iconst 0, 1) := dk_3 (dk_at dksX6_isPersonTold_3 16 rfl rfl)
theorem dX6_isPersonTold_87 : decode cX6_isPersonTold 87 = .ok (.ireturn, 1) := dk_172 (dk_at dksX6_isPersonTold_3 17 rfl rfl)
abbrev cX6_isRing : ByteArray := prog_22_method_126_code
def yX6_isRing : MethodName := ⟨RX6, "isRing", "(I)Z"⟩
def dkwX6_isRing_2 : List UInt8 := [167, 255, 224, 28, 27, 160, 0, 7, 4, 167, 0, 4, 3, 172]
abbrev dktX6_isRing_2 : List UInt8 := dkwX6_isRing_2 ++ []
def dkwX6_isRing_1 : List UInt8 := [159, 0, 27, 28, 27, 159, 0, 22, 42, 180, 0, 7, 5, 8, 28, 104, 96, 46, 4, 100, 61, 132, 3, 1]
abbrev dktX6_isRing_1 : List UInt8 := dkwX6_isRing_1 ++ dktX6_isRing_2
def dkwX6_isRing_0 : List UInt8 := [42, 180, 0, 7, 5, 8, 27, 104, 96, 46, 4, 100, 61, 3, 62, 29, 16, 8, 162, 0, 32, 28, 2]
abbrev dktX6_isRing_0 : List UInt8 := dkwX6_isRing_0 ++ dktX6_isRing_1
theorem dksX6_isRing_0 : cX6_isRing.data.toList.drop 0 = dktX6_isRing_0 := by decide +kernel
theorem dksX6_isRing_1 : cX6_isRing.data.toList.drop 23 = dktX6_isRing_1 := dk_seg dksX6_isRing_0 23 rfl rfl
theorem dksX6_isRing_2 : cX6_isRing.data.toList.drop 47 = dktX6_isRing_2 := dk_seg dksX6_isRing_1 24 rfl rfl
theorem dX6_isRing_0 : decode cX6_isRing 0 = .ok (.aload_n 0, 1) := dk_42 (dk_at dksX6_isRing_0 0 rfl rfl)
theorem dX6_isRing_1 : decode cX6_isRing 1 = .ok (.getfield 7, 3) := dk_180 0 7 (dk_at dksX6_isRing_0 1 rfl rfl)
theorem dX6_isRing_4 : decode cX6_isRing 4 = .ok (.iconst 2, 1) := dk_5 (dk_at dksX6_isRing_0 4 rfl rfl)
theorem dX6_isRing_5 : decode cX6_isRing 5 = .ok (.iconst 5, 1) := dk_8 (dk_at dksX6_isRing_0 5 rfl rfl)
theorem dX6_isRing_6 : decode cX6_isRing 6 = .ok (.iload_n 1, 1) := dk_27 (dk_at dksX6_isRing_0 6 rfl rfl)
theorem dX6_isRing_7 : decode cX6_isRing 7 = .ok (.imul, 1) := dk_104 (dk_at dksX6_isRing_0 7 rfl rfl)
theorem dX6_isRing_8 : decode cX6_isRing 8 = .ok (.iadd, 1) := dk_96 (dk_at dksX6_isRing_0 8 rfl rfl)
theorem dX6_isRing_9 : decode cX6_isRing 9 = .ok (.iaload, 1) := dk_46 (dk_at dksX6_isRing_0 9 rfl rfl)
theorem dX6_isRing_10 : decode cX6_isRing 10 = .ok (.iconst 1, 1) := dk_4 (dk_at dksX6_isRing_0 10 rfl rfl)
theorem dX6_isRing_11 : decode cX6_isRing 11 = .ok (.isub, 1) := dk_100 (dk_at dksX6_isRing_0 11 rfl rfl)
theorem dX6_isRing_12 : decode cX6_isRing 12 = .ok (.istore_n 2, 1) := dk_61 (dk_at dksX6_isRing_0 12 rfl rfl)
theorem dX6_isRing_13 : decode cX6_isRing 13 = .ok (.iconst 0, 1) := dk_3 (dk_at dksX6_isRing_0 13 rfl rfl)
theorem dX6_isRing_14 : decode cX6_isRing 14 = .ok (.istore_n 3, 1) := dk_62 (dk_at dksX6_isRing_0 14 rfl rfl)
theorem dX6_isRing_15 : decode cX6_isRing 15 = .ok (.iload_n 3, 1) := dk_29 (dk_at dksX6_isRing_0 15 rfl rfl)
theorem dX6_isRing_16 : decode cX6_isRing 16 = .ok (.bipush 8, 2) := dk_16 8 (dk_at dksX6_isRing_0 16 rfl rfl)
theorem dX6_isRing_18 : decode cX6_isRing 18 = .ok (.if_icmp .ge 32, 3) := dk_162 0 32 (dk_at dksX6_isRing_0 18 rfl rfl)
theorem dX6_isRing_21 : decode cX6_isRing 21 = .ok (.iload_n 2, 1) := dk_28 (dk_at dksX6_isRing_0 21 rfl rfl)
theorem dX6_isRing_22 : decode cX6_isRing 22 = .ok (.iconst (-1), 1) := dk_2 (dk_at dksX6_isRing_0 22 rfl rfl)
theorem dX6_isRing_23 : decode cX6_isRing 23 = .ok (.if_icmp .eq 27, 3) := dk_159 0 27 (dk_at dksX6_isRing_1 0 rfl rfl)
theorem dX6_isRing_26 : decode cX6_isRing 26 = .ok (.iload_n 2, 1) := dk_28 (dk_at dksX6_isRing_1 3 rfl rfl)
theorem dX6_isRing_27 : decode cX6_isRing 27 = .ok (.iload_n 1, 1) := dk_27 (dk_at dksX6_isRing_1 4 rfl rfl)
theorem dX6_isRing_28 : decode cX6_isRing 28 = .ok (.if_icmp .eq 22, 3) := dk_159 0 22 (dk_at dksX6_isRing_1 5 rfl rfl)
theorem dX6_isRing_31 : decode cX6_isRing 31 = .ok (.aload_n 0, 1) := dk_42 (dk_at dksX6_isRing_1 8 rfl rfl)
theorem dX6_isRing_32 : decode cX6_isRing 32 = .ok (.getfield 7, 3) := dk_180 0 7 (dk_at dksX6_isRing_1 9 rfl rfl)
theorem dX6_isRing_35 : decode cX6_isRing 35 = .ok (.iconst 2, 1) := dk_5 (dk_at dksX6_isRing_1 12 rfl rfl)
theorem dX6_isRing_36 : decode cX6_isRing 36 = .ok (.iconst 5, 1) := dk_8 (dk_at dksX6_isRing_1 13 rfl rfl)
theorem dX6_isRing_37 : decode cX6_isRing 37 = .ok (.iload_n 2, 1) := dk_28 (dk_at dksX6_isRing_1 14 rfl rfl)
theorem dX6_isRing_38 : decode cX6_isRing 38 = .ok (.imul, 1) := dk_104 (dk_at dksX6_isRing_1 15 rfl rfl)
theorem dX6_isRing_39 : decode cX6_isRing 39 = .ok (.iadd, 1) := dk_96 (dk_at dksX6_isRing_1 16 rfl rfl)
theorem dX6_isRing_40 : decode cX6_isRing 40 = .ok (.iaload, 1) := dk_46 (dk_at dksX6_isRing_1 17 rfl rfl)
theorem dX6_isRing_41 : decode cX6_isRing 41 = .ok (.iconst 1, 1) := dk_4 (dk_at dksX6_isRing_1 18 rfl rfl)
theorem dX6_isRing_42 : decode cX6_isRing 42 = .ok (.isub, 1) := dk_100 (dk_at dksX6_isRing_1 19 rfl rfl)
theorem dX6_isRing_43 : decode cX6_isRing 43 = .ok (.istore_n 2, 1) := dk_61 (dk_at dksX6_isRing_1 20 rfl rfl)
theorem dX6_isRing_44 : decode cX6_isRing 44 = .ok (.iinc 3 1, 3) := dk_132 3 1 (dk_at dksX6_isRing_1 21 rfl rfl)
theorem dX6_isRing_47 : decode cX6_isRing 47 = .ok (.goto (-32), 3) := dk_167 255 224 (dk_at dksX6_isRing_2 0 rfl rfl)
theorem dX6_isRing_50 : decode cX6_isRing 50 = .ok (.iload_n 2, 1) := dk_28 (dk_at dksX6_isRing_2 3 rfl rfl)
theorem dX6_isRing_51 : decode cX6_isRing 51 = .ok (.iload_n 1, 1) := dk_27 (dk_at dksX6_isRing_2 4 rfl rfl)
theorem dX6_isRing_52 : decode cX6_isRing 52 = .ok (.if_icmp .ne 7, 3) := dk_160 0 7 (dk_at dksX6_isRing_2 5 rfl rfl)
theorem dX6_isRing_55 : decode cX6_isRing 55 = .ok (.iconst 1, 1) := dk_4 (dk_at dksX6_isRing_2 8 rfl rfl)
theorem dX6_isRing_56 : decode cX6_isRing 56 = .ok (.goto 4, 3) := dk_167 0 4 (dk_at dksX6_isRing_2 9 rfl rfl)
theorem dX6_isRing_59 : decode cX6_isRing 59 = .ok (.iconst 0, 1) := dk_3 (dk_at dksX6_isRing_2 12 rfl rfl)
theorem dX6_isRing_60 : decode cX6_isRing 60 = .ok (.ireturn, 1) := dk_172 (dk_at dksX6_isRing_2 13 rfl rfl)
abbrev cX6_status : ByteArray := prog_22_method_130_code
def yX6_status : MethodName := ⟨RX6, "status", "(I)I"⟩
def dkwX6_status_0 : List UInt8 := [27, 133, 9, 20, 1, 237, 184, 1, 41, 153, 0, 12, 42, 180, 0, 17, 27, 46, 167, 0, 4, 2, 172]
abbrev dktX6_status_0 : List UInt8 := dkwX6_status_0 ++ []
theorem dksX6_status_0 : cX6_status.data.toList.drop 0 = dktX6_status_0 := by decide +kernel
theorem dX6_status_0 : decode cX6_status 0 = .ok (.iload_n 1, 1) := dk_27 (dk_at dksX6_status_0 0 rfl rfl)
theorem dX6_status_1 : decode cX6_status 1 = .ok (.i2l, 1) := dk_133 (dk_at dksX6_status_0 1 rfl rfl)
theorem dX6_status_2 : decode cX6_status 2 = .ok (.lconst 0, 1) := dk_9 (dk_at dksX6_status_0 2 rfl rfl)
theorem dX6_status_3 : decode cX6_status 3 = .ok (.ldc2_w 493, 3) := dk_20 1 237 (dk_at dksX6_status_0 3 rfl rfl)
theorem dX6_status_6 : decode cX6_status 6 = .ok (.invokestatic 297, 3) := dk_184 1 41 (dk_at dksX6_status_0 6 rfl rfl)
theorem dX6_status_9 : decode cX6_status 9 = .ok (.ifCond .eq 12, 3) := dk_153 0 12 (dk_at dksX6_status_0 9 rfl rfl)
theorem dX6_status_12 : decode cX6_status 12 = .ok (.aload_n 0, 1) := dk_42 (dk_at dksX6_status_0 12 rfl rfl)
theorem dX6_status_13 : decode cX6_status 13 = .ok (.getfield 17, 3) := dk_180 0 17 (dk_at dksX6_status_0 13 rfl rfl)
theorem dX6_status_16 : decode cX6_status 16 = .ok (.iload_n 1, 1) := dk_27 (dk_at dksX6_status_0 16 rfl rfl)
theorem dX6_status_17 : decode cX6_status 17 = .ok (.iaload, 1) := dk_46 (dk_at dksX6_status_0 17 rfl rfl)
theorem dX6_status_18 : decode cX6_status 18 = .ok (.goto 4, 3) := dk_167 0 4 (dk_at dksX6_status_0 18 rfl rfl)
theorem dX6_status_21 : decode cX6_status 21 = .ok (.iconst (-1), 1) := dk_2 (dk_at dksX6_status_0 21 rfl rfl)
theorem dX6_status_22 : decode cX6_status 22 = .ok (.ireturn, 1) := dk_172 (dk_at dksX6_status_0 22 rfl rfl)
theorem q157 : (Jvm.Cond.initialized "PupilsPupilModel") ∈ lw_all := lw_g (lw_at lw_m1 13 rfl) rfl
theorem q865 : (Jvm.Cond.selects "PupilsPupilModel" ({ cls := "java/lang/Object", name := "getClass", desc := "()Ljava/lang/Class;" } : Jvm.MethodName) ({ cls := "java/lang/Object", name := "getClass", desc := "()Ljava/lang/Class;" } : Jvm.MethodName)) ∈ lw_all := lw_g (lw_at lw_m4 1 rfl) rfl
theorem q1619 : (Jvm.Cond.instantiable "PupilsPupilModel" (105 : Nat)) ∈ lw_all := lw_g (lw_at lw_m7 35 rfl) rfl
theorem q1621 : (Jvm.Cond.instanceMethod ({ cls := "PupilsPupilModel", name := "<init>", desc := "()V" } : Jvm.MethodName)) ∈ lw_all := lw_g (lw_at lw_m7 37 rfl) rfl
theorem q1622 : (Jvm.Cond.code ({ cls := "PupilsPupilModel", name := "<init>", desc := "()V" } : Jvm.MethodName) prog_22_method_1_code (1 : Nat) (Option.none : Option Jvm.ClassFile.FieldType)) ∈ lw_all := lw_g (lw_at lw_m7 38 rfl) rfl
theorem q1623 : (Jvm.Cond.methodLink "PupilsPupilModel" (1 : Nat) ({ cls := "java/lang/Object", name := "<init>", desc := "()V" } : Jvm.MethodName)) ∈ lw_all := lw_g (lw_at lw_m7 39 rfl) rfl
theorem q1624 : (Jvm.Cond.fieldLink "PupilsPupilModel" (7 : Nat) "PupilsPupilModel" "tape" "[I") ∈ lw_all := lw_g (lw_at lw_m7 40 rfl) rfl
theorem q1625 : (Jvm.Cond.fieldLink "PupilsPupilModel" (254 : Nat) "PupilsPupilModel" "taped" "I") ∈ lw_all := lw_g (lw_at lw_m7 41 rfl) rfl
theorem q1626 : (Jvm.Cond.fieldLink "PupilsPupilModel" (263 : Nat) "PupilsPupilModel" "at" "I") ∈ lw_all := lw_g (lw_at lw_m7 42 rfl) rfl
theorem q1627 : (Jvm.Cond.fieldLink "PupilsPupilModel" (266 : Nat) "PupilsPupilModel" "end" "I") ∈ lw_all := lw_g (lw_at lw_m7 43 rfl) rfl
theorem q1628 : (Jvm.Cond.fieldLink "PupilsPupilModel" (277 : Nat) "PupilsPupilModel" "ended" "I") ∈ lw_all := lw_g (lw_at lw_m7 44 rfl) rfl
theorem q1629 : (Jvm.Cond.fieldLink "PupilsPupilModel" (257 : Nat) "PupilsPupilModel" "bad" "I") ∈ lw_all := lw_g (lw_at lw_m7 45 rfl) rfl
theorem q1630 : (Jvm.Cond.fieldLink "PupilsPupilModel" (260 : Nat) "PupilsPupilModel" "badPlace" "I") ∈ lw_all := lw_g (lw_at lw_m7 46 rfl) rfl
theorem q1631 : (Jvm.Cond.fieldLink "PupilsPupilModel" (386 : Nat) "PupilsPupilModel" "fault" "I") ∈ lw_all := lw_g (lw_at lw_m7 47 rfl) rfl
theorem q1632 : (Jvm.Cond.fieldLink "PupilsPupilModel" (13 : Nat) "PupilsPupilModel" "faultPlace" "I") ∈ lw_all := lw_g (lw_at lw_m7 48 rfl) rfl
theorem q1633 : (Jvm.Cond.fieldLink "PupilsPupilModel" (17 : Nat) "PupilsPupilModel" "refused" "[I") ∈ lw_all := lw_g (lw_at lw_m7 49 rfl) rfl
theorem q1634 : (Jvm.Cond.fieldLink "PupilsPupilModel" (20 : Nat) "PupilsPupilModel" "factWord" "[C") ∈ lw_all := lw_g (lw_at lw_m7 50 rfl) rfl
theorem q1635 : (Jvm.Cond.fieldLink "PupilsPupilModel" (24 : Nat) "PupilsPupilModel" "worthWord" "[C") ∈ lw_all := lw_g (lw_at lw_m7 51 rfl) rfl
theorem q1636 : (Jvm.Cond.fieldLink "PupilsPupilModel" (27 : Nat) "PupilsPupilModel" "personWord" "[C") ∈ lw_all := lw_g (lw_at lw_m7 52 rfl) rfl
theorem q1637 : (Jvm.Cond.fieldLink "PupilsPupilModel" (30 : Nat) "PupilsPupilModel" "calmWord" "[C") ∈ lw_all := lw_g (lw_at lw_m7 53 rfl) rfl
theorem q1638 : (Jvm.Cond.fieldLink "PupilsPupilModel" (33 : Nat) "PupilsPupilModel" "knowsWord" "[C") ∈ lw_all := lw_g (lw_at lw_m7 54 rfl) rfl
theorem q1639 : (Jvm.Cond.fieldLink "PupilsPupilModel" (36 : Nat) "PupilsPupilModel" "errsWord" "[C") ∈ lw_all := lw_g (lw_at lw_m7 55 rfl) rfl
theorem q1640 : (Jvm.Cond.fieldLink "PupilsPupilModel" (39 : Nat) "PupilsPupilModel" "taughtWord" "[C") ∈ lw_all := lw_g (lw_at lw_m7 56 rfl) rfl
theorem q1641 : (Jvm.Cond.fieldLink "PupilsPupilModel" (42 : Nat) "PupilsPupilModel" "byWord" "[C") ∈ lw_all := lw_g (lw_at lw_m7 57 rfl) rfl
theorem q1642 : (Jvm.Cond.fieldLink "PupilsPupilModel" (45 : Nat) "PupilsPupilModel" "takesWord" "[C") ∈ lw_all := lw_g (lw_at lw_m7 58 rfl) rfl
theorem q1643 : (Jvm.Cond.fieldLink "PupilsPupilModel" (48 : Nat) "PupilsPupilModel" "garbleWord" "[C") ∈ lw_all := lw_g (lw_at lw_m7 59 rfl) rfl
theorem q1644 : (Jvm.Cond.fieldLink "PupilsPupilModel" (51 : Nat) "PupilsPupilModel" "sitsWord" "[C") ∈ lw_all := lw_g (lw_at lw_m7 60 rfl) rfl
theorem q1645 : (Jvm.Cond.fieldLink "PupilsPupilModel" (54 : Nat) "PupilsPupilModel" "passWord" "[C") ∈ lw_all := lw_g (lw_at lw_m7 61 rfl) rfl
theorem q1646 : (Jvm.Cond.fieldLink "PupilsPupilModel" (57 : Nat) "PupilsPupilModel" "triesWord" "[C") ∈ lw_all := lw_g (lw_at lw_m7 62 rfl) rfl
theorem q1647 : (Jvm.Cond.fieldLink "PupilsPupilModel" (60 : Nat) "PupilsPupilModel" "illWord" "[C") ∈ lw_all := lw_g (lw_at lw_m7 63 rfl) rfl
theorem q1648 : (Jvm.Cond.fieldLink "PupilsPupilModel" (63 : Nat) "PupilsPupilModel" "rightWord" "[C") ∈ lw_all := lw_g (lw_at lw_m7 64 rfl) rfl
theorem q1649 : (Jvm.Cond.fieldLink "PupilsPupilModel" (66 : Nat) "PupilsPupilModel" "wrongWord" "[C") ∈ lw_all := lw_g (lw_at lw_m7 65 rfl) rfl
theorem q1650 : (Jvm.Cond.fieldLink "PupilsPupilModel" (69 : Nat) "PupilsPupilModel" "yearWord" "[C") ∈ lw_all := lw_g (lw_at lw_m7 66 rfl) rfl
theorem q1651 : (Jvm.Cond.fieldLink "PupilsPupilModel" (72 : Nat) "PupilsPupilModel" "classWord" "[C") ∈ lw_all := lw_g (lw_at lw_m7 67 rfl) rfl
theorem q1652 : (Jvm.Cond.fieldLink "PupilsPupilModel" (75 : Nat) "PupilsPupilModel" "mcalmWord" "[C") ∈ lw_all := lw_g (lw_at lw_m7 68 rfl) rfl
theorem q1653 : (Jvm.Cond.fieldLink "PupilsPupilModel" (78 : Nat) "PupilsPupilModel" "leftWord" "[C") ∈ lw_all := lw_g (lw_at lw_m7 69 rfl) rfl
theorem q1654 : (Jvm.Cond.fieldLink "PupilsPupilModel" (81 : Nat) "PupilsPupilModel" "marksWord" "[C") ∈ lw_all := lw_g (lw_at lw_m7 70 rfl) rfl
theorem q1655 : (Jvm.Cond.fieldLink "PupilsPupilModel" (84 : Nat) "PupilsPupilModel" "numberWord" "[C") ∈ lw_all := lw_g (lw_at lw_m7 71 rfl) rfl
theorem q1656 : (Jvm.Cond.fieldLink "PupilsPupilModel" (87 : Nat) "PupilsPupilModel" "orWord" "[C") ∈ lw_all := lw_g (lw_at lw_m7 72 rfl) rfl
theorem q1657 : (Jvm.Cond.fieldLink "PupilsPupilModel" (90 : Nat) "PupilsPupilModel" "andWord" "[C") ∈ lw_all := lw_g (lw_at lw_m7 73 rfl) rfl
theorem q1658 : (Jvm.Cond.fieldLink "PupilsPupilModel" (93 : Nat) "PupilsPupilModel" "notWord" "[C") ∈ lw_all := lw_g (lw_at lw_m7 74 rfl) rfl
theorem q1659 : (Jvm.Cond.fieldLink "PupilsPupilModel" (96 : Nat) "PupilsPupilModel" "allWord" "[C") ∈ lw_all := lw_g (lw_at lw_m7 75 rfl) rfl
theorem q1660 : (Jvm.Cond.fieldLink "PupilsPupilModel" (99 : Nat) "PupilsPupilModel" "minWord" "[C") ∈ lw_all := lw_g (lw_at lw_m7 76 rfl) rfl
theorem q1661 : (Jvm.Cond.fieldLink "PupilsPupilModel" (102 : Nat) "PupilsPupilModel" "maxWord" "[C") ∈ lw_all := lw_g (lw_at lw_m7 77 rfl) rfl
theorem q1662 : (Jvm.Cond.fieldLink "PupilsPupilModel" (305 : Nat) "PupilsPupilModel" "namePlace" "I") ∈ lw_all := lw_g (lw_at lw_m7 78 rfl) rfl
theorem q1663 : (Jvm.Cond.fieldLink "PupilsPupilModel" (105 : Nat) "PupilsPupilModel" "many" "[I") ∈ lw_all := lw_g (lw_at lw_m7 79 rfl) rfl
theorem q1664 : (Jvm.Cond.fieldLink "PupilsPupilModel" (108 : Nat) "PupilsPupilModel" "names" "[J") ∈ lw_all := lw_g (lw_at lw_m7 80 rfl) rfl
theorem q1665 : (Jvm.Cond.fieldLink "PupilsPupilModel" (112 : Nat) "PupilsPupilModel" "worths" "[I") ∈ lw_all := lw_g (lw_at lw_m7 81 rfl) rfl
theorem q1666 : (Jvm.Cond.fieldLink "PupilsPupilModel" (115 : Nat) "PupilsPupilModel" "calms" "[I") ∈ lw_all := lw_g (lw_at lw_m7 82 rfl) rfl
theorem q1667 : (Jvm.Cond.fieldLink "PupilsPupilModel" (118 : Nat) "PupilsPupilModel" "rights" "[I") ∈ lw_all := lw_g (lw_at lw_m7 83 rfl) rfl
theorem q1668 : (Jvm.Cond.fieldLink "PupilsPupilModel" (121 : Nat) "PupilsPupilModel" "wrongs" "[I") ∈ lw_all := lw_g (lw_at lw_m7 84 rfl) rfl
theorem q1669 : (Jvm.Cond.fieldLink "PupilsPupilModel" (124 : Nat) "PupilsPupilModel" "masters" "[I") ∈ lw_all := lw_g (lw_at lw_m7 85 rfl) rfl
theorem q1670 : (Jvm.Cond.fieldLink "PupilsPupilModel" (127 : Nat) "PupilsPupilModel" "settings" "[I") ∈ lw_all := lw_g (lw_at lw_m7 86 rfl) rfl
theorem q1671 : (Jvm.Cond.fieldLink "PupilsPupilModel" (130 : Nat) "PupilsPupilModel" "codeFrom" "[I") ∈ lw_all := lw_g (lw_at lw_m7 87 rfl) rfl
theorem q1672 : (Jvm.Cond.fieldLink "PupilsPupilModel" (133 : Nat) "PupilsPupilModel" "codeEnd" "[I") ∈ lw_all := lw_g (lw_at lw_m7 88 rfl) rfl
theorem q1673 : (Jvm.Cond.fieldLink "PupilsPupilModel" (136 : Nat) "PupilsPupilModel" "codes" "[I") ∈ lw_all := lw_g (lw_at lw_m7 89 rfl) rfl
theorem q1674 : (Jvm.Cond.fieldLink "PupilsPupilModel" (357 : Nat) "PupilsPupilModel" "coded" "I") ∈ lw_all := lw_g (lw_at lw_m7 90 rfl) rfl
theorem q1675 : (Jvm.Cond.fieldLink "PupilsPupilModel" (360 : Nat) "PupilsPupilModel" "statements" "I") ∈ lw_all := lw_g (lw_at lw_m7 91 rfl) rfl
theorem q1676 : (Jvm.Cond.fieldLink "PupilsPupilModel" (312 : Nat) "PupilsPupilModel" "textKind" "I") ∈ lw_all := lw_g (lw_at lw_m7 92 rfl) rfl
theorem q1677 : (Jvm.Cond.fieldLink "PupilsPupilModel" (139 : Nat) "PupilsPupilModel" "now" "[I") ∈ lw_all := lw_g (lw_at lw_m7 93 rfl) rfl
theorem q1678 : (Jvm.Cond.fieldLink "PupilsPupilModel" (142 : Nat) "PupilsPupilModel" "aside" "[I") ∈ lw_all := lw_g (lw_at lw_m7 94 rfl) rfl
theorem q1679 : (Jvm.Cond.fieldLink "PupilsPupilModel" (413 : Nat) "PupilsPupilModel" "askWho" "I") ∈ lw_all := lw_g (lw_at lw_m7 95 rfl) rfl
theorem q1680 : (Jvm.Cond.fieldLink "PupilsPupilModel" (145 : Nat) "PupilsPupilModel" "teaching" "[I") ∈ lw_all := lw_g (lw_at lw_m7 96 rfl) rfl
theorem q1681 : (Jvm.Cond.fieldLink "PupilsPupilModel" (148 : Nat) "PupilsPupilModel" "learned" "[I") ∈ lw_all := lw_g (lw_at lw_m7 97 rfl) rfl
theorem q1682 : (Jvm.Cond.fieldLink "PupilsPupilModel" (443 : Nat) "PupilsPupilModel" "isThought" "Z") ∈ lw_all := lw_g (lw_at lw_m7 98 rfl) rfl
theorem q1683 : (Jvm.Cond.fieldLink "PupilsPupilModel" (459 : Nat) "PupilsPupilModel" "passedMany" "I") ∈ lw_all := lw_g (lw_at lw_m7 99 rfl) rfl
theorem q1684 : (Jvm.Cond.fieldLink "PupilsPupilModel" (395 : Nat) "PupilsPupilModel" "rowMany" "I") ∈ lw_all := lw_g (lw_at lw_m7 100 rfl) rfl
theorem q1685 : (Jvm.Cond.fieldLink "PupilsPupilModel" (151 : Nat) "PupilsPupilModel" "rows" "[I") ∈ lw_all := lw_g (lw_at lw_m7 101 rfl) rfl
theorem q1686 : (Jvm.Cond.fieldLink "PupilsPupilModel" (154 : Nat) "PupilsPupilModel" "heard" "[I") ∈ lw_all := lw_g (lw_at lw_m7 102 rfl) rfl
theorem q1687 : (Jvm.Cond.fieldLink "PupilsPupilModel" (157 : Nat) "PupilsPupilModel" "classes" "[I") ∈ lw_all := lw_g (lw_at lw_m7 103 rfl) rfl
theorem q1688 : (Jvm.Cond.fieldLink "PupilsPupilModel" (160 : Nat) "PupilsPupilModel" "kept0" "[I") ∈ lw_all := lw_g (lw_at lw_m7 104 rfl) rfl
theorem q1689 : (Jvm.Cond.fieldLink "PupilsPupilModel" (392 : Nat) "PupilsPupilModel" "undoable" "I") ∈ lw_all := lw_g (lw_at lw_m7 105 rfl) rfl
theorem q1690 : (Jvm.Cond.fieldLink "PupilsPupilModel" (544 : Nat) "PupilsPupilModel" "newest" "I") ∈ lw_all := lw_g (lw_at lw_m7 106 rfl) rfl
theorem q1691 : (Jvm.Cond.fieldLink "PupilsPupilModel" (163 : Nat) "PupilsPupilModel" "seeded" "J") ∈ lw_all := lw_g (lw_at lw_m7 107 rfl) rfl
theorem q1692 : (Jvm.Cond.fieldLink "PupilsPupilModel" (167 : Nat) "PupilsPupilModel" "firstAsked" "[C") ∈ lw_all := lw_g (lw_at lw_m7 108 rfl) rfl
theorem q1693 : (Jvm.Cond.fieldLink "PupilsPupilModel" (170 : Nat) "PupilsPupilModel" "lastAsked" "[C") ∈ lw_all := lw_g (lw_at lw_m7 109 rfl) rfl
theorem q1694 : (Jvm.Cond.fieldLink "PupilsPupilModel" (173 : Nat) "PupilsPupilModel" "oftenAsked" "[C") ∈ lw_all := lw_g (lw_at lw_m7 110 rfl) rfl
theorem q1695 : (Jvm.Cond.fieldLink "PupilsPupilModel" (176 : Nat) "PupilsPupilModel" "totalAsked" "[C") ∈ lw_all := lw_g (lw_at lw_m7 111 rfl) rfl
theorem q1696 : (Jvm.Cond.fieldLink "PupilsPupilModel" (179 : Nat) "PupilsPupilModel" "mostAsked" "[C") ∈ lw_all := lw_g (lw_at lw_m7 112 rfl) rfl
theorem q1697 : (Jvm.Cond.fieldLink "PupilsPupilModel" (182 : Nat) "PupilsPupilModel" "leastAsked" "[C") ∈ lw_all := lw_g (lw_at lw_m7 113 rfl) rfl
theorem q1698 : (Jvm.Cond.fieldLink "PupilsPupilModel" (185 : Nat) "PupilsPupilModel" "notAsked" "[C") ∈ lw_all := lw_g (lw_at lw_m7 114 rfl) rfl
theorem q1699 : (Jvm.Cond.fieldLink "PupilsPupilModel" (188 : Nat) "PupilsPupilModel" "andAsked" "[C") ∈ lw_all := lw_g (lw_at lw_m7 115 rfl) rfl
theorem q1700 : (Jvm.Cond.fieldLink "PupilsPupilModel" (191 : Nat) "PupilsPupilModel" "orAsked" "[C") ∈ lw_all := lw_g (lw_at lw_m7 116 rfl) rfl
theorem q1701 : (Jvm.Cond.fieldLink "PupilsPupilModel" (194 : Nat) "PupilsPupilModel" "allAsked" "[C") ∈ lw_all := lw_g (lw_at lw_m7 117 rfl) rfl
theorem q1702 : (Jvm.Cond.fieldLink "PupilsPupilModel" (197 : Nat) "PupilsPupilModel" "minAsked" "[C") ∈ lw_all := lw_g (lw_at lw_m7 118 rfl) rfl
theorem q1703 : (Jvm.Cond.fieldLink "PupilsPupilModel" (200 : Nat) "PupilsPupilModel" "maxAsked" "[C") ∈ lw_all := lw_g (lw_at lw_m7 119 rfl) rfl
theorem q1704 : (Jvm.Cond.fieldLink "PupilsPupilModel" (203 : Nat) "PupilsPupilModel" "calmAsked" "[C") ∈ lw_all := lw_g (lw_at lw_m7 120 rfl) rfl
theorem q1705 : (Jvm.Cond.fieldLink "PupilsPupilModel" (206 : Nat) "PupilsPupilModel" "rightAsked" "[C") ∈ lw_all := lw_g (lw_at lw_m7 121 rfl) rfl
theorem q1706 : (Jvm.Cond.fieldLink "PupilsPupilModel" (209 : Nat) "PupilsPupilModel" "wrongAsked" "[C") ∈ lw_all := lw_g (lw_at lw_m7 122 rfl) rfl
theorem q1707 : (Jvm.Cond.fieldLink "PupilsPupilModel" (212 : Nat) "PupilsPupilModel" "yearAsked" "[C") ∈ lw_all := lw_g (lw_at lw_m7 123 rfl) rfl
theorem q1708 : (Jvm.Cond.fieldLink "PupilsPupilModel" (215 : Nat) "PupilsPupilModel" "worthAsked" "[C") ∈ lw_all := lw_g (lw_at lw_m7 124 rfl) rfl
theorem q1709 : (Jvm.Cond.fieldLink "PupilsPupilModel" (218 : Nat) "PupilsPupilModel" "classAsked" "[C") ∈ lw_all := lw_g (lw_at lw_m7 125 rfl) rfl
theorem q1710 : (Jvm.Cond.fieldLink "PupilsPupilModel" (221 : Nat) "PupilsPupilModel" "mcalmAsked" "[C") ∈ lw_all := lw_g (lw_at lw_m7 126 rfl) rfl
theorem q1711 : (Jvm.Cond.fieldLink "PupilsPupilModel" (224 : Nat) "PupilsPupilModel" "leftAsked" "[C") ∈ lw_all := lw_g (lw_at lw_m7 127 rfl) rfl
theorem q1712 : (Jvm.Cond.fieldLink "PupilsPupilModel" (227 : Nat) "PupilsPupilModel" "marksAsked" "[C") ∈ lw_all := lw_g (lw_at lw_m7 128 rfl) rfl
theorem q1713 : (Jvm.Cond.fieldLink "PupilsPupilModel" (230 : Nat) "PupilsPupilModel" "numberAsked" "[C") ∈ lw_all := lw_g (lw_at lw_m7 129 rfl) rfl
theorem q1714 : (Jvm.Cond.fieldLink "PupilsPupilModel" (233 : Nat) "PupilsPupilModel" "knowsAsked" "[C") ∈ lw_all := lw_g (lw_at lw_m7 130 rfl) rfl
theorem q1715 : (Jvm.Cond.fieldLink "PupilsPupilModel" (236 : Nat) "PupilsPupilModel" "errsAsked" "[C") ∈ lw_all := lw_g (lw_at lw_m7 131 rfl) rfl
theorem q1716 : (Jvm.Cond.fieldLink "PupilsPupilModel" (239 : Nat) "PupilsPupilModel" "byAsked" "[C") ∈ lw_all := lw_g (lw_at lw_m7 132 rfl) rfl
theorem q1717 : (Jvm.Cond.fieldLink "PupilsPupilModel" (242 : Nat) "PupilsPupilModel" "qCodes" "[I") ∈ lw_all := lw_g (lw_at lw_m7 133 rfl) rfl
theorem q1718 : (Jvm.Cond.fieldLink "PupilsPupilModel" (342 : Nat) "PupilsPupilModel" "qCoded" "I") ∈ lw_all := lw_g (lw_at lw_m7 134 rfl) rfl
theorem q1719 : (Jvm.Cond.fieldLink "PupilsPupilModel" (245 : Nat) "PupilsPupilModel" "qWait" "[I") ∈ lw_all := lw_g (lw_at lw_m7 135 rfl) rfl
theorem q1720 : (Jvm.Cond.fieldLink "PupilsPupilModel" (345 : Nat) "PupilsPupilModel" "qWaits" "I") ∈ lw_all := lw_g (lw_at lw_m7 136 rfl) rfl
theorem q1721 : (Jvm.Cond.fieldLink "PupilsPupilModel" (348 : Nat) "PupilsPupilModel" "qOpened" "I") ∈ lw_all := lw_g (lw_at lw_m7 137 rfl) rfl
theorem q1722 : (Jvm.Cond.fieldLink "PupilsPupilModel" (351 : Nat) "PupilsPupilModel" "qBase" "I") ∈ lw_all := lw_g (lw_at lw_m7 138 rfl) rfl
theorem q1723 : (Jvm.Cond.fieldLink "PupilsPupilModel" (248 : Nat) "PupilsPupilModel" "qPile" "[J") ∈ lw_all := lw_g (lw_at lw_m7 139 rfl) rfl
theorem q1724 : (Jvm.Cond.fieldLink "PupilsPupilModel" (416 : Nat) "PupilsPupilModel" "qPiled" "I") ∈ lw_all := lw_g (lw_at lw_m7 140 rfl) rfl
theorem q1725 : (Jvm.Cond.fieldLink "PupilsPupilModel" (634 : Nat) "PupilsPupilModel" "qAnswer" "J") ∈ lw_all := lw_g (lw_at lw_m7 141 rfl) rfl
theorem q1726 : (Jvm.Cond.fieldLink "PupilsPupilModel" (639 : Nat) "PupilsPupilModel" "qIsNew" "Z") ∈ lw_all := lw_g (lw_at lw_m7 142 rfl) rfl
theorem q1727 : (Jvm.Cond.fieldLink "PupilsPupilModel" (251 : Nat) "PupilsPupilModel" "octet" "[I") ∈ lw_all := lw_g (lw_at lw_m7 143 rfl) rfl
theorem q1728 : (Jvm.Cond.fieldLink "PupilsPupilModel" (653 : Nat) "PupilsPupilModel" "octets" "I") ∈ lw_all := lw_g (lw_at lw_m7 144 rfl) rfl
theorem q1729 : (Jvm.Cond.laysFinal "PupilsPupilModel" "PupilsPupilModel" "tape" "[I") ∈ lw_all := lw_g (lw_at lw_m7 145 rfl) rfl
theorem q1730 : (Jvm.Cond.soleField "PupilsPupilModel" "tape") ∈ lw_all := lw_g (lw_at lw_m7 146 rfl) rfl
theorem q1731 : (Jvm.Cond.lays "PupilsPupilModel" "PupilsPupilModel" "taped" "I") ∈ lw_all := lw_g (lw_at lw_m7 147 rfl) rfl
theorem q1732 : (Jvm.Cond.soleField "PupilsPupilModel" "taped") ∈ lw_all := lw_g (lw_at lw_m7 148 rfl) rfl
theorem q1733 : (Jvm.Cond.lays "PupilsPupilModel" "PupilsPupilModel" "at" "I") ∈ lw_all := lw_g (lw_at lw_m7 149 rfl) rfl
theorem q1734 : (Jvm.Cond.soleField "PupilsPupilModel" "at") ∈ lw_all := lw_g (lw_at lw_m7 150 rfl) rfl
theorem q1735 : (Jvm.Cond.lays "PupilsPupilModel" "PupilsPupilModel" "end" "I") ∈ lw_all := lw_g (lw_at lw_m7 151 rfl) rfl
theorem q1736 : (Jvm.Cond.soleField "PupilsPupilModel" "end") ∈ lw_all := lw_g (lw_at lw_m7 152 rfl) rfl
theorem q1737 : (Jvm.Cond.lays "PupilsPupilModel" "PupilsPupilModel" "ended" "I") ∈ lw_all := lw_g (lw_at lw_m7 153 rfl) rfl
theorem q1738 : (Jvm.Cond.soleField "PupilsPupilModel" "ended") ∈ lw_all := lw_g (lw_at lw_m7 154 rfl) rfl
theorem q1739 : (Jvm.Cond.lays "PupilsPupilModel" "PupilsPupilModel" "bad" "I") ∈ lw_all := lw_g (lw_at lw_m7 155 rfl) rfl
theorem q1740 : (Jvm.Cond.soleField "PupilsPupilModel" "bad") ∈ lw_all := lw_g (lw_at lw_m7 156 rfl) rfl
theorem q1741 : (Jvm.Cond.lays "PupilsPupilModel" "PupilsPupilModel" "badPlace" "I") ∈ lw_all := lw_g (lw_at lw_m7 157 rfl) rfl
theorem q1742 : (Jvm.Cond.soleField "PupilsPupilModel" "badPlace") ∈ lw_all := lw_g (lw_at lw_m7 158 rfl) rfl
theorem q1743 : (Jvm.Cond.lays "PupilsPupilModel" "PupilsPupilModel" "fault" "I") ∈ lw_all := lw_g (lw_at lw_m7 159 rfl) rfl
theorem q1744 : (Jvm.Cond.soleField "PupilsPupilModel" "fault") ∈ lw_all := lw_g (lw_at lw_m7 160 rfl) rfl
theorem q1745 : (Jvm.Cond.lays "PupilsPupilModel" "PupilsPupilModel" "faultPlace" "I") ∈ lw_all := lw_g (lw_at lw_m7 161 rfl) rfl
theorem q1746 : (Jvm.Cond.soleField "PupilsPupilModel" "faultPlace") ∈ lw_all := lw_g (lw_at lw_m7 162 rfl) rfl
theorem q1747 : (Jvm.Cond.laysFinal "PupilsPupilModel" "PupilsPupilModel" "refused" "[I") ∈ lw_all := lw_g (lw_at lw_m7 163 rfl) rfl
theorem q1748 : (Jvm.Cond.soleField "PupilsPupilModel" "refused") ∈ lw_all := lw_g (lw_at lw_m7 164 rfl) rfl
theorem q1749 : (Jvm.Cond.laysFinal "PupilsPupilModel" "PupilsPupilModel" "factWord" "[C") ∈ lw_all := lw_g (lw_at lw_m7 165 rfl) rfl
theorem q1750 : (Jvm.Cond.soleField "PupilsPupilModel" "factWord") ∈ lw_all := lw_g (lw_at lw_m7 166 rfl) rfl
theorem q1751 : (Jvm.Cond.laysFinal "PupilsPupilModel" "PupilsPupilModel" "worthWord" "[C") ∈ lw_all := lw_g (lw_at lw_m7 167 rfl) rfl
theorem q1752 : (Jvm.Cond.soleField "PupilsPupilModel" "worthWord") ∈ lw_all := lw_g (lw_at lw_m7 168 rfl) rfl
theorem q1753 : (Jvm.Cond.laysFinal "PupilsPupilModel" "PupilsPupilModel" "personWord" "[C") ∈ lw_all := lw_g (lw_at lw_m7 169 rfl) rfl
theorem q1754 : (Jvm.Cond.soleField "PupilsPupilModel" "personWord") ∈ lw_all := lw_g (lw_at lw_m7 170 rfl) rfl
theorem q1755 : (Jvm.Cond.laysFinal "PupilsPupilModel" "PupilsPupilModel" "calmWord" "[C") ∈ lw_all := lw_g (lw_at lw_m7 171 rfl) rfl
theorem q1756 : (Jvm.Cond.soleField "PupilsPupilModel" "calmWord") ∈ lw_all := lw_g (lw_at lw_m7 172 rfl) rfl
theorem q1757 : (Jvm.Cond.laysFinal "PupilsPupilModel" "PupilsPupilModel" "knowsWord" "[C") ∈ lw_all := lw_g (lw_at lw_m7 173 rfl) rfl
theorem q1758 : (Jvm.Cond.soleField "PupilsPupilModel" "knowsWord") ∈ lw_all := lw_g (lw_at lw_m7 174 rfl) rfl
theorem q1759 : (Jvm.Cond.laysFinal "PupilsPupilModel" "PupilsPupilModel" "errsWord" "[C") ∈ lw_all := lw_g (lw_at lw_m7 175 rfl) rfl
theorem q1760 : (Jvm.Cond.soleField "PupilsPupilModel" "errsWord") ∈ lw_all := lw_g (lw_at lw_m7 176 rfl) rfl
theorem q1761 : (Jvm.Cond.laysFinal "PupilsPupilModel" "PupilsPupilModel" "taughtWord" "[C") ∈ lw_all := lw_g (lw_at lw_m7 177 rfl) rfl
theorem q1762 : (Jvm.Cond.soleField "PupilsPupilModel" "taughtWord") ∈ lw_all := lw_g (lw_at lw_m7 178 rfl) rfl
theorem q1763 : (Jvm.Cond.laysFinal "PupilsPupilModel" "PupilsPupilModel" "byWord" "[C") ∈ lw_all := lw_g (lw_at lw_m7 179 rfl) rfl
theorem q1764 : (Jvm.Cond.soleField "PupilsPupilModel" "byWord") ∈ lw_all := lw_g (lw_at lw_m7 180 rfl) rfl
theorem q1765 : (Jvm.Cond.laysFinal "PupilsPupilModel" "PupilsPupilModel" "takesWord" "[C") ∈ lw_all := lw_g (lw_at lw_m7 181 rfl) rfl
theorem q1766 : (Jvm.Cond.soleField "PupilsPupilModel" "takesWord") ∈ lw_all := lw_g (lw_at lw_m7 182 rfl) rfl
theorem q1767 : (Jvm.Cond.laysFinal "PupilsPupilModel" "PupilsPupilModel" "garbleWord" "[C") ∈ lw_all := lw_g (lw_at lw_m7 183 rfl) rfl
theorem q1768 : (Jvm.Cond.soleField "PupilsPupilModel" "garbleWord") ∈ lw_all := lw_g (lw_at lw_m7 184 rfl) rfl
theorem q1769 : (Jvm.Cond.laysFinal "PupilsPupilModel" "PupilsPupilModel" "sitsWord" "[C") ∈ lw_all := lw_g (lw_at lw_m7 185 rfl) rfl
theorem q1770 : (Jvm.Cond.soleField "PupilsPupilModel" "sitsWord") ∈ lw_all := lw_g (lw_at lw_m7 186 rfl) rfl
theorem q1771 : (Jvm.Cond.laysFinal "PupilsPupilModel" "PupilsPupilModel" "passWord" "[C") ∈ lw_all := lw_g (lw_at lw_m7 187 rfl) rfl
theorem q1772 : (Jvm.Cond.soleField "PupilsPupilModel" "passWord") ∈ lw_all := lw_g (lw_at lw_m7 188 rfl) rfl
theorem q1773 : (Jvm.Cond.laysFinal "PupilsPupilModel" "PupilsPupilModel" "triesWord" "[C") ∈ lw_all := lw_g (lw_at lw_m7 189 rfl) rfl
theorem q1774 : (Jvm.Cond.soleField "PupilsPupilModel" "triesWord") ∈ lw_all := lw_g (lw_at lw_m7 190 rfl) rfl
theorem q1775 : (Jvm.Cond.laysFinal "PupilsPupilModel" "PupilsPupilModel" "illWord" "[C") ∈ lw_all := lw_g (lw_at lw_m7 191 rfl) rfl
theorem q1776 : (Jvm.Cond.soleField "PupilsPupilModel" "illWord") ∈ lw_all := lw_g (lw_at lw_m7 192 rfl) rfl
theorem q1777 : (Jvm.Cond.laysFinal "PupilsPupilModel" "PupilsPupilModel" "rightWord" "[C") ∈ lw_all := lw_g (lw_at lw_m7 193 rfl) rfl
theorem q1778 : (Jvm.Cond.soleField "PupilsPupilModel" "rightWord") ∈ lw_all := lw_g (lw_at lw_m7 194 rfl) rfl
theorem q1779 : (Jvm.Cond.laysFinal "PupilsPupilModel" "PupilsPupilModel" "wrongWord" "[C") ∈ lw_all := lw_g (lw_at lw_m7 195 rfl) rfl
theorem q1780 : (Jvm.Cond.soleField "PupilsPupilModel" "wrongWord") ∈ lw_all := lw_g (lw_at lw_m7 196 rfl) rfl
theorem q1781 : (Jvm.Cond.laysFinal "PupilsPupilModel" "PupilsPupilModel" "yearWord" "[C") ∈ lw_all := lw_g (lw_at lw_m7 197 rfl) rfl
theorem q1782 : (Jvm.Cond.soleField "PupilsPupilModel" "yearWord") ∈ lw_all := lw_g (lw_at lw_m7 198 rfl) rfl
theorem q1783 : (Jvm.Cond.laysFinal "PupilsPupilModel" "PupilsPupilModel" "classWord" "[C") ∈ lw_all := lw_g (lw_at lw_m7 199 rfl) rfl
theorem q1784 : (Jvm.Cond.soleField "PupilsPupilModel" "classWord") ∈ lw_all := lw_g (lw_at lw_m7 200 rfl) rfl
theorem q1785 : (Jvm.Cond.laysFinal "PupilsPupilModel" "PupilsPupilModel" "mcalmWord" "[C") ∈ lw_all := lw_g (lw_at lw_m7 201 rfl) rfl
theorem q1786 : (Jvm.Cond.soleField "PupilsPupilModel" "mcalmWord") ∈ lw_all := lw_g (lw_at lw_m7 202 rfl) rfl
theorem q1787 : (Jvm.Cond.laysFinal "PupilsPupilModel" "PupilsPupilModel" "leftWord" "[C") ∈ lw_all := lw_g (lw_at lw_m7 203 rfl) rfl
theorem q1788 : (Jvm.Cond.soleField "PupilsPupilModel" "leftWord") ∈ lw_all := lw_g (lw_at lw_m7 204 rfl) rfl
theorem q1789 : (Jvm.Cond.laysFinal "PupilsPupilModel" "PupilsPupilModel" "marksWord" "[C") ∈ lw_all := lw_g (lw_at lw_m7 205 rfl) rfl
theorem q1790 : (Jvm.Cond.soleField "PupilsPupilModel" "marksWord") ∈ lw_all := lw_g (lw_at lw_m7 206 rfl) rfl
theorem q1791 : (Jvm.Cond.laysFinal "PupilsPupilModel" "PupilsPupilModel" "numberWord" "[C") ∈ lw_all := lw_g (lw_at lw_m7 207 rfl) rfl
theorem q1792 : (Jvm.Cond.soleField "PupilsPupilModel" "numberWord") ∈ lw_all := lw_g (lw_at lw_m7 208 rfl) rfl
theorem q1793 : (Jvm.Cond.laysFinal "PupilsPupilModel" "PupilsPupilModel" "orWord" "[C") ∈ lw_all := lw_g (lw_at lw_m7 209 rfl) rfl
theorem q1794 : (Jvm.Cond.soleField "PupilsPupilModel" "orWord") ∈ lw_all := lw_g (lw_at lw_m7 210 rfl) rfl
theorem q1795 : (Jvm.Cond.laysFinal "PupilsPupilModel" "PupilsPupilModel" "andWord" "[C") ∈ lw_all := lw_g (lw_at lw_m7 211 rfl) rfl
theorem q1796 : (Jvm.Cond.soleField "PupilsPupilModel" "andWord") ∈ lw_all := lw_g (lw_at lw_m7 212 rfl) rfl
theorem q1797 : (Jvm.Cond.laysFinal "PupilsPupilModel" "PupilsPupilModel" "notWord" "[C") ∈ lw_all := lw_g (lw_at lw_m7 213 rfl) rfl
theorem q1798 : (Jvm.Cond.soleField "PupilsPupilModel" "notWord") ∈ lw_all := lw_g (lw_at lw_m7 214 rfl) rfl
theorem q1799 : (Jvm.Cond.laysFinal "PupilsPupilModel" "PupilsPupilModel" "allWord" "[C") ∈ lw_all := lw_g (lw_at lw_m7 215 rfl) rfl
theorem q1800 : (Jvm.Cond.soleField "PupilsPupilModel" "allWord") ∈ lw_all := lw_g (lw_at lw_m7 216 rfl) rfl
theorem q1801 : (Jvm.Cond.laysFinal "PupilsPupilModel" "PupilsPupilModel" "minWord" "[C") ∈ lw_all := lw_g (lw_at lw_m7 217 rfl) rfl
theorem q1802 : (Jvm.Cond.soleField "PupilsPupilModel" "minWord") ∈ lw_all := lw_g (lw_at lw_m7 218 rfl) rfl
theorem q1803 : (Jvm.Cond.laysFinal "PupilsPupilModel" "PupilsPupilModel" "maxWord" "[C") ∈ lw_all := lw_g (lw_at lw_m7 219 rfl) rfl
theorem q1804 : (Jvm.Cond.soleField "PupilsPupilModel" "maxWord") ∈ lw_all := lw_g (lw_at lw_m7 220 rfl) rfl
theorem q1805 : (Jvm.Cond.lays "PupilsPupilModel" "PupilsPupilModel" "namePlace" "I") ∈ lw_all := lw_g (lw_at lw_m7 221 rfl) rfl
theorem q1806 : (Jvm.Cond.soleField "PupilsPupilModel" "namePlace") ∈ lw_all := lw_g (lw_at lw_m7 222 rfl) rfl
theorem q1807 : (Jvm.Cond.laysFinal "PupilsPupilModel" "PupilsPupilModel" "many" "[I") ∈ lw_all := lw_g (lw_at lw_m7 223 rfl) rfl
theorem q1808 : (Jvm.Cond.soleField "PupilsPupilModel" "many") ∈ lw_all := lw_g (lw_at lw_m7 224 rfl) rfl
theorem q1809 : (Jvm.Cond.laysFinal "PupilsPupilModel" "PupilsPupilModel" "names" "[J") ∈ lw_all := lw_g (lw_at lw_m7 225 rfl) rfl
theorem q1810 : (Jvm.Cond.soleField "PupilsPupilModel" "names") ∈ lw_all := lw_g (lw_at lw_m7 226 rfl) rfl
theorem q1811 : (Jvm.Cond.laysFinal "PupilsPupilModel" "PupilsPupilModel" "worths" "[I") ∈ lw_all := lw_g (lw_at lw_m7 227 rfl) rfl
theorem q1812 : (Jvm.Cond.soleField "PupilsPupilModel" "worths") ∈ lw_all := lw_g (lw_at lw_m7 228 rfl) rfl
theorem q1813 : (Jvm.Cond.laysFinal "PupilsPupilModel" "PupilsPupilModel" "calms" "[I") ∈ lw_all := lw_g (lw_at lw_m7 229 rfl) rfl
theorem q1814 : (Jvm.Cond.soleField "PupilsPupilModel" "calms") ∈ lw_all := lw_g (lw_at lw_m7 230 rfl) rfl
theorem q1815 : (Jvm.Cond.laysFinal "PupilsPupilModel" "PupilsPupilModel" "rights" "[I") ∈ lw_all := lw_g (lw_at lw_m7 231 rfl) rfl
theorem q1816 : (Jvm.Cond.soleField "PupilsPupilModel" "rights") ∈ lw_all := lw_g (lw_at lw_m7 232 rfl) rfl
theorem q1817 : (Jvm.Cond.laysFinal "PupilsPupilModel" "PupilsPupilModel" "wrongs" "[I") ∈ lw_all := lw_g (lw_at lw_m7 233 rfl) rfl
theorem q1818 : (Jvm.Cond.soleField "PupilsPupilModel" "wrongs") ∈ lw_all := lw_g (lw_at lw_m7 234 rfl) rfl
theorem q1819 : (Jvm.Cond.laysFinal "PupilsPupilModel" "PupilsPupilModel" "masters" "[I") ∈ lw_all := lw_g (lw_at lw_m7 235 rfl) rfl
theorem q1820 : (Jvm.Cond.soleField "PupilsPupilModel" "masters") ∈ lw_all := lw_g (lw_at lw_m7 236 rfl) rfl
theorem q1821 : (Jvm.Cond.laysFinal "PupilsPupilModel" "PupilsPupilModel" "settings" "[I") ∈ lw_all := lw_g (lw_at lw_m7 237 rfl) rfl
theorem q1822 : (Jvm.Cond.soleField "PupilsPupilModel" "settings") ∈ lw_all := lw_g (lw_at lw_m7 238 rfl) rfl
theorem q1823 : (Jvm.Cond.laysFinal "PupilsPupilModel" "PupilsPupilModel" "codeFrom" "[I") ∈ lw_all := lw_g (lw_at lw_m7 239 rfl) rfl
theorem q1824 : (Jvm.Cond.soleField "PupilsPupilModel" "codeFrom") ∈ lw_all := lw_g (lw_at lw_m8 0 rfl) rfl
theorem q1825 : (Jvm.Cond.laysFinal "PupilsPupilModel" "PupilsPupilModel" "codeEnd" "[I") ∈ lw_all := lw_g (lw_at lw_m8 1 rfl) rfl
theorem q1826 : (Jvm.Cond.soleField "PupilsPupilModel" "codeEnd") ∈ lw_all := lw_g (lw_at lw_m8 2 rfl) rfl
theorem q1827 : (Jvm.Cond.laysFinal "PupilsPupilModel" "PupilsPupilModel" "codes" "[I") ∈ lw_all := lw_g (lw_at lw_m8 3 rfl) rfl
theorem q1828 : (Jvm.Cond.soleField "PupilsPupilModel" "codes") ∈ lw_all := lw_g (lw_at lw_m8 4 rfl) rfl
theorem q1829 : (Jvm.Cond.lays "PupilsPupilModel" "PupilsPupilModel" "coded" "I") ∈ lw_all := lw_g (lw_at lw_m8 5 rfl) rfl
theorem q1830 : (Jvm.Cond.soleField "PupilsPupilModel" "coded") ∈ lw_all := lw_g (lw_at lw_m8 6 rfl) rfl
theorem q1831 : (Jvm.Cond.lays "PupilsPupilModel" "PupilsPupilModel" "statements" "I") ∈ lw_all := lw_g (lw_at lw_m8 7 rfl) rfl
theorem q1832 : (Jvm.Cond.soleField "PupilsPupilModel" "statements") ∈ lw_all := lw_g (lw_at lw_m8 8 rfl) rfl
theorem q1833 : (Jvm.Cond.lays "PupilsPupilModel" "PupilsPupilModel" "textKind" "I") ∈ lw_all := lw_g (lw_at lw_m8 9 rfl) rfl
theorem q1834 : (Jvm.Cond.soleField "PupilsPupilModel" "textKind") ∈ lw_all := lw_g (lw_at lw_m8 10 rfl) rfl
theorem q1835 : (Jvm.Cond.laysFinal "PupilsPupilModel" "PupilsPupilModel" "now" "[I") ∈ lw_all := lw_g (lw_at lw_m8 11 rfl) rfl
theorem q1836 : (Jvm.Cond.soleField "PupilsPupilModel" "now") ∈ lw_all := lw_g (lw_at lw_m8 12 rfl) rfl
theorem q1837 : (Jvm.Cond.laysFinal "PupilsPupilModel" "PupilsPupilModel" "aside" "[I") ∈ lw_all := lw_g (lw_at lw_m8 13 rfl) rfl
theorem q1838 : (Jvm.Cond.soleField "PupilsPupilModel" "aside") ∈ lw_all := lw_g (lw_at lw_m8 14 rfl) rfl
theorem q1839 : (Jvm.Cond.lays "PupilsPupilModel" "PupilsPupilModel" "askWho" "I") ∈ lw_all := lw_g (lw_at lw_m8 15 rfl) rfl
theorem q1840 : (Jvm.Cond.soleField "PupilsPupilModel" "askWho") ∈ lw_all := lw_g (lw_at lw_m8 16 rfl) rfl
theorem q1841 : (Jvm.Cond.laysFinal "PupilsPupilModel" "PupilsPupilModel" "teaching" "[I") ∈ lw_all := lw_g (lw_at lw_m8 17 rfl) rfl
theorem q1842 : (Jvm.Cond.soleField "PupilsPupilModel" "teaching") ∈ lw_all := lw_g (lw_at lw_m8 18 rfl) rfl
theorem q1843 : (Jvm.Cond.laysFinal "PupilsPupilModel" "PupilsPupilModel" "learned" "[I") ∈ lw_all := lw_g (lw_at lw_m8 19 rfl) rfl
theorem q1844 : (Jvm.Cond.soleField "PupilsPupilModel" "learned") ∈ lw_all := lw_g (lw_at lw_m8 20 rfl) rfl
theorem q1845 : (Jvm.Cond.lays "PupilsPupilModel" "PupilsPupilModel" "isThought" "Z") ∈ lw_all := lw_g (lw_at lw_m8 21 rfl) rfl
theorem q1846 : (Jvm.Cond.soleField "PupilsPupilModel" "isThought") ∈ lw_all := lw_g (lw_at lw_m8 22 rfl) rfl
theorem q1847 : (Jvm.Cond.lays "PupilsPupilModel" "PupilsPupilModel" "passedMany" "I") ∈ lw_all := lw_g (lw_at lw_m8 23 rfl) rfl
theorem q1848 : (Jvm.Cond.soleField "PupilsPupilModel" "passedMany") ∈ lw_all := lw_g (lw_at lw_m8 24 rfl) rfl
theorem q1849 : (Jvm.Cond.lays "PupilsPupilModel" "PupilsPupilModel" "rowMany" "I") ∈ lw_all := lw_g (lw_at lw_m8 25 rfl) rfl
theorem q1850 : (Jvm.Cond.soleField "PupilsPupilModel" "rowMany") ∈ lw_all := lw_g (lw_at lw_m8 26 rfl) rfl
theorem q1851 : (Jvm.Cond.laysFinal "PupilsPupilModel" "PupilsPupilModel" "rows" "[I") ∈ lw_all := lw_g (lw_at lw_m8 27 rfl) rfl
theorem q1852 : (Jvm.Cond.soleField "PupilsPupilModel" "rows") ∈ lw_all := lw_g (lw_at lw_m8 28 rfl) rfl
theorem q1853 : (Jvm.Cond.laysFinal "PupilsPupilModel" "PupilsPupilModel" "heard" "[I") ∈ lw_all := lw_g (lw_at lw_m8 29 rfl) rfl
theorem q1854 : (Jvm.Cond.soleField "PupilsPupilModel" "heard") ∈ lw_all := lw_g (lw_at lw_m8 30 rfl) rfl
theorem q1855 : (Jvm.Cond.laysFinal "PupilsPupilModel" "PupilsPupilModel" "classes" "[I") ∈ lw_all := lw_g (lw_at lw_m8 31 rfl) rfl
theorem q1856 : (Jvm.Cond.soleField "PupilsPupilModel" "classes") ∈ lw_all := lw_g (lw_at lw_m8 32 rfl) rfl
theorem q1857 : (Jvm.Cond.laysFinal "PupilsPupilModel" "PupilsPupilModel" "kept0" "[I") ∈ lw_all := lw_g (lw_at lw_m8 33 rfl) rfl
theorem q1858 : (Jvm.Cond.soleField "PupilsPupilModel" "kept0") ∈ lw_all := lw_g (lw_at lw_m8 34 rfl) rfl
theorem q1859 : (Jvm.Cond.lays "PupilsPupilModel" "PupilsPupilModel" "undoable" "I") ∈ lw_all := lw_g (lw_at lw_m8 35 rfl) rfl
theorem q1860 : (Jvm.Cond.soleField "PupilsPupilModel" "undoable") ∈ lw_all := lw_g (lw_at lw_m8 36 rfl) rfl
theorem q1861 : (Jvm.Cond.lays "PupilsPupilModel" "PupilsPupilModel" "newest" "I") ∈ lw_all := lw_g (lw_at lw_m8 37 rfl) rfl
theorem q1862 : (Jvm.Cond.soleField "PupilsPupilModel" "newest") ∈ lw_all := lw_g (lw_at lw_m8 38 rfl) rfl
theorem q1863 : (Jvm.Cond.lays "PupilsPupilModel" "PupilsPupilModel" "seeded" "J") ∈ lw_all := lw_g (lw_at lw_m8 39 rfl) rfl
theorem q1864 : (Jvm.Cond.soleField "PupilsPupilModel" "seeded") ∈ lw_all := lw_g (lw_at lw_m8 40 rfl) rfl
theorem q1865 : (Jvm.Cond.laysFinal "PupilsPupilModel" "PupilsPupilModel" "firstAsked" "[C") ∈ lw_all := lw_g (lw_at lw_m8 41 rfl) rfl
theorem q1866 : (Jvm.Cond.soleField "PupilsPupilModel" "firstAsked") ∈ lw_all := lw_g (lw_at lw_m8 42 rfl) rfl
theorem q1867 : (Jvm.Cond.laysFinal "PupilsPupilModel" "PupilsPupilModel" "lastAsked" "[C") ∈ lw_all := lw_g (lw_at lw_m8 43 rfl) rfl
theorem q1868 : (Jvm.Cond.soleField "PupilsPupilModel" "lastAsked") ∈ lw_all := lw_g (lw_at lw_m8 44 rfl) rfl
theorem q1869 : (Jvm.Cond.laysFinal "PupilsPupilModel" "PupilsPupilModel" "oftenAsked" "[C") ∈ lw_all := lw_g (lw_at lw_m8 45 rfl) rfl
theorem q1870 : (Jvm.Cond.soleField "PupilsPupilModel" "oftenAsked") ∈ lw_all := lw_g (lw_at lw_m8 46 rfl) rfl
theorem q1871 : (Jvm.Cond.laysFinal "PupilsPupilModel" "PupilsPupilModel" "totalAsked" "[C") ∈ lw_all := lw_g (lw_at lw_m8 47 rfl) rfl
theorem q1872 : (Jvm.Cond.soleField "PupilsPupilModel" "totalAsked") ∈ lw_all := lw_g (lw_at lw_m8 48 rfl) rfl
theorem q1873 : (Jvm.Cond.laysFinal "PupilsPupilModel" "PupilsPupilModel" "mostAsked" "[C") ∈ lw_all := lw_g (lw_at lw_m8 49 rfl) rfl
theorem q1874 : (Jvm.Cond.soleField "PupilsPupilModel" "mostAsked") ∈ lw_all := lw_g (lw_at lw_m8 50 rfl) rfl
theorem q1875 : (Jvm.Cond.laysFinal "PupilsPupilModel" "PupilsPupilModel" "leastAsked" "[C") ∈ lw_all := lw_g (lw_at lw_m8 51 rfl) rfl
theorem q1876 : (Jvm.Cond.soleField "PupilsPupilModel" "leastAsked") ∈ lw_all := lw_g (lw_at lw_m8 52 rfl) rfl
theorem q1877 : (Jvm.Cond.laysFinal "PupilsPupilModel" "PupilsPupilModel" "notAsked" "[C") ∈ lw_all := lw_g (lw_at lw_m8 53 rfl) rfl
theorem q1878 : (Jvm.Cond.soleField "PupilsPupilModel" "notAsked") ∈ lw_all := lw_g (lw_at lw_m8 54 rfl) rfl
theorem q1879 : (Jvm.Cond.laysFinal "PupilsPupilModel" "PupilsPupilModel" "andAsked" "[C") ∈ lw_all := lw_g (lw_at lw_m8 55 rfl) rfl
theorem q1880 : (Jvm.Cond.soleField "PupilsPupilModel" "andAsked") ∈ lw_all := lw_g (lw_at lw_m8 56 rfl) rfl
theorem q1881 : (Jvm.Cond.laysFinal "PupilsPupilModel" "PupilsPupilModel" "orAsked" "[C") ∈ lw_all := lw_g (lw_at lw_m8 57 rfl) rfl
theorem q1882 : (Jvm.Cond.soleField "PupilsPupilModel" "orAsked") ∈ lw_all := lw_g (lw_at lw_m8 58 rfl) rfl
theorem q1883 : (Jvm.Cond.laysFinal "PupilsPupilModel" "PupilsPupilModel" "allAsked" "[C") ∈ lw_all := lw_g (lw_at lw_m8 59 rfl) rfl
theorem q1884 : (Jvm.Cond.soleField "PupilsPupilModel" "allAsked") ∈ lw_all := lw_g (lw_at lw_m8 60 rfl) rfl
theorem q1885 : (Jvm.Cond.laysFinal "PupilsPupilModel" "PupilsPupilModel" "minAsked" "[C") ∈ lw_all := lw_g (lw_at lw_m8 61 rfl) rfl
theorem q1886 : (Jvm.Cond.soleField "PupilsPupilModel" "minAsked") ∈ lw_all := lw_g (lw_at lw_m8 62 rfl) rfl
theorem q1887 : (Jvm.Cond.laysFinal "PupilsPupilModel" "PupilsPupilModel" "maxAsked" "[C") ∈ lw_all := lw_g (lw_at lw_m8 63 rfl) rfl
theorem q1888 : (Jvm.Cond.soleField "PupilsPupilModel" "maxAsked") ∈ lw_all := lw_g (lw_at lw_m8 64 rfl) rfl
theorem q1889 : (Jvm.Cond.laysFinal "PupilsPupilModel" "PupilsPupilModel" "calmAsked" "[C") ∈ lw_all := lw_g (lw_at lw_m8 65 rfl) rfl
theorem q1890 : (Jvm.Cond.soleField "PupilsPupilModel" "calmAsked") ∈ lw_all := lw_g (lw_at lw_m8 66 rfl) rfl
theorem q1891 : (Jvm.Cond.laysFinal "PupilsPupilModel" "PupilsPupilModel" "rightAsked" "[C") ∈ lw_all := lw_g (lw_at lw_m8 67 rfl) rfl
theorem q1892 : (Jvm.Cond.soleField "PupilsPupilModel" "rightAsked") ∈ lw_all := lw_g (lw_at lw_m8 68 rfl) rfl
theorem q1893 : (Jvm.Cond.laysFinal "PupilsPupilModel" "PupilsPupilModel" "wrongAsked" "[C") ∈ lw_all := lw_g (lw_at lw_m8 69 rfl) rfl
theorem q1894 : (Jvm.Cond.soleField "PupilsPupilModel" "wrongAsked") ∈ lw_all := lw_g (lw_at lw_m8 70 rfl) rfl
theorem q1895 : (Jvm.Cond.laysFinal "PupilsPupilModel" "PupilsPupilModel" "yearAsked" "[C") ∈ lw_all := lw_g (lw_at lw_m8 71 rfl) rfl
theorem q1896 : (Jvm.Cond.soleField "PupilsPupilModel" "yearAsked") ∈ lw_all := lw_g (lw_at lw_m8 72 rfl) rfl
theorem q1897 : (Jvm.Cond.laysFinal "PupilsPupilModel" "PupilsPupilModel" "worthAsked" "[C") ∈ lw_all := lw_g (lw_at lw_m8 73 rfl) rfl
theorem q1898 : (Jvm.Cond.soleField "PupilsPupilModel" "worthAsked") ∈ lw_all := lw_g (lw_at lw_m8 74 rfl) rfl
theorem q1899 : (Jvm.Cond.laysFinal "PupilsPupilModel" "PupilsPupilModel" "classAsked" "[C") ∈ lw_all := lw_g (lw_at lw_m8 75 rfl) rfl
theorem q1900 : (Jvm.Cond.soleField "PupilsPupilModel" "classAsked") ∈ lw_all := lw_g (lw_at lw_m8 76 rfl) rfl
theorem q1901 : (Jvm.Cond.laysFinal "PupilsPupilModel" "PupilsPupilModel" "mcalmAsked" "[C") ∈ lw_all := lw_g (lw_at lw_m8 77 rfl) rfl
theorem q1902 : (Jvm.Cond.soleField "PupilsPupilModel" "mcalmAsked") ∈ lw_all := lw_g (lw_at lw_m8 78 rfl) rfl
theorem q1903 : (Jvm.Cond.laysFinal "PupilsPupilModel" "PupilsPupilModel" "leftAsked" "[C") ∈ lw_all := lw_g (lw_at lw_m8 79 rfl) rfl
theorem q1904 : (Jvm.Cond.soleField "PupilsPupilModel" "leftAsked") ∈ lw_all := lw_g (lw_at lw_m8 80 rfl) rfl
theorem q1905 : (Jvm.Cond.laysFinal "PupilsPupilModel" "PupilsPupilModel" "marksAsked" "[C") ∈ lw_all := lw_g (lw_at lw_m8 81 rfl) rfl
theorem q1906 : (Jvm.Cond.soleField "PupilsPupilModel" "marksAsked") ∈ lw_all := lw_g (lw_at lw_m8 82 rfl) rfl
theorem q1907 : (Jvm.Cond.laysFinal "PupilsPupilModel" "PupilsPupilModel" "numberAsked" "[C") ∈ lw_all := lw_g (lw_at lw_m8 83 rfl) rfl
theorem q1908 : (Jvm.Cond.soleField "PupilsPupilModel" "numberAsked") ∈ lw_all := lw_g (lw_at lw_m8 84 rfl) rfl
theorem q1909 : (Jvm.Cond.laysFinal "PupilsPupilModel" "PupilsPupilModel" "knowsAsked" "[C") ∈ lw_all := lw_g (lw_at lw_m8 85 rfl) rfl
theorem q1910 : (Jvm.Cond.soleField "PupilsPupilModel" "knowsAsked") ∈ lw_all := lw_g (lw_at lw_m8 86 rfl) rfl
theorem q1911 : (Jvm.Cond.laysFinal "PupilsPupilModel" "PupilsPupilModel" "errsAsked" "[C") ∈ lw_all := lw_g (lw_at lw_m8 87 rfl) rfl
theorem q1912 : (Jvm.Cond.soleField "PupilsPupilModel" "errsAsked") ∈ lw_all := lw_g (lw_at lw_m8 88 rfl) rfl
theorem q1913 : (Jvm.Cond.laysFinal "PupilsPupilModel" "PupilsPupilModel" "byAsked" "[C") ∈ lw_all := lw_g (lw_at lw_m8 89 rfl) rfl
theorem q1914 : (Jvm.Cond.soleField "PupilsPupilModel" "byAsked") ∈ lw_all := lw_g (lw_at lw_m8 90 rfl) rfl
theorem q1915 : (Jvm.Cond.laysFinal "PupilsPupilModel" "PupilsPupilModel" "qCodes" "[I") ∈ lw_all := lw_g (lw_at lw_m8 91 rfl) rfl
theorem q1916 : (Jvm.Cond.soleField "PupilsPupilModel" "qCodes") ∈ lw_all := lw_g (lw_at lw_m8 92 rfl) rfl
theorem q1917 : (Jvm.Cond.lays "PupilsPupilModel" "PupilsPupilModel" "qCoded" "I") ∈ lw_all := lw_g (lw_at lw_m8 93 rfl) rfl
theorem q1918 : (Jvm.Cond.soleField "PupilsPupilModel" "qCoded") ∈ lw_all := lw_g (lw_at lw_m8 94 rfl) rfl
theorem q1919 : (Jvm.Cond.laysFinal "PupilsPupilModel" "PupilsPupilModel" "qWait" "[I") ∈ lw_all := lw_g (lw_at lw_m8 95 rfl) rfl
theorem q1920 : (Jvm.Cond.soleField "PupilsPupilModel" "qWait") ∈ lw_all := lw_g (lw_at lw_m8 96 rfl) rfl
theorem q1921 : (Jvm.Cond.lays "PupilsPupilModel" "PupilsPupilModel" "qWaits" "I") ∈ lw_all := lw_g (lw_at lw_m8 97 rfl) rfl
theorem q1922 : (Jvm.Cond.soleField "PupilsPupilModel" "qWaits") ∈ lw_all := lw_g (lw_at lw_m8 98 rfl) rfl
theorem q1923 : (Jvm.Cond.lays "PupilsPupilModel" "PupilsPupilModel" "qOpened" "I") ∈ lw_all := lw_g (lw_at lw_m8 99 rfl) rfl
theorem q1924 : (Jvm.Cond.soleField "PupilsPupilModel" "qOpened") ∈ lw_all := lw_g (lw_at lw_m8 100 rfl) rfl
theorem q1925 : (Jvm.Cond.lays "PupilsPupilModel" "PupilsPupilModel" "qBase" "I") ∈ lw_all := lw_g (lw_at lw_m8 101 rfl) rfl
theorem q1926 : (Jvm.Cond.soleField "PupilsPupilModel" "qBase") ∈ lw_all := lw_g (lw_at lw_m8 102 rfl) rfl
theorem q1927 : (Jvm.Cond.laysFinal "PupilsPupilModel" "PupilsPupilModel" "qPile" "[J") ∈ lw_all := lw_g (lw_at lw_m8 103 rfl) rfl
theorem q1928 : (Jvm.Cond.soleField "PupilsPupilModel" "qPile") ∈ lw_all := lw_g (lw_at lw_m8 104 rfl) rfl
theorem q1929 : (Jvm.Cond.lays "PupilsPupilModel" "PupilsPupilModel" "qPiled" "I") ∈ lw_all := lw_g (lw_at lw_m8 105 rfl) rfl
theorem q1930 : (Jvm.Cond.soleField "PupilsPupilModel" "qPiled") ∈ lw_all := lw_g (lw_at lw_m8 106 rfl) rfl
theorem q1931 : (Jvm.Cond.lays "PupilsPupilModel" "PupilsPupilModel" "qAnswer" "J") ∈ lw_all := lw_g (lw_at lw_m8 107 rfl) rfl
theorem q1932 : (Jvm.Cond.soleField "PupilsPupilModel" "qAnswer") ∈ lw_all := lw_g (lw_at lw_m8 108 rfl) rfl
theorem q1933 : (Jvm.Cond.lays "PupilsPupilModel" "PupilsPupilModel" "qIsNew" "Z") ∈ lw_all := lw_g (lw_at lw_m8 109 rfl) rfl
theorem q1934 : (Jvm.Cond.soleField "PupilsPupilModel" "qIsNew") ∈ lw_all := lw_g (lw_at lw_m8 110 rfl) rfl
theorem q1935 : (Jvm.Cond.laysFinal "PupilsPupilModel" "PupilsPupilModel" "octet" "[I") ∈ lw_all := lw_g (lw_at lw_m8 111 rfl) rfl
theorem q1936 : (Jvm.Cond.soleField "PupilsPupilModel" "octet") ∈ lw_all := lw_g (lw_at lw_m8 112 rfl) rfl
theorem q1937 : (Jvm.Cond.lays "PupilsPupilModel" "PupilsPupilModel" "octets" "I") ∈ lw_all := lw_g (lw_at lw_m8 113 rfl) rfl
theorem q1938 : (Jvm.Cond.soleField "PupilsPupilModel" "octets") ∈ lw_all := lw_g (lw_at lw_m8 114 rfl) rfl
theorem q1939 : (Jvm.Cond.superclass "PupilsPupilModel" "java/lang/Object") ∈ lw_all := lw_g (lw_at lw_m8 115 rfl) rfl
theorem q1941 : (Jvm.Cond.instanceMethod ({ cls := "PupilsPupilModel", name := "feed", desc := "(IIIII)I" } : Jvm.MethodName)) ∈ lw_all := lw_g (lw_at lw_m8 117 rfl) rfl
theorem q1942 : (Jvm.Cond.selects "PupilsPupilModel" ({ cls := "PupilsPupilModel", name := "feed", desc := "(IIIII)I" } : Jvm.MethodName) ({ cls := "PupilsPupilModel", name := "feed", desc := "(IIIII)I" } : Jvm.MethodName)) ∈ lw_all := lw_g (lw_at lw_m8 118 rfl) rfl
theorem q1943 : (Jvm.Cond.code ({ cls := "PupilsPupilModel", name := "feed", desc := "(IIIII)I" } : Jvm.MethodName) prog_22_method_3_code (8 : Nat) (Option.some Jvm.ClassFile.FieldType.int)) ∈ lw_all := lw_g (lw_at lw_m8 119 rfl) rfl
theorem q1945 : (Jvm.Cond.instanceMethod ({ cls := "PupilsPupilModel", name := "end", desc := "(I)Z" } : Jvm.MethodName)) ∈ lw_all := lw_g (lw_at lw_m8 121 rfl) rfl
theorem q1946 : (Jvm.Cond.selects "PupilsPupilModel" ({ cls := "PupilsPupilModel", name := "end", desc := "(I)Z" } : Jvm.MethodName) ({ cls := "PupilsPupilModel", name := "end", desc := "(I)Z" } : Jvm.MethodName)) ∈ lw_all := lw_g (lw_at lw_m8 122 rfl) rfl
theorem q1947 : (Jvm.Cond.code ({ cls := "PupilsPupilModel", name := "end", desc := "(I)Z" } : Jvm.MethodName) prog_22_method_4_code (2 : Nat) (Option.some Jvm.ClassFile.FieldType.boolean)) ∈ lw_all := lw_g (lw_at lw_m8 123 rfl) rfl
theorem q1949 : (Jvm.Cond.instanceMethod ({ cls := "PupilsPupilModel", name := "school", desc := "()I" } : Jvm.MethodName)) ∈ lw_all := lw_g (lw_at lw_m8 125 rfl) rfl
theorem q1950 : (Jvm.Cond.selects "PupilsPupilModel" ({ cls := "PupilsPupilModel", name := "school", desc := "()I" } : Jvm.MethodName) ({ cls := "PupilsPupilModel", name := "school", desc := "()I" } : Jvm.MethodName)) ∈ lw_all := lw_g (lw_at lw_m8 126 rfl) rfl
theorem q1951 : (Jvm.Cond.code ({ cls := "PupilsPupilModel", name := "school", desc := "()I" } : Jvm.MethodName) prog_22_method_28_code (2 : Nat) (Option.some Jvm.ClassFile.FieldType.int)) ∈ lw_all := lw_g (lw_at lw_m8 127 rfl) rfl
theorem q1952 : (Jvm.Cond.methodLink "PupilsPupilModel" (269 : Nat) ({ cls := "PupilsPupilModel", name := "look", desc := "()I" } : Jvm.MethodName)) ∈ lw_all := lw_g (lw_at lw_m8 128 rfl) rfl
theorem q1953 : (Jvm.Cond.privateMethod ({ cls := "PupilsPupilModel", name := "look", desc := "()I" } : Jvm.MethodName)) ∈ lw_tbl := lw_at lw_m8 129 rfl
theorem q1954 : (Jvm.Cond.instanceMethod ({ cls := "PupilsPupilModel", name := "look", desc := "()I" } : Jvm.MethodName)) ∈ lw_all := lw_g (lw_at lw_m8 130 rfl) rfl
theorem q1955 : (Jvm.Cond.code ({ cls := "PupilsPupilModel", name := "look", desc := "()I" } : Jvm.MethodName) prog_22_method_8_code (1 : Nat) (Option.some Jvm.ClassFile.FieldType.int)) ∈ lw_all := lw_g (lw_at lw_m8 131 rfl) rfl
theorem q1956 : (Jvm.Cond.methodLink "PupilsPupilModel" (383 : Nat) ({ cls := "PupilsPupilModel", name := "statementTold", desc := "()V" } : Jvm.MethodName)) ∈ lw_all := lw_g (lw_at lw_m8 132 rfl) rfl
theorem q1957 : (Jvm.Cond.privateMethod ({ cls := "PupilsPupilModel", name := "statementTold", desc := "()V" } : Jvm.MethodName)) ∈ lw_tbl := lw_at lw_m8 133 rfl
theorem q1958 : (Jvm.Cond.instanceMethod ({ cls := "PupilsPupilModel", name := "statementTold", desc := "()V" } : Jvm.MethodName)) ∈ lw_all := lw_g (lw_at lw_m8 134 rfl) rfl
theorem q1959 : (Jvm.Cond.code ({ cls := "PupilsPupilModel", name := "statementTold", desc := "()V" } : Jvm.MethodName) prog_22_method_27_code (2 : Nat) (Option.none : Option Jvm.ClassFile.FieldType)) ∈ lw_all := lw_g (lw_at lw_m8 135 rfl) rfl
theorem q1960 : (Jvm.Cond.methodLink "PupilsPupilModel" (287 : Nat) ({ cls := "PupilsPupilModel", name := "fail", desc := "(II)V" } : Jvm.MethodName)) ∈ lw_all := lw_g (lw_at lw_m8 136 rfl) rfl
theorem q1961 : (Jvm.Cond.privateMethod ({ cls := "PupilsPupilModel", name := "fail", desc := "(II)V" } : Jvm.MethodName)) ∈ lw_tbl := lw_at lw_m8 137 rfl
theorem q1962 : (Jvm.Cond.instanceMethod ({ cls := "PupilsPupilModel", name := "fail", desc := "(II)V" } : Jvm.MethodName)) ∈ lw_all := lw_g (lw_at lw_m8 138 rfl) rfl
theorem q1963 : (Jvm.Cond.code ({ cls := "PupilsPupilModel", name := "fail", desc := "(II)V" } : Jvm.MethodName) prog_22_method_5_code (3 : Nat) (Option.none : Option Jvm.ClassFile.FieldType)) ∈ lw_all := lw_g (lw_at lw_m8 139 rfl) rfl
theorem q1964 : (Jvm.Cond.methodLink "PupilsPupilModel" (284 : Nat) ({ cls := "PupilsPupilModel", name := "takes", desc := "([C)Z" } : Jvm.MethodName)) ∈ lw_all := lw_g (lw_at lw_m8 140 rfl) rfl
theorem q1965 : (Jvm.Cond.privateMethod ({ cls := "PupilsPupilModel", name := "takes", desc := "([C)Z" } : Jvm.MethodName)) ∈ lw_tbl := lw_at lw_m8 141 rfl
theorem q1966 : (Jvm.Cond.instanceMethod ({ cls := "PupilsPupilModel", name := "takes", desc := "([C)Z" } : Jvm.MethodName)) ∈ lw_all := lw_g (lw_at lw_m8 142 rfl) rfl
theorem q1967 : (Jvm.Cond.code ({ cls := "PupilsPupilModel", name := "takes", desc := "([C)Z" } : Jvm.MethodName) prog_22_method_10_code (2 : Nat) (Option.some Jvm.ClassFile.FieldType.boolean)) ∈ lw_all := lw_g (lw_at lw_m8 143 rfl) rfl
theorem q1968 : (Jvm.Cond.methodLink "PupilsPupilModel" (280 : Nat) ({ cls := "PupilsPupilModel", name := "isHere", desc := "([C)Z" } : Jvm.MethodName)) ∈ lw_all := lw_g (lw_at lw_m8 144 rfl) rfl
theorem q1969 : (Jvm.Cond.privateMethod ({ cls := "PupilsPupilModel", name := "isHere", desc := "([C)Z" } : Jvm.MethodName)) ∈ lw_tbl := lw_at lw_m8 145 rfl
theorem q1970 : (Jvm.Cond.instanceMethod ({ cls := "PupilsPupilModel", name := "isHere", desc := "([C)Z" } : Jvm.MethodName)) ∈ lw_all := lw_g (lw_at lw_m8 146 rfl) rfl
theorem q1971 : (Jvm.Cond.code ({ cls := "PupilsPupilModel", name := "isHere", desc := "([C)Z" } : Jvm.MethodName) prog_22_method_9_code (4 : Nat) (Option.some Jvm.ClassFile.FieldType.boolean)) ∈ lw_all := lw_g (lw_at lw_m8 147 rfl) rfl
theorem q1972 : (Jvm.Cond.methodLink "PupilsPupilModel" (273 : Nat) ({ cls := "PupilsPupilModel", name := "isLetter", desc := "(I)Z" } : Jvm.MethodName)) ∈ lw_all := lw_g (lw_at lw_m8 148 rfl) rfl
theorem q1973 : (Jvm.Cond.static ({ cls := "PupilsPupilModel", name := "isLetter", desc := "(I)Z" } : Jvm.MethodName)) ∈ lw_all := lw_g (lw_at lw_m8 149 rfl) rfl
theorem q1974 : (Jvm.Cond.code ({ cls := "PupilsPupilModel", name := "isLetter", desc := "(I)Z" } : Jvm.MethodName) prog_22_method_6_code (1 : Nat) (Option.some Jvm.ClassFile.FieldType.boolean)) ∈ lw_all := lw_g (lw_at lw_m8 150 rfl) rfl
theorem q1975 : (Jvm.Cond.methodLink "PupilsPupilModel" (363 : Nat) ({ cls := "PupilsPupilModel", name := "factTold", desc := "(I)V" } : Jvm.MethodName)) ∈ lw_all := lw_g (lw_at lw_m8 151 rfl) rfl
theorem q1976 : (Jvm.Cond.privateMethod ({ cls := "PupilsPupilModel", name := "factTold", desc := "(I)V" } : Jvm.MethodName)) ∈ lw_tbl := lw_at lw_m8 152 rfl
theorem q1977 : (Jvm.Cond.instanceMethod ({ cls := "PupilsPupilModel", name := "factTold", desc := "(I)V" } : Jvm.MethodName)) ∈ lw_all := lw_g (lw_at lw_m8 153 rfl) rfl
theorem q1978 : (Jvm.Cond.code ({ cls := "PupilsPupilModel", name := "factTold", desc := "(I)V" } : Jvm.MethodName) prog_22_method_22_code (5 : Nat) (Option.none : Option Jvm.ClassFile.FieldType)) ∈ lw_all := lw_g (lw_at lw_m8 154 rfl) rfl
theorem q1979 : (Jvm.Cond.methodLink "PupilsPupilModel" (323 : Nat) ({ cls := "PupilsPupilModel", name := "isFull", desc := "(III)Z" } : Jvm.MethodName)) ∈ lw_all := lw_g (lw_at lw_m8 155 rfl) rfl
theorem q1980 : (Jvm.Cond.privateMethod ({ cls := "PupilsPupilModel", name := "isFull", desc := "(III)Z" } : Jvm.MethodName)) ∈ lw_tbl := lw_at lw_m8 156 rfl
theorem q1981 : (Jvm.Cond.instanceMethod ({ cls := "PupilsPupilModel", name := "isFull", desc := "(III)Z" } : Jvm.MethodName)) ∈ lw_all := lw_g (lw_at lw_m8 157 rfl) rfl
theorem q1982 : (Jvm.Cond.code ({ cls := "PupilsPupilModel", name := "isFull", desc := "(III)Z" } : Jvm.MethodName) prog_22_method_18_code (4 : Nat) (Option.some Jvm.ClassFile.FieldType.boolean)) ∈ lw_all := lw_g (lw_at lw_m8 158 rfl) rfl
theorem q1983 : (Jvm.Cond.methodLink "PupilsPupilModel" (327 : Nat) ({ cls := "PupilsPupilModel", name := "newName", desc := "()J" } : Jvm.MethodName)) ∈ lw_all := lw_g (lw_at lw_m8 159 rfl) rfl
theorem q1984 : (Jvm.Cond.privateMethod ({ cls := "PupilsPupilModel", name := "newName", desc := "()J" } : Jvm.MethodName)) ∈ lw_tbl := lw_at lw_m8 160 rfl
theorem q1985 : (Jvm.Cond.instanceMethod ({ cls := "PupilsPupilModel", name := "newName", desc := "()J" } : Jvm.MethodName)) ∈ lw_all := lw_g (lw_at lw_m8 161 rfl) rfl
theorem q1986 : (Jvm.Cond.code ({ cls := "PupilsPupilModel", name := "newName", desc := "()J" } : Jvm.MethodName) prog_22_method_20_code (4 : Nat) (Option.some Jvm.ClassFile.FieldType.long)) ∈ lw_all := lw_g (lw_at lw_m8 162 rfl) rfl
theorem q1987 : (Jvm.Cond.methodLink "PupilsPupilModel" (315 : Nat) ({ cls := "PupilsPupilModel", name := "name", desc := "()J" } : Jvm.MethodName)) ∈ lw_all := lw_g (lw_at lw_m8 163 rfl) rfl
theorem q1988 : (Jvm.Cond.privateMethod ({ cls := "PupilsPupilModel", name := "name", desc := "()J" } : Jvm.MethodName)) ∈ lw_tbl := lw_at lw_m8 164 rfl
theorem q1989 : (Jvm.Cond.instanceMethod ({ cls := "PupilsPupilModel", name := "name", desc := "()J" } : Jvm.MethodName)) ∈ lw_all := lw_g (lw_at lw_m8 165 rfl) rfl
theorem q1990 : (Jvm.Cond.code ({ cls := "PupilsPupilModel", name := "name", desc := "()J" } : Jvm.MethodName) prog_22_method_16_code (3 : Nat) (Option.some Jvm.ClassFile.FieldType.long)) ∈ lw_all := lw_g (lw_at lw_m8 166 rfl) rfl
theorem q1991 : (Jvm.Cond.methodLink "PupilsPupilModel" (301 : Nat) ({ cls := "PupilsPupilModel", name := "isOwnHere", desc := "()Z" } : Jvm.MethodName)) ∈ lw_all := lw_g (lw_at lw_m8 167 rfl) rfl
theorem q1992 : (Jvm.Cond.privateMethod ({ cls := "PupilsPupilModel", name := "isOwnHere", desc := "()Z" } : Jvm.MethodName)) ∈ lw_tbl := lw_at lw_m8 168 rfl
theorem q1993 : (Jvm.Cond.instanceMethod ({ cls := "PupilsPupilModel", name := "isOwnHere", desc := "()Z" } : Jvm.MethodName)) ∈ lw_all := lw_g (lw_at lw_m8 169 rfl) rfl
theorem q1994 : (Jvm.Cond.code ({ cls := "PupilsPupilModel", name := "isOwnHere", desc := "()Z" } : Jvm.MethodName) prog_22_method_15_code (2 : Nat) (Option.some Jvm.ClassFile.FieldType.boolean)) ∈ lw_all := lw_g (lw_at lw_m8 170 rfl) rfl
theorem q1995 : (Jvm.Cond.constantLong "PupilsPupilModel" (308 : Nat) (27 : Int64)) ∈ lw_all := lw_g (lw_at lw_m8 171 rfl) rfl
theorem q1996 : (Jvm.Cond.constantLong "PupilsPupilModel" (310 : Nat) (97 : Int64)) ∈ lw_all := lw_g (lw_at lw_m8 172 rfl) rfl
theorem q1997 : (Jvm.Cond.methodLink "PupilsPupilModel" (319 : Nat) ({ cls := "PupilsPupilModel", name := "nameOf", desc := "(IJ)I" } : Jvm.MethodName)) ∈ lw_all := lw_g (lw_at lw_m8 173 rfl) rfl
theorem q1998 : (Jvm.Cond.privateMethod ({ cls := "PupilsPupilModel", name := "nameOf", desc := "(IJ)I" } : Jvm.MethodName)) ∈ lw_tbl := lw_at lw_m8 174 rfl
theorem q1999 : (Jvm.Cond.instanceMethod ({ cls := "PupilsPupilModel", name := "nameOf", desc := "(IJ)I" } : Jvm.MethodName)) ∈ lw_all := lw_g (lw_at lw_m8 175 rfl) rfl
theorem q2000 : (Jvm.Cond.code ({ cls := "PupilsPupilModel", name := "nameOf", desc := "(IJ)I" } : Jvm.MethodName) prog_22_method_19_code (5 : Nat) (Option.some Jvm.ClassFile.FieldType.int)) ∈ lw_all := lw_g (lw_at lw_m8 176 rfl) rfl
theorem q2001 : (Jvm.Cond.methodLink "PupilsPupilModel" (330 : Nat) ({ cls := "PupilsPupilModel", name := "asks", desc := "([C)V" } : Jvm.MethodName)) ∈ lw_all := lw_g (lw_at lw_m8 177 rfl) rfl
theorem q2002 : (Jvm.Cond.privateMethod ({ cls := "PupilsPupilModel", name := "asks", desc := "([C)V" } : Jvm.MethodName)) ∈ lw_tbl := lw_at lw_m8 178 rfl
theorem q2003 : (Jvm.Cond.instanceMethod ({ cls := "PupilsPupilModel", name := "asks", desc := "([C)V" } : Jvm.MethodName)) ∈ lw_all := lw_g (lw_at lw_m8 179 rfl) rfl
theorem q2004 : (Jvm.Cond.code ({ cls := "PupilsPupilModel", name := "asks", desc := "([C)V" } : Jvm.MethodName) prog_22_method_11_code (2 : Nat) (Option.none : Option Jvm.ClassFile.FieldType)) ∈ lw_all := lw_g (lw_at lw_m8 180 rfl) rfl
theorem q2005 : (Jvm.Cond.methodLink "PupilsPupilModel" (334 : Nat) ({ cls := "PupilsPupilModel", name := "number", desc := "(II)I" } : Jvm.MethodName)) ∈ lw_all := lw_g (lw_at lw_m8 181 rfl) rfl
theorem q2006 : (Jvm.Cond.privateMethod ({ cls := "PupilsPupilModel", name := "number", desc := "(II)I" } : Jvm.MethodName)) ∈ lw_tbl := lw_at lw_m8 182 rfl
theorem q2007 : (Jvm.Cond.instanceMethod ({ cls := "PupilsPupilModel", name := "number", desc := "(II)I" } : Jvm.MethodName)) ∈ lw_all := lw_g (lw_at lw_m8 183 rfl) rfl
theorem q2008 : (Jvm.Cond.code ({ cls := "PupilsPupilModel", name := "number", desc := "(II)I" } : Jvm.MethodName) prog_22_method_14_code (5 : Nat) (Option.some Jvm.ClassFile.FieldType.int)) ∈ lw_all := lw_g (lw_at lw_m8 184 rfl) rfl
theorem q2009 : (Jvm.Cond.methodLink "PupilsPupilModel" (294 : Nat) ({ cls := "PupilsPupilModel", name := "isDigit", desc := "(I)Z" } : Jvm.MethodName)) ∈ lw_all := lw_g (lw_at lw_m8 185 rfl) rfl
theorem q2010 : (Jvm.Cond.static ({ cls := "PupilsPupilModel", name := "isDigit", desc := "(I)Z" } : Jvm.MethodName)) ∈ lw_all := lw_g (lw_at lw_m8 186 rfl) rfl
theorem q2011 : (Jvm.Cond.code ({ cls := "PupilsPupilModel", name := "isDigit", desc := "(I)Z" } : Jvm.MethodName) prog_22_method_7_code (1 : Nat) (Option.some Jvm.ClassFile.FieldType.boolean)) ∈ lw_all := lw_g (lw_at lw_m8 187 rfl) rfl
theorem q2012 : (Jvm.Cond.methodLink "PupilsPupilModel" (297 : Nat) ({ cls := "PupilsPupilModel", name := "isIn", desc := "(JJJ)Z" } : Jvm.MethodName)) ∈ lw_all := lw_g (lw_at lw_m8 188 rfl) rfl
theorem q2013 : (Jvm.Cond.static ({ cls := "PupilsPupilModel", name := "isIn", desc := "(JJJ)Z" } : Jvm.MethodName)) ∈ lw_all := lw_g (lw_at lw_m8 189 rfl) rfl
theorem q2014 : (Jvm.Cond.code ({ cls := "PupilsPupilModel", name := "isIn", desc := "(JJJ)Z" } : Jvm.MethodName) prog_22_method_2_code (6 : Nat) (Option.some Jvm.ClassFile.FieldType.boolean)) ∈ lw_all := lw_g (lw_at lw_m8 190 rfl) rfl
theorem q2015 : (Jvm.Cond.methodLink "PupilsPupilModel" (367 : Nat) ({ cls := "PupilsPupilModel", name := "personTold", desc := "(I)V" } : Jvm.MethodName)) ∈ lw_all := lw_g (lw_at lw_m8 191 rfl) rfl
theorem q2016 : (Jvm.Cond.privateMethod ({ cls := "PupilsPupilModel", name := "personTold", desc := "(I)V" } : Jvm.MethodName)) ∈ lw_tbl := lw_at lw_m8 192 rfl
theorem q2017 : (Jvm.Cond.instanceMethod ({ cls := "PupilsPupilModel", name := "personTold", desc := "(I)V" } : Jvm.MethodName)) ∈ lw_all := lw_g (lw_at lw_m8 193 rfl) rfl
theorem q2018 : (Jvm.Cond.code ({ cls := "PupilsPupilModel", name := "personTold", desc := "(I)V" } : Jvm.MethodName) prog_22_method_23_code (5 : Nat) (Option.none : Option Jvm.ClassFile.FieldType)) ∈ lw_all := lw_g (lw_at lw_m8 194 rfl) rfl
theorem q2019 : (Jvm.Cond.methodLink "PupilsPupilModel" (370 : Nat) ({ cls := "PupilsPupilModel", name := "beliefTold", desc := "(Z)V" } : Jvm.MethodName)) ∈ lw_all := lw_g (lw_at lw_m8 195 rfl) rfl
theorem q2020 : (Jvm.Cond.privateMethod ({ cls := "PupilsPupilModel", name := "beliefTold", desc := "(Z)V" } : Jvm.MethodName)) ∈ lw_tbl := lw_at lw_m8 196 rfl
theorem q2021 : (Jvm.Cond.instanceMethod ({ cls := "PupilsPupilModel", name := "beliefTold", desc := "(Z)V" } : Jvm.MethodName)) ∈ lw_all := lw_g (lw_at lw_m8 197 rfl) rfl
theorem q2022 : (Jvm.Cond.code ({ cls := "PupilsPupilModel", name := "beliefTold", desc := "(Z)V" } : Jvm.MethodName) prog_22_method_24_code (4 : Nat) (Option.none : Option Jvm.ClassFile.FieldType)) ∈ lw_all := lw_g (lw_at lw_m8 198 rfl) rfl
theorem q2023 : (Jvm.Cond.methodLink "PupilsPupilModel" (338 : Nat) ({ cls := "PupilsPupilModel", name := "oneOf", desc := "(I)I" } : Jvm.MethodName)) ∈ lw_all := lw_g (lw_at lw_m8 199 rfl) rfl
theorem q2024 : (Jvm.Cond.privateMethod ({ cls := "PupilsPupilModel", name := "oneOf", desc := "(I)I" } : Jvm.MethodName)) ∈ lw_tbl := lw_at lw_m8 200 rfl
theorem q2025 : (Jvm.Cond.instanceMethod ({ cls := "PupilsPupilModel", name := "oneOf", desc := "(I)I" } : Jvm.MethodName)) ∈ lw_all := lw_g (lw_at lw_m8 201 rfl) rfl
theorem q2026 : (Jvm.Cond.code ({ cls := "PupilsPupilModel", name := "oneOf", desc := "(I)I" } : Jvm.MethodName) prog_22_method_21_code (5 : Nat) (Option.some Jvm.ClassFile.FieldType.int)) ∈ lw_all := lw_g (lw_at lw_m8 202 rfl) rfl
theorem q2027 : (Jvm.Cond.methodLink "PupilsPupilModel" (374 : Nat) ({ cls := "PupilsPupilModel", name := "taughtTold", desc := "()V" } : Jvm.MethodName)) ∈ lw_all := lw_g (lw_at lw_m8 203 rfl) rfl
theorem q2028 : (Jvm.Cond.privateMethod ({ cls := "PupilsPupilModel", name := "taughtTold", desc := "()V" } : Jvm.MethodName)) ∈ lw_tbl := lw_at lw_m8 204 rfl
theorem q2029 : (Jvm.Cond.instanceMethod ({ cls := "PupilsPupilModel", name := "taughtTold", desc := "()V" } : Jvm.MethodName)) ∈ lw_all := lw_g (lw_at lw_m8 205 rfl) rfl
theorem q2030 : (Jvm.Cond.code ({ cls := "PupilsPupilModel", name := "taughtTold", desc := "()V" } : Jvm.MethodName) prog_22_method_25_code (4 : Nat) (Option.none : Option Jvm.ClassFile.FieldType)) ∈ lw_all := lw_g (lw_at lw_m8 206 rfl) rfl
theorem q2031 : (Jvm.Cond.methodLink "PupilsPupilModel" (377 : Nat) ({ cls := "PupilsPupilModel", name := "codesTold", desc := "(II)V" } : Jvm.MethodName)) ∈ lw_all := lw_g (lw_at lw_m8 207 rfl) rfl
theorem q2032 : (Jvm.Cond.privateMethod ({ cls := "PupilsPupilModel", name := "codesTold", desc := "(II)V" } : Jvm.MethodName)) ∈ lw_tbl := lw_at lw_m8 208 rfl
theorem q2033 : (Jvm.Cond.instanceMethod ({ cls := "PupilsPupilModel", name := "codesTold", desc := "(II)V" } : Jvm.MethodName)) ∈ lw_all := lw_g (lw_at lw_m8 209 rfl) rfl
theorem q2034 : (Jvm.Cond.code ({ cls := "PupilsPupilModel", name := "codesTold", desc := "(II)V" } : Jvm.MethodName) prog_22_method_26_code (4 : Nat) (Option.none : Option Jvm.ClassFile.FieldType)) ∈ lw_all := lw_g (lw_at lw_m8 210 rfl) rfl
theorem q2035 : (Jvm.Cond.methodLink "PupilsPupilModel" (354 : Nat) ({ cls := "PupilsPupilModel", name := "qTest", desc := "()V" } : Jvm.MethodName)) ∈ lw_all := lw_g (lw_at lw_m8 211 rfl) rfl
theorem q2036 : (Jvm.Cond.privateMethod ({ cls := "PupilsPupilModel", name := "qTest", desc := "()V" } : Jvm.MethodName)) ∈ lw_tbl := lw_at lw_m8 212 rfl
theorem q2037 : (Jvm.Cond.instanceMethod ({ cls := "PupilsPupilModel", name := "qTest", desc := "()V" } : Jvm.MethodName)) ∈ lw_all := lw_g (lw_at lw_m8 213 rfl) rfl
theorem q2038 : (Jvm.Cond.code ({ cls := "PupilsPupilModel", name := "qTest", desc := "()V" } : Jvm.MethodName) prog_22_method_110_code (3 : Nat) (Option.none : Option Jvm.ClassFile.FieldType)) ∈ lw_all := lw_g (lw_at lw_m8 214 rfl) rfl
theorem q2039 : (Jvm.Cond.methodLink "PupilsPupilModel" (579 : Nat) ({ cls := "PupilsPupilModel", name := "qOpens", desc := "(II)V" } : Jvm.MethodName)) ∈ lw_all := lw_g (lw_at lw_m8 215 rfl) rfl
theorem q2040 : (Jvm.Cond.privateMethod ({ cls := "PupilsPupilModel", name := "qOpens", desc := "(II)V" } : Jvm.MethodName)) ∈ lw_tbl := lw_at lw_m8 216 rfl
theorem q2041 : (Jvm.Cond.instanceMethod ({ cls := "PupilsPupilModel", name := "qOpens", desc := "(II)V" } : Jvm.MethodName)) ∈ lw_all := lw_g (lw_at lw_m8 217 rfl) rfl
theorem q2042 : (Jvm.Cond.code ({ cls := "PupilsPupilModel", name := "qOpens", desc := "(II)V" } : Jvm.MethodName) prog_22_method_94_code (3 : Nat) (Option.none : Option Jvm.ClassFile.FieldType)) ∈ lw_all := lw_g (lw_at lw_m8 218 rfl) rfl
theorem q2043 : (Jvm.Cond.methodLink "PupilsPupilModel" (606 : Nat) ({ cls := "PupilsPupilModel", name := "qFact", desc := "()V" } : Jvm.MethodName)) ∈ lw_all := lw_g (lw_at lw_m8 219 rfl) rfl
theorem q2044 : (Jvm.Cond.privateMethod ({ cls := "PupilsPupilModel", name := "qFact", desc := "()V" } : Jvm.MethodName)) ∈ lw_tbl := lw_at lw_m8 220 rfl
theorem q2045 : (Jvm.Cond.instanceMethod ({ cls := "PupilsPupilModel", name := "qFact", desc := "()V" } : Jvm.MethodName)) ∈ lw_all := lw_g (lw_at lw_m8 221 rfl) rfl
theorem q2046 : (Jvm.Cond.code ({ cls := "PupilsPupilModel", name := "qFact", desc := "()V" } : Jvm.MethodName) prog_22_method_107_code (2 : Nat) (Option.none : Option Jvm.ClassFile.FieldType)) ∈ lw_all := lw_g (lw_at lw_m8 222 rfl) rfl
theorem q2047 : (Jvm.Cond.methodLink "PupilsPupilModel" (561 : Nat) ({ cls := "PupilsPupilModel", name := "qCode", desc := "(I)V" } : Jvm.MethodName)) ∈ lw_all := lw_g (lw_at lw_m8 223 rfl) rfl
theorem q2048 : (Jvm.Cond.privateMethod ({ cls := "PupilsPupilModel", name := "qCode", desc := "(I)V" } : Jvm.MethodName)) ∈ lw_tbl := lw_at lw_m8 224 rfl
theorem q2049 : (Jvm.Cond.instanceMethod ({ cls := "PupilsPupilModel", name := "qCode", desc := "(I)V" } : Jvm.MethodName)) ∈ lw_all := lw_g (lw_at lw_m8 225 rfl) rfl
theorem q2050 : (Jvm.Cond.code ({ cls := "PupilsPupilModel", name := "qCode", desc := "(I)V" } : Jvm.MethodName) prog_22_method_93_code (2 : Nat) (Option.none : Option Jvm.ClassFile.FieldType)) ∈ lw_all := lw_g (lw_at lw_m8 226 rfl) rfl
theorem q2051 : (Jvm.Cond.methodLink "PupilsPupilModel" (603 : Nat) ({ cls := "PupilsPupilModel", name := "qSums", desc := "()V" } : Jvm.MethodName)) ∈ lw_all := lw_g (lw_at lw_m8 227 rfl) rfl
theorem q2052 : (Jvm.Cond.privateMethod ({ cls := "PupilsPupilModel", name := "qSums", desc := "()V" } : Jvm.MethodName)) ∈ lw_tbl := lw_at lw_m8 228 rfl
theorem q2053 : (Jvm.Cond.instanceMethod ({ cls := "PupilsPupilModel", name := "qSums", desc := "()V" } : Jvm.MethodName)) ∈ lw_all := lw_g (lw_at lw_m8 229 rfl) rfl
theorem q2054 : (Jvm.Cond.code ({ cls := "PupilsPupilModel", name := "qSums", desc := "()V" } : Jvm.MethodName) prog_22_method_106_code (3 : Nat) (Option.none : Option Jvm.ClassFile.FieldType)) ∈ lw_all := lw_g (lw_at lw_m8 230 rfl) rfl
theorem q2055 : (Jvm.Cond.methodLink "PupilsPupilModel" (597 : Nat) ({ cls := "PupilsPupilModel", name := "qPartTold", desc := "()V" } : Jvm.MethodName)) ∈ lw_all := lw_g (lw_at lw_m8 231 rfl) rfl
theorem q2056 : (Jvm.Cond.privateMethod ({ cls := "PupilsPupilModel", name := "qPartTold", desc := "()V" } : Jvm.MethodName)) ∈ lw_tbl := lw_at lw_m8 232 rfl
theorem q2057 : (Jvm.Cond.instanceMethod ({ cls := "PupilsPupilModel", name := "qPartTold", desc := "()V" } : Jvm.MethodName)) ∈ lw_all := lw_g (lw_at lw_m8 233 rfl) rfl
theorem q2058 : (Jvm.Cond.code ({ cls := "PupilsPupilModel", name := "qPartTold", desc := "()V" } : Jvm.MethodName) prog_22_method_104_code (6 : Nat) (Option.none : Option Jvm.ClassFile.FieldType)) ∈ lw_all := lw_g (lw_at lw_m8 234 rfl) rfl
theorem q2059 : (Jvm.Cond.methodLink "PupilsPupilModel" (576 : Nat) ({ cls := "PupilsPupilModel", name := "qWordOf", desc := "(II)I" } : Jvm.MethodName)) ∈ lw_all := lw_g (lw_at lw_m8 235 rfl) rfl
theorem q2060 : (Jvm.Cond.privateMethod ({ cls := "PupilsPupilModel", name := "qWordOf", desc := "(II)I" } : Jvm.MethodName)) ∈ lw_tbl := lw_at lw_m8 236 rfl
theorem q2061 : (Jvm.Cond.instanceMethod ({ cls := "PupilsPupilModel", name := "qWordOf", desc := "(II)I" } : Jvm.MethodName)) ∈ lw_all := lw_g (lw_at lw_m8 237 rfl) rfl
theorem q2062 : (Jvm.Cond.code ({ cls := "PupilsPupilModel", name := "qWordOf", desc := "(II)I" } : Jvm.MethodName) prog_22_method_101_code (4 : Nat) (Option.some Jvm.ClassFile.FieldType.int)) ∈ lw_all := lw_g (lw_at lw_m8 238 rfl) rfl
theorem q2063 : (Jvm.Cond.methodLink "PupilsPupilModel" (570 : Nat) ({ cls := "PupilsPupilModel", name := "qWordHere", desc := "()I" } : Jvm.MethodName)) ∈ lw_all := lw_g (lw_at lw_m8 239 rfl) rfl
theorem q2064 : (Jvm.Cond.privateMethod ({ cls := "PupilsPupilModel", name := "qWordHere", desc := "()I" } : Jvm.MethodName)) ∈ lw_tbl := lw_at lw_m9 0 rfl
theorem q2065 : (Jvm.Cond.instanceMethod ({ cls := "PupilsPupilModel", name := "qWordHere", desc := "()I" } : Jvm.MethodName)) ∈ lw_all := lw_g (lw_at lw_m9 1 rfl) rfl
theorem q2066 : (Jvm.Cond.code ({ cls := "PupilsPupilModel", name := "qWordHere", desc := "()I" } : Jvm.MethodName) prog_22_method_100_code (1 : Nat) (Option.some Jvm.ClassFile.FieldType.int)) ∈ lw_all := lw_g (lw_at lw_m9 2 rfl) rfl
theorem q2067 : (Jvm.Cond.methodLink "PupilsPupilModel" (573 : Nat) ({ cls := "PupilsPupilModel", name := "isAllowed", desc := "(I)Z" } : Jvm.MethodName)) ∈ lw_all := lw_g (lw_at lw_m9 3 rfl) rfl
theorem q2068 : (Jvm.Cond.privateMethod ({ cls := "PupilsPupilModel", name := "isAllowed", desc := "(I)Z" } : Jvm.MethodName)) ∈ lw_tbl := lw_at lw_m9 4 rfl
theorem q2069 : (Jvm.Cond.instanceMethod ({ cls := "PupilsPupilModel", name := "isAllowed", desc := "(I)Z" } : Jvm.MethodName)) ∈ lw_all := lw_g (lw_at lw_m9 5 rfl) rfl
theorem q2070 : (Jvm.Cond.code ({ cls := "PupilsPupilModel", name := "isAllowed", desc := "(I)Z" } : Jvm.MethodName) prog_22_method_17_code (2 : Nat) (Option.some Jvm.ClassFile.FieldType.boolean)) ∈ lw_all := lw_g (lw_at lw_m9 6 rfl) rfl
theorem q2071 : (Jvm.Cond.methodLink "PupilsPupilModel" (380 : Nat) ({ cls := "PupilsPupilModel", name := "asksSign", desc := "(I)V" } : Jvm.MethodName)) ∈ lw_all := lw_g (lw_at lw_m9 7 rfl) rfl
theorem q2072 : (Jvm.Cond.privateMethod ({ cls := "PupilsPupilModel", name := "asksSign", desc := "(I)V" } : Jvm.MethodName)) ∈ lw_tbl := lw_at lw_m9 8 rfl
theorem q2073 : (Jvm.Cond.instanceMethod ({ cls := "PupilsPupilModel", name := "asksSign", desc := "(I)V" } : Jvm.MethodName)) ∈ lw_all := lw_g (lw_at lw_m9 9 rfl) rfl
theorem q2074 : (Jvm.Cond.code ({ cls := "PupilsPupilModel", name := "asksSign", desc := "(I)V" } : Jvm.MethodName) prog_22_method_13_code (2 : Nat) (Option.none : Option Jvm.ClassFile.FieldType)) ∈ lw_all := lw_g (lw_at lw_m9 10 rfl) rfl
theorem q2075 : (Jvm.Cond.methodLink "PupilsPupilModel" (291 : Nat) ({ cls := "PupilsPupilModel", name := "takesSign", desc := "(I)Z" } : Jvm.MethodName)) ∈ lw_all := lw_g (lw_at lw_m9 11 rfl) rfl
theorem q2076 : (Jvm.Cond.privateMethod ({ cls := "PupilsPupilModel", name := "takesSign", desc := "(I)Z" } : Jvm.MethodName)) ∈ lw_tbl := lw_at lw_m9 12 rfl
theorem q2077 : (Jvm.Cond.instanceMethod ({ cls := "PupilsPupilModel", name := "takesSign", desc := "(I)Z" } : Jvm.MethodName)) ∈ lw_all := lw_g (lw_at lw_m9 13 rfl) rfl
theorem q2078 : (Jvm.Cond.code ({ cls := "PupilsPupilModel", name := "takesSign", desc := "(I)Z" } : Jvm.MethodName) prog_22_method_12_code (2 : Nat) (Option.some Jvm.ClassFile.FieldType.boolean)) ∈ lw_all := lw_g (lw_at lw_m9 14 rfl) rfl
theorem q2079 : (Jvm.Cond.methodLink "PupilsPupilModel" (582 : Nat) ({ cls := "PupilsPupilModel", name := "qAsksWord", desc := "(I)V" } : Jvm.MethodName)) ∈ lw_all := lw_g (lw_at lw_m9 15 rfl) rfl
theorem q2080 : (Jvm.Cond.privateMethod ({ cls := "PupilsPupilModel", name := "qAsksWord", desc := "(I)V" } : Jvm.MethodName)) ∈ lw_tbl := lw_at lw_m9 16 rfl
theorem q2081 : (Jvm.Cond.instanceMethod ({ cls := "PupilsPupilModel", name := "qAsksWord", desc := "(I)V" } : Jvm.MethodName)) ∈ lw_all := lw_g (lw_at lw_m9 17 rfl) rfl
theorem q2082 : (Jvm.Cond.code ({ cls := "PupilsPupilModel", name := "qAsksWord", desc := "(I)V" } : Jvm.MethodName) prog_22_method_102_code (2 : Nat) (Option.none : Option Jvm.ClassFile.FieldType)) ∈ lw_all := lw_g (lw_at lw_m9 18 rfl) rfl
theorem q2083 : (Jvm.Cond.methodLink "PupilsPupilModel" (585 : Nat) ({ cls := "PupilsPupilModel", name := "qEndsPart", desc := "()V" } : Jvm.MethodName)) ∈ lw_all := lw_g (lw_at lw_m9 19 rfl) rfl
theorem q2084 : (Jvm.Cond.privateMethod ({ cls := "PupilsPupilModel", name := "qEndsPart", desc := "()V" } : Jvm.MethodName)) ∈ lw_tbl := lw_at lw_m9 20 rfl
theorem q2085 : (Jvm.Cond.instanceMethod ({ cls := "PupilsPupilModel", name := "qEndsPart", desc := "()V" } : Jvm.MethodName)) ∈ lw_all := lw_g (lw_at lw_m9 21 rfl) rfl
theorem q2086 : (Jvm.Cond.code ({ cls := "PupilsPupilModel", name := "qEndsPart", desc := "()V" } : Jvm.MethodName) prog_22_method_103_code (1 : Nat) (Option.none : Option Jvm.ClassFile.FieldType)) ∈ lw_all := lw_g (lw_at lw_m9 22 rfl) rfl
theorem q2087 : (Jvm.Cond.methodLink "PupilsPupilModel" (567 : Nat) ({ cls := "PupilsPupilModel", name := "qDrops", desc := "()V" } : Jvm.MethodName)) ∈ lw_all := lw_g (lw_at lw_m9 23 rfl) rfl
theorem q2088 : (Jvm.Cond.privateMethod ({ cls := "PupilsPupilModel", name := "qDrops", desc := "()V" } : Jvm.MethodName)) ∈ lw_tbl := lw_at lw_m9 24 rfl
theorem q2089 : (Jvm.Cond.instanceMethod ({ cls := "PupilsPupilModel", name := "qDrops", desc := "()V" } : Jvm.MethodName)) ∈ lw_all := lw_g (lw_at lw_m9 25 rfl) rfl
theorem q2090 : (Jvm.Cond.code ({ cls := "PupilsPupilModel", name := "qDrops", desc := "()V" } : Jvm.MethodName) prog_22_method_96_code (1 : Nat) (Option.none : Option Jvm.ClassFile.FieldType)) ∈ lw_all := lw_g (lw_at lw_m9 26 rfl) rfl
theorem q2091 : (Jvm.Cond.methodLink "PupilsPupilModel" (600 : Nat) ({ cls := "PupilsPupilModel", name := "qGoesOn", desc := "()Z" } : Jvm.MethodName)) ∈ lw_all := lw_g (lw_at lw_m9 27 rfl) rfl
theorem q2092 : (Jvm.Cond.privateMethod ({ cls := "PupilsPupilModel", name := "qGoesOn", desc := "()Z" } : Jvm.MethodName)) ∈ lw_tbl := lw_at lw_m9 28 rfl
theorem q2093 : (Jvm.Cond.instanceMethod ({ cls := "PupilsPupilModel", name := "qGoesOn", desc := "()Z" } : Jvm.MethodName)) ∈ lw_all := lw_g (lw_at lw_m9 29 rfl) rfl
theorem q2094 : (Jvm.Cond.code ({ cls := "PupilsPupilModel", name := "qGoesOn", desc := "()Z" } : Jvm.MethodName) prog_22_method_105_code (2 : Nat) (Option.some Jvm.ClassFile.FieldType.boolean)) ∈ lw_all := lw_g (lw_at lw_m9 30 rfl) rfl
theorem q2095 : (Jvm.Cond.methodLink "PupilsPupilModel" (588 : Nat) ({ cls := "PupilsPupilModel", name := "qBracket", desc := "()I" } : Jvm.MethodName)) ∈ lw_all := lw_g (lw_at lw_m9 31 rfl) rfl
theorem q2096 : (Jvm.Cond.privateMethod ({ cls := "PupilsPupilModel", name := "qBracket", desc := "()I" } : Jvm.MethodName)) ∈ lw_tbl := lw_at lw_m9 32 rfl
theorem q2097 : (Jvm.Cond.instanceMethod ({ cls := "PupilsPupilModel", name := "qBracket", desc := "()I" } : Jvm.MethodName)) ∈ lw_all := lw_g (lw_at lw_m9 33 rfl) rfl
theorem q2098 : (Jvm.Cond.code ({ cls := "PupilsPupilModel", name := "qBracket", desc := "()I" } : Jvm.MethodName) prog_22_method_98_code (2 : Nat) (Option.some Jvm.ClassFile.FieldType.int)) ∈ lw_all := lw_g (lw_at lw_m9 34 rfl) rfl
theorem q2099 : (Jvm.Cond.methodLink "PupilsPupilModel" (564 : Nat) ({ cls := "PupilsPupilModel", name := "qIsBracket", desc := "(I)Z" } : Jvm.MethodName)) ∈ lw_all := lw_g (lw_at lw_m9 35 rfl) rfl
theorem q2100 : (Jvm.Cond.static ({ cls := "PupilsPupilModel", name := "qIsBracket", desc := "(I)Z" } : Jvm.MethodName)) ∈ lw_all := lw_g (lw_at lw_m9 36 rfl) rfl
theorem q2101 : (Jvm.Cond.code ({ cls := "PupilsPupilModel", name := "qIsBracket", desc := "(I)Z" } : Jvm.MethodName) prog_22_method_97_code (1 : Nat) (Option.some Jvm.ClassFile.FieldType.boolean)) ∈ lw_all := lw_g (lw_at lw_m9 37 rfl) rfl
theorem q2102 : (Jvm.Cond.methodLink "PupilsPupilModel" (591 : Nat) ({ cls := "PupilsPupilModel", name := "qDropsToBracket", desc := "()V" } : Jvm.MethodName)) ∈ lw_all := lw_g (lw_at lw_m9 38 rfl) rfl
theorem q2103 : (Jvm.Cond.privateMethod ({ cls := "PupilsPupilModel", name := "qDropsToBracket", desc := "()V" } : Jvm.MethodName)) ∈ lw_tbl := lw_at lw_m9 39 rfl
theorem q2104 : (Jvm.Cond.instanceMethod ({ cls := "PupilsPupilModel", name := "qDropsToBracket", desc := "()V" } : Jvm.MethodName)) ∈ lw_all := lw_g (lw_at lw_m9 40 rfl) rfl
theorem q2105 : (Jvm.Cond.code ({ cls := "PupilsPupilModel", name := "qDropsToBracket", desc := "()V" } : Jvm.MethodName) prog_22_method_99_code (1 : Nat) (Option.none : Option Jvm.ClassFile.FieldType)) ∈ lw_all := lw_g (lw_at lw_m9 41 rfl) rfl
theorem q2106 : (Jvm.Cond.methodLink "PupilsPupilModel" (594 : Nat) ({ cls := "PupilsPupilModel", name := "qIsOn", desc := "(I)Z" } : Jvm.MethodName)) ∈ lw_all := lw_g (lw_at lw_m9 42 rfl) rfl
theorem q2107 : (Jvm.Cond.privateMethod ({ cls := "PupilsPupilModel", name := "qIsOn", desc := "(I)Z" } : Jvm.MethodName)) ∈ lw_tbl := lw_at lw_m9 43 rfl
theorem q2108 : (Jvm.Cond.instanceMethod ({ cls := "PupilsPupilModel", name := "qIsOn", desc := "(I)Z" } : Jvm.MethodName)) ∈ lw_all := lw_g (lw_at lw_m9 44 rfl) rfl
theorem q2109 : (Jvm.Cond.code ({ cls := "PupilsPupilModel", name := "qIsOn", desc := "(I)Z" } : Jvm.MethodName) prog_22_method_95_code (2 : Nat) (Option.some Jvm.ClassFile.FieldType.boolean)) ∈ lw_all := lw_g (lw_at lw_m9 45 rfl) rfl
theorem q2110 : (Jvm.Cond.methodLink "PupilsPupilModel" (609 : Nat) ({ cls := "PupilsPupilModel", name := "qDropsNots", desc := "()V" } : Jvm.MethodName)) ∈ lw_all := lw_g (lw_at lw_m9 46 rfl) rfl
theorem q2111 : (Jvm.Cond.privateMethod ({ cls := "PupilsPupilModel", name := "qDropsNots", desc := "()V" } : Jvm.MethodName)) ∈ lw_tbl := lw_at lw_m9 47 rfl
theorem q2112 : (Jvm.Cond.instanceMethod ({ cls := "PupilsPupilModel", name := "qDropsNots", desc := "()V" } : Jvm.MethodName)) ∈ lw_all := lw_g (lw_at lw_m9 48 rfl) rfl
theorem q2113 : (Jvm.Cond.code ({ cls := "PupilsPupilModel", name := "qDropsNots", desc := "()V" } : Jvm.MethodName) prog_22_method_109_code (1 : Nat) (Option.none : Option Jvm.ClassFile.FieldType)) ∈ lw_all := lw_g (lw_at lw_m9 49 rfl) rfl
theorem q2114 : (Jvm.Cond.methodLink "PupilsPupilModel" (612 : Nat) ({ cls := "PupilsPupilModel", name := "qGoesOnTest", desc := "()Z" } : Jvm.MethodName)) ∈ lw_all := lw_g (lw_at lw_m9 50 rfl) rfl
theorem q2115 : (Jvm.Cond.privateMethod ({ cls := "PupilsPupilModel", name := "qGoesOnTest", desc := "()Z" } : Jvm.MethodName)) ∈ lw_tbl := lw_at lw_m9 51 rfl
theorem q2116 : (Jvm.Cond.instanceMethod ({ cls := "PupilsPupilModel", name := "qGoesOnTest", desc := "()Z" } : Jvm.MethodName)) ∈ lw_all := lw_g (lw_at lw_m9 52 rfl) rfl
theorem q2117 : (Jvm.Cond.code ({ cls := "PupilsPupilModel", name := "qGoesOnTest", desc := "()Z" } : Jvm.MethodName) prog_22_method_111_code (1 : Nat) (Option.some Jvm.ClassFile.FieldType.boolean)) ∈ lw_all := lw_g (lw_at lw_m9 53 rfl) rfl
theorem q2118 : (Jvm.Cond.methodLink "PupilsPupilModel" (615 : Nat) ({ cls := "PupilsPupilModel", name := "qHasSquare", desc := "()Z" } : Jvm.MethodName)) ∈ lw_all := lw_g (lw_at lw_m9 54 rfl) rfl
theorem q2119 : (Jvm.Cond.privateMethod ({ cls := "PupilsPupilModel", name := "qHasSquare", desc := "()Z" } : Jvm.MethodName)) ∈ lw_tbl := lw_at lw_m9 55 rfl
theorem q2120 : (Jvm.Cond.instanceMethod ({ cls := "PupilsPupilModel", name := "qHasSquare", desc := "()Z" } : Jvm.MethodName)) ∈ lw_all := lw_g (lw_at lw_m9 56 rfl) rfl
theorem q2121 : (Jvm.Cond.code ({ cls := "PupilsPupilModel", name := "qHasSquare", desc := "()Z" } : Jvm.MethodName) prog_22_method_108_code (2 : Nat) (Option.some Jvm.ClassFile.FieldType.boolean)) ∈ lw_all := lw_g (lw_at lw_m9 57 rfl) rfl
theorem q2122 : (Jvm.Cond.methodLink "PupilsPupilModel" (389 : Nat) ({ cls := "PupilsPupilModel", name := "stands", desc := "()V" } : Jvm.MethodName)) ∈ lw_all := lw_g (lw_at lw_m9 58 rfl) rfl
theorem q2123 : (Jvm.Cond.privateMethod ({ cls := "PupilsPupilModel", name := "stands", desc := "()V" } : Jvm.MethodName)) ∈ lw_tbl := lw_at lw_m9 59 rfl
theorem q2124 : (Jvm.Cond.instanceMethod ({ cls := "PupilsPupilModel", name := "stands", desc := "()V" } : Jvm.MethodName)) ∈ lw_all := lw_g (lw_at lw_m9 60 rfl) rfl
theorem q2125 : (Jvm.Cond.code ({ cls := "PupilsPupilModel", name := "stands", desc := "()V" } : Jvm.MethodName) prog_22_method_29_code (2 : Nat) (Option.none : Option Jvm.ClassFile.FieldType)) ∈ lw_all := lw_g (lw_at lw_m9 61 rfl) rfl
theorem q2127 : (Jvm.Cond.instanceMethod ({ cls := "PupilsPupilModel", name := "fault", desc := "(I)I" } : Jvm.MethodName)) ∈ lw_all := lw_g (lw_at lw_m9 63 rfl) rfl
theorem q2128 : (Jvm.Cond.selects "PupilsPupilModel" ({ cls := "PupilsPupilModel", name := "fault", desc := "(I)I" } : Jvm.MethodName) ({ cls := "PupilsPupilModel", name := "fault", desc := "(I)I" } : Jvm.MethodName)) ∈ lw_all := lw_g (lw_at lw_m9 64 rfl) rfl
theorem q2129 : (Jvm.Cond.code ({ cls := "PupilsPupilModel", name := "fault", desc := "(I)I" } : Jvm.MethodName) prog_22_method_30_code (2 : Nat) (Option.some Jvm.ClassFile.FieldType.int)) ∈ lw_all := lw_g (lw_at lw_m9 65 rfl) rfl
theorem q2131 : (Jvm.Cond.instanceMethod ({ cls := "PupilsPupilModel", name := "has", desc := "(I)I" } : Jvm.MethodName)) ∈ lw_all := lw_g (lw_at lw_m9 67 rfl) rfl
theorem q2132 : (Jvm.Cond.selects "PupilsPupilModel" ({ cls := "PupilsPupilModel", name := "has", desc := "(I)I" } : Jvm.MethodName) ({ cls := "PupilsPupilModel", name := "has", desc := "(I)I" } : Jvm.MethodName)) ∈ lw_all := lw_g (lw_at lw_m9 68 rfl) rfl
theorem q2133 : (Jvm.Cond.code ({ cls := "PupilsPupilModel", name := "has", desc := "(I)I" } : Jvm.MethodName) prog_22_method_63_code (2 : Nat) (Option.some Jvm.ClassFile.FieldType.int)) ∈ lw_all := lw_g (lw_at lw_m9 69 rfl) rfl
theorem q2134 : (Jvm.Cond.methodLink "PupilsPupilModel" (486 : Nat) ({ cls := "PupilsPupilModel", name := "thoseWho", desc := "(I)I" } : Jvm.MethodName)) ∈ lw_all := lw_g (lw_at lw_m9 70 rfl) rfl
theorem q2135 : (Jvm.Cond.privateMethod ({ cls := "PupilsPupilModel", name := "thoseWho", desc := "(I)I" } : Jvm.MethodName)) ∈ lw_tbl := lw_at lw_m9 71 rfl
theorem q2136 : (Jvm.Cond.instanceMethod ({ cls := "PupilsPupilModel", name := "thoseWho", desc := "(I)I" } : Jvm.MethodName)) ∈ lw_all := lw_g (lw_at lw_m9 72 rfl) rfl
theorem q2137 : (Jvm.Cond.code ({ cls := "PupilsPupilModel", name := "thoseWho", desc := "(I)I" } : Jvm.MethodName) prog_22_method_61_code (4 : Nat) (Option.some Jvm.ClassFile.FieldType.int)) ∈ lw_all := lw_g (lw_at lw_m9 73 rfl) rfl
theorem q2138 : (Jvm.Cond.methodLink "PupilsPupilModel" (401 : Nat) ({ cls := "PupilsPupilModel", name := "personMany", desc := "()I" } : Jvm.MethodName)) ∈ lw_all := lw_g (lw_at lw_m9 74 rfl) rfl
theorem q2139 : (Jvm.Cond.privateMethod ({ cls := "PupilsPupilModel", name := "personMany", desc := "()I" } : Jvm.MethodName)) ∈ lw_tbl := lw_at lw_m9 75 rfl
theorem q2140 : (Jvm.Cond.instanceMethod ({ cls := "PupilsPupilModel", name := "personMany", desc := "()I" } : Jvm.MethodName)) ∈ lw_all := lw_g (lw_at lw_m9 76 rfl) rfl
theorem q2141 : (Jvm.Cond.code ({ cls := "PupilsPupilModel", name := "personMany", desc := "()I" } : Jvm.MethodName) prog_22_method_32_code (1 : Nat) (Option.some Jvm.ClassFile.FieldType.int)) ∈ lw_all := lw_g (lw_at lw_m9 77 rfl) rfl
theorem q2142 : (Jvm.Cond.methodLink "PupilsPupilModel" (483 : Nat) ({ cls := "PupilsPupilModel", name := "bits", desc := "(I)I" } : Jvm.MethodName)) ∈ lw_all := lw_g (lw_at lw_m9 78 rfl) rfl
theorem q2143 : (Jvm.Cond.static ({ cls := "PupilsPupilModel", name := "bits", desc := "(I)I" } : Jvm.MethodName)) ∈ lw_all := lw_g (lw_at lw_m9 79 rfl) rfl
theorem q2144 : (Jvm.Cond.code ({ cls := "PupilsPupilModel", name := "bits", desc := "(I)I" } : Jvm.MethodName) prog_22_method_45_code (3 : Nat) (Option.some Jvm.ClassFile.FieldType.int)) ∈ lw_all := lw_g (lw_at lw_m9 80 rfl) rfl
theorem q2145 : (Jvm.Cond.methodLink "PupilsPupilModel" (489 : Nat) ({ cls := "PupilsPupilModel", name := "beliefs", desc := "(Z)I" } : Jvm.MethodName)) ∈ lw_all := lw_g (lw_at lw_m9 81 rfl) rfl
theorem q2146 : (Jvm.Cond.privateMethod ({ cls := "PupilsPupilModel", name := "beliefs", desc := "(Z)I" } : Jvm.MethodName)) ∈ lw_tbl := lw_at lw_m9 82 rfl
theorem q2147 : (Jvm.Cond.instanceMethod ({ cls := "PupilsPupilModel", name := "beliefs", desc := "(Z)I" } : Jvm.MethodName)) ∈ lw_all := lw_g (lw_at lw_m9 83 rfl) rfl
theorem q2148 : (Jvm.Cond.code ({ cls := "PupilsPupilModel", name := "beliefs", desc := "(Z)I" } : Jvm.MethodName) prog_22_method_62_code (4 : Nat) (Option.some Jvm.ClassFile.FieldType.int)) ∈ lw_all := lw_g (lw_at lw_m9 84 rfl) rfl
theorem q2149 : (Jvm.Cond.methodLink "PupilsPupilModel" (404 : Nat) ({ cls := "PupilsPupilModel", name := "rightOf", desc := "(I)I" } : Jvm.MethodName)) ∈ lw_all := lw_g (lw_at lw_m9 85 rfl) rfl
theorem q2150 : (Jvm.Cond.privateMethod ({ cls := "PupilsPupilModel", name := "rightOf", desc := "(I)I" } : Jvm.MethodName)) ∈ lw_tbl := lw_at lw_m9 86 rfl
theorem q2151 : (Jvm.Cond.instanceMethod ({ cls := "PupilsPupilModel", name := "rightOf", desc := "(I)I" } : Jvm.MethodName)) ∈ lw_all := lw_g (lw_at lw_m9 87 rfl) rfl
theorem q2152 : (Jvm.Cond.code ({ cls := "PupilsPupilModel", name := "rightOf", desc := "(I)I" } : Jvm.MethodName) prog_22_method_36_code (2 : Nat) (Option.some Jvm.ClassFile.FieldType.int)) ∈ lw_all := lw_g (lw_at lw_m9 88 rfl) rfl
theorem q2153 : (Jvm.Cond.methodLink "PupilsPupilModel" (407 : Nat) ({ cls := "PupilsPupilModel", name := "wrongOf", desc := "(I)I" } : Jvm.MethodName)) ∈ lw_all := lw_g (lw_at lw_m9 89 rfl) rfl
theorem q2154 : (Jvm.Cond.privateMethod ({ cls := "PupilsPupilModel", name := "wrongOf", desc := "(I)I" } : Jvm.MethodName)) ∈ lw_tbl := lw_at lw_m9 90 rfl
theorem q2155 : (Jvm.Cond.instanceMethod ({ cls := "PupilsPupilModel", name := "wrongOf", desc := "(I)I" } : Jvm.MethodName)) ∈ lw_all := lw_g (lw_at lw_m9 91 rfl) rfl
theorem q2156 : (Jvm.Cond.code ({ cls := "PupilsPupilModel", name := "wrongOf", desc := "(I)I" } : Jvm.MethodName) prog_22_method_37_code (2 : Nat) (Option.some Jvm.ClassFile.FieldType.int)) ∈ lw_all := lw_g (lw_at lw_m9 92 rfl) rfl
theorem q2158 : (Jvm.Cond.instanceMethod ({ cls := "PupilsPupilModel", name := "letter", desc := "(III)I" } : Jvm.MethodName)) ∈ lw_all := lw_g (lw_at lw_m9 94 rfl) rfl
theorem q2159 : (Jvm.Cond.selects "PupilsPupilModel" ({ cls := "PupilsPupilModel", name := "letter", desc := "(III)I" } : Jvm.MethodName) ({ cls := "PupilsPupilModel", name := "letter", desc := "(III)I" } : Jvm.MethodName)) ∈ lw_all := lw_g (lw_at lw_m9 95 rfl) rfl
theorem q2160 : (Jvm.Cond.code ({ cls := "PupilsPupilModel", name := "letter", desc := "(III)I" } : Jvm.MethodName) prog_22_method_64_code (9 : Nat) (Option.some Jvm.ClassFile.FieldType.int)) ∈ lw_all := lw_g (lw_at lw_m9 96 rfl) rfl
theorem q2161 : (Jvm.Cond.constantLong "PupilsPupilModel" (493 : Nat) (5 : Int64)) ∈ lw_all := lw_g (lw_at lw_m9 97 rfl) rfl
theorem q2163 : (Jvm.Cond.instanceMethod ({ cls := "PupilsPupilModel", name := "fact", desc := "(II)I" } : Jvm.MethodName)) ∈ lw_all := lw_g (lw_at lw_m9 99 rfl) rfl
theorem q2164 : (Jvm.Cond.selects "PupilsPupilModel" ({ cls := "PupilsPupilModel", name := "fact", desc := "(II)I" } : Jvm.MethodName) ({ cls := "PupilsPupilModel", name := "fact", desc := "(II)I" } : Jvm.MethodName)) ∈ lw_all := lw_g (lw_at lw_m9 100 rfl) rfl
theorem q2165 : (Jvm.Cond.code ({ cls := "PupilsPupilModel", name := "fact", desc := "(II)I" } : Jvm.MethodName) prog_22_method_65_code (3 : Nat) (Option.some Jvm.ClassFile.FieldType.int)) ∈ lw_all := lw_g (lw_at lw_m9 101 rfl) rfl
theorem q2166 : (Jvm.Cond.methodLink "PupilsPupilModel" (495 : Nat) ({ cls := "PupilsPupilModel", name := "isFact", desc := "(I)Z" } : Jvm.MethodName)) ∈ lw_all := lw_g (lw_at lw_m9 102 rfl) rfl
theorem q2167 : (Jvm.Cond.privateMethod ({ cls := "PupilsPupilModel", name := "isFact", desc := "(I)Z" } : Jvm.MethodName)) ∈ lw_tbl := lw_at lw_m9 103 rfl
theorem q2168 : (Jvm.Cond.instanceMethod ({ cls := "PupilsPupilModel", name := "isFact", desc := "(I)Z" } : Jvm.MethodName)) ∈ lw_all := lw_g (lw_at lw_m9 104 rfl) rfl
theorem q2169 : (Jvm.Cond.code ({ cls := "PupilsPupilModel", name := "isFact", desc := "(I)Z" } : Jvm.MethodName) prog_22_method_33_code (2 : Nat) (Option.some Jvm.ClassFile.FieldType.boolean)) ∈ lw_all := lw_g (lw_at lw_m9 105 rfl) rfl
theorem q2170 : (Jvm.Cond.methodLink "PupilsPupilModel" (398 : Nat) ({ cls := "PupilsPupilModel", name := "factMany", desc := "()I" } : Jvm.MethodName)) ∈ lw_all := lw_g (lw_at lw_m9 106 rfl) rfl
theorem q2171 : (Jvm.Cond.privateMethod ({ cls := "PupilsPupilModel", name := "factMany", desc := "()I" } : Jvm.MethodName)) ∈ lw_tbl := lw_at lw_m9 107 rfl
theorem q2172 : (Jvm.Cond.instanceMethod ({ cls := "PupilsPupilModel", name := "factMany", desc := "()I" } : Jvm.MethodName)) ∈ lw_all := lw_g (lw_at lw_m9 108 rfl) rfl
theorem q2173 : (Jvm.Cond.code ({ cls := "PupilsPupilModel", name := "factMany", desc := "()I" } : Jvm.MethodName) prog_22_method_31_code (1 : Nat) (Option.some Jvm.ClassFile.FieldType.int)) ∈ lw_all := lw_g (lw_at lw_m9 109 rfl) rfl
theorem q2174 : (Jvm.Cond.methodLink "PupilsPupilModel" (498 : Nat) ({ cls := "PupilsPupilModel", name := "rightMany", desc := "(I)I" } : Jvm.MethodName)) ∈ lw_all := lw_g (lw_at lw_m9 110 rfl) rfl
theorem q2175 : (Jvm.Cond.privateMethod ({ cls := "PupilsPupilModel", name := "rightMany", desc := "(I)I" } : Jvm.MethodName)) ∈ lw_tbl := lw_at lw_m9 111 rfl
theorem q2176 : (Jvm.Cond.instanceMethod ({ cls := "PupilsPupilModel", name := "rightMany", desc := "(I)I" } : Jvm.MethodName)) ∈ lw_all := lw_g (lw_at lw_m9 112 rfl) rfl
theorem q2177 : (Jvm.Cond.code ({ cls := "PupilsPupilModel", name := "rightMany", desc := "(I)I" } : Jvm.MethodName) prog_22_method_46_code (4 : Nat) (Option.some Jvm.ClassFile.FieldType.int)) ∈ lw_all := lw_g (lw_at lw_m9 113 rfl) rfl
theorem q2178 : (Jvm.Cond.methodLink "PupilsPupilModel" (501 : Nat) ({ cls := "PupilsPupilModel", name := "wrongMany", desc := "(I)I" } : Jvm.MethodName)) ∈ lw_all := lw_g (lw_at lw_m9 114 rfl) rfl
theorem q2179 : (Jvm.Cond.privateMethod ({ cls := "PupilsPupilModel", name := "wrongMany", desc := "(I)I" } : Jvm.MethodName)) ∈ lw_tbl := lw_at lw_m9 115 rfl
theorem q2180 : (Jvm.Cond.instanceMethod ({ cls := "PupilsPupilModel", name := "wrongMany", desc := "(I)I" } : Jvm.MethodName)) ∈ lw_all := lw_g (lw_at lw_m9 116 rfl) rfl
theorem q2181 : (Jvm.Cond.code ({ cls := "PupilsPupilModel", name := "wrongMany", desc := "(I)I" } : Jvm.MethodName) prog_22_method_47_code (4 : Nat) (Option.some Jvm.ClassFile.FieldType.int)) ∈ lw_all := lw_g (lw_at lw_m9 117 rfl) rfl
theorem q2183 : (Jvm.Cond.instanceMethod ({ cls := "PupilsPupilModel", name := "person", desc := "(II)I" } : Jvm.MethodName)) ∈ lw_all := lw_g (lw_at lw_m9 119 rfl) rfl
theorem q2184 : (Jvm.Cond.selects "PupilsPupilModel" ({ cls := "PupilsPupilModel", name := "person", desc := "(II)I" } : Jvm.MethodName) ({ cls := "PupilsPupilModel", name := "person", desc := "(II)I" } : Jvm.MethodName)) ∈ lw_all := lw_g (lw_at lw_m9 120 rfl) rfl
theorem q2185 : (Jvm.Cond.code ({ cls := "PupilsPupilModel", name := "person", desc := "(II)I" } : Jvm.MethodName) prog_22_method_66_code (3 : Nat) (Option.some Jvm.ClassFile.FieldType.int)) ∈ lw_all := lw_g (lw_at lw_m9 121 rfl) rfl
theorem q2186 : (Jvm.Cond.methodLink "PupilsPupilModel" (504 : Nat) ({ cls := "PupilsPupilModel", name := "isPerson", desc := "(I)Z" } : Jvm.MethodName)) ∈ lw_all := lw_g (lw_at lw_m9 122 rfl) rfl
theorem q2187 : (Jvm.Cond.privateMethod ({ cls := "PupilsPupilModel", name := "isPerson", desc := "(I)Z" } : Jvm.MethodName)) ∈ lw_tbl := lw_at lw_m9 123 rfl
theorem q2188 : (Jvm.Cond.instanceMethod ({ cls := "PupilsPupilModel", name := "isPerson", desc := "(I)Z" } : Jvm.MethodName)) ∈ lw_all := lw_g (lw_at lw_m9 124 rfl) rfl
theorem q2189 : (Jvm.Cond.code ({ cls := "PupilsPupilModel", name := "isPerson", desc := "(I)Z" } : Jvm.MethodName) prog_22_method_34_code (2 : Nat) (Option.some Jvm.ClassFile.FieldType.boolean)) ∈ lw_all := lw_g (lw_at lw_m9 125 rfl) rfl
theorem q2190 : (Jvm.Cond.methodLink "PupilsPupilModel" (410 : Nat) ({ cls := "PupilsPupilModel", name := "masterOf", desc := "(I)I" } : Jvm.MethodName)) ∈ lw_all := lw_g (lw_at lw_m9 126 rfl) rfl
theorem q2191 : (Jvm.Cond.privateMethod ({ cls := "PupilsPupilModel", name := "masterOf", desc := "(I)I" } : Jvm.MethodName)) ∈ lw_tbl := lw_at lw_m9 127 rfl
theorem q2192 : (Jvm.Cond.instanceMethod ({ cls := "PupilsPupilModel", name := "masterOf", desc := "(I)I" } : Jvm.MethodName)) ∈ lw_all := lw_g (lw_at lw_m9 128 rfl) rfl
theorem q2193 : (Jvm.Cond.code ({ cls := "PupilsPupilModel", name := "masterOf", desc := "(I)I" } : Jvm.MethodName) prog_22_method_35_code (2 : Nat) (Option.some Jvm.ClassFile.FieldType.int)) ∈ lw_all := lw_g (lw_at lw_m9 129 rfl) rfl
theorem q2194 : (Jvm.Cond.methodLink "PupilsPupilModel" (507 : Nat) ({ cls := "PupilsPupilModel", name := "pupilsOf", desc := "(I)I" } : Jvm.MethodName)) ∈ lw_all := lw_g (lw_at lw_m9 130 rfl) rfl
theorem q2195 : (Jvm.Cond.privateMethod ({ cls := "PupilsPupilModel", name := "pupilsOf", desc := "(I)I" } : Jvm.MethodName)) ∈ lw_tbl := lw_at lw_m9 131 rfl
theorem q2196 : (Jvm.Cond.instanceMethod ({ cls := "PupilsPupilModel", name := "pupilsOf", desc := "(I)I" } : Jvm.MethodName)) ∈ lw_all := lw_g (lw_at lw_m9 132 rfl) rfl
theorem q2197 : (Jvm.Cond.code ({ cls := "PupilsPupilModel", name := "pupilsOf", desc := "(I)I" } : Jvm.MethodName) prog_22_method_44_code (4 : Nat) (Option.some Jvm.ClassFile.FieldType.int)) ∈ lw_all := lw_g (lw_at lw_m9 133 rfl) rfl
theorem q2198 : (Jvm.Cond.methodLink "PupilsPupilModel" (450 : Nat) ({ cls := "PupilsPupilModel", name := "leftOf", desc := "(I)I" } : Jvm.MethodName)) ∈ lw_all := lw_g (lw_at lw_m9 134 rfl) rfl
theorem q2199 : (Jvm.Cond.privateMethod ({ cls := "PupilsPupilModel", name := "leftOf", desc := "(I)I" } : Jvm.MethodName)) ∈ lw_tbl := lw_at lw_m9 135 rfl
theorem q2200 : (Jvm.Cond.instanceMethod ({ cls := "PupilsPupilModel", name := "leftOf", desc := "(I)I" } : Jvm.MethodName)) ∈ lw_all := lw_g (lw_at lw_m9 136 rfl) rfl
theorem q2201 : (Jvm.Cond.code ({ cls := "PupilsPupilModel", name := "leftOf", desc := "(I)I" } : Jvm.MethodName) prog_22_method_38_code (2 : Nat) (Option.some Jvm.ClassFile.FieldType.int)) ∈ lw_all := lw_g (lw_at lw_m9 137 rfl) rfl
theorem q2202 : (Jvm.Cond.methodLink "PupilsPupilModel" (447 : Nat) ({ cls := "PupilsPupilModel", name := "hasPassed", desc := "(I)Z" } : Jvm.MethodName)) ∈ lw_all := lw_g (lw_at lw_m9 138 rfl) rfl
theorem q2203 : (Jvm.Cond.privateMethod ({ cls := "PupilsPupilModel", name := "hasPassed", desc := "(I)Z" } : Jvm.MethodName)) ∈ lw_tbl := lw_at lw_m9 139 rfl
theorem q2204 : (Jvm.Cond.instanceMethod ({ cls := "PupilsPupilModel", name := "hasPassed", desc := "(I)Z" } : Jvm.MethodName)) ∈ lw_all := lw_g (lw_at lw_m9 140 rfl) rfl
theorem q2205 : (Jvm.Cond.code ({ cls := "PupilsPupilModel", name := "hasPassed", desc := "(I)Z" } : Jvm.MethodName) prog_22_method_39_code (2 : Nat) (Option.some Jvm.ClassFile.FieldType.boolean)) ∈ lw_all := lw_g (lw_at lw_m9 141 rfl) rfl
theorem q2206 : (Jvm.Cond.methodLink "PupilsPupilModel" (471 : Nat) ({ cls := "PupilsPupilModel", name := "isDoctor", desc := "(I)Z" } : Jvm.MethodName)) ∈ lw_all := lw_g (lw_at lw_m9 142 rfl) rfl
theorem q2207 : (Jvm.Cond.privateMethod ({ cls := "PupilsPupilModel", name := "isDoctor", desc := "(I)Z" } : Jvm.MethodName)) ∈ lw_tbl := lw_at lw_m9 143 rfl
theorem q2208 : (Jvm.Cond.instanceMethod ({ cls := "PupilsPupilModel", name := "isDoctor", desc := "(I)Z" } : Jvm.MethodName)) ∈ lw_all := lw_g (lw_at lw_m9 144 rfl) rfl
theorem q2209 : (Jvm.Cond.code ({ cls := "PupilsPupilModel", name := "isDoctor", desc := "(I)Z" } : Jvm.MethodName) prog_22_method_40_code (2 : Nat) (Option.some Jvm.ClassFile.FieldType.boolean)) ∈ lw_all := lw_g (lw_at lw_m9 145 rfl) rfl
theorem q2211 : (Jvm.Cond.instanceMethod ({ cls := "PupilsPupilModel", name := "marks", desc := "(I)J" } : Jvm.MethodName)) ∈ lw_all := lw_g (lw_at lw_m9 147 rfl) rfl
theorem q2212 : (Jvm.Cond.selects "PupilsPupilModel" ({ cls := "PupilsPupilModel", name := "marks", desc := "(I)J" } : Jvm.MethodName) ({ cls := "PupilsPupilModel", name := "marks", desc := "(I)J" } : Jvm.MethodName)) ∈ lw_all := lw_g (lw_at lw_m9 148 rfl) rfl
theorem q2213 : (Jvm.Cond.code ({ cls := "PupilsPupilModel", name := "marks", desc := "(I)J" } : Jvm.MethodName) prog_22_method_67_code (2 : Nat) (Option.some Jvm.ClassFile.FieldType.long)) ∈ lw_all := lw_g (lw_at lw_m9 149 rfl) rfl
theorem q2214 : (Jvm.Cond.methodLink "PupilsPupilModel" (453 : Nat) ({ cls := "PupilsPupilModel", name := "marksOf", desc := "(I)I" } : Jvm.MethodName)) ∈ lw_all := lw_g (lw_at lw_m9 150 rfl) rfl
theorem q2215 : (Jvm.Cond.privateMethod ({ cls := "PupilsPupilModel", name := "marksOf", desc := "(I)I" } : Jvm.MethodName)) ∈ lw_tbl := lw_at lw_m9 151 rfl
theorem q2216 : (Jvm.Cond.instanceMethod ({ cls := "PupilsPupilModel", name := "marksOf", desc := "(I)I" } : Jvm.MethodName)) ∈ lw_all := lw_g (lw_at lw_m9 152 rfl) rfl
theorem q2217 : (Jvm.Cond.code ({ cls := "PupilsPupilModel", name := "marksOf", desc := "(I)I" } : Jvm.MethodName) prog_22_method_48_code (4 : Nat) (Option.some Jvm.ClassFile.FieldType.int)) ∈ lw_all := lw_g (lw_at lw_m9 153 rfl) rfl
theorem q2218 : (Jvm.Cond.constantLong "PupilsPupilModel" (510 : Nat) (-1000000000000000 : Int64)) ∈ lw_all := lw_g (lw_at lw_m9 154 rfl) rfl
theorem q2220 : (Jvm.Cond.instanceMethod ({ cls := "PupilsPupilModel", name := "next", desc := "(I)I" } : Jvm.MethodName)) ∈ lw_all := lw_g (lw_at lw_m9 156 rfl) rfl
theorem q2221 : (Jvm.Cond.selects "PupilsPupilModel" ({ cls := "PupilsPupilModel", name := "next", desc := "(I)I" } : Jvm.MethodName) ({ cls := "PupilsPupilModel", name := "next", desc := "(I)I" } : Jvm.MethodName)) ∈ lw_all := lw_g (lw_at lw_m9 157 rfl) rfl
theorem q2222 : (Jvm.Cond.code ({ cls := "PupilsPupilModel", name := "next", desc := "(I)I" } : Jvm.MethodName) prog_22_method_68_code (2 : Nat) (Option.some Jvm.ClassFile.FieldType.int)) ∈ lw_all := lw_g (lw_at lw_m9 158 rfl) rfl
theorem q2223 : (Jvm.Cond.methodLink "PupilsPupilModel" (436 : Nat) ({ cls := "PupilsPupilModel", name := "taughtNext", desc := "(I)I" } : Jvm.MethodName)) ∈ lw_all := lw_g (lw_at lw_m9 159 rfl) rfl
theorem q2224 : (Jvm.Cond.privateMethod ({ cls := "PupilsPupilModel", name := "taughtNext", desc := "(I)I" } : Jvm.MethodName)) ∈ lw_tbl := lw_at lw_m9 160 rfl
theorem q2225 : (Jvm.Cond.instanceMethod ({ cls := "PupilsPupilModel", name := "taughtNext", desc := "(I)I" } : Jvm.MethodName)) ∈ lw_all := lw_g (lw_at lw_m9 161 rfl) rfl
theorem q2226 : (Jvm.Cond.code ({ cls := "PupilsPupilModel", name := "taughtNext", desc := "(I)I" } : Jvm.MethodName) prog_22_method_50_code (6 : Nat) (Option.some Jvm.ClassFile.FieldType.int)) ∈ lw_all := lw_g (lw_at lw_m9 162 rfl) rfl
theorem q2227 : (Jvm.Cond.methodLink "PupilsPupilModel" (430 : Nat) ({ cls := "PupilsPupilModel", name := "isOf", desc := "(II)I" } : Jvm.MethodName)) ∈ lw_all := lw_g (lw_at lw_m9 163 rfl) rfl
theorem q2228 : (Jvm.Cond.privateMethod ({ cls := "PupilsPupilModel", name := "isOf", desc := "(II)I" } : Jvm.MethodName)) ∈ lw_tbl := lw_at lw_m9 164 rfl
theorem q2229 : (Jvm.Cond.instanceMethod ({ cls := "PupilsPupilModel", name := "isOf", desc := "(II)I" } : Jvm.MethodName)) ∈ lw_all := lw_g (lw_at lw_m9 165 rfl) rfl
theorem q2230 : (Jvm.Cond.code ({ cls := "PupilsPupilModel", name := "isOf", desc := "(II)I" } : Jvm.MethodName) prog_22_method_42_code (3 : Nat) (Option.some Jvm.ClassFile.FieldType.int)) ∈ lw_all := lw_g (lw_at lw_m9 166 rfl) rfl
theorem q2231 : (Jvm.Cond.methodLink "PupilsPupilModel" (433 : Nat) ({ cls := "PupilsPupilModel", name := "holds", desc := "(III)Z" } : Jvm.MethodName)) ∈ lw_all := lw_g (lw_at lw_m9 167 rfl) rfl
theorem q2232 : (Jvm.Cond.privateMethod ({ cls := "PupilsPupilModel", name := "holds", desc := "(III)Z" } : Jvm.MethodName)) ∈ lw_tbl := lw_at lw_m9 168 rfl
theorem q2233 : (Jvm.Cond.instanceMethod ({ cls := "PupilsPupilModel", name := "holds", desc := "(III)Z" } : Jvm.MethodName)) ∈ lw_all := lw_g (lw_at lw_m9 169 rfl) rfl
theorem q2234 : (Jvm.Cond.code ({ cls := "PupilsPupilModel", name := "holds", desc := "(III)Z" } : Jvm.MethodName) prog_22_method_49_code (6 : Nat) (Option.some Jvm.ClassFile.FieldType.boolean)) ∈ lw_all := lw_g (lw_at lw_m9 170 rfl) rfl
theorem q2235 : (Jvm.Cond.methodLink "PupilsPupilModel" (419 : Nat) ({ cls := "PupilsPupilModel", name := "qPuts", desc := "(J)V" } : Jvm.MethodName)) ∈ lw_all := lw_g (lw_at lw_m9 171 rfl) rfl
theorem q2236 : (Jvm.Cond.privateMethod ({ cls := "PupilsPupilModel", name := "qPuts", desc := "(J)V" } : Jvm.MethodName)) ∈ lw_tbl := lw_at lw_m9 172 rfl
theorem q2237 : (Jvm.Cond.instanceMethod ({ cls := "PupilsPupilModel", name := "qPuts", desc := "(J)V" } : Jvm.MethodName)) ∈ lw_all := lw_g (lw_at lw_m9 173 rfl) rfl
theorem q2238 : (Jvm.Cond.code ({ cls := "PupilsPupilModel", name := "qPuts", desc := "(J)V" } : Jvm.MethodName) prog_22_method_114_code (3 : Nat) (Option.none : Option Jvm.ClassFile.FieldType)) ∈ lw_all := lw_g (lw_at lw_m9 174 rfl) rfl
theorem q2239 : (Jvm.Cond.methodLink "PupilsPupilModel" (423 : Nat) ({ cls := "PupilsPupilModel", name := "qPartOf", desc := "(II)J" } : Jvm.MethodName)) ∈ lw_all := lw_g (lw_at lw_m9 175 rfl) rfl
theorem q2240 : (Jvm.Cond.privateMethod ({ cls := "PupilsPupilModel", name := "qPartOf", desc := "(II)J" } : Jvm.MethodName)) ∈ lw_tbl := lw_at lw_m9 176 rfl
theorem q2241 : (Jvm.Cond.instanceMethod ({ cls := "PupilsPupilModel", name := "qPartOf", desc := "(II)J" } : Jvm.MethodName)) ∈ lw_all := lw_g (lw_at lw_m9 177 rfl) rfl
theorem q2242 : (Jvm.Cond.code ({ cls := "PupilsPupilModel", name := "qPartOf", desc := "(II)J" } : Jvm.MethodName) prog_22_method_116_code (3 : Nat) (Option.some Jvm.ClassFile.FieldType.long)) ∈ lw_all := lw_g (lw_at lw_m9 178 rfl) rfl
theorem q2243 : (Jvm.Cond.methodLink "PupilsPupilModel" (427 : Nat) ({ cls := "PupilsPupilModel", name := "qJoins", desc := "(I)V" } : Jvm.MethodName)) ∈ lw_all := lw_g (lw_at lw_m9 179 rfl) rfl
theorem q2244 : (Jvm.Cond.privateMethod ({ cls := "PupilsPupilModel", name := "qJoins", desc := "(I)V" } : Jvm.MethodName)) ∈ lw_tbl := lw_at lw_m9 180 rfl
theorem q2245 : (Jvm.Cond.instanceMethod ({ cls := "PupilsPupilModel", name := "qJoins", desc := "(I)V" } : Jvm.MethodName)) ∈ lw_all := lw_g (lw_at lw_m9 181 rfl) rfl
theorem q2246 : (Jvm.Cond.code ({ cls := "PupilsPupilModel", name := "qJoins", desc := "(I)V" } : Jvm.MethodName) prog_22_method_115_code (6 : Nat) (Option.none : Option Jvm.ClassFile.FieldType)) ∈ lw_all := lw_g (lw_at lw_m9 182 rfl) rfl
theorem q2247 : (Jvm.Cond.methodLink "PupilsPupilModel" (622 : Nat) ({ cls := "PupilsPupilModel", name := "qClip", desc := "(J)J" } : Jvm.MethodName)) ∈ lw_all := lw_g (lw_at lw_m9 183 rfl) rfl
theorem q2248 : (Jvm.Cond.static ({ cls := "PupilsPupilModel", name := "qClip", desc := "(J)J" } : Jvm.MethodName)) ∈ lw_all := lw_g (lw_at lw_m9 184 rfl) rfl
theorem q2249 : (Jvm.Cond.code ({ cls := "PupilsPupilModel", name := "qClip", desc := "(J)J" } : Jvm.MethodName) prog_22_method_112_code (2 : Nat) (Option.some Jvm.ClassFile.FieldType.long)) ∈ lw_all := lw_g (lw_at lw_m9 185 rfl) rfl
theorem q2250 : (Jvm.Cond.constantLong "PupilsPupilModel" (618 : Nat) (1000000 : Int64)) ∈ lw_all := lw_g (lw_at lw_m9 186 rfl) rfl
theorem q2251 : (Jvm.Cond.constantLong "PupilsPupilModel" (620 : Nat) (-1000000 : Int64)) ∈ lw_all := lw_g (lw_at lw_m9 187 rfl) rfl
theorem q2252 : (Jvm.Cond.methodLink "PupilsPupilModel" (626 : Nat) ({ cls := "PupilsPupilModel", name := "qFloor", desc := "(JJ)J" } : Jvm.MethodName)) ∈ lw_all := lw_g (lw_at lw_m9 188 rfl) rfl
theorem q2253 : (Jvm.Cond.static ({ cls := "PupilsPupilModel", name := "qFloor", desc := "(JJ)J" } : Jvm.MethodName)) ∈ lw_all := lw_g (lw_at lw_m9 189 rfl) rfl
theorem q2254 : (Jvm.Cond.code ({ cls := "PupilsPupilModel", name := "qFloor", desc := "(JJ)J" } : Jvm.MethodName) prog_22_method_113_code (6 : Nat) (Option.some Jvm.ClassFile.FieldType.long)) ∈ lw_all := lw_g (lw_at lw_m9 190 rfl) rfl
theorem q2256 : (Jvm.Cond.instanceMethod ({ cls := "PupilsPupilModel", name := "kept", desc := "(II)I" } : Jvm.MethodName)) ∈ lw_all := lw_g (lw_at lw_m9 192 rfl) rfl
theorem q2257 : (Jvm.Cond.selects "PupilsPupilModel" ({ cls := "PupilsPupilModel", name := "kept", desc := "(II)I" } : Jvm.MethodName) ({ cls := "PupilsPupilModel", name := "kept", desc := "(II)I" } : Jvm.MethodName)) ∈ lw_all := lw_g (lw_at lw_m9 193 rfl) rfl
theorem q2258 : (Jvm.Cond.code ({ cls := "PupilsPupilModel", name := "kept", desc := "(II)I" } : Jvm.MethodName) prog_22_method_69_code (3 : Nat) (Option.some Jvm.ClassFile.FieldType.int)) ∈ lw_all := lw_g (lw_at lw_m9 194 rfl) rfl
theorem q2259 : (Jvm.Cond.constantLong "PupilsPupilModel" (512 : Nat) (2 : Int64)) ∈ lw_all := lw_g (lw_at lw_m9 195 rfl) rfl
theorem q2261 : (Jvm.Cond.instanceMethod ({ cls := "PupilsPupilModel", name := "later", desc := "(II)I" } : Jvm.MethodName)) ∈ lw_all := lw_g (lw_at lw_m9 197 rfl) rfl
theorem q2262 : (Jvm.Cond.selects "PupilsPupilModel" ({ cls := "PupilsPupilModel", name := "later", desc := "(II)I" } : Jvm.MethodName) ({ cls := "PupilsPupilModel", name := "later", desc := "(II)I" } : Jvm.MethodName)) ∈ lw_all := lw_g (lw_at lw_m9 198 rfl) rfl
theorem q2263 : (Jvm.Cond.code ({ cls := "PupilsPupilModel", name := "later", desc := "(II)I" } : Jvm.MethodName) prog_22_method_70_code (4 : Nat) (Option.some Jvm.ClassFile.FieldType.int)) ∈ lw_all := lw_g (lw_at lw_m9 199 rfl) rfl
theorem q2264 : (Jvm.Cond.methodLink "PupilsPupilModel" (514 : Nat) ({ cls := "PupilsPupilModel", name := "isAhead", desc := "(III)Z" } : Jvm.MethodName)) ∈ lw_all := lw_g (lw_at lw_m9 200 rfl) rfl
theorem q2265 : (Jvm.Cond.privateMethod ({ cls := "PupilsPupilModel", name := "isAhead", desc := "(III)Z" } : Jvm.MethodName)) ∈ lw_tbl := lw_at lw_m9 201 rfl
theorem q2266 : (Jvm.Cond.instanceMethod ({ cls := "PupilsPupilModel", name := "isAhead", desc := "(III)Z" } : Jvm.MethodName)) ∈ lw_all := lw_g (lw_at lw_m9 202 rfl) rfl
theorem q2267 : (Jvm.Cond.code ({ cls := "PupilsPupilModel", name := "isAhead", desc := "(III)Z" } : Jvm.MethodName) prog_22_method_60_code (4 : Nat) (Option.some Jvm.ClassFile.FieldType.boolean)) ∈ lw_all := lw_g (lw_at lw_m9 203 rfl) rfl
theorem q2268 : (Jvm.Cond.constantLong "PupilsPupilModel" (517 : Nat) (3 : Int64)) ∈ lw_all := lw_g (lw_at lw_m9 204 rfl) rfl
theorem q2269 : (Jvm.Cond.methodLink "PupilsPupilModel" (519 : Nat) ({ cls := "PupilsPupilModel", name := "putsAside", desc := "()V" } : Jvm.MethodName)) ∈ lw_all := lw_g (lw_at lw_m9 205 rfl) rfl
theorem q2270 : (Jvm.Cond.privateMethod ({ cls := "PupilsPupilModel", name := "putsAside", desc := "()V" } : Jvm.MethodName)) ∈ lw_tbl := lw_at lw_m9 206 rfl
theorem q2271 : (Jvm.Cond.instanceMethod ({ cls := "PupilsPupilModel", name := "putsAside", desc := "()V" } : Jvm.MethodName)) ∈ lw_all := lw_g (lw_at lw_m9 207 rfl) rfl
theorem q2272 : (Jvm.Cond.code ({ cls := "PupilsPupilModel", name := "putsAside", desc := "()V" } : Jvm.MethodName) prog_22_method_57_code (2 : Nat) (Option.none : Option Jvm.ClassFile.FieldType)) ∈ lw_all := lw_g (lw_at lw_m9 208 rfl) rfl
theorem q2273 : (Jvm.Cond.methodLink "PupilsPupilModel" (522 : Nat) ({ cls := "PupilsPupilModel", name := "yearsGo", desc := "(I)V" } : Jvm.MethodName)) ∈ lw_all := lw_g (lw_at lw_m9 209 rfl) rfl
theorem q2274 : (Jvm.Cond.privateMethod ({ cls := "PupilsPupilModel", name := "yearsGo", desc := "(I)V" } : Jvm.MethodName)) ∈ lw_tbl := lw_at lw_m9 210 rfl
theorem q2275 : (Jvm.Cond.instanceMethod ({ cls := "PupilsPupilModel", name := "yearsGo", desc := "(I)V" } : Jvm.MethodName)) ∈ lw_all := lw_g (lw_at lw_m9 211 rfl) rfl
theorem q2276 : (Jvm.Cond.code ({ cls := "PupilsPupilModel", name := "yearsGo", desc := "(I)V" } : Jvm.MethodName) prog_22_method_56_code (3 : Nat) (Option.none : Option Jvm.ClassFile.FieldType)) ∈ lw_all := lw_g (lw_at lw_m9 212 rfl) rfl
theorem q2277 : (Jvm.Cond.methodLink "PupilsPupilModel" (477 : Nat) ({ cls := "PupilsPupilModel", name := "yearGoes", desc := "(I)V" } : Jvm.MethodName)) ∈ lw_all := lw_g (lw_at lw_m9 213 rfl) rfl
theorem q2278 : (Jvm.Cond.privateMethod ({ cls := "PupilsPupilModel", name := "yearGoes", desc := "(I)V" } : Jvm.MethodName)) ∈ lw_tbl := lw_at lw_m9 214 rfl
theorem q2279 : (Jvm.Cond.instanceMethod ({ cls := "PupilsPupilModel", name := "yearGoes", desc := "(I)V" } : Jvm.MethodName)) ∈ lw_all := lw_g (lw_at lw_m9 215 rfl) rfl
theorem q2280 : (Jvm.Cond.code ({ cls := "PupilsPupilModel", name := "yearGoes", desc := "(I)V" } : Jvm.MethodName) prog_22_method_55_code (3 : Nat) (Option.none : Option Jvm.ClassFile.FieldType)) ∈ lw_all := lw_g (lw_at lw_m9 216 rfl) rfl
theorem q2281 : (Jvm.Cond.methodLink "PupilsPupilModel" (465 : Nat) ({ cls := "PupilsPupilModel", name := "allTaught", desc := "(I)V" } : Jvm.MethodName)) ∈ lw_all := lw_g (lw_at lw_m9 217 rfl) rfl
theorem q2282 : (Jvm.Cond.privateMethod ({ cls := "PupilsPupilModel", name := "allTaught", desc := "(I)V" } : Jvm.MethodName)) ∈ lw_tbl := lw_at lw_m9 218 rfl
theorem q2283 : (Jvm.Cond.instanceMethod ({ cls := "PupilsPupilModel", name := "allTaught", desc := "(I)V" } : Jvm.MethodName)) ∈ lw_all := lw_g (lw_at lw_m9 219 rfl) rfl
theorem q2284 : (Jvm.Cond.code ({ cls := "PupilsPupilModel", name := "allTaught", desc := "(I)V" } : Jvm.MethodName) prog_22_method_51_code (5 : Nat) (Option.none : Option Jvm.ClassFile.FieldType)) ∈ lw_all := lw_g (lw_at lw_m9 220 rfl) rfl
theorem q2285 : (Jvm.Cond.methodLink "PupilsPupilModel" (439 : Nat) ({ cls := "PupilsPupilModel", name := "makes", desc := "(III)V" } : Jvm.MethodName)) ∈ lw_all := lw_g (lw_at lw_m9 221 rfl) rfl
theorem q2286 : (Jvm.Cond.privateMethod ({ cls := "PupilsPupilModel", name := "makes", desc := "(III)V" } : Jvm.MethodName)) ∈ lw_tbl := lw_at lw_m9 222 rfl
theorem q2287 : (Jvm.Cond.instanceMethod ({ cls := "PupilsPupilModel", name := "makes", desc := "(III)V" } : Jvm.MethodName)) ∈ lw_all := lw_g (lw_at lw_m9 223 rfl) rfl
theorem q2288 : (Jvm.Cond.code ({ cls := "PupilsPupilModel", name := "makes", desc := "(III)V" } : Jvm.MethodName) prog_22_method_43_code (5 : Nat) (Option.none : Option Jvm.ClassFile.FieldType)) ∈ lw_all := lw_g (lw_at lw_m9 224 rfl) rfl
theorem q2289 : (Jvm.Cond.methodLink "PupilsPupilModel" (468 : Nat) ({ cls := "PupilsPupilModel", name := "sitsFor", desc := "(I)V" } : Jvm.MethodName)) ∈ lw_all := lw_g (lw_at lw_m9 225 rfl) rfl
theorem q2290 : (Jvm.Cond.privateMethod ({ cls := "PupilsPupilModel", name := "sitsFor", desc := "(I)V" } : Jvm.MethodName)) ∈ lw_tbl := lw_at lw_m9 226 rfl
theorem q2291 : (Jvm.Cond.instanceMethod ({ cls := "PupilsPupilModel", name := "sitsFor", desc := "(I)V" } : Jvm.MethodName)) ∈ lw_all := lw_g (lw_at lw_m9 227 rfl) rfl
theorem q2292 : (Jvm.Cond.code ({ cls := "PupilsPupilModel", name := "sitsFor", desc := "(I)V" } : Jvm.MethodName) prog_22_method_53_code (2 : Nat) (Option.none : Option Jvm.ClassFile.FieldType)) ∈ lw_all := lw_g (lw_at lw_m9 228 rfl) rfl
theorem q2293 : (Jvm.Cond.methodLink "PupilsPupilModel" (456 : Nat) ({ cls := "PupilsPupilModel", name := "becomes", desc := "(II)V" } : Jvm.MethodName)) ∈ lw_all := lw_g (lw_at lw_m9 229 rfl) rfl
theorem q2294 : (Jvm.Cond.privateMethod ({ cls := "PupilsPupilModel", name := "becomes", desc := "(II)V" } : Jvm.MethodName)) ∈ lw_tbl := lw_at lw_m9 230 rfl
theorem q2295 : (Jvm.Cond.instanceMethod ({ cls := "PupilsPupilModel", name := "becomes", desc := "(II)V" } : Jvm.MethodName)) ∈ lw_all := lw_g (lw_at lw_m9 231 rfl) rfl
theorem q2296 : (Jvm.Cond.code ({ cls := "PupilsPupilModel", name := "becomes", desc := "(II)V" } : Jvm.MethodName) prog_22_method_41_code (3 : Nat) (Option.none : Option Jvm.ClassFile.FieldType)) ∈ lw_all := lw_g (lw_at lw_m9 232 rfl) rfl
theorem q2297 : (Jvm.Cond.methodLink "PupilsPupilModel" (462 : Nat) ({ cls := "PupilsPupilModel", name := "isKept", desc := "(II)V" } : Jvm.MethodName)) ∈ lw_all := lw_g (lw_at lw_m9 233 rfl) rfl
theorem q2298 : (Jvm.Cond.privateMethod ({ cls := "PupilsPupilModel", name := "isKept", desc := "(II)V" } : Jvm.MethodName)) ∈ lw_tbl := lw_at lw_m9 234 rfl
theorem q2299 : (Jvm.Cond.instanceMethod ({ cls := "PupilsPupilModel", name := "isKept", desc := "(II)V" } : Jvm.MethodName)) ∈ lw_all := lw_g (lw_at lw_m9 235 rfl) rfl
theorem q2300 : (Jvm.Cond.code ({ cls := "PupilsPupilModel", name := "isKept", desc := "(II)V" } : Jvm.MethodName) prog_22_method_52_code (4 : Nat) (Option.none : Option Jvm.ClassFile.FieldType)) ∈ lw_all := lw_g (lw_at lw_m9 236 rfl) rfl
theorem q2301 : (Jvm.Cond.methodLink "PupilsPupilModel" (474 : Nat) ({ cls := "PupilsPupilModel", name := "isMastersMaster", desc := "(I)Z" } : Jvm.MethodName)) ∈ lw_all := lw_g (lw_at lw_m9 237 rfl) rfl
theorem q2302 : (Jvm.Cond.privateMethod ({ cls := "PupilsPupilModel", name := "isMastersMaster", desc := "(I)Z" } : Jvm.MethodName)) ∈ lw_tbl := lw_at lw_m9 238 rfl
theorem q2303 : (Jvm.Cond.instanceMethod ({ cls := "PupilsPupilModel", name := "isMastersMaster", desc := "(I)Z" } : Jvm.MethodName)) ∈ lw_all := lw_g (lw_at lw_m9 239 rfl) rfl
theorem q2304 : (Jvm.Cond.code ({ cls := "PupilsPupilModel", name := "isMastersMaster", desc := "(I)Z" } : Jvm.MethodName) prog_22_method_54_code (3 : Nat) (Option.some Jvm.ClassFile.FieldType.boolean)) ∈ lw_all := lw_g (lw_at lw_m10 0 rfl) rfl
theorem q2305 : (Jvm.Cond.methodLink "PupilsPupilModel" (525 : Nat) ({ cls := "PupilsPupilModel", name := "takesBack", desc := "()V" } : Jvm.MethodName)) ∈ lw_all := lw_g (lw_at lw_m10 1 rfl) rfl
theorem q2306 : (Jvm.Cond.privateMethod ({ cls := "PupilsPupilModel", name := "takesBack", desc := "()V" } : Jvm.MethodName)) ∈ lw_tbl := lw_at lw_m10 2 rfl
theorem q2307 : (Jvm.Cond.instanceMethod ({ cls := "PupilsPupilModel", name := "takesBack", desc := "()V" } : Jvm.MethodName)) ∈ lw_all := lw_g (lw_at lw_m10 3 rfl) rfl
theorem q2308 : (Jvm.Cond.code ({ cls := "PupilsPupilModel", name := "takesBack", desc := "()V" } : Jvm.MethodName) prog_22_method_59_code (1 : Nat) (Option.none : Option Jvm.ClassFile.FieldType)) ∈ lw_all := lw_g (lw_at lw_m10 4 rfl) rfl
theorem q2309 : (Jvm.Cond.methodLink "PupilsPupilModel" (480 : Nat) ({ cls := "PupilsPupilModel", name := "triesAnew", desc := "()V" } : Jvm.MethodName)) ∈ lw_all := lw_g (lw_at lw_m10 5 rfl) rfl
theorem q2310 : (Jvm.Cond.privateMethod ({ cls := "PupilsPupilModel", name := "triesAnew", desc := "()V" } : Jvm.MethodName)) ∈ lw_tbl := lw_at lw_m10 6 rfl
theorem q2311 : (Jvm.Cond.instanceMethod ({ cls := "PupilsPupilModel", name := "triesAnew", desc := "()V" } : Jvm.MethodName)) ∈ lw_all := lw_g (lw_at lw_m10 7 rfl) rfl
theorem q2312 : (Jvm.Cond.code ({ cls := "PupilsPupilModel", name := "triesAnew", desc := "()V" } : Jvm.MethodName) prog_22_method_58_code (2 : Nat) (Option.none : Option Jvm.ClassFile.FieldType)) ∈ lw_all := lw_g (lw_at lw_m10 8 rfl) rfl
theorem q2314 : (Jvm.Cond.instanceMethod ({ cls := "PupilsPupilModel", name := "doctor", desc := "(I)I" } : Jvm.MethodName)) ∈ lw_all := lw_g (lw_at lw_m10 10 rfl) rfl
theorem q2315 : (Jvm.Cond.selects "PupilsPupilModel" ({ cls := "PupilsPupilModel", name := "doctor", desc := "(I)I" } : Jvm.MethodName) ({ cls := "PupilsPupilModel", name := "doctor", desc := "(I)I" } : Jvm.MethodName)) ∈ lw_all := lw_g (lw_at lw_m10 11 rfl) rfl
theorem q2316 : (Jvm.Cond.code ({ cls := "PupilsPupilModel", name := "doctor", desc := "(I)I" } : Jvm.MethodName) prog_22_method_71_code (4 : Nat) (Option.some Jvm.ClassFile.FieldType.int)) ∈ lw_all := lw_g (lw_at lw_m10 12 rfl) rfl
theorem q2318 : (Jvm.Cond.instanceMethod ({ cls := "PupilsPupilModel", name := "lost", desc := "(I)I" } : Jvm.MethodName)) ∈ lw_all := lw_g (lw_at lw_m10 14 rfl) rfl
theorem q2319 : (Jvm.Cond.selects "PupilsPupilModel" ({ cls := "PupilsPupilModel", name := "lost", desc := "(I)I" } : Jvm.MethodName) ({ cls := "PupilsPupilModel", name := "lost", desc := "(I)I" } : Jvm.MethodName)) ∈ lw_all := lw_g (lw_at lw_m10 15 rfl) rfl
theorem q2320 : (Jvm.Cond.code ({ cls := "PupilsPupilModel", name := "lost", desc := "(I)I" } : Jvm.MethodName) prog_22_method_72_code (4 : Nat) (Option.some Jvm.ClassFile.FieldType.int)) ∈ lw_all := lw_g (lw_at lw_m10 16 rfl) rfl
theorem q2322 : (Jvm.Cond.instanceMethod ({ cls := "PupilsPupilModel", name := "master", desc := "(II)I" } : Jvm.MethodName)) ∈ lw_all := lw_g (lw_at lw_m10 18 rfl) rfl
theorem q2323 : (Jvm.Cond.selects "PupilsPupilModel" ({ cls := "PupilsPupilModel", name := "master", desc := "(II)I" } : Jvm.MethodName) ({ cls := "PupilsPupilModel", name := "master", desc := "(II)I" } : Jvm.MethodName)) ∈ lw_all := lw_g (lw_at lw_m10 19 rfl) rfl
theorem q2324 : (Jvm.Cond.code ({ cls := "PupilsPupilModel", name := "master", desc := "(II)I" } : Jvm.MethodName) prog_22_method_75_code (7 : Nat) (Option.some Jvm.ClassFile.FieldType.int)) ∈ lw_all := lw_g (lw_at lw_m10 20 rfl) rfl
theorem q2325 : (Jvm.Cond.methodLink "PupilsPupilModel" (528 : Nat) ({ cls := "PupilsPupilModel", name := "isTaughtBy", desc := "(II)Z" } : Jvm.MethodName)) ∈ lw_all := lw_g (lw_at lw_m10 21 rfl) rfl
theorem q2326 : (Jvm.Cond.privateMethod ({ cls := "PupilsPupilModel", name := "isTaughtBy", desc := "(II)Z" } : Jvm.MethodName)) ∈ lw_tbl := lw_at lw_m10 22 rfl
theorem q2327 : (Jvm.Cond.instanceMethod ({ cls := "PupilsPupilModel", name := "isTaughtBy", desc := "(II)Z" } : Jvm.MethodName)) ∈ lw_all := lw_g (lw_at lw_m10 23 rfl) rfl
theorem q2328 : (Jvm.Cond.code ({ cls := "PupilsPupilModel", name := "isTaughtBy", desc := "(II)Z" } : Jvm.MethodName) prog_22_method_73_code (4 : Nat) (Option.some Jvm.ClassFile.FieldType.boolean)) ∈ lw_all := lw_g (lw_at lw_m10 24 rfl) rfl
theorem q2329 : (Jvm.Cond.methodLink "PupilsPupilModel" (532 : Nat) ({ cls := "PupilsPupilModel", name := "yearsTill", desc := "(I)I" } : Jvm.MethodName)) ∈ lw_all := lw_g (lw_at lw_m10 25 rfl) rfl
theorem q2330 : (Jvm.Cond.privateMethod ({ cls := "PupilsPupilModel", name := "yearsTill", desc := "(I)I" } : Jvm.MethodName)) ∈ lw_tbl := lw_at lw_m10 26 rfl
theorem q2331 : (Jvm.Cond.instanceMethod ({ cls := "PupilsPupilModel", name := "yearsTill", desc := "(I)I" } : Jvm.MethodName)) ∈ lw_all := lw_g (lw_at lw_m10 27 rfl) rfl
theorem q2332 : (Jvm.Cond.code ({ cls := "PupilsPupilModel", name := "yearsTill", desc := "(I)I" } : Jvm.MethodName) prog_22_method_74_code (3 : Nat) (Option.some Jvm.ClassFile.FieldType.int)) ∈ lw_all := lw_g (lw_at lw_m10 28 rfl) rfl
theorem q2334 : (Jvm.Cond.instanceMethod ({ cls := "PupilsPupilModel", name := "gift", desc := "(III)I" } : Jvm.MethodName)) ∈ lw_all := lw_g (lw_at lw_m10 30 rfl) rfl
theorem q2335 : (Jvm.Cond.selects "PupilsPupilModel" ({ cls := "PupilsPupilModel", name := "gift", desc := "(III)I" } : Jvm.MethodName) ({ cls := "PupilsPupilModel", name := "gift", desc := "(III)I" } : Jvm.MethodName)) ∈ lw_all := lw_g (lw_at lw_m10 31 rfl) rfl
theorem q2336 : (Jvm.Cond.code ({ cls := "PupilsPupilModel", name := "gift", desc := "(III)I" } : Jvm.MethodName) prog_22_method_77_code (9 : Nat) (Option.some Jvm.ClassFile.FieldType.int)) ∈ lw_all := lw_g (lw_at lw_m10 32 rfl) rfl
theorem q2337 : (Jvm.Cond.methodLink "PupilsPupilModel" (535 : Nat) ({ cls := "PupilsPupilModel", name := "isDoctorBehind", desc := "(II)Z" } : Jvm.MethodName)) ∈ lw_all := lw_g (lw_at lw_m10 33 rfl) rfl
theorem q2338 : (Jvm.Cond.privateMethod ({ cls := "PupilsPupilModel", name := "isDoctorBehind", desc := "(II)Z" } : Jvm.MethodName)) ∈ lw_tbl := lw_at lw_m10 34 rfl
theorem q2339 : (Jvm.Cond.instanceMethod ({ cls := "PupilsPupilModel", name := "isDoctorBehind", desc := "(II)Z" } : Jvm.MethodName)) ∈ lw_all := lw_g (lw_at lw_m10 35 rfl) rfl
theorem q2340 : (Jvm.Cond.code ({ cls := "PupilsPupilModel", name := "isDoctorBehind", desc := "(II)Z" } : Jvm.MethodName) prog_22_method_76_code (4 : Nat) (Option.some Jvm.ClassFile.FieldType.boolean)) ∈ lw_all := lw_g (lw_at lw_m10 36 rfl) rfl
theorem q2342 : (Jvm.Cond.instanceMethod ({ cls := "PupilsPupilModel", name := "law", desc := "(II)I" } : Jvm.MethodName)) ∈ lw_all := lw_g (lw_at lw_m10 38 rfl) rfl
theorem q2343 : (Jvm.Cond.selects "PupilsPupilModel" ({ cls := "PupilsPupilModel", name := "law", desc := "(II)I" } : Jvm.MethodName) ({ cls := "PupilsPupilModel", name := "law", desc := "(II)I" } : Jvm.MethodName)) ∈ lw_all := lw_g (lw_at lw_m10 39 rfl) rfl
theorem q2344 : (Jvm.Cond.code ({ cls := "PupilsPupilModel", name := "law", desc := "(II)I" } : Jvm.MethodName) prog_22_method_78_code (7 : Nat) (Option.some Jvm.ClassFile.FieldType.int)) ∈ lw_all := lw_g (lw_at lw_m10 40 rfl) rfl
theorem q2346 : (Jvm.Cond.instanceMethod ({ cls := "PupilsPupilModel", name := "hear", desc := "()I" } : Jvm.MethodName)) ∈ lw_all := lw_g (lw_at lw_m10 42 rfl) rfl
theorem q2347 : (Jvm.Cond.selects "PupilsPupilModel" ({ cls := "PupilsPupilModel", name := "hear", desc := "()I" } : Jvm.MethodName) ({ cls := "PupilsPupilModel", name := "hear", desc := "()I" } : Jvm.MethodName)) ∈ lw_all := lw_g (lw_at lw_m10 43 rfl) rfl
theorem q2348 : (Jvm.Cond.code ({ cls := "PupilsPupilModel", name := "hear", desc := "()I" } : Jvm.MethodName) prog_22_method_79_code (4 : Nat) (Option.some Jvm.ClassFile.FieldType.int)) ∈ lw_all := lw_g (lw_at lw_m10 44 rfl) rfl
theorem q2350 : (Jvm.Cond.instanceMethod ({ cls := "PupilsPupilModel", name := "sources", desc := "(II)I" } : Jvm.MethodName)) ∈ lw_all := lw_g (lw_at lw_m10 46 rfl) rfl
theorem q2351 : (Jvm.Cond.selects "PupilsPupilModel" ({ cls := "PupilsPupilModel", name := "sources", desc := "(II)I" } : Jvm.MethodName) ({ cls := "PupilsPupilModel", name := "sources", desc := "(II)I" } : Jvm.MethodName)) ∈ lw_all := lw_g (lw_at lw_m10 47 rfl) rfl
theorem q2352 : (Jvm.Cond.code ({ cls := "PupilsPupilModel", name := "sources", desc := "(II)I" } : Jvm.MethodName) prog_22_method_81_code (5 : Nat) (Option.some Jvm.ClassFile.FieldType.int)) ∈ lw_all := lw_g (lw_at lw_m10 48 rfl) rfl
theorem q2353 : (Jvm.Cond.methodLink "PupilsPupilModel" (538 : Nat) ({ cls := "PupilsPupilModel", name := "isSource", desc := "(III)Z" } : Jvm.MethodName)) ∈ lw_all := lw_g (lw_at lw_m10 49 rfl) rfl
theorem q2354 : (Jvm.Cond.privateMethod ({ cls := "PupilsPupilModel", name := "isSource", desc := "(III)Z" } : Jvm.MethodName)) ∈ lw_tbl := lw_at lw_m10 50 rfl
theorem q2355 : (Jvm.Cond.instanceMethod ({ cls := "PupilsPupilModel", name := "isSource", desc := "(III)Z" } : Jvm.MethodName)) ∈ lw_all := lw_g (lw_at lw_m10 51 rfl) rfl
theorem q2356 : (Jvm.Cond.code ({ cls := "PupilsPupilModel", name := "isSource", desc := "(III)Z" } : Jvm.MethodName) prog_22_method_80_code (5 : Nat) (Option.some Jvm.ClassFile.FieldType.boolean)) ∈ lw_all := lw_g (lw_at lw_m10 52 rfl) rfl
theorem q2358 : (Jvm.Cond.instanceMethod ({ cls := "PupilsPupilModel", name := "probe", desc := "(III)I" } : Jvm.MethodName)) ∈ lw_all := lw_g (lw_at lw_m10 54 rfl) rfl
theorem q2359 : (Jvm.Cond.selects "PupilsPupilModel" ({ cls := "PupilsPupilModel", name := "probe", desc := "(III)I" } : Jvm.MethodName) ({ cls := "PupilsPupilModel", name := "probe", desc := "(III)I" } : Jvm.MethodName)) ∈ lw_all := lw_g (lw_at lw_m10 55 rfl) rfl
theorem q2360 : (Jvm.Cond.code ({ cls := "PupilsPupilModel", name := "probe", desc := "(III)I" } : Jvm.MethodName) prog_22_method_82_code (9 : Nat) (Option.some Jvm.ClassFile.FieldType.int)) ∈ lw_all := lw_g (lw_at lw_m10 56 rfl) rfl
theorem q2362 : (Jvm.Cond.instanceMethod ({ cls := "PupilsPupilModel", name := "part", desc := "(II)I" } : Jvm.MethodName)) ∈ lw_all := lw_g (lw_at lw_m10 58 rfl) rfl
theorem q2363 : (Jvm.Cond.selects "PupilsPupilModel" ({ cls := "PupilsPupilModel", name := "part", desc := "(II)I" } : Jvm.MethodName) ({ cls := "PupilsPupilModel", name := "part", desc := "(II)I" } : Jvm.MethodName)) ∈ lw_all := lw_g (lw_at lw_m10 59 rfl) rfl
theorem q2364 : (Jvm.Cond.code ({ cls := "PupilsPupilModel", name := "part", desc := "(II)I" } : Jvm.MethodName) prog_22_method_84_code (6 : Nat) (Option.some Jvm.ClassFile.FieldType.int)) ∈ lw_all := lw_g (lw_at lw_m10 60 rfl) rfl
theorem q2365 : (Jvm.Cond.methodLink "PupilsPupilModel" (541 : Nat) ({ cls := "PupilsPupilModel", name := "areParted", desc := "(III)Z" } : Jvm.MethodName)) ∈ lw_all := lw_g (lw_at lw_m10 61 rfl) rfl
theorem q2366 : (Jvm.Cond.privateMethod ({ cls := "PupilsPupilModel", name := "areParted", desc := "(III)Z" } : Jvm.MethodName)) ∈ lw_tbl := lw_at lw_m10 62 rfl
theorem q2367 : (Jvm.Cond.instanceMethod ({ cls := "PupilsPupilModel", name := "areParted", desc := "(III)Z" } : Jvm.MethodName)) ∈ lw_all := lw_g (lw_at lw_m10 63 rfl) rfl
theorem q2368 : (Jvm.Cond.code ({ cls := "PupilsPupilModel", name := "areParted", desc := "(III)Z" } : Jvm.MethodName) prog_22_method_83_code (6 : Nat) (Option.some Jvm.ClassFile.FieldType.boolean)) ∈ lw_all := lw_g (lw_at lw_m10 64 rfl) rfl
theorem q2370 : (Jvm.Cond.instanceMethod ({ cls := "PupilsPupilModel", name := "undo", desc := "()Z" } : Jvm.MethodName)) ∈ lw_all := lw_g (lw_at lw_m10 66 rfl) rfl
theorem q2371 : (Jvm.Cond.selects "PupilsPupilModel" ({ cls := "PupilsPupilModel", name := "undo", desc := "()Z" } : Jvm.MethodName) ({ cls := "PupilsPupilModel", name := "undo", desc := "()Z" } : Jvm.MethodName)) ∈ lw_all := lw_g (lw_at lw_m10 67 rfl) rfl
theorem q2372 : (Jvm.Cond.code ({ cls := "PupilsPupilModel", name := "undo", desc := "()Z" } : Jvm.MethodName) prog_22_method_86_code (2 : Nat) (Option.some Jvm.ClassFile.FieldType.boolean)) ∈ lw_all := lw_g (lw_at lw_m10 68 rfl) rfl
theorem q2374 : (Jvm.Cond.instanceMethod ({ cls := "PupilsPupilModel", name := "teach", desc := "(II)Z" } : Jvm.MethodName)) ∈ lw_all := lw_g (lw_at lw_m10 70 rfl) rfl
theorem q2375 : (Jvm.Cond.selects "PupilsPupilModel" ({ cls := "PupilsPupilModel", name := "teach", desc := "(II)Z" } : Jvm.MethodName) ({ cls := "PupilsPupilModel", name := "teach", desc := "(II)Z" } : Jvm.MethodName)) ∈ lw_all := lw_g (lw_at lw_m10 71 rfl) rfl
theorem q2376 : (Jvm.Cond.code ({ cls := "PupilsPupilModel", name := "teach", desc := "(II)Z" } : Jvm.MethodName) prog_22_method_87_code (3 : Nat) (Option.some Jvm.ClassFile.FieldType.boolean)) ∈ lw_all := lw_g (lw_at lw_m10 72 rfl) rfl
theorem q2377 : (Jvm.Cond.methodLink "PupilsPupilModel" (547 : Nat) ({ cls := "PupilsPupilModel", name := "keeps", desc := "()V" } : Jvm.MethodName)) ∈ lw_all := lw_g (lw_at lw_m10 73 rfl) rfl
theorem q2378 : (Jvm.Cond.privateMethod ({ cls := "PupilsPupilModel", name := "keeps", desc := "()V" } : Jvm.MethodName)) ∈ lw_tbl := lw_at lw_m10 74 rfl
theorem q2379 : (Jvm.Cond.instanceMethod ({ cls := "PupilsPupilModel", name := "keeps", desc := "()V" } : Jvm.MethodName)) ∈ lw_all := lw_g (lw_at lw_m10 75 rfl) rfl
theorem q2380 : (Jvm.Cond.code ({ cls := "PupilsPupilModel", name := "keeps", desc := "()V" } : Jvm.MethodName) prog_22_method_85_code (2 : Nat) (Option.none : Option Jvm.ClassFile.FieldType)) ∈ lw_all := lw_g (lw_at lw_m10 76 rfl) rfl
theorem q2382 : (Jvm.Cond.instanceMethod ({ cls := "PupilsPupilModel", name := "tell", desc := "(II)Z" } : Jvm.MethodName)) ∈ lw_all := lw_g (lw_at lw_m10 78 rfl) rfl
theorem q2383 : (Jvm.Cond.selects "PupilsPupilModel" ({ cls := "PupilsPupilModel", name := "tell", desc := "(II)Z" } : Jvm.MethodName) ({ cls := "PupilsPupilModel", name := "tell", desc := "(II)Z" } : Jvm.MethodName)) ∈ lw_all := lw_g (lw_at lw_m10 79 rfl) rfl
theorem q2384 : (Jvm.Cond.code ({ cls := "PupilsPupilModel", name := "tell", desc := "(II)Z" } : Jvm.MethodName) prog_22_method_88_code (3 : Nat) (Option.some Jvm.ClassFile.FieldType.boolean)) ∈ lw_all := lw_g (lw_at lw_m10 80 rfl) rfl
theorem q2386 : (Jvm.Cond.instanceMethod ({ cls := "PupilsPupilModel", name := "years", desc := "(I)I" } : Jvm.MethodName)) ∈ lw_all := lw_g (lw_at lw_m10 82 rfl) rfl
theorem q2387 : (Jvm.Cond.selects "PupilsPupilModel" ({ cls := "PupilsPupilModel", name := "years", desc := "(I)I" } : Jvm.MethodName) ({ cls := "PupilsPupilModel", name := "years", desc := "(I)I" } : Jvm.MethodName)) ∈ lw_all := lw_g (lw_at lw_m10 83 rfl) rfl
theorem q2388 : (Jvm.Cond.code ({ cls := "PupilsPupilModel", name := "years", desc := "(I)I" } : Jvm.MethodName) prog_22_method_89_code (2 : Nat) (Option.some Jvm.ClassFile.FieldType.int)) ∈ lw_all := lw_g (lw_at lw_m10 84 rfl) rfl
theorem q2390 : (Jvm.Cond.instanceMethod ({ cls := "PupilsPupilModel", name := "seed", desc := "(I)Z" } : Jvm.MethodName)) ∈ lw_all := lw_g (lw_at lw_m10 86 rfl) rfl
theorem q2391 : (Jvm.Cond.selects "PupilsPupilModel" ({ cls := "PupilsPupilModel", name := "seed", desc := "(I)Z" } : Jvm.MethodName) ({ cls := "PupilsPupilModel", name := "seed", desc := "(I)Z" } : Jvm.MethodName)) ∈ lw_all := lw_g (lw_at lw_m10 87 rfl) rfl
theorem q2392 : (Jvm.Cond.code ({ cls := "PupilsPupilModel", name := "seed", desc := "(I)Z" } : Jvm.MethodName) prog_22_method_90_code (2 : Nat) (Option.some Jvm.ClassFile.FieldType.boolean)) ∈ lw_all := lw_g (lw_at lw_m10 88 rfl) rfl
theorem q2394 : (Jvm.Cond.instanceMethod ({ cls := "PupilsPupilModel", name := "chance", desc := "(I)I" } : Jvm.MethodName)) ∈ lw_all := lw_g (lw_at lw_m10 90 rfl) rfl
theorem q2395 : (Jvm.Cond.selects "PupilsPupilModel" ({ cls := "PupilsPupilModel", name := "chance", desc := "(I)I" } : Jvm.MethodName) ({ cls := "PupilsPupilModel", name := "chance", desc := "(I)I" } : Jvm.MethodName)) ∈ lw_all := lw_g (lw_at lw_m10 91 rfl) rfl
theorem q2396 : (Jvm.Cond.code ({ cls := "PupilsPupilModel", name := "chance", desc := "(I)I" } : Jvm.MethodName) prog_22_method_92_code (6 : Nat) (Option.some Jvm.ClassFile.FieldType.int)) ∈ lw_all := lw_g (lw_at lw_m10 92 rfl) rfl
theorem q2397 : (Jvm.Cond.methodLink "PupilsPupilModel" (558 : Nat) ({ cls := "PupilsPupilModel", name := "drawOf", desc := "(I)I" } : Jvm.MethodName)) ∈ lw_all := lw_g (lw_at lw_m10 93 rfl) rfl
theorem q2398 : (Jvm.Cond.privateMethod ({ cls := "PupilsPupilModel", name := "drawOf", desc := "(I)I" } : Jvm.MethodName)) ∈ lw_tbl := lw_at lw_m10 94 rfl
theorem q2399 : (Jvm.Cond.instanceMethod ({ cls := "PupilsPupilModel", name := "drawOf", desc := "(I)I" } : Jvm.MethodName)) ∈ lw_all := lw_g (lw_at lw_m10 95 rfl) rfl
theorem q2400 : (Jvm.Cond.code ({ cls := "PupilsPupilModel", name := "drawOf", desc := "(I)I" } : Jvm.MethodName) prog_22_method_91_code (2 : Nat) (Option.some Jvm.ClassFile.FieldType.int)) ∈ lw_all := lw_g (lw_at lw_m10 96 rfl) rfl
theorem q2401 : (Jvm.Cond.constantLong "PupilsPupilModel" (550 : Nat) (1103515245 : Int64)) ∈ lw_all := lw_g (lw_at lw_m10 97 rfl) rfl
theorem q2402 : (Jvm.Cond.constantLong "PupilsPupilModel" (552 : Nat) (12345 : Int64)) ∈ lw_all := lw_g (lw_at lw_m10 98 rfl) rfl
theorem q2403 : (Jvm.Cond.constantLong "PupilsPupilModel" (554 : Nat) (2147483648 : Int64)) ∈ lw_all := lw_g (lw_at lw_m10 99 rfl) rfl
theorem q2404 : (Jvm.Cond.constantLong "PupilsPupilModel" (556 : Nat) (64 : Int64)) ∈ lw_all := lw_g (lw_at lw_m10 100 rfl) rfl
theorem q2406 : (Jvm.Cond.instanceMethod ({ cls := "PupilsPupilModel", name := "ask", desc := "(I)J" } : Jvm.MethodName)) ∈ lw_all := lw_g (lw_at lw_m10 102 rfl) rfl
theorem q2407 : (Jvm.Cond.selects "PupilsPupilModel" ({ cls := "PupilsPupilModel", name := "ask", desc := "(I)J" } : Jvm.MethodName) ({ cls := "PupilsPupilModel", name := "ask", desc := "(I)J" } : Jvm.MethodName)) ∈ lw_all := lw_g (lw_at lw_m10 103 rfl) rfl
theorem q2408 : (Jvm.Cond.code ({ cls := "PupilsPupilModel", name := "ask", desc := "(I)J" } : Jvm.MethodName) prog_22_method_121_code (4 : Nat) (Option.some Jvm.ClassFile.FieldType.long)) ∈ lw_all := lw_g (lw_at lw_m10 104 rfl) rfl
theorem q2409 : (Jvm.Cond.methodLink "PupilsPupilModel" (642 : Nat) ({ cls := "PupilsPupilModel", name := "qKind", desc := "()I" } : Jvm.MethodName)) ∈ lw_all := lw_g (lw_at lw_m10 105 rfl) rfl
theorem q2410 : (Jvm.Cond.privateMethod ({ cls := "PupilsPupilModel", name := "qKind", desc := "()I" } : Jvm.MethodName)) ∈ lw_tbl := lw_at lw_m10 106 rfl
theorem q2411 : (Jvm.Cond.instanceMethod ({ cls := "PupilsPupilModel", name := "qKind", desc := "()I" } : Jvm.MethodName)) ∈ lw_all := lw_g (lw_at lw_m10 107 rfl) rfl
theorem q2412 : (Jvm.Cond.code ({ cls := "PupilsPupilModel", name := "qKind", desc := "()I" } : Jvm.MethodName) prog_22_method_119_code (2 : Nat) (Option.some Jvm.ClassFile.FieldType.int)) ∈ lw_all := lw_g (lw_at lw_m10 108 rfl) rfl
theorem q2413 : (Jvm.Cond.constantLong "PupilsPupilModel" (637 : Nat) (-1 : Int64)) ∈ lw_all := lw_g (lw_at lw_m10 109 rfl) rfl
theorem q2414 : (Jvm.Cond.methodLink "PupilsPupilModel" (645 : Nat) ({ cls := "PupilsPupilModel", name := "qTold", desc := "(I)J" } : Jvm.MethodName)) ∈ lw_all := lw_g (lw_at lw_m10 110 rfl) rfl
theorem q2415 : (Jvm.Cond.privateMethod ({ cls := "PupilsPupilModel", name := "qTold", desc := "(I)J" } : Jvm.MethodName)) ∈ lw_tbl := lw_at lw_m10 111 rfl
theorem q2416 : (Jvm.Cond.instanceMethod ({ cls := "PupilsPupilModel", name := "qTold", desc := "(I)J" } : Jvm.MethodName)) ∈ lw_all := lw_g (lw_at lw_m10 112 rfl) rfl
theorem q2417 : (Jvm.Cond.code ({ cls := "PupilsPupilModel", name := "qTold", desc := "(I)J" } : Jvm.MethodName) prog_22_method_118_code (4 : Nat) (Option.some Jvm.ClassFile.FieldType.long)) ∈ lw_all := lw_g (lw_at lw_m10 113 rfl) rfl
theorem q2418 : (Jvm.Cond.methodLink "PupilsPupilModel" (630 : Nat) ({ cls := "PupilsPupilModel", name := "qOf", desc := "(IJI)J" } : Jvm.MethodName)) ∈ lw_all := lw_g (lw_at lw_m10 114 rfl) rfl
theorem q2419 : (Jvm.Cond.privateMethod ({ cls := "PupilsPupilModel", name := "qOf", desc := "(IJI)J" } : Jvm.MethodName)) ∈ lw_tbl := lw_at lw_m10 115 rfl
theorem q2420 : (Jvm.Cond.instanceMethod ({ cls := "PupilsPupilModel", name := "qOf", desc := "(IJI)J" } : Jvm.MethodName)) ∈ lw_all := lw_g (lw_at lw_m10 116 rfl) rfl
theorem q2421 : (Jvm.Cond.code ({ cls := "PupilsPupilModel", name := "qOf", desc := "(IJI)J" } : Jvm.MethodName) prog_22_method_117_code (5 : Nat) (Option.some Jvm.ClassFile.FieldType.long)) ∈ lw_all := lw_g (lw_at lw_m10 117 rfl) rfl
theorem q2422 : (Jvm.Cond.methodLink "PupilsPupilModel" (649 : Nat) ({ cls := "PupilsPupilModel", name := "qTakes", desc := "(IJI)V" } : Jvm.MethodName)) ∈ lw_all := lw_g (lw_at lw_m10 118 rfl) rfl
theorem q2423 : (Jvm.Cond.privateMethod ({ cls := "PupilsPupilModel", name := "qTakes", desc := "(IJI)V" } : Jvm.MethodName)) ∈ lw_tbl := lw_at lw_m10 119 rfl
theorem q2424 : (Jvm.Cond.instanceMethod ({ cls := "PupilsPupilModel", name := "qTakes", desc := "(IJI)V" } : Jvm.MethodName)) ∈ lw_all := lw_g (lw_at lw_m10 120 rfl) rfl
theorem q2425 : (Jvm.Cond.code ({ cls := "PupilsPupilModel", name := "qTakes", desc := "(IJI)V" } : Jvm.MethodName) prog_22_method_120_code (6 : Nat) (Option.none : Option Jvm.ClassFile.FieldType)) ∈ lw_all := lw_g (lw_at lw_m10 121 rfl) rfl
theorem q2427 : (Jvm.Cond.instanceMethod ({ cls := "PupilsPupilModel", name := "image", desc := "()I" } : Jvm.MethodName)) ∈ lw_all := lw_g (lw_at lw_m10 123 rfl) rfl
theorem q2428 : (Jvm.Cond.selects "PupilsPupilModel" ({ cls := "PupilsPupilModel", name := "image", desc := "()I" } : Jvm.MethodName) ({ cls := "PupilsPupilModel", name := "image", desc := "()I" } : Jvm.MethodName)) ∈ lw_all := lw_g (lw_at lw_m10 124 rfl) rfl
theorem q2429 : (Jvm.Cond.code ({ cls := "PupilsPupilModel", name := "image", desc := "()I" } : Jvm.MethodName) prog_22_method_124_code (3 : Nat) (Option.some Jvm.ClassFile.FieldType.int)) ∈ lw_all := lw_g (lw_at lw_m10 125 rfl) rfl
theorem q2430 : (Jvm.Cond.methodLink "PupilsPupilModel" (656 : Nat) ({ cls := "PupilsPupilModel", name := "writes", desc := "(I)V" } : Jvm.MethodName)) ∈ lw_all := lw_g (lw_at lw_m10 126 rfl) rfl
theorem q2431 : (Jvm.Cond.privateMethod ({ cls := "PupilsPupilModel", name := "writes", desc := "(I)V" } : Jvm.MethodName)) ∈ lw_tbl := lw_at lw_m10 127 rfl
theorem q2432 : (Jvm.Cond.instanceMethod ({ cls := "PupilsPupilModel", name := "writes", desc := "(I)V" } : Jvm.MethodName)) ∈ lw_all := lw_g (lw_at lw_m10 128 rfl) rfl
theorem q2433 : (Jvm.Cond.code ({ cls := "PupilsPupilModel", name := "writes", desc := "(I)V" } : Jvm.MethodName) prog_22_method_123_code (2 : Nat) (Option.none : Option Jvm.ClassFile.FieldType)) ∈ lw_all := lw_g (lw_at lw_m10 129 rfl) rfl
theorem q2434 : (Jvm.Cond.methodLink "PupilsPupilModel" (659 : Nat) ({ cls := "PupilsPupilModel", name := "checked", desc := "([II)I" } : Jvm.MethodName)) ∈ lw_all := lw_g (lw_at lw_m10 130 rfl) rfl
theorem q2435 : (Jvm.Cond.static ({ cls := "PupilsPupilModel", name := "checked", desc := "([II)I" } : Jvm.MethodName)) ∈ lw_all := lw_g (lw_at lw_m10 131 rfl) rfl
theorem q2436 : (Jvm.Cond.code ({ cls := "PupilsPupilModel", name := "checked", desc := "([II)I" } : Jvm.MethodName) prog_22_method_122_code (4 : Nat) (Option.some Jvm.ClassFile.FieldType.int)) ∈ lw_all := lw_g (lw_at lw_m10 132 rfl) rfl
theorem q2438 : (Jvm.Cond.instanceMethod ({ cls := "PupilsPupilModel", name := "octet", desc := "(I)I" } : Jvm.MethodName)) ∈ lw_all := lw_g (lw_at lw_m10 134 rfl) rfl
theorem q2439 : (Jvm.Cond.selects "PupilsPupilModel" ({ cls := "PupilsPupilModel", name := "octet", desc := "(I)I" } : Jvm.MethodName) ({ cls := "PupilsPupilModel", name := "octet", desc := "(I)I" } : Jvm.MethodName)) ∈ lw_all := lw_g (lw_at lw_m10 135 rfl) rfl
theorem q2440 : (Jvm.Cond.code ({ cls := "PupilsPupilModel", name := "octet", desc := "(I)I" } : Jvm.MethodName) prog_22_method_125_code (2 : Nat) (Option.some Jvm.ClassFile.FieldType.int)) ∈ lw_all := lw_g (lw_at lw_m10 136 rfl) rfl
theorem q2442 : (Jvm.Cond.instanceMethod ({ cls := "PupilsPupilModel", name := "on", desc := "()Z" } : Jvm.MethodName)) ∈ lw_all := lw_g (lw_at lw_m10 138 rfl) rfl
theorem q2443 : (Jvm.Cond.selects "PupilsPupilModel" ({ cls := "PupilsPupilModel", name := "on", desc := "()Z" } : Jvm.MethodName) ({ cls := "PupilsPupilModel", name := "on", desc := "()Z" } : Jvm.MethodName)) ∈ lw_all := lw_g (lw_at lw_m10 139 rfl) rfl
theorem q2444 : (Jvm.Cond.code ({ cls := "PupilsPupilModel", name := "on", desc := "()Z" } : Jvm.MethodName) prog_22_method_129_code (4 : Nat) (Option.some Jvm.ClassFile.FieldType.boolean)) ∈ lw_all := lw_g (lw_at lw_m10 140 rfl) rfl
theorem q2445 : (Jvm.Cond.methodLink "PupilsPupilModel" (669 : Nat) ({ cls := "PupilsPupilModel", name := "isImage", desc := "(I)Z" } : Jvm.MethodName)) ∈ lw_all := lw_g (lw_at lw_m10 141 rfl) rfl
theorem q2446 : (Jvm.Cond.privateMethod ({ cls := "PupilsPupilModel", name := "isImage", desc := "(I)Z" } : Jvm.MethodName)) ∈ lw_tbl := lw_at lw_m10 142 rfl
theorem q2447 : (Jvm.Cond.instanceMethod ({ cls := "PupilsPupilModel", name := "isImage", desc := "(I)Z" } : Jvm.MethodName)) ∈ lw_all := lw_g (lw_at lw_m10 143 rfl) rfl
theorem q2448 : (Jvm.Cond.code ({ cls := "PupilsPupilModel", name := "isImage", desc := "(I)Z" } : Jvm.MethodName) prog_22_method_128_code (3 : Nat) (Option.some Jvm.ClassFile.FieldType.boolean)) ∈ lw_all := lw_g (lw_at lw_m10 144 rfl) rfl
theorem q2449 : (Jvm.Cond.methodLink "PupilsPupilModel" (663 : Nat) ({ cls := "PupilsPupilModel", name := "isPersonTold", desc := "(I)Z" } : Jvm.MethodName)) ∈ lw_all := lw_g (lw_at lw_m10 145 rfl) rfl
theorem q2450 : (Jvm.Cond.privateMethod ({ cls := "PupilsPupilModel", name := "isPersonTold", desc := "(I)Z" } : Jvm.MethodName)) ∈ lw_tbl := lw_at lw_m10 146 rfl
theorem q2451 : (Jvm.Cond.instanceMethod ({ cls := "PupilsPupilModel", name := "isPersonTold", desc := "(I)Z" } : Jvm.MethodName)) ∈ lw_all := lw_g (lw_at lw_m10 147 rfl) rfl
theorem q2452 : (Jvm.Cond.code ({ cls := "PupilsPupilModel", name := "isPersonTold", desc := "(I)Z" } : Jvm.MethodName) prog_22_method_127_code (4 : Nat) (Option.some Jvm.ClassFile.FieldType.boolean)) ∈ lw_all := lw_g (lw_at lw_m10 148 rfl) rfl
theorem q2453 : (Jvm.Cond.methodLink "PupilsPupilModel" (666 : Nat) ({ cls := "PupilsPupilModel", name := "isRing", desc := "(I)Z" } : Jvm.MethodName)) ∈ lw_all := lw_g (lw_at lw_m10 149 rfl) rfl
theorem q2454 : (Jvm.Cond.privateMethod ({ cls := "PupilsPupilModel", name := "isRing", desc := "(I)Z" } : Jvm.MethodName)) ∈ lw_tbl := lw_at lw_m10 150 rfl
theorem q2455 : (Jvm.Cond.instanceMethod ({ cls := "PupilsPupilModel", name := "isRing", desc := "(I)Z" } : Jvm.MethodName)) ∈ lw_all := lw_g (lw_at lw_m10 151 rfl) rfl
theorem q2456 : (Jvm.Cond.code ({ cls := "PupilsPupilModel", name := "isRing", desc := "(I)Z" } : Jvm.MethodName) prog_22_method_126_code (4 : Nat) (Option.some Jvm.ClassFile.FieldType.boolean)) ∈ lw_all := lw_g (lw_at lw_m10 152 rfl) rfl
theorem q2458 : (Jvm.Cond.instanceMethod ({ cls := "PupilsPupilModel", name := "status", desc := "(I)I" } : Jvm.MethodName)) ∈ lw_all := lw_g (lw_at lw_m10 154 rfl) rfl
theorem q2459 : (Jvm.Cond.selects "PupilsPupilModel" ({ cls := "PupilsPupilModel", name := "status", desc := "(I)I" } : Jvm.MethodName) ({ cls := "PupilsPupilModel", name := "status", desc := "(I)I" } : Jvm.MethodName)) ∈ lw_all := lw_g (lw_at lw_m10 155 rfl) rfl
theorem q2460 : (Jvm.Cond.code ({ cls := "PupilsPupilModel", name := "status", desc := "(I)I" } : Jvm.MethodName) prog_22_method_130_code (2 : Nat) (Option.some Jvm.ClassFile.FieldType.int)) ∈ lw_all := lw_g (lw_at lw_m10 156 rfl) rfl
theorem q2486 : (Jvm.Cond.castable "PupilsPupilModel" "java/lang/Object") ∈ lw_tbl := lw_at lw_m10 182 rfl
theorem in_X6 : ∀ w ∈ wsX60, w ∈ lw_all := lw_in wsX60 [1729, 1731, 1733, 1735, 1737, 1739, 1741, 1743, 1745, 1747, 1749, 1751, 1753, 1755, 1757, 1759, 1761, 1763, 1765, 1767, 1769, 1771, 1773, 1775, 1777, 1779, 1781, 1783, 1785, 1787, 1789, 1791, 1793, 1795, 1797, 1799, 1801, 1803, 1805, 1807, 1809, 1811, 1813, 1815, 1817, 1819, 1821, 1823, 1825, 1827, 1829, 1831, 1833, 1835, 1837, 1839, 1841, 1843, 1845, 1847, 1849, 1851, 1853, 1855, 1857, 1859, 1861, 1863, 1865, 1867, 1869, 1871, 1873, 1875, 1877, 1879, 1881, 1883, 1885, 1887, 1889, 1891, 1893, 1895, 1897, 1899, 1901, 1903, 1905, 1907, 1909, 1911, 1913, 1915, 1917, 1919, 1921, 1923, 1925, 1927, 1929, 1931, 1933, 1935, 1937] (by decide +kernel) (by decide +kernel)

