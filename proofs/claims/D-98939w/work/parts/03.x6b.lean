set_option maxRecDepth 100000
abbrev cX6_isLetter : ByteArray := prog_22_method_6_code
def yX6_isLetter : MethodName := ⟨RX6, "isLetter", "(I)Z"⟩
def dkwX6_isLetter_0 : List UInt8 := [26, 16, 97, 161, 0, 13, 26, 16, 122, 163, 0, 7, 4, 167, 0, 4, 3, 172]
abbrev dktX6_isLetter_0 : List UInt8 := dkwX6_isLetter_0 ++ []
theorem dksX6_isLetter_0 : cX6_isLetter.data.toList.drop 0 = dktX6_isLetter_0 := by decide +kernel
theorem dX6_isLetter_0 : decode cX6_isLetter 0 = .ok (.iload_n 0, 1) := dk_26 (dk_at dksX6_isLetter_0 0 rfl rfl)
theorem dX6_isLetter_1 : decode cX6_isLetter 1 = .ok (.bipush 97, 2) := dk_16 97 (dk_at dksX6_isLetter_0 1 rfl rfl)
theorem dX6_isLetter_3 : decode cX6_isLetter 3 = .ok (.if_icmp .lt 13, 3) := dk_161 0 13 (dk_at dksX6_isLetter_0 3 rfl rfl)
theorem dX6_isLetter_6 : decode cX6_isLetter 6 = .ok (.iload_n 0, 1) := dk_26 (dk_at dksX6_isLetter_0 6 rfl rfl)
theorem dX6_isLetter_7 : decode cX6_isLetter 7 = .ok (.bipush 122, 2) := dk_16 122 (dk_at dksX6_isLetter_0 7 rfl rfl)
theorem dX6_isLetter_9 : decode cX6_isLetter 9 = .ok (.if_icmp .gt 7, 3) := dk_163 0 7 (dk_at dksX6_isLetter_0 9 rfl rfl)
theorem dX6_isLetter_12 : decode cX6_isLetter 12 = .ok (.iconst 1, 1) := dk_4 (dk_at dksX6_isLetter_0 12 rfl rfl)
theorem dX6_isLetter_13 : decode cX6_isLetter 13 = .ok (.goto 4, 3) := dk_167 0 4 (dk_at dksX6_isLetter_0 13 rfl rfl)
theorem dX6_isLetter_16 : decode cX6_isLetter 16 = .ok (.iconst 0, 1) := dk_3 (dk_at dksX6_isLetter_0 16 rfl rfl)
theorem dX6_isLetter_17 : decode cX6_isLetter 17 = .ok (.ireturn, 1) := dk_172 (dk_at dksX6_isLetter_0 17 rfl rfl)
abbrev cX6_factTold : ByteArray := prog_22_method_22_code
def yX6_factTold : MethodName := ⟨RX6, "factTold", "(I)V"⟩
def dkwX6_factTold_3 : List UInt8 := [180, 0, 105, 3, 92, 46, 4, 96, 79, 177]
abbrev dktX6_factTold_3 : List UInt8 := dkwX6_factTold_3 ++ []
def dkwX6_factTold_2 : List UInt8 := [42, 180, 0, 105, 3, 46, 32, 80, 42, 180, 0, 112, 42, 180, 0, 105, 3, 46, 21, 4, 79, 42]
abbrev dktX6_factTold_2 : List UInt8 := dkwX6_factTold_2 ++ dktX6_factTold_3
def dkwX6_factTold_1 : List UInt8 := [182, 1, 74, 42, 4, 16, 9, 182, 1, 78, 54, 4, 42, 180, 1, 1, 153, 0, 4, 177, 42, 180, 0, 108]
abbrev dktX6_factTold_1 : List UInt8 := dkwX6_factTold_1 ++ dktX6_factTold_2
def dkwX6_factTold_0 : List UInt8 := [42, 3, 16, 8, 27, 182, 1, 67, 153, 0, 4, 177, 42, 182, 1, 71, 65, 42, 42, 180, 0, 24]
abbrev dktX6_factTold_0 : List UInt8 := dkwX6_factTold_0 ++ dktX6_factTold_1
theorem dksX6_factTold_0 : cX6_factTold.data.toList.drop 0 = dktX6_factTold_0 := by decide +kernel
theorem dksX6_factTold_1 : cX6_factTold.data.toList.drop 22 = dktX6_factTold_1 := dk_seg dksX6_factTold_0 22 rfl rfl
theorem dksX6_factTold_2 : cX6_factTold.data.toList.drop 46 = dktX6_factTold_2 := dk_seg dksX6_factTold_1 24 rfl rfl
theorem dksX6_factTold_3 : cX6_factTold.data.toList.drop 68 = dktX6_factTold_3 := dk_seg dksX6_factTold_2 22 rfl rfl
theorem dX6_factTold_0 : decode cX6_factTold 0 = .ok (.aload_n 0, 1) := dk_42 (dk_at dksX6_factTold_0 0 rfl rfl)
theorem dX6_factTold_1 : decode cX6_factTold 1 = .ok (.iconst 0, 1) := dk_3 (dk_at dksX6_factTold_0 1 rfl rfl)
theorem dX6_factTold_2 : decode cX6_factTold 2 = .ok (.bipush 8, 2) := dk_16 8 (dk_at dksX6_factTold_0 2 rfl rfl)
theorem dX6_factTold_4 : decode cX6_factTold 4 = .ok (.iload_n 1, 1) := dk_27 (dk_at dksX6_factTold_0 4 rfl rfl)
theorem dX6_factTold_5 : decode cX6_factTold 5 = .ok (.invokevirtual 323, 3) := dk_182 1 67 (dk_at dksX6_factTold_0 5 rfl rfl)
theorem dX6_factTold_8 : decode cX6_factTold 8 = .ok (.ifCond .eq 4, 3) := dk_153 0 4 (dk_at dksX6_factTold_0 8 rfl rfl)
theorem dX6_factTold_11 : decode cX6_factTold 11 = .ok (.return_, 1) := dk_177 (dk_at dksX6_factTold_0 11 rfl rfl)
theorem dX6_factTold_12 : decode cX6_factTold 12 = .ok (.aload_n 0, 1) := dk_42 (dk_at dksX6_factTold_0 12 rfl rfl)
theorem dX6_factTold_13 : decode cX6_factTold 13 = .ok (.invokevirtual 327, 3) := dk_182 1 71 (dk_at dksX6_factTold_0 13 rfl rfl)
theorem dX6_factTold_16 : decode cX6_factTold 16 = .ok (.lstore_n 2, 1) := dk_65 (dk_at dksX6_factTold_0 16 rfl rfl)
theorem dX6_factTold_17 : decode cX6_factTold 17 = .ok (.aload_n 0, 1) := dk_42 (dk_at dksX6_factTold_0 17 rfl rfl)
theorem dX6_factTold_18 : decode cX6_factTold 18 = .ok (.aload_n 0, 1) := dk_42 (dk_at dksX6_factTold_0 18 rfl rfl)
theorem dX6_factTold_19 : decode cX6_factTold 19 = .ok (.getfield 24, 3) := dk_180 0 24 (dk_at dksX6_factTold_0 19 rfl rfl)
theorem dX6_factTold_22 : decode cX6_factTold 22 = .ok (.invokevirtual 330, 3) := dk_182 1 74 (dk_at dksX6_factTold_1 0 rfl rfl)
theorem dX6_factTold_25 : decode cX6_factTold 25 = .ok (.aload_n 0, 1) := dk_42 (dk_at dksX6_factTold_1 3 rfl rfl)
theorem dX6_factTold_26 : decode cX6_factTold 26 = .ok (.iconst 1, 1) := dk_4 (dk_at dksX6_factTold_1 4 rfl rfl)
theorem dX6_factTold_27 : decode cX6_factTold 27 = .ok (.bipush 9, 2) := dk_16 9 (dk_at dksX6_factTold_1 5 rfl rfl)
theorem dX6_factTold_29 : decode cX6_factTold 29 = .ok (.invokevirtual 334, 3) := dk_182 1 78 (dk_at dksX6_factTold_1 7 rfl rfl)
theorem dX6_factTold_32 : decode cX6_factTold 32 = .ok (.istore 4, 2) := dk_54 4 (dk_at dksX6_factTold_1 10 rfl rfl)
theorem dX6_factTold_34 : decode cX6_factTold 34 = .ok (.aload_n 0, 1) := dk_42 (dk_at dksX6_factTold_1 12 rfl rfl)
theorem dX6_factTold_35 : decode cX6_factTold 35 = .ok (.getfield 257, 3) := dk_180 1 1 (dk_at dksX6_factTold_1 13 rfl rfl)
theorem dX6_factTold_38 : decode cX6_factTold 38 = .ok (.ifCond .eq 4, 3) := dk_153 0 4 (dk_at dksX6_factTold_1 16 rfl rfl)
theorem dX6_factTold_41 : decode cX6_factTold 41 = .ok (.return_, 1) := dk_177 (dk_at dksX6_factTold_1 19 rfl rfl)
theorem dX6_factTold_42 : decode cX6_factTold 42 = .ok (.aload_n 0, 1) := dk_42 (dk_at dksX6_factTold_1 20 rfl rfl)
theorem dX6_factTold_43 : decode cX6_factTold 43 = .ok (.getfield 108, 3) := dk_180 0 108 (dk_at dksX6_factTold_1 21 rfl rfl)
theorem dX6_factTold_46 : decode cX6_factTold 46 = .ok (.aload_n 0, 1) := dk_42 (dk_at dksX6_factTold_2 0 rfl rfl)
theorem dX6_factTold_47 : decode cX6_factTold 47 = .ok (.getfield 105, 3) := dk_180 0 105 (dk_at dksX6_factTold_2 1 rfl rfl)
theorem dX6_factTold_50 : decode cX6_factTold 50 = .ok (.iconst 0, 1) := dk_3 (dk_at dksX6_factTold_2 4 rfl rfl)
theorem dX6_factTold_51 : decode cX6_factTold 51 = .ok (.iaload, 1) := dk_46 (dk_at dksX6_factTold_2 5 rfl rfl)
theorem dX6_factTold_52 : decode cX6_factTold 52 = .ok (.lload_n 2, 1) := dk_32 (dk_at dksX6_factTold_2 6 rfl rfl)
theorem dX6_factTold_53 : decode cX6_factTold 53 = .ok (.lastore, 1) := dk_80 (dk_at dksX6_factTold_2 7 rfl rfl)
theorem dX6_factTold_54 : decode cX6_factTold 54 = .ok (.aload_n 0, 1) := dk_42 (dk_at dksX6_factTold_2 8 rfl rfl)
theorem dX6_factTold_55 : decode cX6_factTold 55 = .ok (.getfield 112, 3) := dk_180 0 112 (dk_at dksX6_factTold_2 9 rfl rfl)
theorem dX6_factTold_58 : decode cX6_factTold 58 = .ok (.aload_n 0, 1) := dk_42 (dk_at dksX6_factTold_2 12 rfl rfl)
theorem dX6_factTold_59 : decode cX6_factTold 59 = .ok (.getfield 105, 3) := dk_180 0 105 (dk_at dksX6_factTold_2 13 rfl rfl)
theorem dX6_factTold_62 : decode cX6_factTold 62 = .ok (.iconst 0, 1) := dk_3 (dk_at dksX6_factTold_2 16 rfl rfl)
theorem dX6_factTold_63 : decode cX6_factTold 63 = .ok (.iaload, 1) := dk_46 (dk_at dksX6_factTold_2 17 rfl rfl)
theorem dX6_factTold_64 : decode cX6_factTold 64 = .ok (.iload 4, 2) := dk_21 4 (dk_at dksX6_factTold_2 18 rfl rfl)
theorem dX6_factTold_66 : decode cX6_factTold 66 = .ok (.iastore, 1) := dk_79 (dk_at dksX6_factTold_2 20 rfl rfl)
theorem dX6_factTold_67 : decode cX6_factTold 67 = .ok (.aload_n 0, 1) := dk_42 (dk_at dksX6_factTold_2 21 rfl rfl)
theorem dX6_factTold_68 : decode cX6_factTold 68 = .ok (.getfield 105, 3) := dk_180 0 105 (dk_at dksX6_factTold_3 0 rfl rfl)
theorem dX6_factTold_71 : decode cX6_factTold 71 = .ok (.iconst 0, 1) := dk_3 (dk_at dksX6_factTold_3 3 rfl rfl)
theorem dX6_factTold_72 : decode cX6_factTold 72 = .ok (.dup2, 1) := dk_92 (dk_at dksX6_factTold_3 4 rfl rfl)
theorem dX6_factTold_73 : decode cX6_factTold 73 = .ok (.iaload, 1) := dk_46 (dk_at dksX6_factTold_3 5 rfl rfl)
theorem dX6_factTold_74 : decode cX6_factTold 74 = .ok (.iconst 1, 1) := dk_4 (dk_at dksX6_factTold_3 6 rfl rfl)
theorem dX6_factTold_75 : decode cX6_factTold 75 = .ok (.iadd, 1) := dk_96 (dk_at dksX6_factTold_3 7 rfl rfl)
theorem dX6_factTold_76 : decode cX6_factTold 76 = .ok (.iastore, 1) := dk_79 (dk_at dksX6_factTold_3 8 rfl rfl)
theorem dX6_factTold_77 : decode cX6_factTold 77 = .ok (.return_, 1) := dk_177 (dk_at dksX6_factTold_3 9 rfl rfl)
abbrev cX6_isFull : ByteArray := prog_22_method_18_code
def yX6_isFull : MethodName := ⟨RX6, "isFull", "(III)Z"⟩
def dkwX6_isFull_1 : List UInt8 := [180, 1, 1, 153, 0, 7, 4, 167, 0, 4, 3, 172]
abbrev dktX6_isFull_1 : List UInt8 := dkwX6_isFull_1 ++ []
def dkwX6_isFull_0 : List UInt8 := [42, 180, 1, 1, 154, 0, 19, 42, 180, 0, 105, 27, 46, 28, 160, 0, 9, 42, 8, 29, 182, 1, 31, 42]
abbrev dktX6_isFull_0 : List UInt8 := dkwX6_isFull_0 ++ dktX6_isFull_1
theorem dksX6_isFull_0 : cX6_isFull.data.toList.drop 0 = dktX6_isFull_0 := by decide +kernel
theorem dksX6_isFull_1 : cX6_isFull.data.toList.drop 24 = dktX6_isFull_1 := dk_seg dksX6_isFull_0 24 rfl rfl
theorem dX6_isFull_0 : decode cX6_isFull 0 = .ok (.aload_n 0, 1) := dk_42 (dk_at dksX6_isFull_0 0 rfl rfl)
theorem dX6_isFull_1 : decode cX6_isFull 1 = .ok (.getfield 257, 3) := dk_180 1 1 (dk_at dksX6_isFull_0 1 rfl rfl)
theorem dX6_isFull_4 : decode cX6_isFull 4 = .ok (.ifCond .ne 19, 3) := dk_154 0 19 (dk_at dksX6_isFull_0 4 rfl rfl)
theorem dX6_isFull_7 : decode cX6_isFull 7 = .ok (.aload_n 0, 1) := dk_42 (dk_at dksX6_isFull_0 7 rfl rfl)
theorem dX6_isFull_8 : decode cX6_isFull 8 = .ok (.getfield 105, 3) := dk_180 0 105 (dk_at dksX6_isFull_0 8 rfl rfl)
theorem dX6_isFull_11 : decode cX6_isFull 11 = .ok (.iload_n 1, 1) := dk_27 (dk_at dksX6_isFull_0 11 rfl rfl)
theorem dX6_isFull_12 : decode cX6_isFull 12 = .ok (.iaload, 1) := dk_46 (dk_at dksX6_isFull_0 12 rfl rfl)
theorem dX6_isFull_13 : decode cX6_isFull 13 = .ok (.iload_n 2, 1) := dk_28 (dk_at dksX6_isFull_0 13 rfl rfl)
theorem dX6_isFull_14 : decode cX6_isFull 14 = .ok (.if_icmp .ne 9, 3) := dk_160 0 9 (dk_at dksX6_isFull_0 14 rfl rfl)
theorem dX6_isFull_17 : decode cX6_isFull 17 = .ok (.aload_n 0, 1) := dk_42 (dk_at dksX6_isFull_0 17 rfl rfl)
theorem dX6_isFull_18 : decode cX6_isFull 18 = .ok (.iconst 5, 1) := dk_8 (dk_at dksX6_isFull_0 18 rfl rfl)
theorem dX6_isFull_19 : decode cX6_isFull 19 = .ok (.iload_n 3, 1) := dk_29 (dk_at dksX6_isFull_0 19 rfl rfl)
theorem dX6_isFull_20 : decode cX6_isFull 20 = .ok (.invokevirtual 287, 3) := dk_182 1 31 (dk_at dksX6_isFull_0 20 rfl rfl)
theorem dX6_isFull_23 : decode cX6_isFull 23 = .ok (.aload_n 0, 1) := dk_42 (dk_at dksX6_isFull_0 23 rfl rfl)
theorem dX6_isFull_24 : decode cX6_isFull 24 = .ok (.getfield 257, 3) := dk_180 1 1 (dk_at dksX6_isFull_1 0 rfl rfl)
theorem dX6_isFull_27 : decode cX6_isFull 27 = .ok (.ifCond .eq 7, 3) := dk_153 0 7 (dk_at dksX6_isFull_1 3 rfl rfl)
theorem dX6_isFull_30 : decode cX6_isFull 30 = .ok (.iconst 1, 1) := dk_4 (dk_at dksX6_isFull_1 6 rfl rfl)
theorem dX6_isFull_31 : decode cX6_isFull 31 = .ok (.goto 4, 3) := dk_167 0 4 (dk_at dksX6_isFull_1 7 rfl rfl)
theorem dX6_isFull_34 : decode cX6_isFull 34 = .ok (.iconst 0, 1) := dk_3 (dk_at dksX6_isFull_1 10 rfl rfl)
theorem dX6_isFull_35 : decode cX6_isFull 35 = .ok (.ireturn, 1) := dk_172 (dk_at dksX6_isFull_1 11 rfl rfl)
abbrev cX6_newName : ByteArray := prog_22_method_20_code
def yX6_newName : MethodName := ⟨RX6, "newName", "()J"⟩
def dkwX6_newName_1 : List UInt8 := [182, 1, 63, 2, 159, 0, 12, 42, 6, 42, 180, 1, 49, 182, 1, 31, 132, 3, 1, 167, 255, 222, 31, 173]
abbrev dktX6_newName_1 : List UInt8 := dkwX6_newName_1 ++ []
def dkwX6_newName_0 : List UInt8 := [42, 182, 1, 59, 64, 3, 62, 29, 5, 162, 0, 35, 42, 180, 1, 1, 154, 0, 22, 42, 29, 31]
abbrev dktX6_newName_0 : List UInt8 := dkwX6_newName_0 ++ dktX6_newName_1
theorem dksX6_newName_0 : cX6_newName.data.toList.drop 0 = dktX6_newName_0 := by decide +kernel
theorem dksX6_newName_1 : cX6_newName.data.toList.drop 22 = dktX6_newName_1 := dk_seg dksX6_newName_0 22 rfl rfl
theorem dX6_newName_0 : decode cX6_newName 0 = .ok (.aload_n 0, 1) := dk_42 (dk_at dksX6_newName_0 0 rfl rfl)
theorem dX6_newName_1 : decode cX6_newName 1 = .ok (.invokevirtual 315, 3) := dk_182 1 59 (dk_at dksX6_newName_0 1 rfl rfl)
theorem dX6_newName_4 : decode cX6_newName 4 = .ok (.lstore_n 1, 1) := dk_64 (dk_at dksX6_newName_0 4 rfl rfl)
theorem dX6_newName_5 : decode cX6_newName 5 = .ok (.iconst 0, 1) := dk_3 (dk_at dksX6_newName_0 5 rfl rfl)
theorem dX6_newName_6 : decode cX6_newName 6 = .ok (.istore_n 3, 1) := dk_62 (dk_at dksX6_newName_0 6 rfl rfl)
theorem dX6_newName_7 : decode cX6_newName 7 = .ok (.iload_n 3, 1) := dk_29 (dk_at dksX6_newName_0 7 rfl rfl)
theorem dX6_newName_8 : decode cX6_newName 8 = .ok (.iconst 2, 1) := dk_5 (dk_at dksX6_newName_0 8 rfl rfl)
theorem dX6_newName_9 : decode cX6_newName 9 = .ok (.if_icmp .ge 35, 3) := dk_162 0 35 (dk_at dksX6_newName_0 9 rfl rfl)
theorem dX6_newName_12 : decode cX6_newName 12 = .ok (.aload_n 0, 1) := dk_42 (dk_at dksX6_newName_0 12 rfl rfl)
theorem dX6_newName_13 : decode cX6_newName 13 = .ok (.getfield 257, 3) := dk_180 1 1 (dk_at dksX6_newName_0 13 rfl rfl)
theorem dX6_newName_16 : decode cX6_newName 16 = .ok (.ifCond .ne 22, 3) := dk_154 0 22 (dk_at dksX6_newName_0 16 rfl rfl)
theorem dX6_newName_19 : decode cX6_newName 19 = .ok (.aload_n 0, 1) := dk_42 (dk_at dksX6_newName_0 19 rfl rfl)
theorem dX6_newName_20 : decode cX6_newName 20 = .ok (.iload_n 3, 1) := dk_29 (dk_at dksX6_newName_0 20 rfl rfl)
theorem dX6_newName_21 : decode cX6_newName 21 = .ok (.lload_n 1, 1) := dk_31 (dk_at dksX6_newName_0 21 rfl rfl)
theorem dX6_newName_22 : decode cX6_newName 22 = .ok (.invokevirtual 319, 3) := dk_182 1 63 (dk_at dksX6_newName_1 0 rfl rfl)
theorem dX6_newName_25 : decode cX6_newName 25 = .ok (.iconst (-1), 1) := dk_2 (dk_at dksX6_newName_1 3 rfl rfl)
theorem dX6_newName_26 : decode cX6_newName 26 = .ok (.if_icmp .eq 12, 3) := dk_159 0 12 (dk_at dksX6_newName_1 4 rfl rfl)
theorem dX6_newName_29 : decode cX6_newName 29 = .ok (.aload_n 0, 1) := dk_42 (dk_at dksX6_newName_1 7 rfl rfl)
theorem dX6_newName_30 : decode cX6_newName 30 = .ok (.iconst 3, 1) := dk_6 (dk_at dksX6_newName_1 8 rfl rfl)
theorem dX6_newName_31 : decode cX6_newName 31 = .ok (.aload_n 0, 1) := dk_42 (dk_at dksX6_newName_1 9 rfl rfl)
theorem dX6_newName_32 : decode cX6_newName 32 = .ok (.getfield 305, 3) := dk_180 1 49 (dk_at dksX6_newName_1 10 rfl rfl)
theorem dX6_newName_35 : decode cX6_newName 35 = .ok (.invokevirtual 287, 3) := dk_182 1 31 (dk_at dksX6_newName_1 13 rfl rfl)
theorem dX6_newName_38 : decode cX6_newName 38 = .ok (.iinc 3 1, 3) := dk_132 3 1 (dk_at dksX6_newName_1 16 rfl rfl)
theorem dX6_newName_41 : decode cX6_newName 41 = .ok (.goto (-34), 3) := dk_167 255 222 (dk_at dksX6_newName_1 19 rfl rfl)
theorem dX6_newName_44 : decode cX6_newName 44 = .ok (.lload_n 1, 1) := dk_31 (dk_at dksX6_newName_1 22 rfl rfl)
theorem dX6_newName_45 : decode cX6_newName 45 = .ok (.lreturn, 1) := dk_173 (dk_at dksX6_newName_1 23 rfl rfl)
abbrev cX6_name : ByteArray := prog_22_method_16_code
def yX6_name : MethodName := ⟨RX6, "name", "()J"⟩
def dkwX6_name_6 : List UInt8 := [181, 1, 7, 167, 255, 172, 42, 42, 180, 1, 7, 181, 1, 21, 31, 173]
abbrev dktX6_name_6 : List UInt8 := dkwX6_name_6 ++ []
def dkwX6_name_5 : List UInt8 := [180, 0, 7, 42, 180, 1, 7, 46, 133, 97, 20, 1, 54, 101, 10, 97, 64, 42, 89, 180, 1, 7, 4, 96]
abbrev dktX6_name_5 : List UInt8 := dkwX6_name_5 ++ dktX6_name_6
def dkwX6_name_4 : List UInt8 := [16, 6, 160, 0, 14, 42, 4, 42, 180, 1, 7, 182, 1, 31, 9, 173, 20, 1, 52, 31, 105, 42]
abbrev dktX6_name_4 : List UInt8 := dkwX6_name_4 ++ dktX6_name_5
def dkwX6_name_3 : List UInt8 := [180, 0, 7, 42, 180, 1, 7, 46, 184, 1, 17, 153, 0, 64, 42, 180, 1, 7, 42, 180, 1, 49, 100]
abbrev dktX6_name_3 : List UInt8 := dkwX6_name_3 ++ dktX6_name_4
def dkwX6_name_2 : List UInt8 := [42, 42, 180, 1, 7, 181, 1, 49, 9, 64, 42, 180, 1, 7, 42, 180, 1, 10, 162, 0, 79, 42]
abbrev dktX6_name_2 : List UInt8 := dkwX6_name_2 ++ dktX6_name_3
def dkwX6_name_1 : List UInt8 := [180, 1, 21, 159, 0, 10, 42, 182, 1, 45, 153, 0, 14, 42, 4, 42, 180, 1, 7, 182, 1, 31, 9, 173]
abbrev dktX6_name_1 : List UInt8 := dkwX6_name_1 ++ dktX6_name_2
def dkwX6_name_0 : List UInt8 := [42, 180, 1, 1, 153, 0, 5, 9, 173, 42, 182, 1, 13, 184, 1, 17, 153, 0, 21, 42, 180, 1, 7, 42]
abbrev dktX6_name_0 : List UInt8 := dkwX6_name_0 ++ dktX6_name_1
theorem dksX6_name_0 : cX6_name.data.toList.drop 0 = dktX6_name_0 := by decide +kernel
theorem dksX6_name_1 : cX6_name.data.toList.drop 24 = dktX6_name_1 := dk_seg dksX6_name_0 24 rfl rfl
theorem dksX6_name_2 : cX6_name.data.toList.drop 48 = dktX6_name_2 := dk_seg dksX6_name_1 24 rfl rfl
theorem dksX6_name_3 : cX6_name.data.toList.drop 70 = dktX6_name_3 := dk_seg dksX6_name_2 22 rfl rfl
theorem dksX6_name_4 : cX6_name.data.toList.drop 93 = dktX6_name_4 := dk_seg dksX6_name_3 23 rfl rfl
theorem dksX6_name_5 : cX6_name.data.toList.drop 115 = dktX6_name_5 := dk_seg dksX6_name_4 22 rfl rfl
theorem dksX6_name_6 : cX6_name.data.toList.drop 139 = dktX6_name_6 := dk_seg dksX6_name_5 24 rfl rfl
theorem dX6_name_0 : decode cX6_name 0 = .ok (.aload_n 0, 1) := dk_42 (dk_at dksX6_name_0 0 rfl rfl)
theorem dX6_name_1 : decode cX6_name 1 = .ok (.getfield 257, 3) := dk_180 1 1 (dk_at dksX6_name_0 1 rfl rfl)
theorem dX6_name_4 : decode cX6_name 4 = .ok (.ifCond .eq 5, 3) := dk_153 0 5 (dk_at dksX6_name_0 4 rfl rfl)
theorem dX6_name_7 : decode cX6_name 7 = .ok (.lconst 0, 1) := dk_9 (dk_at dksX6_name_0 7 rfl rfl)
theorem dX6_name_8 : decode cX6_name 8 = .ok (.lreturn, 1) := dk_173 (dk_at dksX6_name_0 8 rfl rfl)
theorem dX6_name_9 : decode cX6_name 9 = .ok (.aload_n 0, 1) := dk_42 (dk_at dksX6_name_0 9 rfl rfl)
theorem dX6_name_10 : decode cX6_name 10 = .ok (.invokevirtual 269, 3) := dk_182 1 13 (dk_at dksX6_name_0 10 rfl rfl)
theorem dX6_name_13 : decode cX6_name 13 = .ok (.invokestatic 273, 3) := dk_184 1 17 (dk_at dksX6_name_0 13 rfl rfl)
theorem dX6_name_16 : decode cX6_name 16 = .ok (.ifCond .eq 21, 3) := dk_153 0 21 (dk_at dksX6_name_0 16 rfl rfl)
theorem dX6_name_19 : decode cX6_name 19 = .ok (.aload_n 0, 1) := dk_42 (dk_at dksX6_name_0 19 rfl rfl)
theorem dX6_name_20 : decode cX6_name 20 = .ok (.getfield 263, 3) := dk_180 1 7 (dk_at dksX6_name_0 20 rfl rfl)
theorem dX6_name_23 : decode cX6_name 23 = .ok (.aload_n 0, 1) := dk_42 (dk_at dksX6_name_0 23 rfl rfl)
theorem dX6_name_24 : decode cX6_name 24 = .ok (.getfield 277, 3) := dk_180 1 21 (dk_at dksX6_name_1 0 rfl rfl)
theorem dX6_name_27 : decode cX6_name 27 = .ok (.if_icmp .eq 10, 3) := dk_159 0 10 (dk_at dksX6_name_1 3 rfl rfl)
theorem dX6_name_30 : decode cX6_name 30 = .ok (.aload_n 0, 1) := dk_42 (dk_at dksX6_name_1 6 rfl rfl)
theorem dX6_name_31 : decode cX6_name 31 = .ok (.invokevirtual 301, 3) := dk_182 1 45 (dk_at dksX6_name_1 7 rfl rfl)
theorem dX6_name_34 : decode cX6_name 34 = .ok (.ifCond .eq 14, 3) := dk_153 0 14 (dk_at dksX6_name_1 10 rfl rfl)
theorem dX6_name_37 : decode cX6_name 37 = .ok (.aload_n 0, 1) := dk_42 (dk_at dksX6_name_1 13 rfl rfl)
theorem dX6_name_38 : decode cX6_name 38 = .ok (.iconst 1, 1) := dk_4 (dk_at dksX6_name_1 14 rfl rfl)
theorem dX6_name_39 : decode cX6_name 39 = .ok (.aload_n 0, 1) := dk_42 (dk_at dksX6_name_1 15 rfl rfl)
theorem dX6_name_40 : decode cX6_name 40 = .ok (.getfield 263, 3) := dk_180 1 7 (dk_at dksX6_name_1 16 rfl rfl)
theorem dX6_name_43 : decode cX6_name 43 = .ok (.invokevirtual 287, 3) := dk_182 1 31 (dk_at dksX6_name_1 19 rfl rfl)
theorem dX6_name_46 : decode cX6_name 46 = .ok (.lconst 0, 1) := dk_9 (dk_at dksX6_name_1 22 rfl rfl)
theorem dX6_name_47 : decode cX6_name 47 = .ok (.lreturn, 1) := dk_173 (dk_at dksX6_name_1 23 rfl rfl)
theorem dX6_name_48 : decode cX6_name 48 = .ok (.aload_n 0, 1) := dk_42 (dk_at dksX6_name_2 0 rfl rfl)
theorem dX6_name_49 : decode cX6_name 49 = .ok (.aload_n 0, 1) := dk_42 (dk_at dksX6_name_2 1 rfl rfl)
theorem dX6_name_50 : decode cX6_name 50 = .ok (.getfield 263, 3) := dk_180 1 7 (dk_at dksX6_name_2 2 rfl rfl)
theorem dX6_name_53 : decode cX6_name 53 = .ok (.putfield 305, 3) := dk_181 1 49 (dk_at dksX6_name_2 5 rfl rfl)
theorem dX6_name_56 : decode cX6_name 56 = .ok (.lconst 0, 1) := dk_9 (dk_at dksX6_name_2 8 rfl rfl)
theorem dX6_name_57 : decode cX6_name 57 = .ok (.lstore_n 1, 1) := dk_64 (dk_at dksX6_name_2 9 rfl rfl)
theorem dX6_name_58 : decode cX6_name 58 = .ok (.aload_n 0, 1) := dk_42 (dk_at dksX6_name_2 10 rfl rfl)
theorem dX6_name_59 : decode cX6_name 59 = .ok (.getfield 263, 3) := dk_180 1 7 (dk_at dksX6_name_2 11 rfl rfl)
theorem dX6_name_62 : decode cX6_name 62 = .ok (.aload_n 0, 1) := dk_42 (dk_at dksX6_name_2 14 rfl rfl)
theorem dX6_name_63 : decode cX6_name 63 = .ok (.getfield 266, 3) := dk_180 1 10 (dk_at dksX6_name_2 15 rfl rfl)
theorem dX6_name_66 : decode cX6_name 66 = .ok (.if_icmp .ge 79, 3) := dk_162 0 79 (dk_at dksX6_name_2 18 rfl rfl)
theorem dX6_name_69 : decode cX6_name 69 = .ok (.aload_n 0, 1) := dk_42 (dk_at dksX6_name_2 21 rfl rfl)
theorem dX6_name_70 : decode cX6_name 70 = .ok (.getfield 7, 3) := dk_180 0 7 (dk_at dksX6_name_3 0 rfl rfl)
theorem dX6_name_73 : decode cX6_name 73 = .ok (.aload_n 0, 1) := dk_42 (dk_at dksX6_name_3 3 rfl rfl)
theorem dX6_name_74 : decode cX6_name 74 = .ok (.getfield 263, 3) := dk_180 1 7 (dk_at dksX6_name_3 4 rfl rfl)
theorem dX6_name_77 : decode cX6_name 77 = .ok (.iaload, 1) := dk_46 (dk_at dksX6_name_3 7 rfl rfl)
theorem dX6_name_78 : decode cX6_name 78 = .ok (.invokestatic 273, 3) := dk_184 1 17 (dk_at dksX6_name_3 8 rfl rfl)
theorem dX6_name_81 : decode cX6_name 81 = .ok (.ifCond .eq 64, 3) := dk_153 0 64 (dk_at dksX6_name_3 11 rfl rfl)
theorem dX6_name_84 : decode cX6_name 84 = .ok (.aload_n 0, 1) := dk_42 (dk_at dksX6_name_3 14 rfl rfl)
theorem dX6_name_85 : decode cX6_name 85 = .ok (.getfield 263, 3) := dk_180 1 7 (dk_at dksX6_name_3 15 rfl rfl)
theorem dX6_name_88 : decode cX6_name 88 = .ok (.aload_n 0, 1) := dk_42 (dk_at dksX6_name_3 18 rfl rfl)
theorem dX6_name_89 : decode cX6_name 89 = .ok (.getfield 305, 3) := dk_180 1 49 (dk_at dksX6_name_3 19 rfl rfl)
theorem dX6_name_92 : decode cX6_name 92 = .ok (.isub, 1) := dk_100 (dk_at dksX6_name_3 22 rfl rfl)
theorem dX6_name_93 : decode cX6_name 93 = .ok (.bipush 6, 2) := dk_16 6 (dk_at dksX6_name_4 0 rfl rfl)
theorem dX6_name_95 : decode cX6_name 95 = .ok (.if_icmp .ne 14, 3) := dk_160 0 14 (dk_at dksX6_name_4 2 rfl rfl)
theorem dX6_name_98 : decode cX6_name 98 = .ok (.aload_n 0, 1) := dk_42 (dk_at dksX6_name_4 5 rfl rfl)
theorem dX6_name_99 : decode cX6_name 99 = .ok (.iconst 1, 1) := dk_4 (dk_at dksX6_name_4 6 rfl rfl)
theorem dX6_name_100 : decode cX6_name 100 = .ok (.aload_n 0, 1) := dk_42 (dk_at dksX6_name_4 7 rfl rfl)
theorem dX6_name_101 : decode cX6_name 101 = .ok (.getfield 263, 3) := dk_180 1 7 (dk_at dksX6_name_4 8 rfl rfl)
theorem dX6_name_104 : decode cX6_name 104 = .ok (.invokevirtual 287, 3) := dk_182 1 31 (dk_at dksX6_name_4 11 rfl rfl)
theorem dX6_name_107 : decode cX6_name 107 = .ok (.lconst 0, 1) := dk_9 (dk_at dksX6_name_4 14 rfl rfl)
theorem dX6_name_108 : decode cX6_name 108 = .ok (.lreturn, 1) := dk_173 (dk_at dksX6_name_4 15 rfl rfl)
theorem dX6_name_109 : decode cX6_name 109 = .ok (.ldc2_w 308, 3) := dk_20 1 52 (dk_at dksX6_name_4 16 rfl rfl)
theorem dX6_name_112 : decode cX6_name 112 = .ok (.lload_n 1, 1) := dk_31 (dk_at dksX6_name_4 19 rfl rfl)
theorem dX6_name_113 : decode cX6_name 113 = .ok (.lmul, 1) := dk_105 (dk_at dksX6_name_4 20 rfl rfl)
theorem dX6_name_114 : decode cX6_name 114 = .ok (.aload_n 0, 1) := dk_42 (dk_at dksX6_name_4 21 rfl rfl)
theorem dX6_name_115 : decode cX6_name 115 = .ok (.getfield 7, 3) := dk_180 0 7 (dk_at dksX6_name_5 0 rfl rfl)
theorem dX6_name_118 : decode cX6_name 118 = .ok (.aload_n 0, 1) := dk_42 (dk_at dksX6_name_5 3 rfl rfl)
theorem dX6_name_119 : decode cX6_name 119 = .ok (.getfield 263, 3) := dk_180 1 7 (dk_at dksX6_name_5 4 rfl rfl)
theorem dX6_name_122 : decode cX6_name 122 = .ok (.iaload, 1) := dk_46 (dk_at dksX6_name_5 7 rfl rfl)
theorem dX6_name_123 : decode cX6_name 123 = .ok (.i2l, 1) := dk_133 (dk_at dksX6_name_5 8 rfl rfl)
theorem dX6_name_124 : decode cX6_name 124 = .ok (.ladd, 1) := dk_97 (dk_at dksX6_name_5 9 rfl rfl)
theorem dX6_name_125 : decode cX6_name 125 = .ok (.ldc2_w 310, 3) := dk_20 1 54 (dk_at dksX6_name_5 10 rfl rfl)
theorem dX6_name_128 : decode cX6_name 128 = .ok (.lsub, 1) := dk_101 (dk_at dksX6_name_5 13 rfl rfl)
theorem dX6_name_129 : decode cX6_name 129 = .ok (.lconst 1, 1) := dk_10 (dk_at dksX6_name_5 14 rfl rfl)
theorem dX6_name_130 : decode cX6_name 130 = .ok (.ladd, 1) := dk_97 (dk_at dksX6_name_5 15 rfl rfl)
theorem dX6_name_131 : decode cX6_name 131 = .ok (.lstore_n 1, 1) := dk_64 (dk_at dksX6_name_5 16 rfl rfl)
theorem dX6_name_132 : decode cX6_name 132 = .ok (.aload_n 0, 1) := dk_42 (dk_at dksX6_name_5 17 rfl rfl)
theorem dX6_name_133 : decode cX6_name 133 = .ok (.dup, 1) := dk_89 (dk_at dksX6_name_5 18 rfl rfl)
theorem dX6_name_134 : decode cX6_name 134 = .ok (.getfield 263, 3) := dk_180 1 7 (dk_at dksX6_name_5 19 rfl rfl)
theorem dX6_name_137 : decode cX6_name 137 = .ok (.iconst 1, 1) := dk_4 (dk_at dksX6_name_5 22 rfl rfl)
theorem dX6_name_138 : decode cX6_name 138 = .ok (.iadd, 1) := dk_96 (dk_at dksX6_name_5 23 rfl rfl)
theorem dX6_name_139 : decode cX6_name 139 = .ok (.putfield 263, 3) := dk_181 1 7 (dk_at dksX6_name_6 0 rfl rfl)
theorem dX6_name_142 : decode cX6_name 142 = .ok (.goto (-84), 3) := dk_167 255 172 (dk_at dksX6_name_6 3 rfl rfl)
theorem dX6_name_145 : decode cX6_name 145 = .ok (.aload_n 0, 1) := dk_42 (dk_at dksX6_name_6 6 rfl rfl)
theorem dX6_name_146 : decode cX6_name 146 = .ok (.aload_n 0, 1) := dk_42 (dk_at dksX6_name_6 7 rfl rfl)
theorem dX6_name_147 : decode cX6_name 147 = .ok (.getfield 263, 3) := dk_180 1 7 (dk_at dksX6_name_6 8 rfl rfl)
theorem dX6_name_150 : decode cX6_name 150 = .ok (.putfield 277, 3) := dk_181 1 21 (dk_at dksX6_name_6 11 rfl rfl)
theorem dX6_name_153 : decode cX6_name 153 = .ok (.lload_n 1, 1) := dk_31 (dk_at dksX6_name_6 14 rfl rfl)
theorem dX6_name_154 : decode cX6_name 154 = .ok (.lreturn, 1) := dk_173 (dk_at dksX6_name_6 15 rfl rfl)
abbrev cX6_isOwnHere : ByteArray := prog_22_method_15_code
def yX6_isOwnHere : MethodName := ⟨RX6, "isOwnHere", "()Z"⟩
def dkwX6_isOwnHere_15 : List UInt8 := [182, 1, 24, 153, 0, 7, 4, 167, 0, 4, 3, 60, 27, 172]
abbrev dktX6_isOwnHere_15 : List UInt8 := dkwX6_isOwnHere_15 ++ []
def dkwX6_isOwnHere_14 : List UInt8 := [182, 1, 24, 154, 0, 25, 42, 42, 180, 0, 99, 182, 1, 24, 154, 0, 14, 42, 42, 180, 0, 102]
abbrev dktX6_isOwnHere_14 : List UInt8 := dkwX6_isOwnHere_14 ++ dktX6_isOwnHere_15
def dkwX6_isOwnHere_13 : List UInt8 := [3, 60, 27, 154, 0, 47, 42, 42, 180, 0, 93, 182, 1, 24, 154, 0, 36, 42, 42, 180, 0, 96]
abbrev dktX6_isOwnHere_13 : List UInt8 := dkwX6_isOwnHere_13 ++ dktX6_isOwnHere_14
def dkwX6_isOwnHere_12 : List UInt8 := [180, 0, 87, 182, 1, 24, 154, 0, 14, 42, 42, 180, 0, 90, 182, 1, 24, 153, 0, 7, 4, 167, 0, 4]
abbrev dktX6_isOwnHere_12 : List UInt8 := dkwX6_isOwnHere_12 ++ dktX6_isOwnHere_13
def dkwX6_isOwnHere_11 : List UInt8 := [180, 0, 81, 182, 1, 24, 154, 0, 36, 42, 42, 180, 0, 84, 182, 1, 24, 154, 0, 25, 42, 42]
abbrev dktX6_isOwnHere_11 : List UInt8 := dkwX6_isOwnHere_11 ++ dktX6_isOwnHere_12
def dkwX6_isOwnHere_10 : List UInt8 := [42, 42, 180, 0, 75, 182, 1, 24, 154, 0, 58, 42, 42, 180, 0, 78, 182, 1, 24, 154, 0, 47, 42, 42]
abbrev dktX6_isOwnHere_10 : List UInt8 := dkwX6_isOwnHere_10 ++ dktX6_isOwnHere_11
def dkwX6_isOwnHere_9 : List UInt8 := [154, 0, 14, 42, 42, 180, 0, 72, 182, 1, 24, 153, 0, 7, 4, 167, 0, 4, 3, 60, 27, 154, 0, 69]
abbrev dktX6_isOwnHere_9 : List UInt8 := dkwX6_isOwnHere_9 ++ dktX6_isOwnHere_10
def dkwX6_isOwnHere_8 : List UInt8 := [154, 0, 36, 42, 42, 180, 0, 66, 182, 1, 24, 154, 0, 25, 42, 42, 180, 0, 69, 182, 1, 24]
abbrev dktX6_isOwnHere_8 : List UInt8 := dkwX6_isOwnHere_8 ++ dktX6_isOwnHere_9
def dkwX6_isOwnHere_7 : List UInt8 := [154, 0, 58, 42, 42, 180, 0, 60, 182, 1, 24, 154, 0, 47, 42, 42, 180, 0, 63, 182, 1, 24]
abbrev dktX6_isOwnHere_7 : List UInt8 := dkwX6_isOwnHere_7 ++ dktX6_isOwnHere_8
def dkwX6_isOwnHere_6 : List UInt8 := [182, 1, 24, 153, 0, 7, 4, 167, 0, 4, 3, 60, 27, 154, 0, 69, 42, 42, 180, 0, 57, 182, 1, 24]
abbrev dktX6_isOwnHere_6 : List UInt8 := dkwX6_isOwnHere_6 ++ dktX6_isOwnHere_7
def dkwX6_isOwnHere_5 : List UInt8 := [182, 1, 24, 154, 0, 25, 42, 42, 180, 0, 51, 182, 1, 24, 154, 0, 14, 42, 42, 180, 0, 54]
abbrev dktX6_isOwnHere_5 : List UInt8 := dkwX6_isOwnHere_5 ++ dktX6_isOwnHere_6
def dkwX6_isOwnHere_4 : List UInt8 := [182, 1, 24, 154, 0, 47, 42, 42, 180, 0, 45, 182, 1, 24, 154, 0, 36, 42, 42, 180, 0, 48]
abbrev dktX6_isOwnHere_4 : List UInt8 := dkwX6_isOwnHere_4 ++ dktX6_isOwnHere_5
def dkwX6_isOwnHere_3 : List UInt8 := [3, 60, 27, 154, 0, 69, 42, 42, 180, 0, 39, 182, 1, 24, 154, 0, 58, 42, 42, 180, 0, 42]
abbrev dktX6_isOwnHere_3 : List UInt8 := dkwX6_isOwnHere_3 ++ dktX6_isOwnHere_4
def dkwX6_isOwnHere_2 : List UInt8 := [180, 0, 33, 182, 1, 24, 154, 0, 14, 42, 42, 180, 0, 36, 182, 1, 24, 153, 0, 7, 4, 167, 0, 4]
abbrev dktX6_isOwnHere_2 : List UInt8 := dkwX6_isOwnHere_2 ++ dktX6_isOwnHere_3
def dkwX6_isOwnHere_1 : List UInt8 := [180, 0, 27, 182, 1, 24, 154, 0, 36, 42, 42, 180, 0, 30, 182, 1, 24, 154, 0, 25, 42, 42]
abbrev dktX6_isOwnHere_1 : List UInt8 := dkwX6_isOwnHere_1 ++ dktX6_isOwnHere_2
def dkwX6_isOwnHere_0 : List UInt8 := [42, 42, 180, 0, 20, 182, 1, 24, 154, 0, 58, 42, 42, 180, 0, 24, 182, 1, 24, 154, 0, 47, 42, 42]
abbrev dktX6_isOwnHere_0 : List UInt8 := dkwX6_isOwnHere_0 ++ dktX6_isOwnHere_1
theorem dksX6_isOwnHere_0 : cX6_isOwnHere.data.toList.drop 0 = dktX6_isOwnHere_0 := by decide +kernel
theorem dksX6_isOwnHere_1 : cX6_isOwnHere.data.toList.drop 24 = dktX6_isOwnHere_1 := dk_seg dksX6_isOwnHere_0 24 rfl rfl
theorem dksX6_isOwnHere_2 : cX6_isOwnHere.data.toList.drop 46 = dktX6_isOwnHere_2 := dk_seg dksX6_isOwnHere_1 22 rfl rfl
theorem dksX6_isOwnHere_3 : cX6_isOwnHere.data.toList.drop 70 = dktX6_isOwnHere_3 := dk_seg dksX6_isOwnHere_2 24 rfl rfl
theorem dksX6_isOwnHere_4 : cX6_isOwnHere.data.toList.drop 92 = dktX6_isOwnHere_4 := dk_seg dksX6_isOwnHere_3 22 rfl rfl
theorem dksX6_isOwnHere_5 : cX6_isOwnHere.data.toList.drop 114 = dktX6_isOwnHere_5 := dk_seg dksX6_isOwnHere_4 22 rfl rfl
theorem dksX6_isOwnHere_6 : cX6_isOwnHere.data.toList.drop 136 = dktX6_isOwnHere_6 := dk_seg dksX6_isOwnHere_5 22 rfl rfl
theorem dksX6_isOwnHere_7 : cX6_isOwnHere.data.toList.drop 160 = dktX6_isOwnHere_7 := dk_seg dksX6_isOwnHere_6 24 rfl rfl
theorem dksX6_isOwnHere_8 : cX6_isOwnHere.data.toList.drop 182 = dktX6_isOwnHere_8 := dk_seg dksX6_isOwnHere_7 22 rfl rfl
theorem dksX6_isOwnHere_9 : cX6_isOwnHere.data.toList.drop 204 = dktX6_isOwnHere_9 := dk_seg dksX6_isOwnHere_8 22 rfl rfl
theorem dksX6_isOwnHere_10 : cX6_isOwnHere.data.toList.drop 228 = dktX6_isOwnHere_10 := dk_seg dksX6_isOwnHere_9 24 rfl rfl
theorem dksX6_isOwnHere_11 : cX6_isOwnHere.data.toList.drop 252 = dktX6_isOwnHere_11 := dk_seg dksX6_isOwnHere_10 24 rfl rfl
theorem dksX6_isOwnHere_12 : cX6_isOwnHere.data.toList.drop 274 = dktX6_isOwnHere_12 := dk_seg dksX6_isOwnHere_11 22 rfl rfl
theorem dksX6_isOwnHere_13 : cX6_isOwnHere.data.toList.drop 298 = dktX6_isOwnHere_13 := dk_seg dksX6_isOwnHere_12 24 rfl rfl
theorem dksX6_isOwnHere_14 : cX6_isOwnHere.data.toList.drop 320 = dktX6_isOwnHere_14 := dk_seg dksX6_isOwnHere_13 22 rfl rfl
theorem dksX6_isOwnHere_15 : cX6_isOwnHere.data.toList.drop 342 = dktX6_isOwnHere_15 := dk_seg dksX6_isOwnHere_14 22 rfl rfl
theorem dX6_isOwnHere_0 : decode cX6_isOwnHere 0 = .ok (.aload_n 0, 1) := dk_42 (dk_at dksX6_isOwnHere_0 0 rfl rfl)
theorem dX6_isOwnHere_1 : decode cX6_isOwnHere 1 = .ok (.aload_n 0, 1) := dk_42 (dk_at dksX6_isOwnHere_0 1 rfl rfl)
theorem dX6_isOwnHere_2 : decode cX6_isOwnHere 2 = .ok (.getfield 20, 3) := dk_180 0 20 (dk_at dksX6_isOwnHere_0 2 rfl rfl)
theorem dX6_isOwnHere_5 : decode cX6_isOwnHere 5 = .ok (.invokevirtual 280, 3) := dk_182 1 24 (dk_at dksX6_isOwnHere_0 5 rfl rfl)
theorem dX6_isOwnHere_8 : decode cX6_isOwnHere 8 = .ok (.ifCond .ne 58, 3) := dk_154 0 58 (dk_at dksX6_isOwnHere_0 8 rfl rfl)
theorem dX6_isOwnHere_11 : decode cX6_isOwnHere 11 = .ok (.aload_n 0, 1) := dk_42 (dk_at dksX6_isOwnHere_0 11 rfl rfl)
theorem dX6_isOwnHere_12 : decode cX6_isOwnHere 12 = .ok (.aload_n 0, 1) := dk_42 (dk_at dksX6_isOwnHere_0 12 rfl rfl)
theorem dX6_isOwnHere_13 : decode cX6_isOwnHere 13 = .ok (.getfield 24, 3) := dk_180 0 24 (dk_at dksX6_isOwnHere_0 13 rfl rfl)
theorem dX6_isOwnHere_16 : decode cX6_isOwnHere 16 = .ok (.invokevirtual 280, 3) := dk_182 1 24 (dk_at dksX6_isOwnHere_0 16 rfl rfl)
theorem dX6_isOwnHere_19 : decode cX6_isOwnHere 19 = .ok (.ifCond .ne 47, 3) := dk_154 0 47 (dk_at dksX6_isOwnHere_0 19 rfl rfl)
theorem dX6_isOwnHere_22 : decode cX6_isOwnHere 22 = .ok (.aload_n 0, 1) := dk_42 (dk_at dksX6_isOwnHere_0 22 rfl rfl)
theorem dX6_isOwnHere_23 : decode cX6_isOwnHere 23 = .ok (.aload_n 0, 1) := dk_42 (dk_at dksX6_isOwnHere_0 23 rfl rfl)
theorem dX6_isOwnHere_24 : decode cX6_isOwnHere 24 = .ok (.getfield 27, 3) := dk_180 0 27 (dk_at dksX6_isOwnHere_1 0 rfl rfl)
theorem dX6_isOwnHere_27 : decode cX6_isOwnHere 27 = .ok (.invokevirtual 280, 3) := dk_182 1 24 (dk_at dksX6_isOwnHere_1 3 rfl rfl)
theorem dX6_isOwnHere_30 : decode cX6_isOwnHere 30 = .ok (.ifCond .ne 36, 3) := dk_154 0 36 (dk_at dksX6_isOwnHere_1 6 rfl rfl)
theorem dX6_isOwnHere_33 : decode cX6_isOwnHere 33 = .ok (.aload_n 0, 1) := dk_42 (dk_at dksX6_isOwnHere_1 9 rfl rfl)
theorem dX6_isOwnHere_34 : decode cX6_isOwnHere 34 = .ok (.aload_n 0, 1) := dk_42 (dk_at dksX6_isOwnHere_1 10 rfl rfl)
theorem dX6_isOwnHere_35 : decode cX6_isOwnHere 35 = .ok (.getfield 30, 3) := dk_180 0 30 (dk_at dksX6_isOwnHere_1 11 rfl rfl)
theorem dX6_isOwnHere_38 : decode cX6_isOwnHere 38 = .ok (.invokevirtual 280, 3) := dk_182 1 24 (dk_at dksX6_isOwnHere_1 14 rfl rfl)
theorem dX6_isOwnHere_41 : decode cX6_isOwnHere 41 = .ok (.ifCond .ne 25, 3) := dk_154 0 25 (dk_at dksX6_isOwnHere_1 17 rfl rfl)
theorem dX6_isOwnHere_44 : decode cX6_isOwnHere 44 = .ok (.aload_n 0, 1) := dk_42 (dk_at dksX6_isOwnHere_1 20 rfl rfl)
theorem dX6_isOwnHere_45 : decode cX6_isOwnHere 45 = .ok (.aload_n 0, 1) := dk_42 (dk_at dksX6_isOwnHere_1 21 rfl rfl)
theorem dX6_isOwnHere_46 : decode cX6_isOwnHere 46 = .ok (.getfield 33, 3) := dk_180 0 33 (dk_at dksX6_isOwnHere_2 0 rfl rfl)
theorem dX6_isOwnHere_49 : decode cX6_isOwnHere 49 = .ok (.invokevirtual 280, 3) := dk_182 1 24 (dk_at dksX6_isOwnHere_2 3 rfl rfl)
theorem dX6_isOwnHere_52 : decode cX6_isOwnHere 52 = .ok (.ifCond .ne 14, 3) := dk_154 0 14 (dk_at dksX6_isOwnHere_2 6 rfl rfl)
theorem dX6_isOwnHere_55 : decode cX6_isOwnHere 55 = .ok (.aload_n 0, 1) := dk_42 (dk_at dksX6_isOwnHere_2 9 rfl rfl)
theorem dX6_isOwnHere_56 : decode cX6_isOwnHere 56 = .ok (.aload_n 0, 1) := dk_42 (dk_at dksX6_isOwnHere_2 10 rfl rfl)
theorem dX6_isOwnHere_57 : decode cX6_isOwnHere 57 = .ok (.getfield 36, 3) := dk_180 0 36 (dk_at dksX6_isOwnHere_2 11 rfl rfl)
theorem dX6_isOwnHere_60 : decode cX6_isOwnHere 60 = .ok (.invokevirtual 280, 3) := dk_182 1 24 (dk_at dksX6_isOwnHere_2 14 rfl rfl)
theorem dX6_isOwnHere_63 : decode cX6_isOwnHere 63 = .ok (.ifCond .eq 7, 3) := dk_153 0 7 (dk_at dksX6_isOwnHere_2 17 rfl rfl)
theorem dX6_isOwnHere_66 : decode cX6_isOwnHere 66 = .ok (.iconst 1, 1) := dk_4 (dk_at dksX6_isOwnHere_2 20 rfl rfl)
theorem dX6_isOwnHere_67 : decode cX6_isOwnHere 67 = .ok (.goto 4, 3) := dk_167 0 4 (dk_at dksX6_isOwnHere_2 21 rfl rfl)
theorem dX6_isOwnHere_70 : decode cX6_isOwnHere 70 = .ok (.iconst 0, 1) := dk_3 (dk_at dksX6_isOwnHere_3 0 rfl rfl)
theorem dX6_isOwnHere_71 : decode cX6_isOwnHere 71 = .ok (.istore_n 1, 1) := dk_60 (dk_at dksX6_isOwnHere_3 1 rfl rfl)
theorem dX6_isOwnHere_72 : decode cX6_isOwnHere 72 = .ok (.iload_n 1, 1) := dk_27 (dk_at dksX6_isOwnHere_3 2 rfl rfl)
theorem dX6_isOwnHere_73 : decode cX6_isOwnHere 73 = .ok (.ifCond .ne 69, 3) := dk_154 0 69 (dk_at dksX6_isOwnHere_3 3 rfl rfl)
theorem dX6_isOwnHere_76 : decode cX6_isOwnHere 76 = .ok (.aload_n 0, 1) := dk_42 (dk_at dksX6_isOwnHere_3 6 rfl rfl)
theorem dX6_isOwnHere_77 : decode cX6_isOwnHere 77 = .ok (.aload_n 0, 1) := dk_42 (dk_at dksX6_isOwnHere_3 7 rfl rfl)
theorem dX6_isOwnHere_78 : decode cX6_isOwnHere 78 = .ok (.getfield 39, 3) := dk_180 0 39 (dk_at dksX6_isOwnHere_3 8 rfl rfl)
theorem dX6_isOwnHere_81 : decode cX6_isOwnHere 81 = .ok (.invokevirtual 280, 3) := dk_182 1 24 (dk_at dksX6_isOwnHere_3 11 rfl rfl)
theorem dX6_isOwnHere_84 : decode cX6_isOwnHere 84 = .ok (.ifCond .ne 58, 3) := dk_154 0 58 (dk_at dksX6_isOwnHere_3 14 rfl rfl)
theorem dX6_isOwnHere_87 : decode cX6_isOwnHere 87 = .ok (.aload_n 0, 1) := dk_42 (dk_at dksX6_isOwnHere_3 17 rfl rfl)
theorem dX6_isOwnHere_88 : decode cX6_isOwnHere 88 = .ok (.aload_n 0, 1) := dk_42 (dk_at dksX6_isOwnHere_3 18 rfl rfl)
theorem dX6_isOwnHere_89 : decode cX6_isOwnHere 89 = .ok (.getfield 42, 3) := dk_180 0 42 (dk_at dksX6_isOwnHere_3 19 rfl rfl)
theorem dX6_isOwnHere_92 : decode cX6_isOwnHere 92 = .ok (.invokevirtual 280, 3) := dk_182 1 24 (dk_at dksX6_isOwnHere_4 0 rfl rfl)
theorem dX6_isOwnHere_95 : decode cX6_isOwnHere 95 = .ok (.ifCond .ne 47, 3) := dk_154 0 47 (dk_at dksX6_isOwnHere_4 3 rfl rfl)
theorem dX6_isOwnHere_98 : decode cX6_isOwnHere 98 = .ok (.aload_n 0, 1) := dk_42 (dk_at dksX6_isOwnHere_4 6 rfl rfl)
theorem dX6_isOwnHere_99 : decode cX6_isOwnHere 99 = .ok (.aload_n 0, 1) := dk_42 (dk_at dksX6_isOwnHere_4 7 rfl rfl)
theorem dX6_isOwnHere_100 : decode cX6_isOwnHere 100 = .ok (.getfield 45, 3) := dk_180 0 45 (dk_at dksX6_isOwnHere_4 8 rfl rfl)
theorem dX6_isOwnHere_103 : decode cX6_isOwnHere 103 = .ok (.invokevirtual 280, 3) := dk_182 1 24 (dk_at dksX6_isOwnHere_4 11 rfl rfl)
theorem dX6_isOwnHere_106 : decode cX6_isOwnHere 106 = .ok (.ifCond .ne 36, 3) := dk_154 0 36 (dk_at dksX6_isOwnHere_4 14 rfl rfl)
theorem dX6_isOwnHere_109 : decode cX6_isOwnHere 109 = .ok (.aload_n 0, 1) := dk_42 (dk_at dksX6_isOwnHere_4 17 rfl rfl)
theorem dX6_isOwnHere_110 : decode cX6_isOwnHere 110 = .ok (.aload_n 0, 1) := dk_42 (dk_at dksX6_isOwnHere_4 18 rfl rfl)
theorem dX6_isOwnHere_111 : decode cX6_isOwnHere 111 = .ok (.getfield 48, 3) := dk_180 0 48 (dk_at dksX6_isOwnHere_4 19 rfl rfl)
theorem dX6_isOwnHere_114 : decode cX6_isOwnHere 114 = .ok (.invokevirtual 280, 3) := dk_182 1 24 (dk_at dksX6_isOwnHere_5 0 rfl rfl)
theorem dX6_isOwnHere_117 : decode cX6_isOwnHere 117 = .ok (.ifCond .ne 25, 3) := dk_154 0 25 (dk_at dksX6_isOwnHere_5 3 rfl rfl)
theorem dX6_isOwnHere_120 : decode cX6_isOwnHere 120 = .ok (.aload_n 0, 1) := dk_42 (dk_at dksX6_isOwnHere_5 6 rfl rfl)
theorem dX6_isOwnHere_121 : decode cX6_isOwnHere 121 = .ok (.aload_n 0, 1) := dk_42 (dk_at dksX6_isOwnHere_5 7 rfl rfl)
theorem dX6_isOwnHere_122 : decode cX6_isOwnHere 122 = .ok (.getfield 51, 3) := dk_180 0 51 (dk_at dksX6_isOwnHere_5 8 rfl rfl)
theorem dX6_isOwnHere_125 : decode cX6_isOwnHere 125 = .ok (.invokevirtual 280, 3) := dk_182 1 24 (dk_at dksX6_isOwnHere_5 11 rfl rfl)
theorem dX6_isOwnHere_128 : decode cX6_isOwnHere 128 = .ok (.ifCond .ne 14, 3) := dk_154 0 14 (dk_at dksX6_isOwnHere_5 14 rfl rfl)
theorem dX6_isOwnHere_131 : decode cX6_isOwnHere 131 = .ok (.aload_n 0, 1) := dk_42 (dk_at dksX6_isOwnHere_5 17 rfl rfl)
theorem dX6_isOwnHere_132 : decode cX6_isOwnHere 132 = .ok (.aload_n 0, 1) := dk_42 (dk_at dksX6_isOwnHere_5 18 rfl rfl)
theorem dX6_isOwnHere_133 : decode cX6_isOwnHere 133 = .ok (.getfield 54, 3) := dk_180 0 54 (dk_at dksX6_isOwnHere_5 19 rfl rfl)
theorem dX6_isOwnHere_136 : decode cX6_isOwnHere 136 = .ok (.invokevirtual 280, 3) := dk_182 1 24 (dk_at dksX6_isOwnHere_6 0 rfl rfl)
theorem dX6_isOwnHere_139 : decode cX6_isOwnHere 139 = .ok (.ifCond .eq 7, 3) := dk_153 0 7 (dk_at dksX6_isOwnHere_6 3 rfl rfl)
theorem dX6_isOwnHere_142 : decode cX6_isOwnHere 142 = .ok (.iconst 1, 1) := dk_4 (dk_at dksX6_isOwnHere_6 6 rfl rfl)
theorem dX6_isOwnHere_143 : decode cX6_isOwnHere 143 = .ok (.goto 4, 3) := dk_167 0 4 (dk_at dksX6_isOwnHere_6 7 rfl rfl)
theorem dX6_isOwnHere_146 : decode cX6_isOwnHere 146 = .ok (.iconst 0, 1) := dk_3 (dk_at dksX6_isOwnHere_6 10 rfl rfl)
theorem dX6_isOwnHere_147 : decode cX6_isOwnHere 147 = .ok (.istore_n 1, 1) := dk_60 (dk_at dksX6_isOwnHere_6 11 rfl rfl)
theorem dX6_isOwnHere_148 : decode cX6_isOwnHere 148 = .ok (.iload_n 1, 1) := dk_27 (dk_at dksX6_isOwnHere_6 12 rfl rfl)
theorem dX6_isOwnHere_149 : decode cX6_isOwnHere 149 = .ok (.ifCond .ne 69, 3) := dk_154 0 69 (dk_at dksX6_isOwnHere_6 13 rfl rfl)
theorem dX6_isOwnHere_152 : decode cX6_isOwnHere 152 = .ok (.aload_n 0, 1) := dk_42 (dk_at dksX6_isOwnHere_6 16 rfl rfl)
theorem dX6_isOwnHere_153 : decode cX6_isOwnHere 153 = .ok (.aload_n 0, 1) := dk_42 (dk_at dksX6_isOwnHere_6 17 rfl rfl)
theorem dX6_isOwnHere_154 : decode cX6_isOwnHere 154 = .ok (.getfield 57, 3) := dk_180 0 57 (dk_at dksX6_isOwnHere_6 18 rfl rfl)
theorem dX6_isOwnHere_157 : decode cX6_isOwnHere 157 = .ok (.invokevirtual 280, 3) := dk_182 1 24 (dk_at dksX6_isOwnHere_6 21 rfl rfl)
theorem dX6_isOwnHere_160 : decode cX6_isOwnHere 160 = .ok (.ifCond .ne 58, 3) := dk_154 0 58 (dk_at dksX6_isOwnHere_7 0 rfl rfl)
theorem dX6_isOwnHere_163 : decode cX6_isOwnHere 163 = .ok (.aload_n 0, 1) := dk_42 (dk_at dksX6_isOwnHere_7 3 rfl rfl)
theorem dX6_isOwnHere_164 : decode cX6_isOwnHere 164 = .ok (.aload_n 0, 1) := dk_42 (dk_at dksX6_isOwnHere_7 4 rfl rfl)
theorem dX6_isOwnHere_165 : decode cX6_isOwnHere 165 = .ok (.getfield 60, 3) := dk_180 0 60 (dk_at dksX6_isOwnHere_7 5 rfl rfl)
theorem dX6_isOwnHere_168 : decode cX6_isOwnHere 168 = .ok (.invokevirtual 280, 3) := dk_182 1 24 (dk_at dksX6_isOwnHere_7 8 rfl rfl)
theorem dX6_isOwnHere_171 : decode cX6_isOwnHere 171 = .ok (.ifCond .ne 47, 3) := dk_154 0 47 (dk_at dksX6_isOwnHere_7 11 rfl rfl)
theorem dX6_isOwnHere_174 : decode cX6_isOwnHere 174 = .ok (.aload_n 0, 1) := dk_42 (dk_at dksX6_isOwnHere_7 14 rfl rfl)
theorem dX6_isOwnHere_175 : decode cX6_isOwnHere 175 = .ok (.aload_n 0, 1) := dk_42 (dk_at dksX6_isOwnHere_7 15 rfl rfl)
theorem dX6_isOwnHere_176 : decode cX6_isOwnHere 176 = .ok (.getfield 63, 3) := dk_180 0 63 (dk_at dksX6_isOwnHere_7 16 rfl rfl)
theorem dX6_isOwnHere_179 : decode cX6_isOwnHere 179 = .ok (.invokevirtual 280, 3) := dk_182 1 24 (dk_at dksX6_isOwnHere_7 19 rfl rfl)
theorem dX6_isOwnHere_182 : decode cX6_isOwnHere 182 = .ok (.ifCond .ne 36, 3) := dk_154 0 36 (dk_at dksX6_isOwnHere_8 0 rfl rfl)
theorem dX6_isOwnHere_185 : decode cX6_isOwnHere 185 = .ok (.aload_n 0, 1) := dk_42 (dk_at dksX6_isOwnHere_8 3 rfl rfl)
theorem dX6_isOwnHere_186 : decode cX6_isOwnHere 186 = .ok (.aload_n 0, 1) := dk_42 (dk_at dksX6_isOwnHere_8 4 rfl rfl)
theorem dX6_isOwnHere_187 : decode cX6_isOwnHere 187 = .ok (.getfield 66, 3) := dk_180 0 66 (dk_at dksX6_isOwnHere_8 5 rfl rfl)
theorem dX6_isOwnHere_190 : decode cX6_isOwnHere 190 = .ok (.invokevirtual 280, 3) := dk_182 1 24 (dk_at dksX6_isOwnHere_8 8 rfl rfl)
theorem dX6_isOwnHere_193 : decode cX6_isOwnHere 193 = .ok (.ifCond .ne 25, 3) := dk_154 0 25 (dk_at dksX6_isOwnHere_8 11 rfl rfl)
theorem dX6_isOwnHere_196 : decode cX6_isOwnHere 196 = .ok (.aload_n 0, 1) := dk_42 (dk_at dksX6_isOwnHere_8 14 rfl rfl)
theorem dX6_isOwnHere_197 : decode cX6_isOwnHere 197 = .ok (.aload_n 0, 1) := dk_42 (dk_at dksX6_isOwnHere_8 15 rfl rfl)
theorem dX6_isOwnHere_198 : decode cX6_isOwnHere 198 = .ok (.getfield 69, 3) := dk_180 0 69 (dk_at dksX6_isOwnHere_8 16 rfl rfl)
theorem dX6_isOwnHere_201 : decode cX6_isOwnHere 201 = .ok (.invokevirtual 280, 3) := dk_182 1 24 (dk_at dksX6_isOwnHere_8 19 rfl rfl)
theorem dX6_isOwnHere_204 : decode cX6_isOwnHere 204 = .ok (.ifCond .ne 14, 3) := dk_154 0 14 (dk_at dksX6_isOwnHere_9 0 rfl rfl)
theorem dX6_isOwnHere_207 : decode cX6_isOwnHere 207 = .ok (.aload_n 0, 1) := dk_42 (dk_at dksX6_isOwnHere_9 3 rfl rfl)
theorem dX6_isOwnHere_208 : decode cX6_isOwnHere 208 = .ok (.aload_n 0, 1) := dk_42 (dk_at dksX6_isOwnHere_9 4 rfl rfl)
theorem dX6_isOwnHere_209 : decode cX6_isOwnHere 209 = .ok (.getfield 72, 3) := dk_180 0 72 (dk_at dksX6_isOwnHere_9 5 rfl rfl)
theorem dX6_isOwnHere_212 : decode cX6_isOwnHere 212 = .ok (.invokevirtual 280, 3) := dk_182 1 24 (dk_at dksX6_isOwnHere_9 8 rfl rfl)
theorem dX6_isOwnHere_215 : decode cX6_isOwnHere 215 = .ok (.ifCond .eq 7, 3) := dk_153 0 7 (dk_at dksX6_isOwnHere_9 11 rfl rfl)
theorem dX6_isOwnHere_218 : decode cX6_isOwnHere 218 = .ok (.iconst 1, 1) := dk_4 (dk_at dksX6_isOwnHere_9 14 rfl rfl)
theorem dX6_isOwnHere_219 : decode cX6_isOwnHere 219 = .ok (.goto 4, 3) := dk_167 0 4 (dk_at dksX6_isOwnHere_9 15 rfl rfl)
theorem dX6_isOwnHere_222 : decode cX6_isOwnHere 222 = .ok (.iconst 0, 1) := dk_3 (dk_at dksX6_isOwnHere_9 18 rfl rfl)
theorem dX6_isOwnHere_223 : decode cX6_isOwnHere 223 = .ok (.istore_n 1, 1) := dk_60 (dk_at dksX6_isOwnHere_9 19 rfl rfl)
theorem dX6_isOwnHere_224 : decode cX6_isOwnHere 224 = .ok (.iload_n 1, 1) := dk_27 (dk_at dksX6_isOwnHere_9 20 rfl rfl)
theorem dX6_isOwnHere_225 : decode cX6_isOwnHere 225 = .ok (.ifCond .ne 69, 3) := dk_154 0 69 (dk_at dksX6_isOwnHere_9 21 rfl rfl)
theorem dX6_isOwnHere_228 : decode cX6_isOwnHere 228 = .ok (.aload_n 0, 1) := dk_42 (dk_at dksX6_isOwnHere_10 0 rfl rfl)
theorem dX6_isOwnHere_229 : decode cX6_isOwnHere 229 = .ok (.aload_n 0, 1) := dk_42 (dk_at dksX6_isOwnHere_10 1 rfl rfl)
theorem dX6_isOwnHere_230 : decode cX6_isOwnHere 230 = .ok (.getfield 75, 3) := dk_180 0 75 (dk_at dksX6_isOwnHere_10 2 rfl rfl)
theorem dX6_isOwnHere_233 : decode cX6_isOwnHere 233 = .ok (.invokevirtual 280, 3) := dk_182 1 24 (dk_at dksX6_isOwnHere_10 5 rfl rfl)
theorem dX6_isOwnHere_236 : decode cX6_isOwnHere 236 = .ok (.ifCond .ne 58, 3) := dk_154 0 58 (dk_at dksX6_isOwnHere_10 8 rfl rfl)
theorem dX6_isOwnHere_239 : decode cX6_isOwnHere 239 = .ok (.aload_n 0, 1) := dk_42 (dk_at dksX6_isOwnHere_10 11 rfl rfl)
theorem dX6_isOwnHere_240 : decode cX6_isOwnHere 240 = .ok (.aload_n 0, 1) := dk_42 (dk_at dksX6_isOwnHere_10 12 rfl rfl)
theorem dX6_isOwnHere_241 : decode cX6_isOwnHere 241 = .ok (.getfield 78, 3) := dk_180 0 78 (dk_at dksX6_isOwnHere_10 13 rfl rfl)
theorem dX6_isOwnHere_244 : decode cX6_isOwnHere 244 = .ok (.invokevirtual 280, 3) := dk_182 1 24 (dk_at dksX6_isOwnHere_10 16 rfl rfl)
theorem dX6_isOwnHere_247 : decode cX6_isOwnHere 247 = .ok (.ifCond .ne 47, 3) := dk_154 0 47 (dk_at dksX6_isOwnHere_10 19 rfl rfl)
theorem dX6_isOwnHere_250 : decode cX6_isOwnHere 250 = .ok (.aload_n 0, 1) := dk_42 (dk_at dksX6_isOwnHere_10 22 rfl rfl)
theorem dX6_isOwnHere_251 : decode cX6_isOwnHere 251 = .ok (.aload_n 0, 1) := dk_42 (dk_at dksX6_isOwnHere_10 23 rfl rfl)
theorem dX6_isOwnHere_252 : decode cX6_isOwnHere 252 = .ok (.getfield 81, 3) := dk_180 0 81 (dk_at dksX6_isOwnHere_11 0 rfl rfl)
theorem dX6_isOwnHere_255 : decode cX6_isOwnHere 255 = .ok (.invokevirtual 280, 3) := dk_182 1 24 (dk_at dksX6_isOwnHere_11 3 rfl rfl)
theorem dX6_isOwnHere_258 : decode cX6_isOwnHere 258 = .ok (.ifCond .ne 36, 3) := dk_154 0 36 (dk_at dksX6_isOwnHere_11 6 rfl rfl)
theorem dX6_isOwnHere_261 : decode cX6_isOwnHere 261 = .ok (.aload_n 0, 1) := dk_42 (dk_at dksX6_isOwnHere_11 9 rfl rfl)
theorem dX6_isOwnHere_262 : decode cX6_isOwnHere 262 = .ok (.aload_n 0, 1) := dk_42 (dk_at dksX6_isOwnHere_11 10 rfl rfl)
theorem dX6_isOwnHere_263 : decode cX6_isOwnHere 263 = .ok (.getfield 84, 3) := dk_180 0 84 (dk_at dksX6_isOwnHere_11 11 rfl rfl)
theorem dX6_isOwnHere_266 : decode cX6_isOwnHere 266 = .ok (.invokevirtual 280, 3) := dk_182 1 24 (dk_at dksX6_isOwnHere_11 14 rfl rfl)
theorem dX6_isOwnHere_269 : decode cX6_isOwnHere 269 = .ok (.ifCond .ne 25, 3) := dk_154 0 25 (dk_at dksX6_isOwnHere_11 17 rfl rfl)
theorem dX6_isOwnHere_272 : decode cX6_isOwnHere 272 = .ok (.aload_n 0, 1) := dk_42 (dk_at dksX6_isOwnHere_11 20 rfl rfl)
theorem dX6_isOwnHere_273 : decode cX6_isOwnHere 273 = .ok (.aload_n 0, 1) := dk_42 (dk_at dksX6_isOwnHere_11 21 rfl rfl)
theorem dX6_isOwnHere_274 : decode cX6_isOwnHere 274 = .ok (.getfield 87, 3) := dk_180 0 87 (dk_at dksX6_isOwnHere_12 0 rfl rfl)
theorem dX6_isOwnHere_277 : decode cX6_isOwnHere 277 = .ok (.invokevirtual 280, 3) := dk_182 1 24 (dk_at dksX6_isOwnHere_12 3 rfl rfl)
theorem dX6_isOwnHere_280 : decode cX6_isOwnHere 280 = .ok (.ifCond .ne 14, 3) := dk_154 0 14 (dk_at dksX6_isOwnHere_12 6 rfl rfl)
theorem dX6_isOwnHere_283 : decode cX6_isOwnHere 283 = .ok (.aload_n 0, 1) := dk_42 (dk_at dksX6_isOwnHere_12 9 rfl rfl)
theorem dX6_isOwnHere_284 : decode cX6_isOwnHere 284 = .ok (.aload_n 0, 1) := dk_42 (dk_at dksX6_isOwnHere_12 10 rfl rfl)
theorem dX6_isOwnHere_285 : decode cX6_isOwnHere 285 = .ok (.getfield 90, 3) := dk_180 0 90 (dk_at dksX6_isOwnHere_12 11 rfl rfl)
theorem dX6_isOwnHere_288 : decode cX6_isOwnHere 288 = .ok (.invokevirtual 280, 3) := dk_182 1 24 (dk_at dksX6_isOwnHere_12 14 rfl rfl)
theorem dX6_isOwnHere_291 : decode cX6_isOwnHere 291 = .ok (.ifCond .eq 7, 3) := dk_153 0 7 (dk_at dksX6_isOwnHere_12 17 rfl rfl)
theorem dX6_isOwnHere_294 : decode cX6_isOwnHere 294 = .ok (.iconst 1, 1) := dk_4 (dk_at dksX6_isOwnHere_12 20 rfl rfl)
theorem dX6_isOwnHere_295 : decode cX6_isOwnHere 295 = .ok (.goto 4, 3) := dk_167 0 4 (dk_at dksX6_isOwnHere_12 21 rfl rfl)
theorem dX6_isOwnHere_298 : decode cX6_isOwnHere 298 = .ok (.iconst 0, 1) := dk_3 (dk_at dksX6_isOwnHere_13 0 rfl rfl)
theorem dX6_isOwnHere_299 : decode cX6_isOwnHere 299 = .ok (.istore_n 1, 1) := dk_60 (dk_at dksX6_isOwnHere_13 1 rfl rfl)
theorem dX6_isOwnHere_300 : decode cX6_isOwnHere 300 = .ok (.iload_n 1, 1) := dk_27 (dk_at dksX6_isOwnHere_13 2 rfl rfl)
theorem dX6_isOwnHere_301 : decode cX6_isOwnHere 301 = .ok (.ifCond .ne 47, 3) := dk_154 0 47 (dk_at dksX6_isOwnHere_13 3 rfl rfl)
theorem dX6_isOwnHere_304 : decode cX6_isOwnHere 304 = .ok (.aload_n 0, 1) := dk_42 (dk_at dksX6_isOwnHere_13 6 rfl rfl)
theorem dX6_isOwnHere_305 : decode cX6_isOwnHere 305 = .ok (.aload_n 0, 1) := dk_42 (dk_at dksX6_isOwnHere_13 7 rfl rfl)
theorem dX6_isOwnHere_306 : decode cX6_isOwnHere 306 = .ok (.getfield 93, 3) := dk_180 0 93 (dk_at dksX6_isOwnHere_13 8 rfl rfl)
theorem dX6_isOwnHere_309 : decode cX6_isOwnHere 309 = .ok (.invokevirtual 280, 3) := dk_182 1 24 (dk_at dksX6_isOwnHere_13 11 rfl rfl)
theorem dX6_isOwnHere_312 : decode cX6_isOwnHere 312 = .ok (.ifCond .ne 36, 3) := dk_154 0 36 (dk_at dksX6_isOwnHere_13 14 rfl rfl)
theorem dX6_isOwnHere_315 : decode cX6_isOwnHere 315 = .ok (.aload_n 0, 1) := dk_42 (dk_at dksX6_isOwnHere_13 17 rfl rfl)
theorem dX6_isOwnHere_316 : decode cX6_isOwnHere 316 = .ok (.aload_n 0, 1) := dk_42 (dk_at dksX6_isOwnHere_13 18 rfl rfl)
theorem dX6_isOwnHere_317 : decode cX6_isOwnHere 317 = .ok (.getfield 96, 3) := dk_180 0 96 (dk_at dksX6_isOwnHere_13 19 rfl rfl)
theorem dX6_isOwnHere_320 : decode cX6_isOwnHere 320 = .ok (.invokevirtual 280, 3) := dk_182 1 24 (dk_at dksX6_isOwnHere_14 0 rfl rfl)
theorem dX6_isOwnHere_323 : decode cX6_isOwnHere 323 = .ok (.ifCond .ne 25, 3) := dk_154 0 25 (dk_at dksX6_isOwnHere_14 3 rfl rfl)
theorem dX6_isOwnHere_326 : decode cX6_isOwnHere 326 = .ok (.aload_n 0, 1) := dk_42 (dk_at dksX6_isOwnHere_14 6 rfl rfl)
theorem dX6_isOwnHere_327 : decode cX6_isOwnHere 327 = .ok (.aload_n 0, 1) := dk_42 (dk_at dksX6_isOwnHere_14 7 rfl rfl)
theorem dX6_isOwnHere_328 : decode cX6_isOwnHere 328 = .ok (.getfield 99, 3) := dk_180 0 99 (dk_at dksX6_isOwnHere_14 8 rfl rfl)
theorem dX6_isOwnHere_331 : decode cX6_isOwnHere 331 = .ok (.invokevirtual 280, 3) := dk_182 1 24 (dk_at dksX6_isOwnHere_14 11 rfl rfl)
theorem dX6_isOwnHere_334 : decode cX6_isOwnHere 334 = .ok (.ifCond .ne 14, 3) := dk_154 0 14 (dk_at dksX6_isOwnHere_14 14 rfl rfl)
theorem dX6_isOwnHere_337 : decode cX6_isOwnHere 337 = .ok (.aload_n 0, 1) := dk_42 (dk_at dksX6_isOwnHere_14 17 rfl rfl)
theorem dX6_isOwnHere_338 : decode cX6_isOwnHere 338 = .ok (.aload_n 0, 1) := dk_42 (dk_at dksX6_isOwnHere_14 18 rfl rfl)
theorem dX6_isOwnHere_339 : decode cX6_isOwnHere 339 = .ok (.getfield 102, 3) := dk_180 0 102 (dk_at dksX6_isOwnHere_14 19 rfl rfl)
theorem dX6_isOwnHere_342 : decode cX6_isOwnHere 342 = .ok (.invokevirtual 280, 3) := dk_182 1 24 (dk_at dksX6_isOwnHere_15 0 rfl rfl)
theorem dX6_isOwnHere_345 : decode cX6_isOwnHere 345 = .ok (.ifCond .eq 7, 3) := dk_153 0 7 (dk_at dksX6_isOwnHere_15 3 rfl rfl)
theorem dX6_isOwnHere_348 : decode cX6_isOwnHere 348 = .ok (.iconst 1, 1) := dk_4 (dk_at dksX6_isOwnHere_15 6 rfl rfl)
theorem dX6_isOwnHere_349 : decode cX6_isOwnHere 349 = .ok (.goto 4, 3) := dk_167 0 4 (dk_at dksX6_isOwnHere_15 7 rfl rfl)
theorem dX6_isOwnHere_352 : decode cX6_isOwnHere 352 = .ok (.iconst 0, 1) := dk_3 (dk_at dksX6_isOwnHere_15 10 rfl rfl)
theorem dX6_isOwnHere_353 : decode cX6_isOwnHere 353 = .ok (.istore_n 1, 1) := dk_60 (dk_at dksX6_isOwnHere_15 11 rfl rfl)
theorem dX6_isOwnHere_354 : decode cX6_isOwnHere 354 = .ok (.iload_n 1, 1) := dk_27 (dk_at dksX6_isOwnHere_15 12 rfl rfl)
theorem dX6_isOwnHere_355 : decode cX6_isOwnHere 355 = .ok (.ireturn, 1) := dk_172 (dk_at dksX6_isOwnHere_15 13 rfl rfl)
abbrev cX6_nameOf : ByteArray := prog_22_method_19_code
def yX6_nameOf : MethodName := ⟨RX6, "nameOf", "(IJ)I"⟩
def dkwX6_nameOf_1 : List UInt8 := [96, 47, 32, 148, 154, 0, 6, 21, 4, 172, 132, 4, 1, 167, 255, 222, 2, 172]
abbrev dktX6_nameOf_1 : List UInt8 := dkwX6_nameOf_1 ++ []
def dkwX6_nameOf_0 : List UInt8 := [3, 54, 4, 21, 4, 42, 180, 0, 105, 27, 46, 162, 0, 29, 42, 180, 0, 108, 16, 8, 27, 104, 21, 4]
abbrev dktX6_nameOf_0 : List UInt8 := dkwX6_nameOf_0 ++ dktX6_nameOf_1
theorem dksX6_nameOf_0 : cX6_nameOf.data.toList.drop 0 = dktX6_nameOf_0 := by decide +kernel
theorem dksX6_nameOf_1 : cX6_nameOf.data.toList.drop 24 = dktX6_nameOf_1 := dk_seg dksX6_nameOf_0 24 rfl rfl
theorem dX6_nameOf_0 : decode cX6_nameOf 0 = .ok (.iconst 0, 1) := dk_3 (dk_at dksX6_nameOf_0 0 rfl rfl)
theorem dX6_nameOf_1 : decode cX6_nameOf 1 = .ok (.istore 4, 2) := dk_54 4 (dk_at dksX6_nameOf_0 1 rfl rfl)
theorem dX6_nameOf_3 : decode cX6_nameOf 3 = .ok (.iload 4, 2) := dk_21 4 (dk_at dksX6_nameOf_0 3 rfl rfl)
theorem dX6_nameOf_5 : decode cX6_nameOf 5 = .ok (.aload_n 0, 1) := dk_42 (dk_at dksX6_nameOf_0 5 rfl rfl)
theorem dX6_nameOf_6 : decode cX6_nameOf 6 = .ok (.getfield 105, 3) := dk_180 0 105 (dk_at dksX6_nameOf_0 6 rfl rfl)
theorem dX6_nameOf_9 : decode cX6_nameOf 9 = .ok (.iload_n 1, 1) := dk_27 (dk_at dksX6_nameOf_0 9 rfl rfl)
theorem dX6_nameOf_10 : decode cX6_nameOf 10 = .ok (.iaload, 1) := dk_46 (dk_at dksX6_nameOf_0 10 rfl rfl)
theorem dX6_nameOf_11 : decode cX6_nameOf 11 = .ok (.if_icmp .ge 29, 3) := dk_162 0 29 (dk_at dksX6_nameOf_0 11 rfl rfl)
theorem dX6_nameOf_14 : decode cX6_nameOf 14 = .ok (.aload_n 0, 1) := dk_42 (dk_at dksX6_nameOf_0 14 rfl rfl)
theorem dX6_nameOf_15 : decode cX6_nameOf 15 = .ok (.getfield 108, 3) := dk_180 0 108 (dk_at dksX6_nameOf_0 15 rfl rfl)
theorem dX6_nameOf_18 : decode cX6_nameOf 18 = .ok (.bipush 8, 2) := dk_16 8 (dk_at dksX6_nameOf_0 18 rfl rfl)
theorem dX6_nameOf_20 : decode cX6_nameOf 20 = .ok (.iload_n 1, 1) := dk_27 (dk_at dksX6_nameOf_0 20 rfl rfl)
theorem dX6_nameOf_21 : decode cX6_nameOf 21 = .ok (.imul, 1) := dk_104 (dk_at dksX6_nameOf_0 21 rfl rfl)
theorem dX6_nameOf_22 : decode cX6_nameOf 22 = .ok (.iload 4, 2) := dk_21 4 (dk_at dksX6_nameOf_0 22 rfl rfl)
theorem dX6_nameOf_24 : decode cX6_nameOf 24 = .ok (.iadd, 1) := dk_96 (dk_at dksX6_nameOf_1 0 rfl rfl)
theorem dX6_nameOf_25 : decode cX6_nameOf 25 = .ok (.laload, 1) := dk_47 (dk_at dksX6_nameOf_1 1 rfl rfl)
theorem dX6_nameOf_26 : decode cX6_nameOf 26 = .ok (.lload_n 2, 1) := dk_32 (dk_at dksX6_nameOf_1 2 rfl rfl)
theorem dX6_nameOf_27 : decode cX6_nameOf 27 = .ok (.lcmp, 1) := dk_148 (dk_at dksX6_nameOf_1 3 rfl rfl)
theorem dX6_nameOf_28 : decode cX6_nameOf 28 = .ok (.ifCond .ne 6, 3) := dk_154 0 6 (dk_at dksX6_nameOf_1 4 rfl rfl)
theorem dX6_nameOf_31 : decode cX6_nameOf 31 = .ok (.iload 4, 2) := dk_21 4 (dk_at dksX6_nameOf_1 7 rfl rfl)
theorem dX6_nameOf_33 : decode cX6_nameOf 33 = .ok (.ireturn, 1) := dk_172 (dk_at dksX6_nameOf_1 9 rfl rfl)
theorem dX6_nameOf_34 : decode cX6_nameOf 34 = .ok (.iinc 4 1, 3) := dk_132 4 1 (dk_at dksX6_nameOf_1 10 rfl rfl)
theorem dX6_nameOf_37 : decode cX6_nameOf 37 = .ok (.goto (-34), 3) := dk_167 255 222 (dk_at dksX6_nameOf_1 13 rfl rfl)
theorem dX6_nameOf_40 : decode cX6_nameOf 40 = .ok (.iconst (-1), 1) := dk_2 (dk_at dksX6_nameOf_1 16 rfl rfl)
theorem dX6_nameOf_41 : decode cX6_nameOf 41 = .ok (.ireturn, 1) := dk_172 (dk_at dksX6_nameOf_1 17 rfl rfl)
abbrev cX6_asks : ByteArray := prog_22_method_11_code
def yX6_asks : MethodName := ⟨RX6, "asks", "([C)V"⟩
def dkwX6_asks_1 : List UInt8 := [177]
abbrev dktX6_asks_1 : List UInt8 := dkwX6_asks_1 ++ []
def dkwX6_asks_0 : List UInt8 := [42, 180, 1, 1, 154, 0, 20, 42, 43, 182, 1, 28, 154, 0, 12, 42, 4, 42, 180, 1, 7, 182, 1, 31]
abbrev dktX6_asks_0 : List UInt8 := dkwX6_asks_0 ++ dktX6_asks_1
theorem dksX6_asks_0 : cX6_asks.data.toList.drop 0 = dktX6_asks_0 := by decide +kernel
theorem dksX6_asks_1 : cX6_asks.data.toList.drop 24 = dktX6_asks_1 := dk_seg dksX6_asks_0 24 rfl rfl
theorem dX6_asks_0 : decode cX6_asks 0 = .ok (.aload_n 0, 1) := dk_42 (dk_at dksX6_asks_0 0 rfl rfl)
theorem dX6_asks_1 : decode cX6_asks 1 = .ok (.getfield 257, 3) := dk_180 1 1 (dk_at dksX6_asks_0 1 rfl rfl)
theorem dX6_asks_4 : decode cX6_asks 4 = .ok (.ifCond .ne 20, 3) := dk_154 0 20 (dk_at dksX6_asks_0 4 rfl rfl)
theorem dX6_asks_7 : decode cX6_asks 7 = .ok (.aload_n 0, 1) := dk_42 (dk_at dksX6_asks_0 7 rfl rfl)
theorem dX6_asks_8 : decode cX6_asks 8 = .ok (.aload_n 1, 1) := dk_43 (dk_at dksX6_asks_0 8 rfl rfl)
theorem dX6_asks_9 : decode cX6_asks 9 = .ok (.invokevirtual 284, 3) := dk_182 1 28 (dk_at dksX6_asks_0 9 rfl rfl)
theorem dX6_asks_12 : decode cX6_asks 12 = .ok (.ifCond .ne 12, 3) := dk_154 0 12 (dk_at dksX6_asks_0 12 rfl rfl)
theorem dX6_asks_15 : decode cX6_asks 15 = .ok (.aload_n 0, 1) := dk_42 (dk_at dksX6_asks_0 15 rfl rfl)
theorem dX6_asks_16 : decode cX6_asks 16 = .ok (.iconst 1, 1) := dk_4 (dk_at dksX6_asks_0 16 rfl rfl)
theorem dX6_asks_17 : decode cX6_asks 17 = .ok (.aload_n 0, 1) := dk_42 (dk_at dksX6_asks_0 17 rfl rfl)
theorem dX6_asks_18 : decode cX6_asks 18 = .ok (.getfield 263, 3) := dk_180 1 7 (dk_at dksX6_asks_0 18 rfl rfl)
theorem dX6_asks_21 : decode cX6_asks 21 = .ok (.invokevirtual 287, 3) := dk_182 1 31 (dk_at dksX6_asks_0 21 rfl rfl)
theorem dX6_asks_24 : decode cX6_asks 24 = .ok (.return_, 1) := dk_177 (dk_at dksX6_asks_1 0 rfl rfl)
abbrev cX6_number : ByteArray := prog_22_method_14_code
def yX6_number : MethodName := ⟨RX6, "number", "(II)I"⟩
def dkwX6_number_6 : List UInt8 := [21, 4, 133, 27, 133, 28, 133, 184, 1, 41, 154, 0, 9, 42, 5, 29, 182, 1, 31, 21, 4, 172]
abbrev dktX6_number_6 : List UInt8 := dkwX6_number_6 ++ []
def dkwX6_number_5 : List UInt8 := [54, 4, 42, 89, 180, 1, 7, 4, 96, 181, 1, 7, 167, 255, 179, 42, 42, 180, 1, 7, 181, 1, 21]
abbrev dktX6_number_5 : List UInt8 := dkwX6_number_5 ++ dktX6_number_6
def dkwX6_number_4 : List UInt8 := [182, 1, 31, 3, 172, 16, 10, 21, 4, 104, 42, 180, 0, 7, 42, 180, 1, 7, 46, 96, 16, 48, 100]
abbrev dktX6_number_4 : List UInt8 := dkwX6_number_4 ++ dktX6_number_5
def dkwX6_number_3 : List UInt8 := [184, 1, 38, 153, 0, 57, 42, 180, 1, 7, 29, 100, 7, 160, 0, 14, 42, 4, 42, 180, 1, 7]
abbrev dktX6_number_3 : List UInt8 := dkwX6_number_3 ++ dktX6_number_4
def dkwX6_number_2 : List UInt8 := [54, 4, 42, 180, 1, 7, 42, 180, 1, 10, 162, 0, 72, 42, 180, 0, 7, 42, 180, 1, 7, 46]
abbrev dktX6_number_2 : List UInt8 := dkwX6_number_2 ++ dktX6_number_3
def dkwX6_number_1 : List UInt8 := [180, 1, 21, 160, 0, 14, 42, 4, 42, 180, 1, 7, 182, 1, 31, 3, 172, 42, 180, 1, 7, 62, 3]
abbrev dktX6_number_1 : List UInt8 := dkwX6_number_1 ++ dktX6_number_2
def dkwX6_number_0 : List UInt8 := [42, 180, 1, 1, 153, 0, 5, 3, 172, 42, 182, 1, 13, 184, 1, 38, 153, 0, 14, 42, 180, 1, 7, 42]
abbrev dktX6_number_0 : List UInt8 := dkwX6_number_0 ++ dktX6_number_1
theorem dksX6_number_0 : cX6_number.data.toList.drop 0 = dktX6_number_0 := by decide +kernel
theorem dksX6_number_1 : cX6_number.data.toList.drop 24 = dktX6_number_1 := dk_seg dksX6_number_0 24 rfl rfl
theorem dksX6_number_2 : cX6_number.data.toList.drop 47 = dktX6_number_2 := dk_seg dksX6_number_1 23 rfl rfl
theorem dksX6_number_3 : cX6_number.data.toList.drop 69 = dktX6_number_3 := dk_seg dksX6_number_2 22 rfl rfl
theorem dksX6_number_4 : cX6_number.data.toList.drop 91 = dktX6_number_4 := dk_seg dksX6_number_3 22 rfl rfl
theorem dksX6_number_5 : cX6_number.data.toList.drop 114 = dktX6_number_5 := dk_seg dksX6_number_4 23 rfl rfl
theorem dksX6_number_6 : cX6_number.data.toList.drop 137 = dktX6_number_6 := dk_seg dksX6_number_5 23 rfl rfl
theorem dX6_number_0 : decode cX6_number 0 = .ok (.aload_n 0, 1) := dk_42 (dk_at dksX6_number_0 0 rfl rfl)
theorem dX6_number_1 : decode cX6_number 1 = .ok (.getfield 257, 3) := dk_180 1 1 (dk_at dksX6_number_0 1 rfl rfl)
theorem dX6_number_4 : decode cX6_number 4 = .ok (.ifCond .eq 5, 3) := dk_153 0 5 (dk_at dksX6_number_0 4 rfl rfl)
theorem dX6_number_7 : decode cX6_number 7 = .ok (.iconst 0, 1) := dk_3 (dk_at dksX6_number_0 7 rfl rfl)
theorem dX6_number_8 : decode cX6_number 8 = .ok (.ireturn, 1) := dk_172 (dk_at dksX6_number_0 8 rfl rfl)
theorem dX6_number_9 : decode cX6_number 9 = .ok (.aload_n 0, 1) := dk_42 (dk_at dksX6_number_0 9 rfl rfl)
theorem dX6_number_10 : decode cX6_number 10 = .ok (.invokevirtual 269, 3) := dk_182 1 13 (dk_at dksX6_number_0 10 rfl rfl)
theorem dX6_number_13 : decode cX6_number 13 = .ok (.invokestatic 294, 3) := dk_184 1 38 (dk_at dksX6_number_0 13 rfl rfl)
theorem dX6_number_16 : decode cX6_number 16 = .ok (.ifCond .eq 14, 3) := dk_153 0 14 (dk_at dksX6_number_0 16 rfl rfl)
theorem dX6_number_19 : decode cX6_number 19 = .ok (.aload_n 0, 1) := dk_42 (dk_at dksX6_number_0 19 rfl rfl)
theorem dX6_number_20 : decode cX6_number 20 = .ok (.getfield 263, 3) := dk_180 1 7 (dk_at dksX6_number_0 20 rfl rfl)
theorem dX6_number_23 : decode cX6_number 23 = .ok (.aload_n 0, 1) := dk_42 (dk_at dksX6_number_0 23 rfl rfl)
theorem dX6_number_24 : decode cX6_number 24 = .ok (.getfield 277, 3) := dk_180 1 21 (dk_at dksX6_number_1 0 rfl rfl)
theorem dX6_number_27 : decode cX6_number 27 = .ok (.if_icmp .ne 14, 3) := dk_160 0 14 (dk_at dksX6_number_1 3 rfl rfl)
theorem dX6_number_30 : decode cX6_number 30 = .ok (.aload_n 0, 1) := dk_42 (dk_at dksX6_number_1 6 rfl rfl)
theorem dX6_number_31 : decode cX6_number 31 = .ok (.iconst 1, 1) := dk_4 (dk_at dksX6_number_1 7 rfl rfl)
theorem dX6_number_32 : decode cX6_number 32 = .ok (.aload_n 0, 1) := dk_42 (dk_at dksX6_number_1 8 rfl rfl)
theorem dX6_number_33 : decode cX6_number 33 = .ok (.getfield 263, 3) := dk_180 1 7 (dk_at dksX6_number_1 9 rfl rfl)
theorem dX6_number_36 : decode cX6_number 36 = .ok (.invokevirtual 287, 3) := dk_182 1 31 (dk_at dksX6_number_1 12 rfl rfl)
theorem dX6_number_39 : decode cX6_number 39 = .ok (.iconst 0, 1) := dk_3 (dk_at dksX6_number_1 15 rfl rfl)
theorem dX6_number_40 : decode cX6_number 40 = .ok (.ireturn, 1) := dk_172 (dk_at dksX6_number_1 16 rfl rfl)
theorem dX6_number_41 : decode cX6_number 41 = .ok (.aload_n 0, 1) := dk_42 (dk_at dksX6_number_1 17 rfl rfl)
theorem dX6_number_42 : decode cX6_number 42 = .ok (.getfield 263, 3) := dk_180 1 7 (dk_at dksX6_number_1 18 rfl rfl)
theorem dX6_number_45 : decode cX6_number 45 = .ok (.istore_n 3, 1) := dk_62 (dk_at dksX6_number_1 21 rfl rfl)
theorem dX6_number_46 : decode cX6_number 46 = .ok (.iconst 0, 1) := dk_3 (dk_at dksX6_number_1 22 rfl rfl)
theorem dX6_number_47 : decode cX6_number 47 = .ok (.istore 4, 2) := dk_54 4 (dk_at dksX6_number_2 0 rfl rfl)
theorem dX6_number_49 : decode cX6_number 49 = .ok (.aload_n 0, 1) := dk_42 (dk_at dksX6_number_2 2 rfl rfl)
theorem dX6_number_50 : decode cX6_number 50 = .ok (.getfield 263, 3) := dk_180 1 7 (dk_at dksX6_number_2 3 rfl rfl)
theorem dX6_number_53 : decode cX6_number 53 = .ok (.aload_n 0, 1) := dk_42 (dk_at dksX6_number_2 6 rfl rfl)
theorem dX6_number_54 : decode cX6_number 54 = .ok (.getfield 266, 3) := dk_180 1 10 (dk_at dksX6_number_2 7 rfl rfl)
theorem dX6_number_57 : decode cX6_number 57 = .ok (.if_icmp .ge 72, 3) := dk_162 0 72 (dk_at dksX6_number_2 10 rfl rfl)
theorem dX6_number_60 : decode cX6_number 60 = .ok (.aload_n 0, 1) := dk_42 (dk_at dksX6_number_2 13 rfl rfl)
theorem dX6_number_61 : decode cX6_number 61 = .ok (.getfield 7, 3) := dk_180 0 7 (dk_at dksX6_number_2 14 rfl rfl)
theorem dX6_number_64 : decode cX6_number 64 = .ok (.aload_n 0, 1) := dk_42 (dk_at dksX6_number_2 17 rfl rfl)
theorem dX6_number_65 : decode cX6_number 65 = .ok (.getfield 263, 3) := dk_180 1 7 (dk_at dksX6_number_2 18 rfl rfl)
theorem dX6_number_68 : decode cX6_number 68 = .ok (.iaload, 1) := dk_46 (dk_at dksX6_number_2 21 rfl rfl)
theorem dX6_number_69 : decode cX6_number 69 = .ok (.invokestatic 294, 3) := dk_184 1 38 (dk_at dksX6_number_3 0 rfl rfl)
theorem dX6_number_72 : decode cX6_number 72 = .ok (.ifCond .eq 57, 3) := dk_153 0 57 (dk_at dksX6_number_3 3 rfl rfl)
theorem dX6_number_75 : decode cX6_number 75 = .ok (.aload_n 0, 1) := dk_42 (dk_at dksX6_number_3 6 rfl rfl)
theorem dX6_number_76 : decode cX6_number 76 = .ok (.getfield 263, 3) := dk_180 1 7 (dk_at dksX6_number_3 7 rfl rfl)
theorem dX6_number_79 : decode cX6_number 79 = .ok (.iload_n 3, 1) := dk_29 (dk_at dksX6_number_3 10 rfl rfl)
theorem dX6_number_80 : decode cX6_number 80 = .ok (.isub, 1) := dk_100 (dk_at dksX6_number_3 11 rfl rfl)
theorem dX6_number_81 : decode cX6_number 81 = .ok (.iconst 4, 1) := dk_7 (dk_at dksX6_number_3 12 rfl rfl)
theorem dX6_number_82 : decode cX6_number 82 = .ok (.if_icmp .ne 14, 3) := dk_160 0 14 (dk_at dksX6_number_3 13 rfl rfl)
theorem dX6_number_85 : decode cX6_number 85 = .ok (.aload_n 0, 1) := dk_42 (dk_at dksX6_number_3 16 rfl rfl)
theorem dX6_number_86 : decode cX6_number 86 = .ok (.iconst 1, 1) := dk_4 (dk_at dksX6_number_3 17 rfl rfl)
theorem dX6_number_87 : decode cX6_number 87 = .ok (.aload_n 0, 1) := dk_42 (dk_at dksX6_number_3 18 rfl rfl)
theorem dX6_number_88 : decode cX6_number 88 = .ok (.getfield 263, 3) := dk_180 1 7 (dk_at dksX6_number_3 19 rfl rfl)
theorem dX6_number_91 : decode cX6_number 91 = .ok (.invokevirtual 287, 3) := dk_182 1 31 (dk_at dksX6_number_4 0 rfl rfl)
theorem dX6_number_94 : decode cX6_number 94 = .ok (.iconst 0, 1) := dk_3 (dk_at dksX6_number_4 3 rfl rfl)
theorem dX6_number_95 : decode cX6_number 95 = .ok (.ireturn, 1) := dk_172 (dk_at dksX6_number_4 4 rfl rfl)
theorem dX6_number_96 : decode cX6_number 96 = .ok (.bipush 10, 2) := dk_16 10 (dk_at dksX6_number_4 5 rfl rfl)
theorem dX6_number_98 : decode cX6_number 98 = .ok (.iload 4, 2) := dk_21 4 (dk_at dksX6_number_4 7 rfl rfl)
theorem dX6_number_100 : decode cX6_number 100 = .ok (.imul, 1) := dk_104 (dk_at dksX6_number_4 9 rfl rfl)
theorem dX6_number_101 : decode cX6_number 101 = .ok (.aload_n 0, 1) := dk_42 (dk_at dksX6_number_4 10 rfl rfl)
theorem dX6_number_102 : decode cX6_number 102 = .ok (.getfield 7, 3) := dk_180 0 7 (dk_at dksX6_number_4 11 rfl rfl)
theorem dX6_number_105 : decode cX6_number 105 = .ok (.aload_n 0, 1) := dk_42 (dk_at dksX6_number_4 14 rfl rfl)
theorem dX6_number_106 : decode cX6_number 106 = .ok (.getfield 263, 3) := dk_180 1 7 (dk_at dksX6_number_4 15 rfl rfl)
theorem dX6_number_109 : decode cX6_number 109 = .ok (.iaload, 1) := dk_46 (dk_at dksX6_number_4 18 rfl rfl)
theorem dX6_number_110 : decode cX6_number 110 = .ok (.iadd, 1) := dk_96 (dk_at dksX6_number_4 19 rfl rfl)
theorem dX6_number_111 : decode cX6_number 111 = .ok (.bipush 48, 2) := dk_16 48 (dk_at dksX6_number_4 20 rfl rfl)
theorem dX6_number_113 : decode cX6_number 113 = .ok (.isub, 1) := dk_100 (dk_at dksX6_number_4 22 rfl rfl)
theorem dX6_number_114 : decode cX6_number 114 = .ok (.istore 4, 2) := dk_54 4 (dk_at dksX6_number_5 0 rfl rfl)
theorem dX6_number_116 : decode cX6_number 116 = .ok (.aload_n 0, 1) := dk_42 (dk_at dksX6_number_5 2 rfl rfl)
theorem dX6_number_117 : decode cX6_number 117 = .ok (.dup, 1) := dk_89 (dk_at dksX6_number_5 3 rfl rfl)
theorem dX6_number_118 : decode cX6_number 118 = .ok (.getfield 263, 3) := dk_180 1 7 (dk_at dksX6_number_5 4 rfl rfl)
theorem dX6_number_121 : decode cX6_number 121 = .ok (.iconst 1, 1) := dk_4 (dk_at dksX6_number_5 7 rfl rfl)
theorem dX6_number_122 : decode cX6_number 122 = .ok (.iadd, 1) := dk_96 (dk_at dksX6_number_5 8 rfl rfl)
theorem dX6_number_123 : decode cX6_number 123 = .ok (.putfield 263, 3) := dk_181 1 7 (dk_at dksX6_number_5 9 rfl rfl)
theorem dX6_number_126 : decode cX6_number 126 = .ok (.goto (-77), 3) := dk_167 255 179 (dk_at dksX6_number_5 12 rfl rfl)
theorem dX6_number_129 : decode cX6_number 129 = .ok (.aload_n 0, 1) := dk_42 (dk_at dksX6_number_5 15 rfl rfl)
theorem dX6_number_130 : decode cX6_number 130 = .ok (.aload_n 0, 1) := dk_42 (dk_at dksX6_number_5 16 rfl rfl)
theorem dX6_number_131 : decode cX6_number 131 = .ok (.getfield 263, 3) := dk_180 1 7 (dk_at dksX6_number_5 17 rfl rfl)
theorem dX6_number_134 : decode cX6_number 134 = .ok (.putfield 277, 3) := dk_181 1 21 (dk_at dksX6_number_5 20 rfl rfl)
theorem dX6_number_137 : decode cX6_number 137 = .ok (.iload 4, 2) := dk_21 4 (dk_at dksX6_number_6 0 rfl rfl)
theorem dX6_number_139 : decode cX6_number 139 = .ok (.i2l, 1) := dk_133 (dk_at dksX6_number_6 2 rfl rfl)
theorem dX6_number_140 : decode cX6_number 140 = .ok (.iload_n 1, 1) := dk_27 (dk_at dksX6_number_6 3 rfl rfl)
theorem dX6_number_141 : decode cX6_number 141 = .ok (.i2l, 1) := dk_133 (dk_at dksX6_number_6 4 rfl rfl)
theorem dX6_number_142 : decode cX6_number 142 = .ok (.iload_n 2, 1) := dk_28 (dk_at dksX6_number_6 5 rfl rfl)
theorem dX6_number_143 : decode cX6_number 143 = .ok (.i2l, 1) := dk_133 (dk_at dksX6_number_6 6 rfl rfl)
theorem dX6_number_144 : decode cX6_number 144 = .ok (.invokestatic 297, 3) := dk_184 1 41 (dk_at dksX6_number_6 7 rfl rfl)
theorem dX6_number_147 : decode cX6_number 147 = .ok (.ifCond .ne 9, 3) := dk_154 0 9 (dk_at dksX6_number_6 10 rfl rfl)
theorem dX6_number_150 : decode cX6_number 150 = .ok (.aload_n 0, 1) := dk_42 (dk_at dksX6_number_6 13 rfl rfl)
theorem dX6_number_151 : decode cX6_number 151 = .ok (.iconst 2, 1) := dk_5 (dk_at dksX6_number_6 14 rfl rfl)
theorem dX6_number_152 : decode cX6_number 152 = .ok (.iload_n 3, 1) := dk_29 (dk_at dksX6_number_6 15 rfl rfl)
theorem dX6_number_153 : decode cX6_number 153 = .ok (.invokevirtual 287, 3) := dk_182 1 31 (dk_at dksX6_number_6 16 rfl rfl)
theorem dX6_number_156 : decode cX6_number 156 = .ok (.iload 4, 2) := dk_21 4 (dk_at dksX6_number_6 19 rfl rfl)
theorem dX6_number_158 : decode cX6_number 158 = .ok (.ireturn, 1) := dk_172 (dk_at dksX6_number_6 21 rfl rfl)
abbrev cX6_isDigit : ByteArray := prog_22_method_7_code
def yX6_isDigit : MethodName := ⟨RX6, "isDigit", "(I)Z"⟩
def dkwX6_isDigit_0 : List UInt8 := [26, 16, 48, 161, 0, 13, 26, 16, 57, 163, 0, 7, 4, 167, 0, 4, 3, 172]
abbrev dktX6_isDigit_0 : List UInt8 := dkwX6_isDigit_0 ++ []
theorem dksX6_isDigit_0 : cX6_isDigit.data.toList.drop 0 = dktX6_isDigit_0 := by decide +kernel
theorem dX6_isDigit_0 : decode cX6_isDigit 0 = .ok (.iload_n 0, 1) := dk_26 (dk_at dksX6_isDigit_0 0 rfl rfl)
theorem dX6_isDigit_1 : decode cX6_isDigit 1 = .ok (.bipush 48, 2) := dk_16 48 (dk_at dksX6_isDigit_0 1 rfl rfl)
theorem dX6_isDigit_3 : decode cX6_isDigit 3 = .ok (.if_icmp .lt 13, 3) := dk_161 0 13 (dk_at dksX6_isDigit_0 3 rfl rfl)
theorem dX6_isDigit_6 : decode cX6_isDigit 6 = .ok (.iload_n 0, 1) := dk_26 (dk_at dksX6_isDigit_0 6 rfl rfl)
theorem dX6_isDigit_7 : decode cX6_isDigit 7 = .ok (.bipush 57, 2) := dk_16 57 (dk_at dksX6_isDigit_0 7 rfl rfl)
theorem dX6_isDigit_9 : decode cX6_isDigit 9 = .ok (.if_icmp .gt 7, 3) := dk_163 0 7 (dk_at dksX6_isDigit_0 9 rfl rfl)
theorem dX6_isDigit_12 : decode cX6_isDigit 12 = .ok (.iconst 1, 1) := dk_4 (dk_at dksX6_isDigit_0 12 rfl rfl)
theorem dX6_isDigit_13 : decode cX6_isDigit 13 = .ok (.goto 4, 3) := dk_167 0 4 (dk_at dksX6_isDigit_0 13 rfl rfl)
theorem dX6_isDigit_16 : decode cX6_isDigit 16 = .ok (.iconst 0, 1) := dk_3 (dk_at dksX6_isDigit_0 16 rfl rfl)
theorem dX6_isDigit_17 : decode cX6_isDigit 17 = .ok (.ireturn, 1) := dk_172 (dk_at dksX6_isDigit_0 17 rfl rfl)
abbrev cX6_isIn : ByteArray := prog_22_method_2_code
def yX6_isIn : MethodName := ⟨RX6, "isIn", "(JJJ)Z"⟩
def dkwX6_isIn_0 : List UInt8 := [30, 32, 148, 155, 0, 14, 30, 22, 4, 148, 157, 0, 7, 4, 167, 0, 4, 3, 172]
abbrev dktX6_isIn_0 : List UInt8 := dkwX6_isIn_0 ++ []
theorem dksX6_isIn_0 : cX6_isIn.data.toList.drop 0 = dktX6_isIn_0 := by decide +kernel
theorem dX6_isIn_0 : decode cX6_isIn 0 = .ok (.lload_n 0, 1) := dk_30 (dk_at dksX6_isIn_0 0 rfl rfl)
theorem dX6_isIn_1 : decode cX6_isIn 1 = .ok (.lload_n 2, 1) := dk_32 (dk_at dksX6_isIn_0 1 rfl rfl)
theorem dX6_isIn_2 : decode cX6_isIn 2 = .ok (.lcmp, 1) := dk_148 (dk_at dksX6_isIn_0 2 rfl rfl)
theorem dX6_isIn_3 : decode cX6_isIn 3 = .ok (.ifCond .lt 14, 3) := dk_155 0 14 (dk_at dksX6_isIn_0 3 rfl rfl)
theorem dX6_isIn_6 : decode cX6_isIn 6 = .ok (.lload_n 0, 1) := dk_30 (dk_at dksX6_isIn_0 6 rfl rfl)
theorem dX6_isIn_7 : decode cX6_isIn 7 = .ok (.lload 4, 2) := dk_22 4 (dk_at dksX6_isIn_0 7 rfl rfl)
theorem dX6_isIn_9 : decode cX6_isIn 9 = .ok (.lcmp, 1) := dk_148 (dk_at dksX6_isIn_0 9 rfl rfl)
theorem dX6_isIn_10 : decode cX6_isIn 10 = .ok (.ifCond .gt 7, 3) := dk_157 0 7 (dk_at dksX6_isIn_0 10 rfl rfl)
theorem dX6_isIn_13 : decode cX6_isIn 13 = .ok (.iconst 1, 1) := dk_4 (dk_at dksX6_isIn_0 13 rfl rfl)
theorem dX6_isIn_14 : decode cX6_isIn 14 = .ok (.goto 4, 3) := dk_167 0 4 (dk_at dksX6_isIn_0 14 rfl rfl)
theorem dX6_isIn_17 : decode cX6_isIn 17 = .ok (.iconst 0, 1) := dk_3 (dk_at dksX6_isIn_0 17 rfl rfl)
theorem dX6_isIn_18 : decode cX6_isIn 18 = .ok (.ireturn, 1) := dk_172 (dk_at dksX6_isIn_0 18 rfl rfl)
abbrev cX6_personTold : ByteArray := prog_22_method_23_code
def yX6_personTold : MethodName := ⟨RX6, "personTold", "(I)V"⟩
def dkwX6_personTold_3 : List UInt8 := [42, 180, 0, 105, 4, 92, 46, 4, 96, 79, 177]
abbrev dktX6_personTold_3 : List UInt8 := dkwX6_personTold_3 ++ []
def dkwX6_personTold_2 : List UInt8 := [16, 8, 42, 180, 0, 105, 4, 46, 96, 32, 80, 42, 180, 0, 115, 42, 180, 0, 105, 4, 46, 21, 4, 79]
abbrev dktX6_personTold_2 : List UInt8 := dkwX6_personTold_2 ++ dktX6_personTold_3
def dkwX6_personTold_1 : List UInt8 := [182, 1, 74, 42, 3, 16, 99, 182, 1, 78, 54, 4, 42, 180, 1, 1, 153, 0, 4, 177, 42, 180, 0, 108]
abbrev dktX6_personTold_1 : List UInt8 := dkwX6_personTold_1 ++ dktX6_personTold_2
def dkwX6_personTold_0 : List UInt8 := [42, 4, 16, 8, 27, 182, 1, 67, 153, 0, 4, 177, 42, 182, 1, 71, 65, 42, 42, 180, 0, 30]
abbrev dktX6_personTold_0 : List UInt8 := dkwX6_personTold_0 ++ dktX6_personTold_1
theorem dksX6_personTold_0 : cX6_personTold.data.toList.drop 0 = dktX6_personTold_0 := by decide +kernel
theorem dksX6_personTold_1 : cX6_personTold.data.toList.drop 22 = dktX6_personTold_1 := dk_seg dksX6_personTold_0 22 rfl rfl
theorem dksX6_personTold_2 : cX6_personTold.data.toList.drop 46 = dktX6_personTold_2 := dk_seg dksX6_personTold_1 24 rfl rfl
theorem dksX6_personTold_3 : cX6_personTold.data.toList.drop 70 = dktX6_personTold_3 := dk_seg dksX6_personTold_2 24 rfl rfl
theorem dX6_personTold_0 : decode cX6_personTold 0 = .ok (.aload_n 0, 1) := dk_42 (dk_at dksX6_personTold_0 0 rfl rfl)
theorem dX6_personTold_1 : decode cX6_personTold 1 = .ok (.iconst 1, 1) := dk_4 (dk_at dksX6_personTold_0 1 rfl rfl)
theorem dX6_personTold_2 : decode cX6_personTold 2 = .ok (.bipush 8, 2) := dk_16 8 (dk_at dksX6_personTold_0 2 rfl rfl)
theorem dX6_personTold_4 : decode cX6_personTold 4 = .ok (.iload_n 1, 1) := dk_27 (dk_at dksX6_personTold_0 4 rfl rfl)
theorem dX6_personTold_5 : decode cX6_personTold 5 = .ok (.invokevirtual 323, 3) := dk_182 1 67 (dk_at dksX6_personTold_0 5 rfl rfl)
theorem dX6_personTold_8 : decode cX6_personTold 8 = .ok (.ifCond .eq 4, 3) := dk_153 0 4 (dk_at dksX6_personTold_0 8 rfl rfl)
theorem dX6_personTold_11 : decode cX6_personTold 11 = .ok (.return_, 1) := dk_177 (dk_at dksX6_personTold_0 11 rfl rfl)
theorem dX6_personTold_12 : decode cX6_personTold 12 = .ok (.aload_n 0, 1) := dk_42 (dk_at dksX6_personTold_0 12 rfl rfl)
theorem dX6_personTold_13 : decode cX6_personTold 13 = .ok (.invokevirtual 327, 3) := dk_182 1 71 (dk_at dksX6_personTold_0 13 rfl rfl)
theorem dX6_personTold_16 : decode cX6_personTold 16 = .ok (.lstore_n 2, 1) := dk_65 (dk_at dksX6_personTold_0 16 rfl rfl)
theorem dX6_personTold_17 : decode cX6_personTold 17 = .ok (.aload_n 0, 1) := dk_42 (dk_at dksX6_personTold_0 17 rfl rfl)
theorem dX6_personTold_18 : decode cX6_personTold 18 = .ok (.aload_n 0, 1) := dk_42 (dk_at dksX6_personTold_0 18 rfl rfl)
theorem dX6_personTold_19 : decode cX6_personTold 19 = .ok (.getfield 30, 3) := dk_180 0 30 (dk_at dksX6_personTold_0 19 rfl rfl)
theorem dX6_personTold_22 : decode cX6_personTold 22 = .ok (.invokevirtual 330, 3) := dk_182 1 74 (dk_at dksX6_personTold_1 0 rfl rfl)
theorem dX6_personTold_25 : decode cX6_personTold 25 = .ok (.aload_n 0, 1) := dk_42 (dk_at dksX6_personTold_1 3 rfl rfl)
theorem dX6_personTold_26 : decode cX6_personTold 26 = .ok (.iconst 0, 1) := dk_3 (dk_at dksX6_personTold_1 4 rfl rfl)
theorem dX6_personTold_27 : decode cX6_personTold 27 = .ok (.bipush 99, 2) := dk_16 99 (dk_at dksX6_personTold_1 5 rfl rfl)
theorem dX6_personTold_29 : decode cX6_personTold 29 = .ok (.invokevirtual 334, 3) := dk_182 1 78 (dk_at dksX6_personTold_1 7 rfl rfl)
theorem dX6_personTold_32 : decode cX6_personTold 32 = .ok (.istore 4, 2) := dk_54 4 (dk_at dksX6_personTold_1 10 rfl rfl)
theorem dX6_personTold_34 : decode cX6_personTold 34 = .ok (.aload_n 0, 1) := dk_42 (dk_at dksX6_personTold_1 12 rfl rfl)
theorem dX6_personTold_35 : decode cX6_personTold 35 = .ok (.getfield 257, 3) := dk_180 1 1 (dk_at dksX6_personTold_1 13 rfl rfl)
theorem dX6_personTold_38 : decode cX6_personTold 38 = .ok (.ifCond .eq 4, 3) := dk_153 0 4 (dk_at dksX6_personTold_1 16 rfl rfl)
theorem dX6_personTold_41 : decode cX6_personTold 41 = .ok (.return_, 1) := dk_177 (dk_at dksX6_personTold_1 19 rfl rfl)
theorem dX6_personTold_42 : decode cX6_personTold 42 = .ok (.aload_n 0, 1) := dk_42 (dk_at dksX6_personTold_1 20 rfl rfl)
theorem dX6_personTold_43 : decode cX6_personTold 43 = .ok (.getfield 108, 3) := dk_180 0 108 (dk_at dksX6_personTold_1 21 rfl rfl)
theorem dX6_personTold_46 : decode cX6_personTold 46 = .ok (.bipush 8, 2) := dk_16 8 (dk_at dksX6_personTold_2 0 rfl rfl)
theorem dX6_personTold_48 : decode cX6_personTold 48 = .ok (.aload_n 0, 1) := dk_42 (dk_at dksX6_personTold_2 2 rfl rfl)
theorem dX6_personTold_49 : decode cX6_personTold 49 = .ok (.getfield 105, 3) := dk_180 0 105 (dk_at dksX6_personTold_2 3 rfl rfl)
theorem dX6_personTold_52 : decode cX6_personTold 52 = .ok (.iconst 1, 1) := dk_4 (dk_at dksX6_personTold_2 6 rfl rfl)
theorem dX6_personTold_53 : decode cX6_personTold 53 = .ok (.iaload, 1) := dk_46 (dk_at dksX6_personTold_2 7 rfl rfl)
theorem dX6_personTold_54 : decode cX6_personTold 54 = .ok (.iadd, 1) := dk_96 (dk_at dksX6_personTold_2 8 rfl rfl)
theorem dX6_personTold_55 : decode cX6_personTold 55 = .ok (.lload_n 2, 1) := dk_32 (dk_at dksX6_personTold_2 9 rfl rfl)
theorem dX6_personTold_56 : decode cX6_personTold 56 = .ok (.lastore, 1) := dk_80 (dk_at dksX6_personTold_2 10 rfl rfl)
theorem dX6_personTold_57 : decode cX6_personTold 57 = .ok (.aload_n 0, 1) := dk_42 (dk_at dksX6_personTold_2 11 rfl rfl)
theorem dX6_personTold_58 : decode cX6_personTold 58 = .ok (.getfield 115, 3) := dk_180 0 115 (dk_at dksX6_personTold_2 12 rfl rfl)
theorem dX6_personTold_61 : decode cX6_personTold 61 = .ok (.aload_n 0, 1) := dk_42 (dk_at dksX6_personTold_2 15 rfl rfl)
theorem dX6_personTold_62 : decode cX6_personTold 62 = .ok (.getfield 105, 3) := dk_180 0 105 (dk_at dksX6_personTold_2 16 rfl rfl)
theorem dX6_personTold_65 : decode cX6_personTold 65 = .ok (.iconst 1, 1) := dk_4 (dk_at dksX6_personTold_2 19 rfl rfl)
theorem dX6_personTold_66 : decode cX6_personTold 66 = .ok (.iaload, 1) := dk_46 (dk_at dksX6_personTold_2 20 rfl rfl)
theorem dX6_personTold_67 : decode cX6_personTold 67 = .ok (.iload 4, 2) := dk_21 4 (dk_at dksX6_personTold_2 21 rfl rfl)
theorem dX6_personTold_69 : decode cX6_personTold 69 = .ok (.iastore, 1) := dk_79 (dk_at dksX6_personTold_2 23 rfl rfl)
theorem dX6_personTold_70 : decode cX6_personTold 70 = .ok (.aload_n 0, 1) := dk_42 (dk_at dksX6_personTold_3 0 rfl rfl)
theorem dX6_personTold_71 : decode cX6_personTold 71 = .ok (.getfield 105, 3) := dk_180 0 105 (dk_at dksX6_personTold_3 1 rfl rfl)
theorem dX6_personTold_74 : decode cX6_personTold 74 = .ok (.iconst 1, 1) := dk_4 (dk_at dksX6_personTold_3 4 rfl rfl)
theorem dX6_personTold_75 : decode cX6_personTold 75 = .ok (.dup2, 1) := dk_92 (dk_at dksX6_personTold_3 5 rfl rfl)
theorem dX6_personTold_76 : decode cX6_personTold 76 = .ok (.iaload, 1) := dk_46 (dk_at dksX6_personTold_3 6 rfl rfl)
theorem dX6_personTold_77 : decode cX6_personTold 77 = .ok (.iconst 1, 1) := dk_4 (dk_at dksX6_personTold_3 7 rfl rfl)
theorem dX6_personTold_78 : decode cX6_personTold 78 = .ok (.iadd, 1) := dk_96 (dk_at dksX6_personTold_3 8 rfl rfl)
theorem dX6_personTold_79 : decode cX6_personTold 79 = .ok (.iastore, 1) := dk_79 (dk_at dksX6_personTold_3 9 rfl rfl)
theorem dX6_personTold_80 : decode cX6_personTold 80 = .ok (.return_, 1) := dk_177 (dk_at dksX6_personTold_3 10 rfl rfl)
abbrev cX6_beliefTold : ByteArray := prog_22_method_24_code
def yX6_beliefTold : MethodName := ⟨RX6, "beliefTold", "(Z)V"⟩
def dkwX6_beliefTold_3 : List UInt8 := [120, 128, 79, 167, 0, 15, 42, 180, 0, 121, 28, 92, 46, 4, 29, 120, 128, 79, 177]
abbrev dktX6_beliefTold_3 : List UInt8 := dkwX6_beliefTold_3 ++ []
def dkwX6_beliefTold_2 : List UInt8 := [182, 1, 31, 42, 180, 1, 1, 153, 0, 4, 177, 27, 153, 0, 18, 42, 180, 0, 118, 28, 92, 46, 4, 29]
abbrev dktX6_beliefTold_2 : List UInt8 := dkwX6_beliefTold_2 ++ dktX6_beliefTold_3
def dkwX6_beliefTold_1 : List UInt8 := [46, 42, 180, 0, 121, 28, 46, 128, 29, 122, 4, 126, 4, 160, 0, 12, 42, 6, 42, 180, 1, 49]
abbrev dktX6_beliefTold_1 : List UInt8 := dkwX6_beliefTold_1 ++ dktX6_beliefTold_2
def dkwX6_beliefTold_0 : List UInt8 := [42, 4, 182, 1, 82, 61, 42, 3, 182, 1, 82, 62, 42, 180, 1, 1, 154, 0, 33, 42, 180, 0, 118, 28]
abbrev dktX6_beliefTold_0 : List UInt8 := dkwX6_beliefTold_0 ++ dktX6_beliefTold_1
theorem dksX6_beliefTold_0 : cX6_beliefTold.data.toList.drop 0 = dktX6_beliefTold_0 := by decide +kernel
theorem dksX6_beliefTold_1 : cX6_beliefTold.data.toList.drop 24 = dktX6_beliefTold_1 := dk_seg dksX6_beliefTold_0 24 rfl rfl
theorem dksX6_beliefTold_2 : cX6_beliefTold.data.toList.drop 46 = dktX6_beliefTold_2 := dk_seg dksX6_beliefTold_1 22 rfl rfl
theorem dksX6_beliefTold_3 : cX6_beliefTold.data.toList.drop 70 = dktX6_beliefTold_3 := dk_seg dksX6_beliefTold_2 24 rfl rfl
theorem dX6_beliefTold_0 : decode cX6_beliefTold 0 = .ok (.aload_n 0, 1) := dk_42 (dk_at dksX6_beliefTold_0 0 rfl rfl)
theorem dX6_beliefTold_1 : decode cX6_beliefTold 1 = .ok (.iconst 1, 1) := dk_4 (dk_at dksX6_beliefTold_0 1 rfl rfl)
theorem dX6_beliefTold_2 : decode cX6_beliefTold 2 = .ok (.invokevirtual 338, 3) := dk_182 1 82 (dk_at dksX6_beliefTold_0 2 rfl rfl)
theorem dX6_beliefTold_5 : decode cX6_beliefTold 5 = .ok (.istore_n 2, 1) := dk_61 (dk_at dksX6_beliefTold_0 5 rfl rfl)
theorem dX6_beliefTold_6 : decode cX6_beliefTold 6 = .ok (.aload_n 0, 1) := dk_42 (dk_at dksX6_beliefTold_0 6 rfl rfl)
theorem dX6_beliefTold_7 : decode cX6_beliefTold 7 = .ok (.iconst 0, 1) := dk_3 (dk_at dksX6_beliefTold_0 7 rfl rfl)
theorem dX6_beliefTold_8 : decode cX6_beliefTold 8 = .ok (.invokevirtual 338, 3) := dk_182 1 82 (dk_at dksX6_beliefTold_0 8 rfl rfl)
theorem dX6_beliefTold_11 : decode cX6_beliefTold 11 = .ok (.istore_n 3, 1) := dk_62 (dk_at dksX6_beliefTold_0 11 rfl rfl)
theorem dX6_beliefTold_12 : decode cX6_beliefTold 12 = .ok (.aload_n 0, 1) := dk_42 (dk_at dksX6_beliefTold_0 12 rfl rfl)
theorem dX6_beliefTold_13 : decode cX6_beliefTold 13 = .ok (.getfield 257, 3) := dk_180 1 1 (dk_at dksX6_beliefTold_0 13 rfl rfl)
theorem dX6_beliefTold_16 : decode cX6_beliefTold 16 = .ok (.ifCond .ne 33, 3) := dk_154 0 33 (dk_at dksX6_beliefTold_0 16 rfl rfl)
theorem dX6_beliefTold_19 : decode cX6_beliefTold 19 = .ok (.aload_n 0, 1) := dk_42 (dk_at dksX6_beliefTold_0 19 rfl rfl)
theorem dX6_beliefTold_20 : decode cX6_beliefTold 20 = .ok (.getfield 118, 3) := dk_180 0 118 (dk_at dksX6_beliefTold_0 20 rfl rfl)
theorem dX6_beliefTold_23 : decode cX6_beliefTold 23 = .ok (.iload_n 2, 1) := dk_28 (dk_at dksX6_beliefTold_0 23 rfl rfl)
theorem dX6_beliefTold_24 : decode cX6_beliefTold 24 = .ok (.iaload, 1) := dk_46 (dk_at dksX6_beliefTold_1 0 rfl rfl)
theorem dX6_beliefTold_25 : decode cX6_beliefTold 25 = .ok (.aload_n 0, 1) := dk_42 (dk_at dksX6_beliefTold_1 1 rfl rfl)
theorem dX6_beliefTold_26 : decode cX6_beliefTold 26 = .ok (.getfield 121, 3) := dk_180 0 121 (dk_at dksX6_beliefTold_1 2 rfl rfl)
theorem dX6_beliefTold_29 : decode cX6_beliefTold 29 = .ok (.iload_n 2, 1) := dk_28 (dk_at dksX6_beliefTold_1 5 rfl rfl)
theorem dX6_beliefTold_30 : decode cX6_beliefTold 30 = .ok (.iaload, 1) := dk_46 (dk_at dksX6_beliefTold_1 6 rfl rfl)
theorem dX6_beliefTold_31 : decode cX6_beliefTold 31 = .ok (.ior, 1) := dk_128 (dk_at dksX6_beliefTold_1 7 rfl rfl)
theorem dX6_beliefTold_32 : decode cX6_beliefTold 32 = .ok (.iload_n 3, 1) := dk_29 (dk_at dksX6_beliefTold_1 8 rfl rfl)
theorem dX6_beliefTold_33 : decode cX6_beliefTold 33 = .ok (.ishr, 1) := dk_122 (dk_at dksX6_beliefTold_1 9 rfl rfl)
theorem dX6_beliefTold_34 : decode cX6_beliefTold 34 = .ok (.iconst 1, 1) := dk_4 (dk_at dksX6_beliefTold_1 10 rfl rfl)
theorem dX6_beliefTold_35 : decode cX6_beliefTold 35 = .ok (.iand, 1) := dk_126 (dk_at dksX6_beliefTold_1 11 rfl rfl)
theorem dX6_beliefTold_36 : decode cX6_beliefTold 36 = .ok (.iconst 1, 1) := dk_4 (dk_at dksX6_beliefTold_1 12 rfl rfl)
theorem dX6_beliefTold_37 : decode cX6_beliefTold 37 = .ok (.if_icmp .ne 12, 3) := dk_160 0 12 (dk_at dksX6_beliefTold_1 13 rfl rfl)
theorem dX6_beliefTold_40 : decode cX6_beliefTold 40 = .ok (.aload_n 0, 1) := dk_42 (dk_at dksX6_beliefTold_1 16 rfl rfl)
theorem dX6_beliefTold_41 : decode cX6_beliefTold 41 = .ok (.iconst 3, 1) := dk_6 (dk_at dksX6_beliefTold_1 17 rfl rfl)
theorem dX6_beliefTold_42 : decode cX6_beliefTold 42 = .ok (.aload_n 0, 1) := dk_42 (dk_at dksX6_beliefTold_1 18 rfl rfl)
theorem dX6_beliefTold_43 : decode cX6_beliefTold 43 = .ok (.getfield 305, 3) := dk_180 1 49 (dk_at dksX6_beliefTold_1 19 rfl rfl)
theorem dX6_beliefTold_46 : decode cX6_beliefTold 46 = .ok (.invokevirtual 287, 3) := dk_182 1 31 (dk_at dksX6_beliefTold_2 0 rfl rfl)
theorem dX6_beliefTold_49 : decode cX6_beliefTold 49 = .ok (.aload_n 0, 1) := dk_42 (dk_at dksX6_beliefTold_2 3 rfl rfl)
theorem dX6_beliefTold_50 : decode cX6_beliefTold 50 = .ok (.getfield 257, 3) := dk_180 1 1 (dk_at dksX6_beliefTold_2 4 rfl rfl)
theorem dX6_beliefTold_53 : decode cX6_beliefTold 53 = .ok (.ifCond .eq 4, 3) := dk_153 0 4 (dk_at dksX6_beliefTold_2 7 rfl rfl)
theorem dX6_beliefTold_56 : decode cX6_beliefTold 56 = .ok (.return_, 1) := dk_177 (dk_at dksX6_beliefTold_2 10 rfl rfl)
theorem dX6_beliefTold_57 : decode cX6_beliefTold 57 = .ok (.iload_n 1, 1) := dk_27 (dk_at dksX6_beliefTold_2 11 rfl rfl)
theorem dX6_beliefTold_58 : decode cX6_beliefTold 58 = .ok (.ifCond .eq 18, 3) := dk_153 0 18 (dk_at dksX6_beliefTold_2 12 rfl rfl)
theorem dX6_beliefTold_61 : decode cX6_beliefTold 61 = .ok (.aload_n 0, 1) := dk_42 (dk_at dksX6_beliefTold_2 15 rfl rfl)
theorem dX6_beliefTold_62 : decode cX6_beliefTold 62 = .ok (.getfield 118, 3) := dk_180 0 118 (dk_at dksX6_beliefTold_2 16 rfl rfl)
theorem dX6_beliefTold_65 : decode cX6_beliefTold 65 = .ok (.iload_n 2, 1) := dk_28 (dk_at dksX6_beliefTold_2 19 rfl rfl)
theorem dX6_beliefTold_66 : decode cX6_beliefTold 66 = .ok (.dup2, 1) := dk_92 (dk_at dksX6_beliefTold_2 20 rfl rfl)
theorem dX6_beliefTold_67 : decode cX6_beliefTold 67 = .ok (.iaload, 1) := dk_46 (dk_at dksX6_beliefTold_2 21 rfl rfl)
theorem dX6_beliefTold_68 : decode cX6_beliefTold 68 = .ok (.iconst 1, 1) := dk_4 (dk_at dksX6_beliefTold_2 22 rfl rfl)
theorem dX6_beliefTold_69 : decode cX6_beliefTold 69 = .ok (.iload_n 3, 1) := dk_29 (dk_at dksX6_beliefTold_2 23 rfl rfl)
theorem dX6_beliefTold_70 : decode cX6_beliefTold 70 = .ok (.ishl, 1) := dk_120 (dk_at dksX6_beliefTold_3 0 rfl rfl)
theorem dX6_beliefTold_71 : decode cX6_beliefTold 71 = .ok (.ior, 1) := dk_128 (dk_at dksX6_beliefTold_3 1 rfl rfl)
theorem dX6_beliefTold_72 : decode cX6_beliefTold 72 = .ok (.iastore, 1) := dk_79 (dk_at dksX6_beliefTold_3 2 rfl rfl)
theorem dX6_beliefTold_73 : decode cX6_beliefTold 73 = .ok (.goto 15, 3) := dk_167 0 15 (dk_at dksX6_beliefTold_3 3 rfl rfl)
theorem dX6_beliefTold_76 : decode cX6_beliefTold 76 = .ok (.aload_n 0, 1) := dk_42 (dk_at dksX6_beliefTold_3 6 rfl rfl)
theorem dX6_beliefTold_77 : decode cX6_beliefTold 77 = .ok (.getfield 121, 3) := dk_180 0 121 (dk_at dksX6_beliefTold_3 7 rfl rfl)
theorem dX6_beliefTold_80 : decode cX6_beliefTold 80 = .ok (.iload_n 2, 1) := dk_28 (dk_at dksX6_beliefTold_3 10 rfl rfl)
theorem dX6_beliefTold_81 : decode cX6_beliefTold 81 = .ok (.dup2, 1) := dk_92 (dk_at dksX6_beliefTold_3 11 rfl rfl)
theorem dX6_beliefTold_82 : decode cX6_beliefTold 82 = .ok (.iaload, 1) := dk_46 (dk_at dksX6_beliefTold_3 12 rfl rfl)
theorem dX6_beliefTold_83 : decode cX6_beliefTold 83 = .ok (.iconst 1, 1) := dk_4 (dk_at dksX6_beliefTold_3 13 rfl rfl)
theorem dX6_beliefTold_84 : decode cX6_beliefTold 84 = .ok (.iload_n 3, 1) := dk_29 (dk_at dksX6_beliefTold_3 14 rfl rfl)
theorem dX6_beliefTold_85 : decode cX6_beliefTold 85 = .ok (.ishl, 1) := dk_120 (dk_at dksX6_beliefTold_3 15 rfl rfl)
theorem dX6_beliefTold_86 : decode cX6_beliefTold 86 = .ok (.ior, 1) := dk_128 (dk_at dksX6_beliefTold_3 16 rfl rfl)
theorem dX6_beliefTold_87 : decode cX6_beliefTold 87 = .ok (.iastore, 1) := dk_79 (dk_at dksX6_beliefTold_3 17 rfl rfl)
theorem dX6_beliefTold_88 : decode cX6_beliefTold 88 = .ok (.return_, 1) := dk_177 (dk_at dksX6_beliefTold_3 18 rfl rfl)
abbrev cX6_oneOf : ByteArray := prog_22_method_21_code
def yX6_oneOf : MethodName := ⟨RX6, "oneOf", "(I)I"⟩
def dkwX6_oneOf_2 : List UInt8 := [3, 172]
abbrev dktX6_oneOf_2 : List UInt8 := dkwX6_oneOf_2 ++ []
def dkwX6_oneOf_1 : List UInt8 := [160, 0, 12, 42, 6, 42, 180, 1, 49, 182, 1, 31, 42, 180, 1, 1, 154, 0, 8, 21, 4, 167, 0, 4]
abbrev dktX6_oneOf_1 : List UInt8 := dkwX6_oneOf_1 ++ dktX6_oneOf_2
def dkwX6_oneOf_0 : List UInt8 := [42, 182, 1, 59, 65, 42, 27, 32, 182, 1, 63, 54, 4, 42, 180, 1, 1, 154, 0, 18, 21, 4, 2]
abbrev dktX6_oneOf_0 : List UInt8 := dkwX6_oneOf_0 ++ dktX6_oneOf_1
theorem dksX6_oneOf_0 : cX6_oneOf.data.toList.drop 0 = dktX6_oneOf_0 := by decide +kernel
theorem dksX6_oneOf_1 : cX6_oneOf.data.toList.drop 23 = dktX6_oneOf_1 := dk_seg dksX6_oneOf_0 23 rfl rfl
theorem dksX6_oneOf_2 : cX6_oneOf.data.toList.drop 47 = dktX6_oneOf_2 := dk_seg dksX6_oneOf_1 24 rfl rfl
theorem dX6_oneOf_0 : decode cX6_oneOf 0 = .ok (.aload_n 0, 1) := dk_42 (dk_at dksX6_oneOf_0 0 rfl rfl)
theorem dX6_oneOf_1 : decode cX6_oneOf 1 = .ok (.invokevirtual 315, 3) := dk_182 1 59 (dk_at dksX6_oneOf_0 1 rfl rfl)
theorem dX6_oneOf_4 : decode cX6_oneOf 4 = .ok (.lstore_n 2, 1) := dk_65 (dk_at dksX6_oneOf_0 4 rfl rfl)
theorem dX6_oneOf_5 : decode cX6_oneOf 5 = .ok (.aload_n 0, 1) := dk_42 (dk_at dksX6_oneOf_0 5 rfl rfl)
theorem dX6_oneOf_6 : decode cX6_oneOf 6 = .ok (.iload_n 1, 1) := dk_27 (dk_at dksX6_oneOf_0 6 rfl rfl)
theorem dX6_oneOf_7 : decode cX6_oneOf 7 = .ok (.lload_n 2, 1) := dk_32 (dk_at dksX6_oneOf_0 7 rfl rfl)
theorem dX6_oneOf_8 : decode cX6_oneOf 8 = .ok (.invokevirtual 319, 3) := dk_182 1 63 (dk_at dksX6_oneOf_0 8 rfl rfl)
theorem dX6_oneOf_11 : decode cX6_oneOf 11 = .ok (.istore 4, 2) := dk_54 4 (dk_at dksX6_oneOf_0 11 rfl rfl)
theorem dX6_oneOf_13 : decode cX6_oneOf 13 = .ok (.aload_n 0, 1) := dk_42 (dk_at dksX6_oneOf_0 13 rfl rfl)
theorem dX6_oneOf_14 : decode cX6_oneOf 14 = .ok (.getfield 257, 3) := dk_180 1 1 (dk_at dksX6_oneOf_0 14 rfl rfl)
theorem dX6_oneOf_17 : decode cX6_oneOf 17 = .ok (.ifCond .ne 18, 3) := dk_154 0 18 (dk_at dksX6_oneOf_0 17 rfl rfl)
theorem dX6_oneOf_20 : decode cX6_oneOf 20 = .ok (.iload 4, 2) := dk_21 4 (dk_at dksX6_oneOf_0 20 rfl rfl)
theorem dX6_oneOf_22 : decode cX6_oneOf 22 = .ok (.iconst (-1), 1) := dk_2 (dk_at dksX6_oneOf_0 22 rfl rfl)
theorem dX6_oneOf_23 : decode cX6_oneOf 23 = .ok (.if_icmp .ne 12, 3) := dk_160 0 12 (dk_at dksX6_oneOf_1 0 rfl rfl)
theorem dX6_oneOf_26 : decode cX6_oneOf 26 = .ok (.aload_n 0, 1) := dk_42 (dk_at dksX6_oneOf_1 3 rfl rfl)
theorem dX6_oneOf_27 : decode cX6_oneOf 27 = .ok (.iconst 3, 1) := dk_6 (dk_at dksX6_oneOf_1 4 rfl rfl)
theorem dX6_oneOf_28 : decode cX6_oneOf 28 = .ok (.aload_n 0, 1) := dk_42 (dk_at dksX6_oneOf_1 5 rfl rfl)
theorem dX6_oneOf_29 : decode cX6_oneOf 29 = .ok (.getfield 305, 3) := dk_180 1 49 (dk_at dksX6_oneOf_1 6 rfl rfl)
theorem dX6_oneOf_32 : decode cX6_oneOf 32 = .ok (.invokevirtual 287, 3) := dk_182 1 31 (dk_at dksX6_oneOf_1 9 rfl rfl)
theorem dX6_oneOf_35 : decode cX6_oneOf 35 = .ok (.aload_n 0, 1) := dk_42 (dk_at dksX6_oneOf_1 12 rfl rfl)
theorem dX6_oneOf_36 : decode cX6_oneOf 36 = .ok (.getfield 257, 3) := dk_180 1 1 (dk_at dksX6_oneOf_1 13 rfl rfl)
theorem dX6_oneOf_39 : decode cX6_oneOf 39 = .ok (.ifCond .ne 8, 3) := dk_154 0 8 (dk_at dksX6_oneOf_1 16 rfl rfl)
theorem dX6_oneOf_42 : decode cX6_oneOf 42 = .ok (.iload 4, 2) := dk_21 4 (dk_at dksX6_oneOf_1 19 rfl rfl)
theorem dX6_oneOf_44 : decode cX6_oneOf 44 = .ok (.goto 4, 3) := dk_167 0 4 (dk_at dksX6_oneOf_1 21 rfl rfl)
theorem dX6_oneOf_47 : decode cX6_oneOf 47 = .ok (.iconst 0, 1) := dk_3 (dk_at dksX6_oneOf_2 0 rfl rfl)
theorem dX6_oneOf_48 : decode cX6_oneOf 48 = .ok (.ireturn, 1) := dk_172 (dk_at dksX6_oneOf_2 1 rfl rfl)
abbrev cX6_taughtTold : ByteArray := prog_22_method_25_code
def yX6_taughtTold : MethodName := ⟨RX6, "taughtTold", "()V"⟩
def dkwX6_taughtTold_4 : List UInt8 := [42, 180, 1, 1, 154, 0, 10, 42, 180, 0, 124, 27, 28, 79, 177]
abbrev dktX6_taughtTold_4 : List UInt8 := dkwX6_taughtTold_4 ++ []
def dkwX6_taughtTold_3 : List UInt8 := [167, 255, 232, 42, 180, 1, 1, 154, 0, 17, 29, 27, 160, 0, 12, 42, 6, 42, 180, 1, 49, 182, 1, 31]
abbrev dktX6_taughtTold_3 : List UInt8 := dkwX6_taughtTold_3 ++ dktX6_taughtTold_4
def dkwX6_taughtTold_2 : List UInt8 := [42, 180, 1, 1, 154, 0, 23, 29, 2, 159, 0, 18, 29, 27, 159, 0, 13, 42, 180, 0, 124, 29, 46, 62]
abbrev dktX6_taughtTold_2 : List UInt8 := dkwX6_taughtTold_2 ++ dktX6_taughtTold_3
def dkwX6_taughtTold_1 : List UInt8 := [6, 42, 180, 1, 49, 182, 1, 31, 42, 42, 180, 0, 42, 182, 1, 74, 42, 4, 182, 1, 82, 61, 28, 62]
abbrev dktX6_taughtTold_1 : List UInt8 := dkwX6_taughtTold_1 ++ dktX6_taughtTold_2
def dkwX6_taughtTold_0 : List UInt8 := [42, 4, 182, 1, 82, 60, 42, 180, 1, 1, 154, 0, 22, 42, 180, 0, 124, 27, 46, 2, 159, 0, 12, 42]
abbrev dktX6_taughtTold_0 : List UInt8 := dkwX6_taughtTold_0 ++ dktX6_taughtTold_1
theorem dksX6_taughtTold_0 : cX6_taughtTold.data.toList.drop 0 = dktX6_taughtTold_0 := by decide +kernel
theorem dksX6_taughtTold_1 : cX6_taughtTold.data.toList.drop 24 = dktX6_taughtTold_1 := dk_seg dksX6_taughtTold_0 24 rfl rfl
theorem dksX6_taughtTold_2 : cX6_taughtTold.data.toList.drop 48 = dktX6_taughtTold_2 := dk_seg dksX6_taughtTold_1 24 rfl rfl
theorem dksX6_taughtTold_3 : cX6_taughtTold.data.toList.drop 72 = dktX6_taughtTold_3 := dk_seg dksX6_taughtTold_2 24 rfl rfl
theorem dksX6_taughtTold_4 : cX6_taughtTold.data.toList.drop 96 = dktX6_taughtTold_4 := dk_seg dksX6_taughtTold_3 24 rfl rfl
theorem dX6_taughtTold_0 : decode cX6_taughtTold 0 = .ok (.aload_n 0, 1) := dk_42 (dk_at dksX6_taughtTold_0 0 rfl rfl)
theorem dX6_taughtTold_1 : decode cX6_taughtTold 1 = .ok (.iconst 1, 1) := dk_4 (dk_at dksX6_taughtTold_0 1 rfl rfl)
theorem dX6_taughtTold_2 : decode cX6_taughtTold 2 = .ok (.invokevirtual 338, 3) := dk_182 1 82 (dk_at dksX6_taughtTold_0 2 rfl rfl)
theorem dX6_taughtTold_5 : decode cX6_taughtTold 5 = .ok (.istore_n 1, 1) := dk_60 (dk_at dksX6_taughtTold_0 5 rfl rfl)
theorem dX6_taughtTold_6 : decode cX6_taughtTold 6 = .ok (.aload_n 0, 1) := dk_42 (dk_at dksX6_taughtTold_0 6 rfl rfl)
theorem dX6_taughtTold_7 : decode cX6_taughtTold 7 = .ok (.getfield 257, 3) := dk_180 1 1 (dk_at dksX6_taughtTold_0 7 rfl rfl)
theorem dX6_taughtTold_10 : decode cX6_taughtTold 10 = .ok (.ifCond .ne 22, 3) := dk_154 0 22 (dk_at dksX6_taughtTold_0 10 rfl rfl)
theorem dX6_taughtTold_13 : decode cX6_taughtTold 13 = .ok (.aload_n 0, 1) := dk_42 (dk_at dksX6_taughtTold_0 13 rfl rfl)
theorem dX6_taughtTold_14 : decode cX6_taughtTold 14 = .ok (.getfield 124, 3) := dk_180 0 124 (dk_at dksX6_taughtTold_0 14 rfl rfl)
theorem dX6_taughtTold_17 : decode cX6_taughtTold 17 = .ok (.iload_n 1, 1) := dk_27 (dk_at dksX6_taughtTold_0 17 rfl rfl)
theorem dX6_taughtTold_18 : decode cX6_taughtTold 18 = .ok (.iaload, 1) := dk_46 (dk_at dksX6_taughtTold_0 18 rfl rfl)
theorem dX6_taughtTold_19 : decode cX6_taughtTold 19 = .ok (.iconst (-1), 1) := dk_2 (dk_at dksX6_taughtTold_0 19 rfl rfl)
theorem dX6_taughtTold_20 : decode cX6_taughtTold 20 = .ok (.if_icmp .eq 12, 3) := dk_159 0 12 (dk_at dksX6_taughtTold_0 20 rfl rfl)
theorem dX6_taughtTold_23 : decode cX6_taughtTold 23 = .ok (.aload_n 0, 1) := dk_42 (dk_at dksX6_taughtTold_0 23 rfl rfl)
theorem dX6_taughtTold_24 : decode cX6_taughtTold 24 = .ok (.iconst 3, 1) := dk_6 (dk_at dksX6_taughtTold_1 0 rfl rfl)
theorem dX6_taughtTold_25 : decode cX6_taughtTold 25 = .ok (.aload_n 0, 1) := dk_42 (dk_at dksX6_taughtTold_1 1 rfl rfl)
theorem dX6_taughtTold_26 : decode cX6_taughtTold 26 = .ok (.getfield 305, 3) := dk_180 1 49 (dk_at dksX6_taughtTold_1 2 rfl rfl)
theorem dX6_taughtTold_29 : decode cX6_taughtTold 29 = .ok (.invokevirtual 287, 3) := dk_182 1 31 (dk_at dksX6_taughtTold_1 5 rfl rfl)
theorem dX6_taughtTold_32 : decode cX6_taughtTold 32 = .ok (.aload_n 0, 1) := dk_42 (dk_at dksX6_taughtTold_1 8 rfl rfl)
theorem dX6_taughtTold_33 : decode cX6_taughtTold 33 = .ok (.aload_n 0, 1) := dk_42 (dk_at dksX6_taughtTold_1 9 rfl rfl)
theorem dX6_taughtTold_34 : decode cX6_taughtTold 34 = .ok (.getfield 42, 3) := dk_180 0 42 (dk_at dksX6_taughtTold_1 10 rfl rfl)
theorem dX6_taughtTold_37 : decode cX6_taughtTold 37 = .ok (.invokevirtual 330, 3) := dk_182 1 74 (dk_at dksX6_taughtTold_1 13 rfl rfl)
theorem dX6_taughtTold_40 : decode cX6_taughtTold 40 = .ok (.aload_n 0, 1) := dk_42 (dk_at dksX6_taughtTold_1 16 rfl rfl)
theorem dX6_taughtTold_41 : decode cX6_taughtTold 41 = .ok (.iconst 1, 1) := dk_4 (dk_at dksX6_taughtTold_1 17 rfl rfl)
theorem dX6_taughtTold_42 : decode cX6_taughtTold 42 = .ok (.invokevirtual 338, 3) := dk_182 1 82 (dk_at dksX6_taughtTold_1 18 rfl rfl)
theorem dX6_taughtTold_45 : decode cX6_taughtTold 45 = .ok (.istore_n 2, 1) := dk_61 (dk_at dksX6_taughtTold_1 21 rfl rfl)
theorem dX6_taughtTold_46 : decode cX6_taughtTold 46 = .ok (.iload_n 2, 1) := dk_28 (dk_at dksX6_taughtTold_1 22 rfl rfl)
theorem dX6_taughtTold_47 : decode cX6_taughtTold 47 = .ok (.istore_n 3, 1) := dk_62 (dk_at dksX6_taughtTold_1 23 rfl rfl)
theorem dX6_taughtTold_48 : decode cX6_taughtTold 48 = .ok (.aload_n 0, 1) := dk_42 (dk_at dksX6_taughtTold_2 0 rfl rfl)
theorem dX6_taughtTold_49 : decode cX6_taughtTold 49 = .ok (.getfield 257, 3) := dk_180 1 1 (dk_at dksX6_taughtTold_2 1 rfl rfl)
theorem dX6_taughtTold_52 : decode cX6_taughtTold 52 = .ok (.ifCond .ne 23, 3) := dk_154 0 23 (dk_at dksX6_taughtTold_2 4 rfl rfl)
theorem dX6_taughtTold_55 : decode cX6_taughtTold 55 = .ok (.iload_n 3, 1) := dk_29 (dk_at dksX6_taughtTold_2 7 rfl rfl)
theorem dX6_taughtTold_56 : decode cX6_taughtTold 56 = .ok (.iconst (-1), 1) := dk_2 (dk_at dksX6_taughtTold_2 8 rfl rfl)
theorem dX6_taughtTold_57 : decode cX6_taughtTold 57 = .ok (.if_icmp .eq 18, 3) := dk_159 0 18 (dk_at dksX6_taughtTold_2 9 rfl rfl)
theorem dX6_taughtTold_60 : decode cX6_taughtTold 60 = .ok (.iload_n 3, 1) := dk_29 (dk_at dksX6_taughtTold_2 12 rfl rfl)
theorem dX6_taughtTold_61 : decode cX6_taughtTold 61 = .ok (.iload_n 1, 1) := dk_27 (dk_at dksX6_taughtTold_2 13 rfl rfl)
theorem dX6_taughtTold_62 : decode cX6_taughtTold 62 = .ok (.if_icmp .eq 13, 3) := dk_159 0 13 (dk_at dksX6_taughtTold_2 14 rfl rfl)
theorem dX6_taughtTold_65 : decode cX6_taughtTold 65 = .ok (.aload_n 0, 1) := dk_42 (dk_at dksX6_taughtTold_2 17 rfl rfl)
theorem dX6_taughtTold_66 : decode cX6_taughtTold 66 = .ok (.getfield 124, 3) := dk_180 0 124 (dk_at dksX6_taughtTold_2 18 rfl rfl)
theorem dX6_taughtTold_69 : decode cX6_taughtTold 69 = .ok (.iload_n 3, 1) := dk_29 (dk_at dksX6_taughtTold_2 21 rfl rfl)
theorem dX6_taughtTold_70 : decode cX6_taughtTold 70 = .ok (.iaload, 1) := dk_46 (dk_at dksX6_taughtTold_2 22 rfl rfl)
theorem dX6_taughtTold_71 : decode cX6_taughtTold 71 = .ok (.istore_n 3, 1) := dk_62 (dk_at dksX6_taughtTold_2 23 rfl rfl)
theorem dX6_taughtTold_72 : decode cX6_taughtTold 72 = .ok (.goto (-24), 3) := dk_167 255 232 (dk_at dksX6_taughtTold_3 0 rfl rfl)
theorem dX6_taughtTold_75 : decode cX6_taughtTold 75 = .ok (.aload_n 0, 1) := dk_42 (dk_at dksX6_taughtTold_3 3 rfl rfl)
theorem dX6_taughtTold_76 : decode cX6_taughtTold 76 = .ok (.getfield 257, 3) := dk_180 1 1 (dk_at dksX6_taughtTold_3 4 rfl rfl)
theorem dX6_taughtTold_79 : decode cX6_taughtTold 79 = .ok (.ifCond .ne 17, 3) := dk_154 0 17 (dk_at dksX6_taughtTold_3 7 rfl rfl)
theorem dX6_taughtTold_82 : decode cX6_taughtTold 82 = .ok (.iload_n 3, 1) := dk_29 (dk_at dksX6_taughtTold_3 10 rfl rfl)
theorem dX6_taughtTold_83 : decode cX6_taughtTold 83 = .ok (.iload_n 1, 1) := dk_27 (dk_at dksX6_taughtTold_3 11 rfl rfl)
theorem dX6_taughtTold_84 : decode cX6_taughtTold 84 = .ok (.if_icmp .ne 12, 3) := dk_160 0 12 (dk_at dksX6_taughtTold_3 12 rfl rfl)
theorem dX6_taughtTold_87 : decode cX6_taughtTold 87 = .ok (.aload_n 0, 1) := dk_42 (dk_at dksX6_taughtTold_3 15 rfl rfl)
theorem dX6_taughtTold_88 : decode cX6_taughtTold 88 = .ok (.iconst 3, 1) := dk_6 (dk_at dksX6_taughtTold_3 16 rfl rfl)
theorem dX6_taughtTold_89 : decode cX6_taughtTold 89 = .ok (.aload_n 0, 1) := dk_42 (dk_at dksX6_taughtTold_3 17 rfl rfl)
theorem dX6_taughtTold_90 : decode cX6_taughtTold 90 = .ok (.getfield 305, 3) := dk_180 1 49 (dk_at dksX6_taughtTold_3 18 rfl rfl)
theorem dX6_taughtTold_93 : decode cX6_taughtTold 93 = .ok (.invokevirtual 287, 3) := dk_182 1 31 (dk_at dksX6_taughtTold_3 21 rfl rfl)
theorem dX6_taughtTold_96 : decode cX6_taughtTold 96 = .ok (.aload_n 0, 1) := dk_42 (dk_at dksX6_taughtTold_4 0 rfl rfl)
theorem dX6_taughtTold_97 : decode cX6_taughtTold 97 = .ok (.getfield 257, 3) := dk_180 1 1 (dk_at dksX6_taughtTold_4 1 rfl rfl)
theorem dX6_taughtTold_100 : decode cX6_taughtTold 100 = .ok (.ifCond .ne 10, 3) := dk_154 0 10 (dk_at dksX6_taughtTold_4 4 rfl rfl)
theorem dX6_taughtTold_103 : decode cX6_taughtTold 103 = .ok (.aload_n 0, 1) := dk_42 (dk_at dksX6_taughtTold_4 7 rfl rfl)
theorem dX6_taughtTold_104 : decode cX6_taughtTold 104 = .ok (.getfield 124, 3) := dk_180 0 124 (dk_at dksX6_taughtTold_4 8 rfl rfl)
theorem dX6_taughtTold_107 : decode cX6_taughtTold 107 = .ok (.iload_n 1, 1) := dk_27 (dk_at dksX6_taughtTold_4 11 rfl rfl)
theorem dX6_taughtTold_108 : decode cX6_taughtTold 108 = .ok (.iload_n 2, 1) := dk_28 (dk_at dksX6_taughtTold_4 12 rfl rfl)
theorem dX6_taughtTold_109 : decode cX6_taughtTold 109 = .ok (.iastore, 1) := dk_79 (dk_at dksX6_taughtTold_4 13 rfl rfl)
theorem dX6_taughtTold_110 : decode cX6_taughtTold 110 = .ok (.return_, 1) := dk_177 (dk_at dksX6_taughtTold_4 14 rfl rfl)
abbrev cX6_codesTold : ByteArray := prog_22_method_26_code
def yX6_codesTold : MethodName := ⟨RX6, "codesTold", "(II)V"⟩
def dkwX6_codesTold_5 : List UInt8 := [96, 181, 1, 101, 132, 3, 1, 167, 255, 220, 42, 180, 0, 133, 27, 42, 180, 1, 101, 79, 177]
abbrev dktX6_codesTold_5 : List UInt8 := dkwX6_codesTold_5 ++ []
def dkwX6_codesTold_4 : List UInt8 := [162, 0, 34, 42, 180, 0, 136, 42, 180, 1, 101, 42, 180, 0, 242, 29, 46, 79, 42, 89, 180, 1, 101, 4]
abbrev dktX6_codesTold_4 : List UInt8 := dkwX6_codesTold_4 ++ dktX6_codesTold_5
def dkwX6_codesTold_3 : List UInt8 := [180, 1, 1, 153, 0, 4, 177, 42, 180, 0, 130, 27, 42, 180, 1, 101, 79, 3, 62, 29, 42, 180, 1, 86]
abbrev dktX6_codesTold_3 : List UInt8 := dkwX6_codesTold_3 ++ dktX6_codesTold_4
def dkwX6_codesTold_2 : List UInt8 := [181, 1, 86, 42, 3, 181, 1, 89, 42, 3, 181, 1, 92, 42, 3, 181, 1, 95, 42, 182, 1, 98, 42]
abbrev dktX6_codesTold_2 : List UInt8 := dkwX6_codesTold_2 ++ dktX6_codesTold_3
def dkwX6_codesTold_1 : List UInt8 := [180, 1, 1, 153, 0, 4, 177, 42, 27, 5, 160, 0, 7, 4, 167, 0, 4, 3, 181, 1, 56, 42, 3]
abbrev dktX6_codesTold_1 : List UInt8 := dkwX6_codesTold_1 ++ dktX6_codesTold_2
def dkwX6_codesTold_0 : List UInt8 := [42, 180, 1, 1, 154, 0, 19, 42, 180, 0, 130, 27, 46, 2, 159, 0, 9, 42, 8, 28, 182, 1, 31, 42]
abbrev dktX6_codesTold_0 : List UInt8 := dkwX6_codesTold_0 ++ dktX6_codesTold_1
theorem dksX6_codesTold_0 : cX6_codesTold.data.toList.drop 0 = dktX6_codesTold_0 := by decide +kernel
theorem dksX6_codesTold_1 : cX6_codesTold.data.toList.drop 24 = dktX6_codesTold_1 := dk_seg dksX6_codesTold_0 24 rfl rfl
theorem dksX6_codesTold_2 : cX6_codesTold.data.toList.drop 47 = dktX6_codesTold_2 := dk_seg dksX6_codesTold_1 23 rfl rfl
theorem dksX6_codesTold_3 : cX6_codesTold.data.toList.drop 70 = dktX6_codesTold_3 := dk_seg dksX6_codesTold_2 23 rfl rfl
theorem dksX6_codesTold_4 : cX6_codesTold.data.toList.drop 94 = dktX6_codesTold_4 := dk_seg dksX6_codesTold_3 24 rfl rfl
theorem dksX6_codesTold_5 : cX6_codesTold.data.toList.drop 118 = dktX6_codesTold_5 := dk_seg dksX6_codesTold_4 24 rfl rfl
theorem dX6_codesTold_0 : decode cX6_codesTold 0 = .ok (.aload_n 0, 1) := dk_42 (dk_at dksX6_codesTold_0 0 rfl rfl)
theorem dX6_codesTold_1 : decode cX6_codesTold 1 = .ok (.getfield 257, 3) := dk_180 1 1 (dk_at dksX6_codesTold_0 1 rfl rfl)
theorem dX6_codesTold_4 : decode cX6_codesTold 4 = .ok (.ifCond .ne 19, 3) := dk_154 0 19 (dk_at dksX6_codesTold_0 4 rfl rfl)
theorem dX6_codesTold_7 : decode cX6_codesTold 7 = .ok (.aload_n 0, 1) := dk_42 (dk_at dksX6_codesTold_0 7 rfl rfl)
theorem dX6_codesTold_8 : decode cX6_codesTold 8 = .ok (.getfield 130, 3) := dk_180 0 130 (dk_at dksX6_codesTold_0 8 rfl rfl)
theorem dX6_codesTold_11 : decode cX6_codesTold 11 = .ok (.iload_n 1, 1) := dk_27 (dk_at dksX6_codesTold_0 11 rfl rfl)
theorem dX6_codesTold_12 : decode cX6_codesTold 12 = .ok (.iaload, 1) := dk_46 (dk_at dksX6_codesTold_0 12 rfl rfl)
theorem dX6_codesTold_13 : decode cX6_codesTold 13 = .ok (.iconst (-1), 1) := dk_2 (dk_at dksX6_codesTold_0 13 rfl rfl)
theorem dX6_codesTold_14 : decode cX6_codesTold 14 = .ok (.if_icmp .eq 9, 3) := dk_159 0 9 (dk_at dksX6_codesTold_0 14 rfl rfl)
theorem dX6_codesTold_17 : decode cX6_codesTold 17 = .ok (.aload_n 0, 1) := dk_42 (dk_at dksX6_codesTold_0 17 rfl rfl)
theorem dX6_codesTold_18 : decode cX6_codesTold 18 = .ok (.iconst 5, 1) := dk_8 (dk_at dksX6_codesTold_0 18 rfl rfl)
theorem dX6_codesTold_19 : decode cX6_codesTold 19 = .ok (.iload_n 2, 1) := dk_28 (dk_at dksX6_codesTold_0 19 rfl rfl)
theorem dX6_codesTold_20 : decode cX6_codesTold 20 = .ok (.invokevirtual 287, 3) := dk_182 1 31 (dk_at dksX6_codesTold_0 20 rfl rfl)
theorem dX6_codesTold_23 : decode cX6_codesTold 23 = .ok (.aload_n 0, 1) := dk_42 (dk_at dksX6_codesTold_0 23 rfl rfl)
theorem dX6_codesTold_24 : decode cX6_codesTold 24 = .ok (.getfield 257, 3) := dk_180 1 1 (dk_at dksX6_codesTold_1 0 rfl rfl)
theorem dX6_codesTold_27 : decode cX6_codesTold 27 = .ok (.ifCond .eq 4, 3) := dk_153 0 4 (dk_at dksX6_codesTold_1 3 rfl rfl)
theorem dX6_codesTold_30 : decode cX6_codesTold 30 = .ok (.return_, 1) := dk_177 (dk_at dksX6_codesTold_1 6 rfl rfl)
theorem dX6_codesTold_31 : decode cX6_codesTold 31 = .ok (.aload_n 0, 1) := dk_42 (dk_at dksX6_codesTold_1 7 rfl rfl)
theorem dX6_codesTold_32 : decode cX6_codesTold 32 = .ok (.iload_n 1, 1) := dk_27 (dk_at dksX6_codesTold_1 8 rfl rfl)
theorem dX6_codesTold_33 : decode cX6_codesTold 33 = .ok (.iconst 2, 1) := dk_5 (dk_at dksX6_codesTold_1 9 rfl rfl)
theorem dX6_codesTold_34 : decode cX6_codesTold 34 = .ok (.if_icmp .ne 7, 3) := dk_160 0 7 (dk_at dksX6_codesTold_1 10 rfl rfl)
theorem dX6_codesTold_37 : decode cX6_codesTold 37 = .ok (.iconst 1, 1) := dk_4 (dk_at dksX6_codesTold_1 13 rfl rfl)
theorem dX6_codesTold_38 : decode cX6_codesTold 38 = .ok (.goto 4, 3) := dk_167 0 4 (dk_at dksX6_codesTold_1 14 rfl rfl)
theorem dX6_codesTold_41 : decode cX6_codesTold 41 = .ok (.iconst 0, 1) := dk_3 (dk_at dksX6_codesTold_1 17 rfl rfl)
theorem dX6_codesTold_42 : decode cX6_codesTold 42 = .ok (.putfield 312, 3) := dk_181 1 56 (dk_at dksX6_codesTold_1 18 rfl rfl)
theorem dX6_codesTold_45 : decode cX6_codesTold 45 = .ok (.aload_n 0, 1) := dk_42 (dk_at dksX6_codesTold_1 21 rfl rfl)
theorem dX6_codesTold_46 : decode cX6_codesTold 46 = .ok (.iconst 0, 1) := dk_3 (dk_at dksX6_codesTold_1 22 rfl rfl)
theorem dX6_codesTold_47 : decode cX6_codesTold 47 = .ok (.putfield 342, 3) := dk_181 1 86 (dk_at dksX6_codesTold_2 0 rfl rfl)
theorem dX6_codesTold_50 : decode cX6_codesTold 50 = .ok (.aload_n 0, 1) := dk_42 (dk_at dksX6_codesTold_2 3 rfl rfl)
theorem dX6_codesTold_51 : decode cX6_codesTold 51 = .ok (.iconst 0, 1) := dk_3 (dk_at dksX6_codesTold_2 4 rfl rfl)
theorem dX6_codesTold_52 : decode cX6_codesTold 52 = .ok (.putfield 345, 3) := dk_181 1 89 (dk_at dksX6_codesTold_2 5 rfl rfl)
theorem dX6_codesTold_55 : decode cX6_codesTold 55 = .ok (.aload_n 0, 1) := dk_42 (dk_at dksX6_codesTold_2 8 rfl rfl)
theorem dX6_codesTold_56 : decode cX6_codesTold 56 = .ok (.iconst 0, 1) := dk_3 (dk_at dksX6_codesTold_2 9 rfl rfl)
theorem dX6_codesTold_57 : decode cX6_codesTold 57 = .ok (.putfield 348, 3) := dk_181 1 92 (dk_at dksX6_codesTold_2 10 rfl rfl)
theorem dX6_codesTold_60 : decode cX6_codesTold 60 = .ok (.aload_n 0, 1) := dk_42 (dk_at dksX6_codesTold_2 13 rfl rfl)
theorem dX6_codesTold_61 : decode cX6_codesTold 61 = .ok (.iconst 0, 1) := dk_3 (dk_at dksX6_codesTold_2 14 rfl rfl)
theorem dX6_codesTold_62 : decode cX6_codesTold 62 = .ok (.putfield 351, 3) := dk_181 1 95 (dk_at dksX6_codesTold_2 15 rfl rfl)
theorem dX6_codesTold_65 : decode cX6_codesTold 65 = .ok (.aload_n 0, 1) := dk_42 (dk_at dksX6_codesTold_2 18 rfl rfl)
theorem dX6_codesTold_66 : decode cX6_codesTold 66 = .ok (.invokevirtual 354, 3) := dk_182 1 98 (dk_at dksX6_codesTold_2 19 rfl rfl)
theorem dX6_codesTold_69 : decode cX6_codesTold 69 = .ok (.aload_n 0, 1) := dk_42 (dk_at dksX6_codesTold_2 22 rfl rfl)
theorem dX6_codesTold_70 : decode cX6_codesTold 70 = .ok (.getfield 257, 3) := dk_180 1 1 (dk_at dksX6_codesTold_3 0 rfl rfl)
theorem dX6_codesTold_73 : decode cX6_codesTold 73 = .ok (.ifCond .eq 4, 3) := dk_153 0 4 (dk_at dksX6_codesTold_3 3 rfl rfl)
theorem dX6_codesTold_76 : decode cX6_codesTold 76 = .ok (.return_, 1) := dk_177 (dk_at dksX6_codesTold_3 6 rfl rfl)
theorem dX6_codesTold_77 : decode cX6_codesTold 77 = .ok (.aload_n 0, 1) := dk_42 (dk_at dksX6_codesTold_3 7 rfl rfl)
theorem dX6_codesTold_78 : decode cX6_codesTold 78 = .ok (.getfield 130, 3) := dk_180 0 130 (dk_at dksX6_codesTold_3 8 rfl rfl)
theorem dX6_codesTold_81 : decode cX6_codesTold 81 = .ok (.iload_n 1, 1) := dk_27 (dk_at dksX6_codesTold_3 11 rfl rfl)
theorem dX6_codesTold_82 : decode cX6_codesTold 82 = .ok (.aload_n 0, 1) := dk_42 (dk_at dksX6_codesTold_3 12 rfl rfl)
theorem dX6_codesTold_83 : decode cX6_codesTold 83 = .ok (.getfield 357, 3) := dk_180 1 101 (dk_at dksX6_codesTold_3 13 rfl rfl)
theorem dX6_codesTold_86 : decode cX6_codesTold 86 = .ok (.iastore, 1) := dk_79 (dk_at dksX6_codesTold_3 16 rfl rfl)
theorem dX6_codesTold_87 : decode cX6_codesTold 87 = .ok (.iconst 0, 1) := dk_3 (dk_at dksX6_codesTold_3 17 rfl rfl)
theorem dX6_codesTold_88 : decode cX6_codesTold 88 = .ok (.istore_n 3, 1) := dk_62 (dk_at dksX6_codesTold_3 18 rfl rfl)
theorem dX6_codesTold_89 : decode cX6_codesTold 89 = .ok (.iload_n 3, 1) := dk_29 (dk_at dksX6_codesTold_3 19 rfl rfl)
theorem dX6_codesTold_90 : decode cX6_codesTold 90 = .ok (.aload_n 0, 1) := dk_42 (dk_at dksX6_codesTold_3 20 rfl rfl)
theorem dX6_codesTold_91 : decode cX6_codesTold 91 = .ok (.getfield 342, 3) := dk_180 1 86 (dk_at dksX6_codesTold_3 21 rfl rfl)
theorem dX6_codesTold_94 : decode cX6_codesTold 94 = .ok (.if_icmp .ge 34, 3) := dk_162 0 34 (dk_at dksX6_codesTold_4 0 rfl rfl)
theorem dX6_codesTold_97 : decode cX6_codesTold 97 = .ok (.aload_n 0, 1) := dk_42 (dk_at dksX6_codesTold_4 3 rfl rfl)
theorem dX6_codesTold_98 : decode cX6_codesTold 98 = .ok (.getfield 136, 3) := dk_180 0 136 (dk_at dksX6_codesTold_4 4 rfl rfl)
theorem dX6_codesTold_101 : decode cX6_codesTold 101 = .ok (.aload_n 0, 1) := dk_42 (dk_at dksX6_codesTold_4 7 rfl rfl)
theorem dX6_codesTold_102 : decode cX6_codesTold 102 = .ok (.getfield 357, 3) := dk_180 1 101 (dk_at dksX6_codesTold_4 8 rfl rfl)
theorem dX6_codesTold_105 : decode cX6_codesTold 105 = .ok (.aload_n 0, 1) := dk_42 (dk_at dksX6_codesTold_4 11 rfl rfl)
theorem dX6_codesTold_106 : decode cX6_codesTold 106 = .ok (.getfield 242, 3) := dk_180 0 242 (dk_at dksX6_codesTold_4 12 rfl rfl)
theorem dX6_codesTold_109 : decode cX6_codesTold 109 = .ok (.iload_n 3, 1) := dk_29 (dk_at dksX6_codesTold_4 15 rfl rfl)
theorem dX6_codesTold_110 : decode cX6_codesTold 110 = .ok (.iaload, 1) := dk_46 (dk_at dksX6_codesTold_4 16 rfl rfl)
theorem dX6_codesTold_111 : decode cX6_codesTold 111 = .ok (.iastore, 1) := dk_79 (dk_at dksX6_codesTold_4 17 rfl rfl)
theorem dX6_codesTold_112 : decode cX6_codesTold 112 = .ok (.aload_n 0, 1) := dk_42 (dk_at dksX6_codesTold_4 18 rfl rfl)
theorem dX6_codesTold_113 : decode cX6_codesTold 113 = .ok (.dup, 1) := dk_89 (dk_at dksX6_codesTold_4 19 rfl rfl)
theorem dX6_codesTold_114 : decode cX6_codesTold 114 = .ok (.getfield 357, 3) := dk_180 1 101 (dk_at dksX6_codesTold_4 20 rfl rfl)
theorem dX6_codesTold_117 : decode cX6_codesTold 117 = .ok (.iconst 1, 1) := dk_4 (dk_at dksX6_codesTold_4 23 rfl rfl)
theorem dX6_codesTold_118 : decode cX6_codesTold 118 = .ok (.iadd, 1) := dk_96 (dk_at dksX6_codesTold_5 0 rfl rfl)
theorem dX6_codesTold_119 : decode cX6_codesTold 119 = .ok (.putfield 357, 3) := dk_181 1 101 (dk_at dksX6_codesTold_5 1 rfl rfl)
theorem dX6_codesTold_122 : decode cX6_codesTold 122 = .ok (.iinc 3 1, 3) := dk_132 3 1 (dk_at dksX6_codesTold_5 4 rfl rfl)
theorem dX6_codesTold_125 : decode cX6_codesTold 125 = .ok (.goto (-36), 3) := dk_167 255 220 (dk_at dksX6_codesTold_5 7 rfl rfl)
theorem dX6_codesTold_128 : decode cX6_codesTold 128 = .ok (.aload_n 0, 1) := dk_42 (dk_at dksX6_codesTold_5 10 rfl rfl)
theorem dX6_codesTold_129 : decode cX6_codesTold 129 = .ok (.getfield 133, 3) := dk_180 0 133 (dk_at dksX6_codesTold_5 11 rfl rfl)
theorem dX6_codesTold_132 : decode cX6_codesTold 132 = .ok (.iload_n 1, 1) := dk_27 (dk_at dksX6_codesTold_5 14 rfl rfl)
theorem dX6_codesTold_133 : decode cX6_codesTold 133 = .ok (.aload_n 0, 1) := dk_42 (dk_at dksX6_codesTold_5 15 rfl rfl)
theorem dX6_codesTold_134 : decode cX6_codesTold 134 = .ok (.getfield 357, 3) := dk_180 1 101 (dk_at dksX6_codesTold_5 16 rfl rfl)
theorem dX6_codesTold_137 : decode cX6_codesTold 137 = .ok (.iastore, 1) := dk_79 (dk_at dksX6_codesTold_5 19 rfl rfl)
theorem dX6_codesTold_138 : decode cX6_codesTold 138 = .ok (.return_, 1) := dk_177 (dk_at dksX6_codesTold_5 20 rfl rfl)
abbrev cX6_qTest : ByteArray := prog_22_method_110_code
def yX6_qTest : MethodName := ⟨RX6, "qTest", "()V"⟩
def dkwX6_qTest_5 : List UInt8 := [180, 1, 89, 158, 0, 10, 42, 182, 2, 55, 167, 255, 238, 177]
abbrev dktX6_qTest_5 : List UInt8 := dkwX6_qTest_5 ++ []
def dkwX6_qTest_4 : List UInt8 := [42, 182, 2, 100, 153, 0, 7, 4, 167, 0, 4, 3, 60, 167, 255, 151, 42, 180, 1, 1, 154, 0, 17, 42]
abbrev dktX6_qTest_4 : List UInt8 := dkwX6_qTest_4 ++ dktX6_qTest_5
def dkwX6_qTest_3 : List UInt8 := [180, 0, 185, 182, 1, 74, 167, 255, 182, 42, 182, 2, 94, 42, 182, 2, 97, 42, 180, 1, 1, 154, 0, 14]
abbrev dktX6_qTest_3 : List UInt8 := dkwX6_qTest_3 ++ dktX6_qTest_4
def dkwX6_qTest_2 : List UInt8 := [42, 180, 0, 185, 182, 1, 24, 153, 0, 24, 42, 16, 12, 42, 180, 1, 7, 182, 2, 67, 42, 42]
abbrev dktX6_qTest_2 : List UInt8 := dkwX6_qTest_2 ++ dktX6_qTest_3
def dkwX6_qTest_1 : List UInt8 := [42, 16, 25, 42, 180, 1, 7, 182, 2, 67, 42, 89, 180, 1, 7, 4, 96, 181, 1, 7, 167, 255, 214, 42]
abbrev dktX6_qTest_1 : List UInt8 := dkwX6_qTest_1 ++ dktX6_qTest_2
def dkwX6_qTest_0 : List UInt8 := [4, 60, 27, 153, 0, 107, 42, 180, 1, 1, 154, 0, 100, 42, 182, 1, 13, 61, 28, 16, 91, 160, 0, 26]
abbrev dktX6_qTest_0 : List UInt8 := dkwX6_qTest_0 ++ dktX6_qTest_1
theorem dksX6_qTest_0 : cX6_qTest.data.toList.drop 0 = dktX6_qTest_0 := by decide +kernel
theorem dksX6_qTest_1 : cX6_qTest.data.toList.drop 24 = dktX6_qTest_1 := dk_seg dksX6_qTest_0 24 rfl rfl
theorem dksX6_qTest_2 : cX6_qTest.data.toList.drop 48 = dktX6_qTest_2 := dk_seg dksX6_qTest_1 24 rfl rfl
theorem dksX6_qTest_3 : cX6_qTest.data.toList.drop 70 = dktX6_qTest_3 := dk_seg dksX6_qTest_2 22 rfl rfl
theorem dksX6_qTest_4 : cX6_qTest.data.toList.drop 94 = dktX6_qTest_4 := dk_seg dksX6_qTest_3 24 rfl rfl
theorem dksX6_qTest_5 : cX6_qTest.data.toList.drop 118 = dktX6_qTest_5 := dk_seg dksX6_qTest_4 24 rfl rfl
theorem dX6_qTest_0 : decode cX6_qTest 0 = .ok (.iconst 1, 1) := dk_4 (dk_at dksX6_qTest_0 0 rfl rfl)
theorem dX6_qTest_1 : decode cX6_qTest 1 = .ok (.istore_n 1, 1) := dk_60 (dk_at dksX6_qTest_0 1 rfl rfl)
theorem dX6_qTest_2 : decode cX6_qTest 2 = .ok (.iload_n 1, 1) := dk_27 (dk_at dksX6_qTest_0 2 rfl rfl)
theorem dX6_qTest_3 : decode cX6_qTest 3 = .ok (.ifCond .eq 107, 3) := dk_153 0 107 (dk_at dksX6_qTest_0 3 rfl rfl)
theorem dX6_qTest_6 : decode cX6_qTest 6 = .ok (.aload_n 0, 1) := dk_42 (dk_at dksX6_qTest_0 6 rfl rfl)
theorem dX6_qTest_7 : decode cX6_qTest 7 = .ok (.getfield 257, 3) := dk_180 1 1 (dk_at dksX6_qTest_0 7 rfl rfl)
theorem dX6_qTest_10 : decode cX6_qTest 10 = .ok (.ifCond .ne 100, 3) := dk_154 0 100 (dk_at dksX6_qTest_0 10 rfl rfl)
theorem dX6_qTest_13 : decode cX6_qTest 13 = .ok (.aload_n 0, 1) := dk_42 (dk_at dksX6_qTest_0 13 rfl rfl)
theorem dX6_qTest_14 : decode cX6_qTest 14 = .ok (.invokevirtual 269, 3) := dk_182 1 13 (dk_at dksX6_qTest_0 14 rfl rfl)
theorem dX6_qTest_17 : decode cX6_qTest 17 = .ok (.istore_n 2, 1) := dk_61 (dk_at dksX6_qTest_0 17 rfl rfl)
theorem dX6_qTest_18 : decode cX6_qTest 18 = .ok (.iload_n 2, 1) := dk_28 (dk_at dksX6_qTest_0 18 rfl rfl)
theorem dX6_qTest_19 : decode cX6_qTest 19 = .ok (.bipush 91, 2) := dk_16 91 (dk_at dksX6_qTest_0 19 rfl rfl)
theorem dX6_qTest_21 : decode cX6_qTest 21 = .ok (.if_icmp .ne 26, 3) := dk_160 0 26 (dk_at dksX6_qTest_0 21 rfl rfl)
theorem dX6_qTest_24 : decode cX6_qTest 24 = .ok (.aload_n 0, 1) := dk_42 (dk_at dksX6_qTest_1 0 rfl rfl)
theorem dX6_qTest_25 : decode cX6_qTest 25 = .ok (.bipush 25, 2) := dk_16 25 (dk_at dksX6_qTest_1 1 rfl rfl)
theorem dX6_qTest_27 : decode cX6_qTest 27 = .ok (.aload_n 0, 1) := dk_42 (dk_at dksX6_qTest_1 3 rfl rfl)
theorem dX6_qTest_28 : decode cX6_qTest 28 = .ok (.getfield 263, 3) := dk_180 1 7 (dk_at dksX6_qTest_1 4 rfl rfl)
theorem dX6_qTest_31 : decode cX6_qTest 31 = .ok (.invokevirtual 579, 3) := dk_182 2 67 (dk_at dksX6_qTest_1 7 rfl rfl)
theorem dX6_qTest_34 : decode cX6_qTest 34 = .ok (.aload_n 0, 1) := dk_42 (dk_at dksX6_qTest_1 10 rfl rfl)
theorem dX6_qTest_35 : decode cX6_qTest 35 = .ok (.dup, 1) := dk_89 (dk_at dksX6_qTest_1 11 rfl rfl)
theorem dX6_qTest_36 : decode cX6_qTest 36 = .ok (.getfield 263, 3) := dk_180 1 7 (dk_at dksX6_qTest_1 12 rfl rfl)
theorem dX6_qTest_39 : decode cX6_qTest 39 = .ok (.iconst 1, 1) := dk_4 (dk_at dksX6_qTest_1 15 rfl rfl)
theorem dX6_qTest_40 : decode cX6_qTest 40 = .ok (.iadd, 1) := dk_96 (dk_at dksX6_qTest_1 16 rfl rfl)
theorem dX6_qTest_41 : decode cX6_qTest 41 = .ok (.putfield 263, 3) := dk_181 1 7 (dk_at dksX6_qTest_1 17 rfl rfl)
theorem dX6_qTest_44 : decode cX6_qTest 44 = .ok (.goto (-42), 3) := dk_167 255 214 (dk_at dksX6_qTest_1 20 rfl rfl)
theorem dX6_qTest_47 : decode cX6_qTest 47 = .ok (.aload_n 0, 1) := dk_42 (dk_at dksX6_qTest_1 23 rfl rfl)
theorem dX6_qTest_48 : decode cX6_qTest 48 = .ok (.aload_n 0, 1) := dk_42 (dk_at dksX6_qTest_2 0 rfl rfl)
theorem dX6_qTest_49 : decode cX6_qTest 49 = .ok (.getfield 185, 3) := dk_180 0 185 (dk_at dksX6_qTest_2 1 rfl rfl)
theorem dX6_qTest_52 : decode cX6_qTest 52 = .ok (.invokevirtual 280, 3) := dk_182 1 24 (dk_at dksX6_qTest_2 4 rfl rfl)
theorem dX6_qTest_55 : decode cX6_qTest 55 = .ok (.ifCond .eq 24, 3) := dk_153 0 24 (dk_at dksX6_qTest_2 7 rfl rfl)
theorem dX6_qTest_58 : decode cX6_qTest 58 = .ok (.aload_n 0, 1) := dk_42 (dk_at dksX6_qTest_2 10 rfl rfl)
theorem dX6_qTest_59 : decode cX6_qTest 59 = .ok (.bipush 12, 2) := dk_16 12 (dk_at dksX6_qTest_2 11 rfl rfl)
theorem dX6_qTest_61 : decode cX6_qTest 61 = .ok (.aload_n 0, 1) := dk_42 (dk_at dksX6_qTest_2 13 rfl rfl)
theorem dX6_qTest_62 : decode cX6_qTest 62 = .ok (.getfield 263, 3) := dk_180 1 7 (dk_at dksX6_qTest_2 14 rfl rfl)
theorem dX6_qTest_65 : decode cX6_qTest 65 = .ok (.invokevirtual 579, 3) := dk_182 2 67 (dk_at dksX6_qTest_2 17 rfl rfl)
theorem dX6_qTest_68 : decode cX6_qTest 68 = .ok (.aload_n 0, 1) := dk_42 (dk_at dksX6_qTest_2 20 rfl rfl)
theorem dX6_qTest_69 : decode cX6_qTest 69 = .ok (.aload_n 0, 1) := dk_42 (dk_at dksX6_qTest_2 21 rfl rfl)
theorem dX6_qTest_70 : decode cX6_qTest 70 = .ok (.getfield 185, 3) := dk_180 0 185 (dk_at dksX6_qTest_3 0 rfl rfl)
theorem dX6_qTest_73 : decode cX6_qTest 73 = .ok (.invokevirtual 330, 3) := dk_182 1 74 (dk_at dksX6_qTest_3 3 rfl rfl)
theorem dX6_qTest_76 : decode cX6_qTest 76 = .ok (.goto (-74), 3) := dk_167 255 182 (dk_at dksX6_qTest_3 6 rfl rfl)
theorem dX6_qTest_79 : decode cX6_qTest 79 = .ok (.aload_n 0, 1) := dk_42 (dk_at dksX6_qTest_3 9 rfl rfl)
theorem dX6_qTest_80 : decode cX6_qTest 80 = .ok (.invokevirtual 606, 3) := dk_182 2 94 (dk_at dksX6_qTest_3 10 rfl rfl)
theorem dX6_qTest_83 : decode cX6_qTest 83 = .ok (.aload_n 0, 1) := dk_42 (dk_at dksX6_qTest_3 13 rfl rfl)
theorem dX6_qTest_84 : decode cX6_qTest 84 = .ok (.invokevirtual 609, 3) := dk_182 2 97 (dk_at dksX6_qTest_3 14 rfl rfl)
theorem dX6_qTest_87 : decode cX6_qTest 87 = .ok (.aload_n 0, 1) := dk_42 (dk_at dksX6_qTest_3 17 rfl rfl)
theorem dX6_qTest_88 : decode cX6_qTest 88 = .ok (.getfield 257, 3) := dk_180 1 1 (dk_at dksX6_qTest_3 18 rfl rfl)
theorem dX6_qTest_91 : decode cX6_qTest 91 = .ok (.ifCond .ne 14, 3) := dk_154 0 14 (dk_at dksX6_qTest_3 21 rfl rfl)
theorem dX6_qTest_94 : decode cX6_qTest 94 = .ok (.aload_n 0, 1) := dk_42 (dk_at dksX6_qTest_4 0 rfl rfl)
theorem dX6_qTest_95 : decode cX6_qTest 95 = .ok (.invokevirtual 612, 3) := dk_182 2 100 (dk_at dksX6_qTest_4 1 rfl rfl)
theorem dX6_qTest_98 : decode cX6_qTest 98 = .ok (.ifCond .eq 7, 3) := dk_153 0 7 (dk_at dksX6_qTest_4 4 rfl rfl)
theorem dX6_qTest_101 : decode cX6_qTest 101 = .ok (.iconst 1, 1) := dk_4 (dk_at dksX6_qTest_4 7 rfl rfl)
theorem dX6_qTest_102 : decode cX6_qTest 102 = .ok (.goto 4, 3) := dk_167 0 4 (dk_at dksX6_qTest_4 8 rfl rfl)
theorem dX6_qTest_105 : decode cX6_qTest 105 = .ok (.iconst 0, 1) := dk_3 (dk_at dksX6_qTest_4 11 rfl rfl)
theorem dX6_qTest_106 : decode cX6_qTest 106 = .ok (.istore_n 1, 1) := dk_60 (dk_at dksX6_qTest_4 12 rfl rfl)
theorem dX6_qTest_107 : decode cX6_qTest 107 = .ok (.goto (-105), 3) := dk_167 255 151 (dk_at dksX6_qTest_4 13 rfl rfl)
theorem dX6_qTest_110 : decode cX6_qTest 110 = .ok (.aload_n 0, 1) := dk_42 (dk_at dksX6_qTest_4 16 rfl rfl)
theorem dX6_qTest_111 : decode cX6_qTest 111 = .ok (.getfield 257, 3) := dk_180 1 1 (dk_at dksX6_qTest_4 17 rfl rfl)
theorem dX6_qTest_114 : decode cX6_qTest 114 = .ok (.ifCond .ne 17, 3) := dk_154 0 17 (dk_at dksX6_qTest_4 20 rfl rfl)
theorem dX6_qTest_117 : decode cX6_qTest 117 = .ok (.aload_n 0, 1) := dk_42 (dk_at dksX6_qTest_4 23 rfl rfl)
theorem dX6_qTest_118 : decode cX6_qTest 118 = .ok (.getfield 345, 3) := dk_180 1 89 (dk_at dksX6_qTest_5 0 rfl rfl)
theorem dX6_qTest_121 : decode cX6_qTest 121 = .ok (.ifCond .le 10, 3) := dk_158 0 10 (dk_at dksX6_qTest_5 3 rfl rfl)
theorem dX6_qTest_124 : decode cX6_qTest 124 = .ok (.aload_n 0, 1) := dk_42 (dk_at dksX6_qTest_5 6 rfl rfl)
theorem dX6_qTest_125 : decode cX6_qTest 125 = .ok (.invokevirtual 567, 3) := dk_182 2 55 (dk_at dksX6_qTest_5 7 rfl rfl)
theorem dX6_qTest_128 : decode cX6_qTest 128 = .ok (.goto (-18), 3) := dk_167 255 238 (dk_at dksX6_qTest_5 10 rfl rfl)
theorem dX6_qTest_131 : decode cX6_qTest 131 = .ok (.return_, 1) := dk_177 (dk_at dksX6_qTest_5 13 rfl rfl)
abbrev cX6_qOpens : ByteArray := prog_22_method_94_code
def yX6_qOpens : MethodName := ⟨RX6, "qOpens", "(II)V"⟩
def dkwX6_qOpens_2 : List UInt8 := [180, 1, 89, 4, 96, 181, 1, 89, 177]
abbrev dktX6_qOpens_2 : List UInt8 := dkwX6_qOpens_2 ++ []
def dkwX6_qOpens_1 : List UInt8 := [42, 89, 180, 1, 92, 4, 96, 181, 1, 92, 42, 180, 0, 245, 42, 180, 1, 89, 27, 79, 42, 89]
abbrev dktX6_qOpens_1 : List UInt8 := dkwX6_qOpens_1 ++ dktX6_qOpens_2
def dkwX6_qOpens_0 : List UInt8 := [42, 180, 1, 1, 153, 0, 4, 177, 42, 180, 1, 92, 16, 6, 160, 0, 10, 42, 7, 28, 182, 1, 31, 177]
abbrev dktX6_qOpens_0 : List UInt8 := dkwX6_qOpens_0 ++ dktX6_qOpens_1
theorem dksX6_qOpens_0 : cX6_qOpens.data.toList.drop 0 = dktX6_qOpens_0 := by decide +kernel
theorem dksX6_qOpens_1 : cX6_qOpens.data.toList.drop 24 = dktX6_qOpens_1 := dk_seg dksX6_qOpens_0 24 rfl rfl
theorem dksX6_qOpens_2 : cX6_qOpens.data.toList.drop 46 = dktX6_qOpens_2 := dk_seg dksX6_qOpens_1 22 rfl rfl
theorem dX6_qOpens_0 : decode cX6_qOpens 0 = .ok (.aload_n 0, 1) := dk_42 (dk_at dksX6_qOpens_0 0 rfl rfl)
theorem dX6_qOpens_1 : decode cX6_qOpens 1 = .ok (.getfield 257, 3) := dk_180 1 1 (dk_at dksX6_qOpens_0 1 rfl rfl)
theorem dX6_qOpens_4 : decode cX6_qOpens 4 = .ok (.ifCond .eq 4, 3) := dk_153 0 4 (dk_at dksX6_qOpens_0 4 rfl rfl)
theorem dX6_qOpens_7 : decode cX6_qOpens 7 = .ok (.return_, 1) := dk_177 (dk_at dksX6_qOpens_0 7 rfl rfl)
theorem dX6_qOpens_8 : decode cX6_qOpens 8 = .ok (.aload_n 0, 1) := dk_42 (dk_at dksX6_qOpens_0 8 rfl rfl)
theorem dX6_qOpens_9 : decode cX6_qOpens 9 = .ok (.getfield 348, 3) := dk_180 1 92 (dk_at dksX6_qOpens_0 9 rfl rfl)
theorem dX6_qOpens_12 : decode cX6_qOpens 12 = .ok (.bipush 6, 2) := dk_16 6 (dk_at dksX6_qOpens_0 12 rfl rfl)
theorem dX6_qOpens_14 : decode cX6_qOpens 14 = .ok (.if_icmp .ne 10, 3) := dk_160 0 10 (dk_at dksX6_qOpens_0 14 rfl rfl)
theorem dX6_qOpens_17 : decode cX6_qOpens 17 = .ok (.aload_n 0, 1) := dk_42 (dk_at dksX6_qOpens_0 17 rfl rfl)
theorem dX6_qOpens_18 : decode cX6_qOpens 18 = .ok (.iconst 4, 1) := dk_7 (dk_at dksX6_qOpens_0 18 rfl rfl)
theorem dX6_qOpens_19 : decode cX6_qOpens 19 = .ok (.iload_n 2, 1) := dk_28 (dk_at dksX6_qOpens_0 19 rfl rfl)
theorem dX6_qOpens_20 : decode cX6_qOpens 20 = .ok (.invokevirtual 287, 3) := dk_182 1 31 (dk_at dksX6_qOpens_0 20 rfl rfl)
theorem dX6_qOpens_23 : decode cX6_qOpens 23 = .ok (.return_, 1) := dk_177 (dk_at dksX6_qOpens_0 23 rfl rfl)
theorem dX6_qOpens_24 : decode cX6_qOpens 24 = .ok (.aload_n 0, 1) := dk_42 (dk_at dksX6_qOpens_1 0 rfl rfl)
theorem dX6_qOpens_25 : decode cX6_qOpens 25 = .ok (.dup, 1) := dk_89 (dk_at dksX6_qOpens_1 1 rfl rfl)
theorem dX6_qOpens_26 : decode cX6_qOpens 26 = .ok (.getfield 348, 3) := dk_180 1 92 (dk_at dksX6_qOpens_1 2 rfl rfl)
theorem dX6_qOpens_29 : decode cX6_qOpens 29 = .ok (.iconst 1, 1) := dk_4 (dk_at dksX6_qOpens_1 5 rfl rfl)
theorem dX6_qOpens_30 : decode cX6_qOpens 30 = .ok (.iadd, 1) := dk_96 (dk_at dksX6_qOpens_1 6 rfl rfl)
theorem dX6_qOpens_31 : decode cX6_qOpens 31 = .ok (.putfield 348, 3) := dk_181 1 92 (dk_at dksX6_qOpens_1 7 rfl rfl)
theorem dX6_qOpens_34 : decode cX6_qOpens 34 = .ok (.aload_n 0, 1) := dk_42 (dk_at dksX6_qOpens_1 10 rfl rfl)
theorem dX6_qOpens_35 : decode cX6_qOpens 35 = .ok (.getfield 245, 3) := dk_180 0 245 (dk_at dksX6_qOpens_1 11 rfl rfl)
theorem dX6_qOpens_38 : decode cX6_qOpens 38 = .ok (.aload_n 0, 1) := dk_42 (dk_at dksX6_qOpens_1 14 rfl rfl)
theorem dX6_qOpens_39 : decode cX6_qOpens 39 = .ok (.getfield 345, 3) := dk_180 1 89 (dk_at dksX6_qOpens_1 15 rfl rfl)
theorem dX6_qOpens_42 : decode cX6_qOpens 42 = .ok (.iload_n 1, 1) := dk_27 (dk_at dksX6_qOpens_1 18 rfl rfl)
theorem dX6_qOpens_43 : decode cX6_qOpens 43 = .ok (.iastore, 1) := dk_79 (dk_at dksX6_qOpens_1 19 rfl rfl)
theorem dX6_qOpens_44 : decode cX6_qOpens 44 = .ok (.aload_n 0, 1) := dk_42 (dk_at dksX6_qOpens_1 20 rfl rfl)
theorem dX6_qOpens_45 : decode cX6_qOpens 45 = .ok (.dup, 1) := dk_89 (dk_at dksX6_qOpens_1 21 rfl rfl)
theorem dX6_qOpens_46 : decode cX6_qOpens 46 = .ok (.getfield 345, 3) := dk_180 1 89 (dk_at dksX6_qOpens_2 0 rfl rfl)
theorem dX6_qOpens_49 : decode cX6_qOpens 49 = .ok (.iconst 1, 1) := dk_4 (dk_at dksX6_qOpens_2 3 rfl rfl)
theorem dX6_qOpens_50 : decode cX6_qOpens 50 = .ok (.iadd, 1) := dk_96 (dk_at dksX6_qOpens_2 4 rfl rfl)
theorem dX6_qOpens_51 : decode cX6_qOpens 51 = .ok (.putfield 345, 3) := dk_181 1 89 (dk_at dksX6_qOpens_2 5 rfl rfl)
theorem dX6_qOpens_54 : decode cX6_qOpens 54 = .ok (.return_, 1) := dk_177 (dk_at dksX6_qOpens_2 8 rfl rfl)
abbrev cX6_qFact : ByteArray := prog_22_method_107_code
def yX6_qFact : MethodName := ⟨RX6, "qFact", "()V"⟩
def dkwX6_qFact_4 : List UInt8 := [160, 0, 8, 16, 8, 167, 0, 5, 16, 9, 182, 2, 49, 177]
abbrev dktX6_qFact_4 : List UInt8 := dkwX6_qFact_4 ++ []
def dkwX6_qFact_3 : List UInt8 := [181, 1, 7, 42, 182, 2, 91, 42, 27, 16, 60, 160, 0, 8, 16, 7, 167, 0, 16, 27, 16, 62]
abbrev dktX6_qFact_3 : List UInt8 := dkwX6_qFact_3 ++ dktX6_qFact_4
def dkwX6_qFact_2 : List UInt8 := [27, 16, 61, 159, 0, 13, 42, 4, 42, 180, 1, 7, 182, 1, 31, 177, 42, 89, 180, 1, 7, 4, 96]
abbrev dktX6_qFact_2 : List UInt8 := dkwX6_qFact_2 ++ dktX6_qFact_3
def dkwX6_qFact_1 : List UInt8 := [180, 1, 1, 153, 0, 4, 177, 42, 182, 1, 13, 60, 27, 16, 60, 159, 0, 25, 27, 16, 62, 159, 0, 19]
abbrev dktX6_qFact_1 : List UInt8 := dkwX6_qFact_1 ++ dktX6_qFact_2
def dkwX6_qFact_0 : List UInt8 := [42, 42, 180, 0, 194, 182, 1, 28, 153, 0, 10, 42, 16, 13, 182, 2, 49, 177, 42, 182, 2, 91, 42]
abbrev dktX6_qFact_0 : List UInt8 := dkwX6_qFact_0 ++ dktX6_qFact_1
theorem dksX6_qFact_0 : cX6_qFact.data.toList.drop 0 = dktX6_qFact_0 := by decide +kernel
theorem dksX6_qFact_1 : cX6_qFact.data.toList.drop 23 = dktX6_qFact_1 := dk_seg dksX6_qFact_0 23 rfl rfl
theorem dksX6_qFact_2 : cX6_qFact.data.toList.drop 47 = dktX6_qFact_2 := dk_seg dksX6_qFact_1 24 rfl rfl
theorem dksX6_qFact_3 : cX6_qFact.data.toList.drop 70 = dktX6_qFact_3 := dk_seg dksX6_qFact_2 23 rfl rfl
theorem dksX6_qFact_4 : cX6_qFact.data.toList.drop 92 = dktX6_qFact_4 := dk_seg dksX6_qFact_3 22 rfl rfl
theorem dX6_qFact_0 : decode cX6_qFact 0 = .ok (.aload_n 0, 1) := dk_42 (dk_at dksX6_qFact_0 0 rfl rfl)
theorem dX6_qFact_1 : decode cX6_qFact 1 = .ok (.aload_n 0, 1) := dk_42 (dk_at dksX6_qFact_0 1 rfl rfl)
theorem dX6_qFact_2 : decode cX6_qFact 2 = .ok (.getfield 194, 3) := dk_180 0 194 (dk_at dksX6_qFact_0 2 rfl rfl)
theorem dX6_qFact_5 : decode cX6_qFact 5 = .ok (.invokevirtual 284, 3) := dk_182 1 28 (dk_at dksX6_qFact_0 5 rfl rfl)
theorem dX6_qFact_8 : decode cX6_qFact 8 = .ok (.ifCond .eq 10, 3) := dk_153 0 10 (dk_at dksX6_qFact_0 8 rfl rfl)
theorem dX6_qFact_11 : decode cX6_qFact 11 = .ok (.aload_n 0, 1) := dk_42 (dk_at dksX6_qFact_0 11 rfl rfl)
theorem dX6_qFact_12 : decode cX6_qFact 12 = .ok (.bipush 13, 2) := dk_16 13 (dk_at dksX6_qFact_0 12 rfl rfl)
theorem dX6_qFact_14 : decode cX6_qFact 14 = .ok (.invokevirtual 561, 3) := dk_182 2 49 (dk_at dksX6_qFact_0 14 rfl rfl)
theorem dX6_qFact_17 : decode cX6_qFact 17 = .ok (.return_, 1) := dk_177 (dk_at dksX6_qFact_0 17 rfl rfl)
theorem dX6_qFact_18 : decode cX6_qFact 18 = .ok (.aload_n 0, 1) := dk_42 (dk_at dksX6_qFact_0 18 rfl rfl)
theorem dX6_qFact_19 : decode cX6_qFact 19 = .ok (.invokevirtual 603, 3) := dk_182 2 91 (dk_at dksX6_qFact_0 19 rfl rfl)
theorem dX6_qFact_22 : decode cX6_qFact 22 = .ok (.aload_n 0, 1) := dk_42 (dk_at dksX6_qFact_0 22 rfl rfl)
theorem dX6_qFact_23 : decode cX6_qFact 23 = .ok (.getfield 257, 3) := dk_180 1 1 (dk_at dksX6_qFact_1 0 rfl rfl)
theorem dX6_qFact_26 : decode cX6_qFact 26 = .ok (.ifCond .eq 4, 3) := dk_153 0 4 (dk_at dksX6_qFact_1 3 rfl rfl)
theorem dX6_qFact_29 : decode cX6_qFact 29 = .ok (.return_, 1) := dk_177 (dk_at dksX6_qFact_1 6 rfl rfl)
theorem dX6_qFact_30 : decode cX6_qFact 30 = .ok (.aload_n 0, 1) := dk_42 (dk_at dksX6_qFact_1 7 rfl rfl)
theorem dX6_qFact_31 : decode cX6_qFact 31 = .ok (.invokevirtual 269, 3) := dk_182 1 13 (dk_at dksX6_qFact_1 8 rfl rfl)
theorem dX6_qFact_34 : decode cX6_qFact 34 = .ok (.istore_n 1, 1) := dk_60 (dk_at dksX6_qFact_1 11 rfl rfl)
theorem dX6_qFact_35 : decode cX6_qFact 35 = .ok (.iload_n 1, 1) := dk_27 (dk_at dksX6_qFact_1 12 rfl rfl)
theorem dX6_qFact_36 : decode cX6_qFact 36 = .ok (.bipush 60, 2) := dk_16 60 (dk_at dksX6_qFact_1 13 rfl rfl)
theorem dX6_qFact_38 : decode cX6_qFact 38 = .ok (.if_icmp .eq 25, 3) := dk_159 0 25 (dk_at dksX6_qFact_1 15 rfl rfl)
theorem dX6_qFact_41 : decode cX6_qFact 41 = .ok (.iload_n 1, 1) := dk_27 (dk_at dksX6_qFact_1 18 rfl rfl)
theorem dX6_qFact_42 : decode cX6_qFact 42 = .ok (.bipush 62, 2) := dk_16 62 (dk_at dksX6_qFact_1 19 rfl rfl)
theorem dX6_qFact_44 : decode cX6_qFact 44 = .ok (.if_icmp .eq 19, 3) := dk_159 0 19 (dk_at dksX6_qFact_1 21 rfl rfl)
theorem dX6_qFact_47 : decode cX6_qFact 47 = .ok (.iload_n 1, 1) := dk_27 (dk_at dksX6_qFact_2 0 rfl rfl)
theorem dX6_qFact_48 : decode cX6_qFact 48 = .ok (.bipush 61, 2) := dk_16 61 (dk_at dksX6_qFact_2 1 rfl rfl)
theorem dX6_qFact_50 : decode cX6_qFact 50 = .ok (.if_icmp .eq 13, 3) := dk_159 0 13 (dk_at dksX6_qFact_2 3 rfl rfl)
theorem dX6_qFact_53 : decode cX6_qFact 53 = .ok (.aload_n 0, 1) := dk_42 (dk_at dksX6_qFact_2 6 rfl rfl)
theorem dX6_qFact_54 : decode cX6_qFact 54 = .ok (.iconst 1, 1) := dk_4 (dk_at dksX6_qFact_2 7 rfl rfl)
theorem dX6_qFact_55 : decode cX6_qFact 55 = .ok (.aload_n 0, 1) := dk_42 (dk_at dksX6_qFact_2 8 rfl rfl)
theorem dX6_qFact_56 : decode cX6_qFact 56 = .ok (.getfield 263, 3) := dk_180 1 7 (dk_at dksX6_qFact_2 9 rfl rfl)
theorem dX6_qFact_59 : decode cX6_qFact 59 = .ok (.invokevirtual 287, 3) := dk_182 1 31 (dk_at dksX6_qFact_2 12 rfl rfl)
theorem dX6_qFact_62 : decode cX6_qFact 62 = .ok (.return_, 1) := dk_177 (dk_at dksX6_qFact_2 15 rfl rfl)
theorem dX6_qFact_63 : decode cX6_qFact 63 = .ok (.aload_n 0, 1) := dk_42 (dk_at dksX6_qFact_2 16 rfl rfl)
theorem dX6_qFact_64 : decode cX6_qFact 64 = .ok (.dup, 1) := dk_89 (dk_at dksX6_qFact_2 17 rfl rfl)
theorem dX6_qFact_65 : decode cX6_qFact 65 = .ok (.getfield 263, 3) := dk_180 1 7 (dk_at dksX6_qFact_2 18 rfl rfl)
theorem dX6_qFact_68 : decode cX6_qFact 68 = .ok (.iconst 1, 1) := dk_4 (dk_at dksX6_qFact_2 21 rfl rfl)
theorem dX6_qFact_69 : decode cX6_qFact 69 = .ok (.iadd, 1) := dk_96 (dk_at dksX6_qFact_2 22 rfl rfl)
theorem dX6_qFact_70 : decode cX6_qFact 70 = .ok (.putfield 263, 3) := dk_181 1 7 (dk_at dksX6_qFact_3 0 rfl rfl)
theorem dX6_qFact_73 : decode cX6_qFact 73 = .ok (.aload_n 0, 1) := dk_42 (dk_at dksX6_qFact_3 3 rfl rfl)
theorem dX6_qFact_74 : decode cX6_qFact 74 = .ok (.invokevirtual 603, 3) := dk_182 2 91 (dk_at dksX6_qFact_3 4 rfl rfl)
theorem dX6_qFact_77 : decode cX6_qFact 77 = .ok (.aload_n 0, 1) := dk_42 (dk_at dksX6_qFact_3 7 rfl rfl)
theorem dX6_qFact_78 : decode cX6_qFact 78 = .ok (.iload_n 1, 1) := dk_27 (dk_at dksX6_qFact_3 8 rfl rfl)
theorem dX6_qFact_79 : decode cX6_qFact 79 = .ok (.bipush 60, 2) := dk_16 60 (dk_at dksX6_qFact_3 9 rfl rfl)
theorem dX6_qFact_81 : decode cX6_qFact 81 = .ok (.if_icmp .ne 8, 3) := dk_160 0 8 (dk_at dksX6_qFact_3 11 rfl rfl)
theorem dX6_qFact_84 : decode cX6_qFact 84 = .ok (.bipush 7, 2) := dk_16 7 (dk_at dksX6_qFact_3 14 rfl rfl)
theorem dX6_qFact_86 : decode cX6_qFact 86 = .ok (.goto 16, 3) := dk_167 0 16 (dk_at dksX6_qFact_3 16 rfl rfl)
theorem dX6_qFact_89 : decode cX6_qFact 89 = .ok (.iload_n 1, 1) := dk_27 (dk_at dksX6_qFact_3 19 rfl rfl)
theorem dX6_qFact_90 : decode cX6_qFact 90 = .ok (.bipush 62, 2) := dk_16 62 (dk_at dksX6_qFact_3 20 rfl rfl)
theorem dX6_qFact_92 : decode cX6_qFact 92 = .ok (.if_icmp .ne 8, 3) := dk_160 0 8 (dk_at dksX6_qFact_4 0 rfl rfl)
theorem dX6_qFact_95 : decode cX6_qFact 95 = .ok (.bipush 8, 2) := dk_16 8 (dk_at dksX6_qFact_4 3 rfl rfl)
theorem dX6_qFact_97 : decode cX6_qFact 97 = .ok (.goto 5, 3) := dk_167 0 5 (dk_at dksX6_qFact_4 5 rfl rfl)
theorem dX6_qFact_100 : decode cX6_qFact 100 = .ok (.bipush 9, 2) := dk_16 9 (dk_at dksX6_qFact_4 8 rfl rfl)
theorem dX6_qFact_102 : decode cX6_qFact 102 = .ok (.invokevirtual 561, 3) := dk_182 2 49 (dk_at dksX6_qFact_4 10 rfl rfl)
theorem dX6_qFact_105 : decode cX6_qFact 105 = .ok (.return_, 1) := dk_177 (dk_at dksX6_qFact_4 13 rfl rfl)
abbrev cX6_qCode : ByteArray := prog_22_method_93_code
def yX6_qCode : MethodName := ⟨RX6, "qCode", "(I)V"⟩
def dkwX6_qCode_0 : List UInt8 := [42, 180, 0, 242, 42, 180, 1, 86, 27, 79, 42, 89, 180, 1, 86, 4, 96, 181, 1, 86, 177]
abbrev dktX6_qCode_0 : List UInt8 := dkwX6_qCode_0 ++ []
theorem dksX6_qCode_0 : cX6_qCode.data.toList.drop 0 = dktX6_qCode_0 := by decide +kernel
theorem dX6_qCode_0 : decode cX6_qCode 0 = .ok (.aload_n 0, 1) := dk_42 (dk_at dksX6_qCode_0 0 rfl rfl)
theorem dX6_qCode_1 : decode cX6_qCode 1 = .ok (.getfield 242, 3) := dk_180 0 242 (dk_at dksX6_qCode_0 1 rfl rfl)
theorem dX6_qCode_4 : decode cX6_qCode 4 = .ok (.aload_n 0, 1) := dk_42 (dk_at dksX6_qCode_0 4 rfl rfl)
theorem dX6_qCode_5 : decode cX6_qCode 5 = .ok (.getfield 342, 3) := dk_180 1 86 (dk_at dksX6_qCode_0 5 rfl rfl)
theorem dX6_qCode_8 : decode cX6_qCode 8 = .ok (.iload_n 1, 1) := dk_27 (dk_at dksX6_qCode_0 8 rfl rfl)
theorem dX6_qCode_9 : decode cX6_qCode 9 = .ok (.iastore, 1) := dk_79 (dk_at dksX6_qCode_0 9 rfl rfl)
theorem dX6_qCode_10 : decode cX6_qCode 10 = .ok (.aload_n 0, 1) := dk_42 (dk_at dksX6_qCode_0 10 rfl rfl)
theorem dX6_qCode_11 : decode cX6_qCode 11 = .ok (.dup, 1) := dk_89 (dk_at dksX6_qCode_0 11 rfl rfl)
theorem dX6_qCode_12 : decode cX6_qCode 12 = .ok (.getfield 342, 3) := dk_180 1 86 (dk_at dksX6_qCode_0 12 rfl rfl)
theorem dX6_qCode_15 : decode cX6_qCode 15 = .ok (.iconst 1, 1) := dk_4 (dk_at dksX6_qCode_0 15 rfl rfl)
theorem dX6_qCode_16 : decode cX6_qCode 16 = .ok (.iadd, 1) := dk_96 (dk_at dksX6_qCode_0 16 rfl rfl)
theorem dX6_qCode_17 : decode cX6_qCode 17 = .ok (.putfield 342, 3) := dk_181 1 86 (dk_at dksX6_qCode_0 17 rfl rfl)
theorem dX6_qCode_20 : decode cX6_qCode 20 = .ok (.return_, 1) := dk_177 (dk_at dksX6_qCode_0 20 rfl rfl)
abbrev cX6_qSums : ByteArray := prog_22_method_106_code
def yX6_qSums : MethodName := ⟨RX6, "qSums", "()V"⟩
def dkwX6_qSums_3 : List UInt8 := [164, 0, 10, 42, 182, 2, 55, 167, 255, 234, 42, 27, 181, 1, 95, 177]
abbrev dktX6_qSums_3 : List UInt8 := dkwX6_qSums_3 ++ []
def dkwX6_qSums_2 : List UInt8 := [167, 0, 4, 3, 61, 167, 255, 221, 42, 180, 1, 1, 154, 0, 21, 42, 180, 1, 89, 42, 180, 1, 95]
abbrev dktX6_qSums_2 : List UInt8 := dkwX6_qSums_2 ++ dktX6_qSums_3
def dkwX6_qSums_1 : List UInt8 := [154, 0, 30, 42, 182, 2, 85, 42, 180, 1, 1, 154, 0, 14, 42, 182, 2, 88, 153, 0, 7, 4]
abbrev dktX6_qSums_1 : List UInt8 := dkwX6_qSums_1 ++ dktX6_qSums_2
def dkwX6_qSums_0 : List UInt8 := [42, 180, 1, 95, 60, 42, 42, 180, 1, 89, 181, 1, 95, 4, 61, 28, 153, 0, 37, 42, 180, 1, 1]
abbrev dktX6_qSums_0 : List UInt8 := dkwX6_qSums_0 ++ dktX6_qSums_1
theorem dksX6_qSums_0 : cX6_qSums.data.toList.drop 0 = dktX6_qSums_0 := by decide +kernel
theorem dksX6_qSums_1 : cX6_qSums.data.toList.drop 23 = dktX6_qSums_1 := dk_seg dksX6_qSums_0 23 rfl rfl
theorem dksX6_qSums_2 : cX6_qSums.data.toList.drop 45 = dktX6_qSums_2 := dk_seg dksX6_qSums_1 22 rfl rfl
theorem dksX6_qSums_3 : cX6_qSums.data.toList.drop 68 = dktX6_qSums_3 := dk_seg dksX6_qSums_2 23 rfl rfl
theorem dX6_qSums_0 : decode cX6_qSums 0 = .ok (.aload_n 0, 1) := dk_42 (dk_at dksX6_qSums_0 0 rfl rfl)
theorem dX6_qSums_1 : decode cX6_qSums 1 = .ok (.getfield 351, 3) := dk_180 1 95 (dk_at dksX6_qSums_0 1 rfl rfl)
theorem dX6_qSums_4 : decode cX6_qSums 4 = .ok (.istore_n 1, 1) := dk_60 (dk_at dksX6_qSums_0 4 rfl rfl)
theorem dX6_qSums_5 : decode cX6_qSums 5 = .ok (.aload_n 0, 1) := dk_42 (dk_at dksX6_qSums_0 5 rfl rfl)
theorem dX6_qSums_6 : decode cX6_qSums 6 = .ok (.aload_n 0, 1) := dk_42 (dk_at dksX6_qSums_0 6 rfl rfl)
theorem dX6_qSums_7 : decode cX6_qSums 7 = .ok (.getfield 345, 3) := dk_180 1 89 (dk_at dksX6_qSums_0 7 rfl rfl)
theorem dX6_qSums_10 : decode cX6_qSums 10 = .ok (.putfield 351, 3) := dk_181 1 95 (dk_at dksX6_qSums_0 10 rfl rfl)
theorem dX6_qSums_13 : decode cX6_qSums 13 = .ok (.iconst 1, 1) := dk_4 (dk_at dksX6_qSums_0 13 rfl rfl)
theorem dX6_qSums_14 : decode cX6_qSums 14 = .ok (.istore_n 2, 1) := dk_61 (dk_at dksX6_qSums_0 14 rfl rfl)
theorem dX6_qSums_15 : decode cX6_qSums 15 = .ok (.iload_n 2, 1) := dk_28 (dk_at dksX6_qSums_0 15 rfl rfl)
theorem dX6_qSums_16 : decode cX6_qSums 16 = .ok (.ifCond .eq 37, 3) := dk_153 0 37 (dk_at dksX6_qSums_0 16 rfl rfl)
theorem dX6_qSums_19 : decode cX6_qSums 19 = .ok (.aload_n 0, 1) := dk_42 (dk_at dksX6_qSums_0 19 rfl rfl)
theorem dX6_qSums_20 : decode cX6_qSums 20 = .ok (.getfield 257, 3) := dk_180 1 1 (dk_at dksX6_qSums_0 20 rfl rfl)
theorem dX6_qSums_23 : decode cX6_qSums 23 = .ok (.ifCond .ne 30, 3) := dk_154 0 30 (dk_at dksX6_qSums_1 0 rfl rfl)
theorem dX6_qSums_26 : decode cX6_qSums 26 = .ok (.aload_n 0, 1) := dk_42 (dk_at dksX6_qSums_1 3 rfl rfl)
theorem dX6_qSums_27 : decode cX6_qSums 27 = .ok (.invokevirtual 597, 3) := dk_182 2 85 (dk_at dksX6_qSums_1 4 rfl rfl)
theorem dX6_qSums_30 : decode cX6_qSums 30 = .ok (.aload_n 0, 1) := dk_42 (dk_at dksX6_qSums_1 7 rfl rfl)
theorem dX6_qSums_31 : decode cX6_qSums 31 = .ok (.getfield 257, 3) := dk_180 1 1 (dk_at dksX6_qSums_1 8 rfl rfl)
theorem dX6_qSums_34 : decode cX6_qSums 34 = .ok (.ifCond .ne 14, 3) := dk_154 0 14 (dk_at dksX6_qSums_1 11 rfl rfl)
theorem dX6_qSums_37 : decode cX6_qSums 37 = .ok (.aload_n 0, 1) := dk_42 (dk_at dksX6_qSums_1 14 rfl rfl)
theorem dX6_qSums_38 : decode cX6_qSums 38 = .ok (.invokevirtual 600, 3) := dk_182 2 88 (dk_at dksX6_qSums_1 15 rfl rfl)
theorem dX6_qSums_41 : decode cX6_qSums 41 = .ok (.ifCond .eq 7, 3) := dk_153 0 7 (dk_at dksX6_qSums_1 18 rfl rfl)
theorem dX6_qSums_44 : decode cX6_qSums 44 = .ok (.iconst 1, 1) := dk_4 (dk_at dksX6_qSums_1 21 rfl rfl)
theorem dX6_qSums_45 : decode cX6_qSums 45 = .ok (.goto 4, 3) := dk_167 0 4 (dk_at dksX6_qSums_2 0 rfl rfl)
theorem dX6_qSums_48 : decode cX6_qSums 48 = .ok (.iconst 0, 1) := dk_3 (dk_at dksX6_qSums_2 3 rfl rfl)
theorem dX6_qSums_49 : decode cX6_qSums 49 = .ok (.istore_n 2, 1) := dk_61 (dk_at dksX6_qSums_2 4 rfl rfl)
theorem dX6_qSums_50 : decode cX6_qSums 50 = .ok (.goto (-35), 3) := dk_167 255 221 (dk_at dksX6_qSums_2 5 rfl rfl)
theorem dX6_qSums_53 : decode cX6_qSums 53 = .ok (.aload_n 0, 1) := dk_42 (dk_at dksX6_qSums_2 8 rfl rfl)
theorem dX6_qSums_54 : decode cX6_qSums 54 = .ok (.getfield 257, 3) := dk_180 1 1 (dk_at dksX6_qSums_2 9 rfl rfl)
theorem dX6_qSums_57 : decode cX6_qSums 57 = .ok (.ifCond .ne 21, 3) := dk_154 0 21 (dk_at dksX6_qSums_2 12 rfl rfl)
theorem dX6_qSums_60 : decode cX6_qSums 60 = .ok (.aload_n 0, 1) := dk_42 (dk_at dksX6_qSums_2 15 rfl rfl)
theorem dX6_qSums_61 : decode cX6_qSums 61 = .ok (.getfield 345, 3) := dk_180 1 89 (dk_at dksX6_qSums_2 16 rfl rfl)
theorem dX6_qSums_64 : decode cX6_qSums 64 = .ok (.aload_n 0, 1) := dk_42 (dk_at dksX6_qSums_2 19 rfl rfl)
theorem dX6_qSums_65 : decode cX6_qSums 65 = .ok (.getfield 351, 3) := dk_180 1 95 (dk_at dksX6_qSums_2 20 rfl rfl)
theorem dX6_qSums_68 : decode cX6_qSums 68 = .ok (.if_icmp .le 10, 3) := dk_164 0 10 (dk_at dksX6_qSums_3 0 rfl rfl)
theorem dX6_qSums_71 : decode cX6_qSums 71 = .ok (.aload_n 0, 1) := dk_42 (dk_at dksX6_qSums_3 3 rfl rfl)
theorem dX6_qSums_72 : decode cX6_qSums 72 = .ok (.invokevirtual 567, 3) := dk_182 2 55 (dk_at dksX6_qSums_3 4 rfl rfl)
theorem dX6_qSums_75 : decode cX6_qSums 75 = .ok (.goto (-22), 3) := dk_167 255 234 (dk_at dksX6_qSums_3 7 rfl rfl)
theorem dX6_qSums_78 : decode cX6_qSums 78 = .ok (.aload_n 0, 1) := dk_42 (dk_at dksX6_qSums_3 10 rfl rfl)
theorem dX6_qSums_79 : decode cX6_qSums 79 = .ok (.iload_n 1, 1) := dk_27 (dk_at dksX6_qSums_3 11 rfl rfl)
theorem dX6_qSums_80 : decode cX6_qSums 80 = .ok (.putfield 351, 3) := dk_181 1 95 (dk_at dksX6_qSums_3 12 rfl rfl)
theorem dX6_qSums_83 : decode cX6_qSums 83 = .ok (.return_, 1) := dk_177 (dk_at dksX6_qSums_3 15 rfl rfl)
abbrev cX6_qPartTold : ByteArray := prog_22_method_104_code
def yX6_qPartTold : MethodName := ⟨RX6, "qPartTold", "()V"⟩
def dkwX6_qPartTold_10 : List UInt8 := [182, 1, 78, 96, 182, 2, 49, 42, 182, 2, 73, 177]
abbrev dktX6_qPartTold_10 : List UInt8 := dkwX6_qPartTold_10 ++ []
def dkwX6_qPartTold_9 : List UInt8 := [182, 2, 70, 42, 28, 2, 159, 0, 10, 16, 40, 28, 96, 167, 0, 15, 17, 3, 232, 42, 3, 17, 39, 15]
abbrev dktX6_qPartTold_9 : List UInt8 := dkwX6_qPartTold_9 ++ dktX6_qPartTold_10
def dkwX6_qPartTold_8 : List UInt8 := [180, 1, 1, 153, 0, 4, 177, 42, 3, 16, 12, 182, 2, 64, 61, 28, 2, 159, 0, 8, 42, 28]
abbrev dktX6_qPartTold_8 : List UInt8 := dkwX6_qPartTold_8 ++ dktX6_qPartTold_9
def dkwX6_qPartTold_7 : List UInt8 := [100, 42, 180, 1, 7, 182, 2, 67, 42, 29, 182, 2, 70, 167, 0, 5, 3, 60, 167, 255, 75, 42]
abbrev dktX6_qPartTold_7 : List UInt8 := dkwX6_qPartTold_7 ++ dktX6_qPartTold_8
def dkwX6_qPartTold_6 : List UInt8 := [182, 2, 67, 42, 16, 40, 182, 1, 124, 167, 0, 33, 29, 2, 159, 0, 26, 42, 16, 60, 29, 96, 16, 12]
abbrev dktX6_qPartTold_6 : List UInt8 := dkwX6_qPartTold_6 ++ dktX6_qPartTold_7
def dkwX6_qPartTold_5 : List UInt8 := [2, 54, 5, 21, 5, 2, 159, 0, 21, 42, 21, 4, 153, 0, 8, 16, 21, 167, 0, 5, 16, 22, 21, 5]
abbrev dktX6_qPartTold_5 : List UInt8 := dkwX6_qPartTold_5 ++ dktX6_qPartTold_6
def dkwX6_qPartTold_4 : List UInt8 := [42, 42, 180, 0, 200, 182, 1, 74, 42, 182, 1, 13, 16, 40, 160, 0, 10, 42, 180, 1, 7, 167, 0, 4]
abbrev dktX6_qPartTold_4 : List UInt8 := dkwX6_qPartTold_4 ++ dktX6_qPartTold_5
def dkwX6_qPartTold_3 : List UInt8 := [180, 0, 200, 182, 1, 24, 153, 0, 78, 42, 42, 180, 0, 197, 182, 1, 28, 54, 4, 21, 4, 154, 0, 11]
abbrev dktX6_qPartTold_3 : List UInt8 := dkwX6_qPartTold_3 ++ dktX6_qPartTold_4
def dkwX6_qPartTold_2 : List UInt8 := [180, 1, 7, 4, 96, 181, 1, 7, 167, 0, 130, 42, 42, 180, 0, 197, 182, 1, 24, 154, 0, 14, 42, 42]
abbrev dktX6_qPartTold_2 : List UInt8 := dkwX6_qPartTold_2 ++ dktX6_qPartTold_3
def dkwX6_qPartTold_1 : List UInt8 := [182, 2, 64, 62, 28, 16, 40, 160, 0, 26, 42, 16, 20, 42, 180, 1, 7, 182, 2, 67, 42, 89]
abbrev dktX6_qPartTold_1 : List UInt8 := dkwX6_qPartTold_1 ++ dktX6_qPartTold_2
def dkwX6_qPartTold_0 : List UInt8 := [4, 60, 27, 153, 0, 183, 42, 180, 1, 1, 154, 0, 176, 42, 182, 1, 13, 61, 42, 16, 12, 16, 13]
abbrev dktX6_qPartTold_0 : List UInt8 := dkwX6_qPartTold_0 ++ dktX6_qPartTold_1
theorem dksX6_qPartTold_0 : cX6_qPartTold.data.toList.drop 0 = dktX6_qPartTold_0 := by decide +kernel
theorem dksX6_qPartTold_1 : cX6_qPartTold.data.toList.drop 23 = dktX6_qPartTold_1 := dk_seg dksX6_qPartTold_0 23 rfl rfl
theorem dksX6_qPartTold_2 : cX6_qPartTold.data.toList.drop 45 = dktX6_qPartTold_2 := dk_seg dksX6_qPartTold_1 22 rfl rfl
theorem dksX6_qPartTold_3 : cX6_qPartTold.data.toList.drop 69 = dktX6_qPartTold_3 := dk_seg dksX6_qPartTold_2 24 rfl rfl
theorem dksX6_qPartTold_4 : cX6_qPartTold.data.toList.drop 93 = dktX6_qPartTold_4 := dk_seg dksX6_qPartTold_3 24 rfl rfl
theorem dksX6_qPartTold_5 : cX6_qPartTold.data.toList.drop 117 = dktX6_qPartTold_5 := dk_seg dksX6_qPartTold_4 24 rfl rfl
theorem dksX6_qPartTold_6 : cX6_qPartTold.data.toList.drop 141 = dktX6_qPartTold_6 := dk_seg dksX6_qPartTold_5 24 rfl rfl
theorem dksX6_qPartTold_7 : cX6_qPartTold.data.toList.drop 165 = dktX6_qPartTold_7 := dk_seg dksX6_qPartTold_6 24 rfl rfl
theorem dksX6_qPartTold_8 : cX6_qPartTold.data.toList.drop 187 = dktX6_qPartTold_8 := dk_seg dksX6_qPartTold_7 22 rfl rfl
theorem dksX6_qPartTold_9 : cX6_qPartTold.data.toList.drop 209 = dktX6_qPartTold_9 := dk_seg dksX6_qPartTold_8 22 rfl rfl
theorem dksX6_qPartTold_10 : cX6_qPartTold.data.toList.drop 233 = dktX6_qPartTold_10 := dk_seg dksX6_qPartTold_9 24 rfl rfl
theorem dX6_qPartTold_0 : decode cX6_qPartTold 0 = .ok (.iconst 1, 1) := dk_4 (dk_at dksX6_qPartTold_0 0 rfl rfl)
theorem dX6_qPartTold_1 : decode cX6_qPartTold 1 = .ok (.istore_n 1, 1) := dk_60 (dk_at dksX6_qPartTold_0 1 rfl rfl)
theorem dX6_qPartTold_2 : decode cX6_qPartTold 2 = .ok (.iload_n 1, 1) := dk_27 (dk_at dksX6_qPartTold_0 2 rfl rfl)
theorem dX6_qPartTold_3 : decode cX6_qPartTold 3 = .ok (.ifCond .eq 183, 3) := dk_153 0 183 (dk_at dksX6_qPartTold_0 3 rfl rfl)
theorem dX6_qPartTold_6 : decode cX6_qPartTold 6 = .ok (.aload_n 0, 1) := dk_42 (dk_at dksX6_qPartTold_0 6 rfl rfl)
theorem dX6_qPartTold_7 : decode cX6_qPartTold 7 = .ok (.getfield 257, 3) := dk_180 1 1 (dk_at dksX6_qPartTold_0 7 rfl rfl)
theorem dX6_qPartTold_10 : decode cX6_qPartTold 10 = .ok (.ifCond .ne 176, 3) := dk_154 0 176 (dk_at dksX6_qPartTold_0 10 rfl rfl)
theorem dX6_qPartTold_13 : decode cX6_qPartTold 13 = .ok (.aload_n 0, 1) := dk_42 (dk_at dksX6_qPartTold_0 13 rfl rfl)
theorem dX6_qPartTold_14 : decode cX6_qPartTold 14 = .ok (.invokevirtual 269, 3) := dk_182 1 13 (dk_at dksX6_qPartTold_0 14 rfl rfl)
theorem dX6_qPartTold_17 : decode cX6_qPartTold 17 = .ok (.istore_n 2, 1) := dk_61 (dk_at dksX6_qPartTold_0 17 rfl rfl)
theorem dX6_qPartTold_18 : decode cX6_qPartTold 18 = .ok (.aload_n 0, 1) := dk_42 (dk_at dksX6_qPartTold_0 18 rfl rfl)
theorem dX6_qPartTold_19 : decode cX6_qPartTold 19 = .ok (.bipush 12, 2) := dk_16 12 (dk_at dksX6_qPartTold_0 19 rfl rfl)
theorem dX6_qPartTold_21 : decode cX6_qPartTold 21 = .ok (.bipush 13, 2) := dk_16 13 (dk_at dksX6_qPartTold_0 21 rfl rfl)
theorem dX6_qPartTold_23 : decode cX6_qPartTold 23 = .ok (.invokevirtual 576, 3) := dk_182 2 64 (dk_at dksX6_qPartTold_1 0 rfl rfl)
theorem dX6_qPartTold_26 : decode cX6_qPartTold 26 = .ok (.istore_n 3, 1) := dk_62 (dk_at dksX6_qPartTold_1 3 rfl rfl)
theorem dX6_qPartTold_27 : decode cX6_qPartTold 27 = .ok (.iload_n 2, 1) := dk_28 (dk_at dksX6_qPartTold_1 4 rfl rfl)
theorem dX6_qPartTold_28 : decode cX6_qPartTold 28 = .ok (.bipush 40, 2) := dk_16 40 (dk_at dksX6_qPartTold_1 5 rfl rfl)
theorem dX6_qPartTold_30 : decode cX6_qPartTold 30 = .ok (.if_icmp .ne 26, 3) := dk_160 0 26 (dk_at dksX6_qPartTold_1 7 rfl rfl)
theorem dX6_qPartTold_33 : decode cX6_qPartTold 33 = .ok (.aload_n 0, 1) := dk_42 (dk_at dksX6_qPartTold_1 10 rfl rfl)
theorem dX6_qPartTold_34 : decode cX6_qPartTold 34 = .ok (.bipush 20, 2) := dk_16 20 (dk_at dksX6_qPartTold_1 11 rfl rfl)
theorem dX6_qPartTold_36 : decode cX6_qPartTold 36 = .ok (.aload_n 0, 1) := dk_42 (dk_at dksX6_qPartTold_1 13 rfl rfl)
theorem dX6_qPartTold_37 : decode cX6_qPartTold 37 = .ok (.getfield 263, 3) := dk_180 1 7 (dk_at dksX6_qPartTold_1 14 rfl rfl)
theorem dX6_qPartTold_40 : decode cX6_qPartTold 40 = .ok (.invokevirtual 579, 3) := dk_182 2 67 (dk_at dksX6_qPartTold_1 17 rfl rfl)
theorem dX6_qPartTold_43 : decode cX6_qPartTold 43 = .ok (.aload_n 0, 1) := dk_42 (dk_at dksX6_qPartTold_1 20 rfl rfl)
theorem dX6_qPartTold_44 : decode cX6_qPartTold 44 = .ok (.dup, 1) := dk_89 (dk_at dksX6_qPartTold_1 21 rfl rfl)
theorem dX6_qPartTold_45 : decode cX6_qPartTold 45 = .ok (.getfield 263, 3) := dk_180 1 7 (dk_at dksX6_qPartTold_2 0 rfl rfl)
theorem dX6_qPartTold_48 : decode cX6_qPartTold 48 = .ok (.iconst 1, 1) := dk_4 (dk_at dksX6_qPartTold_2 3 rfl rfl)
theorem dX6_qPartTold_49 : decode cX6_qPartTold 49 = .ok (.iadd, 1) := dk_96 (dk_at dksX6_qPartTold_2 4 rfl rfl)
theorem dX6_qPartTold_50 : decode cX6_qPartTold 50 = .ok (.putfield 263, 3) := dk_181 1 7 (dk_at dksX6_qPartTold_2 5 rfl rfl)
theorem dX6_qPartTold_53 : decode cX6_qPartTold 53 = .ok (.goto 130, 3) := dk_167 0 130 (dk_at dksX6_qPartTold_2 8 rfl rfl)
theorem dX6_qPartTold_56 : decode cX6_qPartTold 56 = .ok (.aload_n 0, 1) := dk_42 (dk_at dksX6_qPartTold_2 11 rfl rfl)
theorem dX6_qPartTold_57 : decode cX6_qPartTold 57 = .ok (.aload_n 0, 1) := dk_42 (dk_at dksX6_qPartTold_2 12 rfl rfl)
theorem dX6_qPartTold_58 : decode cX6_qPartTold 58 = .ok (.getfield 197, 3) := dk_180 0 197 (dk_at dksX6_qPartTold_2 13 rfl rfl)
theorem dX6_qPartTold_61 : decode cX6_qPartTold 61 = .ok (.invokevirtual 280, 3) := dk_182 1 24 (dk_at dksX6_qPartTold_2 16 rfl rfl)
theorem dX6_qPartTold_64 : decode cX6_qPartTold 64 = .ok (.ifCond .ne 14, 3) := dk_154 0 14 (dk_at dksX6_qPartTold_2 19 rfl rfl)
theorem dX6_qPartTold_67 : decode cX6_qPartTold 67 = .ok (.aload_n 0, 1) := dk_42 (dk_at dksX6_qPartTold_2 22 rfl rfl)
theorem dX6_qPartTold_68 : decode cX6_qPartTold 68 = .ok (.aload_n 0, 1) := dk_42 (dk_at dksX6_qPartTold_2 23 rfl rfl)
theorem dX6_qPartTold_69 : decode cX6_qPartTold 69 = .ok (.getfield 200, 3) := dk_180 0 200 (dk_at dksX6_qPartTold_3 0 rfl rfl)
theorem dX6_qPartTold_72 : decode cX6_qPartTold 72 = .ok (.invokevirtual 280, 3) := dk_182 1 24 (dk_at dksX6_qPartTold_3 3 rfl rfl)
theorem dX6_qPartTold_75 : decode cX6_qPartTold 75 = .ok (.ifCond .eq 78, 3) := dk_153 0 78 (dk_at dksX6_qPartTold_3 6 rfl rfl)
theorem dX6_qPartTold_78 : decode cX6_qPartTold 78 = .ok (.aload_n 0, 1) := dk_42 (dk_at dksX6_qPartTold_3 9 rfl rfl)
theorem dX6_qPartTold_79 : decode cX6_qPartTold 79 = .ok (.aload_n 0, 1) := dk_42 (dk_at dksX6_qPartTold_3 10 rfl rfl)
theorem dX6_qPartTold_80 : decode cX6_qPartTold 80 = .ok (.getfield 197, 3) := dk_180 0 197 (dk_at dksX6_qPartTold_3 11 rfl rfl)
theorem dX6_qPartTold_83 : decode cX6_qPartTold 83 = .ok (.invokevirtual 284, 3) := dk_182 1 28 (dk_at dksX6_qPartTold_3 14 rfl rfl)
theorem dX6_qPartTold_86 : decode cX6_qPartTold 86 = .ok (.istore 4, 2) := dk_54 4 (dk_at dksX6_qPartTold_3 17 rfl rfl)
theorem dX6_qPartTold_88 : decode cX6_qPartTold 88 = .ok (.iload 4, 2) := dk_21 4 (dk_at dksX6_qPartTold_3 19 rfl rfl)
theorem dX6_qPartTold_90 : decode cX6_qPartTold 90 = .ok (.ifCond .ne 11, 3) := dk_154 0 11 (dk_at dksX6_qPartTold_3 21 rfl rfl)
theorem dX6_qPartTold_93 : decode cX6_qPartTold 93 = .ok (.aload_n 0, 1) := dk_42 (dk_at dksX6_qPartTold_4 0 rfl rfl)
theorem dX6_qPartTold_94 : decode cX6_qPartTold 94 = .ok (.aload_n 0, 1) := dk_42 (dk_at dksX6_qPartTold_4 1 rfl rfl)
theorem dX6_qPartTold_95 : decode cX6_qPartTold 95 = .ok (.getfield 200, 3) := dk_180 0 200 (dk_at dksX6_qPartTold_4 2 rfl rfl)
theorem dX6_qPartTold_98 : decode cX6_qPartTold 98 = .ok (.invokevirtual 330, 3) := dk_182 1 74 (dk_at dksX6_qPartTold_4 5 rfl rfl)
theorem dX6_qPartTold_101 : decode cX6_qPartTold 101 = .ok (.aload_n 0, 1) := dk_42 (dk_at dksX6_qPartTold_4 8 rfl rfl)
theorem dX6_qPartTold_102 : decode cX6_qPartTold 102 = .ok (.invokevirtual 269, 3) := dk_182 1 13 (dk_at dksX6_qPartTold_4 9 rfl rfl)
theorem dX6_qPartTold_105 : decode cX6_qPartTold 105 = .ok (.bipush 40, 2) := dk_16 40 (dk_at dksX6_qPartTold_4 12 rfl rfl)
theorem dX6_qPartTold_107 : decode cX6_qPartTold 107 = .ok (.if_icmp .ne 10, 3) := dk_160 0 10 (dk_at dksX6_qPartTold_4 14 rfl rfl)
theorem dX6_qPartTold_110 : decode cX6_qPartTold 110 = .ok (.aload_n 0, 1) := dk_42 (dk_at dksX6_qPartTold_4 17 rfl rfl)
theorem dX6_qPartTold_111 : decode cX6_qPartTold 111 = .ok (.getfield 263, 3) := dk_180 1 7 (dk_at dksX6_qPartTold_4 18 rfl rfl)
theorem dX6_qPartTold_114 : decode cX6_qPartTold 114 = .ok (.goto 4, 3) := dk_167 0 4 (dk_at dksX6_qPartTold_4 21 rfl rfl)
theorem dX6_qPartTold_117 : decode cX6_qPartTold 117 = .ok (.iconst (-1), 1) := dk_2 (dk_at dksX6_qPartTold_5 0 rfl rfl)
theorem dX6_qPartTold_118 : decode cX6_qPartTold 118 = .ok (.istore 5, 2) := dk_54 5 (dk_at dksX6_qPartTold_5 1 rfl rfl)
theorem dX6_qPartTold_120 : decode cX6_qPartTold 120 = .ok (.iload 5, 2) := dk_21 5 (dk_at dksX6_qPartTold_5 3 rfl rfl)
theorem dX6_qPartTold_122 : decode cX6_qPartTold 122 = .ok (.iconst (-1), 1) := dk_2 (dk_at dksX6_qPartTold_5 5 rfl rfl)
theorem dX6_qPartTold_123 : decode cX6_qPartTold 123 = .ok (.if_icmp .eq 21, 3) := dk_159 0 21 (dk_at dksX6_qPartTold_5 6 rfl rfl)
theorem dX6_qPartTold_126 : decode cX6_qPartTold 126 = .ok (.aload_n 0, 1) := dk_42 (dk_at dksX6_qPartTold_5 9 rfl rfl)
theorem dX6_qPartTold_127 : decode cX6_qPartTold 127 = .ok (.iload 4, 2) := dk_21 4 (dk_at dksX6_qPartTold_5 10 rfl rfl)
theorem dX6_qPartTold_129 : decode cX6_qPartTold 129 = .ok (.ifCond .eq 8, 3) := dk_153 0 8 (dk_at dksX6_qPartTold_5 12 rfl rfl)
theorem dX6_qPartTold_132 : decode cX6_qPartTold 132 = .ok (.bipush 21, 2) := dk_16 21 (dk_at dksX6_qPartTold_5 15 rfl rfl)
theorem dX6_qPartTold_134 : decode cX6_qPartTold 134 = .ok (.goto 5, 3) := dk_167 0 5 (dk_at dksX6_qPartTold_5 17 rfl rfl)
theorem dX6_qPartTold_137 : decode cX6_qPartTold 137 = .ok (.bipush 22, 2) := dk_16 22 (dk_at dksX6_qPartTold_5 20 rfl rfl)
theorem dX6_qPartTold_139 : decode cX6_qPartTold 139 = .ok (.iload 5, 2) := dk_21 5 (dk_at dksX6_qPartTold_5 22 rfl rfl)
theorem dX6_qPartTold_141 : decode cX6_qPartTold 141 = .ok (.invokevirtual 579, 3) := dk_182 2 67 (dk_at dksX6_qPartTold_6 0 rfl rfl)
theorem dX6_qPartTold_144 : decode cX6_qPartTold 144 = .ok (.aload_n 0, 1) := dk_42 (dk_at dksX6_qPartTold_6 3 rfl rfl)
theorem dX6_qPartTold_145 : decode cX6_qPartTold 145 = .ok (.bipush 40, 2) := dk_16 40 (dk_at dksX6_qPartTold_6 4 rfl rfl)
theorem dX6_qPartTold_147 : decode cX6_qPartTold 147 = .ok (.invokevirtual 380, 3) := dk_182 1 124 (dk_at dksX6_qPartTold_6 6 rfl rfl)
theorem dX6_qPartTold_150 : decode cX6_qPartTold 150 = .ok (.goto 33, 3) := dk_167 0 33 (dk_at dksX6_qPartTold_6 9 rfl rfl)
theorem dX6_qPartTold_153 : decode cX6_qPartTold 153 = .ok (.iload_n 3, 1) := dk_29 (dk_at dksX6_qPartTold_6 12 rfl rfl)
theorem dX6_qPartTold_154 : decode cX6_qPartTold 154 = .ok (.iconst (-1), 1) := dk_2 (dk_at dksX6_qPartTold_6 13 rfl rfl)
theorem dX6_qPartTold_155 : decode cX6_qPartTold 155 = .ok (.if_icmp .eq 26, 3) := dk_159 0 26 (dk_at dksX6_qPartTold_6 14 rfl rfl)
theorem dX6_qPartTold_158 : decode cX6_qPartTold 158 = .ok (.aload_n 0, 1) := dk_42 (dk_at dksX6_qPartTold_6 17 rfl rfl)
theorem dX6_qPartTold_159 : decode cX6_qPartTold 159 = .ok (.bipush 60, 2) := dk_16 60 (dk_at dksX6_qPartTold_6 18 rfl rfl)
theorem dX6_qPartTold_161 : decode cX6_qPartTold 161 = .ok (.iload_n 3, 1) := dk_29 (dk_at dksX6_qPartTold_6 20 rfl rfl)
theorem dX6_qPartTold_162 : decode cX6_qPartTold 162 = .ok (.iadd, 1) := dk_96 (dk_at dksX6_qPartTold_6 21 rfl rfl)
theorem dX6_qPartTold_163 : decode cX6_qPartTold 163 = .ok (.bipush 12, 2) := dk_16 12 (dk_at dksX6_qPartTold_6 22 rfl rfl)
theorem dX6_qPartTold_165 : decode cX6_qPartTold 165 = .ok (.isub, 1) := dk_100 (dk_at dksX6_qPartTold_7 0 rfl rfl)
theorem dX6_qPartTold_166 : decode cX6_qPartTold 166 = .ok (.aload_n 0, 1) := dk_42 (dk_at dksX6_qPartTold_7 1 rfl rfl)
theorem dX6_qPartTold_167 : decode cX6_qPartTold 167 = .ok (.getfield 263, 3) := dk_180 1 7 (dk_at dksX6_qPartTold_7 2 rfl rfl)
theorem dX6_qPartTold_170 : decode cX6_qPartTold 170 = .ok (.invokevirtual 579, 3) := dk_182 2 67 (dk_at dksX6_qPartTold_7 5 rfl rfl)
theorem dX6_qPartTold_173 : decode cX6_qPartTold 173 = .ok (.aload_n 0, 1) := dk_42 (dk_at dksX6_qPartTold_7 8 rfl rfl)
theorem dX6_qPartTold_174 : decode cX6_qPartTold 174 = .ok (.iload_n 3, 1) := dk_29 (dk_at dksX6_qPartTold_7 9 rfl rfl)
theorem dX6_qPartTold_175 : decode cX6_qPartTold 175 = .ok (.invokevirtual 582, 3) := dk_182 2 70 (dk_at dksX6_qPartTold_7 10 rfl rfl)
theorem dX6_qPartTold_178 : decode cX6_qPartTold 178 = .ok (.goto 5, 3) := dk_167 0 5 (dk_at dksX6_qPartTold_7 13 rfl rfl)
theorem dX6_qPartTold_181 : decode cX6_qPartTold 181 = .ok (.iconst 0, 1) := dk_3 (dk_at dksX6_qPartTold_7 16 rfl rfl)
theorem dX6_qPartTold_182 : decode cX6_qPartTold 182 = .ok (.istore_n 1, 1) := dk_60 (dk_at dksX6_qPartTold_7 17 rfl rfl)
theorem dX6_qPartTold_183 : decode cX6_qPartTold 183 = .ok (.goto (-181), 3) := dk_167 255 75 (dk_at dksX6_qPartTold_7 18 rfl rfl)
theorem dX6_qPartTold_186 : decode cX6_qPartTold 186 = .ok (.aload_n 0, 1) := dk_42 (dk_at dksX6_qPartTold_7 21 rfl rfl)
theorem dX6_qPartTold_187 : decode cX6_qPartTold 187 = .ok (.getfield 257, 3) := dk_180 1 1 (dk_at dksX6_qPartTold_8 0 rfl rfl)
theorem dX6_qPartTold_190 : decode cX6_qPartTold 190 = .ok (.ifCond .eq 4, 3) := dk_153 0 4 (dk_at dksX6_qPartTold_8 3 rfl rfl)
theorem dX6_qPartTold_193 : decode cX6_qPartTold 193 = .ok (.return_, 1) := dk_177 (dk_at dksX6_qPartTold_8 6 rfl rfl)
theorem dX6_qPartTold_194 : decode cX6_qPartTold 194 = .ok (.aload_n 0, 1) := dk_42 (dk_at dksX6_qPartTold_8 7 rfl rfl)
theorem dX6_qPartTold_195 : decode cX6_qPartTold 195 = .ok (.iconst 0, 1) := dk_3 (dk_at dksX6_qPartTold_8 8 rfl rfl)
theorem dX6_qPartTold_196 : decode cX6_qPartTold 196 = .ok (.bipush 12, 2) := dk_16 12 (dk_at dksX6_qPartTold_8 9 rfl rfl)
theorem dX6_qPartTold_198 : decode cX6_qPartTold 198 = .ok (.invokevirtual 576, 3) := dk_182 2 64 (dk_at dksX6_qPartTold_8 11 rfl rfl)
theorem dX6_qPartTold_201 : decode cX6_qPartTold 201 = .ok (.istore_n 2, 1) := dk_61 (dk_at dksX6_qPartTold_8 14 rfl rfl)
theorem dX6_qPartTold_202 : decode cX6_qPartTold 202 = .ok (.iload_n 2, 1) := dk_28 (dk_at dksX6_qPartTold_8 15 rfl rfl)
theorem dX6_qPartTold_203 : decode cX6_qPartTold 203 = .ok (.iconst (-1), 1) := dk_2 (dk_at dksX6_qPartTold_8 16 rfl rfl)
theorem dX6_qPartTold_204 : decode cX6_qPartTold 204 = .ok (.if_icmp .eq 8, 3) := dk_159 0 8 (dk_at dksX6_qPartTold_8 17 rfl rfl)
theorem dX6_qPartTold_207 : decode cX6_qPartTold 207 = .ok (.aload_n 0, 1) := dk_42 (dk_at dksX6_qPartTold_8 20 rfl rfl)
theorem dX6_qPartTold_208 : decode cX6_qPartTold 208 = .ok (.iload_n 2, 1) := dk_28 (dk_at dksX6_qPartTold_8 21 rfl rfl)
theorem dX6_qPartTold_209 : decode cX6_qPartTold 209 = .ok (.invokevirtual 582, 3) := dk_182 2 70 (dk_at dksX6_qPartTold_9 0 rfl rfl)
theorem dX6_qPartTold_212 : decode cX6_qPartTold 212 = .ok (.aload_n 0, 1) := dk_42 (dk_at dksX6_qPartTold_9 3 rfl rfl)
theorem dX6_qPartTold_213 : decode cX6_qPartTold 213 = .ok (.iload_n 2, 1) := dk_28 (dk_at dksX6_qPartTold_9 4 rfl rfl)
theorem dX6_qPartTold_214 : decode cX6_qPartTold 214 = .ok (.iconst (-1), 1) := dk_2 (dk_at dksX6_qPartTold_9 5 rfl rfl)
theorem dX6_qPartTold_215 : decode cX6_qPartTold 215 = .ok (.if_icmp .eq 10, 3) := dk_159 0 10 (dk_at dksX6_qPartTold_9 6 rfl rfl)
theorem dX6_qPartTold_218 : decode cX6_qPartTold 218 = .ok (.bipush 40, 2) := dk_16 40 (dk_at dksX6_qPartTold_9 9 rfl rfl)
theorem dX6_qPartTold_220 : decode cX6_qPartTold 220 = .ok (.iload_n 2, 1) := dk_28 (dk_at dksX6_qPartTold_9 11 rfl rfl)
theorem dX6_qPartTold_221 : decode cX6_qPartTold 221 = .ok (.iadd, 1) := dk_96 (dk_at dksX6_qPartTold_9 12 rfl rfl)
theorem dX6_qPartTold_222 : decode cX6_qPartTold 222 = .ok (.goto 15, 3) := dk_167 0 15 (dk_at dksX6_qPartTold_9 13 rfl rfl)
theorem dX6_qPartTold_225 : decode cX6_qPartTold 225 = .ok (.sipush 1000, 3) := dk_17 3 232 (dk_at dksX6_qPartTold_9 16 rfl rfl)
theorem dX6_qPartTold_228 : decode cX6_qPartTold 228 = .ok (.aload_n 0, 1) := dk_42 (dk_at dksX6_qPartTold_9 19 rfl rfl)
theorem dX6_qPartTold_229 : decode cX6_qPartTold 229 = .ok (.iconst 0, 1) := dk_3 (dk_at dksX6_qPartTold_9 20 rfl rfl)
theorem dX6_qPartTold_230 : decode cX6_qPartTold 230 = .ok (.sipush 9999, 3) := dk_17 39 15 (dk_at dksX6_qPartTold_9 21 rfl rfl)
theorem dX6_qPartTold_233 : decode cX6_qPartTold 233 = .ok (.invokevirtual 334, 3) := dk_182 1 78 (dk_at dksX6_qPartTold_10 0 rfl rfl)
theorem dX6_qPartTold_236 : decode cX6_qPartTold 236 = .ok (.iadd, 1) := dk_96 (dk_at dksX6_qPartTold_10 3 rfl rfl)
theorem dX6_qPartTold_237 : decode cX6_qPartTold 237 = .ok (.invokevirtual 561, 3) := dk_182 2 49 (dk_at dksX6_qPartTold_10 4 rfl rfl)
theorem dX6_qPartTold_240 : decode cX6_qPartTold 240 = .ok (.aload_n 0, 1) := dk_42 (dk_at dksX6_qPartTold_10 7 rfl rfl)
theorem dX6_qPartTold_241 : decode cX6_qPartTold 241 = .ok (.invokevirtual 585, 3) := dk_182 2 73 (dk_at dksX6_qPartTold_10 8 rfl rfl)
theorem dX6_qPartTold_244 : decode cX6_qPartTold 244 = .ok (.return_, 1) := dk_177 (dk_at dksX6_qPartTold_10 11 rfl rfl)
abbrev cX6_qWordOf : ByteArray := prog_22_method_101_code
def yX6_qWordOf : MethodName := ⟨RX6, "qWordOf", "(II)I"⟩
def dkwX6_qWordOf_1 : List UInt8 := [167, 0, 4, 2, 172]
abbrev dktX6_qWordOf_1 : List UInt8 := dkwX6_qWordOf_1 ++ []
def dkwX6_qWordOf_0 : List UInt8 := [42, 182, 2, 58, 62, 29, 27, 161, 0, 20, 29, 28, 162, 0, 15, 42, 29, 182, 2, 61, 153, 0, 7, 29]
abbrev dktX6_qWordOf_0 : List UInt8 := dkwX6_qWordOf_0 ++ dktX6_qWordOf_1
theorem dksX6_qWordOf_0 : cX6_qWordOf.data.toList.drop 0 = dktX6_qWordOf_0 := by decide +kernel
theorem dksX6_qWordOf_1 : cX6_qWordOf.data.toList.drop 24 = dktX6_qWordOf_1 := dk_seg dksX6_qWordOf_0 24 rfl rfl
theorem dX6_qWordOf_0 : decode cX6_qWordOf 0 = .ok (.aload_n 0, 1) := dk_42 (dk_at dksX6_qWordOf_0 0 rfl rfl)
theorem dX6_qWordOf_1 : decode cX6_qWordOf 1 = .ok (.invokevirtual 570, 3) := dk_182 2 58 (dk_at dksX6_qWordOf_0 1 rfl rfl)
theorem dX6_qWordOf_4 : decode cX6_qWordOf 4 = .ok (.istore_n 3, 1) := dk_62 (dk_at dksX6_qWordOf_0 4 rfl rfl)
theorem dX6_qWordOf_5 : decode cX6_qWordOf 5 = .ok (.iload_n 3, 1) := dk_29 (dk_at dksX6_qWordOf_0 5 rfl rfl)
theorem dX6_qWordOf_6 : decode cX6_qWordOf 6 = .ok (.iload_n 1, 1) := dk_27 (dk_at dksX6_qWordOf_0 6 rfl rfl)
theorem dX6_qWordOf_7 : decode cX6_qWordOf 7 = .ok (.if_icmp .lt 20, 3) := dk_161 0 20 (dk_at dksX6_qWordOf_0 7 rfl rfl)
theorem dX6_qWordOf_10 : decode cX6_qWordOf 10 = .ok (.iload_n 3, 1) := dk_29 (dk_at dksX6_qWordOf_0 10 rfl rfl)
theorem dX6_qWordOf_11 : decode cX6_qWordOf 11 = .ok (.iload_n 2, 1) := dk_28 (dk_at dksX6_qWordOf_0 11 rfl rfl)
theorem dX6_qWordOf_12 : decode cX6_qWordOf 12 = .ok (.if_icmp .ge 15, 3) := dk_162 0 15 (dk_at dksX6_qWordOf_0 12 rfl rfl)
theorem dX6_qWordOf_15 : decode cX6_qWordOf 15 = .ok (.aload_n 0, 1) := dk_42 (dk_at dksX6_qWordOf_0 15 rfl rfl)
theorem dX6_qWordOf_16 : decode cX6_qWordOf 16 = .ok (.iload_n 3, 1) := dk_29 (dk_at dksX6_qWordOf_0 16 rfl rfl)
theorem dX6_qWordOf_17 : decode cX6_qWordOf 17 = .ok (.invokevirtual 573, 3) := dk_182 2 61 (dk_at dksX6_qWordOf_0 17 rfl rfl)
theorem dX6_qWordOf_20 : decode cX6_qWordOf 20 = .ok (.ifCond .eq 7, 3) := dk_153 0 7 (dk_at dksX6_qWordOf_0 20 rfl rfl)
theorem dX6_qWordOf_23 : decode cX6_qWordOf 23 = .ok (.iload_n 3, 1) := dk_29 (dk_at dksX6_qWordOf_0 23 rfl rfl)
theorem dX6_qWordOf_24 : decode cX6_qWordOf 24 = .ok (.goto 4, 3) := dk_167 0 4 (dk_at dksX6_qWordOf_1 0 rfl rfl)
theorem dX6_qWordOf_27 : decode cX6_qWordOf 27 = .ok (.iconst (-1), 1) := dk_2 (dk_at dksX6_qWordOf_1 3 rfl rfl)
theorem dX6_qWordOf_28 : decode cX6_qWordOf 28 = .ok (.ireturn, 1) := dk_172 (dk_at dksX6_qWordOf_1 4 rfl rfl)
abbrev cX6_qWordHere : ByteArray := prog_22_method_100_code
def yX6_qWordHere : MethodName := ⟨RX6, "qWordHere", "()I"⟩
def dkwX6_qWordHere_7 : List UInt8 := [42, 180, 0, 239, 182, 1, 24, 153, 0, 6, 16, 12, 172, 2, 172]
abbrev dktX6_qWordHere_7 : List UInt8 := dkwX6_qWordHere_7 ++ []
def dkwX6_qWordHere_6 : List UInt8 := [182, 1, 24, 153, 0, 6, 16, 10, 172, 42, 42, 180, 0, 236, 182, 1, 24, 153, 0, 6, 16, 11, 172, 42]
abbrev dktX6_qWordHere_6 : List UInt8 := dkwX6_qWordHere_6 ++ dktX6_qWordHere_7
def dkwX6_qWordHere_5 : List UInt8 := [16, 8, 172, 42, 42, 180, 0, 230, 182, 1, 24, 153, 0, 6, 16, 9, 172, 42, 42, 180, 0, 233]
abbrev dktX6_qWordHere_5 : List UInt8 := dkwX6_qWordHere_5 ++ dktX6_qWordHere_6
def dkwX6_qWordHere_4 : List UInt8 := [180, 0, 224, 182, 1, 24, 153, 0, 6, 16, 7, 172, 42, 42, 180, 0, 227, 182, 1, 24, 153, 0, 6]
abbrev dktX6_qWordHere_4 : List UInt8 := dkwX6_qWordHere_4 ++ dktX6_qWordHere_5
def dkwX6_qWordHere_3 : List UInt8 := [182, 1, 24, 153, 0, 5, 8, 172, 42, 42, 180, 0, 221, 182, 1, 24, 153, 0, 6, 16, 6, 172, 42, 42]
abbrev dktX6_qWordHere_3 : List UInt8 := dkwX6_qWordHere_3 ++ dktX6_qWordHere_4
def dkwX6_qWordHere_2 : List UInt8 := [153, 0, 5, 6, 172, 42, 42, 180, 0, 215, 182, 1, 24, 153, 0, 5, 7, 172, 42, 42, 180, 0, 218]
abbrev dktX6_qWordHere_2 : List UInt8 := dkwX6_qWordHere_2 ++ dktX6_qWordHere_3
def dkwX6_qWordHere_1 : List UInt8 := [4, 172, 42, 42, 180, 0, 209, 182, 1, 24, 153, 0, 5, 5, 172, 42, 42, 180, 0, 212, 182, 1, 24]
abbrev dktX6_qWordHere_1 : List UInt8 := dkwX6_qWordHere_1 ++ dktX6_qWordHere_2
def dkwX6_qWordHere_0 : List UInt8 := [42, 42, 180, 0, 203, 182, 1, 24, 153, 0, 5, 3, 172, 42, 42, 180, 0, 206, 182, 1, 24, 153, 0, 5]
abbrev dktX6_qWordHere_0 : List UInt8 := dkwX6_qWordHere_0 ++ dktX6_qWordHere_1
theorem dksX6_qWordHere_0 : cX6_qWordHere.data.toList.drop 0 = dktX6_qWordHere_0 := by decide +kernel
theorem dksX6_qWordHere_1 : cX6_qWordHere.data.toList.drop 24 = dktX6_qWordHere_1 := dk_seg dksX6_qWordHere_0 24 rfl rfl
theorem dksX6_qWordHere_2 : cX6_qWordHere.data.toList.drop 47 = dktX6_qWordHere_2 := dk_seg dksX6_qWordHere_1 23 rfl rfl
theorem dksX6_qWordHere_3 : cX6_qWordHere.data.toList.drop 70 = dktX6_qWordHere_3 := dk_seg dksX6_qWordHere_2 23 rfl rfl
theorem dksX6_qWordHere_4 : cX6_qWordHere.data.toList.drop 94 = dktX6_qWordHere_4 := dk_seg dksX6_qWordHere_3 24 rfl rfl
theorem dksX6_qWordHere_5 : cX6_qWordHere.data.toList.drop 117 = dktX6_qWordHere_5 := dk_seg dksX6_qWordHere_4 23 rfl rfl
theorem dksX6_qWordHere_6 : cX6_qWordHere.data.toList.drop 139 = dktX6_qWordHere_6 := dk_seg dksX6_qWordHere_5 22 rfl rfl
theorem dksX6_qWordHere_7 : cX6_qWordHere.data.toList.drop 163 = dktX6_qWordHere_7 := dk_seg dksX6_qWordHere_6 24 rfl rfl
theorem dX6_qWordHere_0 : decode cX6_qWordHere 0 = .ok (.aload_n 0, 1) := dk_42 (dk_at dksX6_qWordHere_0 0 rfl rfl)
theorem dX6_qWordHere_1 : decode cX6_qWordHere 1 = .ok (.aload_n 0, 1) := dk_42 (dk_at dksX6_qWordHere_0 1 rfl rfl)
theorem dX6_qWordHere_2 : decode cX6_qWordHere 2 = .ok (.getfield 203, 3) := dk_180 0 203 (dk_at dksX6_qWordHere_0 2 rfl rfl)
theorem dX6_qWordHere_5 : decode cX6_qWordHere 5 = .ok (.invokevirtual 280, 3) := dk_182 1 24 (dk_at dksX6_qWordHere_0 5 rfl rfl)
theorem dX6_qWordHere_8 : decode cX6_qWordHere 8 = .ok (.ifCond .eq 5, 3) := dk_153 0 5 (dk_at dksX6_qWordHere_0 8 rfl rfl)
theorem dX6_qWordHere_11 : decode cX6_qWordHere 11 = .ok (.iconst 0, 1) := dk_3 (dk_at dksX6_qWordHere_0 11 rfl rfl)
theorem dX6_qWordHere_12 : decode cX6_qWordHere 12 = .ok (.ireturn, 1) := dk_172 (dk_at dksX6_qWordHere_0 12 rfl rfl)
theorem dX6_qWordHere_13 : decode cX6_qWordHere 13 = .ok (.aload_n 0, 1) := dk_42 (dk_at dksX6_qWordHere_0 13 rfl rfl)
theorem dX6_qWordHere_14 : decode cX6_qWordHere 14 = .ok (.aload_n 0, 1) := dk_42 (dk_at dksX6_qWordHere_0 14 rfl rfl)
theorem dX6_qWordHere_15 : decode cX6_qWordHere 15 = .ok (.getfield 206, 3) := dk_180 0 206 (dk_at dksX6_qWordHere_0 15 rfl rfl)
theorem dX6_qWordHere_18 : decode cX6_qWordHere 18 = .ok (.invokevirtual 280, 3) := dk_182 1 24 (dk_at dksX6_qWordHere_0 18 rfl rfl)
theorem dX6_qWordHere_21 : decode cX6_qWordHere 21 = .ok (.ifCond .eq 5, 3) := dk_153 0 5 (dk_at dksX6_qWordHere_0 21 rfl rfl)
theorem dX6_qWordHere_24 : decode cX6_qWordHere 24 = .ok (.iconst 1, 1) := dk_4 (dk_at dksX6_qWordHere_1 0 rfl rfl)
theorem dX6_qWordHere_25 : decode cX6_qWordHere 25 = .ok (.ireturn, 1) := dk_172 (dk_at dksX6_qWordHere_1 1 rfl rfl)
theorem dX6_qWordHere_26 : decode cX6_qWordHere 26 = .ok (.aload_n 0, 1) := dk_42 (dk_at dksX6_qWordHere_1 2 rfl rfl)
theorem dX6_qWordHere_27 : decode cX6_qWordHere 27 = .ok (.aload_n 0, 1) := dk_42 (dk_at dksX6_qWordHere_1 3 rfl rfl)
theorem dX6_qWordHere_28 : decode cX6_qWordHere 28 = .ok (.getfield 209, 3) := dk_180 0 209 (dk_at dksX6_qWordHere_1 4 rfl rfl)
theorem dX6_qWordHere_31 : decode cX6_qWordHere 31 = .ok (.invokevirtual 280, 3) := dk_182 1 24 (dk_at dksX6_qWordHere_1 7 rfl rfl)
theorem dX6_qWordHere_34 : decode cX6_qWordHere 34 = .ok (.ifCond .eq 5, 3) := dk_153 0 5 (dk_at dksX6_qWordHere_1 10 rfl rfl)
theorem dX6_qWordHere_37 : decode cX6_qWordHere 37 = .ok (.iconst 2, 1) := dk_5 (dk_at dksX6_qWordHere_1 13 rfl rfl)
theorem dX6_qWordHere_38 : decode cX6_qWordHere 38 = .ok (.ireturn, 1) := dk_172 (dk_at dksX6_qWordHere_1 14 rfl rfl)
theorem dX6_qWordHere_39 : decode cX6_qWordHere 39 = .ok (.aload_n 0, 1) := dk_42 (dk_at dksX6_qWordHere_1 15 rfl rfl)
theorem dX6_qWordHere_40 : decode cX6_qWordHere 40 = .ok (.aload_n 0, 1) := dk_42 (dk_at dksX6_qWordHere_1 16 rfl rfl)
theorem dX6_qWordHere_41 : decode cX6_qWordHere 41 = .ok (.getfield 212, 3) := dk_180 0 212 (dk_at dksX6_qWordHere_1 17 rfl rfl)
theorem dX6_qWordHere_44 : decode cX6_qWordHere 44 = .ok (.invokevirtual 280, 3) := dk_182 1 24 (dk_at dksX6_qWordHere_1 20 rfl rfl)
theorem dX6_qWordHere_47 : decode cX6_qWordHere 47 = .ok (.ifCond .eq 5, 3) := dk_153 0 5 (dk_at dksX6_qWordHere_2 0 rfl rfl)
theorem dX6_qWordHere_50 : decode cX6_qWordHere 50 = .ok (.iconst 3, 1) := dk_6 (dk_at dksX6_qWordHere_2 3 rfl rfl)
theorem dX6_qWordHere_51 : decode cX6_qWordHere 51 = .ok (.ireturn, 1) := dk_172 (dk_at dksX6_qWordHere_2 4 rfl rfl)
theorem dX6_qWordHere_52 : decode cX6_qWordHere 52 = .ok (.aload_n 0, 1) := dk_42 (dk_at dksX6_qWordHere_2 5 rfl rfl)
theorem dX6_qWordHere_53 : decode cX6_qWordHere 53 = .ok (.aload_n 0, 1) := dk_42 (dk_at dksX6_qWordHere_2 6 rfl rfl)
theorem dX6_qWordHere_54 : decode cX6_qWordHere 54 = .ok (.getfield 215, 3) := dk_180 0 215 (dk_at dksX6_qWordHere_2 7 rfl rfl)
theorem dX6_qWordHere_57 : decode cX6_qWordHere 57 = .ok (.invokevirtual 280, 3) := dk_182 1 24 (dk_at dksX6_qWordHere_2 10 rfl rfl)
theorem dX6_qWordHere_60 : decode cX6_qWordHere 60 = .ok (.ifCond .eq 5, 3) := dk_153 0 5 (dk_at dksX6_qWordHere_2 13 rfl rfl)
theorem dX6_qWordHere_63 : decode cX6_qWordHere 63 = .ok (.iconst 4, 1) := dk_7 (dk_at dksX6_qWordHere_2 16 rfl rfl)
theorem dX6_qWordHere_64 : decode cX6_qWordHere 64 = .ok (.ireturn, 1) := dk_172 (dk_at dksX6_qWordHere_2 17 rfl rfl)
theorem dX6_qWordHere_65 : decode cX6_qWordHere 65 = .ok (.aload_n 0, 1) := dk_42 (dk_at dksX6_qWordHere_2 18 rfl rfl)
theorem dX6_qWordHere_66 : decode cX6_qWordHere 66 = .ok (.aload_n 0, 1) := dk_42 (dk_at dksX6_qWordHere_2 19 rfl rfl)
theorem dX6_qWordHere_67 : decode cX6_qWordHere 67 = .ok (.getfield 218, 3) := dk_180 0 218 (dk_at dksX6_qWordHere_2 20 rfl rfl)
theorem dX6_qWordHere_70 : decode cX6_qWordHere 70 = .ok (.invokevirtual 280, 3) := dk_182 1 24 (dk_at dksX6_qWordHere_3 0 rfl rfl)
theorem dX6_qWordHere_73 : decode cX6_qWordHere 73 = .ok (.ifCond .eq 5, 3) := dk_153 0 5 (dk_at dksX6_qWordHere_3 3 rfl rfl)
theorem dX6_qWordHere_76 : decode cX6_qWordHere 76 = .ok (.iconst 5, 1) := dk_8 (dk_at dksX6_qWordHere_3 6 rfl rfl)
theorem dX6_qWordHere_77 : decode cX6_qWordHere 77 = .ok (.ireturn, 1) := dk_172 (dk_at dksX6_qWordHere_3 7 rfl rfl)
theorem dX6_qWordHere_78 : decode cX6_qWordHere 78 = .ok (.aload_n 0, 1) := dk_42 (dk_at dksX6_qWordHere_3 8 rfl rfl)
theorem dX6_qWordHere_79 : decode cX6_qWordHere 79 = .ok (.aload_n 0, 1) := dk_42 (dk_at dksX6_qWordHere_3 9 rfl rfl)
theorem dX6_qWordHere_80 : decode cX6_qWordHere 80 = .ok (.getfield 221, 3) := dk_180 0 221 (dk_at dksX6_qWordHere_3 10 rfl rfl)
theorem dX6_qWordHere_83 : decode cX6_qWordHere 83 = .ok (.invokevirtual 280, 3) := dk_182 1 24 (dk_at dksX6_qWordHere_3 13 rfl rfl)
theorem dX6_qWordHere_86 : decode cX6_qWordHere 86 = .ok (.ifCond .eq 6, 3) := dk_153 0 6 (dk_at dksX6_qWordHere_3 16 rfl rfl)
theorem dX6_qWordHere_89 : decode cX6_qWordHere 89 = .ok (.bipush 6, 2) := dk_16 6 (dk_at dksX6_qWordHere_3 19 rfl rfl)
theorem dX6_qWordHere_91 : decode cX6_qWordHere 91 = .ok (.ireturn, 1) := dk_172 (dk_at dksX6_qWordHere_3 21 rfl rfl)
theorem dX6_qWordHere_92 : decode cX6_qWordHere 92 = .ok (.aload_n 0, 1) := dk_42 (dk_at dksX6_qWordHere_3 22 rfl rfl)
theorem dX6_qWordHere_93 : decode cX6_qWordHere 93 = .ok (.aload_n 0, 1) := dk_42 (dk_at dksX6_qWordHere_3 23 rfl rfl)
theorem dX6_qWordHere_94 : decode cX6_qWordHere 94 = .ok (.getfield 224, 3) := dk_180 0 224 (dk_at dksX6_qWordHere_4 0 rfl rfl)
theorem dX6_qWordHere_97 : decode cX6_qWordHere 97 = .ok (.invokevirtual 280, 3) := dk_182 1 24 (dk_at dksX6_qWordHere_4 3 rfl rfl)
theorem dX6_qWordHere_100 : decode cX6_qWordHere 100 = .ok (.ifCond .eq 6, 3) := dk_153 0 6 (dk_at dksX6_qWordHere_4 6 rfl rfl)
theorem dX6_qWordHere_103 : decode cX6_qWordHere 103 = .ok (.bipush 7, 2) := dk_16 7 (dk_at dksX6_qWordHere_4 9 rfl rfl)
theorem dX6_qWordHere_105 : decode cX6_qWordHere 105 = .ok (.ireturn, 1) := dk_172 (dk_at dksX6_qWordHere_4 11 rfl rfl)
theorem dX6_qWordHere_106 : decode cX6_qWordHere 106 = .ok (.aload_n 0, 1) := dk_42 (dk_at dksX6_qWordHere_4 12 rfl rfl)
theorem dX6_qWordHere_107 : decode cX6_qWordHere 107 = .ok (.aload_n 0, 1) := dk_42 (dk_at dksX6_qWordHere_4 13 rfl rfl)
theorem dX6_qWordHere_108 : decode cX6_qWordHere 108 = .ok (.getfield 227, 3) := dk_180 0 227 (dk_at dksX6_qWordHere_4 14 rfl rfl)
theorem dX6_qWordHere_111 : decode cX6_qWordHere 111 = .ok (.invokevirtual 280, 3) := dk_182 1 24 (dk_at dksX6_qWordHere_4 17 rfl rfl)
theorem dX6_qWordHere_114 : decode cX6_qWordHere 114 = .ok (.ifCond .eq 6, 3) := dk_153 0 6 (dk_at dksX6_qWordHere_4 20 rfl rfl)
theorem dX6_qWordHere_117 : decode cX6_qWordHere 117 = .ok (.bipush 8, 2) := dk_16 8 (dk_at dksX6_qWordHere_5 0 rfl rfl)
theorem dX6_qWordHere_119 : decode cX6_qWordHere 119 = .ok (.ireturn, 1) := dk_172 (dk_at dksX6_qWordHere_5 2 rfl rfl)
theorem dX6_qWordHere_120 : decode cX6_qWordHere 120 = .ok (.aload_n 0, 1) := dk_42 (dk_at dksX6_qWordHere_5 3 rfl rfl)
theorem dX6_qWordHere_121 : decode cX6_qWordHere 121 = .ok (.aload_n 0, 1) := dk_42 (dk_at dksX6_qWordHere_5 4 rfl rfl)
theorem dX6_qWordHere_122 : decode cX6_qWordHere 122 = .ok (.getfield 230, 3) := dk_180 0 230 (dk_at dksX6_qWordHere_5 5 rfl rfl)
theorem dX6_qWordHere_125 : decode cX6_qWordHere 125 = .ok (.invokevirtual 280, 3) := dk_182 1 24 (dk_at dksX6_qWordHere_5 8 rfl rfl)
theorem dX6_qWordHere_128 : decode cX6_qWordHere 128 = .ok (.ifCond .eq 6, 3) := dk_153 0 6 (dk_at dksX6_qWordHere_5 11 rfl rfl)
theorem dX6_qWordHere_131 : decode cX6_qWordHere 131 = .ok (.bipush 9, 2) := dk_16 9 (dk_at dksX6_qWordHere_5 14 rfl rfl)
theorem dX6_qWordHere_133 : decode cX6_qWordHere 133 = .ok (.ireturn, 1) := dk_172 (dk_at dksX6_qWordHere_5 16 rfl rfl)
theorem dX6_qWordHere_134 : decode cX6_qWordHere 134 = .ok (.aload_n 0, 1) := dk_42 (dk_at dksX6_qWordHere_5 17 rfl rfl)
theorem dX6_qWordHere_135 : decode cX6_qWordHere 135 = .ok (.aload_n 0, 1) := dk_42 (dk_at dksX6_qWordHere_5 18 rfl rfl)
theorem dX6_qWordHere_136 : decode cX6_qWordHere 136 = .ok (.getfield 233, 3) := dk_180 0 233 (dk_at dksX6_qWordHere_5 19 rfl rfl)
theorem dX6_qWordHere_139 : decode cX6_qWordHere 139 = .ok (.invokevirtual 280, 3) := dk_182 1 24 (dk_at dksX6_qWordHere_6 0 rfl rfl)
theorem dX6_qWordHere_142 : decode cX6_qWordHere 142 = .ok (.ifCond .eq 6, 3) := dk_153 0 6 (dk_at dksX6_qWordHere_6 3 rfl rfl)
theorem dX6_qWordHere_145 : decode cX6_qWordHere 145 = .ok (.bipush 10, 2) := dk_16 10 (dk_at dksX6_qWordHere_6 6 rfl rfl)
theorem dX6_qWordHere_147 : decode cX6_qWordHere 147 = .ok (.ireturn, 1) := dk_172 (dk_at dksX6_qWordHere_6 8 rfl rfl)
theorem dX6_qWordHere_148 : decode cX6_qWordHere 148 = .ok (.aload_n 0, 1) := dk_42 (dk_at dksX6_qWordHere_6 9 rfl rfl)
theorem dX6_qWordHere_149 : decode cX6_qWordHere 149 = .ok (.aload_n 0, 1) := dk_42 (dk_at dksX6_qWordHere_6 10 rfl rfl)
theorem dX6_qWordHere_150 : decode cX6_qWordHere 150 = .ok (.getfield 236, 3) := dk_180 0 236 (dk_at dksX6_qWordHere_6 11 rfl rfl)
theorem dX6_qWordHere_153 : decode cX6_qWordHere 153 = .ok (.invokevirtual 280, 3) := dk_182 1 24 (dk_at dksX6_qWordHere_6 14 rfl rfl)
theorem dX6_qWordHere_156 : decode cX6_qWordHere 156 = .ok (.ifCond .eq 6, 3) := dk_153 0 6 (dk_at dksX6_qWordHere_6 17 rfl rfl)
theorem dX6_qWordHere_159 : decode cX6_qWordHere 159 = .ok (.bipush 11, 2) := dk_16 11 (dk_at dksX6_qWordHere_6 20 rfl rfl)
theorem dX6_qWordHere_161 : decode cX6_qWordHere 161 = .ok (.ireturn, 1) := dk_172 (dk_at dksX6_qWordHere_6 22 rfl rfl)
theorem dX6_qWordHere_162 : decode cX6_qWordHere 162 = .ok (.aload_n 0, 1) := dk_42 (dk_at dksX6_qWordHere_6 23 rfl rfl)
theorem dX6_qWordHere_163 : decode cX6_qWordHere 163 = .ok (.aload_n 0, 1) := dk_42 (dk_at dksX6_qWordHere_7 0 rfl rfl)
theorem dX6_qWordHere_164 : decode cX6_qWordHere 164 = .ok (.getfield 239, 3) := dk_180 0 239 (dk_at dksX6_qWordHere_7 1 rfl rfl)
theorem dX6_qWordHere_167 : decode cX6_qWordHere 167 = .ok (.invokevirtual 280, 3) := dk_182 1 24 (dk_at dksX6_qWordHere_7 4 rfl rfl)
theorem dX6_qWordHere_170 : decode cX6_qWordHere 170 = .ok (.ifCond .eq 6, 3) := dk_153 0 6 (dk_at dksX6_qWordHere_7 7 rfl rfl)
theorem dX6_qWordHere_173 : decode cX6_qWordHere 173 = .ok (.bipush 12, 2) := dk_16 12 (dk_at dksX6_qWordHere_7 10 rfl rfl)
theorem dX6_qWordHere_175 : decode cX6_qWordHere 175 = .ok (.ireturn, 1) := dk_172 (dk_at dksX6_qWordHere_7 12 rfl rfl)
theorem dX6_qWordHere_176 : decode cX6_qWordHere 176 = .ok (.iconst (-1), 1) := dk_2 (dk_at dksX6_qWordHere_7 13 rfl rfl)
theorem dX6_qWordHere_177 : decode cX6_qWordHere 177 = .ok (.ireturn, 1) := dk_172 (dk_at dksX6_qWordHere_7 14 rfl rfl)
abbrev cX6_isAllowed : ByteArray := prog_22_method_17_code
def yX6_isAllowed : MethodName := ⟨RX6, "isAllowed", "(I)Z"⟩
def dkwX6_isAllowed_2 : List UInt8 := [159, 0, 9, 27, 16, 6, 164, 0, 7, 4, 167, 0, 4, 3, 172]
abbrev dktX6_isAllowed_2 : List UInt8 := dkwX6_isAllowed_2 ++ []
def dkwX6_isAllowed_1 : List UInt8 := [180, 1, 56, 4, 160, 0, 18, 27, 16, 7, 159, 0, 23, 27, 16, 8, 160, 0, 21, 167, 0, 14, 27, 7]
abbrev dktX6_isAllowed_1 : List UInt8 := dkwX6_isAllowed_1 ++ dktX6_isAllowed_2
def dkwX6_isAllowed_0 : List UInt8 := [27, 7, 161, 0, 53, 42, 180, 1, 56, 154, 0, 12, 27, 16, 7, 162, 0, 44, 167, 0, 37, 42]
abbrev dktX6_isAllowed_0 : List UInt8 := dkwX6_isAllowed_0 ++ dktX6_isAllowed_1
theorem dksX6_isAllowed_0 : cX6_isAllowed.data.toList.drop 0 = dktX6_isAllowed_0 := by decide +kernel
theorem dksX6_isAllowed_1 : cX6_isAllowed.data.toList.drop 22 = dktX6_isAllowed_1 := dk_seg dksX6_isAllowed_0 22 rfl rfl
theorem dksX6_isAllowed_2 : cX6_isAllowed.data.toList.drop 46 = dktX6_isAllowed_2 := dk_seg dksX6_isAllowed_1 24 rfl rfl
theorem dX6_isAllowed_0 : decode cX6_isAllowed 0 = .ok (.iload_n 1, 1) := dk_27 (dk_at dksX6_isAllowed_0 0 rfl rfl)
theorem dX6_isAllowed_1 : decode cX6_isAllowed 1 = .ok (.iconst 4, 1) := dk_7 (dk_at dksX6_isAllowed_0 1 rfl rfl)
theorem dX6_isAllowed_2 : decode cX6_isAllowed 2 = .ok (.if_icmp .lt 53, 3) := dk_161 0 53 (dk_at dksX6_isAllowed_0 2 rfl rfl)
theorem dX6_isAllowed_5 : decode cX6_isAllowed 5 = .ok (.aload_n 0, 1) := dk_42 (dk_at dksX6_isAllowed_0 5 rfl rfl)
theorem dX6_isAllowed_6 : decode cX6_isAllowed 6 = .ok (.getfield 312, 3) := dk_180 1 56 (dk_at dksX6_isAllowed_0 6 rfl rfl)
theorem dX6_isAllowed_9 : decode cX6_isAllowed 9 = .ok (.ifCond .ne 12, 3) := dk_154 0 12 (dk_at dksX6_isAllowed_0 9 rfl rfl)
theorem dX6_isAllowed_12 : decode cX6_isAllowed 12 = .ok (.iload_n 1, 1) := dk_27 (dk_at dksX6_isAllowed_0 12 rfl rfl)
theorem dX6_isAllowed_13 : decode cX6_isAllowed 13 = .ok (.bipush 7, 2) := dk_16 7 (dk_at dksX6_isAllowed_0 13 rfl rfl)
theorem dX6_isAllowed_15 : decode cX6_isAllowed 15 = .ok (.if_icmp .ge 44, 3) := dk_162 0 44 (dk_at dksX6_isAllowed_0 15 rfl rfl)
theorem dX6_isAllowed_18 : decode cX6_isAllowed 18 = .ok (.goto 37, 3) := dk_167 0 37 (dk_at dksX6_isAllowed_0 18 rfl rfl)
theorem dX6_isAllowed_21 : decode cX6_isAllowed 21 = .ok (.aload_n 0, 1) := dk_42 (dk_at dksX6_isAllowed_0 21 rfl rfl)
theorem dX6_isAllowed_22 : decode cX6_isAllowed 22 = .ok (.getfield 312, 3) := dk_180 1 56 (dk_at dksX6_isAllowed_1 0 rfl rfl)
theorem dX6_isAllowed_25 : decode cX6_isAllowed 25 = .ok (.iconst 1, 1) := dk_4 (dk_at dksX6_isAllowed_1 3 rfl rfl)
theorem dX6_isAllowed_26 : decode cX6_isAllowed 26 = .ok (.if_icmp .ne 18, 3) := dk_160 0 18 (dk_at dksX6_isAllowed_1 4 rfl rfl)
theorem dX6_isAllowed_29 : decode cX6_isAllowed 29 = .ok (.iload_n 1, 1) := dk_27 (dk_at dksX6_isAllowed_1 7 rfl rfl)
theorem dX6_isAllowed_30 : decode cX6_isAllowed 30 = .ok (.bipush 7, 2) := dk_16 7 (dk_at dksX6_isAllowed_1 8 rfl rfl)
theorem dX6_isAllowed_32 : decode cX6_isAllowed 32 = .ok (.if_icmp .eq 23, 3) := dk_159 0 23 (dk_at dksX6_isAllowed_1 10 rfl rfl)
theorem dX6_isAllowed_35 : decode cX6_isAllowed 35 = .ok (.iload_n 1, 1) := dk_27 (dk_at dksX6_isAllowed_1 13 rfl rfl)
theorem dX6_isAllowed_36 : decode cX6_isAllowed 36 = .ok (.bipush 8, 2) := dk_16 8 (dk_at dksX6_isAllowed_1 14 rfl rfl)
theorem dX6_isAllowed_38 : decode cX6_isAllowed 38 = .ok (.if_icmp .ne 21, 3) := dk_160 0 21 (dk_at dksX6_isAllowed_1 16 rfl rfl)
theorem dX6_isAllowed_41 : decode cX6_isAllowed 41 = .ok (.goto 14, 3) := dk_167 0 14 (dk_at dksX6_isAllowed_1 19 rfl rfl)
theorem dX6_isAllowed_44 : decode cX6_isAllowed 44 = .ok (.iload_n 1, 1) := dk_27 (dk_at dksX6_isAllowed_1 22 rfl rfl)
theorem dX6_isAllowed_45 : decode cX6_isAllowed 45 = .ok (.iconst 4, 1) := dk_7 (dk_at dksX6_isAllowed_1 23 rfl rfl)
theorem dX6_isAllowed_46 : decode cX6_isAllowed 46 = .ok (.if_icmp .eq 9, 3) := dk_159 0 9 (dk_at dksX6_isAllowed_2 0 rfl rfl)
theorem dX6_isAllowed_49 : decode cX6_isAllowed 49 = .ok (.iload_n 1, 1) := dk_27 (dk_at dksX6_isAllowed_2 3 rfl rfl)
theorem dX6_isAllowed_50 : decode cX6_isAllowed 50 = .ok (.bipush 6, 2) := dk_16 6 (dk_at dksX6_isAllowed_2 4 rfl rfl)
theorem dX6_isAllowed_52 : decode cX6_isAllowed 52 = .ok (.if_icmp .le 7, 3) := dk_164 0 7 (dk_at dksX6_isAllowed_2 6 rfl rfl)
theorem dX6_isAllowed_55 : decode cX6_isAllowed 55 = .ok (.iconst 1, 1) := dk_4 (dk_at dksX6_isAllowed_2 9 rfl rfl)
theorem dX6_isAllowed_56 : decode cX6_isAllowed 56 = .ok (.goto 4, 3) := dk_167 0 4 (dk_at dksX6_isAllowed_2 10 rfl rfl)
theorem dX6_isAllowed_59 : decode cX6_isAllowed 59 = .ok (.iconst 0, 1) := dk_3 (dk_at dksX6_isAllowed_2 13 rfl rfl)
theorem dX6_isAllowed_60 : decode cX6_isAllowed 60 = .ok (.ireturn, 1) := dk_172 (dk_at dksX6_isAllowed_2 14 rfl rfl)
abbrev cX6_asksSign : ByteArray := prog_22_method_13_code
def yX6_asksSign : MethodName := ⟨RX6, "asksSign", "(I)V"⟩
def dkwX6_asksSign_1 : List UInt8 := [177]
abbrev dktX6_asksSign_1 : List UInt8 := dkwX6_asksSign_1 ++ []
def dkwX6_asksSign_0 : List UInt8 := [42, 180, 1, 1, 154, 0, 20, 42, 27, 182, 1, 35, 154, 0, 12, 42, 4, 42, 180, 1, 7, 182, 1, 31]
abbrev dktX6_asksSign_0 : List UInt8 := dkwX6_asksSign_0 ++ dktX6_asksSign_1
theorem dksX6_asksSign_0 : cX6_asksSign.data.toList.drop 0 = dktX6_asksSign_0 := by decide +kernel
theorem dksX6_asksSign_1 : cX6_asksSign.data.toList.drop 24 = dktX6_asksSign_1 := dk_seg dksX6_asksSign_0 24 rfl rfl
theorem dX6_asksSign_0 : decode cX6_asksSign 0 = .ok (.aload_n 0, 1) := dk_42 (dk_at dksX6_asksSign_0 0 rfl rfl)
theorem dX6_asksSign_1 : decode cX6_asksSign 1 = .ok (.getfield 257, 3) := dk_180 1 1 (dk_at dksX6_asksSign_0 1 rfl rfl)
theorem dX6_asksSign_4 : decode cX6_asksSign 4 = .ok (.ifCond .ne 20, 3) := dk_154 0 20 (dk_at dksX6_asksSign_0 4 rfl rfl)
theorem dX6_asksSign_7 : decode cX6_asksSign 7 = .ok (.aload_n 0, 1) := dk_42 (dk_at dksX6_asksSign_0 7 rfl rfl)
theorem dX6_asksSign_8 : decode cX6_asksSign 8 = .ok (.iload_n 1, 1) := dk_27 (dk_at dksX6_asksSign_0 8 rfl rfl)
theorem dX6_asksSign_9 : decode cX6_asksSign 9 = .ok (.invokevirtual 291, 3) := dk_182 1 35 (dk_at dksX6_asksSign_0 9 rfl rfl)
theorem dX6_asksSign_12 : decode cX6_asksSign 12 = .ok (.ifCond .ne 12, 3) := dk_154 0 12 (dk_at dksX6_asksSign_0 12 rfl rfl)
theorem dX6_asksSign_15 : decode cX6_asksSign 15 = .ok (.aload_n 0, 1) := dk_42 (dk_at dksX6_asksSign_0 15 rfl rfl)
theorem dX6_asksSign_16 : decode cX6_asksSign 16 = .ok (.iconst 1, 1) := dk_4 (dk_at dksX6_asksSign_0 16 rfl rfl)
theorem dX6_asksSign_17 : decode cX6_asksSign 17 = .ok (.aload_n 0, 1) := dk_42 (dk_at dksX6_asksSign_0 17 rfl rfl)
theorem dX6_asksSign_18 : decode cX6_asksSign 18 = .ok (.getfield 263, 3) := dk_180 1 7 (dk_at dksX6_asksSign_0 18 rfl rfl)
theorem dX6_asksSign_21 : decode cX6_asksSign 21 = .ok (.invokevirtual 287, 3) := dk_182 1 31 (dk_at dksX6_asksSign_0 21 rfl rfl)
theorem dX6_asksSign_24 : decode cX6_asksSign 24 = .ok (.return_, 1) := dk_177 (dk_at dksX6_asksSign_1 0 rfl rfl)
abbrev cX6_takesSign : ByteArray := prog_22_method_12_code
def yX6_takesSign : MethodName := ⟨RX6, "takesSign", "(I)Z"⟩
def dkwX6_takesSign_1 : List UInt8 := [181, 1, 7, 4, 172]
abbrev dktX6_takesSign_1 : List UInt8 := dkwX6_takesSign_1 ++ []
def dkwX6_takesSign_0 : List UInt8 := [42, 180, 1, 1, 154, 0, 11, 42, 182, 1, 13, 27, 159, 0, 5, 3, 172, 42, 89, 180, 1, 7, 4, 96]
abbrev dktX6_takesSign_0 : List UInt8 := dkwX6_takesSign_0 ++ dktX6_takesSign_1
theorem dksX6_takesSign_0 : cX6_takesSign.data.toList.drop 0 = dktX6_takesSign_0 := by decide +kernel
theorem dksX6_takesSign_1 : cX6_takesSign.data.toList.drop 24 = dktX6_takesSign_1 := dk_seg dksX6_takesSign_0 24 rfl rfl
theorem dX6_takesSign_0 : decode cX6_takesSign 0 = .ok (.aload_n 0, 1) := dk_42 (dk_at dksX6_takesSign_0 0 rfl rfl)
theorem dX6_takesSign_1 : decode cX6_takesSign 1 = .ok (.getfield 257, 3) := dk_180 1 1 (dk_at dksX6_takesSign_0 1 rfl rfl)
theorem dX6_takesSign_4 : decode cX6_takesSign 4 = .ok (.ifCond .ne 11, 3) := dk_154 0 11 (dk_at dksX6_takesSign_0 4 rfl rfl)
theorem dX6_takesSign_7 : decode cX6_takesSign 7 = .ok (.aload_n 0, 1) := dk_42 (dk_at dksX6_takesSign_0 7 rfl rfl)
theorem dX6_takesSign_8 : decode cX6_takesSign 8 = .ok (.invokevirtual 269, 3) := dk_182 1 13 (dk_at dksX6_takesSign_0 8 rfl rfl)
theorem dX6_takesSign_11 : decode cX6_takesSign 11 = .ok (.iload_n 1, 1) := dk_27 (dk_at dksX6_takesSign_0 11 rfl rfl)
theorem dX6_takesSign_12 : decode cX6_takesSign 12 = .ok (.if_icmp .eq 5, 3) := dk_159 0 5 (dk_at dksX6_takesSign_0 12 rfl rfl)
theorem dX6_takesSign_15 : decode cX6_takesSign 15 = .ok (.iconst 0, 1) := dk_3 (dk_at dksX6_takesSign_0 15 rfl rfl)
theorem dX6_takesSign_16 : decode cX6_takesSign 16 = .ok (.ireturn, 1) := dk_172 (dk_at dksX6_takesSign_0 16 rfl rfl)
theorem dX6_takesSign_17 : decode cX6_takesSign 17 = .ok (.aload_n 0, 1) := dk_42 (dk_at dksX6_takesSign_0 17 rfl rfl)
theorem dX6_takesSign_18 : decode cX6_takesSign 18 = .ok (.dup, 1) := dk_89 (dk_at dksX6_takesSign_0 18 rfl rfl)
theorem dX6_takesSign_19 : decode cX6_takesSign 19 = .ok (.getfield 263, 3) := dk_180 1 7 (dk_at dksX6_takesSign_0 19 rfl rfl)
theorem dX6_takesSign_22 : decode cX6_takesSign 22 = .ok (.iconst 1, 1) := dk_4 (dk_at dksX6_takesSign_0 22 rfl rfl)
theorem dX6_takesSign_23 : decode cX6_takesSign 23 = .ok (.iadd, 1) := dk_96 (dk_at dksX6_takesSign_0 23 rfl rfl)
theorem dX6_takesSign_24 : decode cX6_takesSign 24 = .ok (.putfield 263, 3) := dk_181 1 7 (dk_at dksX6_takesSign_1 0 rfl rfl)
theorem dX6_takesSign_27 : decode cX6_takesSign 27 = .ok (.iconst 1, 1) := dk_4 (dk_at dksX6_takesSign_1 3 rfl rfl)
theorem dX6_takesSign_28 : decode cX6_takesSign 28 = .ok (.ireturn, 1) := dk_172 (dk_at dksX6_takesSign_1 4 rfl rfl)
abbrev cX6_qAsksWord : ByteArray := prog_22_method_102_code
def yX6_qAsksWord : MethodName := ⟨RX6, "qAsksWord", "(I)V"⟩
def dkwX6_qAsksWord_8 : List UInt8 := [180, 0, 239, 182, 1, 74, 177]
abbrev dktX6_qAsksWord_8 : List UInt8 := dkwX6_qAsksWord_8 ++ []
def dkwX6_qAsksWord_7 : List UInt8 := [180, 0, 233, 182, 1, 74, 167, 0, 22, 42, 42, 180, 0, 236, 182, 1, 74, 167, 0, 11, 42, 42]
abbrev dktX6_qAsksWord_7 : List UInt8 := dkwX6_qAsksWord_7 ++ dktX6_qAsksWord_8
def dkwX6_qAsksWord_6 : List UInt8 := [180, 0, 227, 182, 1, 74, 167, 0, 44, 42, 42, 180, 0, 230, 182, 1, 74, 167, 0, 33, 42, 42]
abbrev dktX6_qAsksWord_6 : List UInt8 := dkwX6_qAsksWord_6 ++ dktX6_qAsksWord_7
def dkwX6_qAsksWord_5 : List UInt8 := [180, 0, 221, 182, 1, 74, 167, 0, 66, 42, 42, 180, 0, 224, 182, 1, 74, 167, 0, 55, 42, 42]
abbrev dktX6_qAsksWord_5 : List UInt8 := dkwX6_qAsksWord_5 ++ dktX6_qAsksWord_6
def dkwX6_qAsksWord_4 : List UInt8 := [180, 0, 215, 182, 1, 74, 167, 0, 88, 42, 42, 180, 0, 218, 182, 1, 74, 167, 0, 77, 42, 42]
abbrev dktX6_qAsksWord_4 : List UInt8 := dkwX6_qAsksWord_4 ++ dktX6_qAsksWord_5
def dkwX6_qAsksWord_3 : List UInt8 := [180, 0, 209, 182, 1, 74, 167, 0, 110, 42, 42, 180, 0, 212, 182, 1, 74, 167, 0, 99, 42, 42]
abbrev dktX6_qAsksWord_3 : List UInt8 := dkwX6_qAsksWord_3 ++ dktX6_qAsksWord_4
def dkwX6_qAsksWord_2 : List UInt8 := [42, 42, 180, 0, 203, 182, 1, 74, 167, 0, 132, 42, 42, 180, 0, 206, 182, 1, 74, 167, 0, 121, 42, 42]
abbrev dktX6_qAsksWord_2 : List UInt8 := dkwX6_qAsksWord_2 ++ dktX6_qAsksWord_3
def dkwX6_qAsksWord_1 : List UInt8 := [170, 0, 0, 0, 0, 0, 195, 0, 0, 0, 0, 0, 0, 0, 11, 0, 0, 0, 63, 0, 0, 0, 74, 0, 0, 0, 85, 0, 0, 0, 96, 0, 0, 0, 107, 0, 0, 0, 118, 0, 0, 0, 129, 0, 0, 0, 140, 0, 0, 0, 151, 0, 0, 0, 162, 0, 0, 0, 173, 0, 0, 0, 184]
abbrev dktX6_qAsksWord_1 : List UInt8 := dkwX6_qAsksWord_1 ++ dktX6_qAsksWord_2
def dkwX6_qAsksWord_0 : List UInt8 := [27]
abbrev dktX6_qAsksWord_0 : List UInt8 := dkwX6_qAsksWord_0 ++ dktX6_qAsksWord_1
theorem dksX6_qAsksWord_0 : cX6_qAsksWord.data.toList.drop 0 = dktX6_qAsksWord_0 := by decide +kernel
theorem dksX6_qAsksWord_1 : cX6_qAsksWord.data.toList.drop 1 = dktX6_qAsksWord_1 := dk_seg dksX6_qAsksWord_0 1 rfl rfl
theorem dksX6_qAsksWord_2 : cX6_qAsksWord.data.toList.drop 64 = dktX6_qAsksWord_2 := dk_seg dksX6_qAsksWord_1 63 rfl rfl
theorem dksX6_qAsksWord_3 : cX6_qAsksWord.data.toList.drop 88 = dktX6_qAsksWord_3 := dk_seg dksX6_qAsksWord_2 24 rfl rfl
theorem dksX6_qAsksWord_4 : cX6_qAsksWord.data.toList.drop 110 = dktX6_qAsksWord_4 := dk_seg dksX6_qAsksWord_3 22 rfl rfl
theorem dksX6_qAsksWord_5 : cX6_qAsksWord.data.toList.drop 132 = dktX6_qAsksWord_5 := dk_seg dksX6_qAsksWord_4 22 rfl rfl
theorem dksX6_qAsksWord_6 : cX6_qAsksWord.data.toList.drop 154 = dktX6_qAsksWord_6 := dk_seg dksX6_qAsksWord_5 22 rfl rfl
theorem dksX6_qAsksWord_7 : cX6_qAsksWord.data.toList.drop 176 = dktX6_qAsksWord_7 := dk_seg dksX6_qAsksWord_6 22 rfl rfl
theorem dksX6_qAsksWord_8 : cX6_qAsksWord.data.toList.drop 198 = dktX6_qAsksWord_8 := dk_seg dksX6_qAsksWord_7 22 rfl rfl
theorem dX6_qAsksWord_0 : decode cX6_qAsksWord 0 = .ok (.iload_n 1, 1) := dk_27 (dk_at dksX6_qAsksWord_0 0 rfl rfl)
theorem dX6_qAsksWord_1 : decode cX6_qAsksWord 1 = .ok (.tableswitch 195 0 11 #[63, 74, 85, 96, 107, 118, 129, 140, 151, 162, 173, 184], 63) := by decide +kernel
theorem dX6_qAsksWord_64 : decode cX6_qAsksWord 64 = .ok (.aload_n 0, 1) := dk_42 (dk_at dksX6_qAsksWord_2 0 rfl rfl)
theorem dX6_qAsksWord_65 : decode cX6_qAsksWord 65 = .ok (.aload_n 0, 1) := dk_42 (dk_at dksX6_qAsksWord_2 1 rfl rfl)
theorem dX6_qAsksWord_66 : decode cX6_qAsksWord 66 = .ok (.getfield 203, 3) := dk_180 0 203 (dk_at dksX6_qAsksWord_2 2 rfl rfl)
theorem dX6_qAsksWord_69 : decode cX6_qAsksWord 69 = .ok (.invokevirtual 330, 3) := dk_182 1 74 (dk_at dksX6_qAsksWord_2 5 rfl rfl)
theorem dX6_qAsksWord_72 : decode cX6_qAsksWord 72 = .ok (.goto 132, 3) := dk_167 0 132 (dk_at dksX6_qAsksWord_2 8 rfl rfl)
theorem dX6_qAsksWord_75 : decode cX6_qAsksWord 75 = .ok (.aload_n 0, 1) := dk_42 (dk_at dksX6_qAsksWord_2 11 rfl rfl)
theorem dX6_qAsksWord_76 : decode cX6_qAsksWord 76 = .ok (.aload_n 0, 1) := dk_42 (dk_at dksX6_qAsksWord_2 12 rfl rfl)
theorem dX6_qAsksWord_77 : decode cX6_qAsksWord 77 = .ok (.getfield 206, 3) := dk_180 0 206 (dk_at dksX6_qAsksWord_2 13 rfl rfl)
theorem dX6_qAsksWord_80 : decode cX6_qAsksWord 80 = .ok (.invokevirtual 330, 3) := dk_182 1 74 (dk_at dksX6_qAsksWord_2 16 rfl rfl)
theorem dX6_qAsksWord_83 : decode cX6_qAsksWord 83 = .ok (.goto 121, 3) := dk_167 0 121 (dk_at dksX6_qAsksWord_2 19 rfl rfl)
theorem dX6_qAsksWord_86 : decode cX6_qAsksWord 86 = .ok (.aload_n 0, 1) := dk_42 (dk_at dksX6_qAsksWord_2 22 rfl rfl)
theorem dX6_qAsksWord_87 : decode cX6_qAsksWord 87 = .ok (.aload_n 0, 1) := dk_42 (dk_at dksX6_qAsksWord_2 23 rfl rfl)
theorem dX6_qAsksWord_88 : decode cX6_qAsksWord 88 = .ok (.getfield 209, 3) := dk_180 0 209 (dk_at dksX6_qAsksWord_3 0 rfl rfl)
theorem dX6_qAsksWord_91 : decode cX6_qAsksWord 91 = .ok (.invokevirtual 330, 3) := dk_182 1 74 (dk_at dksX6_qAsksWord_3 3 rfl rfl)
theorem dX6_qAsksWord_94 : decode cX6_qAsksWord 94 = .ok (.goto 110, 3) := dk_167 0 110 (dk_at dksX6_qAsksWord_3 6 rfl rfl)
theorem dX6_qAsksWord_97 : decode cX6_qAsksWord 97 = .ok (.aload_n 0, 1) := dk_42 (dk_at dksX6_qAsksWord_3 9 rfl rfl)
theorem dX6_qAsksWord_98 : decode cX6_qAsksWord 98 = .ok (.aload_n 0, 1) := dk_42 (dk_at dksX6_qAsksWord_3 10 rfl rfl)
theorem dX6_qAsksWord_99 : decode cX6_qAsksWord 99 = .ok (.getfield 212, 3) := dk_180 0 212 (dk_at dksX6_qAsksWord_3 11 rfl rfl)
theorem dX6_qAsksWord_102 : decode cX6_qAsksWord 102 = .ok (.invokevirtual 330, 3) := dk_182 1 74 (dk_at dksX6_qAsksWord_3 14 rfl rfl)
theorem dX6_qAsksWord_105 : decode cX6_qAsksWord 105 = .ok (.goto 99, 3) := dk_167 0 99 (dk_at dksX6_qAsksWord_3 17 rfl rfl)
theorem dX6_qAsksWord_108 : decode cX6_qAsksWord 108 = .ok (.aload_n 0, 1) := dk_42 (dk_at dksX6_qAsksWord_3 20 rfl rfl)
theorem dX6_qAsksWord_109 : decode cX6_qAsksWord 109 = .ok (.aload_n 0, 1) := dk_42 (dk_at dksX6_qAsksWord_3 21 rfl rfl)
theorem dX6_qAsksWord_110 : decode cX6_qAsksWord 110 = .ok (.getfield 215, 3) := dk_180 0 215 (dk_at dksX6_qAsksWord_4 0 rfl rfl)
theorem dX6_qAsksWord_113 : decode cX6_qAsksWord 113 = .ok (.invokevirtual 330, 3) := dk_182 1 74 (dk_at dksX6_qAsksWord_4 3 rfl rfl)
theorem dX6_qAsksWord_116 : decode cX6_qAsksWord 116 = .ok (.goto 88, 3) := dk_167 0 88 (dk_at dksX6_qAsksWord_4 6 rfl rfl)
theorem dX6_qAsksWord_119 : decode cX6_qAsksWord 119 = .ok (.aload_n 0, 1) := dk_42 (dk_at dksX6_qAsksWord_4 9 rfl rfl)
theorem dX6_qAsksWord_120 : decode cX6_qAsksWord 120 = .ok (.aload_n 0, 1) := dk_42 (dk_at dksX6_qAsksWord_4 10 rfl rfl)
theorem dX6_qAsksWord_121 : decode cX6_qAsksWord 121 = .ok (.getfield 218, 3) := dk_180 0 218 (dk_at dksX6_qAsksWord_4 11 rfl rfl)
theorem dX6_qAsksWord_124 : decode cX6_qAsksWord 124 = .ok (.invokevirtual 330, 3) := dk_182 1 74 (dk_at dksX6_qAsksWord_4 14 rfl rfl)
theorem dX6_qAsksWord_127 : decode cX6_qAsksWord 127 = .ok (.goto 77, 3) := dk_167 0 77 (dk_at dksX6_qAsksWord_4 17 rfl rfl)
theorem dX6_qAsksWord_130 : decode cX6_qAsksWord 130 = .ok (.aload_n 0, 1) := dk_42 (dk_at dksX6_qAsksWord_4 20 rfl rfl)
theorem dX6_qAsksWord_131 : decode cX6_qAsksWord 131 = .ok (.aload_n 0, 1) := dk_42 (dk_at dksX6_qAsksWord_4 21 rfl rfl)
theorem dX6_qAsksWord_132 : decode cX6_qAsksWord 132 = .ok (.getfield 221, 3) := dk_180 0 221 (dk_at dksX6_qAsksWord_5 0 rfl rfl)
theorem dX6_qAsksWord_135 : decode cX6_qAsksWord 135 = .ok (.invokevirtual 330, 3) := dk_182 1 74 (dk_at dksX6_qAsksWord_5 3 rfl rfl)
theorem dX6_qAsksWord_138 : decode cX6_qAsksWord 138 = .ok (.goto 66, 3) := dk_167 0 66 (dk_at dksX6_qAsksWord_5 6 rfl rfl)
theorem dX6_qAsksWord_141 : decode cX6_qAsksWord 141 = .ok (.aload_n 0, 1) := dk_42 (dk_at dksX6_qAsksWord_5 9 rfl rfl)
theorem dX6_qAsksWord_142 : decode cX6_qAsksWord 142 = .ok (.aload_n 0, 1) := dk_42 (dk_at dksX6_qAsksWord_5 10 rfl rfl)
theorem dX6_qAsksWord_143 : decode cX6_qAsksWord 143 = .ok (.getfield 224, 3) := dk_180 0 224 (dk_at dksX6_qAsksWord_5 11 rfl rfl)
theorem dX6_qAsksWord_146 : decode cX6_qAsksWord 146 = .ok (.invokevirtual 330, 3) := dk_182 1 74 (dk_at dksX6_qAsksWord_5 14 rfl rfl)
theorem dX6_qAsksWord_149 : decode cX6_qAsksWord 149 = .ok (.goto 55, 3) := dk_167 0 55 (dk_at dksX6_qAsksWord_5 17 rfl rfl)
theorem dX6_qAsksWord_152 : decode cX6_qAsksWord 152 = .ok (.aload_n 0, 1) := dk_42 (dk_at dksX6_qAsksWord_5 20 rfl rfl)
theorem dX6_qAsksWord_153 : decode cX6_qAsksWord 153 = .ok (.aload_n 0, 1) := dk_42 (dk_at dksX6_qAsksWord_5 21 rfl rfl)
theorem dX6_qAsksWord_154 : decode cX6_qAsksWord 154 = .ok (.getfield 227, 3) := dk_180 0 227 (dk_at dksX6_qAsksWord_6 0 rfl rfl)
theorem dX6_qAsksWord_157 : decode cX6_qAsksWord 157 = .ok (.invokevirtual 330, 3) := dk_182 1 74 (dk_at dksX6_qAsksWord_6 3 rfl rfl)
theorem dX6_qAsksWord_160 : decode cX6_qAsksWord 160 = .ok (.goto 44, 3) := dk_167 0 44 (dk_at dksX6_qAsksWord_6 6 rfl rfl)
theorem dX6_qAsksWord_163 : decode cX6_qAsksWord 163 = .ok (.aload_n 0, 1) := dk_42 (dk_at dksX6_qAsksWord_6 9 rfl rfl)
theorem dX6_qAsksWord_164 : decode cX6_qAsksWord 164 = .ok (.aload_n 0, 1) := dk_42 (dk_at dksX6_qAsksWord_6 10 rfl rfl)
theorem dX6_qAsksWord_165 : decode cX6_qAsksWord 165 = .ok (.getfield 230, 3) := dk_180 0 230 (dk_at dksX6_qAsksWord_6 11 rfl rfl)
theorem dX6_qAsksWord_168 : decode cX6_qAsksWord 168 = .ok (.invokevirtual 330, 3) := dk_182 1 74 (dk_at dksX6_qAsksWord_6 14 rfl rfl)
theorem dX6_qAsksWord_171 : decode cX6_qAsksWord 171 = .ok (.goto 33, 3) := dk_167 0 33 (dk_at dksX6_qAsksWord_6 17 rfl rfl)
theorem dX6_qAsksWord_174 : decode cX6_qAsksWord 174 = .ok (.aload_n 0, 1) := dk_42 (dk_at dksX6_qAsksWord_6 20 rfl rfl)
theorem dX6_qAsksWord_175 : decode cX6_qAsksWord 175 = .ok (.aload_n 0, 1) := dk_42 (dk_at dksX6_qAsksWord_6 21 rfl rfl)
theorem dX6_qAsksWord_176 : decode cX6_qAsksWord 176 = .ok (.getfield 233, 3) := dk_180 0 233 (dk_at dksX6_qAsksWord_7 0 rfl rfl)
theorem dX6_qAsksWord_179 : decode cX6_qAsksWord 179 = .ok (.invokevirtual 330, 3) := dk_182 1 74 (dk_at dksX6_qAsksWord_7 3 rfl rfl)
theorem dX6_qAsksWord_182 : decode cX6_qAsksWord 182 = .ok (.goto 22, 3) := dk_167 0 22 (dk_at dksX6_qAsksWord_7 6 rfl rfl)
theorem dX6_qAsksWord_185 : decode cX6_qAsksWord 185 = .ok (.aload_n 0, 1) := dk_42 (dk_at dksX6_qAsksWord_7 9 rfl rfl)
theorem dX6_qAsksWord_186 : decode cX6_qAsksWord 186 = .ok (.aload_n 0, 1) := dk_42 (dk_at dksX6_qAsksWord_7 10 rfl rfl)
theorem dX6_qAsksWord_187 : decode cX6_qAsksWord 187 = .ok (.getfield 236, 3) := dk_180 0 236 (dk_at dksX6_qAsksWord_7 11 rfl rfl)
theorem dX6_qAsksWord_190 : decode cX6_qAsksWord 190 = .ok (.invokevirtual 330, 3) := dk_182 1 74 (dk_at dksX6_qAsksWord_7 14 rfl rfl)
theorem dX6_qAsksWord_193 : decode cX6_qAsksWord 193 = .ok (.goto 11, 3) := dk_167 0 11 (dk_at dksX6_qAsksWord_7 17 rfl rfl)
theorem dX6_qAsksWord_196 : decode cX6_qAsksWord 196 = .ok (.aload_n 0, 1) := dk_42 (dk_at dksX6_qAsksWord_7 20 rfl rfl)
theorem dX6_qAsksWord_197 : decode cX6_qAsksWord 197 = .ok (.aload_n 0, 1) := dk_42 (dk_at dksX6_qAsksWord_7 21 rfl rfl)
theorem dX6_qAsksWord_198 : decode cX6_qAsksWord 198 = .ok (.getfield 239, 3) := dk_180 0 239 (dk_at dksX6_qAsksWord_8 0 rfl rfl)
theorem dX6_qAsksWord_201 : decode cX6_qAsksWord 201 = .ok (.invokevirtual 330, 3) := dk_182 1 74 (dk_at dksX6_qAsksWord_8 3 rfl rfl)
theorem dX6_qAsksWord_204 : decode cX6_qAsksWord 204 = .ok (.return_, 1) := dk_177 (dk_at dksX6_qAsksWord_8 6 rfl rfl)
abbrev cX6_qEndsPart : ByteArray := prog_22_method_103_code
def yX6_qEndsPart : MethodName := ⟨RX6, "qEndsPart", "()V"⟩
def dkwX6_qEndsPart_2 : List UInt8 := [182, 2, 55, 167, 255, 208, 177]
abbrev dktX6_qEndsPart_2 : List UInt8 := dkwX6_qEndsPart_2 ++ []
def dkwX6_qEndsPart_1 : List UInt8 := [180, 1, 89, 4, 100, 46, 16, 60, 161, 0, 20, 42, 89, 180, 1, 92, 4, 100, 181, 1, 92, 42]
abbrev dktX6_qEndsPart_1 : List UInt8 := dkwX6_qEndsPart_1 ++ dktX6_qEndsPart_2
def dkwX6_qEndsPart_0 : List UInt8 := [42, 180, 1, 1, 154, 0, 47, 42, 180, 1, 89, 42, 180, 1, 95, 164, 0, 36, 42, 180, 0, 245, 42]
abbrev dktX6_qEndsPart_0 : List UInt8 := dkwX6_qEndsPart_0 ++ dktX6_qEndsPart_1
theorem dksX6_qEndsPart_0 : cX6_qEndsPart.data.toList.drop 0 = dktX6_qEndsPart_0 := by decide +kernel
theorem dksX6_qEndsPart_1 : cX6_qEndsPart.data.toList.drop 23 = dktX6_qEndsPart_1 := dk_seg dksX6_qEndsPart_0 23 rfl rfl
theorem dksX6_qEndsPart_2 : cX6_qEndsPart.data.toList.drop 45 = dktX6_qEndsPart_2 := dk_seg dksX6_qEndsPart_1 22 rfl rfl
theorem dX6_qEndsPart_0 : decode cX6_qEndsPart 0 = .ok (.aload_n 0, 1) := dk_42 (dk_at dksX6_qEndsPart_0 0 rfl rfl)
theorem dX6_qEndsPart_1 : decode cX6_qEndsPart 1 = .ok (.getfield 257, 3) := dk_180 1 1 (dk_at dksX6_qEndsPart_0 1 rfl rfl)
theorem dX6_qEndsPart_4 : decode cX6_qEndsPart 4 = .ok (.ifCond .ne 47, 3) := dk_154 0 47 (dk_at dksX6_qEndsPart_0 4 rfl rfl)
theorem dX6_qEndsPart_7 : decode cX6_qEndsPart 7 = .ok (.aload_n 0, 1) := dk_42 (dk_at dksX6_qEndsPart_0 7 rfl rfl)
theorem dX6_qEndsPart_8 : decode cX6_qEndsPart 8 = .ok (.getfield 345, 3) := dk_180 1 89 (dk_at dksX6_qEndsPart_0 8 rfl rfl)
theorem dX6_qEndsPart_11 : decode cX6_qEndsPart 11 = .ok (.aload_n 0, 1) := dk_42 (dk_at dksX6_qEndsPart_0 11 rfl rfl)
theorem dX6_qEndsPart_12 : decode cX6_qEndsPart 12 = .ok (.getfield 351, 3) := dk_180 1 95 (dk_at dksX6_qEndsPart_0 12 rfl rfl)
theorem dX6_qEndsPart_15 : decode cX6_qEndsPart 15 = .ok (.if_icmp .le 36, 3) := dk_164 0 36 (dk_at dksX6_qEndsPart_0 15 rfl rfl)
theorem dX6_qEndsPart_18 : decode cX6_qEndsPart 18 = .ok (.aload_n 0, 1) := dk_42 (dk_at dksX6_qEndsPart_0 18 rfl rfl)
theorem dX6_qEndsPart_19 : decode cX6_qEndsPart 19 = .ok (.getfield 245, 3) := dk_180 0 245 (dk_at dksX6_qEndsPart_0 19 rfl rfl)
theorem dX6_qEndsPart_22 : decode cX6_qEndsPart 22 = .ok (.aload_n 0, 1) := dk_42 (dk_at dksX6_qEndsPart_0 22 rfl rfl)
theorem dX6_qEndsPart_23 : decode cX6_qEndsPart 23 = .ok (.getfield 345, 3) := dk_180 1 89 (dk_at dksX6_qEndsPart_1 0 rfl rfl)
theorem dX6_qEndsPart_26 : decode cX6_qEndsPart 26 = .ok (.iconst 1, 1) := dk_4 (dk_at dksX6_qEndsPart_1 3 rfl rfl)
theorem dX6_qEndsPart_27 : decode cX6_qEndsPart 27 = .ok (.isub, 1) := dk_100 (dk_at dksX6_qEndsPart_1 4 rfl rfl)
theorem dX6_qEndsPart_28 : decode cX6_qEndsPart 28 = .ok (.iaload, 1) := dk_46 (dk_at dksX6_qEndsPart_1 5 rfl rfl)
theorem dX6_qEndsPart_29 : decode cX6_qEndsPart 29 = .ok (.bipush 60, 2) := dk_16 60 (dk_at dksX6_qEndsPart_1 6 rfl rfl)
theorem dX6_qEndsPart_31 : decode cX6_qEndsPart 31 = .ok (.if_icmp .lt 20, 3) := dk_161 0 20 (dk_at dksX6_qEndsPart_1 8 rfl rfl)
theorem dX6_qEndsPart_34 : decode cX6_qEndsPart 34 = .ok (.aload_n 0, 1) := dk_42 (dk_at dksX6_qEndsPart_1 11 rfl rfl)
theorem dX6_qEndsPart_35 : decode cX6_qEndsPart 35 = .ok (.dup, 1) := dk_89 (dk_at dksX6_qEndsPart_1 12 rfl rfl)
theorem dX6_qEndsPart_36 : decode cX6_qEndsPart 36 = .ok (.getfield 348, 3) := dk_180 1 92 (dk_at dksX6_qEndsPart_1 13 rfl rfl)
theorem dX6_qEndsPart_39 : decode cX6_qEndsPart 39 = .ok (.iconst 1, 1) := dk_4 (dk_at dksX6_qEndsPart_1 16 rfl rfl)
theorem dX6_qEndsPart_40 : decode cX6_qEndsPart 40 = .ok (.isub, 1) := dk_100 (dk_at dksX6_qEndsPart_1 17 rfl rfl)
theorem dX6_qEndsPart_41 : decode cX6_qEndsPart 41 = .ok (.putfield 348, 3) := dk_181 1 92 (dk_at dksX6_qEndsPart_1 18 rfl rfl)
theorem dX6_qEndsPart_44 : decode cX6_qEndsPart 44 = .ok (.aload_n 0, 1) := dk_42 (dk_at dksX6_qEndsPart_1 21 rfl rfl)
theorem dX6_qEndsPart_45 : decode cX6_qEndsPart 45 = .ok (.invokevirtual 567, 3) := dk_182 2 55 (dk_at dksX6_qEndsPart_2 0 rfl rfl)
theorem dX6_qEndsPart_48 : decode cX6_qEndsPart 48 = .ok (.goto (-48), 3) := dk_167 255 208 (dk_at dksX6_qEndsPart_2 3 rfl rfl)
theorem dX6_qEndsPart_51 : decode cX6_qEndsPart 51 = .ok (.return_, 1) := dk_177 (dk_at dksX6_qEndsPart_2 6 rfl rfl)
abbrev cX6_qDrops : ByteArray := prog_22_method_96_code
def yX6_qDrops : MethodName := ⟨RX6, "qDrops", "()V"⟩
def dkwX6_qDrops_0 : List UInt8 := [42, 89, 180, 1, 89, 4, 100, 181, 1, 89, 42, 42, 180, 0, 245, 42, 180, 1, 89, 46, 182, 2, 49, 177]
abbrev dktX6_qDrops_0 : List UInt8 := dkwX6_qDrops_0 ++ []
theorem dksX6_qDrops_0 : cX6_qDrops.data.toList.drop 0 = dktX6_qDrops_0 := by decide +kernel
theorem dX6_qDrops_0 : decode cX6_qDrops 0 = .ok (.aload_n 0, 1) := dk_42 (dk_at dksX6_qDrops_0 0 rfl rfl)
theorem dX6_qDrops_1 : decode cX6_qDrops 1 = .ok (.dup, 1) := dk_89 (dk_at dksX6_qDrops_0 1 rfl rfl)
theorem dX6_qDrops_2 : decode cX6_qDrops 2 = .ok (.getfield 345, 3) := dk_180 1 89 (dk_at dksX6_qDrops_0 2 rfl rfl)
theorem dX6_qDrops_5 : decode cX6_qDrops 5 = .ok (.iconst 1, 1) := dk_4 (dk_at dksX6_qDrops_0 5 rfl rfl)
theorem dX6_qDrops_6 : decode cX6_qDrops 6 = .ok (.isub, 1) := dk_100 (dk_at dksX6_qDrops_0 6 rfl rfl)
theorem dX6_qDrops_7 : decode cX6_qDrops 7 = .ok (.putfield 345, 3) := dk_181 1 89 (dk_at dksX6_qDrops_0 7 rfl rfl)
theorem dX6_qDrops_10 : decode cX6_qDrops 10 = .ok (.aload_n 0, 1) := dk_42 (dk_at dksX6_qDrops_0 10 rfl rfl)
theorem dX6_qDrops_11 : decode cX6_qDrops 11 = .ok (.aload_n 0, 1) := dk_42 (dk_at dksX6_qDrops_0 11 rfl rfl)
theorem dX6_qDrops_12 : decode cX6_qDrops 12 = .ok (.getfield 245, 3) := dk_180 0 245 (dk_at dksX6_qDrops_0 12 rfl rfl)
theorem dX6_qDrops_15 : decode cX6_qDrops 15 = .ok (.aload_n 0, 1) := dk_42 (dk_at dksX6_qDrops_0 15 rfl rfl)
theorem dX6_qDrops_16 : decode cX6_qDrops 16 = .ok (.getfield 345, 3) := dk_180 1 89 (dk_at dksX6_qDrops_0 16 rfl rfl)
theorem dX6_qDrops_19 : decode cX6_qDrops 19 = .ok (.iaload, 1) := dk_46 (dk_at dksX6_qDrops_0 19 rfl rfl)
theorem dX6_qDrops_20 : decode cX6_qDrops 20 = .ok (.invokevirtual 561, 3) := dk_182 2 49 (dk_at dksX6_qDrops_0 20 rfl rfl)
theorem dX6_qDrops_23 : decode cX6_qDrops 23 = .ok (.return_, 1) := dk_177 (dk_at dksX6_qDrops_0 23 rfl rfl)
abbrev cX6_qGoesOn : ByteArray := prog_22_method_105_code
def yX6_qGoesOn : MethodName := ⟨RX6, "qGoesOn", "()Z"⟩
def dkwX6_qGoesOn_16 : List UInt8 := [154, 0, 12, 42, 4, 42, 180, 1, 7, 182, 1, 31, 3, 172]
abbrev dktX6_qGoesOn_16 : List UInt8 := dkwX6_qGoesOn_16 ++ []
def dkwX6_qGoesOn_15 : List UInt8 := [180, 1, 89, 4, 100, 92, 46, 5, 96, 79, 4, 172, 42, 182, 2, 76, 2, 159, 0, 19, 42, 180, 1, 1]
abbrev dktX6_qGoesOn_15 : List UInt8 := dkwX6_qGoesOn_15 ++ dktX6_qGoesOn_16
def dkwX6_qGoesOn_14 : List UInt8 := [16, 44, 182, 1, 124, 42, 180, 1, 1, 153, 0, 5, 3, 172, 42, 182, 2, 79, 42, 180, 0, 245, 42]
abbrev dktX6_qGoesOn_14 : List UInt8 := dkwX6_qGoesOn_14 ++ dktX6_qGoesOn_15
def dkwX6_qGoesOn_13 : List UInt8 := [181, 1, 89, 4, 172, 42, 182, 2, 76, 16, 21, 159, 0, 12, 42, 182, 2, 76, 16, 22, 160, 0, 39, 42]
abbrev dktX6_qGoesOn_13 : List UInt8 := dkwX6_qGoesOn_13 ++ dktX6_qGoesOn_14
def dkwX6_qGoesOn_12 : List UInt8 := [182, 2, 55, 167, 255, 220, 42, 180, 0, 245, 42, 180, 1, 89, 27, 79, 42, 89, 180, 1, 89, 4, 96]
abbrev dktX6_qGoesOn_12 : List UInt8 := dkwX6_qGoesOn_12 ++ dktX6_qGoesOn_13
def dkwX6_qGoesOn_11 : List UInt8 := [182, 2, 82, 154, 0, 19, 42, 4, 182, 2, 82, 154, 0, 11, 42, 5, 182, 2, 82, 153, 0, 10, 42]
abbrev dktX6_qGoesOn_11 : List UInt8 := dkwX6_qGoesOn_11 ++ dktX6_qGoesOn_12
def dkwX6_qGoesOn_10 : List UInt8 := [100, 46, 16, 43, 160, 0, 7, 4, 167, 0, 4, 5, 60, 42, 6, 182, 2, 82, 154, 0, 27, 42, 7]
abbrev dktX6_qGoesOn_10 : List UInt8 := dkwX6_qGoesOn_10 ++ dktX6_qGoesOn_11
def dkwX6_qGoesOn_9 : List UInt8 := [182, 1, 35, 154, 0, 12, 42, 16, 45, 182, 1, 35, 153, 0, 86, 42, 180, 0, 7, 42, 180, 1, 7, 4]
abbrev dktX6_qGoesOn_9 : List UInt8 := dkwX6_qGoesOn_9 ++ dktX6_qGoesOn_10
def dkwX6_qGoesOn_8 : List UInt8 := [180, 0, 245, 42, 180, 1, 89, 27, 79, 42, 89, 180, 1, 89, 4, 96, 181, 1, 89, 4, 172, 42, 16, 43]
abbrev dktX6_qGoesOn_8 : List UInt8 := dkwX6_qGoesOn_8 ++ dktX6_qGoesOn_9
def dkwX6_qGoesOn_7 : List UInt8 := [182, 2, 82, 154, 0, 11, 42, 7, 182, 2, 82, 153, 0, 10, 42, 182, 2, 55, 167, 255, 236, 42]
abbrev dktX6_qGoesOn_7 : List UInt8 := dkwX6_qGoesOn_7 ++ dktX6_qGoesOn_8
def dkwX6_qGoesOn_6 : List UInt8 := [42, 180, 0, 7, 42, 180, 1, 7, 4, 100, 46, 16, 42, 160, 0, 7, 6, 167, 0, 4, 7, 60, 42, 6]
abbrev dktX6_qGoesOn_6 : List UInt8 := dkwX6_qGoesOn_6 ++ dktX6_qGoesOn_7
def dkwX6_qGoesOn_5 : List UInt8 := [182, 2, 73, 167, 255, 137, 42, 16, 42, 182, 1, 35, 154, 0, 12, 42, 16, 47, 182, 1, 35, 153, 0, 70]
abbrev dktX6_qGoesOn_5 : List UInt8 := dkwX6_qGoesOn_5 ++ dktX6_qGoesOn_6
def dkwX6_qGoesOn_4 : List UInt8 := [180, 0, 245, 42, 180, 1, 89, 46, 16, 23, 160, 0, 7, 8, 167, 0, 5, 16, 6, 182, 2, 49, 42]
abbrev dktX6_qGoesOn_4 : List UInt8 := dkwX6_qGoesOn_4 ++ dktX6_qGoesOn_5
def dkwX6_qGoesOn_3 : List UInt8 := [180, 1, 92, 4, 100, 181, 1, 92, 42, 180, 0, 245, 42, 180, 1, 89, 46, 16, 20, 159, 0, 27, 42, 42]
abbrev dktX6_qGoesOn_3 : List UInt8 := dkwX6_qGoesOn_3 ++ dktX6_qGoesOn_4
def dkwX6_qGoesOn_2 : List UInt8 := [180, 1, 7, 4, 96, 181, 1, 7, 42, 182, 2, 79, 42, 89, 180, 1, 89, 4, 100, 181, 1, 89, 42, 89]
abbrev dktX6_qGoesOn_2 : List UInt8 := dkwX6_qGoesOn_2 ++ dktX6_qGoesOn_3
def dkwX6_qGoesOn_1 : List UInt8 := [159, 0, 21, 42, 182, 2, 76, 16, 23, 159, 0, 12, 42, 182, 2, 76, 16, 24, 160, 0, 82, 42, 89]
abbrev dktX6_qGoesOn_1 : List UInt8 := dkwX6_qGoesOn_1 ++ dktX6_qGoesOn_2
def dkwX6_qGoesOn_0 : List UInt8 := [42, 180, 1, 1, 154, 0, 118, 42, 182, 1, 13, 16, 41, 160, 0, 109, 42, 182, 2, 76, 16, 20]
abbrev dktX6_qGoesOn_0 : List UInt8 := dkwX6_qGoesOn_0 ++ dktX6_qGoesOn_1
theorem dksX6_qGoesOn_0 : cX6_qGoesOn.data.toList.drop 0 = dktX6_qGoesOn_0 := by decide +kernel
theorem dksX6_qGoesOn_1 : cX6_qGoesOn.data.toList.drop 22 = dktX6_qGoesOn_1 := dk_seg dksX6_qGoesOn_0 22 rfl rfl
theorem dksX6_qGoesOn_2 : cX6_qGoesOn.data.toList.drop 45 = dktX6_qGoesOn_2 := dk_seg dksX6_qGoesOn_1 23 rfl rfl
theorem dksX6_qGoesOn_3 : cX6_qGoesOn.data.toList.drop 69 = dktX6_qGoesOn_3 := dk_seg dksX6_qGoesOn_2 24 rfl rfl
theorem dksX6_qGoesOn_4 : cX6_qGoesOn.data.toList.drop 93 = dktX6_qGoesOn_4 := dk_seg dksX6_qGoesOn_3 24 rfl rfl
theorem dksX6_qGoesOn_5 : cX6_qGoesOn.data.toList.drop 116 = dktX6_qGoesOn_5 := dk_seg dksX6_qGoesOn_4 23 rfl rfl
theorem dksX6_qGoesOn_6 : cX6_qGoesOn.data.toList.drop 140 = dktX6_qGoesOn_6 := dk_seg dksX6_qGoesOn_5 24 rfl rfl
theorem dksX6_qGoesOn_7 : cX6_qGoesOn.data.toList.drop 164 = dktX6_qGoesOn_7 := dk_seg dksX6_qGoesOn_6 24 rfl rfl
theorem dksX6_qGoesOn_8 : cX6_qGoesOn.data.toList.drop 186 = dktX6_qGoesOn_8 := dk_seg dksX6_qGoesOn_7 22 rfl rfl
theorem dksX6_qGoesOn_9 : cX6_qGoesOn.data.toList.drop 210 = dktX6_qGoesOn_9 := dk_seg dksX6_qGoesOn_8 24 rfl rfl
theorem dksX6_qGoesOn_10 : cX6_qGoesOn.data.toList.drop 234 = dktX6_qGoesOn_10 := dk_seg dksX6_qGoesOn_9 24 rfl rfl
theorem dksX6_qGoesOn_11 : cX6_qGoesOn.data.toList.drop 257 = dktX6_qGoesOn_11 := dk_seg dksX6_qGoesOn_10 23 rfl rfl
theorem dksX6_qGoesOn_12 : cX6_qGoesOn.data.toList.drop 280 = dktX6_qGoesOn_12 := dk_seg dksX6_qGoesOn_11 23 rfl rfl
theorem dksX6_qGoesOn_13 : cX6_qGoesOn.data.toList.drop 303 = dktX6_qGoesOn_13 := dk_seg dksX6_qGoesOn_12 23 rfl rfl
theorem dksX6_qGoesOn_14 : cX6_qGoesOn.data.toList.drop 327 = dktX6_qGoesOn_14 := dk_seg dksX6_qGoesOn_13 24 rfl rfl
theorem dksX6_qGoesOn_15 : cX6_qGoesOn.data.toList.drop 350 = dktX6_qGoesOn_15 := dk_seg dksX6_qGoesOn_14 23 rfl rfl
theorem dksX6_qGoesOn_16 : cX6_qGoesOn.data.toList.drop 374 = dktX6_qGoesOn_16 := dk_seg dksX6_qGoesOn_15 24 rfl rfl
theorem dX6_qGoesOn_0 : decode cX6_qGoesOn 0 = .ok (.aload_n 0, 1) := dk_42 (dk_at dksX6_qGoesOn_0 0 rfl rfl)
theorem dX6_qGoesOn_1 : decode cX6_qGoesOn 1 = .ok (.getfield 257, 3) := dk_180 1 1 (dk_at dksX6_qGoesOn_0 1 rfl rfl)
theorem dX6_qGoesOn_4 : decode cX6_qGoesOn 4 = .ok (.ifCond .ne 118, 3) := dk_154 0 118 (dk_at dksX6_qGoesOn_0 4 rfl rfl)
theorem dX6_qGoesOn_7 : decode cX6_qGoesOn 7 = .ok (.aload_n 0, 1) := dk_42 (dk_at dksX6_qGoesOn_0 7 rfl rfl)
theorem dX6_qGoesOn_8 : decode cX6_qGoesOn 8 = .ok (.invokevirtual 269, 3) := dk_182 1 13 (dk_at dksX6_qGoesOn_0 8 rfl rfl)
theorem dX6_qGoesOn_11 : decode cX6_qGoesOn 11 = .ok (.bipush 41, 2) := dk_16 41 (dk_at dksX6_qGoesOn_0 11 rfl rfl)
theorem dX6_qGoesOn_13 : decode cX6_qGoesOn 13 = .ok (.if_icmp .ne 109, 3) := dk_160 0 109 (dk_at dksX6_qGoesOn_0 13 rfl rfl)
theorem dX6_qGoesOn_16 : decode cX6_qGoesOn 16 = .ok (.aload_n 0, 1) := dk_42 (dk_at dksX6_qGoesOn_0 16 rfl rfl)
theorem dX6_qGoesOn_17 : decode cX6_qGoesOn 17 = .ok (.invokevirtual 588, 3) := dk_182 2 76 (dk_at dksX6_qGoesOn_0 17 rfl rfl)
theorem dX6_qGoesOn_20 : decode cX6_qGoesOn 20 = .ok (.bipush 20, 2) := dk_16 20 (dk_at dksX6_qGoesOn_0 20 rfl rfl)
theorem dX6_qGoesOn_22 : decode cX6_qGoesOn 22 = .ok (.if_icmp .eq 21, 3) := dk_159 0 21 (dk_at dksX6_qGoesOn_1 0 rfl rfl)
theorem dX6_qGoesOn_25 : decode cX6_qGoesOn 25 = .ok (.aload_n 0, 1) := dk_42 (dk_at dksX6_qGoesOn_1 3 rfl rfl)
theorem dX6_qGoesOn_26 : decode cX6_qGoesOn 26 = .ok (.invokevirtual 588, 3) := dk_182 2 76 (dk_at dksX6_qGoesOn_1 4 rfl rfl)
theorem dX6_qGoesOn_29 : decode cX6_qGoesOn 29 = .ok (.bipush 23, 2) := dk_16 23 (dk_at dksX6_qGoesOn_1 7 rfl rfl)
theorem dX6_qGoesOn_31 : decode cX6_qGoesOn 31 = .ok (.if_icmp .eq 12, 3) := dk_159 0 12 (dk_at dksX6_qGoesOn_1 9 rfl rfl)
theorem dX6_qGoesOn_34 : decode cX6_qGoesOn 34 = .ok (.aload_n 0, 1) := dk_42 (dk_at dksX6_qGoesOn_1 12 rfl rfl)
theorem dX6_qGoesOn_35 : decode cX6_qGoesOn 35 = .ok (.invokevirtual 588, 3) := dk_182 2 76 (dk_at dksX6_qGoesOn_1 13 rfl rfl)
theorem dX6_qGoesOn_38 : decode cX6_qGoesOn 38 = .ok (.bipush 24, 2) := dk_16 24 (dk_at dksX6_qGoesOn_1 16 rfl rfl)
theorem dX6_qGoesOn_40 : decode cX6_qGoesOn 40 = .ok (.if_icmp .ne 82, 3) := dk_160 0 82 (dk_at dksX6_qGoesOn_1 18 rfl rfl)
theorem dX6_qGoesOn_43 : decode cX6_qGoesOn 43 = .ok (.aload_n 0, 1) := dk_42 (dk_at dksX6_qGoesOn_1 21 rfl rfl)
theorem dX6_qGoesOn_44 : decode cX6_qGoesOn 44 = .ok (.dup, 1) := dk_89 (dk_at dksX6_qGoesOn_1 22 rfl rfl)
theorem dX6_qGoesOn_45 : decode cX6_qGoesOn 45 = .ok (.getfield 263, 3) := dk_180 1 7 (dk_at dksX6_qGoesOn_2 0 rfl rfl)
theorem dX6_qGoesOn_48 : decode cX6_qGoesOn 48 = .ok (.iconst 1, 1) := dk_4 (dk_at dksX6_qGoesOn_2 3 rfl rfl)
theorem dX6_qGoesOn_49 : decode cX6_qGoesOn 49 = .ok (.iadd, 1) := dk_96 (dk_at dksX6_qGoesOn_2 4 rfl rfl)
theorem dX6_qGoesOn_50 : decode cX6_qGoesOn 50 = .ok (.putfield 263, 3) := dk_181 1 7 (dk_at dksX6_qGoesOn_2 5 rfl rfl)
theorem dX6_qGoesOn_53 : decode cX6_qGoesOn 53 = .ok (.aload_n 0, 1) := dk_42 (dk_at dksX6_qGoesOn_2 8 rfl rfl)
theorem dX6_qGoesOn_54 : decode cX6_qGoesOn 54 = .ok (.invokevirtual 591, 3) := dk_182 2 79 (dk_at dksX6_qGoesOn_2 9 rfl rfl)
theorem dX6_qGoesOn_57 : decode cX6_qGoesOn 57 = .ok (.aload_n 0, 1) := dk_42 (dk_at dksX6_qGoesOn_2 12 rfl rfl)
theorem dX6_qGoesOn_58 : decode cX6_qGoesOn 58 = .ok (.dup, 1) := dk_89 (dk_at dksX6_qGoesOn_2 13 rfl rfl)
theorem dX6_qGoesOn_59 : decode cX6_qGoesOn 59 = .ok (.getfield 345, 3) := dk_180 1 89 (dk_at dksX6_qGoesOn_2 14 rfl rfl)
theorem dX6_qGoesOn_62 : decode cX6_qGoesOn 62 = .ok (.iconst 1, 1) := dk_4 (dk_at dksX6_qGoesOn_2 17 rfl rfl)
theorem dX6_qGoesOn_63 : decode cX6_qGoesOn 63 = .ok (.isub, 1) := dk_100 (dk_at dksX6_qGoesOn_2 18 rfl rfl)
theorem dX6_qGoesOn_64 : decode cX6_qGoesOn 64 = .ok (.putfield 345, 3) := dk_181 1 89 (dk_at dksX6_qGoesOn_2 19 rfl rfl)
theorem dX6_qGoesOn_67 : decode cX6_qGoesOn 67 = .ok (.aload_n 0, 1) := dk_42 (dk_at dksX6_qGoesOn_2 22 rfl rfl)
theorem dX6_qGoesOn_68 : decode cX6_qGoesOn 68 = .ok (.dup, 1) := dk_89 (dk_at dksX6_qGoesOn_2 23 rfl rfl)
theorem dX6_qGoesOn_69 : decode cX6_qGoesOn 69 = .ok (.getfield 348, 3) := dk_180 1 92 (dk_at dksX6_qGoesOn_3 0 rfl rfl)
theorem dX6_qGoesOn_72 : decode cX6_qGoesOn 72 = .ok (.iconst 1, 1) := dk_4 (dk_at dksX6_qGoesOn_3 3 rfl rfl)
theorem dX6_qGoesOn_73 : decode cX6_qGoesOn 73 = .ok (.isub, 1) := dk_100 (dk_at dksX6_qGoesOn_3 4 rfl rfl)
theorem dX6_qGoesOn_74 : decode cX6_qGoesOn 74 = .ok (.putfield 348, 3) := dk_181 1 92 (dk_at dksX6_qGoesOn_3 5 rfl rfl)
theorem dX6_qGoesOn_77 : decode cX6_qGoesOn 77 = .ok (.aload_n 0, 1) := dk_42 (dk_at dksX6_qGoesOn_3 8 rfl rfl)
theorem dX6_qGoesOn_78 : decode cX6_qGoesOn 78 = .ok (.getfield 245, 3) := dk_180 0 245 (dk_at dksX6_qGoesOn_3 9 rfl rfl)
theorem dX6_qGoesOn_81 : decode cX6_qGoesOn 81 = .ok (.aload_n 0, 1) := dk_42 (dk_at dksX6_qGoesOn_3 12 rfl rfl)
theorem dX6_qGoesOn_82 : decode cX6_qGoesOn 82 = .ok (.getfield 345, 3) := dk_180 1 89 (dk_at dksX6_qGoesOn_3 13 rfl rfl)
theorem dX6_qGoesOn_85 : decode cX6_qGoesOn 85 = .ok (.iaload, 1) := dk_46 (dk_at dksX6_qGoesOn_3 16 rfl rfl)
theorem dX6_qGoesOn_86 : decode cX6_qGoesOn 86 = .ok (.bipush 20, 2) := dk_16 20 (dk_at dksX6_qGoesOn_3 17 rfl rfl)
theorem dX6_qGoesOn_88 : decode cX6_qGoesOn 88 = .ok (.if_icmp .eq 27, 3) := dk_159 0 27 (dk_at dksX6_qGoesOn_3 19 rfl rfl)
theorem dX6_qGoesOn_91 : decode cX6_qGoesOn 91 = .ok (.aload_n 0, 1) := dk_42 (dk_at dksX6_qGoesOn_3 22 rfl rfl)
theorem dX6_qGoesOn_92 : decode cX6_qGoesOn 92 = .ok (.aload_n 0, 1) := dk_42 (dk_at dksX6_qGoesOn_3 23 rfl rfl)
theorem dX6_qGoesOn_93 : decode cX6_qGoesOn 93 = .ok (.getfield 245, 3) := dk_180 0 245 (dk_at dksX6_qGoesOn_4 0 rfl rfl)
theorem dX6_qGoesOn_96 : decode cX6_qGoesOn 96 = .ok (.aload_n 0, 1) := dk_42 (dk_at dksX6_qGoesOn_4 3 rfl rfl)
theorem dX6_qGoesOn_97 : decode cX6_qGoesOn 97 = .ok (.getfield 345, 3) := dk_180 1 89 (dk_at dksX6_qGoesOn_4 4 rfl rfl)
theorem dX6_qGoesOn_100 : decode cX6_qGoesOn 100 = .ok (.iaload, 1) := dk_46 (dk_at dksX6_qGoesOn_4 7 rfl rfl)
theorem dX6_qGoesOn_101 : decode cX6_qGoesOn 101 = .ok (.bipush 23, 2) := dk_16 23 (dk_at dksX6_qGoesOn_4 8 rfl rfl)
theorem dX6_qGoesOn_103 : decode cX6_qGoesOn 103 = .ok (.if_icmp .ne 7, 3) := dk_160 0 7 (dk_at dksX6_qGoesOn_4 10 rfl rfl)
theorem dX6_qGoesOn_106 : decode cX6_qGoesOn 106 = .ok (.iconst 5, 1) := dk_8 (dk_at dksX6_qGoesOn_4 13 rfl rfl)
theorem dX6_qGoesOn_107 : decode cX6_qGoesOn 107 = .ok (.goto 5, 3) := dk_167 0 5 (dk_at dksX6_qGoesOn_4 14 rfl rfl)
theorem dX6_qGoesOn_110 : decode cX6_qGoesOn 110 = .ok (.bipush 6, 2) := dk_16 6 (dk_at dksX6_qGoesOn_4 17 rfl rfl)
theorem dX6_qGoesOn_112 : decode cX6_qGoesOn 112 = .ok (.invokevirtual 561, 3) := dk_182 2 49 (dk_at dksX6_qGoesOn_4 19 rfl rfl)
theorem dX6_qGoesOn_115 : decode cX6_qGoesOn 115 = .ok (.aload_n 0, 1) := dk_42 (dk_at dksX6_qGoesOn_4 22 rfl rfl)
theorem dX6_qGoesOn_116 : decode cX6_qGoesOn 116 = .ok (.invokevirtual 585, 3) := dk_182 2 73 (dk_at dksX6_qGoesOn_5 0 rfl rfl)
theorem dX6_qGoesOn_119 : decode cX6_qGoesOn 119 = .ok (.goto (-119), 3) := dk_167 255 137 (dk_at dksX6_qGoesOn_5 3 rfl rfl)
theorem dX6_qGoesOn_122 : decode cX6_qGoesOn 122 = .ok (.aload_n 0, 1) := dk_42 (dk_at dksX6_qGoesOn_5 6 rfl rfl)
theorem dX6_qGoesOn_123 : decode cX6_qGoesOn 123 = .ok (.bipush 42, 2) := dk_16 42 (dk_at dksX6_qGoesOn_5 7 rfl rfl)
theorem dX6_qGoesOn_125 : decode cX6_qGoesOn 125 = .ok (.invokevirtual 291, 3) := dk_182 1 35 (dk_at dksX6_qGoesOn_5 9 rfl rfl)
theorem dX6_qGoesOn_128 : decode cX6_qGoesOn 128 = .ok (.ifCond .ne 12, 3) := dk_154 0 12 (dk_at dksX6_qGoesOn_5 12 rfl rfl)
theorem dX6_qGoesOn_131 : decode cX6_qGoesOn 131 = .ok (.aload_n 0, 1) := dk_42 (dk_at dksX6_qGoesOn_5 15 rfl rfl)
theorem dX6_qGoesOn_132 : decode cX6_qGoesOn 132 = .ok (.bipush 47, 2) := dk_16 47 (dk_at dksX6_qGoesOn_5 16 rfl rfl)
theorem dX6_qGoesOn_134 : decode cX6_qGoesOn 134 = .ok (.invokevirtual 291, 3) := dk_182 1 35 (dk_at dksX6_qGoesOn_5 18 rfl rfl)
theorem dX6_qGoesOn_137 : decode cX6_qGoesOn 137 = .ok (.ifCond .eq 70, 3) := dk_153 0 70 (dk_at dksX6_qGoesOn_5 21 rfl rfl)
theorem dX6_qGoesOn_140 : decode cX6_qGoesOn 140 = .ok (.aload_n 0, 1) := dk_42 (dk_at dksX6_qGoesOn_6 0 rfl rfl)
theorem dX6_qGoesOn_141 : decode cX6_qGoesOn 141 = .ok (.getfield 7, 3) := dk_180 0 7 (dk_at dksX6_qGoesOn_6 1 rfl rfl)
theorem dX6_qGoesOn_144 : decode cX6_qGoesOn 144 = .ok (.aload_n 0, 1) := dk_42 (dk_at dksX6_qGoesOn_6 4 rfl rfl)
theorem dX6_qGoesOn_145 : decode cX6_qGoesOn 145 = .ok (.getfield 263, 3) := dk_180 1 7 (dk_at dksX6_qGoesOn_6 5 rfl rfl)
theorem dX6_qGoesOn_148 : decode cX6_qGoesOn 148 = .ok (.iconst 1, 1) := dk_4 (dk_at dksX6_qGoesOn_6 8 rfl rfl)
theorem dX6_qGoesOn_149 : decode cX6_qGoesOn 149 = .ok (.isub, 1) := dk_100 (dk_at dksX6_qGoesOn_6 9 rfl rfl)
theorem dX6_qGoesOn_150 : decode cX6_qGoesOn 150 = .ok (.iaload, 1) := dk_46 (dk_at dksX6_qGoesOn_6 10 rfl rfl)
theorem dX6_qGoesOn_151 : decode cX6_qGoesOn 151 = .ok (.bipush 42, 2) := dk_16 42 (dk_at dksX6_qGoesOn_6 11 rfl rfl)
theorem dX6_qGoesOn_153 : decode cX6_qGoesOn 153 = .ok (.if_icmp .ne 7, 3) := dk_160 0 7 (dk_at dksX6_qGoesOn_6 13 rfl rfl)
theorem dX6_qGoesOn_156 : decode cX6_qGoesOn 156 = .ok (.iconst 3, 1) := dk_6 (dk_at dksX6_qGoesOn_6 16 rfl rfl)
theorem dX6_qGoesOn_157 : decode cX6_qGoesOn 157 = .ok (.goto 4, 3) := dk_167 0 4 (dk_at dksX6_qGoesOn_6 17 rfl rfl)
theorem dX6_qGoesOn_160 : decode cX6_qGoesOn 160 = .ok (.iconst 4, 1) := dk_7 (dk_at dksX6_qGoesOn_6 20 rfl rfl)
theorem dX6_qGoesOn_161 : decode cX6_qGoesOn 161 = .ok (.istore_n 1, 1) := dk_60 (dk_at dksX6_qGoesOn_6 21 rfl rfl)
theorem dX6_qGoesOn_162 : decode cX6_qGoesOn 162 = .ok (.aload_n 0, 1) := dk_42 (dk_at dksX6_qGoesOn_6 22 rfl rfl)
theorem dX6_qGoesOn_163 : decode cX6_qGoesOn 163 = .ok (.iconst 3, 1) := dk_6 (dk_at dksX6_qGoesOn_6 23 rfl rfl)
theorem dX6_qGoesOn_164 : decode cX6_qGoesOn 164 = .ok (.invokevirtual 594, 3) := dk_182 2 82 (dk_at dksX6_qGoesOn_7 0 rfl rfl)
theorem dX6_qGoesOn_167 : decode cX6_qGoesOn 167 = .ok (.ifCond .ne 11, 3) := dk_154 0 11 (dk_at dksX6_qGoesOn_7 3 rfl rfl)
theorem dX6_qGoesOn_170 : decode cX6_qGoesOn 170 = .ok (.aload_n 0, 1) := dk_42 (dk_at dksX6_qGoesOn_7 6 rfl rfl)
theorem dX6_qGoesOn_171 : decode cX6_qGoesOn 171 = .ok (.iconst 4, 1) := dk_7 (dk_at dksX6_qGoesOn_7 7 rfl rfl)
theorem dX6_qGoesOn_172 : decode cX6_qGoesOn 172 = .ok (.invokevirtual 594, 3) := dk_182 2 82 (dk_at dksX6_qGoesOn_7 8 rfl rfl)
theorem dX6_qGoesOn_175 : decode cX6_qGoesOn 175 = .ok (.ifCond .eq 10, 3) := dk_153 0 10 (dk_at dksX6_qGoesOn_7 11 rfl rfl)
theorem dX6_qGoesOn_178 : decode cX6_qGoesOn 178 = .ok (.aload_n 0, 1) := dk_42 (dk_at dksX6_qGoesOn_7 14 rfl rfl)
theorem dX6_qGoesOn_179 : decode cX6_qGoesOn 179 = .ok (.invokevirtual 567, 3) := dk_182 2 55 (dk_at dksX6_qGoesOn_7 15 rfl rfl)
theorem dX6_qGoesOn_182 : decode cX6_qGoesOn 182 = .ok (.goto (-20), 3) := dk_167 255 236 (dk_at dksX6_qGoesOn_7 18 rfl rfl)
theorem dX6_qGoesOn_185 : decode cX6_qGoesOn 185 = .ok (.aload_n 0, 1) := dk_42 (dk_at dksX6_qGoesOn_7 21 rfl rfl)
theorem dX6_qGoesOn_186 : decode cX6_qGoesOn 186 = .ok (.getfield 245, 3) := dk_180 0 245 (dk_at dksX6_qGoesOn_8 0 rfl rfl)
theorem dX6_qGoesOn_189 : decode cX6_qGoesOn 189 = .ok (.aload_n 0, 1) := dk_42 (dk_at dksX6_qGoesOn_8 3 rfl rfl)
theorem dX6_qGoesOn_190 : decode cX6_qGoesOn 190 = .ok (.getfield 345, 3) := dk_180 1 89 (dk_at dksX6_qGoesOn_8 4 rfl rfl)
theorem dX6_qGoesOn_193 : decode cX6_qGoesOn 193 = .ok (.iload_n 1, 1) := dk_27 (dk_at dksX6_qGoesOn_8 7 rfl rfl)
theorem dX6_qGoesOn_194 : decode cX6_qGoesOn 194 = .ok (.iastore, 1) := dk_79 (dk_at dksX6_qGoesOn_8 8 rfl rfl)
theorem dX6_qGoesOn_195 : decode cX6_qGoesOn 195 = .ok (.aload_n 0, 1) := dk_42 (dk_at dksX6_qGoesOn_8 9 rfl rfl)
theorem dX6_qGoesOn_196 : decode cX6_qGoesOn 196 = .ok (.dup, 1) := dk_89 (dk_at dksX6_qGoesOn_8 10 rfl rfl)
theorem dX6_qGoesOn_197 : decode cX6_qGoesOn 197 = .ok (.getfield 345, 3) := dk_180 1 89 (dk_at dksX6_qGoesOn_8 11 rfl rfl)
theorem dX6_qGoesOn_200 : decode cX6_qGoesOn 200 = .ok (.iconst 1, 1) := dk_4 (dk_at dksX6_qGoesOn_8 14 rfl rfl)
theorem dX6_qGoesOn_201 : decode cX6_qGoesOn 201 = .ok (.iadd, 1) := dk_96 (dk_at dksX6_qGoesOn_8 15 rfl rfl)
theorem dX6_qGoesOn_202 : decode cX6_qGoesOn 202 = .ok (.putfield 345, 3) := dk_181 1 89 (dk_at dksX6_qGoesOn_8 16 rfl rfl)
theorem dX6_qGoesOn_205 : decode cX6_qGoesOn 205 = .ok (.iconst 1, 1) := dk_4 (dk_at dksX6_qGoesOn_8 19 rfl rfl)
theorem dX6_qGoesOn_206 : decode cX6_qGoesOn 206 = .ok (.ireturn, 1) := dk_172 (dk_at dksX6_qGoesOn_8 20 rfl rfl)
theorem dX6_qGoesOn_207 : decode cX6_qGoesOn 207 = .ok (.aload_n 0, 1) := dk_42 (dk_at dksX6_qGoesOn_8 21 rfl rfl)
theorem dX6_qGoesOn_208 : decode cX6_qGoesOn 208 = .ok (.bipush 43, 2) := dk_16 43 (dk_at dksX6_qGoesOn_8 22 rfl rfl)
theorem dX6_qGoesOn_210 : decode cX6_qGoesOn 210 = .ok (.invokevirtual 291, 3) := dk_182 1 35 (dk_at dksX6_qGoesOn_9 0 rfl rfl)
theorem dX6_qGoesOn_213 : decode cX6_qGoesOn 213 = .ok (.ifCond .ne 12, 3) := dk_154 0 12 (dk_at dksX6_qGoesOn_9 3 rfl rfl)
theorem dX6_qGoesOn_216 : decode cX6_qGoesOn 216 = .ok (.aload_n 0, 1) := dk_42 (dk_at dksX6_qGoesOn_9 6 rfl rfl)
theorem dX6_qGoesOn_217 : decode cX6_qGoesOn 217 = .ok (.bipush 45, 2) := dk_16 45 (dk_at dksX6_qGoesOn_9 7 rfl rfl)
theorem dX6_qGoesOn_219 : decode cX6_qGoesOn 219 = .ok (.invokevirtual 291, 3) := dk_182 1 35 (dk_at dksX6_qGoesOn_9 9 rfl rfl)
theorem dX6_qGoesOn_222 : decode cX6_qGoesOn 222 = .ok (.ifCond .eq 86, 3) := dk_153 0 86 (dk_at dksX6_qGoesOn_9 12 rfl rfl)
theorem dX6_qGoesOn_225 : decode cX6_qGoesOn 225 = .ok (.aload_n 0, 1) := dk_42 (dk_at dksX6_qGoesOn_9 15 rfl rfl)
theorem dX6_qGoesOn_226 : decode cX6_qGoesOn 226 = .ok (.getfield 7, 3) := dk_180 0 7 (dk_at dksX6_qGoesOn_9 16 rfl rfl)
theorem dX6_qGoesOn_229 : decode cX6_qGoesOn 229 = .ok (.aload_n 0, 1) := dk_42 (dk_at dksX6_qGoesOn_9 19 rfl rfl)
theorem dX6_qGoesOn_230 : decode cX6_qGoesOn 230 = .ok (.getfield 263, 3) := dk_180 1 7 (dk_at dksX6_qGoesOn_9 20 rfl rfl)
theorem dX6_qGoesOn_233 : decode cX6_qGoesOn 233 = .ok (.iconst 1, 1) := dk_4 (dk_at dksX6_qGoesOn_9 23 rfl rfl)
theorem dX6_qGoesOn_234 : decode cX6_qGoesOn 234 = .ok (.isub, 1) := dk_100 (dk_at dksX6_qGoesOn_10 0 rfl rfl)
theorem dX6_qGoesOn_235 : decode cX6_qGoesOn 235 = .ok (.iaload, 1) := dk_46 (dk_at dksX6_qGoesOn_10 1 rfl rfl)
theorem dX6_qGoesOn_236 : decode cX6_qGoesOn 236 = .ok (.bipush 43, 2) := dk_16 43 (dk_at dksX6_qGoesOn_10 2 rfl rfl)
theorem dX6_qGoesOn_238 : decode cX6_qGoesOn 238 = .ok (.if_icmp .ne 7, 3) := dk_160 0 7 (dk_at dksX6_qGoesOn_10 4 rfl rfl)
theorem dX6_qGoesOn_241 : decode cX6_qGoesOn 241 = .ok (.iconst 1, 1) := dk_4 (dk_at dksX6_qGoesOn_10 7 rfl rfl)
theorem dX6_qGoesOn_242 : decode cX6_qGoesOn 242 = .ok (.goto 4, 3) := dk_167 0 4 (dk_at dksX6_qGoesOn_10 8 rfl rfl)
theorem dX6_qGoesOn_245 : decode cX6_qGoesOn 245 = .ok (.iconst 2, 1) := dk_5 (dk_at dksX6_qGoesOn_10 11 rfl rfl)
theorem dX6_qGoesOn_246 : decode cX6_qGoesOn 246 = .ok (.istore_n 1, 1) := dk_60 (dk_at dksX6_qGoesOn_10 12 rfl rfl)
theorem dX6_qGoesOn_247 : decode cX6_qGoesOn 247 = .ok (.aload_n 0, 1) := dk_42 (dk_at dksX6_qGoesOn_10 13 rfl rfl)
theorem dX6_qGoesOn_248 : decode cX6_qGoesOn 248 = .ok (.iconst 3, 1) := dk_6 (dk_at dksX6_qGoesOn_10 14 rfl rfl)
theorem dX6_qGoesOn_249 : decode cX6_qGoesOn 249 = .ok (.invokevirtual 594, 3) := dk_182 2 82 (dk_at dksX6_qGoesOn_10 15 rfl rfl)
theorem dX6_qGoesOn_252 : decode cX6_qGoesOn 252 = .ok (.ifCond .ne 27, 3) := dk_154 0 27 (dk_at dksX6_qGoesOn_10 18 rfl rfl)
theorem dX6_qGoesOn_255 : decode cX6_qGoesOn 255 = .ok (.aload_n 0, 1) := dk_42 (dk_at dksX6_qGoesOn_10 21 rfl rfl)
theorem dX6_qGoesOn_256 : decode cX6_qGoesOn 256 = .ok (.iconst 4, 1) := dk_7 (dk_at dksX6_qGoesOn_10 22 rfl rfl)
theorem dX6_qGoesOn_257 : decode cX6_qGoesOn 257 = .ok (.invokevirtual 594, 3) := dk_182 2 82 (dk_at dksX6_qGoesOn_11 0 rfl rfl)
theorem dX6_qGoesOn_260 : decode cX6_qGoesOn 260 = .ok (.ifCond .ne 19, 3) := dk_154 0 19 (dk_at dksX6_qGoesOn_11 3 rfl rfl)
theorem dX6_qGoesOn_263 : decode cX6_qGoesOn 263 = .ok (.aload_n 0, 1) := dk_42 (dk_at dksX6_qGoesOn_11 6 rfl rfl)
theorem dX6_qGoesOn_264 : decode cX6_qGoesOn 264 = .ok (.iconst 1, 1) := dk_4 (dk_at dksX6_qGoesOn_11 7 rfl rfl)
theorem dX6_qGoesOn_265 : decode cX6_qGoesOn 265 = .ok (.invokevirtual 594, 3) := dk_182 2 82 (dk_at dksX6_qGoesOn_11 8 rfl rfl)
theorem dX6_qGoesOn_268 : decode cX6_qGoesOn 268 = .ok (.ifCond .ne 11, 3) := dk_154 0 11 (dk_at dksX6_qGoesOn_11 11 rfl rfl)
theorem dX6_qGoesOn_271 : decode cX6_qGoesOn 271 = .ok (.aload_n 0, 1) := dk_42 (dk_at dksX6_qGoesOn_11 14 rfl rfl)
theorem dX6_qGoesOn_272 : decode cX6_qGoesOn 272 = .ok (.iconst 2, 1) := dk_5 (dk_at dksX6_qGoesOn_11 15 rfl rfl)
theorem dX6_qGoesOn_273 : decode cX6_qGoesOn 273 = .ok (.invokevirtual 594, 3) := dk_182 2 82 (dk_at dksX6_qGoesOn_11 16 rfl rfl)
theorem dX6_qGoesOn_276 : decode cX6_qGoesOn 276 = .ok (.ifCond .eq 10, 3) := dk_153 0 10 (dk_at dksX6_qGoesOn_11 19 rfl rfl)
theorem dX6_qGoesOn_279 : decode cX6_qGoesOn 279 = .ok (.aload_n 0, 1) := dk_42 (dk_at dksX6_qGoesOn_11 22 rfl rfl)
theorem dX6_qGoesOn_280 : decode cX6_qGoesOn 280 = .ok (.invokevirtual 567, 3) := dk_182 2 55 (dk_at dksX6_qGoesOn_12 0 rfl rfl)
theorem dX6_qGoesOn_283 : decode cX6_qGoesOn 283 = .ok (.goto (-36), 3) := dk_167 255 220 (dk_at dksX6_qGoesOn_12 3 rfl rfl)
theorem dX6_qGoesOn_286 : decode cX6_qGoesOn 286 = .ok (.aload_n 0, 1) := dk_42 (dk_at dksX6_qGoesOn_12 6 rfl rfl)
theorem dX6_qGoesOn_287 : decode cX6_qGoesOn 287 = .ok (.getfield 245, 3) := dk_180 0 245 (dk_at dksX6_qGoesOn_12 7 rfl rfl)
theorem dX6_qGoesOn_290 : decode cX6_qGoesOn 290 = .ok (.aload_n 0, 1) := dk_42 (dk_at dksX6_qGoesOn_12 10 rfl rfl)
theorem dX6_qGoesOn_291 : decode cX6_qGoesOn 291 = .ok (.getfield 345, 3) := dk_180 1 89 (dk_at dksX6_qGoesOn_12 11 rfl rfl)
theorem dX6_qGoesOn_294 : decode cX6_qGoesOn 294 = .ok (.iload_n 1, 1) := dk_27 (dk_at dksX6_qGoesOn_12 14 rfl rfl)
theorem dX6_qGoesOn_295 : decode cX6_qGoesOn 295 = .ok (.iastore, 1) := dk_79 (dk_at dksX6_qGoesOn_12 15 rfl rfl)
theorem dX6_qGoesOn_296 : decode cX6_qGoesOn 296 = .ok (.aload_n 0, 1) := dk_42 (dk_at dksX6_qGoesOn_12 16 rfl rfl)
theorem dX6_qGoesOn_297 : decode cX6_qGoesOn 297 = .ok (.dup, 1) := dk_89 (dk_at dksX6_qGoesOn_12 17 rfl rfl)
theorem dX6_qGoesOn_298 : decode cX6_qGoesOn 298 = .ok (.getfield 345, 3) := dk_180 1 89 (dk_at dksX6_qGoesOn_12 18 rfl rfl)
theorem dX6_qGoesOn_301 : decode cX6_qGoesOn 301 = .ok (.iconst 1, 1) := dk_4 (dk_at dksX6_qGoesOn_12 21 rfl rfl)
theorem dX6_qGoesOn_302 : decode cX6_qGoesOn 302 = .ok (.iadd, 1) := dk_96 (dk_at dksX6_qGoesOn_12 22 rfl rfl)
theorem dX6_qGoesOn_303 : decode cX6_qGoesOn 303 = .ok (.putfield 345, 3) := dk_181 1 89 (dk_at dksX6_qGoesOn_13 0 rfl rfl)
theorem dX6_qGoesOn_306 : decode cX6_qGoesOn 306 = .ok (.iconst 1, 1) := dk_4 (dk_at dksX6_qGoesOn_13 3 rfl rfl)
theorem dX6_qGoesOn_307 : decode cX6_qGoesOn 307 = .ok (.ireturn, 1) := dk_172 (dk_at dksX6_qGoesOn_13 4 rfl rfl)
theorem dX6_qGoesOn_308 : decode cX6_qGoesOn 308 = .ok (.aload_n 0, 1) := dk_42 (dk_at dksX6_qGoesOn_13 5 rfl rfl)
theorem dX6_qGoesOn_309 : decode cX6_qGoesOn 309 = .ok (.invokevirtual 588, 3) := dk_182 2 76 (dk_at dksX6_qGoesOn_13 6 rfl rfl)
theorem dX6_qGoesOn_312 : decode cX6_qGoesOn 312 = .ok (.bipush 21, 2) := dk_16 21 (dk_at dksX6_qGoesOn_13 9 rfl rfl)
theorem dX6_qGoesOn_314 : decode cX6_qGoesOn 314 = .ok (.if_icmp .eq 12, 3) := dk_159 0 12 (dk_at dksX6_qGoesOn_13 11 rfl rfl)
theorem dX6_qGoesOn_317 : decode cX6_qGoesOn 317 = .ok (.aload_n 0, 1) := dk_42 (dk_at dksX6_qGoesOn_13 14 rfl rfl)
theorem dX6_qGoesOn_318 : decode cX6_qGoesOn 318 = .ok (.invokevirtual 588, 3) := dk_182 2 76 (dk_at dksX6_qGoesOn_13 15 rfl rfl)
theorem dX6_qGoesOn_321 : decode cX6_qGoesOn 321 = .ok (.bipush 22, 2) := dk_16 22 (dk_at dksX6_qGoesOn_13 18 rfl rfl)
theorem dX6_qGoesOn_323 : decode cX6_qGoesOn 323 = .ok (.if_icmp .ne 39, 3) := dk_160 0 39 (dk_at dksX6_qGoesOn_13 20 rfl rfl)
theorem dX6_qGoesOn_326 : decode cX6_qGoesOn 326 = .ok (.aload_n 0, 1) := dk_42 (dk_at dksX6_qGoesOn_13 23 rfl rfl)
theorem dX6_qGoesOn_327 : decode cX6_qGoesOn 327 = .ok (.bipush 44, 2) := dk_16 44 (dk_at dksX6_qGoesOn_14 0 rfl rfl)
theorem dX6_qGoesOn_329 : decode cX6_qGoesOn 329 = .ok (.invokevirtual 380, 3) := dk_182 1 124 (dk_at dksX6_qGoesOn_14 2 rfl rfl)
theorem dX6_qGoesOn_332 : decode cX6_qGoesOn 332 = .ok (.aload_n 0, 1) := dk_42 (dk_at dksX6_qGoesOn_14 5 rfl rfl)
theorem dX6_qGoesOn_333 : decode cX6_qGoesOn 333 = .ok (.getfield 257, 3) := dk_180 1 1 (dk_at dksX6_qGoesOn_14 6 rfl rfl)
theorem dX6_qGoesOn_336 : decode cX6_qGoesOn 336 = .ok (.ifCond .eq 5, 3) := dk_153 0 5 (dk_at dksX6_qGoesOn_14 9 rfl rfl)
theorem dX6_qGoesOn_339 : decode cX6_qGoesOn 339 = .ok (.iconst 0, 1) := dk_3 (dk_at dksX6_qGoesOn_14 12 rfl rfl)
theorem dX6_qGoesOn_340 : decode cX6_qGoesOn 340 = .ok (.ireturn, 1) := dk_172 (dk_at dksX6_qGoesOn_14 13 rfl rfl)
theorem dX6_qGoesOn_341 : decode cX6_qGoesOn 341 = .ok (.aload_n 0, 1) := dk_42 (dk_at dksX6_qGoesOn_14 14 rfl rfl)
theorem dX6_qGoesOn_342 : decode cX6_qGoesOn 342 = .ok (.invokevirtual 591, 3) := dk_182 2 79 (dk_at dksX6_qGoesOn_14 15 rfl rfl)
theorem dX6_qGoesOn_345 : decode cX6_qGoesOn 345 = .ok (.aload_n 0, 1) := dk_42 (dk_at dksX6_qGoesOn_14 18 rfl rfl)
theorem dX6_qGoesOn_346 : decode cX6_qGoesOn 346 = .ok (.getfield 245, 3) := dk_180 0 245 (dk_at dksX6_qGoesOn_14 19 rfl rfl)
theorem dX6_qGoesOn_349 : decode cX6_qGoesOn 349 = .ok (.aload_n 0, 1) := dk_42 (dk_at dksX6_qGoesOn_14 22 rfl rfl)
theorem dX6_qGoesOn_350 : decode cX6_qGoesOn 350 = .ok (.getfield 345, 3) := dk_180 1 89 (dk_at dksX6_qGoesOn_15 0 rfl rfl)
theorem dX6_qGoesOn_353 : decode cX6_qGoesOn 353 = .ok (.iconst 1, 1) := dk_4 (dk_at dksX6_qGoesOn_15 3 rfl rfl)
theorem dX6_qGoesOn_354 : decode cX6_qGoesOn 354 = .ok (.isub, 1) := dk_100 (dk_at dksX6_qGoesOn_15 4 rfl rfl)
theorem dX6_qGoesOn_355 : decode cX6_qGoesOn 355 = .ok (.dup2, 1) := dk_92 (dk_at dksX6_qGoesOn_15 5 rfl rfl)
theorem dX6_qGoesOn_356 : decode cX6_qGoesOn 356 = .ok (.iaload, 1) := dk_46 (dk_at dksX6_qGoesOn_15 6 rfl rfl)
theorem dX6_qGoesOn_357 : decode cX6_qGoesOn 357 = .ok (.iconst 2, 1) := dk_5 (dk_at dksX6_qGoesOn_15 7 rfl rfl)
theorem dX6_qGoesOn_358 : decode cX6_qGoesOn 358 = .ok (.iadd, 1) := dk_96 (dk_at dksX6_qGoesOn_15 8 rfl rfl)
theorem dX6_qGoesOn_359 : decode cX6_qGoesOn 359 = .ok (.iastore, 1) := dk_79 (dk_at dksX6_qGoesOn_15 9 rfl rfl)
theorem dX6_qGoesOn_360 : decode cX6_qGoesOn 360 = .ok (.iconst 1, 1) := dk_4 (dk_at dksX6_qGoesOn_15 10 rfl rfl)
theorem dX6_qGoesOn_361 : decode cX6_qGoesOn 361 = .ok (.ireturn, 1) := dk_172 (dk_at dksX6_qGoesOn_15 11 rfl rfl)
theorem dX6_qGoesOn_362 : decode cX6_qGoesOn 362 = .ok (.aload_n 0, 1) := dk_42 (dk_at dksX6_qGoesOn_15 12 rfl rfl)
theorem dX6_qGoesOn_363 : decode cX6_qGoesOn 363 = .ok (.invokevirtual 588, 3) := dk_182 2 76 (dk_at dksX6_qGoesOn_15 13 rfl rfl)
theorem dX6_qGoesOn_366 : decode cX6_qGoesOn 366 = .ok (.iconst (-1), 1) := dk_2 (dk_at dksX6_qGoesOn_15 16 rfl rfl)
theorem dX6_qGoesOn_367 : decode cX6_qGoesOn 367 = .ok (.if_icmp .eq 19, 3) := dk_159 0 19 (dk_at dksX6_qGoesOn_15 17 rfl rfl)
theorem dX6_qGoesOn_370 : decode cX6_qGoesOn 370 = .ok (.aload_n 0, 1) := dk_42 (dk_at dksX6_qGoesOn_15 20 rfl rfl)
theorem dX6_qGoesOn_371 : decode cX6_qGoesOn 371 = .ok (.getfield 257, 3) := dk_180 1 1 (dk_at dksX6_qGoesOn_15 21 rfl rfl)
theorem dX6_qGoesOn_374 : decode cX6_qGoesOn 374 = .ok (.ifCond .ne 12, 3) := dk_154 0 12 (dk_at dksX6_qGoesOn_16 0 rfl rfl)
theorem dX6_qGoesOn_377 : decode cX6_qGoesOn 377 = .ok (.aload_n 0, 1) := dk_42 (dk_at dksX6_qGoesOn_16 3 rfl rfl)
theorem dX6_qGoesOn_378 : decode cX6_qGoesOn 378 = .ok (.iconst 1, 1) := dk_4 (dk_at dksX6_qGoesOn_16 4 rfl rfl)
theorem dX6_qGoesOn_379 : decode cX6_qGoesOn 379 = .ok (.aload_n 0, 1) := dk_42 (dk_at dksX6_qGoesOn_16 5 rfl rfl)
theorem dX6_qGoesOn_380 : decode cX6_qGoesOn 380 = .ok (.getfield 263, 3) := dk_180 1 7 (dk_at dksX6_qGoesOn_16 6 rfl rfl)
theorem dX6_qGoesOn_383 : decode cX6_qGoesOn 383 = .ok (.invokevirtual 287, 3) := dk_182 1 31 (dk_at dksX6_qGoesOn_16 9 rfl rfl)
theorem dX6_qGoesOn_386 : decode cX6_qGoesOn 386 = .ok (.iconst 0, 1) := dk_3 (dk_at dksX6_qGoesOn_16 12 rfl rfl)
theorem dX6_qGoesOn_387 : decode cX6_qGoesOn 387 = .ok (.ireturn, 1) := dk_172 (dk_at dksX6_qGoesOn_16 13 rfl rfl)
