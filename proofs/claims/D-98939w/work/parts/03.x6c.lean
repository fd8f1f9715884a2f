set_option maxRecDepth 100000
abbrev cX6_qBracket : ByteArray := prog_22_method_98_code
def yX6_qBracket : MethodName := ⟨RX6, "qBracket", "()I"⟩
def dkwX6_qBracket_2 : List UInt8 := [167, 0, 4, 2, 172]
abbrev dktX6_qBracket_2 : List UInt8 := dkwX6_qBracket_2 ++ []
def dkwX6_qBracket_1 : List UInt8 := [154, 0, 9, 132, 1, 255, 167, 255, 233, 27, 42, 180, 1, 95, 161, 0, 12, 42, 180, 0, 245, 27, 46]
abbrev dktX6_qBracket_1 : List UInt8 := dkwX6_qBracket_1 ++ dktX6_qBracket_2
def dkwX6_qBracket_0 : List UInt8 := [42, 180, 1, 89, 4, 100, 60, 27, 42, 180, 1, 95, 161, 0, 21, 42, 180, 0, 245, 27, 46, 184, 2, 52]
abbrev dktX6_qBracket_0 : List UInt8 := dkwX6_qBracket_0 ++ dktX6_qBracket_1
theorem dksX6_qBracket_0 : cX6_qBracket.data.toList.drop 0 = dktX6_qBracket_0 := by decide +kernel
theorem dksX6_qBracket_1 : cX6_qBracket.data.toList.drop 24 = dktX6_qBracket_1 := dk_seg dksX6_qBracket_0 24 rfl rfl
theorem dksX6_qBracket_2 : cX6_qBracket.data.toList.drop 47 = dktX6_qBracket_2 := dk_seg dksX6_qBracket_1 23 rfl rfl
theorem dX6_qBracket_0 : decode cX6_qBracket 0 = .ok (.aload_n 0, 1) := dk_42 (dk_at dksX6_qBracket_0 0 rfl rfl)
theorem dX6_qBracket_1 : decode cX6_qBracket 1 = .ok (.getfield 345, 3) := dk_180 1 89 (dk_at dksX6_qBracket_0 1 rfl rfl)
theorem dX6_qBracket_4 : decode cX6_qBracket 4 = .ok (.iconst 1, 1) := dk_4 (dk_at dksX6_qBracket_0 4 rfl rfl)
theorem dX6_qBracket_5 : decode cX6_qBracket 5 = .ok (.isub, 1) := dk_100 (dk_at dksX6_qBracket_0 5 rfl rfl)
theorem dX6_qBracket_6 : decode cX6_qBracket 6 = .ok (.istore_n 1, 1) := dk_60 (dk_at dksX6_qBracket_0 6 rfl rfl)
theorem dX6_qBracket_7 : decode cX6_qBracket 7 = .ok (.iload_n 1, 1) := dk_27 (dk_at dksX6_qBracket_0 7 rfl rfl)
theorem dX6_qBracket_8 : decode cX6_qBracket 8 = .ok (.aload_n 0, 1) := dk_42 (dk_at dksX6_qBracket_0 8 rfl rfl)
theorem dX6_qBracket_9 : decode cX6_qBracket 9 = .ok (.getfield 351, 3) := dk_180 1 95 (dk_at dksX6_qBracket_0 9 rfl rfl)
theorem dX6_qBracket_12 : decode cX6_qBracket 12 = .ok (.if_icmp .lt 21, 3) := dk_161 0 21 (dk_at dksX6_qBracket_0 12 rfl rfl)
theorem dX6_qBracket_15 : decode cX6_qBracket 15 = .ok (.aload_n 0, 1) := dk_42 (dk_at dksX6_qBracket_0 15 rfl rfl)
theorem dX6_qBracket_16 : decode cX6_qBracket 16 = .ok (.getfield 245, 3) := dk_180 0 245 (dk_at dksX6_qBracket_0 16 rfl rfl)
theorem dX6_qBracket_19 : decode cX6_qBracket 19 = .ok (.iload_n 1, 1) := dk_27 (dk_at dksX6_qBracket_0 19 rfl rfl)
theorem dX6_qBracket_20 : decode cX6_qBracket 20 = .ok (.iaload, 1) := dk_46 (dk_at dksX6_qBracket_0 20 rfl rfl)
theorem dX6_qBracket_21 : decode cX6_qBracket 21 = .ok (.invokestatic 564, 3) := dk_184 2 52 (dk_at dksX6_qBracket_0 21 rfl rfl)
theorem dX6_qBracket_24 : decode cX6_qBracket 24 = .ok (.ifCond .ne 9, 3) := dk_154 0 9 (dk_at dksX6_qBracket_1 0 rfl rfl)
theorem dX6_qBracket_27 : decode cX6_qBracket 27 = .ok (.iinc 1 (-1), 3) := dk_132 1 255 (dk_at dksX6_qBracket_1 3 rfl rfl)
theorem dX6_qBracket_30 : decode cX6_qBracket 30 = .ok (.goto (-23), 3) := dk_167 255 233 (dk_at dksX6_qBracket_1 6 rfl rfl)
theorem dX6_qBracket_33 : decode cX6_qBracket 33 = .ok (.iload_n 1, 1) := dk_27 (dk_at dksX6_qBracket_1 9 rfl rfl)
theorem dX6_qBracket_34 : decode cX6_qBracket 34 = .ok (.aload_n 0, 1) := dk_42 (dk_at dksX6_qBracket_1 10 rfl rfl)
theorem dX6_qBracket_35 : decode cX6_qBracket 35 = .ok (.getfield 351, 3) := dk_180 1 95 (dk_at dksX6_qBracket_1 11 rfl rfl)
theorem dX6_qBracket_38 : decode cX6_qBracket 38 = .ok (.if_icmp .lt 12, 3) := dk_161 0 12 (dk_at dksX6_qBracket_1 14 rfl rfl)
theorem dX6_qBracket_41 : decode cX6_qBracket 41 = .ok (.aload_n 0, 1) := dk_42 (dk_at dksX6_qBracket_1 17 rfl rfl)
theorem dX6_qBracket_42 : decode cX6_qBracket 42 = .ok (.getfield 245, 3) := dk_180 0 245 (dk_at dksX6_qBracket_1 18 rfl rfl)
theorem dX6_qBracket_45 : decode cX6_qBracket 45 = .ok (.iload_n 1, 1) := dk_27 (dk_at dksX6_qBracket_1 21 rfl rfl)
theorem dX6_qBracket_46 : decode cX6_qBracket 46 = .ok (.iaload, 1) := dk_46 (dk_at dksX6_qBracket_1 22 rfl rfl)
theorem dX6_qBracket_47 : decode cX6_qBracket 47 = .ok (.goto 4, 3) := dk_167 0 4 (dk_at dksX6_qBracket_2 0 rfl rfl)
theorem dX6_qBracket_50 : decode cX6_qBracket 50 = .ok (.iconst (-1), 1) := dk_2 (dk_at dksX6_qBracket_2 3 rfl rfl)
theorem dX6_qBracket_51 : decode cX6_qBracket 51 = .ok (.ireturn, 1) := dk_172 (dk_at dksX6_qBracket_2 4 rfl rfl)
abbrev cX6_qIsBracket : ByteArray := prog_22_method_97_code
def yX6_qIsBracket : MethodName := ⟨RX6, "qIsBracket", "(I)Z"⟩
def dkwX6_qIsBracket_0 : List UInt8 := [26, 16, 20, 161, 0, 13, 26, 16, 24, 163, 0, 7, 4, 167, 0, 4, 3, 172]
abbrev dktX6_qIsBracket_0 : List UInt8 := dkwX6_qIsBracket_0 ++ []
theorem dksX6_qIsBracket_0 : cX6_qIsBracket.data.toList.drop 0 = dktX6_qIsBracket_0 := by decide +kernel
theorem dX6_qIsBracket_0 : decode cX6_qIsBracket 0 = .ok (.iload_n 0, 1) := dk_26 (dk_at dksX6_qIsBracket_0 0 rfl rfl)
theorem dX6_qIsBracket_1 : decode cX6_qIsBracket 1 = .ok (.bipush 20, 2) := dk_16 20 (dk_at dksX6_qIsBracket_0 1 rfl rfl)
theorem dX6_qIsBracket_3 : decode cX6_qIsBracket 3 = .ok (.if_icmp .lt 13, 3) := dk_161 0 13 (dk_at dksX6_qIsBracket_0 3 rfl rfl)
theorem dX6_qIsBracket_6 : decode cX6_qIsBracket 6 = .ok (.iload_n 0, 1) := dk_26 (dk_at dksX6_qIsBracket_0 6 rfl rfl)
theorem dX6_qIsBracket_7 : decode cX6_qIsBracket 7 = .ok (.bipush 24, 2) := dk_16 24 (dk_at dksX6_qIsBracket_0 7 rfl rfl)
theorem dX6_qIsBracket_9 : decode cX6_qIsBracket 9 = .ok (.if_icmp .gt 7, 3) := dk_163 0 7 (dk_at dksX6_qIsBracket_0 9 rfl rfl)
theorem dX6_qIsBracket_12 : decode cX6_qIsBracket 12 = .ok (.iconst 1, 1) := dk_4 (dk_at dksX6_qIsBracket_0 12 rfl rfl)
theorem dX6_qIsBracket_13 : decode cX6_qIsBracket 13 = .ok (.goto 4, 3) := dk_167 0 4 (dk_at dksX6_qIsBracket_0 13 rfl rfl)
theorem dX6_qIsBracket_16 : decode cX6_qIsBracket 16 = .ok (.iconst 0, 1) := dk_3 (dk_at dksX6_qIsBracket_0 16 rfl rfl)
theorem dX6_qIsBracket_17 : decode cX6_qIsBracket 17 = .ok (.ireturn, 1) := dk_172 (dk_at dksX6_qIsBracket_0 17 rfl rfl)
abbrev cX6_qDropsToBracket : ByteArray := prog_22_method_99_code
def yX6_qDropsToBracket : MethodName := ⟨RX6, "qDropsToBracket", "()V"⟩
def dkwX6_qDropsToBracket_1 : List UInt8 := [184, 2, 52, 154, 0, 10, 42, 182, 2, 55, 167, 255, 224, 177]
abbrev dktX6_qDropsToBracket_1 : List UInt8 := dkwX6_qDropsToBracket_1 ++ []
def dkwX6_qDropsToBracket_0 : List UInt8 := [42, 180, 1, 89, 42, 180, 1, 95, 164, 0, 27, 42, 180, 0, 245, 42, 180, 1, 89, 4, 100, 46]
abbrev dktX6_qDropsToBracket_0 : List UInt8 := dkwX6_qDropsToBracket_0 ++ dktX6_qDropsToBracket_1
theorem dksX6_qDropsToBracket_0 : cX6_qDropsToBracket.data.toList.drop 0 = dktX6_qDropsToBracket_0 := by decide +kernel
theorem dksX6_qDropsToBracket_1 : cX6_qDropsToBracket.data.toList.drop 22 = dktX6_qDropsToBracket_1 := dk_seg dksX6_qDropsToBracket_0 22 rfl rfl
theorem dX6_qDropsToBracket_0 : decode cX6_qDropsToBracket 0 = .ok (.aload_n 0, 1) := dk_42 (dk_at dksX6_qDropsToBracket_0 0 rfl rfl)
theorem dX6_qDropsToBracket_1 : decode cX6_qDropsToBracket 1 = .ok (.getfield 345, 3) := dk_180 1 89 (dk_at dksX6_qDropsToBracket_0 1 rfl rfl)
theorem dX6_qDropsToBracket_4 : decode cX6_qDropsToBracket 4 = .ok (.aload_n 0, 1) := dk_42 (dk_at dksX6_qDropsToBracket_0 4 rfl rfl)
theorem dX6_qDropsToBracket_5 : decode cX6_qDropsToBracket 5 = .ok (.getfield 351, 3) := dk_180 1 95 (dk_at dksX6_qDropsToBracket_0 5 rfl rfl)
theorem dX6_qDropsToBracket_8 : decode cX6_qDropsToBracket 8 = .ok (.if_icmp .le 27, 3) := dk_164 0 27 (dk_at dksX6_qDropsToBracket_0 8 rfl rfl)
theorem dX6_qDropsToBracket_11 : decode cX6_qDropsToBracket 11 = .ok (.aload_n 0, 1) := dk_42 (dk_at dksX6_qDropsToBracket_0 11 rfl rfl)
theorem dX6_qDropsToBracket_12 : decode cX6_qDropsToBracket 12 = .ok (.getfield 245, 3) := dk_180 0 245 (dk_at dksX6_qDropsToBracket_0 12 rfl rfl)
theorem dX6_qDropsToBracket_15 : decode cX6_qDropsToBracket 15 = .ok (.aload_n 0, 1) := dk_42 (dk_at dksX6_qDropsToBracket_0 15 rfl rfl)
theorem dX6_qDropsToBracket_16 : decode cX6_qDropsToBracket 16 = .ok (.getfield 345, 3) := dk_180 1 89 (dk_at dksX6_qDropsToBracket_0 16 rfl rfl)
theorem dX6_qDropsToBracket_19 : decode cX6_qDropsToBracket 19 = .ok (.iconst 1, 1) := dk_4 (dk_at dksX6_qDropsToBracket_0 19 rfl rfl)
theorem dX6_qDropsToBracket_20 : decode cX6_qDropsToBracket 20 = .ok (.isub, 1) := dk_100 (dk_at dksX6_qDropsToBracket_0 20 rfl rfl)
theorem dX6_qDropsToBracket_21 : decode cX6_qDropsToBracket 21 = .ok (.iaload, 1) := dk_46 (dk_at dksX6_qDropsToBracket_0 21 rfl rfl)
theorem dX6_qDropsToBracket_22 : decode cX6_qDropsToBracket 22 = .ok (.invokestatic 564, 3) := dk_184 2 52 (dk_at dksX6_qDropsToBracket_1 0 rfl rfl)
theorem dX6_qDropsToBracket_25 : decode cX6_qDropsToBracket 25 = .ok (.ifCond .ne 10, 3) := dk_154 0 10 (dk_at dksX6_qDropsToBracket_1 3 rfl rfl)
theorem dX6_qDropsToBracket_28 : decode cX6_qDropsToBracket 28 = .ok (.aload_n 0, 1) := dk_42 (dk_at dksX6_qDropsToBracket_1 6 rfl rfl)
theorem dX6_qDropsToBracket_29 : decode cX6_qDropsToBracket 29 = .ok (.invokevirtual 567, 3) := dk_182 2 55 (dk_at dksX6_qDropsToBracket_1 7 rfl rfl)
theorem dX6_qDropsToBracket_32 : decode cX6_qDropsToBracket 32 = .ok (.goto (-32), 3) := dk_167 255 224 (dk_at dksX6_qDropsToBracket_1 10 rfl rfl)
theorem dX6_qDropsToBracket_35 : decode cX6_qDropsToBracket 35 = .ok (.return_, 1) := dk_177 (dk_at dksX6_qDropsToBracket_1 13 rfl rfl)
abbrev cX6_qIsOn : ByteArray := prog_22_method_95_code
def yX6_qIsOn : MethodName := ⟨RX6, "qIsOn", "(I)Z"⟩
def dkwX6_qIsOn_1 : List UInt8 := [167, 0, 4, 3, 172]
abbrev dktX6_qIsOn_1 : List UInt8 := dkwX6_qIsOn_1 ++ []
def dkwX6_qIsOn_0 : List UInt8 := [42, 180, 1, 89, 158, 0, 22, 42, 180, 0, 245, 42, 180, 1, 89, 4, 100, 46, 27, 160, 0, 7, 4]
abbrev dktX6_qIsOn_0 : List UInt8 := dkwX6_qIsOn_0 ++ dktX6_qIsOn_1
theorem dksX6_qIsOn_0 : cX6_qIsOn.data.toList.drop 0 = dktX6_qIsOn_0 := by decide +kernel
theorem dksX6_qIsOn_1 : cX6_qIsOn.data.toList.drop 23 = dktX6_qIsOn_1 := dk_seg dksX6_qIsOn_0 23 rfl rfl
theorem dX6_qIsOn_0 : decode cX6_qIsOn 0 = .ok (.aload_n 0, 1) := dk_42 (dk_at dksX6_qIsOn_0 0 rfl rfl)
theorem dX6_qIsOn_1 : decode cX6_qIsOn 1 = .ok (.getfield 345, 3) := dk_180 1 89 (dk_at dksX6_qIsOn_0 1 rfl rfl)
theorem dX6_qIsOn_4 : decode cX6_qIsOn 4 = .ok (.ifCond .le 22, 3) := dk_158 0 22 (dk_at dksX6_qIsOn_0 4 rfl rfl)
theorem dX6_qIsOn_7 : decode cX6_qIsOn 7 = .ok (.aload_n 0, 1) := dk_42 (dk_at dksX6_qIsOn_0 7 rfl rfl)
theorem dX6_qIsOn_8 : decode cX6_qIsOn 8 = .ok (.getfield 245, 3) := dk_180 0 245 (dk_at dksX6_qIsOn_0 8 rfl rfl)
theorem dX6_qIsOn_11 : decode cX6_qIsOn 11 = .ok (.aload_n 0, 1) := dk_42 (dk_at dksX6_qIsOn_0 11 rfl rfl)
theorem dX6_qIsOn_12 : decode cX6_qIsOn 12 = .ok (.getfield 345, 3) := dk_180 1 89 (dk_at dksX6_qIsOn_0 12 rfl rfl)
theorem dX6_qIsOn_15 : decode cX6_qIsOn 15 = .ok (.iconst 1, 1) := dk_4 (dk_at dksX6_qIsOn_0 15 rfl rfl)
theorem dX6_qIsOn_16 : decode cX6_qIsOn 16 = .ok (.isub, 1) := dk_100 (dk_at dksX6_qIsOn_0 16 rfl rfl)
theorem dX6_qIsOn_17 : decode cX6_qIsOn 17 = .ok (.iaload, 1) := dk_46 (dk_at dksX6_qIsOn_0 17 rfl rfl)
theorem dX6_qIsOn_18 : decode cX6_qIsOn 18 = .ok (.iload_n 1, 1) := dk_27 (dk_at dksX6_qIsOn_0 18 rfl rfl)
theorem dX6_qIsOn_19 : decode cX6_qIsOn 19 = .ok (.if_icmp .ne 7, 3) := dk_160 0 7 (dk_at dksX6_qIsOn_0 19 rfl rfl)
theorem dX6_qIsOn_22 : decode cX6_qIsOn 22 = .ok (.iconst 1, 1) := dk_4 (dk_at dksX6_qIsOn_0 22 rfl rfl)
theorem dX6_qIsOn_23 : decode cX6_qIsOn 23 = .ok (.goto 4, 3) := dk_167 0 4 (dk_at dksX6_qIsOn_1 0 rfl rfl)
theorem dX6_qIsOn_26 : decode cX6_qIsOn 26 = .ok (.iconst 0, 1) := dk_3 (dk_at dksX6_qIsOn_1 3 rfl rfl)
theorem dX6_qIsOn_27 : decode cX6_qIsOn 27 = .ok (.ireturn, 1) := dk_172 (dk_at dksX6_qIsOn_1 4 rfl rfl)
abbrev cX6_qDropsNots : ByteArray := prog_22_method_109_code
def yX6_qDropsNots : MethodName := ⟨RX6, "qDropsNots", "()V"⟩
def dkwX6_qDropsNots_1 : List UInt8 := [181, 1, 92, 42, 182, 2, 55, 167, 255, 226, 177]
abbrev dktX6_qDropsNots_1 : List UInt8 := dkwX6_qDropsNots_1 ++ []
def dkwX6_qDropsNots_0 : List UInt8 := [42, 180, 1, 1, 154, 0, 29, 42, 16, 12, 182, 2, 82, 153, 0, 20, 42, 89, 180, 1, 92, 4, 100]
abbrev dktX6_qDropsNots_0 : List UInt8 := dkwX6_qDropsNots_0 ++ dktX6_qDropsNots_1
theorem dksX6_qDropsNots_0 : cX6_qDropsNots.data.toList.drop 0 = dktX6_qDropsNots_0 := by decide +kernel
theorem dksX6_qDropsNots_1 : cX6_qDropsNots.data.toList.drop 23 = dktX6_qDropsNots_1 := dk_seg dksX6_qDropsNots_0 23 rfl rfl
theorem dX6_qDropsNots_0 : decode cX6_qDropsNots 0 = .ok (.aload_n 0, 1) := dk_42 (dk_at dksX6_qDropsNots_0 0 rfl rfl)
theorem dX6_qDropsNots_1 : decode cX6_qDropsNots 1 = .ok (.getfield 257, 3) := dk_180 1 1 (dk_at dksX6_qDropsNots_0 1 rfl rfl)
theorem dX6_qDropsNots_4 : decode cX6_qDropsNots 4 = .ok (.ifCond .ne 29, 3) := dk_154 0 29 (dk_at dksX6_qDropsNots_0 4 rfl rfl)
theorem dX6_qDropsNots_7 : decode cX6_qDropsNots 7 = .ok (.aload_n 0, 1) := dk_42 (dk_at dksX6_qDropsNots_0 7 rfl rfl)
theorem dX6_qDropsNots_8 : decode cX6_qDropsNots 8 = .ok (.bipush 12, 2) := dk_16 12 (dk_at dksX6_qDropsNots_0 8 rfl rfl)
theorem dX6_qDropsNots_10 : decode cX6_qDropsNots 10 = .ok (.invokevirtual 594, 3) := dk_182 2 82 (dk_at dksX6_qDropsNots_0 10 rfl rfl)
theorem dX6_qDropsNots_13 : decode cX6_qDropsNots 13 = .ok (.ifCond .eq 20, 3) := dk_153 0 20 (dk_at dksX6_qDropsNots_0 13 rfl rfl)
theorem dX6_qDropsNots_16 : decode cX6_qDropsNots 16 = .ok (.aload_n 0, 1) := dk_42 (dk_at dksX6_qDropsNots_0 16 rfl rfl)
theorem dX6_qDropsNots_17 : decode cX6_qDropsNots 17 = .ok (.dup, 1) := dk_89 (dk_at dksX6_qDropsNots_0 17 rfl rfl)
theorem dX6_qDropsNots_18 : decode cX6_qDropsNots 18 = .ok (.getfield 348, 3) := dk_180 1 92 (dk_at dksX6_qDropsNots_0 18 rfl rfl)
theorem dX6_qDropsNots_21 : decode cX6_qDropsNots 21 = .ok (.iconst 1, 1) := dk_4 (dk_at dksX6_qDropsNots_0 21 rfl rfl)
theorem dX6_qDropsNots_22 : decode cX6_qDropsNots 22 = .ok (.isub, 1) := dk_100 (dk_at dksX6_qDropsNots_0 22 rfl rfl)
theorem dX6_qDropsNots_23 : decode cX6_qDropsNots 23 = .ok (.putfield 348, 3) := dk_181 1 92 (dk_at dksX6_qDropsNots_1 0 rfl rfl)
theorem dX6_qDropsNots_26 : decode cX6_qDropsNots 26 = .ok (.aload_n 0, 1) := dk_42 (dk_at dksX6_qDropsNots_1 3 rfl rfl)
theorem dX6_qDropsNots_27 : decode cX6_qDropsNots 27 = .ok (.invokevirtual 567, 3) := dk_182 2 55 (dk_at dksX6_qDropsNots_1 4 rfl rfl)
theorem dX6_qDropsNots_30 : decode cX6_qDropsNots 30 = .ok (.goto (-30), 3) := dk_167 255 226 (dk_at dksX6_qDropsNots_1 7 rfl rfl)
theorem dX6_qDropsNots_33 : decode cX6_qDropsNots 33 = .ok (.return_, 1) := dk_177 (dk_at dksX6_qDropsNots_1 10 rfl rfl)
abbrev cX6_qGoesOnTest : ByteArray := prog_22_method_111_code
def yX6_qGoesOnTest : MethodName := ⟨RX6, "qGoesOnTest", "()Z"⟩
def dkwX6_qGoesOnTest_8 : List UInt8 := [180, 1, 1, 154, 0, 19, 42, 182, 2, 103, 153, 0, 12, 42, 4, 42, 180, 1, 7, 182, 1, 31, 3, 172]
abbrev dktX6_qGoesOnTest_8 : List UInt8 := dkwX6_qGoesOnTest_8 ++ []
def dkwX6_qGoesOnTest_7 : List UInt8 := [180, 0, 245, 42, 180, 1, 89, 16, 11, 79, 42, 89, 180, 1, 89, 4, 96, 181, 1, 89, 4, 172, 42]
abbrev dktX6_qGoesOnTest_7 : List UInt8 := dkwX6_qGoesOnTest_7 ++ dktX6_qGoesOnTest_8
def dkwX6_qGoesOnTest_6 : List UInt8 := [182, 2, 82, 154, 0, 12, 42, 16, 11, 182, 2, 82, 153, 0, 10, 42, 182, 2, 55, 167, 255, 234, 42]
abbrev dktX6_qGoesOnTest_6 : List UInt8 := dkwX6_qGoesOnTest_6 ++ dktX6_qGoesOnTest_7
def dkwX6_qGoesOnTest_5 : List UInt8 := [180, 1, 89, 4, 96, 181, 1, 89, 4, 172, 42, 42, 180, 0, 191, 182, 1, 28, 153, 0, 51, 42, 16, 10]
abbrev dktX6_qGoesOnTest_5 : List UInt8 := dkwX6_qGoesOnTest_5 ++ dktX6_qGoesOnTest_6
def dkwX6_qGoesOnTest_4 : List UInt8 := [153, 0, 10, 42, 182, 2, 55, 167, 255, 243, 42, 180, 0, 245, 42, 180, 1, 89, 16, 10, 79, 42, 89]
abbrev dktX6_qGoesOnTest_4 : List UInt8 := dkwX6_qGoesOnTest_4 ++ dktX6_qGoesOnTest_5
def dkwX6_qGoesOnTest_3 : List UInt8 := [182, 2, 97, 167, 255, 183, 42, 42, 180, 0, 188, 182, 1, 28, 153, 0, 42, 42, 16, 10, 182, 2, 82]
abbrev dktX6_qGoesOnTest_3 : List UInt8 := dkwX6_qGoesOnTest_3 ++ dktX6_qGoesOnTest_4
def dkwX6_qGoesOnTest_2 : List UInt8 := [167, 255, 243, 42, 89, 180, 1, 89, 4, 100, 181, 1, 89, 42, 89, 180, 1, 92, 4, 100, 181, 1, 92, 42]
abbrev dktX6_qGoesOnTest_2 : List UInt8 := dkwX6_qGoesOnTest_2 ++ dktX6_qGoesOnTest_3
def dkwX6_qGoesOnTest_1 : List UInt8 := [89, 180, 1, 7, 4, 96, 181, 1, 7, 42, 16, 25, 182, 2, 82, 154, 0, 10, 42, 182, 2, 55]
abbrev dktX6_qGoesOnTest_1 : List UInt8 := dkwX6_qGoesOnTest_1 ++ dktX6_qGoesOnTest_2
def dkwX6_qGoesOnTest_0 : List UInt8 := [42, 180, 1, 1, 154, 0, 72, 42, 182, 1, 13, 16, 93, 160, 0, 63, 42, 182, 2, 103, 153, 0, 56, 42]
abbrev dktX6_qGoesOnTest_0 : List UInt8 := dkwX6_qGoesOnTest_0 ++ dktX6_qGoesOnTest_1
theorem dksX6_qGoesOnTest_0 : cX6_qGoesOnTest.data.toList.drop 0 = dktX6_qGoesOnTest_0 := by decide +kernel
theorem dksX6_qGoesOnTest_1 : cX6_qGoesOnTest.data.toList.drop 24 = dktX6_qGoesOnTest_1 := dk_seg dksX6_qGoesOnTest_0 24 rfl rfl
theorem dksX6_qGoesOnTest_2 : cX6_qGoesOnTest.data.toList.drop 46 = dktX6_qGoesOnTest_2 := dk_seg dksX6_qGoesOnTest_1 22 rfl rfl
theorem dksX6_qGoesOnTest_3 : cX6_qGoesOnTest.data.toList.drop 70 = dktX6_qGoesOnTest_3 := dk_seg dksX6_qGoesOnTest_2 24 rfl rfl
theorem dksX6_qGoesOnTest_4 : cX6_qGoesOnTest.data.toList.drop 93 = dktX6_qGoesOnTest_4 := dk_seg dksX6_qGoesOnTest_3 23 rfl rfl
theorem dksX6_qGoesOnTest_5 : cX6_qGoesOnTest.data.toList.drop 116 = dktX6_qGoesOnTest_5 := dk_seg dksX6_qGoesOnTest_4 23 rfl rfl
theorem dksX6_qGoesOnTest_6 : cX6_qGoesOnTest.data.toList.drop 140 = dktX6_qGoesOnTest_6 := dk_seg dksX6_qGoesOnTest_5 24 rfl rfl
theorem dksX6_qGoesOnTest_7 : cX6_qGoesOnTest.data.toList.drop 163 = dktX6_qGoesOnTest_7 := dk_seg dksX6_qGoesOnTest_6 23 rfl rfl
theorem dksX6_qGoesOnTest_8 : cX6_qGoesOnTest.data.toList.drop 186 = dktX6_qGoesOnTest_8 := dk_seg dksX6_qGoesOnTest_7 23 rfl rfl
theorem dX6_qGoesOnTest_0 : decode cX6_qGoesOnTest 0 = .ok (.aload_n 0, 1) := dk_42 (dk_at dksX6_qGoesOnTest_0 0 rfl rfl)
theorem dX6_qGoesOnTest_1 : decode cX6_qGoesOnTest 1 = .ok (.getfield 257, 3) := dk_180 1 1 (dk_at dksX6_qGoesOnTest_0 1 rfl rfl)
theorem dX6_qGoesOnTest_4 : decode cX6_qGoesOnTest 4 = .ok (.ifCond .ne 72, 3) := dk_154 0 72 (dk_at dksX6_qGoesOnTest_0 4 rfl rfl)
theorem dX6_qGoesOnTest_7 : decode cX6_qGoesOnTest 7 = .ok (.aload_n 0, 1) := dk_42 (dk_at dksX6_qGoesOnTest_0 7 rfl rfl)
theorem dX6_qGoesOnTest_8 : decode cX6_qGoesOnTest 8 = .ok (.invokevirtual 269, 3) := dk_182 1 13 (dk_at dksX6_qGoesOnTest_0 8 rfl rfl)
theorem dX6_qGoesOnTest_11 : decode cX6_qGoesOnTest 11 = .ok (.bipush 93, 2) := dk_16 93 (dk_at dksX6_qGoesOnTest_0 11 rfl rfl)
theorem dX6_qGoesOnTest_13 : decode cX6_qGoesOnTest 13 = .ok (.if_icmp .ne 63, 3) := dk_160 0 63 (dk_at dksX6_qGoesOnTest_0 13 rfl rfl)
theorem dX6_qGoesOnTest_16 : decode cX6_qGoesOnTest 16 = .ok (.aload_n 0, 1) := dk_42 (dk_at dksX6_qGoesOnTest_0 16 rfl rfl)
theorem dX6_qGoesOnTest_17 : decode cX6_qGoesOnTest 17 = .ok (.invokevirtual 615, 3) := dk_182 2 103 (dk_at dksX6_qGoesOnTest_0 17 rfl rfl)
theorem dX6_qGoesOnTest_20 : decode cX6_qGoesOnTest 20 = .ok (.ifCond .eq 56, 3) := dk_153 0 56 (dk_at dksX6_qGoesOnTest_0 20 rfl rfl)
theorem dX6_qGoesOnTest_23 : decode cX6_qGoesOnTest 23 = .ok (.aload_n 0, 1) := dk_42 (dk_at dksX6_qGoesOnTest_0 23 rfl rfl)
theorem dX6_qGoesOnTest_24 : decode cX6_qGoesOnTest 24 = .ok (.dup, 1) := dk_89 (dk_at dksX6_qGoesOnTest_1 0 rfl rfl)
theorem dX6_qGoesOnTest_25 : decode cX6_qGoesOnTest 25 = .ok (.getfield 263, 3) := dk_180 1 7 (dk_at dksX6_qGoesOnTest_1 1 rfl rfl)
theorem dX6_qGoesOnTest_28 : decode cX6_qGoesOnTest 28 = .ok (.iconst 1, 1) := dk_4 (dk_at dksX6_qGoesOnTest_1 4 rfl rfl)
theorem dX6_qGoesOnTest_29 : decode cX6_qGoesOnTest 29 = .ok (.iadd, 1) := dk_96 (dk_at dksX6_qGoesOnTest_1 5 rfl rfl)
theorem dX6_qGoesOnTest_30 : decode cX6_qGoesOnTest 30 = .ok (.putfield 263, 3) := dk_181 1 7 (dk_at dksX6_qGoesOnTest_1 6 rfl rfl)
theorem dX6_qGoesOnTest_33 : decode cX6_qGoesOnTest 33 = .ok (.aload_n 0, 1) := dk_42 (dk_at dksX6_qGoesOnTest_1 9 rfl rfl)
theorem dX6_qGoesOnTest_34 : decode cX6_qGoesOnTest 34 = .ok (.bipush 25, 2) := dk_16 25 (dk_at dksX6_qGoesOnTest_1 10 rfl rfl)
theorem dX6_qGoesOnTest_36 : decode cX6_qGoesOnTest 36 = .ok (.invokevirtual 594, 3) := dk_182 2 82 (dk_at dksX6_qGoesOnTest_1 12 rfl rfl)
theorem dX6_qGoesOnTest_39 : decode cX6_qGoesOnTest 39 = .ok (.ifCond .ne 10, 3) := dk_154 0 10 (dk_at dksX6_qGoesOnTest_1 15 rfl rfl)
theorem dX6_qGoesOnTest_42 : decode cX6_qGoesOnTest 42 = .ok (.aload_n 0, 1) := dk_42 (dk_at dksX6_qGoesOnTest_1 18 rfl rfl)
theorem dX6_qGoesOnTest_43 : decode cX6_qGoesOnTest 43 = .ok (.invokevirtual 567, 3) := dk_182 2 55 (dk_at dksX6_qGoesOnTest_1 19 rfl rfl)
theorem dX6_qGoesOnTest_46 : decode cX6_qGoesOnTest 46 = .ok (.goto (-13), 3) := dk_167 255 243 (dk_at dksX6_qGoesOnTest_2 0 rfl rfl)
theorem dX6_qGoesOnTest_49 : decode cX6_qGoesOnTest 49 = .ok (.aload_n 0, 1) := dk_42 (dk_at dksX6_qGoesOnTest_2 3 rfl rfl)
theorem dX6_qGoesOnTest_50 : decode cX6_qGoesOnTest 50 = .ok (.dup, 1) := dk_89 (dk_at dksX6_qGoesOnTest_2 4 rfl rfl)
theorem dX6_qGoesOnTest_51 : decode cX6_qGoesOnTest 51 = .ok (.getfield 345, 3) := dk_180 1 89 (dk_at dksX6_qGoesOnTest_2 5 rfl rfl)
theorem dX6_qGoesOnTest_54 : decode cX6_qGoesOnTest 54 = .ok (.iconst 1, 1) := dk_4 (dk_at dksX6_qGoesOnTest_2 8 rfl rfl)
theorem dX6_qGoesOnTest_55 : decode cX6_qGoesOnTest 55 = .ok (.isub, 1) := dk_100 (dk_at dksX6_qGoesOnTest_2 9 rfl rfl)
theorem dX6_qGoesOnTest_56 : decode cX6_qGoesOnTest 56 = .ok (.putfield 345, 3) := dk_181 1 89 (dk_at dksX6_qGoesOnTest_2 10 rfl rfl)
theorem dX6_qGoesOnTest_59 : decode cX6_qGoesOnTest 59 = .ok (.aload_n 0, 1) := dk_42 (dk_at dksX6_qGoesOnTest_2 13 rfl rfl)
theorem dX6_qGoesOnTest_60 : decode cX6_qGoesOnTest 60 = .ok (.dup, 1) := dk_89 (dk_at dksX6_qGoesOnTest_2 14 rfl rfl)
theorem dX6_qGoesOnTest_61 : decode cX6_qGoesOnTest 61 = .ok (.getfield 348, 3) := dk_180 1 92 (dk_at dksX6_qGoesOnTest_2 15 rfl rfl)
theorem dX6_qGoesOnTest_64 : decode cX6_qGoesOnTest 64 = .ok (.iconst 1, 1) := dk_4 (dk_at dksX6_qGoesOnTest_2 18 rfl rfl)
theorem dX6_qGoesOnTest_65 : decode cX6_qGoesOnTest 65 = .ok (.isub, 1) := dk_100 (dk_at dksX6_qGoesOnTest_2 19 rfl rfl)
theorem dX6_qGoesOnTest_66 : decode cX6_qGoesOnTest 66 = .ok (.putfield 348, 3) := dk_181 1 92 (dk_at dksX6_qGoesOnTest_2 20 rfl rfl)
theorem dX6_qGoesOnTest_69 : decode cX6_qGoesOnTest 69 = .ok (.aload_n 0, 1) := dk_42 (dk_at dksX6_qGoesOnTest_2 23 rfl rfl)
theorem dX6_qGoesOnTest_70 : decode cX6_qGoesOnTest 70 = .ok (.invokevirtual 609, 3) := dk_182 2 97 (dk_at dksX6_qGoesOnTest_3 0 rfl rfl)
theorem dX6_qGoesOnTest_73 : decode cX6_qGoesOnTest 73 = .ok (.goto (-73), 3) := dk_167 255 183 (dk_at dksX6_qGoesOnTest_3 3 rfl rfl)
theorem dX6_qGoesOnTest_76 : decode cX6_qGoesOnTest 76 = .ok (.aload_n 0, 1) := dk_42 (dk_at dksX6_qGoesOnTest_3 6 rfl rfl)
theorem dX6_qGoesOnTest_77 : decode cX6_qGoesOnTest 77 = .ok (.aload_n 0, 1) := dk_42 (dk_at dksX6_qGoesOnTest_3 7 rfl rfl)
theorem dX6_qGoesOnTest_78 : decode cX6_qGoesOnTest 78 = .ok (.getfield 188, 3) := dk_180 0 188 (dk_at dksX6_qGoesOnTest_3 8 rfl rfl)
theorem dX6_qGoesOnTest_81 : decode cX6_qGoesOnTest 81 = .ok (.invokevirtual 284, 3) := dk_182 1 28 (dk_at dksX6_qGoesOnTest_3 11 rfl rfl)
theorem dX6_qGoesOnTest_84 : decode cX6_qGoesOnTest 84 = .ok (.ifCond .eq 42, 3) := dk_153 0 42 (dk_at dksX6_qGoesOnTest_3 14 rfl rfl)
theorem dX6_qGoesOnTest_87 : decode cX6_qGoesOnTest 87 = .ok (.aload_n 0, 1) := dk_42 (dk_at dksX6_qGoesOnTest_3 17 rfl rfl)
theorem dX6_qGoesOnTest_88 : decode cX6_qGoesOnTest 88 = .ok (.bipush 10, 2) := dk_16 10 (dk_at dksX6_qGoesOnTest_3 18 rfl rfl)
theorem dX6_qGoesOnTest_90 : decode cX6_qGoesOnTest 90 = .ok (.invokevirtual 594, 3) := dk_182 2 82 (dk_at dksX6_qGoesOnTest_3 20 rfl rfl)
theorem dX6_qGoesOnTest_93 : decode cX6_qGoesOnTest 93 = .ok (.ifCond .eq 10, 3) := dk_153 0 10 (dk_at dksX6_qGoesOnTest_4 0 rfl rfl)
theorem dX6_qGoesOnTest_96 : decode cX6_qGoesOnTest 96 = .ok (.aload_n 0, 1) := dk_42 (dk_at dksX6_qGoesOnTest_4 3 rfl rfl)
theorem dX6_qGoesOnTest_97 : decode cX6_qGoesOnTest 97 = .ok (.invokevirtual 567, 3) := dk_182 2 55 (dk_at dksX6_qGoesOnTest_4 4 rfl rfl)
theorem dX6_qGoesOnTest_100 : decode cX6_qGoesOnTest 100 = .ok (.goto (-13), 3) := dk_167 255 243 (dk_at dksX6_qGoesOnTest_4 7 rfl rfl)
theorem dX6_qGoesOnTest_103 : decode cX6_qGoesOnTest 103 = .ok (.aload_n 0, 1) := dk_42 (dk_at dksX6_qGoesOnTest_4 10 rfl rfl)
theorem dX6_qGoesOnTest_104 : decode cX6_qGoesOnTest 104 = .ok (.getfield 245, 3) := dk_180 0 245 (dk_at dksX6_qGoesOnTest_4 11 rfl rfl)
theorem dX6_qGoesOnTest_107 : decode cX6_qGoesOnTest 107 = .ok (.aload_n 0, 1) := dk_42 (dk_at dksX6_qGoesOnTest_4 14 rfl rfl)
theorem dX6_qGoesOnTest_108 : decode cX6_qGoesOnTest 108 = .ok (.getfield 345, 3) := dk_180 1 89 (dk_at dksX6_qGoesOnTest_4 15 rfl rfl)
theorem dX6_qGoesOnTest_111 : decode cX6_qGoesOnTest 111 = .ok (.bipush 10, 2) := dk_16 10 (dk_at dksX6_qGoesOnTest_4 18 rfl rfl)
theorem dX6_qGoesOnTest_113 : decode cX6_qGoesOnTest 113 = .ok (.iastore, 1) := dk_79 (dk_at dksX6_qGoesOnTest_4 20 rfl rfl)
theorem dX6_qGoesOnTest_114 : decode cX6_qGoesOnTest 114 = .ok (.aload_n 0, 1) := dk_42 (dk_at dksX6_qGoesOnTest_4 21 rfl rfl)
theorem dX6_qGoesOnTest_115 : decode cX6_qGoesOnTest 115 = .ok (.dup, 1) := dk_89 (dk_at dksX6_qGoesOnTest_4 22 rfl rfl)
theorem dX6_qGoesOnTest_116 : decode cX6_qGoesOnTest 116 = .ok (.getfield 345, 3) := dk_180 1 89 (dk_at dksX6_qGoesOnTest_5 0 rfl rfl)
theorem dX6_qGoesOnTest_119 : decode cX6_qGoesOnTest 119 = .ok (.iconst 1, 1) := dk_4 (dk_at dksX6_qGoesOnTest_5 3 rfl rfl)
theorem dX6_qGoesOnTest_120 : decode cX6_qGoesOnTest 120 = .ok (.iadd, 1) := dk_96 (dk_at dksX6_qGoesOnTest_5 4 rfl rfl)
theorem dX6_qGoesOnTest_121 : decode cX6_qGoesOnTest 121 = .ok (.putfield 345, 3) := dk_181 1 89 (dk_at dksX6_qGoesOnTest_5 5 rfl rfl)
theorem dX6_qGoesOnTest_124 : decode cX6_qGoesOnTest 124 = .ok (.iconst 1, 1) := dk_4 (dk_at dksX6_qGoesOnTest_5 8 rfl rfl)
theorem dX6_qGoesOnTest_125 : decode cX6_qGoesOnTest 125 = .ok (.ireturn, 1) := dk_172 (dk_at dksX6_qGoesOnTest_5 9 rfl rfl)
theorem dX6_qGoesOnTest_126 : decode cX6_qGoesOnTest 126 = .ok (.aload_n 0, 1) := dk_42 (dk_at dksX6_qGoesOnTest_5 10 rfl rfl)
theorem dX6_qGoesOnTest_127 : decode cX6_qGoesOnTest 127 = .ok (.aload_n 0, 1) := dk_42 (dk_at dksX6_qGoesOnTest_5 11 rfl rfl)
theorem dX6_qGoesOnTest_128 : decode cX6_qGoesOnTest 128 = .ok (.getfield 191, 3) := dk_180 0 191 (dk_at dksX6_qGoesOnTest_5 12 rfl rfl)
theorem dX6_qGoesOnTest_131 : decode cX6_qGoesOnTest 131 = .ok (.invokevirtual 284, 3) := dk_182 1 28 (dk_at dksX6_qGoesOnTest_5 15 rfl rfl)
theorem dX6_qGoesOnTest_134 : decode cX6_qGoesOnTest 134 = .ok (.ifCond .eq 51, 3) := dk_153 0 51 (dk_at dksX6_qGoesOnTest_5 18 rfl rfl)
theorem dX6_qGoesOnTest_137 : decode cX6_qGoesOnTest 137 = .ok (.aload_n 0, 1) := dk_42 (dk_at dksX6_qGoesOnTest_5 21 rfl rfl)
theorem dX6_qGoesOnTest_138 : decode cX6_qGoesOnTest 138 = .ok (.bipush 10, 2) := dk_16 10 (dk_at dksX6_qGoesOnTest_5 22 rfl rfl)
theorem dX6_qGoesOnTest_140 : decode cX6_qGoesOnTest 140 = .ok (.invokevirtual 594, 3) := dk_182 2 82 (dk_at dksX6_qGoesOnTest_6 0 rfl rfl)
theorem dX6_qGoesOnTest_143 : decode cX6_qGoesOnTest 143 = .ok (.ifCond .ne 12, 3) := dk_154 0 12 (dk_at dksX6_qGoesOnTest_6 3 rfl rfl)
theorem dX6_qGoesOnTest_146 : decode cX6_qGoesOnTest 146 = .ok (.aload_n 0, 1) := dk_42 (dk_at dksX6_qGoesOnTest_6 6 rfl rfl)
theorem dX6_qGoesOnTest_147 : decode cX6_qGoesOnTest 147 = .ok (.bipush 11, 2) := dk_16 11 (dk_at dksX6_qGoesOnTest_6 7 rfl rfl)
theorem dX6_qGoesOnTest_149 : decode cX6_qGoesOnTest 149 = .ok (.invokevirtual 594, 3) := dk_182 2 82 (dk_at dksX6_qGoesOnTest_6 9 rfl rfl)
theorem dX6_qGoesOnTest_152 : decode cX6_qGoesOnTest 152 = .ok (.ifCond .eq 10, 3) := dk_153 0 10 (dk_at dksX6_qGoesOnTest_6 12 rfl rfl)
theorem dX6_qGoesOnTest_155 : decode cX6_qGoesOnTest 155 = .ok (.aload_n 0, 1) := dk_42 (dk_at dksX6_qGoesOnTest_6 15 rfl rfl)
theorem dX6_qGoesOnTest_156 : decode cX6_qGoesOnTest 156 = .ok (.invokevirtual 567, 3) := dk_182 2 55 (dk_at dksX6_qGoesOnTest_6 16 rfl rfl)
theorem dX6_qGoesOnTest_159 : decode cX6_qGoesOnTest 159 = .ok (.goto (-22), 3) := dk_167 255 234 (dk_at dksX6_qGoesOnTest_6 19 rfl rfl)
theorem dX6_qGoesOnTest_162 : decode cX6_qGoesOnTest 162 = .ok (.aload_n 0, 1) := dk_42 (dk_at dksX6_qGoesOnTest_6 22 rfl rfl)
theorem dX6_qGoesOnTest_163 : decode cX6_qGoesOnTest 163 = .ok (.getfield 245, 3) := dk_180 0 245 (dk_at dksX6_qGoesOnTest_7 0 rfl rfl)
theorem dX6_qGoesOnTest_166 : decode cX6_qGoesOnTest 166 = .ok (.aload_n 0, 1) := dk_42 (dk_at dksX6_qGoesOnTest_7 3 rfl rfl)
theorem dX6_qGoesOnTest_167 : decode cX6_qGoesOnTest 167 = .ok (.getfield 345, 3) := dk_180 1 89 (dk_at dksX6_qGoesOnTest_7 4 rfl rfl)
theorem dX6_qGoesOnTest_170 : decode cX6_qGoesOnTest 170 = .ok (.bipush 11, 2) := dk_16 11 (dk_at dksX6_qGoesOnTest_7 7 rfl rfl)
theorem dX6_qGoesOnTest_172 : decode cX6_qGoesOnTest 172 = .ok (.iastore, 1) := dk_79 (dk_at dksX6_qGoesOnTest_7 9 rfl rfl)
theorem dX6_qGoesOnTest_173 : decode cX6_qGoesOnTest 173 = .ok (.aload_n 0, 1) := dk_42 (dk_at dksX6_qGoesOnTest_7 10 rfl rfl)
theorem dX6_qGoesOnTest_174 : decode cX6_qGoesOnTest 174 = .ok (.dup, 1) := dk_89 (dk_at dksX6_qGoesOnTest_7 11 rfl rfl)
theorem dX6_qGoesOnTest_175 : decode cX6_qGoesOnTest 175 = .ok (.getfield 345, 3) := dk_180 1 89 (dk_at dksX6_qGoesOnTest_7 12 rfl rfl)
theorem dX6_qGoesOnTest_178 : decode cX6_qGoesOnTest 178 = .ok (.iconst 1, 1) := dk_4 (dk_at dksX6_qGoesOnTest_7 15 rfl rfl)
theorem dX6_qGoesOnTest_179 : decode cX6_qGoesOnTest 179 = .ok (.iadd, 1) := dk_96 (dk_at dksX6_qGoesOnTest_7 16 rfl rfl)
theorem dX6_qGoesOnTest_180 : decode cX6_qGoesOnTest 180 = .ok (.putfield 345, 3) := dk_181 1 89 (dk_at dksX6_qGoesOnTest_7 17 rfl rfl)
theorem dX6_qGoesOnTest_183 : decode cX6_qGoesOnTest 183 = .ok (.iconst 1, 1) := dk_4 (dk_at dksX6_qGoesOnTest_7 20 rfl rfl)
theorem dX6_qGoesOnTest_184 : decode cX6_qGoesOnTest 184 = .ok (.ireturn, 1) := dk_172 (dk_at dksX6_qGoesOnTest_7 21 rfl rfl)
theorem dX6_qGoesOnTest_185 : decode cX6_qGoesOnTest 185 = .ok (.aload_n 0, 1) := dk_42 (dk_at dksX6_qGoesOnTest_7 22 rfl rfl)
theorem dX6_qGoesOnTest_186 : decode cX6_qGoesOnTest 186 = .ok (.getfield 257, 3) := dk_180 1 1 (dk_at dksX6_qGoesOnTest_8 0 rfl rfl)
theorem dX6_qGoesOnTest_189 : decode cX6_qGoesOnTest 189 = .ok (.ifCond .ne 19, 3) := dk_154 0 19 (dk_at dksX6_qGoesOnTest_8 3 rfl rfl)
theorem dX6_qGoesOnTest_192 : decode cX6_qGoesOnTest 192 = .ok (.aload_n 0, 1) := dk_42 (dk_at dksX6_qGoesOnTest_8 6 rfl rfl)
theorem dX6_qGoesOnTest_193 : decode cX6_qGoesOnTest 193 = .ok (.invokevirtual 615, 3) := dk_182 2 103 (dk_at dksX6_qGoesOnTest_8 7 rfl rfl)
theorem dX6_qGoesOnTest_196 : decode cX6_qGoesOnTest 196 = .ok (.ifCond .eq 12, 3) := dk_153 0 12 (dk_at dksX6_qGoesOnTest_8 10 rfl rfl)
theorem dX6_qGoesOnTest_199 : decode cX6_qGoesOnTest 199 = .ok (.aload_n 0, 1) := dk_42 (dk_at dksX6_qGoesOnTest_8 13 rfl rfl)
theorem dX6_qGoesOnTest_200 : decode cX6_qGoesOnTest 200 = .ok (.iconst 1, 1) := dk_4 (dk_at dksX6_qGoesOnTest_8 14 rfl rfl)
theorem dX6_qGoesOnTest_201 : decode cX6_qGoesOnTest 201 = .ok (.aload_n 0, 1) := dk_42 (dk_at dksX6_qGoesOnTest_8 15 rfl rfl)
theorem dX6_qGoesOnTest_202 : decode cX6_qGoesOnTest 202 = .ok (.getfield 263, 3) := dk_180 1 7 (dk_at dksX6_qGoesOnTest_8 16 rfl rfl)
theorem dX6_qGoesOnTest_205 : decode cX6_qGoesOnTest 205 = .ok (.invokevirtual 287, 3) := dk_182 1 31 (dk_at dksX6_qGoesOnTest_8 19 rfl rfl)
theorem dX6_qGoesOnTest_208 : decode cX6_qGoesOnTest 208 = .ok (.iconst 0, 1) := dk_3 (dk_at dksX6_qGoesOnTest_8 22 rfl rfl)
theorem dX6_qGoesOnTest_209 : decode cX6_qGoesOnTest 209 = .ok (.ireturn, 1) := dk_172 (dk_at dksX6_qGoesOnTest_8 23 rfl rfl)
abbrev cX6_qHasSquare : ByteArray := prog_22_method_108_code
def yX6_qHasSquare : MethodName := ⟨RX6, "qHasSquare", "()Z"⟩
def dkwX6_qHasSquare_1 : List UInt8 := [132, 1, 1, 167, 255, 232, 3, 172]
abbrev dktX6_qHasSquare_1 : List UInt8 := dkwX6_qHasSquare_1 ++ []
def dkwX6_qHasSquare_0 : List UInt8 := [3, 60, 27, 42, 180, 1, 89, 162, 0, 22, 42, 180, 0, 245, 27, 46, 16, 25, 160, 0, 5, 4, 172]
abbrev dktX6_qHasSquare_0 : List UInt8 := dkwX6_qHasSquare_0 ++ dktX6_qHasSquare_1
theorem dksX6_qHasSquare_0 : cX6_qHasSquare.data.toList.drop 0 = dktX6_qHasSquare_0 := by decide +kernel
theorem dksX6_qHasSquare_1 : cX6_qHasSquare.data.toList.drop 23 = dktX6_qHasSquare_1 := dk_seg dksX6_qHasSquare_0 23 rfl rfl
theorem dX6_qHasSquare_0 : decode cX6_qHasSquare 0 = .ok (.iconst 0, 1) := dk_3 (dk_at dksX6_qHasSquare_0 0 rfl rfl)
theorem dX6_qHasSquare_1 : decode cX6_qHasSquare 1 = .ok (.istore_n 1, 1) := dk_60 (dk_at dksX6_qHasSquare_0 1 rfl rfl)
theorem dX6_qHasSquare_2 : decode cX6_qHasSquare 2 = .ok (.iload_n 1, 1) := dk_27 (dk_at dksX6_qHasSquare_0 2 rfl rfl)
theorem dX6_qHasSquare_3 : decode cX6_qHasSquare 3 = .ok (.aload_n 0, 1) := dk_42 (dk_at dksX6_qHasSquare_0 3 rfl rfl)
theorem dX6_qHasSquare_4 : decode cX6_qHasSquare 4 = .ok (.getfield 345, 3) := dk_180 1 89 (dk_at dksX6_qHasSquare_0 4 rfl rfl)
theorem dX6_qHasSquare_7 : decode cX6_qHasSquare 7 = .ok (.if_icmp .ge 22, 3) := dk_162 0 22 (dk_at dksX6_qHasSquare_0 7 rfl rfl)
theorem dX6_qHasSquare_10 : decode cX6_qHasSquare 10 = .ok (.aload_n 0, 1) := dk_42 (dk_at dksX6_qHasSquare_0 10 rfl rfl)
theorem dX6_qHasSquare_11 : decode cX6_qHasSquare 11 = .ok (.getfield 245, 3) := dk_180 0 245 (dk_at dksX6_qHasSquare_0 11 rfl rfl)
theorem dX6_qHasSquare_14 : decode cX6_qHasSquare 14 = .ok (.iload_n 1, 1) := dk_27 (dk_at dksX6_qHasSquare_0 14 rfl rfl)
theorem dX6_qHasSquare_15 : decode cX6_qHasSquare 15 = .ok (.iaload, 1) := dk_46 (dk_at dksX6_qHasSquare_0 15 rfl rfl)
theorem dX6_qHasSquare_16 : decode cX6_qHasSquare 16 = .ok (.bipush 25, 2) := dk_16 25 (dk_at dksX6_qHasSquare_0 16 rfl rfl)
theorem dX6_qHasSquare_18 : decode cX6_qHasSquare 18 = .ok (.if_icmp .ne 5, 3) := dk_160 0 5 (dk_at dksX6_qHasSquare_0 18 rfl rfl)
theorem dX6_qHasSquare_21 : decode cX6_qHasSquare 21 = .ok (.iconst 1, 1) := dk_4 (dk_at dksX6_qHasSquare_0 21 rfl rfl)
theorem dX6_qHasSquare_22 : decode cX6_qHasSquare 22 = .ok (.ireturn, 1) := dk_172 (dk_at dksX6_qHasSquare_0 22 rfl rfl)
theorem dX6_qHasSquare_23 : decode cX6_qHasSquare 23 = .ok (.iinc 1 1, 3) := dk_132 1 1 (dk_at dksX6_qHasSquare_1 0 rfl rfl)
theorem dX6_qHasSquare_26 : decode cX6_qHasSquare 26 = .ok (.goto (-24), 3) := dk_167 255 232 (dk_at dksX6_qHasSquare_1 3 rfl rfl)
theorem dX6_qHasSquare_29 : decode cX6_qHasSquare 29 = .ok (.iconst 0, 1) := dk_3 (dk_at dksX6_qHasSquare_1 6 rfl rfl)
theorem dX6_qHasSquare_30 : decode cX6_qHasSquare 30 = .ok (.ireturn, 1) := dk_172 (dk_at dksX6_qHasSquare_1 7 rfl rfl)
abbrev cX6_stands : ByteArray := prog_22_method_29_code
def yX6_stands : MethodName := ⟨RX6, "stands", "()V"⟩
def dkwX6_stands_12 : List UInt8 := [180, 0, 127, 4, 46, 79, 132, 1, 1, 167, 255, 173, 42, 3, 181, 1, 136, 42, 3, 181, 1, 139, 177]
abbrev dktX6_stands_12 : List UInt8 := dkwX6_stands_12 ++ []
def dkwX6_stands_11 : List UInt8 := [27, 104, 96, 5, 96, 42, 180, 0, 121, 27, 46, 79, 42, 180, 0, 139, 4, 8, 27, 104, 96, 6, 96, 42]
abbrev dktX6_stands_11 : List UInt8 := dkwX6_stands_11 ++ dktX6_stands_12
def dkwX6_stands_10 : List UInt8 := [42, 180, 0, 139, 4, 8, 27, 104, 96, 4, 96, 42, 180, 0, 118, 27, 46, 79, 42, 180, 0, 139, 4, 8]
abbrev dktX6_stands_10 : List UInt8 := dkwX6_stands_10 ++ dktX6_stands_11
def dkwX6_stands_9 : List UInt8 := [180, 0, 105, 4, 46, 162, 0, 79, 42, 180, 0, 139, 4, 8, 27, 104, 96, 42, 180, 0, 124, 27, 46, 79]
abbrev dktX6_stands_9 : List UInt8 := dkwX6_stands_9 ++ dktX6_stands_10
def dkwX6_stands_8 : List UInt8 := [17, 0, 132, 162, 0, 16, 42, 180, 0, 139, 27, 3, 79, 132, 1, 1, 167, 255, 239, 3, 60, 27, 42]
abbrev dktX6_stands_8 : List UInt8 := dkwX6_stands_8 ++ dktX6_stands_9
def dkwX6_stands_7 : List UInt8 := [180, 0, 136, 17, 6, 64, 27, 96, 42, 180, 0, 136, 27, 46, 79, 132, 1, 1, 167, 255, 229, 3, 60, 27]
abbrev dktX6_stands_7 : List UInt8 := dkwX6_stands_7 ++ dktX6_stands_8
def dkwX6_stands_6 : List UInt8 := [42, 180, 0, 133, 27, 46, 79, 132, 1, 1, 167, 255, 206, 3, 60, 27, 42, 180, 1, 101, 162, 0, 25, 42]
abbrev dktX6_stands_6 : List UInt8 := dkwX6_stands_6 ++ dktX6_stands_7
def dkwX6_stands_5 : List UInt8 := [27, 46, 79, 42, 180, 0, 130, 6, 27, 96, 42, 180, 0, 130, 27, 46, 79, 42, 180, 0, 133, 6, 27, 96]
abbrev dktX6_stands_5 : List UInt8 := dkwX6_stands_5 ++ dktX6_stands_6
def dkwX6_stands_4 : List UInt8 := [132, 1, 1, 167, 255, 217, 3, 60, 27, 6, 162, 0, 51, 42, 180, 0, 127, 6, 27, 96, 42, 180, 0, 127]
abbrev dktX6_stands_4 : List UInt8 := dkwX6_stands_4 ++ dktX6_stands_5
def dkwX6_stands_3 : List UInt8 := [42, 180, 0, 112, 27, 46, 79, 42, 180, 0, 115, 16, 8, 27, 96, 42, 180, 0, 115, 27, 46, 79]
abbrev dktX6_stands_3 : List UInt8 := dkwX6_stands_3 ++ dktX6_stands_4
def dkwX6_stands_2 : List UInt8 := [47, 80, 132, 1, 1, 167, 255, 232, 3, 60, 27, 16, 8, 162, 0, 39, 42, 180, 0, 112, 16, 8, 27, 96]
abbrev dktX6_stands_2 : List UInt8 := dkwX6_stands_2 ++ dktX6_stands_3
def dkwX6_stands_1 : List UInt8 := [167, 255, 234, 3, 60, 27, 16, 16, 162, 0, 24, 42, 180, 0, 108, 16, 16, 27, 96, 42, 180, 0, 108, 27]
abbrev dktX6_stands_1 : List UInt8 := dkwX6_stands_1 ++ dktX6_stands_2
def dkwX6_stands_0 : List UInt8 := [3, 60, 27, 5, 162, 0, 23, 42, 180, 0, 105, 5, 27, 96, 42, 180, 0, 105, 27, 46, 79, 132, 1, 1]
abbrev dktX6_stands_0 : List UInt8 := dkwX6_stands_0 ++ dktX6_stands_1
theorem dksX6_stands_0 : cX6_stands.data.toList.drop 0 = dktX6_stands_0 := by decide +kernel
theorem dksX6_stands_1 : cX6_stands.data.toList.drop 24 = dktX6_stands_1 := dk_seg dksX6_stands_0 24 rfl rfl
theorem dksX6_stands_2 : cX6_stands.data.toList.drop 48 = dktX6_stands_2 := dk_seg dksX6_stands_1 24 rfl rfl
theorem dksX6_stands_3 : cX6_stands.data.toList.drop 72 = dktX6_stands_3 := dk_seg dksX6_stands_2 24 rfl rfl
theorem dksX6_stands_4 : cX6_stands.data.toList.drop 94 = dktX6_stands_4 := dk_seg dksX6_stands_3 22 rfl rfl
theorem dksX6_stands_5 : cX6_stands.data.toList.drop 118 = dktX6_stands_5 := dk_seg dksX6_stands_4 24 rfl rfl
theorem dksX6_stands_6 : cX6_stands.data.toList.drop 142 = dktX6_stands_6 := dk_seg dksX6_stands_5 24 rfl rfl
theorem dksX6_stands_7 : cX6_stands.data.toList.drop 166 = dktX6_stands_7 := dk_seg dksX6_stands_6 24 rfl rfl
theorem dksX6_stands_8 : cX6_stands.data.toList.drop 190 = dktX6_stands_8 := dk_seg dksX6_stands_7 24 rfl rfl
theorem dksX6_stands_9 : cX6_stands.data.toList.drop 213 = dktX6_stands_9 := dk_seg dksX6_stands_8 23 rfl rfl
theorem dksX6_stands_10 : cX6_stands.data.toList.drop 237 = dktX6_stands_10 := dk_seg dksX6_stands_9 24 rfl rfl
theorem dksX6_stands_11 : cX6_stands.data.toList.drop 261 = dktX6_stands_11 := dk_seg dksX6_stands_10 24 rfl rfl
theorem dksX6_stands_12 : cX6_stands.data.toList.drop 285 = dktX6_stands_12 := dk_seg dksX6_stands_11 24 rfl rfl
theorem dX6_stands_0 : decode cX6_stands 0 = .ok (.iconst 0, 1) := dk_3 (dk_at dksX6_stands_0 0 rfl rfl)
theorem dX6_stands_1 : decode cX6_stands 1 = .ok (.istore_n 1, 1) := dk_60 (dk_at dksX6_stands_0 1 rfl rfl)
theorem dX6_stands_2 : decode cX6_stands 2 = .ok (.iload_n 1, 1) := dk_27 (dk_at dksX6_stands_0 2 rfl rfl)
theorem dX6_stands_3 : decode cX6_stands 3 = .ok (.iconst 2, 1) := dk_5 (dk_at dksX6_stands_0 3 rfl rfl)
theorem dX6_stands_4 : decode cX6_stands 4 = .ok (.if_icmp .ge 23, 3) := dk_162 0 23 (dk_at dksX6_stands_0 4 rfl rfl)
theorem dX6_stands_7 : decode cX6_stands 7 = .ok (.aload_n 0, 1) := dk_42 (dk_at dksX6_stands_0 7 rfl rfl)
theorem dX6_stands_8 : decode cX6_stands 8 = .ok (.getfield 105, 3) := dk_180 0 105 (dk_at dksX6_stands_0 8 rfl rfl)
theorem dX6_stands_11 : decode cX6_stands 11 = .ok (.iconst 2, 1) := dk_5 (dk_at dksX6_stands_0 11 rfl rfl)
theorem dX6_stands_12 : decode cX6_stands 12 = .ok (.iload_n 1, 1) := dk_27 (dk_at dksX6_stands_0 12 rfl rfl)
theorem dX6_stands_13 : decode cX6_stands 13 = .ok (.iadd, 1) := dk_96 (dk_at dksX6_stands_0 13 rfl rfl)
theorem dX6_stands_14 : decode cX6_stands 14 = .ok (.aload_n 0, 1) := dk_42 (dk_at dksX6_stands_0 14 rfl rfl)
theorem dX6_stands_15 : decode cX6_stands 15 = .ok (.getfield 105, 3) := dk_180 0 105 (dk_at dksX6_stands_0 15 rfl rfl)
theorem dX6_stands_18 : decode cX6_stands 18 = .ok (.iload_n 1, 1) := dk_27 (dk_at dksX6_stands_0 18 rfl rfl)
theorem dX6_stands_19 : decode cX6_stands 19 = .ok (.iaload, 1) := dk_46 (dk_at dksX6_stands_0 19 rfl rfl)
theorem dX6_stands_20 : decode cX6_stands 20 = .ok (.iastore, 1) := dk_79 (dk_at dksX6_stands_0 20 rfl rfl)
theorem dX6_stands_21 : decode cX6_stands 21 = .ok (.iinc 1 1, 3) := dk_132 1 1 (dk_at dksX6_stands_0 21 rfl rfl)
theorem dX6_stands_24 : decode cX6_stands 24 = .ok (.goto (-22), 3) := dk_167 255 234 (dk_at dksX6_stands_1 0 rfl rfl)
theorem dX6_stands_27 : decode cX6_stands 27 = .ok (.iconst 0, 1) := dk_3 (dk_at dksX6_stands_1 3 rfl rfl)
theorem dX6_stands_28 : decode cX6_stands 28 = .ok (.istore_n 1, 1) := dk_60 (dk_at dksX6_stands_1 4 rfl rfl)
theorem dX6_stands_29 : decode cX6_stands 29 = .ok (.iload_n 1, 1) := dk_27 (dk_at dksX6_stands_1 5 rfl rfl)
theorem dX6_stands_30 : decode cX6_stands 30 = .ok (.bipush 16, 2) := dk_16 16 (dk_at dksX6_stands_1 6 rfl rfl)
theorem dX6_stands_32 : decode cX6_stands 32 = .ok (.if_icmp .ge 24, 3) := dk_162 0 24 (dk_at dksX6_stands_1 8 rfl rfl)
theorem dX6_stands_35 : decode cX6_stands 35 = .ok (.aload_n 0, 1) := dk_42 (dk_at dksX6_stands_1 11 rfl rfl)
theorem dX6_stands_36 : decode cX6_stands 36 = .ok (.getfield 108, 3) := dk_180 0 108 (dk_at dksX6_stands_1 12 rfl rfl)
theorem dX6_stands_39 : decode cX6_stands 39 = .ok (.bipush 16, 2) := dk_16 16 (dk_at dksX6_stands_1 15 rfl rfl)
theorem dX6_stands_41 : decode cX6_stands 41 = .ok (.iload_n 1, 1) := dk_27 (dk_at dksX6_stands_1 17 rfl rfl)
theorem dX6_stands_42 : decode cX6_stands 42 = .ok (.iadd, 1) := dk_96 (dk_at dksX6_stands_1 18 rfl rfl)
theorem dX6_stands_43 : decode cX6_stands 43 = .ok (.aload_n 0, 1) := dk_42 (dk_at dksX6_stands_1 19 rfl rfl)
theorem dX6_stands_44 : decode cX6_stands 44 = .ok (.getfield 108, 3) := dk_180 0 108 (dk_at dksX6_stands_1 20 rfl rfl)
theorem dX6_stands_47 : decode cX6_stands 47 = .ok (.iload_n 1, 1) := dk_27 (dk_at dksX6_stands_1 23 rfl rfl)
theorem dX6_stands_48 : decode cX6_stands 48 = .ok (.laload, 1) := dk_47 (dk_at dksX6_stands_2 0 rfl rfl)
theorem dX6_stands_49 : decode cX6_stands 49 = .ok (.lastore, 1) := dk_80 (dk_at dksX6_stands_2 1 rfl rfl)
theorem dX6_stands_50 : decode cX6_stands 50 = .ok (.iinc 1 1, 3) := dk_132 1 1 (dk_at dksX6_stands_2 2 rfl rfl)
theorem dX6_stands_53 : decode cX6_stands 53 = .ok (.goto (-24), 3) := dk_167 255 232 (dk_at dksX6_stands_2 5 rfl rfl)
theorem dX6_stands_56 : decode cX6_stands 56 = .ok (.iconst 0, 1) := dk_3 (dk_at dksX6_stands_2 8 rfl rfl)
theorem dX6_stands_57 : decode cX6_stands 57 = .ok (.istore_n 1, 1) := dk_60 (dk_at dksX6_stands_2 9 rfl rfl)
theorem dX6_stands_58 : decode cX6_stands 58 = .ok (.iload_n 1, 1) := dk_27 (dk_at dksX6_stands_2 10 rfl rfl)
theorem dX6_stands_59 : decode cX6_stands 59 = .ok (.bipush 8, 2) := dk_16 8 (dk_at dksX6_stands_2 11 rfl rfl)
theorem dX6_stands_61 : decode cX6_stands 61 = .ok (.if_icmp .ge 39, 3) := dk_162 0 39 (dk_at dksX6_stands_2 13 rfl rfl)
theorem dX6_stands_64 : decode cX6_stands 64 = .ok (.aload_n 0, 1) := dk_42 (dk_at dksX6_stands_2 16 rfl rfl)
theorem dX6_stands_65 : decode cX6_stands 65 = .ok (.getfield 112, 3) := dk_180 0 112 (dk_at dksX6_stands_2 17 rfl rfl)
theorem dX6_stands_68 : decode cX6_stands 68 = .ok (.bipush 8, 2) := dk_16 8 (dk_at dksX6_stands_2 20 rfl rfl)
theorem dX6_stands_70 : decode cX6_stands 70 = .ok (.iload_n 1, 1) := dk_27 (dk_at dksX6_stands_2 22 rfl rfl)
theorem dX6_stands_71 : decode cX6_stands 71 = .ok (.iadd, 1) := dk_96 (dk_at dksX6_stands_2 23 rfl rfl)
theorem dX6_stands_72 : decode cX6_stands 72 = .ok (.aload_n 0, 1) := dk_42 (dk_at dksX6_stands_3 0 rfl rfl)
theorem dX6_stands_73 : decode cX6_stands 73 = .ok (.getfield 112, 3) := dk_180 0 112 (dk_at dksX6_stands_3 1 rfl rfl)
theorem dX6_stands_76 : decode cX6_stands 76 = .ok (.iload_n 1, 1) := dk_27 (dk_at dksX6_stands_3 4 rfl rfl)
theorem dX6_stands_77 : decode cX6_stands 77 = .ok (.iaload, 1) := dk_46 (dk_at dksX6_stands_3 5 rfl rfl)
theorem dX6_stands_78 : decode cX6_stands 78 = .ok (.iastore, 1) := dk_79 (dk_at dksX6_stands_3 6 rfl rfl)
theorem dX6_stands_79 : decode cX6_stands 79 = .ok (.aload_n 0, 1) := dk_42 (dk_at dksX6_stands_3 7 rfl rfl)
theorem dX6_stands_80 : decode cX6_stands 80 = .ok (.getfield 115, 3) := dk_180 0 115 (dk_at dksX6_stands_3 8 rfl rfl)
theorem dX6_stands_83 : decode cX6_stands 83 = .ok (.bipush 8, 2) := dk_16 8 (dk_at dksX6_stands_3 11 rfl rfl)
theorem dX6_stands_85 : decode cX6_stands 85 = .ok (.iload_n 1, 1) := dk_27 (dk_at dksX6_stands_3 13 rfl rfl)
theorem dX6_stands_86 : decode cX6_stands 86 = .ok (.iadd, 1) := dk_96 (dk_at dksX6_stands_3 14 rfl rfl)
theorem dX6_stands_87 : decode cX6_stands 87 = .ok (.aload_n 0, 1) := dk_42 (dk_at dksX6_stands_3 15 rfl rfl)
theorem dX6_stands_88 : decode cX6_stands 88 = .ok (.getfield 115, 3) := dk_180 0 115 (dk_at dksX6_stands_3 16 rfl rfl)
theorem dX6_stands_91 : decode cX6_stands 91 = .ok (.iload_n 1, 1) := dk_27 (dk_at dksX6_stands_3 19 rfl rfl)
theorem dX6_stands_92 : decode cX6_stands 92 = .ok (.iaload, 1) := dk_46 (dk_at dksX6_stands_3 20 rfl rfl)
theorem dX6_stands_93 : decode cX6_stands 93 = .ok (.iastore, 1) := dk_79 (dk_at dksX6_stands_3 21 rfl rfl)
theorem dX6_stands_94 : decode cX6_stands 94 = .ok (.iinc 1 1, 3) := dk_132 1 1 (dk_at dksX6_stands_4 0 rfl rfl)
theorem dX6_stands_97 : decode cX6_stands 97 = .ok (.goto (-39), 3) := dk_167 255 217 (dk_at dksX6_stands_4 3 rfl rfl)
theorem dX6_stands_100 : decode cX6_stands 100 = .ok (.iconst 0, 1) := dk_3 (dk_at dksX6_stands_4 6 rfl rfl)
theorem dX6_stands_101 : decode cX6_stands 101 = .ok (.istore_n 1, 1) := dk_60 (dk_at dksX6_stands_4 7 rfl rfl)
theorem dX6_stands_102 : decode cX6_stands 102 = .ok (.iload_n 1, 1) := dk_27 (dk_at dksX6_stands_4 8 rfl rfl)
theorem dX6_stands_103 : decode cX6_stands 103 = .ok (.iconst 3, 1) := dk_6 (dk_at dksX6_stands_4 9 rfl rfl)
theorem dX6_stands_104 : decode cX6_stands 104 = .ok (.if_icmp .ge 51, 3) := dk_162 0 51 (dk_at dksX6_stands_4 10 rfl rfl)
theorem dX6_stands_107 : decode cX6_stands 107 = .ok (.aload_n 0, 1) := dk_42 (dk_at dksX6_stands_4 13 rfl rfl)
theorem dX6_stands_108 : decode cX6_stands 108 = .ok (.getfield 127, 3) := dk_180 0 127 (dk_at dksX6_stands_4 14 rfl rfl)
theorem dX6_stands_111 : decode cX6_stands 111 = .ok (.iconst 3, 1) := dk_6 (dk_at dksX6_stands_4 17 rfl rfl)
theorem dX6_stands_112 : decode cX6_stands 112 = .ok (.iload_n 1, 1) := dk_27 (dk_at dksX6_stands_4 18 rfl rfl)
theorem dX6_stands_113 : decode cX6_stands 113 = .ok (.iadd, 1) := dk_96 (dk_at dksX6_stands_4 19 rfl rfl)
theorem dX6_stands_114 : decode cX6_stands 114 = .ok (.aload_n 0, 1) := dk_42 (dk_at dksX6_stands_4 20 rfl rfl)
theorem dX6_stands_115 : decode cX6_stands 115 = .ok (.getfield 127, 3) := dk_180 0 127 (dk_at dksX6_stands_4 21 rfl rfl)
theorem dX6_stands_118 : decode cX6_stands 118 = .ok (.iload_n 1, 1) := dk_27 (dk_at dksX6_stands_5 0 rfl rfl)
theorem dX6_stands_119 : decode cX6_stands 119 = .ok (.iaload, 1) := dk_46 (dk_at dksX6_stands_5 1 rfl rfl)
theorem dX6_stands_120 : decode cX6_stands 120 = .ok (.iastore, 1) := dk_79 (dk_at dksX6_stands_5 2 rfl rfl)
theorem dX6_stands_121 : decode cX6_stands 121 = .ok (.aload_n 0, 1) := dk_42 (dk_at dksX6_stands_5 3 rfl rfl)
theorem dX6_stands_122 : decode cX6_stands 122 = .ok (.getfield 130, 3) := dk_180 0 130 (dk_at dksX6_stands_5 4 rfl rfl)
theorem dX6_stands_125 : decode cX6_stands 125 = .ok (.iconst 3, 1) := dk_6 (dk_at dksX6_stands_5 7 rfl rfl)
theorem dX6_stands_126 : decode cX6_stands 126 = .ok (.iload_n 1, 1) := dk_27 (dk_at dksX6_stands_5 8 rfl rfl)
theorem dX6_stands_127 : decode cX6_stands 127 = .ok (.iadd, 1) := dk_96 (dk_at dksX6_stands_5 9 rfl rfl)
theorem dX6_stands_128 : decode cX6_stands 128 = .ok (.aload_n 0, 1) := dk_42 (dk_at dksX6_stands_5 10 rfl rfl)
theorem dX6_stands_129 : decode cX6_stands 129 = .ok (.getfield 130, 3) := dk_180 0 130 (dk_at dksX6_stands_5 11 rfl rfl)
theorem dX6_stands_132 : decode cX6_stands 132 = .ok (.iload_n 1, 1) := dk_27 (dk_at dksX6_stands_5 14 rfl rfl)
theorem dX6_stands_133 : decode cX6_stands 133 = .ok (.iaload, 1) := dk_46 (dk_at dksX6_stands_5 15 rfl rfl)
theorem dX6_stands_134 : decode cX6_stands 134 = .ok (.iastore, 1) := dk_79 (dk_at dksX6_stands_5 16 rfl rfl)
theorem dX6_stands_135 : decode cX6_stands 135 = .ok (.aload_n 0, 1) := dk_42 (dk_at dksX6_stands_5 17 rfl rfl)
theorem dX6_stands_136 : decode cX6_stands 136 = .ok (.getfield 133, 3) := dk_180 0 133 (dk_at dksX6_stands_5 18 rfl rfl)
theorem dX6_stands_139 : decode cX6_stands 139 = .ok (.iconst 3, 1) := dk_6 (dk_at dksX6_stands_5 21 rfl rfl)
theorem dX6_stands_140 : decode cX6_stands 140 = .ok (.iload_n 1, 1) := dk_27 (dk_at dksX6_stands_5 22 rfl rfl)
theorem dX6_stands_141 : decode cX6_stands 141 = .ok (.iadd, 1) := dk_96 (dk_at dksX6_stands_5 23 rfl rfl)
theorem dX6_stands_142 : decode cX6_stands 142 = .ok (.aload_n 0, 1) := dk_42 (dk_at dksX6_stands_6 0 rfl rfl)
theorem dX6_stands_143 : decode cX6_stands 143 = .ok (.getfield 133, 3) := dk_180 0 133 (dk_at dksX6_stands_6 1 rfl rfl)
theorem dX6_stands_146 : decode cX6_stands 146 = .ok (.iload_n 1, 1) := dk_27 (dk_at dksX6_stands_6 4 rfl rfl)
theorem dX6_stands_147 : decode cX6_stands 147 = .ok (.iaload, 1) := dk_46 (dk_at dksX6_stands_6 5 rfl rfl)
theorem dX6_stands_148 : decode cX6_stands 148 = .ok (.iastore, 1) := dk_79 (dk_at dksX6_stands_6 6 rfl rfl)
theorem dX6_stands_149 : decode cX6_stands 149 = .ok (.iinc 1 1, 3) := dk_132 1 1 (dk_at dksX6_stands_6 7 rfl rfl)
theorem dX6_stands_152 : decode cX6_stands 152 = .ok (.goto (-50), 3) := dk_167 255 206 (dk_at dksX6_stands_6 10 rfl rfl)
theorem dX6_stands_155 : decode cX6_stands 155 = .ok (.iconst 0, 1) := dk_3 (dk_at dksX6_stands_6 13 rfl rfl)
theorem dX6_stands_156 : decode cX6_stands 156 = .ok (.istore_n 1, 1) := dk_60 (dk_at dksX6_stands_6 14 rfl rfl)
theorem dX6_stands_157 : decode cX6_stands 157 = .ok (.iload_n 1, 1) := dk_27 (dk_at dksX6_stands_6 15 rfl rfl)
theorem dX6_stands_158 : decode cX6_stands 158 = .ok (.aload_n 0, 1) := dk_42 (dk_at dksX6_stands_6 16 rfl rfl)
theorem dX6_stands_159 : decode cX6_stands 159 = .ok (.getfield 357, 3) := dk_180 1 101 (dk_at dksX6_stands_6 17 rfl rfl)
theorem dX6_stands_162 : decode cX6_stands 162 = .ok (.if_icmp .ge 25, 3) := dk_162 0 25 (dk_at dksX6_stands_6 20 rfl rfl)
theorem dX6_stands_165 : decode cX6_stands 165 = .ok (.aload_n 0, 1) := dk_42 (dk_at dksX6_stands_6 23 rfl rfl)
theorem dX6_stands_166 : decode cX6_stands 166 = .ok (.getfield 136, 3) := dk_180 0 136 (dk_at dksX6_stands_7 0 rfl rfl)
theorem dX6_stands_169 : decode cX6_stands 169 = .ok (.sipush 1600, 3) := dk_17 6 64 (dk_at dksX6_stands_7 3 rfl rfl)
theorem dX6_stands_172 : decode cX6_stands 172 = .ok (.iload_n 1, 1) := dk_27 (dk_at dksX6_stands_7 6 rfl rfl)
theorem dX6_stands_173 : decode cX6_stands 173 = .ok (.iadd, 1) := dk_96 (dk_at dksX6_stands_7 7 rfl rfl)
theorem dX6_stands_174 : decode cX6_stands 174 = .ok (.aload_n 0, 1) := dk_42 (dk_at dksX6_stands_7 8 rfl rfl)
theorem dX6_stands_175 : decode cX6_stands 175 = .ok (.getfield 136, 3) := dk_180 0 136 (dk_at dksX6_stands_7 9 rfl rfl)
theorem dX6_stands_178 : decode cX6_stands 178 = .ok (.iload_n 1, 1) := dk_27 (dk_at dksX6_stands_7 12 rfl rfl)
theorem dX6_stands_179 : decode cX6_stands 179 = .ok (.iaload, 1) := dk_46 (dk_at dksX6_stands_7 13 rfl rfl)
theorem dX6_stands_180 : decode cX6_stands 180 = .ok (.iastore, 1) := dk_79 (dk_at dksX6_stands_7 14 rfl rfl)
theorem dX6_stands_181 : decode cX6_stands 181 = .ok (.iinc 1 1, 3) := dk_132 1 1 (dk_at dksX6_stands_7 15 rfl rfl)
theorem dX6_stands_184 : decode cX6_stands 184 = .ok (.goto (-27), 3) := dk_167 255 229 (dk_at dksX6_stands_7 18 rfl rfl)
theorem dX6_stands_187 : decode cX6_stands 187 = .ok (.iconst 0, 1) := dk_3 (dk_at dksX6_stands_7 21 rfl rfl)
theorem dX6_stands_188 : decode cX6_stands 188 = .ok (.istore_n 1, 1) := dk_60 (dk_at dksX6_stands_7 22 rfl rfl)
theorem dX6_stands_189 : decode cX6_stands 189 = .ok (.iload_n 1, 1) := dk_27 (dk_at dksX6_stands_7 23 rfl rfl)
theorem dX6_stands_190 : decode cX6_stands 190 = .ok (.sipush 132, 3) := dk_17 0 132 (dk_at dksX6_stands_8 0 rfl rfl)
theorem dX6_stands_193 : decode cX6_stands 193 = .ok (.if_icmp .ge 16, 3) := dk_162 0 16 (dk_at dksX6_stands_8 3 rfl rfl)
theorem dX6_stands_196 : decode cX6_stands 196 = .ok (.aload_n 0, 1) := dk_42 (dk_at dksX6_stands_8 6 rfl rfl)
theorem dX6_stands_197 : decode cX6_stands 197 = .ok (.getfield 139, 3) := dk_180 0 139 (dk_at dksX6_stands_8 7 rfl rfl)
theorem dX6_stands_200 : decode cX6_stands 200 = .ok (.iload_n 1, 1) := dk_27 (dk_at dksX6_stands_8 10 rfl rfl)
theorem dX6_stands_201 : decode cX6_stands 201 = .ok (.iconst 0, 1) := dk_3 (dk_at dksX6_stands_8 11 rfl rfl)
theorem dX6_stands_202 : decode cX6_stands 202 = .ok (.iastore, 1) := dk_79 (dk_at dksX6_stands_8 12 rfl rfl)
theorem dX6_stands_203 : decode cX6_stands 203 = .ok (.iinc 1 1, 3) := dk_132 1 1 (dk_at dksX6_stands_8 13 rfl rfl)
theorem dX6_stands_206 : decode cX6_stands 206 = .ok (.goto (-17), 3) := dk_167 255 239 (dk_at dksX6_stands_8 16 rfl rfl)
theorem dX6_stands_209 : decode cX6_stands 209 = .ok (.iconst 0, 1) := dk_3 (dk_at dksX6_stands_8 19 rfl rfl)
theorem dX6_stands_210 : decode cX6_stands 210 = .ok (.istore_n 1, 1) := dk_60 (dk_at dksX6_stands_8 20 rfl rfl)
theorem dX6_stands_211 : decode cX6_stands 211 = .ok (.iload_n 1, 1) := dk_27 (dk_at dksX6_stands_8 21 rfl rfl)
theorem dX6_stands_212 : decode cX6_stands 212 = .ok (.aload_n 0, 1) := dk_42 (dk_at dksX6_stands_8 22 rfl rfl)
theorem dX6_stands_213 : decode cX6_stands 213 = .ok (.getfield 105, 3) := dk_180 0 105 (dk_at dksX6_stands_9 0 rfl rfl)
theorem dX6_stands_216 : decode cX6_stands 216 = .ok (.iconst 1, 1) := dk_4 (dk_at dksX6_stands_9 3 rfl rfl)
theorem dX6_stands_217 : decode cX6_stands 217 = .ok (.iaload, 1) := dk_46 (dk_at dksX6_stands_9 4 rfl rfl)
theorem dX6_stands_218 : decode cX6_stands 218 = .ok (.if_icmp .ge 79, 3) := dk_162 0 79 (dk_at dksX6_stands_9 5 rfl rfl)
theorem dX6_stands_221 : decode cX6_stands 221 = .ok (.aload_n 0, 1) := dk_42 (dk_at dksX6_stands_9 8 rfl rfl)
theorem dX6_stands_222 : decode cX6_stands 222 = .ok (.getfield 139, 3) := dk_180 0 139 (dk_at dksX6_stands_9 9 rfl rfl)
theorem dX6_stands_225 : decode cX6_stands 225 = .ok (.iconst 1, 1) := dk_4 (dk_at dksX6_stands_9 12 rfl rfl)
theorem dX6_stands_226 : decode cX6_stands 226 = .ok (.iconst 5, 1) := dk_8 (dk_at dksX6_stands_9 13 rfl rfl)
theorem dX6_stands_227 : decode cX6_stands 227 = .ok (.iload_n 1, 1) := dk_27 (dk_at dksX6_stands_9 14 rfl rfl)
theorem dX6_stands_228 : decode cX6_stands 228 = .ok (.imul, 1) := dk_104 (dk_at dksX6_stands_9 15 rfl rfl)
theorem dX6_stands_229 : decode cX6_stands 229 = .ok (.iadd, 1) := dk_96 (dk_at dksX6_stands_9 16 rfl rfl)
theorem dX6_stands_230 : decode cX6_stands 230 = .ok (.aload_n 0, 1) := dk_42 (dk_at dksX6_stands_9 17 rfl rfl)
theorem dX6_stands_231 : decode cX6_stands 231 = .ok (.getfield 124, 3) := dk_180 0 124 (dk_at dksX6_stands_9 18 rfl rfl)
theorem dX6_stands_234 : decode cX6_stands 234 = .ok (.iload_n 1, 1) := dk_27 (dk_at dksX6_stands_9 21 rfl rfl)
theorem dX6_stands_235 : decode cX6_stands 235 = .ok (.iaload, 1) := dk_46 (dk_at dksX6_stands_9 22 rfl rfl)
theorem dX6_stands_236 : decode cX6_stands 236 = .ok (.iastore, 1) := dk_79 (dk_at dksX6_stands_9 23 rfl rfl)
theorem dX6_stands_237 : decode cX6_stands 237 = .ok (.aload_n 0, 1) := dk_42 (dk_at dksX6_stands_10 0 rfl rfl)
theorem dX6_stands_238 : decode cX6_stands 238 = .ok (.getfield 139, 3) := dk_180 0 139 (dk_at dksX6_stands_10 1 rfl rfl)
theorem dX6_stands_241 : decode cX6_stands 241 = .ok (.iconst 1, 1) := dk_4 (dk_at dksX6_stands_10 4 rfl rfl)
theorem dX6_stands_242 : decode cX6_stands 242 = .ok (.iconst 5, 1) := dk_8 (dk_at dksX6_stands_10 5 rfl rfl)
theorem dX6_stands_243 : decode cX6_stands 243 = .ok (.iload_n 1, 1) := dk_27 (dk_at dksX6_stands_10 6 rfl rfl)
theorem dX6_stands_244 : decode cX6_stands 244 = .ok (.imul, 1) := dk_104 (dk_at dksX6_stands_10 7 rfl rfl)
theorem dX6_stands_245 : decode cX6_stands 245 = .ok (.iadd, 1) := dk_96 (dk_at dksX6_stands_10 8 rfl rfl)
theorem dX6_stands_246 : decode cX6_stands 246 = .ok (.iconst 1, 1) := dk_4 (dk_at dksX6_stands_10 9 rfl rfl)
theorem dX6_stands_247 : decode cX6_stands 247 = .ok (.iadd, 1) := dk_96 (dk_at dksX6_stands_10 10 rfl rfl)
theorem dX6_stands_248 : decode cX6_stands 248 = .ok (.aload_n 0, 1) := dk_42 (dk_at dksX6_stands_10 11 rfl rfl)
theorem dX6_stands_249 : decode cX6_stands 249 = .ok (.getfield 118, 3) := dk_180 0 118 (dk_at dksX6_stands_10 12 rfl rfl)
theorem dX6_stands_252 : decode cX6_stands 252 = .ok (.iload_n 1, 1) := dk_27 (dk_at dksX6_stands_10 15 rfl rfl)
theorem dX6_stands_253 : decode cX6_stands 253 = .ok (.iaload, 1) := dk_46 (dk_at dksX6_stands_10 16 rfl rfl)
theorem dX6_stands_254 : decode cX6_stands 254 = .ok (.iastore, 1) := dk_79 (dk_at dksX6_stands_10 17 rfl rfl)
theorem dX6_stands_255 : decode cX6_stands 255 = .ok (.aload_n 0, 1) := dk_42 (dk_at dksX6_stands_10 18 rfl rfl)
theorem dX6_stands_256 : decode cX6_stands 256 = .ok (.getfield 139, 3) := dk_180 0 139 (dk_at dksX6_stands_10 19 rfl rfl)
theorem dX6_stands_259 : decode cX6_stands 259 = .ok (.iconst 1, 1) := dk_4 (dk_at dksX6_stands_10 22 rfl rfl)
theorem dX6_stands_260 : decode cX6_stands 260 = .ok (.iconst 5, 1) := dk_8 (dk_at dksX6_stands_10 23 rfl rfl)
theorem dX6_stands_261 : decode cX6_stands 261 = .ok (.iload_n 1, 1) := dk_27 (dk_at dksX6_stands_11 0 rfl rfl)
theorem dX6_stands_262 : decode cX6_stands 262 = .ok (.imul, 1) := dk_104 (dk_at dksX6_stands_11 1 rfl rfl)
theorem dX6_stands_263 : decode cX6_stands 263 = .ok (.iadd, 1) := dk_96 (dk_at dksX6_stands_11 2 rfl rfl)
theorem dX6_stands_264 : decode cX6_stands 264 = .ok (.iconst 2, 1) := dk_5 (dk_at dksX6_stands_11 3 rfl rfl)
theorem dX6_stands_265 : decode cX6_stands 265 = .ok (.iadd, 1) := dk_96 (dk_at dksX6_stands_11 4 rfl rfl)
theorem dX6_stands_266 : decode cX6_stands 266 = .ok (.aload_n 0, 1) := dk_42 (dk_at dksX6_stands_11 5 rfl rfl)
theorem dX6_stands_267 : decode cX6_stands 267 = .ok (.getfield 121, 3) := dk_180 0 121 (dk_at dksX6_stands_11 6 rfl rfl)
theorem dX6_stands_270 : decode cX6_stands 270 = .ok (.iload_n 1, 1) := dk_27 (dk_at dksX6_stands_11 9 rfl rfl)
theorem dX6_stands_271 : decode cX6_stands 271 = .ok (.iaload, 1) := dk_46 (dk_at dksX6_stands_11 10 rfl rfl)
theorem dX6_stands_272 : decode cX6_stands 272 = .ok (.iastore, 1) := dk_79 (dk_at dksX6_stands_11 11 rfl rfl)
theorem dX6_stands_273 : decode cX6_stands 273 = .ok (.aload_n 0, 1) := dk_42 (dk_at dksX6_stands_11 12 rfl rfl)
theorem dX6_stands_274 : decode cX6_stands 274 = .ok (.getfield 139, 3) := dk_180 0 139 (dk_at dksX6_stands_11 13 rfl rfl)
theorem dX6_stands_277 : decode cX6_stands 277 = .ok (.iconst 1, 1) := dk_4 (dk_at dksX6_stands_11 16 rfl rfl)
theorem dX6_stands_278 : decode cX6_stands 278 = .ok (.iconst 5, 1) := dk_8 (dk_at dksX6_stands_11 17 rfl rfl)
theorem dX6_stands_279 : decode cX6_stands 279 = .ok (.iload_n 1, 1) := dk_27 (dk_at dksX6_stands_11 18 rfl rfl)
theorem dX6_stands_280 : decode cX6_stands 280 = .ok (.imul, 1) := dk_104 (dk_at dksX6_stands_11 19 rfl rfl)
theorem dX6_stands_281 : decode cX6_stands 281 = .ok (.iadd, 1) := dk_96 (dk_at dksX6_stands_11 20 rfl rfl)
theorem dX6_stands_282 : decode cX6_stands 282 = .ok (.iconst 3, 1) := dk_6 (dk_at dksX6_stands_11 21 rfl rfl)
theorem dX6_stands_283 : decode cX6_stands 283 = .ok (.iadd, 1) := dk_96 (dk_at dksX6_stands_11 22 rfl rfl)
theorem dX6_stands_284 : decode cX6_stands 284 = .ok (.aload_n 0, 1) := dk_42 (dk_at dksX6_stands_11 23 rfl rfl)
theorem dX6_stands_285 : decode cX6_stands 285 = .ok (.getfield 127, 3) := dk_180 0 127 (dk_at dksX6_stands_12 0 rfl rfl)
theorem dX6_stands_288 : decode cX6_stands 288 = .ok (.iconst 1, 1) := dk_4 (dk_at dksX6_stands_12 3 rfl rfl)
theorem dX6_stands_289 : decode cX6_stands 289 = .ok (.iaload, 1) := dk_46 (dk_at dksX6_stands_12 4 rfl rfl)
theorem dX6_stands_290 : decode cX6_stands 290 = .ok (.iastore, 1) := dk_79 (dk_at dksX6_stands_12 5 rfl rfl)
theorem dX6_stands_291 : decode cX6_stands 291 = .ok (.iinc 1 1, 3) := dk_132 1 1 (dk_at dksX6_stands_12 6 rfl rfl)
theorem dX6_stands_294 : decode cX6_stands 294 = .ok (.goto (-83), 3) := dk_167 255 173 (dk_at dksX6_stands_12 9 rfl rfl)
theorem dX6_stands_297 : decode cX6_stands 297 = .ok (.aload_n 0, 1) := dk_42 (dk_at dksX6_stands_12 12 rfl rfl)
theorem dX6_stands_298 : decode cX6_stands 298 = .ok (.iconst 0, 1) := dk_3 (dk_at dksX6_stands_12 13 rfl rfl)
theorem dX6_stands_299 : decode cX6_stands 299 = .ok (.putfield 392, 3) := dk_181 1 136 (dk_at dksX6_stands_12 14 rfl rfl)
theorem dX6_stands_302 : decode cX6_stands 302 = .ok (.aload_n 0, 1) := dk_42 (dk_at dksX6_stands_12 17 rfl rfl)
theorem dX6_stands_303 : decode cX6_stands 303 = .ok (.iconst 0, 1) := dk_3 (dk_at dksX6_stands_12 18 rfl rfl)
theorem dX6_stands_304 : decode cX6_stands 304 = .ok (.putfield 395, 3) := dk_181 1 139 (dk_at dksX6_stands_12 19 rfl rfl)
theorem dX6_stands_307 : decode cX6_stands 307 = .ok (.return_, 1) := dk_177 (dk_at dksX6_stands_12 22 rfl rfl)
abbrev cX6_fault : ByteArray := prog_22_method_30_code
def yX6_fault : MethodName := ⟨RX6, "fault", "(I)I"⟩
def dkwX6_fault_1 : List UInt8 := [172]
abbrev dktX6_fault_1 : List UInt8 := dkwX6_fault_1 ++ []
def dkwX6_fault_0 : List UInt8 := [27, 154, 0, 10, 42, 180, 1, 130, 167, 0, 16, 27, 4, 160, 0, 10, 42, 180, 0, 13, 167, 0, 4, 2]
abbrev dktX6_fault_0 : List UInt8 := dkwX6_fault_0 ++ dktX6_fault_1
theorem dksX6_fault_0 : cX6_fault.data.toList.drop 0 = dktX6_fault_0 := by decide +kernel
theorem dksX6_fault_1 : cX6_fault.data.toList.drop 24 = dktX6_fault_1 := dk_seg dksX6_fault_0 24 rfl rfl
theorem dX6_fault_0 : decode cX6_fault 0 = .ok (.iload_n 1, 1) := dk_27 (dk_at dksX6_fault_0 0 rfl rfl)
theorem dX6_fault_1 : decode cX6_fault 1 = .ok (.ifCond .ne 10, 3) := dk_154 0 10 (dk_at dksX6_fault_0 1 rfl rfl)
theorem dX6_fault_4 : decode cX6_fault 4 = .ok (.aload_n 0, 1) := dk_42 (dk_at dksX6_fault_0 4 rfl rfl)
theorem dX6_fault_5 : decode cX6_fault 5 = .ok (.getfield 386, 3) := dk_180 1 130 (dk_at dksX6_fault_0 5 rfl rfl)
theorem dX6_fault_8 : decode cX6_fault 8 = .ok (.goto 16, 3) := dk_167 0 16 (dk_at dksX6_fault_0 8 rfl rfl)
theorem dX6_fault_11 : decode cX6_fault 11 = .ok (.iload_n 1, 1) := dk_27 (dk_at dksX6_fault_0 11 rfl rfl)
theorem dX6_fault_12 : decode cX6_fault 12 = .ok (.iconst 1, 1) := dk_4 (dk_at dksX6_fault_0 12 rfl rfl)
theorem dX6_fault_13 : decode cX6_fault 13 = .ok (.if_icmp .ne 10, 3) := dk_160 0 10 (dk_at dksX6_fault_0 13 rfl rfl)
theorem dX6_fault_16 : decode cX6_fault 16 = .ok (.aload_n 0, 1) := dk_42 (dk_at dksX6_fault_0 16 rfl rfl)
theorem dX6_fault_17 : decode cX6_fault 17 = .ok (.getfield 13, 3) := dk_180 0 13 (dk_at dksX6_fault_0 17 rfl rfl)
theorem dX6_fault_20 : decode cX6_fault 20 = .ok (.goto 4, 3) := dk_167 0 4 (dk_at dksX6_fault_0 20 rfl rfl)
theorem dX6_fault_23 : decode cX6_fault 23 = .ok (.iconst (-1), 1) := dk_2 (dk_at dksX6_fault_0 23 rfl rfl)
theorem dX6_fault_24 : decode cX6_fault 24 = .ok (.ireturn, 1) := dk_172 (dk_at dksX6_fault_1 0 rfl rfl)
abbrev cX6_has : ByteArray := prog_22_method_63_code
def yX6_has : MethodName := ⟨RX6, "has", "(I)I"⟩
def dkwX6_has_4 : List UInt8 := [16, 41, 46, 172, 42, 180, 1, 139, 172, 42, 180, 1, 136, 172, 2, 172]
abbrev dktX6_has_4 : List UInt8 := dkwX6_has_4 ++ []
def dkwX6_has_3 : List UInt8 := [3, 46, 172, 42, 27, 7, 100, 182, 1, 230, 184, 1, 227, 172, 42, 3, 182, 1, 233, 172, 42, 180, 0, 139]
abbrev dktX6_has_3 : List UInt8 := dkwX6_has_3 ++ dktX6_has_4
def dkwX6_has_2 : List UInt8 := [42, 180, 0, 105, 5, 27, 96, 46, 172, 42, 180, 0, 127, 6, 27, 96, 5, 100, 46, 172, 42, 180, 0, 139]
abbrev dktX6_has_2 : List UInt8 := dkwX6_has_2 ++ dktX6_has_3
def dkwX6_has_1 : List UInt8 := [170, 0, 0, 0, 0, 0, 121, 0, 0, 0, 0, 0, 0, 0, 10, 0, 0, 0, 59, 0, 0, 0, 59, 0, 0, 0, 68, 0, 0, 0, 68, 0, 0, 0, 79, 0, 0, 0, 86, 0, 0, 0, 86, 0, 0, 0, 97, 0, 0, 0, 103, 0, 0, 0, 111, 0, 0, 0, 116]
abbrev dktX6_has_1 : List UInt8 := dkwX6_has_1 ++ dktX6_has_2
def dkwX6_has_0 : List UInt8 := [27]
abbrev dktX6_has_0 : List UInt8 := dkwX6_has_0 ++ dktX6_has_1
theorem dksX6_has_0 : cX6_has.data.toList.drop 0 = dktX6_has_0 := by decide +kernel
theorem dksX6_has_1 : cX6_has.data.toList.drop 1 = dktX6_has_1 := dk_seg dksX6_has_0 1 rfl rfl
theorem dksX6_has_2 : cX6_has.data.toList.drop 60 = dktX6_has_2 := dk_seg dksX6_has_1 59 rfl rfl
theorem dksX6_has_3 : cX6_has.data.toList.drop 84 = dktX6_has_3 := dk_seg dksX6_has_2 24 rfl rfl
theorem dksX6_has_4 : cX6_has.data.toList.drop 108 = dktX6_has_4 := dk_seg dksX6_has_3 24 rfl rfl
theorem dX6_has_0 : decode cX6_has 0 = .ok (.iload_n 1, 1) := dk_27 (dk_at dksX6_has_0 0 rfl rfl)
theorem dX6_has_1 : decode cX6_has 1 = .ok (.tableswitch 121 0 10 #[59, 59, 68, 68, 79, 86, 86, 97, 103, 111, 116], 59) := by decide +kernel
theorem dX6_has_60 : decode cX6_has 60 = .ok (.aload_n 0, 1) := dk_42 (dk_at dksX6_has_2 0 rfl rfl)
theorem dX6_has_61 : decode cX6_has 61 = .ok (.getfield 105, 3) := dk_180 0 105 (dk_at dksX6_has_2 1 rfl rfl)
theorem dX6_has_64 : decode cX6_has 64 = .ok (.iconst 2, 1) := dk_5 (dk_at dksX6_has_2 4 rfl rfl)
theorem dX6_has_65 : decode cX6_has 65 = .ok (.iload_n 1, 1) := dk_27 (dk_at dksX6_has_2 5 rfl rfl)
theorem dX6_has_66 : decode cX6_has 66 = .ok (.iadd, 1) := dk_96 (dk_at dksX6_has_2 6 rfl rfl)
theorem dX6_has_67 : decode cX6_has 67 = .ok (.iaload, 1) := dk_46 (dk_at dksX6_has_2 7 rfl rfl)
theorem dX6_has_68 : decode cX6_has 68 = .ok (.ireturn, 1) := dk_172 (dk_at dksX6_has_2 8 rfl rfl)
theorem dX6_has_69 : decode cX6_has 69 = .ok (.aload_n 0, 1) := dk_42 (dk_at dksX6_has_2 9 rfl rfl)
theorem dX6_has_70 : decode cX6_has 70 = .ok (.getfield 127, 3) := dk_180 0 127 (dk_at dksX6_has_2 10 rfl rfl)
theorem dX6_has_73 : decode cX6_has 73 = .ok (.iconst 3, 1) := dk_6 (dk_at dksX6_has_2 13 rfl rfl)
theorem dX6_has_74 : decode cX6_has 74 = .ok (.iload_n 1, 1) := dk_27 (dk_at dksX6_has_2 14 rfl rfl)
theorem dX6_has_75 : decode cX6_has 75 = .ok (.iadd, 1) := dk_96 (dk_at dksX6_has_2 15 rfl rfl)
theorem dX6_has_76 : decode cX6_has 76 = .ok (.iconst 2, 1) := dk_5 (dk_at dksX6_has_2 16 rfl rfl)
theorem dX6_has_77 : decode cX6_has 77 = .ok (.isub, 1) := dk_100 (dk_at dksX6_has_2 17 rfl rfl)
theorem dX6_has_78 : decode cX6_has 78 = .ok (.iaload, 1) := dk_46 (dk_at dksX6_has_2 18 rfl rfl)
theorem dX6_has_79 : decode cX6_has 79 = .ok (.ireturn, 1) := dk_172 (dk_at dksX6_has_2 19 rfl rfl)
theorem dX6_has_80 : decode cX6_has 80 = .ok (.aload_n 0, 1) := dk_42 (dk_at dksX6_has_2 20 rfl rfl)
theorem dX6_has_81 : decode cX6_has 81 = .ok (.getfield 139, 3) := dk_180 0 139 (dk_at dksX6_has_2 21 rfl rfl)
theorem dX6_has_84 : decode cX6_has 84 = .ok (.iconst 0, 1) := dk_3 (dk_at dksX6_has_3 0 rfl rfl)
theorem dX6_has_85 : decode cX6_has 85 = .ok (.iaload, 1) := dk_46 (dk_at dksX6_has_3 1 rfl rfl)
theorem dX6_has_86 : decode cX6_has 86 = .ok (.ireturn, 1) := dk_172 (dk_at dksX6_has_3 2 rfl rfl)
theorem dX6_has_87 : decode cX6_has 87 = .ok (.aload_n 0, 1) := dk_42 (dk_at dksX6_has_3 3 rfl rfl)
theorem dX6_has_88 : decode cX6_has 88 = .ok (.iload_n 1, 1) := dk_27 (dk_at dksX6_has_3 4 rfl rfl)
theorem dX6_has_89 : decode cX6_has 89 = .ok (.iconst 4, 1) := dk_7 (dk_at dksX6_has_3 5 rfl rfl)
theorem dX6_has_90 : decode cX6_has 90 = .ok (.isub, 1) := dk_100 (dk_at dksX6_has_3 6 rfl rfl)
theorem dX6_has_91 : decode cX6_has 91 = .ok (.invokevirtual 486, 3) := dk_182 1 230 (dk_at dksX6_has_3 7 rfl rfl)
theorem dX6_has_94 : decode cX6_has 94 = .ok (.invokestatic 483, 3) := dk_184 1 227 (dk_at dksX6_has_3 10 rfl rfl)
theorem dX6_has_97 : decode cX6_has 97 = .ok (.ireturn, 1) := dk_172 (dk_at dksX6_has_3 13 rfl rfl)
theorem dX6_has_98 : decode cX6_has 98 = .ok (.aload_n 0, 1) := dk_42 (dk_at dksX6_has_3 14 rfl rfl)
theorem dX6_has_99 : decode cX6_has 99 = .ok (.iconst 0, 1) := dk_3 (dk_at dksX6_has_3 15 rfl rfl)
theorem dX6_has_100 : decode cX6_has 100 = .ok (.invokevirtual 489, 3) := dk_182 1 233 (dk_at dksX6_has_3 16 rfl rfl)
theorem dX6_has_103 : decode cX6_has 103 = .ok (.ireturn, 1) := dk_172 (dk_at dksX6_has_3 19 rfl rfl)
theorem dX6_has_104 : decode cX6_has 104 = .ok (.aload_n 0, 1) := dk_42 (dk_at dksX6_has_3 20 rfl rfl)
theorem dX6_has_105 : decode cX6_has 105 = .ok (.getfield 139, 3) := dk_180 0 139 (dk_at dksX6_has_3 21 rfl rfl)
theorem dX6_has_108 : decode cX6_has 108 = .ok (.bipush 41, 2) := dk_16 41 (dk_at dksX6_has_4 0 rfl rfl)
theorem dX6_has_110 : decode cX6_has 110 = .ok (.iaload, 1) := dk_46 (dk_at dksX6_has_4 2 rfl rfl)
theorem dX6_has_111 : decode cX6_has 111 = .ok (.ireturn, 1) := dk_172 (dk_at dksX6_has_4 3 rfl rfl)
theorem dX6_has_112 : decode cX6_has 112 = .ok (.aload_n 0, 1) := dk_42 (dk_at dksX6_has_4 4 rfl rfl)
theorem dX6_has_113 : decode cX6_has 113 = .ok (.getfield 395, 3) := dk_180 1 139 (dk_at dksX6_has_4 5 rfl rfl)
theorem dX6_has_116 : decode cX6_has 116 = .ok (.ireturn, 1) := dk_172 (dk_at dksX6_has_4 8 rfl rfl)
theorem dX6_has_117 : decode cX6_has 117 = .ok (.aload_n 0, 1) := dk_42 (dk_at dksX6_has_4 9 rfl rfl)
theorem dX6_has_118 : decode cX6_has 118 = .ok (.getfield 392, 3) := dk_180 1 136 (dk_at dksX6_has_4 10 rfl rfl)
theorem dX6_has_121 : decode cX6_has 121 = .ok (.ireturn, 1) := dk_172 (dk_at dksX6_has_4 13 rfl rfl)
theorem dX6_has_122 : decode cX6_has 122 = .ok (.iconst (-1), 1) := dk_2 (dk_at dksX6_has_4 14 rfl rfl)
theorem dX6_has_123 : decode cX6_has 123 = .ok (.ireturn, 1) := dk_172 (dk_at dksX6_has_4 15 rfl rfl)
abbrev cX6_thoseWho : ByteArray := prog_22_method_61_code
def yX6_thoseWho : MethodName := ⟨RX6, "thoseWho", "(I)I"⟩
def dkwX6_thoseWho_1 : List UInt8 := [27, 126, 153, 0, 9, 28, 4, 29, 120, 128, 61, 132, 3, 1, 167, 255, 222, 28, 172]
abbrev dktX6_thoseWho_1 : List UInt8 := dkwX6_thoseWho_1 ++ []
def dkwX6_thoseWho_0 : List UInt8 := [3, 61, 3, 62, 29, 42, 182, 1, 145, 162, 0, 32, 42, 180, 0, 139, 4, 8, 29, 104, 96, 7, 96, 46]
abbrev dktX6_thoseWho_0 : List UInt8 := dkwX6_thoseWho_0 ++ dktX6_thoseWho_1
theorem dksX6_thoseWho_0 : cX6_thoseWho.data.toList.drop 0 = dktX6_thoseWho_0 := by decide +kernel
theorem dksX6_thoseWho_1 : cX6_thoseWho.data.toList.drop 24 = dktX6_thoseWho_1 := dk_seg dksX6_thoseWho_0 24 rfl rfl
theorem dX6_thoseWho_0 : decode cX6_thoseWho 0 = .ok (.iconst 0, 1) := dk_3 (dk_at dksX6_thoseWho_0 0 rfl rfl)
theorem dX6_thoseWho_1 : decode cX6_thoseWho 1 = .ok (.istore_n 2, 1) := dk_61 (dk_at dksX6_thoseWho_0 1 rfl rfl)
theorem dX6_thoseWho_2 : decode cX6_thoseWho 2 = .ok (.iconst 0, 1) := dk_3 (dk_at dksX6_thoseWho_0 2 rfl rfl)
theorem dX6_thoseWho_3 : decode cX6_thoseWho 3 = .ok (.istore_n 3, 1) := dk_62 (dk_at dksX6_thoseWho_0 3 rfl rfl)
theorem dX6_thoseWho_4 : decode cX6_thoseWho 4 = .ok (.iload_n 3, 1) := dk_29 (dk_at dksX6_thoseWho_0 4 rfl rfl)
theorem dX6_thoseWho_5 : decode cX6_thoseWho 5 = .ok (.aload_n 0, 1) := dk_42 (dk_at dksX6_thoseWho_0 5 rfl rfl)
theorem dX6_thoseWho_6 : decode cX6_thoseWho 6 = .ok (.invokevirtual 401, 3) := dk_182 1 145 (dk_at dksX6_thoseWho_0 6 rfl rfl)
theorem dX6_thoseWho_9 : decode cX6_thoseWho 9 = .ok (.if_icmp .ge 32, 3) := dk_162 0 32 (dk_at dksX6_thoseWho_0 9 rfl rfl)
theorem dX6_thoseWho_12 : decode cX6_thoseWho 12 = .ok (.aload_n 0, 1) := dk_42 (dk_at dksX6_thoseWho_0 12 rfl rfl)
theorem dX6_thoseWho_13 : decode cX6_thoseWho 13 = .ok (.getfield 139, 3) := dk_180 0 139 (dk_at dksX6_thoseWho_0 13 rfl rfl)
theorem dX6_thoseWho_16 : decode cX6_thoseWho 16 = .ok (.iconst 1, 1) := dk_4 (dk_at dksX6_thoseWho_0 16 rfl rfl)
theorem dX6_thoseWho_17 : decode cX6_thoseWho 17 = .ok (.iconst 5, 1) := dk_8 (dk_at dksX6_thoseWho_0 17 rfl rfl)
theorem dX6_thoseWho_18 : decode cX6_thoseWho 18 = .ok (.iload_n 3, 1) := dk_29 (dk_at dksX6_thoseWho_0 18 rfl rfl)
theorem dX6_thoseWho_19 : decode cX6_thoseWho 19 = .ok (.imul, 1) := dk_104 (dk_at dksX6_thoseWho_0 19 rfl rfl)
theorem dX6_thoseWho_20 : decode cX6_thoseWho 20 = .ok (.iadd, 1) := dk_96 (dk_at dksX6_thoseWho_0 20 rfl rfl)
theorem dX6_thoseWho_21 : decode cX6_thoseWho 21 = .ok (.iconst 4, 1) := dk_7 (dk_at dksX6_thoseWho_0 21 rfl rfl)
theorem dX6_thoseWho_22 : decode cX6_thoseWho 22 = .ok (.iadd, 1) := dk_96 (dk_at dksX6_thoseWho_0 22 rfl rfl)
theorem dX6_thoseWho_23 : decode cX6_thoseWho 23 = .ok (.iaload, 1) := dk_46 (dk_at dksX6_thoseWho_0 23 rfl rfl)
theorem dX6_thoseWho_24 : decode cX6_thoseWho 24 = .ok (.iload_n 1, 1) := dk_27 (dk_at dksX6_thoseWho_1 0 rfl rfl)
theorem dX6_thoseWho_25 : decode cX6_thoseWho 25 = .ok (.iand, 1) := dk_126 (dk_at dksX6_thoseWho_1 1 rfl rfl)
theorem dX6_thoseWho_26 : decode cX6_thoseWho 26 = .ok (.ifCond .eq 9, 3) := dk_153 0 9 (dk_at dksX6_thoseWho_1 2 rfl rfl)
theorem dX6_thoseWho_29 : decode cX6_thoseWho 29 = .ok (.iload_n 2, 1) := dk_28 (dk_at dksX6_thoseWho_1 5 rfl rfl)
theorem dX6_thoseWho_30 : decode cX6_thoseWho 30 = .ok (.iconst 1, 1) := dk_4 (dk_at dksX6_thoseWho_1 6 rfl rfl)
theorem dX6_thoseWho_31 : decode cX6_thoseWho 31 = .ok (.iload_n 3, 1) := dk_29 (dk_at dksX6_thoseWho_1 7 rfl rfl)
theorem dX6_thoseWho_32 : decode cX6_thoseWho 32 = .ok (.ishl, 1) := dk_120 (dk_at dksX6_thoseWho_1 8 rfl rfl)
theorem dX6_thoseWho_33 : decode cX6_thoseWho 33 = .ok (.ior, 1) := dk_128 (dk_at dksX6_thoseWho_1 9 rfl rfl)
theorem dX6_thoseWho_34 : decode cX6_thoseWho 34 = .ok (.istore_n 2, 1) := dk_61 (dk_at dksX6_thoseWho_1 10 rfl rfl)
theorem dX6_thoseWho_35 : decode cX6_thoseWho 35 = .ok (.iinc 3 1, 3) := dk_132 3 1 (dk_at dksX6_thoseWho_1 11 rfl rfl)
theorem dX6_thoseWho_38 : decode cX6_thoseWho 38 = .ok (.goto (-34), 3) := dk_167 255 222 (dk_at dksX6_thoseWho_1 14 rfl rfl)
theorem dX6_thoseWho_41 : decode cX6_thoseWho 41 = .ok (.iload_n 2, 1) := dk_28 (dk_at dksX6_thoseWho_1 17 rfl rfl)
theorem dX6_thoseWho_42 : decode cX6_thoseWho 42 = .ok (.ireturn, 1) := dk_172 (dk_at dksX6_thoseWho_1 18 rfl rfl)
abbrev cX6_personMany : ByteArray := prog_22_method_32_code
def yX6_personMany : MethodName := ⟨RX6, "personMany", "()I"⟩
def dkwX6_personMany_0 : List UInt8 := [42, 180, 0, 105, 6, 46, 172]
abbrev dktX6_personMany_0 : List UInt8 := dkwX6_personMany_0 ++ []
theorem dksX6_personMany_0 : cX6_personMany.data.toList.drop 0 = dktX6_personMany_0 := by decide +kernel
theorem dX6_personMany_0 : decode cX6_personMany 0 = .ok (.aload_n 0, 1) := dk_42 (dk_at dksX6_personMany_0 0 rfl rfl)
theorem dX6_personMany_1 : decode cX6_personMany 1 = .ok (.getfield 105, 3) := dk_180 0 105 (dk_at dksX6_personMany_0 1 rfl rfl)
theorem dX6_personMany_4 : decode cX6_personMany 4 = .ok (.iconst 3, 1) := dk_6 (dk_at dksX6_personMany_0 4 rfl rfl)
theorem dX6_personMany_5 : decode cX6_personMany 5 = .ok (.iaload, 1) := dk_46 (dk_at dksX6_personMany_0 5 rfl rfl)
theorem dX6_personMany_6 : decode cX6_personMany 6 = .ok (.ireturn, 1) := dk_172 (dk_at dksX6_personMany_0 6 rfl rfl)
abbrev cX6_bits : ByteArray := prog_22_method_45_code
def yX6_bits : MethodName := ⟨RX6, "bits", "(I)I"⟩
def dkwX6_bits_0 : List UInt8 := [3, 60, 26, 61, 28, 153, 0, 15, 132, 1, 1, 28, 28, 4, 100, 126, 61, 167, 255, 243, 27, 172]
abbrev dktX6_bits_0 : List UInt8 := dkwX6_bits_0 ++ []
theorem dksX6_bits_0 : cX6_bits.data.toList.drop 0 = dktX6_bits_0 := by decide +kernel
theorem dX6_bits_0 : decode cX6_bits 0 = .ok (.iconst 0, 1) := dk_3 (dk_at dksX6_bits_0 0 rfl rfl)
theorem dX6_bits_1 : decode cX6_bits 1 = .ok (.istore_n 1, 1) := dk_60 (dk_at dksX6_bits_0 1 rfl rfl)
theorem dX6_bits_2 : decode cX6_bits 2 = .ok (.iload_n 0, 1) := dk_26 (dk_at dksX6_bits_0 2 rfl rfl)
theorem dX6_bits_3 : decode cX6_bits 3 = .ok (.istore_n 2, 1) := dk_61 (dk_at dksX6_bits_0 3 rfl rfl)
theorem dX6_bits_4 : decode cX6_bits 4 = .ok (.iload_n 2, 1) := dk_28 (dk_at dksX6_bits_0 4 rfl rfl)
theorem dX6_bits_5 : decode cX6_bits 5 = .ok (.ifCond .eq 15, 3) := dk_153 0 15 (dk_at dksX6_bits_0 5 rfl rfl)
theorem dX6_bits_8 : decode cX6_bits 8 = .ok (.iinc 1 1, 3) := dk_132 1 1 (dk_at dksX6_bits_0 8 rfl rfl)
theorem dX6_bits_11 : decode cX6_bits 11 = .ok (.iload_n 2, 1) := dk_28 (dk_at dksX6_bits_0 11 rfl rfl)
theorem dX6_bits_12 : decode cX6_bits 12 = .ok (.iload_n 2, 1) := dk_28 (dk_at dksX6_bits_0 12 rfl rfl)
theorem dX6_bits_13 : decode cX6_bits 13 = .ok (.iconst 1, 1) := dk_4 (dk_at dksX6_bits_0 13 rfl rfl)
theorem dX6_bits_14 : decode cX6_bits 14 = .ok (.isub, 1) := dk_100 (dk_at dksX6_bits_0 14 rfl rfl)
theorem dX6_bits_15 : decode cX6_bits 15 = .ok (.iand, 1) := dk_126 (dk_at dksX6_bits_0 15 rfl rfl)
theorem dX6_bits_16 : decode cX6_bits 16 = .ok (.istore_n 2, 1) := dk_61 (dk_at dksX6_bits_0 16 rfl rfl)
theorem dX6_bits_17 : decode cX6_bits 17 = .ok (.goto (-13), 3) := dk_167 255 243 (dk_at dksX6_bits_0 17 rfl rfl)
theorem dX6_bits_20 : decode cX6_bits 20 = .ok (.iload_n 1, 1) := dk_27 (dk_at dksX6_bits_0 20 rfl rfl)
theorem dX6_bits_21 : decode cX6_bits 21 = .ok (.ireturn, 1) := dk_172 (dk_at dksX6_bits_0 21 rfl rfl)
abbrev cX6_beliefs : ByteArray := prog_22_method_62_code
def yX6_beliefs : MethodName := ⟨RX6, "beliefs", "(Z)I"⟩
def dkwX6_beliefs_1 : List UInt8 := [167, 0, 8, 42, 29, 182, 1, 151, 184, 1, 227, 96, 61, 132, 3, 1, 167, 255, 222, 28, 172]
abbrev dktX6_beliefs_1 : List UInt8 := dkwX6_beliefs_1 ++ []
def dkwX6_beliefs_0 : List UInt8 := [3, 61, 3, 62, 29, 42, 182, 1, 145, 162, 0, 32, 28, 27, 153, 0, 11, 42, 29, 182, 1, 148]
abbrev dktX6_beliefs_0 : List UInt8 := dkwX6_beliefs_0 ++ dktX6_beliefs_1
theorem dksX6_beliefs_0 : cX6_beliefs.data.toList.drop 0 = dktX6_beliefs_0 := by decide +kernel
theorem dksX6_beliefs_1 : cX6_beliefs.data.toList.drop 22 = dktX6_beliefs_1 := dk_seg dksX6_beliefs_0 22 rfl rfl
theorem dX6_beliefs_0 : decode cX6_beliefs 0 = .ok (.iconst 0, 1) := dk_3 (dk_at dksX6_beliefs_0 0 rfl rfl)
theorem dX6_beliefs_1 : decode cX6_beliefs 1 = .ok (.istore_n 2, 1) := dk_61 (dk_at dksX6_beliefs_0 1 rfl rfl)
theorem dX6_beliefs_2 : decode cX6_beliefs 2 = .ok (.iconst 0, 1) := dk_3 (dk_at dksX6_beliefs_0 2 rfl rfl)
theorem dX6_beliefs_3 : decode cX6_beliefs 3 = .ok (.istore_n 3, 1) := dk_62 (dk_at dksX6_beliefs_0 3 rfl rfl)
theorem dX6_beliefs_4 : decode cX6_beliefs 4 = .ok (.iload_n 3, 1) := dk_29 (dk_at dksX6_beliefs_0 4 rfl rfl)
theorem dX6_beliefs_5 : decode cX6_beliefs 5 = .ok (.aload_n 0, 1) := dk_42 (dk_at dksX6_beliefs_0 5 rfl rfl)
theorem dX6_beliefs_6 : decode cX6_beliefs 6 = .ok (.invokevirtual 401, 3) := dk_182 1 145 (dk_at dksX6_beliefs_0 6 rfl rfl)
theorem dX6_beliefs_9 : decode cX6_beliefs 9 = .ok (.if_icmp .ge 32, 3) := dk_162 0 32 (dk_at dksX6_beliefs_0 9 rfl rfl)
theorem dX6_beliefs_12 : decode cX6_beliefs 12 = .ok (.iload_n 2, 1) := dk_28 (dk_at dksX6_beliefs_0 12 rfl rfl)
theorem dX6_beliefs_13 : decode cX6_beliefs 13 = .ok (.iload_n 1, 1) := dk_27 (dk_at dksX6_beliefs_0 13 rfl rfl)
theorem dX6_beliefs_14 : decode cX6_beliefs 14 = .ok (.ifCond .eq 11, 3) := dk_153 0 11 (dk_at dksX6_beliefs_0 14 rfl rfl)
theorem dX6_beliefs_17 : decode cX6_beliefs 17 = .ok (.aload_n 0, 1) := dk_42 (dk_at dksX6_beliefs_0 17 rfl rfl)
theorem dX6_beliefs_18 : decode cX6_beliefs 18 = .ok (.iload_n 3, 1) := dk_29 (dk_at dksX6_beliefs_0 18 rfl rfl)
theorem dX6_beliefs_19 : decode cX6_beliefs 19 = .ok (.invokevirtual 404, 3) := dk_182 1 148 (dk_at dksX6_beliefs_0 19 rfl rfl)
theorem dX6_beliefs_22 : decode cX6_beliefs 22 = .ok (.goto 8, 3) := dk_167 0 8 (dk_at dksX6_beliefs_1 0 rfl rfl)
theorem dX6_beliefs_25 : decode cX6_beliefs 25 = .ok (.aload_n 0, 1) := dk_42 (dk_at dksX6_beliefs_1 3 rfl rfl)
theorem dX6_beliefs_26 : decode cX6_beliefs 26 = .ok (.iload_n 3, 1) := dk_29 (dk_at dksX6_beliefs_1 4 rfl rfl)
theorem dX6_beliefs_27 : decode cX6_beliefs 27 = .ok (.invokevirtual 407, 3) := dk_182 1 151 (dk_at dksX6_beliefs_1 5 rfl rfl)
theorem dX6_beliefs_30 : decode cX6_beliefs 30 = .ok (.invokestatic 483, 3) := dk_184 1 227 (dk_at dksX6_beliefs_1 8 rfl rfl)
theorem dX6_beliefs_33 : decode cX6_beliefs 33 = .ok (.iadd, 1) := dk_96 (dk_at dksX6_beliefs_1 11 rfl rfl)
theorem dX6_beliefs_34 : decode cX6_beliefs 34 = .ok (.istore_n 2, 1) := dk_61 (dk_at dksX6_beliefs_1 12 rfl rfl)
theorem dX6_beliefs_35 : decode cX6_beliefs 35 = .ok (.iinc 3 1, 3) := dk_132 3 1 (dk_at dksX6_beliefs_1 13 rfl rfl)
theorem dX6_beliefs_38 : decode cX6_beliefs 38 = .ok (.goto (-34), 3) := dk_167 255 222 (dk_at dksX6_beliefs_1 16 rfl rfl)
theorem dX6_beliefs_41 : decode cX6_beliefs 41 = .ok (.iload_n 2, 1) := dk_28 (dk_at dksX6_beliefs_1 19 rfl rfl)
theorem dX6_beliefs_42 : decode cX6_beliefs 42 = .ok (.ireturn, 1) := dk_172 (dk_at dksX6_beliefs_1 20 rfl rfl)
abbrev cX6_rightOf : ByteArray := prog_22_method_36_code
def yX6_rightOf : MethodName := ⟨RX6, "rightOf", "(I)I"⟩
def dkwX6_rightOf_0 : List UInt8 := [42, 180, 0, 139, 4, 8, 27, 104, 96, 4, 96, 46, 172]
abbrev dktX6_rightOf_0 : List UInt8 := dkwX6_rightOf_0 ++ []
theorem dksX6_rightOf_0 : cX6_rightOf.data.toList.drop 0 = dktX6_rightOf_0 := by decide +kernel
theorem dX6_rightOf_0 : decode cX6_rightOf 0 = .ok (.aload_n 0, 1) := dk_42 (dk_at dksX6_rightOf_0 0 rfl rfl)
theorem dX6_rightOf_1 : decode cX6_rightOf 1 = .ok (.getfield 139, 3) := dk_180 0 139 (dk_at dksX6_rightOf_0 1 rfl rfl)
theorem dX6_rightOf_4 : decode cX6_rightOf 4 = .ok (.iconst 1, 1) := dk_4 (dk_at dksX6_rightOf_0 4 rfl rfl)
theorem dX6_rightOf_5 : decode cX6_rightOf 5 = .ok (.iconst 5, 1) := dk_8 (dk_at dksX6_rightOf_0 5 rfl rfl)
theorem dX6_rightOf_6 : decode cX6_rightOf 6 = .ok (.iload_n 1, 1) := dk_27 (dk_at dksX6_rightOf_0 6 rfl rfl)
theorem dX6_rightOf_7 : decode cX6_rightOf 7 = .ok (.imul, 1) := dk_104 (dk_at dksX6_rightOf_0 7 rfl rfl)
theorem dX6_rightOf_8 : decode cX6_rightOf 8 = .ok (.iadd, 1) := dk_96 (dk_at dksX6_rightOf_0 8 rfl rfl)
theorem dX6_rightOf_9 : decode cX6_rightOf 9 = .ok (.iconst 1, 1) := dk_4 (dk_at dksX6_rightOf_0 9 rfl rfl)
theorem dX6_rightOf_10 : decode cX6_rightOf 10 = .ok (.iadd, 1) := dk_96 (dk_at dksX6_rightOf_0 10 rfl rfl)
theorem dX6_rightOf_11 : decode cX6_rightOf 11 = .ok (.iaload, 1) := dk_46 (dk_at dksX6_rightOf_0 11 rfl rfl)
theorem dX6_rightOf_12 : decode cX6_rightOf 12 = .ok (.ireturn, 1) := dk_172 (dk_at dksX6_rightOf_0 12 rfl rfl)
abbrev cX6_wrongOf : ByteArray := prog_22_method_37_code
def yX6_wrongOf : MethodName := ⟨RX6, "wrongOf", "(I)I"⟩
def dkwX6_wrongOf_0 : List UInt8 := [42, 180, 0, 139, 4, 8, 27, 104, 96, 5, 96, 46, 172]
abbrev dktX6_wrongOf_0 : List UInt8 := dkwX6_wrongOf_0 ++ []
theorem dksX6_wrongOf_0 : cX6_wrongOf.data.toList.drop 0 = dktX6_wrongOf_0 := by decide +kernel
theorem dX6_wrongOf_0 : decode cX6_wrongOf 0 = .ok (.aload_n 0, 1) := dk_42 (dk_at dksX6_wrongOf_0 0 rfl rfl)
theorem dX6_wrongOf_1 : decode cX6_wrongOf 1 = .ok (.getfield 139, 3) := dk_180 0 139 (dk_at dksX6_wrongOf_0 1 rfl rfl)
theorem dX6_wrongOf_4 : decode cX6_wrongOf 4 = .ok (.iconst 1, 1) := dk_4 (dk_at dksX6_wrongOf_0 4 rfl rfl)
theorem dX6_wrongOf_5 : decode cX6_wrongOf 5 = .ok (.iconst 5, 1) := dk_8 (dk_at dksX6_wrongOf_0 5 rfl rfl)
theorem dX6_wrongOf_6 : decode cX6_wrongOf 6 = .ok (.iload_n 1, 1) := dk_27 (dk_at dksX6_wrongOf_0 6 rfl rfl)
theorem dX6_wrongOf_7 : decode cX6_wrongOf 7 = .ok (.imul, 1) := dk_104 (dk_at dksX6_wrongOf_0 7 rfl rfl)
theorem dX6_wrongOf_8 : decode cX6_wrongOf 8 = .ok (.iadd, 1) := dk_96 (dk_at dksX6_wrongOf_0 8 rfl rfl)
theorem dX6_wrongOf_9 : decode cX6_wrongOf 9 = .ok (.iconst 2, 1) := dk_5 (dk_at dksX6_wrongOf_0 9 rfl rfl)
theorem dX6_wrongOf_10 : decode cX6_wrongOf 10 = .ok (.iadd, 1) := dk_96 (dk_at dksX6_wrongOf_0 10 rfl rfl)
theorem dX6_wrongOf_11 : decode cX6_wrongOf 11 = .ok (.iaload, 1) := dk_46 (dk_at dksX6_wrongOf_0 11 rfl rfl)
theorem dX6_wrongOf_12 : decode cX6_wrongOf 12 = .ok (.ireturn, 1) := dk_172 (dk_at dksX6_wrongOf_0 12 rfl rfl)
abbrev cX6_letter : ByteArray := prog_22_method_64_code
def yX6_letter : MethodName := ⟨RX6, "letter", "(III)I"⟩
def dkwX6_letter_5 : List UInt8 := [167, 255, 239, 22, 4, 20, 1, 52, 113, 136, 172]
abbrev dktX6_letter_5 : List UInt8 := dkwX6_letter_5 ++ []
def dkwX6_letter_4 : List UInt8 := [172, 21, 6, 4, 100, 54, 7, 21, 7, 29, 164, 0, 17, 22, 4, 20, 1, 52, 109, 55, 4, 132, 7, 255]
abbrev dktX6_letter_4 : List UInt8 := dkwX6_letter_4 ++ dktX6_letter_5
def dkwX6_letter_3 : List UInt8 := [158, 0, 17, 132, 6, 1, 22, 7, 20, 1, 52, 109, 55, 7, 167, 255, 238, 29, 21, 6, 161, 0, 5, 3]
abbrev dktX6_letter_3 : List UInt8 := dkwX6_letter_3 ++ dktX6_letter_4
def dkwX6_letter_2 : List UInt8 := [16, 16, 16, 8, 27, 104, 96, 28, 96, 47, 55, 4, 3, 54, 6, 22, 4, 55, 7, 22, 7, 9, 148]
abbrev dktX6_letter_2 : List UInt8 := dkwX6_letter_2 ++ dktX6_letter_3
def dkwX6_letter_1 : List UInt8 := [184, 1, 41, 153, 0, 15, 29, 133, 9, 20, 1, 237, 184, 1, 41, 154, 0, 5, 2, 172, 42, 180, 0, 108]
abbrev dktX6_letter_1 : List UInt8 := dkwX6_letter_1 ++ dktX6_letter_2
def dkwX6_letter_0 : List UInt8 := [27, 133, 9, 10, 184, 1, 41, 153, 0, 35, 28, 133, 9, 42, 180, 0, 105, 5, 27, 96, 46, 4, 100, 133]
abbrev dktX6_letter_0 : List UInt8 := dkwX6_letter_0 ++ dktX6_letter_1
theorem dksX6_letter_0 : cX6_letter.data.toList.drop 0 = dktX6_letter_0 := by decide +kernel
theorem dksX6_letter_1 : cX6_letter.data.toList.drop 24 = dktX6_letter_1 := dk_seg dksX6_letter_0 24 rfl rfl
theorem dksX6_letter_2 : cX6_letter.data.toList.drop 48 = dktX6_letter_2 := dk_seg dksX6_letter_1 24 rfl rfl
theorem dksX6_letter_3 : cX6_letter.data.toList.drop 71 = dktX6_letter_3 := dk_seg dksX6_letter_2 23 rfl rfl
theorem dksX6_letter_4 : cX6_letter.data.toList.drop 95 = dktX6_letter_4 := dk_seg dksX6_letter_3 24 rfl rfl
theorem dksX6_letter_5 : cX6_letter.data.toList.drop 119 = dktX6_letter_5 := dk_seg dksX6_letter_4 24 rfl rfl
theorem dX6_letter_0 : decode cX6_letter 0 = .ok (.iload_n 1, 1) := dk_27 (dk_at dksX6_letter_0 0 rfl rfl)
theorem dX6_letter_1 : decode cX6_letter 1 = .ok (.i2l, 1) := dk_133 (dk_at dksX6_letter_0 1 rfl rfl)
theorem dX6_letter_2 : decode cX6_letter 2 = .ok (.lconst 0, 1) := dk_9 (dk_at dksX6_letter_0 2 rfl rfl)
theorem dX6_letter_3 : decode cX6_letter 3 = .ok (.lconst 1, 1) := dk_10 (dk_at dksX6_letter_0 3 rfl rfl)
theorem dX6_letter_4 : decode cX6_letter 4 = .ok (.invokestatic 297, 3) := dk_184 1 41 (dk_at dksX6_letter_0 4 rfl rfl)
theorem dX6_letter_7 : decode cX6_letter 7 = .ok (.ifCond .eq 35, 3) := dk_153 0 35 (dk_at dksX6_letter_0 7 rfl rfl)
theorem dX6_letter_10 : decode cX6_letter 10 = .ok (.iload_n 2, 1) := dk_28 (dk_at dksX6_letter_0 10 rfl rfl)
theorem dX6_letter_11 : decode cX6_letter 11 = .ok (.i2l, 1) := dk_133 (dk_at dksX6_letter_0 11 rfl rfl)
theorem dX6_letter_12 : decode cX6_letter 12 = .ok (.lconst 0, 1) := dk_9 (dk_at dksX6_letter_0 12 rfl rfl)
theorem dX6_letter_13 : decode cX6_letter 13 = .ok (.aload_n 0, 1) := dk_42 (dk_at dksX6_letter_0 13 rfl rfl)
theorem dX6_letter_14 : decode cX6_letter 14 = .ok (.getfield 105, 3) := dk_180 0 105 (dk_at dksX6_letter_0 14 rfl rfl)
theorem dX6_letter_17 : decode cX6_letter 17 = .ok (.iconst 2, 1) := dk_5 (dk_at dksX6_letter_0 17 rfl rfl)
theorem dX6_letter_18 : decode cX6_letter 18 = .ok (.iload_n 1, 1) := dk_27 (dk_at dksX6_letter_0 18 rfl rfl)
theorem dX6_letter_19 : decode cX6_letter 19 = .ok (.iadd, 1) := dk_96 (dk_at dksX6_letter_0 19 rfl rfl)
theorem dX6_letter_20 : decode cX6_letter 20 = .ok (.iaload, 1) := dk_46 (dk_at dksX6_letter_0 20 rfl rfl)
theorem dX6_letter_21 : decode cX6_letter 21 = .ok (.iconst 1, 1) := dk_4 (dk_at dksX6_letter_0 21 rfl rfl)
theorem dX6_letter_22 : decode cX6_letter 22 = .ok (.isub, 1) := dk_100 (dk_at dksX6_letter_0 22 rfl rfl)
theorem dX6_letter_23 : decode cX6_letter 23 = .ok (.i2l, 1) := dk_133 (dk_at dksX6_letter_0 23 rfl rfl)
theorem dX6_letter_24 : decode cX6_letter 24 = .ok (.invokestatic 297, 3) := dk_184 1 41 (dk_at dksX6_letter_1 0 rfl rfl)
theorem dX6_letter_27 : decode cX6_letter 27 = .ok (.ifCond .eq 15, 3) := dk_153 0 15 (dk_at dksX6_letter_1 3 rfl rfl)
theorem dX6_letter_30 : decode cX6_letter 30 = .ok (.iload_n 3, 1) := dk_29 (dk_at dksX6_letter_1 6 rfl rfl)
theorem dX6_letter_31 : decode cX6_letter 31 = .ok (.i2l, 1) := dk_133 (dk_at dksX6_letter_1 7 rfl rfl)
theorem dX6_letter_32 : decode cX6_letter 32 = .ok (.lconst 0, 1) := dk_9 (dk_at dksX6_letter_1 8 rfl rfl)
theorem dX6_letter_33 : decode cX6_letter 33 = .ok (.ldc2_w 493, 3) := dk_20 1 237 (dk_at dksX6_letter_1 9 rfl rfl)
theorem dX6_letter_36 : decode cX6_letter 36 = .ok (.invokestatic 297, 3) := dk_184 1 41 (dk_at dksX6_letter_1 12 rfl rfl)
theorem dX6_letter_39 : decode cX6_letter 39 = .ok (.ifCond .ne 5, 3) := dk_154 0 5 (dk_at dksX6_letter_1 15 rfl rfl)
theorem dX6_letter_42 : decode cX6_letter 42 = .ok (.iconst (-1), 1) := dk_2 (dk_at dksX6_letter_1 18 rfl rfl)
theorem dX6_letter_43 : decode cX6_letter 43 = .ok (.ireturn, 1) := dk_172 (dk_at dksX6_letter_1 19 rfl rfl)
theorem dX6_letter_44 : decode cX6_letter 44 = .ok (.aload_n 0, 1) := dk_42 (dk_at dksX6_letter_1 20 rfl rfl)
theorem dX6_letter_45 : decode cX6_letter 45 = .ok (.getfield 108, 3) := dk_180 0 108 (dk_at dksX6_letter_1 21 rfl rfl)
theorem dX6_letter_48 : decode cX6_letter 48 = .ok (.bipush 16, 2) := dk_16 16 (dk_at dksX6_letter_2 0 rfl rfl)
theorem dX6_letter_50 : decode cX6_letter 50 = .ok (.bipush 8, 2) := dk_16 8 (dk_at dksX6_letter_2 2 rfl rfl)
theorem dX6_letter_52 : decode cX6_letter 52 = .ok (.iload_n 1, 1) := dk_27 (dk_at dksX6_letter_2 4 rfl rfl)
theorem dX6_letter_53 : decode cX6_letter 53 = .ok (.imul, 1) := dk_104 (dk_at dksX6_letter_2 5 rfl rfl)
theorem dX6_letter_54 : decode cX6_letter 54 = .ok (.iadd, 1) := dk_96 (dk_at dksX6_letter_2 6 rfl rfl)
theorem dX6_letter_55 : decode cX6_letter 55 = .ok (.iload_n 2, 1) := dk_28 (dk_at dksX6_letter_2 7 rfl rfl)
theorem dX6_letter_56 : decode cX6_letter 56 = .ok (.iadd, 1) := dk_96 (dk_at dksX6_letter_2 8 rfl rfl)
theorem dX6_letter_57 : decode cX6_letter 57 = .ok (.laload, 1) := dk_47 (dk_at dksX6_letter_2 9 rfl rfl)
theorem dX6_letter_58 : decode cX6_letter 58 = .ok (.lstore 4, 2) := dk_55 4 (dk_at dksX6_letter_2 10 rfl rfl)
theorem dX6_letter_60 : decode cX6_letter 60 = .ok (.iconst 0, 1) := dk_3 (dk_at dksX6_letter_2 12 rfl rfl)
theorem dX6_letter_61 : decode cX6_letter 61 = .ok (.istore 6, 2) := dk_54 6 (dk_at dksX6_letter_2 13 rfl rfl)
theorem dX6_letter_63 : decode cX6_letter 63 = .ok (.lload 4, 2) := dk_22 4 (dk_at dksX6_letter_2 15 rfl rfl)
theorem dX6_letter_65 : decode cX6_letter 65 = .ok (.lstore 7, 2) := dk_55 7 (dk_at dksX6_letter_2 17 rfl rfl)
theorem dX6_letter_67 : decode cX6_letter 67 = .ok (.lload 7, 2) := dk_22 7 (dk_at dksX6_letter_2 19 rfl rfl)
theorem dX6_letter_69 : decode cX6_letter 69 = .ok (.lconst 0, 1) := dk_9 (dk_at dksX6_letter_2 21 rfl rfl)
theorem dX6_letter_70 : decode cX6_letter 70 = .ok (.lcmp, 1) := dk_148 (dk_at dksX6_letter_2 22 rfl rfl)
theorem dX6_letter_71 : decode cX6_letter 71 = .ok (.ifCond .le 17, 3) := dk_158 0 17 (dk_at dksX6_letter_3 0 rfl rfl)
theorem dX6_letter_74 : decode cX6_letter 74 = .ok (.iinc 6 1, 3) := dk_132 6 1 (dk_at dksX6_letter_3 3 rfl rfl)
theorem dX6_letter_77 : decode cX6_letter 77 = .ok (.lload 7, 2) := dk_22 7 (dk_at dksX6_letter_3 6 rfl rfl)
theorem dX6_letter_79 : decode cX6_letter 79 = .ok (.ldc2_w 308, 3) := dk_20 1 52 (dk_at dksX6_letter_3 8 rfl rfl)
theorem dX6_letter_82 : decode cX6_letter 82 = .ok (.ldiv, 1) := dk_109 (dk_at dksX6_letter_3 11 rfl rfl)
theorem dX6_letter_83 : decode cX6_letter 83 = .ok (.lstore 7, 2) := dk_55 7 (dk_at dksX6_letter_3 12 rfl rfl)
theorem dX6_letter_85 : decode cX6_letter 85 = .ok (.goto (-18), 3) := dk_167 255 238 (dk_at dksX6_letter_3 14 rfl rfl)
theorem dX6_letter_88 : decode cX6_letter 88 = .ok (.iload_n 3, 1) := dk_29 (dk_at dksX6_letter_3 17 rfl rfl)
theorem dX6_letter_89 : decode cX6_letter 89 = .ok (.iload 6, 2) := dk_21 6 (dk_at dksX6_letter_3 18 rfl rfl)
theorem dX6_letter_91 : decode cX6_letter 91 = .ok (.if_icmp .lt 5, 3) := dk_161 0 5 (dk_at dksX6_letter_3 20 rfl rfl)
theorem dX6_letter_94 : decode cX6_letter 94 = .ok (.iconst 0, 1) := dk_3 (dk_at dksX6_letter_3 23 rfl rfl)
theorem dX6_letter_95 : decode cX6_letter 95 = .ok (.ireturn, 1) := dk_172 (dk_at dksX6_letter_4 0 rfl rfl)
theorem dX6_letter_96 : decode cX6_letter 96 = .ok (.iload 6, 2) := dk_21 6 (dk_at dksX6_letter_4 1 rfl rfl)
theorem dX6_letter_98 : decode cX6_letter 98 = .ok (.iconst 1, 1) := dk_4 (dk_at dksX6_letter_4 3 rfl rfl)
theorem dX6_letter_99 : decode cX6_letter 99 = .ok (.isub, 1) := dk_100 (dk_at dksX6_letter_4 4 rfl rfl)
theorem dX6_letter_100 : decode cX6_letter 100 = .ok (.istore 7, 2) := dk_54 7 (dk_at dksX6_letter_4 5 rfl rfl)
theorem dX6_letter_102 : decode cX6_letter 102 = .ok (.iload 7, 2) := dk_21 7 (dk_at dksX6_letter_4 7 rfl rfl)
theorem dX6_letter_104 : decode cX6_letter 104 = .ok (.iload_n 3, 1) := dk_29 (dk_at dksX6_letter_4 9 rfl rfl)
theorem dX6_letter_105 : decode cX6_letter 105 = .ok (.if_icmp .le 17, 3) := dk_164 0 17 (dk_at dksX6_letter_4 10 rfl rfl)
theorem dX6_letter_108 : decode cX6_letter 108 = .ok (.lload 4, 2) := dk_22 4 (dk_at dksX6_letter_4 13 rfl rfl)
theorem dX6_letter_110 : decode cX6_letter 110 = .ok (.ldc2_w 308, 3) := dk_20 1 52 (dk_at dksX6_letter_4 15 rfl rfl)
theorem dX6_letter_113 : decode cX6_letter 113 = .ok (.ldiv, 1) := dk_109 (dk_at dksX6_letter_4 18 rfl rfl)
theorem dX6_letter_114 : decode cX6_letter 114 = .ok (.lstore 4, 2) := dk_55 4 (dk_at dksX6_letter_4 19 rfl rfl)
theorem dX6_letter_116 : decode cX6_letter 116 = .ok (.iinc 7 (-1), 3) := dk_132 7 255 (dk_at dksX6_letter_4 21 rfl rfl)
theorem dX6_letter_119 : decode cX6_letter 119 = .ok (.goto (-17), 3) := dk_167 255 239 (dk_at dksX6_letter_5 0 rfl rfl)
theorem dX6_letter_122 : decode cX6_letter 122 = .ok (.lload 4, 2) := dk_22 4 (dk_at dksX6_letter_5 3 rfl rfl)
theorem dX6_letter_124 : decode cX6_letter 124 = .ok (.ldc2_w 308, 3) := dk_20 1 52 (dk_at dksX6_letter_5 5 rfl rfl)
theorem dX6_letter_127 : decode cX6_letter 127 = .ok (.lrem, 1) := dk_113 (dk_at dksX6_letter_5 8 rfl rfl)
theorem dX6_letter_128 : decode cX6_letter 128 = .ok (.l2i, 1) := dk_136 (dk_at dksX6_letter_5 9 rfl rfl)
theorem dX6_letter_129 : decode cX6_letter 129 = .ok (.ireturn, 1) := dk_172 (dk_at dksX6_letter_5 10 rfl rfl)
abbrev cX6_fact : ByteArray := prog_22_method_65_code
def yX6_fact : MethodName := ⟨RX6, "fact", "(II)I"⟩
def dkwX6_fact_2 : List UInt8 := [182, 1, 245, 167, 0, 4, 2, 172]
abbrev dktX6_fact_2 : List UInt8 := dkwX6_fact_2 ++ []
def dkwX6_fact_1 : List UInt8 := [167, 0, 30, 28, 4, 160, 0, 11, 42, 27, 182, 1, 242, 167, 0, 17, 28, 5, 160, 0, 11, 42, 27]
abbrev dktX6_fact_1 : List UInt8 := dkwX6_fact_1 ++ dktX6_fact_2
def dkwX6_fact_0 : List UInt8 := [42, 27, 182, 1, 239, 154, 0, 5, 2, 172, 28, 154, 0, 15, 42, 180, 0, 112, 16, 8, 27, 96, 46]
abbrev dktX6_fact_0 : List UInt8 := dkwX6_fact_0 ++ dktX6_fact_1
theorem dksX6_fact_0 : cX6_fact.data.toList.drop 0 = dktX6_fact_0 := by decide +kernel
theorem dksX6_fact_1 : cX6_fact.data.toList.drop 23 = dktX6_fact_1 := dk_seg dksX6_fact_0 23 rfl rfl
theorem dksX6_fact_2 : cX6_fact.data.toList.drop 46 = dktX6_fact_2 := dk_seg dksX6_fact_1 23 rfl rfl
theorem dX6_fact_0 : decode cX6_fact 0 = .ok (.aload_n 0, 1) := dk_42 (dk_at dksX6_fact_0 0 rfl rfl)
theorem dX6_fact_1 : decode cX6_fact 1 = .ok (.iload_n 1, 1) := dk_27 (dk_at dksX6_fact_0 1 rfl rfl)
theorem dX6_fact_2 : decode cX6_fact 2 = .ok (.invokevirtual 495, 3) := dk_182 1 239 (dk_at dksX6_fact_0 2 rfl rfl)
theorem dX6_fact_5 : decode cX6_fact 5 = .ok (.ifCond .ne 5, 3) := dk_154 0 5 (dk_at dksX6_fact_0 5 rfl rfl)
theorem dX6_fact_8 : decode cX6_fact 8 = .ok (.iconst (-1), 1) := dk_2 (dk_at dksX6_fact_0 8 rfl rfl)
theorem dX6_fact_9 : decode cX6_fact 9 = .ok (.ireturn, 1) := dk_172 (dk_at dksX6_fact_0 9 rfl rfl)
theorem dX6_fact_10 : decode cX6_fact 10 = .ok (.iload_n 2, 1) := dk_28 (dk_at dksX6_fact_0 10 rfl rfl)
theorem dX6_fact_11 : decode cX6_fact 11 = .ok (.ifCond .ne 15, 3) := dk_154 0 15 (dk_at dksX6_fact_0 11 rfl rfl)
theorem dX6_fact_14 : decode cX6_fact 14 = .ok (.aload_n 0, 1) := dk_42 (dk_at dksX6_fact_0 14 rfl rfl)
theorem dX6_fact_15 : decode cX6_fact 15 = .ok (.getfield 112, 3) := dk_180 0 112 (dk_at dksX6_fact_0 15 rfl rfl)
theorem dX6_fact_18 : decode cX6_fact 18 = .ok (.bipush 8, 2) := dk_16 8 (dk_at dksX6_fact_0 18 rfl rfl)
theorem dX6_fact_20 : decode cX6_fact 20 = .ok (.iload_n 1, 1) := dk_27 (dk_at dksX6_fact_0 20 rfl rfl)
theorem dX6_fact_21 : decode cX6_fact 21 = .ok (.iadd, 1) := dk_96 (dk_at dksX6_fact_0 21 rfl rfl)
theorem dX6_fact_22 : decode cX6_fact 22 = .ok (.iaload, 1) := dk_46 (dk_at dksX6_fact_0 22 rfl rfl)
theorem dX6_fact_23 : decode cX6_fact 23 = .ok (.goto 30, 3) := dk_167 0 30 (dk_at dksX6_fact_1 0 rfl rfl)
theorem dX6_fact_26 : decode cX6_fact 26 = .ok (.iload_n 2, 1) := dk_28 (dk_at dksX6_fact_1 3 rfl rfl)
theorem dX6_fact_27 : decode cX6_fact 27 = .ok (.iconst 1, 1) := dk_4 (dk_at dksX6_fact_1 4 rfl rfl)
theorem dX6_fact_28 : decode cX6_fact 28 = .ok (.if_icmp .ne 11, 3) := dk_160 0 11 (dk_at dksX6_fact_1 5 rfl rfl)
theorem dX6_fact_31 : decode cX6_fact 31 = .ok (.aload_n 0, 1) := dk_42 (dk_at dksX6_fact_1 8 rfl rfl)
theorem dX6_fact_32 : decode cX6_fact 32 = .ok (.iload_n 1, 1) := dk_27 (dk_at dksX6_fact_1 9 rfl rfl)
theorem dX6_fact_33 : decode cX6_fact 33 = .ok (.invokevirtual 498, 3) := dk_182 1 242 (dk_at dksX6_fact_1 10 rfl rfl)
theorem dX6_fact_36 : decode cX6_fact 36 = .ok (.goto 17, 3) := dk_167 0 17 (dk_at dksX6_fact_1 13 rfl rfl)
theorem dX6_fact_39 : decode cX6_fact 39 = .ok (.iload_n 2, 1) := dk_28 (dk_at dksX6_fact_1 16 rfl rfl)
theorem dX6_fact_40 : decode cX6_fact 40 = .ok (.iconst 2, 1) := dk_5 (dk_at dksX6_fact_1 17 rfl rfl)
theorem dX6_fact_41 : decode cX6_fact 41 = .ok (.if_icmp .ne 11, 3) := dk_160 0 11 (dk_at dksX6_fact_1 18 rfl rfl)
theorem dX6_fact_44 : decode cX6_fact 44 = .ok (.aload_n 0, 1) := dk_42 (dk_at dksX6_fact_1 21 rfl rfl)
theorem dX6_fact_45 : decode cX6_fact 45 = .ok (.iload_n 1, 1) := dk_27 (dk_at dksX6_fact_1 22 rfl rfl)
theorem dX6_fact_46 : decode cX6_fact 46 = .ok (.invokevirtual 501, 3) := dk_182 1 245 (dk_at dksX6_fact_2 0 rfl rfl)
theorem dX6_fact_49 : decode cX6_fact 49 = .ok (.goto 4, 3) := dk_167 0 4 (dk_at dksX6_fact_2 3 rfl rfl)
theorem dX6_fact_52 : decode cX6_fact 52 = .ok (.iconst (-1), 1) := dk_2 (dk_at dksX6_fact_2 6 rfl rfl)
theorem dX6_fact_53 : decode cX6_fact 53 = .ok (.ireturn, 1) := dk_172 (dk_at dksX6_fact_2 7 rfl rfl)
abbrev cX6_isFact : ByteArray := prog_22_method_33_code
def yX6_isFact : MethodName := ⟨RX6, "isFact", "(I)Z"⟩
def dkwX6_isFact_0 : List UInt8 := [27, 133, 9, 42, 182, 1, 142, 4, 100, 133, 184, 1, 41, 172]
abbrev dktX6_isFact_0 : List UInt8 := dkwX6_isFact_0 ++ []
theorem dksX6_isFact_0 : cX6_isFact.data.toList.drop 0 = dktX6_isFact_0 := by decide +kernel
theorem dX6_isFact_0 : decode cX6_isFact 0 = .ok (.iload_n 1, 1) := dk_27 (dk_at dksX6_isFact_0 0 rfl rfl)
theorem dX6_isFact_1 : decode cX6_isFact 1 = .ok (.i2l, 1) := dk_133 (dk_at dksX6_isFact_0 1 rfl rfl)
theorem dX6_isFact_2 : decode cX6_isFact 2 = .ok (.lconst 0, 1) := dk_9 (dk_at dksX6_isFact_0 2 rfl rfl)
theorem dX6_isFact_3 : decode cX6_isFact 3 = .ok (.aload_n 0, 1) := dk_42 (dk_at dksX6_isFact_0 3 rfl rfl)
theorem dX6_isFact_4 : decode cX6_isFact 4 = .ok (.invokevirtual 398, 3) := dk_182 1 142 (dk_at dksX6_isFact_0 4 rfl rfl)
theorem dX6_isFact_7 : decode cX6_isFact 7 = .ok (.iconst 1, 1) := dk_4 (dk_at dksX6_isFact_0 7 rfl rfl)
theorem dX6_isFact_8 : decode cX6_isFact 8 = .ok (.isub, 1) := dk_100 (dk_at dksX6_isFact_0 8 rfl rfl)
theorem dX6_isFact_9 : decode cX6_isFact 9 = .ok (.i2l, 1) := dk_133 (dk_at dksX6_isFact_0 9 rfl rfl)
theorem dX6_isFact_10 : decode cX6_isFact 10 = .ok (.invokestatic 297, 3) := dk_184 1 41 (dk_at dksX6_isFact_0 10 rfl rfl)
theorem dX6_isFact_13 : decode cX6_isFact 13 = .ok (.ireturn, 1) := dk_172 (dk_at dksX6_isFact_0 13 rfl rfl)
abbrev cX6_factMany : ByteArray := prog_22_method_31_code
def yX6_factMany : MethodName := ⟨RX6, "factMany", "()I"⟩
def dkwX6_factMany_0 : List UInt8 := [42, 180, 0, 105, 5, 46, 172]
abbrev dktX6_factMany_0 : List UInt8 := dkwX6_factMany_0 ++ []
theorem dksX6_factMany_0 : cX6_factMany.data.toList.drop 0 = dktX6_factMany_0 := by decide +kernel
theorem dX6_factMany_0 : decode cX6_factMany 0 = .ok (.aload_n 0, 1) := dk_42 (dk_at dksX6_factMany_0 0 rfl rfl)
theorem dX6_factMany_1 : decode cX6_factMany 1 = .ok (.getfield 105, 3) := dk_180 0 105 (dk_at dksX6_factMany_0 1 rfl rfl)
theorem dX6_factMany_4 : decode cX6_factMany 4 = .ok (.iconst 2, 1) := dk_5 (dk_at dksX6_factMany_0 4 rfl rfl)
theorem dX6_factMany_5 : decode cX6_factMany 5 = .ok (.iaload, 1) := dk_46 (dk_at dksX6_factMany_0 5 rfl rfl)
theorem dX6_factMany_6 : decode cX6_factMany 6 = .ok (.ireturn, 1) := dk_172 (dk_at dksX6_factMany_0 6 rfl rfl)
abbrev cX6_rightMany : ByteArray := prog_22_method_46_code
def yX6_rightMany : MethodName := ⟨RX6, "rightMany", "(I)I"⟩
def dkwX6_rightMany_1 : List UInt8 := [132, 3, 1, 167, 255, 233, 28, 172]
abbrev dktX6_rightMany_1 : List UInt8 := dkwX6_rightMany_1 ++ []
def dkwX6_rightMany_0 : List UInt8 := [3, 61, 3, 62, 29, 42, 182, 1, 145, 162, 0, 21, 28, 42, 29, 182, 1, 148, 27, 122, 4, 126, 96, 61]
abbrev dktX6_rightMany_0 : List UInt8 := dkwX6_rightMany_0 ++ dktX6_rightMany_1
theorem dksX6_rightMany_0 : cX6_rightMany.data.toList.drop 0 = dktX6_rightMany_0 := by decide +kernel
theorem dksX6_rightMany_1 : cX6_rightMany.data.toList.drop 24 = dktX6_rightMany_1 := dk_seg dksX6_rightMany_0 24 rfl rfl
theorem dX6_rightMany_0 : decode cX6_rightMany 0 = .ok (.iconst 0, 1) := dk_3 (dk_at dksX6_rightMany_0 0 rfl rfl)
theorem dX6_rightMany_1 : decode cX6_rightMany 1 = .ok (.istore_n 2, 1) := dk_61 (dk_at dksX6_rightMany_0 1 rfl rfl)
theorem dX6_rightMany_2 : decode cX6_rightMany 2 = .ok (.iconst 0, 1) := dk_3 (dk_at dksX6_rightMany_0 2 rfl rfl)
theorem dX6_rightMany_3 : decode cX6_rightMany 3 = .ok (.istore_n 3, 1) := dk_62 (dk_at dksX6_rightMany_0 3 rfl rfl)
theorem dX6_rightMany_4 : decode cX6_rightMany 4 = .ok (.iload_n 3, 1) := dk_29 (dk_at dksX6_rightMany_0 4 rfl rfl)
theorem dX6_rightMany_5 : decode cX6_rightMany 5 = .ok (.aload_n 0, 1) := dk_42 (dk_at dksX6_rightMany_0 5 rfl rfl)
theorem dX6_rightMany_6 : decode cX6_rightMany 6 = .ok (.invokevirtual 401, 3) := dk_182 1 145 (dk_at dksX6_rightMany_0 6 rfl rfl)
theorem dX6_rightMany_9 : decode cX6_rightMany 9 = .ok (.if_icmp .ge 21, 3) := dk_162 0 21 (dk_at dksX6_rightMany_0 9 rfl rfl)
theorem dX6_rightMany_12 : decode cX6_rightMany 12 = .ok (.iload_n 2, 1) := dk_28 (dk_at dksX6_rightMany_0 12 rfl rfl)
theorem dX6_rightMany_13 : decode cX6_rightMany 13 = .ok (.aload_n 0, 1) := dk_42 (dk_at dksX6_rightMany_0 13 rfl rfl)
theorem dX6_rightMany_14 : decode cX6_rightMany 14 = .ok (.iload_n 3, 1) := dk_29 (dk_at dksX6_rightMany_0 14 rfl rfl)
theorem dX6_rightMany_15 : decode cX6_rightMany 15 = .ok (.invokevirtual 404, 3) := dk_182 1 148 (dk_at dksX6_rightMany_0 15 rfl rfl)
theorem dX6_rightMany_18 : decode cX6_rightMany 18 = .ok (.iload_n 1, 1) := dk_27 (dk_at dksX6_rightMany_0 18 rfl rfl)
theorem dX6_rightMany_19 : decode cX6_rightMany 19 = .ok (.ishr, 1) := dk_122 (dk_at dksX6_rightMany_0 19 rfl rfl)
theorem dX6_rightMany_20 : decode cX6_rightMany 20 = .ok (.iconst 1, 1) := dk_4 (dk_at dksX6_rightMany_0 20 rfl rfl)
theorem dX6_rightMany_21 : decode cX6_rightMany 21 = .ok (.iand, 1) := dk_126 (dk_at dksX6_rightMany_0 21 rfl rfl)
theorem dX6_rightMany_22 : decode cX6_rightMany 22 = .ok (.iadd, 1) := dk_96 (dk_at dksX6_rightMany_0 22 rfl rfl)
theorem dX6_rightMany_23 : decode cX6_rightMany 23 = .ok (.istore_n 2, 1) := dk_61 (dk_at dksX6_rightMany_0 23 rfl rfl)
theorem dX6_rightMany_24 : decode cX6_rightMany 24 = .ok (.iinc 3 1, 3) := dk_132 3 1 (dk_at dksX6_rightMany_1 0 rfl rfl)
theorem dX6_rightMany_27 : decode cX6_rightMany 27 = .ok (.goto (-23), 3) := dk_167 255 233 (dk_at dksX6_rightMany_1 3 rfl rfl)
theorem dX6_rightMany_30 : decode cX6_rightMany 30 = .ok (.iload_n 2, 1) := dk_28 (dk_at dksX6_rightMany_1 6 rfl rfl)
theorem dX6_rightMany_31 : decode cX6_rightMany 31 = .ok (.ireturn, 1) := dk_172 (dk_at dksX6_rightMany_1 7 rfl rfl)
abbrev cX6_wrongMany : ByteArray := prog_22_method_47_code
def yX6_wrongMany : MethodName := ⟨RX6, "wrongMany", "(I)I"⟩
def dkwX6_wrongMany_1 : List UInt8 := [132, 3, 1, 167, 255, 233, 28, 172]
abbrev dktX6_wrongMany_1 : List UInt8 := dkwX6_wrongMany_1 ++ []
def dkwX6_wrongMany_0 : List UInt8 := [3, 61, 3, 62, 29, 42, 182, 1, 145, 162, 0, 21, 28, 42, 29, 182, 1, 151, 27, 122, 4, 126, 96, 61]
abbrev dktX6_wrongMany_0 : List UInt8 := dkwX6_wrongMany_0 ++ dktX6_wrongMany_1
theorem dksX6_wrongMany_0 : cX6_wrongMany.data.toList.drop 0 = dktX6_wrongMany_0 := by decide +kernel
theorem dksX6_wrongMany_1 : cX6_wrongMany.data.toList.drop 24 = dktX6_wrongMany_1 := dk_seg dksX6_wrongMany_0 24 rfl rfl
theorem dX6_wrongMany_0 : decode cX6_wrongMany 0 = .ok (.iconst 0, 1) := dk_3 (dk_at dksX6_wrongMany_0 0 rfl rfl)
theorem dX6_wrongMany_1 : decode cX6_wrongMany 1 = .ok (.istore_n 2, 1) := dk_61 (dk_at dksX6_wrongMany_0 1 rfl rfl)
theorem dX6_wrongMany_2 : decode cX6_wrongMany 2 = .ok (.iconst 0, 1) := dk_3 (dk_at dksX6_wrongMany_0 2 rfl rfl)
theorem dX6_wrongMany_3 : decode cX6_wrongMany 3 = .ok (.istore_n 3, 1) := dk_62 (dk_at dksX6_wrongMany_0 3 rfl rfl)
theorem dX6_wrongMany_4 : decode cX6_wrongMany 4 = .ok (.iload_n 3, 1) := dk_29 (dk_at dksX6_wrongMany_0 4 rfl rfl)
theorem dX6_wrongMany_5 : decode cX6_wrongMany 5 = .ok (.aload_n 0, 1) := dk_42 (dk_at dksX6_wrongMany_0 5 rfl rfl)
theorem dX6_wrongMany_6 : decode cX6_wrongMany 6 = .ok (.invokevirtual 401, 3) := dk_182 1 145 (dk_at dksX6_wrongMany_0 6 rfl rfl)
theorem dX6_wrongMany_9 : decode cX6_wrongMany 9 = .ok (.if_icmp .ge 21, 3) := dk_162 0 21 (dk_at dksX6_wrongMany_0 9 rfl rfl)
theorem dX6_wrongMany_12 : decode cX6_wrongMany 12 = .ok (.iload_n 2, 1) := dk_28 (dk_at dksX6_wrongMany_0 12 rfl rfl)
theorem dX6_wrongMany_13 : decode cX6_wrongMany 13 = .ok (.aload_n 0, 1) := dk_42 (dk_at dksX6_wrongMany_0 13 rfl rfl)
theorem dX6_wrongMany_14 : decode cX6_wrongMany 14 = .ok (.iload_n 3, 1) := dk_29 (dk_at dksX6_wrongMany_0 14 rfl rfl)
theorem dX6_wrongMany_15 : decode cX6_wrongMany 15 = .ok (.invokevirtual 407, 3) := dk_182 1 151 (dk_at dksX6_wrongMany_0 15 rfl rfl)
theorem dX6_wrongMany_18 : decode cX6_wrongMany 18 = .ok (.iload_n 1, 1) := dk_27 (dk_at dksX6_wrongMany_0 18 rfl rfl)
theorem dX6_wrongMany_19 : decode cX6_wrongMany 19 = .ok (.ishr, 1) := dk_122 (dk_at dksX6_wrongMany_0 19 rfl rfl)
theorem dX6_wrongMany_20 : decode cX6_wrongMany 20 = .ok (.iconst 1, 1) := dk_4 (dk_at dksX6_wrongMany_0 20 rfl rfl)
theorem dX6_wrongMany_21 : decode cX6_wrongMany 21 = .ok (.iand, 1) := dk_126 (dk_at dksX6_wrongMany_0 21 rfl rfl)
theorem dX6_wrongMany_22 : decode cX6_wrongMany 22 = .ok (.iadd, 1) := dk_96 (dk_at dksX6_wrongMany_0 22 rfl rfl)
theorem dX6_wrongMany_23 : decode cX6_wrongMany 23 = .ok (.istore_n 2, 1) := dk_61 (dk_at dksX6_wrongMany_0 23 rfl rfl)
theorem dX6_wrongMany_24 : decode cX6_wrongMany 24 = .ok (.iinc 3 1, 3) := dk_132 3 1 (dk_at dksX6_wrongMany_1 0 rfl rfl)
theorem dX6_wrongMany_27 : decode cX6_wrongMany 27 = .ok (.goto (-23), 3) := dk_167 255 233 (dk_at dksX6_wrongMany_1 3 rfl rfl)
theorem dX6_wrongMany_30 : decode cX6_wrongMany 30 = .ok (.iload_n 2, 1) := dk_28 (dk_at dksX6_wrongMany_1 6 rfl rfl)
theorem dX6_wrongMany_31 : decode cX6_wrongMany 31 = .ok (.ireturn, 1) := dk_172 (dk_at dksX6_wrongMany_1 7 rfl rfl)
abbrev cX6_person : ByteArray := prog_22_method_66_code
def yX6_person : MethodName := ⟨RX6, "person", "(II)I"⟩
def dkwX6_person_4 : List UInt8 := [4, 167, 0, 4, 3, 172, 42, 27, 182, 1, 215, 153, 0, 7, 4, 167, 0, 4, 3, 172, 2, 172]
abbrev dktX6_person_4 : List UInt8 := dkwX6_person_4 ++ []
def dkwX6_person_3 : List UInt8 := [182, 1, 148, 172, 42, 27, 182, 1, 151, 172, 42, 27, 182, 1, 194, 172, 42, 27, 182, 1, 191, 153, 0, 7]
abbrev dktX6_person_3 : List UInt8 := dkwX6_person_3 ++ dktX6_person_4
def dkwX6_person_2 : List UInt8 := [42, 180, 0, 115, 16, 8, 27, 96, 46, 172, 42, 27, 182, 1, 154, 172, 42, 27, 182, 1, 251, 172, 42, 27]
abbrev dktX6_person_2 : List UInt8 := dkwX6_person_2 ++ dktX6_person_3
def dkwX6_person_1 : List UInt8 := [170, 0, 0, 0, 113, 0, 0, 0, 0, 0, 0, 0, 7, 0, 0, 0, 45, 0, 0, 0, 55, 0, 0, 0, 61, 0, 0, 0, 67, 0, 0, 0, 73, 0, 0, 0, 79, 0, 0, 0, 85, 0, 0, 0, 99]
abbrev dktX6_person_1 : List UInt8 := dkwX6_person_1 ++ dktX6_person_2
def dkwX6_person_0 : List UInt8 := [42, 27, 182, 1, 248, 154, 0, 5, 2, 172, 28]
abbrev dktX6_person_0 : List UInt8 := dkwX6_person_0 ++ dktX6_person_1
theorem dksX6_person_0 : cX6_person.data.toList.drop 0 = dktX6_person_0 := by decide +kernel
theorem dksX6_person_1 : cX6_person.data.toList.drop 11 = dktX6_person_1 := dk_seg dksX6_person_0 11 rfl rfl
theorem dksX6_person_2 : cX6_person.data.toList.drop 56 = dktX6_person_2 := dk_seg dksX6_person_1 45 rfl rfl
theorem dksX6_person_3 : cX6_person.data.toList.drop 80 = dktX6_person_3 := dk_seg dksX6_person_2 24 rfl rfl
theorem dksX6_person_4 : cX6_person.data.toList.drop 104 = dktX6_person_4 := dk_seg dksX6_person_3 24 rfl rfl
theorem dX6_person_0 : decode cX6_person 0 = .ok (.aload_n 0, 1) := dk_42 (dk_at dksX6_person_0 0 rfl rfl)
theorem dX6_person_1 : decode cX6_person 1 = .ok (.iload_n 1, 1) := dk_27 (dk_at dksX6_person_0 1 rfl rfl)
theorem dX6_person_2 : decode cX6_person 2 = .ok (.invokevirtual 504, 3) := dk_182 1 248 (dk_at dksX6_person_0 2 rfl rfl)
theorem dX6_person_5 : decode cX6_person 5 = .ok (.ifCond .ne 5, 3) := dk_154 0 5 (dk_at dksX6_person_0 5 rfl rfl)
theorem dX6_person_8 : decode cX6_person 8 = .ok (.iconst (-1), 1) := dk_2 (dk_at dksX6_person_0 8 rfl rfl)
theorem dX6_person_9 : decode cX6_person 9 = .ok (.ireturn, 1) := dk_172 (dk_at dksX6_person_0 9 rfl rfl)
theorem dX6_person_10 : decode cX6_person 10 = .ok (.iload_n 2, 1) := dk_28 (dk_at dksX6_person_0 10 rfl rfl)
theorem dX6_person_11 : decode cX6_person 11 = .ok (.tableswitch 113 0 7 #[45, 55, 61, 67, 73, 79, 85, 99], 45) := by decide +kernel
theorem dX6_person_56 : decode cX6_person 56 = .ok (.aload_n 0, 1) := dk_42 (dk_at dksX6_person_2 0 rfl rfl)
theorem dX6_person_57 : decode cX6_person 57 = .ok (.getfield 115, 3) := dk_180 0 115 (dk_at dksX6_person_2 1 rfl rfl)
theorem dX6_person_60 : decode cX6_person 60 = .ok (.bipush 8, 2) := dk_16 8 (dk_at dksX6_person_2 4 rfl rfl)
theorem dX6_person_62 : decode cX6_person 62 = .ok (.iload_n 1, 1) := dk_27 (dk_at dksX6_person_2 6 rfl rfl)
theorem dX6_person_63 : decode cX6_person 63 = .ok (.iadd, 1) := dk_96 (dk_at dksX6_person_2 7 rfl rfl)
theorem dX6_person_64 : decode cX6_person 64 = .ok (.iaload, 1) := dk_46 (dk_at dksX6_person_2 8 rfl rfl)
theorem dX6_person_65 : decode cX6_person 65 = .ok (.ireturn, 1) := dk_172 (dk_at dksX6_person_2 9 rfl rfl)
theorem dX6_person_66 : decode cX6_person 66 = .ok (.aload_n 0, 1) := dk_42 (dk_at dksX6_person_2 10 rfl rfl)
theorem dX6_person_67 : decode cX6_person 67 = .ok (.iload_n 1, 1) := dk_27 (dk_at dksX6_person_2 11 rfl rfl)
theorem dX6_person_68 : decode cX6_person 68 = .ok (.invokevirtual 410, 3) := dk_182 1 154 (dk_at dksX6_person_2 12 rfl rfl)
theorem dX6_person_71 : decode cX6_person 71 = .ok (.ireturn, 1) := dk_172 (dk_at dksX6_person_2 15 rfl rfl)
theorem dX6_person_72 : decode cX6_person 72 = .ok (.aload_n 0, 1) := dk_42 (dk_at dksX6_person_2 16 rfl rfl)
theorem dX6_person_73 : decode cX6_person 73 = .ok (.iload_n 1, 1) := dk_27 (dk_at dksX6_person_2 17 rfl rfl)
theorem dX6_person_74 : decode cX6_person 74 = .ok (.invokevirtual 507, 3) := dk_182 1 251 (dk_at dksX6_person_2 18 rfl rfl)
theorem dX6_person_77 : decode cX6_person 77 = .ok (.ireturn, 1) := dk_172 (dk_at dksX6_person_2 21 rfl rfl)
theorem dX6_person_78 : decode cX6_person 78 = .ok (.aload_n 0, 1) := dk_42 (dk_at dksX6_person_2 22 rfl rfl)
theorem dX6_person_79 : decode cX6_person 79 = .ok (.iload_n 1, 1) := dk_27 (dk_at dksX6_person_2 23 rfl rfl)
theorem dX6_person_80 : decode cX6_person 80 = .ok (.invokevirtual 404, 3) := dk_182 1 148 (dk_at dksX6_person_3 0 rfl rfl)
theorem dX6_person_83 : decode cX6_person 83 = .ok (.ireturn, 1) := dk_172 (dk_at dksX6_person_3 3 rfl rfl)
theorem dX6_person_84 : decode cX6_person 84 = .ok (.aload_n 0, 1) := dk_42 (dk_at dksX6_person_3 4 rfl rfl)
theorem dX6_person_85 : decode cX6_person 85 = .ok (.iload_n 1, 1) := dk_27 (dk_at dksX6_person_3 5 rfl rfl)
theorem dX6_person_86 : decode cX6_person 86 = .ok (.invokevirtual 407, 3) := dk_182 1 151 (dk_at dksX6_person_3 6 rfl rfl)
theorem dX6_person_89 : decode cX6_person 89 = .ok (.ireturn, 1) := dk_172 (dk_at dksX6_person_3 9 rfl rfl)
theorem dX6_person_90 : decode cX6_person 90 = .ok (.aload_n 0, 1) := dk_42 (dk_at dksX6_person_3 10 rfl rfl)
theorem dX6_person_91 : decode cX6_person 91 = .ok (.iload_n 1, 1) := dk_27 (dk_at dksX6_person_3 11 rfl rfl)
theorem dX6_person_92 : decode cX6_person 92 = .ok (.invokevirtual 450, 3) := dk_182 1 194 (dk_at dksX6_person_3 12 rfl rfl)
theorem dX6_person_95 : decode cX6_person 95 = .ok (.ireturn, 1) := dk_172 (dk_at dksX6_person_3 15 rfl rfl)
theorem dX6_person_96 : decode cX6_person 96 = .ok (.aload_n 0, 1) := dk_42 (dk_at dksX6_person_3 16 rfl rfl)
theorem dX6_person_97 : decode cX6_person 97 = .ok (.iload_n 1, 1) := dk_27 (dk_at dksX6_person_3 17 rfl rfl)
theorem dX6_person_98 : decode cX6_person 98 = .ok (.invokevirtual 447, 3) := dk_182 1 191 (dk_at dksX6_person_3 18 rfl rfl)
theorem dX6_person_101 : decode cX6_person 101 = .ok (.ifCond .eq 7, 3) := dk_153 0 7 (dk_at dksX6_person_3 21 rfl rfl)
theorem dX6_person_104 : decode cX6_person 104 = .ok (.iconst 1, 1) := dk_4 (dk_at dksX6_person_4 0 rfl rfl)
theorem dX6_person_105 : decode cX6_person 105 = .ok (.goto 4, 3) := dk_167 0 4 (dk_at dksX6_person_4 1 rfl rfl)
theorem dX6_person_108 : decode cX6_person 108 = .ok (.iconst 0, 1) := dk_3 (dk_at dksX6_person_4 4 rfl rfl)
theorem dX6_person_109 : decode cX6_person 109 = .ok (.ireturn, 1) := dk_172 (dk_at dksX6_person_4 5 rfl rfl)
theorem dX6_person_110 : decode cX6_person 110 = .ok (.aload_n 0, 1) := dk_42 (dk_at dksX6_person_4 6 rfl rfl)
theorem dX6_person_111 : decode cX6_person 111 = .ok (.iload_n 1, 1) := dk_27 (dk_at dksX6_person_4 7 rfl rfl)
theorem dX6_person_112 : decode cX6_person 112 = .ok (.invokevirtual 471, 3) := dk_182 1 215 (dk_at dksX6_person_4 8 rfl rfl)
theorem dX6_person_115 : decode cX6_person 115 = .ok (.ifCond .eq 7, 3) := dk_153 0 7 (dk_at dksX6_person_4 11 rfl rfl)
theorem dX6_person_118 : decode cX6_person 118 = .ok (.iconst 1, 1) := dk_4 (dk_at dksX6_person_4 14 rfl rfl)
theorem dX6_person_119 : decode cX6_person 119 = .ok (.goto 4, 3) := dk_167 0 4 (dk_at dksX6_person_4 15 rfl rfl)
theorem dX6_person_122 : decode cX6_person 122 = .ok (.iconst 0, 1) := dk_3 (dk_at dksX6_person_4 18 rfl rfl)
theorem dX6_person_123 : decode cX6_person 123 = .ok (.ireturn, 1) := dk_172 (dk_at dksX6_person_4 19 rfl rfl)
theorem dX6_person_124 : decode cX6_person 124 = .ok (.iconst (-1), 1) := dk_2 (dk_at dksX6_person_4 20 rfl rfl)
theorem dX6_person_125 : decode cX6_person 125 = .ok (.ireturn, 1) := dk_172 (dk_at dksX6_person_4 21 rfl rfl)
abbrev cX6_isPerson : ByteArray := prog_22_method_34_code
def yX6_isPerson : MethodName := ⟨RX6, "isPerson", "(I)Z"⟩
def dkwX6_isPerson_0 : List UInt8 := [27, 133, 9, 42, 182, 1, 145, 4, 100, 133, 184, 1, 41, 172]
abbrev dktX6_isPerson_0 : List UInt8 := dkwX6_isPerson_0 ++ []
theorem dksX6_isPerson_0 : cX6_isPerson.data.toList.drop 0 = dktX6_isPerson_0 := by decide +kernel
theorem dX6_isPerson_0 : decode cX6_isPerson 0 = .ok (.iload_n 1, 1) := dk_27 (dk_at dksX6_isPerson_0 0 rfl rfl)
theorem dX6_isPerson_1 : decode cX6_isPerson 1 = .ok (.i2l, 1) := dk_133 (dk_at dksX6_isPerson_0 1 rfl rfl)
theorem dX6_isPerson_2 : decode cX6_isPerson 2 = .ok (.lconst 0, 1) := dk_9 (dk_at dksX6_isPerson_0 2 rfl rfl)
theorem dX6_isPerson_3 : decode cX6_isPerson 3 = .ok (.aload_n 0, 1) := dk_42 (dk_at dksX6_isPerson_0 3 rfl rfl)
theorem dX6_isPerson_4 : decode cX6_isPerson 4 = .ok (.invokevirtual 401, 3) := dk_182 1 145 (dk_at dksX6_isPerson_0 4 rfl rfl)
theorem dX6_isPerson_7 : decode cX6_isPerson 7 = .ok (.iconst 1, 1) := dk_4 (dk_at dksX6_isPerson_0 7 rfl rfl)
theorem dX6_isPerson_8 : decode cX6_isPerson 8 = .ok (.isub, 1) := dk_100 (dk_at dksX6_isPerson_0 8 rfl rfl)
theorem dX6_isPerson_9 : decode cX6_isPerson 9 = .ok (.i2l, 1) := dk_133 (dk_at dksX6_isPerson_0 9 rfl rfl)
theorem dX6_isPerson_10 : decode cX6_isPerson 10 = .ok (.invokestatic 297, 3) := dk_184 1 41 (dk_at dksX6_isPerson_0 10 rfl rfl)
theorem dX6_isPerson_13 : decode cX6_isPerson 13 = .ok (.ireturn, 1) := dk_172 (dk_at dksX6_isPerson_0 13 rfl rfl)
abbrev cX6_masterOf : ByteArray := prog_22_method_35_code
def yX6_masterOf : MethodName := ⟨RX6, "masterOf", "(I)I"⟩
def dkwX6_masterOf_0 : List UInt8 := [42, 180, 0, 139, 4, 8, 27, 104, 96, 46, 172]
abbrev dktX6_masterOf_0 : List UInt8 := dkwX6_masterOf_0 ++ []
theorem dksX6_masterOf_0 : cX6_masterOf.data.toList.drop 0 = dktX6_masterOf_0 := by decide +kernel
theorem dX6_masterOf_0 : decode cX6_masterOf 0 = .ok (.aload_n 0, 1) := dk_42 (dk_at dksX6_masterOf_0 0 rfl rfl)
theorem dX6_masterOf_1 : decode cX6_masterOf 1 = .ok (.getfield 139, 3) := dk_180 0 139 (dk_at dksX6_masterOf_0 1 rfl rfl)
theorem dX6_masterOf_4 : decode cX6_masterOf 4 = .ok (.iconst 1, 1) := dk_4 (dk_at dksX6_masterOf_0 4 rfl rfl)
theorem dX6_masterOf_5 : decode cX6_masterOf 5 = .ok (.iconst 5, 1) := dk_8 (dk_at dksX6_masterOf_0 5 rfl rfl)
theorem dX6_masterOf_6 : decode cX6_masterOf 6 = .ok (.iload_n 1, 1) := dk_27 (dk_at dksX6_masterOf_0 6 rfl rfl)
theorem dX6_masterOf_7 : decode cX6_masterOf 7 = .ok (.imul, 1) := dk_104 (dk_at dksX6_masterOf_0 7 rfl rfl)
theorem dX6_masterOf_8 : decode cX6_masterOf 8 = .ok (.iadd, 1) := dk_96 (dk_at dksX6_masterOf_0 8 rfl rfl)
theorem dX6_masterOf_9 : decode cX6_masterOf 9 = .ok (.iaload, 1) := dk_46 (dk_at dksX6_masterOf_0 9 rfl rfl)
theorem dX6_masterOf_10 : decode cX6_masterOf 10 = .ok (.ireturn, 1) := dk_172 (dk_at dksX6_masterOf_0 10 rfl rfl)
abbrev cX6_pupilsOf : ByteArray := prog_22_method_44_code
def yX6_pupilsOf : MethodName := ⟨RX6, "pupilsOf", "(I)I"⟩
def dkwX6_pupilsOf_1 : List UInt8 := [120, 128, 61, 132, 3, 1, 167, 255, 230, 28, 172]
abbrev dktX6_pupilsOf_1 : List UInt8 := dkwX6_pupilsOf_1 ++ []
def dkwX6_pupilsOf_0 : List UInt8 := [3, 61, 3, 62, 29, 42, 182, 1, 145, 162, 0, 24, 42, 29, 182, 1, 154, 27, 160, 0, 9, 28, 4, 29]
abbrev dktX6_pupilsOf_0 : List UInt8 := dkwX6_pupilsOf_0 ++ dktX6_pupilsOf_1
theorem dksX6_pupilsOf_0 : cX6_pupilsOf.data.toList.drop 0 = dktX6_pupilsOf_0 := by decide +kernel
theorem dksX6_pupilsOf_1 : cX6_pupilsOf.data.toList.drop 24 = dktX6_pupilsOf_1 := dk_seg dksX6_pupilsOf_0 24 rfl rfl
theorem dX6_pupilsOf_0 : decode cX6_pupilsOf 0 = .ok (.iconst 0, 1) := dk_3 (dk_at dksX6_pupilsOf_0 0 rfl rfl)
theorem dX6_pupilsOf_1 : decode cX6_pupilsOf 1 = .ok (.istore_n 2, 1) := dk_61 (dk_at dksX6_pupilsOf_0 1 rfl rfl)
theorem dX6_pupilsOf_2 : decode cX6_pupilsOf 2 = .ok (.iconst 0, 1) := dk_3 (dk_at dksX6_pupilsOf_0 2 rfl rfl)
theorem dX6_pupilsOf_3 : decode cX6_pupilsOf 3 = .ok (.istore_n 3, 1) := dk_62 (dk_at dksX6_pupilsOf_0 3 rfl rfl)
theorem dX6_pupilsOf_4 : decode cX6_pupilsOf 4 = .ok (.iload_n 3, 1) := dk_29 (dk_at dksX6_pupilsOf_0 4 rfl rfl)
theorem dX6_pupilsOf_5 : decode cX6_pupilsOf 5 = .ok (.aload_n 0, 1) := dk_42 (dk_at dksX6_pupilsOf_0 5 rfl rfl)
theorem dX6_pupilsOf_6 : decode cX6_pupilsOf 6 = .ok (.invokevirtual 401, 3) := dk_182 1 145 (dk_at dksX6_pupilsOf_0 6 rfl rfl)
theorem dX6_pupilsOf_9 : decode cX6_pupilsOf 9 = .ok (.if_icmp .ge 24, 3) := dk_162 0 24 (dk_at dksX6_pupilsOf_0 9 rfl rfl)
theorem dX6_pupilsOf_12 : decode cX6_pupilsOf 12 = .ok (.aload_n 0, 1) := dk_42 (dk_at dksX6_pupilsOf_0 12 rfl rfl)
theorem dX6_pupilsOf_13 : decode cX6_pupilsOf 13 = .ok (.iload_n 3, 1) := dk_29 (dk_at dksX6_pupilsOf_0 13 rfl rfl)
theorem dX6_pupilsOf_14 : decode cX6_pupilsOf 14 = .ok (.invokevirtual 410, 3) := dk_182 1 154 (dk_at dksX6_pupilsOf_0 14 rfl rfl)
theorem dX6_pupilsOf_17 : decode cX6_pupilsOf 17 = .ok (.iload_n 1, 1) := dk_27 (dk_at dksX6_pupilsOf_0 17 rfl rfl)
theorem dX6_pupilsOf_18 : decode cX6_pupilsOf 18 = .ok (.if_icmp .ne 9, 3) := dk_160 0 9 (dk_at dksX6_pupilsOf_0 18 rfl rfl)
theorem dX6_pupilsOf_21 : decode cX6_pupilsOf 21 = .ok (.iload_n 2, 1) := dk_28 (dk_at dksX6_pupilsOf_0 21 rfl rfl)
theorem dX6_pupilsOf_22 : decode cX6_pupilsOf 22 = .ok (.iconst 1, 1) := dk_4 (dk_at dksX6_pupilsOf_0 22 rfl rfl)
theorem dX6_pupilsOf_23 : decode cX6_pupilsOf 23 = .ok (.iload_n 3, 1) := dk_29 (dk_at dksX6_pupilsOf_0 23 rfl rfl)
theorem dX6_pupilsOf_24 : decode cX6_pupilsOf 24 = .ok (.ishl, 1) := dk_120 (dk_at dksX6_pupilsOf_1 0 rfl rfl)
theorem dX6_pupilsOf_25 : decode cX6_pupilsOf 25 = .ok (.ior, 1) := dk_128 (dk_at dksX6_pupilsOf_1 1 rfl rfl)
theorem dX6_pupilsOf_26 : decode cX6_pupilsOf 26 = .ok (.istore_n 2, 1) := dk_61 (dk_at dksX6_pupilsOf_1 2 rfl rfl)
theorem dX6_pupilsOf_27 : decode cX6_pupilsOf 27 = .ok (.iinc 3 1, 3) := dk_132 3 1 (dk_at dksX6_pupilsOf_1 3 rfl rfl)
theorem dX6_pupilsOf_30 : decode cX6_pupilsOf 30 = .ok (.goto (-26), 3) := dk_167 255 230 (dk_at dksX6_pupilsOf_1 6 rfl rfl)
theorem dX6_pupilsOf_33 : decode cX6_pupilsOf 33 = .ok (.iload_n 2, 1) := dk_28 (dk_at dksX6_pupilsOf_1 9 rfl rfl)
theorem dX6_pupilsOf_34 : decode cX6_pupilsOf 34 = .ok (.ireturn, 1) := dk_172 (dk_at dksX6_pupilsOf_1 10 rfl rfl)
abbrev cX6_leftOf : ByteArray := prog_22_method_38_code
def yX6_leftOf : MethodName := ⟨RX6, "leftOf", "(I)I"⟩
def dkwX6_leftOf_0 : List UInt8 := [42, 180, 0, 139, 4, 8, 27, 104, 96, 6, 96, 46, 172]
abbrev dktX6_leftOf_0 : List UInt8 := dkwX6_leftOf_0 ++ []
theorem dksX6_leftOf_0 : cX6_leftOf.data.toList.drop 0 = dktX6_leftOf_0 := by decide +kernel
theorem dX6_leftOf_0 : decode cX6_leftOf 0 = .ok (.aload_n 0, 1) := dk_42 (dk_at dksX6_leftOf_0 0 rfl rfl)
theorem dX6_leftOf_1 : decode cX6_leftOf 1 = .ok (.getfield 139, 3) := dk_180 0 139 (dk_at dksX6_leftOf_0 1 rfl rfl)
theorem dX6_leftOf_4 : decode cX6_leftOf 4 = .ok (.iconst 1, 1) := dk_4 (dk_at dksX6_leftOf_0 4 rfl rfl)
theorem dX6_leftOf_5 : decode cX6_leftOf 5 = .ok (.iconst 5, 1) := dk_8 (dk_at dksX6_leftOf_0 5 rfl rfl)
theorem dX6_leftOf_6 : decode cX6_leftOf 6 = .ok (.iload_n 1, 1) := dk_27 (dk_at dksX6_leftOf_0 6 rfl rfl)
theorem dX6_leftOf_7 : decode cX6_leftOf 7 = .ok (.imul, 1) := dk_104 (dk_at dksX6_leftOf_0 7 rfl rfl)
theorem dX6_leftOf_8 : decode cX6_leftOf 8 = .ok (.iadd, 1) := dk_96 (dk_at dksX6_leftOf_0 8 rfl rfl)
theorem dX6_leftOf_9 : decode cX6_leftOf 9 = .ok (.iconst 3, 1) := dk_6 (dk_at dksX6_leftOf_0 9 rfl rfl)
theorem dX6_leftOf_10 : decode cX6_leftOf 10 = .ok (.iadd, 1) := dk_96 (dk_at dksX6_leftOf_0 10 rfl rfl)
theorem dX6_leftOf_11 : decode cX6_leftOf 11 = .ok (.iaload, 1) := dk_46 (dk_at dksX6_leftOf_0 11 rfl rfl)
theorem dX6_leftOf_12 : decode cX6_leftOf 12 = .ok (.ireturn, 1) := dk_172 (dk_at dksX6_leftOf_0 12 rfl rfl)
abbrev cX6_hasPassed : ByteArray := prog_22_method_39_code
def yX6_hasPassed : MethodName := ⟨RX6, "hasPassed", "(I)Z"⟩
def dkwX6_hasPassed_0 : List UInt8 := [42, 180, 0, 139, 4, 8, 27, 104, 96, 7, 96, 46, 4, 126, 153, 0, 7, 4, 167, 0, 4, 3, 172]
abbrev dktX6_hasPassed_0 : List UInt8 := dkwX6_hasPassed_0 ++ []
theorem dksX6_hasPassed_0 : cX6_hasPassed.data.toList.drop 0 = dktX6_hasPassed_0 := by decide +kernel
theorem dX6_hasPassed_0 : decode cX6_hasPassed 0 = .ok (.aload_n 0, 1) := dk_42 (dk_at dksX6_hasPassed_0 0 rfl rfl)
theorem dX6_hasPassed_1 : decode cX6_hasPassed 1 = .ok (.getfield 139, 3) := dk_180 0 139 (dk_at dksX6_hasPassed_0 1 rfl rfl)
theorem dX6_hasPassed_4 : decode cX6_hasPassed 4 = .ok (.iconst 1, 1) := dk_4 (dk_at dksX6_hasPassed_0 4 rfl rfl)
theorem dX6_hasPassed_5 : decode cX6_hasPassed 5 = .ok (.iconst 5, 1) := dk_8 (dk_at dksX6_hasPassed_0 5 rfl rfl)
theorem dX6_hasPassed_6 : decode cX6_hasPassed 6 = .ok (.iload_n 1, 1) := dk_27 (dk_at dksX6_hasPassed_0 6 rfl rfl)
theorem dX6_hasPassed_7 : decode cX6_hasPassed 7 = .ok (.imul, 1) := dk_104 (dk_at dksX6_hasPassed_0 7 rfl rfl)
theorem dX6_hasPassed_8 : decode cX6_hasPassed 8 = .ok (.iadd, 1) := dk_96 (dk_at dksX6_hasPassed_0 8 rfl rfl)
theorem dX6_hasPassed_9 : decode cX6_hasPassed 9 = .ok (.iconst 4, 1) := dk_7 (dk_at dksX6_hasPassed_0 9 rfl rfl)
theorem dX6_hasPassed_10 : decode cX6_hasPassed 10 = .ok (.iadd, 1) := dk_96 (dk_at dksX6_hasPassed_0 10 rfl rfl)
theorem dX6_hasPassed_11 : decode cX6_hasPassed 11 = .ok (.iaload, 1) := dk_46 (dk_at dksX6_hasPassed_0 11 rfl rfl)
theorem dX6_hasPassed_12 : decode cX6_hasPassed 12 = .ok (.iconst 1, 1) := dk_4 (dk_at dksX6_hasPassed_0 12 rfl rfl)
theorem dX6_hasPassed_13 : decode cX6_hasPassed 13 = .ok (.iand, 1) := dk_126 (dk_at dksX6_hasPassed_0 13 rfl rfl)
theorem dX6_hasPassed_14 : decode cX6_hasPassed 14 = .ok (.ifCond .eq 7, 3) := dk_153 0 7 (dk_at dksX6_hasPassed_0 14 rfl rfl)
theorem dX6_hasPassed_17 : decode cX6_hasPassed 17 = .ok (.iconst 1, 1) := dk_4 (dk_at dksX6_hasPassed_0 17 rfl rfl)
theorem dX6_hasPassed_18 : decode cX6_hasPassed 18 = .ok (.goto 4, 3) := dk_167 0 4 (dk_at dksX6_hasPassed_0 18 rfl rfl)
theorem dX6_hasPassed_21 : decode cX6_hasPassed 21 = .ok (.iconst 0, 1) := dk_3 (dk_at dksX6_hasPassed_0 21 rfl rfl)
theorem dX6_hasPassed_22 : decode cX6_hasPassed 22 = .ok (.ireturn, 1) := dk_172 (dk_at dksX6_hasPassed_0 22 rfl rfl)
abbrev cX6_isDoctor : ByteArray := prog_22_method_40_code
def yX6_isDoctor : MethodName := ⟨RX6, "isDoctor", "(I)Z"⟩
def dkwX6_isDoctor_0 : List UInt8 := [42, 180, 0, 139, 4, 8, 27, 104, 96, 7, 96, 46, 5, 126, 153, 0, 7, 4, 167, 0, 4, 3, 172]
abbrev dktX6_isDoctor_0 : List UInt8 := dkwX6_isDoctor_0 ++ []
theorem dksX6_isDoctor_0 : cX6_isDoctor.data.toList.drop 0 = dktX6_isDoctor_0 := by decide +kernel
theorem dX6_isDoctor_0 : decode cX6_isDoctor 0 = .ok (.aload_n 0, 1) := dk_42 (dk_at dksX6_isDoctor_0 0 rfl rfl)
theorem dX6_isDoctor_1 : decode cX6_isDoctor 1 = .ok (.getfield 139, 3) := dk_180 0 139 (dk_at dksX6_isDoctor_0 1 rfl rfl)
theorem dX6_isDoctor_4 : decode cX6_isDoctor 4 = .ok (.iconst 1, 1) := dk_4 (dk_at dksX6_isDoctor_0 4 rfl rfl)
theorem dX6_isDoctor_5 : decode cX6_isDoctor 5 = .ok (.iconst 5, 1) := dk_8 (dk_at dksX6_isDoctor_0 5 rfl rfl)
theorem dX6_isDoctor_6 : decode cX6_isDoctor 6 = .ok (.iload_n 1, 1) := dk_27 (dk_at dksX6_isDoctor_0 6 rfl rfl)
theorem dX6_isDoctor_7 : decode cX6_isDoctor 7 = .ok (.imul, 1) := dk_104 (dk_at dksX6_isDoctor_0 7 rfl rfl)
theorem dX6_isDoctor_8 : decode cX6_isDoctor 8 = .ok (.iadd, 1) := dk_96 (dk_at dksX6_isDoctor_0 8 rfl rfl)
theorem dX6_isDoctor_9 : decode cX6_isDoctor 9 = .ok (.iconst 4, 1) := dk_7 (dk_at dksX6_isDoctor_0 9 rfl rfl)
theorem dX6_isDoctor_10 : decode cX6_isDoctor 10 = .ok (.iadd, 1) := dk_96 (dk_at dksX6_isDoctor_0 10 rfl rfl)
theorem dX6_isDoctor_11 : decode cX6_isDoctor 11 = .ok (.iaload, 1) := dk_46 (dk_at dksX6_isDoctor_0 11 rfl rfl)
theorem dX6_isDoctor_12 : decode cX6_isDoctor 12 = .ok (.iconst 2, 1) := dk_5 (dk_at dksX6_isDoctor_0 12 rfl rfl)
theorem dX6_isDoctor_13 : decode cX6_isDoctor 13 = .ok (.iand, 1) := dk_126 (dk_at dksX6_isDoctor_0 13 rfl rfl)
theorem dX6_isDoctor_14 : decode cX6_isDoctor 14 = .ok (.ifCond .eq 7, 3) := dk_153 0 7 (dk_at dksX6_isDoctor_0 14 rfl rfl)
theorem dX6_isDoctor_17 : decode cX6_isDoctor 17 = .ok (.iconst 1, 1) := dk_4 (dk_at dksX6_isDoctor_0 17 rfl rfl)
theorem dX6_isDoctor_18 : decode cX6_isDoctor 18 = .ok (.goto 4, 3) := dk_167 0 4 (dk_at dksX6_isDoctor_0 18 rfl rfl)
theorem dX6_isDoctor_21 : decode cX6_isDoctor 21 = .ok (.iconst 0, 1) := dk_3 (dk_at dksX6_isDoctor_0 21 rfl rfl)
theorem dX6_isDoctor_22 : decode cX6_isDoctor 22 = .ok (.ireturn, 1) := dk_172 (dk_at dksX6_isDoctor_0 22 rfl rfl)
abbrev cX6_marks : ByteArray := prog_22_method_67_code
def yX6_marks : MethodName := ⟨RX6, "marks", "(I)J"⟩
def dkwX6_marks_0 : List UInt8 := [42, 27, 182, 1, 248, 153, 0, 12, 42, 27, 182, 1, 197, 133, 167, 0, 6, 20, 1, 254, 173]
abbrev dktX6_marks_0 : List UInt8 := dkwX6_marks_0 ++ []
theorem dksX6_marks_0 : cX6_marks.data.toList.drop 0 = dktX6_marks_0 := by decide +kernel
theorem dX6_marks_0 : decode cX6_marks 0 = .ok (.aload_n 0, 1) := dk_42 (dk_at dksX6_marks_0 0 rfl rfl)
theorem dX6_marks_1 : decode cX6_marks 1 = .ok (.iload_n 1, 1) := dk_27 (dk_at dksX6_marks_0 1 rfl rfl)
theorem dX6_marks_2 : decode cX6_marks 2 = .ok (.invokevirtual 504, 3) := dk_182 1 248 (dk_at dksX6_marks_0 2 rfl rfl)
theorem dX6_marks_5 : decode cX6_marks 5 = .ok (.ifCond .eq 12, 3) := dk_153 0 12 (dk_at dksX6_marks_0 5 rfl rfl)
theorem dX6_marks_8 : decode cX6_marks 8 = .ok (.aload_n 0, 1) := dk_42 (dk_at dksX6_marks_0 8 rfl rfl)
theorem dX6_marks_9 : decode cX6_marks 9 = .ok (.iload_n 1, 1) := dk_27 (dk_at dksX6_marks_0 9 rfl rfl)
theorem dX6_marks_10 : decode cX6_marks 10 = .ok (.invokevirtual 453, 3) := dk_182 1 197 (dk_at dksX6_marks_0 10 rfl rfl)
theorem dX6_marks_13 : decode cX6_marks 13 = .ok (.i2l, 1) := dk_133 (dk_at dksX6_marks_0 13 rfl rfl)
theorem dX6_marks_14 : decode cX6_marks 14 = .ok (.goto 6, 3) := dk_167 0 6 (dk_at dksX6_marks_0 14 rfl rfl)
theorem dX6_marks_17 : decode cX6_marks 17 = .ok (.ldc2_w 510, 3) := dk_20 1 254 (dk_at dksX6_marks_0 17 rfl rfl)
theorem dX6_marks_20 : decode cX6_marks 20 = .ok (.lreturn, 1) := dk_173 (dk_at dksX6_marks_0 20 rfl rfl)
abbrev cX6_marksOf : ByteArray := prog_22_method_48_code
def yX6_marksOf : MethodName := ⟨RX6, "marksOf", "(I)I"⟩
def dkwX6_marksOf_2 : List UInt8 := [167, 255, 213, 28, 172]
abbrev dktX6_marksOf_2 : List UInt8 := dkwX6_marksOf_2 ++ []
def dkwX6_marksOf_1 : List UInt8 := [182, 1, 148, 29, 122, 4, 126, 42, 27, 182, 1, 151, 29, 122, 4, 126, 100, 104, 96, 61, 132, 3, 1]
abbrev dktX6_marksOf_1 : List UInt8 := dkwX6_marksOf_1 ++ dktX6_marksOf_2
def dkwX6_marksOf_0 : List UInt8 := [3, 61, 3, 62, 29, 42, 182, 1, 142, 162, 0, 41, 28, 42, 180, 0, 112, 16, 8, 29, 96, 46, 42, 27]
abbrev dktX6_marksOf_0 : List UInt8 := dkwX6_marksOf_0 ++ dktX6_marksOf_1
theorem dksX6_marksOf_0 : cX6_marksOf.data.toList.drop 0 = dktX6_marksOf_0 := by decide +kernel
theorem dksX6_marksOf_1 : cX6_marksOf.data.toList.drop 24 = dktX6_marksOf_1 := dk_seg dksX6_marksOf_0 24 rfl rfl
theorem dksX6_marksOf_2 : cX6_marksOf.data.toList.drop 47 = dktX6_marksOf_2 := dk_seg dksX6_marksOf_1 23 rfl rfl
theorem dX6_marksOf_0 : decode cX6_marksOf 0 = .ok (.iconst 0, 1) := dk_3 (dk_at dksX6_marksOf_0 0 rfl rfl)
theorem dX6_marksOf_1 : decode cX6_marksOf 1 = .ok (.istore_n 2, 1) := dk_61 (dk_at dksX6_marksOf_0 1 rfl rfl)
theorem dX6_marksOf_2 : decode cX6_marksOf 2 = .ok (.iconst 0, 1) := dk_3 (dk_at dksX6_marksOf_0 2 rfl rfl)
theorem dX6_marksOf_3 : decode cX6_marksOf 3 = .ok (.istore_n 3, 1) := dk_62 (dk_at dksX6_marksOf_0 3 rfl rfl)
theorem dX6_marksOf_4 : decode cX6_marksOf 4 = .ok (.iload_n 3, 1) := dk_29 (dk_at dksX6_marksOf_0 4 rfl rfl)
theorem dX6_marksOf_5 : decode cX6_marksOf 5 = .ok (.aload_n 0, 1) := dk_42 (dk_at dksX6_marksOf_0 5 rfl rfl)
theorem dX6_marksOf_6 : decode cX6_marksOf 6 = .ok (.invokevirtual 398, 3) := dk_182 1 142 (dk_at dksX6_marksOf_0 6 rfl rfl)
theorem dX6_marksOf_9 : decode cX6_marksOf 9 = .ok (.if_icmp .ge 41, 3) := dk_162 0 41 (dk_at dksX6_marksOf_0 9 rfl rfl)
theorem dX6_marksOf_12 : decode cX6_marksOf 12 = .ok (.iload_n 2, 1) := dk_28 (dk_at dksX6_marksOf_0 12 rfl rfl)
theorem dX6_marksOf_13 : decode cX6_marksOf 13 = .ok (.aload_n 0, 1) := dk_42 (dk_at dksX6_marksOf_0 13 rfl rfl)
theorem dX6_marksOf_14 : decode cX6_marksOf 14 = .ok (.getfield 112, 3) := dk_180 0 112 (dk_at dksX6_marksOf_0 14 rfl rfl)
theorem dX6_marksOf_17 : decode cX6_marksOf 17 = .ok (.bipush 8, 2) := dk_16 8 (dk_at dksX6_marksOf_0 17 rfl rfl)
theorem dX6_marksOf_19 : decode cX6_marksOf 19 = .ok (.iload_n 3, 1) := dk_29 (dk_at dksX6_marksOf_0 19 rfl rfl)
theorem dX6_marksOf_20 : decode cX6_marksOf 20 = .ok (.iadd, 1) := dk_96 (dk_at dksX6_marksOf_0 20 rfl rfl)
theorem dX6_marksOf_21 : decode cX6_marksOf 21 = .ok (.iaload, 1) := dk_46 (dk_at dksX6_marksOf_0 21 rfl rfl)
theorem dX6_marksOf_22 : decode cX6_marksOf 22 = .ok (.aload_n 0, 1) := dk_42 (dk_at dksX6_marksOf_0 22 rfl rfl)
theorem dX6_marksOf_23 : decode cX6_marksOf 23 = .ok (.iload_n 1, 1) := dk_27 (dk_at dksX6_marksOf_0 23 rfl rfl)
theorem dX6_marksOf_24 : decode cX6_marksOf 24 = .ok (.invokevirtual 404, 3) := dk_182 1 148 (dk_at dksX6_marksOf_1 0 rfl rfl)
theorem dX6_marksOf_27 : decode cX6_marksOf 27 = .ok (.iload_n 3, 1) := dk_29 (dk_at dksX6_marksOf_1 3 rfl rfl)
theorem dX6_marksOf_28 : decode cX6_marksOf 28 = .ok (.ishr, 1) := dk_122 (dk_at dksX6_marksOf_1 4 rfl rfl)
theorem dX6_marksOf_29 : decode cX6_marksOf 29 = .ok (.iconst 1, 1) := dk_4 (dk_at dksX6_marksOf_1 5 rfl rfl)
theorem dX6_marksOf_30 : decode cX6_marksOf 30 = .ok (.iand, 1) := dk_126 (dk_at dksX6_marksOf_1 6 rfl rfl)
theorem dX6_marksOf_31 : decode cX6_marksOf 31 = .ok (.aload_n 0, 1) := dk_42 (dk_at dksX6_marksOf_1 7 rfl rfl)
theorem dX6_marksOf_32 : decode cX6_marksOf 32 = .ok (.iload_n 1, 1) := dk_27 (dk_at dksX6_marksOf_1 8 rfl rfl)
theorem dX6_marksOf_33 : decode cX6_marksOf 33 = .ok (.invokevirtual 407, 3) := dk_182 1 151 (dk_at dksX6_marksOf_1 9 rfl rfl)
theorem dX6_marksOf_36 : decode cX6_marksOf 36 = .ok (.iload_n 3, 1) := dk_29 (dk_at dksX6_marksOf_1 12 rfl rfl)
theorem dX6_marksOf_37 : decode cX6_marksOf 37 = .ok (.ishr, 1) := dk_122 (dk_at dksX6_marksOf_1 13 rfl rfl)
theorem dX6_marksOf_38 : decode cX6_marksOf 38 = .ok (.iconst 1, 1) := dk_4 (dk_at dksX6_marksOf_1 14 rfl rfl)
theorem dX6_marksOf_39 : decode cX6_marksOf 39 = .ok (.iand, 1) := dk_126 (dk_at dksX6_marksOf_1 15 rfl rfl)
theorem dX6_marksOf_40 : decode cX6_marksOf 40 = .ok (.isub, 1) := dk_100 (dk_at dksX6_marksOf_1 16 rfl rfl)
theorem dX6_marksOf_41 : decode cX6_marksOf 41 = .ok (.imul, 1) := dk_104 (dk_at dksX6_marksOf_1 17 rfl rfl)
theorem dX6_marksOf_42 : decode cX6_marksOf 42 = .ok (.iadd, 1) := dk_96 (dk_at dksX6_marksOf_1 18 rfl rfl)
theorem dX6_marksOf_43 : decode cX6_marksOf 43 = .ok (.istore_n 2, 1) := dk_61 (dk_at dksX6_marksOf_1 19 rfl rfl)
theorem dX6_marksOf_44 : decode cX6_marksOf 44 = .ok (.iinc 3 1, 3) := dk_132 3 1 (dk_at dksX6_marksOf_1 20 rfl rfl)
theorem dX6_marksOf_47 : decode cX6_marksOf 47 = .ok (.goto (-43), 3) := dk_167 255 213 (dk_at dksX6_marksOf_2 0 rfl rfl)
theorem dX6_marksOf_50 : decode cX6_marksOf 50 = .ok (.iload_n 2, 1) := dk_28 (dk_at dksX6_marksOf_2 3 rfl rfl)
theorem dX6_marksOf_51 : decode cX6_marksOf 51 = .ok (.ireturn, 1) := dk_172 (dk_at dksX6_marksOf_2 4 rfl rfl)
abbrev cX6_next : ByteArray := prog_22_method_68_code
def yX6_next : MethodName := ⟨RX6, "next", "(I)I"⟩
def dkwX6_next_0 : List UInt8 := [42, 27, 182, 1, 248, 153, 0, 11, 42, 27, 182, 1, 180, 167, 0, 4, 2, 172]
abbrev dktX6_next_0 : List UInt8 := dkwX6_next_0 ++ []
theorem dksX6_next_0 : cX6_next.data.toList.drop 0 = dktX6_next_0 := by decide +kernel
theorem dX6_next_0 : decode cX6_next 0 = .ok (.aload_n 0, 1) := dk_42 (dk_at dksX6_next_0 0 rfl rfl)
theorem dX6_next_1 : decode cX6_next 1 = .ok (.iload_n 1, 1) := dk_27 (dk_at dksX6_next_0 1 rfl rfl)
theorem dX6_next_2 : decode cX6_next 2 = .ok (.invokevirtual 504, 3) := dk_182 1 248 (dk_at dksX6_next_0 2 rfl rfl)
theorem dX6_next_5 : decode cX6_next 5 = .ok (.ifCond .eq 11, 3) := dk_153 0 11 (dk_at dksX6_next_0 5 rfl rfl)
theorem dX6_next_8 : decode cX6_next 8 = .ok (.aload_n 0, 1) := dk_42 (dk_at dksX6_next_0 8 rfl rfl)
theorem dX6_next_9 : decode cX6_next 9 = .ok (.iload_n 1, 1) := dk_27 (dk_at dksX6_next_0 9 rfl rfl)
theorem dX6_next_10 : decode cX6_next 10 = .ok (.invokevirtual 436, 3) := dk_182 1 180 (dk_at dksX6_next_0 10 rfl rfl)
theorem dX6_next_13 : decode cX6_next 13 = .ok (.goto 4, 3) := dk_167 0 4 (dk_at dksX6_next_0 13 rfl rfl)
theorem dX6_next_16 : decode cX6_next 16 = .ok (.iconst (-1), 1) := dk_2 (dk_at dksX6_next_0 16 rfl rfl)
theorem dX6_next_17 : decode cX6_next 17 = .ok (.ireturn, 1) := dk_172 (dk_at dksX6_next_0 17 rfl rfl)
abbrev cX6_taughtNext : ByteArray := prog_22_method_50_code
def yX6_taughtNext : MethodName := ⟨RX6, "taughtNext", "(I)I"⟩
def dkwX6_taughtNext_3 : List UInt8 := [2, 159, 0, 13, 42, 3, 27, 29, 182, 1, 177, 153, 0, 5, 29, 172, 132, 3, 1, 167, 255, 181, 2, 172]
abbrev dktX6_taughtNext_3 : List UInt8 := dkwX6_taughtNext_3 ++ []
def dkwX6_taughtNext_2 : List UInt8 := [159, 0, 40, 21, 4, 5, 160, 0, 12, 21, 5, 5, 160, 0, 6, 167, 0, 25, 42, 180, 0, 130, 6, 46]
abbrev dktX6_taughtNext_2 : List UInt8 := dkwX6_taughtNext_2 ++ dktX6_taughtNext_3
def dkwX6_taughtNext_1 : List UInt8 := [27, 29, 182, 1, 174, 54, 4, 42, 28, 29, 182, 1, 174, 54, 5, 21, 5, 153, 0, 46, 21, 4, 4]
abbrev dktX6_taughtNext_1 : List UInt8 := dkwX6_taughtNext_1 ++ dktX6_taughtNext_2
def dkwX6_taughtNext_0 : List UInt8 := [42, 27, 182, 1, 154, 61, 28, 2, 160, 0, 5, 2, 172, 3, 62, 29, 42, 182, 1, 142, 162, 0, 73, 42]
abbrev dktX6_taughtNext_0 : List UInt8 := dkwX6_taughtNext_0 ++ dktX6_taughtNext_1
theorem dksX6_taughtNext_0 : cX6_taughtNext.data.toList.drop 0 = dktX6_taughtNext_0 := by decide +kernel
theorem dksX6_taughtNext_1 : cX6_taughtNext.data.toList.drop 24 = dktX6_taughtNext_1 := dk_seg dksX6_taughtNext_0 24 rfl rfl
theorem dksX6_taughtNext_2 : cX6_taughtNext.data.toList.drop 47 = dktX6_taughtNext_2 := dk_seg dksX6_taughtNext_1 23 rfl rfl
theorem dksX6_taughtNext_3 : cX6_taughtNext.data.toList.drop 71 = dktX6_taughtNext_3 := dk_seg dksX6_taughtNext_2 24 rfl rfl
theorem dX6_taughtNext_0 : decode cX6_taughtNext 0 = .ok (.aload_n 0, 1) := dk_42 (dk_at dksX6_taughtNext_0 0 rfl rfl)
theorem dX6_taughtNext_1 : decode cX6_taughtNext 1 = .ok (.iload_n 1, 1) := dk_27 (dk_at dksX6_taughtNext_0 1 rfl rfl)
theorem dX6_taughtNext_2 : decode cX6_taughtNext 2 = .ok (.invokevirtual 410, 3) := dk_182 1 154 (dk_at dksX6_taughtNext_0 2 rfl rfl)
theorem dX6_taughtNext_5 : decode cX6_taughtNext 5 = .ok (.istore_n 2, 1) := dk_61 (dk_at dksX6_taughtNext_0 5 rfl rfl)
theorem dX6_taughtNext_6 : decode cX6_taughtNext 6 = .ok (.iload_n 2, 1) := dk_28 (dk_at dksX6_taughtNext_0 6 rfl rfl)
theorem dX6_taughtNext_7 : decode cX6_taughtNext 7 = .ok (.iconst (-1), 1) := dk_2 (dk_at dksX6_taughtNext_0 7 rfl rfl)
theorem dX6_taughtNext_8 : decode cX6_taughtNext 8 = .ok (.if_icmp .ne 5, 3) := dk_160 0 5 (dk_at dksX6_taughtNext_0 8 rfl rfl)
theorem dX6_taughtNext_11 : decode cX6_taughtNext 11 = .ok (.iconst (-1), 1) := dk_2 (dk_at dksX6_taughtNext_0 11 rfl rfl)
theorem dX6_taughtNext_12 : decode cX6_taughtNext 12 = .ok (.ireturn, 1) := dk_172 (dk_at dksX6_taughtNext_0 12 rfl rfl)
theorem dX6_taughtNext_13 : decode cX6_taughtNext 13 = .ok (.iconst 0, 1) := dk_3 (dk_at dksX6_taughtNext_0 13 rfl rfl)
theorem dX6_taughtNext_14 : decode cX6_taughtNext 14 = .ok (.istore_n 3, 1) := dk_62 (dk_at dksX6_taughtNext_0 14 rfl rfl)
theorem dX6_taughtNext_15 : decode cX6_taughtNext 15 = .ok (.iload_n 3, 1) := dk_29 (dk_at dksX6_taughtNext_0 15 rfl rfl)
theorem dX6_taughtNext_16 : decode cX6_taughtNext 16 = .ok (.aload_n 0, 1) := dk_42 (dk_at dksX6_taughtNext_0 16 rfl rfl)
theorem dX6_taughtNext_17 : decode cX6_taughtNext 17 = .ok (.invokevirtual 398, 3) := dk_182 1 142 (dk_at dksX6_taughtNext_0 17 rfl rfl)
theorem dX6_taughtNext_20 : decode cX6_taughtNext 20 = .ok (.if_icmp .ge 73, 3) := dk_162 0 73 (dk_at dksX6_taughtNext_0 20 rfl rfl)
theorem dX6_taughtNext_23 : decode cX6_taughtNext 23 = .ok (.aload_n 0, 1) := dk_42 (dk_at dksX6_taughtNext_0 23 rfl rfl)
theorem dX6_taughtNext_24 : decode cX6_taughtNext 24 = .ok (.iload_n 1, 1) := dk_27 (dk_at dksX6_taughtNext_1 0 rfl rfl)
theorem dX6_taughtNext_25 : decode cX6_taughtNext 25 = .ok (.iload_n 3, 1) := dk_29 (dk_at dksX6_taughtNext_1 1 rfl rfl)
theorem dX6_taughtNext_26 : decode cX6_taughtNext 26 = .ok (.invokevirtual 430, 3) := dk_182 1 174 (dk_at dksX6_taughtNext_1 2 rfl rfl)
theorem dX6_taughtNext_29 : decode cX6_taughtNext 29 = .ok (.istore 4, 2) := dk_54 4 (dk_at dksX6_taughtNext_1 5 rfl rfl)
theorem dX6_taughtNext_31 : decode cX6_taughtNext 31 = .ok (.aload_n 0, 1) := dk_42 (dk_at dksX6_taughtNext_1 7 rfl rfl)
theorem dX6_taughtNext_32 : decode cX6_taughtNext 32 = .ok (.iload_n 2, 1) := dk_28 (dk_at dksX6_taughtNext_1 8 rfl rfl)
theorem dX6_taughtNext_33 : decode cX6_taughtNext 33 = .ok (.iload_n 3, 1) := dk_29 (dk_at dksX6_taughtNext_1 9 rfl rfl)
theorem dX6_taughtNext_34 : decode cX6_taughtNext 34 = .ok (.invokevirtual 430, 3) := dk_182 1 174 (dk_at dksX6_taughtNext_1 10 rfl rfl)
theorem dX6_taughtNext_37 : decode cX6_taughtNext 37 = .ok (.istore 5, 2) := dk_54 5 (dk_at dksX6_taughtNext_1 13 rfl rfl)
theorem dX6_taughtNext_39 : decode cX6_taughtNext 39 = .ok (.iload 5, 2) := dk_21 5 (dk_at dksX6_taughtNext_1 15 rfl rfl)
theorem dX6_taughtNext_41 : decode cX6_taughtNext 41 = .ok (.ifCond .eq 46, 3) := dk_153 0 46 (dk_at dksX6_taughtNext_1 17 rfl rfl)
theorem dX6_taughtNext_44 : decode cX6_taughtNext 44 = .ok (.iload 4, 2) := dk_21 4 (dk_at dksX6_taughtNext_1 20 rfl rfl)
theorem dX6_taughtNext_46 : decode cX6_taughtNext 46 = .ok (.iconst 1, 1) := dk_4 (dk_at dksX6_taughtNext_1 22 rfl rfl)
theorem dX6_taughtNext_47 : decode cX6_taughtNext 47 = .ok (.if_icmp .eq 40, 3) := dk_159 0 40 (dk_at dksX6_taughtNext_2 0 rfl rfl)
theorem dX6_taughtNext_50 : decode cX6_taughtNext 50 = .ok (.iload 4, 2) := dk_21 4 (dk_at dksX6_taughtNext_2 3 rfl rfl)
theorem dX6_taughtNext_52 : decode cX6_taughtNext 52 = .ok (.iconst 2, 1) := dk_5 (dk_at dksX6_taughtNext_2 5 rfl rfl)
theorem dX6_taughtNext_53 : decode cX6_taughtNext 53 = .ok (.if_icmp .ne 12, 3) := dk_160 0 12 (dk_at dksX6_taughtNext_2 6 rfl rfl)
theorem dX6_taughtNext_56 : decode cX6_taughtNext 56 = .ok (.iload 5, 2) := dk_21 5 (dk_at dksX6_taughtNext_2 9 rfl rfl)
theorem dX6_taughtNext_58 : decode cX6_taughtNext 58 = .ok (.iconst 2, 1) := dk_5 (dk_at dksX6_taughtNext_2 11 rfl rfl)
theorem dX6_taughtNext_59 : decode cX6_taughtNext 59 = .ok (.if_icmp .ne 6, 3) := dk_160 0 6 (dk_at dksX6_taughtNext_2 12 rfl rfl)
theorem dX6_taughtNext_62 : decode cX6_taughtNext 62 = .ok (.goto 25, 3) := dk_167 0 25 (dk_at dksX6_taughtNext_2 15 rfl rfl)
theorem dX6_taughtNext_65 : decode cX6_taughtNext 65 = .ok (.aload_n 0, 1) := dk_42 (dk_at dksX6_taughtNext_2 18 rfl rfl)
theorem dX6_taughtNext_66 : decode cX6_taughtNext 66 = .ok (.getfield 130, 3) := dk_180 0 130 (dk_at dksX6_taughtNext_2 19 rfl rfl)
theorem dX6_taughtNext_69 : decode cX6_taughtNext 69 = .ok (.iconst 3, 1) := dk_6 (dk_at dksX6_taughtNext_2 22 rfl rfl)
theorem dX6_taughtNext_70 : decode cX6_taughtNext 70 = .ok (.iaload, 1) := dk_46 (dk_at dksX6_taughtNext_2 23 rfl rfl)
theorem dX6_taughtNext_71 : decode cX6_taughtNext 71 = .ok (.iconst (-1), 1) := dk_2 (dk_at dksX6_taughtNext_3 0 rfl rfl)
theorem dX6_taughtNext_72 : decode cX6_taughtNext 72 = .ok (.if_icmp .eq 13, 3) := dk_159 0 13 (dk_at dksX6_taughtNext_3 1 rfl rfl)
theorem dX6_taughtNext_75 : decode cX6_taughtNext 75 = .ok (.aload_n 0, 1) := dk_42 (dk_at dksX6_taughtNext_3 4 rfl rfl)
theorem dX6_taughtNext_76 : decode cX6_taughtNext 76 = .ok (.iconst 0, 1) := dk_3 (dk_at dksX6_taughtNext_3 5 rfl rfl)
theorem dX6_taughtNext_77 : decode cX6_taughtNext 77 = .ok (.iload_n 1, 1) := dk_27 (dk_at dksX6_taughtNext_3 6 rfl rfl)
theorem dX6_taughtNext_78 : decode cX6_taughtNext 78 = .ok (.iload_n 3, 1) := dk_29 (dk_at dksX6_taughtNext_3 7 rfl rfl)
theorem dX6_taughtNext_79 : decode cX6_taughtNext 79 = .ok (.invokevirtual 433, 3) := dk_182 1 177 (dk_at dksX6_taughtNext_3 8 rfl rfl)
theorem dX6_taughtNext_82 : decode cX6_taughtNext 82 = .ok (.ifCond .eq 5, 3) := dk_153 0 5 (dk_at dksX6_taughtNext_3 11 rfl rfl)
theorem dX6_taughtNext_85 : decode cX6_taughtNext 85 = .ok (.iload_n 3, 1) := dk_29 (dk_at dksX6_taughtNext_3 14 rfl rfl)
theorem dX6_taughtNext_86 : decode cX6_taughtNext 86 = .ok (.ireturn, 1) := dk_172 (dk_at dksX6_taughtNext_3 15 rfl rfl)
theorem dX6_taughtNext_87 : decode cX6_taughtNext 87 = .ok (.iinc 3 1, 3) := dk_132 3 1 (dk_at dksX6_taughtNext_3 16 rfl rfl)
theorem dX6_taughtNext_90 : decode cX6_taughtNext 90 = .ok (.goto (-75), 3) := dk_167 255 181 (dk_at dksX6_taughtNext_3 19 rfl rfl)
theorem dX6_taughtNext_93 : decode cX6_taughtNext 93 = .ok (.iconst (-1), 1) := dk_2 (dk_at dksX6_taughtNext_3 22 rfl rfl)
theorem dX6_taughtNext_94 : decode cX6_taughtNext 94 = .ok (.ireturn, 1) := dk_172 (dk_at dksX6_taughtNext_3 23 rfl rfl)
abbrev cX6_isOf : ByteArray := prog_22_method_42_code
def yX6_isOf : MethodName := ⟨RX6, "isOf", "(II)I"⟩
def dkwX6_isOf_1 : List UInt8 := [4, 126, 4, 160, 0, 7, 5, 167, 0, 4, 3, 172]
abbrev dktX6_isOf_1 : List UInt8 := dkwX6_isOf_1 ++ []
def dkwX6_isOf_0 : List UInt8 := [42, 27, 182, 1, 148, 28, 122, 4, 126, 4, 160, 0, 7, 4, 167, 0, 21, 42, 27, 182, 1, 151, 28, 122]
abbrev dktX6_isOf_0 : List UInt8 := dkwX6_isOf_0 ++ dktX6_isOf_1
theorem dksX6_isOf_0 : cX6_isOf.data.toList.drop 0 = dktX6_isOf_0 := by decide +kernel
theorem dksX6_isOf_1 : cX6_isOf.data.toList.drop 24 = dktX6_isOf_1 := dk_seg dksX6_isOf_0 24 rfl rfl
theorem dX6_isOf_0 : decode cX6_isOf 0 = .ok (.aload_n 0, 1) := dk_42 (dk_at dksX6_isOf_0 0 rfl rfl)
theorem dX6_isOf_1 : decode cX6_isOf 1 = .ok (.iload_n 1, 1) := dk_27 (dk_at dksX6_isOf_0 1 rfl rfl)
theorem dX6_isOf_2 : decode cX6_isOf 2 = .ok (.invokevirtual 404, 3) := dk_182 1 148 (dk_at dksX6_isOf_0 2 rfl rfl)
theorem dX6_isOf_5 : decode cX6_isOf 5 = .ok (.iload_n 2, 1) := dk_28 (dk_at dksX6_isOf_0 5 rfl rfl)
theorem dX6_isOf_6 : decode cX6_isOf 6 = .ok (.ishr, 1) := dk_122 (dk_at dksX6_isOf_0 6 rfl rfl)
theorem dX6_isOf_7 : decode cX6_isOf 7 = .ok (.iconst 1, 1) := dk_4 (dk_at dksX6_isOf_0 7 rfl rfl)
theorem dX6_isOf_8 : decode cX6_isOf 8 = .ok (.iand, 1) := dk_126 (dk_at dksX6_isOf_0 8 rfl rfl)
theorem dX6_isOf_9 : decode cX6_isOf 9 = .ok (.iconst 1, 1) := dk_4 (dk_at dksX6_isOf_0 9 rfl rfl)
theorem dX6_isOf_10 : decode cX6_isOf 10 = .ok (.if_icmp .ne 7, 3) := dk_160 0 7 (dk_at dksX6_isOf_0 10 rfl rfl)
theorem dX6_isOf_13 : decode cX6_isOf 13 = .ok (.iconst 1, 1) := dk_4 (dk_at dksX6_isOf_0 13 rfl rfl)
theorem dX6_isOf_14 : decode cX6_isOf 14 = .ok (.goto 21, 3) := dk_167 0 21 (dk_at dksX6_isOf_0 14 rfl rfl)
theorem dX6_isOf_17 : decode cX6_isOf 17 = .ok (.aload_n 0, 1) := dk_42 (dk_at dksX6_isOf_0 17 rfl rfl)
theorem dX6_isOf_18 : decode cX6_isOf 18 = .ok (.iload_n 1, 1) := dk_27 (dk_at dksX6_isOf_0 18 rfl rfl)
theorem dX6_isOf_19 : decode cX6_isOf 19 = .ok (.invokevirtual 407, 3) := dk_182 1 151 (dk_at dksX6_isOf_0 19 rfl rfl)
theorem dX6_isOf_22 : decode cX6_isOf 22 = .ok (.iload_n 2, 1) := dk_28 (dk_at dksX6_isOf_0 22 rfl rfl)
theorem dX6_isOf_23 : decode cX6_isOf 23 = .ok (.ishr, 1) := dk_122 (dk_at dksX6_isOf_0 23 rfl rfl)
theorem dX6_isOf_24 : decode cX6_isOf 24 = .ok (.iconst 1, 1) := dk_4 (dk_at dksX6_isOf_1 0 rfl rfl)
theorem dX6_isOf_25 : decode cX6_isOf 25 = .ok (.iand, 1) := dk_126 (dk_at dksX6_isOf_1 1 rfl rfl)
theorem dX6_isOf_26 : decode cX6_isOf 26 = .ok (.iconst 1, 1) := dk_4 (dk_at dksX6_isOf_1 2 rfl rfl)
theorem dX6_isOf_27 : decode cX6_isOf 27 = .ok (.if_icmp .ne 7, 3) := dk_160 0 7 (dk_at dksX6_isOf_1 3 rfl rfl)
theorem dX6_isOf_30 : decode cX6_isOf 30 = .ok (.iconst 2, 1) := dk_5 (dk_at dksX6_isOf_1 6 rfl rfl)
theorem dX6_isOf_31 : decode cX6_isOf 31 = .ok (.goto 4, 3) := dk_167 0 4 (dk_at dksX6_isOf_1 7 rfl rfl)
theorem dX6_isOf_34 : decode cX6_isOf 34 = .ok (.iconst 0, 1) := dk_3 (dk_at dksX6_isOf_1 10 rfl rfl)
theorem dX6_isOf_35 : decode cX6_isOf 35 = .ok (.ireturn, 1) := dk_172 (dk_at dksX6_isOf_1 11 rfl rfl)
abbrev cX6_holds : ByteArray := prog_22_method_49_code
def yX6_holds : MethodName := ⟨RX6, "holds", "(III)Z"⟩
def dkwX6_holds_7 : List UInt8 := [167, 255, 126, 42, 180, 0, 248, 3, 47, 10, 148, 154, 0, 7, 4, 167, 0, 4, 3, 172]
abbrev dktX6_holds_7 : List UInt8 := dkwX6_holds_7 ++ []
def dkwX6_holds_6 : List UInt8 := [180, 0, 248, 42, 180, 1, 160, 4, 100, 47, 101, 80, 167, 0, 9, 42, 21, 5, 182, 1, 171, 132, 4, 1]
abbrev dktX6_holds_6 : List UInt8 := dkwX6_holds_6 ++ dktX6_holds_7
def dkwX6_holds_5 : List UInt8 := [167, 0, 43, 21, 5, 16, 12, 160, 0, 30, 42, 180, 0, 248, 42, 180, 1, 160, 4, 100, 10, 42]
abbrev dktX6_holds_5 : List UInt8 := dkwX6_holds_5 ++ dktX6_holds_6
def dkwX6_holds_4 : List UInt8 := [100, 29, 182, 1, 167, 182, 1, 163, 167, 0, 58, 21, 5, 16, 13, 160, 0, 11, 42, 10, 182, 1, 163]
abbrev dktX6_holds_4 : List UInt8 := dkwX6_holds_4 ++ dktX6_holds_5
def dkwX6_holds_3 : List UInt8 := [17, 3, 232, 100, 133, 182, 1, 163, 167, 0, 82, 21, 5, 16, 40, 161, 0, 20, 42, 42, 21, 5, 16, 40]
abbrev dktX6_holds_3 : List UInt8 := dkwX6_holds_3 ++ dktX6_holds_4
def dkwX6_holds_2 : List UInt8 := [180, 0, 136, 17, 6, 64, 21, 4, 96, 46, 54, 5, 21, 5, 17, 3, 232, 161, 0, 17, 42, 21, 5]
abbrev dktX6_holds_2 : List UInt8 := dkwX6_holds_2 ++ dktX6_holds_3
def dkwX6_holds_1 : List UInt8 := [42, 180, 0, 130, 6, 27, 96, 46, 54, 4, 21, 4, 42, 180, 0, 133, 6, 27, 96, 46, 162, 0, 123, 42]
abbrev dktX6_holds_1 : List UInt8 := dkwX6_holds_1 ++ dktX6_holds_2
def dkwX6_holds_0 : List UInt8 := [42, 28, 181, 1, 157, 42, 27, 5, 160, 0, 7, 4, 167, 0, 4, 3, 181, 1, 56, 42, 3, 181, 1, 160]
abbrev dktX6_holds_0 : List UInt8 := dkwX6_holds_0 ++ dktX6_holds_1
theorem dksX6_holds_0 : cX6_holds.data.toList.drop 0 = dktX6_holds_0 := by decide +kernel
theorem dksX6_holds_1 : cX6_holds.data.toList.drop 24 = dktX6_holds_1 := dk_seg dksX6_holds_0 24 rfl rfl
theorem dksX6_holds_2 : cX6_holds.data.toList.drop 48 = dktX6_holds_2 := dk_seg dksX6_holds_1 24 rfl rfl
theorem dksX6_holds_3 : cX6_holds.data.toList.drop 71 = dktX6_holds_3 := dk_seg dksX6_holds_2 23 rfl rfl
theorem dksX6_holds_4 : cX6_holds.data.toList.drop 95 = dktX6_holds_4 := dk_seg dksX6_holds_3 24 rfl rfl
theorem dksX6_holds_5 : cX6_holds.data.toList.drop 118 = dktX6_holds_5 := dk_seg dksX6_holds_4 23 rfl rfl
theorem dksX6_holds_6 : cX6_holds.data.toList.drop 140 = dktX6_holds_6 := dk_seg dksX6_holds_5 22 rfl rfl
theorem dksX6_holds_7 : cX6_holds.data.toList.drop 164 = dktX6_holds_7 := dk_seg dksX6_holds_6 24 rfl rfl
theorem dX6_holds_0 : decode cX6_holds 0 = .ok (.aload_n 0, 1) := dk_42 (dk_at dksX6_holds_0 0 rfl rfl)
theorem dX6_holds_1 : decode cX6_holds 1 = .ok (.iload_n 2, 1) := dk_28 (dk_at dksX6_holds_0 1 rfl rfl)
theorem dX6_holds_2 : decode cX6_holds 2 = .ok (.putfield 413, 3) := dk_181 1 157 (dk_at dksX6_holds_0 2 rfl rfl)
theorem dX6_holds_5 : decode cX6_holds 5 = .ok (.aload_n 0, 1) := dk_42 (dk_at dksX6_holds_0 5 rfl rfl)
theorem dX6_holds_6 : decode cX6_holds 6 = .ok (.iload_n 1, 1) := dk_27 (dk_at dksX6_holds_0 6 rfl rfl)
theorem dX6_holds_7 : decode cX6_holds 7 = .ok (.iconst 2, 1) := dk_5 (dk_at dksX6_holds_0 7 rfl rfl)
theorem dX6_holds_8 : decode cX6_holds 8 = .ok (.if_icmp .ne 7, 3) := dk_160 0 7 (dk_at dksX6_holds_0 8 rfl rfl)
theorem dX6_holds_11 : decode cX6_holds 11 = .ok (.iconst 1, 1) := dk_4 (dk_at dksX6_holds_0 11 rfl rfl)
theorem dX6_holds_12 : decode cX6_holds 12 = .ok (.goto 4, 3) := dk_167 0 4 (dk_at dksX6_holds_0 12 rfl rfl)
theorem dX6_holds_15 : decode cX6_holds 15 = .ok (.iconst 0, 1) := dk_3 (dk_at dksX6_holds_0 15 rfl rfl)
theorem dX6_holds_16 : decode cX6_holds 16 = .ok (.putfield 312, 3) := dk_181 1 56 (dk_at dksX6_holds_0 16 rfl rfl)
theorem dX6_holds_19 : decode cX6_holds 19 = .ok (.aload_n 0, 1) := dk_42 (dk_at dksX6_holds_0 19 rfl rfl)
theorem dX6_holds_20 : decode cX6_holds 20 = .ok (.iconst 0, 1) := dk_3 (dk_at dksX6_holds_0 20 rfl rfl)
theorem dX6_holds_21 : decode cX6_holds 21 = .ok (.putfield 416, 3) := dk_181 1 160 (dk_at dksX6_holds_0 21 rfl rfl)
theorem dX6_holds_24 : decode cX6_holds 24 = .ok (.aload_n 0, 1) := dk_42 (dk_at dksX6_holds_1 0 rfl rfl)
theorem dX6_holds_25 : decode cX6_holds 25 = .ok (.getfield 130, 3) := dk_180 0 130 (dk_at dksX6_holds_1 1 rfl rfl)
theorem dX6_holds_28 : decode cX6_holds 28 = .ok (.iconst 3, 1) := dk_6 (dk_at dksX6_holds_1 4 rfl rfl)
theorem dX6_holds_29 : decode cX6_holds 29 = .ok (.iload_n 1, 1) := dk_27 (dk_at dksX6_holds_1 5 rfl rfl)
theorem dX6_holds_30 : decode cX6_holds 30 = .ok (.iadd, 1) := dk_96 (dk_at dksX6_holds_1 6 rfl rfl)
theorem dX6_holds_31 : decode cX6_holds 31 = .ok (.iaload, 1) := dk_46 (dk_at dksX6_holds_1 7 rfl rfl)
theorem dX6_holds_32 : decode cX6_holds 32 = .ok (.istore 4, 2) := dk_54 4 (dk_at dksX6_holds_1 8 rfl rfl)
theorem dX6_holds_34 : decode cX6_holds 34 = .ok (.iload 4, 2) := dk_21 4 (dk_at dksX6_holds_1 10 rfl rfl)
theorem dX6_holds_36 : decode cX6_holds 36 = .ok (.aload_n 0, 1) := dk_42 (dk_at dksX6_holds_1 12 rfl rfl)
theorem dX6_holds_37 : decode cX6_holds 37 = .ok (.getfield 133, 3) := dk_180 0 133 (dk_at dksX6_holds_1 13 rfl rfl)
theorem dX6_holds_40 : decode cX6_holds 40 = .ok (.iconst 3, 1) := dk_6 (dk_at dksX6_holds_1 16 rfl rfl)
theorem dX6_holds_41 : decode cX6_holds 41 = .ok (.iload_n 1, 1) := dk_27 (dk_at dksX6_holds_1 17 rfl rfl)
theorem dX6_holds_42 : decode cX6_holds 42 = .ok (.iadd, 1) := dk_96 (dk_at dksX6_holds_1 18 rfl rfl)
theorem dX6_holds_43 : decode cX6_holds 43 = .ok (.iaload, 1) := dk_46 (dk_at dksX6_holds_1 19 rfl rfl)
theorem dX6_holds_44 : decode cX6_holds 44 = .ok (.if_icmp .ge 123, 3) := dk_162 0 123 (dk_at dksX6_holds_1 20 rfl rfl)
theorem dX6_holds_47 : decode cX6_holds 47 = .ok (.aload_n 0, 1) := dk_42 (dk_at dksX6_holds_1 23 rfl rfl)
theorem dX6_holds_48 : decode cX6_holds 48 = .ok (.getfield 136, 3) := dk_180 0 136 (dk_at dksX6_holds_2 0 rfl rfl)
theorem dX6_holds_51 : decode cX6_holds 51 = .ok (.sipush 1600, 3) := dk_17 6 64 (dk_at dksX6_holds_2 3 rfl rfl)
theorem dX6_holds_54 : decode cX6_holds 54 = .ok (.iload 4, 2) := dk_21 4 (dk_at dksX6_holds_2 6 rfl rfl)
theorem dX6_holds_56 : decode cX6_holds 56 = .ok (.iadd, 1) := dk_96 (dk_at dksX6_holds_2 8 rfl rfl)
theorem dX6_holds_57 : decode cX6_holds 57 = .ok (.iaload, 1) := dk_46 (dk_at dksX6_holds_2 9 rfl rfl)
theorem dX6_holds_58 : decode cX6_holds 58 = .ok (.istore 5, 2) := dk_54 5 (dk_at dksX6_holds_2 10 rfl rfl)
theorem dX6_holds_60 : decode cX6_holds 60 = .ok (.iload 5, 2) := dk_21 5 (dk_at dksX6_holds_2 12 rfl rfl)
theorem dX6_holds_62 : decode cX6_holds 62 = .ok (.sipush 1000, 3) := dk_17 3 232 (dk_at dksX6_holds_2 14 rfl rfl)
theorem dX6_holds_65 : decode cX6_holds 65 = .ok (.if_icmp .lt 17, 3) := dk_161 0 17 (dk_at dksX6_holds_2 17 rfl rfl)
theorem dX6_holds_68 : decode cX6_holds 68 = .ok (.aload_n 0, 1) := dk_42 (dk_at dksX6_holds_2 20 rfl rfl)
theorem dX6_holds_69 : decode cX6_holds 69 = .ok (.iload 5, 2) := dk_21 5 (dk_at dksX6_holds_2 21 rfl rfl)
theorem dX6_holds_71 : decode cX6_holds 71 = .ok (.sipush 1000, 3) := dk_17 3 232 (dk_at dksX6_holds_3 0 rfl rfl)
theorem dX6_holds_74 : decode cX6_holds 74 = .ok (.isub, 1) := dk_100 (dk_at dksX6_holds_3 3 rfl rfl)
theorem dX6_holds_75 : decode cX6_holds 75 = .ok (.i2l, 1) := dk_133 (dk_at dksX6_holds_3 4 rfl rfl)
theorem dX6_holds_76 : decode cX6_holds 76 = .ok (.invokevirtual 419, 3) := dk_182 1 163 (dk_at dksX6_holds_3 5 rfl rfl)
theorem dX6_holds_79 : decode cX6_holds 79 = .ok (.goto 82, 3) := dk_167 0 82 (dk_at dksX6_holds_3 8 rfl rfl)
theorem dX6_holds_82 : decode cX6_holds 82 = .ok (.iload 5, 2) := dk_21 5 (dk_at dksX6_holds_3 11 rfl rfl)
theorem dX6_holds_84 : decode cX6_holds 84 = .ok (.bipush 40, 2) := dk_16 40 (dk_at dksX6_holds_3 13 rfl rfl)
theorem dX6_holds_86 : decode cX6_holds 86 = .ok (.if_icmp .lt 20, 3) := dk_161 0 20 (dk_at dksX6_holds_3 15 rfl rfl)
theorem dX6_holds_89 : decode cX6_holds 89 = .ok (.aload_n 0, 1) := dk_42 (dk_at dksX6_holds_3 18 rfl rfl)
theorem dX6_holds_90 : decode cX6_holds 90 = .ok (.aload_n 0, 1) := dk_42 (dk_at dksX6_holds_3 19 rfl rfl)
theorem dX6_holds_91 : decode cX6_holds 91 = .ok (.iload 5, 2) := dk_21 5 (dk_at dksX6_holds_3 20 rfl rfl)
theorem dX6_holds_93 : decode cX6_holds 93 = .ok (.bipush 40, 2) := dk_16 40 (dk_at dksX6_holds_3 22 rfl rfl)
theorem dX6_holds_95 : decode cX6_holds 95 = .ok (.isub, 1) := dk_100 (dk_at dksX6_holds_4 0 rfl rfl)
theorem dX6_holds_96 : decode cX6_holds 96 = .ok (.iload_n 3, 1) := dk_29 (dk_at dksX6_holds_4 1 rfl rfl)
theorem dX6_holds_97 : decode cX6_holds 97 = .ok (.invokevirtual 423, 3) := dk_182 1 167 (dk_at dksX6_holds_4 2 rfl rfl)
theorem dX6_holds_100 : decode cX6_holds 100 = .ok (.invokevirtual 419, 3) := dk_182 1 163 (dk_at dksX6_holds_4 5 rfl rfl)
theorem dX6_holds_103 : decode cX6_holds 103 = .ok (.goto 58, 3) := dk_167 0 58 (dk_at dksX6_holds_4 8 rfl rfl)
theorem dX6_holds_106 : decode cX6_holds 106 = .ok (.iload 5, 2) := dk_21 5 (dk_at dksX6_holds_4 11 rfl rfl)
theorem dX6_holds_108 : decode cX6_holds 108 = .ok (.bipush 13, 2) := dk_16 13 (dk_at dksX6_holds_4 13 rfl rfl)
theorem dX6_holds_110 : decode cX6_holds 110 = .ok (.if_icmp .ne 11, 3) := dk_160 0 11 (dk_at dksX6_holds_4 15 rfl rfl)
theorem dX6_holds_113 : decode cX6_holds 113 = .ok (.aload_n 0, 1) := dk_42 (dk_at dksX6_holds_4 18 rfl rfl)
theorem dX6_holds_114 : decode cX6_holds 114 = .ok (.lconst 1, 1) := dk_10 (dk_at dksX6_holds_4 19 rfl rfl)
theorem dX6_holds_115 : decode cX6_holds 115 = .ok (.invokevirtual 419, 3) := dk_182 1 163 (dk_at dksX6_holds_4 20 rfl rfl)
theorem dX6_holds_118 : decode cX6_holds 118 = .ok (.goto 43, 3) := dk_167 0 43 (dk_at dksX6_holds_5 0 rfl rfl)
theorem dX6_holds_121 : decode cX6_holds 121 = .ok (.iload 5, 2) := dk_21 5 (dk_at dksX6_holds_5 3 rfl rfl)
theorem dX6_holds_123 : decode cX6_holds 123 = .ok (.bipush 12, 2) := dk_16 12 (dk_at dksX6_holds_5 5 rfl rfl)
theorem dX6_holds_125 : decode cX6_holds 125 = .ok (.if_icmp .ne 30, 3) := dk_160 0 30 (dk_at dksX6_holds_5 7 rfl rfl)
theorem dX6_holds_128 : decode cX6_holds 128 = .ok (.aload_n 0, 1) := dk_42 (dk_at dksX6_holds_5 10 rfl rfl)
theorem dX6_holds_129 : decode cX6_holds 129 = .ok (.getfield 248, 3) := dk_180 0 248 (dk_at dksX6_holds_5 11 rfl rfl)
theorem dX6_holds_132 : decode cX6_holds 132 = .ok (.aload_n 0, 1) := dk_42 (dk_at dksX6_holds_5 14 rfl rfl)
theorem dX6_holds_133 : decode cX6_holds 133 = .ok (.getfield 416, 3) := dk_180 1 160 (dk_at dksX6_holds_5 15 rfl rfl)
theorem dX6_holds_136 : decode cX6_holds 136 = .ok (.iconst 1, 1) := dk_4 (dk_at dksX6_holds_5 18 rfl rfl)
theorem dX6_holds_137 : decode cX6_holds 137 = .ok (.isub, 1) := dk_100 (dk_at dksX6_holds_5 19 rfl rfl)
theorem dX6_holds_138 : decode cX6_holds 138 = .ok (.lconst 1, 1) := dk_10 (dk_at dksX6_holds_5 20 rfl rfl)
theorem dX6_holds_139 : decode cX6_holds 139 = .ok (.aload_n 0, 1) := dk_42 (dk_at dksX6_holds_5 21 rfl rfl)
theorem dX6_holds_140 : decode cX6_holds 140 = .ok (.getfield 248, 3) := dk_180 0 248 (dk_at dksX6_holds_6 0 rfl rfl)
theorem dX6_holds_143 : decode cX6_holds 143 = .ok (.aload_n 0, 1) := dk_42 (dk_at dksX6_holds_6 3 rfl rfl)
theorem dX6_holds_144 : decode cX6_holds 144 = .ok (.getfield 416, 3) := dk_180 1 160 (dk_at dksX6_holds_6 4 rfl rfl)
theorem dX6_holds_147 : decode cX6_holds 147 = .ok (.iconst 1, 1) := dk_4 (dk_at dksX6_holds_6 7 rfl rfl)
theorem dX6_holds_148 : decode cX6_holds 148 = .ok (.isub, 1) := dk_100 (dk_at dksX6_holds_6 8 rfl rfl)
theorem dX6_holds_149 : decode cX6_holds 149 = .ok (.laload, 1) := dk_47 (dk_at dksX6_holds_6 9 rfl rfl)
theorem dX6_holds_150 : decode cX6_holds 150 = .ok (.lsub, 1) := dk_101 (dk_at dksX6_holds_6 10 rfl rfl)
theorem dX6_holds_151 : decode cX6_holds 151 = .ok (.lastore, 1) := dk_80 (dk_at dksX6_holds_6 11 rfl rfl)
theorem dX6_holds_152 : decode cX6_holds 152 = .ok (.goto 9, 3) := dk_167 0 9 (dk_at dksX6_holds_6 12 rfl rfl)
theorem dX6_holds_155 : decode cX6_holds 155 = .ok (.aload_n 0, 1) := dk_42 (dk_at dksX6_holds_6 15 rfl rfl)
theorem dX6_holds_156 : decode cX6_holds 156 = .ok (.iload 5, 2) := dk_21 5 (dk_at dksX6_holds_6 16 rfl rfl)
theorem dX6_holds_158 : decode cX6_holds 158 = .ok (.invokevirtual 427, 3) := dk_182 1 171 (dk_at dksX6_holds_6 18 rfl rfl)
theorem dX6_holds_161 : decode cX6_holds 161 = .ok (.iinc 4 1, 3) := dk_132 4 1 (dk_at dksX6_holds_6 21 rfl rfl)
theorem dX6_holds_164 : decode cX6_holds 164 = .ok (.goto (-130), 3) := dk_167 255 126 (dk_at dksX6_holds_7 0 rfl rfl)
theorem dX6_holds_167 : decode cX6_holds 167 = .ok (.aload_n 0, 1) := dk_42 (dk_at dksX6_holds_7 3 rfl rfl)
theorem dX6_holds_168 : decode cX6_holds 168 = .ok (.getfield 248, 3) := dk_180 0 248 (dk_at dksX6_holds_7 4 rfl rfl)
theorem dX6_holds_171 : decode cX6_holds 171 = .ok (.iconst 0, 1) := dk_3 (dk_at dksX6_holds_7 7 rfl rfl)
theorem dX6_holds_172 : decode cX6_holds 172 = .ok (.laload, 1) := dk_47 (dk_at dksX6_holds_7 8 rfl rfl)
theorem dX6_holds_173 : decode cX6_holds 173 = .ok (.lconst 1, 1) := dk_10 (dk_at dksX6_holds_7 9 rfl rfl)
theorem dX6_holds_174 : decode cX6_holds 174 = .ok (.lcmp, 1) := dk_148 (dk_at dksX6_holds_7 10 rfl rfl)
theorem dX6_holds_175 : decode cX6_holds 175 = .ok (.ifCond .ne 7, 3) := dk_154 0 7 (dk_at dksX6_holds_7 11 rfl rfl)
theorem dX6_holds_178 : decode cX6_holds 178 = .ok (.iconst 1, 1) := dk_4 (dk_at dksX6_holds_7 14 rfl rfl)
theorem dX6_holds_179 : decode cX6_holds 179 = .ok (.goto 4, 3) := dk_167 0 4 (dk_at dksX6_holds_7 15 rfl rfl)
theorem dX6_holds_182 : decode cX6_holds 182 = .ok (.iconst 0, 1) := dk_3 (dk_at dksX6_holds_7 18 rfl rfl)
theorem dX6_holds_183 : decode cX6_holds 183 = .ok (.ireturn, 1) := dk_172 (dk_at dksX6_holds_7 19 rfl rfl)
abbrev cX6_qPuts : ByteArray := prog_22_method_114_code
def yX6_qPuts : MethodName := ⟨RX6, "qPuts", "(J)V"⟩
def dkwX6_qPuts_0 : List UInt8 := [42, 180, 0, 248, 42, 180, 1, 160, 31, 80, 42, 89, 180, 1, 160, 4, 96, 181, 1, 160, 177]
abbrev dktX6_qPuts_0 : List UInt8 := dkwX6_qPuts_0 ++ []
theorem dksX6_qPuts_0 : cX6_qPuts.data.toList.drop 0 = dktX6_qPuts_0 := by decide +kernel
theorem dX6_qPuts_0 : decode cX6_qPuts 0 = .ok (.aload_n 0, 1) := dk_42 (dk_at dksX6_qPuts_0 0 rfl rfl)
theorem dX6_qPuts_1 : decode cX6_qPuts 1 = .ok (.getfield 248, 3) := dk_180 0 248 (dk_at dksX6_qPuts_0 1 rfl rfl)
theorem dX6_qPuts_4 : decode cX6_qPuts 4 = .ok (.aload_n 0, 1) := dk_42 (dk_at dksX6_qPuts_0 4 rfl rfl)
theorem dX6_qPuts_5 : decode cX6_qPuts 5 = .ok (.getfield 416, 3) := dk_180 1 160 (dk_at dksX6_qPuts_0 5 rfl rfl)
theorem dX6_qPuts_8 : decode cX6_qPuts 8 = .ok (.lload_n 1, 1) := dk_31 (dk_at dksX6_qPuts_0 8 rfl rfl)
theorem dX6_qPuts_9 : decode cX6_qPuts 9 = .ok (.lastore, 1) := dk_80 (dk_at dksX6_qPuts_0 9 rfl rfl)
theorem dX6_qPuts_10 : decode cX6_qPuts 10 = .ok (.aload_n 0, 1) := dk_42 (dk_at dksX6_qPuts_0 10 rfl rfl)
theorem dX6_qPuts_11 : decode cX6_qPuts 11 = .ok (.dup, 1) := dk_89 (dk_at dksX6_qPuts_0 11 rfl rfl)
theorem dX6_qPuts_12 : decode cX6_qPuts 12 = .ok (.getfield 416, 3) := dk_180 1 160 (dk_at dksX6_qPuts_0 12 rfl rfl)
theorem dX6_qPuts_15 : decode cX6_qPuts 15 = .ok (.iconst 1, 1) := dk_4 (dk_at dksX6_qPuts_0 15 rfl rfl)
theorem dX6_qPuts_16 : decode cX6_qPuts 16 = .ok (.iadd, 1) := dk_96 (dk_at dksX6_qPuts_0 16 rfl rfl)
theorem dX6_qPuts_17 : decode cX6_qPuts 17 = .ok (.putfield 416, 3) := dk_181 1 160 (dk_at dksX6_qPuts_0 17 rfl rfl)
theorem dX6_qPuts_20 : decode cX6_qPuts 20 = .ok (.return_, 1) := dk_177 (dk_at dksX6_qPuts_0 20 rfl rfl)
abbrev cX6_qPartOf : ByteArray := prog_22_method_116_code
def yX6_qPartOf : MethodName := ⟨RX6, "qPartOf", "(II)J"⟩
def dkwX6_qPartOf_9 : List UInt8 := [173, 42, 42, 180, 1, 157, 182, 1, 151, 28, 122, 4, 126, 133, 173]
abbrev dktX6_qPartOf_9 : List UInt8 := dkwX6_qPartOf_9 ++ []
def dkwX6_qPartOf_8 : List UInt8 := [180, 1, 157, 182, 1, 197, 133, 173, 28, 133, 173, 42, 42, 180, 1, 157, 182, 1, 148, 28, 122, 4, 126, 133]
abbrev dktX6_qPartOf_8 : List UInt8 := dkwX6_qPartOf_8 ++ dktX6_qPartOf_9
def dkwX6_qPartOf_7 : List UInt8 := [180, 1, 157, 182, 1, 154, 96, 46, 133, 173, 42, 42, 180, 1, 157, 182, 1, 194, 133, 173, 42, 42]
abbrev dktX6_qPartOf_7 : List UInt8 := dkwX6_qPartOf_7 ++ dktX6_qPartOf_8
def dkwX6_qPartOf_6 : List UInt8 := [180, 1, 157, 182, 1, 154, 182, 1, 251, 184, 1, 227, 133, 173, 42, 180, 0, 115, 16, 8, 42, 42]
abbrev dktX6_qPartOf_6 : List UInt8 := dkwX6_qPartOf_6 ++ dktX6_qPartOf_7
def dkwX6_qPartOf_5 : List UInt8 := [133, 173, 42, 180, 0, 139, 3, 46, 133, 173, 42, 180, 0, 112, 16, 8, 28, 96, 46, 133, 173, 42, 42, 42]
abbrev dktX6_qPartOf_5 : List UInt8 := dkwX6_qPartOf_5 ++ dktX6_qPartOf_6
def dkwX6_qPartOf_4 : List UInt8 := [5, 160, 0, 12, 42, 28, 182, 1, 245, 133, 167, 0, 15, 42, 42, 180, 1, 157, 182, 1, 151, 184, 1, 227]
abbrev dktX6_qPartOf_4 : List UInt8 := dkwX6_qPartOf_4 ++ dktX6_qPartOf_5
def dkwX6_qPartOf_3 : List UInt8 := [182, 1, 242, 133, 167, 0, 15, 42, 42, 180, 1, 157, 182, 1, 148, 184, 1, 227, 133, 173, 42, 180, 1, 56]
abbrev dktX6_qPartOf_3 : List UInt8 := dkwX6_qPartOf_3 ++ dktX6_qPartOf_4
def dkwX6_qPartOf_2 : List UInt8 := [42, 180, 0, 115, 16, 8, 42, 180, 1, 157, 96, 46, 133, 173, 42, 180, 1, 56, 5, 160, 0, 12, 42, 28]
abbrev dktX6_qPartOf_2 : List UInt8 := dkwX6_qPartOf_2 ++ dktX6_qPartOf_3
def dkwX6_qPartOf_1 : List UInt8 := [170, 0, 0, 0, 0, 0, 224, 0, 0, 0, 0, 0, 0, 0, 10, 0, 0, 0, 59, 0, 0, 0, 73, 0, 0, 0, 103, 0, 0, 0, 133, 0, 0, 0, 141, 0, 0, 0, 152, 0, 0, 0, 169, 0, 0, 0, 187, 0, 0, 0, 197, 0, 0, 0, 207, 0, 0, 0, 210]
abbrev dktX6_qPartOf_1 : List UInt8 := dkwX6_qPartOf_1 ++ dktX6_qPartOf_2
def dkwX6_qPartOf_0 : List UInt8 := [27]
abbrev dktX6_qPartOf_0 : List UInt8 := dkwX6_qPartOf_0 ++ dktX6_qPartOf_1
theorem dksX6_qPartOf_0 : cX6_qPartOf.data.toList.drop 0 = dktX6_qPartOf_0 := by decide +kernel
theorem dksX6_qPartOf_1 : cX6_qPartOf.data.toList.drop 1 = dktX6_qPartOf_1 := dk_seg dksX6_qPartOf_0 1 rfl rfl
theorem dksX6_qPartOf_2 : cX6_qPartOf.data.toList.drop 60 = dktX6_qPartOf_2 := dk_seg dksX6_qPartOf_1 59 rfl rfl
theorem dksX6_qPartOf_3 : cX6_qPartOf.data.toList.drop 84 = dktX6_qPartOf_3 := dk_seg dksX6_qPartOf_2 24 rfl rfl
theorem dksX6_qPartOf_4 : cX6_qPartOf.data.toList.drop 108 = dktX6_qPartOf_4 := dk_seg dksX6_qPartOf_3 24 rfl rfl
theorem dksX6_qPartOf_5 : cX6_qPartOf.data.toList.drop 132 = dktX6_qPartOf_5 := dk_seg dksX6_qPartOf_4 24 rfl rfl
theorem dksX6_qPartOf_6 : cX6_qPartOf.data.toList.drop 156 = dktX6_qPartOf_6 := dk_seg dksX6_qPartOf_5 24 rfl rfl
theorem dksX6_qPartOf_7 : cX6_qPartOf.data.toList.drop 178 = dktX6_qPartOf_7 := dk_seg dksX6_qPartOf_6 22 rfl rfl
theorem dksX6_qPartOf_8 : cX6_qPartOf.data.toList.drop 200 = dktX6_qPartOf_8 := dk_seg dksX6_qPartOf_7 22 rfl rfl
theorem dksX6_qPartOf_9 : cX6_qPartOf.data.toList.drop 224 = dktX6_qPartOf_9 := dk_seg dksX6_qPartOf_8 24 rfl rfl
theorem dX6_qPartOf_0 : decode cX6_qPartOf 0 = .ok (.iload_n 1, 1) := dk_27 (dk_at dksX6_qPartOf_0 0 rfl rfl)
theorem dX6_qPartOf_1 : decode cX6_qPartOf 1 = .ok (.tableswitch 224 0 10 #[59, 73, 103, 133, 141, 152, 169, 187, 197, 207, 210], 59) := by decide +kernel
theorem dX6_qPartOf_60 : decode cX6_qPartOf 60 = .ok (.aload_n 0, 1) := dk_42 (dk_at dksX6_qPartOf_2 0 rfl rfl)
theorem dX6_qPartOf_61 : decode cX6_qPartOf 61 = .ok (.getfield 115, 3) := dk_180 0 115 (dk_at dksX6_qPartOf_2 1 rfl rfl)
theorem dX6_qPartOf_64 : decode cX6_qPartOf 64 = .ok (.bipush 8, 2) := dk_16 8 (dk_at dksX6_qPartOf_2 4 rfl rfl)
theorem dX6_qPartOf_66 : decode cX6_qPartOf 66 = .ok (.aload_n 0, 1) := dk_42 (dk_at dksX6_qPartOf_2 6 rfl rfl)
theorem dX6_qPartOf_67 : decode cX6_qPartOf 67 = .ok (.getfield 413, 3) := dk_180 1 157 (dk_at dksX6_qPartOf_2 7 rfl rfl)
theorem dX6_qPartOf_70 : decode cX6_qPartOf 70 = .ok (.iadd, 1) := dk_96 (dk_at dksX6_qPartOf_2 10 rfl rfl)
theorem dX6_qPartOf_71 : decode cX6_qPartOf 71 = .ok (.iaload, 1) := dk_46 (dk_at dksX6_qPartOf_2 11 rfl rfl)
theorem dX6_qPartOf_72 : decode cX6_qPartOf 72 = .ok (.i2l, 1) := dk_133 (dk_at dksX6_qPartOf_2 12 rfl rfl)
theorem dX6_qPartOf_73 : decode cX6_qPartOf 73 = .ok (.lreturn, 1) := dk_173 (dk_at dksX6_qPartOf_2 13 rfl rfl)
theorem dX6_qPartOf_74 : decode cX6_qPartOf 74 = .ok (.aload_n 0, 1) := dk_42 (dk_at dksX6_qPartOf_2 14 rfl rfl)
theorem dX6_qPartOf_75 : decode cX6_qPartOf 75 = .ok (.getfield 312, 3) := dk_180 1 56 (dk_at dksX6_qPartOf_2 15 rfl rfl)
theorem dX6_qPartOf_78 : decode cX6_qPartOf 78 = .ok (.iconst 2, 1) := dk_5 (dk_at dksX6_qPartOf_2 18 rfl rfl)
theorem dX6_qPartOf_79 : decode cX6_qPartOf 79 = .ok (.if_icmp .ne 12, 3) := dk_160 0 12 (dk_at dksX6_qPartOf_2 19 rfl rfl)
theorem dX6_qPartOf_82 : decode cX6_qPartOf 82 = .ok (.aload_n 0, 1) := dk_42 (dk_at dksX6_qPartOf_2 22 rfl rfl)
theorem dX6_qPartOf_83 : decode cX6_qPartOf 83 = .ok (.iload_n 2, 1) := dk_28 (dk_at dksX6_qPartOf_2 23 rfl rfl)
theorem dX6_qPartOf_84 : decode cX6_qPartOf 84 = .ok (.invokevirtual 498, 3) := dk_182 1 242 (dk_at dksX6_qPartOf_3 0 rfl rfl)
theorem dX6_qPartOf_87 : decode cX6_qPartOf 87 = .ok (.i2l, 1) := dk_133 (dk_at dksX6_qPartOf_3 3 rfl rfl)
theorem dX6_qPartOf_88 : decode cX6_qPartOf 88 = .ok (.goto 15, 3) := dk_167 0 15 (dk_at dksX6_qPartOf_3 4 rfl rfl)
theorem dX6_qPartOf_91 : decode cX6_qPartOf 91 = .ok (.aload_n 0, 1) := dk_42 (dk_at dksX6_qPartOf_3 7 rfl rfl)
theorem dX6_qPartOf_92 : decode cX6_qPartOf 92 = .ok (.aload_n 0, 1) := dk_42 (dk_at dksX6_qPartOf_3 8 rfl rfl)
theorem dX6_qPartOf_93 : decode cX6_qPartOf 93 = .ok (.getfield 413, 3) := dk_180 1 157 (dk_at dksX6_qPartOf_3 9 rfl rfl)
theorem dX6_qPartOf_96 : decode cX6_qPartOf 96 = .ok (.invokevirtual 404, 3) := dk_182 1 148 (dk_at dksX6_qPartOf_3 12 rfl rfl)
theorem dX6_qPartOf_99 : decode cX6_qPartOf 99 = .ok (.invokestatic 483, 3) := dk_184 1 227 (dk_at dksX6_qPartOf_3 15 rfl rfl)
theorem dX6_qPartOf_102 : decode cX6_qPartOf 102 = .ok (.i2l, 1) := dk_133 (dk_at dksX6_qPartOf_3 18 rfl rfl)
theorem dX6_qPartOf_103 : decode cX6_qPartOf 103 = .ok (.lreturn, 1) := dk_173 (dk_at dksX6_qPartOf_3 19 rfl rfl)
theorem dX6_qPartOf_104 : decode cX6_qPartOf 104 = .ok (.aload_n 0, 1) := dk_42 (dk_at dksX6_qPartOf_3 20 rfl rfl)
theorem dX6_qPartOf_105 : decode cX6_qPartOf 105 = .ok (.getfield 312, 3) := dk_180 1 56 (dk_at dksX6_qPartOf_3 21 rfl rfl)
theorem dX6_qPartOf_108 : decode cX6_qPartOf 108 = .ok (.iconst 2, 1) := dk_5 (dk_at dksX6_qPartOf_4 0 rfl rfl)
theorem dX6_qPartOf_109 : decode cX6_qPartOf 109 = .ok (.if_icmp .ne 12, 3) := dk_160 0 12 (dk_at dksX6_qPartOf_4 1 rfl rfl)
theorem dX6_qPartOf_112 : decode cX6_qPartOf 112 = .ok (.aload_n 0, 1) := dk_42 (dk_at dksX6_qPartOf_4 4 rfl rfl)
theorem dX6_qPartOf_113 : decode cX6_qPartOf 113 = .ok (.iload_n 2, 1) := dk_28 (dk_at dksX6_qPartOf_4 5 rfl rfl)
theorem dX6_qPartOf_114 : decode cX6_qPartOf 114 = .ok (.invokevirtual 501, 3) := dk_182 1 245 (dk_at dksX6_qPartOf_4 6 rfl rfl)
theorem dX6_qPartOf_117 : decode cX6_qPartOf 117 = .ok (.i2l, 1) := dk_133 (dk_at dksX6_qPartOf_4 9 rfl rfl)
theorem dX6_qPartOf_118 : decode cX6_qPartOf 118 = .ok (.goto 15, 3) := dk_167 0 15 (dk_at dksX6_qPartOf_4 10 rfl rfl)
theorem dX6_qPartOf_121 : decode cX6_qPartOf 121 = .ok (.aload_n 0, 1) := dk_42 (dk_at dksX6_qPartOf_4 13 rfl rfl)
theorem dX6_qPartOf_122 : decode cX6_qPartOf 122 = .ok (.aload_n 0, 1) := dk_42 (dk_at dksX6_qPartOf_4 14 rfl rfl)
theorem dX6_qPartOf_123 : decode cX6_qPartOf 123 = .ok (.getfield 413, 3) := dk_180 1 157 (dk_at dksX6_qPartOf_4 15 rfl rfl)
theorem dX6_qPartOf_126 : decode cX6_qPartOf 126 = .ok (.invokevirtual 407, 3) := dk_182 1 151 (dk_at dksX6_qPartOf_4 18 rfl rfl)
theorem dX6_qPartOf_129 : decode cX6_qPartOf 129 = .ok (.invokestatic 483, 3) := dk_184 1 227 (dk_at dksX6_qPartOf_4 21 rfl rfl)
theorem dX6_qPartOf_132 : decode cX6_qPartOf 132 = .ok (.i2l, 1) := dk_133 (dk_at dksX6_qPartOf_5 0 rfl rfl)
theorem dX6_qPartOf_133 : decode cX6_qPartOf 133 = .ok (.lreturn, 1) := dk_173 (dk_at dksX6_qPartOf_5 1 rfl rfl)
theorem dX6_qPartOf_134 : decode cX6_qPartOf 134 = .ok (.aload_n 0, 1) := dk_42 (dk_at dksX6_qPartOf_5 2 rfl rfl)
theorem dX6_qPartOf_135 : decode cX6_qPartOf 135 = .ok (.getfield 139, 3) := dk_180 0 139 (dk_at dksX6_qPartOf_5 3 rfl rfl)
theorem dX6_qPartOf_138 : decode cX6_qPartOf 138 = .ok (.iconst 0, 1) := dk_3 (dk_at dksX6_qPartOf_5 6 rfl rfl)
theorem dX6_qPartOf_139 : decode cX6_qPartOf 139 = .ok (.iaload, 1) := dk_46 (dk_at dksX6_qPartOf_5 7 rfl rfl)
theorem dX6_qPartOf_140 : decode cX6_qPartOf 140 = .ok (.i2l, 1) := dk_133 (dk_at dksX6_qPartOf_5 8 rfl rfl)
theorem dX6_qPartOf_141 : decode cX6_qPartOf 141 = .ok (.lreturn, 1) := dk_173 (dk_at dksX6_qPartOf_5 9 rfl rfl)
theorem dX6_qPartOf_142 : decode cX6_qPartOf 142 = .ok (.aload_n 0, 1) := dk_42 (dk_at dksX6_qPartOf_5 10 rfl rfl)
theorem dX6_qPartOf_143 : decode cX6_qPartOf 143 = .ok (.getfield 112, 3) := dk_180 0 112 (dk_at dksX6_qPartOf_5 11 rfl rfl)
theorem dX6_qPartOf_146 : decode cX6_qPartOf 146 = .ok (.bipush 8, 2) := dk_16 8 (dk_at dksX6_qPartOf_5 14 rfl rfl)
theorem dX6_qPartOf_148 : decode cX6_qPartOf 148 = .ok (.iload_n 2, 1) := dk_28 (dk_at dksX6_qPartOf_5 16 rfl rfl)
theorem dX6_qPartOf_149 : decode cX6_qPartOf 149 = .ok (.iadd, 1) := dk_96 (dk_at dksX6_qPartOf_5 17 rfl rfl)
theorem dX6_qPartOf_150 : decode cX6_qPartOf 150 = .ok (.iaload, 1) := dk_46 (dk_at dksX6_qPartOf_5 18 rfl rfl)
theorem dX6_qPartOf_151 : decode cX6_qPartOf 151 = .ok (.i2l, 1) := dk_133 (dk_at dksX6_qPartOf_5 19 rfl rfl)
theorem dX6_qPartOf_152 : decode cX6_qPartOf 152 = .ok (.lreturn, 1) := dk_173 (dk_at dksX6_qPartOf_5 20 rfl rfl)
theorem dX6_qPartOf_153 : decode cX6_qPartOf 153 = .ok (.aload_n 0, 1) := dk_42 (dk_at dksX6_qPartOf_5 21 rfl rfl)
theorem dX6_qPartOf_154 : decode cX6_qPartOf 154 = .ok (.aload_n 0, 1) := dk_42 (dk_at dksX6_qPartOf_5 22 rfl rfl)
theorem dX6_qPartOf_155 : decode cX6_qPartOf 155 = .ok (.aload_n 0, 1) := dk_42 (dk_at dksX6_qPartOf_5 23 rfl rfl)
theorem dX6_qPartOf_156 : decode cX6_qPartOf 156 = .ok (.getfield 413, 3) := dk_180 1 157 (dk_at dksX6_qPartOf_6 0 rfl rfl)
theorem dX6_qPartOf_159 : decode cX6_qPartOf 159 = .ok (.invokevirtual 410, 3) := dk_182 1 154 (dk_at dksX6_qPartOf_6 3 rfl rfl)
theorem dX6_qPartOf_162 : decode cX6_qPartOf 162 = .ok (.invokevirtual 507, 3) := dk_182 1 251 (dk_at dksX6_qPartOf_6 6 rfl rfl)
theorem dX6_qPartOf_165 : decode cX6_qPartOf 165 = .ok (.invokestatic 483, 3) := dk_184 1 227 (dk_at dksX6_qPartOf_6 9 rfl rfl)
theorem dX6_qPartOf_168 : decode cX6_qPartOf 168 = .ok (.i2l, 1) := dk_133 (dk_at dksX6_qPartOf_6 12 rfl rfl)
theorem dX6_qPartOf_169 : decode cX6_qPartOf 169 = .ok (.lreturn, 1) := dk_173 (dk_at dksX6_qPartOf_6 13 rfl rfl)
theorem dX6_qPartOf_170 : decode cX6_qPartOf 170 = .ok (.aload_n 0, 1) := dk_42 (dk_at dksX6_qPartOf_6 14 rfl rfl)
theorem dX6_qPartOf_171 : decode cX6_qPartOf 171 = .ok (.getfield 115, 3) := dk_180 0 115 (dk_at dksX6_qPartOf_6 15 rfl rfl)
theorem dX6_qPartOf_174 : decode cX6_qPartOf 174 = .ok (.bipush 8, 2) := dk_16 8 (dk_at dksX6_qPartOf_6 18 rfl rfl)
theorem dX6_qPartOf_176 : decode cX6_qPartOf 176 = .ok (.aload_n 0, 1) := dk_42 (dk_at dksX6_qPartOf_6 20 rfl rfl)
theorem dX6_qPartOf_177 : decode cX6_qPartOf 177 = .ok (.aload_n 0, 1) := dk_42 (dk_at dksX6_qPartOf_6 21 rfl rfl)
theorem dX6_qPartOf_178 : decode cX6_qPartOf 178 = .ok (.getfield 413, 3) := dk_180 1 157 (dk_at dksX6_qPartOf_7 0 rfl rfl)
theorem dX6_qPartOf_181 : decode cX6_qPartOf 181 = .ok (.invokevirtual 410, 3) := dk_182 1 154 (dk_at dksX6_qPartOf_7 3 rfl rfl)
theorem dX6_qPartOf_184 : decode cX6_qPartOf 184 = .ok (.iadd, 1) := dk_96 (dk_at dksX6_qPartOf_7 6 rfl rfl)
theorem dX6_qPartOf_185 : decode cX6_qPartOf 185 = .ok (.iaload, 1) := dk_46 (dk_at dksX6_qPartOf_7 7 rfl rfl)
theorem dX6_qPartOf_186 : decode cX6_qPartOf 186 = .ok (.i2l, 1) := dk_133 (dk_at dksX6_qPartOf_7 8 rfl rfl)
theorem dX6_qPartOf_187 : decode cX6_qPartOf 187 = .ok (.lreturn, 1) := dk_173 (dk_at dksX6_qPartOf_7 9 rfl rfl)
theorem dX6_qPartOf_188 : decode cX6_qPartOf 188 = .ok (.aload_n 0, 1) := dk_42 (dk_at dksX6_qPartOf_7 10 rfl rfl)
theorem dX6_qPartOf_189 : decode cX6_qPartOf 189 = .ok (.aload_n 0, 1) := dk_42 (dk_at dksX6_qPartOf_7 11 rfl rfl)
theorem dX6_qPartOf_190 : decode cX6_qPartOf 190 = .ok (.getfield 413, 3) := dk_180 1 157 (dk_at dksX6_qPartOf_7 12 rfl rfl)
theorem dX6_qPartOf_193 : decode cX6_qPartOf 193 = .ok (.invokevirtual 450, 3) := dk_182 1 194 (dk_at dksX6_qPartOf_7 15 rfl rfl)
theorem dX6_qPartOf_196 : decode cX6_qPartOf 196 = .ok (.i2l, 1) := dk_133 (dk_at dksX6_qPartOf_7 18 rfl rfl)
theorem dX6_qPartOf_197 : decode cX6_qPartOf 197 = .ok (.lreturn, 1) := dk_173 (dk_at dksX6_qPartOf_7 19 rfl rfl)
theorem dX6_qPartOf_198 : decode cX6_qPartOf 198 = .ok (.aload_n 0, 1) := dk_42 (dk_at dksX6_qPartOf_7 20 rfl rfl)
theorem dX6_qPartOf_199 : decode cX6_qPartOf 199 = .ok (.aload_n 0, 1) := dk_42 (dk_at dksX6_qPartOf_7 21 rfl rfl)
theorem dX6_qPartOf_200 : decode cX6_qPartOf 200 = .ok (.getfield 413, 3) := dk_180 1 157 (dk_at dksX6_qPartOf_8 0 rfl rfl)
theorem dX6_qPartOf_203 : decode cX6_qPartOf 203 = .ok (.invokevirtual 453, 3) := dk_182 1 197 (dk_at dksX6_qPartOf_8 3 rfl rfl)
theorem dX6_qPartOf_206 : decode cX6_qPartOf 206 = .ok (.i2l, 1) := dk_133 (dk_at dksX6_qPartOf_8 6 rfl rfl)
theorem dX6_qPartOf_207 : decode cX6_qPartOf 207 = .ok (.lreturn, 1) := dk_173 (dk_at dksX6_qPartOf_8 7 rfl rfl)
theorem dX6_qPartOf_208 : decode cX6_qPartOf 208 = .ok (.iload_n 2, 1) := dk_28 (dk_at dksX6_qPartOf_8 8 rfl rfl)
theorem dX6_qPartOf_209 : decode cX6_qPartOf 209 = .ok (.i2l, 1) := dk_133 (dk_at dksX6_qPartOf_8 9 rfl rfl)
theorem dX6_qPartOf_210 : decode cX6_qPartOf 210 = .ok (.lreturn, 1) := dk_173 (dk_at dksX6_qPartOf_8 10 rfl rfl)
theorem dX6_qPartOf_211 : decode cX6_qPartOf 211 = .ok (.aload_n 0, 1) := dk_42 (dk_at dksX6_qPartOf_8 11 rfl rfl)
theorem dX6_qPartOf_212 : decode cX6_qPartOf 212 = .ok (.aload_n 0, 1) := dk_42 (dk_at dksX6_qPartOf_8 12 rfl rfl)
theorem dX6_qPartOf_213 : decode cX6_qPartOf 213 = .ok (.getfield 413, 3) := dk_180 1 157 (dk_at dksX6_qPartOf_8 13 rfl rfl)
theorem dX6_qPartOf_216 : decode cX6_qPartOf 216 = .ok (.invokevirtual 404, 3) := dk_182 1 148 (dk_at dksX6_qPartOf_8 16 rfl rfl)
theorem dX6_qPartOf_219 : decode cX6_qPartOf 219 = .ok (.iload_n 2, 1) := dk_28 (dk_at dksX6_qPartOf_8 19 rfl rfl)
theorem dX6_qPartOf_220 : decode cX6_qPartOf 220 = .ok (.ishr, 1) := dk_122 (dk_at dksX6_qPartOf_8 20 rfl rfl)
theorem dX6_qPartOf_221 : decode cX6_qPartOf 221 = .ok (.iconst 1, 1) := dk_4 (dk_at dksX6_qPartOf_8 21 rfl rfl)
theorem dX6_qPartOf_222 : decode cX6_qPartOf 222 = .ok (.iand, 1) := dk_126 (dk_at dksX6_qPartOf_8 22 rfl rfl)
theorem dX6_qPartOf_223 : decode cX6_qPartOf 223 = .ok (.i2l, 1) := dk_133 (dk_at dksX6_qPartOf_8 23 rfl rfl)
theorem dX6_qPartOf_224 : decode cX6_qPartOf 224 = .ok (.lreturn, 1) := dk_173 (dk_at dksX6_qPartOf_9 0 rfl rfl)
theorem dX6_qPartOf_225 : decode cX6_qPartOf 225 = .ok (.aload_n 0, 1) := dk_42 (dk_at dksX6_qPartOf_9 1 rfl rfl)
theorem dX6_qPartOf_226 : decode cX6_qPartOf 226 = .ok (.aload_n 0, 1) := dk_42 (dk_at dksX6_qPartOf_9 2 rfl rfl)
theorem dX6_qPartOf_227 : decode cX6_qPartOf 227 = .ok (.getfield 413, 3) := dk_180 1 157 (dk_at dksX6_qPartOf_9 3 rfl rfl)
theorem dX6_qPartOf_230 : decode cX6_qPartOf 230 = .ok (.invokevirtual 407, 3) := dk_182 1 151 (dk_at dksX6_qPartOf_9 6 rfl rfl)
theorem dX6_qPartOf_233 : decode cX6_qPartOf 233 = .ok (.iload_n 2, 1) := dk_28 (dk_at dksX6_qPartOf_9 9 rfl rfl)
theorem dX6_qPartOf_234 : decode cX6_qPartOf 234 = .ok (.ishr, 1) := dk_122 (dk_at dksX6_qPartOf_9 10 rfl rfl)
theorem dX6_qPartOf_235 : decode cX6_qPartOf 235 = .ok (.iconst 1, 1) := dk_4 (dk_at dksX6_qPartOf_9 11 rfl rfl)
theorem dX6_qPartOf_236 : decode cX6_qPartOf 236 = .ok (.iand, 1) := dk_126 (dk_at dksX6_qPartOf_9 12 rfl rfl)
theorem dX6_qPartOf_237 : decode cX6_qPartOf 237 = .ok (.i2l, 1) := dk_133 (dk_at dksX6_qPartOf_9 13 rfl rfl)
theorem dX6_qPartOf_238 : decode cX6_qPartOf 238 = .ok (.lreturn, 1) := dk_173 (dk_at dksX6_qPartOf_9 14 rfl rfl)
abbrev cX6_qJoins : ByteArray := prog_22_method_115_code
def yX6_qJoins : MethodName := ⟨RX6, "qJoins", "(I)V"⟩
def dkwX6_qJoins_10 : List UInt8 := [167, 0, 21, 42, 22, 4, 32, 97, 9, 148, 158, 0, 7, 10, 167, 0, 4, 9, 182, 1, 163, 177]
abbrev dktX6_qJoins_10 : List UInt8 := dkwX6_qJoins_10 ++ []
def dkwX6_qJoins_9 : List UInt8 := [154, 0, 7, 10, 167, 0, 4, 9, 182, 1, 163, 167, 0, 32, 42, 22, 4, 32, 105, 182, 1, 163]
abbrev dktX6_qJoins_9 : List UInt8 := dkwX6_qJoins_9 ++ dktX6_qJoins_10
def dkwX6_qJoins_8 : List UInt8 := [22, 4, 32, 148, 158, 0, 7, 10, 167, 0, 4, 9, 182, 1, 163, 167, 0, 51, 42, 22, 4, 32, 148]
abbrev dktX6_qJoins_8 : List UInt8 := dkwX6_qJoins_8 ++ dktX6_qJoins_9
def dkwX6_qJoins_7 : List UInt8 := [167, 0, 89, 42, 22, 4, 32, 148, 156, 0, 7, 10, 167, 0, 4, 9, 182, 1, 163, 167, 0, 70, 42]
abbrev dktX6_qJoins_7 : List UInt8 := dkwX6_qJoins_7 ++ dktX6_qJoins_8
def dkwX6_qJoins_6 : List UInt8 := [182, 1, 163, 167, 0, 109, 42, 22, 4, 32, 148, 158, 0, 8, 22, 4, 167, 0, 4, 32, 182, 1, 163]
abbrev dktX6_qJoins_6 : List UInt8 := dkwX6_qJoins_6 ++ dktX6_qJoins_7
def dkwX6_qJoins_5 : List UInt8 := [184, 2, 114, 182, 1, 163, 167, 0, 129, 42, 22, 4, 32, 148, 156, 0, 8, 22, 4, 167, 0, 4, 32]
abbrev dktX6_qJoins_5 : List UInt8 := dkwX6_qJoins_5 ++ dktX6_qJoins_6
def dkwX6_qJoins_4 : List UInt8 := [182, 1, 163, 167, 0, 156, 42, 22, 4, 32, 105, 184, 2, 110, 182, 1, 163, 167, 0, 142, 42, 22, 4, 32]
abbrev dktX6_qJoins_4 : List UInt8 := dkwX6_qJoins_4 ++ dktX6_qJoins_5
def dkwX6_qJoins_3 : List UInt8 := [42, 22, 4, 32, 97, 184, 2, 110, 182, 1, 163, 167, 0, 170, 42, 22, 4, 32, 101, 184, 2, 110]
abbrev dktX6_qJoins_3 : List UInt8 := dkwX6_qJoins_3 ++ dktX6_qJoins_4
def dkwX6_qJoins_2 : List UInt8 := [170, 0, 0, 0, 0, 0, 0, 219, 0, 0, 0, 1, 0, 0, 0, 10, 0, 0, 0, 56, 0, 0, 0, 70, 0, 0, 0, 84, 0, 0, 0, 98, 0, 0, 0, 111, 0, 0, 0, 131, 0, 0, 0, 151, 0, 0, 0, 170, 0, 0, 0, 189, 0, 0, 0, 208]
abbrev dktX6_qJoins_2 : List UInt8 := dkwX6_qJoins_2 ++ dktX6_qJoins_3
def dkwX6_qJoins_1 : List UInt8 := [55, 4, 42, 89, 180, 1, 160, 5, 100, 181, 1, 160, 27]
abbrev dktX6_qJoins_1 : List UInt8 := dkwX6_qJoins_1 ++ dktX6_qJoins_2
def dkwX6_qJoins_0 : List UInt8 := [42, 180, 0, 248, 42, 180, 1, 160, 4, 100, 47, 65, 42, 180, 0, 248, 42, 180, 1, 160, 5, 100, 47]
abbrev dktX6_qJoins_0 : List UInt8 := dkwX6_qJoins_0 ++ dktX6_qJoins_1
theorem dksX6_qJoins_0 : cX6_qJoins.data.toList.drop 0 = dktX6_qJoins_0 := by decide +kernel
theorem dksX6_qJoins_1 : cX6_qJoins.data.toList.drop 23 = dktX6_qJoins_1 := dk_seg dksX6_qJoins_0 23 rfl rfl
theorem dksX6_qJoins_2 : cX6_qJoins.data.toList.drop 36 = dktX6_qJoins_2 := dk_seg dksX6_qJoins_1 13 rfl rfl
theorem dksX6_qJoins_3 : cX6_qJoins.data.toList.drop 92 = dktX6_qJoins_3 := dk_seg dksX6_qJoins_2 56 rfl rfl
theorem dksX6_qJoins_4 : cX6_qJoins.data.toList.drop 114 = dktX6_qJoins_4 := dk_seg dksX6_qJoins_3 22 rfl rfl
theorem dksX6_qJoins_5 : cX6_qJoins.data.toList.drop 138 = dktX6_qJoins_5 := dk_seg dksX6_qJoins_4 24 rfl rfl
theorem dksX6_qJoins_6 : cX6_qJoins.data.toList.drop 161 = dktX6_qJoins_6 := dk_seg dksX6_qJoins_5 23 rfl rfl
theorem dksX6_qJoins_7 : cX6_qJoins.data.toList.drop 184 = dktX6_qJoins_7 := dk_seg dksX6_qJoins_6 23 rfl rfl
theorem dksX6_qJoins_8 : cX6_qJoins.data.toList.drop 207 = dktX6_qJoins_8 := dk_seg dksX6_qJoins_7 23 rfl rfl
theorem dksX6_qJoins_9 : cX6_qJoins.data.toList.drop 230 = dktX6_qJoins_9 := dk_seg dksX6_qJoins_8 23 rfl rfl
theorem dksX6_qJoins_10 : cX6_qJoins.data.toList.drop 252 = dktX6_qJoins_10 := dk_seg dksX6_qJoins_9 22 rfl rfl
theorem dX6_qJoins_0 : decode cX6_qJoins 0 = .ok (.aload_n 0, 1) := dk_42 (dk_at dksX6_qJoins_0 0 rfl rfl)
theorem dX6_qJoins_1 : decode cX6_qJoins 1 = .ok (.getfield 248, 3) := dk_180 0 248 (dk_at dksX6_qJoins_0 1 rfl rfl)
theorem dX6_qJoins_4 : decode cX6_qJoins 4 = .ok (.aload_n 0, 1) := dk_42 (dk_at dksX6_qJoins_0 4 rfl rfl)
theorem dX6_qJoins_5 : decode cX6_qJoins 5 = .ok (.getfield 416, 3) := dk_180 1 160 (dk_at dksX6_qJoins_0 5 rfl rfl)
theorem dX6_qJoins_8 : decode cX6_qJoins 8 = .ok (.iconst 1, 1) := dk_4 (dk_at dksX6_qJoins_0 8 rfl rfl)
theorem dX6_qJoins_9 : decode cX6_qJoins 9 = .ok (.isub, 1) := dk_100 (dk_at dksX6_qJoins_0 9 rfl rfl)
theorem dX6_qJoins_10 : decode cX6_qJoins 10 = .ok (.laload, 1) := dk_47 (dk_at dksX6_qJoins_0 10 rfl rfl)
theorem dX6_qJoins_11 : decode cX6_qJoins 11 = .ok (.lstore_n 2, 1) := dk_65 (dk_at dksX6_qJoins_0 11 rfl rfl)
theorem dX6_qJoins_12 : decode cX6_qJoins 12 = .ok (.aload_n 0, 1) := dk_42 (dk_at dksX6_qJoins_0 12 rfl rfl)
theorem dX6_qJoins_13 : decode cX6_qJoins 13 = .ok (.getfield 248, 3) := dk_180 0 248 (dk_at dksX6_qJoins_0 13 rfl rfl)
theorem dX6_qJoins_16 : decode cX6_qJoins 16 = .ok (.aload_n 0, 1) := dk_42 (dk_at dksX6_qJoins_0 16 rfl rfl)
theorem dX6_qJoins_17 : decode cX6_qJoins 17 = .ok (.getfield 416, 3) := dk_180 1 160 (dk_at dksX6_qJoins_0 17 rfl rfl)
theorem dX6_qJoins_20 : decode cX6_qJoins 20 = .ok (.iconst 2, 1) := dk_5 (dk_at dksX6_qJoins_0 20 rfl rfl)
theorem dX6_qJoins_21 : decode cX6_qJoins 21 = .ok (.isub, 1) := dk_100 (dk_at dksX6_qJoins_0 21 rfl rfl)
theorem dX6_qJoins_22 : decode cX6_qJoins 22 = .ok (.laload, 1) := dk_47 (dk_at dksX6_qJoins_0 22 rfl rfl)
theorem dX6_qJoins_23 : decode cX6_qJoins 23 = .ok (.lstore 4, 2) := dk_55 4 (dk_at dksX6_qJoins_1 0 rfl rfl)
theorem dX6_qJoins_25 : decode cX6_qJoins 25 = .ok (.aload_n 0, 1) := dk_42 (dk_at dksX6_qJoins_1 2 rfl rfl)
theorem dX6_qJoins_26 : decode cX6_qJoins 26 = .ok (.dup, 1) := dk_89 (dk_at dksX6_qJoins_1 3 rfl rfl)
theorem dX6_qJoins_27 : decode cX6_qJoins 27 = .ok (.getfield 416, 3) := dk_180 1 160 (dk_at dksX6_qJoins_1 4 rfl rfl)
theorem dX6_qJoins_30 : decode cX6_qJoins 30 = .ok (.iconst 2, 1) := dk_5 (dk_at dksX6_qJoins_1 7 rfl rfl)
theorem dX6_qJoins_31 : decode cX6_qJoins 31 = .ok (.isub, 1) := dk_100 (dk_at dksX6_qJoins_1 8 rfl rfl)
theorem dX6_qJoins_32 : decode cX6_qJoins 32 = .ok (.putfield 416, 3) := dk_181 1 160 (dk_at dksX6_qJoins_1 9 rfl rfl)
theorem dX6_qJoins_35 : decode cX6_qJoins 35 = .ok (.iload_n 1, 1) := dk_27 (dk_at dksX6_qJoins_1 12 rfl rfl)
theorem dX6_qJoins_36 : decode cX6_qJoins 36 = .ok (.tableswitch 219 1 10 #[56, 70, 84, 98, 111, 131, 151, 170, 189, 208], 56) := by decide +kernel
theorem dX6_qJoins_92 : decode cX6_qJoins 92 = .ok (.aload_n 0, 1) := dk_42 (dk_at dksX6_qJoins_3 0 rfl rfl)
theorem dX6_qJoins_93 : decode cX6_qJoins 93 = .ok (.lload 4, 2) := dk_22 4 (dk_at dksX6_qJoins_3 1 rfl rfl)
theorem dX6_qJoins_95 : decode cX6_qJoins 95 = .ok (.lload_n 2, 1) := dk_32 (dk_at dksX6_qJoins_3 3 rfl rfl)
theorem dX6_qJoins_96 : decode cX6_qJoins 96 = .ok (.ladd, 1) := dk_97 (dk_at dksX6_qJoins_3 4 rfl rfl)
theorem dX6_qJoins_97 : decode cX6_qJoins 97 = .ok (.invokestatic 622, 3) := dk_184 2 110 (dk_at dksX6_qJoins_3 5 rfl rfl)
theorem dX6_qJoins_100 : decode cX6_qJoins 100 = .ok (.invokevirtual 419, 3) := dk_182 1 163 (dk_at dksX6_qJoins_3 8 rfl rfl)
theorem dX6_qJoins_103 : decode cX6_qJoins 103 = .ok (.goto 170, 3) := dk_167 0 170 (dk_at dksX6_qJoins_3 11 rfl rfl)
theorem dX6_qJoins_106 : decode cX6_qJoins 106 = .ok (.aload_n 0, 1) := dk_42 (dk_at dksX6_qJoins_3 14 rfl rfl)
theorem dX6_qJoins_107 : decode cX6_qJoins 107 = .ok (.lload 4, 2) := dk_22 4 (dk_at dksX6_qJoins_3 15 rfl rfl)
theorem dX6_qJoins_109 : decode cX6_qJoins 109 = .ok (.lload_n 2, 1) := dk_32 (dk_at dksX6_qJoins_3 17 rfl rfl)
theorem dX6_qJoins_110 : decode cX6_qJoins 110 = .ok (.lsub, 1) := dk_101 (dk_at dksX6_qJoins_3 18 rfl rfl)
theorem dX6_qJoins_111 : decode cX6_qJoins 111 = .ok (.invokestatic 622, 3) := dk_184 2 110 (dk_at dksX6_qJoins_3 19 rfl rfl)
theorem dX6_qJoins_114 : decode cX6_qJoins 114 = .ok (.invokevirtual 419, 3) := dk_182 1 163 (dk_at dksX6_qJoins_4 0 rfl rfl)
theorem dX6_qJoins_117 : decode cX6_qJoins 117 = .ok (.goto 156, 3) := dk_167 0 156 (dk_at dksX6_qJoins_4 3 rfl rfl)
theorem dX6_qJoins_120 : decode cX6_qJoins 120 = .ok (.aload_n 0, 1) := dk_42 (dk_at dksX6_qJoins_4 6 rfl rfl)
theorem dX6_qJoins_121 : decode cX6_qJoins 121 = .ok (.lload 4, 2) := dk_22 4 (dk_at dksX6_qJoins_4 7 rfl rfl)
theorem dX6_qJoins_123 : decode cX6_qJoins 123 = .ok (.lload_n 2, 1) := dk_32 (dk_at dksX6_qJoins_4 9 rfl rfl)
theorem dX6_qJoins_124 : decode cX6_qJoins 124 = .ok (.lmul, 1) := dk_105 (dk_at dksX6_qJoins_4 10 rfl rfl)
theorem dX6_qJoins_125 : decode cX6_qJoins 125 = .ok (.invokestatic 622, 3) := dk_184 2 110 (dk_at dksX6_qJoins_4 11 rfl rfl)
theorem dX6_qJoins_128 : decode cX6_qJoins 128 = .ok (.invokevirtual 419, 3) := dk_182 1 163 (dk_at dksX6_qJoins_4 14 rfl rfl)
theorem dX6_qJoins_131 : decode cX6_qJoins 131 = .ok (.goto 142, 3) := dk_167 0 142 (dk_at dksX6_qJoins_4 17 rfl rfl)
theorem dX6_qJoins_134 : decode cX6_qJoins 134 = .ok (.aload_n 0, 1) := dk_42 (dk_at dksX6_qJoins_4 20 rfl rfl)
theorem dX6_qJoins_135 : decode cX6_qJoins 135 = .ok (.lload 4, 2) := dk_22 4 (dk_at dksX6_qJoins_4 21 rfl rfl)
theorem dX6_qJoins_137 : decode cX6_qJoins 137 = .ok (.lload_n 2, 1) := dk_32 (dk_at dksX6_qJoins_4 23 rfl rfl)
theorem dX6_qJoins_138 : decode cX6_qJoins 138 = .ok (.invokestatic 626, 3) := dk_184 2 114 (dk_at dksX6_qJoins_5 0 rfl rfl)
theorem dX6_qJoins_141 : decode cX6_qJoins 141 = .ok (.invokevirtual 419, 3) := dk_182 1 163 (dk_at dksX6_qJoins_5 3 rfl rfl)
theorem dX6_qJoins_144 : decode cX6_qJoins 144 = .ok (.goto 129, 3) := dk_167 0 129 (dk_at dksX6_qJoins_5 6 rfl rfl)
theorem dX6_qJoins_147 : decode cX6_qJoins 147 = .ok (.aload_n 0, 1) := dk_42 (dk_at dksX6_qJoins_5 9 rfl rfl)
theorem dX6_qJoins_148 : decode cX6_qJoins 148 = .ok (.lload 4, 2) := dk_22 4 (dk_at dksX6_qJoins_5 10 rfl rfl)
theorem dX6_qJoins_150 : decode cX6_qJoins 150 = .ok (.lload_n 2, 1) := dk_32 (dk_at dksX6_qJoins_5 12 rfl rfl)
theorem dX6_qJoins_151 : decode cX6_qJoins 151 = .ok (.lcmp, 1) := dk_148 (dk_at dksX6_qJoins_5 13 rfl rfl)
theorem dX6_qJoins_152 : decode cX6_qJoins 152 = .ok (.ifCond .ge 8, 3) := dk_156 0 8 (dk_at dksX6_qJoins_5 14 rfl rfl)
theorem dX6_qJoins_155 : decode cX6_qJoins 155 = .ok (.lload 4, 2) := dk_22 4 (dk_at dksX6_qJoins_5 17 rfl rfl)
theorem dX6_qJoins_157 : decode cX6_qJoins 157 = .ok (.goto 4, 3) := dk_167 0 4 (dk_at dksX6_qJoins_5 19 rfl rfl)
theorem dX6_qJoins_160 : decode cX6_qJoins 160 = .ok (.lload_n 2, 1) := dk_32 (dk_at dksX6_qJoins_5 22 rfl rfl)
theorem dX6_qJoins_161 : decode cX6_qJoins 161 = .ok (.invokevirtual 419, 3) := dk_182 1 163 (dk_at dksX6_qJoins_6 0 rfl rfl)
theorem dX6_qJoins_164 : decode cX6_qJoins 164 = .ok (.goto 109, 3) := dk_167 0 109 (dk_at dksX6_qJoins_6 3 rfl rfl)
theorem dX6_qJoins_167 : decode cX6_qJoins 167 = .ok (.aload_n 0, 1) := dk_42 (dk_at dksX6_qJoins_6 6 rfl rfl)
theorem dX6_qJoins_168 : decode cX6_qJoins 168 = .ok (.lload 4, 2) := dk_22 4 (dk_at dksX6_qJoins_6 7 rfl rfl)
theorem dX6_qJoins_170 : decode cX6_qJoins 170 = .ok (.lload_n 2, 1) := dk_32 (dk_at dksX6_qJoins_6 9 rfl rfl)
theorem dX6_qJoins_171 : decode cX6_qJoins 171 = .ok (.lcmp, 1) := dk_148 (dk_at dksX6_qJoins_6 10 rfl rfl)
theorem dX6_qJoins_172 : decode cX6_qJoins 172 = .ok (.ifCond .le 8, 3) := dk_158 0 8 (dk_at dksX6_qJoins_6 11 rfl rfl)
theorem dX6_qJoins_175 : decode cX6_qJoins 175 = .ok (.lload 4, 2) := dk_22 4 (dk_at dksX6_qJoins_6 14 rfl rfl)
theorem dX6_qJoins_177 : decode cX6_qJoins 177 = .ok (.goto 4, 3) := dk_167 0 4 (dk_at dksX6_qJoins_6 16 rfl rfl)
theorem dX6_qJoins_180 : decode cX6_qJoins 180 = .ok (.lload_n 2, 1) := dk_32 (dk_at dksX6_qJoins_6 19 rfl rfl)
theorem dX6_qJoins_181 : decode cX6_qJoins 181 = .ok (.invokevirtual 419, 3) := dk_182 1 163 (dk_at dksX6_qJoins_6 20 rfl rfl)
theorem dX6_qJoins_184 : decode cX6_qJoins 184 = .ok (.goto 89, 3) := dk_167 0 89 (dk_at dksX6_qJoins_7 0 rfl rfl)
theorem dX6_qJoins_187 : decode cX6_qJoins 187 = .ok (.aload_n 0, 1) := dk_42 (dk_at dksX6_qJoins_7 3 rfl rfl)
theorem dX6_qJoins_188 : decode cX6_qJoins 188 = .ok (.lload 4, 2) := dk_22 4 (dk_at dksX6_qJoins_7 4 rfl rfl)
theorem dX6_qJoins_190 : decode cX6_qJoins 190 = .ok (.lload_n 2, 1) := dk_32 (dk_at dksX6_qJoins_7 6 rfl rfl)
theorem dX6_qJoins_191 : decode cX6_qJoins 191 = .ok (.lcmp, 1) := dk_148 (dk_at dksX6_qJoins_7 7 rfl rfl)
theorem dX6_qJoins_192 : decode cX6_qJoins 192 = .ok (.ifCond .ge 7, 3) := dk_156 0 7 (dk_at dksX6_qJoins_7 8 rfl rfl)
theorem dX6_qJoins_195 : decode cX6_qJoins 195 = .ok (.lconst 1, 1) := dk_10 (dk_at dksX6_qJoins_7 11 rfl rfl)
theorem dX6_qJoins_196 : decode cX6_qJoins 196 = .ok (.goto 4, 3) := dk_167 0 4 (dk_at dksX6_qJoins_7 12 rfl rfl)
theorem dX6_qJoins_199 : decode cX6_qJoins 199 = .ok (.lconst 0, 1) := dk_9 (dk_at dksX6_qJoins_7 15 rfl rfl)
theorem dX6_qJoins_200 : decode cX6_qJoins 200 = .ok (.invokevirtual 419, 3) := dk_182 1 163 (dk_at dksX6_qJoins_7 16 rfl rfl)
theorem dX6_qJoins_203 : decode cX6_qJoins 203 = .ok (.goto 70, 3) := dk_167 0 70 (dk_at dksX6_qJoins_7 19 rfl rfl)
theorem dX6_qJoins_206 : decode cX6_qJoins 206 = .ok (.aload_n 0, 1) := dk_42 (dk_at dksX6_qJoins_7 22 rfl rfl)
theorem dX6_qJoins_207 : decode cX6_qJoins 207 = .ok (.lload 4, 2) := dk_22 4 (dk_at dksX6_qJoins_8 0 rfl rfl)
theorem dX6_qJoins_209 : decode cX6_qJoins 209 = .ok (.lload_n 2, 1) := dk_32 (dk_at dksX6_qJoins_8 2 rfl rfl)
theorem dX6_qJoins_210 : decode cX6_qJoins 210 = .ok (.lcmp, 1) := dk_148 (dk_at dksX6_qJoins_8 3 rfl rfl)
theorem dX6_qJoins_211 : decode cX6_qJoins 211 = .ok (.ifCond .le 7, 3) := dk_158 0 7 (dk_at dksX6_qJoins_8 4 rfl rfl)
theorem dX6_qJoins_214 : decode cX6_qJoins 214 = .ok (.lconst 1, 1) := dk_10 (dk_at dksX6_qJoins_8 7 rfl rfl)
theorem dX6_qJoins_215 : decode cX6_qJoins 215 = .ok (.goto 4, 3) := dk_167 0 4 (dk_at dksX6_qJoins_8 8 rfl rfl)
theorem dX6_qJoins_218 : decode cX6_qJoins 218 = .ok (.lconst 0, 1) := dk_9 (dk_at dksX6_qJoins_8 11 rfl rfl)
theorem dX6_qJoins_219 : decode cX6_qJoins 219 = .ok (.invokevirtual 419, 3) := dk_182 1 163 (dk_at dksX6_qJoins_8 12 rfl rfl)
theorem dX6_qJoins_222 : decode cX6_qJoins 222 = .ok (.goto 51, 3) := dk_167 0 51 (dk_at dksX6_qJoins_8 15 rfl rfl)
theorem dX6_qJoins_225 : decode cX6_qJoins 225 = .ok (.aload_n 0, 1) := dk_42 (dk_at dksX6_qJoins_8 18 rfl rfl)
theorem dX6_qJoins_226 : decode cX6_qJoins 226 = .ok (.lload 4, 2) := dk_22 4 (dk_at dksX6_qJoins_8 19 rfl rfl)
theorem dX6_qJoins_228 : decode cX6_qJoins 228 = .ok (.lload_n 2, 1) := dk_32 (dk_at dksX6_qJoins_8 21 rfl rfl)
theorem dX6_qJoins_229 : decode cX6_qJoins 229 = .ok (.lcmp, 1) := dk_148 (dk_at dksX6_qJoins_8 22 rfl rfl)
theorem dX6_qJoins_230 : decode cX6_qJoins 230 = .ok (.ifCond .ne 7, 3) := dk_154 0 7 (dk_at dksX6_qJoins_9 0 rfl rfl)
theorem dX6_qJoins_233 : decode cX6_qJoins 233 = .ok (.lconst 1, 1) := dk_10 (dk_at dksX6_qJoins_9 3 rfl rfl)
theorem dX6_qJoins_234 : decode cX6_qJoins 234 = .ok (.goto 4, 3) := dk_167 0 4 (dk_at dksX6_qJoins_9 4 rfl rfl)
theorem dX6_qJoins_237 : decode cX6_qJoins 237 = .ok (.lconst 0, 1) := dk_9 (dk_at dksX6_qJoins_9 7 rfl rfl)
theorem dX6_qJoins_238 : decode cX6_qJoins 238 = .ok (.invokevirtual 419, 3) := dk_182 1 163 (dk_at dksX6_qJoins_9 8 rfl rfl)
theorem dX6_qJoins_241 : decode cX6_qJoins 241 = .ok (.goto 32, 3) := dk_167 0 32 (dk_at dksX6_qJoins_9 11 rfl rfl)
theorem dX6_qJoins_244 : decode cX6_qJoins 244 = .ok (.aload_n 0, 1) := dk_42 (dk_at dksX6_qJoins_9 14 rfl rfl)
theorem dX6_qJoins_245 : decode cX6_qJoins 245 = .ok (.lload 4, 2) := dk_22 4 (dk_at dksX6_qJoins_9 15 rfl rfl)
theorem dX6_qJoins_247 : decode cX6_qJoins 247 = .ok (.lload_n 2, 1) := dk_32 (dk_at dksX6_qJoins_9 17 rfl rfl)
theorem dX6_qJoins_248 : decode cX6_qJoins 248 = .ok (.lmul, 1) := dk_105 (dk_at dksX6_qJoins_9 18 rfl rfl)
theorem dX6_qJoins_249 : decode cX6_qJoins 249 = .ok (.invokevirtual 419, 3) := dk_182 1 163 (dk_at dksX6_qJoins_9 19 rfl rfl)
theorem dX6_qJoins_252 : decode cX6_qJoins 252 = .ok (.goto 21, 3) := dk_167 0 21 (dk_at dksX6_qJoins_10 0 rfl rfl)
theorem dX6_qJoins_255 : decode cX6_qJoins 255 = .ok (.aload_n 0, 1) := dk_42 (dk_at dksX6_qJoins_10 3 rfl rfl)
theorem dX6_qJoins_256 : decode cX6_qJoins 256 = .ok (.lload 4, 2) := dk_22 4 (dk_at dksX6_qJoins_10 4 rfl rfl)
theorem dX6_qJoins_258 : decode cX6_qJoins 258 = .ok (.lload_n 2, 1) := dk_32 (dk_at dksX6_qJoins_10 6 rfl rfl)
theorem dX6_qJoins_259 : decode cX6_qJoins 259 = .ok (.ladd, 1) := dk_97 (dk_at dksX6_qJoins_10 7 rfl rfl)
theorem dX6_qJoins_260 : decode cX6_qJoins 260 = .ok (.lconst 0, 1) := dk_9 (dk_at dksX6_qJoins_10 8 rfl rfl)
theorem dX6_qJoins_261 : decode cX6_qJoins 261 = .ok (.lcmp, 1) := dk_148 (dk_at dksX6_qJoins_10 9 rfl rfl)
theorem dX6_qJoins_262 : decode cX6_qJoins 262 = .ok (.ifCond .le 7, 3) := dk_158 0 7 (dk_at dksX6_qJoins_10 10 rfl rfl)
theorem dX6_qJoins_265 : decode cX6_qJoins 265 = .ok (.lconst 1, 1) := dk_10 (dk_at dksX6_qJoins_10 13 rfl rfl)
theorem dX6_qJoins_266 : decode cX6_qJoins 266 = .ok (.goto 4, 3) := dk_167 0 4 (dk_at dksX6_qJoins_10 14 rfl rfl)
theorem dX6_qJoins_269 : decode cX6_qJoins 269 = .ok (.lconst 0, 1) := dk_9 (dk_at dksX6_qJoins_10 17 rfl rfl)
theorem dX6_qJoins_270 : decode cX6_qJoins 270 = .ok (.invokevirtual 419, 3) := dk_182 1 163 (dk_at dksX6_qJoins_10 18 rfl rfl)
theorem dX6_qJoins_273 : decode cX6_qJoins 273 = .ok (.return_, 1) := dk_177 (dk_at dksX6_qJoins_10 21 rfl rfl)
abbrev cX6_qClip : ByteArray := prog_22_method_112_code
def yX6_qClip : MethodName := ⟨RX6, "qClip", "(J)J"⟩
def dkwX6_qClip_1 : List UInt8 := [20, 2, 108, 167, 0, 4, 30, 173]
abbrev dktX6_qClip_1 : List UInt8 := dkwX6_qClip_1 ++ []
def dkwX6_qClip_0 : List UInt8 := [30, 20, 2, 106, 148, 158, 0, 9, 20, 2, 106, 167, 0, 18, 30, 20, 2, 108, 148, 156, 0, 9]
abbrev dktX6_qClip_0 : List UInt8 := dkwX6_qClip_0 ++ dktX6_qClip_1
theorem dksX6_qClip_0 : cX6_qClip.data.toList.drop 0 = dktX6_qClip_0 := by decide +kernel
theorem dksX6_qClip_1 : cX6_qClip.data.toList.drop 22 = dktX6_qClip_1 := dk_seg dksX6_qClip_0 22 rfl rfl
theorem dX6_qClip_0 : decode cX6_qClip 0 = .ok (.lload_n 0, 1) := dk_30 (dk_at dksX6_qClip_0 0 rfl rfl)
theorem dX6_qClip_1 : decode cX6_qClip 1 = .ok (.ldc2_w 618, 3) := dk_20 2 106 (dk_at dksX6_qClip_0 1 rfl rfl)
theorem dX6_qClip_4 : decode cX6_qClip 4 = .ok (.lcmp, 1) := dk_148 (dk_at dksX6_qClip_0 4 rfl rfl)
theorem dX6_qClip_5 : decode cX6_qClip 5 = .ok (.ifCond .le 9, 3) := dk_158 0 9 (dk_at dksX6_qClip_0 5 rfl rfl)
theorem dX6_qClip_8 : decode cX6_qClip 8 = .ok (.ldc2_w 618, 3) := dk_20 2 106 (dk_at dksX6_qClip_0 8 rfl rfl)
theorem dX6_qClip_11 : decode cX6_qClip 11 = .ok (.goto 18, 3) := dk_167 0 18 (dk_at dksX6_qClip_0 11 rfl rfl)
theorem dX6_qClip_14 : decode cX6_qClip 14 = .ok (.lload_n 0, 1) := dk_30 (dk_at dksX6_qClip_0 14 rfl rfl)
theorem dX6_qClip_15 : decode cX6_qClip 15 = .ok (.ldc2_w 620, 3) := dk_20 2 108 (dk_at dksX6_qClip_0 15 rfl rfl)
theorem dX6_qClip_18 : decode cX6_qClip 18 = .ok (.lcmp, 1) := dk_148 (dk_at dksX6_qClip_0 18 rfl rfl)
theorem dX6_qClip_19 : decode cX6_qClip 19 = .ok (.ifCond .ge 9, 3) := dk_156 0 9 (dk_at dksX6_qClip_0 19 rfl rfl)
theorem dX6_qClip_22 : decode cX6_qClip 22 = .ok (.ldc2_w 620, 3) := dk_20 2 108 (dk_at dksX6_qClip_1 0 rfl rfl)
theorem dX6_qClip_25 : decode cX6_qClip 25 = .ok (.goto 4, 3) := dk_167 0 4 (dk_at dksX6_qClip_1 3 rfl rfl)
theorem dX6_qClip_28 : decode cX6_qClip 28 = .ok (.lload_n 0, 1) := dk_30 (dk_at dksX6_qClip_1 6 rfl rfl)
theorem dX6_qClip_29 : decode cX6_qClip 29 = .ok (.lreturn, 1) := dk_173 (dk_at dksX6_qClip_1 7 rfl rfl)
abbrev cX6_qFloor : ByteArray := prog_22_method_113_code
def yX6_qFloor : MethodName := ⟨RX6, "qFloor", "(JJ)J"⟩
def dkwX6_qFloor_2 : List UInt8 := [10, 101, 167, 0, 5, 22, 4, 173]
abbrev dktX6_qFloor_2 : List UInt8 := dkwX6_qFloor_2 ++ []
def dkwX6_qFloor_1 : List UInt8 := [156, 0, 7, 4, 167, 0, 4, 3, 32, 9, 148, 156, 0, 7, 4, 167, 0, 4, 3, 159, 0, 10, 22, 4]
abbrev dktX6_qFloor_1 : List UInt8 := dkwX6_qFloor_1 ++ dktX6_qFloor_2
def dkwX6_qFloor_0 : List UInt8 := [32, 9, 148, 154, 0, 5, 9, 173, 30, 32, 109, 55, 4, 30, 32, 113, 9, 148, 153, 0, 35, 30, 9, 148]
abbrev dktX6_qFloor_0 : List UInt8 := dkwX6_qFloor_0 ++ dktX6_qFloor_1
theorem dksX6_qFloor_0 : cX6_qFloor.data.toList.drop 0 = dktX6_qFloor_0 := by decide +kernel
theorem dksX6_qFloor_1 : cX6_qFloor.data.toList.drop 24 = dktX6_qFloor_1 := dk_seg dksX6_qFloor_0 24 rfl rfl
theorem dksX6_qFloor_2 : cX6_qFloor.data.toList.drop 48 = dktX6_qFloor_2 := dk_seg dksX6_qFloor_1 24 rfl rfl
theorem dX6_qFloor_0 : decode cX6_qFloor 0 = .ok (.lload_n 2, 1) := dk_32 (dk_at dksX6_qFloor_0 0 rfl rfl)
theorem dX6_qFloor_1 : decode cX6_qFloor 1 = .ok (.lconst 0, 1) := dk_9 (dk_at dksX6_qFloor_0 1 rfl rfl)
theorem dX6_qFloor_2 : decode cX6_qFloor 2 = .ok (.lcmp, 1) := dk_148 (dk_at dksX6_qFloor_0 2 rfl rfl)
theorem dX6_qFloor_3 : decode cX6_qFloor 3 = .ok (.ifCond .ne 5, 3) := dk_154 0 5 (dk_at dksX6_qFloor_0 3 rfl rfl)
theorem dX6_qFloor_6 : decode cX6_qFloor 6 = .ok (.lconst 0, 1) := dk_9 (dk_at dksX6_qFloor_0 6 rfl rfl)
theorem dX6_qFloor_7 : decode cX6_qFloor 7 = .ok (.lreturn, 1) := dk_173 (dk_at dksX6_qFloor_0 7 rfl rfl)
theorem dX6_qFloor_8 : decode cX6_qFloor 8 = .ok (.lload_n 0, 1) := dk_30 (dk_at dksX6_qFloor_0 8 rfl rfl)
theorem dX6_qFloor_9 : decode cX6_qFloor 9 = .ok (.lload_n 2, 1) := dk_32 (dk_at dksX6_qFloor_0 9 rfl rfl)
theorem dX6_qFloor_10 : decode cX6_qFloor 10 = .ok (.ldiv, 1) := dk_109 (dk_at dksX6_qFloor_0 10 rfl rfl)
theorem dX6_qFloor_11 : decode cX6_qFloor 11 = .ok (.lstore 4, 2) := dk_55 4 (dk_at dksX6_qFloor_0 11 rfl rfl)
theorem dX6_qFloor_13 : decode cX6_qFloor 13 = .ok (.lload_n 0, 1) := dk_30 (dk_at dksX6_qFloor_0 13 rfl rfl)
theorem dX6_qFloor_14 : decode cX6_qFloor 14 = .ok (.lload_n 2, 1) := dk_32 (dk_at dksX6_qFloor_0 14 rfl rfl)
theorem dX6_qFloor_15 : decode cX6_qFloor 15 = .ok (.lrem, 1) := dk_113 (dk_at dksX6_qFloor_0 15 rfl rfl)
theorem dX6_qFloor_16 : decode cX6_qFloor 16 = .ok (.lconst 0, 1) := dk_9 (dk_at dksX6_qFloor_0 16 rfl rfl)
theorem dX6_qFloor_17 : decode cX6_qFloor 17 = .ok (.lcmp, 1) := dk_148 (dk_at dksX6_qFloor_0 17 rfl rfl)
theorem dX6_qFloor_18 : decode cX6_qFloor 18 = .ok (.ifCond .eq 35, 3) := dk_153 0 35 (dk_at dksX6_qFloor_0 18 rfl rfl)
theorem dX6_qFloor_21 : decode cX6_qFloor 21 = .ok (.lload_n 0, 1) := dk_30 (dk_at dksX6_qFloor_0 21 rfl rfl)
theorem dX6_qFloor_22 : decode cX6_qFloor 22 = .ok (.lconst 0, 1) := dk_9 (dk_at dksX6_qFloor_0 22 rfl rfl)
theorem dX6_qFloor_23 : decode cX6_qFloor 23 = .ok (.lcmp, 1) := dk_148 (dk_at dksX6_qFloor_0 23 rfl rfl)
theorem dX6_qFloor_24 : decode cX6_qFloor 24 = .ok (.ifCond .ge 7, 3) := dk_156 0 7 (dk_at dksX6_qFloor_1 0 rfl rfl)
theorem dX6_qFloor_27 : decode cX6_qFloor 27 = .ok (.iconst 1, 1) := dk_4 (dk_at dksX6_qFloor_1 3 rfl rfl)
theorem dX6_qFloor_28 : decode cX6_qFloor 28 = .ok (.goto 4, 3) := dk_167 0 4 (dk_at dksX6_qFloor_1 4 rfl rfl)
theorem dX6_qFloor_31 : decode cX6_qFloor 31 = .ok (.iconst 0, 1) := dk_3 (dk_at dksX6_qFloor_1 7 rfl rfl)
theorem dX6_qFloor_32 : decode cX6_qFloor 32 = .ok (.lload_n 2, 1) := dk_32 (dk_at dksX6_qFloor_1 8 rfl rfl)
theorem dX6_qFloor_33 : decode cX6_qFloor 33 = .ok (.lconst 0, 1) := dk_9 (dk_at dksX6_qFloor_1 9 rfl rfl)
theorem dX6_qFloor_34 : decode cX6_qFloor 34 = .ok (.lcmp, 1) := dk_148 (dk_at dksX6_qFloor_1 10 rfl rfl)
theorem dX6_qFloor_35 : decode cX6_qFloor 35 = .ok (.ifCond .ge 7, 3) := dk_156 0 7 (dk_at dksX6_qFloor_1 11 rfl rfl)
theorem dX6_qFloor_38 : decode cX6_qFloor 38 = .ok (.iconst 1, 1) := dk_4 (dk_at dksX6_qFloor_1 14 rfl rfl)
theorem dX6_qFloor_39 : decode cX6_qFloor 39 = .ok (.goto 4, 3) := dk_167 0 4 (dk_at dksX6_qFloor_1 15 rfl rfl)
theorem dX6_qFloor_42 : decode cX6_qFloor 42 = .ok (.iconst 0, 1) := dk_3 (dk_at dksX6_qFloor_1 18 rfl rfl)
theorem dX6_qFloor_43 : decode cX6_qFloor 43 = .ok (.if_icmp .eq 10, 3) := dk_159 0 10 (dk_at dksX6_qFloor_1 19 rfl rfl)
theorem dX6_qFloor_46 : decode cX6_qFloor 46 = .ok (.lload 4, 2) := dk_22 4 (dk_at dksX6_qFloor_1 22 rfl rfl)
theorem dX6_qFloor_48 : decode cX6_qFloor 48 = .ok (.lconst 1, 1) := dk_10 (dk_at dksX6_qFloor_2 0 rfl rfl)
theorem dX6_qFloor_49 : decode cX6_qFloor 49 = .ok (.lsub, 1) := dk_101 (dk_at dksX6_qFloor_2 1 rfl rfl)
theorem dX6_qFloor_50 : decode cX6_qFloor 50 = .ok (.goto 5, 3) := dk_167 0 5 (dk_at dksX6_qFloor_2 2 rfl rfl)
theorem dX6_qFloor_53 : decode cX6_qFloor 53 = .ok (.lload 4, 2) := dk_22 4 (dk_at dksX6_qFloor_2 5 rfl rfl)
theorem dX6_qFloor_55 : decode cX6_qFloor 55 = .ok (.lreturn, 1) := dk_173 (dk_at dksX6_qFloor_2 7 rfl rfl)
abbrev cX6_kept : ByteArray := prog_22_method_69_code
def yX6_kept : MethodName := ⟨RX6, "kept", "(II)I"⟩
def dkwX6_kept_2 : List UInt8 := [167, 0, 4, 2, 172]
abbrev dktX6_kept_2 : List UInt8 := dkwX6_kept_2 ++ []
def dkwX6_kept_1 : List UInt8 := [20, 2, 0, 184, 1, 41, 153, 0, 19, 42, 180, 0, 139, 16, 42, 6, 27, 104, 96, 28, 96, 46]
abbrev dktX6_kept_1 : List UInt8 := dkwX6_kept_1 ++ dktX6_kept_2
def dkwX6_kept_0 : List UInt8 := [27, 133, 9, 42, 180, 0, 139, 16, 41, 46, 4, 100, 133, 184, 1, 41, 153, 0, 31, 28, 133, 9]
abbrev dktX6_kept_0 : List UInt8 := dkwX6_kept_0 ++ dktX6_kept_1
theorem dksX6_kept_0 : cX6_kept.data.toList.drop 0 = dktX6_kept_0 := by decide +kernel
theorem dksX6_kept_1 : cX6_kept.data.toList.drop 22 = dktX6_kept_1 := dk_seg dksX6_kept_0 22 rfl rfl
theorem dksX6_kept_2 : cX6_kept.data.toList.drop 44 = dktX6_kept_2 := dk_seg dksX6_kept_1 22 rfl rfl
theorem dX6_kept_0 : decode cX6_kept 0 = .ok (.iload_n 1, 1) := dk_27 (dk_at dksX6_kept_0 0 rfl rfl)
theorem dX6_kept_1 : decode cX6_kept 1 = .ok (.i2l, 1) := dk_133 (dk_at dksX6_kept_0 1 rfl rfl)
theorem dX6_kept_2 : decode cX6_kept 2 = .ok (.lconst 0, 1) := dk_9 (dk_at dksX6_kept_0 2 rfl rfl)
theorem dX6_kept_3 : decode cX6_kept 3 = .ok (.aload_n 0, 1) := dk_42 (dk_at dksX6_kept_0 3 rfl rfl)
theorem dX6_kept_4 : decode cX6_kept 4 = .ok (.getfield 139, 3) := dk_180 0 139 (dk_at dksX6_kept_0 4 rfl rfl)
theorem dX6_kept_7 : decode cX6_kept 7 = .ok (.bipush 41, 2) := dk_16 41 (dk_at dksX6_kept_0 7 rfl rfl)
theorem dX6_kept_9 : decode cX6_kept 9 = .ok (.iaload, 1) := dk_46 (dk_at dksX6_kept_0 9 rfl rfl)
theorem dX6_kept_10 : decode cX6_kept 10 = .ok (.iconst 1, 1) := dk_4 (dk_at dksX6_kept_0 10 rfl rfl)
theorem dX6_kept_11 : decode cX6_kept 11 = .ok (.isub, 1) := dk_100 (dk_at dksX6_kept_0 11 rfl rfl)
theorem dX6_kept_12 : decode cX6_kept 12 = .ok (.i2l, 1) := dk_133 (dk_at dksX6_kept_0 12 rfl rfl)
theorem dX6_kept_13 : decode cX6_kept 13 = .ok (.invokestatic 297, 3) := dk_184 1 41 (dk_at dksX6_kept_0 13 rfl rfl)
theorem dX6_kept_16 : decode cX6_kept 16 = .ok (.ifCond .eq 31, 3) := dk_153 0 31 (dk_at dksX6_kept_0 16 rfl rfl)
theorem dX6_kept_19 : decode cX6_kept 19 = .ok (.iload_n 2, 1) := dk_28 (dk_at dksX6_kept_0 19 rfl rfl)
theorem dX6_kept_20 : decode cX6_kept 20 = .ok (.i2l, 1) := dk_133 (dk_at dksX6_kept_0 20 rfl rfl)
theorem dX6_kept_21 : decode cX6_kept 21 = .ok (.lconst 0, 1) := dk_9 (dk_at dksX6_kept_0 21 rfl rfl)
theorem dX6_kept_22 : decode cX6_kept 22 = .ok (.ldc2_w 512, 3) := dk_20 2 0 (dk_at dksX6_kept_1 0 rfl rfl)
theorem dX6_kept_25 : decode cX6_kept 25 = .ok (.invokestatic 297, 3) := dk_184 1 41 (dk_at dksX6_kept_1 3 rfl rfl)
theorem dX6_kept_28 : decode cX6_kept 28 = .ok (.ifCond .eq 19, 3) := dk_153 0 19 (dk_at dksX6_kept_1 6 rfl rfl)
theorem dX6_kept_31 : decode cX6_kept 31 = .ok (.aload_n 0, 1) := dk_42 (dk_at dksX6_kept_1 9 rfl rfl)
theorem dX6_kept_32 : decode cX6_kept 32 = .ok (.getfield 139, 3) := dk_180 0 139 (dk_at dksX6_kept_1 10 rfl rfl)
theorem dX6_kept_35 : decode cX6_kept 35 = .ok (.bipush 42, 2) := dk_16 42 (dk_at dksX6_kept_1 13 rfl rfl)
theorem dX6_kept_37 : decode cX6_kept 37 = .ok (.iconst 3, 1) := dk_6 (dk_at dksX6_kept_1 15 rfl rfl)
theorem dX6_kept_38 : decode cX6_kept 38 = .ok (.iload_n 1, 1) := dk_27 (dk_at dksX6_kept_1 16 rfl rfl)
theorem dX6_kept_39 : decode cX6_kept 39 = .ok (.imul, 1) := dk_104 (dk_at dksX6_kept_1 17 rfl rfl)
theorem dX6_kept_40 : decode cX6_kept 40 = .ok (.iadd, 1) := dk_96 (dk_at dksX6_kept_1 18 rfl rfl)
theorem dX6_kept_41 : decode cX6_kept 41 = .ok (.iload_n 2, 1) := dk_28 (dk_at dksX6_kept_1 19 rfl rfl)
theorem dX6_kept_42 : decode cX6_kept 42 = .ok (.iadd, 1) := dk_96 (dk_at dksX6_kept_1 20 rfl rfl)
theorem dX6_kept_43 : decode cX6_kept 43 = .ok (.iaload, 1) := dk_46 (dk_at dksX6_kept_1 21 rfl rfl)
theorem dX6_kept_44 : decode cX6_kept 44 = .ok (.goto 4, 3) := dk_167 0 4 (dk_at dksX6_kept_2 0 rfl rfl)
theorem dX6_kept_47 : decode cX6_kept 47 = .ok (.iconst (-1), 1) := dk_2 (dk_at dksX6_kept_2 3 rfl rfl)
theorem dX6_kept_48 : decode cX6_kept 48 = .ok (.ireturn, 1) := dk_172 (dk_at dksX6_kept_2 4 rfl rfl)
abbrev cX6_later : ByteArray := prog_22_method_70_code
def yX6_later : MethodName := ⟨RX6, "later", "(II)I"⟩
def dkwX6_later_2 : List UInt8 := [167, 0, 17, 42, 28, 6, 160, 0, 7, 4, 167, 0, 4, 3, 182, 1, 233, 62, 42, 182, 2, 13, 29, 172]
abbrev dktX6_later_2 : List UInt8 := dkwX6_later_2 ++ []
def dkwX6_later_1 : List UInt8 := [172, 42, 182, 2, 7, 42, 27, 182, 2, 10, 28, 5, 162, 0, 13, 42, 28, 4, 96, 182, 1, 230]
abbrev dktX6_later_1 : List UInt8 := dkwX6_later_1 ++ dktX6_later_2
def dkwX6_later_0 : List UInt8 := [42, 27, 3, 16, 40, 182, 2, 2, 153, 0, 15, 28, 133, 9, 20, 2, 5, 184, 1, 41, 154, 0, 5, 2]
abbrev dktX6_later_0 : List UInt8 := dkwX6_later_0 ++ dktX6_later_1
theorem dksX6_later_0 : cX6_later.data.toList.drop 0 = dktX6_later_0 := by decide +kernel
theorem dksX6_later_1 : cX6_later.data.toList.drop 24 = dktX6_later_1 := dk_seg dksX6_later_0 24 rfl rfl
theorem dksX6_later_2 : cX6_later.data.toList.drop 46 = dktX6_later_2 := dk_seg dksX6_later_1 22 rfl rfl
theorem dX6_later_0 : decode cX6_later 0 = .ok (.aload_n 0, 1) := dk_42 (dk_at dksX6_later_0 0 rfl rfl)
theorem dX6_later_1 : decode cX6_later 1 = .ok (.iload_n 1, 1) := dk_27 (dk_at dksX6_later_0 1 rfl rfl)
theorem dX6_later_2 : decode cX6_later 2 = .ok (.iconst 0, 1) := dk_3 (dk_at dksX6_later_0 2 rfl rfl)
theorem dX6_later_3 : decode cX6_later 3 = .ok (.bipush 40, 2) := dk_16 40 (dk_at dksX6_later_0 3 rfl rfl)
theorem dX6_later_5 : decode cX6_later 5 = .ok (.invokevirtual 514, 3) := dk_182 2 2 (dk_at dksX6_later_0 5 rfl rfl)
theorem dX6_later_8 : decode cX6_later 8 = .ok (.ifCond .eq 15, 3) := dk_153 0 15 (dk_at dksX6_later_0 8 rfl rfl)
theorem dX6_later_11 : decode cX6_later 11 = .ok (.iload_n 2, 1) := dk_28 (dk_at dksX6_later_0 11 rfl rfl)
theorem dX6_later_12 : decode cX6_later 12 = .ok (.i2l, 1) := dk_133 (dk_at dksX6_later_0 12 rfl rfl)
theorem dX6_later_13 : decode cX6_later 13 = .ok (.lconst 0, 1) := dk_9 (dk_at dksX6_later_0 13 rfl rfl)
theorem dX6_later_14 : decode cX6_later 14 = .ok (.ldc2_w 517, 3) := dk_20 2 5 (dk_at dksX6_later_0 14 rfl rfl)
theorem dX6_later_17 : decode cX6_later 17 = .ok (.invokestatic 297, 3) := dk_184 1 41 (dk_at dksX6_later_0 17 rfl rfl)
theorem dX6_later_20 : decode cX6_later 20 = .ok (.ifCond .ne 5, 3) := dk_154 0 5 (dk_at dksX6_later_0 20 rfl rfl)
theorem dX6_later_23 : decode cX6_later 23 = .ok (.iconst (-1), 1) := dk_2 (dk_at dksX6_later_0 23 rfl rfl)
theorem dX6_later_24 : decode cX6_later 24 = .ok (.ireturn, 1) := dk_172 (dk_at dksX6_later_1 0 rfl rfl)
theorem dX6_later_25 : decode cX6_later 25 = .ok (.aload_n 0, 1) := dk_42 (dk_at dksX6_later_1 1 rfl rfl)
theorem dX6_later_26 : decode cX6_later 26 = .ok (.invokevirtual 519, 3) := dk_182 2 7 (dk_at dksX6_later_1 2 rfl rfl)
theorem dX6_later_29 : decode cX6_later 29 = .ok (.aload_n 0, 1) := dk_42 (dk_at dksX6_later_1 5 rfl rfl)
theorem dX6_later_30 : decode cX6_later 30 = .ok (.iload_n 1, 1) := dk_27 (dk_at dksX6_later_1 6 rfl rfl)
theorem dX6_later_31 : decode cX6_later 31 = .ok (.invokevirtual 522, 3) := dk_182 2 10 (dk_at dksX6_later_1 7 rfl rfl)
theorem dX6_later_34 : decode cX6_later 34 = .ok (.iload_n 2, 1) := dk_28 (dk_at dksX6_later_1 10 rfl rfl)
theorem dX6_later_35 : decode cX6_later 35 = .ok (.iconst 2, 1) := dk_5 (dk_at dksX6_later_1 11 rfl rfl)
theorem dX6_later_36 : decode cX6_later 36 = .ok (.if_icmp .ge 13, 3) := dk_162 0 13 (dk_at dksX6_later_1 12 rfl rfl)
theorem dX6_later_39 : decode cX6_later 39 = .ok (.aload_n 0, 1) := dk_42 (dk_at dksX6_later_1 15 rfl rfl)
theorem dX6_later_40 : decode cX6_later 40 = .ok (.iload_n 2, 1) := dk_28 (dk_at dksX6_later_1 16 rfl rfl)
theorem dX6_later_41 : decode cX6_later 41 = .ok (.iconst 1, 1) := dk_4 (dk_at dksX6_later_1 17 rfl rfl)
theorem dX6_later_42 : decode cX6_later 42 = .ok (.iadd, 1) := dk_96 (dk_at dksX6_later_1 18 rfl rfl)
theorem dX6_later_43 : decode cX6_later 43 = .ok (.invokevirtual 486, 3) := dk_182 1 230 (dk_at dksX6_later_1 19 rfl rfl)
theorem dX6_later_46 : decode cX6_later 46 = .ok (.goto 17, 3) := dk_167 0 17 (dk_at dksX6_later_2 0 rfl rfl)
theorem dX6_later_49 : decode cX6_later 49 = .ok (.aload_n 0, 1) := dk_42 (dk_at dksX6_later_2 3 rfl rfl)
theorem dX6_later_50 : decode cX6_later 50 = .ok (.iload_n 2, 1) := dk_28 (dk_at dksX6_later_2 4 rfl rfl)
theorem dX6_later_51 : decode cX6_later 51 = .ok (.iconst 3, 1) := dk_6 (dk_at dksX6_later_2 5 rfl rfl)
theorem dX6_later_52 : decode cX6_later 52 = .ok (.if_icmp .ne 7, 3) := dk_160 0 7 (dk_at dksX6_later_2 6 rfl rfl)
theorem dX6_later_55 : decode cX6_later 55 = .ok (.iconst 1, 1) := dk_4 (dk_at dksX6_later_2 9 rfl rfl)
theorem dX6_later_56 : decode cX6_later 56 = .ok (.goto 4, 3) := dk_167 0 4 (dk_at dksX6_later_2 10 rfl rfl)
theorem dX6_later_59 : decode cX6_later 59 = .ok (.iconst 0, 1) := dk_3 (dk_at dksX6_later_2 13 rfl rfl)
theorem dX6_later_60 : decode cX6_later 60 = .ok (.invokevirtual 489, 3) := dk_182 1 233 (dk_at dksX6_later_2 14 rfl rfl)
theorem dX6_later_63 : decode cX6_later 63 = .ok (.istore_n 3, 1) := dk_62 (dk_at dksX6_later_2 17 rfl rfl)
theorem dX6_later_64 : decode cX6_later 64 = .ok (.aload_n 0, 1) := dk_42 (dk_at dksX6_later_2 18 rfl rfl)
theorem dX6_later_65 : decode cX6_later 65 = .ok (.invokevirtual 525, 3) := dk_182 2 13 (dk_at dksX6_later_2 19 rfl rfl)
theorem dX6_later_68 : decode cX6_later 68 = .ok (.iload_n 3, 1) := dk_29 (dk_at dksX6_later_2 22 rfl rfl)
theorem dX6_later_69 : decode cX6_later 69 = .ok (.ireturn, 1) := dk_172 (dk_at dksX6_later_2 23 rfl rfl)
abbrev cX6_isAhead : ByteArray := prog_22_method_60_code
def yX6_isAhead : MethodName := ⟨RX6, "isAhead", "(III)Z"⟩
def dkwX6_isAhead_1 : List UInt8 := [163, 0, 7, 4, 167, 0, 4, 3, 172]
abbrev dktX6_isAhead_1 : List UInt8 := dkwX6_isAhead_1 ++ []
def dkwX6_isAhead_0 : List UInt8 := [27, 133, 28, 133, 29, 133, 184, 1, 41, 153, 0, 21, 42, 180, 0, 139, 3, 46, 27, 96, 17, 3, 231]
abbrev dktX6_isAhead_0 : List UInt8 := dkwX6_isAhead_0 ++ dktX6_isAhead_1
theorem dksX6_isAhead_0 : cX6_isAhead.data.toList.drop 0 = dktX6_isAhead_0 := by decide +kernel
theorem dksX6_isAhead_1 : cX6_isAhead.data.toList.drop 23 = dktX6_isAhead_1 := dk_seg dksX6_isAhead_0 23 rfl rfl
theorem dX6_isAhead_0 : decode cX6_isAhead 0 = .ok (.iload_n 1, 1) := dk_27 (dk_at dksX6_isAhead_0 0 rfl rfl)
theorem dX6_isAhead_1 : decode cX6_isAhead 1 = .ok (.i2l, 1) := dk_133 (dk_at dksX6_isAhead_0 1 rfl rfl)
theorem dX6_isAhead_2 : decode cX6_isAhead 2 = .ok (.iload_n 2, 1) := dk_28 (dk_at dksX6_isAhead_0 2 rfl rfl)
theorem dX6_isAhead_3 : decode cX6_isAhead 3 = .ok (.i2l, 1) := dk_133 (dk_at dksX6_isAhead_0 3 rfl rfl)
theorem dX6_isAhead_4 : decode cX6_isAhead 4 = .ok (.iload_n 3, 1) := dk_29 (dk_at dksX6_isAhead_0 4 rfl rfl)
theorem dX6_isAhead_5 : decode cX6_isAhead 5 = .ok (.i2l, 1) := dk_133 (dk_at dksX6_isAhead_0 5 rfl rfl)
theorem dX6_isAhead_6 : decode cX6_isAhead 6 = .ok (.invokestatic 297, 3) := dk_184 1 41 (dk_at dksX6_isAhead_0 6 rfl rfl)
theorem dX6_isAhead_9 : decode cX6_isAhead 9 = .ok (.ifCond .eq 21, 3) := dk_153 0 21 (dk_at dksX6_isAhead_0 9 rfl rfl)
theorem dX6_isAhead_12 : decode cX6_isAhead 12 = .ok (.aload_n 0, 1) := dk_42 (dk_at dksX6_isAhead_0 12 rfl rfl)
theorem dX6_isAhead_13 : decode cX6_isAhead 13 = .ok (.getfield 139, 3) := dk_180 0 139 (dk_at dksX6_isAhead_0 13 rfl rfl)
theorem dX6_isAhead_16 : decode cX6_isAhead 16 = .ok (.iconst 0, 1) := dk_3 (dk_at dksX6_isAhead_0 16 rfl rfl)
theorem dX6_isAhead_17 : decode cX6_isAhead 17 = .ok (.iaload, 1) := dk_46 (dk_at dksX6_isAhead_0 17 rfl rfl)
theorem dX6_isAhead_18 : decode cX6_isAhead 18 = .ok (.iload_n 1, 1) := dk_27 (dk_at dksX6_isAhead_0 18 rfl rfl)
theorem dX6_isAhead_19 : decode cX6_isAhead 19 = .ok (.iadd, 1) := dk_96 (dk_at dksX6_isAhead_0 19 rfl rfl)
theorem dX6_isAhead_20 : decode cX6_isAhead 20 = .ok (.sipush 999, 3) := dk_17 3 231 (dk_at dksX6_isAhead_0 20 rfl rfl)
theorem dX6_isAhead_23 : decode cX6_isAhead 23 = .ok (.if_icmp .gt 7, 3) := dk_163 0 7 (dk_at dksX6_isAhead_1 0 rfl rfl)
theorem dX6_isAhead_26 : decode cX6_isAhead 26 = .ok (.iconst 1, 1) := dk_4 (dk_at dksX6_isAhead_1 3 rfl rfl)
theorem dX6_isAhead_27 : decode cX6_isAhead 27 = .ok (.goto 4, 3) := dk_167 0 4 (dk_at dksX6_isAhead_1 4 rfl rfl)
theorem dX6_isAhead_30 : decode cX6_isAhead 30 = .ok (.iconst 0, 1) := dk_3 (dk_at dksX6_isAhead_1 7 rfl rfl)
theorem dX6_isAhead_31 : decode cX6_isAhead 31 = .ok (.ireturn, 1) := dk_172 (dk_at dksX6_isAhead_1 8 rfl rfl)
abbrev cX6_putsAside : ByteArray := prog_22_method_57_code
def yX6_putsAside : MethodName := ⟨RX6, "putsAside", "()V"⟩
def dkwX6_putsAside_1 : List UInt8 := [79, 132, 1, 1, 167, 255, 235, 177]
abbrev dktX6_putsAside_1 : List UInt8 := dkwX6_putsAside_1 ++ []
def dkwX6_putsAside_0 : List UInt8 := [42, 4, 181, 1, 187, 3, 60, 27, 16, 41, 162, 0, 21, 42, 180, 0, 142, 27, 42, 180, 0, 139, 27, 46]
abbrev dktX6_putsAside_0 : List UInt8 := dkwX6_putsAside_0 ++ dktX6_putsAside_1
theorem dksX6_putsAside_0 : cX6_putsAside.data.toList.drop 0 = dktX6_putsAside_0 := by decide +kernel
theorem dksX6_putsAside_1 : cX6_putsAside.data.toList.drop 24 = dktX6_putsAside_1 := dk_seg dksX6_putsAside_0 24 rfl rfl
theorem dX6_putsAside_0 : decode cX6_putsAside 0 = .ok (.aload_n 0, 1) := dk_42 (dk_at dksX6_putsAside_0 0 rfl rfl)
theorem dX6_putsAside_1 : decode cX6_putsAside 1 = .ok (.iconst 1, 1) := dk_4 (dk_at dksX6_putsAside_0 1 rfl rfl)
theorem dX6_putsAside_2 : decode cX6_putsAside 2 = .ok (.putfield 443, 3) := dk_181 1 187 (dk_at dksX6_putsAside_0 2 rfl rfl)
theorem dX6_putsAside_5 : decode cX6_putsAside 5 = .ok (.iconst 0, 1) := dk_3 (dk_at dksX6_putsAside_0 5 rfl rfl)
theorem dX6_putsAside_6 : decode cX6_putsAside 6 = .ok (.istore_n 1, 1) := dk_60 (dk_at dksX6_putsAside_0 6 rfl rfl)
theorem dX6_putsAside_7 : decode cX6_putsAside 7 = .ok (.iload_n 1, 1) := dk_27 (dk_at dksX6_putsAside_0 7 rfl rfl)
theorem dX6_putsAside_8 : decode cX6_putsAside 8 = .ok (.bipush 41, 2) := dk_16 41 (dk_at dksX6_putsAside_0 8 rfl rfl)
theorem dX6_putsAside_10 : decode cX6_putsAside 10 = .ok (.if_icmp .ge 21, 3) := dk_162 0 21 (dk_at dksX6_putsAside_0 10 rfl rfl)
theorem dX6_putsAside_13 : decode cX6_putsAside 13 = .ok (.aload_n 0, 1) := dk_42 (dk_at dksX6_putsAside_0 13 rfl rfl)
theorem dX6_putsAside_14 : decode cX6_putsAside 14 = .ok (.getfield 142, 3) := dk_180 0 142 (dk_at dksX6_putsAside_0 14 rfl rfl)
theorem dX6_putsAside_17 : decode cX6_putsAside 17 = .ok (.iload_n 1, 1) := dk_27 (dk_at dksX6_putsAside_0 17 rfl rfl)
theorem dX6_putsAside_18 : decode cX6_putsAside 18 = .ok (.aload_n 0, 1) := dk_42 (dk_at dksX6_putsAside_0 18 rfl rfl)
theorem dX6_putsAside_19 : decode cX6_putsAside 19 = .ok (.getfield 139, 3) := dk_180 0 139 (dk_at dksX6_putsAside_0 19 rfl rfl)
theorem dX6_putsAside_22 : decode cX6_putsAside 22 = .ok (.iload_n 1, 1) := dk_27 (dk_at dksX6_putsAside_0 22 rfl rfl)
theorem dX6_putsAside_23 : decode cX6_putsAside 23 = .ok (.iaload, 1) := dk_46 (dk_at dksX6_putsAside_0 23 rfl rfl)
theorem dX6_putsAside_24 : decode cX6_putsAside 24 = .ok (.iastore, 1) := dk_79 (dk_at dksX6_putsAside_1 0 rfl rfl)
theorem dX6_putsAside_25 : decode cX6_putsAside 25 = .ok (.iinc 1 1, 3) := dk_132 1 1 (dk_at dksX6_putsAside_1 1 rfl rfl)
theorem dX6_putsAside_28 : decode cX6_putsAside 28 = .ok (.goto (-21), 3) := dk_167 255 235 (dk_at dksX6_putsAside_1 4 rfl rfl)
theorem dX6_putsAside_31 : decode cX6_putsAside 31 = .ok (.return_, 1) := dk_177 (dk_at dksX6_putsAside_1 7 rfl rfl)
abbrev cX6_yearsGo : ByteArray := prog_22_method_56_code
def yX6_yearsGo : MethodName := ⟨RX6, "yearsGo", "(I)V"⟩
def dkwX6_yearsGo_0 : List UInt8 := [3, 61, 28, 27, 162, 0, 14, 42, 3, 182, 1, 221, 132, 2, 1, 167, 255, 243, 177]
abbrev dktX6_yearsGo_0 : List UInt8 := dkwX6_yearsGo_0 ++ []
theorem dksX6_yearsGo_0 : cX6_yearsGo.data.toList.drop 0 = dktX6_yearsGo_0 := by decide +kernel
theorem dX6_yearsGo_0 : decode cX6_yearsGo 0 = .ok (.iconst 0, 1) := dk_3 (dk_at dksX6_yearsGo_0 0 rfl rfl)
theorem dX6_yearsGo_1 : decode cX6_yearsGo 1 = .ok (.istore_n 2, 1) := dk_61 (dk_at dksX6_yearsGo_0 1 rfl rfl)
theorem dX6_yearsGo_2 : decode cX6_yearsGo 2 = .ok (.iload_n 2, 1) := dk_28 (dk_at dksX6_yearsGo_0 2 rfl rfl)
theorem dX6_yearsGo_3 : decode cX6_yearsGo 3 = .ok (.iload_n 1, 1) := dk_27 (dk_at dksX6_yearsGo_0 3 rfl rfl)
theorem dX6_yearsGo_4 : decode cX6_yearsGo 4 = .ok (.if_icmp .ge 14, 3) := dk_162 0 14 (dk_at dksX6_yearsGo_0 4 rfl rfl)
theorem dX6_yearsGo_7 : decode cX6_yearsGo 7 = .ok (.aload_n 0, 1) := dk_42 (dk_at dksX6_yearsGo_0 7 rfl rfl)
theorem dX6_yearsGo_8 : decode cX6_yearsGo 8 = .ok (.iconst 0, 1) := dk_3 (dk_at dksX6_yearsGo_0 8 rfl rfl)
theorem dX6_yearsGo_9 : decode cX6_yearsGo 9 = .ok (.invokevirtual 477, 3) := dk_182 1 221 (dk_at dksX6_yearsGo_0 9 rfl rfl)
theorem dX6_yearsGo_12 : decode cX6_yearsGo 12 = .ok (.iinc 2 1, 3) := dk_132 2 1 (dk_at dksX6_yearsGo_0 12 rfl rfl)
theorem dX6_yearsGo_15 : decode cX6_yearsGo 15 = .ok (.goto (-13), 3) := dk_167 255 243 (dk_at dksX6_yearsGo_0 15 rfl rfl)
theorem dX6_yearsGo_18 : decode cX6_yearsGo 18 = .ok (.return_, 1) := dk_177 (dk_at dksX6_yearsGo_0 18 rfl rfl)
abbrev cX6_yearGoes : ByteArray := prog_22_method_55_code
def yX6_yearGoes : MethodName := ⟨RX6, "yearGoes", "(I)V"⟩
def dkwX6_yearGoes_3 : List UInt8 := [182, 1, 206, 132, 2, 1, 167, 255, 217, 42, 180, 0, 139, 3, 92, 46, 4, 96, 79, 177]
abbrev dktX6_yearGoes_3 : List UInt8 := dkwX6_yearGoes_3 ++ []
def dkwX6_yearGoes_2 : List UInt8 := [182, 1, 215, 154, 0, 23, 42, 28, 182, 1, 218, 153, 0, 15, 42, 28, 5, 182, 1, 200, 42, 28, 5]
abbrev dktX6_yearGoes_2 : List UInt8 := dkwX6_yearGoes_2 ++ dktX6_yearGoes_3
def dkwX6_yearGoes_1 : List UInt8 := [28, 182, 1, 212, 132, 2, 1, 167, 255, 232, 3, 61, 28, 42, 182, 1, 145, 162, 0, 37, 42, 28]
abbrev dktX6_yearGoes_1 : List UInt8 := dkwX6_yearGoes_1 ++ dktX6_yearGoes_2
def dkwX6_yearGoes_0 : List UInt8 := [42, 27, 182, 1, 209, 3, 61, 28, 42, 182, 1, 145, 162, 0, 22, 27, 28, 122, 4, 126, 154, 0, 8, 42]
abbrev dktX6_yearGoes_0 : List UInt8 := dkwX6_yearGoes_0 ++ dktX6_yearGoes_1
theorem dksX6_yearGoes_0 : cX6_yearGoes.data.toList.drop 0 = dktX6_yearGoes_0 := by decide +kernel
theorem dksX6_yearGoes_1 : cX6_yearGoes.data.toList.drop 24 = dktX6_yearGoes_1 := dk_seg dksX6_yearGoes_0 24 rfl rfl
theorem dksX6_yearGoes_2 : cX6_yearGoes.data.toList.drop 46 = dktX6_yearGoes_2 := dk_seg dksX6_yearGoes_1 22 rfl rfl
theorem dksX6_yearGoes_3 : cX6_yearGoes.data.toList.drop 69 = dktX6_yearGoes_3 := dk_seg dksX6_yearGoes_2 23 rfl rfl
theorem dX6_yearGoes_0 : decode cX6_yearGoes 0 = .ok (.aload_n 0, 1) := dk_42 (dk_at dksX6_yearGoes_0 0 rfl rfl)
theorem dX6_yearGoes_1 : decode cX6_yearGoes 1 = .ok (.iload_n 1, 1) := dk_27 (dk_at dksX6_yearGoes_0 1 rfl rfl)
theorem dX6_yearGoes_2 : decode cX6_yearGoes 2 = .ok (.invokevirtual 465, 3) := dk_182 1 209 (dk_at dksX6_yearGoes_0 2 rfl rfl)
theorem dX6_yearGoes_5 : decode cX6_yearGoes 5 = .ok (.iconst 0, 1) := dk_3 (dk_at dksX6_yearGoes_0 5 rfl rfl)
theorem dX6_yearGoes_6 : decode cX6_yearGoes 6 = .ok (.istore_n 2, 1) := dk_61 (dk_at dksX6_yearGoes_0 6 rfl rfl)
theorem dX6_yearGoes_7 : decode cX6_yearGoes 7 = .ok (.iload_n 2, 1) := dk_28 (dk_at dksX6_yearGoes_0 7 rfl rfl)
theorem dX6_yearGoes_8 : decode cX6_yearGoes 8 = .ok (.aload_n 0, 1) := dk_42 (dk_at dksX6_yearGoes_0 8 rfl rfl)
theorem dX6_yearGoes_9 : decode cX6_yearGoes 9 = .ok (.invokevirtual 401, 3) := dk_182 1 145 (dk_at dksX6_yearGoes_0 9 rfl rfl)
theorem dX6_yearGoes_12 : decode cX6_yearGoes 12 = .ok (.if_icmp .ge 22, 3) := dk_162 0 22 (dk_at dksX6_yearGoes_0 12 rfl rfl)
theorem dX6_yearGoes_15 : decode cX6_yearGoes 15 = .ok (.iload_n 1, 1) := dk_27 (dk_at dksX6_yearGoes_0 15 rfl rfl)
theorem dX6_yearGoes_16 : decode cX6_yearGoes 16 = .ok (.iload_n 2, 1) := dk_28 (dk_at dksX6_yearGoes_0 16 rfl rfl)
theorem dX6_yearGoes_17 : decode cX6_yearGoes 17 = .ok (.ishr, 1) := dk_122 (dk_at dksX6_yearGoes_0 17 rfl rfl)
theorem dX6_yearGoes_18 : decode cX6_yearGoes 18 = .ok (.iconst 1, 1) := dk_4 (dk_at dksX6_yearGoes_0 18 rfl rfl)
theorem dX6_yearGoes_19 : decode cX6_yearGoes 19 = .ok (.iand, 1) := dk_126 (dk_at dksX6_yearGoes_0 19 rfl rfl)
theorem dX6_yearGoes_20 : decode cX6_yearGoes 20 = .ok (.ifCond .ne 8, 3) := dk_154 0 8 (dk_at dksX6_yearGoes_0 20 rfl rfl)
theorem dX6_yearGoes_23 : decode cX6_yearGoes 23 = .ok (.aload_n 0, 1) := dk_42 (dk_at dksX6_yearGoes_0 23 rfl rfl)
theorem dX6_yearGoes_24 : decode cX6_yearGoes 24 = .ok (.iload_n 2, 1) := dk_28 (dk_at dksX6_yearGoes_1 0 rfl rfl)
theorem dX6_yearGoes_25 : decode cX6_yearGoes 25 = .ok (.invokevirtual 468, 3) := dk_182 1 212 (dk_at dksX6_yearGoes_1 1 rfl rfl)
theorem dX6_yearGoes_28 : decode cX6_yearGoes 28 = .ok (.iinc 2 1, 3) := dk_132 2 1 (dk_at dksX6_yearGoes_1 4 rfl rfl)
theorem dX6_yearGoes_31 : decode cX6_yearGoes 31 = .ok (.goto (-24), 3) := dk_167 255 232 (dk_at dksX6_yearGoes_1 7 rfl rfl)
theorem dX6_yearGoes_34 : decode cX6_yearGoes 34 = .ok (.iconst 0, 1) := dk_3 (dk_at dksX6_yearGoes_1 10 rfl rfl)
theorem dX6_yearGoes_35 : decode cX6_yearGoes 35 = .ok (.istore_n 2, 1) := dk_61 (dk_at dksX6_yearGoes_1 11 rfl rfl)
theorem dX6_yearGoes_36 : decode cX6_yearGoes 36 = .ok (.iload_n 2, 1) := dk_28 (dk_at dksX6_yearGoes_1 12 rfl rfl)
theorem dX6_yearGoes_37 : decode cX6_yearGoes 37 = .ok (.aload_n 0, 1) := dk_42 (dk_at dksX6_yearGoes_1 13 rfl rfl)
theorem dX6_yearGoes_38 : decode cX6_yearGoes 38 = .ok (.invokevirtual 401, 3) := dk_182 1 145 (dk_at dksX6_yearGoes_1 14 rfl rfl)
theorem dX6_yearGoes_41 : decode cX6_yearGoes 41 = .ok (.if_icmp .ge 37, 3) := dk_162 0 37 (dk_at dksX6_yearGoes_1 17 rfl rfl)
theorem dX6_yearGoes_44 : decode cX6_yearGoes 44 = .ok (.aload_n 0, 1) := dk_42 (dk_at dksX6_yearGoes_1 20 rfl rfl)
theorem dX6_yearGoes_45 : decode cX6_yearGoes 45 = .ok (.iload_n 2, 1) := dk_28 (dk_at dksX6_yearGoes_1 21 rfl rfl)
theorem dX6_yearGoes_46 : decode cX6_yearGoes 46 = .ok (.invokevirtual 471, 3) := dk_182 1 215 (dk_at dksX6_yearGoes_2 0 rfl rfl)
theorem dX6_yearGoes_49 : decode cX6_yearGoes 49 = .ok (.ifCond .ne 23, 3) := dk_154 0 23 (dk_at dksX6_yearGoes_2 3 rfl rfl)
theorem dX6_yearGoes_52 : decode cX6_yearGoes 52 = .ok (.aload_n 0, 1) := dk_42 (dk_at dksX6_yearGoes_2 6 rfl rfl)
theorem dX6_yearGoes_53 : decode cX6_yearGoes 53 = .ok (.iload_n 2, 1) := dk_28 (dk_at dksX6_yearGoes_2 7 rfl rfl)
theorem dX6_yearGoes_54 : decode cX6_yearGoes 54 = .ok (.invokevirtual 474, 3) := dk_182 1 218 (dk_at dksX6_yearGoes_2 8 rfl rfl)
theorem dX6_yearGoes_57 : decode cX6_yearGoes 57 = .ok (.ifCond .eq 15, 3) := dk_153 0 15 (dk_at dksX6_yearGoes_2 11 rfl rfl)
theorem dX6_yearGoes_60 : decode cX6_yearGoes 60 = .ok (.aload_n 0, 1) := dk_42 (dk_at dksX6_yearGoes_2 14 rfl rfl)
theorem dX6_yearGoes_61 : decode cX6_yearGoes 61 = .ok (.iload_n 2, 1) := dk_28 (dk_at dksX6_yearGoes_2 15 rfl rfl)
theorem dX6_yearGoes_62 : decode cX6_yearGoes 62 = .ok (.iconst 2, 1) := dk_5 (dk_at dksX6_yearGoes_2 16 rfl rfl)
theorem dX6_yearGoes_63 : decode cX6_yearGoes 63 = .ok (.invokevirtual 456, 3) := dk_182 1 200 (dk_at dksX6_yearGoes_2 17 rfl rfl)
theorem dX6_yearGoes_66 : decode cX6_yearGoes 66 = .ok (.aload_n 0, 1) := dk_42 (dk_at dksX6_yearGoes_2 20 rfl rfl)
theorem dX6_yearGoes_67 : decode cX6_yearGoes 67 = .ok (.iload_n 2, 1) := dk_28 (dk_at dksX6_yearGoes_2 21 rfl rfl)
theorem dX6_yearGoes_68 : decode cX6_yearGoes 68 = .ok (.iconst 2, 1) := dk_5 (dk_at dksX6_yearGoes_2 22 rfl rfl)
theorem dX6_yearGoes_69 : decode cX6_yearGoes 69 = .ok (.invokevirtual 462, 3) := dk_182 1 206 (dk_at dksX6_yearGoes_3 0 rfl rfl)
theorem dX6_yearGoes_72 : decode cX6_yearGoes 72 = .ok (.iinc 2 1, 3) := dk_132 2 1 (dk_at dksX6_yearGoes_3 3 rfl rfl)
theorem dX6_yearGoes_75 : decode cX6_yearGoes 75 = .ok (.goto (-39), 3) := dk_167 255 217 (dk_at dksX6_yearGoes_3 6 rfl rfl)
theorem dX6_yearGoes_78 : decode cX6_yearGoes 78 = .ok (.aload_n 0, 1) := dk_42 (dk_at dksX6_yearGoes_3 9 rfl rfl)
theorem dX6_yearGoes_79 : decode cX6_yearGoes 79 = .ok (.getfield 139, 3) := dk_180 0 139 (dk_at dksX6_yearGoes_3 10 rfl rfl)
theorem dX6_yearGoes_82 : decode cX6_yearGoes 82 = .ok (.iconst 0, 1) := dk_3 (dk_at dksX6_yearGoes_3 13 rfl rfl)
theorem dX6_yearGoes_83 : decode cX6_yearGoes 83 = .ok (.dup2, 1) := dk_92 (dk_at dksX6_yearGoes_3 14 rfl rfl)
theorem dX6_yearGoes_84 : decode cX6_yearGoes 84 = .ok (.iaload, 1) := dk_46 (dk_at dksX6_yearGoes_3 15 rfl rfl)
theorem dX6_yearGoes_85 : decode cX6_yearGoes 85 = .ok (.iconst 1, 1) := dk_4 (dk_at dksX6_yearGoes_3 16 rfl rfl)
theorem dX6_yearGoes_86 : decode cX6_yearGoes 86 = .ok (.iadd, 1) := dk_96 (dk_at dksX6_yearGoes_3 17 rfl rfl)
theorem dX6_yearGoes_87 : decode cX6_yearGoes 87 = .ok (.iastore, 1) := dk_79 (dk_at dksX6_yearGoes_3 18 rfl rfl)
theorem dX6_yearGoes_88 : decode cX6_yearGoes 88 = .ok (.return_, 1) := dk_177 (dk_at dksX6_yearGoes_3 19 rfl rfl)
abbrev cX6_allTaught : ByteArray := prog_22_method_51_code
def yX6_allTaught : MethodName := ⟨RX6, "allTaught", "(I)V"⟩
def dkwX6_allTaught_6 : List UInt8 := [46, 42, 180, 0, 148, 28, 46, 182, 1, 183, 132, 2, 1, 167, 255, 218, 177]
abbrev dktX6_allTaught_6 : List UInt8 := dkwX6_allTaught_6 ++ []
def dkwX6_allTaught_5 : List UInt8 := [42, 182, 1, 145, 162, 0, 36, 42, 180, 0, 145, 28, 46, 2, 159, 0, 20, 42, 28, 42, 180, 0, 145, 28]
abbrev dktX6_allTaught_5 : List UInt8 := dkwX6_allTaught_5 ++ dktX6_allTaught_6
def dkwX6_allTaught_4 : List UInt8 := [180, 0, 148, 28, 21, 4, 153, 0, 7, 5, 167, 0, 4, 4, 79, 132, 2, 1, 167, 255, 145, 3, 61, 28]
abbrev dktX6_allTaught_4 : List UInt8 := dkwX6_allTaught_4 ++ dktX6_allTaught_5
def dkwX6_allTaught_3 : List UInt8 := [7, 46, 2, 159, 0, 17, 42, 4, 28, 29, 182, 1, 177, 153, 0, 7, 4, 167, 0, 4, 3, 54, 4, 42]
abbrev dktX6_allTaught_3 : List UInt8 := dkwX6_allTaught_3 ++ dktX6_allTaught_4
def dkwX6_allTaught_2 : List UInt8 := [182, 1, 174, 154, 0, 41, 42, 42, 28, 182, 1, 154, 29, 182, 1, 174, 5, 159, 0, 23, 42, 180, 0, 130]
abbrev dktX6_allTaught_2 : List UInt8 := dkwX6_allTaught_2 ++ dktX6_allTaught_3
def dkwX6_allTaught_1 : List UInt8 := [28, 182, 1, 180, 62, 42, 180, 0, 145, 28, 29, 79, 29, 2, 160, 0, 6, 167, 0, 69, 42, 28, 29]
abbrev dktX6_allTaught_1 : List UInt8 := dkwX6_allTaught_1 ++ dktX6_allTaught_2
def dkwX6_allTaught_0 : List UInt8 := [3, 61, 28, 42, 182, 1, 145, 162, 0, 109, 27, 28, 122, 4, 126, 4, 160, 0, 7, 2, 167, 0, 8, 42]
abbrev dktX6_allTaught_0 : List UInt8 := dkwX6_allTaught_0 ++ dktX6_allTaught_1
theorem dksX6_allTaught_0 : cX6_allTaught.data.toList.drop 0 = dktX6_allTaught_0 := by decide +kernel
theorem dksX6_allTaught_1 : cX6_allTaught.data.toList.drop 24 = dktX6_allTaught_1 := dk_seg dksX6_allTaught_0 24 rfl rfl
theorem dksX6_allTaught_2 : cX6_allTaught.data.toList.drop 47 = dktX6_allTaught_2 := dk_seg dksX6_allTaught_1 23 rfl rfl
theorem dksX6_allTaught_3 : cX6_allTaught.data.toList.drop 71 = dktX6_allTaught_3 := dk_seg dksX6_allTaught_2 24 rfl rfl
theorem dksX6_allTaught_4 : cX6_allTaught.data.toList.drop 95 = dktX6_allTaught_4 := dk_seg dksX6_allTaught_3 24 rfl rfl
theorem dksX6_allTaught_5 : cX6_allTaught.data.toList.drop 119 = dktX6_allTaught_5 := dk_seg dksX6_allTaught_4 24 rfl rfl
theorem dksX6_allTaught_6 : cX6_allTaught.data.toList.drop 143 = dktX6_allTaught_6 := dk_seg dksX6_allTaught_5 24 rfl rfl
theorem dX6_allTaught_0 : decode cX6_allTaught 0 = .ok (.iconst 0, 1) := dk_3 (dk_at dksX6_allTaught_0 0 rfl rfl)
theorem dX6_allTaught_1 : decode cX6_allTaught 1 = .ok (.istore_n 2, 1) := dk_61 (dk_at dksX6_allTaught_0 1 rfl rfl)
theorem dX6_allTaught_2 : decode cX6_allTaught 2 = .ok (.iload_n 2, 1) := dk_28 (dk_at dksX6_allTaught_0 2 rfl rfl)
theorem dX6_allTaught_3 : decode cX6_allTaught 3 = .ok (.aload_n 0, 1) := dk_42 (dk_at dksX6_allTaught_0 3 rfl rfl)
theorem dX6_allTaught_4 : decode cX6_allTaught 4 = .ok (.invokevirtual 401, 3) := dk_182 1 145 (dk_at dksX6_allTaught_0 4 rfl rfl)
theorem dX6_allTaught_7 : decode cX6_allTaught 7 = .ok (.if_icmp .ge 109, 3) := dk_162 0 109 (dk_at dksX6_allTaught_0 7 rfl rfl)
theorem dX6_allTaught_10 : decode cX6_allTaught 10 = .ok (.iload_n 1, 1) := dk_27 (dk_at dksX6_allTaught_0 10 rfl rfl)
theorem dX6_allTaught_11 : decode cX6_allTaught 11 = .ok (.iload_n 2, 1) := dk_28 (dk_at dksX6_allTaught_0 11 rfl rfl)
theorem dX6_allTaught_12 : decode cX6_allTaught 12 = .ok (.ishr, 1) := dk_122 (dk_at dksX6_allTaught_0 12 rfl rfl)
theorem dX6_allTaught_13 : decode cX6_allTaught 13 = .ok (.iconst 1, 1) := dk_4 (dk_at dksX6_allTaught_0 13 rfl rfl)
theorem dX6_allTaught_14 : decode cX6_allTaught 14 = .ok (.iand, 1) := dk_126 (dk_at dksX6_allTaught_0 14 rfl rfl)
theorem dX6_allTaught_15 : decode cX6_allTaught 15 = .ok (.iconst 1, 1) := dk_4 (dk_at dksX6_allTaught_0 15 rfl rfl)
theorem dX6_allTaught_16 : decode cX6_allTaught 16 = .ok (.if_icmp .ne 7, 3) := dk_160 0 7 (dk_at dksX6_allTaught_0 16 rfl rfl)
theorem dX6_allTaught_19 : decode cX6_allTaught 19 = .ok (.iconst (-1), 1) := dk_2 (dk_at dksX6_allTaught_0 19 rfl rfl)
theorem dX6_allTaught_20 : decode cX6_allTaught 20 = .ok (.goto 8, 3) := dk_167 0 8 (dk_at dksX6_allTaught_0 20 rfl rfl)
theorem dX6_allTaught_23 : decode cX6_allTaught 23 = .ok (.aload_n 0, 1) := dk_42 (dk_at dksX6_allTaught_0 23 rfl rfl)
theorem dX6_allTaught_24 : decode cX6_allTaught 24 = .ok (.iload_n 2, 1) := dk_28 (dk_at dksX6_allTaught_1 0 rfl rfl)
theorem dX6_allTaught_25 : decode cX6_allTaught 25 = .ok (.invokevirtual 436, 3) := dk_182 1 180 (dk_at dksX6_allTaught_1 1 rfl rfl)
theorem dX6_allTaught_28 : decode cX6_allTaught 28 = .ok (.istore_n 3, 1) := dk_62 (dk_at dksX6_allTaught_1 4 rfl rfl)
theorem dX6_allTaught_29 : decode cX6_allTaught 29 = .ok (.aload_n 0, 1) := dk_42 (dk_at dksX6_allTaught_1 5 rfl rfl)
theorem dX6_allTaught_30 : decode cX6_allTaught 30 = .ok (.getfield 145, 3) := dk_180 0 145 (dk_at dksX6_allTaught_1 6 rfl rfl)
theorem dX6_allTaught_33 : decode cX6_allTaught 33 = .ok (.iload_n 2, 1) := dk_28 (dk_at dksX6_allTaught_1 9 rfl rfl)
theorem dX6_allTaught_34 : decode cX6_allTaught 34 = .ok (.iload_n 3, 1) := dk_29 (dk_at dksX6_allTaught_1 10 rfl rfl)
theorem dX6_allTaught_35 : decode cX6_allTaught 35 = .ok (.iastore, 1) := dk_79 (dk_at dksX6_allTaught_1 11 rfl rfl)
theorem dX6_allTaught_36 : decode cX6_allTaught 36 = .ok (.iload_n 3, 1) := dk_29 (dk_at dksX6_allTaught_1 12 rfl rfl)
theorem dX6_allTaught_37 : decode cX6_allTaught 37 = .ok (.iconst (-1), 1) := dk_2 (dk_at dksX6_allTaught_1 13 rfl rfl)
theorem dX6_allTaught_38 : decode cX6_allTaught 38 = .ok (.if_icmp .ne 6, 3) := dk_160 0 6 (dk_at dksX6_allTaught_1 14 rfl rfl)
theorem dX6_allTaught_41 : decode cX6_allTaught 41 = .ok (.goto 69, 3) := dk_167 0 69 (dk_at dksX6_allTaught_1 17 rfl rfl)
theorem dX6_allTaught_44 : decode cX6_allTaught 44 = .ok (.aload_n 0, 1) := dk_42 (dk_at dksX6_allTaught_1 20 rfl rfl)
theorem dX6_allTaught_45 : decode cX6_allTaught 45 = .ok (.iload_n 2, 1) := dk_28 (dk_at dksX6_allTaught_1 21 rfl rfl)
theorem dX6_allTaught_46 : decode cX6_allTaught 46 = .ok (.iload_n 3, 1) := dk_29 (dk_at dksX6_allTaught_1 22 rfl rfl)
theorem dX6_allTaught_47 : decode cX6_allTaught 47 = .ok (.invokevirtual 430, 3) := dk_182 1 174 (dk_at dksX6_allTaught_2 0 rfl rfl)
theorem dX6_allTaught_50 : decode cX6_allTaught 50 = .ok (.ifCond .ne 41, 3) := dk_154 0 41 (dk_at dksX6_allTaught_2 3 rfl rfl)
theorem dX6_allTaught_53 : decode cX6_allTaught 53 = .ok (.aload_n 0, 1) := dk_42 (dk_at dksX6_allTaught_2 6 rfl rfl)
theorem dX6_allTaught_54 : decode cX6_allTaught 54 = .ok (.aload_n 0, 1) := dk_42 (dk_at dksX6_allTaught_2 7 rfl rfl)
theorem dX6_allTaught_55 : decode cX6_allTaught 55 = .ok (.iload_n 2, 1) := dk_28 (dk_at dksX6_allTaught_2 8 rfl rfl)
theorem dX6_allTaught_56 : decode cX6_allTaught 56 = .ok (.invokevirtual 410, 3) := dk_182 1 154 (dk_at dksX6_allTaught_2 9 rfl rfl)
theorem dX6_allTaught_59 : decode cX6_allTaught 59 = .ok (.iload_n 3, 1) := dk_29 (dk_at dksX6_allTaught_2 12 rfl rfl)
theorem dX6_allTaught_60 : decode cX6_allTaught 60 = .ok (.invokevirtual 430, 3) := dk_182 1 174 (dk_at dksX6_allTaught_2 13 rfl rfl)
theorem dX6_allTaught_63 : decode cX6_allTaught 63 = .ok (.iconst 2, 1) := dk_5 (dk_at dksX6_allTaught_2 16 rfl rfl)
theorem dX6_allTaught_64 : decode cX6_allTaught 64 = .ok (.if_icmp .eq 23, 3) := dk_159 0 23 (dk_at dksX6_allTaught_2 17 rfl rfl)
theorem dX6_allTaught_67 : decode cX6_allTaught 67 = .ok (.aload_n 0, 1) := dk_42 (dk_at dksX6_allTaught_2 20 rfl rfl)
theorem dX6_allTaught_68 : decode cX6_allTaught 68 = .ok (.getfield 130, 3) := dk_180 0 130 (dk_at dksX6_allTaught_2 21 rfl rfl)
theorem dX6_allTaught_71 : decode cX6_allTaught 71 = .ok (.iconst 4, 1) := dk_7 (dk_at dksX6_allTaught_3 0 rfl rfl)
theorem dX6_allTaught_72 : decode cX6_allTaught 72 = .ok (.iaload, 1) := dk_46 (dk_at dksX6_allTaught_3 1 rfl rfl)
theorem dX6_allTaught_73 : decode cX6_allTaught 73 = .ok (.iconst (-1), 1) := dk_2 (dk_at dksX6_allTaught_3 2 rfl rfl)
theorem dX6_allTaught_74 : decode cX6_allTaught 74 = .ok (.if_icmp .eq 17, 3) := dk_159 0 17 (dk_at dksX6_allTaught_3 3 rfl rfl)
theorem dX6_allTaught_77 : decode cX6_allTaught 77 = .ok (.aload_n 0, 1) := dk_42 (dk_at dksX6_allTaught_3 6 rfl rfl)
theorem dX6_allTaught_78 : decode cX6_allTaught 78 = .ok (.iconst 1, 1) := dk_4 (dk_at dksX6_allTaught_3 7 rfl rfl)
theorem dX6_allTaught_79 : decode cX6_allTaught 79 = .ok (.iload_n 2, 1) := dk_28 (dk_at dksX6_allTaught_3 8 rfl rfl)
theorem dX6_allTaught_80 : decode cX6_allTaught 80 = .ok (.iload_n 3, 1) := dk_29 (dk_at dksX6_allTaught_3 9 rfl rfl)
theorem dX6_allTaught_81 : decode cX6_allTaught 81 = .ok (.invokevirtual 433, 3) := dk_182 1 177 (dk_at dksX6_allTaught_3 10 rfl rfl)
theorem dX6_allTaught_84 : decode cX6_allTaught 84 = .ok (.ifCond .eq 7, 3) := dk_153 0 7 (dk_at dksX6_allTaught_3 13 rfl rfl)
theorem dX6_allTaught_87 : decode cX6_allTaught 87 = .ok (.iconst 1, 1) := dk_4 (dk_at dksX6_allTaught_3 16 rfl rfl)
theorem dX6_allTaught_88 : decode cX6_allTaught 88 = .ok (.goto 4, 3) := dk_167 0 4 (dk_at dksX6_allTaught_3 17 rfl rfl)
theorem dX6_allTaught_91 : decode cX6_allTaught 91 = .ok (.iconst 0, 1) := dk_3 (dk_at dksX6_allTaught_3 20 rfl rfl)
theorem dX6_allTaught_92 : decode cX6_allTaught 92 = .ok (.istore 4, 2) := dk_54 4 (dk_at dksX6_allTaught_3 21 rfl rfl)
theorem dX6_allTaught_94 : decode cX6_allTaught 94 = .ok (.aload_n 0, 1) := dk_42 (dk_at dksX6_allTaught_3 23 rfl rfl)
theorem dX6_allTaught_95 : decode cX6_allTaught 95 = .ok (.getfield 148, 3) := dk_180 0 148 (dk_at dksX6_allTaught_4 0 rfl rfl)
theorem dX6_allTaught_98 : decode cX6_allTaught 98 = .ok (.iload_n 2, 1) := dk_28 (dk_at dksX6_allTaught_4 3 rfl rfl)
theorem dX6_allTaught_99 : decode cX6_allTaught 99 = .ok (.iload 4, 2) := dk_21 4 (dk_at dksX6_allTaught_4 4 rfl rfl)
theorem dX6_allTaught_101 : decode cX6_allTaught 101 = .ok (.ifCond .eq 7, 3) := dk_153 0 7 (dk_at dksX6_allTaught_4 6 rfl rfl)
theorem dX6_allTaught_104 : decode cX6_allTaught 104 = .ok (.iconst 2, 1) := dk_5 (dk_at dksX6_allTaught_4 9 rfl rfl)
theorem dX6_allTaught_105 : decode cX6_allTaught 105 = .ok (.goto 4, 3) := dk_167 0 4 (dk_at dksX6_allTaught_4 10 rfl rfl)
theorem dX6_allTaught_108 : decode cX6_allTaught 108 = .ok (.iconst 1, 1) := dk_4 (dk_at dksX6_allTaught_4 13 rfl rfl)
theorem dX6_allTaught_109 : decode cX6_allTaught 109 = .ok (.iastore, 1) := dk_79 (dk_at dksX6_allTaught_4 14 rfl rfl)
theorem dX6_allTaught_110 : decode cX6_allTaught 110 = .ok (.iinc 2 1, 3) := dk_132 2 1 (dk_at dksX6_allTaught_4 15 rfl rfl)
theorem dX6_allTaught_113 : decode cX6_allTaught 113 = .ok (.goto (-111), 3) := dk_167 255 145 (dk_at dksX6_allTaught_4 18 rfl rfl)
theorem dX6_allTaught_116 : decode cX6_allTaught 116 = .ok (.iconst 0, 1) := dk_3 (dk_at dksX6_allTaught_4 21 rfl rfl)
theorem dX6_allTaught_117 : decode cX6_allTaught 117 = .ok (.istore_n 2, 1) := dk_61 (dk_at dksX6_allTaught_4 22 rfl rfl)
theorem dX6_allTaught_118 : decode cX6_allTaught 118 = .ok (.iload_n 2, 1) := dk_28 (dk_at dksX6_allTaught_4 23 rfl rfl)
theorem dX6_allTaught_119 : decode cX6_allTaught 119 = .ok (.aload_n 0, 1) := dk_42 (dk_at dksX6_allTaught_5 0 rfl rfl)
theorem dX6_allTaught_120 : decode cX6_allTaught 120 = .ok (.invokevirtual 401, 3) := dk_182 1 145 (dk_at dksX6_allTaught_5 1 rfl rfl)
theorem dX6_allTaught_123 : decode cX6_allTaught 123 = .ok (.if_icmp .ge 36, 3) := dk_162 0 36 (dk_at dksX6_allTaught_5 4 rfl rfl)
theorem dX6_allTaught_126 : decode cX6_allTaught 126 = .ok (.aload_n 0, 1) := dk_42 (dk_at dksX6_allTaught_5 7 rfl rfl)
theorem dX6_allTaught_127 : decode cX6_allTaught 127 = .ok (.getfield 145, 3) := dk_180 0 145 (dk_at dksX6_allTaught_5 8 rfl rfl)
theorem dX6_allTaught_130 : decode cX6_allTaught 130 = .ok (.iload_n 2, 1) := dk_28 (dk_at dksX6_allTaught_5 11 rfl rfl)
theorem dX6_allTaught_131 : decode cX6_allTaught 131 = .ok (.iaload, 1) := dk_46 (dk_at dksX6_allTaught_5 12 rfl rfl)
theorem dX6_allTaught_132 : decode cX6_allTaught 132 = .ok (.iconst (-1), 1) := dk_2 (dk_at dksX6_allTaught_5 13 rfl rfl)
theorem dX6_allTaught_133 : decode cX6_allTaught 133 = .ok (.if_icmp .eq 20, 3) := dk_159 0 20 (dk_at dksX6_allTaught_5 14 rfl rfl)
theorem dX6_allTaught_136 : decode cX6_allTaught 136 = .ok (.aload_n 0, 1) := dk_42 (dk_at dksX6_allTaught_5 17 rfl rfl)
theorem dX6_allTaught_137 : decode cX6_allTaught 137 = .ok (.iload_n 2, 1) := dk_28 (dk_at dksX6_allTaught_5 18 rfl rfl)
theorem dX6_allTaught_138 : decode cX6_allTaught 138 = .ok (.aload_n 0, 1) := dk_42 (dk_at dksX6_allTaught_5 19 rfl rfl)
theorem dX6_allTaught_139 : decode cX6_allTaught 139 = .ok (.getfield 145, 3) := dk_180 0 145 (dk_at dksX6_allTaught_5 20 rfl rfl)
theorem dX6_allTaught_142 : decode cX6_allTaught 142 = .ok (.iload_n 2, 1) := dk_28 (dk_at dksX6_allTaught_5 23 rfl rfl)
theorem dX6_allTaught_143 : decode cX6_allTaught 143 = .ok (.iaload, 1) := dk_46 (dk_at dksX6_allTaught_6 0 rfl rfl)
theorem dX6_allTaught_144 : decode cX6_allTaught 144 = .ok (.aload_n 0, 1) := dk_42 (dk_at dksX6_allTaught_6 1 rfl rfl)
theorem dX6_allTaught_145 : decode cX6_allTaught 145 = .ok (.getfield 148, 3) := dk_180 0 148 (dk_at dksX6_allTaught_6 2 rfl rfl)
theorem dX6_allTaught_148 : decode cX6_allTaught 148 = .ok (.iload_n 2, 1) := dk_28 (dk_at dksX6_allTaught_6 5 rfl rfl)
theorem dX6_allTaught_149 : decode cX6_allTaught 149 = .ok (.iaload, 1) := dk_46 (dk_at dksX6_allTaught_6 6 rfl rfl)
theorem dX6_allTaught_150 : decode cX6_allTaught 150 = .ok (.invokevirtual 439, 3) := dk_182 1 183 (dk_at dksX6_allTaught_6 7 rfl rfl)
theorem dX6_allTaught_153 : decode cX6_allTaught 153 = .ok (.iinc 2 1, 3) := dk_132 2 1 (dk_at dksX6_allTaught_6 10 rfl rfl)
theorem dX6_allTaught_156 : decode cX6_allTaught 156 = .ok (.goto (-38), 3) := dk_167 255 218 (dk_at dksX6_allTaught_6 13 rfl rfl)
theorem dX6_allTaught_159 : decode cX6_allTaught 159 = .ok (.return_, 1) := dk_177 (dk_at dksX6_allTaught_6 16 rfl rfl)
