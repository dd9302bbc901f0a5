set_option maxRecDepth 100000
abbrev cX1_farBox : ByteArray := prog_1_method_39_code
def yX1_farBox : MethodName := ⟨RX1, "farBox", "(II)I"⟩
def dkwX1_farBox_2 : List UInt8 := [167, 0, 4, 2, 172]
abbrev dktX1_farBox_2 : List UInt8 := dkwX1_farBox_2 ++ []
def dkwX1_farBox_1 : List UInt8 := [16, 100, 45, 180, 1, 17, 28, 50, 180, 1, 21, 104, 45, 180, 1, 17, 28, 50, 180, 0, 188, 96]
abbrev dktX1_farBox_1 : List UInt8 := dkwX1_farBox_1 ++ dktX1_farBox_2
def dkwX1_farBox_0 : List UInt8 := [42, 27, 182, 0, 193, 78, 28, 133, 9, 45, 27, 182, 1, 14, 4, 100, 133, 184, 0, 58, 153, 0, 28]
abbrev dktX1_farBox_0 : List UInt8 := dkwX1_farBox_0 ++ dktX1_farBox_1
theorem dksX1_farBox_0 : cX1_farBox.data.toList.drop 0 = dktX1_farBox_0 := by decide +kernel
theorem dksX1_farBox_1 : cX1_farBox.data.toList.drop 23 = dktX1_farBox_1 := dk_seg dksX1_farBox_0 23 rfl rfl
theorem dksX1_farBox_2 : cX1_farBox.data.toList.drop 45 = dktX1_farBox_2 := dk_seg dksX1_farBox_1 22 rfl rfl
theorem dX1_farBox_0 : decode cX1_farBox 0 = .ok (.aload_n 0, 1) := dk_42 (dk_at dksX1_farBox_0 0 rfl rfl)
theorem dX1_farBox_1 : decode cX1_farBox 1 = .ok (.iload_n 1, 1) := dk_27 (dk_at dksX1_farBox_0 1 rfl rfl)
theorem dX1_farBox_2 : decode cX1_farBox 2 = .ok (.invokevirtual 193, 3) := dk_182 0 193 (dk_at dksX1_farBox_0 2 rfl rfl)
theorem dX1_farBox_5 : decode cX1_farBox 5 = .ok (.astore_n 3, 1) := dk_78 (dk_at dksX1_farBox_0 5 rfl rfl)
theorem dX1_farBox_6 : decode cX1_farBox 6 = .ok (.iload_n 2, 1) := dk_28 (dk_at dksX1_farBox_0 6 rfl rfl)
theorem dX1_farBox_7 : decode cX1_farBox 7 = .ok (.i2l, 1) := dk_133 (dk_at dksX1_farBox_0 7 rfl rfl)
theorem dX1_farBox_8 : decode cX1_farBox 8 = .ok (.lconst 0, 1) := dk_9 (dk_at dksX1_farBox_0 8 rfl rfl)
theorem dX1_farBox_9 : decode cX1_farBox 9 = .ok (.aload_n 3, 1) := dk_45 (dk_at dksX1_farBox_0 9 rfl rfl)
theorem dX1_farBox_10 : decode cX1_farBox 10 = .ok (.iload_n 1, 1) := dk_27 (dk_at dksX1_farBox_0 10 rfl rfl)
theorem dX1_farBox_11 : decode cX1_farBox 11 = .ok (.invokevirtual 270, 3) := dk_182 1 14 (dk_at dksX1_farBox_0 11 rfl rfl)
theorem dX1_farBox_14 : decode cX1_farBox 14 = .ok (.iconst 1, 1) := dk_4 (dk_at dksX1_farBox_0 14 rfl rfl)
theorem dX1_farBox_15 : decode cX1_farBox 15 = .ok (.isub, 1) := dk_100 (dk_at dksX1_farBox_0 15 rfl rfl)
theorem dX1_farBox_16 : decode cX1_farBox 16 = .ok (.i2l, 1) := dk_133 (dk_at dksX1_farBox_0 16 rfl rfl)
theorem dX1_farBox_17 : decode cX1_farBox 17 = .ok (.invokestatic 58, 3) := dk_184 0 58 (dk_at dksX1_farBox_0 17 rfl rfl)
theorem dX1_farBox_20 : decode cX1_farBox 20 = .ok (.ifCond .eq 28, 3) := dk_153 0 28 (dk_at dksX1_farBox_0 20 rfl rfl)
theorem dX1_farBox_23 : decode cX1_farBox 23 = .ok (.bipush 100, 2) := dk_16 100 (dk_at dksX1_farBox_1 0 rfl rfl)
theorem dX1_farBox_25 : decode cX1_farBox 25 = .ok (.aload_n 3, 1) := dk_45 (dk_at dksX1_farBox_1 2 rfl rfl)
theorem dX1_farBox_26 : decode cX1_farBox 26 = .ok (.getfield 273, 3) := dk_180 1 17 (dk_at dksX1_farBox_1 3 rfl rfl)
theorem dX1_farBox_29 : decode cX1_farBox 29 = .ok (.iload_n 2, 1) := dk_28 (dk_at dksX1_farBox_1 6 rfl rfl)
theorem dX1_farBox_30 : decode cX1_farBox 30 = .ok (.aaload, 1) := dk_50 (dk_at dksX1_farBox_1 7 rfl rfl)
theorem dX1_farBox_31 : decode cX1_farBox 31 = .ok (.getfield 277, 3) := dk_180 1 21 (dk_at dksX1_farBox_1 8 rfl rfl)
theorem dX1_farBox_34 : decode cX1_farBox 34 = .ok (.imul, 1) := dk_104 (dk_at dksX1_farBox_1 11 rfl rfl)
theorem dX1_farBox_35 : decode cX1_farBox 35 = .ok (.aload_n 3, 1) := dk_45 (dk_at dksX1_farBox_1 12 rfl rfl)
theorem dX1_farBox_36 : decode cX1_farBox 36 = .ok (.getfield 273, 3) := dk_180 1 17 (dk_at dksX1_farBox_1 13 rfl rfl)
theorem dX1_farBox_39 : decode cX1_farBox 39 = .ok (.iload_n 2, 1) := dk_28 (dk_at dksX1_farBox_1 16 rfl rfl)
theorem dX1_farBox_40 : decode cX1_farBox 40 = .ok (.aaload, 1) := dk_50 (dk_at dksX1_farBox_1 17 rfl rfl)
theorem dX1_farBox_41 : decode cX1_farBox 41 = .ok (.getfield 188, 3) := dk_180 0 188 (dk_at dksX1_farBox_1 18 rfl rfl)
theorem dX1_farBox_44 : decode cX1_farBox 44 = .ok (.iadd, 1) := dk_96 (dk_at dksX1_farBox_1 21 rfl rfl)
theorem dX1_farBox_45 : decode cX1_farBox 45 = .ok (.goto 4, 3) := dk_167 0 4 (dk_at dksX1_farBox_2 0 rfl rfl)
theorem dX1_farBox_48 : decode cX1_farBox 48 = .ok (.iconst (-1), 1) := dk_2 (dk_at dksX1_farBox_2 3 rfl rfl)
theorem dX1_farBox_49 : decode cX1_farBox 49 = .ok (.ireturn, 1) := dk_172 (dk_at dksX1_farBox_2 4 rfl rfl)
abbrev cX4_farBodies : ByteArray := prog_7_method_25_code
def yX4_farBodies : MethodName := ⟨RX4, "farBodies", "(I)I"⟩
def dkwX4_farBodies_1 : List UInt8 := [96, 61, 132, 3, 1, 167, 255, 231, 28, 172]
abbrev dktX4_farBodies_1 : List UInt8 := dkwX4_farBodies_1 ++ []
def dkwX4_farBodies_0 : List UInt8 := [3, 61, 3, 62, 29, 42, 27, 182, 0, 195, 162, 0, 22, 28, 42, 42, 180, 0, 26, 29, 50, 182, 0, 185]
abbrev dktX4_farBodies_0 : List UInt8 := dkwX4_farBodies_0 ++ dktX4_farBodies_1
theorem dksX4_farBodies_0 : cX4_farBodies.data.toList.drop 0 = dktX4_farBodies_0 := by decide +kernel
theorem dksX4_farBodies_1 : cX4_farBodies.data.toList.drop 24 = dktX4_farBodies_1 := dk_seg dksX4_farBodies_0 24 rfl rfl
theorem dX4_farBodies_0 : decode cX4_farBodies 0 = .ok (.iconst 0, 1) := dk_3 (dk_at dksX4_farBodies_0 0 rfl rfl)
theorem dX4_farBodies_1 : decode cX4_farBodies 1 = .ok (.istore_n 2, 1) := dk_61 (dk_at dksX4_farBodies_0 1 rfl rfl)
theorem dX4_farBodies_2 : decode cX4_farBodies 2 = .ok (.iconst 0, 1) := dk_3 (dk_at dksX4_farBodies_0 2 rfl rfl)
theorem dX4_farBodies_3 : decode cX4_farBodies 3 = .ok (.istore_n 3, 1) := dk_62 (dk_at dksX4_farBodies_0 3 rfl rfl)
theorem dX4_farBodies_4 : decode cX4_farBodies 4 = .ok (.iload_n 3, 1) := dk_29 (dk_at dksX4_farBodies_0 4 rfl rfl)
theorem dX4_farBodies_5 : decode cX4_farBodies 5 = .ok (.aload_n 0, 1) := dk_42 (dk_at dksX4_farBodies_0 5 rfl rfl)
theorem dX4_farBodies_6 : decode cX4_farBodies 6 = .ok (.iload_n 1, 1) := dk_27 (dk_at dksX4_farBodies_0 6 rfl rfl)
theorem dX4_farBodies_7 : decode cX4_farBodies 7 = .ok (.invokevirtual 195, 3) := dk_182 0 195 (dk_at dksX4_farBodies_0 7 rfl rfl)
theorem dX4_farBodies_10 : decode cX4_farBodies 10 = .ok (.if_icmp .ge 22, 3) := dk_162 0 22 (dk_at dksX4_farBodies_0 10 rfl rfl)
theorem dX4_farBodies_13 : decode cX4_farBodies 13 = .ok (.iload_n 2, 1) := dk_28 (dk_at dksX4_farBodies_0 13 rfl rfl)
theorem dX4_farBodies_14 : decode cX4_farBodies 14 = .ok (.aload_n 0, 1) := dk_42 (dk_at dksX4_farBodies_0 14 rfl rfl)
theorem dX4_farBodies_15 : decode cX4_farBodies 15 = .ok (.aload_n 0, 1) := dk_42 (dk_at dksX4_farBodies_0 15 rfl rfl)
theorem dX4_farBodies_16 : decode cX4_farBodies 16 = .ok (.getfield 26, 3) := dk_180 0 26 (dk_at dksX4_farBodies_0 16 rfl rfl)
theorem dX4_farBodies_19 : decode cX4_farBodies 19 = .ok (.iload_n 3, 1) := dk_29 (dk_at dksX4_farBodies_0 19 rfl rfl)
theorem dX4_farBodies_20 : decode cX4_farBodies 20 = .ok (.aaload, 1) := dk_50 (dk_at dksX4_farBodies_0 20 rfl rfl)
theorem dX4_farBodies_21 : decode cX4_farBodies 21 = .ok (.invokevirtual 185, 3) := dk_182 0 185 (dk_at dksX4_farBodies_0 21 rfl rfl)
theorem dX4_farBodies_24 : decode cX4_farBodies 24 = .ok (.iadd, 1) := dk_96 (dk_at dksX4_farBodies_1 0 rfl rfl)
theorem dX4_farBodies_25 : decode cX4_farBodies 25 = .ok (.istore_n 2, 1) := dk_61 (dk_at dksX4_farBodies_1 1 rfl rfl)
theorem dX4_farBodies_26 : decode cX4_farBodies 26 = .ok (.iinc 3 1, 3) := dk_132 3 1 (dk_at dksX4_farBodies_1 2 rfl rfl)
theorem dX4_farBodies_29 : decode cX4_farBodies 29 = .ok (.goto (-25), 3) := dk_167 255 231 (dk_at dksX4_farBodies_1 5 rfl rfl)
theorem dX4_farBodies_32 : decode cX4_farBodies 32 = .ok (.iload_n 2, 1) := dk_28 (dk_at dksX4_farBodies_1 8 rfl rfl)
theorem dX4_farBodies_33 : decode cX4_farBodies 33 = .ok (.ireturn, 1) := dk_172 (dk_at dksX4_farBodies_1 9 rfl rfl)
abbrev cX1_farBodies : ByteArray := prog_1_method_40_code
def yX1_farBodies : MethodName := ⟨RX1, "farBodies", "(I)I"⟩
def dkwX1_farBodies_0 : List UInt8 := [42, 27, 182, 0, 193, 27, 182, 1, 24, 172]
abbrev dktX1_farBodies_0 : List UInt8 := dkwX1_farBodies_0 ++ []
theorem dksX1_farBodies_0 : cX1_farBodies.data.toList.drop 0 = dktX1_farBodies_0 := by decide +kernel
theorem dX1_farBodies_0 : decode cX1_farBodies 0 = .ok (.aload_n 0, 1) := dk_42 (dk_at dksX1_farBodies_0 0 rfl rfl)
theorem dX1_farBodies_1 : decode cX1_farBodies 1 = .ok (.iload_n 1, 1) := dk_27 (dk_at dksX1_farBodies_0 1 rfl rfl)
theorem dX1_farBodies_2 : decode cX1_farBodies 2 = .ok (.invokevirtual 193, 3) := dk_182 0 193 (dk_at dksX1_farBodies_0 2 rfl rfl)
theorem dX1_farBodies_5 : decode cX1_farBodies 5 = .ok (.iload_n 1, 1) := dk_27 (dk_at dksX1_farBodies_0 5 rfl rfl)
theorem dX1_farBodies_6 : decode cX1_farBodies 6 = .ok (.invokevirtual 280, 3) := dk_182 1 24 (dk_at dksX1_farBodies_0 6 rfl rfl)
theorem dX1_farBodies_9 : decode cX1_farBodies 9 = .ok (.ireturn, 1) := dk_172 (dk_at dksX1_farBodies_0 9 rfl rfl)
abbrev cX4_cost : ByteArray := prog_7_method_26_code
def yX4_cost : MethodName := ⟨RX4, "cost", "(IZ)I"⟩
def dkwX4_cost_3 : List UInt8 := [42, 180, 0, 61, 4, 96, 42, 27, 182, 0, 195, 104, 96, 172]
abbrev dktX4_cost_3 : List UInt8 := dkwX4_cost_3 ++ []
def dkwX4_cost_2 : List UInt8 := [167, 0, 4, 3, 184, 0, 82, 96, 62, 132, 4, 1, 167, 255, 202, 28, 153, 0, 7, 29, 167, 0, 17, 29]
abbrev dktX4_cost_2 : List UInt8 := dkwX4_cost_2 ++ dktX4_cost_3
def dkwX4_cost_1 : List UInt8 := [27, 159, 0, 25, 28, 154, 0, 17, 42, 42, 21, 4, 182, 0, 41, 27, 182, 0, 161, 153, 0, 7, 4]
abbrev dktX4_cost_1 : List UInt8 := dkwX4_cost_1 ++ dktX4_cost_2
def dkwX4_cost_0 : List UInt8 := [3, 62, 3, 54, 4, 21, 4, 42, 182, 0, 37, 162, 0, 51, 29, 42, 21, 4, 182, 0, 41, 180, 0, 86]
abbrev dktX4_cost_0 : List UInt8 := dkwX4_cost_0 ++ dktX4_cost_1
theorem dksX4_cost_0 : cX4_cost.data.toList.drop 0 = dktX4_cost_0 := by decide +kernel
theorem dksX4_cost_1 : cX4_cost.data.toList.drop 24 = dktX4_cost_1 := dk_seg dksX4_cost_0 24 rfl rfl
theorem dksX4_cost_2 : cX4_cost.data.toList.drop 47 = dktX4_cost_2 := dk_seg dksX4_cost_1 23 rfl rfl
theorem dksX4_cost_3 : cX4_cost.data.toList.drop 71 = dktX4_cost_3 := dk_seg dksX4_cost_2 24 rfl rfl
theorem dX4_cost_0 : decode cX4_cost 0 = .ok (.iconst 0, 1) := dk_3 (dk_at dksX4_cost_0 0 rfl rfl)
theorem dX4_cost_1 : decode cX4_cost 1 = .ok (.istore_n 3, 1) := dk_62 (dk_at dksX4_cost_0 1 rfl rfl)
theorem dX4_cost_2 : decode cX4_cost 2 = .ok (.iconst 0, 1) := dk_3 (dk_at dksX4_cost_0 2 rfl rfl)
theorem dX4_cost_3 : decode cX4_cost 3 = .ok (.istore 4, 2) := dk_54 4 (dk_at dksX4_cost_0 3 rfl rfl)
theorem dX4_cost_5 : decode cX4_cost 5 = .ok (.iload 4, 2) := dk_21 4 (dk_at dksX4_cost_0 5 rfl rfl)
theorem dX4_cost_7 : decode cX4_cost 7 = .ok (.aload_n 0, 1) := dk_42 (dk_at dksX4_cost_0 7 rfl rfl)
theorem dX4_cost_8 : decode cX4_cost 8 = .ok (.invokevirtual 37, 3) := dk_182 0 37 (dk_at dksX4_cost_0 8 rfl rfl)
theorem dX4_cost_11 : decode cX4_cost 11 = .ok (.if_icmp .ge 51, 3) := dk_162 0 51 (dk_at dksX4_cost_0 11 rfl rfl)
theorem dX4_cost_14 : decode cX4_cost 14 = .ok (.iload_n 3, 1) := dk_29 (dk_at dksX4_cost_0 14 rfl rfl)
theorem dX4_cost_15 : decode cX4_cost 15 = .ok (.aload_n 0, 1) := dk_42 (dk_at dksX4_cost_0 15 rfl rfl)
theorem dX4_cost_16 : decode cX4_cost 16 = .ok (.iload 4, 2) := dk_21 4 (dk_at dksX4_cost_0 16 rfl rfl)
theorem dX4_cost_18 : decode cX4_cost 18 = .ok (.invokevirtual 41, 3) := dk_182 0 41 (dk_at dksX4_cost_0 18 rfl rfl)
theorem dX4_cost_21 : decode cX4_cost 21 = .ok (.getfield 86, 3) := dk_180 0 86 (dk_at dksX4_cost_0 21 rfl rfl)
theorem dX4_cost_24 : decode cX4_cost 24 = .ok (.iload_n 1, 1) := dk_27 (dk_at dksX4_cost_1 0 rfl rfl)
theorem dX4_cost_25 : decode cX4_cost 25 = .ok (.if_icmp .eq 25, 3) := dk_159 0 25 (dk_at dksX4_cost_1 1 rfl rfl)
theorem dX4_cost_28 : decode cX4_cost 28 = .ok (.iload_n 2, 1) := dk_28 (dk_at dksX4_cost_1 4 rfl rfl)
theorem dX4_cost_29 : decode cX4_cost 29 = .ok (.ifCond .ne 17, 3) := dk_154 0 17 (dk_at dksX4_cost_1 5 rfl rfl)
theorem dX4_cost_32 : decode cX4_cost 32 = .ok (.aload_n 0, 1) := dk_42 (dk_at dksX4_cost_1 8 rfl rfl)
theorem dX4_cost_33 : decode cX4_cost 33 = .ok (.aload_n 0, 1) := dk_42 (dk_at dksX4_cost_1 9 rfl rfl)
theorem dX4_cost_34 : decode cX4_cost 34 = .ok (.iload 4, 2) := dk_21 4 (dk_at dksX4_cost_1 10 rfl rfl)
theorem dX4_cost_36 : decode cX4_cost 36 = .ok (.invokevirtual 41, 3) := dk_182 0 41 (dk_at dksX4_cost_1 12 rfl rfl)
theorem dX4_cost_39 : decode cX4_cost 39 = .ok (.iload_n 1, 1) := dk_27 (dk_at dksX4_cost_1 15 rfl rfl)
theorem dX4_cost_40 : decode cX4_cost 40 = .ok (.invokevirtual 161, 3) := dk_182 0 161 (dk_at dksX4_cost_1 16 rfl rfl)
theorem dX4_cost_43 : decode cX4_cost 43 = .ok (.ifCond .eq 7, 3) := dk_153 0 7 (dk_at dksX4_cost_1 19 rfl rfl)
theorem dX4_cost_46 : decode cX4_cost 46 = .ok (.iconst 1, 1) := dk_4 (dk_at dksX4_cost_1 22 rfl rfl)
theorem dX4_cost_47 : decode cX4_cost 47 = .ok (.goto 4, 3) := dk_167 0 4 (dk_at dksX4_cost_2 0 rfl rfl)
theorem dX4_cost_50 : decode cX4_cost 50 = .ok (.iconst 0, 1) := dk_3 (dk_at dksX4_cost_2 3 rfl rfl)
theorem dX4_cost_51 : decode cX4_cost 51 = .ok (.invokestatic 82, 3) := dk_184 0 82 (dk_at dksX4_cost_2 4 rfl rfl)
theorem dX4_cost_54 : decode cX4_cost 54 = .ok (.iadd, 1) := dk_96 (dk_at dksX4_cost_2 7 rfl rfl)
theorem dX4_cost_55 : decode cX4_cost 55 = .ok (.istore_n 3, 1) := dk_62 (dk_at dksX4_cost_2 8 rfl rfl)
theorem dX4_cost_56 : decode cX4_cost 56 = .ok (.iinc 4 1, 3) := dk_132 4 1 (dk_at dksX4_cost_2 9 rfl rfl)
theorem dX4_cost_59 : decode cX4_cost 59 = .ok (.goto (-54), 3) := dk_167 255 202 (dk_at dksX4_cost_2 12 rfl rfl)
theorem dX4_cost_62 : decode cX4_cost 62 = .ok (.iload_n 2, 1) := dk_28 (dk_at dksX4_cost_2 15 rfl rfl)
theorem dX4_cost_63 : decode cX4_cost 63 = .ok (.ifCond .eq 7, 3) := dk_153 0 7 (dk_at dksX4_cost_2 16 rfl rfl)
theorem dX4_cost_66 : decode cX4_cost 66 = .ok (.iload_n 3, 1) := dk_29 (dk_at dksX4_cost_2 19 rfl rfl)
theorem dX4_cost_67 : decode cX4_cost 67 = .ok (.goto 17, 3) := dk_167 0 17 (dk_at dksX4_cost_2 20 rfl rfl)
theorem dX4_cost_70 : decode cX4_cost 70 = .ok (.iload_n 3, 1) := dk_29 (dk_at dksX4_cost_2 23 rfl rfl)
theorem dX4_cost_71 : decode cX4_cost 71 = .ok (.aload_n 0, 1) := dk_42 (dk_at dksX4_cost_3 0 rfl rfl)
theorem dX4_cost_72 : decode cX4_cost 72 = .ok (.getfield 61, 3) := dk_180 0 61 (dk_at dksX4_cost_3 1 rfl rfl)
theorem dX4_cost_75 : decode cX4_cost 75 = .ok (.iconst 1, 1) := dk_4 (dk_at dksX4_cost_3 4 rfl rfl)
theorem dX4_cost_76 : decode cX4_cost 76 = .ok (.iadd, 1) := dk_96 (dk_at dksX4_cost_3 5 rfl rfl)
theorem dX4_cost_77 : decode cX4_cost 77 = .ok (.aload_n 0, 1) := dk_42 (dk_at dksX4_cost_3 6 rfl rfl)
theorem dX4_cost_78 : decode cX4_cost 78 = .ok (.iload_n 1, 1) := dk_27 (dk_at dksX4_cost_3 7 rfl rfl)
theorem dX4_cost_79 : decode cX4_cost 79 = .ok (.invokevirtual 195, 3) := dk_182 0 195 (dk_at dksX4_cost_3 8 rfl rfl)
theorem dX4_cost_82 : decode cX4_cost 82 = .ok (.imul, 1) := dk_104 (dk_at dksX4_cost_3 11 rfl rfl)
theorem dX4_cost_83 : decode cX4_cost 83 = .ok (.iadd, 1) := dk_96 (dk_at dksX4_cost_3 12 rfl rfl)
theorem dX4_cost_84 : decode cX4_cost 84 = .ok (.ireturn, 1) := dk_172 (dk_at dksX4_cost_3 13 rfl rfl)
abbrev cX1_cost : ByteArray := prog_1_method_41_code
def yX1_cost : MethodName := ⟨RX1, "cost", "(IZ)I"⟩
def dkwX1_cost_0 : List UInt8 := [42, 27, 182, 0, 193, 27, 28, 182, 1, 27, 172]
abbrev dktX1_cost_0 : List UInt8 := dkwX1_cost_0 ++ []
theorem dksX1_cost_0 : cX1_cost.data.toList.drop 0 = dktX1_cost_0 := by decide +kernel
theorem dX1_cost_0 : decode cX1_cost 0 = .ok (.aload_n 0, 1) := dk_42 (dk_at dksX1_cost_0 0 rfl rfl)
theorem dX1_cost_1 : decode cX1_cost 1 = .ok (.iload_n 1, 1) := dk_27 (dk_at dksX1_cost_0 1 rfl rfl)
theorem dX1_cost_2 : decode cX1_cost 2 = .ok (.invokevirtual 193, 3) := dk_182 0 193 (dk_at dksX1_cost_0 2 rfl rfl)
theorem dX1_cost_5 : decode cX1_cost 5 = .ok (.iload_n 1, 1) := dk_27 (dk_at dksX1_cost_0 5 rfl rfl)
theorem dX1_cost_6 : decode cX1_cost 6 = .ok (.iload_n 2, 1) := dk_28 (dk_at dksX1_cost_0 6 rfl rfl)
theorem dX1_cost_7 : decode cX1_cost 7 = .ok (.invokevirtual 283, 3) := dk_182 1 27 (dk_at dksX1_cost_0 7 rfl rfl)
theorem dX1_cost_10 : decode cX1_cost 10 = .ok (.ireturn, 1) := dk_172 (dk_at dksX1_cost_0 10 rfl rfl)
abbrev cX7_distance : ByteArray := prog_2_method_6_code
def yX7_distance : MethodName := ⟨RX7, "distance", "(I)I"⟩
def dkwX7_distance_0 : List UInt8 := [42, 180, 0, 7, 27, 162, 0, 12, 27, 42, 180, 0, 7, 100, 167, 0, 9, 42, 180, 0, 7, 27, 100, 172]
abbrev dktX7_distance_0 : List UInt8 := dkwX7_distance_0 ++ []
theorem dksX7_distance_0 : cX7_distance.data.toList.drop 0 = dktX7_distance_0 := by decide +kernel
theorem dX7_distance_0 : decode cX7_distance 0 = .ok (.aload_n 0, 1) := dk_42 (dk_at dksX7_distance_0 0 rfl rfl)
theorem dX7_distance_1 : decode cX7_distance 1 = .ok (.getfield 7, 3) := dk_180 0 7 (dk_at dksX7_distance_0 1 rfl rfl)
theorem dX7_distance_4 : decode cX7_distance 4 = .ok (.iload_n 1, 1) := dk_27 (dk_at dksX7_distance_0 4 rfl rfl)
theorem dX7_distance_5 : decode cX7_distance 5 = .ok (.if_icmp .ge 12, 3) := dk_162 0 12 (dk_at dksX7_distance_0 5 rfl rfl)
theorem dX7_distance_8 : decode cX7_distance 8 = .ok (.iload_n 1, 1) := dk_27 (dk_at dksX7_distance_0 8 rfl rfl)
theorem dX7_distance_9 : decode cX7_distance 9 = .ok (.aload_n 0, 1) := dk_42 (dk_at dksX7_distance_0 9 rfl rfl)
theorem dX7_distance_10 : decode cX7_distance 10 = .ok (.getfield 7, 3) := dk_180 0 7 (dk_at dksX7_distance_0 10 rfl rfl)
theorem dX7_distance_13 : decode cX7_distance 13 = .ok (.isub, 1) := dk_100 (dk_at dksX7_distance_0 13 rfl rfl)
theorem dX7_distance_14 : decode cX7_distance 14 = .ok (.goto 9, 3) := dk_167 0 9 (dk_at dksX7_distance_0 14 rfl rfl)
theorem dX7_distance_17 : decode cX7_distance 17 = .ok (.aload_n 0, 1) := dk_42 (dk_at dksX7_distance_0 17 rfl rfl)
theorem dX7_distance_18 : decode cX7_distance 18 = .ok (.getfield 7, 3) := dk_180 0 7 (dk_at dksX7_distance_0 18 rfl rfl)
theorem dX7_distance_21 : decode cX7_distance 21 = .ok (.iload_n 1, 1) := dk_27 (dk_at dksX7_distance_0 21 rfl rfl)
theorem dX7_distance_22 : decode cX7_distance 22 = .ok (.isub, 1) := dk_100 (dk_at dksX7_distance_0 22 rfl rfl)
theorem dX7_distance_23 : decode cX7_distance 23 = .ok (.ireturn, 1) := dk_172 (dk_at dksX7_distance_0 23 rfl rfl)
abbrev cX4_sum : ByteArray := prog_7_method_27_code
def yX4_sum : MethodName := ⟨RX4, "sum", "(IZI)D"⟩
def dkwX4_sum_3 : List UInt8 := [111, 99, 57, 4, 132, 6, 1, 167, 255, 185, 24, 4, 175]
abbrev dktX4_sum_3 : List UInt8 := dkwX4_sum_3 ++ []
def dkwX4_sum_2 : List UInt8 := [182, 0, 161, 154, 0, 6, 167, 0, 22, 24, 4, 25, 7, 180, 0, 89, 135, 25, 7, 27, 182, 0, 197, 135]
abbrev dktX4_sum_2 : List UInt8 := dkwX4_sum_2 ++ dktX4_sum_3
def dkwX4_sum_1 : List UInt8 := [21, 6, 29, 159, 0, 48, 25, 7, 180, 0, 86, 27, 159, 0, 39, 28, 153, 0, 16, 42, 25, 7, 27]
abbrev dktX4_sum_1 : List UInt8 := dkwX4_sum_1 ++ dktX4_sum_2
def dkwX4_sum_0 : List UInt8 := [14, 57, 4, 3, 54, 6, 21, 6, 42, 182, 0, 37, 162, 0, 68, 42, 21, 6, 182, 0, 41, 58, 7]
abbrev dktX4_sum_0 : List UInt8 := dkwX4_sum_0 ++ dktX4_sum_1
theorem dksX4_sum_0 : cX4_sum.data.toList.drop 0 = dktX4_sum_0 := by decide +kernel
theorem dksX4_sum_1 : cX4_sum.data.toList.drop 23 = dktX4_sum_1 := dk_seg dksX4_sum_0 23 rfl rfl
theorem dksX4_sum_2 : cX4_sum.data.toList.drop 46 = dktX4_sum_2 := dk_seg dksX4_sum_1 23 rfl rfl
theorem dksX4_sum_3 : cX4_sum.data.toList.drop 70 = dktX4_sum_3 := dk_seg dksX4_sum_2 24 rfl rfl
theorem dX4_sum_0 : decode cX4_sum 0 = .ok (.dconst 0, 1) := dk_14 (dk_at dksX4_sum_0 0 rfl rfl)
theorem dX4_sum_1 : decode cX4_sum 1 = .ok (.dstore 4, 2) := dk_57 4 (dk_at dksX4_sum_0 1 rfl rfl)
theorem dX4_sum_3 : decode cX4_sum 3 = .ok (.iconst 0, 1) := dk_3 (dk_at dksX4_sum_0 3 rfl rfl)
theorem dX4_sum_4 : decode cX4_sum 4 = .ok (.istore 6, 2) := dk_54 6 (dk_at dksX4_sum_0 4 rfl rfl)
theorem dX4_sum_6 : decode cX4_sum 6 = .ok (.iload 6, 2) := dk_21 6 (dk_at dksX4_sum_0 6 rfl rfl)
theorem dX4_sum_8 : decode cX4_sum 8 = .ok (.aload_n 0, 1) := dk_42 (dk_at dksX4_sum_0 8 rfl rfl)
theorem dX4_sum_9 : decode cX4_sum 9 = .ok (.invokevirtual 37, 3) := dk_182 0 37 (dk_at dksX4_sum_0 9 rfl rfl)
theorem dX4_sum_12 : decode cX4_sum 12 = .ok (.if_icmp .ge 68, 3) := dk_162 0 68 (dk_at dksX4_sum_0 12 rfl rfl)
theorem dX4_sum_15 : decode cX4_sum 15 = .ok (.aload_n 0, 1) := dk_42 (dk_at dksX4_sum_0 15 rfl rfl)
theorem dX4_sum_16 : decode cX4_sum 16 = .ok (.iload 6, 2) := dk_21 6 (dk_at dksX4_sum_0 16 rfl rfl)
theorem dX4_sum_18 : decode cX4_sum 18 = .ok (.invokevirtual 41, 3) := dk_182 0 41 (dk_at dksX4_sum_0 18 rfl rfl)
theorem dX4_sum_21 : decode cX4_sum 21 = .ok (.astore 7, 2) := dk_58 7 (dk_at dksX4_sum_0 21 rfl rfl)
theorem dX4_sum_23 : decode cX4_sum 23 = .ok (.iload 6, 2) := dk_21 6 (dk_at dksX4_sum_1 0 rfl rfl)
theorem dX4_sum_25 : decode cX4_sum 25 = .ok (.iload_n 3, 1) := dk_29 (dk_at dksX4_sum_1 2 rfl rfl)
theorem dX4_sum_26 : decode cX4_sum 26 = .ok (.if_icmp .eq 48, 3) := dk_159 0 48 (dk_at dksX4_sum_1 3 rfl rfl)
theorem dX4_sum_29 : decode cX4_sum 29 = .ok (.aload 7, 2) := dk_25 7 (dk_at dksX4_sum_1 6 rfl rfl)
theorem dX4_sum_31 : decode cX4_sum 31 = .ok (.getfield 86, 3) := dk_180 0 86 (dk_at dksX4_sum_1 8 rfl rfl)
theorem dX4_sum_34 : decode cX4_sum 34 = .ok (.iload_n 1, 1) := dk_27 (dk_at dksX4_sum_1 11 rfl rfl)
theorem dX4_sum_35 : decode cX4_sum 35 = .ok (.if_icmp .eq 39, 3) := dk_159 0 39 (dk_at dksX4_sum_1 12 rfl rfl)
theorem dX4_sum_38 : decode cX4_sum 38 = .ok (.iload_n 2, 1) := dk_28 (dk_at dksX4_sum_1 15 rfl rfl)
theorem dX4_sum_39 : decode cX4_sum 39 = .ok (.ifCond .eq 16, 3) := dk_153 0 16 (dk_at dksX4_sum_1 16 rfl rfl)
theorem dX4_sum_42 : decode cX4_sum 42 = .ok (.aload_n 0, 1) := dk_42 (dk_at dksX4_sum_1 19 rfl rfl)
theorem dX4_sum_43 : decode cX4_sum 43 = .ok (.aload 7, 2) := dk_25 7 (dk_at dksX4_sum_1 20 rfl rfl)
theorem dX4_sum_45 : decode cX4_sum 45 = .ok (.iload_n 1, 1) := dk_27 (dk_at dksX4_sum_1 22 rfl rfl)
theorem dX4_sum_46 : decode cX4_sum 46 = .ok (.invokevirtual 161, 3) := dk_182 0 161 (dk_at dksX4_sum_2 0 rfl rfl)
theorem dX4_sum_49 : decode cX4_sum 49 = .ok (.ifCond .ne 6, 3) := dk_154 0 6 (dk_at dksX4_sum_2 3 rfl rfl)
theorem dX4_sum_52 : decode cX4_sum 52 = .ok (.goto 22, 3) := dk_167 0 22 (dk_at dksX4_sum_2 6 rfl rfl)
theorem dX4_sum_55 : decode cX4_sum 55 = .ok (.dload 4, 2) := dk_24 4 (dk_at dksX4_sum_2 9 rfl rfl)
theorem dX4_sum_57 : decode cX4_sum 57 = .ok (.aload 7, 2) := dk_25 7 (dk_at dksX4_sum_2 11 rfl rfl)
theorem dX4_sum_59 : decode cX4_sum 59 = .ok (.getfield 89, 3) := dk_180 0 89 (dk_at dksX4_sum_2 13 rfl rfl)
theorem dX4_sum_62 : decode cX4_sum 62 = .ok (.i2d, 1) := dk_135 (dk_at dksX4_sum_2 16 rfl rfl)
theorem dX4_sum_63 : decode cX4_sum 63 = .ok (.aload 7, 2) := dk_25 7 (dk_at dksX4_sum_2 17 rfl rfl)
theorem dX4_sum_65 : decode cX4_sum 65 = .ok (.iload_n 1, 1) := dk_27 (dk_at dksX4_sum_2 19 rfl rfl)
theorem dX4_sum_66 : decode cX4_sum 66 = .ok (.invokevirtual 197, 3) := dk_182 0 197 (dk_at dksX4_sum_2 20 rfl rfl)
theorem dX4_sum_69 : decode cX4_sum 69 = .ok (.i2d, 1) := dk_135 (dk_at dksX4_sum_2 23 rfl rfl)
theorem dX4_sum_70 : decode cX4_sum 70 = .ok (.ddiv, 1) := dk_111 (dk_at dksX4_sum_3 0 rfl rfl)
theorem dX4_sum_71 : decode cX4_sum 71 = .ok (.dadd, 1) := dk_99 (dk_at dksX4_sum_3 1 rfl rfl)
theorem dX4_sum_72 : decode cX4_sum 72 = .ok (.dstore 4, 2) := dk_57 4 (dk_at dksX4_sum_3 2 rfl rfl)
theorem dX4_sum_74 : decode cX4_sum 74 = .ok (.iinc 6 1, 3) := dk_132 6 1 (dk_at dksX4_sum_3 4 rfl rfl)
theorem dX4_sum_77 : decode cX4_sum 77 = .ok (.goto (-71), 3) := dk_167 255 185 (dk_at dksX4_sum_3 7 rfl rfl)
theorem dX4_sum_80 : decode cX4_sum 80 = .ok (.dload 4, 2) := dk_24 4 (dk_at dksX4_sum_3 10 rfl rfl)
theorem dX4_sum_82 : decode cX4_sum 82 = .ok (.dreturn, 1) := dk_175 (dk_at dksX4_sum_3 12 rfl rfl)
abbrev cX4_value : ByteArray := prog_7_method_28_code
def yX4_value : MethodName := ⟨RX4, "value", "(LMultipoleLine$Box;I)D"⟩
def dkwX4_value_2 : List UInt8 := [57, 7, 132, 9, 1, 167, 255, 222, 41, 14, 152, 156, 0, 10, 14, 24, 5, 103, 167, 0, 5, 24, 5, 175]
abbrev dktX4_value_2 : List UInt8 := dkwX4_value_2 ++ []
def dkwX4_value_1 : List UInt8 := [163, 0, 31, 24, 5, 42, 43, 21, 9, 182, 0, 106, 138, 24, 7, 111, 99, 57, 5, 24, 7, 41, 107]
abbrev dktX4_value_1 : List UInt8 := dkwX4_value_1 ++ dktX4_value_2
def dkwX4_value_0 : List UInt8 := [28, 43, 180, 0, 125, 100, 135, 74, 14, 57, 5, 41, 57, 7, 3, 54, 9, 21, 9, 42, 180, 0, 61]
abbrev dktX4_value_0 : List UInt8 := dkwX4_value_0 ++ dktX4_value_1
theorem dksX4_value_0 : cX4_value.data.toList.drop 0 = dktX4_value_0 := by decide +kernel
theorem dksX4_value_1 : cX4_value.data.toList.drop 23 = dktX4_value_1 := dk_seg dksX4_value_0 23 rfl rfl
theorem dksX4_value_2 : cX4_value.data.toList.drop 46 = dktX4_value_2 := dk_seg dksX4_value_1 23 rfl rfl
theorem dX4_value_0 : decode cX4_value 0 = .ok (.iload_n 2, 1) := dk_28 (dk_at dksX4_value_0 0 rfl rfl)
theorem dX4_value_1 : decode cX4_value 1 = .ok (.aload_n 1, 1) := dk_43 (dk_at dksX4_value_0 1 rfl rfl)
theorem dX4_value_2 : decode cX4_value 2 = .ok (.getfield 125, 3) := dk_180 0 125 (dk_at dksX4_value_0 2 rfl rfl)
theorem dX4_value_5 : decode cX4_value 5 = .ok (.isub, 1) := dk_100 (dk_at dksX4_value_0 5 rfl rfl)
theorem dX4_value_6 : decode cX4_value 6 = .ok (.i2d, 1) := dk_135 (dk_at dksX4_value_0 6 rfl rfl)
theorem dX4_value_7 : decode cX4_value 7 = .ok (.dstore_n 3, 1) := dk_74 (dk_at dksX4_value_0 7 rfl rfl)
theorem dX4_value_8 : decode cX4_value 8 = .ok (.dconst 0, 1) := dk_14 (dk_at dksX4_value_0 8 rfl rfl)
theorem dX4_value_9 : decode cX4_value 9 = .ok (.dstore 5, 2) := dk_57 5 (dk_at dksX4_value_0 9 rfl rfl)
theorem dX4_value_11 : decode cX4_value 11 = .ok (.dload_n 3, 1) := dk_41 (dk_at dksX4_value_0 11 rfl rfl)
theorem dX4_value_12 : decode cX4_value 12 = .ok (.dstore 7, 2) := dk_57 7 (dk_at dksX4_value_0 12 rfl rfl)
theorem dX4_value_14 : decode cX4_value 14 = .ok (.iconst 0, 1) := dk_3 (dk_at dksX4_value_0 14 rfl rfl)
theorem dX4_value_15 : decode cX4_value 15 = .ok (.istore 9, 2) := dk_54 9 (dk_at dksX4_value_0 15 rfl rfl)
theorem dX4_value_17 : decode cX4_value 17 = .ok (.iload 9, 2) := dk_21 9 (dk_at dksX4_value_0 17 rfl rfl)
theorem dX4_value_19 : decode cX4_value 19 = .ok (.aload_n 0, 1) := dk_42 (dk_at dksX4_value_0 19 rfl rfl)
theorem dX4_value_20 : decode cX4_value 20 = .ok (.getfield 61, 3) := dk_180 0 61 (dk_at dksX4_value_0 20 rfl rfl)
theorem dX4_value_23 : decode cX4_value 23 = .ok (.if_icmp .gt 31, 3) := dk_163 0 31 (dk_at dksX4_value_1 0 rfl rfl)
theorem dX4_value_26 : decode cX4_value 26 = .ok (.dload 5, 2) := dk_24 5 (dk_at dksX4_value_1 3 rfl rfl)
theorem dX4_value_28 : decode cX4_value 28 = .ok (.aload_n 0, 1) := dk_42 (dk_at dksX4_value_1 5 rfl rfl)
theorem dX4_value_29 : decode cX4_value 29 = .ok (.aload_n 1, 1) := dk_43 (dk_at dksX4_value_1 6 rfl rfl)
theorem dX4_value_30 : decode cX4_value 30 = .ok (.iload 9, 2) := dk_21 9 (dk_at dksX4_value_1 7 rfl rfl)
theorem dX4_value_32 : decode cX4_value 32 = .ok (.invokevirtual 106, 3) := dk_182 0 106 (dk_at dksX4_value_1 9 rfl rfl)
theorem dX4_value_35 : decode cX4_value 35 = .ok (.l2d, 1) := dk_138 (dk_at dksX4_value_1 12 rfl rfl)
theorem dX4_value_36 : decode cX4_value 36 = .ok (.dload 7, 2) := dk_24 7 (dk_at dksX4_value_1 13 rfl rfl)
theorem dX4_value_38 : decode cX4_value 38 = .ok (.ddiv, 1) := dk_111 (dk_at dksX4_value_1 15 rfl rfl)
theorem dX4_value_39 : decode cX4_value 39 = .ok (.dadd, 1) := dk_99 (dk_at dksX4_value_1 16 rfl rfl)
theorem dX4_value_40 : decode cX4_value 40 = .ok (.dstore 5, 2) := dk_57 5 (dk_at dksX4_value_1 17 rfl rfl)
theorem dX4_value_42 : decode cX4_value 42 = .ok (.dload 7, 2) := dk_24 7 (dk_at dksX4_value_1 19 rfl rfl)
theorem dX4_value_44 : decode cX4_value 44 = .ok (.dload_n 3, 1) := dk_41 (dk_at dksX4_value_1 21 rfl rfl)
theorem dX4_value_45 : decode cX4_value 45 = .ok (.dmul, 1) := dk_107 (dk_at dksX4_value_1 22 rfl rfl)
theorem dX4_value_46 : decode cX4_value 46 = .ok (.dstore 7, 2) := dk_57 7 (dk_at dksX4_value_2 0 rfl rfl)
theorem dX4_value_48 : decode cX4_value 48 = .ok (.iinc 9 1, 3) := dk_132 9 1 (dk_at dksX4_value_2 2 rfl rfl)
theorem dX4_value_51 : decode cX4_value 51 = .ok (.goto (-34), 3) := dk_167 255 222 (dk_at dksX4_value_2 5 rfl rfl)
theorem dX4_value_54 : decode cX4_value 54 = .ok (.dload_n 3, 1) := dk_41 (dk_at dksX4_value_2 8 rfl rfl)
theorem dX4_value_55 : decode cX4_value 55 = .ok (.dconst 0, 1) := dk_14 (dk_at dksX4_value_2 9 rfl rfl)
theorem dX4_value_56 : decode cX4_value 56 = .ok (.dcmp .g, 1) := dk_152 (dk_at dksX4_value_2 10 rfl rfl)
theorem dX4_value_57 : decode cX4_value 57 = .ok (.ifCond .ge 10, 3) := dk_156 0 10 (dk_at dksX4_value_2 11 rfl rfl)
theorem dX4_value_60 : decode cX4_value 60 = .ok (.dconst 0, 1) := dk_14 (dk_at dksX4_value_2 14 rfl rfl)
theorem dX4_value_61 : decode cX4_value 61 = .ok (.dload 5, 2) := dk_24 5 (dk_at dksX4_value_2 15 rfl rfl)
theorem dX4_value_63 : decode cX4_value 63 = .ok (.dsub, 1) := dk_103 (dk_at dksX4_value_2 17 rfl rfl)
theorem dX4_value_64 : decode cX4_value 64 = .ok (.goto 5, 3) := dk_167 0 5 (dk_at dksX4_value_2 18 rfl rfl)
theorem dX4_value_67 : decode cX4_value 67 = .ok (.dload 5, 2) := dk_24 5 (dk_at dksX4_value_2 21 rfl rfl)
theorem dX4_value_69 : decode cX4_value 69 = .ok (.dreturn, 1) := dk_175 (dk_at dksX4_value_2 23 rfl rfl)
abbrev cX4_farSum : ByteArray := prog_7_method_29_code
def yX4_farSum : MethodName := ⟨RX4, "farSum", "(I)D"⟩
def dkwX4_farSum_1 : List UInt8 := [21, 5, 50, 27, 182, 0, 200, 99, 74, 132, 5, 1, 167, 255, 232, 41, 175]
abbrev dktX4_farSum_1 : List UInt8 := dkwX4_farSum_1 ++ []
def dkwX4_farSum_0 : List UInt8 := [42, 27, 182, 0, 195, 61, 14, 74, 3, 54, 5, 21, 5, 28, 162, 0, 24, 41, 42, 42, 180, 0, 26]
abbrev dktX4_farSum_0 : List UInt8 := dkwX4_farSum_0 ++ dktX4_farSum_1
theorem dksX4_farSum_0 : cX4_farSum.data.toList.drop 0 = dktX4_farSum_0 := by decide +kernel
theorem dksX4_farSum_1 : cX4_farSum.data.toList.drop 23 = dktX4_farSum_1 := dk_seg dksX4_farSum_0 23 rfl rfl
theorem dX4_farSum_0 : decode cX4_farSum 0 = .ok (.aload_n 0, 1) := dk_42 (dk_at dksX4_farSum_0 0 rfl rfl)
theorem dX4_farSum_1 : decode cX4_farSum 1 = .ok (.iload_n 1, 1) := dk_27 (dk_at dksX4_farSum_0 1 rfl rfl)
theorem dX4_farSum_2 : decode cX4_farSum 2 = .ok (.invokevirtual 195, 3) := dk_182 0 195 (dk_at dksX4_farSum_0 2 rfl rfl)
theorem dX4_farSum_5 : decode cX4_farSum 5 = .ok (.istore_n 2, 1) := dk_61 (dk_at dksX4_farSum_0 5 rfl rfl)
theorem dX4_farSum_6 : decode cX4_farSum 6 = .ok (.dconst 0, 1) := dk_14 (dk_at dksX4_farSum_0 6 rfl rfl)
theorem dX4_farSum_7 : decode cX4_farSum 7 = .ok (.dstore_n 3, 1) := dk_74 (dk_at dksX4_farSum_0 7 rfl rfl)
theorem dX4_farSum_8 : decode cX4_farSum 8 = .ok (.iconst 0, 1) := dk_3 (dk_at dksX4_farSum_0 8 rfl rfl)
theorem dX4_farSum_9 : decode cX4_farSum 9 = .ok (.istore 5, 2) := dk_54 5 (dk_at dksX4_farSum_0 9 rfl rfl)
theorem dX4_farSum_11 : decode cX4_farSum 11 = .ok (.iload 5, 2) := dk_21 5 (dk_at dksX4_farSum_0 11 rfl rfl)
theorem dX4_farSum_13 : decode cX4_farSum 13 = .ok (.iload_n 2, 1) := dk_28 (dk_at dksX4_farSum_0 13 rfl rfl)
theorem dX4_farSum_14 : decode cX4_farSum 14 = .ok (.if_icmp .ge 24, 3) := dk_162 0 24 (dk_at dksX4_farSum_0 14 rfl rfl)
theorem dX4_farSum_17 : decode cX4_farSum 17 = .ok (.dload_n 3, 1) := dk_41 (dk_at dksX4_farSum_0 17 rfl rfl)
theorem dX4_farSum_18 : decode cX4_farSum 18 = .ok (.aload_n 0, 1) := dk_42 (dk_at dksX4_farSum_0 18 rfl rfl)
theorem dX4_farSum_19 : decode cX4_farSum 19 = .ok (.aload_n 0, 1) := dk_42 (dk_at dksX4_farSum_0 19 rfl rfl)
theorem dX4_farSum_20 : decode cX4_farSum 20 = .ok (.getfield 26, 3) := dk_180 0 26 (dk_at dksX4_farSum_0 20 rfl rfl)
theorem dX4_farSum_23 : decode cX4_farSum 23 = .ok (.iload 5, 2) := dk_21 5 (dk_at dksX4_farSum_1 0 rfl rfl)
theorem dX4_farSum_25 : decode cX4_farSum 25 = .ok (.aaload, 1) := dk_50 (dk_at dksX4_farSum_1 2 rfl rfl)
theorem dX4_farSum_26 : decode cX4_farSum 26 = .ok (.iload_n 1, 1) := dk_27 (dk_at dksX4_farSum_1 3 rfl rfl)
theorem dX4_farSum_27 : decode cX4_farSum 27 = .ok (.invokevirtual 200, 3) := dk_182 0 200 (dk_at dksX4_farSum_1 4 rfl rfl)
theorem dX4_farSum_30 : decode cX4_farSum 30 = .ok (.dadd, 1) := dk_99 (dk_at dksX4_farSum_1 7 rfl rfl)
theorem dX4_farSum_31 : decode cX4_farSum 31 = .ok (.dstore_n 3, 1) := dk_74 (dk_at dksX4_farSum_1 8 rfl rfl)
theorem dX4_farSum_32 : decode cX4_farSum 32 = .ok (.iinc 5 1, 3) := dk_132 5 1 (dk_at dksX4_farSum_1 9 rfl rfl)
theorem dX4_farSum_35 : decode cX4_farSum 35 = .ok (.goto (-24), 3) := dk_167 255 232 (dk_at dksX4_farSum_1 12 rfl rfl)
theorem dX4_farSum_38 : decode cX4_farSum 38 = .ok (.dload_n 3, 1) := dk_41 (dk_at dksX4_farSum_1 15 rfl rfl)
theorem dX4_farSum_39 : decode cX4_farSum 39 = .ok (.dreturn, 1) := dk_175 (dk_at dksX4_farSum_1 16 rfl rfl)
abbrev cX4_sumBy : ByteArray := prog_7_method_31_code
def yX4_sumBy : MethodName := ⟨RX4, "sumBy", "(IZ)D"⟩
def dkwX4_sumBy_1 : List UInt8 := [182, 0, 214, 175]
abbrev dktX4_sumBy_1 : List UInt8 := dkwX4_sumBy_1 ++ []
def dkwX4_sumBy_0 : List UInt8 := [28, 153, 0, 19, 42, 27, 4, 2, 182, 0, 214, 42, 27, 182, 0, 218, 99, 167, 0, 10, 42, 27, 3, 2]
abbrev dktX4_sumBy_0 : List UInt8 := dkwX4_sumBy_0 ++ dktX4_sumBy_1
theorem dksX4_sumBy_0 : cX4_sumBy.data.toList.drop 0 = dktX4_sumBy_0 := by decide +kernel
theorem dksX4_sumBy_1 : cX4_sumBy.data.toList.drop 24 = dktX4_sumBy_1 := dk_seg dksX4_sumBy_0 24 rfl rfl
theorem dX4_sumBy_0 : decode cX4_sumBy 0 = .ok (.iload_n 2, 1) := dk_28 (dk_at dksX4_sumBy_0 0 rfl rfl)
theorem dX4_sumBy_1 : decode cX4_sumBy 1 = .ok (.ifCond .eq 19, 3) := dk_153 0 19 (dk_at dksX4_sumBy_0 1 rfl rfl)
theorem dX4_sumBy_4 : decode cX4_sumBy 4 = .ok (.aload_n 0, 1) := dk_42 (dk_at dksX4_sumBy_0 4 rfl rfl)
theorem dX4_sumBy_5 : decode cX4_sumBy 5 = .ok (.iload_n 1, 1) := dk_27 (dk_at dksX4_sumBy_0 5 rfl rfl)
theorem dX4_sumBy_6 : decode cX4_sumBy 6 = .ok (.iconst 1, 1) := dk_4 (dk_at dksX4_sumBy_0 6 rfl rfl)
theorem dX4_sumBy_7 : decode cX4_sumBy 7 = .ok (.iconst (-1), 1) := dk_2 (dk_at dksX4_sumBy_0 7 rfl rfl)
theorem dX4_sumBy_8 : decode cX4_sumBy 8 = .ok (.invokevirtual 214, 3) := dk_182 0 214 (dk_at dksX4_sumBy_0 8 rfl rfl)
theorem dX4_sumBy_11 : decode cX4_sumBy 11 = .ok (.aload_n 0, 1) := dk_42 (dk_at dksX4_sumBy_0 11 rfl rfl)
theorem dX4_sumBy_12 : decode cX4_sumBy 12 = .ok (.iload_n 1, 1) := dk_27 (dk_at dksX4_sumBy_0 12 rfl rfl)
theorem dX4_sumBy_13 : decode cX4_sumBy 13 = .ok (.invokevirtual 218, 3) := dk_182 0 218 (dk_at dksX4_sumBy_0 13 rfl rfl)
theorem dX4_sumBy_16 : decode cX4_sumBy 16 = .ok (.dadd, 1) := dk_99 (dk_at dksX4_sumBy_0 16 rfl rfl)
theorem dX4_sumBy_17 : decode cX4_sumBy 17 = .ok (.goto 10, 3) := dk_167 0 10 (dk_at dksX4_sumBy_0 17 rfl rfl)
theorem dX4_sumBy_20 : decode cX4_sumBy 20 = .ok (.aload_n 0, 1) := dk_42 (dk_at dksX4_sumBy_0 20 rfl rfl)
theorem dX4_sumBy_21 : decode cX4_sumBy 21 = .ok (.iload_n 1, 1) := dk_27 (dk_at dksX4_sumBy_0 21 rfl rfl)
theorem dX4_sumBy_22 : decode cX4_sumBy 22 = .ok (.iconst 0, 1) := dk_3 (dk_at dksX4_sumBy_0 22 rfl rfl)
theorem dX4_sumBy_23 : decode cX4_sumBy 23 = .ok (.iconst (-1), 1) := dk_2 (dk_at dksX4_sumBy_0 23 rfl rfl)
theorem dX4_sumBy_24 : decode cX4_sumBy 24 = .ok (.invokevirtual 214, 3) := dk_182 0 214 (dk_at dksX4_sumBy_1 0 rfl rfl)
theorem dX4_sumBy_27 : decode cX4_sumBy 27 = .ok (.dreturn, 1) := dk_175 (dk_at dksX4_sumBy_1 3 rfl rfl)
abbrev cX1_plain : ByteArray := prog_1_method_42_code
def yX1_plain : MethodName := ⟨RX1, "plain", "(I)D"⟩
def dkwX1_plain_0 : List UInt8 := [42, 27, 182, 0, 193, 27, 3, 182, 1, 31, 175]
abbrev dktX1_plain_0 : List UInt8 := dkwX1_plain_0 ++ []
theorem dksX1_plain_0 : cX1_plain.data.toList.drop 0 = dktX1_plain_0 := by decide +kernel
theorem dX1_plain_0 : decode cX1_plain 0 = .ok (.aload_n 0, 1) := dk_42 (dk_at dksX1_plain_0 0 rfl rfl)
theorem dX1_plain_1 : decode cX1_plain 1 = .ok (.iload_n 1, 1) := dk_27 (dk_at dksX1_plain_0 1 rfl rfl)
theorem dX1_plain_2 : decode cX1_plain 2 = .ok (.invokevirtual 193, 3) := dk_182 0 193 (dk_at dksX1_plain_0 2 rfl rfl)
theorem dX1_plain_5 : decode cX1_plain 5 = .ok (.iload_n 1, 1) := dk_27 (dk_at dksX1_plain_0 5 rfl rfl)
theorem dX1_plain_6 : decode cX1_plain 6 = .ok (.iconst 0, 1) := dk_3 (dk_at dksX1_plain_0 6 rfl rfl)
theorem dX1_plain_7 : decode cX1_plain 7 = .ok (.invokevirtual 287, 3) := dk_182 1 31 (dk_at dksX1_plain_0 7 rfl rfl)
theorem dX1_plain_10 : decode cX1_plain 10 = .ok (.dreturn, 1) := dk_175 (dk_at dksX1_plain_0 10 rfl rfl)
abbrev cX1_nearSum : ByteArray := prog_1_method_43_code
def yX1_nearSum : MethodName := ⟨RX1, "nearSum", "(I)D"⟩
def dkwX1_nearSum_0 : List UInt8 := [42, 27, 182, 0, 193, 27, 4, 2, 182, 1, 35, 175]
abbrev dktX1_nearSum_0 : List UInt8 := dkwX1_nearSum_0 ++ []
theorem dksX1_nearSum_0 : cX1_nearSum.data.toList.drop 0 = dktX1_nearSum_0 := by decide +kernel
theorem dX1_nearSum_0 : decode cX1_nearSum 0 = .ok (.aload_n 0, 1) := dk_42 (dk_at dksX1_nearSum_0 0 rfl rfl)
theorem dX1_nearSum_1 : decode cX1_nearSum 1 = .ok (.iload_n 1, 1) := dk_27 (dk_at dksX1_nearSum_0 1 rfl rfl)
theorem dX1_nearSum_2 : decode cX1_nearSum 2 = .ok (.invokevirtual 193, 3) := dk_182 0 193 (dk_at dksX1_nearSum_0 2 rfl rfl)
theorem dX1_nearSum_5 : decode cX1_nearSum 5 = .ok (.iload_n 1, 1) := dk_27 (dk_at dksX1_nearSum_0 5 rfl rfl)
theorem dX1_nearSum_6 : decode cX1_nearSum 6 = .ok (.iconst 1, 1) := dk_4 (dk_at dksX1_nearSum_0 6 rfl rfl)
theorem dX1_nearSum_7 : decode cX1_nearSum 7 = .ok (.iconst (-1), 1) := dk_2 (dk_at dksX1_nearSum_0 7 rfl rfl)
theorem dX1_nearSum_8 : decode cX1_nearSum 8 = .ok (.invokevirtual 291, 3) := dk_182 1 35 (dk_at dksX1_nearSum_0 8 rfl rfl)
theorem dX1_nearSum_11 : decode cX1_nearSum 11 = .ok (.dreturn, 1) := dk_175 (dk_at dksX1_nearSum_0 11 rfl rfl)
abbrev cX1_farSum : ByteArray := prog_1_method_44_code
def yX1_farSum : MethodName := ⟨RX1, "farSum", "(I)D"⟩
def dkwX1_farSum_0 : List UInt8 := [42, 27, 182, 0, 193, 27, 182, 1, 39, 175]
abbrev dktX1_farSum_0 : List UInt8 := dkwX1_farSum_0 ++ []
theorem dksX1_farSum_0 : cX1_farSum.data.toList.drop 0 = dktX1_farSum_0 := by decide +kernel
theorem dX1_farSum_0 : decode cX1_farSum 0 = .ok (.aload_n 0, 1) := dk_42 (dk_at dksX1_farSum_0 0 rfl rfl)
theorem dX1_farSum_1 : decode cX1_farSum 1 = .ok (.iload_n 1, 1) := dk_27 (dk_at dksX1_farSum_0 1 rfl rfl)
theorem dX1_farSum_2 : decode cX1_farSum 2 = .ok (.invokevirtual 193, 3) := dk_182 0 193 (dk_at dksX1_farSum_0 2 rfl rfl)
theorem dX1_farSum_5 : decode cX1_farSum 5 = .ok (.iload_n 1, 1) := dk_27 (dk_at dksX1_farSum_0 5 rfl rfl)
theorem dX1_farSum_6 : decode cX1_farSum 6 = .ok (.invokevirtual 295, 3) := dk_182 1 39 (dk_at dksX1_farSum_0 6 rfl rfl)
theorem dX1_farSum_9 : decode cX1_farSum 9 = .ok (.dreturn, 1) := dk_175 (dk_at dksX1_farSum_0 9 rfl rfl)
abbrev cX1_farBits : ByteArray := prog_1_method_45_code
def yX1_farBits : MethodName := ⟨RX1, "farBits", "(I)J"⟩
def dkwX1_farBits_0 : List UInt8 := [42, 27, 182, 1, 43, 184, 1, 44, 173]
abbrev dktX1_farBits_0 : List UInt8 := dkwX1_farBits_0 ++ []
theorem dksX1_farBits_0 : cX1_farBits.data.toList.drop 0 = dktX1_farBits_0 := by decide +kernel
theorem dX1_farBits_0 : decode cX1_farBits 0 = .ok (.aload_n 0, 1) := dk_42 (dk_at dksX1_farBits_0 0 rfl rfl)
theorem dX1_farBits_1 : decode cX1_farBits 1 = .ok (.iload_n 1, 1) := dk_27 (dk_at dksX1_farBits_0 1 rfl rfl)
theorem dX1_farBits_2 : decode cX1_farBits 2 = .ok (.invokevirtual 299, 3) := dk_182 1 43 (dk_at dksX1_farBits_0 2 rfl rfl)
theorem dX1_farBits_5 : decode cX1_farBits 5 = .ok (.invokestatic 300, 3) := dk_184 1 44 (dk_at dksX1_farBits_0 5 rfl rfl)
theorem dX1_farBits_8 : decode cX1_farBits 8 = .ok (.lreturn, 1) := dk_173 (dk_at dksX1_farBits_0 8 rfl rfl)
abbrev cX1_value : ByteArray := prog_1_method_46_code
def yX1_value : MethodName := ⟨RX1, "value", "(III)D"⟩
def dkwX1_value_2 : List UInt8 := [25, 4, 29, 182, 1, 55, 175]
abbrev dktX1_value_2 : List UInt8 := dkwX1_value_2 ++ []
def dkwX1_value_1 : List UInt8 := [184, 1, 50, 25, 4, 180, 0, 202, 161, 0, 7, 4, 167, 0, 4, 3, 184, 0, 98, 42, 180, 0, 68]
abbrev dktX1_value_1 : List UInt8 := dkwX1_value_1 ++ dktX1_value_2
def dkwX1_value_0 : List UInt8 := [42, 27, 28, 182, 0, 196, 58, 4, 29, 184, 0, 94, 153, 0, 25, 29, 25, 4, 180, 0, 205, 100]
abbrev dktX1_value_0 : List UInt8 := dkwX1_value_0 ++ dktX1_value_1
theorem dksX1_value_0 : cX1_value.data.toList.drop 0 = dktX1_value_0 := by decide +kernel
theorem dksX1_value_1 : cX1_value.data.toList.drop 22 = dktX1_value_1 := dk_seg dksX1_value_0 22 rfl rfl
theorem dksX1_value_2 : cX1_value.data.toList.drop 45 = dktX1_value_2 := dk_seg dksX1_value_1 23 rfl rfl
theorem dX1_value_0 : decode cX1_value 0 = .ok (.aload_n 0, 1) := dk_42 (dk_at dksX1_value_0 0 rfl rfl)
theorem dX1_value_1 : decode cX1_value 1 = .ok (.iload_n 1, 1) := dk_27 (dk_at dksX1_value_0 1 rfl rfl)
theorem dX1_value_2 : decode cX1_value 2 = .ok (.iload_n 2, 1) := dk_28 (dk_at dksX1_value_0 2 rfl rfl)
theorem dX1_value_3 : decode cX1_value 3 = .ok (.invokevirtual 196, 3) := dk_182 0 196 (dk_at dksX1_value_0 3 rfl rfl)
theorem dX1_value_6 : decode cX1_value 6 = .ok (.astore 4, 2) := dk_58 4 (dk_at dksX1_value_0 6 rfl rfl)
theorem dX1_value_8 : decode cX1_value 8 = .ok (.iload_n 3, 1) := dk_29 (dk_at dksX1_value_0 8 rfl rfl)
theorem dX1_value_9 : decode cX1_value 9 = .ok (.invokestatic 94, 3) := dk_184 0 94 (dk_at dksX1_value_0 9 rfl rfl)
theorem dX1_value_12 : decode cX1_value 12 = .ok (.ifCond .eq 25, 3) := dk_153 0 25 (dk_at dksX1_value_0 12 rfl rfl)
theorem dX1_value_15 : decode cX1_value 15 = .ok (.iload_n 3, 1) := dk_29 (dk_at dksX1_value_0 15 rfl rfl)
theorem dX1_value_16 : decode cX1_value 16 = .ok (.aload 4, 2) := dk_25 4 (dk_at dksX1_value_0 16 rfl rfl)
theorem dX1_value_18 : decode cX1_value 18 = .ok (.getfield 205, 3) := dk_180 0 205 (dk_at dksX1_value_0 18 rfl rfl)
theorem dX1_value_21 : decode cX1_value 21 = .ok (.isub, 1) := dk_100 (dk_at dksX1_value_0 21 rfl rfl)
theorem dX1_value_22 : decode cX1_value 22 = .ok (.invokestatic 306, 3) := dk_184 1 50 (dk_at dksX1_value_1 0 rfl rfl)
theorem dX1_value_25 : decode cX1_value 25 = .ok (.aload 4, 2) := dk_25 4 (dk_at dksX1_value_1 3 rfl rfl)
theorem dX1_value_27 : decode cX1_value 27 = .ok (.getfield 202, 3) := dk_180 0 202 (dk_at dksX1_value_1 5 rfl rfl)
theorem dX1_value_30 : decode cX1_value 30 = .ok (.if_icmp .lt 7, 3) := dk_161 0 7 (dk_at dksX1_value_1 8 rfl rfl)
theorem dX1_value_33 : decode cX1_value 33 = .ok (.iconst 1, 1) := dk_4 (dk_at dksX1_value_1 11 rfl rfl)
theorem dX1_value_34 : decode cX1_value 34 = .ok (.goto 4, 3) := dk_167 0 4 (dk_at dksX1_value_1 12 rfl rfl)
theorem dX1_value_37 : decode cX1_value 37 = .ok (.iconst 0, 1) := dk_3 (dk_at dksX1_value_1 15 rfl rfl)
theorem dX1_value_38 : decode cX1_value 38 = .ok (.invokestatic 98, 3) := dk_184 0 98 (dk_at dksX1_value_1 16 rfl rfl)
theorem dX1_value_41 : decode cX1_value 41 = .ok (.aload_n 0, 1) := dk_42 (dk_at dksX1_value_1 19 rfl rfl)
theorem dX1_value_42 : decode cX1_value 42 = .ok (.getfield 68, 3) := dk_180 0 68 (dk_at dksX1_value_1 20 rfl rfl)
theorem dX1_value_45 : decode cX1_value 45 = .ok (.aload 4, 2) := dk_25 4 (dk_at dksX1_value_2 0 rfl rfl)
theorem dX1_value_47 : decode cX1_value 47 = .ok (.iload_n 3, 1) := dk_29 (dk_at dksX1_value_2 2 rfl rfl)
theorem dX1_value_48 : decode cX1_value 48 = .ok (.invokevirtual 311, 3) := dk_182 1 55 (dk_at dksX1_value_2 3 rfl rfl)
theorem dX1_value_51 : decode cX1_value 51 = .ok (.dreturn, 1) := dk_175 (dk_at dksX1_value_2 6 rfl rfl)
abbrev cX1_power : ByteArray := prog_1_method_5_code
def yX1_power : MethodName := ⟨RX1, "power", "(DDI)D"⟩
def dkwX1_power_1 : List UInt8 := [167, 255, 240, 24, 5, 175]
abbrev dktX1_power_1 : List UInt8 := dkwX1_power_1 ++ []
def dkwX1_power_0 : List UInt8 := [38, 57, 5, 3, 54, 7, 21, 7, 21, 4, 162, 0, 15, 24, 5, 40, 107, 57, 5, 132, 7, 1]
abbrev dktX1_power_0 : List UInt8 := dkwX1_power_0 ++ dktX1_power_1
theorem dksX1_power_0 : cX1_power.data.toList.drop 0 = dktX1_power_0 := by decide +kernel
theorem dksX1_power_1 : cX1_power.data.toList.drop 22 = dktX1_power_1 := dk_seg dksX1_power_0 22 rfl rfl
theorem dX1_power_0 : decode cX1_power 0 = .ok (.dload_n 0, 1) := dk_38 (dk_at dksX1_power_0 0 rfl rfl)
theorem dX1_power_1 : decode cX1_power 1 = .ok (.dstore 5, 2) := dk_57 5 (dk_at dksX1_power_0 1 rfl rfl)
theorem dX1_power_3 : decode cX1_power 3 = .ok (.iconst 0, 1) := dk_3 (dk_at dksX1_power_0 3 rfl rfl)
theorem dX1_power_4 : decode cX1_power 4 = .ok (.istore 7, 2) := dk_54 7 (dk_at dksX1_power_0 4 rfl rfl)
theorem dX1_power_6 : decode cX1_power 6 = .ok (.iload 7, 2) := dk_21 7 (dk_at dksX1_power_0 6 rfl rfl)
theorem dX1_power_8 : decode cX1_power 8 = .ok (.iload 4, 2) := dk_21 4 (dk_at dksX1_power_0 8 rfl rfl)
theorem dX1_power_10 : decode cX1_power 10 = .ok (.if_icmp .ge 15, 3) := dk_162 0 15 (dk_at dksX1_power_0 10 rfl rfl)
theorem dX1_power_13 : decode cX1_power 13 = .ok (.dload 5, 2) := dk_24 5 (dk_at dksX1_power_0 13 rfl rfl)
theorem dX1_power_15 : decode cX1_power 15 = .ok (.dload_n 2, 1) := dk_40 (dk_at dksX1_power_0 15 rfl rfl)
theorem dX1_power_16 : decode cX1_power 16 = .ok (.dmul, 1) := dk_107 (dk_at dksX1_power_0 16 rfl rfl)
theorem dX1_power_17 : decode cX1_power 17 = .ok (.dstore 5, 2) := dk_57 5 (dk_at dksX1_power_0 17 rfl rfl)
theorem dX1_power_19 : decode cX1_power 19 = .ok (.iinc 7 1, 3) := dk_132 7 1 (dk_at dksX1_power_0 19 rfl rfl)
theorem dX1_power_22 : decode cX1_power 22 = .ok (.goto (-16), 3) := dk_167 255 240 (dk_at dksX1_power_1 0 rfl rfl)
theorem dX1_power_25 : decode cX1_power 25 = .ok (.dload 5, 2) := dk_24 5 (dk_at dksX1_power_1 3 rfl rfl)
theorem dX1_power_27 : decode cX1_power 27 = .ok (.dreturn, 1) := dk_175 (dk_at dksX1_power_1 5 rfl rfl)
abbrev cX4_bound : ByteArray := prog_7_method_30_code
def yX4_bound : MethodName := ⟨RX4, "bound", "(II)D"⟩
def dkwX4_bound_3 : List UInt8 := [135, 24, 10, 107, 21, 8, 21, 9, 100, 135, 111, 99, 57, 4, 132, 6, 1, 167, 255, 179, 24, 4, 175]
abbrev dktX4_bound_3 : List UInt8 := dkwX4_bound_3 ++ []
def dkwX4_bound_2 : List UInt8 := [15, 21, 9, 135, 21, 8, 135, 111, 28, 4, 96, 184, 0, 207, 57, 10, 24, 4, 42, 25, 7, 182, 0, 211]
abbrev dktX4_bound_2 : List UInt8 := dkwX4_bound_2 ++ dktX4_bound_3
def dkwX4_bound_1 : List UInt8 := [50, 58, 7, 27, 25, 7, 180, 0, 125, 100, 184, 0, 92, 54, 8, 25, 7, 180, 0, 204, 5, 108, 54, 9]
abbrev dktX4_bound_1 : List UInt8 := dkwX4_bound_1 ++ dktX4_bound_2
def dkwX4_bound_0 : List UInt8 := [42, 27, 182, 0, 195, 62, 14, 57, 4, 3, 54, 6, 21, 6, 29, 162, 0, 77, 42, 180, 0, 26, 21, 6]
abbrev dktX4_bound_0 : List UInt8 := dkwX4_bound_0 ++ dktX4_bound_1
theorem dksX4_bound_0 : cX4_bound.data.toList.drop 0 = dktX4_bound_0 := by decide +kernel
theorem dksX4_bound_1 : cX4_bound.data.toList.drop 24 = dktX4_bound_1 := dk_seg dksX4_bound_0 24 rfl rfl
theorem dksX4_bound_2 : cX4_bound.data.toList.drop 48 = dktX4_bound_2 := dk_seg dksX4_bound_1 24 rfl rfl
theorem dksX4_bound_3 : cX4_bound.data.toList.drop 72 = dktX4_bound_3 := dk_seg dksX4_bound_2 24 rfl rfl
theorem dX4_bound_0 : decode cX4_bound 0 = .ok (.aload_n 0, 1) := dk_42 (dk_at dksX4_bound_0 0 rfl rfl)
theorem dX4_bound_1 : decode cX4_bound 1 = .ok (.iload_n 1, 1) := dk_27 (dk_at dksX4_bound_0 1 rfl rfl)
theorem dX4_bound_2 : decode cX4_bound 2 = .ok (.invokevirtual 195, 3) := dk_182 0 195 (dk_at dksX4_bound_0 2 rfl rfl)
theorem dX4_bound_5 : decode cX4_bound 5 = .ok (.istore_n 3, 1) := dk_62 (dk_at dksX4_bound_0 5 rfl rfl)
theorem dX4_bound_6 : decode cX4_bound 6 = .ok (.dconst 0, 1) := dk_14 (dk_at dksX4_bound_0 6 rfl rfl)
theorem dX4_bound_7 : decode cX4_bound 7 = .ok (.dstore 4, 2) := dk_57 4 (dk_at dksX4_bound_0 7 rfl rfl)
theorem dX4_bound_9 : decode cX4_bound 9 = .ok (.iconst 0, 1) := dk_3 (dk_at dksX4_bound_0 9 rfl rfl)
theorem dX4_bound_10 : decode cX4_bound 10 = .ok (.istore 6, 2) := dk_54 6 (dk_at dksX4_bound_0 10 rfl rfl)
theorem dX4_bound_12 : decode cX4_bound 12 = .ok (.iload 6, 2) := dk_21 6 (dk_at dksX4_bound_0 12 rfl rfl)
theorem dX4_bound_14 : decode cX4_bound 14 = .ok (.iload_n 3, 1) := dk_29 (dk_at dksX4_bound_0 14 rfl rfl)
theorem dX4_bound_15 : decode cX4_bound 15 = .ok (.if_icmp .ge 77, 3) := dk_162 0 77 (dk_at dksX4_bound_0 15 rfl rfl)
theorem dX4_bound_18 : decode cX4_bound 18 = .ok (.aload_n 0, 1) := dk_42 (dk_at dksX4_bound_0 18 rfl rfl)
theorem dX4_bound_19 : decode cX4_bound 19 = .ok (.getfield 26, 3) := dk_180 0 26 (dk_at dksX4_bound_0 19 rfl rfl)
theorem dX4_bound_22 : decode cX4_bound 22 = .ok (.iload 6, 2) := dk_21 6 (dk_at dksX4_bound_0 22 rfl rfl)
theorem dX4_bound_24 : decode cX4_bound 24 = .ok (.aaload, 1) := dk_50 (dk_at dksX4_bound_1 0 rfl rfl)
theorem dX4_bound_25 : decode cX4_bound 25 = .ok (.astore 7, 2) := dk_58 7 (dk_at dksX4_bound_1 1 rfl rfl)
theorem dX4_bound_27 : decode cX4_bound 27 = .ok (.iload_n 1, 1) := dk_27 (dk_at dksX4_bound_1 3 rfl rfl)
theorem dX4_bound_28 : decode cX4_bound 28 = .ok (.aload 7, 2) := dk_25 7 (dk_at dksX4_bound_1 4 rfl rfl)
theorem dX4_bound_30 : decode cX4_bound 30 = .ok (.getfield 125, 3) := dk_180 0 125 (dk_at dksX4_bound_1 6 rfl rfl)
theorem dX4_bound_33 : decode cX4_bound 33 = .ok (.isub, 1) := dk_100 (dk_at dksX4_bound_1 9 rfl rfl)
theorem dX4_bound_34 : decode cX4_bound 34 = .ok (.invokestatic 92, 3) := dk_184 0 92 (dk_at dksX4_bound_1 10 rfl rfl)
theorem dX4_bound_37 : decode cX4_bound 37 = .ok (.istore 8, 2) := dk_54 8 (dk_at dksX4_bound_1 13 rfl rfl)
theorem dX4_bound_39 : decode cX4_bound 39 = .ok (.aload 7, 2) := dk_25 7 (dk_at dksX4_bound_1 15 rfl rfl)
theorem dX4_bound_41 : decode cX4_bound 41 = .ok (.getfield 204, 3) := dk_180 0 204 (dk_at dksX4_bound_1 17 rfl rfl)
theorem dX4_bound_44 : decode cX4_bound 44 = .ok (.iconst 2, 1) := dk_5 (dk_at dksX4_bound_1 20 rfl rfl)
theorem dX4_bound_45 : decode cX4_bound 45 = .ok (.idiv, 1) := dk_108 (dk_at dksX4_bound_1 21 rfl rfl)
theorem dX4_bound_46 : decode cX4_bound 46 = .ok (.istore 9, 2) := dk_54 9 (dk_at dksX4_bound_1 22 rfl rfl)
theorem dX4_bound_48 : decode cX4_bound 48 = .ok (.dconst 1, 1) := dk_15 (dk_at dksX4_bound_2 0 rfl rfl)
theorem dX4_bound_49 : decode cX4_bound 49 = .ok (.iload 9, 2) := dk_21 9 (dk_at dksX4_bound_2 1 rfl rfl)
theorem dX4_bound_51 : decode cX4_bound 51 = .ok (.i2d, 1) := dk_135 (dk_at dksX4_bound_2 3 rfl rfl)
theorem dX4_bound_52 : decode cX4_bound 52 = .ok (.iload 8, 2) := dk_21 8 (dk_at dksX4_bound_2 4 rfl rfl)
theorem dX4_bound_54 : decode cX4_bound 54 = .ok (.i2d, 1) := dk_135 (dk_at dksX4_bound_2 6 rfl rfl)
theorem dX4_bound_55 : decode cX4_bound 55 = .ok (.ddiv, 1) := dk_111 (dk_at dksX4_bound_2 7 rfl rfl)
theorem dX4_bound_56 : decode cX4_bound 56 = .ok (.iload_n 2, 1) := dk_28 (dk_at dksX4_bound_2 8 rfl rfl)
theorem dX4_bound_57 : decode cX4_bound 57 = .ok (.iconst 1, 1) := dk_4 (dk_at dksX4_bound_2 9 rfl rfl)
theorem dX4_bound_58 : decode cX4_bound 58 = .ok (.iadd, 1) := dk_96 (dk_at dksX4_bound_2 10 rfl rfl)
theorem dX4_bound_59 : decode cX4_bound 59 = .ok (.invokestatic 207, 3) := dk_184 0 207 (dk_at dksX4_bound_2 11 rfl rfl)
theorem dX4_bound_62 : decode cX4_bound 62 = .ok (.dstore 10, 2) := dk_57 10 (dk_at dksX4_bound_2 14 rfl rfl)
theorem dX4_bound_64 : decode cX4_bound 64 = .ok (.dload 4, 2) := dk_24 4 (dk_at dksX4_bound_2 16 rfl rfl)
theorem dX4_bound_66 : decode cX4_bound 66 = .ok (.aload_n 0, 1) := dk_42 (dk_at dksX4_bound_2 18 rfl rfl)
theorem dX4_bound_67 : decode cX4_bound 67 = .ok (.aload 7, 2) := dk_25 7 (dk_at dksX4_bound_2 19 rfl rfl)
theorem dX4_bound_69 : decode cX4_bound 69 = .ok (.invokevirtual 211, 3) := dk_182 0 211 (dk_at dksX4_bound_2 21 rfl rfl)
theorem dX4_bound_72 : decode cX4_bound 72 = .ok (.i2d, 1) := dk_135 (dk_at dksX4_bound_3 0 rfl rfl)
theorem dX4_bound_73 : decode cX4_bound 73 = .ok (.dload 10, 2) := dk_24 10 (dk_at dksX4_bound_3 1 rfl rfl)
theorem dX4_bound_75 : decode cX4_bound 75 = .ok (.dmul, 1) := dk_107 (dk_at dksX4_bound_3 3 rfl rfl)
theorem dX4_bound_76 : decode cX4_bound 76 = .ok (.iload 8, 2) := dk_21 8 (dk_at dksX4_bound_3 4 rfl rfl)
theorem dX4_bound_78 : decode cX4_bound 78 = .ok (.iload 9, 2) := dk_21 9 (dk_at dksX4_bound_3 6 rfl rfl)
theorem dX4_bound_80 : decode cX4_bound 80 = .ok (.isub, 1) := dk_100 (dk_at dksX4_bound_3 8 rfl rfl)
theorem dX4_bound_81 : decode cX4_bound 81 = .ok (.i2d, 1) := dk_135 (dk_at dksX4_bound_3 9 rfl rfl)
theorem dX4_bound_82 : decode cX4_bound 82 = .ok (.ddiv, 1) := dk_111 (dk_at dksX4_bound_3 10 rfl rfl)
theorem dX4_bound_83 : decode cX4_bound 83 = .ok (.dadd, 1) := dk_99 (dk_at dksX4_bound_3 11 rfl rfl)
theorem dX4_bound_84 : decode cX4_bound 84 = .ok (.dstore 4, 2) := dk_57 4 (dk_at dksX4_bound_3 12 rfl rfl)
theorem dX4_bound_86 : decode cX4_bound 86 = .ok (.iinc 6 1, 3) := dk_132 6 1 (dk_at dksX4_bound_3 14 rfl rfl)
theorem dX4_bound_89 : decode cX4_bound 89 = .ok (.goto (-77), 3) := dk_167 255 179 (dk_at dksX4_bound_3 17 rfl rfl)
theorem dX4_bound_92 : decode cX4_bound 92 = .ok (.dload 4, 2) := dk_24 4 (dk_at dksX4_bound_3 20 rfl rfl)
theorem dX4_bound_94 : decode cX4_bound 94 = .ok (.dreturn, 1) := dk_175 (dk_at dksX4_bound_3 22 rfl rfl)
abbrev cX1_bound : ByteArray := prog_1_method_47_code
def yX1_bound : MethodName := ⟨RX1, "bound", "(I)D"⟩
def dkwX1_bound_0 : List UInt8 := [42, 27, 182, 0, 193, 27, 42, 180, 0, 68, 180, 1, 59, 182, 1, 62, 175]
abbrev dktX1_bound_0 : List UInt8 := dkwX1_bound_0 ++ []
theorem dksX1_bound_0 : cX1_bound.data.toList.drop 0 = dktX1_bound_0 := by decide +kernel
theorem dX1_bound_0 : decode cX1_bound 0 = .ok (.aload_n 0, 1) := dk_42 (dk_at dksX1_bound_0 0 rfl rfl)
theorem dX1_bound_1 : decode cX1_bound 1 = .ok (.iload_n 1, 1) := dk_27 (dk_at dksX1_bound_0 1 rfl rfl)
theorem dX1_bound_2 : decode cX1_bound 2 = .ok (.invokevirtual 193, 3) := dk_182 0 193 (dk_at dksX1_bound_0 2 rfl rfl)
theorem dX1_bound_5 : decode cX1_bound 5 = .ok (.iload_n 1, 1) := dk_27 (dk_at dksX1_bound_0 5 rfl rfl)
theorem dX1_bound_6 : decode cX1_bound 6 = .ok (.aload_n 0, 1) := dk_42 (dk_at dksX1_bound_0 6 rfl rfl)
theorem dX1_bound_7 : decode cX1_bound 7 = .ok (.getfield 68, 3) := dk_180 0 68 (dk_at dksX1_bound_0 7 rfl rfl)
theorem dX1_bound_10 : decode cX1_bound 10 = .ok (.getfield 315, 3) := dk_180 1 59 (dk_at dksX1_bound_0 10 rfl rfl)
theorem dX1_bound_13 : decode cX1_bound 13 = .ok (.invokevirtual 318, 3) := dk_182 1 62 (dk_at dksX1_bound_0 13 rfl rfl)
theorem dX1_bound_16 : decode cX1_bound 16 = .ok (.dreturn, 1) := dk_175 (dk_at dksX1_bound_0 16 rfl rfl)
abbrev cX1_absolute : ByteArray := prog_1_method_3_code
def yX1_absolute : MethodName := ⟨RX1, "absolute", "(D)D"⟩
def dkwX1_absolute_0 : List UInt8 := [38, 14, 152, 156, 0, 9, 14, 38, 103, 167, 0, 4, 38, 175]
abbrev dktX1_absolute_0 : List UInt8 := dkwX1_absolute_0 ++ []
theorem dksX1_absolute_0 : cX1_absolute.data.toList.drop 0 = dktX1_absolute_0 := by decide +kernel
theorem dX1_absolute_0 : decode cX1_absolute 0 = .ok (.dload_n 0, 1) := dk_38 (dk_at dksX1_absolute_0 0 rfl rfl)
theorem dX1_absolute_1 : decode cX1_absolute 1 = .ok (.dconst 0, 1) := dk_14 (dk_at dksX1_absolute_0 1 rfl rfl)
theorem dX1_absolute_2 : decode cX1_absolute 2 = .ok (.dcmp .g, 1) := dk_152 (dk_at dksX1_absolute_0 2 rfl rfl)
theorem dX1_absolute_3 : decode cX1_absolute 3 = .ok (.ifCond .ge 9, 3) := dk_156 0 9 (dk_at dksX1_absolute_0 3 rfl rfl)
theorem dX1_absolute_6 : decode cX1_absolute 6 = .ok (.dconst 0, 1) := dk_14 (dk_at dksX1_absolute_0 6 rfl rfl)
theorem dX1_absolute_7 : decode cX1_absolute 7 = .ok (.dload_n 0, 1) := dk_38 (dk_at dksX1_absolute_0 7 rfl rfl)
theorem dX1_absolute_8 : decode cX1_absolute 8 = .ok (.dsub, 1) := dk_103 (dk_at dksX1_absolute_0 8 rfl rfl)
theorem dX1_absolute_9 : decode cX1_absolute 9 = .ok (.goto 4, 3) := dk_167 0 4 (dk_at dksX1_absolute_0 9 rfl rfl)
theorem dX1_absolute_12 : decode cX1_absolute 12 = .ok (.dload_n 0, 1) := dk_38 (dk_at dksX1_absolute_0 12 rfl rfl)
theorem dX1_absolute_13 : decode cX1_absolute 13 = .ok (.dreturn, 1) := dk_175 (dk_at dksX1_absolute_0 13 rfl rfl)
abbrev cX4_gap : ByteArray := prog_7_method_32_code
def yX4_gap : MethodName := ⟨RX4, "gap", "(I)D"⟩
def dkwX4_gap_0 : List UInt8 := [42, 27, 3, 182, 0, 222, 42, 27, 4, 182, 0, 222, 103, 184, 0, 226, 175]
abbrev dktX4_gap_0 : List UInt8 := dkwX4_gap_0 ++ []
theorem dksX4_gap_0 : cX4_gap.data.toList.drop 0 = dktX4_gap_0 := by decide +kernel
theorem dX4_gap_0 : decode cX4_gap 0 = .ok (.aload_n 0, 1) := dk_42 (dk_at dksX4_gap_0 0 rfl rfl)
theorem dX4_gap_1 : decode cX4_gap 1 = .ok (.iload_n 1, 1) := dk_27 (dk_at dksX4_gap_0 1 rfl rfl)
theorem dX4_gap_2 : decode cX4_gap 2 = .ok (.iconst 0, 1) := dk_3 (dk_at dksX4_gap_0 2 rfl rfl)
theorem dX4_gap_3 : decode cX4_gap 3 = .ok (.invokevirtual 222, 3) := dk_182 0 222 (dk_at dksX4_gap_0 3 rfl rfl)
theorem dX4_gap_6 : decode cX4_gap 6 = .ok (.aload_n 0, 1) := dk_42 (dk_at dksX4_gap_0 6 rfl rfl)
theorem dX4_gap_7 : decode cX4_gap 7 = .ok (.iload_n 1, 1) := dk_27 (dk_at dksX4_gap_0 7 rfl rfl)
theorem dX4_gap_8 : decode cX4_gap 8 = .ok (.iconst 1, 1) := dk_4 (dk_at dksX4_gap_0 8 rfl rfl)
theorem dX4_gap_9 : decode cX4_gap 9 = .ok (.invokevirtual 222, 3) := dk_182 0 222 (dk_at dksX4_gap_0 9 rfl rfl)
theorem dX4_gap_12 : decode cX4_gap 12 = .ok (.dsub, 1) := dk_103 (dk_at dksX4_gap_0 12 rfl rfl)
theorem dX4_gap_13 : decode cX4_gap 13 = .ok (.invokestatic 226, 3) := dk_184 0 226 (dk_at dksX4_gap_0 13 rfl rfl)
theorem dX4_gap_16 : decode cX4_gap 16 = .ok (.dreturn, 1) := dk_175 (dk_at dksX4_gap_0 16 rfl rfl)
abbrev cX1_gapAt : ByteArray := prog_1_method_48_code
def yX1_gapAt : MethodName := ⟨RX1, "gapAt", "(I)D"⟩
def dkwX1_gapAt_0 : List UInt8 := [42, 27, 182, 0, 193, 27, 182, 1, 66, 175]
abbrev dktX1_gapAt_0 : List UInt8 := dkwX1_gapAt_0 ++ []
theorem dksX1_gapAt_0 : cX1_gapAt.data.toList.drop 0 = dktX1_gapAt_0 := by decide +kernel
theorem dX1_gapAt_0 : decode cX1_gapAt 0 = .ok (.aload_n 0, 1) := dk_42 (dk_at dksX1_gapAt_0 0 rfl rfl)
theorem dX1_gapAt_1 : decode cX1_gapAt 1 = .ok (.iload_n 1, 1) := dk_27 (dk_at dksX1_gapAt_0 1 rfl rfl)
theorem dX1_gapAt_2 : decode cX1_gapAt 2 = .ok (.invokevirtual 193, 3) := dk_182 0 193 (dk_at dksX1_gapAt_0 2 rfl rfl)
theorem dX1_gapAt_5 : decode cX1_gapAt 5 = .ok (.iload_n 1, 1) := dk_27 (dk_at dksX1_gapAt_0 5 rfl rfl)
theorem dX1_gapAt_6 : decode cX1_gapAt 6 = .ok (.invokevirtual 322, 3) := dk_182 1 66 (dk_at dksX1_gapAt_0 6 rfl rfl)
theorem dX1_gapAt_9 : decode cX1_gapAt 9 = .ok (.dreturn, 1) := dk_175 (dk_at dksX1_gapAt_0 9 rfl rfl)
abbrev cX1_isWithin : ByteArray := prog_1_method_49_code
def yX1_isWithin : MethodName := ⟨RX1, "isWithin", "(I)Z"⟩
def dkwX1_isWithin_1 : List UInt8 := [20, 1, 69, 99, 152, 157, 0, 7, 4, 167, 0, 4, 3, 172]
abbrev dktX1_isWithin_1 : List UInt8 := dkwX1_isWithin_1 ++ []
def dkwX1_isWithin_0 : List UInt8 := [42, 27, 182, 0, 193, 27, 182, 1, 66, 42, 180, 0, 68, 27, 42, 180, 0, 68, 180, 1, 59, 182, 1, 62]
abbrev dktX1_isWithin_0 : List UInt8 := dkwX1_isWithin_0 ++ dktX1_isWithin_1
theorem dksX1_isWithin_0 : cX1_isWithin.data.toList.drop 0 = dktX1_isWithin_0 := by decide +kernel
theorem dksX1_isWithin_1 : cX1_isWithin.data.toList.drop 24 = dktX1_isWithin_1 := dk_seg dksX1_isWithin_0 24 rfl rfl
theorem dX1_isWithin_0 : decode cX1_isWithin 0 = .ok (.aload_n 0, 1) := dk_42 (dk_at dksX1_isWithin_0 0 rfl rfl)
theorem dX1_isWithin_1 : decode cX1_isWithin 1 = .ok (.iload_n 1, 1) := dk_27 (dk_at dksX1_isWithin_0 1 rfl rfl)
theorem dX1_isWithin_2 : decode cX1_isWithin 2 = .ok (.invokevirtual 193, 3) := dk_182 0 193 (dk_at dksX1_isWithin_0 2 rfl rfl)
theorem dX1_isWithin_5 : decode cX1_isWithin 5 = .ok (.iload_n 1, 1) := dk_27 (dk_at dksX1_isWithin_0 5 rfl rfl)
theorem dX1_isWithin_6 : decode cX1_isWithin 6 = .ok (.invokevirtual 322, 3) := dk_182 1 66 (dk_at dksX1_isWithin_0 6 rfl rfl)
theorem dX1_isWithin_9 : decode cX1_isWithin 9 = .ok (.aload_n 0, 1) := dk_42 (dk_at dksX1_isWithin_0 9 rfl rfl)
theorem dX1_isWithin_10 : decode cX1_isWithin 10 = .ok (.getfield 68, 3) := dk_180 0 68 (dk_at dksX1_isWithin_0 10 rfl rfl)
theorem dX1_isWithin_13 : decode cX1_isWithin 13 = .ok (.iload_n 1, 1) := dk_27 (dk_at dksX1_isWithin_0 13 rfl rfl)
theorem dX1_isWithin_14 : decode cX1_isWithin 14 = .ok (.aload_n 0, 1) := dk_42 (dk_at dksX1_isWithin_0 14 rfl rfl)
theorem dX1_isWithin_15 : decode cX1_isWithin 15 = .ok (.getfield 68, 3) := dk_180 0 68 (dk_at dksX1_isWithin_0 15 rfl rfl)
theorem dX1_isWithin_18 : decode cX1_isWithin 18 = .ok (.getfield 315, 3) := dk_180 1 59 (dk_at dksX1_isWithin_0 18 rfl rfl)
theorem dX1_isWithin_21 : decode cX1_isWithin 21 = .ok (.invokevirtual 318, 3) := dk_182 1 62 (dk_at dksX1_isWithin_0 21 rfl rfl)
theorem dX1_isWithin_24 : decode cX1_isWithin 24 = .ok (.ldc2_w 325, 3) := dk_20 1 69 (dk_at dksX1_isWithin_1 0 rfl rfl)
theorem dX1_isWithin_27 : decode cX1_isWithin 27 = .ok (.dadd, 1) := dk_99 (dk_at dksX1_isWithin_1 3 rfl rfl)
theorem dX1_isWithin_28 : decode cX1_isWithin 28 = .ok (.dcmp .g, 1) := dk_152 (dk_at dksX1_isWithin_1 4 rfl rfl)
theorem dX1_isWithin_29 : decode cX1_isWithin 29 = .ok (.ifCond .gt 7, 3) := dk_157 0 7 (dk_at dksX1_isWithin_1 5 rfl rfl)
theorem dX1_isWithin_32 : decode cX1_isWithin 32 = .ok (.iconst 1, 1) := dk_4 (dk_at dksX1_isWithin_1 8 rfl rfl)
theorem dX1_isWithin_33 : decode cX1_isWithin 33 = .ok (.goto 4, 3) := dk_167 0 4 (dk_at dksX1_isWithin_1 9 rfl rfl)
theorem dX1_isWithin_36 : decode cX1_isWithin 36 = .ok (.iconst 0, 1) := dk_3 (dk_at dksX1_isWithin_1 12 rfl rfl)
theorem dX1_isWithin_37 : decode cX1_isWithin 37 = .ok (.ireturn, 1) := dk_172 (dk_at dksX1_isWithin_1 13 rfl rfl)
abbrev cX1_worst : ByteArray := prog_1_method_50_code
def yX1_worst : MethodName := ⟨RX1, "worst", "()I"⟩
def dkwX1_worst_2 : List UInt8 := [132, 5, 1, 167, 255, 221, 28, 172]
abbrev dktX1_worst_2 : List UInt8 := dkwX1_worst_2 ++ []
def dkwX1_worst_1 : List UInt8 := [43, 21, 5, 182, 1, 66, 57, 6, 24, 6, 41, 152, 157, 0, 6, 167, 0, 9, 21, 5, 61, 24, 6, 74]
abbrev dktX1_worst_1 : List UInt8 := dkwX1_worst_1 ++ dktX1_worst_2
def dkwX1_worst_0 : List UInt8 := [42, 182, 0, 76, 76, 3, 61, 43, 3, 182, 1, 66, 74, 4, 54, 5, 21, 5, 17, 1, 0, 162, 0, 33]
abbrev dktX1_worst_0 : List UInt8 := dkwX1_worst_0 ++ dktX1_worst_1
theorem dksX1_worst_0 : cX1_worst.data.toList.drop 0 = dktX1_worst_0 := by decide +kernel
theorem dksX1_worst_1 : cX1_worst.data.toList.drop 24 = dktX1_worst_1 := dk_seg dksX1_worst_0 24 rfl rfl
theorem dksX1_worst_2 : cX1_worst.data.toList.drop 48 = dktX1_worst_2 := dk_seg dksX1_worst_1 24 rfl rfl
theorem dX1_worst_0 : decode cX1_worst 0 = .ok (.aload_n 0, 1) := dk_42 (dk_at dksX1_worst_0 0 rfl rfl)
theorem dX1_worst_1 : decode cX1_worst 1 = .ok (.invokevirtual 76, 3) := dk_182 0 76 (dk_at dksX1_worst_0 1 rfl rfl)
theorem dX1_worst_4 : decode cX1_worst 4 = .ok (.astore_n 1, 1) := dk_76 (dk_at dksX1_worst_0 4 rfl rfl)
theorem dX1_worst_5 : decode cX1_worst 5 = .ok (.iconst 0, 1) := dk_3 (dk_at dksX1_worst_0 5 rfl rfl)
theorem dX1_worst_6 : decode cX1_worst 6 = .ok (.istore_n 2, 1) := dk_61 (dk_at dksX1_worst_0 6 rfl rfl)
theorem dX1_worst_7 : decode cX1_worst 7 = .ok (.aload_n 1, 1) := dk_43 (dk_at dksX1_worst_0 7 rfl rfl)
theorem dX1_worst_8 : decode cX1_worst 8 = .ok (.iconst 0, 1) := dk_3 (dk_at dksX1_worst_0 8 rfl rfl)
theorem dX1_worst_9 : decode cX1_worst 9 = .ok (.invokevirtual 322, 3) := dk_182 1 66 (dk_at dksX1_worst_0 9 rfl rfl)
theorem dX1_worst_12 : decode cX1_worst 12 = .ok (.dstore_n 3, 1) := dk_74 (dk_at dksX1_worst_0 12 rfl rfl)
theorem dX1_worst_13 : decode cX1_worst 13 = .ok (.iconst 1, 1) := dk_4 (dk_at dksX1_worst_0 13 rfl rfl)
theorem dX1_worst_14 : decode cX1_worst 14 = .ok (.istore 5, 2) := dk_54 5 (dk_at dksX1_worst_0 14 rfl rfl)
theorem dX1_worst_16 : decode cX1_worst 16 = .ok (.iload 5, 2) := dk_21 5 (dk_at dksX1_worst_0 16 rfl rfl)
theorem dX1_worst_18 : decode cX1_worst 18 = .ok (.sipush 256, 3) := dk_17 1 0 (dk_at dksX1_worst_0 18 rfl rfl)
theorem dX1_worst_21 : decode cX1_worst 21 = .ok (.if_icmp .ge 33, 3) := dk_162 0 33 (dk_at dksX1_worst_0 21 rfl rfl)
theorem dX1_worst_24 : decode cX1_worst 24 = .ok (.aload_n 1, 1) := dk_43 (dk_at dksX1_worst_1 0 rfl rfl)
theorem dX1_worst_25 : decode cX1_worst 25 = .ok (.iload 5, 2) := dk_21 5 (dk_at dksX1_worst_1 1 rfl rfl)
theorem dX1_worst_27 : decode cX1_worst 27 = .ok (.invokevirtual 322, 3) := dk_182 1 66 (dk_at dksX1_worst_1 3 rfl rfl)
theorem dX1_worst_30 : decode cX1_worst 30 = .ok (.dstore 6, 2) := dk_57 6 (dk_at dksX1_worst_1 6 rfl rfl)
theorem dX1_worst_32 : decode cX1_worst 32 = .ok (.dload 6, 2) := dk_24 6 (dk_at dksX1_worst_1 8 rfl rfl)
theorem dX1_worst_34 : decode cX1_worst 34 = .ok (.dload_n 3, 1) := dk_41 (dk_at dksX1_worst_1 10 rfl rfl)
theorem dX1_worst_35 : decode cX1_worst 35 = .ok (.dcmp .g, 1) := dk_152 (dk_at dksX1_worst_1 11 rfl rfl)
theorem dX1_worst_36 : decode cX1_worst 36 = .ok (.ifCond .gt 6, 3) := dk_157 0 6 (dk_at dksX1_worst_1 12 rfl rfl)
theorem dX1_worst_39 : decode cX1_worst 39 = .ok (.goto 9, 3) := dk_167 0 9 (dk_at dksX1_worst_1 15 rfl rfl)
theorem dX1_worst_42 : decode cX1_worst 42 = .ok (.iload 5, 2) := dk_21 5 (dk_at dksX1_worst_1 18 rfl rfl)
theorem dX1_worst_44 : decode cX1_worst 44 = .ok (.istore_n 2, 1) := dk_61 (dk_at dksX1_worst_1 20 rfl rfl)
theorem dX1_worst_45 : decode cX1_worst 45 = .ok (.dload 6, 2) := dk_24 6 (dk_at dksX1_worst_1 21 rfl rfl)
theorem dX1_worst_47 : decode cX1_worst 47 = .ok (.dstore_n 3, 1) := dk_74 (dk_at dksX1_worst_1 23 rfl rfl)
theorem dX1_worst_48 : decode cX1_worst 48 = .ok (.iinc 5 1, 3) := dk_132 5 1 (dk_at dksX1_worst_2 0 rfl rfl)
theorem dX1_worst_51 : decode cX1_worst 51 = .ok (.goto (-35), 3) := dk_167 255 221 (dk_at dksX1_worst_2 3 rfl rfl)
theorem dX1_worst_54 : decode cX1_worst 54 = .ok (.iload_n 2, 1) := dk_28 (dk_at dksX1_worst_2 6 rfl rfl)
theorem dX1_worst_55 : decode cX1_worst 55 = .ok (.ireturn, 1) := dk_172 (dk_at dksX1_worst_2 7 rfl rfl)
abbrev cX4_inherits : ByteArray := prog_7_method_33_code
def yX4_inherits : MethodName := ⟨RX4, "inherits", "(LMultipoleLine$Box;)[D"⟩
def dkwX4_inherits_5 : List UInt8 := [132, 7, 1, 167, 255, 192, 44, 176]
abbrev dktX4_inherits_5 : List UInt8 := dkwX4_inherits_5 ++ []
def dkwX4_inherits_4 : List UInt8 := [21, 8, 49, 107, 15, 24, 5, 21, 8, 21, 7, 100, 184, 0, 207, 107, 99, 82, 132, 8, 1, 167, 255, 211]
abbrev dktX4_inherits_4 : List UInt8 := dkwX4_inherits_4 ++ dktX4_inherits_5
def dkwX4_inherits_3 : List UInt8 := [21, 8, 42, 180, 0, 61, 163, 0, 42, 44, 21, 7, 92, 49, 21, 8, 21, 7, 184, 0, 132, 138, 25, 4]
abbrev dktX4_inherits_3 : List UInt8 := dkwX4_inherits_3 ++ dktX4_inherits_4
def dkwX4_inherits_2 : List UInt8 := [180, 0, 125, 100, 135, 57, 5, 3, 54, 7, 21, 7, 42, 180, 0, 61, 163, 0, 61, 21, 7, 54, 8]
abbrev dktX4_inherits_2 : List UInt8 := dkwX4_inherits_2 ++ dktX4_inherits_3
def dkwX4_inherits_1 : List UInt8 := [4, 100, 43, 180, 0, 119, 5, 108, 182, 0, 142, 78, 42, 45, 182, 0, 230, 58, 4, 43, 180, 0, 125, 45]
abbrev dktX4_inherits_1 : List UInt8 := dkwX4_inherits_1 ++ dktX4_inherits_2
def dkwX4_inherits_0 : List UInt8 := [42, 180, 0, 61, 4, 96, 188, 7, 77, 43, 180, 0, 139, 5, 160, 0, 5, 44, 176, 42, 43, 180, 0, 139]
abbrev dktX4_inherits_0 : List UInt8 := dkwX4_inherits_0 ++ dktX4_inherits_1
theorem dksX4_inherits_0 : cX4_inherits.data.toList.drop 0 = dktX4_inherits_0 := by decide +kernel
theorem dksX4_inherits_1 : cX4_inherits.data.toList.drop 24 = dktX4_inherits_1 := dk_seg dksX4_inherits_0 24 rfl rfl
theorem dksX4_inherits_2 : cX4_inherits.data.toList.drop 48 = dktX4_inherits_2 := dk_seg dksX4_inherits_1 24 rfl rfl
theorem dksX4_inherits_3 : cX4_inherits.data.toList.drop 71 = dktX4_inherits_3 := dk_seg dksX4_inherits_2 23 rfl rfl
theorem dksX4_inherits_4 : cX4_inherits.data.toList.drop 95 = dktX4_inherits_4 := dk_seg dksX4_inherits_3 24 rfl rfl
theorem dksX4_inherits_5 : cX4_inherits.data.toList.drop 119 = dktX4_inherits_5 := dk_seg dksX4_inherits_4 24 rfl rfl
theorem dX4_inherits_0 : decode cX4_inherits 0 = .ok (.aload_n 0, 1) := dk_42 (dk_at dksX4_inherits_0 0 rfl rfl)
theorem dX4_inherits_1 : decode cX4_inherits 1 = .ok (.getfield 61, 3) := dk_180 0 61 (dk_at dksX4_inherits_0 1 rfl rfl)
theorem dX4_inherits_4 : decode cX4_inherits 4 = .ok (.iconst 1, 1) := dk_4 (dk_at dksX4_inherits_0 4 rfl rfl)
theorem dX4_inherits_5 : decode cX4_inherits 5 = .ok (.iadd, 1) := dk_96 (dk_at dksX4_inherits_0 5 rfl rfl)
theorem dX4_inherits_6 : decode cX4_inherits 6 = .ok (.newarray .double, 2) := dk_188_7 (dk_at dksX4_inherits_0 6 rfl rfl)
theorem dX4_inherits_8 : decode cX4_inherits 8 = .ok (.astore_n 2, 1) := dk_77 (dk_at dksX4_inherits_0 8 rfl rfl)
theorem dX4_inherits_9 : decode cX4_inherits 9 = .ok (.aload_n 1, 1) := dk_43 (dk_at dksX4_inherits_0 9 rfl rfl)
theorem dX4_inherits_10 : decode cX4_inherits 10 = .ok (.getfield 139, 3) := dk_180 0 139 (dk_at dksX4_inherits_0 10 rfl rfl)
theorem dX4_inherits_13 : decode cX4_inherits 13 = .ok (.iconst 2, 1) := dk_5 (dk_at dksX4_inherits_0 13 rfl rfl)
theorem dX4_inherits_14 : decode cX4_inherits 14 = .ok (.if_icmp .ne 5, 3) := dk_160 0 5 (dk_at dksX4_inherits_0 14 rfl rfl)
theorem dX4_inherits_17 : decode cX4_inherits 17 = .ok (.aload_n 2, 1) := dk_44 (dk_at dksX4_inherits_0 17 rfl rfl)
theorem dX4_inherits_18 : decode cX4_inherits 18 = .ok (.areturn, 1) := dk_176 (dk_at dksX4_inherits_0 18 rfl rfl)
theorem dX4_inherits_19 : decode cX4_inherits 19 = .ok (.aload_n 0, 1) := dk_42 (dk_at dksX4_inherits_0 19 rfl rfl)
theorem dX4_inherits_20 : decode cX4_inherits 20 = .ok (.aload_n 1, 1) := dk_43 (dk_at dksX4_inherits_0 20 rfl rfl)
theorem dX4_inherits_21 : decode cX4_inherits 21 = .ok (.getfield 139, 3) := dk_180 0 139 (dk_at dksX4_inherits_0 21 rfl rfl)
theorem dX4_inherits_24 : decode cX4_inherits 24 = .ok (.iconst 1, 1) := dk_4 (dk_at dksX4_inherits_1 0 rfl rfl)
theorem dX4_inherits_25 : decode cX4_inherits 25 = .ok (.isub, 1) := dk_100 (dk_at dksX4_inherits_1 1 rfl rfl)
theorem dX4_inherits_26 : decode cX4_inherits 26 = .ok (.aload_n 1, 1) := dk_43 (dk_at dksX4_inherits_1 2 rfl rfl)
theorem dX4_inherits_27 : decode cX4_inherits 27 = .ok (.getfield 119, 3) := dk_180 0 119 (dk_at dksX4_inherits_1 3 rfl rfl)
theorem dX4_inherits_30 : decode cX4_inherits 30 = .ok (.iconst 2, 1) := dk_5 (dk_at dksX4_inherits_1 6 rfl rfl)
theorem dX4_inherits_31 : decode cX4_inherits 31 = .ok (.idiv, 1) := dk_108 (dk_at dksX4_inherits_1 7 rfl rfl)
theorem dX4_inherits_32 : decode cX4_inherits 32 = .ok (.invokevirtual 142, 3) := dk_182 0 142 (dk_at dksX4_inherits_1 8 rfl rfl)
theorem dX4_inherits_35 : decode cX4_inherits 35 = .ok (.astore_n 3, 1) := dk_78 (dk_at dksX4_inherits_1 11 rfl rfl)
theorem dX4_inherits_36 : decode cX4_inherits 36 = .ok (.aload_n 0, 1) := dk_42 (dk_at dksX4_inherits_1 12 rfl rfl)
theorem dX4_inherits_37 : decode cX4_inherits 37 = .ok (.aload_n 3, 1) := dk_45 (dk_at dksX4_inherits_1 13 rfl rfl)
theorem dX4_inherits_38 : decode cX4_inherits 38 = .ok (.invokevirtual 230, 3) := dk_182 0 230 (dk_at dksX4_inherits_1 14 rfl rfl)
theorem dX4_inherits_41 : decode cX4_inherits 41 = .ok (.astore 4, 2) := dk_58 4 (dk_at dksX4_inherits_1 17 rfl rfl)
theorem dX4_inherits_43 : decode cX4_inherits 43 = .ok (.aload_n 1, 1) := dk_43 (dk_at dksX4_inherits_1 19 rfl rfl)
theorem dX4_inherits_44 : decode cX4_inherits 44 = .ok (.getfield 125, 3) := dk_180 0 125 (dk_at dksX4_inherits_1 20 rfl rfl)
theorem dX4_inherits_47 : decode cX4_inherits 47 = .ok (.aload_n 3, 1) := dk_45 (dk_at dksX4_inherits_1 23 rfl rfl)
theorem dX4_inherits_48 : decode cX4_inherits 48 = .ok (.getfield 125, 3) := dk_180 0 125 (dk_at dksX4_inherits_2 0 rfl rfl)
theorem dX4_inherits_51 : decode cX4_inherits 51 = .ok (.isub, 1) := dk_100 (dk_at dksX4_inherits_2 3 rfl rfl)
theorem dX4_inherits_52 : decode cX4_inherits 52 = .ok (.i2d, 1) := dk_135 (dk_at dksX4_inherits_2 4 rfl rfl)
theorem dX4_inherits_53 : decode cX4_inherits 53 = .ok (.dstore 5, 2) := dk_57 5 (dk_at dksX4_inherits_2 5 rfl rfl)
theorem dX4_inherits_55 : decode cX4_inherits 55 = .ok (.iconst 0, 1) := dk_3 (dk_at dksX4_inherits_2 7 rfl rfl)
theorem dX4_inherits_56 : decode cX4_inherits 56 = .ok (.istore 7, 2) := dk_54 7 (dk_at dksX4_inherits_2 8 rfl rfl)
theorem dX4_inherits_58 : decode cX4_inherits 58 = .ok (.iload 7, 2) := dk_21 7 (dk_at dksX4_inherits_2 10 rfl rfl)
theorem dX4_inherits_60 : decode cX4_inherits 60 = .ok (.aload_n 0, 1) := dk_42 (dk_at dksX4_inherits_2 12 rfl rfl)
theorem dX4_inherits_61 : decode cX4_inherits 61 = .ok (.getfield 61, 3) := dk_180 0 61 (dk_at dksX4_inherits_2 13 rfl rfl)
theorem dX4_inherits_64 : decode cX4_inherits 64 = .ok (.if_icmp .gt 61, 3) := dk_163 0 61 (dk_at dksX4_inherits_2 16 rfl rfl)
theorem dX4_inherits_67 : decode cX4_inherits 67 = .ok (.iload 7, 2) := dk_21 7 (dk_at dksX4_inherits_2 19 rfl rfl)
theorem dX4_inherits_69 : decode cX4_inherits 69 = .ok (.istore 8, 2) := dk_54 8 (dk_at dksX4_inherits_2 21 rfl rfl)
theorem dX4_inherits_71 : decode cX4_inherits 71 = .ok (.iload 8, 2) := dk_21 8 (dk_at dksX4_inherits_3 0 rfl rfl)
theorem dX4_inherits_73 : decode cX4_inherits 73 = .ok (.aload_n 0, 1) := dk_42 (dk_at dksX4_inherits_3 2 rfl rfl)
theorem dX4_inherits_74 : decode cX4_inherits 74 = .ok (.getfield 61, 3) := dk_180 0 61 (dk_at dksX4_inherits_3 3 rfl rfl)
theorem dX4_inherits_77 : decode cX4_inherits 77 = .ok (.if_icmp .gt 42, 3) := dk_163 0 42 (dk_at dksX4_inherits_3 6 rfl rfl)
theorem dX4_inherits_80 : decode cX4_inherits 80 = .ok (.aload_n 2, 1) := dk_44 (dk_at dksX4_inherits_3 9 rfl rfl)
theorem dX4_inherits_81 : decode cX4_inherits 81 = .ok (.iload 7, 2) := dk_21 7 (dk_at dksX4_inherits_3 10 rfl rfl)
theorem dX4_inherits_83 : decode cX4_inherits 83 = .ok (.dup2, 1) := dk_92 (dk_at dksX4_inherits_3 12 rfl rfl)
theorem dX4_inherits_84 : decode cX4_inherits 84 = .ok (.daload, 1) := dk_49 (dk_at dksX4_inherits_3 13 rfl rfl)
theorem dX4_inherits_85 : decode cX4_inherits 85 = .ok (.iload 8, 2) := dk_21 8 (dk_at dksX4_inherits_3 14 rfl rfl)
theorem dX4_inherits_87 : decode cX4_inherits 87 = .ok (.iload 7, 2) := dk_21 7 (dk_at dksX4_inherits_3 16 rfl rfl)
theorem dX4_inherits_89 : decode cX4_inherits 89 = .ok (.invokestatic 132, 3) := dk_184 0 132 (dk_at dksX4_inherits_3 18 rfl rfl)
theorem dX4_inherits_92 : decode cX4_inherits 92 = .ok (.l2d, 1) := dk_138 (dk_at dksX4_inherits_3 21 rfl rfl)
theorem dX4_inherits_93 : decode cX4_inherits 93 = .ok (.aload 4, 2) := dk_25 4 (dk_at dksX4_inherits_3 22 rfl rfl)
theorem dX4_inherits_95 : decode cX4_inherits 95 = .ok (.iload 8, 2) := dk_21 8 (dk_at dksX4_inherits_4 0 rfl rfl)
theorem dX4_inherits_97 : decode cX4_inherits 97 = .ok (.daload, 1) := dk_49 (dk_at dksX4_inherits_4 2 rfl rfl)
theorem dX4_inherits_98 : decode cX4_inherits 98 = .ok (.dmul, 1) := dk_107 (dk_at dksX4_inherits_4 3 rfl rfl)
theorem dX4_inherits_99 : decode cX4_inherits 99 = .ok (.dconst 1, 1) := dk_15 (dk_at dksX4_inherits_4 4 rfl rfl)
theorem dX4_inherits_100 : decode cX4_inherits 100 = .ok (.dload 5, 2) := dk_24 5 (dk_at dksX4_inherits_4 5 rfl rfl)
theorem dX4_inherits_102 : decode cX4_inherits 102 = .ok (.iload 8, 2) := dk_21 8 (dk_at dksX4_inherits_4 7 rfl rfl)
theorem dX4_inherits_104 : decode cX4_inherits 104 = .ok (.iload 7, 2) := dk_21 7 (dk_at dksX4_inherits_4 9 rfl rfl)
theorem dX4_inherits_106 : decode cX4_inherits 106 = .ok (.isub, 1) := dk_100 (dk_at dksX4_inherits_4 11 rfl rfl)
theorem dX4_inherits_107 : decode cX4_inherits 107 = .ok (.invokestatic 207, 3) := dk_184 0 207 (dk_at dksX4_inherits_4 12 rfl rfl)
theorem dX4_inherits_110 : decode cX4_inherits 110 = .ok (.dmul, 1) := dk_107 (dk_at dksX4_inherits_4 15 rfl rfl)
theorem dX4_inherits_111 : decode cX4_inherits 111 = .ok (.dadd, 1) := dk_99 (dk_at dksX4_inherits_4 16 rfl rfl)
theorem dX4_inherits_112 : decode cX4_inherits 112 = .ok (.dastore, 1) := dk_82 (dk_at dksX4_inherits_4 17 rfl rfl)
theorem dX4_inherits_113 : decode cX4_inherits 113 = .ok (.iinc 8 1, 3) := dk_132 8 1 (dk_at dksX4_inherits_4 18 rfl rfl)
theorem dX4_inherits_116 : decode cX4_inherits 116 = .ok (.goto (-45), 3) := dk_167 255 211 (dk_at dksX4_inherits_4 21 rfl rfl)
theorem dX4_inherits_119 : decode cX4_inherits 119 = .ok (.iinc 7 1, 3) := dk_132 7 1 (dk_at dksX4_inherits_5 0 rfl rfl)
theorem dX4_inherits_122 : decode cX4_inherits 122 = .ok (.goto (-64), 3) := dk_167 255 192 (dk_at dksX4_inherits_5 3 rfl rfl)
theorem dX4_inherits_125 : decode cX4_inherits 125 = .ok (.aload_n 2, 1) := dk_44 (dk_at dksX4_inherits_5 6 rfl rfl)
theorem dX4_inherits_126 : decode cX4_inherits 126 = .ok (.areturn, 1) := dk_176 (dk_at dksX4_inherits_5 7 rfl rfl)
abbrev cX4_part : ByteArray := prog_7_method_34_code
def yX4_part : MethodName := ⟨RX4, "part", "(LMultipoleLine$Box;II)D"⟩
def dkwX4_part_2 : List UInt8 := [111, 99, 57, 4, 24, 6, 28, 135, 107, 57, 6, 132, 8, 1, 167, 255, 212, 24, 4, 175]
abbrev dktX4_part_2 : List UInt8 := dkwX4_part_2 ++ []
def dkwX4_part_1 : List UInt8 := [163, 0, 41, 24, 4, 21, 8, 29, 96, 29, 184, 0, 132, 42, 43, 21, 8, 182, 0, 106, 105, 138, 24, 6]
abbrev dktX4_part_1 : List UInt8 := dkwX4_part_1 ++ dktX4_part_2
def dkwX4_part_0 : List UInt8 := [14, 57, 4, 15, 28, 135, 29, 4, 96, 184, 0, 207, 57, 6, 3, 54, 8, 21, 8, 42, 180, 0, 61]
abbrev dktX4_part_0 : List UInt8 := dkwX4_part_0 ++ dktX4_part_1
theorem dksX4_part_0 : cX4_part.data.toList.drop 0 = dktX4_part_0 := by decide +kernel
theorem dksX4_part_1 : cX4_part.data.toList.drop 23 = dktX4_part_1 := dk_seg dksX4_part_0 23 rfl rfl
theorem dksX4_part_2 : cX4_part.data.toList.drop 47 = dktX4_part_2 := dk_seg dksX4_part_1 24 rfl rfl
theorem dX4_part_0 : decode cX4_part 0 = .ok (.dconst 0, 1) := dk_14 (dk_at dksX4_part_0 0 rfl rfl)
theorem dX4_part_1 : decode cX4_part 1 = .ok (.dstore 4, 2) := dk_57 4 (dk_at dksX4_part_0 1 rfl rfl)
theorem dX4_part_3 : decode cX4_part 3 = .ok (.dconst 1, 1) := dk_15 (dk_at dksX4_part_0 3 rfl rfl)
theorem dX4_part_4 : decode cX4_part 4 = .ok (.iload_n 2, 1) := dk_28 (dk_at dksX4_part_0 4 rfl rfl)
theorem dX4_part_5 : decode cX4_part 5 = .ok (.i2d, 1) := dk_135 (dk_at dksX4_part_0 5 rfl rfl)
theorem dX4_part_6 : decode cX4_part 6 = .ok (.iload_n 3, 1) := dk_29 (dk_at dksX4_part_0 6 rfl rfl)
theorem dX4_part_7 : decode cX4_part 7 = .ok (.iconst 1, 1) := dk_4 (dk_at dksX4_part_0 7 rfl rfl)
theorem dX4_part_8 : decode cX4_part 8 = .ok (.iadd, 1) := dk_96 (dk_at dksX4_part_0 8 rfl rfl)
theorem dX4_part_9 : decode cX4_part 9 = .ok (.invokestatic 207, 3) := dk_184 0 207 (dk_at dksX4_part_0 9 rfl rfl)
theorem dX4_part_12 : decode cX4_part 12 = .ok (.dstore 6, 2) := dk_57 6 (dk_at dksX4_part_0 12 rfl rfl)
theorem dX4_part_14 : decode cX4_part 14 = .ok (.iconst 0, 1) := dk_3 (dk_at dksX4_part_0 14 rfl rfl)
theorem dX4_part_15 : decode cX4_part 15 = .ok (.istore 8, 2) := dk_54 8 (dk_at dksX4_part_0 15 rfl rfl)
theorem dX4_part_17 : decode cX4_part 17 = .ok (.iload 8, 2) := dk_21 8 (dk_at dksX4_part_0 17 rfl rfl)
theorem dX4_part_19 : decode cX4_part 19 = .ok (.aload_n 0, 1) := dk_42 (dk_at dksX4_part_0 19 rfl rfl)
theorem dX4_part_20 : decode cX4_part 20 = .ok (.getfield 61, 3) := dk_180 0 61 (dk_at dksX4_part_0 20 rfl rfl)
theorem dX4_part_23 : decode cX4_part 23 = .ok (.if_icmp .gt 41, 3) := dk_163 0 41 (dk_at dksX4_part_1 0 rfl rfl)
theorem dX4_part_26 : decode cX4_part 26 = .ok (.dload 4, 2) := dk_24 4 (dk_at dksX4_part_1 3 rfl rfl)
theorem dX4_part_28 : decode cX4_part 28 = .ok (.iload 8, 2) := dk_21 8 (dk_at dksX4_part_1 5 rfl rfl)
theorem dX4_part_30 : decode cX4_part 30 = .ok (.iload_n 3, 1) := dk_29 (dk_at dksX4_part_1 7 rfl rfl)
theorem dX4_part_31 : decode cX4_part 31 = .ok (.iadd, 1) := dk_96 (dk_at dksX4_part_1 8 rfl rfl)
theorem dX4_part_32 : decode cX4_part 32 = .ok (.iload_n 3, 1) := dk_29 (dk_at dksX4_part_1 9 rfl rfl)
theorem dX4_part_33 : decode cX4_part 33 = .ok (.invokestatic 132, 3) := dk_184 0 132 (dk_at dksX4_part_1 10 rfl rfl)
theorem dX4_part_36 : decode cX4_part 36 = .ok (.aload_n 0, 1) := dk_42 (dk_at dksX4_part_1 13 rfl rfl)
theorem dX4_part_37 : decode cX4_part 37 = .ok (.aload_n 1, 1) := dk_43 (dk_at dksX4_part_1 14 rfl rfl)
theorem dX4_part_38 : decode cX4_part 38 = .ok (.iload 8, 2) := dk_21 8 (dk_at dksX4_part_1 15 rfl rfl)
theorem dX4_part_40 : decode cX4_part 40 = .ok (.invokevirtual 106, 3) := dk_182 0 106 (dk_at dksX4_part_1 17 rfl rfl)
theorem dX4_part_43 : decode cX4_part 43 = .ok (.lmul, 1) := dk_105 (dk_at dksX4_part_1 20 rfl rfl)
theorem dX4_part_44 : decode cX4_part 44 = .ok (.l2d, 1) := dk_138 (dk_at dksX4_part_1 21 rfl rfl)
theorem dX4_part_45 : decode cX4_part 45 = .ok (.dload 6, 2) := dk_24 6 (dk_at dksX4_part_1 22 rfl rfl)
theorem dX4_part_47 : decode cX4_part 47 = .ok (.ddiv, 1) := dk_111 (dk_at dksX4_part_2 0 rfl rfl)
theorem dX4_part_48 : decode cX4_part 48 = .ok (.dadd, 1) := dk_99 (dk_at dksX4_part_2 1 rfl rfl)
theorem dX4_part_49 : decode cX4_part 49 = .ok (.dstore 4, 2) := dk_57 4 (dk_at dksX4_part_2 2 rfl rfl)
theorem dX4_part_51 : decode cX4_part 51 = .ok (.dload 6, 2) := dk_24 6 (dk_at dksX4_part_2 4 rfl rfl)
theorem dX4_part_53 : decode cX4_part 53 = .ok (.iload_n 2, 1) := dk_28 (dk_at dksX4_part_2 6 rfl rfl)
theorem dX4_part_54 : decode cX4_part 54 = .ok (.i2d, 1) := dk_135 (dk_at dksX4_part_2 7 rfl rfl)
theorem dX4_part_55 : decode cX4_part 55 = .ok (.dmul, 1) := dk_107 (dk_at dksX4_part_2 8 rfl rfl)
theorem dX4_part_56 : decode cX4_part 56 = .ok (.dstore 6, 2) := dk_57 6 (dk_at dksX4_part_2 9 rfl rfl)
theorem dX4_part_58 : decode cX4_part 58 = .ok (.iinc 8 1, 3) := dk_132 8 1 (dk_at dksX4_part_2 11 rfl rfl)
theorem dX4_part_61 : decode cX4_part 61 = .ok (.goto (-44), 3) := dk_167 255 212 (dk_at dksX4_part_2 14 rfl rfl)
theorem dX4_part_64 : decode cX4_part 64 = .ok (.dload 4, 2) := dk_24 4 (dk_at dksX4_part_2 17 rfl rfl)
theorem dX4_part_66 : decode cX4_part 66 = .ok (.dreturn, 1) := dk_175 (dk_at dksX4_part_2 19 rfl rfl)
abbrev cX4_local : ByteArray := prog_7_method_35_code
def yX4_local : MethodName := ⟨RX4, "local", "(LMultipoleLine$Box;)[D"⟩
def dkwX4_local_6 : List UInt8 := [49, 24, 9, 99, 82, 132, 8, 1, 167, 255, 186, 132, 5, 1, 167, 255, 128, 44, 176]
abbrev dktX4_local_6 : List UInt8 := dkwX4_local_6 ++ []
def dkwX4_local_5 : List UInt8 := [4, 167, 0, 4, 3, 160, 0, 15, 44, 21, 8, 92, 49, 24, 9, 103, 82, 167, 0, 12, 44, 21, 8, 92]
abbrev dktX4_local_5 : List UInt8 := dkwX4_local_5 ++ dktX4_local_6
def dkwX4_local_4 : List UInt8 := [21, 8, 182, 0, 243, 57, 9, 21, 7, 156, 0, 7, 4, 167, 0, 4, 3, 21, 8, 5, 112, 154, 0, 7]
abbrev dktX4_local_4 : List UInt8 := dkwX4_local_4 ++ dktX4_local_5
def dkwX4_local_3 : List UInt8 := [180, 0, 125, 100, 54, 7, 3, 54, 8, 21, 8, 42, 180, 0, 61, 163, 0, 67, 42, 25, 6, 21, 7]
abbrev dktX4_local_3 : List UInt8 := dkwX4_local_3 ++ dktX4_local_4
def dkwX4_local_2 : List UInt8 := [182, 0, 182, 153, 0, 103, 42, 25, 6, 182, 0, 185, 154, 0, 6, 167, 0, 91, 43, 180, 0, 125, 25, 6]
abbrev dktX4_local_2 : List UInt8 := dkwX4_local_2 ++ dktX4_local_3
def dkwX4_local_1 : List UInt8 := [54, 4, 3, 54, 5, 21, 5, 21, 4, 162, 0, 127, 45, 21, 5, 50, 58, 6, 25, 6, 43, 180, 0, 119]
abbrev dktX4_local_1 : List UInt8 := dkwX4_local_1 ++ dktX4_local_2
def dkwX4_local_0 : List UInt8 := [42, 43, 182, 0, 234, 182, 0, 237, 192, 0, 238, 77, 42, 180, 0, 20, 43, 180, 0, 139, 50, 78, 45, 190]
abbrev dktX4_local_0 : List UInt8 := dkwX4_local_0 ++ dktX4_local_1
theorem dksX4_local_0 : cX4_local.data.toList.drop 0 = dktX4_local_0 := by decide +kernel
theorem dksX4_local_1 : cX4_local.data.toList.drop 24 = dktX4_local_1 := dk_seg dksX4_local_0 24 rfl rfl
theorem dksX4_local_2 : cX4_local.data.toList.drop 48 = dktX4_local_2 := dk_seg dksX4_local_1 24 rfl rfl
theorem dksX4_local_3 : cX4_local.data.toList.drop 72 = dktX4_local_3 := dk_seg dksX4_local_2 24 rfl rfl
theorem dksX4_local_4 : cX4_local.data.toList.drop 95 = dktX4_local_4 := dk_seg dksX4_local_3 23 rfl rfl
theorem dksX4_local_5 : cX4_local.data.toList.drop 119 = dktX4_local_5 := dk_seg dksX4_local_4 24 rfl rfl
theorem dksX4_local_6 : cX4_local.data.toList.drop 143 = dktX4_local_6 := dk_seg dksX4_local_5 24 rfl rfl
theorem dX4_local_0 : decode cX4_local 0 = .ok (.aload_n 0, 1) := dk_42 (dk_at dksX4_local_0 0 rfl rfl)
theorem dX4_local_1 : decode cX4_local 1 = .ok (.aload_n 1, 1) := dk_43 (dk_at dksX4_local_0 1 rfl rfl)
theorem dX4_local_2 : decode cX4_local 2 = .ok (.invokevirtual 234, 3) := dk_182 0 234 (dk_at dksX4_local_0 2 rfl rfl)
theorem dX4_local_5 : decode cX4_local 5 = .ok (.invokevirtual 237, 3) := dk_182 0 237 (dk_at dksX4_local_0 5 rfl rfl)
theorem dX4_local_8 : decode cX4_local 8 = .ok (.checkcast 238, 3) := dk_192 0 238 (dk_at dksX4_local_0 8 rfl rfl)
theorem dX4_local_11 : decode cX4_local 11 = .ok (.astore_n 2, 1) := dk_77 (dk_at dksX4_local_0 11 rfl rfl)
theorem dX4_local_12 : decode cX4_local 12 = .ok (.aload_n 0, 1) := dk_42 (dk_at dksX4_local_0 12 rfl rfl)
theorem dX4_local_13 : decode cX4_local 13 = .ok (.getfield 20, 3) := dk_180 0 20 (dk_at dksX4_local_0 13 rfl rfl)
theorem dX4_local_16 : decode cX4_local 16 = .ok (.aload_n 1, 1) := dk_43 (dk_at dksX4_local_0 16 rfl rfl)
theorem dX4_local_17 : decode cX4_local 17 = .ok (.getfield 139, 3) := dk_180 0 139 (dk_at dksX4_local_0 17 rfl rfl)
theorem dX4_local_20 : decode cX4_local 20 = .ok (.aaload, 1) := dk_50 (dk_at dksX4_local_0 20 rfl rfl)
theorem dX4_local_21 : decode cX4_local 21 = .ok (.astore_n 3, 1) := dk_78 (dk_at dksX4_local_0 21 rfl rfl)
theorem dX4_local_22 : decode cX4_local 22 = .ok (.aload_n 3, 1) := dk_45 (dk_at dksX4_local_0 22 rfl rfl)
theorem dX4_local_23 : decode cX4_local 23 = .ok (.arraylength, 1) := dk_190 (dk_at dksX4_local_0 23 rfl rfl)
theorem dX4_local_24 : decode cX4_local 24 = .ok (.istore 4, 2) := dk_54 4 (dk_at dksX4_local_1 0 rfl rfl)
theorem dX4_local_26 : decode cX4_local 26 = .ok (.iconst 0, 1) := dk_3 (dk_at dksX4_local_1 2 rfl rfl)
theorem dX4_local_27 : decode cX4_local 27 = .ok (.istore 5, 2) := dk_54 5 (dk_at dksX4_local_1 3 rfl rfl)
theorem dX4_local_29 : decode cX4_local 29 = .ok (.iload 5, 2) := dk_21 5 (dk_at dksX4_local_1 5 rfl rfl)
theorem dX4_local_31 : decode cX4_local 31 = .ok (.iload 4, 2) := dk_21 4 (dk_at dksX4_local_1 7 rfl rfl)
theorem dX4_local_33 : decode cX4_local 33 = .ok (.if_icmp .ge 127, 3) := dk_162 0 127 (dk_at dksX4_local_1 9 rfl rfl)
theorem dX4_local_36 : decode cX4_local 36 = .ok (.aload_n 3, 1) := dk_45 (dk_at dksX4_local_1 12 rfl rfl)
theorem dX4_local_37 : decode cX4_local 37 = .ok (.iload 5, 2) := dk_21 5 (dk_at dksX4_local_1 13 rfl rfl)
theorem dX4_local_39 : decode cX4_local 39 = .ok (.aaload, 1) := dk_50 (dk_at dksX4_local_1 15 rfl rfl)
theorem dX4_local_40 : decode cX4_local 40 = .ok (.astore 6, 2) := dk_58 6 (dk_at dksX4_local_1 16 rfl rfl)
theorem dX4_local_42 : decode cX4_local 42 = .ok (.aload 6, 2) := dk_25 6 (dk_at dksX4_local_1 18 rfl rfl)
theorem dX4_local_44 : decode cX4_local 44 = .ok (.aload_n 1, 1) := dk_43 (dk_at dksX4_local_1 20 rfl rfl)
theorem dX4_local_45 : decode cX4_local 45 = .ok (.getfield 119, 3) := dk_180 0 119 (dk_at dksX4_local_1 21 rfl rfl)
theorem dX4_local_48 : decode cX4_local 48 = .ok (.invokevirtual 182, 3) := dk_182 0 182 (dk_at dksX4_local_2 0 rfl rfl)
theorem dX4_local_51 : decode cX4_local 51 = .ok (.ifCond .eq 103, 3) := dk_153 0 103 (dk_at dksX4_local_2 3 rfl rfl)
theorem dX4_local_54 : decode cX4_local 54 = .ok (.aload_n 0, 1) := dk_42 (dk_at dksX4_local_2 6 rfl rfl)
theorem dX4_local_55 : decode cX4_local 55 = .ok (.aload 6, 2) := dk_25 6 (dk_at dksX4_local_2 7 rfl rfl)
theorem dX4_local_57 : decode cX4_local 57 = .ok (.invokevirtual 185, 3) := dk_182 0 185 (dk_at dksX4_local_2 9 rfl rfl)
theorem dX4_local_60 : decode cX4_local 60 = .ok (.ifCond .ne 6, 3) := dk_154 0 6 (dk_at dksX4_local_2 12 rfl rfl)
theorem dX4_local_63 : decode cX4_local 63 = .ok (.goto 91, 3) := dk_167 0 91 (dk_at dksX4_local_2 15 rfl rfl)
theorem dX4_local_66 : decode cX4_local 66 = .ok (.aload_n 1, 1) := dk_43 (dk_at dksX4_local_2 18 rfl rfl)
theorem dX4_local_67 : decode cX4_local 67 = .ok (.getfield 125, 3) := dk_180 0 125 (dk_at dksX4_local_2 19 rfl rfl)
theorem dX4_local_70 : decode cX4_local 70 = .ok (.aload 6, 2) := dk_25 6 (dk_at dksX4_local_2 22 rfl rfl)
theorem dX4_local_72 : decode cX4_local 72 = .ok (.getfield 125, 3) := dk_180 0 125 (dk_at dksX4_local_3 0 rfl rfl)
theorem dX4_local_75 : decode cX4_local 75 = .ok (.isub, 1) := dk_100 (dk_at dksX4_local_3 3 rfl rfl)
theorem dX4_local_76 : decode cX4_local 76 = .ok (.istore 7, 2) := dk_54 7 (dk_at dksX4_local_3 4 rfl rfl)
theorem dX4_local_78 : decode cX4_local 78 = .ok (.iconst 0, 1) := dk_3 (dk_at dksX4_local_3 6 rfl rfl)
theorem dX4_local_79 : decode cX4_local 79 = .ok (.istore 8, 2) := dk_54 8 (dk_at dksX4_local_3 7 rfl rfl)
theorem dX4_local_81 : decode cX4_local 81 = .ok (.iload 8, 2) := dk_21 8 (dk_at dksX4_local_3 9 rfl rfl)
theorem dX4_local_83 : decode cX4_local 83 = .ok (.aload_n 0, 1) := dk_42 (dk_at dksX4_local_3 11 rfl rfl)
theorem dX4_local_84 : decode cX4_local 84 = .ok (.getfield 61, 3) := dk_180 0 61 (dk_at dksX4_local_3 12 rfl rfl)
theorem dX4_local_87 : decode cX4_local 87 = .ok (.if_icmp .gt 67, 3) := dk_163 0 67 (dk_at dksX4_local_3 15 rfl rfl)
theorem dX4_local_90 : decode cX4_local 90 = .ok (.aload_n 0, 1) := dk_42 (dk_at dksX4_local_3 18 rfl rfl)
theorem dX4_local_91 : decode cX4_local 91 = .ok (.aload 6, 2) := dk_25 6 (dk_at dksX4_local_3 19 rfl rfl)
theorem dX4_local_93 : decode cX4_local 93 = .ok (.iload 7, 2) := dk_21 7 (dk_at dksX4_local_3 21 rfl rfl)
theorem dX4_local_95 : decode cX4_local 95 = .ok (.iload 8, 2) := dk_21 8 (dk_at dksX4_local_4 0 rfl rfl)
theorem dX4_local_97 : decode cX4_local 97 = .ok (.invokevirtual 243, 3) := dk_182 0 243 (dk_at dksX4_local_4 2 rfl rfl)
theorem dX4_local_100 : decode cX4_local 100 = .ok (.dstore 9, 2) := dk_57 9 (dk_at dksX4_local_4 5 rfl rfl)
theorem dX4_local_102 : decode cX4_local 102 = .ok (.iload 7, 2) := dk_21 7 (dk_at dksX4_local_4 7 rfl rfl)
theorem dX4_local_104 : decode cX4_local 104 = .ok (.ifCond .ge 7, 3) := dk_156 0 7 (dk_at dksX4_local_4 9 rfl rfl)
theorem dX4_local_107 : decode cX4_local 107 = .ok (.iconst 1, 1) := dk_4 (dk_at dksX4_local_4 12 rfl rfl)
theorem dX4_local_108 : decode cX4_local 108 = .ok (.goto 4, 3) := dk_167 0 4 (dk_at dksX4_local_4 13 rfl rfl)
theorem dX4_local_111 : decode cX4_local 111 = .ok (.iconst 0, 1) := dk_3 (dk_at dksX4_local_4 16 rfl rfl)
theorem dX4_local_112 : decode cX4_local 112 = .ok (.iload 8, 2) := dk_21 8 (dk_at dksX4_local_4 17 rfl rfl)
theorem dX4_local_114 : decode cX4_local 114 = .ok (.iconst 2, 1) := dk_5 (dk_at dksX4_local_4 19 rfl rfl)
theorem dX4_local_115 : decode cX4_local 115 = .ok (.irem, 1) := dk_112 (dk_at dksX4_local_4 20 rfl rfl)
theorem dX4_local_116 : decode cX4_local 116 = .ok (.ifCond .ne 7, 3) := dk_154 0 7 (dk_at dksX4_local_4 21 rfl rfl)
theorem dX4_local_119 : decode cX4_local 119 = .ok (.iconst 1, 1) := dk_4 (dk_at dksX4_local_5 0 rfl rfl)
theorem dX4_local_120 : decode cX4_local 120 = .ok (.goto 4, 3) := dk_167 0 4 (dk_at dksX4_local_5 1 rfl rfl)
theorem dX4_local_123 : decode cX4_local 123 = .ok (.iconst 0, 1) := dk_3 (dk_at dksX4_local_5 4 rfl rfl)
theorem dX4_local_124 : decode cX4_local 124 = .ok (.if_icmp .ne 15, 3) := dk_160 0 15 (dk_at dksX4_local_5 5 rfl rfl)
theorem dX4_local_127 : decode cX4_local 127 = .ok (.aload_n 2, 1) := dk_44 (dk_at dksX4_local_5 8 rfl rfl)
theorem dX4_local_128 : decode cX4_local 128 = .ok (.iload 8, 2) := dk_21 8 (dk_at dksX4_local_5 9 rfl rfl)
theorem dX4_local_130 : decode cX4_local 130 = .ok (.dup2, 1) := dk_92 (dk_at dksX4_local_5 11 rfl rfl)
theorem dX4_local_131 : decode cX4_local 131 = .ok (.daload, 1) := dk_49 (dk_at dksX4_local_5 12 rfl rfl)
theorem dX4_local_132 : decode cX4_local 132 = .ok (.dload 9, 2) := dk_24 9 (dk_at dksX4_local_5 13 rfl rfl)
theorem dX4_local_134 : decode cX4_local 134 = .ok (.dsub, 1) := dk_103 (dk_at dksX4_local_5 15 rfl rfl)
theorem dX4_local_135 : decode cX4_local 135 = .ok (.dastore, 1) := dk_82 (dk_at dksX4_local_5 16 rfl rfl)
theorem dX4_local_136 : decode cX4_local 136 = .ok (.goto 12, 3) := dk_167 0 12 (dk_at dksX4_local_5 17 rfl rfl)
theorem dX4_local_139 : decode cX4_local 139 = .ok (.aload_n 2, 1) := dk_44 (dk_at dksX4_local_5 20 rfl rfl)
theorem dX4_local_140 : decode cX4_local 140 = .ok (.iload 8, 2) := dk_21 8 (dk_at dksX4_local_5 21 rfl rfl)
theorem dX4_local_142 : decode cX4_local 142 = .ok (.dup2, 1) := dk_92 (dk_at dksX4_local_5 23 rfl rfl)
theorem dX4_local_143 : decode cX4_local 143 = .ok (.daload, 1) := dk_49 (dk_at dksX4_local_6 0 rfl rfl)
theorem dX4_local_144 : decode cX4_local 144 = .ok (.dload 9, 2) := dk_24 9 (dk_at dksX4_local_6 1 rfl rfl)
theorem dX4_local_146 : decode cX4_local 146 = .ok (.dadd, 1) := dk_99 (dk_at dksX4_local_6 3 rfl rfl)
theorem dX4_local_147 : decode cX4_local 147 = .ok (.dastore, 1) := dk_82 (dk_at dksX4_local_6 4 rfl rfl)
theorem dX4_local_148 : decode cX4_local 148 = .ok (.iinc 8 1, 3) := dk_132 8 1 (dk_at dksX4_local_6 5 rfl rfl)
theorem dX4_local_151 : decode cX4_local 151 = .ok (.goto (-70), 3) := dk_167 255 186 (dk_at dksX4_local_6 8 rfl rfl)
theorem dX4_local_154 : decode cX4_local 154 = .ok (.iinc 5 1, 3) := dk_132 5 1 (dk_at dksX4_local_6 11 rfl rfl)
theorem dX4_local_157 : decode cX4_local 157 = .ok (.goto (-128), 3) := dk_167 255 128 (dk_at dksX4_local_6 14 rfl rfl)
theorem dX4_local_160 : decode cX4_local 160 = .ok (.aload_n 2, 1) := dk_44 (dk_at dksX4_local_6 17 rfl rfl)
theorem dX4_local_161 : decode cX4_local 161 = .ok (.areturn, 1) := dk_176 (dk_at dksX4_local_6 18 rfl rfl)
abbrev cX1_localEntry : ByteArray := prog_1_method_51_code
def yX1_localEntry : MethodName := ⟨RX1, "localEntry", "(III)D"⟩
def dkwX1_localEntry_2 : List UInt8 := [182, 1, 71, 29, 49, 175]
abbrev dktX1_localEntry_2 : List UInt8 := dkwX1_localEntry_2 ++ []
def dkwX1_localEntry_1 : List UInt8 := [182, 0, 196, 58, 5, 29, 133, 9, 25, 4, 180, 1, 59, 133, 184, 0, 58, 184, 0, 98, 25, 4, 25, 5]
abbrev dktX1_localEntry_1 : List UInt8 := dkwX1_localEntry_1 ++ dktX1_localEntry_2
def dkwX1_localEntry_0 : List UInt8 := [42, 182, 0, 76, 58, 4, 27, 5, 100, 25, 4, 180, 0, 101, 5, 100, 4, 96, 184, 0, 84, 42, 27, 28]
abbrev dktX1_localEntry_0 : List UInt8 := dkwX1_localEntry_0 ++ dktX1_localEntry_1
theorem dksX1_localEntry_0 : cX1_localEntry.data.toList.drop 0 = dktX1_localEntry_0 := by decide +kernel
theorem dksX1_localEntry_1 : cX1_localEntry.data.toList.drop 24 = dktX1_localEntry_1 := dk_seg dksX1_localEntry_0 24 rfl rfl
theorem dksX1_localEntry_2 : cX1_localEntry.data.toList.drop 48 = dktX1_localEntry_2 := dk_seg dksX1_localEntry_1 24 rfl rfl
theorem dX1_localEntry_0 : decode cX1_localEntry 0 = .ok (.aload_n 0, 1) := dk_42 (dk_at dksX1_localEntry_0 0 rfl rfl)
theorem dX1_localEntry_1 : decode cX1_localEntry 1 = .ok (.invokevirtual 76, 3) := dk_182 0 76 (dk_at dksX1_localEntry_0 1 rfl rfl)
theorem dX1_localEntry_4 : decode cX1_localEntry 4 = .ok (.astore 4, 2) := dk_58 4 (dk_at dksX1_localEntry_0 4 rfl rfl)
theorem dX1_localEntry_6 : decode cX1_localEntry 6 = .ok (.iload_n 1, 1) := dk_27 (dk_at dksX1_localEntry_0 6 rfl rfl)
theorem dX1_localEntry_7 : decode cX1_localEntry 7 = .ok (.iconst 2, 1) := dk_5 (dk_at dksX1_localEntry_0 7 rfl rfl)
theorem dX1_localEntry_8 : decode cX1_localEntry 8 = .ok (.isub, 1) := dk_100 (dk_at dksX1_localEntry_0 8 rfl rfl)
theorem dX1_localEntry_9 : decode cX1_localEntry 9 = .ok (.aload 4, 2) := dk_25 4 (dk_at dksX1_localEntry_0 9 rfl rfl)
theorem dX1_localEntry_11 : decode cX1_localEntry 11 = .ok (.getfield 101, 3) := dk_180 0 101 (dk_at dksX1_localEntry_0 11 rfl rfl)
theorem dX1_localEntry_14 : decode cX1_localEntry 14 = .ok (.iconst 2, 1) := dk_5 (dk_at dksX1_localEntry_0 14 rfl rfl)
theorem dX1_localEntry_15 : decode cX1_localEntry 15 = .ok (.isub, 1) := dk_100 (dk_at dksX1_localEntry_0 15 rfl rfl)
theorem dX1_localEntry_16 : decode cX1_localEntry 16 = .ok (.iconst 1, 1) := dk_4 (dk_at dksX1_localEntry_0 16 rfl rfl)
theorem dX1_localEntry_17 : decode cX1_localEntry 17 = .ok (.iadd, 1) := dk_96 (dk_at dksX1_localEntry_0 17 rfl rfl)
theorem dX1_localEntry_18 : decode cX1_localEntry 18 = .ok (.invokestatic 84, 3) := dk_184 0 84 (dk_at dksX1_localEntry_0 18 rfl rfl)
theorem dX1_localEntry_21 : decode cX1_localEntry 21 = .ok (.aload_n 0, 1) := dk_42 (dk_at dksX1_localEntry_0 21 rfl rfl)
theorem dX1_localEntry_22 : decode cX1_localEntry 22 = .ok (.iload_n 1, 1) := dk_27 (dk_at dksX1_localEntry_0 22 rfl rfl)
theorem dX1_localEntry_23 : decode cX1_localEntry 23 = .ok (.iload_n 2, 1) := dk_28 (dk_at dksX1_localEntry_0 23 rfl rfl)
theorem dX1_localEntry_24 : decode cX1_localEntry 24 = .ok (.invokevirtual 196, 3) := dk_182 0 196 (dk_at dksX1_localEntry_1 0 rfl rfl)
theorem dX1_localEntry_27 : decode cX1_localEntry 27 = .ok (.astore 5, 2) := dk_58 5 (dk_at dksX1_localEntry_1 3 rfl rfl)
theorem dX1_localEntry_29 : decode cX1_localEntry 29 = .ok (.iload_n 3, 1) := dk_29 (dk_at dksX1_localEntry_1 5 rfl rfl)
theorem dX1_localEntry_30 : decode cX1_localEntry 30 = .ok (.i2l, 1) := dk_133 (dk_at dksX1_localEntry_1 6 rfl rfl)
theorem dX1_localEntry_31 : decode cX1_localEntry 31 = .ok (.lconst 0, 1) := dk_9 (dk_at dksX1_localEntry_1 7 rfl rfl)
theorem dX1_localEntry_32 : decode cX1_localEntry 32 = .ok (.aload 4, 2) := dk_25 4 (dk_at dksX1_localEntry_1 8 rfl rfl)
theorem dX1_localEntry_34 : decode cX1_localEntry 34 = .ok (.getfield 315, 3) := dk_180 1 59 (dk_at dksX1_localEntry_1 10 rfl rfl)
theorem dX1_localEntry_37 : decode cX1_localEntry 37 = .ok (.i2l, 1) := dk_133 (dk_at dksX1_localEntry_1 13 rfl rfl)
theorem dX1_localEntry_38 : decode cX1_localEntry 38 = .ok (.invokestatic 58, 3) := dk_184 0 58 (dk_at dksX1_localEntry_1 14 rfl rfl)
theorem dX1_localEntry_41 : decode cX1_localEntry 41 = .ok (.invokestatic 98, 3) := dk_184 0 98 (dk_at dksX1_localEntry_1 17 rfl rfl)
theorem dX1_localEntry_44 : decode cX1_localEntry 44 = .ok (.aload 4, 2) := dk_25 4 (dk_at dksX1_localEntry_1 20 rfl rfl)
theorem dX1_localEntry_46 : decode cX1_localEntry 46 = .ok (.aload 5, 2) := dk_25 5 (dk_at dksX1_localEntry_1 22 rfl rfl)
theorem dX1_localEntry_48 : decode cX1_localEntry 48 = .ok (.invokevirtual 327, 3) := dk_182 1 71 (dk_at dksX1_localEntry_2 0 rfl rfl)
theorem dX1_localEntry_51 : decode cX1_localEntry 51 = .ok (.iload_n 3, 1) := dk_29 (dk_at dksX1_localEntry_2 3 rfl rfl)
theorem dX1_localEntry_52 : decode cX1_localEntry 52 = .ok (.daload, 1) := dk_49 (dk_at dksX1_localEntry_2 4 rfl rfl)
theorem dX1_localEntry_53 : decode cX1_localEntry 53 = .ok (.dreturn, 1) := dk_175 (dk_at dksX1_localEntry_2 5 rfl rfl)
abbrev cX4_localSum : ByteArray := prog_7_method_36_code
def yX4_localSum : MethodName := ⟨RX4, "localSum", "(I)D"⟩
def dkwX4_localSum_2 : List UInt8 := [184, 0, 207, 107, 99, 57, 4, 132, 8, 1, 167, 255, 226, 24, 4, 175]
abbrev dktX4_localSum_2 : List UInt8 := dkwX4_localSum_2 ++ []
def dkwX4_localSum_1 : List UInt8 := [3, 54, 8, 21, 8, 42, 180, 0, 61, 163, 0, 27, 24, 4, 45, 21, 8, 49, 15, 24, 6, 21, 8]
abbrev dktX4_localSum_1 : List UInt8 := dkwX4_localSum_1 ++ dktX4_localSum_2
def dkwX4_localSum_0 : List UInt8 := [42, 27, 182, 0, 115, 77, 42, 44, 182, 0, 230, 78, 14, 57, 4, 27, 44, 180, 0, 125, 100, 135, 57, 6]
abbrev dktX4_localSum_0 : List UInt8 := dkwX4_localSum_0 ++ dktX4_localSum_1
theorem dksX4_localSum_0 : cX4_localSum.data.toList.drop 0 = dktX4_localSum_0 := by decide +kernel
theorem dksX4_localSum_1 : cX4_localSum.data.toList.drop 24 = dktX4_localSum_1 := dk_seg dksX4_localSum_0 24 rfl rfl
theorem dksX4_localSum_2 : cX4_localSum.data.toList.drop 47 = dktX4_localSum_2 := dk_seg dksX4_localSum_1 23 rfl rfl
theorem dX4_localSum_0 : decode cX4_localSum 0 = .ok (.aload_n 0, 1) := dk_42 (dk_at dksX4_localSum_0 0 rfl rfl)
theorem dX4_localSum_1 : decode cX4_localSum 1 = .ok (.iload_n 1, 1) := dk_27 (dk_at dksX4_localSum_0 1 rfl rfl)
theorem dX4_localSum_2 : decode cX4_localSum 2 = .ok (.invokevirtual 115, 3) := dk_182 0 115 (dk_at dksX4_localSum_0 2 rfl rfl)
theorem dX4_localSum_5 : decode cX4_localSum 5 = .ok (.astore_n 2, 1) := dk_77 (dk_at dksX4_localSum_0 5 rfl rfl)
theorem dX4_localSum_6 : decode cX4_localSum 6 = .ok (.aload_n 0, 1) := dk_42 (dk_at dksX4_localSum_0 6 rfl rfl)
theorem dX4_localSum_7 : decode cX4_localSum 7 = .ok (.aload_n 2, 1) := dk_44 (dk_at dksX4_localSum_0 7 rfl rfl)
theorem dX4_localSum_8 : decode cX4_localSum 8 = .ok (.invokevirtual 230, 3) := dk_182 0 230 (dk_at dksX4_localSum_0 8 rfl rfl)
theorem dX4_localSum_11 : decode cX4_localSum 11 = .ok (.astore_n 3, 1) := dk_78 (dk_at dksX4_localSum_0 11 rfl rfl)
theorem dX4_localSum_12 : decode cX4_localSum 12 = .ok (.dconst 0, 1) := dk_14 (dk_at dksX4_localSum_0 12 rfl rfl)
theorem dX4_localSum_13 : decode cX4_localSum 13 = .ok (.dstore 4, 2) := dk_57 4 (dk_at dksX4_localSum_0 13 rfl rfl)
theorem dX4_localSum_15 : decode cX4_localSum 15 = .ok (.iload_n 1, 1) := dk_27 (dk_at dksX4_localSum_0 15 rfl rfl)
theorem dX4_localSum_16 : decode cX4_localSum 16 = .ok (.aload_n 2, 1) := dk_44 (dk_at dksX4_localSum_0 16 rfl rfl)
theorem dX4_localSum_17 : decode cX4_localSum 17 = .ok (.getfield 125, 3) := dk_180 0 125 (dk_at dksX4_localSum_0 17 rfl rfl)
theorem dX4_localSum_20 : decode cX4_localSum 20 = .ok (.isub, 1) := dk_100 (dk_at dksX4_localSum_0 20 rfl rfl)
theorem dX4_localSum_21 : decode cX4_localSum 21 = .ok (.i2d, 1) := dk_135 (dk_at dksX4_localSum_0 21 rfl rfl)
theorem dX4_localSum_22 : decode cX4_localSum 22 = .ok (.dstore 6, 2) := dk_57 6 (dk_at dksX4_localSum_0 22 rfl rfl)
theorem dX4_localSum_24 : decode cX4_localSum 24 = .ok (.iconst 0, 1) := dk_3 (dk_at dksX4_localSum_1 0 rfl rfl)
theorem dX4_localSum_25 : decode cX4_localSum 25 = .ok (.istore 8, 2) := dk_54 8 (dk_at dksX4_localSum_1 1 rfl rfl)
theorem dX4_localSum_27 : decode cX4_localSum 27 = .ok (.iload 8, 2) := dk_21 8 (dk_at dksX4_localSum_1 3 rfl rfl)
theorem dX4_localSum_29 : decode cX4_localSum 29 = .ok (.aload_n 0, 1) := dk_42 (dk_at dksX4_localSum_1 5 rfl rfl)
theorem dX4_localSum_30 : decode cX4_localSum 30 = .ok (.getfield 61, 3) := dk_180 0 61 (dk_at dksX4_localSum_1 6 rfl rfl)
theorem dX4_localSum_33 : decode cX4_localSum 33 = .ok (.if_icmp .gt 27, 3) := dk_163 0 27 (dk_at dksX4_localSum_1 9 rfl rfl)
theorem dX4_localSum_36 : decode cX4_localSum 36 = .ok (.dload 4, 2) := dk_24 4 (dk_at dksX4_localSum_1 12 rfl rfl)
theorem dX4_localSum_38 : decode cX4_localSum 38 = .ok (.aload_n 3, 1) := dk_45 (dk_at dksX4_localSum_1 14 rfl rfl)
theorem dX4_localSum_39 : decode cX4_localSum 39 = .ok (.iload 8, 2) := dk_21 8 (dk_at dksX4_localSum_1 15 rfl rfl)
theorem dX4_localSum_41 : decode cX4_localSum 41 = .ok (.daload, 1) := dk_49 (dk_at dksX4_localSum_1 17 rfl rfl)
theorem dX4_localSum_42 : decode cX4_localSum 42 = .ok (.dconst 1, 1) := dk_15 (dk_at dksX4_localSum_1 18 rfl rfl)
theorem dX4_localSum_43 : decode cX4_localSum 43 = .ok (.dload 6, 2) := dk_24 6 (dk_at dksX4_localSum_1 19 rfl rfl)
theorem dX4_localSum_45 : decode cX4_localSum 45 = .ok (.iload 8, 2) := dk_21 8 (dk_at dksX4_localSum_1 21 rfl rfl)
theorem dX4_localSum_47 : decode cX4_localSum 47 = .ok (.invokestatic 207, 3) := dk_184 0 207 (dk_at dksX4_localSum_2 0 rfl rfl)
theorem dX4_localSum_50 : decode cX4_localSum 50 = .ok (.dmul, 1) := dk_107 (dk_at dksX4_localSum_2 3 rfl rfl)
theorem dX4_localSum_51 : decode cX4_localSum 51 = .ok (.dadd, 1) := dk_99 (dk_at dksX4_localSum_2 4 rfl rfl)
theorem dX4_localSum_52 : decode cX4_localSum 52 = .ok (.dstore 4, 2) := dk_57 4 (dk_at dksX4_localSum_2 5 rfl rfl)
theorem dX4_localSum_54 : decode cX4_localSum 54 = .ok (.iinc 8 1, 3) := dk_132 8 1 (dk_at dksX4_localSum_2 7 rfl rfl)
theorem dX4_localSum_57 : decode cX4_localSum 57 = .ok (.goto (-30), 3) := dk_167 255 226 (dk_at dksX4_localSum_2 10 rfl rfl)
theorem dX4_localSum_60 : decode cX4_localSum 60 = .ok (.dload 4, 2) := dk_24 4 (dk_at dksX4_localSum_2 13 rfl rfl)
theorem dX4_localSum_62 : decode cX4_localSum 62 = .ok (.dreturn, 1) := dk_175 (dk_at dksX4_localSum_2 15 rfl rfl)
abbrev cX1_localSum : ByteArray := prog_1_method_52_code
def yX1_localSum : MethodName := ⟨RX1, "localSum", "(I)D"⟩
def dkwX1_localSum_0 : List UInt8 := [42, 27, 182, 0, 193, 27, 182, 1, 75, 175]
abbrev dktX1_localSum_0 : List UInt8 := dkwX1_localSum_0 ++ []
theorem dksX1_localSum_0 : cX1_localSum.data.toList.drop 0 = dktX1_localSum_0 := by decide +kernel
theorem dX1_localSum_0 : decode cX1_localSum 0 = .ok (.aload_n 0, 1) := dk_42 (dk_at dksX1_localSum_0 0 rfl rfl)
theorem dX1_localSum_1 : decode cX1_localSum 1 = .ok (.iload_n 1, 1) := dk_27 (dk_at dksX1_localSum_0 1 rfl rfl)
theorem dX1_localSum_2 : decode cX1_localSum 2 = .ok (.invokevirtual 193, 3) := dk_182 0 193 (dk_at dksX1_localSum_0 2 rfl rfl)
theorem dX1_localSum_5 : decode cX1_localSum 5 = .ok (.iload_n 1, 1) := dk_27 (dk_at dksX1_localSum_0 5 rfl rfl)
theorem dX1_localSum_6 : decode cX1_localSum 6 = .ok (.invokevirtual 331, 3) := dk_182 1 75 (dk_at dksX1_localSum_0 6 rfl rfl)
theorem dX1_localSum_9 : decode cX1_localSum 9 = .ok (.dreturn, 1) := dk_175 (dk_at dksX1_localSum_0 9 rfl rfl)
abbrev cX4_pull : ByteArray := prog_7_method_37_code
def yX4_pull : MethodName := ⟨RX4, "pull", "(IZ)D"⟩
def dkwX4_pull_4 : List UInt8 := [167, 255, 166, 41, 175]
abbrev dktX4_pull_4 : List UInt8 := dkwX4_pull_4 ++ []
def dkwX4_pull_3 : List UInt8 := [25, 6, 180, 0, 86, 27, 164, 0, 10, 41, 24, 8, 99, 167, 0, 7, 41, 24, 8, 103, 74, 132, 5, 1]
abbrev dktX4_pull_3 : List UInt8 := dkwX4_pull_3 ++ dktX4_pull_4
def dkwX4_pull_2 : List UInt8 := [25, 6, 27, 182, 0, 197, 54, 7, 25, 6, 180, 0, 89, 135, 21, 7, 21, 7, 104, 135, 111, 57, 8]
abbrev dktX4_pull_2 : List UInt8 := dkwX4_pull_2 ++ dktX4_pull_3
def dkwX4_pull_1 : List UInt8 := [180, 0, 86, 27, 159, 0, 64, 28, 153, 0, 16, 42, 25, 6, 27, 182, 0, 161, 154, 0, 6, 167, 0, 47]
abbrev dktX4_pull_1 : List UInt8 := dkwX4_pull_1 ++ dktX4_pull_2
def dkwX4_pull_0 : List UInt8 := [14, 74, 3, 54, 5, 21, 5, 42, 182, 0, 37, 162, 0, 87, 42, 21, 5, 182, 0, 41, 58, 6, 25, 6]
abbrev dktX4_pull_0 : List UInt8 := dkwX4_pull_0 ++ dktX4_pull_1
theorem dksX4_pull_0 : cX4_pull.data.toList.drop 0 = dktX4_pull_0 := by decide +kernel
theorem dksX4_pull_1 : cX4_pull.data.toList.drop 24 = dktX4_pull_1 := dk_seg dksX4_pull_0 24 rfl rfl
theorem dksX4_pull_2 : cX4_pull.data.toList.drop 48 = dktX4_pull_2 := dk_seg dksX4_pull_1 24 rfl rfl
theorem dksX4_pull_3 : cX4_pull.data.toList.drop 71 = dktX4_pull_3 := dk_seg dksX4_pull_2 23 rfl rfl
theorem dksX4_pull_4 : cX4_pull.data.toList.drop 95 = dktX4_pull_4 := dk_seg dksX4_pull_3 24 rfl rfl
theorem dX4_pull_0 : decode cX4_pull 0 = .ok (.dconst 0, 1) := dk_14 (dk_at dksX4_pull_0 0 rfl rfl)
theorem dX4_pull_1 : decode cX4_pull 1 = .ok (.dstore_n 3, 1) := dk_74 (dk_at dksX4_pull_0 1 rfl rfl)
theorem dX4_pull_2 : decode cX4_pull 2 = .ok (.iconst 0, 1) := dk_3 (dk_at dksX4_pull_0 2 rfl rfl)
theorem dX4_pull_3 : decode cX4_pull 3 = .ok (.istore 5, 2) := dk_54 5 (dk_at dksX4_pull_0 3 rfl rfl)
theorem dX4_pull_5 : decode cX4_pull 5 = .ok (.iload 5, 2) := dk_21 5 (dk_at dksX4_pull_0 5 rfl rfl)
theorem dX4_pull_7 : decode cX4_pull 7 = .ok (.aload_n 0, 1) := dk_42 (dk_at dksX4_pull_0 7 rfl rfl)
theorem dX4_pull_8 : decode cX4_pull 8 = .ok (.invokevirtual 37, 3) := dk_182 0 37 (dk_at dksX4_pull_0 8 rfl rfl)
theorem dX4_pull_11 : decode cX4_pull 11 = .ok (.if_icmp .ge 87, 3) := dk_162 0 87 (dk_at dksX4_pull_0 11 rfl rfl)
theorem dX4_pull_14 : decode cX4_pull 14 = .ok (.aload_n 0, 1) := dk_42 (dk_at dksX4_pull_0 14 rfl rfl)
theorem dX4_pull_15 : decode cX4_pull 15 = .ok (.iload 5, 2) := dk_21 5 (dk_at dksX4_pull_0 15 rfl rfl)
theorem dX4_pull_17 : decode cX4_pull 17 = .ok (.invokevirtual 41, 3) := dk_182 0 41 (dk_at dksX4_pull_0 17 rfl rfl)
theorem dX4_pull_20 : decode cX4_pull 20 = .ok (.astore 6, 2) := dk_58 6 (dk_at dksX4_pull_0 20 rfl rfl)
theorem dX4_pull_22 : decode cX4_pull 22 = .ok (.aload 6, 2) := dk_25 6 (dk_at dksX4_pull_0 22 rfl rfl)
theorem dX4_pull_24 : decode cX4_pull 24 = .ok (.getfield 86, 3) := dk_180 0 86 (dk_at dksX4_pull_1 0 rfl rfl)
theorem dX4_pull_27 : decode cX4_pull 27 = .ok (.iload_n 1, 1) := dk_27 (dk_at dksX4_pull_1 3 rfl rfl)
theorem dX4_pull_28 : decode cX4_pull 28 = .ok (.if_icmp .eq 64, 3) := dk_159 0 64 (dk_at dksX4_pull_1 4 rfl rfl)
theorem dX4_pull_31 : decode cX4_pull 31 = .ok (.iload_n 2, 1) := dk_28 (dk_at dksX4_pull_1 7 rfl rfl)
theorem dX4_pull_32 : decode cX4_pull 32 = .ok (.ifCond .eq 16, 3) := dk_153 0 16 (dk_at dksX4_pull_1 8 rfl rfl)
theorem dX4_pull_35 : decode cX4_pull 35 = .ok (.aload_n 0, 1) := dk_42 (dk_at dksX4_pull_1 11 rfl rfl)
theorem dX4_pull_36 : decode cX4_pull 36 = .ok (.aload 6, 2) := dk_25 6 (dk_at dksX4_pull_1 12 rfl rfl)
theorem dX4_pull_38 : decode cX4_pull 38 = .ok (.iload_n 1, 1) := dk_27 (dk_at dksX4_pull_1 14 rfl rfl)
theorem dX4_pull_39 : decode cX4_pull 39 = .ok (.invokevirtual 161, 3) := dk_182 0 161 (dk_at dksX4_pull_1 15 rfl rfl)
theorem dX4_pull_42 : decode cX4_pull 42 = .ok (.ifCond .ne 6, 3) := dk_154 0 6 (dk_at dksX4_pull_1 18 rfl rfl)
theorem dX4_pull_45 : decode cX4_pull 45 = .ok (.goto 47, 3) := dk_167 0 47 (dk_at dksX4_pull_1 21 rfl rfl)
theorem dX4_pull_48 : decode cX4_pull 48 = .ok (.aload 6, 2) := dk_25 6 (dk_at dksX4_pull_2 0 rfl rfl)
theorem dX4_pull_50 : decode cX4_pull 50 = .ok (.iload_n 1, 1) := dk_27 (dk_at dksX4_pull_2 2 rfl rfl)
theorem dX4_pull_51 : decode cX4_pull 51 = .ok (.invokevirtual 197, 3) := dk_182 0 197 (dk_at dksX4_pull_2 3 rfl rfl)
theorem dX4_pull_54 : decode cX4_pull 54 = .ok (.istore 7, 2) := dk_54 7 (dk_at dksX4_pull_2 6 rfl rfl)
theorem dX4_pull_56 : decode cX4_pull 56 = .ok (.aload 6, 2) := dk_25 6 (dk_at dksX4_pull_2 8 rfl rfl)
theorem dX4_pull_58 : decode cX4_pull 58 = .ok (.getfield 89, 3) := dk_180 0 89 (dk_at dksX4_pull_2 10 rfl rfl)
theorem dX4_pull_61 : decode cX4_pull 61 = .ok (.i2d, 1) := dk_135 (dk_at dksX4_pull_2 13 rfl rfl)
theorem dX4_pull_62 : decode cX4_pull 62 = .ok (.iload 7, 2) := dk_21 7 (dk_at dksX4_pull_2 14 rfl rfl)
theorem dX4_pull_64 : decode cX4_pull 64 = .ok (.iload 7, 2) := dk_21 7 (dk_at dksX4_pull_2 16 rfl rfl)
theorem dX4_pull_66 : decode cX4_pull 66 = .ok (.imul, 1) := dk_104 (dk_at dksX4_pull_2 18 rfl rfl)
theorem dX4_pull_67 : decode cX4_pull 67 = .ok (.i2d, 1) := dk_135 (dk_at dksX4_pull_2 19 rfl rfl)
theorem dX4_pull_68 : decode cX4_pull 68 = .ok (.ddiv, 1) := dk_111 (dk_at dksX4_pull_2 20 rfl rfl)
theorem dX4_pull_69 : decode cX4_pull 69 = .ok (.dstore 8, 2) := dk_57 8 (dk_at dksX4_pull_2 21 rfl rfl)
theorem dX4_pull_71 : decode cX4_pull 71 = .ok (.aload 6, 2) := dk_25 6 (dk_at dksX4_pull_3 0 rfl rfl)
theorem dX4_pull_73 : decode cX4_pull 73 = .ok (.getfield 86, 3) := dk_180 0 86 (dk_at dksX4_pull_3 2 rfl rfl)
theorem dX4_pull_76 : decode cX4_pull 76 = .ok (.iload_n 1, 1) := dk_27 (dk_at dksX4_pull_3 5 rfl rfl)
theorem dX4_pull_77 : decode cX4_pull 77 = .ok (.if_icmp .le 10, 3) := dk_164 0 10 (dk_at dksX4_pull_3 6 rfl rfl)
theorem dX4_pull_80 : decode cX4_pull 80 = .ok (.dload_n 3, 1) := dk_41 (dk_at dksX4_pull_3 9 rfl rfl)
theorem dX4_pull_81 : decode cX4_pull 81 = .ok (.dload 8, 2) := dk_24 8 (dk_at dksX4_pull_3 10 rfl rfl)
theorem dX4_pull_83 : decode cX4_pull 83 = .ok (.dadd, 1) := dk_99 (dk_at dksX4_pull_3 12 rfl rfl)
theorem dX4_pull_84 : decode cX4_pull 84 = .ok (.goto 7, 3) := dk_167 0 7 (dk_at dksX4_pull_3 13 rfl rfl)
theorem dX4_pull_87 : decode cX4_pull 87 = .ok (.dload_n 3, 1) := dk_41 (dk_at dksX4_pull_3 16 rfl rfl)
theorem dX4_pull_88 : decode cX4_pull 88 = .ok (.dload 8, 2) := dk_24 8 (dk_at dksX4_pull_3 17 rfl rfl)
theorem dX4_pull_90 : decode cX4_pull 90 = .ok (.dsub, 1) := dk_103 (dk_at dksX4_pull_3 19 rfl rfl)
theorem dX4_pull_91 : decode cX4_pull 91 = .ok (.dstore_n 3, 1) := dk_74 (dk_at dksX4_pull_3 20 rfl rfl)
theorem dX4_pull_92 : decode cX4_pull 92 = .ok (.iinc 5 1, 3) := dk_132 5 1 (dk_at dksX4_pull_3 21 rfl rfl)
theorem dX4_pull_95 : decode cX4_pull 95 = .ok (.goto (-90), 3) := dk_167 255 166 (dk_at dksX4_pull_4 0 rfl rfl)
theorem dX4_pull_98 : decode cX4_pull 98 = .ok (.dload_n 3, 1) := dk_41 (dk_at dksX4_pull_4 3 rfl rfl)
theorem dX4_pull_99 : decode cX4_pull 99 = .ok (.dreturn, 1) := dk_175 (dk_at dksX4_pull_4 4 rfl rfl)
abbrev cX1_pullPlain : ByteArray := prog_1_method_53_code
def yX1_pullPlain : MethodName := ⟨RX1, "pullPlain", "(I)D"⟩
def dkwX1_pullPlain_0 : List UInt8 := [42, 27, 182, 0, 193, 27, 3, 182, 1, 78, 175]
abbrev dktX1_pullPlain_0 : List UInt8 := dkwX1_pullPlain_0 ++ []
theorem dksX1_pullPlain_0 : cX1_pullPlain.data.toList.drop 0 = dktX1_pullPlain_0 := by decide +kernel
theorem dX1_pullPlain_0 : decode cX1_pullPlain 0 = .ok (.aload_n 0, 1) := dk_42 (dk_at dksX1_pullPlain_0 0 rfl rfl)
theorem dX1_pullPlain_1 : decode cX1_pullPlain 1 = .ok (.iload_n 1, 1) := dk_27 (dk_at dksX1_pullPlain_0 1 rfl rfl)
theorem dX1_pullPlain_2 : decode cX1_pullPlain 2 = .ok (.invokevirtual 193, 3) := dk_182 0 193 (dk_at dksX1_pullPlain_0 2 rfl rfl)
theorem dX1_pullPlain_5 : decode cX1_pullPlain 5 = .ok (.iload_n 1, 1) := dk_27 (dk_at dksX1_pullPlain_0 5 rfl rfl)
theorem dX1_pullPlain_6 : decode cX1_pullPlain 6 = .ok (.iconst 0, 1) := dk_3 (dk_at dksX1_pullPlain_0 6 rfl rfl)
theorem dX1_pullPlain_7 : decode cX1_pullPlain 7 = .ok (.invokevirtual 334, 3) := dk_182 1 78 (dk_at dksX1_pullPlain_0 7 rfl rfl)
theorem dX1_pullPlain_10 : decode cX1_pullPlain 10 = .ok (.dreturn, 1) := dk_175 (dk_at dksX1_pullPlain_0 10 rfl rfl)
abbrev cX4_pullFar : ByteArray := prog_7_method_38_code
def yX4_pullFar : MethodName := ⟨RX4, "pullFar", "(I)D"⟩
def dkwX4_pullFar_5 : List UInt8 := [132, 5, 1, 167, 255, 148, 41, 175]
abbrev dktX4_pullFar_5 : List UInt8 := dkwX4_pullFar_5 ++ []
def dkwX4_pullFar_4 : List UInt8 := [167, 255, 209, 24, 6, 14, 151, 158, 0, 10, 41, 24, 8, 103, 167, 0, 7, 41, 24, 8, 99, 74]
abbrev dktX4_pullFar_4 : List UInt8 := dkwX4_pullFar_4 ++ dktX4_pullFar_5
def dkwX4_pullFar_3 : List UInt8 := [21, 12, 182, 0, 106, 105, 138, 24, 10, 111, 99, 57, 8, 24, 10, 24, 6, 107, 57, 10, 132, 12, 1]
abbrev dktX4_pullFar_3 : List UInt8 := dkwX4_pullFar_3 ++ dktX4_pullFar_4
def dkwX4_pullFar_2 : List UInt8 := [21, 12, 42, 180, 0, 61, 163, 0, 44, 24, 8, 21, 12, 4, 96, 133, 42, 42, 180, 0, 26, 21, 5, 50]
abbrev dktX4_pullFar_2 : List UInt8 := dkwX4_pullFar_2 ++ dktX4_pullFar_3
def dkwX4_pullFar_1 : List UInt8 := [50, 180, 0, 125, 100, 135, 57, 6, 14, 57, 8, 15, 24, 6, 5, 184, 0, 207, 57, 10, 3, 54, 12]
abbrev dktX4_pullFar_1 : List UInt8 := dkwX4_pullFar_1 ++ dktX4_pullFar_2
def dkwX4_pullFar_0 : List UInt8 := [42, 27, 182, 0, 195, 61, 14, 74, 3, 54, 5, 21, 5, 28, 162, 0, 108, 27, 42, 180, 0, 26, 21, 5]
abbrev dktX4_pullFar_0 : List UInt8 := dkwX4_pullFar_0 ++ dktX4_pullFar_1
theorem dksX4_pullFar_0 : cX4_pullFar.data.toList.drop 0 = dktX4_pullFar_0 := by decide +kernel
theorem dksX4_pullFar_1 : cX4_pullFar.data.toList.drop 24 = dktX4_pullFar_1 := dk_seg dksX4_pullFar_0 24 rfl rfl
theorem dksX4_pullFar_2 : cX4_pullFar.data.toList.drop 47 = dktX4_pullFar_2 := dk_seg dksX4_pullFar_1 23 rfl rfl
theorem dksX4_pullFar_3 : cX4_pullFar.data.toList.drop 71 = dktX4_pullFar_3 := dk_seg dksX4_pullFar_2 24 rfl rfl
theorem dksX4_pullFar_4 : cX4_pullFar.data.toList.drop 94 = dktX4_pullFar_4 := dk_seg dksX4_pullFar_3 23 rfl rfl
theorem dksX4_pullFar_5 : cX4_pullFar.data.toList.drop 116 = dktX4_pullFar_5 := dk_seg dksX4_pullFar_4 22 rfl rfl
theorem dX4_pullFar_0 : decode cX4_pullFar 0 = .ok (.aload_n 0, 1) := dk_42 (dk_at dksX4_pullFar_0 0 rfl rfl)
theorem dX4_pullFar_1 : decode cX4_pullFar 1 = .ok (.iload_n 1, 1) := dk_27 (dk_at dksX4_pullFar_0 1 rfl rfl)
theorem dX4_pullFar_2 : decode cX4_pullFar 2 = .ok (.invokevirtual 195, 3) := dk_182 0 195 (dk_at dksX4_pullFar_0 2 rfl rfl)
theorem dX4_pullFar_5 : decode cX4_pullFar 5 = .ok (.istore_n 2, 1) := dk_61 (dk_at dksX4_pullFar_0 5 rfl rfl)
theorem dX4_pullFar_6 : decode cX4_pullFar 6 = .ok (.dconst 0, 1) := dk_14 (dk_at dksX4_pullFar_0 6 rfl rfl)
theorem dX4_pullFar_7 : decode cX4_pullFar 7 = .ok (.dstore_n 3, 1) := dk_74 (dk_at dksX4_pullFar_0 7 rfl rfl)
theorem dX4_pullFar_8 : decode cX4_pullFar 8 = .ok (.iconst 0, 1) := dk_3 (dk_at dksX4_pullFar_0 8 rfl rfl)
theorem dX4_pullFar_9 : decode cX4_pullFar 9 = .ok (.istore 5, 2) := dk_54 5 (dk_at dksX4_pullFar_0 9 rfl rfl)
theorem dX4_pullFar_11 : decode cX4_pullFar 11 = .ok (.iload 5, 2) := dk_21 5 (dk_at dksX4_pullFar_0 11 rfl rfl)
theorem dX4_pullFar_13 : decode cX4_pullFar 13 = .ok (.iload_n 2, 1) := dk_28 (dk_at dksX4_pullFar_0 13 rfl rfl)
theorem dX4_pullFar_14 : decode cX4_pullFar 14 = .ok (.if_icmp .ge 108, 3) := dk_162 0 108 (dk_at dksX4_pullFar_0 14 rfl rfl)
theorem dX4_pullFar_17 : decode cX4_pullFar 17 = .ok (.iload_n 1, 1) := dk_27 (dk_at dksX4_pullFar_0 17 rfl rfl)
theorem dX4_pullFar_18 : decode cX4_pullFar 18 = .ok (.aload_n 0, 1) := dk_42 (dk_at dksX4_pullFar_0 18 rfl rfl)
theorem dX4_pullFar_19 : decode cX4_pullFar 19 = .ok (.getfield 26, 3) := dk_180 0 26 (dk_at dksX4_pullFar_0 19 rfl rfl)
theorem dX4_pullFar_22 : decode cX4_pullFar 22 = .ok (.iload 5, 2) := dk_21 5 (dk_at dksX4_pullFar_0 22 rfl rfl)
theorem dX4_pullFar_24 : decode cX4_pullFar 24 = .ok (.aaload, 1) := dk_50 (dk_at dksX4_pullFar_1 0 rfl rfl)
theorem dX4_pullFar_25 : decode cX4_pullFar 25 = .ok (.getfield 125, 3) := dk_180 0 125 (dk_at dksX4_pullFar_1 1 rfl rfl)
theorem dX4_pullFar_28 : decode cX4_pullFar 28 = .ok (.isub, 1) := dk_100 (dk_at dksX4_pullFar_1 4 rfl rfl)
theorem dX4_pullFar_29 : decode cX4_pullFar 29 = .ok (.i2d, 1) := dk_135 (dk_at dksX4_pullFar_1 5 rfl rfl)
theorem dX4_pullFar_30 : decode cX4_pullFar 30 = .ok (.dstore 6, 2) := dk_57 6 (dk_at dksX4_pullFar_1 6 rfl rfl)
theorem dX4_pullFar_32 : decode cX4_pullFar 32 = .ok (.dconst 0, 1) := dk_14 (dk_at dksX4_pullFar_1 8 rfl rfl)
theorem dX4_pullFar_33 : decode cX4_pullFar 33 = .ok (.dstore 8, 2) := dk_57 8 (dk_at dksX4_pullFar_1 9 rfl rfl)
theorem dX4_pullFar_35 : decode cX4_pullFar 35 = .ok (.dconst 1, 1) := dk_15 (dk_at dksX4_pullFar_1 11 rfl rfl)
theorem dX4_pullFar_36 : decode cX4_pullFar 36 = .ok (.dload 6, 2) := dk_24 6 (dk_at dksX4_pullFar_1 12 rfl rfl)
theorem dX4_pullFar_38 : decode cX4_pullFar 38 = .ok (.iconst 2, 1) := dk_5 (dk_at dksX4_pullFar_1 14 rfl rfl)
theorem dX4_pullFar_39 : decode cX4_pullFar 39 = .ok (.invokestatic 207, 3) := dk_184 0 207 (dk_at dksX4_pullFar_1 15 rfl rfl)
theorem dX4_pullFar_42 : decode cX4_pullFar 42 = .ok (.dstore 10, 2) := dk_57 10 (dk_at dksX4_pullFar_1 18 rfl rfl)
theorem dX4_pullFar_44 : decode cX4_pullFar 44 = .ok (.iconst 0, 1) := dk_3 (dk_at dksX4_pullFar_1 20 rfl rfl)
theorem dX4_pullFar_45 : decode cX4_pullFar 45 = .ok (.istore 12, 2) := dk_54 12 (dk_at dksX4_pullFar_1 21 rfl rfl)
theorem dX4_pullFar_47 : decode cX4_pullFar 47 = .ok (.iload 12, 2) := dk_21 12 (dk_at dksX4_pullFar_2 0 rfl rfl)
theorem dX4_pullFar_49 : decode cX4_pullFar 49 = .ok (.aload_n 0, 1) := dk_42 (dk_at dksX4_pullFar_2 2 rfl rfl)
theorem dX4_pullFar_50 : decode cX4_pullFar 50 = .ok (.getfield 61, 3) := dk_180 0 61 (dk_at dksX4_pullFar_2 3 rfl rfl)
theorem dX4_pullFar_53 : decode cX4_pullFar 53 = .ok (.if_icmp .gt 44, 3) := dk_163 0 44 (dk_at dksX4_pullFar_2 6 rfl rfl)
theorem dX4_pullFar_56 : decode cX4_pullFar 56 = .ok (.dload 8, 2) := dk_24 8 (dk_at dksX4_pullFar_2 9 rfl rfl)
theorem dX4_pullFar_58 : decode cX4_pullFar 58 = .ok (.iload 12, 2) := dk_21 12 (dk_at dksX4_pullFar_2 11 rfl rfl)
theorem dX4_pullFar_60 : decode cX4_pullFar 60 = .ok (.iconst 1, 1) := dk_4 (dk_at dksX4_pullFar_2 13 rfl rfl)
theorem dX4_pullFar_61 : decode cX4_pullFar 61 = .ok (.iadd, 1) := dk_96 (dk_at dksX4_pullFar_2 14 rfl rfl)
theorem dX4_pullFar_62 : decode cX4_pullFar 62 = .ok (.i2l, 1) := dk_133 (dk_at dksX4_pullFar_2 15 rfl rfl)
theorem dX4_pullFar_63 : decode cX4_pullFar 63 = .ok (.aload_n 0, 1) := dk_42 (dk_at dksX4_pullFar_2 16 rfl rfl)
theorem dX4_pullFar_64 : decode cX4_pullFar 64 = .ok (.aload_n 0, 1) := dk_42 (dk_at dksX4_pullFar_2 17 rfl rfl)
theorem dX4_pullFar_65 : decode cX4_pullFar 65 = .ok (.getfield 26, 3) := dk_180 0 26 (dk_at dksX4_pullFar_2 18 rfl rfl)
theorem dX4_pullFar_68 : decode cX4_pullFar 68 = .ok (.iload 5, 2) := dk_21 5 (dk_at dksX4_pullFar_2 21 rfl rfl)
theorem dX4_pullFar_70 : decode cX4_pullFar 70 = .ok (.aaload, 1) := dk_50 (dk_at dksX4_pullFar_2 23 rfl rfl)
theorem dX4_pullFar_71 : decode cX4_pullFar 71 = .ok (.iload 12, 2) := dk_21 12 (dk_at dksX4_pullFar_3 0 rfl rfl)
theorem dX4_pullFar_73 : decode cX4_pullFar 73 = .ok (.invokevirtual 106, 3) := dk_182 0 106 (dk_at dksX4_pullFar_3 2 rfl rfl)
theorem dX4_pullFar_76 : decode cX4_pullFar 76 = .ok (.lmul, 1) := dk_105 (dk_at dksX4_pullFar_3 5 rfl rfl)
theorem dX4_pullFar_77 : decode cX4_pullFar 77 = .ok (.l2d, 1) := dk_138 (dk_at dksX4_pullFar_3 6 rfl rfl)
theorem dX4_pullFar_78 : decode cX4_pullFar 78 = .ok (.dload 10, 2) := dk_24 10 (dk_at dksX4_pullFar_3 7 rfl rfl)
theorem dX4_pullFar_80 : decode cX4_pullFar 80 = .ok (.ddiv, 1) := dk_111 (dk_at dksX4_pullFar_3 9 rfl rfl)
theorem dX4_pullFar_81 : decode cX4_pullFar 81 = .ok (.dadd, 1) := dk_99 (dk_at dksX4_pullFar_3 10 rfl rfl)
theorem dX4_pullFar_82 : decode cX4_pullFar 82 = .ok (.dstore 8, 2) := dk_57 8 (dk_at dksX4_pullFar_3 11 rfl rfl)
theorem dX4_pullFar_84 : decode cX4_pullFar 84 = .ok (.dload 10, 2) := dk_24 10 (dk_at dksX4_pullFar_3 13 rfl rfl)
theorem dX4_pullFar_86 : decode cX4_pullFar 86 = .ok (.dload 6, 2) := dk_24 6 (dk_at dksX4_pullFar_3 15 rfl rfl)
theorem dX4_pullFar_88 : decode cX4_pullFar 88 = .ok (.dmul, 1) := dk_107 (dk_at dksX4_pullFar_3 17 rfl rfl)
theorem dX4_pullFar_89 : decode cX4_pullFar 89 = .ok (.dstore 10, 2) := dk_57 10 (dk_at dksX4_pullFar_3 18 rfl rfl)
theorem dX4_pullFar_91 : decode cX4_pullFar 91 = .ok (.iinc 12 1, 3) := dk_132 12 1 (dk_at dksX4_pullFar_3 20 rfl rfl)
theorem dX4_pullFar_94 : decode cX4_pullFar 94 = .ok (.goto (-47), 3) := dk_167 255 209 (dk_at dksX4_pullFar_4 0 rfl rfl)
theorem dX4_pullFar_97 : decode cX4_pullFar 97 = .ok (.dload 6, 2) := dk_24 6 (dk_at dksX4_pullFar_4 3 rfl rfl)
theorem dX4_pullFar_99 : decode cX4_pullFar 99 = .ok (.dconst 0, 1) := dk_14 (dk_at dksX4_pullFar_4 5 rfl rfl)
theorem dX4_pullFar_100 : decode cX4_pullFar 100 = .ok (.dcmp .l, 1) := dk_151 (dk_at dksX4_pullFar_4 6 rfl rfl)
theorem dX4_pullFar_101 : decode cX4_pullFar 101 = .ok (.ifCond .le 10, 3) := dk_158 0 10 (dk_at dksX4_pullFar_4 7 rfl rfl)
theorem dX4_pullFar_104 : decode cX4_pullFar 104 = .ok (.dload_n 3, 1) := dk_41 (dk_at dksX4_pullFar_4 10 rfl rfl)
theorem dX4_pullFar_105 : decode cX4_pullFar 105 = .ok (.dload 8, 2) := dk_24 8 (dk_at dksX4_pullFar_4 11 rfl rfl)
theorem dX4_pullFar_107 : decode cX4_pullFar 107 = .ok (.dsub, 1) := dk_103 (dk_at dksX4_pullFar_4 13 rfl rfl)
theorem dX4_pullFar_108 : decode cX4_pullFar 108 = .ok (.goto 7, 3) := dk_167 0 7 (dk_at dksX4_pullFar_4 14 rfl rfl)
theorem dX4_pullFar_111 : decode cX4_pullFar 111 = .ok (.dload_n 3, 1) := dk_41 (dk_at dksX4_pullFar_4 17 rfl rfl)
theorem dX4_pullFar_112 : decode cX4_pullFar 112 = .ok (.dload 8, 2) := dk_24 8 (dk_at dksX4_pullFar_4 18 rfl rfl)
theorem dX4_pullFar_114 : decode cX4_pullFar 114 = .ok (.dadd, 1) := dk_99 (dk_at dksX4_pullFar_4 20 rfl rfl)
theorem dX4_pullFar_115 : decode cX4_pullFar 115 = .ok (.dstore_n 3, 1) := dk_74 (dk_at dksX4_pullFar_4 21 rfl rfl)
theorem dX4_pullFar_116 : decode cX4_pullFar 116 = .ok (.iinc 5 1, 3) := dk_132 5 1 (dk_at dksX4_pullFar_5 0 rfl rfl)
theorem dX4_pullFar_119 : decode cX4_pullFar 119 = .ok (.goto (-108), 3) := dk_167 255 148 (dk_at dksX4_pullFar_5 3 rfl rfl)
theorem dX4_pullFar_122 : decode cX4_pullFar 122 = .ok (.dload_n 3, 1) := dk_41 (dk_at dksX4_pullFar_5 6 rfl rfl)
theorem dX4_pullFar_123 : decode cX4_pullFar 123 = .ok (.dreturn, 1) := dk_175 (dk_at dksX4_pullFar_5 7 rfl rfl)
abbrev cX1_pullFar : ByteArray := prog_1_method_54_code
def yX1_pullFar : MethodName := ⟨RX1, "pullFar", "(I)D"⟩
def dkwX1_pullFar_0 : List UInt8 := [42, 27, 182, 0, 193, 27, 182, 1, 81, 175]
abbrev dktX1_pullFar_0 : List UInt8 := dkwX1_pullFar_0 ++ []
theorem dksX1_pullFar_0 : cX1_pullFar.data.toList.drop 0 = dktX1_pullFar_0 := by decide +kernel
theorem dX1_pullFar_0 : decode cX1_pullFar 0 = .ok (.aload_n 0, 1) := dk_42 (dk_at dksX1_pullFar_0 0 rfl rfl)
theorem dX1_pullFar_1 : decode cX1_pullFar 1 = .ok (.iload_n 1, 1) := dk_27 (dk_at dksX1_pullFar_0 1 rfl rfl)
theorem dX1_pullFar_2 : decode cX1_pullFar 2 = .ok (.invokevirtual 193, 3) := dk_182 0 193 (dk_at dksX1_pullFar_0 2 rfl rfl)
theorem dX1_pullFar_5 : decode cX1_pullFar 5 = .ok (.iload_n 1, 1) := dk_27 (dk_at dksX1_pullFar_0 5 rfl rfl)
theorem dX1_pullFar_6 : decode cX1_pullFar 6 = .ok (.invokevirtual 337, 3) := dk_182 1 81 (dk_at dksX1_pullFar_0 6 rfl rfl)
theorem dX1_pullFar_9 : decode cX1_pullFar 9 = .ok (.dreturn, 1) := dk_175 (dk_at dksX1_pullFar_0 9 rfl rfl)
abbrev cX4_pull_2 : ByteArray := prog_7_method_39_code
def yX4_pull_2 : MethodName := ⟨RX4, "pull", "(I)D"⟩
def dkwX4_pull_2_0 : List UInt8 := [42, 27, 4, 182, 0, 247, 42, 27, 182, 0, 250, 99, 175]
abbrev dktX4_pull_2_0 : List UInt8 := dkwX4_pull_2_0 ++ []
theorem dksX4_pull_2_0 : cX4_pull_2.data.toList.drop 0 = dktX4_pull_2_0 := by decide +kernel
theorem dX4_pull_2_0 : decode cX4_pull_2 0 = .ok (.aload_n 0, 1) := dk_42 (dk_at dksX4_pull_2_0 0 rfl rfl)
theorem dX4_pull_2_1 : decode cX4_pull_2 1 = .ok (.iload_n 1, 1) := dk_27 (dk_at dksX4_pull_2_0 1 rfl rfl)
theorem dX4_pull_2_2 : decode cX4_pull_2 2 = .ok (.iconst 1, 1) := dk_4 (dk_at dksX4_pull_2_0 2 rfl rfl)
theorem dX4_pull_2_3 : decode cX4_pull_2 3 = .ok (.invokevirtual 247, 3) := dk_182 0 247 (dk_at dksX4_pull_2_0 3 rfl rfl)
theorem dX4_pull_2_6 : decode cX4_pull_2 6 = .ok (.aload_n 0, 1) := dk_42 (dk_at dksX4_pull_2_0 6 rfl rfl)
theorem dX4_pull_2_7 : decode cX4_pull_2 7 = .ok (.iload_n 1, 1) := dk_27 (dk_at dksX4_pull_2_0 7 rfl rfl)
theorem dX4_pull_2_8 : decode cX4_pull_2 8 = .ok (.invokevirtual 250, 3) := dk_182 0 250 (dk_at dksX4_pull_2_0 8 rfl rfl)
theorem dX4_pull_2_11 : decode cX4_pull_2 11 = .ok (.dadd, 1) := dk_99 (dk_at dksX4_pull_2_0 11 rfl rfl)
theorem dX4_pull_2_12 : decode cX4_pull_2 12 = .ok (.dreturn, 1) := dk_175 (dk_at dksX4_pull_2_0 12 rfl rfl)
abbrev cX1_pull : ByteArray := prog_1_method_55_code
def yX1_pull : MethodName := ⟨RX1, "pull", "(I)D"⟩
def dkwX1_pull_0 : List UInt8 := [42, 27, 182, 0, 193, 27, 182, 1, 84, 175]
abbrev dktX1_pull_0 : List UInt8 := dkwX1_pull_0 ++ []
theorem dksX1_pull_0 : cX1_pull.data.toList.drop 0 = dktX1_pull_0 := by decide +kernel
theorem dX1_pull_0 : decode cX1_pull 0 = .ok (.aload_n 0, 1) := dk_42 (dk_at dksX1_pull_0 0 rfl rfl)
theorem dX1_pull_1 : decode cX1_pull 1 = .ok (.iload_n 1, 1) := dk_27 (dk_at dksX1_pull_0 1 rfl rfl)
theorem dX1_pull_2 : decode cX1_pull 2 = .ok (.invokevirtual 193, 3) := dk_182 0 193 (dk_at dksX1_pull_0 2 rfl rfl)
theorem dX1_pull_5 : decode cX1_pull 5 = .ok (.iload_n 1, 1) := dk_27 (dk_at dksX1_pull_0 5 rfl rfl)
theorem dX1_pull_6 : decode cX1_pull 6 = .ok (.invokevirtual 340, 3) := dk_182 1 84 (dk_at dksX1_pull_0 6 rfl rfl)
theorem dX1_pull_9 : decode cX1_pull 9 = .ok (.dreturn, 1) := dk_175 (dk_at dksX1_pull_0 9 rfl rfl)
abbrev cX4_goes : ByteArray := prog_7_method_40_code
def yX4_goes : MethodName := ⟨RX4, "goes", "(LMultipoleLine$Body;)I"⟩
def dkwX4_goes_3 : List UInt8 := [4, 167, 0, 4, 3, 184, 0, 82, 116, 167, 0, 4, 3, 172]
abbrev dktX4_goes_3 : List UInt8 := dkwX4_goes_3 ++ []
def dkwX4_goes_2 : List UInt8 := [167, 0, 4, 3, 184, 0, 82, 172, 40, 14, 24, 4, 103, 152, 156, 0, 22, 43, 180, 0, 86, 158, 0, 7]
abbrev dktX4_goes_2 : List UInt8 := dkwX4_goes_2 ++ dktX4_goes_3
def dkwX4_goes_1 : List UInt8 := [20, 0, 255, 111, 57, 4, 40, 24, 4, 151, 158, 0, 22, 43, 180, 0, 86, 17, 0, 255, 162, 0, 7, 4]
abbrev dktX4_goes_1 : List UInt8 := dkwX4_goes_1 ++ dktX4_goes_2
def dkwX4_goes_0 : List UInt8 := [43, 180, 0, 78, 154, 0, 5, 3, 172, 42, 43, 180, 0, 86, 182, 0, 253, 73, 42, 180, 0, 64, 135]
abbrev dktX4_goes_0 : List UInt8 := dkwX4_goes_0 ++ dktX4_goes_1
theorem dksX4_goes_0 : cX4_goes.data.toList.drop 0 = dktX4_goes_0 := by decide +kernel
theorem dksX4_goes_1 : cX4_goes.data.toList.drop 23 = dktX4_goes_1 := dk_seg dksX4_goes_0 23 rfl rfl
theorem dksX4_goes_2 : cX4_goes.data.toList.drop 47 = dktX4_goes_2 := dk_seg dksX4_goes_1 24 rfl rfl
theorem dksX4_goes_3 : cX4_goes.data.toList.drop 71 = dktX4_goes_3 := dk_seg dksX4_goes_2 24 rfl rfl
theorem dX4_goes_0 : decode cX4_goes 0 = .ok (.aload_n 1, 1) := dk_43 (dk_at dksX4_goes_0 0 rfl rfl)
theorem dX4_goes_1 : decode cX4_goes 1 = .ok (.getfield 78, 3) := dk_180 0 78 (dk_at dksX4_goes_0 1 rfl rfl)
theorem dX4_goes_4 : decode cX4_goes 4 = .ok (.ifCond .ne 5, 3) := dk_154 0 5 (dk_at dksX4_goes_0 4 rfl rfl)
theorem dX4_goes_7 : decode cX4_goes 7 = .ok (.iconst 0, 1) := dk_3 (dk_at dksX4_goes_0 7 rfl rfl)
theorem dX4_goes_8 : decode cX4_goes 8 = .ok (.ireturn, 1) := dk_172 (dk_at dksX4_goes_0 8 rfl rfl)
theorem dX4_goes_9 : decode cX4_goes 9 = .ok (.aload_n 0, 1) := dk_42 (dk_at dksX4_goes_0 9 rfl rfl)
theorem dX4_goes_10 : decode cX4_goes 10 = .ok (.aload_n 1, 1) := dk_43 (dk_at dksX4_goes_0 10 rfl rfl)
theorem dX4_goes_11 : decode cX4_goes 11 = .ok (.getfield 86, 3) := dk_180 0 86 (dk_at dksX4_goes_0 11 rfl rfl)
theorem dX4_goes_14 : decode cX4_goes 14 = .ok (.invokevirtual 253, 3) := dk_182 0 253 (dk_at dksX4_goes_0 14 rfl rfl)
theorem dX4_goes_17 : decode cX4_goes 17 = .ok (.dstore_n 2, 1) := dk_73 (dk_at dksX4_goes_0 17 rfl rfl)
theorem dX4_goes_18 : decode cX4_goes 18 = .ok (.aload_n 0, 1) := dk_42 (dk_at dksX4_goes_0 18 rfl rfl)
theorem dX4_goes_19 : decode cX4_goes 19 = .ok (.getfield 64, 3) := dk_180 0 64 (dk_at dksX4_goes_0 19 rfl rfl)
theorem dX4_goes_22 : decode cX4_goes 22 = .ok (.i2d, 1) := dk_135 (dk_at dksX4_goes_0 22 rfl rfl)
theorem dX4_goes_23 : decode cX4_goes 23 = .ok (.ldc2_w 255, 3) := dk_20 0 255 (dk_at dksX4_goes_1 0 rfl rfl)
theorem dX4_goes_26 : decode cX4_goes 26 = .ok (.ddiv, 1) := dk_111 (dk_at dksX4_goes_1 3 rfl rfl)
theorem dX4_goes_27 : decode cX4_goes 27 = .ok (.dstore 4, 2) := dk_57 4 (dk_at dksX4_goes_1 4 rfl rfl)
theorem dX4_goes_29 : decode cX4_goes 29 = .ok (.dload_n 2, 1) := dk_40 (dk_at dksX4_goes_1 6 rfl rfl)
theorem dX4_goes_30 : decode cX4_goes 30 = .ok (.dload 4, 2) := dk_24 4 (dk_at dksX4_goes_1 7 rfl rfl)
theorem dX4_goes_32 : decode cX4_goes 32 = .ok (.dcmp .l, 1) := dk_151 (dk_at dksX4_goes_1 9 rfl rfl)
theorem dX4_goes_33 : decode cX4_goes 33 = .ok (.ifCond .le 22, 3) := dk_158 0 22 (dk_at dksX4_goes_1 10 rfl rfl)
theorem dX4_goes_36 : decode cX4_goes 36 = .ok (.aload_n 1, 1) := dk_43 (dk_at dksX4_goes_1 13 rfl rfl)
theorem dX4_goes_37 : decode cX4_goes 37 = .ok (.getfield 86, 3) := dk_180 0 86 (dk_at dksX4_goes_1 14 rfl rfl)
theorem dX4_goes_40 : decode cX4_goes 40 = .ok (.sipush 255, 3) := dk_17 0 255 (dk_at dksX4_goes_1 17 rfl rfl)
theorem dX4_goes_43 : decode cX4_goes 43 = .ok (.if_icmp .ge 7, 3) := dk_162 0 7 (dk_at dksX4_goes_1 20 rfl rfl)
theorem dX4_goes_46 : decode cX4_goes 46 = .ok (.iconst 1, 1) := dk_4 (dk_at dksX4_goes_1 23 rfl rfl)
theorem dX4_goes_47 : decode cX4_goes 47 = .ok (.goto 4, 3) := dk_167 0 4 (dk_at dksX4_goes_2 0 rfl rfl)
theorem dX4_goes_50 : decode cX4_goes 50 = .ok (.iconst 0, 1) := dk_3 (dk_at dksX4_goes_2 3 rfl rfl)
theorem dX4_goes_51 : decode cX4_goes 51 = .ok (.invokestatic 82, 3) := dk_184 0 82 (dk_at dksX4_goes_2 4 rfl rfl)
theorem dX4_goes_54 : decode cX4_goes 54 = .ok (.ireturn, 1) := dk_172 (dk_at dksX4_goes_2 7 rfl rfl)
theorem dX4_goes_55 : decode cX4_goes 55 = .ok (.dload_n 2, 1) := dk_40 (dk_at dksX4_goes_2 8 rfl rfl)
theorem dX4_goes_56 : decode cX4_goes 56 = .ok (.dconst 0, 1) := dk_14 (dk_at dksX4_goes_2 9 rfl rfl)
theorem dX4_goes_57 : decode cX4_goes 57 = .ok (.dload 4, 2) := dk_24 4 (dk_at dksX4_goes_2 10 rfl rfl)
theorem dX4_goes_59 : decode cX4_goes 59 = .ok (.dsub, 1) := dk_103 (dk_at dksX4_goes_2 12 rfl rfl)
theorem dX4_goes_60 : decode cX4_goes 60 = .ok (.dcmp .g, 1) := dk_152 (dk_at dksX4_goes_2 13 rfl rfl)
theorem dX4_goes_61 : decode cX4_goes 61 = .ok (.ifCond .ge 22, 3) := dk_156 0 22 (dk_at dksX4_goes_2 14 rfl rfl)
theorem dX4_goes_64 : decode cX4_goes 64 = .ok (.aload_n 1, 1) := dk_43 (dk_at dksX4_goes_2 17 rfl rfl)
theorem dX4_goes_65 : decode cX4_goes 65 = .ok (.getfield 86, 3) := dk_180 0 86 (dk_at dksX4_goes_2 18 rfl rfl)
theorem dX4_goes_68 : decode cX4_goes 68 = .ok (.ifCond .le 7, 3) := dk_158 0 7 (dk_at dksX4_goes_2 21 rfl rfl)
theorem dX4_goes_71 : decode cX4_goes 71 = .ok (.iconst 1, 1) := dk_4 (dk_at dksX4_goes_3 0 rfl rfl)
theorem dX4_goes_72 : decode cX4_goes 72 = .ok (.goto 4, 3) := dk_167 0 4 (dk_at dksX4_goes_3 1 rfl rfl)
theorem dX4_goes_75 : decode cX4_goes 75 = .ok (.iconst 0, 1) := dk_3 (dk_at dksX4_goes_3 4 rfl rfl)
theorem dX4_goes_76 : decode cX4_goes 76 = .ok (.invokestatic 82, 3) := dk_184 0 82 (dk_at dksX4_goes_3 5 rfl rfl)
theorem dX4_goes_79 : decode cX4_goes 79 = .ok (.ineg, 1) := dk_116 (dk_at dksX4_goes_3 8 rfl rfl)
theorem dX4_goes_80 : decode cX4_goes 80 = .ok (.goto 4, 3) := dk_167 0 4 (dk_at dksX4_goes_3 9 rfl rfl)
theorem dX4_goes_83 : decode cX4_goes 83 = .ok (.iconst 0, 1) := dk_3 (dk_at dksX4_goes_3 12 rfl rfl)
theorem dX4_goes_84 : decode cX4_goes 84 = .ok (.ireturn, 1) := dk_172 (dk_at dksX4_goes_3 13 rfl rfl)
abbrev cX1_willMove : ByteArray := prog_1_method_56_code
def yX1_willMove : MethodName := ⟨RX1, "willMove", "(I)I"⟩
def dkwX1_willMove_0 : List UInt8 := [42, 27, 182, 0, 174, 77, 42, 180, 0, 68, 44, 182, 1, 86, 172]
abbrev dktX1_willMove_0 : List UInt8 := dkwX1_willMove_0 ++ []
theorem dksX1_willMove_0 : cX1_willMove.data.toList.drop 0 = dktX1_willMove_0 := by decide +kernel
theorem dX1_willMove_0 : decode cX1_willMove 0 = .ok (.aload_n 0, 1) := dk_42 (dk_at dksX1_willMove_0 0 rfl rfl)
theorem dX1_willMove_1 : decode cX1_willMove 1 = .ok (.iload_n 1, 1) := dk_27 (dk_at dksX1_willMove_0 1 rfl rfl)
theorem dX1_willMove_2 : decode cX1_willMove 2 = .ok (.invokevirtual 174, 3) := dk_182 0 174 (dk_at dksX1_willMove_0 2 rfl rfl)
theorem dX1_willMove_5 : decode cX1_willMove 5 = .ok (.astore_n 2, 1) := dk_77 (dk_at dksX1_willMove_0 5 rfl rfl)
theorem dX1_willMove_6 : decode cX1_willMove 6 = .ok (.aload_n 0, 1) := dk_42 (dk_at dksX1_willMove_0 6 rfl rfl)
theorem dX1_willMove_7 : decode cX1_willMove 7 = .ok (.getfield 68, 3) := dk_180 0 68 (dk_at dksX1_willMove_0 7 rfl rfl)
theorem dX1_willMove_10 : decode cX1_willMove 10 = .ok (.aload_n 2, 1) := dk_44 (dk_at dksX1_willMove_0 10 rfl rfl)
theorem dX1_willMove_11 : decode cX1_willMove 11 = .ok (.invokevirtual 342, 3) := dk_182 1 86 (dk_at dksX1_willMove_0 11 rfl rfl)
theorem dX1_willMove_14 : decode cX1_willMove 14 = .ok (.ireturn, 1) := dk_172 (dk_at dksX1_willMove_0 14 rfl rfl)
abbrev cX1_checkSteps : ByteArray := prog_1_method_17_code
def yX1_checkSteps : MethodName := ⟨RX1, "checkSteps", "(II)V"⟩
def dkwX1_checkSteps_0 : List UInt8 := [26, 133, 27, 133, 20, 0, 108, 184, 0, 58, 184, 0, 98, 177]
abbrev dktX1_checkSteps_0 : List UInt8 := dkwX1_checkSteps_0 ++ []
theorem dksX1_checkSteps_0 : cX1_checkSteps.data.toList.drop 0 = dktX1_checkSteps_0 := by decide +kernel
theorem dX1_checkSteps_0 : decode cX1_checkSteps 0 = .ok (.iload_n 0, 1) := dk_26 (dk_at dksX1_checkSteps_0 0 rfl rfl)
theorem dX1_checkSteps_1 : decode cX1_checkSteps 1 = .ok (.i2l, 1) := dk_133 (dk_at dksX1_checkSteps_0 1 rfl rfl)
theorem dX1_checkSteps_2 : decode cX1_checkSteps 2 = .ok (.iload_n 1, 1) := dk_27 (dk_at dksX1_checkSteps_0 2 rfl rfl)
theorem dX1_checkSteps_3 : decode cX1_checkSteps 3 = .ok (.i2l, 1) := dk_133 (dk_at dksX1_checkSteps_0 3 rfl rfl)
theorem dX1_checkSteps_4 : decode cX1_checkSteps 4 = .ok (.ldc2_w 108, 3) := dk_20 0 108 (dk_at dksX1_checkSteps_0 4 rfl rfl)
theorem dX1_checkSteps_7 : decode cX1_checkSteps 7 = .ok (.invokestatic 58, 3) := dk_184 0 58 (dk_at dksX1_checkSteps_0 7 rfl rfl)
theorem dX1_checkSteps_10 : decode cX1_checkSteps 10 = .ok (.invokestatic 98, 3) := dk_184 0 98 (dk_at dksX1_checkSteps_0 10 rfl rfl)
theorem dX1_checkSteps_13 : decode cX1_checkSteps 13 = .ok (.return_, 1) := dk_177 (dk_at dksX1_checkSteps_0 13 rfl rfl)
abbrev cX8_same : ByteArray := prog_4_method_2_code
def yX8_same : MethodName := ⟨RX8, "same", "()LMultipoleLine$Body;"⟩
def dkwX8_same_0 : List UInt8 := [187, 0, 7, 89, 183, 0, 9, 176]
abbrev dktX8_same_0 : List UInt8 := dkwX8_same_0 ++ []
theorem dksX8_same_0 : cX8_same.data.toList.drop 0 = dktX8_same_0 := by decide +kernel
theorem dX8_same_0 : decode cX8_same 0 = .ok (.new 7, 3) := dk_187 0 7 (dk_at dksX8_same_0 0 rfl rfl)
theorem dX8_same_3 : decode cX8_same 3 = .ok (.dup, 1) := dk_89 (dk_at dksX8_same_0 3 rfl rfl)
theorem dX8_same_4 : decode cX8_same 4 = .ok (.invokespecial 9, 3) := dk_183 0 9 (dk_at dksX8_same_0 4 rfl rfl)
theorem dX8_same_7 : decode cX8_same 7 = .ok (.areturn, 1) := dk_176 (dk_at dksX8_same_0 7 rfl rfl)
abbrev cX9_same : ByteArray := prog_6_method_2_code
def yX9_same : MethodName := ⟨RX9, "same", "()LMultipoleLine$Body;"⟩
def dkwX9_same_0 : List UInt8 := [187, 0, 7, 89, 183, 0, 9, 176]
abbrev dktX9_same_0 : List UInt8 := dkwX9_same_0 ++ []
theorem dksX9_same_0 : cX9_same.data.toList.drop 0 = dktX9_same_0 := by decide +kernel
theorem dX9_same_0 : decode cX9_same 0 = .ok (.new 7, 3) := dk_187 0 7 (dk_at dksX9_same_0 0 rfl rfl)
theorem dX9_same_3 : decode cX9_same 3 = .ok (.dup, 1) := dk_89 (dk_at dksX9_same_0 3 rfl rfl)
theorem dX9_same_4 : decode cX9_same 4 = .ok (.invokespecial 9, 3) := dk_183 0 9 (dk_at dksX9_same_0 4 rfl rfl)
theorem dX9_same_7 : decode cX9_same 7 = .ok (.areturn, 1) := dk_176 (dk_at dksX9_same_0 7 rfl rfl)
abbrev cX7_copy : ByteArray := prog_2_method_5_code
def yX7_copy : MethodName := ⟨RX7, "copy", "()LMultipoleLine$Body;"⟩
def dkwX7_copy_1 : List UInt8 := [180, 0, 27, 181, 0, 27, 43, 176]
abbrev dktX7_copy_1 : List UInt8 := dkwX7_copy_1 ++ []
def dkwX7_copy_0 : List UInt8 := [42, 182, 0, 19, 42, 180, 0, 7, 42, 180, 0, 13, 42, 180, 0, 16, 182, 0, 23, 76, 43, 42]
abbrev dktX7_copy_0 : List UInt8 := dkwX7_copy_0 ++ dktX7_copy_1
theorem dksX7_copy_0 : cX7_copy.data.toList.drop 0 = dktX7_copy_0 := by decide +kernel
theorem dksX7_copy_1 : cX7_copy.data.toList.drop 22 = dktX7_copy_1 := dk_seg dksX7_copy_0 22 rfl rfl
theorem dX7_copy_0 : decode cX7_copy 0 = .ok (.aload_n 0, 1) := dk_42 (dk_at dksX7_copy_0 0 rfl rfl)
theorem dX7_copy_1 : decode cX7_copy 1 = .ok (.invokevirtual 19, 3) := dk_182 0 19 (dk_at dksX7_copy_0 1 rfl rfl)
theorem dX7_copy_4 : decode cX7_copy 4 = .ok (.aload_n 0, 1) := dk_42 (dk_at dksX7_copy_0 4 rfl rfl)
theorem dX7_copy_5 : decode cX7_copy 5 = .ok (.getfield 7, 3) := dk_180 0 7 (dk_at dksX7_copy_0 5 rfl rfl)
theorem dX7_copy_8 : decode cX7_copy 8 = .ok (.aload_n 0, 1) := dk_42 (dk_at dksX7_copy_0 8 rfl rfl)
theorem dX7_copy_9 : decode cX7_copy 9 = .ok (.getfield 13, 3) := dk_180 0 13 (dk_at dksX7_copy_0 9 rfl rfl)
theorem dX7_copy_12 : decode cX7_copy 12 = .ok (.aload_n 0, 1) := dk_42 (dk_at dksX7_copy_0 12 rfl rfl)
theorem dX7_copy_13 : decode cX7_copy 13 = .ok (.getfield 16, 3) := dk_180 0 16 (dk_at dksX7_copy_0 13 rfl rfl)
theorem dX7_copy_16 : decode cX7_copy 16 = .ok (.invokevirtual 23, 3) := dk_182 0 23 (dk_at dksX7_copy_0 16 rfl rfl)
theorem dX7_copy_19 : decode cX7_copy 19 = .ok (.astore_n 1, 1) := dk_76 (dk_at dksX7_copy_0 19 rfl rfl)
theorem dX7_copy_20 : decode cX7_copy 20 = .ok (.aload_n 1, 1) := dk_43 (dk_at dksX7_copy_0 20 rfl rfl)
theorem dX7_copy_21 : decode cX7_copy 21 = .ok (.aload_n 0, 1) := dk_42 (dk_at dksX7_copy_0 21 rfl rfl)
theorem dX7_copy_22 : decode cX7_copy 22 = .ok (.getfield 27, 3) := dk_180 0 27 (dk_at dksX7_copy_1 0 rfl rfl)
theorem dX7_copy_25 : decode cX7_copy 25 = .ok (.putfield 27, 3) := dk_181 0 27 (dk_at dksX7_copy_1 3 rfl rfl)
theorem dX7_copy_28 : decode cX7_copy 28 = .ok (.aload_n 1, 1) := dk_43 (dk_at dksX7_copy_1 6 rfl rfl)
theorem dX7_copy_29 : decode cX7_copy 29 = .ok (.areturn, 1) := dk_176 (dk_at dksX7_copy_1 7 rfl rfl)
abbrev cX4_copy : ByteArray := prog_7_method_2_code
def yX4_copy : MethodName := ⟨RX4, "copy", "()LMultipoleLine$Line;"⟩
def dkwX4_copy_3 : List UInt8 := [181, 0, 67, 43, 42, 180, 0, 70, 181, 0, 70, 43, 176]
abbrev dktX4_copy_3 : List UInt8 := dkwX4_copy_3 ++ []
def dkwX4_copy_2 : List UInt8 := [181, 0, 57, 43, 42, 180, 0, 61, 181, 0, 61, 43, 42, 180, 0, 64, 181, 0, 64, 43, 42, 180, 0, 67]
abbrev dktX4_copy_2 : List UInt8 := dkwX4_copy_2 ++ dktX4_copy_3
def dkwX4_copy_1 : List UInt8 := [182, 0, 41, 182, 0, 45, 185, 0, 51, 2, 0, 87, 132, 2, 1, 167, 255, 227, 43, 42, 180, 0, 57]
abbrev dktX4_copy_1 : List UInt8 := dkwX4_copy_1 ++ dktX4_copy_2
def dkwX4_copy_0 : List UInt8 := [187, 0, 13, 89, 183, 0, 36, 76, 3, 61, 28, 42, 182, 0, 37, 162, 0, 27, 43, 180, 0, 12, 42, 28]
abbrev dktX4_copy_0 : List UInt8 := dkwX4_copy_0 ++ dktX4_copy_1
theorem dksX4_copy_0 : cX4_copy.data.toList.drop 0 = dktX4_copy_0 := by decide +kernel
theorem dksX4_copy_1 : cX4_copy.data.toList.drop 24 = dktX4_copy_1 := dk_seg dksX4_copy_0 24 rfl rfl
theorem dksX4_copy_2 : cX4_copy.data.toList.drop 47 = dktX4_copy_2 := dk_seg dksX4_copy_1 23 rfl rfl
theorem dksX4_copy_3 : cX4_copy.data.toList.drop 71 = dktX4_copy_3 := dk_seg dksX4_copy_2 24 rfl rfl
theorem dX4_copy_0 : decode cX4_copy 0 = .ok (.new 13, 3) := dk_187 0 13 (dk_at dksX4_copy_0 0 rfl rfl)
theorem dX4_copy_3 : decode cX4_copy 3 = .ok (.dup, 1) := dk_89 (dk_at dksX4_copy_0 3 rfl rfl)
theorem dX4_copy_4 : decode cX4_copy 4 = .ok (.invokespecial 36, 3) := dk_183 0 36 (dk_at dksX4_copy_0 4 rfl rfl)
theorem dX4_copy_7 : decode cX4_copy 7 = .ok (.astore_n 1, 1) := dk_76 (dk_at dksX4_copy_0 7 rfl rfl)
theorem dX4_copy_8 : decode cX4_copy 8 = .ok (.iconst 0, 1) := dk_3 (dk_at dksX4_copy_0 8 rfl rfl)
theorem dX4_copy_9 : decode cX4_copy 9 = .ok (.istore_n 2, 1) := dk_61 (dk_at dksX4_copy_0 9 rfl rfl)
theorem dX4_copy_10 : decode cX4_copy 10 = .ok (.iload_n 2, 1) := dk_28 (dk_at dksX4_copy_0 10 rfl rfl)
theorem dX4_copy_11 : decode cX4_copy 11 = .ok (.aload_n 0, 1) := dk_42 (dk_at dksX4_copy_0 11 rfl rfl)
theorem dX4_copy_12 : decode cX4_copy 12 = .ok (.invokevirtual 37, 3) := dk_182 0 37 (dk_at dksX4_copy_0 12 rfl rfl)
theorem dX4_copy_15 : decode cX4_copy 15 = .ok (.if_icmp .ge 27, 3) := dk_162 0 27 (dk_at dksX4_copy_0 15 rfl rfl)
theorem dX4_copy_18 : decode cX4_copy 18 = .ok (.aload_n 1, 1) := dk_43 (dk_at dksX4_copy_0 18 rfl rfl)
theorem dX4_copy_19 : decode cX4_copy 19 = .ok (.getfield 12, 3) := dk_180 0 12 (dk_at dksX4_copy_0 19 rfl rfl)
theorem dX4_copy_22 : decode cX4_copy 22 = .ok (.aload_n 0, 1) := dk_42 (dk_at dksX4_copy_0 22 rfl rfl)
theorem dX4_copy_23 : decode cX4_copy 23 = .ok (.iload_n 2, 1) := dk_28 (dk_at dksX4_copy_0 23 rfl rfl)
theorem dX4_copy_24 : decode cX4_copy 24 = .ok (.invokevirtual 41, 3) := dk_182 0 41 (dk_at dksX4_copy_1 0 rfl rfl)
theorem dX4_copy_27 : decode cX4_copy 27 = .ok (.invokevirtual 45, 3) := dk_182 0 45 (dk_at dksX4_copy_1 3 rfl rfl)
theorem dX4_copy_30 : decode cX4_copy 30 = .ok (.invokeinterface 51 2, 5) := by decide +kernel
theorem dX4_copy_35 : decode cX4_copy 35 = .ok (.pop, 1) := dk_87 (dk_at dksX4_copy_1 11 rfl rfl)
theorem dX4_copy_36 : decode cX4_copy 36 = .ok (.iinc 2 1, 3) := dk_132 2 1 (dk_at dksX4_copy_1 12 rfl rfl)
theorem dX4_copy_39 : decode cX4_copy 39 = .ok (.goto (-29), 3) := dk_167 255 227 (dk_at dksX4_copy_1 15 rfl rfl)
theorem dX4_copy_42 : decode cX4_copy 42 = .ok (.aload_n 1, 1) := dk_43 (dk_at dksX4_copy_1 18 rfl rfl)
theorem dX4_copy_43 : decode cX4_copy 43 = .ok (.aload_n 0, 1) := dk_42 (dk_at dksX4_copy_1 19 rfl rfl)
theorem dX4_copy_44 : decode cX4_copy 44 = .ok (.getfield 57, 3) := dk_180 0 57 (dk_at dksX4_copy_1 20 rfl rfl)
theorem dX4_copy_47 : decode cX4_copy 47 = .ok (.putfield 57, 3) := dk_181 0 57 (dk_at dksX4_copy_2 0 rfl rfl)
theorem dX4_copy_50 : decode cX4_copy 50 = .ok (.aload_n 1, 1) := dk_43 (dk_at dksX4_copy_2 3 rfl rfl)
theorem dX4_copy_51 : decode cX4_copy 51 = .ok (.aload_n 0, 1) := dk_42 (dk_at dksX4_copy_2 4 rfl rfl)
theorem dX4_copy_52 : decode cX4_copy 52 = .ok (.getfield 61, 3) := dk_180 0 61 (dk_at dksX4_copy_2 5 rfl rfl)
theorem dX4_copy_55 : decode cX4_copy 55 = .ok (.putfield 61, 3) := dk_181 0 61 (dk_at dksX4_copy_2 8 rfl rfl)
theorem dX4_copy_58 : decode cX4_copy 58 = .ok (.aload_n 1, 1) := dk_43 (dk_at dksX4_copy_2 11 rfl rfl)
theorem dX4_copy_59 : decode cX4_copy 59 = .ok (.aload_n 0, 1) := dk_42 (dk_at dksX4_copy_2 12 rfl rfl)
theorem dX4_copy_60 : decode cX4_copy 60 = .ok (.getfield 64, 3) := dk_180 0 64 (dk_at dksX4_copy_2 13 rfl rfl)
theorem dX4_copy_63 : decode cX4_copy 63 = .ok (.putfield 64, 3) := dk_181 0 64 (dk_at dksX4_copy_2 16 rfl rfl)
theorem dX4_copy_66 : decode cX4_copy 66 = .ok (.aload_n 1, 1) := dk_43 (dk_at dksX4_copy_2 19 rfl rfl)
theorem dX4_copy_67 : decode cX4_copy 67 = .ok (.aload_n 0, 1) := dk_42 (dk_at dksX4_copy_2 20 rfl rfl)
theorem dX4_copy_68 : decode cX4_copy 68 = .ok (.getfield 67, 3) := dk_180 0 67 (dk_at dksX4_copy_2 21 rfl rfl)
theorem dX4_copy_71 : decode cX4_copy 71 = .ok (.putfield 67, 3) := dk_181 0 67 (dk_at dksX4_copy_3 0 rfl rfl)
theorem dX4_copy_74 : decode cX4_copy 74 = .ok (.aload_n 1, 1) := dk_43 (dk_at dksX4_copy_3 3 rfl rfl)
theorem dX4_copy_75 : decode cX4_copy 75 = .ok (.aload_n 0, 1) := dk_42 (dk_at dksX4_copy_3 4 rfl rfl)
theorem dX4_copy_76 : decode cX4_copy 76 = .ok (.getfield 70, 3) := dk_180 0 70 (dk_at dksX4_copy_3 5 rfl rfl)
theorem dX4_copy_79 : decode cX4_copy 79 = .ok (.putfield 70, 3) := dk_181 0 70 (dk_at dksX4_copy_3 8 rfl rfl)
theorem dX4_copy_82 : decode cX4_copy 82 = .ok (.aload_n 1, 1) := dk_43 (dk_at dksX4_copy_3 11 rfl rfl)
theorem dX4_copy_83 : decode cX4_copy 83 = .ok (.areturn, 1) := dk_176 (dk_at dksX4_copy_3 12 rfl rfl)
abbrev cX4_step : ByteArray := prog_7_method_41_code
def yX4_step : MethodName := ⟨RX4, "step", "()I"⟩
def dkwX4_step_5 : List UInt8 := [180, 0, 67, 4, 96, 181, 0, 67, 27, 172]
abbrev dktX4_step_5 : List UInt8 := dkwX4_step_5 ++ []
def dkwX4_step_4 : List UInt8 := [184, 0, 92, 96, 60, 132, 2, 1, 167, 255, 192, 42, 89, 180, 0, 70, 27, 96, 181, 0, 70, 42, 89]
abbrev dktX4_step_4 : List UInt8 := dkwX4_step_4 ++ dktX4_step_5
def dkwX4_step_3 : List UInt8 := [180, 1, 5, 42, 180, 0, 29, 28, 46, 184, 0, 92, 96, 181, 1, 5, 27, 42, 180, 0, 29, 28, 46]
abbrev dktX4_step_3 : List UInt8 := dkwX4_step_3 ++ dktX4_step_4
def dkwX4_step_2 : List UInt8 := [182, 0, 41, 89, 180, 0, 86, 42, 180, 0, 29, 28, 46, 96, 181, 0, 86, 42, 28, 182, 0, 41, 89]
abbrev dktX4_step_2 : List UInt8 := dkwX4_step_2 ++ dktX4_step_3
def dkwX4_step_1 : List UInt8 := [182, 1, 1, 79, 132, 2, 1, 167, 255, 230, 3, 61, 28, 42, 182, 0, 37, 162, 0, 62, 42, 28]
abbrev dktX4_step_1 : List UInt8 := dkwX4_step_1 ++ dktX4_step_2
def dkwX4_step_0 : List UInt8 := [3, 60, 3, 61, 28, 42, 182, 0, 37, 162, 0, 24, 42, 180, 0, 29, 28, 42, 42, 28, 182, 0, 41]
abbrev dktX4_step_0 : List UInt8 := dkwX4_step_0 ++ dktX4_step_1
theorem dksX4_step_0 : cX4_step.data.toList.drop 0 = dktX4_step_0 := by decide +kernel
theorem dksX4_step_1 : cX4_step.data.toList.drop 23 = dktX4_step_1 := dk_seg dksX4_step_0 23 rfl rfl
theorem dksX4_step_2 : cX4_step.data.toList.drop 45 = dktX4_step_2 := dk_seg dksX4_step_1 22 rfl rfl
theorem dksX4_step_3 : cX4_step.data.toList.drop 68 = dktX4_step_3 := dk_seg dksX4_step_2 23 rfl rfl
theorem dksX4_step_4 : cX4_step.data.toList.drop 91 = dktX4_step_4 := dk_seg dksX4_step_3 23 rfl rfl
theorem dksX4_step_5 : cX4_step.data.toList.drop 114 = dktX4_step_5 := dk_seg dksX4_step_4 23 rfl rfl
theorem dX4_step_0 : decode cX4_step 0 = .ok (.iconst 0, 1) := dk_3 (dk_at dksX4_step_0 0 rfl rfl)
theorem dX4_step_1 : decode cX4_step 1 = .ok (.istore_n 1, 1) := dk_60 (dk_at dksX4_step_0 1 rfl rfl)
theorem dX4_step_2 : decode cX4_step 2 = .ok (.iconst 0, 1) := dk_3 (dk_at dksX4_step_0 2 rfl rfl)
theorem dX4_step_3 : decode cX4_step 3 = .ok (.istore_n 2, 1) := dk_61 (dk_at dksX4_step_0 3 rfl rfl)
theorem dX4_step_4 : decode cX4_step 4 = .ok (.iload_n 2, 1) := dk_28 (dk_at dksX4_step_0 4 rfl rfl)
theorem dX4_step_5 : decode cX4_step 5 = .ok (.aload_n 0, 1) := dk_42 (dk_at dksX4_step_0 5 rfl rfl)
theorem dX4_step_6 : decode cX4_step 6 = .ok (.invokevirtual 37, 3) := dk_182 0 37 (dk_at dksX4_step_0 6 rfl rfl)
theorem dX4_step_9 : decode cX4_step 9 = .ok (.if_icmp .ge 24, 3) := dk_162 0 24 (dk_at dksX4_step_0 9 rfl rfl)
theorem dX4_step_12 : decode cX4_step 12 = .ok (.aload_n 0, 1) := dk_42 (dk_at dksX4_step_0 12 rfl rfl)
theorem dX4_step_13 : decode cX4_step 13 = .ok (.getfield 29, 3) := dk_180 0 29 (dk_at dksX4_step_0 13 rfl rfl)
theorem dX4_step_16 : decode cX4_step 16 = .ok (.iload_n 2, 1) := dk_28 (dk_at dksX4_step_0 16 rfl rfl)
theorem dX4_step_17 : decode cX4_step 17 = .ok (.aload_n 0, 1) := dk_42 (dk_at dksX4_step_0 17 rfl rfl)
theorem dX4_step_18 : decode cX4_step 18 = .ok (.aload_n 0, 1) := dk_42 (dk_at dksX4_step_0 18 rfl rfl)
theorem dX4_step_19 : decode cX4_step 19 = .ok (.iload_n 2, 1) := dk_28 (dk_at dksX4_step_0 19 rfl rfl)
theorem dX4_step_20 : decode cX4_step 20 = .ok (.invokevirtual 41, 3) := dk_182 0 41 (dk_at dksX4_step_0 20 rfl rfl)
theorem dX4_step_23 : decode cX4_step 23 = .ok (.invokevirtual 257, 3) := dk_182 1 1 (dk_at dksX4_step_1 0 rfl rfl)
theorem dX4_step_26 : decode cX4_step 26 = .ok (.iastore, 1) := dk_79 (dk_at dksX4_step_1 3 rfl rfl)
theorem dX4_step_27 : decode cX4_step 27 = .ok (.iinc 2 1, 3) := dk_132 2 1 (dk_at dksX4_step_1 4 rfl rfl)
theorem dX4_step_30 : decode cX4_step 30 = .ok (.goto (-26), 3) := dk_167 255 230 (dk_at dksX4_step_1 7 rfl rfl)
theorem dX4_step_33 : decode cX4_step 33 = .ok (.iconst 0, 1) := dk_3 (dk_at dksX4_step_1 10 rfl rfl)
theorem dX4_step_34 : decode cX4_step 34 = .ok (.istore_n 2, 1) := dk_61 (dk_at dksX4_step_1 11 rfl rfl)
theorem dX4_step_35 : decode cX4_step 35 = .ok (.iload_n 2, 1) := dk_28 (dk_at dksX4_step_1 12 rfl rfl)
theorem dX4_step_36 : decode cX4_step 36 = .ok (.aload_n 0, 1) := dk_42 (dk_at dksX4_step_1 13 rfl rfl)
theorem dX4_step_37 : decode cX4_step 37 = .ok (.invokevirtual 37, 3) := dk_182 0 37 (dk_at dksX4_step_1 14 rfl rfl)
theorem dX4_step_40 : decode cX4_step 40 = .ok (.if_icmp .ge 62, 3) := dk_162 0 62 (dk_at dksX4_step_1 17 rfl rfl)
theorem dX4_step_43 : decode cX4_step 43 = .ok (.aload_n 0, 1) := dk_42 (dk_at dksX4_step_1 20 rfl rfl)
theorem dX4_step_44 : decode cX4_step 44 = .ok (.iload_n 2, 1) := dk_28 (dk_at dksX4_step_1 21 rfl rfl)
theorem dX4_step_45 : decode cX4_step 45 = .ok (.invokevirtual 41, 3) := dk_182 0 41 (dk_at dksX4_step_2 0 rfl rfl)
theorem dX4_step_48 : decode cX4_step 48 = .ok (.dup, 1) := dk_89 (dk_at dksX4_step_2 3 rfl rfl)
theorem dX4_step_49 : decode cX4_step 49 = .ok (.getfield 86, 3) := dk_180 0 86 (dk_at dksX4_step_2 4 rfl rfl)
theorem dX4_step_52 : decode cX4_step 52 = .ok (.aload_n 0, 1) := dk_42 (dk_at dksX4_step_2 7 rfl rfl)
theorem dX4_step_53 : decode cX4_step 53 = .ok (.getfield 29, 3) := dk_180 0 29 (dk_at dksX4_step_2 8 rfl rfl)
theorem dX4_step_56 : decode cX4_step 56 = .ok (.iload_n 2, 1) := dk_28 (dk_at dksX4_step_2 11 rfl rfl)
theorem dX4_step_57 : decode cX4_step 57 = .ok (.iaload, 1) := dk_46 (dk_at dksX4_step_2 12 rfl rfl)
theorem dX4_step_58 : decode cX4_step 58 = .ok (.iadd, 1) := dk_96 (dk_at dksX4_step_2 13 rfl rfl)
theorem dX4_step_59 : decode cX4_step 59 = .ok (.putfield 86, 3) := dk_181 0 86 (dk_at dksX4_step_2 14 rfl rfl)
theorem dX4_step_62 : decode cX4_step 62 = .ok (.aload_n 0, 1) := dk_42 (dk_at dksX4_step_2 17 rfl rfl)
theorem dX4_step_63 : decode cX4_step 63 = .ok (.iload_n 2, 1) := dk_28 (dk_at dksX4_step_2 18 rfl rfl)
theorem dX4_step_64 : decode cX4_step 64 = .ok (.invokevirtual 41, 3) := dk_182 0 41 (dk_at dksX4_step_2 19 rfl rfl)
theorem dX4_step_67 : decode cX4_step 67 = .ok (.dup, 1) := dk_89 (dk_at dksX4_step_2 22 rfl rfl)
theorem dX4_step_68 : decode cX4_step 68 = .ok (.getfield 261, 3) := dk_180 1 5 (dk_at dksX4_step_3 0 rfl rfl)
theorem dX4_step_71 : decode cX4_step 71 = .ok (.aload_n 0, 1) := dk_42 (dk_at dksX4_step_3 3 rfl rfl)
theorem dX4_step_72 : decode cX4_step 72 = .ok (.getfield 29, 3) := dk_180 0 29 (dk_at dksX4_step_3 4 rfl rfl)
theorem dX4_step_75 : decode cX4_step 75 = .ok (.iload_n 2, 1) := dk_28 (dk_at dksX4_step_3 7 rfl rfl)
theorem dX4_step_76 : decode cX4_step 76 = .ok (.iaload, 1) := dk_46 (dk_at dksX4_step_3 8 rfl rfl)
theorem dX4_step_77 : decode cX4_step 77 = .ok (.invokestatic 92, 3) := dk_184 0 92 (dk_at dksX4_step_3 9 rfl rfl)
theorem dX4_step_80 : decode cX4_step 80 = .ok (.iadd, 1) := dk_96 (dk_at dksX4_step_3 12 rfl rfl)
theorem dX4_step_81 : decode cX4_step 81 = .ok (.putfield 261, 3) := dk_181 1 5 (dk_at dksX4_step_3 13 rfl rfl)
theorem dX4_step_84 : decode cX4_step 84 = .ok (.iload_n 1, 1) := dk_27 (dk_at dksX4_step_3 16 rfl rfl)
theorem dX4_step_85 : decode cX4_step 85 = .ok (.aload_n 0, 1) := dk_42 (dk_at dksX4_step_3 17 rfl rfl)
theorem dX4_step_86 : decode cX4_step 86 = .ok (.getfield 29, 3) := dk_180 0 29 (dk_at dksX4_step_3 18 rfl rfl)
theorem dX4_step_89 : decode cX4_step 89 = .ok (.iload_n 2, 1) := dk_28 (dk_at dksX4_step_3 21 rfl rfl)
theorem dX4_step_90 : decode cX4_step 90 = .ok (.iaload, 1) := dk_46 (dk_at dksX4_step_3 22 rfl rfl)
theorem dX4_step_91 : decode cX4_step 91 = .ok (.invokestatic 92, 3) := dk_184 0 92 (dk_at dksX4_step_4 0 rfl rfl)
theorem dX4_step_94 : decode cX4_step 94 = .ok (.iadd, 1) := dk_96 (dk_at dksX4_step_4 3 rfl rfl)
theorem dX4_step_95 : decode cX4_step 95 = .ok (.istore_n 1, 1) := dk_60 (dk_at dksX4_step_4 4 rfl rfl)
theorem dX4_step_96 : decode cX4_step 96 = .ok (.iinc 2 1, 3) := dk_132 2 1 (dk_at dksX4_step_4 5 rfl rfl)
theorem dX4_step_99 : decode cX4_step 99 = .ok (.goto (-64), 3) := dk_167 255 192 (dk_at dksX4_step_4 8 rfl rfl)
theorem dX4_step_102 : decode cX4_step 102 = .ok (.aload_n 0, 1) := dk_42 (dk_at dksX4_step_4 11 rfl rfl)
theorem dX4_step_103 : decode cX4_step 103 = .ok (.dup, 1) := dk_89 (dk_at dksX4_step_4 12 rfl rfl)
theorem dX4_step_104 : decode cX4_step 104 = .ok (.getfield 70, 3) := dk_180 0 70 (dk_at dksX4_step_4 13 rfl rfl)
theorem dX4_step_107 : decode cX4_step 107 = .ok (.iload_n 1, 1) := dk_27 (dk_at dksX4_step_4 16 rfl rfl)
theorem dX4_step_108 : decode cX4_step 108 = .ok (.iadd, 1) := dk_96 (dk_at dksX4_step_4 17 rfl rfl)
theorem dX4_step_109 : decode cX4_step 109 = .ok (.putfield 70, 3) := dk_181 0 70 (dk_at dksX4_step_4 18 rfl rfl)
theorem dX4_step_112 : decode cX4_step 112 = .ok (.aload_n 0, 1) := dk_42 (dk_at dksX4_step_4 21 rfl rfl)
theorem dX4_step_113 : decode cX4_step 113 = .ok (.dup, 1) := dk_89 (dk_at dksX4_step_4 22 rfl rfl)
theorem dX4_step_114 : decode cX4_step 114 = .ok (.getfield 67, 3) := dk_180 0 67 (dk_at dksX4_step_5 0 rfl rfl)
theorem dX4_step_117 : decode cX4_step 117 = .ok (.iconst 1, 1) := dk_4 (dk_at dksX4_step_5 3 rfl rfl)
theorem dX4_step_118 : decode cX4_step 118 = .ok (.iadd, 1) := dk_96 (dk_at dksX4_step_5 4 rfl rfl)
theorem dX4_step_119 : decode cX4_step 119 = .ok (.putfield 67, 3) := dk_181 0 67 (dk_at dksX4_step_5 5 rfl rfl)
theorem dX4_step_122 : decode cX4_step 122 = .ok (.iload_n 1, 1) := dk_27 (dk_at dksX4_step_5 8 rfl rfl)
theorem dX4_step_123 : decode cX4_step 123 = .ok (.ireturn, 1) := dk_172 (dk_at dksX4_step_5 9 rfl rfl)
abbrev cX4_steps : ByteArray := prog_7_method_42_code
def yX4_steps : MethodName := ⟨RX4, "steps", "(I)I"⟩
def dkwX4_steps_0 : List UInt8 := [3, 61, 3, 62, 29, 27, 162, 0, 16, 28, 42, 182, 1, 6, 96, 61, 132, 3, 1, 167, 255, 241, 28, 172]
abbrev dktX4_steps_0 : List UInt8 := dkwX4_steps_0 ++ []
theorem dksX4_steps_0 : cX4_steps.data.toList.drop 0 = dktX4_steps_0 := by decide +kernel
theorem dX4_steps_0 : decode cX4_steps 0 = .ok (.iconst 0, 1) := dk_3 (dk_at dksX4_steps_0 0 rfl rfl)
theorem dX4_steps_1 : decode cX4_steps 1 = .ok (.istore_n 2, 1) := dk_61 (dk_at dksX4_steps_0 1 rfl rfl)
theorem dX4_steps_2 : decode cX4_steps 2 = .ok (.iconst 0, 1) := dk_3 (dk_at dksX4_steps_0 2 rfl rfl)
theorem dX4_steps_3 : decode cX4_steps 3 = .ok (.istore_n 3, 1) := dk_62 (dk_at dksX4_steps_0 3 rfl rfl)
theorem dX4_steps_4 : decode cX4_steps 4 = .ok (.iload_n 3, 1) := dk_29 (dk_at dksX4_steps_0 4 rfl rfl)
theorem dX4_steps_5 : decode cX4_steps 5 = .ok (.iload_n 1, 1) := dk_27 (dk_at dksX4_steps_0 5 rfl rfl)
theorem dX4_steps_6 : decode cX4_steps 6 = .ok (.if_icmp .ge 16, 3) := dk_162 0 16 (dk_at dksX4_steps_0 6 rfl rfl)
theorem dX4_steps_9 : decode cX4_steps 9 = .ok (.iload_n 2, 1) := dk_28 (dk_at dksX4_steps_0 9 rfl rfl)
theorem dX4_steps_10 : decode cX4_steps 10 = .ok (.aload_n 0, 1) := dk_42 (dk_at dksX4_steps_0 10 rfl rfl)
theorem dX4_steps_11 : decode cX4_steps 11 = .ok (.invokevirtual 262, 3) := dk_182 1 6 (dk_at dksX4_steps_0 11 rfl rfl)
theorem dX4_steps_14 : decode cX4_steps 14 = .ok (.iadd, 1) := dk_96 (dk_at dksX4_steps_0 14 rfl rfl)
theorem dX4_steps_15 : decode cX4_steps 15 = .ok (.istore_n 2, 1) := dk_61 (dk_at dksX4_steps_0 15 rfl rfl)
theorem dX4_steps_16 : decode cX4_steps 16 = .ok (.iinc 3 1, 3) := dk_132 3 1 (dk_at dksX4_steps_0 16 rfl rfl)
theorem dX4_steps_19 : decode cX4_steps 19 = .ok (.goto (-15), 3) := dk_167 255 241 (dk_at dksX4_steps_0 19 rfl rfl)
theorem dX4_steps_22 : decode cX4_steps 22 = .ok (.iload_n 2, 1) := dk_28 (dk_at dksX4_steps_0 22 rfl rfl)
theorem dX4_steps_23 : decode cX4_steps 23 = .ok (.ireturn, 1) := dk_172 (dk_at dksX4_steps_0 23 rfl rfl)
abbrev cX1_placeIn : ByteArray := prog_1_method_57_code
def yX1_placeIn : MethodName := ⟨RX1, "placeIn", "(II)I"⟩
def dkwX1_placeIn_1 : List UInt8 := [182, 1, 96, 54, 5, 25, 4, 27, 182, 0, 88, 180, 0, 139, 172]
abbrev dktX1_placeIn_1 : List UInt8 := dkwX1_placeIn_1 ++ []
def dkwX1_placeIn_0 : List UInt8 := [42, 27, 182, 0, 174, 78, 28, 3, 184, 1, 90, 42, 180, 0, 68, 182, 1, 93, 58, 4, 25, 4, 28]
abbrev dktX1_placeIn_0 : List UInt8 := dkwX1_placeIn_0 ++ dktX1_placeIn_1
theorem dksX1_placeIn_0 : cX1_placeIn.data.toList.drop 0 = dktX1_placeIn_0 := by decide +kernel
theorem dksX1_placeIn_1 : cX1_placeIn.data.toList.drop 23 = dktX1_placeIn_1 := dk_seg dksX1_placeIn_0 23 rfl rfl
theorem dX1_placeIn_0 : decode cX1_placeIn 0 = .ok (.aload_n 0, 1) := dk_42 (dk_at dksX1_placeIn_0 0 rfl rfl)
theorem dX1_placeIn_1 : decode cX1_placeIn 1 = .ok (.iload_n 1, 1) := dk_27 (dk_at dksX1_placeIn_0 1 rfl rfl)
theorem dX1_placeIn_2 : decode cX1_placeIn 2 = .ok (.invokevirtual 174, 3) := dk_182 0 174 (dk_at dksX1_placeIn_0 2 rfl rfl)
theorem dX1_placeIn_5 : decode cX1_placeIn 5 = .ok (.astore_n 3, 1) := dk_78 (dk_at dksX1_placeIn_0 5 rfl rfl)
theorem dX1_placeIn_6 : decode cX1_placeIn 6 = .ok (.iload_n 2, 1) := dk_28 (dk_at dksX1_placeIn_0 6 rfl rfl)
theorem dX1_placeIn_7 : decode cX1_placeIn 7 = .ok (.iconst 0, 1) := dk_3 (dk_at dksX1_placeIn_0 7 rfl rfl)
theorem dX1_placeIn_8 : decode cX1_placeIn 8 = .ok (.invokestatic 346, 3) := dk_184 1 90 (dk_at dksX1_placeIn_0 8 rfl rfl)
theorem dX1_placeIn_11 : decode cX1_placeIn 11 = .ok (.aload_n 0, 1) := dk_42 (dk_at dksX1_placeIn_0 11 rfl rfl)
theorem dX1_placeIn_12 : decode cX1_placeIn 12 = .ok (.getfield 68, 3) := dk_180 0 68 (dk_at dksX1_placeIn_0 12 rfl rfl)
theorem dX1_placeIn_15 : decode cX1_placeIn 15 = .ok (.invokevirtual 349, 3) := dk_182 1 93 (dk_at dksX1_placeIn_0 15 rfl rfl)
theorem dX1_placeIn_18 : decode cX1_placeIn 18 = .ok (.astore 4, 2) := dk_58 4 (dk_at dksX1_placeIn_0 18 rfl rfl)
theorem dX1_placeIn_20 : decode cX1_placeIn 20 = .ok (.aload 4, 2) := dk_25 4 (dk_at dksX1_placeIn_0 20 rfl rfl)
theorem dX1_placeIn_22 : decode cX1_placeIn 22 = .ok (.iload_n 2, 1) := dk_28 (dk_at dksX1_placeIn_0 22 rfl rfl)
theorem dX1_placeIn_23 : decode cX1_placeIn 23 = .ok (.invokevirtual 352, 3) := dk_182 1 96 (dk_at dksX1_placeIn_1 0 rfl rfl)
theorem dX1_placeIn_26 : decode cX1_placeIn 26 = .ok (.istore 5, 2) := dk_54 5 (dk_at dksX1_placeIn_1 3 rfl rfl)
theorem dX1_placeIn_28 : decode cX1_placeIn 28 = .ok (.aload 4, 2) := dk_25 4 (dk_at dksX1_placeIn_1 5 rfl rfl)
theorem dX1_placeIn_30 : decode cX1_placeIn 30 = .ok (.iload_n 1, 1) := dk_27 (dk_at dksX1_placeIn_1 7 rfl rfl)
theorem dX1_placeIn_31 : decode cX1_placeIn 31 = .ok (.invokevirtual 88, 3) := dk_182 0 88 (dk_at dksX1_placeIn_1 8 rfl rfl)
theorem dX1_placeIn_34 : decode cX1_placeIn 34 = .ok (.getfield 139, 3) := dk_180 0 139 (dk_at dksX1_placeIn_1 11 rfl rfl)
theorem dX1_placeIn_37 : decode cX1_placeIn 37 = .ok (.ireturn, 1) := dk_172 (dk_at dksX1_placeIn_1 14 rfl rfl)
abbrev cX1_movesIn : ByteArray := prog_1_method_58_code
def yX1_movesIn : MethodName := ⟨RX1, "movesIn", "(I)I"⟩
def dkwX1_movesIn_0 : List UInt8 := [42, 182, 0, 76, 77, 27, 3, 184, 1, 90, 44, 182, 1, 93, 27, 182, 1, 96, 172]
abbrev dktX1_movesIn_0 : List UInt8 := dkwX1_movesIn_0 ++ []
theorem dksX1_movesIn_0 : cX1_movesIn.data.toList.drop 0 = dktX1_movesIn_0 := by decide +kernel
theorem dX1_movesIn_0 : decode cX1_movesIn 0 = .ok (.aload_n 0, 1) := dk_42 (dk_at dksX1_movesIn_0 0 rfl rfl)
theorem dX1_movesIn_1 : decode cX1_movesIn 1 = .ok (.invokevirtual 76, 3) := dk_182 0 76 (dk_at dksX1_movesIn_0 1 rfl rfl)
theorem dX1_movesIn_4 : decode cX1_movesIn 4 = .ok (.astore_n 2, 1) := dk_77 (dk_at dksX1_movesIn_0 4 rfl rfl)
theorem dX1_movesIn_5 : decode cX1_movesIn 5 = .ok (.iload_n 1, 1) := dk_27 (dk_at dksX1_movesIn_0 5 rfl rfl)
theorem dX1_movesIn_6 : decode cX1_movesIn 6 = .ok (.iconst 0, 1) := dk_3 (dk_at dksX1_movesIn_0 6 rfl rfl)
theorem dX1_movesIn_7 : decode cX1_movesIn 7 = .ok (.invokestatic 346, 3) := dk_184 1 90 (dk_at dksX1_movesIn_0 7 rfl rfl)
theorem dX1_movesIn_10 : decode cX1_movesIn 10 = .ok (.aload_n 2, 1) := dk_44 (dk_at dksX1_movesIn_0 10 rfl rfl)
theorem dX1_movesIn_11 : decode cX1_movesIn 11 = .ok (.invokevirtual 349, 3) := dk_182 1 93 (dk_at dksX1_movesIn_0 11 rfl rfl)
theorem dX1_movesIn_14 : decode cX1_movesIn 14 = .ok (.iload_n 1, 1) := dk_27 (dk_at dksX1_movesIn_0 14 rfl rfl)
theorem dX1_movesIn_15 : decode cX1_movesIn 15 = .ok (.invokevirtual 352, 3) := dk_182 1 96 (dk_at dksX1_movesIn_0 15 rfl rfl)
theorem dX1_movesIn_18 : decode cX1_movesIn 18 = .ok (.ireturn, 1) := dk_172 (dk_at dksX1_movesIn_0 18 rfl rfl)
abbrev cX4_isStill : ByteArray := prog_7_method_43_code
def yX4_isStill : MethodName := ⟨RX4, "isStill", "()Z"⟩
def dkwX4_isStill_1 : List UInt8 := [132, 1, 1, 167, 255, 231, 4, 172]
abbrev dktX4_isStill_1 : List UInt8 := dkwX4_isStill_1 ++ []
def dkwX4_isStill_0 : List UInt8 := [3, 60, 27, 42, 182, 0, 37, 162, 0, 23, 42, 42, 27, 182, 0, 41, 182, 1, 1, 153, 0, 5, 3, 172]
abbrev dktX4_isStill_0 : List UInt8 := dkwX4_isStill_0 ++ dktX4_isStill_1
theorem dksX4_isStill_0 : cX4_isStill.data.toList.drop 0 = dktX4_isStill_0 := by decide +kernel
theorem dksX4_isStill_1 : cX4_isStill.data.toList.drop 24 = dktX4_isStill_1 := dk_seg dksX4_isStill_0 24 rfl rfl
theorem dX4_isStill_0 : decode cX4_isStill 0 = .ok (.iconst 0, 1) := dk_3 (dk_at dksX4_isStill_0 0 rfl rfl)
theorem dX4_isStill_1 : decode cX4_isStill 1 = .ok (.istore_n 1, 1) := dk_60 (dk_at dksX4_isStill_0 1 rfl rfl)
theorem dX4_isStill_2 : decode cX4_isStill 2 = .ok (.iload_n 1, 1) := dk_27 (dk_at dksX4_isStill_0 2 rfl rfl)
theorem dX4_isStill_3 : decode cX4_isStill 3 = .ok (.aload_n 0, 1) := dk_42 (dk_at dksX4_isStill_0 3 rfl rfl)
theorem dX4_isStill_4 : decode cX4_isStill 4 = .ok (.invokevirtual 37, 3) := dk_182 0 37 (dk_at dksX4_isStill_0 4 rfl rfl)
theorem dX4_isStill_7 : decode cX4_isStill 7 = .ok (.if_icmp .ge 23, 3) := dk_162 0 23 (dk_at dksX4_isStill_0 7 rfl rfl)
theorem dX4_isStill_10 : decode cX4_isStill 10 = .ok (.aload_n 0, 1) := dk_42 (dk_at dksX4_isStill_0 10 rfl rfl)
theorem dX4_isStill_11 : decode cX4_isStill 11 = .ok (.aload_n 0, 1) := dk_42 (dk_at dksX4_isStill_0 11 rfl rfl)
theorem dX4_isStill_12 : decode cX4_isStill 12 = .ok (.iload_n 1, 1) := dk_27 (dk_at dksX4_isStill_0 12 rfl rfl)
theorem dX4_isStill_13 : decode cX4_isStill 13 = .ok (.invokevirtual 41, 3) := dk_182 0 41 (dk_at dksX4_isStill_0 13 rfl rfl)
theorem dX4_isStill_16 : decode cX4_isStill 16 = .ok (.invokevirtual 257, 3) := dk_182 1 1 (dk_at dksX4_isStill_0 16 rfl rfl)
theorem dX4_isStill_19 : decode cX4_isStill 19 = .ok (.ifCond .eq 5, 3) := dk_153 0 5 (dk_at dksX4_isStill_0 19 rfl rfl)
theorem dX4_isStill_22 : decode cX4_isStill 22 = .ok (.iconst 0, 1) := dk_3 (dk_at dksX4_isStill_0 22 rfl rfl)
theorem dX4_isStill_23 : decode cX4_isStill 23 = .ok (.ireturn, 1) := dk_172 (dk_at dksX4_isStill_0 23 rfl rfl)
theorem dX4_isStill_24 : decode cX4_isStill 24 = .ok (.iinc 1 1, 3) := dk_132 1 1 (dk_at dksX4_isStill_1 0 rfl rfl)
theorem dX4_isStill_27 : decode cX4_isStill 27 = .ok (.goto (-25), 3) := dk_167 255 231 (dk_at dksX4_isStill_1 3 rfl rfl)
theorem dX4_isStill_30 : decode cX4_isStill 30 = .ok (.iconst 1, 1) := dk_4 (dk_at dksX4_isStill_1 6 rfl rfl)
theorem dX4_isStill_31 : decode cX4_isStill 31 = .ok (.ireturn, 1) := dk_172 (dk_at dksX4_isStill_1 7 rfl rfl)
abbrev cX1_stillIn : ByteArray := prog_1_method_59_code
def yX1_stillIn : MethodName := ⟨RX1, "stillIn", "()I"⟩
def dkwX1_stillIn_1 : List UInt8 := [172, 43, 4, 182, 1, 96, 62, 132, 2, 1, 167, 255, 232, 2, 172]
abbrev dktX1_stillIn_1 : List UInt8 := dkwX1_stillIn_1 ++ []
def dkwX1_stillIn_0 : List UInt8 := [42, 182, 0, 76, 182, 1, 93, 76, 3, 61, 28, 16, 50, 163, 0, 24, 43, 182, 1, 99, 153, 0, 5, 28]
abbrev dktX1_stillIn_0 : List UInt8 := dkwX1_stillIn_0 ++ dktX1_stillIn_1
theorem dksX1_stillIn_0 : cX1_stillIn.data.toList.drop 0 = dktX1_stillIn_0 := by decide +kernel
theorem dksX1_stillIn_1 : cX1_stillIn.data.toList.drop 24 = dktX1_stillIn_1 := dk_seg dksX1_stillIn_0 24 rfl rfl
theorem dX1_stillIn_0 : decode cX1_stillIn 0 = .ok (.aload_n 0, 1) := dk_42 (dk_at dksX1_stillIn_0 0 rfl rfl)
theorem dX1_stillIn_1 : decode cX1_stillIn 1 = .ok (.invokevirtual 76, 3) := dk_182 0 76 (dk_at dksX1_stillIn_0 1 rfl rfl)
theorem dX1_stillIn_4 : decode cX1_stillIn 4 = .ok (.invokevirtual 349, 3) := dk_182 1 93 (dk_at dksX1_stillIn_0 4 rfl rfl)
theorem dX1_stillIn_7 : decode cX1_stillIn 7 = .ok (.astore_n 1, 1) := dk_76 (dk_at dksX1_stillIn_0 7 rfl rfl)
theorem dX1_stillIn_8 : decode cX1_stillIn 8 = .ok (.iconst 0, 1) := dk_3 (dk_at dksX1_stillIn_0 8 rfl rfl)
theorem dX1_stillIn_9 : decode cX1_stillIn 9 = .ok (.istore_n 2, 1) := dk_61 (dk_at dksX1_stillIn_0 9 rfl rfl)
theorem dX1_stillIn_10 : decode cX1_stillIn 10 = .ok (.iload_n 2, 1) := dk_28 (dk_at dksX1_stillIn_0 10 rfl rfl)
theorem dX1_stillIn_11 : decode cX1_stillIn 11 = .ok (.bipush 50, 2) := dk_16 50 (dk_at dksX1_stillIn_0 11 rfl rfl)
theorem dX1_stillIn_13 : decode cX1_stillIn 13 = .ok (.if_icmp .gt 24, 3) := dk_163 0 24 (dk_at dksX1_stillIn_0 13 rfl rfl)
theorem dX1_stillIn_16 : decode cX1_stillIn 16 = .ok (.aload_n 1, 1) := dk_43 (dk_at dksX1_stillIn_0 16 rfl rfl)
theorem dX1_stillIn_17 : decode cX1_stillIn 17 = .ok (.invokevirtual 355, 3) := dk_182 1 99 (dk_at dksX1_stillIn_0 17 rfl rfl)
theorem dX1_stillIn_20 : decode cX1_stillIn 20 = .ok (.ifCond .eq 5, 3) := dk_153 0 5 (dk_at dksX1_stillIn_0 20 rfl rfl)
theorem dX1_stillIn_23 : decode cX1_stillIn 23 = .ok (.iload_n 2, 1) := dk_28 (dk_at dksX1_stillIn_0 23 rfl rfl)
theorem dX1_stillIn_24 : decode cX1_stillIn 24 = .ok (.ireturn, 1) := dk_172 (dk_at dksX1_stillIn_1 0 rfl rfl)
theorem dX1_stillIn_25 : decode cX1_stillIn 25 = .ok (.aload_n 1, 1) := dk_43 (dk_at dksX1_stillIn_1 1 rfl rfl)
theorem dX1_stillIn_26 : decode cX1_stillIn 26 = .ok (.iconst 1, 1) := dk_4 (dk_at dksX1_stillIn_1 2 rfl rfl)
theorem dX1_stillIn_27 : decode cX1_stillIn 27 = .ok (.invokevirtual 352, 3) := dk_182 1 96 (dk_at dksX1_stillIn_1 3 rfl rfl)
theorem dX1_stillIn_30 : decode cX1_stillIn 30 = .ok (.istore_n 3, 1) := dk_62 (dk_at dksX1_stillIn_1 6 rfl rfl)
theorem dX1_stillIn_31 : decode cX1_stillIn 31 = .ok (.iinc 2 1, 3) := dk_132 2 1 (dk_at dksX1_stillIn_1 7 rfl rfl)
theorem dX1_stillIn_34 : decode cX1_stillIn 34 = .ok (.goto (-24), 3) := dk_167 255 232 (dk_at dksX1_stillIn_1 10 rfl rfl)
theorem dX1_stillIn_37 : decode cX1_stillIn 37 = .ok (.iconst (-1), 1) := dk_2 (dk_at dksX1_stillIn_1 13 rfl rfl)
theorem dX1_stillIn_38 : decode cX1_stillIn 38 = .ok (.ireturn, 1) := dk_172 (dk_at dksX1_stillIn_1 14 rfl rfl)
abbrev cX1_orderFor : ByteArray := prog_1_method_60_code
def yX1_orderFor : MethodName := ⟨RX1, "orderFor", "(II)I"⟩
def dkwX1_orderFor_2 : List UInt8 := [21, 6, 172, 132, 6, 1, 167, 255, 231, 2, 172]
abbrev dktX1_orderFor_2 : List UInt8 := dkwX1_orderFor_2 ++ []
def dkwX1_orderFor_1 : List UInt8 := [57, 4, 3, 54, 6, 21, 6, 7, 163, 0, 25, 45, 27, 21, 6, 182, 1, 62, 24, 4, 152, 157, 0, 6]
abbrev dktX1_orderFor_1 : List UInt8 := dkwX1_orderFor_1 ++ dktX1_orderFor_2
def dkwX1_orderFor_0 : List UInt8 := [42, 27, 182, 0, 193, 78, 28, 133, 9, 20, 1, 102, 184, 0, 58, 184, 0, 98, 28, 135, 20, 1, 104, 111]
abbrev dktX1_orderFor_0 : List UInt8 := dkwX1_orderFor_0 ++ dktX1_orderFor_1
theorem dksX1_orderFor_0 : cX1_orderFor.data.toList.drop 0 = dktX1_orderFor_0 := by decide +kernel
theorem dksX1_orderFor_1 : cX1_orderFor.data.toList.drop 24 = dktX1_orderFor_1 := dk_seg dksX1_orderFor_0 24 rfl rfl
theorem dksX1_orderFor_2 : cX1_orderFor.data.toList.drop 48 = dktX1_orderFor_2 := dk_seg dksX1_orderFor_1 24 rfl rfl
theorem dX1_orderFor_0 : decode cX1_orderFor 0 = .ok (.aload_n 0, 1) := dk_42 (dk_at dksX1_orderFor_0 0 rfl rfl)
theorem dX1_orderFor_1 : decode cX1_orderFor 1 = .ok (.iload_n 1, 1) := dk_27 (dk_at dksX1_orderFor_0 1 rfl rfl)
theorem dX1_orderFor_2 : decode cX1_orderFor 2 = .ok (.invokevirtual 193, 3) := dk_182 0 193 (dk_at dksX1_orderFor_0 2 rfl rfl)
theorem dX1_orderFor_5 : decode cX1_orderFor 5 = .ok (.astore_n 3, 1) := dk_78 (dk_at dksX1_orderFor_0 5 rfl rfl)
theorem dX1_orderFor_6 : decode cX1_orderFor 6 = .ok (.iload_n 2, 1) := dk_28 (dk_at dksX1_orderFor_0 6 rfl rfl)
theorem dX1_orderFor_7 : decode cX1_orderFor 7 = .ok (.i2l, 1) := dk_133 (dk_at dksX1_orderFor_0 7 rfl rfl)
theorem dX1_orderFor_8 : decode cX1_orderFor 8 = .ok (.lconst 0, 1) := dk_9 (dk_at dksX1_orderFor_0 8 rfl rfl)
theorem dX1_orderFor_9 : decode cX1_orderFor 9 = .ok (.ldc2_w 358, 3) := dk_20 1 102 (dk_at dksX1_orderFor_0 9 rfl rfl)
theorem dX1_orderFor_12 : decode cX1_orderFor 12 = .ok (.invokestatic 58, 3) := dk_184 0 58 (dk_at dksX1_orderFor_0 12 rfl rfl)
theorem dX1_orderFor_15 : decode cX1_orderFor 15 = .ok (.invokestatic 98, 3) := dk_184 0 98 (dk_at dksX1_orderFor_0 15 rfl rfl)
theorem dX1_orderFor_18 : decode cX1_orderFor 18 = .ok (.iload_n 2, 1) := dk_28 (dk_at dksX1_orderFor_0 18 rfl rfl)
theorem dX1_orderFor_19 : decode cX1_orderFor 19 = .ok (.i2d, 1) := dk_135 (dk_at dksX1_orderFor_0 19 rfl rfl)
theorem dX1_orderFor_20 : decode cX1_orderFor 20 = .ok (.ldc2_w 360, 3) := dk_20 1 104 (dk_at dksX1_orderFor_0 20 rfl rfl)
theorem dX1_orderFor_23 : decode cX1_orderFor 23 = .ok (.ddiv, 1) := dk_111 (dk_at dksX1_orderFor_0 23 rfl rfl)
theorem dX1_orderFor_24 : decode cX1_orderFor 24 = .ok (.dstore 4, 2) := dk_57 4 (dk_at dksX1_orderFor_1 0 rfl rfl)
theorem dX1_orderFor_26 : decode cX1_orderFor 26 = .ok (.iconst 0, 1) := dk_3 (dk_at dksX1_orderFor_1 2 rfl rfl)
theorem dX1_orderFor_27 : decode cX1_orderFor 27 = .ok (.istore 6, 2) := dk_54 6 (dk_at dksX1_orderFor_1 3 rfl rfl)
theorem dX1_orderFor_29 : decode cX1_orderFor 29 = .ok (.iload 6, 2) := dk_21 6 (dk_at dksX1_orderFor_1 5 rfl rfl)
theorem dX1_orderFor_31 : decode cX1_orderFor 31 = .ok (.iconst 4, 1) := dk_7 (dk_at dksX1_orderFor_1 7 rfl rfl)
theorem dX1_orderFor_32 : decode cX1_orderFor 32 = .ok (.if_icmp .gt 25, 3) := dk_163 0 25 (dk_at dksX1_orderFor_1 8 rfl rfl)
theorem dX1_orderFor_35 : decode cX1_orderFor 35 = .ok (.aload_n 3, 1) := dk_45 (dk_at dksX1_orderFor_1 11 rfl rfl)
theorem dX1_orderFor_36 : decode cX1_orderFor 36 = .ok (.iload_n 1, 1) := dk_27 (dk_at dksX1_orderFor_1 12 rfl rfl)
theorem dX1_orderFor_37 : decode cX1_orderFor 37 = .ok (.iload 6, 2) := dk_21 6 (dk_at dksX1_orderFor_1 13 rfl rfl)
theorem dX1_orderFor_39 : decode cX1_orderFor 39 = .ok (.invokevirtual 318, 3) := dk_182 1 62 (dk_at dksX1_orderFor_1 15 rfl rfl)
theorem dX1_orderFor_42 : decode cX1_orderFor 42 = .ok (.dload 4, 2) := dk_24 4 (dk_at dksX1_orderFor_1 18 rfl rfl)
theorem dX1_orderFor_44 : decode cX1_orderFor 44 = .ok (.dcmp .g, 1) := dk_152 (dk_at dksX1_orderFor_1 20 rfl rfl)
theorem dX1_orderFor_45 : decode cX1_orderFor 45 = .ok (.ifCond .gt 6, 3) := dk_157 0 6 (dk_at dksX1_orderFor_1 21 rfl rfl)
theorem dX1_orderFor_48 : decode cX1_orderFor 48 = .ok (.iload 6, 2) := dk_21 6 (dk_at dksX1_orderFor_2 0 rfl rfl)
theorem dX1_orderFor_50 : decode cX1_orderFor 50 = .ok (.ireturn, 1) := dk_172 (dk_at dksX1_orderFor_2 2 rfl rfl)
theorem dX1_orderFor_51 : decode cX1_orderFor 51 = .ok (.iinc 6 1, 3) := dk_132 6 1 (dk_at dksX1_orderFor_2 3 rfl rfl)
theorem dX1_orderFor_54 : decode cX1_orderFor 54 = .ok (.goto (-25), 3) := dk_167 255 231 (dk_at dksX1_orderFor_2 6 rfl rfl)
theorem dX1_orderFor_57 : decode cX1_orderFor 57 = .ok (.iconst (-1), 1) := dk_2 (dk_at dksX1_orderFor_2 9 rfl rfl)
theorem dX1_orderFor_58 : decode cX1_orderFor 58 = .ok (.ireturn, 1) := dk_172 (dk_at dksX1_orderFor_2 10 rfl rfl)
abbrev cX1_costOf : ByteArray := prog_1_method_61_code
def yX1_costOf : MethodName := ⟨RX1, "costOf", "(I)I"⟩
def dkwX1_costOf_3 : List UInt8 := [172]
abbrev dktX1_costOf_3 : List UInt8 := dkwX1_costOf_3 ++ []
def dkwX1_costOf_2 : List UInt8 := [180, 0, 139, 3, 182, 1, 27, 96, 62, 132, 4, 1, 167, 255, 218, 42, 180, 0, 68, 28, 181, 0, 101, 29]
abbrev dktX1_costOf_2 : List UInt8 := dkwX1_costOf_2 ++ dktX1_costOf_3
def dkwX1_costOf_1 : List UInt8 := [180, 0, 68, 182, 0, 80, 162, 0, 32, 29, 42, 180, 0, 68, 42, 180, 0, 68, 21, 4, 182, 0, 88]
abbrev dktX1_costOf_1 : List UInt8 := dkwX1_costOf_1 ++ dktX1_costOf_2
def dkwX1_costOf_0 : List UInt8 := [42, 180, 0, 68, 180, 0, 101, 61, 3, 62, 42, 180, 0, 68, 27, 181, 0, 101, 3, 54, 4, 21, 4, 42]
abbrev dktX1_costOf_0 : List UInt8 := dkwX1_costOf_0 ++ dktX1_costOf_1
theorem dksX1_costOf_0 : cX1_costOf.data.toList.drop 0 = dktX1_costOf_0 := by decide +kernel
theorem dksX1_costOf_1 : cX1_costOf.data.toList.drop 24 = dktX1_costOf_1 := dk_seg dksX1_costOf_0 24 rfl rfl
theorem dksX1_costOf_2 : cX1_costOf.data.toList.drop 47 = dktX1_costOf_2 := dk_seg dksX1_costOf_1 23 rfl rfl
theorem dksX1_costOf_3 : cX1_costOf.data.toList.drop 71 = dktX1_costOf_3 := dk_seg dksX1_costOf_2 24 rfl rfl
theorem dX1_costOf_0 : decode cX1_costOf 0 = .ok (.aload_n 0, 1) := dk_42 (dk_at dksX1_costOf_0 0 rfl rfl)
theorem dX1_costOf_1 : decode cX1_costOf 1 = .ok (.getfield 68, 3) := dk_180 0 68 (dk_at dksX1_costOf_0 1 rfl rfl)
theorem dX1_costOf_4 : decode cX1_costOf 4 = .ok (.getfield 101, 3) := dk_180 0 101 (dk_at dksX1_costOf_0 4 rfl rfl)
theorem dX1_costOf_7 : decode cX1_costOf 7 = .ok (.istore_n 2, 1) := dk_61 (dk_at dksX1_costOf_0 7 rfl rfl)
theorem dX1_costOf_8 : decode cX1_costOf 8 = .ok (.iconst 0, 1) := dk_3 (dk_at dksX1_costOf_0 8 rfl rfl)
theorem dX1_costOf_9 : decode cX1_costOf 9 = .ok (.istore_n 3, 1) := dk_62 (dk_at dksX1_costOf_0 9 rfl rfl)
theorem dX1_costOf_10 : decode cX1_costOf 10 = .ok (.aload_n 0, 1) := dk_42 (dk_at dksX1_costOf_0 10 rfl rfl)
theorem dX1_costOf_11 : decode cX1_costOf 11 = .ok (.getfield 68, 3) := dk_180 0 68 (dk_at dksX1_costOf_0 11 rfl rfl)
theorem dX1_costOf_14 : decode cX1_costOf 14 = .ok (.iload_n 1, 1) := dk_27 (dk_at dksX1_costOf_0 14 rfl rfl)
theorem dX1_costOf_15 : decode cX1_costOf 15 = .ok (.putfield 101, 3) := dk_181 0 101 (dk_at dksX1_costOf_0 15 rfl rfl)
theorem dX1_costOf_18 : decode cX1_costOf 18 = .ok (.iconst 0, 1) := dk_3 (dk_at dksX1_costOf_0 18 rfl rfl)
theorem dX1_costOf_19 : decode cX1_costOf 19 = .ok (.istore 4, 2) := dk_54 4 (dk_at dksX1_costOf_0 19 rfl rfl)
theorem dX1_costOf_21 : decode cX1_costOf 21 = .ok (.iload 4, 2) := dk_21 4 (dk_at dksX1_costOf_0 21 rfl rfl)
theorem dX1_costOf_23 : decode cX1_costOf 23 = .ok (.aload_n 0, 1) := dk_42 (dk_at dksX1_costOf_0 23 rfl rfl)
theorem dX1_costOf_24 : decode cX1_costOf 24 = .ok (.getfield 68, 3) := dk_180 0 68 (dk_at dksX1_costOf_1 0 rfl rfl)
theorem dX1_costOf_27 : decode cX1_costOf 27 = .ok (.invokevirtual 80, 3) := dk_182 0 80 (dk_at dksX1_costOf_1 3 rfl rfl)
theorem dX1_costOf_30 : decode cX1_costOf 30 = .ok (.if_icmp .ge 32, 3) := dk_162 0 32 (dk_at dksX1_costOf_1 6 rfl rfl)
theorem dX1_costOf_33 : decode cX1_costOf 33 = .ok (.iload_n 3, 1) := dk_29 (dk_at dksX1_costOf_1 9 rfl rfl)
theorem dX1_costOf_34 : decode cX1_costOf 34 = .ok (.aload_n 0, 1) := dk_42 (dk_at dksX1_costOf_1 10 rfl rfl)
theorem dX1_costOf_35 : decode cX1_costOf 35 = .ok (.getfield 68, 3) := dk_180 0 68 (dk_at dksX1_costOf_1 11 rfl rfl)
theorem dX1_costOf_38 : decode cX1_costOf 38 = .ok (.aload_n 0, 1) := dk_42 (dk_at dksX1_costOf_1 14 rfl rfl)
theorem dX1_costOf_39 : decode cX1_costOf 39 = .ok (.getfield 68, 3) := dk_180 0 68 (dk_at dksX1_costOf_1 15 rfl rfl)
theorem dX1_costOf_42 : decode cX1_costOf 42 = .ok (.iload 4, 2) := dk_21 4 (dk_at dksX1_costOf_1 18 rfl rfl)
theorem dX1_costOf_44 : decode cX1_costOf 44 = .ok (.invokevirtual 88, 3) := dk_182 0 88 (dk_at dksX1_costOf_1 20 rfl rfl)
theorem dX1_costOf_47 : decode cX1_costOf 47 = .ok (.getfield 139, 3) := dk_180 0 139 (dk_at dksX1_costOf_2 0 rfl rfl)
theorem dX1_costOf_50 : decode cX1_costOf 50 = .ok (.iconst 0, 1) := dk_3 (dk_at dksX1_costOf_2 3 rfl rfl)
theorem dX1_costOf_51 : decode cX1_costOf 51 = .ok (.invokevirtual 283, 3) := dk_182 1 27 (dk_at dksX1_costOf_2 4 rfl rfl)
theorem dX1_costOf_54 : decode cX1_costOf 54 = .ok (.iadd, 1) := dk_96 (dk_at dksX1_costOf_2 7 rfl rfl)
theorem dX1_costOf_55 : decode cX1_costOf 55 = .ok (.istore_n 3, 1) := dk_62 (dk_at dksX1_costOf_2 8 rfl rfl)
theorem dX1_costOf_56 : decode cX1_costOf 56 = .ok (.iinc 4 1, 3) := dk_132 4 1 (dk_at dksX1_costOf_2 9 rfl rfl)
theorem dX1_costOf_59 : decode cX1_costOf 59 = .ok (.goto (-38), 3) := dk_167 255 218 (dk_at dksX1_costOf_2 12 rfl rfl)
theorem dX1_costOf_62 : decode cX1_costOf 62 = .ok (.aload_n 0, 1) := dk_42 (dk_at dksX1_costOf_2 15 rfl rfl)
theorem dX1_costOf_63 : decode cX1_costOf 63 = .ok (.getfield 68, 3) := dk_180 0 68 (dk_at dksX1_costOf_2 16 rfl rfl)
theorem dX1_costOf_66 : decode cX1_costOf 66 = .ok (.iload_n 2, 1) := dk_28 (dk_at dksX1_costOf_2 19 rfl rfl)
theorem dX1_costOf_67 : decode cX1_costOf 67 = .ok (.putfield 101, 3) := dk_181 0 101 (dk_at dksX1_costOf_2 20 rfl rfl)
theorem dX1_costOf_70 : decode cX1_costOf 70 = .ok (.iload_n 3, 1) := dk_29 (dk_at dksX1_costOf_2 23 rfl rfl)
theorem dX1_costOf_71 : decode cX1_costOf 71 = .ok (.ireturn, 1) := dk_172 (dk_at dksX1_costOf_3 0 rfl rfl)
abbrev cX1_bestLevels : ByteArray := prog_1_method_62_code
def yX1_bestLevels : MethodName := ⟨RX1, "bestLevels", "()I"⟩
def dkwX1_bestLevels_1 : List UInt8 := [162, 0, 5, 29, 61, 132, 3, 1, 167, 255, 233, 28, 172]
abbrev dktX1_bestLevels_1 : List UInt8 := dkwX1_bestLevels_1 ++ []
def dkwX1_bestLevels_0 : List UInt8 := [42, 182, 0, 76, 76, 5, 61, 6, 62, 29, 8, 163, 0, 24, 42, 29, 182, 1, 106, 42, 28, 182, 1, 106]
abbrev dktX1_bestLevels_0 : List UInt8 := dkwX1_bestLevels_0 ++ dktX1_bestLevels_1
theorem dksX1_bestLevels_0 : cX1_bestLevels.data.toList.drop 0 = dktX1_bestLevels_0 := by decide +kernel
theorem dksX1_bestLevels_1 : cX1_bestLevels.data.toList.drop 24 = dktX1_bestLevels_1 := dk_seg dksX1_bestLevels_0 24 rfl rfl
theorem dX1_bestLevels_0 : decode cX1_bestLevels 0 = .ok (.aload_n 0, 1) := dk_42 (dk_at dksX1_bestLevels_0 0 rfl rfl)
theorem dX1_bestLevels_1 : decode cX1_bestLevels 1 = .ok (.invokevirtual 76, 3) := dk_182 0 76 (dk_at dksX1_bestLevels_0 1 rfl rfl)
theorem dX1_bestLevels_4 : decode cX1_bestLevels 4 = .ok (.astore_n 1, 1) := dk_76 (dk_at dksX1_bestLevels_0 4 rfl rfl)
theorem dX1_bestLevels_5 : decode cX1_bestLevels 5 = .ok (.iconst 2, 1) := dk_5 (dk_at dksX1_bestLevels_0 5 rfl rfl)
theorem dX1_bestLevels_6 : decode cX1_bestLevels 6 = .ok (.istore_n 2, 1) := dk_61 (dk_at dksX1_bestLevels_0 6 rfl rfl)
theorem dX1_bestLevels_7 : decode cX1_bestLevels 7 = .ok (.iconst 3, 1) := dk_6 (dk_at dksX1_bestLevels_0 7 rfl rfl)
theorem dX1_bestLevels_8 : decode cX1_bestLevels 8 = .ok (.istore_n 3, 1) := dk_62 (dk_at dksX1_bestLevels_0 8 rfl rfl)
theorem dX1_bestLevels_9 : decode cX1_bestLevels 9 = .ok (.iload_n 3, 1) := dk_29 (dk_at dksX1_bestLevels_0 9 rfl rfl)
theorem dX1_bestLevels_10 : decode cX1_bestLevels 10 = .ok (.iconst 5, 1) := dk_8 (dk_at dksX1_bestLevels_0 10 rfl rfl)
theorem dX1_bestLevels_11 : decode cX1_bestLevels 11 = .ok (.if_icmp .gt 24, 3) := dk_163 0 24 (dk_at dksX1_bestLevels_0 11 rfl rfl)
theorem dX1_bestLevels_14 : decode cX1_bestLevels 14 = .ok (.aload_n 0, 1) := dk_42 (dk_at dksX1_bestLevels_0 14 rfl rfl)
theorem dX1_bestLevels_15 : decode cX1_bestLevels 15 = .ok (.iload_n 3, 1) := dk_29 (dk_at dksX1_bestLevels_0 15 rfl rfl)
theorem dX1_bestLevels_16 : decode cX1_bestLevels 16 = .ok (.invokevirtual 362, 3) := dk_182 1 106 (dk_at dksX1_bestLevels_0 16 rfl rfl)
theorem dX1_bestLevels_19 : decode cX1_bestLevels 19 = .ok (.aload_n 0, 1) := dk_42 (dk_at dksX1_bestLevels_0 19 rfl rfl)
theorem dX1_bestLevels_20 : decode cX1_bestLevels 20 = .ok (.iload_n 2, 1) := dk_28 (dk_at dksX1_bestLevels_0 20 rfl rfl)
theorem dX1_bestLevels_21 : decode cX1_bestLevels 21 = .ok (.invokevirtual 362, 3) := dk_182 1 106 (dk_at dksX1_bestLevels_0 21 rfl rfl)
theorem dX1_bestLevels_24 : decode cX1_bestLevels 24 = .ok (.if_icmp .ge 5, 3) := dk_162 0 5 (dk_at dksX1_bestLevels_1 0 rfl rfl)
theorem dX1_bestLevels_27 : decode cX1_bestLevels 27 = .ok (.iload_n 3, 1) := dk_29 (dk_at dksX1_bestLevels_1 3 rfl rfl)
theorem dX1_bestLevels_28 : decode cX1_bestLevels 28 = .ok (.istore_n 2, 1) := dk_61 (dk_at dksX1_bestLevels_1 4 rfl rfl)
theorem dX1_bestLevels_29 : decode cX1_bestLevels 29 = .ok (.iinc 3 1, 3) := dk_132 3 1 (dk_at dksX1_bestLevels_1 5 rfl rfl)
theorem dX1_bestLevels_32 : decode cX1_bestLevels 32 = .ok (.goto (-23), 3) := dk_167 255 233 (dk_at dksX1_bestLevels_1 8 rfl rfl)
theorem dX1_bestLevels_35 : decode cX1_bestLevels 35 = .ok (.iload_n 2, 1) := dk_28 (dk_at dksX1_bestLevels_1 11 rfl rfl)
theorem dX1_bestLevels_36 : decode cX1_bestLevels 36 = .ok (.ireturn, 1) := dk_172 (dk_at dksX1_bestLevels_1 12 rfl rfl)
abbrev cX1_without : ByteArray := prog_1_method_63_code
def yX1_without : MethodName := ⟨RX1, "without", "(II)D"⟩
def dkwX1_without_0 : List UInt8 := [42, 27, 182, 0, 174, 78, 42, 28, 182, 0, 193, 28, 3, 27, 182, 1, 35, 175]
abbrev dktX1_without_0 : List UInt8 := dkwX1_without_0 ++ []
theorem dksX1_without_0 : cX1_without.data.toList.drop 0 = dktX1_without_0 := by decide +kernel
theorem dX1_without_0 : decode cX1_without 0 = .ok (.aload_n 0, 1) := dk_42 (dk_at dksX1_without_0 0 rfl rfl)
theorem dX1_without_1 : decode cX1_without 1 = .ok (.iload_n 1, 1) := dk_27 (dk_at dksX1_without_0 1 rfl rfl)
theorem dX1_without_2 : decode cX1_without 2 = .ok (.invokevirtual 174, 3) := dk_182 0 174 (dk_at dksX1_without_0 2 rfl rfl)
theorem dX1_without_5 : decode cX1_without 5 = .ok (.astore_n 3, 1) := dk_78 (dk_at dksX1_without_0 5 rfl rfl)
theorem dX1_without_6 : decode cX1_without 6 = .ok (.aload_n 0, 1) := dk_42 (dk_at dksX1_without_0 6 rfl rfl)
theorem dX1_without_7 : decode cX1_without 7 = .ok (.iload_n 2, 1) := dk_28 (dk_at dksX1_without_0 7 rfl rfl)
theorem dX1_without_8 : decode cX1_without 8 = .ok (.invokevirtual 193, 3) := dk_182 0 193 (dk_at dksX1_without_0 8 rfl rfl)
theorem dX1_without_11 : decode cX1_without 11 = .ok (.iload_n 2, 1) := dk_28 (dk_at dksX1_without_0 11 rfl rfl)
theorem dX1_without_12 : decode cX1_without 12 = .ok (.iconst 0, 1) := dk_3 (dk_at dksX1_without_0 12 rfl rfl)
theorem dX1_without_13 : decode cX1_without 13 = .ok (.iload_n 1, 1) := dk_27 (dk_at dksX1_without_0 13 rfl rfl)
theorem dX1_without_14 : decode cX1_without 14 = .ok (.invokevirtual 291, 3) := dk_182 1 35 (dk_at dksX1_without_0 14 rfl rfl)
theorem dX1_without_17 : decode cX1_without 17 = .ok (.dreturn, 1) := dk_175 (dk_at dksX1_without_0 17 rfl rfl)
abbrev cX1_quietest : ByteArray := prog_1_method_64_code
def yX1_quietest : MethodName := ⟨RX1, "quietest", "()I"⟩
def dkwX1_quietest_2 : List UInt8 := [24, 6, 41, 151, 155, 0, 6, 167, 0, 9, 21, 5, 61, 24, 6, 74, 132, 5, 1, 167, 255, 201, 28, 172]
abbrev dktX1_quietest_2 : List UInt8 := dkwX1_quietest_2 ++ []
def dkwX1_quietest_1 : List UInt8 := [2, 182, 1, 35, 184, 1, 109, 57, 6, 42, 21, 5, 182, 1, 113, 2, 160, 0, 24, 28, 2, 159, 0, 13]
abbrev dktX1_quietest_1 : List UInt8 := dkwX1_quietest_1 ++ dktX1_quietest_2
def dkwX1_quietest_0 : List UInt8 := [42, 182, 0, 76, 76, 2, 61, 14, 74, 3, 54, 5, 21, 5, 17, 1, 0, 162, 0, 53, 43, 21, 5, 3]
abbrev dktX1_quietest_0 : List UInt8 := dkwX1_quietest_0 ++ dktX1_quietest_1
theorem dksX1_quietest_0 : cX1_quietest.data.toList.drop 0 = dktX1_quietest_0 := by decide +kernel
theorem dksX1_quietest_1 : cX1_quietest.data.toList.drop 24 = dktX1_quietest_1 := dk_seg dksX1_quietest_0 24 rfl rfl
theorem dksX1_quietest_2 : cX1_quietest.data.toList.drop 48 = dktX1_quietest_2 := dk_seg dksX1_quietest_1 24 rfl rfl
theorem dX1_quietest_0 : decode cX1_quietest 0 = .ok (.aload_n 0, 1) := dk_42 (dk_at dksX1_quietest_0 0 rfl rfl)
theorem dX1_quietest_1 : decode cX1_quietest 1 = .ok (.invokevirtual 76, 3) := dk_182 0 76 (dk_at dksX1_quietest_0 1 rfl rfl)
theorem dX1_quietest_4 : decode cX1_quietest 4 = .ok (.astore_n 1, 1) := dk_76 (dk_at dksX1_quietest_0 4 rfl rfl)
theorem dX1_quietest_5 : decode cX1_quietest 5 = .ok (.iconst (-1), 1) := dk_2 (dk_at dksX1_quietest_0 5 rfl rfl)
theorem dX1_quietest_6 : decode cX1_quietest 6 = .ok (.istore_n 2, 1) := dk_61 (dk_at dksX1_quietest_0 6 rfl rfl)
theorem dX1_quietest_7 : decode cX1_quietest 7 = .ok (.dconst 0, 1) := dk_14 (dk_at dksX1_quietest_0 7 rfl rfl)
theorem dX1_quietest_8 : decode cX1_quietest 8 = .ok (.dstore_n 3, 1) := dk_74 (dk_at dksX1_quietest_0 8 rfl rfl)
theorem dX1_quietest_9 : decode cX1_quietest 9 = .ok (.iconst 0, 1) := dk_3 (dk_at dksX1_quietest_0 9 rfl rfl)
theorem dX1_quietest_10 : decode cX1_quietest 10 = .ok (.istore 5, 2) := dk_54 5 (dk_at dksX1_quietest_0 10 rfl rfl)
theorem dX1_quietest_12 : decode cX1_quietest 12 = .ok (.iload 5, 2) := dk_21 5 (dk_at dksX1_quietest_0 12 rfl rfl)
theorem dX1_quietest_14 : decode cX1_quietest 14 = .ok (.sipush 256, 3) := dk_17 1 0 (dk_at dksX1_quietest_0 14 rfl rfl)
theorem dX1_quietest_17 : decode cX1_quietest 17 = .ok (.if_icmp .ge 53, 3) := dk_162 0 53 (dk_at dksX1_quietest_0 17 rfl rfl)
theorem dX1_quietest_20 : decode cX1_quietest 20 = .ok (.aload_n 1, 1) := dk_43 (dk_at dksX1_quietest_0 20 rfl rfl)
theorem dX1_quietest_21 : decode cX1_quietest 21 = .ok (.iload 5, 2) := dk_21 5 (dk_at dksX1_quietest_0 21 rfl rfl)
theorem dX1_quietest_23 : decode cX1_quietest 23 = .ok (.iconst 0, 1) := dk_3 (dk_at dksX1_quietest_0 23 rfl rfl)
theorem dX1_quietest_24 : decode cX1_quietest 24 = .ok (.iconst (-1), 1) := dk_2 (dk_at dksX1_quietest_1 0 rfl rfl)
theorem dX1_quietest_25 : decode cX1_quietest 25 = .ok (.invokevirtual 291, 3) := dk_182 1 35 (dk_at dksX1_quietest_1 1 rfl rfl)
theorem dX1_quietest_28 : decode cX1_quietest 28 = .ok (.invokestatic 365, 3) := dk_184 1 109 (dk_at dksX1_quietest_1 4 rfl rfl)
theorem dX1_quietest_31 : decode cX1_quietest 31 = .ok (.dstore 6, 2) := dk_57 6 (dk_at dksX1_quietest_1 7 rfl rfl)
theorem dX1_quietest_33 : decode cX1_quietest 33 = .ok (.aload_n 0, 1) := dk_42 (dk_at dksX1_quietest_1 9 rfl rfl)
theorem dX1_quietest_34 : decode cX1_quietest 34 = .ok (.iload 5, 2) := dk_21 5 (dk_at dksX1_quietest_1 10 rfl rfl)
theorem dX1_quietest_36 : decode cX1_quietest 36 = .ok (.invokevirtual 369, 3) := dk_182 1 113 (dk_at dksX1_quietest_1 12 rfl rfl)
theorem dX1_quietest_39 : decode cX1_quietest 39 = .ok (.iconst (-1), 1) := dk_2 (dk_at dksX1_quietest_1 15 rfl rfl)
theorem dX1_quietest_40 : decode cX1_quietest 40 = .ok (.if_icmp .ne 24, 3) := dk_160 0 24 (dk_at dksX1_quietest_1 16 rfl rfl)
theorem dX1_quietest_43 : decode cX1_quietest 43 = .ok (.iload_n 2, 1) := dk_28 (dk_at dksX1_quietest_1 19 rfl rfl)
theorem dX1_quietest_44 : decode cX1_quietest 44 = .ok (.iconst (-1), 1) := dk_2 (dk_at dksX1_quietest_1 20 rfl rfl)
theorem dX1_quietest_45 : decode cX1_quietest 45 = .ok (.if_icmp .eq 13, 3) := dk_159 0 13 (dk_at dksX1_quietest_1 21 rfl rfl)
theorem dX1_quietest_48 : decode cX1_quietest 48 = .ok (.dload 6, 2) := dk_24 6 (dk_at dksX1_quietest_2 0 rfl rfl)
theorem dX1_quietest_50 : decode cX1_quietest 50 = .ok (.dload_n 3, 1) := dk_41 (dk_at dksX1_quietest_2 2 rfl rfl)
theorem dX1_quietest_51 : decode cX1_quietest 51 = .ok (.dcmp .l, 1) := dk_151 (dk_at dksX1_quietest_2 3 rfl rfl)
theorem dX1_quietest_52 : decode cX1_quietest 52 = .ok (.ifCond .lt 6, 3) := dk_155 0 6 (dk_at dksX1_quietest_2 4 rfl rfl)
theorem dX1_quietest_55 : decode cX1_quietest 55 = .ok (.goto 9, 3) := dk_167 0 9 (dk_at dksX1_quietest_2 7 rfl rfl)
theorem dX1_quietest_58 : decode cX1_quietest 58 = .ok (.iload 5, 2) := dk_21 5 (dk_at dksX1_quietest_2 10 rfl rfl)
theorem dX1_quietest_60 : decode cX1_quietest 60 = .ok (.istore_n 2, 1) := dk_61 (dk_at dksX1_quietest_2 12 rfl rfl)
theorem dX1_quietest_61 : decode cX1_quietest 61 = .ok (.dload 6, 2) := dk_24 6 (dk_at dksX1_quietest_2 13 rfl rfl)
theorem dX1_quietest_63 : decode cX1_quietest 63 = .ok (.dstore_n 3, 1) := dk_74 (dk_at dksX1_quietest_2 15 rfl rfl)
theorem dX1_quietest_64 : decode cX1_quietest 64 = .ok (.iinc 5 1, 3) := dk_132 5 1 (dk_at dksX1_quietest_2 16 rfl rfl)
theorem dX1_quietest_67 : decode cX1_quietest 67 = .ok (.goto (-55), 3) := dk_167 255 201 (dk_at dksX1_quietest_2 19 rfl rfl)
theorem dX1_quietest_70 : decode cX1_quietest 70 = .ok (.iload_n 2, 1) := dk_28 (dk_at dksX1_quietest_2 22 rfl rfl)
theorem dX1_quietest_71 : decode cX1_quietest 71 = .ok (.ireturn, 1) := dk_172 (dk_at dksX1_quietest_2 23 rfl rfl)
abbrev cX1_energy : ByteArray := prog_1_method_65_code
def yX1_energy : MethodName := ⟨RX1, "energy", "(Z)D"⟩
def dkwX1_energy_2 : List UInt8 := [74, 132, 5, 1, 167, 255, 216, 41, 20, 1, 116, 111, 175]
abbrev dktX1_energy_2 : List UInt8 := dkwX1_energy_2 ++ []
def dkwX1_energy_1 : List UInt8 := [182, 0, 88, 58, 6, 41, 25, 6, 180, 0, 177, 135, 44, 25, 6, 180, 0, 139, 27, 182, 1, 31, 107, 99]
abbrev dktX1_energy_1 : List UInt8 := dkwX1_energy_1 ++ dktX1_energy_2
def dkwX1_energy_0 : List UInt8 := [42, 182, 0, 76, 77, 14, 74, 3, 54, 5, 21, 5, 44, 182, 0, 80, 162, 0, 37, 44, 21, 5]
abbrev dktX1_energy_0 : List UInt8 := dkwX1_energy_0 ++ dktX1_energy_1
theorem dksX1_energy_0 : cX1_energy.data.toList.drop 0 = dktX1_energy_0 := by decide +kernel
theorem dksX1_energy_1 : cX1_energy.data.toList.drop 22 = dktX1_energy_1 := dk_seg dksX1_energy_0 22 rfl rfl
theorem dksX1_energy_2 : cX1_energy.data.toList.drop 46 = dktX1_energy_2 := dk_seg dksX1_energy_1 24 rfl rfl
theorem dX1_energy_0 : decode cX1_energy 0 = .ok (.aload_n 0, 1) := dk_42 (dk_at dksX1_energy_0 0 rfl rfl)
theorem dX1_energy_1 : decode cX1_energy 1 = .ok (.invokevirtual 76, 3) := dk_182 0 76 (dk_at dksX1_energy_0 1 rfl rfl)
theorem dX1_energy_4 : decode cX1_energy 4 = .ok (.astore_n 2, 1) := dk_77 (dk_at dksX1_energy_0 4 rfl rfl)
theorem dX1_energy_5 : decode cX1_energy 5 = .ok (.dconst 0, 1) := dk_14 (dk_at dksX1_energy_0 5 rfl rfl)
theorem dX1_energy_6 : decode cX1_energy 6 = .ok (.dstore_n 3, 1) := dk_74 (dk_at dksX1_energy_0 6 rfl rfl)
theorem dX1_energy_7 : decode cX1_energy 7 = .ok (.iconst 0, 1) := dk_3 (dk_at dksX1_energy_0 7 rfl rfl)
theorem dX1_energy_8 : decode cX1_energy 8 = .ok (.istore 5, 2) := dk_54 5 (dk_at dksX1_energy_0 8 rfl rfl)
theorem dX1_energy_10 : decode cX1_energy 10 = .ok (.iload 5, 2) := dk_21 5 (dk_at dksX1_energy_0 10 rfl rfl)
theorem dX1_energy_12 : decode cX1_energy 12 = .ok (.aload_n 2, 1) := dk_44 (dk_at dksX1_energy_0 12 rfl rfl)
theorem dX1_energy_13 : decode cX1_energy 13 = .ok (.invokevirtual 80, 3) := dk_182 0 80 (dk_at dksX1_energy_0 13 rfl rfl)
theorem dX1_energy_16 : decode cX1_energy 16 = .ok (.if_icmp .ge 37, 3) := dk_162 0 37 (dk_at dksX1_energy_0 16 rfl rfl)
theorem dX1_energy_19 : decode cX1_energy 19 = .ok (.aload_n 2, 1) := dk_44 (dk_at dksX1_energy_0 19 rfl rfl)
theorem dX1_energy_20 : decode cX1_energy 20 = .ok (.iload 5, 2) := dk_21 5 (dk_at dksX1_energy_0 20 rfl rfl)
theorem dX1_energy_22 : decode cX1_energy 22 = .ok (.invokevirtual 88, 3) := dk_182 0 88 (dk_at dksX1_energy_1 0 rfl rfl)
theorem dX1_energy_25 : decode cX1_energy 25 = .ok (.astore 6, 2) := dk_58 6 (dk_at dksX1_energy_1 3 rfl rfl)
theorem dX1_energy_27 : decode cX1_energy 27 = .ok (.dload_n 3, 1) := dk_41 (dk_at dksX1_energy_1 5 rfl rfl)
theorem dX1_energy_28 : decode cX1_energy 28 = .ok (.aload 6, 2) := dk_25 6 (dk_at dksX1_energy_1 6 rfl rfl)
theorem dX1_energy_30 : decode cX1_energy 30 = .ok (.getfield 177, 3) := dk_180 0 177 (dk_at dksX1_energy_1 8 rfl rfl)
theorem dX1_energy_33 : decode cX1_energy 33 = .ok (.i2d, 1) := dk_135 (dk_at dksX1_energy_1 11 rfl rfl)
theorem dX1_energy_34 : decode cX1_energy 34 = .ok (.aload_n 2, 1) := dk_44 (dk_at dksX1_energy_1 12 rfl rfl)
theorem dX1_energy_35 : decode cX1_energy 35 = .ok (.aload 6, 2) := dk_25 6 (dk_at dksX1_energy_1 13 rfl rfl)
theorem dX1_energy_37 : decode cX1_energy 37 = .ok (.getfield 139, 3) := dk_180 0 139 (dk_at dksX1_energy_1 15 rfl rfl)
theorem dX1_energy_40 : decode cX1_energy 40 = .ok (.iload_n 1, 1) := dk_27 (dk_at dksX1_energy_1 18 rfl rfl)
theorem dX1_energy_41 : decode cX1_energy 41 = .ok (.invokevirtual 287, 3) := dk_182 1 31 (dk_at dksX1_energy_1 19 rfl rfl)
theorem dX1_energy_44 : decode cX1_energy 44 = .ok (.dmul, 1) := dk_107 (dk_at dksX1_energy_1 22 rfl rfl)
theorem dX1_energy_45 : decode cX1_energy 45 = .ok (.dadd, 1) := dk_99 (dk_at dksX1_energy_1 23 rfl rfl)
theorem dX1_energy_46 : decode cX1_energy 46 = .ok (.dstore_n 3, 1) := dk_74 (dk_at dksX1_energy_2 0 rfl rfl)
theorem dX1_energy_47 : decode cX1_energy 47 = .ok (.iinc 5 1, 3) := dk_132 5 1 (dk_at dksX1_energy_2 1 rfl rfl)
theorem dX1_energy_50 : decode cX1_energy 50 = .ok (.goto (-40), 3) := dk_167 255 216 (dk_at dksX1_energy_2 4 rfl rfl)
theorem dX1_energy_53 : decode cX1_energy 53 = .ok (.dload_n 3, 1) := dk_41 (dk_at dksX1_energy_2 7 rfl rfl)
theorem dX1_energy_54 : decode cX1_energy 54 = .ok (.ldc2_w 372, 3) := dk_20 1 116 (dk_at dksX1_energy_2 8 rfl rfl)
theorem dX1_energy_57 : decode cX1_energy 57 = .ok (.ddiv, 1) := dk_111 (dk_at dksX1_energy_2 11 rfl rfl)
theorem dX1_energy_58 : decode cX1_energy 58 = .ok (.dreturn, 1) := dk_175 (dk_at dksX1_energy_2 12 rfl rfl)
abbrev cX1_isZero : ByteArray := prog_1_method_66_code
def yX1_isZero : MethodName := ⟨RX1, "isZero", "(LMultipoleLine$Line;I)Z"⟩
def dkwX1_isZero_2 : List UInt8 := [3, 172]
abbrev dktX1_isZero_2 : List UInt8 := dkwX1_isZero_2 ++ []
def dkwX1_isZero_1 : List UInt8 := [24, 4, 14, 152, 158, 0, 16, 40, 14, 152, 157, 0, 14, 24, 4, 14, 151, 158, 0, 7, 4, 167, 0, 4]
abbrev dktX1_isZero_1 : List UInt8 := dkwX1_isZero_1 ++ dktX1_isZero_2
def dkwX1_isZero_0 : List UInt8 := [42, 27, 3, 182, 1, 78, 73, 42, 27, 4, 96, 3, 182, 1, 78, 57, 4, 40, 14, 151, 158, 0, 10]
abbrev dktX1_isZero_0 : List UInt8 := dkwX1_isZero_0 ++ dktX1_isZero_1
theorem dksX1_isZero_0 : cX1_isZero.data.toList.drop 0 = dktX1_isZero_0 := by decide +kernel
theorem dksX1_isZero_1 : cX1_isZero.data.toList.drop 23 = dktX1_isZero_1 := dk_seg dksX1_isZero_0 23 rfl rfl
theorem dksX1_isZero_2 : cX1_isZero.data.toList.drop 47 = dktX1_isZero_2 := dk_seg dksX1_isZero_1 24 rfl rfl
theorem dX1_isZero_0 : decode cX1_isZero 0 = .ok (.aload_n 0, 1) := dk_42 (dk_at dksX1_isZero_0 0 rfl rfl)
theorem dX1_isZero_1 : decode cX1_isZero 1 = .ok (.iload_n 1, 1) := dk_27 (dk_at dksX1_isZero_0 1 rfl rfl)
theorem dX1_isZero_2 : decode cX1_isZero 2 = .ok (.iconst 0, 1) := dk_3 (dk_at dksX1_isZero_0 2 rfl rfl)
theorem dX1_isZero_3 : decode cX1_isZero 3 = .ok (.invokevirtual 334, 3) := dk_182 1 78 (dk_at dksX1_isZero_0 3 rfl rfl)
theorem dX1_isZero_6 : decode cX1_isZero 6 = .ok (.dstore_n 2, 1) := dk_73 (dk_at dksX1_isZero_0 6 rfl rfl)
theorem dX1_isZero_7 : decode cX1_isZero 7 = .ok (.aload_n 0, 1) := dk_42 (dk_at dksX1_isZero_0 7 rfl rfl)
theorem dX1_isZero_8 : decode cX1_isZero 8 = .ok (.iload_n 1, 1) := dk_27 (dk_at dksX1_isZero_0 8 rfl rfl)
theorem dX1_isZero_9 : decode cX1_isZero 9 = .ok (.iconst 1, 1) := dk_4 (dk_at dksX1_isZero_0 9 rfl rfl)
theorem dX1_isZero_10 : decode cX1_isZero 10 = .ok (.iadd, 1) := dk_96 (dk_at dksX1_isZero_0 10 rfl rfl)
theorem dX1_isZero_11 : decode cX1_isZero 11 = .ok (.iconst 0, 1) := dk_3 (dk_at dksX1_isZero_0 11 rfl rfl)
theorem dX1_isZero_12 : decode cX1_isZero 12 = .ok (.invokevirtual 334, 3) := dk_182 1 78 (dk_at dksX1_isZero_0 12 rfl rfl)
theorem dX1_isZero_15 : decode cX1_isZero 15 = .ok (.dstore 4, 2) := dk_57 4 (dk_at dksX1_isZero_0 15 rfl rfl)
theorem dX1_isZero_17 : decode cX1_isZero 17 = .ok (.dload_n 2, 1) := dk_40 (dk_at dksX1_isZero_0 17 rfl rfl)
theorem dX1_isZero_18 : decode cX1_isZero 18 = .ok (.dconst 0, 1) := dk_14 (dk_at dksX1_isZero_0 18 rfl rfl)
theorem dX1_isZero_19 : decode cX1_isZero 19 = .ok (.dcmp .l, 1) := dk_151 (dk_at dksX1_isZero_0 19 rfl rfl)
theorem dX1_isZero_20 : decode cX1_isZero 20 = .ok (.ifCond .le 10, 3) := dk_158 0 10 (dk_at dksX1_isZero_0 20 rfl rfl)
theorem dX1_isZero_23 : decode cX1_isZero 23 = .ok (.dload 4, 2) := dk_24 4 (dk_at dksX1_isZero_1 0 rfl rfl)
theorem dX1_isZero_25 : decode cX1_isZero 25 = .ok (.dconst 0, 1) := dk_14 (dk_at dksX1_isZero_1 2 rfl rfl)
theorem dX1_isZero_26 : decode cX1_isZero 26 = .ok (.dcmp .g, 1) := dk_152 (dk_at dksX1_isZero_1 3 rfl rfl)
theorem dX1_isZero_27 : decode cX1_isZero 27 = .ok (.ifCond .le 16, 3) := dk_158 0 16 (dk_at dksX1_isZero_1 4 rfl rfl)
theorem dX1_isZero_30 : decode cX1_isZero 30 = .ok (.dload_n 2, 1) := dk_40 (dk_at dksX1_isZero_1 7 rfl rfl)
theorem dX1_isZero_31 : decode cX1_isZero 31 = .ok (.dconst 0, 1) := dk_14 (dk_at dksX1_isZero_1 8 rfl rfl)
theorem dX1_isZero_32 : decode cX1_isZero 32 = .ok (.dcmp .g, 1) := dk_152 (dk_at dksX1_isZero_1 9 rfl rfl)
theorem dX1_isZero_33 : decode cX1_isZero 33 = .ok (.ifCond .gt 14, 3) := dk_157 0 14 (dk_at dksX1_isZero_1 10 rfl rfl)
theorem dX1_isZero_36 : decode cX1_isZero 36 = .ok (.dload 4, 2) := dk_24 4 (dk_at dksX1_isZero_1 13 rfl rfl)
theorem dX1_isZero_38 : decode cX1_isZero 38 = .ok (.dconst 0, 1) := dk_14 (dk_at dksX1_isZero_1 15 rfl rfl)
theorem dX1_isZero_39 : decode cX1_isZero 39 = .ok (.dcmp .l, 1) := dk_151 (dk_at dksX1_isZero_1 16 rfl rfl)
theorem dX1_isZero_40 : decode cX1_isZero 40 = .ok (.ifCond .le 7, 3) := dk_158 0 7 (dk_at dksX1_isZero_1 17 rfl rfl)
theorem dX1_isZero_43 : decode cX1_isZero 43 = .ok (.iconst 1, 1) := dk_4 (dk_at dksX1_isZero_1 20 rfl rfl)
theorem dX1_isZero_44 : decode cX1_isZero 44 = .ok (.goto 4, 3) := dk_167 0 4 (dk_at dksX1_isZero_1 21 rfl rfl)
theorem dX1_isZero_47 : decode cX1_isZero 47 = .ok (.iconst 0, 1) := dk_3 (dk_at dksX1_isZero_2 0 rfl rfl)
theorem dX1_isZero_48 : decode cX1_isZero 48 = .ok (.ireturn, 1) := dk_172 (dk_at dksX1_isZero_2 1 rfl rfl)
abbrev cX1_nearestZero : ByteArray := prog_1_method_67_code
def yX1_nearestZero : MethodName := ⟨RX1, "nearestZero", "(I)I"⟩
def dkwX1_nearestZero_3 : List UInt8 := [132, 3, 1, 167, 255, 190, 2, 172]
abbrev dktX1_nearestZero_3 : List UInt8 := dkwX1_nearestZero_3 ++ []
def dkwX1_nearestZero_2 : List UInt8 := [9, 20, 1, 118, 184, 0, 58, 153, 0, 17, 44, 27, 29, 96, 184, 1, 120, 153, 0, 7, 27, 29, 96, 172]
abbrev dktX1_nearestZero_2 : List UInt8 := dkwX1_nearestZero_2 ++ dktX1_nearestZero_3
def dkwX1_nearestZero_1 : List UInt8 := [184, 0, 58, 153, 0, 17, 44, 27, 29, 100, 184, 1, 120, 153, 0, 7, 27, 29, 100, 172, 27, 29, 96, 133]
abbrev dktX1_nearestZero_1 : List UInt8 := dkwX1_nearestZero_1 ++ dktX1_nearestZero_2
def dkwX1_nearestZero_0 : List UInt8 := [42, 27, 182, 0, 193, 77, 3, 62, 29, 17, 1, 0, 162, 0, 65, 27, 29, 100, 133, 9, 20, 1, 118]
abbrev dktX1_nearestZero_0 : List UInt8 := dkwX1_nearestZero_0 ++ dktX1_nearestZero_1
theorem dksX1_nearestZero_0 : cX1_nearestZero.data.toList.drop 0 = dktX1_nearestZero_0 := by decide +kernel
theorem dksX1_nearestZero_1 : cX1_nearestZero.data.toList.drop 23 = dktX1_nearestZero_1 := dk_seg dksX1_nearestZero_0 23 rfl rfl
theorem dksX1_nearestZero_2 : cX1_nearestZero.data.toList.drop 47 = dktX1_nearestZero_2 := dk_seg dksX1_nearestZero_1 24 rfl rfl
theorem dksX1_nearestZero_3 : cX1_nearestZero.data.toList.drop 71 = dktX1_nearestZero_3 := dk_seg dksX1_nearestZero_2 24 rfl rfl
theorem dX1_nearestZero_0 : decode cX1_nearestZero 0 = .ok (.aload_n 0, 1) := dk_42 (dk_at dksX1_nearestZero_0 0 rfl rfl)
theorem dX1_nearestZero_1 : decode cX1_nearestZero 1 = .ok (.iload_n 1, 1) := dk_27 (dk_at dksX1_nearestZero_0 1 rfl rfl)
theorem dX1_nearestZero_2 : decode cX1_nearestZero 2 = .ok (.invokevirtual 193, 3) := dk_182 0 193 (dk_at dksX1_nearestZero_0 2 rfl rfl)
theorem dX1_nearestZero_5 : decode cX1_nearestZero 5 = .ok (.astore_n 2, 1) := dk_77 (dk_at dksX1_nearestZero_0 5 rfl rfl)
theorem dX1_nearestZero_6 : decode cX1_nearestZero 6 = .ok (.iconst 0, 1) := dk_3 (dk_at dksX1_nearestZero_0 6 rfl rfl)
theorem dX1_nearestZero_7 : decode cX1_nearestZero 7 = .ok (.istore_n 3, 1) := dk_62 (dk_at dksX1_nearestZero_0 7 rfl rfl)
theorem dX1_nearestZero_8 : decode cX1_nearestZero 8 = .ok (.iload_n 3, 1) := dk_29 (dk_at dksX1_nearestZero_0 8 rfl rfl)
theorem dX1_nearestZero_9 : decode cX1_nearestZero 9 = .ok (.sipush 256, 3) := dk_17 1 0 (dk_at dksX1_nearestZero_0 9 rfl rfl)
theorem dX1_nearestZero_12 : decode cX1_nearestZero 12 = .ok (.if_icmp .ge 65, 3) := dk_162 0 65 (dk_at dksX1_nearestZero_0 12 rfl rfl)
theorem dX1_nearestZero_15 : decode cX1_nearestZero 15 = .ok (.iload_n 1, 1) := dk_27 (dk_at dksX1_nearestZero_0 15 rfl rfl)
theorem dX1_nearestZero_16 : decode cX1_nearestZero 16 = .ok (.iload_n 3, 1) := dk_29 (dk_at dksX1_nearestZero_0 16 rfl rfl)
theorem dX1_nearestZero_17 : decode cX1_nearestZero 17 = .ok (.isub, 1) := dk_100 (dk_at dksX1_nearestZero_0 17 rfl rfl)
theorem dX1_nearestZero_18 : decode cX1_nearestZero 18 = .ok (.i2l, 1) := dk_133 (dk_at dksX1_nearestZero_0 18 rfl rfl)
theorem dX1_nearestZero_19 : decode cX1_nearestZero 19 = .ok (.lconst 0, 1) := dk_9 (dk_at dksX1_nearestZero_0 19 rfl rfl)
theorem dX1_nearestZero_20 : decode cX1_nearestZero 20 = .ok (.ldc2_w 374, 3) := dk_20 1 118 (dk_at dksX1_nearestZero_0 20 rfl rfl)
theorem dX1_nearestZero_23 : decode cX1_nearestZero 23 = .ok (.invokestatic 58, 3) := dk_184 0 58 (dk_at dksX1_nearestZero_1 0 rfl rfl)
theorem dX1_nearestZero_26 : decode cX1_nearestZero 26 = .ok (.ifCond .eq 17, 3) := dk_153 0 17 (dk_at dksX1_nearestZero_1 3 rfl rfl)
theorem dX1_nearestZero_29 : decode cX1_nearestZero 29 = .ok (.aload_n 2, 1) := dk_44 (dk_at dksX1_nearestZero_1 6 rfl rfl)
theorem dX1_nearestZero_30 : decode cX1_nearestZero 30 = .ok (.iload_n 1, 1) := dk_27 (dk_at dksX1_nearestZero_1 7 rfl rfl)
theorem dX1_nearestZero_31 : decode cX1_nearestZero 31 = .ok (.iload_n 3, 1) := dk_29 (dk_at dksX1_nearestZero_1 8 rfl rfl)
theorem dX1_nearestZero_32 : decode cX1_nearestZero 32 = .ok (.isub, 1) := dk_100 (dk_at dksX1_nearestZero_1 9 rfl rfl)
theorem dX1_nearestZero_33 : decode cX1_nearestZero 33 = .ok (.invokestatic 376, 3) := dk_184 1 120 (dk_at dksX1_nearestZero_1 10 rfl rfl)
theorem dX1_nearestZero_36 : decode cX1_nearestZero 36 = .ok (.ifCond .eq 7, 3) := dk_153 0 7 (dk_at dksX1_nearestZero_1 13 rfl rfl)
theorem dX1_nearestZero_39 : decode cX1_nearestZero 39 = .ok (.iload_n 1, 1) := dk_27 (dk_at dksX1_nearestZero_1 16 rfl rfl)
theorem dX1_nearestZero_40 : decode cX1_nearestZero 40 = .ok (.iload_n 3, 1) := dk_29 (dk_at dksX1_nearestZero_1 17 rfl rfl)
theorem dX1_nearestZero_41 : decode cX1_nearestZero 41 = .ok (.isub, 1) := dk_100 (dk_at dksX1_nearestZero_1 18 rfl rfl)
theorem dX1_nearestZero_42 : decode cX1_nearestZero 42 = .ok (.ireturn, 1) := dk_172 (dk_at dksX1_nearestZero_1 19 rfl rfl)
theorem dX1_nearestZero_43 : decode cX1_nearestZero 43 = .ok (.iload_n 1, 1) := dk_27 (dk_at dksX1_nearestZero_1 20 rfl rfl)
theorem dX1_nearestZero_44 : decode cX1_nearestZero 44 = .ok (.iload_n 3, 1) := dk_29 (dk_at dksX1_nearestZero_1 21 rfl rfl)
theorem dX1_nearestZero_45 : decode cX1_nearestZero 45 = .ok (.iadd, 1) := dk_96 (dk_at dksX1_nearestZero_1 22 rfl rfl)
theorem dX1_nearestZero_46 : decode cX1_nearestZero 46 = .ok (.i2l, 1) := dk_133 (dk_at dksX1_nearestZero_1 23 rfl rfl)
theorem dX1_nearestZero_47 : decode cX1_nearestZero 47 = .ok (.lconst 0, 1) := dk_9 (dk_at dksX1_nearestZero_2 0 rfl rfl)
theorem dX1_nearestZero_48 : decode cX1_nearestZero 48 = .ok (.ldc2_w 374, 3) := dk_20 1 118 (dk_at dksX1_nearestZero_2 1 rfl rfl)
theorem dX1_nearestZero_51 : decode cX1_nearestZero 51 = .ok (.invokestatic 58, 3) := dk_184 0 58 (dk_at dksX1_nearestZero_2 4 rfl rfl)
theorem dX1_nearestZero_54 : decode cX1_nearestZero 54 = .ok (.ifCond .eq 17, 3) := dk_153 0 17 (dk_at dksX1_nearestZero_2 7 rfl rfl)
theorem dX1_nearestZero_57 : decode cX1_nearestZero 57 = .ok (.aload_n 2, 1) := dk_44 (dk_at dksX1_nearestZero_2 10 rfl rfl)
theorem dX1_nearestZero_58 : decode cX1_nearestZero 58 = .ok (.iload_n 1, 1) := dk_27 (dk_at dksX1_nearestZero_2 11 rfl rfl)
theorem dX1_nearestZero_59 : decode cX1_nearestZero 59 = .ok (.iload_n 3, 1) := dk_29 (dk_at dksX1_nearestZero_2 12 rfl rfl)
theorem dX1_nearestZero_60 : decode cX1_nearestZero 60 = .ok (.iadd, 1) := dk_96 (dk_at dksX1_nearestZero_2 13 rfl rfl)
theorem dX1_nearestZero_61 : decode cX1_nearestZero 61 = .ok (.invokestatic 376, 3) := dk_184 1 120 (dk_at dksX1_nearestZero_2 14 rfl rfl)
theorem dX1_nearestZero_64 : decode cX1_nearestZero 64 = .ok (.ifCond .eq 7, 3) := dk_153 0 7 (dk_at dksX1_nearestZero_2 17 rfl rfl)
theorem dX1_nearestZero_67 : decode cX1_nearestZero 67 = .ok (.iload_n 1, 1) := dk_27 (dk_at dksX1_nearestZero_2 20 rfl rfl)
theorem dX1_nearestZero_68 : decode cX1_nearestZero 68 = .ok (.iload_n 3, 1) := dk_29 (dk_at dksX1_nearestZero_2 21 rfl rfl)
theorem dX1_nearestZero_69 : decode cX1_nearestZero 69 = .ok (.iadd, 1) := dk_96 (dk_at dksX1_nearestZero_2 22 rfl rfl)
theorem dX1_nearestZero_70 : decode cX1_nearestZero 70 = .ok (.ireturn, 1) := dk_172 (dk_at dksX1_nearestZero_2 23 rfl rfl)
theorem dX1_nearestZero_71 : decode cX1_nearestZero 71 = .ok (.iinc 3 1, 3) := dk_132 3 1 (dk_at dksX1_nearestZero_3 0 rfl rfl)
theorem dX1_nearestZero_74 : decode cX1_nearestZero 74 = .ok (.goto (-66), 3) := dk_167 255 190 (dk_at dksX1_nearestZero_3 3 rfl rfl)
theorem dX1_nearestZero_77 : decode cX1_nearestZero 77 = .ok (.iconst (-1), 1) := dk_2 (dk_at dksX1_nearestZero_3 6 rfl rfl)
theorem dX1_nearestZero_78 : decode cX1_nearestZero 78 = .ok (.ireturn, 1) := dk_172 (dk_at dksX1_nearestZero_3 7 rfl rfl)
abbrev cX1_isPair : ByteArray := prog_1_method_68_code
def yX1_isPair : MethodName := ⟨RX1, "isPair", "(LMultipoleLine$Line;LMultipoleLine$Body;LMultipoleLine$Body;I)Z"⟩
def dkwX1_isPair_6 : List UInt8 := [182, 0, 184, 166, 0, 7, 4, 167, 0, 4, 3, 172]
abbrev dktX1_isPair_6 : List UInt8 := dkwX1_isPair_6 ++ []
def dkwX1_isPair_5 : List UInt8 := [44, 180, 0, 139, 182, 1, 124, 167, 0, 27, 42, 43, 180, 0, 139, 182, 0, 184, 42, 44, 180, 0, 139]
abbrev dktX1_isPair_5 : List UInt8 := dkwX1_isPair_5 ++ dktX1_isPair_6
def dkwX1_isPair_4 : List UInt8 := [180, 0, 177, 156, 0, 7, 4, 167, 0, 4, 3, 159, 0, 7, 4, 167, 0, 43, 3, 167, 0, 39, 42, 43]
abbrev dktX1_isPair_4 : List UInt8 := dkwX1_isPair_4 ++ dktX1_isPair_5
def dkwX1_isPair_3 : List UInt8 := [160, 0, 7, 4, 167, 0, 78, 3, 167, 0, 74, 43, 180, 0, 177, 156, 0, 7, 4, 167, 0, 4, 3, 44]
abbrev dktX1_isPair_3 : List UInt8 := dkwX1_isPair_3 ++ dktX1_isPair_4
def dkwX1_isPair_2 : List UInt8 := [43, 180, 0, 177, 156, 0, 7, 4, 167, 0, 4, 3, 44, 180, 0, 177, 156, 0, 7, 4, 167, 0, 4, 3]
abbrev dktX1_isPair_2 : List UInt8 := dkwX1_isPair_2 ++ dktX1_isPair_3
def dkwX1_isPair_1 : List UInt8 := [170, 0, 0, 0, 0, 0, 109, 0, 0, 0, 0, 0, 0, 0, 2, 0, 0, 0, 27, 0, 0, 0, 62, 0, 0, 0, 97]
abbrev dktX1_isPair_1 : List UInt8 := dkwX1_isPair_1 ++ dktX1_isPair_2
def dkwX1_isPair_0 : List UInt8 := [29]
abbrev dktX1_isPair_0 : List UInt8 := dkwX1_isPair_0 ++ dktX1_isPair_1
theorem dksX1_isPair_0 : cX1_isPair.data.toList.drop 0 = dktX1_isPair_0 := by decide +kernel
theorem dksX1_isPair_1 : cX1_isPair.data.toList.drop 1 = dktX1_isPair_1 := dk_seg dksX1_isPair_0 1 rfl rfl
theorem dksX1_isPair_2 : cX1_isPair.data.toList.drop 28 = dktX1_isPair_2 := dk_seg dksX1_isPair_1 27 rfl rfl
theorem dksX1_isPair_3 : cX1_isPair.data.toList.drop 52 = dktX1_isPair_3 := dk_seg dksX1_isPair_2 24 rfl rfl
theorem dksX1_isPair_4 : cX1_isPair.data.toList.drop 76 = dktX1_isPair_4 := dk_seg dksX1_isPair_3 24 rfl rfl
theorem dksX1_isPair_5 : cX1_isPair.data.toList.drop 100 = dktX1_isPair_5 := dk_seg dksX1_isPair_4 24 rfl rfl
theorem dksX1_isPair_6 : cX1_isPair.data.toList.drop 123 = dktX1_isPair_6 := dk_seg dksX1_isPair_5 23 rfl rfl
theorem dX1_isPair_0 : decode cX1_isPair 0 = .ok (.iload_n 3, 1) := dk_29 (dk_at dksX1_isPair_0 0 rfl rfl)
theorem dX1_isPair_1 : decode cX1_isPair 1 = .ok (.tableswitch 109 0 2 #[27, 62, 97], 27) := by decide +kernel
theorem dX1_isPair_28 : decode cX1_isPair 28 = .ok (.aload_n 1, 1) := dk_43 (dk_at dksX1_isPair_2 0 rfl rfl)
theorem dX1_isPair_29 : decode cX1_isPair 29 = .ok (.getfield 177, 3) := dk_180 0 177 (dk_at dksX1_isPair_2 1 rfl rfl)
theorem dX1_isPair_32 : decode cX1_isPair 32 = .ok (.ifCond .ge 7, 3) := dk_156 0 7 (dk_at dksX1_isPair_2 4 rfl rfl)
theorem dX1_isPair_35 : decode cX1_isPair 35 = .ok (.iconst 1, 1) := dk_4 (dk_at dksX1_isPair_2 7 rfl rfl)
theorem dX1_isPair_36 : decode cX1_isPair 36 = .ok (.goto 4, 3) := dk_167 0 4 (dk_at dksX1_isPair_2 8 rfl rfl)
theorem dX1_isPair_39 : decode cX1_isPair 39 = .ok (.iconst 0, 1) := dk_3 (dk_at dksX1_isPair_2 11 rfl rfl)
theorem dX1_isPair_40 : decode cX1_isPair 40 = .ok (.aload_n 2, 1) := dk_44 (dk_at dksX1_isPair_2 12 rfl rfl)
theorem dX1_isPair_41 : decode cX1_isPair 41 = .ok (.getfield 177, 3) := dk_180 0 177 (dk_at dksX1_isPair_2 13 rfl rfl)
theorem dX1_isPair_44 : decode cX1_isPair 44 = .ok (.ifCond .ge 7, 3) := dk_156 0 7 (dk_at dksX1_isPair_2 16 rfl rfl)
theorem dX1_isPair_47 : decode cX1_isPair 47 = .ok (.iconst 1, 1) := dk_4 (dk_at dksX1_isPair_2 19 rfl rfl)
theorem dX1_isPair_48 : decode cX1_isPair 48 = .ok (.goto 4, 3) := dk_167 0 4 (dk_at dksX1_isPair_2 20 rfl rfl)
theorem dX1_isPair_51 : decode cX1_isPair 51 = .ok (.iconst 0, 1) := dk_3 (dk_at dksX1_isPair_2 23 rfl rfl)
theorem dX1_isPair_52 : decode cX1_isPair 52 = .ok (.if_icmp .ne 7, 3) := dk_160 0 7 (dk_at dksX1_isPair_3 0 rfl rfl)
theorem dX1_isPair_55 : decode cX1_isPair 55 = .ok (.iconst 1, 1) := dk_4 (dk_at dksX1_isPair_3 3 rfl rfl)
theorem dX1_isPair_56 : decode cX1_isPair 56 = .ok (.goto 78, 3) := dk_167 0 78 (dk_at dksX1_isPair_3 4 rfl rfl)
theorem dX1_isPair_59 : decode cX1_isPair 59 = .ok (.iconst 0, 1) := dk_3 (dk_at dksX1_isPair_3 7 rfl rfl)
theorem dX1_isPair_60 : decode cX1_isPair 60 = .ok (.goto 74, 3) := dk_167 0 74 (dk_at dksX1_isPair_3 8 rfl rfl)
theorem dX1_isPair_63 : decode cX1_isPair 63 = .ok (.aload_n 1, 1) := dk_43 (dk_at dksX1_isPair_3 11 rfl rfl)
theorem dX1_isPair_64 : decode cX1_isPair 64 = .ok (.getfield 177, 3) := dk_180 0 177 (dk_at dksX1_isPair_3 12 rfl rfl)
theorem dX1_isPair_67 : decode cX1_isPair 67 = .ok (.ifCond .ge 7, 3) := dk_156 0 7 (dk_at dksX1_isPair_3 15 rfl rfl)
theorem dX1_isPair_70 : decode cX1_isPair 70 = .ok (.iconst 1, 1) := dk_4 (dk_at dksX1_isPair_3 18 rfl rfl)
theorem dX1_isPair_71 : decode cX1_isPair 71 = .ok (.goto 4, 3) := dk_167 0 4 (dk_at dksX1_isPair_3 19 rfl rfl)
theorem dX1_isPair_74 : decode cX1_isPair 74 = .ok (.iconst 0, 1) := dk_3 (dk_at dksX1_isPair_3 22 rfl rfl)
theorem dX1_isPair_75 : decode cX1_isPair 75 = .ok (.aload_n 2, 1) := dk_44 (dk_at dksX1_isPair_3 23 rfl rfl)
theorem dX1_isPair_76 : decode cX1_isPair 76 = .ok (.getfield 177, 3) := dk_180 0 177 (dk_at dksX1_isPair_4 0 rfl rfl)
theorem dX1_isPair_79 : decode cX1_isPair 79 = .ok (.ifCond .ge 7, 3) := dk_156 0 7 (dk_at dksX1_isPair_4 3 rfl rfl)
theorem dX1_isPair_82 : decode cX1_isPair 82 = .ok (.iconst 1, 1) := dk_4 (dk_at dksX1_isPair_4 6 rfl rfl)
theorem dX1_isPair_83 : decode cX1_isPair 83 = .ok (.goto 4, 3) := dk_167 0 4 (dk_at dksX1_isPair_4 7 rfl rfl)
theorem dX1_isPair_86 : decode cX1_isPair 86 = .ok (.iconst 0, 1) := dk_3 (dk_at dksX1_isPair_4 10 rfl rfl)
theorem dX1_isPair_87 : decode cX1_isPair 87 = .ok (.if_icmp .eq 7, 3) := dk_159 0 7 (dk_at dksX1_isPair_4 11 rfl rfl)
theorem dX1_isPair_90 : decode cX1_isPair 90 = .ok (.iconst 1, 1) := dk_4 (dk_at dksX1_isPair_4 14 rfl rfl)
theorem dX1_isPair_91 : decode cX1_isPair 91 = .ok (.goto 43, 3) := dk_167 0 43 (dk_at dksX1_isPair_4 15 rfl rfl)
theorem dX1_isPair_94 : decode cX1_isPair 94 = .ok (.iconst 0, 1) := dk_3 (dk_at dksX1_isPair_4 18 rfl rfl)
theorem dX1_isPair_95 : decode cX1_isPair 95 = .ok (.goto 39, 3) := dk_167 0 39 (dk_at dksX1_isPair_4 19 rfl rfl)
theorem dX1_isPair_98 : decode cX1_isPair 98 = .ok (.aload_n 0, 1) := dk_42 (dk_at dksX1_isPair_4 22 rfl rfl)
theorem dX1_isPair_99 : decode cX1_isPair 99 = .ok (.aload_n 1, 1) := dk_43 (dk_at dksX1_isPair_4 23 rfl rfl)
theorem dX1_isPair_100 : decode cX1_isPair 100 = .ok (.aload_n 2, 1) := dk_44 (dk_at dksX1_isPair_5 0 rfl rfl)
theorem dX1_isPair_101 : decode cX1_isPair 101 = .ok (.getfield 139, 3) := dk_180 0 139 (dk_at dksX1_isPair_5 1 rfl rfl)
theorem dX1_isPair_104 : decode cX1_isPair 104 = .ok (.invokevirtual 380, 3) := dk_182 1 124 (dk_at dksX1_isPair_5 4 rfl rfl)
theorem dX1_isPair_107 : decode cX1_isPair 107 = .ok (.goto 27, 3) := dk_167 0 27 (dk_at dksX1_isPair_5 7 rfl rfl)
theorem dX1_isPair_110 : decode cX1_isPair 110 = .ok (.aload_n 0, 1) := dk_42 (dk_at dksX1_isPair_5 10 rfl rfl)
theorem dX1_isPair_111 : decode cX1_isPair 111 = .ok (.aload_n 1, 1) := dk_43 (dk_at dksX1_isPair_5 11 rfl rfl)
theorem dX1_isPair_112 : decode cX1_isPair 112 = .ok (.getfield 139, 3) := dk_180 0 139 (dk_at dksX1_isPair_5 12 rfl rfl)
theorem dX1_isPair_115 : decode cX1_isPair 115 = .ok (.invokevirtual 184, 3) := dk_182 0 184 (dk_at dksX1_isPair_5 15 rfl rfl)
theorem dX1_isPair_118 : decode cX1_isPair 118 = .ok (.aload_n 0, 1) := dk_42 (dk_at dksX1_isPair_5 18 rfl rfl)
theorem dX1_isPair_119 : decode cX1_isPair 119 = .ok (.aload_n 2, 1) := dk_44 (dk_at dksX1_isPair_5 19 rfl rfl)
theorem dX1_isPair_120 : decode cX1_isPair 120 = .ok (.getfield 139, 3) := dk_180 0 139 (dk_at dksX1_isPair_5 20 rfl rfl)
theorem dX1_isPair_123 : decode cX1_isPair 123 = .ok (.invokevirtual 184, 3) := dk_182 0 184 (dk_at dksX1_isPair_6 0 rfl rfl)
theorem dX1_isPair_126 : decode cX1_isPair 126 = .ok (.if_acmp .ne 7, 3) := dk_166 0 7 (dk_at dksX1_isPair_6 3 rfl rfl)
theorem dX1_isPair_129 : decode cX1_isPair 129 = .ok (.iconst 1, 1) := dk_4 (dk_at dksX1_isPair_6 6 rfl rfl)
theorem dX1_isPair_130 : decode cX1_isPair 130 = .ok (.goto 4, 3) := dk_167 0 4 (dk_at dksX1_isPair_6 7 rfl rfl)
theorem dX1_isPair_133 : decode cX1_isPair 133 = .ok (.iconst 0, 1) := dk_3 (dk_at dksX1_isPair_6 10 rfl rfl)
theorem dX1_isPair_134 : decode cX1_isPair 134 = .ok (.ireturn, 1) := dk_172 (dk_at dksX1_isPair_6 11 rfl rfl)
abbrev cX1_pairs : ByteArray := prog_1_method_69_code
def yX1_pairs : MethodName := ⟨RX1, "pairs", "(I)I"⟩
def dkwX1_pairs_4 : List UInt8 := [132, 5, 1, 167, 255, 194, 132, 4, 1, 167, 255, 176, 29, 172]
abbrev dktX1_pairs_4 : List UInt8 := dkwX1_pairs_4 ++ []
def dkwX1_pairs_3 : List UInt8 := [44, 25, 6, 25, 7, 27, 184, 1, 130, 153, 0, 7, 4, 167, 0, 4, 3, 184, 0, 180, 96, 62]
abbrev dktX1_pairs_3 : List UInt8 := dkwX1_pairs_3 ++ dktX1_pairs_4
def dkwX1_pairs_2 : List UInt8 := [58, 6, 44, 21, 5, 182, 0, 88, 58, 7, 29, 25, 6, 180, 0, 139, 25, 7, 180, 0, 139, 159, 0, 19]
abbrev dktX1_pairs_2 : List UInt8 := dkwX1_pairs_2 ++ dktX1_pairs_3
def dkwX1_pairs_1 : List UInt8 := [44, 182, 0, 80, 162, 0, 77, 3, 54, 5, 21, 5, 21, 4, 162, 0, 61, 44, 21, 4, 182, 0, 88]
abbrev dktX1_pairs_1 : List UInt8 := dkwX1_pairs_1 ++ dktX1_pairs_2
def dkwX1_pairs_0 : List UInt8 := [42, 182, 0, 76, 77, 27, 133, 9, 20, 1, 128, 184, 0, 58, 184, 0, 98, 3, 62, 3, 54, 4, 21, 4]
abbrev dktX1_pairs_0 : List UInt8 := dkwX1_pairs_0 ++ dktX1_pairs_1
theorem dksX1_pairs_0 : cX1_pairs.data.toList.drop 0 = dktX1_pairs_0 := by decide +kernel
theorem dksX1_pairs_1 : cX1_pairs.data.toList.drop 24 = dktX1_pairs_1 := dk_seg dksX1_pairs_0 24 rfl rfl
theorem dksX1_pairs_2 : cX1_pairs.data.toList.drop 47 = dktX1_pairs_2 := dk_seg dksX1_pairs_1 23 rfl rfl
theorem dksX1_pairs_3 : cX1_pairs.data.toList.drop 71 = dktX1_pairs_3 := dk_seg dksX1_pairs_2 24 rfl rfl
theorem dksX1_pairs_4 : cX1_pairs.data.toList.drop 93 = dktX1_pairs_4 := dk_seg dksX1_pairs_3 22 rfl rfl
theorem dX1_pairs_0 : decode cX1_pairs 0 = .ok (.aload_n 0, 1) := dk_42 (dk_at dksX1_pairs_0 0 rfl rfl)
theorem dX1_pairs_1 : decode cX1_pairs 1 = .ok (.invokevirtual 76, 3) := dk_182 0 76 (dk_at dksX1_pairs_0 1 rfl rfl)
theorem dX1_pairs_4 : decode cX1_pairs 4 = .ok (.astore_n 2, 1) := dk_77 (dk_at dksX1_pairs_0 4 rfl rfl)
theorem dX1_pairs_5 : decode cX1_pairs 5 = .ok (.iload_n 1, 1) := dk_27 (dk_at dksX1_pairs_0 5 rfl rfl)
theorem dX1_pairs_6 : decode cX1_pairs 6 = .ok (.i2l, 1) := dk_133 (dk_at dksX1_pairs_0 6 rfl rfl)
theorem dX1_pairs_7 : decode cX1_pairs 7 = .ok (.lconst 0, 1) := dk_9 (dk_at dksX1_pairs_0 7 rfl rfl)
theorem dX1_pairs_8 : decode cX1_pairs 8 = .ok (.ldc2_w 384, 3) := dk_20 1 128 (dk_at dksX1_pairs_0 8 rfl rfl)
theorem dX1_pairs_11 : decode cX1_pairs 11 = .ok (.invokestatic 58, 3) := dk_184 0 58 (dk_at dksX1_pairs_0 11 rfl rfl)
theorem dX1_pairs_14 : decode cX1_pairs 14 = .ok (.invokestatic 98, 3) := dk_184 0 98 (dk_at dksX1_pairs_0 14 rfl rfl)
theorem dX1_pairs_17 : decode cX1_pairs 17 = .ok (.iconst 0, 1) := dk_3 (dk_at dksX1_pairs_0 17 rfl rfl)
theorem dX1_pairs_18 : decode cX1_pairs 18 = .ok (.istore_n 3, 1) := dk_62 (dk_at dksX1_pairs_0 18 rfl rfl)
theorem dX1_pairs_19 : decode cX1_pairs 19 = .ok (.iconst 0, 1) := dk_3 (dk_at dksX1_pairs_0 19 rfl rfl)
theorem dX1_pairs_20 : decode cX1_pairs 20 = .ok (.istore 4, 2) := dk_54 4 (dk_at dksX1_pairs_0 20 rfl rfl)
theorem dX1_pairs_22 : decode cX1_pairs 22 = .ok (.iload 4, 2) := dk_21 4 (dk_at dksX1_pairs_0 22 rfl rfl)
theorem dX1_pairs_24 : decode cX1_pairs 24 = .ok (.aload_n 2, 1) := dk_44 (dk_at dksX1_pairs_1 0 rfl rfl)
theorem dX1_pairs_25 : decode cX1_pairs 25 = .ok (.invokevirtual 80, 3) := dk_182 0 80 (dk_at dksX1_pairs_1 1 rfl rfl)
theorem dX1_pairs_28 : decode cX1_pairs 28 = .ok (.if_icmp .ge 77, 3) := dk_162 0 77 (dk_at dksX1_pairs_1 4 rfl rfl)
theorem dX1_pairs_31 : decode cX1_pairs 31 = .ok (.iconst 0, 1) := dk_3 (dk_at dksX1_pairs_1 7 rfl rfl)
theorem dX1_pairs_32 : decode cX1_pairs 32 = .ok (.istore 5, 2) := dk_54 5 (dk_at dksX1_pairs_1 8 rfl rfl)
theorem dX1_pairs_34 : decode cX1_pairs 34 = .ok (.iload 5, 2) := dk_21 5 (dk_at dksX1_pairs_1 10 rfl rfl)
theorem dX1_pairs_36 : decode cX1_pairs 36 = .ok (.iload 4, 2) := dk_21 4 (dk_at dksX1_pairs_1 12 rfl rfl)
theorem dX1_pairs_38 : decode cX1_pairs 38 = .ok (.if_icmp .ge 61, 3) := dk_162 0 61 (dk_at dksX1_pairs_1 14 rfl rfl)
theorem dX1_pairs_41 : decode cX1_pairs 41 = .ok (.aload_n 2, 1) := dk_44 (dk_at dksX1_pairs_1 17 rfl rfl)
theorem dX1_pairs_42 : decode cX1_pairs 42 = .ok (.iload 4, 2) := dk_21 4 (dk_at dksX1_pairs_1 18 rfl rfl)
theorem dX1_pairs_44 : decode cX1_pairs 44 = .ok (.invokevirtual 88, 3) := dk_182 0 88 (dk_at dksX1_pairs_1 20 rfl rfl)
theorem dX1_pairs_47 : decode cX1_pairs 47 = .ok (.astore 6, 2) := dk_58 6 (dk_at dksX1_pairs_2 0 rfl rfl)
theorem dX1_pairs_49 : decode cX1_pairs 49 = .ok (.aload_n 2, 1) := dk_44 (dk_at dksX1_pairs_2 2 rfl rfl)
theorem dX1_pairs_50 : decode cX1_pairs 50 = .ok (.iload 5, 2) := dk_21 5 (dk_at dksX1_pairs_2 3 rfl rfl)
theorem dX1_pairs_52 : decode cX1_pairs 52 = .ok (.invokevirtual 88, 3) := dk_182 0 88 (dk_at dksX1_pairs_2 5 rfl rfl)
theorem dX1_pairs_55 : decode cX1_pairs 55 = .ok (.astore 7, 2) := dk_58 7 (dk_at dksX1_pairs_2 8 rfl rfl)
theorem dX1_pairs_57 : decode cX1_pairs 57 = .ok (.iload_n 3, 1) := dk_29 (dk_at dksX1_pairs_2 10 rfl rfl)
theorem dX1_pairs_58 : decode cX1_pairs 58 = .ok (.aload 6, 2) := dk_25 6 (dk_at dksX1_pairs_2 11 rfl rfl)
theorem dX1_pairs_60 : decode cX1_pairs 60 = .ok (.getfield 139, 3) := dk_180 0 139 (dk_at dksX1_pairs_2 13 rfl rfl)
theorem dX1_pairs_63 : decode cX1_pairs 63 = .ok (.aload 7, 2) := dk_25 7 (dk_at dksX1_pairs_2 16 rfl rfl)
theorem dX1_pairs_65 : decode cX1_pairs 65 = .ok (.getfield 139, 3) := dk_180 0 139 (dk_at dksX1_pairs_2 18 rfl rfl)
theorem dX1_pairs_68 : decode cX1_pairs 68 = .ok (.if_icmp .eq 19, 3) := dk_159 0 19 (dk_at dksX1_pairs_2 21 rfl rfl)
theorem dX1_pairs_71 : decode cX1_pairs 71 = .ok (.aload_n 2, 1) := dk_44 (dk_at dksX1_pairs_3 0 rfl rfl)
theorem dX1_pairs_72 : decode cX1_pairs 72 = .ok (.aload 6, 2) := dk_25 6 (dk_at dksX1_pairs_3 1 rfl rfl)
theorem dX1_pairs_74 : decode cX1_pairs 74 = .ok (.aload 7, 2) := dk_25 7 (dk_at dksX1_pairs_3 3 rfl rfl)
theorem dX1_pairs_76 : decode cX1_pairs 76 = .ok (.iload_n 1, 1) := dk_27 (dk_at dksX1_pairs_3 5 rfl rfl)
theorem dX1_pairs_77 : decode cX1_pairs 77 = .ok (.invokestatic 386, 3) := dk_184 1 130 (dk_at dksX1_pairs_3 6 rfl rfl)
theorem dX1_pairs_80 : decode cX1_pairs 80 = .ok (.ifCond .eq 7, 3) := dk_153 0 7 (dk_at dksX1_pairs_3 9 rfl rfl)
theorem dX1_pairs_83 : decode cX1_pairs 83 = .ok (.iconst 1, 1) := dk_4 (dk_at dksX1_pairs_3 12 rfl rfl)
theorem dX1_pairs_84 : decode cX1_pairs 84 = .ok (.goto 4, 3) := dk_167 0 4 (dk_at dksX1_pairs_3 13 rfl rfl)
theorem dX1_pairs_87 : decode cX1_pairs 87 = .ok (.iconst 0, 1) := dk_3 (dk_at dksX1_pairs_3 16 rfl rfl)
theorem dX1_pairs_88 : decode cX1_pairs 88 = .ok (.invokestatic 180, 3) := dk_184 0 180 (dk_at dksX1_pairs_3 17 rfl rfl)
theorem dX1_pairs_91 : decode cX1_pairs 91 = .ok (.iadd, 1) := dk_96 (dk_at dksX1_pairs_3 20 rfl rfl)
theorem dX1_pairs_92 : decode cX1_pairs 92 = .ok (.istore_n 3, 1) := dk_62 (dk_at dksX1_pairs_3 21 rfl rfl)
theorem dX1_pairs_93 : decode cX1_pairs 93 = .ok (.iinc 5 1, 3) := dk_132 5 1 (dk_at dksX1_pairs_4 0 rfl rfl)
theorem dX1_pairs_96 : decode cX1_pairs 96 = .ok (.goto (-62), 3) := dk_167 255 194 (dk_at dksX1_pairs_4 3 rfl rfl)
theorem dX1_pairs_99 : decode cX1_pairs 99 = .ok (.iinc 4 1, 3) := dk_132 4 1 (dk_at dksX1_pairs_4 6 rfl rfl)
theorem dX1_pairs_102 : decode cX1_pairs 102 = .ok (.goto (-80), 3) := dk_167 255 176 (dk_at dksX1_pairs_4 9 rfl rfl)
theorem dX1_pairs_105 : decode cX1_pairs 105 = .ok (.iload_n 3, 1) := dk_29 (dk_at dksX1_pairs_4 12 rfl rfl)
theorem dX1_pairs_106 : decode cX1_pairs 106 = .ok (.ireturn, 1) := dk_172 (dk_at dksX1_pairs_4 13 rfl rfl)
abbrev cX1_balance : ByteArray := prog_1_method_70_code
def yX1_balance : MethodName := ⟨RX1, "balance", "()F"⟩
def dkwX1_balance_1 : List UInt8 := [182, 0, 155, 134, 110, 174]
abbrev dktX1_balance_1 : List UInt8 := dkwX1_balance_1 ++ []
def dkwX1_balance_0 : List UInt8 := [42, 182, 0, 76, 76, 43, 182, 0, 80, 154, 0, 7, 11, 167, 0, 14, 43, 182, 0, 152, 134, 43]
abbrev dktX1_balance_0 : List UInt8 := dkwX1_balance_0 ++ dktX1_balance_1
theorem dksX1_balance_0 : cX1_balance.data.toList.drop 0 = dktX1_balance_0 := by decide +kernel
theorem dksX1_balance_1 : cX1_balance.data.toList.drop 22 = dktX1_balance_1 := dk_seg dksX1_balance_0 22 rfl rfl
theorem dX1_balance_0 : decode cX1_balance 0 = .ok (.aload_n 0, 1) := dk_42 (dk_at dksX1_balance_0 0 rfl rfl)
theorem dX1_balance_1 : decode cX1_balance 1 = .ok (.invokevirtual 76, 3) := dk_182 0 76 (dk_at dksX1_balance_0 1 rfl rfl)
theorem dX1_balance_4 : decode cX1_balance 4 = .ok (.astore_n 1, 1) := dk_76 (dk_at dksX1_balance_0 4 rfl rfl)
theorem dX1_balance_5 : decode cX1_balance 5 = .ok (.aload_n 1, 1) := dk_43 (dk_at dksX1_balance_0 5 rfl rfl)
theorem dX1_balance_6 : decode cX1_balance 6 = .ok (.invokevirtual 80, 3) := dk_182 0 80 (dk_at dksX1_balance_0 6 rfl rfl)
theorem dX1_balance_9 : decode cX1_balance 9 = .ok (.ifCond .ne 7, 3) := dk_154 0 7 (dk_at dksX1_balance_0 9 rfl rfl)
theorem dX1_balance_12 : decode cX1_balance 12 = .ok (.fconst 0, 1) := dk_11 (dk_at dksX1_balance_0 12 rfl rfl)
theorem dX1_balance_13 : decode cX1_balance 13 = .ok (.goto 14, 3) := dk_167 0 14 (dk_at dksX1_balance_0 13 rfl rfl)
theorem dX1_balance_16 : decode cX1_balance 16 = .ok (.aload_n 1, 1) := dk_43 (dk_at dksX1_balance_0 16 rfl rfl)
theorem dX1_balance_17 : decode cX1_balance 17 = .ok (.invokevirtual 152, 3) := dk_182 0 152 (dk_at dksX1_balance_0 17 rfl rfl)
theorem dX1_balance_20 : decode cX1_balance 20 = .ok (.i2f, 1) := dk_134 (dk_at dksX1_balance_0 20 rfl rfl)
theorem dX1_balance_21 : decode cX1_balance 21 = .ok (.aload_n 1, 1) := dk_43 (dk_at dksX1_balance_0 21 rfl rfl)
theorem dX1_balance_22 : decode cX1_balance 22 = .ok (.invokevirtual 155, 3) := dk_182 0 155 (dk_at dksX1_balance_1 0 rfl rfl)
theorem dX1_balance_25 : decode cX1_balance 25 = .ok (.i2f, 1) := dk_134 (dk_at dksX1_balance_1 3 rfl rfl)
theorem dX1_balance_26 : decode cX1_balance 26 = .ok (.fdiv, 1) := dk_110 (dk_at dksX1_balance_1 4 rfl rfl)
theorem dX1_balance_27 : decode cX1_balance 27 = .ok (.freturn, 1) := dk_174 (dk_at dksX1_balance_1 5 rfl rfl)
abbrev cX1_balanceBits : ByteArray := prog_1_method_71_code
def yX1_balanceBits : MethodName := ⟨RX1, "balanceBits", "()I"⟩
def dkwX1_balanceBits_0 : List UInt8 := [42, 182, 1, 134, 184, 1, 138, 172]
abbrev dktX1_balanceBits_0 : List UInt8 := dkwX1_balanceBits_0 ++ []
theorem dksX1_balanceBits_0 : cX1_balanceBits.data.toList.drop 0 = dktX1_balanceBits_0 := by decide +kernel
theorem dX1_balanceBits_0 : decode cX1_balanceBits 0 = .ok (.aload_n 0, 1) := dk_42 (dk_at dksX1_balanceBits_0 0 rfl rfl)
theorem dX1_balanceBits_1 : decode cX1_balanceBits 1 = .ok (.invokevirtual 390, 3) := dk_182 1 134 (dk_at dksX1_balanceBits_0 1 rfl rfl)
theorem dX1_balanceBits_4 : decode cX1_balanceBits 4 = .ok (.invokestatic 394, 3) := dk_184 1 138 (dk_at dksX1_balanceBits_0 4 rfl rfl)
theorem dX1_balanceBits_7 : decode cX1_balanceBits 7 = .ok (.ireturn, 1) := dk_172 (dk_at dksX1_balanceBits_0 7 rfl rfl)
abbrev cX1_meanX : ByteArray := prog_1_method_72_code
def yX1_meanX : MethodName := ⟨RX1, "meanX", "()D"⟩
def dkwX1_meanX_2 : List UInt8 := [43, 182, 0, 80, 135, 111, 175]
abbrev dktX1_meanX_2 : List UInt8 := dkwX1_meanX_2 ++ []
def dkwX1_meanX_1 : List UInt8 := [180, 0, 139, 96, 61, 132, 3, 1, 167, 255, 234, 43, 182, 0, 80, 154, 0, 7, 14, 167, 0, 11, 28, 135]
abbrev dktX1_meanX_1 : List UInt8 := dkwX1_meanX_1 ++ dktX1_meanX_2
def dkwX1_meanX_0 : List UInt8 := [42, 182, 0, 76, 76, 3, 61, 3, 62, 29, 43, 182, 0, 80, 162, 0, 20, 28, 43, 29, 182, 0, 88]
abbrev dktX1_meanX_0 : List UInt8 := dkwX1_meanX_0 ++ dktX1_meanX_1
theorem dksX1_meanX_0 : cX1_meanX.data.toList.drop 0 = dktX1_meanX_0 := by decide +kernel
theorem dksX1_meanX_1 : cX1_meanX.data.toList.drop 23 = dktX1_meanX_1 := dk_seg dksX1_meanX_0 23 rfl rfl
theorem dksX1_meanX_2 : cX1_meanX.data.toList.drop 47 = dktX1_meanX_2 := dk_seg dksX1_meanX_1 24 rfl rfl
theorem dX1_meanX_0 : decode cX1_meanX 0 = .ok (.aload_n 0, 1) := dk_42 (dk_at dksX1_meanX_0 0 rfl rfl)
theorem dX1_meanX_1 : decode cX1_meanX 1 = .ok (.invokevirtual 76, 3) := dk_182 0 76 (dk_at dksX1_meanX_0 1 rfl rfl)
theorem dX1_meanX_4 : decode cX1_meanX 4 = .ok (.astore_n 1, 1) := dk_76 (dk_at dksX1_meanX_0 4 rfl rfl)
theorem dX1_meanX_5 : decode cX1_meanX 5 = .ok (.iconst 0, 1) := dk_3 (dk_at dksX1_meanX_0 5 rfl rfl)
theorem dX1_meanX_6 : decode cX1_meanX 6 = .ok (.istore_n 2, 1) := dk_61 (dk_at dksX1_meanX_0 6 rfl rfl)
theorem dX1_meanX_7 : decode cX1_meanX 7 = .ok (.iconst 0, 1) := dk_3 (dk_at dksX1_meanX_0 7 rfl rfl)
theorem dX1_meanX_8 : decode cX1_meanX 8 = .ok (.istore_n 3, 1) := dk_62 (dk_at dksX1_meanX_0 8 rfl rfl)
theorem dX1_meanX_9 : decode cX1_meanX 9 = .ok (.iload_n 3, 1) := dk_29 (dk_at dksX1_meanX_0 9 rfl rfl)
theorem dX1_meanX_10 : decode cX1_meanX 10 = .ok (.aload_n 1, 1) := dk_43 (dk_at dksX1_meanX_0 10 rfl rfl)
theorem dX1_meanX_11 : decode cX1_meanX 11 = .ok (.invokevirtual 80, 3) := dk_182 0 80 (dk_at dksX1_meanX_0 11 rfl rfl)
theorem dX1_meanX_14 : decode cX1_meanX 14 = .ok (.if_icmp .ge 20, 3) := dk_162 0 20 (dk_at dksX1_meanX_0 14 rfl rfl)
theorem dX1_meanX_17 : decode cX1_meanX 17 = .ok (.iload_n 2, 1) := dk_28 (dk_at dksX1_meanX_0 17 rfl rfl)
theorem dX1_meanX_18 : decode cX1_meanX 18 = .ok (.aload_n 1, 1) := dk_43 (dk_at dksX1_meanX_0 18 rfl rfl)
theorem dX1_meanX_19 : decode cX1_meanX 19 = .ok (.iload_n 3, 1) := dk_29 (dk_at dksX1_meanX_0 19 rfl rfl)
theorem dX1_meanX_20 : decode cX1_meanX 20 = .ok (.invokevirtual 88, 3) := dk_182 0 88 (dk_at dksX1_meanX_0 20 rfl rfl)
theorem dX1_meanX_23 : decode cX1_meanX 23 = .ok (.getfield 139, 3) := dk_180 0 139 (dk_at dksX1_meanX_1 0 rfl rfl)
theorem dX1_meanX_26 : decode cX1_meanX 26 = .ok (.iadd, 1) := dk_96 (dk_at dksX1_meanX_1 3 rfl rfl)
theorem dX1_meanX_27 : decode cX1_meanX 27 = .ok (.istore_n 2, 1) := dk_61 (dk_at dksX1_meanX_1 4 rfl rfl)
theorem dX1_meanX_28 : decode cX1_meanX 28 = .ok (.iinc 3 1, 3) := dk_132 3 1 (dk_at dksX1_meanX_1 5 rfl rfl)
theorem dX1_meanX_31 : decode cX1_meanX 31 = .ok (.goto (-22), 3) := dk_167 255 234 (dk_at dksX1_meanX_1 8 rfl rfl)
theorem dX1_meanX_34 : decode cX1_meanX 34 = .ok (.aload_n 1, 1) := dk_43 (dk_at dksX1_meanX_1 11 rfl rfl)
theorem dX1_meanX_35 : decode cX1_meanX 35 = .ok (.invokevirtual 80, 3) := dk_182 0 80 (dk_at dksX1_meanX_1 12 rfl rfl)
theorem dX1_meanX_38 : decode cX1_meanX 38 = .ok (.ifCond .ne 7, 3) := dk_154 0 7 (dk_at dksX1_meanX_1 15 rfl rfl)
theorem dX1_meanX_41 : decode cX1_meanX 41 = .ok (.dconst 0, 1) := dk_14 (dk_at dksX1_meanX_1 18 rfl rfl)
theorem dX1_meanX_42 : decode cX1_meanX 42 = .ok (.goto 11, 3) := dk_167 0 11 (dk_at dksX1_meanX_1 19 rfl rfl)
theorem dX1_meanX_45 : decode cX1_meanX 45 = .ok (.iload_n 2, 1) := dk_28 (dk_at dksX1_meanX_1 22 rfl rfl)
theorem dX1_meanX_46 : decode cX1_meanX 46 = .ok (.i2d, 1) := dk_135 (dk_at dksX1_meanX_1 23 rfl rfl)
theorem dX1_meanX_47 : decode cX1_meanX 47 = .ok (.aload_n 1, 1) := dk_43 (dk_at dksX1_meanX_2 0 rfl rfl)
theorem dX1_meanX_48 : decode cX1_meanX 48 = .ok (.invokevirtual 80, 3) := dk_182 0 80 (dk_at dksX1_meanX_2 1 rfl rfl)
theorem dX1_meanX_51 : decode cX1_meanX 51 = .ok (.i2d, 1) := dk_135 (dk_at dksX1_meanX_2 4 rfl rfl)
theorem dX1_meanX_52 : decode cX1_meanX 52 = .ok (.ddiv, 1) := dk_111 (dk_at dksX1_meanX_2 5 rfl rfl)
theorem dX1_meanX_53 : decode cX1_meanX 53 = .ok (.dreturn, 1) := dk_175 (dk_at dksX1_meanX_2 6 rfl rfl)
abbrev cJ36_init : ByteArray := prog_34_method_3_code
def yJ36_init : MethodName := ⟨RJ36, "<init>", "(I)V"⟩
def dkwJ36_init_0 : List UInt8 := [42, 187, 0, 10, 89, 183, 0, 12, 18, 13, 182, 0, 15, 27, 182, 0, 19, 182, 0, 22, 183, 0, 7, 177]
abbrev dktJ36_init_0 : List UInt8 := dkwJ36_init_0 ++ []
theorem dksJ36_init_0 : cJ36_init.data.toList.drop 0 = dktJ36_init_0 := by decide +kernel
theorem dJ36_init_0 : decode cJ36_init 0 = .ok (.aload_n 0, 1) := dk_42 (dk_at dksJ36_init_0 0 rfl rfl)
theorem dJ36_init_1 : decode cJ36_init 1 = .ok (.new 10, 3) := dk_187 0 10 (dk_at dksJ36_init_0 1 rfl rfl)
theorem dJ36_init_4 : decode cJ36_init 4 = .ok (.dup, 1) := dk_89 (dk_at dksJ36_init_0 4 rfl rfl)
theorem dJ36_init_5 : decode cJ36_init 5 = .ok (.invokespecial 12, 3) := dk_183 0 12 (dk_at dksJ36_init_0 5 rfl rfl)
theorem dJ36_init_8 : decode cJ36_init 8 = .ok (.ldc 13, 2) := dk_18 13 (dk_at dksJ36_init_0 8 rfl rfl)
theorem dJ36_init_10 : decode cJ36_init 10 = .ok (.invokevirtual 15, 3) := dk_182 0 15 (dk_at dksJ36_init_0 10 rfl rfl)
theorem dJ36_init_13 : decode cJ36_init 13 = .ok (.iload_n 1, 1) := dk_27 (dk_at dksJ36_init_0 13 rfl rfl)
theorem dJ36_init_14 : decode cJ36_init 14 = .ok (.invokevirtual 19, 3) := dk_182 0 19 (dk_at dksJ36_init_0 14 rfl rfl)
theorem dJ36_init_17 : decode cJ36_init 17 = .ok (.invokevirtual 22, 3) := dk_182 0 22 (dk_at dksJ36_init_0 17 rfl rfl)
theorem dJ36_init_20 : decode cJ36_init 20 = .ok (.invokespecial 7, 3) := dk_183 0 7 (dk_at dksJ36_init_0 20 rfl rfl)
theorem dJ36_init_23 : decode cJ36_init 23 = .ok (.return_, 1) := dk_177 (dk_at dksJ36_init_0 23 rfl rfl)
abbrev cJ10_init_2 : ByteArray := prog_14_method_3_code
def yJ10_init_2 : MethodName := ⟨RJ10, "<init>", "(I)V"⟩
def dkwJ10_init_2_0 : List UInt8 := [42, 187, 0, 10, 89, 183, 0, 12, 18, 13, 182, 0, 15, 27, 182, 0, 19, 182, 0, 22, 183, 0, 7, 177]
abbrev dktJ10_init_2_0 : List UInt8 := dkwJ10_init_2_0 ++ []
theorem dksJ10_init_2_0 : cJ10_init_2.data.toList.drop 0 = dktJ10_init_2_0 := by decide +kernel
theorem dJ10_init_2_0 : decode cJ10_init_2 0 = .ok (.aload_n 0, 1) := dk_42 (dk_at dksJ10_init_2_0 0 rfl rfl)
theorem dJ10_init_2_1 : decode cJ10_init_2 1 = .ok (.new 10, 3) := dk_187 0 10 (dk_at dksJ10_init_2_0 1 rfl rfl)
theorem dJ10_init_2_4 : decode cJ10_init_2 4 = .ok (.dup, 1) := dk_89 (dk_at dksJ10_init_2_0 4 rfl rfl)
theorem dJ10_init_2_5 : decode cJ10_init_2 5 = .ok (.invokespecial 12, 3) := dk_183 0 12 (dk_at dksJ10_init_2_0 5 rfl rfl)
theorem dJ10_init_2_8 : decode cJ10_init_2 8 = .ok (.ldc 13, 2) := dk_18 13 (dk_at dksJ10_init_2_0 8 rfl rfl)
theorem dJ10_init_2_10 : decode cJ10_init_2 10 = .ok (.invokevirtual 15, 3) := dk_182 0 15 (dk_at dksJ10_init_2_0 10 rfl rfl)
theorem dJ10_init_2_13 : decode cJ10_init_2 13 = .ok (.iload_n 1, 1) := dk_27 (dk_at dksJ10_init_2_0 13 rfl rfl)
theorem dJ10_init_2_14 : decode cJ10_init_2 14 = .ok (.invokevirtual 19, 3) := dk_182 0 19 (dk_at dksJ10_init_2_0 14 rfl rfl)
theorem dJ10_init_2_17 : decode cJ10_init_2 17 = .ok (.invokevirtual 22, 3) := dk_182 0 22 (dk_at dksJ10_init_2_0 17 rfl rfl)
theorem dJ10_init_2_20 : decode cJ10_init_2 20 = .ok (.invokespecial 7, 3) := dk_183 0 7 (dk_at dksJ10_init_2_0 20 rfl rfl)
theorem dJ10_init_2_23 : decode cJ10_init_2 23 = .ok (.return_, 1) := dk_177 (dk_at dksJ10_init_2_0 23 rfl rfl)
abbrev cJ15_rangeCheck : ByteArray := prog_50_method_30_code
def yJ15_rangeCheck : MethodName := ⟨RJ15, "rangeCheck", "(III)V"⟩
def dkwJ15_rangeCheck_3 : List UInt8 := [183, 0, 70, 191, 177]
abbrev dktJ15_rangeCheck_3 : List UInt8 := dkwJ15_rangeCheck_3 ++ []
def dkwJ15_rangeCheck_2 : List UInt8 := [27, 156, 0, 12, 187, 0, 68, 89, 27, 183, 0, 70, 191, 28, 26, 164, 0, 12, 187, 0, 68, 89, 28]
abbrev dktJ15_rangeCheck_2 : List UInt8 := dkwJ15_rangeCheck_2 ++ dktJ15_rangeCheck_3
def dkwJ15_rangeCheck_1 : List UInt8 := [182, 0, 54, 18, 57, 182, 0, 50, 28, 182, 0, 54, 18, 59, 182, 0, 50, 182, 0, 61, 183, 0, 65, 191]
abbrev dktJ15_rangeCheck_1 : List UInt8 := dkwJ15_rangeCheck_1 ++ dktJ15_rangeCheck_2
def dkwJ15_rangeCheck_0 : List UInt8 := [27, 28, 164, 0, 44, 187, 0, 43, 89, 187, 0, 45, 89, 183, 0, 47, 18, 48, 182, 0, 50, 27]
abbrev dktJ15_rangeCheck_0 : List UInt8 := dkwJ15_rangeCheck_0 ++ dktJ15_rangeCheck_1
theorem dksJ15_rangeCheck_0 : cJ15_rangeCheck.data.toList.drop 0 = dktJ15_rangeCheck_0 := by decide +kernel
theorem dksJ15_rangeCheck_1 : cJ15_rangeCheck.data.toList.drop 22 = dktJ15_rangeCheck_1 := dk_seg dksJ15_rangeCheck_0 22 rfl rfl
theorem dksJ15_rangeCheck_2 : cJ15_rangeCheck.data.toList.drop 46 = dktJ15_rangeCheck_2 := dk_seg dksJ15_rangeCheck_1 24 rfl rfl
theorem dksJ15_rangeCheck_3 : cJ15_rangeCheck.data.toList.drop 69 = dktJ15_rangeCheck_3 := dk_seg dksJ15_rangeCheck_2 23 rfl rfl
theorem dJ15_rangeCheck_0 : decode cJ15_rangeCheck 0 = .ok (.iload_n 1, 1) := dk_27 (dk_at dksJ15_rangeCheck_0 0 rfl rfl)
theorem dJ15_rangeCheck_1 : decode cJ15_rangeCheck 1 = .ok (.iload_n 2, 1) := dk_28 (dk_at dksJ15_rangeCheck_0 1 rfl rfl)
theorem dJ15_rangeCheck_2 : decode cJ15_rangeCheck 2 = .ok (.if_icmp .le 44, 3) := dk_164 0 44 (dk_at dksJ15_rangeCheck_0 2 rfl rfl)
theorem dJ15_rangeCheck_5 : decode cJ15_rangeCheck 5 = .ok (.new 43, 3) := dk_187 0 43 (dk_at dksJ15_rangeCheck_0 5 rfl rfl)
theorem dJ15_rangeCheck_8 : decode cJ15_rangeCheck 8 = .ok (.dup, 1) := dk_89 (dk_at dksJ15_rangeCheck_0 8 rfl rfl)
theorem dJ15_rangeCheck_9 : decode cJ15_rangeCheck 9 = .ok (.new 45, 3) := dk_187 0 45 (dk_at dksJ15_rangeCheck_0 9 rfl rfl)
theorem dJ15_rangeCheck_12 : decode cJ15_rangeCheck 12 = .ok (.dup, 1) := dk_89 (dk_at dksJ15_rangeCheck_0 12 rfl rfl)
theorem dJ15_rangeCheck_13 : decode cJ15_rangeCheck 13 = .ok (.invokespecial 47, 3) := dk_183 0 47 (dk_at dksJ15_rangeCheck_0 13 rfl rfl)
theorem dJ15_rangeCheck_16 : decode cJ15_rangeCheck 16 = .ok (.ldc 48, 2) := dk_18 48 (dk_at dksJ15_rangeCheck_0 16 rfl rfl)
theorem dJ15_rangeCheck_18 : decode cJ15_rangeCheck 18 = .ok (.invokevirtual 50, 3) := dk_182 0 50 (dk_at dksJ15_rangeCheck_0 18 rfl rfl)
theorem dJ15_rangeCheck_21 : decode cJ15_rangeCheck 21 = .ok (.iload_n 1, 1) := dk_27 (dk_at dksJ15_rangeCheck_0 21 rfl rfl)
theorem dJ15_rangeCheck_22 : decode cJ15_rangeCheck 22 = .ok (.invokevirtual 54, 3) := dk_182 0 54 (dk_at dksJ15_rangeCheck_1 0 rfl rfl)
theorem dJ15_rangeCheck_25 : decode cJ15_rangeCheck 25 = .ok (.ldc 57, 2) := dk_18 57 (dk_at dksJ15_rangeCheck_1 3 rfl rfl)
theorem dJ15_rangeCheck_27 : decode cJ15_rangeCheck 27 = .ok (.invokevirtual 50, 3) := dk_182 0 50 (dk_at dksJ15_rangeCheck_1 5 rfl rfl)
theorem dJ15_rangeCheck_30 : decode cJ15_rangeCheck 30 = .ok (.iload_n 2, 1) := dk_28 (dk_at dksJ15_rangeCheck_1 8 rfl rfl)
theorem dJ15_rangeCheck_31 : decode cJ15_rangeCheck 31 = .ok (.invokevirtual 54, 3) := dk_182 0 54 (dk_at dksJ15_rangeCheck_1 9 rfl rfl)
theorem dJ15_rangeCheck_34 : decode cJ15_rangeCheck 34 = .ok (.ldc 59, 2) := dk_18 59 (dk_at dksJ15_rangeCheck_1 12 rfl rfl)
theorem dJ15_rangeCheck_36 : decode cJ15_rangeCheck 36 = .ok (.invokevirtual 50, 3) := dk_182 0 50 (dk_at dksJ15_rangeCheck_1 14 rfl rfl)
theorem dJ15_rangeCheck_39 : decode cJ15_rangeCheck 39 = .ok (.invokevirtual 61, 3) := dk_182 0 61 (dk_at dksJ15_rangeCheck_1 17 rfl rfl)
theorem dJ15_rangeCheck_42 : decode cJ15_rangeCheck 42 = .ok (.invokespecial 65, 3) := dk_183 0 65 (dk_at dksJ15_rangeCheck_1 20 rfl rfl)
theorem dJ15_rangeCheck_45 : decode cJ15_rangeCheck 45 = .ok (.athrow, 1) := dk_191 (dk_at dksJ15_rangeCheck_1 23 rfl rfl)
theorem dJ15_rangeCheck_46 : decode cJ15_rangeCheck 46 = .ok (.iload_n 1, 1) := dk_27 (dk_at dksJ15_rangeCheck_2 0 rfl rfl)
theorem dJ15_rangeCheck_47 : decode cJ15_rangeCheck 47 = .ok (.ifCond .ge 12, 3) := dk_156 0 12 (dk_at dksJ15_rangeCheck_2 1 rfl rfl)
theorem dJ15_rangeCheck_50 : decode cJ15_rangeCheck 50 = .ok (.new 68, 3) := dk_187 0 68 (dk_at dksJ15_rangeCheck_2 4 rfl rfl)
theorem dJ15_rangeCheck_53 : decode cJ15_rangeCheck 53 = .ok (.dup, 1) := dk_89 (dk_at dksJ15_rangeCheck_2 7 rfl rfl)
theorem dJ15_rangeCheck_54 : decode cJ15_rangeCheck 54 = .ok (.iload_n 1, 1) := dk_27 (dk_at dksJ15_rangeCheck_2 8 rfl rfl)
theorem dJ15_rangeCheck_55 : decode cJ15_rangeCheck 55 = .ok (.invokespecial 70, 3) := dk_183 0 70 (dk_at dksJ15_rangeCheck_2 9 rfl rfl)
theorem dJ15_rangeCheck_58 : decode cJ15_rangeCheck 58 = .ok (.athrow, 1) := dk_191 (dk_at dksJ15_rangeCheck_2 12 rfl rfl)
theorem dJ15_rangeCheck_59 : decode cJ15_rangeCheck 59 = .ok (.iload_n 2, 1) := dk_28 (dk_at dksJ15_rangeCheck_2 13 rfl rfl)
theorem dJ15_rangeCheck_60 : decode cJ15_rangeCheck 60 = .ok (.iload_n 0, 1) := dk_26 (dk_at dksJ15_rangeCheck_2 14 rfl rfl)
theorem dJ15_rangeCheck_61 : decode cJ15_rangeCheck 61 = .ok (.if_icmp .le 12, 3) := dk_164 0 12 (dk_at dksJ15_rangeCheck_2 15 rfl rfl)
theorem dJ15_rangeCheck_64 : decode cJ15_rangeCheck 64 = .ok (.new 68, 3) := dk_187 0 68 (dk_at dksJ15_rangeCheck_2 18 rfl rfl)
theorem dJ15_rangeCheck_67 : decode cJ15_rangeCheck 67 = .ok (.dup, 1) := dk_89 (dk_at dksJ15_rangeCheck_2 21 rfl rfl)
theorem dJ15_rangeCheck_68 : decode cJ15_rangeCheck 68 = .ok (.iload_n 2, 1) := dk_28 (dk_at dksJ15_rangeCheck_2 22 rfl rfl)
theorem dJ15_rangeCheck_69 : decode cJ15_rangeCheck 69 = .ok (.invokespecial 70, 3) := dk_183 0 70 (dk_at dksJ15_rangeCheck_3 0 rfl rfl)
theorem dJ15_rangeCheck_72 : decode cJ15_rangeCheck 72 = .ok (.athrow, 1) := dk_191 (dk_at dksJ15_rangeCheck_3 3 rfl rfl)
theorem dJ15_rangeCheck_73 : decode cJ15_rangeCheck 73 = .ok (.return_, 1) := dk_177 (dk_at dksJ15_rangeCheck_3 4 rfl rfl)
abbrev cJ15_fill : ByteArray := prog_50_method_110_code
def yJ15_fill : MethodName := ⟨RJ15, "fill", "([BIIB)V"⟩
def dkwJ15_fill_1 : List UInt8 := [167, 255, 242, 177]
abbrev dktJ15_fill_1 : List UInt8 := dkwJ15_fill_1 ++ []
def dkwJ15_fill_0 : List UInt8 := [42, 190, 27, 28, 184, 0, 13, 27, 54, 4, 21, 4, 28, 162, 0, 14, 42, 21, 4, 29, 84, 132, 4, 1]
abbrev dktJ15_fill_0 : List UInt8 := dkwJ15_fill_0 ++ dktJ15_fill_1
theorem dksJ15_fill_0 : cJ15_fill.data.toList.drop 0 = dktJ15_fill_0 := by decide +kernel
theorem dksJ15_fill_1 : cJ15_fill.data.toList.drop 24 = dktJ15_fill_1 := dk_seg dksJ15_fill_0 24 rfl rfl
theorem dJ15_fill_0 : decode cJ15_fill 0 = .ok (.aload_n 0, 1) := dk_42 (dk_at dksJ15_fill_0 0 rfl rfl)
theorem dJ15_fill_1 : decode cJ15_fill 1 = .ok (.arraylength, 1) := dk_190 (dk_at dksJ15_fill_0 1 rfl rfl)
theorem dJ15_fill_2 : decode cJ15_fill 2 = .ok (.iload_n 1, 1) := dk_27 (dk_at dksJ15_fill_0 2 rfl rfl)
theorem dJ15_fill_3 : decode cJ15_fill 3 = .ok (.iload_n 2, 1) := dk_28 (dk_at dksJ15_fill_0 3 rfl rfl)
theorem dJ15_fill_4 : decode cJ15_fill 4 = .ok (.invokestatic 13, 3) := dk_184 0 13 (dk_at dksJ15_fill_0 4 rfl rfl)
theorem dJ15_fill_7 : decode cJ15_fill 7 = .ok (.iload_n 1, 1) := dk_27 (dk_at dksJ15_fill_0 7 rfl rfl)
theorem dJ15_fill_8 : decode cJ15_fill 8 = .ok (.istore 4, 2) := dk_54 4 (dk_at dksJ15_fill_0 8 rfl rfl)
theorem dJ15_fill_10 : decode cJ15_fill 10 = .ok (.iload 4, 2) := dk_21 4 (dk_at dksJ15_fill_0 10 rfl rfl)
theorem dJ15_fill_12 : decode cJ15_fill 12 = .ok (.iload_n 2, 1) := dk_28 (dk_at dksJ15_fill_0 12 rfl rfl)
theorem dJ15_fill_13 : decode cJ15_fill 13 = .ok (.if_icmp .ge 14, 3) := dk_162 0 14 (dk_at dksJ15_fill_0 13 rfl rfl)
theorem dJ15_fill_16 : decode cJ15_fill 16 = .ok (.aload_n 0, 1) := dk_42 (dk_at dksJ15_fill_0 16 rfl rfl)
theorem dJ15_fill_17 : decode cJ15_fill 17 = .ok (.iload 4, 2) := dk_21 4 (dk_at dksJ15_fill_0 17 rfl rfl)
theorem dJ15_fill_19 : decode cJ15_fill 19 = .ok (.iload_n 3, 1) := dk_29 (dk_at dksJ15_fill_0 19 rfl rfl)
theorem dJ15_fill_20 : decode cJ15_fill 20 = .ok (.bastore, 1) := dk_84 (dk_at dksJ15_fill_0 20 rfl rfl)
theorem dJ15_fill_21 : decode cJ15_fill 21 = .ok (.iinc 4 1, 3) := dk_132 4 1 (dk_at dksJ15_fill_0 21 rfl rfl)
theorem dJ15_fill_24 : decode cJ15_fill 24 = .ok (.goto (-14), 3) := dk_167 255 242 (dk_at dksJ15_fill_1 0 rfl rfl)
theorem dJ15_fill_27 : decode cJ15_fill 27 = .ok (.return_, 1) := dk_177 (dk_at dksJ15_fill_1 3 rfl rfl)
abbrev cJ16_fillNull : ByteArray := prog_35_method_48_code
def yJ16_fillNull : MethodName := ⟨RJ16, "fillNull", "([BII)V"⟩
def dkwJ16_fillNull_0 : List UInt8 := [42, 27, 28, 3, 184, 0, 236, 177]
abbrev dktJ16_fillNull_0 : List UInt8 := dkwJ16_fillNull_0 ++ []
theorem dksJ16_fillNull_0 : cJ16_fillNull.data.toList.drop 0 = dktJ16_fillNull_0 := by decide +kernel
theorem dJ16_fillNull_0 : decode cJ16_fillNull 0 = .ok (.aload_n 0, 1) := dk_42 (dk_at dksJ16_fillNull_0 0 rfl rfl)
theorem dJ16_fillNull_1 : decode cJ16_fillNull 1 = .ok (.iload_n 1, 1) := dk_27 (dk_at dksJ16_fillNull_0 1 rfl rfl)
theorem dJ16_fillNull_2 : decode cJ16_fillNull 2 = .ok (.iload_n 2, 1) := dk_28 (dk_at dksJ16_fillNull_0 2 rfl rfl)
theorem dJ16_fillNull_3 : decode cJ16_fillNull 3 = .ok (.iconst 0, 1) := dk_3 (dk_at dksJ16_fillNull_0 3 rfl rfl)
theorem dJ16_fillNull_4 : decode cJ16_fillNull 4 = .ok (.invokestatic 236, 3) := dk_184 0 236 (dk_at dksJ16_fillNull_0 4 rfl rfl)
theorem dJ16_fillNull_7 : decode cJ16_fillNull 7 = .ok (.return_, 1) := dk_177 (dk_at dksJ16_fillNull_0 7 rfl rfl)
abbrev cJ5_fillNull : ByteArray := prog_36_method_70_code
def yJ5_fillNull : MethodName := ⟨RJ5, "fillNull", "([BII)V"⟩
def dkwJ5_fillNull_0 : List UInt8 := [42, 27, 4, 120, 28, 4, 120, 3, 184, 1, 124, 177]
abbrev dktJ5_fillNull_0 : List UInt8 := dkwJ5_fillNull_0 ++ []
theorem dksJ5_fillNull_0 : cJ5_fillNull.data.toList.drop 0 = dktJ5_fillNull_0 := by decide +kernel
theorem dJ5_fillNull_0 : decode cJ5_fillNull 0 = .ok (.aload_n 0, 1) := dk_42 (dk_at dksJ5_fillNull_0 0 rfl rfl)
theorem dJ5_fillNull_1 : decode cJ5_fillNull 1 = .ok (.iload_n 1, 1) := dk_27 (dk_at dksJ5_fillNull_0 1 rfl rfl)
theorem dJ5_fillNull_2 : decode cJ5_fillNull 2 = .ok (.iconst 1, 1) := dk_4 (dk_at dksJ5_fillNull_0 2 rfl rfl)
theorem dJ5_fillNull_3 : decode cJ5_fillNull 3 = .ok (.ishl, 1) := dk_120 (dk_at dksJ5_fillNull_0 3 rfl rfl)
theorem dJ5_fillNull_4 : decode cJ5_fillNull 4 = .ok (.iload_n 2, 1) := dk_28 (dk_at dksJ5_fillNull_0 4 rfl rfl)
theorem dJ5_fillNull_5 : decode cJ5_fillNull 5 = .ok (.iconst 1, 1) := dk_4 (dk_at dksJ5_fillNull_0 5 rfl rfl)
theorem dJ5_fillNull_6 : decode cJ5_fillNull 6 = .ok (.ishl, 1) := dk_120 (dk_at dksJ5_fillNull_0 6 rfl rfl)
theorem dJ5_fillNull_7 : decode cJ5_fillNull 7 = .ok (.iconst 0, 1) := dk_3 (dk_at dksJ5_fillNull_0 7 rfl rfl)
theorem dJ5_fillNull_8 : decode cJ5_fillNull 8 = .ok (.invokestatic 380, 3) := dk_184 1 124 (dk_at dksJ5_fillNull_0 8 rfl rfl)
theorem dJ5_fillNull_11 : decode cJ5_fillNull 11 = .ok (.return_, 1) := dk_177 (dk_at dksJ5_fillNull_0 11 rfl rfl)
abbrev cJ2_setLength : ByteArray := prog_12_method_13_code
def yJ2_setLength : MethodName := ⟨RJ2, "setLength", "(I)V"⟩
def dkwJ2_setLength_3 : List UInt8 := [164, 0, 8, 42, 4, 181, 0, 73, 42, 27, 181, 0, 79, 177]
abbrev dktJ2_setLength_3 : List UInt8 := dkwJ2_setLength_3 ++ []
def dkwJ2_setLength_2 : List UInt8 := [167, 0, 31, 42, 180, 0, 15, 42, 180, 0, 79, 27, 184, 0, 137, 167, 0, 16, 42, 180, 0, 79, 27]
abbrev dktJ2_setLength_2 : List UInt8 := dkwJ2_setLength_2 ++ dktJ2_setLength_3
def dkwJ2_setLength_1 : List UInt8 := [162, 0, 40, 42, 182, 0, 83, 153, 0, 18, 42, 180, 0, 15, 42, 180, 0, 79, 27, 184, 0, 133]
abbrev dktJ2_setLength_1 : List UInt8 := dkwJ2_setLength_1 ++ dktJ2_setLength_2
def dkwJ2_setLength_0 : List UInt8 := [27, 156, 0, 12, 187, 0, 129, 89, 27, 183, 0, 131, 191, 42, 27, 182, 0, 100, 42, 180, 0, 79, 27]
abbrev dktJ2_setLength_0 : List UInt8 := dkwJ2_setLength_0 ++ dktJ2_setLength_1
theorem dksJ2_setLength_0 : cJ2_setLength.data.toList.drop 0 = dktJ2_setLength_0 := by decide +kernel
theorem dksJ2_setLength_1 : cJ2_setLength.data.toList.drop 23 = dktJ2_setLength_1 := dk_seg dksJ2_setLength_0 23 rfl rfl
theorem dksJ2_setLength_2 : cJ2_setLength.data.toList.drop 45 = dktJ2_setLength_2 := dk_seg dksJ2_setLength_1 22 rfl rfl
theorem dksJ2_setLength_3 : cJ2_setLength.data.toList.drop 68 = dktJ2_setLength_3 := dk_seg dksJ2_setLength_2 23 rfl rfl
theorem dJ2_setLength_0 : decode cJ2_setLength 0 = .ok (.iload_n 1, 1) := dk_27 (dk_at dksJ2_setLength_0 0 rfl rfl)
theorem dJ2_setLength_1 : decode cJ2_setLength 1 = .ok (.ifCond .ge 12, 3) := dk_156 0 12 (dk_at dksJ2_setLength_0 1 rfl rfl)
theorem dJ2_setLength_4 : decode cJ2_setLength 4 = .ok (.new 129, 3) := dk_187 0 129 (dk_at dksJ2_setLength_0 4 rfl rfl)
theorem dJ2_setLength_7 : decode cJ2_setLength 7 = .ok (.dup, 1) := dk_89 (dk_at dksJ2_setLength_0 7 rfl rfl)
theorem dJ2_setLength_8 : decode cJ2_setLength 8 = .ok (.iload_n 1, 1) := dk_27 (dk_at dksJ2_setLength_0 8 rfl rfl)
theorem dJ2_setLength_9 : decode cJ2_setLength 9 = .ok (.invokespecial 131, 3) := dk_183 0 131 (dk_at dksJ2_setLength_0 9 rfl rfl)
theorem dJ2_setLength_12 : decode cJ2_setLength 12 = .ok (.athrow, 1) := dk_191 (dk_at dksJ2_setLength_0 12 rfl rfl)
theorem dJ2_setLength_13 : decode cJ2_setLength 13 = .ok (.aload_n 0, 1) := dk_42 (dk_at dksJ2_setLength_0 13 rfl rfl)
theorem dJ2_setLength_14 : decode cJ2_setLength 14 = .ok (.iload_n 1, 1) := dk_27 (dk_at dksJ2_setLength_0 14 rfl rfl)
theorem dJ2_setLength_15 : decode cJ2_setLength 15 = .ok (.invokevirtual 100, 3) := dk_182 0 100 (dk_at dksJ2_setLength_0 15 rfl rfl)
theorem dJ2_setLength_18 : decode cJ2_setLength 18 = .ok (.aload_n 0, 1) := dk_42 (dk_at dksJ2_setLength_0 18 rfl rfl)
theorem dJ2_setLength_19 : decode cJ2_setLength 19 = .ok (.getfield 79, 3) := dk_180 0 79 (dk_at dksJ2_setLength_0 19 rfl rfl)
theorem dJ2_setLength_22 : decode cJ2_setLength 22 = .ok (.iload_n 1, 1) := dk_27 (dk_at dksJ2_setLength_0 22 rfl rfl)
theorem dJ2_setLength_23 : decode cJ2_setLength 23 = .ok (.if_icmp .ge 40, 3) := dk_162 0 40 (dk_at dksJ2_setLength_1 0 rfl rfl)
theorem dJ2_setLength_26 : decode cJ2_setLength 26 = .ok (.aload_n 0, 1) := dk_42 (dk_at dksJ2_setLength_1 3 rfl rfl)
theorem dJ2_setLength_27 : decode cJ2_setLength 27 = .ok (.invokevirtual 83, 3) := dk_182 0 83 (dk_at dksJ2_setLength_1 4 rfl rfl)
theorem dJ2_setLength_30 : decode cJ2_setLength 30 = .ok (.ifCond .eq 18, 3) := dk_153 0 18 (dk_at dksJ2_setLength_1 7 rfl rfl)
theorem dJ2_setLength_33 : decode cJ2_setLength 33 = .ok (.aload_n 0, 1) := dk_42 (dk_at dksJ2_setLength_1 10 rfl rfl)
theorem dJ2_setLength_34 : decode cJ2_setLength 34 = .ok (.getfield 15, 3) := dk_180 0 15 (dk_at dksJ2_setLength_1 11 rfl rfl)
theorem dJ2_setLength_37 : decode cJ2_setLength 37 = .ok (.aload_n 0, 1) := dk_42 (dk_at dksJ2_setLength_1 14 rfl rfl)
theorem dJ2_setLength_38 : decode cJ2_setLength 38 = .ok (.getfield 79, 3) := dk_180 0 79 (dk_at dksJ2_setLength_1 15 rfl rfl)
theorem dJ2_setLength_41 : decode cJ2_setLength 41 = .ok (.iload_n 1, 1) := dk_27 (dk_at dksJ2_setLength_1 18 rfl rfl)
theorem dJ2_setLength_42 : decode cJ2_setLength 42 = .ok (.invokestatic 133, 3) := dk_184 0 133 (dk_at dksJ2_setLength_1 19 rfl rfl)
theorem dJ2_setLength_45 : decode cJ2_setLength 45 = .ok (.goto 31, 3) := dk_167 0 31 (dk_at dksJ2_setLength_2 0 rfl rfl)
theorem dJ2_setLength_48 : decode cJ2_setLength 48 = .ok (.aload_n 0, 1) := dk_42 (dk_at dksJ2_setLength_2 3 rfl rfl)
theorem dJ2_setLength_49 : decode cJ2_setLength 49 = .ok (.getfield 15, 3) := dk_180 0 15 (dk_at dksJ2_setLength_2 4 rfl rfl)
theorem dJ2_setLength_52 : decode cJ2_setLength 52 = .ok (.aload_n 0, 1) := dk_42 (dk_at dksJ2_setLength_2 7 rfl rfl)
theorem dJ2_setLength_53 : decode cJ2_setLength 53 = .ok (.getfield 79, 3) := dk_180 0 79 (dk_at dksJ2_setLength_2 8 rfl rfl)
theorem dJ2_setLength_56 : decode cJ2_setLength 56 = .ok (.iload_n 1, 1) := dk_27 (dk_at dksJ2_setLength_2 11 rfl rfl)
theorem dJ2_setLength_57 : decode cJ2_setLength 57 = .ok (.invokestatic 137, 3) := dk_184 0 137 (dk_at dksJ2_setLength_2 12 rfl rfl)
theorem dJ2_setLength_60 : decode cJ2_setLength 60 = .ok (.goto 16, 3) := dk_167 0 16 (dk_at dksJ2_setLength_2 15 rfl rfl)
theorem dJ2_setLength_63 : decode cJ2_setLength 63 = .ok (.aload_n 0, 1) := dk_42 (dk_at dksJ2_setLength_2 18 rfl rfl)
theorem dJ2_setLength_64 : decode cJ2_setLength 64 = .ok (.getfield 79, 3) := dk_180 0 79 (dk_at dksJ2_setLength_2 19 rfl rfl)
theorem dJ2_setLength_67 : decode cJ2_setLength 67 = .ok (.iload_n 1, 1) := dk_27 (dk_at dksJ2_setLength_2 22 rfl rfl)
theorem dJ2_setLength_68 : decode cJ2_setLength 68 = .ok (.if_icmp .le 8, 3) := dk_164 0 8 (dk_at dksJ2_setLength_3 0 rfl rfl)
theorem dJ2_setLength_71 : decode cJ2_setLength 71 = .ok (.aload_n 0, 1) := dk_42 (dk_at dksJ2_setLength_3 3 rfl rfl)
theorem dJ2_setLength_72 : decode cJ2_setLength 72 = .ok (.iconst 1, 1) := dk_4 (dk_at dksJ2_setLength_3 4 rfl rfl)
theorem dJ2_setLength_73 : decode cJ2_setLength 73 = .ok (.putfield 73, 3) := dk_181 0 73 (dk_at dksJ2_setLength_3 5 rfl rfl)
theorem dJ2_setLength_76 : decode cJ2_setLength 76 = .ok (.aload_n 0, 1) := dk_42 (dk_at dksJ2_setLength_3 8 rfl rfl)
theorem dJ2_setLength_77 : decode cJ2_setLength 77 = .ok (.iload_n 1, 1) := dk_27 (dk_at dksJ2_setLength_3 9 rfl rfl)
theorem dJ2_setLength_78 : decode cJ2_setLength 78 = .ok (.putfield 79, 3) := dk_181 0 79 (dk_at dksJ2_setLength_3 10 rfl rfl)
theorem dJ2_setLength_81 : decode cJ2_setLength 81 = .ok (.return_, 1) := dk_177 (dk_at dksJ2_setLength_3 13 rfl rfl)
abbrev cJ3_setLength : ByteArray := prog_33_method_89_code
def yJ3_setLength : MethodName := ⟨RJ3, "setLength", "(I)V"⟩
def dkwJ3_setLength_0 : List UInt8 := [42, 27, 183, 1, 77, 177]
abbrev dktJ3_setLength_0 : List UInt8 := dkwJ3_setLength_0 ++ []
theorem dksJ3_setLength_0 : cJ3_setLength.data.toList.drop 0 = dktJ3_setLength_0 := by decide +kernel
theorem dJ3_setLength_0 : decode cJ3_setLength 0 = .ok (.aload_n 0, 1) := dk_42 (dk_at dksJ3_setLength_0 0 rfl rfl)
theorem dJ3_setLength_1 : decode cJ3_setLength 1 = .ok (.iload_n 1, 1) := dk_27 (dk_at dksJ3_setLength_0 1 rfl rfl)
theorem dJ3_setLength_2 : decode cJ3_setLength 2 = .ok (.invokespecial 333, 3) := dk_183 1 77 (dk_at dksJ3_setLength_0 2 rfl rfl)
theorem dJ3_setLength_5 : decode cJ3_setLength 5 = .ok (.return_, 1) := dk_177 (dk_at dksJ3_setLength_0 5 rfl rfl)
abbrev cX1_writeLeaves : ByteArray := prog_1_method_73_code
def yX1_writeLeaves : MethodName := ⟨RX1, "writeLeaves", "()I"⟩
def dkwX1_writeLeaves_4 : List UInt8 := [172]
abbrev dktX1_writeLeaves_4 : List UInt8 := dkwX1_writeLeaves_4 ++ []
def dkwX1_writeLeaves_3 : List UInt8 := [21, 6, 96, 16, 10, 100, 146, 182, 1, 151, 87, 132, 4, 1, 167, 255, 201, 42, 180, 0, 51, 182, 1, 155]
abbrev dktX1_writeLeaves_3 : List UInt8 := dkwX1_writeLeaves_3 ++ dktX1_writeLeaves_4
def dkwX1_writeLeaves_2 : List UInt8 := [54, 6, 42, 180, 0, 51, 21, 6, 16, 10, 162, 0, 11, 16, 48, 21, 6, 96, 167, 0, 11, 16, 97]
abbrev dktX1_writeLeaves_2 : List UInt8 := dkwX1_writeLeaves_2 ++ dktX1_writeLeaves_3
def dkwX1_writeLeaves_1 : List UInt8 := [190, 62, 3, 54, 4, 21, 4, 29, 162, 0, 55, 44, 21, 4, 50, 58, 5, 43, 25, 5, 182, 0, 208]
abbrev dktX1_writeLeaves_1 : List UInt8 := dkwX1_writeLeaves_1 ++ dktX1_writeLeaves_2
def dkwX1_writeLeaves_0 : List UInt8 := [42, 182, 0, 76, 76, 42, 180, 0, 51, 3, 182, 1, 144, 43, 180, 1, 147, 43, 180, 0, 101, 50, 77, 44]
abbrev dktX1_writeLeaves_0 : List UInt8 := dkwX1_writeLeaves_0 ++ dktX1_writeLeaves_1
theorem dksX1_writeLeaves_0 : cX1_writeLeaves.data.toList.drop 0 = dktX1_writeLeaves_0 := by decide +kernel
theorem dksX1_writeLeaves_1 : cX1_writeLeaves.data.toList.drop 24 = dktX1_writeLeaves_1 := dk_seg dksX1_writeLeaves_0 24 rfl rfl
theorem dksX1_writeLeaves_2 : cX1_writeLeaves.data.toList.drop 47 = dktX1_writeLeaves_2 := dk_seg dksX1_writeLeaves_1 23 rfl rfl
theorem dksX1_writeLeaves_3 : cX1_writeLeaves.data.toList.drop 70 = dktX1_writeLeaves_3 := dk_seg dksX1_writeLeaves_2 23 rfl rfl
theorem dksX1_writeLeaves_4 : cX1_writeLeaves.data.toList.drop 94 = dktX1_writeLeaves_4 := dk_seg dksX1_writeLeaves_3 24 rfl rfl
theorem dX1_writeLeaves_0 : decode cX1_writeLeaves 0 = .ok (.aload_n 0, 1) := dk_42 (dk_at dksX1_writeLeaves_0 0 rfl rfl)
theorem dX1_writeLeaves_1 : decode cX1_writeLeaves 1 = .ok (.invokevirtual 76, 3) := dk_182 0 76 (dk_at dksX1_writeLeaves_0 1 rfl rfl)
theorem dX1_writeLeaves_4 : decode cX1_writeLeaves 4 = .ok (.astore_n 1, 1) := dk_76 (dk_at dksX1_writeLeaves_0 4 rfl rfl)
theorem dX1_writeLeaves_5 : decode cX1_writeLeaves 5 = .ok (.aload_n 0, 1) := dk_42 (dk_at dksX1_writeLeaves_0 5 rfl rfl)
theorem dX1_writeLeaves_6 : decode cX1_writeLeaves 6 = .ok (.getfield 51, 3) := dk_180 0 51 (dk_at dksX1_writeLeaves_0 6 rfl rfl)
theorem dX1_writeLeaves_9 : decode cX1_writeLeaves 9 = .ok (.iconst 0, 1) := dk_3 (dk_at dksX1_writeLeaves_0 9 rfl rfl)
theorem dX1_writeLeaves_10 : decode cX1_writeLeaves 10 = .ok (.invokevirtual 400, 3) := dk_182 1 144 (dk_at dksX1_writeLeaves_0 10 rfl rfl)
theorem dX1_writeLeaves_13 : decode cX1_writeLeaves 13 = .ok (.aload_n 1, 1) := dk_43 (dk_at dksX1_writeLeaves_0 13 rfl rfl)
theorem dX1_writeLeaves_14 : decode cX1_writeLeaves 14 = .ok (.getfield 403, 3) := dk_180 1 147 (dk_at dksX1_writeLeaves_0 14 rfl rfl)
theorem dX1_writeLeaves_17 : decode cX1_writeLeaves 17 = .ok (.aload_n 1, 1) := dk_43 (dk_at dksX1_writeLeaves_0 17 rfl rfl)
theorem dX1_writeLeaves_18 : decode cX1_writeLeaves 18 = .ok (.getfield 101, 3) := dk_180 0 101 (dk_at dksX1_writeLeaves_0 18 rfl rfl)
theorem dX1_writeLeaves_21 : decode cX1_writeLeaves 21 = .ok (.aaload, 1) := dk_50 (dk_at dksX1_writeLeaves_0 21 rfl rfl)
theorem dX1_writeLeaves_22 : decode cX1_writeLeaves 22 = .ok (.astore_n 2, 1) := dk_77 (dk_at dksX1_writeLeaves_0 22 rfl rfl)
theorem dX1_writeLeaves_23 : decode cX1_writeLeaves 23 = .ok (.aload_n 2, 1) := dk_44 (dk_at dksX1_writeLeaves_0 23 rfl rfl)
theorem dX1_writeLeaves_24 : decode cX1_writeLeaves 24 = .ok (.arraylength, 1) := dk_190 (dk_at dksX1_writeLeaves_1 0 rfl rfl)
theorem dX1_writeLeaves_25 : decode cX1_writeLeaves 25 = .ok (.istore_n 3, 1) := dk_62 (dk_at dksX1_writeLeaves_1 1 rfl rfl)
theorem dX1_writeLeaves_26 : decode cX1_writeLeaves 26 = .ok (.iconst 0, 1) := dk_3 (dk_at dksX1_writeLeaves_1 2 rfl rfl)
theorem dX1_writeLeaves_27 : decode cX1_writeLeaves 27 = .ok (.istore 4, 2) := dk_54 4 (dk_at dksX1_writeLeaves_1 3 rfl rfl)
theorem dX1_writeLeaves_29 : decode cX1_writeLeaves 29 = .ok (.iload 4, 2) := dk_21 4 (dk_at dksX1_writeLeaves_1 5 rfl rfl)
theorem dX1_writeLeaves_31 : decode cX1_writeLeaves 31 = .ok (.iload_n 3, 1) := dk_29 (dk_at dksX1_writeLeaves_1 7 rfl rfl)
theorem dX1_writeLeaves_32 : decode cX1_writeLeaves 32 = .ok (.if_icmp .ge 55, 3) := dk_162 0 55 (dk_at dksX1_writeLeaves_1 8 rfl rfl)
theorem dX1_writeLeaves_35 : decode cX1_writeLeaves 35 = .ok (.aload_n 2, 1) := dk_44 (dk_at dksX1_writeLeaves_1 11 rfl rfl)
theorem dX1_writeLeaves_36 : decode cX1_writeLeaves 36 = .ok (.iload 4, 2) := dk_21 4 (dk_at dksX1_writeLeaves_1 12 rfl rfl)
theorem dX1_writeLeaves_38 : decode cX1_writeLeaves 38 = .ok (.aaload, 1) := dk_50 (dk_at dksX1_writeLeaves_1 14 rfl rfl)
theorem dX1_writeLeaves_39 : decode cX1_writeLeaves 39 = .ok (.astore 5, 2) := dk_58 5 (dk_at dksX1_writeLeaves_1 15 rfl rfl)
theorem dX1_writeLeaves_41 : decode cX1_writeLeaves 41 = .ok (.aload_n 1, 1) := dk_43 (dk_at dksX1_writeLeaves_1 17 rfl rfl)
theorem dX1_writeLeaves_42 : decode cX1_writeLeaves 42 = .ok (.aload 5, 2) := dk_25 5 (dk_at dksX1_writeLeaves_1 18 rfl rfl)
theorem dX1_writeLeaves_44 : decode cX1_writeLeaves 44 = .ok (.invokevirtual 208, 3) := dk_182 0 208 (dk_at dksX1_writeLeaves_1 20 rfl rfl)
theorem dX1_writeLeaves_47 : decode cX1_writeLeaves 47 = .ok (.istore 6, 2) := dk_54 6 (dk_at dksX1_writeLeaves_2 0 rfl rfl)
theorem dX1_writeLeaves_49 : decode cX1_writeLeaves 49 = .ok (.aload_n 0, 1) := dk_42 (dk_at dksX1_writeLeaves_2 2 rfl rfl)
theorem dX1_writeLeaves_50 : decode cX1_writeLeaves 50 = .ok (.getfield 51, 3) := dk_180 0 51 (dk_at dksX1_writeLeaves_2 3 rfl rfl)
theorem dX1_writeLeaves_53 : decode cX1_writeLeaves 53 = .ok (.iload 6, 2) := dk_21 6 (dk_at dksX1_writeLeaves_2 6 rfl rfl)
theorem dX1_writeLeaves_55 : decode cX1_writeLeaves 55 = .ok (.bipush 10, 2) := dk_16 10 (dk_at dksX1_writeLeaves_2 8 rfl rfl)
theorem dX1_writeLeaves_57 : decode cX1_writeLeaves 57 = .ok (.if_icmp .ge 11, 3) := dk_162 0 11 (dk_at dksX1_writeLeaves_2 10 rfl rfl)
theorem dX1_writeLeaves_60 : decode cX1_writeLeaves 60 = .ok (.bipush 48, 2) := dk_16 48 (dk_at dksX1_writeLeaves_2 13 rfl rfl)
theorem dX1_writeLeaves_62 : decode cX1_writeLeaves 62 = .ok (.iload 6, 2) := dk_21 6 (dk_at dksX1_writeLeaves_2 15 rfl rfl)
theorem dX1_writeLeaves_64 : decode cX1_writeLeaves 64 = .ok (.iadd, 1) := dk_96 (dk_at dksX1_writeLeaves_2 17 rfl rfl)
theorem dX1_writeLeaves_65 : decode cX1_writeLeaves 65 = .ok (.goto 11, 3) := dk_167 0 11 (dk_at dksX1_writeLeaves_2 18 rfl rfl)
theorem dX1_writeLeaves_68 : decode cX1_writeLeaves 68 = .ok (.bipush 97, 2) := dk_16 97 (dk_at dksX1_writeLeaves_2 21 rfl rfl)
theorem dX1_writeLeaves_70 : decode cX1_writeLeaves 70 = .ok (.iload 6, 2) := dk_21 6 (dk_at dksX1_writeLeaves_3 0 rfl rfl)
theorem dX1_writeLeaves_72 : decode cX1_writeLeaves 72 = .ok (.iadd, 1) := dk_96 (dk_at dksX1_writeLeaves_3 2 rfl rfl)
theorem dX1_writeLeaves_73 : decode cX1_writeLeaves 73 = .ok (.bipush 10, 2) := dk_16 10 (dk_at dksX1_writeLeaves_3 3 rfl rfl)
theorem dX1_writeLeaves_75 : decode cX1_writeLeaves 75 = .ok (.isub, 1) := dk_100 (dk_at dksX1_writeLeaves_3 5 rfl rfl)
theorem dX1_writeLeaves_76 : decode cX1_writeLeaves 76 = .ok (.i2c, 1) := dk_146 (dk_at dksX1_writeLeaves_3 6 rfl rfl)
theorem dX1_writeLeaves_77 : decode cX1_writeLeaves 77 = .ok (.invokevirtual 407, 3) := dk_182 1 151 (dk_at dksX1_writeLeaves_3 7 rfl rfl)
theorem dX1_writeLeaves_80 : decode cX1_writeLeaves 80 = .ok (.pop, 1) := dk_87 (dk_at dksX1_writeLeaves_3 10 rfl rfl)
theorem dX1_writeLeaves_81 : decode cX1_writeLeaves 81 = .ok (.iinc 4 1, 3) := dk_132 4 1 (dk_at dksX1_writeLeaves_3 11 rfl rfl)
theorem dX1_writeLeaves_84 : decode cX1_writeLeaves 84 = .ok (.goto (-55), 3) := dk_167 255 201 (dk_at dksX1_writeLeaves_3 14 rfl rfl)
theorem dX1_writeLeaves_87 : decode cX1_writeLeaves 87 = .ok (.aload_n 0, 1) := dk_42 (dk_at dksX1_writeLeaves_3 17 rfl rfl)
theorem dX1_writeLeaves_88 : decode cX1_writeLeaves 88 = .ok (.getfield 51, 3) := dk_180 0 51 (dk_at dksX1_writeLeaves_3 18 rfl rfl)
theorem dX1_writeLeaves_91 : decode cX1_writeLeaves 91 = .ok (.invokevirtual 411, 3) := dk_182 1 155 (dk_at dksX1_writeLeaves_3 21 rfl rfl)
theorem dX1_writeLeaves_94 : decode cX1_writeLeaves 94 = .ok (.ireturn, 1) := dk_172 (dk_at dksX1_writeLeaves_4 0 rfl rfl)
abbrev cX8_sign : ByteArray := prog_4_method_3_code
def yX8_sign : MethodName := ⟨RX8, "sign", "()Ljava/lang/String;"⟩
theorem dX8_sign_0 : decode cX8_sign 0 = .ok (.ldc 10, 2) := by decide +kernel
theorem dX8_sign_2 : decode cX8_sign 2 = .ok (.areturn, 1) := by decide +kernel
abbrev cX9_sign : ByteArray := prog_6_method_3_code
def yX9_sign : MethodName := ⟨RX9, "sign", "()Ljava/lang/String;"⟩
theorem dX9_sign_0 : decode cX9_sign 0 = .ok (.ldc 10, 2) := by decide +kernel
theorem dX9_sign_2 : decode cX9_sign 2 = .ok (.areturn, 1) := by decide +kernel
abbrev cX1_writeBodies : ByteArray := prog_1_method_74_code
def yX1_writeBodies : MethodName := ⟨RX1, "writeBodies", "()I"⟩
def dkwX1_writeBodies_4 : List UInt8 := [16, 46, 182, 1, 151, 87, 42, 180, 0, 51, 182, 1, 155, 172]
abbrev dktX1_writeBodies_4 : List UInt8 := dkwX1_writeBodies_4 ++ []
def dkwX1_writeBodies_3 : List UInt8 := [180, 0, 177, 182, 1, 165, 87, 132, 2, 1, 167, 255, 192, 43, 182, 0, 80, 154, 0, 13, 42, 180, 0, 51]
abbrev dktX1_writeBodies_3 : List UInt8 := dkwX1_writeBodies_3 ++ dktX1_writeBodies_4
def dkwX1_writeBodies_2 : List UInt8 := [182, 1, 162, 45, 180, 0, 139, 182, 1, 165, 45, 182, 1, 168, 182, 1, 162, 16, 58, 182, 1, 151, 45]
abbrev dktX1_writeBodies_2 : List UInt8 := dkwX1_writeBodies_2 ++ dktX1_writeBodies_3
def dkwX1_writeBodies_1 : List UInt8 := [28, 182, 0, 88, 78, 42, 180, 0, 51, 28, 158, 0, 9, 19, 1, 158, 167, 0, 6, 19, 1, 160]
abbrev dktX1_writeBodies_1 : List UInt8 := dkwX1_writeBodies_1 ++ dktX1_writeBodies_2
def dkwX1_writeBodies_0 : List UInt8 := [42, 182, 0, 76, 76, 42, 180, 0, 51, 3, 182, 1, 144, 3, 61, 28, 43, 182, 0, 80, 162, 0, 62, 43]
abbrev dktX1_writeBodies_0 : List UInt8 := dkwX1_writeBodies_0 ++ dktX1_writeBodies_1
theorem dksX1_writeBodies_0 : cX1_writeBodies.data.toList.drop 0 = dktX1_writeBodies_0 := by decide +kernel
theorem dksX1_writeBodies_1 : cX1_writeBodies.data.toList.drop 24 = dktX1_writeBodies_1 := dk_seg dksX1_writeBodies_0 24 rfl rfl
theorem dksX1_writeBodies_2 : cX1_writeBodies.data.toList.drop 46 = dktX1_writeBodies_2 := dk_seg dksX1_writeBodies_1 22 rfl rfl
theorem dksX1_writeBodies_3 : cX1_writeBodies.data.toList.drop 69 = dktX1_writeBodies_3 := dk_seg dksX1_writeBodies_2 23 rfl rfl
theorem dksX1_writeBodies_4 : cX1_writeBodies.data.toList.drop 93 = dktX1_writeBodies_4 := dk_seg dksX1_writeBodies_3 24 rfl rfl
theorem dX1_writeBodies_0 : decode cX1_writeBodies 0 = .ok (.aload_n 0, 1) := dk_42 (dk_at dksX1_writeBodies_0 0 rfl rfl)
theorem dX1_writeBodies_1 : decode cX1_writeBodies 1 = .ok (.invokevirtual 76, 3) := dk_182 0 76 (dk_at dksX1_writeBodies_0 1 rfl rfl)
theorem dX1_writeBodies_4 : decode cX1_writeBodies 4 = .ok (.astore_n 1, 1) := dk_76 (dk_at dksX1_writeBodies_0 4 rfl rfl)
theorem dX1_writeBodies_5 : decode cX1_writeBodies 5 = .ok (.aload_n 0, 1) := dk_42 (dk_at dksX1_writeBodies_0 5 rfl rfl)
theorem dX1_writeBodies_6 : decode cX1_writeBodies 6 = .ok (.getfield 51, 3) := dk_180 0 51 (dk_at dksX1_writeBodies_0 6 rfl rfl)
theorem dX1_writeBodies_9 : decode cX1_writeBodies 9 = .ok (.iconst 0, 1) := dk_3 (dk_at dksX1_writeBodies_0 9 rfl rfl)
theorem dX1_writeBodies_10 : decode cX1_writeBodies 10 = .ok (.invokevirtual 400, 3) := dk_182 1 144 (dk_at dksX1_writeBodies_0 10 rfl rfl)
theorem dX1_writeBodies_13 : decode cX1_writeBodies 13 = .ok (.iconst 0, 1) := dk_3 (dk_at dksX1_writeBodies_0 13 rfl rfl)
theorem dX1_writeBodies_14 : decode cX1_writeBodies 14 = .ok (.istore_n 2, 1) := dk_61 (dk_at dksX1_writeBodies_0 14 rfl rfl)
theorem dX1_writeBodies_15 : decode cX1_writeBodies 15 = .ok (.iload_n 2, 1) := dk_28 (dk_at dksX1_writeBodies_0 15 rfl rfl)
theorem dX1_writeBodies_16 : decode cX1_writeBodies 16 = .ok (.aload_n 1, 1) := dk_43 (dk_at dksX1_writeBodies_0 16 rfl rfl)
theorem dX1_writeBodies_17 : decode cX1_writeBodies 17 = .ok (.invokevirtual 80, 3) := dk_182 0 80 (dk_at dksX1_writeBodies_0 17 rfl rfl)
theorem dX1_writeBodies_20 : decode cX1_writeBodies 20 = .ok (.if_icmp .ge 62, 3) := dk_162 0 62 (dk_at dksX1_writeBodies_0 20 rfl rfl)
theorem dX1_writeBodies_23 : decode cX1_writeBodies 23 = .ok (.aload_n 1, 1) := dk_43 (dk_at dksX1_writeBodies_0 23 rfl rfl)
theorem dX1_writeBodies_24 : decode cX1_writeBodies 24 = .ok (.iload_n 2, 1) := dk_28 (dk_at dksX1_writeBodies_1 0 rfl rfl)
theorem dX1_writeBodies_25 : decode cX1_writeBodies 25 = .ok (.invokevirtual 88, 3) := dk_182 0 88 (dk_at dksX1_writeBodies_1 1 rfl rfl)
theorem dX1_writeBodies_28 : decode cX1_writeBodies 28 = .ok (.astore_n 3, 1) := dk_78 (dk_at dksX1_writeBodies_1 4 rfl rfl)
theorem dX1_writeBodies_29 : decode cX1_writeBodies 29 = .ok (.aload_n 0, 1) := dk_42 (dk_at dksX1_writeBodies_1 5 rfl rfl)
theorem dX1_writeBodies_30 : decode cX1_writeBodies 30 = .ok (.getfield 51, 3) := dk_180 0 51 (dk_at dksX1_writeBodies_1 6 rfl rfl)
theorem dX1_writeBodies_33 : decode cX1_writeBodies 33 = .ok (.iload_n 2, 1) := dk_28 (dk_at dksX1_writeBodies_1 9 rfl rfl)
theorem dX1_writeBodies_34 : decode cX1_writeBodies 34 = .ok (.ifCond .le 9, 3) := dk_158 0 9 (dk_at dksX1_writeBodies_1 10 rfl rfl)
theorem dX1_writeBodies_37 : decode cX1_writeBodies 37 = .ok (.ldc_w 414, 3) := dk_19 1 158 (dk_at dksX1_writeBodies_1 13 rfl rfl)
theorem dX1_writeBodies_40 : decode cX1_writeBodies 40 = .ok (.goto 6, 3) := dk_167 0 6 (dk_at dksX1_writeBodies_1 16 rfl rfl)
theorem dX1_writeBodies_43 : decode cX1_writeBodies 43 = .ok (.ldc_w 416, 3) := dk_19 1 160 (dk_at dksX1_writeBodies_1 19 rfl rfl)
theorem dX1_writeBodies_46 : decode cX1_writeBodies 46 = .ok (.invokevirtual 418, 3) := dk_182 1 162 (dk_at dksX1_writeBodies_2 0 rfl rfl)
theorem dX1_writeBodies_49 : decode cX1_writeBodies 49 = .ok (.aload_n 3, 1) := dk_45 (dk_at dksX1_writeBodies_2 3 rfl rfl)
theorem dX1_writeBodies_50 : decode cX1_writeBodies 50 = .ok (.getfield 139, 3) := dk_180 0 139 (dk_at dksX1_writeBodies_2 4 rfl rfl)
theorem dX1_writeBodies_53 : decode cX1_writeBodies 53 = .ok (.invokevirtual 421, 3) := dk_182 1 165 (dk_at dksX1_writeBodies_2 7 rfl rfl)
theorem dX1_writeBodies_56 : decode cX1_writeBodies 56 = .ok (.aload_n 3, 1) := dk_45 (dk_at dksX1_writeBodies_2 10 rfl rfl)
theorem dX1_writeBodies_57 : decode cX1_writeBodies 57 = .ok (.invokevirtual 424, 3) := dk_182 1 168 (dk_at dksX1_writeBodies_2 11 rfl rfl)
theorem dX1_writeBodies_60 : decode cX1_writeBodies 60 = .ok (.invokevirtual 418, 3) := dk_182 1 162 (dk_at dksX1_writeBodies_2 14 rfl rfl)
theorem dX1_writeBodies_63 : decode cX1_writeBodies 63 = .ok (.bipush 58, 2) := dk_16 58 (dk_at dksX1_writeBodies_2 17 rfl rfl)
theorem dX1_writeBodies_65 : decode cX1_writeBodies 65 = .ok (.invokevirtual 407, 3) := dk_182 1 151 (dk_at dksX1_writeBodies_2 19 rfl rfl)
theorem dX1_writeBodies_68 : decode cX1_writeBodies 68 = .ok (.aload_n 3, 1) := dk_45 (dk_at dksX1_writeBodies_2 22 rfl rfl)
theorem dX1_writeBodies_69 : decode cX1_writeBodies 69 = .ok (.getfield 177, 3) := dk_180 0 177 (dk_at dksX1_writeBodies_3 0 rfl rfl)
theorem dX1_writeBodies_72 : decode cX1_writeBodies 72 = .ok (.invokevirtual 421, 3) := dk_182 1 165 (dk_at dksX1_writeBodies_3 3 rfl rfl)
theorem dX1_writeBodies_75 : decode cX1_writeBodies 75 = .ok (.pop, 1) := dk_87 (dk_at dksX1_writeBodies_3 6 rfl rfl)
theorem dX1_writeBodies_76 : decode cX1_writeBodies 76 = .ok (.iinc 2 1, 3) := dk_132 2 1 (dk_at dksX1_writeBodies_3 7 rfl rfl)
theorem dX1_writeBodies_79 : decode cX1_writeBodies 79 = .ok (.goto (-64), 3) := dk_167 255 192 (dk_at dksX1_writeBodies_3 10 rfl rfl)
theorem dX1_writeBodies_82 : decode cX1_writeBodies 82 = .ok (.aload_n 1, 1) := dk_43 (dk_at dksX1_writeBodies_3 13 rfl rfl)
theorem dX1_writeBodies_83 : decode cX1_writeBodies 83 = .ok (.invokevirtual 80, 3) := dk_182 0 80 (dk_at dksX1_writeBodies_3 14 rfl rfl)
theorem dX1_writeBodies_86 : decode cX1_writeBodies 86 = .ok (.ifCond .ne 13, 3) := dk_154 0 13 (dk_at dksX1_writeBodies_3 17 rfl rfl)
theorem dX1_writeBodies_89 : decode cX1_writeBodies 89 = .ok (.aload_n 0, 1) := dk_42 (dk_at dksX1_writeBodies_3 20 rfl rfl)
theorem dX1_writeBodies_90 : decode cX1_writeBodies 90 = .ok (.getfield 51, 3) := dk_180 0 51 (dk_at dksX1_writeBodies_3 21 rfl rfl)
theorem dX1_writeBodies_93 : decode cX1_writeBodies 93 = .ok (.bipush 46, 2) := dk_16 46 (dk_at dksX1_writeBodies_4 0 rfl rfl)
theorem dX1_writeBodies_95 : decode cX1_writeBodies 95 = .ok (.invokevirtual 407, 3) := dk_182 1 151 (dk_at dksX1_writeBodies_4 2 rfl rfl)
theorem dX1_writeBodies_98 : decode cX1_writeBodies 98 = .ok (.pop, 1) := dk_87 (dk_at dksX1_writeBodies_4 5 rfl rfl)
theorem dX1_writeBodies_99 : decode cX1_writeBodies 99 = .ok (.aload_n 0, 1) := dk_42 (dk_at dksX1_writeBodies_4 6 rfl rfl)
theorem dX1_writeBodies_100 : decode cX1_writeBodies 100 = .ok (.getfield 51, 3) := dk_180 0 51 (dk_at dksX1_writeBodies_4 7 rfl rfl)
theorem dX1_writeBodies_103 : decode cX1_writeBodies 103 = .ok (.invokevirtual 411, 3) := dk_182 1 155 (dk_at dksX1_writeBodies_4 10 rfl rfl)
theorem dX1_writeBodies_106 : decode cX1_writeBodies 106 = .ok (.ireturn, 1) := dk_172 (dk_at dksX1_writeBodies_4 13 rfl rfl)
abbrev cX1_writeLine : ByteArray := prog_1_method_75_code
def yX1_writeLine : MethodName := ⟨RX1, "writeLine", "()I"⟩
def dkwX1_writeLine_6 : List UInt8 := [132, 2, 1, 167, 255, 174, 42, 180, 0, 51, 182, 1, 155, 172]
abbrev dktX1_writeLine_6 : List UInt8 := dkwX1_writeLine_6 ++ []
def dkwX1_writeLine_5 : List UInt8 := [19, 1, 178, 167, 0, 6, 19, 1, 158, 182, 1, 162, 45, 180, 0, 177, 184, 1, 50, 182, 1, 165, 87]
abbrev dktX1_writeLine_5 : List UInt8 := dkwX1_writeLine_5 ++ dktX1_writeLine_6
def dkwX1_writeLine_4 : List UInt8 := [182, 1, 162, 45, 180, 0, 139, 182, 1, 165, 87, 42, 180, 0, 51, 45, 180, 0, 177, 156, 0, 9]
abbrev dktX1_writeLine_4 : List UInt8 := dkwX1_writeLine_4 ++ dktX1_writeLine_5
def dkwX1_writeLine_3 : List UInt8 := [182, 0, 88, 78, 42, 180, 0, 51, 45, 180, 0, 18, 153, 0, 9, 19, 1, 174, 167, 0, 6, 19, 1, 176]
abbrev dktX1_writeLine_3 : List UInt8 := dkwX1_writeLine_3 ++ dktX1_writeLine_4
def dkwX1_writeLine_2 : List UInt8 := [182, 1, 165, 87, 132, 2, 1, 167, 255, 229, 3, 61, 28, 43, 182, 0, 80, 162, 0, 80, 43, 28]
abbrev dktX1_writeLine_2 : List UInt8 := dkwX1_writeLine_2 ++ dktX1_writeLine_3
def dkwX1_writeLine_1 : List UInt8 := [6, 61, 28, 16, 6, 162, 0, 27, 42, 180, 0, 51, 16, 32, 182, 1, 151, 43, 28, 182, 0, 145]
abbrev dktX1_writeLine_1 : List UInt8 := dkwX1_writeLine_1 ++ dktX1_writeLine_2
def dkwX1_writeLine_0 : List UInt8 := [42, 182, 0, 76, 76, 42, 180, 0, 51, 3, 182, 1, 144, 42, 180, 0, 51, 19, 1, 172, 182, 1, 162, 87]
abbrev dktX1_writeLine_0 : List UInt8 := dkwX1_writeLine_0 ++ dktX1_writeLine_1
theorem dksX1_writeLine_0 : cX1_writeLine.data.toList.drop 0 = dktX1_writeLine_0 := by decide +kernel
theorem dksX1_writeLine_1 : cX1_writeLine.data.toList.drop 24 = dktX1_writeLine_1 := dk_seg dksX1_writeLine_0 24 rfl rfl
theorem dksX1_writeLine_2 : cX1_writeLine.data.toList.drop 46 = dktX1_writeLine_2 := dk_seg dksX1_writeLine_1 22 rfl rfl
theorem dksX1_writeLine_3 : cX1_writeLine.data.toList.drop 68 = dktX1_writeLine_3 := dk_seg dksX1_writeLine_2 22 rfl rfl
theorem dksX1_writeLine_4 : cX1_writeLine.data.toList.drop 92 = dktX1_writeLine_4 := dk_seg dksX1_writeLine_3 24 rfl rfl
theorem dksX1_writeLine_5 : cX1_writeLine.data.toList.drop 114 = dktX1_writeLine_5 := dk_seg dksX1_writeLine_4 22 rfl rfl
theorem dksX1_writeLine_6 : cX1_writeLine.data.toList.drop 137 = dktX1_writeLine_6 := dk_seg dksX1_writeLine_5 23 rfl rfl
theorem dX1_writeLine_0 : decode cX1_writeLine 0 = .ok (.aload_n 0, 1) := dk_42 (dk_at dksX1_writeLine_0 0 rfl rfl)
theorem dX1_writeLine_1 : decode cX1_writeLine 1 = .ok (.invokevirtual 76, 3) := dk_182 0 76 (dk_at dksX1_writeLine_0 1 rfl rfl)
theorem dX1_writeLine_4 : decode cX1_writeLine 4 = .ok (.astore_n 1, 1) := dk_76 (dk_at dksX1_writeLine_0 4 rfl rfl)
theorem dX1_writeLine_5 : decode cX1_writeLine 5 = .ok (.aload_n 0, 1) := dk_42 (dk_at dksX1_writeLine_0 5 rfl rfl)
theorem dX1_writeLine_6 : decode cX1_writeLine 6 = .ok (.getfield 51, 3) := dk_180 0 51 (dk_at dksX1_writeLine_0 6 rfl rfl)
theorem dX1_writeLine_9 : decode cX1_writeLine 9 = .ok (.iconst 0, 1) := dk_3 (dk_at dksX1_writeLine_0 9 rfl rfl)
theorem dX1_writeLine_10 : decode cX1_writeLine 10 = .ok (.invokevirtual 400, 3) := dk_182 1 144 (dk_at dksX1_writeLine_0 10 rfl rfl)
theorem dX1_writeLine_13 : decode cX1_writeLine 13 = .ok (.aload_n 0, 1) := dk_42 (dk_at dksX1_writeLine_0 13 rfl rfl)
theorem dX1_writeLine_14 : decode cX1_writeLine 14 = .ok (.getfield 51, 3) := dk_180 0 51 (dk_at dksX1_writeLine_0 14 rfl rfl)
theorem dX1_writeLine_17 : decode cX1_writeLine 17 = .ok (.ldc_w 428, 3) := dk_19 1 172 (dk_at dksX1_writeLine_0 17 rfl rfl)
theorem dX1_writeLine_20 : decode cX1_writeLine 20 = .ok (.invokevirtual 418, 3) := dk_182 1 162 (dk_at dksX1_writeLine_0 20 rfl rfl)
theorem dX1_writeLine_23 : decode cX1_writeLine 23 = .ok (.pop, 1) := dk_87 (dk_at dksX1_writeLine_0 23 rfl rfl)
theorem dX1_writeLine_24 : decode cX1_writeLine 24 = .ok (.iconst 3, 1) := dk_6 (dk_at dksX1_writeLine_1 0 rfl rfl)
theorem dX1_writeLine_25 : decode cX1_writeLine 25 = .ok (.istore_n 2, 1) := dk_61 (dk_at dksX1_writeLine_1 1 rfl rfl)
theorem dX1_writeLine_26 : decode cX1_writeLine 26 = .ok (.iload_n 2, 1) := dk_28 (dk_at dksX1_writeLine_1 2 rfl rfl)
theorem dX1_writeLine_27 : decode cX1_writeLine 27 = .ok (.bipush 6, 2) := dk_16 6 (dk_at dksX1_writeLine_1 3 rfl rfl)
theorem dX1_writeLine_29 : decode cX1_writeLine 29 = .ok (.if_icmp .ge 27, 3) := dk_162 0 27 (dk_at dksX1_writeLine_1 5 rfl rfl)
theorem dX1_writeLine_32 : decode cX1_writeLine 32 = .ok (.aload_n 0, 1) := dk_42 (dk_at dksX1_writeLine_1 8 rfl rfl)
theorem dX1_writeLine_33 : decode cX1_writeLine 33 = .ok (.getfield 51, 3) := dk_180 0 51 (dk_at dksX1_writeLine_1 9 rfl rfl)
theorem dX1_writeLine_36 : decode cX1_writeLine 36 = .ok (.bipush 32, 2) := dk_16 32 (dk_at dksX1_writeLine_1 12 rfl rfl)
theorem dX1_writeLine_38 : decode cX1_writeLine 38 = .ok (.invokevirtual 407, 3) := dk_182 1 151 (dk_at dksX1_writeLine_1 14 rfl rfl)
theorem dX1_writeLine_41 : decode cX1_writeLine 41 = .ok (.aload_n 1, 1) := dk_43 (dk_at dksX1_writeLine_1 17 rfl rfl)
theorem dX1_writeLine_42 : decode cX1_writeLine 42 = .ok (.iload_n 2, 1) := dk_28 (dk_at dksX1_writeLine_1 18 rfl rfl)
theorem dX1_writeLine_43 : decode cX1_writeLine 43 = .ok (.invokevirtual 145, 3) := dk_182 0 145 (dk_at dksX1_writeLine_1 19 rfl rfl)
theorem dX1_writeLine_46 : decode cX1_writeLine 46 = .ok (.invokevirtual 421, 3) := dk_182 1 165 (dk_at dksX1_writeLine_2 0 rfl rfl)
theorem dX1_writeLine_49 : decode cX1_writeLine 49 = .ok (.pop, 1) := dk_87 (dk_at dksX1_writeLine_2 3 rfl rfl)
theorem dX1_writeLine_50 : decode cX1_writeLine 50 = .ok (.iinc 2 1, 3) := dk_132 2 1 (dk_at dksX1_writeLine_2 4 rfl rfl)
theorem dX1_writeLine_53 : decode cX1_writeLine 53 = .ok (.goto (-27), 3) := dk_167 255 229 (dk_at dksX1_writeLine_2 7 rfl rfl)
theorem dX1_writeLine_56 : decode cX1_writeLine 56 = .ok (.iconst 0, 1) := dk_3 (dk_at dksX1_writeLine_2 10 rfl rfl)
theorem dX1_writeLine_57 : decode cX1_writeLine 57 = .ok (.istore_n 2, 1) := dk_61 (dk_at dksX1_writeLine_2 11 rfl rfl)
theorem dX1_writeLine_58 : decode cX1_writeLine 58 = .ok (.iload_n 2, 1) := dk_28 (dk_at dksX1_writeLine_2 12 rfl rfl)
theorem dX1_writeLine_59 : decode cX1_writeLine 59 = .ok (.aload_n 1, 1) := dk_43 (dk_at dksX1_writeLine_2 13 rfl rfl)
theorem dX1_writeLine_60 : decode cX1_writeLine 60 = .ok (.invokevirtual 80, 3) := dk_182 0 80 (dk_at dksX1_writeLine_2 14 rfl rfl)
theorem dX1_writeLine_63 : decode cX1_writeLine 63 = .ok (.if_icmp .ge 80, 3) := dk_162 0 80 (dk_at dksX1_writeLine_2 17 rfl rfl)
theorem dX1_writeLine_66 : decode cX1_writeLine 66 = .ok (.aload_n 1, 1) := dk_43 (dk_at dksX1_writeLine_2 20 rfl rfl)
theorem dX1_writeLine_67 : decode cX1_writeLine 67 = .ok (.iload_n 2, 1) := dk_28 (dk_at dksX1_writeLine_2 21 rfl rfl)
theorem dX1_writeLine_68 : decode cX1_writeLine 68 = .ok (.invokevirtual 88, 3) := dk_182 0 88 (dk_at dksX1_writeLine_3 0 rfl rfl)
theorem dX1_writeLine_71 : decode cX1_writeLine 71 = .ok (.astore_n 3, 1) := dk_78 (dk_at dksX1_writeLine_3 3 rfl rfl)
theorem dX1_writeLine_72 : decode cX1_writeLine 72 = .ok (.aload_n 0, 1) := dk_42 (dk_at dksX1_writeLine_3 4 rfl rfl)
theorem dX1_writeLine_73 : decode cX1_writeLine 73 = .ok (.getfield 51, 3) := dk_180 0 51 (dk_at dksX1_writeLine_3 5 rfl rfl)
theorem dX1_writeLine_76 : decode cX1_writeLine 76 = .ok (.aload_n 3, 1) := dk_45 (dk_at dksX1_writeLine_3 8 rfl rfl)
theorem dX1_writeLine_77 : decode cX1_writeLine 77 = .ok (.getfield 18, 3) := dk_180 0 18 (dk_at dksX1_writeLine_3 9 rfl rfl)
theorem dX1_writeLine_80 : decode cX1_writeLine 80 = .ok (.ifCond .eq 9, 3) := dk_153 0 9 (dk_at dksX1_writeLine_3 12 rfl rfl)
theorem dX1_writeLine_83 : decode cX1_writeLine 83 = .ok (.ldc_w 430, 3) := dk_19 1 174 (dk_at dksX1_writeLine_3 15 rfl rfl)
theorem dX1_writeLine_86 : decode cX1_writeLine 86 = .ok (.goto 6, 3) := dk_167 0 6 (dk_at dksX1_writeLine_3 18 rfl rfl)
theorem dX1_writeLine_89 : decode cX1_writeLine 89 = .ok (.ldc_w 432, 3) := dk_19 1 176 (dk_at dksX1_writeLine_3 21 rfl rfl)
theorem dX1_writeLine_92 : decode cX1_writeLine 92 = .ok (.invokevirtual 418, 3) := dk_182 1 162 (dk_at dksX1_writeLine_4 0 rfl rfl)
theorem dX1_writeLine_95 : decode cX1_writeLine 95 = .ok (.aload_n 3, 1) := dk_45 (dk_at dksX1_writeLine_4 3 rfl rfl)
theorem dX1_writeLine_96 : decode cX1_writeLine 96 = .ok (.getfield 139, 3) := dk_180 0 139 (dk_at dksX1_writeLine_4 4 rfl rfl)
theorem dX1_writeLine_99 : decode cX1_writeLine 99 = .ok (.invokevirtual 421, 3) := dk_182 1 165 (dk_at dksX1_writeLine_4 7 rfl rfl)
theorem dX1_writeLine_102 : decode cX1_writeLine 102 = .ok (.pop, 1) := dk_87 (dk_at dksX1_writeLine_4 10 rfl rfl)
theorem dX1_writeLine_103 : decode cX1_writeLine 103 = .ok (.aload_n 0, 1) := dk_42 (dk_at dksX1_writeLine_4 11 rfl rfl)
theorem dX1_writeLine_104 : decode cX1_writeLine 104 = .ok (.getfield 51, 3) := dk_180 0 51 (dk_at dksX1_writeLine_4 12 rfl rfl)
theorem dX1_writeLine_107 : decode cX1_writeLine 107 = .ok (.aload_n 3, 1) := dk_45 (dk_at dksX1_writeLine_4 15 rfl rfl)
theorem dX1_writeLine_108 : decode cX1_writeLine 108 = .ok (.getfield 177, 3) := dk_180 0 177 (dk_at dksX1_writeLine_4 16 rfl rfl)
theorem dX1_writeLine_111 : decode cX1_writeLine 111 = .ok (.ifCond .ge 9, 3) := dk_156 0 9 (dk_at dksX1_writeLine_4 19 rfl rfl)
theorem dX1_writeLine_114 : decode cX1_writeLine 114 = .ok (.ldc_w 434, 3) := dk_19 1 178 (dk_at dksX1_writeLine_5 0 rfl rfl)
theorem dX1_writeLine_117 : decode cX1_writeLine 117 = .ok (.goto 6, 3) := dk_167 0 6 (dk_at dksX1_writeLine_5 3 rfl rfl)
theorem dX1_writeLine_120 : decode cX1_writeLine 120 = .ok (.ldc_w 414, 3) := dk_19 1 158 (dk_at dksX1_writeLine_5 6 rfl rfl)
theorem dX1_writeLine_123 : decode cX1_writeLine 123 = .ok (.invokevirtual 418, 3) := dk_182 1 162 (dk_at dksX1_writeLine_5 9 rfl rfl)
theorem dX1_writeLine_126 : decode cX1_writeLine 126 = .ok (.aload_n 3, 1) := dk_45 (dk_at dksX1_writeLine_5 12 rfl rfl)
theorem dX1_writeLine_127 : decode cX1_writeLine 127 = .ok (.getfield 177, 3) := dk_180 0 177 (dk_at dksX1_writeLine_5 13 rfl rfl)
theorem dX1_writeLine_130 : decode cX1_writeLine 130 = .ok (.invokestatic 306, 3) := dk_184 1 50 (dk_at dksX1_writeLine_5 16 rfl rfl)
theorem dX1_writeLine_133 : decode cX1_writeLine 133 = .ok (.invokevirtual 421, 3) := dk_182 1 165 (dk_at dksX1_writeLine_5 19 rfl rfl)
theorem dX1_writeLine_136 : decode cX1_writeLine 136 = .ok (.pop, 1) := dk_87 (dk_at dksX1_writeLine_5 22 rfl rfl)
theorem dX1_writeLine_137 : decode cX1_writeLine 137 = .ok (.iinc 2 1, 3) := dk_132 2 1 (dk_at dksX1_writeLine_6 0 rfl rfl)
theorem dX1_writeLine_140 : decode cX1_writeLine 140 = .ok (.goto (-82), 3) := dk_167 255 174 (dk_at dksX1_writeLine_6 3 rfl rfl)
theorem dX1_writeLine_143 : decode cX1_writeLine 143 = .ok (.aload_n 0, 1) := dk_42 (dk_at dksX1_writeLine_6 6 rfl rfl)
theorem dX1_writeLine_144 : decode cX1_writeLine 144 = .ok (.getfield 51, 3) := dk_180 0 51 (dk_at dksX1_writeLine_6 7 rfl rfl)
theorem dX1_writeLine_147 : decode cX1_writeLine 147 = .ok (.invokevirtual 411, 3) := dk_182 1 155 (dk_at dksX1_writeLine_6 10 rfl rfl)
theorem dX1_writeLine_150 : decode cX1_writeLine 150 = .ok (.ireturn, 1) := dk_172 (dk_at dksX1_writeLine_6 13 rfl rfl)
abbrev cX1_writeFar : ByteArray := prog_1_method_76_code
def yX1_writeFar : MethodName := ⟨RX1, "writeFar", "(I)I"⟩
def dkwX1_writeFar_4 : List UInt8 := [180, 0, 51, 16, 46, 182, 1, 151, 87, 42, 180, 0, 51, 182, 1, 155, 172]
abbrev dktX1_writeFar_4 : List UInt8 := dkwX1_writeFar_4 ++ []
def dkwX1_writeFar_3 : List UInt8 := [182, 1, 151, 25, 5, 180, 0, 188, 182, 1, 165, 87, 132, 4, 1, 167, 255, 195, 29, 154, 0, 13, 42]
abbrev dktX1_writeFar_3 : List UInt8 := dkwX1_writeFar_3 ++ dktX1_writeFar_4
def dkwX1_writeFar_2 : List UInt8 := [19, 1, 158, 167, 0, 6, 19, 1, 160, 182, 1, 162, 25, 5, 180, 1, 21, 182, 1, 165, 16, 47]
abbrev dktX1_writeFar_2 : List UInt8 := dkwX1_writeFar_2 ++ dktX1_writeFar_3
def dkwX1_writeFar_1 : List UInt8 := [21, 4, 29, 162, 0, 61, 44, 180, 1, 17, 21, 4, 50, 58, 5, 42, 180, 0, 51, 21, 4, 158, 0, 9]
abbrev dktX1_writeFar_1 : List UInt8 := dkwX1_writeFar_1 ++ dktX1_writeFar_2
def dkwX1_writeFar_0 : List UInt8 := [42, 27, 182, 0, 193, 77, 44, 27, 182, 1, 14, 62, 42, 180, 0, 51, 3, 182, 1, 144, 3, 54, 4]
abbrev dktX1_writeFar_0 : List UInt8 := dkwX1_writeFar_0 ++ dktX1_writeFar_1
theorem dksX1_writeFar_0 : cX1_writeFar.data.toList.drop 0 = dktX1_writeFar_0 := by decide +kernel
theorem dksX1_writeFar_1 : cX1_writeFar.data.toList.drop 23 = dktX1_writeFar_1 := dk_seg dksX1_writeFar_0 23 rfl rfl
theorem dksX1_writeFar_2 : cX1_writeFar.data.toList.drop 47 = dktX1_writeFar_2 := dk_seg dksX1_writeFar_1 24 rfl rfl
theorem dksX1_writeFar_3 : cX1_writeFar.data.toList.drop 69 = dktX1_writeFar_3 := dk_seg dksX1_writeFar_2 22 rfl rfl
theorem dksX1_writeFar_4 : cX1_writeFar.data.toList.drop 92 = dktX1_writeFar_4 := dk_seg dksX1_writeFar_3 23 rfl rfl
theorem dX1_writeFar_0 : decode cX1_writeFar 0 = .ok (.aload_n 0, 1) := dk_42 (dk_at dksX1_writeFar_0 0 rfl rfl)
theorem dX1_writeFar_1 : decode cX1_writeFar 1 = .ok (.iload_n 1, 1) := dk_27 (dk_at dksX1_writeFar_0 1 rfl rfl)
theorem dX1_writeFar_2 : decode cX1_writeFar 2 = .ok (.invokevirtual 193, 3) := dk_182 0 193 (dk_at dksX1_writeFar_0 2 rfl rfl)
theorem dX1_writeFar_5 : decode cX1_writeFar 5 = .ok (.astore_n 2, 1) := dk_77 (dk_at dksX1_writeFar_0 5 rfl rfl)
theorem dX1_writeFar_6 : decode cX1_writeFar 6 = .ok (.aload_n 2, 1) := dk_44 (dk_at dksX1_writeFar_0 6 rfl rfl)
theorem dX1_writeFar_7 : decode cX1_writeFar 7 = .ok (.iload_n 1, 1) := dk_27 (dk_at dksX1_writeFar_0 7 rfl rfl)
theorem dX1_writeFar_8 : decode cX1_writeFar 8 = .ok (.invokevirtual 270, 3) := dk_182 1 14 (dk_at dksX1_writeFar_0 8 rfl rfl)
theorem dX1_writeFar_11 : decode cX1_writeFar 11 = .ok (.istore_n 3, 1) := dk_62 (dk_at dksX1_writeFar_0 11 rfl rfl)
theorem dX1_writeFar_12 : decode cX1_writeFar 12 = .ok (.aload_n 0, 1) := dk_42 (dk_at dksX1_writeFar_0 12 rfl rfl)
theorem dX1_writeFar_13 : decode cX1_writeFar 13 = .ok (.getfield 51, 3) := dk_180 0 51 (dk_at dksX1_writeFar_0 13 rfl rfl)
theorem dX1_writeFar_16 : decode cX1_writeFar 16 = .ok (.iconst 0, 1) := dk_3 (dk_at dksX1_writeFar_0 16 rfl rfl)
theorem dX1_writeFar_17 : decode cX1_writeFar 17 = .ok (.invokevirtual 400, 3) := dk_182 1 144 (dk_at dksX1_writeFar_0 17 rfl rfl)
theorem dX1_writeFar_20 : decode cX1_writeFar 20 = .ok (.iconst 0, 1) := dk_3 (dk_at dksX1_writeFar_0 20 rfl rfl)
theorem dX1_writeFar_21 : decode cX1_writeFar 21 = .ok (.istore 4, 2) := dk_54 4 (dk_at dksX1_writeFar_0 21 rfl rfl)
theorem dX1_writeFar_23 : decode cX1_writeFar 23 = .ok (.iload 4, 2) := dk_21 4 (dk_at dksX1_writeFar_1 0 rfl rfl)
theorem dX1_writeFar_25 : decode cX1_writeFar 25 = .ok (.iload_n 3, 1) := dk_29 (dk_at dksX1_writeFar_1 2 rfl rfl)
theorem dX1_writeFar_26 : decode cX1_writeFar 26 = .ok (.if_icmp .ge 61, 3) := dk_162 0 61 (dk_at dksX1_writeFar_1 3 rfl rfl)
theorem dX1_writeFar_29 : decode cX1_writeFar 29 = .ok (.aload_n 2, 1) := dk_44 (dk_at dksX1_writeFar_1 6 rfl rfl)
theorem dX1_writeFar_30 : decode cX1_writeFar 30 = .ok (.getfield 273, 3) := dk_180 1 17 (dk_at dksX1_writeFar_1 7 rfl rfl)
theorem dX1_writeFar_33 : decode cX1_writeFar 33 = .ok (.iload 4, 2) := dk_21 4 (dk_at dksX1_writeFar_1 10 rfl rfl)
theorem dX1_writeFar_35 : decode cX1_writeFar 35 = .ok (.aaload, 1) := dk_50 (dk_at dksX1_writeFar_1 12 rfl rfl)
theorem dX1_writeFar_36 : decode cX1_writeFar 36 = .ok (.astore 5, 2) := dk_58 5 (dk_at dksX1_writeFar_1 13 rfl rfl)
theorem dX1_writeFar_38 : decode cX1_writeFar 38 = .ok (.aload_n 0, 1) := dk_42 (dk_at dksX1_writeFar_1 15 rfl rfl)
theorem dX1_writeFar_39 : decode cX1_writeFar 39 = .ok (.getfield 51, 3) := dk_180 0 51 (dk_at dksX1_writeFar_1 16 rfl rfl)
theorem dX1_writeFar_42 : decode cX1_writeFar 42 = .ok (.iload 4, 2) := dk_21 4 (dk_at dksX1_writeFar_1 19 rfl rfl)
theorem dX1_writeFar_44 : decode cX1_writeFar 44 = .ok (.ifCond .le 9, 3) := dk_158 0 9 (dk_at dksX1_writeFar_1 21 rfl rfl)
theorem dX1_writeFar_47 : decode cX1_writeFar 47 = .ok (.ldc_w 414, 3) := dk_19 1 158 (dk_at dksX1_writeFar_2 0 rfl rfl)
theorem dX1_writeFar_50 : decode cX1_writeFar 50 = .ok (.goto 6, 3) := dk_167 0 6 (dk_at dksX1_writeFar_2 3 rfl rfl)
theorem dX1_writeFar_53 : decode cX1_writeFar 53 = .ok (.ldc_w 416, 3) := dk_19 1 160 (dk_at dksX1_writeFar_2 6 rfl rfl)
theorem dX1_writeFar_56 : decode cX1_writeFar 56 = .ok (.invokevirtual 418, 3) := dk_182 1 162 (dk_at dksX1_writeFar_2 9 rfl rfl)
theorem dX1_writeFar_59 : decode cX1_writeFar 59 = .ok (.aload 5, 2) := dk_25 5 (dk_at dksX1_writeFar_2 12 rfl rfl)
theorem dX1_writeFar_61 : decode cX1_writeFar 61 = .ok (.getfield 277, 3) := dk_180 1 21 (dk_at dksX1_writeFar_2 14 rfl rfl)
theorem dX1_writeFar_64 : decode cX1_writeFar 64 = .ok (.invokevirtual 421, 3) := dk_182 1 165 (dk_at dksX1_writeFar_2 17 rfl rfl)
theorem dX1_writeFar_67 : decode cX1_writeFar 67 = .ok (.bipush 47, 2) := dk_16 47 (dk_at dksX1_writeFar_2 20 rfl rfl)
theorem dX1_writeFar_69 : decode cX1_writeFar 69 = .ok (.invokevirtual 407, 3) := dk_182 1 151 (dk_at dksX1_writeFar_3 0 rfl rfl)
theorem dX1_writeFar_72 : decode cX1_writeFar 72 = .ok (.aload 5, 2) := dk_25 5 (dk_at dksX1_writeFar_3 3 rfl rfl)
theorem dX1_writeFar_74 : decode cX1_writeFar 74 = .ok (.getfield 188, 3) := dk_180 0 188 (dk_at dksX1_writeFar_3 5 rfl rfl)
theorem dX1_writeFar_77 : decode cX1_writeFar 77 = .ok (.invokevirtual 421, 3) := dk_182 1 165 (dk_at dksX1_writeFar_3 8 rfl rfl)
theorem dX1_writeFar_80 : decode cX1_writeFar 80 = .ok (.pop, 1) := dk_87 (dk_at dksX1_writeFar_3 11 rfl rfl)
theorem dX1_writeFar_81 : decode cX1_writeFar 81 = .ok (.iinc 4 1, 3) := dk_132 4 1 (dk_at dksX1_writeFar_3 12 rfl rfl)
theorem dX1_writeFar_84 : decode cX1_writeFar 84 = .ok (.goto (-61), 3) := dk_167 255 195 (dk_at dksX1_writeFar_3 15 rfl rfl)
theorem dX1_writeFar_87 : decode cX1_writeFar 87 = .ok (.iload_n 3, 1) := dk_29 (dk_at dksX1_writeFar_3 18 rfl rfl)
theorem dX1_writeFar_88 : decode cX1_writeFar 88 = .ok (.ifCond .ne 13, 3) := dk_154 0 13 (dk_at dksX1_writeFar_3 19 rfl rfl)
theorem dX1_writeFar_91 : decode cX1_writeFar 91 = .ok (.aload_n 0, 1) := dk_42 (dk_at dksX1_writeFar_3 22 rfl rfl)
theorem dX1_writeFar_92 : decode cX1_writeFar 92 = .ok (.getfield 51, 3) := dk_180 0 51 (dk_at dksX1_writeFar_4 0 rfl rfl)
theorem dX1_writeFar_95 : decode cX1_writeFar 95 = .ok (.bipush 46, 2) := dk_16 46 (dk_at dksX1_writeFar_4 3 rfl rfl)
theorem dX1_writeFar_97 : decode cX1_writeFar 97 = .ok (.invokevirtual 407, 3) := dk_182 1 151 (dk_at dksX1_writeFar_4 5 rfl rfl)
theorem dX1_writeFar_100 : decode cX1_writeFar 100 = .ok (.pop, 1) := dk_87 (dk_at dksX1_writeFar_4 8 rfl rfl)
theorem dX1_writeFar_101 : decode cX1_writeFar 101 = .ok (.aload_n 0, 1) := dk_42 (dk_at dksX1_writeFar_4 9 rfl rfl)
theorem dX1_writeFar_102 : decode cX1_writeFar 102 = .ok (.getfield 51, 3) := dk_180 0 51 (dk_at dksX1_writeFar_4 10 rfl rfl)
theorem dX1_writeFar_105 : decode cX1_writeFar 105 = .ok (.invokevirtual 411, 3) := dk_182 1 155 (dk_at dksX1_writeFar_4 13 rfl rfl)
theorem dX1_writeFar_108 : decode cX1_writeFar 108 = .ok (.ireturn, 1) := dk_172 (dk_at dksX1_writeFar_4 16 rfl rfl)
abbrev cJ2_charAt : ByteArray := prog_12_method_14_code
def yJ2_charAt : MethodName := ⟨RJ2, "charAt", "(I)C"⟩
def dkwJ2_charAt_1 : List UInt8 := [21, 4, 184, 0, 144, 28, 154, 0, 12, 45, 27, 51, 17, 0, 255, 126, 146, 172, 45, 27, 184, 0, 148, 172]
abbrev dktJ2_charAt_1 : List UInt8 := dkwJ2_charAt_1 ++ []
def dkwJ2_charAt_0 : List UInt8 := [42, 180, 0, 22, 61, 42, 180, 0, 15, 78, 42, 180, 0, 79, 45, 190, 28, 122, 184, 0, 138, 54, 4, 27]
abbrev dktJ2_charAt_0 : List UInt8 := dkwJ2_charAt_0 ++ dktJ2_charAt_1
theorem dksJ2_charAt_0 : cJ2_charAt.data.toList.drop 0 = dktJ2_charAt_0 := by decide +kernel
theorem dksJ2_charAt_1 : cJ2_charAt.data.toList.drop 24 = dktJ2_charAt_1 := dk_seg dksJ2_charAt_0 24 rfl rfl
theorem dJ2_charAt_0 : decode cJ2_charAt 0 = .ok (.aload_n 0, 1) := dk_42 (dk_at dksJ2_charAt_0 0 rfl rfl)
theorem dJ2_charAt_1 : decode cJ2_charAt 1 = .ok (.getfield 22, 3) := dk_180 0 22 (dk_at dksJ2_charAt_0 1 rfl rfl)
theorem dJ2_charAt_4 : decode cJ2_charAt 4 = .ok (.istore_n 2, 1) := dk_61 (dk_at dksJ2_charAt_0 4 rfl rfl)
theorem dJ2_charAt_5 : decode cJ2_charAt 5 = .ok (.aload_n 0, 1) := dk_42 (dk_at dksJ2_charAt_0 5 rfl rfl)
theorem dJ2_charAt_6 : decode cJ2_charAt 6 = .ok (.getfield 15, 3) := dk_180 0 15 (dk_at dksJ2_charAt_0 6 rfl rfl)
theorem dJ2_charAt_9 : decode cJ2_charAt 9 = .ok (.astore_n 3, 1) := dk_78 (dk_at dksJ2_charAt_0 9 rfl rfl)
theorem dJ2_charAt_10 : decode cJ2_charAt 10 = .ok (.aload_n 0, 1) := dk_42 (dk_at dksJ2_charAt_0 10 rfl rfl)
theorem dJ2_charAt_11 : decode cJ2_charAt 11 = .ok (.getfield 79, 3) := dk_180 0 79 (dk_at dksJ2_charAt_0 11 rfl rfl)
theorem dJ2_charAt_14 : decode cJ2_charAt 14 = .ok (.aload_n 3, 1) := dk_45 (dk_at dksJ2_charAt_0 14 rfl rfl)
theorem dJ2_charAt_15 : decode cJ2_charAt 15 = .ok (.arraylength, 1) := dk_190 (dk_at dksJ2_charAt_0 15 rfl rfl)
theorem dJ2_charAt_16 : decode cJ2_charAt 16 = .ok (.iload_n 2, 1) := dk_28 (dk_at dksJ2_charAt_0 16 rfl rfl)
theorem dJ2_charAt_17 : decode cJ2_charAt 17 = .ok (.ishr, 1) := dk_122 (dk_at dksJ2_charAt_0 17 rfl rfl)
theorem dJ2_charAt_18 : decode cJ2_charAt 18 = .ok (.invokestatic 138, 3) := dk_184 0 138 (dk_at dksJ2_charAt_0 18 rfl rfl)
theorem dJ2_charAt_21 : decode cJ2_charAt 21 = .ok (.istore 4, 2) := dk_54 4 (dk_at dksJ2_charAt_0 21 rfl rfl)
theorem dJ2_charAt_23 : decode cJ2_charAt 23 = .ok (.iload_n 1, 1) := dk_27 (dk_at dksJ2_charAt_0 23 rfl rfl)
theorem dJ2_charAt_24 : decode cJ2_charAt 24 = .ok (.iload 4, 2) := dk_21 4 (dk_at dksJ2_charAt_1 0 rfl rfl)
theorem dJ2_charAt_26 : decode cJ2_charAt 26 = .ok (.invokestatic 144, 3) := dk_184 0 144 (dk_at dksJ2_charAt_1 2 rfl rfl)
theorem dJ2_charAt_29 : decode cJ2_charAt 29 = .ok (.iload_n 2, 1) := dk_28 (dk_at dksJ2_charAt_1 5 rfl rfl)
theorem dJ2_charAt_30 : decode cJ2_charAt 30 = .ok (.ifCond .ne 12, 3) := dk_154 0 12 (dk_at dksJ2_charAt_1 6 rfl rfl)
theorem dJ2_charAt_33 : decode cJ2_charAt 33 = .ok (.aload_n 3, 1) := dk_45 (dk_at dksJ2_charAt_1 9 rfl rfl)
theorem dJ2_charAt_34 : decode cJ2_charAt 34 = .ok (.iload_n 1, 1) := dk_27 (dk_at dksJ2_charAt_1 10 rfl rfl)
theorem dJ2_charAt_35 : decode cJ2_charAt 35 = .ok (.baload, 1) := dk_51 (dk_at dksJ2_charAt_1 11 rfl rfl)
theorem dJ2_charAt_36 : decode cJ2_charAt 36 = .ok (.sipush 255, 3) := dk_17 0 255 (dk_at dksJ2_charAt_1 12 rfl rfl)
theorem dJ2_charAt_39 : decode cJ2_charAt 39 = .ok (.iand, 1) := dk_126 (dk_at dksJ2_charAt_1 15 rfl rfl)
theorem dJ2_charAt_40 : decode cJ2_charAt 40 = .ok (.i2c, 1) := dk_146 (dk_at dksJ2_charAt_1 16 rfl rfl)
theorem dJ2_charAt_41 : decode cJ2_charAt 41 = .ok (.ireturn, 1) := dk_172 (dk_at dksJ2_charAt_1 17 rfl rfl)
theorem dJ2_charAt_42 : decode cJ2_charAt 42 = .ok (.aload_n 3, 1) := dk_45 (dk_at dksJ2_charAt_1 18 rfl rfl)
theorem dJ2_charAt_43 : decode cJ2_charAt 43 = .ok (.iload_n 1, 1) := dk_27 (dk_at dksJ2_charAt_1 19 rfl rfl)
theorem dJ2_charAt_44 : decode cJ2_charAt 44 = .ok (.invokestatic 148, 3) := dk_184 0 148 (dk_at dksJ2_charAt_1 20 rfl rfl)
theorem dJ2_charAt_47 : decode cJ2_charAt 47 = .ok (.ireturn, 1) := dk_172 (dk_at dksJ2_charAt_1 23 rfl rfl)
abbrev cJ3_charAt : ByteArray := prog_33_method_88_code
def yJ3_charAt : MethodName := ⟨RJ3, "charAt", "(I)C"⟩
def dkwJ3_charAt_0 : List UInt8 := [42, 27, 183, 1, 73, 172]
abbrev dktJ3_charAt_0 : List UInt8 := dkwJ3_charAt_0 ++ []
theorem dksJ3_charAt_0 : cJ3_charAt.data.toList.drop 0 = dktJ3_charAt_0 := by decide +kernel
theorem dJ3_charAt_0 : decode cJ3_charAt 0 = .ok (.aload_n 0, 1) := dk_42 (dk_at dksJ3_charAt_0 0 rfl rfl)
theorem dJ3_charAt_1 : decode cJ3_charAt 1 = .ok (.iload_n 1, 1) := dk_27 (dk_at dksJ3_charAt_0 1 rfl rfl)
theorem dJ3_charAt_2 : decode cJ3_charAt 2 = .ok (.invokespecial 329, 3) := dk_183 1 73 (dk_at dksJ3_charAt_0 2 rfl rfl)
theorem dJ3_charAt_5 : decode cJ3_charAt 5 = .ok (.ireturn, 1) := dk_172 (dk_at dksJ3_charAt_0 5 rfl rfl)
abbrev cX1_textByte : ByteArray := prog_1_method_77_code
def yX1_textByte : MethodName := ⟨RX1, "textByte", "(I)I"⟩
def dkwX1_textByte_0 : List UInt8 := [27, 42, 180, 0, 51, 182, 1, 155, 184, 0, 84, 42, 180, 0, 51, 27, 182, 1, 180, 172]
abbrev dktX1_textByte_0 : List UInt8 := dkwX1_textByte_0 ++ []
theorem dksX1_textByte_0 : cX1_textByte.data.toList.drop 0 = dktX1_textByte_0 := by decide +kernel
theorem dX1_textByte_0 : decode cX1_textByte 0 = .ok (.iload_n 1, 1) := dk_27 (dk_at dksX1_textByte_0 0 rfl rfl)
theorem dX1_textByte_1 : decode cX1_textByte 1 = .ok (.aload_n 0, 1) := dk_42 (dk_at dksX1_textByte_0 1 rfl rfl)
theorem dX1_textByte_2 : decode cX1_textByte 2 = .ok (.getfield 51, 3) := dk_180 0 51 (dk_at dksX1_textByte_0 2 rfl rfl)
theorem dX1_textByte_5 : decode cX1_textByte 5 = .ok (.invokevirtual 411, 3) := dk_182 1 155 (dk_at dksX1_textByte_0 5 rfl rfl)
theorem dX1_textByte_8 : decode cX1_textByte 8 = .ok (.invokestatic 84, 3) := dk_184 0 84 (dk_at dksX1_textByte_0 8 rfl rfl)
theorem dX1_textByte_11 : decode cX1_textByte 11 = .ok (.aload_n 0, 1) := dk_42 (dk_at dksX1_textByte_0 11 rfl rfl)
theorem dX1_textByte_12 : decode cX1_textByte 12 = .ok (.getfield 51, 3) := dk_180 0 51 (dk_at dksX1_textByte_0 12 rfl rfl)
theorem dX1_textByte_15 : decode cX1_textByte 15 = .ok (.iload_n 1, 1) := dk_27 (dk_at dksX1_textByte_0 15 rfl rfl)
theorem dX1_textByte_16 : decode cX1_textByte 16 = .ok (.invokevirtual 436, 3) := dk_182 1 180 (dk_at dksX1_textByte_0 16 rfl rfl)
theorem dX1_textByte_19 : decode cX1_textByte 19 = .ok (.ireturn, 1) := dk_172 (dk_at dksX1_textByte_0 19 rfl rfl)
abbrev cX1_isCharge : ByteArray := prog_1_method_18_code
def yX1_isCharge : MethodName := ⟨RX1, "isCharge", "(I)Z"⟩
def dkwX1_isCharge_0 : List UInt8 := [26, 133, 20, 0, 110, 20, 0, 112, 184, 0, 58, 153, 0, 11, 26, 153, 0, 7, 4, 167, 0, 4, 3, 172]
abbrev dktX1_isCharge_0 : List UInt8 := dkwX1_isCharge_0 ++ []
theorem dksX1_isCharge_0 : cX1_isCharge.data.toList.drop 0 = dktX1_isCharge_0 := by decide +kernel
theorem dX1_isCharge_0 : decode cX1_isCharge 0 = .ok (.iload_n 0, 1) := dk_26 (dk_at dksX1_isCharge_0 0 rfl rfl)
theorem dX1_isCharge_1 : decode cX1_isCharge 1 = .ok (.i2l, 1) := dk_133 (dk_at dksX1_isCharge_0 1 rfl rfl)
theorem dX1_isCharge_2 : decode cX1_isCharge 2 = .ok (.ldc2_w 110, 3) := dk_20 0 110 (dk_at dksX1_isCharge_0 2 rfl rfl)
theorem dX1_isCharge_5 : decode cX1_isCharge 5 = .ok (.ldc2_w 112, 3) := dk_20 0 112 (dk_at dksX1_isCharge_0 5 rfl rfl)
theorem dX1_isCharge_8 : decode cX1_isCharge 8 = .ok (.invokestatic 58, 3) := dk_184 0 58 (dk_at dksX1_isCharge_0 8 rfl rfl)
theorem dX1_isCharge_11 : decode cX1_isCharge 11 = .ok (.ifCond .eq 11, 3) := dk_153 0 11 (dk_at dksX1_isCharge_0 11 rfl rfl)
theorem dX1_isCharge_14 : decode cX1_isCharge 14 = .ok (.iload_n 0, 1) := dk_26 (dk_at dksX1_isCharge_0 14 rfl rfl)
theorem dX1_isCharge_15 : decode cX1_isCharge 15 = .ok (.ifCond .eq 7, 3) := dk_153 0 7 (dk_at dksX1_isCharge_0 15 rfl rfl)
theorem dX1_isCharge_18 : decode cX1_isCharge 18 = .ok (.iconst 1, 1) := dk_4 (dk_at dksX1_isCharge_0 18 rfl rfl)
theorem dX1_isCharge_19 : decode cX1_isCharge 19 = .ok (.goto 4, 3) := dk_167 0 4 (dk_at dksX1_isCharge_0 19 rfl rfl)
theorem dX1_isCharge_22 : decode cX1_isCharge 22 = .ok (.iconst 0, 1) := dk_3 (dk_at dksX1_isCharge_0 22 rfl rfl)
theorem dX1_isCharge_23 : decode cX1_isCharge 23 = .ok (.ireturn, 1) := dk_172 (dk_at dksX1_isCharge_0 23 rfl rfl)
abbrev cJ1_elementAt : ByteArray := prog_46_method_10_code
def yJ1_elementAt : MethodName := ⟨RJ1, "elementAt", "([Ljava/lang/Object;I)Ljava/lang/Object;"⟩
def dkwJ1_elementAt_0 : List UInt8 := [42, 27, 50, 176]
abbrev dktJ1_elementAt_0 : List UInt8 := dkwJ1_elementAt_0 ++ []
theorem dksJ1_elementAt_0 : cJ1_elementAt.data.toList.drop 0 = dktJ1_elementAt_0 := by decide +kernel
theorem dJ1_elementAt_0 : decode cJ1_elementAt 0 = .ok (.aload_n 0, 1) := dk_42 (dk_at dksJ1_elementAt_0 0 rfl rfl)
theorem dJ1_elementAt_1 : decode cJ1_elementAt 1 = .ok (.iload_n 1, 1) := dk_27 (dk_at dksJ1_elementAt_0 1 rfl rfl)
theorem dJ1_elementAt_2 : decode cJ1_elementAt 2 = .ok (.aaload, 1) := dk_50 (dk_at dksJ1_elementAt_0 2 rfl rfl)
theorem dJ1_elementAt_3 : decode cJ1_elementAt 3 = .ok (.areturn, 1) := dk_176 (dk_at dksJ1_elementAt_0 3 rfl rfl)
abbrev cJ1_inc : ByteArray := prog_46_method_6_code
def yJ1_inc : MethodName := ⟨RJ1, "inc", "(II)I"⟩
def dkwJ1_inc_0 : List UInt8 := [132, 0, 1, 26, 27, 161, 0, 5, 3, 59, 26, 172]
abbrev dktJ1_inc_0 : List UInt8 := dkwJ1_inc_0 ++ []
theorem dksJ1_inc_0 : cJ1_inc.data.toList.drop 0 = dktJ1_inc_0 := by decide +kernel
theorem dJ1_inc_0 : decode cJ1_inc 0 = .ok (.iinc 0 1, 3) := dk_132 0 1 (dk_at dksJ1_inc_0 0 rfl rfl)
theorem dJ1_inc_3 : decode cJ1_inc 3 = .ok (.iload_n 0, 1) := dk_26 (dk_at dksJ1_inc_0 3 rfl rfl)
theorem dJ1_inc_4 : decode cJ1_inc 4 = .ok (.iload_n 1, 1) := dk_27 (dk_at dksJ1_inc_0 4 rfl rfl)
theorem dJ1_inc_5 : decode cJ1_inc 5 = .ok (.if_icmp .lt 5, 3) := dk_161 0 5 (dk_at dksJ1_inc_0 5 rfl rfl)
theorem dJ1_inc_8 : decode cJ1_inc 8 = .ok (.iconst 0, 1) := dk_3 (dk_at dksJ1_inc_0 8 rfl rfl)
theorem dJ1_inc_9 : decode cJ1_inc 9 = .ok (.istore_n 0, 1) := dk_59 (dk_at dksJ1_inc_0 9 rfl rfl)
theorem dJ1_inc_10 : decode cJ1_inc 10 = .ok (.iload_n 0, 1) := dk_26 (dk_at dksJ1_inc_0 10 rfl rfl)
theorem dJ1_inc_11 : decode cJ1_inc 11 = .ok (.ireturn, 1) := dk_172 (dk_at dksJ1_inc_0 11 rfl rfl)
abbrev cJ1_pollFirst : ByteArray := prog_46_method_20_code
def yJ1_pollFirst : MethodName := ⟨RJ1, "pollFirst", "()Ljava/lang/Object;"⟩
def dkwJ1_pollFirst_1 : List UInt8 := [42, 28, 43, 190, 184, 0, 74, 181, 0, 24, 45, 176]
abbrev dktJ1_pollFirst_1 : List UInt8 := dkwJ1_pollFirst_1 ++ []
def dkwJ1_pollFirst_0 : List UInt8 := [42, 180, 0, 3, 89, 76, 42, 180, 0, 24, 89, 61, 184, 0, 103, 78, 45, 198, 0, 17, 43, 28, 1, 83]
abbrev dktJ1_pollFirst_0 : List UInt8 := dkwJ1_pollFirst_0 ++ dktJ1_pollFirst_1
theorem dksJ1_pollFirst_0 : cJ1_pollFirst.data.toList.drop 0 = dktJ1_pollFirst_0 := by decide +kernel
theorem dksJ1_pollFirst_1 : cJ1_pollFirst.data.toList.drop 24 = dktJ1_pollFirst_1 := dk_seg dksJ1_pollFirst_0 24 rfl rfl
theorem dJ1_pollFirst_0 : decode cJ1_pollFirst 0 = .ok (.aload_n 0, 1) := dk_42 (dk_at dksJ1_pollFirst_0 0 rfl rfl)
theorem dJ1_pollFirst_1 : decode cJ1_pollFirst 1 = .ok (.getfield 3, 3) := dk_180 0 3 (dk_at dksJ1_pollFirst_0 1 rfl rfl)
theorem dJ1_pollFirst_4 : decode cJ1_pollFirst 4 = .ok (.dup, 1) := dk_89 (dk_at dksJ1_pollFirst_0 4 rfl rfl)
theorem dJ1_pollFirst_5 : decode cJ1_pollFirst 5 = .ok (.astore_n 1, 1) := dk_76 (dk_at dksJ1_pollFirst_0 5 rfl rfl)
theorem dJ1_pollFirst_6 : decode cJ1_pollFirst 6 = .ok (.aload_n 0, 1) := dk_42 (dk_at dksJ1_pollFirst_0 6 rfl rfl)
theorem dJ1_pollFirst_7 : decode cJ1_pollFirst 7 = .ok (.getfield 24, 3) := dk_180 0 24 (dk_at dksJ1_pollFirst_0 7 rfl rfl)
theorem dJ1_pollFirst_10 : decode cJ1_pollFirst 10 = .ok (.dup, 1) := dk_89 (dk_at dksJ1_pollFirst_0 10 rfl rfl)
theorem dJ1_pollFirst_11 : decode cJ1_pollFirst 11 = .ok (.istore_n 2, 1) := dk_61 (dk_at dksJ1_pollFirst_0 11 rfl rfl)
theorem dJ1_pollFirst_12 : decode cJ1_pollFirst 12 = .ok (.invokestatic 103, 3) := dk_184 0 103 (dk_at dksJ1_pollFirst_0 12 rfl rfl)
theorem dJ1_pollFirst_15 : decode cJ1_pollFirst 15 = .ok (.astore_n 3, 1) := dk_78 (dk_at dksJ1_pollFirst_0 15 rfl rfl)
theorem dJ1_pollFirst_16 : decode cJ1_pollFirst 16 = .ok (.aload_n 3, 1) := dk_45 (dk_at dksJ1_pollFirst_0 16 rfl rfl)
theorem dJ1_pollFirst_17 : decode cJ1_pollFirst 17 = .ok (.ifnull 17, 3) := dk_198 0 17 (dk_at dksJ1_pollFirst_0 17 rfl rfl)
theorem dJ1_pollFirst_20 : decode cJ1_pollFirst 20 = .ok (.aload_n 1, 1) := dk_43 (dk_at dksJ1_pollFirst_0 20 rfl rfl)
theorem dJ1_pollFirst_21 : decode cJ1_pollFirst 21 = .ok (.iload_n 2, 1) := dk_28 (dk_at dksJ1_pollFirst_0 21 rfl rfl)
theorem dJ1_pollFirst_22 : decode cJ1_pollFirst 22 = .ok (.aconst_null, 1) := dk_1 (dk_at dksJ1_pollFirst_0 22 rfl rfl)
theorem dJ1_pollFirst_23 : decode cJ1_pollFirst 23 = .ok (.aastore, 1) := dk_83 (dk_at dksJ1_pollFirst_0 23 rfl rfl)
theorem dJ1_pollFirst_24 : decode cJ1_pollFirst 24 = .ok (.aload_n 0, 1) := dk_42 (dk_at dksJ1_pollFirst_1 0 rfl rfl)
theorem dJ1_pollFirst_25 : decode cJ1_pollFirst 25 = .ok (.iload_n 2, 1) := dk_28 (dk_at dksJ1_pollFirst_1 1 rfl rfl)
theorem dJ1_pollFirst_26 : decode cJ1_pollFirst 26 = .ok (.aload_n 1, 1) := dk_43 (dk_at dksJ1_pollFirst_1 2 rfl rfl)
theorem dJ1_pollFirst_27 : decode cJ1_pollFirst 27 = .ok (.arraylength, 1) := dk_190 (dk_at dksJ1_pollFirst_1 3 rfl rfl)
theorem dJ1_pollFirst_28 : decode cJ1_pollFirst 28 = .ok (.invokestatic 74, 3) := dk_184 0 74 (dk_at dksJ1_pollFirst_1 4 rfl rfl)
theorem dJ1_pollFirst_31 : decode cJ1_pollFirst 31 = .ok (.putfield 24, 3) := dk_181 0 24 (dk_at dksJ1_pollFirst_1 7 rfl rfl)
theorem dJ1_pollFirst_34 : decode cJ1_pollFirst 34 = .ok (.aload_n 3, 1) := dk_45 (dk_at dksJ1_pollFirst_1 10 rfl rfl)
theorem dJ1_pollFirst_35 : decode cJ1_pollFirst 35 = .ok (.areturn, 1) := dk_176 (dk_at dksJ1_pollFirst_1 11 rfl rfl)
abbrev cJ1_removeFirst : ByteArray := prog_46_method_18_code
def yJ1_removeFirst : MethodName := ⟨RJ1, "removeFirst", "()Ljava/lang/Object;"⟩
def dkwJ1_removeFirst_0 : List UInt8 := [42, 182, 0, 93, 76, 43, 199, 0, 11, 187, 0, 97, 89, 183, 0, 99, 191, 43, 176]
abbrev dktJ1_removeFirst_0 : List UInt8 := dkwJ1_removeFirst_0 ++ []
theorem dksJ1_removeFirst_0 : cJ1_removeFirst.data.toList.drop 0 = dktJ1_removeFirst_0 := by decide +kernel
theorem dJ1_removeFirst_0 : decode cJ1_removeFirst 0 = .ok (.aload_n 0, 1) := dk_42 (dk_at dksJ1_removeFirst_0 0 rfl rfl)
theorem dJ1_removeFirst_1 : decode cJ1_removeFirst 1 = .ok (.invokevirtual 93, 3) := dk_182 0 93 (dk_at dksJ1_removeFirst_0 1 rfl rfl)
theorem dJ1_removeFirst_4 : decode cJ1_removeFirst 4 = .ok (.astore_n 1, 1) := dk_76 (dk_at dksJ1_removeFirst_0 4 rfl rfl)
theorem dJ1_removeFirst_5 : decode cJ1_removeFirst 5 = .ok (.aload_n 1, 1) := dk_43 (dk_at dksJ1_removeFirst_0 5 rfl rfl)
theorem dJ1_removeFirst_6 : decode cJ1_removeFirst 6 = .ok (.ifnonnull 11, 3) := dk_199 0 11 (dk_at dksJ1_removeFirst_0 6 rfl rfl)
theorem dJ1_removeFirst_9 : decode cJ1_removeFirst 9 = .ok (.new 97, 3) := dk_187 0 97 (dk_at dksJ1_removeFirst_0 9 rfl rfl)
theorem dJ1_removeFirst_12 : decode cJ1_removeFirst 12 = .ok (.dup, 1) := dk_89 (dk_at dksJ1_removeFirst_0 12 rfl rfl)
theorem dJ1_removeFirst_13 : decode cJ1_removeFirst 13 = .ok (.invokespecial 99, 3) := dk_183 0 99 (dk_at dksJ1_removeFirst_0 13 rfl rfl)
theorem dJ1_removeFirst_16 : decode cJ1_removeFirst 16 = .ok (.athrow, 1) := dk_191 (dk_at dksJ1_removeFirst_0 16 rfl rfl)
theorem dJ1_removeFirst_17 : decode cJ1_removeFirst 17 = .ok (.aload_n 1, 1) := dk_43 (dk_at dksJ1_removeFirst_0 17 rfl rfl)
theorem dJ1_removeFirst_18 : decode cJ1_removeFirst 18 = .ok (.areturn, 1) := dk_176 (dk_at dksJ1_removeFirst_0 18 rfl rfl)
abbrev cJ1_grow : ByteArray := prog_46_method_1_code
def yJ1_grow : MethodName := ⟨RJ1, "grow", "(I)V"⟩
def dkwJ1_grow_7 : List UInt8 := [177]
abbrev dktJ1_grow_7 : List UInt8 := dkwJ1_grow_7 ++ []
def dkwJ1_grow_6 : List UInt8 := [181, 0, 24, 54, 8, 21, 7, 21, 8, 162, 0, 15, 25, 5, 21, 7, 1, 83, 132, 7, 1, 167, 255, 240]
abbrev dktJ1_grow_6 : List UInt8 := dkwJ1_grow_6 ++ dktJ1_grow_7
def dkwJ1_grow_5 : List UInt8 := [42, 180, 0, 24, 100, 184, 0, 27, 42, 180, 0, 24, 54, 7, 42, 89, 180, 0, 24, 21, 6, 96, 90]
abbrev dktJ1_grow_5 : List UInt8 := dkwJ1_grow_5 ++ dktJ1_grow_6
def dkwJ1_grow_4 : List UInt8 := [198, 0, 71, 29, 28, 100, 54, 6, 25, 5, 42, 180, 0, 24, 25, 5, 42, 180, 0, 24, 21, 6, 96, 28]
abbrev dktJ1_grow_4 : List UInt8 := dkwJ1_grow_4 ++ dktJ1_grow_5
def dkwJ1_grow_3 : List UInt8 := [180, 0, 24, 161, 0, 24, 42, 180, 0, 20, 42, 180, 0, 24, 160, 0, 81, 25, 5, 42, 180, 0, 24, 50]
abbrev dktJ1_grow_3 : List UInt8 := dkwJ1_grow_3 ++ dktJ1_grow_4
def dkwJ1_grow_2 : List UInt8 := [182, 0, 10, 62, 42, 42, 180, 0, 3, 29, 184, 0, 14, 90, 181, 0, 3, 58, 5, 42, 180, 0, 20, 42]
abbrev dktJ1_grow_2 : List UInt8 := dkwJ1_grow_2 ++ dktJ1_grow_3
def dkwJ1_grow_1 : List UInt8 := [21, 4, 27, 161, 0, 15, 28, 21, 4, 96, 89, 62, 18, 9, 100, 158, 0, 11, 42, 27, 21, 4]
abbrev dktJ1_grow_1 : List UInt8 := dkwJ1_grow_1 ++ dktJ1_grow_2
def dkwJ1_grow_0 : List UInt8 := [42, 180, 0, 3, 190, 61, 28, 16, 64, 162, 0, 9, 28, 5, 96, 167, 0, 6, 28, 4, 122, 54, 4]
abbrev dktJ1_grow_0 : List UInt8 := dkwJ1_grow_0 ++ dktJ1_grow_1
theorem dksJ1_grow_0 : cJ1_grow.data.toList.drop 0 = dktJ1_grow_0 := by decide +kernel
theorem dksJ1_grow_1 : cJ1_grow.data.toList.drop 23 = dktJ1_grow_1 := dk_seg dksJ1_grow_0 23 rfl rfl
theorem dksJ1_grow_2 : cJ1_grow.data.toList.drop 45 = dktJ1_grow_2 := dk_seg dksJ1_grow_1 22 rfl rfl
theorem dksJ1_grow_3 : cJ1_grow.data.toList.drop 69 = dktJ1_grow_3 := dk_seg dksJ1_grow_2 24 rfl rfl
theorem dksJ1_grow_4 : cJ1_grow.data.toList.drop 93 = dktJ1_grow_4 := dk_seg dksJ1_grow_3 24 rfl rfl
theorem dksJ1_grow_5 : cJ1_grow.data.toList.drop 117 = dktJ1_grow_5 := dk_seg dksJ1_grow_4 24 rfl rfl
theorem dksJ1_grow_6 : cJ1_grow.data.toList.drop 140 = dktJ1_grow_6 := dk_seg dksJ1_grow_5 23 rfl rfl
theorem dksJ1_grow_7 : cJ1_grow.data.toList.drop 164 = dktJ1_grow_7 := dk_seg dksJ1_grow_6 24 rfl rfl
theorem dJ1_grow_0 : decode cJ1_grow 0 = .ok (.aload_n 0, 1) := dk_42 (dk_at dksJ1_grow_0 0 rfl rfl)
theorem dJ1_grow_1 : decode cJ1_grow 1 = .ok (.getfield 3, 3) := dk_180 0 3 (dk_at dksJ1_grow_0 1 rfl rfl)
theorem dJ1_grow_4 : decode cJ1_grow 4 = .ok (.arraylength, 1) := dk_190 (dk_at dksJ1_grow_0 4 rfl rfl)
theorem dJ1_grow_5 : decode cJ1_grow 5 = .ok (.istore_n 2, 1) := dk_61 (dk_at dksJ1_grow_0 5 rfl rfl)
theorem dJ1_grow_6 : decode cJ1_grow 6 = .ok (.iload_n 2, 1) := dk_28 (dk_at dksJ1_grow_0 6 rfl rfl)
theorem dJ1_grow_7 : decode cJ1_grow 7 = .ok (.bipush 64, 2) := dk_16 64 (dk_at dksJ1_grow_0 7 rfl rfl)
theorem dJ1_grow_9 : decode cJ1_grow 9 = .ok (.if_icmp .ge 9, 3) := dk_162 0 9 (dk_at dksJ1_grow_0 9 rfl rfl)
theorem dJ1_grow_12 : decode cJ1_grow 12 = .ok (.iload_n 2, 1) := dk_28 (dk_at dksJ1_grow_0 12 rfl rfl)
theorem dJ1_grow_13 : decode cJ1_grow 13 = .ok (.iconst 2, 1) := dk_5 (dk_at dksJ1_grow_0 13 rfl rfl)
theorem dJ1_grow_14 : decode cJ1_grow 14 = .ok (.iadd, 1) := dk_96 (dk_at dksJ1_grow_0 14 rfl rfl)
theorem dJ1_grow_15 : decode cJ1_grow 15 = .ok (.goto 6, 3) := dk_167 0 6 (dk_at dksJ1_grow_0 15 rfl rfl)
theorem dJ1_grow_18 : decode cJ1_grow 18 = .ok (.iload_n 2, 1) := dk_28 (dk_at dksJ1_grow_0 18 rfl rfl)
theorem dJ1_grow_19 : decode cJ1_grow 19 = .ok (.iconst 1, 1) := dk_4 (dk_at dksJ1_grow_0 19 rfl rfl)
theorem dJ1_grow_20 : decode cJ1_grow 20 = .ok (.ishr, 1) := dk_122 (dk_at dksJ1_grow_0 20 rfl rfl)
theorem dJ1_grow_21 : decode cJ1_grow 21 = .ok (.istore 4, 2) := dk_54 4 (dk_at dksJ1_grow_0 21 rfl rfl)
theorem dJ1_grow_23 : decode cJ1_grow 23 = .ok (.iload 4, 2) := dk_21 4 (dk_at dksJ1_grow_1 0 rfl rfl)
theorem dJ1_grow_25 : decode cJ1_grow 25 = .ok (.iload_n 1, 1) := dk_27 (dk_at dksJ1_grow_1 2 rfl rfl)
theorem dJ1_grow_26 : decode cJ1_grow 26 = .ok (.if_icmp .lt 15, 3) := dk_161 0 15 (dk_at dksJ1_grow_1 3 rfl rfl)
theorem dJ1_grow_29 : decode cJ1_grow 29 = .ok (.iload_n 2, 1) := dk_28 (dk_at dksJ1_grow_1 6 rfl rfl)
theorem dJ1_grow_30 : decode cJ1_grow 30 = .ok (.iload 4, 2) := dk_21 4 (dk_at dksJ1_grow_1 7 rfl rfl)
theorem dJ1_grow_32 : decode cJ1_grow 32 = .ok (.iadd, 1) := dk_96 (dk_at dksJ1_grow_1 9 rfl rfl)
theorem dJ1_grow_33 : decode cJ1_grow 33 = .ok (.dup, 1) := dk_89 (dk_at dksJ1_grow_1 10 rfl rfl)
theorem dJ1_grow_34 : decode cJ1_grow 34 = .ok (.istore_n 3, 1) := dk_62 (dk_at dksJ1_grow_1 11 rfl rfl)
theorem dJ1_grow_35 : decode cJ1_grow 35 = .ok (.ldc 9, 2) := dk_18 9 (dk_at dksJ1_grow_1 12 rfl rfl)
theorem dJ1_grow_37 : decode cJ1_grow 37 = .ok (.isub, 1) := dk_100 (dk_at dksJ1_grow_1 14 rfl rfl)
theorem dJ1_grow_38 : decode cJ1_grow 38 = .ok (.ifCond .le 11, 3) := dk_158 0 11 (dk_at dksJ1_grow_1 15 rfl rfl)
theorem dJ1_grow_41 : decode cJ1_grow 41 = .ok (.aload_n 0, 1) := dk_42 (dk_at dksJ1_grow_1 18 rfl rfl)
theorem dJ1_grow_42 : decode cJ1_grow 42 = .ok (.iload_n 1, 1) := dk_27 (dk_at dksJ1_grow_1 19 rfl rfl)
theorem dJ1_grow_43 : decode cJ1_grow 43 = .ok (.iload 4, 2) := dk_21 4 (dk_at dksJ1_grow_1 20 rfl rfl)
theorem dJ1_grow_45 : decode cJ1_grow 45 = .ok (.invokevirtual 10, 3) := dk_182 0 10 (dk_at dksJ1_grow_2 0 rfl rfl)
theorem dJ1_grow_48 : decode cJ1_grow 48 = .ok (.istore_n 3, 1) := dk_62 (dk_at dksJ1_grow_2 3 rfl rfl)
theorem dJ1_grow_49 : decode cJ1_grow 49 = .ok (.aload_n 0, 1) := dk_42 (dk_at dksJ1_grow_2 4 rfl rfl)
theorem dJ1_grow_50 : decode cJ1_grow 50 = .ok (.aload_n 0, 1) := dk_42 (dk_at dksJ1_grow_2 5 rfl rfl)
theorem dJ1_grow_51 : decode cJ1_grow 51 = .ok (.getfield 3, 3) := dk_180 0 3 (dk_at dksJ1_grow_2 6 rfl rfl)
theorem dJ1_grow_54 : decode cJ1_grow 54 = .ok (.iload_n 3, 1) := dk_29 (dk_at dksJ1_grow_2 9 rfl rfl)
theorem dJ1_grow_55 : decode cJ1_grow 55 = .ok (.invokestatic 14, 3) := dk_184 0 14 (dk_at dksJ1_grow_2 10 rfl rfl)
theorem dJ1_grow_58 : decode cJ1_grow 58 = .ok (.dup_x1, 1) := dk_90 (dk_at dksJ1_grow_2 13 rfl rfl)
theorem dJ1_grow_59 : decode cJ1_grow 59 = .ok (.putfield 3, 3) := dk_181 0 3 (dk_at dksJ1_grow_2 14 rfl rfl)
theorem dJ1_grow_62 : decode cJ1_grow 62 = .ok (.astore 5, 2) := dk_58 5 (dk_at dksJ1_grow_2 17 rfl rfl)
theorem dJ1_grow_64 : decode cJ1_grow 64 = .ok (.aload_n 0, 1) := dk_42 (dk_at dksJ1_grow_2 19 rfl rfl)
theorem dJ1_grow_65 : decode cJ1_grow 65 = .ok (.getfield 20, 3) := dk_180 0 20 (dk_at dksJ1_grow_2 20 rfl rfl)
theorem dJ1_grow_68 : decode cJ1_grow 68 = .ok (.aload_n 0, 1) := dk_42 (dk_at dksJ1_grow_2 23 rfl rfl)
theorem dJ1_grow_69 : decode cJ1_grow 69 = .ok (.getfield 24, 3) := dk_180 0 24 (dk_at dksJ1_grow_3 0 rfl rfl)
theorem dJ1_grow_72 : decode cJ1_grow 72 = .ok (.if_icmp .lt 24, 3) := dk_161 0 24 (dk_at dksJ1_grow_3 3 rfl rfl)
theorem dJ1_grow_75 : decode cJ1_grow 75 = .ok (.aload_n 0, 1) := dk_42 (dk_at dksJ1_grow_3 6 rfl rfl)
theorem dJ1_grow_76 : decode cJ1_grow 76 = .ok (.getfield 20, 3) := dk_180 0 20 (dk_at dksJ1_grow_3 7 rfl rfl)
theorem dJ1_grow_79 : decode cJ1_grow 79 = .ok (.aload_n 0, 1) := dk_42 (dk_at dksJ1_grow_3 10 rfl rfl)
theorem dJ1_grow_80 : decode cJ1_grow 80 = .ok (.getfield 24, 3) := dk_180 0 24 (dk_at dksJ1_grow_3 11 rfl rfl)
theorem dJ1_grow_83 : decode cJ1_grow 83 = .ok (.if_icmp .ne 81, 3) := dk_160 0 81 (dk_at dksJ1_grow_3 14 rfl rfl)
theorem dJ1_grow_86 : decode cJ1_grow 86 = .ok (.aload 5, 2) := dk_25 5 (dk_at dksJ1_grow_3 17 rfl rfl)
theorem dJ1_grow_88 : decode cJ1_grow 88 = .ok (.aload_n 0, 1) := dk_42 (dk_at dksJ1_grow_3 19 rfl rfl)
theorem dJ1_grow_89 : decode cJ1_grow 89 = .ok (.getfield 24, 3) := dk_180 0 24 (dk_at dksJ1_grow_3 20 rfl rfl)
theorem dJ1_grow_92 : decode cJ1_grow 92 = .ok (.aaload, 1) := dk_50 (dk_at dksJ1_grow_3 23 rfl rfl)
theorem dJ1_grow_93 : decode cJ1_grow 93 = .ok (.ifnull 71, 3) := dk_198 0 71 (dk_at dksJ1_grow_4 0 rfl rfl)
theorem dJ1_grow_96 : decode cJ1_grow 96 = .ok (.iload_n 3, 1) := dk_29 (dk_at dksJ1_grow_4 3 rfl rfl)
theorem dJ1_grow_97 : decode cJ1_grow 97 = .ok (.iload_n 2, 1) := dk_28 (dk_at dksJ1_grow_4 4 rfl rfl)
theorem dJ1_grow_98 : decode cJ1_grow 98 = .ok (.isub, 1) := dk_100 (dk_at dksJ1_grow_4 5 rfl rfl)
theorem dJ1_grow_99 : decode cJ1_grow 99 = .ok (.istore 6, 2) := dk_54 6 (dk_at dksJ1_grow_4 6 rfl rfl)
theorem dJ1_grow_101 : decode cJ1_grow 101 = .ok (.aload 5, 2) := dk_25 5 (dk_at dksJ1_grow_4 8 rfl rfl)
theorem dJ1_grow_103 : decode cJ1_grow 103 = .ok (.aload_n 0, 1) := dk_42 (dk_at dksJ1_grow_4 10 rfl rfl)
theorem dJ1_grow_104 : decode cJ1_grow 104 = .ok (.getfield 24, 3) := dk_180 0 24 (dk_at dksJ1_grow_4 11 rfl rfl)
theorem dJ1_grow_107 : decode cJ1_grow 107 = .ok (.aload 5, 2) := dk_25 5 (dk_at dksJ1_grow_4 14 rfl rfl)
theorem dJ1_grow_109 : decode cJ1_grow 109 = .ok (.aload_n 0, 1) := dk_42 (dk_at dksJ1_grow_4 16 rfl rfl)
theorem dJ1_grow_110 : decode cJ1_grow 110 = .ok (.getfield 24, 3) := dk_180 0 24 (dk_at dksJ1_grow_4 17 rfl rfl)
theorem dJ1_grow_113 : decode cJ1_grow 113 = .ok (.iload 6, 2) := dk_21 6 (dk_at dksJ1_grow_4 20 rfl rfl)
theorem dJ1_grow_115 : decode cJ1_grow 115 = .ok (.iadd, 1) := dk_96 (dk_at dksJ1_grow_4 22 rfl rfl)
theorem dJ1_grow_116 : decode cJ1_grow 116 = .ok (.iload_n 2, 1) := dk_28 (dk_at dksJ1_grow_4 23 rfl rfl)
theorem dJ1_grow_117 : decode cJ1_grow 117 = .ok (.aload_n 0, 1) := dk_42 (dk_at dksJ1_grow_5 0 rfl rfl)
theorem dJ1_grow_118 : decode cJ1_grow 118 = .ok (.getfield 24, 3) := dk_180 0 24 (dk_at dksJ1_grow_5 1 rfl rfl)
theorem dJ1_grow_121 : decode cJ1_grow 121 = .ok (.isub, 1) := dk_100 (dk_at dksJ1_grow_5 4 rfl rfl)
theorem dJ1_grow_122 : decode cJ1_grow 122 = .ok (.invokestatic 27, 3) := dk_184 0 27 (dk_at dksJ1_grow_5 5 rfl rfl)
theorem dJ1_grow_125 : decode cJ1_grow 125 = .ok (.aload_n 0, 1) := dk_42 (dk_at dksJ1_grow_5 8 rfl rfl)
theorem dJ1_grow_126 : decode cJ1_grow 126 = .ok (.getfield 24, 3) := dk_180 0 24 (dk_at dksJ1_grow_5 9 rfl rfl)
theorem dJ1_grow_129 : decode cJ1_grow 129 = .ok (.istore 7, 2) := dk_54 7 (dk_at dksJ1_grow_5 12 rfl rfl)
theorem dJ1_grow_131 : decode cJ1_grow 131 = .ok (.aload_n 0, 1) := dk_42 (dk_at dksJ1_grow_5 14 rfl rfl)
theorem dJ1_grow_132 : decode cJ1_grow 132 = .ok (.dup, 1) := dk_89 (dk_at dksJ1_grow_5 15 rfl rfl)
theorem dJ1_grow_133 : decode cJ1_grow 133 = .ok (.getfield 24, 3) := dk_180 0 24 (dk_at dksJ1_grow_5 16 rfl rfl)
theorem dJ1_grow_136 : decode cJ1_grow 136 = .ok (.iload 6, 2) := dk_21 6 (dk_at dksJ1_grow_5 19 rfl rfl)
theorem dJ1_grow_138 : decode cJ1_grow 138 = .ok (.iadd, 1) := dk_96 (dk_at dksJ1_grow_5 21 rfl rfl)
theorem dJ1_grow_139 : decode cJ1_grow 139 = .ok (.dup_x1, 1) := dk_90 (dk_at dksJ1_grow_5 22 rfl rfl)
theorem dJ1_grow_140 : decode cJ1_grow 140 = .ok (.putfield 24, 3) := dk_181 0 24 (dk_at dksJ1_grow_6 0 rfl rfl)
theorem dJ1_grow_143 : decode cJ1_grow 143 = .ok (.istore 8, 2) := dk_54 8 (dk_at dksJ1_grow_6 3 rfl rfl)
theorem dJ1_grow_145 : decode cJ1_grow 145 = .ok (.iload 7, 2) := dk_21 7 (dk_at dksJ1_grow_6 5 rfl rfl)
theorem dJ1_grow_147 : decode cJ1_grow 147 = .ok (.iload 8, 2) := dk_21 8 (dk_at dksJ1_grow_6 7 rfl rfl)
theorem dJ1_grow_149 : decode cJ1_grow 149 = .ok (.if_icmp .ge 15, 3) := dk_162 0 15 (dk_at dksJ1_grow_6 9 rfl rfl)
theorem dJ1_grow_152 : decode cJ1_grow 152 = .ok (.aload 5, 2) := dk_25 5 (dk_at dksJ1_grow_6 12 rfl rfl)
theorem dJ1_grow_154 : decode cJ1_grow 154 = .ok (.iload 7, 2) := dk_21 7 (dk_at dksJ1_grow_6 14 rfl rfl)
theorem dJ1_grow_156 : decode cJ1_grow 156 = .ok (.aconst_null, 1) := dk_1 (dk_at dksJ1_grow_6 16 rfl rfl)
theorem dJ1_grow_157 : decode cJ1_grow 157 = .ok (.aastore, 1) := dk_83 (dk_at dksJ1_grow_6 17 rfl rfl)
theorem dJ1_grow_158 : decode cJ1_grow 158 = .ok (.iinc 7 1, 3) := dk_132 7 1 (dk_at dksJ1_grow_6 18 rfl rfl)
theorem dJ1_grow_161 : decode cJ1_grow 161 = .ok (.goto (-16), 3) := dk_167 255 240 (dk_at dksJ1_grow_6 21 rfl rfl)
theorem dJ1_grow_164 : decode cJ1_grow 164 = .ok (.return_, 1) := dk_177 (dk_at dksJ1_grow_7 0 rfl rfl)
abbrev cJ1_addLast : ByteArray := prog_46_method_13_code
def yJ1_addLast : MethodName := ⟨RJ1, "addLast", "(Ljava/lang/Object;)V"⟩
def dkwJ1_addLast_2 : List UInt8 := [182, 0, 71, 177]
abbrev dktJ1_addLast_2 : List UInt8 := dkwJ1_addLast_2 ++ []
def dkwJ1_addLast_1 : List UInt8 := [42, 180, 0, 24, 42, 42, 180, 0, 20, 44, 190, 184, 0, 74, 90, 181, 0, 20, 160, 0, 8, 42, 4]
abbrev dktJ1_addLast_1 : List UInt8 := dkwJ1_addLast_1 ++ dktJ1_addLast_2
def dkwJ1_addLast_0 : List UInt8 := [43, 199, 0, 11, 187, 0, 65, 89, 183, 0, 67, 191, 42, 180, 0, 3, 77, 44, 42, 180, 0, 20, 43, 83]
abbrev dktJ1_addLast_0 : List UInt8 := dkwJ1_addLast_0 ++ dktJ1_addLast_1
theorem dksJ1_addLast_0 : cJ1_addLast.data.toList.drop 0 = dktJ1_addLast_0 := by decide +kernel
theorem dksJ1_addLast_1 : cJ1_addLast.data.toList.drop 24 = dktJ1_addLast_1 := dk_seg dksJ1_addLast_0 24 rfl rfl
theorem dksJ1_addLast_2 : cJ1_addLast.data.toList.drop 47 = dktJ1_addLast_2 := dk_seg dksJ1_addLast_1 23 rfl rfl
theorem dJ1_addLast_0 : decode cJ1_addLast 0 = .ok (.aload_n 1, 1) := dk_43 (dk_at dksJ1_addLast_0 0 rfl rfl)
theorem dJ1_addLast_1 : decode cJ1_addLast 1 = .ok (.ifnonnull 11, 3) := dk_199 0 11 (dk_at dksJ1_addLast_0 1 rfl rfl)
theorem dJ1_addLast_4 : decode cJ1_addLast 4 = .ok (.new 65, 3) := dk_187 0 65 (dk_at dksJ1_addLast_0 4 rfl rfl)
theorem dJ1_addLast_7 : decode cJ1_addLast 7 = .ok (.dup, 1) := dk_89 (dk_at dksJ1_addLast_0 7 rfl rfl)
theorem dJ1_addLast_8 : decode cJ1_addLast 8 = .ok (.invokespecial 67, 3) := dk_183 0 67 (dk_at dksJ1_addLast_0 8 rfl rfl)
theorem dJ1_addLast_11 : decode cJ1_addLast 11 = .ok (.athrow, 1) := dk_191 (dk_at dksJ1_addLast_0 11 rfl rfl)
theorem dJ1_addLast_12 : decode cJ1_addLast 12 = .ok (.aload_n 0, 1) := dk_42 (dk_at dksJ1_addLast_0 12 rfl rfl)
theorem dJ1_addLast_13 : decode cJ1_addLast 13 = .ok (.getfield 3, 3) := dk_180 0 3 (dk_at dksJ1_addLast_0 13 rfl rfl)
theorem dJ1_addLast_16 : decode cJ1_addLast 16 = .ok (.astore_n 2, 1) := dk_77 (dk_at dksJ1_addLast_0 16 rfl rfl)
theorem dJ1_addLast_17 : decode cJ1_addLast 17 = .ok (.aload_n 2, 1) := dk_44 (dk_at dksJ1_addLast_0 17 rfl rfl)
theorem dJ1_addLast_18 : decode cJ1_addLast 18 = .ok (.aload_n 0, 1) := dk_42 (dk_at dksJ1_addLast_0 18 rfl rfl)
theorem dJ1_addLast_19 : decode cJ1_addLast 19 = .ok (.getfield 20, 3) := dk_180 0 20 (dk_at dksJ1_addLast_0 19 rfl rfl)
theorem dJ1_addLast_22 : decode cJ1_addLast 22 = .ok (.aload_n 1, 1) := dk_43 (dk_at dksJ1_addLast_0 22 rfl rfl)
theorem dJ1_addLast_23 : decode cJ1_addLast 23 = .ok (.aastore, 1) := dk_83 (dk_at dksJ1_addLast_0 23 rfl rfl)
theorem dJ1_addLast_24 : decode cJ1_addLast 24 = .ok (.aload_n 0, 1) := dk_42 (dk_at dksJ1_addLast_1 0 rfl rfl)
theorem dJ1_addLast_25 : decode cJ1_addLast 25 = .ok (.getfield 24, 3) := dk_180 0 24 (dk_at dksJ1_addLast_1 1 rfl rfl)
theorem dJ1_addLast_28 : decode cJ1_addLast 28 = .ok (.aload_n 0, 1) := dk_42 (dk_at dksJ1_addLast_1 4 rfl rfl)
theorem dJ1_addLast_29 : decode cJ1_addLast 29 = .ok (.aload_n 0, 1) := dk_42 (dk_at dksJ1_addLast_1 5 rfl rfl)
theorem dJ1_addLast_30 : decode cJ1_addLast 30 = .ok (.getfield 20, 3) := dk_180 0 20 (dk_at dksJ1_addLast_1 6 rfl rfl)
theorem dJ1_addLast_33 : decode cJ1_addLast 33 = .ok (.aload_n 2, 1) := dk_44 (dk_at dksJ1_addLast_1 9 rfl rfl)
theorem dJ1_addLast_34 : decode cJ1_addLast 34 = .ok (.arraylength, 1) := dk_190 (dk_at dksJ1_addLast_1 10 rfl rfl)
theorem dJ1_addLast_35 : decode cJ1_addLast 35 = .ok (.invokestatic 74, 3) := dk_184 0 74 (dk_at dksJ1_addLast_1 11 rfl rfl)
theorem dJ1_addLast_38 : decode cJ1_addLast 38 = .ok (.dup_x1, 1) := dk_90 (dk_at dksJ1_addLast_1 14 rfl rfl)
theorem dJ1_addLast_39 : decode cJ1_addLast 39 = .ok (.putfield 20, 3) := dk_181 0 20 (dk_at dksJ1_addLast_1 15 rfl rfl)
theorem dJ1_addLast_42 : decode cJ1_addLast 42 = .ok (.if_icmp .ne 8, 3) := dk_160 0 8 (dk_at dksJ1_addLast_1 18 rfl rfl)
theorem dJ1_addLast_45 : decode cJ1_addLast 45 = .ok (.aload_n 0, 1) := dk_42 (dk_at dksJ1_addLast_1 21 rfl rfl)
theorem dJ1_addLast_46 : decode cJ1_addLast 46 = .ok (.iconst 1, 1) := dk_4 (dk_at dksJ1_addLast_1 22 rfl rfl)
theorem dJ1_addLast_47 : decode cJ1_addLast 47 = .ok (.invokevirtual 71, 3) := dk_182 0 71 (dk_at dksJ1_addLast_2 0 rfl rfl)
theorem dJ1_addLast_50 : decode cJ1_addLast 50 = .ok (.return_, 1) := dk_177 (dk_at dksJ1_addLast_2 3 rfl rfl)
abbrev cX1_change : ByteArray := prog_1_method_78_code
def yX1_change : MethodName := ⟨RX1, "change", "()LMultipoleLine$Line;"⟩
def dkwX1_change_1 : List UInt8 := [42, 180, 0, 68, 182, 1, 188, 42, 42, 180, 0, 68, 182, 1, 93, 181, 0, 68, 42, 180, 0, 68, 176]
abbrev dktX1_change_1 : List UInt8 := dkwX1_change_1 ++ []
def dkwX1_change_0 : List UInt8 := [42, 180, 0, 38, 182, 1, 184, 16, 8, 160, 0, 11, 42, 180, 0, 38, 182, 1, 185, 87, 42, 180, 0, 38]
abbrev dktX1_change_0 : List UInt8 := dkwX1_change_0 ++ dktX1_change_1
theorem dksX1_change_0 : cX1_change.data.toList.drop 0 = dktX1_change_0 := by decide +kernel
theorem dksX1_change_1 : cX1_change.data.toList.drop 24 = dktX1_change_1 := dk_seg dksX1_change_0 24 rfl rfl
theorem dX1_change_0 : decode cX1_change 0 = .ok (.aload_n 0, 1) := dk_42 (dk_at dksX1_change_0 0 rfl rfl)
theorem dX1_change_1 : decode cX1_change 1 = .ok (.getfield 38, 3) := dk_180 0 38 (dk_at dksX1_change_0 1 rfl rfl)
theorem dX1_change_4 : decode cX1_change 4 = .ok (.invokevirtual 440, 3) := dk_182 1 184 (dk_at dksX1_change_0 4 rfl rfl)
theorem dX1_change_7 : decode cX1_change 7 = .ok (.bipush 8, 2) := dk_16 8 (dk_at dksX1_change_0 7 rfl rfl)
theorem dX1_change_9 : decode cX1_change 9 = .ok (.if_icmp .ne 11, 3) := dk_160 0 11 (dk_at dksX1_change_0 9 rfl rfl)
theorem dX1_change_12 : decode cX1_change 12 = .ok (.aload_n 0, 1) := dk_42 (dk_at dksX1_change_0 12 rfl rfl)
theorem dX1_change_13 : decode cX1_change 13 = .ok (.getfield 38, 3) := dk_180 0 38 (dk_at dksX1_change_0 13 rfl rfl)
theorem dX1_change_16 : decode cX1_change 16 = .ok (.invokevirtual 441, 3) := dk_182 1 185 (dk_at dksX1_change_0 16 rfl rfl)
theorem dX1_change_19 : decode cX1_change 19 = .ok (.pop, 1) := dk_87 (dk_at dksX1_change_0 19 rfl rfl)
theorem dX1_change_20 : decode cX1_change 20 = .ok (.aload_n 0, 1) := dk_42 (dk_at dksX1_change_0 20 rfl rfl)
theorem dX1_change_21 : decode cX1_change 21 = .ok (.getfield 38, 3) := dk_180 0 38 (dk_at dksX1_change_0 21 rfl rfl)
theorem dX1_change_24 : decode cX1_change 24 = .ok (.aload_n 0, 1) := dk_42 (dk_at dksX1_change_1 0 rfl rfl)
theorem dX1_change_25 : decode cX1_change 25 = .ok (.getfield 68, 3) := dk_180 0 68 (dk_at dksX1_change_1 1 rfl rfl)
theorem dX1_change_28 : decode cX1_change 28 = .ok (.invokevirtual 444, 3) := dk_182 1 188 (dk_at dksX1_change_1 4 rfl rfl)
theorem dX1_change_31 : decode cX1_change 31 = .ok (.aload_n 0, 1) := dk_42 (dk_at dksX1_change_1 7 rfl rfl)
theorem dX1_change_32 : decode cX1_change 32 = .ok (.aload_n 0, 1) := dk_42 (dk_at dksX1_change_1 8 rfl rfl)
theorem dX1_change_33 : decode cX1_change 33 = .ok (.getfield 68, 3) := dk_180 0 68 (dk_at dksX1_change_1 9 rfl rfl)
theorem dX1_change_36 : decode cX1_change 36 = .ok (.invokevirtual 349, 3) := dk_182 1 93 (dk_at dksX1_change_1 12 rfl rfl)
theorem dX1_change_39 : decode cX1_change 39 = .ok (.putfield 68, 3) := dk_181 0 68 (dk_at dksX1_change_1 15 rfl rfl)
theorem dX1_change_42 : decode cX1_change 42 = .ok (.aload_n 0, 1) := dk_42 (dk_at dksX1_change_1 18 rfl rfl)
theorem dX1_change_43 : decode cX1_change 43 = .ok (.getfield 68, 3) := dk_180 0 68 (dk_at dksX1_change_1 19 rfl rfl)
theorem dX1_change_46 : decode cX1_change 46 = .ok (.areturn, 1) := dk_176 (dk_at dksX1_change_1 22 rfl rfl)
abbrev cX1_add : ByteArray := prog_1_method_79_code
def yX1_add : MethodName := ⟨RX1, "add", "(ZII)I"⟩
def dkwX1_add_3 : List UInt8 := [185, 1, 213, 2, 0, 87, 42, 180, 0, 68, 182, 0, 80, 4, 100, 172]
abbrev dktX1_add_3 : List UInt8 := dkwX1_add_3 ++ []
def dkwX1_add_2 : List UInt8 := [167, 0, 4, 3, 184, 0, 98, 42, 182, 1, 198, 180, 1, 201, 27, 184, 1, 205, 28, 29, 3, 182, 1, 209]
abbrev dktX1_add_2 : List UInt8 := dkwX1_add_2 ++ dktX1_add_3
def dkwX1_add_1 : List UInt8 := [182, 0, 80, 16, 24, 162, 0, 20, 27, 153, 0, 12, 25, 4, 28, 182, 1, 195, 154, 0, 7, 4]
abbrev dktX1_add_1 : List UInt8 := dkwX1_add_1 ++ dktX1_add_2
def dkwX1_add_0 : List UInt8 := [42, 182, 0, 76, 58, 4, 28, 184, 0, 94, 153, 0, 37, 29, 184, 1, 192, 153, 0, 30, 25, 4]
abbrev dktX1_add_0 : List UInt8 := dkwX1_add_0 ++ dktX1_add_1
theorem dksX1_add_0 : cX1_add.data.toList.drop 0 = dktX1_add_0 := by decide +kernel
theorem dksX1_add_1 : cX1_add.data.toList.drop 22 = dktX1_add_1 := dk_seg dksX1_add_0 22 rfl rfl
theorem dksX1_add_2 : cX1_add.data.toList.drop 44 = dktX1_add_2 := dk_seg dksX1_add_1 22 rfl rfl
theorem dksX1_add_3 : cX1_add.data.toList.drop 68 = dktX1_add_3 := dk_seg dksX1_add_2 24 rfl rfl
theorem dX1_add_0 : decode cX1_add 0 = .ok (.aload_n 0, 1) := dk_42 (dk_at dksX1_add_0 0 rfl rfl)
theorem dX1_add_1 : decode cX1_add 1 = .ok (.invokevirtual 76, 3) := dk_182 0 76 (dk_at dksX1_add_0 1 rfl rfl)
theorem dX1_add_4 : decode cX1_add 4 = .ok (.astore 4, 2) := dk_58 4 (dk_at dksX1_add_0 4 rfl rfl)
theorem dX1_add_6 : decode cX1_add 6 = .ok (.iload_n 2, 1) := dk_28 (dk_at dksX1_add_0 6 rfl rfl)
theorem dX1_add_7 : decode cX1_add 7 = .ok (.invokestatic 94, 3) := dk_184 0 94 (dk_at dksX1_add_0 7 rfl rfl)
theorem dX1_add_10 : decode cX1_add 10 = .ok (.ifCond .eq 37, 3) := dk_153 0 37 (dk_at dksX1_add_0 10 rfl rfl)
theorem dX1_add_13 : decode cX1_add 13 = .ok (.iload_n 3, 1) := dk_29 (dk_at dksX1_add_0 13 rfl rfl)
theorem dX1_add_14 : decode cX1_add 14 = .ok (.invokestatic 448, 3) := dk_184 1 192 (dk_at dksX1_add_0 14 rfl rfl)
theorem dX1_add_17 : decode cX1_add 17 = .ok (.ifCond .eq 30, 3) := dk_153 0 30 (dk_at dksX1_add_0 17 rfl rfl)
theorem dX1_add_20 : decode cX1_add 20 = .ok (.aload 4, 2) := dk_25 4 (dk_at dksX1_add_0 20 rfl rfl)
theorem dX1_add_22 : decode cX1_add 22 = .ok (.invokevirtual 80, 3) := dk_182 0 80 (dk_at dksX1_add_1 0 rfl rfl)
theorem dX1_add_25 : decode cX1_add 25 = .ok (.bipush 24, 2) := dk_16 24 (dk_at dksX1_add_1 3 rfl rfl)
theorem dX1_add_27 : decode cX1_add 27 = .ok (.if_icmp .ge 20, 3) := dk_162 0 20 (dk_at dksX1_add_1 5 rfl rfl)
theorem dX1_add_30 : decode cX1_add 30 = .ok (.iload_n 1, 1) := dk_27 (dk_at dksX1_add_1 8 rfl rfl)
theorem dX1_add_31 : decode cX1_add 31 = .ok (.ifCond .eq 12, 3) := dk_153 0 12 (dk_at dksX1_add_1 9 rfl rfl)
theorem dX1_add_34 : decode cX1_add 34 = .ok (.aload 4, 2) := dk_25 4 (dk_at dksX1_add_1 12 rfl rfl)
theorem dX1_add_36 : decode cX1_add 36 = .ok (.iload_n 2, 1) := dk_28 (dk_at dksX1_add_1 14 rfl rfl)
theorem dX1_add_37 : decode cX1_add 37 = .ok (.invokevirtual 451, 3) := dk_182 1 195 (dk_at dksX1_add_1 15 rfl rfl)
theorem dX1_add_40 : decode cX1_add 40 = .ok (.ifCond .ne 7, 3) := dk_154 0 7 (dk_at dksX1_add_1 18 rfl rfl)
theorem dX1_add_43 : decode cX1_add 43 = .ok (.iconst 1, 1) := dk_4 (dk_at dksX1_add_1 21 rfl rfl)
theorem dX1_add_44 : decode cX1_add 44 = .ok (.goto 4, 3) := dk_167 0 4 (dk_at dksX1_add_2 0 rfl rfl)
theorem dX1_add_47 : decode cX1_add 47 = .ok (.iconst 0, 1) := dk_3 (dk_at dksX1_add_2 3 rfl rfl)
theorem dX1_add_48 : decode cX1_add 48 = .ok (.invokestatic 98, 3) := dk_184 0 98 (dk_at dksX1_add_2 4 rfl rfl)
theorem dX1_add_51 : decode cX1_add 51 = .ok (.aload_n 0, 1) := dk_42 (dk_at dksX1_add_2 7 rfl rfl)
theorem dX1_add_52 : decode cX1_add 52 = .ok (.invokevirtual 454, 3) := dk_182 1 198 (dk_at dksX1_add_2 8 rfl rfl)
theorem dX1_add_55 : decode cX1_add 55 = .ok (.getfield 457, 3) := dk_180 1 201 (dk_at dksX1_add_2 11 rfl rfl)
theorem dX1_add_58 : decode cX1_add 58 = .ok (.iload_n 1, 1) := dk_27 (dk_at dksX1_add_2 14 rfl rfl)
theorem dX1_add_59 : decode cX1_add 59 = .ok (.invokestatic 461, 3) := dk_184 1 205 (dk_at dksX1_add_2 15 rfl rfl)
theorem dX1_add_62 : decode cX1_add 62 = .ok (.iload_n 2, 1) := dk_28 (dk_at dksX1_add_2 18 rfl rfl)
theorem dX1_add_63 : decode cX1_add 63 = .ok (.iload_n 3, 1) := dk_29 (dk_at dksX1_add_2 19 rfl rfl)
theorem dX1_add_64 : decode cX1_add 64 = .ok (.iconst 0, 1) := dk_3 (dk_at dksX1_add_2 20 rfl rfl)
theorem dX1_add_65 : decode cX1_add 65 = .ok (.invokevirtual 465, 3) := dk_182 1 209 (dk_at dksX1_add_2 21 rfl rfl)
theorem dX1_add_68 : decode cX1_add 68 = .ok (.invokeinterface 469 2, 5) := by decide +kernel
theorem dX1_add_73 : decode cX1_add 73 = .ok (.pop, 1) := dk_87 (dk_at dksX1_add_3 5 rfl rfl)
theorem dX1_add_74 : decode cX1_add 74 = .ok (.aload_n 0, 1) := dk_42 (dk_at dksX1_add_3 6 rfl rfl)
theorem dX1_add_75 : decode cX1_add 75 = .ok (.getfield 68, 3) := dk_180 0 68 (dk_at dksX1_add_3 7 rfl rfl)
theorem dX1_add_78 : decode cX1_add 78 = .ok (.invokevirtual 80, 3) := dk_182 0 80 (dk_at dksX1_add_3 10 rfl rfl)
theorem dX1_add_81 : decode cX1_add 81 = .ok (.iconst 1, 1) := dk_4 (dk_at dksX1_add_3 13 rfl rfl)
theorem dX1_add_82 : decode cX1_add 82 = .ok (.isub, 1) := dk_100 (dk_at dksX1_add_3 14 rfl rfl)
theorem dX1_add_83 : decode cX1_add 83 = .ok (.ireturn, 1) := dk_172 (dk_at dksX1_add_3 15 rfl rfl)
abbrev cX1_move : ByteArray := prog_1_method_80_code
def yX1_move : MethodName := ⟨RX1, "move", "(II)I"⟩
def dkwX1_move_1 : List UInt8 := [3, 184, 0, 98, 42, 182, 1, 198, 27, 182, 0, 88, 28, 181, 0, 139, 28, 45, 180, 0, 139, 100, 172]
abbrev dktX1_move_1 : List UInt8 := dkwX1_move_1 ++ []
def dkwX1_move_0 : List UInt8 := [42, 27, 182, 0, 174, 78, 28, 184, 0, 94, 153, 0, 14, 45, 180, 0, 18, 153, 0, 7, 4, 167, 0, 4]
abbrev dktX1_move_0 : List UInt8 := dkwX1_move_0 ++ dktX1_move_1
theorem dksX1_move_0 : cX1_move.data.toList.drop 0 = dktX1_move_0 := by decide +kernel
theorem dksX1_move_1 : cX1_move.data.toList.drop 24 = dktX1_move_1 := dk_seg dksX1_move_0 24 rfl rfl
theorem dX1_move_0 : decode cX1_move 0 = .ok (.aload_n 0, 1) := dk_42 (dk_at dksX1_move_0 0 rfl rfl)
theorem dX1_move_1 : decode cX1_move 1 = .ok (.iload_n 1, 1) := dk_27 (dk_at dksX1_move_0 1 rfl rfl)
theorem dX1_move_2 : decode cX1_move 2 = .ok (.invokevirtual 174, 3) := dk_182 0 174 (dk_at dksX1_move_0 2 rfl rfl)
theorem dX1_move_5 : decode cX1_move 5 = .ok (.astore_n 3, 1) := dk_78 (dk_at dksX1_move_0 5 rfl rfl)
theorem dX1_move_6 : decode cX1_move 6 = .ok (.iload_n 2, 1) := dk_28 (dk_at dksX1_move_0 6 rfl rfl)
theorem dX1_move_7 : decode cX1_move 7 = .ok (.invokestatic 94, 3) := dk_184 0 94 (dk_at dksX1_move_0 7 rfl rfl)
theorem dX1_move_10 : decode cX1_move 10 = .ok (.ifCond .eq 14, 3) := dk_153 0 14 (dk_at dksX1_move_0 10 rfl rfl)
theorem dX1_move_13 : decode cX1_move 13 = .ok (.aload_n 3, 1) := dk_45 (dk_at dksX1_move_0 13 rfl rfl)
theorem dX1_move_14 : decode cX1_move 14 = .ok (.getfield 18, 3) := dk_180 0 18 (dk_at dksX1_move_0 14 rfl rfl)
theorem dX1_move_17 : decode cX1_move 17 = .ok (.ifCond .eq 7, 3) := dk_153 0 7 (dk_at dksX1_move_0 17 rfl rfl)
theorem dX1_move_20 : decode cX1_move 20 = .ok (.iconst 1, 1) := dk_4 (dk_at dksX1_move_0 20 rfl rfl)
theorem dX1_move_21 : decode cX1_move 21 = .ok (.goto 4, 3) := dk_167 0 4 (dk_at dksX1_move_0 21 rfl rfl)
theorem dX1_move_24 : decode cX1_move 24 = .ok (.iconst 0, 1) := dk_3 (dk_at dksX1_move_1 0 rfl rfl)
theorem dX1_move_25 : decode cX1_move 25 = .ok (.invokestatic 98, 3) := dk_184 0 98 (dk_at dksX1_move_1 1 rfl rfl)
theorem dX1_move_28 : decode cX1_move 28 = .ok (.aload_n 0, 1) := dk_42 (dk_at dksX1_move_1 4 rfl rfl)
theorem dX1_move_29 : decode cX1_move 29 = .ok (.invokevirtual 454, 3) := dk_182 1 198 (dk_at dksX1_move_1 5 rfl rfl)
theorem dX1_move_32 : decode cX1_move 32 = .ok (.iload_n 1, 1) := dk_27 (dk_at dksX1_move_1 8 rfl rfl)
theorem dX1_move_33 : decode cX1_move 33 = .ok (.invokevirtual 88, 3) := dk_182 0 88 (dk_at dksX1_move_1 9 rfl rfl)
theorem dX1_move_36 : decode cX1_move 36 = .ok (.iload_n 2, 1) := dk_28 (dk_at dksX1_move_1 12 rfl rfl)
theorem dX1_move_37 : decode cX1_move 37 = .ok (.putfield 139, 3) := dk_181 0 139 (dk_at dksX1_move_1 13 rfl rfl)
theorem dX1_move_40 : decode cX1_move 40 = .ok (.iload_n 2, 1) := dk_28 (dk_at dksX1_move_1 16 rfl rfl)
theorem dX1_move_41 : decode cX1_move 41 = .ok (.aload_n 3, 1) := dk_45 (dk_at dksX1_move_1 17 rfl rfl)
theorem dX1_move_42 : decode cX1_move 42 = .ok (.getfield 139, 3) := dk_180 0 139 (dk_at dksX1_move_1 18 rfl rfl)
theorem dX1_move_45 : decode cX1_move 45 = .ok (.isub, 1) := dk_100 (dk_at dksX1_move_1 21 rfl rfl)
theorem dX1_move_46 : decode cX1_move 46 = .ok (.ireturn, 1) := dk_172 (dk_at dksX1_move_1 22 rfl rfl)
abbrev cX1_setCharge : ByteArray := prog_1_method_81_code
def yX1_setCharge : MethodName := ⟨RX1, "setCharge", "(II)I"⟩
def dkwX1_setCharge_1 : List UInt8 := [28, 181, 0, 177, 29, 172]
abbrev dktX1_setCharge_1 : List UInt8 := dkwX1_setCharge_1 ++ []
def dkwX1_setCharge_0 : List UInt8 := [42, 27, 182, 0, 174, 180, 0, 177, 62, 28, 184, 1, 192, 184, 0, 98, 42, 182, 1, 198, 27, 182, 0, 88]
abbrev dktX1_setCharge_0 : List UInt8 := dkwX1_setCharge_0 ++ dktX1_setCharge_1
theorem dksX1_setCharge_0 : cX1_setCharge.data.toList.drop 0 = dktX1_setCharge_0 := by decide +kernel
theorem dksX1_setCharge_1 : cX1_setCharge.data.toList.drop 24 = dktX1_setCharge_1 := dk_seg dksX1_setCharge_0 24 rfl rfl
theorem dX1_setCharge_0 : decode cX1_setCharge 0 = .ok (.aload_n 0, 1) := dk_42 (dk_at dksX1_setCharge_0 0 rfl rfl)
theorem dX1_setCharge_1 : decode cX1_setCharge 1 = .ok (.iload_n 1, 1) := dk_27 (dk_at dksX1_setCharge_0 1 rfl rfl)
theorem dX1_setCharge_2 : decode cX1_setCharge 2 = .ok (.invokevirtual 174, 3) := dk_182 0 174 (dk_at dksX1_setCharge_0 2 rfl rfl)
theorem dX1_setCharge_5 : decode cX1_setCharge 5 = .ok (.getfield 177, 3) := dk_180 0 177 (dk_at dksX1_setCharge_0 5 rfl rfl)
theorem dX1_setCharge_8 : decode cX1_setCharge 8 = .ok (.istore_n 3, 1) := dk_62 (dk_at dksX1_setCharge_0 8 rfl rfl)
theorem dX1_setCharge_9 : decode cX1_setCharge 9 = .ok (.iload_n 2, 1) := dk_28 (dk_at dksX1_setCharge_0 9 rfl rfl)
theorem dX1_setCharge_10 : decode cX1_setCharge 10 = .ok (.invokestatic 448, 3) := dk_184 1 192 (dk_at dksX1_setCharge_0 10 rfl rfl)
theorem dX1_setCharge_13 : decode cX1_setCharge 13 = .ok (.invokestatic 98, 3) := dk_184 0 98 (dk_at dksX1_setCharge_0 13 rfl rfl)
theorem dX1_setCharge_16 : decode cX1_setCharge 16 = .ok (.aload_n 0, 1) := dk_42 (dk_at dksX1_setCharge_0 16 rfl rfl)
theorem dX1_setCharge_17 : decode cX1_setCharge 17 = .ok (.invokevirtual 454, 3) := dk_182 1 198 (dk_at dksX1_setCharge_0 17 rfl rfl)
theorem dX1_setCharge_20 : decode cX1_setCharge 20 = .ok (.iload_n 1, 1) := dk_27 (dk_at dksX1_setCharge_0 20 rfl rfl)
theorem dX1_setCharge_21 : decode cX1_setCharge 21 = .ok (.invokevirtual 88, 3) := dk_182 0 88 (dk_at dksX1_setCharge_0 21 rfl rfl)
theorem dX1_setCharge_24 : decode cX1_setCharge 24 = .ok (.iload_n 2, 1) := dk_28 (dk_at dksX1_setCharge_1 0 rfl rfl)
theorem dX1_setCharge_25 : decode cX1_setCharge 25 = .ok (.putfield 177, 3) := dk_181 0 177 (dk_at dksX1_setCharge_1 1 rfl rfl)
theorem dX1_setCharge_28 : decode cX1_setCharge 28 = .ok (.iload_n 3, 1) := dk_29 (dk_at dksX1_setCharge_1 4 rfl rfl)
theorem dX1_setCharge_29 : decode cX1_setCharge 29 = .ok (.ireturn, 1) := dk_172 (dk_at dksX1_setCharge_1 5 rfl rfl)
abbrev cJ12_fastRemove : ByteArray := prog_47_method_39_code
def yJ12_fastRemove : MethodName := ⟨RJ12, "fastRemove", "([Ljava/lang/Object;I)V"⟩
def dkwJ12_fastRemove_1 : List UInt8 := [4, 96, 43, 28, 29, 28, 100, 184, 0, 112, 43, 42, 29, 90, 181, 0, 48, 1, 83, 177]
abbrev dktJ12_fastRemove_1 : List UInt8 := dkwJ12_fastRemove_1 ++ []
def dkwJ12_fastRemove_0 : List UInt8 := [42, 89, 180, 0, 63, 4, 96, 181, 0, 63, 42, 180, 0, 48, 4, 100, 89, 62, 28, 164, 0, 15, 43, 28]
abbrev dktJ12_fastRemove_0 : List UInt8 := dkwJ12_fastRemove_0 ++ dktJ12_fastRemove_1
theorem dksJ12_fastRemove_0 : cJ12_fastRemove.data.toList.drop 0 = dktJ12_fastRemove_0 := by decide +kernel
theorem dksJ12_fastRemove_1 : cJ12_fastRemove.data.toList.drop 24 = dktJ12_fastRemove_1 := dk_seg dksJ12_fastRemove_0 24 rfl rfl
theorem dJ12_fastRemove_0 : decode cJ12_fastRemove 0 = .ok (.aload_n 0, 1) := dk_42 (dk_at dksJ12_fastRemove_0 0 rfl rfl)
theorem dJ12_fastRemove_1 : decode cJ12_fastRemove 1 = .ok (.dup, 1) := dk_89 (dk_at dksJ12_fastRemove_0 1 rfl rfl)
theorem dJ12_fastRemove_2 : decode cJ12_fastRemove 2 = .ok (.getfield 63, 3) := dk_180 0 63 (dk_at dksJ12_fastRemove_0 2 rfl rfl)
theorem dJ12_fastRemove_5 : decode cJ12_fastRemove 5 = .ok (.iconst 1, 1) := dk_4 (dk_at dksJ12_fastRemove_0 5 rfl rfl)
theorem dJ12_fastRemove_6 : decode cJ12_fastRemove 6 = .ok (.iadd, 1) := dk_96 (dk_at dksJ12_fastRemove_0 6 rfl rfl)
theorem dJ12_fastRemove_7 : decode cJ12_fastRemove 7 = .ok (.putfield 63, 3) := dk_181 0 63 (dk_at dksJ12_fastRemove_0 7 rfl rfl)
theorem dJ12_fastRemove_10 : decode cJ12_fastRemove 10 = .ok (.aload_n 0, 1) := dk_42 (dk_at dksJ12_fastRemove_0 10 rfl rfl)
theorem dJ12_fastRemove_11 : decode cJ12_fastRemove 11 = .ok (.getfield 48, 3) := dk_180 0 48 (dk_at dksJ12_fastRemove_0 11 rfl rfl)
theorem dJ12_fastRemove_14 : decode cJ12_fastRemove 14 = .ok (.iconst 1, 1) := dk_4 (dk_at dksJ12_fastRemove_0 14 rfl rfl)
theorem dJ12_fastRemove_15 : decode cJ12_fastRemove 15 = .ok (.isub, 1) := dk_100 (dk_at dksJ12_fastRemove_0 15 rfl rfl)
theorem dJ12_fastRemove_16 : decode cJ12_fastRemove 16 = .ok (.dup, 1) := dk_89 (dk_at dksJ12_fastRemove_0 16 rfl rfl)
theorem dJ12_fastRemove_17 : decode cJ12_fastRemove 17 = .ok (.istore_n 3, 1) := dk_62 (dk_at dksJ12_fastRemove_0 17 rfl rfl)
theorem dJ12_fastRemove_18 : decode cJ12_fastRemove 18 = .ok (.iload_n 2, 1) := dk_28 (dk_at dksJ12_fastRemove_0 18 rfl rfl)
theorem dJ12_fastRemove_19 : decode cJ12_fastRemove 19 = .ok (.if_icmp .le 15, 3) := dk_164 0 15 (dk_at dksJ12_fastRemove_0 19 rfl rfl)
theorem dJ12_fastRemove_22 : decode cJ12_fastRemove 22 = .ok (.aload_n 1, 1) := dk_43 (dk_at dksJ12_fastRemove_0 22 rfl rfl)
theorem dJ12_fastRemove_23 : decode cJ12_fastRemove 23 = .ok (.iload_n 2, 1) := dk_28 (dk_at dksJ12_fastRemove_0 23 rfl rfl)
theorem dJ12_fastRemove_24 : decode cJ12_fastRemove 24 = .ok (.iconst 1, 1) := dk_4 (dk_at dksJ12_fastRemove_1 0 rfl rfl)
theorem dJ12_fastRemove_25 : decode cJ12_fastRemove 25 = .ok (.iadd, 1) := dk_96 (dk_at dksJ12_fastRemove_1 1 rfl rfl)
theorem dJ12_fastRemove_26 : decode cJ12_fastRemove 26 = .ok (.aload_n 1, 1) := dk_43 (dk_at dksJ12_fastRemove_1 2 rfl rfl)
theorem dJ12_fastRemove_27 : decode cJ12_fastRemove 27 = .ok (.iload_n 2, 1) := dk_28 (dk_at dksJ12_fastRemove_1 3 rfl rfl)
theorem dJ12_fastRemove_28 : decode cJ12_fastRemove 28 = .ok (.iload_n 3, 1) := dk_29 (dk_at dksJ12_fastRemove_1 4 rfl rfl)
theorem dJ12_fastRemove_29 : decode cJ12_fastRemove 29 = .ok (.iload_n 2, 1) := dk_28 (dk_at dksJ12_fastRemove_1 5 rfl rfl)
theorem dJ12_fastRemove_30 : decode cJ12_fastRemove 30 = .ok (.isub, 1) := dk_100 (dk_at dksJ12_fastRemove_1 6 rfl rfl)
theorem dJ12_fastRemove_31 : decode cJ12_fastRemove 31 = .ok (.invokestatic 112, 3) := dk_184 0 112 (dk_at dksJ12_fastRemove_1 7 rfl rfl)
theorem dJ12_fastRemove_34 : decode cJ12_fastRemove 34 = .ok (.aload_n 1, 1) := dk_43 (dk_at dksJ12_fastRemove_1 10 rfl rfl)
theorem dJ12_fastRemove_35 : decode cJ12_fastRemove 35 = .ok (.aload_n 0, 1) := dk_42 (dk_at dksJ12_fastRemove_1 11 rfl rfl)
theorem dJ12_fastRemove_36 : decode cJ12_fastRemove 36 = .ok (.iload_n 3, 1) := dk_29 (dk_at dksJ12_fastRemove_1 12 rfl rfl)
theorem dJ12_fastRemove_37 : decode cJ12_fastRemove 37 = .ok (.dup_x1, 1) := dk_90 (dk_at dksJ12_fastRemove_1 13 rfl rfl)
theorem dJ12_fastRemove_38 : decode cJ12_fastRemove 38 = .ok (.putfield 48, 3) := dk_181 0 48 (dk_at dksJ12_fastRemove_1 14 rfl rfl)
theorem dJ12_fastRemove_41 : decode cJ12_fastRemove 41 = .ok (.aconst_null, 1) := dk_1 (dk_at dksJ12_fastRemove_1 17 rfl rfl)
theorem dJ12_fastRemove_42 : decode cJ12_fastRemove 42 = .ok (.aastore, 1) := dk_83 (dk_at dksJ12_fastRemove_1 18 rfl rfl)
theorem dJ12_fastRemove_43 : decode cJ12_fastRemove 43 = .ok (.return_, 1) := dk_177 (dk_at dksJ12_fastRemove_1 19 rfl rfl)
abbrev cJ12_remove : ByteArray := prog_47_method_29_code
def yJ12_remove : MethodName := ⟨RJ12, "remove", "(I)Ljava/lang/Object;"⟩
def dkwJ12_remove_1 : List UInt8 := [45, 176]
abbrev dktJ12_remove_1 : List UInt8 := dkwJ12_remove_1 ++ []
def dkwJ12_remove_0 : List UInt8 := [27, 42, 180, 0, 48, 184, 0, 118, 87, 42, 180, 0, 9, 77, 44, 27, 50, 78, 42, 44, 27, 182, 0, 144]
abbrev dktJ12_remove_0 : List UInt8 := dkwJ12_remove_0 ++ dktJ12_remove_1
theorem dksJ12_remove_0 : cJ12_remove.data.toList.drop 0 = dktJ12_remove_0 := by decide +kernel
theorem dksJ12_remove_1 : cJ12_remove.data.toList.drop 24 = dktJ12_remove_1 := dk_seg dksJ12_remove_0 24 rfl rfl
theorem dJ12_remove_0 : decode cJ12_remove 0 = .ok (.iload_n 1, 1) := dk_27 (dk_at dksJ12_remove_0 0 rfl rfl)
theorem dJ12_remove_1 : decode cJ12_remove 1 = .ok (.aload_n 0, 1) := dk_42 (dk_at dksJ12_remove_0 1 rfl rfl)
theorem dJ12_remove_2 : decode cJ12_remove 2 = .ok (.getfield 48, 3) := dk_180 0 48 (dk_at dksJ12_remove_0 2 rfl rfl)
theorem dJ12_remove_5 : decode cJ12_remove 5 = .ok (.invokestatic 118, 3) := dk_184 0 118 (dk_at dksJ12_remove_0 5 rfl rfl)
theorem dJ12_remove_8 : decode cJ12_remove 8 = .ok (.pop, 1) := dk_87 (dk_at dksJ12_remove_0 8 rfl rfl)
theorem dJ12_remove_9 : decode cJ12_remove 9 = .ok (.aload_n 0, 1) := dk_42 (dk_at dksJ12_remove_0 9 rfl rfl)
theorem dJ12_remove_10 : decode cJ12_remove 10 = .ok (.getfield 9, 3) := dk_180 0 9 (dk_at dksJ12_remove_0 10 rfl rfl)
theorem dJ12_remove_13 : decode cJ12_remove 13 = .ok (.astore_n 2, 1) := dk_77 (dk_at dksJ12_remove_0 13 rfl rfl)
theorem dJ12_remove_14 : decode cJ12_remove 14 = .ok (.aload_n 2, 1) := dk_44 (dk_at dksJ12_remove_0 14 rfl rfl)
theorem dJ12_remove_15 : decode cJ12_remove 15 = .ok (.iload_n 1, 1) := dk_27 (dk_at dksJ12_remove_0 15 rfl rfl)
theorem dJ12_remove_16 : decode cJ12_remove 16 = .ok (.aaload, 1) := dk_50 (dk_at dksJ12_remove_0 16 rfl rfl)
theorem dJ12_remove_17 : decode cJ12_remove 17 = .ok (.astore_n 3, 1) := dk_78 (dk_at dksJ12_remove_0 17 rfl rfl)
theorem dJ12_remove_18 : decode cJ12_remove 18 = .ok (.aload_n 0, 1) := dk_42 (dk_at dksJ12_remove_0 18 rfl rfl)
theorem dJ12_remove_19 : decode cJ12_remove 19 = .ok (.aload_n 2, 1) := dk_44 (dk_at dksJ12_remove_0 19 rfl rfl)
theorem dJ12_remove_20 : decode cJ12_remove 20 = .ok (.iload_n 1, 1) := dk_27 (dk_at dksJ12_remove_0 20 rfl rfl)
theorem dJ12_remove_21 : decode cJ12_remove 21 = .ok (.invokevirtual 144, 3) := dk_182 0 144 (dk_at dksJ12_remove_0 21 rfl rfl)
theorem dJ12_remove_24 : decode cJ12_remove 24 = .ok (.aload_n 3, 1) := dk_45 (dk_at dksJ12_remove_1 0 rfl rfl)
theorem dJ12_remove_25 : decode cJ12_remove 25 = .ok (.areturn, 1) := dk_176 (dk_at dksJ12_remove_1 1 rfl rfl)
abbrev cX1_remove : ByteArray := prog_1_method_82_code
def yX1_remove : MethodName := ⟨RX1, "remove", "(I)I"⟩
def dkwX1_remove_1 : List UInt8 := [180, 0, 68, 182, 0, 80, 172]
abbrev dktX1_remove_1 : List UInt8 := dkwX1_remove_1 ++ []
def dkwX1_remove_0 : List UInt8 := [42, 27, 182, 0, 174, 77, 42, 182, 1, 198, 180, 1, 201, 27, 185, 1, 219, 2, 0, 192, 0, 19, 78, 42]
abbrev dktX1_remove_0 : List UInt8 := dkwX1_remove_0 ++ dktX1_remove_1
theorem dksX1_remove_0 : cX1_remove.data.toList.drop 0 = dktX1_remove_0 := by decide +kernel
theorem dksX1_remove_1 : cX1_remove.data.toList.drop 24 = dktX1_remove_1 := dk_seg dksX1_remove_0 24 rfl rfl
theorem dX1_remove_0 : decode cX1_remove 0 = .ok (.aload_n 0, 1) := dk_42 (dk_at dksX1_remove_0 0 rfl rfl)
theorem dX1_remove_1 : decode cX1_remove 1 = .ok (.iload_n 1, 1) := dk_27 (dk_at dksX1_remove_0 1 rfl rfl)
theorem dX1_remove_2 : decode cX1_remove 2 = .ok (.invokevirtual 174, 3) := dk_182 0 174 (dk_at dksX1_remove_0 2 rfl rfl)
theorem dX1_remove_5 : decode cX1_remove 5 = .ok (.astore_n 2, 1) := dk_77 (dk_at dksX1_remove_0 5 rfl rfl)
theorem dX1_remove_6 : decode cX1_remove 6 = .ok (.aload_n 0, 1) := dk_42 (dk_at dksX1_remove_0 6 rfl rfl)
theorem dX1_remove_7 : decode cX1_remove 7 = .ok (.invokevirtual 454, 3) := dk_182 1 198 (dk_at dksX1_remove_0 7 rfl rfl)
theorem dX1_remove_10 : decode cX1_remove 10 = .ok (.getfield 457, 3) := dk_180 1 201 (dk_at dksX1_remove_0 10 rfl rfl)
theorem dX1_remove_13 : decode cX1_remove 13 = .ok (.iload_n 1, 1) := dk_27 (dk_at dksX1_remove_0 13 rfl rfl)
theorem dX1_remove_14 : decode cX1_remove 14 = .ok (.invokeinterface 475 2, 5) := by decide +kernel
theorem dX1_remove_19 : decode cX1_remove 19 = .ok (.checkcast 19, 3) := dk_192 0 19 (dk_at dksX1_remove_0 19 rfl rfl)
theorem dX1_remove_22 : decode cX1_remove 22 = .ok (.astore_n 3, 1) := dk_78 (dk_at dksX1_remove_0 22 rfl rfl)
theorem dX1_remove_23 : decode cX1_remove 23 = .ok (.aload_n 0, 1) := dk_42 (dk_at dksX1_remove_0 23 rfl rfl)
theorem dX1_remove_24 : decode cX1_remove 24 = .ok (.getfield 68, 3) := dk_180 0 68 (dk_at dksX1_remove_1 0 rfl rfl)
theorem dX1_remove_27 : decode cX1_remove 27 = .ok (.invokevirtual 80, 3) := dk_182 0 80 (dk_at dksX1_remove_1 3 rfl rfl)
theorem dX1_remove_30 : decode cX1_remove 30 = .ok (.ireturn, 1) := dk_172 (dk_at dksX1_remove_1 6 rfl rfl)
abbrev cX1_step : ByteArray := prog_1_method_83_code
def yX1_step : MethodName := ⟨RX1, "step", "(I)I"⟩
def dkwX1_step_1 : List UInt8 := [167, 0, 4, 3, 184, 0, 98, 42, 182, 1, 198, 27, 182, 1, 96, 172]
abbrev dktX1_step_1 : List UInt8 := dkwX1_step_1 ++ []
def dkwX1_step_0 : List UInt8 := [42, 182, 0, 76, 77, 27, 4, 184, 1, 90, 44, 180, 0, 149, 27, 96, 17, 39, 15, 163, 0, 7, 4]
abbrev dktX1_step_0 : List UInt8 := dkwX1_step_0 ++ dktX1_step_1
theorem dksX1_step_0 : cX1_step.data.toList.drop 0 = dktX1_step_0 := by decide +kernel
theorem dksX1_step_1 : cX1_step.data.toList.drop 23 = dktX1_step_1 := dk_seg dksX1_step_0 23 rfl rfl
theorem dX1_step_0 : decode cX1_step 0 = .ok (.aload_n 0, 1) := dk_42 (dk_at dksX1_step_0 0 rfl rfl)
theorem dX1_step_1 : decode cX1_step 1 = .ok (.invokevirtual 76, 3) := dk_182 0 76 (dk_at dksX1_step_0 1 rfl rfl)
theorem dX1_step_4 : decode cX1_step 4 = .ok (.astore_n 2, 1) := dk_77 (dk_at dksX1_step_0 4 rfl rfl)
theorem dX1_step_5 : decode cX1_step 5 = .ok (.iload_n 1, 1) := dk_27 (dk_at dksX1_step_0 5 rfl rfl)
theorem dX1_step_6 : decode cX1_step 6 = .ok (.iconst 1, 1) := dk_4 (dk_at dksX1_step_0 6 rfl rfl)
theorem dX1_step_7 : decode cX1_step 7 = .ok (.invokestatic 346, 3) := dk_184 1 90 (dk_at dksX1_step_0 7 rfl rfl)
theorem dX1_step_10 : decode cX1_step 10 = .ok (.aload_n 2, 1) := dk_44 (dk_at dksX1_step_0 10 rfl rfl)
theorem dX1_step_11 : decode cX1_step 11 = .ok (.getfield 149, 3) := dk_180 0 149 (dk_at dksX1_step_0 11 rfl rfl)
theorem dX1_step_14 : decode cX1_step 14 = .ok (.iload_n 1, 1) := dk_27 (dk_at dksX1_step_0 14 rfl rfl)
theorem dX1_step_15 : decode cX1_step 15 = .ok (.iadd, 1) := dk_96 (dk_at dksX1_step_0 15 rfl rfl)
theorem dX1_step_16 : decode cX1_step 16 = .ok (.sipush 9999, 3) := dk_17 39 15 (dk_at dksX1_step_0 16 rfl rfl)
theorem dX1_step_19 : decode cX1_step 19 = .ok (.if_icmp .gt 7, 3) := dk_163 0 7 (dk_at dksX1_step_0 19 rfl rfl)
theorem dX1_step_22 : decode cX1_step 22 = .ok (.iconst 1, 1) := dk_4 (dk_at dksX1_step_0 22 rfl rfl)
theorem dX1_step_23 : decode cX1_step 23 = .ok (.goto 4, 3) := dk_167 0 4 (dk_at dksX1_step_1 0 rfl rfl)
theorem dX1_step_26 : decode cX1_step 26 = .ok (.iconst 0, 1) := dk_3 (dk_at dksX1_step_1 3 rfl rfl)
theorem dX1_step_27 : decode cX1_step 27 = .ok (.invokestatic 98, 3) := dk_184 0 98 (dk_at dksX1_step_1 4 rfl rfl)
theorem dX1_step_30 : decode cX1_step 30 = .ok (.aload_n 0, 1) := dk_42 (dk_at dksX1_step_1 7 rfl rfl)
theorem dX1_step_31 : decode cX1_step 31 = .ok (.invokevirtual 454, 3) := dk_182 1 198 (dk_at dksX1_step_1 8 rfl rfl)
theorem dX1_step_34 : decode cX1_step 34 = .ok (.iload_n 1, 1) := dk_27 (dk_at dksX1_step_1 11 rfl rfl)
theorem dX1_step_35 : decode cX1_step 35 = .ok (.invokevirtual 352, 3) := dk_182 1 96 (dk_at dksX1_step_1 12 rfl rfl)
theorem dX1_step_38 : decode cX1_step 38 = .ok (.ireturn, 1) := dk_172 (dk_at dksX1_step_1 15 rfl rfl)
abbrev cX1_setNumber : ByteArray := prog_1_method_84_code
def yX1_setNumber : MethodName := ⟨RX1, "setNumber", "(II)I"⟩
def dkwX1_setNumber_2 : List UInt8 := [27, 182, 0, 145, 54, 4, 42, 182, 1, 198, 27, 28, 182, 1, 231, 21, 4, 172]
abbrev dktX1_setNumber_2 : List UInt8 := dkwX1_setNumber_2 ++ []
def dkwX1_setNumber_1 : List UInt8 := [184, 1, 225, 133, 27, 184, 1, 228, 133, 184, 0, 58, 153, 0, 7, 4, 167, 0, 4, 3, 184, 0, 98, 45]
abbrev dktX1_setNumber_1 : List UInt8 := dkwX1_setNumber_1 ++ dktX1_setNumber_2
def dkwX1_setNumber_0 : List UInt8 := [42, 182, 0, 76, 78, 27, 133, 20, 1, 128, 20, 1, 223, 184, 0, 58, 153, 0, 25, 28, 133, 27]
abbrev dktX1_setNumber_0 : List UInt8 := dkwX1_setNumber_0 ++ dktX1_setNumber_1
theorem dksX1_setNumber_0 : cX1_setNumber.data.toList.drop 0 = dktX1_setNumber_0 := by decide +kernel
theorem dksX1_setNumber_1 : cX1_setNumber.data.toList.drop 22 = dktX1_setNumber_1 := dk_seg dksX1_setNumber_0 22 rfl rfl
theorem dksX1_setNumber_2 : cX1_setNumber.data.toList.drop 46 = dktX1_setNumber_2 := dk_seg dksX1_setNumber_1 24 rfl rfl
theorem dX1_setNumber_0 : decode cX1_setNumber 0 = .ok (.aload_n 0, 1) := dk_42 (dk_at dksX1_setNumber_0 0 rfl rfl)
theorem dX1_setNumber_1 : decode cX1_setNumber 1 = .ok (.invokevirtual 76, 3) := dk_182 0 76 (dk_at dksX1_setNumber_0 1 rfl rfl)
theorem dX1_setNumber_4 : decode cX1_setNumber 4 = .ok (.astore_n 3, 1) := dk_78 (dk_at dksX1_setNumber_0 4 rfl rfl)
theorem dX1_setNumber_5 : decode cX1_setNumber 5 = .ok (.iload_n 1, 1) := dk_27 (dk_at dksX1_setNumber_0 5 rfl rfl)
theorem dX1_setNumber_6 : decode cX1_setNumber 6 = .ok (.i2l, 1) := dk_133 (dk_at dksX1_setNumber_0 6 rfl rfl)
theorem dX1_setNumber_7 : decode cX1_setNumber 7 = .ok (.ldc2_w 384, 3) := dk_20 1 128 (dk_at dksX1_setNumber_0 7 rfl rfl)
theorem dX1_setNumber_10 : decode cX1_setNumber 10 = .ok (.ldc2_w 479, 3) := dk_20 1 223 (dk_at dksX1_setNumber_0 10 rfl rfl)
theorem dX1_setNumber_13 : decode cX1_setNumber 13 = .ok (.invokestatic 58, 3) := dk_184 0 58 (dk_at dksX1_setNumber_0 13 rfl rfl)
theorem dX1_setNumber_16 : decode cX1_setNumber 16 = .ok (.ifCond .eq 25, 3) := dk_153 0 25 (dk_at dksX1_setNumber_0 16 rfl rfl)
theorem dX1_setNumber_19 : decode cX1_setNumber 19 = .ok (.iload_n 2, 1) := dk_28 (dk_at dksX1_setNumber_0 19 rfl rfl)
theorem dX1_setNumber_20 : decode cX1_setNumber 20 = .ok (.i2l, 1) := dk_133 (dk_at dksX1_setNumber_0 20 rfl rfl)
theorem dX1_setNumber_21 : decode cX1_setNumber 21 = .ok (.iload_n 1, 1) := dk_27 (dk_at dksX1_setNumber_0 21 rfl rfl)
theorem dX1_setNumber_22 : decode cX1_setNumber 22 = .ok (.invokestatic 481, 3) := dk_184 1 225 (dk_at dksX1_setNumber_1 0 rfl rfl)
theorem dX1_setNumber_25 : decode cX1_setNumber 25 = .ok (.i2l, 1) := dk_133 (dk_at dksX1_setNumber_1 3 rfl rfl)
theorem dX1_setNumber_26 : decode cX1_setNumber 26 = .ok (.iload_n 1, 1) := dk_27 (dk_at dksX1_setNumber_1 4 rfl rfl)
theorem dX1_setNumber_27 : decode cX1_setNumber 27 = .ok (.invokestatic 484, 3) := dk_184 1 228 (dk_at dksX1_setNumber_1 5 rfl rfl)
theorem dX1_setNumber_30 : decode cX1_setNumber 30 = .ok (.i2l, 1) := dk_133 (dk_at dksX1_setNumber_1 8 rfl rfl)
theorem dX1_setNumber_31 : decode cX1_setNumber 31 = .ok (.invokestatic 58, 3) := dk_184 0 58 (dk_at dksX1_setNumber_1 9 rfl rfl)
theorem dX1_setNumber_34 : decode cX1_setNumber 34 = .ok (.ifCond .eq 7, 3) := dk_153 0 7 (dk_at dksX1_setNumber_1 12 rfl rfl)
theorem dX1_setNumber_37 : decode cX1_setNumber 37 = .ok (.iconst 1, 1) := dk_4 (dk_at dksX1_setNumber_1 15 rfl rfl)
theorem dX1_setNumber_38 : decode cX1_setNumber 38 = .ok (.goto 4, 3) := dk_167 0 4 (dk_at dksX1_setNumber_1 16 rfl rfl)
theorem dX1_setNumber_41 : decode cX1_setNumber 41 = .ok (.iconst 0, 1) := dk_3 (dk_at dksX1_setNumber_1 19 rfl rfl)
theorem dX1_setNumber_42 : decode cX1_setNumber 42 = .ok (.invokestatic 98, 3) := dk_184 0 98 (dk_at dksX1_setNumber_1 20 rfl rfl)
theorem dX1_setNumber_45 : decode cX1_setNumber 45 = .ok (.aload_n 3, 1) := dk_45 (dk_at dksX1_setNumber_1 23 rfl rfl)
theorem dX1_setNumber_46 : decode cX1_setNumber 46 = .ok (.iload_n 1, 1) := dk_27 (dk_at dksX1_setNumber_2 0 rfl rfl)
theorem dX1_setNumber_47 : decode cX1_setNumber 47 = .ok (.invokevirtual 145, 3) := dk_182 0 145 (dk_at dksX1_setNumber_2 1 rfl rfl)
theorem dX1_setNumber_50 : decode cX1_setNumber 50 = .ok (.istore 4, 2) := dk_54 4 (dk_at dksX1_setNumber_2 4 rfl rfl)
theorem dX1_setNumber_52 : decode cX1_setNumber 52 = .ok (.aload_n 0, 1) := dk_42 (dk_at dksX1_setNumber_2 6 rfl rfl)
theorem dX1_setNumber_53 : decode cX1_setNumber 53 = .ok (.invokevirtual 454, 3) := dk_182 1 198 (dk_at dksX1_setNumber_2 7 rfl rfl)
theorem dX1_setNumber_56 : decode cX1_setNumber 56 = .ok (.iload_n 1, 1) := dk_27 (dk_at dksX1_setNumber_2 10 rfl rfl)
theorem dX1_setNumber_57 : decode cX1_setNumber 57 = .ok (.iload_n 2, 1) := dk_28 (dk_at dksX1_setNumber_2 11 rfl rfl)
theorem dX1_setNumber_58 : decode cX1_setNumber 58 = .ok (.invokevirtual 487, 3) := dk_182 1 231 (dk_at dksX1_setNumber_2 12 rfl rfl)
theorem dX1_setNumber_61 : decode cX1_setNumber 61 = .ok (.iload 4, 2) := dk_21 4 (dk_at dksX1_setNumber_2 15 rfl rfl)
theorem dX1_setNumber_63 : decode cX1_setNumber 63 = .ok (.ireturn, 1) := dk_172 (dk_at dksX1_setNumber_2 17 rfl rfl)
abbrev cJ1_isEmpty : ByteArray := prog_46_method_38_code
def yJ1_isEmpty : MethodName := ⟨RJ1, "isEmpty", "()Z"⟩
def dkwJ1_isEmpty_0 : List UInt8 := [42, 180, 0, 24, 42, 180, 0, 20, 160, 0, 7, 4, 167, 0, 4, 3, 172]
abbrev dktJ1_isEmpty_0 : List UInt8 := dkwJ1_isEmpty_0 ++ []
theorem dksJ1_isEmpty_0 : cJ1_isEmpty.data.toList.drop 0 = dktJ1_isEmpty_0 := by decide +kernel
theorem dJ1_isEmpty_0 : decode cJ1_isEmpty 0 = .ok (.aload_n 0, 1) := dk_42 (dk_at dksJ1_isEmpty_0 0 rfl rfl)
theorem dJ1_isEmpty_1 : decode cJ1_isEmpty 1 = .ok (.getfield 24, 3) := dk_180 0 24 (dk_at dksJ1_isEmpty_0 1 rfl rfl)
theorem dJ1_isEmpty_4 : decode cJ1_isEmpty 4 = .ok (.aload_n 0, 1) := dk_42 (dk_at dksJ1_isEmpty_0 4 rfl rfl)
theorem dJ1_isEmpty_5 : decode cJ1_isEmpty 5 = .ok (.getfield 20, 3) := dk_180 0 20 (dk_at dksJ1_isEmpty_0 5 rfl rfl)
theorem dJ1_isEmpty_8 : decode cJ1_isEmpty 8 = .ok (.if_icmp .ne 7, 3) := dk_160 0 7 (dk_at dksJ1_isEmpty_0 8 rfl rfl)
theorem dJ1_isEmpty_11 : decode cJ1_isEmpty 11 = .ok (.iconst 1, 1) := dk_4 (dk_at dksJ1_isEmpty_0 11 rfl rfl)
theorem dJ1_isEmpty_12 : decode cJ1_isEmpty 12 = .ok (.goto 4, 3) := dk_167 0 4 (dk_at dksJ1_isEmpty_0 12 rfl rfl)
theorem dJ1_isEmpty_15 : decode cJ1_isEmpty 15 = .ok (.iconst 0, 1) := dk_3 (dk_at dksJ1_isEmpty_0 15 rfl rfl)
theorem dJ1_isEmpty_16 : decode cJ1_isEmpty 16 = .ok (.ireturn, 1) := dk_172 (dk_at dksJ1_isEmpty_0 16 rfl rfl)
abbrev cJ1_dec : ByteArray := prog_46_method_7_code
def yJ1_dec : MethodName := ⟨RJ1, "dec", "(II)I"⟩
def dkwJ1_dec_0 : List UInt8 := [132, 0, 255, 26, 156, 0, 7, 27, 4, 100, 59, 26, 172]
abbrev dktJ1_dec_0 : List UInt8 := dkwJ1_dec_0 ++ []
theorem dksJ1_dec_0 : cJ1_dec.data.toList.drop 0 = dktJ1_dec_0 := by decide +kernel
theorem dJ1_dec_0 : decode cJ1_dec 0 = .ok (.iinc 0 (-1), 3) := dk_132 0 255 (dk_at dksJ1_dec_0 0 rfl rfl)
theorem dJ1_dec_3 : decode cJ1_dec 3 = .ok (.iload_n 0, 1) := dk_26 (dk_at dksJ1_dec_0 3 rfl rfl)
theorem dJ1_dec_4 : decode cJ1_dec 4 = .ok (.ifCond .ge 7, 3) := dk_156 0 7 (dk_at dksJ1_dec_0 4 rfl rfl)
theorem dJ1_dec_7 : decode cJ1_dec 7 = .ok (.iload_n 1, 1) := dk_27 (dk_at dksJ1_dec_0 7 rfl rfl)
theorem dJ1_dec_8 : decode cJ1_dec 8 = .ok (.iconst 1, 1) := dk_4 (dk_at dksJ1_dec_0 8 rfl rfl)
theorem dJ1_dec_9 : decode cJ1_dec 9 = .ok (.isub, 1) := dk_100 (dk_at dksJ1_dec_0 9 rfl rfl)
theorem dJ1_dec_10 : decode cJ1_dec 10 = .ok (.istore_n 0, 1) := dk_59 (dk_at dksJ1_dec_0 10 rfl rfl)
theorem dJ1_dec_11 : decode cJ1_dec 11 = .ok (.iload_n 0, 1) := dk_26 (dk_at dksJ1_dec_0 11 rfl rfl)
theorem dJ1_dec_12 : decode cJ1_dec 12 = .ok (.ireturn, 1) := dk_172 (dk_at dksJ1_dec_0 12 rfl rfl)
abbrev cJ1_pollLast : ByteArray := prog_46_method_21_code
def yJ1_pollLast : MethodName := ⟨RJ1, "pollLast", "()Ljava/lang/Object;"⟩
def dkwJ1_pollLast_1 : List UInt8 := [198, 0, 12, 43, 42, 28, 90, 181, 0, 20, 1, 83, 45, 176]
abbrev dktJ1_pollLast_1 : List UInt8 := dkwJ1_pollLast_1 ++ []
def dkwJ1_pollLast_0 : List UInt8 := [42, 180, 0, 3, 89, 76, 42, 180, 0, 20, 43, 190, 184, 0, 68, 89, 61, 184, 0, 103, 78, 45]
abbrev dktJ1_pollLast_0 : List UInt8 := dkwJ1_pollLast_0 ++ dktJ1_pollLast_1
theorem dksJ1_pollLast_0 : cJ1_pollLast.data.toList.drop 0 = dktJ1_pollLast_0 := by decide +kernel
theorem dksJ1_pollLast_1 : cJ1_pollLast.data.toList.drop 22 = dktJ1_pollLast_1 := dk_seg dksJ1_pollLast_0 22 rfl rfl
theorem dJ1_pollLast_0 : decode cJ1_pollLast 0 = .ok (.aload_n 0, 1) := dk_42 (dk_at dksJ1_pollLast_0 0 rfl rfl)
theorem dJ1_pollLast_1 : decode cJ1_pollLast 1 = .ok (.getfield 3, 3) := dk_180 0 3 (dk_at dksJ1_pollLast_0 1 rfl rfl)
theorem dJ1_pollLast_4 : decode cJ1_pollLast 4 = .ok (.dup, 1) := dk_89 (dk_at dksJ1_pollLast_0 4 rfl rfl)
theorem dJ1_pollLast_5 : decode cJ1_pollLast 5 = .ok (.astore_n 1, 1) := dk_76 (dk_at dksJ1_pollLast_0 5 rfl rfl)
theorem dJ1_pollLast_6 : decode cJ1_pollLast 6 = .ok (.aload_n 0, 1) := dk_42 (dk_at dksJ1_pollLast_0 6 rfl rfl)
theorem dJ1_pollLast_7 : decode cJ1_pollLast 7 = .ok (.getfield 20, 3) := dk_180 0 20 (dk_at dksJ1_pollLast_0 7 rfl rfl)
theorem dJ1_pollLast_10 : decode cJ1_pollLast 10 = .ok (.aload_n 1, 1) := dk_43 (dk_at dksJ1_pollLast_0 10 rfl rfl)
theorem dJ1_pollLast_11 : decode cJ1_pollLast 11 = .ok (.arraylength, 1) := dk_190 (dk_at dksJ1_pollLast_0 11 rfl rfl)
theorem dJ1_pollLast_12 : decode cJ1_pollLast 12 = .ok (.invokestatic 68, 3) := dk_184 0 68 (dk_at dksJ1_pollLast_0 12 rfl rfl)
theorem dJ1_pollLast_15 : decode cJ1_pollLast 15 = .ok (.dup, 1) := dk_89 (dk_at dksJ1_pollLast_0 15 rfl rfl)
theorem dJ1_pollLast_16 : decode cJ1_pollLast 16 = .ok (.istore_n 2, 1) := dk_61 (dk_at dksJ1_pollLast_0 16 rfl rfl)
theorem dJ1_pollLast_17 : decode cJ1_pollLast 17 = .ok (.invokestatic 103, 3) := dk_184 0 103 (dk_at dksJ1_pollLast_0 17 rfl rfl)
theorem dJ1_pollLast_20 : decode cJ1_pollLast 20 = .ok (.astore_n 3, 1) := dk_78 (dk_at dksJ1_pollLast_0 20 rfl rfl)
theorem dJ1_pollLast_21 : decode cJ1_pollLast 21 = .ok (.aload_n 3, 1) := dk_45 (dk_at dksJ1_pollLast_0 21 rfl rfl)
theorem dJ1_pollLast_22 : decode cJ1_pollLast 22 = .ok (.ifnull 12, 3) := dk_198 0 12 (dk_at dksJ1_pollLast_1 0 rfl rfl)
theorem dJ1_pollLast_25 : decode cJ1_pollLast 25 = .ok (.aload_n 1, 1) := dk_43 (dk_at dksJ1_pollLast_1 3 rfl rfl)
theorem dJ1_pollLast_26 : decode cJ1_pollLast 26 = .ok (.aload_n 0, 1) := dk_42 (dk_at dksJ1_pollLast_1 4 rfl rfl)
theorem dJ1_pollLast_27 : decode cJ1_pollLast 27 = .ok (.iload_n 2, 1) := dk_28 (dk_at dksJ1_pollLast_1 5 rfl rfl)
theorem dJ1_pollLast_28 : decode cJ1_pollLast 28 = .ok (.dup_x1, 1) := dk_90 (dk_at dksJ1_pollLast_1 6 rfl rfl)
theorem dJ1_pollLast_29 : decode cJ1_pollLast 29 = .ok (.putfield 20, 3) := dk_181 0 20 (dk_at dksJ1_pollLast_1 7 rfl rfl)
theorem dJ1_pollLast_32 : decode cJ1_pollLast 32 = .ok (.aconst_null, 1) := dk_1 (dk_at dksJ1_pollLast_1 10 rfl rfl)
theorem dJ1_pollLast_33 : decode cJ1_pollLast 33 = .ok (.aastore, 1) := dk_83 (dk_at dksJ1_pollLast_1 11 rfl rfl)
theorem dJ1_pollLast_34 : decode cJ1_pollLast 34 = .ok (.aload_n 3, 1) := dk_45 (dk_at dksJ1_pollLast_1 12 rfl rfl)
theorem dJ1_pollLast_35 : decode cJ1_pollLast 35 = .ok (.areturn, 1) := dk_176 (dk_at dksJ1_pollLast_1 13 rfl rfl)
abbrev cJ1_removeLast : ByteArray := prog_46_method_19_code
def yJ1_removeLast : MethodName := ⟨RJ1, "removeLast", "()Ljava/lang/Object;"⟩
def dkwJ1_removeLast_0 : List UInt8 := [42, 182, 0, 100, 76, 43, 199, 0, 11, 187, 0, 97, 89, 183, 0, 99, 191, 43, 176]
abbrev dktJ1_removeLast_0 : List UInt8 := dkwJ1_removeLast_0 ++ []
theorem dksJ1_removeLast_0 : cJ1_removeLast.data.toList.drop 0 = dktJ1_removeLast_0 := by decide +kernel
theorem dJ1_removeLast_0 : decode cJ1_removeLast 0 = .ok (.aload_n 0, 1) := dk_42 (dk_at dksJ1_removeLast_0 0 rfl rfl)
theorem dJ1_removeLast_1 : decode cJ1_removeLast 1 = .ok (.invokevirtual 100, 3) := dk_182 0 100 (dk_at dksJ1_removeLast_0 1 rfl rfl)
theorem dJ1_removeLast_4 : decode cJ1_removeLast 4 = .ok (.astore_n 1, 1) := dk_76 (dk_at dksJ1_removeLast_0 4 rfl rfl)
theorem dJ1_removeLast_5 : decode cJ1_removeLast 5 = .ok (.aload_n 1, 1) := dk_43 (dk_at dksJ1_removeLast_0 5 rfl rfl)
theorem dJ1_removeLast_6 : decode cJ1_removeLast 6 = .ok (.ifnonnull 11, 3) := dk_199 0 11 (dk_at dksJ1_removeLast_0 6 rfl rfl)
theorem dJ1_removeLast_9 : decode cJ1_removeLast 9 = .ok (.new 97, 3) := dk_187 0 97 (dk_at dksJ1_removeLast_0 9 rfl rfl)
theorem dJ1_removeLast_12 : decode cJ1_removeLast 12 = .ok (.dup, 1) := dk_89 (dk_at dksJ1_removeLast_0 12 rfl rfl)
theorem dJ1_removeLast_13 : decode cJ1_removeLast 13 = .ok (.invokespecial 99, 3) := dk_183 0 99 (dk_at dksJ1_removeLast_0 13 rfl rfl)
theorem dJ1_removeLast_16 : decode cJ1_removeLast 16 = .ok (.athrow, 1) := dk_191 (dk_at dksJ1_removeLast_0 16 rfl rfl)
theorem dJ1_removeLast_17 : decode cJ1_removeLast 17 = .ok (.aload_n 1, 1) := dk_43 (dk_at dksJ1_removeLast_0 17 rfl rfl)
theorem dJ1_removeLast_18 : decode cJ1_removeLast 18 = .ok (.areturn, 1) := dk_176 (dk_at dksJ1_removeLast_0 18 rfl rfl)
abbrev cX1_undo : ByteArray := prog_1_method_85_code
def yX1_undo : MethodName := ⟨RX1, "undo", "()I"⟩
def dkwX1_undo_1 : List UInt8 := [182, 1, 237, 192, 0, 42, 181, 0, 68, 42, 180, 0, 38, 182, 1, 184, 172]
abbrev dktX1_undo_1 : List UInt8 := dkwX1_undo_1 ++ []
def dkwX1_undo_0 : List UInt8 := [42, 180, 0, 38, 182, 1, 234, 154, 0, 7, 4, 167, 0, 4, 3, 184, 0, 72, 42, 42, 180, 0, 38]
abbrev dktX1_undo_0 : List UInt8 := dkwX1_undo_0 ++ dktX1_undo_1
theorem dksX1_undo_0 : cX1_undo.data.toList.drop 0 = dktX1_undo_0 := by decide +kernel
theorem dksX1_undo_1 : cX1_undo.data.toList.drop 23 = dktX1_undo_1 := dk_seg dksX1_undo_0 23 rfl rfl
theorem dX1_undo_0 : decode cX1_undo 0 = .ok (.aload_n 0, 1) := dk_42 (dk_at dksX1_undo_0 0 rfl rfl)
theorem dX1_undo_1 : decode cX1_undo 1 = .ok (.getfield 38, 3) := dk_180 0 38 (dk_at dksX1_undo_0 1 rfl rfl)
theorem dX1_undo_4 : decode cX1_undo 4 = .ok (.invokevirtual 490, 3) := dk_182 1 234 (dk_at dksX1_undo_0 4 rfl rfl)
theorem dX1_undo_7 : decode cX1_undo 7 = .ok (.ifCond .ne 7, 3) := dk_154 0 7 (dk_at dksX1_undo_0 7 rfl rfl)
theorem dX1_undo_10 : decode cX1_undo 10 = .ok (.iconst 1, 1) := dk_4 (dk_at dksX1_undo_0 10 rfl rfl)
theorem dX1_undo_11 : decode cX1_undo 11 = .ok (.goto 4, 3) := dk_167 0 4 (dk_at dksX1_undo_0 11 rfl rfl)
theorem dX1_undo_14 : decode cX1_undo 14 = .ok (.iconst 0, 1) := dk_3 (dk_at dksX1_undo_0 14 rfl rfl)
theorem dX1_undo_15 : decode cX1_undo 15 = .ok (.invokestatic 72, 3) := dk_184 0 72 (dk_at dksX1_undo_0 15 rfl rfl)
theorem dX1_undo_18 : decode cX1_undo 18 = .ok (.aload_n 0, 1) := dk_42 (dk_at dksX1_undo_0 18 rfl rfl)
theorem dX1_undo_19 : decode cX1_undo 19 = .ok (.aload_n 0, 1) := dk_42 (dk_at dksX1_undo_0 19 rfl rfl)
theorem dX1_undo_20 : decode cX1_undo 20 = .ok (.getfield 38, 3) := dk_180 0 38 (dk_at dksX1_undo_0 20 rfl rfl)
theorem dX1_undo_23 : decode cX1_undo 23 = .ok (.invokevirtual 493, 3) := dk_182 1 237 (dk_at dksX1_undo_1 0 rfl rfl)
theorem dX1_undo_26 : decode cX1_undo 26 = .ok (.checkcast 42, 3) := dk_192 0 42 (dk_at dksX1_undo_1 3 rfl rfl)
theorem dX1_undo_29 : decode cX1_undo 29 = .ok (.putfield 68, 3) := dk_181 0 68 (dk_at dksX1_undo_1 6 rfl rfl)
theorem dX1_undo_32 : decode cX1_undo 32 = .ok (.aload_n 0, 1) := dk_42 (dk_at dksX1_undo_1 9 rfl rfl)
theorem dX1_undo_33 : decode cX1_undo 33 = .ok (.getfield 38, 3) := dk_180 0 38 (dk_at dksX1_undo_1 10 rfl rfl)
theorem dX1_undo_36 : decode cX1_undo 36 = .ok (.invokevirtual 440, 3) := dk_182 1 184 (dk_at dksX1_undo_1 13 rfl rfl)
theorem dX1_undo_39 : decode cX1_undo 39 = .ok (.ireturn, 1) := dk_172 (dk_at dksX1_undo_1 16 rfl rfl)
abbrev cX1_save : ByteArray := prog_1_method_87_code
def yX1_save : MethodName := ⟨RX1, "save", "(I)I"⟩
def dkwX1_save_1 : List UInt8 := [172]
abbrev dktX1_save_1 : List UInt8 := dkwX1_save_1 ++ []
def dkwX1_save_0 : List UInt8 := [42, 182, 0, 76, 77, 27, 5, 184, 0, 84, 42, 180, 0, 44, 27, 44, 182, 1, 93, 83, 44, 180, 0, 149]
abbrev dktX1_save_0 : List UInt8 := dkwX1_save_0 ++ dktX1_save_1
theorem dksX1_save_0 : cX1_save.data.toList.drop 0 = dktX1_save_0 := by decide +kernel
theorem dksX1_save_1 : cX1_save.data.toList.drop 24 = dktX1_save_1 := dk_seg dksX1_save_0 24 rfl rfl
theorem dX1_save_0 : decode cX1_save 0 = .ok (.aload_n 0, 1) := dk_42 (dk_at dksX1_save_0 0 rfl rfl)
theorem dX1_save_1 : decode cX1_save 1 = .ok (.invokevirtual 76, 3) := dk_182 0 76 (dk_at dksX1_save_0 1 rfl rfl)
theorem dX1_save_4 : decode cX1_save 4 = .ok (.astore_n 2, 1) := dk_77 (dk_at dksX1_save_0 4 rfl rfl)
theorem dX1_save_5 : decode cX1_save 5 = .ok (.iload_n 1, 1) := dk_27 (dk_at dksX1_save_0 5 rfl rfl)
theorem dX1_save_6 : decode cX1_save 6 = .ok (.iconst 2, 1) := dk_5 (dk_at dksX1_save_0 6 rfl rfl)
theorem dX1_save_7 : decode cX1_save 7 = .ok (.invokestatic 84, 3) := dk_184 0 84 (dk_at dksX1_save_0 7 rfl rfl)
theorem dX1_save_10 : decode cX1_save 10 = .ok (.aload_n 0, 1) := dk_42 (dk_at dksX1_save_0 10 rfl rfl)
theorem dX1_save_11 : decode cX1_save 11 = .ok (.getfield 44, 3) := dk_180 0 44 (dk_at dksX1_save_0 11 rfl rfl)
theorem dX1_save_14 : decode cX1_save 14 = .ok (.iload_n 1, 1) := dk_27 (dk_at dksX1_save_0 14 rfl rfl)
theorem dX1_save_15 : decode cX1_save 15 = .ok (.aload_n 2, 1) := dk_44 (dk_at dksX1_save_0 15 rfl rfl)
theorem dX1_save_16 : decode cX1_save 16 = .ok (.invokevirtual 349, 3) := dk_182 1 93 (dk_at dksX1_save_0 16 rfl rfl)
theorem dX1_save_19 : decode cX1_save 19 = .ok (.aastore, 1) := dk_83 (dk_at dksX1_save_0 19 rfl rfl)
theorem dX1_save_20 : decode cX1_save 20 = .ok (.aload_n 2, 1) := dk_44 (dk_at dksX1_save_0 20 rfl rfl)
theorem dX1_save_21 : decode cX1_save 21 = .ok (.getfield 149, 3) := dk_180 0 149 (dk_at dksX1_save_0 21 rfl rfl)
theorem dX1_save_24 : decode cX1_save 24 = .ok (.ireturn, 1) := dk_172 (dk_at dksX1_save_1 0 rfl rfl)
abbrev cX1_restore : ByteArray := prog_1_method_88_code
def yX1_restore : MethodName := ⟨RX1, "restore", "(I)I"⟩
def dkwX1_restore_2 : List UInt8 := [180, 0, 149, 172]
abbrev dktX1_restore_2 : List UInt8 := dkwX1_restore_2 ++ []
def dkwX1_restore_1 : List UInt8 := [180, 0, 44, 27, 50, 182, 1, 93, 181, 0, 68, 42, 180, 0, 38, 182, 0, 128, 42, 180, 0, 68]
abbrev dktX1_restore_1 : List UInt8 := dkwX1_restore_1 ++ dktX1_restore_2
def dkwX1_restore_0 : List UInt8 := [27, 5, 184, 0, 84, 42, 180, 0, 44, 27, 50, 198, 0, 7, 4, 167, 0, 4, 3, 184, 0, 72, 42, 42]
abbrev dktX1_restore_0 : List UInt8 := dkwX1_restore_0 ++ dktX1_restore_1
theorem dksX1_restore_0 : cX1_restore.data.toList.drop 0 = dktX1_restore_0 := by decide +kernel
theorem dksX1_restore_1 : cX1_restore.data.toList.drop 24 = dktX1_restore_1 := dk_seg dksX1_restore_0 24 rfl rfl
theorem dksX1_restore_2 : cX1_restore.data.toList.drop 46 = dktX1_restore_2 := dk_seg dksX1_restore_1 22 rfl rfl
theorem dX1_restore_0 : decode cX1_restore 0 = .ok (.iload_n 1, 1) := dk_27 (dk_at dksX1_restore_0 0 rfl rfl)
theorem dX1_restore_1 : decode cX1_restore 1 = .ok (.iconst 2, 1) := dk_5 (dk_at dksX1_restore_0 1 rfl rfl)
theorem dX1_restore_2 : decode cX1_restore 2 = .ok (.invokestatic 84, 3) := dk_184 0 84 (dk_at dksX1_restore_0 2 rfl rfl)
theorem dX1_restore_5 : decode cX1_restore 5 = .ok (.aload_n 0, 1) := dk_42 (dk_at dksX1_restore_0 5 rfl rfl)
theorem dX1_restore_6 : decode cX1_restore 6 = .ok (.getfield 44, 3) := dk_180 0 44 (dk_at dksX1_restore_0 6 rfl rfl)
theorem dX1_restore_9 : decode cX1_restore 9 = .ok (.iload_n 1, 1) := dk_27 (dk_at dksX1_restore_0 9 rfl rfl)
theorem dX1_restore_10 : decode cX1_restore 10 = .ok (.aaload, 1) := dk_50 (dk_at dksX1_restore_0 10 rfl rfl)
theorem dX1_restore_11 : decode cX1_restore 11 = .ok (.ifnull 7, 3) := dk_198 0 7 (dk_at dksX1_restore_0 11 rfl rfl)
theorem dX1_restore_14 : decode cX1_restore 14 = .ok (.iconst 1, 1) := dk_4 (dk_at dksX1_restore_0 14 rfl rfl)
theorem dX1_restore_15 : decode cX1_restore 15 = .ok (.goto 4, 3) := dk_167 0 4 (dk_at dksX1_restore_0 15 rfl rfl)
theorem dX1_restore_18 : decode cX1_restore 18 = .ok (.iconst 0, 1) := dk_3 (dk_at dksX1_restore_0 18 rfl rfl)
theorem dX1_restore_19 : decode cX1_restore 19 = .ok (.invokestatic 72, 3) := dk_184 0 72 (dk_at dksX1_restore_0 19 rfl rfl)
theorem dX1_restore_22 : decode cX1_restore 22 = .ok (.aload_n 0, 1) := dk_42 (dk_at dksX1_restore_0 22 rfl rfl)
theorem dX1_restore_23 : decode cX1_restore 23 = .ok (.aload_n 0, 1) := dk_42 (dk_at dksX1_restore_0 23 rfl rfl)
theorem dX1_restore_24 : decode cX1_restore 24 = .ok (.getfield 44, 3) := dk_180 0 44 (dk_at dksX1_restore_1 0 rfl rfl)
theorem dX1_restore_27 : decode cX1_restore 27 = .ok (.iload_n 1, 1) := dk_27 (dk_at dksX1_restore_1 3 rfl rfl)
theorem dX1_restore_28 : decode cX1_restore 28 = .ok (.aaload, 1) := dk_50 (dk_at dksX1_restore_1 4 rfl rfl)
theorem dX1_restore_29 : decode cX1_restore 29 = .ok (.invokevirtual 349, 3) := dk_182 1 93 (dk_at dksX1_restore_1 5 rfl rfl)
theorem dX1_restore_32 : decode cX1_restore 32 = .ok (.putfield 68, 3) := dk_181 0 68 (dk_at dksX1_restore_1 8 rfl rfl)
theorem dX1_restore_35 : decode cX1_restore 35 = .ok (.aload_n 0, 1) := dk_42 (dk_at dksX1_restore_1 11 rfl rfl)
theorem dX1_restore_36 : decode cX1_restore 36 = .ok (.getfield 38, 3) := dk_180 0 38 (dk_at dksX1_restore_1 12 rfl rfl)
theorem dX1_restore_39 : decode cX1_restore 39 = .ok (.invokevirtual 128, 3) := dk_182 0 128 (dk_at dksX1_restore_1 15 rfl rfl)
theorem dX1_restore_42 : decode cX1_restore 42 = .ok (.aload_n 0, 1) := dk_42 (dk_at dksX1_restore_1 18 rfl rfl)
theorem dX1_restore_43 : decode cX1_restore 43 = .ok (.getfield 68, 3) := dk_180 0 68 (dk_at dksX1_restore_1 19 rfl rfl)
theorem dX1_restore_46 : decode cX1_restore 46 = .ok (.getfield 149, 3) := dk_180 0 149 (dk_at dksX1_restore_2 0 rfl rfl)
theorem dX1_restore_49 : decode cX1_restore 49 = .ok (.ireturn, 1) := dk_172 (dk_at dksX1_restore_2 3 rfl rfl)
abbrev cX0_load : ByteArray := method_3_code
def yX0_load : MethodName := ⟨RX0, "load", "(LMultipoleLine;I[J)I"⟩
def dkwX0_load_0 : List UInt8 := [44, 3, 42, 27, 182, 0, 7, 133, 80, 167, 0, 9, 78, 4, 172, 78, 5, 172, 3, 172]
abbrev dktX0_load_0 : List UInt8 := dkwX0_load_0 ++ []
theorem dksX0_load_0 : cX0_load.data.toList.drop 0 = dktX0_load_0 := by decide +kernel
theorem dX0_load_0 : decode cX0_load 0 = .ok (.aload_n 2, 1) := dk_44 (dk_at dksX0_load_0 0 rfl rfl)
theorem dX0_load_1 : decode cX0_load 1 = .ok (.iconst 0, 1) := dk_3 (dk_at dksX0_load_0 1 rfl rfl)
theorem dX0_load_2 : decode cX0_load 2 = .ok (.aload_n 0, 1) := dk_42 (dk_at dksX0_load_0 2 rfl rfl)
theorem dX0_load_3 : decode cX0_load 3 = .ok (.iload_n 1, 1) := dk_27 (dk_at dksX0_load_0 3 rfl rfl)
theorem dX0_load_4 : decode cX0_load 4 = .ok (.invokevirtual 7, 3) := dk_182 0 7 (dk_at dksX0_load_0 4 rfl rfl)
theorem dX0_load_7 : decode cX0_load 7 = .ok (.i2l, 1) := dk_133 (dk_at dksX0_load_0 7 rfl rfl)
theorem dX0_load_8 : decode cX0_load 8 = .ok (.lastore, 1) := dk_80 (dk_at dksX0_load_0 8 rfl rfl)
theorem dX0_load_9 : decode cX0_load 9 = .ok (.goto 9, 3) := dk_167 0 9 (dk_at dksX0_load_0 9 rfl rfl)
theorem dX0_load_12 : decode cX0_load 12 = .ok (.astore_n 3, 1) := dk_78 (dk_at dksX0_load_0 12 rfl rfl)
theorem dX0_load_13 : decode cX0_load 13 = .ok (.iconst 1, 1) := dk_4 (dk_at dksX0_load_0 13 rfl rfl)
theorem dX0_load_14 : decode cX0_load 14 = .ok (.ireturn, 1) := dk_172 (dk_at dksX0_load_0 14 rfl rfl)
theorem dX0_load_15 : decode cX0_load 15 = .ok (.astore_n 3, 1) := dk_78 (dk_at dksX0_load_0 15 rfl rfl)
theorem dX0_load_16 : decode cX0_load 16 = .ok (.iconst 2, 1) := dk_5 (dk_at dksX0_load_0 16 rfl rfl)
theorem dX0_load_17 : decode cX0_load 17 = .ok (.ireturn, 1) := dk_172 (dk_at dksX0_load_0 17 rfl rfl)
theorem dX0_load_18 : decode cX0_load 18 = .ok (.iconst 0, 1) := dk_3 (dk_at dksX0_load_0 18 rfl rfl)
theorem dX0_load_19 : decode cX0_load 19 = .ok (.ireturn, 1) := dk_172 (dk_at dksX0_load_0 19 rfl rfl)
abbrev cX0_count : ByteArray := method_4_code
def yX0_count : MethodName := ⟨RX0, "count", "(LMultipoleLine;I[J)I"⟩
def dkwX0_count_0 : List UInt8 := [44, 3, 42, 27, 182, 0, 17, 133, 80, 167, 0, 9, 78, 4, 172, 78, 5, 172, 3, 172]
abbrev dktX0_count_0 : List UInt8 := dkwX0_count_0 ++ []
theorem dksX0_count_0 : cX0_count.data.toList.drop 0 = dktX0_count_0 := by decide +kernel
theorem dX0_count_0 : decode cX0_count 0 = .ok (.aload_n 2, 1) := dk_44 (dk_at dksX0_count_0 0 rfl rfl)
theorem dX0_count_1 : decode cX0_count 1 = .ok (.iconst 0, 1) := dk_3 (dk_at dksX0_count_0 1 rfl rfl)
theorem dX0_count_2 : decode cX0_count 2 = .ok (.aload_n 0, 1) := dk_42 (dk_at dksX0_count_0 2 rfl rfl)
theorem dX0_count_3 : decode cX0_count 3 = .ok (.iload_n 1, 1) := dk_27 (dk_at dksX0_count_0 3 rfl rfl)
theorem dX0_count_4 : decode cX0_count 4 = .ok (.invokevirtual 17, 3) := dk_182 0 17 (dk_at dksX0_count_0 4 rfl rfl)
theorem dX0_count_7 : decode cX0_count 7 = .ok (.i2l, 1) := dk_133 (dk_at dksX0_count_0 7 rfl rfl)
theorem dX0_count_8 : decode cX0_count 8 = .ok (.lastore, 1) := dk_80 (dk_at dksX0_count_0 8 rfl rfl)
theorem dX0_count_9 : decode cX0_count 9 = .ok (.goto 9, 3) := dk_167 0 9 (dk_at dksX0_count_0 9 rfl rfl)
theorem dX0_count_12 : decode cX0_count 12 = .ok (.astore_n 3, 1) := dk_78 (dk_at dksX0_count_0 12 rfl rfl)
theorem dX0_count_13 : decode cX0_count 13 = .ok (.iconst 1, 1) := dk_4 (dk_at dksX0_count_0 13 rfl rfl)
theorem dX0_count_14 : decode cX0_count 14 = .ok (.ireturn, 1) := dk_172 (dk_at dksX0_count_0 14 rfl rfl)
theorem dX0_count_15 : decode cX0_count 15 = .ok (.astore_n 3, 1) := dk_78 (dk_at dksX0_count_0 15 rfl rfl)
theorem dX0_count_16 : decode cX0_count 16 = .ok (.iconst 2, 1) := dk_5 (dk_at dksX0_count_0 16 rfl rfl)
theorem dX0_count_17 : decode cX0_count 17 = .ok (.ireturn, 1) := dk_172 (dk_at dksX0_count_0 17 rfl rfl)
theorem dX0_count_18 : decode cX0_count 18 = .ok (.iconst 0, 1) := dk_3 (dk_at dksX0_count_0 18 rfl rfl)
theorem dX0_count_19 : decode cX0_count 19 = .ok (.ireturn, 1) := dk_172 (dk_at dksX0_count_0 19 rfl rfl)
abbrev cX0_body : ByteArray := method_5_code
def yX0_body : MethodName := ⟨RX0, "body", "(LMultipoleLine;II[J)I"⟩
def dkwX0_body_1 : List UInt8 := [172, 3, 172]
abbrev dktX0_body_1 : List UInt8 := dkwX0_body_1 ++ []
def dkwX0_body_0 : List UInt8 := [45, 3, 42, 27, 28, 182, 0, 22, 133, 80, 167, 0, 15, 58, 4, 4, 172, 58, 4, 5, 172, 58, 4, 6]
abbrev dktX0_body_0 : List UInt8 := dkwX0_body_0 ++ dktX0_body_1
theorem dksX0_body_0 : cX0_body.data.toList.drop 0 = dktX0_body_0 := by decide +kernel
theorem dksX0_body_1 : cX0_body.data.toList.drop 24 = dktX0_body_1 := dk_seg dksX0_body_0 24 rfl rfl
theorem dX0_body_0 : decode cX0_body 0 = .ok (.aload_n 3, 1) := dk_45 (dk_at dksX0_body_0 0 rfl rfl)
theorem dX0_body_1 : decode cX0_body 1 = .ok (.iconst 0, 1) := dk_3 (dk_at dksX0_body_0 1 rfl rfl)
theorem dX0_body_2 : decode cX0_body 2 = .ok (.aload_n 0, 1) := dk_42 (dk_at dksX0_body_0 2 rfl rfl)
theorem dX0_body_3 : decode cX0_body 3 = .ok (.iload_n 1, 1) := dk_27 (dk_at dksX0_body_0 3 rfl rfl)
theorem dX0_body_4 : decode cX0_body 4 = .ok (.iload_n 2, 1) := dk_28 (dk_at dksX0_body_0 4 rfl rfl)
theorem dX0_body_5 : decode cX0_body 5 = .ok (.invokevirtual 22, 3) := dk_182 0 22 (dk_at dksX0_body_0 5 rfl rfl)
theorem dX0_body_8 : decode cX0_body 8 = .ok (.i2l, 1) := dk_133 (dk_at dksX0_body_0 8 rfl rfl)
theorem dX0_body_9 : decode cX0_body 9 = .ok (.lastore, 1) := dk_80 (dk_at dksX0_body_0 9 rfl rfl)
theorem dX0_body_10 : decode cX0_body 10 = .ok (.goto 15, 3) := dk_167 0 15 (dk_at dksX0_body_0 10 rfl rfl)
theorem dX0_body_13 : decode cX0_body 13 = .ok (.astore 4, 2) := dk_58 4 (dk_at dksX0_body_0 13 rfl rfl)
theorem dX0_body_15 : decode cX0_body 15 = .ok (.iconst 1, 1) := dk_4 (dk_at dksX0_body_0 15 rfl rfl)
theorem dX0_body_16 : decode cX0_body 16 = .ok (.ireturn, 1) := dk_172 (dk_at dksX0_body_0 16 rfl rfl)
theorem dX0_body_17 : decode cX0_body 17 = .ok (.astore 4, 2) := dk_58 4 (dk_at dksX0_body_0 17 rfl rfl)
theorem dX0_body_19 : decode cX0_body 19 = .ok (.iconst 2, 1) := dk_5 (dk_at dksX0_body_0 19 rfl rfl)
theorem dX0_body_20 : decode cX0_body 20 = .ok (.ireturn, 1) := dk_172 (dk_at dksX0_body_0 20 rfl rfl)
theorem dX0_body_21 : decode cX0_body 21 = .ok (.astore 4, 2) := dk_58 4 (dk_at dksX0_body_0 21 rfl rfl)
theorem dX0_body_23 : decode cX0_body 23 = .ok (.iconst 3, 1) := dk_6 (dk_at dksX0_body_0 23 rfl rfl)
theorem dX0_body_24 : decode cX0_body 24 = .ok (.ireturn, 1) := dk_172 (dk_at dksX0_body_1 0 rfl rfl)
theorem dX0_body_25 : decode cX0_body 25 = .ok (.iconst 0, 1) := dk_3 (dk_at dksX0_body_1 1 rfl rfl)
theorem dX0_body_26 : decode cX0_body 26 = .ok (.ireturn, 1) := dk_172 (dk_at dksX0_body_1 2 rfl rfl)
abbrev cX0_bodyAt : ByteArray := method_6_code
def yX0_bodyAt : MethodName := ⟨RX0, "bodyAt", "(LMultipoleLine;I[J)I"⟩
def dkwX0_bodyAt_0 : List UInt8 := [44, 3, 42, 27, 182, 0, 26, 133, 80, 167, 0, 9, 78, 4, 172, 78, 5, 172, 3, 172]
abbrev dktX0_bodyAt_0 : List UInt8 := dkwX0_bodyAt_0 ++ []
theorem dksX0_bodyAt_0 : cX0_bodyAt.data.toList.drop 0 = dktX0_bodyAt_0 := by decide +kernel
theorem dX0_bodyAt_0 : decode cX0_bodyAt 0 = .ok (.aload_n 2, 1) := dk_44 (dk_at dksX0_bodyAt_0 0 rfl rfl)
theorem dX0_bodyAt_1 : decode cX0_bodyAt 1 = .ok (.iconst 0, 1) := dk_3 (dk_at dksX0_bodyAt_0 1 rfl rfl)
theorem dX0_bodyAt_2 : decode cX0_bodyAt 2 = .ok (.aload_n 0, 1) := dk_42 (dk_at dksX0_bodyAt_0 2 rfl rfl)
theorem dX0_bodyAt_3 : decode cX0_bodyAt 3 = .ok (.iload_n 1, 1) := dk_27 (dk_at dksX0_bodyAt_0 3 rfl rfl)
theorem dX0_bodyAt_4 : decode cX0_bodyAt 4 = .ok (.invokevirtual 26, 3) := dk_182 0 26 (dk_at dksX0_bodyAt_0 4 rfl rfl)
theorem dX0_bodyAt_7 : decode cX0_bodyAt 7 = .ok (.i2l, 1) := dk_133 (dk_at dksX0_bodyAt_0 7 rfl rfl)
theorem dX0_bodyAt_8 : decode cX0_bodyAt 8 = .ok (.lastore, 1) := dk_80 (dk_at dksX0_bodyAt_0 8 rfl rfl)
theorem dX0_bodyAt_9 : decode cX0_bodyAt 9 = .ok (.goto 9, 3) := dk_167 0 9 (dk_at dksX0_bodyAt_0 9 rfl rfl)
theorem dX0_bodyAt_12 : decode cX0_bodyAt 12 = .ok (.astore_n 3, 1) := dk_78 (dk_at dksX0_bodyAt_0 12 rfl rfl)
theorem dX0_bodyAt_13 : decode cX0_bodyAt 13 = .ok (.iconst 1, 1) := dk_4 (dk_at dksX0_bodyAt_0 13 rfl rfl)
theorem dX0_bodyAt_14 : decode cX0_bodyAt 14 = .ok (.ireturn, 1) := dk_172 (dk_at dksX0_bodyAt_0 14 rfl rfl)
theorem dX0_bodyAt_15 : decode cX0_bodyAt 15 = .ok (.astore_n 3, 1) := dk_78 (dk_at dksX0_bodyAt_0 15 rfl rfl)
theorem dX0_bodyAt_16 : decode cX0_bodyAt 16 = .ok (.iconst 2, 1) := dk_5 (dk_at dksX0_bodyAt_0 16 rfl rfl)
theorem dX0_bodyAt_17 : decode cX0_bodyAt 17 = .ok (.ireturn, 1) := dk_172 (dk_at dksX0_bodyAt_0 17 rfl rfl)
theorem dX0_bodyAt_18 : decode cX0_bodyAt 18 = .ok (.iconst 0, 1) := dk_3 (dk_at dksX0_bodyAt_0 18 rfl rfl)
theorem dX0_bodyAt_19 : decode cX0_bodyAt 19 = .ok (.ireturn, 1) := dk_172 (dk_at dksX0_bodyAt_0 19 rfl rfl)
abbrev cX0_box : ByteArray := method_7_code
def yX0_box : MethodName := ⟨RX0, "box", "(LMultipoleLine;III[J)I"⟩
def dkwX0_box_1 : List UInt8 := [58, 5, 6, 172, 3, 172]
abbrev dktX0_box_1 : List UInt8 := dkwX0_box_1 ++ []
def dkwX0_box_0 : List UInt8 := [25, 4, 3, 42, 27, 28, 29, 182, 0, 29, 133, 80, 167, 0, 15, 58, 5, 4, 172, 58, 5, 5, 172]
abbrev dktX0_box_0 : List UInt8 := dkwX0_box_0 ++ dktX0_box_1
theorem dksX0_box_0 : cX0_box.data.toList.drop 0 = dktX0_box_0 := by decide +kernel
theorem dksX0_box_1 : cX0_box.data.toList.drop 23 = dktX0_box_1 := dk_seg dksX0_box_0 23 rfl rfl
theorem dX0_box_0 : decode cX0_box 0 = .ok (.aload 4, 2) := dk_25 4 (dk_at dksX0_box_0 0 rfl rfl)
theorem dX0_box_2 : decode cX0_box 2 = .ok (.iconst 0, 1) := dk_3 (dk_at dksX0_box_0 2 rfl rfl)
theorem dX0_box_3 : decode cX0_box 3 = .ok (.aload_n 0, 1) := dk_42 (dk_at dksX0_box_0 3 rfl rfl)
theorem dX0_box_4 : decode cX0_box 4 = .ok (.iload_n 1, 1) := dk_27 (dk_at dksX0_box_0 4 rfl rfl)
theorem dX0_box_5 : decode cX0_box 5 = .ok (.iload_n 2, 1) := dk_28 (dk_at dksX0_box_0 5 rfl rfl)
theorem dX0_box_6 : decode cX0_box 6 = .ok (.iload_n 3, 1) := dk_29 (dk_at dksX0_box_0 6 rfl rfl)
theorem dX0_box_7 : decode cX0_box 7 = .ok (.invokevirtual 29, 3) := dk_182 0 29 (dk_at dksX0_box_0 7 rfl rfl)
theorem dX0_box_10 : decode cX0_box 10 = .ok (.i2l, 1) := dk_133 (dk_at dksX0_box_0 10 rfl rfl)
theorem dX0_box_11 : decode cX0_box 11 = .ok (.lastore, 1) := dk_80 (dk_at dksX0_box_0 11 rfl rfl)
theorem dX0_box_12 : decode cX0_box 12 = .ok (.goto 15, 3) := dk_167 0 15 (dk_at dksX0_box_0 12 rfl rfl)
theorem dX0_box_15 : decode cX0_box 15 = .ok (.astore 5, 2) := dk_58 5 (dk_at dksX0_box_0 15 rfl rfl)
theorem dX0_box_17 : decode cX0_box 17 = .ok (.iconst 1, 1) := dk_4 (dk_at dksX0_box_0 17 rfl rfl)
theorem dX0_box_18 : decode cX0_box 18 = .ok (.ireturn, 1) := dk_172 (dk_at dksX0_box_0 18 rfl rfl)
theorem dX0_box_19 : decode cX0_box 19 = .ok (.astore 5, 2) := dk_58 5 (dk_at dksX0_box_0 19 rfl rfl)
theorem dX0_box_21 : decode cX0_box 21 = .ok (.iconst 2, 1) := dk_5 (dk_at dksX0_box_0 21 rfl rfl)
theorem dX0_box_22 : decode cX0_box 22 = .ok (.ireturn, 1) := dk_172 (dk_at dksX0_box_0 22 rfl rfl)
theorem dX0_box_23 : decode cX0_box 23 = .ok (.astore 5, 2) := dk_58 5 (dk_at dksX0_box_1 0 rfl rfl)
theorem dX0_box_25 : decode cX0_box 25 = .ok (.iconst 3, 1) := dk_6 (dk_at dksX0_box_1 2 rfl rfl)
theorem dX0_box_26 : decode cX0_box 26 = .ok (.ireturn, 1) := dk_172 (dk_at dksX0_box_1 3 rfl rfl)
theorem dX0_box_27 : decode cX0_box 27 = .ok (.iconst 0, 1) := dk_3 (dk_at dksX0_box_1 4 rfl rfl)
theorem dX0_box_28 : decode cX0_box 28 = .ok (.ireturn, 1) := dk_172 (dk_at dksX0_box_1 5 rfl rfl)
abbrev cX0_boxAt : ByteArray := method_8_code
def yX0_boxAt : MethodName := ⟨RX0, "boxAt", "(LMultipoleLine;II[J)I"⟩
def dkwX0_boxAt_1 : List UInt8 := [172, 3, 172]
abbrev dktX0_boxAt_1 : List UInt8 := dkwX0_boxAt_1 ++ []
def dkwX0_boxAt_0 : List UInt8 := [45, 3, 42, 27, 28, 182, 0, 33, 133, 80, 167, 0, 15, 58, 4, 4, 172, 58, 4, 5, 172, 58, 4, 6]
abbrev dktX0_boxAt_0 : List UInt8 := dkwX0_boxAt_0 ++ dktX0_boxAt_1
theorem dksX0_boxAt_0 : cX0_boxAt.data.toList.drop 0 = dktX0_boxAt_0 := by decide +kernel
theorem dksX0_boxAt_1 : cX0_boxAt.data.toList.drop 24 = dktX0_boxAt_1 := dk_seg dksX0_boxAt_0 24 rfl rfl
theorem dX0_boxAt_0 : decode cX0_boxAt 0 = .ok (.aload_n 3, 1) := dk_45 (dk_at dksX0_boxAt_0 0 rfl rfl)
theorem dX0_boxAt_1 : decode cX0_boxAt 1 = .ok (.iconst 0, 1) := dk_3 (dk_at dksX0_boxAt_0 1 rfl rfl)
theorem dX0_boxAt_2 : decode cX0_boxAt 2 = .ok (.aload_n 0, 1) := dk_42 (dk_at dksX0_boxAt_0 2 rfl rfl)
theorem dX0_boxAt_3 : decode cX0_boxAt 3 = .ok (.iload_n 1, 1) := dk_27 (dk_at dksX0_boxAt_0 3 rfl rfl)
theorem dX0_boxAt_4 : decode cX0_boxAt 4 = .ok (.iload_n 2, 1) := dk_28 (dk_at dksX0_boxAt_0 4 rfl rfl)
theorem dX0_boxAt_5 : decode cX0_boxAt 5 = .ok (.invokevirtual 33, 3) := dk_182 0 33 (dk_at dksX0_boxAt_0 5 rfl rfl)
theorem dX0_boxAt_8 : decode cX0_boxAt 8 = .ok (.i2l, 1) := dk_133 (dk_at dksX0_boxAt_0 8 rfl rfl)
theorem dX0_boxAt_9 : decode cX0_boxAt 9 = .ok (.lastore, 1) := dk_80 (dk_at dksX0_boxAt_0 9 rfl rfl)
theorem dX0_boxAt_10 : decode cX0_boxAt 10 = .ok (.goto 15, 3) := dk_167 0 15 (dk_at dksX0_boxAt_0 10 rfl rfl)
theorem dX0_boxAt_13 : decode cX0_boxAt 13 = .ok (.astore 4, 2) := dk_58 4 (dk_at dksX0_boxAt_0 13 rfl rfl)
theorem dX0_boxAt_15 : decode cX0_boxAt 15 = .ok (.iconst 1, 1) := dk_4 (dk_at dksX0_boxAt_0 15 rfl rfl)
theorem dX0_boxAt_16 : decode cX0_boxAt 16 = .ok (.ireturn, 1) := dk_172 (dk_at dksX0_boxAt_0 16 rfl rfl)
theorem dX0_boxAt_17 : decode cX0_boxAt 17 = .ok (.astore 4, 2) := dk_58 4 (dk_at dksX0_boxAt_0 17 rfl rfl)
theorem dX0_boxAt_19 : decode cX0_boxAt 19 = .ok (.iconst 2, 1) := dk_5 (dk_at dksX0_boxAt_0 19 rfl rfl)
theorem dX0_boxAt_20 : decode cX0_boxAt 20 = .ok (.ireturn, 1) := dk_172 (dk_at dksX0_boxAt_0 20 rfl rfl)
theorem dX0_boxAt_21 : decode cX0_boxAt 21 = .ok (.astore 4, 2) := dk_58 4 (dk_at dksX0_boxAt_0 21 rfl rfl)
theorem dX0_boxAt_23 : decode cX0_boxAt 23 = .ok (.iconst 3, 1) := dk_6 (dk_at dksX0_boxAt_0 23 rfl rfl)
theorem dX0_boxAt_24 : decode cX0_boxAt 24 = .ok (.ireturn, 1) := dk_172 (dk_at dksX0_boxAt_1 0 rfl rfl)
theorem dX0_boxAt_25 : decode cX0_boxAt 25 = .ok (.iconst 0, 1) := dk_3 (dk_at dksX0_boxAt_1 1 rfl rfl)
theorem dX0_boxAt_26 : decode cX0_boxAt 26 = .ok (.ireturn, 1) := dk_172 (dk_at dksX0_boxAt_1 2 rfl rfl)
abbrev cX0_firstEmpty : ByteArray := method_9_code
def yX0_firstEmpty : MethodName := ⟨RX0, "firstEmpty", "(LMultipoleLine;[J)I"⟩
def dkwX0_firstEmpty_0 : List UInt8 := [43, 3, 42, 182, 0, 36, 133, 80, 167, 0, 6, 77, 4, 172, 3, 172]
abbrev dktX0_firstEmpty_0 : List UInt8 := dkwX0_firstEmpty_0 ++ []
theorem dksX0_firstEmpty_0 : cX0_firstEmpty.data.toList.drop 0 = dktX0_firstEmpty_0 := by decide +kernel
theorem dX0_firstEmpty_0 : decode cX0_firstEmpty 0 = .ok (.aload_n 1, 1) := dk_43 (dk_at dksX0_firstEmpty_0 0 rfl rfl)
theorem dX0_firstEmpty_1 : decode cX0_firstEmpty 1 = .ok (.iconst 0, 1) := dk_3 (dk_at dksX0_firstEmpty_0 1 rfl rfl)
theorem dX0_firstEmpty_2 : decode cX0_firstEmpty 2 = .ok (.aload_n 0, 1) := dk_42 (dk_at dksX0_firstEmpty_0 2 rfl rfl)
theorem dX0_firstEmpty_3 : decode cX0_firstEmpty 3 = .ok (.invokevirtual 36, 3) := dk_182 0 36 (dk_at dksX0_firstEmpty_0 3 rfl rfl)
theorem dX0_firstEmpty_6 : decode cX0_firstEmpty 6 = .ok (.i2l, 1) := dk_133 (dk_at dksX0_firstEmpty_0 6 rfl rfl)
theorem dX0_firstEmpty_7 : decode cX0_firstEmpty 7 = .ok (.lastore, 1) := dk_80 (dk_at dksX0_firstEmpty_0 7 rfl rfl)
theorem dX0_firstEmpty_8 : decode cX0_firstEmpty 8 = .ok (.goto 6, 3) := dk_167 0 6 (dk_at dksX0_firstEmpty_0 8 rfl rfl)
theorem dX0_firstEmpty_11 : decode cX0_firstEmpty 11 = .ok (.astore_n 2, 1) := dk_77 (dk_at dksX0_firstEmpty_0 11 rfl rfl)
theorem dX0_firstEmpty_12 : decode cX0_firstEmpty 12 = .ok (.iconst 1, 1) := dk_4 (dk_at dksX0_firstEmpty_0 12 rfl rfl)
theorem dX0_firstEmpty_13 : decode cX0_firstEmpty 13 = .ok (.ireturn, 1) := dk_172 (dk_at dksX0_firstEmpty_0 13 rfl rfl)
theorem dX0_firstEmpty_14 : decode cX0_firstEmpty 14 = .ok (.iconst 0, 1) := dk_3 (dk_at dksX0_firstEmpty_0 14 rfl rfl)
theorem dX0_firstEmpty_15 : decode cX0_firstEmpty 15 = .ok (.ireturn, 1) := dk_172 (dk_at dksX0_firstEmpty_0 15 rfl rfl)
abbrev cX0_densest : ByteArray := method_10_code
def yX0_densest : MethodName := ⟨RX0, "densest", "(LMultipoleLine;[J)I"⟩
def dkwX0_densest_0 : List UInt8 := [43, 3, 42, 182, 0, 40, 133, 80, 167, 0, 6, 77, 4, 172, 3, 172]
abbrev dktX0_densest_0 : List UInt8 := dkwX0_densest_0 ++ []
theorem dksX0_densest_0 : cX0_densest.data.toList.drop 0 = dktX0_densest_0 := by decide +kernel
theorem dX0_densest_0 : decode cX0_densest 0 = .ok (.aload_n 1, 1) := dk_43 (dk_at dksX0_densest_0 0 rfl rfl)
theorem dX0_densest_1 : decode cX0_densest 1 = .ok (.iconst 0, 1) := dk_3 (dk_at dksX0_densest_0 1 rfl rfl)
theorem dX0_densest_2 : decode cX0_densest 2 = .ok (.aload_n 0, 1) := dk_42 (dk_at dksX0_densest_0 2 rfl rfl)
theorem dX0_densest_3 : decode cX0_densest 3 = .ok (.invokevirtual 40, 3) := dk_182 0 40 (dk_at dksX0_densest_0 3 rfl rfl)
theorem dX0_densest_6 : decode cX0_densest 6 = .ok (.i2l, 1) := dk_133 (dk_at dksX0_densest_0 6 rfl rfl)
theorem dX0_densest_7 : decode cX0_densest 7 = .ok (.lastore, 1) := dk_80 (dk_at dksX0_densest_0 7 rfl rfl)
theorem dX0_densest_8 : decode cX0_densest 8 = .ok (.goto 6, 3) := dk_167 0 6 (dk_at dksX0_densest_0 8 rfl rfl)
theorem dX0_densest_11 : decode cX0_densest 11 = .ok (.astore_n 2, 1) := dk_77 (dk_at dksX0_densest_0 11 rfl rfl)
theorem dX0_densest_12 : decode cX0_densest 12 = .ok (.iconst 1, 1) := dk_4 (dk_at dksX0_densest_0 12 rfl rfl)
theorem dX0_densest_13 : decode cX0_densest 13 = .ok (.ireturn, 1) := dk_172 (dk_at dksX0_densest_0 13 rfl rfl)
theorem dX0_densest_14 : decode cX0_densest 14 = .ok (.iconst 0, 1) := dk_3 (dk_at dksX0_densest_0 14 rfl rfl)
theorem dX0_densest_15 : decode cX0_densest 15 = .ok (.ireturn, 1) := dk_172 (dk_at dksX0_densest_0 15 rfl rfl)
abbrev cX0_moment : ByteArray := method_11_code
def yX0_moment : MethodName := ⟨RX0, "moment", "(LMultipoleLine;III[J)I"⟩
def dkwX0_moment_1 : List UInt8 := [6, 172, 3, 172]
abbrev dktX0_moment_1 : List UInt8 := dkwX0_moment_1 ++ []
def dkwX0_moment_0 : List UInt8 := [25, 4, 3, 42, 27, 28, 29, 182, 0, 43, 80, 167, 0, 15, 58, 5, 4, 172, 58, 5, 5, 172, 58, 5]
abbrev dktX0_moment_0 : List UInt8 := dkwX0_moment_0 ++ dktX0_moment_1
theorem dksX0_moment_0 : cX0_moment.data.toList.drop 0 = dktX0_moment_0 := by decide +kernel
theorem dksX0_moment_1 : cX0_moment.data.toList.drop 24 = dktX0_moment_1 := dk_seg dksX0_moment_0 24 rfl rfl
theorem dX0_moment_0 : decode cX0_moment 0 = .ok (.aload 4, 2) := dk_25 4 (dk_at dksX0_moment_0 0 rfl rfl)
theorem dX0_moment_2 : decode cX0_moment 2 = .ok (.iconst 0, 1) := dk_3 (dk_at dksX0_moment_0 2 rfl rfl)
theorem dX0_moment_3 : decode cX0_moment 3 = .ok (.aload_n 0, 1) := dk_42 (dk_at dksX0_moment_0 3 rfl rfl)
theorem dX0_moment_4 : decode cX0_moment 4 = .ok (.iload_n 1, 1) := dk_27 (dk_at dksX0_moment_0 4 rfl rfl)
theorem dX0_moment_5 : decode cX0_moment 5 = .ok (.iload_n 2, 1) := dk_28 (dk_at dksX0_moment_0 5 rfl rfl)
theorem dX0_moment_6 : decode cX0_moment 6 = .ok (.iload_n 3, 1) := dk_29 (dk_at dksX0_moment_0 6 rfl rfl)
theorem dX0_moment_7 : decode cX0_moment 7 = .ok (.invokevirtual 43, 3) := dk_182 0 43 (dk_at dksX0_moment_0 7 rfl rfl)
theorem dX0_moment_10 : decode cX0_moment 10 = .ok (.lastore, 1) := dk_80 (dk_at dksX0_moment_0 10 rfl rfl)
theorem dX0_moment_11 : decode cX0_moment 11 = .ok (.goto 15, 3) := dk_167 0 15 (dk_at dksX0_moment_0 11 rfl rfl)
theorem dX0_moment_14 : decode cX0_moment 14 = .ok (.astore 5, 2) := dk_58 5 (dk_at dksX0_moment_0 14 rfl rfl)
theorem dX0_moment_16 : decode cX0_moment 16 = .ok (.iconst 1, 1) := dk_4 (dk_at dksX0_moment_0 16 rfl rfl)
theorem dX0_moment_17 : decode cX0_moment 17 = .ok (.ireturn, 1) := dk_172 (dk_at dksX0_moment_0 17 rfl rfl)
theorem dX0_moment_18 : decode cX0_moment 18 = .ok (.astore 5, 2) := dk_58 5 (dk_at dksX0_moment_0 18 rfl rfl)
theorem dX0_moment_20 : decode cX0_moment 20 = .ok (.iconst 2, 1) := dk_5 (dk_at dksX0_moment_0 20 rfl rfl)
theorem dX0_moment_21 : decode cX0_moment 21 = .ok (.ireturn, 1) := dk_172 (dk_at dksX0_moment_0 21 rfl rfl)
theorem dX0_moment_22 : decode cX0_moment 22 = .ok (.astore 5, 2) := dk_58 5 (dk_at dksX0_moment_0 22 rfl rfl)
theorem dX0_moment_24 : decode cX0_moment 24 = .ok (.iconst 3, 1) := dk_6 (dk_at dksX0_moment_1 0 rfl rfl)
theorem dX0_moment_25 : decode cX0_moment 25 = .ok (.ireturn, 1) := dk_172 (dk_at dksX0_moment_1 1 rfl rfl)
theorem dX0_moment_26 : decode cX0_moment 26 = .ok (.iconst 0, 1) := dk_3 (dk_at dksX0_moment_1 2 rfl rfl)
theorem dX0_moment_27 : decode cX0_moment 27 = .ok (.ireturn, 1) := dk_172 (dk_at dksX0_moment_1 3 rfl rfl)
abbrev cX0_shifted : ByteArray := method_12_code
def yX0_shifted : MethodName := ⟨RX0, "shifted", "(LMultipoleLine;III[J)I"⟩
def dkwX0_shifted_1 : List UInt8 := [6, 172, 3, 172]
abbrev dktX0_shifted_1 : List UInt8 := dkwX0_shifted_1 ++ []
def dkwX0_shifted_0 : List UInt8 := [25, 4, 3, 42, 27, 28, 29, 182, 0, 47, 80, 167, 0, 15, 58, 5, 4, 172, 58, 5, 5, 172, 58, 5]
abbrev dktX0_shifted_0 : List UInt8 := dkwX0_shifted_0 ++ dktX0_shifted_1
theorem dksX0_shifted_0 : cX0_shifted.data.toList.drop 0 = dktX0_shifted_0 := by decide +kernel
theorem dksX0_shifted_1 : cX0_shifted.data.toList.drop 24 = dktX0_shifted_1 := dk_seg dksX0_shifted_0 24 rfl rfl
theorem dX0_shifted_0 : decode cX0_shifted 0 = .ok (.aload 4, 2) := dk_25 4 (dk_at dksX0_shifted_0 0 rfl rfl)
theorem dX0_shifted_2 : decode cX0_shifted 2 = .ok (.iconst 0, 1) := dk_3 (dk_at dksX0_shifted_0 2 rfl rfl)
theorem dX0_shifted_3 : decode cX0_shifted 3 = .ok (.aload_n 0, 1) := dk_42 (dk_at dksX0_shifted_0 3 rfl rfl)
theorem dX0_shifted_4 : decode cX0_shifted 4 = .ok (.iload_n 1, 1) := dk_27 (dk_at dksX0_shifted_0 4 rfl rfl)
theorem dX0_shifted_5 : decode cX0_shifted 5 = .ok (.iload_n 2, 1) := dk_28 (dk_at dksX0_shifted_0 5 rfl rfl)
theorem dX0_shifted_6 : decode cX0_shifted 6 = .ok (.iload_n 3, 1) := dk_29 (dk_at dksX0_shifted_0 6 rfl rfl)
theorem dX0_shifted_7 : decode cX0_shifted 7 = .ok (.invokevirtual 47, 3) := dk_182 0 47 (dk_at dksX0_shifted_0 7 rfl rfl)
theorem dX0_shifted_10 : decode cX0_shifted 10 = .ok (.lastore, 1) := dk_80 (dk_at dksX0_shifted_0 10 rfl rfl)
theorem dX0_shifted_11 : decode cX0_shifted 11 = .ok (.goto 15, 3) := dk_167 0 15 (dk_at dksX0_shifted_0 11 rfl rfl)
theorem dX0_shifted_14 : decode cX0_shifted 14 = .ok (.astore 5, 2) := dk_58 5 (dk_at dksX0_shifted_0 14 rfl rfl)
theorem dX0_shifted_16 : decode cX0_shifted 16 = .ok (.iconst 1, 1) := dk_4 (dk_at dksX0_shifted_0 16 rfl rfl)
theorem dX0_shifted_17 : decode cX0_shifted 17 = .ok (.ireturn, 1) := dk_172 (dk_at dksX0_shifted_0 17 rfl rfl)
theorem dX0_shifted_18 : decode cX0_shifted 18 = .ok (.astore 5, 2) := dk_58 5 (dk_at dksX0_shifted_0 18 rfl rfl)
theorem dX0_shifted_20 : decode cX0_shifted 20 = .ok (.iconst 2, 1) := dk_5 (dk_at dksX0_shifted_0 20 rfl rfl)
theorem dX0_shifted_21 : decode cX0_shifted 21 = .ok (.ireturn, 1) := dk_172 (dk_at dksX0_shifted_0 21 rfl rfl)
theorem dX0_shifted_22 : decode cX0_shifted 22 = .ok (.astore 5, 2) := dk_58 5 (dk_at dksX0_shifted_0 22 rfl rfl)
theorem dX0_shifted_24 : decode cX0_shifted 24 = .ok (.iconst 3, 1) := dk_6 (dk_at dksX0_shifted_1 0 rfl rfl)
theorem dX0_shifted_25 : decode cX0_shifted 25 = .ok (.ireturn, 1) := dk_172 (dk_at dksX0_shifted_1 1 rfl rfl)
theorem dX0_shifted_26 : decode cX0_shifted 26 = .ok (.iconst 0, 1) := dk_3 (dk_at dksX0_shifted_1 2 rfl rfl)
theorem dX0_shifted_27 : decode cX0_shifted 27 = .ok (.ireturn, 1) := dk_172 (dk_at dksX0_shifted_1 3 rfl rfl)
abbrev cX0_momentGap : ByteArray := method_13_code
def yX0_momentGap : MethodName := ⟨RX0, "momentGap", "(LMultipoleLine;[J)I"⟩
def dkwX0_momentGap_0 : List UInt8 := [43, 3, 42, 182, 0, 50, 80, 167, 0, 6, 77, 4, 172, 3, 172]
abbrev dktX0_momentGap_0 : List UInt8 := dkwX0_momentGap_0 ++ []
theorem dksX0_momentGap_0 : cX0_momentGap.data.toList.drop 0 = dktX0_momentGap_0 := by decide +kernel
theorem dX0_momentGap_0 : decode cX0_momentGap 0 = .ok (.aload_n 1, 1) := dk_43 (dk_at dksX0_momentGap_0 0 rfl rfl)
theorem dX0_momentGap_1 : decode cX0_momentGap 1 = .ok (.iconst 0, 1) := dk_3 (dk_at dksX0_momentGap_0 1 rfl rfl)
theorem dX0_momentGap_2 : decode cX0_momentGap 2 = .ok (.aload_n 0, 1) := dk_42 (dk_at dksX0_momentGap_0 2 rfl rfl)
theorem dX0_momentGap_3 : decode cX0_momentGap 3 = .ok (.invokevirtual 50, 3) := dk_182 0 50 (dk_at dksX0_momentGap_0 3 rfl rfl)
theorem dX0_momentGap_6 : decode cX0_momentGap 6 = .ok (.lastore, 1) := dk_80 (dk_at dksX0_momentGap_0 6 rfl rfl)
theorem dX0_momentGap_7 : decode cX0_momentGap 7 = .ok (.goto 6, 3) := dk_167 0 6 (dk_at dksX0_momentGap_0 7 rfl rfl)
theorem dX0_momentGap_10 : decode cX0_momentGap 10 = .ok (.astore_n 2, 1) := dk_77 (dk_at dksX0_momentGap_0 10 rfl rfl)
theorem dX0_momentGap_11 : decode cX0_momentGap 11 = .ok (.iconst 1, 1) := dk_4 (dk_at dksX0_momentGap_0 11 rfl rfl)
theorem dX0_momentGap_12 : decode cX0_momentGap 12 = .ok (.ireturn, 1) := dk_172 (dk_at dksX0_momentGap_0 12 rfl rfl)
theorem dX0_momentGap_13 : decode cX0_momentGap 13 = .ok (.iconst 0, 1) := dk_3 (dk_at dksX0_momentGap_0 13 rfl rfl)
theorem dX0_momentGap_14 : decode cX0_momentGap 14 = .ok (.ireturn, 1) := dk_172 (dk_at dksX0_momentGap_0 14 rfl rfl)
abbrev cX0_nearMany : ByteArray := method_14_code
def yX0_nearMany : MethodName := ⟨RX0, "nearMany", "(LMultipoleLine;I[J)I"⟩
def dkwX0_nearMany_0 : List UInt8 := [44, 3, 42, 27, 182, 0, 54, 133, 80, 167, 0, 9, 78, 4, 172, 78, 5, 172, 3, 172]
abbrev dktX0_nearMany_0 : List UInt8 := dkwX0_nearMany_0 ++ []
theorem dksX0_nearMany_0 : cX0_nearMany.data.toList.drop 0 = dktX0_nearMany_0 := by decide +kernel
theorem dX0_nearMany_0 : decode cX0_nearMany 0 = .ok (.aload_n 2, 1) := dk_44 (dk_at dksX0_nearMany_0 0 rfl rfl)
theorem dX0_nearMany_1 : decode cX0_nearMany 1 = .ok (.iconst 0, 1) := dk_3 (dk_at dksX0_nearMany_0 1 rfl rfl)
theorem dX0_nearMany_2 : decode cX0_nearMany 2 = .ok (.aload_n 0, 1) := dk_42 (dk_at dksX0_nearMany_0 2 rfl rfl)
theorem dX0_nearMany_3 : decode cX0_nearMany 3 = .ok (.iload_n 1, 1) := dk_27 (dk_at dksX0_nearMany_0 3 rfl rfl)
theorem dX0_nearMany_4 : decode cX0_nearMany 4 = .ok (.invokevirtual 54, 3) := dk_182 0 54 (dk_at dksX0_nearMany_0 4 rfl rfl)
theorem dX0_nearMany_7 : decode cX0_nearMany 7 = .ok (.i2l, 1) := dk_133 (dk_at dksX0_nearMany_0 7 rfl rfl)
theorem dX0_nearMany_8 : decode cX0_nearMany 8 = .ok (.lastore, 1) := dk_80 (dk_at dksX0_nearMany_0 8 rfl rfl)
theorem dX0_nearMany_9 : decode cX0_nearMany 9 = .ok (.goto 9, 3) := dk_167 0 9 (dk_at dksX0_nearMany_0 9 rfl rfl)
theorem dX0_nearMany_12 : decode cX0_nearMany 12 = .ok (.astore_n 3, 1) := dk_78 (dk_at dksX0_nearMany_0 12 rfl rfl)
theorem dX0_nearMany_13 : decode cX0_nearMany 13 = .ok (.iconst 1, 1) := dk_4 (dk_at dksX0_nearMany_0 13 rfl rfl)
theorem dX0_nearMany_14 : decode cX0_nearMany 14 = .ok (.ireturn, 1) := dk_172 (dk_at dksX0_nearMany_0 14 rfl rfl)
theorem dX0_nearMany_15 : decode cX0_nearMany 15 = .ok (.astore_n 3, 1) := dk_78 (dk_at dksX0_nearMany_0 15 rfl rfl)
theorem dX0_nearMany_16 : decode cX0_nearMany 16 = .ok (.iconst 2, 1) := dk_5 (dk_at dksX0_nearMany_0 16 rfl rfl)
theorem dX0_nearMany_17 : decode cX0_nearMany 17 = .ok (.ireturn, 1) := dk_172 (dk_at dksX0_nearMany_0 17 rfl rfl)
theorem dX0_nearMany_18 : decode cX0_nearMany 18 = .ok (.iconst 0, 1) := dk_3 (dk_at dksX0_nearMany_0 18 rfl rfl)
theorem dX0_nearMany_19 : decode cX0_nearMany 19 = .ok (.ireturn, 1) := dk_172 (dk_at dksX0_nearMany_0 19 rfl rfl)
abbrev cX0_nearBody : ByteArray := method_15_code
def yX0_nearBody : MethodName := ⟨RX0, "nearBody", "(LMultipoleLine;II[J)I"⟩
def dkwX0_nearBody_0 : List UInt8 := [45, 3, 42, 27, 28, 182, 0, 57, 133, 80, 167, 0, 11, 58, 4, 4, 172, 58, 4, 5, 172, 3, 172]
abbrev dktX0_nearBody_0 : List UInt8 := dkwX0_nearBody_0 ++ []
theorem dksX0_nearBody_0 : cX0_nearBody.data.toList.drop 0 = dktX0_nearBody_0 := by decide +kernel
theorem dX0_nearBody_0 : decode cX0_nearBody 0 = .ok (.aload_n 3, 1) := dk_45 (dk_at dksX0_nearBody_0 0 rfl rfl)
theorem dX0_nearBody_1 : decode cX0_nearBody 1 = .ok (.iconst 0, 1) := dk_3 (dk_at dksX0_nearBody_0 1 rfl rfl)
theorem dX0_nearBody_2 : decode cX0_nearBody 2 = .ok (.aload_n 0, 1) := dk_42 (dk_at dksX0_nearBody_0 2 rfl rfl)
theorem dX0_nearBody_3 : decode cX0_nearBody 3 = .ok (.iload_n 1, 1) := dk_27 (dk_at dksX0_nearBody_0 3 rfl rfl)
theorem dX0_nearBody_4 : decode cX0_nearBody 4 = .ok (.iload_n 2, 1) := dk_28 (dk_at dksX0_nearBody_0 4 rfl rfl)
theorem dX0_nearBody_5 : decode cX0_nearBody 5 = .ok (.invokevirtual 57, 3) := dk_182 0 57 (dk_at dksX0_nearBody_0 5 rfl rfl)
theorem dX0_nearBody_8 : decode cX0_nearBody 8 = .ok (.i2l, 1) := dk_133 (dk_at dksX0_nearBody_0 8 rfl rfl)
theorem dX0_nearBody_9 : decode cX0_nearBody 9 = .ok (.lastore, 1) := dk_80 (dk_at dksX0_nearBody_0 9 rfl rfl)
theorem dX0_nearBody_10 : decode cX0_nearBody 10 = .ok (.goto 11, 3) := dk_167 0 11 (dk_at dksX0_nearBody_0 10 rfl rfl)
theorem dX0_nearBody_13 : decode cX0_nearBody 13 = .ok (.astore 4, 2) := dk_58 4 (dk_at dksX0_nearBody_0 13 rfl rfl)
theorem dX0_nearBody_15 : decode cX0_nearBody 15 = .ok (.iconst 1, 1) := dk_4 (dk_at dksX0_nearBody_0 15 rfl rfl)
theorem dX0_nearBody_16 : decode cX0_nearBody 16 = .ok (.ireturn, 1) := dk_172 (dk_at dksX0_nearBody_0 16 rfl rfl)
theorem dX0_nearBody_17 : decode cX0_nearBody 17 = .ok (.astore 4, 2) := dk_58 4 (dk_at dksX0_nearBody_0 17 rfl rfl)
theorem dX0_nearBody_19 : decode cX0_nearBody 19 = .ok (.iconst 2, 1) := dk_5 (dk_at dksX0_nearBody_0 19 rfl rfl)
theorem dX0_nearBody_20 : decode cX0_nearBody 20 = .ok (.ireturn, 1) := dk_172 (dk_at dksX0_nearBody_0 20 rfl rfl)
theorem dX0_nearBody_21 : decode cX0_nearBody 21 = .ok (.iconst 0, 1) := dk_3 (dk_at dksX0_nearBody_0 21 rfl rfl)
theorem dX0_nearBody_22 : decode cX0_nearBody 22 = .ok (.ireturn, 1) := dk_172 (dk_at dksX0_nearBody_0 22 rfl rfl)
abbrev cX0_farMany : ByteArray := method_16_code
def yX0_farMany : MethodName := ⟨RX0, "farMany", "(LMultipoleLine;I[J)I"⟩
def dkwX0_farMany_0 : List UInt8 := [44, 3, 42, 27, 182, 0, 60, 133, 80, 167, 0, 9, 78, 4, 172, 78, 5, 172, 3, 172]
abbrev dktX0_farMany_0 : List UInt8 := dkwX0_farMany_0 ++ []
theorem dksX0_farMany_0 : cX0_farMany.data.toList.drop 0 = dktX0_farMany_0 := by decide +kernel
theorem dX0_farMany_0 : decode cX0_farMany 0 = .ok (.aload_n 2, 1) := dk_44 (dk_at dksX0_farMany_0 0 rfl rfl)
theorem dX0_farMany_1 : decode cX0_farMany 1 = .ok (.iconst 0, 1) := dk_3 (dk_at dksX0_farMany_0 1 rfl rfl)
theorem dX0_farMany_2 : decode cX0_farMany 2 = .ok (.aload_n 0, 1) := dk_42 (dk_at dksX0_farMany_0 2 rfl rfl)
theorem dX0_farMany_3 : decode cX0_farMany 3 = .ok (.iload_n 1, 1) := dk_27 (dk_at dksX0_farMany_0 3 rfl rfl)
theorem dX0_farMany_4 : decode cX0_farMany 4 = .ok (.invokevirtual 60, 3) := dk_182 0 60 (dk_at dksX0_farMany_0 4 rfl rfl)
theorem dX0_farMany_7 : decode cX0_farMany 7 = .ok (.i2l, 1) := dk_133 (dk_at dksX0_farMany_0 7 rfl rfl)
theorem dX0_farMany_8 : decode cX0_farMany 8 = .ok (.lastore, 1) := dk_80 (dk_at dksX0_farMany_0 8 rfl rfl)
theorem dX0_farMany_9 : decode cX0_farMany 9 = .ok (.goto 9, 3) := dk_167 0 9 (dk_at dksX0_farMany_0 9 rfl rfl)
theorem dX0_farMany_12 : decode cX0_farMany 12 = .ok (.astore_n 3, 1) := dk_78 (dk_at dksX0_farMany_0 12 rfl rfl)
theorem dX0_farMany_13 : decode cX0_farMany 13 = .ok (.iconst 1, 1) := dk_4 (dk_at dksX0_farMany_0 13 rfl rfl)
theorem dX0_farMany_14 : decode cX0_farMany 14 = .ok (.ireturn, 1) := dk_172 (dk_at dksX0_farMany_0 14 rfl rfl)
theorem dX0_farMany_15 : decode cX0_farMany 15 = .ok (.astore_n 3, 1) := dk_78 (dk_at dksX0_farMany_0 15 rfl rfl)
theorem dX0_farMany_16 : decode cX0_farMany 16 = .ok (.iconst 2, 1) := dk_5 (dk_at dksX0_farMany_0 16 rfl rfl)
theorem dX0_farMany_17 : decode cX0_farMany 17 = .ok (.ireturn, 1) := dk_172 (dk_at dksX0_farMany_0 17 rfl rfl)
theorem dX0_farMany_18 : decode cX0_farMany 18 = .ok (.iconst 0, 1) := dk_3 (dk_at dksX0_farMany_0 18 rfl rfl)
theorem dX0_farMany_19 : decode cX0_farMany 19 = .ok (.ireturn, 1) := dk_172 (dk_at dksX0_farMany_0 19 rfl rfl)
abbrev cX0_farBox : ByteArray := method_17_code
def yX0_farBox : MethodName := ⟨RX0, "farBox", "(LMultipoleLine;II[J)I"⟩
def dkwX0_farBox_0 : List UInt8 := [45, 3, 42, 27, 28, 182, 0, 63, 133, 80, 167, 0, 11, 58, 4, 4, 172, 58, 4, 5, 172, 3, 172]
abbrev dktX0_farBox_0 : List UInt8 := dkwX0_farBox_0 ++ []
theorem dksX0_farBox_0 : cX0_farBox.data.toList.drop 0 = dktX0_farBox_0 := by decide +kernel
theorem dX0_farBox_0 : decode cX0_farBox 0 = .ok (.aload_n 3, 1) := dk_45 (dk_at dksX0_farBox_0 0 rfl rfl)
theorem dX0_farBox_1 : decode cX0_farBox 1 = .ok (.iconst 0, 1) := dk_3 (dk_at dksX0_farBox_0 1 rfl rfl)
theorem dX0_farBox_2 : decode cX0_farBox 2 = .ok (.aload_n 0, 1) := dk_42 (dk_at dksX0_farBox_0 2 rfl rfl)
theorem dX0_farBox_3 : decode cX0_farBox 3 = .ok (.iload_n 1, 1) := dk_27 (dk_at dksX0_farBox_0 3 rfl rfl)
theorem dX0_farBox_4 : decode cX0_farBox 4 = .ok (.iload_n 2, 1) := dk_28 (dk_at dksX0_farBox_0 4 rfl rfl)
theorem dX0_farBox_5 : decode cX0_farBox 5 = .ok (.invokevirtual 63, 3) := dk_182 0 63 (dk_at dksX0_farBox_0 5 rfl rfl)
theorem dX0_farBox_8 : decode cX0_farBox 8 = .ok (.i2l, 1) := dk_133 (dk_at dksX0_farBox_0 8 rfl rfl)
theorem dX0_farBox_9 : decode cX0_farBox 9 = .ok (.lastore, 1) := dk_80 (dk_at dksX0_farBox_0 9 rfl rfl)
theorem dX0_farBox_10 : decode cX0_farBox 10 = .ok (.goto 11, 3) := dk_167 0 11 (dk_at dksX0_farBox_0 10 rfl rfl)
theorem dX0_farBox_13 : decode cX0_farBox 13 = .ok (.astore 4, 2) := dk_58 4 (dk_at dksX0_farBox_0 13 rfl rfl)
theorem dX0_farBox_15 : decode cX0_farBox 15 = .ok (.iconst 1, 1) := dk_4 (dk_at dksX0_farBox_0 15 rfl rfl)
theorem dX0_farBox_16 : decode cX0_farBox 16 = .ok (.ireturn, 1) := dk_172 (dk_at dksX0_farBox_0 16 rfl rfl)
theorem dX0_farBox_17 : decode cX0_farBox 17 = .ok (.astore 4, 2) := dk_58 4 (dk_at dksX0_farBox_0 17 rfl rfl)
theorem dX0_farBox_19 : decode cX0_farBox 19 = .ok (.iconst 2, 1) := dk_5 (dk_at dksX0_farBox_0 19 rfl rfl)
theorem dX0_farBox_20 : decode cX0_farBox 20 = .ok (.ireturn, 1) := dk_172 (dk_at dksX0_farBox_0 20 rfl rfl)
theorem dX0_farBox_21 : decode cX0_farBox 21 = .ok (.iconst 0, 1) := dk_3 (dk_at dksX0_farBox_0 21 rfl rfl)
theorem dX0_farBox_22 : decode cX0_farBox 22 = .ok (.ireturn, 1) := dk_172 (dk_at dksX0_farBox_0 22 rfl rfl)
abbrev cX0_farBodies : ByteArray := method_18_code
def yX0_farBodies : MethodName := ⟨RX0, "farBodies", "(LMultipoleLine;I[J)I"⟩
def dkwX0_farBodies_0 : List UInt8 := [44, 3, 42, 27, 182, 0, 66, 133, 80, 167, 0, 9, 78, 4, 172, 78, 5, 172, 3, 172]
abbrev dktX0_farBodies_0 : List UInt8 := dkwX0_farBodies_0 ++ []
theorem dksX0_farBodies_0 : cX0_farBodies.data.toList.drop 0 = dktX0_farBodies_0 := by decide +kernel
theorem dX0_farBodies_0 : decode cX0_farBodies 0 = .ok (.aload_n 2, 1) := dk_44 (dk_at dksX0_farBodies_0 0 rfl rfl)
theorem dX0_farBodies_1 : decode cX0_farBodies 1 = .ok (.iconst 0, 1) := dk_3 (dk_at dksX0_farBodies_0 1 rfl rfl)
theorem dX0_farBodies_2 : decode cX0_farBodies 2 = .ok (.aload_n 0, 1) := dk_42 (dk_at dksX0_farBodies_0 2 rfl rfl)
theorem dX0_farBodies_3 : decode cX0_farBodies 3 = .ok (.iload_n 1, 1) := dk_27 (dk_at dksX0_farBodies_0 3 rfl rfl)
theorem dX0_farBodies_4 : decode cX0_farBodies 4 = .ok (.invokevirtual 66, 3) := dk_182 0 66 (dk_at dksX0_farBodies_0 4 rfl rfl)
theorem dX0_farBodies_7 : decode cX0_farBodies 7 = .ok (.i2l, 1) := dk_133 (dk_at dksX0_farBodies_0 7 rfl rfl)
theorem dX0_farBodies_8 : decode cX0_farBodies 8 = .ok (.lastore, 1) := dk_80 (dk_at dksX0_farBodies_0 8 rfl rfl)
theorem dX0_farBodies_9 : decode cX0_farBodies 9 = .ok (.goto 9, 3) := dk_167 0 9 (dk_at dksX0_farBodies_0 9 rfl rfl)
theorem dX0_farBodies_12 : decode cX0_farBodies 12 = .ok (.astore_n 3, 1) := dk_78 (dk_at dksX0_farBodies_0 12 rfl rfl)
theorem dX0_farBodies_13 : decode cX0_farBodies 13 = .ok (.iconst 1, 1) := dk_4 (dk_at dksX0_farBodies_0 13 rfl rfl)
theorem dX0_farBodies_14 : decode cX0_farBodies 14 = .ok (.ireturn, 1) := dk_172 (dk_at dksX0_farBodies_0 14 rfl rfl)
theorem dX0_farBodies_15 : decode cX0_farBodies 15 = .ok (.astore_n 3, 1) := dk_78 (dk_at dksX0_farBodies_0 15 rfl rfl)
theorem dX0_farBodies_16 : decode cX0_farBodies 16 = .ok (.iconst 2, 1) := dk_5 (dk_at dksX0_farBodies_0 16 rfl rfl)
theorem dX0_farBodies_17 : decode cX0_farBodies 17 = .ok (.ireturn, 1) := dk_172 (dk_at dksX0_farBodies_0 17 rfl rfl)
theorem dX0_farBodies_18 : decode cX0_farBodies 18 = .ok (.iconst 0, 1) := dk_3 (dk_at dksX0_farBodies_0 18 rfl rfl)
theorem dX0_farBodies_19 : decode cX0_farBodies 19 = .ok (.ireturn, 1) := dk_172 (dk_at dksX0_farBodies_0 19 rfl rfl)
abbrev cX0_cost : ByteArray := method_19_code
def yX0_cost : MethodName := ⟨RX0, "cost", "(LMultipoleLine;IZ[J)I"⟩
def dkwX0_cost_0 : List UInt8 := [45, 3, 42, 27, 28, 182, 0, 69, 133, 80, 167, 0, 11, 58, 4, 4, 172, 58, 4, 5, 172, 3, 172]
abbrev dktX0_cost_0 : List UInt8 := dkwX0_cost_0 ++ []
theorem dksX0_cost_0 : cX0_cost.data.toList.drop 0 = dktX0_cost_0 := by decide +kernel
theorem dX0_cost_0 : decode cX0_cost 0 = .ok (.aload_n 3, 1) := dk_45 (dk_at dksX0_cost_0 0 rfl rfl)
theorem dX0_cost_1 : decode cX0_cost 1 = .ok (.iconst 0, 1) := dk_3 (dk_at dksX0_cost_0 1 rfl rfl)
theorem dX0_cost_2 : decode cX0_cost 2 = .ok (.aload_n 0, 1) := dk_42 (dk_at dksX0_cost_0 2 rfl rfl)
theorem dX0_cost_3 : decode cX0_cost 3 = .ok (.iload_n 1, 1) := dk_27 (dk_at dksX0_cost_0 3 rfl rfl)
theorem dX0_cost_4 : decode cX0_cost 4 = .ok (.iload_n 2, 1) := dk_28 (dk_at dksX0_cost_0 4 rfl rfl)
theorem dX0_cost_5 : decode cX0_cost 5 = .ok (.invokevirtual 69, 3) := dk_182 0 69 (dk_at dksX0_cost_0 5 rfl rfl)
theorem dX0_cost_8 : decode cX0_cost 8 = .ok (.i2l, 1) := dk_133 (dk_at dksX0_cost_0 8 rfl rfl)
theorem dX0_cost_9 : decode cX0_cost 9 = .ok (.lastore, 1) := dk_80 (dk_at dksX0_cost_0 9 rfl rfl)
theorem dX0_cost_10 : decode cX0_cost 10 = .ok (.goto 11, 3) := dk_167 0 11 (dk_at dksX0_cost_0 10 rfl rfl)
theorem dX0_cost_13 : decode cX0_cost 13 = .ok (.astore 4, 2) := dk_58 4 (dk_at dksX0_cost_0 13 rfl rfl)
theorem dX0_cost_15 : decode cX0_cost 15 = .ok (.iconst 1, 1) := dk_4 (dk_at dksX0_cost_0 15 rfl rfl)
theorem dX0_cost_16 : decode cX0_cost 16 = .ok (.ireturn, 1) := dk_172 (dk_at dksX0_cost_0 16 rfl rfl)
theorem dX0_cost_17 : decode cX0_cost 17 = .ok (.astore 4, 2) := dk_58 4 (dk_at dksX0_cost_0 17 rfl rfl)
theorem dX0_cost_19 : decode cX0_cost 19 = .ok (.iconst 2, 1) := dk_5 (dk_at dksX0_cost_0 19 rfl rfl)
theorem dX0_cost_20 : decode cX0_cost 20 = .ok (.ireturn, 1) := dk_172 (dk_at dksX0_cost_0 20 rfl rfl)
theorem dX0_cost_21 : decode cX0_cost 21 = .ok (.iconst 0, 1) := dk_3 (dk_at dksX0_cost_0 21 rfl rfl)
theorem dX0_cost_22 : decode cX0_cost 22 = .ok (.ireturn, 1) := dk_172 (dk_at dksX0_cost_0 22 rfl rfl)
abbrev cX0_plain : ByteArray := method_20_code
def yX0_plain : MethodName := ⟨RX0, "plain", "(LMultipoleLine;I[D)I"⟩
def dkwX0_plain_0 : List UInt8 := [44, 3, 42, 27, 182, 0, 73, 82, 167, 0, 9, 78, 4, 172, 78, 5, 172, 3, 172]
abbrev dktX0_plain_0 : List UInt8 := dkwX0_plain_0 ++ []
theorem dksX0_plain_0 : cX0_plain.data.toList.drop 0 = dktX0_plain_0 := by decide +kernel
theorem dX0_plain_0 : decode cX0_plain 0 = .ok (.aload_n 2, 1) := dk_44 (dk_at dksX0_plain_0 0 rfl rfl)
theorem dX0_plain_1 : decode cX0_plain 1 = .ok (.iconst 0, 1) := dk_3 (dk_at dksX0_plain_0 1 rfl rfl)
theorem dX0_plain_2 : decode cX0_plain 2 = .ok (.aload_n 0, 1) := dk_42 (dk_at dksX0_plain_0 2 rfl rfl)
theorem dX0_plain_3 : decode cX0_plain 3 = .ok (.iload_n 1, 1) := dk_27 (dk_at dksX0_plain_0 3 rfl rfl)
theorem dX0_plain_4 : decode cX0_plain 4 = .ok (.invokevirtual 73, 3) := dk_182 0 73 (dk_at dksX0_plain_0 4 rfl rfl)
theorem dX0_plain_7 : decode cX0_plain 7 = .ok (.dastore, 1) := dk_82 (dk_at dksX0_plain_0 7 rfl rfl)
theorem dX0_plain_8 : decode cX0_plain 8 = .ok (.goto 9, 3) := dk_167 0 9 (dk_at dksX0_plain_0 8 rfl rfl)
theorem dX0_plain_11 : decode cX0_plain 11 = .ok (.astore_n 3, 1) := dk_78 (dk_at dksX0_plain_0 11 rfl rfl)
theorem dX0_plain_12 : decode cX0_plain 12 = .ok (.iconst 1, 1) := dk_4 (dk_at dksX0_plain_0 12 rfl rfl)
theorem dX0_plain_13 : decode cX0_plain 13 = .ok (.ireturn, 1) := dk_172 (dk_at dksX0_plain_0 13 rfl rfl)
theorem dX0_plain_14 : decode cX0_plain 14 = .ok (.astore_n 3, 1) := dk_78 (dk_at dksX0_plain_0 14 rfl rfl)
theorem dX0_plain_15 : decode cX0_plain 15 = .ok (.iconst 2, 1) := dk_5 (dk_at dksX0_plain_0 15 rfl rfl)
theorem dX0_plain_16 : decode cX0_plain 16 = .ok (.ireturn, 1) := dk_172 (dk_at dksX0_plain_0 16 rfl rfl)
theorem dX0_plain_17 : decode cX0_plain 17 = .ok (.iconst 0, 1) := dk_3 (dk_at dksX0_plain_0 17 rfl rfl)
theorem dX0_plain_18 : decode cX0_plain 18 = .ok (.ireturn, 1) := dk_172 (dk_at dksX0_plain_0 18 rfl rfl)
abbrev cX0_nearSum : ByteArray := method_21_code
def yX0_nearSum : MethodName := ⟨RX0, "nearSum", "(LMultipoleLine;I[D)I"⟩
def dkwX0_nearSum_0 : List UInt8 := [44, 3, 42, 27, 182, 0, 77, 82, 167, 0, 9, 78, 4, 172, 78, 5, 172, 3, 172]
abbrev dktX0_nearSum_0 : List UInt8 := dkwX0_nearSum_0 ++ []
theorem dksX0_nearSum_0 : cX0_nearSum.data.toList.drop 0 = dktX0_nearSum_0 := by decide +kernel
theorem dX0_nearSum_0 : decode cX0_nearSum 0 = .ok (.aload_n 2, 1) := dk_44 (dk_at dksX0_nearSum_0 0 rfl rfl)
theorem dX0_nearSum_1 : decode cX0_nearSum 1 = .ok (.iconst 0, 1) := dk_3 (dk_at dksX0_nearSum_0 1 rfl rfl)
theorem dX0_nearSum_2 : decode cX0_nearSum 2 = .ok (.aload_n 0, 1) := dk_42 (dk_at dksX0_nearSum_0 2 rfl rfl)
theorem dX0_nearSum_3 : decode cX0_nearSum 3 = .ok (.iload_n 1, 1) := dk_27 (dk_at dksX0_nearSum_0 3 rfl rfl)
theorem dX0_nearSum_4 : decode cX0_nearSum 4 = .ok (.invokevirtual 77, 3) := dk_182 0 77 (dk_at dksX0_nearSum_0 4 rfl rfl)
theorem dX0_nearSum_7 : decode cX0_nearSum 7 = .ok (.dastore, 1) := dk_82 (dk_at dksX0_nearSum_0 7 rfl rfl)
theorem dX0_nearSum_8 : decode cX0_nearSum 8 = .ok (.goto 9, 3) := dk_167 0 9 (dk_at dksX0_nearSum_0 8 rfl rfl)
theorem dX0_nearSum_11 : decode cX0_nearSum 11 = .ok (.astore_n 3, 1) := dk_78 (dk_at dksX0_nearSum_0 11 rfl rfl)
theorem dX0_nearSum_12 : decode cX0_nearSum 12 = .ok (.iconst 1, 1) := dk_4 (dk_at dksX0_nearSum_0 12 rfl rfl)
theorem dX0_nearSum_13 : decode cX0_nearSum 13 = .ok (.ireturn, 1) := dk_172 (dk_at dksX0_nearSum_0 13 rfl rfl)
theorem dX0_nearSum_14 : decode cX0_nearSum 14 = .ok (.astore_n 3, 1) := dk_78 (dk_at dksX0_nearSum_0 14 rfl rfl)
theorem dX0_nearSum_15 : decode cX0_nearSum 15 = .ok (.iconst 2, 1) := dk_5 (dk_at dksX0_nearSum_0 15 rfl rfl)
theorem dX0_nearSum_16 : decode cX0_nearSum 16 = .ok (.ireturn, 1) := dk_172 (dk_at dksX0_nearSum_0 16 rfl rfl)
theorem dX0_nearSum_17 : decode cX0_nearSum 17 = .ok (.iconst 0, 1) := dk_3 (dk_at dksX0_nearSum_0 17 rfl rfl)
theorem dX0_nearSum_18 : decode cX0_nearSum 18 = .ok (.ireturn, 1) := dk_172 (dk_at dksX0_nearSum_0 18 rfl rfl)
abbrev cX0_farSum : ByteArray := method_22_code
def yX0_farSum : MethodName := ⟨RX0, "farSum", "(LMultipoleLine;I[D)I"⟩
def dkwX0_farSum_0 : List UInt8 := [44, 3, 42, 27, 182, 0, 80, 82, 167, 0, 9, 78, 4, 172, 78, 5, 172, 3, 172]
abbrev dktX0_farSum_0 : List UInt8 := dkwX0_farSum_0 ++ []
theorem dksX0_farSum_0 : cX0_farSum.data.toList.drop 0 = dktX0_farSum_0 := by decide +kernel
theorem dX0_farSum_0 : decode cX0_farSum 0 = .ok (.aload_n 2, 1) := dk_44 (dk_at dksX0_farSum_0 0 rfl rfl)
theorem dX0_farSum_1 : decode cX0_farSum 1 = .ok (.iconst 0, 1) := dk_3 (dk_at dksX0_farSum_0 1 rfl rfl)
theorem dX0_farSum_2 : decode cX0_farSum 2 = .ok (.aload_n 0, 1) := dk_42 (dk_at dksX0_farSum_0 2 rfl rfl)
theorem dX0_farSum_3 : decode cX0_farSum 3 = .ok (.iload_n 1, 1) := dk_27 (dk_at dksX0_farSum_0 3 rfl rfl)
theorem dX0_farSum_4 : decode cX0_farSum 4 = .ok (.invokevirtual 80, 3) := dk_182 0 80 (dk_at dksX0_farSum_0 4 rfl rfl)
theorem dX0_farSum_7 : decode cX0_farSum 7 = .ok (.dastore, 1) := dk_82 (dk_at dksX0_farSum_0 7 rfl rfl)
theorem dX0_farSum_8 : decode cX0_farSum 8 = .ok (.goto 9, 3) := dk_167 0 9 (dk_at dksX0_farSum_0 8 rfl rfl)
theorem dX0_farSum_11 : decode cX0_farSum 11 = .ok (.astore_n 3, 1) := dk_78 (dk_at dksX0_farSum_0 11 rfl rfl)
theorem dX0_farSum_12 : decode cX0_farSum 12 = .ok (.iconst 1, 1) := dk_4 (dk_at dksX0_farSum_0 12 rfl rfl)
theorem dX0_farSum_13 : decode cX0_farSum 13 = .ok (.ireturn, 1) := dk_172 (dk_at dksX0_farSum_0 13 rfl rfl)
theorem dX0_farSum_14 : decode cX0_farSum 14 = .ok (.astore_n 3, 1) := dk_78 (dk_at dksX0_farSum_0 14 rfl rfl)
theorem dX0_farSum_15 : decode cX0_farSum 15 = .ok (.iconst 2, 1) := dk_5 (dk_at dksX0_farSum_0 15 rfl rfl)
theorem dX0_farSum_16 : decode cX0_farSum 16 = .ok (.ireturn, 1) := dk_172 (dk_at dksX0_farSum_0 16 rfl rfl)
theorem dX0_farSum_17 : decode cX0_farSum 17 = .ok (.iconst 0, 1) := dk_3 (dk_at dksX0_farSum_0 17 rfl rfl)
theorem dX0_farSum_18 : decode cX0_farSum 18 = .ok (.ireturn, 1) := dk_172 (dk_at dksX0_farSum_0 18 rfl rfl)
abbrev cX0_farBits : ByteArray := method_23_code
def yX0_farBits : MethodName := ⟨RX0, "farBits", "(LMultipoleLine;I[J)I"⟩
def dkwX0_farBits_0 : List UInt8 := [44, 3, 42, 27, 182, 0, 83, 80, 167, 0, 9, 78, 4, 172, 78, 5, 172, 3, 172]
abbrev dktX0_farBits_0 : List UInt8 := dkwX0_farBits_0 ++ []
theorem dksX0_farBits_0 : cX0_farBits.data.toList.drop 0 = dktX0_farBits_0 := by decide +kernel
theorem dX0_farBits_0 : decode cX0_farBits 0 = .ok (.aload_n 2, 1) := dk_44 (dk_at dksX0_farBits_0 0 rfl rfl)
theorem dX0_farBits_1 : decode cX0_farBits 1 = .ok (.iconst 0, 1) := dk_3 (dk_at dksX0_farBits_0 1 rfl rfl)
theorem dX0_farBits_2 : decode cX0_farBits 2 = .ok (.aload_n 0, 1) := dk_42 (dk_at dksX0_farBits_0 2 rfl rfl)
theorem dX0_farBits_3 : decode cX0_farBits 3 = .ok (.iload_n 1, 1) := dk_27 (dk_at dksX0_farBits_0 3 rfl rfl)
theorem dX0_farBits_4 : decode cX0_farBits 4 = .ok (.invokevirtual 83, 3) := dk_182 0 83 (dk_at dksX0_farBits_0 4 rfl rfl)
theorem dX0_farBits_7 : decode cX0_farBits 7 = .ok (.lastore, 1) := dk_80 (dk_at dksX0_farBits_0 7 rfl rfl)
theorem dX0_farBits_8 : decode cX0_farBits 8 = .ok (.goto 9, 3) := dk_167 0 9 (dk_at dksX0_farBits_0 8 rfl rfl)
theorem dX0_farBits_11 : decode cX0_farBits 11 = .ok (.astore_n 3, 1) := dk_78 (dk_at dksX0_farBits_0 11 rfl rfl)
theorem dX0_farBits_12 : decode cX0_farBits 12 = .ok (.iconst 1, 1) := dk_4 (dk_at dksX0_farBits_0 12 rfl rfl)
theorem dX0_farBits_13 : decode cX0_farBits 13 = .ok (.ireturn, 1) := dk_172 (dk_at dksX0_farBits_0 13 rfl rfl)
theorem dX0_farBits_14 : decode cX0_farBits 14 = .ok (.astore_n 3, 1) := dk_78 (dk_at dksX0_farBits_0 14 rfl rfl)
theorem dX0_farBits_15 : decode cX0_farBits 15 = .ok (.iconst 2, 1) := dk_5 (dk_at dksX0_farBits_0 15 rfl rfl)
theorem dX0_farBits_16 : decode cX0_farBits 16 = .ok (.ireturn, 1) := dk_172 (dk_at dksX0_farBits_0 16 rfl rfl)
theorem dX0_farBits_17 : decode cX0_farBits 17 = .ok (.iconst 0, 1) := dk_3 (dk_at dksX0_farBits_0 17 rfl rfl)
theorem dX0_farBits_18 : decode cX0_farBits 18 = .ok (.ireturn, 1) := dk_172 (dk_at dksX0_farBits_0 18 rfl rfl)
abbrev cX0_value : ByteArray := method_24_code
def yX0_value : MethodName := ⟨RX0, "value", "(LMultipoleLine;III[D)I"⟩
def dkwX0_value_1 : List UInt8 := [6, 172, 3, 172]
abbrev dktX0_value_1 : List UInt8 := dkwX0_value_1 ++ []
def dkwX0_value_0 : List UInt8 := [25, 4, 3, 42, 27, 28, 29, 182, 0, 87, 82, 167, 0, 15, 58, 5, 4, 172, 58, 5, 5, 172, 58, 5]
abbrev dktX0_value_0 : List UInt8 := dkwX0_value_0 ++ dktX0_value_1
theorem dksX0_value_0 : cX0_value.data.toList.drop 0 = dktX0_value_0 := by decide +kernel
theorem dksX0_value_1 : cX0_value.data.toList.drop 24 = dktX0_value_1 := dk_seg dksX0_value_0 24 rfl rfl
theorem dX0_value_0 : decode cX0_value 0 = .ok (.aload 4, 2) := dk_25 4 (dk_at dksX0_value_0 0 rfl rfl)
theorem dX0_value_2 : decode cX0_value 2 = .ok (.iconst 0, 1) := dk_3 (dk_at dksX0_value_0 2 rfl rfl)
theorem dX0_value_3 : decode cX0_value 3 = .ok (.aload_n 0, 1) := dk_42 (dk_at dksX0_value_0 3 rfl rfl)
theorem dX0_value_4 : decode cX0_value 4 = .ok (.iload_n 1, 1) := dk_27 (dk_at dksX0_value_0 4 rfl rfl)
theorem dX0_value_5 : decode cX0_value 5 = .ok (.iload_n 2, 1) := dk_28 (dk_at dksX0_value_0 5 rfl rfl)
theorem dX0_value_6 : decode cX0_value 6 = .ok (.iload_n 3, 1) := dk_29 (dk_at dksX0_value_0 6 rfl rfl)
theorem dX0_value_7 : decode cX0_value 7 = .ok (.invokevirtual 87, 3) := dk_182 0 87 (dk_at dksX0_value_0 7 rfl rfl)
theorem dX0_value_10 : decode cX0_value 10 = .ok (.dastore, 1) := dk_82 (dk_at dksX0_value_0 10 rfl rfl)
theorem dX0_value_11 : decode cX0_value 11 = .ok (.goto 15, 3) := dk_167 0 15 (dk_at dksX0_value_0 11 rfl rfl)
theorem dX0_value_14 : decode cX0_value 14 = .ok (.astore 5, 2) := dk_58 5 (dk_at dksX0_value_0 14 rfl rfl)
theorem dX0_value_16 : decode cX0_value 16 = .ok (.iconst 1, 1) := dk_4 (dk_at dksX0_value_0 16 rfl rfl)
theorem dX0_value_17 : decode cX0_value 17 = .ok (.ireturn, 1) := dk_172 (dk_at dksX0_value_0 17 rfl rfl)
theorem dX0_value_18 : decode cX0_value 18 = .ok (.astore 5, 2) := dk_58 5 (dk_at dksX0_value_0 18 rfl rfl)
theorem dX0_value_20 : decode cX0_value 20 = .ok (.iconst 2, 1) := dk_5 (dk_at dksX0_value_0 20 rfl rfl)
theorem dX0_value_21 : decode cX0_value 21 = .ok (.ireturn, 1) := dk_172 (dk_at dksX0_value_0 21 rfl rfl)
theorem dX0_value_22 : decode cX0_value 22 = .ok (.astore 5, 2) := dk_58 5 (dk_at dksX0_value_0 22 rfl rfl)
theorem dX0_value_24 : decode cX0_value 24 = .ok (.iconst 3, 1) := dk_6 (dk_at dksX0_value_1 0 rfl rfl)
theorem dX0_value_25 : decode cX0_value 25 = .ok (.ireturn, 1) := dk_172 (dk_at dksX0_value_1 1 rfl rfl)
theorem dX0_value_26 : decode cX0_value 26 = .ok (.iconst 0, 1) := dk_3 (dk_at dksX0_value_1 2 rfl rfl)
theorem dX0_value_27 : decode cX0_value 27 = .ok (.ireturn, 1) := dk_172 (dk_at dksX0_value_1 3 rfl rfl)
abbrev cX0_bound : ByteArray := method_25_code
def yX0_bound : MethodName := ⟨RX0, "bound", "(LMultipoleLine;I[D)I"⟩
def dkwX0_bound_0 : List UInt8 := [44, 3, 42, 27, 182, 0, 91, 82, 167, 0, 9, 78, 4, 172, 78, 5, 172, 3, 172]
abbrev dktX0_bound_0 : List UInt8 := dkwX0_bound_0 ++ []
theorem dksX0_bound_0 : cX0_bound.data.toList.drop 0 = dktX0_bound_0 := by decide +kernel
theorem dX0_bound_0 : decode cX0_bound 0 = .ok (.aload_n 2, 1) := dk_44 (dk_at dksX0_bound_0 0 rfl rfl)
theorem dX0_bound_1 : decode cX0_bound 1 = .ok (.iconst 0, 1) := dk_3 (dk_at dksX0_bound_0 1 rfl rfl)
theorem dX0_bound_2 : decode cX0_bound 2 = .ok (.aload_n 0, 1) := dk_42 (dk_at dksX0_bound_0 2 rfl rfl)
theorem dX0_bound_3 : decode cX0_bound 3 = .ok (.iload_n 1, 1) := dk_27 (dk_at dksX0_bound_0 3 rfl rfl)
theorem dX0_bound_4 : decode cX0_bound 4 = .ok (.invokevirtual 91, 3) := dk_182 0 91 (dk_at dksX0_bound_0 4 rfl rfl)
theorem dX0_bound_7 : decode cX0_bound 7 = .ok (.dastore, 1) := dk_82 (dk_at dksX0_bound_0 7 rfl rfl)
theorem dX0_bound_8 : decode cX0_bound 8 = .ok (.goto 9, 3) := dk_167 0 9 (dk_at dksX0_bound_0 8 rfl rfl)
theorem dX0_bound_11 : decode cX0_bound 11 = .ok (.astore_n 3, 1) := dk_78 (dk_at dksX0_bound_0 11 rfl rfl)
theorem dX0_bound_12 : decode cX0_bound 12 = .ok (.iconst 1, 1) := dk_4 (dk_at dksX0_bound_0 12 rfl rfl)
theorem dX0_bound_13 : decode cX0_bound 13 = .ok (.ireturn, 1) := dk_172 (dk_at dksX0_bound_0 13 rfl rfl)
theorem dX0_bound_14 : decode cX0_bound 14 = .ok (.astore_n 3, 1) := dk_78 (dk_at dksX0_bound_0 14 rfl rfl)
theorem dX0_bound_15 : decode cX0_bound 15 = .ok (.iconst 2, 1) := dk_5 (dk_at dksX0_bound_0 15 rfl rfl)
theorem dX0_bound_16 : decode cX0_bound 16 = .ok (.ireturn, 1) := dk_172 (dk_at dksX0_bound_0 16 rfl rfl)
theorem dX0_bound_17 : decode cX0_bound 17 = .ok (.iconst 0, 1) := dk_3 (dk_at dksX0_bound_0 17 rfl rfl)
theorem dX0_bound_18 : decode cX0_bound 18 = .ok (.ireturn, 1) := dk_172 (dk_at dksX0_bound_0 18 rfl rfl)
abbrev cX0_gapAt : ByteArray := method_26_code
def yX0_gapAt : MethodName := ⟨RX0, "gapAt", "(LMultipoleLine;I[D)I"⟩
def dkwX0_gapAt_0 : List UInt8 := [44, 3, 42, 27, 182, 0, 94, 82, 167, 0, 9, 78, 4, 172, 78, 5, 172, 3, 172]
abbrev dktX0_gapAt_0 : List UInt8 := dkwX0_gapAt_0 ++ []
theorem dksX0_gapAt_0 : cX0_gapAt.data.toList.drop 0 = dktX0_gapAt_0 := by decide +kernel
theorem dX0_gapAt_0 : decode cX0_gapAt 0 = .ok (.aload_n 2, 1) := dk_44 (dk_at dksX0_gapAt_0 0 rfl rfl)
theorem dX0_gapAt_1 : decode cX0_gapAt 1 = .ok (.iconst 0, 1) := dk_3 (dk_at dksX0_gapAt_0 1 rfl rfl)
theorem dX0_gapAt_2 : decode cX0_gapAt 2 = .ok (.aload_n 0, 1) := dk_42 (dk_at dksX0_gapAt_0 2 rfl rfl)
theorem dX0_gapAt_3 : decode cX0_gapAt 3 = .ok (.iload_n 1, 1) := dk_27 (dk_at dksX0_gapAt_0 3 rfl rfl)
theorem dX0_gapAt_4 : decode cX0_gapAt 4 = .ok (.invokevirtual 94, 3) := dk_182 0 94 (dk_at dksX0_gapAt_0 4 rfl rfl)
theorem dX0_gapAt_7 : decode cX0_gapAt 7 = .ok (.dastore, 1) := dk_82 (dk_at dksX0_gapAt_0 7 rfl rfl)
theorem dX0_gapAt_8 : decode cX0_gapAt 8 = .ok (.goto 9, 3) := dk_167 0 9 (dk_at dksX0_gapAt_0 8 rfl rfl)
theorem dX0_gapAt_11 : decode cX0_gapAt 11 = .ok (.astore_n 3, 1) := dk_78 (dk_at dksX0_gapAt_0 11 rfl rfl)
theorem dX0_gapAt_12 : decode cX0_gapAt 12 = .ok (.iconst 1, 1) := dk_4 (dk_at dksX0_gapAt_0 12 rfl rfl)
theorem dX0_gapAt_13 : decode cX0_gapAt 13 = .ok (.ireturn, 1) := dk_172 (dk_at dksX0_gapAt_0 13 rfl rfl)
theorem dX0_gapAt_14 : decode cX0_gapAt 14 = .ok (.astore_n 3, 1) := dk_78 (dk_at dksX0_gapAt_0 14 rfl rfl)
theorem dX0_gapAt_15 : decode cX0_gapAt 15 = .ok (.iconst 2, 1) := dk_5 (dk_at dksX0_gapAt_0 15 rfl rfl)
theorem dX0_gapAt_16 : decode cX0_gapAt 16 = .ok (.ireturn, 1) := dk_172 (dk_at dksX0_gapAt_0 16 rfl rfl)
theorem dX0_gapAt_17 : decode cX0_gapAt 17 = .ok (.iconst 0, 1) := dk_3 (dk_at dksX0_gapAt_0 17 rfl rfl)
theorem dX0_gapAt_18 : decode cX0_gapAt 18 = .ok (.ireturn, 1) := dk_172 (dk_at dksX0_gapAt_0 18 rfl rfl)
abbrev cX0_isWithin : ByteArray := method_27_code
def yX0_isWithin : MethodName := ⟨RX0, "isWithin", "(LMultipoleLine;I[J)I"⟩
def dkwX0_isWithin_1 : List UInt8 := [172, 3, 172]
abbrev dktX0_isWithin_1 : List UInt8 := dkwX0_isWithin_1 ++ []
def dkwX0_isWithin_0 : List UInt8 := [44, 3, 42, 27, 182, 0, 97, 153, 0, 7, 10, 167, 0, 4, 9, 80, 167, 0, 9, 78, 4, 172, 78, 5]
abbrev dktX0_isWithin_0 : List UInt8 := dkwX0_isWithin_0 ++ dktX0_isWithin_1
theorem dksX0_isWithin_0 : cX0_isWithin.data.toList.drop 0 = dktX0_isWithin_0 := by decide +kernel
theorem dksX0_isWithin_1 : cX0_isWithin.data.toList.drop 24 = dktX0_isWithin_1 := dk_seg dksX0_isWithin_0 24 rfl rfl
theorem dX0_isWithin_0 : decode cX0_isWithin 0 = .ok (.aload_n 2, 1) := dk_44 (dk_at dksX0_isWithin_0 0 rfl rfl)
theorem dX0_isWithin_1 : decode cX0_isWithin 1 = .ok (.iconst 0, 1) := dk_3 (dk_at dksX0_isWithin_0 1 rfl rfl)
theorem dX0_isWithin_2 : decode cX0_isWithin 2 = .ok (.aload_n 0, 1) := dk_42 (dk_at dksX0_isWithin_0 2 rfl rfl)
theorem dX0_isWithin_3 : decode cX0_isWithin 3 = .ok (.iload_n 1, 1) := dk_27 (dk_at dksX0_isWithin_0 3 rfl rfl)
theorem dX0_isWithin_4 : decode cX0_isWithin 4 = .ok (.invokevirtual 97, 3) := dk_182 0 97 (dk_at dksX0_isWithin_0 4 rfl rfl)
theorem dX0_isWithin_7 : decode cX0_isWithin 7 = .ok (.ifCond .eq 7, 3) := dk_153 0 7 (dk_at dksX0_isWithin_0 7 rfl rfl)
theorem dX0_isWithin_10 : decode cX0_isWithin 10 = .ok (.lconst 1, 1) := dk_10 (dk_at dksX0_isWithin_0 10 rfl rfl)
theorem dX0_isWithin_11 : decode cX0_isWithin 11 = .ok (.goto 4, 3) := dk_167 0 4 (dk_at dksX0_isWithin_0 11 rfl rfl)
theorem dX0_isWithin_14 : decode cX0_isWithin 14 = .ok (.lconst 0, 1) := dk_9 (dk_at dksX0_isWithin_0 14 rfl rfl)
theorem dX0_isWithin_15 : decode cX0_isWithin 15 = .ok (.lastore, 1) := dk_80 (dk_at dksX0_isWithin_0 15 rfl rfl)
theorem dX0_isWithin_16 : decode cX0_isWithin 16 = .ok (.goto 9, 3) := dk_167 0 9 (dk_at dksX0_isWithin_0 16 rfl rfl)
theorem dX0_isWithin_19 : decode cX0_isWithin 19 = .ok (.astore_n 3, 1) := dk_78 (dk_at dksX0_isWithin_0 19 rfl rfl)
theorem dX0_isWithin_20 : decode cX0_isWithin 20 = .ok (.iconst 1, 1) := dk_4 (dk_at dksX0_isWithin_0 20 rfl rfl)
theorem dX0_isWithin_21 : decode cX0_isWithin 21 = .ok (.ireturn, 1) := dk_172 (dk_at dksX0_isWithin_0 21 rfl rfl)
theorem dX0_isWithin_22 : decode cX0_isWithin 22 = .ok (.astore_n 3, 1) := dk_78 (dk_at dksX0_isWithin_0 22 rfl rfl)
theorem dX0_isWithin_23 : decode cX0_isWithin 23 = .ok (.iconst 2, 1) := dk_5 (dk_at dksX0_isWithin_0 23 rfl rfl)
theorem dX0_isWithin_24 : decode cX0_isWithin 24 = .ok (.ireturn, 1) := dk_172 (dk_at dksX0_isWithin_1 0 rfl rfl)
theorem dX0_isWithin_25 : decode cX0_isWithin 25 = .ok (.iconst 0, 1) := dk_3 (dk_at dksX0_isWithin_1 1 rfl rfl)
theorem dX0_isWithin_26 : decode cX0_isWithin 26 = .ok (.ireturn, 1) := dk_172 (dk_at dksX0_isWithin_1 2 rfl rfl)
abbrev cX0_worst : ByteArray := method_28_code
def yX0_worst : MethodName := ⟨RX0, "worst", "(LMultipoleLine;[J)I"⟩
def dkwX0_worst_0 : List UInt8 := [43, 3, 42, 182, 0, 101, 133, 80, 167, 0, 6, 77, 4, 172, 3, 172]
abbrev dktX0_worst_0 : List UInt8 := dkwX0_worst_0 ++ []
theorem dksX0_worst_0 : cX0_worst.data.toList.drop 0 = dktX0_worst_0 := by decide +kernel
theorem dX0_worst_0 : decode cX0_worst 0 = .ok (.aload_n 1, 1) := dk_43 (dk_at dksX0_worst_0 0 rfl rfl)
theorem dX0_worst_1 : decode cX0_worst 1 = .ok (.iconst 0, 1) := dk_3 (dk_at dksX0_worst_0 1 rfl rfl)
theorem dX0_worst_2 : decode cX0_worst 2 = .ok (.aload_n 0, 1) := dk_42 (dk_at dksX0_worst_0 2 rfl rfl)
theorem dX0_worst_3 : decode cX0_worst 3 = .ok (.invokevirtual 101, 3) := dk_182 0 101 (dk_at dksX0_worst_0 3 rfl rfl)
theorem dX0_worst_6 : decode cX0_worst 6 = .ok (.i2l, 1) := dk_133 (dk_at dksX0_worst_0 6 rfl rfl)
theorem dX0_worst_7 : decode cX0_worst 7 = .ok (.lastore, 1) := dk_80 (dk_at dksX0_worst_0 7 rfl rfl)
theorem dX0_worst_8 : decode cX0_worst 8 = .ok (.goto 6, 3) := dk_167 0 6 (dk_at dksX0_worst_0 8 rfl rfl)
theorem dX0_worst_11 : decode cX0_worst 11 = .ok (.astore_n 2, 1) := dk_77 (dk_at dksX0_worst_0 11 rfl rfl)
theorem dX0_worst_12 : decode cX0_worst 12 = .ok (.iconst 1, 1) := dk_4 (dk_at dksX0_worst_0 12 rfl rfl)
theorem dX0_worst_13 : decode cX0_worst 13 = .ok (.ireturn, 1) := dk_172 (dk_at dksX0_worst_0 13 rfl rfl)
theorem dX0_worst_14 : decode cX0_worst 14 = .ok (.iconst 0, 1) := dk_3 (dk_at dksX0_worst_0 14 rfl rfl)
theorem dX0_worst_15 : decode cX0_worst 15 = .ok (.ireturn, 1) := dk_172 (dk_at dksX0_worst_0 15 rfl rfl)
abbrev cX0_localEntry : ByteArray := method_29_code
def yX0_localEntry : MethodName := ⟨RX0, "localEntry", "(LMultipoleLine;III[D)I"⟩
def dkwX0_localEntry_1 : List UInt8 := [6, 172, 3, 172]
abbrev dktX0_localEntry_1 : List UInt8 := dkwX0_localEntry_1 ++ []
def dkwX0_localEntry_0 : List UInt8 := [25, 4, 3, 42, 27, 28, 29, 182, 0, 104, 82, 167, 0, 15, 58, 5, 4, 172, 58, 5, 5, 172, 58, 5]
abbrev dktX0_localEntry_0 : List UInt8 := dkwX0_localEntry_0 ++ dktX0_localEntry_1
theorem dksX0_localEntry_0 : cX0_localEntry.data.toList.drop 0 = dktX0_localEntry_0 := by decide +kernel
theorem dksX0_localEntry_1 : cX0_localEntry.data.toList.drop 24 = dktX0_localEntry_1 := dk_seg dksX0_localEntry_0 24 rfl rfl
theorem dX0_localEntry_0 : decode cX0_localEntry 0 = .ok (.aload 4, 2) := dk_25 4 (dk_at dksX0_localEntry_0 0 rfl rfl)
theorem dX0_localEntry_2 : decode cX0_localEntry 2 = .ok (.iconst 0, 1) := dk_3 (dk_at dksX0_localEntry_0 2 rfl rfl)
theorem dX0_localEntry_3 : decode cX0_localEntry 3 = .ok (.aload_n 0, 1) := dk_42 (dk_at dksX0_localEntry_0 3 rfl rfl)
theorem dX0_localEntry_4 : decode cX0_localEntry 4 = .ok (.iload_n 1, 1) := dk_27 (dk_at dksX0_localEntry_0 4 rfl rfl)
theorem dX0_localEntry_5 : decode cX0_localEntry 5 = .ok (.iload_n 2, 1) := dk_28 (dk_at dksX0_localEntry_0 5 rfl rfl)
theorem dX0_localEntry_6 : decode cX0_localEntry 6 = .ok (.iload_n 3, 1) := dk_29 (dk_at dksX0_localEntry_0 6 rfl rfl)
theorem dX0_localEntry_7 : decode cX0_localEntry 7 = .ok (.invokevirtual 104, 3) := dk_182 0 104 (dk_at dksX0_localEntry_0 7 rfl rfl)
theorem dX0_localEntry_10 : decode cX0_localEntry 10 = .ok (.dastore, 1) := dk_82 (dk_at dksX0_localEntry_0 10 rfl rfl)
theorem dX0_localEntry_11 : decode cX0_localEntry 11 = .ok (.goto 15, 3) := dk_167 0 15 (dk_at dksX0_localEntry_0 11 rfl rfl)
theorem dX0_localEntry_14 : decode cX0_localEntry 14 = .ok (.astore 5, 2) := dk_58 5 (dk_at dksX0_localEntry_0 14 rfl rfl)
theorem dX0_localEntry_16 : decode cX0_localEntry 16 = .ok (.iconst 1, 1) := dk_4 (dk_at dksX0_localEntry_0 16 rfl rfl)
theorem dX0_localEntry_17 : decode cX0_localEntry 17 = .ok (.ireturn, 1) := dk_172 (dk_at dksX0_localEntry_0 17 rfl rfl)
theorem dX0_localEntry_18 : decode cX0_localEntry 18 = .ok (.astore 5, 2) := dk_58 5 (dk_at dksX0_localEntry_0 18 rfl rfl)
theorem dX0_localEntry_20 : decode cX0_localEntry 20 = .ok (.iconst 2, 1) := dk_5 (dk_at dksX0_localEntry_0 20 rfl rfl)
theorem dX0_localEntry_21 : decode cX0_localEntry 21 = .ok (.ireturn, 1) := dk_172 (dk_at dksX0_localEntry_0 21 rfl rfl)
theorem dX0_localEntry_22 : decode cX0_localEntry 22 = .ok (.astore 5, 2) := dk_58 5 (dk_at dksX0_localEntry_0 22 rfl rfl)
theorem dX0_localEntry_24 : decode cX0_localEntry 24 = .ok (.iconst 3, 1) := dk_6 (dk_at dksX0_localEntry_1 0 rfl rfl)
theorem dX0_localEntry_25 : decode cX0_localEntry 25 = .ok (.ireturn, 1) := dk_172 (dk_at dksX0_localEntry_1 1 rfl rfl)
theorem dX0_localEntry_26 : decode cX0_localEntry 26 = .ok (.iconst 0, 1) := dk_3 (dk_at dksX0_localEntry_1 2 rfl rfl)
theorem dX0_localEntry_27 : decode cX0_localEntry 27 = .ok (.ireturn, 1) := dk_172 (dk_at dksX0_localEntry_1 3 rfl rfl)
abbrev cX0_localSum : ByteArray := method_30_code
def yX0_localSum : MethodName := ⟨RX0, "localSum", "(LMultipoleLine;I[D)I"⟩
def dkwX0_localSum_0 : List UInt8 := [44, 3, 42, 27, 182, 0, 107, 82, 167, 0, 9, 78, 4, 172, 78, 5, 172, 3, 172]
abbrev dktX0_localSum_0 : List UInt8 := dkwX0_localSum_0 ++ []
theorem dksX0_localSum_0 : cX0_localSum.data.toList.drop 0 = dktX0_localSum_0 := by decide +kernel
theorem dX0_localSum_0 : decode cX0_localSum 0 = .ok (.aload_n 2, 1) := dk_44 (dk_at dksX0_localSum_0 0 rfl rfl)
theorem dX0_localSum_1 : decode cX0_localSum 1 = .ok (.iconst 0, 1) := dk_3 (dk_at dksX0_localSum_0 1 rfl rfl)
theorem dX0_localSum_2 : decode cX0_localSum 2 = .ok (.aload_n 0, 1) := dk_42 (dk_at dksX0_localSum_0 2 rfl rfl)
theorem dX0_localSum_3 : decode cX0_localSum 3 = .ok (.iload_n 1, 1) := dk_27 (dk_at dksX0_localSum_0 3 rfl rfl)
theorem dX0_localSum_4 : decode cX0_localSum 4 = .ok (.invokevirtual 107, 3) := dk_182 0 107 (dk_at dksX0_localSum_0 4 rfl rfl)
theorem dX0_localSum_7 : decode cX0_localSum 7 = .ok (.dastore, 1) := dk_82 (dk_at dksX0_localSum_0 7 rfl rfl)
theorem dX0_localSum_8 : decode cX0_localSum 8 = .ok (.goto 9, 3) := dk_167 0 9 (dk_at dksX0_localSum_0 8 rfl rfl)
theorem dX0_localSum_11 : decode cX0_localSum 11 = .ok (.astore_n 3, 1) := dk_78 (dk_at dksX0_localSum_0 11 rfl rfl)
theorem dX0_localSum_12 : decode cX0_localSum 12 = .ok (.iconst 1, 1) := dk_4 (dk_at dksX0_localSum_0 12 rfl rfl)
theorem dX0_localSum_13 : decode cX0_localSum 13 = .ok (.ireturn, 1) := dk_172 (dk_at dksX0_localSum_0 13 rfl rfl)
theorem dX0_localSum_14 : decode cX0_localSum 14 = .ok (.astore_n 3, 1) := dk_78 (dk_at dksX0_localSum_0 14 rfl rfl)
theorem dX0_localSum_15 : decode cX0_localSum 15 = .ok (.iconst 2, 1) := dk_5 (dk_at dksX0_localSum_0 15 rfl rfl)
theorem dX0_localSum_16 : decode cX0_localSum 16 = .ok (.ireturn, 1) := dk_172 (dk_at dksX0_localSum_0 16 rfl rfl)
theorem dX0_localSum_17 : decode cX0_localSum 17 = .ok (.iconst 0, 1) := dk_3 (dk_at dksX0_localSum_0 17 rfl rfl)
theorem dX0_localSum_18 : decode cX0_localSum 18 = .ok (.ireturn, 1) := dk_172 (dk_at dksX0_localSum_0 18 rfl rfl)
abbrev cX0_pullPlain : ByteArray := method_31_code
def yX0_pullPlain : MethodName := ⟨RX0, "pullPlain", "(LMultipoleLine;I[D)I"⟩
def dkwX0_pullPlain_0 : List UInt8 := [44, 3, 42, 27, 182, 0, 110, 82, 167, 0, 9, 78, 4, 172, 78, 5, 172, 3, 172]
abbrev dktX0_pullPlain_0 : List UInt8 := dkwX0_pullPlain_0 ++ []
theorem dksX0_pullPlain_0 : cX0_pullPlain.data.toList.drop 0 = dktX0_pullPlain_0 := by decide +kernel
theorem dX0_pullPlain_0 : decode cX0_pullPlain 0 = .ok (.aload_n 2, 1) := dk_44 (dk_at dksX0_pullPlain_0 0 rfl rfl)
theorem dX0_pullPlain_1 : decode cX0_pullPlain 1 = .ok (.iconst 0, 1) := dk_3 (dk_at dksX0_pullPlain_0 1 rfl rfl)
theorem dX0_pullPlain_2 : decode cX0_pullPlain 2 = .ok (.aload_n 0, 1) := dk_42 (dk_at dksX0_pullPlain_0 2 rfl rfl)
theorem dX0_pullPlain_3 : decode cX0_pullPlain 3 = .ok (.iload_n 1, 1) := dk_27 (dk_at dksX0_pullPlain_0 3 rfl rfl)
theorem dX0_pullPlain_4 : decode cX0_pullPlain 4 = .ok (.invokevirtual 110, 3) := dk_182 0 110 (dk_at dksX0_pullPlain_0 4 rfl rfl)
theorem dX0_pullPlain_7 : decode cX0_pullPlain 7 = .ok (.dastore, 1) := dk_82 (dk_at dksX0_pullPlain_0 7 rfl rfl)
theorem dX0_pullPlain_8 : decode cX0_pullPlain 8 = .ok (.goto 9, 3) := dk_167 0 9 (dk_at dksX0_pullPlain_0 8 rfl rfl)
theorem dX0_pullPlain_11 : decode cX0_pullPlain 11 = .ok (.astore_n 3, 1) := dk_78 (dk_at dksX0_pullPlain_0 11 rfl rfl)
theorem dX0_pullPlain_12 : decode cX0_pullPlain 12 = .ok (.iconst 1, 1) := dk_4 (dk_at dksX0_pullPlain_0 12 rfl rfl)
theorem dX0_pullPlain_13 : decode cX0_pullPlain 13 = .ok (.ireturn, 1) := dk_172 (dk_at dksX0_pullPlain_0 13 rfl rfl)
theorem dX0_pullPlain_14 : decode cX0_pullPlain 14 = .ok (.astore_n 3, 1) := dk_78 (dk_at dksX0_pullPlain_0 14 rfl rfl)
theorem dX0_pullPlain_15 : decode cX0_pullPlain 15 = .ok (.iconst 2, 1) := dk_5 (dk_at dksX0_pullPlain_0 15 rfl rfl)
theorem dX0_pullPlain_16 : decode cX0_pullPlain 16 = .ok (.ireturn, 1) := dk_172 (dk_at dksX0_pullPlain_0 16 rfl rfl)
theorem dX0_pullPlain_17 : decode cX0_pullPlain 17 = .ok (.iconst 0, 1) := dk_3 (dk_at dksX0_pullPlain_0 17 rfl rfl)
theorem dX0_pullPlain_18 : decode cX0_pullPlain 18 = .ok (.ireturn, 1) := dk_172 (dk_at dksX0_pullPlain_0 18 rfl rfl)
abbrev cX0_pullFar : ByteArray := method_32_code
def yX0_pullFar : MethodName := ⟨RX0, "pullFar", "(LMultipoleLine;I[D)I"⟩
def dkwX0_pullFar_0 : List UInt8 := [44, 3, 42, 27, 182, 0, 113, 82, 167, 0, 9, 78, 4, 172, 78, 5, 172, 3, 172]
abbrev dktX0_pullFar_0 : List UInt8 := dkwX0_pullFar_0 ++ []
theorem dksX0_pullFar_0 : cX0_pullFar.data.toList.drop 0 = dktX0_pullFar_0 := by decide +kernel
theorem dX0_pullFar_0 : decode cX0_pullFar 0 = .ok (.aload_n 2, 1) := dk_44 (dk_at dksX0_pullFar_0 0 rfl rfl)
theorem dX0_pullFar_1 : decode cX0_pullFar 1 = .ok (.iconst 0, 1) := dk_3 (dk_at dksX0_pullFar_0 1 rfl rfl)
theorem dX0_pullFar_2 : decode cX0_pullFar 2 = .ok (.aload_n 0, 1) := dk_42 (dk_at dksX0_pullFar_0 2 rfl rfl)
theorem dX0_pullFar_3 : decode cX0_pullFar 3 = .ok (.iload_n 1, 1) := dk_27 (dk_at dksX0_pullFar_0 3 rfl rfl)
theorem dX0_pullFar_4 : decode cX0_pullFar 4 = .ok (.invokevirtual 113, 3) := dk_182 0 113 (dk_at dksX0_pullFar_0 4 rfl rfl)
theorem dX0_pullFar_7 : decode cX0_pullFar 7 = .ok (.dastore, 1) := dk_82 (dk_at dksX0_pullFar_0 7 rfl rfl)
theorem dX0_pullFar_8 : decode cX0_pullFar 8 = .ok (.goto 9, 3) := dk_167 0 9 (dk_at dksX0_pullFar_0 8 rfl rfl)
theorem dX0_pullFar_11 : decode cX0_pullFar 11 = .ok (.astore_n 3, 1) := dk_78 (dk_at dksX0_pullFar_0 11 rfl rfl)
theorem dX0_pullFar_12 : decode cX0_pullFar 12 = .ok (.iconst 1, 1) := dk_4 (dk_at dksX0_pullFar_0 12 rfl rfl)
theorem dX0_pullFar_13 : decode cX0_pullFar 13 = .ok (.ireturn, 1) := dk_172 (dk_at dksX0_pullFar_0 13 rfl rfl)
theorem dX0_pullFar_14 : decode cX0_pullFar 14 = .ok (.astore_n 3, 1) := dk_78 (dk_at dksX0_pullFar_0 14 rfl rfl)
theorem dX0_pullFar_15 : decode cX0_pullFar 15 = .ok (.iconst 2, 1) := dk_5 (dk_at dksX0_pullFar_0 15 rfl rfl)
theorem dX0_pullFar_16 : decode cX0_pullFar 16 = .ok (.ireturn, 1) := dk_172 (dk_at dksX0_pullFar_0 16 rfl rfl)
theorem dX0_pullFar_17 : decode cX0_pullFar 17 = .ok (.iconst 0, 1) := dk_3 (dk_at dksX0_pullFar_0 17 rfl rfl)
theorem dX0_pullFar_18 : decode cX0_pullFar 18 = .ok (.ireturn, 1) := dk_172 (dk_at dksX0_pullFar_0 18 rfl rfl)
abbrev cX0_pull : ByteArray := method_33_code
def yX0_pull : MethodName := ⟨RX0, "pull", "(LMultipoleLine;I[D)I"⟩
def dkwX0_pull_0 : List UInt8 := [44, 3, 42, 27, 182, 0, 116, 82, 167, 0, 9, 78, 4, 172, 78, 5, 172, 3, 172]
abbrev dktX0_pull_0 : List UInt8 := dkwX0_pull_0 ++ []
theorem dksX0_pull_0 : cX0_pull.data.toList.drop 0 = dktX0_pull_0 := by decide +kernel
theorem dX0_pull_0 : decode cX0_pull 0 = .ok (.aload_n 2, 1) := dk_44 (dk_at dksX0_pull_0 0 rfl rfl)
theorem dX0_pull_1 : decode cX0_pull 1 = .ok (.iconst 0, 1) := dk_3 (dk_at dksX0_pull_0 1 rfl rfl)
theorem dX0_pull_2 : decode cX0_pull 2 = .ok (.aload_n 0, 1) := dk_42 (dk_at dksX0_pull_0 2 rfl rfl)
theorem dX0_pull_3 : decode cX0_pull 3 = .ok (.iload_n 1, 1) := dk_27 (dk_at dksX0_pull_0 3 rfl rfl)
theorem dX0_pull_4 : decode cX0_pull 4 = .ok (.invokevirtual 116, 3) := dk_182 0 116 (dk_at dksX0_pull_0 4 rfl rfl)
theorem dX0_pull_7 : decode cX0_pull 7 = .ok (.dastore, 1) := dk_82 (dk_at dksX0_pull_0 7 rfl rfl)
theorem dX0_pull_8 : decode cX0_pull 8 = .ok (.goto 9, 3) := dk_167 0 9 (dk_at dksX0_pull_0 8 rfl rfl)
theorem dX0_pull_11 : decode cX0_pull 11 = .ok (.astore_n 3, 1) := dk_78 (dk_at dksX0_pull_0 11 rfl rfl)
theorem dX0_pull_12 : decode cX0_pull 12 = .ok (.iconst 1, 1) := dk_4 (dk_at dksX0_pull_0 12 rfl rfl)
theorem dX0_pull_13 : decode cX0_pull 13 = .ok (.ireturn, 1) := dk_172 (dk_at dksX0_pull_0 13 rfl rfl)
theorem dX0_pull_14 : decode cX0_pull 14 = .ok (.astore_n 3, 1) := dk_78 (dk_at dksX0_pull_0 14 rfl rfl)
theorem dX0_pull_15 : decode cX0_pull 15 = .ok (.iconst 2, 1) := dk_5 (dk_at dksX0_pull_0 15 rfl rfl)
theorem dX0_pull_16 : decode cX0_pull 16 = .ok (.ireturn, 1) := dk_172 (dk_at dksX0_pull_0 16 rfl rfl)
theorem dX0_pull_17 : decode cX0_pull 17 = .ok (.iconst 0, 1) := dk_3 (dk_at dksX0_pull_0 17 rfl rfl)
theorem dX0_pull_18 : decode cX0_pull 18 = .ok (.ireturn, 1) := dk_172 (dk_at dksX0_pull_0 18 rfl rfl)
abbrev cX0_willMove : ByteArray := method_34_code
def yX0_willMove : MethodName := ⟨RX0, "willMove", "(LMultipoleLine;I[J)I"⟩
def dkwX0_willMove_0 : List UInt8 := [44, 3, 42, 27, 182, 0, 119, 133, 80, 167, 0, 9, 78, 4, 172, 78, 5, 172, 3, 172]
abbrev dktX0_willMove_0 : List UInt8 := dkwX0_willMove_0 ++ []
theorem dksX0_willMove_0 : cX0_willMove.data.toList.drop 0 = dktX0_willMove_0 := by decide +kernel
theorem dX0_willMove_0 : decode cX0_willMove 0 = .ok (.aload_n 2, 1) := dk_44 (dk_at dksX0_willMove_0 0 rfl rfl)
theorem dX0_willMove_1 : decode cX0_willMove 1 = .ok (.iconst 0, 1) := dk_3 (dk_at dksX0_willMove_0 1 rfl rfl)
theorem dX0_willMove_2 : decode cX0_willMove 2 = .ok (.aload_n 0, 1) := dk_42 (dk_at dksX0_willMove_0 2 rfl rfl)
theorem dX0_willMove_3 : decode cX0_willMove 3 = .ok (.iload_n 1, 1) := dk_27 (dk_at dksX0_willMove_0 3 rfl rfl)
theorem dX0_willMove_4 : decode cX0_willMove 4 = .ok (.invokevirtual 119, 3) := dk_182 0 119 (dk_at dksX0_willMove_0 4 rfl rfl)
theorem dX0_willMove_7 : decode cX0_willMove 7 = .ok (.i2l, 1) := dk_133 (dk_at dksX0_willMove_0 7 rfl rfl)
theorem dX0_willMove_8 : decode cX0_willMove 8 = .ok (.lastore, 1) := dk_80 (dk_at dksX0_willMove_0 8 rfl rfl)
theorem dX0_willMove_9 : decode cX0_willMove 9 = .ok (.goto 9, 3) := dk_167 0 9 (dk_at dksX0_willMove_0 9 rfl rfl)
theorem dX0_willMove_12 : decode cX0_willMove 12 = .ok (.astore_n 3, 1) := dk_78 (dk_at dksX0_willMove_0 12 rfl rfl)
theorem dX0_willMove_13 : decode cX0_willMove 13 = .ok (.iconst 1, 1) := dk_4 (dk_at dksX0_willMove_0 13 rfl rfl)
theorem dX0_willMove_14 : decode cX0_willMove 14 = .ok (.ireturn, 1) := dk_172 (dk_at dksX0_willMove_0 14 rfl rfl)
theorem dX0_willMove_15 : decode cX0_willMove 15 = .ok (.astore_n 3, 1) := dk_78 (dk_at dksX0_willMove_0 15 rfl rfl)
theorem dX0_willMove_16 : decode cX0_willMove 16 = .ok (.iconst 2, 1) := dk_5 (dk_at dksX0_willMove_0 16 rfl rfl)
theorem dX0_willMove_17 : decode cX0_willMove 17 = .ok (.ireturn, 1) := dk_172 (dk_at dksX0_willMove_0 17 rfl rfl)
theorem dX0_willMove_18 : decode cX0_willMove 18 = .ok (.iconst 0, 1) := dk_3 (dk_at dksX0_willMove_0 18 rfl rfl)
theorem dX0_willMove_19 : decode cX0_willMove 19 = .ok (.ireturn, 1) := dk_172 (dk_at dksX0_willMove_0 19 rfl rfl)
abbrev cX0_placeIn : ByteArray := method_35_code
def yX0_placeIn : MethodName := ⟨RX0, "placeIn", "(LMultipoleLine;II[J)I"⟩
def dkwX0_placeIn_1 : List UInt8 := [172, 3, 172]
abbrev dktX0_placeIn_1 : List UInt8 := dkwX0_placeIn_1 ++ []
def dkwX0_placeIn_0 : List UInt8 := [45, 3, 42, 27, 28, 182, 0, 122, 133, 80, 167, 0, 15, 58, 4, 4, 172, 58, 4, 5, 172, 58, 4, 6]
abbrev dktX0_placeIn_0 : List UInt8 := dkwX0_placeIn_0 ++ dktX0_placeIn_1
theorem dksX0_placeIn_0 : cX0_placeIn.data.toList.drop 0 = dktX0_placeIn_0 := by decide +kernel
theorem dksX0_placeIn_1 : cX0_placeIn.data.toList.drop 24 = dktX0_placeIn_1 := dk_seg dksX0_placeIn_0 24 rfl rfl
theorem dX0_placeIn_0 : decode cX0_placeIn 0 = .ok (.aload_n 3, 1) := dk_45 (dk_at dksX0_placeIn_0 0 rfl rfl)
theorem dX0_placeIn_1 : decode cX0_placeIn 1 = .ok (.iconst 0, 1) := dk_3 (dk_at dksX0_placeIn_0 1 rfl rfl)
theorem dX0_placeIn_2 : decode cX0_placeIn 2 = .ok (.aload_n 0, 1) := dk_42 (dk_at dksX0_placeIn_0 2 rfl rfl)
theorem dX0_placeIn_3 : decode cX0_placeIn 3 = .ok (.iload_n 1, 1) := dk_27 (dk_at dksX0_placeIn_0 3 rfl rfl)
theorem dX0_placeIn_4 : decode cX0_placeIn 4 = .ok (.iload_n 2, 1) := dk_28 (dk_at dksX0_placeIn_0 4 rfl rfl)
theorem dX0_placeIn_5 : decode cX0_placeIn 5 = .ok (.invokevirtual 122, 3) := dk_182 0 122 (dk_at dksX0_placeIn_0 5 rfl rfl)
theorem dX0_placeIn_8 : decode cX0_placeIn 8 = .ok (.i2l, 1) := dk_133 (dk_at dksX0_placeIn_0 8 rfl rfl)
theorem dX0_placeIn_9 : decode cX0_placeIn 9 = .ok (.lastore, 1) := dk_80 (dk_at dksX0_placeIn_0 9 rfl rfl)
theorem dX0_placeIn_10 : decode cX0_placeIn 10 = .ok (.goto 15, 3) := dk_167 0 15 (dk_at dksX0_placeIn_0 10 rfl rfl)
theorem dX0_placeIn_13 : decode cX0_placeIn 13 = .ok (.astore 4, 2) := dk_58 4 (dk_at dksX0_placeIn_0 13 rfl rfl)
theorem dX0_placeIn_15 : decode cX0_placeIn 15 = .ok (.iconst 1, 1) := dk_4 (dk_at dksX0_placeIn_0 15 rfl rfl)
theorem dX0_placeIn_16 : decode cX0_placeIn 16 = .ok (.ireturn, 1) := dk_172 (dk_at dksX0_placeIn_0 16 rfl rfl)
theorem dX0_placeIn_17 : decode cX0_placeIn 17 = .ok (.astore 4, 2) := dk_58 4 (dk_at dksX0_placeIn_0 17 rfl rfl)
theorem dX0_placeIn_19 : decode cX0_placeIn 19 = .ok (.iconst 2, 1) := dk_5 (dk_at dksX0_placeIn_0 19 rfl rfl)
theorem dX0_placeIn_20 : decode cX0_placeIn 20 = .ok (.ireturn, 1) := dk_172 (dk_at dksX0_placeIn_0 20 rfl rfl)
theorem dX0_placeIn_21 : decode cX0_placeIn 21 = .ok (.astore 4, 2) := dk_58 4 (dk_at dksX0_placeIn_0 21 rfl rfl)
theorem dX0_placeIn_23 : decode cX0_placeIn 23 = .ok (.iconst 3, 1) := dk_6 (dk_at dksX0_placeIn_0 23 rfl rfl)
theorem dX0_placeIn_24 : decode cX0_placeIn 24 = .ok (.ireturn, 1) := dk_172 (dk_at dksX0_placeIn_1 0 rfl rfl)
theorem dX0_placeIn_25 : decode cX0_placeIn 25 = .ok (.iconst 0, 1) := dk_3 (dk_at dksX0_placeIn_1 1 rfl rfl)
theorem dX0_placeIn_26 : decode cX0_placeIn 26 = .ok (.ireturn, 1) := dk_172 (dk_at dksX0_placeIn_1 2 rfl rfl)
abbrev cX0_movesIn : ByteArray := method_36_code
def yX0_movesIn : MethodName := ⟨RX0, "movesIn", "(LMultipoleLine;I[J)I"⟩
def dkwX0_movesIn_0 : List UInt8 := [44, 3, 42, 27, 182, 0, 125, 133, 80, 167, 0, 9, 78, 4, 172, 78, 5, 172, 3, 172]
abbrev dktX0_movesIn_0 : List UInt8 := dkwX0_movesIn_0 ++ []
theorem dksX0_movesIn_0 : cX0_movesIn.data.toList.drop 0 = dktX0_movesIn_0 := by decide +kernel
theorem dX0_movesIn_0 : decode cX0_movesIn 0 = .ok (.aload_n 2, 1) := dk_44 (dk_at dksX0_movesIn_0 0 rfl rfl)
theorem dX0_movesIn_1 : decode cX0_movesIn 1 = .ok (.iconst 0, 1) := dk_3 (dk_at dksX0_movesIn_0 1 rfl rfl)
theorem dX0_movesIn_2 : decode cX0_movesIn 2 = .ok (.aload_n 0, 1) := dk_42 (dk_at dksX0_movesIn_0 2 rfl rfl)
theorem dX0_movesIn_3 : decode cX0_movesIn 3 = .ok (.iload_n 1, 1) := dk_27 (dk_at dksX0_movesIn_0 3 rfl rfl)
theorem dX0_movesIn_4 : decode cX0_movesIn 4 = .ok (.invokevirtual 125, 3) := dk_182 0 125 (dk_at dksX0_movesIn_0 4 rfl rfl)
theorem dX0_movesIn_7 : decode cX0_movesIn 7 = .ok (.i2l, 1) := dk_133 (dk_at dksX0_movesIn_0 7 rfl rfl)
theorem dX0_movesIn_8 : decode cX0_movesIn 8 = .ok (.lastore, 1) := dk_80 (dk_at dksX0_movesIn_0 8 rfl rfl)
theorem dX0_movesIn_9 : decode cX0_movesIn 9 = .ok (.goto 9, 3) := dk_167 0 9 (dk_at dksX0_movesIn_0 9 rfl rfl)
theorem dX0_movesIn_12 : decode cX0_movesIn 12 = .ok (.astore_n 3, 1) := dk_78 (dk_at dksX0_movesIn_0 12 rfl rfl)
theorem dX0_movesIn_13 : decode cX0_movesIn 13 = .ok (.iconst 1, 1) := dk_4 (dk_at dksX0_movesIn_0 13 rfl rfl)
theorem dX0_movesIn_14 : decode cX0_movesIn 14 = .ok (.ireturn, 1) := dk_172 (dk_at dksX0_movesIn_0 14 rfl rfl)
theorem dX0_movesIn_15 : decode cX0_movesIn 15 = .ok (.astore_n 3, 1) := dk_78 (dk_at dksX0_movesIn_0 15 rfl rfl)
theorem dX0_movesIn_16 : decode cX0_movesIn 16 = .ok (.iconst 2, 1) := dk_5 (dk_at dksX0_movesIn_0 16 rfl rfl)
theorem dX0_movesIn_17 : decode cX0_movesIn 17 = .ok (.ireturn, 1) := dk_172 (dk_at dksX0_movesIn_0 17 rfl rfl)
theorem dX0_movesIn_18 : decode cX0_movesIn 18 = .ok (.iconst 0, 1) := dk_3 (dk_at dksX0_movesIn_0 18 rfl rfl)
theorem dX0_movesIn_19 : decode cX0_movesIn 19 = .ok (.ireturn, 1) := dk_172 (dk_at dksX0_movesIn_0 19 rfl rfl)
abbrev cX0_stillIn : ByteArray := method_37_code
def yX0_stillIn : MethodName := ⟨RX0, "stillIn", "(LMultipoleLine;[J)I"⟩
def dkwX0_stillIn_0 : List UInt8 := [43, 3, 42, 182, 0, 128, 133, 80, 167, 0, 6, 77, 4, 172, 3, 172]
abbrev dktX0_stillIn_0 : List UInt8 := dkwX0_stillIn_0 ++ []
theorem dksX0_stillIn_0 : cX0_stillIn.data.toList.drop 0 = dktX0_stillIn_0 := by decide +kernel
theorem dX0_stillIn_0 : decode cX0_stillIn 0 = .ok (.aload_n 1, 1) := dk_43 (dk_at dksX0_stillIn_0 0 rfl rfl)
theorem dX0_stillIn_1 : decode cX0_stillIn 1 = .ok (.iconst 0, 1) := dk_3 (dk_at dksX0_stillIn_0 1 rfl rfl)
theorem dX0_stillIn_2 : decode cX0_stillIn 2 = .ok (.aload_n 0, 1) := dk_42 (dk_at dksX0_stillIn_0 2 rfl rfl)
theorem dX0_stillIn_3 : decode cX0_stillIn 3 = .ok (.invokevirtual 128, 3) := dk_182 0 128 (dk_at dksX0_stillIn_0 3 rfl rfl)
theorem dX0_stillIn_6 : decode cX0_stillIn 6 = .ok (.i2l, 1) := dk_133 (dk_at dksX0_stillIn_0 6 rfl rfl)
theorem dX0_stillIn_7 : decode cX0_stillIn 7 = .ok (.lastore, 1) := dk_80 (dk_at dksX0_stillIn_0 7 rfl rfl)
theorem dX0_stillIn_8 : decode cX0_stillIn 8 = .ok (.goto 6, 3) := dk_167 0 6 (dk_at dksX0_stillIn_0 8 rfl rfl)
theorem dX0_stillIn_11 : decode cX0_stillIn 11 = .ok (.astore_n 2, 1) := dk_77 (dk_at dksX0_stillIn_0 11 rfl rfl)
theorem dX0_stillIn_12 : decode cX0_stillIn 12 = .ok (.iconst 1, 1) := dk_4 (dk_at dksX0_stillIn_0 12 rfl rfl)
theorem dX0_stillIn_13 : decode cX0_stillIn 13 = .ok (.ireturn, 1) := dk_172 (dk_at dksX0_stillIn_0 13 rfl rfl)
theorem dX0_stillIn_14 : decode cX0_stillIn 14 = .ok (.iconst 0, 1) := dk_3 (dk_at dksX0_stillIn_0 14 rfl rfl)
theorem dX0_stillIn_15 : decode cX0_stillIn 15 = .ok (.ireturn, 1) := dk_172 (dk_at dksX0_stillIn_0 15 rfl rfl)
abbrev cX0_orderFor : ByteArray := method_38_code
def yX0_orderFor : MethodName := ⟨RX0, "orderFor", "(LMultipoleLine;II[J)I"⟩
def dkwX0_orderFor_0 : List UInt8 := [45, 3, 42, 27, 28, 182, 0, 131, 133, 80, 167, 0, 11, 58, 4, 4, 172, 58, 4, 5, 172, 3, 172]
abbrev dktX0_orderFor_0 : List UInt8 := dkwX0_orderFor_0 ++ []
theorem dksX0_orderFor_0 : cX0_orderFor.data.toList.drop 0 = dktX0_orderFor_0 := by decide +kernel
theorem dX0_orderFor_0 : decode cX0_orderFor 0 = .ok (.aload_n 3, 1) := dk_45 (dk_at dksX0_orderFor_0 0 rfl rfl)
theorem dX0_orderFor_1 : decode cX0_orderFor 1 = .ok (.iconst 0, 1) := dk_3 (dk_at dksX0_orderFor_0 1 rfl rfl)
theorem dX0_orderFor_2 : decode cX0_orderFor 2 = .ok (.aload_n 0, 1) := dk_42 (dk_at dksX0_orderFor_0 2 rfl rfl)
theorem dX0_orderFor_3 : decode cX0_orderFor 3 = .ok (.iload_n 1, 1) := dk_27 (dk_at dksX0_orderFor_0 3 rfl rfl)
theorem dX0_orderFor_4 : decode cX0_orderFor 4 = .ok (.iload_n 2, 1) := dk_28 (dk_at dksX0_orderFor_0 4 rfl rfl)
theorem dX0_orderFor_5 : decode cX0_orderFor 5 = .ok (.invokevirtual 131, 3) := dk_182 0 131 (dk_at dksX0_orderFor_0 5 rfl rfl)
theorem dX0_orderFor_8 : decode cX0_orderFor 8 = .ok (.i2l, 1) := dk_133 (dk_at dksX0_orderFor_0 8 rfl rfl)
theorem dX0_orderFor_9 : decode cX0_orderFor 9 = .ok (.lastore, 1) := dk_80 (dk_at dksX0_orderFor_0 9 rfl rfl)
theorem dX0_orderFor_10 : decode cX0_orderFor 10 = .ok (.goto 11, 3) := dk_167 0 11 (dk_at dksX0_orderFor_0 10 rfl rfl)
theorem dX0_orderFor_13 : decode cX0_orderFor 13 = .ok (.astore 4, 2) := dk_58 4 (dk_at dksX0_orderFor_0 13 rfl rfl)
theorem dX0_orderFor_15 : decode cX0_orderFor 15 = .ok (.iconst 1, 1) := dk_4 (dk_at dksX0_orderFor_0 15 rfl rfl)
theorem dX0_orderFor_16 : decode cX0_orderFor 16 = .ok (.ireturn, 1) := dk_172 (dk_at dksX0_orderFor_0 16 rfl rfl)
theorem dX0_orderFor_17 : decode cX0_orderFor 17 = .ok (.astore 4, 2) := dk_58 4 (dk_at dksX0_orderFor_0 17 rfl rfl)
theorem dX0_orderFor_19 : decode cX0_orderFor 19 = .ok (.iconst 2, 1) := dk_5 (dk_at dksX0_orderFor_0 19 rfl rfl)
theorem dX0_orderFor_20 : decode cX0_orderFor 20 = .ok (.ireturn, 1) := dk_172 (dk_at dksX0_orderFor_0 20 rfl rfl)
theorem dX0_orderFor_21 : decode cX0_orderFor 21 = .ok (.iconst 0, 1) := dk_3 (dk_at dksX0_orderFor_0 21 rfl rfl)
theorem dX0_orderFor_22 : decode cX0_orderFor 22 = .ok (.ireturn, 1) := dk_172 (dk_at dksX0_orderFor_0 22 rfl rfl)
abbrev cX0_bestLevels : ByteArray := method_39_code
def yX0_bestLevels : MethodName := ⟨RX0, "bestLevels", "(LMultipoleLine;[J)I"⟩
def dkwX0_bestLevels_0 : List UInt8 := [43, 3, 42, 182, 0, 134, 133, 80, 167, 0, 6, 77, 4, 172, 3, 172]
abbrev dktX0_bestLevels_0 : List UInt8 := dkwX0_bestLevels_0 ++ []
theorem dksX0_bestLevels_0 : cX0_bestLevels.data.toList.drop 0 = dktX0_bestLevels_0 := by decide +kernel
theorem dX0_bestLevels_0 : decode cX0_bestLevels 0 = .ok (.aload_n 1, 1) := dk_43 (dk_at dksX0_bestLevels_0 0 rfl rfl)
theorem dX0_bestLevels_1 : decode cX0_bestLevels 1 = .ok (.iconst 0, 1) := dk_3 (dk_at dksX0_bestLevels_0 1 rfl rfl)
theorem dX0_bestLevels_2 : decode cX0_bestLevels 2 = .ok (.aload_n 0, 1) := dk_42 (dk_at dksX0_bestLevels_0 2 rfl rfl)
theorem dX0_bestLevels_3 : decode cX0_bestLevels 3 = .ok (.invokevirtual 134, 3) := dk_182 0 134 (dk_at dksX0_bestLevels_0 3 rfl rfl)
theorem dX0_bestLevels_6 : decode cX0_bestLevels 6 = .ok (.i2l, 1) := dk_133 (dk_at dksX0_bestLevels_0 6 rfl rfl)
theorem dX0_bestLevels_7 : decode cX0_bestLevels 7 = .ok (.lastore, 1) := dk_80 (dk_at dksX0_bestLevels_0 7 rfl rfl)
theorem dX0_bestLevels_8 : decode cX0_bestLevels 8 = .ok (.goto 6, 3) := dk_167 0 6 (dk_at dksX0_bestLevels_0 8 rfl rfl)
theorem dX0_bestLevels_11 : decode cX0_bestLevels 11 = .ok (.astore_n 2, 1) := dk_77 (dk_at dksX0_bestLevels_0 11 rfl rfl)
theorem dX0_bestLevels_12 : decode cX0_bestLevels 12 = .ok (.iconst 1, 1) := dk_4 (dk_at dksX0_bestLevels_0 12 rfl rfl)
theorem dX0_bestLevels_13 : decode cX0_bestLevels 13 = .ok (.ireturn, 1) := dk_172 (dk_at dksX0_bestLevels_0 13 rfl rfl)
theorem dX0_bestLevels_14 : decode cX0_bestLevels 14 = .ok (.iconst 0, 1) := dk_3 (dk_at dksX0_bestLevels_0 14 rfl rfl)
theorem dX0_bestLevels_15 : decode cX0_bestLevels 15 = .ok (.ireturn, 1) := dk_172 (dk_at dksX0_bestLevels_0 15 rfl rfl)
abbrev cX0_without : ByteArray := method_40_code
def yX0_without : MethodName := ⟨RX0, "without", "(LMultipoleLine;II[D)I"⟩
def dkwX0_without_1 : List UInt8 := [3, 172]
abbrev dktX0_without_1 : List UInt8 := dkwX0_without_1 ++ []
def dkwX0_without_0 : List UInt8 := [45, 3, 42, 27, 28, 182, 0, 137, 82, 167, 0, 15, 58, 4, 4, 172, 58, 4, 5, 172, 58, 4, 6, 172]
abbrev dktX0_without_0 : List UInt8 := dkwX0_without_0 ++ dktX0_without_1
theorem dksX0_without_0 : cX0_without.data.toList.drop 0 = dktX0_without_0 := by decide +kernel
theorem dksX0_without_1 : cX0_without.data.toList.drop 24 = dktX0_without_1 := dk_seg dksX0_without_0 24 rfl rfl
theorem dX0_without_0 : decode cX0_without 0 = .ok (.aload_n 3, 1) := dk_45 (dk_at dksX0_without_0 0 rfl rfl)
theorem dX0_without_1 : decode cX0_without 1 = .ok (.iconst 0, 1) := dk_3 (dk_at dksX0_without_0 1 rfl rfl)
theorem dX0_without_2 : decode cX0_without 2 = .ok (.aload_n 0, 1) := dk_42 (dk_at dksX0_without_0 2 rfl rfl)
theorem dX0_without_3 : decode cX0_without 3 = .ok (.iload_n 1, 1) := dk_27 (dk_at dksX0_without_0 3 rfl rfl)
theorem dX0_without_4 : decode cX0_without 4 = .ok (.iload_n 2, 1) := dk_28 (dk_at dksX0_without_0 4 rfl rfl)
theorem dX0_without_5 : decode cX0_without 5 = .ok (.invokevirtual 137, 3) := dk_182 0 137 (dk_at dksX0_without_0 5 rfl rfl)
theorem dX0_without_8 : decode cX0_without 8 = .ok (.dastore, 1) := dk_82 (dk_at dksX0_without_0 8 rfl rfl)
theorem dX0_without_9 : decode cX0_without 9 = .ok (.goto 15, 3) := dk_167 0 15 (dk_at dksX0_without_0 9 rfl rfl)
theorem dX0_without_12 : decode cX0_without 12 = .ok (.astore 4, 2) := dk_58 4 (dk_at dksX0_without_0 12 rfl rfl)
theorem dX0_without_14 : decode cX0_without 14 = .ok (.iconst 1, 1) := dk_4 (dk_at dksX0_without_0 14 rfl rfl)
theorem dX0_without_15 : decode cX0_without 15 = .ok (.ireturn, 1) := dk_172 (dk_at dksX0_without_0 15 rfl rfl)
theorem dX0_without_16 : decode cX0_without 16 = .ok (.astore 4, 2) := dk_58 4 (dk_at dksX0_without_0 16 rfl rfl)
theorem dX0_without_18 : decode cX0_without 18 = .ok (.iconst 2, 1) := dk_5 (dk_at dksX0_without_0 18 rfl rfl)
theorem dX0_without_19 : decode cX0_without 19 = .ok (.ireturn, 1) := dk_172 (dk_at dksX0_without_0 19 rfl rfl)
theorem dX0_without_20 : decode cX0_without 20 = .ok (.astore 4, 2) := dk_58 4 (dk_at dksX0_without_0 20 rfl rfl)
theorem dX0_without_22 : decode cX0_without 22 = .ok (.iconst 3, 1) := dk_6 (dk_at dksX0_without_0 22 rfl rfl)
theorem dX0_without_23 : decode cX0_without 23 = .ok (.ireturn, 1) := dk_172 (dk_at dksX0_without_0 23 rfl rfl)
theorem dX0_without_24 : decode cX0_without 24 = .ok (.iconst 0, 1) := dk_3 (dk_at dksX0_without_1 0 rfl rfl)
theorem dX0_without_25 : decode cX0_without 25 = .ok (.ireturn, 1) := dk_172 (dk_at dksX0_without_1 1 rfl rfl)
abbrev cX0_quietest : ByteArray := method_41_code
def yX0_quietest : MethodName := ⟨RX0, "quietest", "(LMultipoleLine;[J)I"⟩
def dkwX0_quietest_0 : List UInt8 := [43, 3, 42, 182, 0, 141, 133, 80, 167, 0, 6, 77, 4, 172, 3, 172]
abbrev dktX0_quietest_0 : List UInt8 := dkwX0_quietest_0 ++ []
theorem dksX0_quietest_0 : cX0_quietest.data.toList.drop 0 = dktX0_quietest_0 := by decide +kernel
theorem dX0_quietest_0 : decode cX0_quietest 0 = .ok (.aload_n 1, 1) := dk_43 (dk_at dksX0_quietest_0 0 rfl rfl)
theorem dX0_quietest_1 : decode cX0_quietest 1 = .ok (.iconst 0, 1) := dk_3 (dk_at dksX0_quietest_0 1 rfl rfl)
theorem dX0_quietest_2 : decode cX0_quietest 2 = .ok (.aload_n 0, 1) := dk_42 (dk_at dksX0_quietest_0 2 rfl rfl)
theorem dX0_quietest_3 : decode cX0_quietest 3 = .ok (.invokevirtual 141, 3) := dk_182 0 141 (dk_at dksX0_quietest_0 3 rfl rfl)
theorem dX0_quietest_6 : decode cX0_quietest 6 = .ok (.i2l, 1) := dk_133 (dk_at dksX0_quietest_0 6 rfl rfl)
theorem dX0_quietest_7 : decode cX0_quietest 7 = .ok (.lastore, 1) := dk_80 (dk_at dksX0_quietest_0 7 rfl rfl)
theorem dX0_quietest_8 : decode cX0_quietest 8 = .ok (.goto 6, 3) := dk_167 0 6 (dk_at dksX0_quietest_0 8 rfl rfl)
theorem dX0_quietest_11 : decode cX0_quietest 11 = .ok (.astore_n 2, 1) := dk_77 (dk_at dksX0_quietest_0 11 rfl rfl)
theorem dX0_quietest_12 : decode cX0_quietest 12 = .ok (.iconst 1, 1) := dk_4 (dk_at dksX0_quietest_0 12 rfl rfl)
theorem dX0_quietest_13 : decode cX0_quietest 13 = .ok (.ireturn, 1) := dk_172 (dk_at dksX0_quietest_0 13 rfl rfl)
theorem dX0_quietest_14 : decode cX0_quietest 14 = .ok (.iconst 0, 1) := dk_3 (dk_at dksX0_quietest_0 14 rfl rfl)
theorem dX0_quietest_15 : decode cX0_quietest 15 = .ok (.ireturn, 1) := dk_172 (dk_at dksX0_quietest_0 15 rfl rfl)
abbrev cX0_energy : ByteArray := method_42_code
def yX0_energy : MethodName := ⟨RX0, "energy", "(LMultipoleLine;Z[D)I"⟩
def dkwX0_energy_0 : List UInt8 := [44, 3, 42, 27, 182, 0, 144, 82, 167, 0, 6, 78, 4, 172, 3, 172]
abbrev dktX0_energy_0 : List UInt8 := dkwX0_energy_0 ++ []
theorem dksX0_energy_0 : cX0_energy.data.toList.drop 0 = dktX0_energy_0 := by decide +kernel
theorem dX0_energy_0 : decode cX0_energy 0 = .ok (.aload_n 2, 1) := dk_44 (dk_at dksX0_energy_0 0 rfl rfl)
theorem dX0_energy_1 : decode cX0_energy 1 = .ok (.iconst 0, 1) := dk_3 (dk_at dksX0_energy_0 1 rfl rfl)
theorem dX0_energy_2 : decode cX0_energy 2 = .ok (.aload_n 0, 1) := dk_42 (dk_at dksX0_energy_0 2 rfl rfl)
theorem dX0_energy_3 : decode cX0_energy 3 = .ok (.iload_n 1, 1) := dk_27 (dk_at dksX0_energy_0 3 rfl rfl)
theorem dX0_energy_4 : decode cX0_energy 4 = .ok (.invokevirtual 144, 3) := dk_182 0 144 (dk_at dksX0_energy_0 4 rfl rfl)
theorem dX0_energy_7 : decode cX0_energy 7 = .ok (.dastore, 1) := dk_82 (dk_at dksX0_energy_0 7 rfl rfl)
theorem dX0_energy_8 : decode cX0_energy 8 = .ok (.goto 6, 3) := dk_167 0 6 (dk_at dksX0_energy_0 8 rfl rfl)
theorem dX0_energy_11 : decode cX0_energy 11 = .ok (.astore_n 3, 1) := dk_78 (dk_at dksX0_energy_0 11 rfl rfl)
theorem dX0_energy_12 : decode cX0_energy 12 = .ok (.iconst 1, 1) := dk_4 (dk_at dksX0_energy_0 12 rfl rfl)
theorem dX0_energy_13 : decode cX0_energy 13 = .ok (.ireturn, 1) := dk_172 (dk_at dksX0_energy_0 13 rfl rfl)
theorem dX0_energy_14 : decode cX0_energy 14 = .ok (.iconst 0, 1) := dk_3 (dk_at dksX0_energy_0 14 rfl rfl)
theorem dX0_energy_15 : decode cX0_energy 15 = .ok (.ireturn, 1) := dk_172 (dk_at dksX0_energy_0 15 rfl rfl)
abbrev cX0_nearestZero : ByteArray := method_43_code
def yX0_nearestZero : MethodName := ⟨RX0, "nearestZero", "(LMultipoleLine;I[J)I"⟩
def dkwX0_nearestZero_0 : List UInt8 := [44, 3, 42, 27, 182, 0, 148, 133, 80, 167, 0, 9, 78, 4, 172, 78, 5, 172, 3, 172]
abbrev dktX0_nearestZero_0 : List UInt8 := dkwX0_nearestZero_0 ++ []
theorem dksX0_nearestZero_0 : cX0_nearestZero.data.toList.drop 0 = dktX0_nearestZero_0 := by decide +kernel
theorem dX0_nearestZero_0 : decode cX0_nearestZero 0 = .ok (.aload_n 2, 1) := dk_44 (dk_at dksX0_nearestZero_0 0 rfl rfl)
theorem dX0_nearestZero_1 : decode cX0_nearestZero 1 = .ok (.iconst 0, 1) := dk_3 (dk_at dksX0_nearestZero_0 1 rfl rfl)
theorem dX0_nearestZero_2 : decode cX0_nearestZero 2 = .ok (.aload_n 0, 1) := dk_42 (dk_at dksX0_nearestZero_0 2 rfl rfl)
theorem dX0_nearestZero_3 : decode cX0_nearestZero 3 = .ok (.iload_n 1, 1) := dk_27 (dk_at dksX0_nearestZero_0 3 rfl rfl)
theorem dX0_nearestZero_4 : decode cX0_nearestZero 4 = .ok (.invokevirtual 148, 3) := dk_182 0 148 (dk_at dksX0_nearestZero_0 4 rfl rfl)
theorem dX0_nearestZero_7 : decode cX0_nearestZero 7 = .ok (.i2l, 1) := dk_133 (dk_at dksX0_nearestZero_0 7 rfl rfl)
theorem dX0_nearestZero_8 : decode cX0_nearestZero 8 = .ok (.lastore, 1) := dk_80 (dk_at dksX0_nearestZero_0 8 rfl rfl)
theorem dX0_nearestZero_9 : decode cX0_nearestZero 9 = .ok (.goto 9, 3) := dk_167 0 9 (dk_at dksX0_nearestZero_0 9 rfl rfl)
theorem dX0_nearestZero_12 : decode cX0_nearestZero 12 = .ok (.astore_n 3, 1) := dk_78 (dk_at dksX0_nearestZero_0 12 rfl rfl)
theorem dX0_nearestZero_13 : decode cX0_nearestZero 13 = .ok (.iconst 1, 1) := dk_4 (dk_at dksX0_nearestZero_0 13 rfl rfl)
theorem dX0_nearestZero_14 : decode cX0_nearestZero 14 = .ok (.ireturn, 1) := dk_172 (dk_at dksX0_nearestZero_0 14 rfl rfl)
theorem dX0_nearestZero_15 : decode cX0_nearestZero 15 = .ok (.astore_n 3, 1) := dk_78 (dk_at dksX0_nearestZero_0 15 rfl rfl)
theorem dX0_nearestZero_16 : decode cX0_nearestZero 16 = .ok (.iconst 2, 1) := dk_5 (dk_at dksX0_nearestZero_0 16 rfl rfl)
theorem dX0_nearestZero_17 : decode cX0_nearestZero 17 = .ok (.ireturn, 1) := dk_172 (dk_at dksX0_nearestZero_0 17 rfl rfl)
theorem dX0_nearestZero_18 : decode cX0_nearestZero 18 = .ok (.iconst 0, 1) := dk_3 (dk_at dksX0_nearestZero_0 18 rfl rfl)
theorem dX0_nearestZero_19 : decode cX0_nearestZero 19 = .ok (.ireturn, 1) := dk_172 (dk_at dksX0_nearestZero_0 19 rfl rfl)
abbrev cX0_pairs : ByteArray := method_44_code
def yX0_pairs : MethodName := ⟨RX0, "pairs", "(LMultipoleLine;I[J)I"⟩
def dkwX0_pairs_0 : List UInt8 := [44, 3, 42, 27, 182, 0, 151, 133, 80, 167, 0, 9, 78, 4, 172, 78, 5, 172, 3, 172]
abbrev dktX0_pairs_0 : List UInt8 := dkwX0_pairs_0 ++ []
theorem dksX0_pairs_0 : cX0_pairs.data.toList.drop 0 = dktX0_pairs_0 := by decide +kernel
theorem dX0_pairs_0 : decode cX0_pairs 0 = .ok (.aload_n 2, 1) := dk_44 (dk_at dksX0_pairs_0 0 rfl rfl)
theorem dX0_pairs_1 : decode cX0_pairs 1 = .ok (.iconst 0, 1) := dk_3 (dk_at dksX0_pairs_0 1 rfl rfl)
theorem dX0_pairs_2 : decode cX0_pairs 2 = .ok (.aload_n 0, 1) := dk_42 (dk_at dksX0_pairs_0 2 rfl rfl)
theorem dX0_pairs_3 : decode cX0_pairs 3 = .ok (.iload_n 1, 1) := dk_27 (dk_at dksX0_pairs_0 3 rfl rfl)
theorem dX0_pairs_4 : decode cX0_pairs 4 = .ok (.invokevirtual 151, 3) := dk_182 0 151 (dk_at dksX0_pairs_0 4 rfl rfl)
theorem dX0_pairs_7 : decode cX0_pairs 7 = .ok (.i2l, 1) := dk_133 (dk_at dksX0_pairs_0 7 rfl rfl)
theorem dX0_pairs_8 : decode cX0_pairs 8 = .ok (.lastore, 1) := dk_80 (dk_at dksX0_pairs_0 8 rfl rfl)
theorem dX0_pairs_9 : decode cX0_pairs 9 = .ok (.goto 9, 3) := dk_167 0 9 (dk_at dksX0_pairs_0 9 rfl rfl)
theorem dX0_pairs_12 : decode cX0_pairs 12 = .ok (.astore_n 3, 1) := dk_78 (dk_at dksX0_pairs_0 12 rfl rfl)
theorem dX0_pairs_13 : decode cX0_pairs 13 = .ok (.iconst 1, 1) := dk_4 (dk_at dksX0_pairs_0 13 rfl rfl)
theorem dX0_pairs_14 : decode cX0_pairs 14 = .ok (.ireturn, 1) := dk_172 (dk_at dksX0_pairs_0 14 rfl rfl)
theorem dX0_pairs_15 : decode cX0_pairs 15 = .ok (.astore_n 3, 1) := dk_78 (dk_at dksX0_pairs_0 15 rfl rfl)
theorem dX0_pairs_16 : decode cX0_pairs 16 = .ok (.iconst 2, 1) := dk_5 (dk_at dksX0_pairs_0 16 rfl rfl)
theorem dX0_pairs_17 : decode cX0_pairs 17 = .ok (.ireturn, 1) := dk_172 (dk_at dksX0_pairs_0 17 rfl rfl)
theorem dX0_pairs_18 : decode cX0_pairs 18 = .ok (.iconst 0, 1) := dk_3 (dk_at dksX0_pairs_0 18 rfl rfl)
theorem dX0_pairs_19 : decode cX0_pairs 19 = .ok (.ireturn, 1) := dk_172 (dk_at dksX0_pairs_0 19 rfl rfl)
abbrev cX0_balance : ByteArray := method_45_code
def yX0_balance : MethodName := ⟨RX0, "balance", "(LMultipoleLine;[D)I"⟩
def dkwX0_balance_0 : List UInt8 := [43, 3, 42, 182, 0, 154, 141, 82, 167, 0, 6, 77, 4, 172, 3, 172]
abbrev dktX0_balance_0 : List UInt8 := dkwX0_balance_0 ++ []
theorem dksX0_balance_0 : cX0_balance.data.toList.drop 0 = dktX0_balance_0 := by decide +kernel
theorem dX0_balance_0 : decode cX0_balance 0 = .ok (.aload_n 1, 1) := dk_43 (dk_at dksX0_balance_0 0 rfl rfl)
theorem dX0_balance_1 : decode cX0_balance 1 = .ok (.iconst 0, 1) := dk_3 (dk_at dksX0_balance_0 1 rfl rfl)
theorem dX0_balance_2 : decode cX0_balance 2 = .ok (.aload_n 0, 1) := dk_42 (dk_at dksX0_balance_0 2 rfl rfl)
theorem dX0_balance_3 : decode cX0_balance 3 = .ok (.invokevirtual 154, 3) := dk_182 0 154 (dk_at dksX0_balance_0 3 rfl rfl)
theorem dX0_balance_6 : decode cX0_balance 6 = .ok (.f2d, 1) := dk_141 (dk_at dksX0_balance_0 6 rfl rfl)
theorem dX0_balance_7 : decode cX0_balance 7 = .ok (.dastore, 1) := dk_82 (dk_at dksX0_balance_0 7 rfl rfl)
theorem dX0_balance_8 : decode cX0_balance 8 = .ok (.goto 6, 3) := dk_167 0 6 (dk_at dksX0_balance_0 8 rfl rfl)
theorem dX0_balance_11 : decode cX0_balance 11 = .ok (.astore_n 2, 1) := dk_77 (dk_at dksX0_balance_0 11 rfl rfl)
theorem dX0_balance_12 : decode cX0_balance 12 = .ok (.iconst 1, 1) := dk_4 (dk_at dksX0_balance_0 12 rfl rfl)
theorem dX0_balance_13 : decode cX0_balance 13 = .ok (.ireturn, 1) := dk_172 (dk_at dksX0_balance_0 13 rfl rfl)
theorem dX0_balance_14 : decode cX0_balance 14 = .ok (.iconst 0, 1) := dk_3 (dk_at dksX0_balance_0 14 rfl rfl)
theorem dX0_balance_15 : decode cX0_balance 15 = .ok (.ireturn, 1) := dk_172 (dk_at dksX0_balance_0 15 rfl rfl)
abbrev cX0_balanceBits : ByteArray := method_46_code
def yX0_balanceBits : MethodName := ⟨RX0, "balanceBits", "(LMultipoleLine;[J)I"⟩
def dkwX0_balanceBits_0 : List UInt8 := [43, 3, 42, 182, 0, 158, 133, 80, 167, 0, 6, 77, 4, 172, 3, 172]
abbrev dktX0_balanceBits_0 : List UInt8 := dkwX0_balanceBits_0 ++ []
theorem dksX0_balanceBits_0 : cX0_balanceBits.data.toList.drop 0 = dktX0_balanceBits_0 := by decide +kernel
theorem dX0_balanceBits_0 : decode cX0_balanceBits 0 = .ok (.aload_n 1, 1) := dk_43 (dk_at dksX0_balanceBits_0 0 rfl rfl)
theorem dX0_balanceBits_1 : decode cX0_balanceBits 1 = .ok (.iconst 0, 1) := dk_3 (dk_at dksX0_balanceBits_0 1 rfl rfl)
theorem dX0_balanceBits_2 : decode cX0_balanceBits 2 = .ok (.aload_n 0, 1) := dk_42 (dk_at dksX0_balanceBits_0 2 rfl rfl)
theorem dX0_balanceBits_3 : decode cX0_balanceBits 3 = .ok (.invokevirtual 158, 3) := dk_182 0 158 (dk_at dksX0_balanceBits_0 3 rfl rfl)
theorem dX0_balanceBits_6 : decode cX0_balanceBits 6 = .ok (.i2l, 1) := dk_133 (dk_at dksX0_balanceBits_0 6 rfl rfl)
theorem dX0_balanceBits_7 : decode cX0_balanceBits 7 = .ok (.lastore, 1) := dk_80 (dk_at dksX0_balanceBits_0 7 rfl rfl)
theorem dX0_balanceBits_8 : decode cX0_balanceBits 8 = .ok (.goto 6, 3) := dk_167 0 6 (dk_at dksX0_balanceBits_0 8 rfl rfl)
theorem dX0_balanceBits_11 : decode cX0_balanceBits 11 = .ok (.astore_n 2, 1) := dk_77 (dk_at dksX0_balanceBits_0 11 rfl rfl)
theorem dX0_balanceBits_12 : decode cX0_balanceBits 12 = .ok (.iconst 1, 1) := dk_4 (dk_at dksX0_balanceBits_0 12 rfl rfl)
theorem dX0_balanceBits_13 : decode cX0_balanceBits 13 = .ok (.ireturn, 1) := dk_172 (dk_at dksX0_balanceBits_0 13 rfl rfl)
theorem dX0_balanceBits_14 : decode cX0_balanceBits 14 = .ok (.iconst 0, 1) := dk_3 (dk_at dksX0_balanceBits_0 14 rfl rfl)
theorem dX0_balanceBits_15 : decode cX0_balanceBits 15 = .ok (.ireturn, 1) := dk_172 (dk_at dksX0_balanceBits_0 15 rfl rfl)
abbrev cX0_meanX : ByteArray := method_47_code
def yX0_meanX : MethodName := ⟨RX0, "meanX", "(LMultipoleLine;[D)I"⟩
def dkwX0_meanX_0 : List UInt8 := [43, 3, 42, 182, 0, 161, 82, 167, 0, 6, 77, 4, 172, 3, 172]
abbrev dktX0_meanX_0 : List UInt8 := dkwX0_meanX_0 ++ []
theorem dksX0_meanX_0 : cX0_meanX.data.toList.drop 0 = dktX0_meanX_0 := by decide +kernel
theorem dX0_meanX_0 : decode cX0_meanX 0 = .ok (.aload_n 1, 1) := dk_43 (dk_at dksX0_meanX_0 0 rfl rfl)
theorem dX0_meanX_1 : decode cX0_meanX 1 = .ok (.iconst 0, 1) := dk_3 (dk_at dksX0_meanX_0 1 rfl rfl)
theorem dX0_meanX_2 : decode cX0_meanX 2 = .ok (.aload_n 0, 1) := dk_42 (dk_at dksX0_meanX_0 2 rfl rfl)
theorem dX0_meanX_3 : decode cX0_meanX 3 = .ok (.invokevirtual 161, 3) := dk_182 0 161 (dk_at dksX0_meanX_0 3 rfl rfl)
theorem dX0_meanX_6 : decode cX0_meanX 6 = .ok (.dastore, 1) := dk_82 (dk_at dksX0_meanX_0 6 rfl rfl)
theorem dX0_meanX_7 : decode cX0_meanX 7 = .ok (.goto 6, 3) := dk_167 0 6 (dk_at dksX0_meanX_0 7 rfl rfl)
theorem dX0_meanX_10 : decode cX0_meanX 10 = .ok (.astore_n 2, 1) := dk_77 (dk_at dksX0_meanX_0 10 rfl rfl)
theorem dX0_meanX_11 : decode cX0_meanX 11 = .ok (.iconst 1, 1) := dk_4 (dk_at dksX0_meanX_0 11 rfl rfl)
theorem dX0_meanX_12 : decode cX0_meanX 12 = .ok (.ireturn, 1) := dk_172 (dk_at dksX0_meanX_0 12 rfl rfl)
theorem dX0_meanX_13 : decode cX0_meanX 13 = .ok (.iconst 0, 1) := dk_3 (dk_at dksX0_meanX_0 13 rfl rfl)
theorem dX0_meanX_14 : decode cX0_meanX 14 = .ok (.ireturn, 1) := dk_172 (dk_at dksX0_meanX_0 14 rfl rfl)
abbrev cX0_writeLeaves : ByteArray := method_48_code
def yX0_writeLeaves : MethodName := ⟨RX0, "writeLeaves", "(LMultipoleLine;[J)I"⟩
def dkwX0_writeLeaves_0 : List UInt8 := [43, 3, 42, 182, 0, 165, 133, 80, 167, 0, 6, 77, 4, 172, 3, 172]
abbrev dktX0_writeLeaves_0 : List UInt8 := dkwX0_writeLeaves_0 ++ []
theorem dksX0_writeLeaves_0 : cX0_writeLeaves.data.toList.drop 0 = dktX0_writeLeaves_0 := by decide +kernel
theorem dX0_writeLeaves_0 : decode cX0_writeLeaves 0 = .ok (.aload_n 1, 1) := dk_43 (dk_at dksX0_writeLeaves_0 0 rfl rfl)
theorem dX0_writeLeaves_1 : decode cX0_writeLeaves 1 = .ok (.iconst 0, 1) := dk_3 (dk_at dksX0_writeLeaves_0 1 rfl rfl)
theorem dX0_writeLeaves_2 : decode cX0_writeLeaves 2 = .ok (.aload_n 0, 1) := dk_42 (dk_at dksX0_writeLeaves_0 2 rfl rfl)
theorem dX0_writeLeaves_3 : decode cX0_writeLeaves 3 = .ok (.invokevirtual 165, 3) := dk_182 0 165 (dk_at dksX0_writeLeaves_0 3 rfl rfl)
theorem dX0_writeLeaves_6 : decode cX0_writeLeaves 6 = .ok (.i2l, 1) := dk_133 (dk_at dksX0_writeLeaves_0 6 rfl rfl)
theorem dX0_writeLeaves_7 : decode cX0_writeLeaves 7 = .ok (.lastore, 1) := dk_80 (dk_at dksX0_writeLeaves_0 7 rfl rfl)
theorem dX0_writeLeaves_8 : decode cX0_writeLeaves 8 = .ok (.goto 6, 3) := dk_167 0 6 (dk_at dksX0_writeLeaves_0 8 rfl rfl)
theorem dX0_writeLeaves_11 : decode cX0_writeLeaves 11 = .ok (.astore_n 2, 1) := dk_77 (dk_at dksX0_writeLeaves_0 11 rfl rfl)
theorem dX0_writeLeaves_12 : decode cX0_writeLeaves 12 = .ok (.iconst 1, 1) := dk_4 (dk_at dksX0_writeLeaves_0 12 rfl rfl)
theorem dX0_writeLeaves_13 : decode cX0_writeLeaves 13 = .ok (.ireturn, 1) := dk_172 (dk_at dksX0_writeLeaves_0 13 rfl rfl)
theorem dX0_writeLeaves_14 : decode cX0_writeLeaves 14 = .ok (.iconst 0, 1) := dk_3 (dk_at dksX0_writeLeaves_0 14 rfl rfl)
theorem dX0_writeLeaves_15 : decode cX0_writeLeaves 15 = .ok (.ireturn, 1) := dk_172 (dk_at dksX0_writeLeaves_0 15 rfl rfl)
abbrev cX0_writeBodies : ByteArray := method_49_code
def yX0_writeBodies : MethodName := ⟨RX0, "writeBodies", "(LMultipoleLine;[J)I"⟩
def dkwX0_writeBodies_0 : List UInt8 := [43, 3, 42, 182, 0, 168, 133, 80, 167, 0, 6, 77, 4, 172, 3, 172]
abbrev dktX0_writeBodies_0 : List UInt8 := dkwX0_writeBodies_0 ++ []
theorem dksX0_writeBodies_0 : cX0_writeBodies.data.toList.drop 0 = dktX0_writeBodies_0 := by decide +kernel
theorem dX0_writeBodies_0 : decode cX0_writeBodies 0 = .ok (.aload_n 1, 1) := dk_43 (dk_at dksX0_writeBodies_0 0 rfl rfl)
theorem dX0_writeBodies_1 : decode cX0_writeBodies 1 = .ok (.iconst 0, 1) := dk_3 (dk_at dksX0_writeBodies_0 1 rfl rfl)
theorem dX0_writeBodies_2 : decode cX0_writeBodies 2 = .ok (.aload_n 0, 1) := dk_42 (dk_at dksX0_writeBodies_0 2 rfl rfl)
theorem dX0_writeBodies_3 : decode cX0_writeBodies 3 = .ok (.invokevirtual 168, 3) := dk_182 0 168 (dk_at dksX0_writeBodies_0 3 rfl rfl)
theorem dX0_writeBodies_6 : decode cX0_writeBodies 6 = .ok (.i2l, 1) := dk_133 (dk_at dksX0_writeBodies_0 6 rfl rfl)
theorem dX0_writeBodies_7 : decode cX0_writeBodies 7 = .ok (.lastore, 1) := dk_80 (dk_at dksX0_writeBodies_0 7 rfl rfl)
theorem dX0_writeBodies_8 : decode cX0_writeBodies 8 = .ok (.goto 6, 3) := dk_167 0 6 (dk_at dksX0_writeBodies_0 8 rfl rfl)
theorem dX0_writeBodies_11 : decode cX0_writeBodies 11 = .ok (.astore_n 2, 1) := dk_77 (dk_at dksX0_writeBodies_0 11 rfl rfl)
theorem dX0_writeBodies_12 : decode cX0_writeBodies 12 = .ok (.iconst 1, 1) := dk_4 (dk_at dksX0_writeBodies_0 12 rfl rfl)
theorem dX0_writeBodies_13 : decode cX0_writeBodies 13 = .ok (.ireturn, 1) := dk_172 (dk_at dksX0_writeBodies_0 13 rfl rfl)
theorem dX0_writeBodies_14 : decode cX0_writeBodies 14 = .ok (.iconst 0, 1) := dk_3 (dk_at dksX0_writeBodies_0 14 rfl rfl)
theorem dX0_writeBodies_15 : decode cX0_writeBodies 15 = .ok (.ireturn, 1) := dk_172 (dk_at dksX0_writeBodies_0 15 rfl rfl)
abbrev cX0_writeLine : ByteArray := method_50_code
def yX0_writeLine : MethodName := ⟨RX0, "writeLine", "(LMultipoleLine;[J)I"⟩
def dkwX0_writeLine_0 : List UInt8 := [43, 3, 42, 182, 0, 171, 133, 80, 167, 0, 6, 77, 4, 172, 3, 172]
abbrev dktX0_writeLine_0 : List UInt8 := dkwX0_writeLine_0 ++ []
theorem dksX0_writeLine_0 : cX0_writeLine.data.toList.drop 0 = dktX0_writeLine_0 := by decide +kernel
theorem dX0_writeLine_0 : decode cX0_writeLine 0 = .ok (.aload_n 1, 1) := dk_43 (dk_at dksX0_writeLine_0 0 rfl rfl)
theorem dX0_writeLine_1 : decode cX0_writeLine 1 = .ok (.iconst 0, 1) := dk_3 (dk_at dksX0_writeLine_0 1 rfl rfl)
theorem dX0_writeLine_2 : decode cX0_writeLine 2 = .ok (.aload_n 0, 1) := dk_42 (dk_at dksX0_writeLine_0 2 rfl rfl)
theorem dX0_writeLine_3 : decode cX0_writeLine 3 = .ok (.invokevirtual 171, 3) := dk_182 0 171 (dk_at dksX0_writeLine_0 3 rfl rfl)
theorem dX0_writeLine_6 : decode cX0_writeLine 6 = .ok (.i2l, 1) := dk_133 (dk_at dksX0_writeLine_0 6 rfl rfl)
theorem dX0_writeLine_7 : decode cX0_writeLine 7 = .ok (.lastore, 1) := dk_80 (dk_at dksX0_writeLine_0 7 rfl rfl)
theorem dX0_writeLine_8 : decode cX0_writeLine 8 = .ok (.goto 6, 3) := dk_167 0 6 (dk_at dksX0_writeLine_0 8 rfl rfl)
theorem dX0_writeLine_11 : decode cX0_writeLine 11 = .ok (.astore_n 2, 1) := dk_77 (dk_at dksX0_writeLine_0 11 rfl rfl)
theorem dX0_writeLine_12 : decode cX0_writeLine 12 = .ok (.iconst 1, 1) := dk_4 (dk_at dksX0_writeLine_0 12 rfl rfl)
theorem dX0_writeLine_13 : decode cX0_writeLine 13 = .ok (.ireturn, 1) := dk_172 (dk_at dksX0_writeLine_0 13 rfl rfl)
theorem dX0_writeLine_14 : decode cX0_writeLine 14 = .ok (.iconst 0, 1) := dk_3 (dk_at dksX0_writeLine_0 14 rfl rfl)
theorem dX0_writeLine_15 : decode cX0_writeLine 15 = .ok (.ireturn, 1) := dk_172 (dk_at dksX0_writeLine_0 15 rfl rfl)
abbrev cX0_writeFar : ByteArray := method_51_code
def yX0_writeFar : MethodName := ⟨RX0, "writeFar", "(LMultipoleLine;I[J)I"⟩
def dkwX0_writeFar_0 : List UInt8 := [44, 3, 42, 27, 182, 0, 174, 133, 80, 167, 0, 9, 78, 4, 172, 78, 5, 172, 3, 172]
abbrev dktX0_writeFar_0 : List UInt8 := dkwX0_writeFar_0 ++ []
theorem dksX0_writeFar_0 : cX0_writeFar.data.toList.drop 0 = dktX0_writeFar_0 := by decide +kernel
theorem dX0_writeFar_0 : decode cX0_writeFar 0 = .ok (.aload_n 2, 1) := dk_44 (dk_at dksX0_writeFar_0 0 rfl rfl)
theorem dX0_writeFar_1 : decode cX0_writeFar 1 = .ok (.iconst 0, 1) := dk_3 (dk_at dksX0_writeFar_0 1 rfl rfl)
theorem dX0_writeFar_2 : decode cX0_writeFar 2 = .ok (.aload_n 0, 1) := dk_42 (dk_at dksX0_writeFar_0 2 rfl rfl)
theorem dX0_writeFar_3 : decode cX0_writeFar 3 = .ok (.iload_n 1, 1) := dk_27 (dk_at dksX0_writeFar_0 3 rfl rfl)
theorem dX0_writeFar_4 : decode cX0_writeFar 4 = .ok (.invokevirtual 174, 3) := dk_182 0 174 (dk_at dksX0_writeFar_0 4 rfl rfl)
theorem dX0_writeFar_7 : decode cX0_writeFar 7 = .ok (.i2l, 1) := dk_133 (dk_at dksX0_writeFar_0 7 rfl rfl)
theorem dX0_writeFar_8 : decode cX0_writeFar 8 = .ok (.lastore, 1) := dk_80 (dk_at dksX0_writeFar_0 8 rfl rfl)
theorem dX0_writeFar_9 : decode cX0_writeFar 9 = .ok (.goto 9, 3) := dk_167 0 9 (dk_at dksX0_writeFar_0 9 rfl rfl)
theorem dX0_writeFar_12 : decode cX0_writeFar 12 = .ok (.astore_n 3, 1) := dk_78 (dk_at dksX0_writeFar_0 12 rfl rfl)
theorem dX0_writeFar_13 : decode cX0_writeFar 13 = .ok (.iconst 1, 1) := dk_4 (dk_at dksX0_writeFar_0 13 rfl rfl)
theorem dX0_writeFar_14 : decode cX0_writeFar 14 = .ok (.ireturn, 1) := dk_172 (dk_at dksX0_writeFar_0 14 rfl rfl)
theorem dX0_writeFar_15 : decode cX0_writeFar 15 = .ok (.astore_n 3, 1) := dk_78 (dk_at dksX0_writeFar_0 15 rfl rfl)
theorem dX0_writeFar_16 : decode cX0_writeFar 16 = .ok (.iconst 2, 1) := dk_5 (dk_at dksX0_writeFar_0 16 rfl rfl)
theorem dX0_writeFar_17 : decode cX0_writeFar 17 = .ok (.ireturn, 1) := dk_172 (dk_at dksX0_writeFar_0 17 rfl rfl)
theorem dX0_writeFar_18 : decode cX0_writeFar 18 = .ok (.iconst 0, 1) := dk_3 (dk_at dksX0_writeFar_0 18 rfl rfl)
theorem dX0_writeFar_19 : decode cX0_writeFar 19 = .ok (.ireturn, 1) := dk_172 (dk_at dksX0_writeFar_0 19 rfl rfl)
abbrev cX0_textByte : ByteArray := method_52_code
def yX0_textByte : MethodName := ⟨RX0, "textByte", "(LMultipoleLine;I[J)I"⟩
def dkwX0_textByte_0 : List UInt8 := [44, 3, 42, 27, 182, 0, 177, 133, 80, 167, 0, 6, 78, 4, 172, 3, 172]
abbrev dktX0_textByte_0 : List UInt8 := dkwX0_textByte_0 ++ []
theorem dksX0_textByte_0 : cX0_textByte.data.toList.drop 0 = dktX0_textByte_0 := by decide +kernel
theorem dX0_textByte_0 : decode cX0_textByte 0 = .ok (.aload_n 2, 1) := dk_44 (dk_at dksX0_textByte_0 0 rfl rfl)
theorem dX0_textByte_1 : decode cX0_textByte 1 = .ok (.iconst 0, 1) := dk_3 (dk_at dksX0_textByte_0 1 rfl rfl)
theorem dX0_textByte_2 : decode cX0_textByte 2 = .ok (.aload_n 0, 1) := dk_42 (dk_at dksX0_textByte_0 2 rfl rfl)
theorem dX0_textByte_3 : decode cX0_textByte 3 = .ok (.iload_n 1, 1) := dk_27 (dk_at dksX0_textByte_0 3 rfl rfl)
theorem dX0_textByte_4 : decode cX0_textByte 4 = .ok (.invokevirtual 177, 3) := dk_182 0 177 (dk_at dksX0_textByte_0 4 rfl rfl)
theorem dX0_textByte_7 : decode cX0_textByte 7 = .ok (.i2l, 1) := dk_133 (dk_at dksX0_textByte_0 7 rfl rfl)
theorem dX0_textByte_8 : decode cX0_textByte 8 = .ok (.lastore, 1) := dk_80 (dk_at dksX0_textByte_0 8 rfl rfl)
theorem dX0_textByte_9 : decode cX0_textByte 9 = .ok (.goto 6, 3) := dk_167 0 6 (dk_at dksX0_textByte_0 9 rfl rfl)
theorem dX0_textByte_12 : decode cX0_textByte 12 = .ok (.astore_n 3, 1) := dk_78 (dk_at dksX0_textByte_0 12 rfl rfl)
theorem dX0_textByte_13 : decode cX0_textByte 13 = .ok (.iconst 1, 1) := dk_4 (dk_at dksX0_textByte_0 13 rfl rfl)
theorem dX0_textByte_14 : decode cX0_textByte 14 = .ok (.ireturn, 1) := dk_172 (dk_at dksX0_textByte_0 14 rfl rfl)
theorem dX0_textByte_15 : decode cX0_textByte 15 = .ok (.iconst 0, 1) := dk_3 (dk_at dksX0_textByte_0 15 rfl rfl)
theorem dX0_textByte_16 : decode cX0_textByte 16 = .ok (.ireturn, 1) := dk_172 (dk_at dksX0_textByte_0 16 rfl rfl)
abbrev cX0_add : ByteArray := method_53_code
def yX0_add : MethodName := ⟨RX0, "add", "(LMultipoleLine;ZII[J)I"⟩
def dkwX0_add_1 : List UInt8 := [172]
abbrev dktX0_add_1 : List UInt8 := dkwX0_add_1 ++ []
def dkwX0_add_0 : List UInt8 := [25, 4, 3, 42, 27, 28, 29, 182, 0, 180, 133, 80, 167, 0, 11, 58, 5, 4, 172, 58, 5, 5, 172, 3]
abbrev dktX0_add_0 : List UInt8 := dkwX0_add_0 ++ dktX0_add_1
theorem dksX0_add_0 : cX0_add.data.toList.drop 0 = dktX0_add_0 := by decide +kernel
theorem dksX0_add_1 : cX0_add.data.toList.drop 24 = dktX0_add_1 := dk_seg dksX0_add_0 24 rfl rfl
theorem dX0_add_0 : decode cX0_add 0 = .ok (.aload 4, 2) := dk_25 4 (dk_at dksX0_add_0 0 rfl rfl)
theorem dX0_add_2 : decode cX0_add 2 = .ok (.iconst 0, 1) := dk_3 (dk_at dksX0_add_0 2 rfl rfl)
theorem dX0_add_3 : decode cX0_add 3 = .ok (.aload_n 0, 1) := dk_42 (dk_at dksX0_add_0 3 rfl rfl)
theorem dX0_add_4 : decode cX0_add 4 = .ok (.iload_n 1, 1) := dk_27 (dk_at dksX0_add_0 4 rfl rfl)
theorem dX0_add_5 : decode cX0_add 5 = .ok (.iload_n 2, 1) := dk_28 (dk_at dksX0_add_0 5 rfl rfl)
theorem dX0_add_6 : decode cX0_add 6 = .ok (.iload_n 3, 1) := dk_29 (dk_at dksX0_add_0 6 rfl rfl)
theorem dX0_add_7 : decode cX0_add 7 = .ok (.invokevirtual 180, 3) := dk_182 0 180 (dk_at dksX0_add_0 7 rfl rfl)
theorem dX0_add_10 : decode cX0_add 10 = .ok (.i2l, 1) := dk_133 (dk_at dksX0_add_0 10 rfl rfl)
theorem dX0_add_11 : decode cX0_add 11 = .ok (.lastore, 1) := dk_80 (dk_at dksX0_add_0 11 rfl rfl)
theorem dX0_add_12 : decode cX0_add 12 = .ok (.goto 11, 3) := dk_167 0 11 (dk_at dksX0_add_0 12 rfl rfl)
theorem dX0_add_15 : decode cX0_add 15 = .ok (.astore 5, 2) := dk_58 5 (dk_at dksX0_add_0 15 rfl rfl)
theorem dX0_add_17 : decode cX0_add 17 = .ok (.iconst 1, 1) := dk_4 (dk_at dksX0_add_0 17 rfl rfl)
theorem dX0_add_18 : decode cX0_add 18 = .ok (.ireturn, 1) := dk_172 (dk_at dksX0_add_0 18 rfl rfl)
theorem dX0_add_19 : decode cX0_add 19 = .ok (.astore 5, 2) := dk_58 5 (dk_at dksX0_add_0 19 rfl rfl)
theorem dX0_add_21 : decode cX0_add 21 = .ok (.iconst 2, 1) := dk_5 (dk_at dksX0_add_0 21 rfl rfl)
theorem dX0_add_22 : decode cX0_add 22 = .ok (.ireturn, 1) := dk_172 (dk_at dksX0_add_0 22 rfl rfl)
theorem dX0_add_23 : decode cX0_add 23 = .ok (.iconst 0, 1) := dk_3 (dk_at dksX0_add_0 23 rfl rfl)
theorem dX0_add_24 : decode cX0_add 24 = .ok (.ireturn, 1) := dk_172 (dk_at dksX0_add_1 0 rfl rfl)
abbrev cX0_move : ByteArray := method_54_code
def yX0_move : MethodName := ⟨RX0, "move", "(LMultipoleLine;II[J)I"⟩
def dkwX0_move_1 : List UInt8 := [172, 3, 172]
abbrev dktX0_move_1 : List UInt8 := dkwX0_move_1 ++ []
def dkwX0_move_0 : List UInt8 := [45, 3, 42, 27, 28, 182, 0, 184, 133, 80, 167, 0, 15, 58, 4, 4, 172, 58, 4, 5, 172, 58, 4, 6]
abbrev dktX0_move_0 : List UInt8 := dkwX0_move_0 ++ dktX0_move_1
theorem dksX0_move_0 : cX0_move.data.toList.drop 0 = dktX0_move_0 := by decide +kernel
theorem dksX0_move_1 : cX0_move.data.toList.drop 24 = dktX0_move_1 := dk_seg dksX0_move_0 24 rfl rfl
theorem dX0_move_0 : decode cX0_move 0 = .ok (.aload_n 3, 1) := dk_45 (dk_at dksX0_move_0 0 rfl rfl)
theorem dX0_move_1 : decode cX0_move 1 = .ok (.iconst 0, 1) := dk_3 (dk_at dksX0_move_0 1 rfl rfl)
theorem dX0_move_2 : decode cX0_move 2 = .ok (.aload_n 0, 1) := dk_42 (dk_at dksX0_move_0 2 rfl rfl)
theorem dX0_move_3 : decode cX0_move 3 = .ok (.iload_n 1, 1) := dk_27 (dk_at dksX0_move_0 3 rfl rfl)
theorem dX0_move_4 : decode cX0_move 4 = .ok (.iload_n 2, 1) := dk_28 (dk_at dksX0_move_0 4 rfl rfl)
theorem dX0_move_5 : decode cX0_move 5 = .ok (.invokevirtual 184, 3) := dk_182 0 184 (dk_at dksX0_move_0 5 rfl rfl)
theorem dX0_move_8 : decode cX0_move 8 = .ok (.i2l, 1) := dk_133 (dk_at dksX0_move_0 8 rfl rfl)
theorem dX0_move_9 : decode cX0_move 9 = .ok (.lastore, 1) := dk_80 (dk_at dksX0_move_0 9 rfl rfl)
theorem dX0_move_10 : decode cX0_move 10 = .ok (.goto 15, 3) := dk_167 0 15 (dk_at dksX0_move_0 10 rfl rfl)
theorem dX0_move_13 : decode cX0_move 13 = .ok (.astore 4, 2) := dk_58 4 (dk_at dksX0_move_0 13 rfl rfl)
theorem dX0_move_15 : decode cX0_move 15 = .ok (.iconst 1, 1) := dk_4 (dk_at dksX0_move_0 15 rfl rfl)
theorem dX0_move_16 : decode cX0_move 16 = .ok (.ireturn, 1) := dk_172 (dk_at dksX0_move_0 16 rfl rfl)
theorem dX0_move_17 : decode cX0_move 17 = .ok (.astore 4, 2) := dk_58 4 (dk_at dksX0_move_0 17 rfl rfl)
theorem dX0_move_19 : decode cX0_move 19 = .ok (.iconst 2, 1) := dk_5 (dk_at dksX0_move_0 19 rfl rfl)
theorem dX0_move_20 : decode cX0_move 20 = .ok (.ireturn, 1) := dk_172 (dk_at dksX0_move_0 20 rfl rfl)
theorem dX0_move_21 : decode cX0_move 21 = .ok (.astore 4, 2) := dk_58 4 (dk_at dksX0_move_0 21 rfl rfl)
theorem dX0_move_23 : decode cX0_move 23 = .ok (.iconst 3, 1) := dk_6 (dk_at dksX0_move_0 23 rfl rfl)
theorem dX0_move_24 : decode cX0_move 24 = .ok (.ireturn, 1) := dk_172 (dk_at dksX0_move_1 0 rfl rfl)
theorem dX0_move_25 : decode cX0_move 25 = .ok (.iconst 0, 1) := dk_3 (dk_at dksX0_move_1 1 rfl rfl)
theorem dX0_move_26 : decode cX0_move 26 = .ok (.ireturn, 1) := dk_172 (dk_at dksX0_move_1 2 rfl rfl)
abbrev cX0_setCharge : ByteArray := method_55_code
def yX0_setCharge : MethodName := ⟨RX0, "setCharge", "(LMultipoleLine;II[J)I"⟩
def dkwX0_setCharge_1 : List UInt8 := [172, 3, 172]
abbrev dktX0_setCharge_1 : List UInt8 := dkwX0_setCharge_1 ++ []
def dkwX0_setCharge_0 : List UInt8 := [45, 3, 42, 27, 28, 182, 0, 187, 133, 80, 167, 0, 15, 58, 4, 4, 172, 58, 4, 5, 172, 58, 4, 6]
abbrev dktX0_setCharge_0 : List UInt8 := dkwX0_setCharge_0 ++ dktX0_setCharge_1
theorem dksX0_setCharge_0 : cX0_setCharge.data.toList.drop 0 = dktX0_setCharge_0 := by decide +kernel
theorem dksX0_setCharge_1 : cX0_setCharge.data.toList.drop 24 = dktX0_setCharge_1 := dk_seg dksX0_setCharge_0 24 rfl rfl
theorem dX0_setCharge_0 : decode cX0_setCharge 0 = .ok (.aload_n 3, 1) := dk_45 (dk_at dksX0_setCharge_0 0 rfl rfl)
theorem dX0_setCharge_1 : decode cX0_setCharge 1 = .ok (.iconst 0, 1) := dk_3 (dk_at dksX0_setCharge_0 1 rfl rfl)
theorem dX0_setCharge_2 : decode cX0_setCharge 2 = .ok (.aload_n 0, 1) := dk_42 (dk_at dksX0_setCharge_0 2 rfl rfl)
theorem dX0_setCharge_3 : decode cX0_setCharge 3 = .ok (.iload_n 1, 1) := dk_27 (dk_at dksX0_setCharge_0 3 rfl rfl)
theorem dX0_setCharge_4 : decode cX0_setCharge 4 = .ok (.iload_n 2, 1) := dk_28 (dk_at dksX0_setCharge_0 4 rfl rfl)
theorem dX0_setCharge_5 : decode cX0_setCharge 5 = .ok (.invokevirtual 187, 3) := dk_182 0 187 (dk_at dksX0_setCharge_0 5 rfl rfl)
theorem dX0_setCharge_8 : decode cX0_setCharge 8 = .ok (.i2l, 1) := dk_133 (dk_at dksX0_setCharge_0 8 rfl rfl)
theorem dX0_setCharge_9 : decode cX0_setCharge 9 = .ok (.lastore, 1) := dk_80 (dk_at dksX0_setCharge_0 9 rfl rfl)
theorem dX0_setCharge_10 : decode cX0_setCharge 10 = .ok (.goto 15, 3) := dk_167 0 15 (dk_at dksX0_setCharge_0 10 rfl rfl)
theorem dX0_setCharge_13 : decode cX0_setCharge 13 = .ok (.astore 4, 2) := dk_58 4 (dk_at dksX0_setCharge_0 13 rfl rfl)
theorem dX0_setCharge_15 : decode cX0_setCharge 15 = .ok (.iconst 1, 1) := dk_4 (dk_at dksX0_setCharge_0 15 rfl rfl)
theorem dX0_setCharge_16 : decode cX0_setCharge 16 = .ok (.ireturn, 1) := dk_172 (dk_at dksX0_setCharge_0 16 rfl rfl)
theorem dX0_setCharge_17 : decode cX0_setCharge 17 = .ok (.astore 4, 2) := dk_58 4 (dk_at dksX0_setCharge_0 17 rfl rfl)
theorem dX0_setCharge_19 : decode cX0_setCharge 19 = .ok (.iconst 2, 1) := dk_5 (dk_at dksX0_setCharge_0 19 rfl rfl)
theorem dX0_setCharge_20 : decode cX0_setCharge 20 = .ok (.ireturn, 1) := dk_172 (dk_at dksX0_setCharge_0 20 rfl rfl)
theorem dX0_setCharge_21 : decode cX0_setCharge 21 = .ok (.astore 4, 2) := dk_58 4 (dk_at dksX0_setCharge_0 21 rfl rfl)
theorem dX0_setCharge_23 : decode cX0_setCharge 23 = .ok (.iconst 3, 1) := dk_6 (dk_at dksX0_setCharge_0 23 rfl rfl)
theorem dX0_setCharge_24 : decode cX0_setCharge 24 = .ok (.ireturn, 1) := dk_172 (dk_at dksX0_setCharge_1 0 rfl rfl)
theorem dX0_setCharge_25 : decode cX0_setCharge 25 = .ok (.iconst 0, 1) := dk_3 (dk_at dksX0_setCharge_1 1 rfl rfl)
theorem dX0_setCharge_26 : decode cX0_setCharge 26 = .ok (.ireturn, 1) := dk_172 (dk_at dksX0_setCharge_1 2 rfl rfl)
abbrev cX0_remove : ByteArray := method_56_code
def yX0_remove : MethodName := ⟨RX0, "remove", "(LMultipoleLine;I[J)I"⟩
def dkwX0_remove_0 : List UInt8 := [44, 3, 42, 27, 182, 0, 190, 133, 80, 167, 0, 9, 78, 4, 172, 78, 5, 172, 3, 172]
abbrev dktX0_remove_0 : List UInt8 := dkwX0_remove_0 ++ []
theorem dksX0_remove_0 : cX0_remove.data.toList.drop 0 = dktX0_remove_0 := by decide +kernel
theorem dX0_remove_0 : decode cX0_remove 0 = .ok (.aload_n 2, 1) := dk_44 (dk_at dksX0_remove_0 0 rfl rfl)
theorem dX0_remove_1 : decode cX0_remove 1 = .ok (.iconst 0, 1) := dk_3 (dk_at dksX0_remove_0 1 rfl rfl)
theorem dX0_remove_2 : decode cX0_remove 2 = .ok (.aload_n 0, 1) := dk_42 (dk_at dksX0_remove_0 2 rfl rfl)
theorem dX0_remove_3 : decode cX0_remove 3 = .ok (.iload_n 1, 1) := dk_27 (dk_at dksX0_remove_0 3 rfl rfl)
theorem dX0_remove_4 : decode cX0_remove 4 = .ok (.invokevirtual 190, 3) := dk_182 0 190 (dk_at dksX0_remove_0 4 rfl rfl)
theorem dX0_remove_7 : decode cX0_remove 7 = .ok (.i2l, 1) := dk_133 (dk_at dksX0_remove_0 7 rfl rfl)
theorem dX0_remove_8 : decode cX0_remove 8 = .ok (.lastore, 1) := dk_80 (dk_at dksX0_remove_0 8 rfl rfl)
theorem dX0_remove_9 : decode cX0_remove 9 = .ok (.goto 9, 3) := dk_167 0 9 (dk_at dksX0_remove_0 9 rfl rfl)
theorem dX0_remove_12 : decode cX0_remove 12 = .ok (.astore_n 3, 1) := dk_78 (dk_at dksX0_remove_0 12 rfl rfl)
theorem dX0_remove_13 : decode cX0_remove 13 = .ok (.iconst 1, 1) := dk_4 (dk_at dksX0_remove_0 13 rfl rfl)
theorem dX0_remove_14 : decode cX0_remove 14 = .ok (.ireturn, 1) := dk_172 (dk_at dksX0_remove_0 14 rfl rfl)
theorem dX0_remove_15 : decode cX0_remove 15 = .ok (.astore_n 3, 1) := dk_78 (dk_at dksX0_remove_0 15 rfl rfl)
theorem dX0_remove_16 : decode cX0_remove 16 = .ok (.iconst 2, 1) := dk_5 (dk_at dksX0_remove_0 16 rfl rfl)
theorem dX0_remove_17 : decode cX0_remove 17 = .ok (.ireturn, 1) := dk_172 (dk_at dksX0_remove_0 17 rfl rfl)
theorem dX0_remove_18 : decode cX0_remove 18 = .ok (.iconst 0, 1) := dk_3 (dk_at dksX0_remove_0 18 rfl rfl)
theorem dX0_remove_19 : decode cX0_remove 19 = .ok (.ireturn, 1) := dk_172 (dk_at dksX0_remove_0 19 rfl rfl)
abbrev cX0_step : ByteArray := method_57_code
def yX0_step : MethodName := ⟨RX0, "step", "(LMultipoleLine;I[J)I"⟩
def dkwX0_step_0 : List UInt8 := [44, 3, 42, 27, 182, 0, 193, 133, 80, 167, 0, 9, 78, 4, 172, 78, 5, 172, 3, 172]
abbrev dktX0_step_0 : List UInt8 := dkwX0_step_0 ++ []
theorem dksX0_step_0 : cX0_step.data.toList.drop 0 = dktX0_step_0 := by decide +kernel
theorem dX0_step_0 : decode cX0_step 0 = .ok (.aload_n 2, 1) := dk_44 (dk_at dksX0_step_0 0 rfl rfl)
theorem dX0_step_1 : decode cX0_step 1 = .ok (.iconst 0, 1) := dk_3 (dk_at dksX0_step_0 1 rfl rfl)
theorem dX0_step_2 : decode cX0_step 2 = .ok (.aload_n 0, 1) := dk_42 (dk_at dksX0_step_0 2 rfl rfl)
theorem dX0_step_3 : decode cX0_step 3 = .ok (.iload_n 1, 1) := dk_27 (dk_at dksX0_step_0 3 rfl rfl)
theorem dX0_step_4 : decode cX0_step 4 = .ok (.invokevirtual 193, 3) := dk_182 0 193 (dk_at dksX0_step_0 4 rfl rfl)
theorem dX0_step_7 : decode cX0_step 7 = .ok (.i2l, 1) := dk_133 (dk_at dksX0_step_0 7 rfl rfl)
theorem dX0_step_8 : decode cX0_step 8 = .ok (.lastore, 1) := dk_80 (dk_at dksX0_step_0 8 rfl rfl)
theorem dX0_step_9 : decode cX0_step 9 = .ok (.goto 9, 3) := dk_167 0 9 (dk_at dksX0_step_0 9 rfl rfl)
theorem dX0_step_12 : decode cX0_step 12 = .ok (.astore_n 3, 1) := dk_78 (dk_at dksX0_step_0 12 rfl rfl)
theorem dX0_step_13 : decode cX0_step 13 = .ok (.iconst 1, 1) := dk_4 (dk_at dksX0_step_0 13 rfl rfl)
theorem dX0_step_14 : decode cX0_step 14 = .ok (.ireturn, 1) := dk_172 (dk_at dksX0_step_0 14 rfl rfl)
theorem dX0_step_15 : decode cX0_step 15 = .ok (.astore_n 3, 1) := dk_78 (dk_at dksX0_step_0 15 rfl rfl)
theorem dX0_step_16 : decode cX0_step 16 = .ok (.iconst 2, 1) := dk_5 (dk_at dksX0_step_0 16 rfl rfl)
theorem dX0_step_17 : decode cX0_step 17 = .ok (.ireturn, 1) := dk_172 (dk_at dksX0_step_0 17 rfl rfl)
theorem dX0_step_18 : decode cX0_step 18 = .ok (.iconst 0, 1) := dk_3 (dk_at dksX0_step_0 18 rfl rfl)
theorem dX0_step_19 : decode cX0_step 19 = .ok (.ireturn, 1) := dk_172 (dk_at dksX0_step_0 19 rfl rfl)
abbrev cX0_setNumber : ByteArray := method_58_code
def yX0_setNumber : MethodName := ⟨RX0, "setNumber", "(LMultipoleLine;II[J)I"⟩
def dkwX0_setNumber_0 : List UInt8 := [45, 3, 42, 27, 28, 182, 0, 196, 133, 80, 167, 0, 11, 58, 4, 4, 172, 58, 4, 5, 172, 3, 172]
abbrev dktX0_setNumber_0 : List UInt8 := dkwX0_setNumber_0 ++ []
theorem dksX0_setNumber_0 : cX0_setNumber.data.toList.drop 0 = dktX0_setNumber_0 := by decide +kernel
theorem dX0_setNumber_0 : decode cX0_setNumber 0 = .ok (.aload_n 3, 1) := dk_45 (dk_at dksX0_setNumber_0 0 rfl rfl)
theorem dX0_setNumber_1 : decode cX0_setNumber 1 = .ok (.iconst 0, 1) := dk_3 (dk_at dksX0_setNumber_0 1 rfl rfl)
theorem dX0_setNumber_2 : decode cX0_setNumber 2 = .ok (.aload_n 0, 1) := dk_42 (dk_at dksX0_setNumber_0 2 rfl rfl)
theorem dX0_setNumber_3 : decode cX0_setNumber 3 = .ok (.iload_n 1, 1) := dk_27 (dk_at dksX0_setNumber_0 3 rfl rfl)
theorem dX0_setNumber_4 : decode cX0_setNumber 4 = .ok (.iload_n 2, 1) := dk_28 (dk_at dksX0_setNumber_0 4 rfl rfl)
theorem dX0_setNumber_5 : decode cX0_setNumber 5 = .ok (.invokevirtual 196, 3) := dk_182 0 196 (dk_at dksX0_setNumber_0 5 rfl rfl)
theorem dX0_setNumber_8 : decode cX0_setNumber 8 = .ok (.i2l, 1) := dk_133 (dk_at dksX0_setNumber_0 8 rfl rfl)
theorem dX0_setNumber_9 : decode cX0_setNumber 9 = .ok (.lastore, 1) := dk_80 (dk_at dksX0_setNumber_0 9 rfl rfl)
theorem dX0_setNumber_10 : decode cX0_setNumber 10 = .ok (.goto 11, 3) := dk_167 0 11 (dk_at dksX0_setNumber_0 10 rfl rfl)
theorem dX0_setNumber_13 : decode cX0_setNumber 13 = .ok (.astore 4, 2) := dk_58 4 (dk_at dksX0_setNumber_0 13 rfl rfl)
theorem dX0_setNumber_15 : decode cX0_setNumber 15 = .ok (.iconst 1, 1) := dk_4 (dk_at dksX0_setNumber_0 15 rfl rfl)
theorem dX0_setNumber_16 : decode cX0_setNumber 16 = .ok (.ireturn, 1) := dk_172 (dk_at dksX0_setNumber_0 16 rfl rfl)
theorem dX0_setNumber_17 : decode cX0_setNumber 17 = .ok (.astore 4, 2) := dk_58 4 (dk_at dksX0_setNumber_0 17 rfl rfl)
theorem dX0_setNumber_19 : decode cX0_setNumber 19 = .ok (.iconst 2, 1) := dk_5 (dk_at dksX0_setNumber_0 19 rfl rfl)
theorem dX0_setNumber_20 : decode cX0_setNumber 20 = .ok (.ireturn, 1) := dk_172 (dk_at dksX0_setNumber_0 20 rfl rfl)
theorem dX0_setNumber_21 : decode cX0_setNumber 21 = .ok (.iconst 0, 1) := dk_3 (dk_at dksX0_setNumber_0 21 rfl rfl)
theorem dX0_setNumber_22 : decode cX0_setNumber 22 = .ok (.ireturn, 1) := dk_172 (dk_at dksX0_setNumber_0 22 rfl rfl)
abbrev cX0_undo : ByteArray := method_59_code
def yX0_undo : MethodName := ⟨RX0, "undo", "(LMultipoleLine;[J)I"⟩
def dkwX0_undo_0 : List UInt8 := [43, 3, 42, 182, 0, 199, 133, 80, 167, 0, 6, 77, 4, 172, 3, 172]
abbrev dktX0_undo_0 : List UInt8 := dkwX0_undo_0 ++ []
theorem dksX0_undo_0 : cX0_undo.data.toList.drop 0 = dktX0_undo_0 := by decide +kernel
theorem dX0_undo_0 : decode cX0_undo 0 = .ok (.aload_n 1, 1) := dk_43 (dk_at dksX0_undo_0 0 rfl rfl)
theorem dX0_undo_1 : decode cX0_undo 1 = .ok (.iconst 0, 1) := dk_3 (dk_at dksX0_undo_0 1 rfl rfl)
theorem dX0_undo_2 : decode cX0_undo 2 = .ok (.aload_n 0, 1) := dk_42 (dk_at dksX0_undo_0 2 rfl rfl)
theorem dX0_undo_3 : decode cX0_undo 3 = .ok (.invokevirtual 199, 3) := dk_182 0 199 (dk_at dksX0_undo_0 3 rfl rfl)
theorem dX0_undo_6 : decode cX0_undo 6 = .ok (.i2l, 1) := dk_133 (dk_at dksX0_undo_0 6 rfl rfl)
theorem dX0_undo_7 : decode cX0_undo 7 = .ok (.lastore, 1) := dk_80 (dk_at dksX0_undo_0 7 rfl rfl)
theorem dX0_undo_8 : decode cX0_undo 8 = .ok (.goto 6, 3) := dk_167 0 6 (dk_at dksX0_undo_0 8 rfl rfl)
theorem dX0_undo_11 : decode cX0_undo 11 = .ok (.astore_n 2, 1) := dk_77 (dk_at dksX0_undo_0 11 rfl rfl)
theorem dX0_undo_12 : decode cX0_undo 12 = .ok (.iconst 1, 1) := dk_4 (dk_at dksX0_undo_0 12 rfl rfl)
theorem dX0_undo_13 : decode cX0_undo 13 = .ok (.ireturn, 1) := dk_172 (dk_at dksX0_undo_0 13 rfl rfl)
theorem dX0_undo_14 : decode cX0_undo 14 = .ok (.iconst 0, 1) := dk_3 (dk_at dksX0_undo_0 14 rfl rfl)
theorem dX0_undo_15 : decode cX0_undo 15 = .ok (.ireturn, 1) := dk_172 (dk_at dksX0_undo_0 15 rfl rfl)
abbrev cX0_save : ByteArray := method_60_code
def yX0_save : MethodName := ⟨RX0, "save", "(LMultipoleLine;I[J)I"⟩
def dkwX0_save_0 : List UInt8 := [44, 3, 42, 27, 182, 0, 202, 133, 80, 167, 0, 9, 78, 4, 172, 78, 5, 172, 3, 172]
abbrev dktX0_save_0 : List UInt8 := dkwX0_save_0 ++ []
theorem dksX0_save_0 : cX0_save.data.toList.drop 0 = dktX0_save_0 := by decide +kernel
theorem dX0_save_0 : decode cX0_save 0 = .ok (.aload_n 2, 1) := dk_44 (dk_at dksX0_save_0 0 rfl rfl)
theorem dX0_save_1 : decode cX0_save 1 = .ok (.iconst 0, 1) := dk_3 (dk_at dksX0_save_0 1 rfl rfl)
theorem dX0_save_2 : decode cX0_save 2 = .ok (.aload_n 0, 1) := dk_42 (dk_at dksX0_save_0 2 rfl rfl)
theorem dX0_save_3 : decode cX0_save 3 = .ok (.iload_n 1, 1) := dk_27 (dk_at dksX0_save_0 3 rfl rfl)
theorem dX0_save_4 : decode cX0_save 4 = .ok (.invokevirtual 202, 3) := dk_182 0 202 (dk_at dksX0_save_0 4 rfl rfl)
theorem dX0_save_7 : decode cX0_save 7 = .ok (.i2l, 1) := dk_133 (dk_at dksX0_save_0 7 rfl rfl)
theorem dX0_save_8 : decode cX0_save 8 = .ok (.lastore, 1) := dk_80 (dk_at dksX0_save_0 8 rfl rfl)
theorem dX0_save_9 : decode cX0_save 9 = .ok (.goto 9, 3) := dk_167 0 9 (dk_at dksX0_save_0 9 rfl rfl)
theorem dX0_save_12 : decode cX0_save 12 = .ok (.astore_n 3, 1) := dk_78 (dk_at dksX0_save_0 12 rfl rfl)
theorem dX0_save_13 : decode cX0_save 13 = .ok (.iconst 1, 1) := dk_4 (dk_at dksX0_save_0 13 rfl rfl)
theorem dX0_save_14 : decode cX0_save 14 = .ok (.ireturn, 1) := dk_172 (dk_at dksX0_save_0 14 rfl rfl)
theorem dX0_save_15 : decode cX0_save 15 = .ok (.astore_n 3, 1) := dk_78 (dk_at dksX0_save_0 15 rfl rfl)
theorem dX0_save_16 : decode cX0_save 16 = .ok (.iconst 2, 1) := dk_5 (dk_at dksX0_save_0 16 rfl rfl)
theorem dX0_save_17 : decode cX0_save 17 = .ok (.ireturn, 1) := dk_172 (dk_at dksX0_save_0 17 rfl rfl)
theorem dX0_save_18 : decode cX0_save 18 = .ok (.iconst 0, 1) := dk_3 (dk_at dksX0_save_0 18 rfl rfl)
theorem dX0_save_19 : decode cX0_save 19 = .ok (.ireturn, 1) := dk_172 (dk_at dksX0_save_0 19 rfl rfl)
abbrev cX0_restore : ByteArray := method_61_code
def yX0_restore : MethodName := ⟨RX0, "restore", "(LMultipoleLine;I[J)I"⟩
def dkwX0_restore_0 : List UInt8 := [44, 3, 42, 27, 182, 0, 205, 133, 80, 167, 0, 9, 78, 4, 172, 78, 5, 172, 3, 172]
abbrev dktX0_restore_0 : List UInt8 := dkwX0_restore_0 ++ []
theorem dksX0_restore_0 : cX0_restore.data.toList.drop 0 = dktX0_restore_0 := by decide +kernel
theorem dX0_restore_0 : decode cX0_restore 0 = .ok (.aload_n 2, 1) := dk_44 (dk_at dksX0_restore_0 0 rfl rfl)
theorem dX0_restore_1 : decode cX0_restore 1 = .ok (.iconst 0, 1) := dk_3 (dk_at dksX0_restore_0 1 rfl rfl)
theorem dX0_restore_2 : decode cX0_restore 2 = .ok (.aload_n 0, 1) := dk_42 (dk_at dksX0_restore_0 2 rfl rfl)
theorem dX0_restore_3 : decode cX0_restore 3 = .ok (.iload_n 1, 1) := dk_27 (dk_at dksX0_restore_0 3 rfl rfl)
theorem dX0_restore_4 : decode cX0_restore 4 = .ok (.invokevirtual 205, 3) := dk_182 0 205 (dk_at dksX0_restore_0 4 rfl rfl)
theorem dX0_restore_7 : decode cX0_restore 7 = .ok (.i2l, 1) := dk_133 (dk_at dksX0_restore_0 7 rfl rfl)
theorem dX0_restore_8 : decode cX0_restore 8 = .ok (.lastore, 1) := dk_80 (dk_at dksX0_restore_0 8 rfl rfl)
theorem dX0_restore_9 : decode cX0_restore 9 = .ok (.goto 9, 3) := dk_167 0 9 (dk_at dksX0_restore_0 9 rfl rfl)
theorem dX0_restore_12 : decode cX0_restore 12 = .ok (.astore_n 3, 1) := dk_78 (dk_at dksX0_restore_0 12 rfl rfl)
theorem dX0_restore_13 : decode cX0_restore 13 = .ok (.iconst 1, 1) := dk_4 (dk_at dksX0_restore_0 13 rfl rfl)
theorem dX0_restore_14 : decode cX0_restore 14 = .ok (.ireturn, 1) := dk_172 (dk_at dksX0_restore_0 14 rfl rfl)
theorem dX0_restore_15 : decode cX0_restore 15 = .ok (.astore_n 3, 1) := dk_78 (dk_at dksX0_restore_0 15 rfl rfl)
theorem dX0_restore_16 : decode cX0_restore 16 = .ok (.iconst 2, 1) := dk_5 (dk_at dksX0_restore_0 16 rfl rfl)
theorem dX0_restore_17 : decode cX0_restore 17 = .ok (.ireturn, 1) := dk_172 (dk_at dksX0_restore_0 17 rfl rfl)
theorem dX0_restore_18 : decode cX0_restore 18 = .ok (.iconst 0, 1) := dk_3 (dk_at dksX0_restore_0 18 rfl rfl)
theorem dX0_restore_19 : decode cX0_restore 19 = .ok (.ireturn, 1) := dk_172 (dk_at dksX0_restore_0 19 rfl rfl)
