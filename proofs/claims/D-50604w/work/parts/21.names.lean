set_option maxRecDepth 100000
abbrev cX2_add : ByteArray := prog_10_method_139_code
def yX2_add : MethodName := ⟨RX2, "add", "(ZII)I"⟩
def dkwX2_add_3 : List UInt8 := [182, 1, 154, 42, 27, 28, 29, 182, 0, 135, 42, 180, 0, 9, 3, 46, 4, 100, 172]
abbrev dktX2_add_3 : List UInt8 := dkwX2_add_3 ++ []
def dkwX2_add_2 : List UInt8 := [42, 28, 182, 0, 123, 154, 0, 7, 4, 167, 0, 4, 3, 182, 0, 193, 154, 0, 5, 3, 172, 42]
abbrev dktX2_add_2 : List UInt8 := dkwX2_add_2 ++ dktX2_add_3
def dkwX2_add_1 : List UInt8 := [162, 0, 7, 4, 167, 0, 4, 3, 54, 4, 42, 42, 180, 0, 156, 21, 4, 153, 0, 19, 27, 153, 0, 11]
abbrev dktX2_add_1 : List UInt8 := dkwX2_add_1 ++ dktX2_add_2
def dkwX2_add_0 : List UInt8 := [28, 184, 0, 213, 153, 0, 25, 29, 184, 1, 151, 153, 0, 18, 42, 180, 0, 9, 3, 46, 16, 24]
abbrev dktX2_add_0 : List UInt8 := dkwX2_add_0 ++ dktX2_add_1
theorem dksX2_add_0 : cX2_add.data.toList.drop 0 = dktX2_add_0 := by decide +kernel
theorem dksX2_add_1 : cX2_add.data.toList.drop 22 = dktX2_add_1 := dk_seg dksX2_add_0 22 rfl rfl
theorem dksX2_add_2 : cX2_add.data.toList.drop 46 = dktX2_add_2 := dk_seg dksX2_add_1 24 rfl rfl
theorem dksX2_add_3 : cX2_add.data.toList.drop 68 = dktX2_add_3 := dk_seg dksX2_add_2 22 rfl rfl
theorem dX2_add_0 : decode cX2_add 0 = .ok (.iload_n 2, 1) := dk_28 (dk_at dksX2_add_0 0 rfl rfl)
theorem dX2_add_1 : decode cX2_add 1 = .ok (.invokestatic 213, 3) := dk_184 0 213 (dk_at dksX2_add_0 1 rfl rfl)
theorem dX2_add_4 : decode cX2_add 4 = .ok (.ifCond .eq 25, 3) := dk_153 0 25 (dk_at dksX2_add_0 4 rfl rfl)
theorem dX2_add_7 : decode cX2_add 7 = .ok (.iload_n 3, 1) := dk_29 (dk_at dksX2_add_0 7 rfl rfl)
theorem dX2_add_8 : decode cX2_add 8 = .ok (.invokestatic 407, 3) := dk_184 1 151 (dk_at dksX2_add_0 8 rfl rfl)
theorem dX2_add_11 : decode cX2_add 11 = .ok (.ifCond .eq 18, 3) := dk_153 0 18 (dk_at dksX2_add_0 11 rfl rfl)
theorem dX2_add_14 : decode cX2_add 14 = .ok (.aload_n 0, 1) := dk_42 (dk_at dksX2_add_0 14 rfl rfl)
theorem dX2_add_15 : decode cX2_add 15 = .ok (.getfield 9, 3) := dk_180 0 9 (dk_at dksX2_add_0 15 rfl rfl)
theorem dX2_add_18 : decode cX2_add 18 = .ok (.iconst 0, 1) := dk_3 (dk_at dksX2_add_0 18 rfl rfl)
theorem dX2_add_19 : decode cX2_add 19 = .ok (.iaload, 1) := dk_46 (dk_at dksX2_add_0 19 rfl rfl)
theorem dX2_add_20 : decode cX2_add 20 = .ok (.bipush 24, 2) := dk_16 24 (dk_at dksX2_add_0 20 rfl rfl)
theorem dX2_add_22 : decode cX2_add 22 = .ok (.if_icmp .ge 7, 3) := dk_162 0 7 (dk_at dksX2_add_1 0 rfl rfl)
theorem dX2_add_25 : decode cX2_add 25 = .ok (.iconst 1, 1) := dk_4 (dk_at dksX2_add_1 3 rfl rfl)
theorem dX2_add_26 : decode cX2_add 26 = .ok (.goto 4, 3) := dk_167 0 4 (dk_at dksX2_add_1 4 rfl rfl)
theorem dX2_add_29 : decode cX2_add 29 = .ok (.iconst 0, 1) := dk_3 (dk_at dksX2_add_1 7 rfl rfl)
theorem dX2_add_30 : decode cX2_add 30 = .ok (.istore 4, 2) := dk_54 4 (dk_at dksX2_add_1 8 rfl rfl)
theorem dX2_add_32 : decode cX2_add 32 = .ok (.aload_n 0, 1) := dk_42 (dk_at dksX2_add_1 10 rfl rfl)
theorem dX2_add_33 : decode cX2_add 33 = .ok (.aload_n 0, 1) := dk_42 (dk_at dksX2_add_1 11 rfl rfl)
theorem dX2_add_34 : decode cX2_add 34 = .ok (.getfield 156, 3) := dk_180 0 156 (dk_at dksX2_add_1 12 rfl rfl)
theorem dX2_add_37 : decode cX2_add 37 = .ok (.iload 4, 2) := dk_21 4 (dk_at dksX2_add_1 15 rfl rfl)
theorem dX2_add_39 : decode cX2_add 39 = .ok (.ifCond .eq 19, 3) := dk_153 0 19 (dk_at dksX2_add_1 17 rfl rfl)
theorem dX2_add_42 : decode cX2_add 42 = .ok (.iload_n 1, 1) := dk_27 (dk_at dksX2_add_1 20 rfl rfl)
theorem dX2_add_43 : decode cX2_add 43 = .ok (.ifCond .eq 11, 3) := dk_153 0 11 (dk_at dksX2_add_1 21 rfl rfl)
theorem dX2_add_46 : decode cX2_add 46 = .ok (.aload_n 0, 1) := dk_42 (dk_at dksX2_add_2 0 rfl rfl)
theorem dX2_add_47 : decode cX2_add 47 = .ok (.iload_n 2, 1) := dk_28 (dk_at dksX2_add_2 1 rfl rfl)
theorem dX2_add_48 : decode cX2_add 48 = .ok (.invokevirtual 123, 3) := dk_182 0 123 (dk_at dksX2_add_2 2 rfl rfl)
theorem dX2_add_51 : decode cX2_add 51 = .ok (.ifCond .ne 7, 3) := dk_154 0 7 (dk_at dksX2_add_2 5 rfl rfl)
theorem dX2_add_54 : decode cX2_add 54 = .ok (.iconst 1, 1) := dk_4 (dk_at dksX2_add_2 8 rfl rfl)
theorem dX2_add_55 : decode cX2_add 55 = .ok (.goto 4, 3) := dk_167 0 4 (dk_at dksX2_add_2 9 rfl rfl)
theorem dX2_add_58 : decode cX2_add 58 = .ok (.iconst 0, 1) := dk_3 (dk_at dksX2_add_2 12 rfl rfl)
theorem dX2_add_59 : decode cX2_add 59 = .ok (.invokevirtual 193, 3) := dk_182 0 193 (dk_at dksX2_add_2 13 rfl rfl)
theorem dX2_add_62 : decode cX2_add 62 = .ok (.ifCond .ne 5, 3) := dk_154 0 5 (dk_at dksX2_add_2 16 rfl rfl)
theorem dX2_add_65 : decode cX2_add 65 = .ok (.iconst 0, 1) := dk_3 (dk_at dksX2_add_2 19 rfl rfl)
theorem dX2_add_66 : decode cX2_add 66 = .ok (.ireturn, 1) := dk_172 (dk_at dksX2_add_2 20 rfl rfl)
theorem dX2_add_67 : decode cX2_add 67 = .ok (.aload_n 0, 1) := dk_42 (dk_at dksX2_add_2 21 rfl rfl)
theorem dX2_add_68 : decode cX2_add 68 = .ok (.invokevirtual 410, 3) := dk_182 1 154 (dk_at dksX2_add_3 0 rfl rfl)
theorem dX2_add_71 : decode cX2_add 71 = .ok (.aload_n 0, 1) := dk_42 (dk_at dksX2_add_3 3 rfl rfl)
theorem dX2_add_72 : decode cX2_add 72 = .ok (.iload_n 1, 1) := dk_27 (dk_at dksX2_add_3 4 rfl rfl)
theorem dX2_add_73 : decode cX2_add 73 = .ok (.iload_n 2, 1) := dk_28 (dk_at dksX2_add_3 5 rfl rfl)
theorem dX2_add_74 : decode cX2_add 74 = .ok (.iload_n 3, 1) := dk_29 (dk_at dksX2_add_3 6 rfl rfl)
theorem dX2_add_75 : decode cX2_add 75 = .ok (.invokevirtual 135, 3) := dk_182 0 135 (dk_at dksX2_add_3 7 rfl rfl)
theorem dX2_add_78 : decode cX2_add 78 = .ok (.aload_n 0, 1) := dk_42 (dk_at dksX2_add_3 10 rfl rfl)
theorem dX2_add_79 : decode cX2_add 79 = .ok (.getfield 9, 3) := dk_180 0 9 (dk_at dksX2_add_3 11 rfl rfl)
theorem dX2_add_82 : decode cX2_add 82 = .ok (.iconst 0, 1) := dk_3 (dk_at dksX2_add_3 14 rfl rfl)
theorem dX2_add_83 : decode cX2_add 83 = .ok (.iaload, 1) := dk_46 (dk_at dksX2_add_3 15 rfl rfl)
theorem dX2_add_84 : decode cX2_add 84 = .ok (.iconst 1, 1) := dk_4 (dk_at dksX2_add_3 16 rfl rfl)
theorem dX2_add_85 : decode cX2_add 85 = .ok (.isub, 1) := dk_100 (dk_at dksX2_add_3 17 rfl rfl)
theorem dX2_add_86 : decode cX2_add 86 = .ok (.ireturn, 1) := dk_172 (dk_at dksX2_add_3 18 rfl rfl)
abbrev cX2_move : ByteArray := prog_10_method_140_code
def yX2_move : MethodName := ⟨RX2, "move", "(II)I"⟩
def dkwX2_move_3 : List UInt8 := [100, 54, 4, 42, 27, 3, 28, 182, 0, 166, 21, 4, 172]
abbrev dktX2_move_3 : List UInt8 := dkwX2_move_3 ++ []
def dkwX2_move_2 : List UInt8 := [4, 167, 0, 4, 3, 182, 0, 60, 154, 0, 5, 3, 172, 42, 182, 1, 154, 28, 42, 27, 3, 182, 0, 163]
abbrev dktX2_move_2 : List UInt8 := dkwX2_move_2 ++ dktX2_move_3
def dkwX2_move_1 : List UInt8 := [180, 0, 156, 29, 29, 153, 0, 23, 28, 184, 0, 213, 153, 0, 16, 42, 27, 5, 182, 0, 163, 154, 0, 7]
abbrev dktX2_move_1 : List UInt8 := dkwX2_move_1 ++ dktX2_move_2
def dkwX2_move_0 : List UInt8 := [42, 180, 0, 156, 153, 0, 15, 42, 27, 182, 0, 210, 153, 0, 7, 4, 167, 0, 4, 3, 62, 42, 42]
abbrev dktX2_move_0 : List UInt8 := dkwX2_move_0 ++ dktX2_move_1
theorem dksX2_move_0 : cX2_move.data.toList.drop 0 = dktX2_move_0 := by decide +kernel
theorem dksX2_move_1 : cX2_move.data.toList.drop 23 = dktX2_move_1 := dk_seg dksX2_move_0 23 rfl rfl
theorem dksX2_move_2 : cX2_move.data.toList.drop 47 = dktX2_move_2 := dk_seg dksX2_move_1 24 rfl rfl
theorem dksX2_move_3 : cX2_move.data.toList.drop 71 = dktX2_move_3 := dk_seg dksX2_move_2 24 rfl rfl
theorem dX2_move_0 : decode cX2_move 0 = .ok (.aload_n 0, 1) := dk_42 (dk_at dksX2_move_0 0 rfl rfl)
theorem dX2_move_1 : decode cX2_move 1 = .ok (.getfield 156, 3) := dk_180 0 156 (dk_at dksX2_move_0 1 rfl rfl)
theorem dX2_move_4 : decode cX2_move 4 = .ok (.ifCond .eq 15, 3) := dk_153 0 15 (dk_at dksX2_move_0 4 rfl rfl)
theorem dX2_move_7 : decode cX2_move 7 = .ok (.aload_n 0, 1) := dk_42 (dk_at dksX2_move_0 7 rfl rfl)
theorem dX2_move_8 : decode cX2_move 8 = .ok (.iload_n 1, 1) := dk_27 (dk_at dksX2_move_0 8 rfl rfl)
theorem dX2_move_9 : decode cX2_move 9 = .ok (.invokevirtual 210, 3) := dk_182 0 210 (dk_at dksX2_move_0 9 rfl rfl)
theorem dX2_move_12 : decode cX2_move 12 = .ok (.ifCond .eq 7, 3) := dk_153 0 7 (dk_at dksX2_move_0 12 rfl rfl)
theorem dX2_move_15 : decode cX2_move 15 = .ok (.iconst 1, 1) := dk_4 (dk_at dksX2_move_0 15 rfl rfl)
theorem dX2_move_16 : decode cX2_move 16 = .ok (.goto 4, 3) := dk_167 0 4 (dk_at dksX2_move_0 16 rfl rfl)
theorem dX2_move_19 : decode cX2_move 19 = .ok (.iconst 0, 1) := dk_3 (dk_at dksX2_move_0 19 rfl rfl)
theorem dX2_move_20 : decode cX2_move 20 = .ok (.istore_n 3, 1) := dk_62 (dk_at dksX2_move_0 20 rfl rfl)
theorem dX2_move_21 : decode cX2_move 21 = .ok (.aload_n 0, 1) := dk_42 (dk_at dksX2_move_0 21 rfl rfl)
theorem dX2_move_22 : decode cX2_move 22 = .ok (.aload_n 0, 1) := dk_42 (dk_at dksX2_move_0 22 rfl rfl)
theorem dX2_move_23 : decode cX2_move 23 = .ok (.getfield 156, 3) := dk_180 0 156 (dk_at dksX2_move_1 0 rfl rfl)
theorem dX2_move_26 : decode cX2_move 26 = .ok (.iload_n 3, 1) := dk_29 (dk_at dksX2_move_1 3 rfl rfl)
theorem dX2_move_27 : decode cX2_move 27 = .ok (.iload_n 3, 1) := dk_29 (dk_at dksX2_move_1 4 rfl rfl)
theorem dX2_move_28 : decode cX2_move 28 = .ok (.ifCond .eq 23, 3) := dk_153 0 23 (dk_at dksX2_move_1 5 rfl rfl)
theorem dX2_move_31 : decode cX2_move 31 = .ok (.iload_n 2, 1) := dk_28 (dk_at dksX2_move_1 8 rfl rfl)
theorem dX2_move_32 : decode cX2_move 32 = .ok (.invokestatic 213, 3) := dk_184 0 213 (dk_at dksX2_move_1 9 rfl rfl)
theorem dX2_move_35 : decode cX2_move 35 = .ok (.ifCond .eq 16, 3) := dk_153 0 16 (dk_at dksX2_move_1 12 rfl rfl)
theorem dX2_move_38 : decode cX2_move 38 = .ok (.aload_n 0, 1) := dk_42 (dk_at dksX2_move_1 15 rfl rfl)
theorem dX2_move_39 : decode cX2_move 39 = .ok (.iload_n 1, 1) := dk_27 (dk_at dksX2_move_1 16 rfl rfl)
theorem dX2_move_40 : decode cX2_move 40 = .ok (.iconst 2, 1) := dk_5 (dk_at dksX2_move_1 17 rfl rfl)
theorem dX2_move_41 : decode cX2_move 41 = .ok (.invokevirtual 163, 3) := dk_182 0 163 (dk_at dksX2_move_1 18 rfl rfl)
theorem dX2_move_44 : decode cX2_move 44 = .ok (.ifCond .ne 7, 3) := dk_154 0 7 (dk_at dksX2_move_1 21 rfl rfl)
theorem dX2_move_47 : decode cX2_move 47 = .ok (.iconst 1, 1) := dk_4 (dk_at dksX2_move_2 0 rfl rfl)
theorem dX2_move_48 : decode cX2_move 48 = .ok (.goto 4, 3) := dk_167 0 4 (dk_at dksX2_move_2 1 rfl rfl)
theorem dX2_move_51 : decode cX2_move 51 = .ok (.iconst 0, 1) := dk_3 (dk_at dksX2_move_2 4 rfl rfl)
theorem dX2_move_52 : decode cX2_move 52 = .ok (.invokevirtual 60, 3) := dk_182 0 60 (dk_at dksX2_move_2 5 rfl rfl)
theorem dX2_move_55 : decode cX2_move 55 = .ok (.ifCond .ne 5, 3) := dk_154 0 5 (dk_at dksX2_move_2 8 rfl rfl)
theorem dX2_move_58 : decode cX2_move 58 = .ok (.iconst 0, 1) := dk_3 (dk_at dksX2_move_2 11 rfl rfl)
theorem dX2_move_59 : decode cX2_move 59 = .ok (.ireturn, 1) := dk_172 (dk_at dksX2_move_2 12 rfl rfl)
theorem dX2_move_60 : decode cX2_move 60 = .ok (.aload_n 0, 1) := dk_42 (dk_at dksX2_move_2 13 rfl rfl)
theorem dX2_move_61 : decode cX2_move 61 = .ok (.invokevirtual 410, 3) := dk_182 1 154 (dk_at dksX2_move_2 14 rfl rfl)
theorem dX2_move_64 : decode cX2_move 64 = .ok (.iload_n 2, 1) := dk_28 (dk_at dksX2_move_2 17 rfl rfl)
theorem dX2_move_65 : decode cX2_move 65 = .ok (.aload_n 0, 1) := dk_42 (dk_at dksX2_move_2 18 rfl rfl)
theorem dX2_move_66 : decode cX2_move 66 = .ok (.iload_n 1, 1) := dk_27 (dk_at dksX2_move_2 19 rfl rfl)
theorem dX2_move_67 : decode cX2_move 67 = .ok (.iconst 0, 1) := dk_3 (dk_at dksX2_move_2 20 rfl rfl)
theorem dX2_move_68 : decode cX2_move 68 = .ok (.invokevirtual 163, 3) := dk_182 0 163 (dk_at dksX2_move_2 21 rfl rfl)
theorem dX2_move_71 : decode cX2_move 71 = .ok (.isub, 1) := dk_100 (dk_at dksX2_move_3 0 rfl rfl)
theorem dX2_move_72 : decode cX2_move 72 = .ok (.istore 4, 2) := dk_54 4 (dk_at dksX2_move_3 1 rfl rfl)
theorem dX2_move_74 : decode cX2_move 74 = .ok (.aload_n 0, 1) := dk_42 (dk_at dksX2_move_3 3 rfl rfl)
theorem dX2_move_75 : decode cX2_move 75 = .ok (.iload_n 1, 1) := dk_27 (dk_at dksX2_move_3 4 rfl rfl)
theorem dX2_move_76 : decode cX2_move 76 = .ok (.iconst 0, 1) := dk_3 (dk_at dksX2_move_3 5 rfl rfl)
theorem dX2_move_77 : decode cX2_move 77 = .ok (.iload_n 2, 1) := dk_28 (dk_at dksX2_move_3 6 rfl rfl)
theorem dX2_move_78 : decode cX2_move 78 = .ok (.invokevirtual 166, 3) := dk_182 0 166 (dk_at dksX2_move_3 7 rfl rfl)
theorem dX2_move_81 : decode cX2_move 81 = .ok (.iload 4, 2) := dk_21 4 (dk_at dksX2_move_3 10 rfl rfl)
theorem dX2_move_83 : decode cX2_move 83 = .ok (.ireturn, 1) := dk_172 (dk_at dksX2_move_3 12 rfl rfl)
abbrev cX2_setCharge : ByteArray := prog_10_method_141_code
def yX2_setCharge : MethodName := ⟨RX2, "setCharge", "(II)I"⟩
def dkwX2_setCharge_1 : List UInt8 := [182, 1, 154, 42, 27, 4, 182, 0, 163, 62, 42, 27, 4, 28, 182, 0, 166, 29, 172]
abbrev dktX2_setCharge_1 : List UInt8 := dkwX2_setCharge_1 ++ []
def dkwX2_setCharge_0 : List UInt8 := [42, 42, 180, 0, 156, 42, 27, 182, 0, 210, 28, 184, 1, 151, 182, 0, 60, 154, 0, 5, 3, 172, 42]
abbrev dktX2_setCharge_0 : List UInt8 := dkwX2_setCharge_0 ++ dktX2_setCharge_1
theorem dksX2_setCharge_0 : cX2_setCharge.data.toList.drop 0 = dktX2_setCharge_0 := by decide +kernel
theorem dksX2_setCharge_1 : cX2_setCharge.data.toList.drop 23 = dktX2_setCharge_1 := dk_seg dksX2_setCharge_0 23 rfl rfl
theorem dX2_setCharge_0 : decode cX2_setCharge 0 = .ok (.aload_n 0, 1) := dk_42 (dk_at dksX2_setCharge_0 0 rfl rfl)
theorem dX2_setCharge_1 : decode cX2_setCharge 1 = .ok (.aload_n 0, 1) := dk_42 (dk_at dksX2_setCharge_0 1 rfl rfl)
theorem dX2_setCharge_2 : decode cX2_setCharge 2 = .ok (.getfield 156, 3) := dk_180 0 156 (dk_at dksX2_setCharge_0 2 rfl rfl)
theorem dX2_setCharge_5 : decode cX2_setCharge 5 = .ok (.aload_n 0, 1) := dk_42 (dk_at dksX2_setCharge_0 5 rfl rfl)
theorem dX2_setCharge_6 : decode cX2_setCharge 6 = .ok (.iload_n 1, 1) := dk_27 (dk_at dksX2_setCharge_0 6 rfl rfl)
theorem dX2_setCharge_7 : decode cX2_setCharge 7 = .ok (.invokevirtual 210, 3) := dk_182 0 210 (dk_at dksX2_setCharge_0 7 rfl rfl)
theorem dX2_setCharge_10 : decode cX2_setCharge 10 = .ok (.iload_n 2, 1) := dk_28 (dk_at dksX2_setCharge_0 10 rfl rfl)
theorem dX2_setCharge_11 : decode cX2_setCharge 11 = .ok (.invokestatic 407, 3) := dk_184 1 151 (dk_at dksX2_setCharge_0 11 rfl rfl)
theorem dX2_setCharge_14 : decode cX2_setCharge 14 = .ok (.invokevirtual 60, 3) := dk_182 0 60 (dk_at dksX2_setCharge_0 14 rfl rfl)
theorem dX2_setCharge_17 : decode cX2_setCharge 17 = .ok (.ifCond .ne 5, 3) := dk_154 0 5 (dk_at dksX2_setCharge_0 17 rfl rfl)
theorem dX2_setCharge_20 : decode cX2_setCharge 20 = .ok (.iconst 0, 1) := dk_3 (dk_at dksX2_setCharge_0 20 rfl rfl)
theorem dX2_setCharge_21 : decode cX2_setCharge 21 = .ok (.ireturn, 1) := dk_172 (dk_at dksX2_setCharge_0 21 rfl rfl)
theorem dX2_setCharge_22 : decode cX2_setCharge 22 = .ok (.aload_n 0, 1) := dk_42 (dk_at dksX2_setCharge_0 22 rfl rfl)
theorem dX2_setCharge_23 : decode cX2_setCharge 23 = .ok (.invokevirtual 410, 3) := dk_182 1 154 (dk_at dksX2_setCharge_1 0 rfl rfl)
theorem dX2_setCharge_26 : decode cX2_setCharge 26 = .ok (.aload_n 0, 1) := dk_42 (dk_at dksX2_setCharge_1 3 rfl rfl)
theorem dX2_setCharge_27 : decode cX2_setCharge 27 = .ok (.iload_n 1, 1) := dk_27 (dk_at dksX2_setCharge_1 4 rfl rfl)
theorem dX2_setCharge_28 : decode cX2_setCharge 28 = .ok (.iconst 1, 1) := dk_4 (dk_at dksX2_setCharge_1 5 rfl rfl)
theorem dX2_setCharge_29 : decode cX2_setCharge 29 = .ok (.invokevirtual 163, 3) := dk_182 0 163 (dk_at dksX2_setCharge_1 6 rfl rfl)
theorem dX2_setCharge_32 : decode cX2_setCharge 32 = .ok (.istore_n 3, 1) := dk_62 (dk_at dksX2_setCharge_1 9 rfl rfl)
theorem dX2_setCharge_33 : decode cX2_setCharge 33 = .ok (.aload_n 0, 1) := dk_42 (dk_at dksX2_setCharge_1 10 rfl rfl)
theorem dX2_setCharge_34 : decode cX2_setCharge 34 = .ok (.iload_n 1, 1) := dk_27 (dk_at dksX2_setCharge_1 11 rfl rfl)
theorem dX2_setCharge_35 : decode cX2_setCharge 35 = .ok (.iconst 1, 1) := dk_4 (dk_at dksX2_setCharge_1 12 rfl rfl)
theorem dX2_setCharge_36 : decode cX2_setCharge 36 = .ok (.iload_n 2, 1) := dk_28 (dk_at dksX2_setCharge_1 13 rfl rfl)
theorem dX2_setCharge_37 : decode cX2_setCharge 37 = .ok (.invokevirtual 166, 3) := dk_182 0 166 (dk_at dksX2_setCharge_1 14 rfl rfl)
theorem dX2_setCharge_40 : decode cX2_setCharge 40 = .ok (.iload_n 3, 1) := dk_29 (dk_at dksX2_setCharge_1 17 rfl rfl)
theorem dX2_setCharge_41 : decode cX2_setCharge 41 = .ok (.ireturn, 1) := dk_172 (dk_at dksX2_setCharge_1 18 rfl rfl)
abbrev cX2_remove : ByteArray := prog_10_method_142_code
def yX2_remove : MethodName := ⟨RX2, "remove", "(I)I"⟩
def dkwX2_remove_3 : List UInt8 := [167, 255, 224, 42, 180, 0, 9, 3, 46, 172]
abbrev dktX2_remove_3 : List UInt8 := dkwX2_remove_3 ++ []
def dkwX2_remove_2 : List UInt8 := [3, 46, 104, 96, 162, 0, 23, 42, 180, 0, 9, 28, 42, 180, 0, 9, 28, 7, 96, 46, 79, 132, 2, 1]
abbrev dktX2_remove_2 : List UInt8 := dkwX2_remove_2 ++ dktX2_remove_3
def dkwX2_remove_1 : List UInt8 := [180, 0, 9, 3, 92, 46, 4, 100, 79, 16, 7, 7, 27, 104, 96, 61, 28, 16, 7, 7, 42, 180, 0, 9]
abbrev dktX2_remove_1 : List UInt8 := dkwX2_remove_1 ++ dktX2_remove_2
def dkwX2_remove_0 : List UInt8 := [42, 42, 180, 0, 156, 42, 27, 182, 0, 210, 182, 0, 193, 154, 0, 5, 3, 172, 42, 182, 1, 154, 42]
abbrev dktX2_remove_0 : List UInt8 := dkwX2_remove_0 ++ dktX2_remove_1
theorem dksX2_remove_0 : cX2_remove.data.toList.drop 0 = dktX2_remove_0 := by decide +kernel
theorem dksX2_remove_1 : cX2_remove.data.toList.drop 23 = dktX2_remove_1 := dk_seg dksX2_remove_0 23 rfl rfl
theorem dksX2_remove_2 : cX2_remove.data.toList.drop 47 = dktX2_remove_2 := dk_seg dksX2_remove_1 24 rfl rfl
theorem dksX2_remove_3 : cX2_remove.data.toList.drop 71 = dktX2_remove_3 := dk_seg dksX2_remove_2 24 rfl rfl
theorem dX2_remove_0 : decode cX2_remove 0 = .ok (.aload_n 0, 1) := dk_42 (dk_at dksX2_remove_0 0 rfl rfl)
theorem dX2_remove_1 : decode cX2_remove 1 = .ok (.aload_n 0, 1) := dk_42 (dk_at dksX2_remove_0 1 rfl rfl)
theorem dX2_remove_2 : decode cX2_remove 2 = .ok (.getfield 156, 3) := dk_180 0 156 (dk_at dksX2_remove_0 2 rfl rfl)
theorem dX2_remove_5 : decode cX2_remove 5 = .ok (.aload_n 0, 1) := dk_42 (dk_at dksX2_remove_0 5 rfl rfl)
theorem dX2_remove_6 : decode cX2_remove 6 = .ok (.iload_n 1, 1) := dk_27 (dk_at dksX2_remove_0 6 rfl rfl)
theorem dX2_remove_7 : decode cX2_remove 7 = .ok (.invokevirtual 210, 3) := dk_182 0 210 (dk_at dksX2_remove_0 7 rfl rfl)
theorem dX2_remove_10 : decode cX2_remove 10 = .ok (.invokevirtual 193, 3) := dk_182 0 193 (dk_at dksX2_remove_0 10 rfl rfl)
theorem dX2_remove_13 : decode cX2_remove 13 = .ok (.ifCond .ne 5, 3) := dk_154 0 5 (dk_at dksX2_remove_0 13 rfl rfl)
theorem dX2_remove_16 : decode cX2_remove 16 = .ok (.iconst 0, 1) := dk_3 (dk_at dksX2_remove_0 16 rfl rfl)
theorem dX2_remove_17 : decode cX2_remove 17 = .ok (.ireturn, 1) := dk_172 (dk_at dksX2_remove_0 17 rfl rfl)
theorem dX2_remove_18 : decode cX2_remove 18 = .ok (.aload_n 0, 1) := dk_42 (dk_at dksX2_remove_0 18 rfl rfl)
theorem dX2_remove_19 : decode cX2_remove 19 = .ok (.invokevirtual 410, 3) := dk_182 1 154 (dk_at dksX2_remove_0 19 rfl rfl)
theorem dX2_remove_22 : decode cX2_remove 22 = .ok (.aload_n 0, 1) := dk_42 (dk_at dksX2_remove_0 22 rfl rfl)
theorem dX2_remove_23 : decode cX2_remove 23 = .ok (.getfield 9, 3) := dk_180 0 9 (dk_at dksX2_remove_1 0 rfl rfl)
theorem dX2_remove_26 : decode cX2_remove 26 = .ok (.iconst 0, 1) := dk_3 (dk_at dksX2_remove_1 3 rfl rfl)
theorem dX2_remove_27 : decode cX2_remove 27 = .ok (.dup2, 1) := dk_92 (dk_at dksX2_remove_1 4 rfl rfl)
theorem dX2_remove_28 : decode cX2_remove 28 = .ok (.iaload, 1) := dk_46 (dk_at dksX2_remove_1 5 rfl rfl)
theorem dX2_remove_29 : decode cX2_remove 29 = .ok (.iconst 1, 1) := dk_4 (dk_at dksX2_remove_1 6 rfl rfl)
theorem dX2_remove_30 : decode cX2_remove 30 = .ok (.isub, 1) := dk_100 (dk_at dksX2_remove_1 7 rfl rfl)
theorem dX2_remove_31 : decode cX2_remove 31 = .ok (.iastore, 1) := dk_79 (dk_at dksX2_remove_1 8 rfl rfl)
theorem dX2_remove_32 : decode cX2_remove 32 = .ok (.bipush 7, 2) := dk_16 7 (dk_at dksX2_remove_1 9 rfl rfl)
theorem dX2_remove_34 : decode cX2_remove 34 = .ok (.iconst 4, 1) := dk_7 (dk_at dksX2_remove_1 11 rfl rfl)
theorem dX2_remove_35 : decode cX2_remove 35 = .ok (.iload_n 1, 1) := dk_27 (dk_at dksX2_remove_1 12 rfl rfl)
theorem dX2_remove_36 : decode cX2_remove 36 = .ok (.imul, 1) := dk_104 (dk_at dksX2_remove_1 13 rfl rfl)
theorem dX2_remove_37 : decode cX2_remove 37 = .ok (.iadd, 1) := dk_96 (dk_at dksX2_remove_1 14 rfl rfl)
theorem dX2_remove_38 : decode cX2_remove 38 = .ok (.istore_n 2, 1) := dk_61 (dk_at dksX2_remove_1 15 rfl rfl)
theorem dX2_remove_39 : decode cX2_remove 39 = .ok (.iload_n 2, 1) := dk_28 (dk_at dksX2_remove_1 16 rfl rfl)
theorem dX2_remove_40 : decode cX2_remove 40 = .ok (.bipush 7, 2) := dk_16 7 (dk_at dksX2_remove_1 17 rfl rfl)
theorem dX2_remove_42 : decode cX2_remove 42 = .ok (.iconst 4, 1) := dk_7 (dk_at dksX2_remove_1 19 rfl rfl)
theorem dX2_remove_43 : decode cX2_remove 43 = .ok (.aload_n 0, 1) := dk_42 (dk_at dksX2_remove_1 20 rfl rfl)
theorem dX2_remove_44 : decode cX2_remove 44 = .ok (.getfield 9, 3) := dk_180 0 9 (dk_at dksX2_remove_1 21 rfl rfl)
theorem dX2_remove_47 : decode cX2_remove 47 = .ok (.iconst 0, 1) := dk_3 (dk_at dksX2_remove_2 0 rfl rfl)
theorem dX2_remove_48 : decode cX2_remove 48 = .ok (.iaload, 1) := dk_46 (dk_at dksX2_remove_2 1 rfl rfl)
theorem dX2_remove_49 : decode cX2_remove 49 = .ok (.imul, 1) := dk_104 (dk_at dksX2_remove_2 2 rfl rfl)
theorem dX2_remove_50 : decode cX2_remove 50 = .ok (.iadd, 1) := dk_96 (dk_at dksX2_remove_2 3 rfl rfl)
theorem dX2_remove_51 : decode cX2_remove 51 = .ok (.if_icmp .ge 23, 3) := dk_162 0 23 (dk_at dksX2_remove_2 4 rfl rfl)
theorem dX2_remove_54 : decode cX2_remove 54 = .ok (.aload_n 0, 1) := dk_42 (dk_at dksX2_remove_2 7 rfl rfl)
theorem dX2_remove_55 : decode cX2_remove 55 = .ok (.getfield 9, 3) := dk_180 0 9 (dk_at dksX2_remove_2 8 rfl rfl)
theorem dX2_remove_58 : decode cX2_remove 58 = .ok (.iload_n 2, 1) := dk_28 (dk_at dksX2_remove_2 11 rfl rfl)
theorem dX2_remove_59 : decode cX2_remove 59 = .ok (.aload_n 0, 1) := dk_42 (dk_at dksX2_remove_2 12 rfl rfl)
theorem dX2_remove_60 : decode cX2_remove 60 = .ok (.getfield 9, 3) := dk_180 0 9 (dk_at dksX2_remove_2 13 rfl rfl)
theorem dX2_remove_63 : decode cX2_remove 63 = .ok (.iload_n 2, 1) := dk_28 (dk_at dksX2_remove_2 16 rfl rfl)
theorem dX2_remove_64 : decode cX2_remove 64 = .ok (.iconst 4, 1) := dk_7 (dk_at dksX2_remove_2 17 rfl rfl)
theorem dX2_remove_65 : decode cX2_remove 65 = .ok (.iadd, 1) := dk_96 (dk_at dksX2_remove_2 18 rfl rfl)
theorem dX2_remove_66 : decode cX2_remove 66 = .ok (.iaload, 1) := dk_46 (dk_at dksX2_remove_2 19 rfl rfl)
theorem dX2_remove_67 : decode cX2_remove 67 = .ok (.iastore, 1) := dk_79 (dk_at dksX2_remove_2 20 rfl rfl)
theorem dX2_remove_68 : decode cX2_remove 68 = .ok (.iinc 2 1, 3) := dk_132 2 1 (dk_at dksX2_remove_2 21 rfl rfl)
theorem dX2_remove_71 : decode cX2_remove 71 = .ok (.goto (-32), 3) := dk_167 255 224 (dk_at dksX2_remove_3 0 rfl rfl)
theorem dX2_remove_74 : decode cX2_remove 74 = .ok (.aload_n 0, 1) := dk_42 (dk_at dksX2_remove_3 3 rfl rfl)
theorem dX2_remove_75 : decode cX2_remove 75 = .ok (.getfield 9, 3) := dk_180 0 9 (dk_at dksX2_remove_3 4 rfl rfl)
theorem dX2_remove_78 : decode cX2_remove 78 = .ok (.iconst 0, 1) := dk_3 (dk_at dksX2_remove_3 7 rfl rfl)
theorem dX2_remove_79 : decode cX2_remove 79 = .ok (.iaload, 1) := dk_46 (dk_at dksX2_remove_3 8 rfl rfl)
theorem dX2_remove_80 : decode cX2_remove 80 = .ok (.ireturn, 1) := dk_172 (dk_at dksX2_remove_3 9 rfl rfl)
abbrev cX2_step : ByteArray := prog_10_method_143_code
def yX2_step : MethodName := ⟨RX2, "step", "(I)I"⟩
def dkwX2_step_2 : List UInt8 := [27, 182, 1, 103, 172]
abbrev dktX2_step_2 : List UInt8 := dkwX2_step_2 ++ []
def dkwX2_step_1 : List UInt8 := [17, 39, 15, 163, 0, 7, 4, 167, 0, 4, 3, 182, 0, 193, 154, 0, 5, 3, 172, 42, 182, 1, 154, 42]
abbrev dktX2_step_1 : List UInt8 := dkwX2_step_1 ++ dktX2_step_2
def dkwX2_step_0 : List UInt8 := [42, 42, 180, 0, 156, 27, 4, 16, 50, 184, 0, 77, 153, 0, 22, 42, 180, 0, 9, 16, 6, 46, 27, 96]
abbrev dktX2_step_0 : List UInt8 := dkwX2_step_0 ++ dktX2_step_1
theorem dksX2_step_0 : cX2_step.data.toList.drop 0 = dktX2_step_0 := by decide +kernel
theorem dksX2_step_1 : cX2_step.data.toList.drop 24 = dktX2_step_1 := dk_seg dksX2_step_0 24 rfl rfl
theorem dksX2_step_2 : cX2_step.data.toList.drop 48 = dktX2_step_2 := dk_seg dksX2_step_1 24 rfl rfl
theorem dX2_step_0 : decode cX2_step 0 = .ok (.aload_n 0, 1) := dk_42 (dk_at dksX2_step_0 0 rfl rfl)
theorem dX2_step_1 : decode cX2_step 1 = .ok (.aload_n 0, 1) := dk_42 (dk_at dksX2_step_0 1 rfl rfl)
theorem dX2_step_2 : decode cX2_step 2 = .ok (.getfield 156, 3) := dk_180 0 156 (dk_at dksX2_step_0 2 rfl rfl)
theorem dX2_step_5 : decode cX2_step 5 = .ok (.iload_n 1, 1) := dk_27 (dk_at dksX2_step_0 5 rfl rfl)
theorem dX2_step_6 : decode cX2_step 6 = .ok (.iconst 1, 1) := dk_4 (dk_at dksX2_step_0 6 rfl rfl)
theorem dX2_step_7 : decode cX2_step 7 = .ok (.bipush 50, 2) := dk_16 50 (dk_at dksX2_step_0 7 rfl rfl)
theorem dX2_step_9 : decode cX2_step 9 = .ok (.invokestatic 77, 3) := dk_184 0 77 (dk_at dksX2_step_0 9 rfl rfl)
theorem dX2_step_12 : decode cX2_step 12 = .ok (.ifCond .eq 22, 3) := dk_153 0 22 (dk_at dksX2_step_0 12 rfl rfl)
theorem dX2_step_15 : decode cX2_step 15 = .ok (.aload_n 0, 1) := dk_42 (dk_at dksX2_step_0 15 rfl rfl)
theorem dX2_step_16 : decode cX2_step 16 = .ok (.getfield 9, 3) := dk_180 0 9 (dk_at dksX2_step_0 16 rfl rfl)
theorem dX2_step_19 : decode cX2_step 19 = .ok (.bipush 6, 2) := dk_16 6 (dk_at dksX2_step_0 19 rfl rfl)
theorem dX2_step_21 : decode cX2_step 21 = .ok (.iaload, 1) := dk_46 (dk_at dksX2_step_0 21 rfl rfl)
theorem dX2_step_22 : decode cX2_step 22 = .ok (.iload_n 1, 1) := dk_27 (dk_at dksX2_step_0 22 rfl rfl)
theorem dX2_step_23 : decode cX2_step 23 = .ok (.iadd, 1) := dk_96 (dk_at dksX2_step_0 23 rfl rfl)
theorem dX2_step_24 : decode cX2_step 24 = .ok (.sipush 9999, 3) := dk_17 39 15 (dk_at dksX2_step_1 0 rfl rfl)
theorem dX2_step_27 : decode cX2_step 27 = .ok (.if_icmp .gt 7, 3) := dk_163 0 7 (dk_at dksX2_step_1 3 rfl rfl)
theorem dX2_step_30 : decode cX2_step 30 = .ok (.iconst 1, 1) := dk_4 (dk_at dksX2_step_1 6 rfl rfl)
theorem dX2_step_31 : decode cX2_step 31 = .ok (.goto 4, 3) := dk_167 0 4 (dk_at dksX2_step_1 7 rfl rfl)
theorem dX2_step_34 : decode cX2_step 34 = .ok (.iconst 0, 1) := dk_3 (dk_at dksX2_step_1 10 rfl rfl)
theorem dX2_step_35 : decode cX2_step 35 = .ok (.invokevirtual 193, 3) := dk_182 0 193 (dk_at dksX2_step_1 11 rfl rfl)
theorem dX2_step_38 : decode cX2_step 38 = .ok (.ifCond .ne 5, 3) := dk_154 0 5 (dk_at dksX2_step_1 14 rfl rfl)
theorem dX2_step_41 : decode cX2_step 41 = .ok (.iconst 0, 1) := dk_3 (dk_at dksX2_step_1 17 rfl rfl)
theorem dX2_step_42 : decode cX2_step 42 = .ok (.ireturn, 1) := dk_172 (dk_at dksX2_step_1 18 rfl rfl)
theorem dX2_step_43 : decode cX2_step 43 = .ok (.aload_n 0, 1) := dk_42 (dk_at dksX2_step_1 19 rfl rfl)
theorem dX2_step_44 : decode cX2_step 44 = .ok (.invokevirtual 410, 3) := dk_182 1 154 (dk_at dksX2_step_1 20 rfl rfl)
theorem dX2_step_47 : decode cX2_step 47 = .ok (.aload_n 0, 1) := dk_42 (dk_at dksX2_step_1 23 rfl rfl)
theorem dX2_step_48 : decode cX2_step 48 = .ok (.iload_n 1, 1) := dk_27 (dk_at dksX2_step_2 0 rfl rfl)
theorem dX2_step_49 : decode cX2_step 49 = .ok (.invokevirtual 359, 3) := dk_182 1 103 (dk_at dksX2_step_2 1 rfl rfl)
theorem dX2_step_52 : decode cX2_step 52 = .ok (.ireturn, 1) := dk_172 (dk_at dksX2_step_2 4 rfl rfl)
abbrev cX2_isNumber : ByteArray := prog_10_method_144_code
def yX2_isNumber : MethodName := ⟨RX2, "isNumber", "(II)Z"⟩
def dkwX2_isNumber_3 : List UInt8 := [172]
abbrev dktX2_isNumber_3 : List UInt8 := dkwX2_isNumber_3 ++ []
def dkwX2_isNumber_2 : List UInt8 := [27, 5, 8, 184, 0, 77, 172, 27, 3, 7, 184, 0, 77, 172, 27, 3, 17, 3, 231, 184, 0, 77, 172, 3]
abbrev dktX2_isNumber_2 : List UInt8 := dkwX2_isNumber_2 ++ dktX2_isNumber_3
def dkwX2_isNumber_1 : List UInt8 := [170, 0, 0, 0, 0, 0, 50, 0, 0, 0, 3, 0, 0, 0, 5, 0, 0, 0, 27, 0, 0, 0, 34, 0, 0, 0, 41]
abbrev dktX2_isNumber_1 : List UInt8 := dkwX2_isNumber_1 ++ dktX2_isNumber_2
def dkwX2_isNumber_0 : List UInt8 := [26]
abbrev dktX2_isNumber_0 : List UInt8 := dkwX2_isNumber_0 ++ dktX2_isNumber_1
theorem dksX2_isNumber_0 : cX2_isNumber.data.toList.drop 0 = dktX2_isNumber_0 := by decide +kernel
theorem dksX2_isNumber_1 : cX2_isNumber.data.toList.drop 1 = dktX2_isNumber_1 := dk_seg dksX2_isNumber_0 1 rfl rfl
theorem dksX2_isNumber_2 : cX2_isNumber.data.toList.drop 28 = dktX2_isNumber_2 := dk_seg dksX2_isNumber_1 27 rfl rfl
theorem dksX2_isNumber_3 : cX2_isNumber.data.toList.drop 52 = dktX2_isNumber_3 := dk_seg dksX2_isNumber_2 24 rfl rfl
theorem dX2_isNumber_0 : decode cX2_isNumber 0 = .ok (.iload_n 0, 1) := dk_26 (dk_at dksX2_isNumber_0 0 rfl rfl)
theorem dX2_isNumber_1 : decode cX2_isNumber 1 = .ok (.tableswitch 50 3 5 #[27, 34, 41], 27) := by decide +kernel
theorem dX2_isNumber_28 : decode cX2_isNumber 28 = .ok (.iload_n 1, 1) := dk_27 (dk_at dksX2_isNumber_2 0 rfl rfl)
theorem dX2_isNumber_29 : decode cX2_isNumber 29 = .ok (.iconst 2, 1) := dk_5 (dk_at dksX2_isNumber_2 1 rfl rfl)
theorem dX2_isNumber_30 : decode cX2_isNumber 30 = .ok (.iconst 5, 1) := dk_8 (dk_at dksX2_isNumber_2 2 rfl rfl)
theorem dX2_isNumber_31 : decode cX2_isNumber 31 = .ok (.invokestatic 77, 3) := dk_184 0 77 (dk_at dksX2_isNumber_2 3 rfl rfl)
theorem dX2_isNumber_34 : decode cX2_isNumber 34 = .ok (.ireturn, 1) := dk_172 (dk_at dksX2_isNumber_2 6 rfl rfl)
theorem dX2_isNumber_35 : decode cX2_isNumber 35 = .ok (.iload_n 1, 1) := dk_27 (dk_at dksX2_isNumber_2 7 rfl rfl)
theorem dX2_isNumber_36 : decode cX2_isNumber 36 = .ok (.iconst 0, 1) := dk_3 (dk_at dksX2_isNumber_2 8 rfl rfl)
theorem dX2_isNumber_37 : decode cX2_isNumber 37 = .ok (.iconst 4, 1) := dk_7 (dk_at dksX2_isNumber_2 9 rfl rfl)
theorem dX2_isNumber_38 : decode cX2_isNumber 38 = .ok (.invokestatic 77, 3) := dk_184 0 77 (dk_at dksX2_isNumber_2 10 rfl rfl)
theorem dX2_isNumber_41 : decode cX2_isNumber 41 = .ok (.ireturn, 1) := dk_172 (dk_at dksX2_isNumber_2 13 rfl rfl)
theorem dX2_isNumber_42 : decode cX2_isNumber 42 = .ok (.iload_n 1, 1) := dk_27 (dk_at dksX2_isNumber_2 14 rfl rfl)
theorem dX2_isNumber_43 : decode cX2_isNumber 43 = .ok (.iconst 0, 1) := dk_3 (dk_at dksX2_isNumber_2 15 rfl rfl)
theorem dX2_isNumber_44 : decode cX2_isNumber 44 = .ok (.sipush 999, 3) := dk_17 3 231 (dk_at dksX2_isNumber_2 16 rfl rfl)
theorem dX2_isNumber_47 : decode cX2_isNumber 47 = .ok (.invokestatic 77, 3) := dk_184 0 77 (dk_at dksX2_isNumber_2 19 rfl rfl)
theorem dX2_isNumber_50 : decode cX2_isNumber 50 = .ok (.ireturn, 1) := dk_172 (dk_at dksX2_isNumber_2 22 rfl rfl)
theorem dX2_isNumber_51 : decode cX2_isNumber 51 = .ok (.iconst 0, 1) := dk_3 (dk_at dksX2_isNumber_2 23 rfl rfl)
theorem dX2_isNumber_52 : decode cX2_isNumber 52 = .ok (.ireturn, 1) := dk_172 (dk_at dksX2_isNumber_3 0 rfl rfl)
abbrev cX2_setNumber : ByteArray := prog_10_method_145_code
def yX2_setNumber : MethodName := ⟨RX2, "setNumber", "(II)I"⟩
def dkwX2_setNumber_1 : List UInt8 := [180, 0, 9, 27, 46, 62, 42, 180, 0, 9, 27, 28, 79, 29, 172]
abbrev dktX2_setNumber_1 : List UInt8 := dkwX2_setNumber_1 ++ []
def dkwX2_setNumber_0 : List UInt8 := [42, 42, 180, 0, 156, 27, 28, 184, 1, 157, 182, 0, 193, 154, 0, 5, 3, 172, 42, 182, 1, 154, 42]
abbrev dktX2_setNumber_0 : List UInt8 := dkwX2_setNumber_0 ++ dktX2_setNumber_1
theorem dksX2_setNumber_0 : cX2_setNumber.data.toList.drop 0 = dktX2_setNumber_0 := by decide +kernel
theorem dksX2_setNumber_1 : cX2_setNumber.data.toList.drop 23 = dktX2_setNumber_1 := dk_seg dksX2_setNumber_0 23 rfl rfl
theorem dX2_setNumber_0 : decode cX2_setNumber 0 = .ok (.aload_n 0, 1) := dk_42 (dk_at dksX2_setNumber_0 0 rfl rfl)
theorem dX2_setNumber_1 : decode cX2_setNumber 1 = .ok (.aload_n 0, 1) := dk_42 (dk_at dksX2_setNumber_0 1 rfl rfl)
theorem dX2_setNumber_2 : decode cX2_setNumber 2 = .ok (.getfield 156, 3) := dk_180 0 156 (dk_at dksX2_setNumber_0 2 rfl rfl)
theorem dX2_setNumber_5 : decode cX2_setNumber 5 = .ok (.iload_n 1, 1) := dk_27 (dk_at dksX2_setNumber_0 5 rfl rfl)
theorem dX2_setNumber_6 : decode cX2_setNumber 6 = .ok (.iload_n 2, 1) := dk_28 (dk_at dksX2_setNumber_0 6 rfl rfl)
theorem dX2_setNumber_7 : decode cX2_setNumber 7 = .ok (.invokestatic 413, 3) := dk_184 1 157 (dk_at dksX2_setNumber_0 7 rfl rfl)
theorem dX2_setNumber_10 : decode cX2_setNumber 10 = .ok (.invokevirtual 193, 3) := dk_182 0 193 (dk_at dksX2_setNumber_0 10 rfl rfl)
theorem dX2_setNumber_13 : decode cX2_setNumber 13 = .ok (.ifCond .ne 5, 3) := dk_154 0 5 (dk_at dksX2_setNumber_0 13 rfl rfl)
theorem dX2_setNumber_16 : decode cX2_setNumber 16 = .ok (.iconst 0, 1) := dk_3 (dk_at dksX2_setNumber_0 16 rfl rfl)
theorem dX2_setNumber_17 : decode cX2_setNumber 17 = .ok (.ireturn, 1) := dk_172 (dk_at dksX2_setNumber_0 17 rfl rfl)
theorem dX2_setNumber_18 : decode cX2_setNumber 18 = .ok (.aload_n 0, 1) := dk_42 (dk_at dksX2_setNumber_0 18 rfl rfl)
theorem dX2_setNumber_19 : decode cX2_setNumber 19 = .ok (.invokevirtual 410, 3) := dk_182 1 154 (dk_at dksX2_setNumber_0 19 rfl rfl)
theorem dX2_setNumber_22 : decode cX2_setNumber 22 = .ok (.aload_n 0, 1) := dk_42 (dk_at dksX2_setNumber_0 22 rfl rfl)
theorem dX2_setNumber_23 : decode cX2_setNumber 23 = .ok (.getfield 9, 3) := dk_180 0 9 (dk_at dksX2_setNumber_1 0 rfl rfl)
theorem dX2_setNumber_26 : decode cX2_setNumber 26 = .ok (.iload_n 1, 1) := dk_27 (dk_at dksX2_setNumber_1 3 rfl rfl)
theorem dX2_setNumber_27 : decode cX2_setNumber 27 = .ok (.iaload, 1) := dk_46 (dk_at dksX2_setNumber_1 4 rfl rfl)
theorem dX2_setNumber_28 : decode cX2_setNumber 28 = .ok (.istore_n 3, 1) := dk_62 (dk_at dksX2_setNumber_1 5 rfl rfl)
theorem dX2_setNumber_29 : decode cX2_setNumber 29 = .ok (.aload_n 0, 1) := dk_42 (dk_at dksX2_setNumber_1 6 rfl rfl)
theorem dX2_setNumber_30 : decode cX2_setNumber 30 = .ok (.getfield 9, 3) := dk_180 0 9 (dk_at dksX2_setNumber_1 7 rfl rfl)
theorem dX2_setNumber_33 : decode cX2_setNumber 33 = .ok (.iload_n 1, 1) := dk_27 (dk_at dksX2_setNumber_1 10 rfl rfl)
theorem dX2_setNumber_34 : decode cX2_setNumber 34 = .ok (.iload_n 2, 1) := dk_28 (dk_at dksX2_setNumber_1 11 rfl rfl)
theorem dX2_setNumber_35 : decode cX2_setNumber 35 = .ok (.iastore, 1) := dk_79 (dk_at dksX2_setNumber_1 12 rfl rfl)
theorem dX2_setNumber_36 : decode cX2_setNumber 36 = .ok (.iload_n 3, 1) := dk_29 (dk_at dksX2_setNumber_1 13 rfl rfl)
theorem dX2_setNumber_37 : decode cX2_setNumber 37 = .ok (.ireturn, 1) := dk_172 (dk_at dksX2_setNumber_1 14 rfl rfl)
abbrev cX2_undo : ByteArray := prog_10_method_146_code
def yX2_undo : MethodName := ⟨RX2, "undo", "()I"⟩
def dkwX2_undo_2 : List UInt8 := [3, 184, 0, 149, 42, 180, 0, 160, 172]
abbrev dktX2_undo_2 : List UInt8 := dkwX2_undo_2 ++ []
def dkwX2_undo_1 : List UInt8 := [89, 180, 0, 160, 4, 100, 181, 0, 160, 42, 180, 0, 16, 42, 180, 0, 160, 16, 103, 104, 42, 180, 0, 9]
abbrev dktX2_undo_1 : List UInt8 := dkwX2_undo_1 ++ dktX2_undo_2
def dkwX2_undo_0 : List UInt8 := [42, 42, 180, 0, 160, 158, 0, 7, 4, 167, 0, 4, 3, 4, 4, 182, 0, 60, 154, 0, 5, 3, 172, 42]
abbrev dktX2_undo_0 : List UInt8 := dkwX2_undo_0 ++ dktX2_undo_1
theorem dksX2_undo_0 : cX2_undo.data.toList.drop 0 = dktX2_undo_0 := by decide +kernel
theorem dksX2_undo_1 : cX2_undo.data.toList.drop 24 = dktX2_undo_1 := dk_seg dksX2_undo_0 24 rfl rfl
theorem dksX2_undo_2 : cX2_undo.data.toList.drop 48 = dktX2_undo_2 := dk_seg dksX2_undo_1 24 rfl rfl
theorem dX2_undo_0 : decode cX2_undo 0 = .ok (.aload_n 0, 1) := dk_42 (dk_at dksX2_undo_0 0 rfl rfl)
theorem dX2_undo_1 : decode cX2_undo 1 = .ok (.aload_n 0, 1) := dk_42 (dk_at dksX2_undo_0 1 rfl rfl)
theorem dX2_undo_2 : decode cX2_undo 2 = .ok (.getfield 160, 3) := dk_180 0 160 (dk_at dksX2_undo_0 2 rfl rfl)
theorem dX2_undo_5 : decode cX2_undo 5 = .ok (.ifCond .le 7, 3) := dk_158 0 7 (dk_at dksX2_undo_0 5 rfl rfl)
theorem dX2_undo_8 : decode cX2_undo 8 = .ok (.iconst 1, 1) := dk_4 (dk_at dksX2_undo_0 8 rfl rfl)
theorem dX2_undo_9 : decode cX2_undo 9 = .ok (.goto 4, 3) := dk_167 0 4 (dk_at dksX2_undo_0 9 rfl rfl)
theorem dX2_undo_12 : decode cX2_undo 12 = .ok (.iconst 0, 1) := dk_3 (dk_at dksX2_undo_0 12 rfl rfl)
theorem dX2_undo_13 : decode cX2_undo 13 = .ok (.iconst 1, 1) := dk_4 (dk_at dksX2_undo_0 13 rfl rfl)
theorem dX2_undo_14 : decode cX2_undo 14 = .ok (.iconst 1, 1) := dk_4 (dk_at dksX2_undo_0 14 rfl rfl)
theorem dX2_undo_15 : decode cX2_undo 15 = .ok (.invokevirtual 60, 3) := dk_182 0 60 (dk_at dksX2_undo_0 15 rfl rfl)
theorem dX2_undo_18 : decode cX2_undo 18 = .ok (.ifCond .ne 5, 3) := dk_154 0 5 (dk_at dksX2_undo_0 18 rfl rfl)
theorem dX2_undo_21 : decode cX2_undo 21 = .ok (.iconst 0, 1) := dk_3 (dk_at dksX2_undo_0 21 rfl rfl)
theorem dX2_undo_22 : decode cX2_undo 22 = .ok (.ireturn, 1) := dk_172 (dk_at dksX2_undo_0 22 rfl rfl)
theorem dX2_undo_23 : decode cX2_undo 23 = .ok (.aload_n 0, 1) := dk_42 (dk_at dksX2_undo_0 23 rfl rfl)
theorem dX2_undo_24 : decode cX2_undo 24 = .ok (.dup, 1) := dk_89 (dk_at dksX2_undo_1 0 rfl rfl)
theorem dX2_undo_25 : decode cX2_undo 25 = .ok (.getfield 160, 3) := dk_180 0 160 (dk_at dksX2_undo_1 1 rfl rfl)
theorem dX2_undo_28 : decode cX2_undo 28 = .ok (.iconst 1, 1) := dk_4 (dk_at dksX2_undo_1 4 rfl rfl)
theorem dX2_undo_29 : decode cX2_undo 29 = .ok (.isub, 1) := dk_100 (dk_at dksX2_undo_1 5 rfl rfl)
theorem dX2_undo_30 : decode cX2_undo 30 = .ok (.putfield 160, 3) := dk_181 0 160 (dk_at dksX2_undo_1 6 rfl rfl)
theorem dX2_undo_33 : decode cX2_undo 33 = .ok (.aload_n 0, 1) := dk_42 (dk_at dksX2_undo_1 9 rfl rfl)
theorem dX2_undo_34 : decode cX2_undo 34 = .ok (.getfield 16, 3) := dk_180 0 16 (dk_at dksX2_undo_1 10 rfl rfl)
theorem dX2_undo_37 : decode cX2_undo 37 = .ok (.aload_n 0, 1) := dk_42 (dk_at dksX2_undo_1 13 rfl rfl)
theorem dX2_undo_38 : decode cX2_undo 38 = .ok (.getfield 160, 3) := dk_180 0 160 (dk_at dksX2_undo_1 14 rfl rfl)
theorem dX2_undo_41 : decode cX2_undo 41 = .ok (.bipush 103, 2) := dk_16 103 (dk_at dksX2_undo_1 17 rfl rfl)
theorem dX2_undo_43 : decode cX2_undo 43 = .ok (.imul, 1) := dk_104 (dk_at dksX2_undo_1 19 rfl rfl)
theorem dX2_undo_44 : decode cX2_undo 44 = .ok (.aload_n 0, 1) := dk_42 (dk_at dksX2_undo_1 20 rfl rfl)
theorem dX2_undo_45 : decode cX2_undo 45 = .ok (.getfield 9, 3) := dk_180 0 9 (dk_at dksX2_undo_1 21 rfl rfl)
theorem dX2_undo_48 : decode cX2_undo 48 = .ok (.iconst 0, 1) := dk_3 (dk_at dksX2_undo_2 0 rfl rfl)
theorem dX2_undo_49 : decode cX2_undo 49 = .ok (.invokestatic 149, 3) := dk_184 0 149 (dk_at dksX2_undo_2 1 rfl rfl)
theorem dX2_undo_52 : decode cX2_undo 52 = .ok (.aload_n 0, 1) := dk_42 (dk_at dksX2_undo_2 4 rfl rfl)
theorem dX2_undo_53 : decode cX2_undo 53 = .ok (.getfield 160, 3) := dk_180 0 160 (dk_at dksX2_undo_2 5 rfl rfl)
theorem dX2_undo_56 : decode cX2_undo 56 = .ok (.ireturn, 1) := dk_172 (dk_at dksX2_undo_2 8 rfl rfl)
abbrev cX2_undoable : ByteArray := prog_10_method_147_code
def yX2_undoable : MethodName := ⟨RX2, "undoable", "()I"⟩
def dkwX2_undoable_0 : List UInt8 := [42, 3, 181, 0, 57, 42, 180, 0, 160, 172]
abbrev dktX2_undoable_0 : List UInt8 := dkwX2_undoable_0 ++ []
theorem dksX2_undoable_0 : cX2_undoable.data.toList.drop 0 = dktX2_undoable_0 := by decide +kernel
theorem dX2_undoable_0 : decode cX2_undoable 0 = .ok (.aload_n 0, 1) := dk_42 (dk_at dksX2_undoable_0 0 rfl rfl)
theorem dX2_undoable_1 : decode cX2_undoable 1 = .ok (.iconst 0, 1) := dk_3 (dk_at dksX2_undoable_0 1 rfl rfl)
theorem dX2_undoable_2 : decode cX2_undoable 2 = .ok (.putfield 57, 3) := dk_181 0 57 (dk_at dksX2_undoable_0 2 rfl rfl)
theorem dX2_undoable_5 : decode cX2_undoable 5 = .ok (.aload_n 0, 1) := dk_42 (dk_at dksX2_undoable_0 5 rfl rfl)
theorem dX2_undoable_6 : decode cX2_undoable 6 = .ok (.getfield 160, 3) := dk_180 0 160 (dk_at dksX2_undoable_0 6 rfl rfl)
theorem dX2_undoable_9 : decode cX2_undoable 9 = .ok (.ireturn, 1) := dk_172 (dk_at dksX2_undoable_0 9 rfl rfl)
abbrev cX2_save : ByteArray := prog_10_method_148_code
def yX2_save : MethodName := ⟨RX2, "save", "(I)I"⟩
def dkwX2_save_2 : List UInt8 := [46, 172]
abbrev dktX2_save_2 : List UInt8 := dkwX2_save_2 ++ []
def dkwX2_save_1 : List UInt8 := [42, 180, 0, 19, 27, 16, 103, 104, 184, 0, 149, 42, 180, 0, 22, 27, 4, 84, 42, 180, 0, 9, 16, 6]
abbrev dktX2_save_1 : List UInt8 := dkwX2_save_1 ++ dktX2_save_2
def dkwX2_save_0 : List UInt8 := [42, 42, 180, 0, 156, 27, 3, 4, 184, 0, 77, 182, 0, 193, 154, 0, 5, 3, 172, 42, 180, 0, 9, 3]
abbrev dktX2_save_0 : List UInt8 := dkwX2_save_0 ++ dktX2_save_1
theorem dksX2_save_0 : cX2_save.data.toList.drop 0 = dktX2_save_0 := by decide +kernel
theorem dksX2_save_1 : cX2_save.data.toList.drop 24 = dktX2_save_1 := dk_seg dksX2_save_0 24 rfl rfl
theorem dksX2_save_2 : cX2_save.data.toList.drop 48 = dktX2_save_2 := dk_seg dksX2_save_1 24 rfl rfl
theorem dX2_save_0 : decode cX2_save 0 = .ok (.aload_n 0, 1) := dk_42 (dk_at dksX2_save_0 0 rfl rfl)
theorem dX2_save_1 : decode cX2_save 1 = .ok (.aload_n 0, 1) := dk_42 (dk_at dksX2_save_0 1 rfl rfl)
theorem dX2_save_2 : decode cX2_save 2 = .ok (.getfield 156, 3) := dk_180 0 156 (dk_at dksX2_save_0 2 rfl rfl)
theorem dX2_save_5 : decode cX2_save 5 = .ok (.iload_n 1, 1) := dk_27 (dk_at dksX2_save_0 5 rfl rfl)
theorem dX2_save_6 : decode cX2_save 6 = .ok (.iconst 0, 1) := dk_3 (dk_at dksX2_save_0 6 rfl rfl)
theorem dX2_save_7 : decode cX2_save 7 = .ok (.iconst 1, 1) := dk_4 (dk_at dksX2_save_0 7 rfl rfl)
theorem dX2_save_8 : decode cX2_save 8 = .ok (.invokestatic 77, 3) := dk_184 0 77 (dk_at dksX2_save_0 8 rfl rfl)
theorem dX2_save_11 : decode cX2_save 11 = .ok (.invokevirtual 193, 3) := dk_182 0 193 (dk_at dksX2_save_0 11 rfl rfl)
theorem dX2_save_14 : decode cX2_save 14 = .ok (.ifCond .ne 5, 3) := dk_154 0 5 (dk_at dksX2_save_0 14 rfl rfl)
theorem dX2_save_17 : decode cX2_save 17 = .ok (.iconst 0, 1) := dk_3 (dk_at dksX2_save_0 17 rfl rfl)
theorem dX2_save_18 : decode cX2_save 18 = .ok (.ireturn, 1) := dk_172 (dk_at dksX2_save_0 18 rfl rfl)
theorem dX2_save_19 : decode cX2_save 19 = .ok (.aload_n 0, 1) := dk_42 (dk_at dksX2_save_0 19 rfl rfl)
theorem dX2_save_20 : decode cX2_save 20 = .ok (.getfield 9, 3) := dk_180 0 9 (dk_at dksX2_save_0 20 rfl rfl)
theorem dX2_save_23 : decode cX2_save 23 = .ok (.iconst 0, 1) := dk_3 (dk_at dksX2_save_0 23 rfl rfl)
theorem dX2_save_24 : decode cX2_save 24 = .ok (.aload_n 0, 1) := dk_42 (dk_at dksX2_save_1 0 rfl rfl)
theorem dX2_save_25 : decode cX2_save 25 = .ok (.getfield 19, 3) := dk_180 0 19 (dk_at dksX2_save_1 1 rfl rfl)
theorem dX2_save_28 : decode cX2_save 28 = .ok (.iload_n 1, 1) := dk_27 (dk_at dksX2_save_1 4 rfl rfl)
theorem dX2_save_29 : decode cX2_save 29 = .ok (.bipush 103, 2) := dk_16 103 (dk_at dksX2_save_1 5 rfl rfl)
theorem dX2_save_31 : decode cX2_save 31 = .ok (.imul, 1) := dk_104 (dk_at dksX2_save_1 7 rfl rfl)
theorem dX2_save_32 : decode cX2_save 32 = .ok (.invokestatic 149, 3) := dk_184 0 149 (dk_at dksX2_save_1 8 rfl rfl)
theorem dX2_save_35 : decode cX2_save 35 = .ok (.aload_n 0, 1) := dk_42 (dk_at dksX2_save_1 11 rfl rfl)
theorem dX2_save_36 : decode cX2_save 36 = .ok (.getfield 22, 3) := dk_180 0 22 (dk_at dksX2_save_1 12 rfl rfl)
theorem dX2_save_39 : decode cX2_save 39 = .ok (.iload_n 1, 1) := dk_27 (dk_at dksX2_save_1 15 rfl rfl)
theorem dX2_save_40 : decode cX2_save 40 = .ok (.iconst 1, 1) := dk_4 (dk_at dksX2_save_1 16 rfl rfl)
theorem dX2_save_41 : decode cX2_save 41 = .ok (.bastore, 1) := dk_84 (dk_at dksX2_save_1 17 rfl rfl)
theorem dX2_save_42 : decode cX2_save 42 = .ok (.aload_n 0, 1) := dk_42 (dk_at dksX2_save_1 18 rfl rfl)
theorem dX2_save_43 : decode cX2_save 43 = .ok (.getfield 9, 3) := dk_180 0 9 (dk_at dksX2_save_1 19 rfl rfl)
theorem dX2_save_46 : decode cX2_save 46 = .ok (.bipush 6, 2) := dk_16 6 (dk_at dksX2_save_1 22 rfl rfl)
theorem dX2_save_48 : decode cX2_save 48 = .ok (.iaload, 1) := dk_46 (dk_at dksX2_save_2 0 rfl rfl)
theorem dX2_save_49 : decode cX2_save 49 = .ok (.ireturn, 1) := dk_172 (dk_at dksX2_save_2 1 rfl rfl)
abbrev cX2_restore : ByteArray := prog_10_method_149_code
def yX2_restore : MethodName := ⟨RX2, "restore", "(I)I"⟩
def dkwX2_restore_2 : List UInt8 := [3, 184, 0, 149, 42, 3, 181, 0, 160, 42, 180, 0, 9, 16, 6, 46, 172]
abbrev dktX2_restore_2 : List UInt8 := dkwX2_restore_2 ++ []
def dkwX2_restore_1 : List UInt8 := [167, 0, 4, 3, 182, 0, 193, 154, 0, 5, 3, 172, 42, 180, 0, 19, 27, 16, 103, 104, 42, 180, 0, 9]
abbrev dktX2_restore_1 : List UInt8 := dkwX2_restore_1 ++ dktX2_restore_2
def dkwX2_restore_0 : List UInt8 := [27, 3, 4, 184, 0, 77, 61, 42, 28, 28, 153, 0, 16, 42, 180, 0, 22, 27, 51, 153, 0, 7, 4]
abbrev dktX2_restore_0 : List UInt8 := dkwX2_restore_0 ++ dktX2_restore_1
theorem dksX2_restore_0 : cX2_restore.data.toList.drop 0 = dktX2_restore_0 := by decide +kernel
theorem dksX2_restore_1 : cX2_restore.data.toList.drop 23 = dktX2_restore_1 := dk_seg dksX2_restore_0 23 rfl rfl
theorem dksX2_restore_2 : cX2_restore.data.toList.drop 47 = dktX2_restore_2 := dk_seg dksX2_restore_1 24 rfl rfl
theorem dX2_restore_0 : decode cX2_restore 0 = .ok (.iload_n 1, 1) := dk_27 (dk_at dksX2_restore_0 0 rfl rfl)
theorem dX2_restore_1 : decode cX2_restore 1 = .ok (.iconst 0, 1) := dk_3 (dk_at dksX2_restore_0 1 rfl rfl)
theorem dX2_restore_2 : decode cX2_restore 2 = .ok (.iconst 1, 1) := dk_4 (dk_at dksX2_restore_0 2 rfl rfl)
theorem dX2_restore_3 : decode cX2_restore 3 = .ok (.invokestatic 77, 3) := dk_184 0 77 (dk_at dksX2_restore_0 3 rfl rfl)
theorem dX2_restore_6 : decode cX2_restore 6 = .ok (.istore_n 2, 1) := dk_61 (dk_at dksX2_restore_0 6 rfl rfl)
theorem dX2_restore_7 : decode cX2_restore 7 = .ok (.aload_n 0, 1) := dk_42 (dk_at dksX2_restore_0 7 rfl rfl)
theorem dX2_restore_8 : decode cX2_restore 8 = .ok (.iload_n 2, 1) := dk_28 (dk_at dksX2_restore_0 8 rfl rfl)
theorem dX2_restore_9 : decode cX2_restore 9 = .ok (.iload_n 2, 1) := dk_28 (dk_at dksX2_restore_0 9 rfl rfl)
theorem dX2_restore_10 : decode cX2_restore 10 = .ok (.ifCond .eq 16, 3) := dk_153 0 16 (dk_at dksX2_restore_0 10 rfl rfl)
theorem dX2_restore_13 : decode cX2_restore 13 = .ok (.aload_n 0, 1) := dk_42 (dk_at dksX2_restore_0 13 rfl rfl)
theorem dX2_restore_14 : decode cX2_restore 14 = .ok (.getfield 22, 3) := dk_180 0 22 (dk_at dksX2_restore_0 14 rfl rfl)
theorem dX2_restore_17 : decode cX2_restore 17 = .ok (.iload_n 1, 1) := dk_27 (dk_at dksX2_restore_0 17 rfl rfl)
theorem dX2_restore_18 : decode cX2_restore 18 = .ok (.baload, 1) := dk_51 (dk_at dksX2_restore_0 18 rfl rfl)
theorem dX2_restore_19 : decode cX2_restore 19 = .ok (.ifCond .eq 7, 3) := dk_153 0 7 (dk_at dksX2_restore_0 19 rfl rfl)
theorem dX2_restore_22 : decode cX2_restore 22 = .ok (.iconst 1, 1) := dk_4 (dk_at dksX2_restore_0 22 rfl rfl)
theorem dX2_restore_23 : decode cX2_restore 23 = .ok (.goto 4, 3) := dk_167 0 4 (dk_at dksX2_restore_1 0 rfl rfl)
theorem dX2_restore_26 : decode cX2_restore 26 = .ok (.iconst 0, 1) := dk_3 (dk_at dksX2_restore_1 3 rfl rfl)
theorem dX2_restore_27 : decode cX2_restore 27 = .ok (.invokevirtual 193, 3) := dk_182 0 193 (dk_at dksX2_restore_1 4 rfl rfl)
theorem dX2_restore_30 : decode cX2_restore 30 = .ok (.ifCond .ne 5, 3) := dk_154 0 5 (dk_at dksX2_restore_1 7 rfl rfl)
theorem dX2_restore_33 : decode cX2_restore 33 = .ok (.iconst 0, 1) := dk_3 (dk_at dksX2_restore_1 10 rfl rfl)
theorem dX2_restore_34 : decode cX2_restore 34 = .ok (.ireturn, 1) := dk_172 (dk_at dksX2_restore_1 11 rfl rfl)
theorem dX2_restore_35 : decode cX2_restore 35 = .ok (.aload_n 0, 1) := dk_42 (dk_at dksX2_restore_1 12 rfl rfl)
theorem dX2_restore_36 : decode cX2_restore 36 = .ok (.getfield 19, 3) := dk_180 0 19 (dk_at dksX2_restore_1 13 rfl rfl)
theorem dX2_restore_39 : decode cX2_restore 39 = .ok (.iload_n 1, 1) := dk_27 (dk_at dksX2_restore_1 16 rfl rfl)
theorem dX2_restore_40 : decode cX2_restore 40 = .ok (.bipush 103, 2) := dk_16 103 (dk_at dksX2_restore_1 17 rfl rfl)
theorem dX2_restore_42 : decode cX2_restore 42 = .ok (.imul, 1) := dk_104 (dk_at dksX2_restore_1 19 rfl rfl)
theorem dX2_restore_43 : decode cX2_restore 43 = .ok (.aload_n 0, 1) := dk_42 (dk_at dksX2_restore_1 20 rfl rfl)
theorem dX2_restore_44 : decode cX2_restore 44 = .ok (.getfield 9, 3) := dk_180 0 9 (dk_at dksX2_restore_1 21 rfl rfl)
theorem dX2_restore_47 : decode cX2_restore 47 = .ok (.iconst 0, 1) := dk_3 (dk_at dksX2_restore_2 0 rfl rfl)
theorem dX2_restore_48 : decode cX2_restore 48 = .ok (.invokestatic 149, 3) := dk_184 0 149 (dk_at dksX2_restore_2 1 rfl rfl)
theorem dX2_restore_51 : decode cX2_restore 51 = .ok (.aload_n 0, 1) := dk_42 (dk_at dksX2_restore_2 4 rfl rfl)
theorem dX2_restore_52 : decode cX2_restore 52 = .ok (.iconst 0, 1) := dk_3 (dk_at dksX2_restore_2 5 rfl rfl)
theorem dX2_restore_53 : decode cX2_restore 53 = .ok (.putfield 160, 3) := dk_181 0 160 (dk_at dksX2_restore_2 6 rfl rfl)
theorem dX2_restore_56 : decode cX2_restore 56 = .ok (.aload_n 0, 1) := dk_42 (dk_at dksX2_restore_2 9 rfl rfl)
theorem dX2_restore_57 : decode cX2_restore 57 = .ok (.getfield 9, 3) := dk_180 0 9 (dk_at dksX2_restore_2 10 rfl rfl)
theorem dX2_restore_60 : decode cX2_restore 60 = .ok (.bipush 6, 2) := dk_16 6 (dk_at dksX2_restore_2 13 rfl rfl)
theorem dX2_restore_62 : decode cX2_restore 62 = .ok (.iaload, 1) := dk_46 (dk_at dksX2_restore_2 15 rfl rfl)
theorem dX2_restore_63 : decode cX2_restore 63 = .ok (.ireturn, 1) := dk_172 (dk_at dksX2_restore_2 16 rfl rfl)
abbrev cJ0_init : ByteArray := prog_41_method_1_code
def yJ0_init : MethodName := ⟨RJ0, "<init>", "()V"⟩
theorem dJ0_init_0 : decode cJ0_init 0 = .ok (.aload_n 0, 1) := by decide +kernel
theorem dJ0_init_1 : decode cJ0_init 1 = .ok (.invokespecial 1, 3) := by decide +kernel
theorem dJ0_init_4 : decode cJ0_init 4 = .ok (.return_, 1) := by decide +kernel
abbrev cJ1_init : ByteArray := prog_46_method_3_code
def yJ1_init : MethodName := ⟨RJ1, "<init>", "()V"⟩
def dkwJ1_init_0 : List UInt8 := [42, 183, 0, 42, 42, 16, 17, 189, 0, 47, 181, 0, 3, 177]
abbrev dktJ1_init_0 : List UInt8 := dkwJ1_init_0 ++ []
theorem dksJ1_init_0 : cJ1_init.data.toList.drop 0 = dktJ1_init_0 := by decide +kernel
theorem dJ1_init_0 : decode cJ1_init 0 = .ok (.aload_n 0, 1) := dk_42 (dk_at dksJ1_init_0 0 rfl rfl)
theorem dJ1_init_1 : decode cJ1_init 1 = .ok (.invokespecial 42, 3) := dk_183 0 42 (dk_at dksJ1_init_0 1 rfl rfl)
theorem dJ1_init_4 : decode cJ1_init 4 = .ok (.aload_n 0, 1) := dk_42 (dk_at dksJ1_init_0 4 rfl rfl)
theorem dJ1_init_5 : decode cJ1_init 5 = .ok (.bipush 17, 2) := dk_16 17 (dk_at dksJ1_init_0 5 rfl rfl)
theorem dJ1_init_7 : decode cJ1_init 7 = .ok (.anewarray 47, 3) := dk_189 0 47 (dk_at dksJ1_init_0 7 rfl rfl)
theorem dJ1_init_10 : decode cJ1_init 10 = .ok (.putfield 3, 3) := dk_181 0 3 (dk_at dksJ1_init_0 10 rfl rfl)
theorem dJ1_init_13 : decode cJ1_init 13 = .ok (.return_, 1) := dk_177 (dk_at dksJ1_init_0 13 rfl rfl)
abbrev cJ2_init : ByteArray := prog_12_method_2_code
def yJ2_init : MethodName := ⟨RJ2, "<init>", "(I)V"⟩
def dkwJ2_init_1 : List UInt8 := [167, 0, 16, 42, 27, 184, 0, 26, 181, 0, 15, 42, 4, 181, 0, 22, 177]
abbrev dktJ2_init_1 : List UInt8 := dkwJ2_init_1 ++ []
def dkwJ2_init_0 : List UInt8 := [42, 183, 0, 3, 178, 0, 18, 153, 0, 18, 42, 27, 188, 8, 181, 0, 15, 42, 3, 181, 0, 22]
abbrev dktJ2_init_0 : List UInt8 := dkwJ2_init_0 ++ dktJ2_init_1
theorem dksJ2_init_0 : cJ2_init.data.toList.drop 0 = dktJ2_init_0 := by decide +kernel
theorem dksJ2_init_1 : cJ2_init.data.toList.drop 22 = dktJ2_init_1 := dk_seg dksJ2_init_0 22 rfl rfl
theorem dJ2_init_0 : decode cJ2_init 0 = .ok (.aload_n 0, 1) := dk_42 (dk_at dksJ2_init_0 0 rfl rfl)
theorem dJ2_init_1 : decode cJ2_init 1 = .ok (.invokespecial 3, 3) := dk_183 0 3 (dk_at dksJ2_init_0 1 rfl rfl)
theorem dJ2_init_4 : decode cJ2_init 4 = .ok (.getstatic 18, 3) := dk_178 0 18 (dk_at dksJ2_init_0 4 rfl rfl)
theorem dJ2_init_7 : decode cJ2_init 7 = .ok (.ifCond .eq 18, 3) := dk_153 0 18 (dk_at dksJ2_init_0 7 rfl rfl)
theorem dJ2_init_10 : decode cJ2_init 10 = .ok (.aload_n 0, 1) := dk_42 (dk_at dksJ2_init_0 10 rfl rfl)
theorem dJ2_init_11 : decode cJ2_init 11 = .ok (.iload_n 1, 1) := dk_27 (dk_at dksJ2_init_0 11 rfl rfl)
theorem dJ2_init_12 : decode cJ2_init 12 = .ok (.newarray .byte, 2) := dk_188_8 (dk_at dksJ2_init_0 12 rfl rfl)
theorem dJ2_init_14 : decode cJ2_init 14 = .ok (.putfield 15, 3) := dk_181 0 15 (dk_at dksJ2_init_0 14 rfl rfl)
theorem dJ2_init_17 : decode cJ2_init 17 = .ok (.aload_n 0, 1) := dk_42 (dk_at dksJ2_init_0 17 rfl rfl)
theorem dJ2_init_18 : decode cJ2_init 18 = .ok (.iconst 0, 1) := dk_3 (dk_at dksJ2_init_0 18 rfl rfl)
theorem dJ2_init_19 : decode cJ2_init 19 = .ok (.putfield 22, 3) := dk_181 0 22 (dk_at dksJ2_init_0 19 rfl rfl)
theorem dJ2_init_22 : decode cJ2_init 22 = .ok (.goto 16, 3) := dk_167 0 16 (dk_at dksJ2_init_1 0 rfl rfl)
theorem dJ2_init_25 : decode cJ2_init 25 = .ok (.aload_n 0, 1) := dk_42 (dk_at dksJ2_init_1 3 rfl rfl)
theorem dJ2_init_26 : decode cJ2_init 26 = .ok (.iload_n 1, 1) := dk_27 (dk_at dksJ2_init_1 4 rfl rfl)
theorem dJ2_init_27 : decode cJ2_init 27 = .ok (.invokestatic 26, 3) := dk_184 0 26 (dk_at dksJ2_init_1 5 rfl rfl)
theorem dJ2_init_30 : decode cJ2_init 30 = .ok (.putfield 15, 3) := dk_181 0 15 (dk_at dksJ2_init_1 8 rfl rfl)
theorem dJ2_init_33 : decode cJ2_init 33 = .ok (.aload_n 0, 1) := dk_42 (dk_at dksJ2_init_1 11 rfl rfl)
theorem dJ2_init_34 : decode cJ2_init 34 = .ok (.iconst 1, 1) := dk_4 (dk_at dksJ2_init_1 12 rfl rfl)
theorem dJ2_init_35 : decode cJ2_init 35 = .ok (.putfield 22, 3) := dk_181 0 22 (dk_at dksJ2_init_1 13 rfl rfl)
theorem dJ2_init_38 : decode cJ2_init 38 = .ok (.return_, 1) := dk_177 (dk_at dksJ2_init_1 16 rfl rfl)
abbrev cJ3_init : ByteArray := prog_33_method_1_code
def yJ3_init : MethodName := ⟨RJ3, "<init>", "()V"⟩
def dkwJ3_init_0 : List UInt8 := [42, 16, 16, 183, 0, 1, 177]
abbrev dktJ3_init_0 : List UInt8 := dkwJ3_init_0 ++ []
theorem dksJ3_init_0 : cJ3_init.data.toList.drop 0 = dktJ3_init_0 := by decide +kernel
theorem dJ3_init_0 : decode cJ3_init 0 = .ok (.aload_n 0, 1) := dk_42 (dk_at dksJ3_init_0 0 rfl rfl)
theorem dJ3_init_1 : decode cJ3_init 1 = .ok (.bipush 16, 2) := dk_16 16 (dk_at dksJ3_init_0 1 rfl rfl)
theorem dJ3_init_3 : decode cJ3_init 3 = .ok (.invokespecial 1, 3) := dk_183 0 1 (dk_at dksJ3_init_0 3 rfl rfl)
theorem dJ3_init_6 : decode cJ3_init 6 = .ok (.return_, 1) := dk_177 (dk_at dksJ3_init_0 6 rfl rfl)
abbrev cX1_init : ByteArray := prog_1_method_8_code
def yX1_init : MethodName := ⟨RX1, "<init>", "()V"⟩
def dkwX1_init_2 : List UInt8 := [181, 0, 51, 177]
abbrev dktX1_init_2 : List UInt8 := dkwX1_init_2 ++ []
def dkwX1_init_1 : List UInt8 := [183, 0, 37, 181, 0, 38, 42, 5, 189, 0, 42, 181, 0, 44, 42, 187, 0, 48, 89, 183, 0, 50]
abbrev dktX1_init_1 : List UInt8 := dkwX1_init_1 ++ dktX1_init_2
def dkwX1_init_0 : List UInt8 := [42, 183, 0, 24, 42, 17, 1, 244, 188, 8, 181, 0, 27, 42, 2, 181, 0, 31, 42, 187, 0, 35, 89]
abbrev dktX1_init_0 : List UInt8 := dkwX1_init_0 ++ dktX1_init_1
theorem dksX1_init_0 : cX1_init.data.toList.drop 0 = dktX1_init_0 := by decide +kernel
theorem dksX1_init_1 : cX1_init.data.toList.drop 23 = dktX1_init_1 := dk_seg dksX1_init_0 23 rfl rfl
theorem dksX1_init_2 : cX1_init.data.toList.drop 45 = dktX1_init_2 := dk_seg dksX1_init_1 22 rfl rfl
theorem dX1_init_0 : decode cX1_init 0 = .ok (.aload_n 0, 1) := dk_42 (dk_at dksX1_init_0 0 rfl rfl)
theorem dX1_init_1 : decode cX1_init 1 = .ok (.invokespecial 24, 3) := dk_183 0 24 (dk_at dksX1_init_0 1 rfl rfl)
theorem dX1_init_4 : decode cX1_init 4 = .ok (.aload_n 0, 1) := dk_42 (dk_at dksX1_init_0 4 rfl rfl)
theorem dX1_init_5 : decode cX1_init 5 = .ok (.sipush 500, 3) := dk_17 1 244 (dk_at dksX1_init_0 5 rfl rfl)
theorem dX1_init_8 : decode cX1_init 8 = .ok (.newarray .byte, 2) := dk_188_8 (dk_at dksX1_init_0 8 rfl rfl)
theorem dX1_init_10 : decode cX1_init 10 = .ok (.putfield 27, 3) := dk_181 0 27 (dk_at dksX1_init_0 10 rfl rfl)
theorem dX1_init_13 : decode cX1_init 13 = .ok (.aload_n 0, 1) := dk_42 (dk_at dksX1_init_0 13 rfl rfl)
theorem dX1_init_14 : decode cX1_init 14 = .ok (.iconst (-1), 1) := dk_2 (dk_at dksX1_init_0 14 rfl rfl)
theorem dX1_init_15 : decode cX1_init 15 = .ok (.putfield 31, 3) := dk_181 0 31 (dk_at dksX1_init_0 15 rfl rfl)
theorem dX1_init_18 : decode cX1_init 18 = .ok (.aload_n 0, 1) := dk_42 (dk_at dksX1_init_0 18 rfl rfl)
theorem dX1_init_19 : decode cX1_init 19 = .ok (.new 35, 3) := dk_187 0 35 (dk_at dksX1_init_0 19 rfl rfl)
theorem dX1_init_22 : decode cX1_init 22 = .ok (.dup, 1) := dk_89 (dk_at dksX1_init_0 22 rfl rfl)
theorem dX1_init_23 : decode cX1_init 23 = .ok (.invokespecial 37, 3) := dk_183 0 37 (dk_at dksX1_init_1 0 rfl rfl)
theorem dX1_init_26 : decode cX1_init 26 = .ok (.putfield 38, 3) := dk_181 0 38 (dk_at dksX1_init_1 3 rfl rfl)
theorem dX1_init_29 : decode cX1_init 29 = .ok (.aload_n 0, 1) := dk_42 (dk_at dksX1_init_1 6 rfl rfl)
theorem dX1_init_30 : decode cX1_init 30 = .ok (.iconst 2, 1) := dk_5 (dk_at dksX1_init_1 7 rfl rfl)
theorem dX1_init_31 : decode cX1_init 31 = .ok (.anewarray 42, 3) := dk_189 0 42 (dk_at dksX1_init_1 8 rfl rfl)
theorem dX1_init_34 : decode cX1_init 34 = .ok (.putfield 44, 3) := dk_181 0 44 (dk_at dksX1_init_1 11 rfl rfl)
theorem dX1_init_37 : decode cX1_init 37 = .ok (.aload_n 0, 1) := dk_42 (dk_at dksX1_init_1 14 rfl rfl)
theorem dX1_init_38 : decode cX1_init 38 = .ok (.new 48, 3) := dk_187 0 48 (dk_at dksX1_init_1 15 rfl rfl)
theorem dX1_init_41 : decode cX1_init 41 = .ok (.dup, 1) := dk_89 (dk_at dksX1_init_1 18 rfl rfl)
theorem dX1_init_42 : decode cX1_init 42 = .ok (.invokespecial 50, 3) := dk_183 0 50 (dk_at dksX1_init_1 19 rfl rfl)
theorem dX1_init_45 : decode cX1_init 45 = .ok (.putfield 51, 3) := dk_181 0 51 (dk_at dksX1_init_2 0 rfl rfl)
theorem dX1_init_48 : decode cX1_init 48 = .ok (.return_, 1) := dk_177 (dk_at dksX1_init_2 3 rfl rfl)
abbrev cX1_append : ByteArray := prog_1_method_19_code
def yX1_append : MethodName := ⟨RX1, "append", "(IIIII)I"⟩
def dkwX1_append_4 : List UInt8 := [96, 181, 0, 114, 132, 10, 248, 167, 255, 223, 132, 8, 1, 167, 255, 199, 42, 180, 0, 114, 172]
abbrev dktX1_append_4 : List UInt8 := dkwX1_append_4 ++ []
def dkwX1_append_3 : List UInt8 := [155, 0, 34, 42, 180, 0, 27, 42, 180, 0, 114, 21, 9, 21, 10, 122, 145, 84, 42, 89, 180, 0, 114, 4]
abbrev dktX1_append_3 : List UInt8 := dkwX1_append_3 ++ dktX1_append_4
def dkwX1_append_2 : List UInt8 := [54, 8, 21, 8, 21, 7, 162, 0, 56, 25, 6, 21, 8, 46, 54, 9, 16, 24, 54, 10, 21, 10]
abbrev dktX1_append_2 : List UInt8 := dkwX1_append_2 ++ dktX1_append_3
def dkwX1_append_1 : List UInt8 := [28, 79, 89, 5, 29, 79, 89, 6, 21, 4, 79, 89, 7, 21, 5, 79, 58, 6, 25, 6, 190, 54, 7, 3]
abbrev dktX1_append_1 : List UInt8 := dkwX1_append_1 ++ dktX1_append_2
def dkwX1_append_0 : List UInt8 := [42, 180, 0, 114, 16, 20, 96, 17, 1, 244, 164, 0, 5, 2, 172, 8, 188, 10, 89, 3, 27, 79, 89, 4]
abbrev dktX1_append_0 : List UInt8 := dkwX1_append_0 ++ dktX1_append_1
theorem dksX1_append_0 : cX1_append.data.toList.drop 0 = dktX1_append_0 := by decide +kernel
theorem dksX1_append_1 : cX1_append.data.toList.drop 24 = dktX1_append_1 := dk_seg dksX1_append_0 24 rfl rfl
theorem dksX1_append_2 : cX1_append.data.toList.drop 48 = dktX1_append_2 := dk_seg dksX1_append_1 24 rfl rfl
theorem dksX1_append_3 : cX1_append.data.toList.drop 70 = dktX1_append_3 := dk_seg dksX1_append_2 22 rfl rfl
theorem dksX1_append_4 : cX1_append.data.toList.drop 94 = dktX1_append_4 := dk_seg dksX1_append_3 24 rfl rfl
theorem dX1_append_0 : decode cX1_append 0 = .ok (.aload_n 0, 1) := dk_42 (dk_at dksX1_append_0 0 rfl rfl)
theorem dX1_append_1 : decode cX1_append 1 = .ok (.getfield 114, 3) := dk_180 0 114 (dk_at dksX1_append_0 1 rfl rfl)
theorem dX1_append_4 : decode cX1_append 4 = .ok (.bipush 20, 2) := dk_16 20 (dk_at dksX1_append_0 4 rfl rfl)
theorem dX1_append_6 : decode cX1_append 6 = .ok (.iadd, 1) := dk_96 (dk_at dksX1_append_0 6 rfl rfl)
theorem dX1_append_7 : decode cX1_append 7 = .ok (.sipush 500, 3) := dk_17 1 244 (dk_at dksX1_append_0 7 rfl rfl)
theorem dX1_append_10 : decode cX1_append 10 = .ok (.if_icmp .le 5, 3) := dk_164 0 5 (dk_at dksX1_append_0 10 rfl rfl)
theorem dX1_append_13 : decode cX1_append 13 = .ok (.iconst (-1), 1) := dk_2 (dk_at dksX1_append_0 13 rfl rfl)
theorem dX1_append_14 : decode cX1_append 14 = .ok (.ireturn, 1) := dk_172 (dk_at dksX1_append_0 14 rfl rfl)
theorem dX1_append_15 : decode cX1_append 15 = .ok (.iconst 5, 1) := dk_8 (dk_at dksX1_append_0 15 rfl rfl)
theorem dX1_append_16 : decode cX1_append 16 = .ok (.newarray .int, 2) := dk_188_10 (dk_at dksX1_append_0 16 rfl rfl)
theorem dX1_append_18 : decode cX1_append 18 = .ok (.dup, 1) := dk_89 (dk_at dksX1_append_0 18 rfl rfl)
theorem dX1_append_19 : decode cX1_append 19 = .ok (.iconst 0, 1) := dk_3 (dk_at dksX1_append_0 19 rfl rfl)
theorem dX1_append_20 : decode cX1_append 20 = .ok (.iload_n 1, 1) := dk_27 (dk_at dksX1_append_0 20 rfl rfl)
theorem dX1_append_21 : decode cX1_append 21 = .ok (.iastore, 1) := dk_79 (dk_at dksX1_append_0 21 rfl rfl)
theorem dX1_append_22 : decode cX1_append 22 = .ok (.dup, 1) := dk_89 (dk_at dksX1_append_0 22 rfl rfl)
theorem dX1_append_23 : decode cX1_append 23 = .ok (.iconst 1, 1) := dk_4 (dk_at dksX1_append_0 23 rfl rfl)
theorem dX1_append_24 : decode cX1_append 24 = .ok (.iload_n 2, 1) := dk_28 (dk_at dksX1_append_1 0 rfl rfl)
theorem dX1_append_25 : decode cX1_append 25 = .ok (.iastore, 1) := dk_79 (dk_at dksX1_append_1 1 rfl rfl)
theorem dX1_append_26 : decode cX1_append 26 = .ok (.dup, 1) := dk_89 (dk_at dksX1_append_1 2 rfl rfl)
theorem dX1_append_27 : decode cX1_append 27 = .ok (.iconst 2, 1) := dk_5 (dk_at dksX1_append_1 3 rfl rfl)
theorem dX1_append_28 : decode cX1_append 28 = .ok (.iload_n 3, 1) := dk_29 (dk_at dksX1_append_1 4 rfl rfl)
theorem dX1_append_29 : decode cX1_append 29 = .ok (.iastore, 1) := dk_79 (dk_at dksX1_append_1 5 rfl rfl)
theorem dX1_append_30 : decode cX1_append 30 = .ok (.dup, 1) := dk_89 (dk_at dksX1_append_1 6 rfl rfl)
theorem dX1_append_31 : decode cX1_append 31 = .ok (.iconst 3, 1) := dk_6 (dk_at dksX1_append_1 7 rfl rfl)
theorem dX1_append_32 : decode cX1_append 32 = .ok (.iload 4, 2) := dk_21 4 (dk_at dksX1_append_1 8 rfl rfl)
theorem dX1_append_34 : decode cX1_append 34 = .ok (.iastore, 1) := dk_79 (dk_at dksX1_append_1 10 rfl rfl)
theorem dX1_append_35 : decode cX1_append 35 = .ok (.dup, 1) := dk_89 (dk_at dksX1_append_1 11 rfl rfl)
theorem dX1_append_36 : decode cX1_append 36 = .ok (.iconst 4, 1) := dk_7 (dk_at dksX1_append_1 12 rfl rfl)
theorem dX1_append_37 : decode cX1_append 37 = .ok (.iload 5, 2) := dk_21 5 (dk_at dksX1_append_1 13 rfl rfl)
theorem dX1_append_39 : decode cX1_append 39 = .ok (.iastore, 1) := dk_79 (dk_at dksX1_append_1 15 rfl rfl)
theorem dX1_append_40 : decode cX1_append 40 = .ok (.astore 6, 2) := dk_58 6 (dk_at dksX1_append_1 16 rfl rfl)
theorem dX1_append_42 : decode cX1_append 42 = .ok (.aload 6, 2) := dk_25 6 (dk_at dksX1_append_1 18 rfl rfl)
theorem dX1_append_44 : decode cX1_append 44 = .ok (.arraylength, 1) := dk_190 (dk_at dksX1_append_1 20 rfl rfl)
theorem dX1_append_45 : decode cX1_append 45 = .ok (.istore 7, 2) := dk_54 7 (dk_at dksX1_append_1 21 rfl rfl)
theorem dX1_append_47 : decode cX1_append 47 = .ok (.iconst 0, 1) := dk_3 (dk_at dksX1_append_1 23 rfl rfl)
theorem dX1_append_48 : decode cX1_append 48 = .ok (.istore 8, 2) := dk_54 8 (dk_at dksX1_append_2 0 rfl rfl)
theorem dX1_append_50 : decode cX1_append 50 = .ok (.iload 8, 2) := dk_21 8 (dk_at dksX1_append_2 2 rfl rfl)
theorem dX1_append_52 : decode cX1_append 52 = .ok (.iload 7, 2) := dk_21 7 (dk_at dksX1_append_2 4 rfl rfl)
theorem dX1_append_54 : decode cX1_append 54 = .ok (.if_icmp .ge 56, 3) := dk_162 0 56 (dk_at dksX1_append_2 6 rfl rfl)
theorem dX1_append_57 : decode cX1_append 57 = .ok (.aload 6, 2) := dk_25 6 (dk_at dksX1_append_2 9 rfl rfl)
theorem dX1_append_59 : decode cX1_append 59 = .ok (.iload 8, 2) := dk_21 8 (dk_at dksX1_append_2 11 rfl rfl)
theorem dX1_append_61 : decode cX1_append 61 = .ok (.iaload, 1) := dk_46 (dk_at dksX1_append_2 13 rfl rfl)
theorem dX1_append_62 : decode cX1_append 62 = .ok (.istore 9, 2) := dk_54 9 (dk_at dksX1_append_2 14 rfl rfl)
theorem dX1_append_64 : decode cX1_append 64 = .ok (.bipush 24, 2) := dk_16 24 (dk_at dksX1_append_2 16 rfl rfl)
theorem dX1_append_66 : decode cX1_append 66 = .ok (.istore 10, 2) := dk_54 10 (dk_at dksX1_append_2 18 rfl rfl)
theorem dX1_append_68 : decode cX1_append 68 = .ok (.iload 10, 2) := dk_21 10 (dk_at dksX1_append_2 20 rfl rfl)
theorem dX1_append_70 : decode cX1_append 70 = .ok (.ifCond .lt 34, 3) := dk_155 0 34 (dk_at dksX1_append_3 0 rfl rfl)
theorem dX1_append_73 : decode cX1_append 73 = .ok (.aload_n 0, 1) := dk_42 (dk_at dksX1_append_3 3 rfl rfl)
theorem dX1_append_74 : decode cX1_append 74 = .ok (.getfield 27, 3) := dk_180 0 27 (dk_at dksX1_append_3 4 rfl rfl)
theorem dX1_append_77 : decode cX1_append 77 = .ok (.aload_n 0, 1) := dk_42 (dk_at dksX1_append_3 7 rfl rfl)
theorem dX1_append_78 : decode cX1_append 78 = .ok (.getfield 114, 3) := dk_180 0 114 (dk_at dksX1_append_3 8 rfl rfl)
theorem dX1_append_81 : decode cX1_append 81 = .ok (.iload 9, 2) := dk_21 9 (dk_at dksX1_append_3 11 rfl rfl)
theorem dX1_append_83 : decode cX1_append 83 = .ok (.iload 10, 2) := dk_21 10 (dk_at dksX1_append_3 13 rfl rfl)
theorem dX1_append_85 : decode cX1_append 85 = .ok (.ishr, 1) := dk_122 (dk_at dksX1_append_3 15 rfl rfl)
theorem dX1_append_86 : decode cX1_append 86 = .ok (.i2b, 1) := dk_145 (dk_at dksX1_append_3 16 rfl rfl)
theorem dX1_append_87 : decode cX1_append 87 = .ok (.bastore, 1) := dk_84 (dk_at dksX1_append_3 17 rfl rfl)
theorem dX1_append_88 : decode cX1_append 88 = .ok (.aload_n 0, 1) := dk_42 (dk_at dksX1_append_3 18 rfl rfl)
theorem dX1_append_89 : decode cX1_append 89 = .ok (.dup, 1) := dk_89 (dk_at dksX1_append_3 19 rfl rfl)
theorem dX1_append_90 : decode cX1_append 90 = .ok (.getfield 114, 3) := dk_180 0 114 (dk_at dksX1_append_3 20 rfl rfl)
theorem dX1_append_93 : decode cX1_append 93 = .ok (.iconst 1, 1) := dk_4 (dk_at dksX1_append_3 23 rfl rfl)
theorem dX1_append_94 : decode cX1_append 94 = .ok (.iadd, 1) := dk_96 (dk_at dksX1_append_4 0 rfl rfl)
theorem dX1_append_95 : decode cX1_append 95 = .ok (.putfield 114, 3) := dk_181 0 114 (dk_at dksX1_append_4 1 rfl rfl)
theorem dX1_append_98 : decode cX1_append 98 = .ok (.iinc 10 (-8), 3) := dk_132 10 248 (dk_at dksX1_append_4 4 rfl rfl)
theorem dX1_append_101 : decode cX1_append 101 = .ok (.goto (-33), 3) := dk_167 255 223 (dk_at dksX1_append_4 7 rfl rfl)
theorem dX1_append_104 : decode cX1_append 104 = .ok (.iinc 8 1, 3) := dk_132 8 1 (dk_at dksX1_append_4 10 rfl rfl)
theorem dX1_append_107 : decode cX1_append 107 = .ok (.goto (-57), 3) := dk_167 255 199 (dk_at dksX1_append_4 13 rfl rfl)
theorem dX1_append_110 : decode cX1_append 110 = .ok (.aload_n 0, 1) := dk_42 (dk_at dksX1_append_4 16 rfl rfl)
theorem dX1_append_111 : decode cX1_append 111 = .ok (.getfield 114, 3) := dk_180 0 114 (dk_at dksX1_append_4 17 rfl rfl)
theorem dX1_append_114 : decode cX1_append 114 = .ok (.ireturn, 1) := dk_172 (dk_at dksX1_append_4 20 rfl rfl)
abbrev cX1_parseError : ByteArray := prog_1_method_21_code
def yX1_parseError : MethodName := ⟨RX1, "parseError", "()I"⟩
theorem dX1_parseError_0 : decode cX1_parseError 0 = .ok (.aload_n 0, 1) := by decide +kernel
theorem dX1_parseError_1 : decode cX1_parseError 1 = .ok (.getfield 117, 3) := by decide +kernel
theorem dX1_parseError_4 : decode cX1_parseError 4 = .ok (.ireturn, 1) := by decide +kernel
abbrev cX1_errorPosition : ByteArray := prog_1_method_22_code
def yX1_errorPosition : MethodName := ⟨RX1, "errorPosition", "()I"⟩
theorem dX1_errorPosition_0 : decode cX1_errorPosition 0 = .ok (.aload_n 0, 1) := by decide +kernel
theorem dX1_errorPosition_1 : decode cX1_errorPosition 1 = .ok (.getfield 31, 3) := by decide +kernel
theorem dX1_errorPosition_4 : decode cX1_errorPosition 4 = .ok (.ireturn, 1) := by decide +kernel
abbrev cX1_buffered : ByteArray := prog_1_method_23_code
def yX1_buffered : MethodName := ⟨RX1, "buffered", "()I"⟩
theorem dX1_buffered_0 : decode cX1_buffered 0 = .ok (.aload_n 0, 1) := by decide +kernel
theorem dX1_buffered_1 : decode cX1_buffered 1 = .ok (.getfield 114, 3) := by decide +kernel
theorem dX1_buffered_4 : decode cX1_buffered 4 = .ok (.ireturn, 1) := by decide +kernel
abbrev cJ1_sub : ByteArray := prog_46_method_9_code
def yJ1_sub : MethodName := ⟨RJ1, "sub", "(III)I"⟩
def dkwJ1_sub_0 : List UInt8 := [26, 27, 100, 89, 59, 156, 0, 7, 26, 28, 96, 59, 26, 172]
abbrev dktJ1_sub_0 : List UInt8 := dkwJ1_sub_0 ++ []
theorem dksJ1_sub_0 : cJ1_sub.data.toList.drop 0 = dktJ1_sub_0 := by decide +kernel
theorem dJ1_sub_0 : decode cJ1_sub 0 = .ok (.iload_n 0, 1) := dk_26 (dk_at dksJ1_sub_0 0 rfl rfl)
theorem dJ1_sub_1 : decode cJ1_sub 1 = .ok (.iload_n 1, 1) := dk_27 (dk_at dksJ1_sub_0 1 rfl rfl)
theorem dJ1_sub_2 : decode cJ1_sub 2 = .ok (.isub, 1) := dk_100 (dk_at dksJ1_sub_0 2 rfl rfl)
theorem dJ1_sub_3 : decode cJ1_sub 3 = .ok (.dup, 1) := dk_89 (dk_at dksJ1_sub_0 3 rfl rfl)
theorem dJ1_sub_4 : decode cJ1_sub 4 = .ok (.istore_n 0, 1) := dk_59 (dk_at dksJ1_sub_0 4 rfl rfl)
theorem dJ1_sub_5 : decode cJ1_sub 5 = .ok (.ifCond .ge 7, 3) := dk_156 0 7 (dk_at dksJ1_sub_0 5 rfl rfl)
theorem dJ1_sub_8 : decode cJ1_sub 8 = .ok (.iload_n 0, 1) := dk_26 (dk_at dksJ1_sub_0 8 rfl rfl)
theorem dJ1_sub_9 : decode cJ1_sub 9 = .ok (.iload_n 2, 1) := dk_28 (dk_at dksJ1_sub_0 9 rfl rfl)
theorem dJ1_sub_10 : decode cJ1_sub 10 = .ok (.iadd, 1) := dk_96 (dk_at dksJ1_sub_0 10 rfl rfl)
theorem dJ1_sub_11 : decode cJ1_sub 11 = .ok (.istore_n 0, 1) := dk_59 (dk_at dksJ1_sub_0 11 rfl rfl)
theorem dJ1_sub_12 : decode cJ1_sub 12 = .ok (.iload_n 0, 1) := dk_26 (dk_at dksJ1_sub_0 12 rfl rfl)
theorem dJ1_sub_13 : decode cJ1_sub 13 = .ok (.ireturn, 1) := dk_172 (dk_at dksJ1_sub_0 13 rfl rfl)
abbrev cJ1_size : ByteArray := prog_46_method_37_code
def yJ1_size : MethodName := ⟨RJ1, "size", "()I"⟩
def dkwJ1_size_0 : List UInt8 := [42, 180, 0, 20, 42, 180, 0, 24, 42, 180, 0, 3, 190, 184, 0, 127, 172]
abbrev dktJ1_size_0 : List UInt8 := dkwJ1_size_0 ++ []
theorem dksJ1_size_0 : cJ1_size.data.toList.drop 0 = dktJ1_size_0 := by decide +kernel
theorem dJ1_size_0 : decode cJ1_size 0 = .ok (.aload_n 0, 1) := dk_42 (dk_at dksJ1_size_0 0 rfl rfl)
theorem dJ1_size_1 : decode cJ1_size 1 = .ok (.getfield 20, 3) := dk_180 0 20 (dk_at dksJ1_size_0 1 rfl rfl)
theorem dJ1_size_4 : decode cJ1_size 4 = .ok (.aload_n 0, 1) := dk_42 (dk_at dksJ1_size_0 4 rfl rfl)
theorem dJ1_size_5 : decode cJ1_size 5 = .ok (.getfield 24, 3) := dk_180 0 24 (dk_at dksJ1_size_0 5 rfl rfl)
theorem dJ1_size_8 : decode cJ1_size 8 = .ok (.aload_n 0, 1) := dk_42 (dk_at dksJ1_size_0 8 rfl rfl)
theorem dJ1_size_9 : decode cJ1_size 9 = .ok (.getfield 3, 3) := dk_180 0 3 (dk_at dksJ1_size_0 9 rfl rfl)
theorem dJ1_size_12 : decode cJ1_size 12 = .ok (.arraylength, 1) := dk_190 (dk_at dksJ1_size_0 12 rfl rfl)
theorem dJ1_size_13 : decode cJ1_size 13 = .ok (.invokestatic 127, 3) := dk_184 0 127 (dk_at dksJ1_size_0 13 rfl rfl)
theorem dJ1_size_16 : decode cJ1_size 16 = .ok (.ireturn, 1) := dk_172 (dk_at dksJ1_size_0 16 rfl rfl)
abbrev cX1_undoable : ByteArray := prog_1_method_86_code
def yX1_undoable : MethodName := ⟨RX1, "undoable", "()I"⟩
def dkwX1_undoable_0 : List UInt8 := [42, 180, 0, 38, 182, 1, 184, 172]
abbrev dktX1_undoable_0 : List UInt8 := dkwX1_undoable_0 ++ []
theorem dksX1_undoable_0 : cX1_undoable.data.toList.drop 0 = dktX1_undoable_0 := by decide +kernel
theorem dX1_undoable_0 : decode cX1_undoable 0 = .ok (.aload_n 0, 1) := dk_42 (dk_at dksX1_undoable_0 0 rfl rfl)
theorem dX1_undoable_1 : decode cX1_undoable 1 = .ok (.getfield 38, 3) := dk_180 0 38 (dk_at dksX1_undoable_0 1 rfl rfl)
theorem dX1_undoable_4 : decode cX1_undoable 4 = .ok (.invokevirtual 440, 3) := dk_182 1 184 (dk_at dksX1_undoable_0 4 rfl rfl)
theorem dX1_undoable_7 : decode cX1_undoable 7 = .ok (.ireturn, 1) := dk_172 (dk_at dksX1_undoable_0 7 rfl rfl)
abbrev cX1_in : ByteArray := prog_1_method_1_code
def yX1_in : MethodName := ⟨RX1, "in", "(JJJ)Z"⟩
def dkwX1_in_0 : List UInt8 := [30, 32, 148, 155, 0, 14, 30, 22, 4, 148, 157, 0, 7, 4, 167, 0, 4, 3, 172]
abbrev dktX1_in_0 : List UInt8 := dkwX1_in_0 ++ []
theorem dksX1_in_0 : cX1_in.data.toList.drop 0 = dktX1_in_0 := by decide +kernel
theorem dX1_in_0 : decode cX1_in 0 = .ok (.lload_n 0, 1) := dk_30 (dk_at dksX1_in_0 0 rfl rfl)
theorem dX1_in_1 : decode cX1_in 1 = .ok (.lload_n 2, 1) := dk_32 (dk_at dksX1_in_0 1 rfl rfl)
theorem dX1_in_2 : decode cX1_in 2 = .ok (.lcmp, 1) := dk_148 (dk_at dksX1_in_0 2 rfl rfl)
theorem dX1_in_3 : decode cX1_in 3 = .ok (.ifCond .lt 14, 3) := dk_155 0 14 (dk_at dksX1_in_0 3 rfl rfl)
theorem dX1_in_6 : decode cX1_in 6 = .ok (.lload_n 0, 1) := dk_30 (dk_at dksX1_in_0 6 rfl rfl)
theorem dX1_in_7 : decode cX1_in 7 = .ok (.lload 4, 2) := dk_22 4 (dk_at dksX1_in_0 7 rfl rfl)
theorem dX1_in_9 : decode cX1_in 9 = .ok (.lcmp, 1) := dk_148 (dk_at dksX1_in_0 9 rfl rfl)
theorem dX1_in_10 : decode cX1_in 10 = .ok (.ifCond .gt 7, 3) := dk_157 0 7 (dk_at dksX1_in_0 10 rfl rfl)
theorem dX1_in_13 : decode cX1_in 13 = .ok (.iconst 1, 1) := dk_4 (dk_at dksX1_in_0 13 rfl rfl)
theorem dX1_in_14 : decode cX1_in 14 = .ok (.goto 4, 3) := dk_167 0 4 (dk_at dksX1_in_0 14 rfl rfl)
theorem dX1_in_17 : decode cX1_in 17 = .ok (.iconst 0, 1) := dk_3 (dk_at dksX1_in_0 17 rfl rfl)
theorem dX1_in_18 : decode cX1_in 18 = .ok (.ireturn, 1) := dk_172 (dk_at dksX1_in_0 18 rfl rfl)
abbrev cJ6_init_2 : ByteArray := prog_38_method_1_code
def yJ6_init_2 : MethodName := ⟨RJ6, "<init>", "()V"⟩
def dkwJ6_init_2_1 : List UInt8 := [182, 0, 27, 87, 177]
abbrev dktJ6_init_2_1 : List UInt8 := dkwJ6_init_2_1 ++ []
def dkwJ6_init_2_0 : List UInt8 := [42, 183, 0, 1, 42, 42, 181, 0, 7, 42, 178, 0, 13, 181, 0, 17, 42, 178, 0, 20, 181, 0, 24, 42]
abbrev dktJ6_init_2_0 : List UInt8 := dkwJ6_init_2_0 ++ dktJ6_init_2_1
theorem dksJ6_init_2_0 : cJ6_init_2.data.toList.drop 0 = dktJ6_init_2_0 := by decide +kernel
theorem dksJ6_init_2_1 : cJ6_init_2.data.toList.drop 24 = dktJ6_init_2_1 := dk_seg dksJ6_init_2_0 24 rfl rfl
theorem dJ6_init_2_0 : decode cJ6_init_2 0 = .ok (.aload_n 0, 1) := dk_42 (dk_at dksJ6_init_2_0 0 rfl rfl)
theorem dJ6_init_2_1 : decode cJ6_init_2 1 = .ok (.invokespecial 1, 3) := dk_183 0 1 (dk_at dksJ6_init_2_0 1 rfl rfl)
theorem dJ6_init_2_4 : decode cJ6_init_2 4 = .ok (.aload_n 0, 1) := dk_42 (dk_at dksJ6_init_2_0 4 rfl rfl)
theorem dJ6_init_2_5 : decode cJ6_init_2 5 = .ok (.aload_n 0, 1) := dk_42 (dk_at dksJ6_init_2_0 5 rfl rfl)
theorem dJ6_init_2_6 : decode cJ6_init_2 6 = .ok (.putfield 7, 3) := dk_181 0 7 (dk_at dksJ6_init_2_0 6 rfl rfl)
theorem dJ6_init_2_9 : decode cJ6_init_2 9 = .ok (.aload_n 0, 1) := dk_42 (dk_at dksJ6_init_2_0 9 rfl rfl)
theorem dJ6_init_2_10 : decode cJ6_init_2 10 = .ok (.getstatic 13, 3) := dk_178 0 13 (dk_at dksJ6_init_2_0 10 rfl rfl)
theorem dJ6_init_2_13 : decode cJ6_init_2 13 = .ok (.putfield 17, 3) := dk_181 0 17 (dk_at dksJ6_init_2_0 13 rfl rfl)
theorem dJ6_init_2_16 : decode cJ6_init_2 16 = .ok (.aload_n 0, 1) := dk_42 (dk_at dksJ6_init_2_0 16 rfl rfl)
theorem dJ6_init_2_17 : decode cJ6_init_2 17 = .ok (.getstatic 20, 3) := dk_178 0 20 (dk_at dksJ6_init_2_0 17 rfl rfl)
theorem dJ6_init_2_20 : decode cJ6_init_2 20 = .ok (.putfield 24, 3) := dk_181 0 24 (dk_at dksJ6_init_2_0 20 rfl rfl)
theorem dJ6_init_2_23 : decode cJ6_init_2 23 = .ok (.aload_n 0, 1) := dk_42 (dk_at dksJ6_init_2_0 23 rfl rfl)
theorem dJ6_init_2_24 : decode cJ6_init_2 24 = .ok (.invokevirtual 27, 3) := dk_182 0 27 (dk_at dksJ6_init_2_1 0 rfl rfl)
theorem dJ6_init_2_27 : decode cJ6_init_2 27 = .ok (.pop, 1) := dk_87 (dk_at dksJ6_init_2_1 3 rfl rfl)
theorem dJ6_init_2_28 : decode cJ6_init_2 28 = .ok (.return_, 1) := dk_177 (dk_at dksJ6_init_2_1 4 rfl rfl)
abbrev cJ7_init_2 : ByteArray := prog_20_method_1_code
def yJ7_init_2 : MethodName := ⟨RJ7, "<init>", "()V"⟩
theorem dJ7_init_2_0 : decode cJ7_init_2 0 = .ok (.aload_n 0, 1) := by decide +kernel
theorem dJ7_init_2_1 : decode cJ7_init_2 1 = .ok (.invokespecial 1, 3) := by decide +kernel
theorem dJ7_init_2_4 : decode cJ7_init_2 4 = .ok (.return_, 1) := by decide +kernel
abbrev cJ8_init_2 : ByteArray := prog_31_method_1_code
def yJ8_init_2 : MethodName := ⟨RJ8, "<init>", "()V"⟩
theorem dJ8_init_2_0 : decode cJ8_init_2 0 = .ok (.aload_n 0, 1) := by decide +kernel
theorem dJ8_init_2_1 : decode cJ8_init_2 1 = .ok (.invokespecial 1, 3) := by decide +kernel
theorem dJ8_init_2_4 : decode cJ8_init_2 4 = .ok (.return_, 1) := by decide +kernel
abbrev cJ9_init_2 : ByteArray := prog_24_method_1_code
def yJ9_init_2 : MethodName := ⟨RJ9, "<init>", "()V"⟩
theorem dJ9_init_2_0 : decode cJ9_init_2 0 = .ok (.aload_n 0, 1) := by decide +kernel
theorem dJ9_init_2_1 : decode cJ9_init_2 1 = .ok (.invokespecial 1, 3) := by decide +kernel
theorem dJ9_init_2_4 : decode cJ9_init_2 4 = .ok (.return_, 1) := by decide +kernel
abbrev cX1_checkIndex : ByteArray := prog_1_method_10_code
def yX1_checkIndex : MethodName := ⟨RX1, "checkIndex", "(II)V"⟩
def dkwX1_checkIndex_0 : List UInt8 := [26, 133, 9, 27, 4, 100, 133, 184, 0, 58, 154, 0, 11, 187, 0, 62, 89, 183, 0, 64, 191, 177]
abbrev dktX1_checkIndex_0 : List UInt8 := dkwX1_checkIndex_0 ++ []
theorem dksX1_checkIndex_0 : cX1_checkIndex.data.toList.drop 0 = dktX1_checkIndex_0 := by decide +kernel
theorem dX1_checkIndex_0 : decode cX1_checkIndex 0 = .ok (.iload_n 0, 1) := dk_26 (dk_at dksX1_checkIndex_0 0 rfl rfl)
theorem dX1_checkIndex_1 : decode cX1_checkIndex 1 = .ok (.i2l, 1) := dk_133 (dk_at dksX1_checkIndex_0 1 rfl rfl)
theorem dX1_checkIndex_2 : decode cX1_checkIndex 2 = .ok (.lconst 0, 1) := dk_9 (dk_at dksX1_checkIndex_0 2 rfl rfl)
theorem dX1_checkIndex_3 : decode cX1_checkIndex 3 = .ok (.iload_n 1, 1) := dk_27 (dk_at dksX1_checkIndex_0 3 rfl rfl)
theorem dX1_checkIndex_4 : decode cX1_checkIndex 4 = .ok (.iconst 1, 1) := dk_4 (dk_at dksX1_checkIndex_0 4 rfl rfl)
theorem dX1_checkIndex_5 : decode cX1_checkIndex 5 = .ok (.isub, 1) := dk_100 (dk_at dksX1_checkIndex_0 5 rfl rfl)
theorem dX1_checkIndex_6 : decode cX1_checkIndex 6 = .ok (.i2l, 1) := dk_133 (dk_at dksX1_checkIndex_0 6 rfl rfl)
theorem dX1_checkIndex_7 : decode cX1_checkIndex 7 = .ok (.invokestatic 58, 3) := dk_184 0 58 (dk_at dksX1_checkIndex_0 7 rfl rfl)
theorem dX1_checkIndex_10 : decode cX1_checkIndex 10 = .ok (.ifCond .ne 11, 3) := dk_154 0 11 (dk_at dksX1_checkIndex_0 10 rfl rfl)
theorem dX1_checkIndex_13 : decode cX1_checkIndex 13 = .ok (.new 62, 3) := dk_187 0 62 (dk_at dksX1_checkIndex_0 13 rfl rfl)
theorem dX1_checkIndex_16 : decode cX1_checkIndex 16 = .ok (.dup, 1) := dk_89 (dk_at dksX1_checkIndex_0 16 rfl rfl)
theorem dX1_checkIndex_17 : decode cX1_checkIndex 17 = .ok (.invokespecial 64, 3) := dk_183 0 64 (dk_at dksX1_checkIndex_0 17 rfl rfl)
theorem dX1_checkIndex_20 : decode cX1_checkIndex 20 = .ok (.athrow, 1) := dk_191 (dk_at dksX1_checkIndex_0 20 rfl rfl)
theorem dX1_checkIndex_21 : decode cX1_checkIndex 21 = .ok (.return_, 1) := dk_177 (dk_at dksX1_checkIndex_0 21 rfl rfl)
abbrev cJ11_init : ByteArray := prog_42_method_1_code
def yJ11_init : MethodName := ⟨RJ11, "<init>", "()V"⟩
def dkwJ11_init_0 : List UInt8 := [42, 183, 0, 1, 42, 3, 181, 0, 7, 177]
abbrev dktJ11_init_0 : List UInt8 := dkwJ11_init_0 ++ []
theorem dksJ11_init_0 : cJ11_init.data.toList.drop 0 = dktJ11_init_0 := by decide +kernel
theorem dJ11_init_0 : decode cJ11_init 0 = .ok (.aload_n 0, 1) := dk_42 (dk_at dksJ11_init_0 0 rfl rfl)
theorem dJ11_init_1 : decode cJ11_init 1 = .ok (.invokespecial 1, 3) := dk_183 0 1 (dk_at dksJ11_init_0 1 rfl rfl)
theorem dJ11_init_4 : decode cJ11_init 4 = .ok (.aload_n 0, 1) := dk_42 (dk_at dksJ11_init_0 4 rfl rfl)
theorem dJ11_init_5 : decode cJ11_init 5 = .ok (.iconst 0, 1) := dk_3 (dk_at dksJ11_init_0 5 rfl rfl)
theorem dJ11_init_6 : decode cJ11_init 6 = .ok (.putfield 7, 3) := dk_181 0 7 (dk_at dksJ11_init_0 6 rfl rfl)
theorem dJ11_init_9 : decode cJ11_init 9 = .ok (.return_, 1) := dk_177 (dk_at dksJ11_init_0 9 rfl rfl)
abbrev cJ12_init : ByteArray := prog_47_method_2_code
def yJ12_init : MethodName := ⟨RJ12, "<init>", "()V"⟩
def dkwJ12_init_0 : List UInt8 := [42, 183, 0, 1, 42, 178, 0, 39, 181, 0, 9, 177]
abbrev dktJ12_init_0 : List UInt8 := dkwJ12_init_0 ++ []
theorem dksJ12_init_0 : cJ12_init.data.toList.drop 0 = dktJ12_init_0 := by decide +kernel
theorem dJ12_init_0 : decode cJ12_init 0 = .ok (.aload_n 0, 1) := dk_42 (dk_at dksJ12_init_0 0 rfl rfl)
theorem dJ12_init_1 : decode cJ12_init 1 = .ok (.invokespecial 1, 3) := dk_183 0 1 (dk_at dksJ12_init_0 1 rfl rfl)
theorem dJ12_init_4 : decode cJ12_init 4 = .ok (.aload_n 0, 1) := dk_42 (dk_at dksJ12_init_0 4 rfl rfl)
theorem dJ12_init_5 : decode cJ12_init 5 = .ok (.getstatic 39, 3) := dk_178 0 39 (dk_at dksJ12_init_0 5 rfl rfl)
theorem dJ12_init_8 : decode cJ12_init 8 = .ok (.putfield 9, 3) := dk_181 0 9 (dk_at dksJ12_init_0 8 rfl rfl)
theorem dJ12_init_11 : decode cJ12_init 11 = .ok (.return_, 1) := dk_177 (dk_at dksJ12_init_0 11 rfl rfl)
abbrev cX5_init : ByteArray := prog_3_method_1_code
def yX5_init : MethodName := ⟨RX5, "<init>", "(II)V"⟩
def dkwX5_init_1 : List UInt8 := [28, 42, 180, 0, 18, 104, 42, 180, 0, 18, 5, 108, 96, 181, 0, 21, 177]
abbrev dktX5_init_1 : List UInt8 := dkwX5_init_1 ++ []
def dkwX5_init_0 : List UInt8 := [42, 183, 0, 3, 42, 27, 181, 0, 9, 42, 28, 181, 0, 15, 42, 17, 1, 0, 27, 122, 181, 0, 18, 42]
abbrev dktX5_init_0 : List UInt8 := dkwX5_init_0 ++ dktX5_init_1
theorem dksX5_init_0 : cX5_init.data.toList.drop 0 = dktX5_init_0 := by decide +kernel
theorem dksX5_init_1 : cX5_init.data.toList.drop 24 = dktX5_init_1 := dk_seg dksX5_init_0 24 rfl rfl
theorem dX5_init_0 : decode cX5_init 0 = .ok (.aload_n 0, 1) := dk_42 (dk_at dksX5_init_0 0 rfl rfl)
theorem dX5_init_1 : decode cX5_init 1 = .ok (.invokespecial 3, 3) := dk_183 0 3 (dk_at dksX5_init_0 1 rfl rfl)
theorem dX5_init_4 : decode cX5_init 4 = .ok (.aload_n 0, 1) := dk_42 (dk_at dksX5_init_0 4 rfl rfl)
theorem dX5_init_5 : decode cX5_init 5 = .ok (.iload_n 1, 1) := dk_27 (dk_at dksX5_init_0 5 rfl rfl)
theorem dX5_init_6 : decode cX5_init 6 = .ok (.putfield 9, 3) := dk_181 0 9 (dk_at dksX5_init_0 6 rfl rfl)
theorem dX5_init_9 : decode cX5_init 9 = .ok (.aload_n 0, 1) := dk_42 (dk_at dksX5_init_0 9 rfl rfl)
theorem dX5_init_10 : decode cX5_init 10 = .ok (.iload_n 2, 1) := dk_28 (dk_at dksX5_init_0 10 rfl rfl)
theorem dX5_init_11 : decode cX5_init 11 = .ok (.putfield 15, 3) := dk_181 0 15 (dk_at dksX5_init_0 11 rfl rfl)
theorem dX5_init_14 : decode cX5_init 14 = .ok (.aload_n 0, 1) := dk_42 (dk_at dksX5_init_0 14 rfl rfl)
theorem dX5_init_15 : decode cX5_init 15 = .ok (.sipush 256, 3) := dk_17 1 0 (dk_at dksX5_init_0 15 rfl rfl)
theorem dX5_init_18 : decode cX5_init 18 = .ok (.iload_n 1, 1) := dk_27 (dk_at dksX5_init_0 18 rfl rfl)
theorem dX5_init_19 : decode cX5_init 19 = .ok (.ishr, 1) := dk_122 (dk_at dksX5_init_0 19 rfl rfl)
theorem dX5_init_20 : decode cX5_init 20 = .ok (.putfield 18, 3) := dk_181 0 18 (dk_at dksX5_init_0 20 rfl rfl)
theorem dX5_init_23 : decode cX5_init 23 = .ok (.aload_n 0, 1) := dk_42 (dk_at dksX5_init_0 23 rfl rfl)
theorem dX5_init_24 : decode cX5_init 24 = .ok (.iload_n 2, 1) := dk_28 (dk_at dksX5_init_1 0 rfl rfl)
theorem dX5_init_25 : decode cX5_init 25 = .ok (.aload_n 0, 1) := dk_42 (dk_at dksX5_init_1 1 rfl rfl)
theorem dX5_init_26 : decode cX5_init 26 = .ok (.getfield 18, 3) := dk_180 0 18 (dk_at dksX5_init_1 2 rfl rfl)
theorem dX5_init_29 : decode cX5_init 29 = .ok (.imul, 1) := dk_104 (dk_at dksX5_init_1 5 rfl rfl)
theorem dX5_init_30 : decode cX5_init 30 = .ok (.aload_n 0, 1) := dk_42 (dk_at dksX5_init_1 6 rfl rfl)
theorem dX5_init_31 : decode cX5_init 31 = .ok (.getfield 18, 3) := dk_180 0 18 (dk_at dksX5_init_1 7 rfl rfl)
theorem dX5_init_34 : decode cX5_init 34 = .ok (.iconst 2, 1) := dk_5 (dk_at dksX5_init_1 10 rfl rfl)
theorem dX5_init_35 : decode cX5_init 35 = .ok (.idiv, 1) := dk_108 (dk_at dksX5_init_1 11 rfl rfl)
theorem dX5_init_36 : decode cX5_init 36 = .ok (.iadd, 1) := dk_96 (dk_at dksX5_init_1 12 rfl rfl)
theorem dX5_init_37 : decode cX5_init 37 = .ok (.putfield 21, 3) := dk_181 0 21 (dk_at dksX5_init_1 13 rfl rfl)
theorem dX5_init_40 : decode cX5_init 40 = .ok (.return_, 1) := dk_177 (dk_at dksX5_init_1 16 rfl rfl)
abbrev cX4_init : ByteArray := prog_7_method_1_code
def yX4_init : MethodName := ⟨RX4, "<init>", "()V"⟩
def dkwX4_init_4 : List UInt8 := [167, 255, 225, 132, 1, 1, 167, 255, 200, 177]
abbrev dktX4_init_4 : List UInt8 := dkwX4_init_4 ++ []
def dkwX4_init_3 : List UInt8 := [162, 0, 26, 42, 180, 0, 20, 27, 50, 28, 187, 0, 24, 89, 27, 28, 183, 0, 33, 83, 132, 2, 1]
abbrev dktX4_init_3 : List UInt8 := dkwX4_init_3 ++ dktX4_init_4
def dkwX4_init_2 : List UInt8 := [42, 180, 0, 20, 27, 4, 27, 120, 189, 0, 24, 83, 3, 61, 28, 42, 180, 0, 20, 27, 50, 190]
abbrev dktX4_init_2 : List UInt8 := dkwX4_init_2 ++ dktX4_init_3
def dkwX4_init_1 : List UInt8 := [42, 16, 20, 189, 0, 24, 181, 0, 26, 42, 16, 24, 188, 10, 181, 0, 29, 3, 60, 27, 8, 163, 0, 57]
abbrev dktX4_init_1 : List UInt8 := dkwX4_init_1 ++ dktX4_init_2
def dkwX4_init_0 : List UInt8 := [42, 183, 0, 3, 42, 187, 0, 9, 89, 183, 0, 11, 181, 0, 12, 42, 16, 6, 189, 0, 18, 181, 0, 20]
abbrev dktX4_init_0 : List UInt8 := dkwX4_init_0 ++ dktX4_init_1
theorem dksX4_init_0 : cX4_init.data.toList.drop 0 = dktX4_init_0 := by decide +kernel
theorem dksX4_init_1 : cX4_init.data.toList.drop 24 = dktX4_init_1 := dk_seg dksX4_init_0 24 rfl rfl
theorem dksX4_init_2 : cX4_init.data.toList.drop 48 = dktX4_init_2 := dk_seg dksX4_init_1 24 rfl rfl
theorem dksX4_init_3 : cX4_init.data.toList.drop 70 = dktX4_init_3 := dk_seg dksX4_init_2 22 rfl rfl
theorem dksX4_init_4 : cX4_init.data.toList.drop 93 = dktX4_init_4 := dk_seg dksX4_init_3 23 rfl rfl
theorem dX4_init_0 : decode cX4_init 0 = .ok (.aload_n 0, 1) := dk_42 (dk_at dksX4_init_0 0 rfl rfl)
theorem dX4_init_1 : decode cX4_init 1 = .ok (.invokespecial 3, 3) := dk_183 0 3 (dk_at dksX4_init_0 1 rfl rfl)
theorem dX4_init_4 : decode cX4_init 4 = .ok (.aload_n 0, 1) := dk_42 (dk_at dksX4_init_0 4 rfl rfl)
theorem dX4_init_5 : decode cX4_init 5 = .ok (.new 9, 3) := dk_187 0 9 (dk_at dksX4_init_0 5 rfl rfl)
theorem dX4_init_8 : decode cX4_init 8 = .ok (.dup, 1) := dk_89 (dk_at dksX4_init_0 8 rfl rfl)
theorem dX4_init_9 : decode cX4_init 9 = .ok (.invokespecial 11, 3) := dk_183 0 11 (dk_at dksX4_init_0 9 rfl rfl)
theorem dX4_init_12 : decode cX4_init 12 = .ok (.putfield 12, 3) := dk_181 0 12 (dk_at dksX4_init_0 12 rfl rfl)
theorem dX4_init_15 : decode cX4_init 15 = .ok (.aload_n 0, 1) := dk_42 (dk_at dksX4_init_0 15 rfl rfl)
theorem dX4_init_16 : decode cX4_init 16 = .ok (.bipush 6, 2) := dk_16 6 (dk_at dksX4_init_0 16 rfl rfl)
theorem dX4_init_18 : decode cX4_init 18 = .ok (.anewarray 18, 3) := dk_189 0 18 (dk_at dksX4_init_0 18 rfl rfl)
theorem dX4_init_21 : decode cX4_init 21 = .ok (.putfield 20, 3) := dk_181 0 20 (dk_at dksX4_init_0 21 rfl rfl)
theorem dX4_init_24 : decode cX4_init 24 = .ok (.aload_n 0, 1) := dk_42 (dk_at dksX4_init_1 0 rfl rfl)
theorem dX4_init_25 : decode cX4_init 25 = .ok (.bipush 20, 2) := dk_16 20 (dk_at dksX4_init_1 1 rfl rfl)
theorem dX4_init_27 : decode cX4_init 27 = .ok (.anewarray 24, 3) := dk_189 0 24 (dk_at dksX4_init_1 3 rfl rfl)
theorem dX4_init_30 : decode cX4_init 30 = .ok (.putfield 26, 3) := dk_181 0 26 (dk_at dksX4_init_1 6 rfl rfl)
theorem dX4_init_33 : decode cX4_init 33 = .ok (.aload_n 0, 1) := dk_42 (dk_at dksX4_init_1 9 rfl rfl)
theorem dX4_init_34 : decode cX4_init 34 = .ok (.bipush 24, 2) := dk_16 24 (dk_at dksX4_init_1 10 rfl rfl)
theorem dX4_init_36 : decode cX4_init 36 = .ok (.newarray .int, 2) := dk_188_10 (dk_at dksX4_init_1 12 rfl rfl)
theorem dX4_init_38 : decode cX4_init 38 = .ok (.putfield 29, 3) := dk_181 0 29 (dk_at dksX4_init_1 14 rfl rfl)
theorem dX4_init_41 : decode cX4_init 41 = .ok (.iconst 0, 1) := dk_3 (dk_at dksX4_init_1 17 rfl rfl)
theorem dX4_init_42 : decode cX4_init 42 = .ok (.istore_n 1, 1) := dk_60 (dk_at dksX4_init_1 18 rfl rfl)
theorem dX4_init_43 : decode cX4_init 43 = .ok (.iload_n 1, 1) := dk_27 (dk_at dksX4_init_1 19 rfl rfl)
theorem dX4_init_44 : decode cX4_init 44 = .ok (.iconst 5, 1) := dk_8 (dk_at dksX4_init_1 20 rfl rfl)
theorem dX4_init_45 : decode cX4_init 45 = .ok (.if_icmp .gt 57, 3) := dk_163 0 57 (dk_at dksX4_init_1 21 rfl rfl)
theorem dX4_init_48 : decode cX4_init 48 = .ok (.aload_n 0, 1) := dk_42 (dk_at dksX4_init_2 0 rfl rfl)
theorem dX4_init_49 : decode cX4_init 49 = .ok (.getfield 20, 3) := dk_180 0 20 (dk_at dksX4_init_2 1 rfl rfl)
theorem dX4_init_52 : decode cX4_init 52 = .ok (.iload_n 1, 1) := dk_27 (dk_at dksX4_init_2 4 rfl rfl)
theorem dX4_init_53 : decode cX4_init 53 = .ok (.iconst 1, 1) := dk_4 (dk_at dksX4_init_2 5 rfl rfl)
theorem dX4_init_54 : decode cX4_init 54 = .ok (.iload_n 1, 1) := dk_27 (dk_at dksX4_init_2 6 rfl rfl)
theorem dX4_init_55 : decode cX4_init 55 = .ok (.ishl, 1) := dk_120 (dk_at dksX4_init_2 7 rfl rfl)
theorem dX4_init_56 : decode cX4_init 56 = .ok (.anewarray 24, 3) := dk_189 0 24 (dk_at dksX4_init_2 8 rfl rfl)
theorem dX4_init_59 : decode cX4_init 59 = .ok (.aastore, 1) := dk_83 (dk_at dksX4_init_2 11 rfl rfl)
theorem dX4_init_60 : decode cX4_init 60 = .ok (.iconst 0, 1) := dk_3 (dk_at dksX4_init_2 12 rfl rfl)
theorem dX4_init_61 : decode cX4_init 61 = .ok (.istore_n 2, 1) := dk_61 (dk_at dksX4_init_2 13 rfl rfl)
theorem dX4_init_62 : decode cX4_init 62 = .ok (.iload_n 2, 1) := dk_28 (dk_at dksX4_init_2 14 rfl rfl)
theorem dX4_init_63 : decode cX4_init 63 = .ok (.aload_n 0, 1) := dk_42 (dk_at dksX4_init_2 15 rfl rfl)
theorem dX4_init_64 : decode cX4_init 64 = .ok (.getfield 20, 3) := dk_180 0 20 (dk_at dksX4_init_2 16 rfl rfl)
theorem dX4_init_67 : decode cX4_init 67 = .ok (.iload_n 1, 1) := dk_27 (dk_at dksX4_init_2 19 rfl rfl)
theorem dX4_init_68 : decode cX4_init 68 = .ok (.aaload, 1) := dk_50 (dk_at dksX4_init_2 20 rfl rfl)
theorem dX4_init_69 : decode cX4_init 69 = .ok (.arraylength, 1) := dk_190 (dk_at dksX4_init_2 21 rfl rfl)
theorem dX4_init_70 : decode cX4_init 70 = .ok (.if_icmp .ge 26, 3) := dk_162 0 26 (dk_at dksX4_init_3 0 rfl rfl)
theorem dX4_init_73 : decode cX4_init 73 = .ok (.aload_n 0, 1) := dk_42 (dk_at dksX4_init_3 3 rfl rfl)
theorem dX4_init_74 : decode cX4_init 74 = .ok (.getfield 20, 3) := dk_180 0 20 (dk_at dksX4_init_3 4 rfl rfl)
theorem dX4_init_77 : decode cX4_init 77 = .ok (.iload_n 1, 1) := dk_27 (dk_at dksX4_init_3 7 rfl rfl)
theorem dX4_init_78 : decode cX4_init 78 = .ok (.aaload, 1) := dk_50 (dk_at dksX4_init_3 8 rfl rfl)
theorem dX4_init_79 : decode cX4_init 79 = .ok (.iload_n 2, 1) := dk_28 (dk_at dksX4_init_3 9 rfl rfl)
theorem dX4_init_80 : decode cX4_init 80 = .ok (.new 24, 3) := dk_187 0 24 (dk_at dksX4_init_3 10 rfl rfl)
theorem dX4_init_83 : decode cX4_init 83 = .ok (.dup, 1) := dk_89 (dk_at dksX4_init_3 13 rfl rfl)
theorem dX4_init_84 : decode cX4_init 84 = .ok (.iload_n 1, 1) := dk_27 (dk_at dksX4_init_3 14 rfl rfl)
theorem dX4_init_85 : decode cX4_init 85 = .ok (.iload_n 2, 1) := dk_28 (dk_at dksX4_init_3 15 rfl rfl)
theorem dX4_init_86 : decode cX4_init 86 = .ok (.invokespecial 33, 3) := dk_183 0 33 (dk_at dksX4_init_3 16 rfl rfl)
theorem dX4_init_89 : decode cX4_init 89 = .ok (.aastore, 1) := dk_83 (dk_at dksX4_init_3 19 rfl rfl)
theorem dX4_init_90 : decode cX4_init 90 = .ok (.iinc 2 1, 3) := dk_132 2 1 (dk_at dksX4_init_3 20 rfl rfl)
theorem dX4_init_93 : decode cX4_init 93 = .ok (.goto (-31), 3) := dk_167 255 225 (dk_at dksX4_init_4 0 rfl rfl)
theorem dX4_init_96 : decode cX4_init 96 = .ok (.iinc 1 1, 3) := dk_132 1 1 (dk_at dksX4_init_4 3 rfl rfl)
theorem dX4_init_99 : decode cX4_init 99 = .ok (.goto (-56), 3) := dk_167 255 200 (dk_at dksX4_init_4 6 rfl rfl)
theorem dX4_init_102 : decode cX4_init 102 = .ok (.return_, 1) := dk_177 (dk_at dksX4_init_4 9 rfl rfl)
abbrev cX3_at : ByteArray := prog_8_method_2_code
def yX3_at : MethodName := ⟨RX3, "at", "(I)I"⟩
def dkwX3_at_1 : List UInt8 := [2, 172]
abbrev dktX3_at_1 : List UInt8 := dkwX3_at_1 ++ []
def dkwX3_at_0 : List UInt8 := [27, 42, 180, 0, 28, 162, 0, 19, 42, 180, 0, 3, 180, 0, 35, 27, 51, 17, 0, 255, 126, 167, 0, 4]
abbrev dktX3_at_0 : List UInt8 := dkwX3_at_0 ++ dktX3_at_1
theorem dksX3_at_0 : cX3_at.data.toList.drop 0 = dktX3_at_0 := by decide +kernel
theorem dksX3_at_1 : cX3_at.data.toList.drop 24 = dktX3_at_1 := dk_seg dksX3_at_0 24 rfl rfl
theorem dX3_at_0 : decode cX3_at 0 = .ok (.iload_n 1, 1) := dk_27 (dk_at dksX3_at_0 0 rfl rfl)
theorem dX3_at_1 : decode cX3_at 1 = .ok (.aload_n 0, 1) := dk_42 (dk_at dksX3_at_0 1 rfl rfl)
theorem dX3_at_2 : decode cX3_at 2 = .ok (.getfield 28, 3) := dk_180 0 28 (dk_at dksX3_at_0 2 rfl rfl)
theorem dX3_at_5 : decode cX3_at 5 = .ok (.if_icmp .ge 19, 3) := dk_162 0 19 (dk_at dksX3_at_0 5 rfl rfl)
theorem dX3_at_8 : decode cX3_at 8 = .ok (.aload_n 0, 1) := dk_42 (dk_at dksX3_at_0 8 rfl rfl)
theorem dX3_at_9 : decode cX3_at 9 = .ok (.getfield 3, 3) := dk_180 0 3 (dk_at dksX3_at_0 9 rfl rfl)
theorem dX3_at_12 : decode cX3_at 12 = .ok (.getfield 35, 3) := dk_180 0 35 (dk_at dksX3_at_0 12 rfl rfl)
theorem dX3_at_15 : decode cX3_at 15 = .ok (.iload_n 1, 1) := dk_27 (dk_at dksX3_at_0 15 rfl rfl)
theorem dX3_at_16 : decode cX3_at 16 = .ok (.baload, 1) := dk_51 (dk_at dksX3_at_0 16 rfl rfl)
theorem dX3_at_17 : decode cX3_at 17 = .ok (.sipush 255, 3) := dk_17 0 255 (dk_at dksX3_at_0 17 rfl rfl)
theorem dX3_at_20 : decode cX3_at 20 = .ok (.iand, 1) := dk_126 (dk_at dksX3_at_0 20 rfl rfl)
theorem dX3_at_21 : decode cX3_at 21 = .ok (.goto 4, 3) := dk_167 0 4 (dk_at dksX3_at_0 21 rfl rfl)
theorem dX3_at_24 : decode cX3_at 24 = .ok (.iconst (-1), 1) := dk_2 (dk_at dksX3_at_1 0 rfl rfl)
theorem dX3_at_25 : decode cX3_at 25 = .ok (.ireturn, 1) := dk_172 (dk_at dksX3_at_1 1 rfl rfl)
abbrev cX3_run : ByteArray := prog_8_method_3_code
def yX3_run : MethodName := ⟨RX3, "run", "(III)I"⟩
def dkwX3_run_1 : List UInt8 := [167, 255, 236, 21, 4, 172]
abbrev dktX3_run_1 : List UInt8 := dkwX3_run_1 ++ []
def dkwX3_run_0 : List UInt8 := [27, 54, 4, 42, 21, 4, 182, 0, 39, 133, 28, 133, 29, 133, 184, 0, 43, 153, 0, 9, 132, 4, 1]
abbrev dktX3_run_0 : List UInt8 := dkwX3_run_0 ++ dktX3_run_1
theorem dksX3_run_0 : cX3_run.data.toList.drop 0 = dktX3_run_0 := by decide +kernel
theorem dksX3_run_1 : cX3_run.data.toList.drop 23 = dktX3_run_1 := dk_seg dksX3_run_0 23 rfl rfl
theorem dX3_run_0 : decode cX3_run 0 = .ok (.iload_n 1, 1) := dk_27 (dk_at dksX3_run_0 0 rfl rfl)
theorem dX3_run_1 : decode cX3_run 1 = .ok (.istore 4, 2) := dk_54 4 (dk_at dksX3_run_0 1 rfl rfl)
theorem dX3_run_3 : decode cX3_run 3 = .ok (.aload_n 0, 1) := dk_42 (dk_at dksX3_run_0 3 rfl rfl)
theorem dX3_run_4 : decode cX3_run 4 = .ok (.iload 4, 2) := dk_21 4 (dk_at dksX3_run_0 4 rfl rfl)
theorem dX3_run_6 : decode cX3_run 6 = .ok (.invokevirtual 39, 3) := dk_182 0 39 (dk_at dksX3_run_0 6 rfl rfl)
theorem dX3_run_9 : decode cX3_run 9 = .ok (.i2l, 1) := dk_133 (dk_at dksX3_run_0 9 rfl rfl)
theorem dX3_run_10 : decode cX3_run 10 = .ok (.iload_n 2, 1) := dk_28 (dk_at dksX3_run_0 10 rfl rfl)
theorem dX3_run_11 : decode cX3_run 11 = .ok (.i2l, 1) := dk_133 (dk_at dksX3_run_0 11 rfl rfl)
theorem dX3_run_12 : decode cX3_run 12 = .ok (.iload_n 3, 1) := dk_29 (dk_at dksX3_run_0 12 rfl rfl)
theorem dX3_run_13 : decode cX3_run 13 = .ok (.i2l, 1) := dk_133 (dk_at dksX3_run_0 13 rfl rfl)
theorem dX3_run_14 : decode cX3_run 14 = .ok (.invokestatic 43, 3) := dk_184 0 43 (dk_at dksX3_run_0 14 rfl rfl)
theorem dX3_run_17 : decode cX3_run 17 = .ok (.ifCond .eq 9, 3) := dk_153 0 9 (dk_at dksX3_run_0 17 rfl rfl)
theorem dX3_run_20 : decode cX3_run 20 = .ok (.iinc 4 1, 3) := dk_132 4 1 (dk_at dksX3_run_0 20 rfl rfl)
theorem dX3_run_23 : decode cX3_run 23 = .ok (.goto (-20), 3) := dk_167 255 236 (dk_at dksX3_run_1 0 rfl rfl)
theorem dX3_run_26 : decode cX3_run 26 = .ok (.iload 4, 2) := dk_21 4 (dk_at dksX3_run_1 3 rfl rfl)
theorem dX3_run_28 : decode cX3_run 28 = .ok (.ireturn, 1) := dk_172 (dk_at dksX3_run_1 5 rfl rfl)
abbrev cJ14_max : ByteArray := prog_29_method_65_code
def yJ14_max : MethodName := ⟨RJ14, "max", "(II)I"⟩
def dkwJ14_max_0 : List UInt8 := [26, 27, 161, 0, 7, 26, 167, 0, 4, 27, 172]
abbrev dktJ14_max_0 : List UInt8 := dkwJ14_max_0 ++ []
theorem dksJ14_max_0 : cJ14_max.data.toList.drop 0 = dktJ14_max_0 := by decide +kernel
theorem dJ14_max_0 : decode cJ14_max 0 = .ok (.iload_n 0, 1) := dk_26 (dk_at dksJ14_max_0 0 rfl rfl)
theorem dJ14_max_1 : decode cJ14_max 1 = .ok (.iload_n 1, 1) := dk_27 (dk_at dksJ14_max_0 1 rfl rfl)
theorem dJ14_max_2 : decode cJ14_max 2 = .ok (.if_icmp .lt 7, 3) := dk_161 0 7 (dk_at dksJ14_max_0 2 rfl rfl)
theorem dJ14_max_5 : decode cJ14_max 5 = .ok (.iload_n 0, 1) := dk_26 (dk_at dksJ14_max_0 5 rfl rfl)
theorem dJ14_max_6 : decode cJ14_max 6 = .ok (.goto 4, 3) := dk_167 0 4 (dk_at dksJ14_max_0 6 rfl rfl)
theorem dJ14_max_9 : decode cJ14_max 9 = .ok (.iload_n 1, 1) := dk_27 (dk_at dksJ14_max_0 9 rfl rfl)
theorem dJ14_max_10 : decode cJ14_max 10 = .ok (.ireturn, 1) := dk_172 (dk_at dksJ14_max_0 10 rfl rfl)
abbrev cJ13_newLength : ByteArray := prog_65_method_27_code
def yJ13_newLength : MethodName := ⟨RJ13, "newLength", "(III)I"⟩
def dkwJ13_newLength_1 : List UInt8 := [184, 0, 201, 172]
abbrev dktJ13_newLength_1 : List UInt8 := dkwJ13_newLength_1 ++ []
def dkwJ13_newLength_0 : List UInt8 := [26, 27, 28, 184, 0, 194, 96, 62, 3, 29, 162, 0, 11, 29, 18, 200, 163, 0, 5, 29, 172, 26, 27]
abbrev dktJ13_newLength_0 : List UInt8 := dkwJ13_newLength_0 ++ dktJ13_newLength_1
theorem dksJ13_newLength_0 : cJ13_newLength.data.toList.drop 0 = dktJ13_newLength_0 := by decide +kernel
theorem dksJ13_newLength_1 : cJ13_newLength.data.toList.drop 23 = dktJ13_newLength_1 := dk_seg dksJ13_newLength_0 23 rfl rfl
theorem dJ13_newLength_0 : decode cJ13_newLength 0 = .ok (.iload_n 0, 1) := dk_26 (dk_at dksJ13_newLength_0 0 rfl rfl)
theorem dJ13_newLength_1 : decode cJ13_newLength 1 = .ok (.iload_n 1, 1) := dk_27 (dk_at dksJ13_newLength_0 1 rfl rfl)
theorem dJ13_newLength_2 : decode cJ13_newLength 2 = .ok (.iload_n 2, 1) := dk_28 (dk_at dksJ13_newLength_0 2 rfl rfl)
theorem dJ13_newLength_3 : decode cJ13_newLength 3 = .ok (.invokestatic 194, 3) := dk_184 0 194 (dk_at dksJ13_newLength_0 3 rfl rfl)
theorem dJ13_newLength_6 : decode cJ13_newLength 6 = .ok (.iadd, 1) := dk_96 (dk_at dksJ13_newLength_0 6 rfl rfl)
theorem dJ13_newLength_7 : decode cJ13_newLength 7 = .ok (.istore_n 3, 1) := dk_62 (dk_at dksJ13_newLength_0 7 rfl rfl)
theorem dJ13_newLength_8 : decode cJ13_newLength 8 = .ok (.iconst 0, 1) := dk_3 (dk_at dksJ13_newLength_0 8 rfl rfl)
theorem dJ13_newLength_9 : decode cJ13_newLength 9 = .ok (.iload_n 3, 1) := dk_29 (dk_at dksJ13_newLength_0 9 rfl rfl)
theorem dJ13_newLength_10 : decode cJ13_newLength 10 = .ok (.if_icmp .ge 11, 3) := dk_162 0 11 (dk_at dksJ13_newLength_0 10 rfl rfl)
theorem dJ13_newLength_13 : decode cJ13_newLength 13 = .ok (.iload_n 3, 1) := dk_29 (dk_at dksJ13_newLength_0 13 rfl rfl)
theorem dJ13_newLength_14 : decode cJ13_newLength 14 = .ok (.ldc 200, 2) := dk_18 200 (dk_at dksJ13_newLength_0 14 rfl rfl)
theorem dJ13_newLength_16 : decode cJ13_newLength 16 = .ok (.if_icmp .gt 5, 3) := dk_163 0 5 (dk_at dksJ13_newLength_0 16 rfl rfl)
theorem dJ13_newLength_19 : decode cJ13_newLength 19 = .ok (.iload_n 3, 1) := dk_29 (dk_at dksJ13_newLength_0 19 rfl rfl)
theorem dJ13_newLength_20 : decode cJ13_newLength 20 = .ok (.ireturn, 1) := dk_172 (dk_at dksJ13_newLength_0 20 rfl rfl)
theorem dJ13_newLength_21 : decode cJ13_newLength 21 = .ok (.iload_n 0, 1) := dk_26 (dk_at dksJ13_newLength_0 21 rfl rfl)
theorem dJ13_newLength_22 : decode cJ13_newLength 22 = .ok (.iload_n 1, 1) := dk_27 (dk_at dksJ13_newLength_0 22 rfl rfl)
theorem dJ13_newLength_23 : decode cJ13_newLength 23 = .ok (.invokestatic 201, 3) := dk_184 0 201 (dk_at dksJ13_newLength_1 0 rfl rfl)
theorem dJ13_newLength_26 : decode cJ13_newLength 26 = .ok (.ireturn, 1) := dk_172 (dk_at dksJ13_newLength_1 3 rfl rfl)
abbrev cJ2_newCapacity : ByteArray := prog_12_method_10_code
def yJ2_newCapacity : MethodName := ⟨RJ2, "newCapacity", "(I)I"⟩
def dkwJ2_newCapacity_2 : List UInt8 := [183, 0, 124, 191, 21, 5, 42, 180, 0, 22, 122, 172]
abbrev dktJ2_newCapacity_2 : List UInt8 := dkwJ2_newCapacity_2 ++ []
def dkwJ2_newCapacity_1 : List UInt8 := [180, 0, 22, 120, 96, 184, 0, 114, 54, 5, 21, 5, 18, 39, 160, 0, 13, 187, 0, 120, 89, 18, 122]
abbrev dktJ2_newCapacity_1 : List UInt8 := dkwJ2_newCapacity_1 ++ dktJ2_newCapacity_2
def dkwJ2_newCapacity_0 : List UInt8 := [42, 180, 0, 15, 190, 61, 27, 42, 180, 0, 22, 120, 62, 29, 28, 100, 54, 4, 28, 21, 4, 28, 5, 42]
abbrev dktJ2_newCapacity_0 : List UInt8 := dkwJ2_newCapacity_0 ++ dktJ2_newCapacity_1
theorem dksJ2_newCapacity_0 : cJ2_newCapacity.data.toList.drop 0 = dktJ2_newCapacity_0 := by decide +kernel
theorem dksJ2_newCapacity_1 : cJ2_newCapacity.data.toList.drop 24 = dktJ2_newCapacity_1 := dk_seg dksJ2_newCapacity_0 24 rfl rfl
theorem dksJ2_newCapacity_2 : cJ2_newCapacity.data.toList.drop 47 = dktJ2_newCapacity_2 := dk_seg dksJ2_newCapacity_1 23 rfl rfl
theorem dJ2_newCapacity_0 : decode cJ2_newCapacity 0 = .ok (.aload_n 0, 1) := dk_42 (dk_at dksJ2_newCapacity_0 0 rfl rfl)
theorem dJ2_newCapacity_1 : decode cJ2_newCapacity 1 = .ok (.getfield 15, 3) := dk_180 0 15 (dk_at dksJ2_newCapacity_0 1 rfl rfl)
theorem dJ2_newCapacity_4 : decode cJ2_newCapacity 4 = .ok (.arraylength, 1) := dk_190 (dk_at dksJ2_newCapacity_0 4 rfl rfl)
theorem dJ2_newCapacity_5 : decode cJ2_newCapacity 5 = .ok (.istore_n 2, 1) := dk_61 (dk_at dksJ2_newCapacity_0 5 rfl rfl)
theorem dJ2_newCapacity_6 : decode cJ2_newCapacity 6 = .ok (.iload_n 1, 1) := dk_27 (dk_at dksJ2_newCapacity_0 6 rfl rfl)
theorem dJ2_newCapacity_7 : decode cJ2_newCapacity 7 = .ok (.aload_n 0, 1) := dk_42 (dk_at dksJ2_newCapacity_0 7 rfl rfl)
theorem dJ2_newCapacity_8 : decode cJ2_newCapacity 8 = .ok (.getfield 22, 3) := dk_180 0 22 (dk_at dksJ2_newCapacity_0 8 rfl rfl)
theorem dJ2_newCapacity_11 : decode cJ2_newCapacity 11 = .ok (.ishl, 1) := dk_120 (dk_at dksJ2_newCapacity_0 11 rfl rfl)
theorem dJ2_newCapacity_12 : decode cJ2_newCapacity 12 = .ok (.istore_n 3, 1) := dk_62 (dk_at dksJ2_newCapacity_0 12 rfl rfl)
theorem dJ2_newCapacity_13 : decode cJ2_newCapacity 13 = .ok (.iload_n 3, 1) := dk_29 (dk_at dksJ2_newCapacity_0 13 rfl rfl)
theorem dJ2_newCapacity_14 : decode cJ2_newCapacity 14 = .ok (.iload_n 2, 1) := dk_28 (dk_at dksJ2_newCapacity_0 14 rfl rfl)
theorem dJ2_newCapacity_15 : decode cJ2_newCapacity 15 = .ok (.isub, 1) := dk_100 (dk_at dksJ2_newCapacity_0 15 rfl rfl)
theorem dJ2_newCapacity_16 : decode cJ2_newCapacity 16 = .ok (.istore 4, 2) := dk_54 4 (dk_at dksJ2_newCapacity_0 16 rfl rfl)
theorem dJ2_newCapacity_18 : decode cJ2_newCapacity 18 = .ok (.iload_n 2, 1) := dk_28 (dk_at dksJ2_newCapacity_0 18 rfl rfl)
theorem dJ2_newCapacity_19 : decode cJ2_newCapacity 19 = .ok (.iload 4, 2) := dk_21 4 (dk_at dksJ2_newCapacity_0 19 rfl rfl)
theorem dJ2_newCapacity_21 : decode cJ2_newCapacity 21 = .ok (.iload_n 2, 1) := dk_28 (dk_at dksJ2_newCapacity_0 21 rfl rfl)
theorem dJ2_newCapacity_22 : decode cJ2_newCapacity 22 = .ok (.iconst 2, 1) := dk_5 (dk_at dksJ2_newCapacity_0 22 rfl rfl)
theorem dJ2_newCapacity_23 : decode cJ2_newCapacity 23 = .ok (.aload_n 0, 1) := dk_42 (dk_at dksJ2_newCapacity_0 23 rfl rfl)
theorem dJ2_newCapacity_24 : decode cJ2_newCapacity 24 = .ok (.getfield 22, 3) := dk_180 0 22 (dk_at dksJ2_newCapacity_1 0 rfl rfl)
theorem dJ2_newCapacity_27 : decode cJ2_newCapacity 27 = .ok (.ishl, 1) := dk_120 (dk_at dksJ2_newCapacity_1 3 rfl rfl)
theorem dJ2_newCapacity_28 : decode cJ2_newCapacity 28 = .ok (.iadd, 1) := dk_96 (dk_at dksJ2_newCapacity_1 4 rfl rfl)
theorem dJ2_newCapacity_29 : decode cJ2_newCapacity 29 = .ok (.invokestatic 114, 3) := dk_184 0 114 (dk_at dksJ2_newCapacity_1 5 rfl rfl)
theorem dJ2_newCapacity_32 : decode cJ2_newCapacity 32 = .ok (.istore 5, 2) := dk_54 5 (dk_at dksJ2_newCapacity_1 8 rfl rfl)
theorem dJ2_newCapacity_34 : decode cJ2_newCapacity 34 = .ok (.iload 5, 2) := dk_21 5 (dk_at dksJ2_newCapacity_1 10 rfl rfl)
theorem dJ2_newCapacity_36 : decode cJ2_newCapacity 36 = .ok (.ldc 39, 2) := dk_18 39 (dk_at dksJ2_newCapacity_1 12 rfl rfl)
theorem dJ2_newCapacity_38 : decode cJ2_newCapacity 38 = .ok (.if_icmp .ne 13, 3) := dk_160 0 13 (dk_at dksJ2_newCapacity_1 14 rfl rfl)
theorem dJ2_newCapacity_41 : decode cJ2_newCapacity 41 = .ok (.new 120, 3) := dk_187 0 120 (dk_at dksJ2_newCapacity_1 17 rfl rfl)
theorem dJ2_newCapacity_44 : decode cJ2_newCapacity 44 = .ok (.dup, 1) := dk_89 (dk_at dksJ2_newCapacity_1 20 rfl rfl)
theorem dJ2_newCapacity_45 : decode cJ2_newCapacity 45 = .ok (.ldc 122, 2) := dk_18 122 (dk_at dksJ2_newCapacity_1 21 rfl rfl)
theorem dJ2_newCapacity_47 : decode cJ2_newCapacity 47 = .ok (.invokespecial 124, 3) := dk_183 0 124 (dk_at dksJ2_newCapacity_2 0 rfl rfl)
theorem dJ2_newCapacity_50 : decode cJ2_newCapacity 50 = .ok (.athrow, 1) := dk_191 (dk_at dksJ2_newCapacity_2 3 rfl rfl)
theorem dJ2_newCapacity_51 : decode cJ2_newCapacity 51 = .ok (.iload 5, 2) := dk_21 5 (dk_at dksJ2_newCapacity_2 4 rfl rfl)
theorem dJ2_newCapacity_53 : decode cJ2_newCapacity 53 = .ok (.aload_n 0, 1) := dk_42 (dk_at dksJ2_newCapacity_2 6 rfl rfl)
theorem dJ2_newCapacity_54 : decode cJ2_newCapacity 54 = .ok (.getfield 22, 3) := dk_180 0 22 (dk_at dksJ2_newCapacity_2 7 rfl rfl)
theorem dJ2_newCapacity_57 : decode cJ2_newCapacity 57 = .ok (.ishr, 1) := dk_122 (dk_at dksJ2_newCapacity_2 10 rfl rfl)
theorem dJ2_newCapacity_58 : decode cJ2_newCapacity 58 = .ok (.ireturn, 1) := dk_172 (dk_at dksJ2_newCapacity_2 11 rfl rfl)
abbrev cJ14_min : ByteArray := prog_29_method_69_code
def yJ14_min : MethodName := ⟨RJ14, "min", "(II)I"⟩
def dkwJ14_min_0 : List UInt8 := [26, 27, 163, 0, 7, 26, 167, 0, 4, 27, 172]
abbrev dktJ14_min_0 : List UInt8 := dkwJ14_min_0 ++ []
theorem dksJ14_min_0 : cJ14_min.data.toList.drop 0 = dktJ14_min_0 := by decide +kernel
theorem dJ14_min_0 : decode cJ14_min 0 = .ok (.iload_n 0, 1) := dk_26 (dk_at dksJ14_min_0 0 rfl rfl)
theorem dJ14_min_1 : decode cJ14_min 1 = .ok (.iload_n 1, 1) := dk_27 (dk_at dksJ14_min_0 1 rfl rfl)
theorem dJ14_min_2 : decode cJ14_min 2 = .ok (.if_icmp .gt 7, 3) := dk_163 0 7 (dk_at dksJ14_min_0 2 rfl rfl)
theorem dJ14_min_5 : decode cJ14_min 5 = .ok (.iload_n 0, 1) := dk_26 (dk_at dksJ14_min_0 5 rfl rfl)
theorem dJ14_min_6 : decode cJ14_min 6 = .ok (.goto 4, 3) := dk_167 0 4 (dk_at dksJ14_min_0 6 rfl rfl)
theorem dJ14_min_9 : decode cJ14_min 9 = .ok (.iload_n 1, 1) := dk_27 (dk_at dksJ14_min_0 9 rfl rfl)
theorem dJ14_min_10 : decode cJ14_min 10 = .ok (.ireturn, 1) := dk_172 (dk_at dksJ14_min_0 10 rfl rfl)
abbrev cJ15_copyOf : ByteArray := prog_50_method_121_code
def yJ15_copyOf : MethodName := ⟨RJ15, "copyOf", "([BI)[B"⟩
def dkwJ15_copyOf_1 : List UInt8 := [27, 184, 1, 48, 184, 0, 150, 44, 176]
abbrev dktJ15_copyOf_1 : List UInt8 := dkwJ15_copyOf_1 ++ []
def dkwJ15_copyOf_0 : List UInt8 := [27, 42, 190, 160, 0, 11, 42, 182, 1, 54, 192, 1, 55, 176, 27, 188, 8, 77, 42, 3, 44, 3, 42, 190]
abbrev dktJ15_copyOf_0 : List UInt8 := dkwJ15_copyOf_0 ++ dktJ15_copyOf_1
theorem dksJ15_copyOf_0 : cJ15_copyOf.data.toList.drop 0 = dktJ15_copyOf_0 := by decide +kernel
theorem dksJ15_copyOf_1 : cJ15_copyOf.data.toList.drop 24 = dktJ15_copyOf_1 := dk_seg dksJ15_copyOf_0 24 rfl rfl
theorem dJ15_copyOf_0 : decode cJ15_copyOf 0 = .ok (.iload_n 1, 1) := dk_27 (dk_at dksJ15_copyOf_0 0 rfl rfl)
theorem dJ15_copyOf_1 : decode cJ15_copyOf 1 = .ok (.aload_n 0, 1) := dk_42 (dk_at dksJ15_copyOf_0 1 rfl rfl)
theorem dJ15_copyOf_2 : decode cJ15_copyOf 2 = .ok (.arraylength, 1) := dk_190 (dk_at dksJ15_copyOf_0 2 rfl rfl)
theorem dJ15_copyOf_3 : decode cJ15_copyOf 3 = .ok (.if_icmp .ne 11, 3) := dk_160 0 11 (dk_at dksJ15_copyOf_0 3 rfl rfl)
theorem dJ15_copyOf_6 : decode cJ15_copyOf 6 = .ok (.aload_n 0, 1) := dk_42 (dk_at dksJ15_copyOf_0 6 rfl rfl)
theorem dJ15_copyOf_7 : decode cJ15_copyOf 7 = .ok (.invokevirtual 310, 3) := dk_182 1 54 (dk_at dksJ15_copyOf_0 7 rfl rfl)
theorem dJ15_copyOf_10 : decode cJ15_copyOf 10 = .ok (.checkcast 311, 3) := dk_192 1 55 (dk_at dksJ15_copyOf_0 10 rfl rfl)
theorem dJ15_copyOf_13 : decode cJ15_copyOf 13 = .ok (.areturn, 1) := dk_176 (dk_at dksJ15_copyOf_0 13 rfl rfl)
theorem dJ15_copyOf_14 : decode cJ15_copyOf 14 = .ok (.iload_n 1, 1) := dk_27 (dk_at dksJ15_copyOf_0 14 rfl rfl)
theorem dJ15_copyOf_15 : decode cJ15_copyOf 15 = .ok (.newarray .byte, 2) := dk_188_8 (dk_at dksJ15_copyOf_0 15 rfl rfl)
theorem dJ15_copyOf_17 : decode cJ15_copyOf 17 = .ok (.astore_n 2, 1) := dk_77 (dk_at dksJ15_copyOf_0 17 rfl rfl)
theorem dJ15_copyOf_18 : decode cJ15_copyOf 18 = .ok (.aload_n 0, 1) := dk_42 (dk_at dksJ15_copyOf_0 18 rfl rfl)
theorem dJ15_copyOf_19 : decode cJ15_copyOf 19 = .ok (.iconst 0, 1) := dk_3 (dk_at dksJ15_copyOf_0 19 rfl rfl)
theorem dJ15_copyOf_20 : decode cJ15_copyOf 20 = .ok (.aload_n 2, 1) := dk_44 (dk_at dksJ15_copyOf_0 20 rfl rfl)
theorem dJ15_copyOf_21 : decode cJ15_copyOf 21 = .ok (.iconst 0, 1) := dk_3 (dk_at dksJ15_copyOf_0 21 rfl rfl)
theorem dJ15_copyOf_22 : decode cJ15_copyOf 22 = .ok (.aload_n 0, 1) := dk_42 (dk_at dksJ15_copyOf_0 22 rfl rfl)
theorem dJ15_copyOf_23 : decode cJ15_copyOf 23 = .ok (.arraylength, 1) := dk_190 (dk_at dksJ15_copyOf_0 23 rfl rfl)
theorem dJ15_copyOf_24 : decode cJ15_copyOf 24 = .ok (.iload_n 1, 1) := dk_27 (dk_at dksJ15_copyOf_1 0 rfl rfl)
theorem dJ15_copyOf_25 : decode cJ15_copyOf 25 = .ok (.invokestatic 304, 3) := dk_184 1 48 (dk_at dksJ15_copyOf_1 1 rfl rfl)
theorem dJ15_copyOf_28 : decode cJ15_copyOf 28 = .ok (.invokestatic 150, 3) := dk_184 0 150 (dk_at dksJ15_copyOf_1 4 rfl rfl)
theorem dJ15_copyOf_31 : decode cJ15_copyOf 31 = .ok (.aload_n 2, 1) := dk_44 (dk_at dksJ15_copyOf_1 7 rfl rfl)
theorem dJ15_copyOf_32 : decode cJ15_copyOf 32 = .ok (.areturn, 1) := dk_176 (dk_at dksJ15_copyOf_1 8 rfl rfl)
abbrev cJ2_ensureCapacityInternal : ByteArray := prog_12_method_9_code
def yJ2_ensureCapacityInternal : MethodName := ⟨RJ2, "ensureCapacityInternal", "(I)V"⟩
def dkwJ2_ensureCapacityInternal_1 : List UInt8 := [182, 0, 104, 42, 180, 0, 22, 120, 184, 0, 108, 181, 0, 15, 177]
abbrev dktJ2_ensureCapacityInternal_1 : List UInt8 := dkwJ2_ensureCapacityInternal_1 ++ []
def dkwJ2_ensureCapacityInternal_0 : List UInt8 := [42, 180, 0, 15, 190, 42, 180, 0, 22, 122, 61, 27, 28, 100, 158, 0, 24, 42, 42, 180, 0, 15, 42, 27]
abbrev dktJ2_ensureCapacityInternal_0 : List UInt8 := dkwJ2_ensureCapacityInternal_0 ++ dktJ2_ensureCapacityInternal_1
theorem dksJ2_ensureCapacityInternal_0 : cJ2_ensureCapacityInternal.data.toList.drop 0 = dktJ2_ensureCapacityInternal_0 := by decide +kernel
theorem dksJ2_ensureCapacityInternal_1 : cJ2_ensureCapacityInternal.data.toList.drop 24 = dktJ2_ensureCapacityInternal_1 := dk_seg dksJ2_ensureCapacityInternal_0 24 rfl rfl
theorem dJ2_ensureCapacityInternal_0 : decode cJ2_ensureCapacityInternal 0 = .ok (.aload_n 0, 1) := dk_42 (dk_at dksJ2_ensureCapacityInternal_0 0 rfl rfl)
theorem dJ2_ensureCapacityInternal_1 : decode cJ2_ensureCapacityInternal 1 = .ok (.getfield 15, 3) := dk_180 0 15 (dk_at dksJ2_ensureCapacityInternal_0 1 rfl rfl)
theorem dJ2_ensureCapacityInternal_4 : decode cJ2_ensureCapacityInternal 4 = .ok (.arraylength, 1) := dk_190 (dk_at dksJ2_ensureCapacityInternal_0 4 rfl rfl)
theorem dJ2_ensureCapacityInternal_5 : decode cJ2_ensureCapacityInternal 5 = .ok (.aload_n 0, 1) := dk_42 (dk_at dksJ2_ensureCapacityInternal_0 5 rfl rfl)
theorem dJ2_ensureCapacityInternal_6 : decode cJ2_ensureCapacityInternal 6 = .ok (.getfield 22, 3) := dk_180 0 22 (dk_at dksJ2_ensureCapacityInternal_0 6 rfl rfl)
theorem dJ2_ensureCapacityInternal_9 : decode cJ2_ensureCapacityInternal 9 = .ok (.ishr, 1) := dk_122 (dk_at dksJ2_ensureCapacityInternal_0 9 rfl rfl)
theorem dJ2_ensureCapacityInternal_10 : decode cJ2_ensureCapacityInternal 10 = .ok (.istore_n 2, 1) := dk_61 (dk_at dksJ2_ensureCapacityInternal_0 10 rfl rfl)
theorem dJ2_ensureCapacityInternal_11 : decode cJ2_ensureCapacityInternal 11 = .ok (.iload_n 1, 1) := dk_27 (dk_at dksJ2_ensureCapacityInternal_0 11 rfl rfl)
theorem dJ2_ensureCapacityInternal_12 : decode cJ2_ensureCapacityInternal 12 = .ok (.iload_n 2, 1) := dk_28 (dk_at dksJ2_ensureCapacityInternal_0 12 rfl rfl)
theorem dJ2_ensureCapacityInternal_13 : decode cJ2_ensureCapacityInternal 13 = .ok (.isub, 1) := dk_100 (dk_at dksJ2_ensureCapacityInternal_0 13 rfl rfl)
theorem dJ2_ensureCapacityInternal_14 : decode cJ2_ensureCapacityInternal 14 = .ok (.ifCond .le 24, 3) := dk_158 0 24 (dk_at dksJ2_ensureCapacityInternal_0 14 rfl rfl)
theorem dJ2_ensureCapacityInternal_17 : decode cJ2_ensureCapacityInternal 17 = .ok (.aload_n 0, 1) := dk_42 (dk_at dksJ2_ensureCapacityInternal_0 17 rfl rfl)
theorem dJ2_ensureCapacityInternal_18 : decode cJ2_ensureCapacityInternal 18 = .ok (.aload_n 0, 1) := dk_42 (dk_at dksJ2_ensureCapacityInternal_0 18 rfl rfl)
theorem dJ2_ensureCapacityInternal_19 : decode cJ2_ensureCapacityInternal 19 = .ok (.getfield 15, 3) := dk_180 0 15 (dk_at dksJ2_ensureCapacityInternal_0 19 rfl rfl)
theorem dJ2_ensureCapacityInternal_22 : decode cJ2_ensureCapacityInternal 22 = .ok (.aload_n 0, 1) := dk_42 (dk_at dksJ2_ensureCapacityInternal_0 22 rfl rfl)
theorem dJ2_ensureCapacityInternal_23 : decode cJ2_ensureCapacityInternal 23 = .ok (.iload_n 1, 1) := dk_27 (dk_at dksJ2_ensureCapacityInternal_0 23 rfl rfl)
theorem dJ2_ensureCapacityInternal_24 : decode cJ2_ensureCapacityInternal 24 = .ok (.invokevirtual 104, 3) := dk_182 0 104 (dk_at dksJ2_ensureCapacityInternal_1 0 rfl rfl)
theorem dJ2_ensureCapacityInternal_27 : decode cJ2_ensureCapacityInternal 27 = .ok (.aload_n 0, 1) := dk_42 (dk_at dksJ2_ensureCapacityInternal_1 3 rfl rfl)
theorem dJ2_ensureCapacityInternal_28 : decode cJ2_ensureCapacityInternal 28 = .ok (.getfield 22, 3) := dk_180 0 22 (dk_at dksJ2_ensureCapacityInternal_1 4 rfl rfl)
theorem dJ2_ensureCapacityInternal_31 : decode cJ2_ensureCapacityInternal 31 = .ok (.ishl, 1) := dk_120 (dk_at dksJ2_ensureCapacityInternal_1 7 rfl rfl)
theorem dJ2_ensureCapacityInternal_32 : decode cJ2_ensureCapacityInternal 32 = .ok (.invokestatic 108, 3) := dk_184 0 108 (dk_at dksJ2_ensureCapacityInternal_1 8 rfl rfl)
theorem dJ2_ensureCapacityInternal_35 : decode cJ2_ensureCapacityInternal 35 = .ok (.putfield 15, 3) := dk_181 0 15 (dk_at dksJ2_ensureCapacityInternal_1 11 rfl rfl)
theorem dJ2_ensureCapacityInternal_38 : decode cJ2_ensureCapacityInternal 38 = .ok (.return_, 1) := dk_177 (dk_at dksJ2_ensureCapacityInternal_1 14 rfl rfl)
abbrev cJ2_isLatin1 : ByteArray := prog_12_method_68_code
def yJ2_isLatin1 : MethodName := ⟨RJ2, "isLatin1", "()Z"⟩
def dkwJ2_isLatin1_0 : List UInt8 := [178, 0, 18, 153, 0, 14, 42, 180, 0, 22, 154, 0, 7, 4, 167, 0, 4, 3, 172]
abbrev dktJ2_isLatin1_0 : List UInt8 := dkwJ2_isLatin1_0 ++ []
theorem dksJ2_isLatin1_0 : cJ2_isLatin1.data.toList.drop 0 = dktJ2_isLatin1_0 := by decide +kernel
theorem dJ2_isLatin1_0 : decode cJ2_isLatin1 0 = .ok (.getstatic 18, 3) := dk_178 0 18 (dk_at dksJ2_isLatin1_0 0 rfl rfl)
theorem dJ2_isLatin1_3 : decode cJ2_isLatin1 3 = .ok (.ifCond .eq 14, 3) := dk_153 0 14 (dk_at dksJ2_isLatin1_0 3 rfl rfl)
theorem dJ2_isLatin1_6 : decode cJ2_isLatin1 6 = .ok (.aload_n 0, 1) := dk_42 (dk_at dksJ2_isLatin1_0 6 rfl rfl)
theorem dJ2_isLatin1_7 : decode cJ2_isLatin1 7 = .ok (.getfield 22, 3) := dk_180 0 22 (dk_at dksJ2_isLatin1_0 7 rfl rfl)
theorem dJ2_isLatin1_10 : decode cJ2_isLatin1 10 = .ok (.ifCond .ne 7, 3) := dk_154 0 7 (dk_at dksJ2_isLatin1_0 10 rfl rfl)
theorem dJ2_isLatin1_13 : decode cJ2_isLatin1 13 = .ok (.iconst 1, 1) := dk_4 (dk_at dksJ2_isLatin1_0 13 rfl rfl)
theorem dJ2_isLatin1_14 : decode cJ2_isLatin1 14 = .ok (.goto 4, 3) := dk_167 0 4 (dk_at dksJ2_isLatin1_0 14 rfl rfl)
theorem dJ2_isLatin1_17 : decode cJ2_isLatin1 17 = .ok (.iconst 0, 1) := dk_3 (dk_at dksJ2_isLatin1_0 17 rfl rfl)
theorem dJ2_isLatin1_18 : decode cJ2_isLatin1 18 = .ok (.ireturn, 1) := dk_172 (dk_at dksJ2_isLatin1_0 18 rfl rfl)
abbrev cJ16_canEncode : ByteArray := prog_35_method_3_code
def yJ16_canEncode : MethodName := ⟨RJ16, "canEncode", "(C)Z"⟩
def dkwJ16_canEncode_0 : List UInt8 := [26, 17, 0, 255, 163, 0, 7, 4, 167, 0, 4, 3, 172]
abbrev dktJ16_canEncode_0 : List UInt8 := dkwJ16_canEncode_0 ++ []
theorem dksJ16_canEncode_0 : cJ16_canEncode.data.toList.drop 0 = dktJ16_canEncode_0 := by decide +kernel
theorem dJ16_canEncode_0 : decode cJ16_canEncode 0 = .ok (.iload_n 0, 1) := dk_26 (dk_at dksJ16_canEncode_0 0 rfl rfl)
theorem dJ16_canEncode_1 : decode cJ16_canEncode 1 = .ok (.sipush 255, 3) := dk_17 0 255 (dk_at dksJ16_canEncode_0 1 rfl rfl)
theorem dJ16_canEncode_4 : decode cJ16_canEncode 4 = .ok (.if_icmp .gt 7, 3) := dk_163 0 7 (dk_at dksJ16_canEncode_0 4 rfl rfl)
theorem dJ16_canEncode_7 : decode cJ16_canEncode 7 = .ok (.iconst 1, 1) := dk_4 (dk_at dksJ16_canEncode_0 7 rfl rfl)
theorem dJ16_canEncode_8 : decode cJ16_canEncode 8 = .ok (.goto 4, 3) := dk_167 0 4 (dk_at dksJ16_canEncode_0 8 rfl rfl)
theorem dJ16_canEncode_11 : decode cJ16_canEncode 11 = .ok (.iconst 0, 1) := dk_3 (dk_at dksJ16_canEncode_0 11 rfl rfl)
theorem dJ16_canEncode_12 : decode cJ16_canEncode 12 = .ok (.ireturn, 1) := dk_172 (dk_at dksJ16_canEncode_0 12 rfl rfl)
abbrev cJ5_putChar : ByteArray := prog_36_method_4_code
def yJ5_putChar : MethodName := ⟨RJ5, "putChar", "([BII)V"⟩
def dkwJ5_putChar_2 : List UInt8 := [178, 0, 63, 122, 145, 84, 177]
abbrev dktJ5_putChar_2 : List UInt8 := dkwJ5_putChar_2 ++ []
def dkwJ5_putChar_1 : List UInt8 := [183, 0, 56, 191, 27, 4, 120, 60, 42, 27, 132, 1, 1, 28, 178, 0, 59, 122, 145, 84, 42, 27, 28]
abbrev dktJ5_putChar_1 : List UInt8 := dkwJ5_putChar_1 ++ dktJ5_putChar_2
def dkwJ5_putChar_0 : List UInt8 := [178, 0, 44, 154, 0, 25, 27, 155, 0, 11, 27, 42, 184, 0, 48, 161, 0, 13, 187, 0, 52, 89, 18, 54]
abbrev dktJ5_putChar_0 : List UInt8 := dkwJ5_putChar_0 ++ dktJ5_putChar_1
theorem dksJ5_putChar_0 : cJ5_putChar.data.toList.drop 0 = dktJ5_putChar_0 := by decide +kernel
theorem dksJ5_putChar_1 : cJ5_putChar.data.toList.drop 24 = dktJ5_putChar_1 := dk_seg dksJ5_putChar_0 24 rfl rfl
theorem dksJ5_putChar_2 : cJ5_putChar.data.toList.drop 47 = dktJ5_putChar_2 := dk_seg dksJ5_putChar_1 23 rfl rfl
theorem dJ5_putChar_0 : decode cJ5_putChar 0 = .ok (.getstatic 44, 3) := dk_178 0 44 (dk_at dksJ5_putChar_0 0 rfl rfl)
theorem dJ5_putChar_3 : decode cJ5_putChar 3 = .ok (.ifCond .ne 25, 3) := dk_154 0 25 (dk_at dksJ5_putChar_0 3 rfl rfl)
theorem dJ5_putChar_6 : decode cJ5_putChar 6 = .ok (.iload_n 1, 1) := dk_27 (dk_at dksJ5_putChar_0 6 rfl rfl)
theorem dJ5_putChar_7 : decode cJ5_putChar 7 = .ok (.ifCond .lt 11, 3) := dk_155 0 11 (dk_at dksJ5_putChar_0 7 rfl rfl)
theorem dJ5_putChar_10 : decode cJ5_putChar 10 = .ok (.iload_n 1, 1) := dk_27 (dk_at dksJ5_putChar_0 10 rfl rfl)
theorem dJ5_putChar_11 : decode cJ5_putChar 11 = .ok (.aload_n 0, 1) := dk_42 (dk_at dksJ5_putChar_0 11 rfl rfl)
theorem dJ5_putChar_12 : decode cJ5_putChar 12 = .ok (.invokestatic 48, 3) := dk_184 0 48 (dk_at dksJ5_putChar_0 12 rfl rfl)
theorem dJ5_putChar_15 : decode cJ5_putChar 15 = .ok (.if_icmp .lt 13, 3) := dk_161 0 13 (dk_at dksJ5_putChar_0 15 rfl rfl)
theorem dJ5_putChar_18 : decode cJ5_putChar 18 = .ok (.new 52, 3) := dk_187 0 52 (dk_at dksJ5_putChar_0 18 rfl rfl)
theorem dJ5_putChar_21 : decode cJ5_putChar 21 = .ok (.dup, 1) := dk_89 (dk_at dksJ5_putChar_0 21 rfl rfl)
theorem dJ5_putChar_22 : decode cJ5_putChar 22 = .ok (.ldc 54, 2) := dk_18 54 (dk_at dksJ5_putChar_0 22 rfl rfl)
theorem dJ5_putChar_24 : decode cJ5_putChar 24 = .ok (.invokespecial 56, 3) := dk_183 0 56 (dk_at dksJ5_putChar_1 0 rfl rfl)
theorem dJ5_putChar_27 : decode cJ5_putChar 27 = .ok (.athrow, 1) := dk_191 (dk_at dksJ5_putChar_1 3 rfl rfl)
theorem dJ5_putChar_28 : decode cJ5_putChar 28 = .ok (.iload_n 1, 1) := dk_27 (dk_at dksJ5_putChar_1 4 rfl rfl)
theorem dJ5_putChar_29 : decode cJ5_putChar 29 = .ok (.iconst 1, 1) := dk_4 (dk_at dksJ5_putChar_1 5 rfl rfl)
theorem dJ5_putChar_30 : decode cJ5_putChar 30 = .ok (.ishl, 1) := dk_120 (dk_at dksJ5_putChar_1 6 rfl rfl)
theorem dJ5_putChar_31 : decode cJ5_putChar 31 = .ok (.istore_n 1, 1) := dk_60 (dk_at dksJ5_putChar_1 7 rfl rfl)
theorem dJ5_putChar_32 : decode cJ5_putChar 32 = .ok (.aload_n 0, 1) := dk_42 (dk_at dksJ5_putChar_1 8 rfl rfl)
theorem dJ5_putChar_33 : decode cJ5_putChar 33 = .ok (.iload_n 1, 1) := dk_27 (dk_at dksJ5_putChar_1 9 rfl rfl)
theorem dJ5_putChar_34 : decode cJ5_putChar 34 = .ok (.iinc 1 1, 3) := dk_132 1 1 (dk_at dksJ5_putChar_1 10 rfl rfl)
theorem dJ5_putChar_37 : decode cJ5_putChar 37 = .ok (.iload_n 2, 1) := dk_28 (dk_at dksJ5_putChar_1 13 rfl rfl)
theorem dJ5_putChar_38 : decode cJ5_putChar 38 = .ok (.getstatic 59, 3) := dk_178 0 59 (dk_at dksJ5_putChar_1 14 rfl rfl)
theorem dJ5_putChar_41 : decode cJ5_putChar 41 = .ok (.ishr, 1) := dk_122 (dk_at dksJ5_putChar_1 17 rfl rfl)
theorem dJ5_putChar_42 : decode cJ5_putChar 42 = .ok (.i2b, 1) := dk_145 (dk_at dksJ5_putChar_1 18 rfl rfl)
theorem dJ5_putChar_43 : decode cJ5_putChar 43 = .ok (.bastore, 1) := dk_84 (dk_at dksJ5_putChar_1 19 rfl rfl)
theorem dJ5_putChar_44 : decode cJ5_putChar 44 = .ok (.aload_n 0, 1) := dk_42 (dk_at dksJ5_putChar_1 20 rfl rfl)
theorem dJ5_putChar_45 : decode cJ5_putChar 45 = .ok (.iload_n 1, 1) := dk_27 (dk_at dksJ5_putChar_1 21 rfl rfl)
theorem dJ5_putChar_46 : decode cJ5_putChar 46 = .ok (.iload_n 2, 1) := dk_28 (dk_at dksJ5_putChar_1 22 rfl rfl)
theorem dJ5_putChar_47 : decode cJ5_putChar 47 = .ok (.getstatic 63, 3) := dk_178 0 63 (dk_at dksJ5_putChar_2 0 rfl rfl)
theorem dJ5_putChar_50 : decode cJ5_putChar 50 = .ok (.ishr, 1) := dk_122 (dk_at dksJ5_putChar_2 3 rfl rfl)
theorem dJ5_putChar_51 : decode cJ5_putChar 51 = .ok (.i2b, 1) := dk_145 (dk_at dksJ5_putChar_2 4 rfl rfl)
theorem dJ5_putChar_52 : decode cJ5_putChar 52 = .ok (.bastore, 1) := dk_84 (dk_at dksJ5_putChar_2 5 rfl rfl)
theorem dJ5_putChar_53 : decode cJ5_putChar 53 = .ok (.return_, 1) := dk_177 (dk_at dksJ5_putChar_2 6 rfl rfl)
abbrev cJ5_putCharSB : ByteArray := prog_36_method_71_code
def yJ5_putCharSB : MethodName := ⟨RJ5, "putCharSB", "([BII)V"⟩
def dkwJ5_putCharSB_0 : List UInt8 := [27, 42, 184, 0, 67, 42, 27, 28, 184, 0, 111, 177]
abbrev dktJ5_putCharSB_0 : List UInt8 := dkwJ5_putCharSB_0 ++ []
theorem dksJ5_putCharSB_0 : cJ5_putCharSB.data.toList.drop 0 = dktJ5_putCharSB_0 := by decide +kernel
theorem dJ5_putCharSB_0 : decode cJ5_putCharSB 0 = .ok (.iload_n 1, 1) := dk_27 (dk_at dksJ5_putCharSB_0 0 rfl rfl)
theorem dJ5_putCharSB_1 : decode cJ5_putCharSB 1 = .ok (.aload_n 0, 1) := dk_42 (dk_at dksJ5_putCharSB_0 1 rfl rfl)
theorem dJ5_putCharSB_2 : decode cJ5_putCharSB 2 = .ok (.invokestatic 67, 3) := dk_184 0 67 (dk_at dksJ5_putCharSB_0 2 rfl rfl)
theorem dJ5_putCharSB_5 : decode cJ5_putCharSB 5 = .ok (.aload_n 0, 1) := dk_42 (dk_at dksJ5_putCharSB_0 5 rfl rfl)
theorem dJ5_putCharSB_6 : decode cJ5_putCharSB 6 = .ok (.iload_n 1, 1) := dk_27 (dk_at dksJ5_putCharSB_0 6 rfl rfl)
theorem dJ5_putCharSB_7 : decode cJ5_putCharSB 7 = .ok (.iload_n 2, 1) := dk_28 (dk_at dksJ5_putCharSB_0 7 rfl rfl)
theorem dJ5_putCharSB_8 : decode cJ5_putCharSB 8 = .ok (.invokestatic 111, 3) := dk_184 0 111 (dk_at dksJ5_putCharSB_0 8 rfl rfl)
theorem dJ5_putCharSB_11 : decode cJ5_putCharSB 11 = .ok (.return_, 1) := dk_177 (dk_at dksJ5_putCharSB_0 11 rfl rfl)
abbrev cJ2_append : ByteArray := prog_12_method_31_code
def yJ2_append : MethodName := ⟨RJ2, "append", "(C)Ljava/lang/AbstractStringBuilder;"⟩
def dkwJ2_append_3 : List UInt8 := [181, 0, 79, 27, 184, 0, 197, 42, 176]
abbrev dktJ2_append_3 : List UInt8 := dkwJ2_append_3 ++ []
def dkwJ2_append_2 : List UInt8 := [182, 0, 83, 153, 0, 7, 42, 182, 0, 195, 42, 180, 0, 15, 42, 89, 180, 0, 79, 90, 4, 96]
abbrev dktJ2_append_2 : List UInt8 := dkwJ2_append_2 ++ dktJ2_append_3
def dkwJ2_append_1 : List UInt8 := [42, 180, 0, 15, 42, 89, 180, 0, 79, 90, 4, 96, 181, 0, 79, 27, 145, 84, 167, 0, 33, 42]
abbrev dktJ2_append_1 : List UInt8 := dkwJ2_append_1 ++ dktJ2_append_2
def dkwJ2_append_0 : List UInt8 := [42, 42, 180, 0, 79, 4, 96, 182, 0, 100, 42, 182, 0, 83, 153, 0, 31, 27, 184, 0, 191, 153, 0, 24]
abbrev dktJ2_append_0 : List UInt8 := dkwJ2_append_0 ++ dktJ2_append_1
theorem dksJ2_append_0 : cJ2_append.data.toList.drop 0 = dktJ2_append_0 := by decide +kernel
theorem dksJ2_append_1 : cJ2_append.data.toList.drop 24 = dktJ2_append_1 := dk_seg dksJ2_append_0 24 rfl rfl
theorem dksJ2_append_2 : cJ2_append.data.toList.drop 46 = dktJ2_append_2 := dk_seg dksJ2_append_1 22 rfl rfl
theorem dksJ2_append_3 : cJ2_append.data.toList.drop 68 = dktJ2_append_3 := dk_seg dksJ2_append_2 22 rfl rfl
theorem dJ2_append_0 : decode cJ2_append 0 = .ok (.aload_n 0, 1) := dk_42 (dk_at dksJ2_append_0 0 rfl rfl)
theorem dJ2_append_1 : decode cJ2_append 1 = .ok (.aload_n 0, 1) := dk_42 (dk_at dksJ2_append_0 1 rfl rfl)
theorem dJ2_append_2 : decode cJ2_append 2 = .ok (.getfield 79, 3) := dk_180 0 79 (dk_at dksJ2_append_0 2 rfl rfl)
theorem dJ2_append_5 : decode cJ2_append 5 = .ok (.iconst 1, 1) := dk_4 (dk_at dksJ2_append_0 5 rfl rfl)
theorem dJ2_append_6 : decode cJ2_append 6 = .ok (.iadd, 1) := dk_96 (dk_at dksJ2_append_0 6 rfl rfl)
theorem dJ2_append_7 : decode cJ2_append 7 = .ok (.invokevirtual 100, 3) := dk_182 0 100 (dk_at dksJ2_append_0 7 rfl rfl)
theorem dJ2_append_10 : decode cJ2_append 10 = .ok (.aload_n 0, 1) := dk_42 (dk_at dksJ2_append_0 10 rfl rfl)
theorem dJ2_append_11 : decode cJ2_append 11 = .ok (.invokevirtual 83, 3) := dk_182 0 83 (dk_at dksJ2_append_0 11 rfl rfl)
theorem dJ2_append_14 : decode cJ2_append 14 = .ok (.ifCond .eq 31, 3) := dk_153 0 31 (dk_at dksJ2_append_0 14 rfl rfl)
theorem dJ2_append_17 : decode cJ2_append 17 = .ok (.iload_n 1, 1) := dk_27 (dk_at dksJ2_append_0 17 rfl rfl)
theorem dJ2_append_18 : decode cJ2_append 18 = .ok (.invokestatic 191, 3) := dk_184 0 191 (dk_at dksJ2_append_0 18 rfl rfl)
theorem dJ2_append_21 : decode cJ2_append 21 = .ok (.ifCond .eq 24, 3) := dk_153 0 24 (dk_at dksJ2_append_0 21 rfl rfl)
theorem dJ2_append_24 : decode cJ2_append 24 = .ok (.aload_n 0, 1) := dk_42 (dk_at dksJ2_append_1 0 rfl rfl)
theorem dJ2_append_25 : decode cJ2_append 25 = .ok (.getfield 15, 3) := dk_180 0 15 (dk_at dksJ2_append_1 1 rfl rfl)
theorem dJ2_append_28 : decode cJ2_append 28 = .ok (.aload_n 0, 1) := dk_42 (dk_at dksJ2_append_1 4 rfl rfl)
theorem dJ2_append_29 : decode cJ2_append 29 = .ok (.dup, 1) := dk_89 (dk_at dksJ2_append_1 5 rfl rfl)
theorem dJ2_append_30 : decode cJ2_append 30 = .ok (.getfield 79, 3) := dk_180 0 79 (dk_at dksJ2_append_1 6 rfl rfl)
theorem dJ2_append_33 : decode cJ2_append 33 = .ok (.dup_x1, 1) := dk_90 (dk_at dksJ2_append_1 9 rfl rfl)
theorem dJ2_append_34 : decode cJ2_append 34 = .ok (.iconst 1, 1) := dk_4 (dk_at dksJ2_append_1 10 rfl rfl)
theorem dJ2_append_35 : decode cJ2_append 35 = .ok (.iadd, 1) := dk_96 (dk_at dksJ2_append_1 11 rfl rfl)
theorem dJ2_append_36 : decode cJ2_append 36 = .ok (.putfield 79, 3) := dk_181 0 79 (dk_at dksJ2_append_1 12 rfl rfl)
theorem dJ2_append_39 : decode cJ2_append 39 = .ok (.iload_n 1, 1) := dk_27 (dk_at dksJ2_append_1 15 rfl rfl)
theorem dJ2_append_40 : decode cJ2_append 40 = .ok (.i2b, 1) := dk_145 (dk_at dksJ2_append_1 16 rfl rfl)
theorem dJ2_append_41 : decode cJ2_append 41 = .ok (.bastore, 1) := dk_84 (dk_at dksJ2_append_1 17 rfl rfl)
theorem dJ2_append_42 : decode cJ2_append 42 = .ok (.goto 33, 3) := dk_167 0 33 (dk_at dksJ2_append_1 18 rfl rfl)
theorem dJ2_append_45 : decode cJ2_append 45 = .ok (.aload_n 0, 1) := dk_42 (dk_at dksJ2_append_1 21 rfl rfl)
theorem dJ2_append_46 : decode cJ2_append 46 = .ok (.invokevirtual 83, 3) := dk_182 0 83 (dk_at dksJ2_append_2 0 rfl rfl)
theorem dJ2_append_49 : decode cJ2_append 49 = .ok (.ifCond .eq 7, 3) := dk_153 0 7 (dk_at dksJ2_append_2 3 rfl rfl)
theorem dJ2_append_52 : decode cJ2_append 52 = .ok (.aload_n 0, 1) := dk_42 (dk_at dksJ2_append_2 6 rfl rfl)
theorem dJ2_append_53 : decode cJ2_append 53 = .ok (.invokevirtual 195, 3) := dk_182 0 195 (dk_at dksJ2_append_2 7 rfl rfl)
theorem dJ2_append_56 : decode cJ2_append 56 = .ok (.aload_n 0, 1) := dk_42 (dk_at dksJ2_append_2 10 rfl rfl)
theorem dJ2_append_57 : decode cJ2_append 57 = .ok (.getfield 15, 3) := dk_180 0 15 (dk_at dksJ2_append_2 11 rfl rfl)
theorem dJ2_append_60 : decode cJ2_append 60 = .ok (.aload_n 0, 1) := dk_42 (dk_at dksJ2_append_2 14 rfl rfl)
theorem dJ2_append_61 : decode cJ2_append 61 = .ok (.dup, 1) := dk_89 (dk_at dksJ2_append_2 15 rfl rfl)
theorem dJ2_append_62 : decode cJ2_append 62 = .ok (.getfield 79, 3) := dk_180 0 79 (dk_at dksJ2_append_2 16 rfl rfl)
theorem dJ2_append_65 : decode cJ2_append 65 = .ok (.dup_x1, 1) := dk_90 (dk_at dksJ2_append_2 19 rfl rfl)
theorem dJ2_append_66 : decode cJ2_append 66 = .ok (.iconst 1, 1) := dk_4 (dk_at dksJ2_append_2 20 rfl rfl)
theorem dJ2_append_67 : decode cJ2_append 67 = .ok (.iadd, 1) := dk_96 (dk_at dksJ2_append_2 21 rfl rfl)
theorem dJ2_append_68 : decode cJ2_append 68 = .ok (.putfield 79, 3) := dk_181 0 79 (dk_at dksJ2_append_3 0 rfl rfl)
theorem dJ2_append_71 : decode cJ2_append 71 = .ok (.iload_n 1, 1) := dk_27 (dk_at dksJ2_append_3 3 rfl rfl)
theorem dJ2_append_72 : decode cJ2_append 72 = .ok (.invokestatic 197, 3) := dk_184 0 197 (dk_at dksJ2_append_3 4 rfl rfl)
theorem dJ2_append_75 : decode cJ2_append 75 = .ok (.aload_n 0, 1) := dk_42 (dk_at dksJ2_append_3 7 rfl rfl)
theorem dJ2_append_76 : decode cJ2_append 76 = .ok (.areturn, 1) := dk_176 (dk_at dksJ2_append_3 8 rfl rfl)
abbrev cJ3_append : ByteArray := prog_33_method_14_code
def yJ3_append : MethodName := ⟨RJ3, "append", "(C)Ljava/lang/StringBuilder;"⟩
def dkwJ3_append_0 : List UInt8 := [42, 27, 183, 0, 50, 87, 42, 176]
abbrev dktJ3_append_0 : List UInt8 := dkwJ3_append_0 ++ []
theorem dksJ3_append_0 : cJ3_append.data.toList.drop 0 = dktJ3_append_0 := by decide +kernel
theorem dJ3_append_0 : decode cJ3_append 0 = .ok (.aload_n 0, 1) := dk_42 (dk_at dksJ3_append_0 0 rfl rfl)
theorem dJ3_append_1 : decode cJ3_append 1 = .ok (.iload_n 1, 1) := dk_27 (dk_at dksJ3_append_0 1 rfl rfl)
theorem dJ3_append_2 : decode cJ3_append 2 = .ok (.invokespecial 50, 3) := dk_183 0 50 (dk_at dksJ3_append_0 2 rfl rfl)
theorem dJ3_append_5 : decode cJ3_append 5 = .ok (.pop, 1) := dk_87 (dk_at dksJ3_append_0 5 rfl rfl)
theorem dJ3_append_6 : decode cJ3_append 6 = .ok (.aload_n 0, 1) := dk_42 (dk_at dksJ3_append_0 6 rfl rfl)
theorem dJ3_append_7 : decode cJ3_append 7 = .ok (.areturn, 1) := dk_176 (dk_at dksJ3_append_0 7 rfl rfl)
abbrev cJ2_getValue : ByteArray := prog_12_method_64_code
def yJ2_getValue : MethodName := ⟨RJ2, "getValue", "()[B"⟩
theorem dJ2_getValue_0 : decode cJ2_getValue 0 = .ok (.aload_n 0, 1) := by decide +kernel
theorem dJ2_getValue_1 : decode cJ2_getValue 1 = .ok (.getfield 15, 3) := by decide +kernel
theorem dJ2_getValue_4 : decode cJ2_getValue 4 = .ok (.areturn, 1) := by decide +kernel
abbrev cJ2_length : ByteArray := prog_12_method_6_code
def yJ2_length : MethodName := ⟨RJ2, "length", "()I"⟩
theorem dJ2_length_0 : decode cJ2_length 0 = .ok (.aload_n 0, 1) := by decide +kernel
theorem dJ2_length_1 : decode cJ2_length 1 = .ok (.getfield 79, 3) := by decide +kernel
theorem dJ2_length_4 : decode cJ2_length 4 = .ok (.ireturn, 1) := by decide +kernel
abbrev cJ3_length : ByteArray := prog_33_method_93_code
def yJ3_length : MethodName := ⟨RJ3, "length", "()I"⟩
theorem dJ3_length_0 : decode cJ3_length 0 = .ok (.aload_n 0, 1) := by decide +kernel
theorem dJ3_length_1 : decode cJ3_length 1 = .ok (.invokespecial 343, 3) := by decide +kernel
theorem dJ3_length_4 : decode cJ3_length 4 = .ok (.ireturn, 1) := by decide +kernel
abbrev cJ20_stringSize : ByteArray := prog_25_method_13_code
def yJ20_stringSize : MethodName := ⟨RJ20, "stringSize", "(I)I"⟩
def dkwJ20_stringSize_1 : List UInt8 := [164, 0, 7, 29, 27, 96, 172, 16, 10, 28, 104, 61, 132, 3, 1, 167, 255, 233, 16, 10, 27, 96, 172]
abbrev dktJ20_stringSize_1 : List UInt8 := dkwJ20_stringSize_1 ++ []
def dkwJ20_stringSize_0 : List UInt8 := [4, 60, 26, 155, 0, 8, 3, 60, 26, 116, 59, 16, 246, 61, 4, 62, 29, 16, 10, 162, 0, 23, 26, 28]
abbrev dktJ20_stringSize_0 : List UInt8 := dkwJ20_stringSize_0 ++ dktJ20_stringSize_1
theorem dksJ20_stringSize_0 : cJ20_stringSize.data.toList.drop 0 = dktJ20_stringSize_0 := by decide +kernel
theorem dksJ20_stringSize_1 : cJ20_stringSize.data.toList.drop 24 = dktJ20_stringSize_1 := dk_seg dksJ20_stringSize_0 24 rfl rfl
theorem dJ20_stringSize_0 : decode cJ20_stringSize 0 = .ok (.iconst 1, 1) := dk_4 (dk_at dksJ20_stringSize_0 0 rfl rfl)
theorem dJ20_stringSize_1 : decode cJ20_stringSize 1 = .ok (.istore_n 1, 1) := dk_60 (dk_at dksJ20_stringSize_0 1 rfl rfl)
theorem dJ20_stringSize_2 : decode cJ20_stringSize 2 = .ok (.iload_n 0, 1) := dk_26 (dk_at dksJ20_stringSize_0 2 rfl rfl)
theorem dJ20_stringSize_3 : decode cJ20_stringSize 3 = .ok (.ifCond .lt 8, 3) := dk_155 0 8 (dk_at dksJ20_stringSize_0 3 rfl rfl)
theorem dJ20_stringSize_6 : decode cJ20_stringSize 6 = .ok (.iconst 0, 1) := dk_3 (dk_at dksJ20_stringSize_0 6 rfl rfl)
theorem dJ20_stringSize_7 : decode cJ20_stringSize 7 = .ok (.istore_n 1, 1) := dk_60 (dk_at dksJ20_stringSize_0 7 rfl rfl)
theorem dJ20_stringSize_8 : decode cJ20_stringSize 8 = .ok (.iload_n 0, 1) := dk_26 (dk_at dksJ20_stringSize_0 8 rfl rfl)
theorem dJ20_stringSize_9 : decode cJ20_stringSize 9 = .ok (.ineg, 1) := dk_116 (dk_at dksJ20_stringSize_0 9 rfl rfl)
theorem dJ20_stringSize_10 : decode cJ20_stringSize 10 = .ok (.istore_n 0, 1) := dk_59 (dk_at dksJ20_stringSize_0 10 rfl rfl)
theorem dJ20_stringSize_11 : decode cJ20_stringSize 11 = .ok (.bipush (-10), 2) := dk_16 246 (dk_at dksJ20_stringSize_0 11 rfl rfl)
theorem dJ20_stringSize_13 : decode cJ20_stringSize 13 = .ok (.istore_n 2, 1) := dk_61 (dk_at dksJ20_stringSize_0 13 rfl rfl)
theorem dJ20_stringSize_14 : decode cJ20_stringSize 14 = .ok (.iconst 1, 1) := dk_4 (dk_at dksJ20_stringSize_0 14 rfl rfl)
theorem dJ20_stringSize_15 : decode cJ20_stringSize 15 = .ok (.istore_n 3, 1) := dk_62 (dk_at dksJ20_stringSize_0 15 rfl rfl)
theorem dJ20_stringSize_16 : decode cJ20_stringSize 16 = .ok (.iload_n 3, 1) := dk_29 (dk_at dksJ20_stringSize_0 16 rfl rfl)
theorem dJ20_stringSize_17 : decode cJ20_stringSize 17 = .ok (.bipush 10, 2) := dk_16 10 (dk_at dksJ20_stringSize_0 17 rfl rfl)
theorem dJ20_stringSize_19 : decode cJ20_stringSize 19 = .ok (.if_icmp .ge 23, 3) := dk_162 0 23 (dk_at dksJ20_stringSize_0 19 rfl rfl)
theorem dJ20_stringSize_22 : decode cJ20_stringSize 22 = .ok (.iload_n 0, 1) := dk_26 (dk_at dksJ20_stringSize_0 22 rfl rfl)
theorem dJ20_stringSize_23 : decode cJ20_stringSize 23 = .ok (.iload_n 2, 1) := dk_28 (dk_at dksJ20_stringSize_0 23 rfl rfl)
theorem dJ20_stringSize_24 : decode cJ20_stringSize 24 = .ok (.if_icmp .le 7, 3) := dk_164 0 7 (dk_at dksJ20_stringSize_1 0 rfl rfl)
theorem dJ20_stringSize_27 : decode cJ20_stringSize 27 = .ok (.iload_n 3, 1) := dk_29 (dk_at dksJ20_stringSize_1 3 rfl rfl)
theorem dJ20_stringSize_28 : decode cJ20_stringSize 28 = .ok (.iload_n 1, 1) := dk_27 (dk_at dksJ20_stringSize_1 4 rfl rfl)
theorem dJ20_stringSize_29 : decode cJ20_stringSize 29 = .ok (.iadd, 1) := dk_96 (dk_at dksJ20_stringSize_1 5 rfl rfl)
theorem dJ20_stringSize_30 : decode cJ20_stringSize 30 = .ok (.ireturn, 1) := dk_172 (dk_at dksJ20_stringSize_1 6 rfl rfl)
theorem dJ20_stringSize_31 : decode cJ20_stringSize 31 = .ok (.bipush 10, 2) := dk_16 10 (dk_at dksJ20_stringSize_1 7 rfl rfl)
theorem dJ20_stringSize_33 : decode cJ20_stringSize 33 = .ok (.iload_n 2, 1) := dk_28 (dk_at dksJ20_stringSize_1 9 rfl rfl)
theorem dJ20_stringSize_34 : decode cJ20_stringSize 34 = .ok (.imul, 1) := dk_104 (dk_at dksJ20_stringSize_1 10 rfl rfl)
theorem dJ20_stringSize_35 : decode cJ20_stringSize 35 = .ok (.istore_n 2, 1) := dk_61 (dk_at dksJ20_stringSize_1 11 rfl rfl)
theorem dJ20_stringSize_36 : decode cJ20_stringSize 36 = .ok (.iinc 3 1, 3) := dk_132 3 1 (dk_at dksJ20_stringSize_1 12 rfl rfl)
theorem dJ20_stringSize_39 : decode cJ20_stringSize 39 = .ok (.goto (-23), 3) := dk_167 255 233 (dk_at dksJ20_stringSize_1 15 rfl rfl)
theorem dJ20_stringSize_42 : decode cJ20_stringSize 42 = .ok (.bipush 10, 2) := dk_16 10 (dk_at dksJ20_stringSize_1 18 rfl rfl)
theorem dJ20_stringSize_44 : decode cJ20_stringSize 44 = .ok (.iload_n 1, 1) := dk_27 (dk_at dksJ20_stringSize_1 20 rfl rfl)
theorem dJ20_stringSize_45 : decode cJ20_stringSize 45 = .ok (.iadd, 1) := dk_96 (dk_at dksJ20_stringSize_1 21 rfl rfl)
theorem dJ20_stringSize_46 : decode cJ20_stringSize 46 = .ok (.ireturn, 1) := dk_172 (dk_at dksJ20_stringSize_1 22 rfl rfl)
abbrev cJ20_getChars : ByteArray := prog_25_method_12_code
def yJ20_getChars : MethodName := ⟨RJ20, "getChars", "(II[B)I"⟩
def dkwJ20_getChars_5 : List UInt8 := [16, 45, 84, 21, 5, 172]
abbrev dktJ20_getChars_5 : List UInt8 := dkwJ20_getChars_5 ++ []
def dkwJ20_getChars_4 : List UInt8 := [132, 5, 255, 21, 5, 178, 0, 87, 26, 116, 51, 84, 21, 6, 153, 0, 12, 44, 132, 5, 255, 21, 5]
abbrev dktJ20_getChars_4 : List UInt8 := dkwJ20_getChars_4 ++ dktJ20_getChars_5
def dkwJ20_getChars_3 : List UInt8 := [167, 255, 209, 44, 132, 5, 255, 21, 5, 178, 0, 83, 26, 116, 51, 84, 26, 16, 247, 162, 0, 16, 44]
abbrev dktJ20_getChars_3 : List UInt8 := dkwJ20_getChars_3 ++ dktJ20_getChars_4
def dkwJ20_getChars_2 : List UInt8 := [21, 5, 178, 0, 83, 21, 4, 51, 84, 44, 132, 5, 255, 21, 5, 178, 0, 87, 21, 4, 51, 84]
abbrev dktJ20_getChars_2 : List UInt8 := dkwJ20_getChars_2 ++ dktJ20_getChars_3
def dkwJ20_getChars_1 : List UInt8 := [16, 156, 163, 0, 47, 26, 16, 100, 108, 62, 29, 16, 100, 104, 26, 100, 54, 4, 29, 59, 44, 132, 5, 255]
abbrev dktJ20_getChars_1 : List UInt8 := dkwJ20_getChars_1 ++ dktJ20_getChars_2
def dkwJ20_getChars_0 : List UInt8 := [27, 54, 5, 26, 156, 0, 7, 4, 167, 0, 4, 3, 54, 6, 21, 6, 154, 0, 6, 26, 116, 59, 26]
abbrev dktJ20_getChars_0 : List UInt8 := dkwJ20_getChars_0 ++ dktJ20_getChars_1
theorem dksJ20_getChars_0 : cJ20_getChars.data.toList.drop 0 = dktJ20_getChars_0 := by decide +kernel
theorem dksJ20_getChars_1 : cJ20_getChars.data.toList.drop 23 = dktJ20_getChars_1 := dk_seg dksJ20_getChars_0 23 rfl rfl
theorem dksJ20_getChars_2 : cJ20_getChars.data.toList.drop 47 = dktJ20_getChars_2 := dk_seg dksJ20_getChars_1 24 rfl rfl
theorem dksJ20_getChars_3 : cJ20_getChars.data.toList.drop 69 = dktJ20_getChars_3 := dk_seg dksJ20_getChars_2 22 rfl rfl
theorem dksJ20_getChars_4 : cJ20_getChars.data.toList.drop 92 = dktJ20_getChars_4 := dk_seg dksJ20_getChars_3 23 rfl rfl
theorem dksJ20_getChars_5 : cJ20_getChars.data.toList.drop 115 = dktJ20_getChars_5 := dk_seg dksJ20_getChars_4 23 rfl rfl
theorem dJ20_getChars_0 : decode cJ20_getChars 0 = .ok (.iload_n 1, 1) := dk_27 (dk_at dksJ20_getChars_0 0 rfl rfl)
theorem dJ20_getChars_1 : decode cJ20_getChars 1 = .ok (.istore 5, 2) := dk_54 5 (dk_at dksJ20_getChars_0 1 rfl rfl)
theorem dJ20_getChars_3 : decode cJ20_getChars 3 = .ok (.iload_n 0, 1) := dk_26 (dk_at dksJ20_getChars_0 3 rfl rfl)
theorem dJ20_getChars_4 : decode cJ20_getChars 4 = .ok (.ifCond .ge 7, 3) := dk_156 0 7 (dk_at dksJ20_getChars_0 4 rfl rfl)
theorem dJ20_getChars_7 : decode cJ20_getChars 7 = .ok (.iconst 1, 1) := dk_4 (dk_at dksJ20_getChars_0 7 rfl rfl)
theorem dJ20_getChars_8 : decode cJ20_getChars 8 = .ok (.goto 4, 3) := dk_167 0 4 (dk_at dksJ20_getChars_0 8 rfl rfl)
theorem dJ20_getChars_11 : decode cJ20_getChars 11 = .ok (.iconst 0, 1) := dk_3 (dk_at dksJ20_getChars_0 11 rfl rfl)
theorem dJ20_getChars_12 : decode cJ20_getChars 12 = .ok (.istore 6, 2) := dk_54 6 (dk_at dksJ20_getChars_0 12 rfl rfl)
theorem dJ20_getChars_14 : decode cJ20_getChars 14 = .ok (.iload 6, 2) := dk_21 6 (dk_at dksJ20_getChars_0 14 rfl rfl)
theorem dJ20_getChars_16 : decode cJ20_getChars 16 = .ok (.ifCond .ne 6, 3) := dk_154 0 6 (dk_at dksJ20_getChars_0 16 rfl rfl)
theorem dJ20_getChars_19 : decode cJ20_getChars 19 = .ok (.iload_n 0, 1) := dk_26 (dk_at dksJ20_getChars_0 19 rfl rfl)
theorem dJ20_getChars_20 : decode cJ20_getChars 20 = .ok (.ineg, 1) := dk_116 (dk_at dksJ20_getChars_0 20 rfl rfl)
theorem dJ20_getChars_21 : decode cJ20_getChars 21 = .ok (.istore_n 0, 1) := dk_59 (dk_at dksJ20_getChars_0 21 rfl rfl)
theorem dJ20_getChars_22 : decode cJ20_getChars 22 = .ok (.iload_n 0, 1) := dk_26 (dk_at dksJ20_getChars_0 22 rfl rfl)
theorem dJ20_getChars_23 : decode cJ20_getChars 23 = .ok (.bipush (-100), 2) := dk_16 156 (dk_at dksJ20_getChars_1 0 rfl rfl)
theorem dJ20_getChars_25 : decode cJ20_getChars 25 = .ok (.if_icmp .gt 47, 3) := dk_163 0 47 (dk_at dksJ20_getChars_1 2 rfl rfl)
theorem dJ20_getChars_28 : decode cJ20_getChars 28 = .ok (.iload_n 0, 1) := dk_26 (dk_at dksJ20_getChars_1 5 rfl rfl)
theorem dJ20_getChars_29 : decode cJ20_getChars 29 = .ok (.bipush 100, 2) := dk_16 100 (dk_at dksJ20_getChars_1 6 rfl rfl)
theorem dJ20_getChars_31 : decode cJ20_getChars 31 = .ok (.idiv, 1) := dk_108 (dk_at dksJ20_getChars_1 8 rfl rfl)
theorem dJ20_getChars_32 : decode cJ20_getChars 32 = .ok (.istore_n 3, 1) := dk_62 (dk_at dksJ20_getChars_1 9 rfl rfl)
theorem dJ20_getChars_33 : decode cJ20_getChars 33 = .ok (.iload_n 3, 1) := dk_29 (dk_at dksJ20_getChars_1 10 rfl rfl)
theorem dJ20_getChars_34 : decode cJ20_getChars 34 = .ok (.bipush 100, 2) := dk_16 100 (dk_at dksJ20_getChars_1 11 rfl rfl)
theorem dJ20_getChars_36 : decode cJ20_getChars 36 = .ok (.imul, 1) := dk_104 (dk_at dksJ20_getChars_1 13 rfl rfl)
theorem dJ20_getChars_37 : decode cJ20_getChars 37 = .ok (.iload_n 0, 1) := dk_26 (dk_at dksJ20_getChars_1 14 rfl rfl)
theorem dJ20_getChars_38 : decode cJ20_getChars 38 = .ok (.isub, 1) := dk_100 (dk_at dksJ20_getChars_1 15 rfl rfl)
theorem dJ20_getChars_39 : decode cJ20_getChars 39 = .ok (.istore 4, 2) := dk_54 4 (dk_at dksJ20_getChars_1 16 rfl rfl)
theorem dJ20_getChars_41 : decode cJ20_getChars 41 = .ok (.iload_n 3, 1) := dk_29 (dk_at dksJ20_getChars_1 18 rfl rfl)
theorem dJ20_getChars_42 : decode cJ20_getChars 42 = .ok (.istore_n 0, 1) := dk_59 (dk_at dksJ20_getChars_1 19 rfl rfl)
theorem dJ20_getChars_43 : decode cJ20_getChars 43 = .ok (.aload_n 2, 1) := dk_44 (dk_at dksJ20_getChars_1 20 rfl rfl)
theorem dJ20_getChars_44 : decode cJ20_getChars 44 = .ok (.iinc 5 (-1), 3) := dk_132 5 255 (dk_at dksJ20_getChars_1 21 rfl rfl)
theorem dJ20_getChars_47 : decode cJ20_getChars 47 = .ok (.iload 5, 2) := dk_21 5 (dk_at dksJ20_getChars_2 0 rfl rfl)
theorem dJ20_getChars_49 : decode cJ20_getChars 49 = .ok (.getstatic 83, 3) := dk_178 0 83 (dk_at dksJ20_getChars_2 2 rfl rfl)
theorem dJ20_getChars_52 : decode cJ20_getChars 52 = .ok (.iload 4, 2) := dk_21 4 (dk_at dksJ20_getChars_2 5 rfl rfl)
theorem dJ20_getChars_54 : decode cJ20_getChars 54 = .ok (.baload, 1) := dk_51 (dk_at dksJ20_getChars_2 7 rfl rfl)
theorem dJ20_getChars_55 : decode cJ20_getChars 55 = .ok (.bastore, 1) := dk_84 (dk_at dksJ20_getChars_2 8 rfl rfl)
theorem dJ20_getChars_56 : decode cJ20_getChars 56 = .ok (.aload_n 2, 1) := dk_44 (dk_at dksJ20_getChars_2 9 rfl rfl)
theorem dJ20_getChars_57 : decode cJ20_getChars 57 = .ok (.iinc 5 (-1), 3) := dk_132 5 255 (dk_at dksJ20_getChars_2 10 rfl rfl)
theorem dJ20_getChars_60 : decode cJ20_getChars 60 = .ok (.iload 5, 2) := dk_21 5 (dk_at dksJ20_getChars_2 13 rfl rfl)
theorem dJ20_getChars_62 : decode cJ20_getChars 62 = .ok (.getstatic 87, 3) := dk_178 0 87 (dk_at dksJ20_getChars_2 15 rfl rfl)
theorem dJ20_getChars_65 : decode cJ20_getChars 65 = .ok (.iload 4, 2) := dk_21 4 (dk_at dksJ20_getChars_2 18 rfl rfl)
theorem dJ20_getChars_67 : decode cJ20_getChars 67 = .ok (.baload, 1) := dk_51 (dk_at dksJ20_getChars_2 20 rfl rfl)
theorem dJ20_getChars_68 : decode cJ20_getChars 68 = .ok (.bastore, 1) := dk_84 (dk_at dksJ20_getChars_2 21 rfl rfl)
theorem dJ20_getChars_69 : decode cJ20_getChars 69 = .ok (.goto (-47), 3) := dk_167 255 209 (dk_at dksJ20_getChars_3 0 rfl rfl)
theorem dJ20_getChars_72 : decode cJ20_getChars 72 = .ok (.aload_n 2, 1) := dk_44 (dk_at dksJ20_getChars_3 3 rfl rfl)
theorem dJ20_getChars_73 : decode cJ20_getChars 73 = .ok (.iinc 5 (-1), 3) := dk_132 5 255 (dk_at dksJ20_getChars_3 4 rfl rfl)
theorem dJ20_getChars_76 : decode cJ20_getChars 76 = .ok (.iload 5, 2) := dk_21 5 (dk_at dksJ20_getChars_3 7 rfl rfl)
theorem dJ20_getChars_78 : decode cJ20_getChars 78 = .ok (.getstatic 83, 3) := dk_178 0 83 (dk_at dksJ20_getChars_3 9 rfl rfl)
theorem dJ20_getChars_81 : decode cJ20_getChars 81 = .ok (.iload_n 0, 1) := dk_26 (dk_at dksJ20_getChars_3 12 rfl rfl)
theorem dJ20_getChars_82 : decode cJ20_getChars 82 = .ok (.ineg, 1) := dk_116 (dk_at dksJ20_getChars_3 13 rfl rfl)
theorem dJ20_getChars_83 : decode cJ20_getChars 83 = .ok (.baload, 1) := dk_51 (dk_at dksJ20_getChars_3 14 rfl rfl)
theorem dJ20_getChars_84 : decode cJ20_getChars 84 = .ok (.bastore, 1) := dk_84 (dk_at dksJ20_getChars_3 15 rfl rfl)
theorem dJ20_getChars_85 : decode cJ20_getChars 85 = .ok (.iload_n 0, 1) := dk_26 (dk_at dksJ20_getChars_3 16 rfl rfl)
theorem dJ20_getChars_86 : decode cJ20_getChars 86 = .ok (.bipush (-9), 2) := dk_16 247 (dk_at dksJ20_getChars_3 17 rfl rfl)
theorem dJ20_getChars_88 : decode cJ20_getChars 88 = .ok (.if_icmp .ge 16, 3) := dk_162 0 16 (dk_at dksJ20_getChars_3 19 rfl rfl)
theorem dJ20_getChars_91 : decode cJ20_getChars 91 = .ok (.aload_n 2, 1) := dk_44 (dk_at dksJ20_getChars_3 22 rfl rfl)
theorem dJ20_getChars_92 : decode cJ20_getChars 92 = .ok (.iinc 5 (-1), 3) := dk_132 5 255 (dk_at dksJ20_getChars_4 0 rfl rfl)
theorem dJ20_getChars_95 : decode cJ20_getChars 95 = .ok (.iload 5, 2) := dk_21 5 (dk_at dksJ20_getChars_4 3 rfl rfl)
theorem dJ20_getChars_97 : decode cJ20_getChars 97 = .ok (.getstatic 87, 3) := dk_178 0 87 (dk_at dksJ20_getChars_4 5 rfl rfl)
theorem dJ20_getChars_100 : decode cJ20_getChars 100 = .ok (.iload_n 0, 1) := dk_26 (dk_at dksJ20_getChars_4 8 rfl rfl)
theorem dJ20_getChars_101 : decode cJ20_getChars 101 = .ok (.ineg, 1) := dk_116 (dk_at dksJ20_getChars_4 9 rfl rfl)
theorem dJ20_getChars_102 : decode cJ20_getChars 102 = .ok (.baload, 1) := dk_51 (dk_at dksJ20_getChars_4 10 rfl rfl)
theorem dJ20_getChars_103 : decode cJ20_getChars 103 = .ok (.bastore, 1) := dk_84 (dk_at dksJ20_getChars_4 11 rfl rfl)
theorem dJ20_getChars_104 : decode cJ20_getChars 104 = .ok (.iload 6, 2) := dk_21 6 (dk_at dksJ20_getChars_4 12 rfl rfl)
theorem dJ20_getChars_106 : decode cJ20_getChars 106 = .ok (.ifCond .eq 12, 3) := dk_153 0 12 (dk_at dksJ20_getChars_4 14 rfl rfl)
theorem dJ20_getChars_109 : decode cJ20_getChars 109 = .ok (.aload_n 2, 1) := dk_44 (dk_at dksJ20_getChars_4 17 rfl rfl)
theorem dJ20_getChars_110 : decode cJ20_getChars 110 = .ok (.iinc 5 (-1), 3) := dk_132 5 255 (dk_at dksJ20_getChars_4 18 rfl rfl)
theorem dJ20_getChars_113 : decode cJ20_getChars 113 = .ok (.iload 5, 2) := dk_21 5 (dk_at dksJ20_getChars_4 21 rfl rfl)
theorem dJ20_getChars_115 : decode cJ20_getChars 115 = .ok (.bipush 45, 2) := dk_16 45 (dk_at dksJ20_getChars_5 0 rfl rfl)
theorem dJ20_getChars_117 : decode cJ20_getChars 117 = .ok (.bastore, 1) := dk_84 (dk_at dksJ20_getChars_5 2 rfl rfl)
theorem dJ20_getChars_118 : decode cJ20_getChars 118 = .ok (.iload 5, 2) := dk_21 5 (dk_at dksJ20_getChars_5 3 rfl rfl)
theorem dJ20_getChars_120 : decode cJ20_getChars 120 = .ok (.ireturn, 1) := dk_172 (dk_at dksJ20_getChars_5 5 rfl rfl)
abbrev cJ17_checkFromToIndex : ByteArray := prog_66_method_12_code
def yJ17_checkFromToIndex : MethodName := ⟨RJ17, "checkFromToIndex", "(IIILjava/util/function/BiFunction;)I"⟩
def dkwJ17_checkFromToIndex_0 : List UInt8 := [26, 155, 0, 13, 26, 27, 163, 0, 8, 27, 28, 164, 0, 11, 45, 26, 27, 28, 184, 0, 99, 191, 26, 172]
abbrev dktJ17_checkFromToIndex_0 : List UInt8 := dkwJ17_checkFromToIndex_0 ++ []
theorem dksJ17_checkFromToIndex_0 : cJ17_checkFromToIndex.data.toList.drop 0 = dktJ17_checkFromToIndex_0 := by decide +kernel
theorem dJ17_checkFromToIndex_0 : decode cJ17_checkFromToIndex 0 = .ok (.iload_n 0, 1) := dk_26 (dk_at dksJ17_checkFromToIndex_0 0 rfl rfl)
theorem dJ17_checkFromToIndex_1 : decode cJ17_checkFromToIndex 1 = .ok (.ifCond .lt 13, 3) := dk_155 0 13 (dk_at dksJ17_checkFromToIndex_0 1 rfl rfl)
theorem dJ17_checkFromToIndex_4 : decode cJ17_checkFromToIndex 4 = .ok (.iload_n 0, 1) := dk_26 (dk_at dksJ17_checkFromToIndex_0 4 rfl rfl)
theorem dJ17_checkFromToIndex_5 : decode cJ17_checkFromToIndex 5 = .ok (.iload_n 1, 1) := dk_27 (dk_at dksJ17_checkFromToIndex_0 5 rfl rfl)
theorem dJ17_checkFromToIndex_6 : decode cJ17_checkFromToIndex 6 = .ok (.if_icmp .gt 8, 3) := dk_163 0 8 (dk_at dksJ17_checkFromToIndex_0 6 rfl rfl)
theorem dJ17_checkFromToIndex_9 : decode cJ17_checkFromToIndex 9 = .ok (.iload_n 1, 1) := dk_27 (dk_at dksJ17_checkFromToIndex_0 9 rfl rfl)
theorem dJ17_checkFromToIndex_10 : decode cJ17_checkFromToIndex 10 = .ok (.iload_n 2, 1) := dk_28 (dk_at dksJ17_checkFromToIndex_0 10 rfl rfl)
theorem dJ17_checkFromToIndex_11 : decode cJ17_checkFromToIndex 11 = .ok (.if_icmp .le 11, 3) := dk_164 0 11 (dk_at dksJ17_checkFromToIndex_0 11 rfl rfl)
theorem dJ17_checkFromToIndex_14 : decode cJ17_checkFromToIndex 14 = .ok (.aload_n 3, 1) := dk_45 (dk_at dksJ17_checkFromToIndex_0 14 rfl rfl)
theorem dJ17_checkFromToIndex_15 : decode cJ17_checkFromToIndex 15 = .ok (.iload_n 0, 1) := dk_26 (dk_at dksJ17_checkFromToIndex_0 15 rfl rfl)
theorem dJ17_checkFromToIndex_16 : decode cJ17_checkFromToIndex 16 = .ok (.iload_n 1, 1) := dk_27 (dk_at dksJ17_checkFromToIndex_0 16 rfl rfl)
theorem dJ17_checkFromToIndex_17 : decode cJ17_checkFromToIndex 17 = .ok (.iload_n 2, 1) := dk_28 (dk_at dksJ17_checkFromToIndex_0 17 rfl rfl)
theorem dJ17_checkFromToIndex_18 : decode cJ17_checkFromToIndex 18 = .ok (.invokestatic 99, 3) := dk_184 0 99 (dk_at dksJ17_checkFromToIndex_0 18 rfl rfl)
theorem dJ17_checkFromToIndex_21 : decode cJ17_checkFromToIndex 21 = .ok (.athrow, 1) := dk_191 (dk_at dksJ17_checkFromToIndex_0 21 rfl rfl)
theorem dJ17_checkFromToIndex_22 : decode cJ17_checkFromToIndex 22 = .ok (.iload_n 0, 1) := dk_26 (dk_at dksJ17_checkFromToIndex_0 22 rfl rfl)
theorem dJ17_checkFromToIndex_23 : decode cJ17_checkFromToIndex 23 = .ok (.ireturn, 1) := dk_172 (dk_at dksJ17_checkFromToIndex_0 23 rfl rfl)
abbrev cJ4_checkBoundsBeginEnd : ByteArray := prog_32_method_158_code
def yJ4_checkBoundsBeginEnd : MethodName := ⟨RJ4, "checkBoundsBeginEnd", "(III)V"⟩
def dkwJ4_checkBoundsBeginEnd_0 : List UInt8 := [26, 27, 28, 178, 4, 29, 184, 4, 38, 87, 177]
abbrev dktJ4_checkBoundsBeginEnd_0 : List UInt8 := dkwJ4_checkBoundsBeginEnd_0 ++ []
theorem dksJ4_checkBoundsBeginEnd_0 : cJ4_checkBoundsBeginEnd.data.toList.drop 0 = dktJ4_checkBoundsBeginEnd_0 := by decide +kernel
theorem dJ4_checkBoundsBeginEnd_0 : decode cJ4_checkBoundsBeginEnd 0 = .ok (.iload_n 0, 1) := dk_26 (dk_at dksJ4_checkBoundsBeginEnd_0 0 rfl rfl)
theorem dJ4_checkBoundsBeginEnd_1 : decode cJ4_checkBoundsBeginEnd 1 = .ok (.iload_n 1, 1) := dk_27 (dk_at dksJ4_checkBoundsBeginEnd_0 1 rfl rfl)
theorem dJ4_checkBoundsBeginEnd_2 : decode cJ4_checkBoundsBeginEnd 2 = .ok (.iload_n 2, 1) := dk_28 (dk_at dksJ4_checkBoundsBeginEnd_0 2 rfl rfl)
theorem dJ4_checkBoundsBeginEnd_3 : decode cJ4_checkBoundsBeginEnd 3 = .ok (.getstatic 1053, 3) := dk_178 4 29 (dk_at dksJ4_checkBoundsBeginEnd_0 3 rfl rfl)
theorem dJ4_checkBoundsBeginEnd_6 : decode cJ4_checkBoundsBeginEnd 6 = .ok (.invokestatic 1062, 3) := dk_184 4 38 (dk_at dksJ4_checkBoundsBeginEnd_0 6 rfl rfl)
theorem dJ4_checkBoundsBeginEnd_9 : decode cJ4_checkBoundsBeginEnd 9 = .ok (.pop, 1) := dk_87 (dk_at dksJ4_checkBoundsBeginEnd_0 9 rfl rfl)
theorem dJ4_checkBoundsBeginEnd_10 : decode cJ4_checkBoundsBeginEnd 10 = .ok (.return_, 1) := dk_177 (dk_at dksJ4_checkBoundsBeginEnd_0 10 rfl rfl)
abbrev cJ5_checkBoundsBeginEnd : ByteArray := prog_36_method_93_code
def yJ5_checkBoundsBeginEnd : MethodName := ⟨RJ5, "checkBoundsBeginEnd", "(II[B)V"⟩
def dkwJ5_checkBoundsBeginEnd_0 : List UInt8 := [26, 27, 44, 184, 0, 48, 184, 0, 241, 177]
abbrev dktJ5_checkBoundsBeginEnd_0 : List UInt8 := dkwJ5_checkBoundsBeginEnd_0 ++ []
theorem dksJ5_checkBoundsBeginEnd_0 : cJ5_checkBoundsBeginEnd.data.toList.drop 0 = dktJ5_checkBoundsBeginEnd_0 := by decide +kernel
theorem dJ5_checkBoundsBeginEnd_0 : decode cJ5_checkBoundsBeginEnd 0 = .ok (.iload_n 0, 1) := dk_26 (dk_at dksJ5_checkBoundsBeginEnd_0 0 rfl rfl)
theorem dJ5_checkBoundsBeginEnd_1 : decode cJ5_checkBoundsBeginEnd 1 = .ok (.iload_n 1, 1) := dk_27 (dk_at dksJ5_checkBoundsBeginEnd_0 1 rfl rfl)
theorem dJ5_checkBoundsBeginEnd_2 : decode cJ5_checkBoundsBeginEnd 2 = .ok (.aload_n 2, 1) := dk_44 (dk_at dksJ5_checkBoundsBeginEnd_0 2 rfl rfl)
theorem dJ5_checkBoundsBeginEnd_3 : decode cJ5_checkBoundsBeginEnd 3 = .ok (.invokestatic 48, 3) := dk_184 0 48 (dk_at dksJ5_checkBoundsBeginEnd_0 3 rfl rfl)
theorem dJ5_checkBoundsBeginEnd_6 : decode cJ5_checkBoundsBeginEnd 6 = .ok (.invokestatic 241, 3) := dk_184 0 241 (dk_at dksJ5_checkBoundsBeginEnd_0 6 rfl rfl)
theorem dJ5_checkBoundsBeginEnd_9 : decode cJ5_checkBoundsBeginEnd 9 = .ok (.return_, 1) := dk_177 (dk_at dksJ5_checkBoundsBeginEnd_0 9 rfl rfl)
abbrev cJ5_getChars_2 : ByteArray := prog_36_method_89_code
def yJ5_getChars_2 : MethodName := ⟨RJ5, "getChars", "(II[B)I"⟩
def dkwJ5_getChars_2_5 : List UInt8 := [132, 5, 255, 21, 5, 16, 45, 184, 0, 111, 21, 5, 172]
abbrev dktJ5_getChars_2_5 : List UInt8 := dkwJ5_getChars_2_5 ++ []
def dkwJ5_getChars_2_4 : List UInt8 := [162, 0, 18, 44, 132, 5, 255, 21, 5, 178, 1, 151, 26, 116, 51, 184, 0, 111, 21, 6, 153, 0, 14, 44]
abbrev dktJ5_getChars_2_4 : List UInt8 := dkwJ5_getChars_2_4 ++ dktJ5_getChars_2_5
def dkwJ5_getChars_2_3 : List UInt8 := [184, 0, 111, 167, 255, 205, 44, 132, 5, 255, 21, 5, 178, 1, 147, 26, 116, 51, 184, 0, 111, 26, 16, 247]
abbrev dktJ5_getChars_2_3 : List UInt8 := dkwJ5_getChars_2_3 ++ dktJ5_getChars_2_4
def dkwJ5_getChars_2_2 : List UInt8 := [21, 5, 178, 1, 147, 21, 4, 51, 184, 0, 111, 44, 132, 5, 255, 21, 5, 178, 1, 151, 21, 4, 51]
abbrev dktJ5_getChars_2_2 : List UInt8 := dkwJ5_getChars_2_2 ++ dktJ5_getChars_2_3
def dkwJ5_getChars_2_1 : List UInt8 := [16, 156, 163, 0, 51, 26, 16, 100, 108, 62, 29, 16, 100, 104, 26, 100, 54, 4, 29, 59, 44, 132, 5, 255]
abbrev dktJ5_getChars_2_1 : List UInt8 := dkwJ5_getChars_2_1 ++ dktJ5_getChars_2_2
def dkwJ5_getChars_2_0 : List UInt8 := [27, 54, 5, 26, 156, 0, 7, 4, 167, 0, 4, 3, 54, 6, 21, 6, 154, 0, 6, 26, 116, 59, 26]
abbrev dktJ5_getChars_2_0 : List UInt8 := dkwJ5_getChars_2_0 ++ dktJ5_getChars_2_1
theorem dksJ5_getChars_2_0 : cJ5_getChars_2.data.toList.drop 0 = dktJ5_getChars_2_0 := by decide +kernel
theorem dksJ5_getChars_2_1 : cJ5_getChars_2.data.toList.drop 23 = dktJ5_getChars_2_1 := dk_seg dksJ5_getChars_2_0 23 rfl rfl
theorem dksJ5_getChars_2_2 : cJ5_getChars_2.data.toList.drop 47 = dktJ5_getChars_2_2 := dk_seg dksJ5_getChars_2_1 24 rfl rfl
theorem dksJ5_getChars_2_3 : cJ5_getChars_2.data.toList.drop 70 = dktJ5_getChars_2_3 := dk_seg dksJ5_getChars_2_2 23 rfl rfl
theorem dksJ5_getChars_2_4 : cJ5_getChars_2.data.toList.drop 94 = dktJ5_getChars_2_4 := dk_seg dksJ5_getChars_2_3 24 rfl rfl
theorem dksJ5_getChars_2_5 : cJ5_getChars_2.data.toList.drop 118 = dktJ5_getChars_2_5 := dk_seg dksJ5_getChars_2_4 24 rfl rfl
theorem dJ5_getChars_2_0 : decode cJ5_getChars_2 0 = .ok (.iload_n 1, 1) := dk_27 (dk_at dksJ5_getChars_2_0 0 rfl rfl)
theorem dJ5_getChars_2_1 : decode cJ5_getChars_2 1 = .ok (.istore 5, 2) := dk_54 5 (dk_at dksJ5_getChars_2_0 1 rfl rfl)
theorem dJ5_getChars_2_3 : decode cJ5_getChars_2 3 = .ok (.iload_n 0, 1) := dk_26 (dk_at dksJ5_getChars_2_0 3 rfl rfl)
theorem dJ5_getChars_2_4 : decode cJ5_getChars_2 4 = .ok (.ifCond .ge 7, 3) := dk_156 0 7 (dk_at dksJ5_getChars_2_0 4 rfl rfl)
theorem dJ5_getChars_2_7 : decode cJ5_getChars_2 7 = .ok (.iconst 1, 1) := dk_4 (dk_at dksJ5_getChars_2_0 7 rfl rfl)
theorem dJ5_getChars_2_8 : decode cJ5_getChars_2 8 = .ok (.goto 4, 3) := dk_167 0 4 (dk_at dksJ5_getChars_2_0 8 rfl rfl)
theorem dJ5_getChars_2_11 : decode cJ5_getChars_2 11 = .ok (.iconst 0, 1) := dk_3 (dk_at dksJ5_getChars_2_0 11 rfl rfl)
theorem dJ5_getChars_2_12 : decode cJ5_getChars_2 12 = .ok (.istore 6, 2) := dk_54 6 (dk_at dksJ5_getChars_2_0 12 rfl rfl)
theorem dJ5_getChars_2_14 : decode cJ5_getChars_2 14 = .ok (.iload 6, 2) := dk_21 6 (dk_at dksJ5_getChars_2_0 14 rfl rfl)
theorem dJ5_getChars_2_16 : decode cJ5_getChars_2 16 = .ok (.ifCond .ne 6, 3) := dk_154 0 6 (dk_at dksJ5_getChars_2_0 16 rfl rfl)
theorem dJ5_getChars_2_19 : decode cJ5_getChars_2 19 = .ok (.iload_n 0, 1) := dk_26 (dk_at dksJ5_getChars_2_0 19 rfl rfl)
theorem dJ5_getChars_2_20 : decode cJ5_getChars_2 20 = .ok (.ineg, 1) := dk_116 (dk_at dksJ5_getChars_2_0 20 rfl rfl)
theorem dJ5_getChars_2_21 : decode cJ5_getChars_2 21 = .ok (.istore_n 0, 1) := dk_59 (dk_at dksJ5_getChars_2_0 21 rfl rfl)
theorem dJ5_getChars_2_22 : decode cJ5_getChars_2 22 = .ok (.iload_n 0, 1) := dk_26 (dk_at dksJ5_getChars_2_0 22 rfl rfl)
theorem dJ5_getChars_2_23 : decode cJ5_getChars_2 23 = .ok (.bipush (-100), 2) := dk_16 156 (dk_at dksJ5_getChars_2_1 0 rfl rfl)
theorem dJ5_getChars_2_25 : decode cJ5_getChars_2 25 = .ok (.if_icmp .gt 51, 3) := dk_163 0 51 (dk_at dksJ5_getChars_2_1 2 rfl rfl)
theorem dJ5_getChars_2_28 : decode cJ5_getChars_2 28 = .ok (.iload_n 0, 1) := dk_26 (dk_at dksJ5_getChars_2_1 5 rfl rfl)
theorem dJ5_getChars_2_29 : decode cJ5_getChars_2 29 = .ok (.bipush 100, 2) := dk_16 100 (dk_at dksJ5_getChars_2_1 6 rfl rfl)
theorem dJ5_getChars_2_31 : decode cJ5_getChars_2 31 = .ok (.idiv, 1) := dk_108 (dk_at dksJ5_getChars_2_1 8 rfl rfl)
theorem dJ5_getChars_2_32 : decode cJ5_getChars_2 32 = .ok (.istore_n 3, 1) := dk_62 (dk_at dksJ5_getChars_2_1 9 rfl rfl)
theorem dJ5_getChars_2_33 : decode cJ5_getChars_2 33 = .ok (.iload_n 3, 1) := dk_29 (dk_at dksJ5_getChars_2_1 10 rfl rfl)
theorem dJ5_getChars_2_34 : decode cJ5_getChars_2 34 = .ok (.bipush 100, 2) := dk_16 100 (dk_at dksJ5_getChars_2_1 11 rfl rfl)
theorem dJ5_getChars_2_36 : decode cJ5_getChars_2 36 = .ok (.imul, 1) := dk_104 (dk_at dksJ5_getChars_2_1 13 rfl rfl)
theorem dJ5_getChars_2_37 : decode cJ5_getChars_2 37 = .ok (.iload_n 0, 1) := dk_26 (dk_at dksJ5_getChars_2_1 14 rfl rfl)
theorem dJ5_getChars_2_38 : decode cJ5_getChars_2 38 = .ok (.isub, 1) := dk_100 (dk_at dksJ5_getChars_2_1 15 rfl rfl)
theorem dJ5_getChars_2_39 : decode cJ5_getChars_2 39 = .ok (.istore 4, 2) := dk_54 4 (dk_at dksJ5_getChars_2_1 16 rfl rfl)
theorem dJ5_getChars_2_41 : decode cJ5_getChars_2 41 = .ok (.iload_n 3, 1) := dk_29 (dk_at dksJ5_getChars_2_1 18 rfl rfl)
theorem dJ5_getChars_2_42 : decode cJ5_getChars_2 42 = .ok (.istore_n 0, 1) := dk_59 (dk_at dksJ5_getChars_2_1 19 rfl rfl)
theorem dJ5_getChars_2_43 : decode cJ5_getChars_2 43 = .ok (.aload_n 2, 1) := dk_44 (dk_at dksJ5_getChars_2_1 20 rfl rfl)
theorem dJ5_getChars_2_44 : decode cJ5_getChars_2 44 = .ok (.iinc 5 (-1), 3) := dk_132 5 255 (dk_at dksJ5_getChars_2_1 21 rfl rfl)
theorem dJ5_getChars_2_47 : decode cJ5_getChars_2 47 = .ok (.iload 5, 2) := dk_21 5 (dk_at dksJ5_getChars_2_2 0 rfl rfl)
theorem dJ5_getChars_2_49 : decode cJ5_getChars_2 49 = .ok (.getstatic 403, 3) := dk_178 1 147 (dk_at dksJ5_getChars_2_2 2 rfl rfl)
theorem dJ5_getChars_2_52 : decode cJ5_getChars_2 52 = .ok (.iload 4, 2) := dk_21 4 (dk_at dksJ5_getChars_2_2 5 rfl rfl)
theorem dJ5_getChars_2_54 : decode cJ5_getChars_2 54 = .ok (.baload, 1) := dk_51 (dk_at dksJ5_getChars_2_2 7 rfl rfl)
theorem dJ5_getChars_2_55 : decode cJ5_getChars_2 55 = .ok (.invokestatic 111, 3) := dk_184 0 111 (dk_at dksJ5_getChars_2_2 8 rfl rfl)
theorem dJ5_getChars_2_58 : decode cJ5_getChars_2 58 = .ok (.aload_n 2, 1) := dk_44 (dk_at dksJ5_getChars_2_2 11 rfl rfl)
theorem dJ5_getChars_2_59 : decode cJ5_getChars_2 59 = .ok (.iinc 5 (-1), 3) := dk_132 5 255 (dk_at dksJ5_getChars_2_2 12 rfl rfl)
theorem dJ5_getChars_2_62 : decode cJ5_getChars_2 62 = .ok (.iload 5, 2) := dk_21 5 (dk_at dksJ5_getChars_2_2 15 rfl rfl)
theorem dJ5_getChars_2_64 : decode cJ5_getChars_2 64 = .ok (.getstatic 407, 3) := dk_178 1 151 (dk_at dksJ5_getChars_2_2 17 rfl rfl)
theorem dJ5_getChars_2_67 : decode cJ5_getChars_2 67 = .ok (.iload 4, 2) := dk_21 4 (dk_at dksJ5_getChars_2_2 20 rfl rfl)
theorem dJ5_getChars_2_69 : decode cJ5_getChars_2 69 = .ok (.baload, 1) := dk_51 (dk_at dksJ5_getChars_2_2 22 rfl rfl)
theorem dJ5_getChars_2_70 : decode cJ5_getChars_2 70 = .ok (.invokestatic 111, 3) := dk_184 0 111 (dk_at dksJ5_getChars_2_3 0 rfl rfl)
theorem dJ5_getChars_2_73 : decode cJ5_getChars_2 73 = .ok (.goto (-51), 3) := dk_167 255 205 (dk_at dksJ5_getChars_2_3 3 rfl rfl)
theorem dJ5_getChars_2_76 : decode cJ5_getChars_2 76 = .ok (.aload_n 2, 1) := dk_44 (dk_at dksJ5_getChars_2_3 6 rfl rfl)
theorem dJ5_getChars_2_77 : decode cJ5_getChars_2 77 = .ok (.iinc 5 (-1), 3) := dk_132 5 255 (dk_at dksJ5_getChars_2_3 7 rfl rfl)
theorem dJ5_getChars_2_80 : decode cJ5_getChars_2 80 = .ok (.iload 5, 2) := dk_21 5 (dk_at dksJ5_getChars_2_3 10 rfl rfl)
theorem dJ5_getChars_2_82 : decode cJ5_getChars_2 82 = .ok (.getstatic 403, 3) := dk_178 1 147 (dk_at dksJ5_getChars_2_3 12 rfl rfl)
theorem dJ5_getChars_2_85 : decode cJ5_getChars_2 85 = .ok (.iload_n 0, 1) := dk_26 (dk_at dksJ5_getChars_2_3 15 rfl rfl)
theorem dJ5_getChars_2_86 : decode cJ5_getChars_2 86 = .ok (.ineg, 1) := dk_116 (dk_at dksJ5_getChars_2_3 16 rfl rfl)
theorem dJ5_getChars_2_87 : decode cJ5_getChars_2 87 = .ok (.baload, 1) := dk_51 (dk_at dksJ5_getChars_2_3 17 rfl rfl)
theorem dJ5_getChars_2_88 : decode cJ5_getChars_2 88 = .ok (.invokestatic 111, 3) := dk_184 0 111 (dk_at dksJ5_getChars_2_3 18 rfl rfl)
theorem dJ5_getChars_2_91 : decode cJ5_getChars_2 91 = .ok (.iload_n 0, 1) := dk_26 (dk_at dksJ5_getChars_2_3 21 rfl rfl)
theorem dJ5_getChars_2_92 : decode cJ5_getChars_2 92 = .ok (.bipush (-9), 2) := dk_16 247 (dk_at dksJ5_getChars_2_3 22 rfl rfl)
theorem dJ5_getChars_2_94 : decode cJ5_getChars_2 94 = .ok (.if_icmp .ge 18, 3) := dk_162 0 18 (dk_at dksJ5_getChars_2_4 0 rfl rfl)
theorem dJ5_getChars_2_97 : decode cJ5_getChars_2 97 = .ok (.aload_n 2, 1) := dk_44 (dk_at dksJ5_getChars_2_4 3 rfl rfl)
theorem dJ5_getChars_2_98 : decode cJ5_getChars_2 98 = .ok (.iinc 5 (-1), 3) := dk_132 5 255 (dk_at dksJ5_getChars_2_4 4 rfl rfl)
theorem dJ5_getChars_2_101 : decode cJ5_getChars_2 101 = .ok (.iload 5, 2) := dk_21 5 (dk_at dksJ5_getChars_2_4 7 rfl rfl)
theorem dJ5_getChars_2_103 : decode cJ5_getChars_2 103 = .ok (.getstatic 407, 3) := dk_178 1 151 (dk_at dksJ5_getChars_2_4 9 rfl rfl)
theorem dJ5_getChars_2_106 : decode cJ5_getChars_2 106 = .ok (.iload_n 0, 1) := dk_26 (dk_at dksJ5_getChars_2_4 12 rfl rfl)
theorem dJ5_getChars_2_107 : decode cJ5_getChars_2 107 = .ok (.ineg, 1) := dk_116 (dk_at dksJ5_getChars_2_4 13 rfl rfl)
theorem dJ5_getChars_2_108 : decode cJ5_getChars_2 108 = .ok (.baload, 1) := dk_51 (dk_at dksJ5_getChars_2_4 14 rfl rfl)
theorem dJ5_getChars_2_109 : decode cJ5_getChars_2 109 = .ok (.invokestatic 111, 3) := dk_184 0 111 (dk_at dksJ5_getChars_2_4 15 rfl rfl)
theorem dJ5_getChars_2_112 : decode cJ5_getChars_2 112 = .ok (.iload 6, 2) := dk_21 6 (dk_at dksJ5_getChars_2_4 18 rfl rfl)
theorem dJ5_getChars_2_114 : decode cJ5_getChars_2 114 = .ok (.ifCond .eq 14, 3) := dk_153 0 14 (dk_at dksJ5_getChars_2_4 20 rfl rfl)
theorem dJ5_getChars_2_117 : decode cJ5_getChars_2 117 = .ok (.aload_n 2, 1) := dk_44 (dk_at dksJ5_getChars_2_4 23 rfl rfl)
theorem dJ5_getChars_2_118 : decode cJ5_getChars_2 118 = .ok (.iinc 5 (-1), 3) := dk_132 5 255 (dk_at dksJ5_getChars_2_5 0 rfl rfl)
theorem dJ5_getChars_2_121 : decode cJ5_getChars_2 121 = .ok (.iload 5, 2) := dk_21 5 (dk_at dksJ5_getChars_2_5 3 rfl rfl)
theorem dJ5_getChars_2_123 : decode cJ5_getChars_2 123 = .ok (.bipush 45, 2) := dk_16 45 (dk_at dksJ5_getChars_2_5 5 rfl rfl)
theorem dJ5_getChars_2_125 : decode cJ5_getChars_2 125 = .ok (.invokestatic 111, 3) := dk_184 0 111 (dk_at dksJ5_getChars_2_5 7 rfl rfl)
theorem dJ5_getChars_2_128 : decode cJ5_getChars_2 128 = .ok (.iload 5, 2) := dk_21 5 (dk_at dksJ5_getChars_2_5 10 rfl rfl)
theorem dJ5_getChars_2_130 : decode cJ5_getChars_2 130 = .ok (.ireturn, 1) := dk_172 (dk_at dksJ5_getChars_2_5 12 rfl rfl)
abbrev cJ5_getChars : ByteArray := prog_36_method_77_code
def yJ5_getChars : MethodName := ⟨RJ5, "getChars", "(III[B)I"⟩
def dkwJ5_getChars_1 : List UInt8 := [159, 0, 11, 187, 0, 52, 89, 183, 0, 66, 191, 21, 4, 172]
abbrev dktJ5_getChars_1 : List UInt8 := dkwJ5_getChars_1 ++ []
def dkwJ5_getChars_0 : List UInt8 := [27, 28, 45, 184, 0, 96, 26, 28, 45, 184, 1, 137, 54, 4, 178, 0, 44, 154, 0, 17, 27, 21, 4]
abbrev dktJ5_getChars_0 : List UInt8 := dkwJ5_getChars_0 ++ dktJ5_getChars_1
theorem dksJ5_getChars_0 : cJ5_getChars.data.toList.drop 0 = dktJ5_getChars_0 := by decide +kernel
theorem dksJ5_getChars_1 : cJ5_getChars.data.toList.drop 23 = dktJ5_getChars_1 := dk_seg dksJ5_getChars_0 23 rfl rfl
theorem dJ5_getChars_0 : decode cJ5_getChars 0 = .ok (.iload_n 1, 1) := dk_27 (dk_at dksJ5_getChars_0 0 rfl rfl)
theorem dJ5_getChars_1 : decode cJ5_getChars 1 = .ok (.iload_n 2, 1) := dk_28 (dk_at dksJ5_getChars_0 1 rfl rfl)
theorem dJ5_getChars_2 : decode cJ5_getChars 2 = .ok (.aload_n 3, 1) := dk_45 (dk_at dksJ5_getChars_0 2 rfl rfl)
theorem dJ5_getChars_3 : decode cJ5_getChars 3 = .ok (.invokestatic 96, 3) := dk_184 0 96 (dk_at dksJ5_getChars_0 3 rfl rfl)
theorem dJ5_getChars_6 : decode cJ5_getChars 6 = .ok (.iload_n 0, 1) := dk_26 (dk_at dksJ5_getChars_0 6 rfl rfl)
theorem dJ5_getChars_7 : decode cJ5_getChars 7 = .ok (.iload_n 2, 1) := dk_28 (dk_at dksJ5_getChars_0 7 rfl rfl)
theorem dJ5_getChars_8 : decode cJ5_getChars 8 = .ok (.aload_n 3, 1) := dk_45 (dk_at dksJ5_getChars_0 8 rfl rfl)
theorem dJ5_getChars_9 : decode cJ5_getChars 9 = .ok (.invokestatic 393, 3) := dk_184 1 137 (dk_at dksJ5_getChars_0 9 rfl rfl)
theorem dJ5_getChars_12 : decode cJ5_getChars 12 = .ok (.istore 4, 2) := dk_54 4 (dk_at dksJ5_getChars_0 12 rfl rfl)
theorem dJ5_getChars_14 : decode cJ5_getChars 14 = .ok (.getstatic 44, 3) := dk_178 0 44 (dk_at dksJ5_getChars_0 14 rfl rfl)
theorem dJ5_getChars_17 : decode cJ5_getChars 17 = .ok (.ifCond .ne 17, 3) := dk_154 0 17 (dk_at dksJ5_getChars_0 17 rfl rfl)
theorem dJ5_getChars_20 : decode cJ5_getChars 20 = .ok (.iload_n 1, 1) := dk_27 (dk_at dksJ5_getChars_0 20 rfl rfl)
theorem dJ5_getChars_21 : decode cJ5_getChars 21 = .ok (.iload 4, 2) := dk_21 4 (dk_at dksJ5_getChars_0 21 rfl rfl)
theorem dJ5_getChars_23 : decode cJ5_getChars 23 = .ok (.if_icmp .eq 11, 3) := dk_159 0 11 (dk_at dksJ5_getChars_1 0 rfl rfl)
theorem dJ5_getChars_26 : decode cJ5_getChars 26 = .ok (.new 52, 3) := dk_187 0 52 (dk_at dksJ5_getChars_1 3 rfl rfl)
theorem dJ5_getChars_29 : decode cJ5_getChars 29 = .ok (.dup, 1) := dk_89 (dk_at dksJ5_getChars_1 6 rfl rfl)
theorem dJ5_getChars_30 : decode cJ5_getChars 30 = .ok (.invokespecial 66, 3) := dk_183 0 66 (dk_at dksJ5_getChars_1 7 rfl rfl)
theorem dJ5_getChars_33 : decode cJ5_getChars 33 = .ok (.athrow, 1) := dk_191 (dk_at dksJ5_getChars_1 10 rfl rfl)
theorem dJ5_getChars_34 : decode cJ5_getChars 34 = .ok (.iload 4, 2) := dk_21 4 (dk_at dksJ5_getChars_1 11 rfl rfl)
theorem dJ5_getChars_36 : decode cJ5_getChars 36 = .ok (.ireturn, 1) := dk_172 (dk_at dksJ5_getChars_1 13 rfl rfl)
abbrev cJ2_append_2 : ByteArray := prog_12_method_32_code
def yJ2_append_2 : MethodName := ⟨RJ2, "append", "(I)Ljava/lang/AbstractStringBuilder;"⟩
def dkwJ2_append_2_2 : List UInt8 := [42, 29, 181, 0, 79, 42, 176]
abbrev dktJ2_append_2_2 : List UInt8 := dkwJ2_append_2_2 ++ []
def dkwJ2_append_2_1 : List UInt8 := [27, 29, 42, 180, 0, 15, 184, 0, 248, 87, 167, 0, 14, 27, 28, 29, 42, 180, 0, 15, 184, 0, 251, 87]
abbrev dktJ2_append_2_1 : List UInt8 := dkwJ2_append_2_1 ++ dktJ2_append_2_2
def dkwJ2_append_2_0 : List UInt8 := [42, 180, 0, 79, 61, 28, 27, 184, 0, 245, 96, 62, 42, 29, 182, 0, 100, 42, 182, 0, 83, 153, 0, 16]
abbrev dktJ2_append_2_0 : List UInt8 := dkwJ2_append_2_0 ++ dktJ2_append_2_1
theorem dksJ2_append_2_0 : cJ2_append_2.data.toList.drop 0 = dktJ2_append_2_0 := by decide +kernel
theorem dksJ2_append_2_1 : cJ2_append_2.data.toList.drop 24 = dktJ2_append_2_1 := dk_seg dksJ2_append_2_0 24 rfl rfl
theorem dksJ2_append_2_2 : cJ2_append_2.data.toList.drop 48 = dktJ2_append_2_2 := dk_seg dksJ2_append_2_1 24 rfl rfl
theorem dJ2_append_2_0 : decode cJ2_append_2 0 = .ok (.aload_n 0, 1) := dk_42 (dk_at dksJ2_append_2_0 0 rfl rfl)
theorem dJ2_append_2_1 : decode cJ2_append_2 1 = .ok (.getfield 79, 3) := dk_180 0 79 (dk_at dksJ2_append_2_0 1 rfl rfl)
theorem dJ2_append_2_4 : decode cJ2_append_2 4 = .ok (.istore_n 2, 1) := dk_61 (dk_at dksJ2_append_2_0 4 rfl rfl)
theorem dJ2_append_2_5 : decode cJ2_append_2 5 = .ok (.iload_n 2, 1) := dk_28 (dk_at dksJ2_append_2_0 5 rfl rfl)
theorem dJ2_append_2_6 : decode cJ2_append_2 6 = .ok (.iload_n 1, 1) := dk_27 (dk_at dksJ2_append_2_0 6 rfl rfl)
theorem dJ2_append_2_7 : decode cJ2_append_2 7 = .ok (.invokestatic 245, 3) := dk_184 0 245 (dk_at dksJ2_append_2_0 7 rfl rfl)
theorem dJ2_append_2_10 : decode cJ2_append_2 10 = .ok (.iadd, 1) := dk_96 (dk_at dksJ2_append_2_0 10 rfl rfl)
theorem dJ2_append_2_11 : decode cJ2_append_2 11 = .ok (.istore_n 3, 1) := dk_62 (dk_at dksJ2_append_2_0 11 rfl rfl)
theorem dJ2_append_2_12 : decode cJ2_append_2 12 = .ok (.aload_n 0, 1) := dk_42 (dk_at dksJ2_append_2_0 12 rfl rfl)
theorem dJ2_append_2_13 : decode cJ2_append_2 13 = .ok (.iload_n 3, 1) := dk_29 (dk_at dksJ2_append_2_0 13 rfl rfl)
theorem dJ2_append_2_14 : decode cJ2_append_2 14 = .ok (.invokevirtual 100, 3) := dk_182 0 100 (dk_at dksJ2_append_2_0 14 rfl rfl)
theorem dJ2_append_2_17 : decode cJ2_append_2 17 = .ok (.aload_n 0, 1) := dk_42 (dk_at dksJ2_append_2_0 17 rfl rfl)
theorem dJ2_append_2_18 : decode cJ2_append_2 18 = .ok (.invokevirtual 83, 3) := dk_182 0 83 (dk_at dksJ2_append_2_0 18 rfl rfl)
theorem dJ2_append_2_21 : decode cJ2_append_2 21 = .ok (.ifCond .eq 16, 3) := dk_153 0 16 (dk_at dksJ2_append_2_0 21 rfl rfl)
theorem dJ2_append_2_24 : decode cJ2_append_2 24 = .ok (.iload_n 1, 1) := dk_27 (dk_at dksJ2_append_2_1 0 rfl rfl)
theorem dJ2_append_2_25 : decode cJ2_append_2 25 = .ok (.iload_n 3, 1) := dk_29 (dk_at dksJ2_append_2_1 1 rfl rfl)
theorem dJ2_append_2_26 : decode cJ2_append_2 26 = .ok (.aload_n 0, 1) := dk_42 (dk_at dksJ2_append_2_1 2 rfl rfl)
theorem dJ2_append_2_27 : decode cJ2_append_2 27 = .ok (.getfield 15, 3) := dk_180 0 15 (dk_at dksJ2_append_2_1 3 rfl rfl)
theorem dJ2_append_2_30 : decode cJ2_append_2 30 = .ok (.invokestatic 248, 3) := dk_184 0 248 (dk_at dksJ2_append_2_1 6 rfl rfl)
theorem dJ2_append_2_33 : decode cJ2_append_2 33 = .ok (.pop, 1) := dk_87 (dk_at dksJ2_append_2_1 9 rfl rfl)
theorem dJ2_append_2_34 : decode cJ2_append_2 34 = .ok (.goto 14, 3) := dk_167 0 14 (dk_at dksJ2_append_2_1 10 rfl rfl)
theorem dJ2_append_2_37 : decode cJ2_append_2 37 = .ok (.iload_n 1, 1) := dk_27 (dk_at dksJ2_append_2_1 13 rfl rfl)
theorem dJ2_append_2_38 : decode cJ2_append_2 38 = .ok (.iload_n 2, 1) := dk_28 (dk_at dksJ2_append_2_1 14 rfl rfl)
theorem dJ2_append_2_39 : decode cJ2_append_2 39 = .ok (.iload_n 3, 1) := dk_29 (dk_at dksJ2_append_2_1 15 rfl rfl)
theorem dJ2_append_2_40 : decode cJ2_append_2 40 = .ok (.aload_n 0, 1) := dk_42 (dk_at dksJ2_append_2_1 16 rfl rfl)
theorem dJ2_append_2_41 : decode cJ2_append_2 41 = .ok (.getfield 15, 3) := dk_180 0 15 (dk_at dksJ2_append_2_1 17 rfl rfl)
theorem dJ2_append_2_44 : decode cJ2_append_2 44 = .ok (.invokestatic 251, 3) := dk_184 0 251 (dk_at dksJ2_append_2_1 20 rfl rfl)
theorem dJ2_append_2_47 : decode cJ2_append_2 47 = .ok (.pop, 1) := dk_87 (dk_at dksJ2_append_2_1 23 rfl rfl)
theorem dJ2_append_2_48 : decode cJ2_append_2 48 = .ok (.aload_n 0, 1) := dk_42 (dk_at dksJ2_append_2_2 0 rfl rfl)
theorem dJ2_append_2_49 : decode cJ2_append_2 49 = .ok (.iload_n 3, 1) := dk_29 (dk_at dksJ2_append_2_2 1 rfl rfl)
theorem dJ2_append_2_50 : decode cJ2_append_2 50 = .ok (.putfield 79, 3) := dk_181 0 79 (dk_at dksJ2_append_2_2 2 rfl rfl)
theorem dJ2_append_2_53 : decode cJ2_append_2 53 = .ok (.aload_n 0, 1) := dk_42 (dk_at dksJ2_append_2_2 5 rfl rfl)
theorem dJ2_append_2_54 : decode cJ2_append_2 54 = .ok (.areturn, 1) := dk_176 (dk_at dksJ2_append_2_2 6 rfl rfl)
abbrev cJ3_append_2 : ByteArray := prog_33_method_15_code
def yJ3_append_2 : MethodName := ⟨RJ3, "append", "(I)Ljava/lang/StringBuilder;"⟩
def dkwJ3_append_2_0 : List UInt8 := [42, 27, 183, 0, 53, 87, 42, 176]
abbrev dktJ3_append_2_0 : List UInt8 := dkwJ3_append_2_0 ++ []
theorem dksJ3_append_2_0 : cJ3_append_2.data.toList.drop 0 = dktJ3_append_2_0 := by decide +kernel
theorem dJ3_append_2_0 : decode cJ3_append_2 0 = .ok (.aload_n 0, 1) := dk_42 (dk_at dksJ3_append_2_0 0 rfl rfl)
theorem dJ3_append_2_1 : decode cJ3_append_2 1 = .ok (.iload_n 1, 1) := dk_27 (dk_at dksJ3_append_2_0 1 rfl rfl)
theorem dJ3_append_2_2 : decode cJ3_append_2 2 = .ok (.invokespecial 53, 3) := dk_183 0 53 (dk_at dksJ3_append_2_0 2 rfl rfl)
theorem dJ3_append_2_5 : decode cJ3_append_2 5 = .ok (.pop, 1) := dk_87 (dk_at dksJ3_append_2_0 5 rfl rfl)
theorem dJ3_append_2_6 : decode cJ3_append_2 6 = .ok (.aload_n 0, 1) := dk_42 (dk_at dksJ3_append_2_0 6 rfl rfl)
theorem dJ3_append_2_7 : decode cJ3_append_2 7 = .ok (.areturn, 1) := dk_176 (dk_at dksJ3_append_2_0 7 rfl rfl)
abbrev cJ17_checkFromIndexSize : ByteArray := prog_66_method_13_code
def yJ17_checkFromIndexSize : MethodName := ⟨RJ17, "checkFromIndexSize", "(IIILjava/util/function/BiFunction;)I"⟩
def dkwJ17_checkFromIndexSize_1 : List UInt8 := [172]
abbrev dktJ17_checkFromIndexSize_1 : List UInt8 := dkwJ17_checkFromIndexSize_1 ++ []
def dkwJ17_checkFromIndexSize_0 : List UInt8 := [28, 26, 128, 27, 128, 155, 0, 10, 27, 28, 26, 100, 164, 0, 11, 45, 26, 27, 28, 184, 0, 103, 191, 26]
abbrev dktJ17_checkFromIndexSize_0 : List UInt8 := dkwJ17_checkFromIndexSize_0 ++ dktJ17_checkFromIndexSize_1
theorem dksJ17_checkFromIndexSize_0 : cJ17_checkFromIndexSize.data.toList.drop 0 = dktJ17_checkFromIndexSize_0 := by decide +kernel
theorem dksJ17_checkFromIndexSize_1 : cJ17_checkFromIndexSize.data.toList.drop 24 = dktJ17_checkFromIndexSize_1 := dk_seg dksJ17_checkFromIndexSize_0 24 rfl rfl
theorem dJ17_checkFromIndexSize_0 : decode cJ17_checkFromIndexSize 0 = .ok (.iload_n 2, 1) := dk_28 (dk_at dksJ17_checkFromIndexSize_0 0 rfl rfl)
theorem dJ17_checkFromIndexSize_1 : decode cJ17_checkFromIndexSize 1 = .ok (.iload_n 0, 1) := dk_26 (dk_at dksJ17_checkFromIndexSize_0 1 rfl rfl)
theorem dJ17_checkFromIndexSize_2 : decode cJ17_checkFromIndexSize 2 = .ok (.ior, 1) := dk_128 (dk_at dksJ17_checkFromIndexSize_0 2 rfl rfl)
theorem dJ17_checkFromIndexSize_3 : decode cJ17_checkFromIndexSize 3 = .ok (.iload_n 1, 1) := dk_27 (dk_at dksJ17_checkFromIndexSize_0 3 rfl rfl)
theorem dJ17_checkFromIndexSize_4 : decode cJ17_checkFromIndexSize 4 = .ok (.ior, 1) := dk_128 (dk_at dksJ17_checkFromIndexSize_0 4 rfl rfl)
theorem dJ17_checkFromIndexSize_5 : decode cJ17_checkFromIndexSize 5 = .ok (.ifCond .lt 10, 3) := dk_155 0 10 (dk_at dksJ17_checkFromIndexSize_0 5 rfl rfl)
theorem dJ17_checkFromIndexSize_8 : decode cJ17_checkFromIndexSize 8 = .ok (.iload_n 1, 1) := dk_27 (dk_at dksJ17_checkFromIndexSize_0 8 rfl rfl)
theorem dJ17_checkFromIndexSize_9 : decode cJ17_checkFromIndexSize 9 = .ok (.iload_n 2, 1) := dk_28 (dk_at dksJ17_checkFromIndexSize_0 9 rfl rfl)
theorem dJ17_checkFromIndexSize_10 : decode cJ17_checkFromIndexSize 10 = .ok (.iload_n 0, 1) := dk_26 (dk_at dksJ17_checkFromIndexSize_0 10 rfl rfl)
theorem dJ17_checkFromIndexSize_11 : decode cJ17_checkFromIndexSize 11 = .ok (.isub, 1) := dk_100 (dk_at dksJ17_checkFromIndexSize_0 11 rfl rfl)
theorem dJ17_checkFromIndexSize_12 : decode cJ17_checkFromIndexSize 12 = .ok (.if_icmp .le 11, 3) := dk_164 0 11 (dk_at dksJ17_checkFromIndexSize_0 12 rfl rfl)
theorem dJ17_checkFromIndexSize_15 : decode cJ17_checkFromIndexSize 15 = .ok (.aload_n 3, 1) := dk_45 (dk_at dksJ17_checkFromIndexSize_0 15 rfl rfl)
theorem dJ17_checkFromIndexSize_16 : decode cJ17_checkFromIndexSize 16 = .ok (.iload_n 0, 1) := dk_26 (dk_at dksJ17_checkFromIndexSize_0 16 rfl rfl)
theorem dJ17_checkFromIndexSize_17 : decode cJ17_checkFromIndexSize 17 = .ok (.iload_n 1, 1) := dk_27 (dk_at dksJ17_checkFromIndexSize_0 17 rfl rfl)
theorem dJ17_checkFromIndexSize_18 : decode cJ17_checkFromIndexSize 18 = .ok (.iload_n 2, 1) := dk_28 (dk_at dksJ17_checkFromIndexSize_0 18 rfl rfl)
theorem dJ17_checkFromIndexSize_19 : decode cJ17_checkFromIndexSize 19 = .ok (.invokestatic 103, 3) := dk_184 0 103 (dk_at dksJ17_checkFromIndexSize_0 19 rfl rfl)
theorem dJ17_checkFromIndexSize_22 : decode cJ17_checkFromIndexSize 22 = .ok (.athrow, 1) := dk_191 (dk_at dksJ17_checkFromIndexSize_0 22 rfl rfl)
theorem dJ17_checkFromIndexSize_23 : decode cJ17_checkFromIndexSize 23 = .ok (.iload_n 0, 1) := dk_26 (dk_at dksJ17_checkFromIndexSize_0 23 rfl rfl)
theorem dJ17_checkFromIndexSize_24 : decode cJ17_checkFromIndexSize 24 = .ok (.ireturn, 1) := dk_172 (dk_at dksJ17_checkFromIndexSize_1 0 rfl rfl)
abbrev cJ4_checkBoundsOffCount : ByteArray := prog_32_method_157_code
def yJ4_checkBoundsOffCount : MethodName := ⟨RJ4, "checkBoundsOffCount", "(III)I"⟩
def dkwJ4_checkBoundsOffCount_0 : List UInt8 := [26, 27, 28, 178, 4, 29, 184, 4, 41, 172]
abbrev dktJ4_checkBoundsOffCount_0 : List UInt8 := dkwJ4_checkBoundsOffCount_0 ++ []
theorem dksJ4_checkBoundsOffCount_0 : cJ4_checkBoundsOffCount.data.toList.drop 0 = dktJ4_checkBoundsOffCount_0 := by decide +kernel
theorem dJ4_checkBoundsOffCount_0 : decode cJ4_checkBoundsOffCount 0 = .ok (.iload_n 0, 1) := dk_26 (dk_at dksJ4_checkBoundsOffCount_0 0 rfl rfl)
theorem dJ4_checkBoundsOffCount_1 : decode cJ4_checkBoundsOffCount 1 = .ok (.iload_n 1, 1) := dk_27 (dk_at dksJ4_checkBoundsOffCount_0 1 rfl rfl)
theorem dJ4_checkBoundsOffCount_2 : decode cJ4_checkBoundsOffCount 2 = .ok (.iload_n 2, 1) := dk_28 (dk_at dksJ4_checkBoundsOffCount_0 2 rfl rfl)
theorem dJ4_checkBoundsOffCount_3 : decode cJ4_checkBoundsOffCount 3 = .ok (.getstatic 1053, 3) := dk_178 4 29 (dk_at dksJ4_checkBoundsOffCount_0 3 rfl rfl)
theorem dJ4_checkBoundsOffCount_6 : decode cJ4_checkBoundsOffCount 6 = .ok (.invokestatic 1065, 3) := dk_184 4 41 (dk_at dksJ4_checkBoundsOffCount_0 6 rfl rfl)
theorem dJ4_checkBoundsOffCount_9 : decode cJ4_checkBoundsOffCount 9 = .ok (.ireturn, 1) := dk_172 (dk_at dksJ4_checkBoundsOffCount_0 9 rfl rfl)
abbrev cJ5_checkBoundsOffCount : ByteArray := prog_36_method_94_code
def yJ5_checkBoundsOffCount : MethodName := ⟨RJ5, "checkBoundsOffCount", "(II[B)V"⟩
def dkwJ5_checkBoundsOffCount_0 : List UInt8 := [26, 27, 44, 184, 0, 48, 184, 1, 163, 87, 177]
abbrev dktJ5_checkBoundsOffCount_0 : List UInt8 := dkwJ5_checkBoundsOffCount_0 ++ []
theorem dksJ5_checkBoundsOffCount_0 : cJ5_checkBoundsOffCount.data.toList.drop 0 = dktJ5_checkBoundsOffCount_0 := by decide +kernel
theorem dJ5_checkBoundsOffCount_0 : decode cJ5_checkBoundsOffCount 0 = .ok (.iload_n 0, 1) := dk_26 (dk_at dksJ5_checkBoundsOffCount_0 0 rfl rfl)
theorem dJ5_checkBoundsOffCount_1 : decode cJ5_checkBoundsOffCount 1 = .ok (.iload_n 1, 1) := dk_27 (dk_at dksJ5_checkBoundsOffCount_0 1 rfl rfl)
theorem dJ5_checkBoundsOffCount_2 : decode cJ5_checkBoundsOffCount 2 = .ok (.aload_n 2, 1) := dk_44 (dk_at dksJ5_checkBoundsOffCount_0 2 rfl rfl)
theorem dJ5_checkBoundsOffCount_3 : decode cJ5_checkBoundsOffCount 3 = .ok (.invokestatic 48, 3) := dk_184 0 48 (dk_at dksJ5_checkBoundsOffCount_0 3 rfl rfl)
theorem dJ5_checkBoundsOffCount_6 : decode cJ5_checkBoundsOffCount 6 = .ok (.invokestatic 419, 3) := dk_184 1 163 (dk_at dksJ5_checkBoundsOffCount_0 6 rfl rfl)
theorem dJ5_checkBoundsOffCount_9 : decode cJ5_checkBoundsOffCount 9 = .ok (.pop, 1) := dk_87 (dk_at dksJ5_checkBoundsOffCount_0 9 rfl rfl)
theorem dJ5_checkBoundsOffCount_10 : decode cJ5_checkBoundsOffCount 10 = .ok (.return_, 1) := dk_177 (dk_at dksJ5_checkBoundsOffCount_0 10 rfl rfl)
abbrev cJ5_inflate : ByteArray := prog_36_method_86_code
def yJ5_inflate : MethodName := ⟨RJ5, "inflate", "([BI[BII)V"⟩
def dkwJ5_inflate_1 : List UInt8 := [132, 1, 1, 51, 17, 0, 255, 126, 184, 0, 111, 132, 5, 1, 167, 255, 228, 177]
abbrev dktJ5_inflate_1 : List UInt8 := dkwJ5_inflate_1 ++ []
def dkwJ5_inflate_0 : List UInt8 := [29, 21, 4, 44, 184, 0, 173, 3, 54, 5, 21, 5, 21, 4, 162, 0, 27, 44, 29, 132, 3, 1, 42, 27]
abbrev dktJ5_inflate_0 : List UInt8 := dkwJ5_inflate_0 ++ dktJ5_inflate_1
theorem dksJ5_inflate_0 : cJ5_inflate.data.toList.drop 0 = dktJ5_inflate_0 := by decide +kernel
theorem dksJ5_inflate_1 : cJ5_inflate.data.toList.drop 24 = dktJ5_inflate_1 := dk_seg dksJ5_inflate_0 24 rfl rfl
theorem dJ5_inflate_0 : decode cJ5_inflate 0 = .ok (.iload_n 3, 1) := dk_29 (dk_at dksJ5_inflate_0 0 rfl rfl)
theorem dJ5_inflate_1 : decode cJ5_inflate 1 = .ok (.iload 4, 2) := dk_21 4 (dk_at dksJ5_inflate_0 1 rfl rfl)
theorem dJ5_inflate_3 : decode cJ5_inflate 3 = .ok (.aload_n 2, 1) := dk_44 (dk_at dksJ5_inflate_0 3 rfl rfl)
theorem dJ5_inflate_4 : decode cJ5_inflate 4 = .ok (.invokestatic 173, 3) := dk_184 0 173 (dk_at dksJ5_inflate_0 4 rfl rfl)
theorem dJ5_inflate_7 : decode cJ5_inflate 7 = .ok (.iconst 0, 1) := dk_3 (dk_at dksJ5_inflate_0 7 rfl rfl)
theorem dJ5_inflate_8 : decode cJ5_inflate 8 = .ok (.istore 5, 2) := dk_54 5 (dk_at dksJ5_inflate_0 8 rfl rfl)
theorem dJ5_inflate_10 : decode cJ5_inflate 10 = .ok (.iload 5, 2) := dk_21 5 (dk_at dksJ5_inflate_0 10 rfl rfl)
theorem dJ5_inflate_12 : decode cJ5_inflate 12 = .ok (.iload 4, 2) := dk_21 4 (dk_at dksJ5_inflate_0 12 rfl rfl)
theorem dJ5_inflate_14 : decode cJ5_inflate 14 = .ok (.if_icmp .ge 27, 3) := dk_162 0 27 (dk_at dksJ5_inflate_0 14 rfl rfl)
theorem dJ5_inflate_17 : decode cJ5_inflate 17 = .ok (.aload_n 2, 1) := dk_44 (dk_at dksJ5_inflate_0 17 rfl rfl)
theorem dJ5_inflate_18 : decode cJ5_inflate 18 = .ok (.iload_n 3, 1) := dk_29 (dk_at dksJ5_inflate_0 18 rfl rfl)
theorem dJ5_inflate_19 : decode cJ5_inflate 19 = .ok (.iinc 3 1, 3) := dk_132 3 1 (dk_at dksJ5_inflate_0 19 rfl rfl)
theorem dJ5_inflate_22 : decode cJ5_inflate 22 = .ok (.aload_n 0, 1) := dk_42 (dk_at dksJ5_inflate_0 22 rfl rfl)
theorem dJ5_inflate_23 : decode cJ5_inflate 23 = .ok (.iload_n 1, 1) := dk_27 (dk_at dksJ5_inflate_0 23 rfl rfl)
theorem dJ5_inflate_24 : decode cJ5_inflate 24 = .ok (.iinc 1 1, 3) := dk_132 1 1 (dk_at dksJ5_inflate_1 0 rfl rfl)
theorem dJ5_inflate_27 : decode cJ5_inflate 27 = .ok (.baload, 1) := dk_51 (dk_at dksJ5_inflate_1 3 rfl rfl)
theorem dJ5_inflate_28 : decode cJ5_inflate 28 = .ok (.sipush 255, 3) := dk_17 0 255 (dk_at dksJ5_inflate_1 4 rfl rfl)
theorem dJ5_inflate_31 : decode cJ5_inflate 31 = .ok (.iand, 1) := dk_126 (dk_at dksJ5_inflate_1 7 rfl rfl)
theorem dJ5_inflate_32 : decode cJ5_inflate 32 = .ok (.invokestatic 111, 3) := dk_184 0 111 (dk_at dksJ5_inflate_1 8 rfl rfl)
theorem dJ5_inflate_35 : decode cJ5_inflate 35 = .ok (.iinc 5 1, 3) := dk_132 5 1 (dk_at dksJ5_inflate_1 11 rfl rfl)
theorem dJ5_inflate_38 : decode cJ5_inflate 38 = .ok (.goto (-28), 3) := dk_167 255 228 (dk_at dksJ5_inflate_1 14 rfl rfl)
theorem dJ5_inflate_41 : decode cJ5_inflate 41 = .ok (.return_, 1) := dk_177 (dk_at dksJ5_inflate_1 17 rfl rfl)
abbrev cJ16_inflate : ByteArray := prog_35_method_50_code
def yJ16_inflate : MethodName := ⟨RJ16, "inflate", "([BI[BII)V"⟩
def dkwJ16_inflate_0 : List UInt8 := [42, 27, 44, 29, 21, 4, 184, 0, 240, 177]
abbrev dktJ16_inflate_0 : List UInt8 := dkwJ16_inflate_0 ++ []
theorem dksJ16_inflate_0 : cJ16_inflate.data.toList.drop 0 = dktJ16_inflate_0 := by decide +kernel
theorem dJ16_inflate_0 : decode cJ16_inflate 0 = .ok (.aload_n 0, 1) := dk_42 (dk_at dksJ16_inflate_0 0 rfl rfl)
theorem dJ16_inflate_1 : decode cJ16_inflate 1 = .ok (.iload_n 1, 1) := dk_27 (dk_at dksJ16_inflate_0 1 rfl rfl)
theorem dJ16_inflate_2 : decode cJ16_inflate 2 = .ok (.aload_n 2, 1) := dk_44 (dk_at dksJ16_inflate_0 2 rfl rfl)
theorem dJ16_inflate_3 : decode cJ16_inflate 3 = .ok (.iload_n 3, 1) := dk_29 (dk_at dksJ16_inflate_0 3 rfl rfl)
theorem dJ16_inflate_4 : decode cJ16_inflate 4 = .ok (.iload 4, 2) := dk_21 4 (dk_at dksJ16_inflate_0 4 rfl rfl)
theorem dJ16_inflate_6 : decode cJ16_inflate 6 = .ok (.invokestatic 240, 3) := dk_184 0 240 (dk_at dksJ16_inflate_0 6 rfl rfl)
theorem dJ16_inflate_9 : decode cJ16_inflate 9 = .ok (.return_, 1) := dk_177 (dk_at dksJ16_inflate_0 9 rfl rfl)
abbrev cJ4_getBytes : ByteArray := prog_32_method_147_code
def yJ4_getBytes : MethodName := ⟨RJ4, "getBytes", "([BIB)V"⟩
def dkwJ4_getBytes_1 : List UInt8 := [184, 0, 212, 167, 0, 18, 42, 180, 0, 9, 3, 43, 28, 42, 180, 0, 9, 190, 184, 0, 106, 177]
abbrev dktJ4_getBytes_1 : List UInt8 := dkwJ4_getBytes_1 ++ []
def dkwJ4_getBytes_0 : List UInt8 := [42, 182, 1, 79, 29, 160, 0, 23, 42, 180, 0, 9, 3, 43, 28, 29, 120, 42, 180, 0, 9, 190]
abbrev dktJ4_getBytes_0 : List UInt8 := dkwJ4_getBytes_0 ++ dktJ4_getBytes_1
theorem dksJ4_getBytes_0 : cJ4_getBytes.data.toList.drop 0 = dktJ4_getBytes_0 := by decide +kernel
theorem dksJ4_getBytes_1 : cJ4_getBytes.data.toList.drop 22 = dktJ4_getBytes_1 := dk_seg dksJ4_getBytes_0 22 rfl rfl
theorem dJ4_getBytes_0 : decode cJ4_getBytes 0 = .ok (.aload_n 0, 1) := dk_42 (dk_at dksJ4_getBytes_0 0 rfl rfl)
theorem dJ4_getBytes_1 : decode cJ4_getBytes 1 = .ok (.invokevirtual 335, 3) := dk_182 1 79 (dk_at dksJ4_getBytes_0 1 rfl rfl)
theorem dJ4_getBytes_4 : decode cJ4_getBytes 4 = .ok (.iload_n 3, 1) := dk_29 (dk_at dksJ4_getBytes_0 4 rfl rfl)
theorem dJ4_getBytes_5 : decode cJ4_getBytes 5 = .ok (.if_icmp .ne 23, 3) := dk_160 0 23 (dk_at dksJ4_getBytes_0 5 rfl rfl)
theorem dJ4_getBytes_8 : decode cJ4_getBytes 8 = .ok (.aload_n 0, 1) := dk_42 (dk_at dksJ4_getBytes_0 8 rfl rfl)
theorem dJ4_getBytes_9 : decode cJ4_getBytes 9 = .ok (.getfield 9, 3) := dk_180 0 9 (dk_at dksJ4_getBytes_0 9 rfl rfl)
theorem dJ4_getBytes_12 : decode cJ4_getBytes 12 = .ok (.iconst 0, 1) := dk_3 (dk_at dksJ4_getBytes_0 12 rfl rfl)
theorem dJ4_getBytes_13 : decode cJ4_getBytes 13 = .ok (.aload_n 1, 1) := dk_43 (dk_at dksJ4_getBytes_0 13 rfl rfl)
theorem dJ4_getBytes_14 : decode cJ4_getBytes 14 = .ok (.iload_n 2, 1) := dk_28 (dk_at dksJ4_getBytes_0 14 rfl rfl)
theorem dJ4_getBytes_15 : decode cJ4_getBytes 15 = .ok (.iload_n 3, 1) := dk_29 (dk_at dksJ4_getBytes_0 15 rfl rfl)
theorem dJ4_getBytes_16 : decode cJ4_getBytes 16 = .ok (.ishl, 1) := dk_120 (dk_at dksJ4_getBytes_0 16 rfl rfl)
theorem dJ4_getBytes_17 : decode cJ4_getBytes 17 = .ok (.aload_n 0, 1) := dk_42 (dk_at dksJ4_getBytes_0 17 rfl rfl)
theorem dJ4_getBytes_18 : decode cJ4_getBytes 18 = .ok (.getfield 9, 3) := dk_180 0 9 (dk_at dksJ4_getBytes_0 18 rfl rfl)
theorem dJ4_getBytes_21 : decode cJ4_getBytes 21 = .ok (.arraylength, 1) := dk_190 (dk_at dksJ4_getBytes_0 21 rfl rfl)
theorem dJ4_getBytes_22 : decode cJ4_getBytes 22 = .ok (.invokestatic 212, 3) := dk_184 0 212 (dk_at dksJ4_getBytes_1 0 rfl rfl)
theorem dJ4_getBytes_25 : decode cJ4_getBytes 25 = .ok (.goto 18, 3) := dk_167 0 18 (dk_at dksJ4_getBytes_1 3 rfl rfl)
theorem dJ4_getBytes_28 : decode cJ4_getBytes 28 = .ok (.aload_n 0, 1) := dk_42 (dk_at dksJ4_getBytes_1 6 rfl rfl)
theorem dJ4_getBytes_29 : decode cJ4_getBytes 29 = .ok (.getfield 9, 3) := dk_180 0 9 (dk_at dksJ4_getBytes_1 7 rfl rfl)
theorem dJ4_getBytes_32 : decode cJ4_getBytes 32 = .ok (.iconst 0, 1) := dk_3 (dk_at dksJ4_getBytes_1 10 rfl rfl)
theorem dJ4_getBytes_33 : decode cJ4_getBytes 33 = .ok (.aload_n 1, 1) := dk_43 (dk_at dksJ4_getBytes_1 11 rfl rfl)
theorem dJ4_getBytes_34 : decode cJ4_getBytes 34 = .ok (.iload_n 2, 1) := dk_28 (dk_at dksJ4_getBytes_1 12 rfl rfl)
theorem dJ4_getBytes_35 : decode cJ4_getBytes 35 = .ok (.aload_n 0, 1) := dk_42 (dk_at dksJ4_getBytes_1 13 rfl rfl)
theorem dJ4_getBytes_36 : decode cJ4_getBytes 36 = .ok (.getfield 9, 3) := dk_180 0 9 (dk_at dksJ4_getBytes_1 14 rfl rfl)
theorem dJ4_getBytes_39 : decode cJ4_getBytes 39 = .ok (.arraylength, 1) := dk_190 (dk_at dksJ4_getBytes_1 17 rfl rfl)
theorem dJ4_getBytes_40 : decode cJ4_getBytes 40 = .ok (.invokestatic 106, 3) := dk_184 0 106 (dk_at dksJ4_getBytes_1 18 rfl rfl)
theorem dJ4_getBytes_43 : decode cJ4_getBytes 43 = .ok (.return_, 1) := dk_177 (dk_at dksJ4_getBytes_1 21 rfl rfl)
abbrev cJ2_putStringAt : ByteArray := prog_12_method_73_code
def yJ2_putStringAt : MethodName := ⟨RJ2, "putStringAt", "(ILjava/lang/String;)V"⟩
def dkwJ2_putStringAt_0 : List UInt8 := [42, 44, 182, 1, 141, 44, 42, 180, 0, 15, 27, 42, 180, 0, 22, 182, 1, 143, 177]
abbrev dktJ2_putStringAt_0 : List UInt8 := dkwJ2_putStringAt_0 ++ []
theorem dksJ2_putStringAt_0 : cJ2_putStringAt.data.toList.drop 0 = dktJ2_putStringAt_0 := by decide +kernel
theorem dJ2_putStringAt_0 : decode cJ2_putStringAt 0 = .ok (.aload_n 0, 1) := dk_42 (dk_at dksJ2_putStringAt_0 0 rfl rfl)
theorem dJ2_putStringAt_1 : decode cJ2_putStringAt 1 = .ok (.aload_n 2, 1) := dk_44 (dk_at dksJ2_putStringAt_0 1 rfl rfl)
theorem dJ2_putStringAt_2 : decode cJ2_putStringAt 2 = .ok (.invokevirtual 397, 3) := dk_182 1 141 (dk_at dksJ2_putStringAt_0 2 rfl rfl)
theorem dJ2_putStringAt_5 : decode cJ2_putStringAt 5 = .ok (.aload_n 2, 1) := dk_44 (dk_at dksJ2_putStringAt_0 5 rfl rfl)
theorem dJ2_putStringAt_6 : decode cJ2_putStringAt 6 = .ok (.aload_n 0, 1) := dk_42 (dk_at dksJ2_putStringAt_0 6 rfl rfl)
theorem dJ2_putStringAt_7 : decode cJ2_putStringAt 7 = .ok (.getfield 15, 3) := dk_180 0 15 (dk_at dksJ2_putStringAt_0 7 rfl rfl)
theorem dJ2_putStringAt_10 : decode cJ2_putStringAt 10 = .ok (.iload_n 1, 1) := dk_27 (dk_at dksJ2_putStringAt_0 10 rfl rfl)
theorem dJ2_putStringAt_11 : decode cJ2_putStringAt 11 = .ok (.aload_n 0, 1) := dk_42 (dk_at dksJ2_putStringAt_0 11 rfl rfl)
theorem dJ2_putStringAt_12 : decode cJ2_putStringAt 12 = .ok (.getfield 22, 3) := dk_180 0 22 (dk_at dksJ2_putStringAt_0 12 rfl rfl)
theorem dJ2_putStringAt_15 : decode cJ2_putStringAt 15 = .ok (.invokevirtual 399, 3) := dk_182 1 143 (dk_at dksJ2_putStringAt_0 15 rfl rfl)
theorem dJ2_putStringAt_18 : decode cJ2_putStringAt 18 = .ok (.return_, 1) := dk_177 (dk_at dksJ2_putStringAt_0 18 rfl rfl)
abbrev cJ2_append_3 : ByteArray := prog_12_method_22_code
def yJ2_append_3 : MethodName := ⟨RJ2, "append", "(Ljava/lang/String;)Ljava/lang/AbstractStringBuilder;"⟩
def dkwJ2_append_3_1 : List UInt8 := [42, 42, 180, 0, 79, 43, 182, 0, 208, 42, 89, 180, 0, 79, 28, 96, 181, 0, 79, 42, 176]
abbrev dktJ2_append_3_1 : List UInt8 := dkwJ2_append_3_1 ++ []
def dkwJ2_append_3_0 : List UInt8 := [43, 199, 0, 8, 42, 182, 0, 204, 176, 43, 182, 0, 32, 61, 42, 42, 180, 0, 79, 28, 96, 182, 0, 100]
abbrev dktJ2_append_3_0 : List UInt8 := dkwJ2_append_3_0 ++ dktJ2_append_3_1
theorem dksJ2_append_3_0 : cJ2_append_3.data.toList.drop 0 = dktJ2_append_3_0 := by decide +kernel
theorem dksJ2_append_3_1 : cJ2_append_3.data.toList.drop 24 = dktJ2_append_3_1 := dk_seg dksJ2_append_3_0 24 rfl rfl
theorem dJ2_append_3_0 : decode cJ2_append_3 0 = .ok (.aload_n 1, 1) := dk_43 (dk_at dksJ2_append_3_0 0 rfl rfl)
theorem dJ2_append_3_1 : decode cJ2_append_3 1 = .ok (.ifnonnull 8, 3) := dk_199 0 8 (dk_at dksJ2_append_3_0 1 rfl rfl)
theorem dJ2_append_3_4 : decode cJ2_append_3 4 = .ok (.aload_n 0, 1) := dk_42 (dk_at dksJ2_append_3_0 4 rfl rfl)
theorem dJ2_append_3_5 : decode cJ2_append_3 5 = .ok (.invokevirtual 204, 3) := dk_182 0 204 (dk_at dksJ2_append_3_0 5 rfl rfl)
theorem dJ2_append_3_8 : decode cJ2_append_3 8 = .ok (.areturn, 1) := dk_176 (dk_at dksJ2_append_3_0 8 rfl rfl)
theorem dJ2_append_3_9 : decode cJ2_append_3 9 = .ok (.aload_n 1, 1) := dk_43 (dk_at dksJ2_append_3_0 9 rfl rfl)
theorem dJ2_append_3_10 : decode cJ2_append_3 10 = .ok (.invokevirtual 32, 3) := dk_182 0 32 (dk_at dksJ2_append_3_0 10 rfl rfl)
theorem dJ2_append_3_13 : decode cJ2_append_3 13 = .ok (.istore_n 2, 1) := dk_61 (dk_at dksJ2_append_3_0 13 rfl rfl)
theorem dJ2_append_3_14 : decode cJ2_append_3 14 = .ok (.aload_n 0, 1) := dk_42 (dk_at dksJ2_append_3_0 14 rfl rfl)
theorem dJ2_append_3_15 : decode cJ2_append_3 15 = .ok (.aload_n 0, 1) := dk_42 (dk_at dksJ2_append_3_0 15 rfl rfl)
theorem dJ2_append_3_16 : decode cJ2_append_3 16 = .ok (.getfield 79, 3) := dk_180 0 79 (dk_at dksJ2_append_3_0 16 rfl rfl)
theorem dJ2_append_3_19 : decode cJ2_append_3 19 = .ok (.iload_n 2, 1) := dk_28 (dk_at dksJ2_append_3_0 19 rfl rfl)
theorem dJ2_append_3_20 : decode cJ2_append_3 20 = .ok (.iadd, 1) := dk_96 (dk_at dksJ2_append_3_0 20 rfl rfl)
theorem dJ2_append_3_21 : decode cJ2_append_3 21 = .ok (.invokevirtual 100, 3) := dk_182 0 100 (dk_at dksJ2_append_3_0 21 rfl rfl)
theorem dJ2_append_3_24 : decode cJ2_append_3 24 = .ok (.aload_n 0, 1) := dk_42 (dk_at dksJ2_append_3_1 0 rfl rfl)
theorem dJ2_append_3_25 : decode cJ2_append_3 25 = .ok (.aload_n 0, 1) := dk_42 (dk_at dksJ2_append_3_1 1 rfl rfl)
theorem dJ2_append_3_26 : decode cJ2_append_3 26 = .ok (.getfield 79, 3) := dk_180 0 79 (dk_at dksJ2_append_3_1 2 rfl rfl)
theorem dJ2_append_3_29 : decode cJ2_append_3 29 = .ok (.aload_n 1, 1) := dk_43 (dk_at dksJ2_append_3_1 5 rfl rfl)
theorem dJ2_append_3_30 : decode cJ2_append_3 30 = .ok (.invokevirtual 208, 3) := dk_182 0 208 (dk_at dksJ2_append_3_1 6 rfl rfl)
theorem dJ2_append_3_33 : decode cJ2_append_3 33 = .ok (.aload_n 0, 1) := dk_42 (dk_at dksJ2_append_3_1 9 rfl rfl)
theorem dJ2_append_3_34 : decode cJ2_append_3 34 = .ok (.dup, 1) := dk_89 (dk_at dksJ2_append_3_1 10 rfl rfl)
theorem dJ2_append_3_35 : decode cJ2_append_3 35 = .ok (.getfield 79, 3) := dk_180 0 79 (dk_at dksJ2_append_3_1 11 rfl rfl)
theorem dJ2_append_3_38 : decode cJ2_append_3 38 = .ok (.iload_n 2, 1) := dk_28 (dk_at dksJ2_append_3_1 14 rfl rfl)
theorem dJ2_append_3_39 : decode cJ2_append_3 39 = .ok (.iadd, 1) := dk_96 (dk_at dksJ2_append_3_1 15 rfl rfl)
theorem dJ2_append_3_40 : decode cJ2_append_3 40 = .ok (.putfield 79, 3) := dk_181 0 79 (dk_at dksJ2_append_3_1 16 rfl rfl)
theorem dJ2_append_3_43 : decode cJ2_append_3 43 = .ok (.aload_n 0, 1) := dk_42 (dk_at dksJ2_append_3_1 19 rfl rfl)
theorem dJ2_append_3_44 : decode cJ2_append_3 44 = .ok (.areturn, 1) := dk_176 (dk_at dksJ2_append_3_1 20 rfl rfl)
abbrev cJ3_append_3 : ByteArray := prog_33_method_7_code
def yJ3_append_3 : MethodName := ⟨RJ3, "append", "(Ljava/lang/String;)Ljava/lang/StringBuilder;"⟩
def dkwJ3_append_3_0 : List UInt8 := [42, 43, 183, 0, 29, 87, 42, 176]
abbrev dktJ3_append_3_0 : List UInt8 := dkwJ3_append_3_0 ++ []
theorem dksJ3_append_3_0 : cJ3_append_3.data.toList.drop 0 = dktJ3_append_3_0 := by decide +kernel
theorem dJ3_append_3_0 : decode cJ3_append_3 0 = .ok (.aload_n 0, 1) := dk_42 (dk_at dksJ3_append_3_0 0 rfl rfl)
theorem dJ3_append_3_1 : decode cJ3_append_3 1 = .ok (.aload_n 1, 1) := dk_43 (dk_at dksJ3_append_3_0 1 rfl rfl)
theorem dJ3_append_3_2 : decode cJ3_append_3 2 = .ok (.invokespecial 29, 3) := dk_183 0 29 (dk_at dksJ3_append_3_0 2 rfl rfl)
theorem dJ3_append_3_5 : decode cJ3_append_3 5 = .ok (.pop, 1) := dk_87 (dk_at dksJ3_append_3_0 5 rfl rfl)
theorem dJ3_append_3_6 : decode cJ3_append_3 6 = .ok (.aload_n 0, 1) := dk_42 (dk_at dksJ3_append_3_0 6 rfl rfl)
theorem dJ3_append_3_7 : decode cJ3_append_3 7 = .ok (.areturn, 1) := dk_176 (dk_at dksJ3_append_3_0 7 rfl rfl)
abbrev cJ6_init : ByteArray := prog_38_method_2_code
def yJ6_init : MethodName := ⟨RJ6, "<init>", "(Ljava/lang/String;)V"⟩
def dkwJ6_init_1 : List UInt8 := [182, 0, 27, 87, 42, 43, 181, 0, 31, 177]
abbrev dktJ6_init_1 : List UInt8 := dkwJ6_init_1 ++ []
def dkwJ6_init_0 : List UInt8 := [42, 183, 0, 1, 42, 42, 181, 0, 7, 42, 178, 0, 13, 181, 0, 17, 42, 178, 0, 20, 181, 0, 24, 42]
abbrev dktJ6_init_0 : List UInt8 := dkwJ6_init_0 ++ dktJ6_init_1
theorem dksJ6_init_0 : cJ6_init.data.toList.drop 0 = dktJ6_init_0 := by decide +kernel
theorem dksJ6_init_1 : cJ6_init.data.toList.drop 24 = dktJ6_init_1 := dk_seg dksJ6_init_0 24 rfl rfl
theorem dJ6_init_0 : decode cJ6_init 0 = .ok (.aload_n 0, 1) := dk_42 (dk_at dksJ6_init_0 0 rfl rfl)
theorem dJ6_init_1 : decode cJ6_init 1 = .ok (.invokespecial 1, 3) := dk_183 0 1 (dk_at dksJ6_init_0 1 rfl rfl)
theorem dJ6_init_4 : decode cJ6_init 4 = .ok (.aload_n 0, 1) := dk_42 (dk_at dksJ6_init_0 4 rfl rfl)
theorem dJ6_init_5 : decode cJ6_init 5 = .ok (.aload_n 0, 1) := dk_42 (dk_at dksJ6_init_0 5 rfl rfl)
theorem dJ6_init_6 : decode cJ6_init 6 = .ok (.putfield 7, 3) := dk_181 0 7 (dk_at dksJ6_init_0 6 rfl rfl)
theorem dJ6_init_9 : decode cJ6_init 9 = .ok (.aload_n 0, 1) := dk_42 (dk_at dksJ6_init_0 9 rfl rfl)
theorem dJ6_init_10 : decode cJ6_init 10 = .ok (.getstatic 13, 3) := dk_178 0 13 (dk_at dksJ6_init_0 10 rfl rfl)
theorem dJ6_init_13 : decode cJ6_init 13 = .ok (.putfield 17, 3) := dk_181 0 17 (dk_at dksJ6_init_0 13 rfl rfl)
theorem dJ6_init_16 : decode cJ6_init 16 = .ok (.aload_n 0, 1) := dk_42 (dk_at dksJ6_init_0 16 rfl rfl)
theorem dJ6_init_17 : decode cJ6_init 17 = .ok (.getstatic 20, 3) := dk_178 0 20 (dk_at dksJ6_init_0 17 rfl rfl)
theorem dJ6_init_20 : decode cJ6_init 20 = .ok (.putfield 24, 3) := dk_181 0 24 (dk_at dksJ6_init_0 20 rfl rfl)
theorem dJ6_init_23 : decode cJ6_init 23 = .ok (.aload_n 0, 1) := dk_42 (dk_at dksJ6_init_0 23 rfl rfl)
theorem dJ6_init_24 : decode cJ6_init 24 = .ok (.invokevirtual 27, 3) := dk_182 0 27 (dk_at dksJ6_init_1 0 rfl rfl)
theorem dJ6_init_27 : decode cJ6_init 27 = .ok (.pop, 1) := dk_87 (dk_at dksJ6_init_1 3 rfl rfl)
theorem dJ6_init_28 : decode cJ6_init 28 = .ok (.aload_n 0, 1) := dk_42 (dk_at dksJ6_init_1 4 rfl rfl)
theorem dJ6_init_29 : decode cJ6_init 29 = .ok (.aload_n 1, 1) := dk_43 (dk_at dksJ6_init_1 5 rfl rfl)
theorem dJ6_init_30 : decode cJ6_init 30 = .ok (.putfield 31, 3) := dk_181 0 31 (dk_at dksJ6_init_1 6 rfl rfl)
theorem dJ6_init_33 : decode cJ6_init 33 = .ok (.return_, 1) := dk_177 (dk_at dksJ6_init_1 9 rfl rfl)
abbrev cJ7_init : ByteArray := prog_20_method_2_code
def yJ7_init : MethodName := ⟨RJ7, "<init>", "(Ljava/lang/String;)V"⟩
def dkwJ7_init_0 : List UInt8 := [42, 43, 183, 0, 7, 177]
abbrev dktJ7_init_0 : List UInt8 := dkwJ7_init_0 ++ []
theorem dksJ7_init_0 : cJ7_init.data.toList.drop 0 = dktJ7_init_0 := by decide +kernel
theorem dJ7_init_0 : decode cJ7_init 0 = .ok (.aload_n 0, 1) := dk_42 (dk_at dksJ7_init_0 0 rfl rfl)
theorem dJ7_init_1 : decode cJ7_init 1 = .ok (.aload_n 1, 1) := dk_43 (dk_at dksJ7_init_0 1 rfl rfl)
theorem dJ7_init_2 : decode cJ7_init 2 = .ok (.invokespecial 7, 3) := dk_183 0 7 (dk_at dksJ7_init_0 2 rfl rfl)
theorem dJ7_init_5 : decode cJ7_init 5 = .ok (.return_, 1) := dk_177 (dk_at dksJ7_init_0 5 rfl rfl)
abbrev cJ8_init : ByteArray := prog_31_method_2_code
def yJ8_init : MethodName := ⟨RJ8, "<init>", "(Ljava/lang/String;)V"⟩
def dkwJ8_init_0 : List UInt8 := [42, 43, 183, 0, 7, 177]
abbrev dktJ8_init_0 : List UInt8 := dkwJ8_init_0 ++ []
theorem dksJ8_init_0 : cJ8_init.data.toList.drop 0 = dktJ8_init_0 := by decide +kernel
theorem dJ8_init_0 : decode cJ8_init 0 = .ok (.aload_n 0, 1) := dk_42 (dk_at dksJ8_init_0 0 rfl rfl)
theorem dJ8_init_1 : decode cJ8_init 1 = .ok (.aload_n 1, 1) := dk_43 (dk_at dksJ8_init_0 1 rfl rfl)
theorem dJ8_init_2 : decode cJ8_init 2 = .ok (.invokespecial 7, 3) := dk_183 0 7 (dk_at dksJ8_init_0 2 rfl rfl)
theorem dJ8_init_5 : decode cJ8_init 5 = .ok (.return_, 1) := dk_177 (dk_at dksJ8_init_0 5 rfl rfl)
abbrev cJ18_init : ByteArray := prog_22_method_2_code
def yJ18_init : MethodName := ⟨RJ18, "<init>", "(Ljava/lang/String;)V"⟩
def dkwJ18_init_0 : List UInt8 := [42, 43, 183, 0, 7, 177]
abbrev dktJ18_init_0 : List UInt8 := dkwJ18_init_0 ++ []
theorem dksJ18_init_0 : cJ18_init.data.toList.drop 0 = dktJ18_init_0 := by decide +kernel
theorem dJ18_init_0 : decode cJ18_init 0 = .ok (.aload_n 0, 1) := dk_42 (dk_at dksJ18_init_0 0 rfl rfl)
theorem dJ18_init_1 : decode cJ18_init 1 = .ok (.aload_n 1, 1) := dk_43 (dk_at dksJ18_init_0 1 rfl rfl)
theorem dJ18_init_2 : decode cJ18_init 2 = .ok (.invokespecial 7, 3) := dk_183 0 7 (dk_at dksJ18_init_0 2 rfl rfl)
theorem dJ18_init_5 : decode cJ18_init 5 = .ok (.return_, 1) := dk_177 (dk_at dksJ18_init_0 5 rfl rfl)
abbrev cJ15_checkLength : ByteArray := prog_50_method_131_code
def yJ15_checkLength : MethodName := ⟨RJ15, "checkLength", "(II)V"⟩
def dkwJ15_checkLength_1 : List UInt8 := [182, 0, 50, 27, 182, 0, 54, 182, 0, 61, 183, 0, 65, 191, 177]
abbrev dktJ15_checkLength_1 : List UInt8 := dkwJ15_checkLength_1 ++ []
def dkwJ15_checkLength_0 : List UInt8 := [27, 26, 162, 0, 35, 187, 0, 43, 89, 187, 0, 45, 89, 183, 0, 47, 26, 182, 0, 54, 19, 1, 81]
abbrev dktJ15_checkLength_0 : List UInt8 := dkwJ15_checkLength_0 ++ dktJ15_checkLength_1
theorem dksJ15_checkLength_0 : cJ15_checkLength.data.toList.drop 0 = dktJ15_checkLength_0 := by decide +kernel
theorem dksJ15_checkLength_1 : cJ15_checkLength.data.toList.drop 23 = dktJ15_checkLength_1 := dk_seg dksJ15_checkLength_0 23 rfl rfl
theorem dJ15_checkLength_0 : decode cJ15_checkLength 0 = .ok (.iload_n 1, 1) := dk_27 (dk_at dksJ15_checkLength_0 0 rfl rfl)
theorem dJ15_checkLength_1 : decode cJ15_checkLength 1 = .ok (.iload_n 0, 1) := dk_26 (dk_at dksJ15_checkLength_0 1 rfl rfl)
theorem dJ15_checkLength_2 : decode cJ15_checkLength 2 = .ok (.if_icmp .ge 35, 3) := dk_162 0 35 (dk_at dksJ15_checkLength_0 2 rfl rfl)
theorem dJ15_checkLength_5 : decode cJ15_checkLength 5 = .ok (.new 43, 3) := dk_187 0 43 (dk_at dksJ15_checkLength_0 5 rfl rfl)
theorem dJ15_checkLength_8 : decode cJ15_checkLength 8 = .ok (.dup, 1) := dk_89 (dk_at dksJ15_checkLength_0 8 rfl rfl)
theorem dJ15_checkLength_9 : decode cJ15_checkLength 9 = .ok (.new 45, 3) := dk_187 0 45 (dk_at dksJ15_checkLength_0 9 rfl rfl)
theorem dJ15_checkLength_12 : decode cJ15_checkLength 12 = .ok (.dup, 1) := dk_89 (dk_at dksJ15_checkLength_0 12 rfl rfl)
theorem dJ15_checkLength_13 : decode cJ15_checkLength 13 = .ok (.invokespecial 47, 3) := dk_183 0 47 (dk_at dksJ15_checkLength_0 13 rfl rfl)
theorem dJ15_checkLength_16 : decode cJ15_checkLength 16 = .ok (.iload_n 0, 1) := dk_26 (dk_at dksJ15_checkLength_0 16 rfl rfl)
theorem dJ15_checkLength_17 : decode cJ15_checkLength 17 = .ok (.invokevirtual 54, 3) := dk_182 0 54 (dk_at dksJ15_checkLength_0 17 rfl rfl)
theorem dJ15_checkLength_20 : decode cJ15_checkLength 20 = .ok (.ldc_w 337, 3) := dk_19 1 81 (dk_at dksJ15_checkLength_0 20 rfl rfl)
theorem dJ15_checkLength_23 : decode cJ15_checkLength 23 = .ok (.invokevirtual 50, 3) := dk_182 0 50 (dk_at dksJ15_checkLength_1 0 rfl rfl)
theorem dJ15_checkLength_26 : decode cJ15_checkLength 26 = .ok (.iload_n 1, 1) := dk_27 (dk_at dksJ15_checkLength_1 3 rfl rfl)
theorem dJ15_checkLength_27 : decode cJ15_checkLength 27 = .ok (.invokevirtual 54, 3) := dk_182 0 54 (dk_at dksJ15_checkLength_1 4 rfl rfl)
theorem dJ15_checkLength_30 : decode cJ15_checkLength 30 = .ok (.invokevirtual 61, 3) := dk_182 0 61 (dk_at dksJ15_checkLength_1 7 rfl rfl)
theorem dJ15_checkLength_33 : decode cJ15_checkLength 33 = .ok (.invokespecial 65, 3) := dk_183 0 65 (dk_at dksJ15_checkLength_1 10 rfl rfl)
theorem dJ15_checkLength_36 : decode cJ15_checkLength 36 = .ok (.athrow, 1) := dk_191 (dk_at dksJ15_checkLength_1 13 rfl rfl)
theorem dJ15_checkLength_37 : decode cJ15_checkLength 37 = .ok (.return_, 1) := dk_177 (dk_at dksJ15_checkLength_1 14 rfl rfl)
abbrev cJ15_copyOfRangeByte : ByteArray := prog_50_method_133_code
def yJ15_copyOfRangeByte : MethodName := ⟨RJ15, "copyOfRangeByte", "([BII)[B"⟩
def dkwJ15_copyOfRangeByte_1 : List UInt8 := [184, 1, 48, 184, 0, 150, 25, 4, 176]
abbrev dktJ15_copyOfRangeByte_1 : List UInt8 := dkwJ15_copyOfRangeByte_1 ++ []
def dkwJ15_copyOfRangeByte_0 : List UInt8 := [27, 28, 184, 1, 87, 28, 27, 100, 62, 29, 188, 8, 58, 4, 42, 27, 25, 4, 3, 42, 190, 27, 100, 29]
abbrev dktJ15_copyOfRangeByte_0 : List UInt8 := dkwJ15_copyOfRangeByte_0 ++ dktJ15_copyOfRangeByte_1
theorem dksJ15_copyOfRangeByte_0 : cJ15_copyOfRangeByte.data.toList.drop 0 = dktJ15_copyOfRangeByte_0 := by decide +kernel
theorem dksJ15_copyOfRangeByte_1 : cJ15_copyOfRangeByte.data.toList.drop 24 = dktJ15_copyOfRangeByte_1 := dk_seg dksJ15_copyOfRangeByte_0 24 rfl rfl
theorem dJ15_copyOfRangeByte_0 : decode cJ15_copyOfRangeByte 0 = .ok (.iload_n 1, 1) := dk_27 (dk_at dksJ15_copyOfRangeByte_0 0 rfl rfl)
theorem dJ15_copyOfRangeByte_1 : decode cJ15_copyOfRangeByte 1 = .ok (.iload_n 2, 1) := dk_28 (dk_at dksJ15_copyOfRangeByte_0 1 rfl rfl)
theorem dJ15_copyOfRangeByte_2 : decode cJ15_copyOfRangeByte 2 = .ok (.invokestatic 343, 3) := dk_184 1 87 (dk_at dksJ15_copyOfRangeByte_0 2 rfl rfl)
theorem dJ15_copyOfRangeByte_5 : decode cJ15_copyOfRangeByte 5 = .ok (.iload_n 2, 1) := dk_28 (dk_at dksJ15_copyOfRangeByte_0 5 rfl rfl)
theorem dJ15_copyOfRangeByte_6 : decode cJ15_copyOfRangeByte 6 = .ok (.iload_n 1, 1) := dk_27 (dk_at dksJ15_copyOfRangeByte_0 6 rfl rfl)
theorem dJ15_copyOfRangeByte_7 : decode cJ15_copyOfRangeByte 7 = .ok (.isub, 1) := dk_100 (dk_at dksJ15_copyOfRangeByte_0 7 rfl rfl)
theorem dJ15_copyOfRangeByte_8 : decode cJ15_copyOfRangeByte 8 = .ok (.istore_n 3, 1) := dk_62 (dk_at dksJ15_copyOfRangeByte_0 8 rfl rfl)
theorem dJ15_copyOfRangeByte_9 : decode cJ15_copyOfRangeByte 9 = .ok (.iload_n 3, 1) := dk_29 (dk_at dksJ15_copyOfRangeByte_0 9 rfl rfl)
theorem dJ15_copyOfRangeByte_10 : decode cJ15_copyOfRangeByte 10 = .ok (.newarray .byte, 2) := dk_188_8 (dk_at dksJ15_copyOfRangeByte_0 10 rfl rfl)
theorem dJ15_copyOfRangeByte_12 : decode cJ15_copyOfRangeByte 12 = .ok (.astore 4, 2) := dk_58 4 (dk_at dksJ15_copyOfRangeByte_0 12 rfl rfl)
theorem dJ15_copyOfRangeByte_14 : decode cJ15_copyOfRangeByte 14 = .ok (.aload_n 0, 1) := dk_42 (dk_at dksJ15_copyOfRangeByte_0 14 rfl rfl)
theorem dJ15_copyOfRangeByte_15 : decode cJ15_copyOfRangeByte 15 = .ok (.iload_n 1, 1) := dk_27 (dk_at dksJ15_copyOfRangeByte_0 15 rfl rfl)
theorem dJ15_copyOfRangeByte_16 : decode cJ15_copyOfRangeByte 16 = .ok (.aload 4, 2) := dk_25 4 (dk_at dksJ15_copyOfRangeByte_0 16 rfl rfl)
theorem dJ15_copyOfRangeByte_18 : decode cJ15_copyOfRangeByte 18 = .ok (.iconst 0, 1) := dk_3 (dk_at dksJ15_copyOfRangeByte_0 18 rfl rfl)
theorem dJ15_copyOfRangeByte_19 : decode cJ15_copyOfRangeByte 19 = .ok (.aload_n 0, 1) := dk_42 (dk_at dksJ15_copyOfRangeByte_0 19 rfl rfl)
theorem dJ15_copyOfRangeByte_20 : decode cJ15_copyOfRangeByte 20 = .ok (.arraylength, 1) := dk_190 (dk_at dksJ15_copyOfRangeByte_0 20 rfl rfl)
theorem dJ15_copyOfRangeByte_21 : decode cJ15_copyOfRangeByte 21 = .ok (.iload_n 1, 1) := dk_27 (dk_at dksJ15_copyOfRangeByte_0 21 rfl rfl)
theorem dJ15_copyOfRangeByte_22 : decode cJ15_copyOfRangeByte 22 = .ok (.isub, 1) := dk_100 (dk_at dksJ15_copyOfRangeByte_0 22 rfl rfl)
theorem dJ15_copyOfRangeByte_23 : decode cJ15_copyOfRangeByte 23 = .ok (.iload_n 3, 1) := dk_29 (dk_at dksJ15_copyOfRangeByte_0 23 rfl rfl)
theorem dJ15_copyOfRangeByte_24 : decode cJ15_copyOfRangeByte 24 = .ok (.invokestatic 304, 3) := dk_184 1 48 (dk_at dksJ15_copyOfRangeByte_1 0 rfl rfl)
theorem dJ15_copyOfRangeByte_27 : decode cJ15_copyOfRangeByte 27 = .ok (.invokestatic 150, 3) := dk_184 0 150 (dk_at dksJ15_copyOfRangeByte_1 3 rfl rfl)
theorem dJ15_copyOfRangeByte_30 : decode cJ15_copyOfRangeByte 30 = .ok (.aload 4, 2) := dk_25 4 (dk_at dksJ15_copyOfRangeByte_1 6 rfl rfl)
theorem dJ15_copyOfRangeByte_32 : decode cJ15_copyOfRangeByte 32 = .ok (.areturn, 1) := dk_176 (dk_at dksJ15_copyOfRangeByte_1 8 rfl rfl)
abbrev cJ15_copyOfRange : ByteArray := prog_50_method_132_code
def yJ15_copyOfRange : MethodName := ⟨RJ15, "copyOfRange", "([BII)[B"⟩
def dkwJ15_copyOfRange_1 : List UInt8 := [176]
abbrev dktJ15_copyOfRange_1 : List UInt8 := dkwJ15_copyOfRange_1 ++ []
def dkwJ15_copyOfRange_0 : List UInt8 := [27, 154, 0, 9, 28, 42, 190, 159, 0, 10, 42, 27, 28, 184, 1, 83, 176, 42, 182, 1, 54, 192, 1, 55]
abbrev dktJ15_copyOfRange_0 : List UInt8 := dkwJ15_copyOfRange_0 ++ dktJ15_copyOfRange_1
theorem dksJ15_copyOfRange_0 : cJ15_copyOfRange.data.toList.drop 0 = dktJ15_copyOfRange_0 := by decide +kernel
theorem dksJ15_copyOfRange_1 : cJ15_copyOfRange.data.toList.drop 24 = dktJ15_copyOfRange_1 := dk_seg dksJ15_copyOfRange_0 24 rfl rfl
theorem dJ15_copyOfRange_0 : decode cJ15_copyOfRange 0 = .ok (.iload_n 1, 1) := dk_27 (dk_at dksJ15_copyOfRange_0 0 rfl rfl)
theorem dJ15_copyOfRange_1 : decode cJ15_copyOfRange 1 = .ok (.ifCond .ne 9, 3) := dk_154 0 9 (dk_at dksJ15_copyOfRange_0 1 rfl rfl)
theorem dJ15_copyOfRange_4 : decode cJ15_copyOfRange 4 = .ok (.iload_n 2, 1) := dk_28 (dk_at dksJ15_copyOfRange_0 4 rfl rfl)
theorem dJ15_copyOfRange_5 : decode cJ15_copyOfRange 5 = .ok (.aload_n 0, 1) := dk_42 (dk_at dksJ15_copyOfRange_0 5 rfl rfl)
theorem dJ15_copyOfRange_6 : decode cJ15_copyOfRange 6 = .ok (.arraylength, 1) := dk_190 (dk_at dksJ15_copyOfRange_0 6 rfl rfl)
theorem dJ15_copyOfRange_7 : decode cJ15_copyOfRange 7 = .ok (.if_icmp .eq 10, 3) := dk_159 0 10 (dk_at dksJ15_copyOfRange_0 7 rfl rfl)
theorem dJ15_copyOfRange_10 : decode cJ15_copyOfRange 10 = .ok (.aload_n 0, 1) := dk_42 (dk_at dksJ15_copyOfRange_0 10 rfl rfl)
theorem dJ15_copyOfRange_11 : decode cJ15_copyOfRange 11 = .ok (.iload_n 1, 1) := dk_27 (dk_at dksJ15_copyOfRange_0 11 rfl rfl)
theorem dJ15_copyOfRange_12 : decode cJ15_copyOfRange 12 = .ok (.iload_n 2, 1) := dk_28 (dk_at dksJ15_copyOfRange_0 12 rfl rfl)
theorem dJ15_copyOfRange_13 : decode cJ15_copyOfRange 13 = .ok (.invokestatic 339, 3) := dk_184 1 83 (dk_at dksJ15_copyOfRange_0 13 rfl rfl)
theorem dJ15_copyOfRange_16 : decode cJ15_copyOfRange 16 = .ok (.areturn, 1) := dk_176 (dk_at dksJ15_copyOfRange_0 16 rfl rfl)
theorem dJ15_copyOfRange_17 : decode cJ15_copyOfRange 17 = .ok (.aload_n 0, 1) := dk_42 (dk_at dksJ15_copyOfRange_0 17 rfl rfl)
theorem dJ15_copyOfRange_18 : decode cJ15_copyOfRange 18 = .ok (.invokevirtual 310, 3) := dk_182 1 54 (dk_at dksJ15_copyOfRange_0 18 rfl rfl)
theorem dJ15_copyOfRange_21 : decode cJ15_copyOfRange 21 = .ok (.checkcast 311, 3) := dk_192 1 55 (dk_at dksJ15_copyOfRange_0 21 rfl rfl)
theorem dJ15_copyOfRange_24 : decode cJ15_copyOfRange 24 = .ok (.areturn, 1) := dk_176 (dk_at dksJ15_copyOfRange_1 0 rfl rfl)
abbrev cJ5_coderFromArrayLen : ByteArray := prog_36_method_15_code
def yJ5_coderFromArrayLen : MethodName := ⟨RJ5, "coderFromArrayLen", "([BI)B"⟩
def dkwJ5_coderFromArrayLen_0 : List UInt8 := [27, 42, 190, 100, 16, 31, 124, 145, 172]
abbrev dktJ5_coderFromArrayLen_0 : List UInt8 := dkwJ5_coderFromArrayLen_0 ++ []
theorem dksJ5_coderFromArrayLen_0 : cJ5_coderFromArrayLen.data.toList.drop 0 = dktJ5_coderFromArrayLen_0 := by decide +kernel
theorem dJ5_coderFromArrayLen_0 : decode cJ5_coderFromArrayLen 0 = .ok (.iload_n 1, 1) := dk_27 (dk_at dksJ5_coderFromArrayLen_0 0 rfl rfl)
theorem dJ5_coderFromArrayLen_1 : decode cJ5_coderFromArrayLen 1 = .ok (.aload_n 0, 1) := dk_42 (dk_at dksJ5_coderFromArrayLen_0 1 rfl rfl)
theorem dJ5_coderFromArrayLen_2 : decode cJ5_coderFromArrayLen 2 = .ok (.arraylength, 1) := dk_190 (dk_at dksJ5_coderFromArrayLen_0 2 rfl rfl)
theorem dJ5_coderFromArrayLen_3 : decode cJ5_coderFromArrayLen 3 = .ok (.isub, 1) := dk_100 (dk_at dksJ5_coderFromArrayLen_0 3 rfl rfl)
theorem dJ5_coderFromArrayLen_4 : decode cJ5_coderFromArrayLen 4 = .ok (.bipush 31, 2) := dk_16 31 (dk_at dksJ5_coderFromArrayLen_0 4 rfl rfl)
theorem dJ5_coderFromArrayLen_6 : decode cJ5_coderFromArrayLen 6 = .ok (.iushr, 1) := dk_124 (dk_at dksJ5_coderFromArrayLen_0 6 rfl rfl)
theorem dJ5_coderFromArrayLen_7 : decode cJ5_coderFromArrayLen 7 = .ok (.i2b, 1) := dk_145 (dk_at dksJ5_coderFromArrayLen_0 7 rfl rfl)
theorem dJ5_coderFromArrayLen_8 : decode cJ5_coderFromArrayLen 8 = .ok (.ireturn, 1) := dk_172 (dk_at dksJ5_coderFromArrayLen_0 8 rfl rfl)
abbrev cJ4_init_2 : ByteArray := prog_32_method_150_code
def yJ4_init_2 : MethodName := ⟨RJ4, "<init>", "(Ljava/lang/AbstractStringBuilder;Ljava/lang/Void;)V"⟩
def dkwJ4_init_2_4 : List UInt8 := [181, 0, 9, 177]
abbrev dktJ4_init_2_4 : List UInt8 := dkwJ4_init_2_4 ++ []
def dkwJ4_init_2_3 : List UInt8 := [184, 0, 47, 181, 0, 15, 177, 42, 4, 181, 0, 15, 42, 45, 3, 21, 4, 4, 120, 184, 0, 54]
abbrev dktJ4_init_2_3 : List UInt8 := dkwJ4_init_2_3 ++ dktJ4_init_2_4
def dkwJ4_init_2_2 : List UInt8 := [180, 4, 24, 153, 0, 28, 42, 45, 3, 21, 4, 184, 4, 27, 181, 0, 9, 42, 42, 180, 0, 9, 21, 4]
abbrev dktJ4_init_2_2 : List UInt8 := dkwJ4_init_2_2 ++ dktJ4_init_2_3
def dkwJ4_init_2_1 : List UInt8 := [181, 0, 15, 42, 45, 3, 21, 4, 184, 0, 54, 181, 0, 9, 167, 0, 59, 178, 0, 38, 153, 0, 35, 43]
abbrev dktJ4_init_2_1 : List UInt8 := dkwJ4_init_2_1 ++ dktJ4_init_2_2
def dkwJ4_init_2_0 : List UInt8 := [42, 183, 0, 1, 43, 182, 2, 40, 78, 43, 182, 2, 37, 54, 4, 43, 182, 4, 23, 153, 0, 22, 42, 3]
abbrev dktJ4_init_2_0 : List UInt8 := dkwJ4_init_2_0 ++ dktJ4_init_2_1
theorem dksJ4_init_2_0 : cJ4_init_2.data.toList.drop 0 = dktJ4_init_2_0 := by decide +kernel
theorem dksJ4_init_2_1 : cJ4_init_2.data.toList.drop 24 = dktJ4_init_2_1 := dk_seg dksJ4_init_2_0 24 rfl rfl
theorem dksJ4_init_2_2 : cJ4_init_2.data.toList.drop 48 = dktJ4_init_2_2 := dk_seg dksJ4_init_2_1 24 rfl rfl
theorem dksJ4_init_2_3 : cJ4_init_2.data.toList.drop 72 = dktJ4_init_2_3 := dk_seg dksJ4_init_2_2 24 rfl rfl
theorem dksJ4_init_2_4 : cJ4_init_2.data.toList.drop 94 = dktJ4_init_2_4 := dk_seg dksJ4_init_2_3 22 rfl rfl
theorem dJ4_init_2_0 : decode cJ4_init_2 0 = .ok (.aload_n 0, 1) := dk_42 (dk_at dksJ4_init_2_0 0 rfl rfl)
theorem dJ4_init_2_1 : decode cJ4_init_2 1 = .ok (.invokespecial 1, 3) := dk_183 0 1 (dk_at dksJ4_init_2_0 1 rfl rfl)
theorem dJ4_init_2_4 : decode cJ4_init_2 4 = .ok (.aload_n 1, 1) := dk_43 (dk_at dksJ4_init_2_0 4 rfl rfl)
theorem dJ4_init_2_5 : decode cJ4_init_2 5 = .ok (.invokevirtual 552, 3) := dk_182 2 40 (dk_at dksJ4_init_2_0 5 rfl rfl)
theorem dJ4_init_2_8 : decode cJ4_init_2 8 = .ok (.astore_n 3, 1) := dk_78 (dk_at dksJ4_init_2_0 8 rfl rfl)
theorem dJ4_init_2_9 : decode cJ4_init_2 9 = .ok (.aload_n 1, 1) := dk_43 (dk_at dksJ4_init_2_0 9 rfl rfl)
theorem dJ4_init_2_10 : decode cJ4_init_2 10 = .ok (.invokevirtual 549, 3) := dk_182 2 37 (dk_at dksJ4_init_2_0 10 rfl rfl)
theorem dJ4_init_2_13 : decode cJ4_init_2 13 = .ok (.istore 4, 2) := dk_54 4 (dk_at dksJ4_init_2_0 13 rfl rfl)
theorem dJ4_init_2_15 : decode cJ4_init_2 15 = .ok (.aload_n 1, 1) := dk_43 (dk_at dksJ4_init_2_0 15 rfl rfl)
theorem dJ4_init_2_16 : decode cJ4_init_2 16 = .ok (.invokevirtual 1047, 3) := dk_182 4 23 (dk_at dksJ4_init_2_0 16 rfl rfl)
theorem dJ4_init_2_19 : decode cJ4_init_2 19 = .ok (.ifCond .eq 22, 3) := dk_153 0 22 (dk_at dksJ4_init_2_0 19 rfl rfl)
theorem dJ4_init_2_22 : decode cJ4_init_2 22 = .ok (.aload_n 0, 1) := dk_42 (dk_at dksJ4_init_2_0 22 rfl rfl)
theorem dJ4_init_2_23 : decode cJ4_init_2 23 = .ok (.iconst 0, 1) := dk_3 (dk_at dksJ4_init_2_0 23 rfl rfl)
theorem dJ4_init_2_24 : decode cJ4_init_2 24 = .ok (.putfield 15, 3) := dk_181 0 15 (dk_at dksJ4_init_2_1 0 rfl rfl)
theorem dJ4_init_2_27 : decode cJ4_init_2 27 = .ok (.aload_n 0, 1) := dk_42 (dk_at dksJ4_init_2_1 3 rfl rfl)
theorem dJ4_init_2_28 : decode cJ4_init_2 28 = .ok (.aload_n 3, 1) := dk_45 (dk_at dksJ4_init_2_1 4 rfl rfl)
theorem dJ4_init_2_29 : decode cJ4_init_2 29 = .ok (.iconst 0, 1) := dk_3 (dk_at dksJ4_init_2_1 5 rfl rfl)
theorem dJ4_init_2_30 : decode cJ4_init_2 30 = .ok (.iload 4, 2) := dk_21 4 (dk_at dksJ4_init_2_1 6 rfl rfl)
theorem dJ4_init_2_32 : decode cJ4_init_2 32 = .ok (.invokestatic 54, 3) := dk_184 0 54 (dk_at dksJ4_init_2_1 8 rfl rfl)
theorem dJ4_init_2_35 : decode cJ4_init_2 35 = .ok (.putfield 9, 3) := dk_181 0 9 (dk_at dksJ4_init_2_1 11 rfl rfl)
theorem dJ4_init_2_38 : decode cJ4_init_2 38 = .ok (.goto 59, 3) := dk_167 0 59 (dk_at dksJ4_init_2_1 14 rfl rfl)
theorem dJ4_init_2_41 : decode cJ4_init_2 41 = .ok (.getstatic 38, 3) := dk_178 0 38 (dk_at dksJ4_init_2_1 17 rfl rfl)
theorem dJ4_init_2_44 : decode cJ4_init_2 44 = .ok (.ifCond .eq 35, 3) := dk_153 0 35 (dk_at dksJ4_init_2_1 20 rfl rfl)
theorem dJ4_init_2_47 : decode cJ4_init_2 47 = .ok (.aload_n 1, 1) := dk_43 (dk_at dksJ4_init_2_1 23 rfl rfl)
theorem dJ4_init_2_48 : decode cJ4_init_2 48 = .ok (.getfield 1048, 3) := dk_180 4 24 (dk_at dksJ4_init_2_2 0 rfl rfl)
theorem dJ4_init_2_51 : decode cJ4_init_2 51 = .ok (.ifCond .eq 28, 3) := dk_153 0 28 (dk_at dksJ4_init_2_2 3 rfl rfl)
theorem dJ4_init_2_54 : decode cJ4_init_2 54 = .ok (.aload_n 0, 1) := dk_42 (dk_at dksJ4_init_2_2 6 rfl rfl)
theorem dJ4_init_2_55 : decode cJ4_init_2 55 = .ok (.aload_n 3, 1) := dk_45 (dk_at dksJ4_init_2_2 7 rfl rfl)
theorem dJ4_init_2_56 : decode cJ4_init_2 56 = .ok (.iconst 0, 1) := dk_3 (dk_at dksJ4_init_2_2 8 rfl rfl)
theorem dJ4_init_2_57 : decode cJ4_init_2 57 = .ok (.iload 4, 2) := dk_21 4 (dk_at dksJ4_init_2_2 9 rfl rfl)
theorem dJ4_init_2_59 : decode cJ4_init_2 59 = .ok (.invokestatic 1051, 3) := dk_184 4 27 (dk_at dksJ4_init_2_2 11 rfl rfl)
theorem dJ4_init_2_62 : decode cJ4_init_2 62 = .ok (.putfield 9, 3) := dk_181 0 9 (dk_at dksJ4_init_2_2 14 rfl rfl)
theorem dJ4_init_2_65 : decode cJ4_init_2 65 = .ok (.aload_n 0, 1) := dk_42 (dk_at dksJ4_init_2_2 17 rfl rfl)
theorem dJ4_init_2_66 : decode cJ4_init_2 66 = .ok (.aload_n 0, 1) := dk_42 (dk_at dksJ4_init_2_2 18 rfl rfl)
theorem dJ4_init_2_67 : decode cJ4_init_2 67 = .ok (.getfield 9, 3) := dk_180 0 9 (dk_at dksJ4_init_2_2 19 rfl rfl)
theorem dJ4_init_2_70 : decode cJ4_init_2 70 = .ok (.iload 4, 2) := dk_21 4 (dk_at dksJ4_init_2_2 22 rfl rfl)
theorem dJ4_init_2_72 : decode cJ4_init_2 72 = .ok (.invokestatic 47, 3) := dk_184 0 47 (dk_at dksJ4_init_2_3 0 rfl rfl)
theorem dJ4_init_2_75 : decode cJ4_init_2 75 = .ok (.putfield 15, 3) := dk_181 0 15 (dk_at dksJ4_init_2_3 3 rfl rfl)
theorem dJ4_init_2_78 : decode cJ4_init_2 78 = .ok (.return_, 1) := dk_177 (dk_at dksJ4_init_2_3 6 rfl rfl)
theorem dJ4_init_2_79 : decode cJ4_init_2 79 = .ok (.aload_n 0, 1) := dk_42 (dk_at dksJ4_init_2_3 7 rfl rfl)
theorem dJ4_init_2_80 : decode cJ4_init_2 80 = .ok (.iconst 1, 1) := dk_4 (dk_at dksJ4_init_2_3 8 rfl rfl)
theorem dJ4_init_2_81 : decode cJ4_init_2 81 = .ok (.putfield 15, 3) := dk_181 0 15 (dk_at dksJ4_init_2_3 9 rfl rfl)
theorem dJ4_init_2_84 : decode cJ4_init_2 84 = .ok (.aload_n 0, 1) := dk_42 (dk_at dksJ4_init_2_3 12 rfl rfl)
theorem dJ4_init_2_85 : decode cJ4_init_2 85 = .ok (.aload_n 3, 1) := dk_45 (dk_at dksJ4_init_2_3 13 rfl rfl)
theorem dJ4_init_2_86 : decode cJ4_init_2 86 = .ok (.iconst 0, 1) := dk_3 (dk_at dksJ4_init_2_3 14 rfl rfl)
theorem dJ4_init_2_87 : decode cJ4_init_2 87 = .ok (.iload 4, 2) := dk_21 4 (dk_at dksJ4_init_2_3 15 rfl rfl)
theorem dJ4_init_2_89 : decode cJ4_init_2 89 = .ok (.iconst 1, 1) := dk_4 (dk_at dksJ4_init_2_3 17 rfl rfl)
theorem dJ4_init_2_90 : decode cJ4_init_2 90 = .ok (.ishl, 1) := dk_120 (dk_at dksJ4_init_2_3 18 rfl rfl)
theorem dJ4_init_2_91 : decode cJ4_init_2 91 = .ok (.invokestatic 54, 3) := dk_184 0 54 (dk_at dksJ4_init_2_3 19 rfl rfl)
theorem dJ4_init_2_94 : decode cJ4_init_2 94 = .ok (.putfield 9, 3) := dk_181 0 9 (dk_at dksJ4_init_2_4 0 rfl rfl)
theorem dJ4_init_2_97 : decode cJ4_init_2 97 = .ok (.return_, 1) := dk_177 (dk_at dksJ4_init_2_4 3 rfl rfl)
abbrev cJ4_init : ByteArray := prog_32_method_53_code
def yJ4_init : MethodName := ⟨RJ4, "<init>", "(Ljava/lang/StringBuilder;)V"⟩
def dkwJ4_init_0 : List UInt8 := [42, 43, 1, 183, 1, 233, 177]
abbrev dktJ4_init_0 : List UInt8 := dkwJ4_init_0 ++ []
theorem dksJ4_init_0 : cJ4_init.data.toList.drop 0 = dktJ4_init_0 := by decide +kernel
theorem dJ4_init_0 : decode cJ4_init 0 = .ok (.aload_n 0, 1) := dk_42 (dk_at dksJ4_init_0 0 rfl rfl)
theorem dJ4_init_1 : decode cJ4_init 1 = .ok (.aload_n 1, 1) := dk_43 (dk_at dksJ4_init_0 1 rfl rfl)
theorem dJ4_init_2 : decode cJ4_init 2 = .ok (.aconst_null, 1) := dk_1 (dk_at dksJ4_init_0 2 rfl rfl)
theorem dJ4_init_3 : decode cJ4_init 3 = .ok (.invokespecial 489, 3) := dk_183 1 233 (dk_at dksJ4_init_0 3 rfl rfl)
theorem dJ4_init_6 : decode cJ4_init 6 = .ok (.return_, 1) := dk_177 (dk_at dksJ4_init_0 6 rfl rfl)
abbrev cJ3_toString : ByteArray := prog_33_method_42_code
def yJ3_toString : MethodName := ⟨RJ3, "toString", "()Ljava/lang/String;"⟩
def dkwJ3_toString_0 : List UInt8 := [187, 0, 18, 89, 42, 183, 0, 137, 176]
abbrev dktJ3_toString_0 : List UInt8 := dkwJ3_toString_0 ++ []
theorem dksJ3_toString_0 : cJ3_toString.data.toList.drop 0 = dktJ3_toString_0 := by decide +kernel
theorem dJ3_toString_0 : decode cJ3_toString 0 = .ok (.new 18, 3) := dk_187 0 18 (dk_at dksJ3_toString_0 0 rfl rfl)
theorem dJ3_toString_3 : decode cJ3_toString 3 = .ok (.dup, 1) := dk_89 (dk_at dksJ3_toString_0 3 rfl rfl)
theorem dJ3_toString_4 : decode cJ3_toString 4 = .ok (.aload_n 0, 1) := dk_42 (dk_at dksJ3_toString_0 4 rfl rfl)
theorem dJ3_toString_5 : decode cJ3_toString 5 = .ok (.invokespecial 137, 3) := dk_183 0 137 (dk_at dksJ3_toString_0 5 rfl rfl)
theorem dJ3_toString_8 : decode cJ3_toString 8 = .ok (.areturn, 1) := dk_176 (dk_at dksJ3_toString_0 8 rfl rfl)
abbrev cX3_letters : ByteArray := prog_8_method_4_code
def yX3_letters : MethodName := ⟨RX3, "letters", "(II)Ljava/lang/String;"⟩
def dkwX3_letters_1 : List UInt8 := [146, 182, 0, 50, 87, 132, 4, 1, 167, 255, 235, 45, 182, 0, 54, 176]
abbrev dktX3_letters_1 : List UInt8 := dkwX3_letters_1 ++ []
def dkwX3_letters_0 : List UInt8 := [187, 0, 47, 89, 183, 0, 49, 78, 27, 54, 4, 21, 4, 28, 162, 0, 21, 45, 42, 21, 4, 182, 0, 39]
abbrev dktX3_letters_0 : List UInt8 := dkwX3_letters_0 ++ dktX3_letters_1
theorem dksX3_letters_0 : cX3_letters.data.toList.drop 0 = dktX3_letters_0 := by decide +kernel
theorem dksX3_letters_1 : cX3_letters.data.toList.drop 24 = dktX3_letters_1 := dk_seg dksX3_letters_0 24 rfl rfl
theorem dX3_letters_0 : decode cX3_letters 0 = .ok (.new 47, 3) := dk_187 0 47 (dk_at dksX3_letters_0 0 rfl rfl)
theorem dX3_letters_3 : decode cX3_letters 3 = .ok (.dup, 1) := dk_89 (dk_at dksX3_letters_0 3 rfl rfl)
theorem dX3_letters_4 : decode cX3_letters 4 = .ok (.invokespecial 49, 3) := dk_183 0 49 (dk_at dksX3_letters_0 4 rfl rfl)
theorem dX3_letters_7 : decode cX3_letters 7 = .ok (.astore_n 3, 1) := dk_78 (dk_at dksX3_letters_0 7 rfl rfl)
theorem dX3_letters_8 : decode cX3_letters 8 = .ok (.iload_n 1, 1) := dk_27 (dk_at dksX3_letters_0 8 rfl rfl)
theorem dX3_letters_9 : decode cX3_letters 9 = .ok (.istore 4, 2) := dk_54 4 (dk_at dksX3_letters_0 9 rfl rfl)
theorem dX3_letters_11 : decode cX3_letters 11 = .ok (.iload 4, 2) := dk_21 4 (dk_at dksX3_letters_0 11 rfl rfl)
theorem dX3_letters_13 : decode cX3_letters 13 = .ok (.iload_n 2, 1) := dk_28 (dk_at dksX3_letters_0 13 rfl rfl)
theorem dX3_letters_14 : decode cX3_letters 14 = .ok (.if_icmp .ge 21, 3) := dk_162 0 21 (dk_at dksX3_letters_0 14 rfl rfl)
theorem dX3_letters_17 : decode cX3_letters 17 = .ok (.aload_n 3, 1) := dk_45 (dk_at dksX3_letters_0 17 rfl rfl)
theorem dX3_letters_18 : decode cX3_letters 18 = .ok (.aload_n 0, 1) := dk_42 (dk_at dksX3_letters_0 18 rfl rfl)
theorem dX3_letters_19 : decode cX3_letters 19 = .ok (.iload 4, 2) := dk_21 4 (dk_at dksX3_letters_0 19 rfl rfl)
theorem dX3_letters_21 : decode cX3_letters 21 = .ok (.invokevirtual 39, 3) := dk_182 0 39 (dk_at dksX3_letters_0 21 rfl rfl)
theorem dX3_letters_24 : decode cX3_letters 24 = .ok (.i2c, 1) := dk_146 (dk_at dksX3_letters_1 0 rfl rfl)
theorem dX3_letters_25 : decode cX3_letters 25 = .ok (.invokevirtual 50, 3) := dk_182 0 50 (dk_at dksX3_letters_1 1 rfl rfl)
theorem dX3_letters_28 : decode cX3_letters 28 = .ok (.pop, 1) := dk_87 (dk_at dksX3_letters_1 4 rfl rfl)
theorem dX3_letters_29 : decode cX3_letters 29 = .ok (.iinc 4 1, 3) := dk_132 4 1 (dk_at dksX3_letters_1 5 rfl rfl)
theorem dX3_letters_32 : decode cX3_letters 32 = .ok (.goto (-21), 3) := dk_167 255 235 (dk_at dksX3_letters_1 8 rfl rfl)
theorem dX3_letters_35 : decode cX3_letters 35 = .ok (.aload_n 3, 1) := dk_45 (dk_at dksX3_letters_1 11 rfl rfl)
theorem dX3_letters_36 : decode cX3_letters 36 = .ok (.invokevirtual 54, 3) := dk_182 0 54 (dk_at dksX3_letters_1 12 rfl rfl)
theorem dX3_letters_39 : decode cX3_letters 39 = .ok (.areturn, 1) := dk_176 (dk_at dksX3_letters_1 15 rfl rfl)
abbrev cX3_step : ByteArray := prog_8_method_5_code
def yX3_step : MethodName := ⟨RX3, "step", "()V"⟩
def dkwX3_step_12 : List UInt8 := [96, 181, 0, 58, 177]
abbrev dktX3_step_12 : List UInt8 := dkwX3_step_12 ++ []
def dkwX3_step_11 : List UInt8 := [167, 0, 28, 42, 27, 16, 59, 160, 0, 7, 5, 167, 0, 4, 7, 181, 0, 64, 42, 89, 180, 0, 58, 4]
abbrev dktX3_step_11 : List UInt8 := dkwX3_step_11 ++ dktX3_step_12
def dkwX3_step_10 : List UInt8 := [180, 0, 83, 104, 42, 28, 182, 0, 39, 96, 16, 48, 100, 181, 0, 83, 132, 2, 1, 167, 255, 217]
abbrev dktX3_step_10 : List UInt8 := dkwX3_step_10 ++ dktX3_step_11
def dkwX3_step_9 : List UInt8 := [180, 0, 61, 61, 28, 42, 180, 0, 58, 162, 0, 37, 42, 180, 0, 64, 4, 160, 0, 29, 42, 16, 10, 42]
abbrev dktX3_step_9 : List UInt8 := dkwX3_step_9 ++ dktX3_step_10
def dkwX3_step_8 : List UInt8 := [42, 180, 0, 61, 100, 6, 163, 0, 7, 4, 167, 0, 4, 7, 181, 0, 64, 42, 3, 181, 0, 83, 42]
abbrev dktX3_step_8 : List UInt8 := dkwX3_step_8 ++ dktX3_step_9
def dkwX3_step_7 : List UInt8 := [153, 0, 96, 42, 42, 42, 180, 0, 61, 16, 48, 16, 57, 182, 0, 71, 181, 0, 58, 42, 42, 180, 0, 58]
abbrev dktX3_step_7 : List UInt8 := dkwX3_step_7 ++ dktX3_step_8
def dkwX3_step_6 : List UInt8 := [167, 0, 5, 18, 22, 181, 0, 24, 167, 0, 135, 27, 133, 20, 0, 79, 20, 0, 81, 184, 0, 43]
abbrev dktX3_step_6 : List UInt8 := dkwX3_step_6 ++ dktX3_step_7
def dkwX3_step_5 : List UInt8 := [181, 0, 64, 42, 42, 180, 0, 64, 154, 0, 18, 42, 42, 180, 0, 61, 42, 180, 0, 58, 182, 0, 75]
abbrev dktX3_step_5 : List UInt8 := dkwX3_step_5 ++ dktX3_step_6
def dkwX3_step_4 : List UInt8 := [181, 0, 58, 42, 42, 180, 0, 58, 42, 180, 0, 61, 100, 16, 6, 163, 0, 7, 3, 167, 0, 4, 7]
abbrev dktX3_step_4 : List UInt8 := dkwX3_step_4 ++ dktX3_step_5
def dkwX3_step_3 : List UInt8 := [20, 0, 69, 184, 0, 43, 153, 0, 73, 42, 42, 42, 180, 0, 61, 16, 97, 16, 122, 182, 0, 71]
abbrev dktX3_step_3 : List UInt8 := dkwX3_step_3 ++ dktX3_step_4
def dkwX3_step_2 : List UInt8 := [182, 0, 39, 60, 27, 2, 160, 0, 11, 42, 6, 181, 0, 64, 167, 0, 219, 27, 133, 20, 0, 67]
abbrev dktX3_step_2 : List UInt8 := dkwX3_step_2 ++ dktX3_step_3
def dkwX3_step_1 : List UInt8 := [167, 255, 233, 42, 42, 180, 0, 58, 181, 0, 61, 42, 18, 22, 181, 0, 24, 42, 42, 180, 0, 61]
abbrev dktX3_step_1 : List UInt8 := dkwX3_step_1 ++ dktX3_step_2
def dkwX3_step_0 : List UInt8 := [42, 42, 180, 0, 58, 182, 0, 39, 16, 32, 160, 0, 16, 42, 89, 180, 0, 58, 4, 96, 181, 0, 58]
abbrev dktX3_step_0 : List UInt8 := dkwX3_step_0 ++ dktX3_step_1
theorem dksX3_step_0 : cX3_step.data.toList.drop 0 = dktX3_step_0 := by decide +kernel
theorem dksX3_step_1 : cX3_step.data.toList.drop 23 = dktX3_step_1 := dk_seg dksX3_step_0 23 rfl rfl
theorem dksX3_step_2 : cX3_step.data.toList.drop 45 = dktX3_step_2 := dk_seg dksX3_step_1 22 rfl rfl
theorem dksX3_step_3 : cX3_step.data.toList.drop 67 = dktX3_step_3 := dk_seg dksX3_step_2 22 rfl rfl
theorem dksX3_step_4 : cX3_step.data.toList.drop 89 = dktX3_step_4 := dk_seg dksX3_step_3 22 rfl rfl
theorem dksX3_step_5 : cX3_step.data.toList.drop 112 = dktX3_step_5 := dk_seg dksX3_step_4 23 rfl rfl
theorem dksX3_step_6 : cX3_step.data.toList.drop 135 = dktX3_step_6 := dk_seg dksX3_step_5 23 rfl rfl
theorem dksX3_step_7 : cX3_step.data.toList.drop 157 = dktX3_step_7 := dk_seg dksX3_step_6 22 rfl rfl
theorem dksX3_step_8 : cX3_step.data.toList.drop 181 = dktX3_step_8 := dk_seg dksX3_step_7 24 rfl rfl
theorem dksX3_step_9 : cX3_step.data.toList.drop 204 = dktX3_step_9 := dk_seg dksX3_step_8 23 rfl rfl
theorem dksX3_step_10 : cX3_step.data.toList.drop 228 = dktX3_step_10 := dk_seg dksX3_step_9 24 rfl rfl
theorem dksX3_step_11 : cX3_step.data.toList.drop 250 = dktX3_step_11 := dk_seg dksX3_step_10 22 rfl rfl
theorem dksX3_step_12 : cX3_step.data.toList.drop 274 = dktX3_step_12 := dk_seg dksX3_step_11 24 rfl rfl
theorem dX3_step_0 : decode cX3_step 0 = .ok (.aload_n 0, 1) := dk_42 (dk_at dksX3_step_0 0 rfl rfl)
theorem dX3_step_1 : decode cX3_step 1 = .ok (.aload_n 0, 1) := dk_42 (dk_at dksX3_step_0 1 rfl rfl)
theorem dX3_step_2 : decode cX3_step 2 = .ok (.getfield 58, 3) := dk_180 0 58 (dk_at dksX3_step_0 2 rfl rfl)
theorem dX3_step_5 : decode cX3_step 5 = .ok (.invokevirtual 39, 3) := dk_182 0 39 (dk_at dksX3_step_0 5 rfl rfl)
theorem dX3_step_8 : decode cX3_step 8 = .ok (.bipush 32, 2) := dk_16 32 (dk_at dksX3_step_0 8 rfl rfl)
theorem dX3_step_10 : decode cX3_step 10 = .ok (.if_icmp .ne 16, 3) := dk_160 0 16 (dk_at dksX3_step_0 10 rfl rfl)
theorem dX3_step_13 : decode cX3_step 13 = .ok (.aload_n 0, 1) := dk_42 (dk_at dksX3_step_0 13 rfl rfl)
theorem dX3_step_14 : decode cX3_step 14 = .ok (.dup, 1) := dk_89 (dk_at dksX3_step_0 14 rfl rfl)
theorem dX3_step_15 : decode cX3_step 15 = .ok (.getfield 58, 3) := dk_180 0 58 (dk_at dksX3_step_0 15 rfl rfl)
theorem dX3_step_18 : decode cX3_step 18 = .ok (.iconst 1, 1) := dk_4 (dk_at dksX3_step_0 18 rfl rfl)
theorem dX3_step_19 : decode cX3_step 19 = .ok (.iadd, 1) := dk_96 (dk_at dksX3_step_0 19 rfl rfl)
theorem dX3_step_20 : decode cX3_step 20 = .ok (.putfield 58, 3) := dk_181 0 58 (dk_at dksX3_step_0 20 rfl rfl)
theorem dX3_step_23 : decode cX3_step 23 = .ok (.goto (-23), 3) := dk_167 255 233 (dk_at dksX3_step_1 0 rfl rfl)
theorem dX3_step_26 : decode cX3_step 26 = .ok (.aload_n 0, 1) := dk_42 (dk_at dksX3_step_1 3 rfl rfl)
theorem dX3_step_27 : decode cX3_step 27 = .ok (.aload_n 0, 1) := dk_42 (dk_at dksX3_step_1 4 rfl rfl)
theorem dX3_step_28 : decode cX3_step 28 = .ok (.getfield 58, 3) := dk_180 0 58 (dk_at dksX3_step_1 5 rfl rfl)
theorem dX3_step_31 : decode cX3_step 31 = .ok (.putfield 61, 3) := dk_181 0 61 (dk_at dksX3_step_1 8 rfl rfl)
theorem dX3_step_34 : decode cX3_step 34 = .ok (.aload_n 0, 1) := dk_42 (dk_at dksX3_step_1 11 rfl rfl)
theorem dX3_step_35 : decode cX3_step 35 = .ok (.ldc 22, 2) := dk_18 22 (dk_at dksX3_step_1 12 rfl rfl)
theorem dX3_step_37 : decode cX3_step 37 = .ok (.putfield 24, 3) := dk_181 0 24 (dk_at dksX3_step_1 14 rfl rfl)
theorem dX3_step_40 : decode cX3_step 40 = .ok (.aload_n 0, 1) := dk_42 (dk_at dksX3_step_1 17 rfl rfl)
theorem dX3_step_41 : decode cX3_step 41 = .ok (.aload_n 0, 1) := dk_42 (dk_at dksX3_step_1 18 rfl rfl)
theorem dX3_step_42 : decode cX3_step 42 = .ok (.getfield 61, 3) := dk_180 0 61 (dk_at dksX3_step_1 19 rfl rfl)
theorem dX3_step_45 : decode cX3_step 45 = .ok (.invokevirtual 39, 3) := dk_182 0 39 (dk_at dksX3_step_2 0 rfl rfl)
theorem dX3_step_48 : decode cX3_step 48 = .ok (.istore_n 1, 1) := dk_60 (dk_at dksX3_step_2 3 rfl rfl)
theorem dX3_step_49 : decode cX3_step 49 = .ok (.iload_n 1, 1) := dk_27 (dk_at dksX3_step_2 4 rfl rfl)
theorem dX3_step_50 : decode cX3_step 50 = .ok (.iconst (-1), 1) := dk_2 (dk_at dksX3_step_2 5 rfl rfl)
theorem dX3_step_51 : decode cX3_step 51 = .ok (.if_icmp .ne 11, 3) := dk_160 0 11 (dk_at dksX3_step_2 6 rfl rfl)
theorem dX3_step_54 : decode cX3_step 54 = .ok (.aload_n 0, 1) := dk_42 (dk_at dksX3_step_2 9 rfl rfl)
theorem dX3_step_55 : decode cX3_step 55 = .ok (.iconst 3, 1) := dk_6 (dk_at dksX3_step_2 10 rfl rfl)
theorem dX3_step_56 : decode cX3_step 56 = .ok (.putfield 64, 3) := dk_181 0 64 (dk_at dksX3_step_2 11 rfl rfl)
theorem dX3_step_59 : decode cX3_step 59 = .ok (.goto 219, 3) := dk_167 0 219 (dk_at dksX3_step_2 14 rfl rfl)
theorem dX3_step_62 : decode cX3_step 62 = .ok (.iload_n 1, 1) := dk_27 (dk_at dksX3_step_2 17 rfl rfl)
theorem dX3_step_63 : decode cX3_step 63 = .ok (.i2l, 1) := dk_133 (dk_at dksX3_step_2 18 rfl rfl)
theorem dX3_step_64 : decode cX3_step 64 = .ok (.ldc2_w 67, 3) := dk_20 0 67 (dk_at dksX3_step_2 19 rfl rfl)
theorem dX3_step_67 : decode cX3_step 67 = .ok (.ldc2_w 69, 3) := dk_20 0 69 (dk_at dksX3_step_3 0 rfl rfl)
theorem dX3_step_70 : decode cX3_step 70 = .ok (.invokestatic 43, 3) := dk_184 0 43 (dk_at dksX3_step_3 3 rfl rfl)
theorem dX3_step_73 : decode cX3_step 73 = .ok (.ifCond .eq 73, 3) := dk_153 0 73 (dk_at dksX3_step_3 6 rfl rfl)
theorem dX3_step_76 : decode cX3_step 76 = .ok (.aload_n 0, 1) := dk_42 (dk_at dksX3_step_3 9 rfl rfl)
theorem dX3_step_77 : decode cX3_step 77 = .ok (.aload_n 0, 1) := dk_42 (dk_at dksX3_step_3 10 rfl rfl)
theorem dX3_step_78 : decode cX3_step 78 = .ok (.aload_n 0, 1) := dk_42 (dk_at dksX3_step_3 11 rfl rfl)
theorem dX3_step_79 : decode cX3_step 79 = .ok (.getfield 61, 3) := dk_180 0 61 (dk_at dksX3_step_3 12 rfl rfl)
theorem dX3_step_82 : decode cX3_step 82 = .ok (.bipush 97, 2) := dk_16 97 (dk_at dksX3_step_3 15 rfl rfl)
theorem dX3_step_84 : decode cX3_step 84 = .ok (.bipush 122, 2) := dk_16 122 (dk_at dksX3_step_3 17 rfl rfl)
theorem dX3_step_86 : decode cX3_step 86 = .ok (.invokevirtual 71, 3) := dk_182 0 71 (dk_at dksX3_step_3 19 rfl rfl)
theorem dX3_step_89 : decode cX3_step 89 = .ok (.putfield 58, 3) := dk_181 0 58 (dk_at dksX3_step_4 0 rfl rfl)
theorem dX3_step_92 : decode cX3_step 92 = .ok (.aload_n 0, 1) := dk_42 (dk_at dksX3_step_4 3 rfl rfl)
theorem dX3_step_93 : decode cX3_step 93 = .ok (.aload_n 0, 1) := dk_42 (dk_at dksX3_step_4 4 rfl rfl)
theorem dX3_step_94 : decode cX3_step 94 = .ok (.getfield 58, 3) := dk_180 0 58 (dk_at dksX3_step_4 5 rfl rfl)
theorem dX3_step_97 : decode cX3_step 97 = .ok (.aload_n 0, 1) := dk_42 (dk_at dksX3_step_4 8 rfl rfl)
theorem dX3_step_98 : decode cX3_step 98 = .ok (.getfield 61, 3) := dk_180 0 61 (dk_at dksX3_step_4 9 rfl rfl)
theorem dX3_step_101 : decode cX3_step 101 = .ok (.isub, 1) := dk_100 (dk_at dksX3_step_4 12 rfl rfl)
theorem dX3_step_102 : decode cX3_step 102 = .ok (.bipush 6, 2) := dk_16 6 (dk_at dksX3_step_4 13 rfl rfl)
theorem dX3_step_104 : decode cX3_step 104 = .ok (.if_icmp .gt 7, 3) := dk_163 0 7 (dk_at dksX3_step_4 15 rfl rfl)
theorem dX3_step_107 : decode cX3_step 107 = .ok (.iconst 0, 1) := dk_3 (dk_at dksX3_step_4 18 rfl rfl)
theorem dX3_step_108 : decode cX3_step 108 = .ok (.goto 4, 3) := dk_167 0 4 (dk_at dksX3_step_4 19 rfl rfl)
theorem dX3_step_111 : decode cX3_step 111 = .ok (.iconst 4, 1) := dk_7 (dk_at dksX3_step_4 22 rfl rfl)
theorem dX3_step_112 : decode cX3_step 112 = .ok (.putfield 64, 3) := dk_181 0 64 (dk_at dksX3_step_5 0 rfl rfl)
theorem dX3_step_115 : decode cX3_step 115 = .ok (.aload_n 0, 1) := dk_42 (dk_at dksX3_step_5 3 rfl rfl)
theorem dX3_step_116 : decode cX3_step 116 = .ok (.aload_n 0, 1) := dk_42 (dk_at dksX3_step_5 4 rfl rfl)
theorem dX3_step_117 : decode cX3_step 117 = .ok (.getfield 64, 3) := dk_180 0 64 (dk_at dksX3_step_5 5 rfl rfl)
theorem dX3_step_120 : decode cX3_step 120 = .ok (.ifCond .ne 18, 3) := dk_154 0 18 (dk_at dksX3_step_5 8 rfl rfl)
theorem dX3_step_123 : decode cX3_step 123 = .ok (.aload_n 0, 1) := dk_42 (dk_at dksX3_step_5 11 rfl rfl)
theorem dX3_step_124 : decode cX3_step 124 = .ok (.aload_n 0, 1) := dk_42 (dk_at dksX3_step_5 12 rfl rfl)
theorem dX3_step_125 : decode cX3_step 125 = .ok (.getfield 61, 3) := dk_180 0 61 (dk_at dksX3_step_5 13 rfl rfl)
theorem dX3_step_128 : decode cX3_step 128 = .ok (.aload_n 0, 1) := dk_42 (dk_at dksX3_step_5 16 rfl rfl)
theorem dX3_step_129 : decode cX3_step 129 = .ok (.getfield 58, 3) := dk_180 0 58 (dk_at dksX3_step_5 17 rfl rfl)
theorem dX3_step_132 : decode cX3_step 132 = .ok (.invokevirtual 75, 3) := dk_182 0 75 (dk_at dksX3_step_5 20 rfl rfl)
theorem dX3_step_135 : decode cX3_step 135 = .ok (.goto 5, 3) := dk_167 0 5 (dk_at dksX3_step_6 0 rfl rfl)
theorem dX3_step_138 : decode cX3_step 138 = .ok (.ldc 22, 2) := dk_18 22 (dk_at dksX3_step_6 3 rfl rfl)
theorem dX3_step_140 : decode cX3_step 140 = .ok (.putfield 24, 3) := dk_181 0 24 (dk_at dksX3_step_6 5 rfl rfl)
theorem dX3_step_143 : decode cX3_step 143 = .ok (.goto 135, 3) := dk_167 0 135 (dk_at dksX3_step_6 8 rfl rfl)
theorem dX3_step_146 : decode cX3_step 146 = .ok (.iload_n 1, 1) := dk_27 (dk_at dksX3_step_6 11 rfl rfl)
theorem dX3_step_147 : decode cX3_step 147 = .ok (.i2l, 1) := dk_133 (dk_at dksX3_step_6 12 rfl rfl)
theorem dX3_step_148 : decode cX3_step 148 = .ok (.ldc2_w 79, 3) := dk_20 0 79 (dk_at dksX3_step_6 13 rfl rfl)
theorem dX3_step_151 : decode cX3_step 151 = .ok (.ldc2_w 81, 3) := dk_20 0 81 (dk_at dksX3_step_6 16 rfl rfl)
theorem dX3_step_154 : decode cX3_step 154 = .ok (.invokestatic 43, 3) := dk_184 0 43 (dk_at dksX3_step_6 19 rfl rfl)
theorem dX3_step_157 : decode cX3_step 157 = .ok (.ifCond .eq 96, 3) := dk_153 0 96 (dk_at dksX3_step_7 0 rfl rfl)
theorem dX3_step_160 : decode cX3_step 160 = .ok (.aload_n 0, 1) := dk_42 (dk_at dksX3_step_7 3 rfl rfl)
theorem dX3_step_161 : decode cX3_step 161 = .ok (.aload_n 0, 1) := dk_42 (dk_at dksX3_step_7 4 rfl rfl)
theorem dX3_step_162 : decode cX3_step 162 = .ok (.aload_n 0, 1) := dk_42 (dk_at dksX3_step_7 5 rfl rfl)
theorem dX3_step_163 : decode cX3_step 163 = .ok (.getfield 61, 3) := dk_180 0 61 (dk_at dksX3_step_7 6 rfl rfl)
theorem dX3_step_166 : decode cX3_step 166 = .ok (.bipush 48, 2) := dk_16 48 (dk_at dksX3_step_7 9 rfl rfl)
theorem dX3_step_168 : decode cX3_step 168 = .ok (.bipush 57, 2) := dk_16 57 (dk_at dksX3_step_7 11 rfl rfl)
theorem dX3_step_170 : decode cX3_step 170 = .ok (.invokevirtual 71, 3) := dk_182 0 71 (dk_at dksX3_step_7 13 rfl rfl)
theorem dX3_step_173 : decode cX3_step 173 = .ok (.putfield 58, 3) := dk_181 0 58 (dk_at dksX3_step_7 16 rfl rfl)
theorem dX3_step_176 : decode cX3_step 176 = .ok (.aload_n 0, 1) := dk_42 (dk_at dksX3_step_7 19 rfl rfl)
theorem dX3_step_177 : decode cX3_step 177 = .ok (.aload_n 0, 1) := dk_42 (dk_at dksX3_step_7 20 rfl rfl)
theorem dX3_step_178 : decode cX3_step 178 = .ok (.getfield 58, 3) := dk_180 0 58 (dk_at dksX3_step_7 21 rfl rfl)
theorem dX3_step_181 : decode cX3_step 181 = .ok (.aload_n 0, 1) := dk_42 (dk_at dksX3_step_8 0 rfl rfl)
theorem dX3_step_182 : decode cX3_step 182 = .ok (.getfield 61, 3) := dk_180 0 61 (dk_at dksX3_step_8 1 rfl rfl)
theorem dX3_step_185 : decode cX3_step 185 = .ok (.isub, 1) := dk_100 (dk_at dksX3_step_8 4 rfl rfl)
theorem dX3_step_186 : decode cX3_step 186 = .ok (.iconst 3, 1) := dk_6 (dk_at dksX3_step_8 5 rfl rfl)
theorem dX3_step_187 : decode cX3_step 187 = .ok (.if_icmp .gt 7, 3) := dk_163 0 7 (dk_at dksX3_step_8 6 rfl rfl)
theorem dX3_step_190 : decode cX3_step 190 = .ok (.iconst 1, 1) := dk_4 (dk_at dksX3_step_8 9 rfl rfl)
theorem dX3_step_191 : decode cX3_step 191 = .ok (.goto 4, 3) := dk_167 0 4 (dk_at dksX3_step_8 10 rfl rfl)
theorem dX3_step_194 : decode cX3_step 194 = .ok (.iconst 4, 1) := dk_7 (dk_at dksX3_step_8 13 rfl rfl)
theorem dX3_step_195 : decode cX3_step 195 = .ok (.putfield 64, 3) := dk_181 0 64 (dk_at dksX3_step_8 14 rfl rfl)
theorem dX3_step_198 : decode cX3_step 198 = .ok (.aload_n 0, 1) := dk_42 (dk_at dksX3_step_8 17 rfl rfl)
theorem dX3_step_199 : decode cX3_step 199 = .ok (.iconst 0, 1) := dk_3 (dk_at dksX3_step_8 18 rfl rfl)
theorem dX3_step_200 : decode cX3_step 200 = .ok (.putfield 83, 3) := dk_181 0 83 (dk_at dksX3_step_8 19 rfl rfl)
theorem dX3_step_203 : decode cX3_step 203 = .ok (.aload_n 0, 1) := dk_42 (dk_at dksX3_step_8 22 rfl rfl)
theorem dX3_step_204 : decode cX3_step 204 = .ok (.getfield 61, 3) := dk_180 0 61 (dk_at dksX3_step_9 0 rfl rfl)
theorem dX3_step_207 : decode cX3_step 207 = .ok (.istore_n 2, 1) := dk_61 (dk_at dksX3_step_9 3 rfl rfl)
theorem dX3_step_208 : decode cX3_step 208 = .ok (.iload_n 2, 1) := dk_28 (dk_at dksX3_step_9 4 rfl rfl)
theorem dX3_step_209 : decode cX3_step 209 = .ok (.aload_n 0, 1) := dk_42 (dk_at dksX3_step_9 5 rfl rfl)
theorem dX3_step_210 : decode cX3_step 210 = .ok (.getfield 58, 3) := dk_180 0 58 (dk_at dksX3_step_9 6 rfl rfl)
theorem dX3_step_213 : decode cX3_step 213 = .ok (.if_icmp .ge 37, 3) := dk_162 0 37 (dk_at dksX3_step_9 9 rfl rfl)
theorem dX3_step_216 : decode cX3_step 216 = .ok (.aload_n 0, 1) := dk_42 (dk_at dksX3_step_9 12 rfl rfl)
theorem dX3_step_217 : decode cX3_step 217 = .ok (.getfield 64, 3) := dk_180 0 64 (dk_at dksX3_step_9 13 rfl rfl)
theorem dX3_step_220 : decode cX3_step 220 = .ok (.iconst 1, 1) := dk_4 (dk_at dksX3_step_9 16 rfl rfl)
theorem dX3_step_221 : decode cX3_step 221 = .ok (.if_icmp .ne 29, 3) := dk_160 0 29 (dk_at dksX3_step_9 17 rfl rfl)
theorem dX3_step_224 : decode cX3_step 224 = .ok (.aload_n 0, 1) := dk_42 (dk_at dksX3_step_9 20 rfl rfl)
theorem dX3_step_225 : decode cX3_step 225 = .ok (.bipush 10, 2) := dk_16 10 (dk_at dksX3_step_9 21 rfl rfl)
theorem dX3_step_227 : decode cX3_step 227 = .ok (.aload_n 0, 1) := dk_42 (dk_at dksX3_step_9 23 rfl rfl)
theorem dX3_step_228 : decode cX3_step 228 = .ok (.getfield 83, 3) := dk_180 0 83 (dk_at dksX3_step_10 0 rfl rfl)
theorem dX3_step_231 : decode cX3_step 231 = .ok (.imul, 1) := dk_104 (dk_at dksX3_step_10 3 rfl rfl)
theorem dX3_step_232 : decode cX3_step 232 = .ok (.aload_n 0, 1) := dk_42 (dk_at dksX3_step_10 4 rfl rfl)
theorem dX3_step_233 : decode cX3_step 233 = .ok (.iload_n 2, 1) := dk_28 (dk_at dksX3_step_10 5 rfl rfl)
theorem dX3_step_234 : decode cX3_step 234 = .ok (.invokevirtual 39, 3) := dk_182 0 39 (dk_at dksX3_step_10 6 rfl rfl)
theorem dX3_step_237 : decode cX3_step 237 = .ok (.iadd, 1) := dk_96 (dk_at dksX3_step_10 9 rfl rfl)
theorem dX3_step_238 : decode cX3_step 238 = .ok (.bipush 48, 2) := dk_16 48 (dk_at dksX3_step_10 10 rfl rfl)
theorem dX3_step_240 : decode cX3_step 240 = .ok (.isub, 1) := dk_100 (dk_at dksX3_step_10 12 rfl rfl)
theorem dX3_step_241 : decode cX3_step 241 = .ok (.putfield 83, 3) := dk_181 0 83 (dk_at dksX3_step_10 13 rfl rfl)
theorem dX3_step_244 : decode cX3_step 244 = .ok (.iinc 2 1, 3) := dk_132 2 1 (dk_at dksX3_step_10 16 rfl rfl)
theorem dX3_step_247 : decode cX3_step 247 = .ok (.goto (-39), 3) := dk_167 255 217 (dk_at dksX3_step_10 19 rfl rfl)
theorem dX3_step_250 : decode cX3_step 250 = .ok (.goto 28, 3) := dk_167 0 28 (dk_at dksX3_step_11 0 rfl rfl)
theorem dX3_step_253 : decode cX3_step 253 = .ok (.aload_n 0, 1) := dk_42 (dk_at dksX3_step_11 3 rfl rfl)
theorem dX3_step_254 : decode cX3_step 254 = .ok (.iload_n 1, 1) := dk_27 (dk_at dksX3_step_11 4 rfl rfl)
theorem dX3_step_255 : decode cX3_step 255 = .ok (.bipush 59, 2) := dk_16 59 (dk_at dksX3_step_11 5 rfl rfl)
theorem dX3_step_257 : decode cX3_step 257 = .ok (.if_icmp .ne 7, 3) := dk_160 0 7 (dk_at dksX3_step_11 7 rfl rfl)
theorem dX3_step_260 : decode cX3_step 260 = .ok (.iconst 2, 1) := dk_5 (dk_at dksX3_step_11 10 rfl rfl)
theorem dX3_step_261 : decode cX3_step 261 = .ok (.goto 4, 3) := dk_167 0 4 (dk_at dksX3_step_11 11 rfl rfl)
theorem dX3_step_264 : decode cX3_step 264 = .ok (.iconst 4, 1) := dk_7 (dk_at dksX3_step_11 14 rfl rfl)
theorem dX3_step_265 : decode cX3_step 265 = .ok (.putfield 64, 3) := dk_181 0 64 (dk_at dksX3_step_11 15 rfl rfl)
theorem dX3_step_268 : decode cX3_step 268 = .ok (.aload_n 0, 1) := dk_42 (dk_at dksX3_step_11 18 rfl rfl)
theorem dX3_step_269 : decode cX3_step 269 = .ok (.dup, 1) := dk_89 (dk_at dksX3_step_11 19 rfl rfl)
theorem dX3_step_270 : decode cX3_step 270 = .ok (.getfield 58, 3) := dk_180 0 58 (dk_at dksX3_step_11 20 rfl rfl)
theorem dX3_step_273 : decode cX3_step 273 = .ok (.iconst 1, 1) := dk_4 (dk_at dksX3_step_11 23 rfl rfl)
theorem dX3_step_274 : decode cX3_step 274 = .ok (.iadd, 1) := dk_96 (dk_at dksX3_step_12 0 rfl rfl)
theorem dX3_step_275 : decode cX3_step 275 = .ok (.putfield 58, 3) := dk_181 0 58 (dk_at dksX3_step_12 1 rfl rfl)
theorem dX3_step_278 : decode cX3_step 278 = .ok (.return_, 1) := dk_177 (dk_at dksX3_step_12 4 rfl rfl)
abbrev cX3_init : ByteArray := prog_8_method_1_code
def yX3_init : MethodName := ⟨RX3, "<init>", "(LMultipoleLine;I)V"⟩
def dkwX3_init_1 : List UInt8 := [181, 0, 24, 42, 28, 181, 0, 28, 42, 182, 0, 32, 177]
abbrev dktX3_init_1 : List UInt8 := dkwX3_init_1 ++ []
def dkwX3_init_0 : List UInt8 := [42, 43, 181, 0, 3, 42, 183, 0, 9, 42, 187, 0, 15, 89, 183, 0, 17, 181, 0, 18, 42, 18, 22]
abbrev dktX3_init_0 : List UInt8 := dkwX3_init_0 ++ dktX3_init_1
theorem dksX3_init_0 : cX3_init.data.toList.drop 0 = dktX3_init_0 := by decide +kernel
theorem dksX3_init_1 : cX3_init.data.toList.drop 23 = dktX3_init_1 := dk_seg dksX3_init_0 23 rfl rfl
theorem dX3_init_0 : decode cX3_init 0 = .ok (.aload_n 0, 1) := dk_42 (dk_at dksX3_init_0 0 rfl rfl)
theorem dX3_init_1 : decode cX3_init 1 = .ok (.aload_n 1, 1) := dk_43 (dk_at dksX3_init_0 1 rfl rfl)
theorem dX3_init_2 : decode cX3_init 2 = .ok (.putfield 3, 3) := dk_181 0 3 (dk_at dksX3_init_0 2 rfl rfl)
theorem dX3_init_5 : decode cX3_init 5 = .ok (.aload_n 0, 1) := dk_42 (dk_at dksX3_init_0 5 rfl rfl)
theorem dX3_init_6 : decode cX3_init 6 = .ok (.invokespecial 9, 3) := dk_183 0 9 (dk_at dksX3_init_0 6 rfl rfl)
theorem dX3_init_9 : decode cX3_init 9 = .ok (.aload_n 0, 1) := dk_42 (dk_at dksX3_init_0 9 rfl rfl)
theorem dX3_init_10 : decode cX3_init 10 = .ok (.new 15, 3) := dk_187 0 15 (dk_at dksX3_init_0 10 rfl rfl)
theorem dX3_init_13 : decode cX3_init 13 = .ok (.dup, 1) := dk_89 (dk_at dksX3_init_0 13 rfl rfl)
theorem dX3_init_14 : decode cX3_init 14 = .ok (.invokespecial 17, 3) := dk_183 0 17 (dk_at dksX3_init_0 14 rfl rfl)
theorem dX3_init_17 : decode cX3_init 17 = .ok (.putfield 18, 3) := dk_181 0 18 (dk_at dksX3_init_0 17 rfl rfl)
theorem dX3_init_20 : decode cX3_init 20 = .ok (.aload_n 0, 1) := dk_42 (dk_at dksX3_init_0 20 rfl rfl)
theorem dX3_init_21 : decode cX3_init 21 = .ok (.ldc 22, 2) := dk_18 22 (dk_at dksX3_init_0 21 rfl rfl)
theorem dX3_init_23 : decode cX3_init 23 = .ok (.putfield 24, 3) := dk_181 0 24 (dk_at dksX3_init_1 0 rfl rfl)
theorem dX3_init_26 : decode cX3_init 26 = .ok (.aload_n 0, 1) := dk_42 (dk_at dksX3_init_1 3 rfl rfl)
theorem dX3_init_27 : decode cX3_init 27 = .ok (.iload_n 2, 1) := dk_28 (dk_at dksX3_init_1 4 rfl rfl)
theorem dX3_init_28 : decode cX3_init 28 = .ok (.putfield 28, 3) := dk_181 0 28 (dk_at dksX3_init_1 5 rfl rfl)
theorem dX3_init_31 : decode cX3_init 31 = .ok (.aload_n 0, 1) := dk_42 (dk_at dksX3_init_1 8 rfl rfl)
theorem dX3_init_32 : decode cX3_init 32 = .ok (.invokevirtual 32, 3) := dk_182 0 32 (dk_at dksX3_init_1 9 rfl rfl)
theorem dX3_init_35 : decode cX3_init 35 = .ok (.return_, 1) := dk_177 (dk_at dksX3_init_1 12 rfl rfl)
abbrev cJ16_equals : ByteArray := prog_35_method_13_code
def yJ16_equals : MethodName := ⟨RJ16, "equals", "([B[B)Z"⟩
def dkwJ16_equals_1 : List UInt8 := [3, 172, 132, 2, 1, 167, 255, 236, 4, 172, 3, 172]
abbrev dktJ16_equals_1 : List UInt8 := dkwJ16_equals_1 ++ []
def dkwJ16_equals_0 : List UInt8 := [42, 190, 43, 190, 160, 0, 30, 3, 61, 28, 42, 190, 162, 0, 20, 42, 28, 51, 43, 28, 51, 159, 0, 5]
abbrev dktJ16_equals_0 : List UInt8 := dkwJ16_equals_0 ++ dktJ16_equals_1
theorem dksJ16_equals_0 : cJ16_equals.data.toList.drop 0 = dktJ16_equals_0 := by decide +kernel
theorem dksJ16_equals_1 : cJ16_equals.data.toList.drop 24 = dktJ16_equals_1 := dk_seg dksJ16_equals_0 24 rfl rfl
theorem dJ16_equals_0 : decode cJ16_equals 0 = .ok (.aload_n 0, 1) := dk_42 (dk_at dksJ16_equals_0 0 rfl rfl)
theorem dJ16_equals_1 : decode cJ16_equals 1 = .ok (.arraylength, 1) := dk_190 (dk_at dksJ16_equals_0 1 rfl rfl)
theorem dJ16_equals_2 : decode cJ16_equals 2 = .ok (.aload_n 1, 1) := dk_43 (dk_at dksJ16_equals_0 2 rfl rfl)
theorem dJ16_equals_3 : decode cJ16_equals 3 = .ok (.arraylength, 1) := dk_190 (dk_at dksJ16_equals_0 3 rfl rfl)
theorem dJ16_equals_4 : decode cJ16_equals 4 = .ok (.if_icmp .ne 30, 3) := dk_160 0 30 (dk_at dksJ16_equals_0 4 rfl rfl)
theorem dJ16_equals_7 : decode cJ16_equals 7 = .ok (.iconst 0, 1) := dk_3 (dk_at dksJ16_equals_0 7 rfl rfl)
theorem dJ16_equals_8 : decode cJ16_equals 8 = .ok (.istore_n 2, 1) := dk_61 (dk_at dksJ16_equals_0 8 rfl rfl)
theorem dJ16_equals_9 : decode cJ16_equals 9 = .ok (.iload_n 2, 1) := dk_28 (dk_at dksJ16_equals_0 9 rfl rfl)
theorem dJ16_equals_10 : decode cJ16_equals 10 = .ok (.aload_n 0, 1) := dk_42 (dk_at dksJ16_equals_0 10 rfl rfl)
theorem dJ16_equals_11 : decode cJ16_equals 11 = .ok (.arraylength, 1) := dk_190 (dk_at dksJ16_equals_0 11 rfl rfl)
theorem dJ16_equals_12 : decode cJ16_equals 12 = .ok (.if_icmp .ge 20, 3) := dk_162 0 20 (dk_at dksJ16_equals_0 12 rfl rfl)
theorem dJ16_equals_15 : decode cJ16_equals 15 = .ok (.aload_n 0, 1) := dk_42 (dk_at dksJ16_equals_0 15 rfl rfl)
theorem dJ16_equals_16 : decode cJ16_equals 16 = .ok (.iload_n 2, 1) := dk_28 (dk_at dksJ16_equals_0 16 rfl rfl)
theorem dJ16_equals_17 : decode cJ16_equals 17 = .ok (.baload, 1) := dk_51 (dk_at dksJ16_equals_0 17 rfl rfl)
theorem dJ16_equals_18 : decode cJ16_equals 18 = .ok (.aload_n 1, 1) := dk_43 (dk_at dksJ16_equals_0 18 rfl rfl)
theorem dJ16_equals_19 : decode cJ16_equals 19 = .ok (.iload_n 2, 1) := dk_28 (dk_at dksJ16_equals_0 19 rfl rfl)
theorem dJ16_equals_20 : decode cJ16_equals 20 = .ok (.baload, 1) := dk_51 (dk_at dksJ16_equals_0 20 rfl rfl)
theorem dJ16_equals_21 : decode cJ16_equals 21 = .ok (.if_icmp .eq 5, 3) := dk_159 0 5 (dk_at dksJ16_equals_0 21 rfl rfl)
theorem dJ16_equals_24 : decode cJ16_equals 24 = .ok (.iconst 0, 1) := dk_3 (dk_at dksJ16_equals_1 0 rfl rfl)
theorem dJ16_equals_25 : decode cJ16_equals 25 = .ok (.ireturn, 1) := dk_172 (dk_at dksJ16_equals_1 1 rfl rfl)
theorem dJ16_equals_26 : decode cJ16_equals 26 = .ok (.iinc 2 1, 3) := dk_132 2 1 (dk_at dksJ16_equals_1 2 rfl rfl)
theorem dJ16_equals_29 : decode cJ16_equals 29 = .ok (.goto (-20), 3) := dk_167 255 236 (dk_at dksJ16_equals_1 5 rfl rfl)
theorem dJ16_equals_32 : decode cJ16_equals 32 = .ok (.iconst 1, 1) := dk_4 (dk_at dksJ16_equals_1 8 rfl rfl)
theorem dJ16_equals_33 : decode cJ16_equals 33 = .ok (.ireturn, 1) := dk_172 (dk_at dksJ16_equals_1 9 rfl rfl)
theorem dJ16_equals_34 : decode cJ16_equals 34 = .ok (.iconst 0, 1) := dk_3 (dk_at dksJ16_equals_1 10 rfl rfl)
theorem dJ16_equals_35 : decode cJ16_equals 35 = .ok (.ireturn, 1) := dk_172 (dk_at dksJ16_equals_1 11 rfl rfl)
abbrev cJ4_equals : ByteArray := prog_32_method_66_code
def yJ4_equals : MethodName := ⟨RJ4, "equals", "(Ljava/lang/Object;)Z"⟩
def dkwJ4_equals_2 : List UInt8 := [184, 2, 29, 153, 0, 7, 4, 167, 0, 4, 3, 172]
abbrev dktJ4_equals_2 : List UInt8 := dkwJ4_equals_2 ++ []
def dkwJ4_equals_1 : List UInt8 := [153, 0, 14, 42, 180, 0, 15, 44, 180, 0, 15, 160, 0, 21, 42, 180, 0, 9, 44, 180, 0, 9]
abbrev dktJ4_equals_1 : List UInt8 := dkwJ4_equals_1 ++ dktJ4_equals_2
def dkwJ4_equals_0 : List UInt8 := [42, 43, 166, 0, 5, 4, 172, 43, 193, 0, 10, 153, 0, 43, 43, 192, 0, 10, 77, 178, 0, 38]
abbrev dktJ4_equals_0 : List UInt8 := dkwJ4_equals_0 ++ dktJ4_equals_1
theorem dksJ4_equals_0 : cJ4_equals.data.toList.drop 0 = dktJ4_equals_0 := by decide +kernel
theorem dksJ4_equals_1 : cJ4_equals.data.toList.drop 22 = dktJ4_equals_1 := dk_seg dksJ4_equals_0 22 rfl rfl
theorem dksJ4_equals_2 : cJ4_equals.data.toList.drop 44 = dktJ4_equals_2 := dk_seg dksJ4_equals_1 22 rfl rfl
theorem dJ4_equals_0 : decode cJ4_equals 0 = .ok (.aload_n 0, 1) := dk_42 (dk_at dksJ4_equals_0 0 rfl rfl)
theorem dJ4_equals_1 : decode cJ4_equals 1 = .ok (.aload_n 1, 1) := dk_43 (dk_at dksJ4_equals_0 1 rfl rfl)
theorem dJ4_equals_2 : decode cJ4_equals 2 = .ok (.if_acmp .ne 5, 3) := dk_166 0 5 (dk_at dksJ4_equals_0 2 rfl rfl)
theorem dJ4_equals_5 : decode cJ4_equals 5 = .ok (.iconst 1, 1) := dk_4 (dk_at dksJ4_equals_0 5 rfl rfl)
theorem dJ4_equals_6 : decode cJ4_equals 6 = .ok (.ireturn, 1) := dk_172 (dk_at dksJ4_equals_0 6 rfl rfl)
theorem dJ4_equals_7 : decode cJ4_equals 7 = .ok (.aload_n 1, 1) := dk_43 (dk_at dksJ4_equals_0 7 rfl rfl)
theorem dJ4_equals_8 : decode cJ4_equals 8 = .ok (.instanceof 10, 3) := dk_193 0 10 (dk_at dksJ4_equals_0 8 rfl rfl)
theorem dJ4_equals_11 : decode cJ4_equals 11 = .ok (.ifCond .eq 43, 3) := dk_153 0 43 (dk_at dksJ4_equals_0 11 rfl rfl)
theorem dJ4_equals_14 : decode cJ4_equals 14 = .ok (.aload_n 1, 1) := dk_43 (dk_at dksJ4_equals_0 14 rfl rfl)
theorem dJ4_equals_15 : decode cJ4_equals 15 = .ok (.checkcast 10, 3) := dk_192 0 10 (dk_at dksJ4_equals_0 15 rfl rfl)
theorem dJ4_equals_18 : decode cJ4_equals 18 = .ok (.astore_n 2, 1) := dk_77 (dk_at dksJ4_equals_0 18 rfl rfl)
theorem dJ4_equals_19 : decode cJ4_equals 19 = .ok (.getstatic 38, 3) := dk_178 0 38 (dk_at dksJ4_equals_0 19 rfl rfl)
theorem dJ4_equals_22 : decode cJ4_equals 22 = .ok (.ifCond .eq 14, 3) := dk_153 0 14 (dk_at dksJ4_equals_1 0 rfl rfl)
theorem dJ4_equals_25 : decode cJ4_equals 25 = .ok (.aload_n 0, 1) := dk_42 (dk_at dksJ4_equals_1 3 rfl rfl)
theorem dJ4_equals_26 : decode cJ4_equals 26 = .ok (.getfield 15, 3) := dk_180 0 15 (dk_at dksJ4_equals_1 4 rfl rfl)
theorem dJ4_equals_29 : decode cJ4_equals 29 = .ok (.aload_n 2, 1) := dk_44 (dk_at dksJ4_equals_1 7 rfl rfl)
theorem dJ4_equals_30 : decode cJ4_equals 30 = .ok (.getfield 15, 3) := dk_180 0 15 (dk_at dksJ4_equals_1 8 rfl rfl)
theorem dJ4_equals_33 : decode cJ4_equals 33 = .ok (.if_icmp .ne 21, 3) := dk_160 0 21 (dk_at dksJ4_equals_1 11 rfl rfl)
theorem dJ4_equals_36 : decode cJ4_equals 36 = .ok (.aload_n 0, 1) := dk_42 (dk_at dksJ4_equals_1 14 rfl rfl)
theorem dJ4_equals_37 : decode cJ4_equals 37 = .ok (.getfield 9, 3) := dk_180 0 9 (dk_at dksJ4_equals_1 15 rfl rfl)
theorem dJ4_equals_40 : decode cJ4_equals 40 = .ok (.aload_n 2, 1) := dk_44 (dk_at dksJ4_equals_1 18 rfl rfl)
theorem dJ4_equals_41 : decode cJ4_equals 41 = .ok (.getfield 9, 3) := dk_180 0 9 (dk_at dksJ4_equals_1 19 rfl rfl)
theorem dJ4_equals_44 : decode cJ4_equals 44 = .ok (.invokestatic 541, 3) := dk_184 2 29 (dk_at dksJ4_equals_2 0 rfl rfl)
theorem dJ4_equals_47 : decode cJ4_equals 47 = .ok (.ifCond .eq 7, 3) := dk_153 0 7 (dk_at dksJ4_equals_2 3 rfl rfl)
theorem dJ4_equals_50 : decode cJ4_equals 50 = .ok (.iconst 1, 1) := dk_4 (dk_at dksJ4_equals_2 6 rfl rfl)
theorem dJ4_equals_51 : decode cJ4_equals 51 = .ok (.goto 4, 3) := dk_167 0 4 (dk_at dksJ4_equals_2 7 rfl rfl)
theorem dJ4_equals_54 : decode cJ4_equals 54 = .ok (.iconst 0, 1) := dk_3 (dk_at dksJ4_equals_2 10 rfl rfl)
theorem dJ4_equals_55 : decode cJ4_equals 55 = .ok (.ireturn, 1) := dk_172 (dk_at dksJ4_equals_2 11 rfl rfl)
abbrev cJ6_init_3 : ByteArray := prog_38_method_5_code
def yJ6_init_3 : MethodName := ⟨RJ6, "<init>", "(Ljava/lang/String;Ljava/lang/Throwable;ZZ)V"⟩
def dkwJ6_init_3_2 : List UInt8 := [44, 181, 0, 7, 29, 154, 0, 8, 42, 1, 181, 0, 24, 177]
abbrev dktJ6_init_3_2 : List UInt8 := dkwJ6_init_3_2 ++ []
def dkwJ6_init_3_1 : List UInt8 := [21, 4, 153, 0, 11, 42, 182, 0, 27, 87, 167, 0, 8, 42, 1, 181, 0, 17, 42, 43, 181, 0, 31, 42]
abbrev dktJ6_init_3_1 : List UInt8 := dkwJ6_init_3_1 ++ dktJ6_init_3_2
def dkwJ6_init_3_0 : List UInt8 := [42, 183, 0, 1, 42, 42, 181, 0, 7, 42, 178, 0, 13, 181, 0, 17, 42, 178, 0, 20, 181, 0, 24]
abbrev dktJ6_init_3_0 : List UInt8 := dkwJ6_init_3_0 ++ dktJ6_init_3_1
theorem dksJ6_init_3_0 : cJ6_init_3.data.toList.drop 0 = dktJ6_init_3_0 := by decide +kernel
theorem dksJ6_init_3_1 : cJ6_init_3.data.toList.drop 23 = dktJ6_init_3_1 := dk_seg dksJ6_init_3_0 23 rfl rfl
theorem dksJ6_init_3_2 : cJ6_init_3.data.toList.drop 47 = dktJ6_init_3_2 := dk_seg dksJ6_init_3_1 24 rfl rfl
theorem dJ6_init_3_0 : decode cJ6_init_3 0 = .ok (.aload_n 0, 1) := dk_42 (dk_at dksJ6_init_3_0 0 rfl rfl)
theorem dJ6_init_3_1 : decode cJ6_init_3 1 = .ok (.invokespecial 1, 3) := dk_183 0 1 (dk_at dksJ6_init_3_0 1 rfl rfl)
theorem dJ6_init_3_4 : decode cJ6_init_3 4 = .ok (.aload_n 0, 1) := dk_42 (dk_at dksJ6_init_3_0 4 rfl rfl)
theorem dJ6_init_3_5 : decode cJ6_init_3 5 = .ok (.aload_n 0, 1) := dk_42 (dk_at dksJ6_init_3_0 5 rfl rfl)
theorem dJ6_init_3_6 : decode cJ6_init_3 6 = .ok (.putfield 7, 3) := dk_181 0 7 (dk_at dksJ6_init_3_0 6 rfl rfl)
theorem dJ6_init_3_9 : decode cJ6_init_3 9 = .ok (.aload_n 0, 1) := dk_42 (dk_at dksJ6_init_3_0 9 rfl rfl)
theorem dJ6_init_3_10 : decode cJ6_init_3 10 = .ok (.getstatic 13, 3) := dk_178 0 13 (dk_at dksJ6_init_3_0 10 rfl rfl)
theorem dJ6_init_3_13 : decode cJ6_init_3 13 = .ok (.putfield 17, 3) := dk_181 0 17 (dk_at dksJ6_init_3_0 13 rfl rfl)
theorem dJ6_init_3_16 : decode cJ6_init_3 16 = .ok (.aload_n 0, 1) := dk_42 (dk_at dksJ6_init_3_0 16 rfl rfl)
theorem dJ6_init_3_17 : decode cJ6_init_3 17 = .ok (.getstatic 20, 3) := dk_178 0 20 (dk_at dksJ6_init_3_0 17 rfl rfl)
theorem dJ6_init_3_20 : decode cJ6_init_3 20 = .ok (.putfield 24, 3) := dk_181 0 24 (dk_at dksJ6_init_3_0 20 rfl rfl)
theorem dJ6_init_3_23 : decode cJ6_init_3 23 = .ok (.iload 4, 2) := dk_21 4 (dk_at dksJ6_init_3_1 0 rfl rfl)
theorem dJ6_init_3_25 : decode cJ6_init_3 25 = .ok (.ifCond .eq 11, 3) := dk_153 0 11 (dk_at dksJ6_init_3_1 2 rfl rfl)
theorem dJ6_init_3_28 : decode cJ6_init_3 28 = .ok (.aload_n 0, 1) := dk_42 (dk_at dksJ6_init_3_1 5 rfl rfl)
theorem dJ6_init_3_29 : decode cJ6_init_3 29 = .ok (.invokevirtual 27, 3) := dk_182 0 27 (dk_at dksJ6_init_3_1 6 rfl rfl)
theorem dJ6_init_3_32 : decode cJ6_init_3 32 = .ok (.pop, 1) := dk_87 (dk_at dksJ6_init_3_1 9 rfl rfl)
theorem dJ6_init_3_33 : decode cJ6_init_3 33 = .ok (.goto 8, 3) := dk_167 0 8 (dk_at dksJ6_init_3_1 10 rfl rfl)
theorem dJ6_init_3_36 : decode cJ6_init_3 36 = .ok (.aload_n 0, 1) := dk_42 (dk_at dksJ6_init_3_1 13 rfl rfl)
theorem dJ6_init_3_37 : decode cJ6_init_3 37 = .ok (.aconst_null, 1) := dk_1 (dk_at dksJ6_init_3_1 14 rfl rfl)
theorem dJ6_init_3_38 : decode cJ6_init_3 38 = .ok (.putfield 17, 3) := dk_181 0 17 (dk_at dksJ6_init_3_1 15 rfl rfl)
theorem dJ6_init_3_41 : decode cJ6_init_3 41 = .ok (.aload_n 0, 1) := dk_42 (dk_at dksJ6_init_3_1 18 rfl rfl)
theorem dJ6_init_3_42 : decode cJ6_init_3 42 = .ok (.aload_n 1, 1) := dk_43 (dk_at dksJ6_init_3_1 19 rfl rfl)
theorem dJ6_init_3_43 : decode cJ6_init_3 43 = .ok (.putfield 31, 3) := dk_181 0 31 (dk_at dksJ6_init_3_1 20 rfl rfl)
theorem dJ6_init_3_46 : decode cJ6_init_3 46 = .ok (.aload_n 0, 1) := dk_42 (dk_at dksJ6_init_3_1 23 rfl rfl)
theorem dJ6_init_3_47 : decode cJ6_init_3 47 = .ok (.aload_n 2, 1) := dk_44 (dk_at dksJ6_init_3_2 0 rfl rfl)
theorem dJ6_init_3_48 : decode cJ6_init_3 48 = .ok (.putfield 7, 3) := dk_181 0 7 (dk_at dksJ6_init_3_2 1 rfl rfl)
theorem dJ6_init_3_51 : decode cJ6_init_3 51 = .ok (.iload_n 3, 1) := dk_29 (dk_at dksJ6_init_3_2 4 rfl rfl)
theorem dJ6_init_3_52 : decode cJ6_init_3 52 = .ok (.ifCond .ne 8, 3) := dk_154 0 8 (dk_at dksJ6_init_3_2 5 rfl rfl)
theorem dJ6_init_3_55 : decode cJ6_init_3 55 = .ok (.aload_n 0, 1) := dk_42 (dk_at dksJ6_init_3_2 8 rfl rfl)
theorem dJ6_init_3_56 : decode cJ6_init_3 56 = .ok (.aconst_null, 1) := dk_1 (dk_at dksJ6_init_3_2 9 rfl rfl)
theorem dJ6_init_3_57 : decode cJ6_init_3 57 = .ok (.putfield 24, 3) := dk_181 0 24 (dk_at dksJ6_init_3_2 10 rfl rfl)
theorem dJ6_init_3_60 : decode cJ6_init_3 60 = .ok (.return_, 1) := dk_177 (dk_at dksJ6_init_3_2 13 rfl rfl)
abbrev cJ7_init_3 : ByteArray := prog_20_method_5_code
def yJ7_init_3 : MethodName := ⟨RJ7, "<init>", "(Ljava/lang/String;Ljava/lang/Throwable;ZZ)V"⟩
def dkwJ7_init_3_0 : List UInt8 := [42, 43, 44, 29, 21, 4, 183, 0, 16, 177]
abbrev dktJ7_init_3_0 : List UInt8 := dkwJ7_init_3_0 ++ []
theorem dksJ7_init_3_0 : cJ7_init_3.data.toList.drop 0 = dktJ7_init_3_0 := by decide +kernel
theorem dJ7_init_3_0 : decode cJ7_init_3 0 = .ok (.aload_n 0, 1) := dk_42 (dk_at dksJ7_init_3_0 0 rfl rfl)
theorem dJ7_init_3_1 : decode cJ7_init_3 1 = .ok (.aload_n 1, 1) := dk_43 (dk_at dksJ7_init_3_0 1 rfl rfl)
theorem dJ7_init_3_2 : decode cJ7_init_3 2 = .ok (.aload_n 2, 1) := dk_44 (dk_at dksJ7_init_3_0 2 rfl rfl)
theorem dJ7_init_3_3 : decode cJ7_init_3 3 = .ok (.iload_n 3, 1) := dk_29 (dk_at dksJ7_init_3_0 3 rfl rfl)
theorem dJ7_init_3_4 : decode cJ7_init_3 4 = .ok (.iload 4, 2) := dk_21 4 (dk_at dksJ7_init_3_0 4 rfl rfl)
theorem dJ7_init_3_6 : decode cJ7_init_3 6 = .ok (.invokespecial 16, 3) := dk_183 0 16 (dk_at dksJ7_init_3_0 6 rfl rfl)
theorem dJ7_init_3_9 : decode cJ7_init_3 9 = .ok (.return_, 1) := dk_177 (dk_at dksJ7_init_3_0 9 rfl rfl)
abbrev cX6_init : ByteArray := prog_5_method_1_code
def yX6_init : MethodName := ⟨RX6, "<init>", "(II)V"⟩
def dkwX6_init_0 : List UInt8 := [42, 1, 1, 3, 3, 183, 0, 1, 42, 27, 181, 0, 7, 42, 28, 181, 0, 13, 177]
abbrev dktX6_init_0 : List UInt8 := dkwX6_init_0 ++ []
theorem dksX6_init_0 : cX6_init.data.toList.drop 0 = dktX6_init_0 := by decide +kernel
theorem dX6_init_0 : decode cX6_init 0 = .ok (.aload_n 0, 1) := dk_42 (dk_at dksX6_init_0 0 rfl rfl)
theorem dX6_init_1 : decode cX6_init 1 = .ok (.aconst_null, 1) := dk_1 (dk_at dksX6_init_0 1 rfl rfl)
theorem dX6_init_2 : decode cX6_init 2 = .ok (.aconst_null, 1) := dk_1 (dk_at dksX6_init_0 2 rfl rfl)
theorem dX6_init_3 : decode cX6_init 3 = .ok (.iconst 0, 1) := dk_3 (dk_at dksX6_init_0 3 rfl rfl)
theorem dX6_init_4 : decode cX6_init 4 = .ok (.iconst 0, 1) := dk_3 (dk_at dksX6_init_0 4 rfl rfl)
theorem dX6_init_5 : decode cX6_init 5 = .ok (.invokespecial 1, 3) := dk_183 0 1 (dk_at dksX6_init_0 5 rfl rfl)
theorem dX6_init_8 : decode cX6_init 8 = .ok (.aload_n 0, 1) := dk_42 (dk_at dksX6_init_0 8 rfl rfl)
theorem dX6_init_9 : decode cX6_init 9 = .ok (.iload_n 1, 1) := dk_27 (dk_at dksX6_init_0 9 rfl rfl)
theorem dX6_init_10 : decode cX6_init 10 = .ok (.putfield 7, 3) := dk_181 0 7 (dk_at dksX6_init_0 10 rfl rfl)
theorem dX6_init_13 : decode cX6_init 13 = .ok (.aload_n 0, 1) := dk_42 (dk_at dksX6_init_0 13 rfl rfl)
theorem dX6_init_14 : decode cX6_init 14 = .ok (.iload_n 2, 1) := dk_28 (dk_at dksX6_init_0 14 rfl rfl)
theorem dX6_init_15 : decode cX6_init 15 = .ok (.putfield 13, 3) := dk_181 0 13 (dk_at dksX6_init_0 15 rfl rfl)
theorem dX6_init_18 : decode cX6_init 18 = .ok (.return_, 1) := dk_177 (dk_at dksX6_init_0 18 rfl rfl)
abbrev cX3_check : ByteArray := prog_8_method_6_code
def yX3_check : MethodName := ⟨RX3, "check", "(ZI)V"⟩
def dkwX3_check_0 : List UInt8 := [27, 154, 0, 16, 187, 0, 86, 89, 28, 42, 180, 0, 61, 183, 0, 88, 191, 177]
abbrev dktX3_check_0 : List UInt8 := dkwX3_check_0 ++ []
theorem dksX3_check_0 : cX3_check.data.toList.drop 0 = dktX3_check_0 := by decide +kernel
theorem dX3_check_0 : decode cX3_check 0 = .ok (.iload_n 1, 1) := dk_27 (dk_at dksX3_check_0 0 rfl rfl)
theorem dX3_check_1 : decode cX3_check 1 = .ok (.ifCond .ne 16, 3) := dk_154 0 16 (dk_at dksX3_check_0 1 rfl rfl)
theorem dX3_check_4 : decode cX3_check 4 = .ok (.new 86, 3) := dk_187 0 86 (dk_at dksX3_check_0 4 rfl rfl)
theorem dX3_check_7 : decode cX3_check 7 = .ok (.dup, 1) := dk_89 (dk_at dksX3_check_0 7 rfl rfl)
theorem dX3_check_8 : decode cX3_check 8 = .ok (.iload_n 2, 1) := dk_28 (dk_at dksX3_check_0 8 rfl rfl)
theorem dX3_check_9 : decode cX3_check 9 = .ok (.aload_n 0, 1) := dk_42 (dk_at dksX3_check_0 9 rfl rfl)
theorem dX3_check_10 : decode cX3_check 10 = .ok (.getfield 61, 3) := dk_180 0 61 (dk_at dksX3_check_0 10 rfl rfl)
theorem dX3_check_13 : decode cX3_check 13 = .ok (.invokespecial 88, 3) := dk_183 0 88 (dk_at dksX3_check_0 13 rfl rfl)
theorem dX3_check_16 : decode cX3_check 16 = .ok (.athrow, 1) := dk_191 (dk_at dksX3_check_0 16 rfl rfl)
theorem dX3_check_17 : decode cX3_check 17 = .ok (.return_, 1) := dk_177 (dk_at dksX3_check_0 17 rfl rfl)
abbrev cX4_low : ByteArray := prog_7_method_46_code
def yX4_low : MethodName := ⟨RX4, "low", "(I)I"⟩
def dkwX4_low_0 : List UInt8 := [26, 6, 160, 0, 7, 5, 167, 0, 4, 3, 172]
abbrev dktX4_low_0 : List UInt8 := dkwX4_low_0 ++ []
theorem dksX4_low_0 : cX4_low.data.toList.drop 0 = dktX4_low_0 := by decide +kernel
theorem dX4_low_0 : decode cX4_low 0 = .ok (.iload_n 0, 1) := dk_26 (dk_at dksX4_low_0 0 rfl rfl)
theorem dX4_low_1 : decode cX4_low 1 = .ok (.iconst 3, 1) := dk_6 (dk_at dksX4_low_0 1 rfl rfl)
theorem dX4_low_2 : decode cX4_low 2 = .ok (.if_icmp .ne 7, 3) := dk_160 0 7 (dk_at dksX4_low_0 2 rfl rfl)
theorem dX4_low_5 : decode cX4_low 5 = .ok (.iconst 2, 1) := dk_5 (dk_at dksX4_low_0 5 rfl rfl)
theorem dX4_low_6 : decode cX4_low 6 = .ok (.goto 4, 3) := dk_167 0 4 (dk_at dksX4_low_0 6 rfl rfl)
theorem dX4_low_9 : decode cX4_low 9 = .ok (.iconst 0, 1) := dk_3 (dk_at dksX4_low_0 9 rfl rfl)
theorem dX4_low_10 : decode cX4_low 10 = .ok (.ireturn, 1) := dk_172 (dk_at dksX4_low_0 10 rfl rfl)
abbrev cX4_high : ByteArray := prog_7_method_47_code
def yX4_high : MethodName := ⟨RX4, "high", "(I)I"⟩
def dkwX4_high_0 : List UInt8 := [26, 6, 160, 0, 7, 8, 167, 0, 15, 26, 7, 160, 0, 7, 7, 167, 0, 6, 17, 3, 231, 172]
abbrev dktX4_high_0 : List UInt8 := dkwX4_high_0 ++ []
theorem dksX4_high_0 : cX4_high.data.toList.drop 0 = dktX4_high_0 := by decide +kernel
theorem dX4_high_0 : decode cX4_high 0 = .ok (.iload_n 0, 1) := dk_26 (dk_at dksX4_high_0 0 rfl rfl)
theorem dX4_high_1 : decode cX4_high 1 = .ok (.iconst 3, 1) := dk_6 (dk_at dksX4_high_0 1 rfl rfl)
theorem dX4_high_2 : decode cX4_high 2 = .ok (.if_icmp .ne 7, 3) := dk_160 0 7 (dk_at dksX4_high_0 2 rfl rfl)
theorem dX4_high_5 : decode cX4_high 5 = .ok (.iconst 5, 1) := dk_8 (dk_at dksX4_high_0 5 rfl rfl)
theorem dX4_high_6 : decode cX4_high 6 = .ok (.goto 15, 3) := dk_167 0 15 (dk_at dksX4_high_0 6 rfl rfl)
theorem dX4_high_9 : decode cX4_high 9 = .ok (.iload_n 0, 1) := dk_26 (dk_at dksX4_high_0 9 rfl rfl)
theorem dX4_high_10 : decode cX4_high 10 = .ok (.iconst 4, 1) := dk_7 (dk_at dksX4_high_0 10 rfl rfl)
theorem dX4_high_11 : decode cX4_high 11 = .ok (.if_icmp .ne 7, 3) := dk_160 0 7 (dk_at dksX4_high_0 11 rfl rfl)
theorem dX4_high_14 : decode cX4_high 14 = .ok (.iconst 4, 1) := dk_7 (dk_at dksX4_high_0 14 rfl rfl)
theorem dX4_high_15 : decode cX4_high 15 = .ok (.goto 6, 3) := dk_167 0 6 (dk_at dksX4_high_0 15 rfl rfl)
theorem dX4_high_18 : decode cX4_high 18 = .ok (.sipush 999, 3) := dk_17 3 231 (dk_at dksX4_high_0 18 rfl rfl)
theorem dX4_high_21 : decode cX4_high 21 = .ok (.ireturn, 1) := dk_172 (dk_at dksX4_high_0 21 rfl rfl)
abbrev cX3_looks : ByteArray := prog_8_method_7_code
def yX3_looks : MethodName := ⟨RX3, "looks", "(II)I"⟩
def dkwX3_looks_1 : List UInt8 := [27, 133, 28, 133, 184, 0, 43, 5, 182, 0, 91, 42, 180, 0, 83, 172]
abbrev dktX3_looks_1 : List UInt8 := dkwX3_looks_1 ++ []
def dkwX3_looks_0 : List UInt8 := [42, 42, 180, 0, 64, 4, 160, 0, 7, 4, 167, 0, 4, 3, 4, 182, 0, 91, 42, 42, 180, 0, 83, 133]
abbrev dktX3_looks_0 : List UInt8 := dkwX3_looks_0 ++ dktX3_looks_1
theorem dksX3_looks_0 : cX3_looks.data.toList.drop 0 = dktX3_looks_0 := by decide +kernel
theorem dksX3_looks_1 : cX3_looks.data.toList.drop 24 = dktX3_looks_1 := dk_seg dksX3_looks_0 24 rfl rfl
theorem dX3_looks_0 : decode cX3_looks 0 = .ok (.aload_n 0, 1) := dk_42 (dk_at dksX3_looks_0 0 rfl rfl)
theorem dX3_looks_1 : decode cX3_looks 1 = .ok (.aload_n 0, 1) := dk_42 (dk_at dksX3_looks_0 1 rfl rfl)
theorem dX3_looks_2 : decode cX3_looks 2 = .ok (.getfield 64, 3) := dk_180 0 64 (dk_at dksX3_looks_0 2 rfl rfl)
theorem dX3_looks_5 : decode cX3_looks 5 = .ok (.iconst 1, 1) := dk_4 (dk_at dksX3_looks_0 5 rfl rfl)
theorem dX3_looks_6 : decode cX3_looks 6 = .ok (.if_icmp .ne 7, 3) := dk_160 0 7 (dk_at dksX3_looks_0 6 rfl rfl)
theorem dX3_looks_9 : decode cX3_looks 9 = .ok (.iconst 1, 1) := dk_4 (dk_at dksX3_looks_0 9 rfl rfl)
theorem dX3_looks_10 : decode cX3_looks 10 = .ok (.goto 4, 3) := dk_167 0 4 (dk_at dksX3_looks_0 10 rfl rfl)
theorem dX3_looks_13 : decode cX3_looks 13 = .ok (.iconst 0, 1) := dk_3 (dk_at dksX3_looks_0 13 rfl rfl)
theorem dX3_looks_14 : decode cX3_looks 14 = .ok (.iconst 1, 1) := dk_4 (dk_at dksX3_looks_0 14 rfl rfl)
theorem dX3_looks_15 : decode cX3_looks 15 = .ok (.invokevirtual 91, 3) := dk_182 0 91 (dk_at dksX3_looks_0 15 rfl rfl)
theorem dX3_looks_18 : decode cX3_looks 18 = .ok (.aload_n 0, 1) := dk_42 (dk_at dksX3_looks_0 18 rfl rfl)
theorem dX3_looks_19 : decode cX3_looks 19 = .ok (.aload_n 0, 1) := dk_42 (dk_at dksX3_looks_0 19 rfl rfl)
theorem dX3_looks_20 : decode cX3_looks 20 = .ok (.getfield 83, 3) := dk_180 0 83 (dk_at dksX3_looks_0 20 rfl rfl)
theorem dX3_looks_23 : decode cX3_looks 23 = .ok (.i2l, 1) := dk_133 (dk_at dksX3_looks_0 23 rfl rfl)
theorem dX3_looks_24 : decode cX3_looks 24 = .ok (.iload_n 1, 1) := dk_27 (dk_at dksX3_looks_1 0 rfl rfl)
theorem dX3_looks_25 : decode cX3_looks 25 = .ok (.i2l, 1) := dk_133 (dk_at dksX3_looks_1 1 rfl rfl)
theorem dX3_looks_26 : decode cX3_looks 26 = .ok (.iload_n 2, 1) := dk_28 (dk_at dksX3_looks_1 2 rfl rfl)
theorem dX3_looks_27 : decode cX3_looks 27 = .ok (.i2l, 1) := dk_133 (dk_at dksX3_looks_1 3 rfl rfl)
theorem dX3_looks_28 : decode cX3_looks 28 = .ok (.invokestatic 43, 3) := dk_184 0 43 (dk_at dksX3_looks_1 4 rfl rfl)
theorem dX3_looks_31 : decode cX3_looks 31 = .ok (.iconst 2, 1) := dk_5 (dk_at dksX3_looks_1 7 rfl rfl)
theorem dX3_looks_32 : decode cX3_looks 32 = .ok (.invokevirtual 91, 3) := dk_182 0 91 (dk_at dksX3_looks_1 8 rfl rfl)
theorem dX3_looks_35 : decode cX3_looks 35 = .ok (.aload_n 0, 1) := dk_42 (dk_at dksX3_looks_1 11 rfl rfl)
theorem dX3_looks_36 : decode cX3_looks 36 = .ok (.getfield 83, 3) := dk_180 0 83 (dk_at dksX3_looks_1 12 rfl rfl)
theorem dX3_looks_39 : decode cX3_looks 39 = .ok (.ireturn, 1) := dk_172 (dk_at dksX3_looks_1 15 rfl rfl)
abbrev cX3_number : ByteArray := prog_8_method_8_code
def yX3_number : MethodName := ⟨RX3, "number", "(II)I"⟩
def dkwX3_number_0 : List UInt8 := [42, 27, 28, 182, 0, 95, 62, 42, 182, 0, 32, 29, 172]
abbrev dktX3_number_0 : List UInt8 := dkwX3_number_0 ++ []
theorem dksX3_number_0 : cX3_number.data.toList.drop 0 = dktX3_number_0 := by decide +kernel
theorem dX3_number_0 : decode cX3_number 0 = .ok (.aload_n 0, 1) := dk_42 (dk_at dksX3_number_0 0 rfl rfl)
theorem dX3_number_1 : decode cX3_number 1 = .ok (.iload_n 1, 1) := dk_27 (dk_at dksX3_number_0 1 rfl rfl)
theorem dX3_number_2 : decode cX3_number 2 = .ok (.iload_n 2, 1) := dk_28 (dk_at dksX3_number_0 2 rfl rfl)
theorem dX3_number_3 : decode cX3_number 3 = .ok (.invokevirtual 95, 3) := dk_182 0 95 (dk_at dksX3_number_0 3 rfl rfl)
theorem dX3_number_6 : decode cX3_number 6 = .ok (.istore_n 3, 1) := dk_62 (dk_at dksX3_number_0 6 rfl rfl)
theorem dX3_number_7 : decode cX3_number 7 = .ok (.aload_n 0, 1) := dk_42 (dk_at dksX3_number_0 7 rfl rfl)
theorem dX3_number_8 : decode cX3_number 8 = .ok (.invokevirtual 32, 3) := dk_182 0 32 (dk_at dksX3_number_0 8 rfl rfl)
theorem dX3_number_11 : decode cX3_number 11 = .ok (.iload_n 3, 1) := dk_29 (dk_at dksX3_number_0 11 rfl rfl)
theorem dX3_number_12 : decode cX3_number 12 = .ok (.ireturn, 1) := dk_172 (dk_at dksX3_number_0 12 rfl rfl)
abbrev cX4_sets : ByteArray := prog_7_method_45_code
def yX4_sets : MethodName := ⟨RX4, "sets", "(II)V"⟩
def dkwX4_sets_2 : List UInt8 := [42, 28, 181, 0, 57, 167, 0, 16, 42, 28, 181, 0, 61, 167, 0, 8, 42, 28, 181, 0, 64, 177]
abbrev dktX4_sets_2 : List UInt8 := dkwX4_sets_2 ++ []
def dkwX4_sets_1 : List UInt8 := [171, 0, 0, 0, 0, 0, 43, 0, 0, 0, 2, 0, 0, 0, 3, 0, 0, 0, 27, 0, 0, 0, 4, 0, 0, 0, 35]
abbrev dktX4_sets_1 : List UInt8 := dkwX4_sets_1 ++ dktX4_sets_2
def dkwX4_sets_0 : List UInt8 := [27]
abbrev dktX4_sets_0 : List UInt8 := dkwX4_sets_0 ++ dktX4_sets_1
theorem dksX4_sets_0 : cX4_sets.data.toList.drop 0 = dktX4_sets_0 := by decide +kernel
theorem dksX4_sets_1 : cX4_sets.data.toList.drop 1 = dktX4_sets_1 := dk_seg dksX4_sets_0 1 rfl rfl
theorem dksX4_sets_2 : cX4_sets.data.toList.drop 28 = dktX4_sets_2 := dk_seg dksX4_sets_1 27 rfl rfl
theorem dX4_sets_0 : decode cX4_sets 0 = .ok (.iload_n 1, 1) := dk_27 (dk_at dksX4_sets_0 0 rfl rfl)
theorem dX4_sets_1 : decode cX4_sets 1 = .ok (.lookupswitch 43 #[(3, 27), (4, 35)], 27) := by decide +kernel
theorem dX4_sets_28 : decode cX4_sets 28 = .ok (.aload_n 0, 1) := dk_42 (dk_at dksX4_sets_2 0 rfl rfl)
theorem dX4_sets_29 : decode cX4_sets 29 = .ok (.iload_n 2, 1) := dk_28 (dk_at dksX4_sets_2 1 rfl rfl)
theorem dX4_sets_30 : decode cX4_sets 30 = .ok (.putfield 57, 3) := dk_181 0 57 (dk_at dksX4_sets_2 2 rfl rfl)
theorem dX4_sets_33 : decode cX4_sets 33 = .ok (.goto 16, 3) := dk_167 0 16 (dk_at dksX4_sets_2 5 rfl rfl)
theorem dX4_sets_36 : decode cX4_sets 36 = .ok (.aload_n 0, 1) := dk_42 (dk_at dksX4_sets_2 8 rfl rfl)
theorem dX4_sets_37 : decode cX4_sets 37 = .ok (.iload_n 2, 1) := dk_28 (dk_at dksX4_sets_2 9 rfl rfl)
theorem dX4_sets_38 : decode cX4_sets 38 = .ok (.putfield 61, 3) := dk_181 0 61 (dk_at dksX4_sets_2 10 rfl rfl)
theorem dX4_sets_41 : decode cX4_sets 41 = .ok (.goto 8, 3) := dk_167 0 8 (dk_at dksX4_sets_2 13 rfl rfl)
theorem dX4_sets_44 : decode cX4_sets 44 = .ok (.aload_n 0, 1) := dk_42 (dk_at dksX4_sets_2 16 rfl rfl)
theorem dX4_sets_45 : decode cX4_sets 45 = .ok (.iload_n 2, 1) := dk_28 (dk_at dksX4_sets_2 17 rfl rfl)
theorem dX4_sets_46 : decode cX4_sets 46 = .ok (.putfield 64, 3) := dk_181 0 64 (dk_at dksX4_sets_2 18 rfl rfl)
theorem dX4_sets_49 : decode cX4_sets 49 = .ok (.return_, 1) := dk_177 (dk_at dksX4_sets_2 21 rfl rfl)
abbrev cJ12_size : ByteArray := prog_47_method_8_code
def yJ12_size : MethodName := ⟨RJ12, "size", "()I"⟩
theorem dJ12_size_0 : decode cJ12_size 0 = .ok (.aload_n 0, 1) := by decide +kernel
theorem dJ12_size_1 : decode cJ12_size 1 = .ok (.getfield 48, 3) := by decide +kernel
theorem dJ12_size_4 : decode cJ12_size 4 = .ok (.ireturn, 1) := by decide +kernel
abbrev cX4_size : ByteArray := prog_7_method_3_code
def yX4_size : MethodName := ⟨RX4, "size", "()I"⟩
def dkwX4_size_0 : List UInt8 := [42, 180, 0, 12, 185, 0, 73, 1, 0, 172]
abbrev dktX4_size_0 : List UInt8 := dkwX4_size_0 ++ []
theorem dksX4_size_0 : cX4_size.data.toList.drop 0 = dktX4_size_0 := by decide +kernel
theorem dX4_size_0 : decode cX4_size 0 = .ok (.aload_n 0, 1) := dk_42 (dk_at dksX4_size_0 0 rfl rfl)
theorem dX4_size_1 : decode cX4_size 1 = .ok (.getfield 12, 3) := dk_180 0 12 (dk_at dksX4_size_0 1 rfl rfl)
theorem dX4_size_4 : decode cX4_size 4 = .ok (.invokeinterface 73 1, 5) := by decide +kernel
theorem dX4_size_9 : decode cX4_size 9 = .ok (.ireturn, 1) := dk_172 (dk_at dksX4_size_0 9 rfl rfl)
abbrev cJ21_checkIndex : ByteArray := prog_61_method_17_code
def yJ21_checkIndex : MethodName := ⟨RJ21, "checkIndex", "(II)I"⟩
def dkwJ21_checkIndex_0 : List UInt8 := [26, 27, 1, 184, 0, 105, 172]
abbrev dktJ21_checkIndex_0 : List UInt8 := dkwJ21_checkIndex_0 ++ []
theorem dksJ21_checkIndex_0 : cJ21_checkIndex.data.toList.drop 0 = dktJ21_checkIndex_0 := by decide +kernel
theorem dJ21_checkIndex_0 : decode cJ21_checkIndex 0 = .ok (.iload_n 0, 1) := dk_26 (dk_at dksJ21_checkIndex_0 0 rfl rfl)
theorem dJ21_checkIndex_1 : decode cJ21_checkIndex 1 = .ok (.iload_n 1, 1) := dk_27 (dk_at dksJ21_checkIndex_0 1 rfl rfl)
theorem dJ21_checkIndex_2 : decode cJ21_checkIndex 2 = .ok (.aconst_null, 1) := dk_1 (dk_at dksJ21_checkIndex_0 2 rfl rfl)
theorem dJ21_checkIndex_3 : decode cJ21_checkIndex 3 = .ok (.invokestatic 105, 3) := dk_184 0 105 (dk_at dksJ21_checkIndex_0 3 rfl rfl)
theorem dJ21_checkIndex_6 : decode cJ21_checkIndex 6 = .ok (.ireturn, 1) := dk_172 (dk_at dksJ21_checkIndex_0 6 rfl rfl)
abbrev cJ12_elementData : ByteArray := prog_47_method_18_code
def yJ12_elementData : MethodName := ⟨RJ12, "elementData", "(I)Ljava/lang/Object;"⟩
def dkwJ12_elementData_0 : List UInt8 := [42, 180, 0, 9, 27, 50, 176]
abbrev dktJ12_elementData_0 : List UInt8 := dkwJ12_elementData_0 ++ []
theorem dksJ12_elementData_0 : cJ12_elementData.data.toList.drop 0 = dktJ12_elementData_0 := by decide +kernel
theorem dJ12_elementData_0 : decode cJ12_elementData 0 = .ok (.aload_n 0, 1) := dk_42 (dk_at dksJ12_elementData_0 0 rfl rfl)
theorem dJ12_elementData_1 : decode cJ12_elementData 1 = .ok (.getfield 9, 3) := dk_180 0 9 (dk_at dksJ12_elementData_0 1 rfl rfl)
theorem dJ12_elementData_4 : decode cJ12_elementData 4 = .ok (.iload_n 1, 1) := dk_27 (dk_at dksJ12_elementData_0 4 rfl rfl)
theorem dJ12_elementData_5 : decode cJ12_elementData 5 = .ok (.aaload, 1) := dk_50 (dk_at dksJ12_elementData_0 5 rfl rfl)
theorem dJ12_elementData_6 : decode cJ12_elementData 6 = .ok (.areturn, 1) := dk_176 (dk_at dksJ12_elementData_0 6 rfl rfl)
abbrev cJ12_get : ByteArray := prog_47_method_20_code
def yJ12_get : MethodName := ⟨RJ12, "get", "(I)Ljava/lang/Object;"⟩
def dkwJ12_get_0 : List UInt8 := [27, 42, 180, 0, 48, 184, 0, 118, 87, 42, 27, 182, 0, 123, 176]
abbrev dktJ12_get_0 : List UInt8 := dkwJ12_get_0 ++ []
theorem dksJ12_get_0 : cJ12_get.data.toList.drop 0 = dktJ12_get_0 := by decide +kernel
theorem dJ12_get_0 : decode cJ12_get 0 = .ok (.iload_n 1, 1) := dk_27 (dk_at dksJ12_get_0 0 rfl rfl)
theorem dJ12_get_1 : decode cJ12_get 1 = .ok (.aload_n 0, 1) := dk_42 (dk_at dksJ12_get_0 1 rfl rfl)
theorem dJ12_get_2 : decode cJ12_get 2 = .ok (.getfield 48, 3) := dk_180 0 48 (dk_at dksJ12_get_0 2 rfl rfl)
theorem dJ12_get_5 : decode cJ12_get 5 = .ok (.invokestatic 118, 3) := dk_184 0 118 (dk_at dksJ12_get_0 5 rfl rfl)
theorem dJ12_get_8 : decode cJ12_get 8 = .ok (.pop, 1) := dk_87 (dk_at dksJ12_get_0 8 rfl rfl)
theorem dJ12_get_9 : decode cJ12_get 9 = .ok (.aload_n 0, 1) := dk_42 (dk_at dksJ12_get_0 9 rfl rfl)
theorem dJ12_get_10 : decode cJ12_get 10 = .ok (.iload_n 1, 1) := dk_27 (dk_at dksJ12_get_0 10 rfl rfl)
theorem dJ12_get_11 : decode cJ12_get 11 = .ok (.invokevirtual 123, 3) := dk_182 0 123 (dk_at dksJ12_get_0 11 rfl rfl)
theorem dJ12_get_14 : decode cJ12_get 14 = .ok (.areturn, 1) := dk_176 (dk_at dksJ12_get_0 14 rfl rfl)
abbrev cX4_at : ByteArray := prog_7_method_4_code
def yX4_at : MethodName := ⟨RX4, "at", "(I)LMultipoleLine$Body;"⟩
def dkwX4_at_0 : List UInt8 := [42, 180, 0, 12, 27, 185, 0, 74, 2, 0, 192, 0, 46, 176]
abbrev dktX4_at_0 : List UInt8 := dkwX4_at_0 ++ []
theorem dksX4_at_0 : cX4_at.data.toList.drop 0 = dktX4_at_0 := by decide +kernel
theorem dX4_at_0 : decode cX4_at 0 = .ok (.aload_n 0, 1) := dk_42 (dk_at dksX4_at_0 0 rfl rfl)
theorem dX4_at_1 : decode cX4_at 1 = .ok (.getfield 12, 3) := dk_180 0 12 (dk_at dksX4_at_0 1 rfl rfl)
theorem dX4_at_4 : decode cX4_at 4 = .ok (.iload_n 1, 1) := dk_27 (dk_at dksX4_at_0 4 rfl rfl)
theorem dX4_at_5 : decode cX4_at 5 = .ok (.invokeinterface 74 2, 5) := by decide +kernel
theorem dX4_at_10 : decode cX4_at 10 = .ok (.checkcast 46, 3) := dk_192 0 46 (dk_at dksX4_at_0 10 rfl rfl)
theorem dX4_at_13 : decode cX4_at 13 = .ok (.areturn, 1) := dk_176 (dk_at dksX4_at_0 13 rfl rfl)
abbrev cX4_hasFixed : ByteArray := prog_7_method_6_code
def yX4_hasFixed : MethodName := ⟨RX4, "hasFixed", "(I)Z"⟩
def dkwX4_hasFixed_2 : List UInt8 := [167, 255, 212, 28, 172]
abbrev dktX4_hasFixed_2 : List UInt8 := dkwX4_hasFixed_2 ++ []
def dkwX4_hasFixed_1 : List UInt8 := [27, 160, 0, 18, 42, 29, 182, 0, 41, 180, 0, 78, 154, 0, 7, 4, 167, 0, 4, 3, 61, 132, 3, 1]
abbrev dktX4_hasFixed_1 : List UInt8 := dkwX4_hasFixed_1 ++ dktX4_hasFixed_2
def dkwX4_hasFixed_0 : List UInt8 := [3, 61, 3, 62, 29, 42, 182, 0, 37, 162, 0, 42, 28, 154, 0, 26, 42, 29, 182, 0, 41, 180, 0, 86]
abbrev dktX4_hasFixed_0 : List UInt8 := dkwX4_hasFixed_0 ++ dktX4_hasFixed_1
theorem dksX4_hasFixed_0 : cX4_hasFixed.data.toList.drop 0 = dktX4_hasFixed_0 := by decide +kernel
theorem dksX4_hasFixed_1 : cX4_hasFixed.data.toList.drop 24 = dktX4_hasFixed_1 := dk_seg dksX4_hasFixed_0 24 rfl rfl
theorem dksX4_hasFixed_2 : cX4_hasFixed.data.toList.drop 48 = dktX4_hasFixed_2 := dk_seg dksX4_hasFixed_1 24 rfl rfl
theorem dX4_hasFixed_0 : decode cX4_hasFixed 0 = .ok (.iconst 0, 1) := dk_3 (dk_at dksX4_hasFixed_0 0 rfl rfl)
theorem dX4_hasFixed_1 : decode cX4_hasFixed 1 = .ok (.istore_n 2, 1) := dk_61 (dk_at dksX4_hasFixed_0 1 rfl rfl)
theorem dX4_hasFixed_2 : decode cX4_hasFixed 2 = .ok (.iconst 0, 1) := dk_3 (dk_at dksX4_hasFixed_0 2 rfl rfl)
theorem dX4_hasFixed_3 : decode cX4_hasFixed 3 = .ok (.istore_n 3, 1) := dk_62 (dk_at dksX4_hasFixed_0 3 rfl rfl)
theorem dX4_hasFixed_4 : decode cX4_hasFixed 4 = .ok (.iload_n 3, 1) := dk_29 (dk_at dksX4_hasFixed_0 4 rfl rfl)
theorem dX4_hasFixed_5 : decode cX4_hasFixed 5 = .ok (.aload_n 0, 1) := dk_42 (dk_at dksX4_hasFixed_0 5 rfl rfl)
theorem dX4_hasFixed_6 : decode cX4_hasFixed 6 = .ok (.invokevirtual 37, 3) := dk_182 0 37 (dk_at dksX4_hasFixed_0 6 rfl rfl)
theorem dX4_hasFixed_9 : decode cX4_hasFixed 9 = .ok (.if_icmp .ge 42, 3) := dk_162 0 42 (dk_at dksX4_hasFixed_0 9 rfl rfl)
theorem dX4_hasFixed_12 : decode cX4_hasFixed 12 = .ok (.iload_n 2, 1) := dk_28 (dk_at dksX4_hasFixed_0 12 rfl rfl)
theorem dX4_hasFixed_13 : decode cX4_hasFixed 13 = .ok (.ifCond .ne 26, 3) := dk_154 0 26 (dk_at dksX4_hasFixed_0 13 rfl rfl)
theorem dX4_hasFixed_16 : decode cX4_hasFixed 16 = .ok (.aload_n 0, 1) := dk_42 (dk_at dksX4_hasFixed_0 16 rfl rfl)
theorem dX4_hasFixed_17 : decode cX4_hasFixed 17 = .ok (.iload_n 3, 1) := dk_29 (dk_at dksX4_hasFixed_0 17 rfl rfl)
theorem dX4_hasFixed_18 : decode cX4_hasFixed 18 = .ok (.invokevirtual 41, 3) := dk_182 0 41 (dk_at dksX4_hasFixed_0 18 rfl rfl)
theorem dX4_hasFixed_21 : decode cX4_hasFixed 21 = .ok (.getfield 86, 3) := dk_180 0 86 (dk_at dksX4_hasFixed_0 21 rfl rfl)
theorem dX4_hasFixed_24 : decode cX4_hasFixed 24 = .ok (.iload_n 1, 1) := dk_27 (dk_at dksX4_hasFixed_1 0 rfl rfl)
theorem dX4_hasFixed_25 : decode cX4_hasFixed 25 = .ok (.if_icmp .ne 18, 3) := dk_160 0 18 (dk_at dksX4_hasFixed_1 1 rfl rfl)
theorem dX4_hasFixed_28 : decode cX4_hasFixed 28 = .ok (.aload_n 0, 1) := dk_42 (dk_at dksX4_hasFixed_1 4 rfl rfl)
theorem dX4_hasFixed_29 : decode cX4_hasFixed 29 = .ok (.iload_n 3, 1) := dk_29 (dk_at dksX4_hasFixed_1 5 rfl rfl)
theorem dX4_hasFixed_30 : decode cX4_hasFixed 30 = .ok (.invokevirtual 41, 3) := dk_182 0 41 (dk_at dksX4_hasFixed_1 6 rfl rfl)
theorem dX4_hasFixed_33 : decode cX4_hasFixed 33 = .ok (.getfield 78, 3) := dk_180 0 78 (dk_at dksX4_hasFixed_1 9 rfl rfl)
theorem dX4_hasFixed_36 : decode cX4_hasFixed 36 = .ok (.ifCond .ne 7, 3) := dk_154 0 7 (dk_at dksX4_hasFixed_1 12 rfl rfl)
theorem dX4_hasFixed_39 : decode cX4_hasFixed 39 = .ok (.iconst 1, 1) := dk_4 (dk_at dksX4_hasFixed_1 15 rfl rfl)
theorem dX4_hasFixed_40 : decode cX4_hasFixed 40 = .ok (.goto 4, 3) := dk_167 0 4 (dk_at dksX4_hasFixed_1 16 rfl rfl)
theorem dX4_hasFixed_43 : decode cX4_hasFixed 43 = .ok (.iconst 0, 1) := dk_3 (dk_at dksX4_hasFixed_1 19 rfl rfl)
theorem dX4_hasFixed_44 : decode cX4_hasFixed 44 = .ok (.istore_n 2, 1) := dk_61 (dk_at dksX4_hasFixed_1 20 rfl rfl)
theorem dX4_hasFixed_45 : decode cX4_hasFixed 45 = .ok (.iinc 3 1, 3) := dk_132 3 1 (dk_at dksX4_hasFixed_1 21 rfl rfl)
theorem dX4_hasFixed_48 : decode cX4_hasFixed 48 = .ok (.goto (-44), 3) := dk_167 255 212 (dk_at dksX4_hasFixed_2 0 rfl rfl)
theorem dX4_hasFixed_51 : decode cX4_hasFixed 51 = .ok (.iload_n 2, 1) := dk_28 (dk_at dksX4_hasFixed_2 3 rfl rfl)
theorem dX4_hasFixed_52 : decode cX4_hasFixed 52 = .ok (.ireturn, 1) := dk_172 (dk_at dksX4_hasFixed_2 4 rfl rfl)
abbrev cX7_init : ByteArray := prog_2_method_1_code
def yX7_init : MethodName := ⟨RX7, "<init>", "()V"⟩
theorem dX7_init_0 : decode cX7_init 0 = .ok (.aload_n 0, 1) := by decide +kernel
theorem dX7_init_1 : decode cX7_init 1 = .ok (.invokespecial 1, 3) := by decide +kernel
theorem dX7_init_4 : decode cX7_init 4 = .ok (.return_, 1) := by decide +kernel
abbrev cX8_init : ByteArray := prog_4_method_1_code
def yX8_init : MethodName := ⟨RX8, "<init>", "()V"⟩
theorem dX8_init_0 : decode cX8_init 0 = .ok (.aload_n 0, 1) := by decide +kernel
theorem dX8_init_1 : decode cX8_init 1 = .ok (.invokespecial 1, 3) := by decide +kernel
theorem dX8_init_4 : decode cX8_init 4 = .ok (.return_, 1) := by decide +kernel
abbrev cX9_init : ByteArray := prog_6_method_1_code
def yX9_init : MethodName := ⟨RX9, "<init>", "()V"⟩
theorem dX9_init_0 : decode cX9_init 0 = .ok (.aload_n 0, 1) := by decide +kernel
theorem dX9_init_1 : decode cX9_init 1 = .ok (.invokespecial 1, 3) := by decide +kernel
theorem dX9_init_4 : decode cX9_init 4 = .ok (.return_, 1) := by decide +kernel
abbrev cX1_isFree : ByteArray := prog_1_method_6_code
def yX1_isFree : MethodName := ⟨RX1, "isFree", "(LMultipoleLine$Body;[LMultipoleLine$Body;)Z"⟩
def dkwX1_isFree_0 : List UInt8 := [43, 3, 42, 83, 4, 172, 77, 3, 172]
abbrev dktX1_isFree_0 : List UInt8 := dkwX1_isFree_0 ++ []
theorem dksX1_isFree_0 : cX1_isFree.data.toList.drop 0 = dktX1_isFree_0 := by decide +kernel
theorem dX1_isFree_0 : decode cX1_isFree 0 = .ok (.aload_n 1, 1) := dk_43 (dk_at dksX1_isFree_0 0 rfl rfl)
theorem dX1_isFree_1 : decode cX1_isFree 1 = .ok (.iconst 0, 1) := dk_3 (dk_at dksX1_isFree_0 1 rfl rfl)
theorem dX1_isFree_2 : decode cX1_isFree 2 = .ok (.aload_n 0, 1) := dk_42 (dk_at dksX1_isFree_0 2 rfl rfl)
theorem dX1_isFree_3 : decode cX1_isFree 3 = .ok (.aastore, 1) := dk_83 (dk_at dksX1_isFree_0 3 rfl rfl)
theorem dX1_isFree_4 : decode cX1_isFree 4 = .ok (.iconst 1, 1) := dk_4 (dk_at dksX1_isFree_0 4 rfl rfl)
theorem dX1_isFree_5 : decode cX1_isFree 5 = .ok (.ireturn, 1) := dk_172 (dk_at dksX1_isFree_0 5 rfl rfl)
theorem dX1_isFree_6 : decode cX1_isFree 6 = .ok (.astore_n 2, 1) := dk_77 (dk_at dksX1_isFree_0 6 rfl rfl)
theorem dX1_isFree_7 : decode cX1_isFree 7 = .ok (.iconst 0, 1) := dk_3 (dk_at dksX1_isFree_0 7 rfl rfl)
theorem dX1_isFree_8 : decode cX1_isFree 8 = .ok (.ireturn, 1) := dk_172 (dk_at dksX1_isFree_0 8 rfl rfl)
abbrev cX1_body : ByteArray := prog_1_method_7_code
def yX1_body : MethodName := ⟨RX1, "body", "(Z)LMultipoleLine$Body;"⟩
def dkwX1_body_1 : List UInt8 := [4, 189, 0, 9, 184, 0, 12, 181, 0, 18, 43, 176]
abbrev dktX1_body_1 : List UInt8 := dkwX1_body_1 ++ []
def dkwX1_body_0 : List UInt8 := [26, 153, 0, 13, 187, 0, 3, 89, 183, 0, 5, 167, 0, 10, 187, 0, 9, 89, 183, 0, 11, 76, 43, 43]
abbrev dktX1_body_0 : List UInt8 := dkwX1_body_0 ++ dktX1_body_1
theorem dksX1_body_0 : cX1_body.data.toList.drop 0 = dktX1_body_0 := by decide +kernel
theorem dksX1_body_1 : cX1_body.data.toList.drop 24 = dktX1_body_1 := dk_seg dksX1_body_0 24 rfl rfl
theorem dX1_body_0 : decode cX1_body 0 = .ok (.iload_n 0, 1) := dk_26 (dk_at dksX1_body_0 0 rfl rfl)
theorem dX1_body_1 : decode cX1_body 1 = .ok (.ifCond .eq 13, 3) := dk_153 0 13 (dk_at dksX1_body_0 1 rfl rfl)
theorem dX1_body_4 : decode cX1_body 4 = .ok (.new 3, 3) := dk_187 0 3 (dk_at dksX1_body_0 4 rfl rfl)
theorem dX1_body_7 : decode cX1_body 7 = .ok (.dup, 1) := dk_89 (dk_at dksX1_body_0 7 rfl rfl)
theorem dX1_body_8 : decode cX1_body 8 = .ok (.invokespecial 5, 3) := dk_183 0 5 (dk_at dksX1_body_0 8 rfl rfl)
theorem dX1_body_11 : decode cX1_body 11 = .ok (.goto 10, 3) := dk_167 0 10 (dk_at dksX1_body_0 11 rfl rfl)
theorem dX1_body_14 : decode cX1_body 14 = .ok (.new 9, 3) := dk_187 0 9 (dk_at dksX1_body_0 14 rfl rfl)
theorem dX1_body_17 : decode cX1_body 17 = .ok (.dup, 1) := dk_89 (dk_at dksX1_body_0 17 rfl rfl)
theorem dX1_body_18 : decode cX1_body 18 = .ok (.invokespecial 11, 3) := dk_183 0 11 (dk_at dksX1_body_0 18 rfl rfl)
theorem dX1_body_21 : decode cX1_body 21 = .ok (.astore_n 1, 1) := dk_76 (dk_at dksX1_body_0 21 rfl rfl)
theorem dX1_body_22 : decode cX1_body 22 = .ok (.aload_n 1, 1) := dk_43 (dk_at dksX1_body_0 22 rfl rfl)
theorem dX1_body_23 : decode cX1_body 23 = .ok (.aload_n 1, 1) := dk_43 (dk_at dksX1_body_0 23 rfl rfl)
theorem dX1_body_24 : decode cX1_body 24 = .ok (.iconst 1, 1) := dk_4 (dk_at dksX1_body_1 0 rfl rfl)
theorem dX1_body_25 : decode cX1_body 25 = .ok (.anewarray 9, 3) := dk_189 0 9 (dk_at dksX1_body_1 1 rfl rfl)
theorem dX1_body_28 : decode cX1_body 28 = .ok (.invokestatic 12, 3) := dk_184 0 12 (dk_at dksX1_body_1 4 rfl rfl)
theorem dX1_body_31 : decode cX1_body 31 = .ok (.putfield 18, 3) := dk_181 0 18 (dk_at dksX1_body_1 7 rfl rfl)
theorem dX1_body_34 : decode cX1_body 34 = .ok (.aload_n 1, 1) := dk_43 (dk_at dksX1_body_1 10 rfl rfl)
theorem dX1_body_35 : decode cX1_body 35 = .ok (.areturn, 1) := dk_176 (dk_at dksX1_body_1 11 rfl rfl)
abbrev cX7_be : ByteArray := prog_2_method_2_code
def yX7_be : MethodName := ⟨RX7, "be", "(III)LMultipoleLine$Body;"⟩
def dkwX7_be_0 : List UInt8 := [42, 27, 181, 0, 7, 42, 28, 181, 0, 13, 42, 29, 181, 0, 16, 42, 176]
abbrev dktX7_be_0 : List UInt8 := dkwX7_be_0 ++ []
theorem dksX7_be_0 : cX7_be.data.toList.drop 0 = dktX7_be_0 := by decide +kernel
theorem dX7_be_0 : decode cX7_be 0 = .ok (.aload_n 0, 1) := dk_42 (dk_at dksX7_be_0 0 rfl rfl)
theorem dX7_be_1 : decode cX7_be 1 = .ok (.iload_n 1, 1) := dk_27 (dk_at dksX7_be_0 1 rfl rfl)
theorem dX7_be_2 : decode cX7_be 2 = .ok (.putfield 7, 3) := dk_181 0 7 (dk_at dksX7_be_0 2 rfl rfl)
theorem dX7_be_5 : decode cX7_be 5 = .ok (.aload_n 0, 1) := dk_42 (dk_at dksX7_be_0 5 rfl rfl)
theorem dX7_be_6 : decode cX7_be 6 = .ok (.iload_n 2, 1) := dk_28 (dk_at dksX7_be_0 6 rfl rfl)
theorem dX7_be_7 : decode cX7_be 7 = .ok (.putfield 13, 3) := dk_181 0 13 (dk_at dksX7_be_0 7 rfl rfl)
theorem dX7_be_10 : decode cX7_be 10 = .ok (.aload_n 0, 1) := dk_42 (dk_at dksX7_be_0 10 rfl rfl)
theorem dX7_be_11 : decode cX7_be 11 = .ok (.iload_n 3, 1) := dk_29 (dk_at dksX7_be_0 11 rfl rfl)
theorem dX7_be_12 : decode cX7_be 12 = .ok (.putfield 16, 3) := dk_181 0 16 (dk_at dksX7_be_0 12 rfl rfl)
theorem dX7_be_15 : decode cX7_be 15 = .ok (.aload_n 0, 1) := dk_42 (dk_at dksX7_be_0 15 rfl rfl)
theorem dX7_be_16 : decode cX7_be 16 = .ok (.areturn, 1) := dk_176 (dk_at dksX7_be_0 16 rfl rfl)
abbrev cJ15_copyOf_3 : ByteArray := prog_50_method_120_code
def yJ15_copyOf_3 : MethodName := ⟨RJ15, "copyOf", "([Ljava/lang/Object;ILjava/lang/Class;)[Ljava/lang/Object;"⟩
def dkwJ15_copyOf_3_1 : List UInt8 := [78, 42, 3, 45, 3, 42, 190, 27, 184, 1, 48, 184, 0, 150, 45, 176]
abbrev dktJ15_copyOf_3_1 : List UInt8 := dkwJ15_copyOf_3_1 ++ []
def dkwJ15_copyOf_3_0 : List UInt8 := [44, 18, 110, 166, 0, 10, 27, 189, 0, 2, 167, 0, 14, 44, 182, 0, 90, 27, 184, 0, 95, 192, 0, 110]
abbrev dktJ15_copyOf_3_0 : List UInt8 := dkwJ15_copyOf_3_0 ++ dktJ15_copyOf_3_1
theorem dksJ15_copyOf_3_0 : cJ15_copyOf_3.data.toList.drop 0 = dktJ15_copyOf_3_0 := by decide +kernel
theorem dksJ15_copyOf_3_1 : cJ15_copyOf_3.data.toList.drop 24 = dktJ15_copyOf_3_1 := dk_seg dksJ15_copyOf_3_0 24 rfl rfl
theorem dJ15_copyOf_3_0 : decode cJ15_copyOf_3 0 = .ok (.aload_n 2, 1) := dk_44 (dk_at dksJ15_copyOf_3_0 0 rfl rfl)
theorem dJ15_copyOf_3_1 : decode cJ15_copyOf_3 1 = .ok (.ldc 110, 2) := dk_18 110 (dk_at dksJ15_copyOf_3_0 1 rfl rfl)
theorem dJ15_copyOf_3_3 : decode cJ15_copyOf_3 3 = .ok (.if_acmp .ne 10, 3) := dk_166 0 10 (dk_at dksJ15_copyOf_3_0 3 rfl rfl)
theorem dJ15_copyOf_3_6 : decode cJ15_copyOf_3 6 = .ok (.iload_n 1, 1) := dk_27 (dk_at dksJ15_copyOf_3_0 6 rfl rfl)
theorem dJ15_copyOf_3_7 : decode cJ15_copyOf_3 7 = .ok (.anewarray 2, 3) := dk_189 0 2 (dk_at dksJ15_copyOf_3_0 7 rfl rfl)
theorem dJ15_copyOf_3_10 : decode cJ15_copyOf_3 10 = .ok (.goto 14, 3) := dk_167 0 14 (dk_at dksJ15_copyOf_3_0 10 rfl rfl)
theorem dJ15_copyOf_3_13 : decode cJ15_copyOf_3 13 = .ok (.aload_n 2, 1) := dk_44 (dk_at dksJ15_copyOf_3_0 13 rfl rfl)
theorem dJ15_copyOf_3_14 : decode cJ15_copyOf_3 14 = .ok (.invokevirtual 90, 3) := dk_182 0 90 (dk_at dksJ15_copyOf_3_0 14 rfl rfl)
theorem dJ15_copyOf_3_17 : decode cJ15_copyOf_3 17 = .ok (.iload_n 1, 1) := dk_27 (dk_at dksJ15_copyOf_3_0 17 rfl rfl)
theorem dJ15_copyOf_3_18 : decode cJ15_copyOf_3 18 = .ok (.invokestatic 95, 3) := dk_184 0 95 (dk_at dksJ15_copyOf_3_0 18 rfl rfl)
theorem dJ15_copyOf_3_21 : decode cJ15_copyOf_3 21 = .ok (.checkcast 110, 3) := dk_192 0 110 (dk_at dksJ15_copyOf_3_0 21 rfl rfl)
theorem dJ15_copyOf_3_24 : decode cJ15_copyOf_3 24 = .ok (.astore_n 3, 1) := dk_78 (dk_at dksJ15_copyOf_3_1 0 rfl rfl)
theorem dJ15_copyOf_3_25 : decode cJ15_copyOf_3 25 = .ok (.aload_n 0, 1) := dk_42 (dk_at dksJ15_copyOf_3_1 1 rfl rfl)
theorem dJ15_copyOf_3_26 : decode cJ15_copyOf_3 26 = .ok (.iconst 0, 1) := dk_3 (dk_at dksJ15_copyOf_3_1 2 rfl rfl)
theorem dJ15_copyOf_3_27 : decode cJ15_copyOf_3 27 = .ok (.aload_n 3, 1) := dk_45 (dk_at dksJ15_copyOf_3_1 3 rfl rfl)
theorem dJ15_copyOf_3_28 : decode cJ15_copyOf_3 28 = .ok (.iconst 0, 1) := dk_3 (dk_at dksJ15_copyOf_3_1 4 rfl rfl)
theorem dJ15_copyOf_3_29 : decode cJ15_copyOf_3 29 = .ok (.aload_n 0, 1) := dk_42 (dk_at dksJ15_copyOf_3_1 5 rfl rfl)
theorem dJ15_copyOf_3_30 : decode cJ15_copyOf_3 30 = .ok (.arraylength, 1) := dk_190 (dk_at dksJ15_copyOf_3_1 6 rfl rfl)
theorem dJ15_copyOf_3_31 : decode cJ15_copyOf_3 31 = .ok (.iload_n 1, 1) := dk_27 (dk_at dksJ15_copyOf_3_1 7 rfl rfl)
theorem dJ15_copyOf_3_32 : decode cJ15_copyOf_3 32 = .ok (.invokestatic 304, 3) := dk_184 1 48 (dk_at dksJ15_copyOf_3_1 8 rfl rfl)
theorem dJ15_copyOf_3_35 : decode cJ15_copyOf_3 35 = .ok (.invokestatic 150, 3) := dk_184 0 150 (dk_at dksJ15_copyOf_3_1 11 rfl rfl)
theorem dJ15_copyOf_3_38 : decode cJ15_copyOf_3 38 = .ok (.aload_n 3, 1) := dk_45 (dk_at dksJ15_copyOf_3_1 14 rfl rfl)
theorem dJ15_copyOf_3_39 : decode cJ15_copyOf_3 39 = .ok (.areturn, 1) := dk_176 (dk_at dksJ15_copyOf_3_1 15 rfl rfl)
abbrev cJ15_copyOf_2 : ByteArray := prog_50_method_119_code
def yJ15_copyOf_2 : MethodName := ⟨RJ15, "copyOf", "([Ljava/lang/Object;I)[Ljava/lang/Object;"⟩
def dkwJ15_copyOf_2_0 : List UInt8 := [42, 27, 42, 182, 0, 86, 184, 1, 44, 176]
abbrev dktJ15_copyOf_2_0 : List UInt8 := dkwJ15_copyOf_2_0 ++ []
theorem dksJ15_copyOf_2_0 : cJ15_copyOf_2.data.toList.drop 0 = dktJ15_copyOf_2_0 := by decide +kernel
theorem dJ15_copyOf_2_0 : decode cJ15_copyOf_2 0 = .ok (.aload_n 0, 1) := dk_42 (dk_at dksJ15_copyOf_2_0 0 rfl rfl)
theorem dJ15_copyOf_2_1 : decode cJ15_copyOf_2 1 = .ok (.iload_n 1, 1) := dk_27 (dk_at dksJ15_copyOf_2_0 1 rfl rfl)
theorem dJ15_copyOf_2_2 : decode cJ15_copyOf_2 2 = .ok (.aload_n 0, 1) := dk_42 (dk_at dksJ15_copyOf_2_0 2 rfl rfl)
theorem dJ15_copyOf_2_3 : decode cJ15_copyOf_2 3 = .ok (.invokevirtual 86, 3) := dk_182 0 86 (dk_at dksJ15_copyOf_2_0 3 rfl rfl)
theorem dJ15_copyOf_2_6 : decode cJ15_copyOf_2 6 = .ok (.invokestatic 300, 3) := dk_184 1 44 (dk_at dksJ15_copyOf_2_0 6 rfl rfl)
theorem dJ15_copyOf_2_9 : decode cJ15_copyOf_2 9 = .ok (.areturn, 1) := dk_176 (dk_at dksJ15_copyOf_2_0 9 rfl rfl)
abbrev cJ12_grow_2 : ByteArray := prog_47_method_6_code
def yJ12_grow_2 : MethodName := ⟨RJ12, "grow", "(I)[Ljava/lang/Object;"⟩
def dkwJ12_grow_2_2 : List UInt8 := [27, 184, 0, 79, 189, 0, 7, 90, 181, 0, 9, 176]
abbrev dktJ12_grow_2_2 : List UInt8 := dkwJ12_grow_2_2 ++ []
def dkwJ12_grow_2_1 : List UInt8 := [28, 4, 122, 184, 0, 73, 62, 42, 42, 180, 0, 9, 29, 184, 0, 66, 90, 181, 0, 9, 176, 42, 16, 10]
abbrev dktJ12_grow_2_1 : List UInt8 := dkwJ12_grow_2_1 ++ dktJ12_grow_2_2
def dkwJ12_grow_2_0 : List UInt8 := [42, 180, 0, 9, 190, 61, 28, 157, 0, 13, 42, 180, 0, 9, 178, 0, 39, 165, 0, 28, 28, 27, 28, 100]
abbrev dktJ12_grow_2_0 : List UInt8 := dkwJ12_grow_2_0 ++ dktJ12_grow_2_1
theorem dksJ12_grow_2_0 : cJ12_grow_2.data.toList.drop 0 = dktJ12_grow_2_0 := by decide +kernel
theorem dksJ12_grow_2_1 : cJ12_grow_2.data.toList.drop 24 = dktJ12_grow_2_1 := dk_seg dksJ12_grow_2_0 24 rfl rfl
theorem dksJ12_grow_2_2 : cJ12_grow_2.data.toList.drop 48 = dktJ12_grow_2_2 := dk_seg dksJ12_grow_2_1 24 rfl rfl
theorem dJ12_grow_2_0 : decode cJ12_grow_2 0 = .ok (.aload_n 0, 1) := dk_42 (dk_at dksJ12_grow_2_0 0 rfl rfl)
theorem dJ12_grow_2_1 : decode cJ12_grow_2 1 = .ok (.getfield 9, 3) := dk_180 0 9 (dk_at dksJ12_grow_2_0 1 rfl rfl)
theorem dJ12_grow_2_4 : decode cJ12_grow_2 4 = .ok (.arraylength, 1) := dk_190 (dk_at dksJ12_grow_2_0 4 rfl rfl)
theorem dJ12_grow_2_5 : decode cJ12_grow_2 5 = .ok (.istore_n 2, 1) := dk_61 (dk_at dksJ12_grow_2_0 5 rfl rfl)
theorem dJ12_grow_2_6 : decode cJ12_grow_2 6 = .ok (.iload_n 2, 1) := dk_28 (dk_at dksJ12_grow_2_0 6 rfl rfl)
theorem dJ12_grow_2_7 : decode cJ12_grow_2 7 = .ok (.ifCond .gt 13, 3) := dk_157 0 13 (dk_at dksJ12_grow_2_0 7 rfl rfl)
theorem dJ12_grow_2_10 : decode cJ12_grow_2 10 = .ok (.aload_n 0, 1) := dk_42 (dk_at dksJ12_grow_2_0 10 rfl rfl)
theorem dJ12_grow_2_11 : decode cJ12_grow_2 11 = .ok (.getfield 9, 3) := dk_180 0 9 (dk_at dksJ12_grow_2_0 11 rfl rfl)
theorem dJ12_grow_2_14 : decode cJ12_grow_2 14 = .ok (.getstatic 39, 3) := dk_178 0 39 (dk_at dksJ12_grow_2_0 14 rfl rfl)
theorem dJ12_grow_2_17 : decode cJ12_grow_2 17 = .ok (.if_acmp .eq 28, 3) := dk_165 0 28 (dk_at dksJ12_grow_2_0 17 rfl rfl)
theorem dJ12_grow_2_20 : decode cJ12_grow_2 20 = .ok (.iload_n 2, 1) := dk_28 (dk_at dksJ12_grow_2_0 20 rfl rfl)
theorem dJ12_grow_2_21 : decode cJ12_grow_2 21 = .ok (.iload_n 1, 1) := dk_27 (dk_at dksJ12_grow_2_0 21 rfl rfl)
theorem dJ12_grow_2_22 : decode cJ12_grow_2 22 = .ok (.iload_n 2, 1) := dk_28 (dk_at dksJ12_grow_2_0 22 rfl rfl)
theorem dJ12_grow_2_23 : decode cJ12_grow_2 23 = .ok (.isub, 1) := dk_100 (dk_at dksJ12_grow_2_0 23 rfl rfl)
theorem dJ12_grow_2_24 : decode cJ12_grow_2 24 = .ok (.iload_n 2, 1) := dk_28 (dk_at dksJ12_grow_2_1 0 rfl rfl)
theorem dJ12_grow_2_25 : decode cJ12_grow_2 25 = .ok (.iconst 1, 1) := dk_4 (dk_at dksJ12_grow_2_1 1 rfl rfl)
theorem dJ12_grow_2_26 : decode cJ12_grow_2 26 = .ok (.ishr, 1) := dk_122 (dk_at dksJ12_grow_2_1 2 rfl rfl)
theorem dJ12_grow_2_27 : decode cJ12_grow_2 27 = .ok (.invokestatic 73, 3) := dk_184 0 73 (dk_at dksJ12_grow_2_1 3 rfl rfl)
theorem dJ12_grow_2_30 : decode cJ12_grow_2 30 = .ok (.istore_n 3, 1) := dk_62 (dk_at dksJ12_grow_2_1 6 rfl rfl)
theorem dJ12_grow_2_31 : decode cJ12_grow_2 31 = .ok (.aload_n 0, 1) := dk_42 (dk_at dksJ12_grow_2_1 7 rfl rfl)
theorem dJ12_grow_2_32 : decode cJ12_grow_2 32 = .ok (.aload_n 0, 1) := dk_42 (dk_at dksJ12_grow_2_1 8 rfl rfl)
theorem dJ12_grow_2_33 : decode cJ12_grow_2 33 = .ok (.getfield 9, 3) := dk_180 0 9 (dk_at dksJ12_grow_2_1 9 rfl rfl)
theorem dJ12_grow_2_36 : decode cJ12_grow_2 36 = .ok (.iload_n 3, 1) := dk_29 (dk_at dksJ12_grow_2_1 12 rfl rfl)
theorem dJ12_grow_2_37 : decode cJ12_grow_2 37 = .ok (.invokestatic 66, 3) := dk_184 0 66 (dk_at dksJ12_grow_2_1 13 rfl rfl)
theorem dJ12_grow_2_40 : decode cJ12_grow_2 40 = .ok (.dup_x1, 1) := dk_90 (dk_at dksJ12_grow_2_1 16 rfl rfl)
theorem dJ12_grow_2_41 : decode cJ12_grow_2 41 = .ok (.putfield 9, 3) := dk_181 0 9 (dk_at dksJ12_grow_2_1 17 rfl rfl)
theorem dJ12_grow_2_44 : decode cJ12_grow_2 44 = .ok (.areturn, 1) := dk_176 (dk_at dksJ12_grow_2_1 20 rfl rfl)
theorem dJ12_grow_2_45 : decode cJ12_grow_2 45 = .ok (.aload_n 0, 1) := dk_42 (dk_at dksJ12_grow_2_1 21 rfl rfl)
theorem dJ12_grow_2_46 : decode cJ12_grow_2 46 = .ok (.bipush 10, 2) := dk_16 10 (dk_at dksJ12_grow_2_1 22 rfl rfl)
theorem dJ12_grow_2_48 : decode cJ12_grow_2 48 = .ok (.iload_n 1, 1) := dk_27 (dk_at dksJ12_grow_2_2 0 rfl rfl)
theorem dJ12_grow_2_49 : decode cJ12_grow_2 49 = .ok (.invokestatic 79, 3) := dk_184 0 79 (dk_at dksJ12_grow_2_2 1 rfl rfl)
theorem dJ12_grow_2_52 : decode cJ12_grow_2 52 = .ok (.anewarray 7, 3) := dk_189 0 7 (dk_at dksJ12_grow_2_2 4 rfl rfl)
theorem dJ12_grow_2_55 : decode cJ12_grow_2 55 = .ok (.dup_x1, 1) := dk_90 (dk_at dksJ12_grow_2_2 7 rfl rfl)
theorem dJ12_grow_2_56 : decode cJ12_grow_2 56 = .ok (.putfield 9, 3) := dk_181 0 9 (dk_at dksJ12_grow_2_2 8 rfl rfl)
theorem dJ12_grow_2_59 : decode cJ12_grow_2 59 = .ok (.areturn, 1) := dk_176 (dk_at dksJ12_grow_2_2 11 rfl rfl)
abbrev cJ12_grow : ByteArray := prog_47_method_7_code
def yJ12_grow : MethodName := ⟨RJ12, "grow", "()[Ljava/lang/Object;"⟩
def dkwJ12_grow_0 : List UInt8 := [42, 42, 180, 0, 48, 4, 96, 182, 0, 69, 176]
abbrev dktJ12_grow_0 : List UInt8 := dkwJ12_grow_0 ++ []
theorem dksJ12_grow_0 : cJ12_grow.data.toList.drop 0 = dktJ12_grow_0 := by decide +kernel
theorem dJ12_grow_0 : decode cJ12_grow 0 = .ok (.aload_n 0, 1) := dk_42 (dk_at dksJ12_grow_0 0 rfl rfl)
theorem dJ12_grow_1 : decode cJ12_grow 1 = .ok (.aload_n 0, 1) := dk_42 (dk_at dksJ12_grow_0 1 rfl rfl)
theorem dJ12_grow_2 : decode cJ12_grow 2 = .ok (.getfield 48, 3) := dk_180 0 48 (dk_at dksJ12_grow_0 2 rfl rfl)
theorem dJ12_grow_5 : decode cJ12_grow 5 = .ok (.iconst 1, 1) := dk_4 (dk_at dksJ12_grow_0 5 rfl rfl)
theorem dJ12_grow_6 : decode cJ12_grow 6 = .ok (.iadd, 1) := dk_96 (dk_at dksJ12_grow_0 6 rfl rfl)
theorem dJ12_grow_7 : decode cJ12_grow 7 = .ok (.invokevirtual 69, 3) := dk_182 0 69 (dk_at dksJ12_grow_0 7 rfl rfl)
theorem dJ12_grow_10 : decode cJ12_grow 10 = .ok (.areturn, 1) := dk_176 (dk_at dksJ12_grow_0 10 rfl rfl)
abbrev cJ12_add_2 : ByteArray := prog_47_method_24_code
def yJ12_add_2 : MethodName := ⟨RJ12, "add", "(Ljava/lang/Object;[Ljava/lang/Object;I)V"⟩
def dkwJ12_add_2_0 : List UInt8 := [29, 44, 190, 160, 0, 8, 42, 182, 0, 129, 77, 44, 29, 43, 83, 42, 29, 4, 96, 181, 0, 48, 177]
abbrev dktJ12_add_2_0 : List UInt8 := dkwJ12_add_2_0 ++ []
theorem dksJ12_add_2_0 : cJ12_add_2.data.toList.drop 0 = dktJ12_add_2_0 := by decide +kernel
theorem dJ12_add_2_0 : decode cJ12_add_2 0 = .ok (.iload_n 3, 1) := dk_29 (dk_at dksJ12_add_2_0 0 rfl rfl)
theorem dJ12_add_2_1 : decode cJ12_add_2 1 = .ok (.aload_n 2, 1) := dk_44 (dk_at dksJ12_add_2_0 1 rfl rfl)
theorem dJ12_add_2_2 : decode cJ12_add_2 2 = .ok (.arraylength, 1) := dk_190 (dk_at dksJ12_add_2_0 2 rfl rfl)
theorem dJ12_add_2_3 : decode cJ12_add_2 3 = .ok (.if_icmp .ne 8, 3) := dk_160 0 8 (dk_at dksJ12_add_2_0 3 rfl rfl)
theorem dJ12_add_2_6 : decode cJ12_add_2 6 = .ok (.aload_n 0, 1) := dk_42 (dk_at dksJ12_add_2_0 6 rfl rfl)
theorem dJ12_add_2_7 : decode cJ12_add_2 7 = .ok (.invokevirtual 129, 3) := dk_182 0 129 (dk_at dksJ12_add_2_0 7 rfl rfl)
theorem dJ12_add_2_10 : decode cJ12_add_2 10 = .ok (.astore_n 2, 1) := dk_77 (dk_at dksJ12_add_2_0 10 rfl rfl)
theorem dJ12_add_2_11 : decode cJ12_add_2 11 = .ok (.aload_n 2, 1) := dk_44 (dk_at dksJ12_add_2_0 11 rfl rfl)
theorem dJ12_add_2_12 : decode cJ12_add_2 12 = .ok (.iload_n 3, 1) := dk_29 (dk_at dksJ12_add_2_0 12 rfl rfl)
theorem dJ12_add_2_13 : decode cJ12_add_2 13 = .ok (.aload_n 1, 1) := dk_43 (dk_at dksJ12_add_2_0 13 rfl rfl)
theorem dJ12_add_2_14 : decode cJ12_add_2 14 = .ok (.aastore, 1) := dk_83 (dk_at dksJ12_add_2_0 14 rfl rfl)
theorem dJ12_add_2_15 : decode cJ12_add_2 15 = .ok (.aload_n 0, 1) := dk_42 (dk_at dksJ12_add_2_0 15 rfl rfl)
theorem dJ12_add_2_16 : decode cJ12_add_2 16 = .ok (.iload_n 3, 1) := dk_29 (dk_at dksJ12_add_2_0 16 rfl rfl)
theorem dJ12_add_2_17 : decode cJ12_add_2 17 = .ok (.iconst 1, 1) := dk_4 (dk_at dksJ12_add_2_0 17 rfl rfl)
theorem dJ12_add_2_18 : decode cJ12_add_2 18 = .ok (.iadd, 1) := dk_96 (dk_at dksJ12_add_2_0 18 rfl rfl)
theorem dJ12_add_2_19 : decode cJ12_add_2 19 = .ok (.putfield 48, 3) := dk_181 0 48 (dk_at dksJ12_add_2_0 19 rfl rfl)
theorem dJ12_add_2_22 : decode cJ12_add_2 22 = .ok (.return_, 1) := dk_177 (dk_at dksJ12_add_2_0 22 rfl rfl)
abbrev cJ12_add : ByteArray := prog_47_method_25_code
def yJ12_add : MethodName := ⟨RJ12, "add", "(Ljava/lang/Object;)Z"⟩
def dkwJ12_add_1 : List UInt8 := [172]
abbrev dktJ12_add_1 : List UInt8 := dkwJ12_add_1 ++ []
def dkwJ12_add_0 : List UInt8 := [42, 89, 180, 0, 63, 4, 96, 181, 0, 63, 42, 43, 42, 180, 0, 9, 42, 180, 0, 48, 182, 0, 131, 4]
abbrev dktJ12_add_0 : List UInt8 := dkwJ12_add_0 ++ dktJ12_add_1
theorem dksJ12_add_0 : cJ12_add.data.toList.drop 0 = dktJ12_add_0 := by decide +kernel
theorem dksJ12_add_1 : cJ12_add.data.toList.drop 24 = dktJ12_add_1 := dk_seg dksJ12_add_0 24 rfl rfl
theorem dJ12_add_0 : decode cJ12_add 0 = .ok (.aload_n 0, 1) := dk_42 (dk_at dksJ12_add_0 0 rfl rfl)
theorem dJ12_add_1 : decode cJ12_add 1 = .ok (.dup, 1) := dk_89 (dk_at dksJ12_add_0 1 rfl rfl)
theorem dJ12_add_2 : decode cJ12_add 2 = .ok (.getfield 63, 3) := dk_180 0 63 (dk_at dksJ12_add_0 2 rfl rfl)
theorem dJ12_add_5 : decode cJ12_add 5 = .ok (.iconst 1, 1) := dk_4 (dk_at dksJ12_add_0 5 rfl rfl)
theorem dJ12_add_6 : decode cJ12_add 6 = .ok (.iadd, 1) := dk_96 (dk_at dksJ12_add_0 6 rfl rfl)
theorem dJ12_add_7 : decode cJ12_add 7 = .ok (.putfield 63, 3) := dk_181 0 63 (dk_at dksJ12_add_0 7 rfl rfl)
theorem dJ12_add_10 : decode cJ12_add 10 = .ok (.aload_n 0, 1) := dk_42 (dk_at dksJ12_add_0 10 rfl rfl)
theorem dJ12_add_11 : decode cJ12_add 11 = .ok (.aload_n 1, 1) := dk_43 (dk_at dksJ12_add_0 11 rfl rfl)
theorem dJ12_add_12 : decode cJ12_add 12 = .ok (.aload_n 0, 1) := dk_42 (dk_at dksJ12_add_0 12 rfl rfl)
theorem dJ12_add_13 : decode cJ12_add 13 = .ok (.getfield 9, 3) := dk_180 0 9 (dk_at dksJ12_add_0 13 rfl rfl)
theorem dJ12_add_16 : decode cJ12_add 16 = .ok (.aload_n 0, 1) := dk_42 (dk_at dksJ12_add_0 16 rfl rfl)
theorem dJ12_add_17 : decode cJ12_add 17 = .ok (.getfield 48, 3) := dk_180 0 48 (dk_at dksJ12_add_0 17 rfl rfl)
theorem dJ12_add_20 : decode cJ12_add 20 = .ok (.invokevirtual 131, 3) := dk_182 0 131 (dk_at dksJ12_add_0 20 rfl rfl)
theorem dJ12_add_23 : decode cJ12_add 23 = .ok (.iconst 1, 1) := dk_4 (dk_at dksJ12_add_0 23 rfl rfl)
theorem dJ12_add_24 : decode cJ12_add 24 = .ok (.ireturn, 1) := dk_172 (dk_at dksJ12_add_1 0 rfl rfl)
abbrev cX3_line : ByteArray := prog_8_method_9_code
def yX3_line : MethodName := ⟨RX3, "line", "()V"⟩
def dkwX3_line_6 : List UInt8 := [29, 153, 0, 9, 21, 4, 116, 167, 0, 5, 21, 4, 3, 182, 0, 130, 185, 0, 136, 2, 0, 87, 177]
abbrev dktX3_line_6 : List UInt8 := dkwX3_line_6 ++ []
def dkwX3_line_5 : List UInt8 := [182, 0, 32, 42, 4, 16, 99, 182, 0, 119, 54, 4, 42, 180, 0, 18, 180, 0, 122, 27, 184, 0, 126, 28]
abbrev dktX3_line_5 : List UInt8 := dkwX3_line_5 ++ dktX3_line_6
def dkwX3_line_4 : List UInt8 := [182, 0, 91, 42, 182, 0, 32, 42, 180, 0, 24, 18, 117, 182, 0, 101, 62, 29, 153, 0, 7, 42]
abbrev dktX3_line_4 : List UInt8 := dkwX3_line_4 ++ dktX3_line_5
def dkwX3_line_3 : List UInt8 := [61, 42, 27, 153, 0, 14, 42, 180, 0, 18, 28, 182, 0, 113, 154, 0, 7, 4, 167, 0, 4, 3, 6]
abbrev dktX3_line_3 : List UInt8 := dkwX3_line_3 ++ dktX3_line_4
def dkwX3_line_2 : List UInt8 := [162, 0, 7, 4, 167, 0, 4, 3, 7, 182, 0, 91, 42, 182, 0, 32, 42, 3, 17, 0, 255, 182, 0, 95]
abbrev dktX3_line_2 : List UInt8 := dkwX3_line_2 ++ dktX3_line_3
def dkwX3_line_1 : List UInt8 := [153, 0, 7, 4, 167, 0, 4, 3, 4, 182, 0, 91, 42, 42, 180, 0, 18, 182, 0, 109, 16, 24]
abbrev dktX3_line_1 : List UInt8 := dkwX3_line_1 ++ dktX3_line_2
def dkwX3_line_0 : List UInt8 := [42, 180, 0, 24, 18, 99, 182, 0, 101, 60, 42, 27, 154, 0, 15, 42, 180, 0, 24, 18, 107, 182, 0, 101]
abbrev dktX3_line_0 : List UInt8 := dkwX3_line_0 ++ dktX3_line_1
theorem dksX3_line_0 : cX3_line.data.toList.drop 0 = dktX3_line_0 := by decide +kernel
theorem dksX3_line_1 : cX3_line.data.toList.drop 24 = dktX3_line_1 := dk_seg dksX3_line_0 24 rfl rfl
theorem dksX3_line_2 : cX3_line.data.toList.drop 46 = dktX3_line_2 := dk_seg dksX3_line_1 22 rfl rfl
theorem dksX3_line_3 : cX3_line.data.toList.drop 70 = dktX3_line_3 := dk_seg dksX3_line_2 24 rfl rfl
theorem dksX3_line_4 : cX3_line.data.toList.drop 93 = dktX3_line_4 := dk_seg dksX3_line_3 23 rfl rfl
theorem dksX3_line_5 : cX3_line.data.toList.drop 115 = dktX3_line_5 := dk_seg dksX3_line_4 22 rfl rfl
theorem dksX3_line_6 : cX3_line.data.toList.drop 139 = dktX3_line_6 := dk_seg dksX3_line_5 24 rfl rfl
theorem dX3_line_0 : decode cX3_line 0 = .ok (.aload_n 0, 1) := dk_42 (dk_at dksX3_line_0 0 rfl rfl)
theorem dX3_line_1 : decode cX3_line 1 = .ok (.getfield 24, 3) := dk_180 0 24 (dk_at dksX3_line_0 1 rfl rfl)
theorem dX3_line_4 : decode cX3_line 4 = .ok (.ldc 99, 2) := dk_18 99 (dk_at dksX3_line_0 4 rfl rfl)
theorem dX3_line_6 : decode cX3_line 6 = .ok (.invokevirtual 101, 3) := dk_182 0 101 (dk_at dksX3_line_0 6 rfl rfl)
theorem dX3_line_9 : decode cX3_line 9 = .ok (.istore_n 1, 1) := dk_60 (dk_at dksX3_line_0 9 rfl rfl)
theorem dX3_line_10 : decode cX3_line 10 = .ok (.aload_n 0, 1) := dk_42 (dk_at dksX3_line_0 10 rfl rfl)
theorem dX3_line_11 : decode cX3_line 11 = .ok (.iload_n 1, 1) := dk_27 (dk_at dksX3_line_0 11 rfl rfl)
theorem dX3_line_12 : decode cX3_line 12 = .ok (.ifCond .ne 15, 3) := dk_154 0 15 (dk_at dksX3_line_0 12 rfl rfl)
theorem dX3_line_15 : decode cX3_line 15 = .ok (.aload_n 0, 1) := dk_42 (dk_at dksX3_line_0 15 rfl rfl)
theorem dX3_line_16 : decode cX3_line 16 = .ok (.getfield 24, 3) := dk_180 0 24 (dk_at dksX3_line_0 16 rfl rfl)
theorem dX3_line_19 : decode cX3_line 19 = .ok (.ldc 107, 2) := dk_18 107 (dk_at dksX3_line_0 19 rfl rfl)
theorem dX3_line_21 : decode cX3_line 21 = .ok (.invokevirtual 101, 3) := dk_182 0 101 (dk_at dksX3_line_0 21 rfl rfl)
theorem dX3_line_24 : decode cX3_line 24 = .ok (.ifCond .eq 7, 3) := dk_153 0 7 (dk_at dksX3_line_1 0 rfl rfl)
theorem dX3_line_27 : decode cX3_line 27 = .ok (.iconst 1, 1) := dk_4 (dk_at dksX3_line_1 3 rfl rfl)
theorem dX3_line_28 : decode cX3_line 28 = .ok (.goto 4, 3) := dk_167 0 4 (dk_at dksX3_line_1 4 rfl rfl)
theorem dX3_line_31 : decode cX3_line 31 = .ok (.iconst 0, 1) := dk_3 (dk_at dksX3_line_1 7 rfl rfl)
theorem dX3_line_32 : decode cX3_line 32 = .ok (.iconst 1, 1) := dk_4 (dk_at dksX3_line_1 8 rfl rfl)
theorem dX3_line_33 : decode cX3_line 33 = .ok (.invokevirtual 91, 3) := dk_182 0 91 (dk_at dksX3_line_1 9 rfl rfl)
theorem dX3_line_36 : decode cX3_line 36 = .ok (.aload_n 0, 1) := dk_42 (dk_at dksX3_line_1 12 rfl rfl)
theorem dX3_line_37 : decode cX3_line 37 = .ok (.aload_n 0, 1) := dk_42 (dk_at dksX3_line_1 13 rfl rfl)
theorem dX3_line_38 : decode cX3_line 38 = .ok (.getfield 18, 3) := dk_180 0 18 (dk_at dksX3_line_1 14 rfl rfl)
theorem dX3_line_41 : decode cX3_line 41 = .ok (.invokevirtual 109, 3) := dk_182 0 109 (dk_at dksX3_line_1 17 rfl rfl)
theorem dX3_line_44 : decode cX3_line 44 = .ok (.bipush 24, 2) := dk_16 24 (dk_at dksX3_line_1 20 rfl rfl)
theorem dX3_line_46 : decode cX3_line 46 = .ok (.if_icmp .ge 7, 3) := dk_162 0 7 (dk_at dksX3_line_2 0 rfl rfl)
theorem dX3_line_49 : decode cX3_line 49 = .ok (.iconst 1, 1) := dk_4 (dk_at dksX3_line_2 3 rfl rfl)
theorem dX3_line_50 : decode cX3_line 50 = .ok (.goto 4, 3) := dk_167 0 4 (dk_at dksX3_line_2 4 rfl rfl)
theorem dX3_line_53 : decode cX3_line 53 = .ok (.iconst 0, 1) := dk_3 (dk_at dksX3_line_2 7 rfl rfl)
theorem dX3_line_54 : decode cX3_line 54 = .ok (.iconst 4, 1) := dk_7 (dk_at dksX3_line_2 8 rfl rfl)
theorem dX3_line_55 : decode cX3_line 55 = .ok (.invokevirtual 91, 3) := dk_182 0 91 (dk_at dksX3_line_2 9 rfl rfl)
theorem dX3_line_58 : decode cX3_line 58 = .ok (.aload_n 0, 1) := dk_42 (dk_at dksX3_line_2 12 rfl rfl)
theorem dX3_line_59 : decode cX3_line 59 = .ok (.invokevirtual 32, 3) := dk_182 0 32 (dk_at dksX3_line_2 13 rfl rfl)
theorem dX3_line_62 : decode cX3_line 62 = .ok (.aload_n 0, 1) := dk_42 (dk_at dksX3_line_2 16 rfl rfl)
theorem dX3_line_63 : decode cX3_line 63 = .ok (.iconst 0, 1) := dk_3 (dk_at dksX3_line_2 17 rfl rfl)
theorem dX3_line_64 : decode cX3_line 64 = .ok (.sipush 255, 3) := dk_17 0 255 (dk_at dksX3_line_2 18 rfl rfl)
theorem dX3_line_67 : decode cX3_line 67 = .ok (.invokevirtual 95, 3) := dk_182 0 95 (dk_at dksX3_line_2 21 rfl rfl)
theorem dX3_line_70 : decode cX3_line 70 = .ok (.istore_n 2, 1) := dk_61 (dk_at dksX3_line_3 0 rfl rfl)
theorem dX3_line_71 : decode cX3_line 71 = .ok (.aload_n 0, 1) := dk_42 (dk_at dksX3_line_3 1 rfl rfl)
theorem dX3_line_72 : decode cX3_line 72 = .ok (.iload_n 1, 1) := dk_27 (dk_at dksX3_line_3 2 rfl rfl)
theorem dX3_line_73 : decode cX3_line 73 = .ok (.ifCond .eq 14, 3) := dk_153 0 14 (dk_at dksX3_line_3 3 rfl rfl)
theorem dX3_line_76 : decode cX3_line 76 = .ok (.aload_n 0, 1) := dk_42 (dk_at dksX3_line_3 6 rfl rfl)
theorem dX3_line_77 : decode cX3_line 77 = .ok (.getfield 18, 3) := dk_180 0 18 (dk_at dksX3_line_3 7 rfl rfl)
theorem dX3_line_80 : decode cX3_line 80 = .ok (.iload_n 2, 1) := dk_28 (dk_at dksX3_line_3 10 rfl rfl)
theorem dX3_line_81 : decode cX3_line 81 = .ok (.invokevirtual 113, 3) := dk_182 0 113 (dk_at dksX3_line_3 11 rfl rfl)
theorem dX3_line_84 : decode cX3_line 84 = .ok (.ifCond .ne 7, 3) := dk_154 0 7 (dk_at dksX3_line_3 14 rfl rfl)
theorem dX3_line_87 : decode cX3_line 87 = .ok (.iconst 1, 1) := dk_4 (dk_at dksX3_line_3 17 rfl rfl)
theorem dX3_line_88 : decode cX3_line 88 = .ok (.goto 4, 3) := dk_167 0 4 (dk_at dksX3_line_3 18 rfl rfl)
theorem dX3_line_91 : decode cX3_line 91 = .ok (.iconst 0, 1) := dk_3 (dk_at dksX3_line_3 21 rfl rfl)
theorem dX3_line_92 : decode cX3_line 92 = .ok (.iconst 3, 1) := dk_6 (dk_at dksX3_line_3 22 rfl rfl)
theorem dX3_line_93 : decode cX3_line 93 = .ok (.invokevirtual 91, 3) := dk_182 0 91 (dk_at dksX3_line_4 0 rfl rfl)
theorem dX3_line_96 : decode cX3_line 96 = .ok (.aload_n 0, 1) := dk_42 (dk_at dksX3_line_4 3 rfl rfl)
theorem dX3_line_97 : decode cX3_line 97 = .ok (.invokevirtual 32, 3) := dk_182 0 32 (dk_at dksX3_line_4 4 rfl rfl)
theorem dX3_line_100 : decode cX3_line 100 = .ok (.aload_n 0, 1) := dk_42 (dk_at dksX3_line_4 7 rfl rfl)
theorem dX3_line_101 : decode cX3_line 101 = .ok (.getfield 24, 3) := dk_180 0 24 (dk_at dksX3_line_4 8 rfl rfl)
theorem dX3_line_104 : decode cX3_line 104 = .ok (.ldc 117, 2) := dk_18 117 (dk_at dksX3_line_4 11 rfl rfl)
theorem dX3_line_106 : decode cX3_line 106 = .ok (.invokevirtual 101, 3) := dk_182 0 101 (dk_at dksX3_line_4 13 rfl rfl)
theorem dX3_line_109 : decode cX3_line 109 = .ok (.istore_n 3, 1) := dk_62 (dk_at dksX3_line_4 16 rfl rfl)
theorem dX3_line_110 : decode cX3_line 110 = .ok (.iload_n 3, 1) := dk_29 (dk_at dksX3_line_4 17 rfl rfl)
theorem dX3_line_111 : decode cX3_line 111 = .ok (.ifCond .eq 7, 3) := dk_153 0 7 (dk_at dksX3_line_4 18 rfl rfl)
theorem dX3_line_114 : decode cX3_line 114 = .ok (.aload_n 0, 1) := dk_42 (dk_at dksX3_line_4 21 rfl rfl)
theorem dX3_line_115 : decode cX3_line 115 = .ok (.invokevirtual 32, 3) := dk_182 0 32 (dk_at dksX3_line_5 0 rfl rfl)
theorem dX3_line_118 : decode cX3_line 118 = .ok (.aload_n 0, 1) := dk_42 (dk_at dksX3_line_5 3 rfl rfl)
theorem dX3_line_119 : decode cX3_line 119 = .ok (.iconst 1, 1) := dk_4 (dk_at dksX3_line_5 4 rfl rfl)
theorem dX3_line_120 : decode cX3_line 120 = .ok (.bipush 99, 2) := dk_16 99 (dk_at dksX3_line_5 5 rfl rfl)
theorem dX3_line_122 : decode cX3_line 122 = .ok (.invokevirtual 119, 3) := dk_182 0 119 (dk_at dksX3_line_5 7 rfl rfl)
theorem dX3_line_125 : decode cX3_line 125 = .ok (.istore 4, 2) := dk_54 4 (dk_at dksX3_line_5 10 rfl rfl)
theorem dX3_line_127 : decode cX3_line 127 = .ok (.aload_n 0, 1) := dk_42 (dk_at dksX3_line_5 12 rfl rfl)
theorem dX3_line_128 : decode cX3_line 128 = .ok (.getfield 18, 3) := dk_180 0 18 (dk_at dksX3_line_5 13 rfl rfl)
theorem dX3_line_131 : decode cX3_line 131 = .ok (.getfield 122, 3) := dk_180 0 122 (dk_at dksX3_line_5 16 rfl rfl)
theorem dX3_line_134 : decode cX3_line 134 = .ok (.iload_n 1, 1) := dk_27 (dk_at dksX3_line_5 19 rfl rfl)
theorem dX3_line_135 : decode cX3_line 135 = .ok (.invokestatic 126, 3) := dk_184 0 126 (dk_at dksX3_line_5 20 rfl rfl)
theorem dX3_line_138 : decode cX3_line 138 = .ok (.iload_n 2, 1) := dk_28 (dk_at dksX3_line_5 23 rfl rfl)
theorem dX3_line_139 : decode cX3_line 139 = .ok (.iload_n 3, 1) := dk_29 (dk_at dksX3_line_6 0 rfl rfl)
theorem dX3_line_140 : decode cX3_line 140 = .ok (.ifCond .eq 9, 3) := dk_153 0 9 (dk_at dksX3_line_6 1 rfl rfl)
theorem dX3_line_143 : decode cX3_line 143 = .ok (.iload 4, 2) := dk_21 4 (dk_at dksX3_line_6 4 rfl rfl)
theorem dX3_line_145 : decode cX3_line 145 = .ok (.ineg, 1) := dk_116 (dk_at dksX3_line_6 6 rfl rfl)
theorem dX3_line_146 : decode cX3_line 146 = .ok (.goto 5, 3) := dk_167 0 5 (dk_at dksX3_line_6 7 rfl rfl)
theorem dX3_line_149 : decode cX3_line 149 = .ok (.iload 4, 2) := dk_21 4 (dk_at dksX3_line_6 10 rfl rfl)
theorem dX3_line_151 : decode cX3_line 151 = .ok (.iconst 0, 1) := dk_3 (dk_at dksX3_line_6 12 rfl rfl)
theorem dX3_line_152 : decode cX3_line 152 = .ok (.invokevirtual 130, 3) := dk_182 0 130 (dk_at dksX3_line_6 13 rfl rfl)
theorem dX3_line_155 : decode cX3_line 155 = .ok (.invokeinterface 136 2, 5) := by decide +kernel
theorem dX3_line_160 : decode cX3_line 160 = .ok (.pop, 1) := dk_87 (dk_at dksX3_line_6 21 rfl rfl)
theorem dX3_line_161 : decode cX3_line 161 = .ok (.return_, 1) := dk_177 (dk_at dksX3_line_6 22 rfl rfl)
abbrev cX3_parse : ByteArray := prog_8_method_10_code
def yX3_parse : MethodName := ⟨RX3, "parse", "()LMultipoleLine$Line;"⟩
def dkwX3_parse_4 : List UInt8 := [180, 0, 18, 182, 0, 109, 158, 0, 7, 4, 167, 0, 4, 3, 8, 182, 0, 91, 42, 180, 0, 18, 176]
abbrev dktX3_parse_4 : List UInt8 := dkwX3_parse_4 ++ []
def dkwX3_parse_3 : List UInt8 := [167, 255, 240, 42, 42, 180, 0, 64, 6, 160, 0, 7, 4, 167, 0, 4, 3, 4, 182, 0, 91, 42, 42]
abbrev dktX3_parse_3 : List UInt8 := dkwX3_parse_3 ++ dktX3_parse_4
def dkwX3_parse_2 : List UInt8 := [132, 1, 1, 167, 255, 227, 42, 180, 0, 64, 5, 160, 0, 14, 42, 182, 0, 32, 42, 182, 0, 152]
abbrev dktX3_parse_2 : List UInt8 := dkwX3_parse_2 ++ dktX3_parse_3
def dkwX3_parse_1 : List UInt8 := [162, 0, 29, 42, 180, 0, 18, 27, 42, 27, 184, 0, 143, 27, 184, 0, 146, 182, 0, 119, 182, 0, 149]
abbrev dktX3_parse_1 : List UInt8 := dkwX3_parse_1 ++ dktX3_parse_2
def dkwX3_parse_0 : List UInt8 := [42, 42, 180, 0, 24, 18, 141, 182, 0, 101, 4, 182, 0, 91, 42, 182, 0, 32, 6, 60, 27, 16, 6]
abbrev dktX3_parse_0 : List UInt8 := dkwX3_parse_0 ++ dktX3_parse_1
theorem dksX3_parse_0 : cX3_parse.data.toList.drop 0 = dktX3_parse_0 := by decide +kernel
theorem dksX3_parse_1 : cX3_parse.data.toList.drop 23 = dktX3_parse_1 := dk_seg dksX3_parse_0 23 rfl rfl
theorem dksX3_parse_2 : cX3_parse.data.toList.drop 46 = dktX3_parse_2 := dk_seg dksX3_parse_1 23 rfl rfl
theorem dksX3_parse_3 : cX3_parse.data.toList.drop 68 = dktX3_parse_3 := dk_seg dksX3_parse_2 22 rfl rfl
theorem dksX3_parse_4 : cX3_parse.data.toList.drop 91 = dktX3_parse_4 := dk_seg dksX3_parse_3 23 rfl rfl
theorem dX3_parse_0 : decode cX3_parse 0 = .ok (.aload_n 0, 1) := dk_42 (dk_at dksX3_parse_0 0 rfl rfl)
theorem dX3_parse_1 : decode cX3_parse 1 = .ok (.aload_n 0, 1) := dk_42 (dk_at dksX3_parse_0 1 rfl rfl)
theorem dX3_parse_2 : decode cX3_parse 2 = .ok (.getfield 24, 3) := dk_180 0 24 (dk_at dksX3_parse_0 2 rfl rfl)
theorem dX3_parse_5 : decode cX3_parse 5 = .ok (.ldc 141, 2) := dk_18 141 (dk_at dksX3_parse_0 5 rfl rfl)
theorem dX3_parse_7 : decode cX3_parse 7 = .ok (.invokevirtual 101, 3) := dk_182 0 101 (dk_at dksX3_parse_0 7 rfl rfl)
theorem dX3_parse_10 : decode cX3_parse 10 = .ok (.iconst 1, 1) := dk_4 (dk_at dksX3_parse_0 10 rfl rfl)
theorem dX3_parse_11 : decode cX3_parse 11 = .ok (.invokevirtual 91, 3) := dk_182 0 91 (dk_at dksX3_parse_0 11 rfl rfl)
theorem dX3_parse_14 : decode cX3_parse 14 = .ok (.aload_n 0, 1) := dk_42 (dk_at dksX3_parse_0 14 rfl rfl)
theorem dX3_parse_15 : decode cX3_parse 15 = .ok (.invokevirtual 32, 3) := dk_182 0 32 (dk_at dksX3_parse_0 15 rfl rfl)
theorem dX3_parse_18 : decode cX3_parse 18 = .ok (.iconst 3, 1) := dk_6 (dk_at dksX3_parse_0 18 rfl rfl)
theorem dX3_parse_19 : decode cX3_parse 19 = .ok (.istore_n 1, 1) := dk_60 (dk_at dksX3_parse_0 19 rfl rfl)
theorem dX3_parse_20 : decode cX3_parse 20 = .ok (.iload_n 1, 1) := dk_27 (dk_at dksX3_parse_0 20 rfl rfl)
theorem dX3_parse_21 : decode cX3_parse 21 = .ok (.bipush 6, 2) := dk_16 6 (dk_at dksX3_parse_0 21 rfl rfl)
theorem dX3_parse_23 : decode cX3_parse 23 = .ok (.if_icmp .ge 29, 3) := dk_162 0 29 (dk_at dksX3_parse_1 0 rfl rfl)
theorem dX3_parse_26 : decode cX3_parse 26 = .ok (.aload_n 0, 1) := dk_42 (dk_at dksX3_parse_1 3 rfl rfl)
theorem dX3_parse_27 : decode cX3_parse 27 = .ok (.getfield 18, 3) := dk_180 0 18 (dk_at dksX3_parse_1 4 rfl rfl)
theorem dX3_parse_30 : decode cX3_parse 30 = .ok (.iload_n 1, 1) := dk_27 (dk_at dksX3_parse_1 7 rfl rfl)
theorem dX3_parse_31 : decode cX3_parse 31 = .ok (.aload_n 0, 1) := dk_42 (dk_at dksX3_parse_1 8 rfl rfl)
theorem dX3_parse_32 : decode cX3_parse 32 = .ok (.iload_n 1, 1) := dk_27 (dk_at dksX3_parse_1 9 rfl rfl)
theorem dX3_parse_33 : decode cX3_parse 33 = .ok (.invokestatic 143, 3) := dk_184 0 143 (dk_at dksX3_parse_1 10 rfl rfl)
theorem dX3_parse_36 : decode cX3_parse 36 = .ok (.iload_n 1, 1) := dk_27 (dk_at dksX3_parse_1 13 rfl rfl)
theorem dX3_parse_37 : decode cX3_parse 37 = .ok (.invokestatic 146, 3) := dk_184 0 146 (dk_at dksX3_parse_1 14 rfl rfl)
theorem dX3_parse_40 : decode cX3_parse 40 = .ok (.invokevirtual 119, 3) := dk_182 0 119 (dk_at dksX3_parse_1 17 rfl rfl)
theorem dX3_parse_43 : decode cX3_parse 43 = .ok (.invokevirtual 149, 3) := dk_182 0 149 (dk_at dksX3_parse_1 20 rfl rfl)
theorem dX3_parse_46 : decode cX3_parse 46 = .ok (.iinc 1 1, 3) := dk_132 1 1 (dk_at dksX3_parse_2 0 rfl rfl)
theorem dX3_parse_49 : decode cX3_parse 49 = .ok (.goto (-29), 3) := dk_167 255 227 (dk_at dksX3_parse_2 3 rfl rfl)
theorem dX3_parse_52 : decode cX3_parse 52 = .ok (.aload_n 0, 1) := dk_42 (dk_at dksX3_parse_2 6 rfl rfl)
theorem dX3_parse_53 : decode cX3_parse 53 = .ok (.getfield 64, 3) := dk_180 0 64 (dk_at dksX3_parse_2 7 rfl rfl)
theorem dX3_parse_56 : decode cX3_parse 56 = .ok (.iconst 2, 1) := dk_5 (dk_at dksX3_parse_2 10 rfl rfl)
theorem dX3_parse_57 : decode cX3_parse 57 = .ok (.if_icmp .ne 14, 3) := dk_160 0 14 (dk_at dksX3_parse_2 11 rfl rfl)
theorem dX3_parse_60 : decode cX3_parse 60 = .ok (.aload_n 0, 1) := dk_42 (dk_at dksX3_parse_2 14 rfl rfl)
theorem dX3_parse_61 : decode cX3_parse 61 = .ok (.invokevirtual 32, 3) := dk_182 0 32 (dk_at dksX3_parse_2 15 rfl rfl)
theorem dX3_parse_64 : decode cX3_parse 64 = .ok (.aload_n 0, 1) := dk_42 (dk_at dksX3_parse_2 18 rfl rfl)
theorem dX3_parse_65 : decode cX3_parse 65 = .ok (.invokevirtual 152, 3) := dk_182 0 152 (dk_at dksX3_parse_2 19 rfl rfl)
theorem dX3_parse_68 : decode cX3_parse 68 = .ok (.goto (-16), 3) := dk_167 255 240 (dk_at dksX3_parse_3 0 rfl rfl)
theorem dX3_parse_71 : decode cX3_parse 71 = .ok (.aload_n 0, 1) := dk_42 (dk_at dksX3_parse_3 3 rfl rfl)
theorem dX3_parse_72 : decode cX3_parse 72 = .ok (.aload_n 0, 1) := dk_42 (dk_at dksX3_parse_3 4 rfl rfl)
theorem dX3_parse_73 : decode cX3_parse 73 = .ok (.getfield 64, 3) := dk_180 0 64 (dk_at dksX3_parse_3 5 rfl rfl)
theorem dX3_parse_76 : decode cX3_parse 76 = .ok (.iconst 3, 1) := dk_6 (dk_at dksX3_parse_3 8 rfl rfl)
theorem dX3_parse_77 : decode cX3_parse 77 = .ok (.if_icmp .ne 7, 3) := dk_160 0 7 (dk_at dksX3_parse_3 9 rfl rfl)
theorem dX3_parse_80 : decode cX3_parse 80 = .ok (.iconst 1, 1) := dk_4 (dk_at dksX3_parse_3 12 rfl rfl)
theorem dX3_parse_81 : decode cX3_parse 81 = .ok (.goto 4, 3) := dk_167 0 4 (dk_at dksX3_parse_3 13 rfl rfl)
theorem dX3_parse_84 : decode cX3_parse 84 = .ok (.iconst 0, 1) := dk_3 (dk_at dksX3_parse_3 16 rfl rfl)
theorem dX3_parse_85 : decode cX3_parse 85 = .ok (.iconst 1, 1) := dk_4 (dk_at dksX3_parse_3 17 rfl rfl)
theorem dX3_parse_86 : decode cX3_parse 86 = .ok (.invokevirtual 91, 3) := dk_182 0 91 (dk_at dksX3_parse_3 18 rfl rfl)
theorem dX3_parse_89 : decode cX3_parse 89 = .ok (.aload_n 0, 1) := dk_42 (dk_at dksX3_parse_3 21 rfl rfl)
theorem dX3_parse_90 : decode cX3_parse 90 = .ok (.aload_n 0, 1) := dk_42 (dk_at dksX3_parse_3 22 rfl rfl)
theorem dX3_parse_91 : decode cX3_parse 91 = .ok (.getfield 18, 3) := dk_180 0 18 (dk_at dksX3_parse_4 0 rfl rfl)
theorem dX3_parse_94 : decode cX3_parse 94 = .ok (.invokevirtual 109, 3) := dk_182 0 109 (dk_at dksX3_parse_4 3 rfl rfl)
theorem dX3_parse_97 : decode cX3_parse 97 = .ok (.ifCond .le 7, 3) := dk_158 0 7 (dk_at dksX3_parse_4 6 rfl rfl)
theorem dX3_parse_100 : decode cX3_parse 100 = .ok (.iconst 1, 1) := dk_4 (dk_at dksX3_parse_4 9 rfl rfl)
theorem dX3_parse_101 : decode cX3_parse 101 = .ok (.goto 4, 3) := dk_167 0 4 (dk_at dksX3_parse_4 10 rfl rfl)
theorem dX3_parse_104 : decode cX3_parse 104 = .ok (.iconst 0, 1) := dk_3 (dk_at dksX3_parse_4 13 rfl rfl)
theorem dX3_parse_105 : decode cX3_parse 105 = .ok (.iconst 5, 1) := dk_8 (dk_at dksX3_parse_4 14 rfl rfl)
theorem dX3_parse_106 : decode cX3_parse 106 = .ok (.invokevirtual 91, 3) := dk_182 0 91 (dk_at dksX3_parse_4 15 rfl rfl)
theorem dX3_parse_109 : decode cX3_parse 109 = .ok (.aload_n 0, 1) := dk_42 (dk_at dksX3_parse_4 18 rfl rfl)
theorem dX3_parse_110 : decode cX3_parse 110 = .ok (.getfield 18, 3) := dk_180 0 18 (dk_at dksX3_parse_4 19 rfl rfl)
theorem dX3_parse_113 : decode cX3_parse 113 = .ok (.areturn, 1) := dk_176 (dk_at dksX3_parse_4 22 rfl rfl)
abbrev cJ1_circularClear : ByteArray := prog_46_method_54_code
def yJ1_circularClear : MethodName := ⟨RJ1, "circularClear", "([Ljava/lang/Object;II)V"⟩
def dkwJ1_circularClear_1 : List UInt8 := [167, 255, 244, 29, 28, 160, 0, 6, 167, 0, 10, 3, 60, 28, 62, 167, 255, 229, 177]
abbrev dktJ1_circularClear_1 : List UInt8 := dkwJ1_circularClear_1 ++ []
def dkwJ1_circularClear_0 : List UInt8 := [27, 28, 163, 0, 7, 28, 167, 0, 5, 42, 190, 62, 27, 29, 162, 0, 13, 42, 27, 1, 83, 132, 1, 1]
abbrev dktJ1_circularClear_0 : List UInt8 := dkwJ1_circularClear_0 ++ dktJ1_circularClear_1
theorem dksJ1_circularClear_0 : cJ1_circularClear.data.toList.drop 0 = dktJ1_circularClear_0 := by decide +kernel
theorem dksJ1_circularClear_1 : cJ1_circularClear.data.toList.drop 24 = dktJ1_circularClear_1 := dk_seg dksJ1_circularClear_0 24 rfl rfl
theorem dJ1_circularClear_0 : decode cJ1_circularClear 0 = .ok (.iload_n 1, 1) := dk_27 (dk_at dksJ1_circularClear_0 0 rfl rfl)
theorem dJ1_circularClear_1 : decode cJ1_circularClear 1 = .ok (.iload_n 2, 1) := dk_28 (dk_at dksJ1_circularClear_0 1 rfl rfl)
theorem dJ1_circularClear_2 : decode cJ1_circularClear 2 = .ok (.if_icmp .gt 7, 3) := dk_163 0 7 (dk_at dksJ1_circularClear_0 2 rfl rfl)
theorem dJ1_circularClear_5 : decode cJ1_circularClear 5 = .ok (.iload_n 2, 1) := dk_28 (dk_at dksJ1_circularClear_0 5 rfl rfl)
theorem dJ1_circularClear_6 : decode cJ1_circularClear 6 = .ok (.goto 5, 3) := dk_167 0 5 (dk_at dksJ1_circularClear_0 6 rfl rfl)
theorem dJ1_circularClear_9 : decode cJ1_circularClear 9 = .ok (.aload_n 0, 1) := dk_42 (dk_at dksJ1_circularClear_0 9 rfl rfl)
theorem dJ1_circularClear_10 : decode cJ1_circularClear 10 = .ok (.arraylength, 1) := dk_190 (dk_at dksJ1_circularClear_0 10 rfl rfl)
theorem dJ1_circularClear_11 : decode cJ1_circularClear 11 = .ok (.istore_n 3, 1) := dk_62 (dk_at dksJ1_circularClear_0 11 rfl rfl)
theorem dJ1_circularClear_12 : decode cJ1_circularClear 12 = .ok (.iload_n 1, 1) := dk_27 (dk_at dksJ1_circularClear_0 12 rfl rfl)
theorem dJ1_circularClear_13 : decode cJ1_circularClear 13 = .ok (.iload_n 3, 1) := dk_29 (dk_at dksJ1_circularClear_0 13 rfl rfl)
theorem dJ1_circularClear_14 : decode cJ1_circularClear 14 = .ok (.if_icmp .ge 13, 3) := dk_162 0 13 (dk_at dksJ1_circularClear_0 14 rfl rfl)
theorem dJ1_circularClear_17 : decode cJ1_circularClear 17 = .ok (.aload_n 0, 1) := dk_42 (dk_at dksJ1_circularClear_0 17 rfl rfl)
theorem dJ1_circularClear_18 : decode cJ1_circularClear 18 = .ok (.iload_n 1, 1) := dk_27 (dk_at dksJ1_circularClear_0 18 rfl rfl)
theorem dJ1_circularClear_19 : decode cJ1_circularClear 19 = .ok (.aconst_null, 1) := dk_1 (dk_at dksJ1_circularClear_0 19 rfl rfl)
theorem dJ1_circularClear_20 : decode cJ1_circularClear 20 = .ok (.aastore, 1) := dk_83 (dk_at dksJ1_circularClear_0 20 rfl rfl)
theorem dJ1_circularClear_21 : decode cJ1_circularClear 21 = .ok (.iinc 1 1, 3) := dk_132 1 1 (dk_at dksJ1_circularClear_0 21 rfl rfl)
theorem dJ1_circularClear_24 : decode cJ1_circularClear 24 = .ok (.goto (-12), 3) := dk_167 255 244 (dk_at dksJ1_circularClear_1 0 rfl rfl)
theorem dJ1_circularClear_27 : decode cJ1_circularClear 27 = .ok (.iload_n 3, 1) := dk_29 (dk_at dksJ1_circularClear_1 3 rfl rfl)
theorem dJ1_circularClear_28 : decode cJ1_circularClear 28 = .ok (.iload_n 2, 1) := dk_28 (dk_at dksJ1_circularClear_1 4 rfl rfl)
theorem dJ1_circularClear_29 : decode cJ1_circularClear 29 = .ok (.if_icmp .ne 6, 3) := dk_160 0 6 (dk_at dksJ1_circularClear_1 5 rfl rfl)
theorem dJ1_circularClear_32 : decode cJ1_circularClear 32 = .ok (.goto 10, 3) := dk_167 0 10 (dk_at dksJ1_circularClear_1 8 rfl rfl)
theorem dJ1_circularClear_35 : decode cJ1_circularClear 35 = .ok (.iconst 0, 1) := dk_3 (dk_at dksJ1_circularClear_1 11 rfl rfl)
theorem dJ1_circularClear_36 : decode cJ1_circularClear 36 = .ok (.istore_n 1, 1) := dk_60 (dk_at dksJ1_circularClear_1 12 rfl rfl)
theorem dJ1_circularClear_37 : decode cJ1_circularClear 37 = .ok (.iload_n 2, 1) := dk_28 (dk_at dksJ1_circularClear_1 13 rfl rfl)
theorem dJ1_circularClear_38 : decode cJ1_circularClear 38 = .ok (.istore_n 3, 1) := dk_62 (dk_at dksJ1_circularClear_1 14 rfl rfl)
theorem dJ1_circularClear_39 : decode cJ1_circularClear 39 = .ok (.goto (-27), 3) := dk_167 255 229 (dk_at dksJ1_circularClear_1 15 rfl rfl)
theorem dJ1_circularClear_42 : decode cJ1_circularClear 42 = .ok (.return_, 1) := dk_177 (dk_at dksJ1_circularClear_1 18 rfl rfl)
abbrev cJ1_clear : ByteArray := prog_46_method_53_code
def yJ1_clear : MethodName := ⟨RJ1, "clear", "()V"⟩
def dkwJ1_clear_1 : List UInt8 := [181, 0, 24, 177]
abbrev dktJ1_clear_1 : List UInt8 := dkwJ1_clear_1 ++ []
def dkwJ1_clear_0 : List UInt8 := [42, 180, 0, 3, 42, 180, 0, 24, 42, 180, 0, 20, 184, 0, 181, 42, 42, 3, 90, 181, 0, 20]
abbrev dktJ1_clear_0 : List UInt8 := dkwJ1_clear_0 ++ dktJ1_clear_1
theorem dksJ1_clear_0 : cJ1_clear.data.toList.drop 0 = dktJ1_clear_0 := by decide +kernel
theorem dksJ1_clear_1 : cJ1_clear.data.toList.drop 22 = dktJ1_clear_1 := dk_seg dksJ1_clear_0 22 rfl rfl
theorem dJ1_clear_0 : decode cJ1_clear 0 = .ok (.aload_n 0, 1) := dk_42 (dk_at dksJ1_clear_0 0 rfl rfl)
theorem dJ1_clear_1 : decode cJ1_clear 1 = .ok (.getfield 3, 3) := dk_180 0 3 (dk_at dksJ1_clear_0 1 rfl rfl)
theorem dJ1_clear_4 : decode cJ1_clear 4 = .ok (.aload_n 0, 1) := dk_42 (dk_at dksJ1_clear_0 4 rfl rfl)
theorem dJ1_clear_5 : decode cJ1_clear 5 = .ok (.getfield 24, 3) := dk_180 0 24 (dk_at dksJ1_clear_0 5 rfl rfl)
theorem dJ1_clear_8 : decode cJ1_clear 8 = .ok (.aload_n 0, 1) := dk_42 (dk_at dksJ1_clear_0 8 rfl rfl)
theorem dJ1_clear_9 : decode cJ1_clear 9 = .ok (.getfield 20, 3) := dk_180 0 20 (dk_at dksJ1_clear_0 9 rfl rfl)
theorem dJ1_clear_12 : decode cJ1_clear 12 = .ok (.invokestatic 181, 3) := dk_184 0 181 (dk_at dksJ1_clear_0 12 rfl rfl)
theorem dJ1_clear_15 : decode cJ1_clear 15 = .ok (.aload_n 0, 1) := dk_42 (dk_at dksJ1_clear_0 15 rfl rfl)
theorem dJ1_clear_16 : decode cJ1_clear 16 = .ok (.aload_n 0, 1) := dk_42 (dk_at dksJ1_clear_0 16 rfl rfl)
theorem dJ1_clear_17 : decode cJ1_clear 17 = .ok (.iconst 0, 1) := dk_3 (dk_at dksJ1_clear_0 17 rfl rfl)
theorem dJ1_clear_18 : decode cJ1_clear 18 = .ok (.dup_x1, 1) := dk_90 (dk_at dksJ1_clear_0 18 rfl rfl)
theorem dJ1_clear_19 : decode cJ1_clear 19 = .ok (.putfield 20, 3) := dk_181 0 20 (dk_at dksJ1_clear_0 19 rfl rfl)
theorem dJ1_clear_22 : decode cJ1_clear 22 = .ok (.putfield 24, 3) := dk_181 0 24 (dk_at dksJ1_clear_1 0 rfl rfl)
theorem dJ1_clear_25 : decode cJ1_clear 25 = .ok (.return_, 1) := dk_177 (dk_at dksJ1_clear_1 3 rfl rfl)
abbrev cJ18_init_2 : ByteArray := prog_22_method_1_code
def yJ18_init_2 : MethodName := ⟨RJ18, "<init>", "()V"⟩
theorem dJ18_init_2_0 : decode cJ18_init_2 0 = .ok (.aload_n 0, 1) := by decide +kernel
theorem dJ18_init_2_1 : decode cJ18_init_2 1 = .ok (.invokespecial 1, 3) := by decide +kernel
theorem dJ18_init_2_4 : decode cJ18_init_2 4 = .ok (.return_, 1) := by decide +kernel
abbrev cX1_load : ByteArray := prog_1_method_20_code
def yX1_load : MethodName := ⟨RX1, "load", "(I)I"⟩
def dkwX1_load_4 : List UInt8 := [187, 0, 55, 89, 183, 0, 57, 191]
abbrev dktX1_load_4 : List UInt8 := dkwX1_load_4 ++ []
def dkwX1_load_3 : List UInt8 := [180, 0, 68, 182, 0, 80, 172, 77, 42, 44, 180, 0, 133, 181, 0, 117, 42, 44, 180, 0, 136, 181, 0, 31]
abbrev dktX1_load_3 : List UInt8 := dkwX1_load_3 ++ dktX1_load_4
def dkwX1_load_2 : List UInt8 := [182, 0, 128, 3, 61, 28, 5, 162, 0, 16, 42, 180, 0, 44, 28, 1, 83, 132, 2, 1, 167, 255, 241, 42]
abbrev dktX1_load_2 : List UInt8 := dkwX1_load_2 ++ dktX1_load_3
def dkwX1_load_1 : List UInt8 := [181, 0, 31, 42, 187, 0, 120, 89, 42, 27, 183, 0, 122, 182, 0, 125, 181, 0, 68, 42, 180, 0, 38]
abbrev dktX1_load_1 : List UInt8 := dkwX1_load_1 ++ dktX1_load_2
def dkwX1_load_0 : List UInt8 := [27, 42, 180, 0, 114, 4, 96, 184, 0, 84, 42, 3, 181, 0, 114, 42, 3, 181, 0, 117, 42, 2]
abbrev dktX1_load_0 : List UInt8 := dkwX1_load_0 ++ dktX1_load_1
theorem dksX1_load_0 : cX1_load.data.toList.drop 0 = dktX1_load_0 := by decide +kernel
theorem dksX1_load_1 : cX1_load.data.toList.drop 22 = dktX1_load_1 := dk_seg dksX1_load_0 22 rfl rfl
theorem dksX1_load_2 : cX1_load.data.toList.drop 45 = dktX1_load_2 := dk_seg dksX1_load_1 23 rfl rfl
theorem dksX1_load_3 : cX1_load.data.toList.drop 69 = dktX1_load_3 := dk_seg dksX1_load_2 24 rfl rfl
theorem dksX1_load_4 : cX1_load.data.toList.drop 93 = dktX1_load_4 := dk_seg dksX1_load_3 24 rfl rfl
theorem dX1_load_0 : decode cX1_load 0 = .ok (.iload_n 1, 1) := dk_27 (dk_at dksX1_load_0 0 rfl rfl)
theorem dX1_load_1 : decode cX1_load 1 = .ok (.aload_n 0, 1) := dk_42 (dk_at dksX1_load_0 1 rfl rfl)
theorem dX1_load_2 : decode cX1_load 2 = .ok (.getfield 114, 3) := dk_180 0 114 (dk_at dksX1_load_0 2 rfl rfl)
theorem dX1_load_5 : decode cX1_load 5 = .ok (.iconst 1, 1) := dk_4 (dk_at dksX1_load_0 5 rfl rfl)
theorem dX1_load_6 : decode cX1_load 6 = .ok (.iadd, 1) := dk_96 (dk_at dksX1_load_0 6 rfl rfl)
theorem dX1_load_7 : decode cX1_load 7 = .ok (.invokestatic 84, 3) := dk_184 0 84 (dk_at dksX1_load_0 7 rfl rfl)
theorem dX1_load_10 : decode cX1_load 10 = .ok (.aload_n 0, 1) := dk_42 (dk_at dksX1_load_0 10 rfl rfl)
theorem dX1_load_11 : decode cX1_load 11 = .ok (.iconst 0, 1) := dk_3 (dk_at dksX1_load_0 11 rfl rfl)
theorem dX1_load_12 : decode cX1_load 12 = .ok (.putfield 114, 3) := dk_181 0 114 (dk_at dksX1_load_0 12 rfl rfl)
theorem dX1_load_15 : decode cX1_load 15 = .ok (.aload_n 0, 1) := dk_42 (dk_at dksX1_load_0 15 rfl rfl)
theorem dX1_load_16 : decode cX1_load 16 = .ok (.iconst 0, 1) := dk_3 (dk_at dksX1_load_0 16 rfl rfl)
theorem dX1_load_17 : decode cX1_load 17 = .ok (.putfield 117, 3) := dk_181 0 117 (dk_at dksX1_load_0 17 rfl rfl)
theorem dX1_load_20 : decode cX1_load 20 = .ok (.aload_n 0, 1) := dk_42 (dk_at dksX1_load_0 20 rfl rfl)
theorem dX1_load_21 : decode cX1_load 21 = .ok (.iconst (-1), 1) := dk_2 (dk_at dksX1_load_0 21 rfl rfl)
theorem dX1_load_22 : decode cX1_load 22 = .ok (.putfield 31, 3) := dk_181 0 31 (dk_at dksX1_load_1 0 rfl rfl)
theorem dX1_load_25 : decode cX1_load 25 = .ok (.aload_n 0, 1) := dk_42 (dk_at dksX1_load_1 3 rfl rfl)
theorem dX1_load_26 : decode cX1_load 26 = .ok (.new 120, 3) := dk_187 0 120 (dk_at dksX1_load_1 4 rfl rfl)
theorem dX1_load_29 : decode cX1_load 29 = .ok (.dup, 1) := dk_89 (dk_at dksX1_load_1 7 rfl rfl)
theorem dX1_load_30 : decode cX1_load 30 = .ok (.aload_n 0, 1) := dk_42 (dk_at dksX1_load_1 8 rfl rfl)
theorem dX1_load_31 : decode cX1_load 31 = .ok (.iload_n 1, 1) := dk_27 (dk_at dksX1_load_1 9 rfl rfl)
theorem dX1_load_32 : decode cX1_load 32 = .ok (.invokespecial 122, 3) := dk_183 0 122 (dk_at dksX1_load_1 10 rfl rfl)
theorem dX1_load_35 : decode cX1_load 35 = .ok (.invokevirtual 125, 3) := dk_182 0 125 (dk_at dksX1_load_1 13 rfl rfl)
theorem dX1_load_38 : decode cX1_load 38 = .ok (.putfield 68, 3) := dk_181 0 68 (dk_at dksX1_load_1 16 rfl rfl)
theorem dX1_load_41 : decode cX1_load 41 = .ok (.aload_n 0, 1) := dk_42 (dk_at dksX1_load_1 19 rfl rfl)
theorem dX1_load_42 : decode cX1_load 42 = .ok (.getfield 38, 3) := dk_180 0 38 (dk_at dksX1_load_1 20 rfl rfl)
theorem dX1_load_45 : decode cX1_load 45 = .ok (.invokevirtual 128, 3) := dk_182 0 128 (dk_at dksX1_load_2 0 rfl rfl)
theorem dX1_load_48 : decode cX1_load 48 = .ok (.iconst 0, 1) := dk_3 (dk_at dksX1_load_2 3 rfl rfl)
theorem dX1_load_49 : decode cX1_load 49 = .ok (.istore_n 2, 1) := dk_61 (dk_at dksX1_load_2 4 rfl rfl)
theorem dX1_load_50 : decode cX1_load 50 = .ok (.iload_n 2, 1) := dk_28 (dk_at dksX1_load_2 5 rfl rfl)
theorem dX1_load_51 : decode cX1_load 51 = .ok (.iconst 2, 1) := dk_5 (dk_at dksX1_load_2 6 rfl rfl)
theorem dX1_load_52 : decode cX1_load 52 = .ok (.if_icmp .ge 16, 3) := dk_162 0 16 (dk_at dksX1_load_2 7 rfl rfl)
theorem dX1_load_55 : decode cX1_load 55 = .ok (.aload_n 0, 1) := dk_42 (dk_at dksX1_load_2 10 rfl rfl)
theorem dX1_load_56 : decode cX1_load 56 = .ok (.getfield 44, 3) := dk_180 0 44 (dk_at dksX1_load_2 11 rfl rfl)
theorem dX1_load_59 : decode cX1_load 59 = .ok (.iload_n 2, 1) := dk_28 (dk_at dksX1_load_2 14 rfl rfl)
theorem dX1_load_60 : decode cX1_load 60 = .ok (.aconst_null, 1) := dk_1 (dk_at dksX1_load_2 15 rfl rfl)
theorem dX1_load_61 : decode cX1_load 61 = .ok (.aastore, 1) := dk_83 (dk_at dksX1_load_2 16 rfl rfl)
theorem dX1_load_62 : decode cX1_load 62 = .ok (.iinc 2 1, 3) := dk_132 2 1 (dk_at dksX1_load_2 17 rfl rfl)
theorem dX1_load_65 : decode cX1_load 65 = .ok (.goto (-15), 3) := dk_167 255 241 (dk_at dksX1_load_2 20 rfl rfl)
theorem dX1_load_68 : decode cX1_load 68 = .ok (.aload_n 0, 1) := dk_42 (dk_at dksX1_load_2 23 rfl rfl)
theorem dX1_load_69 : decode cX1_load 69 = .ok (.getfield 68, 3) := dk_180 0 68 (dk_at dksX1_load_3 0 rfl rfl)
theorem dX1_load_72 : decode cX1_load 72 = .ok (.invokevirtual 80, 3) := dk_182 0 80 (dk_at dksX1_load_3 3 rfl rfl)
theorem dX1_load_75 : decode cX1_load 75 = .ok (.ireturn, 1) := dk_172 (dk_at dksX1_load_3 6 rfl rfl)
theorem dX1_load_76 : decode cX1_load 76 = .ok (.astore_n 2, 1) := dk_77 (dk_at dksX1_load_3 7 rfl rfl)
theorem dX1_load_77 : decode cX1_load 77 = .ok (.aload_n 0, 1) := dk_42 (dk_at dksX1_load_3 8 rfl rfl)
theorem dX1_load_78 : decode cX1_load 78 = .ok (.aload_n 2, 1) := dk_44 (dk_at dksX1_load_3 9 rfl rfl)
theorem dX1_load_79 : decode cX1_load 79 = .ok (.getfield 133, 3) := dk_180 0 133 (dk_at dksX1_load_3 10 rfl rfl)
theorem dX1_load_82 : decode cX1_load 82 = .ok (.putfield 117, 3) := dk_181 0 117 (dk_at dksX1_load_3 13 rfl rfl)
theorem dX1_load_85 : decode cX1_load 85 = .ok (.aload_n 0, 1) := dk_42 (dk_at dksX1_load_3 16 rfl rfl)
theorem dX1_load_86 : decode cX1_load 86 = .ok (.aload_n 2, 1) := dk_44 (dk_at dksX1_load_3 17 rfl rfl)
theorem dX1_load_87 : decode cX1_load 87 = .ok (.getfield 136, 3) := dk_180 0 136 (dk_at dksX1_load_3 18 rfl rfl)
theorem dX1_load_90 : decode cX1_load 90 = .ok (.putfield 31, 3) := dk_181 0 31 (dk_at dksX1_load_3 21 rfl rfl)
theorem dX1_load_93 : decode cX1_load 93 = .ok (.new 55, 3) := dk_187 0 55 (dk_at dksX1_load_4 0 rfl rfl)
theorem dX1_load_96 : decode cX1_load 96 = .ok (.dup, 1) := dk_89 (dk_at dksX1_load_4 3 rfl rfl)
theorem dX1_load_97 : decode cX1_load 97 = .ok (.invokespecial 57, 3) := dk_183 0 57 (dk_at dksX1_load_4 4 rfl rfl)
theorem dX1_load_100 : decode cX1_load 100 = .ok (.athrow, 1) := dk_191 (dk_at dksX1_load_4 7 rfl rfl)
abbrev cJ24_init : ByteArray := prog_23_method_1_code
def yJ24_init : MethodName := ⟨RJ24, "<init>", "()V"⟩
theorem dJ24_init_0 : decode cJ24_init 0 = .ok (.aload_n 0, 1) := by decide +kernel
theorem dJ24_init_1 : decode cJ24_init 1 = .ok (.invokespecial 1, 3) := by decide +kernel
theorem dJ24_init_4 : decode cJ24_init 4 = .ok (.return_, 1) := by decide +kernel
abbrev cX1_checkState : ByteArray := prog_1_method_11_code
def yX1_checkState : MethodName := ⟨RX1, "checkState", "(Z)V"⟩
def dkwX1_checkState_0 : List UInt8 := [26, 154, 0, 11, 187, 0, 65, 89, 183, 0, 67, 191, 177]
abbrev dktX1_checkState_0 : List UInt8 := dkwX1_checkState_0 ++ []
theorem dksX1_checkState_0 : cX1_checkState.data.toList.drop 0 = dktX1_checkState_0 := by decide +kernel
theorem dX1_checkState_0 : decode cX1_checkState 0 = .ok (.iload_n 0, 1) := dk_26 (dk_at dksX1_checkState_0 0 rfl rfl)
theorem dX1_checkState_1 : decode cX1_checkState 1 = .ok (.ifCond .ne 11, 3) := dk_154 0 11 (dk_at dksX1_checkState_0 1 rfl rfl)
theorem dX1_checkState_4 : decode cX1_checkState 4 = .ok (.new 65, 3) := dk_187 0 65 (dk_at dksX1_checkState_0 4 rfl rfl)
theorem dX1_checkState_7 : decode cX1_checkState 7 = .ok (.dup, 1) := dk_89 (dk_at dksX1_checkState_0 7 rfl rfl)
theorem dX1_checkState_8 : decode cX1_checkState 8 = .ok (.invokespecial 67, 3) := dk_183 0 67 (dk_at dksX1_checkState_0 8 rfl rfl)
theorem dX1_checkState_11 : decode cX1_checkState 11 = .ok (.athrow, 1) := dk_191 (dk_at dksX1_checkState_0 11 rfl rfl)
theorem dX1_checkState_12 : decode cX1_checkState 12 = .ok (.return_, 1) := dk_177 (dk_at dksX1_checkState_0 12 rfl rfl)
abbrev cX1_loaded : ByteArray := prog_1_method_12_code
def yX1_loaded : MethodName := ⟨RX1, "loaded", "()LMultipoleLine$Line;"⟩
def dkwX1_loaded_0 : List UInt8 := [42, 180, 0, 68, 198, 0, 7, 4, 167, 0, 4, 3, 184, 0, 72, 42, 180, 0, 68, 176]
abbrev dktX1_loaded_0 : List UInt8 := dkwX1_loaded_0 ++ []
theorem dksX1_loaded_0 : cX1_loaded.data.toList.drop 0 = dktX1_loaded_0 := by decide +kernel
theorem dX1_loaded_0 : decode cX1_loaded 0 = .ok (.aload_n 0, 1) := dk_42 (dk_at dksX1_loaded_0 0 rfl rfl)
theorem dX1_loaded_1 : decode cX1_loaded 1 = .ok (.getfield 68, 3) := dk_180 0 68 (dk_at dksX1_loaded_0 1 rfl rfl)
theorem dX1_loaded_4 : decode cX1_loaded 4 = .ok (.ifnull 7, 3) := dk_198 0 7 (dk_at dksX1_loaded_0 4 rfl rfl)
theorem dX1_loaded_7 : decode cX1_loaded 7 = .ok (.iconst 1, 1) := dk_4 (dk_at dksX1_loaded_0 7 rfl rfl)
theorem dX1_loaded_8 : decode cX1_loaded 8 = .ok (.goto 4, 3) := dk_167 0 4 (dk_at dksX1_loaded_0 8 rfl rfl)
theorem dX1_loaded_11 : decode cX1_loaded 11 = .ok (.iconst 0, 1) := dk_3 (dk_at dksX1_loaded_0 11 rfl rfl)
theorem dX1_loaded_12 : decode cX1_loaded 12 = .ok (.invokestatic 72, 3) := dk_184 0 72 (dk_at dksX1_loaded_0 12 rfl rfl)
theorem dX1_loaded_15 : decode cX1_loaded 15 = .ok (.aload_n 0, 1) := dk_42 (dk_at dksX1_loaded_0 15 rfl rfl)
theorem dX1_loaded_16 : decode cX1_loaded 16 = .ok (.getfield 68, 3) := dk_180 0 68 (dk_at dksX1_loaded_0 16 rfl rfl)
theorem dX1_loaded_19 : decode cX1_loaded 19 = .ok (.areturn, 1) := dk_176 (dk_at dksX1_loaded_0 19 rfl rfl)
abbrev cX1_flag : ByteArray := prog_1_method_2_code
def yX1_flag : MethodName := ⟨RX1, "flag", "(Z)I"⟩
def dkwX1_flag_0 : List UInt8 := [26, 153, 0, 7, 4, 167, 0, 4, 3, 172]
abbrev dktX1_flag_0 : List UInt8 := dkwX1_flag_0 ++ []
theorem dksX1_flag_0 : cX1_flag.data.toList.drop 0 = dktX1_flag_0 := by decide +kernel
theorem dX1_flag_0 : decode cX1_flag 0 = .ok (.iload_n 0, 1) := dk_26 (dk_at dksX1_flag_0 0 rfl rfl)
theorem dX1_flag_1 : decode cX1_flag 1 = .ok (.ifCond .eq 7, 3) := dk_153 0 7 (dk_at dksX1_flag_0 1 rfl rfl)
theorem dX1_flag_4 : decode cX1_flag 4 = .ok (.iconst 1, 1) := dk_4 (dk_at dksX1_flag_0 4 rfl rfl)
theorem dX1_flag_5 : decode cX1_flag 5 = .ok (.goto 4, 3) := dk_167 0 4 (dk_at dksX1_flag_0 5 rfl rfl)
theorem dX1_flag_8 : decode cX1_flag 8 = .ok (.iconst 0, 1) := dk_3 (dk_at dksX1_flag_0 8 rfl rfl)
theorem dX1_flag_9 : decode cX1_flag 9 = .ok (.ireturn, 1) := dk_172 (dk_at dksX1_flag_0 9 rfl rfl)
abbrev cX4_freeMany : ByteArray := prog_7_method_5_code
def yX4_freeMany : MethodName := ⟨RX4, "freeMany", "()I"⟩
def dkwX4_freeMany_1 : List UInt8 := [96, 60, 132, 2, 1, 167, 255, 231, 27, 172]
abbrev dktX4_freeMany_1 : List UInt8 := dkwX4_freeMany_1 ++ []
def dkwX4_freeMany_0 : List UInt8 := [3, 60, 3, 61, 28, 42, 182, 0, 37, 162, 0, 23, 27, 42, 28, 182, 0, 41, 180, 0, 78, 184, 0, 82]
abbrev dktX4_freeMany_0 : List UInt8 := dkwX4_freeMany_0 ++ dktX4_freeMany_1
theorem dksX4_freeMany_0 : cX4_freeMany.data.toList.drop 0 = dktX4_freeMany_0 := by decide +kernel
theorem dksX4_freeMany_1 : cX4_freeMany.data.toList.drop 24 = dktX4_freeMany_1 := dk_seg dksX4_freeMany_0 24 rfl rfl
theorem dX4_freeMany_0 : decode cX4_freeMany 0 = .ok (.iconst 0, 1) := dk_3 (dk_at dksX4_freeMany_0 0 rfl rfl)
theorem dX4_freeMany_1 : decode cX4_freeMany 1 = .ok (.istore_n 1, 1) := dk_60 (dk_at dksX4_freeMany_0 1 rfl rfl)
theorem dX4_freeMany_2 : decode cX4_freeMany 2 = .ok (.iconst 0, 1) := dk_3 (dk_at dksX4_freeMany_0 2 rfl rfl)
theorem dX4_freeMany_3 : decode cX4_freeMany 3 = .ok (.istore_n 2, 1) := dk_61 (dk_at dksX4_freeMany_0 3 rfl rfl)
theorem dX4_freeMany_4 : decode cX4_freeMany 4 = .ok (.iload_n 2, 1) := dk_28 (dk_at dksX4_freeMany_0 4 rfl rfl)
theorem dX4_freeMany_5 : decode cX4_freeMany 5 = .ok (.aload_n 0, 1) := dk_42 (dk_at dksX4_freeMany_0 5 rfl rfl)
theorem dX4_freeMany_6 : decode cX4_freeMany 6 = .ok (.invokevirtual 37, 3) := dk_182 0 37 (dk_at dksX4_freeMany_0 6 rfl rfl)
theorem dX4_freeMany_9 : decode cX4_freeMany 9 = .ok (.if_icmp .ge 23, 3) := dk_162 0 23 (dk_at dksX4_freeMany_0 9 rfl rfl)
theorem dX4_freeMany_12 : decode cX4_freeMany 12 = .ok (.iload_n 1, 1) := dk_27 (dk_at dksX4_freeMany_0 12 rfl rfl)
theorem dX4_freeMany_13 : decode cX4_freeMany 13 = .ok (.aload_n 0, 1) := dk_42 (dk_at dksX4_freeMany_0 13 rfl rfl)
theorem dX4_freeMany_14 : decode cX4_freeMany 14 = .ok (.iload_n 2, 1) := dk_28 (dk_at dksX4_freeMany_0 14 rfl rfl)
theorem dX4_freeMany_15 : decode cX4_freeMany 15 = .ok (.invokevirtual 41, 3) := dk_182 0 41 (dk_at dksX4_freeMany_0 15 rfl rfl)
theorem dX4_freeMany_18 : decode cX4_freeMany 18 = .ok (.getfield 78, 3) := dk_180 0 78 (dk_at dksX4_freeMany_0 18 rfl rfl)
theorem dX4_freeMany_21 : decode cX4_freeMany 21 = .ok (.invokestatic 82, 3) := dk_184 0 82 (dk_at dksX4_freeMany_0 21 rfl rfl)
theorem dX4_freeMany_24 : decode cX4_freeMany 24 = .ok (.iadd, 1) := dk_96 (dk_at dksX4_freeMany_1 0 rfl rfl)
theorem dX4_freeMany_25 : decode cX4_freeMany 25 = .ok (.istore_n 1, 1) := dk_60 (dk_at dksX4_freeMany_1 1 rfl rfl)
theorem dX4_freeMany_26 : decode cX4_freeMany 26 = .ok (.iinc 2 1, 3) := dk_132 2 1 (dk_at dksX4_freeMany_1 2 rfl rfl)
theorem dX4_freeMany_29 : decode cX4_freeMany 29 = .ok (.goto (-25), 3) := dk_167 255 231 (dk_at dksX4_freeMany_1 5 rfl rfl)
theorem dX4_freeMany_32 : decode cX4_freeMany 32 = .ok (.iload_n 1, 1) := dk_27 (dk_at dksX4_freeMany_1 8 rfl rfl)
theorem dX4_freeMany_33 : decode cX4_freeMany 33 = .ok (.ireturn, 1) := dk_172 (dk_at dksX4_freeMany_1 9 rfl rfl)
abbrev cX4_number : ByteArray := prog_7_method_44_code
def yX4_number : MethodName := ⟨RX4, "number", "(I)I"⟩
def dkwX4_number_1 : List UInt8 := [42, 180, 0, 64, 172]
abbrev dktX4_number_1 : List UInt8 := dkwX4_number_1 ++ []
def dkwX4_number_0 : List UInt8 := [27, 6, 160, 0, 10, 42, 180, 0, 57, 167, 0, 19, 27, 7, 160, 0, 10, 42, 180, 0, 61, 167, 0, 7]
abbrev dktX4_number_0 : List UInt8 := dkwX4_number_0 ++ dktX4_number_1
theorem dksX4_number_0 : cX4_number.data.toList.drop 0 = dktX4_number_0 := by decide +kernel
theorem dksX4_number_1 : cX4_number.data.toList.drop 24 = dktX4_number_1 := dk_seg dksX4_number_0 24 rfl rfl
theorem dX4_number_0 : decode cX4_number 0 = .ok (.iload_n 1, 1) := dk_27 (dk_at dksX4_number_0 0 rfl rfl)
theorem dX4_number_1 : decode cX4_number 1 = .ok (.iconst 3, 1) := dk_6 (dk_at dksX4_number_0 1 rfl rfl)
theorem dX4_number_2 : decode cX4_number 2 = .ok (.if_icmp .ne 10, 3) := dk_160 0 10 (dk_at dksX4_number_0 2 rfl rfl)
theorem dX4_number_5 : decode cX4_number 5 = .ok (.aload_n 0, 1) := dk_42 (dk_at dksX4_number_0 5 rfl rfl)
theorem dX4_number_6 : decode cX4_number 6 = .ok (.getfield 57, 3) := dk_180 0 57 (dk_at dksX4_number_0 6 rfl rfl)
theorem dX4_number_9 : decode cX4_number 9 = .ok (.goto 19, 3) := dk_167 0 19 (dk_at dksX4_number_0 9 rfl rfl)
theorem dX4_number_12 : decode cX4_number 12 = .ok (.iload_n 1, 1) := dk_27 (dk_at dksX4_number_0 12 rfl rfl)
theorem dX4_number_13 : decode cX4_number 13 = .ok (.iconst 4, 1) := dk_7 (dk_at dksX4_number_0 13 rfl rfl)
theorem dX4_number_14 : decode cX4_number 14 = .ok (.if_icmp .ne 10, 3) := dk_160 0 10 (dk_at dksX4_number_0 14 rfl rfl)
theorem dX4_number_17 : decode cX4_number 17 = .ok (.aload_n 0, 1) := dk_42 (dk_at dksX4_number_0 17 rfl rfl)
theorem dX4_number_18 : decode cX4_number 18 = .ok (.getfield 61, 3) := dk_180 0 61 (dk_at dksX4_number_0 18 rfl rfl)
theorem dX4_number_21 : decode cX4_number 21 = .ok (.goto 7, 3) := dk_167 0 7 (dk_at dksX4_number_0 21 rfl rfl)
theorem dX4_number_24 : decode cX4_number 24 = .ok (.aload_n 0, 1) := dk_42 (dk_at dksX4_number_1 0 rfl rfl)
theorem dX4_number_25 : decode cX4_number 25 = .ok (.getfield 64, 3) := dk_180 0 64 (dk_at dksX4_number_1 1 rfl rfl)
theorem dX4_number_28 : decode cX4_number 28 = .ok (.ireturn, 1) := dk_172 (dk_at dksX4_number_1 4 rfl rfl)
abbrev cX4_charges : ByteArray := prog_7_method_7_code
def yX4_charges : MethodName := ⟨RX4, "charges", "()I"⟩
def dkwX4_charges_1 : List UInt8 := [132, 2, 1, 167, 255, 234, 27, 172]
abbrev dktX4_charges_1 : List UInt8 := dkwX4_charges_1 ++ []
def dkwX4_charges_0 : List UInt8 := [3, 60, 3, 61, 28, 42, 182, 0, 37, 162, 0, 20, 27, 42, 28, 182, 0, 41, 180, 0, 89, 96, 60]
abbrev dktX4_charges_0 : List UInt8 := dkwX4_charges_0 ++ dktX4_charges_1
theorem dksX4_charges_0 : cX4_charges.data.toList.drop 0 = dktX4_charges_0 := by decide +kernel
theorem dksX4_charges_1 : cX4_charges.data.toList.drop 23 = dktX4_charges_1 := dk_seg dksX4_charges_0 23 rfl rfl
theorem dX4_charges_0 : decode cX4_charges 0 = .ok (.iconst 0, 1) := dk_3 (dk_at dksX4_charges_0 0 rfl rfl)
theorem dX4_charges_1 : decode cX4_charges 1 = .ok (.istore_n 1, 1) := dk_60 (dk_at dksX4_charges_0 1 rfl rfl)
theorem dX4_charges_2 : decode cX4_charges 2 = .ok (.iconst 0, 1) := dk_3 (dk_at dksX4_charges_0 2 rfl rfl)
theorem dX4_charges_3 : decode cX4_charges 3 = .ok (.istore_n 2, 1) := dk_61 (dk_at dksX4_charges_0 3 rfl rfl)
theorem dX4_charges_4 : decode cX4_charges 4 = .ok (.iload_n 2, 1) := dk_28 (dk_at dksX4_charges_0 4 rfl rfl)
theorem dX4_charges_5 : decode cX4_charges 5 = .ok (.aload_n 0, 1) := dk_42 (dk_at dksX4_charges_0 5 rfl rfl)
theorem dX4_charges_6 : decode cX4_charges 6 = .ok (.invokevirtual 37, 3) := dk_182 0 37 (dk_at dksX4_charges_0 6 rfl rfl)
theorem dX4_charges_9 : decode cX4_charges 9 = .ok (.if_icmp .ge 20, 3) := dk_162 0 20 (dk_at dksX4_charges_0 9 rfl rfl)
theorem dX4_charges_12 : decode cX4_charges 12 = .ok (.iload_n 1, 1) := dk_27 (dk_at dksX4_charges_0 12 rfl rfl)
theorem dX4_charges_13 : decode cX4_charges 13 = .ok (.aload_n 0, 1) := dk_42 (dk_at dksX4_charges_0 13 rfl rfl)
theorem dX4_charges_14 : decode cX4_charges 14 = .ok (.iload_n 2, 1) := dk_28 (dk_at dksX4_charges_0 14 rfl rfl)
theorem dX4_charges_15 : decode cX4_charges 15 = .ok (.invokevirtual 41, 3) := dk_182 0 41 (dk_at dksX4_charges_0 15 rfl rfl)
theorem dX4_charges_18 : decode cX4_charges 18 = .ok (.getfield 89, 3) := dk_180 0 89 (dk_at dksX4_charges_0 18 rfl rfl)
theorem dX4_charges_21 : decode cX4_charges 21 = .ok (.iadd, 1) := dk_96 (dk_at dksX4_charges_0 21 rfl rfl)
theorem dX4_charges_22 : decode cX4_charges 22 = .ok (.istore_n 1, 1) := dk_60 (dk_at dksX4_charges_0 22 rfl rfl)
theorem dX4_charges_23 : decode cX4_charges 23 = .ok (.iinc 2 1, 3) := dk_132 2 1 (dk_at dksX4_charges_1 0 rfl rfl)
theorem dX4_charges_26 : decode cX4_charges 26 = .ok (.goto (-22), 3) := dk_167 255 234 (dk_at dksX4_charges_1 3 rfl rfl)
theorem dX4_charges_29 : decode cX4_charges 29 = .ok (.iload_n 1, 1) := dk_27 (dk_at dksX4_charges_1 6 rfl rfl)
theorem dX4_charges_30 : decode cX4_charges 30 = .ok (.ireturn, 1) := dk_172 (dk_at dksX4_charges_1 7 rfl rfl)
abbrev cJ14_abs : ByteArray := prog_29_method_59_code
def yJ14_abs : MethodName := ⟨RJ14, "abs", "(I)I"⟩
def dkwJ14_abs_0 : List UInt8 := [26, 156, 0, 8, 26, 116, 167, 0, 4, 26, 172]
abbrev dktJ14_abs_0 : List UInt8 := dkwJ14_abs_0 ++ []
theorem dksJ14_abs_0 : cJ14_abs.data.toList.drop 0 = dktJ14_abs_0 := by decide +kernel
theorem dJ14_abs_0 : decode cJ14_abs 0 = .ok (.iload_n 0, 1) := dk_26 (dk_at dksJ14_abs_0 0 rfl rfl)
theorem dJ14_abs_1 : decode cJ14_abs 1 = .ok (.ifCond .ge 8, 3) := dk_156 0 8 (dk_at dksJ14_abs_0 1 rfl rfl)
theorem dJ14_abs_4 : decode cJ14_abs 4 = .ok (.iload_n 0, 1) := dk_26 (dk_at dksJ14_abs_0 4 rfl rfl)
theorem dJ14_abs_5 : decode cJ14_abs 5 = .ok (.ineg, 1) := dk_116 (dk_at dksJ14_abs_0 5 rfl rfl)
theorem dJ14_abs_6 : decode cJ14_abs 6 = .ok (.goto 4, 3) := dk_167 0 4 (dk_at dksJ14_abs_0 6 rfl rfl)
theorem dJ14_abs_9 : decode cJ14_abs 9 = .ok (.iload_n 0, 1) := dk_26 (dk_at dksJ14_abs_0 9 rfl rfl)
theorem dJ14_abs_10 : decode cJ14_abs 10 = .ok (.ireturn, 1) := dk_172 (dk_at dksJ14_abs_0 10 rfl rfl)
abbrev cX4_weights : ByteArray := prog_7_method_8_code
def yX4_weights : MethodName := ⟨RX4, "weights", "()I"⟩
def dkwX4_weights_1 : List UInt8 := [96, 60, 132, 2, 1, 167, 255, 231, 27, 172]
abbrev dktX4_weights_1 : List UInt8 := dkwX4_weights_1 ++ []
def dkwX4_weights_0 : List UInt8 := [3, 60, 3, 61, 28, 42, 182, 0, 37, 162, 0, 23, 27, 42, 28, 182, 0, 41, 180, 0, 89, 184, 0, 92]
abbrev dktX4_weights_0 : List UInt8 := dkwX4_weights_0 ++ dktX4_weights_1
theorem dksX4_weights_0 : cX4_weights.data.toList.drop 0 = dktX4_weights_0 := by decide +kernel
theorem dksX4_weights_1 : cX4_weights.data.toList.drop 24 = dktX4_weights_1 := dk_seg dksX4_weights_0 24 rfl rfl
theorem dX4_weights_0 : decode cX4_weights 0 = .ok (.iconst 0, 1) := dk_3 (dk_at dksX4_weights_0 0 rfl rfl)
theorem dX4_weights_1 : decode cX4_weights 1 = .ok (.istore_n 1, 1) := dk_60 (dk_at dksX4_weights_0 1 rfl rfl)
theorem dX4_weights_2 : decode cX4_weights 2 = .ok (.iconst 0, 1) := dk_3 (dk_at dksX4_weights_0 2 rfl rfl)
theorem dX4_weights_3 : decode cX4_weights 3 = .ok (.istore_n 2, 1) := dk_61 (dk_at dksX4_weights_0 3 rfl rfl)
theorem dX4_weights_4 : decode cX4_weights 4 = .ok (.iload_n 2, 1) := dk_28 (dk_at dksX4_weights_0 4 rfl rfl)
theorem dX4_weights_5 : decode cX4_weights 5 = .ok (.aload_n 0, 1) := dk_42 (dk_at dksX4_weights_0 5 rfl rfl)
theorem dX4_weights_6 : decode cX4_weights 6 = .ok (.invokevirtual 37, 3) := dk_182 0 37 (dk_at dksX4_weights_0 6 rfl rfl)
theorem dX4_weights_9 : decode cX4_weights 9 = .ok (.if_icmp .ge 23, 3) := dk_162 0 23 (dk_at dksX4_weights_0 9 rfl rfl)
theorem dX4_weights_12 : decode cX4_weights 12 = .ok (.iload_n 1, 1) := dk_27 (dk_at dksX4_weights_0 12 rfl rfl)
theorem dX4_weights_13 : decode cX4_weights 13 = .ok (.aload_n 0, 1) := dk_42 (dk_at dksX4_weights_0 13 rfl rfl)
theorem dX4_weights_14 : decode cX4_weights 14 = .ok (.iload_n 2, 1) := dk_28 (dk_at dksX4_weights_0 14 rfl rfl)
theorem dX4_weights_15 : decode cX4_weights 15 = .ok (.invokevirtual 41, 3) := dk_182 0 41 (dk_at dksX4_weights_0 15 rfl rfl)
theorem dX4_weights_18 : decode cX4_weights 18 = .ok (.getfield 89, 3) := dk_180 0 89 (dk_at dksX4_weights_0 18 rfl rfl)
theorem dX4_weights_21 : decode cX4_weights 21 = .ok (.invokestatic 92, 3) := dk_184 0 92 (dk_at dksX4_weights_0 21 rfl rfl)
theorem dX4_weights_24 : decode cX4_weights 24 = .ok (.iadd, 1) := dk_96 (dk_at dksX4_weights_1 0 rfl rfl)
theorem dX4_weights_25 : decode cX4_weights 25 = .ok (.istore_n 1, 1) := dk_60 (dk_at dksX4_weights_1 1 rfl rfl)
theorem dX4_weights_26 : decode cX4_weights 26 = .ok (.iinc 2 1, 3) := dk_132 2 1 (dk_at dksX4_weights_1 2 rfl rfl)
theorem dX4_weights_29 : decode cX4_weights 29 = .ok (.goto (-25), 3) := dk_167 255 231 (dk_at dksX4_weights_1 5 rfl rfl)
theorem dX4_weights_32 : decode cX4_weights 32 = .ok (.iload_n 1, 1) := dk_27 (dk_at dksX4_weights_1 8 rfl rfl)
theorem dX4_weights_33 : decode cX4_weights 33 = .ok (.ireturn, 1) := dk_172 (dk_at dksX4_weights_1 9 rfl rfl)
abbrev cJ25_wordIndex : ByteArray := prog_51_method_1_code
def yJ25_wordIndex : MethodName := ⟨RJ25, "wordIndex", "(I)I"⟩
def dkwJ25_wordIndex_0 : List UInt8 := [26, 16, 6, 122, 172]
abbrev dktJ25_wordIndex_0 : List UInt8 := dkwJ25_wordIndex_0 ++ []
theorem dksJ25_wordIndex_0 : cJ25_wordIndex.data.toList.drop 0 = dktJ25_wordIndex_0 := by decide +kernel
theorem dJ25_wordIndex_0 : decode cJ25_wordIndex 0 = .ok (.iload_n 0, 1) := dk_26 (dk_at dksJ25_wordIndex_0 0 rfl rfl)
theorem dJ25_wordIndex_1 : decode cJ25_wordIndex 1 = .ok (.bipush 6, 2) := dk_16 6 (dk_at dksJ25_wordIndex_0 1 rfl rfl)
theorem dJ25_wordIndex_3 : decode cJ25_wordIndex 3 = .ok (.ishr, 1) := dk_122 (dk_at dksJ25_wordIndex_0 3 rfl rfl)
theorem dJ25_wordIndex_4 : decode cJ25_wordIndex 4 = .ok (.ireturn, 1) := dk_172 (dk_at dksJ25_wordIndex_0 4 rfl rfl)
abbrev cJ25_initWords : ByteArray := prog_51_method_6_code
def yJ25_initWords : MethodName := ⟨RJ25, "initWords", "(I)V"⟩
def dkwJ25_initWords_0 : List UInt8 := [42, 27, 4, 100, 184, 0, 52, 4, 96, 188, 11, 181, 0, 11, 177]
abbrev dktJ25_initWords_0 : List UInt8 := dkwJ25_initWords_0 ++ []
theorem dksJ25_initWords_0 : cJ25_initWords.data.toList.drop 0 = dktJ25_initWords_0 := by decide +kernel
theorem dJ25_initWords_0 : decode cJ25_initWords 0 = .ok (.aload_n 0, 1) := dk_42 (dk_at dksJ25_initWords_0 0 rfl rfl)
theorem dJ25_initWords_1 : decode cJ25_initWords 1 = .ok (.iload_n 1, 1) := dk_27 (dk_at dksJ25_initWords_0 1 rfl rfl)
theorem dJ25_initWords_2 : decode cJ25_initWords 2 = .ok (.iconst 1, 1) := dk_4 (dk_at dksJ25_initWords_0 2 rfl rfl)
theorem dJ25_initWords_3 : decode cJ25_initWords 3 = .ok (.isub, 1) := dk_100 (dk_at dksJ25_initWords_0 3 rfl rfl)
theorem dJ25_initWords_4 : decode cJ25_initWords 4 = .ok (.invokestatic 52, 3) := dk_184 0 52 (dk_at dksJ25_initWords_0 4 rfl rfl)
theorem dJ25_initWords_7 : decode cJ25_initWords 7 = .ok (.iconst 1, 1) := dk_4 (dk_at dksJ25_initWords_0 7 rfl rfl)
theorem dJ25_initWords_8 : decode cJ25_initWords 8 = .ok (.iadd, 1) := dk_96 (dk_at dksJ25_initWords_0 8 rfl rfl)
theorem dJ25_initWords_9 : decode cJ25_initWords 9 = .ok (.newarray .long, 2) := dk_188_11 (dk_at dksJ25_initWords_0 9 rfl rfl)
theorem dJ25_initWords_11 : decode cJ25_initWords 11 = .ok (.putfield 11, 3) := dk_181 0 11 (dk_at dksJ25_initWords_0 11 rfl rfl)
theorem dJ25_initWords_14 : decode cJ25_initWords 14 = .ok (.return_, 1) := dk_177 (dk_at dksJ25_initWords_0 14 rfl rfl)
abbrev cJ25_init : ByteArray := prog_51_method_5_code
def yJ25_init : MethodName := ⟨RJ25, "<init>", "(I)V"⟩
def dkwJ25_init_2 : List UInt8 := [27, 182, 0, 27, 42, 4, 181, 0, 24, 177]
abbrev dktJ25_init_2 : List UInt8 := dkwJ25_init_2 ++ []
def dkwJ25_init_1 : List UInt8 := [187, 0, 33, 89, 183, 0, 35, 18, 36, 182, 0, 38, 27, 182, 0, 42, 182, 0, 45, 183, 0, 49, 191, 42]
abbrev dktJ25_init_1 : List UInt8 := dkwJ25_init_1 ++ dktJ25_init_2
def dkwJ25_init_0 : List UInt8 := [42, 183, 0, 21, 42, 3, 181, 0, 7, 42, 3, 181, 0, 24, 27, 156, 0, 30, 187, 0, 31, 89]
abbrev dktJ25_init_0 : List UInt8 := dkwJ25_init_0 ++ dktJ25_init_1
theorem dksJ25_init_0 : cJ25_init.data.toList.drop 0 = dktJ25_init_0 := by decide +kernel
theorem dksJ25_init_1 : cJ25_init.data.toList.drop 22 = dktJ25_init_1 := dk_seg dksJ25_init_0 22 rfl rfl
theorem dksJ25_init_2 : cJ25_init.data.toList.drop 46 = dktJ25_init_2 := dk_seg dksJ25_init_1 24 rfl rfl
theorem dJ25_init_0 : decode cJ25_init 0 = .ok (.aload_n 0, 1) := dk_42 (dk_at dksJ25_init_0 0 rfl rfl)
theorem dJ25_init_1 : decode cJ25_init 1 = .ok (.invokespecial 21, 3) := dk_183 0 21 (dk_at dksJ25_init_0 1 rfl rfl)
theorem dJ25_init_4 : decode cJ25_init 4 = .ok (.aload_n 0, 1) := dk_42 (dk_at dksJ25_init_0 4 rfl rfl)
theorem dJ25_init_5 : decode cJ25_init 5 = .ok (.iconst 0, 1) := dk_3 (dk_at dksJ25_init_0 5 rfl rfl)
theorem dJ25_init_6 : decode cJ25_init 6 = .ok (.putfield 7, 3) := dk_181 0 7 (dk_at dksJ25_init_0 6 rfl rfl)
theorem dJ25_init_9 : decode cJ25_init 9 = .ok (.aload_n 0, 1) := dk_42 (dk_at dksJ25_init_0 9 rfl rfl)
theorem dJ25_init_10 : decode cJ25_init 10 = .ok (.iconst 0, 1) := dk_3 (dk_at dksJ25_init_0 10 rfl rfl)
theorem dJ25_init_11 : decode cJ25_init 11 = .ok (.putfield 24, 3) := dk_181 0 24 (dk_at dksJ25_init_0 11 rfl rfl)
theorem dJ25_init_14 : decode cJ25_init 14 = .ok (.iload_n 1, 1) := dk_27 (dk_at dksJ25_init_0 14 rfl rfl)
theorem dJ25_init_15 : decode cJ25_init 15 = .ok (.ifCond .ge 30, 3) := dk_156 0 30 (dk_at dksJ25_init_0 15 rfl rfl)
theorem dJ25_init_18 : decode cJ25_init 18 = .ok (.new 31, 3) := dk_187 0 31 (dk_at dksJ25_init_0 18 rfl rfl)
theorem dJ25_init_21 : decode cJ25_init 21 = .ok (.dup, 1) := dk_89 (dk_at dksJ25_init_0 21 rfl rfl)
theorem dJ25_init_22 : decode cJ25_init 22 = .ok (.new 33, 3) := dk_187 0 33 (dk_at dksJ25_init_1 0 rfl rfl)
theorem dJ25_init_25 : decode cJ25_init 25 = .ok (.dup, 1) := dk_89 (dk_at dksJ25_init_1 3 rfl rfl)
theorem dJ25_init_26 : decode cJ25_init 26 = .ok (.invokespecial 35, 3) := dk_183 0 35 (dk_at dksJ25_init_1 4 rfl rfl)
theorem dJ25_init_29 : decode cJ25_init 29 = .ok (.ldc 36, 2) := dk_18 36 (dk_at dksJ25_init_1 7 rfl rfl)
theorem dJ25_init_31 : decode cJ25_init 31 = .ok (.invokevirtual 38, 3) := dk_182 0 38 (dk_at dksJ25_init_1 9 rfl rfl)
theorem dJ25_init_34 : decode cJ25_init 34 = .ok (.iload_n 1, 1) := dk_27 (dk_at dksJ25_init_1 12 rfl rfl)
theorem dJ25_init_35 : decode cJ25_init 35 = .ok (.invokevirtual 42, 3) := dk_182 0 42 (dk_at dksJ25_init_1 13 rfl rfl)
theorem dJ25_init_38 : decode cJ25_init 38 = .ok (.invokevirtual 45, 3) := dk_182 0 45 (dk_at dksJ25_init_1 16 rfl rfl)
theorem dJ25_init_41 : decode cJ25_init 41 = .ok (.invokespecial 49, 3) := dk_183 0 49 (dk_at dksJ25_init_1 19 rfl rfl)
theorem dJ25_init_44 : decode cJ25_init 44 = .ok (.athrow, 1) := dk_191 (dk_at dksJ25_init_1 22 rfl rfl)
theorem dJ25_init_45 : decode cJ25_init 45 = .ok (.aload_n 0, 1) := dk_42 (dk_at dksJ25_init_1 23 rfl rfl)
theorem dJ25_init_46 : decode cJ25_init 46 = .ok (.iload_n 1, 1) := dk_27 (dk_at dksJ25_init_2 0 rfl rfl)
theorem dJ25_init_47 : decode cJ25_init 47 = .ok (.invokevirtual 27, 3) := dk_182 0 27 (dk_at dksJ25_init_2 1 rfl rfl)
theorem dJ25_init_50 : decode cJ25_init 50 = .ok (.aload_n 0, 1) := dk_42 (dk_at dksJ25_init_2 4 rfl rfl)
theorem dJ25_init_51 : decode cJ25_init 51 = .ok (.iconst 1, 1) := dk_4 (dk_at dksJ25_init_2 5 rfl rfl)
theorem dJ25_init_52 : decode cJ25_init 52 = .ok (.putfield 24, 3) := dk_181 0 24 (dk_at dksJ25_init_2 6 rfl rfl)
theorem dJ25_init_55 : decode cJ25_init 55 = .ok (.return_, 1) := dk_177 (dk_at dksJ25_init_2 9 rfl rfl)
abbrev cX4_around : ByteArray := prog_7_method_10_code
def yX4_around : MethodName := ⟨RX4, "around", "(II)LMultipoleLine$Box;"⟩
def dkwX4_around_0 : List UInt8 := [42, 180, 0, 20, 27, 50, 28, 17, 1, 0, 27, 122, 108, 50, 176]
abbrev dktX4_around_0 : List UInt8 := dkwX4_around_0 ++ []
theorem dksX4_around_0 : cX4_around.data.toList.drop 0 = dktX4_around_0 := by decide +kernel
theorem dX4_around_0 : decode cX4_around 0 = .ok (.aload_n 0, 1) := dk_42 (dk_at dksX4_around_0 0 rfl rfl)
theorem dX4_around_1 : decode cX4_around 1 = .ok (.getfield 20, 3) := dk_180 0 20 (dk_at dksX4_around_0 1 rfl rfl)
theorem dX4_around_4 : decode cX4_around 4 = .ok (.iload_n 1, 1) := dk_27 (dk_at dksX4_around_0 4 rfl rfl)
theorem dX4_around_5 : decode cX4_around 5 = .ok (.aaload, 1) := dk_50 (dk_at dksX4_around_0 5 rfl rfl)
theorem dX4_around_6 : decode cX4_around 6 = .ok (.iload_n 2, 1) := dk_28 (dk_at dksX4_around_0 6 rfl rfl)
theorem dX4_around_7 : decode cX4_around 7 = .ok (.sipush 256, 3) := dk_17 1 0 (dk_at dksX4_around_0 7 rfl rfl)
theorem dX4_around_10 : decode cX4_around 10 = .ok (.iload_n 1, 1) := dk_27 (dk_at dksX4_around_0 10 rfl rfl)
theorem dX4_around_11 : decode cX4_around 11 = .ok (.ishr, 1) := dk_122 (dk_at dksX4_around_0 11 rfl rfl)
theorem dX4_around_12 : decode cX4_around 12 = .ok (.idiv, 1) := dk_108 (dk_at dksX4_around_0 12 rfl rfl)
theorem dX4_around_13 : decode cX4_around 13 = .ok (.aaload, 1) := dk_50 (dk_at dksX4_around_0 13 rfl rfl)
theorem dX4_around_14 : decode cX4_around 14 = .ok (.areturn, 1) := dk_176 (dk_at dksX4_around_0 14 rfl rfl)
abbrev cX4_leaf : ByteArray := prog_7_method_11_code
def yX4_leaf : MethodName := ⟨RX4, "leaf", "(I)LMultipoleLine$Box;"⟩
def dkwX4_leaf_0 : List UInt8 := [42, 42, 180, 0, 57, 27, 182, 0, 98, 176]
abbrev dktX4_leaf_0 : List UInt8 := dkwX4_leaf_0 ++ []
theorem dksX4_leaf_0 : cX4_leaf.data.toList.drop 0 = dktX4_leaf_0 := by decide +kernel
theorem dX4_leaf_0 : decode cX4_leaf 0 = .ok (.aload_n 0, 1) := dk_42 (dk_at dksX4_leaf_0 0 rfl rfl)
theorem dX4_leaf_1 : decode cX4_leaf 1 = .ok (.aload_n 0, 1) := dk_42 (dk_at dksX4_leaf_0 1 rfl rfl)
theorem dX4_leaf_2 : decode cX4_leaf 2 = .ok (.getfield 57, 3) := dk_180 0 57 (dk_at dksX4_leaf_0 2 rfl rfl)
theorem dX4_leaf_5 : decode cX4_leaf 5 = .ok (.iload_n 1, 1) := dk_27 (dk_at dksX4_leaf_0 5 rfl rfl)
theorem dX4_leaf_6 : decode cX4_leaf 6 = .ok (.invokevirtual 98, 3) := dk_182 0 98 (dk_at dksX4_leaf_0 6 rfl rfl)
theorem dX4_leaf_9 : decode cX4_leaf 9 = .ok (.areturn, 1) := dk_176 (dk_at dksX4_leaf_0 9 rfl rfl)
abbrev cJ9_init : ByteArray := prog_24_method_2_code
def yJ9_init : MethodName := ⟨RJ9, "<init>", "(Ljava/lang/String;)V"⟩
def dkwJ9_init_0 : List UInt8 := [42, 43, 183, 0, 7, 177]
abbrev dktJ9_init_0 : List UInt8 := dkwJ9_init_0 ++ []
theorem dksJ9_init_0 : cJ9_init.data.toList.drop 0 = dktJ9_init_0 := by decide +kernel
theorem dJ9_init_0 : decode cJ9_init 0 = .ok (.aload_n 0, 1) := dk_42 (dk_at dksJ9_init_0 0 rfl rfl)
theorem dJ9_init_1 : decode cJ9_init 1 = .ok (.aload_n 1, 1) := dk_43 (dk_at dksJ9_init_0 1 rfl rfl)
theorem dJ9_init_2 : decode cJ9_init 2 = .ok (.invokespecial 7, 3) := dk_183 0 7 (dk_at dksJ9_init_0 2 rfl rfl)
theorem dJ9_init_5 : decode cJ9_init 5 = .ok (.return_, 1) := dk_177 (dk_at dksJ9_init_0 5 rfl rfl)
abbrev cJ15_copyOf_4 : ByteArray := prog_50_method_124_code
def yJ15_copyOf_4 : MethodName := ⟨RJ15, "copyOf", "([JI)[J"⟩
def dkwJ15_copyOf_4_1 : List UInt8 := [27, 184, 1, 48, 184, 0, 150, 44, 176]
abbrev dktJ15_copyOf_4_1 : List UInt8 := dkwJ15_copyOf_4_1 ++ []
def dkwJ15_copyOf_4_0 : List UInt8 := [27, 42, 190, 160, 0, 11, 42, 182, 1, 63, 192, 1, 64, 176, 27, 188, 11, 77, 42, 3, 44, 3, 42, 190]
abbrev dktJ15_copyOf_4_0 : List UInt8 := dkwJ15_copyOf_4_0 ++ dktJ15_copyOf_4_1
theorem dksJ15_copyOf_4_0 : cJ15_copyOf_4.data.toList.drop 0 = dktJ15_copyOf_4_0 := by decide +kernel
theorem dksJ15_copyOf_4_1 : cJ15_copyOf_4.data.toList.drop 24 = dktJ15_copyOf_4_1 := dk_seg dksJ15_copyOf_4_0 24 rfl rfl
theorem dJ15_copyOf_4_0 : decode cJ15_copyOf_4 0 = .ok (.iload_n 1, 1) := dk_27 (dk_at dksJ15_copyOf_4_0 0 rfl rfl)
theorem dJ15_copyOf_4_1 : decode cJ15_copyOf_4 1 = .ok (.aload_n 0, 1) := dk_42 (dk_at dksJ15_copyOf_4_0 1 rfl rfl)
theorem dJ15_copyOf_4_2 : decode cJ15_copyOf_4 2 = .ok (.arraylength, 1) := dk_190 (dk_at dksJ15_copyOf_4_0 2 rfl rfl)
theorem dJ15_copyOf_4_3 : decode cJ15_copyOf_4 3 = .ok (.if_icmp .ne 11, 3) := dk_160 0 11 (dk_at dksJ15_copyOf_4_0 3 rfl rfl)
theorem dJ15_copyOf_4_6 : decode cJ15_copyOf_4 6 = .ok (.aload_n 0, 1) := dk_42 (dk_at dksJ15_copyOf_4_0 6 rfl rfl)
theorem dJ15_copyOf_4_7 : decode cJ15_copyOf_4 7 = .ok (.invokevirtual 319, 3) := dk_182 1 63 (dk_at dksJ15_copyOf_4_0 7 rfl rfl)
theorem dJ15_copyOf_4_10 : decode cJ15_copyOf_4 10 = .ok (.checkcast 320, 3) := dk_192 1 64 (dk_at dksJ15_copyOf_4_0 10 rfl rfl)
theorem dJ15_copyOf_4_13 : decode cJ15_copyOf_4 13 = .ok (.areturn, 1) := dk_176 (dk_at dksJ15_copyOf_4_0 13 rfl rfl)
theorem dJ15_copyOf_4_14 : decode cJ15_copyOf_4 14 = .ok (.iload_n 1, 1) := dk_27 (dk_at dksJ15_copyOf_4_0 14 rfl rfl)
theorem dJ15_copyOf_4_15 : decode cJ15_copyOf_4 15 = .ok (.newarray .long, 2) := dk_188_11 (dk_at dksJ15_copyOf_4_0 15 rfl rfl)
theorem dJ15_copyOf_4_17 : decode cJ15_copyOf_4 17 = .ok (.astore_n 2, 1) := dk_77 (dk_at dksJ15_copyOf_4_0 17 rfl rfl)
theorem dJ15_copyOf_4_18 : decode cJ15_copyOf_4 18 = .ok (.aload_n 0, 1) := dk_42 (dk_at dksJ15_copyOf_4_0 18 rfl rfl)
theorem dJ15_copyOf_4_19 : decode cJ15_copyOf_4 19 = .ok (.iconst 0, 1) := dk_3 (dk_at dksJ15_copyOf_4_0 19 rfl rfl)
theorem dJ15_copyOf_4_20 : decode cJ15_copyOf_4 20 = .ok (.aload_n 2, 1) := dk_44 (dk_at dksJ15_copyOf_4_0 20 rfl rfl)
theorem dJ15_copyOf_4_21 : decode cJ15_copyOf_4 21 = .ok (.iconst 0, 1) := dk_3 (dk_at dksJ15_copyOf_4_0 21 rfl rfl)
theorem dJ15_copyOf_4_22 : decode cJ15_copyOf_4 22 = .ok (.aload_n 0, 1) := dk_42 (dk_at dksJ15_copyOf_4_0 22 rfl rfl)
theorem dJ15_copyOf_4_23 : decode cJ15_copyOf_4 23 = .ok (.arraylength, 1) := dk_190 (dk_at dksJ15_copyOf_4_0 23 rfl rfl)
theorem dJ15_copyOf_4_24 : decode cJ15_copyOf_4 24 = .ok (.iload_n 1, 1) := dk_27 (dk_at dksJ15_copyOf_4_1 0 rfl rfl)
theorem dJ15_copyOf_4_25 : decode cJ15_copyOf_4 25 = .ok (.invokestatic 304, 3) := dk_184 1 48 (dk_at dksJ15_copyOf_4_1 1 rfl rfl)
theorem dJ15_copyOf_4_28 : decode cJ15_copyOf_4 28 = .ok (.invokestatic 150, 3) := dk_184 0 150 (dk_at dksJ15_copyOf_4_1 4 rfl rfl)
theorem dJ15_copyOf_4_31 : decode cJ15_copyOf_4 31 = .ok (.aload_n 2, 1) := dk_44 (dk_at dksJ15_copyOf_4_1 7 rfl rfl)
theorem dJ15_copyOf_4_32 : decode cJ15_copyOf_4 32 = .ok (.areturn, 1) := dk_176 (dk_at dksJ15_copyOf_4_1 8 rfl rfl)
abbrev cJ25_ensureCapacity : ByteArray := prog_51_method_14_code
def yJ25_ensureCapacity : MethodName := ⟨RJ25, "ensureCapacity", "(I)V"⟩
def dkwJ25_ensureCapacity_1 : List UInt8 := [180, 0, 11, 28, 184, 0, 59, 181, 0, 11, 42, 3, 181, 0, 24, 177]
abbrev dktJ25_ensureCapacity_1 : List UInt8 := dkwJ25_ensureCapacity_1 ++ []
def dkwJ25_ensureCapacity_0 : List UInt8 := [42, 180, 0, 11, 190, 27, 162, 0, 32, 5, 42, 180, 0, 11, 190, 104, 27, 184, 0, 133, 61, 42, 42]
abbrev dktJ25_ensureCapacity_0 : List UInt8 := dkwJ25_ensureCapacity_0 ++ dktJ25_ensureCapacity_1
theorem dksJ25_ensureCapacity_0 : cJ25_ensureCapacity.data.toList.drop 0 = dktJ25_ensureCapacity_0 := by decide +kernel
theorem dksJ25_ensureCapacity_1 : cJ25_ensureCapacity.data.toList.drop 23 = dktJ25_ensureCapacity_1 := dk_seg dksJ25_ensureCapacity_0 23 rfl rfl
theorem dJ25_ensureCapacity_0 : decode cJ25_ensureCapacity 0 = .ok (.aload_n 0, 1) := dk_42 (dk_at dksJ25_ensureCapacity_0 0 rfl rfl)
theorem dJ25_ensureCapacity_1 : decode cJ25_ensureCapacity 1 = .ok (.getfield 11, 3) := dk_180 0 11 (dk_at dksJ25_ensureCapacity_0 1 rfl rfl)
theorem dJ25_ensureCapacity_4 : decode cJ25_ensureCapacity 4 = .ok (.arraylength, 1) := dk_190 (dk_at dksJ25_ensureCapacity_0 4 rfl rfl)
theorem dJ25_ensureCapacity_5 : decode cJ25_ensureCapacity 5 = .ok (.iload_n 1, 1) := dk_27 (dk_at dksJ25_ensureCapacity_0 5 rfl rfl)
theorem dJ25_ensureCapacity_6 : decode cJ25_ensureCapacity 6 = .ok (.if_icmp .ge 32, 3) := dk_162 0 32 (dk_at dksJ25_ensureCapacity_0 6 rfl rfl)
theorem dJ25_ensureCapacity_9 : decode cJ25_ensureCapacity 9 = .ok (.iconst 2, 1) := dk_5 (dk_at dksJ25_ensureCapacity_0 9 rfl rfl)
theorem dJ25_ensureCapacity_10 : decode cJ25_ensureCapacity 10 = .ok (.aload_n 0, 1) := dk_42 (dk_at dksJ25_ensureCapacity_0 10 rfl rfl)
theorem dJ25_ensureCapacity_11 : decode cJ25_ensureCapacity 11 = .ok (.getfield 11, 3) := dk_180 0 11 (dk_at dksJ25_ensureCapacity_0 11 rfl rfl)
theorem dJ25_ensureCapacity_14 : decode cJ25_ensureCapacity 14 = .ok (.arraylength, 1) := dk_190 (dk_at dksJ25_ensureCapacity_0 14 rfl rfl)
theorem dJ25_ensureCapacity_15 : decode cJ25_ensureCapacity 15 = .ok (.imul, 1) := dk_104 (dk_at dksJ25_ensureCapacity_0 15 rfl rfl)
theorem dJ25_ensureCapacity_16 : decode cJ25_ensureCapacity 16 = .ok (.iload_n 1, 1) := dk_27 (dk_at dksJ25_ensureCapacity_0 16 rfl rfl)
theorem dJ25_ensureCapacity_17 : decode cJ25_ensureCapacity 17 = .ok (.invokestatic 133, 3) := dk_184 0 133 (dk_at dksJ25_ensureCapacity_0 17 rfl rfl)
theorem dJ25_ensureCapacity_20 : decode cJ25_ensureCapacity 20 = .ok (.istore_n 2, 1) := dk_61 (dk_at dksJ25_ensureCapacity_0 20 rfl rfl)
theorem dJ25_ensureCapacity_21 : decode cJ25_ensureCapacity 21 = .ok (.aload_n 0, 1) := dk_42 (dk_at dksJ25_ensureCapacity_0 21 rfl rfl)
theorem dJ25_ensureCapacity_22 : decode cJ25_ensureCapacity 22 = .ok (.aload_n 0, 1) := dk_42 (dk_at dksJ25_ensureCapacity_0 22 rfl rfl)
theorem dJ25_ensureCapacity_23 : decode cJ25_ensureCapacity 23 = .ok (.getfield 11, 3) := dk_180 0 11 (dk_at dksJ25_ensureCapacity_1 0 rfl rfl)
theorem dJ25_ensureCapacity_26 : decode cJ25_ensureCapacity 26 = .ok (.iload_n 2, 1) := dk_28 (dk_at dksJ25_ensureCapacity_1 3 rfl rfl)
theorem dJ25_ensureCapacity_27 : decode cJ25_ensureCapacity 27 = .ok (.invokestatic 59, 3) := dk_184 0 59 (dk_at dksJ25_ensureCapacity_1 4 rfl rfl)
theorem dJ25_ensureCapacity_30 : decode cJ25_ensureCapacity 30 = .ok (.putfield 11, 3) := dk_181 0 11 (dk_at dksJ25_ensureCapacity_1 7 rfl rfl)
theorem dJ25_ensureCapacity_33 : decode cJ25_ensureCapacity 33 = .ok (.aload_n 0, 1) := dk_42 (dk_at dksJ25_ensureCapacity_1 10 rfl rfl)
theorem dJ25_ensureCapacity_34 : decode cJ25_ensureCapacity 34 = .ok (.iconst 0, 1) := dk_3 (dk_at dksJ25_ensureCapacity_1 11 rfl rfl)
theorem dJ25_ensureCapacity_35 : decode cJ25_ensureCapacity 35 = .ok (.putfield 24, 3) := dk_181 0 24 (dk_at dksJ25_ensureCapacity_1 12 rfl rfl)
theorem dJ25_ensureCapacity_38 : decode cJ25_ensureCapacity 38 = .ok (.return_, 1) := dk_177 (dk_at dksJ25_ensureCapacity_1 15 rfl rfl)
abbrev cJ25_expandTo : ByteArray := prog_51_method_15_code
def yJ25_expandTo : MethodName := ⟨RJ25, "expandTo", "(I)V"⟩
def dkwJ25_expandTo_0 : List UInt8 := [27, 4, 96, 61, 42, 180, 0, 7, 28, 162, 0, 13, 42, 28, 182, 0, 139, 42, 28, 181, 0, 7, 177]
abbrev dktJ25_expandTo_0 : List UInt8 := dkwJ25_expandTo_0 ++ []
theorem dksJ25_expandTo_0 : cJ25_expandTo.data.toList.drop 0 = dktJ25_expandTo_0 := by decide +kernel
theorem dJ25_expandTo_0 : decode cJ25_expandTo 0 = .ok (.iload_n 1, 1) := dk_27 (dk_at dksJ25_expandTo_0 0 rfl rfl)
theorem dJ25_expandTo_1 : decode cJ25_expandTo 1 = .ok (.iconst 1, 1) := dk_4 (dk_at dksJ25_expandTo_0 1 rfl rfl)
theorem dJ25_expandTo_2 : decode cJ25_expandTo 2 = .ok (.iadd, 1) := dk_96 (dk_at dksJ25_expandTo_0 2 rfl rfl)
theorem dJ25_expandTo_3 : decode cJ25_expandTo 3 = .ok (.istore_n 2, 1) := dk_61 (dk_at dksJ25_expandTo_0 3 rfl rfl)
theorem dJ25_expandTo_4 : decode cJ25_expandTo 4 = .ok (.aload_n 0, 1) := dk_42 (dk_at dksJ25_expandTo_0 4 rfl rfl)
theorem dJ25_expandTo_5 : decode cJ25_expandTo 5 = .ok (.getfield 7, 3) := dk_180 0 7 (dk_at dksJ25_expandTo_0 5 rfl rfl)
theorem dJ25_expandTo_8 : decode cJ25_expandTo 8 = .ok (.iload_n 2, 1) := dk_28 (dk_at dksJ25_expandTo_0 8 rfl rfl)
theorem dJ25_expandTo_9 : decode cJ25_expandTo 9 = .ok (.if_icmp .ge 13, 3) := dk_162 0 13 (dk_at dksJ25_expandTo_0 9 rfl rfl)
theorem dJ25_expandTo_12 : decode cJ25_expandTo 12 = .ok (.aload_n 0, 1) := dk_42 (dk_at dksJ25_expandTo_0 12 rfl rfl)
theorem dJ25_expandTo_13 : decode cJ25_expandTo 13 = .ok (.iload_n 2, 1) := dk_28 (dk_at dksJ25_expandTo_0 13 rfl rfl)
theorem dJ25_expandTo_14 : decode cJ25_expandTo 14 = .ok (.invokevirtual 139, 3) := dk_182 0 139 (dk_at dksJ25_expandTo_0 14 rfl rfl)
theorem dJ25_expandTo_17 : decode cJ25_expandTo 17 = .ok (.aload_n 0, 1) := dk_42 (dk_at dksJ25_expandTo_0 17 rfl rfl)
theorem dJ25_expandTo_18 : decode cJ25_expandTo 18 = .ok (.iload_n 2, 1) := dk_28 (dk_at dksJ25_expandTo_0 18 rfl rfl)
theorem dJ25_expandTo_19 : decode cJ25_expandTo 19 = .ok (.putfield 7, 3) := dk_181 0 7 (dk_at dksJ25_expandTo_0 19 rfl rfl)
theorem dJ25_expandTo_22 : decode cJ25_expandTo 22 = .ok (.return_, 1) := dk_177 (dk_at dksJ25_expandTo_0 22 rfl rfl)
abbrev cJ25_checkInvariants : ByteArray := prog_51_method_2_code
def yJ25_checkInvariants : MethodName := ⟨RJ25, "checkInvariants", "()V"⟩
def dkwJ25_checkInvariants_4 : List UInt8 := [180, 0, 7, 47, 9, 148, 153, 0, 11, 187, 0, 15, 89, 183, 0, 17, 191, 177]
abbrev dktJ25_checkInvariants_4 : List UInt8 := dkwJ25_checkInvariants_4 ++ []
def dkwJ25_checkInvariants_3 : List UInt8 := [178, 0, 3, 154, 0, 37, 42, 180, 0, 7, 42, 180, 0, 11, 190, 159, 0, 25, 42, 180, 0, 11, 42]
abbrev dktJ25_checkInvariants_3 : List UInt8 := dkwJ25_checkInvariants_3 ++ dktJ25_checkInvariants_4
def dkwJ25_checkInvariants_2 : List UInt8 := [155, 0, 15, 42, 180, 0, 7, 42, 180, 0, 11, 190, 164, 0, 11, 187, 0, 15, 89, 183, 0, 17, 191]
abbrev dktJ25_checkInvariants_2 : List UInt8 := dkwJ25_checkInvariants_2 ++ dktJ25_checkInvariants_3
def dkwJ25_checkInvariants_1 : List UInt8 := [9, 148, 154, 0, 11, 187, 0, 15, 89, 183, 0, 17, 191, 178, 0, 3, 154, 0, 30, 42, 180, 0, 7]
abbrev dktJ25_checkInvariants_1 : List UInt8 := dkwJ25_checkInvariants_1 ++ dktJ25_checkInvariants_2
def dkwJ25_checkInvariants_0 : List UInt8 := [178, 0, 3, 154, 0, 34, 42, 180, 0, 7, 153, 0, 27, 42, 180, 0, 11, 42, 180, 0, 7, 4, 100, 47]
abbrev dktJ25_checkInvariants_0 : List UInt8 := dkwJ25_checkInvariants_0 ++ dktJ25_checkInvariants_1
theorem dksJ25_checkInvariants_0 : cJ25_checkInvariants.data.toList.drop 0 = dktJ25_checkInvariants_0 := by decide +kernel
theorem dksJ25_checkInvariants_1 : cJ25_checkInvariants.data.toList.drop 24 = dktJ25_checkInvariants_1 := dk_seg dksJ25_checkInvariants_0 24 rfl rfl
theorem dksJ25_checkInvariants_2 : cJ25_checkInvariants.data.toList.drop 47 = dktJ25_checkInvariants_2 := dk_seg dksJ25_checkInvariants_1 23 rfl rfl
theorem dksJ25_checkInvariants_3 : cJ25_checkInvariants.data.toList.drop 70 = dktJ25_checkInvariants_3 := dk_seg dksJ25_checkInvariants_2 23 rfl rfl
theorem dksJ25_checkInvariants_4 : cJ25_checkInvariants.data.toList.drop 93 = dktJ25_checkInvariants_4 := dk_seg dksJ25_checkInvariants_3 23 rfl rfl
theorem dJ25_checkInvariants_0 : decode cJ25_checkInvariants 0 = .ok (.getstatic 3, 3) := dk_178 0 3 (dk_at dksJ25_checkInvariants_0 0 rfl rfl)
theorem dJ25_checkInvariants_3 : decode cJ25_checkInvariants 3 = .ok (.ifCond .ne 34, 3) := dk_154 0 34 (dk_at dksJ25_checkInvariants_0 3 rfl rfl)
theorem dJ25_checkInvariants_6 : decode cJ25_checkInvariants 6 = .ok (.aload_n 0, 1) := dk_42 (dk_at dksJ25_checkInvariants_0 6 rfl rfl)
theorem dJ25_checkInvariants_7 : decode cJ25_checkInvariants 7 = .ok (.getfield 7, 3) := dk_180 0 7 (dk_at dksJ25_checkInvariants_0 7 rfl rfl)
theorem dJ25_checkInvariants_10 : decode cJ25_checkInvariants 10 = .ok (.ifCond .eq 27, 3) := dk_153 0 27 (dk_at dksJ25_checkInvariants_0 10 rfl rfl)
theorem dJ25_checkInvariants_13 : decode cJ25_checkInvariants 13 = .ok (.aload_n 0, 1) := dk_42 (dk_at dksJ25_checkInvariants_0 13 rfl rfl)
theorem dJ25_checkInvariants_14 : decode cJ25_checkInvariants 14 = .ok (.getfield 11, 3) := dk_180 0 11 (dk_at dksJ25_checkInvariants_0 14 rfl rfl)
theorem dJ25_checkInvariants_17 : decode cJ25_checkInvariants 17 = .ok (.aload_n 0, 1) := dk_42 (dk_at dksJ25_checkInvariants_0 17 rfl rfl)
theorem dJ25_checkInvariants_18 : decode cJ25_checkInvariants 18 = .ok (.getfield 7, 3) := dk_180 0 7 (dk_at dksJ25_checkInvariants_0 18 rfl rfl)
theorem dJ25_checkInvariants_21 : decode cJ25_checkInvariants 21 = .ok (.iconst 1, 1) := dk_4 (dk_at dksJ25_checkInvariants_0 21 rfl rfl)
theorem dJ25_checkInvariants_22 : decode cJ25_checkInvariants 22 = .ok (.isub, 1) := dk_100 (dk_at dksJ25_checkInvariants_0 22 rfl rfl)
theorem dJ25_checkInvariants_23 : decode cJ25_checkInvariants 23 = .ok (.laload, 1) := dk_47 (dk_at dksJ25_checkInvariants_0 23 rfl rfl)
theorem dJ25_checkInvariants_24 : decode cJ25_checkInvariants 24 = .ok (.lconst 0, 1) := dk_9 (dk_at dksJ25_checkInvariants_1 0 rfl rfl)
theorem dJ25_checkInvariants_25 : decode cJ25_checkInvariants 25 = .ok (.lcmp, 1) := dk_148 (dk_at dksJ25_checkInvariants_1 1 rfl rfl)
theorem dJ25_checkInvariants_26 : decode cJ25_checkInvariants 26 = .ok (.ifCond .ne 11, 3) := dk_154 0 11 (dk_at dksJ25_checkInvariants_1 2 rfl rfl)
theorem dJ25_checkInvariants_29 : decode cJ25_checkInvariants 29 = .ok (.new 15, 3) := dk_187 0 15 (dk_at dksJ25_checkInvariants_1 5 rfl rfl)
theorem dJ25_checkInvariants_32 : decode cJ25_checkInvariants 32 = .ok (.dup, 1) := dk_89 (dk_at dksJ25_checkInvariants_1 8 rfl rfl)
theorem dJ25_checkInvariants_33 : decode cJ25_checkInvariants 33 = .ok (.invokespecial 17, 3) := dk_183 0 17 (dk_at dksJ25_checkInvariants_1 9 rfl rfl)
theorem dJ25_checkInvariants_36 : decode cJ25_checkInvariants 36 = .ok (.athrow, 1) := dk_191 (dk_at dksJ25_checkInvariants_1 12 rfl rfl)
theorem dJ25_checkInvariants_37 : decode cJ25_checkInvariants 37 = .ok (.getstatic 3, 3) := dk_178 0 3 (dk_at dksJ25_checkInvariants_1 13 rfl rfl)
theorem dJ25_checkInvariants_40 : decode cJ25_checkInvariants 40 = .ok (.ifCond .ne 30, 3) := dk_154 0 30 (dk_at dksJ25_checkInvariants_1 16 rfl rfl)
theorem dJ25_checkInvariants_43 : decode cJ25_checkInvariants 43 = .ok (.aload_n 0, 1) := dk_42 (dk_at dksJ25_checkInvariants_1 19 rfl rfl)
theorem dJ25_checkInvariants_44 : decode cJ25_checkInvariants 44 = .ok (.getfield 7, 3) := dk_180 0 7 (dk_at dksJ25_checkInvariants_1 20 rfl rfl)
theorem dJ25_checkInvariants_47 : decode cJ25_checkInvariants 47 = .ok (.ifCond .lt 15, 3) := dk_155 0 15 (dk_at dksJ25_checkInvariants_2 0 rfl rfl)
theorem dJ25_checkInvariants_50 : decode cJ25_checkInvariants 50 = .ok (.aload_n 0, 1) := dk_42 (dk_at dksJ25_checkInvariants_2 3 rfl rfl)
theorem dJ25_checkInvariants_51 : decode cJ25_checkInvariants 51 = .ok (.getfield 7, 3) := dk_180 0 7 (dk_at dksJ25_checkInvariants_2 4 rfl rfl)
theorem dJ25_checkInvariants_54 : decode cJ25_checkInvariants 54 = .ok (.aload_n 0, 1) := dk_42 (dk_at dksJ25_checkInvariants_2 7 rfl rfl)
theorem dJ25_checkInvariants_55 : decode cJ25_checkInvariants 55 = .ok (.getfield 11, 3) := dk_180 0 11 (dk_at dksJ25_checkInvariants_2 8 rfl rfl)
theorem dJ25_checkInvariants_58 : decode cJ25_checkInvariants 58 = .ok (.arraylength, 1) := dk_190 (dk_at dksJ25_checkInvariants_2 11 rfl rfl)
theorem dJ25_checkInvariants_59 : decode cJ25_checkInvariants 59 = .ok (.if_icmp .le 11, 3) := dk_164 0 11 (dk_at dksJ25_checkInvariants_2 12 rfl rfl)
theorem dJ25_checkInvariants_62 : decode cJ25_checkInvariants 62 = .ok (.new 15, 3) := dk_187 0 15 (dk_at dksJ25_checkInvariants_2 15 rfl rfl)
theorem dJ25_checkInvariants_65 : decode cJ25_checkInvariants 65 = .ok (.dup, 1) := dk_89 (dk_at dksJ25_checkInvariants_2 18 rfl rfl)
theorem dJ25_checkInvariants_66 : decode cJ25_checkInvariants 66 = .ok (.invokespecial 17, 3) := dk_183 0 17 (dk_at dksJ25_checkInvariants_2 19 rfl rfl)
theorem dJ25_checkInvariants_69 : decode cJ25_checkInvariants 69 = .ok (.athrow, 1) := dk_191 (dk_at dksJ25_checkInvariants_2 22 rfl rfl)
theorem dJ25_checkInvariants_70 : decode cJ25_checkInvariants 70 = .ok (.getstatic 3, 3) := dk_178 0 3 (dk_at dksJ25_checkInvariants_3 0 rfl rfl)
theorem dJ25_checkInvariants_73 : decode cJ25_checkInvariants 73 = .ok (.ifCond .ne 37, 3) := dk_154 0 37 (dk_at dksJ25_checkInvariants_3 3 rfl rfl)
theorem dJ25_checkInvariants_76 : decode cJ25_checkInvariants 76 = .ok (.aload_n 0, 1) := dk_42 (dk_at dksJ25_checkInvariants_3 6 rfl rfl)
theorem dJ25_checkInvariants_77 : decode cJ25_checkInvariants 77 = .ok (.getfield 7, 3) := dk_180 0 7 (dk_at dksJ25_checkInvariants_3 7 rfl rfl)
theorem dJ25_checkInvariants_80 : decode cJ25_checkInvariants 80 = .ok (.aload_n 0, 1) := dk_42 (dk_at dksJ25_checkInvariants_3 10 rfl rfl)
theorem dJ25_checkInvariants_81 : decode cJ25_checkInvariants 81 = .ok (.getfield 11, 3) := dk_180 0 11 (dk_at dksJ25_checkInvariants_3 11 rfl rfl)
theorem dJ25_checkInvariants_84 : decode cJ25_checkInvariants 84 = .ok (.arraylength, 1) := dk_190 (dk_at dksJ25_checkInvariants_3 14 rfl rfl)
theorem dJ25_checkInvariants_85 : decode cJ25_checkInvariants 85 = .ok (.if_icmp .eq 25, 3) := dk_159 0 25 (dk_at dksJ25_checkInvariants_3 15 rfl rfl)
theorem dJ25_checkInvariants_88 : decode cJ25_checkInvariants 88 = .ok (.aload_n 0, 1) := dk_42 (dk_at dksJ25_checkInvariants_3 18 rfl rfl)
theorem dJ25_checkInvariants_89 : decode cJ25_checkInvariants 89 = .ok (.getfield 11, 3) := dk_180 0 11 (dk_at dksJ25_checkInvariants_3 19 rfl rfl)
theorem dJ25_checkInvariants_92 : decode cJ25_checkInvariants 92 = .ok (.aload_n 0, 1) := dk_42 (dk_at dksJ25_checkInvariants_3 22 rfl rfl)
theorem dJ25_checkInvariants_93 : decode cJ25_checkInvariants 93 = .ok (.getfield 7, 3) := dk_180 0 7 (dk_at dksJ25_checkInvariants_4 0 rfl rfl)
theorem dJ25_checkInvariants_96 : decode cJ25_checkInvariants 96 = .ok (.laload, 1) := dk_47 (dk_at dksJ25_checkInvariants_4 3 rfl rfl)
theorem dJ25_checkInvariants_97 : decode cJ25_checkInvariants 97 = .ok (.lconst 0, 1) := dk_9 (dk_at dksJ25_checkInvariants_4 4 rfl rfl)
theorem dJ25_checkInvariants_98 : decode cJ25_checkInvariants 98 = .ok (.lcmp, 1) := dk_148 (dk_at dksJ25_checkInvariants_4 5 rfl rfl)
theorem dJ25_checkInvariants_99 : decode cJ25_checkInvariants 99 = .ok (.ifCond .eq 11, 3) := dk_153 0 11 (dk_at dksJ25_checkInvariants_4 6 rfl rfl)
theorem dJ25_checkInvariants_102 : decode cJ25_checkInvariants 102 = .ok (.new 15, 3) := dk_187 0 15 (dk_at dksJ25_checkInvariants_4 9 rfl rfl)
theorem dJ25_checkInvariants_105 : decode cJ25_checkInvariants 105 = .ok (.dup, 1) := dk_89 (dk_at dksJ25_checkInvariants_4 12 rfl rfl)
theorem dJ25_checkInvariants_106 : decode cJ25_checkInvariants 106 = .ok (.invokespecial 17, 3) := dk_183 0 17 (dk_at dksJ25_checkInvariants_4 13 rfl rfl)
theorem dJ25_checkInvariants_109 : decode cJ25_checkInvariants 109 = .ok (.athrow, 1) := dk_191 (dk_at dksJ25_checkInvariants_4 16 rfl rfl)
theorem dJ25_checkInvariants_110 : decode cJ25_checkInvariants 110 = .ok (.return_, 1) := dk_177 (dk_at dksJ25_checkInvariants_4 17 rfl rfl)
abbrev cJ25_set : ByteArray := prog_51_method_19_code
def yJ25_set : MethodName := ⟨RJ25, "set", "(I)V"⟩
def dkwJ25_set_2 : List UInt8 := [10, 27, 121, 129, 80, 42, 182, 0, 56, 177]
abbrev dktJ25_set_2 : List UInt8 := dkwJ25_set_2 ++ []
def dkwJ25_set_1 : List UInt8 := [182, 0, 45, 183, 0, 146, 191, 27, 184, 0, 52, 61, 42, 28, 182, 0, 155, 42, 180, 0, 11, 28, 92, 47]
abbrev dktJ25_set_1 : List UInt8 := dkwJ25_set_1 ++ dktJ25_set_2
def dkwJ25_set_0 : List UInt8 := [27, 156, 0, 30, 187, 0, 142, 89, 187, 0, 33, 89, 183, 0, 35, 18, 153, 182, 0, 38, 27, 182, 0, 42]
abbrev dktJ25_set_0 : List UInt8 := dkwJ25_set_0 ++ dktJ25_set_1
theorem dksJ25_set_0 : cJ25_set.data.toList.drop 0 = dktJ25_set_0 := by decide +kernel
theorem dksJ25_set_1 : cJ25_set.data.toList.drop 24 = dktJ25_set_1 := dk_seg dksJ25_set_0 24 rfl rfl
theorem dksJ25_set_2 : cJ25_set.data.toList.drop 48 = dktJ25_set_2 := dk_seg dksJ25_set_1 24 rfl rfl
theorem dJ25_set_0 : decode cJ25_set 0 = .ok (.iload_n 1, 1) := dk_27 (dk_at dksJ25_set_0 0 rfl rfl)
theorem dJ25_set_1 : decode cJ25_set 1 = .ok (.ifCond .ge 30, 3) := dk_156 0 30 (dk_at dksJ25_set_0 1 rfl rfl)
theorem dJ25_set_4 : decode cJ25_set 4 = .ok (.new 142, 3) := dk_187 0 142 (dk_at dksJ25_set_0 4 rfl rfl)
theorem dJ25_set_7 : decode cJ25_set 7 = .ok (.dup, 1) := dk_89 (dk_at dksJ25_set_0 7 rfl rfl)
theorem dJ25_set_8 : decode cJ25_set 8 = .ok (.new 33, 3) := dk_187 0 33 (dk_at dksJ25_set_0 8 rfl rfl)
theorem dJ25_set_11 : decode cJ25_set 11 = .ok (.dup, 1) := dk_89 (dk_at dksJ25_set_0 11 rfl rfl)
theorem dJ25_set_12 : decode cJ25_set 12 = .ok (.invokespecial 35, 3) := dk_183 0 35 (dk_at dksJ25_set_0 12 rfl rfl)
theorem dJ25_set_15 : decode cJ25_set 15 = .ok (.ldc 153, 2) := dk_18 153 (dk_at dksJ25_set_0 15 rfl rfl)
theorem dJ25_set_17 : decode cJ25_set 17 = .ok (.invokevirtual 38, 3) := dk_182 0 38 (dk_at dksJ25_set_0 17 rfl rfl)
theorem dJ25_set_20 : decode cJ25_set 20 = .ok (.iload_n 1, 1) := dk_27 (dk_at dksJ25_set_0 20 rfl rfl)
theorem dJ25_set_21 : decode cJ25_set 21 = .ok (.invokevirtual 42, 3) := dk_182 0 42 (dk_at dksJ25_set_0 21 rfl rfl)
theorem dJ25_set_24 : decode cJ25_set 24 = .ok (.invokevirtual 45, 3) := dk_182 0 45 (dk_at dksJ25_set_1 0 rfl rfl)
theorem dJ25_set_27 : decode cJ25_set 27 = .ok (.invokespecial 146, 3) := dk_183 0 146 (dk_at dksJ25_set_1 3 rfl rfl)
theorem dJ25_set_30 : decode cJ25_set 30 = .ok (.athrow, 1) := dk_191 (dk_at dksJ25_set_1 6 rfl rfl)
theorem dJ25_set_31 : decode cJ25_set 31 = .ok (.iload_n 1, 1) := dk_27 (dk_at dksJ25_set_1 7 rfl rfl)
theorem dJ25_set_32 : decode cJ25_set 32 = .ok (.invokestatic 52, 3) := dk_184 0 52 (dk_at dksJ25_set_1 8 rfl rfl)
theorem dJ25_set_35 : decode cJ25_set 35 = .ok (.istore_n 2, 1) := dk_61 (dk_at dksJ25_set_1 11 rfl rfl)
theorem dJ25_set_36 : decode cJ25_set 36 = .ok (.aload_n 0, 1) := dk_42 (dk_at dksJ25_set_1 12 rfl rfl)
theorem dJ25_set_37 : decode cJ25_set 37 = .ok (.iload_n 2, 1) := dk_28 (dk_at dksJ25_set_1 13 rfl rfl)
theorem dJ25_set_38 : decode cJ25_set 38 = .ok (.invokevirtual 155, 3) := dk_182 0 155 (dk_at dksJ25_set_1 14 rfl rfl)
theorem dJ25_set_41 : decode cJ25_set 41 = .ok (.aload_n 0, 1) := dk_42 (dk_at dksJ25_set_1 17 rfl rfl)
theorem dJ25_set_42 : decode cJ25_set 42 = .ok (.getfield 11, 3) := dk_180 0 11 (dk_at dksJ25_set_1 18 rfl rfl)
theorem dJ25_set_45 : decode cJ25_set 45 = .ok (.iload_n 2, 1) := dk_28 (dk_at dksJ25_set_1 21 rfl rfl)
theorem dJ25_set_46 : decode cJ25_set 46 = .ok (.dup2, 1) := dk_92 (dk_at dksJ25_set_1 22 rfl rfl)
theorem dJ25_set_47 : decode cJ25_set 47 = .ok (.laload, 1) := dk_47 (dk_at dksJ25_set_1 23 rfl rfl)
theorem dJ25_set_48 : decode cJ25_set 48 = .ok (.lconst 1, 1) := dk_10 (dk_at dksJ25_set_2 0 rfl rfl)
theorem dJ25_set_49 : decode cJ25_set 49 = .ok (.iload_n 1, 1) := dk_27 (dk_at dksJ25_set_2 1 rfl rfl)
theorem dJ25_set_50 : decode cJ25_set 50 = .ok (.lshl, 1) := dk_121 (dk_at dksJ25_set_2 2 rfl rfl)
theorem dJ25_set_51 : decode cJ25_set 51 = .ok (.lor, 1) := dk_129 (dk_at dksJ25_set_2 3 rfl rfl)
theorem dJ25_set_52 : decode cJ25_set 52 = .ok (.lastore, 1) := dk_80 (dk_at dksJ25_set_2 4 rfl rfl)
theorem dJ25_set_53 : decode cJ25_set 53 = .ok (.aload_n 0, 1) := dk_42 (dk_at dksJ25_set_2 5 rfl rfl)
theorem dJ25_set_54 : decode cJ25_set 54 = .ok (.invokevirtual 56, 3) := dk_182 0 56 (dk_at dksJ25_set_2 6 rfl rfl)
theorem dJ25_set_57 : decode cJ25_set 57 = .ok (.return_, 1) := dk_177 (dk_at dksJ25_set_2 9 rfl rfl)
abbrev cX4_leaves : ByteArray := prog_7_method_15_code
def yX4_leaves : MethodName := ⟨RX4, "leaves", "()Ljava/util/BitSet;"⟩
def dkwX4_leaves_2 : List UInt8 := [167, 255, 226, 43, 176]
abbrev dktX4_leaves_2 : List UInt8 := dkwX4_leaves_2 ++ []
def dkwX4_leaves_1 : List UInt8 := [43, 42, 42, 28, 182, 0, 41, 180, 0, 86, 182, 0, 115, 180, 0, 119, 182, 0, 122, 132, 2, 1]
abbrev dktX4_leaves_1 : List UInt8 := dkwX4_leaves_1 ++ dktX4_leaves_2
def dkwX4_leaves_0 : List UInt8 := [187, 0, 110, 89, 4, 42, 180, 0, 57, 120, 183, 0, 112, 76, 3, 61, 28, 42, 182, 0, 37, 162, 0, 28]
abbrev dktX4_leaves_0 : List UInt8 := dkwX4_leaves_0 ++ dktX4_leaves_1
theorem dksX4_leaves_0 : cX4_leaves.data.toList.drop 0 = dktX4_leaves_0 := by decide +kernel
theorem dksX4_leaves_1 : cX4_leaves.data.toList.drop 24 = dktX4_leaves_1 := dk_seg dksX4_leaves_0 24 rfl rfl
theorem dksX4_leaves_2 : cX4_leaves.data.toList.drop 46 = dktX4_leaves_2 := dk_seg dksX4_leaves_1 22 rfl rfl
theorem dX4_leaves_0 : decode cX4_leaves 0 = .ok (.new 110, 3) := dk_187 0 110 (dk_at dksX4_leaves_0 0 rfl rfl)
theorem dX4_leaves_3 : decode cX4_leaves 3 = .ok (.dup, 1) := dk_89 (dk_at dksX4_leaves_0 3 rfl rfl)
theorem dX4_leaves_4 : decode cX4_leaves 4 = .ok (.iconst 1, 1) := dk_4 (dk_at dksX4_leaves_0 4 rfl rfl)
theorem dX4_leaves_5 : decode cX4_leaves 5 = .ok (.aload_n 0, 1) := dk_42 (dk_at dksX4_leaves_0 5 rfl rfl)
theorem dX4_leaves_6 : decode cX4_leaves 6 = .ok (.getfield 57, 3) := dk_180 0 57 (dk_at dksX4_leaves_0 6 rfl rfl)
theorem dX4_leaves_9 : decode cX4_leaves 9 = .ok (.ishl, 1) := dk_120 (dk_at dksX4_leaves_0 9 rfl rfl)
theorem dX4_leaves_10 : decode cX4_leaves 10 = .ok (.invokespecial 112, 3) := dk_183 0 112 (dk_at dksX4_leaves_0 10 rfl rfl)
theorem dX4_leaves_13 : decode cX4_leaves 13 = .ok (.astore_n 1, 1) := dk_76 (dk_at dksX4_leaves_0 13 rfl rfl)
theorem dX4_leaves_14 : decode cX4_leaves 14 = .ok (.iconst 0, 1) := dk_3 (dk_at dksX4_leaves_0 14 rfl rfl)
theorem dX4_leaves_15 : decode cX4_leaves 15 = .ok (.istore_n 2, 1) := dk_61 (dk_at dksX4_leaves_0 15 rfl rfl)
theorem dX4_leaves_16 : decode cX4_leaves 16 = .ok (.iload_n 2, 1) := dk_28 (dk_at dksX4_leaves_0 16 rfl rfl)
theorem dX4_leaves_17 : decode cX4_leaves 17 = .ok (.aload_n 0, 1) := dk_42 (dk_at dksX4_leaves_0 17 rfl rfl)
theorem dX4_leaves_18 : decode cX4_leaves 18 = .ok (.invokevirtual 37, 3) := dk_182 0 37 (dk_at dksX4_leaves_0 18 rfl rfl)
theorem dX4_leaves_21 : decode cX4_leaves 21 = .ok (.if_icmp .ge 28, 3) := dk_162 0 28 (dk_at dksX4_leaves_0 21 rfl rfl)
theorem dX4_leaves_24 : decode cX4_leaves 24 = .ok (.aload_n 1, 1) := dk_43 (dk_at dksX4_leaves_1 0 rfl rfl)
theorem dX4_leaves_25 : decode cX4_leaves 25 = .ok (.aload_n 0, 1) := dk_42 (dk_at dksX4_leaves_1 1 rfl rfl)
theorem dX4_leaves_26 : decode cX4_leaves 26 = .ok (.aload_n 0, 1) := dk_42 (dk_at dksX4_leaves_1 2 rfl rfl)
theorem dX4_leaves_27 : decode cX4_leaves 27 = .ok (.iload_n 2, 1) := dk_28 (dk_at dksX4_leaves_1 3 rfl rfl)
theorem dX4_leaves_28 : decode cX4_leaves 28 = .ok (.invokevirtual 41, 3) := dk_182 0 41 (dk_at dksX4_leaves_1 4 rfl rfl)
theorem dX4_leaves_31 : decode cX4_leaves 31 = .ok (.getfield 86, 3) := dk_180 0 86 (dk_at dksX4_leaves_1 7 rfl rfl)
theorem dX4_leaves_34 : decode cX4_leaves 34 = .ok (.invokevirtual 115, 3) := dk_182 0 115 (dk_at dksX4_leaves_1 10 rfl rfl)
theorem dX4_leaves_37 : decode cX4_leaves 37 = .ok (.getfield 119, 3) := dk_180 0 119 (dk_at dksX4_leaves_1 13 rfl rfl)
theorem dX4_leaves_40 : decode cX4_leaves 40 = .ok (.invokevirtual 122, 3) := dk_182 0 122 (dk_at dksX4_leaves_1 16 rfl rfl)
theorem dX4_leaves_43 : decode cX4_leaves 43 = .ok (.iinc 2 1, 3) := dk_132 2 1 (dk_at dksX4_leaves_1 19 rfl rfl)
theorem dX4_leaves_46 : decode cX4_leaves 46 = .ok (.goto (-30), 3) := dk_167 255 226 (dk_at dksX4_leaves_2 0 rfl rfl)
theorem dX4_leaves_49 : decode cX4_leaves 49 = .ok (.aload_n 1, 1) := dk_43 (dk_at dksX4_leaves_2 3 rfl rfl)
theorem dX4_leaves_50 : decode cX4_leaves 50 = .ok (.areturn, 1) := dk_176 (dk_at dksX4_leaves_2 4 rfl rfl)
abbrev cJ26_bitCount : ByteArray := prog_28_method_50_code
def yJ26_bitCount : MethodName := ⟨RJ26, "bitCount", "(J)I"⟩
def dkwJ26_bitCount_2 : List UInt8 := [30, 30, 16, 32, 125, 97, 63, 30, 136, 16, 127, 126, 172]
abbrev dktJ26_bitCount_2 : List UInt8 := dkwJ26_bitCount_2 ++ []
def dkwJ26_bitCount_1 : List UInt8 := [30, 30, 7, 125, 97, 20, 1, 62, 127, 63, 30, 30, 16, 8, 125, 97, 63, 30, 30, 16, 16, 125, 97, 63]
abbrev dktJ26_bitCount_1 : List UInt8 := dkwJ26_bitCount_1 ++ dktJ26_bitCount_2
def dkwJ26_bitCount_0 : List UInt8 := [30, 30, 4, 125, 20, 1, 58, 127, 101, 63, 30, 20, 1, 60, 127, 30, 5, 125, 20, 1, 60, 127, 97, 63]
abbrev dktJ26_bitCount_0 : List UInt8 := dkwJ26_bitCount_0 ++ dktJ26_bitCount_1
theorem dksJ26_bitCount_0 : cJ26_bitCount.data.toList.drop 0 = dktJ26_bitCount_0 := by decide +kernel
theorem dksJ26_bitCount_1 : cJ26_bitCount.data.toList.drop 24 = dktJ26_bitCount_1 := dk_seg dksJ26_bitCount_0 24 rfl rfl
theorem dksJ26_bitCount_2 : cJ26_bitCount.data.toList.drop 48 = dktJ26_bitCount_2 := dk_seg dksJ26_bitCount_1 24 rfl rfl
theorem dJ26_bitCount_0 : decode cJ26_bitCount 0 = .ok (.lload_n 0, 1) := dk_30 (dk_at dksJ26_bitCount_0 0 rfl rfl)
theorem dJ26_bitCount_1 : decode cJ26_bitCount 1 = .ok (.lload_n 0, 1) := dk_30 (dk_at dksJ26_bitCount_0 1 rfl rfl)
theorem dJ26_bitCount_2 : decode cJ26_bitCount 2 = .ok (.iconst 1, 1) := dk_4 (dk_at dksJ26_bitCount_0 2 rfl rfl)
theorem dJ26_bitCount_3 : decode cJ26_bitCount 3 = .ok (.lushr, 1) := dk_125 (dk_at dksJ26_bitCount_0 3 rfl rfl)
theorem dJ26_bitCount_4 : decode cJ26_bitCount 4 = .ok (.ldc2_w 314, 3) := dk_20 1 58 (dk_at dksJ26_bitCount_0 4 rfl rfl)
theorem dJ26_bitCount_7 : decode cJ26_bitCount 7 = .ok (.land, 1) := dk_127 (dk_at dksJ26_bitCount_0 7 rfl rfl)
theorem dJ26_bitCount_8 : decode cJ26_bitCount 8 = .ok (.lsub, 1) := dk_101 (dk_at dksJ26_bitCount_0 8 rfl rfl)
theorem dJ26_bitCount_9 : decode cJ26_bitCount 9 = .ok (.lstore_n 0, 1) := dk_63 (dk_at dksJ26_bitCount_0 9 rfl rfl)
theorem dJ26_bitCount_10 : decode cJ26_bitCount 10 = .ok (.lload_n 0, 1) := dk_30 (dk_at dksJ26_bitCount_0 10 rfl rfl)
theorem dJ26_bitCount_11 : decode cJ26_bitCount 11 = .ok (.ldc2_w 316, 3) := dk_20 1 60 (dk_at dksJ26_bitCount_0 11 rfl rfl)
theorem dJ26_bitCount_14 : decode cJ26_bitCount 14 = .ok (.land, 1) := dk_127 (dk_at dksJ26_bitCount_0 14 rfl rfl)
theorem dJ26_bitCount_15 : decode cJ26_bitCount 15 = .ok (.lload_n 0, 1) := dk_30 (dk_at dksJ26_bitCount_0 15 rfl rfl)
theorem dJ26_bitCount_16 : decode cJ26_bitCount 16 = .ok (.iconst 2, 1) := dk_5 (dk_at dksJ26_bitCount_0 16 rfl rfl)
theorem dJ26_bitCount_17 : decode cJ26_bitCount 17 = .ok (.lushr, 1) := dk_125 (dk_at dksJ26_bitCount_0 17 rfl rfl)
theorem dJ26_bitCount_18 : decode cJ26_bitCount 18 = .ok (.ldc2_w 316, 3) := dk_20 1 60 (dk_at dksJ26_bitCount_0 18 rfl rfl)
theorem dJ26_bitCount_21 : decode cJ26_bitCount 21 = .ok (.land, 1) := dk_127 (dk_at dksJ26_bitCount_0 21 rfl rfl)
theorem dJ26_bitCount_22 : decode cJ26_bitCount 22 = .ok (.ladd, 1) := dk_97 (dk_at dksJ26_bitCount_0 22 rfl rfl)
theorem dJ26_bitCount_23 : decode cJ26_bitCount 23 = .ok (.lstore_n 0, 1) := dk_63 (dk_at dksJ26_bitCount_0 23 rfl rfl)
theorem dJ26_bitCount_24 : decode cJ26_bitCount 24 = .ok (.lload_n 0, 1) := dk_30 (dk_at dksJ26_bitCount_1 0 rfl rfl)
theorem dJ26_bitCount_25 : decode cJ26_bitCount 25 = .ok (.lload_n 0, 1) := dk_30 (dk_at dksJ26_bitCount_1 1 rfl rfl)
theorem dJ26_bitCount_26 : decode cJ26_bitCount 26 = .ok (.iconst 4, 1) := dk_7 (dk_at dksJ26_bitCount_1 2 rfl rfl)
theorem dJ26_bitCount_27 : decode cJ26_bitCount 27 = .ok (.lushr, 1) := dk_125 (dk_at dksJ26_bitCount_1 3 rfl rfl)
theorem dJ26_bitCount_28 : decode cJ26_bitCount 28 = .ok (.ladd, 1) := dk_97 (dk_at dksJ26_bitCount_1 4 rfl rfl)
theorem dJ26_bitCount_29 : decode cJ26_bitCount 29 = .ok (.ldc2_w 318, 3) := dk_20 1 62 (dk_at dksJ26_bitCount_1 5 rfl rfl)
theorem dJ26_bitCount_32 : decode cJ26_bitCount 32 = .ok (.land, 1) := dk_127 (dk_at dksJ26_bitCount_1 8 rfl rfl)
theorem dJ26_bitCount_33 : decode cJ26_bitCount 33 = .ok (.lstore_n 0, 1) := dk_63 (dk_at dksJ26_bitCount_1 9 rfl rfl)
theorem dJ26_bitCount_34 : decode cJ26_bitCount 34 = .ok (.lload_n 0, 1) := dk_30 (dk_at dksJ26_bitCount_1 10 rfl rfl)
theorem dJ26_bitCount_35 : decode cJ26_bitCount 35 = .ok (.lload_n 0, 1) := dk_30 (dk_at dksJ26_bitCount_1 11 rfl rfl)
theorem dJ26_bitCount_36 : decode cJ26_bitCount 36 = .ok (.bipush 8, 2) := dk_16 8 (dk_at dksJ26_bitCount_1 12 rfl rfl)
theorem dJ26_bitCount_38 : decode cJ26_bitCount 38 = .ok (.lushr, 1) := dk_125 (dk_at dksJ26_bitCount_1 14 rfl rfl)
theorem dJ26_bitCount_39 : decode cJ26_bitCount 39 = .ok (.ladd, 1) := dk_97 (dk_at dksJ26_bitCount_1 15 rfl rfl)
theorem dJ26_bitCount_40 : decode cJ26_bitCount 40 = .ok (.lstore_n 0, 1) := dk_63 (dk_at dksJ26_bitCount_1 16 rfl rfl)
theorem dJ26_bitCount_41 : decode cJ26_bitCount 41 = .ok (.lload_n 0, 1) := dk_30 (dk_at dksJ26_bitCount_1 17 rfl rfl)
theorem dJ26_bitCount_42 : decode cJ26_bitCount 42 = .ok (.lload_n 0, 1) := dk_30 (dk_at dksJ26_bitCount_1 18 rfl rfl)
theorem dJ26_bitCount_43 : decode cJ26_bitCount 43 = .ok (.bipush 16, 2) := dk_16 16 (dk_at dksJ26_bitCount_1 19 rfl rfl)
theorem dJ26_bitCount_45 : decode cJ26_bitCount 45 = .ok (.lushr, 1) := dk_125 (dk_at dksJ26_bitCount_1 21 rfl rfl)
theorem dJ26_bitCount_46 : decode cJ26_bitCount 46 = .ok (.ladd, 1) := dk_97 (dk_at dksJ26_bitCount_1 22 rfl rfl)
theorem dJ26_bitCount_47 : decode cJ26_bitCount 47 = .ok (.lstore_n 0, 1) := dk_63 (dk_at dksJ26_bitCount_1 23 rfl rfl)
theorem dJ26_bitCount_48 : decode cJ26_bitCount 48 = .ok (.lload_n 0, 1) := dk_30 (dk_at dksJ26_bitCount_2 0 rfl rfl)
theorem dJ26_bitCount_49 : decode cJ26_bitCount 49 = .ok (.lload_n 0, 1) := dk_30 (dk_at dksJ26_bitCount_2 1 rfl rfl)
theorem dJ26_bitCount_50 : decode cJ26_bitCount 50 = .ok (.bipush 32, 2) := dk_16 32 (dk_at dksJ26_bitCount_2 2 rfl rfl)
theorem dJ26_bitCount_52 : decode cJ26_bitCount 52 = .ok (.lushr, 1) := dk_125 (dk_at dksJ26_bitCount_2 4 rfl rfl)
theorem dJ26_bitCount_53 : decode cJ26_bitCount 53 = .ok (.ladd, 1) := dk_97 (dk_at dksJ26_bitCount_2 5 rfl rfl)
theorem dJ26_bitCount_54 : decode cJ26_bitCount 54 = .ok (.lstore_n 0, 1) := dk_63 (dk_at dksJ26_bitCount_2 6 rfl rfl)
theorem dJ26_bitCount_55 : decode cJ26_bitCount 55 = .ok (.lload_n 0, 1) := dk_30 (dk_at dksJ26_bitCount_2 7 rfl rfl)
theorem dJ26_bitCount_56 : decode cJ26_bitCount 56 = .ok (.l2i, 1) := dk_136 (dk_at dksJ26_bitCount_2 8 rfl rfl)
theorem dJ26_bitCount_57 : decode cJ26_bitCount 57 = .ok (.bipush 127, 2) := dk_16 127 (dk_at dksJ26_bitCount_2 9 rfl rfl)
theorem dJ26_bitCount_59 : decode cJ26_bitCount 59 = .ok (.iand, 1) := dk_126 (dk_at dksJ26_bitCount_2 11 rfl rfl)
theorem dJ26_bitCount_60 : decode cJ26_bitCount 60 = .ok (.ireturn, 1) := dk_172 (dk_at dksJ26_bitCount_2 12 rfl rfl)
abbrev cJ25_cardinality : ByteArray := prog_51_method_35_code
def yJ25_cardinality : MethodName := ⟨RJ25, "cardinality", "()I"⟩
def dkwJ25_cardinality_1 : List UInt8 := [132, 2, 1, 167, 255, 233, 27, 172]
abbrev dktJ25_cardinality_1 : List UInt8 := dkwJ25_cardinality_1 ++ []
def dkwJ25_cardinality_0 : List UInt8 := [3, 60, 3, 61, 28, 42, 180, 0, 7, 162, 0, 21, 27, 42, 180, 0, 11, 28, 47, 184, 0, 196, 96, 60]
abbrev dktJ25_cardinality_0 : List UInt8 := dkwJ25_cardinality_0 ++ dktJ25_cardinality_1
theorem dksJ25_cardinality_0 : cJ25_cardinality.data.toList.drop 0 = dktJ25_cardinality_0 := by decide +kernel
theorem dksJ25_cardinality_1 : cJ25_cardinality.data.toList.drop 24 = dktJ25_cardinality_1 := dk_seg dksJ25_cardinality_0 24 rfl rfl
theorem dJ25_cardinality_0 : decode cJ25_cardinality 0 = .ok (.iconst 0, 1) := dk_3 (dk_at dksJ25_cardinality_0 0 rfl rfl)
theorem dJ25_cardinality_1 : decode cJ25_cardinality 1 = .ok (.istore_n 1, 1) := dk_60 (dk_at dksJ25_cardinality_0 1 rfl rfl)
theorem dJ25_cardinality_2 : decode cJ25_cardinality 2 = .ok (.iconst 0, 1) := dk_3 (dk_at dksJ25_cardinality_0 2 rfl rfl)
theorem dJ25_cardinality_3 : decode cJ25_cardinality 3 = .ok (.istore_n 2, 1) := dk_61 (dk_at dksJ25_cardinality_0 3 rfl rfl)
theorem dJ25_cardinality_4 : decode cJ25_cardinality 4 = .ok (.iload_n 2, 1) := dk_28 (dk_at dksJ25_cardinality_0 4 rfl rfl)
theorem dJ25_cardinality_5 : decode cJ25_cardinality 5 = .ok (.aload_n 0, 1) := dk_42 (dk_at dksJ25_cardinality_0 5 rfl rfl)
theorem dJ25_cardinality_6 : decode cJ25_cardinality 6 = .ok (.getfield 7, 3) := dk_180 0 7 (dk_at dksJ25_cardinality_0 6 rfl rfl)
theorem dJ25_cardinality_9 : decode cJ25_cardinality 9 = .ok (.if_icmp .ge 21, 3) := dk_162 0 21 (dk_at dksJ25_cardinality_0 9 rfl rfl)
theorem dJ25_cardinality_12 : decode cJ25_cardinality 12 = .ok (.iload_n 1, 1) := dk_27 (dk_at dksJ25_cardinality_0 12 rfl rfl)
theorem dJ25_cardinality_13 : decode cJ25_cardinality 13 = .ok (.aload_n 0, 1) := dk_42 (dk_at dksJ25_cardinality_0 13 rfl rfl)
theorem dJ25_cardinality_14 : decode cJ25_cardinality 14 = .ok (.getfield 11, 3) := dk_180 0 11 (dk_at dksJ25_cardinality_0 14 rfl rfl)
theorem dJ25_cardinality_17 : decode cJ25_cardinality 17 = .ok (.iload_n 2, 1) := dk_28 (dk_at dksJ25_cardinality_0 17 rfl rfl)
theorem dJ25_cardinality_18 : decode cJ25_cardinality 18 = .ok (.laload, 1) := dk_47 (dk_at dksJ25_cardinality_0 18 rfl rfl)
theorem dJ25_cardinality_19 : decode cJ25_cardinality 19 = .ok (.invokestatic 196, 3) := dk_184 0 196 (dk_at dksJ25_cardinality_0 19 rfl rfl)
theorem dJ25_cardinality_22 : decode cJ25_cardinality 22 = .ok (.iadd, 1) := dk_96 (dk_at dksJ25_cardinality_0 22 rfl rfl)
theorem dJ25_cardinality_23 : decode cJ25_cardinality 23 = .ok (.istore_n 1, 1) := dk_60 (dk_at dksJ25_cardinality_0 23 rfl rfl)
theorem dJ25_cardinality_24 : decode cJ25_cardinality 24 = .ok (.iinc 2 1, 3) := dk_132 2 1 (dk_at dksJ25_cardinality_1 0 rfl rfl)
theorem dJ25_cardinality_27 : decode cJ25_cardinality 27 = .ok (.goto (-23), 3) := dk_167 255 233 (dk_at dksJ25_cardinality_1 3 rfl rfl)
theorem dJ25_cardinality_30 : decode cJ25_cardinality 30 = .ok (.iload_n 1, 1) := dk_27 (dk_at dksJ25_cardinality_1 6 rfl rfl)
theorem dJ25_cardinality_31 : decode cJ25_cardinality 31 = .ok (.ireturn, 1) := dk_172 (dk_at dksJ25_cardinality_1 7 rfl rfl)
abbrev cX1_extreme : ByteArray := prog_1_method_24_code
def yX1_extreme : MethodName := ⟨RX1, "extreme", "(LMultipoleLine$Line;Z)I"⟩
def dkwX1_extreme_2 : List UInt8 := [61, 132, 3, 1, 167, 255, 208, 28, 172]
abbrev dktX1_extreme_2 : List UInt8 := dkwX1_extreme_2 ++ []
def dkwX1_extreme_1 : List UInt8 := [159, 0, 22, 27, 153, 0, 12, 21, 4, 28, 164, 0, 15, 167, 0, 9, 21, 4, 28, 162, 0, 6, 21, 4]
abbrev dktX1_extreme_1 : List UInt8 := dkwX1_extreme_1 ++ dktX1_extreme_2
def dkwX1_extreme_0 : List UInt8 := [2, 61, 3, 62, 29, 42, 182, 0, 80, 162, 0, 46, 42, 29, 182, 0, 88, 180, 0, 139, 54, 4, 28, 2]
abbrev dktX1_extreme_0 : List UInt8 := dkwX1_extreme_0 ++ dktX1_extreme_1
theorem dksX1_extreme_0 : cX1_extreme.data.toList.drop 0 = dktX1_extreme_0 := by decide +kernel
theorem dksX1_extreme_1 : cX1_extreme.data.toList.drop 24 = dktX1_extreme_1 := dk_seg dksX1_extreme_0 24 rfl rfl
theorem dksX1_extreme_2 : cX1_extreme.data.toList.drop 48 = dktX1_extreme_2 := dk_seg dksX1_extreme_1 24 rfl rfl
theorem dX1_extreme_0 : decode cX1_extreme 0 = .ok (.iconst (-1), 1) := dk_2 (dk_at dksX1_extreme_0 0 rfl rfl)
theorem dX1_extreme_1 : decode cX1_extreme 1 = .ok (.istore_n 2, 1) := dk_61 (dk_at dksX1_extreme_0 1 rfl rfl)
theorem dX1_extreme_2 : decode cX1_extreme 2 = .ok (.iconst 0, 1) := dk_3 (dk_at dksX1_extreme_0 2 rfl rfl)
theorem dX1_extreme_3 : decode cX1_extreme 3 = .ok (.istore_n 3, 1) := dk_62 (dk_at dksX1_extreme_0 3 rfl rfl)
theorem dX1_extreme_4 : decode cX1_extreme 4 = .ok (.iload_n 3, 1) := dk_29 (dk_at dksX1_extreme_0 4 rfl rfl)
theorem dX1_extreme_5 : decode cX1_extreme 5 = .ok (.aload_n 0, 1) := dk_42 (dk_at dksX1_extreme_0 5 rfl rfl)
theorem dX1_extreme_6 : decode cX1_extreme 6 = .ok (.invokevirtual 80, 3) := dk_182 0 80 (dk_at dksX1_extreme_0 6 rfl rfl)
theorem dX1_extreme_9 : decode cX1_extreme 9 = .ok (.if_icmp .ge 46, 3) := dk_162 0 46 (dk_at dksX1_extreme_0 9 rfl rfl)
theorem dX1_extreme_12 : decode cX1_extreme 12 = .ok (.aload_n 0, 1) := dk_42 (dk_at dksX1_extreme_0 12 rfl rfl)
theorem dX1_extreme_13 : decode cX1_extreme 13 = .ok (.iload_n 3, 1) := dk_29 (dk_at dksX1_extreme_0 13 rfl rfl)
theorem dX1_extreme_14 : decode cX1_extreme 14 = .ok (.invokevirtual 88, 3) := dk_182 0 88 (dk_at dksX1_extreme_0 14 rfl rfl)
theorem dX1_extreme_17 : decode cX1_extreme 17 = .ok (.getfield 139, 3) := dk_180 0 139 (dk_at dksX1_extreme_0 17 rfl rfl)
theorem dX1_extreme_20 : decode cX1_extreme 20 = .ok (.istore 4, 2) := dk_54 4 (dk_at dksX1_extreme_0 20 rfl rfl)
theorem dX1_extreme_22 : decode cX1_extreme 22 = .ok (.iload_n 2, 1) := dk_28 (dk_at dksX1_extreme_0 22 rfl rfl)
theorem dX1_extreme_23 : decode cX1_extreme 23 = .ok (.iconst (-1), 1) := dk_2 (dk_at dksX1_extreme_0 23 rfl rfl)
theorem dX1_extreme_24 : decode cX1_extreme 24 = .ok (.if_icmp .eq 22, 3) := dk_159 0 22 (dk_at dksX1_extreme_1 0 rfl rfl)
theorem dX1_extreme_27 : decode cX1_extreme 27 = .ok (.iload_n 1, 1) := dk_27 (dk_at dksX1_extreme_1 3 rfl rfl)
theorem dX1_extreme_28 : decode cX1_extreme 28 = .ok (.ifCond .eq 12, 3) := dk_153 0 12 (dk_at dksX1_extreme_1 4 rfl rfl)
theorem dX1_extreme_31 : decode cX1_extreme 31 = .ok (.iload 4, 2) := dk_21 4 (dk_at dksX1_extreme_1 7 rfl rfl)
theorem dX1_extreme_33 : decode cX1_extreme 33 = .ok (.iload_n 2, 1) := dk_28 (dk_at dksX1_extreme_1 9 rfl rfl)
theorem dX1_extreme_34 : decode cX1_extreme 34 = .ok (.if_icmp .le 15, 3) := dk_164 0 15 (dk_at dksX1_extreme_1 10 rfl rfl)
theorem dX1_extreme_37 : decode cX1_extreme 37 = .ok (.goto 9, 3) := dk_167 0 9 (dk_at dksX1_extreme_1 13 rfl rfl)
theorem dX1_extreme_40 : decode cX1_extreme 40 = .ok (.iload 4, 2) := dk_21 4 (dk_at dksX1_extreme_1 16 rfl rfl)
theorem dX1_extreme_42 : decode cX1_extreme 42 = .ok (.iload_n 2, 1) := dk_28 (dk_at dksX1_extreme_1 18 rfl rfl)
theorem dX1_extreme_43 : decode cX1_extreme 43 = .ok (.if_icmp .ge 6, 3) := dk_162 0 6 (dk_at dksX1_extreme_1 19 rfl rfl)
theorem dX1_extreme_46 : decode cX1_extreme 46 = .ok (.iload 4, 2) := dk_21 4 (dk_at dksX1_extreme_1 22 rfl rfl)
theorem dX1_extreme_48 : decode cX1_extreme 48 = .ok (.istore_n 2, 1) := dk_61 (dk_at dksX1_extreme_2 0 rfl rfl)
theorem dX1_extreme_49 : decode cX1_extreme 49 = .ok (.iinc 3 1, 3) := dk_132 3 1 (dk_at dksX1_extreme_2 1 rfl rfl)
theorem dX1_extreme_52 : decode cX1_extreme 52 = .ok (.goto (-48), 3) := dk_167 255 208 (dk_at dksX1_extreme_2 4 rfl rfl)
theorem dX1_extreme_55 : decode cX1_extreme 55 = .ok (.iload_n 2, 1) := dk_28 (dk_at dksX1_extreme_2 7 rfl rfl)
theorem dX1_extreme_56 : decode cX1_extreme 56 = .ok (.ireturn, 1) := dk_172 (dk_at dksX1_extreme_2 8 rfl rfl)
abbrev cX1_count : ByteArray := prog_1_method_25_code
def yX1_count : MethodName := ⟨RX1, "count", "(I)I"⟩
def dkwX1_count_6 : List UInt8 := [44, 180, 0, 101, 122, 167, 0, 11, 187, 0, 55, 89, 183, 0, 57, 191, 172]
abbrev dktX1_count_6 : List UInt8 := dkwX1_count_6 ++ []
def dkwX1_count_5 : List UInt8 := [167, 0, 40, 44, 27, 16, 12, 160, 0, 7, 4, 167, 0, 4, 3, 184, 0, 170, 167, 0, 22, 17, 1, 0]
abbrev dktX1_count_5 : List UInt8 := dkwX1_count_5 ++ dktX1_count_6
def dkwX1_count_4 : List UInt8 := [167, 0, 64, 44, 182, 0, 155, 167, 0, 57, 44, 182, 0, 158, 182, 0, 162, 167, 0, 47, 44, 180, 0, 167]
abbrev dktX1_count_4 : List UInt8 := dkwX1_count_4 ++ dktX1_count_5
def dkwX1_count_3 : List UInt8 := [167, 0, 86, 44, 27, 182, 0, 145, 167, 0, 78, 44, 180, 0, 149, 167, 0, 71, 44, 182, 0, 152]
abbrev dktX1_count_3 : List UInt8 := dkwX1_count_3 ++ dktX1_count_4
def dkwX1_count_2 : List UInt8 := [44, 182, 0, 80, 167, 0, 105, 44, 182, 0, 142, 167, 0, 98, 44, 182, 0, 80, 44, 182, 0, 142, 100]
abbrev dktX1_count_2 : List UInt8 := dkwX1_count_2 ++ dktX1_count_3
def dkwX1_count_1 : List UInt8 := [170, 0, 0, 0, 0, 171, 0, 0, 0, 0, 0, 0, 0, 13, 0, 0, 0, 70, 0, 0, 0, 77, 0, 0, 0, 84, 0, 0, 0, 96, 0, 0, 0, 96, 0, 0, 0, 96, 0, 0, 0, 104, 0, 0, 0, 111, 0, 0, 0, 118, 0, 0, 0, 125, 0, 0, 0, 135, 0, 0, 0, 142, 0, 0, 0, 142, 0, 0, 0, 160]
abbrev dktX1_count_1 : List UInt8 := dkwX1_count_1 ++ dktX1_count_2
def dkwX1_count_0 : List UInt8 := [42, 182, 0, 76, 77, 27]
abbrev dktX1_count_0 : List UInt8 := dkwX1_count_0 ++ dktX1_count_1
theorem dksX1_count_0 : cX1_count.data.toList.drop 0 = dktX1_count_0 := by decide +kernel
theorem dksX1_count_1 : cX1_count.data.toList.drop 6 = dktX1_count_1 := dk_seg dksX1_count_0 6 rfl rfl
theorem dksX1_count_2 : cX1_count.data.toList.drop 76 = dktX1_count_2 := dk_seg dksX1_count_1 70 rfl rfl
theorem dksX1_count_3 : cX1_count.data.toList.drop 99 = dktX1_count_3 := dk_seg dksX1_count_2 23 rfl rfl
theorem dksX1_count_4 : cX1_count.data.toList.drop 121 = dktX1_count_4 := dk_seg dksX1_count_3 22 rfl rfl
theorem dksX1_count_5 : cX1_count.data.toList.drop 145 = dktX1_count_5 := dk_seg dksX1_count_4 24 rfl rfl
theorem dksX1_count_6 : cX1_count.data.toList.drop 169 = dktX1_count_6 := dk_seg dksX1_count_5 24 rfl rfl
theorem dX1_count_0 : decode cX1_count 0 = .ok (.aload_n 0, 1) := dk_42 (dk_at dksX1_count_0 0 rfl rfl)
theorem dX1_count_1 : decode cX1_count 1 = .ok (.invokevirtual 76, 3) := dk_182 0 76 (dk_at dksX1_count_0 1 rfl rfl)
theorem dX1_count_4 : decode cX1_count 4 = .ok (.astore_n 2, 1) := dk_77 (dk_at dksX1_count_0 4 rfl rfl)
theorem dX1_count_5 : decode cX1_count 5 = .ok (.iload_n 1, 1) := dk_27 (dk_at dksX1_count_0 5 rfl rfl)
theorem dX1_count_6 : decode cX1_count 6 = .ok (.tableswitch 171 0 13 #[70, 77, 84, 96, 96, 96, 104, 111, 118, 125, 135, 142, 142, 160], 70) := by decide +kernel
theorem dX1_count_76 : decode cX1_count 76 = .ok (.aload_n 2, 1) := dk_44 (dk_at dksX1_count_2 0 rfl rfl)
theorem dX1_count_77 : decode cX1_count 77 = .ok (.invokevirtual 80, 3) := dk_182 0 80 (dk_at dksX1_count_2 1 rfl rfl)
theorem dX1_count_80 : decode cX1_count 80 = .ok (.goto 105, 3) := dk_167 0 105 (dk_at dksX1_count_2 4 rfl rfl)
theorem dX1_count_83 : decode cX1_count 83 = .ok (.aload_n 2, 1) := dk_44 (dk_at dksX1_count_2 7 rfl rfl)
theorem dX1_count_84 : decode cX1_count 84 = .ok (.invokevirtual 142, 3) := dk_182 0 142 (dk_at dksX1_count_2 8 rfl rfl)
theorem dX1_count_87 : decode cX1_count 87 = .ok (.goto 98, 3) := dk_167 0 98 (dk_at dksX1_count_2 11 rfl rfl)
theorem dX1_count_90 : decode cX1_count 90 = .ok (.aload_n 2, 1) := dk_44 (dk_at dksX1_count_2 14 rfl rfl)
theorem dX1_count_91 : decode cX1_count 91 = .ok (.invokevirtual 80, 3) := dk_182 0 80 (dk_at dksX1_count_2 15 rfl rfl)
theorem dX1_count_94 : decode cX1_count 94 = .ok (.aload_n 2, 1) := dk_44 (dk_at dksX1_count_2 18 rfl rfl)
theorem dX1_count_95 : decode cX1_count 95 = .ok (.invokevirtual 142, 3) := dk_182 0 142 (dk_at dksX1_count_2 19 rfl rfl)
theorem dX1_count_98 : decode cX1_count 98 = .ok (.isub, 1) := dk_100 (dk_at dksX1_count_2 22 rfl rfl)
theorem dX1_count_99 : decode cX1_count 99 = .ok (.goto 86, 3) := dk_167 0 86 (dk_at dksX1_count_3 0 rfl rfl)
theorem dX1_count_102 : decode cX1_count 102 = .ok (.aload_n 2, 1) := dk_44 (dk_at dksX1_count_3 3 rfl rfl)
theorem dX1_count_103 : decode cX1_count 103 = .ok (.iload_n 1, 1) := dk_27 (dk_at dksX1_count_3 4 rfl rfl)
theorem dX1_count_104 : decode cX1_count 104 = .ok (.invokevirtual 145, 3) := dk_182 0 145 (dk_at dksX1_count_3 5 rfl rfl)
theorem dX1_count_107 : decode cX1_count 107 = .ok (.goto 78, 3) := dk_167 0 78 (dk_at dksX1_count_3 8 rfl rfl)
theorem dX1_count_110 : decode cX1_count 110 = .ok (.aload_n 2, 1) := dk_44 (dk_at dksX1_count_3 11 rfl rfl)
theorem dX1_count_111 : decode cX1_count 111 = .ok (.getfield 149, 3) := dk_180 0 149 (dk_at dksX1_count_3 12 rfl rfl)
theorem dX1_count_114 : decode cX1_count 114 = .ok (.goto 71, 3) := dk_167 0 71 (dk_at dksX1_count_3 15 rfl rfl)
theorem dX1_count_117 : decode cX1_count 117 = .ok (.aload_n 2, 1) := dk_44 (dk_at dksX1_count_3 18 rfl rfl)
theorem dX1_count_118 : decode cX1_count 118 = .ok (.invokevirtual 152, 3) := dk_182 0 152 (dk_at dksX1_count_3 19 rfl rfl)
theorem dX1_count_121 : decode cX1_count 121 = .ok (.goto 64, 3) := dk_167 0 64 (dk_at dksX1_count_4 0 rfl rfl)
theorem dX1_count_124 : decode cX1_count 124 = .ok (.aload_n 2, 1) := dk_44 (dk_at dksX1_count_4 3 rfl rfl)
theorem dX1_count_125 : decode cX1_count 125 = .ok (.invokevirtual 155, 3) := dk_182 0 155 (dk_at dksX1_count_4 4 rfl rfl)
theorem dX1_count_128 : decode cX1_count 128 = .ok (.goto 57, 3) := dk_167 0 57 (dk_at dksX1_count_4 7 rfl rfl)
theorem dX1_count_131 : decode cX1_count 131 = .ok (.aload_n 2, 1) := dk_44 (dk_at dksX1_count_4 10 rfl rfl)
theorem dX1_count_132 : decode cX1_count 132 = .ok (.invokevirtual 158, 3) := dk_182 0 158 (dk_at dksX1_count_4 11 rfl rfl)
theorem dX1_count_135 : decode cX1_count 135 = .ok (.invokevirtual 162, 3) := dk_182 0 162 (dk_at dksX1_count_4 14 rfl rfl)
theorem dX1_count_138 : decode cX1_count 138 = .ok (.goto 47, 3) := dk_167 0 47 (dk_at dksX1_count_4 17 rfl rfl)
theorem dX1_count_141 : decode cX1_count 141 = .ok (.aload_n 2, 1) := dk_44 (dk_at dksX1_count_4 20 rfl rfl)
theorem dX1_count_142 : decode cX1_count 142 = .ok (.getfield 167, 3) := dk_180 0 167 (dk_at dksX1_count_4 21 rfl rfl)
theorem dX1_count_145 : decode cX1_count 145 = .ok (.goto 40, 3) := dk_167 0 40 (dk_at dksX1_count_5 0 rfl rfl)
theorem dX1_count_148 : decode cX1_count 148 = .ok (.aload_n 2, 1) := dk_44 (dk_at dksX1_count_5 3 rfl rfl)
theorem dX1_count_149 : decode cX1_count 149 = .ok (.iload_n 1, 1) := dk_27 (dk_at dksX1_count_5 4 rfl rfl)
theorem dX1_count_150 : decode cX1_count 150 = .ok (.bipush 12, 2) := dk_16 12 (dk_at dksX1_count_5 5 rfl rfl)
theorem dX1_count_152 : decode cX1_count 152 = .ok (.if_icmp .ne 7, 3) := dk_160 0 7 (dk_at dksX1_count_5 7 rfl rfl)
theorem dX1_count_155 : decode cX1_count 155 = .ok (.iconst 1, 1) := dk_4 (dk_at dksX1_count_5 10 rfl rfl)
theorem dX1_count_156 : decode cX1_count 156 = .ok (.goto 4, 3) := dk_167 0 4 (dk_at dksX1_count_5 11 rfl rfl)
theorem dX1_count_159 : decode cX1_count 159 = .ok (.iconst 0, 1) := dk_3 (dk_at dksX1_count_5 14 rfl rfl)
theorem dX1_count_160 : decode cX1_count 160 = .ok (.invokestatic 170, 3) := dk_184 0 170 (dk_at dksX1_count_5 15 rfl rfl)
theorem dX1_count_163 : decode cX1_count 163 = .ok (.goto 22, 3) := dk_167 0 22 (dk_at dksX1_count_5 18 rfl rfl)
theorem dX1_count_166 : decode cX1_count 166 = .ok (.sipush 256, 3) := dk_17 1 0 (dk_at dksX1_count_5 21 rfl rfl)
theorem dX1_count_169 : decode cX1_count 169 = .ok (.aload_n 2, 1) := dk_44 (dk_at dksX1_count_6 0 rfl rfl)
theorem dX1_count_170 : decode cX1_count 170 = .ok (.getfield 101, 3) := dk_180 0 101 (dk_at dksX1_count_6 1 rfl rfl)
theorem dX1_count_173 : decode cX1_count 173 = .ok (.ishr, 1) := dk_122 (dk_at dksX1_count_6 4 rfl rfl)
theorem dX1_count_174 : decode cX1_count 174 = .ok (.goto 11, 3) := dk_167 0 11 (dk_at dksX1_count_6 5 rfl rfl)
theorem dX1_count_177 : decode cX1_count 177 = .ok (.new 55, 3) := dk_187 0 55 (dk_at dksX1_count_6 8 rfl rfl)
theorem dX1_count_180 : decode cX1_count 180 = .ok (.dup, 1) := dk_89 (dk_at dksX1_count_6 11 rfl rfl)
theorem dX1_count_181 : decode cX1_count 181 = .ok (.invokespecial 57, 3) := dk_183 0 57 (dk_at dksX1_count_6 12 rfl rfl)
theorem dX1_count_184 : decode cX1_count 184 = .ok (.athrow, 1) := dk_191 (dk_at dksX1_count_6 15 rfl rfl)
theorem dX1_count_185 : decode cX1_count 185 = .ok (.ireturn, 1) := dk_172 (dk_at dksX1_count_6 16 rfl rfl)
abbrev cX1_bodyOf : ByteArray := prog_1_method_13_code
def yX1_bodyOf : MethodName := ⟨RX1, "bodyOf", "(I)LMultipoleLine$Body;"⟩
def dkwX1_bodyOf_0 : List UInt8 := [27, 42, 182, 0, 76, 182, 0, 80, 184, 0, 84, 42, 180, 0, 68, 27, 182, 0, 88, 176]
abbrev dktX1_bodyOf_0 : List UInt8 := dkwX1_bodyOf_0 ++ []
theorem dksX1_bodyOf_0 : cX1_bodyOf.data.toList.drop 0 = dktX1_bodyOf_0 := by decide +kernel
theorem dX1_bodyOf_0 : decode cX1_bodyOf 0 = .ok (.iload_n 1, 1) := dk_27 (dk_at dksX1_bodyOf_0 0 rfl rfl)
theorem dX1_bodyOf_1 : decode cX1_bodyOf 1 = .ok (.aload_n 0, 1) := dk_42 (dk_at dksX1_bodyOf_0 1 rfl rfl)
theorem dX1_bodyOf_2 : decode cX1_bodyOf 2 = .ok (.invokevirtual 76, 3) := dk_182 0 76 (dk_at dksX1_bodyOf_0 2 rfl rfl)
theorem dX1_bodyOf_5 : decode cX1_bodyOf 5 = .ok (.invokevirtual 80, 3) := dk_182 0 80 (dk_at dksX1_bodyOf_0 5 rfl rfl)
theorem dX1_bodyOf_8 : decode cX1_bodyOf 8 = .ok (.invokestatic 84, 3) := dk_184 0 84 (dk_at dksX1_bodyOf_0 8 rfl rfl)
theorem dX1_bodyOf_11 : decode cX1_bodyOf 11 = .ok (.aload_n 0, 1) := dk_42 (dk_at dksX1_bodyOf_0 11 rfl rfl)
theorem dX1_bodyOf_12 : decode cX1_bodyOf 12 = .ok (.getfield 68, 3) := dk_180 0 68 (dk_at dksX1_bodyOf_0 12 rfl rfl)
theorem dX1_bodyOf_15 : decode cX1_bodyOf 15 = .ok (.iload_n 1, 1) := dk_27 (dk_at dksX1_bodyOf_0 15 rfl rfl)
theorem dX1_bodyOf_16 : decode cX1_bodyOf 16 = .ok (.invokevirtual 88, 3) := dk_182 0 88 (dk_at dksX1_bodyOf_0 16 rfl rfl)
theorem dX1_bodyOf_19 : decode cX1_bodyOf 19 = .ok (.areturn, 1) := dk_176 (dk_at dksX1_bodyOf_0 19 rfl rfl)
abbrev cX1_body_2 : ByteArray := prog_1_method_26_code
def yX1_body_2 : MethodName := ⟨RX1, "body", "(II)I"⟩
def dkwX1_body_2_4 : List UInt8 := [167, 0, 11, 187, 0, 55, 89, 183, 0, 57, 191, 172]
abbrev dktX1_body_2_4 : List UInt8 := dkwX1_body_2_4 ++ []
def dkwX1_body_2_3 : List UInt8 := [167, 0, 35, 42, 180, 0, 68, 45, 180, 0, 139, 182, 0, 184, 180, 0, 188, 167, 0, 18, 45, 180, 0, 192]
abbrev dktX1_body_2_3 : List UInt8 := dkwX1_body_2_3 ++ dktX1_body_2_4
def dkwX1_body_2_2 : List UInt8 := [45, 180, 0, 139, 167, 0, 54, 45, 180, 0, 177, 167, 0, 47, 4, 45, 180, 0, 18, 184, 0, 180, 100]
abbrev dktX1_body_2_2 : List UInt8 := dkwX1_body_2_2 ++ dktX1_body_2_3
def dkwX1_body_2_1 : List UInt8 := [170, 0, 0, 0, 83, 0, 0, 0, 0, 0, 0, 0, 4, 0, 0, 0, 33, 0, 0, 0, 40, 0, 0, 0, 47, 0, 0, 0, 59, 0, 0, 0, 76]
abbrev dktX1_body_2_1 : List UInt8 := dkwX1_body_2_1 ++ dktX1_body_2_2
def dkwX1_body_2_0 : List UInt8 := [42, 27, 182, 0, 174, 78, 28]
abbrev dktX1_body_2_0 : List UInt8 := dkwX1_body_2_0 ++ dktX1_body_2_1
theorem dksX1_body_2_0 : cX1_body_2.data.toList.drop 0 = dktX1_body_2_0 := by decide +kernel
theorem dksX1_body_2_1 : cX1_body_2.data.toList.drop 7 = dktX1_body_2_1 := dk_seg dksX1_body_2_0 7 rfl rfl
theorem dksX1_body_2_2 : cX1_body_2.data.toList.drop 40 = dktX1_body_2_2 := dk_seg dksX1_body_2_1 33 rfl rfl
theorem dksX1_body_2_3 : cX1_body_2.data.toList.drop 63 = dktX1_body_2_3 := dk_seg dksX1_body_2_2 23 rfl rfl
theorem dksX1_body_2_4 : cX1_body_2.data.toList.drop 87 = dktX1_body_2_4 := dk_seg dksX1_body_2_3 24 rfl rfl
theorem dX1_body_2_0 : decode cX1_body_2 0 = .ok (.aload_n 0, 1) := dk_42 (dk_at dksX1_body_2_0 0 rfl rfl)
theorem dX1_body_2_1 : decode cX1_body_2 1 = .ok (.iload_n 1, 1) := dk_27 (dk_at dksX1_body_2_0 1 rfl rfl)
theorem dX1_body_2_2 : decode cX1_body_2 2 = .ok (.invokevirtual 174, 3) := dk_182 0 174 (dk_at dksX1_body_2_0 2 rfl rfl)
theorem dX1_body_2_5 : decode cX1_body_2 5 = .ok (.astore_n 3, 1) := dk_78 (dk_at dksX1_body_2_0 5 rfl rfl)
theorem dX1_body_2_6 : decode cX1_body_2 6 = .ok (.iload_n 2, 1) := dk_28 (dk_at dksX1_body_2_0 6 rfl rfl)
theorem dX1_body_2_7 : decode cX1_body_2 7 = .ok (.tableswitch 83 0 4 #[33, 40, 47, 59, 76], 33) := by decide +kernel
theorem dX1_body_2_40 : decode cX1_body_2 40 = .ok (.aload_n 3, 1) := dk_45 (dk_at dksX1_body_2_2 0 rfl rfl)
theorem dX1_body_2_41 : decode cX1_body_2 41 = .ok (.getfield 139, 3) := dk_180 0 139 (dk_at dksX1_body_2_2 1 rfl rfl)
theorem dX1_body_2_44 : decode cX1_body_2 44 = .ok (.goto 54, 3) := dk_167 0 54 (dk_at dksX1_body_2_2 4 rfl rfl)
theorem dX1_body_2_47 : decode cX1_body_2 47 = .ok (.aload_n 3, 1) := dk_45 (dk_at dksX1_body_2_2 7 rfl rfl)
theorem dX1_body_2_48 : decode cX1_body_2 48 = .ok (.getfield 177, 3) := dk_180 0 177 (dk_at dksX1_body_2_2 8 rfl rfl)
theorem dX1_body_2_51 : decode cX1_body_2 51 = .ok (.goto 47, 3) := dk_167 0 47 (dk_at dksX1_body_2_2 11 rfl rfl)
theorem dX1_body_2_54 : decode cX1_body_2 54 = .ok (.iconst 1, 1) := dk_4 (dk_at dksX1_body_2_2 14 rfl rfl)
theorem dX1_body_2_55 : decode cX1_body_2 55 = .ok (.aload_n 3, 1) := dk_45 (dk_at dksX1_body_2_2 15 rfl rfl)
theorem dX1_body_2_56 : decode cX1_body_2 56 = .ok (.getfield 18, 3) := dk_180 0 18 (dk_at dksX1_body_2_2 16 rfl rfl)
theorem dX1_body_2_59 : decode cX1_body_2 59 = .ok (.invokestatic 180, 3) := dk_184 0 180 (dk_at dksX1_body_2_2 19 rfl rfl)
theorem dX1_body_2_62 : decode cX1_body_2 62 = .ok (.isub, 1) := dk_100 (dk_at dksX1_body_2_2 22 rfl rfl)
theorem dX1_body_2_63 : decode cX1_body_2 63 = .ok (.goto 35, 3) := dk_167 0 35 (dk_at dksX1_body_2_3 0 rfl rfl)
theorem dX1_body_2_66 : decode cX1_body_2 66 = .ok (.aload_n 0, 1) := dk_42 (dk_at dksX1_body_2_3 3 rfl rfl)
theorem dX1_body_2_67 : decode cX1_body_2 67 = .ok (.getfield 68, 3) := dk_180 0 68 (dk_at dksX1_body_2_3 4 rfl rfl)
theorem dX1_body_2_70 : decode cX1_body_2 70 = .ok (.aload_n 3, 1) := dk_45 (dk_at dksX1_body_2_3 7 rfl rfl)
theorem dX1_body_2_71 : decode cX1_body_2 71 = .ok (.getfield 139, 3) := dk_180 0 139 (dk_at dksX1_body_2_3 8 rfl rfl)
theorem dX1_body_2_74 : decode cX1_body_2 74 = .ok (.invokevirtual 184, 3) := dk_182 0 184 (dk_at dksX1_body_2_3 11 rfl rfl)
theorem dX1_body_2_77 : decode cX1_body_2 77 = .ok (.getfield 188, 3) := dk_180 0 188 (dk_at dksX1_body_2_3 14 rfl rfl)
theorem dX1_body_2_80 : decode cX1_body_2 80 = .ok (.goto 18, 3) := dk_167 0 18 (dk_at dksX1_body_2_3 17 rfl rfl)
theorem dX1_body_2_83 : decode cX1_body_2 83 = .ok (.aload_n 3, 1) := dk_45 (dk_at dksX1_body_2_3 20 rfl rfl)
theorem dX1_body_2_84 : decode cX1_body_2 84 = .ok (.getfield 192, 3) := dk_180 0 192 (dk_at dksX1_body_2_3 21 rfl rfl)
theorem dX1_body_2_87 : decode cX1_body_2 87 = .ok (.goto 11, 3) := dk_167 0 11 (dk_at dksX1_body_2_4 0 rfl rfl)
theorem dX1_body_2_90 : decode cX1_body_2 90 = .ok (.new 55, 3) := dk_187 0 55 (dk_at dksX1_body_2_4 3 rfl rfl)
theorem dX1_body_2_93 : decode cX1_body_2 93 = .ok (.dup, 1) := dk_89 (dk_at dksX1_body_2_4 6 rfl rfl)
theorem dX1_body_2_94 : decode cX1_body_2 94 = .ok (.invokespecial 57, 3) := dk_183 0 57 (dk_at dksX1_body_2_4 7 rfl rfl)
theorem dX1_body_2_97 : decode cX1_body_2 97 = .ok (.athrow, 1) := dk_191 (dk_at dksX1_body_2_4 10 rfl rfl)
theorem dX1_body_2_98 : decode cX1_body_2 98 = .ok (.ireturn, 1) := dk_172 (dk_at dksX1_body_2_4 11 rfl rfl)
abbrev cX1_isPoint : ByteArray := prog_1_method_14_code
def yX1_isPoint : MethodName := ⟨RX1, "isPoint", "(I)Z"⟩
def dkwX1_isPoint_0 : List UInt8 := [26, 133, 9, 20, 0, 92, 184, 0, 58, 172]
abbrev dktX1_isPoint_0 : List UInt8 := dkwX1_isPoint_0 ++ []
theorem dksX1_isPoint_0 : cX1_isPoint.data.toList.drop 0 = dktX1_isPoint_0 := by decide +kernel
theorem dX1_isPoint_0 : decode cX1_isPoint 0 = .ok (.iload_n 0, 1) := dk_26 (dk_at dksX1_isPoint_0 0 rfl rfl)
theorem dX1_isPoint_1 : decode cX1_isPoint 1 = .ok (.i2l, 1) := dk_133 (dk_at dksX1_isPoint_0 1 rfl rfl)
theorem dX1_isPoint_2 : decode cX1_isPoint 2 = .ok (.lconst 0, 1) := dk_9 (dk_at dksX1_isPoint_0 2 rfl rfl)
theorem dX1_isPoint_3 : decode cX1_isPoint 3 = .ok (.ldc2_w 92, 3) := dk_20 0 92 (dk_at dksX1_isPoint_0 3 rfl rfl)
theorem dX1_isPoint_6 : decode cX1_isPoint 6 = .ok (.invokestatic 58, 3) := dk_184 0 58 (dk_at dksX1_isPoint_0 6 rfl rfl)
theorem dX1_isPoint_9 : decode cX1_isPoint 9 = .ok (.ireturn, 1) := dk_172 (dk_at dksX1_isPoint_0 9 rfl rfl)
abbrev cX1_checkArgument : ByteArray := prog_1_method_9_code
def yX1_checkArgument : MethodName := ⟨RX1, "checkArgument", "(Z)V"⟩
def dkwX1_checkArgument_0 : List UInt8 := [26, 154, 0, 11, 187, 0, 55, 89, 183, 0, 57, 191, 177]
abbrev dktX1_checkArgument_0 : List UInt8 := dkwX1_checkArgument_0 ++ []
theorem dksX1_checkArgument_0 : cX1_checkArgument.data.toList.drop 0 = dktX1_checkArgument_0 := by decide +kernel
theorem dX1_checkArgument_0 : decode cX1_checkArgument 0 = .ok (.iload_n 0, 1) := dk_26 (dk_at dksX1_checkArgument_0 0 rfl rfl)
theorem dX1_checkArgument_1 : decode cX1_checkArgument 1 = .ok (.ifCond .ne 11, 3) := dk_154 0 11 (dk_at dksX1_checkArgument_0 1 rfl rfl)
theorem dX1_checkArgument_4 : decode cX1_checkArgument 4 = .ok (.new 55, 3) := dk_187 0 55 (dk_at dksX1_checkArgument_0 4 rfl rfl)
theorem dX1_checkArgument_7 : decode cX1_checkArgument 7 = .ok (.dup, 1) := dk_89 (dk_at dksX1_checkArgument_0 7 rfl rfl)
theorem dX1_checkArgument_8 : decode cX1_checkArgument 8 = .ok (.invokespecial 57, 3) := dk_183 0 57 (dk_at dksX1_checkArgument_0 8 rfl rfl)
theorem dX1_checkArgument_11 : decode cX1_checkArgument 11 = .ok (.athrow, 1) := dk_191 (dk_at dksX1_checkArgument_0 11 rfl rfl)
theorem dX1_checkArgument_12 : decode cX1_checkArgument 12 = .ok (.return_, 1) := dk_177 (dk_at dksX1_checkArgument_0 12 rfl rfl)
abbrev cX1_at : ByteArray := prog_1_method_15_code
def yX1_at : MethodName := ⟨RX1, "at", "(I)LMultipoleLine$Line;"⟩
def dkwX1_at_0 : List UInt8 := [42, 182, 0, 76, 77, 27, 184, 0, 94, 184, 0, 98, 44, 176]
abbrev dktX1_at_0 : List UInt8 := dkwX1_at_0 ++ []
theorem dksX1_at_0 : cX1_at.data.toList.drop 0 = dktX1_at_0 := by decide +kernel
theorem dX1_at_0 : decode cX1_at 0 = .ok (.aload_n 0, 1) := dk_42 (dk_at dksX1_at_0 0 rfl rfl)
theorem dX1_at_1 : decode cX1_at 1 = .ok (.invokevirtual 76, 3) := dk_182 0 76 (dk_at dksX1_at_0 1 rfl rfl)
theorem dX1_at_4 : decode cX1_at 4 = .ok (.astore_n 2, 1) := dk_77 (dk_at dksX1_at_0 4 rfl rfl)
theorem dX1_at_5 : decode cX1_at 5 = .ok (.iload_n 1, 1) := dk_27 (dk_at dksX1_at_0 5 rfl rfl)
theorem dX1_at_6 : decode cX1_at 6 = .ok (.invokestatic 94, 3) := dk_184 0 94 (dk_at dksX1_at_0 6 rfl rfl)
theorem dX1_at_9 : decode cX1_at 9 = .ok (.invokestatic 98, 3) := dk_184 0 98 (dk_at dksX1_at_0 9 rfl rfl)
theorem dX1_at_12 : decode cX1_at 12 = .ok (.aload_n 2, 1) := dk_44 (dk_at dksX1_at_0 12 rfl rfl)
theorem dX1_at_13 : decode cX1_at 13 = .ok (.areturn, 1) := dk_176 (dk_at dksX1_at_0 13 rfl rfl)
abbrev cX1_bodyAt : ByteArray := prog_1_method_27_code
def yX1_bodyAt : MethodName := ⟨RX1, "bodyAt", "(I)I"⟩
def dkwX1_bodyAt_1 : List UInt8 := [27, 160, 0, 5, 29, 172, 132, 3, 1, 167, 255, 231, 2, 172]
abbrev dktX1_bodyAt_1 : List UInt8 := dkwX1_bodyAt_1 ++ []
def dkwX1_bodyAt_0 : List UInt8 := [42, 27, 182, 0, 193, 77, 3, 62, 29, 44, 182, 0, 80, 162, 0, 23, 44, 29, 182, 0, 88, 180, 0, 139]
abbrev dktX1_bodyAt_0 : List UInt8 := dkwX1_bodyAt_0 ++ dktX1_bodyAt_1
theorem dksX1_bodyAt_0 : cX1_bodyAt.data.toList.drop 0 = dktX1_bodyAt_0 := by decide +kernel
theorem dksX1_bodyAt_1 : cX1_bodyAt.data.toList.drop 24 = dktX1_bodyAt_1 := dk_seg dksX1_bodyAt_0 24 rfl rfl
theorem dX1_bodyAt_0 : decode cX1_bodyAt 0 = .ok (.aload_n 0, 1) := dk_42 (dk_at dksX1_bodyAt_0 0 rfl rfl)
theorem dX1_bodyAt_1 : decode cX1_bodyAt 1 = .ok (.iload_n 1, 1) := dk_27 (dk_at dksX1_bodyAt_0 1 rfl rfl)
theorem dX1_bodyAt_2 : decode cX1_bodyAt 2 = .ok (.invokevirtual 193, 3) := dk_182 0 193 (dk_at dksX1_bodyAt_0 2 rfl rfl)
theorem dX1_bodyAt_5 : decode cX1_bodyAt 5 = .ok (.astore_n 2, 1) := dk_77 (dk_at dksX1_bodyAt_0 5 rfl rfl)
theorem dX1_bodyAt_6 : decode cX1_bodyAt 6 = .ok (.iconst 0, 1) := dk_3 (dk_at dksX1_bodyAt_0 6 rfl rfl)
theorem dX1_bodyAt_7 : decode cX1_bodyAt 7 = .ok (.istore_n 3, 1) := dk_62 (dk_at dksX1_bodyAt_0 7 rfl rfl)
theorem dX1_bodyAt_8 : decode cX1_bodyAt 8 = .ok (.iload_n 3, 1) := dk_29 (dk_at dksX1_bodyAt_0 8 rfl rfl)
theorem dX1_bodyAt_9 : decode cX1_bodyAt 9 = .ok (.aload_n 2, 1) := dk_44 (dk_at dksX1_bodyAt_0 9 rfl rfl)
theorem dX1_bodyAt_10 : decode cX1_bodyAt 10 = .ok (.invokevirtual 80, 3) := dk_182 0 80 (dk_at dksX1_bodyAt_0 10 rfl rfl)
theorem dX1_bodyAt_13 : decode cX1_bodyAt 13 = .ok (.if_icmp .ge 23, 3) := dk_162 0 23 (dk_at dksX1_bodyAt_0 13 rfl rfl)
theorem dX1_bodyAt_16 : decode cX1_bodyAt 16 = .ok (.aload_n 2, 1) := dk_44 (dk_at dksX1_bodyAt_0 16 rfl rfl)
theorem dX1_bodyAt_17 : decode cX1_bodyAt 17 = .ok (.iload_n 3, 1) := dk_29 (dk_at dksX1_bodyAt_0 17 rfl rfl)
theorem dX1_bodyAt_18 : decode cX1_bodyAt 18 = .ok (.invokevirtual 88, 3) := dk_182 0 88 (dk_at dksX1_bodyAt_0 18 rfl rfl)
theorem dX1_bodyAt_21 : decode cX1_bodyAt 21 = .ok (.getfield 139, 3) := dk_180 0 139 (dk_at dksX1_bodyAt_0 21 rfl rfl)
theorem dX1_bodyAt_24 : decode cX1_bodyAt 24 = .ok (.iload_n 1, 1) := dk_27 (dk_at dksX1_bodyAt_1 0 rfl rfl)
theorem dX1_bodyAt_25 : decode cX1_bodyAt 25 = .ok (.if_icmp .ne 5, 3) := dk_160 0 5 (dk_at dksX1_bodyAt_1 1 rfl rfl)
theorem dX1_bodyAt_28 : decode cX1_bodyAt 28 = .ok (.iload_n 3, 1) := dk_29 (dk_at dksX1_bodyAt_1 4 rfl rfl)
theorem dX1_bodyAt_29 : decode cX1_bodyAt 29 = .ok (.ireturn, 1) := dk_172 (dk_at dksX1_bodyAt_1 5 rfl rfl)
theorem dX1_bodyAt_30 : decode cX1_bodyAt 30 = .ok (.iinc 3 1, 3) := dk_132 3 1 (dk_at dksX1_bodyAt_1 6 rfl rfl)
theorem dX1_bodyAt_33 : decode cX1_bodyAt 33 = .ok (.goto (-25), 3) := dk_167 255 231 (dk_at dksX1_bodyAt_1 9 rfl rfl)
theorem dX1_bodyAt_36 : decode cX1_bodyAt 36 = .ok (.iconst (-1), 1) := dk_2 (dk_at dksX1_bodyAt_1 12 rfl rfl)
theorem dX1_bodyAt_37 : decode cX1_bodyAt 37 = .ok (.ireturn, 1) := dk_172 (dk_at dksX1_bodyAt_1 13 rfl rfl)
abbrev cX4_box : ByteArray := prog_7_method_9_code
def yX4_box : MethodName := ⟨RX4, "box", "(II)LMultipoleLine$Box;"⟩
def dkwX4_box_0 : List UInt8 := [42, 180, 0, 20, 27, 50, 28, 50, 176]
abbrev dktX4_box_0 : List UInt8 := dkwX4_box_0 ++ []
theorem dksX4_box_0 : cX4_box.data.toList.drop 0 = dktX4_box_0 := by decide +kernel
theorem dX4_box_0 : decode cX4_box 0 = .ok (.aload_n 0, 1) := dk_42 (dk_at dksX4_box_0 0 rfl rfl)
theorem dX4_box_1 : decode cX4_box 1 = .ok (.getfield 20, 3) := dk_180 0 20 (dk_at dksX4_box_0 1 rfl rfl)
theorem dX4_box_4 : decode cX4_box 4 = .ok (.iload_n 1, 1) := dk_27 (dk_at dksX4_box_0 4 rfl rfl)
theorem dX4_box_5 : decode cX4_box 5 = .ok (.aaload, 1) := dk_50 (dk_at dksX4_box_0 5 rfl rfl)
theorem dX4_box_6 : decode cX4_box 6 = .ok (.iload_n 2, 1) := dk_28 (dk_at dksX4_box_0 6 rfl rfl)
theorem dX4_box_7 : decode cX4_box 7 = .ok (.aaload, 1) := dk_50 (dk_at dksX4_box_0 7 rfl rfl)
theorem dX4_box_8 : decode cX4_box 8 = .ok (.areturn, 1) := dk_176 (dk_at dksX4_box_0 8 rfl rfl)
abbrev cX1_boxOf : ByteArray := prog_1_method_16_code
def yX1_boxOf : MethodName := ⟨RX1, "boxOf", "(II)LMultipoleLine$Box;"⟩
def dkwX1_boxOf_1 : List UInt8 := [27, 28, 182, 0, 104, 176]
abbrev dktX1_boxOf_1 : List UInt8 := dkwX1_boxOf_1 ++ []
def dkwX1_boxOf_0 : List UInt8 := [27, 42, 182, 0, 76, 180, 0, 101, 4, 96, 184, 0, 84, 28, 4, 27, 120, 184, 0, 84, 42, 180, 0, 68]
abbrev dktX1_boxOf_0 : List UInt8 := dkwX1_boxOf_0 ++ dktX1_boxOf_1
theorem dksX1_boxOf_0 : cX1_boxOf.data.toList.drop 0 = dktX1_boxOf_0 := by decide +kernel
theorem dksX1_boxOf_1 : cX1_boxOf.data.toList.drop 24 = dktX1_boxOf_1 := dk_seg dksX1_boxOf_0 24 rfl rfl
theorem dX1_boxOf_0 : decode cX1_boxOf 0 = .ok (.iload_n 1, 1) := dk_27 (dk_at dksX1_boxOf_0 0 rfl rfl)
theorem dX1_boxOf_1 : decode cX1_boxOf 1 = .ok (.aload_n 0, 1) := dk_42 (dk_at dksX1_boxOf_0 1 rfl rfl)
theorem dX1_boxOf_2 : decode cX1_boxOf 2 = .ok (.invokevirtual 76, 3) := dk_182 0 76 (dk_at dksX1_boxOf_0 2 rfl rfl)
theorem dX1_boxOf_5 : decode cX1_boxOf 5 = .ok (.getfield 101, 3) := dk_180 0 101 (dk_at dksX1_boxOf_0 5 rfl rfl)
theorem dX1_boxOf_8 : decode cX1_boxOf 8 = .ok (.iconst 1, 1) := dk_4 (dk_at dksX1_boxOf_0 8 rfl rfl)
theorem dX1_boxOf_9 : decode cX1_boxOf 9 = .ok (.iadd, 1) := dk_96 (dk_at dksX1_boxOf_0 9 rfl rfl)
theorem dX1_boxOf_10 : decode cX1_boxOf 10 = .ok (.invokestatic 84, 3) := dk_184 0 84 (dk_at dksX1_boxOf_0 10 rfl rfl)
theorem dX1_boxOf_13 : decode cX1_boxOf 13 = .ok (.iload_n 2, 1) := dk_28 (dk_at dksX1_boxOf_0 13 rfl rfl)
theorem dX1_boxOf_14 : decode cX1_boxOf 14 = .ok (.iconst 1, 1) := dk_4 (dk_at dksX1_boxOf_0 14 rfl rfl)
theorem dX1_boxOf_15 : decode cX1_boxOf 15 = .ok (.iload_n 1, 1) := dk_27 (dk_at dksX1_boxOf_0 15 rfl rfl)
theorem dX1_boxOf_16 : decode cX1_boxOf 16 = .ok (.ishl, 1) := dk_120 (dk_at dksX1_boxOf_0 16 rfl rfl)
theorem dX1_boxOf_17 : decode cX1_boxOf 17 = .ok (.invokestatic 84, 3) := dk_184 0 84 (dk_at dksX1_boxOf_0 17 rfl rfl)
theorem dX1_boxOf_20 : decode cX1_boxOf 20 = .ok (.aload_n 0, 1) := dk_42 (dk_at dksX1_boxOf_0 20 rfl rfl)
theorem dX1_boxOf_21 : decode cX1_boxOf 21 = .ok (.getfield 68, 3) := dk_180 0 68 (dk_at dksX1_boxOf_0 21 rfl rfl)
theorem dX1_boxOf_24 : decode cX1_boxOf 24 = .ok (.iload_n 1, 1) := dk_27 (dk_at dksX1_boxOf_1 0 rfl rfl)
theorem dX1_boxOf_25 : decode cX1_boxOf 25 = .ok (.iload_n 2, 1) := dk_28 (dk_at dksX1_boxOf_1 1 rfl rfl)
theorem dX1_boxOf_26 : decode cX1_boxOf 26 = .ok (.invokevirtual 104, 3) := dk_182 0 104 (dk_at dksX1_boxOf_1 2 rfl rfl)
theorem dX1_boxOf_29 : decode cX1_boxOf 29 = .ok (.areturn, 1) := dk_176 (dk_at dksX1_boxOf_1 5 rfl rfl)
abbrev cX5_first : ByteArray := prog_3_method_2_code
def yX5_first : MethodName := ⟨RX5, "first", "()I"⟩
def dkwX5_first_0 : List UInt8 := [42, 180, 0, 15, 42, 180, 0, 18, 104, 172]
abbrev dktX5_first_0 : List UInt8 := dkwX5_first_0 ++ []
theorem dksX5_first_0 : cX5_first.data.toList.drop 0 = dktX5_first_0 := by decide +kernel
theorem dX5_first_0 : decode cX5_first 0 = .ok (.aload_n 0, 1) := dk_42 (dk_at dksX5_first_0 0 rfl rfl)
theorem dX5_first_1 : decode cX5_first 1 = .ok (.getfield 15, 3) := dk_180 0 15 (dk_at dksX5_first_0 1 rfl rfl)
theorem dX5_first_4 : decode cX5_first 4 = .ok (.aload_n 0, 1) := dk_42 (dk_at dksX5_first_0 4 rfl rfl)
theorem dX5_first_5 : decode cX5_first 5 = .ok (.getfield 18, 3) := dk_180 0 18 (dk_at dksX5_first_0 5 rfl rfl)
theorem dX5_first_8 : decode cX5_first 8 = .ok (.imul, 1) := dk_104 (dk_at dksX5_first_0 8 rfl rfl)
theorem dX5_first_9 : decode cX5_first 9 = .ok (.ireturn, 1) := dk_172 (dk_at dksX5_first_0 9 rfl rfl)
abbrev cX5_has : ByteArray := prog_3_method_3_code
def yX5_has : MethodName := ⟨RX5, "has", "(I)Z"⟩
def dkwX5_has_0 : List UInt8 := [27, 42, 180, 0, 18, 108, 42, 180, 0, 15, 160, 0, 7, 4, 167, 0, 4, 3, 172]
abbrev dktX5_has_0 : List UInt8 := dkwX5_has_0 ++ []
theorem dksX5_has_0 : cX5_has.data.toList.drop 0 = dktX5_has_0 := by decide +kernel
theorem dX5_has_0 : decode cX5_has 0 = .ok (.iload_n 1, 1) := dk_27 (dk_at dksX5_has_0 0 rfl rfl)
theorem dX5_has_1 : decode cX5_has 1 = .ok (.aload_n 0, 1) := dk_42 (dk_at dksX5_has_0 1 rfl rfl)
theorem dX5_has_2 : decode cX5_has 2 = .ok (.getfield 18, 3) := dk_180 0 18 (dk_at dksX5_has_0 2 rfl rfl)
theorem dX5_has_5 : decode cX5_has 5 = .ok (.idiv, 1) := dk_108 (dk_at dksX5_has_0 5 rfl rfl)
theorem dX5_has_6 : decode cX5_has 6 = .ok (.aload_n 0, 1) := dk_42 (dk_at dksX5_has_0 6 rfl rfl)
theorem dX5_has_7 : decode cX5_has 7 = .ok (.getfield 15, 3) := dk_180 0 15 (dk_at dksX5_has_0 7 rfl rfl)
theorem dX5_has_10 : decode cX5_has 10 = .ok (.if_icmp .ne 7, 3) := dk_160 0 7 (dk_at dksX5_has_0 10 rfl rfl)
theorem dX5_has_13 : decode cX5_has 13 = .ok (.iconst 1, 1) := dk_4 (dk_at dksX5_has_0 13 rfl rfl)
theorem dX5_has_14 : decode cX5_has 14 = .ok (.goto 4, 3) := dk_167 0 4 (dk_at dksX5_has_0 14 rfl rfl)
theorem dX5_has_17 : decode cX5_has 17 = .ok (.iconst 0, 1) := dk_3 (dk_at dksX5_has_0 17 rfl rfl)
theorem dX5_has_18 : decode cX5_has 18 = .ok (.ireturn, 1) := dk_172 (dk_at dksX5_has_0 18 rfl rfl)
abbrev cX4_bodiesIn : ByteArray := prog_7_method_12_code
def yX4_bodiesIn : MethodName := ⟨RX4, "bodiesIn", "(LMultipoleLine$Box;)I"⟩
def dkwX4_bodiesIn_1 : List UInt8 := [182, 0, 102, 184, 0, 82, 96, 61, 132, 3, 1, 167, 255, 227, 28, 172]
abbrev dktX4_bodiesIn_1 : List UInt8 := dkwX4_bodiesIn_1 ++ []
def dkwX4_bodiesIn_0 : List UInt8 := [3, 61, 3, 62, 29, 42, 182, 0, 37, 162, 0, 27, 28, 43, 42, 29, 182, 0, 41, 180, 0, 86]
abbrev dktX4_bodiesIn_0 : List UInt8 := dkwX4_bodiesIn_0 ++ dktX4_bodiesIn_1
theorem dksX4_bodiesIn_0 : cX4_bodiesIn.data.toList.drop 0 = dktX4_bodiesIn_0 := by decide +kernel
theorem dksX4_bodiesIn_1 : cX4_bodiesIn.data.toList.drop 22 = dktX4_bodiesIn_1 := dk_seg dksX4_bodiesIn_0 22 rfl rfl
theorem dX4_bodiesIn_0 : decode cX4_bodiesIn 0 = .ok (.iconst 0, 1) := dk_3 (dk_at dksX4_bodiesIn_0 0 rfl rfl)
theorem dX4_bodiesIn_1 : decode cX4_bodiesIn 1 = .ok (.istore_n 2, 1) := dk_61 (dk_at dksX4_bodiesIn_0 1 rfl rfl)
theorem dX4_bodiesIn_2 : decode cX4_bodiesIn 2 = .ok (.iconst 0, 1) := dk_3 (dk_at dksX4_bodiesIn_0 2 rfl rfl)
theorem dX4_bodiesIn_3 : decode cX4_bodiesIn 3 = .ok (.istore_n 3, 1) := dk_62 (dk_at dksX4_bodiesIn_0 3 rfl rfl)
theorem dX4_bodiesIn_4 : decode cX4_bodiesIn 4 = .ok (.iload_n 3, 1) := dk_29 (dk_at dksX4_bodiesIn_0 4 rfl rfl)
theorem dX4_bodiesIn_5 : decode cX4_bodiesIn 5 = .ok (.aload_n 0, 1) := dk_42 (dk_at dksX4_bodiesIn_0 5 rfl rfl)
theorem dX4_bodiesIn_6 : decode cX4_bodiesIn 6 = .ok (.invokevirtual 37, 3) := dk_182 0 37 (dk_at dksX4_bodiesIn_0 6 rfl rfl)
theorem dX4_bodiesIn_9 : decode cX4_bodiesIn 9 = .ok (.if_icmp .ge 27, 3) := dk_162 0 27 (dk_at dksX4_bodiesIn_0 9 rfl rfl)
theorem dX4_bodiesIn_12 : decode cX4_bodiesIn 12 = .ok (.iload_n 2, 1) := dk_28 (dk_at dksX4_bodiesIn_0 12 rfl rfl)
theorem dX4_bodiesIn_13 : decode cX4_bodiesIn 13 = .ok (.aload_n 1, 1) := dk_43 (dk_at dksX4_bodiesIn_0 13 rfl rfl)
theorem dX4_bodiesIn_14 : decode cX4_bodiesIn 14 = .ok (.aload_n 0, 1) := dk_42 (dk_at dksX4_bodiesIn_0 14 rfl rfl)
theorem dX4_bodiesIn_15 : decode cX4_bodiesIn 15 = .ok (.iload_n 3, 1) := dk_29 (dk_at dksX4_bodiesIn_0 15 rfl rfl)
theorem dX4_bodiesIn_16 : decode cX4_bodiesIn 16 = .ok (.invokevirtual 41, 3) := dk_182 0 41 (dk_at dksX4_bodiesIn_0 16 rfl rfl)
theorem dX4_bodiesIn_19 : decode cX4_bodiesIn 19 = .ok (.getfield 86, 3) := dk_180 0 86 (dk_at dksX4_bodiesIn_0 19 rfl rfl)
theorem dX4_bodiesIn_22 : decode cX4_bodiesIn 22 = .ok (.invokevirtual 102, 3) := dk_182 0 102 (dk_at dksX4_bodiesIn_1 0 rfl rfl)
theorem dX4_bodiesIn_25 : decode cX4_bodiesIn 25 = .ok (.invokestatic 82, 3) := dk_184 0 82 (dk_at dksX4_bodiesIn_1 3 rfl rfl)
theorem dX4_bodiesIn_28 : decode cX4_bodiesIn 28 = .ok (.iadd, 1) := dk_96 (dk_at dksX4_bodiesIn_1 6 rfl rfl)
theorem dX4_bodiesIn_29 : decode cX4_bodiesIn 29 = .ok (.istore_n 2, 1) := dk_61 (dk_at dksX4_bodiesIn_1 7 rfl rfl)
theorem dX4_bodiesIn_30 : decode cX4_bodiesIn 30 = .ok (.iinc 3 1, 3) := dk_132 3 1 (dk_at dksX4_bodiesIn_1 8 rfl rfl)
theorem dX4_bodiesIn_33 : decode cX4_bodiesIn 33 = .ok (.goto (-29), 3) := dk_167 255 227 (dk_at dksX4_bodiesIn_1 11 rfl rfl)
theorem dX4_bodiesIn_36 : decode cX4_bodiesIn 36 = .ok (.iload_n 2, 1) := dk_28 (dk_at dksX4_bodiesIn_1 14 rfl rfl)
theorem dX4_bodiesIn_37 : decode cX4_bodiesIn 37 = .ok (.ireturn, 1) := dk_172 (dk_at dksX4_bodiesIn_1 15 rfl rfl)
abbrev cX4_raised : ByteArray := prog_7_method_16_code
def yX4_raised : MethodName := ⟨RX4, "raised", "(JI)J"⟩
def dkwX4_raised_0 : List UInt8 := [10, 66, 3, 54, 5, 21, 5, 28, 162, 0, 13, 33, 30, 105, 66, 132, 5, 1, 167, 255, 243, 33, 173]
abbrev dktX4_raised_0 : List UInt8 := dkwX4_raised_0 ++ []
theorem dksX4_raised_0 : cX4_raised.data.toList.drop 0 = dktX4_raised_0 := by decide +kernel
theorem dX4_raised_0 : decode cX4_raised 0 = .ok (.lconst 1, 1) := dk_10 (dk_at dksX4_raised_0 0 rfl rfl)
theorem dX4_raised_1 : decode cX4_raised 1 = .ok (.lstore_n 3, 1) := dk_66 (dk_at dksX4_raised_0 1 rfl rfl)
theorem dX4_raised_2 : decode cX4_raised 2 = .ok (.iconst 0, 1) := dk_3 (dk_at dksX4_raised_0 2 rfl rfl)
theorem dX4_raised_3 : decode cX4_raised 3 = .ok (.istore 5, 2) := dk_54 5 (dk_at dksX4_raised_0 3 rfl rfl)
theorem dX4_raised_5 : decode cX4_raised 5 = .ok (.iload 5, 2) := dk_21 5 (dk_at dksX4_raised_0 5 rfl rfl)
theorem dX4_raised_7 : decode cX4_raised 7 = .ok (.iload_n 2, 1) := dk_28 (dk_at dksX4_raised_0 7 rfl rfl)
theorem dX4_raised_8 : decode cX4_raised 8 = .ok (.if_icmp .ge 13, 3) := dk_162 0 13 (dk_at dksX4_raised_0 8 rfl rfl)
theorem dX4_raised_11 : decode cX4_raised 11 = .ok (.lload_n 3, 1) := dk_33 (dk_at dksX4_raised_0 11 rfl rfl)
theorem dX4_raised_12 : decode cX4_raised 12 = .ok (.lload_n 0, 1) := dk_30 (dk_at dksX4_raised_0 12 rfl rfl)
theorem dX4_raised_13 : decode cX4_raised 13 = .ok (.lmul, 1) := dk_105 (dk_at dksX4_raised_0 13 rfl rfl)
theorem dX4_raised_14 : decode cX4_raised 14 = .ok (.lstore_n 3, 1) := dk_66 (dk_at dksX4_raised_0 14 rfl rfl)
theorem dX4_raised_15 : decode cX4_raised 15 = .ok (.iinc 5 1, 3) := dk_132 5 1 (dk_at dksX4_raised_0 15 rfl rfl)
theorem dX4_raised_18 : decode cX4_raised 18 = .ok (.goto (-13), 3) := dk_167 255 243 (dk_at dksX4_raised_0 18 rfl rfl)
theorem dX4_raised_21 : decode cX4_raised 21 = .ok (.lload_n 3, 1) := dk_33 (dk_at dksX4_raised_0 21 rfl rfl)
theorem dX4_raised_22 : decode cX4_raised 22 = .ok (.lreturn, 1) := dk_173 (dk_at dksX4_raised_0 22 rfl rfl)
abbrev cX4_moment : ByteArray := prog_7_method_17_code
def yX4_moment : MethodName := ⟨RX4, "moment", "(LMultipoleLine$Box;I)J"⟩
def dkwX4_moment_2 : List UInt8 := [180, 0, 125, 100, 133, 28, 184, 0, 128, 105, 97, 66, 132, 5, 1, 167, 255, 199, 33, 173]
abbrev dktX4_moment_2 : List UInt8 := dkwX4_moment_2 ++ []
def dkwX4_moment_1 : List UInt8 := [25, 6, 180, 0, 86, 182, 0, 102, 153, 0, 28, 33, 25, 6, 180, 0, 89, 133, 25, 6, 180, 0, 86, 43]
abbrev dktX4_moment_1 : List UInt8 := dkwX4_moment_1 ++ dktX4_moment_2
def dkwX4_moment_0 : List UInt8 := [9, 66, 3, 54, 5, 21, 5, 42, 182, 0, 37, 162, 0, 54, 42, 21, 5, 182, 0, 41, 58, 6, 43]
abbrev dktX4_moment_0 : List UInt8 := dkwX4_moment_0 ++ dktX4_moment_1
theorem dksX4_moment_0 : cX4_moment.data.toList.drop 0 = dktX4_moment_0 := by decide +kernel
theorem dksX4_moment_1 : cX4_moment.data.toList.drop 23 = dktX4_moment_1 := dk_seg dksX4_moment_0 23 rfl rfl
theorem dksX4_moment_2 : cX4_moment.data.toList.drop 47 = dktX4_moment_2 := dk_seg dksX4_moment_1 24 rfl rfl
theorem dX4_moment_0 : decode cX4_moment 0 = .ok (.lconst 0, 1) := dk_9 (dk_at dksX4_moment_0 0 rfl rfl)
theorem dX4_moment_1 : decode cX4_moment 1 = .ok (.lstore_n 3, 1) := dk_66 (dk_at dksX4_moment_0 1 rfl rfl)
theorem dX4_moment_2 : decode cX4_moment 2 = .ok (.iconst 0, 1) := dk_3 (dk_at dksX4_moment_0 2 rfl rfl)
theorem dX4_moment_3 : decode cX4_moment 3 = .ok (.istore 5, 2) := dk_54 5 (dk_at dksX4_moment_0 3 rfl rfl)
theorem dX4_moment_5 : decode cX4_moment 5 = .ok (.iload 5, 2) := dk_21 5 (dk_at dksX4_moment_0 5 rfl rfl)
theorem dX4_moment_7 : decode cX4_moment 7 = .ok (.aload_n 0, 1) := dk_42 (dk_at dksX4_moment_0 7 rfl rfl)
theorem dX4_moment_8 : decode cX4_moment 8 = .ok (.invokevirtual 37, 3) := dk_182 0 37 (dk_at dksX4_moment_0 8 rfl rfl)
theorem dX4_moment_11 : decode cX4_moment 11 = .ok (.if_icmp .ge 54, 3) := dk_162 0 54 (dk_at dksX4_moment_0 11 rfl rfl)
theorem dX4_moment_14 : decode cX4_moment 14 = .ok (.aload_n 0, 1) := dk_42 (dk_at dksX4_moment_0 14 rfl rfl)
theorem dX4_moment_15 : decode cX4_moment 15 = .ok (.iload 5, 2) := dk_21 5 (dk_at dksX4_moment_0 15 rfl rfl)
theorem dX4_moment_17 : decode cX4_moment 17 = .ok (.invokevirtual 41, 3) := dk_182 0 41 (dk_at dksX4_moment_0 17 rfl rfl)
theorem dX4_moment_20 : decode cX4_moment 20 = .ok (.astore 6, 2) := dk_58 6 (dk_at dksX4_moment_0 20 rfl rfl)
theorem dX4_moment_22 : decode cX4_moment 22 = .ok (.aload_n 1, 1) := dk_43 (dk_at dksX4_moment_0 22 rfl rfl)
theorem dX4_moment_23 : decode cX4_moment 23 = .ok (.aload 6, 2) := dk_25 6 (dk_at dksX4_moment_1 0 rfl rfl)
theorem dX4_moment_25 : decode cX4_moment 25 = .ok (.getfield 86, 3) := dk_180 0 86 (dk_at dksX4_moment_1 2 rfl rfl)
theorem dX4_moment_28 : decode cX4_moment 28 = .ok (.invokevirtual 102, 3) := dk_182 0 102 (dk_at dksX4_moment_1 5 rfl rfl)
theorem dX4_moment_31 : decode cX4_moment 31 = .ok (.ifCond .eq 28, 3) := dk_153 0 28 (dk_at dksX4_moment_1 8 rfl rfl)
theorem dX4_moment_34 : decode cX4_moment 34 = .ok (.lload_n 3, 1) := dk_33 (dk_at dksX4_moment_1 11 rfl rfl)
theorem dX4_moment_35 : decode cX4_moment 35 = .ok (.aload 6, 2) := dk_25 6 (dk_at dksX4_moment_1 12 rfl rfl)
theorem dX4_moment_37 : decode cX4_moment 37 = .ok (.getfield 89, 3) := dk_180 0 89 (dk_at dksX4_moment_1 14 rfl rfl)
theorem dX4_moment_40 : decode cX4_moment 40 = .ok (.i2l, 1) := dk_133 (dk_at dksX4_moment_1 17 rfl rfl)
theorem dX4_moment_41 : decode cX4_moment 41 = .ok (.aload 6, 2) := dk_25 6 (dk_at dksX4_moment_1 18 rfl rfl)
theorem dX4_moment_43 : decode cX4_moment 43 = .ok (.getfield 86, 3) := dk_180 0 86 (dk_at dksX4_moment_1 20 rfl rfl)
theorem dX4_moment_46 : decode cX4_moment 46 = .ok (.aload_n 1, 1) := dk_43 (dk_at dksX4_moment_1 23 rfl rfl)
theorem dX4_moment_47 : decode cX4_moment 47 = .ok (.getfield 125, 3) := dk_180 0 125 (dk_at dksX4_moment_2 0 rfl rfl)
theorem dX4_moment_50 : decode cX4_moment 50 = .ok (.isub, 1) := dk_100 (dk_at dksX4_moment_2 3 rfl rfl)
theorem dX4_moment_51 : decode cX4_moment 51 = .ok (.i2l, 1) := dk_133 (dk_at dksX4_moment_2 4 rfl rfl)
theorem dX4_moment_52 : decode cX4_moment 52 = .ok (.iload_n 2, 1) := dk_28 (dk_at dksX4_moment_2 5 rfl rfl)
theorem dX4_moment_53 : decode cX4_moment 53 = .ok (.invokestatic 128, 3) := dk_184 0 128 (dk_at dksX4_moment_2 6 rfl rfl)
theorem dX4_moment_56 : decode cX4_moment 56 = .ok (.lmul, 1) := dk_105 (dk_at dksX4_moment_2 9 rfl rfl)
theorem dX4_moment_57 : decode cX4_moment 57 = .ok (.ladd, 1) := dk_97 (dk_at dksX4_moment_2 10 rfl rfl)
theorem dX4_moment_58 : decode cX4_moment 58 = .ok (.lstore_n 3, 1) := dk_66 (dk_at dksX4_moment_2 11 rfl rfl)
theorem dX4_moment_59 : decode cX4_moment 59 = .ok (.iinc 5 1, 3) := dk_132 5 1 (dk_at dksX4_moment_2 12 rfl rfl)
theorem dX4_moment_62 : decode cX4_moment 62 = .ok (.goto (-57), 3) := dk_167 255 199 (dk_at dksX4_moment_2 15 rfl rfl)
theorem dX4_moment_65 : decode cX4_moment 65 = .ok (.lload_n 3, 1) := dk_33 (dk_at dksX4_moment_2 18 rfl rfl)
theorem dX4_moment_66 : decode cX4_moment 66 = .ok (.lreturn, 1) := dk_173 (dk_at dksX4_moment_2 19 rfl rfl)
abbrev cX4_chargesIn : ByteArray := prog_7_method_13_code
def yX4_chargesIn : MethodName := ⟨RX4, "chargesIn", "(LMultipoleLine$Box;)I"⟩
def dkwX4_chargesIn_0 : List UInt8 := [42, 43, 3, 182, 0, 106, 136, 172]
abbrev dktX4_chargesIn_0 : List UInt8 := dkwX4_chargesIn_0 ++ []
theorem dksX4_chargesIn_0 : cX4_chargesIn.data.toList.drop 0 = dktX4_chargesIn_0 := by decide +kernel
theorem dX4_chargesIn_0 : decode cX4_chargesIn 0 = .ok (.aload_n 0, 1) := dk_42 (dk_at dksX4_chargesIn_0 0 rfl rfl)
theorem dX4_chargesIn_1 : decode cX4_chargesIn 1 = .ok (.aload_n 1, 1) := dk_43 (dk_at dksX4_chargesIn_0 1 rfl rfl)
theorem dX4_chargesIn_2 : decode cX4_chargesIn 2 = .ok (.iconst 0, 1) := dk_3 (dk_at dksX4_chargesIn_0 2 rfl rfl)
theorem dX4_chargesIn_3 : decode cX4_chargesIn 3 = .ok (.invokevirtual 106, 3) := dk_182 0 106 (dk_at dksX4_chargesIn_0 3 rfl rfl)
theorem dX4_chargesIn_6 : decode cX4_chargesIn 6 = .ok (.l2i, 1) := dk_136 (dk_at dksX4_chargesIn_0 6 rfl rfl)
theorem dX4_chargesIn_7 : decode cX4_chargesIn 7 = .ok (.ireturn, 1) := dk_172 (dk_at dksX4_chargesIn_0 7 rfl rfl)
abbrev cX4_weightsIn : ByteArray := prog_7_method_14_code
def yX4_weightsIn : MethodName := ⟨RX4, "weightsIn", "(LMultipoleLine$Box;)I"⟩
def dkwX4_weightsIn_2 : List UInt8 := [132, 3, 1, 167, 255, 212, 28, 172]
abbrev dktX4_weightsIn_2 : List UInt8 := dkwX4_weightsIn_2 ++ []
def dkwX4_weightsIn_1 : List UInt8 := [182, 0, 102, 153, 0, 17, 42, 29, 182, 0, 41, 180, 0, 89, 184, 0, 92, 167, 0, 4, 3, 96, 61]
abbrev dktX4_weightsIn_1 : List UInt8 := dkwX4_weightsIn_1 ++ dktX4_weightsIn_2
def dkwX4_weightsIn_0 : List UInt8 := [3, 61, 3, 62, 29, 42, 182, 0, 37, 162, 0, 42, 28, 43, 42, 29, 182, 0, 41, 180, 0, 86]
abbrev dktX4_weightsIn_0 : List UInt8 := dkwX4_weightsIn_0 ++ dktX4_weightsIn_1
theorem dksX4_weightsIn_0 : cX4_weightsIn.data.toList.drop 0 = dktX4_weightsIn_0 := by decide +kernel
theorem dksX4_weightsIn_1 : cX4_weightsIn.data.toList.drop 22 = dktX4_weightsIn_1 := dk_seg dksX4_weightsIn_0 22 rfl rfl
theorem dksX4_weightsIn_2 : cX4_weightsIn.data.toList.drop 45 = dktX4_weightsIn_2 := dk_seg dksX4_weightsIn_1 23 rfl rfl
theorem dX4_weightsIn_0 : decode cX4_weightsIn 0 = .ok (.iconst 0, 1) := dk_3 (dk_at dksX4_weightsIn_0 0 rfl rfl)
theorem dX4_weightsIn_1 : decode cX4_weightsIn 1 = .ok (.istore_n 2, 1) := dk_61 (dk_at dksX4_weightsIn_0 1 rfl rfl)
theorem dX4_weightsIn_2 : decode cX4_weightsIn 2 = .ok (.iconst 0, 1) := dk_3 (dk_at dksX4_weightsIn_0 2 rfl rfl)
theorem dX4_weightsIn_3 : decode cX4_weightsIn 3 = .ok (.istore_n 3, 1) := dk_62 (dk_at dksX4_weightsIn_0 3 rfl rfl)
theorem dX4_weightsIn_4 : decode cX4_weightsIn 4 = .ok (.iload_n 3, 1) := dk_29 (dk_at dksX4_weightsIn_0 4 rfl rfl)
theorem dX4_weightsIn_5 : decode cX4_weightsIn 5 = .ok (.aload_n 0, 1) := dk_42 (dk_at dksX4_weightsIn_0 5 rfl rfl)
theorem dX4_weightsIn_6 : decode cX4_weightsIn 6 = .ok (.invokevirtual 37, 3) := dk_182 0 37 (dk_at dksX4_weightsIn_0 6 rfl rfl)
theorem dX4_weightsIn_9 : decode cX4_weightsIn 9 = .ok (.if_icmp .ge 42, 3) := dk_162 0 42 (dk_at dksX4_weightsIn_0 9 rfl rfl)
theorem dX4_weightsIn_12 : decode cX4_weightsIn 12 = .ok (.iload_n 2, 1) := dk_28 (dk_at dksX4_weightsIn_0 12 rfl rfl)
theorem dX4_weightsIn_13 : decode cX4_weightsIn 13 = .ok (.aload_n 1, 1) := dk_43 (dk_at dksX4_weightsIn_0 13 rfl rfl)
theorem dX4_weightsIn_14 : decode cX4_weightsIn 14 = .ok (.aload_n 0, 1) := dk_42 (dk_at dksX4_weightsIn_0 14 rfl rfl)
theorem dX4_weightsIn_15 : decode cX4_weightsIn 15 = .ok (.iload_n 3, 1) := dk_29 (dk_at dksX4_weightsIn_0 15 rfl rfl)
theorem dX4_weightsIn_16 : decode cX4_weightsIn 16 = .ok (.invokevirtual 41, 3) := dk_182 0 41 (dk_at dksX4_weightsIn_0 16 rfl rfl)
theorem dX4_weightsIn_19 : decode cX4_weightsIn 19 = .ok (.getfield 86, 3) := dk_180 0 86 (dk_at dksX4_weightsIn_0 19 rfl rfl)
theorem dX4_weightsIn_22 : decode cX4_weightsIn 22 = .ok (.invokevirtual 102, 3) := dk_182 0 102 (dk_at dksX4_weightsIn_1 0 rfl rfl)
theorem dX4_weightsIn_25 : decode cX4_weightsIn 25 = .ok (.ifCond .eq 17, 3) := dk_153 0 17 (dk_at dksX4_weightsIn_1 3 rfl rfl)
theorem dX4_weightsIn_28 : decode cX4_weightsIn 28 = .ok (.aload_n 0, 1) := dk_42 (dk_at dksX4_weightsIn_1 6 rfl rfl)
theorem dX4_weightsIn_29 : decode cX4_weightsIn 29 = .ok (.iload_n 3, 1) := dk_29 (dk_at dksX4_weightsIn_1 7 rfl rfl)
theorem dX4_weightsIn_30 : decode cX4_weightsIn 30 = .ok (.invokevirtual 41, 3) := dk_182 0 41 (dk_at dksX4_weightsIn_1 8 rfl rfl)
theorem dX4_weightsIn_33 : decode cX4_weightsIn 33 = .ok (.getfield 89, 3) := dk_180 0 89 (dk_at dksX4_weightsIn_1 11 rfl rfl)
theorem dX4_weightsIn_36 : decode cX4_weightsIn 36 = .ok (.invokestatic 92, 3) := dk_184 0 92 (dk_at dksX4_weightsIn_1 14 rfl rfl)
theorem dX4_weightsIn_39 : decode cX4_weightsIn 39 = .ok (.goto 4, 3) := dk_167 0 4 (dk_at dksX4_weightsIn_1 17 rfl rfl)
theorem dX4_weightsIn_42 : decode cX4_weightsIn 42 = .ok (.iconst 0, 1) := dk_3 (dk_at dksX4_weightsIn_1 20 rfl rfl)
theorem dX4_weightsIn_43 : decode cX4_weightsIn 43 = .ok (.iadd, 1) := dk_96 (dk_at dksX4_weightsIn_1 21 rfl rfl)
theorem dX4_weightsIn_44 : decode cX4_weightsIn 44 = .ok (.istore_n 2, 1) := dk_61 (dk_at dksX4_weightsIn_1 22 rfl rfl)
theorem dX4_weightsIn_45 : decode cX4_weightsIn 45 = .ok (.iinc 3 1, 3) := dk_132 3 1 (dk_at dksX4_weightsIn_2 0 rfl rfl)
theorem dX4_weightsIn_48 : decode cX4_weightsIn 48 = .ok (.goto (-44), 3) := dk_167 255 212 (dk_at dksX4_weightsIn_2 3 rfl rfl)
theorem dX4_weightsIn_51 : decode cX4_weightsIn 51 = .ok (.iload_n 2, 1) := dk_28 (dk_at dksX4_weightsIn_2 6 rfl rfl)
theorem dX4_weightsIn_52 : decode cX4_weightsIn 52 = .ok (.ireturn, 1) := dk_172 (dk_at dksX4_weightsIn_2 7 rfl rfl)
abbrev cX1_box : ByteArray := prog_1_method_28_code
def yX1_box : MethodName := ⟨RX1, "box", "(III)I"⟩
def dkwX1_box_4 : List UInt8 := [42, 180, 0, 68, 25, 4, 182, 0, 215, 167, 0, 11, 187, 0, 55, 89, 183, 0, 57, 191, 172]
abbrev dktX1_box_4 : List UInt8 := dkwX1_box_4 ++ []
def dkwX1_box_3 : List UInt8 := [42, 180, 0, 68, 25, 4, 182, 0, 208, 167, 0, 35, 42, 180, 0, 68, 25, 4, 182, 0, 212, 167, 0, 23]
abbrev dktX1_box_3 : List UInt8 := dkwX1_box_3 ++ dktX1_box_4
def dkwX1_box_2 : List UInt8 := [25, 4, 182, 0, 199, 167, 0, 63, 25, 4, 180, 0, 202, 167, 0, 55, 25, 4, 180, 0, 205, 167, 0, 47]
abbrev dktX1_box_2 : List UInt8 := dkwX1_box_2 ++ dktX1_box_3
def dkwX1_box_1 : List UInt8 := [170, 0, 0, 0, 0, 0, 99, 0, 0, 0, 0, 0, 0, 0, 5, 0, 0, 0, 39, 0, 0, 0, 47, 0, 0, 0, 55, 0, 0, 0, 63, 0, 0, 0, 75, 0, 0, 0, 87]
abbrev dktX1_box_1 : List UInt8 := dkwX1_box_1 ++ dktX1_box_2
def dkwX1_box_0 : List UInt8 := [42, 27, 28, 182, 0, 196, 58, 4, 29]
abbrev dktX1_box_0 : List UInt8 := dkwX1_box_0 ++ dktX1_box_1
theorem dksX1_box_0 : cX1_box.data.toList.drop 0 = dktX1_box_0 := by decide +kernel
theorem dksX1_box_1 : cX1_box.data.toList.drop 9 = dktX1_box_1 := dk_seg dksX1_box_0 9 rfl rfl
theorem dksX1_box_2 : cX1_box.data.toList.drop 48 = dktX1_box_2 := dk_seg dksX1_box_1 39 rfl rfl
theorem dksX1_box_3 : cX1_box.data.toList.drop 72 = dktX1_box_3 := dk_seg dksX1_box_2 24 rfl rfl
theorem dksX1_box_4 : cX1_box.data.toList.drop 96 = dktX1_box_4 := dk_seg dksX1_box_3 24 rfl rfl
theorem dX1_box_0 : decode cX1_box 0 = .ok (.aload_n 0, 1) := dk_42 (dk_at dksX1_box_0 0 rfl rfl)
theorem dX1_box_1 : decode cX1_box 1 = .ok (.iload_n 1, 1) := dk_27 (dk_at dksX1_box_0 1 rfl rfl)
theorem dX1_box_2 : decode cX1_box 2 = .ok (.iload_n 2, 1) := dk_28 (dk_at dksX1_box_0 2 rfl rfl)
theorem dX1_box_3 : decode cX1_box 3 = .ok (.invokevirtual 196, 3) := dk_182 0 196 (dk_at dksX1_box_0 3 rfl rfl)
theorem dX1_box_6 : decode cX1_box 6 = .ok (.astore 4, 2) := dk_58 4 (dk_at dksX1_box_0 6 rfl rfl)
theorem dX1_box_8 : decode cX1_box 8 = .ok (.iload_n 3, 1) := dk_29 (dk_at dksX1_box_0 8 rfl rfl)
theorem dX1_box_9 : decode cX1_box 9 = .ok (.tableswitch 99 0 5 #[39, 47, 55, 63, 75, 87], 39) := by decide +kernel
theorem dX1_box_48 : decode cX1_box 48 = .ok (.aload 4, 2) := dk_25 4 (dk_at dksX1_box_2 0 rfl rfl)
theorem dX1_box_50 : decode cX1_box 50 = .ok (.invokevirtual 199, 3) := dk_182 0 199 (dk_at dksX1_box_2 2 rfl rfl)
theorem dX1_box_53 : decode cX1_box 53 = .ok (.goto 63, 3) := dk_167 0 63 (dk_at dksX1_box_2 5 rfl rfl)
theorem dX1_box_56 : decode cX1_box 56 = .ok (.aload 4, 2) := dk_25 4 (dk_at dksX1_box_2 8 rfl rfl)
theorem dX1_box_58 : decode cX1_box 58 = .ok (.getfield 202, 3) := dk_180 0 202 (dk_at dksX1_box_2 10 rfl rfl)
theorem dX1_box_61 : decode cX1_box 61 = .ok (.goto 55, 3) := dk_167 0 55 (dk_at dksX1_box_2 13 rfl rfl)
theorem dX1_box_64 : decode cX1_box 64 = .ok (.aload 4, 2) := dk_25 4 (dk_at dksX1_box_2 16 rfl rfl)
theorem dX1_box_66 : decode cX1_box 66 = .ok (.getfield 205, 3) := dk_180 0 205 (dk_at dksX1_box_2 18 rfl rfl)
theorem dX1_box_69 : decode cX1_box 69 = .ok (.goto 47, 3) := dk_167 0 47 (dk_at dksX1_box_2 21 rfl rfl)
theorem dX1_box_72 : decode cX1_box 72 = .ok (.aload_n 0, 1) := dk_42 (dk_at dksX1_box_3 0 rfl rfl)
theorem dX1_box_73 : decode cX1_box 73 = .ok (.getfield 68, 3) := dk_180 0 68 (dk_at dksX1_box_3 1 rfl rfl)
theorem dX1_box_76 : decode cX1_box 76 = .ok (.aload 4, 2) := dk_25 4 (dk_at dksX1_box_3 4 rfl rfl)
theorem dX1_box_78 : decode cX1_box 78 = .ok (.invokevirtual 208, 3) := dk_182 0 208 (dk_at dksX1_box_3 6 rfl rfl)
theorem dX1_box_81 : decode cX1_box 81 = .ok (.goto 35, 3) := dk_167 0 35 (dk_at dksX1_box_3 9 rfl rfl)
theorem dX1_box_84 : decode cX1_box 84 = .ok (.aload_n 0, 1) := dk_42 (dk_at dksX1_box_3 12 rfl rfl)
theorem dX1_box_85 : decode cX1_box 85 = .ok (.getfield 68, 3) := dk_180 0 68 (dk_at dksX1_box_3 13 rfl rfl)
theorem dX1_box_88 : decode cX1_box 88 = .ok (.aload 4, 2) := dk_25 4 (dk_at dksX1_box_3 16 rfl rfl)
theorem dX1_box_90 : decode cX1_box 90 = .ok (.invokevirtual 212, 3) := dk_182 0 212 (dk_at dksX1_box_3 18 rfl rfl)
theorem dX1_box_93 : decode cX1_box 93 = .ok (.goto 23, 3) := dk_167 0 23 (dk_at dksX1_box_3 21 rfl rfl)
theorem dX1_box_96 : decode cX1_box 96 = .ok (.aload_n 0, 1) := dk_42 (dk_at dksX1_box_4 0 rfl rfl)
theorem dX1_box_97 : decode cX1_box 97 = .ok (.getfield 68, 3) := dk_180 0 68 (dk_at dksX1_box_4 1 rfl rfl)
theorem dX1_box_100 : decode cX1_box 100 = .ok (.aload 4, 2) := dk_25 4 (dk_at dksX1_box_4 4 rfl rfl)
theorem dX1_box_102 : decode cX1_box 102 = .ok (.invokevirtual 215, 3) := dk_182 0 215 (dk_at dksX1_box_4 6 rfl rfl)
theorem dX1_box_105 : decode cX1_box 105 = .ok (.goto 11, 3) := dk_167 0 11 (dk_at dksX1_box_4 9 rfl rfl)
theorem dX1_box_108 : decode cX1_box 108 = .ok (.new 55, 3) := dk_187 0 55 (dk_at dksX1_box_4 12 rfl rfl)
theorem dX1_box_111 : decode cX1_box 111 = .ok (.dup, 1) := dk_89 (dk_at dksX1_box_4 15 rfl rfl)
theorem dX1_box_112 : decode cX1_box 112 = .ok (.invokespecial 57, 3) := dk_183 0 57 (dk_at dksX1_box_4 16 rfl rfl)
theorem dX1_box_115 : decode cX1_box 115 = .ok (.athrow, 1) := dk_191 (dk_at dksX1_box_4 19 rfl rfl)
theorem dX1_box_116 : decode cX1_box 116 = .ok (.ireturn, 1) := dk_172 (dk_at dksX1_box_4 20 rfl rfl)
abbrev cX1_boxAt : ByteArray := prog_1_method_29_code
def yX1_boxAt : MethodName := ⟨RX1, "boxAt", "(II)I"⟩
def dkwX1_boxAt_0 : List UInt8 := [42, 27, 3, 182, 0, 196, 78, 42, 28, 182, 0, 193, 27, 28, 182, 0, 218, 180, 0, 188, 172]
abbrev dktX1_boxAt_0 : List UInt8 := dkwX1_boxAt_0 ++ []
theorem dksX1_boxAt_0 : cX1_boxAt.data.toList.drop 0 = dktX1_boxAt_0 := by decide +kernel
theorem dX1_boxAt_0 : decode cX1_boxAt 0 = .ok (.aload_n 0, 1) := dk_42 (dk_at dksX1_boxAt_0 0 rfl rfl)
theorem dX1_boxAt_1 : decode cX1_boxAt 1 = .ok (.iload_n 1, 1) := dk_27 (dk_at dksX1_boxAt_0 1 rfl rfl)
theorem dX1_boxAt_2 : decode cX1_boxAt 2 = .ok (.iconst 0, 1) := dk_3 (dk_at dksX1_boxAt_0 2 rfl rfl)
theorem dX1_boxAt_3 : decode cX1_boxAt 3 = .ok (.invokevirtual 196, 3) := dk_182 0 196 (dk_at dksX1_boxAt_0 3 rfl rfl)
theorem dX1_boxAt_6 : decode cX1_boxAt 6 = .ok (.astore_n 3, 1) := dk_78 (dk_at dksX1_boxAt_0 6 rfl rfl)
theorem dX1_boxAt_7 : decode cX1_boxAt 7 = .ok (.aload_n 0, 1) := dk_42 (dk_at dksX1_boxAt_0 7 rfl rfl)
theorem dX1_boxAt_8 : decode cX1_boxAt 8 = .ok (.iload_n 2, 1) := dk_28 (dk_at dksX1_boxAt_0 8 rfl rfl)
theorem dX1_boxAt_9 : decode cX1_boxAt 9 = .ok (.invokevirtual 193, 3) := dk_182 0 193 (dk_at dksX1_boxAt_0 9 rfl rfl)
theorem dX1_boxAt_12 : decode cX1_boxAt 12 = .ok (.iload_n 1, 1) := dk_27 (dk_at dksX1_boxAt_0 12 rfl rfl)
theorem dX1_boxAt_13 : decode cX1_boxAt 13 = .ok (.iload_n 2, 1) := dk_28 (dk_at dksX1_boxAt_0 13 rfl rfl)
theorem dX1_boxAt_14 : decode cX1_boxAt 14 = .ok (.invokevirtual 218, 3) := dk_182 0 218 (dk_at dksX1_boxAt_0 14 rfl rfl)
theorem dX1_boxAt_17 : decode cX1_boxAt 17 = .ok (.getfield 188, 3) := dk_180 0 188 (dk_at dksX1_boxAt_0 17 rfl rfl)
theorem dX1_boxAt_20 : decode cX1_boxAt 20 = .ok (.ireturn, 1) := dk_172 (dk_at dksX1_boxAt_0 20 rfl rfl)
abbrev cJ20_numberOfTrailingZeros : ByteArray := prog_25_method_48_code
def yJ20_numberOfTrailingZeros : MethodName := ⟨RJ20, "numberOfTrailingZeros", "(I)I"⟩
def dkwJ20_numberOfTrailingZeros_3 : List UInt8 := [5, 124, 59, 27, 26, 4, 124, 96, 172]
abbrev dktJ20_numberOfTrailingZeros_3 : List UInt8 := dkwJ20_numberOfTrailingZeros_3 ++ []
def dkwJ20_numberOfTrailingZeros_2 : List UInt8 := [124, 59, 26, 16, 16, 164, 0, 10, 132, 1, 4, 26, 7, 124, 59, 26, 7, 164, 0, 10, 132, 1, 2, 26]
abbrev dktJ20_numberOfTrailingZeros_2 : List UInt8 := dkwJ20_numberOfTrailingZeros_2 ++ dktJ20_numberOfTrailingZeros_3
def dkwJ20_numberOfTrailingZeros_1 : List UInt8 := [164, 0, 11, 132, 1, 16, 26, 16, 16, 124, 59, 26, 17, 1, 0, 164, 0, 11, 132, 1, 8, 26, 16, 8]
abbrev dktJ20_numberOfTrailingZeros_1 : List UInt8 := dkwJ20_numberOfTrailingZeros_1 ++ dktJ20_numberOfTrailingZeros_2
def dkwJ20_numberOfTrailingZeros_0 : List UInt8 := [26, 2, 130, 26, 4, 100, 126, 59, 26, 157, 0, 8, 26, 16, 32, 126, 172, 4, 60, 26, 19, 1, 8]
abbrev dktJ20_numberOfTrailingZeros_0 : List UInt8 := dkwJ20_numberOfTrailingZeros_0 ++ dktJ20_numberOfTrailingZeros_1
theorem dksJ20_numberOfTrailingZeros_0 : cJ20_numberOfTrailingZeros.data.toList.drop 0 = dktJ20_numberOfTrailingZeros_0 := by decide +kernel
theorem dksJ20_numberOfTrailingZeros_1 : cJ20_numberOfTrailingZeros.data.toList.drop 23 = dktJ20_numberOfTrailingZeros_1 := dk_seg dksJ20_numberOfTrailingZeros_0 23 rfl rfl
theorem dksJ20_numberOfTrailingZeros_2 : cJ20_numberOfTrailingZeros.data.toList.drop 47 = dktJ20_numberOfTrailingZeros_2 := dk_seg dksJ20_numberOfTrailingZeros_1 24 rfl rfl
theorem dksJ20_numberOfTrailingZeros_3 : cJ20_numberOfTrailingZeros.data.toList.drop 71 = dktJ20_numberOfTrailingZeros_3 := dk_seg dksJ20_numberOfTrailingZeros_2 24 rfl rfl
theorem dJ20_numberOfTrailingZeros_0 : decode cJ20_numberOfTrailingZeros 0 = .ok (.iload_n 0, 1) := dk_26 (dk_at dksJ20_numberOfTrailingZeros_0 0 rfl rfl)
theorem dJ20_numberOfTrailingZeros_1 : decode cJ20_numberOfTrailingZeros 1 = .ok (.iconst (-1), 1) := dk_2 (dk_at dksJ20_numberOfTrailingZeros_0 1 rfl rfl)
theorem dJ20_numberOfTrailingZeros_2 : decode cJ20_numberOfTrailingZeros 2 = .ok (.ixor, 1) := dk_130 (dk_at dksJ20_numberOfTrailingZeros_0 2 rfl rfl)
theorem dJ20_numberOfTrailingZeros_3 : decode cJ20_numberOfTrailingZeros 3 = .ok (.iload_n 0, 1) := dk_26 (dk_at dksJ20_numberOfTrailingZeros_0 3 rfl rfl)
theorem dJ20_numberOfTrailingZeros_4 : decode cJ20_numberOfTrailingZeros 4 = .ok (.iconst 1, 1) := dk_4 (dk_at dksJ20_numberOfTrailingZeros_0 4 rfl rfl)
theorem dJ20_numberOfTrailingZeros_5 : decode cJ20_numberOfTrailingZeros 5 = .ok (.isub, 1) := dk_100 (dk_at dksJ20_numberOfTrailingZeros_0 5 rfl rfl)
theorem dJ20_numberOfTrailingZeros_6 : decode cJ20_numberOfTrailingZeros 6 = .ok (.iand, 1) := dk_126 (dk_at dksJ20_numberOfTrailingZeros_0 6 rfl rfl)
theorem dJ20_numberOfTrailingZeros_7 : decode cJ20_numberOfTrailingZeros 7 = .ok (.istore_n 0, 1) := dk_59 (dk_at dksJ20_numberOfTrailingZeros_0 7 rfl rfl)
theorem dJ20_numberOfTrailingZeros_8 : decode cJ20_numberOfTrailingZeros 8 = .ok (.iload_n 0, 1) := dk_26 (dk_at dksJ20_numberOfTrailingZeros_0 8 rfl rfl)
theorem dJ20_numberOfTrailingZeros_9 : decode cJ20_numberOfTrailingZeros 9 = .ok (.ifCond .gt 8, 3) := dk_157 0 8 (dk_at dksJ20_numberOfTrailingZeros_0 9 rfl rfl)
theorem dJ20_numberOfTrailingZeros_12 : decode cJ20_numberOfTrailingZeros 12 = .ok (.iload_n 0, 1) := dk_26 (dk_at dksJ20_numberOfTrailingZeros_0 12 rfl rfl)
theorem dJ20_numberOfTrailingZeros_13 : decode cJ20_numberOfTrailingZeros 13 = .ok (.bipush 32, 2) := dk_16 32 (dk_at dksJ20_numberOfTrailingZeros_0 13 rfl rfl)
theorem dJ20_numberOfTrailingZeros_15 : decode cJ20_numberOfTrailingZeros 15 = .ok (.iand, 1) := dk_126 (dk_at dksJ20_numberOfTrailingZeros_0 15 rfl rfl)
theorem dJ20_numberOfTrailingZeros_16 : decode cJ20_numberOfTrailingZeros 16 = .ok (.ireturn, 1) := dk_172 (dk_at dksJ20_numberOfTrailingZeros_0 16 rfl rfl)
theorem dJ20_numberOfTrailingZeros_17 : decode cJ20_numberOfTrailingZeros 17 = .ok (.iconst 1, 1) := dk_4 (dk_at dksJ20_numberOfTrailingZeros_0 17 rfl rfl)
theorem dJ20_numberOfTrailingZeros_18 : decode cJ20_numberOfTrailingZeros 18 = .ok (.istore_n 1, 1) := dk_60 (dk_at dksJ20_numberOfTrailingZeros_0 18 rfl rfl)
theorem dJ20_numberOfTrailingZeros_19 : decode cJ20_numberOfTrailingZeros 19 = .ok (.iload_n 0, 1) := dk_26 (dk_at dksJ20_numberOfTrailingZeros_0 19 rfl rfl)
theorem dJ20_numberOfTrailingZeros_20 : decode cJ20_numberOfTrailingZeros 20 = .ok (.ldc_w 264, 3) := dk_19 1 8 (dk_at dksJ20_numberOfTrailingZeros_0 20 rfl rfl)
theorem dJ20_numberOfTrailingZeros_23 : decode cJ20_numberOfTrailingZeros 23 = .ok (.if_icmp .le 11, 3) := dk_164 0 11 (dk_at dksJ20_numberOfTrailingZeros_1 0 rfl rfl)
theorem dJ20_numberOfTrailingZeros_26 : decode cJ20_numberOfTrailingZeros 26 = .ok (.iinc 1 16, 3) := dk_132 1 16 (dk_at dksJ20_numberOfTrailingZeros_1 3 rfl rfl)
theorem dJ20_numberOfTrailingZeros_29 : decode cJ20_numberOfTrailingZeros 29 = .ok (.iload_n 0, 1) := dk_26 (dk_at dksJ20_numberOfTrailingZeros_1 6 rfl rfl)
theorem dJ20_numberOfTrailingZeros_30 : decode cJ20_numberOfTrailingZeros 30 = .ok (.bipush 16, 2) := dk_16 16 (dk_at dksJ20_numberOfTrailingZeros_1 7 rfl rfl)
theorem dJ20_numberOfTrailingZeros_32 : decode cJ20_numberOfTrailingZeros 32 = .ok (.iushr, 1) := dk_124 (dk_at dksJ20_numberOfTrailingZeros_1 9 rfl rfl)
theorem dJ20_numberOfTrailingZeros_33 : decode cJ20_numberOfTrailingZeros 33 = .ok (.istore_n 0, 1) := dk_59 (dk_at dksJ20_numberOfTrailingZeros_1 10 rfl rfl)
theorem dJ20_numberOfTrailingZeros_34 : decode cJ20_numberOfTrailingZeros 34 = .ok (.iload_n 0, 1) := dk_26 (dk_at dksJ20_numberOfTrailingZeros_1 11 rfl rfl)
theorem dJ20_numberOfTrailingZeros_35 : decode cJ20_numberOfTrailingZeros 35 = .ok (.sipush 256, 3) := dk_17 1 0 (dk_at dksJ20_numberOfTrailingZeros_1 12 rfl rfl)
theorem dJ20_numberOfTrailingZeros_38 : decode cJ20_numberOfTrailingZeros 38 = .ok (.if_icmp .le 11, 3) := dk_164 0 11 (dk_at dksJ20_numberOfTrailingZeros_1 15 rfl rfl)
theorem dJ20_numberOfTrailingZeros_41 : decode cJ20_numberOfTrailingZeros 41 = .ok (.iinc 1 8, 3) := dk_132 1 8 (dk_at dksJ20_numberOfTrailingZeros_1 18 rfl rfl)
theorem dJ20_numberOfTrailingZeros_44 : decode cJ20_numberOfTrailingZeros 44 = .ok (.iload_n 0, 1) := dk_26 (dk_at dksJ20_numberOfTrailingZeros_1 21 rfl rfl)
theorem dJ20_numberOfTrailingZeros_45 : decode cJ20_numberOfTrailingZeros 45 = .ok (.bipush 8, 2) := dk_16 8 (dk_at dksJ20_numberOfTrailingZeros_1 22 rfl rfl)
theorem dJ20_numberOfTrailingZeros_47 : decode cJ20_numberOfTrailingZeros 47 = .ok (.iushr, 1) := dk_124 (dk_at dksJ20_numberOfTrailingZeros_2 0 rfl rfl)
theorem dJ20_numberOfTrailingZeros_48 : decode cJ20_numberOfTrailingZeros 48 = .ok (.istore_n 0, 1) := dk_59 (dk_at dksJ20_numberOfTrailingZeros_2 1 rfl rfl)
theorem dJ20_numberOfTrailingZeros_49 : decode cJ20_numberOfTrailingZeros 49 = .ok (.iload_n 0, 1) := dk_26 (dk_at dksJ20_numberOfTrailingZeros_2 2 rfl rfl)
theorem dJ20_numberOfTrailingZeros_50 : decode cJ20_numberOfTrailingZeros 50 = .ok (.bipush 16, 2) := dk_16 16 (dk_at dksJ20_numberOfTrailingZeros_2 3 rfl rfl)
theorem dJ20_numberOfTrailingZeros_52 : decode cJ20_numberOfTrailingZeros 52 = .ok (.if_icmp .le 10, 3) := dk_164 0 10 (dk_at dksJ20_numberOfTrailingZeros_2 5 rfl rfl)
theorem dJ20_numberOfTrailingZeros_55 : decode cJ20_numberOfTrailingZeros 55 = .ok (.iinc 1 4, 3) := dk_132 1 4 (dk_at dksJ20_numberOfTrailingZeros_2 8 rfl rfl)
theorem dJ20_numberOfTrailingZeros_58 : decode cJ20_numberOfTrailingZeros 58 = .ok (.iload_n 0, 1) := dk_26 (dk_at dksJ20_numberOfTrailingZeros_2 11 rfl rfl)
theorem dJ20_numberOfTrailingZeros_59 : decode cJ20_numberOfTrailingZeros 59 = .ok (.iconst 4, 1) := dk_7 (dk_at dksJ20_numberOfTrailingZeros_2 12 rfl rfl)
theorem dJ20_numberOfTrailingZeros_60 : decode cJ20_numberOfTrailingZeros 60 = .ok (.iushr, 1) := dk_124 (dk_at dksJ20_numberOfTrailingZeros_2 13 rfl rfl)
theorem dJ20_numberOfTrailingZeros_61 : decode cJ20_numberOfTrailingZeros 61 = .ok (.istore_n 0, 1) := dk_59 (dk_at dksJ20_numberOfTrailingZeros_2 14 rfl rfl)
theorem dJ20_numberOfTrailingZeros_62 : decode cJ20_numberOfTrailingZeros 62 = .ok (.iload_n 0, 1) := dk_26 (dk_at dksJ20_numberOfTrailingZeros_2 15 rfl rfl)
theorem dJ20_numberOfTrailingZeros_63 : decode cJ20_numberOfTrailingZeros 63 = .ok (.iconst 4, 1) := dk_7 (dk_at dksJ20_numberOfTrailingZeros_2 16 rfl rfl)
theorem dJ20_numberOfTrailingZeros_64 : decode cJ20_numberOfTrailingZeros 64 = .ok (.if_icmp .le 10, 3) := dk_164 0 10 (dk_at dksJ20_numberOfTrailingZeros_2 17 rfl rfl)
theorem dJ20_numberOfTrailingZeros_67 : decode cJ20_numberOfTrailingZeros 67 = .ok (.iinc 1 2, 3) := dk_132 1 2 (dk_at dksJ20_numberOfTrailingZeros_2 20 rfl rfl)
theorem dJ20_numberOfTrailingZeros_70 : decode cJ20_numberOfTrailingZeros 70 = .ok (.iload_n 0, 1) := dk_26 (dk_at dksJ20_numberOfTrailingZeros_2 23 rfl rfl)
theorem dJ20_numberOfTrailingZeros_71 : decode cJ20_numberOfTrailingZeros 71 = .ok (.iconst 2, 1) := dk_5 (dk_at dksJ20_numberOfTrailingZeros_3 0 rfl rfl)
theorem dJ20_numberOfTrailingZeros_72 : decode cJ20_numberOfTrailingZeros 72 = .ok (.iushr, 1) := dk_124 (dk_at dksJ20_numberOfTrailingZeros_3 1 rfl rfl)
theorem dJ20_numberOfTrailingZeros_73 : decode cJ20_numberOfTrailingZeros 73 = .ok (.istore_n 0, 1) := dk_59 (dk_at dksJ20_numberOfTrailingZeros_3 2 rfl rfl)
theorem dJ20_numberOfTrailingZeros_74 : decode cJ20_numberOfTrailingZeros 74 = .ok (.iload_n 1, 1) := dk_27 (dk_at dksJ20_numberOfTrailingZeros_3 3 rfl rfl)
theorem dJ20_numberOfTrailingZeros_75 : decode cJ20_numberOfTrailingZeros 75 = .ok (.iload_n 0, 1) := dk_26 (dk_at dksJ20_numberOfTrailingZeros_3 4 rfl rfl)
theorem dJ20_numberOfTrailingZeros_76 : decode cJ20_numberOfTrailingZeros 76 = .ok (.iconst 1, 1) := dk_4 (dk_at dksJ20_numberOfTrailingZeros_3 5 rfl rfl)
theorem dJ20_numberOfTrailingZeros_77 : decode cJ20_numberOfTrailingZeros 77 = .ok (.iushr, 1) := dk_124 (dk_at dksJ20_numberOfTrailingZeros_3 6 rfl rfl)
theorem dJ20_numberOfTrailingZeros_78 : decode cJ20_numberOfTrailingZeros 78 = .ok (.iadd, 1) := dk_96 (dk_at dksJ20_numberOfTrailingZeros_3 7 rfl rfl)
theorem dJ20_numberOfTrailingZeros_79 : decode cJ20_numberOfTrailingZeros 79 = .ok (.ireturn, 1) := dk_172 (dk_at dksJ20_numberOfTrailingZeros_3 8 rfl rfl)
abbrev cJ26_numberOfTrailingZeros : ByteArray := prog_28_method_49_code
def yJ26_numberOfTrailingZeros : MethodName := ⟨RJ26, "numberOfTrailingZeros", "(J)I"⟩
def dkwJ26_numberOfTrailingZeros_1 : List UInt8 := [184, 1, 55, 172]
abbrev dktJ26_numberOfTrailingZeros_1 : List UInt8 := dkwJ26_numberOfTrailingZeros_1 ++ []
def dkwJ26_numberOfTrailingZeros_0 : List UInt8 := [30, 136, 61, 28, 154, 0, 17, 16, 32, 30, 16, 32, 125, 136, 184, 1, 55, 96, 167, 0, 7, 28]
abbrev dktJ26_numberOfTrailingZeros_0 : List UInt8 := dkwJ26_numberOfTrailingZeros_0 ++ dktJ26_numberOfTrailingZeros_1
theorem dksJ26_numberOfTrailingZeros_0 : cJ26_numberOfTrailingZeros.data.toList.drop 0 = dktJ26_numberOfTrailingZeros_0 := by decide +kernel
theorem dksJ26_numberOfTrailingZeros_1 : cJ26_numberOfTrailingZeros.data.toList.drop 22 = dktJ26_numberOfTrailingZeros_1 := dk_seg dksJ26_numberOfTrailingZeros_0 22 rfl rfl
theorem dJ26_numberOfTrailingZeros_0 : decode cJ26_numberOfTrailingZeros 0 = .ok (.lload_n 0, 1) := dk_30 (dk_at dksJ26_numberOfTrailingZeros_0 0 rfl rfl)
theorem dJ26_numberOfTrailingZeros_1 : decode cJ26_numberOfTrailingZeros 1 = .ok (.l2i, 1) := dk_136 (dk_at dksJ26_numberOfTrailingZeros_0 1 rfl rfl)
theorem dJ26_numberOfTrailingZeros_2 : decode cJ26_numberOfTrailingZeros 2 = .ok (.istore_n 2, 1) := dk_61 (dk_at dksJ26_numberOfTrailingZeros_0 2 rfl rfl)
theorem dJ26_numberOfTrailingZeros_3 : decode cJ26_numberOfTrailingZeros 3 = .ok (.iload_n 2, 1) := dk_28 (dk_at dksJ26_numberOfTrailingZeros_0 3 rfl rfl)
theorem dJ26_numberOfTrailingZeros_4 : decode cJ26_numberOfTrailingZeros 4 = .ok (.ifCond .ne 17, 3) := dk_154 0 17 (dk_at dksJ26_numberOfTrailingZeros_0 4 rfl rfl)
theorem dJ26_numberOfTrailingZeros_7 : decode cJ26_numberOfTrailingZeros 7 = .ok (.bipush 32, 2) := dk_16 32 (dk_at dksJ26_numberOfTrailingZeros_0 7 rfl rfl)
theorem dJ26_numberOfTrailingZeros_9 : decode cJ26_numberOfTrailingZeros 9 = .ok (.lload_n 0, 1) := dk_30 (dk_at dksJ26_numberOfTrailingZeros_0 9 rfl rfl)
theorem dJ26_numberOfTrailingZeros_10 : decode cJ26_numberOfTrailingZeros 10 = .ok (.bipush 32, 2) := dk_16 32 (dk_at dksJ26_numberOfTrailingZeros_0 10 rfl rfl)
theorem dJ26_numberOfTrailingZeros_12 : decode cJ26_numberOfTrailingZeros 12 = .ok (.lushr, 1) := dk_125 (dk_at dksJ26_numberOfTrailingZeros_0 12 rfl rfl)
theorem dJ26_numberOfTrailingZeros_13 : decode cJ26_numberOfTrailingZeros 13 = .ok (.l2i, 1) := dk_136 (dk_at dksJ26_numberOfTrailingZeros_0 13 rfl rfl)
theorem dJ26_numberOfTrailingZeros_14 : decode cJ26_numberOfTrailingZeros 14 = .ok (.invokestatic 311, 3) := dk_184 1 55 (dk_at dksJ26_numberOfTrailingZeros_0 14 rfl rfl)
theorem dJ26_numberOfTrailingZeros_17 : decode cJ26_numberOfTrailingZeros 17 = .ok (.iadd, 1) := dk_96 (dk_at dksJ26_numberOfTrailingZeros_0 17 rfl rfl)
theorem dJ26_numberOfTrailingZeros_18 : decode cJ26_numberOfTrailingZeros 18 = .ok (.goto 7, 3) := dk_167 0 7 (dk_at dksJ26_numberOfTrailingZeros_0 18 rfl rfl)
theorem dJ26_numberOfTrailingZeros_21 : decode cJ26_numberOfTrailingZeros 21 = .ok (.iload_n 2, 1) := dk_28 (dk_at dksJ26_numberOfTrailingZeros_0 21 rfl rfl)
theorem dJ26_numberOfTrailingZeros_22 : decode cJ26_numberOfTrailingZeros 22 = .ok (.invokestatic 311, 3) := dk_184 1 55 (dk_at dksJ26_numberOfTrailingZeros_1 0 rfl rfl)
theorem dJ26_numberOfTrailingZeros_25 : decode cJ26_numberOfTrailingZeros 25 = .ok (.ireturn, 1) := dk_172 (dk_at dksJ26_numberOfTrailingZeros_1 3 rfl rfl)
abbrev cJ25_nextClearBit : ByteArray := prog_51_method_29_code
def yJ25_nextClearBit : MethodName := ⟨RJ25, "nextClearBit", "(I)I"⟩
def dkwJ25_nextClearBit_4 : List UInt8 := [42, 180, 0, 7, 16, 64, 104, 172, 42, 180, 0, 11, 28, 47, 20, 0, 165, 131, 66, 167, 255, 210]
abbrev dktJ25_nextClearBit_4 : List UInt8 := dkwJ25_nextClearBit_4 ++ []
def dkwJ25_nextClearBit_3 : List UInt8 := [153, 0, 13, 28, 16, 64, 104, 33, 184, 0, 182, 96, 172, 132, 2, 1, 28, 42, 180, 0, 7, 160, 0, 11]
abbrev dktJ25_nextClearBit_3 : List UInt8 := dkwJ25_nextClearBit_3 ++ dktJ25_nextClearBit_4
def dkwJ25_nextClearBit_2 : List UInt8 := [27, 172, 42, 180, 0, 11, 28, 47, 20, 0, 165, 131, 20, 0, 165, 27, 121, 127, 66, 33, 9, 148]
abbrev dktJ25_nextClearBit_2 : List UInt8 := dkwJ25_nextClearBit_2 ++ dktJ25_nextClearBit_3
def dkwJ25_nextClearBit_1 : List UInt8 := [182, 0, 45, 183, 0, 146, 191, 42, 182, 0, 56, 27, 184, 0, 52, 61, 28, 42, 180, 0, 7, 161, 0, 5]
abbrev dktJ25_nextClearBit_1 : List UInt8 := dkwJ25_nextClearBit_1 ++ dktJ25_nextClearBit_2
def dkwJ25_nextClearBit_0 : List UInt8 := [27, 156, 0, 30, 187, 0, 142, 89, 187, 0, 33, 89, 183, 0, 35, 18, 144, 182, 0, 38, 27, 182, 0, 42]
abbrev dktJ25_nextClearBit_0 : List UInt8 := dkwJ25_nextClearBit_0 ++ dktJ25_nextClearBit_1
theorem dksJ25_nextClearBit_0 : cJ25_nextClearBit.data.toList.drop 0 = dktJ25_nextClearBit_0 := by decide +kernel
theorem dksJ25_nextClearBit_1 : cJ25_nextClearBit.data.toList.drop 24 = dktJ25_nextClearBit_1 := dk_seg dksJ25_nextClearBit_0 24 rfl rfl
theorem dksJ25_nextClearBit_2 : cJ25_nextClearBit.data.toList.drop 48 = dktJ25_nextClearBit_2 := dk_seg dksJ25_nextClearBit_1 24 rfl rfl
theorem dksJ25_nextClearBit_3 : cJ25_nextClearBit.data.toList.drop 70 = dktJ25_nextClearBit_3 := dk_seg dksJ25_nextClearBit_2 22 rfl rfl
theorem dksJ25_nextClearBit_4 : cJ25_nextClearBit.data.toList.drop 94 = dktJ25_nextClearBit_4 := dk_seg dksJ25_nextClearBit_3 24 rfl rfl
theorem dJ25_nextClearBit_0 : decode cJ25_nextClearBit 0 = .ok (.iload_n 1, 1) := dk_27 (dk_at dksJ25_nextClearBit_0 0 rfl rfl)
theorem dJ25_nextClearBit_1 : decode cJ25_nextClearBit 1 = .ok (.ifCond .ge 30, 3) := dk_156 0 30 (dk_at dksJ25_nextClearBit_0 1 rfl rfl)
theorem dJ25_nextClearBit_4 : decode cJ25_nextClearBit 4 = .ok (.new 142, 3) := dk_187 0 142 (dk_at dksJ25_nextClearBit_0 4 rfl rfl)
theorem dJ25_nextClearBit_7 : decode cJ25_nextClearBit 7 = .ok (.dup, 1) := dk_89 (dk_at dksJ25_nextClearBit_0 7 rfl rfl)
theorem dJ25_nextClearBit_8 : decode cJ25_nextClearBit 8 = .ok (.new 33, 3) := dk_187 0 33 (dk_at dksJ25_nextClearBit_0 8 rfl rfl)
theorem dJ25_nextClearBit_11 : decode cJ25_nextClearBit 11 = .ok (.dup, 1) := dk_89 (dk_at dksJ25_nextClearBit_0 11 rfl rfl)
theorem dJ25_nextClearBit_12 : decode cJ25_nextClearBit 12 = .ok (.invokespecial 35, 3) := dk_183 0 35 (dk_at dksJ25_nextClearBit_0 12 rfl rfl)
theorem dJ25_nextClearBit_15 : decode cJ25_nextClearBit 15 = .ok (.ldc 144, 2) := dk_18 144 (dk_at dksJ25_nextClearBit_0 15 rfl rfl)
theorem dJ25_nextClearBit_17 : decode cJ25_nextClearBit 17 = .ok (.invokevirtual 38, 3) := dk_182 0 38 (dk_at dksJ25_nextClearBit_0 17 rfl rfl)
theorem dJ25_nextClearBit_20 : decode cJ25_nextClearBit 20 = .ok (.iload_n 1, 1) := dk_27 (dk_at dksJ25_nextClearBit_0 20 rfl rfl)
theorem dJ25_nextClearBit_21 : decode cJ25_nextClearBit 21 = .ok (.invokevirtual 42, 3) := dk_182 0 42 (dk_at dksJ25_nextClearBit_0 21 rfl rfl)
theorem dJ25_nextClearBit_24 : decode cJ25_nextClearBit 24 = .ok (.invokevirtual 45, 3) := dk_182 0 45 (dk_at dksJ25_nextClearBit_1 0 rfl rfl)
theorem dJ25_nextClearBit_27 : decode cJ25_nextClearBit 27 = .ok (.invokespecial 146, 3) := dk_183 0 146 (dk_at dksJ25_nextClearBit_1 3 rfl rfl)
theorem dJ25_nextClearBit_30 : decode cJ25_nextClearBit 30 = .ok (.athrow, 1) := dk_191 (dk_at dksJ25_nextClearBit_1 6 rfl rfl)
theorem dJ25_nextClearBit_31 : decode cJ25_nextClearBit 31 = .ok (.aload_n 0, 1) := dk_42 (dk_at dksJ25_nextClearBit_1 7 rfl rfl)
theorem dJ25_nextClearBit_32 : decode cJ25_nextClearBit 32 = .ok (.invokevirtual 56, 3) := dk_182 0 56 (dk_at dksJ25_nextClearBit_1 8 rfl rfl)
theorem dJ25_nextClearBit_35 : decode cJ25_nextClearBit 35 = .ok (.iload_n 1, 1) := dk_27 (dk_at dksJ25_nextClearBit_1 11 rfl rfl)
theorem dJ25_nextClearBit_36 : decode cJ25_nextClearBit 36 = .ok (.invokestatic 52, 3) := dk_184 0 52 (dk_at dksJ25_nextClearBit_1 12 rfl rfl)
theorem dJ25_nextClearBit_39 : decode cJ25_nextClearBit 39 = .ok (.istore_n 2, 1) := dk_61 (dk_at dksJ25_nextClearBit_1 15 rfl rfl)
theorem dJ25_nextClearBit_40 : decode cJ25_nextClearBit 40 = .ok (.iload_n 2, 1) := dk_28 (dk_at dksJ25_nextClearBit_1 16 rfl rfl)
theorem dJ25_nextClearBit_41 : decode cJ25_nextClearBit 41 = .ok (.aload_n 0, 1) := dk_42 (dk_at dksJ25_nextClearBit_1 17 rfl rfl)
theorem dJ25_nextClearBit_42 : decode cJ25_nextClearBit 42 = .ok (.getfield 7, 3) := dk_180 0 7 (dk_at dksJ25_nextClearBit_1 18 rfl rfl)
theorem dJ25_nextClearBit_45 : decode cJ25_nextClearBit 45 = .ok (.if_icmp .lt 5, 3) := dk_161 0 5 (dk_at dksJ25_nextClearBit_1 21 rfl rfl)
theorem dJ25_nextClearBit_48 : decode cJ25_nextClearBit 48 = .ok (.iload_n 1, 1) := dk_27 (dk_at dksJ25_nextClearBit_2 0 rfl rfl)
theorem dJ25_nextClearBit_49 : decode cJ25_nextClearBit 49 = .ok (.ireturn, 1) := dk_172 (dk_at dksJ25_nextClearBit_2 1 rfl rfl)
theorem dJ25_nextClearBit_50 : decode cJ25_nextClearBit 50 = .ok (.aload_n 0, 1) := dk_42 (dk_at dksJ25_nextClearBit_2 2 rfl rfl)
theorem dJ25_nextClearBit_51 : decode cJ25_nextClearBit 51 = .ok (.getfield 11, 3) := dk_180 0 11 (dk_at dksJ25_nextClearBit_2 3 rfl rfl)
theorem dJ25_nextClearBit_54 : decode cJ25_nextClearBit 54 = .ok (.iload_n 2, 1) := dk_28 (dk_at dksJ25_nextClearBit_2 6 rfl rfl)
theorem dJ25_nextClearBit_55 : decode cJ25_nextClearBit 55 = .ok (.laload, 1) := dk_47 (dk_at dksJ25_nextClearBit_2 7 rfl rfl)
theorem dJ25_nextClearBit_56 : decode cJ25_nextClearBit 56 = .ok (.ldc2_w 165, 3) := dk_20 0 165 (dk_at dksJ25_nextClearBit_2 8 rfl rfl)
theorem dJ25_nextClearBit_59 : decode cJ25_nextClearBit 59 = .ok (.lxor, 1) := dk_131 (dk_at dksJ25_nextClearBit_2 11 rfl rfl)
theorem dJ25_nextClearBit_60 : decode cJ25_nextClearBit 60 = .ok (.ldc2_w 165, 3) := dk_20 0 165 (dk_at dksJ25_nextClearBit_2 12 rfl rfl)
theorem dJ25_nextClearBit_63 : decode cJ25_nextClearBit 63 = .ok (.iload_n 1, 1) := dk_27 (dk_at dksJ25_nextClearBit_2 15 rfl rfl)
theorem dJ25_nextClearBit_64 : decode cJ25_nextClearBit 64 = .ok (.lshl, 1) := dk_121 (dk_at dksJ25_nextClearBit_2 16 rfl rfl)
theorem dJ25_nextClearBit_65 : decode cJ25_nextClearBit 65 = .ok (.land, 1) := dk_127 (dk_at dksJ25_nextClearBit_2 17 rfl rfl)
theorem dJ25_nextClearBit_66 : decode cJ25_nextClearBit 66 = .ok (.lstore_n 3, 1) := dk_66 (dk_at dksJ25_nextClearBit_2 18 rfl rfl)
theorem dJ25_nextClearBit_67 : decode cJ25_nextClearBit 67 = .ok (.lload_n 3, 1) := dk_33 (dk_at dksJ25_nextClearBit_2 19 rfl rfl)
theorem dJ25_nextClearBit_68 : decode cJ25_nextClearBit 68 = .ok (.lconst 0, 1) := dk_9 (dk_at dksJ25_nextClearBit_2 20 rfl rfl)
theorem dJ25_nextClearBit_69 : decode cJ25_nextClearBit 69 = .ok (.lcmp, 1) := dk_148 (dk_at dksJ25_nextClearBit_2 21 rfl rfl)
theorem dJ25_nextClearBit_70 : decode cJ25_nextClearBit 70 = .ok (.ifCond .eq 13, 3) := dk_153 0 13 (dk_at dksJ25_nextClearBit_3 0 rfl rfl)
theorem dJ25_nextClearBit_73 : decode cJ25_nextClearBit 73 = .ok (.iload_n 2, 1) := dk_28 (dk_at dksJ25_nextClearBit_3 3 rfl rfl)
theorem dJ25_nextClearBit_74 : decode cJ25_nextClearBit 74 = .ok (.bipush 64, 2) := dk_16 64 (dk_at dksJ25_nextClearBit_3 4 rfl rfl)
theorem dJ25_nextClearBit_76 : decode cJ25_nextClearBit 76 = .ok (.imul, 1) := dk_104 (dk_at dksJ25_nextClearBit_3 6 rfl rfl)
theorem dJ25_nextClearBit_77 : decode cJ25_nextClearBit 77 = .ok (.lload_n 3, 1) := dk_33 (dk_at dksJ25_nextClearBit_3 7 rfl rfl)
theorem dJ25_nextClearBit_78 : decode cJ25_nextClearBit 78 = .ok (.invokestatic 182, 3) := dk_184 0 182 (dk_at dksJ25_nextClearBit_3 8 rfl rfl)
theorem dJ25_nextClearBit_81 : decode cJ25_nextClearBit 81 = .ok (.iadd, 1) := dk_96 (dk_at dksJ25_nextClearBit_3 11 rfl rfl)
theorem dJ25_nextClearBit_82 : decode cJ25_nextClearBit 82 = .ok (.ireturn, 1) := dk_172 (dk_at dksJ25_nextClearBit_3 12 rfl rfl)
theorem dJ25_nextClearBit_83 : decode cJ25_nextClearBit 83 = .ok (.iinc 2 1, 3) := dk_132 2 1 (dk_at dksJ25_nextClearBit_3 13 rfl rfl)
theorem dJ25_nextClearBit_86 : decode cJ25_nextClearBit 86 = .ok (.iload_n 2, 1) := dk_28 (dk_at dksJ25_nextClearBit_3 16 rfl rfl)
theorem dJ25_nextClearBit_87 : decode cJ25_nextClearBit 87 = .ok (.aload_n 0, 1) := dk_42 (dk_at dksJ25_nextClearBit_3 17 rfl rfl)
theorem dJ25_nextClearBit_88 : decode cJ25_nextClearBit 88 = .ok (.getfield 7, 3) := dk_180 0 7 (dk_at dksJ25_nextClearBit_3 18 rfl rfl)
theorem dJ25_nextClearBit_91 : decode cJ25_nextClearBit 91 = .ok (.if_icmp .ne 11, 3) := dk_160 0 11 (dk_at dksJ25_nextClearBit_3 21 rfl rfl)
theorem dJ25_nextClearBit_94 : decode cJ25_nextClearBit 94 = .ok (.aload_n 0, 1) := dk_42 (dk_at dksJ25_nextClearBit_4 0 rfl rfl)
theorem dJ25_nextClearBit_95 : decode cJ25_nextClearBit 95 = .ok (.getfield 7, 3) := dk_180 0 7 (dk_at dksJ25_nextClearBit_4 1 rfl rfl)
theorem dJ25_nextClearBit_98 : decode cJ25_nextClearBit 98 = .ok (.bipush 64, 2) := dk_16 64 (dk_at dksJ25_nextClearBit_4 4 rfl rfl)
theorem dJ25_nextClearBit_100 : decode cJ25_nextClearBit 100 = .ok (.imul, 1) := dk_104 (dk_at dksJ25_nextClearBit_4 6 rfl rfl)
theorem dJ25_nextClearBit_101 : decode cJ25_nextClearBit 101 = .ok (.ireturn, 1) := dk_172 (dk_at dksJ25_nextClearBit_4 7 rfl rfl)
theorem dJ25_nextClearBit_102 : decode cJ25_nextClearBit 102 = .ok (.aload_n 0, 1) := dk_42 (dk_at dksJ25_nextClearBit_4 8 rfl rfl)
theorem dJ25_nextClearBit_103 : decode cJ25_nextClearBit 103 = .ok (.getfield 11, 3) := dk_180 0 11 (dk_at dksJ25_nextClearBit_4 9 rfl rfl)
theorem dJ25_nextClearBit_106 : decode cJ25_nextClearBit 106 = .ok (.iload_n 2, 1) := dk_28 (dk_at dksJ25_nextClearBit_4 12 rfl rfl)
theorem dJ25_nextClearBit_107 : decode cJ25_nextClearBit 107 = .ok (.laload, 1) := dk_47 (dk_at dksJ25_nextClearBit_4 13 rfl rfl)
theorem dJ25_nextClearBit_108 : decode cJ25_nextClearBit 108 = .ok (.ldc2_w 165, 3) := dk_20 0 165 (dk_at dksJ25_nextClearBit_4 14 rfl rfl)
theorem dJ25_nextClearBit_111 : decode cJ25_nextClearBit 111 = .ok (.lxor, 1) := dk_131 (dk_at dksJ25_nextClearBit_4 17 rfl rfl)
theorem dJ25_nextClearBit_112 : decode cJ25_nextClearBit 112 = .ok (.lstore_n 3, 1) := dk_66 (dk_at dksJ25_nextClearBit_4 18 rfl rfl)
theorem dJ25_nextClearBit_113 : decode cJ25_nextClearBit 113 = .ok (.goto (-46), 3) := dk_167 255 210 (dk_at dksJ25_nextClearBit_4 19 rfl rfl)
abbrev cX1_firstEmpty : ByteArray := prog_1_method_30_code
def yX1_firstEmpty : MethodName := ⟨RX1, "firstEmpty", "()I"⟩
def dkwX1_firstEmpty_1 : List UInt8 := [162, 0, 7, 27, 167, 0, 4, 2, 172]
abbrev dktX1_firstEmpty_1 : List UInt8 := dkwX1_firstEmpty_1 ++ []
def dkwX1_firstEmpty_0 : List UInt8 := [42, 182, 0, 76, 182, 0, 158, 3, 182, 0, 221, 60, 27, 4, 42, 180, 0, 68, 180, 0, 101, 120]
abbrev dktX1_firstEmpty_0 : List UInt8 := dkwX1_firstEmpty_0 ++ dktX1_firstEmpty_1
theorem dksX1_firstEmpty_0 : cX1_firstEmpty.data.toList.drop 0 = dktX1_firstEmpty_0 := by decide +kernel
theorem dksX1_firstEmpty_1 : cX1_firstEmpty.data.toList.drop 22 = dktX1_firstEmpty_1 := dk_seg dksX1_firstEmpty_0 22 rfl rfl
theorem dX1_firstEmpty_0 : decode cX1_firstEmpty 0 = .ok (.aload_n 0, 1) := dk_42 (dk_at dksX1_firstEmpty_0 0 rfl rfl)
theorem dX1_firstEmpty_1 : decode cX1_firstEmpty 1 = .ok (.invokevirtual 76, 3) := dk_182 0 76 (dk_at dksX1_firstEmpty_0 1 rfl rfl)
theorem dX1_firstEmpty_4 : decode cX1_firstEmpty 4 = .ok (.invokevirtual 158, 3) := dk_182 0 158 (dk_at dksX1_firstEmpty_0 4 rfl rfl)
theorem dX1_firstEmpty_7 : decode cX1_firstEmpty 7 = .ok (.iconst 0, 1) := dk_3 (dk_at dksX1_firstEmpty_0 7 rfl rfl)
theorem dX1_firstEmpty_8 : decode cX1_firstEmpty 8 = .ok (.invokevirtual 221, 3) := dk_182 0 221 (dk_at dksX1_firstEmpty_0 8 rfl rfl)
theorem dX1_firstEmpty_11 : decode cX1_firstEmpty 11 = .ok (.istore_n 1, 1) := dk_60 (dk_at dksX1_firstEmpty_0 11 rfl rfl)
theorem dX1_firstEmpty_12 : decode cX1_firstEmpty 12 = .ok (.iload_n 1, 1) := dk_27 (dk_at dksX1_firstEmpty_0 12 rfl rfl)
theorem dX1_firstEmpty_13 : decode cX1_firstEmpty 13 = .ok (.iconst 1, 1) := dk_4 (dk_at dksX1_firstEmpty_0 13 rfl rfl)
theorem dX1_firstEmpty_14 : decode cX1_firstEmpty 14 = .ok (.aload_n 0, 1) := dk_42 (dk_at dksX1_firstEmpty_0 14 rfl rfl)
theorem dX1_firstEmpty_15 : decode cX1_firstEmpty 15 = .ok (.getfield 68, 3) := dk_180 0 68 (dk_at dksX1_firstEmpty_0 15 rfl rfl)
theorem dX1_firstEmpty_18 : decode cX1_firstEmpty 18 = .ok (.getfield 101, 3) := dk_180 0 101 (dk_at dksX1_firstEmpty_0 18 rfl rfl)
theorem dX1_firstEmpty_21 : decode cX1_firstEmpty 21 = .ok (.ishl, 1) := dk_120 (dk_at dksX1_firstEmpty_0 21 rfl rfl)
theorem dX1_firstEmpty_22 : decode cX1_firstEmpty 22 = .ok (.if_icmp .ge 7, 3) := dk_162 0 7 (dk_at dksX1_firstEmpty_1 0 rfl rfl)
theorem dX1_firstEmpty_25 : decode cX1_firstEmpty 25 = .ok (.iload_n 1, 1) := dk_27 (dk_at dksX1_firstEmpty_1 3 rfl rfl)
theorem dX1_firstEmpty_26 : decode cX1_firstEmpty 26 = .ok (.goto 4, 3) := dk_167 0 4 (dk_at dksX1_firstEmpty_1 4 rfl rfl)
theorem dX1_firstEmpty_29 : decode cX1_firstEmpty 29 = .ok (.iconst (-1), 1) := dk_2 (dk_at dksX1_firstEmpty_1 7 rfl rfl)
theorem dX1_firstEmpty_30 : decode cX1_firstEmpty 30 = .ok (.ireturn, 1) := dk_172 (dk_at dksX1_firstEmpty_1 8 rfl rfl)
abbrev cJ25_nextSetBit : ByteArray := prog_51_method_28_code
def yJ25_nextSetBit : MethodName := ⟨RJ25, "nextSetBit", "(I)I"⟩
def dkwJ25_nextSetBit_4 : List UInt8 := [28, 47, 66, 167, 255, 220]
abbrev dktJ25_nextSetBit_4 : List UInt8 := dkwJ25_nextSetBit_4 ++ []
def dkwJ25_nextSetBit_3 : List UInt8 := [104, 33, 184, 0, 182, 96, 172, 132, 2, 1, 28, 42, 180, 0, 7, 160, 0, 5, 2, 172, 42, 180, 0, 11]
abbrev dktJ25_nextSetBit_3 : List UInt8 := dkwJ25_nextSetBit_3 ++ dktJ25_nextSetBit_4
def dkwJ25_nextSetBit_2 : List UInt8 := [2, 172, 42, 180, 0, 11, 28, 47, 20, 0, 165, 27, 121, 127, 66, 33, 9, 148, 153, 0, 13, 28, 16, 64]
abbrev dktJ25_nextSetBit_2 : List UInt8 := dkwJ25_nextSetBit_2 ++ dktJ25_nextSetBit_3
def dkwJ25_nextSetBit_1 : List UInt8 := [182, 0, 45, 183, 0, 146, 191, 42, 182, 0, 56, 27, 184, 0, 52, 61, 28, 42, 180, 0, 7, 161, 0, 5]
abbrev dktJ25_nextSetBit_1 : List UInt8 := dkwJ25_nextSetBit_1 ++ dktJ25_nextSetBit_2
def dkwJ25_nextSetBit_0 : List UInt8 := [27, 156, 0, 30, 187, 0, 142, 89, 187, 0, 33, 89, 183, 0, 35, 18, 144, 182, 0, 38, 27, 182, 0, 42]
abbrev dktJ25_nextSetBit_0 : List UInt8 := dkwJ25_nextSetBit_0 ++ dktJ25_nextSetBit_1
theorem dksJ25_nextSetBit_0 : cJ25_nextSetBit.data.toList.drop 0 = dktJ25_nextSetBit_0 := by decide +kernel
theorem dksJ25_nextSetBit_1 : cJ25_nextSetBit.data.toList.drop 24 = dktJ25_nextSetBit_1 := dk_seg dksJ25_nextSetBit_0 24 rfl rfl
theorem dksJ25_nextSetBit_2 : cJ25_nextSetBit.data.toList.drop 48 = dktJ25_nextSetBit_2 := dk_seg dksJ25_nextSetBit_1 24 rfl rfl
theorem dksJ25_nextSetBit_3 : cJ25_nextSetBit.data.toList.drop 72 = dktJ25_nextSetBit_3 := dk_seg dksJ25_nextSetBit_2 24 rfl rfl
theorem dksJ25_nextSetBit_4 : cJ25_nextSetBit.data.toList.drop 96 = dktJ25_nextSetBit_4 := dk_seg dksJ25_nextSetBit_3 24 rfl rfl
theorem dJ25_nextSetBit_0 : decode cJ25_nextSetBit 0 = .ok (.iload_n 1, 1) := dk_27 (dk_at dksJ25_nextSetBit_0 0 rfl rfl)
theorem dJ25_nextSetBit_1 : decode cJ25_nextSetBit 1 = .ok (.ifCond .ge 30, 3) := dk_156 0 30 (dk_at dksJ25_nextSetBit_0 1 rfl rfl)
theorem dJ25_nextSetBit_4 : decode cJ25_nextSetBit 4 = .ok (.new 142, 3) := dk_187 0 142 (dk_at dksJ25_nextSetBit_0 4 rfl rfl)
theorem dJ25_nextSetBit_7 : decode cJ25_nextSetBit 7 = .ok (.dup, 1) := dk_89 (dk_at dksJ25_nextSetBit_0 7 rfl rfl)
theorem dJ25_nextSetBit_8 : decode cJ25_nextSetBit 8 = .ok (.new 33, 3) := dk_187 0 33 (dk_at dksJ25_nextSetBit_0 8 rfl rfl)
theorem dJ25_nextSetBit_11 : decode cJ25_nextSetBit 11 = .ok (.dup, 1) := dk_89 (dk_at dksJ25_nextSetBit_0 11 rfl rfl)
theorem dJ25_nextSetBit_12 : decode cJ25_nextSetBit 12 = .ok (.invokespecial 35, 3) := dk_183 0 35 (dk_at dksJ25_nextSetBit_0 12 rfl rfl)
theorem dJ25_nextSetBit_15 : decode cJ25_nextSetBit 15 = .ok (.ldc 144, 2) := dk_18 144 (dk_at dksJ25_nextSetBit_0 15 rfl rfl)
theorem dJ25_nextSetBit_17 : decode cJ25_nextSetBit 17 = .ok (.invokevirtual 38, 3) := dk_182 0 38 (dk_at dksJ25_nextSetBit_0 17 rfl rfl)
theorem dJ25_nextSetBit_20 : decode cJ25_nextSetBit 20 = .ok (.iload_n 1, 1) := dk_27 (dk_at dksJ25_nextSetBit_0 20 rfl rfl)
theorem dJ25_nextSetBit_21 : decode cJ25_nextSetBit 21 = .ok (.invokevirtual 42, 3) := dk_182 0 42 (dk_at dksJ25_nextSetBit_0 21 rfl rfl)
theorem dJ25_nextSetBit_24 : decode cJ25_nextSetBit 24 = .ok (.invokevirtual 45, 3) := dk_182 0 45 (dk_at dksJ25_nextSetBit_1 0 rfl rfl)
theorem dJ25_nextSetBit_27 : decode cJ25_nextSetBit 27 = .ok (.invokespecial 146, 3) := dk_183 0 146 (dk_at dksJ25_nextSetBit_1 3 rfl rfl)
theorem dJ25_nextSetBit_30 : decode cJ25_nextSetBit 30 = .ok (.athrow, 1) := dk_191 (dk_at dksJ25_nextSetBit_1 6 rfl rfl)
theorem dJ25_nextSetBit_31 : decode cJ25_nextSetBit 31 = .ok (.aload_n 0, 1) := dk_42 (dk_at dksJ25_nextSetBit_1 7 rfl rfl)
theorem dJ25_nextSetBit_32 : decode cJ25_nextSetBit 32 = .ok (.invokevirtual 56, 3) := dk_182 0 56 (dk_at dksJ25_nextSetBit_1 8 rfl rfl)
theorem dJ25_nextSetBit_35 : decode cJ25_nextSetBit 35 = .ok (.iload_n 1, 1) := dk_27 (dk_at dksJ25_nextSetBit_1 11 rfl rfl)
theorem dJ25_nextSetBit_36 : decode cJ25_nextSetBit 36 = .ok (.invokestatic 52, 3) := dk_184 0 52 (dk_at dksJ25_nextSetBit_1 12 rfl rfl)
theorem dJ25_nextSetBit_39 : decode cJ25_nextSetBit 39 = .ok (.istore_n 2, 1) := dk_61 (dk_at dksJ25_nextSetBit_1 15 rfl rfl)
theorem dJ25_nextSetBit_40 : decode cJ25_nextSetBit 40 = .ok (.iload_n 2, 1) := dk_28 (dk_at dksJ25_nextSetBit_1 16 rfl rfl)
theorem dJ25_nextSetBit_41 : decode cJ25_nextSetBit 41 = .ok (.aload_n 0, 1) := dk_42 (dk_at dksJ25_nextSetBit_1 17 rfl rfl)
theorem dJ25_nextSetBit_42 : decode cJ25_nextSetBit 42 = .ok (.getfield 7, 3) := dk_180 0 7 (dk_at dksJ25_nextSetBit_1 18 rfl rfl)
theorem dJ25_nextSetBit_45 : decode cJ25_nextSetBit 45 = .ok (.if_icmp .lt 5, 3) := dk_161 0 5 (dk_at dksJ25_nextSetBit_1 21 rfl rfl)
theorem dJ25_nextSetBit_48 : decode cJ25_nextSetBit 48 = .ok (.iconst (-1), 1) := dk_2 (dk_at dksJ25_nextSetBit_2 0 rfl rfl)
theorem dJ25_nextSetBit_49 : decode cJ25_nextSetBit 49 = .ok (.ireturn, 1) := dk_172 (dk_at dksJ25_nextSetBit_2 1 rfl rfl)
theorem dJ25_nextSetBit_50 : decode cJ25_nextSetBit 50 = .ok (.aload_n 0, 1) := dk_42 (dk_at dksJ25_nextSetBit_2 2 rfl rfl)
theorem dJ25_nextSetBit_51 : decode cJ25_nextSetBit 51 = .ok (.getfield 11, 3) := dk_180 0 11 (dk_at dksJ25_nextSetBit_2 3 rfl rfl)
theorem dJ25_nextSetBit_54 : decode cJ25_nextSetBit 54 = .ok (.iload_n 2, 1) := dk_28 (dk_at dksJ25_nextSetBit_2 6 rfl rfl)
theorem dJ25_nextSetBit_55 : decode cJ25_nextSetBit 55 = .ok (.laload, 1) := dk_47 (dk_at dksJ25_nextSetBit_2 7 rfl rfl)
theorem dJ25_nextSetBit_56 : decode cJ25_nextSetBit 56 = .ok (.ldc2_w 165, 3) := dk_20 0 165 (dk_at dksJ25_nextSetBit_2 8 rfl rfl)
theorem dJ25_nextSetBit_59 : decode cJ25_nextSetBit 59 = .ok (.iload_n 1, 1) := dk_27 (dk_at dksJ25_nextSetBit_2 11 rfl rfl)
theorem dJ25_nextSetBit_60 : decode cJ25_nextSetBit 60 = .ok (.lshl, 1) := dk_121 (dk_at dksJ25_nextSetBit_2 12 rfl rfl)
theorem dJ25_nextSetBit_61 : decode cJ25_nextSetBit 61 = .ok (.land, 1) := dk_127 (dk_at dksJ25_nextSetBit_2 13 rfl rfl)
theorem dJ25_nextSetBit_62 : decode cJ25_nextSetBit 62 = .ok (.lstore_n 3, 1) := dk_66 (dk_at dksJ25_nextSetBit_2 14 rfl rfl)
theorem dJ25_nextSetBit_63 : decode cJ25_nextSetBit 63 = .ok (.lload_n 3, 1) := dk_33 (dk_at dksJ25_nextSetBit_2 15 rfl rfl)
theorem dJ25_nextSetBit_64 : decode cJ25_nextSetBit 64 = .ok (.lconst 0, 1) := dk_9 (dk_at dksJ25_nextSetBit_2 16 rfl rfl)
theorem dJ25_nextSetBit_65 : decode cJ25_nextSetBit 65 = .ok (.lcmp, 1) := dk_148 (dk_at dksJ25_nextSetBit_2 17 rfl rfl)
theorem dJ25_nextSetBit_66 : decode cJ25_nextSetBit 66 = .ok (.ifCond .eq 13, 3) := dk_153 0 13 (dk_at dksJ25_nextSetBit_2 18 rfl rfl)
theorem dJ25_nextSetBit_69 : decode cJ25_nextSetBit 69 = .ok (.iload_n 2, 1) := dk_28 (dk_at dksJ25_nextSetBit_2 21 rfl rfl)
theorem dJ25_nextSetBit_70 : decode cJ25_nextSetBit 70 = .ok (.bipush 64, 2) := dk_16 64 (dk_at dksJ25_nextSetBit_2 22 rfl rfl)
theorem dJ25_nextSetBit_72 : decode cJ25_nextSetBit 72 = .ok (.imul, 1) := dk_104 (dk_at dksJ25_nextSetBit_3 0 rfl rfl)
theorem dJ25_nextSetBit_73 : decode cJ25_nextSetBit 73 = .ok (.lload_n 3, 1) := dk_33 (dk_at dksJ25_nextSetBit_3 1 rfl rfl)
theorem dJ25_nextSetBit_74 : decode cJ25_nextSetBit 74 = .ok (.invokestatic 182, 3) := dk_184 0 182 (dk_at dksJ25_nextSetBit_3 2 rfl rfl)
theorem dJ25_nextSetBit_77 : decode cJ25_nextSetBit 77 = .ok (.iadd, 1) := dk_96 (dk_at dksJ25_nextSetBit_3 5 rfl rfl)
theorem dJ25_nextSetBit_78 : decode cJ25_nextSetBit 78 = .ok (.ireturn, 1) := dk_172 (dk_at dksJ25_nextSetBit_3 6 rfl rfl)
theorem dJ25_nextSetBit_79 : decode cJ25_nextSetBit 79 = .ok (.iinc 2 1, 3) := dk_132 2 1 (dk_at dksJ25_nextSetBit_3 7 rfl rfl)
theorem dJ25_nextSetBit_82 : decode cJ25_nextSetBit 82 = .ok (.iload_n 2, 1) := dk_28 (dk_at dksJ25_nextSetBit_3 10 rfl rfl)
theorem dJ25_nextSetBit_83 : decode cJ25_nextSetBit 83 = .ok (.aload_n 0, 1) := dk_42 (dk_at dksJ25_nextSetBit_3 11 rfl rfl)
theorem dJ25_nextSetBit_84 : decode cJ25_nextSetBit 84 = .ok (.getfield 7, 3) := dk_180 0 7 (dk_at dksJ25_nextSetBit_3 12 rfl rfl)
theorem dJ25_nextSetBit_87 : decode cJ25_nextSetBit 87 = .ok (.if_icmp .ne 5, 3) := dk_160 0 5 (dk_at dksJ25_nextSetBit_3 15 rfl rfl)
theorem dJ25_nextSetBit_90 : decode cJ25_nextSetBit 90 = .ok (.iconst (-1), 1) := dk_2 (dk_at dksJ25_nextSetBit_3 18 rfl rfl)
theorem dJ25_nextSetBit_91 : decode cJ25_nextSetBit 91 = .ok (.ireturn, 1) := dk_172 (dk_at dksJ25_nextSetBit_3 19 rfl rfl)
theorem dJ25_nextSetBit_92 : decode cJ25_nextSetBit 92 = .ok (.aload_n 0, 1) := dk_42 (dk_at dksJ25_nextSetBit_3 20 rfl rfl)
theorem dJ25_nextSetBit_93 : decode cJ25_nextSetBit 93 = .ok (.getfield 11, 3) := dk_180 0 11 (dk_at dksJ25_nextSetBit_3 21 rfl rfl)
theorem dJ25_nextSetBit_96 : decode cJ25_nextSetBit 96 = .ok (.iload_n 2, 1) := dk_28 (dk_at dksJ25_nextSetBit_4 0 rfl rfl)
theorem dJ25_nextSetBit_97 : decode cJ25_nextSetBit 97 = .ok (.laload, 1) := dk_47 (dk_at dksJ25_nextSetBit_4 1 rfl rfl)
theorem dJ25_nextSetBit_98 : decode cJ25_nextSetBit 98 = .ok (.lstore_n 3, 1) := dk_66 (dk_at dksJ25_nextSetBit_4 2 rfl rfl)
theorem dJ25_nextSetBit_99 : decode cJ25_nextSetBit 99 = .ok (.goto (-36), 3) := dk_167 255 220 (dk_at dksJ25_nextSetBit_4 3 rfl rfl)
abbrev cX1_densest : ByteArray := prog_1_method_31_code
def yX1_densest : MethodName := ⟨RX1, "densest", "()I"⟩
def dkwX1_densest_3 : List UInt8 := [182, 0, 224, 54, 4, 167, 255, 201, 28, 172]
abbrev dktX1_densest_3 : List UInt8 := dkwX1_densest_3 ++ []
def dkwX1_densest_2 : List UInt8 := [54, 5, 21, 5, 29, 163, 0, 6, 167, 0, 9, 21, 4, 61, 21, 5, 62, 43, 21, 4, 4, 96]
abbrev dktX1_densest_2 : List UInt8 := dkwX1_densest_2 ++ dktX1_densest_3
def dkwX1_densest_1 : List UInt8 := [42, 180, 0, 68, 42, 180, 0, 68, 42, 180, 0, 68, 180, 0, 101, 21, 4, 182, 0, 104, 182, 0, 208]
abbrev dktX1_densest_1 : List UInt8 := dkwX1_densest_1 ++ dktX1_densest_2
def dkwX1_densest_0 : List UInt8 := [42, 182, 0, 76, 182, 0, 158, 76, 2, 61, 3, 62, 43, 3, 182, 0, 224, 54, 4, 21, 4, 155, 0, 56]
abbrev dktX1_densest_0 : List UInt8 := dkwX1_densest_0 ++ dktX1_densest_1
theorem dksX1_densest_0 : cX1_densest.data.toList.drop 0 = dktX1_densest_0 := by decide +kernel
theorem dksX1_densest_1 : cX1_densest.data.toList.drop 24 = dktX1_densest_1 := dk_seg dksX1_densest_0 24 rfl rfl
theorem dksX1_densest_2 : cX1_densest.data.toList.drop 47 = dktX1_densest_2 := dk_seg dksX1_densest_1 23 rfl rfl
theorem dksX1_densest_3 : cX1_densest.data.toList.drop 69 = dktX1_densest_3 := dk_seg dksX1_densest_2 22 rfl rfl
theorem dX1_densest_0 : decode cX1_densest 0 = .ok (.aload_n 0, 1) := dk_42 (dk_at dksX1_densest_0 0 rfl rfl)
theorem dX1_densest_1 : decode cX1_densest 1 = .ok (.invokevirtual 76, 3) := dk_182 0 76 (dk_at dksX1_densest_0 1 rfl rfl)
theorem dX1_densest_4 : decode cX1_densest 4 = .ok (.invokevirtual 158, 3) := dk_182 0 158 (dk_at dksX1_densest_0 4 rfl rfl)
theorem dX1_densest_7 : decode cX1_densest 7 = .ok (.astore_n 1, 1) := dk_76 (dk_at dksX1_densest_0 7 rfl rfl)
theorem dX1_densest_8 : decode cX1_densest 8 = .ok (.iconst (-1), 1) := dk_2 (dk_at dksX1_densest_0 8 rfl rfl)
theorem dX1_densest_9 : decode cX1_densest 9 = .ok (.istore_n 2, 1) := dk_61 (dk_at dksX1_densest_0 9 rfl rfl)
theorem dX1_densest_10 : decode cX1_densest 10 = .ok (.iconst 0, 1) := dk_3 (dk_at dksX1_densest_0 10 rfl rfl)
theorem dX1_densest_11 : decode cX1_densest 11 = .ok (.istore_n 3, 1) := dk_62 (dk_at dksX1_densest_0 11 rfl rfl)
theorem dX1_densest_12 : decode cX1_densest 12 = .ok (.aload_n 1, 1) := dk_43 (dk_at dksX1_densest_0 12 rfl rfl)
theorem dX1_densest_13 : decode cX1_densest 13 = .ok (.iconst 0, 1) := dk_3 (dk_at dksX1_densest_0 13 rfl rfl)
theorem dX1_densest_14 : decode cX1_densest 14 = .ok (.invokevirtual 224, 3) := dk_182 0 224 (dk_at dksX1_densest_0 14 rfl rfl)
theorem dX1_densest_17 : decode cX1_densest 17 = .ok (.istore 4, 2) := dk_54 4 (dk_at dksX1_densest_0 17 rfl rfl)
theorem dX1_densest_19 : decode cX1_densest 19 = .ok (.iload 4, 2) := dk_21 4 (dk_at dksX1_densest_0 19 rfl rfl)
theorem dX1_densest_21 : decode cX1_densest 21 = .ok (.ifCond .lt 56, 3) := dk_155 0 56 (dk_at dksX1_densest_0 21 rfl rfl)
theorem dX1_densest_24 : decode cX1_densest 24 = .ok (.aload_n 0, 1) := dk_42 (dk_at dksX1_densest_1 0 rfl rfl)
theorem dX1_densest_25 : decode cX1_densest 25 = .ok (.getfield 68, 3) := dk_180 0 68 (dk_at dksX1_densest_1 1 rfl rfl)
theorem dX1_densest_28 : decode cX1_densest 28 = .ok (.aload_n 0, 1) := dk_42 (dk_at dksX1_densest_1 4 rfl rfl)
theorem dX1_densest_29 : decode cX1_densest 29 = .ok (.getfield 68, 3) := dk_180 0 68 (dk_at dksX1_densest_1 5 rfl rfl)
theorem dX1_densest_32 : decode cX1_densest 32 = .ok (.aload_n 0, 1) := dk_42 (dk_at dksX1_densest_1 8 rfl rfl)
theorem dX1_densest_33 : decode cX1_densest 33 = .ok (.getfield 68, 3) := dk_180 0 68 (dk_at dksX1_densest_1 9 rfl rfl)
theorem dX1_densest_36 : decode cX1_densest 36 = .ok (.getfield 101, 3) := dk_180 0 101 (dk_at dksX1_densest_1 12 rfl rfl)
theorem dX1_densest_39 : decode cX1_densest 39 = .ok (.iload 4, 2) := dk_21 4 (dk_at dksX1_densest_1 15 rfl rfl)
theorem dX1_densest_41 : decode cX1_densest 41 = .ok (.invokevirtual 104, 3) := dk_182 0 104 (dk_at dksX1_densest_1 17 rfl rfl)
theorem dX1_densest_44 : decode cX1_densest 44 = .ok (.invokevirtual 208, 3) := dk_182 0 208 (dk_at dksX1_densest_1 20 rfl rfl)
theorem dX1_densest_47 : decode cX1_densest 47 = .ok (.istore 5, 2) := dk_54 5 (dk_at dksX1_densest_2 0 rfl rfl)
theorem dX1_densest_49 : decode cX1_densest 49 = .ok (.iload 5, 2) := dk_21 5 (dk_at dksX1_densest_2 2 rfl rfl)
theorem dX1_densest_51 : decode cX1_densest 51 = .ok (.iload_n 3, 1) := dk_29 (dk_at dksX1_densest_2 4 rfl rfl)
theorem dX1_densest_52 : decode cX1_densest 52 = .ok (.if_icmp .gt 6, 3) := dk_163 0 6 (dk_at dksX1_densest_2 5 rfl rfl)
theorem dX1_densest_55 : decode cX1_densest 55 = .ok (.goto 9, 3) := dk_167 0 9 (dk_at dksX1_densest_2 8 rfl rfl)
theorem dX1_densest_58 : decode cX1_densest 58 = .ok (.iload 4, 2) := dk_21 4 (dk_at dksX1_densest_2 11 rfl rfl)
theorem dX1_densest_60 : decode cX1_densest 60 = .ok (.istore_n 2, 1) := dk_61 (dk_at dksX1_densest_2 13 rfl rfl)
theorem dX1_densest_61 : decode cX1_densest 61 = .ok (.iload 5, 2) := dk_21 5 (dk_at dksX1_densest_2 14 rfl rfl)
theorem dX1_densest_63 : decode cX1_densest 63 = .ok (.istore_n 3, 1) := dk_62 (dk_at dksX1_densest_2 16 rfl rfl)
theorem dX1_densest_64 : decode cX1_densest 64 = .ok (.aload_n 1, 1) := dk_43 (dk_at dksX1_densest_2 17 rfl rfl)
theorem dX1_densest_65 : decode cX1_densest 65 = .ok (.iload 4, 2) := dk_21 4 (dk_at dksX1_densest_2 18 rfl rfl)
theorem dX1_densest_67 : decode cX1_densest 67 = .ok (.iconst 1, 1) := dk_4 (dk_at dksX1_densest_2 20 rfl rfl)
theorem dX1_densest_68 : decode cX1_densest 68 = .ok (.iadd, 1) := dk_96 (dk_at dksX1_densest_2 21 rfl rfl)
theorem dX1_densest_69 : decode cX1_densest 69 = .ok (.invokevirtual 224, 3) := dk_182 0 224 (dk_at dksX1_densest_3 0 rfl rfl)
theorem dX1_densest_72 : decode cX1_densest 72 = .ok (.istore 4, 2) := dk_54 4 (dk_at dksX1_densest_3 3 rfl rfl)
theorem dX1_densest_74 : decode cX1_densest 74 = .ok (.goto (-55), 3) := dk_167 255 201 (dk_at dksX1_densest_3 5 rfl rfl)
theorem dX1_densest_77 : decode cX1_densest 77 = .ok (.iload_n 2, 1) := dk_28 (dk_at dksX1_densest_3 8 rfl rfl)
theorem dX1_densest_78 : decode cX1_densest 78 = .ok (.ireturn, 1) := dk_172 (dk_at dksX1_densest_3 9 rfl rfl)
abbrev cX1_checkOrder : ByteArray := prog_1_method_32_code
def yX1_checkOrder : MethodName := ⟨RX1, "checkOrder", "(I)V"⟩
def dkwX1_checkOrder_0 : List UInt8 := [26, 133, 9, 20, 0, 227, 184, 0, 58, 184, 0, 98, 177]
abbrev dktX1_checkOrder_0 : List UInt8 := dkwX1_checkOrder_0 ++ []
theorem dksX1_checkOrder_0 : cX1_checkOrder.data.toList.drop 0 = dktX1_checkOrder_0 := by decide +kernel
theorem dX1_checkOrder_0 : decode cX1_checkOrder 0 = .ok (.iload_n 0, 1) := dk_26 (dk_at dksX1_checkOrder_0 0 rfl rfl)
theorem dX1_checkOrder_1 : decode cX1_checkOrder 1 = .ok (.i2l, 1) := dk_133 (dk_at dksX1_checkOrder_0 1 rfl rfl)
theorem dX1_checkOrder_2 : decode cX1_checkOrder 2 = .ok (.lconst 0, 1) := dk_9 (dk_at dksX1_checkOrder_0 2 rfl rfl)
theorem dX1_checkOrder_3 : decode cX1_checkOrder 3 = .ok (.ldc2_w 227, 3) := dk_20 0 227 (dk_at dksX1_checkOrder_0 3 rfl rfl)
theorem dX1_checkOrder_6 : decode cX1_checkOrder 6 = .ok (.invokestatic 58, 3) := dk_184 0 58 (dk_at dksX1_checkOrder_0 6 rfl rfl)
theorem dX1_checkOrder_9 : decode cX1_checkOrder 9 = .ok (.invokestatic 98, 3) := dk_184 0 98 (dk_at dksX1_checkOrder_0 9 rfl rfl)
theorem dX1_checkOrder_12 : decode cX1_checkOrder 12 = .ok (.return_, 1) := dk_177 (dk_at dksX1_checkOrder_0 12 rfl rfl)
abbrev cX1_moment : ByteArray := prog_1_method_33_code
def yX1_moment : MethodName := ⟨RX1, "moment", "(III)J"⟩
def dkwX1_moment_0 : List UInt8 := [42, 27, 28, 182, 0, 196, 58, 4, 29, 184, 0, 229, 42, 180, 0, 68, 25, 4, 29, 182, 0, 233, 173]
abbrev dktX1_moment_0 : List UInt8 := dkwX1_moment_0 ++ []
theorem dksX1_moment_0 : cX1_moment.data.toList.drop 0 = dktX1_moment_0 := by decide +kernel
theorem dX1_moment_0 : decode cX1_moment 0 = .ok (.aload_n 0, 1) := dk_42 (dk_at dksX1_moment_0 0 rfl rfl)
theorem dX1_moment_1 : decode cX1_moment 1 = .ok (.iload_n 1, 1) := dk_27 (dk_at dksX1_moment_0 1 rfl rfl)
theorem dX1_moment_2 : decode cX1_moment 2 = .ok (.iload_n 2, 1) := dk_28 (dk_at dksX1_moment_0 2 rfl rfl)
theorem dX1_moment_3 : decode cX1_moment 3 = .ok (.invokevirtual 196, 3) := dk_182 0 196 (dk_at dksX1_moment_0 3 rfl rfl)
theorem dX1_moment_6 : decode cX1_moment 6 = .ok (.astore 4, 2) := dk_58 4 (dk_at dksX1_moment_0 6 rfl rfl)
theorem dX1_moment_8 : decode cX1_moment 8 = .ok (.iload_n 3, 1) := dk_29 (dk_at dksX1_moment_0 8 rfl rfl)
theorem dX1_moment_9 : decode cX1_moment 9 = .ok (.invokestatic 229, 3) := dk_184 0 229 (dk_at dksX1_moment_0 9 rfl rfl)
theorem dX1_moment_12 : decode cX1_moment 12 = .ok (.aload_n 0, 1) := dk_42 (dk_at dksX1_moment_0 12 rfl rfl)
theorem dX1_moment_13 : decode cX1_moment 13 = .ok (.getfield 68, 3) := dk_180 0 68 (dk_at dksX1_moment_0 13 rfl rfl)
theorem dX1_moment_16 : decode cX1_moment 16 = .ok (.aload 4, 2) := dk_25 4 (dk_at dksX1_moment_0 16 rfl rfl)
theorem dX1_moment_18 : decode cX1_moment 18 = .ok (.iload_n 3, 1) := dk_29 (dk_at dksX1_moment_0 18 rfl rfl)
theorem dX1_moment_19 : decode cX1_moment 19 = .ok (.invokevirtual 233, 3) := dk_182 0 233 (dk_at dksX1_moment_0 19 rfl rfl)
theorem dX1_moment_22 : decode cX1_moment 22 = .ok (.lreturn, 1) := dk_173 (dk_at dksX1_moment_0 22 rfl rfl)
abbrev cX1_choose : ByteArray := prog_1_method_4_code
def yX1_choose : MethodName := ⟨RX1, "choose", "(II)J"⟩
def dkwX1_choose_1 : List UInt8 := [65, 132, 4, 1, 167, 255, 233, 32, 173]
abbrev dktX1_choose_1 : List UInt8 := dkwX1_choose_1 ++ []
def dkwX1_choose_0 : List UInt8 := [10, 65, 4, 54, 4, 21, 4, 27, 163, 0, 23, 32, 26, 27, 100, 21, 4, 96, 133, 105, 21, 4, 133, 109]
abbrev dktX1_choose_0 : List UInt8 := dkwX1_choose_0 ++ dktX1_choose_1
theorem dksX1_choose_0 : cX1_choose.data.toList.drop 0 = dktX1_choose_0 := by decide +kernel
theorem dksX1_choose_1 : cX1_choose.data.toList.drop 24 = dktX1_choose_1 := dk_seg dksX1_choose_0 24 rfl rfl
theorem dX1_choose_0 : decode cX1_choose 0 = .ok (.lconst 1, 1) := dk_10 (dk_at dksX1_choose_0 0 rfl rfl)
theorem dX1_choose_1 : decode cX1_choose 1 = .ok (.lstore_n 2, 1) := dk_65 (dk_at dksX1_choose_0 1 rfl rfl)
theorem dX1_choose_2 : decode cX1_choose 2 = .ok (.iconst 1, 1) := dk_4 (dk_at dksX1_choose_0 2 rfl rfl)
theorem dX1_choose_3 : decode cX1_choose 3 = .ok (.istore 4, 2) := dk_54 4 (dk_at dksX1_choose_0 3 rfl rfl)
theorem dX1_choose_5 : decode cX1_choose 5 = .ok (.iload 4, 2) := dk_21 4 (dk_at dksX1_choose_0 5 rfl rfl)
theorem dX1_choose_7 : decode cX1_choose 7 = .ok (.iload_n 1, 1) := dk_27 (dk_at dksX1_choose_0 7 rfl rfl)
theorem dX1_choose_8 : decode cX1_choose 8 = .ok (.if_icmp .gt 23, 3) := dk_163 0 23 (dk_at dksX1_choose_0 8 rfl rfl)
theorem dX1_choose_11 : decode cX1_choose 11 = .ok (.lload_n 2, 1) := dk_32 (dk_at dksX1_choose_0 11 rfl rfl)
theorem dX1_choose_12 : decode cX1_choose 12 = .ok (.iload_n 0, 1) := dk_26 (dk_at dksX1_choose_0 12 rfl rfl)
theorem dX1_choose_13 : decode cX1_choose 13 = .ok (.iload_n 1, 1) := dk_27 (dk_at dksX1_choose_0 13 rfl rfl)
theorem dX1_choose_14 : decode cX1_choose 14 = .ok (.isub, 1) := dk_100 (dk_at dksX1_choose_0 14 rfl rfl)
theorem dX1_choose_15 : decode cX1_choose 15 = .ok (.iload 4, 2) := dk_21 4 (dk_at dksX1_choose_0 15 rfl rfl)
theorem dX1_choose_17 : decode cX1_choose 17 = .ok (.iadd, 1) := dk_96 (dk_at dksX1_choose_0 17 rfl rfl)
theorem dX1_choose_18 : decode cX1_choose 18 = .ok (.i2l, 1) := dk_133 (dk_at dksX1_choose_0 18 rfl rfl)
theorem dX1_choose_19 : decode cX1_choose 19 = .ok (.lmul, 1) := dk_105 (dk_at dksX1_choose_0 19 rfl rfl)
theorem dX1_choose_20 : decode cX1_choose 20 = .ok (.iload 4, 2) := dk_21 4 (dk_at dksX1_choose_0 20 rfl rfl)
theorem dX1_choose_22 : decode cX1_choose 22 = .ok (.i2l, 1) := dk_133 (dk_at dksX1_choose_0 22 rfl rfl)
theorem dX1_choose_23 : decode cX1_choose 23 = .ok (.ldiv, 1) := dk_109 (dk_at dksX1_choose_0 23 rfl rfl)
theorem dX1_choose_24 : decode cX1_choose 24 = .ok (.lstore_n 2, 1) := dk_65 (dk_at dksX1_choose_1 0 rfl rfl)
theorem dX1_choose_25 : decode cX1_choose 25 = .ok (.iinc 4 1, 3) := dk_132 4 1 (dk_at dksX1_choose_1 1 rfl rfl)
theorem dX1_choose_28 : decode cX1_choose 28 = .ok (.goto (-23), 3) := dk_167 255 233 (dk_at dksX1_choose_1 4 rfl rfl)
theorem dX1_choose_31 : decode cX1_choose 31 = .ok (.lload_n 2, 1) := dk_32 (dk_at dksX1_choose_1 7 rfl rfl)
theorem dX1_choose_32 : decode cX1_choose 32 = .ok (.lreturn, 1) := dk_173 (dk_at dksX1_choose_1 8 rfl rfl)
abbrev cX4_shift : ByteArray := prog_7_method_18_code
def yX4_shift : MethodName := ⟨RX4, "shift", "(LMultipoleLine$Box;LMultipoleLine$Box;I)J"⟩
def dkwX4_shift_2 : List UInt8 := [55, 4, 132, 6, 1, 167, 255, 210, 22, 4, 173]
abbrev dktX4_shift_2 : List UInt8 := dkwX4_shift_2 ++ []
def dkwX4_shift_1 : List UInt8 := [182, 0, 136, 105, 43, 180, 0, 125, 44, 180, 0, 125, 100, 133, 29, 21, 6, 100, 184, 0, 128, 105, 97]
abbrev dktX4_shift_1 : List UInt8 := dkwX4_shift_1 ++ dktX4_shift_2
def dkwX4_shift_0 : List UInt8 := [9, 55, 4, 3, 54, 6, 21, 6, 29, 163, 0, 46, 22, 4, 29, 21, 6, 184, 0, 132, 42, 43, 21, 6]
abbrev dktX4_shift_0 : List UInt8 := dkwX4_shift_0 ++ dktX4_shift_1
theorem dksX4_shift_0 : cX4_shift.data.toList.drop 0 = dktX4_shift_0 := by decide +kernel
theorem dksX4_shift_1 : cX4_shift.data.toList.drop 24 = dktX4_shift_1 := dk_seg dksX4_shift_0 24 rfl rfl
theorem dksX4_shift_2 : cX4_shift.data.toList.drop 47 = dktX4_shift_2 := dk_seg dksX4_shift_1 23 rfl rfl
theorem dX4_shift_0 : decode cX4_shift 0 = .ok (.lconst 0, 1) := dk_9 (dk_at dksX4_shift_0 0 rfl rfl)
theorem dX4_shift_1 : decode cX4_shift 1 = .ok (.lstore 4, 2) := dk_55 4 (dk_at dksX4_shift_0 1 rfl rfl)
theorem dX4_shift_3 : decode cX4_shift 3 = .ok (.iconst 0, 1) := dk_3 (dk_at dksX4_shift_0 3 rfl rfl)
theorem dX4_shift_4 : decode cX4_shift 4 = .ok (.istore 6, 2) := dk_54 6 (dk_at dksX4_shift_0 4 rfl rfl)
theorem dX4_shift_6 : decode cX4_shift 6 = .ok (.iload 6, 2) := dk_21 6 (dk_at dksX4_shift_0 6 rfl rfl)
theorem dX4_shift_8 : decode cX4_shift 8 = .ok (.iload_n 3, 1) := dk_29 (dk_at dksX4_shift_0 8 rfl rfl)
theorem dX4_shift_9 : decode cX4_shift 9 = .ok (.if_icmp .gt 46, 3) := dk_163 0 46 (dk_at dksX4_shift_0 9 rfl rfl)
theorem dX4_shift_12 : decode cX4_shift 12 = .ok (.lload 4, 2) := dk_22 4 (dk_at dksX4_shift_0 12 rfl rfl)
theorem dX4_shift_14 : decode cX4_shift 14 = .ok (.iload_n 3, 1) := dk_29 (dk_at dksX4_shift_0 14 rfl rfl)
theorem dX4_shift_15 : decode cX4_shift 15 = .ok (.iload 6, 2) := dk_21 6 (dk_at dksX4_shift_0 15 rfl rfl)
theorem dX4_shift_17 : decode cX4_shift 17 = .ok (.invokestatic 132, 3) := dk_184 0 132 (dk_at dksX4_shift_0 17 rfl rfl)
theorem dX4_shift_20 : decode cX4_shift 20 = .ok (.aload_n 0, 1) := dk_42 (dk_at dksX4_shift_0 20 rfl rfl)
theorem dX4_shift_21 : decode cX4_shift 21 = .ok (.aload_n 1, 1) := dk_43 (dk_at dksX4_shift_0 21 rfl rfl)
theorem dX4_shift_22 : decode cX4_shift 22 = .ok (.iload 6, 2) := dk_21 6 (dk_at dksX4_shift_0 22 rfl rfl)
theorem dX4_shift_24 : decode cX4_shift 24 = .ok (.invokevirtual 136, 3) := dk_182 0 136 (dk_at dksX4_shift_1 0 rfl rfl)
theorem dX4_shift_27 : decode cX4_shift 27 = .ok (.lmul, 1) := dk_105 (dk_at dksX4_shift_1 3 rfl rfl)
theorem dX4_shift_28 : decode cX4_shift 28 = .ok (.aload_n 1, 1) := dk_43 (dk_at dksX4_shift_1 4 rfl rfl)
theorem dX4_shift_29 : decode cX4_shift 29 = .ok (.getfield 125, 3) := dk_180 0 125 (dk_at dksX4_shift_1 5 rfl rfl)
theorem dX4_shift_32 : decode cX4_shift 32 = .ok (.aload_n 2, 1) := dk_44 (dk_at dksX4_shift_1 8 rfl rfl)
theorem dX4_shift_33 : decode cX4_shift 33 = .ok (.getfield 125, 3) := dk_180 0 125 (dk_at dksX4_shift_1 9 rfl rfl)
theorem dX4_shift_36 : decode cX4_shift 36 = .ok (.isub, 1) := dk_100 (dk_at dksX4_shift_1 12 rfl rfl)
theorem dX4_shift_37 : decode cX4_shift 37 = .ok (.i2l, 1) := dk_133 (dk_at dksX4_shift_1 13 rfl rfl)
theorem dX4_shift_38 : decode cX4_shift 38 = .ok (.iload_n 3, 1) := dk_29 (dk_at dksX4_shift_1 14 rfl rfl)
theorem dX4_shift_39 : decode cX4_shift 39 = .ok (.iload 6, 2) := dk_21 6 (dk_at dksX4_shift_1 15 rfl rfl)
theorem dX4_shift_41 : decode cX4_shift 41 = .ok (.isub, 1) := dk_100 (dk_at dksX4_shift_1 17 rfl rfl)
theorem dX4_shift_42 : decode cX4_shift 42 = .ok (.invokestatic 128, 3) := dk_184 0 128 (dk_at dksX4_shift_1 18 rfl rfl)
theorem dX4_shift_45 : decode cX4_shift 45 = .ok (.lmul, 1) := dk_105 (dk_at dksX4_shift_1 21 rfl rfl)
theorem dX4_shift_46 : decode cX4_shift 46 = .ok (.ladd, 1) := dk_97 (dk_at dksX4_shift_1 22 rfl rfl)
theorem dX4_shift_47 : decode cX4_shift 47 = .ok (.lstore 4, 2) := dk_55 4 (dk_at dksX4_shift_2 0 rfl rfl)
theorem dX4_shift_49 : decode cX4_shift 49 = .ok (.iinc 6 1, 3) := dk_132 6 1 (dk_at dksX4_shift_2 2 rfl rfl)
theorem dX4_shift_52 : decode cX4_shift 52 = .ok (.goto (-46), 3) := dk_167 255 210 (dk_at dksX4_shift_2 5 rfl rfl)
theorem dX4_shift_55 : decode cX4_shift 55 = .ok (.lload 4, 2) := dk_22 4 (dk_at dksX4_shift_2 8 rfl rfl)
theorem dX4_shift_57 : decode cX4_shift 57 = .ok (.lreturn, 1) := dk_173 (dk_at dksX4_shift_2 10 rfl rfl)
abbrev cX4_shifted : ByteArray := prog_7_method_19_code
def yX4_shifted : MethodName := ⟨RX4, "shifted", "(LMultipoleLine$Box;I)J"⟩
def dkwX4_shifted_2 : List UInt8 := [5, 43, 180, 0, 119, 104, 4, 96, 182, 0, 142, 43, 28, 182, 0, 145, 97, 173]
abbrev dktX4_shifted_2 : List UInt8 := dkwX4_shifted_2 ++ []
def dkwX4_shifted_1 : List UInt8 := [4, 96, 5, 43, 180, 0, 119, 104, 182, 0, 142, 43, 28, 182, 0, 145, 42, 42, 43, 180, 0, 139, 4, 96]
abbrev dktX4_shifted_1 : List UInt8 := dkwX4_shifted_1 ++ dktX4_shifted_2
def dkwX4_shifted_0 : List UInt8 := [43, 180, 0, 139, 42, 180, 0, 57, 160, 0, 10, 42, 43, 28, 182, 0, 106, 173, 42, 42, 43, 180, 0, 139]
abbrev dktX4_shifted_0 : List UInt8 := dkwX4_shifted_0 ++ dktX4_shifted_1
theorem dksX4_shifted_0 : cX4_shifted.data.toList.drop 0 = dktX4_shifted_0 := by decide +kernel
theorem dksX4_shifted_1 : cX4_shifted.data.toList.drop 24 = dktX4_shifted_1 := dk_seg dksX4_shifted_0 24 rfl rfl
theorem dksX4_shifted_2 : cX4_shifted.data.toList.drop 48 = dktX4_shifted_2 := dk_seg dksX4_shifted_1 24 rfl rfl
theorem dX4_shifted_0 : decode cX4_shifted 0 = .ok (.aload_n 1, 1) := dk_43 (dk_at dksX4_shifted_0 0 rfl rfl)
theorem dX4_shifted_1 : decode cX4_shifted 1 = .ok (.getfield 139, 3) := dk_180 0 139 (dk_at dksX4_shifted_0 1 rfl rfl)
theorem dX4_shifted_4 : decode cX4_shifted 4 = .ok (.aload_n 0, 1) := dk_42 (dk_at dksX4_shifted_0 4 rfl rfl)
theorem dX4_shifted_5 : decode cX4_shifted 5 = .ok (.getfield 57, 3) := dk_180 0 57 (dk_at dksX4_shifted_0 5 rfl rfl)
theorem dX4_shifted_8 : decode cX4_shifted 8 = .ok (.if_icmp .ne 10, 3) := dk_160 0 10 (dk_at dksX4_shifted_0 8 rfl rfl)
theorem dX4_shifted_11 : decode cX4_shifted 11 = .ok (.aload_n 0, 1) := dk_42 (dk_at dksX4_shifted_0 11 rfl rfl)
theorem dX4_shifted_12 : decode cX4_shifted 12 = .ok (.aload_n 1, 1) := dk_43 (dk_at dksX4_shifted_0 12 rfl rfl)
theorem dX4_shifted_13 : decode cX4_shifted 13 = .ok (.iload_n 2, 1) := dk_28 (dk_at dksX4_shifted_0 13 rfl rfl)
theorem dX4_shifted_14 : decode cX4_shifted 14 = .ok (.invokevirtual 106, 3) := dk_182 0 106 (dk_at dksX4_shifted_0 14 rfl rfl)
theorem dX4_shifted_17 : decode cX4_shifted 17 = .ok (.lreturn, 1) := dk_173 (dk_at dksX4_shifted_0 17 rfl rfl)
theorem dX4_shifted_18 : decode cX4_shifted 18 = .ok (.aload_n 0, 1) := dk_42 (dk_at dksX4_shifted_0 18 rfl rfl)
theorem dX4_shifted_19 : decode cX4_shifted 19 = .ok (.aload_n 0, 1) := dk_42 (dk_at dksX4_shifted_0 19 rfl rfl)
theorem dX4_shifted_20 : decode cX4_shifted 20 = .ok (.aload_n 1, 1) := dk_43 (dk_at dksX4_shifted_0 20 rfl rfl)
theorem dX4_shifted_21 : decode cX4_shifted 21 = .ok (.getfield 139, 3) := dk_180 0 139 (dk_at dksX4_shifted_0 21 rfl rfl)
theorem dX4_shifted_24 : decode cX4_shifted 24 = .ok (.iconst 1, 1) := dk_4 (dk_at dksX4_shifted_1 0 rfl rfl)
theorem dX4_shifted_25 : decode cX4_shifted 25 = .ok (.iadd, 1) := dk_96 (dk_at dksX4_shifted_1 1 rfl rfl)
theorem dX4_shifted_26 : decode cX4_shifted 26 = .ok (.iconst 2, 1) := dk_5 (dk_at dksX4_shifted_1 2 rfl rfl)
theorem dX4_shifted_27 : decode cX4_shifted 27 = .ok (.aload_n 1, 1) := dk_43 (dk_at dksX4_shifted_1 3 rfl rfl)
theorem dX4_shifted_28 : decode cX4_shifted 28 = .ok (.getfield 119, 3) := dk_180 0 119 (dk_at dksX4_shifted_1 4 rfl rfl)
theorem dX4_shifted_31 : decode cX4_shifted 31 = .ok (.imul, 1) := dk_104 (dk_at dksX4_shifted_1 7 rfl rfl)
theorem dX4_shifted_32 : decode cX4_shifted 32 = .ok (.invokevirtual 142, 3) := dk_182 0 142 (dk_at dksX4_shifted_1 8 rfl rfl)
theorem dX4_shifted_35 : decode cX4_shifted 35 = .ok (.aload_n 1, 1) := dk_43 (dk_at dksX4_shifted_1 11 rfl rfl)
theorem dX4_shifted_36 : decode cX4_shifted 36 = .ok (.iload_n 2, 1) := dk_28 (dk_at dksX4_shifted_1 12 rfl rfl)
theorem dX4_shifted_37 : decode cX4_shifted 37 = .ok (.invokevirtual 145, 3) := dk_182 0 145 (dk_at dksX4_shifted_1 13 rfl rfl)
theorem dX4_shifted_40 : decode cX4_shifted 40 = .ok (.aload_n 0, 1) := dk_42 (dk_at dksX4_shifted_1 16 rfl rfl)
theorem dX4_shifted_41 : decode cX4_shifted 41 = .ok (.aload_n 0, 1) := dk_42 (dk_at dksX4_shifted_1 17 rfl rfl)
theorem dX4_shifted_42 : decode cX4_shifted 42 = .ok (.aload_n 1, 1) := dk_43 (dk_at dksX4_shifted_1 18 rfl rfl)
theorem dX4_shifted_43 : decode cX4_shifted 43 = .ok (.getfield 139, 3) := dk_180 0 139 (dk_at dksX4_shifted_1 19 rfl rfl)
theorem dX4_shifted_46 : decode cX4_shifted 46 = .ok (.iconst 1, 1) := dk_4 (dk_at dksX4_shifted_1 22 rfl rfl)
theorem dX4_shifted_47 : decode cX4_shifted 47 = .ok (.iadd, 1) := dk_96 (dk_at dksX4_shifted_1 23 rfl rfl)
theorem dX4_shifted_48 : decode cX4_shifted 48 = .ok (.iconst 2, 1) := dk_5 (dk_at dksX4_shifted_2 0 rfl rfl)
theorem dX4_shifted_49 : decode cX4_shifted 49 = .ok (.aload_n 1, 1) := dk_43 (dk_at dksX4_shifted_2 1 rfl rfl)
theorem dX4_shifted_50 : decode cX4_shifted 50 = .ok (.getfield 119, 3) := dk_180 0 119 (dk_at dksX4_shifted_2 2 rfl rfl)
theorem dX4_shifted_53 : decode cX4_shifted 53 = .ok (.imul, 1) := dk_104 (dk_at dksX4_shifted_2 5 rfl rfl)
theorem dX4_shifted_54 : decode cX4_shifted 54 = .ok (.iconst 1, 1) := dk_4 (dk_at dksX4_shifted_2 6 rfl rfl)
theorem dX4_shifted_55 : decode cX4_shifted 55 = .ok (.iadd, 1) := dk_96 (dk_at dksX4_shifted_2 7 rfl rfl)
theorem dX4_shifted_56 : decode cX4_shifted 56 = .ok (.invokevirtual 142, 3) := dk_182 0 142 (dk_at dksX4_shifted_2 8 rfl rfl)
theorem dX4_shifted_59 : decode cX4_shifted 59 = .ok (.aload_n 1, 1) := dk_43 (dk_at dksX4_shifted_2 11 rfl rfl)
theorem dX4_shifted_60 : decode cX4_shifted 60 = .ok (.iload_n 2, 1) := dk_28 (dk_at dksX4_shifted_2 12 rfl rfl)
theorem dX4_shifted_61 : decode cX4_shifted 61 = .ok (.invokevirtual 145, 3) := dk_182 0 145 (dk_at dksX4_shifted_2 13 rfl rfl)
theorem dX4_shifted_64 : decode cX4_shifted 64 = .ok (.ladd, 1) := dk_97 (dk_at dksX4_shifted_2 16 rfl rfl)
theorem dX4_shifted_65 : decode cX4_shifted 65 = .ok (.lreturn, 1) := dk_173 (dk_at dksX4_shifted_2 17 rfl rfl)
abbrev cX1_shifted : ByteArray := prog_1_method_34_code
def yX1_shifted : MethodName := ⟨RX1, "shifted", "(III)J"⟩
def dkwX1_shifted_0 : List UInt8 := [42, 27, 28, 182, 0, 196, 58, 4, 29, 184, 0, 229, 42, 180, 0, 68, 25, 4, 29, 182, 0, 237, 173]
abbrev dktX1_shifted_0 : List UInt8 := dkwX1_shifted_0 ++ []
theorem dksX1_shifted_0 : cX1_shifted.data.toList.drop 0 = dktX1_shifted_0 := by decide +kernel
theorem dX1_shifted_0 : decode cX1_shifted 0 = .ok (.aload_n 0, 1) := dk_42 (dk_at dksX1_shifted_0 0 rfl rfl)
theorem dX1_shifted_1 : decode cX1_shifted 1 = .ok (.iload_n 1, 1) := dk_27 (dk_at dksX1_shifted_0 1 rfl rfl)
theorem dX1_shifted_2 : decode cX1_shifted 2 = .ok (.iload_n 2, 1) := dk_28 (dk_at dksX1_shifted_0 2 rfl rfl)
theorem dX1_shifted_3 : decode cX1_shifted 3 = .ok (.invokevirtual 196, 3) := dk_182 0 196 (dk_at dksX1_shifted_0 3 rfl rfl)
theorem dX1_shifted_6 : decode cX1_shifted 6 = .ok (.astore 4, 2) := dk_58 4 (dk_at dksX1_shifted_0 6 rfl rfl)
theorem dX1_shifted_8 : decode cX1_shifted 8 = .ok (.iload_n 3, 1) := dk_29 (dk_at dksX1_shifted_0 8 rfl rfl)
theorem dX1_shifted_9 : decode cX1_shifted 9 = .ok (.invokestatic 229, 3) := dk_184 0 229 (dk_at dksX1_shifted_0 9 rfl rfl)
theorem dX1_shifted_12 : decode cX1_shifted 12 = .ok (.aload_n 0, 1) := dk_42 (dk_at dksX1_shifted_0 12 rfl rfl)
theorem dX1_shifted_13 : decode cX1_shifted 13 = .ok (.getfield 68, 3) := dk_180 0 68 (dk_at dksX1_shifted_0 13 rfl rfl)
theorem dX1_shifted_16 : decode cX1_shifted 16 = .ok (.aload 4, 2) := dk_25 4 (dk_at dksX1_shifted_0 16 rfl rfl)
theorem dX1_shifted_18 : decode cX1_shifted 18 = .ok (.iload_n 3, 1) := dk_29 (dk_at dksX1_shifted_0 18 rfl rfl)
theorem dX1_shifted_19 : decode cX1_shifted 19 = .ok (.invokevirtual 237, 3) := dk_182 0 237 (dk_at dksX1_shifted_0 19 rfl rfl)
theorem dX1_shifted_22 : decode cX1_shifted 22 = .ok (.lreturn, 1) := dk_173 (dk_at dksX1_shifted_0 22 rfl rfl)
abbrev cJ14_abs_2 : ByteArray := prog_29_method_61_code
def yJ14_abs_2 : MethodName := ⟨RJ14, "abs", "(J)J"⟩
def dkwJ14_abs_2_0 : List UInt8 := [30, 9, 148, 156, 0, 8, 30, 117, 167, 0, 4, 30, 173]
abbrev dktJ14_abs_2_0 : List UInt8 := dkwJ14_abs_2_0 ++ []
theorem dksJ14_abs_2_0 : cJ14_abs_2.data.toList.drop 0 = dktJ14_abs_2_0 := by decide +kernel
theorem dJ14_abs_2_0 : decode cJ14_abs_2 0 = .ok (.lload_n 0, 1) := dk_30 (dk_at dksJ14_abs_2_0 0 rfl rfl)
theorem dJ14_abs_2_1 : decode cJ14_abs_2 1 = .ok (.lconst 0, 1) := dk_9 (dk_at dksJ14_abs_2_0 1 rfl rfl)
theorem dJ14_abs_2_2 : decode cJ14_abs_2 2 = .ok (.lcmp, 1) := dk_148 (dk_at dksJ14_abs_2_0 2 rfl rfl)
theorem dJ14_abs_2_3 : decode cJ14_abs_2 3 = .ok (.ifCond .ge 8, 3) := dk_156 0 8 (dk_at dksJ14_abs_2_0 3 rfl rfl)
theorem dJ14_abs_2_6 : decode cJ14_abs_2 6 = .ok (.lload_n 0, 1) := dk_30 (dk_at dksJ14_abs_2_0 6 rfl rfl)
theorem dJ14_abs_2_7 : decode cJ14_abs_2 7 = .ok (.lneg, 1) := dk_117 (dk_at dksJ14_abs_2_0 7 rfl rfl)
theorem dJ14_abs_2_8 : decode cJ14_abs_2 8 = .ok (.goto 4, 3) := dk_167 0 4 (dk_at dksJ14_abs_2_0 8 rfl rfl)
theorem dJ14_abs_2_11 : decode cJ14_abs_2 11 = .ok (.lload_n 0, 1) := dk_30 (dk_at dksJ14_abs_2_0 11 rfl rfl)
theorem dJ14_abs_2_12 : decode cJ14_abs_2 12 = .ok (.lreturn, 1) := dk_173 (dk_at dksJ14_abs_2_0 12 rfl rfl)
abbrev cX4_momentGap : ByteArray := prog_7_method_20_code
def yX4_momentGap : MethodName := ⟨RX4, "momentGap", "()J"⟩
def dkwX4_momentGap_4 : List UInt8 := [173]
abbrev dktX4_momentGap_4 : List UInt8 := dkwX4_momentGap_4 ++ []
def dkwX4_momentGap_3 : List UInt8 := [184, 0, 149, 97, 64, 132, 8, 1, 167, 255, 224, 132, 6, 1, 167, 255, 201, 132, 3, 1, 167, 255, 171, 31]
abbrev dktX4_momentGap_3 : List UInt8 := dkwX4_momentGap_3 ++ dktX4_momentGap_4
def dkwX4_momentGap_2 : List UInt8 := [7, 163, 0, 32, 31, 42, 25, 7, 21, 8, 182, 0, 106, 42, 25, 7, 21, 8, 182, 0, 136, 101]
abbrev dktX4_momentGap_2 : List UInt8 := dkwX4_momentGap_2 ++ dktX4_momentGap_3
def dkwX4_momentGap_1 : List UInt8 := [54, 5, 3, 54, 6, 21, 6, 21, 5, 162, 0, 54, 25, 4, 21, 6, 50, 58, 7, 3, 54, 8, 21, 8]
abbrev dktX4_momentGap_1 : List UInt8 := dkwX4_momentGap_1 ++ dktX4_momentGap_2
def dkwX4_momentGap_0 : List UInt8 := [9, 64, 3, 62, 29, 42, 180, 0, 57, 163, 0, 83, 42, 180, 0, 20, 29, 50, 58, 4, 25, 4, 190]
abbrev dktX4_momentGap_0 : List UInt8 := dkwX4_momentGap_0 ++ dktX4_momentGap_1
theorem dksX4_momentGap_0 : cX4_momentGap.data.toList.drop 0 = dktX4_momentGap_0 := by decide +kernel
theorem dksX4_momentGap_1 : cX4_momentGap.data.toList.drop 23 = dktX4_momentGap_1 := dk_seg dksX4_momentGap_0 23 rfl rfl
theorem dksX4_momentGap_2 : cX4_momentGap.data.toList.drop 47 = dktX4_momentGap_2 := dk_seg dksX4_momentGap_1 24 rfl rfl
theorem dksX4_momentGap_3 : cX4_momentGap.data.toList.drop 69 = dktX4_momentGap_3 := dk_seg dksX4_momentGap_2 22 rfl rfl
theorem dksX4_momentGap_4 : cX4_momentGap.data.toList.drop 93 = dktX4_momentGap_4 := dk_seg dksX4_momentGap_3 24 rfl rfl
theorem dX4_momentGap_0 : decode cX4_momentGap 0 = .ok (.lconst 0, 1) := dk_9 (dk_at dksX4_momentGap_0 0 rfl rfl)
theorem dX4_momentGap_1 : decode cX4_momentGap 1 = .ok (.lstore_n 1, 1) := dk_64 (dk_at dksX4_momentGap_0 1 rfl rfl)
theorem dX4_momentGap_2 : decode cX4_momentGap 2 = .ok (.iconst 0, 1) := dk_3 (dk_at dksX4_momentGap_0 2 rfl rfl)
theorem dX4_momentGap_3 : decode cX4_momentGap 3 = .ok (.istore_n 3, 1) := dk_62 (dk_at dksX4_momentGap_0 3 rfl rfl)
theorem dX4_momentGap_4 : decode cX4_momentGap 4 = .ok (.iload_n 3, 1) := dk_29 (dk_at dksX4_momentGap_0 4 rfl rfl)
theorem dX4_momentGap_5 : decode cX4_momentGap 5 = .ok (.aload_n 0, 1) := dk_42 (dk_at dksX4_momentGap_0 5 rfl rfl)
theorem dX4_momentGap_6 : decode cX4_momentGap 6 = .ok (.getfield 57, 3) := dk_180 0 57 (dk_at dksX4_momentGap_0 6 rfl rfl)
theorem dX4_momentGap_9 : decode cX4_momentGap 9 = .ok (.if_icmp .gt 83, 3) := dk_163 0 83 (dk_at dksX4_momentGap_0 9 rfl rfl)
theorem dX4_momentGap_12 : decode cX4_momentGap 12 = .ok (.aload_n 0, 1) := dk_42 (dk_at dksX4_momentGap_0 12 rfl rfl)
theorem dX4_momentGap_13 : decode cX4_momentGap 13 = .ok (.getfield 20, 3) := dk_180 0 20 (dk_at dksX4_momentGap_0 13 rfl rfl)
theorem dX4_momentGap_16 : decode cX4_momentGap 16 = .ok (.iload_n 3, 1) := dk_29 (dk_at dksX4_momentGap_0 16 rfl rfl)
theorem dX4_momentGap_17 : decode cX4_momentGap 17 = .ok (.aaload, 1) := dk_50 (dk_at dksX4_momentGap_0 17 rfl rfl)
theorem dX4_momentGap_18 : decode cX4_momentGap 18 = .ok (.astore 4, 2) := dk_58 4 (dk_at dksX4_momentGap_0 18 rfl rfl)
theorem dX4_momentGap_20 : decode cX4_momentGap 20 = .ok (.aload 4, 2) := dk_25 4 (dk_at dksX4_momentGap_0 20 rfl rfl)
theorem dX4_momentGap_22 : decode cX4_momentGap 22 = .ok (.arraylength, 1) := dk_190 (dk_at dksX4_momentGap_0 22 rfl rfl)
theorem dX4_momentGap_23 : decode cX4_momentGap 23 = .ok (.istore 5, 2) := dk_54 5 (dk_at dksX4_momentGap_1 0 rfl rfl)
theorem dX4_momentGap_25 : decode cX4_momentGap 25 = .ok (.iconst 0, 1) := dk_3 (dk_at dksX4_momentGap_1 2 rfl rfl)
theorem dX4_momentGap_26 : decode cX4_momentGap 26 = .ok (.istore 6, 2) := dk_54 6 (dk_at dksX4_momentGap_1 3 rfl rfl)
theorem dX4_momentGap_28 : decode cX4_momentGap 28 = .ok (.iload 6, 2) := dk_21 6 (dk_at dksX4_momentGap_1 5 rfl rfl)
theorem dX4_momentGap_30 : decode cX4_momentGap 30 = .ok (.iload 5, 2) := dk_21 5 (dk_at dksX4_momentGap_1 7 rfl rfl)
theorem dX4_momentGap_32 : decode cX4_momentGap 32 = .ok (.if_icmp .ge 54, 3) := dk_162 0 54 (dk_at dksX4_momentGap_1 9 rfl rfl)
theorem dX4_momentGap_35 : decode cX4_momentGap 35 = .ok (.aload 4, 2) := dk_25 4 (dk_at dksX4_momentGap_1 12 rfl rfl)
theorem dX4_momentGap_37 : decode cX4_momentGap 37 = .ok (.iload 6, 2) := dk_21 6 (dk_at dksX4_momentGap_1 14 rfl rfl)
theorem dX4_momentGap_39 : decode cX4_momentGap 39 = .ok (.aaload, 1) := dk_50 (dk_at dksX4_momentGap_1 16 rfl rfl)
theorem dX4_momentGap_40 : decode cX4_momentGap 40 = .ok (.astore 7, 2) := dk_58 7 (dk_at dksX4_momentGap_1 17 rfl rfl)
theorem dX4_momentGap_42 : decode cX4_momentGap 42 = .ok (.iconst 0, 1) := dk_3 (dk_at dksX4_momentGap_1 19 rfl rfl)
theorem dX4_momentGap_43 : decode cX4_momentGap 43 = .ok (.istore 8, 2) := dk_54 8 (dk_at dksX4_momentGap_1 20 rfl rfl)
theorem dX4_momentGap_45 : decode cX4_momentGap 45 = .ok (.iload 8, 2) := dk_21 8 (dk_at dksX4_momentGap_1 22 rfl rfl)
theorem dX4_momentGap_47 : decode cX4_momentGap 47 = .ok (.iconst 4, 1) := dk_7 (dk_at dksX4_momentGap_2 0 rfl rfl)
theorem dX4_momentGap_48 : decode cX4_momentGap 48 = .ok (.if_icmp .gt 32, 3) := dk_163 0 32 (dk_at dksX4_momentGap_2 1 rfl rfl)
theorem dX4_momentGap_51 : decode cX4_momentGap 51 = .ok (.lload_n 1, 1) := dk_31 (dk_at dksX4_momentGap_2 4 rfl rfl)
theorem dX4_momentGap_52 : decode cX4_momentGap 52 = .ok (.aload_n 0, 1) := dk_42 (dk_at dksX4_momentGap_2 5 rfl rfl)
theorem dX4_momentGap_53 : decode cX4_momentGap 53 = .ok (.aload 7, 2) := dk_25 7 (dk_at dksX4_momentGap_2 6 rfl rfl)
theorem dX4_momentGap_55 : decode cX4_momentGap 55 = .ok (.iload 8, 2) := dk_21 8 (dk_at dksX4_momentGap_2 8 rfl rfl)
theorem dX4_momentGap_57 : decode cX4_momentGap 57 = .ok (.invokevirtual 106, 3) := dk_182 0 106 (dk_at dksX4_momentGap_2 10 rfl rfl)
theorem dX4_momentGap_60 : decode cX4_momentGap 60 = .ok (.aload_n 0, 1) := dk_42 (dk_at dksX4_momentGap_2 13 rfl rfl)
theorem dX4_momentGap_61 : decode cX4_momentGap 61 = .ok (.aload 7, 2) := dk_25 7 (dk_at dksX4_momentGap_2 14 rfl rfl)
theorem dX4_momentGap_63 : decode cX4_momentGap 63 = .ok (.iload 8, 2) := dk_21 8 (dk_at dksX4_momentGap_2 16 rfl rfl)
theorem dX4_momentGap_65 : decode cX4_momentGap 65 = .ok (.invokevirtual 136, 3) := dk_182 0 136 (dk_at dksX4_momentGap_2 18 rfl rfl)
theorem dX4_momentGap_68 : decode cX4_momentGap 68 = .ok (.lsub, 1) := dk_101 (dk_at dksX4_momentGap_2 21 rfl rfl)
theorem dX4_momentGap_69 : decode cX4_momentGap 69 = .ok (.invokestatic 149, 3) := dk_184 0 149 (dk_at dksX4_momentGap_3 0 rfl rfl)
theorem dX4_momentGap_72 : decode cX4_momentGap 72 = .ok (.ladd, 1) := dk_97 (dk_at dksX4_momentGap_3 3 rfl rfl)
theorem dX4_momentGap_73 : decode cX4_momentGap 73 = .ok (.lstore_n 1, 1) := dk_64 (dk_at dksX4_momentGap_3 4 rfl rfl)
theorem dX4_momentGap_74 : decode cX4_momentGap 74 = .ok (.iinc 8 1, 3) := dk_132 8 1 (dk_at dksX4_momentGap_3 5 rfl rfl)
theorem dX4_momentGap_77 : decode cX4_momentGap 77 = .ok (.goto (-32), 3) := dk_167 255 224 (dk_at dksX4_momentGap_3 8 rfl rfl)
theorem dX4_momentGap_80 : decode cX4_momentGap 80 = .ok (.iinc 6 1, 3) := dk_132 6 1 (dk_at dksX4_momentGap_3 11 rfl rfl)
theorem dX4_momentGap_83 : decode cX4_momentGap 83 = .ok (.goto (-55), 3) := dk_167 255 201 (dk_at dksX4_momentGap_3 14 rfl rfl)
theorem dX4_momentGap_86 : decode cX4_momentGap 86 = .ok (.iinc 3 1, 3) := dk_132 3 1 (dk_at dksX4_momentGap_3 17 rfl rfl)
theorem dX4_momentGap_89 : decode cX4_momentGap 89 = .ok (.goto (-85), 3) := dk_167 255 171 (dk_at dksX4_momentGap_3 20 rfl rfl)
theorem dX4_momentGap_92 : decode cX4_momentGap 92 = .ok (.lload_n 1, 1) := dk_31 (dk_at dksX4_momentGap_3 23 rfl rfl)
theorem dX4_momentGap_93 : decode cX4_momentGap 93 = .ok (.lreturn, 1) := dk_173 (dk_at dksX4_momentGap_4 0 rfl rfl)
abbrev cX1_momentGap : ByteArray := prog_1_method_35_code
def yX1_momentGap : MethodName := ⟨RX1, "momentGap", "()J"⟩
def dkwX1_momentGap_0 : List UInt8 := [42, 182, 0, 76, 182, 0, 240, 173]
abbrev dktX1_momentGap_0 : List UInt8 := dkwX1_momentGap_0 ++ []
theorem dksX1_momentGap_0 : cX1_momentGap.data.toList.drop 0 = dktX1_momentGap_0 := by decide +kernel
theorem dX1_momentGap_0 : decode cX1_momentGap 0 = .ok (.aload_n 0, 1) := dk_42 (dk_at dksX1_momentGap_0 0 rfl rfl)
theorem dX1_momentGap_1 : decode cX1_momentGap 1 = .ok (.invokevirtual 76, 3) := dk_182 0 76 (dk_at dksX1_momentGap_0 1 rfl rfl)
theorem dX1_momentGap_4 : decode cX1_momentGap 4 = .ok (.invokevirtual 240, 3) := dk_182 0 240 (dk_at dksX1_momentGap_0 4 rfl rfl)
theorem dX1_momentGap_7 : decode cX1_momentGap 7 = .ok (.lreturn, 1) := dk_173 (dk_at dksX1_momentGap_0 7 rfl rfl)
abbrev cJ27_init : ByteArray := prog_45_method_1_code
def yJ27_init : MethodName := ⟨RJ27, "<init>", "()V"⟩
theorem dJ27_init_0 : decode cJ27_init 0 = .ok (.aload_n 0, 1) := by decide +kernel
theorem dJ27_init_1 : decode cJ27_init 1 = .ok (.invokespecial 1, 3) := by decide +kernel
theorem dJ27_init_4 : decode cJ27_init 4 = .ok (.return_, 1) := by decide +kernel
abbrev cJ28_init : ByteArray := prog_55_method_1_code
def yJ28_init : MethodName := ⟨RJ28, "<init>", "()V"⟩
def dkwJ28_init_0 : List UInt8 := [42, 183, 0, 1, 42, 3, 181, 0, 7, 177]
abbrev dktJ28_init_0 : List UInt8 := dkwJ28_init_0 ++ []
theorem dksJ28_init_0 : cJ28_init.data.toList.drop 0 = dktJ28_init_0 := by decide +kernel
theorem dJ28_init_0 : decode cJ28_init 0 = .ok (.aload_n 0, 1) := dk_42 (dk_at dksJ28_init_0 0 rfl rfl)
theorem dJ28_init_1 : decode cJ28_init 1 = .ok (.invokespecial 1, 3) := dk_183 0 1 (dk_at dksJ28_init_0 1 rfl rfl)
theorem dJ28_init_4 : decode cJ28_init 4 = .ok (.aload_n 0, 1) := dk_42 (dk_at dksJ28_init_0 4 rfl rfl)
theorem dJ28_init_5 : decode cJ28_init 5 = .ok (.iconst 0, 1) := dk_3 (dk_at dksJ28_init_0 5 rfl rfl)
theorem dJ28_init_6 : decode cJ28_init 6 = .ok (.putfield 7, 3) := dk_181 0 7 (dk_at dksJ28_init_0 6 rfl rfl)
theorem dJ28_init_9 : decode cJ28_init 9 = .ok (.return_, 1) := dk_177 (dk_at dksJ28_init_0 9 rfl rfl)
abbrev cX4_isNear : ByteArray := prog_7_method_21_code
def yX4_isNear : MethodName := ⟨RX4, "isNear", "(LMultipoleLine$Body;I)Z"⟩
def dkwX4_isNear_1 : List UInt8 := [10, 184, 0, 154, 172]
abbrev dktX4_isNear_1 : List UInt8 := dkwX4_isNear_1 ++ []
def dkwX4_isNear_0 : List UInt8 := [42, 43, 180, 0, 86, 182, 0, 115, 180, 0, 119, 42, 28, 182, 0, 115, 180, 0, 119, 100, 133, 20, 0, 152]
abbrev dktX4_isNear_0 : List UInt8 := dkwX4_isNear_0 ++ dktX4_isNear_1
theorem dksX4_isNear_0 : cX4_isNear.data.toList.drop 0 = dktX4_isNear_0 := by decide +kernel
theorem dksX4_isNear_1 : cX4_isNear.data.toList.drop 24 = dktX4_isNear_1 := dk_seg dksX4_isNear_0 24 rfl rfl
theorem dX4_isNear_0 : decode cX4_isNear 0 = .ok (.aload_n 0, 1) := dk_42 (dk_at dksX4_isNear_0 0 rfl rfl)
theorem dX4_isNear_1 : decode cX4_isNear 1 = .ok (.aload_n 1, 1) := dk_43 (dk_at dksX4_isNear_0 1 rfl rfl)
theorem dX4_isNear_2 : decode cX4_isNear 2 = .ok (.getfield 86, 3) := dk_180 0 86 (dk_at dksX4_isNear_0 2 rfl rfl)
theorem dX4_isNear_5 : decode cX4_isNear 5 = .ok (.invokevirtual 115, 3) := dk_182 0 115 (dk_at dksX4_isNear_0 5 rfl rfl)
theorem dX4_isNear_8 : decode cX4_isNear 8 = .ok (.getfield 119, 3) := dk_180 0 119 (dk_at dksX4_isNear_0 8 rfl rfl)
theorem dX4_isNear_11 : decode cX4_isNear 11 = .ok (.aload_n 0, 1) := dk_42 (dk_at dksX4_isNear_0 11 rfl rfl)
theorem dX4_isNear_12 : decode cX4_isNear 12 = .ok (.iload_n 2, 1) := dk_28 (dk_at dksX4_isNear_0 12 rfl rfl)
theorem dX4_isNear_13 : decode cX4_isNear 13 = .ok (.invokevirtual 115, 3) := dk_182 0 115 (dk_at dksX4_isNear_0 13 rfl rfl)
theorem dX4_isNear_16 : decode cX4_isNear 16 = .ok (.getfield 119, 3) := dk_180 0 119 (dk_at dksX4_isNear_0 16 rfl rfl)
theorem dX4_isNear_19 : decode cX4_isNear 19 = .ok (.isub, 1) := dk_100 (dk_at dksX4_isNear_0 19 rfl rfl)
theorem dX4_isNear_20 : decode cX4_isNear 20 = .ok (.i2l, 1) := dk_133 (dk_at dksX4_isNear_0 20 rfl rfl)
theorem dX4_isNear_21 : decode cX4_isNear 21 = .ok (.ldc2_w 152, 3) := dk_20 0 152 (dk_at dksX4_isNear_0 21 rfl rfl)
theorem dX4_isNear_24 : decode cX4_isNear 24 = .ok (.lconst 1, 1) := dk_10 (dk_at dksX4_isNear_1 0 rfl rfl)
theorem dX4_isNear_25 : decode cX4_isNear 25 = .ok (.invokestatic 154, 3) := dk_184 0 154 (dk_at dksX4_isNear_1 1 rfl rfl)
theorem dX4_isNear_28 : decode cX4_isNear 28 = .ok (.ireturn, 1) := dk_172 (dk_at dksX4_isNear_1 4 rfl rfl)
abbrev cJ19_init : ByteArray := prog_30_method_1_code
def yJ19_init : MethodName := ⟨RJ19, "<init>", "()V"⟩
theorem dJ19_init_0 : decode cJ19_init 0 = .ok (.aload_n 0, 1) := by decide +kernel
theorem dJ19_init_1 : decode cJ19_init 1 = .ok (.invokespecial 1, 3) := by decide +kernel
theorem dJ19_init_4 : decode cJ19_init 4 = .ok (.return_, 1) := by decide +kernel
abbrev cJ20_init : ByteArray := prog_25_method_23_code
def yJ20_init : MethodName := ⟨RJ20, "<init>", "(I)V"⟩
def dkwJ20_init_0 : List UInt8 := [42, 183, 0, 202, 42, 27, 181, 0, 205, 177]
abbrev dktJ20_init_0 : List UInt8 := dkwJ20_init_0 ++ []
theorem dksJ20_init_0 : cJ20_init.data.toList.drop 0 = dktJ20_init_0 := by decide +kernel
theorem dJ20_init_0 : decode cJ20_init 0 = .ok (.aload_n 0, 1) := dk_42 (dk_at dksJ20_init_0 0 rfl rfl)
theorem dJ20_init_1 : decode cJ20_init 1 = .ok (.invokespecial 202, 3) := dk_183 0 202 (dk_at dksJ20_init_0 1 rfl rfl)
theorem dJ20_init_4 : decode cJ20_init 4 = .ok (.aload_n 0, 1) := dk_42 (dk_at dksJ20_init_0 4 rfl rfl)
theorem dJ20_init_5 : decode cJ20_init 5 = .ok (.iload_n 1, 1) := dk_27 (dk_at dksJ20_init_0 5 rfl rfl)
theorem dJ20_init_6 : decode cJ20_init 6 = .ok (.putfield 205, 3) := dk_181 0 205 (dk_at dksJ20_init_0 6 rfl rfl)
theorem dJ20_init_9 : decode cJ20_init 9 = .ok (.return_, 1) := dk_177 (dk_at dksJ20_init_0 9 rfl rfl)
abbrev cJ20_valueOf : ByteArray := prog_25_method_22_code
def yJ20_valueOf : MethodName := ⟨RJ20, "valueOf", "(I)Ljava/lang/Integer;"⟩
def dkwJ20_valueOf_1 : List UInt8 := [187, 0, 1, 89, 26, 183, 0, 199, 176]
abbrev dktJ20_valueOf_1 : List UInt8 := dkwJ20_valueOf_1 ++ []
def dkwJ20_valueOf_0 : List UInt8 := [26, 16, 128, 161, 0, 20, 26, 178, 0, 191, 163, 0, 13, 178, 0, 195, 26, 17, 0, 128, 96, 50, 176]
abbrev dktJ20_valueOf_0 : List UInt8 := dkwJ20_valueOf_0 ++ dktJ20_valueOf_1
theorem dksJ20_valueOf_0 : cJ20_valueOf.data.toList.drop 0 = dktJ20_valueOf_0 := by decide +kernel
theorem dksJ20_valueOf_1 : cJ20_valueOf.data.toList.drop 23 = dktJ20_valueOf_1 := dk_seg dksJ20_valueOf_0 23 rfl rfl
theorem dJ20_valueOf_0 : decode cJ20_valueOf 0 = .ok (.iload_n 0, 1) := dk_26 (dk_at dksJ20_valueOf_0 0 rfl rfl)
theorem dJ20_valueOf_1 : decode cJ20_valueOf 1 = .ok (.bipush (-128), 2) := dk_16 128 (dk_at dksJ20_valueOf_0 1 rfl rfl)
theorem dJ20_valueOf_3 : decode cJ20_valueOf 3 = .ok (.if_icmp .lt 20, 3) := dk_161 0 20 (dk_at dksJ20_valueOf_0 3 rfl rfl)
theorem dJ20_valueOf_6 : decode cJ20_valueOf 6 = .ok (.iload_n 0, 1) := dk_26 (dk_at dksJ20_valueOf_0 6 rfl rfl)
theorem dJ20_valueOf_7 : decode cJ20_valueOf 7 = .ok (.getstatic 191, 3) := dk_178 0 191 (dk_at dksJ20_valueOf_0 7 rfl rfl)
theorem dJ20_valueOf_10 : decode cJ20_valueOf 10 = .ok (.if_icmp .gt 13, 3) := dk_163 0 13 (dk_at dksJ20_valueOf_0 10 rfl rfl)
theorem dJ20_valueOf_13 : decode cJ20_valueOf 13 = .ok (.getstatic 195, 3) := dk_178 0 195 (dk_at dksJ20_valueOf_0 13 rfl rfl)
theorem dJ20_valueOf_16 : decode cJ20_valueOf 16 = .ok (.iload_n 0, 1) := dk_26 (dk_at dksJ20_valueOf_0 16 rfl rfl)
theorem dJ20_valueOf_17 : decode cJ20_valueOf 17 = .ok (.sipush 128, 3) := dk_17 0 128 (dk_at dksJ20_valueOf_0 17 rfl rfl)
theorem dJ20_valueOf_20 : decode cJ20_valueOf 20 = .ok (.iadd, 1) := dk_96 (dk_at dksJ20_valueOf_0 20 rfl rfl)
theorem dJ20_valueOf_21 : decode cJ20_valueOf 21 = .ok (.aaload, 1) := dk_50 (dk_at dksJ20_valueOf_0 21 rfl rfl)
theorem dJ20_valueOf_22 : decode cJ20_valueOf 22 = .ok (.areturn, 1) := dk_176 (dk_at dksJ20_valueOf_0 22 rfl rfl)
theorem dJ20_valueOf_23 : decode cJ20_valueOf 23 = .ok (.new 1, 3) := dk_187 0 1 (dk_at dksJ20_valueOf_1 0 rfl rfl)
theorem dJ20_valueOf_26 : decode cJ20_valueOf 26 = .ok (.dup, 1) := dk_89 (dk_at dksJ20_valueOf_1 3 rfl rfl)
theorem dJ20_valueOf_27 : decode cJ20_valueOf 27 = .ok (.iload_n 0, 1) := dk_26 (dk_at dksJ20_valueOf_1 4 rfl rfl)
theorem dJ20_valueOf_28 : decode cJ20_valueOf 28 = .ok (.invokespecial 199, 3) := dk_183 0 199 (dk_at dksJ20_valueOf_1 5 rfl rfl)
theorem dJ20_valueOf_31 : decode cJ20_valueOf 31 = .ok (.areturn, 1) := dk_176 (dk_at dksJ20_valueOf_1 8 rfl rfl)
abbrev cJ23_init : ByteArray := prog_57_method_1_code
def yJ23_init : MethodName := ⟨RJ23, "<init>", "(Ljava/util/LinkedList$Node;Ljava/lang/Object;Ljava/util/LinkedList$Node;)V"⟩
def dkwJ23_init_0 : List UInt8 := [42, 183, 0, 1, 42, 44, 181, 0, 7, 42, 45, 181, 0, 13, 42, 43, 181, 0, 17, 177]
abbrev dktJ23_init_0 : List UInt8 := dkwJ23_init_0 ++ []
theorem dksJ23_init_0 : cJ23_init.data.toList.drop 0 = dktJ23_init_0 := by decide +kernel
theorem dJ23_init_0 : decode cJ23_init 0 = .ok (.aload_n 0, 1) := dk_42 (dk_at dksJ23_init_0 0 rfl rfl)
theorem dJ23_init_1 : decode cJ23_init 1 = .ok (.invokespecial 1, 3) := dk_183 0 1 (dk_at dksJ23_init_0 1 rfl rfl)
theorem dJ23_init_4 : decode cJ23_init 4 = .ok (.aload_n 0, 1) := dk_42 (dk_at dksJ23_init_0 4 rfl rfl)
theorem dJ23_init_5 : decode cJ23_init 5 = .ok (.aload_n 2, 1) := dk_44 (dk_at dksJ23_init_0 5 rfl rfl)
theorem dJ23_init_6 : decode cJ23_init 6 = .ok (.putfield 7, 3) := dk_181 0 7 (dk_at dksJ23_init_0 6 rfl rfl)
theorem dJ23_init_9 : decode cJ23_init 9 = .ok (.aload_n 0, 1) := dk_42 (dk_at dksJ23_init_0 9 rfl rfl)
theorem dJ23_init_10 : decode cJ23_init 10 = .ok (.aload_n 3, 1) := dk_45 (dk_at dksJ23_init_0 10 rfl rfl)
theorem dJ23_init_11 : decode cJ23_init 11 = .ok (.putfield 13, 3) := dk_181 0 13 (dk_at dksJ23_init_0 11 rfl rfl)
theorem dJ23_init_14 : decode cJ23_init 14 = .ok (.aload_n 0, 1) := dk_42 (dk_at dksJ23_init_0 14 rfl rfl)
theorem dJ23_init_15 : decode cJ23_init 15 = .ok (.aload_n 1, 1) := dk_43 (dk_at dksJ23_init_0 15 rfl rfl)
theorem dJ23_init_16 : decode cJ23_init 16 = .ok (.putfield 17, 3) := dk_181 0 17 (dk_at dksJ23_init_0 16 rfl rfl)
theorem dJ23_init_19 : decode cJ23_init 19 = .ok (.return_, 1) := dk_177 (dk_at dksJ23_init_0 19 rfl rfl)
abbrev cJ28_linkLast : ByteArray := prog_55_method_4_code
def yJ28_linkLast : MethodName := ⟨RJ28, "linkLast", "(Ljava/lang/Object;)V"⟩
def dkwJ28_linkLast_2 : List UInt8 := [181, 0, 7, 42, 89, 180, 0, 33, 4, 96, 181, 0, 33, 177]
abbrev dktJ28_linkLast_2 : List UInt8 := dkwJ28_linkLast_2 ++ []
def dkwJ28_linkLast_1 : List UInt8 := [199, 0, 11, 42, 45, 181, 0, 18, 167, 0, 8, 44, 45, 181, 0, 36, 42, 89, 180, 0, 7, 4, 96]
abbrev dktJ28_linkLast_1 : List UInt8 := dkwJ28_linkLast_1 ++ dktJ28_linkLast_2
def dkwJ28_linkLast_0 : List UInt8 := [42, 180, 0, 27, 77, 187, 0, 22, 89, 44, 43, 1, 183, 0, 24, 78, 42, 45, 181, 0, 27, 44]
abbrev dktJ28_linkLast_0 : List UInt8 := dkwJ28_linkLast_0 ++ dktJ28_linkLast_1
theorem dksJ28_linkLast_0 : cJ28_linkLast.data.toList.drop 0 = dktJ28_linkLast_0 := by decide +kernel
theorem dksJ28_linkLast_1 : cJ28_linkLast.data.toList.drop 22 = dktJ28_linkLast_1 := dk_seg dksJ28_linkLast_0 22 rfl rfl
theorem dksJ28_linkLast_2 : cJ28_linkLast.data.toList.drop 45 = dktJ28_linkLast_2 := dk_seg dksJ28_linkLast_1 23 rfl rfl
theorem dJ28_linkLast_0 : decode cJ28_linkLast 0 = .ok (.aload_n 0, 1) := dk_42 (dk_at dksJ28_linkLast_0 0 rfl rfl)
theorem dJ28_linkLast_1 : decode cJ28_linkLast 1 = .ok (.getfield 27, 3) := dk_180 0 27 (dk_at dksJ28_linkLast_0 1 rfl rfl)
theorem dJ28_linkLast_4 : decode cJ28_linkLast 4 = .ok (.astore_n 2, 1) := dk_77 (dk_at dksJ28_linkLast_0 4 rfl rfl)
theorem dJ28_linkLast_5 : decode cJ28_linkLast 5 = .ok (.new 22, 3) := dk_187 0 22 (dk_at dksJ28_linkLast_0 5 rfl rfl)
theorem dJ28_linkLast_8 : decode cJ28_linkLast 8 = .ok (.dup, 1) := dk_89 (dk_at dksJ28_linkLast_0 8 rfl rfl)
theorem dJ28_linkLast_9 : decode cJ28_linkLast 9 = .ok (.aload_n 2, 1) := dk_44 (dk_at dksJ28_linkLast_0 9 rfl rfl)
theorem dJ28_linkLast_10 : decode cJ28_linkLast 10 = .ok (.aload_n 1, 1) := dk_43 (dk_at dksJ28_linkLast_0 10 rfl rfl)
theorem dJ28_linkLast_11 : decode cJ28_linkLast 11 = .ok (.aconst_null, 1) := dk_1 (dk_at dksJ28_linkLast_0 11 rfl rfl)
theorem dJ28_linkLast_12 : decode cJ28_linkLast 12 = .ok (.invokespecial 24, 3) := dk_183 0 24 (dk_at dksJ28_linkLast_0 12 rfl rfl)
theorem dJ28_linkLast_15 : decode cJ28_linkLast 15 = .ok (.astore_n 3, 1) := dk_78 (dk_at dksJ28_linkLast_0 15 rfl rfl)
theorem dJ28_linkLast_16 : decode cJ28_linkLast 16 = .ok (.aload_n 0, 1) := dk_42 (dk_at dksJ28_linkLast_0 16 rfl rfl)
theorem dJ28_linkLast_17 : decode cJ28_linkLast 17 = .ok (.aload_n 3, 1) := dk_45 (dk_at dksJ28_linkLast_0 17 rfl rfl)
theorem dJ28_linkLast_18 : decode cJ28_linkLast 18 = .ok (.putfield 27, 3) := dk_181 0 27 (dk_at dksJ28_linkLast_0 18 rfl rfl)
theorem dJ28_linkLast_21 : decode cJ28_linkLast 21 = .ok (.aload_n 2, 1) := dk_44 (dk_at dksJ28_linkLast_0 21 rfl rfl)
theorem dJ28_linkLast_22 : decode cJ28_linkLast 22 = .ok (.ifnonnull 11, 3) := dk_199 0 11 (dk_at dksJ28_linkLast_1 0 rfl rfl)
theorem dJ28_linkLast_25 : decode cJ28_linkLast 25 = .ok (.aload_n 0, 1) := dk_42 (dk_at dksJ28_linkLast_1 3 rfl rfl)
theorem dJ28_linkLast_26 : decode cJ28_linkLast 26 = .ok (.aload_n 3, 1) := dk_45 (dk_at dksJ28_linkLast_1 4 rfl rfl)
theorem dJ28_linkLast_27 : decode cJ28_linkLast 27 = .ok (.putfield 18, 3) := dk_181 0 18 (dk_at dksJ28_linkLast_1 5 rfl rfl)
theorem dJ28_linkLast_30 : decode cJ28_linkLast 30 = .ok (.goto 8, 3) := dk_167 0 8 (dk_at dksJ28_linkLast_1 8 rfl rfl)
theorem dJ28_linkLast_33 : decode cJ28_linkLast 33 = .ok (.aload_n 2, 1) := dk_44 (dk_at dksJ28_linkLast_1 11 rfl rfl)
theorem dJ28_linkLast_34 : decode cJ28_linkLast 34 = .ok (.aload_n 3, 1) := dk_45 (dk_at dksJ28_linkLast_1 12 rfl rfl)
theorem dJ28_linkLast_35 : decode cJ28_linkLast 35 = .ok (.putfield 36, 3) := dk_181 0 36 (dk_at dksJ28_linkLast_1 13 rfl rfl)
theorem dJ28_linkLast_38 : decode cJ28_linkLast 38 = .ok (.aload_n 0, 1) := dk_42 (dk_at dksJ28_linkLast_1 16 rfl rfl)
theorem dJ28_linkLast_39 : decode cJ28_linkLast 39 = .ok (.dup, 1) := dk_89 (dk_at dksJ28_linkLast_1 17 rfl rfl)
theorem dJ28_linkLast_40 : decode cJ28_linkLast 40 = .ok (.getfield 7, 3) := dk_180 0 7 (dk_at dksJ28_linkLast_1 18 rfl rfl)
theorem dJ28_linkLast_43 : decode cJ28_linkLast 43 = .ok (.iconst 1, 1) := dk_4 (dk_at dksJ28_linkLast_1 21 rfl rfl)
theorem dJ28_linkLast_44 : decode cJ28_linkLast 44 = .ok (.iadd, 1) := dk_96 (dk_at dksJ28_linkLast_1 22 rfl rfl)
theorem dJ28_linkLast_45 : decode cJ28_linkLast 45 = .ok (.putfield 7, 3) := dk_181 0 7 (dk_at dksJ28_linkLast_2 0 rfl rfl)
theorem dJ28_linkLast_48 : decode cJ28_linkLast 48 = .ok (.aload_n 0, 1) := dk_42 (dk_at dksJ28_linkLast_2 3 rfl rfl)
theorem dJ28_linkLast_49 : decode cJ28_linkLast 49 = .ok (.dup, 1) := dk_89 (dk_at dksJ28_linkLast_2 4 rfl rfl)
theorem dJ28_linkLast_50 : decode cJ28_linkLast 50 = .ok (.getfield 33, 3) := dk_180 0 33 (dk_at dksJ28_linkLast_2 5 rfl rfl)
theorem dJ28_linkLast_53 : decode cJ28_linkLast 53 = .ok (.iconst 1, 1) := dk_4 (dk_at dksJ28_linkLast_2 8 rfl rfl)
theorem dJ28_linkLast_54 : decode cJ28_linkLast 54 = .ok (.iadd, 1) := dk_96 (dk_at dksJ28_linkLast_2 9 rfl rfl)
theorem dJ28_linkLast_55 : decode cJ28_linkLast 55 = .ok (.putfield 33, 3) := dk_181 0 33 (dk_at dksJ28_linkLast_2 10 rfl rfl)
theorem dJ28_linkLast_58 : decode cJ28_linkLast 58 = .ok (.return_, 1) := dk_177 (dk_at dksJ28_linkLast_2 13 rfl rfl)
abbrev cJ28_addLast : ByteArray := prog_55_method_14_code
def yJ28_addLast : MethodName := ⟨RJ28, "addLast", "(Ljava/lang/Object;)V"⟩
def dkwJ28_addLast_0 : List UInt8 := [42, 43, 182, 0, 57, 177]
abbrev dktJ28_addLast_0 : List UInt8 := dkwJ28_addLast_0 ++ []
theorem dksJ28_addLast_0 : cJ28_addLast.data.toList.drop 0 = dktJ28_addLast_0 := by decide +kernel
theorem dJ28_addLast_0 : decode cJ28_addLast 0 = .ok (.aload_n 0, 1) := dk_42 (dk_at dksJ28_addLast_0 0 rfl rfl)
theorem dJ28_addLast_1 : decode cJ28_addLast 1 = .ok (.aload_n 1, 1) := dk_43 (dk_at dksJ28_addLast_0 1 rfl rfl)
theorem dJ28_addLast_2 : decode cJ28_addLast 2 = .ok (.invokevirtual 57, 3) := dk_182 0 57 (dk_at dksJ28_addLast_0 2 rfl rfl)
theorem dJ28_addLast_5 : decode cJ28_addLast 5 = .ok (.return_, 1) := dk_177 (dk_at dksJ28_addLast_0 5 rfl rfl)
abbrev cX4_near : ByteArray := prog_7_method_22_code
def yX4_near : MethodName := ⟨RX4, "near", "(I)Ljava/util/LinkedList;"⟩
def dkwX4_near_1 : List UInt8 := [27, 182, 0, 161, 153, 0, 11, 44, 29, 184, 0, 165, 182, 0, 171, 132, 3, 1, 167, 255, 224, 44, 176]
abbrev dktX4_near_1 : List UInt8 := dkwX4_near_1 ++ []
def dkwX4_near_0 : List UInt8 := [187, 0, 158, 89, 183, 0, 160, 77, 3, 62, 29, 42, 182, 0, 37, 162, 0, 30, 42, 42, 29, 182, 0, 41]
abbrev dktX4_near_0 : List UInt8 := dkwX4_near_0 ++ dktX4_near_1
theorem dksX4_near_0 : cX4_near.data.toList.drop 0 = dktX4_near_0 := by decide +kernel
theorem dksX4_near_1 : cX4_near.data.toList.drop 24 = dktX4_near_1 := dk_seg dksX4_near_0 24 rfl rfl
theorem dX4_near_0 : decode cX4_near 0 = .ok (.new 158, 3) := dk_187 0 158 (dk_at dksX4_near_0 0 rfl rfl)
theorem dX4_near_3 : decode cX4_near 3 = .ok (.dup, 1) := dk_89 (dk_at dksX4_near_0 3 rfl rfl)
theorem dX4_near_4 : decode cX4_near 4 = .ok (.invokespecial 160, 3) := dk_183 0 160 (dk_at dksX4_near_0 4 rfl rfl)
theorem dX4_near_7 : decode cX4_near 7 = .ok (.astore_n 2, 1) := dk_77 (dk_at dksX4_near_0 7 rfl rfl)
theorem dX4_near_8 : decode cX4_near 8 = .ok (.iconst 0, 1) := dk_3 (dk_at dksX4_near_0 8 rfl rfl)
theorem dX4_near_9 : decode cX4_near 9 = .ok (.istore_n 3, 1) := dk_62 (dk_at dksX4_near_0 9 rfl rfl)
theorem dX4_near_10 : decode cX4_near 10 = .ok (.iload_n 3, 1) := dk_29 (dk_at dksX4_near_0 10 rfl rfl)
theorem dX4_near_11 : decode cX4_near 11 = .ok (.aload_n 0, 1) := dk_42 (dk_at dksX4_near_0 11 rfl rfl)
theorem dX4_near_12 : decode cX4_near 12 = .ok (.invokevirtual 37, 3) := dk_182 0 37 (dk_at dksX4_near_0 12 rfl rfl)
theorem dX4_near_15 : decode cX4_near 15 = .ok (.if_icmp .ge 30, 3) := dk_162 0 30 (dk_at dksX4_near_0 15 rfl rfl)
theorem dX4_near_18 : decode cX4_near 18 = .ok (.aload_n 0, 1) := dk_42 (dk_at dksX4_near_0 18 rfl rfl)
theorem dX4_near_19 : decode cX4_near 19 = .ok (.aload_n 0, 1) := dk_42 (dk_at dksX4_near_0 19 rfl rfl)
theorem dX4_near_20 : decode cX4_near 20 = .ok (.iload_n 3, 1) := dk_29 (dk_at dksX4_near_0 20 rfl rfl)
theorem dX4_near_21 : decode cX4_near 21 = .ok (.invokevirtual 41, 3) := dk_182 0 41 (dk_at dksX4_near_0 21 rfl rfl)
theorem dX4_near_24 : decode cX4_near 24 = .ok (.iload_n 1, 1) := dk_27 (dk_at dksX4_near_1 0 rfl rfl)
theorem dX4_near_25 : decode cX4_near 25 = .ok (.invokevirtual 161, 3) := dk_182 0 161 (dk_at dksX4_near_1 1 rfl rfl)
theorem dX4_near_28 : decode cX4_near 28 = .ok (.ifCond .eq 11, 3) := dk_153 0 11 (dk_at dksX4_near_1 4 rfl rfl)
theorem dX4_near_31 : decode cX4_near 31 = .ok (.aload_n 2, 1) := dk_44 (dk_at dksX4_near_1 7 rfl rfl)
theorem dX4_near_32 : decode cX4_near 32 = .ok (.iload_n 3, 1) := dk_29 (dk_at dksX4_near_1 8 rfl rfl)
theorem dX4_near_33 : decode cX4_near 33 = .ok (.invokestatic 165, 3) := dk_184 0 165 (dk_at dksX4_near_1 9 rfl rfl)
theorem dX4_near_36 : decode cX4_near 36 = .ok (.invokevirtual 171, 3) := dk_182 0 171 (dk_at dksX4_near_1 12 rfl rfl)
theorem dX4_near_39 : decode cX4_near 39 = .ok (.iinc 3 1, 3) := dk_132 3 1 (dk_at dksX4_near_1 15 rfl rfl)
theorem dX4_near_42 : decode cX4_near 42 = .ok (.goto (-32), 3) := dk_167 255 224 (dk_at dksX4_near_1 18 rfl rfl)
theorem dX4_near_45 : decode cX4_near 45 = .ok (.aload_n 2, 1) := dk_44 (dk_at dksX4_near_1 21 rfl rfl)
theorem dX4_near_46 : decode cX4_near 46 = .ok (.areturn, 1) := dk_176 (dk_at dksX4_near_1 22 rfl rfl)
abbrev cJ28_size : ByteArray := prog_55_method_16_code
def yJ28_size : MethodName := ⟨RJ28, "size", "()I"⟩
theorem dJ28_size_0 : decode cJ28_size 0 = .ok (.aload_n 0, 1) := by decide +kernel
theorem dJ28_size_1 : decode cJ28_size 1 = .ok (.getfield 7, 3) := by decide +kernel
theorem dJ28_size_4 : decode cJ28_size 4 = .ok (.ireturn, 1) := by decide +kernel
abbrev cX1_nearMany : ByteArray := prog_1_method_36_code
def yX1_nearMany : MethodName := ⟨RX1, "nearMany", "(I)I"⟩
def dkwX1_nearMany_0 : List UInt8 := [42, 27, 182, 0, 193, 27, 182, 0, 244, 182, 0, 248, 172]
abbrev dktX1_nearMany_0 : List UInt8 := dkwX1_nearMany_0 ++ []
theorem dksX1_nearMany_0 : cX1_nearMany.data.toList.drop 0 = dktX1_nearMany_0 := by decide +kernel
theorem dX1_nearMany_0 : decode cX1_nearMany 0 = .ok (.aload_n 0, 1) := dk_42 (dk_at dksX1_nearMany_0 0 rfl rfl)
theorem dX1_nearMany_1 : decode cX1_nearMany 1 = .ok (.iload_n 1, 1) := dk_27 (dk_at dksX1_nearMany_0 1 rfl rfl)
theorem dX1_nearMany_2 : decode cX1_nearMany 2 = .ok (.invokevirtual 193, 3) := dk_182 0 193 (dk_at dksX1_nearMany_0 2 rfl rfl)
theorem dX1_nearMany_5 : decode cX1_nearMany 5 = .ok (.iload_n 1, 1) := dk_27 (dk_at dksX1_nearMany_0 5 rfl rfl)
theorem dX1_nearMany_6 : decode cX1_nearMany 6 = .ok (.invokevirtual 244, 3) := dk_182 0 244 (dk_at dksX1_nearMany_0 6 rfl rfl)
theorem dX1_nearMany_9 : decode cX1_nearMany 9 = .ok (.invokevirtual 248, 3) := dk_182 0 248 (dk_at dksX1_nearMany_0 9 rfl rfl)
theorem dX1_nearMany_12 : decode cX1_nearMany 12 = .ok (.ireturn, 1) := dk_172 (dk_at dksX1_nearMany_0 12 rfl rfl)
abbrev cJ12_rangeCheckForAdd : ByteArray := prog_47_method_45_code
def yJ12_rangeCheckForAdd : MethodName := ⟨RJ12, "rangeCheckForAdd", "(I)V"⟩
def dkwJ12_rangeCheckForAdd_1 : List UInt8 := [191, 177]
abbrev dktJ12_rangeCheckForAdd_1 : List UInt8 := dkwJ12_rangeCheckForAdd_1 ++ []
def dkwJ12_rangeCheckForAdd_0 : List UInt8 := [27, 42, 180, 0, 48, 163, 0, 7, 27, 156, 0, 16, 187, 0, 187, 89, 42, 27, 182, 0, 198, 183, 0, 193]
abbrev dktJ12_rangeCheckForAdd_0 : List UInt8 := dkwJ12_rangeCheckForAdd_0 ++ dktJ12_rangeCheckForAdd_1
theorem dksJ12_rangeCheckForAdd_0 : cJ12_rangeCheckForAdd.data.toList.drop 0 = dktJ12_rangeCheckForAdd_0 := by decide +kernel
theorem dksJ12_rangeCheckForAdd_1 : cJ12_rangeCheckForAdd.data.toList.drop 24 = dktJ12_rangeCheckForAdd_1 := dk_seg dksJ12_rangeCheckForAdd_0 24 rfl rfl
theorem dJ12_rangeCheckForAdd_0 : decode cJ12_rangeCheckForAdd 0 = .ok (.iload_n 1, 1) := dk_27 (dk_at dksJ12_rangeCheckForAdd_0 0 rfl rfl)
theorem dJ12_rangeCheckForAdd_1 : decode cJ12_rangeCheckForAdd 1 = .ok (.aload_n 0, 1) := dk_42 (dk_at dksJ12_rangeCheckForAdd_0 1 rfl rfl)
theorem dJ12_rangeCheckForAdd_2 : decode cJ12_rangeCheckForAdd 2 = .ok (.getfield 48, 3) := dk_180 0 48 (dk_at dksJ12_rangeCheckForAdd_0 2 rfl rfl)
theorem dJ12_rangeCheckForAdd_5 : decode cJ12_rangeCheckForAdd 5 = .ok (.if_icmp .gt 7, 3) := dk_163 0 7 (dk_at dksJ12_rangeCheckForAdd_0 5 rfl rfl)
theorem dJ12_rangeCheckForAdd_8 : decode cJ12_rangeCheckForAdd 8 = .ok (.iload_n 1, 1) := dk_27 (dk_at dksJ12_rangeCheckForAdd_0 8 rfl rfl)
theorem dJ12_rangeCheckForAdd_9 : decode cJ12_rangeCheckForAdd 9 = .ok (.ifCond .ge 16, 3) := dk_156 0 16 (dk_at dksJ12_rangeCheckForAdd_0 9 rfl rfl)
theorem dJ12_rangeCheckForAdd_12 : decode cJ12_rangeCheckForAdd 12 = .ok (.new 187, 3) := dk_187 0 187 (dk_at dksJ12_rangeCheckForAdd_0 12 rfl rfl)
theorem dJ12_rangeCheckForAdd_15 : decode cJ12_rangeCheckForAdd 15 = .ok (.dup, 1) := dk_89 (dk_at dksJ12_rangeCheckForAdd_0 15 rfl rfl)
theorem dJ12_rangeCheckForAdd_16 : decode cJ12_rangeCheckForAdd 16 = .ok (.aload_n 0, 1) := dk_42 (dk_at dksJ12_rangeCheckForAdd_0 16 rfl rfl)
theorem dJ12_rangeCheckForAdd_17 : decode cJ12_rangeCheckForAdd 17 = .ok (.iload_n 1, 1) := dk_27 (dk_at dksJ12_rangeCheckForAdd_0 17 rfl rfl)
theorem dJ12_rangeCheckForAdd_18 : decode cJ12_rangeCheckForAdd 18 = .ok (.invokevirtual 198, 3) := dk_182 0 198 (dk_at dksJ12_rangeCheckForAdd_0 18 rfl rfl)
theorem dJ12_rangeCheckForAdd_21 : decode cJ12_rangeCheckForAdd 21 = .ok (.invokespecial 193, 3) := dk_183 0 193 (dk_at dksJ12_rangeCheckForAdd_0 21 rfl rfl)
theorem dJ12_rangeCheckForAdd_24 : decode cJ12_rangeCheckForAdd 24 = .ok (.athrow, 1) := dk_191 (dk_at dksJ12_rangeCheckForAdd_1 0 rfl rfl)
theorem dJ12_rangeCheckForAdd_25 : decode cJ12_rangeCheckForAdd 25 = .ok (.return_, 1) := dk_177 (dk_at dksJ12_rangeCheckForAdd_1 1 rfl rfl)
abbrev cJ30_init : ByteArray := prog_48_method_1_code
def yJ30_init : MethodName := ⟨RJ30, "<init>", "(Ljava/util/ArrayList;)V"⟩
def dkwJ30_init_1 : List UInt8 := [181, 0, 22, 177]
abbrev dktJ30_init_1 : List UInt8 := dkwJ30_init_1 ++ []
def dkwJ30_init_0 : List UInt8 := [42, 43, 181, 0, 1, 42, 183, 0, 7, 42, 2, 181, 0, 13, 42, 42, 180, 0, 1, 180, 0, 17]
abbrev dktJ30_init_0 : List UInt8 := dkwJ30_init_0 ++ dktJ30_init_1
theorem dksJ30_init_0 : cJ30_init.data.toList.drop 0 = dktJ30_init_0 := by decide +kernel
theorem dksJ30_init_1 : cJ30_init.data.toList.drop 22 = dktJ30_init_1 := dk_seg dksJ30_init_0 22 rfl rfl
theorem dJ30_init_0 : decode cJ30_init 0 = .ok (.aload_n 0, 1) := dk_42 (dk_at dksJ30_init_0 0 rfl rfl)
theorem dJ30_init_1 : decode cJ30_init 1 = .ok (.aload_n 1, 1) := dk_43 (dk_at dksJ30_init_0 1 rfl rfl)
theorem dJ30_init_2 : decode cJ30_init 2 = .ok (.putfield 1, 3) := dk_181 0 1 (dk_at dksJ30_init_0 2 rfl rfl)
theorem dJ30_init_5 : decode cJ30_init 5 = .ok (.aload_n 0, 1) := dk_42 (dk_at dksJ30_init_0 5 rfl rfl)
theorem dJ30_init_6 : decode cJ30_init 6 = .ok (.invokespecial 7, 3) := dk_183 0 7 (dk_at dksJ30_init_0 6 rfl rfl)
theorem dJ30_init_9 : decode cJ30_init 9 = .ok (.aload_n 0, 1) := dk_42 (dk_at dksJ30_init_0 9 rfl rfl)
theorem dJ30_init_10 : decode cJ30_init 10 = .ok (.iconst (-1), 1) := dk_2 (dk_at dksJ30_init_0 10 rfl rfl)
theorem dJ30_init_11 : decode cJ30_init 11 = .ok (.putfield 13, 3) := dk_181 0 13 (dk_at dksJ30_init_0 11 rfl rfl)
theorem dJ30_init_14 : decode cJ30_init 14 = .ok (.aload_n 0, 1) := dk_42 (dk_at dksJ30_init_0 14 rfl rfl)
theorem dJ30_init_15 : decode cJ30_init 15 = .ok (.aload_n 0, 1) := dk_42 (dk_at dksJ30_init_0 15 rfl rfl)
theorem dJ30_init_16 : decode cJ30_init 16 = .ok (.getfield 1, 3) := dk_180 0 1 (dk_at dksJ30_init_0 16 rfl rfl)
theorem dJ30_init_19 : decode cJ30_init 19 = .ok (.getfield 17, 3) := dk_180 0 17 (dk_at dksJ30_init_0 19 rfl rfl)
theorem dJ30_init_22 : decode cJ30_init 22 = .ok (.putfield 22, 3) := dk_181 0 22 (dk_at dksJ30_init_1 0 rfl rfl)
theorem dJ30_init_25 : decode cJ30_init 25 = .ok (.return_, 1) := dk_177 (dk_at dksJ30_init_1 3 rfl rfl)
abbrev cJ31_init : ByteArray := prog_49_method_1_code
def yJ31_init : MethodName := ⟨RJ31, "<init>", "(Ljava/util/ArrayList;I)V"⟩
def dkwJ31_init_0 : List UInt8 := [42, 43, 181, 0, 1, 42, 43, 183, 0, 7, 42, 28, 181, 0, 13, 177]
abbrev dktJ31_init_0 : List UInt8 := dkwJ31_init_0 ++ []
theorem dksJ31_init_0 : cJ31_init.data.toList.drop 0 = dktJ31_init_0 := by decide +kernel
theorem dJ31_init_0 : decode cJ31_init 0 = .ok (.aload_n 0, 1) := dk_42 (dk_at dksJ31_init_0 0 rfl rfl)
theorem dJ31_init_1 : decode cJ31_init 1 = .ok (.aload_n 1, 1) := dk_43 (dk_at dksJ31_init_0 1 rfl rfl)
theorem dJ31_init_2 : decode cJ31_init 2 = .ok (.putfield 1, 3) := dk_181 0 1 (dk_at dksJ31_init_0 2 rfl rfl)
theorem dJ31_init_5 : decode cJ31_init 5 = .ok (.aload_n 0, 1) := dk_42 (dk_at dksJ31_init_0 5 rfl rfl)
theorem dJ31_init_6 : decode cJ31_init 6 = .ok (.aload_n 1, 1) := dk_43 (dk_at dksJ31_init_0 6 rfl rfl)
theorem dJ31_init_7 : decode cJ31_init 7 = .ok (.invokespecial 7, 3) := dk_183 0 7 (dk_at dksJ31_init_0 7 rfl rfl)
theorem dJ31_init_10 : decode cJ31_init 10 = .ok (.aload_n 0, 1) := dk_42 (dk_at dksJ31_init_0 10 rfl rfl)
theorem dJ31_init_11 : decode cJ31_init 11 = .ok (.iload_n 2, 1) := dk_28 (dk_at dksJ31_init_0 11 rfl rfl)
theorem dJ31_init_12 : decode cJ31_init 12 = .ok (.putfield 13, 3) := dk_181 0 13 (dk_at dksJ31_init_0 12 rfl rfl)
theorem dJ31_init_15 : decode cJ31_init 15 = .ok (.return_, 1) := dk_177 (dk_at dksJ31_init_0 15 rfl rfl)
abbrev cJ12_listIterator : ByteArray := prog_47_method_53_code
def yJ12_listIterator : MethodName := ⟨RJ12, "listIterator", "(I)Ljava/util/ListIterator;"⟩
def dkwJ12_listIterator_0 : List UInt8 := [42, 27, 182, 0, 135, 187, 1, 6, 89, 42, 27, 183, 1, 8, 176]
abbrev dktJ12_listIterator_0 : List UInt8 := dkwJ12_listIterator_0 ++ []
theorem dksJ12_listIterator_0 : cJ12_listIterator.data.toList.drop 0 = dktJ12_listIterator_0 := by decide +kernel
theorem dJ12_listIterator_0 : decode cJ12_listIterator 0 = .ok (.aload_n 0, 1) := dk_42 (dk_at dksJ12_listIterator_0 0 rfl rfl)
theorem dJ12_listIterator_1 : decode cJ12_listIterator 1 = .ok (.iload_n 1, 1) := dk_27 (dk_at dksJ12_listIterator_0 1 rfl rfl)
theorem dJ12_listIterator_2 : decode cJ12_listIterator 2 = .ok (.invokevirtual 135, 3) := dk_182 0 135 (dk_at dksJ12_listIterator_0 2 rfl rfl)
theorem dJ12_listIterator_5 : decode cJ12_listIterator 5 = .ok (.new 262, 3) := dk_187 1 6 (dk_at dksJ12_listIterator_0 5 rfl rfl)
theorem dJ12_listIterator_8 : decode cJ12_listIterator 8 = .ok (.dup, 1) := dk_89 (dk_at dksJ12_listIterator_0 8 rfl rfl)
theorem dJ12_listIterator_9 : decode cJ12_listIterator 9 = .ok (.aload_n 0, 1) := dk_42 (dk_at dksJ12_listIterator_0 9 rfl rfl)
theorem dJ12_listIterator_10 : decode cJ12_listIterator 10 = .ok (.iload_n 1, 1) := dk_27 (dk_at dksJ12_listIterator_0 10 rfl rfl)
theorem dJ12_listIterator_11 : decode cJ12_listIterator 11 = .ok (.invokespecial 264, 3) := dk_183 1 8 (dk_at dksJ12_listIterator_0 11 rfl rfl)
theorem dJ12_listIterator_14 : decode cJ12_listIterator 14 = .ok (.areturn, 1) := dk_176 (dk_at dksJ12_listIterator_0 14 rfl rfl)
abbrev cJ28_isPositionIndex : ByteArray := prog_55_method_27_code
def yJ28_isPositionIndex : MethodName := ⟨RJ28, "isPositionIndex", "(I)Z"⟩
def dkwJ28_isPositionIndex_0 : List UInt8 := [27, 155, 0, 15, 27, 42, 180, 0, 7, 163, 0, 7, 4, 167, 0, 4, 3, 172]
abbrev dktJ28_isPositionIndex_0 : List UInt8 := dkwJ28_isPositionIndex_0 ++ []
theorem dksJ28_isPositionIndex_0 : cJ28_isPositionIndex.data.toList.drop 0 = dktJ28_isPositionIndex_0 := by decide +kernel
theorem dJ28_isPositionIndex_0 : decode cJ28_isPositionIndex 0 = .ok (.iload_n 1, 1) := dk_27 (dk_at dksJ28_isPositionIndex_0 0 rfl rfl)
theorem dJ28_isPositionIndex_1 : decode cJ28_isPositionIndex 1 = .ok (.ifCond .lt 15, 3) := dk_155 0 15 (dk_at dksJ28_isPositionIndex_0 1 rfl rfl)
theorem dJ28_isPositionIndex_4 : decode cJ28_isPositionIndex 4 = .ok (.iload_n 1, 1) := dk_27 (dk_at dksJ28_isPositionIndex_0 4 rfl rfl)
theorem dJ28_isPositionIndex_5 : decode cJ28_isPositionIndex 5 = .ok (.aload_n 0, 1) := dk_42 (dk_at dksJ28_isPositionIndex_0 5 rfl rfl)
theorem dJ28_isPositionIndex_6 : decode cJ28_isPositionIndex 6 = .ok (.getfield 7, 3) := dk_180 0 7 (dk_at dksJ28_isPositionIndex_0 6 rfl rfl)
theorem dJ28_isPositionIndex_9 : decode cJ28_isPositionIndex 9 = .ok (.if_icmp .gt 7, 3) := dk_163 0 7 (dk_at dksJ28_isPositionIndex_0 9 rfl rfl)
theorem dJ28_isPositionIndex_12 : decode cJ28_isPositionIndex 12 = .ok (.iconst 1, 1) := dk_4 (dk_at dksJ28_isPositionIndex_0 12 rfl rfl)
theorem dJ28_isPositionIndex_13 : decode cJ28_isPositionIndex 13 = .ok (.goto 4, 3) := dk_167 0 4 (dk_at dksJ28_isPositionIndex_0 13 rfl rfl)
theorem dJ28_isPositionIndex_16 : decode cJ28_isPositionIndex 16 = .ok (.iconst 0, 1) := dk_3 (dk_at dksJ28_isPositionIndex_0 16 rfl rfl)
theorem dJ28_isPositionIndex_17 : decode cJ28_isPositionIndex 17 = .ok (.ireturn, 1) := dk_172 (dk_at dksJ28_isPositionIndex_0 17 rfl rfl)
abbrev cJ28_checkPositionIndex : ByteArray := prog_55_method_30_code
def yJ28_checkPositionIndex : MethodName := ⟨RJ28, "checkPositionIndex", "(I)V"⟩
def dkwJ28_checkPositionIndex_0 : List UInt8 := [42, 27, 182, 0, 128, 154, 0, 16, 187, 0, 119, 89, 42, 27, 182, 0, 121, 183, 0, 125, 191, 177]
abbrev dktJ28_checkPositionIndex_0 : List UInt8 := dkwJ28_checkPositionIndex_0 ++ []
theorem dksJ28_checkPositionIndex_0 : cJ28_checkPositionIndex.data.toList.drop 0 = dktJ28_checkPositionIndex_0 := by decide +kernel
theorem dJ28_checkPositionIndex_0 : decode cJ28_checkPositionIndex 0 = .ok (.aload_n 0, 1) := dk_42 (dk_at dksJ28_checkPositionIndex_0 0 rfl rfl)
theorem dJ28_checkPositionIndex_1 : decode cJ28_checkPositionIndex 1 = .ok (.iload_n 1, 1) := dk_27 (dk_at dksJ28_checkPositionIndex_0 1 rfl rfl)
theorem dJ28_checkPositionIndex_2 : decode cJ28_checkPositionIndex 2 = .ok (.invokevirtual 128, 3) := dk_182 0 128 (dk_at dksJ28_checkPositionIndex_0 2 rfl rfl)
theorem dJ28_checkPositionIndex_5 : decode cJ28_checkPositionIndex 5 = .ok (.ifCond .ne 16, 3) := dk_154 0 16 (dk_at dksJ28_checkPositionIndex_0 5 rfl rfl)
theorem dJ28_checkPositionIndex_8 : decode cJ28_checkPositionIndex 8 = .ok (.new 119, 3) := dk_187 0 119 (dk_at dksJ28_checkPositionIndex_0 8 rfl rfl)
theorem dJ28_checkPositionIndex_11 : decode cJ28_checkPositionIndex 11 = .ok (.dup, 1) := dk_89 (dk_at dksJ28_checkPositionIndex_0 11 rfl rfl)
theorem dJ28_checkPositionIndex_12 : decode cJ28_checkPositionIndex 12 = .ok (.aload_n 0, 1) := dk_42 (dk_at dksJ28_checkPositionIndex_0 12 rfl rfl)
theorem dJ28_checkPositionIndex_13 : decode cJ28_checkPositionIndex 13 = .ok (.iload_n 1, 1) := dk_27 (dk_at dksJ28_checkPositionIndex_0 13 rfl rfl)
theorem dJ28_checkPositionIndex_14 : decode cJ28_checkPositionIndex 14 = .ok (.invokevirtual 121, 3) := dk_182 0 121 (dk_at dksJ28_checkPositionIndex_0 14 rfl rfl)
theorem dJ28_checkPositionIndex_17 : decode cJ28_checkPositionIndex 17 = .ok (.invokespecial 125, 3) := dk_183 0 125 (dk_at dksJ28_checkPositionIndex_0 17 rfl rfl)
theorem dJ28_checkPositionIndex_20 : decode cJ28_checkPositionIndex 20 = .ok (.athrow, 1) := dk_191 (dk_at dksJ28_checkPositionIndex_0 20 rfl rfl)
theorem dJ28_checkPositionIndex_21 : decode cJ28_checkPositionIndex 21 = .ok (.return_, 1) := dk_177 (dk_at dksJ28_checkPositionIndex_0 21 rfl rfl)
abbrev cJ28_node : ByteArray := prog_55_method_31_code
def yJ28_node : MethodName := ⟨RJ28, "node", "(I)Ljava/util/LinkedList$Node;"⟩
def dkwJ28_node_2 : List UInt8 := [29, 27, 164, 0, 14, 44, 180, 0, 30, 77, 132, 3, 255, 167, 255, 243, 44, 176]
abbrev dktJ28_node_2 : List UInt8 := dkwJ28_node_2 ++ []
def dkwJ28_node_1 : List UInt8 := [180, 0, 36, 77, 132, 3, 1, 167, 255, 243, 44, 176, 42, 180, 0, 27, 77, 42, 180, 0, 7, 4, 100, 62]
abbrev dktJ28_node_1 : List UInt8 := dkwJ28_node_1 ++ dktJ28_node_2
def dkwJ28_node_0 : List UInt8 := [27, 42, 180, 0, 7, 4, 122, 162, 0, 28, 42, 180, 0, 18, 77, 3, 62, 29, 27, 162, 0, 14, 44]
abbrev dktJ28_node_0 : List UInt8 := dkwJ28_node_0 ++ dktJ28_node_1
theorem dksJ28_node_0 : cJ28_node.data.toList.drop 0 = dktJ28_node_0 := by decide +kernel
theorem dksJ28_node_1 : cJ28_node.data.toList.drop 23 = dktJ28_node_1 := dk_seg dksJ28_node_0 23 rfl rfl
theorem dksJ28_node_2 : cJ28_node.data.toList.drop 47 = dktJ28_node_2 := dk_seg dksJ28_node_1 24 rfl rfl
theorem dJ28_node_0 : decode cJ28_node 0 = .ok (.iload_n 1, 1) := dk_27 (dk_at dksJ28_node_0 0 rfl rfl)
theorem dJ28_node_1 : decode cJ28_node 1 = .ok (.aload_n 0, 1) := dk_42 (dk_at dksJ28_node_0 1 rfl rfl)
theorem dJ28_node_2 : decode cJ28_node 2 = .ok (.getfield 7, 3) := dk_180 0 7 (dk_at dksJ28_node_0 2 rfl rfl)
theorem dJ28_node_5 : decode cJ28_node 5 = .ok (.iconst 1, 1) := dk_4 (dk_at dksJ28_node_0 5 rfl rfl)
theorem dJ28_node_6 : decode cJ28_node 6 = .ok (.ishr, 1) := dk_122 (dk_at dksJ28_node_0 6 rfl rfl)
theorem dJ28_node_7 : decode cJ28_node 7 = .ok (.if_icmp .ge 28, 3) := dk_162 0 28 (dk_at dksJ28_node_0 7 rfl rfl)
theorem dJ28_node_10 : decode cJ28_node 10 = .ok (.aload_n 0, 1) := dk_42 (dk_at dksJ28_node_0 10 rfl rfl)
theorem dJ28_node_11 : decode cJ28_node 11 = .ok (.getfield 18, 3) := dk_180 0 18 (dk_at dksJ28_node_0 11 rfl rfl)
theorem dJ28_node_14 : decode cJ28_node 14 = .ok (.astore_n 2, 1) := dk_77 (dk_at dksJ28_node_0 14 rfl rfl)
theorem dJ28_node_15 : decode cJ28_node 15 = .ok (.iconst 0, 1) := dk_3 (dk_at dksJ28_node_0 15 rfl rfl)
theorem dJ28_node_16 : decode cJ28_node 16 = .ok (.istore_n 3, 1) := dk_62 (dk_at dksJ28_node_0 16 rfl rfl)
theorem dJ28_node_17 : decode cJ28_node 17 = .ok (.iload_n 3, 1) := dk_29 (dk_at dksJ28_node_0 17 rfl rfl)
theorem dJ28_node_18 : decode cJ28_node 18 = .ok (.iload_n 1, 1) := dk_27 (dk_at dksJ28_node_0 18 rfl rfl)
theorem dJ28_node_19 : decode cJ28_node 19 = .ok (.if_icmp .ge 14, 3) := dk_162 0 14 (dk_at dksJ28_node_0 19 rfl rfl)
theorem dJ28_node_22 : decode cJ28_node 22 = .ok (.aload_n 2, 1) := dk_44 (dk_at dksJ28_node_0 22 rfl rfl)
theorem dJ28_node_23 : decode cJ28_node 23 = .ok (.getfield 36, 3) := dk_180 0 36 (dk_at dksJ28_node_1 0 rfl rfl)
theorem dJ28_node_26 : decode cJ28_node 26 = .ok (.astore_n 2, 1) := dk_77 (dk_at dksJ28_node_1 3 rfl rfl)
theorem dJ28_node_27 : decode cJ28_node 27 = .ok (.iinc 3 1, 3) := dk_132 3 1 (dk_at dksJ28_node_1 4 rfl rfl)
theorem dJ28_node_30 : decode cJ28_node 30 = .ok (.goto (-13), 3) := dk_167 255 243 (dk_at dksJ28_node_1 7 rfl rfl)
theorem dJ28_node_33 : decode cJ28_node 33 = .ok (.aload_n 2, 1) := dk_44 (dk_at dksJ28_node_1 10 rfl rfl)
theorem dJ28_node_34 : decode cJ28_node 34 = .ok (.areturn, 1) := dk_176 (dk_at dksJ28_node_1 11 rfl rfl)
theorem dJ28_node_35 : decode cJ28_node 35 = .ok (.aload_n 0, 1) := dk_42 (dk_at dksJ28_node_1 12 rfl rfl)
theorem dJ28_node_36 : decode cJ28_node 36 = .ok (.getfield 27, 3) := dk_180 0 27 (dk_at dksJ28_node_1 13 rfl rfl)
theorem dJ28_node_39 : decode cJ28_node 39 = .ok (.astore_n 2, 1) := dk_77 (dk_at dksJ28_node_1 16 rfl rfl)
theorem dJ28_node_40 : decode cJ28_node 40 = .ok (.aload_n 0, 1) := dk_42 (dk_at dksJ28_node_1 17 rfl rfl)
theorem dJ28_node_41 : decode cJ28_node 41 = .ok (.getfield 7, 3) := dk_180 0 7 (dk_at dksJ28_node_1 18 rfl rfl)
theorem dJ28_node_44 : decode cJ28_node 44 = .ok (.iconst 1, 1) := dk_4 (dk_at dksJ28_node_1 21 rfl rfl)
theorem dJ28_node_45 : decode cJ28_node 45 = .ok (.isub, 1) := dk_100 (dk_at dksJ28_node_1 22 rfl rfl)
theorem dJ28_node_46 : decode cJ28_node 46 = .ok (.istore_n 3, 1) := dk_62 (dk_at dksJ28_node_1 23 rfl rfl)
theorem dJ28_node_47 : decode cJ28_node 47 = .ok (.iload_n 3, 1) := dk_29 (dk_at dksJ28_node_2 0 rfl rfl)
theorem dJ28_node_48 : decode cJ28_node 48 = .ok (.iload_n 1, 1) := dk_27 (dk_at dksJ28_node_2 1 rfl rfl)
theorem dJ28_node_49 : decode cJ28_node 49 = .ok (.if_icmp .le 14, 3) := dk_164 0 14 (dk_at dksJ28_node_2 2 rfl rfl)
theorem dJ28_node_52 : decode cJ28_node 52 = .ok (.aload_n 2, 1) := dk_44 (dk_at dksJ28_node_2 5 rfl rfl)
theorem dJ28_node_53 : decode cJ28_node 53 = .ok (.getfield 30, 3) := dk_180 0 30 (dk_at dksJ28_node_2 6 rfl rfl)
theorem dJ28_node_56 : decode cJ28_node 56 = .ok (.astore_n 2, 1) := dk_77 (dk_at dksJ28_node_2 9 rfl rfl)
theorem dJ28_node_57 : decode cJ28_node 57 = .ok (.iinc 3 (-1), 3) := dk_132 3 255 (dk_at dksJ28_node_2 10 rfl rfl)
theorem dJ28_node_60 : decode cJ28_node 60 = .ok (.goto (-13), 3) := dk_167 255 243 (dk_at dksJ28_node_2 13 rfl rfl)
theorem dJ28_node_63 : decode cJ28_node 63 = .ok (.aload_n 2, 1) := dk_44 (dk_at dksJ28_node_2 16 rfl rfl)
theorem dJ28_node_64 : decode cJ28_node 64 = .ok (.areturn, 1) := dk_176 (dk_at dksJ28_node_2 17 rfl rfl)
abbrev cJ32_init : ByteArray := prog_56_method_1_code
def yJ32_init : MethodName := ⟨RJ32, "<init>", "(Ljava/util/LinkedList;I)V"⟩
def dkwJ32_init_1 : List UInt8 := [180, 0, 22, 160, 0, 7, 1, 167, 0, 8, 43, 28, 182, 0, 25, 181, 0, 29, 42, 28, 181, 0, 33, 177]
abbrev dktJ32_init_1 : List UInt8 := dkwJ32_init_1 ++ []
def dkwJ32_init_0 : List UInt8 := [42, 43, 181, 0, 1, 42, 183, 0, 7, 42, 42, 180, 0, 1, 180, 0, 13, 181, 0, 19, 42, 28, 43]
abbrev dktJ32_init_0 : List UInt8 := dkwJ32_init_0 ++ dktJ32_init_1
theorem dksJ32_init_0 : cJ32_init.data.toList.drop 0 = dktJ32_init_0 := by decide +kernel
theorem dksJ32_init_1 : cJ32_init.data.toList.drop 23 = dktJ32_init_1 := dk_seg dksJ32_init_0 23 rfl rfl
theorem dJ32_init_0 : decode cJ32_init 0 = .ok (.aload_n 0, 1) := dk_42 (dk_at dksJ32_init_0 0 rfl rfl)
theorem dJ32_init_1 : decode cJ32_init 1 = .ok (.aload_n 1, 1) := dk_43 (dk_at dksJ32_init_0 1 rfl rfl)
theorem dJ32_init_2 : decode cJ32_init 2 = .ok (.putfield 1, 3) := dk_181 0 1 (dk_at dksJ32_init_0 2 rfl rfl)
theorem dJ32_init_5 : decode cJ32_init 5 = .ok (.aload_n 0, 1) := dk_42 (dk_at dksJ32_init_0 5 rfl rfl)
theorem dJ32_init_6 : decode cJ32_init 6 = .ok (.invokespecial 7, 3) := dk_183 0 7 (dk_at dksJ32_init_0 6 rfl rfl)
theorem dJ32_init_9 : decode cJ32_init 9 = .ok (.aload_n 0, 1) := dk_42 (dk_at dksJ32_init_0 9 rfl rfl)
theorem dJ32_init_10 : decode cJ32_init 10 = .ok (.aload_n 0, 1) := dk_42 (dk_at dksJ32_init_0 10 rfl rfl)
theorem dJ32_init_11 : decode cJ32_init 11 = .ok (.getfield 1, 3) := dk_180 0 1 (dk_at dksJ32_init_0 11 rfl rfl)
theorem dJ32_init_14 : decode cJ32_init 14 = .ok (.getfield 13, 3) := dk_180 0 13 (dk_at dksJ32_init_0 14 rfl rfl)
theorem dJ32_init_17 : decode cJ32_init 17 = .ok (.putfield 19, 3) := dk_181 0 19 (dk_at dksJ32_init_0 17 rfl rfl)
theorem dJ32_init_20 : decode cJ32_init 20 = .ok (.aload_n 0, 1) := dk_42 (dk_at dksJ32_init_0 20 rfl rfl)
theorem dJ32_init_21 : decode cJ32_init 21 = .ok (.iload_n 2, 1) := dk_28 (dk_at dksJ32_init_0 21 rfl rfl)
theorem dJ32_init_22 : decode cJ32_init 22 = .ok (.aload_n 1, 1) := dk_43 (dk_at dksJ32_init_0 22 rfl rfl)
theorem dJ32_init_23 : decode cJ32_init 23 = .ok (.getfield 22, 3) := dk_180 0 22 (dk_at dksJ32_init_1 0 rfl rfl)
theorem dJ32_init_26 : decode cJ32_init 26 = .ok (.if_icmp .ne 7, 3) := dk_160 0 7 (dk_at dksJ32_init_1 3 rfl rfl)
theorem dJ32_init_29 : decode cJ32_init 29 = .ok (.aconst_null, 1) := dk_1 (dk_at dksJ32_init_1 6 rfl rfl)
theorem dJ32_init_30 : decode cJ32_init 30 = .ok (.goto 8, 3) := dk_167 0 8 (dk_at dksJ32_init_1 7 rfl rfl)
theorem dJ32_init_33 : decode cJ32_init 33 = .ok (.aload_n 1, 1) := dk_43 (dk_at dksJ32_init_1 10 rfl rfl)
theorem dJ32_init_34 : decode cJ32_init 34 = .ok (.iload_n 2, 1) := dk_28 (dk_at dksJ32_init_1 11 rfl rfl)
theorem dJ32_init_35 : decode cJ32_init 35 = .ok (.invokevirtual 25, 3) := dk_182 0 25 (dk_at dksJ32_init_1 12 rfl rfl)
theorem dJ32_init_38 : decode cJ32_init 38 = .ok (.putfield 29, 3) := dk_181 0 29 (dk_at dksJ32_init_1 15 rfl rfl)
theorem dJ32_init_41 : decode cJ32_init 41 = .ok (.aload_n 0, 1) := dk_42 (dk_at dksJ32_init_1 18 rfl rfl)
theorem dJ32_init_42 : decode cJ32_init 42 = .ok (.iload_n 2, 1) := dk_28 (dk_at dksJ32_init_1 19 rfl rfl)
theorem dJ32_init_43 : decode cJ32_init 43 = .ok (.putfield 33, 3) := dk_181 0 33 (dk_at dksJ32_init_1 20 rfl rfl)
theorem dJ32_init_46 : decode cJ32_init 46 = .ok (.return_, 1) := dk_177 (dk_at dksJ32_init_1 23 rfl rfl)
abbrev cJ28_listIterator : ByteArray := prog_55_method_49_code
def yJ28_listIterator : MethodName := ⟨RJ28, "listIterator", "(I)Ljava/util/ListIterator;"⟩
def dkwJ28_listIterator_0 : List UInt8 := [42, 27, 182, 0, 76, 187, 0, 150, 89, 42, 27, 183, 0, 152, 176]
abbrev dktJ28_listIterator_0 : List UInt8 := dkwJ28_listIterator_0 ++ []
theorem dksJ28_listIterator_0 : cJ28_listIterator.data.toList.drop 0 = dktJ28_listIterator_0 := by decide +kernel
theorem dJ28_listIterator_0 : decode cJ28_listIterator 0 = .ok (.aload_n 0, 1) := dk_42 (dk_at dksJ28_listIterator_0 0 rfl rfl)
theorem dJ28_listIterator_1 : decode cJ28_listIterator 1 = .ok (.iload_n 1, 1) := dk_27 (dk_at dksJ28_listIterator_0 1 rfl rfl)
theorem dJ28_listIterator_2 : decode cJ28_listIterator 2 = .ok (.invokevirtual 76, 3) := dk_182 0 76 (dk_at dksJ28_listIterator_0 2 rfl rfl)
theorem dJ28_listIterator_5 : decode cJ28_listIterator 5 = .ok (.new 150, 3) := dk_187 0 150 (dk_at dksJ28_listIterator_0 5 rfl rfl)
theorem dJ28_listIterator_8 : decode cJ28_listIterator 8 = .ok (.dup, 1) := dk_89 (dk_at dksJ28_listIterator_0 8 rfl rfl)
theorem dJ28_listIterator_9 : decode cJ28_listIterator 9 = .ok (.aload_n 0, 1) := dk_42 (dk_at dksJ28_listIterator_0 9 rfl rfl)
theorem dJ28_listIterator_10 : decode cJ28_listIterator 10 = .ok (.iload_n 1, 1) := dk_27 (dk_at dksJ28_listIterator_0 10 rfl rfl)
theorem dJ28_listIterator_11 : decode cJ28_listIterator 11 = .ok (.invokespecial 152, 3) := dk_183 0 152 (dk_at dksJ28_listIterator_0 11 rfl rfl)
theorem dJ28_listIterator_14 : decode cJ28_listIterator 14 = .ok (.areturn, 1) := dk_176 (dk_at dksJ28_listIterator_0 14 rfl rfl)
abbrev cJ11_listIterator : ByteArray := prog_42_method_12_code
def yJ11_listIterator : MethodName := ⟨RJ11, "listIterator", "()Ljava/util/ListIterator;"⟩
def dkwJ11_listIterator_0 : List UInt8 := [42, 3, 182, 0, 47, 176]
abbrev dktJ11_listIterator_0 : List UInt8 := dkwJ11_listIterator_0 ++ []
theorem dksJ11_listIterator_0 : cJ11_listIterator.data.toList.drop 0 = dktJ11_listIterator_0 := by decide +kernel
theorem dJ11_listIterator_0 : decode cJ11_listIterator 0 = .ok (.aload_n 0, 1) := dk_42 (dk_at dksJ11_listIterator_0 0 rfl rfl)
theorem dJ11_listIterator_1 : decode cJ11_listIterator 1 = .ok (.iconst 0, 1) := dk_3 (dk_at dksJ11_listIterator_0 1 rfl rfl)
theorem dJ11_listIterator_2 : decode cJ11_listIterator 2 = .ok (.invokevirtual 47, 3) := dk_182 0 47 (dk_at dksJ11_listIterator_0 2 rfl rfl)
theorem dJ11_listIterator_5 : decode cJ11_listIterator 5 = .ok (.areturn, 1) := dk_176 (dk_at dksJ11_listIterator_0 5 rfl rfl)
abbrev cJ27_iterator : ByteArray := prog_45_method_7_code
def yJ27_iterator : MethodName := ⟨RJ27, "iterator", "()Ljava/util/Iterator;"⟩
theorem dJ27_iterator_0 : decode cJ27_iterator 0 = .ok (.aload_n 0, 1) := by decide +kernel
theorem dJ27_iterator_1 : decode cJ27_iterator 1 = .ok (.invokevirtual 65, 3) := by decide +kernel
theorem dJ27_iterator_4 : decode cJ27_iterator 4 = .ok (.areturn, 1) := by decide +kernel
abbrev cJ32_hasNext : ByteArray := prog_56_method_2_code
def yJ32_hasNext : MethodName := ⟨RJ32, "hasNext", "()Z"⟩
def dkwJ32_hasNext_0 : List UInt8 := [42, 180, 0, 33, 42, 180, 0, 1, 180, 0, 22, 162, 0, 7, 4, 167, 0, 4, 3, 172]
abbrev dktJ32_hasNext_0 : List UInt8 := dkwJ32_hasNext_0 ++ []
theorem dksJ32_hasNext_0 : cJ32_hasNext.data.toList.drop 0 = dktJ32_hasNext_0 := by decide +kernel
theorem dJ32_hasNext_0 : decode cJ32_hasNext 0 = .ok (.aload_n 0, 1) := dk_42 (dk_at dksJ32_hasNext_0 0 rfl rfl)
theorem dJ32_hasNext_1 : decode cJ32_hasNext 1 = .ok (.getfield 33, 3) := dk_180 0 33 (dk_at dksJ32_hasNext_0 1 rfl rfl)
theorem dJ32_hasNext_4 : decode cJ32_hasNext 4 = .ok (.aload_n 0, 1) := dk_42 (dk_at dksJ32_hasNext_0 4 rfl rfl)
theorem dJ32_hasNext_5 : decode cJ32_hasNext 5 = .ok (.getfield 1, 3) := dk_180 0 1 (dk_at dksJ32_hasNext_0 5 rfl rfl)
theorem dJ32_hasNext_8 : decode cJ32_hasNext 8 = .ok (.getfield 22, 3) := dk_180 0 22 (dk_at dksJ32_hasNext_0 8 rfl rfl)
theorem dJ32_hasNext_11 : decode cJ32_hasNext 11 = .ok (.if_icmp .ge 7, 3) := dk_162 0 7 (dk_at dksJ32_hasNext_0 11 rfl rfl)
theorem dJ32_hasNext_14 : decode cJ32_hasNext 14 = .ok (.iconst 1, 1) := dk_4 (dk_at dksJ32_hasNext_0 14 rfl rfl)
theorem dJ32_hasNext_15 : decode cJ32_hasNext 15 = .ok (.goto 4, 3) := dk_167 0 4 (dk_at dksJ32_hasNext_0 15 rfl rfl)
theorem dJ32_hasNext_18 : decode cJ32_hasNext 18 = .ok (.iconst 0, 1) := dk_3 (dk_at dksJ32_hasNext_0 18 rfl rfl)
theorem dJ32_hasNext_19 : decode cJ32_hasNext 19 = .ok (.ireturn, 1) := dk_172 (dk_at dksJ32_hasNext_0 19 rfl rfl)
abbrev cJ32_checkForComodification : ByteArray := prog_56_method_12_code
def yJ32_checkForComodification : MethodName := ⟨RJ32, "checkForComodification", "()V"⟩
def dkwJ32_checkForComodification_0 : List UInt8 := [42, 180, 0, 1, 180, 0, 13, 42, 180, 0, 19, 159, 0, 11, 187, 0, 91, 89, 183, 0, 93, 191, 177]
abbrev dktJ32_checkForComodification_0 : List UInt8 := dkwJ32_checkForComodification_0 ++ []
theorem dksJ32_checkForComodification_0 : cJ32_checkForComodification.data.toList.drop 0 = dktJ32_checkForComodification_0 := by decide +kernel
theorem dJ32_checkForComodification_0 : decode cJ32_checkForComodification 0 = .ok (.aload_n 0, 1) := dk_42 (dk_at dksJ32_checkForComodification_0 0 rfl rfl)
theorem dJ32_checkForComodification_1 : decode cJ32_checkForComodification 1 = .ok (.getfield 1, 3) := dk_180 0 1 (dk_at dksJ32_checkForComodification_0 1 rfl rfl)
theorem dJ32_checkForComodification_4 : decode cJ32_checkForComodification 4 = .ok (.getfield 13, 3) := dk_180 0 13 (dk_at dksJ32_checkForComodification_0 4 rfl rfl)
theorem dJ32_checkForComodification_7 : decode cJ32_checkForComodification 7 = .ok (.aload_n 0, 1) := dk_42 (dk_at dksJ32_checkForComodification_0 7 rfl rfl)
theorem dJ32_checkForComodification_8 : decode cJ32_checkForComodification 8 = .ok (.getfield 19, 3) := dk_180 0 19 (dk_at dksJ32_checkForComodification_0 8 rfl rfl)
theorem dJ32_checkForComodification_11 : decode cJ32_checkForComodification 11 = .ok (.if_icmp .eq 11, 3) := dk_159 0 11 (dk_at dksJ32_checkForComodification_0 11 rfl rfl)
theorem dJ32_checkForComodification_14 : decode cJ32_checkForComodification 14 = .ok (.new 91, 3) := dk_187 0 91 (dk_at dksJ32_checkForComodification_0 14 rfl rfl)
theorem dJ32_checkForComodification_17 : decode cJ32_checkForComodification 17 = .ok (.dup, 1) := dk_89 (dk_at dksJ32_checkForComodification_0 17 rfl rfl)
theorem dJ32_checkForComodification_18 : decode cJ32_checkForComodification 18 = .ok (.invokespecial 93, 3) := dk_183 0 93 (dk_at dksJ32_checkForComodification_0 18 rfl rfl)
theorem dJ32_checkForComodification_21 : decode cJ32_checkForComodification 21 = .ok (.athrow, 1) := dk_191 (dk_at dksJ32_checkForComodification_0 21 rfl rfl)
theorem dJ32_checkForComodification_22 : decode cJ32_checkForComodification 22 = .ok (.return_, 1) := dk_177 (dk_at dksJ32_checkForComodification_0 22 rfl rfl)
abbrev cJ32_next : ByteArray := prog_56_method_3_code
def yJ32_next : MethodName := ⟨RJ32, "next", "()Ljava/lang/Object;"⟩
def dkwJ32_next_2 : List UInt8 := [42, 180, 0, 46, 180, 0, 52, 176]
abbrev dktJ32_next_2 : List UInt8 := dkwJ32_next_2 ++ []
def dkwJ32_next_1 : List UInt8 := [181, 0, 46, 42, 42, 180, 0, 29, 180, 0, 49, 181, 0, 29, 42, 89, 180, 0, 33, 4, 96, 181, 0, 33]
abbrev dktJ32_next_1 : List UInt8 := dkwJ32_next_1 ++ dktJ32_next_2
def dkwJ32_next_0 : List UInt8 := [42, 182, 0, 36, 42, 182, 0, 39, 154, 0, 11, 187, 0, 43, 89, 183, 0, 45, 191, 42, 42, 180, 0, 29]
abbrev dktJ32_next_0 : List UInt8 := dkwJ32_next_0 ++ dktJ32_next_1
theorem dksJ32_next_0 : cJ32_next.data.toList.drop 0 = dktJ32_next_0 := by decide +kernel
theorem dksJ32_next_1 : cJ32_next.data.toList.drop 24 = dktJ32_next_1 := dk_seg dksJ32_next_0 24 rfl rfl
theorem dksJ32_next_2 : cJ32_next.data.toList.drop 48 = dktJ32_next_2 := dk_seg dksJ32_next_1 24 rfl rfl
theorem dJ32_next_0 : decode cJ32_next 0 = .ok (.aload_n 0, 1) := dk_42 (dk_at dksJ32_next_0 0 rfl rfl)
theorem dJ32_next_1 : decode cJ32_next 1 = .ok (.invokevirtual 36, 3) := dk_182 0 36 (dk_at dksJ32_next_0 1 rfl rfl)
theorem dJ32_next_4 : decode cJ32_next 4 = .ok (.aload_n 0, 1) := dk_42 (dk_at dksJ32_next_0 4 rfl rfl)
theorem dJ32_next_5 : decode cJ32_next 5 = .ok (.invokevirtual 39, 3) := dk_182 0 39 (dk_at dksJ32_next_0 5 rfl rfl)
theorem dJ32_next_8 : decode cJ32_next 8 = .ok (.ifCond .ne 11, 3) := dk_154 0 11 (dk_at dksJ32_next_0 8 rfl rfl)
theorem dJ32_next_11 : decode cJ32_next 11 = .ok (.new 43, 3) := dk_187 0 43 (dk_at dksJ32_next_0 11 rfl rfl)
theorem dJ32_next_14 : decode cJ32_next 14 = .ok (.dup, 1) := dk_89 (dk_at dksJ32_next_0 14 rfl rfl)
theorem dJ32_next_15 : decode cJ32_next 15 = .ok (.invokespecial 45, 3) := dk_183 0 45 (dk_at dksJ32_next_0 15 rfl rfl)
theorem dJ32_next_18 : decode cJ32_next 18 = .ok (.athrow, 1) := dk_191 (dk_at dksJ32_next_0 18 rfl rfl)
theorem dJ32_next_19 : decode cJ32_next 19 = .ok (.aload_n 0, 1) := dk_42 (dk_at dksJ32_next_0 19 rfl rfl)
theorem dJ32_next_20 : decode cJ32_next 20 = .ok (.aload_n 0, 1) := dk_42 (dk_at dksJ32_next_0 20 rfl rfl)
theorem dJ32_next_21 : decode cJ32_next 21 = .ok (.getfield 29, 3) := dk_180 0 29 (dk_at dksJ32_next_0 21 rfl rfl)
theorem dJ32_next_24 : decode cJ32_next 24 = .ok (.putfield 46, 3) := dk_181 0 46 (dk_at dksJ32_next_1 0 rfl rfl)
theorem dJ32_next_27 : decode cJ32_next 27 = .ok (.aload_n 0, 1) := dk_42 (dk_at dksJ32_next_1 3 rfl rfl)
theorem dJ32_next_28 : decode cJ32_next 28 = .ok (.aload_n 0, 1) := dk_42 (dk_at dksJ32_next_1 4 rfl rfl)
theorem dJ32_next_29 : decode cJ32_next 29 = .ok (.getfield 29, 3) := dk_180 0 29 (dk_at dksJ32_next_1 5 rfl rfl)
theorem dJ32_next_32 : decode cJ32_next 32 = .ok (.getfield 49, 3) := dk_180 0 49 (dk_at dksJ32_next_1 8 rfl rfl)
theorem dJ32_next_35 : decode cJ32_next 35 = .ok (.putfield 29, 3) := dk_181 0 29 (dk_at dksJ32_next_1 11 rfl rfl)
theorem dJ32_next_38 : decode cJ32_next 38 = .ok (.aload_n 0, 1) := dk_42 (dk_at dksJ32_next_1 14 rfl rfl)
theorem dJ32_next_39 : decode cJ32_next 39 = .ok (.dup, 1) := dk_89 (dk_at dksJ32_next_1 15 rfl rfl)
theorem dJ32_next_40 : decode cJ32_next 40 = .ok (.getfield 33, 3) := dk_180 0 33 (dk_at dksJ32_next_1 16 rfl rfl)
theorem dJ32_next_43 : decode cJ32_next 43 = .ok (.iconst 1, 1) := dk_4 (dk_at dksJ32_next_1 19 rfl rfl)
theorem dJ32_next_44 : decode cJ32_next 44 = .ok (.iadd, 1) := dk_96 (dk_at dksJ32_next_1 20 rfl rfl)
theorem dJ32_next_45 : decode cJ32_next 45 = .ok (.putfield 33, 3) := dk_181 0 33 (dk_at dksJ32_next_1 21 rfl rfl)
theorem dJ32_next_48 : decode cJ32_next 48 = .ok (.aload_n 0, 1) := dk_42 (dk_at dksJ32_next_2 0 rfl rfl)
theorem dJ32_next_49 : decode cJ32_next 49 = .ok (.getfield 46, 3) := dk_180 0 46 (dk_at dksJ32_next_2 1 rfl rfl)
theorem dJ32_next_52 : decode cJ32_next 52 = .ok (.getfield 52, 3) := dk_180 0 52 (dk_at dksJ32_next_2 4 rfl rfl)
theorem dJ32_next_55 : decode cJ32_next 55 = .ok (.areturn, 1) := dk_176 (dk_at dksJ32_next_2 7 rfl rfl)
abbrev cJ20_intValue : ByteArray := prog_25_method_27_code
def yJ20_intValue : MethodName := ⟨RJ20, "intValue", "()I"⟩
theorem dJ20_intValue_0 : decode cJ20_intValue 0 = .ok (.aload_n 0, 1) := by decide +kernel
theorem dJ20_intValue_1 : decode cJ20_intValue 1 = .ok (.getfield 205, 3) := by decide +kernel
theorem dJ20_intValue_4 : decode cJ20_intValue 4 = .ok (.ireturn, 1) := by decide +kernel
abbrev cX1_nearBody : ByteArray := prog_1_method_37_code
def yX1_nearBody : MethodName := ⟨RX1, "nearBody", "(II)I"⟩
def dkwX1_nearBody_2 : List UInt8 := [172, 132, 4, 255, 167, 255, 222, 2, 172]
abbrev dktX1_nearBody_2 : List UInt8 := dkwX1_nearBody_2 ++ []
def dkwX1_nearBody_1 : List UInt8 := [153, 0, 31, 45, 185, 1, 5, 1, 0, 192, 1, 9, 182, 1, 11, 54, 5, 21, 4, 154, 0, 6, 21, 5]
abbrev dktX1_nearBody_1 : List UInt8 := dkwX1_nearBody_1 ++ dktX1_nearBody_2
def dkwX1_nearBody_0 : List UInt8 := [42, 27, 182, 0, 193, 27, 182, 0, 244, 182, 0, 251, 78, 28, 54, 4, 45, 185, 0, 255, 1, 0]
abbrev dktX1_nearBody_0 : List UInt8 := dkwX1_nearBody_0 ++ dktX1_nearBody_1
theorem dksX1_nearBody_0 : cX1_nearBody.data.toList.drop 0 = dktX1_nearBody_0 := by decide +kernel
theorem dksX1_nearBody_1 : cX1_nearBody.data.toList.drop 22 = dktX1_nearBody_1 := dk_seg dksX1_nearBody_0 22 rfl rfl
theorem dksX1_nearBody_2 : cX1_nearBody.data.toList.drop 46 = dktX1_nearBody_2 := dk_seg dksX1_nearBody_1 24 rfl rfl
theorem dX1_nearBody_0 : decode cX1_nearBody 0 = .ok (.aload_n 0, 1) := dk_42 (dk_at dksX1_nearBody_0 0 rfl rfl)
theorem dX1_nearBody_1 : decode cX1_nearBody 1 = .ok (.iload_n 1, 1) := dk_27 (dk_at dksX1_nearBody_0 1 rfl rfl)
theorem dX1_nearBody_2 : decode cX1_nearBody 2 = .ok (.invokevirtual 193, 3) := dk_182 0 193 (dk_at dksX1_nearBody_0 2 rfl rfl)
theorem dX1_nearBody_5 : decode cX1_nearBody 5 = .ok (.iload_n 1, 1) := dk_27 (dk_at dksX1_nearBody_0 5 rfl rfl)
theorem dX1_nearBody_6 : decode cX1_nearBody 6 = .ok (.invokevirtual 244, 3) := dk_182 0 244 (dk_at dksX1_nearBody_0 6 rfl rfl)
theorem dX1_nearBody_9 : decode cX1_nearBody 9 = .ok (.invokevirtual 251, 3) := dk_182 0 251 (dk_at dksX1_nearBody_0 9 rfl rfl)
theorem dX1_nearBody_12 : decode cX1_nearBody 12 = .ok (.astore_n 3, 1) := dk_78 (dk_at dksX1_nearBody_0 12 rfl rfl)
theorem dX1_nearBody_13 : decode cX1_nearBody 13 = .ok (.iload_n 2, 1) := dk_28 (dk_at dksX1_nearBody_0 13 rfl rfl)
theorem dX1_nearBody_14 : decode cX1_nearBody 14 = .ok (.istore 4, 2) := dk_54 4 (dk_at dksX1_nearBody_0 14 rfl rfl)
theorem dX1_nearBody_16 : decode cX1_nearBody 16 = .ok (.aload_n 3, 1) := dk_45 (dk_at dksX1_nearBody_0 16 rfl rfl)
theorem dX1_nearBody_17 : decode cX1_nearBody 17 = .ok (.invokeinterface 255 1, 5) := by decide +kernel
theorem dX1_nearBody_22 : decode cX1_nearBody 22 = .ok (.ifCond .eq 31, 3) := dk_153 0 31 (dk_at dksX1_nearBody_1 0 rfl rfl)
theorem dX1_nearBody_25 : decode cX1_nearBody 25 = .ok (.aload_n 3, 1) := dk_45 (dk_at dksX1_nearBody_1 3 rfl rfl)
theorem dX1_nearBody_26 : decode cX1_nearBody 26 = .ok (.invokeinterface 261 1, 5) := by decide +kernel
theorem dX1_nearBody_31 : decode cX1_nearBody 31 = .ok (.checkcast 265, 3) := dk_192 1 9 (dk_at dksX1_nearBody_1 9 rfl rfl)
theorem dX1_nearBody_34 : decode cX1_nearBody 34 = .ok (.invokevirtual 267, 3) := dk_182 1 11 (dk_at dksX1_nearBody_1 12 rfl rfl)
theorem dX1_nearBody_37 : decode cX1_nearBody 37 = .ok (.istore 5, 2) := dk_54 5 (dk_at dksX1_nearBody_1 15 rfl rfl)
theorem dX1_nearBody_39 : decode cX1_nearBody 39 = .ok (.iload 4, 2) := dk_21 4 (dk_at dksX1_nearBody_1 17 rfl rfl)
theorem dX1_nearBody_41 : decode cX1_nearBody 41 = .ok (.ifCond .ne 6, 3) := dk_154 0 6 (dk_at dksX1_nearBody_1 19 rfl rfl)
theorem dX1_nearBody_44 : decode cX1_nearBody 44 = .ok (.iload 5, 2) := dk_21 5 (dk_at dksX1_nearBody_1 22 rfl rfl)
theorem dX1_nearBody_46 : decode cX1_nearBody 46 = .ok (.ireturn, 1) := dk_172 (dk_at dksX1_nearBody_2 0 rfl rfl)
theorem dX1_nearBody_47 : decode cX1_nearBody 47 = .ok (.iinc 4 (-1), 3) := dk_132 4 255 (dk_at dksX1_nearBody_2 1 rfl rfl)
theorem dX1_nearBody_50 : decode cX1_nearBody 50 = .ok (.goto (-34), 3) := dk_167 255 222 (dk_at dksX1_nearBody_2 4 rfl rfl)
theorem dX1_nearBody_53 : decode cX1_nearBody 53 = .ok (.iconst (-1), 1) := dk_2 (dk_at dksX1_nearBody_2 7 rfl rfl)
theorem dX1_nearBody_54 : decode cX1_nearBody 54 = .ok (.ireturn, 1) := dk_172 (dk_at dksX1_nearBody_2 8 rfl rfl)
abbrev cX5_isFarFrom : ByteArray := prog_3_method_4_code
def yX5_isFarFrom : MethodName := ⟨RX5, "isFarFrom", "(I)Z"⟩
def dkwX5_isFarFrom_1 : List UInt8 := [5, 108, 100, 133, 20, 0, 24, 10, 184, 0, 26, 153, 0, 7, 4, 167, 0, 4, 3, 172]
abbrev dktX5_isFarFrom_1 : List UInt8 := dkwX5_isFarFrom_1 ++ []
def dkwX5_isFarFrom_0 : List UInt8 := [27, 42, 180, 0, 15, 100, 133, 20, 0, 24, 10, 184, 0, 26, 154, 0, 28, 27, 5, 108, 42, 180, 0, 15]
abbrev dktX5_isFarFrom_0 : List UInt8 := dkwX5_isFarFrom_0 ++ dktX5_isFarFrom_1
theorem dksX5_isFarFrom_0 : cX5_isFarFrom.data.toList.drop 0 = dktX5_isFarFrom_0 := by decide +kernel
theorem dksX5_isFarFrom_1 : cX5_isFarFrom.data.toList.drop 24 = dktX5_isFarFrom_1 := dk_seg dksX5_isFarFrom_0 24 rfl rfl
theorem dX5_isFarFrom_0 : decode cX5_isFarFrom 0 = .ok (.iload_n 1, 1) := dk_27 (dk_at dksX5_isFarFrom_0 0 rfl rfl)
theorem dX5_isFarFrom_1 : decode cX5_isFarFrom 1 = .ok (.aload_n 0, 1) := dk_42 (dk_at dksX5_isFarFrom_0 1 rfl rfl)
theorem dX5_isFarFrom_2 : decode cX5_isFarFrom 2 = .ok (.getfield 15, 3) := dk_180 0 15 (dk_at dksX5_isFarFrom_0 2 rfl rfl)
theorem dX5_isFarFrom_5 : decode cX5_isFarFrom 5 = .ok (.isub, 1) := dk_100 (dk_at dksX5_isFarFrom_0 5 rfl rfl)
theorem dX5_isFarFrom_6 : decode cX5_isFarFrom 6 = .ok (.i2l, 1) := dk_133 (dk_at dksX5_isFarFrom_0 6 rfl rfl)
theorem dX5_isFarFrom_7 : decode cX5_isFarFrom 7 = .ok (.ldc2_w 24, 3) := dk_20 0 24 (dk_at dksX5_isFarFrom_0 7 rfl rfl)
theorem dX5_isFarFrom_10 : decode cX5_isFarFrom 10 = .ok (.lconst 1, 1) := dk_10 (dk_at dksX5_isFarFrom_0 10 rfl rfl)
theorem dX5_isFarFrom_11 : decode cX5_isFarFrom 11 = .ok (.invokestatic 26, 3) := dk_184 0 26 (dk_at dksX5_isFarFrom_0 11 rfl rfl)
theorem dX5_isFarFrom_14 : decode cX5_isFarFrom 14 = .ok (.ifCond .ne 28, 3) := dk_154 0 28 (dk_at dksX5_isFarFrom_0 14 rfl rfl)
theorem dX5_isFarFrom_17 : decode cX5_isFarFrom 17 = .ok (.iload_n 1, 1) := dk_27 (dk_at dksX5_isFarFrom_0 17 rfl rfl)
theorem dX5_isFarFrom_18 : decode cX5_isFarFrom 18 = .ok (.iconst 2, 1) := dk_5 (dk_at dksX5_isFarFrom_0 18 rfl rfl)
theorem dX5_isFarFrom_19 : decode cX5_isFarFrom 19 = .ok (.idiv, 1) := dk_108 (dk_at dksX5_isFarFrom_0 19 rfl rfl)
theorem dX5_isFarFrom_20 : decode cX5_isFarFrom 20 = .ok (.aload_n 0, 1) := dk_42 (dk_at dksX5_isFarFrom_0 20 rfl rfl)
theorem dX5_isFarFrom_21 : decode cX5_isFarFrom 21 = .ok (.getfield 15, 3) := dk_180 0 15 (dk_at dksX5_isFarFrom_0 21 rfl rfl)
theorem dX5_isFarFrom_24 : decode cX5_isFarFrom 24 = .ok (.iconst 2, 1) := dk_5 (dk_at dksX5_isFarFrom_1 0 rfl rfl)
theorem dX5_isFarFrom_25 : decode cX5_isFarFrom 25 = .ok (.idiv, 1) := dk_108 (dk_at dksX5_isFarFrom_1 1 rfl rfl)
theorem dX5_isFarFrom_26 : decode cX5_isFarFrom 26 = .ok (.isub, 1) := dk_100 (dk_at dksX5_isFarFrom_1 2 rfl rfl)
theorem dX5_isFarFrom_27 : decode cX5_isFarFrom 27 = .ok (.i2l, 1) := dk_133 (dk_at dksX5_isFarFrom_1 3 rfl rfl)
theorem dX5_isFarFrom_28 : decode cX5_isFarFrom 28 = .ok (.ldc2_w 24, 3) := dk_20 0 24 (dk_at dksX5_isFarFrom_1 4 rfl rfl)
theorem dX5_isFarFrom_31 : decode cX5_isFarFrom 31 = .ok (.lconst 1, 1) := dk_10 (dk_at dksX5_isFarFrom_1 7 rfl rfl)
theorem dX5_isFarFrom_32 : decode cX5_isFarFrom 32 = .ok (.invokestatic 26, 3) := dk_184 0 26 (dk_at dksX5_isFarFrom_1 8 rfl rfl)
theorem dX5_isFarFrom_35 : decode cX5_isFarFrom 35 = .ok (.ifCond .eq 7, 3) := dk_153 0 7 (dk_at dksX5_isFarFrom_1 11 rfl rfl)
theorem dX5_isFarFrom_38 : decode cX5_isFarFrom 38 = .ok (.iconst 1, 1) := dk_4 (dk_at dksX5_isFarFrom_1 14 rfl rfl)
theorem dX5_isFarFrom_39 : decode cX5_isFarFrom 39 = .ok (.goto 4, 3) := dk_167 0 4 (dk_at dksX5_isFarFrom_1 15 rfl rfl)
theorem dX5_isFarFrom_42 : decode cX5_isFarFrom 42 = .ok (.iconst 0, 1) := dk_3 (dk_at dksX5_isFarFrom_1 18 rfl rfl)
theorem dX5_isFarFrom_43 : decode cX5_isFarFrom 43 = .ok (.ireturn, 1) := dk_172 (dk_at dksX5_isFarFrom_1 19 rfl rfl)
abbrev cX4_laysFar_2 : ByteArray := prog_7_method_23_code
def yX4_laysFar_2 : MethodName := ⟨RX4, "laysFar", "(II)V"⟩
def dkwX4_laysFar_2_3 : List UInt8 := [25, 5, 83, 42, 89, 180, 0, 189, 4, 96, 181, 0, 189, 132, 4, 1, 167, 255, 188, 177]
abbrev dktX4_laysFar_2_3 : List UInt8 := dkwX4_laysFar_2_3 ++ []
def dkwX4_laysFar_2_2 : List UInt8 := [153, 0, 36, 42, 25, 5, 182, 0, 185, 154, 0, 6, 167, 0, 24, 42, 180, 0, 26, 42, 180, 0, 189]
abbrev dktX4_laysFar_2_2 : List UInt8 := dkwX4_laysFar_2_2 ++ dktX4_laysFar_2_3
def dkwX4_laysFar_2_1 : List UInt8 := [29, 7, 96, 184, 0, 179, 162, 0, 60, 42, 27, 21, 4, 182, 0, 142, 58, 5, 25, 5, 29, 182, 0, 182]
abbrev dktX4_laysFar_2_1 : List UInt8 := dkwX4_laysFar_2_1 ++ dktX4_laysFar_2_2
def dkwX4_laysFar_2_0 : List UInt8 := [42, 27, 28, 182, 0, 98, 180, 0, 119, 62, 3, 29, 6, 100, 184, 0, 175, 54, 4, 21, 4, 4, 27, 120]
abbrev dktX4_laysFar_2_0 : List UInt8 := dkwX4_laysFar_2_0 ++ dktX4_laysFar_2_1
theorem dksX4_laysFar_2_0 : cX4_laysFar_2.data.toList.drop 0 = dktX4_laysFar_2_0 := by decide +kernel
theorem dksX4_laysFar_2_1 : cX4_laysFar_2.data.toList.drop 24 = dktX4_laysFar_2_1 := dk_seg dksX4_laysFar_2_0 24 rfl rfl
theorem dksX4_laysFar_2_2 : cX4_laysFar_2.data.toList.drop 48 = dktX4_laysFar_2_2 := dk_seg dksX4_laysFar_2_1 24 rfl rfl
theorem dksX4_laysFar_2_3 : cX4_laysFar_2.data.toList.drop 71 = dktX4_laysFar_2_3 := dk_seg dksX4_laysFar_2_2 23 rfl rfl
theorem dX4_laysFar_2_0 : decode cX4_laysFar_2 0 = .ok (.aload_n 0, 1) := dk_42 (dk_at dksX4_laysFar_2_0 0 rfl rfl)
theorem dX4_laysFar_2_1 : decode cX4_laysFar_2 1 = .ok (.iload_n 1, 1) := dk_27 (dk_at dksX4_laysFar_2_0 1 rfl rfl)
theorem dX4_laysFar_2_2 : decode cX4_laysFar_2 2 = .ok (.iload_n 2, 1) := dk_28 (dk_at dksX4_laysFar_2_0 2 rfl rfl)
theorem dX4_laysFar_2_3 : decode cX4_laysFar_2 3 = .ok (.invokevirtual 98, 3) := dk_182 0 98 (dk_at dksX4_laysFar_2_0 3 rfl rfl)
theorem dX4_laysFar_2_6 : decode cX4_laysFar_2 6 = .ok (.getfield 119, 3) := dk_180 0 119 (dk_at dksX4_laysFar_2_0 6 rfl rfl)
theorem dX4_laysFar_2_9 : decode cX4_laysFar_2 9 = .ok (.istore_n 3, 1) := dk_62 (dk_at dksX4_laysFar_2_0 9 rfl rfl)
theorem dX4_laysFar_2_10 : decode cX4_laysFar_2 10 = .ok (.iconst 0, 1) := dk_3 (dk_at dksX4_laysFar_2_0 10 rfl rfl)
theorem dX4_laysFar_2_11 : decode cX4_laysFar_2 11 = .ok (.iload_n 3, 1) := dk_29 (dk_at dksX4_laysFar_2_0 11 rfl rfl)
theorem dX4_laysFar_2_12 : decode cX4_laysFar_2 12 = .ok (.iconst 3, 1) := dk_6 (dk_at dksX4_laysFar_2_0 12 rfl rfl)
theorem dX4_laysFar_2_13 : decode cX4_laysFar_2 13 = .ok (.isub, 1) := dk_100 (dk_at dksX4_laysFar_2_0 13 rfl rfl)
theorem dX4_laysFar_2_14 : decode cX4_laysFar_2 14 = .ok (.invokestatic 175, 3) := dk_184 0 175 (dk_at dksX4_laysFar_2_0 14 rfl rfl)
theorem dX4_laysFar_2_17 : decode cX4_laysFar_2 17 = .ok (.istore 4, 2) := dk_54 4 (dk_at dksX4_laysFar_2_0 17 rfl rfl)
theorem dX4_laysFar_2_19 : decode cX4_laysFar_2 19 = .ok (.iload 4, 2) := dk_21 4 (dk_at dksX4_laysFar_2_0 19 rfl rfl)
theorem dX4_laysFar_2_21 : decode cX4_laysFar_2 21 = .ok (.iconst 1, 1) := dk_4 (dk_at dksX4_laysFar_2_0 21 rfl rfl)
theorem dX4_laysFar_2_22 : decode cX4_laysFar_2 22 = .ok (.iload_n 1, 1) := dk_27 (dk_at dksX4_laysFar_2_0 22 rfl rfl)
theorem dX4_laysFar_2_23 : decode cX4_laysFar_2 23 = .ok (.ishl, 1) := dk_120 (dk_at dksX4_laysFar_2_0 23 rfl rfl)
theorem dX4_laysFar_2_24 : decode cX4_laysFar_2 24 = .ok (.iload_n 3, 1) := dk_29 (dk_at dksX4_laysFar_2_1 0 rfl rfl)
theorem dX4_laysFar_2_25 : decode cX4_laysFar_2 25 = .ok (.iconst 4, 1) := dk_7 (dk_at dksX4_laysFar_2_1 1 rfl rfl)
theorem dX4_laysFar_2_26 : decode cX4_laysFar_2 26 = .ok (.iadd, 1) := dk_96 (dk_at dksX4_laysFar_2_1 2 rfl rfl)
theorem dX4_laysFar_2_27 : decode cX4_laysFar_2 27 = .ok (.invokestatic 179, 3) := dk_184 0 179 (dk_at dksX4_laysFar_2_1 3 rfl rfl)
theorem dX4_laysFar_2_30 : decode cX4_laysFar_2 30 = .ok (.if_icmp .ge 60, 3) := dk_162 0 60 (dk_at dksX4_laysFar_2_1 6 rfl rfl)
theorem dX4_laysFar_2_33 : decode cX4_laysFar_2 33 = .ok (.aload_n 0, 1) := dk_42 (dk_at dksX4_laysFar_2_1 9 rfl rfl)
theorem dX4_laysFar_2_34 : decode cX4_laysFar_2 34 = .ok (.iload_n 1, 1) := dk_27 (dk_at dksX4_laysFar_2_1 10 rfl rfl)
theorem dX4_laysFar_2_35 : decode cX4_laysFar_2 35 = .ok (.iload 4, 2) := dk_21 4 (dk_at dksX4_laysFar_2_1 11 rfl rfl)
theorem dX4_laysFar_2_37 : decode cX4_laysFar_2 37 = .ok (.invokevirtual 142, 3) := dk_182 0 142 (dk_at dksX4_laysFar_2_1 13 rfl rfl)
theorem dX4_laysFar_2_40 : decode cX4_laysFar_2 40 = .ok (.astore 5, 2) := dk_58 5 (dk_at dksX4_laysFar_2_1 16 rfl rfl)
theorem dX4_laysFar_2_42 : decode cX4_laysFar_2 42 = .ok (.aload 5, 2) := dk_25 5 (dk_at dksX4_laysFar_2_1 18 rfl rfl)
theorem dX4_laysFar_2_44 : decode cX4_laysFar_2 44 = .ok (.iload_n 3, 1) := dk_29 (dk_at dksX4_laysFar_2_1 20 rfl rfl)
theorem dX4_laysFar_2_45 : decode cX4_laysFar_2 45 = .ok (.invokevirtual 182, 3) := dk_182 0 182 (dk_at dksX4_laysFar_2_1 21 rfl rfl)
theorem dX4_laysFar_2_48 : decode cX4_laysFar_2 48 = .ok (.ifCond .eq 36, 3) := dk_153 0 36 (dk_at dksX4_laysFar_2_2 0 rfl rfl)
theorem dX4_laysFar_2_51 : decode cX4_laysFar_2 51 = .ok (.aload_n 0, 1) := dk_42 (dk_at dksX4_laysFar_2_2 3 rfl rfl)
theorem dX4_laysFar_2_52 : decode cX4_laysFar_2 52 = .ok (.aload 5, 2) := dk_25 5 (dk_at dksX4_laysFar_2_2 4 rfl rfl)
theorem dX4_laysFar_2_54 : decode cX4_laysFar_2 54 = .ok (.invokevirtual 185, 3) := dk_182 0 185 (dk_at dksX4_laysFar_2_2 6 rfl rfl)
theorem dX4_laysFar_2_57 : decode cX4_laysFar_2 57 = .ok (.ifCond .ne 6, 3) := dk_154 0 6 (dk_at dksX4_laysFar_2_2 9 rfl rfl)
theorem dX4_laysFar_2_60 : decode cX4_laysFar_2 60 = .ok (.goto 24, 3) := dk_167 0 24 (dk_at dksX4_laysFar_2_2 12 rfl rfl)
theorem dX4_laysFar_2_63 : decode cX4_laysFar_2 63 = .ok (.aload_n 0, 1) := dk_42 (dk_at dksX4_laysFar_2_2 15 rfl rfl)
theorem dX4_laysFar_2_64 : decode cX4_laysFar_2 64 = .ok (.getfield 26, 3) := dk_180 0 26 (dk_at dksX4_laysFar_2_2 16 rfl rfl)
theorem dX4_laysFar_2_67 : decode cX4_laysFar_2 67 = .ok (.aload_n 0, 1) := dk_42 (dk_at dksX4_laysFar_2_2 19 rfl rfl)
theorem dX4_laysFar_2_68 : decode cX4_laysFar_2 68 = .ok (.getfield 189, 3) := dk_180 0 189 (dk_at dksX4_laysFar_2_2 20 rfl rfl)
theorem dX4_laysFar_2_71 : decode cX4_laysFar_2 71 = .ok (.aload 5, 2) := dk_25 5 (dk_at dksX4_laysFar_2_3 0 rfl rfl)
theorem dX4_laysFar_2_73 : decode cX4_laysFar_2 73 = .ok (.aastore, 1) := dk_83 (dk_at dksX4_laysFar_2_3 2 rfl rfl)
theorem dX4_laysFar_2_74 : decode cX4_laysFar_2 74 = .ok (.aload_n 0, 1) := dk_42 (dk_at dksX4_laysFar_2_3 3 rfl rfl)
theorem dX4_laysFar_2_75 : decode cX4_laysFar_2 75 = .ok (.dup, 1) := dk_89 (dk_at dksX4_laysFar_2_3 4 rfl rfl)
theorem dX4_laysFar_2_76 : decode cX4_laysFar_2 76 = .ok (.getfield 189, 3) := dk_180 0 189 (dk_at dksX4_laysFar_2_3 5 rfl rfl)
theorem dX4_laysFar_2_79 : decode cX4_laysFar_2 79 = .ok (.iconst 1, 1) := dk_4 (dk_at dksX4_laysFar_2_3 8 rfl rfl)
theorem dX4_laysFar_2_80 : decode cX4_laysFar_2 80 = .ok (.iadd, 1) := dk_96 (dk_at dksX4_laysFar_2_3 9 rfl rfl)
theorem dX4_laysFar_2_81 : decode cX4_laysFar_2 81 = .ok (.putfield 189, 3) := dk_181 0 189 (dk_at dksX4_laysFar_2_3 10 rfl rfl)
theorem dX4_laysFar_2_84 : decode cX4_laysFar_2 84 = .ok (.iinc 4 1, 3) := dk_132 4 1 (dk_at dksX4_laysFar_2_3 13 rfl rfl)
theorem dX4_laysFar_2_87 : decode cX4_laysFar_2 87 = .ok (.goto (-68), 3) := dk_167 255 188 (dk_at dksX4_laysFar_2_3 16 rfl rfl)
theorem dX4_laysFar_2_90 : decode cX4_laysFar_2 90 = .ok (.return_, 1) := dk_177 (dk_at dksX4_laysFar_2_3 19 rfl rfl)
abbrev cX4_laysFar : ByteArray := prog_7_method_24_code
def yX4_laysFar : MethodName := ⟨RX4, "laysFar", "(I)I"⟩
def dkwX4_laysFar_1 : List UInt8 := [167, 255, 239, 42, 180, 0, 189, 172]
abbrev dktX4_laysFar_1 : List UInt8 := dkwX4_laysFar_1 ++ []
def dkwX4_laysFar_0 : List UInt8 := [42, 3, 181, 0, 189, 5, 61, 28, 42, 180, 0, 57, 163, 0, 15, 42, 28, 27, 182, 0, 192, 132, 2, 1]
abbrev dktX4_laysFar_0 : List UInt8 := dkwX4_laysFar_0 ++ dktX4_laysFar_1
theorem dksX4_laysFar_0 : cX4_laysFar.data.toList.drop 0 = dktX4_laysFar_0 := by decide +kernel
theorem dksX4_laysFar_1 : cX4_laysFar.data.toList.drop 24 = dktX4_laysFar_1 := dk_seg dksX4_laysFar_0 24 rfl rfl
theorem dX4_laysFar_0 : decode cX4_laysFar 0 = .ok (.aload_n 0, 1) := dk_42 (dk_at dksX4_laysFar_0 0 rfl rfl)
theorem dX4_laysFar_1 : decode cX4_laysFar 1 = .ok (.iconst 0, 1) := dk_3 (dk_at dksX4_laysFar_0 1 rfl rfl)
theorem dX4_laysFar_2 : decode cX4_laysFar 2 = .ok (.putfield 189, 3) := dk_181 0 189 (dk_at dksX4_laysFar_0 2 rfl rfl)
theorem dX4_laysFar_5 : decode cX4_laysFar 5 = .ok (.iconst 2, 1) := dk_5 (dk_at dksX4_laysFar_0 5 rfl rfl)
theorem dX4_laysFar_6 : decode cX4_laysFar 6 = .ok (.istore_n 2, 1) := dk_61 (dk_at dksX4_laysFar_0 6 rfl rfl)
theorem dX4_laysFar_7 : decode cX4_laysFar 7 = .ok (.iload_n 2, 1) := dk_28 (dk_at dksX4_laysFar_0 7 rfl rfl)
theorem dX4_laysFar_8 : decode cX4_laysFar 8 = .ok (.aload_n 0, 1) := dk_42 (dk_at dksX4_laysFar_0 8 rfl rfl)
theorem dX4_laysFar_9 : decode cX4_laysFar 9 = .ok (.getfield 57, 3) := dk_180 0 57 (dk_at dksX4_laysFar_0 9 rfl rfl)
theorem dX4_laysFar_12 : decode cX4_laysFar 12 = .ok (.if_icmp .gt 15, 3) := dk_163 0 15 (dk_at dksX4_laysFar_0 12 rfl rfl)
theorem dX4_laysFar_15 : decode cX4_laysFar 15 = .ok (.aload_n 0, 1) := dk_42 (dk_at dksX4_laysFar_0 15 rfl rfl)
theorem dX4_laysFar_16 : decode cX4_laysFar 16 = .ok (.iload_n 2, 1) := dk_28 (dk_at dksX4_laysFar_0 16 rfl rfl)
theorem dX4_laysFar_17 : decode cX4_laysFar 17 = .ok (.iload_n 1, 1) := dk_27 (dk_at dksX4_laysFar_0 17 rfl rfl)
theorem dX4_laysFar_18 : decode cX4_laysFar 18 = .ok (.invokevirtual 192, 3) := dk_182 0 192 (dk_at dksX4_laysFar_0 18 rfl rfl)
theorem dX4_laysFar_21 : decode cX4_laysFar 21 = .ok (.iinc 2 1, 3) := dk_132 2 1 (dk_at dksX4_laysFar_0 21 rfl rfl)
theorem dX4_laysFar_24 : decode cX4_laysFar 24 = .ok (.goto (-17), 3) := dk_167 255 239 (dk_at dksX4_laysFar_1 0 rfl rfl)
theorem dX4_laysFar_27 : decode cX4_laysFar 27 = .ok (.aload_n 0, 1) := dk_42 (dk_at dksX4_laysFar_1 3 rfl rfl)
theorem dX4_laysFar_28 : decode cX4_laysFar 28 = .ok (.getfield 189, 3) := dk_180 0 189 (dk_at dksX4_laysFar_1 4 rfl rfl)
theorem dX4_laysFar_31 : decode cX4_laysFar 31 = .ok (.ireturn, 1) := dk_172 (dk_at dksX4_laysFar_1 7 rfl rfl)
abbrev cX1_farMany : ByteArray := prog_1_method_38_code
def yX1_farMany : MethodName := ⟨RX1, "farMany", "(I)I"⟩
def dkwX1_farMany_0 : List UInt8 := [42, 27, 182, 0, 193, 27, 182, 1, 14, 172]
abbrev dktX1_farMany_0 : List UInt8 := dkwX1_farMany_0 ++ []
theorem dksX1_farMany_0 : cX1_farMany.data.toList.drop 0 = dktX1_farMany_0 := by decide +kernel
theorem dX1_farMany_0 : decode cX1_farMany 0 = .ok (.aload_n 0, 1) := dk_42 (dk_at dksX1_farMany_0 0 rfl rfl)
theorem dX1_farMany_1 : decode cX1_farMany 1 = .ok (.iload_n 1, 1) := dk_27 (dk_at dksX1_farMany_0 1 rfl rfl)
theorem dX1_farMany_2 : decode cX1_farMany 2 = .ok (.invokevirtual 193, 3) := dk_182 0 193 (dk_at dksX1_farMany_0 2 rfl rfl)
theorem dX1_farMany_5 : decode cX1_farMany 5 = .ok (.iload_n 1, 1) := dk_27 (dk_at dksX1_farMany_0 5 rfl rfl)
theorem dX1_farMany_6 : decode cX1_farMany 6 = .ok (.invokevirtual 270, 3) := dk_182 1 14 (dk_at dksX1_farMany_0 6 rfl rfl)
theorem dX1_farMany_9 : decode cX1_farMany 9 = .ok (.ireturn, 1) := dk_172 (dk_at dksX1_farMany_0 9 rfl rfl)
