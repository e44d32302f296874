/-! ThirdSheets$Sort -/
set_option maxRecDepth 100000
def RX1 : String := "ThirdSheets$Sort"
abbrev cX1_init : ByteArray := prog_6_method_1_code
def yX1_init : MethodName := ⟨RX1, "<init>", "(LThirdSheets;I)V"⟩
def dkwX1_init_0 : List UInt8 := [42, 43, 181, 0, 3, 42, 183, 0, 9, 42, 28, 181, 0, 15, 42, 6, 28, 104, 188, 10, 181, 0, 19, 177]
abbrev dktX1_init_0 : List UInt8 := dkwX1_init_0 ++ []
theorem dksX1_init_0 : cX1_init.data.toList.drop 0 = dktX1_init_0 := by decide +kernel
theorem dX1_init_0 : decode cX1_init 0 = .ok (.aload_n 0, 1) := dk_42 (dk_at dksX1_init_0 0 rfl rfl)
theorem dX1_init_1 : decode cX1_init 1 = .ok (.aload_n 1, 1) := dk_43 (dk_at dksX1_init_0 1 rfl rfl)
theorem dX1_init_2 : decode cX1_init 2 = .ok (.putfield 3, 3) := dk_181 0 3 (dk_at dksX1_init_0 2 rfl rfl)
theorem dX1_init_5 : decode cX1_init 5 = .ok (.aload_n 0, 1) := dk_42 (dk_at dksX1_init_0 5 rfl rfl)
theorem dX1_init_6 : decode cX1_init 6 = .ok (.invokespecial 9, 3) := dk_183 0 9 (dk_at dksX1_init_0 6 rfl rfl)
theorem dX1_init_9 : decode cX1_init 9 = .ok (.aload_n 0, 1) := dk_42 (dk_at dksX1_init_0 9 rfl rfl)
theorem dX1_init_10 : decode cX1_init 10 = .ok (.iload_n 2, 1) := dk_28 (dk_at dksX1_init_0 10 rfl rfl)
theorem dX1_init_11 : decode cX1_init 11 = .ok (.putfield 15, 3) := dk_181 0 15 (dk_at dksX1_init_0 11 rfl rfl)
theorem dX1_init_14 : decode cX1_init 14 = .ok (.aload_n 0, 1) := dk_42 (dk_at dksX1_init_0 14 rfl rfl)
theorem dX1_init_15 : decode cX1_init 15 = .ok (.iconst 3, 1) := dk_6 (dk_at dksX1_init_0 15 rfl rfl)
theorem dX1_init_16 : decode cX1_init 16 = .ok (.iload_n 2, 1) := dk_28 (dk_at dksX1_init_0 16 rfl rfl)
theorem dX1_init_17 : decode cX1_init 17 = .ok (.imul, 1) := dk_104 (dk_at dksX1_init_0 17 rfl rfl)
theorem dX1_init_18 : decode cX1_init 18 = .ok (.newarray .int, 2) := dk_188_10 (dk_at dksX1_init_0 18 rfl rfl)
theorem dX1_init_20 : decode cX1_init 20 = .ok (.putfield 19, 3) := dk_181 0 19 (dk_at dksX1_init_0 20 rfl rfl)
theorem dX1_init_23 : decode cX1_init 23 = .ok (.return_, 1) := dk_177 (dk_at dksX1_init_0 23 rfl rfl)
abbrev cX1_find : ByteArray := prog_6_method_3_code
def yX1_find : MethodName := ⟨RX1, "find", "()I"⟩
def dkwX1_find_3 : List UInt8 := [182, 0, 29, 42, 89, 180, 0, 23, 4, 96, 181, 0, 23, 132, 1, 1, 167, 255, 208, 42, 180, 0, 23, 172]
abbrev dktX1_find_3 : List UInt8 := dkwX1_find_3 ++ []
def dkwX1_find_2 : List UInt8 := [180, 0, 15, 104, 162, 0, 38, 42, 180, 0, 19, 27, 46, 2, 160, 0, 22, 42, 27, 42, 180, 0, 23]
abbrev dktX1_find_2 : List UInt8 := dkwX1_find_2 ++ dktX1_find_3
def dkwX1_find_1 : List UInt8 := [180, 0, 19, 27, 2, 79, 132, 1, 1, 167, 255, 230, 3, 60, 27, 42, 180, 0, 3, 180, 0, 26, 42]
abbrev dktX1_find_1 : List UInt8 := dkwX1_find_1 ++ dktX1_find_2
def dkwX1_find_0 : List UInt8 := [42, 3, 181, 0, 23, 3, 60, 27, 42, 180, 0, 3, 180, 0, 26, 42, 180, 0, 15, 104, 162, 0, 16, 42]
abbrev dktX1_find_0 : List UInt8 := dkwX1_find_0 ++ dktX1_find_1
theorem dksX1_find_0 : cX1_find.data.toList.drop 0 = dktX1_find_0 := by decide +kernel
theorem dksX1_find_1 : cX1_find.data.toList.drop 24 = dktX1_find_1 := dk_seg dksX1_find_0 24 rfl rfl
theorem dksX1_find_2 : cX1_find.data.toList.drop 47 = dktX1_find_2 := dk_seg dksX1_find_1 23 rfl rfl
theorem dksX1_find_3 : cX1_find.data.toList.drop 70 = dktX1_find_3 := dk_seg dksX1_find_2 23 rfl rfl
theorem dX1_find_0 : decode cX1_find 0 = .ok (.aload_n 0, 1) := dk_42 (dk_at dksX1_find_0 0 rfl rfl)
theorem dX1_find_1 : decode cX1_find 1 = .ok (.iconst 0, 1) := dk_3 (dk_at dksX1_find_0 1 rfl rfl)
theorem dX1_find_2 : decode cX1_find 2 = .ok (.putfield 23, 3) := dk_181 0 23 (dk_at dksX1_find_0 2 rfl rfl)
theorem dX1_find_5 : decode cX1_find 5 = .ok (.iconst 0, 1) := dk_3 (dk_at dksX1_find_0 5 rfl rfl)
theorem dX1_find_6 : decode cX1_find 6 = .ok (.istore_n 1, 1) := dk_60 (dk_at dksX1_find_0 6 rfl rfl)
theorem dX1_find_7 : decode cX1_find 7 = .ok (.iload_n 1, 1) := dk_27 (dk_at dksX1_find_0 7 rfl rfl)
theorem dX1_find_8 : decode cX1_find 8 = .ok (.aload_n 0, 1) := dk_42 (dk_at dksX1_find_0 8 rfl rfl)
theorem dX1_find_9 : decode cX1_find 9 = .ok (.getfield 3, 3) := dk_180 0 3 (dk_at dksX1_find_0 9 rfl rfl)
theorem dX1_find_12 : decode cX1_find 12 = .ok (.getfield 26, 3) := dk_180 0 26 (dk_at dksX1_find_0 12 rfl rfl)
theorem dX1_find_15 : decode cX1_find 15 = .ok (.aload_n 0, 1) := dk_42 (dk_at dksX1_find_0 15 rfl rfl)
theorem dX1_find_16 : decode cX1_find 16 = .ok (.getfield 15, 3) := dk_180 0 15 (dk_at dksX1_find_0 16 rfl rfl)
theorem dX1_find_19 : decode cX1_find 19 = .ok (.imul, 1) := dk_104 (dk_at dksX1_find_0 19 rfl rfl)
theorem dX1_find_20 : decode cX1_find 20 = .ok (.if_icmp .ge 16, 3) := dk_162 0 16 (dk_at dksX1_find_0 20 rfl rfl)
theorem dX1_find_23 : decode cX1_find 23 = .ok (.aload_n 0, 1) := dk_42 (dk_at dksX1_find_0 23 rfl rfl)
theorem dX1_find_24 : decode cX1_find 24 = .ok (.getfield 19, 3) := dk_180 0 19 (dk_at dksX1_find_1 0 rfl rfl)
theorem dX1_find_27 : decode cX1_find 27 = .ok (.iload_n 1, 1) := dk_27 (dk_at dksX1_find_1 3 rfl rfl)
theorem dX1_find_28 : decode cX1_find 28 = .ok (.iconst (-1), 1) := dk_2 (dk_at dksX1_find_1 4 rfl rfl)
theorem dX1_find_29 : decode cX1_find 29 = .ok (.iastore, 1) := dk_79 (dk_at dksX1_find_1 5 rfl rfl)
theorem dX1_find_30 : decode cX1_find 30 = .ok (.iinc 1 1, 3) := dk_132 1 1 (dk_at dksX1_find_1 6 rfl rfl)
theorem dX1_find_33 : decode cX1_find 33 = .ok (.goto (-26), 3) := dk_167 255 230 (dk_at dksX1_find_1 9 rfl rfl)
theorem dX1_find_36 : decode cX1_find 36 = .ok (.iconst 0, 1) := dk_3 (dk_at dksX1_find_1 12 rfl rfl)
theorem dX1_find_37 : decode cX1_find 37 = .ok (.istore_n 1, 1) := dk_60 (dk_at dksX1_find_1 13 rfl rfl)
theorem dX1_find_38 : decode cX1_find 38 = .ok (.iload_n 1, 1) := dk_27 (dk_at dksX1_find_1 14 rfl rfl)
theorem dX1_find_39 : decode cX1_find 39 = .ok (.aload_n 0, 1) := dk_42 (dk_at dksX1_find_1 15 rfl rfl)
theorem dX1_find_40 : decode cX1_find 40 = .ok (.getfield 3, 3) := dk_180 0 3 (dk_at dksX1_find_1 16 rfl rfl)
theorem dX1_find_43 : decode cX1_find 43 = .ok (.getfield 26, 3) := dk_180 0 26 (dk_at dksX1_find_1 19 rfl rfl)
theorem dX1_find_46 : decode cX1_find 46 = .ok (.aload_n 0, 1) := dk_42 (dk_at dksX1_find_1 22 rfl rfl)
theorem dX1_find_47 : decode cX1_find 47 = .ok (.getfield 15, 3) := dk_180 0 15 (dk_at dksX1_find_2 0 rfl rfl)
theorem dX1_find_50 : decode cX1_find 50 = .ok (.imul, 1) := dk_104 (dk_at dksX1_find_2 3 rfl rfl)
theorem dX1_find_51 : decode cX1_find 51 = .ok (.if_icmp .ge 38, 3) := dk_162 0 38 (dk_at dksX1_find_2 4 rfl rfl)
theorem dX1_find_54 : decode cX1_find 54 = .ok (.aload_n 0, 1) := dk_42 (dk_at dksX1_find_2 7 rfl rfl)
theorem dX1_find_55 : decode cX1_find 55 = .ok (.getfield 19, 3) := dk_180 0 19 (dk_at dksX1_find_2 8 rfl rfl)
theorem dX1_find_58 : decode cX1_find 58 = .ok (.iload_n 1, 1) := dk_27 (dk_at dksX1_find_2 11 rfl rfl)
theorem dX1_find_59 : decode cX1_find 59 = .ok (.iaload, 1) := dk_46 (dk_at dksX1_find_2 12 rfl rfl)
theorem dX1_find_60 : decode cX1_find 60 = .ok (.iconst (-1), 1) := dk_2 (dk_at dksX1_find_2 13 rfl rfl)
theorem dX1_find_61 : decode cX1_find 61 = .ok (.if_icmp .ne 22, 3) := dk_160 0 22 (dk_at dksX1_find_2 14 rfl rfl)
theorem dX1_find_64 : decode cX1_find 64 = .ok (.aload_n 0, 1) := dk_42 (dk_at dksX1_find_2 17 rfl rfl)
theorem dX1_find_65 : decode cX1_find 65 = .ok (.iload_n 1, 1) := dk_27 (dk_at dksX1_find_2 18 rfl rfl)
theorem dX1_find_66 : decode cX1_find 66 = .ok (.aload_n 0, 1) := dk_42 (dk_at dksX1_find_2 19 rfl rfl)
theorem dX1_find_67 : decode cX1_find 67 = .ok (.getfield 23, 3) := dk_180 0 23 (dk_at dksX1_find_2 20 rfl rfl)
theorem dX1_find_70 : decode cX1_find 70 = .ok (.invokevirtual 29, 3) := dk_182 0 29 (dk_at dksX1_find_3 0 rfl rfl)
theorem dX1_find_73 : decode cX1_find 73 = .ok (.aload_n 0, 1) := dk_42 (dk_at dksX1_find_3 3 rfl rfl)
theorem dX1_find_74 : decode cX1_find 74 = .ok (.dup, 1) := dk_89 (dk_at dksX1_find_3 4 rfl rfl)
theorem dX1_find_75 : decode cX1_find 75 = .ok (.getfield 23, 3) := dk_180 0 23 (dk_at dksX1_find_3 5 rfl rfl)
theorem dX1_find_78 : decode cX1_find 78 = .ok (.iconst 1, 1) := dk_4 (dk_at dksX1_find_3 8 rfl rfl)
theorem dX1_find_79 : decode cX1_find 79 = .ok (.iadd, 1) := dk_96 (dk_at dksX1_find_3 9 rfl rfl)
theorem dX1_find_80 : decode cX1_find 80 = .ok (.putfield 23, 3) := dk_181 0 23 (dk_at dksX1_find_3 10 rfl rfl)
theorem dX1_find_83 : decode cX1_find 83 = .ok (.iinc 1 1, 3) := dk_132 1 1 (dk_at dksX1_find_3 13 rfl rfl)
theorem dX1_find_86 : decode cX1_find 86 = .ok (.goto (-48), 3) := dk_167 255 208 (dk_at dksX1_find_3 16 rfl rfl)
theorem dX1_find_89 : decode cX1_find 89 = .ok (.aload_n 0, 1) := dk_42 (dk_at dksX1_find_3 19 rfl rfl)
theorem dX1_find_90 : decode cX1_find 90 = .ok (.getfield 23, 3) := dk_180 0 23 (dk_at dksX1_find_3 20 rfl rfl)
theorem dX1_find_93 : decode cX1_find 93 = .ok (.ireturn, 1) := dk_172 (dk_at dksX1_find_3 23 rfl rfl)
abbrev cX1_spread : ByteArray := prog_6_method_4_code
def yX1_spread : MethodName := ⟨RX1, "spread", "(II)V"⟩
def dkwX1_spread_4 : List UInt8 := [21, 5, 96, 28, 182, 0, 29, 132, 3, 1, 167, 255, 160, 177]
abbrev dktX1_spread_4 : List UInt8 := dkwX1_spread_4 ++ []
def dkwX1_spread_3 : List UInt8 := [42, 180, 0, 15, 104, 21, 5, 96, 46, 2, 160, 0, 21, 42, 25, 4, 180, 0, 41, 42, 180, 0, 15, 104]
abbrev dktX1_spread_3 : List UInt8 := dkwX1_spread_3 ++ dktX1_spread_4
def dkwX1_spread_2 : List UInt8 := [112, 29, 25, 4, 182, 0, 37, 54, 5, 21, 5, 2, 159, 0, 43, 42, 180, 0, 19, 25, 4, 180, 0, 41]
abbrev dktX1_spread_2 : List UInt8 := dkwX1_spread_2 ++ dktX1_spread_3
def dkwX1_spread_1 : List UInt8 := [180, 0, 15, 108, 50, 29, 50, 58, 4, 25, 4, 199, 0, 7, 2, 167, 0, 16, 42, 27, 42, 180, 0, 15]
abbrev dktX1_spread_1 : List UInt8 := dkwX1_spread_1 ++ dktX1_spread_2
def dkwX1_spread_0 : List UInt8 := [42, 180, 0, 19, 27, 28, 79, 3, 62, 29, 7, 162, 0, 97, 42, 180, 0, 3, 180, 0, 33, 27, 42]
abbrev dktX1_spread_0 : List UInt8 := dkwX1_spread_0 ++ dktX1_spread_1
theorem dksX1_spread_0 : cX1_spread.data.toList.drop 0 = dktX1_spread_0 := by decide +kernel
theorem dksX1_spread_1 : cX1_spread.data.toList.drop 23 = dktX1_spread_1 := dk_seg dksX1_spread_0 23 rfl rfl
theorem dksX1_spread_2 : cX1_spread.data.toList.drop 47 = dktX1_spread_2 := dk_seg dksX1_spread_1 24 rfl rfl
theorem dksX1_spread_3 : cX1_spread.data.toList.drop 71 = dktX1_spread_3 := dk_seg dksX1_spread_2 24 rfl rfl
theorem dksX1_spread_4 : cX1_spread.data.toList.drop 95 = dktX1_spread_4 := dk_seg dksX1_spread_3 24 rfl rfl
theorem dX1_spread_0 : decode cX1_spread 0 = .ok (.aload_n 0, 1) := dk_42 (dk_at dksX1_spread_0 0 rfl rfl)
theorem dX1_spread_1 : decode cX1_spread 1 = .ok (.getfield 19, 3) := dk_180 0 19 (dk_at dksX1_spread_0 1 rfl rfl)
theorem dX1_spread_4 : decode cX1_spread 4 = .ok (.iload_n 1, 1) := dk_27 (dk_at dksX1_spread_0 4 rfl rfl)
theorem dX1_spread_5 : decode cX1_spread 5 = .ok (.iload_n 2, 1) := dk_28 (dk_at dksX1_spread_0 5 rfl rfl)
theorem dX1_spread_6 : decode cX1_spread 6 = .ok (.iastore, 1) := dk_79 (dk_at dksX1_spread_0 6 rfl rfl)
theorem dX1_spread_7 : decode cX1_spread 7 = .ok (.iconst 0, 1) := dk_3 (dk_at dksX1_spread_0 7 rfl rfl)
theorem dX1_spread_8 : decode cX1_spread 8 = .ok (.istore_n 3, 1) := dk_62 (dk_at dksX1_spread_0 8 rfl rfl)
theorem dX1_spread_9 : decode cX1_spread 9 = .ok (.iload_n 3, 1) := dk_29 (dk_at dksX1_spread_0 9 rfl rfl)
theorem dX1_spread_10 : decode cX1_spread 10 = .ok (.iconst 4, 1) := dk_7 (dk_at dksX1_spread_0 10 rfl rfl)
theorem dX1_spread_11 : decode cX1_spread 11 = .ok (.if_icmp .ge 97, 3) := dk_162 0 97 (dk_at dksX1_spread_0 11 rfl rfl)
theorem dX1_spread_14 : decode cX1_spread 14 = .ok (.aload_n 0, 1) := dk_42 (dk_at dksX1_spread_0 14 rfl rfl)
theorem dX1_spread_15 : decode cX1_spread 15 = .ok (.getfield 3, 3) := dk_180 0 3 (dk_at dksX1_spread_0 15 rfl rfl)
theorem dX1_spread_18 : decode cX1_spread 18 = .ok (.getfield 33, 3) := dk_180 0 33 (dk_at dksX1_spread_0 18 rfl rfl)
theorem dX1_spread_21 : decode cX1_spread 21 = .ok (.iload_n 1, 1) := dk_27 (dk_at dksX1_spread_0 21 rfl rfl)
theorem dX1_spread_22 : decode cX1_spread 22 = .ok (.aload_n 0, 1) := dk_42 (dk_at dksX1_spread_0 22 rfl rfl)
theorem dX1_spread_23 : decode cX1_spread 23 = .ok (.getfield 15, 3) := dk_180 0 15 (dk_at dksX1_spread_1 0 rfl rfl)
theorem dX1_spread_26 : decode cX1_spread 26 = .ok (.idiv, 1) := dk_108 (dk_at dksX1_spread_1 3 rfl rfl)
theorem dX1_spread_27 : decode cX1_spread 27 = .ok (.aaload, 1) := dk_50 (dk_at dksX1_spread_1 4 rfl rfl)
theorem dX1_spread_28 : decode cX1_spread 28 = .ok (.iload_n 3, 1) := dk_29 (dk_at dksX1_spread_1 5 rfl rfl)
theorem dX1_spread_29 : decode cX1_spread 29 = .ok (.aaload, 1) := dk_50 (dk_at dksX1_spread_1 6 rfl rfl)
theorem dX1_spread_30 : decode cX1_spread 30 = .ok (.astore 4, 2) := dk_58 4 (dk_at dksX1_spread_1 7 rfl rfl)
theorem dX1_spread_32 : decode cX1_spread 32 = .ok (.aload 4, 2) := dk_25 4 (dk_at dksX1_spread_1 9 rfl rfl)
theorem dX1_spread_34 : decode cX1_spread 34 = .ok (.ifnonnull 7, 3) := dk_199 0 7 (dk_at dksX1_spread_1 11 rfl rfl)
theorem dX1_spread_37 : decode cX1_spread 37 = .ok (.iconst (-1), 1) := dk_2 (dk_at dksX1_spread_1 14 rfl rfl)
theorem dX1_spread_38 : decode cX1_spread 38 = .ok (.goto 16, 3) := dk_167 0 16 (dk_at dksX1_spread_1 15 rfl rfl)
theorem dX1_spread_41 : decode cX1_spread 41 = .ok (.aload_n 0, 1) := dk_42 (dk_at dksX1_spread_1 18 rfl rfl)
theorem dX1_spread_42 : decode cX1_spread 42 = .ok (.iload_n 1, 1) := dk_27 (dk_at dksX1_spread_1 19 rfl rfl)
theorem dX1_spread_43 : decode cX1_spread 43 = .ok (.aload_n 0, 1) := dk_42 (dk_at dksX1_spread_1 20 rfl rfl)
theorem dX1_spread_44 : decode cX1_spread 44 = .ok (.getfield 15, 3) := dk_180 0 15 (dk_at dksX1_spread_1 21 rfl rfl)
theorem dX1_spread_47 : decode cX1_spread 47 = .ok (.irem, 1) := dk_112 (dk_at dksX1_spread_2 0 rfl rfl)
theorem dX1_spread_48 : decode cX1_spread 48 = .ok (.iload_n 3, 1) := dk_29 (dk_at dksX1_spread_2 1 rfl rfl)
theorem dX1_spread_49 : decode cX1_spread 49 = .ok (.aload 4, 2) := dk_25 4 (dk_at dksX1_spread_2 2 rfl rfl)
theorem dX1_spread_51 : decode cX1_spread 51 = .ok (.invokevirtual 37, 3) := dk_182 0 37 (dk_at dksX1_spread_2 4 rfl rfl)
theorem dX1_spread_54 : decode cX1_spread 54 = .ok (.istore 5, 2) := dk_54 5 (dk_at dksX1_spread_2 7 rfl rfl)
theorem dX1_spread_56 : decode cX1_spread 56 = .ok (.iload 5, 2) := dk_21 5 (dk_at dksX1_spread_2 9 rfl rfl)
theorem dX1_spread_58 : decode cX1_spread 58 = .ok (.iconst (-1), 1) := dk_2 (dk_at dksX1_spread_2 11 rfl rfl)
theorem dX1_spread_59 : decode cX1_spread 59 = .ok (.if_icmp .eq 43, 3) := dk_159 0 43 (dk_at dksX1_spread_2 12 rfl rfl)
theorem dX1_spread_62 : decode cX1_spread 62 = .ok (.aload_n 0, 1) := dk_42 (dk_at dksX1_spread_2 15 rfl rfl)
theorem dX1_spread_63 : decode cX1_spread 63 = .ok (.getfield 19, 3) := dk_180 0 19 (dk_at dksX1_spread_2 16 rfl rfl)
theorem dX1_spread_66 : decode cX1_spread 66 = .ok (.aload 4, 2) := dk_25 4 (dk_at dksX1_spread_2 19 rfl rfl)
theorem dX1_spread_68 : decode cX1_spread 68 = .ok (.getfield 41, 3) := dk_180 0 41 (dk_at dksX1_spread_2 21 rfl rfl)
theorem dX1_spread_71 : decode cX1_spread 71 = .ok (.aload_n 0, 1) := dk_42 (dk_at dksX1_spread_3 0 rfl rfl)
theorem dX1_spread_72 : decode cX1_spread 72 = .ok (.getfield 15, 3) := dk_180 0 15 (dk_at dksX1_spread_3 1 rfl rfl)
theorem dX1_spread_75 : decode cX1_spread 75 = .ok (.imul, 1) := dk_104 (dk_at dksX1_spread_3 4 rfl rfl)
theorem dX1_spread_76 : decode cX1_spread 76 = .ok (.iload 5, 2) := dk_21 5 (dk_at dksX1_spread_3 5 rfl rfl)
theorem dX1_spread_78 : decode cX1_spread 78 = .ok (.iadd, 1) := dk_96 (dk_at dksX1_spread_3 7 rfl rfl)
theorem dX1_spread_79 : decode cX1_spread 79 = .ok (.iaload, 1) := dk_46 (dk_at dksX1_spread_3 8 rfl rfl)
theorem dX1_spread_80 : decode cX1_spread 80 = .ok (.iconst (-1), 1) := dk_2 (dk_at dksX1_spread_3 9 rfl rfl)
theorem dX1_spread_81 : decode cX1_spread 81 = .ok (.if_icmp .ne 21, 3) := dk_160 0 21 (dk_at dksX1_spread_3 10 rfl rfl)
theorem dX1_spread_84 : decode cX1_spread 84 = .ok (.aload_n 0, 1) := dk_42 (dk_at dksX1_spread_3 13 rfl rfl)
theorem dX1_spread_85 : decode cX1_spread 85 = .ok (.aload 4, 2) := dk_25 4 (dk_at dksX1_spread_3 14 rfl rfl)
theorem dX1_spread_87 : decode cX1_spread 87 = .ok (.getfield 41, 3) := dk_180 0 41 (dk_at dksX1_spread_3 16 rfl rfl)
theorem dX1_spread_90 : decode cX1_spread 90 = .ok (.aload_n 0, 1) := dk_42 (dk_at dksX1_spread_3 19 rfl rfl)
theorem dX1_spread_91 : decode cX1_spread 91 = .ok (.getfield 15, 3) := dk_180 0 15 (dk_at dksX1_spread_3 20 rfl rfl)
theorem dX1_spread_94 : decode cX1_spread 94 = .ok (.imul, 1) := dk_104 (dk_at dksX1_spread_3 23 rfl rfl)
theorem dX1_spread_95 : decode cX1_spread 95 = .ok (.iload 5, 2) := dk_21 5 (dk_at dksX1_spread_4 0 rfl rfl)
theorem dX1_spread_97 : decode cX1_spread 97 = .ok (.iadd, 1) := dk_96 (dk_at dksX1_spread_4 2 rfl rfl)
theorem dX1_spread_98 : decode cX1_spread 98 = .ok (.iload_n 2, 1) := dk_28 (dk_at dksX1_spread_4 3 rfl rfl)
theorem dX1_spread_99 : decode cX1_spread 99 = .ok (.invokevirtual 29, 3) := dk_182 0 29 (dk_at dksX1_spread_4 4 rfl rfl)
theorem dX1_spread_102 : decode cX1_spread 102 = .ok (.iinc 3 1, 3) := dk_132 3 1 (dk_at dksX1_spread_4 7 rfl rfl)
theorem dX1_spread_105 : decode cX1_spread 105 = .ok (.goto (-96), 3) := dk_167 255 160 (dk_at dksX1_spread_4 10 rfl rfl)
theorem dX1_spread_108 : decode cX1_spread 108 = .ok (.return_, 1) := dk_177 (dk_at dksX1_spread_4 13 rfl rfl)
abbrev cX1_of : ByteArray := prog_6_method_5_code
def yX1_of : MethodName := ⟨RX1, "of", "(II)I"⟩
def dkwX1_of_0 : List UInt8 := [42, 180, 0, 19, 27, 42, 180, 0, 15, 104, 28, 96, 46, 172]
abbrev dktX1_of_0 : List UInt8 := dkwX1_of_0 ++ []
theorem dksX1_of_0 : cX1_of.data.toList.drop 0 = dktX1_of_0 := by decide +kernel
theorem dX1_of_0 : decode cX1_of 0 = .ok (.aload_n 0, 1) := dk_42 (dk_at dksX1_of_0 0 rfl rfl)
theorem dX1_of_1 : decode cX1_of 1 = .ok (.getfield 19, 3) := dk_180 0 19 (dk_at dksX1_of_0 1 rfl rfl)
theorem dX1_of_4 : decode cX1_of 4 = .ok (.iload_n 1, 1) := dk_27 (dk_at dksX1_of_0 4 rfl rfl)
theorem dX1_of_5 : decode cX1_of 5 = .ok (.aload_n 0, 1) := dk_42 (dk_at dksX1_of_0 5 rfl rfl)
theorem dX1_of_6 : decode cX1_of 6 = .ok (.getfield 15, 3) := dk_180 0 15 (dk_at dksX1_of_0 6 rfl rfl)
theorem dX1_of_9 : decode cX1_of 9 = .ok (.imul, 1) := dk_104 (dk_at dksX1_of_0 9 rfl rfl)
theorem dX1_of_10 : decode cX1_of 10 = .ok (.iload_n 2, 1) := dk_28 (dk_at dksX1_of_0 10 rfl rfl)
theorem dX1_of_11 : decode cX1_of 11 = .ok (.iadd, 1) := dk_96 (dk_at dksX1_of_0 11 rfl rfl)
theorem dX1_of_12 : decode cX1_of 12 = .ok (.iaload, 1) := dk_46 (dk_at dksX1_of_0 12 rfl rfl)
theorem dX1_of_13 : decode cX1_of 13 = .ok (.ireturn, 1) := dk_172 (dk_at dksX1_of_0 13 rfl rfl)
abbrev cX1_first : ByteArray := prog_6_method_6_code
def yX1_first : MethodName := ⟨RX1, "first", "(I)I"⟩
def dkwX1_first_0 : List UInt8 := [3, 61, 42, 180, 0, 19, 28, 46, 27, 159, 0, 9, 132, 2, 1, 167, 255, 243, 28, 172]
abbrev dktX1_first_0 : List UInt8 := dkwX1_first_0 ++ []
theorem dksX1_first_0 : cX1_first.data.toList.drop 0 = dktX1_first_0 := by decide +kernel
theorem dX1_first_0 : decode cX1_first 0 = .ok (.iconst 0, 1) := dk_3 (dk_at dksX1_first_0 0 rfl rfl)
theorem dX1_first_1 : decode cX1_first 1 = .ok (.istore_n 2, 1) := dk_61 (dk_at dksX1_first_0 1 rfl rfl)
theorem dX1_first_2 : decode cX1_first 2 = .ok (.aload_n 0, 1) := dk_42 (dk_at dksX1_first_0 2 rfl rfl)
theorem dX1_first_3 : decode cX1_first 3 = .ok (.getfield 19, 3) := dk_180 0 19 (dk_at dksX1_first_0 3 rfl rfl)
theorem dX1_first_6 : decode cX1_first 6 = .ok (.iload_n 2, 1) := dk_28 (dk_at dksX1_first_0 6 rfl rfl)
theorem dX1_first_7 : decode cX1_first 7 = .ok (.iaload, 1) := dk_46 (dk_at dksX1_first_0 7 rfl rfl)
theorem dX1_first_8 : decode cX1_first 8 = .ok (.iload_n 1, 1) := dk_27 (dk_at dksX1_first_0 8 rfl rfl)
theorem dX1_first_9 : decode cX1_first 9 = .ok (.if_icmp .eq 9, 3) := dk_159 0 9 (dk_at dksX1_first_0 9 rfl rfl)
theorem dX1_first_12 : decode cX1_first 12 = .ok (.iinc 2 1, 3) := dk_132 2 1 (dk_at dksX1_first_0 12 rfl rfl)
theorem dX1_first_15 : decode cX1_first 15 = .ok (.goto (-13), 3) := dk_167 255 243 (dk_at dksX1_first_0 15 rfl rfl)
theorem dX1_first_18 : decode cX1_first 18 = .ok (.iload_n 2, 1) := dk_28 (dk_at dksX1_first_0 18 rfl rfl)
theorem dX1_first_19 : decode cX1_first 19 = .ok (.ireturn, 1) := dk_172 (dk_at dksX1_first_0 19 rfl rfl)
theorem q83 : (Jvm.Cond.initialized "ThirdSheets$Sort") ∈ lw_all := lw_g (lw_at lw_m1 2 rfl) rfl
theorem q109 : (Jvm.Cond.instanceMethod ({ cls := "ThirdSheets$Sort", name := "<init>", desc := "(LThirdSheets;I)V" } : Jvm.MethodName)) ∈ lw_all := lw_g (lw_at lw_m1 28 rfl) rfl
theorem q110 : (Jvm.Cond.code ({ cls := "ThirdSheets$Sort", name := "<init>", desc := "(LThirdSheets;I)V" } : Jvm.MethodName) prog_6_method_1_code (3 : Nat) (Option.none : Option Jvm.ClassFile.FieldType)) ∈ lw_all := lw_g (lw_at lw_m1 29 rfl) rfl
theorem q111 : (Jvm.Cond.methodLink "ThirdSheets$Sort" (9 : Nat) ({ cls := "java/lang/Object", name := "<init>", desc := "()V" } : Jvm.MethodName)) ∈ lw_all := lw_g (lw_at lw_m1 30 rfl) rfl
theorem q113 : (Jvm.Cond.fieldLink "ThirdSheets$Sort" (15 : Nat) "ThirdSheets$Sort" "each" "I") ∈ lw_all := lw_g (lw_at lw_m1 32 rfl) rfl
theorem q114 : (Jvm.Cond.fieldLink "ThirdSheets$Sort" (19 : Nat) "ThirdSheets$Sort" "paint" "[I") ∈ lw_all := lw_g (lw_at lw_m1 33 rfl) rfl
theorem q115 : (Jvm.Cond.fieldLink "ThirdSheets$Sort" (23 : Nat) "ThirdSheets$Sort" "many" "I") ∈ lw_all := lw_g (lw_at lw_m1 34 rfl) rfl
theorem q118 : (Jvm.Cond.fieldLink "ThirdSheets$Sort" (3 : Nat) "ThirdSheets$Sort" "this$0" "LThirdSheets;") ∈ lw_all := lw_g (lw_at lw_m1 37 rfl) rfl
theorem q122 : (Jvm.Cond.soleField "ThirdSheets$Sort" "each") ∈ lw_all := lw_g (lw_at lw_m1 41 rfl) rfl
theorem q124 : (Jvm.Cond.soleField "ThirdSheets$Sort" "paint") ∈ lw_all := lw_g (lw_at lw_m1 43 rfl) rfl
theorem q126 : (Jvm.Cond.soleField "ThirdSheets$Sort" "many") ∈ lw_all := lw_g (lw_at lw_m1 45 rfl) rfl
theorem q128 : (Jvm.Cond.soleField "ThirdSheets$Sort" "this$0") ∈ lw_all := lw_g (lw_at lw_m1 47 rfl) rfl
theorem q163 : (Jvm.Cond.fieldLinkNest "ThirdSheets$Sort" (33 : Nat) "ThirdSheets" "glues" "[[LThirdSheets$Glue;" "ThirdSheets") ∈ lw_tbl := lw_at lw_m1 82 rfl
theorem q165 : (Jvm.Cond.fieldLinkNest "ThirdSheets$Sort" (26 : Nat) "ThirdSheets" "pieces" "I" "ThirdSheets") ∈ lw_tbl := lw_at lw_m1 84 rfl
theorem q257 : (Jvm.Cond.fieldLinkNest "ThirdSheets$Sort" (41 : Nat) "ThirdSheets$Glue" "piece" "I" "ThirdSheets") ∈ lw_tbl := lw_at lw_m1 176 rfl
theorem q291 : (Jvm.Cond.declares ({ cls := "ThirdSheets$Sort", name := "find", desc := "()I" } : Jvm.MethodName)) ∈ lw_tbl := lw_at lw_m1 210 rfl
theorem q293 : (Jvm.Cond.instanceMethod ({ cls := "ThirdSheets$Sort", name := "find", desc := "()I" } : Jvm.MethodName)) ∈ lw_all := lw_g (lw_at lw_m1 212 rfl) rfl
theorem q294 : (Jvm.Cond.code ({ cls := "ThirdSheets$Sort", name := "find", desc := "()I" } : Jvm.MethodName) prog_6_method_3_code (2 : Nat) (Option.some Jvm.ClassFile.FieldType.int)) ∈ lw_all := lw_g (lw_at lw_m1 213 rfl) rfl
theorem q295 : (Jvm.Cond.methodLink "ThirdSheets$Sort" (29 : Nat) ({ cls := "ThirdSheets$Sort", name := "spread", desc := "(II)V" } : Jvm.MethodName)) ∈ lw_all := lw_g (lw_at lw_m1 214 rfl) rfl
theorem q296 : (Jvm.Cond.privateMethod ({ cls := "ThirdSheets$Sort", name := "spread", desc := "(II)V" } : Jvm.MethodName)) ∈ lw_tbl := lw_at lw_m1 215 rfl
theorem q297 : (Jvm.Cond.instanceMethod ({ cls := "ThirdSheets$Sort", name := "spread", desc := "(II)V" } : Jvm.MethodName)) ∈ lw_all := lw_g (lw_at lw_m1 216 rfl) rfl
theorem q298 : (Jvm.Cond.code ({ cls := "ThirdSheets$Sort", name := "spread", desc := "(II)V" } : Jvm.MethodName) prog_6_method_4_code (6 : Nat) (Option.none : Option Jvm.ClassFile.FieldType)) ∈ lw_all := lw_g (lw_at lw_m1 217 rfl) rfl
theorem q299 : (Jvm.Cond.methodLink "ThirdSheets$Sort" (37 : Nat) ({ cls := "ThirdSheets$Sort", name := "across", desc := "(IILThirdSheets$Glue;)I" } : Jvm.MethodName)) ∈ lw_all := lw_g (lw_at lw_m1 218 rfl) rfl
theorem q300 : (Jvm.Cond.declares ({ cls := "ThirdSheets$Sort", name := "across", desc := "(IILThirdSheets$Glue;)I" } : Jvm.MethodName)) ∈ lw_tbl := lw_at lw_m1 219 rfl
theorem q301 : (Jvm.Cond.sameMethod "ThirdSheets$Sort" "ThirdSheets$Sort" "across" "(IILThirdSheets$Glue;)I") ∈ lw_all := lw_g (lw_at lw_m1 220 rfl) rfl
theorem q331 : (Jvm.Cond.declares ({ cls := "ThirdSheets$Sort", name := "of", desc := "(II)I" } : Jvm.MethodName)) ∈ lw_tbl := lw_at lw_m2 10 rfl
theorem q333 : (Jvm.Cond.instanceMethod ({ cls := "ThirdSheets$Sort", name := "of", desc := "(II)I" } : Jvm.MethodName)) ∈ lw_all := lw_g (lw_at lw_m2 12 rfl) rfl
theorem q334 : (Jvm.Cond.code ({ cls := "ThirdSheets$Sort", name := "of", desc := "(II)I" } : Jvm.MethodName) prog_6_method_5_code (3 : Nat) (Option.some Jvm.ClassFile.FieldType.int)) ∈ lw_all := lw_g (lw_at lw_m2 13 rfl) rfl
theorem q351 : (Jvm.Cond.declares ({ cls := "ThirdSheets$Sort", name := "first", desc := "(I)I" } : Jvm.MethodName)) ∈ lw_tbl := lw_at lw_m2 30 rfl
theorem q353 : (Jvm.Cond.instanceMethod ({ cls := "ThirdSheets$Sort", name := "first", desc := "(I)I" } : Jvm.MethodName)) ∈ lw_all := lw_g (lw_at lw_m2 32 rfl) rfl
theorem q354 : (Jvm.Cond.code ({ cls := "ThirdSheets$Sort", name := "first", desc := "(I)I" } : Jvm.MethodName) prog_6_method_6_code (3 : Nat) (Option.some Jvm.ClassFile.FieldType.int)) ∈ lw_all := lw_g (lw_at lw_m2 33 rfl) rfl
theorem q935 : (Jvm.Cond.sameMethod "ThirdSheets$Sort" "ThirdSheets$Sort" "spread" "(II)V") ∈ lw_all := lw_g (lw_at lw_m4 134 rfl) rfl

/-! ThirdSheets$Corners -/
set_option maxRecDepth 100000
def RX2 : String := "ThirdSheets$Corners"
def TX2 : u_T := fun k => match k with
  | 0 => ("ThirdSheets$Sort", "each", "I", true)
  | 1 => ("ThirdSheets$Sort", "paint", "[I", true)
  | 2 => ("ThirdSheets$Sort", "many", "I", false)
  | 3 => ("ThirdSheets$Sort", "this$0", "LThirdSheets;", true)
  | _ => ("ThirdSheets$Corners", "this$0", "LThirdSheets;", true)
def tyX2 : Nat → FieldType := fun k => match k with
  | 0 => .int
  | 1 => .array .int
  | 2 => .int
  | 3 => .object "ThirdSheets"
  | _ => .object "ThirdSheets"
abbrev wsX20 : List Cond := u_ws RX2 TX2 5
-- two fields of one name: no nmX2
theorem tyX2_ok : ∀ k, k < 5 → parseFieldDescriptor (TX2 k).2.2.1 = some (tyX2 k) := by decide +kernel
abbrev cX2_init : ByteArray := prog_2_method_1_code
def yX2_init : MethodName := ⟨RX2, "<init>", "(LThirdSheets;)V"⟩
def dkwX2_init_0 : List UInt8 := [42, 43, 181, 0, 3, 42, 43, 7, 183, 0, 9, 177]
abbrev dktX2_init_0 : List UInt8 := dkwX2_init_0 ++ []
theorem dksX2_init_0 : cX2_init.data.toList.drop 0 = dktX2_init_0 := by decide +kernel
theorem dX2_init_0 : decode cX2_init 0 = .ok (.aload_n 0, 1) := dk_42 (dk_at dksX2_init_0 0 rfl rfl)
theorem dX2_init_1 : decode cX2_init 1 = .ok (.aload_n 1, 1) := dk_43 (dk_at dksX2_init_0 1 rfl rfl)
theorem dX2_init_2 : decode cX2_init 2 = .ok (.putfield 3, 3) := dk_181 0 3 (dk_at dksX2_init_0 2 rfl rfl)
theorem dX2_init_5 : decode cX2_init 5 = .ok (.aload_n 0, 1) := dk_42 (dk_at dksX2_init_0 5 rfl rfl)
theorem dX2_init_6 : decode cX2_init 6 = .ok (.aload_n 1, 1) := dk_43 (dk_at dksX2_init_0 6 rfl rfl)
theorem dX2_init_7 : decode cX2_init 7 = .ok (.iconst 4, 1) := dk_7 (dk_at dksX2_init_0 7 rfl rfl)
theorem dX2_init_8 : decode cX2_init 8 = .ok (.invokespecial 9, 3) := dk_183 0 9 (dk_at dksX2_init_0 8 rfl rfl)
theorem dX2_init_11 : decode cX2_init 11 = .ok (.return_, 1) := dk_177 (dk_at dksX2_init_0 11 rfl rfl)
abbrev cX2_across : ByteArray := prog_2_method_2_code
def yX2_across : MethodName := ⟨RX2, "across", "(IILThirdSheets$Glue;)I"⟩
def dkwX2_across_0 : List UInt8 := [27, 28, 160, 0, 7, 2, 167, 0, 9, 45, 180, 0, 15, 27, 46, 172]
abbrev dktX2_across_0 : List UInt8 := dkwX2_across_0 ++ []
theorem dksX2_across_0 : cX2_across.data.toList.drop 0 = dktX2_across_0 := by decide +kernel
theorem dX2_across_0 : decode cX2_across 0 = .ok (.iload_n 1, 1) := dk_27 (dk_at dksX2_across_0 0 rfl rfl)
theorem dX2_across_1 : decode cX2_across 1 = .ok (.iload_n 2, 1) := dk_28 (dk_at dksX2_across_0 1 rfl rfl)
theorem dX2_across_2 : decode cX2_across 2 = .ok (.if_icmp .ne 7, 3) := dk_160 0 7 (dk_at dksX2_across_0 2 rfl rfl)
theorem dX2_across_5 : decode cX2_across 5 = .ok (.iconst (-1), 1) := dk_2 (dk_at dksX2_across_0 5 rfl rfl)
theorem dX2_across_6 : decode cX2_across 6 = .ok (.goto 9, 3) := dk_167 0 9 (dk_at dksX2_across_0 6 rfl rfl)
theorem dX2_across_9 : decode cX2_across 9 = .ok (.aload_n 3, 1) := dk_45 (dk_at dksX2_across_0 9 rfl rfl)
theorem dX2_across_10 : decode cX2_across 10 = .ok (.getfield 15, 3) := dk_180 0 15 (dk_at dksX2_across_0 10 rfl rfl)
theorem dX2_across_13 : decode cX2_across 13 = .ok (.iload_n 1, 1) := dk_27 (dk_at dksX2_across_0 13 rfl rfl)
theorem dX2_across_14 : decode cX2_across 14 = .ok (.iaload, 1) := dk_46 (dk_at dksX2_across_0 14 rfl rfl)
theorem dX2_across_15 : decode cX2_across 15 = .ok (.ireturn, 1) := dk_172 (dk_at dksX2_across_0 15 rfl rfl)
theorem q84 : (Jvm.Cond.initialized "ThirdSheets$Corners") ∈ lw_all := lw_g (lw_at lw_m1 3 rfl) rfl
theorem q104 : (Jvm.Cond.instantiable "ThirdSheets$Corners" (5 : Nat)) ∈ lw_all := lw_g (lw_at lw_m1 23 rfl) rfl
theorem q106 : (Jvm.Cond.instanceMethod ({ cls := "ThirdSheets$Corners", name := "<init>", desc := "(LThirdSheets;)V" } : Jvm.MethodName)) ∈ lw_all := lw_g (lw_at lw_m1 25 rfl) rfl
theorem q107 : (Jvm.Cond.code ({ cls := "ThirdSheets$Corners", name := "<init>", desc := "(LThirdSheets;)V" } : Jvm.MethodName) prog_2_method_1_code (2 : Nat) (Option.none : Option Jvm.ClassFile.FieldType)) ∈ lw_all := lw_g (lw_at lw_m1 26 rfl) rfl
theorem q108 : (Jvm.Cond.methodLink "ThirdSheets$Corners" (9 : Nat) ({ cls := "ThirdSheets$Sort", name := "<init>", desc := "(LThirdSheets;I)V" } : Jvm.MethodName)) ∈ lw_all := lw_g (lw_at lw_m1 27 rfl) rfl
theorem q112 : (Jvm.Cond.fieldLink "ThirdSheets$Corners" (3 : Nat) "ThirdSheets$Corners" "this$0" "LThirdSheets;") ∈ lw_all := lw_g (lw_at lw_m1 31 rfl) rfl
theorem q119 : (Jvm.Cond.laysFinal "ThirdSheets$Corners" "ThirdSheets$Corners" "this$0" "LThirdSheets;") ∈ lw_all := lw_g (lw_at lw_m1 38 rfl) rfl
theorem q120 : (Jvm.Cond.soleField "ThirdSheets$Corners" "this$0") ∈ lw_all := lw_g (lw_at lw_m1 39 rfl) rfl
theorem q121 : (Jvm.Cond.laysFinal "ThirdSheets$Corners" "ThirdSheets$Sort" "each" "I") ∈ lw_all := lw_g (lw_at lw_m1 40 rfl) rfl
theorem q123 : (Jvm.Cond.laysFinal "ThirdSheets$Corners" "ThirdSheets$Sort" "paint" "[I") ∈ lw_all := lw_g (lw_at lw_m1 42 rfl) rfl
theorem q125 : (Jvm.Cond.lays "ThirdSheets$Corners" "ThirdSheets$Sort" "many" "I") ∈ lw_all := lw_g (lw_at lw_m1 44 rfl) rfl
theorem q127 : (Jvm.Cond.laysFinal "ThirdSheets$Corners" "ThirdSheets$Sort" "this$0" "LThirdSheets;") ∈ lw_all := lw_g (lw_at lw_m1 46 rfl) rfl
theorem q129 : (Jvm.Cond.superclass "ThirdSheets$Corners" "ThirdSheets$Sort") ∈ lw_all := lw_g (lw_at lw_m1 48 rfl) rfl
theorem q262 : (Jvm.Cond.fieldLinkNest "ThirdSheets$Corners" (15 : Nat) "ThirdSheets$Glue" "to" "[I" "ThirdSheets") ∈ lw_tbl := lw_at lw_m1 181 rfl
theorem q290 : (Jvm.Cond.sameMethod "ThirdSheets$Corners" "ThirdSheets$Sort" "find" "()I") ∈ lw_all := lw_g (lw_at lw_m1 209 rfl) rfl
theorem q292 : (Jvm.Cond.selects "ThirdSheets$Corners" ({ cls := "ThirdSheets$Corners", name := "find", desc := "()I" } : Jvm.MethodName) ({ cls := "ThirdSheets$Sort", name := "find", desc := "()I" } : Jvm.MethodName)) ∈ lw_all := lw_g (lw_at lw_m1 211 rfl) rfl
theorem q302 : (Jvm.Cond.selects "ThirdSheets$Corners" ({ cls := "ThirdSheets$Sort", name := "across", desc := "(IILThirdSheets$Glue;)I" } : Jvm.MethodName) ({ cls := "ThirdSheets$Corners", name := "across", desc := "(IILThirdSheets$Glue;)I" } : Jvm.MethodName)) ∈ lw_all := lw_g (lw_at lw_m1 221 rfl) rfl
theorem q303 : (Jvm.Cond.instanceMethod ({ cls := "ThirdSheets$Corners", name := "across", desc := "(IILThirdSheets$Glue;)I" } : Jvm.MethodName)) ∈ lw_all := lw_g (lw_at lw_m1 222 rfl) rfl
theorem q304 : (Jvm.Cond.code ({ cls := "ThirdSheets$Corners", name := "across", desc := "(IILThirdSheets$Glue;)I" } : Jvm.MethodName) prog_2_method_2_code (4 : Nat) (Option.some Jvm.ClassFile.FieldType.int)) ∈ lw_all := lw_g (lw_at lw_m1 223 rfl) rfl
theorem q330 : (Jvm.Cond.sameMethod "ThirdSheets$Corners" "ThirdSheets$Sort" "of" "(II)I") ∈ lw_all := lw_g (lw_at lw_m2 9 rfl) rfl
theorem q332 : (Jvm.Cond.selects "ThirdSheets$Corners" ({ cls := "ThirdSheets$Corners", name := "of", desc := "(II)I" } : Jvm.MethodName) ({ cls := "ThirdSheets$Sort", name := "of", desc := "(II)I" } : Jvm.MethodName)) ∈ lw_all := lw_g (lw_at lw_m2 11 rfl) rfl
theorem in_X2 : ∀ w ∈ wsX20, w ∈ lw_all := lw_in wsX20 [121, 123, 125, 127, 119] (by decide +kernel) (by decide +kernel)

/-! ThirdSheets$Edges -/
set_option maxRecDepth 100000
def RX3 : String := "ThirdSheets$Edges"
def TX3 : u_T := fun k => match k with
  | 0 => ("ThirdSheets$Sort", "each", "I", true)
  | 1 => ("ThirdSheets$Sort", "paint", "[I", true)
  | 2 => ("ThirdSheets$Sort", "many", "I", false)
  | 3 => ("ThirdSheets$Sort", "this$0", "LThirdSheets;", true)
  | _ => ("ThirdSheets$Edges", "this$0", "LThirdSheets;", true)
def tyX3 : Nat → FieldType := fun k => match k with
  | 0 => .int
  | 1 => .array .int
  | 2 => .int
  | 3 => .object "ThirdSheets"
  | _ => .object "ThirdSheets"
abbrev wsX30 : List Cond := u_ws RX3 TX3 5
-- two fields of one name: no nmX3
theorem tyX3_ok : ∀ k, k < 5 → parseFieldDescriptor (TX3 k).2.2.1 = some (tyX3 k) := by decide +kernel
abbrev cX3_init : ByteArray := prog_3_method_1_code
def yX3_init : MethodName := ⟨RX3, "<init>", "(LThirdSheets;)V"⟩
def dkwX3_init_0 : List UInt8 := [42, 43, 181, 0, 3, 42, 43, 16, 6, 183, 0, 9, 177]
abbrev dktX3_init_0 : List UInt8 := dkwX3_init_0 ++ []
theorem dksX3_init_0 : cX3_init.data.toList.drop 0 = dktX3_init_0 := by decide +kernel
theorem dX3_init_0 : decode cX3_init 0 = .ok (.aload_n 0, 1) := dk_42 (dk_at dksX3_init_0 0 rfl rfl)
theorem dX3_init_1 : decode cX3_init 1 = .ok (.aload_n 1, 1) := dk_43 (dk_at dksX3_init_0 1 rfl rfl)
theorem dX3_init_2 : decode cX3_init 2 = .ok (.putfield 3, 3) := dk_181 0 3 (dk_at dksX3_init_0 2 rfl rfl)
theorem dX3_init_5 : decode cX3_init 5 = .ok (.aload_n 0, 1) := dk_42 (dk_at dksX3_init_0 5 rfl rfl)
theorem dX3_init_6 : decode cX3_init 6 = .ok (.aload_n 1, 1) := dk_43 (dk_at dksX3_init_0 6 rfl rfl)
theorem dX3_init_7 : decode cX3_init 7 = .ok (.bipush 6, 2) := dk_16 6 (dk_at dksX3_init_0 7 rfl rfl)
theorem dX3_init_9 : decode cX3_init 9 = .ok (.invokespecial 9, 3) := dk_183 0 9 (dk_at dksX3_init_0 9 rfl rfl)
theorem dX3_init_12 : decode cX3_init 12 = .ok (.return_, 1) := dk_177 (dk_at dksX3_init_0 12 rfl rfl)
abbrev cX3_across : ByteArray := prog_3_method_2_code
def yX3_across : MethodName := ⟨RX3, "across", "(IILThirdSheets$Glue;)I"⟩
def dkwX3_across_1 : List UInt8 := [180, 0, 22, 178, 0, 15, 27, 46, 46, 45, 180, 0, 22, 178, 0, 19, 27, 46, 46, 184, 0, 27, 172]
abbrev dktX3_across_1 : List UInt8 := dkwX3_across_1 ++ []
def dkwX3_across_0 : List UInt8 := [178, 0, 15, 27, 46, 28, 159, 0, 12, 178, 0, 19, 27, 46, 28, 160, 0, 7, 2, 167, 0, 26, 45]
abbrev dktX3_across_0 : List UInt8 := dkwX3_across_0 ++ dktX3_across_1
theorem dksX3_across_0 : cX3_across.data.toList.drop 0 = dktX3_across_0 := by decide +kernel
theorem dksX3_across_1 : cX3_across.data.toList.drop 23 = dktX3_across_1 := dk_seg dksX3_across_0 23 rfl rfl
theorem dX3_across_0 : decode cX3_across 0 = .ok (.getstatic 15, 3) := dk_178 0 15 (dk_at dksX3_across_0 0 rfl rfl)
theorem dX3_across_3 : decode cX3_across 3 = .ok (.iload_n 1, 1) := dk_27 (dk_at dksX3_across_0 3 rfl rfl)
theorem dX3_across_4 : decode cX3_across 4 = .ok (.iaload, 1) := dk_46 (dk_at dksX3_across_0 4 rfl rfl)
theorem dX3_across_5 : decode cX3_across 5 = .ok (.iload_n 2, 1) := dk_28 (dk_at dksX3_across_0 5 rfl rfl)
theorem dX3_across_6 : decode cX3_across 6 = .ok (.if_icmp .eq 12, 3) := dk_159 0 12 (dk_at dksX3_across_0 6 rfl rfl)
theorem dX3_across_9 : decode cX3_across 9 = .ok (.getstatic 19, 3) := dk_178 0 19 (dk_at dksX3_across_0 9 rfl rfl)
theorem dX3_across_12 : decode cX3_across 12 = .ok (.iload_n 1, 1) := dk_27 (dk_at dksX3_across_0 12 rfl rfl)
theorem dX3_across_13 : decode cX3_across 13 = .ok (.iaload, 1) := dk_46 (dk_at dksX3_across_0 13 rfl rfl)
theorem dX3_across_14 : decode cX3_across 14 = .ok (.iload_n 2, 1) := dk_28 (dk_at dksX3_across_0 14 rfl rfl)
theorem dX3_across_15 : decode cX3_across 15 = .ok (.if_icmp .ne 7, 3) := dk_160 0 7 (dk_at dksX3_across_0 15 rfl rfl)
theorem dX3_across_18 : decode cX3_across 18 = .ok (.iconst (-1), 1) := dk_2 (dk_at dksX3_across_0 18 rfl rfl)
theorem dX3_across_19 : decode cX3_across 19 = .ok (.goto 26, 3) := dk_167 0 26 (dk_at dksX3_across_0 19 rfl rfl)
theorem dX3_across_22 : decode cX3_across 22 = .ok (.aload_n 3, 1) := dk_45 (dk_at dksX3_across_0 22 rfl rfl)
theorem dX3_across_23 : decode cX3_across 23 = .ok (.getfield 22, 3) := dk_180 0 22 (dk_at dksX3_across_1 0 rfl rfl)
theorem dX3_across_26 : decode cX3_across 26 = .ok (.getstatic 15, 3) := dk_178 0 15 (dk_at dksX3_across_1 3 rfl rfl)
theorem dX3_across_29 : decode cX3_across 29 = .ok (.iload_n 1, 1) := dk_27 (dk_at dksX3_across_1 6 rfl rfl)
theorem dX3_across_30 : decode cX3_across 30 = .ok (.iaload, 1) := dk_46 (dk_at dksX3_across_1 7 rfl rfl)
theorem dX3_across_31 : decode cX3_across 31 = .ok (.iaload, 1) := dk_46 (dk_at dksX3_across_1 8 rfl rfl)
theorem dX3_across_32 : decode cX3_across 32 = .ok (.aload_n 3, 1) := dk_45 (dk_at dksX3_across_1 9 rfl rfl)
theorem dX3_across_33 : decode cX3_across 33 = .ok (.getfield 22, 3) := dk_180 0 22 (dk_at dksX3_across_1 10 rfl rfl)
theorem dX3_across_36 : decode cX3_across 36 = .ok (.getstatic 19, 3) := dk_178 0 19 (dk_at dksX3_across_1 13 rfl rfl)
theorem dX3_across_39 : decode cX3_across 39 = .ok (.iload_n 1, 1) := dk_27 (dk_at dksX3_across_1 16 rfl rfl)
theorem dX3_across_40 : decode cX3_across 40 = .ok (.iaload, 1) := dk_46 (dk_at dksX3_across_1 17 rfl rfl)
theorem dX3_across_41 : decode cX3_across 41 = .ok (.iaload, 1) := dk_46 (dk_at dksX3_across_1 18 rfl rfl)
theorem dX3_across_42 : decode cX3_across 42 = .ok (.invokestatic 27, 3) := dk_184 0 27 (dk_at dksX3_across_1 19 rfl rfl)
theorem dX3_across_45 : decode cX3_across 45 = .ok (.ireturn, 1) := dk_172 (dk_at dksX3_across_1 22 rfl rfl)
theorem q85 : (Jvm.Cond.initialized "ThirdSheets$Edges") ∈ lw_all := lw_g (lw_at lw_m1 4 rfl) rfl
theorem q132 : (Jvm.Cond.instantiable "ThirdSheets$Edges" (5 : Nat)) ∈ lw_all := lw_g (lw_at lw_m1 51 rfl) rfl
theorem q134 : (Jvm.Cond.instanceMethod ({ cls := "ThirdSheets$Edges", name := "<init>", desc := "(LThirdSheets;)V" } : Jvm.MethodName)) ∈ lw_all := lw_g (lw_at lw_m1 53 rfl) rfl
theorem q135 : (Jvm.Cond.code ({ cls := "ThirdSheets$Edges", name := "<init>", desc := "(LThirdSheets;)V" } : Jvm.MethodName) prog_3_method_1_code (2 : Nat) (Option.none : Option Jvm.ClassFile.FieldType)) ∈ lw_all := lw_g (lw_at lw_m1 54 rfl) rfl
theorem q136 : (Jvm.Cond.methodLink "ThirdSheets$Edges" (9 : Nat) ({ cls := "ThirdSheets$Sort", name := "<init>", desc := "(LThirdSheets;I)V" } : Jvm.MethodName)) ∈ lw_all := lw_g (lw_at lw_m1 55 rfl) rfl
theorem q137 : (Jvm.Cond.fieldLink "ThirdSheets$Edges" (3 : Nat) "ThirdSheets$Edges" "this$0" "LThirdSheets;") ∈ lw_all := lw_g (lw_at lw_m1 56 rfl) rfl
theorem q138 : (Jvm.Cond.laysFinal "ThirdSheets$Edges" "ThirdSheets$Edges" "this$0" "LThirdSheets;") ∈ lw_all := lw_g (lw_at lw_m1 57 rfl) rfl
theorem q139 : (Jvm.Cond.soleField "ThirdSheets$Edges" "this$0") ∈ lw_all := lw_g (lw_at lw_m1 58 rfl) rfl
theorem q140 : (Jvm.Cond.laysFinal "ThirdSheets$Edges" "ThirdSheets$Sort" "each" "I") ∈ lw_all := lw_g (lw_at lw_m1 59 rfl) rfl
theorem q141 : (Jvm.Cond.laysFinal "ThirdSheets$Edges" "ThirdSheets$Sort" "paint" "[I") ∈ lw_all := lw_g (lw_at lw_m1 60 rfl) rfl
theorem q142 : (Jvm.Cond.lays "ThirdSheets$Edges" "ThirdSheets$Sort" "many" "I") ∈ lw_all := lw_g (lw_at lw_m1 61 rfl) rfl
theorem q143 : (Jvm.Cond.laysFinal "ThirdSheets$Edges" "ThirdSheets$Sort" "this$0" "LThirdSheets;") ∈ lw_all := lw_g (lw_at lw_m1 62 rfl) rfl
theorem q144 : (Jvm.Cond.superclass "ThirdSheets$Edges" "ThirdSheets$Sort") ∈ lw_all := lw_g (lw_at lw_m1 63 rfl) rfl
theorem q263 : (Jvm.Cond.fieldLinkNest "ThirdSheets$Edges" (22 : Nat) "ThirdSheets$Glue" "to" "[I" "ThirdSheets") ∈ lw_tbl := lw_at lw_m1 182 rfl
theorem q305 : (Jvm.Cond.selects "ThirdSheets$Edges" ({ cls := "ThirdSheets$Sort", name := "across", desc := "(IILThirdSheets$Glue;)I" } : Jvm.MethodName) ({ cls := "ThirdSheets$Edges", name := "across", desc := "(IILThirdSheets$Glue;)I" } : Jvm.MethodName)) ∈ lw_all := lw_g (lw_at lw_m1 224 rfl) rfl
theorem q306 : (Jvm.Cond.instanceMethod ({ cls := "ThirdSheets$Edges", name := "across", desc := "(IILThirdSheets$Glue;)I" } : Jvm.MethodName)) ∈ lw_all := lw_g (lw_at lw_m1 225 rfl) rfl
theorem q307 : (Jvm.Cond.code ({ cls := "ThirdSheets$Edges", name := "across", desc := "(IILThirdSheets$Glue;)I" } : Jvm.MethodName) prog_3_method_2_code (4 : Nat) (Option.some Jvm.ClassFile.FieldType.int)) ∈ lw_all := lw_g (lw_at lw_m1 226 rfl) rfl
theorem q308 : (Jvm.Cond.fieldLinkNest "ThirdSheets$Edges" (15 : Nat) "ThirdSheets" "LOW" "[I" "ThirdSheets") ∈ lw_tbl := lw_at lw_m1 227 rfl
theorem q310 : (Jvm.Cond.fieldLinkNest "ThirdSheets$Edges" (19 : Nat) "ThirdSheets" "HIGH" "[I" "ThirdSheets") ∈ lw_tbl := lw_at lw_m1 229 rfl
theorem q312 : (Jvm.Cond.methodLinkNest "ThirdSheets$Edges" (27 : Nat) ({ cls := "ThirdSheets", name := "edgeOf", desc := "(II)I" } : Jvm.MethodName) "ThirdSheets") ∈ lw_tbl := lw_at lw_m1 231 rfl
theorem q327 : (Jvm.Cond.sameMethod "ThirdSheets$Edges" "ThirdSheets$Sort" "find" "()I") ∈ lw_all := lw_g (lw_at lw_m2 6 rfl) rfl
theorem q328 : (Jvm.Cond.selects "ThirdSheets$Edges" ({ cls := "ThirdSheets$Edges", name := "find", desc := "()I" } : Jvm.MethodName) ({ cls := "ThirdSheets$Sort", name := "find", desc := "()I" } : Jvm.MethodName)) ∈ lw_all := lw_g (lw_at lw_m2 7 rfl) rfl
theorem q336 : (Jvm.Cond.sameMethod "ThirdSheets$Edges" "ThirdSheets$Sort" "of" "(II)I") ∈ lw_all := lw_g (lw_at lw_m2 15 rfl) rfl
theorem q337 : (Jvm.Cond.selects "ThirdSheets$Edges" ({ cls := "ThirdSheets$Edges", name := "of", desc := "(II)I" } : Jvm.MethodName) ({ cls := "ThirdSheets$Sort", name := "of", desc := "(II)I" } : Jvm.MethodName)) ∈ lw_all := lw_g (lw_at lw_m2 16 rfl) rfl
theorem q350 : (Jvm.Cond.sameMethod "ThirdSheets$Edges" "ThirdSheets$Sort" "first" "(I)I") ∈ lw_all := lw_g (lw_at lw_m2 29 rfl) rfl
theorem q352 : (Jvm.Cond.selects "ThirdSheets$Edges" ({ cls := "ThirdSheets$Edges", name := "first", desc := "(I)I" } : Jvm.MethodName) ({ cls := "ThirdSheets$Sort", name := "first", desc := "(I)I" } : Jvm.MethodName)) ∈ lw_all := lw_g (lw_at lw_m2 31 rfl) rfl
theorem in_X3 : ∀ w ∈ wsX30, w ∈ lw_all := lw_in wsX30 [140, 141, 142, 143, 138] (by decide +kernel) (by decide +kernel)

/-! ThirdSheets$Ends -/
set_option maxRecDepth 100000
def RX4 : String := "ThirdSheets$Ends"
def TX4 : u_T := fun k => match k with
  | 0 => ("ThirdSheets$Sort", "each", "I", true)
  | 1 => ("ThirdSheets$Sort", "paint", "[I", true)
  | 2 => ("ThirdSheets$Sort", "many", "I", false)
  | 3 => ("ThirdSheets$Sort", "this$0", "LThirdSheets;", true)
  | _ => ("ThirdSheets$Ends", "this$0", "LThirdSheets;", true)
def tyX4 : Nat → FieldType := fun k => match k with
  | 0 => .int
  | 1 => .array .int
  | 2 => .int
  | 3 => .object "ThirdSheets"
  | _ => .object "ThirdSheets"
abbrev wsX40 : List Cond := u_ws RX4 TX4 5
-- two fields of one name: no nmX4
theorem tyX4_ok : ∀ k, k < 5 → parseFieldDescriptor (TX4 k).2.2.1 = some (tyX4 k) := by decide +kernel
abbrev cX4_init : ByteArray := prog_4_method_1_code
def yX4_init : MethodName := ⟨RX4, "<init>", "(LThirdSheets;)V"⟩
def dkwX4_init_0 : List UInt8 := [42, 43, 181, 0, 3, 42, 43, 16, 12, 183, 0, 9, 177]
abbrev dktX4_init_0 : List UInt8 := dkwX4_init_0 ++ []
theorem dksX4_init_0 : cX4_init.data.toList.drop 0 = dktX4_init_0 := by decide +kernel
theorem dX4_init_0 : decode cX4_init 0 = .ok (.aload_n 0, 1) := dk_42 (dk_at dksX4_init_0 0 rfl rfl)
theorem dX4_init_1 : decode cX4_init 1 = .ok (.aload_n 1, 1) := dk_43 (dk_at dksX4_init_0 1 rfl rfl)
theorem dX4_init_2 : decode cX4_init 2 = .ok (.putfield 3, 3) := dk_181 0 3 (dk_at dksX4_init_0 2 rfl rfl)
theorem dX4_init_5 : decode cX4_init 5 = .ok (.aload_n 0, 1) := dk_42 (dk_at dksX4_init_0 5 rfl rfl)
theorem dX4_init_6 : decode cX4_init 6 = .ok (.aload_n 1, 1) := dk_43 (dk_at dksX4_init_0 6 rfl rfl)
theorem dX4_init_7 : decode cX4_init 7 = .ok (.bipush 12, 2) := dk_16 12 (dk_at dksX4_init_0 7 rfl rfl)
theorem dX4_init_9 : decode cX4_init 9 = .ok (.invokespecial 9, 3) := dk_183 0 9 (dk_at dksX4_init_0 9 rfl rfl)
theorem dX4_init_12 : decode cX4_init 12 = .ok (.return_, 1) := dk_177 (dk_at dksX4_init_0 12 rfl rfl)
abbrev cX4_across : ByteArray := prog_4_method_2_code
def yX4_across : MethodName := ⟨RX4, "across", "(IILThirdSheets$Glue;)I"⟩
def dkwX4_across_4 : List UInt8 := [180, 0, 22, 21, 5, 46, 164, 0, 7, 4, 167, 0, 4, 3, 96, 172]
abbrev dktX4_across_4 : List UInt8 := dkwX4_across_4 ++ []
def dkwX4_across_3 : List UInt8 := [21, 4, 46, 45, 180, 0, 22, 21, 5, 46, 184, 0, 27, 104, 45, 180, 0, 22, 21, 4, 46, 45]
abbrev dktX4_across_3 : List UInt8 := dkwX4_across_3 ++ dktX4_across_4
def dkwX4_across_2 : List UInt8 := [46, 54, 5, 21, 4, 28, 159, 0, 9, 21, 5, 28, 160, 0, 7, 2, 167, 0, 45, 5, 45, 180, 0, 22]
abbrev dktX4_across_2 : List UInt8 := dkwX4_across_2 ++ dktX4_across_3
def dkwX4_across_1 : List UInt8 := [54, 4, 27, 5, 112, 154, 0, 13, 178, 0, 19, 27, 5, 108, 46, 167, 0, 10, 178, 0, 15, 27, 5, 108]
abbrev dktX4_across_1 : List UInt8 := dkwX4_across_1 ++ dktX4_across_2
def dkwX4_across_0 : List UInt8 := [27, 5, 112, 154, 0, 13, 178, 0, 15, 27, 5, 108, 46, 167, 0, 10, 178, 0, 19, 27, 5, 108, 46]
abbrev dktX4_across_0 : List UInt8 := dkwX4_across_0 ++ dktX4_across_1
theorem dksX4_across_0 : cX4_across.data.toList.drop 0 = dktX4_across_0 := by decide +kernel
theorem dksX4_across_1 : cX4_across.data.toList.drop 23 = dktX4_across_1 := dk_seg dksX4_across_0 23 rfl rfl
theorem dksX4_across_2 : cX4_across.data.toList.drop 47 = dktX4_across_2 := dk_seg dksX4_across_1 24 rfl rfl
theorem dksX4_across_3 : cX4_across.data.toList.drop 71 = dktX4_across_3 := dk_seg dksX4_across_2 24 rfl rfl
theorem dksX4_across_4 : cX4_across.data.toList.drop 93 = dktX4_across_4 := dk_seg dksX4_across_3 22 rfl rfl
theorem dX4_across_0 : decode cX4_across 0 = .ok (.iload_n 1, 1) := dk_27 (dk_at dksX4_across_0 0 rfl rfl)
theorem dX4_across_1 : decode cX4_across 1 = .ok (.iconst 2, 1) := dk_5 (dk_at dksX4_across_0 1 rfl rfl)
theorem dX4_across_2 : decode cX4_across 2 = .ok (.irem, 1) := dk_112 (dk_at dksX4_across_0 2 rfl rfl)
theorem dX4_across_3 : decode cX4_across 3 = .ok (.ifCond .ne 13, 3) := dk_154 0 13 (dk_at dksX4_across_0 3 rfl rfl)
theorem dX4_across_6 : decode cX4_across 6 = .ok (.getstatic 15, 3) := dk_178 0 15 (dk_at dksX4_across_0 6 rfl rfl)
theorem dX4_across_9 : decode cX4_across 9 = .ok (.iload_n 1, 1) := dk_27 (dk_at dksX4_across_0 9 rfl rfl)
theorem dX4_across_10 : decode cX4_across 10 = .ok (.iconst 2, 1) := dk_5 (dk_at dksX4_across_0 10 rfl rfl)
theorem dX4_across_11 : decode cX4_across 11 = .ok (.idiv, 1) := dk_108 (dk_at dksX4_across_0 11 rfl rfl)
theorem dX4_across_12 : decode cX4_across 12 = .ok (.iaload, 1) := dk_46 (dk_at dksX4_across_0 12 rfl rfl)
theorem dX4_across_13 : decode cX4_across 13 = .ok (.goto 10, 3) := dk_167 0 10 (dk_at dksX4_across_0 13 rfl rfl)
theorem dX4_across_16 : decode cX4_across 16 = .ok (.getstatic 19, 3) := dk_178 0 19 (dk_at dksX4_across_0 16 rfl rfl)
theorem dX4_across_19 : decode cX4_across 19 = .ok (.iload_n 1, 1) := dk_27 (dk_at dksX4_across_0 19 rfl rfl)
theorem dX4_across_20 : decode cX4_across 20 = .ok (.iconst 2, 1) := dk_5 (dk_at dksX4_across_0 20 rfl rfl)
theorem dX4_across_21 : decode cX4_across 21 = .ok (.idiv, 1) := dk_108 (dk_at dksX4_across_0 21 rfl rfl)
theorem dX4_across_22 : decode cX4_across 22 = .ok (.iaload, 1) := dk_46 (dk_at dksX4_across_0 22 rfl rfl)
theorem dX4_across_23 : decode cX4_across 23 = .ok (.istore 4, 2) := dk_54 4 (dk_at dksX4_across_1 0 rfl rfl)
theorem dX4_across_25 : decode cX4_across 25 = .ok (.iload_n 1, 1) := dk_27 (dk_at dksX4_across_1 2 rfl rfl)
theorem dX4_across_26 : decode cX4_across 26 = .ok (.iconst 2, 1) := dk_5 (dk_at dksX4_across_1 3 rfl rfl)
theorem dX4_across_27 : decode cX4_across 27 = .ok (.irem, 1) := dk_112 (dk_at dksX4_across_1 4 rfl rfl)
theorem dX4_across_28 : decode cX4_across 28 = .ok (.ifCond .ne 13, 3) := dk_154 0 13 (dk_at dksX4_across_1 5 rfl rfl)
theorem dX4_across_31 : decode cX4_across 31 = .ok (.getstatic 19, 3) := dk_178 0 19 (dk_at dksX4_across_1 8 rfl rfl)
theorem dX4_across_34 : decode cX4_across 34 = .ok (.iload_n 1, 1) := dk_27 (dk_at dksX4_across_1 11 rfl rfl)
theorem dX4_across_35 : decode cX4_across 35 = .ok (.iconst 2, 1) := dk_5 (dk_at dksX4_across_1 12 rfl rfl)
theorem dX4_across_36 : decode cX4_across 36 = .ok (.idiv, 1) := dk_108 (dk_at dksX4_across_1 13 rfl rfl)
theorem dX4_across_37 : decode cX4_across 37 = .ok (.iaload, 1) := dk_46 (dk_at dksX4_across_1 14 rfl rfl)
theorem dX4_across_38 : decode cX4_across 38 = .ok (.goto 10, 3) := dk_167 0 10 (dk_at dksX4_across_1 15 rfl rfl)
theorem dX4_across_41 : decode cX4_across 41 = .ok (.getstatic 15, 3) := dk_178 0 15 (dk_at dksX4_across_1 18 rfl rfl)
theorem dX4_across_44 : decode cX4_across 44 = .ok (.iload_n 1, 1) := dk_27 (dk_at dksX4_across_1 21 rfl rfl)
theorem dX4_across_45 : decode cX4_across 45 = .ok (.iconst 2, 1) := dk_5 (dk_at dksX4_across_1 22 rfl rfl)
theorem dX4_across_46 : decode cX4_across 46 = .ok (.idiv, 1) := dk_108 (dk_at dksX4_across_1 23 rfl rfl)
theorem dX4_across_47 : decode cX4_across 47 = .ok (.iaload, 1) := dk_46 (dk_at dksX4_across_2 0 rfl rfl)
theorem dX4_across_48 : decode cX4_across 48 = .ok (.istore 5, 2) := dk_54 5 (dk_at dksX4_across_2 1 rfl rfl)
theorem dX4_across_50 : decode cX4_across 50 = .ok (.iload 4, 2) := dk_21 4 (dk_at dksX4_across_2 3 rfl rfl)
theorem dX4_across_52 : decode cX4_across 52 = .ok (.iload_n 2, 1) := dk_28 (dk_at dksX4_across_2 5 rfl rfl)
theorem dX4_across_53 : decode cX4_across 53 = .ok (.if_icmp .eq 9, 3) := dk_159 0 9 (dk_at dksX4_across_2 6 rfl rfl)
theorem dX4_across_56 : decode cX4_across 56 = .ok (.iload 5, 2) := dk_21 5 (dk_at dksX4_across_2 9 rfl rfl)
theorem dX4_across_58 : decode cX4_across 58 = .ok (.iload_n 2, 1) := dk_28 (dk_at dksX4_across_2 11 rfl rfl)
theorem dX4_across_59 : decode cX4_across 59 = .ok (.if_icmp .ne 7, 3) := dk_160 0 7 (dk_at dksX4_across_2 12 rfl rfl)
theorem dX4_across_62 : decode cX4_across 62 = .ok (.iconst (-1), 1) := dk_2 (dk_at dksX4_across_2 15 rfl rfl)
theorem dX4_across_63 : decode cX4_across 63 = .ok (.goto 45, 3) := dk_167 0 45 (dk_at dksX4_across_2 16 rfl rfl)
theorem dX4_across_66 : decode cX4_across 66 = .ok (.iconst 2, 1) := dk_5 (dk_at dksX4_across_2 19 rfl rfl)
theorem dX4_across_67 : decode cX4_across 67 = .ok (.aload_n 3, 1) := dk_45 (dk_at dksX4_across_2 20 rfl rfl)
theorem dX4_across_68 : decode cX4_across 68 = .ok (.getfield 22, 3) := dk_180 0 22 (dk_at dksX4_across_2 21 rfl rfl)
theorem dX4_across_71 : decode cX4_across 71 = .ok (.iload 4, 2) := dk_21 4 (dk_at dksX4_across_3 0 rfl rfl)
theorem dX4_across_73 : decode cX4_across 73 = .ok (.iaload, 1) := dk_46 (dk_at dksX4_across_3 2 rfl rfl)
theorem dX4_across_74 : decode cX4_across 74 = .ok (.aload_n 3, 1) := dk_45 (dk_at dksX4_across_3 3 rfl rfl)
theorem dX4_across_75 : decode cX4_across 75 = .ok (.getfield 22, 3) := dk_180 0 22 (dk_at dksX4_across_3 4 rfl rfl)
theorem dX4_across_78 : decode cX4_across 78 = .ok (.iload 5, 2) := dk_21 5 (dk_at dksX4_across_3 7 rfl rfl)
theorem dX4_across_80 : decode cX4_across 80 = .ok (.iaload, 1) := dk_46 (dk_at dksX4_across_3 9 rfl rfl)
theorem dX4_across_81 : decode cX4_across 81 = .ok (.invokestatic 27, 3) := dk_184 0 27 (dk_at dksX4_across_3 10 rfl rfl)
theorem dX4_across_84 : decode cX4_across 84 = .ok (.imul, 1) := dk_104 (dk_at dksX4_across_3 13 rfl rfl)
theorem dX4_across_85 : decode cX4_across 85 = .ok (.aload_n 3, 1) := dk_45 (dk_at dksX4_across_3 14 rfl rfl)
theorem dX4_across_86 : decode cX4_across 86 = .ok (.getfield 22, 3) := dk_180 0 22 (dk_at dksX4_across_3 15 rfl rfl)
theorem dX4_across_89 : decode cX4_across 89 = .ok (.iload 4, 2) := dk_21 4 (dk_at dksX4_across_3 18 rfl rfl)
theorem dX4_across_91 : decode cX4_across 91 = .ok (.iaload, 1) := dk_46 (dk_at dksX4_across_3 20 rfl rfl)
theorem dX4_across_92 : decode cX4_across 92 = .ok (.aload_n 3, 1) := dk_45 (dk_at dksX4_across_3 21 rfl rfl)
theorem dX4_across_93 : decode cX4_across 93 = .ok (.getfield 22, 3) := dk_180 0 22 (dk_at dksX4_across_4 0 rfl rfl)
theorem dX4_across_96 : decode cX4_across 96 = .ok (.iload 5, 2) := dk_21 5 (dk_at dksX4_across_4 3 rfl rfl)
theorem dX4_across_98 : decode cX4_across 98 = .ok (.iaload, 1) := dk_46 (dk_at dksX4_across_4 5 rfl rfl)
theorem dX4_across_99 : decode cX4_across 99 = .ok (.if_icmp .le 7, 3) := dk_164 0 7 (dk_at dksX4_across_4 6 rfl rfl)
theorem dX4_across_102 : decode cX4_across 102 = .ok (.iconst 1, 1) := dk_4 (dk_at dksX4_across_4 9 rfl rfl)
theorem dX4_across_103 : decode cX4_across 103 = .ok (.goto 4, 3) := dk_167 0 4 (dk_at dksX4_across_4 10 rfl rfl)
theorem dX4_across_106 : decode cX4_across 106 = .ok (.iconst 0, 1) := dk_3 (dk_at dksX4_across_4 13 rfl rfl)
theorem dX4_across_107 : decode cX4_across 107 = .ok (.iadd, 1) := dk_96 (dk_at dksX4_across_4 14 rfl rfl)
theorem dX4_across_108 : decode cX4_across 108 = .ok (.ireturn, 1) := dk_172 (dk_at dksX4_across_4 15 rfl rfl)
theorem q86 : (Jvm.Cond.initialized "ThirdSheets$Ends") ∈ lw_all := lw_g (lw_at lw_m1 5 rfl) rfl
theorem q117 : (Jvm.Cond.sameField "ThirdSheets$Ends" "ThirdSheets$Sort" "many" "I") ∈ lw_all := lw_g (lw_at lw_m1 36 rfl) rfl
theorem q146 : (Jvm.Cond.instantiable "ThirdSheets$Ends" (5 : Nat)) ∈ lw_all := lw_g (lw_at lw_m1 65 rfl) rfl
theorem q148 : (Jvm.Cond.instanceMethod ({ cls := "ThirdSheets$Ends", name := "<init>", desc := "(LThirdSheets;)V" } : Jvm.MethodName)) ∈ lw_all := lw_g (lw_at lw_m1 67 rfl) rfl
theorem q149 : (Jvm.Cond.code ({ cls := "ThirdSheets$Ends", name := "<init>", desc := "(LThirdSheets;)V" } : Jvm.MethodName) prog_4_method_1_code (2 : Nat) (Option.none : Option Jvm.ClassFile.FieldType)) ∈ lw_all := lw_g (lw_at lw_m1 68 rfl) rfl
theorem q150 : (Jvm.Cond.methodLink "ThirdSheets$Ends" (9 : Nat) ({ cls := "ThirdSheets$Sort", name := "<init>", desc := "(LThirdSheets;I)V" } : Jvm.MethodName)) ∈ lw_all := lw_g (lw_at lw_m1 69 rfl) rfl
theorem q151 : (Jvm.Cond.fieldLink "ThirdSheets$Ends" (3 : Nat) "ThirdSheets$Ends" "this$0" "LThirdSheets;") ∈ lw_all := lw_g (lw_at lw_m1 70 rfl) rfl
theorem q152 : (Jvm.Cond.laysFinal "ThirdSheets$Ends" "ThirdSheets$Ends" "this$0" "LThirdSheets;") ∈ lw_all := lw_g (lw_at lw_m1 71 rfl) rfl
theorem q153 : (Jvm.Cond.soleField "ThirdSheets$Ends" "this$0") ∈ lw_all := lw_g (lw_at lw_m1 72 rfl) rfl
theorem q154 : (Jvm.Cond.laysFinal "ThirdSheets$Ends" "ThirdSheets$Sort" "each" "I") ∈ lw_all := lw_g (lw_at lw_m1 73 rfl) rfl
theorem q155 : (Jvm.Cond.laysFinal "ThirdSheets$Ends" "ThirdSheets$Sort" "paint" "[I") ∈ lw_all := lw_g (lw_at lw_m1 74 rfl) rfl
theorem q156 : (Jvm.Cond.lays "ThirdSheets$Ends" "ThirdSheets$Sort" "many" "I") ∈ lw_all := lw_g (lw_at lw_m1 75 rfl) rfl
theorem q157 : (Jvm.Cond.laysFinal "ThirdSheets$Ends" "ThirdSheets$Sort" "this$0" "LThirdSheets;") ∈ lw_all := lw_g (lw_at lw_m1 76 rfl) rfl
theorem q158 : (Jvm.Cond.superclass "ThirdSheets$Ends" "ThirdSheets$Sort") ∈ lw_all := lw_g (lw_at lw_m1 77 rfl) rfl
theorem q264 : (Jvm.Cond.fieldLinkNest "ThirdSheets$Ends" (22 : Nat) "ThirdSheets$Glue" "to" "[I" "ThirdSheets") ∈ lw_tbl := lw_at lw_m1 183 rfl
theorem q320 : (Jvm.Cond.selects "ThirdSheets$Ends" ({ cls := "ThirdSheets$Sort", name := "across", desc := "(IILThirdSheets$Glue;)I" } : Jvm.MethodName) ({ cls := "ThirdSheets$Ends", name := "across", desc := "(IILThirdSheets$Glue;)I" } : Jvm.MethodName)) ∈ lw_all := lw_g (lw_at lw_m1 239 rfl) rfl
theorem q321 : (Jvm.Cond.instanceMethod ({ cls := "ThirdSheets$Ends", name := "across", desc := "(IILThirdSheets$Glue;)I" } : Jvm.MethodName)) ∈ lw_all := lw_g (lw_at lw_m2 0 rfl) rfl
theorem q322 : (Jvm.Cond.code ({ cls := "ThirdSheets$Ends", name := "across", desc := "(IILThirdSheets$Glue;)I" } : Jvm.MethodName) prog_4_method_2_code (6 : Nat) (Option.some Jvm.ClassFile.FieldType.int)) ∈ lw_all := lw_g (lw_at lw_m2 1 rfl) rfl
theorem q323 : (Jvm.Cond.fieldLinkNest "ThirdSheets$Ends" (15 : Nat) "ThirdSheets" "LOW" "[I" "ThirdSheets") ∈ lw_tbl := lw_at lw_m2 2 rfl
theorem q324 : (Jvm.Cond.fieldLinkNest "ThirdSheets$Ends" (19 : Nat) "ThirdSheets" "HIGH" "[I" "ThirdSheets") ∈ lw_tbl := lw_at lw_m2 3 rfl
theorem q325 : (Jvm.Cond.methodLinkNest "ThirdSheets$Ends" (27 : Nat) ({ cls := "ThirdSheets", name := "edgeOf", desc := "(II)I" } : Jvm.MethodName) "ThirdSheets") ∈ lw_tbl := lw_at lw_m2 4 rfl
theorem q343 : (Jvm.Cond.sameMethod "ThirdSheets$Ends" "ThirdSheets$Sort" "find" "()I") ∈ lw_all := lw_g (lw_at lw_m2 22 rfl) rfl
theorem q344 : (Jvm.Cond.selects "ThirdSheets$Ends" ({ cls := "ThirdSheets$Ends", name := "find", desc := "()I" } : Jvm.MethodName) ({ cls := "ThirdSheets$Sort", name := "find", desc := "()I" } : Jvm.MethodName)) ∈ lw_all := lw_g (lw_at lw_m2 23 rfl) rfl
theorem q356 : (Jvm.Cond.sameMethod "ThirdSheets$Ends" "ThirdSheets$Sort" "of" "(II)I") ∈ lw_all := lw_g (lw_at lw_m2 35 rfl) rfl
theorem q357 : (Jvm.Cond.selects "ThirdSheets$Ends" ({ cls := "ThirdSheets$Ends", name := "of", desc := "(II)I" } : Jvm.MethodName) ({ cls := "ThirdSheets$Sort", name := "of", desc := "(II)I" } : Jvm.MethodName)) ∈ lw_all := lw_g (lw_at lw_m2 36 rfl) rfl
theorem q368 : (Jvm.Cond.sameMethod "ThirdSheets$Ends" "ThirdSheets$Sort" "first" "(I)I") ∈ lw_all := lw_g (lw_at lw_m2 47 rfl) rfl
theorem q369 : (Jvm.Cond.selects "ThirdSheets$Ends" ({ cls := "ThirdSheets$Ends", name := "first", desc := "(I)I" } : Jvm.MethodName) ({ cls := "ThirdSheets$Sort", name := "first", desc := "(I)I" } : Jvm.MethodName)) ∈ lw_all := lw_g (lw_at lw_m2 48 rfl) rfl
theorem in_X4 : ∀ w ∈ wsX40, w ∈ lw_all := lw_in wsX40 [154, 155, 156, 157, 152] (by decide +kernel) (by decide +kernel)

/-! ThirdSheets$Glue -/
set_option maxRecDepth 100000
def RX6 : String := "ThirdSheets$Glue"
def TX6 : u_T := fun k => match k with
  | 0 => ("ThirdSheets$Glue", "piece", "I", true)
  | 1 => ("ThirdSheets$Glue", "side", "I", true)
  | _ => ("ThirdSheets$Glue", "to", "[I", true)
def tyX6 : Nat → FieldType := fun k => match k with
  | 0 => .int
  | 1 => .int
  | _ => .array .int
abbrev wsX60 : List Cond := u_ws RX6 TX6 3
theorem nmX6 : ∀ a, a < 3 → ∀ b, b < 3 → a ≠ b → (TX6 a).2.1 ≠ (TX6 b).2.1 := by decide +kernel
theorem tyX6_ok : ∀ k, k < 3 → parseFieldDescriptor (TX6 k).2.2.1 = some (tyX6 k) := by decide +kernel
abbrev cX6_init : ByteArray := prog_5_method_1_code
def yX6_init : MethodName := ⟨RX6, "<init>", "(II[I)V"⟩
def dkwX6_init_0 : List UInt8 := [42, 183, 0, 3, 42, 27, 181, 0, 9, 42, 28, 181, 0, 15, 42, 45, 181, 0, 18, 177]
abbrev dktX6_init_0 : List UInt8 := dkwX6_init_0 ++ []
theorem dksX6_init_0 : cX6_init.data.toList.drop 0 = dktX6_init_0 := by decide +kernel
theorem dX6_init_0 : decode cX6_init 0 = .ok (.aload_n 0, 1) := dk_42 (dk_at dksX6_init_0 0 rfl rfl)
theorem dX6_init_1 : decode cX6_init 1 = .ok (.invokespecial 3, 3) := dk_183 0 3 (dk_at dksX6_init_0 1 rfl rfl)
theorem dX6_init_4 : decode cX6_init 4 = .ok (.aload_n 0, 1) := dk_42 (dk_at dksX6_init_0 4 rfl rfl)
theorem dX6_init_5 : decode cX6_init 5 = .ok (.iload_n 1, 1) := dk_27 (dk_at dksX6_init_0 5 rfl rfl)
theorem dX6_init_6 : decode cX6_init 6 = .ok (.putfield 9, 3) := dk_181 0 9 (dk_at dksX6_init_0 6 rfl rfl)
theorem dX6_init_9 : decode cX6_init 9 = .ok (.aload_n 0, 1) := dk_42 (dk_at dksX6_init_0 9 rfl rfl)
theorem dX6_init_10 : decode cX6_init 10 = .ok (.iload_n 2, 1) := dk_28 (dk_at dksX6_init_0 10 rfl rfl)
theorem dX6_init_11 : decode cX6_init 11 = .ok (.putfield 15, 3) := dk_181 0 15 (dk_at dksX6_init_0 11 rfl rfl)
theorem dX6_init_14 : decode cX6_init 14 = .ok (.aload_n 0, 1) := dk_42 (dk_at dksX6_init_0 14 rfl rfl)
theorem dX6_init_15 : decode cX6_init 15 = .ok (.aload_n 3, 1) := dk_45 (dk_at dksX6_init_0 15 rfl rfl)
theorem dX6_init_16 : decode cX6_init 16 = .ok (.putfield 18, 3) := dk_181 0 18 (dk_at dksX6_init_0 16 rfl rfl)
theorem dX6_init_19 : decode cX6_init 19 = .ok (.return_, 1) := dk_177 (dk_at dksX6_init_0 19 rfl rfl)
abbrev cX6_isEven : ByteArray := prog_5_method_2_code
def yX6_isEven : MethodName := ⟨RX6, "isEven", "()Z"⟩
def dkwX6_isEven_2 : List UInt8 := [167, 255, 212, 27, 5, 112, 154, 0, 7, 4, 167, 0, 4, 3, 172]
abbrev dktX6_isEven_2 : List UInt8 := dkwX6_isEven_2 ++ []
def dkwX6_isEven_1 : List UInt8 := [180, 0, 18, 28, 46, 164, 0, 7, 4, 167, 0, 4, 3, 96, 60, 132, 3, 1, 167, 255, 225, 132, 2, 1]
abbrev dktX6_isEven_1 : List UInt8 := dkwX6_isEven_1 ++ dktX6_isEven_2
def dkwX6_isEven_0 : List UInt8 := [3, 60, 3, 61, 28, 7, 162, 0, 45, 3, 62, 29, 28, 162, 0, 32, 27, 42, 180, 0, 18, 29, 46, 42]
abbrev dktX6_isEven_0 : List UInt8 := dkwX6_isEven_0 ++ dktX6_isEven_1
theorem dksX6_isEven_0 : cX6_isEven.data.toList.drop 0 = dktX6_isEven_0 := by decide +kernel
theorem dksX6_isEven_1 : cX6_isEven.data.toList.drop 24 = dktX6_isEven_1 := dk_seg dksX6_isEven_0 24 rfl rfl
theorem dksX6_isEven_2 : cX6_isEven.data.toList.drop 48 = dktX6_isEven_2 := dk_seg dksX6_isEven_1 24 rfl rfl
theorem dX6_isEven_0 : decode cX6_isEven 0 = .ok (.iconst 0, 1) := dk_3 (dk_at dksX6_isEven_0 0 rfl rfl)
theorem dX6_isEven_1 : decode cX6_isEven 1 = .ok (.istore_n 1, 1) := dk_60 (dk_at dksX6_isEven_0 1 rfl rfl)
theorem dX6_isEven_2 : decode cX6_isEven 2 = .ok (.iconst 0, 1) := dk_3 (dk_at dksX6_isEven_0 2 rfl rfl)
theorem dX6_isEven_3 : decode cX6_isEven 3 = .ok (.istore_n 2, 1) := dk_61 (dk_at dksX6_isEven_0 3 rfl rfl)
theorem dX6_isEven_4 : decode cX6_isEven 4 = .ok (.iload_n 2, 1) := dk_28 (dk_at dksX6_isEven_0 4 rfl rfl)
theorem dX6_isEven_5 : decode cX6_isEven 5 = .ok (.iconst 4, 1) := dk_7 (dk_at dksX6_isEven_0 5 rfl rfl)
theorem dX6_isEven_6 : decode cX6_isEven 6 = .ok (.if_icmp .ge 45, 3) := dk_162 0 45 (dk_at dksX6_isEven_0 6 rfl rfl)
theorem dX6_isEven_9 : decode cX6_isEven 9 = .ok (.iconst 0, 1) := dk_3 (dk_at dksX6_isEven_0 9 rfl rfl)
theorem dX6_isEven_10 : decode cX6_isEven 10 = .ok (.istore_n 3, 1) := dk_62 (dk_at dksX6_isEven_0 10 rfl rfl)
theorem dX6_isEven_11 : decode cX6_isEven 11 = .ok (.iload_n 3, 1) := dk_29 (dk_at dksX6_isEven_0 11 rfl rfl)
theorem dX6_isEven_12 : decode cX6_isEven 12 = .ok (.iload_n 2, 1) := dk_28 (dk_at dksX6_isEven_0 12 rfl rfl)
theorem dX6_isEven_13 : decode cX6_isEven 13 = .ok (.if_icmp .ge 32, 3) := dk_162 0 32 (dk_at dksX6_isEven_0 13 rfl rfl)
theorem dX6_isEven_16 : decode cX6_isEven 16 = .ok (.iload_n 1, 1) := dk_27 (dk_at dksX6_isEven_0 16 rfl rfl)
theorem dX6_isEven_17 : decode cX6_isEven 17 = .ok (.aload_n 0, 1) := dk_42 (dk_at dksX6_isEven_0 17 rfl rfl)
theorem dX6_isEven_18 : decode cX6_isEven 18 = .ok (.getfield 18, 3) := dk_180 0 18 (dk_at dksX6_isEven_0 18 rfl rfl)
theorem dX6_isEven_21 : decode cX6_isEven 21 = .ok (.iload_n 3, 1) := dk_29 (dk_at dksX6_isEven_0 21 rfl rfl)
theorem dX6_isEven_22 : decode cX6_isEven 22 = .ok (.iaload, 1) := dk_46 (dk_at dksX6_isEven_0 22 rfl rfl)
theorem dX6_isEven_23 : decode cX6_isEven 23 = .ok (.aload_n 0, 1) := dk_42 (dk_at dksX6_isEven_0 23 rfl rfl)
theorem dX6_isEven_24 : decode cX6_isEven 24 = .ok (.getfield 18, 3) := dk_180 0 18 (dk_at dksX6_isEven_1 0 rfl rfl)
theorem dX6_isEven_27 : decode cX6_isEven 27 = .ok (.iload_n 2, 1) := dk_28 (dk_at dksX6_isEven_1 3 rfl rfl)
theorem dX6_isEven_28 : decode cX6_isEven 28 = .ok (.iaload, 1) := dk_46 (dk_at dksX6_isEven_1 4 rfl rfl)
theorem dX6_isEven_29 : decode cX6_isEven 29 = .ok (.if_icmp .le 7, 3) := dk_164 0 7 (dk_at dksX6_isEven_1 5 rfl rfl)
theorem dX6_isEven_32 : decode cX6_isEven 32 = .ok (.iconst 1, 1) := dk_4 (dk_at dksX6_isEven_1 8 rfl rfl)
theorem dX6_isEven_33 : decode cX6_isEven 33 = .ok (.goto 4, 3) := dk_167 0 4 (dk_at dksX6_isEven_1 9 rfl rfl)
theorem dX6_isEven_36 : decode cX6_isEven 36 = .ok (.iconst 0, 1) := dk_3 (dk_at dksX6_isEven_1 12 rfl rfl)
theorem dX6_isEven_37 : decode cX6_isEven 37 = .ok (.iadd, 1) := dk_96 (dk_at dksX6_isEven_1 13 rfl rfl)
theorem dX6_isEven_38 : decode cX6_isEven 38 = .ok (.istore_n 1, 1) := dk_60 (dk_at dksX6_isEven_1 14 rfl rfl)
theorem dX6_isEven_39 : decode cX6_isEven 39 = .ok (.iinc 3 1, 3) := dk_132 3 1 (dk_at dksX6_isEven_1 15 rfl rfl)
theorem dX6_isEven_42 : decode cX6_isEven 42 = .ok (.goto (-31), 3) := dk_167 255 225 (dk_at dksX6_isEven_1 18 rfl rfl)
theorem dX6_isEven_45 : decode cX6_isEven 45 = .ok (.iinc 2 1, 3) := dk_132 2 1 (dk_at dksX6_isEven_1 21 rfl rfl)
theorem dX6_isEven_48 : decode cX6_isEven 48 = .ok (.goto (-44), 3) := dk_167 255 212 (dk_at dksX6_isEven_2 0 rfl rfl)
theorem dX6_isEven_51 : decode cX6_isEven 51 = .ok (.iload_n 1, 1) := dk_27 (dk_at dksX6_isEven_2 3 rfl rfl)
theorem dX6_isEven_52 : decode cX6_isEven 52 = .ok (.iconst 2, 1) := dk_5 (dk_at dksX6_isEven_2 4 rfl rfl)
theorem dX6_isEven_53 : decode cX6_isEven 53 = .ok (.irem, 1) := dk_112 (dk_at dksX6_isEven_2 5 rfl rfl)
theorem dX6_isEven_54 : decode cX6_isEven 54 = .ok (.ifCond .ne 7, 3) := dk_154 0 7 (dk_at dksX6_isEven_2 6 rfl rfl)
theorem dX6_isEven_57 : decode cX6_isEven 57 = .ok (.iconst 1, 1) := dk_4 (dk_at dksX6_isEven_2 9 rfl rfl)
theorem dX6_isEven_58 : decode cX6_isEven 58 = .ok (.goto 4, 3) := dk_167 0 4 (dk_at dksX6_isEven_2 10 rfl rfl)
theorem dX6_isEven_61 : decode cX6_isEven 61 = .ok (.iconst 0, 1) := dk_3 (dk_at dksX6_isEven_2 13 rfl rfl)
theorem dX6_isEven_62 : decode cX6_isEven 62 = .ok (.ireturn, 1) := dk_172 (dk_at dksX6_isEven_2 14 rfl rfl)
theorem q88 : (Jvm.Cond.initialized "ThirdSheets$Glue") ∈ lw_all := lw_g (lw_at lw_m1 7 rfl) rfl
theorem q251 : (Jvm.Cond.instantiable "ThirdSheets$Glue" (3 : Nat)) ∈ lw_all := lw_g (lw_at lw_m1 170 rfl) rfl
theorem q253 : (Jvm.Cond.instanceMethod ({ cls := "ThirdSheets$Glue", name := "<init>", desc := "(II[I)V" } : Jvm.MethodName)) ∈ lw_all := lw_g (lw_at lw_m1 172 rfl) rfl
theorem q254 : (Jvm.Cond.code ({ cls := "ThirdSheets$Glue", name := "<init>", desc := "(II[I)V" } : Jvm.MethodName) prog_5_method_1_code (4 : Nat) (Option.none : Option Jvm.ClassFile.FieldType)) ∈ lw_all := lw_g (lw_at lw_m1 173 rfl) rfl
theorem q255 : (Jvm.Cond.methodLink "ThirdSheets$Glue" (3 : Nat) ({ cls := "java/lang/Object", name := "<init>", desc := "()V" } : Jvm.MethodName)) ∈ lw_all := lw_g (lw_at lw_m1 174 rfl) rfl
theorem q256 : (Jvm.Cond.fieldLink "ThirdSheets$Glue" (9 : Nat) "ThirdSheets$Glue" "piece" "I") ∈ lw_all := lw_g (lw_at lw_m1 175 rfl) rfl
theorem q259 : (Jvm.Cond.fieldLink "ThirdSheets$Glue" (15 : Nat) "ThirdSheets$Glue" "side" "I") ∈ lw_all := lw_g (lw_at lw_m1 178 rfl) rfl
theorem q261 : (Jvm.Cond.fieldLink "ThirdSheets$Glue" (18 : Nat) "ThirdSheets$Glue" "to" "[I") ∈ lw_all := lw_g (lw_at lw_m1 180 rfl) rfl
theorem q266 : (Jvm.Cond.laysFinal "ThirdSheets$Glue" "ThirdSheets$Glue" "piece" "I") ∈ lw_all := lw_g (lw_at lw_m1 185 rfl) rfl
theorem q267 : (Jvm.Cond.soleField "ThirdSheets$Glue" "piece") ∈ lw_all := lw_g (lw_at lw_m1 186 rfl) rfl
theorem q268 : (Jvm.Cond.laysFinal "ThirdSheets$Glue" "ThirdSheets$Glue" "side" "I") ∈ lw_all := lw_g (lw_at lw_m1 187 rfl) rfl
theorem q269 : (Jvm.Cond.soleField "ThirdSheets$Glue" "side") ∈ lw_all := lw_g (lw_at lw_m1 188 rfl) rfl
theorem q270 : (Jvm.Cond.laysFinal "ThirdSheets$Glue" "ThirdSheets$Glue" "to" "[I") ∈ lw_all := lw_g (lw_at lw_m1 189 rfl) rfl
theorem q271 : (Jvm.Cond.soleField "ThirdSheets$Glue" "to") ∈ lw_all := lw_g (lw_at lw_m1 190 rfl) rfl
theorem q272 : (Jvm.Cond.superclass "ThirdSheets$Glue" "java/lang/Object") ∈ lw_all := lw_g (lw_at lw_m1 191 rfl) rfl
theorem q395 : (Jvm.Cond.instanceMethod ({ cls := "ThirdSheets$Glue", name := "isEven", desc := "()Z" } : Jvm.MethodName)) ∈ lw_all := lw_g (lw_at lw_m2 74 rfl) rfl
theorem q396 : (Jvm.Cond.selects "ThirdSheets$Glue" ({ cls := "ThirdSheets$Glue", name := "isEven", desc := "()Z" } : Jvm.MethodName) ({ cls := "ThirdSheets$Glue", name := "isEven", desc := "()Z" } : Jvm.MethodName)) ∈ lw_all := lw_g (lw_at lw_m2 75 rfl) rfl
theorem q397 : (Jvm.Cond.code ({ cls := "ThirdSheets$Glue", name := "isEven", desc := "()Z" } : Jvm.MethodName) prog_5_method_2_code (4 : Nat) (Option.some Jvm.ClassFile.FieldType.boolean)) ∈ lw_all := lw_g (lw_at lw_m2 76 rfl) rfl
theorem in_X6 : ∀ w ∈ wsX60, w ∈ lw_all := lw_in wsX60 [266, 268, 270] (by decide +kernel) (by decide +kernel)
