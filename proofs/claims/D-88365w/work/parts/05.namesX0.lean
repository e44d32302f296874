/-! ThirdSheets -/
set_option maxRecDepth 100000
def RX0 : String := "ThirdSheets"
def TX0 : u_T := fun k => match k with
  | 0 => ("ThirdSheets", "glues", "[[LThirdSheets$Glue;", true)
  | 1 => ("ThirdSheets", "pieces", "I", false)
  | 2 => ("ThirdSheets", "corners", "LThirdSheets$Corners;", true)
  | 3 => ("ThirdSheets", "edges", "LThirdSheets$Edges;", true)
  | 4 => ("ThirdSheets", "ends", "LThirdSheets$Ends;", true)
  | 5 => ("ThirdSheets", "isEven", "Z", false)
  | 6 => ("ThirdSheets", "rows", "[[J", true)
  | 7 => ("ThirdSheets", "forms", "[J", true)
  | 8 => ("ThirdSheets", "sheets", "[[J", false)
  | 9 => ("ThirdSheets", "sheetCount", "I", false)
  | 10 => ("ThirdSheets", "isKnown", "Z", false)
  | 11 => ("ThirdSheets", "list", "[[J", false)
  | 12 => ("ThirdSheets", "listCount", "I", false)
  | 13 => ("ThirdSheets", "sheet", "[I", true)
  | 14 => ("ThirdSheets", "begins", "[I", true)
  | 15 => ("ThirdSheets", "part", "[I", true)
  | 16 => ("ThirdSheets", "sign", "[I", true)
  | 17 => ("ThirdSheets", "line", "[I", true)
  | _ => ("ThirdSheets", "isOneSided", "[Z", true)
def tyX0 : Nat → FieldType := fun k => match k with
  | 0 => .array (.array (.object "ThirdSheets$Glue"))
  | 1 => .int
  | 2 => .object "ThirdSheets$Corners"
  | 3 => .object "ThirdSheets$Edges"
  | 4 => .object "ThirdSheets$Ends"
  | 5 => .boolean
  | 6 => .array (.array .long)
  | 7 => .array .long
  | 8 => .array (.array .long)
  | 9 => .int
  | 10 => .boolean
  | 11 => .array (.array .long)
  | 12 => .int
  | 13 => .array .int
  | 14 => .array .int
  | 15 => .array .int
  | 16 => .array .int
  | 17 => .array .int
  | _ => .array .boolean
abbrev wsX00 : List Cond := u_ws RX0 TX0 19
set_option maxRecDepth 100000 in
theorem nmX0 : ∀ a, a < 19 → ∀ b, b < 19 → a ≠ b → (TX0 a).2.1 ≠ (TX0 b).2.1 := by decide +kernel
set_option maxRecDepth 100000 in
theorem tyX0_ok : ∀ k, k < 19 → parseFieldDescriptor (TX0 k).2.2.1 = some (tyX0 k) := by decide +kernel
abbrev cX0_init : ByteArray := prog_1_method_1_code
def yX0_init : MethodName := ⟨RX0, "<init>", "()V"⟩
def dkwX0_init_5 : List UInt8 := [188, 10, 181, 0, 63, 42, 17, 1, 144, 188, 10, 181, 0, 66, 42, 17, 1, 144, 188, 4, 181, 0, 69, 177]
abbrev dktX0_init_5 : List UInt8 := dkwX0_init_5 ++ []
def dkwX0_init_4 : List UInt8 := [181, 0, 53, 42, 16, 22, 188, 10, 181, 0, 57, 42, 17, 1, 144, 188, 10, 181, 0, 60, 42, 17, 1, 144]
abbrev dktX0_init_4 : List UInt8 := dkwX0_init_4 ++ dktX0_init_5
def dkwX0_init_3 : List UInt8 := [16, 64, 189, 0, 46, 181, 0, 47, 42, 16, 64, 189, 0, 46, 181, 0, 50, 42, 16, 21, 188, 10]
abbrev dktX0_init_3 : List UInt8 := dkwX0_init_3 ++ dktX0_init_4
def dkwX0_init_2 : List UInt8 := [181, 0, 33, 42, 16, 18, 16, 6, 197, 0, 37, 2, 181, 0, 39, 42, 16, 6, 188, 11, 181, 0, 42, 42]
abbrev dktX0_init_2 : List UInt8 := dkwX0_init_2 ++ dktX0_init_3
def dkwX0_init_1 : List UInt8 := [181, 0, 19, 42, 187, 0, 23, 89, 42, 183, 0, 25, 181, 0, 26, 42, 187, 0, 30, 89, 42, 183, 0, 32]
abbrev dktX0_init_1 : List UInt8 := dkwX0_init_1 ++ dktX0_init_2
def dkwX0_init_0 : List UInt8 := [42, 183, 0, 3, 42, 6, 7, 197, 0, 9, 2, 181, 0, 11, 42, 187, 0, 14, 89, 42, 183, 0, 16]
abbrev dktX0_init_0 : List UInt8 := dkwX0_init_0 ++ dktX0_init_1
theorem dksX0_init_0 : cX0_init.data.toList.drop 0 = dktX0_init_0 := by decide +kernel
theorem dksX0_init_1 : cX0_init.data.toList.drop 23 = dktX0_init_1 := dk_seg dksX0_init_0 23 rfl rfl
theorem dksX0_init_2 : cX0_init.data.toList.drop 47 = dktX0_init_2 := dk_seg dksX0_init_1 24 rfl rfl
theorem dksX0_init_3 : cX0_init.data.toList.drop 71 = dktX0_init_3 := dk_seg dksX0_init_2 24 rfl rfl
theorem dksX0_init_4 : cX0_init.data.toList.drop 93 = dktX0_init_4 := dk_seg dksX0_init_3 22 rfl rfl
theorem dksX0_init_5 : cX0_init.data.toList.drop 117 = dktX0_init_5 := dk_seg dksX0_init_4 24 rfl rfl
theorem dX0_init_0 : decode cX0_init 0 = .ok (.aload_n 0, 1) := dk_42 (dk_at dksX0_init_0 0 rfl rfl)
theorem dX0_init_1 : decode cX0_init 1 = .ok (.invokespecial 3, 3) := dk_183 0 3 (dk_at dksX0_init_0 1 rfl rfl)
theorem dX0_init_4 : decode cX0_init 4 = .ok (.aload_n 0, 1) := dk_42 (dk_at dksX0_init_0 4 rfl rfl)
theorem dX0_init_5 : decode cX0_init 5 = .ok (.iconst 3, 1) := dk_6 (dk_at dksX0_init_0 5 rfl rfl)
theorem dX0_init_6 : decode cX0_init 6 = .ok (.iconst 4, 1) := dk_7 (dk_at dksX0_init_0 6 rfl rfl)
theorem dX0_init_7 : decode cX0_init 7 = .ok (.multianewarray 9 2, 4) := by decide +kernel
theorem dX0_init_11 : decode cX0_init 11 = .ok (.putfield 11, 3) := dk_181 0 11 (dk_at dksX0_init_0 11 rfl rfl)
theorem dX0_init_14 : decode cX0_init 14 = .ok (.aload_n 0, 1) := dk_42 (dk_at dksX0_init_0 14 rfl rfl)
theorem dX0_init_15 : decode cX0_init 15 = .ok (.new 14, 3) := dk_187 0 14 (dk_at dksX0_init_0 15 rfl rfl)
theorem dX0_init_18 : decode cX0_init 18 = .ok (.dup, 1) := dk_89 (dk_at dksX0_init_0 18 rfl rfl)
theorem dX0_init_19 : decode cX0_init 19 = .ok (.aload_n 0, 1) := dk_42 (dk_at dksX0_init_0 19 rfl rfl)
theorem dX0_init_20 : decode cX0_init 20 = .ok (.invokespecial 16, 3) := dk_183 0 16 (dk_at dksX0_init_0 20 rfl rfl)
theorem dX0_init_23 : decode cX0_init 23 = .ok (.putfield 19, 3) := dk_181 0 19 (dk_at dksX0_init_1 0 rfl rfl)
theorem dX0_init_26 : decode cX0_init 26 = .ok (.aload_n 0, 1) := dk_42 (dk_at dksX0_init_1 3 rfl rfl)
theorem dX0_init_27 : decode cX0_init 27 = .ok (.new 23, 3) := dk_187 0 23 (dk_at dksX0_init_1 4 rfl rfl)
theorem dX0_init_30 : decode cX0_init 30 = .ok (.dup, 1) := dk_89 (dk_at dksX0_init_1 7 rfl rfl)
theorem dX0_init_31 : decode cX0_init 31 = .ok (.aload_n 0, 1) := dk_42 (dk_at dksX0_init_1 8 rfl rfl)
theorem dX0_init_32 : decode cX0_init 32 = .ok (.invokespecial 25, 3) := dk_183 0 25 (dk_at dksX0_init_1 9 rfl rfl)
theorem dX0_init_35 : decode cX0_init 35 = .ok (.putfield 26, 3) := dk_181 0 26 (dk_at dksX0_init_1 12 rfl rfl)
theorem dX0_init_38 : decode cX0_init 38 = .ok (.aload_n 0, 1) := dk_42 (dk_at dksX0_init_1 15 rfl rfl)
theorem dX0_init_39 : decode cX0_init 39 = .ok (.new 30, 3) := dk_187 0 30 (dk_at dksX0_init_1 16 rfl rfl)
theorem dX0_init_42 : decode cX0_init 42 = .ok (.dup, 1) := dk_89 (dk_at dksX0_init_1 19 rfl rfl)
theorem dX0_init_43 : decode cX0_init 43 = .ok (.aload_n 0, 1) := dk_42 (dk_at dksX0_init_1 20 rfl rfl)
theorem dX0_init_44 : decode cX0_init 44 = .ok (.invokespecial 32, 3) := dk_183 0 32 (dk_at dksX0_init_1 21 rfl rfl)
theorem dX0_init_47 : decode cX0_init 47 = .ok (.putfield 33, 3) := dk_181 0 33 (dk_at dksX0_init_2 0 rfl rfl)
theorem dX0_init_50 : decode cX0_init 50 = .ok (.aload_n 0, 1) := dk_42 (dk_at dksX0_init_2 3 rfl rfl)
theorem dX0_init_51 : decode cX0_init 51 = .ok (.bipush 18, 2) := dk_16 18 (dk_at dksX0_init_2 4 rfl rfl)
theorem dX0_init_53 : decode cX0_init 53 = .ok (.bipush 6, 2) := dk_16 6 (dk_at dksX0_init_2 6 rfl rfl)
theorem dX0_init_55 : decode cX0_init 55 = .ok (.multianewarray 37 2, 4) := by decide +kernel
theorem dX0_init_59 : decode cX0_init 59 = .ok (.putfield 39, 3) := dk_181 0 39 (dk_at dksX0_init_2 12 rfl rfl)
theorem dX0_init_62 : decode cX0_init 62 = .ok (.aload_n 0, 1) := dk_42 (dk_at dksX0_init_2 15 rfl rfl)
theorem dX0_init_63 : decode cX0_init 63 = .ok (.bipush 6, 2) := dk_16 6 (dk_at dksX0_init_2 16 rfl rfl)
theorem dX0_init_65 : decode cX0_init 65 = .ok (.newarray .long, 2) := dk_188_11 (dk_at dksX0_init_2 18 rfl rfl)
theorem dX0_init_67 : decode cX0_init 67 = .ok (.putfield 42, 3) := dk_181 0 42 (dk_at dksX0_init_2 20 rfl rfl)
theorem dX0_init_70 : decode cX0_init 70 = .ok (.aload_n 0, 1) := dk_42 (dk_at dksX0_init_2 23 rfl rfl)
theorem dX0_init_71 : decode cX0_init 71 = .ok (.bipush 64, 2) := dk_16 64 (dk_at dksX0_init_3 0 rfl rfl)
theorem dX0_init_73 : decode cX0_init 73 = .ok (.anewarray 46, 3) := dk_189 0 46 (dk_at dksX0_init_3 2 rfl rfl)
theorem dX0_init_76 : decode cX0_init 76 = .ok (.putfield 47, 3) := dk_181 0 47 (dk_at dksX0_init_3 5 rfl rfl)
theorem dX0_init_79 : decode cX0_init 79 = .ok (.aload_n 0, 1) := dk_42 (dk_at dksX0_init_3 8 rfl rfl)
theorem dX0_init_80 : decode cX0_init 80 = .ok (.bipush 64, 2) := dk_16 64 (dk_at dksX0_init_3 9 rfl rfl)
theorem dX0_init_82 : decode cX0_init 82 = .ok (.anewarray 46, 3) := dk_189 0 46 (dk_at dksX0_init_3 11 rfl rfl)
theorem dX0_init_85 : decode cX0_init 85 = .ok (.putfield 50, 3) := dk_181 0 50 (dk_at dksX0_init_3 14 rfl rfl)
theorem dX0_init_88 : decode cX0_init 88 = .ok (.aload_n 0, 1) := dk_42 (dk_at dksX0_init_3 17 rfl rfl)
theorem dX0_init_89 : decode cX0_init 89 = .ok (.bipush 21, 2) := dk_16 21 (dk_at dksX0_init_3 18 rfl rfl)
theorem dX0_init_91 : decode cX0_init 91 = .ok (.newarray .int, 2) := dk_188_10 (dk_at dksX0_init_3 20 rfl rfl)
theorem dX0_init_93 : decode cX0_init 93 = .ok (.putfield 53, 3) := dk_181 0 53 (dk_at dksX0_init_4 0 rfl rfl)
theorem dX0_init_96 : decode cX0_init 96 = .ok (.aload_n 0, 1) := dk_42 (dk_at dksX0_init_4 3 rfl rfl)
theorem dX0_init_97 : decode cX0_init 97 = .ok (.bipush 22, 2) := dk_16 22 (dk_at dksX0_init_4 4 rfl rfl)
theorem dX0_init_99 : decode cX0_init 99 = .ok (.newarray .int, 2) := dk_188_10 (dk_at dksX0_init_4 6 rfl rfl)
theorem dX0_init_101 : decode cX0_init 101 = .ok (.putfield 57, 3) := dk_181 0 57 (dk_at dksX0_init_4 8 rfl rfl)
theorem dX0_init_104 : decode cX0_init 104 = .ok (.aload_n 0, 1) := dk_42 (dk_at dksX0_init_4 11 rfl rfl)
theorem dX0_init_105 : decode cX0_init 105 = .ok (.sipush 400, 3) := dk_17 1 144 (dk_at dksX0_init_4 12 rfl rfl)
theorem dX0_init_108 : decode cX0_init 108 = .ok (.newarray .int, 2) := dk_188_10 (dk_at dksX0_init_4 15 rfl rfl)
theorem dX0_init_110 : decode cX0_init 110 = .ok (.putfield 60, 3) := dk_181 0 60 (dk_at dksX0_init_4 17 rfl rfl)
theorem dX0_init_113 : decode cX0_init 113 = .ok (.aload_n 0, 1) := dk_42 (dk_at dksX0_init_4 20 rfl rfl)
theorem dX0_init_114 : decode cX0_init 114 = .ok (.sipush 400, 3) := dk_17 1 144 (dk_at dksX0_init_4 21 rfl rfl)
theorem dX0_init_117 : decode cX0_init 117 = .ok (.newarray .int, 2) := dk_188_10 (dk_at dksX0_init_5 0 rfl rfl)
theorem dX0_init_119 : decode cX0_init 119 = .ok (.putfield 63, 3) := dk_181 0 63 (dk_at dksX0_init_5 2 rfl rfl)
theorem dX0_init_122 : decode cX0_init 122 = .ok (.aload_n 0, 1) := dk_42 (dk_at dksX0_init_5 5 rfl rfl)
theorem dX0_init_123 : decode cX0_init 123 = .ok (.sipush 400, 3) := dk_17 1 144 (dk_at dksX0_init_5 6 rfl rfl)
theorem dX0_init_126 : decode cX0_init 126 = .ok (.newarray .int, 2) := dk_188_10 (dk_at dksX0_init_5 9 rfl rfl)
theorem dX0_init_128 : decode cX0_init 128 = .ok (.putfield 66, 3) := dk_181 0 66 (dk_at dksX0_init_5 11 rfl rfl)
theorem dX0_init_131 : decode cX0_init 131 = .ok (.aload_n 0, 1) := dk_42 (dk_at dksX0_init_5 14 rfl rfl)
theorem dX0_init_132 : decode cX0_init 132 = .ok (.sipush 400, 3) := dk_17 1 144 (dk_at dksX0_init_5 15 rfl rfl)
theorem dX0_init_135 : decode cX0_init 135 = .ok (.newarray .boolean, 2) := dk_188_4 (dk_at dksX0_init_5 18 rfl rfl)
theorem dX0_init_137 : decode cX0_init 137 = .ok (.putfield 69, 3) := dk_181 0 69 (dk_at dksX0_init_5 20 rfl rfl)
theorem dX0_init_140 : decode cX0_init 140 = .ok (.return_, 1) := dk_177 (dk_at dksX0_init_5 23 rfl rfl)
abbrev cX0_piece : ByteArray := prog_1_method_6_code
def yX0_piece : MethodName := ⟨RX0, "piece", "()I"⟩
def dkwX0_piece_2 : List UInt8 := [182, 0, 93, 60, 42, 182, 0, 97, 42, 180, 0, 73, 4, 100, 172]
abbrev dktX0_piece_2 : List UInt8 := dkwX0_piece_2 ++ []
def dkwX0_piece_1 : List UInt8 := [180, 0, 73, 50, 27, 1, 83, 132, 1, 1, 167, 255, 236, 42, 89, 180, 0, 73, 4, 96, 181, 0, 73, 42]
abbrev dktX0_piece_1 : List UInt8 := dkwX0_piece_1 ++ dktX0_piece_2
def dkwX0_piece_0 : List UInt8 := [42, 180, 0, 73, 6, 160, 0, 6, 16, 252, 172, 3, 60, 27, 7, 162, 0, 21, 42, 180, 0, 11, 42]
abbrev dktX0_piece_0 : List UInt8 := dkwX0_piece_0 ++ dktX0_piece_1
theorem dksX0_piece_0 : cX0_piece.data.toList.drop 0 = dktX0_piece_0 := by decide +kernel
theorem dksX0_piece_1 : cX0_piece.data.toList.drop 23 = dktX0_piece_1 := dk_seg dksX0_piece_0 23 rfl rfl
theorem dksX0_piece_2 : cX0_piece.data.toList.drop 47 = dktX0_piece_2 := dk_seg dksX0_piece_1 24 rfl rfl
theorem dX0_piece_0 : decode cX0_piece 0 = .ok (.aload_n 0, 1) := dk_42 (dk_at dksX0_piece_0 0 rfl rfl)
theorem dX0_piece_1 : decode cX0_piece 1 = .ok (.getfield 73, 3) := dk_180 0 73 (dk_at dksX0_piece_0 1 rfl rfl)
theorem dX0_piece_4 : decode cX0_piece 4 = .ok (.iconst 3, 1) := dk_6 (dk_at dksX0_piece_0 4 rfl rfl)
theorem dX0_piece_5 : decode cX0_piece 5 = .ok (.if_icmp .ne 6, 3) := dk_160 0 6 (dk_at dksX0_piece_0 5 rfl rfl)
theorem dX0_piece_8 : decode cX0_piece 8 = .ok (.bipush (-4), 2) := dk_16 252 (dk_at dksX0_piece_0 8 rfl rfl)
theorem dX0_piece_10 : decode cX0_piece 10 = .ok (.ireturn, 1) := dk_172 (dk_at dksX0_piece_0 10 rfl rfl)
theorem dX0_piece_11 : decode cX0_piece 11 = .ok (.iconst 0, 1) := dk_3 (dk_at dksX0_piece_0 11 rfl rfl)
theorem dX0_piece_12 : decode cX0_piece 12 = .ok (.istore_n 1, 1) := dk_60 (dk_at dksX0_piece_0 12 rfl rfl)
theorem dX0_piece_13 : decode cX0_piece 13 = .ok (.iload_n 1, 1) := dk_27 (dk_at dksX0_piece_0 13 rfl rfl)
theorem dX0_piece_14 : decode cX0_piece 14 = .ok (.iconst 4, 1) := dk_7 (dk_at dksX0_piece_0 14 rfl rfl)
theorem dX0_piece_15 : decode cX0_piece 15 = .ok (.if_icmp .ge 21, 3) := dk_162 0 21 (dk_at dksX0_piece_0 15 rfl rfl)
theorem dX0_piece_18 : decode cX0_piece 18 = .ok (.aload_n 0, 1) := dk_42 (dk_at dksX0_piece_0 18 rfl rfl)
theorem dX0_piece_19 : decode cX0_piece 19 = .ok (.getfield 11, 3) := dk_180 0 11 (dk_at dksX0_piece_0 19 rfl rfl)
theorem dX0_piece_22 : decode cX0_piece 22 = .ok (.aload_n 0, 1) := dk_42 (dk_at dksX0_piece_0 22 rfl rfl)
theorem dX0_piece_23 : decode cX0_piece 23 = .ok (.getfield 73, 3) := dk_180 0 73 (dk_at dksX0_piece_1 0 rfl rfl)
theorem dX0_piece_26 : decode cX0_piece 26 = .ok (.aaload, 1) := dk_50 (dk_at dksX0_piece_1 3 rfl rfl)
theorem dX0_piece_27 : decode cX0_piece 27 = .ok (.iload_n 1, 1) := dk_27 (dk_at dksX0_piece_1 4 rfl rfl)
theorem dX0_piece_28 : decode cX0_piece 28 = .ok (.aconst_null, 1) := dk_1 (dk_at dksX0_piece_1 5 rfl rfl)
theorem dX0_piece_29 : decode cX0_piece 29 = .ok (.aastore, 1) := dk_83 (dk_at dksX0_piece_1 6 rfl rfl)
theorem dX0_piece_30 : decode cX0_piece 30 = .ok (.iinc 1 1, 3) := dk_132 1 1 (dk_at dksX0_piece_1 7 rfl rfl)
theorem dX0_piece_33 : decode cX0_piece 33 = .ok (.goto (-20), 3) := dk_167 255 236 (dk_at dksX0_piece_1 10 rfl rfl)
theorem dX0_piece_36 : decode cX0_piece 36 = .ok (.aload_n 0, 1) := dk_42 (dk_at dksX0_piece_1 13 rfl rfl)
theorem dX0_piece_37 : decode cX0_piece 37 = .ok (.dup, 1) := dk_89 (dk_at dksX0_piece_1 14 rfl rfl)
theorem dX0_piece_38 : decode cX0_piece 38 = .ok (.getfield 73, 3) := dk_180 0 73 (dk_at dksX0_piece_1 15 rfl rfl)
theorem dX0_piece_41 : decode cX0_piece 41 = .ok (.iconst 1, 1) := dk_4 (dk_at dksX0_piece_1 18 rfl rfl)
theorem dX0_piece_42 : decode cX0_piece 42 = .ok (.iadd, 1) := dk_96 (dk_at dksX0_piece_1 19 rfl rfl)
theorem dX0_piece_43 : decode cX0_piece 43 = .ok (.putfield 73, 3) := dk_181 0 73 (dk_at dksX0_piece_1 20 rfl rfl)
theorem dX0_piece_46 : decode cX0_piece 46 = .ok (.aload_n 0, 1) := dk_42 (dk_at dksX0_piece_1 23 rfl rfl)
theorem dX0_piece_47 : decode cX0_piece 47 = .ok (.invokevirtual 93, 3) := dk_182 0 93 (dk_at dksX0_piece_2 0 rfl rfl)
theorem dX0_piece_50 : decode cX0_piece 50 = .ok (.istore_n 1, 1) := dk_60 (dk_at dksX0_piece_2 3 rfl rfl)
theorem dX0_piece_51 : decode cX0_piece 51 = .ok (.aload_n 0, 1) := dk_42 (dk_at dksX0_piece_2 4 rfl rfl)
theorem dX0_piece_52 : decode cX0_piece 52 = .ok (.invokevirtual 97, 3) := dk_182 0 97 (dk_at dksX0_piece_2 5 rfl rfl)
theorem dX0_piece_55 : decode cX0_piece 55 = .ok (.aload_n 0, 1) := dk_42 (dk_at dksX0_piece_2 8 rfl rfl)
theorem dX0_piece_56 : decode cX0_piece 56 = .ok (.getfield 73, 3) := dk_180 0 73 (dk_at dksX0_piece_2 9 rfl rfl)
theorem dX0_piece_59 : decode cX0_piece 59 = .ok (.iconst 1, 1) := dk_4 (dk_at dksX0_piece_2 12 rfl rfl)
theorem dX0_piece_60 : decode cX0_piece 60 = .ok (.isub, 1) := dk_100 (dk_at dksX0_piece_2 13 rfl rfl)
theorem dX0_piece_61 : decode cX0_piece 61 = .ok (.ireturn, 1) := dk_172 (dk_at dksX0_piece_2 14 rfl rfl)
abbrev cX0_drop : ByteArray := prog_1_method_45_code
def yX0_drop : MethodName := ⟨RX0, "drop", "()I"⟩
def dkwX0_drop_1 : List UInt8 := [167, 0, 4, 3, 96, 60, 42, 180, 0, 53, 28, 3, 79, 132, 2, 1, 167, 255, 220, 27, 172]
abbrev dktX0_drop_1 : List UInt8 := dkwX0_drop_1 ++ []
def dkwX0_drop_0 : List UInt8 := [3, 60, 3, 61, 28, 42, 180, 0, 53, 190, 162, 0, 33, 27, 42, 180, 0, 53, 28, 46, 153, 0, 7, 4]
abbrev dktX0_drop_0 : List UInt8 := dkwX0_drop_0 ++ dktX0_drop_1
theorem dksX0_drop_0 : cX0_drop.data.toList.drop 0 = dktX0_drop_0 := by decide +kernel
theorem dksX0_drop_1 : cX0_drop.data.toList.drop 24 = dktX0_drop_1 := dk_seg dksX0_drop_0 24 rfl rfl
theorem dX0_drop_0 : decode cX0_drop 0 = .ok (.iconst 0, 1) := dk_3 (dk_at dksX0_drop_0 0 rfl rfl)
theorem dX0_drop_1 : decode cX0_drop 1 = .ok (.istore_n 1, 1) := dk_60 (dk_at dksX0_drop_0 1 rfl rfl)
theorem dX0_drop_2 : decode cX0_drop 2 = .ok (.iconst 0, 1) := dk_3 (dk_at dksX0_drop_0 2 rfl rfl)
theorem dX0_drop_3 : decode cX0_drop 3 = .ok (.istore_n 2, 1) := dk_61 (dk_at dksX0_drop_0 3 rfl rfl)
theorem dX0_drop_4 : decode cX0_drop 4 = .ok (.iload_n 2, 1) := dk_28 (dk_at dksX0_drop_0 4 rfl rfl)
theorem dX0_drop_5 : decode cX0_drop 5 = .ok (.aload_n 0, 1) := dk_42 (dk_at dksX0_drop_0 5 rfl rfl)
theorem dX0_drop_6 : decode cX0_drop 6 = .ok (.getfield 53, 3) := dk_180 0 53 (dk_at dksX0_drop_0 6 rfl rfl)
theorem dX0_drop_9 : decode cX0_drop 9 = .ok (.arraylength, 1) := dk_190 (dk_at dksX0_drop_0 9 rfl rfl)
theorem dX0_drop_10 : decode cX0_drop 10 = .ok (.if_icmp .ge 33, 3) := dk_162 0 33 (dk_at dksX0_drop_0 10 rfl rfl)
theorem dX0_drop_13 : decode cX0_drop 13 = .ok (.iload_n 1, 1) := dk_27 (dk_at dksX0_drop_0 13 rfl rfl)
theorem dX0_drop_14 : decode cX0_drop 14 = .ok (.aload_n 0, 1) := dk_42 (dk_at dksX0_drop_0 14 rfl rfl)
theorem dX0_drop_15 : decode cX0_drop 15 = .ok (.getfield 53, 3) := dk_180 0 53 (dk_at dksX0_drop_0 15 rfl rfl)
theorem dX0_drop_18 : decode cX0_drop 18 = .ok (.iload_n 2, 1) := dk_28 (dk_at dksX0_drop_0 18 rfl rfl)
theorem dX0_drop_19 : decode cX0_drop 19 = .ok (.iaload, 1) := dk_46 (dk_at dksX0_drop_0 19 rfl rfl)
theorem dX0_drop_20 : decode cX0_drop 20 = .ok (.ifCond .eq 7, 3) := dk_153 0 7 (dk_at dksX0_drop_0 20 rfl rfl)
theorem dX0_drop_23 : decode cX0_drop 23 = .ok (.iconst 1, 1) := dk_4 (dk_at dksX0_drop_0 23 rfl rfl)
theorem dX0_drop_24 : decode cX0_drop 24 = .ok (.goto 4, 3) := dk_167 0 4 (dk_at dksX0_drop_1 0 rfl rfl)
theorem dX0_drop_27 : decode cX0_drop 27 = .ok (.iconst 0, 1) := dk_3 (dk_at dksX0_drop_1 3 rfl rfl)
theorem dX0_drop_28 : decode cX0_drop 28 = .ok (.iadd, 1) := dk_96 (dk_at dksX0_drop_1 4 rfl rfl)
theorem dX0_drop_29 : decode cX0_drop 29 = .ok (.istore_n 1, 1) := dk_60 (dk_at dksX0_drop_1 5 rfl rfl)
theorem dX0_drop_30 : decode cX0_drop 30 = .ok (.aload_n 0, 1) := dk_42 (dk_at dksX0_drop_1 6 rfl rfl)
theorem dX0_drop_31 : decode cX0_drop 31 = .ok (.getfield 53, 3) := dk_180 0 53 (dk_at dksX0_drop_1 7 rfl rfl)
theorem dX0_drop_34 : decode cX0_drop 34 = .ok (.iload_n 2, 1) := dk_28 (dk_at dksX0_drop_1 10 rfl rfl)
theorem dX0_drop_35 : decode cX0_drop 35 = .ok (.iconst 0, 1) := dk_3 (dk_at dksX0_drop_1 11 rfl rfl)
theorem dX0_drop_36 : decode cX0_drop 36 = .ok (.iastore, 1) := dk_79 (dk_at dksX0_drop_1 12 rfl rfl)
theorem dX0_drop_37 : decode cX0_drop 37 = .ok (.iinc 2 1, 3) := dk_132 2 1 (dk_at dksX0_drop_1 13 rfl rfl)
theorem dX0_drop_40 : decode cX0_drop 40 = .ok (.goto (-36), 3) := dk_167 255 220 (dk_at dksX0_drop_1 16 rfl rfl)
theorem dX0_drop_43 : decode cX0_drop 43 = .ok (.iload_n 1, 1) := dk_27 (dk_at dksX0_drop_1 19 rfl rfl)
theorem dX0_drop_44 : decode cX0_drop 44 = .ok (.ireturn, 1) := dk_172 (dk_at dksX0_drop_1 20 rfl rfl)
abbrev cX0_changed : ByteArray := prog_1_method_7_code
def yX0_changed : MethodName := ⟨RX0, "changed", "()V"⟩
def dkwX0_changed_0 : List UInt8 := [42, 3, 181, 0, 100, 177]
abbrev dktX0_changed_0 : List UInt8 := dkwX0_changed_0 ++ []
theorem dksX0_changed_0 : cX0_changed.data.toList.drop 0 = dktX0_changed_0 := by decide +kernel
theorem dX0_changed_0 : decode cX0_changed 0 = .ok (.aload_n 0, 1) := dk_42 (dk_at dksX0_changed_0 0 rfl rfl)
theorem dX0_changed_1 : decode cX0_changed 1 = .ok (.iconst 0, 1) := dk_3 (dk_at dksX0_changed_0 1 rfl rfl)
theorem dX0_changed_2 : decode cX0_changed 2 = .ok (.putfield 100, 3) := dk_181 0 100 (dk_at dksX0_changed_0 2 rfl rfl)
theorem dX0_changed_5 : decode cX0_changed 5 = .ok (.return_, 1) := dk_177 (dk_at dksX0_changed_0 5 rfl rfl)
abbrev cX0_glue : ByteArray := prog_1_method_8_code
def yX0_glue : MethodName := ⟨RX0, "glue", "(IIIII)I"⟩
def dkwX0_glue_10 : List UInt8 := [183, 0, 113, 83, 42, 182, 0, 97, 4, 172]
abbrev dktX0_glue_10 : List UInt8 := dkwX0_glue_10 ++ []
def dkwX0_glue_9 : List UInt8 := [21, 4, 25, 6, 183, 0, 113, 83, 42, 180, 0, 11, 29, 50, 21, 4, 187, 0, 111, 89, 27, 28, 25, 7]
abbrev dktX0_glue_9 : List UInt8 := dkwX0_glue_9 ++ dktX0_glue_10
def dkwX0_glue_8 : List UInt8 := [29, 50, 21, 4, 50, 198, 0, 6, 16, 253, 172, 42, 180, 0, 11, 27, 50, 28, 187, 0, 111, 89, 29]
abbrev dktX0_glue_8 : List UInt8 := dkwX0_glue_8 ++ dktX0_glue_9
def dkwX0_glue_7 : List UInt8 := [21, 10, 79, 132, 10, 1, 167, 255, 166, 42, 180, 0, 11, 27, 50, 28, 50, 199, 0, 15, 42, 180, 0, 11]
abbrev dktX0_glue_7 : List UInt8 := dkwX0_glue_7 ++ dktX0_glue_8
def dkwX0_glue_6 : List UInt8 := [16, 254, 172, 21, 8, 4, 21, 11, 120, 128, 54, 8, 25, 6, 21, 10, 21, 11, 79, 25, 7, 21, 11]
abbrev dktX0_glue_6 : List UInt8 := dkwX0_glue_6 ++ dktX0_glue_7
def dkwX0_glue_5 : List UInt8 := [167, 0, 4, 4, 96, 54, 9, 21, 10, 28, 159, 0, 17, 21, 8, 21, 11, 122, 4, 126, 4, 160, 0, 6]
abbrev dktX0_glue_5 : List UInt8 := dkwX0_glue_5 ++ dktX0_glue_6
def dkwX0_glue_4 : List UInt8 := [167, 0, 12, 21, 5, 5, 21, 9, 104, 122, 6, 126, 54, 11, 21, 9, 21, 10, 28, 160, 0, 7, 3]
abbrev dktX0_glue_4 : List UInt8 := dkwX0_glue_4 ++ dktX0_glue_5
def dkwX0_glue_3 : List UInt8 := [54, 8, 3, 54, 9, 3, 54, 10, 21, 10, 7, 162, 0, 90, 21, 10, 28, 160, 0, 8, 21, 4]
abbrev dktX0_glue_3 : List UInt8 := dkwX0_glue_3 ++ dktX0_glue_4
def dkwX0_glue_2 : List UInt8 := [184, 0, 77, 154, 0, 6, 16, 254, 172, 7, 188, 10, 58, 6, 7, 188, 10, 58, 7, 4, 21, 4, 120]
abbrev dktX0_glue_2 : List UInt8 := dkwX0_glue_2 ++ dktX0_glue_3
def dkwX0_glue_1 : List UInt8 := [21, 4, 184, 0, 108, 153, 0, 25, 27, 29, 160, 0, 9, 28, 21, 4, 159, 0, 14, 21, 5, 3, 16, 63]
abbrev dktX0_glue_1 : List UInt8 := dkwX0_glue_1 ++ dktX0_glue_2
def dkwX0_glue_0 : List UInt8 := [42, 27, 182, 0, 104, 153, 0, 48, 28, 184, 0, 108, 153, 0, 41, 42, 29, 182, 0, 104, 153, 0, 33]
abbrev dktX0_glue_0 : List UInt8 := dkwX0_glue_0 ++ dktX0_glue_1
theorem dksX0_glue_0 : cX0_glue.data.toList.drop 0 = dktX0_glue_0 := by decide +kernel
theorem dksX0_glue_1 : cX0_glue.data.toList.drop 23 = dktX0_glue_1 := dk_seg dksX0_glue_0 23 rfl rfl
theorem dksX0_glue_2 : cX0_glue.data.toList.drop 47 = dktX0_glue_2 := dk_seg dksX0_glue_1 24 rfl rfl
theorem dksX0_glue_3 : cX0_glue.data.toList.drop 70 = dktX0_glue_3 := dk_seg dksX0_glue_2 23 rfl rfl
theorem dksX0_glue_4 : cX0_glue.data.toList.drop 92 = dktX0_glue_4 := dk_seg dksX0_glue_3 22 rfl rfl
theorem dksX0_glue_5 : cX0_glue.data.toList.drop 115 = dktX0_glue_5 := dk_seg dksX0_glue_4 23 rfl rfl
theorem dksX0_glue_6 : cX0_glue.data.toList.drop 139 = dktX0_glue_6 := dk_seg dksX0_glue_5 24 rfl rfl
theorem dksX0_glue_7 : cX0_glue.data.toList.drop 162 = dktX0_glue_7 := dk_seg dksX0_glue_6 23 rfl rfl
theorem dksX0_glue_8 : cX0_glue.data.toList.drop 186 = dktX0_glue_8 := dk_seg dksX0_glue_7 24 rfl rfl
theorem dksX0_glue_9 : cX0_glue.data.toList.drop 209 = dktX0_glue_9 := dk_seg dksX0_glue_8 23 rfl rfl
theorem dksX0_glue_10 : cX0_glue.data.toList.drop 233 = dktX0_glue_10 := dk_seg dksX0_glue_9 24 rfl rfl
theorem dX0_glue_0 : decode cX0_glue 0 = .ok (.aload_n 0, 1) := dk_42 (dk_at dksX0_glue_0 0 rfl rfl)
theorem dX0_glue_1 : decode cX0_glue 1 = .ok (.iload_n 1, 1) := dk_27 (dk_at dksX0_glue_0 1 rfl rfl)
theorem dX0_glue_2 : decode cX0_glue 2 = .ok (.invokevirtual 104, 3) := dk_182 0 104 (dk_at dksX0_glue_0 2 rfl rfl)
theorem dX0_glue_5 : decode cX0_glue 5 = .ok (.ifCond .eq 48, 3) := dk_153 0 48 (dk_at dksX0_glue_0 5 rfl rfl)
theorem dX0_glue_8 : decode cX0_glue 8 = .ok (.iload_n 2, 1) := dk_28 (dk_at dksX0_glue_0 8 rfl rfl)
theorem dX0_glue_9 : decode cX0_glue 9 = .ok (.invokestatic 108, 3) := dk_184 0 108 (dk_at dksX0_glue_0 9 rfl rfl)
theorem dX0_glue_12 : decode cX0_glue 12 = .ok (.ifCond .eq 41, 3) := dk_153 0 41 (dk_at dksX0_glue_0 12 rfl rfl)
theorem dX0_glue_15 : decode cX0_glue 15 = .ok (.aload_n 0, 1) := dk_42 (dk_at dksX0_glue_0 15 rfl rfl)
theorem dX0_glue_16 : decode cX0_glue 16 = .ok (.iload_n 3, 1) := dk_29 (dk_at dksX0_glue_0 16 rfl rfl)
theorem dX0_glue_17 : decode cX0_glue 17 = .ok (.invokevirtual 104, 3) := dk_182 0 104 (dk_at dksX0_glue_0 17 rfl rfl)
theorem dX0_glue_20 : decode cX0_glue 20 = .ok (.ifCond .eq 33, 3) := dk_153 0 33 (dk_at dksX0_glue_0 20 rfl rfl)
theorem dX0_glue_23 : decode cX0_glue 23 = .ok (.iload 4, 2) := dk_21 4 (dk_at dksX0_glue_1 0 rfl rfl)
theorem dX0_glue_25 : decode cX0_glue 25 = .ok (.invokestatic 108, 3) := dk_184 0 108 (dk_at dksX0_glue_1 2 rfl rfl)
theorem dX0_glue_28 : decode cX0_glue 28 = .ok (.ifCond .eq 25, 3) := dk_153 0 25 (dk_at dksX0_glue_1 5 rfl rfl)
theorem dX0_glue_31 : decode cX0_glue 31 = .ok (.iload_n 1, 1) := dk_27 (dk_at dksX0_glue_1 8 rfl rfl)
theorem dX0_glue_32 : decode cX0_glue 32 = .ok (.iload_n 3, 1) := dk_29 (dk_at dksX0_glue_1 9 rfl rfl)
theorem dX0_glue_33 : decode cX0_glue 33 = .ok (.if_icmp .ne 9, 3) := dk_160 0 9 (dk_at dksX0_glue_1 10 rfl rfl)
theorem dX0_glue_36 : decode cX0_glue 36 = .ok (.iload_n 2, 1) := dk_28 (dk_at dksX0_glue_1 13 rfl rfl)
theorem dX0_glue_37 : decode cX0_glue 37 = .ok (.iload 4, 2) := dk_21 4 (dk_at dksX0_glue_1 14 rfl rfl)
theorem dX0_glue_39 : decode cX0_glue 39 = .ok (.if_icmp .eq 14, 3) := dk_159 0 14 (dk_at dksX0_glue_1 16 rfl rfl)
theorem dX0_glue_42 : decode cX0_glue 42 = .ok (.iload 5, 2) := dk_21 5 (dk_at dksX0_glue_1 19 rfl rfl)
theorem dX0_glue_44 : decode cX0_glue 44 = .ok (.iconst 0, 1) := dk_3 (dk_at dksX0_glue_1 21 rfl rfl)
theorem dX0_glue_45 : decode cX0_glue 45 = .ok (.bipush 63, 2) := dk_16 63 (dk_at dksX0_glue_1 22 rfl rfl)
theorem dX0_glue_47 : decode cX0_glue 47 = .ok (.invokestatic 77, 3) := dk_184 0 77 (dk_at dksX0_glue_2 0 rfl rfl)
theorem dX0_glue_50 : decode cX0_glue 50 = .ok (.ifCond .ne 6, 3) := dk_154 0 6 (dk_at dksX0_glue_2 3 rfl rfl)
theorem dX0_glue_53 : decode cX0_glue 53 = .ok (.bipush (-2), 2) := dk_16 254 (dk_at dksX0_glue_2 6 rfl rfl)
theorem dX0_glue_55 : decode cX0_glue 55 = .ok (.ireturn, 1) := dk_172 (dk_at dksX0_glue_2 8 rfl rfl)
theorem dX0_glue_56 : decode cX0_glue 56 = .ok (.iconst 4, 1) := dk_7 (dk_at dksX0_glue_2 9 rfl rfl)
theorem dX0_glue_57 : decode cX0_glue 57 = .ok (.newarray .int, 2) := dk_188_10 (dk_at dksX0_glue_2 10 rfl rfl)
theorem dX0_glue_59 : decode cX0_glue 59 = .ok (.astore 6, 2) := dk_58 6 (dk_at dksX0_glue_2 12 rfl rfl)
theorem dX0_glue_61 : decode cX0_glue 61 = .ok (.iconst 4, 1) := dk_7 (dk_at dksX0_glue_2 14 rfl rfl)
theorem dX0_glue_62 : decode cX0_glue 62 = .ok (.newarray .int, 2) := dk_188_10 (dk_at dksX0_glue_2 15 rfl rfl)
theorem dX0_glue_64 : decode cX0_glue 64 = .ok (.astore 7, 2) := dk_58 7 (dk_at dksX0_glue_2 17 rfl rfl)
theorem dX0_glue_66 : decode cX0_glue 66 = .ok (.iconst 1, 1) := dk_4 (dk_at dksX0_glue_2 19 rfl rfl)
theorem dX0_glue_67 : decode cX0_glue 67 = .ok (.iload 4, 2) := dk_21 4 (dk_at dksX0_glue_2 20 rfl rfl)
theorem dX0_glue_69 : decode cX0_glue 69 = .ok (.ishl, 1) := dk_120 (dk_at dksX0_glue_2 22 rfl rfl)
theorem dX0_glue_70 : decode cX0_glue 70 = .ok (.istore 8, 2) := dk_54 8 (dk_at dksX0_glue_3 0 rfl rfl)
theorem dX0_glue_72 : decode cX0_glue 72 = .ok (.iconst 0, 1) := dk_3 (dk_at dksX0_glue_3 2 rfl rfl)
theorem dX0_glue_73 : decode cX0_glue 73 = .ok (.istore 9, 2) := dk_54 9 (dk_at dksX0_glue_3 3 rfl rfl)
theorem dX0_glue_75 : decode cX0_glue 75 = .ok (.iconst 0, 1) := dk_3 (dk_at dksX0_glue_3 5 rfl rfl)
theorem dX0_glue_76 : decode cX0_glue 76 = .ok (.istore 10, 2) := dk_54 10 (dk_at dksX0_glue_3 6 rfl rfl)
theorem dX0_glue_78 : decode cX0_glue 78 = .ok (.iload 10, 2) := dk_21 10 (dk_at dksX0_glue_3 8 rfl rfl)
theorem dX0_glue_80 : decode cX0_glue 80 = .ok (.iconst 4, 1) := dk_7 (dk_at dksX0_glue_3 10 rfl rfl)
theorem dX0_glue_81 : decode cX0_glue 81 = .ok (.if_icmp .ge 90, 3) := dk_162 0 90 (dk_at dksX0_glue_3 11 rfl rfl)
theorem dX0_glue_84 : decode cX0_glue 84 = .ok (.iload 10, 2) := dk_21 10 (dk_at dksX0_glue_3 14 rfl rfl)
theorem dX0_glue_86 : decode cX0_glue 86 = .ok (.iload_n 2, 1) := dk_28 (dk_at dksX0_glue_3 16 rfl rfl)
theorem dX0_glue_87 : decode cX0_glue 87 = .ok (.if_icmp .ne 8, 3) := dk_160 0 8 (dk_at dksX0_glue_3 17 rfl rfl)
theorem dX0_glue_90 : decode cX0_glue 90 = .ok (.iload 4, 2) := dk_21 4 (dk_at dksX0_glue_3 20 rfl rfl)
theorem dX0_glue_92 : decode cX0_glue 92 = .ok (.goto 12, 3) := dk_167 0 12 (dk_at dksX0_glue_4 0 rfl rfl)
theorem dX0_glue_95 : decode cX0_glue 95 = .ok (.iload 5, 2) := dk_21 5 (dk_at dksX0_glue_4 3 rfl rfl)
theorem dX0_glue_97 : decode cX0_glue 97 = .ok (.iconst 2, 1) := dk_5 (dk_at dksX0_glue_4 5 rfl rfl)
theorem dX0_glue_98 : decode cX0_glue 98 = .ok (.iload 9, 2) := dk_21 9 (dk_at dksX0_glue_4 6 rfl rfl)
theorem dX0_glue_100 : decode cX0_glue 100 = .ok (.imul, 1) := dk_104 (dk_at dksX0_glue_4 8 rfl rfl)
theorem dX0_glue_101 : decode cX0_glue 101 = .ok (.ishr, 1) := dk_122 (dk_at dksX0_glue_4 9 rfl rfl)
theorem dX0_glue_102 : decode cX0_glue 102 = .ok (.iconst 3, 1) := dk_6 (dk_at dksX0_glue_4 10 rfl rfl)
theorem dX0_glue_103 : decode cX0_glue 103 = .ok (.iand, 1) := dk_126 (dk_at dksX0_glue_4 11 rfl rfl)
theorem dX0_glue_104 : decode cX0_glue 104 = .ok (.istore 11, 2) := dk_54 11 (dk_at dksX0_glue_4 12 rfl rfl)
theorem dX0_glue_106 : decode cX0_glue 106 = .ok (.iload 9, 2) := dk_21 9 (dk_at dksX0_glue_4 14 rfl rfl)
theorem dX0_glue_108 : decode cX0_glue 108 = .ok (.iload 10, 2) := dk_21 10 (dk_at dksX0_glue_4 16 rfl rfl)
theorem dX0_glue_110 : decode cX0_glue 110 = .ok (.iload_n 2, 1) := dk_28 (dk_at dksX0_glue_4 18 rfl rfl)
theorem dX0_glue_111 : decode cX0_glue 111 = .ok (.if_icmp .ne 7, 3) := dk_160 0 7 (dk_at dksX0_glue_4 19 rfl rfl)
theorem dX0_glue_114 : decode cX0_glue 114 = .ok (.iconst 0, 1) := dk_3 (dk_at dksX0_glue_4 22 rfl rfl)
theorem dX0_glue_115 : decode cX0_glue 115 = .ok (.goto 4, 3) := dk_167 0 4 (dk_at dksX0_glue_5 0 rfl rfl)
theorem dX0_glue_118 : decode cX0_glue 118 = .ok (.iconst 1, 1) := dk_4 (dk_at dksX0_glue_5 3 rfl rfl)
theorem dX0_glue_119 : decode cX0_glue 119 = .ok (.iadd, 1) := dk_96 (dk_at dksX0_glue_5 4 rfl rfl)
theorem dX0_glue_120 : decode cX0_glue 120 = .ok (.istore 9, 2) := dk_54 9 (dk_at dksX0_glue_5 5 rfl rfl)
theorem dX0_glue_122 : decode cX0_glue 122 = .ok (.iload 10, 2) := dk_21 10 (dk_at dksX0_glue_5 7 rfl rfl)
theorem dX0_glue_124 : decode cX0_glue 124 = .ok (.iload_n 2, 1) := dk_28 (dk_at dksX0_glue_5 9 rfl rfl)
theorem dX0_glue_125 : decode cX0_glue 125 = .ok (.if_icmp .eq 17, 3) := dk_159 0 17 (dk_at dksX0_glue_5 10 rfl rfl)
theorem dX0_glue_128 : decode cX0_glue 128 = .ok (.iload 8, 2) := dk_21 8 (dk_at dksX0_glue_5 13 rfl rfl)
theorem dX0_glue_130 : decode cX0_glue 130 = .ok (.iload 11, 2) := dk_21 11 (dk_at dksX0_glue_5 15 rfl rfl)
theorem dX0_glue_132 : decode cX0_glue 132 = .ok (.ishr, 1) := dk_122 (dk_at dksX0_glue_5 17 rfl rfl)
theorem dX0_glue_133 : decode cX0_glue 133 = .ok (.iconst 1, 1) := dk_4 (dk_at dksX0_glue_5 18 rfl rfl)
theorem dX0_glue_134 : decode cX0_glue 134 = .ok (.iand, 1) := dk_126 (dk_at dksX0_glue_5 19 rfl rfl)
theorem dX0_glue_135 : decode cX0_glue 135 = .ok (.iconst 1, 1) := dk_4 (dk_at dksX0_glue_5 20 rfl rfl)
theorem dX0_glue_136 : decode cX0_glue 136 = .ok (.if_icmp .ne 6, 3) := dk_160 0 6 (dk_at dksX0_glue_5 21 rfl rfl)
theorem dX0_glue_139 : decode cX0_glue 139 = .ok (.bipush (-2), 2) := dk_16 254 (dk_at dksX0_glue_6 0 rfl rfl)
theorem dX0_glue_141 : decode cX0_glue 141 = .ok (.ireturn, 1) := dk_172 (dk_at dksX0_glue_6 2 rfl rfl)
theorem dX0_glue_142 : decode cX0_glue 142 = .ok (.iload 8, 2) := dk_21 8 (dk_at dksX0_glue_6 3 rfl rfl)
theorem dX0_glue_144 : decode cX0_glue 144 = .ok (.iconst 1, 1) := dk_4 (dk_at dksX0_glue_6 5 rfl rfl)
theorem dX0_glue_145 : decode cX0_glue 145 = .ok (.iload 11, 2) := dk_21 11 (dk_at dksX0_glue_6 6 rfl rfl)
theorem dX0_glue_147 : decode cX0_glue 147 = .ok (.ishl, 1) := dk_120 (dk_at dksX0_glue_6 8 rfl rfl)
theorem dX0_glue_148 : decode cX0_glue 148 = .ok (.ior, 1) := dk_128 (dk_at dksX0_glue_6 9 rfl rfl)
theorem dX0_glue_149 : decode cX0_glue 149 = .ok (.istore 8, 2) := dk_54 8 (dk_at dksX0_glue_6 10 rfl rfl)
theorem dX0_glue_151 : decode cX0_glue 151 = .ok (.aload 6, 2) := dk_25 6 (dk_at dksX0_glue_6 12 rfl rfl)
theorem dX0_glue_153 : decode cX0_glue 153 = .ok (.iload 10, 2) := dk_21 10 (dk_at dksX0_glue_6 14 rfl rfl)
theorem dX0_glue_155 : decode cX0_glue 155 = .ok (.iload 11, 2) := dk_21 11 (dk_at dksX0_glue_6 16 rfl rfl)
theorem dX0_glue_157 : decode cX0_glue 157 = .ok (.iastore, 1) := dk_79 (dk_at dksX0_glue_6 18 rfl rfl)
theorem dX0_glue_158 : decode cX0_glue 158 = .ok (.aload 7, 2) := dk_25 7 (dk_at dksX0_glue_6 19 rfl rfl)
theorem dX0_glue_160 : decode cX0_glue 160 = .ok (.iload 11, 2) := dk_21 11 (dk_at dksX0_glue_6 21 rfl rfl)
theorem dX0_glue_162 : decode cX0_glue 162 = .ok (.iload 10, 2) := dk_21 10 (dk_at dksX0_glue_7 0 rfl rfl)
theorem dX0_glue_164 : decode cX0_glue 164 = .ok (.iastore, 1) := dk_79 (dk_at dksX0_glue_7 2 rfl rfl)
theorem dX0_glue_165 : decode cX0_glue 165 = .ok (.iinc 10 1, 3) := dk_132 10 1 (dk_at dksX0_glue_7 3 rfl rfl)
theorem dX0_glue_168 : decode cX0_glue 168 = .ok (.goto (-90), 3) := dk_167 255 166 (dk_at dksX0_glue_7 6 rfl rfl)
theorem dX0_glue_171 : decode cX0_glue 171 = .ok (.aload_n 0, 1) := dk_42 (dk_at dksX0_glue_7 9 rfl rfl)
theorem dX0_glue_172 : decode cX0_glue 172 = .ok (.getfield 11, 3) := dk_180 0 11 (dk_at dksX0_glue_7 10 rfl rfl)
theorem dX0_glue_175 : decode cX0_glue 175 = .ok (.iload_n 1, 1) := dk_27 (dk_at dksX0_glue_7 13 rfl rfl)
theorem dX0_glue_176 : decode cX0_glue 176 = .ok (.aaload, 1) := dk_50 (dk_at dksX0_glue_7 14 rfl rfl)
theorem dX0_glue_177 : decode cX0_glue 177 = .ok (.iload_n 2, 1) := dk_28 (dk_at dksX0_glue_7 15 rfl rfl)
theorem dX0_glue_178 : decode cX0_glue 178 = .ok (.aaload, 1) := dk_50 (dk_at dksX0_glue_7 16 rfl rfl)
theorem dX0_glue_179 : decode cX0_glue 179 = .ok (.ifnonnull 15, 3) := dk_199 0 15 (dk_at dksX0_glue_7 17 rfl rfl)
theorem dX0_glue_182 : decode cX0_glue 182 = .ok (.aload_n 0, 1) := dk_42 (dk_at dksX0_glue_7 20 rfl rfl)
theorem dX0_glue_183 : decode cX0_glue 183 = .ok (.getfield 11, 3) := dk_180 0 11 (dk_at dksX0_glue_7 21 rfl rfl)
theorem dX0_glue_186 : decode cX0_glue 186 = .ok (.iload_n 3, 1) := dk_29 (dk_at dksX0_glue_8 0 rfl rfl)
theorem dX0_glue_187 : decode cX0_glue 187 = .ok (.aaload, 1) := dk_50 (dk_at dksX0_glue_8 1 rfl rfl)
theorem dX0_glue_188 : decode cX0_glue 188 = .ok (.iload 4, 2) := dk_21 4 (dk_at dksX0_glue_8 2 rfl rfl)
theorem dX0_glue_190 : decode cX0_glue 190 = .ok (.aaload, 1) := dk_50 (dk_at dksX0_glue_8 4 rfl rfl)
theorem dX0_glue_191 : decode cX0_glue 191 = .ok (.ifnull 6, 3) := dk_198 0 6 (dk_at dksX0_glue_8 5 rfl rfl)
theorem dX0_glue_194 : decode cX0_glue 194 = .ok (.bipush (-3), 2) := dk_16 253 (dk_at dksX0_glue_8 8 rfl rfl)
theorem dX0_glue_196 : decode cX0_glue 196 = .ok (.ireturn, 1) := dk_172 (dk_at dksX0_glue_8 10 rfl rfl)
theorem dX0_glue_197 : decode cX0_glue 197 = .ok (.aload_n 0, 1) := dk_42 (dk_at dksX0_glue_8 11 rfl rfl)
theorem dX0_glue_198 : decode cX0_glue 198 = .ok (.getfield 11, 3) := dk_180 0 11 (dk_at dksX0_glue_8 12 rfl rfl)
theorem dX0_glue_201 : decode cX0_glue 201 = .ok (.iload_n 1, 1) := dk_27 (dk_at dksX0_glue_8 15 rfl rfl)
theorem dX0_glue_202 : decode cX0_glue 202 = .ok (.aaload, 1) := dk_50 (dk_at dksX0_glue_8 16 rfl rfl)
theorem dX0_glue_203 : decode cX0_glue 203 = .ok (.iload_n 2, 1) := dk_28 (dk_at dksX0_glue_8 17 rfl rfl)
theorem dX0_glue_204 : decode cX0_glue 204 = .ok (.new 111, 3) := dk_187 0 111 (dk_at dksX0_glue_8 18 rfl rfl)
theorem dX0_glue_207 : decode cX0_glue 207 = .ok (.dup, 1) := dk_89 (dk_at dksX0_glue_8 21 rfl rfl)
theorem dX0_glue_208 : decode cX0_glue 208 = .ok (.iload_n 3, 1) := dk_29 (dk_at dksX0_glue_8 22 rfl rfl)
theorem dX0_glue_209 : decode cX0_glue 209 = .ok (.iload 4, 2) := dk_21 4 (dk_at dksX0_glue_9 0 rfl rfl)
theorem dX0_glue_211 : decode cX0_glue 211 = .ok (.aload 6, 2) := dk_25 6 (dk_at dksX0_glue_9 2 rfl rfl)
theorem dX0_glue_213 : decode cX0_glue 213 = .ok (.invokespecial 113, 3) := dk_183 0 113 (dk_at dksX0_glue_9 4 rfl rfl)
theorem dX0_glue_216 : decode cX0_glue 216 = .ok (.aastore, 1) := dk_83 (dk_at dksX0_glue_9 7 rfl rfl)
theorem dX0_glue_217 : decode cX0_glue 217 = .ok (.aload_n 0, 1) := dk_42 (dk_at dksX0_glue_9 8 rfl rfl)
theorem dX0_glue_218 : decode cX0_glue 218 = .ok (.getfield 11, 3) := dk_180 0 11 (dk_at dksX0_glue_9 9 rfl rfl)
theorem dX0_glue_221 : decode cX0_glue 221 = .ok (.iload_n 3, 1) := dk_29 (dk_at dksX0_glue_9 12 rfl rfl)
theorem dX0_glue_222 : decode cX0_glue 222 = .ok (.aaload, 1) := dk_50 (dk_at dksX0_glue_9 13 rfl rfl)
theorem dX0_glue_223 : decode cX0_glue 223 = .ok (.iload 4, 2) := dk_21 4 (dk_at dksX0_glue_9 14 rfl rfl)
theorem dX0_glue_225 : decode cX0_glue 225 = .ok (.new 111, 3) := dk_187 0 111 (dk_at dksX0_glue_9 16 rfl rfl)
theorem dX0_glue_228 : decode cX0_glue 228 = .ok (.dup, 1) := dk_89 (dk_at dksX0_glue_9 19 rfl rfl)
theorem dX0_glue_229 : decode cX0_glue 229 = .ok (.iload_n 1, 1) := dk_27 (dk_at dksX0_glue_9 20 rfl rfl)
theorem dX0_glue_230 : decode cX0_glue 230 = .ok (.iload_n 2, 1) := dk_28 (dk_at dksX0_glue_9 21 rfl rfl)
theorem dX0_glue_231 : decode cX0_glue 231 = .ok (.aload 7, 2) := dk_25 7 (dk_at dksX0_glue_9 22 rfl rfl)
theorem dX0_glue_233 : decode cX0_glue 233 = .ok (.invokespecial 113, 3) := dk_183 0 113 (dk_at dksX0_glue_10 0 rfl rfl)
theorem dX0_glue_236 : decode cX0_glue 236 = .ok (.aastore, 1) := dk_83 (dk_at dksX0_glue_10 3 rfl rfl)
theorem dX0_glue_237 : decode cX0_glue 237 = .ok (.aload_n 0, 1) := dk_42 (dk_at dksX0_glue_10 4 rfl rfl)
theorem dX0_glue_238 : decode cX0_glue 238 = .ok (.invokevirtual 97, 3) := dk_182 0 97 (dk_at dksX0_glue_10 5 rfl rfl)
theorem dX0_glue_241 : decode cX0_glue 241 = .ok (.iconst 1, 1) := dk_4 (dk_at dksX0_glue_10 8 rfl rfl)
theorem dX0_glue_242 : decode cX0_glue 242 = .ok (.ireturn, 1) := dk_172 (dk_at dksX0_glue_10 9 rfl rfl)
abbrev cX0_isPiece : ByteArray := prog_1_method_3_code
def yX0_isPiece : MethodName := ⟨RX0, "isPiece", "(I)Z"⟩
def dkwX0_isPiece_0 : List UInt8 := [27, 3, 42, 180, 0, 73, 4, 100, 184, 0, 77, 172]
abbrev dktX0_isPiece_0 : List UInt8 := dkwX0_isPiece_0 ++ []
theorem dksX0_isPiece_0 : cX0_isPiece.data.toList.drop 0 = dktX0_isPiece_0 := by decide +kernel
theorem dX0_isPiece_0 : decode cX0_isPiece 0 = .ok (.iload_n 1, 1) := dk_27 (dk_at dksX0_isPiece_0 0 rfl rfl)
theorem dX0_isPiece_1 : decode cX0_isPiece 1 = .ok (.iconst 0, 1) := dk_3 (dk_at dksX0_isPiece_0 1 rfl rfl)
theorem dX0_isPiece_2 : decode cX0_isPiece 2 = .ok (.aload_n 0, 1) := dk_42 (dk_at dksX0_isPiece_0 2 rfl rfl)
theorem dX0_isPiece_3 : decode cX0_isPiece 3 = .ok (.getfield 73, 3) := dk_180 0 73 (dk_at dksX0_isPiece_0 3 rfl rfl)
theorem dX0_isPiece_6 : decode cX0_isPiece 6 = .ok (.iconst 1, 1) := dk_4 (dk_at dksX0_isPiece_0 6 rfl rfl)
theorem dX0_isPiece_7 : decode cX0_isPiece 7 = .ok (.isub, 1) := dk_100 (dk_at dksX0_isPiece_0 7 rfl rfl)
theorem dX0_isPiece_8 : decode cX0_isPiece 8 = .ok (.invokestatic 77, 3) := dk_184 0 77 (dk_at dksX0_isPiece_0 8 rfl rfl)
theorem dX0_isPiece_11 : decode cX0_isPiece 11 = .ok (.ireturn, 1) := dk_172 (dk_at dksX0_isPiece_0 11 rfl rfl)
abbrev cX0_isIn : ByteArray := prog_1_method_2_code
def yX0_isIn : MethodName := ⟨RX0, "isIn", "(III)Z"⟩
def dkwX0_isIn_0 : List UInt8 := [26, 27, 161, 0, 12, 26, 28, 163, 0, 7, 4, 167, 0, 4, 3, 172]
abbrev dktX0_isIn_0 : List UInt8 := dkwX0_isIn_0 ++ []
theorem dksX0_isIn_0 : cX0_isIn.data.toList.drop 0 = dktX0_isIn_0 := by decide +kernel
theorem dX0_isIn_0 : decode cX0_isIn 0 = .ok (.iload_n 0, 1) := dk_26 (dk_at dksX0_isIn_0 0 rfl rfl)
theorem dX0_isIn_1 : decode cX0_isIn 1 = .ok (.iload_n 1, 1) := dk_27 (dk_at dksX0_isIn_0 1 rfl rfl)
theorem dX0_isIn_2 : decode cX0_isIn 2 = .ok (.if_icmp .lt 12, 3) := dk_161 0 12 (dk_at dksX0_isIn_0 2 rfl rfl)
theorem dX0_isIn_5 : decode cX0_isIn 5 = .ok (.iload_n 0, 1) := dk_26 (dk_at dksX0_isIn_0 5 rfl rfl)
theorem dX0_isIn_6 : decode cX0_isIn 6 = .ok (.iload_n 2, 1) := dk_28 (dk_at dksX0_isIn_0 6 rfl rfl)
theorem dX0_isIn_7 : decode cX0_isIn 7 = .ok (.if_icmp .gt 7, 3) := dk_163 0 7 (dk_at dksX0_isIn_0 7 rfl rfl)
theorem dX0_isIn_10 : decode cX0_isIn 10 = .ok (.iconst 1, 1) := dk_4 (dk_at dksX0_isIn_0 10 rfl rfl)
theorem dX0_isIn_11 : decode cX0_isIn 11 = .ok (.goto 4, 3) := dk_167 0 4 (dk_at dksX0_isIn_0 11 rfl rfl)
theorem dX0_isIn_14 : decode cX0_isIn 14 = .ok (.iconst 0, 1) := dk_3 (dk_at dksX0_isIn_0 14 rfl rfl)
theorem dX0_isIn_15 : decode cX0_isIn 15 = .ok (.ireturn, 1) := dk_172 (dk_at dksX0_isIn_0 15 rfl rfl)
abbrev cX0_isCorner : ByteArray := prog_1_method_4_code
def yX0_isCorner : MethodName := ⟨RX0, "isCorner", "(I)Z"⟩
def dkwX0_isCorner_0 : List UInt8 := [26, 3, 6, 184, 0, 77, 172]
abbrev dktX0_isCorner_0 : List UInt8 := dkwX0_isCorner_0 ++ []
theorem dksX0_isCorner_0 : cX0_isCorner.data.toList.drop 0 = dktX0_isCorner_0 := by decide +kernel
theorem dX0_isCorner_0 : decode cX0_isCorner 0 = .ok (.iload_n 0, 1) := dk_26 (dk_at dksX0_isCorner_0 0 rfl rfl)
theorem dX0_isCorner_1 : decode cX0_isCorner 1 = .ok (.iconst 0, 1) := dk_3 (dk_at dksX0_isCorner_0 1 rfl rfl)
theorem dX0_isCorner_2 : decode cX0_isCorner 2 = .ok (.iconst 3, 1) := dk_6 (dk_at dksX0_isCorner_0 2 rfl rfl)
theorem dX0_isCorner_3 : decode cX0_isCorner 3 = .ok (.invokestatic 77, 3) := dk_184 0 77 (dk_at dksX0_isCorner_0 3 rfl rfl)
theorem dX0_isCorner_6 : decode cX0_isCorner 6 = .ok (.ireturn, 1) := dk_172 (dk_at dksX0_isCorner_0 6 rfl rfl)
abbrev cX0_open : ByteArray := prog_1_method_9_code
def yX0_open : MethodName := ⟨RX0, "open", "(II)I"⟩
def dkwX0_open_2 : List UInt8 := [180, 0, 116, 50, 45, 180, 0, 119, 1, 83, 42, 182, 0, 97, 4, 172]
abbrev dktX0_open_2 : List UInt8 := dkwX0_open_2 ++ []
def dkwX0_open_1 : List UInt8 := [28, 50, 78, 45, 199, 0, 6, 16, 253, 172, 42, 180, 0, 11, 27, 50, 28, 1, 83, 42, 180, 0, 11, 45]
abbrev dktX0_open_1 : List UInt8 := dkwX0_open_1 ++ dktX0_open_2
def dkwX0_open_0 : List UInt8 := [42, 27, 182, 0, 104, 153, 0, 10, 28, 184, 0, 108, 154, 0, 6, 16, 254, 172, 42, 180, 0, 11, 27, 50]
abbrev dktX0_open_0 : List UInt8 := dkwX0_open_0 ++ dktX0_open_1
theorem dksX0_open_0 : cX0_open.data.toList.drop 0 = dktX0_open_0 := by decide +kernel
theorem dksX0_open_1 : cX0_open.data.toList.drop 24 = dktX0_open_1 := dk_seg dksX0_open_0 24 rfl rfl
theorem dksX0_open_2 : cX0_open.data.toList.drop 48 = dktX0_open_2 := dk_seg dksX0_open_1 24 rfl rfl
theorem dX0_open_0 : decode cX0_open 0 = .ok (.aload_n 0, 1) := dk_42 (dk_at dksX0_open_0 0 rfl rfl)
theorem dX0_open_1 : decode cX0_open 1 = .ok (.iload_n 1, 1) := dk_27 (dk_at dksX0_open_0 1 rfl rfl)
theorem dX0_open_2 : decode cX0_open 2 = .ok (.invokevirtual 104, 3) := dk_182 0 104 (dk_at dksX0_open_0 2 rfl rfl)
theorem dX0_open_5 : decode cX0_open 5 = .ok (.ifCond .eq 10, 3) := dk_153 0 10 (dk_at dksX0_open_0 5 rfl rfl)
theorem dX0_open_8 : decode cX0_open 8 = .ok (.iload_n 2, 1) := dk_28 (dk_at dksX0_open_0 8 rfl rfl)
theorem dX0_open_9 : decode cX0_open 9 = .ok (.invokestatic 108, 3) := dk_184 0 108 (dk_at dksX0_open_0 9 rfl rfl)
theorem dX0_open_12 : decode cX0_open 12 = .ok (.ifCond .ne 6, 3) := dk_154 0 6 (dk_at dksX0_open_0 12 rfl rfl)
theorem dX0_open_15 : decode cX0_open 15 = .ok (.bipush (-2), 2) := dk_16 254 (dk_at dksX0_open_0 15 rfl rfl)
theorem dX0_open_17 : decode cX0_open 17 = .ok (.ireturn, 1) := dk_172 (dk_at dksX0_open_0 17 rfl rfl)
theorem dX0_open_18 : decode cX0_open 18 = .ok (.aload_n 0, 1) := dk_42 (dk_at dksX0_open_0 18 rfl rfl)
theorem dX0_open_19 : decode cX0_open 19 = .ok (.getfield 11, 3) := dk_180 0 11 (dk_at dksX0_open_0 19 rfl rfl)
theorem dX0_open_22 : decode cX0_open 22 = .ok (.iload_n 1, 1) := dk_27 (dk_at dksX0_open_0 22 rfl rfl)
theorem dX0_open_23 : decode cX0_open 23 = .ok (.aaload, 1) := dk_50 (dk_at dksX0_open_0 23 rfl rfl)
theorem dX0_open_24 : decode cX0_open 24 = .ok (.iload_n 2, 1) := dk_28 (dk_at dksX0_open_1 0 rfl rfl)
theorem dX0_open_25 : decode cX0_open 25 = .ok (.aaload, 1) := dk_50 (dk_at dksX0_open_1 1 rfl rfl)
theorem dX0_open_26 : decode cX0_open 26 = .ok (.astore_n 3, 1) := dk_78 (dk_at dksX0_open_1 2 rfl rfl)
theorem dX0_open_27 : decode cX0_open 27 = .ok (.aload_n 3, 1) := dk_45 (dk_at dksX0_open_1 3 rfl rfl)
theorem dX0_open_28 : decode cX0_open 28 = .ok (.ifnonnull 6, 3) := dk_199 0 6 (dk_at dksX0_open_1 4 rfl rfl)
theorem dX0_open_31 : decode cX0_open 31 = .ok (.bipush (-3), 2) := dk_16 253 (dk_at dksX0_open_1 7 rfl rfl)
theorem dX0_open_33 : decode cX0_open 33 = .ok (.ireturn, 1) := dk_172 (dk_at dksX0_open_1 9 rfl rfl)
theorem dX0_open_34 : decode cX0_open 34 = .ok (.aload_n 0, 1) := dk_42 (dk_at dksX0_open_1 10 rfl rfl)
theorem dX0_open_35 : decode cX0_open 35 = .ok (.getfield 11, 3) := dk_180 0 11 (dk_at dksX0_open_1 11 rfl rfl)
theorem dX0_open_38 : decode cX0_open 38 = .ok (.iload_n 1, 1) := dk_27 (dk_at dksX0_open_1 14 rfl rfl)
theorem dX0_open_39 : decode cX0_open 39 = .ok (.aaload, 1) := dk_50 (dk_at dksX0_open_1 15 rfl rfl)
theorem dX0_open_40 : decode cX0_open 40 = .ok (.iload_n 2, 1) := dk_28 (dk_at dksX0_open_1 16 rfl rfl)
theorem dX0_open_41 : decode cX0_open 41 = .ok (.aconst_null, 1) := dk_1 (dk_at dksX0_open_1 17 rfl rfl)
theorem dX0_open_42 : decode cX0_open 42 = .ok (.aastore, 1) := dk_83 (dk_at dksX0_open_1 18 rfl rfl)
theorem dX0_open_43 : decode cX0_open 43 = .ok (.aload_n 0, 1) := dk_42 (dk_at dksX0_open_1 19 rfl rfl)
theorem dX0_open_44 : decode cX0_open 44 = .ok (.getfield 11, 3) := dk_180 0 11 (dk_at dksX0_open_1 20 rfl rfl)
theorem dX0_open_47 : decode cX0_open 47 = .ok (.aload_n 3, 1) := dk_45 (dk_at dksX0_open_1 23 rfl rfl)
theorem dX0_open_48 : decode cX0_open 48 = .ok (.getfield 116, 3) := dk_180 0 116 (dk_at dksX0_open_2 0 rfl rfl)
theorem dX0_open_51 : decode cX0_open 51 = .ok (.aaload, 1) := dk_50 (dk_at dksX0_open_2 3 rfl rfl)
theorem dX0_open_52 : decode cX0_open 52 = .ok (.aload_n 3, 1) := dk_45 (dk_at dksX0_open_2 4 rfl rfl)
theorem dX0_open_53 : decode cX0_open 53 = .ok (.getfield 119, 3) := dk_180 0 119 (dk_at dksX0_open_2 5 rfl rfl)
theorem dX0_open_56 : decode cX0_open 56 = .ok (.aconst_null, 1) := dk_1 (dk_at dksX0_open_2 8 rfl rfl)
theorem dX0_open_57 : decode cX0_open 57 = .ok (.aastore, 1) := dk_83 (dk_at dksX0_open_2 9 rfl rfl)
theorem dX0_open_58 : decode cX0_open 58 = .ok (.aload_n 0, 1) := dk_42 (dk_at dksX0_open_2 10 rfl rfl)
theorem dX0_open_59 : decode cX0_open 59 = .ok (.invokevirtual 97, 3) := dk_182 0 97 (dk_at dksX0_open_2 11 rfl rfl)
theorem dX0_open_62 : decode cX0_open 62 = .ok (.iconst 1, 1) := dk_4 (dk_at dksX0_open_2 14 rfl rfl)
theorem dX0_open_63 : decode cX0_open 63 = .ok (.ireturn, 1) := dk_172 (dk_at dksX0_open_2 15 rfl rfl)
abbrev cX0_clear : ByteArray := prog_1_method_10_code
def yX0_clear : MethodName := ⟨RX0, "clear", "()I"⟩
def dkwX0_clear_0 : List UInt8 := [42, 180, 0, 73, 60, 42, 3, 181, 0, 73, 42, 182, 0, 93, 61, 42, 182, 0, 97, 27, 172]
abbrev dktX0_clear_0 : List UInt8 := dkwX0_clear_0 ++ []
theorem dksX0_clear_0 : cX0_clear.data.toList.drop 0 = dktX0_clear_0 := by decide +kernel
theorem dX0_clear_0 : decode cX0_clear 0 = .ok (.aload_n 0, 1) := dk_42 (dk_at dksX0_clear_0 0 rfl rfl)
theorem dX0_clear_1 : decode cX0_clear 1 = .ok (.getfield 73, 3) := dk_180 0 73 (dk_at dksX0_clear_0 1 rfl rfl)
theorem dX0_clear_4 : decode cX0_clear 4 = .ok (.istore_n 1, 1) := dk_60 (dk_at dksX0_clear_0 4 rfl rfl)
theorem dX0_clear_5 : decode cX0_clear 5 = .ok (.aload_n 0, 1) := dk_42 (dk_at dksX0_clear_0 5 rfl rfl)
theorem dX0_clear_6 : decode cX0_clear 6 = .ok (.iconst 0, 1) := dk_3 (dk_at dksX0_clear_0 6 rfl rfl)
theorem dX0_clear_7 : decode cX0_clear 7 = .ok (.putfield 73, 3) := dk_181 0 73 (dk_at dksX0_clear_0 7 rfl rfl)
theorem dX0_clear_10 : decode cX0_clear 10 = .ok (.aload_n 0, 1) := dk_42 (dk_at dksX0_clear_0 10 rfl rfl)
theorem dX0_clear_11 : decode cX0_clear 11 = .ok (.invokevirtual 93, 3) := dk_182 0 93 (dk_at dksX0_clear_0 11 rfl rfl)
theorem dX0_clear_14 : decode cX0_clear 14 = .ok (.istore_n 2, 1) := dk_61 (dk_at dksX0_clear_0 14 rfl rfl)
theorem dX0_clear_15 : decode cX0_clear 15 = .ok (.aload_n 0, 1) := dk_42 (dk_at dksX0_clear_0 15 rfl rfl)
theorem dX0_clear_16 : decode cX0_clear 16 = .ok (.invokevirtual 97, 3) := dk_182 0 97 (dk_at dksX0_clear_0 16 rfl rfl)
theorem dX0_clear_19 : decode cX0_clear 19 = .ok (.iload_n 1, 1) := dk_27 (dk_at dksX0_clear_0 19 rfl rfl)
theorem dX0_clear_20 : decode cX0_clear 20 = .ok (.ireturn, 1) := dk_172 (dk_at dksX0_clear_0 20 rfl rfl)
abbrev cX0_across : ByteArray := prog_1_method_11_code
def yX0_across : MethodName := ⟨RX0, "across", "(III)I"⟩
def dkwX0_across_2 : List UInt8 := [154, 0, 11, 25, 4, 180, 0, 116, 167, 0, 8, 25, 4, 180, 0, 119, 172]
abbrev dktX0_across_2 : List UInt8 := dkwX0_across_2 ++ []
def dkwX0_across_1 : List UInt8 := [16, 254, 172, 42, 180, 0, 11, 27, 50, 28, 50, 58, 4, 25, 4, 199, 0, 7, 2, 167, 0, 20, 29]
abbrev dktX0_across_1 : List UInt8 := dkwX0_across_1 ++ dktX0_across_2
def dkwX0_across_0 : List UInt8 := [42, 27, 182, 0, 104, 153, 0, 19, 28, 184, 0, 108, 153, 0, 12, 29, 3, 4, 184, 0, 77, 154, 0, 6]
abbrev dktX0_across_0 : List UInt8 := dkwX0_across_0 ++ dktX0_across_1
theorem dksX0_across_0 : cX0_across.data.toList.drop 0 = dktX0_across_0 := by decide +kernel
theorem dksX0_across_1 : cX0_across.data.toList.drop 24 = dktX0_across_1 := dk_seg dksX0_across_0 24 rfl rfl
theorem dksX0_across_2 : cX0_across.data.toList.drop 47 = dktX0_across_2 := dk_seg dksX0_across_1 23 rfl rfl
theorem dX0_across_0 : decode cX0_across 0 = .ok (.aload_n 0, 1) := dk_42 (dk_at dksX0_across_0 0 rfl rfl)
theorem dX0_across_1 : decode cX0_across 1 = .ok (.iload_n 1, 1) := dk_27 (dk_at dksX0_across_0 1 rfl rfl)
theorem dX0_across_2 : decode cX0_across 2 = .ok (.invokevirtual 104, 3) := dk_182 0 104 (dk_at dksX0_across_0 2 rfl rfl)
theorem dX0_across_5 : decode cX0_across 5 = .ok (.ifCond .eq 19, 3) := dk_153 0 19 (dk_at dksX0_across_0 5 rfl rfl)
theorem dX0_across_8 : decode cX0_across 8 = .ok (.iload_n 2, 1) := dk_28 (dk_at dksX0_across_0 8 rfl rfl)
theorem dX0_across_9 : decode cX0_across 9 = .ok (.invokestatic 108, 3) := dk_184 0 108 (dk_at dksX0_across_0 9 rfl rfl)
theorem dX0_across_12 : decode cX0_across 12 = .ok (.ifCond .eq 12, 3) := dk_153 0 12 (dk_at dksX0_across_0 12 rfl rfl)
theorem dX0_across_15 : decode cX0_across 15 = .ok (.iload_n 3, 1) := dk_29 (dk_at dksX0_across_0 15 rfl rfl)
theorem dX0_across_16 : decode cX0_across 16 = .ok (.iconst 0, 1) := dk_3 (dk_at dksX0_across_0 16 rfl rfl)
theorem dX0_across_17 : decode cX0_across 17 = .ok (.iconst 1, 1) := dk_4 (dk_at dksX0_across_0 17 rfl rfl)
theorem dX0_across_18 : decode cX0_across 18 = .ok (.invokestatic 77, 3) := dk_184 0 77 (dk_at dksX0_across_0 18 rfl rfl)
theorem dX0_across_21 : decode cX0_across 21 = .ok (.ifCond .ne 6, 3) := dk_154 0 6 (dk_at dksX0_across_0 21 rfl rfl)
theorem dX0_across_24 : decode cX0_across 24 = .ok (.bipush (-2), 2) := dk_16 254 (dk_at dksX0_across_1 0 rfl rfl)
theorem dX0_across_26 : decode cX0_across 26 = .ok (.ireturn, 1) := dk_172 (dk_at dksX0_across_1 2 rfl rfl)
theorem dX0_across_27 : decode cX0_across 27 = .ok (.aload_n 0, 1) := dk_42 (dk_at dksX0_across_1 3 rfl rfl)
theorem dX0_across_28 : decode cX0_across 28 = .ok (.getfield 11, 3) := dk_180 0 11 (dk_at dksX0_across_1 4 rfl rfl)
theorem dX0_across_31 : decode cX0_across 31 = .ok (.iload_n 1, 1) := dk_27 (dk_at dksX0_across_1 7 rfl rfl)
theorem dX0_across_32 : decode cX0_across 32 = .ok (.aaload, 1) := dk_50 (dk_at dksX0_across_1 8 rfl rfl)
theorem dX0_across_33 : decode cX0_across 33 = .ok (.iload_n 2, 1) := dk_28 (dk_at dksX0_across_1 9 rfl rfl)
theorem dX0_across_34 : decode cX0_across 34 = .ok (.aaload, 1) := dk_50 (dk_at dksX0_across_1 10 rfl rfl)
theorem dX0_across_35 : decode cX0_across 35 = .ok (.astore 4, 2) := dk_58 4 (dk_at dksX0_across_1 11 rfl rfl)
theorem dX0_across_37 : decode cX0_across 37 = .ok (.aload 4, 2) := dk_25 4 (dk_at dksX0_across_1 13 rfl rfl)
theorem dX0_across_39 : decode cX0_across 39 = .ok (.ifnonnull 7, 3) := dk_199 0 7 (dk_at dksX0_across_1 15 rfl rfl)
theorem dX0_across_42 : decode cX0_across 42 = .ok (.iconst (-1), 1) := dk_2 (dk_at dksX0_across_1 18 rfl rfl)
theorem dX0_across_43 : decode cX0_across 43 = .ok (.goto 20, 3) := dk_167 0 20 (dk_at dksX0_across_1 19 rfl rfl)
theorem dX0_across_46 : decode cX0_across 46 = .ok (.iload_n 3, 1) := dk_29 (dk_at dksX0_across_1 22 rfl rfl)
theorem dX0_across_47 : decode cX0_across 47 = .ok (.ifCond .ne 11, 3) := dk_154 0 11 (dk_at dksX0_across_2 0 rfl rfl)
theorem dX0_across_50 : decode cX0_across 50 = .ok (.aload 4, 2) := dk_25 4 (dk_at dksX0_across_2 3 rfl rfl)
theorem dX0_across_52 : decode cX0_across 52 = .ok (.getfield 116, 3) := dk_180 0 116 (dk_at dksX0_across_2 5 rfl rfl)
theorem dX0_across_55 : decode cX0_across 55 = .ok (.goto 8, 3) := dk_167 0 8 (dk_at dksX0_across_2 8 rfl rfl)
theorem dX0_across_58 : decode cX0_across 58 = .ok (.aload 4, 2) := dk_25 4 (dk_at dksX0_across_2 11 rfl rfl)
theorem dX0_across_60 : decode cX0_across 60 = .ok (.getfield 119, 3) := dk_180 0 119 (dk_at dksX0_across_2 13 rfl rfl)
theorem dX0_across_63 : decode cX0_across 63 = .ok (.ireturn, 1) := dk_172 (dk_at dksX0_across_2 16 rfl rfl)
abbrev cX0_classOf : ByteArray := prog_1_method_12_code
def yX0_classOf : MethodName := ⟨RX0, "classOf", "(III)I"⟩
def dkwX0_classOf_4 : List UInt8 := [172]
abbrev dktX0_classOf_4 : List UInt8 := dkwX0_classOf_4 ++ []
def dkwX0_classOf_3 : List UInt8 := [154, 0, 15, 42, 180, 0, 19, 28, 29, 182, 0, 126, 167, 0, 12, 42, 180, 0, 26, 28, 29, 182, 0, 129]
abbrev dktX0_classOf_3 : List UInt8 := dkwX0_classOf_3 ++ dktX0_classOf_4
def dkwX0_classOf_2 : List UInt8 := [167, 0, 10, 42, 180, 0, 26, 182, 0, 125, 54, 4, 21, 4, 154, 0, 8, 16, 254, 167, 0, 28, 27]
abbrev dktX0_classOf_2 : List UInt8 := dkwX0_classOf_2 ++ dktX0_classOf_3
def dkwX0_classOf_1 : List UInt8 := [167, 0, 4, 8, 184, 0, 77, 154, 0, 6, 16, 254, 172, 27, 154, 0, 13, 42, 180, 0, 19, 182, 0, 122]
abbrev dktX0_classOf_1 : List UInt8 := dkwX0_classOf_1 ++ dktX0_classOf_2
def dkwX0_classOf_0 : List UInt8 := [27, 3, 4, 184, 0, 77, 153, 0, 28, 42, 28, 182, 0, 104, 153, 0, 20, 29, 3, 27, 154, 0, 7, 6]
abbrev dktX0_classOf_0 : List UInt8 := dkwX0_classOf_0 ++ dktX0_classOf_1
theorem dksX0_classOf_0 : cX0_classOf.data.toList.drop 0 = dktX0_classOf_0 := by decide +kernel
theorem dksX0_classOf_1 : cX0_classOf.data.toList.drop 24 = dktX0_classOf_1 := dk_seg dksX0_classOf_0 24 rfl rfl
theorem dksX0_classOf_2 : cX0_classOf.data.toList.drop 48 = dktX0_classOf_2 := dk_seg dksX0_classOf_1 24 rfl rfl
theorem dksX0_classOf_3 : cX0_classOf.data.toList.drop 71 = dktX0_classOf_3 := dk_seg dksX0_classOf_2 23 rfl rfl
theorem dksX0_classOf_4 : cX0_classOf.data.toList.drop 95 = dktX0_classOf_4 := dk_seg dksX0_classOf_3 24 rfl rfl
theorem dX0_classOf_0 : decode cX0_classOf 0 = .ok (.iload_n 1, 1) := dk_27 (dk_at dksX0_classOf_0 0 rfl rfl)
theorem dX0_classOf_1 : decode cX0_classOf 1 = .ok (.iconst 0, 1) := dk_3 (dk_at dksX0_classOf_0 1 rfl rfl)
theorem dX0_classOf_2 : decode cX0_classOf 2 = .ok (.iconst 1, 1) := dk_4 (dk_at dksX0_classOf_0 2 rfl rfl)
theorem dX0_classOf_3 : decode cX0_classOf 3 = .ok (.invokestatic 77, 3) := dk_184 0 77 (dk_at dksX0_classOf_0 3 rfl rfl)
theorem dX0_classOf_6 : decode cX0_classOf 6 = .ok (.ifCond .eq 28, 3) := dk_153 0 28 (dk_at dksX0_classOf_0 6 rfl rfl)
theorem dX0_classOf_9 : decode cX0_classOf 9 = .ok (.aload_n 0, 1) := dk_42 (dk_at dksX0_classOf_0 9 rfl rfl)
theorem dX0_classOf_10 : decode cX0_classOf 10 = .ok (.iload_n 2, 1) := dk_28 (dk_at dksX0_classOf_0 10 rfl rfl)
theorem dX0_classOf_11 : decode cX0_classOf 11 = .ok (.invokevirtual 104, 3) := dk_182 0 104 (dk_at dksX0_classOf_0 11 rfl rfl)
theorem dX0_classOf_14 : decode cX0_classOf 14 = .ok (.ifCond .eq 20, 3) := dk_153 0 20 (dk_at dksX0_classOf_0 14 rfl rfl)
theorem dX0_classOf_17 : decode cX0_classOf 17 = .ok (.iload_n 3, 1) := dk_29 (dk_at dksX0_classOf_0 17 rfl rfl)
theorem dX0_classOf_18 : decode cX0_classOf 18 = .ok (.iconst 0, 1) := dk_3 (dk_at dksX0_classOf_0 18 rfl rfl)
theorem dX0_classOf_19 : decode cX0_classOf 19 = .ok (.iload_n 1, 1) := dk_27 (dk_at dksX0_classOf_0 19 rfl rfl)
theorem dX0_classOf_20 : decode cX0_classOf 20 = .ok (.ifCond .ne 7, 3) := dk_154 0 7 (dk_at dksX0_classOf_0 20 rfl rfl)
theorem dX0_classOf_23 : decode cX0_classOf 23 = .ok (.iconst 3, 1) := dk_6 (dk_at dksX0_classOf_0 23 rfl rfl)
theorem dX0_classOf_24 : decode cX0_classOf 24 = .ok (.goto 4, 3) := dk_167 0 4 (dk_at dksX0_classOf_1 0 rfl rfl)
theorem dX0_classOf_27 : decode cX0_classOf 27 = .ok (.iconst 5, 1) := dk_8 (dk_at dksX0_classOf_1 3 rfl rfl)
theorem dX0_classOf_28 : decode cX0_classOf 28 = .ok (.invokestatic 77, 3) := dk_184 0 77 (dk_at dksX0_classOf_1 4 rfl rfl)
theorem dX0_classOf_31 : decode cX0_classOf 31 = .ok (.ifCond .ne 6, 3) := dk_154 0 6 (dk_at dksX0_classOf_1 7 rfl rfl)
theorem dX0_classOf_34 : decode cX0_classOf 34 = .ok (.bipush (-2), 2) := dk_16 254 (dk_at dksX0_classOf_1 10 rfl rfl)
theorem dX0_classOf_36 : decode cX0_classOf 36 = .ok (.ireturn, 1) := dk_172 (dk_at dksX0_classOf_1 12 rfl rfl)
theorem dX0_classOf_37 : decode cX0_classOf 37 = .ok (.iload_n 1, 1) := dk_27 (dk_at dksX0_classOf_1 13 rfl rfl)
theorem dX0_classOf_38 : decode cX0_classOf 38 = .ok (.ifCond .ne 13, 3) := dk_154 0 13 (dk_at dksX0_classOf_1 14 rfl rfl)
theorem dX0_classOf_41 : decode cX0_classOf 41 = .ok (.aload_n 0, 1) := dk_42 (dk_at dksX0_classOf_1 17 rfl rfl)
theorem dX0_classOf_42 : decode cX0_classOf 42 = .ok (.getfield 19, 3) := dk_180 0 19 (dk_at dksX0_classOf_1 18 rfl rfl)
theorem dX0_classOf_45 : decode cX0_classOf 45 = .ok (.invokevirtual 122, 3) := dk_182 0 122 (dk_at dksX0_classOf_1 21 rfl rfl)
theorem dX0_classOf_48 : decode cX0_classOf 48 = .ok (.goto 10, 3) := dk_167 0 10 (dk_at dksX0_classOf_2 0 rfl rfl)
theorem dX0_classOf_51 : decode cX0_classOf 51 = .ok (.aload_n 0, 1) := dk_42 (dk_at dksX0_classOf_2 3 rfl rfl)
theorem dX0_classOf_52 : decode cX0_classOf 52 = .ok (.getfield 26, 3) := dk_180 0 26 (dk_at dksX0_classOf_2 4 rfl rfl)
theorem dX0_classOf_55 : decode cX0_classOf 55 = .ok (.invokevirtual 125, 3) := dk_182 0 125 (dk_at dksX0_classOf_2 7 rfl rfl)
theorem dX0_classOf_58 : decode cX0_classOf 58 = .ok (.istore 4, 2) := dk_54 4 (dk_at dksX0_classOf_2 10 rfl rfl)
theorem dX0_classOf_60 : decode cX0_classOf 60 = .ok (.iload 4, 2) := dk_21 4 (dk_at dksX0_classOf_2 12 rfl rfl)
theorem dX0_classOf_62 : decode cX0_classOf 62 = .ok (.ifCond .ne 8, 3) := dk_154 0 8 (dk_at dksX0_classOf_2 14 rfl rfl)
theorem dX0_classOf_65 : decode cX0_classOf 65 = .ok (.bipush (-2), 2) := dk_16 254 (dk_at dksX0_classOf_2 17 rfl rfl)
theorem dX0_classOf_67 : decode cX0_classOf 67 = .ok (.goto 28, 3) := dk_167 0 28 (dk_at dksX0_classOf_2 19 rfl rfl)
theorem dX0_classOf_70 : decode cX0_classOf 70 = .ok (.iload_n 1, 1) := dk_27 (dk_at dksX0_classOf_2 22 rfl rfl)
theorem dX0_classOf_71 : decode cX0_classOf 71 = .ok (.ifCond .ne 15, 3) := dk_154 0 15 (dk_at dksX0_classOf_3 0 rfl rfl)
theorem dX0_classOf_74 : decode cX0_classOf 74 = .ok (.aload_n 0, 1) := dk_42 (dk_at dksX0_classOf_3 3 rfl rfl)
theorem dX0_classOf_75 : decode cX0_classOf 75 = .ok (.getfield 19, 3) := dk_180 0 19 (dk_at dksX0_classOf_3 4 rfl rfl)
theorem dX0_classOf_78 : decode cX0_classOf 78 = .ok (.iload_n 2, 1) := dk_28 (dk_at dksX0_classOf_3 7 rfl rfl)
theorem dX0_classOf_79 : decode cX0_classOf 79 = .ok (.iload_n 3, 1) := dk_29 (dk_at dksX0_classOf_3 8 rfl rfl)
theorem dX0_classOf_80 : decode cX0_classOf 80 = .ok (.invokevirtual 126, 3) := dk_182 0 126 (dk_at dksX0_classOf_3 9 rfl rfl)
theorem dX0_classOf_83 : decode cX0_classOf 83 = .ok (.goto 12, 3) := dk_167 0 12 (dk_at dksX0_classOf_3 12 rfl rfl)
theorem dX0_classOf_86 : decode cX0_classOf 86 = .ok (.aload_n 0, 1) := dk_42 (dk_at dksX0_classOf_3 15 rfl rfl)
theorem dX0_classOf_87 : decode cX0_classOf 87 = .ok (.getfield 26, 3) := dk_180 0 26 (dk_at dksX0_classOf_3 16 rfl rfl)
theorem dX0_classOf_90 : decode cX0_classOf 90 = .ok (.iload_n 2, 1) := dk_28 (dk_at dksX0_classOf_3 19 rfl rfl)
theorem dX0_classOf_91 : decode cX0_classOf 91 = .ok (.iload_n 3, 1) := dk_29 (dk_at dksX0_classOf_3 20 rfl rfl)
theorem dX0_classOf_92 : decode cX0_classOf 92 = .ok (.invokevirtual 129, 3) := dk_182 0 129 (dk_at dksX0_classOf_3 21 rfl rfl)
theorem dX0_classOf_95 : decode cX0_classOf 95 = .ok (.ireturn, 1) := dk_172 (dk_at dksX0_classOf_4 0 rfl rfl)
abbrev cX0_edgeOf : ByteArray := prog_1_method_5_code
def yX0_edgeOf : MethodName := ⟨RX0, "edgeOf", "(II)I"⟩
def dkwX0_edgeOf_1 : List UInt8 := [96, 28, 100, 159, 0, 9, 132, 3, 1, 167, 255, 231, 29, 172]
abbrev dktX0_edgeOf_1 : List UInt8 := dkwX0_edgeOf_1 ++ []
def dkwX0_edgeOf_0 : List UInt8 := [26, 27, 184, 0, 81, 61, 3, 62, 178, 0, 87, 29, 46, 28, 160, 0, 16, 178, 0, 90, 29, 46, 26, 27]
abbrev dktX0_edgeOf_0 : List UInt8 := dkwX0_edgeOf_0 ++ dktX0_edgeOf_1
theorem dksX0_edgeOf_0 : cX0_edgeOf.data.toList.drop 0 = dktX0_edgeOf_0 := by decide +kernel
theorem dksX0_edgeOf_1 : cX0_edgeOf.data.toList.drop 24 = dktX0_edgeOf_1 := dk_seg dksX0_edgeOf_0 24 rfl rfl
theorem dX0_edgeOf_0 : decode cX0_edgeOf 0 = .ok (.iload_n 0, 1) := dk_26 (dk_at dksX0_edgeOf_0 0 rfl rfl)
theorem dX0_edgeOf_1 : decode cX0_edgeOf 1 = .ok (.iload_n 1, 1) := dk_27 (dk_at dksX0_edgeOf_0 1 rfl rfl)
theorem dX0_edgeOf_2 : decode cX0_edgeOf 2 = .ok (.invokestatic 81, 3) := dk_184 0 81 (dk_at dksX0_edgeOf_0 2 rfl rfl)
theorem dX0_edgeOf_5 : decode cX0_edgeOf 5 = .ok (.istore_n 2, 1) := dk_61 (dk_at dksX0_edgeOf_0 5 rfl rfl)
theorem dX0_edgeOf_6 : decode cX0_edgeOf 6 = .ok (.iconst 0, 1) := dk_3 (dk_at dksX0_edgeOf_0 6 rfl rfl)
theorem dX0_edgeOf_7 : decode cX0_edgeOf 7 = .ok (.istore_n 3, 1) := dk_62 (dk_at dksX0_edgeOf_0 7 rfl rfl)
theorem dX0_edgeOf_8 : decode cX0_edgeOf 8 = .ok (.getstatic 87, 3) := dk_178 0 87 (dk_at dksX0_edgeOf_0 8 rfl rfl)
theorem dX0_edgeOf_11 : decode cX0_edgeOf 11 = .ok (.iload_n 3, 1) := dk_29 (dk_at dksX0_edgeOf_0 11 rfl rfl)
theorem dX0_edgeOf_12 : decode cX0_edgeOf 12 = .ok (.iaload, 1) := dk_46 (dk_at dksX0_edgeOf_0 12 rfl rfl)
theorem dX0_edgeOf_13 : decode cX0_edgeOf 13 = .ok (.iload_n 2, 1) := dk_28 (dk_at dksX0_edgeOf_0 13 rfl rfl)
theorem dX0_edgeOf_14 : decode cX0_edgeOf 14 = .ok (.if_icmp .ne 16, 3) := dk_160 0 16 (dk_at dksX0_edgeOf_0 14 rfl rfl)
theorem dX0_edgeOf_17 : decode cX0_edgeOf 17 = .ok (.getstatic 90, 3) := dk_178 0 90 (dk_at dksX0_edgeOf_0 17 rfl rfl)
theorem dX0_edgeOf_20 : decode cX0_edgeOf 20 = .ok (.iload_n 3, 1) := dk_29 (dk_at dksX0_edgeOf_0 20 rfl rfl)
theorem dX0_edgeOf_21 : decode cX0_edgeOf 21 = .ok (.iaload, 1) := dk_46 (dk_at dksX0_edgeOf_0 21 rfl rfl)
theorem dX0_edgeOf_22 : decode cX0_edgeOf 22 = .ok (.iload_n 0, 1) := dk_26 (dk_at dksX0_edgeOf_0 22 rfl rfl)
theorem dX0_edgeOf_23 : decode cX0_edgeOf 23 = .ok (.iload_n 1, 1) := dk_27 (dk_at dksX0_edgeOf_0 23 rfl rfl)
theorem dX0_edgeOf_24 : decode cX0_edgeOf 24 = .ok (.iadd, 1) := dk_96 (dk_at dksX0_edgeOf_1 0 rfl rfl)
theorem dX0_edgeOf_25 : decode cX0_edgeOf 25 = .ok (.iload_n 2, 1) := dk_28 (dk_at dksX0_edgeOf_1 1 rfl rfl)
theorem dX0_edgeOf_26 : decode cX0_edgeOf 26 = .ok (.isub, 1) := dk_100 (dk_at dksX0_edgeOf_1 2 rfl rfl)
theorem dX0_edgeOf_27 : decode cX0_edgeOf 27 = .ok (.if_icmp .eq 9, 3) := dk_159 0 9 (dk_at dksX0_edgeOf_1 3 rfl rfl)
theorem dX0_edgeOf_30 : decode cX0_edgeOf 30 = .ok (.iinc 3 1, 3) := dk_132 3 1 (dk_at dksX0_edgeOf_1 6 rfl rfl)
theorem dX0_edgeOf_33 : decode cX0_edgeOf 33 = .ok (.goto (-25), 3) := dk_167 255 231 (dk_at dksX0_edgeOf_1 9 rfl rfl)
theorem dX0_edgeOf_36 : decode cX0_edgeOf 36 = .ok (.iload_n 3, 1) := dk_29 (dk_at dksX0_edgeOf_1 12 rfl rfl)
theorem dX0_edgeOf_37 : decode cX0_edgeOf 37 = .ok (.ireturn, 1) := dk_172 (dk_at dksX0_edgeOf_1 13 rfl rfl)
abbrev cX0_bent : ByteArray := prog_1_method_14_code
def yX0_bent : MethodName := ⟨RX0, "bent", "(I)I"⟩
def dkwX0_bent_1 : List UInt8 := [182, 0, 135, 158, 0, 15, 42, 27, 182, 0, 136, 153, 0, 7, 4, 167, 0, 4, 3, 172]
abbrev dktX0_bent_1 : List UInt8 := dkwX0_bent_1 ++ []
def dkwX0_bent_0 : List UInt8 := [27, 3, 42, 180, 0, 26, 182, 0, 125, 4, 100, 184, 0, 77, 154, 0, 6, 16, 254, 172, 42, 180, 0, 33]
abbrev dktX0_bent_0 : List UInt8 := dkwX0_bent_0 ++ dktX0_bent_1
theorem dksX0_bent_0 : cX0_bent.data.toList.drop 0 = dktX0_bent_0 := by decide +kernel
theorem dksX0_bent_1 : cX0_bent.data.toList.drop 24 = dktX0_bent_1 := dk_seg dksX0_bent_0 24 rfl rfl
theorem dX0_bent_0 : decode cX0_bent 0 = .ok (.iload_n 1, 1) := dk_27 (dk_at dksX0_bent_0 0 rfl rfl)
theorem dX0_bent_1 : decode cX0_bent 1 = .ok (.iconst 0, 1) := dk_3 (dk_at dksX0_bent_0 1 rfl rfl)
theorem dX0_bent_2 : decode cX0_bent 2 = .ok (.aload_n 0, 1) := dk_42 (dk_at dksX0_bent_0 2 rfl rfl)
theorem dX0_bent_3 : decode cX0_bent 3 = .ok (.getfield 26, 3) := dk_180 0 26 (dk_at dksX0_bent_0 3 rfl rfl)
theorem dX0_bent_6 : decode cX0_bent 6 = .ok (.invokevirtual 125, 3) := dk_182 0 125 (dk_at dksX0_bent_0 6 rfl rfl)
theorem dX0_bent_9 : decode cX0_bent 9 = .ok (.iconst 1, 1) := dk_4 (dk_at dksX0_bent_0 9 rfl rfl)
theorem dX0_bent_10 : decode cX0_bent 10 = .ok (.isub, 1) := dk_100 (dk_at dksX0_bent_0 10 rfl rfl)
theorem dX0_bent_11 : decode cX0_bent 11 = .ok (.invokestatic 77, 3) := dk_184 0 77 (dk_at dksX0_bent_0 11 rfl rfl)
theorem dX0_bent_14 : decode cX0_bent 14 = .ok (.ifCond .ne 6, 3) := dk_154 0 6 (dk_at dksX0_bent_0 14 rfl rfl)
theorem dX0_bent_17 : decode cX0_bent 17 = .ok (.bipush (-2), 2) := dk_16 254 (dk_at dksX0_bent_0 17 rfl rfl)
theorem dX0_bent_19 : decode cX0_bent 19 = .ok (.ireturn, 1) := dk_172 (dk_at dksX0_bent_0 19 rfl rfl)
theorem dX0_bent_20 : decode cX0_bent 20 = .ok (.aload_n 0, 1) := dk_42 (dk_at dksX0_bent_0 20 rfl rfl)
theorem dX0_bent_21 : decode cX0_bent 21 = .ok (.getfield 33, 3) := dk_180 0 33 (dk_at dksX0_bent_0 21 rfl rfl)
theorem dX0_bent_24 : decode cX0_bent 24 = .ok (.invokevirtual 135, 3) := dk_182 0 135 (dk_at dksX0_bent_1 0 rfl rfl)
theorem dX0_bent_27 : decode cX0_bent 27 = .ok (.ifCond .le 15, 3) := dk_158 0 15 (dk_at dksX0_bent_1 3 rfl rfl)
theorem dX0_bent_30 : decode cX0_bent 30 = .ok (.aload_n 0, 1) := dk_42 (dk_at dksX0_bent_1 6 rfl rfl)
theorem dX0_bent_31 : decode cX0_bent 31 = .ok (.iload_n 1, 1) := dk_27 (dk_at dksX0_bent_1 7 rfl rfl)
theorem dX0_bent_32 : decode cX0_bent 32 = .ok (.invokevirtual 136, 3) := dk_182 0 136 (dk_at dksX0_bent_1 8 rfl rfl)
theorem dX0_bent_35 : decode cX0_bent 35 = .ok (.ifCond .eq 7, 3) := dk_153 0 7 (dk_at dksX0_bent_1 11 rfl rfl)
theorem dX0_bent_38 : decode cX0_bent 38 = .ok (.iconst 1, 1) := dk_4 (dk_at dksX0_bent_1 14 rfl rfl)
theorem dX0_bent_39 : decode cX0_bent 39 = .ok (.goto 4, 3) := dk_167 0 4 (dk_at dksX0_bent_1 15 rfl rfl)
theorem dX0_bent_42 : decode cX0_bent 42 = .ok (.iconst 0, 1) := dk_3 (dk_at dksX0_bent_1 18 rfl rfl)
theorem dX0_bent_43 : decode cX0_bent 43 = .ok (.ireturn, 1) := dk_172 (dk_at dksX0_bent_1 19 rfl rfl)
abbrev cX0_isBent : ByteArray := prog_1_method_13_code
def yX0_isBent : MethodName := ⟨RX0, "isBent", "(I)Z"⟩
def dkwX0_isBent_2 : List UInt8 := [160, 0, 7, 4, 167, 0, 4, 3, 172]
abbrev dktX0_isBent_2 : List UInt8 := dkwX0_isBent_2 ++ []
def dkwX0_isBent_1 : List UInt8 := [182, 0, 134, 42, 180, 0, 33, 28, 16, 6, 108, 5, 28, 16, 6, 112, 104, 4, 96, 182, 0, 134]
abbrev dktX0_isBent_1 : List UInt8 := dkwX0_isBent_1 ++ dktX0_isBent_2
def dkwX0_isBent_0 : List UInt8 := [42, 180, 0, 26, 27, 182, 0, 130, 61, 42, 180, 0, 33, 28, 16, 6, 108, 5, 28, 16, 6, 112, 104]
abbrev dktX0_isBent_0 : List UInt8 := dkwX0_isBent_0 ++ dktX0_isBent_1
theorem dksX0_isBent_0 : cX0_isBent.data.toList.drop 0 = dktX0_isBent_0 := by decide +kernel
theorem dksX0_isBent_1 : cX0_isBent.data.toList.drop 23 = dktX0_isBent_1 := dk_seg dksX0_isBent_0 23 rfl rfl
theorem dksX0_isBent_2 : cX0_isBent.data.toList.drop 45 = dktX0_isBent_2 := dk_seg dksX0_isBent_1 22 rfl rfl
theorem dX0_isBent_0 : decode cX0_isBent 0 = .ok (.aload_n 0, 1) := dk_42 (dk_at dksX0_isBent_0 0 rfl rfl)
theorem dX0_isBent_1 : decode cX0_isBent 1 = .ok (.getfield 26, 3) := dk_180 0 26 (dk_at dksX0_isBent_0 1 rfl rfl)
theorem dX0_isBent_4 : decode cX0_isBent 4 = .ok (.iload_n 1, 1) := dk_27 (dk_at dksX0_isBent_0 4 rfl rfl)
theorem dX0_isBent_5 : decode cX0_isBent 5 = .ok (.invokevirtual 130, 3) := dk_182 0 130 (dk_at dksX0_isBent_0 5 rfl rfl)
theorem dX0_isBent_8 : decode cX0_isBent 8 = .ok (.istore_n 2, 1) := dk_61 (dk_at dksX0_isBent_0 8 rfl rfl)
theorem dX0_isBent_9 : decode cX0_isBent 9 = .ok (.aload_n 0, 1) := dk_42 (dk_at dksX0_isBent_0 9 rfl rfl)
theorem dX0_isBent_10 : decode cX0_isBent 10 = .ok (.getfield 33, 3) := dk_180 0 33 (dk_at dksX0_isBent_0 10 rfl rfl)
theorem dX0_isBent_13 : decode cX0_isBent 13 = .ok (.iload_n 2, 1) := dk_28 (dk_at dksX0_isBent_0 13 rfl rfl)
theorem dX0_isBent_14 : decode cX0_isBent 14 = .ok (.bipush 6, 2) := dk_16 6 (dk_at dksX0_isBent_0 14 rfl rfl)
theorem dX0_isBent_16 : decode cX0_isBent 16 = .ok (.idiv, 1) := dk_108 (dk_at dksX0_isBent_0 16 rfl rfl)
theorem dX0_isBent_17 : decode cX0_isBent 17 = .ok (.iconst 2, 1) := dk_5 (dk_at dksX0_isBent_0 17 rfl rfl)
theorem dX0_isBent_18 : decode cX0_isBent 18 = .ok (.iload_n 2, 1) := dk_28 (dk_at dksX0_isBent_0 18 rfl rfl)
theorem dX0_isBent_19 : decode cX0_isBent 19 = .ok (.bipush 6, 2) := dk_16 6 (dk_at dksX0_isBent_0 19 rfl rfl)
theorem dX0_isBent_21 : decode cX0_isBent 21 = .ok (.irem, 1) := dk_112 (dk_at dksX0_isBent_0 21 rfl rfl)
theorem dX0_isBent_22 : decode cX0_isBent 22 = .ok (.imul, 1) := dk_104 (dk_at dksX0_isBent_0 22 rfl rfl)
theorem dX0_isBent_23 : decode cX0_isBent 23 = .ok (.invokevirtual 134, 3) := dk_182 0 134 (dk_at dksX0_isBent_1 0 rfl rfl)
theorem dX0_isBent_26 : decode cX0_isBent 26 = .ok (.aload_n 0, 1) := dk_42 (dk_at dksX0_isBent_1 3 rfl rfl)
theorem dX0_isBent_27 : decode cX0_isBent 27 = .ok (.getfield 33, 3) := dk_180 0 33 (dk_at dksX0_isBent_1 4 rfl rfl)
theorem dX0_isBent_30 : decode cX0_isBent 30 = .ok (.iload_n 2, 1) := dk_28 (dk_at dksX0_isBent_1 7 rfl rfl)
theorem dX0_isBent_31 : decode cX0_isBent 31 = .ok (.bipush 6, 2) := dk_16 6 (dk_at dksX0_isBent_1 8 rfl rfl)
theorem dX0_isBent_33 : decode cX0_isBent 33 = .ok (.idiv, 1) := dk_108 (dk_at dksX0_isBent_1 10 rfl rfl)
theorem dX0_isBent_34 : decode cX0_isBent 34 = .ok (.iconst 2, 1) := dk_5 (dk_at dksX0_isBent_1 11 rfl rfl)
theorem dX0_isBent_35 : decode cX0_isBent 35 = .ok (.iload_n 2, 1) := dk_28 (dk_at dksX0_isBent_1 12 rfl rfl)
theorem dX0_isBent_36 : decode cX0_isBent 36 = .ok (.bipush 6, 2) := dk_16 6 (dk_at dksX0_isBent_1 13 rfl rfl)
theorem dX0_isBent_38 : decode cX0_isBent 38 = .ok (.irem, 1) := dk_112 (dk_at dksX0_isBent_1 15 rfl rfl)
theorem dX0_isBent_39 : decode cX0_isBent 39 = .ok (.imul, 1) := dk_104 (dk_at dksX0_isBent_1 16 rfl rfl)
theorem dX0_isBent_40 : decode cX0_isBent 40 = .ok (.iconst 1, 1) := dk_4 (dk_at dksX0_isBent_1 17 rfl rfl)
theorem dX0_isBent_41 : decode cX0_isBent 41 = .ok (.iadd, 1) := dk_96 (dk_at dksX0_isBent_1 18 rfl rfl)
theorem dX0_isBent_42 : decode cX0_isBent 42 = .ok (.invokevirtual 134, 3) := dk_182 0 134 (dk_at dksX0_isBent_1 19 rfl rfl)
theorem dX0_isBent_45 : decode cX0_isBent 45 = .ok (.if_icmp .ne 7, 3) := dk_160 0 7 (dk_at dksX0_isBent_2 0 rfl rfl)
theorem dX0_isBent_48 : decode cX0_isBent 48 = .ok (.iconst 1, 1) := dk_4 (dk_at dksX0_isBent_2 3 rfl rfl)
theorem dX0_isBent_49 : decode cX0_isBent 49 = .ok (.goto 4, 3) := dk_167 0 4 (dk_at dksX0_isBent_2 4 rfl rfl)
theorem dX0_isBent_52 : decode cX0_isBent 52 = .ok (.iconst 0, 1) := dk_3 (dk_at dksX0_isBent_2 7 rfl rfl)
theorem dX0_isBent_53 : decode cX0_isBent 53 = .ok (.ireturn, 1) := dk_172 (dk_at dksX0_isBent_2 8 rfl rfl)
abbrev cX0_link : ByteArray := prog_1_method_16_code
def yX0_link : MethodName := ⟨RX0, "link", "(I)I"⟩
def dkwX0_link_1 : List UInt8 := [182, 0, 135, 158, 0, 11, 42, 27, 182, 0, 146, 167, 0, 5, 18, 145, 172]
abbrev dktX0_link_1 : List UInt8 := dkwX0_link_1 ++ []
def dkwX0_link_0 : List UInt8 := [27, 3, 42, 180, 0, 19, 182, 0, 122, 4, 100, 184, 0, 77, 154, 0, 6, 18, 145, 172, 42, 180, 0, 33]
abbrev dktX0_link_0 : List UInt8 := dkwX0_link_0 ++ dktX0_link_1
theorem dksX0_link_0 : cX0_link.data.toList.drop 0 = dktX0_link_0 := by decide +kernel
theorem dksX0_link_1 : cX0_link.data.toList.drop 24 = dktX0_link_1 := dk_seg dksX0_link_0 24 rfl rfl
theorem dX0_link_0 : decode cX0_link 0 = .ok (.iload_n 1, 1) := dk_27 (dk_at dksX0_link_0 0 rfl rfl)
theorem dX0_link_1 : decode cX0_link 1 = .ok (.iconst 0, 1) := dk_3 (dk_at dksX0_link_0 1 rfl rfl)
theorem dX0_link_2 : decode cX0_link 2 = .ok (.aload_n 0, 1) := dk_42 (dk_at dksX0_link_0 2 rfl rfl)
theorem dX0_link_3 : decode cX0_link 3 = .ok (.getfield 19, 3) := dk_180 0 19 (dk_at dksX0_link_0 3 rfl rfl)
theorem dX0_link_6 : decode cX0_link 6 = .ok (.invokevirtual 122, 3) := dk_182 0 122 (dk_at dksX0_link_0 6 rfl rfl)
theorem dX0_link_9 : decode cX0_link 9 = .ok (.iconst 1, 1) := dk_4 (dk_at dksX0_link_0 9 rfl rfl)
theorem dX0_link_10 : decode cX0_link 10 = .ok (.isub, 1) := dk_100 (dk_at dksX0_link_0 10 rfl rfl)
theorem dX0_link_11 : decode cX0_link 11 = .ok (.invokestatic 77, 3) := dk_184 0 77 (dk_at dksX0_link_0 11 rfl rfl)
theorem dX0_link_14 : decode cX0_link 14 = .ok (.ifCond .ne 6, 3) := dk_154 0 6 (dk_at dksX0_link_0 14 rfl rfl)
theorem dX0_link_17 : decode cX0_link 17 = .ok (.ldc 145, 2) := dk_18 145 (dk_at dksX0_link_0 17 rfl rfl)
theorem dX0_link_19 : decode cX0_link 19 = .ok (.ireturn, 1) := dk_172 (dk_at dksX0_link_0 19 rfl rfl)
theorem dX0_link_20 : decode cX0_link 20 = .ok (.aload_n 0, 1) := dk_42 (dk_at dksX0_link_0 20 rfl rfl)
theorem dX0_link_21 : decode cX0_link 21 = .ok (.getfield 33, 3) := dk_180 0 33 (dk_at dksX0_link_0 21 rfl rfl)
theorem dX0_link_24 : decode cX0_link 24 = .ok (.invokevirtual 135, 3) := dk_182 0 135 (dk_at dksX0_link_1 0 rfl rfl)
theorem dX0_link_27 : decode cX0_link 27 = .ok (.ifCond .le 11, 3) := dk_158 0 11 (dk_at dksX0_link_1 3 rfl rfl)
theorem dX0_link_30 : decode cX0_link 30 = .ok (.aload_n 0, 1) := dk_42 (dk_at dksX0_link_1 6 rfl rfl)
theorem dX0_link_31 : decode cX0_link 31 = .ok (.iload_n 1, 1) := dk_27 (dk_at dksX0_link_1 7 rfl rfl)
theorem dX0_link_32 : decode cX0_link 32 = .ok (.invokevirtual 146, 3) := dk_182 0 146 (dk_at dksX0_link_1 8 rfl rfl)
theorem dX0_link_35 : decode cX0_link 35 = .ok (.goto 5, 3) := dk_167 0 5 (dk_at dksX0_link_1 11 rfl rfl)
theorem dX0_link_38 : decode cX0_link 38 = .ok (.ldc 145, 2) := dk_18 145 (dk_at dksX0_link_1 14 rfl rfl)
theorem dX0_link_40 : decode cX0_link 40 = .ok (.ireturn, 1) := dk_172 (dk_at dksX0_link_1 16 rfl rfl)
abbrev cX0_linkOf : ByteArray := prog_1_method_15_code
def yX0_linkOf : MethodName := ⟨RX0, "linkOf", "(I)I"⟩
def dkwX0_linkOf_9 : List UInt8 := [61, 132, 5, 1, 167, 255, 173, 28, 29, 5, 108, 100, 21, 4, 96, 172]
abbrev dktX0_linkOf_9 : List UInt8 := dkwX0_linkOf_9 ++ []
def dkwX0_linkOf_8 : List UInt8 := [167, 0, 11, 178, 0, 90, 21, 7, 5, 108, 46, 182, 0, 126, 27, 160, 0, 7, 4, 167, 0, 4, 3, 96]
abbrev dktX0_linkOf_8 : List UInt8 := dkwX0_linkOf_8 ++ dktX0_linkOf_9
def dkwX0_linkOf_7 : List UInt8 := [180, 0, 19, 21, 6, 16, 12, 108, 21, 7, 5, 112, 154, 0, 14, 178, 0, 87, 21, 7, 5, 108, 46]
abbrev dktX0_linkOf_7 : List UInt8 := dkwX0_linkOf_7 ++ dktX0_linkOf_8
def dkwX0_linkOf_6 : List UInt8 := [162, 0, 77, 42, 180, 0, 33, 21, 5, 182, 0, 142, 54, 6, 21, 6, 16, 12, 112, 54, 7, 28, 42]
abbrev dktX0_linkOf_6 : List UInt8 := dkwX0_linkOf_6 ++ dktX0_linkOf_7
def dkwX0_linkOf_5 : List UInt8 := [132, 6, 1, 167, 255, 158, 132, 5, 1, 167, 255, 140, 3, 54, 5, 21, 5, 42, 180, 0, 33, 180, 0, 139]
abbrev dktX0_linkOf_5 : List UInt8 := dkwX0_linkOf_5 ++ dktX0_linkOf_6
def dkwX0_linkOf_4 : List UInt8 := [21, 5, 50, 21, 8, 50, 199, 0, 7, 5, 167, 0, 4, 4, 96, 62, 132, 8, 1, 167, 255, 210]
abbrev dktX0_linkOf_4 : List UInt8 := dkwX0_linkOf_4 ++ dktX0_linkOf_5
def dkwX0_linkOf_3 : List UInt8 := [162, 0, 46, 21, 7, 153, 0, 41, 29, 21, 8, 21, 6, 160, 0, 7, 3, 167, 0, 21, 42, 180, 0, 11]
abbrev dktX0_linkOf_3 : List UInt8 := dkwX0_linkOf_3 ++ dktX0_linkOf_4
def dkwX0_linkOf_2 : List UInt8 := [54, 7, 21, 4, 21, 7, 153, 0, 7, 4, 167, 0, 4, 3, 96, 54, 4, 3, 54, 8, 21, 8, 7]
abbrev dktX0_linkOf_2 : List UInt8 := dkwX0_linkOf_2 ++ dktX0_linkOf_3
def dkwX0_linkOf_1 : List UInt8 := [7, 162, 0, 98, 42, 180, 0, 19, 21, 5, 21, 6, 182, 0, 126, 27, 160, 0, 7, 4, 167, 0, 4, 3]
abbrev dktX0_linkOf_1 : List UInt8 := dkwX0_linkOf_1 ++ dktX0_linkOf_2
def dkwX0_linkOf_0 : List UInt8 := [3, 61, 3, 62, 3, 54, 4, 3, 54, 5, 21, 5, 42, 180, 0, 73, 162, 0, 113, 3, 54, 6, 21, 6]
abbrev dktX0_linkOf_0 : List UInt8 := dkwX0_linkOf_0 ++ dktX0_linkOf_1
theorem dksX0_linkOf_0 : cX0_linkOf.data.toList.drop 0 = dktX0_linkOf_0 := by decide +kernel
theorem dksX0_linkOf_1 : cX0_linkOf.data.toList.drop 24 = dktX0_linkOf_1 := dk_seg dksX0_linkOf_0 24 rfl rfl
theorem dksX0_linkOf_2 : cX0_linkOf.data.toList.drop 48 = dktX0_linkOf_2 := dk_seg dksX0_linkOf_1 24 rfl rfl
theorem dksX0_linkOf_3 : cX0_linkOf.data.toList.drop 71 = dktX0_linkOf_3 := dk_seg dksX0_linkOf_2 23 rfl rfl
theorem dksX0_linkOf_4 : cX0_linkOf.data.toList.drop 95 = dktX0_linkOf_4 := dk_seg dksX0_linkOf_3 24 rfl rfl
theorem dksX0_linkOf_5 : cX0_linkOf.data.toList.drop 117 = dktX0_linkOf_5 := dk_seg dksX0_linkOf_4 22 rfl rfl
theorem dksX0_linkOf_6 : cX0_linkOf.data.toList.drop 141 = dktX0_linkOf_6 := dk_seg dksX0_linkOf_5 24 rfl rfl
theorem dksX0_linkOf_7 : cX0_linkOf.data.toList.drop 164 = dktX0_linkOf_7 := dk_seg dksX0_linkOf_6 23 rfl rfl
theorem dksX0_linkOf_8 : cX0_linkOf.data.toList.drop 187 = dktX0_linkOf_8 := dk_seg dksX0_linkOf_7 23 rfl rfl
theorem dksX0_linkOf_9 : cX0_linkOf.data.toList.drop 211 = dktX0_linkOf_9 := dk_seg dksX0_linkOf_8 24 rfl rfl
theorem dX0_linkOf_0 : decode cX0_linkOf 0 = .ok (.iconst 0, 1) := dk_3 (dk_at dksX0_linkOf_0 0 rfl rfl)
theorem dX0_linkOf_1 : decode cX0_linkOf 1 = .ok (.istore_n 2, 1) := dk_61 (dk_at dksX0_linkOf_0 1 rfl rfl)
theorem dX0_linkOf_2 : decode cX0_linkOf 2 = .ok (.iconst 0, 1) := dk_3 (dk_at dksX0_linkOf_0 2 rfl rfl)
theorem dX0_linkOf_3 : decode cX0_linkOf 3 = .ok (.istore_n 3, 1) := dk_62 (dk_at dksX0_linkOf_0 3 rfl rfl)
theorem dX0_linkOf_4 : decode cX0_linkOf 4 = .ok (.iconst 0, 1) := dk_3 (dk_at dksX0_linkOf_0 4 rfl rfl)
theorem dX0_linkOf_5 : decode cX0_linkOf 5 = .ok (.istore 4, 2) := dk_54 4 (dk_at dksX0_linkOf_0 5 rfl rfl)
theorem dX0_linkOf_7 : decode cX0_linkOf 7 = .ok (.iconst 0, 1) := dk_3 (dk_at dksX0_linkOf_0 7 rfl rfl)
theorem dX0_linkOf_8 : decode cX0_linkOf 8 = .ok (.istore 5, 2) := dk_54 5 (dk_at dksX0_linkOf_0 8 rfl rfl)
theorem dX0_linkOf_10 : decode cX0_linkOf 10 = .ok (.iload 5, 2) := dk_21 5 (dk_at dksX0_linkOf_0 10 rfl rfl)
theorem dX0_linkOf_12 : decode cX0_linkOf 12 = .ok (.aload_n 0, 1) := dk_42 (dk_at dksX0_linkOf_0 12 rfl rfl)
theorem dX0_linkOf_13 : decode cX0_linkOf 13 = .ok (.getfield 73, 3) := dk_180 0 73 (dk_at dksX0_linkOf_0 13 rfl rfl)
theorem dX0_linkOf_16 : decode cX0_linkOf 16 = .ok (.if_icmp .ge 113, 3) := dk_162 0 113 (dk_at dksX0_linkOf_0 16 rfl rfl)
theorem dX0_linkOf_19 : decode cX0_linkOf 19 = .ok (.iconst 0, 1) := dk_3 (dk_at dksX0_linkOf_0 19 rfl rfl)
theorem dX0_linkOf_20 : decode cX0_linkOf 20 = .ok (.istore 6, 2) := dk_54 6 (dk_at dksX0_linkOf_0 20 rfl rfl)
theorem dX0_linkOf_22 : decode cX0_linkOf 22 = .ok (.iload 6, 2) := dk_21 6 (dk_at dksX0_linkOf_0 22 rfl rfl)
theorem dX0_linkOf_24 : decode cX0_linkOf 24 = .ok (.iconst 4, 1) := dk_7 (dk_at dksX0_linkOf_1 0 rfl rfl)
theorem dX0_linkOf_25 : decode cX0_linkOf 25 = .ok (.if_icmp .ge 98, 3) := dk_162 0 98 (dk_at dksX0_linkOf_1 1 rfl rfl)
theorem dX0_linkOf_28 : decode cX0_linkOf 28 = .ok (.aload_n 0, 1) := dk_42 (dk_at dksX0_linkOf_1 4 rfl rfl)
theorem dX0_linkOf_29 : decode cX0_linkOf 29 = .ok (.getfield 19, 3) := dk_180 0 19 (dk_at dksX0_linkOf_1 5 rfl rfl)
theorem dX0_linkOf_32 : decode cX0_linkOf 32 = .ok (.iload 5, 2) := dk_21 5 (dk_at dksX0_linkOf_1 8 rfl rfl)
theorem dX0_linkOf_34 : decode cX0_linkOf 34 = .ok (.iload 6, 2) := dk_21 6 (dk_at dksX0_linkOf_1 10 rfl rfl)
theorem dX0_linkOf_36 : decode cX0_linkOf 36 = .ok (.invokevirtual 126, 3) := dk_182 0 126 (dk_at dksX0_linkOf_1 12 rfl rfl)
theorem dX0_linkOf_39 : decode cX0_linkOf 39 = .ok (.iload_n 1, 1) := dk_27 (dk_at dksX0_linkOf_1 15 rfl rfl)
theorem dX0_linkOf_40 : decode cX0_linkOf 40 = .ok (.if_icmp .ne 7, 3) := dk_160 0 7 (dk_at dksX0_linkOf_1 16 rfl rfl)
theorem dX0_linkOf_43 : decode cX0_linkOf 43 = .ok (.iconst 1, 1) := dk_4 (dk_at dksX0_linkOf_1 19 rfl rfl)
theorem dX0_linkOf_44 : decode cX0_linkOf 44 = .ok (.goto 4, 3) := dk_167 0 4 (dk_at dksX0_linkOf_1 20 rfl rfl)
theorem dX0_linkOf_47 : decode cX0_linkOf 47 = .ok (.iconst 0, 1) := dk_3 (dk_at dksX0_linkOf_1 23 rfl rfl)
theorem dX0_linkOf_48 : decode cX0_linkOf 48 = .ok (.istore 7, 2) := dk_54 7 (dk_at dksX0_linkOf_2 0 rfl rfl)
theorem dX0_linkOf_50 : decode cX0_linkOf 50 = .ok (.iload 4, 2) := dk_21 4 (dk_at dksX0_linkOf_2 2 rfl rfl)
theorem dX0_linkOf_52 : decode cX0_linkOf 52 = .ok (.iload 7, 2) := dk_21 7 (dk_at dksX0_linkOf_2 4 rfl rfl)
theorem dX0_linkOf_54 : decode cX0_linkOf 54 = .ok (.ifCond .eq 7, 3) := dk_153 0 7 (dk_at dksX0_linkOf_2 6 rfl rfl)
theorem dX0_linkOf_57 : decode cX0_linkOf 57 = .ok (.iconst 1, 1) := dk_4 (dk_at dksX0_linkOf_2 9 rfl rfl)
theorem dX0_linkOf_58 : decode cX0_linkOf 58 = .ok (.goto 4, 3) := dk_167 0 4 (dk_at dksX0_linkOf_2 10 rfl rfl)
theorem dX0_linkOf_61 : decode cX0_linkOf 61 = .ok (.iconst 0, 1) := dk_3 (dk_at dksX0_linkOf_2 13 rfl rfl)
theorem dX0_linkOf_62 : decode cX0_linkOf 62 = .ok (.iadd, 1) := dk_96 (dk_at dksX0_linkOf_2 14 rfl rfl)
theorem dX0_linkOf_63 : decode cX0_linkOf 63 = .ok (.istore 4, 2) := dk_54 4 (dk_at dksX0_linkOf_2 15 rfl rfl)
theorem dX0_linkOf_65 : decode cX0_linkOf 65 = .ok (.iconst 0, 1) := dk_3 (dk_at dksX0_linkOf_2 17 rfl rfl)
theorem dX0_linkOf_66 : decode cX0_linkOf 66 = .ok (.istore 8, 2) := dk_54 8 (dk_at dksX0_linkOf_2 18 rfl rfl)
theorem dX0_linkOf_68 : decode cX0_linkOf 68 = .ok (.iload 8, 2) := dk_21 8 (dk_at dksX0_linkOf_2 20 rfl rfl)
theorem dX0_linkOf_70 : decode cX0_linkOf 70 = .ok (.iconst 4, 1) := dk_7 (dk_at dksX0_linkOf_2 22 rfl rfl)
theorem dX0_linkOf_71 : decode cX0_linkOf 71 = .ok (.if_icmp .ge 46, 3) := dk_162 0 46 (dk_at dksX0_linkOf_3 0 rfl rfl)
theorem dX0_linkOf_74 : decode cX0_linkOf 74 = .ok (.iload 7, 2) := dk_21 7 (dk_at dksX0_linkOf_3 3 rfl rfl)
theorem dX0_linkOf_76 : decode cX0_linkOf 76 = .ok (.ifCond .eq 41, 3) := dk_153 0 41 (dk_at dksX0_linkOf_3 5 rfl rfl)
theorem dX0_linkOf_79 : decode cX0_linkOf 79 = .ok (.iload_n 3, 1) := dk_29 (dk_at dksX0_linkOf_3 8 rfl rfl)
theorem dX0_linkOf_80 : decode cX0_linkOf 80 = .ok (.iload 8, 2) := dk_21 8 (dk_at dksX0_linkOf_3 9 rfl rfl)
theorem dX0_linkOf_82 : decode cX0_linkOf 82 = .ok (.iload 6, 2) := dk_21 6 (dk_at dksX0_linkOf_3 11 rfl rfl)
theorem dX0_linkOf_84 : decode cX0_linkOf 84 = .ok (.if_icmp .ne 7, 3) := dk_160 0 7 (dk_at dksX0_linkOf_3 13 rfl rfl)
theorem dX0_linkOf_87 : decode cX0_linkOf 87 = .ok (.iconst 0, 1) := dk_3 (dk_at dksX0_linkOf_3 16 rfl rfl)
theorem dX0_linkOf_88 : decode cX0_linkOf 88 = .ok (.goto 21, 3) := dk_167 0 21 (dk_at dksX0_linkOf_3 17 rfl rfl)
theorem dX0_linkOf_91 : decode cX0_linkOf 91 = .ok (.aload_n 0, 1) := dk_42 (dk_at dksX0_linkOf_3 20 rfl rfl)
theorem dX0_linkOf_92 : decode cX0_linkOf 92 = .ok (.getfield 11, 3) := dk_180 0 11 (dk_at dksX0_linkOf_3 21 rfl rfl)
theorem dX0_linkOf_95 : decode cX0_linkOf 95 = .ok (.iload 5, 2) := dk_21 5 (dk_at dksX0_linkOf_4 0 rfl rfl)
theorem dX0_linkOf_97 : decode cX0_linkOf 97 = .ok (.aaload, 1) := dk_50 (dk_at dksX0_linkOf_4 2 rfl rfl)
theorem dX0_linkOf_98 : decode cX0_linkOf 98 = .ok (.iload 8, 2) := dk_21 8 (dk_at dksX0_linkOf_4 3 rfl rfl)
theorem dX0_linkOf_100 : decode cX0_linkOf 100 = .ok (.aaload, 1) := dk_50 (dk_at dksX0_linkOf_4 5 rfl rfl)
theorem dX0_linkOf_101 : decode cX0_linkOf 101 = .ok (.ifnonnull 7, 3) := dk_199 0 7 (dk_at dksX0_linkOf_4 6 rfl rfl)
theorem dX0_linkOf_104 : decode cX0_linkOf 104 = .ok (.iconst 2, 1) := dk_5 (dk_at dksX0_linkOf_4 9 rfl rfl)
theorem dX0_linkOf_105 : decode cX0_linkOf 105 = .ok (.goto 4, 3) := dk_167 0 4 (dk_at dksX0_linkOf_4 10 rfl rfl)
theorem dX0_linkOf_108 : decode cX0_linkOf 108 = .ok (.iconst 1, 1) := dk_4 (dk_at dksX0_linkOf_4 13 rfl rfl)
theorem dX0_linkOf_109 : decode cX0_linkOf 109 = .ok (.iadd, 1) := dk_96 (dk_at dksX0_linkOf_4 14 rfl rfl)
theorem dX0_linkOf_110 : decode cX0_linkOf 110 = .ok (.istore_n 3, 1) := dk_62 (dk_at dksX0_linkOf_4 15 rfl rfl)
theorem dX0_linkOf_111 : decode cX0_linkOf 111 = .ok (.iinc 8 1, 3) := dk_132 8 1 (dk_at dksX0_linkOf_4 16 rfl rfl)
theorem dX0_linkOf_114 : decode cX0_linkOf 114 = .ok (.goto (-46), 3) := dk_167 255 210 (dk_at dksX0_linkOf_4 19 rfl rfl)
theorem dX0_linkOf_117 : decode cX0_linkOf 117 = .ok (.iinc 6 1, 3) := dk_132 6 1 (dk_at dksX0_linkOf_5 0 rfl rfl)
theorem dX0_linkOf_120 : decode cX0_linkOf 120 = .ok (.goto (-98), 3) := dk_167 255 158 (dk_at dksX0_linkOf_5 3 rfl rfl)
theorem dX0_linkOf_123 : decode cX0_linkOf 123 = .ok (.iinc 5 1, 3) := dk_132 5 1 (dk_at dksX0_linkOf_5 6 rfl rfl)
theorem dX0_linkOf_126 : decode cX0_linkOf 126 = .ok (.goto (-116), 3) := dk_167 255 140 (dk_at dksX0_linkOf_5 9 rfl rfl)
theorem dX0_linkOf_129 : decode cX0_linkOf 129 = .ok (.iconst 0, 1) := dk_3 (dk_at dksX0_linkOf_5 12 rfl rfl)
theorem dX0_linkOf_130 : decode cX0_linkOf 130 = .ok (.istore 5, 2) := dk_54 5 (dk_at dksX0_linkOf_5 13 rfl rfl)
theorem dX0_linkOf_132 : decode cX0_linkOf 132 = .ok (.iload 5, 2) := dk_21 5 (dk_at dksX0_linkOf_5 15 rfl rfl)
theorem dX0_linkOf_134 : decode cX0_linkOf 134 = .ok (.aload_n 0, 1) := dk_42 (dk_at dksX0_linkOf_5 17 rfl rfl)
theorem dX0_linkOf_135 : decode cX0_linkOf 135 = .ok (.getfield 33, 3) := dk_180 0 33 (dk_at dksX0_linkOf_5 18 rfl rfl)
theorem dX0_linkOf_138 : decode cX0_linkOf 138 = .ok (.getfield 139, 3) := dk_180 0 139 (dk_at dksX0_linkOf_5 21 rfl rfl)
theorem dX0_linkOf_141 : decode cX0_linkOf 141 = .ok (.if_icmp .ge 77, 3) := dk_162 0 77 (dk_at dksX0_linkOf_6 0 rfl rfl)
theorem dX0_linkOf_144 : decode cX0_linkOf 144 = .ok (.aload_n 0, 1) := dk_42 (dk_at dksX0_linkOf_6 3 rfl rfl)
theorem dX0_linkOf_145 : decode cX0_linkOf 145 = .ok (.getfield 33, 3) := dk_180 0 33 (dk_at dksX0_linkOf_6 4 rfl rfl)
theorem dX0_linkOf_148 : decode cX0_linkOf 148 = .ok (.iload 5, 2) := dk_21 5 (dk_at dksX0_linkOf_6 7 rfl rfl)
theorem dX0_linkOf_150 : decode cX0_linkOf 150 = .ok (.invokevirtual 142, 3) := dk_182 0 142 (dk_at dksX0_linkOf_6 9 rfl rfl)
theorem dX0_linkOf_153 : decode cX0_linkOf 153 = .ok (.istore 6, 2) := dk_54 6 (dk_at dksX0_linkOf_6 12 rfl rfl)
theorem dX0_linkOf_155 : decode cX0_linkOf 155 = .ok (.iload 6, 2) := dk_21 6 (dk_at dksX0_linkOf_6 14 rfl rfl)
theorem dX0_linkOf_157 : decode cX0_linkOf 157 = .ok (.bipush 12, 2) := dk_16 12 (dk_at dksX0_linkOf_6 16 rfl rfl)
theorem dX0_linkOf_159 : decode cX0_linkOf 159 = .ok (.irem, 1) := dk_112 (dk_at dksX0_linkOf_6 18 rfl rfl)
theorem dX0_linkOf_160 : decode cX0_linkOf 160 = .ok (.istore 7, 2) := dk_54 7 (dk_at dksX0_linkOf_6 19 rfl rfl)
theorem dX0_linkOf_162 : decode cX0_linkOf 162 = .ok (.iload_n 2, 1) := dk_28 (dk_at dksX0_linkOf_6 21 rfl rfl)
theorem dX0_linkOf_163 : decode cX0_linkOf 163 = .ok (.aload_n 0, 1) := dk_42 (dk_at dksX0_linkOf_6 22 rfl rfl)
theorem dX0_linkOf_164 : decode cX0_linkOf 164 = .ok (.getfield 19, 3) := dk_180 0 19 (dk_at dksX0_linkOf_7 0 rfl rfl)
theorem dX0_linkOf_167 : decode cX0_linkOf 167 = .ok (.iload 6, 2) := dk_21 6 (dk_at dksX0_linkOf_7 3 rfl rfl)
theorem dX0_linkOf_169 : decode cX0_linkOf 169 = .ok (.bipush 12, 2) := dk_16 12 (dk_at dksX0_linkOf_7 5 rfl rfl)
theorem dX0_linkOf_171 : decode cX0_linkOf 171 = .ok (.idiv, 1) := dk_108 (dk_at dksX0_linkOf_7 7 rfl rfl)
theorem dX0_linkOf_172 : decode cX0_linkOf 172 = .ok (.iload 7, 2) := dk_21 7 (dk_at dksX0_linkOf_7 8 rfl rfl)
theorem dX0_linkOf_174 : decode cX0_linkOf 174 = .ok (.iconst 2, 1) := dk_5 (dk_at dksX0_linkOf_7 10 rfl rfl)
theorem dX0_linkOf_175 : decode cX0_linkOf 175 = .ok (.irem, 1) := dk_112 (dk_at dksX0_linkOf_7 11 rfl rfl)
theorem dX0_linkOf_176 : decode cX0_linkOf 176 = .ok (.ifCond .ne 14, 3) := dk_154 0 14 (dk_at dksX0_linkOf_7 12 rfl rfl)
theorem dX0_linkOf_179 : decode cX0_linkOf 179 = .ok (.getstatic 87, 3) := dk_178 0 87 (dk_at dksX0_linkOf_7 15 rfl rfl)
theorem dX0_linkOf_182 : decode cX0_linkOf 182 = .ok (.iload 7, 2) := dk_21 7 (dk_at dksX0_linkOf_7 18 rfl rfl)
theorem dX0_linkOf_184 : decode cX0_linkOf 184 = .ok (.iconst 2, 1) := dk_5 (dk_at dksX0_linkOf_7 20 rfl rfl)
theorem dX0_linkOf_185 : decode cX0_linkOf 185 = .ok (.idiv, 1) := dk_108 (dk_at dksX0_linkOf_7 21 rfl rfl)
theorem dX0_linkOf_186 : decode cX0_linkOf 186 = .ok (.iaload, 1) := dk_46 (dk_at dksX0_linkOf_7 22 rfl rfl)
theorem dX0_linkOf_187 : decode cX0_linkOf 187 = .ok (.goto 11, 3) := dk_167 0 11 (dk_at dksX0_linkOf_8 0 rfl rfl)
theorem dX0_linkOf_190 : decode cX0_linkOf 190 = .ok (.getstatic 90, 3) := dk_178 0 90 (dk_at dksX0_linkOf_8 3 rfl rfl)
theorem dX0_linkOf_193 : decode cX0_linkOf 193 = .ok (.iload 7, 2) := dk_21 7 (dk_at dksX0_linkOf_8 6 rfl rfl)
theorem dX0_linkOf_195 : decode cX0_linkOf 195 = .ok (.iconst 2, 1) := dk_5 (dk_at dksX0_linkOf_8 8 rfl rfl)
theorem dX0_linkOf_196 : decode cX0_linkOf 196 = .ok (.idiv, 1) := dk_108 (dk_at dksX0_linkOf_8 9 rfl rfl)
theorem dX0_linkOf_197 : decode cX0_linkOf 197 = .ok (.iaload, 1) := dk_46 (dk_at dksX0_linkOf_8 10 rfl rfl)
theorem dX0_linkOf_198 : decode cX0_linkOf 198 = .ok (.invokevirtual 126, 3) := dk_182 0 126 (dk_at dksX0_linkOf_8 11 rfl rfl)
theorem dX0_linkOf_201 : decode cX0_linkOf 201 = .ok (.iload_n 1, 1) := dk_27 (dk_at dksX0_linkOf_8 14 rfl rfl)
theorem dX0_linkOf_202 : decode cX0_linkOf 202 = .ok (.if_icmp .ne 7, 3) := dk_160 0 7 (dk_at dksX0_linkOf_8 15 rfl rfl)
theorem dX0_linkOf_205 : decode cX0_linkOf 205 = .ok (.iconst 1, 1) := dk_4 (dk_at dksX0_linkOf_8 18 rfl rfl)
theorem dX0_linkOf_206 : decode cX0_linkOf 206 = .ok (.goto 4, 3) := dk_167 0 4 (dk_at dksX0_linkOf_8 19 rfl rfl)
theorem dX0_linkOf_209 : decode cX0_linkOf 209 = .ok (.iconst 0, 1) := dk_3 (dk_at dksX0_linkOf_8 22 rfl rfl)
theorem dX0_linkOf_210 : decode cX0_linkOf 210 = .ok (.iadd, 1) := dk_96 (dk_at dksX0_linkOf_8 23 rfl rfl)
theorem dX0_linkOf_211 : decode cX0_linkOf 211 = .ok (.istore_n 2, 1) := dk_61 (dk_at dksX0_linkOf_9 0 rfl rfl)
theorem dX0_linkOf_212 : decode cX0_linkOf 212 = .ok (.iinc 5 1, 3) := dk_132 5 1 (dk_at dksX0_linkOf_9 1 rfl rfl)
theorem dX0_linkOf_215 : decode cX0_linkOf 215 = .ok (.goto (-83), 3) := dk_167 255 173 (dk_at dksX0_linkOf_9 4 rfl rfl)
theorem dX0_linkOf_218 : decode cX0_linkOf 218 = .ok (.iload_n 2, 1) := dk_28 (dk_at dksX0_linkOf_9 7 rfl rfl)
theorem dX0_linkOf_219 : decode cX0_linkOf 219 = .ok (.iload_n 3, 1) := dk_29 (dk_at dksX0_linkOf_9 8 rfl rfl)
theorem dX0_linkOf_220 : decode cX0_linkOf 220 = .ok (.iconst 2, 1) := dk_5 (dk_at dksX0_linkOf_9 9 rfl rfl)
theorem dX0_linkOf_221 : decode cX0_linkOf 221 = .ok (.idiv, 1) := dk_108 (dk_at dksX0_linkOf_9 10 rfl rfl)
theorem dX0_linkOf_222 : decode cX0_linkOf 222 = .ok (.isub, 1) := dk_100 (dk_at dksX0_linkOf_9 11 rfl rfl)
theorem dX0_linkOf_223 : decode cX0_linkOf 223 = .ok (.iload 4, 2) := dk_21 4 (dk_at dksX0_linkOf_9 12 rfl rfl)
theorem dX0_linkOf_225 : decode cX0_linkOf 225 = .ok (.iadd, 1) := dk_96 (dk_at dksX0_linkOf_9 14 rfl rfl)
theorem dX0_linkOf_226 : decode cX0_linkOf 226 = .ok (.ireturn, 1) := dk_172 (dk_at dksX0_linkOf_9 15 rfl rfl)
abbrev cX0_count : ByteArray := prog_1_method_22_code
def yX0_count : MethodName := ⟨RX0, "count", "(I)I"⟩
def dkwX0_count_6 : List UInt8 := [153, 0, 7, 4, 167, 0, 4, 3, 172, 42, 182, 0, 167, 172, 18, 145, 172]
abbrev dktX0_count_6 : List UInt8 := dkwX0_count_6 ++ []
def dkwX0_count_5 : List UInt8 := [182, 0, 164, 153, 0, 7, 4, 167, 0, 4, 3, 172, 42, 182, 0, 167, 155, 0, 14, 42, 180, 0, 156]
abbrev dktX0_count_5 : List UInt8 := dkwX0_count_5 ++ dktX0_count_6
def dkwX0_count_4 : List UInt8 := [180, 0, 26, 182, 0, 125, 100, 42, 182, 0, 161, 96, 42, 182, 0, 149, 96, 42, 180, 0, 73, 100, 172, 42]
abbrev dktX0_count_4 : List UInt8 := dkwX0_count_4 ++ dktX0_count_5
def dkwX0_count_3 : List UInt8 := [182, 0, 161, 42, 182, 0, 149, 96, 172, 42, 182, 0, 149, 172, 42, 180, 0, 19, 182, 0, 122, 42]
abbrev dktX0_count_3 : List UInt8 := dkwX0_count_3 ++ dktX0_count_4
def dkwX0_count_2 : List UInt8 := [42, 180, 0, 73, 172, 42, 180, 0, 19, 182, 0, 122, 172, 42, 180, 0, 26, 182, 0, 125, 172, 42]
abbrev dktX0_count_2 : List UInt8 := dkwX0_count_2 ++ dktX0_count_3
def dkwX0_count_1 : List UInt8 := [170, 0, 0, 0, 0, 0, 156, 0, 0, 0, 0, 0, 0, 0, 8, 0, 0, 0, 51, 0, 0, 0, 56, 0, 0, 0, 64, 0, 0, 0, 72, 0, 0, 0, 82, 0, 0, 0, 87, 0, 0, 0, 118, 0, 0, 0, 131, 0, 0, 0, 151]
abbrev dktX0_count_1 : List UInt8 := dkwX0_count_1 ++ dktX0_count_2
def dkwX0_count_0 : List UInt8 := [27]
abbrev dktX0_count_0 : List UInt8 := dkwX0_count_0 ++ dktX0_count_1
theorem dksX0_count_0 : cX0_count.data.toList.drop 0 = dktX0_count_0 := by decide +kernel
theorem dksX0_count_1 : cX0_count.data.toList.drop 1 = dktX0_count_1 := dk_seg dksX0_count_0 1 rfl rfl
theorem dksX0_count_2 : cX0_count.data.toList.drop 52 = dktX0_count_2 := dk_seg dksX0_count_1 51 rfl rfl
theorem dksX0_count_3 : cX0_count.data.toList.drop 74 = dktX0_count_3 := dk_seg dksX0_count_2 22 rfl rfl
theorem dksX0_count_4 : cX0_count.data.toList.drop 96 = dktX0_count_4 := dk_seg dksX0_count_3 22 rfl rfl
theorem dksX0_count_5 : cX0_count.data.toList.drop 120 = dktX0_count_5 := dk_seg dksX0_count_4 24 rfl rfl
theorem dksX0_count_6 : cX0_count.data.toList.drop 143 = dktX0_count_6 := dk_seg dksX0_count_5 23 rfl rfl
theorem dX0_count_0 : decode cX0_count 0 = .ok (.iload_n 1, 1) := dk_27 (dk_at dksX0_count_0 0 rfl rfl)
theorem dX0_count_1 : decode cX0_count 1 = .ok (.tableswitch 156 0 8 #[51, 56, 64, 72, 82, 87, 118, 131, 151], 51) := by decide +kernel
theorem dX0_count_52 : decode cX0_count 52 = .ok (.aload_n 0, 1) := dk_42 (dk_at dksX0_count_2 0 rfl rfl)
theorem dX0_count_53 : decode cX0_count 53 = .ok (.getfield 73, 3) := dk_180 0 73 (dk_at dksX0_count_2 1 rfl rfl)
theorem dX0_count_56 : decode cX0_count 56 = .ok (.ireturn, 1) := dk_172 (dk_at dksX0_count_2 4 rfl rfl)
theorem dX0_count_57 : decode cX0_count 57 = .ok (.aload_n 0, 1) := dk_42 (dk_at dksX0_count_2 5 rfl rfl)
theorem dX0_count_58 : decode cX0_count 58 = .ok (.getfield 19, 3) := dk_180 0 19 (dk_at dksX0_count_2 6 rfl rfl)
theorem dX0_count_61 : decode cX0_count 61 = .ok (.invokevirtual 122, 3) := dk_182 0 122 (dk_at dksX0_count_2 9 rfl rfl)
theorem dX0_count_64 : decode cX0_count 64 = .ok (.ireturn, 1) := dk_172 (dk_at dksX0_count_2 12 rfl rfl)
theorem dX0_count_65 : decode cX0_count 65 = .ok (.aload_n 0, 1) := dk_42 (dk_at dksX0_count_2 13 rfl rfl)
theorem dX0_count_66 : decode cX0_count 66 = .ok (.getfield 26, 3) := dk_180 0 26 (dk_at dksX0_count_2 14 rfl rfl)
theorem dX0_count_69 : decode cX0_count 69 = .ok (.invokevirtual 125, 3) := dk_182 0 125 (dk_at dksX0_count_2 17 rfl rfl)
theorem dX0_count_72 : decode cX0_count 72 = .ok (.ireturn, 1) := dk_172 (dk_at dksX0_count_2 20 rfl rfl)
theorem dX0_count_73 : decode cX0_count 73 = .ok (.aload_n 0, 1) := dk_42 (dk_at dksX0_count_2 21 rfl rfl)
theorem dX0_count_74 : decode cX0_count 74 = .ok (.invokevirtual 161, 3) := dk_182 0 161 (dk_at dksX0_count_3 0 rfl rfl)
theorem dX0_count_77 : decode cX0_count 77 = .ok (.aload_n 0, 1) := dk_42 (dk_at dksX0_count_3 3 rfl rfl)
theorem dX0_count_78 : decode cX0_count 78 = .ok (.invokevirtual 149, 3) := dk_182 0 149 (dk_at dksX0_count_3 4 rfl rfl)
theorem dX0_count_81 : decode cX0_count 81 = .ok (.iadd, 1) := dk_96 (dk_at dksX0_count_3 7 rfl rfl)
theorem dX0_count_82 : decode cX0_count 82 = .ok (.ireturn, 1) := dk_172 (dk_at dksX0_count_3 8 rfl rfl)
theorem dX0_count_83 : decode cX0_count 83 = .ok (.aload_n 0, 1) := dk_42 (dk_at dksX0_count_3 9 rfl rfl)
theorem dX0_count_84 : decode cX0_count 84 = .ok (.invokevirtual 149, 3) := dk_182 0 149 (dk_at dksX0_count_3 10 rfl rfl)
theorem dX0_count_87 : decode cX0_count 87 = .ok (.ireturn, 1) := dk_172 (dk_at dksX0_count_3 13 rfl rfl)
theorem dX0_count_88 : decode cX0_count 88 = .ok (.aload_n 0, 1) := dk_42 (dk_at dksX0_count_3 14 rfl rfl)
theorem dX0_count_89 : decode cX0_count 89 = .ok (.getfield 19, 3) := dk_180 0 19 (dk_at dksX0_count_3 15 rfl rfl)
theorem dX0_count_92 : decode cX0_count 92 = .ok (.invokevirtual 122, 3) := dk_182 0 122 (dk_at dksX0_count_3 18 rfl rfl)
theorem dX0_count_95 : decode cX0_count 95 = .ok (.aload_n 0, 1) := dk_42 (dk_at dksX0_count_3 21 rfl rfl)
theorem dX0_count_96 : decode cX0_count 96 = .ok (.getfield 26, 3) := dk_180 0 26 (dk_at dksX0_count_4 0 rfl rfl)
theorem dX0_count_99 : decode cX0_count 99 = .ok (.invokevirtual 125, 3) := dk_182 0 125 (dk_at dksX0_count_4 3 rfl rfl)
theorem dX0_count_102 : decode cX0_count 102 = .ok (.isub, 1) := dk_100 (dk_at dksX0_count_4 6 rfl rfl)
theorem dX0_count_103 : decode cX0_count 103 = .ok (.aload_n 0, 1) := dk_42 (dk_at dksX0_count_4 7 rfl rfl)
theorem dX0_count_104 : decode cX0_count 104 = .ok (.invokevirtual 161, 3) := dk_182 0 161 (dk_at dksX0_count_4 8 rfl rfl)
theorem dX0_count_107 : decode cX0_count 107 = .ok (.iadd, 1) := dk_96 (dk_at dksX0_count_4 11 rfl rfl)
theorem dX0_count_108 : decode cX0_count 108 = .ok (.aload_n 0, 1) := dk_42 (dk_at dksX0_count_4 12 rfl rfl)
theorem dX0_count_109 : decode cX0_count 109 = .ok (.invokevirtual 149, 3) := dk_182 0 149 (dk_at dksX0_count_4 13 rfl rfl)
theorem dX0_count_112 : decode cX0_count 112 = .ok (.iadd, 1) := dk_96 (dk_at dksX0_count_4 16 rfl rfl)
theorem dX0_count_113 : decode cX0_count 113 = .ok (.aload_n 0, 1) := dk_42 (dk_at dksX0_count_4 17 rfl rfl)
theorem dX0_count_114 : decode cX0_count 114 = .ok (.getfield 73, 3) := dk_180 0 73 (dk_at dksX0_count_4 18 rfl rfl)
theorem dX0_count_117 : decode cX0_count 117 = .ok (.isub, 1) := dk_100 (dk_at dksX0_count_4 21 rfl rfl)
theorem dX0_count_118 : decode cX0_count 118 = .ok (.ireturn, 1) := dk_172 (dk_at dksX0_count_4 22 rfl rfl)
theorem dX0_count_119 : decode cX0_count 119 = .ok (.aload_n 0, 1) := dk_42 (dk_at dksX0_count_4 23 rfl rfl)
theorem dX0_count_120 : decode cX0_count 120 = .ok (.invokevirtual 164, 3) := dk_182 0 164 (dk_at dksX0_count_5 0 rfl rfl)
theorem dX0_count_123 : decode cX0_count 123 = .ok (.ifCond .eq 7, 3) := dk_153 0 7 (dk_at dksX0_count_5 3 rfl rfl)
theorem dX0_count_126 : decode cX0_count 126 = .ok (.iconst 1, 1) := dk_4 (dk_at dksX0_count_5 6 rfl rfl)
theorem dX0_count_127 : decode cX0_count 127 = .ok (.goto 4, 3) := dk_167 0 4 (dk_at dksX0_count_5 7 rfl rfl)
theorem dX0_count_130 : decode cX0_count 130 = .ok (.iconst 0, 1) := dk_3 (dk_at dksX0_count_5 10 rfl rfl)
theorem dX0_count_131 : decode cX0_count 131 = .ok (.ireturn, 1) := dk_172 (dk_at dksX0_count_5 11 rfl rfl)
theorem dX0_count_132 : decode cX0_count 132 = .ok (.aload_n 0, 1) := dk_42 (dk_at dksX0_count_5 12 rfl rfl)
theorem dX0_count_133 : decode cX0_count 133 = .ok (.invokevirtual 167, 3) := dk_182 0 167 (dk_at dksX0_count_5 13 rfl rfl)
theorem dX0_count_136 : decode cX0_count 136 = .ok (.ifCond .lt 14, 3) := dk_155 0 14 (dk_at dksX0_count_5 16 rfl rfl)
theorem dX0_count_139 : decode cX0_count 139 = .ok (.aload_n 0, 1) := dk_42 (dk_at dksX0_count_5 19 rfl rfl)
theorem dX0_count_140 : decode cX0_count 140 = .ok (.getfield 156, 3) := dk_180 0 156 (dk_at dksX0_count_5 20 rfl rfl)
theorem dX0_count_143 : decode cX0_count 143 = .ok (.ifCond .eq 7, 3) := dk_153 0 7 (dk_at dksX0_count_6 0 rfl rfl)
theorem dX0_count_146 : decode cX0_count 146 = .ok (.iconst 1, 1) := dk_4 (dk_at dksX0_count_6 3 rfl rfl)
theorem dX0_count_147 : decode cX0_count 147 = .ok (.goto 4, 3) := dk_167 0 4 (dk_at dksX0_count_6 4 rfl rfl)
theorem dX0_count_150 : decode cX0_count 150 = .ok (.iconst 0, 1) := dk_3 (dk_at dksX0_count_6 7 rfl rfl)
theorem dX0_count_151 : decode cX0_count 151 = .ok (.ireturn, 1) := dk_172 (dk_at dksX0_count_6 8 rfl rfl)
theorem dX0_count_152 : decode cX0_count 152 = .ok (.aload_n 0, 1) := dk_42 (dk_at dksX0_count_6 9 rfl rfl)
theorem dX0_count_153 : decode cX0_count 153 = .ok (.invokevirtual 167, 3) := dk_182 0 167 (dk_at dksX0_count_6 10 rfl rfl)
theorem dX0_count_156 : decode cX0_count 156 = .ok (.ireturn, 1) := dk_172 (dk_at dksX0_count_6 13 rfl rfl)
theorem dX0_count_157 : decode cX0_count 157 = .ok (.ldc 145, 2) := dk_18 145 (dk_at dksX0_count_6 14 rfl rfl)
theorem dX0_count_159 : decode cX0_count 159 = .ok (.ireturn, 1) := dk_172 (dk_at dksX0_count_6 16 rfl rfl)
abbrev cX0_pairs : ByteArray := prog_1_method_18_code
def yX0_pairs : MethodName := ⟨RX0, "pairs", "()I"⟩
def dkwX0_pairs_0 : List UInt8 := [7, 42, 180, 0, 73, 104, 42, 182, 0, 149, 100, 5, 108, 172]
abbrev dktX0_pairs_0 : List UInt8 := dkwX0_pairs_0 ++ []
theorem dksX0_pairs_0 : cX0_pairs.data.toList.drop 0 = dktX0_pairs_0 := by decide +kernel
theorem dX0_pairs_0 : decode cX0_pairs 0 = .ok (.iconst 4, 1) := dk_7 (dk_at dksX0_pairs_0 0 rfl rfl)
theorem dX0_pairs_1 : decode cX0_pairs 1 = .ok (.aload_n 0, 1) := dk_42 (dk_at dksX0_pairs_0 1 rfl rfl)
theorem dX0_pairs_2 : decode cX0_pairs 2 = .ok (.getfield 73, 3) := dk_180 0 73 (dk_at dksX0_pairs_0 2 rfl rfl)
theorem dX0_pairs_5 : decode cX0_pairs 5 = .ok (.imul, 1) := dk_104 (dk_at dksX0_pairs_0 5 rfl rfl)
theorem dX0_pairs_6 : decode cX0_pairs 6 = .ok (.aload_n 0, 1) := dk_42 (dk_at dksX0_pairs_0 6 rfl rfl)
theorem dX0_pairs_7 : decode cX0_pairs 7 = .ok (.invokevirtual 149, 3) := dk_182 0 149 (dk_at dksX0_pairs_0 7 rfl rfl)
theorem dX0_pairs_10 : decode cX0_pairs 10 = .ok (.isub, 1) := dk_100 (dk_at dksX0_pairs_0 10 rfl rfl)
theorem dX0_pairs_11 : decode cX0_pairs 11 = .ok (.iconst 2, 1) := dk_5 (dk_at dksX0_pairs_0 11 rfl rfl)
theorem dX0_pairs_12 : decode cX0_pairs 12 = .ok (.idiv, 1) := dk_108 (dk_at dksX0_pairs_0 12 rfl rfl)
theorem dX0_pairs_13 : decode cX0_pairs 13 = .ok (.ireturn, 1) := dk_172 (dk_at dksX0_pairs_0 13 rfl rfl)
abbrev cX0_openOnes : ByteArray := prog_1_method_17_code
def yX0_openOnes : MethodName := ⟨RX0, "openOnes", "()I"⟩
def dkwX0_openOnes_2 : List UInt8 := [167, 255, 213, 27, 172]
abbrev dktX0_openOnes_2 : List UInt8 := dkwX0_openOnes_2 ++ []
def dkwX0_openOnes_1 : List UInt8 := [28, 50, 29, 50, 199, 0, 7, 4, 167, 0, 4, 3, 96, 60, 132, 3, 1, 167, 255, 229, 132, 2, 1]
abbrev dktX0_openOnes_1 : List UInt8 := dkwX0_openOnes_1 ++ dktX0_openOnes_2
def dkwX0_openOnes_0 : List UInt8 := [3, 60, 3, 61, 28, 42, 180, 0, 73, 162, 0, 41, 3, 62, 29, 7, 162, 0, 28, 27, 42, 180, 0, 11]
abbrev dktX0_openOnes_0 : List UInt8 := dkwX0_openOnes_0 ++ dktX0_openOnes_1
theorem dksX0_openOnes_0 : cX0_openOnes.data.toList.drop 0 = dktX0_openOnes_0 := by decide +kernel
theorem dksX0_openOnes_1 : cX0_openOnes.data.toList.drop 24 = dktX0_openOnes_1 := dk_seg dksX0_openOnes_0 24 rfl rfl
theorem dksX0_openOnes_2 : cX0_openOnes.data.toList.drop 47 = dktX0_openOnes_2 := dk_seg dksX0_openOnes_1 23 rfl rfl
theorem dX0_openOnes_0 : decode cX0_openOnes 0 = .ok (.iconst 0, 1) := dk_3 (dk_at dksX0_openOnes_0 0 rfl rfl)
theorem dX0_openOnes_1 : decode cX0_openOnes 1 = .ok (.istore_n 1, 1) := dk_60 (dk_at dksX0_openOnes_0 1 rfl rfl)
theorem dX0_openOnes_2 : decode cX0_openOnes 2 = .ok (.iconst 0, 1) := dk_3 (dk_at dksX0_openOnes_0 2 rfl rfl)
theorem dX0_openOnes_3 : decode cX0_openOnes 3 = .ok (.istore_n 2, 1) := dk_61 (dk_at dksX0_openOnes_0 3 rfl rfl)
theorem dX0_openOnes_4 : decode cX0_openOnes 4 = .ok (.iload_n 2, 1) := dk_28 (dk_at dksX0_openOnes_0 4 rfl rfl)
theorem dX0_openOnes_5 : decode cX0_openOnes 5 = .ok (.aload_n 0, 1) := dk_42 (dk_at dksX0_openOnes_0 5 rfl rfl)
theorem dX0_openOnes_6 : decode cX0_openOnes 6 = .ok (.getfield 73, 3) := dk_180 0 73 (dk_at dksX0_openOnes_0 6 rfl rfl)
theorem dX0_openOnes_9 : decode cX0_openOnes 9 = .ok (.if_icmp .ge 41, 3) := dk_162 0 41 (dk_at dksX0_openOnes_0 9 rfl rfl)
theorem dX0_openOnes_12 : decode cX0_openOnes 12 = .ok (.iconst 0, 1) := dk_3 (dk_at dksX0_openOnes_0 12 rfl rfl)
theorem dX0_openOnes_13 : decode cX0_openOnes 13 = .ok (.istore_n 3, 1) := dk_62 (dk_at dksX0_openOnes_0 13 rfl rfl)
theorem dX0_openOnes_14 : decode cX0_openOnes 14 = .ok (.iload_n 3, 1) := dk_29 (dk_at dksX0_openOnes_0 14 rfl rfl)
theorem dX0_openOnes_15 : decode cX0_openOnes 15 = .ok (.iconst 4, 1) := dk_7 (dk_at dksX0_openOnes_0 15 rfl rfl)
theorem dX0_openOnes_16 : decode cX0_openOnes 16 = .ok (.if_icmp .ge 28, 3) := dk_162 0 28 (dk_at dksX0_openOnes_0 16 rfl rfl)
theorem dX0_openOnes_19 : decode cX0_openOnes 19 = .ok (.iload_n 1, 1) := dk_27 (dk_at dksX0_openOnes_0 19 rfl rfl)
theorem dX0_openOnes_20 : decode cX0_openOnes 20 = .ok (.aload_n 0, 1) := dk_42 (dk_at dksX0_openOnes_0 20 rfl rfl)
theorem dX0_openOnes_21 : decode cX0_openOnes 21 = .ok (.getfield 11, 3) := dk_180 0 11 (dk_at dksX0_openOnes_0 21 rfl rfl)
theorem dX0_openOnes_24 : decode cX0_openOnes 24 = .ok (.iload_n 2, 1) := dk_28 (dk_at dksX0_openOnes_1 0 rfl rfl)
theorem dX0_openOnes_25 : decode cX0_openOnes 25 = .ok (.aaload, 1) := dk_50 (dk_at dksX0_openOnes_1 1 rfl rfl)
theorem dX0_openOnes_26 : decode cX0_openOnes 26 = .ok (.iload_n 3, 1) := dk_29 (dk_at dksX0_openOnes_1 2 rfl rfl)
theorem dX0_openOnes_27 : decode cX0_openOnes 27 = .ok (.aaload, 1) := dk_50 (dk_at dksX0_openOnes_1 3 rfl rfl)
theorem dX0_openOnes_28 : decode cX0_openOnes 28 = .ok (.ifnonnull 7, 3) := dk_199 0 7 (dk_at dksX0_openOnes_1 4 rfl rfl)
theorem dX0_openOnes_31 : decode cX0_openOnes 31 = .ok (.iconst 1, 1) := dk_4 (dk_at dksX0_openOnes_1 7 rfl rfl)
theorem dX0_openOnes_32 : decode cX0_openOnes 32 = .ok (.goto 4, 3) := dk_167 0 4 (dk_at dksX0_openOnes_1 8 rfl rfl)
theorem dX0_openOnes_35 : decode cX0_openOnes 35 = .ok (.iconst 0, 1) := dk_3 (dk_at dksX0_openOnes_1 11 rfl rfl)
theorem dX0_openOnes_36 : decode cX0_openOnes 36 = .ok (.iadd, 1) := dk_96 (dk_at dksX0_openOnes_1 12 rfl rfl)
theorem dX0_openOnes_37 : decode cX0_openOnes 37 = .ok (.istore_n 1, 1) := dk_60 (dk_at dksX0_openOnes_1 13 rfl rfl)
theorem dX0_openOnes_38 : decode cX0_openOnes 38 = .ok (.iinc 3 1, 3) := dk_132 3 1 (dk_at dksX0_openOnes_1 14 rfl rfl)
theorem dX0_openOnes_41 : decode cX0_openOnes 41 = .ok (.goto (-27), 3) := dk_167 255 229 (dk_at dksX0_openOnes_1 17 rfl rfl)
theorem dX0_openOnes_44 : decode cX0_openOnes 44 = .ok (.iinc 2 1, 3) := dk_132 2 1 (dk_at dksX0_openOnes_1 20 rfl rfl)
theorem dX0_openOnes_47 : decode cX0_openOnes 47 = .ok (.goto (-43), 3) := dk_167 255 213 (dk_at dksX0_openOnes_2 0 rfl rfl)
theorem dX0_openOnes_50 : decode cX0_openOnes 50 = .ok (.iload_n 1, 1) := dk_27 (dk_at dksX0_openOnes_2 3 rfl rfl)
theorem dX0_openOnes_51 : decode cX0_openOnes 51 = .ok (.ireturn, 1) := dk_172 (dk_at dksX0_openOnes_2 4 rfl rfl)
abbrev cX0_isWhole : ByteArray := prog_1_method_20_code
def yX0_isWhole : MethodName := ⟨RX0, "isWhole", "()Z"⟩
def dkwX0_isWhole_2 : List UInt8 := [42, 29, 182, 0, 146, 5, 160, 0, 7, 4, 167, 0, 4, 3, 60, 132, 3, 1, 167, 255, 229, 27, 172]
abbrev dktX0_isWhole_2 : List UInt8 := dkwX0_isWhole_2 ++ []
def dkwX0_isWhole_1 : List UInt8 := [167, 0, 4, 3, 60, 42, 180, 0, 19, 182, 0, 122, 61, 3, 62, 29, 28, 162, 0, 28, 27, 153, 0, 24]
abbrev dktX0_isWhole_1 : List UInt8 := dkwX0_isWhole_1 ++ dktX0_isWhole_2
def dkwX0_isWhole_0 : List UInt8 := [42, 180, 0, 73, 158, 0, 21, 42, 182, 0, 149, 154, 0, 14, 42, 182, 0, 152, 154, 0, 7, 4]
abbrev dktX0_isWhole_0 : List UInt8 := dkwX0_isWhole_0 ++ dktX0_isWhole_1
theorem dksX0_isWhole_0 : cX0_isWhole.data.toList.drop 0 = dktX0_isWhole_0 := by decide +kernel
theorem dksX0_isWhole_1 : cX0_isWhole.data.toList.drop 22 = dktX0_isWhole_1 := dk_seg dksX0_isWhole_0 22 rfl rfl
theorem dksX0_isWhole_2 : cX0_isWhole.data.toList.drop 46 = dktX0_isWhole_2 := dk_seg dksX0_isWhole_1 24 rfl rfl
theorem dX0_isWhole_0 : decode cX0_isWhole 0 = .ok (.aload_n 0, 1) := dk_42 (dk_at dksX0_isWhole_0 0 rfl rfl)
theorem dX0_isWhole_1 : decode cX0_isWhole 1 = .ok (.getfield 73, 3) := dk_180 0 73 (dk_at dksX0_isWhole_0 1 rfl rfl)
theorem dX0_isWhole_4 : decode cX0_isWhole 4 = .ok (.ifCond .le 21, 3) := dk_158 0 21 (dk_at dksX0_isWhole_0 4 rfl rfl)
theorem dX0_isWhole_7 : decode cX0_isWhole 7 = .ok (.aload_n 0, 1) := dk_42 (dk_at dksX0_isWhole_0 7 rfl rfl)
theorem dX0_isWhole_8 : decode cX0_isWhole 8 = .ok (.invokevirtual 149, 3) := dk_182 0 149 (dk_at dksX0_isWhole_0 8 rfl rfl)
theorem dX0_isWhole_11 : decode cX0_isWhole 11 = .ok (.ifCond .ne 14, 3) := dk_154 0 14 (dk_at dksX0_isWhole_0 11 rfl rfl)
theorem dX0_isWhole_14 : decode cX0_isWhole 14 = .ok (.aload_n 0, 1) := dk_42 (dk_at dksX0_isWhole_0 14 rfl rfl)
theorem dX0_isWhole_15 : decode cX0_isWhole 15 = .ok (.invokevirtual 152, 3) := dk_182 0 152 (dk_at dksX0_isWhole_0 15 rfl rfl)
theorem dX0_isWhole_18 : decode cX0_isWhole 18 = .ok (.ifCond .ne 7, 3) := dk_154 0 7 (dk_at dksX0_isWhole_0 18 rfl rfl)
theorem dX0_isWhole_21 : decode cX0_isWhole 21 = .ok (.iconst 1, 1) := dk_4 (dk_at dksX0_isWhole_0 21 rfl rfl)
theorem dX0_isWhole_22 : decode cX0_isWhole 22 = .ok (.goto 4, 3) := dk_167 0 4 (dk_at dksX0_isWhole_1 0 rfl rfl)
theorem dX0_isWhole_25 : decode cX0_isWhole 25 = .ok (.iconst 0, 1) := dk_3 (dk_at dksX0_isWhole_1 3 rfl rfl)
theorem dX0_isWhole_26 : decode cX0_isWhole 26 = .ok (.istore_n 1, 1) := dk_60 (dk_at dksX0_isWhole_1 4 rfl rfl)
theorem dX0_isWhole_27 : decode cX0_isWhole 27 = .ok (.aload_n 0, 1) := dk_42 (dk_at dksX0_isWhole_1 5 rfl rfl)
theorem dX0_isWhole_28 : decode cX0_isWhole 28 = .ok (.getfield 19, 3) := dk_180 0 19 (dk_at dksX0_isWhole_1 6 rfl rfl)
theorem dX0_isWhole_31 : decode cX0_isWhole 31 = .ok (.invokevirtual 122, 3) := dk_182 0 122 (dk_at dksX0_isWhole_1 9 rfl rfl)
theorem dX0_isWhole_34 : decode cX0_isWhole 34 = .ok (.istore_n 2, 1) := dk_61 (dk_at dksX0_isWhole_1 12 rfl rfl)
theorem dX0_isWhole_35 : decode cX0_isWhole 35 = .ok (.iconst 0, 1) := dk_3 (dk_at dksX0_isWhole_1 13 rfl rfl)
theorem dX0_isWhole_36 : decode cX0_isWhole 36 = .ok (.istore_n 3, 1) := dk_62 (dk_at dksX0_isWhole_1 14 rfl rfl)
theorem dX0_isWhole_37 : decode cX0_isWhole 37 = .ok (.iload_n 3, 1) := dk_29 (dk_at dksX0_isWhole_1 15 rfl rfl)
theorem dX0_isWhole_38 : decode cX0_isWhole 38 = .ok (.iload_n 2, 1) := dk_28 (dk_at dksX0_isWhole_1 16 rfl rfl)
theorem dX0_isWhole_39 : decode cX0_isWhole 39 = .ok (.if_icmp .ge 28, 3) := dk_162 0 28 (dk_at dksX0_isWhole_1 17 rfl rfl)
theorem dX0_isWhole_42 : decode cX0_isWhole 42 = .ok (.iload_n 1, 1) := dk_27 (dk_at dksX0_isWhole_1 20 rfl rfl)
theorem dX0_isWhole_43 : decode cX0_isWhole 43 = .ok (.ifCond .eq 24, 3) := dk_153 0 24 (dk_at dksX0_isWhole_1 21 rfl rfl)
theorem dX0_isWhole_46 : decode cX0_isWhole 46 = .ok (.aload_n 0, 1) := dk_42 (dk_at dksX0_isWhole_2 0 rfl rfl)
theorem dX0_isWhole_47 : decode cX0_isWhole 47 = .ok (.iload_n 3, 1) := dk_29 (dk_at dksX0_isWhole_2 1 rfl rfl)
theorem dX0_isWhole_48 : decode cX0_isWhole 48 = .ok (.invokevirtual 146, 3) := dk_182 0 146 (dk_at dksX0_isWhole_2 2 rfl rfl)
theorem dX0_isWhole_51 : decode cX0_isWhole 51 = .ok (.iconst 2, 1) := dk_5 (dk_at dksX0_isWhole_2 5 rfl rfl)
theorem dX0_isWhole_52 : decode cX0_isWhole 52 = .ok (.if_icmp .ne 7, 3) := dk_160 0 7 (dk_at dksX0_isWhole_2 6 rfl rfl)
theorem dX0_isWhole_55 : decode cX0_isWhole 55 = .ok (.iconst 1, 1) := dk_4 (dk_at dksX0_isWhole_2 9 rfl rfl)
theorem dX0_isWhole_56 : decode cX0_isWhole 56 = .ok (.goto 4, 3) := dk_167 0 4 (dk_at dksX0_isWhole_2 10 rfl rfl)
theorem dX0_isWhole_59 : decode cX0_isWhole 59 = .ok (.iconst 0, 1) := dk_3 (dk_at dksX0_isWhole_2 13 rfl rfl)
theorem dX0_isWhole_60 : decode cX0_isWhole 60 = .ok (.istore_n 1, 1) := dk_60 (dk_at dksX0_isWhole_2 14 rfl rfl)
theorem dX0_isWhole_61 : decode cX0_isWhole 61 = .ok (.iinc 3 1, 3) := dk_132 3 1 (dk_at dksX0_isWhole_2 15 rfl rfl)
theorem dX0_isWhole_64 : decode cX0_isWhole 64 = .ok (.goto (-27), 3) := dk_167 255 229 (dk_at dksX0_isWhole_2 18 rfl rfl)
theorem dX0_isWhole_67 : decode cX0_isWhole 67 = .ok (.iload_n 1, 1) := dk_27 (dk_at dksX0_isWhole_2 21 rfl rfl)
theorem dX0_isWhole_68 : decode cX0_isWhole 68 = .ok (.ireturn, 1) := dk_172 (dk_at dksX0_isWhole_2 22 rfl rfl)
abbrev cX0_hasBent : ByteArray := prog_1_method_19_code
def yX0_hasBent : MethodName := ⟨RX0, "hasBent", "()Z"⟩
def dkwX0_hasBent_1 : List UInt8 := [158, 0, 17, 28, 42, 29, 182, 0, 136, 128, 61, 132, 3, 1, 167, 255, 230, 28, 172]
abbrev dktX0_hasBent_1 : List UInt8 := dkwX0_hasBent_1 ++ []
def dkwX0_hasBent_0 : List UInt8 := [42, 180, 0, 26, 182, 0, 125, 60, 3, 61, 3, 62, 29, 27, 162, 0, 27, 42, 180, 0, 33, 182, 0, 135]
abbrev dktX0_hasBent_0 : List UInt8 := dkwX0_hasBent_0 ++ dktX0_hasBent_1
theorem dksX0_hasBent_0 : cX0_hasBent.data.toList.drop 0 = dktX0_hasBent_0 := by decide +kernel
theorem dksX0_hasBent_1 : cX0_hasBent.data.toList.drop 24 = dktX0_hasBent_1 := dk_seg dksX0_hasBent_0 24 rfl rfl
theorem dX0_hasBent_0 : decode cX0_hasBent 0 = .ok (.aload_n 0, 1) := dk_42 (dk_at dksX0_hasBent_0 0 rfl rfl)
theorem dX0_hasBent_1 : decode cX0_hasBent 1 = .ok (.getfield 26, 3) := dk_180 0 26 (dk_at dksX0_hasBent_0 1 rfl rfl)
theorem dX0_hasBent_4 : decode cX0_hasBent 4 = .ok (.invokevirtual 125, 3) := dk_182 0 125 (dk_at dksX0_hasBent_0 4 rfl rfl)
theorem dX0_hasBent_7 : decode cX0_hasBent 7 = .ok (.istore_n 1, 1) := dk_60 (dk_at dksX0_hasBent_0 7 rfl rfl)
theorem dX0_hasBent_8 : decode cX0_hasBent 8 = .ok (.iconst 0, 1) := dk_3 (dk_at dksX0_hasBent_0 8 rfl rfl)
theorem dX0_hasBent_9 : decode cX0_hasBent 9 = .ok (.istore_n 2, 1) := dk_61 (dk_at dksX0_hasBent_0 9 rfl rfl)
theorem dX0_hasBent_10 : decode cX0_hasBent 10 = .ok (.iconst 0, 1) := dk_3 (dk_at dksX0_hasBent_0 10 rfl rfl)
theorem dX0_hasBent_11 : decode cX0_hasBent 11 = .ok (.istore_n 3, 1) := dk_62 (dk_at dksX0_hasBent_0 11 rfl rfl)
theorem dX0_hasBent_12 : decode cX0_hasBent 12 = .ok (.iload_n 3, 1) := dk_29 (dk_at dksX0_hasBent_0 12 rfl rfl)
theorem dX0_hasBent_13 : decode cX0_hasBent 13 = .ok (.iload_n 1, 1) := dk_27 (dk_at dksX0_hasBent_0 13 rfl rfl)
theorem dX0_hasBent_14 : decode cX0_hasBent 14 = .ok (.if_icmp .ge 27, 3) := dk_162 0 27 (dk_at dksX0_hasBent_0 14 rfl rfl)
theorem dX0_hasBent_17 : decode cX0_hasBent 17 = .ok (.aload_n 0, 1) := dk_42 (dk_at dksX0_hasBent_0 17 rfl rfl)
theorem dX0_hasBent_18 : decode cX0_hasBent 18 = .ok (.getfield 33, 3) := dk_180 0 33 (dk_at dksX0_hasBent_0 18 rfl rfl)
theorem dX0_hasBent_21 : decode cX0_hasBent 21 = .ok (.invokevirtual 135, 3) := dk_182 0 135 (dk_at dksX0_hasBent_0 21 rfl rfl)
theorem dX0_hasBent_24 : decode cX0_hasBent 24 = .ok (.ifCond .le 17, 3) := dk_158 0 17 (dk_at dksX0_hasBent_1 0 rfl rfl)
theorem dX0_hasBent_27 : decode cX0_hasBent 27 = .ok (.iload_n 2, 1) := dk_28 (dk_at dksX0_hasBent_1 3 rfl rfl)
theorem dX0_hasBent_28 : decode cX0_hasBent 28 = .ok (.aload_n 0, 1) := dk_42 (dk_at dksX0_hasBent_1 4 rfl rfl)
theorem dX0_hasBent_29 : decode cX0_hasBent 29 = .ok (.iload_n 3, 1) := dk_29 (dk_at dksX0_hasBent_1 5 rfl rfl)
theorem dX0_hasBent_30 : decode cX0_hasBent 30 = .ok (.invokevirtual 136, 3) := dk_182 0 136 (dk_at dksX0_hasBent_1 6 rfl rfl)
theorem dX0_hasBent_33 : decode cX0_hasBent 33 = .ok (.ior, 1) := dk_128 (dk_at dksX0_hasBent_1 9 rfl rfl)
theorem dX0_hasBent_34 : decode cX0_hasBent 34 = .ok (.istore_n 2, 1) := dk_61 (dk_at dksX0_hasBent_1 10 rfl rfl)
theorem dX0_hasBent_35 : decode cX0_hasBent 35 = .ok (.iinc 3 1, 3) := dk_132 3 1 (dk_at dksX0_hasBent_1 11 rfl rfl)
theorem dX0_hasBent_38 : decode cX0_hasBent 38 = .ok (.goto (-26), 3) := dk_167 255 230 (dk_at dksX0_hasBent_1 14 rfl rfl)
theorem dX0_hasBent_41 : decode cX0_hasBent 41 = .ok (.iload_n 2, 1) := dk_28 (dk_at dksX0_hasBent_1 17 rfl rfl)
theorem dX0_hasBent_42 : decode cX0_hasBent 42 = .ok (.ireturn, 1) := dk_172 (dk_at dksX0_hasBent_1 18 rfl rfl)
abbrev cX0_sets : ByteArray := prog_1_method_21_code
def yX0_sets : MethodName := ⟨RX0, "sets", "()I"⟩
def dkwX0_sets_8 : List UInt8 := [181, 0, 156, 132, 7, 1, 167, 255, 131, 132, 6, 1, 167, 255, 115, 132, 4, 1, 167, 255, 70, 29, 172]
abbrev dktX0_sets_8 : List UInt8 := dkwX0_sets_8 ++ []
def dkwX0_sets_7 : List UInt8 := [25, 8, 198, 0, 15, 43, 25, 8, 180, 0, 116, 46, 21, 9, 160, 0, 7, 4, 167, 0, 4, 3, 126]
abbrev dktX0_sets_7 : List UInt8 := dkwX0_sets_7 ++ dktX0_sets_8
def dkwX0_sets_6 : List UInt8 := [180, 0, 116, 21, 9, 79, 44, 21, 5, 132, 5, 1, 25, 8, 180, 0, 116, 79, 42, 89, 180, 0, 156]
abbrev dktX0_sets_6 : List UInt8 := dkwX0_sets_6 ++ dktX0_sets_7
def dkwX0_sets_5 : List UInt8 := [21, 6, 46, 46, 54, 9, 25, 8, 198, 0, 34, 43, 25, 8, 180, 0, 116, 46, 154, 0, 24, 43, 25, 8]
abbrev dktX0_sets_5 : List UInt8 := dkwX0_sets_5 ++ dktX0_sets_6
def dkwX0_sets_4 : List UInt8 := [167, 0, 27, 25, 8, 182, 0, 159, 153, 0, 13, 43, 44, 21, 6, 46, 46, 116, 167, 0, 9, 43, 44]
abbrev dktX0_sets_4 : List UInt8 := dkwX0_sets_4 ++ dktX0_sets_5
def dkwX0_sets_3 : List UInt8 := [162, 0, 125, 42, 180, 0, 11, 44, 21, 6, 46, 50, 21, 7, 50, 58, 8, 25, 8, 199, 0, 7, 3]
abbrev dktX0_sets_3 : List UInt8 := dkwX0_sets_3 ++ dktX0_sets_4
def dkwX0_sets_2 : List UInt8 := [21, 4, 79, 132, 3, 1, 3, 54, 6, 21, 6, 21, 5, 162, 0, 140, 3, 54, 7, 21, 7, 7]
abbrev dktX0_sets_2 : List UInt8 := dkwX0_sets_2 ++ dktX0_sets_3
def dkwX0_sets_1 : List UInt8 := [162, 0, 183, 3, 54, 5, 43, 21, 4, 46, 154, 0, 20, 43, 21, 4, 4, 79, 44, 21, 5, 132, 5, 1]
abbrev dktX0_sets_1 : List UInt8 := dkwX0_sets_1 ++ dktX0_sets_2
def dkwX0_sets_0 : List UInt8 := [6, 188, 10, 76, 6, 188, 10, 77, 3, 62, 42, 4, 181, 0, 156, 3, 54, 4, 21, 4, 42, 180, 0, 73]
abbrev dktX0_sets_0 : List UInt8 := dkwX0_sets_0 ++ dktX0_sets_1
theorem dksX0_sets_0 : cX0_sets.data.toList.drop 0 = dktX0_sets_0 := by decide +kernel
theorem dksX0_sets_1 : cX0_sets.data.toList.drop 24 = dktX0_sets_1 := dk_seg dksX0_sets_0 24 rfl rfl
theorem dksX0_sets_2 : cX0_sets.data.toList.drop 48 = dktX0_sets_2 := dk_seg dksX0_sets_1 24 rfl rfl
theorem dksX0_sets_3 : cX0_sets.data.toList.drop 70 = dktX0_sets_3 := dk_seg dksX0_sets_2 22 rfl rfl
theorem dksX0_sets_4 : cX0_sets.data.toList.drop 93 = dktX0_sets_4 := dk_seg dksX0_sets_3 23 rfl rfl
theorem dksX0_sets_5 : cX0_sets.data.toList.drop 116 = dktX0_sets_5 := dk_seg dksX0_sets_4 23 rfl rfl
theorem dksX0_sets_6 : cX0_sets.data.toList.drop 140 = dktX0_sets_6 := dk_seg dksX0_sets_5 24 rfl rfl
theorem dksX0_sets_7 : cX0_sets.data.toList.drop 163 = dktX0_sets_7 := dk_seg dksX0_sets_6 23 rfl rfl
theorem dksX0_sets_8 : cX0_sets.data.toList.drop 186 = dktX0_sets_8 := dk_seg dksX0_sets_7 23 rfl rfl
theorem dX0_sets_0 : decode cX0_sets 0 = .ok (.iconst 3, 1) := dk_6 (dk_at dksX0_sets_0 0 rfl rfl)
theorem dX0_sets_1 : decode cX0_sets 1 = .ok (.newarray .int, 2) := dk_188_10 (dk_at dksX0_sets_0 1 rfl rfl)
theorem dX0_sets_3 : decode cX0_sets 3 = .ok (.astore_n 1, 1) := dk_76 (dk_at dksX0_sets_0 3 rfl rfl)
theorem dX0_sets_4 : decode cX0_sets 4 = .ok (.iconst 3, 1) := dk_6 (dk_at dksX0_sets_0 4 rfl rfl)
theorem dX0_sets_5 : decode cX0_sets 5 = .ok (.newarray .int, 2) := dk_188_10 (dk_at dksX0_sets_0 5 rfl rfl)
theorem dX0_sets_7 : decode cX0_sets 7 = .ok (.astore_n 2, 1) := dk_77 (dk_at dksX0_sets_0 7 rfl rfl)
theorem dX0_sets_8 : decode cX0_sets 8 = .ok (.iconst 0, 1) := dk_3 (dk_at dksX0_sets_0 8 rfl rfl)
theorem dX0_sets_9 : decode cX0_sets 9 = .ok (.istore_n 3, 1) := dk_62 (dk_at dksX0_sets_0 9 rfl rfl)
theorem dX0_sets_10 : decode cX0_sets 10 = .ok (.aload_n 0, 1) := dk_42 (dk_at dksX0_sets_0 10 rfl rfl)
theorem dX0_sets_11 : decode cX0_sets 11 = .ok (.iconst 1, 1) := dk_4 (dk_at dksX0_sets_0 11 rfl rfl)
theorem dX0_sets_12 : decode cX0_sets 12 = .ok (.putfield 156, 3) := dk_181 0 156 (dk_at dksX0_sets_0 12 rfl rfl)
theorem dX0_sets_15 : decode cX0_sets 15 = .ok (.iconst 0, 1) := dk_3 (dk_at dksX0_sets_0 15 rfl rfl)
theorem dX0_sets_16 : decode cX0_sets 16 = .ok (.istore 4, 2) := dk_54 4 (dk_at dksX0_sets_0 16 rfl rfl)
theorem dX0_sets_18 : decode cX0_sets 18 = .ok (.iload 4, 2) := dk_21 4 (dk_at dksX0_sets_0 18 rfl rfl)
theorem dX0_sets_20 : decode cX0_sets 20 = .ok (.aload_n 0, 1) := dk_42 (dk_at dksX0_sets_0 20 rfl rfl)
theorem dX0_sets_21 : decode cX0_sets 21 = .ok (.getfield 73, 3) := dk_180 0 73 (dk_at dksX0_sets_0 21 rfl rfl)
theorem dX0_sets_24 : decode cX0_sets 24 = .ok (.if_icmp .ge 183, 3) := dk_162 0 183 (dk_at dksX0_sets_1 0 rfl rfl)
theorem dX0_sets_27 : decode cX0_sets 27 = .ok (.iconst 0, 1) := dk_3 (dk_at dksX0_sets_1 3 rfl rfl)
theorem dX0_sets_28 : decode cX0_sets 28 = .ok (.istore 5, 2) := dk_54 5 (dk_at dksX0_sets_1 4 rfl rfl)
theorem dX0_sets_30 : decode cX0_sets 30 = .ok (.aload_n 1, 1) := dk_43 (dk_at dksX0_sets_1 6 rfl rfl)
theorem dX0_sets_31 : decode cX0_sets 31 = .ok (.iload 4, 2) := dk_21 4 (dk_at dksX0_sets_1 7 rfl rfl)
theorem dX0_sets_33 : decode cX0_sets 33 = .ok (.iaload, 1) := dk_46 (dk_at dksX0_sets_1 9 rfl rfl)
theorem dX0_sets_34 : decode cX0_sets 34 = .ok (.ifCond .ne 20, 3) := dk_154 0 20 (dk_at dksX0_sets_1 10 rfl rfl)
theorem dX0_sets_37 : decode cX0_sets 37 = .ok (.aload_n 1, 1) := dk_43 (dk_at dksX0_sets_1 13 rfl rfl)
theorem dX0_sets_38 : decode cX0_sets 38 = .ok (.iload 4, 2) := dk_21 4 (dk_at dksX0_sets_1 14 rfl rfl)
theorem dX0_sets_40 : decode cX0_sets 40 = .ok (.iconst 1, 1) := dk_4 (dk_at dksX0_sets_1 16 rfl rfl)
theorem dX0_sets_41 : decode cX0_sets 41 = .ok (.iastore, 1) := dk_79 (dk_at dksX0_sets_1 17 rfl rfl)
theorem dX0_sets_42 : decode cX0_sets 42 = .ok (.aload_n 2, 1) := dk_44 (dk_at dksX0_sets_1 18 rfl rfl)
theorem dX0_sets_43 : decode cX0_sets 43 = .ok (.iload 5, 2) := dk_21 5 (dk_at dksX0_sets_1 19 rfl rfl)
theorem dX0_sets_45 : decode cX0_sets 45 = .ok (.iinc 5 1, 3) := dk_132 5 1 (dk_at dksX0_sets_1 21 rfl rfl)
theorem dX0_sets_48 : decode cX0_sets 48 = .ok (.iload 4, 2) := dk_21 4 (dk_at dksX0_sets_2 0 rfl rfl)
theorem dX0_sets_50 : decode cX0_sets 50 = .ok (.iastore, 1) := dk_79 (dk_at dksX0_sets_2 2 rfl rfl)
theorem dX0_sets_51 : decode cX0_sets 51 = .ok (.iinc 3 1, 3) := dk_132 3 1 (dk_at dksX0_sets_2 3 rfl rfl)
theorem dX0_sets_54 : decode cX0_sets 54 = .ok (.iconst 0, 1) := dk_3 (dk_at dksX0_sets_2 6 rfl rfl)
theorem dX0_sets_55 : decode cX0_sets 55 = .ok (.istore 6, 2) := dk_54 6 (dk_at dksX0_sets_2 7 rfl rfl)
theorem dX0_sets_57 : decode cX0_sets 57 = .ok (.iload 6, 2) := dk_21 6 (dk_at dksX0_sets_2 9 rfl rfl)
theorem dX0_sets_59 : decode cX0_sets 59 = .ok (.iload 5, 2) := dk_21 5 (dk_at dksX0_sets_2 11 rfl rfl)
theorem dX0_sets_61 : decode cX0_sets 61 = .ok (.if_icmp .ge 140, 3) := dk_162 0 140 (dk_at dksX0_sets_2 13 rfl rfl)
theorem dX0_sets_64 : decode cX0_sets 64 = .ok (.iconst 0, 1) := dk_3 (dk_at dksX0_sets_2 16 rfl rfl)
theorem dX0_sets_65 : decode cX0_sets 65 = .ok (.istore 7, 2) := dk_54 7 (dk_at dksX0_sets_2 17 rfl rfl)
theorem dX0_sets_67 : decode cX0_sets 67 = .ok (.iload 7, 2) := dk_21 7 (dk_at dksX0_sets_2 19 rfl rfl)
theorem dX0_sets_69 : decode cX0_sets 69 = .ok (.iconst 4, 1) := dk_7 (dk_at dksX0_sets_2 21 rfl rfl)
theorem dX0_sets_70 : decode cX0_sets 70 = .ok (.if_icmp .ge 125, 3) := dk_162 0 125 (dk_at dksX0_sets_3 0 rfl rfl)
theorem dX0_sets_73 : decode cX0_sets 73 = .ok (.aload_n 0, 1) := dk_42 (dk_at dksX0_sets_3 3 rfl rfl)
theorem dX0_sets_74 : decode cX0_sets 74 = .ok (.getfield 11, 3) := dk_180 0 11 (dk_at dksX0_sets_3 4 rfl rfl)
theorem dX0_sets_77 : decode cX0_sets 77 = .ok (.aload_n 2, 1) := dk_44 (dk_at dksX0_sets_3 7 rfl rfl)
theorem dX0_sets_78 : decode cX0_sets 78 = .ok (.iload 6, 2) := dk_21 6 (dk_at dksX0_sets_3 8 rfl rfl)
theorem dX0_sets_80 : decode cX0_sets 80 = .ok (.iaload, 1) := dk_46 (dk_at dksX0_sets_3 10 rfl rfl)
theorem dX0_sets_81 : decode cX0_sets 81 = .ok (.aaload, 1) := dk_50 (dk_at dksX0_sets_3 11 rfl rfl)
theorem dX0_sets_82 : decode cX0_sets 82 = .ok (.iload 7, 2) := dk_21 7 (dk_at dksX0_sets_3 12 rfl rfl)
theorem dX0_sets_84 : decode cX0_sets 84 = .ok (.aaload, 1) := dk_50 (dk_at dksX0_sets_3 14 rfl rfl)
theorem dX0_sets_85 : decode cX0_sets 85 = .ok (.astore 8, 2) := dk_58 8 (dk_at dksX0_sets_3 15 rfl rfl)
theorem dX0_sets_87 : decode cX0_sets 87 = .ok (.aload 8, 2) := dk_25 8 (dk_at dksX0_sets_3 17 rfl rfl)
theorem dX0_sets_89 : decode cX0_sets 89 = .ok (.ifnonnull 7, 3) := dk_199 0 7 (dk_at dksX0_sets_3 19 rfl rfl)
theorem dX0_sets_92 : decode cX0_sets 92 = .ok (.iconst 0, 1) := dk_3 (dk_at dksX0_sets_3 22 rfl rfl)
theorem dX0_sets_93 : decode cX0_sets 93 = .ok (.goto 27, 3) := dk_167 0 27 (dk_at dksX0_sets_4 0 rfl rfl)
theorem dX0_sets_96 : decode cX0_sets 96 = .ok (.aload 8, 2) := dk_25 8 (dk_at dksX0_sets_4 3 rfl rfl)
theorem dX0_sets_98 : decode cX0_sets 98 = .ok (.invokevirtual 159, 3) := dk_182 0 159 (dk_at dksX0_sets_4 5 rfl rfl)
theorem dX0_sets_101 : decode cX0_sets 101 = .ok (.ifCond .eq 13, 3) := dk_153 0 13 (dk_at dksX0_sets_4 8 rfl rfl)
theorem dX0_sets_104 : decode cX0_sets 104 = .ok (.aload_n 1, 1) := dk_43 (dk_at dksX0_sets_4 11 rfl rfl)
theorem dX0_sets_105 : decode cX0_sets 105 = .ok (.aload_n 2, 1) := dk_44 (dk_at dksX0_sets_4 12 rfl rfl)
theorem dX0_sets_106 : decode cX0_sets 106 = .ok (.iload 6, 2) := dk_21 6 (dk_at dksX0_sets_4 13 rfl rfl)
theorem dX0_sets_108 : decode cX0_sets 108 = .ok (.iaload, 1) := dk_46 (dk_at dksX0_sets_4 15 rfl rfl)
theorem dX0_sets_109 : decode cX0_sets 109 = .ok (.iaload, 1) := dk_46 (dk_at dksX0_sets_4 16 rfl rfl)
theorem dX0_sets_110 : decode cX0_sets 110 = .ok (.ineg, 1) := dk_116 (dk_at dksX0_sets_4 17 rfl rfl)
theorem dX0_sets_111 : decode cX0_sets 111 = .ok (.goto 9, 3) := dk_167 0 9 (dk_at dksX0_sets_4 18 rfl rfl)
theorem dX0_sets_114 : decode cX0_sets 114 = .ok (.aload_n 1, 1) := dk_43 (dk_at dksX0_sets_4 21 rfl rfl)
theorem dX0_sets_115 : decode cX0_sets 115 = .ok (.aload_n 2, 1) := dk_44 (dk_at dksX0_sets_4 22 rfl rfl)
theorem dX0_sets_116 : decode cX0_sets 116 = .ok (.iload 6, 2) := dk_21 6 (dk_at dksX0_sets_5 0 rfl rfl)
theorem dX0_sets_118 : decode cX0_sets 118 = .ok (.iaload, 1) := dk_46 (dk_at dksX0_sets_5 2 rfl rfl)
theorem dX0_sets_119 : decode cX0_sets 119 = .ok (.iaload, 1) := dk_46 (dk_at dksX0_sets_5 3 rfl rfl)
theorem dX0_sets_120 : decode cX0_sets 120 = .ok (.istore 9, 2) := dk_54 9 (dk_at dksX0_sets_5 4 rfl rfl)
theorem dX0_sets_122 : decode cX0_sets 122 = .ok (.aload 8, 2) := dk_25 8 (dk_at dksX0_sets_5 6 rfl rfl)
theorem dX0_sets_124 : decode cX0_sets 124 = .ok (.ifnull 34, 3) := dk_198 0 34 (dk_at dksX0_sets_5 8 rfl rfl)
theorem dX0_sets_127 : decode cX0_sets 127 = .ok (.aload_n 1, 1) := dk_43 (dk_at dksX0_sets_5 11 rfl rfl)
theorem dX0_sets_128 : decode cX0_sets 128 = .ok (.aload 8, 2) := dk_25 8 (dk_at dksX0_sets_5 12 rfl rfl)
theorem dX0_sets_130 : decode cX0_sets 130 = .ok (.getfield 116, 3) := dk_180 0 116 (dk_at dksX0_sets_5 14 rfl rfl)
theorem dX0_sets_133 : decode cX0_sets 133 = .ok (.iaload, 1) := dk_46 (dk_at dksX0_sets_5 17 rfl rfl)
theorem dX0_sets_134 : decode cX0_sets 134 = .ok (.ifCond .ne 24, 3) := dk_154 0 24 (dk_at dksX0_sets_5 18 rfl rfl)
theorem dX0_sets_137 : decode cX0_sets 137 = .ok (.aload_n 1, 1) := dk_43 (dk_at dksX0_sets_5 21 rfl rfl)
theorem dX0_sets_138 : decode cX0_sets 138 = .ok (.aload 8, 2) := dk_25 8 (dk_at dksX0_sets_5 22 rfl rfl)
theorem dX0_sets_140 : decode cX0_sets 140 = .ok (.getfield 116, 3) := dk_180 0 116 (dk_at dksX0_sets_6 0 rfl rfl)
theorem dX0_sets_143 : decode cX0_sets 143 = .ok (.iload 9, 2) := dk_21 9 (dk_at dksX0_sets_6 3 rfl rfl)
theorem dX0_sets_145 : decode cX0_sets 145 = .ok (.iastore, 1) := dk_79 (dk_at dksX0_sets_6 5 rfl rfl)
theorem dX0_sets_146 : decode cX0_sets 146 = .ok (.aload_n 2, 1) := dk_44 (dk_at dksX0_sets_6 6 rfl rfl)
theorem dX0_sets_147 : decode cX0_sets 147 = .ok (.iload 5, 2) := dk_21 5 (dk_at dksX0_sets_6 7 rfl rfl)
theorem dX0_sets_149 : decode cX0_sets 149 = .ok (.iinc 5 1, 3) := dk_132 5 1 (dk_at dksX0_sets_6 9 rfl rfl)
theorem dX0_sets_152 : decode cX0_sets 152 = .ok (.aload 8, 2) := dk_25 8 (dk_at dksX0_sets_6 12 rfl rfl)
theorem dX0_sets_154 : decode cX0_sets 154 = .ok (.getfield 116, 3) := dk_180 0 116 (dk_at dksX0_sets_6 14 rfl rfl)
theorem dX0_sets_157 : decode cX0_sets 157 = .ok (.iastore, 1) := dk_79 (dk_at dksX0_sets_6 17 rfl rfl)
theorem dX0_sets_158 : decode cX0_sets 158 = .ok (.aload_n 0, 1) := dk_42 (dk_at dksX0_sets_6 18 rfl rfl)
theorem dX0_sets_159 : decode cX0_sets 159 = .ok (.dup, 1) := dk_89 (dk_at dksX0_sets_6 19 rfl rfl)
theorem dX0_sets_160 : decode cX0_sets 160 = .ok (.getfield 156, 3) := dk_180 0 156 (dk_at dksX0_sets_6 20 rfl rfl)
theorem dX0_sets_163 : decode cX0_sets 163 = .ok (.aload 8, 2) := dk_25 8 (dk_at dksX0_sets_7 0 rfl rfl)
theorem dX0_sets_165 : decode cX0_sets 165 = .ok (.ifnull 15, 3) := dk_198 0 15 (dk_at dksX0_sets_7 2 rfl rfl)
theorem dX0_sets_168 : decode cX0_sets 168 = .ok (.aload_n 1, 1) := dk_43 (dk_at dksX0_sets_7 5 rfl rfl)
theorem dX0_sets_169 : decode cX0_sets 169 = .ok (.aload 8, 2) := dk_25 8 (dk_at dksX0_sets_7 6 rfl rfl)
theorem dX0_sets_171 : decode cX0_sets 171 = .ok (.getfield 116, 3) := dk_180 0 116 (dk_at dksX0_sets_7 8 rfl rfl)
theorem dX0_sets_174 : decode cX0_sets 174 = .ok (.iaload, 1) := dk_46 (dk_at dksX0_sets_7 11 rfl rfl)
theorem dX0_sets_175 : decode cX0_sets 175 = .ok (.iload 9, 2) := dk_21 9 (dk_at dksX0_sets_7 12 rfl rfl)
theorem dX0_sets_177 : decode cX0_sets 177 = .ok (.if_icmp .ne 7, 3) := dk_160 0 7 (dk_at dksX0_sets_7 14 rfl rfl)
theorem dX0_sets_180 : decode cX0_sets 180 = .ok (.iconst 1, 1) := dk_4 (dk_at dksX0_sets_7 17 rfl rfl)
theorem dX0_sets_181 : decode cX0_sets 181 = .ok (.goto 4, 3) := dk_167 0 4 (dk_at dksX0_sets_7 18 rfl rfl)
theorem dX0_sets_184 : decode cX0_sets 184 = .ok (.iconst 0, 1) := dk_3 (dk_at dksX0_sets_7 21 rfl rfl)
theorem dX0_sets_185 : decode cX0_sets 185 = .ok (.iand, 1) := dk_126 (dk_at dksX0_sets_7 22 rfl rfl)
theorem dX0_sets_186 : decode cX0_sets 186 = .ok (.putfield 156, 3) := dk_181 0 156 (dk_at dksX0_sets_8 0 rfl rfl)
theorem dX0_sets_189 : decode cX0_sets 189 = .ok (.iinc 7 1, 3) := dk_132 7 1 (dk_at dksX0_sets_8 3 rfl rfl)
theorem dX0_sets_192 : decode cX0_sets 192 = .ok (.goto (-125), 3) := dk_167 255 131 (dk_at dksX0_sets_8 6 rfl rfl)
theorem dX0_sets_195 : decode cX0_sets 195 = .ok (.iinc 6 1, 3) := dk_132 6 1 (dk_at dksX0_sets_8 9 rfl rfl)
theorem dX0_sets_198 : decode cX0_sets 198 = .ok (.goto (-141), 3) := dk_167 255 115 (dk_at dksX0_sets_8 12 rfl rfl)
theorem dX0_sets_201 : decode cX0_sets 201 = .ok (.iinc 4 1, 3) := dk_132 4 1 (dk_at dksX0_sets_8 15 rfl rfl)
theorem dX0_sets_204 : decode cX0_sets 204 = .ok (.goto (-186), 3) := dk_167 255 70 (dk_at dksX0_sets_8 18 rfl rfl)
theorem dX0_sets_207 : decode cX0_sets 207 = .ok (.iload_n 3, 1) := dk_29 (dk_at dksX0_sets_8 21 rfl rfl)
theorem dX0_sets_208 : decode cX0_sets 208 = .ok (.ireturn, 1) := dk_172 (dk_at dksX0_sets_8 22 rfl rfl)
abbrev cX0_holes : ByteArray := prog_1_method_29_code
def yX0_holes : MethodName := ⟨RX0, "holes", "(I)I"⟩
def dkwX0_holes_4 : List UInt8 := [167, 255, 214, 2, 172]
abbrev dktX0_holes_4 : List UInt8 := dkwX0_holes_4 ++ []
def dkwX0_holes_3 : List UInt8 := [4, 167, 0, 4, 3, 100, 54, 4, 21, 4, 154, 0, 11, 42, 180, 0, 42, 29, 47, 136, 172, 132, 3, 1]
abbrev dktX0_holes_3 : List UInt8 := dkwX0_holes_3 ++ dktX0_holes_4
def dkwX0_holes_2 : List UInt8 := [172, 3, 62, 27, 54, 4, 29, 28, 162, 0, 43, 21, 4, 42, 180, 0, 42, 29, 47, 10, 148, 158, 0, 7]
abbrev dktX0_holes_2 : List UInt8 := dkwX0_holes_2 ++ dktX0_holes_3
def dkwX0_holes_1 : List UInt8 := [182, 0, 196, 61, 27, 154, 0, 20, 42, 182, 0, 161, 42, 180, 0, 73, 100, 42, 182, 0, 167, 96, 28, 100]
abbrev dktX0_holes_1 : List UInt8 := dkwX0_holes_1 ++ dktX0_holes_2
def dkwX0_holes_0 : List UInt8 := [27, 156, 0, 6, 16, 254, 172, 42, 182, 0, 152, 153, 0, 6, 16, 253, 172, 42, 42, 182, 0, 193]
abbrev dktX0_holes_0 : List UInt8 := dkwX0_holes_0 ++ dktX0_holes_1
theorem dksX0_holes_0 : cX0_holes.data.toList.drop 0 = dktX0_holes_0 := by decide +kernel
theorem dksX0_holes_1 : cX0_holes.data.toList.drop 22 = dktX0_holes_1 := dk_seg dksX0_holes_0 22 rfl rfl
theorem dksX0_holes_2 : cX0_holes.data.toList.drop 46 = dktX0_holes_2 := dk_seg dksX0_holes_1 24 rfl rfl
theorem dksX0_holes_3 : cX0_holes.data.toList.drop 70 = dktX0_holes_3 := dk_seg dksX0_holes_2 24 rfl rfl
theorem dksX0_holes_4 : cX0_holes.data.toList.drop 94 = dktX0_holes_4 := dk_seg dksX0_holes_3 24 rfl rfl
theorem dX0_holes_0 : decode cX0_holes 0 = .ok (.iload_n 1, 1) := dk_27 (dk_at dksX0_holes_0 0 rfl rfl)
theorem dX0_holes_1 : decode cX0_holes 1 = .ok (.ifCond .ge 6, 3) := dk_156 0 6 (dk_at dksX0_holes_0 1 rfl rfl)
theorem dX0_holes_4 : decode cX0_holes 4 = .ok (.bipush (-2), 2) := dk_16 254 (dk_at dksX0_holes_0 4 rfl rfl)
theorem dX0_holes_6 : decode cX0_holes 6 = .ok (.ireturn, 1) := dk_172 (dk_at dksX0_holes_0 6 rfl rfl)
theorem dX0_holes_7 : decode cX0_holes 7 = .ok (.aload_n 0, 1) := dk_42 (dk_at dksX0_holes_0 7 rfl rfl)
theorem dX0_holes_8 : decode cX0_holes 8 = .ok (.invokevirtual 152, 3) := dk_182 0 152 (dk_at dksX0_holes_0 8 rfl rfl)
theorem dX0_holes_11 : decode cX0_holes 11 = .ok (.ifCond .eq 6, 3) := dk_153 0 6 (dk_at dksX0_holes_0 11 rfl rfl)
theorem dX0_holes_14 : decode cX0_holes 14 = .ok (.bipush (-3), 2) := dk_16 253 (dk_at dksX0_holes_0 14 rfl rfl)
theorem dX0_holes_16 : decode cX0_holes 16 = .ok (.ireturn, 1) := dk_172 (dk_at dksX0_holes_0 16 rfl rfl)
theorem dX0_holes_17 : decode cX0_holes 17 = .ok (.aload_n 0, 1) := dk_42 (dk_at dksX0_holes_0 17 rfl rfl)
theorem dX0_holes_18 : decode cX0_holes 18 = .ok (.aload_n 0, 1) := dk_42 (dk_at dksX0_holes_0 18 rfl rfl)
theorem dX0_holes_19 : decode cX0_holes 19 = .ok (.invokevirtual 193, 3) := dk_182 0 193 (dk_at dksX0_holes_0 19 rfl rfl)
theorem dX0_holes_22 : decode cX0_holes 22 = .ok (.invokevirtual 196, 3) := dk_182 0 196 (dk_at dksX0_holes_1 0 rfl rfl)
theorem dX0_holes_25 : decode cX0_holes 25 = .ok (.istore_n 2, 1) := dk_61 (dk_at dksX0_holes_1 3 rfl rfl)
theorem dX0_holes_26 : decode cX0_holes 26 = .ok (.iload_n 1, 1) := dk_27 (dk_at dksX0_holes_1 4 rfl rfl)
theorem dX0_holes_27 : decode cX0_holes 27 = .ok (.ifCond .ne 20, 3) := dk_154 0 20 (dk_at dksX0_holes_1 5 rfl rfl)
theorem dX0_holes_30 : decode cX0_holes 30 = .ok (.aload_n 0, 1) := dk_42 (dk_at dksX0_holes_1 8 rfl rfl)
theorem dX0_holes_31 : decode cX0_holes 31 = .ok (.invokevirtual 161, 3) := dk_182 0 161 (dk_at dksX0_holes_1 9 rfl rfl)
theorem dX0_holes_34 : decode cX0_holes 34 = .ok (.aload_n 0, 1) := dk_42 (dk_at dksX0_holes_1 12 rfl rfl)
theorem dX0_holes_35 : decode cX0_holes 35 = .ok (.getfield 73, 3) := dk_180 0 73 (dk_at dksX0_holes_1 13 rfl rfl)
theorem dX0_holes_38 : decode cX0_holes 38 = .ok (.isub, 1) := dk_100 (dk_at dksX0_holes_1 16 rfl rfl)
theorem dX0_holes_39 : decode cX0_holes 39 = .ok (.aload_n 0, 1) := dk_42 (dk_at dksX0_holes_1 17 rfl rfl)
theorem dX0_holes_40 : decode cX0_holes 40 = .ok (.invokevirtual 167, 3) := dk_182 0 167 (dk_at dksX0_holes_1 18 rfl rfl)
theorem dX0_holes_43 : decode cX0_holes 43 = .ok (.iadd, 1) := dk_96 (dk_at dksX0_holes_1 21 rfl rfl)
theorem dX0_holes_44 : decode cX0_holes 44 = .ok (.iload_n 2, 1) := dk_28 (dk_at dksX0_holes_1 22 rfl rfl)
theorem dX0_holes_45 : decode cX0_holes 45 = .ok (.isub, 1) := dk_100 (dk_at dksX0_holes_1 23 rfl rfl)
theorem dX0_holes_46 : decode cX0_holes 46 = .ok (.ireturn, 1) := dk_172 (dk_at dksX0_holes_2 0 rfl rfl)
theorem dX0_holes_47 : decode cX0_holes 47 = .ok (.iconst 0, 1) := dk_3 (dk_at dksX0_holes_2 1 rfl rfl)
theorem dX0_holes_48 : decode cX0_holes 48 = .ok (.istore_n 3, 1) := dk_62 (dk_at dksX0_holes_2 2 rfl rfl)
theorem dX0_holes_49 : decode cX0_holes 49 = .ok (.iload_n 1, 1) := dk_27 (dk_at dksX0_holes_2 3 rfl rfl)
theorem dX0_holes_50 : decode cX0_holes 50 = .ok (.istore 4, 2) := dk_54 4 (dk_at dksX0_holes_2 4 rfl rfl)
theorem dX0_holes_52 : decode cX0_holes 52 = .ok (.iload_n 3, 1) := dk_29 (dk_at dksX0_holes_2 6 rfl rfl)
theorem dX0_holes_53 : decode cX0_holes 53 = .ok (.iload_n 2, 1) := dk_28 (dk_at dksX0_holes_2 7 rfl rfl)
theorem dX0_holes_54 : decode cX0_holes 54 = .ok (.if_icmp .ge 43, 3) := dk_162 0 43 (dk_at dksX0_holes_2 8 rfl rfl)
theorem dX0_holes_57 : decode cX0_holes 57 = .ok (.iload 4, 2) := dk_21 4 (dk_at dksX0_holes_2 11 rfl rfl)
theorem dX0_holes_59 : decode cX0_holes 59 = .ok (.aload_n 0, 1) := dk_42 (dk_at dksX0_holes_2 13 rfl rfl)
theorem dX0_holes_60 : decode cX0_holes 60 = .ok (.getfield 42, 3) := dk_180 0 42 (dk_at dksX0_holes_2 14 rfl rfl)
theorem dX0_holes_63 : decode cX0_holes 63 = .ok (.iload_n 3, 1) := dk_29 (dk_at dksX0_holes_2 17 rfl rfl)
theorem dX0_holes_64 : decode cX0_holes 64 = .ok (.laload, 1) := dk_47 (dk_at dksX0_holes_2 18 rfl rfl)
theorem dX0_holes_65 : decode cX0_holes 65 = .ok (.lconst 1, 1) := dk_10 (dk_at dksX0_holes_2 19 rfl rfl)
theorem dX0_holes_66 : decode cX0_holes 66 = .ok (.lcmp, 1) := dk_148 (dk_at dksX0_holes_2 20 rfl rfl)
theorem dX0_holes_67 : decode cX0_holes 67 = .ok (.ifCond .le 7, 3) := dk_158 0 7 (dk_at dksX0_holes_2 21 rfl rfl)
theorem dX0_holes_70 : decode cX0_holes 70 = .ok (.iconst 1, 1) := dk_4 (dk_at dksX0_holes_3 0 rfl rfl)
theorem dX0_holes_71 : decode cX0_holes 71 = .ok (.goto 4, 3) := dk_167 0 4 (dk_at dksX0_holes_3 1 rfl rfl)
theorem dX0_holes_74 : decode cX0_holes 74 = .ok (.iconst 0, 1) := dk_3 (dk_at dksX0_holes_3 4 rfl rfl)
theorem dX0_holes_75 : decode cX0_holes 75 = .ok (.isub, 1) := dk_100 (dk_at dksX0_holes_3 5 rfl rfl)
theorem dX0_holes_76 : decode cX0_holes 76 = .ok (.istore 4, 2) := dk_54 4 (dk_at dksX0_holes_3 6 rfl rfl)
theorem dX0_holes_78 : decode cX0_holes 78 = .ok (.iload 4, 2) := dk_21 4 (dk_at dksX0_holes_3 8 rfl rfl)
theorem dX0_holes_80 : decode cX0_holes 80 = .ok (.ifCond .ne 11, 3) := dk_154 0 11 (dk_at dksX0_holes_3 10 rfl rfl)
theorem dX0_holes_83 : decode cX0_holes 83 = .ok (.aload_n 0, 1) := dk_42 (dk_at dksX0_holes_3 13 rfl rfl)
theorem dX0_holes_84 : decode cX0_holes 84 = .ok (.getfield 42, 3) := dk_180 0 42 (dk_at dksX0_holes_3 14 rfl rfl)
theorem dX0_holes_87 : decode cX0_holes 87 = .ok (.iload_n 3, 1) := dk_29 (dk_at dksX0_holes_3 17 rfl rfl)
theorem dX0_holes_88 : decode cX0_holes 88 = .ok (.laload, 1) := dk_47 (dk_at dksX0_holes_3 18 rfl rfl)
theorem dX0_holes_89 : decode cX0_holes 89 = .ok (.l2i, 1) := dk_136 (dk_at dksX0_holes_3 19 rfl rfl)
theorem dX0_holes_90 : decode cX0_holes 90 = .ok (.ireturn, 1) := dk_172 (dk_at dksX0_holes_3 20 rfl rfl)
theorem dX0_holes_91 : decode cX0_holes 91 = .ok (.iinc 3 1, 3) := dk_132 3 1 (dk_at dksX0_holes_3 21 rfl rfl)
theorem dX0_holes_94 : decode cX0_holes 94 = .ok (.goto (-42), 3) := dk_167 255 214 (dk_at dksX0_holes_4 0 rfl rfl)
theorem dX0_holes_97 : decode cX0_holes 97 = .ok (.iconst (-1), 1) := dk_2 (dk_at dksX0_holes_4 3 rfl rfl)
theorem dX0_holes_98 : decode cX0_holes 98 = .ok (.ireturn, 1) := dk_172 (dk_at dksX0_holes_4 4 rfl rfl)
abbrev cX0_loops : ByteArray := prog_1_method_25_code
def yX0_loops : MethodName := ⟨RX0, "loops", "()I"⟩
def dkwX0_loops_2 : List UInt8 := [132, 3, 1, 167, 255, 219, 28, 172]
abbrev dktX0_loops_2 : List UInt8 := dkwX0_loops_2 ++ []
def dkwX0_loops_1 : List UInt8 := [182, 0, 130, 42, 180, 0, 39, 28, 50, 182, 0, 178, 153, 0, 7, 4, 167, 0, 4, 3, 96, 61]
abbrev dktX0_loops_1 : List UInt8 := dkwX0_loops_1 ++ dktX0_loops_2
def dkwX0_loops_0 : List UInt8 := [42, 180, 0, 26, 182, 0, 125, 60, 3, 61, 3, 62, 29, 27, 162, 0, 38, 28, 42, 42, 180, 0, 26, 29]
abbrev dktX0_loops_0 : List UInt8 := dkwX0_loops_0 ++ dktX0_loops_1
theorem dksX0_loops_0 : cX0_loops.data.toList.drop 0 = dktX0_loops_0 := by decide +kernel
theorem dksX0_loops_1 : cX0_loops.data.toList.drop 24 = dktX0_loops_1 := dk_seg dksX0_loops_0 24 rfl rfl
theorem dksX0_loops_2 : cX0_loops.data.toList.drop 46 = dktX0_loops_2 := dk_seg dksX0_loops_1 22 rfl rfl
theorem dX0_loops_0 : decode cX0_loops 0 = .ok (.aload_n 0, 1) := dk_42 (dk_at dksX0_loops_0 0 rfl rfl)
theorem dX0_loops_1 : decode cX0_loops 1 = .ok (.getfield 26, 3) := dk_180 0 26 (dk_at dksX0_loops_0 1 rfl rfl)
theorem dX0_loops_4 : decode cX0_loops 4 = .ok (.invokevirtual 125, 3) := dk_182 0 125 (dk_at dksX0_loops_0 4 rfl rfl)
theorem dX0_loops_7 : decode cX0_loops 7 = .ok (.istore_n 1, 1) := dk_60 (dk_at dksX0_loops_0 7 rfl rfl)
theorem dX0_loops_8 : decode cX0_loops 8 = .ok (.iconst 0, 1) := dk_3 (dk_at dksX0_loops_0 8 rfl rfl)
theorem dX0_loops_9 : decode cX0_loops 9 = .ok (.istore_n 2, 1) := dk_61 (dk_at dksX0_loops_0 9 rfl rfl)
theorem dX0_loops_10 : decode cX0_loops 10 = .ok (.iconst 0, 1) := dk_3 (dk_at dksX0_loops_0 10 rfl rfl)
theorem dX0_loops_11 : decode cX0_loops 11 = .ok (.istore_n 3, 1) := dk_62 (dk_at dksX0_loops_0 11 rfl rfl)
theorem dX0_loops_12 : decode cX0_loops 12 = .ok (.iload_n 3, 1) := dk_29 (dk_at dksX0_loops_0 12 rfl rfl)
theorem dX0_loops_13 : decode cX0_loops 13 = .ok (.iload_n 1, 1) := dk_27 (dk_at dksX0_loops_0 13 rfl rfl)
theorem dX0_loops_14 : decode cX0_loops 14 = .ok (.if_icmp .ge 38, 3) := dk_162 0 38 (dk_at dksX0_loops_0 14 rfl rfl)
theorem dX0_loops_17 : decode cX0_loops 17 = .ok (.iload_n 2, 1) := dk_28 (dk_at dksX0_loops_0 17 rfl rfl)
theorem dX0_loops_18 : decode cX0_loops 18 = .ok (.aload_n 0, 1) := dk_42 (dk_at dksX0_loops_0 18 rfl rfl)
theorem dX0_loops_19 : decode cX0_loops 19 = .ok (.aload_n 0, 1) := dk_42 (dk_at dksX0_loops_0 19 rfl rfl)
theorem dX0_loops_20 : decode cX0_loops 20 = .ok (.getfield 26, 3) := dk_180 0 26 (dk_at dksX0_loops_0 20 rfl rfl)
theorem dX0_loops_23 : decode cX0_loops 23 = .ok (.iload_n 3, 1) := dk_29 (dk_at dksX0_loops_0 23 rfl rfl)
theorem dX0_loops_24 : decode cX0_loops 24 = .ok (.invokevirtual 130, 3) := dk_182 0 130 (dk_at dksX0_loops_1 0 rfl rfl)
theorem dX0_loops_27 : decode cX0_loops 27 = .ok (.aload_n 0, 1) := dk_42 (dk_at dksX0_loops_1 3 rfl rfl)
theorem dX0_loops_28 : decode cX0_loops 28 = .ok (.getfield 39, 3) := dk_180 0 39 (dk_at dksX0_loops_1 4 rfl rfl)
theorem dX0_loops_31 : decode cX0_loops 31 = .ok (.iload_n 2, 1) := dk_28 (dk_at dksX0_loops_1 7 rfl rfl)
theorem dX0_loops_32 : decode cX0_loops 32 = .ok (.aaload, 1) := dk_50 (dk_at dksX0_loops_1 8 rfl rfl)
theorem dX0_loops_33 : decode cX0_loops 33 = .ok (.invokevirtual 178, 3) := dk_182 0 178 (dk_at dksX0_loops_1 9 rfl rfl)
theorem dX0_loops_36 : decode cX0_loops 36 = .ok (.ifCond .eq 7, 3) := dk_153 0 7 (dk_at dksX0_loops_1 12 rfl rfl)
theorem dX0_loops_39 : decode cX0_loops 39 = .ok (.iconst 1, 1) := dk_4 (dk_at dksX0_loops_1 15 rfl rfl)
theorem dX0_loops_40 : decode cX0_loops 40 = .ok (.goto 4, 3) := dk_167 0 4 (dk_at dksX0_loops_1 16 rfl rfl)
theorem dX0_loops_43 : decode cX0_loops 43 = .ok (.iconst 0, 1) := dk_3 (dk_at dksX0_loops_1 19 rfl rfl)
theorem dX0_loops_44 : decode cX0_loops 44 = .ok (.iadd, 1) := dk_96 (dk_at dksX0_loops_1 20 rfl rfl)
theorem dX0_loops_45 : decode cX0_loops 45 = .ok (.istore_n 2, 1) := dk_61 (dk_at dksX0_loops_1 21 rfl rfl)
theorem dX0_loops_46 : decode cX0_loops 46 = .ok (.iinc 3 1, 3) := dk_132 3 1 (dk_at dksX0_loops_2 0 rfl rfl)
theorem dX0_loops_49 : decode cX0_loops 49 = .ok (.goto (-37), 3) := dk_167 255 219 (dk_at dksX0_loops_2 3 rfl rfl)
theorem dX0_loops_52 : decode cX0_loops 52 = .ok (.iload_n 2, 1) := dk_28 (dk_at dksX0_loops_2 6 rfl rfl)
theorem dX0_loops_53 : decode cX0_loops 53 = .ok (.ireturn, 1) := dk_172 (dk_at dksX0_loops_2 7 rfl rfl)
abbrev cX0_goAround : ByteArray := prog_1_method_24_code
def yX0_goAround : MethodName := ⟨RX0, "goAround", "(I[J)Z"⟩
def dkwX0_goAround_9 : List UInt8 := [21, 10, 21, 5, 160, 255, 122, 21, 7, 21, 6, 160, 255, 115, 4, 172]
abbrev dktX0_goAround_9 : List UInt8 := dkwX0_goAround_9 ++ []
def dkwX0_goAround_8 : List UInt8 := [21, 10, 100, 25, 11, 180, 0, 119, 100, 54, 7, 21, 8, 29, 160, 255, 136, 21, 9, 21, 4, 160, 255, 129]
abbrev dktX0_goAround_8 : List UInt8 := dkwX0_goAround_8 ++ dktX0_goAround_9
def dkwX0_goAround_7 : List UInt8 := [54, 9, 25, 11, 180, 0, 175, 21, 10, 46, 54, 10, 25, 11, 180, 0, 116, 54, 8, 16, 6, 21, 9, 100]
abbrev dktX0_goAround_7 : List UInt8 := dkwX0_goAround_7 ++ dktX0_goAround_8
def dkwX0_goAround_6 : List UInt8 := [47, 21, 12, 153, 0, 7, 10, 167, 0, 6, 20, 0, 173, 97, 80, 25, 11, 180, 0, 175, 21, 9, 46]
abbrev dktX0_goAround_6 : List UInt8 := dkwX0_goAround_6 ++ dktX0_goAround_7
def dkwX0_goAround_5 : List UInt8 := [180, 0, 119, 96, 162, 0, 7, 4, 167, 0, 4, 3, 54, 12, 44, 42, 21, 8, 21, 7, 182, 0, 170, 92]
abbrev dktX0_goAround_5 : List UInt8 := dkwX0_goAround_5 ++ dktX0_goAround_6
def dkwX0_goAround_4 : List UInt8 := [25, 11, 199, 0, 5, 3, 172, 21, 8, 7, 104, 21, 7, 96, 25, 11, 180, 0, 116, 7, 104, 25, 11]
abbrev dktX0_goAround_4 : List UInt8 := dkwX0_goAround_4 ++ dktX0_goAround_5
def dkwX0_goAround_3 : List UInt8 := [29, 54, 8, 21, 4, 54, 9, 21, 5, 54, 10, 42, 180, 0, 11, 21, 8, 50, 21, 7, 50, 58, 11]
abbrev dktX0_goAround_3 : List UInt8 := dkwX0_goAround_3 ++ dktX0_goAround_4
def dkwX0_goAround_2 : List UInt8 := [21, 6, 21, 4, 159, 0, 10, 21, 6, 21, 5, 160, 0, 9, 132, 6, 1, 167, 255, 239, 21, 6, 54, 7]
abbrev dktX0_goAround_2 : List UInt8 := dkwX0_goAround_2 ++ dktX0_goAround_3
def dkwX0_goAround_1 : List UInt8 := [178, 0, 87, 27, 16, 6, 112, 46, 54, 4, 178, 0, 90, 27, 16, 6, 112, 46, 54, 5, 3, 54, 6]
abbrev dktX0_goAround_1 : List UInt8 := dkwX0_goAround_1 ++ dktX0_goAround_2
def dkwX0_goAround_0 : List UInt8 := [3, 62, 29, 16, 6, 162, 0, 13, 44, 29, 9, 80, 132, 3, 1, 167, 255, 243, 27, 16, 6, 108, 62]
abbrev dktX0_goAround_0 : List UInt8 := dkwX0_goAround_0 ++ dktX0_goAround_1
theorem dksX0_goAround_0 : cX0_goAround.data.toList.drop 0 = dktX0_goAround_0 := by decide +kernel
theorem dksX0_goAround_1 : cX0_goAround.data.toList.drop 23 = dktX0_goAround_1 := dk_seg dksX0_goAround_0 23 rfl rfl
theorem dksX0_goAround_2 : cX0_goAround.data.toList.drop 46 = dktX0_goAround_2 := dk_seg dksX0_goAround_1 23 rfl rfl
theorem dksX0_goAround_3 : cX0_goAround.data.toList.drop 70 = dktX0_goAround_3 := dk_seg dksX0_goAround_2 24 rfl rfl
theorem dksX0_goAround_4 : cX0_goAround.data.toList.drop 93 = dktX0_goAround_4 := dk_seg dksX0_goAround_3 23 rfl rfl
theorem dksX0_goAround_5 : cX0_goAround.data.toList.drop 116 = dktX0_goAround_5 := dk_seg dksX0_goAround_4 23 rfl rfl
theorem dksX0_goAround_6 : cX0_goAround.data.toList.drop 140 = dktX0_goAround_6 := dk_seg dksX0_goAround_5 24 rfl rfl
theorem dksX0_goAround_7 : cX0_goAround.data.toList.drop 163 = dktX0_goAround_7 := dk_seg dksX0_goAround_6 23 rfl rfl
theorem dksX0_goAround_8 : cX0_goAround.data.toList.drop 187 = dktX0_goAround_8 := dk_seg dksX0_goAround_7 24 rfl rfl
theorem dksX0_goAround_9 : cX0_goAround.data.toList.drop 211 = dktX0_goAround_9 := dk_seg dksX0_goAround_8 24 rfl rfl
theorem dX0_goAround_0 : decode cX0_goAround 0 = .ok (.iconst 0, 1) := dk_3 (dk_at dksX0_goAround_0 0 rfl rfl)
theorem dX0_goAround_1 : decode cX0_goAround 1 = .ok (.istore_n 3, 1) := dk_62 (dk_at dksX0_goAround_0 1 rfl rfl)
theorem dX0_goAround_2 : decode cX0_goAround 2 = .ok (.iload_n 3, 1) := dk_29 (dk_at dksX0_goAround_0 2 rfl rfl)
theorem dX0_goAround_3 : decode cX0_goAround 3 = .ok (.bipush 6, 2) := dk_16 6 (dk_at dksX0_goAround_0 3 rfl rfl)
theorem dX0_goAround_5 : decode cX0_goAround 5 = .ok (.if_icmp .ge 13, 3) := dk_162 0 13 (dk_at dksX0_goAround_0 5 rfl rfl)
theorem dX0_goAround_8 : decode cX0_goAround 8 = .ok (.aload_n 2, 1) := dk_44 (dk_at dksX0_goAround_0 8 rfl rfl)
theorem dX0_goAround_9 : decode cX0_goAround 9 = .ok (.iload_n 3, 1) := dk_29 (dk_at dksX0_goAround_0 9 rfl rfl)
theorem dX0_goAround_10 : decode cX0_goAround 10 = .ok (.lconst 0, 1) := dk_9 (dk_at dksX0_goAround_0 10 rfl rfl)
theorem dX0_goAround_11 : decode cX0_goAround 11 = .ok (.lastore, 1) := dk_80 (dk_at dksX0_goAround_0 11 rfl rfl)
theorem dX0_goAround_12 : decode cX0_goAround 12 = .ok (.iinc 3 1, 3) := dk_132 3 1 (dk_at dksX0_goAround_0 12 rfl rfl)
theorem dX0_goAround_15 : decode cX0_goAround 15 = .ok (.goto (-13), 3) := dk_167 255 243 (dk_at dksX0_goAround_0 15 rfl rfl)
theorem dX0_goAround_18 : decode cX0_goAround 18 = .ok (.iload_n 1, 1) := dk_27 (dk_at dksX0_goAround_0 18 rfl rfl)
theorem dX0_goAround_19 : decode cX0_goAround 19 = .ok (.bipush 6, 2) := dk_16 6 (dk_at dksX0_goAround_0 19 rfl rfl)
theorem dX0_goAround_21 : decode cX0_goAround 21 = .ok (.idiv, 1) := dk_108 (dk_at dksX0_goAround_0 21 rfl rfl)
theorem dX0_goAround_22 : decode cX0_goAround 22 = .ok (.istore_n 3, 1) := dk_62 (dk_at dksX0_goAround_0 22 rfl rfl)
theorem dX0_goAround_23 : decode cX0_goAround 23 = .ok (.getstatic 87, 3) := dk_178 0 87 (dk_at dksX0_goAround_1 0 rfl rfl)
theorem dX0_goAround_26 : decode cX0_goAround 26 = .ok (.iload_n 1, 1) := dk_27 (dk_at dksX0_goAround_1 3 rfl rfl)
theorem dX0_goAround_27 : decode cX0_goAround 27 = .ok (.bipush 6, 2) := dk_16 6 (dk_at dksX0_goAround_1 4 rfl rfl)
theorem dX0_goAround_29 : decode cX0_goAround 29 = .ok (.irem, 1) := dk_112 (dk_at dksX0_goAround_1 6 rfl rfl)
theorem dX0_goAround_30 : decode cX0_goAround 30 = .ok (.iaload, 1) := dk_46 (dk_at dksX0_goAround_1 7 rfl rfl)
theorem dX0_goAround_31 : decode cX0_goAround 31 = .ok (.istore 4, 2) := dk_54 4 (dk_at dksX0_goAround_1 8 rfl rfl)
theorem dX0_goAround_33 : decode cX0_goAround 33 = .ok (.getstatic 90, 3) := dk_178 0 90 (dk_at dksX0_goAround_1 10 rfl rfl)
theorem dX0_goAround_36 : decode cX0_goAround 36 = .ok (.iload_n 1, 1) := dk_27 (dk_at dksX0_goAround_1 13 rfl rfl)
theorem dX0_goAround_37 : decode cX0_goAround 37 = .ok (.bipush 6, 2) := dk_16 6 (dk_at dksX0_goAround_1 14 rfl rfl)
theorem dX0_goAround_39 : decode cX0_goAround 39 = .ok (.irem, 1) := dk_112 (dk_at dksX0_goAround_1 16 rfl rfl)
theorem dX0_goAround_40 : decode cX0_goAround 40 = .ok (.iaload, 1) := dk_46 (dk_at dksX0_goAround_1 17 rfl rfl)
theorem dX0_goAround_41 : decode cX0_goAround 41 = .ok (.istore 5, 2) := dk_54 5 (dk_at dksX0_goAround_1 18 rfl rfl)
theorem dX0_goAround_43 : decode cX0_goAround 43 = .ok (.iconst 0, 1) := dk_3 (dk_at dksX0_goAround_1 20 rfl rfl)
theorem dX0_goAround_44 : decode cX0_goAround 44 = .ok (.istore 6, 2) := dk_54 6 (dk_at dksX0_goAround_1 21 rfl rfl)
theorem dX0_goAround_46 : decode cX0_goAround 46 = .ok (.iload 6, 2) := dk_21 6 (dk_at dksX0_goAround_2 0 rfl rfl)
theorem dX0_goAround_48 : decode cX0_goAround 48 = .ok (.iload 4, 2) := dk_21 4 (dk_at dksX0_goAround_2 2 rfl rfl)
theorem dX0_goAround_50 : decode cX0_goAround 50 = .ok (.if_icmp .eq 10, 3) := dk_159 0 10 (dk_at dksX0_goAround_2 4 rfl rfl)
theorem dX0_goAround_53 : decode cX0_goAround 53 = .ok (.iload 6, 2) := dk_21 6 (dk_at dksX0_goAround_2 7 rfl rfl)
theorem dX0_goAround_55 : decode cX0_goAround 55 = .ok (.iload 5, 2) := dk_21 5 (dk_at dksX0_goAround_2 9 rfl rfl)
theorem dX0_goAround_57 : decode cX0_goAround 57 = .ok (.if_icmp .ne 9, 3) := dk_160 0 9 (dk_at dksX0_goAround_2 11 rfl rfl)
theorem dX0_goAround_60 : decode cX0_goAround 60 = .ok (.iinc 6 1, 3) := dk_132 6 1 (dk_at dksX0_goAround_2 14 rfl rfl)
theorem dX0_goAround_63 : decode cX0_goAround 63 = .ok (.goto (-17), 3) := dk_167 255 239 (dk_at dksX0_goAround_2 17 rfl rfl)
theorem dX0_goAround_66 : decode cX0_goAround 66 = .ok (.iload 6, 2) := dk_21 6 (dk_at dksX0_goAround_2 20 rfl rfl)
theorem dX0_goAround_68 : decode cX0_goAround 68 = .ok (.istore 7, 2) := dk_54 7 (dk_at dksX0_goAround_2 22 rfl rfl)
theorem dX0_goAround_70 : decode cX0_goAround 70 = .ok (.iload_n 3, 1) := dk_29 (dk_at dksX0_goAround_3 0 rfl rfl)
theorem dX0_goAround_71 : decode cX0_goAround 71 = .ok (.istore 8, 2) := dk_54 8 (dk_at dksX0_goAround_3 1 rfl rfl)
theorem dX0_goAround_73 : decode cX0_goAround 73 = .ok (.iload 4, 2) := dk_21 4 (dk_at dksX0_goAround_3 3 rfl rfl)
theorem dX0_goAround_75 : decode cX0_goAround 75 = .ok (.istore 9, 2) := dk_54 9 (dk_at dksX0_goAround_3 5 rfl rfl)
theorem dX0_goAround_77 : decode cX0_goAround 77 = .ok (.iload 5, 2) := dk_21 5 (dk_at dksX0_goAround_3 7 rfl rfl)
theorem dX0_goAround_79 : decode cX0_goAround 79 = .ok (.istore 10, 2) := dk_54 10 (dk_at dksX0_goAround_3 9 rfl rfl)
theorem dX0_goAround_81 : decode cX0_goAround 81 = .ok (.aload_n 0, 1) := dk_42 (dk_at dksX0_goAround_3 11 rfl rfl)
theorem dX0_goAround_82 : decode cX0_goAround 82 = .ok (.getfield 11, 3) := dk_180 0 11 (dk_at dksX0_goAround_3 12 rfl rfl)
theorem dX0_goAround_85 : decode cX0_goAround 85 = .ok (.iload 8, 2) := dk_21 8 (dk_at dksX0_goAround_3 15 rfl rfl)
theorem dX0_goAround_87 : decode cX0_goAround 87 = .ok (.aaload, 1) := dk_50 (dk_at dksX0_goAround_3 17 rfl rfl)
theorem dX0_goAround_88 : decode cX0_goAround 88 = .ok (.iload 7, 2) := dk_21 7 (dk_at dksX0_goAround_3 18 rfl rfl)
theorem dX0_goAround_90 : decode cX0_goAround 90 = .ok (.aaload, 1) := dk_50 (dk_at dksX0_goAround_3 20 rfl rfl)
theorem dX0_goAround_91 : decode cX0_goAround 91 = .ok (.astore 11, 2) := dk_58 11 (dk_at dksX0_goAround_3 21 rfl rfl)
theorem dX0_goAround_93 : decode cX0_goAround 93 = .ok (.aload 11, 2) := dk_25 11 (dk_at dksX0_goAround_4 0 rfl rfl)
theorem dX0_goAround_95 : decode cX0_goAround 95 = .ok (.ifnonnull 5, 3) := dk_199 0 5 (dk_at dksX0_goAround_4 2 rfl rfl)
theorem dX0_goAround_98 : decode cX0_goAround 98 = .ok (.iconst 0, 1) := dk_3 (dk_at dksX0_goAround_4 5 rfl rfl)
theorem dX0_goAround_99 : decode cX0_goAround 99 = .ok (.ireturn, 1) := dk_172 (dk_at dksX0_goAround_4 6 rfl rfl)
theorem dX0_goAround_100 : decode cX0_goAround 100 = .ok (.iload 8, 2) := dk_21 8 (dk_at dksX0_goAround_4 7 rfl rfl)
theorem dX0_goAround_102 : decode cX0_goAround 102 = .ok (.iconst 4, 1) := dk_7 (dk_at dksX0_goAround_4 9 rfl rfl)
theorem dX0_goAround_103 : decode cX0_goAround 103 = .ok (.imul, 1) := dk_104 (dk_at dksX0_goAround_4 10 rfl rfl)
theorem dX0_goAround_104 : decode cX0_goAround 104 = .ok (.iload 7, 2) := dk_21 7 (dk_at dksX0_goAround_4 11 rfl rfl)
theorem dX0_goAround_106 : decode cX0_goAround 106 = .ok (.iadd, 1) := dk_96 (dk_at dksX0_goAround_4 13 rfl rfl)
theorem dX0_goAround_107 : decode cX0_goAround 107 = .ok (.aload 11, 2) := dk_25 11 (dk_at dksX0_goAround_4 14 rfl rfl)
theorem dX0_goAround_109 : decode cX0_goAround 109 = .ok (.getfield 116, 3) := dk_180 0 116 (dk_at dksX0_goAround_4 16 rfl rfl)
theorem dX0_goAround_112 : decode cX0_goAround 112 = .ok (.iconst 4, 1) := dk_7 (dk_at dksX0_goAround_4 19 rfl rfl)
theorem dX0_goAround_113 : decode cX0_goAround 113 = .ok (.imul, 1) := dk_104 (dk_at dksX0_goAround_4 20 rfl rfl)
theorem dX0_goAround_114 : decode cX0_goAround 114 = .ok (.aload 11, 2) := dk_25 11 (dk_at dksX0_goAround_4 21 rfl rfl)
theorem dX0_goAround_116 : decode cX0_goAround 116 = .ok (.getfield 119, 3) := dk_180 0 119 (dk_at dksX0_goAround_5 0 rfl rfl)
theorem dX0_goAround_119 : decode cX0_goAround 119 = .ok (.iadd, 1) := dk_96 (dk_at dksX0_goAround_5 3 rfl rfl)
theorem dX0_goAround_120 : decode cX0_goAround 120 = .ok (.if_icmp .ge 7, 3) := dk_162 0 7 (dk_at dksX0_goAround_5 4 rfl rfl)
theorem dX0_goAround_123 : decode cX0_goAround 123 = .ok (.iconst 1, 1) := dk_4 (dk_at dksX0_goAround_5 7 rfl rfl)
theorem dX0_goAround_124 : decode cX0_goAround 124 = .ok (.goto 4, 3) := dk_167 0 4 (dk_at dksX0_goAround_5 8 rfl rfl)
theorem dX0_goAround_127 : decode cX0_goAround 127 = .ok (.iconst 0, 1) := dk_3 (dk_at dksX0_goAround_5 11 rfl rfl)
theorem dX0_goAround_128 : decode cX0_goAround 128 = .ok (.istore 12, 2) := dk_54 12 (dk_at dksX0_goAround_5 12 rfl rfl)
theorem dX0_goAround_130 : decode cX0_goAround 130 = .ok (.aload_n 2, 1) := dk_44 (dk_at dksX0_goAround_5 14 rfl rfl)
theorem dX0_goAround_131 : decode cX0_goAround 131 = .ok (.aload_n 0, 1) := dk_42 (dk_at dksX0_goAround_5 15 rfl rfl)
theorem dX0_goAround_132 : decode cX0_goAround 132 = .ok (.iload 8, 2) := dk_21 8 (dk_at dksX0_goAround_5 16 rfl rfl)
theorem dX0_goAround_134 : decode cX0_goAround 134 = .ok (.iload 7, 2) := dk_21 7 (dk_at dksX0_goAround_5 18 rfl rfl)
theorem dX0_goAround_136 : decode cX0_goAround 136 = .ok (.invokevirtual 170, 3) := dk_182 0 170 (dk_at dksX0_goAround_5 20 rfl rfl)
theorem dX0_goAround_139 : decode cX0_goAround 139 = .ok (.dup2, 1) := dk_92 (dk_at dksX0_goAround_5 23 rfl rfl)
theorem dX0_goAround_140 : decode cX0_goAround 140 = .ok (.laload, 1) := dk_47 (dk_at dksX0_goAround_6 0 rfl rfl)
theorem dX0_goAround_141 : decode cX0_goAround 141 = .ok (.iload 12, 2) := dk_21 12 (dk_at dksX0_goAround_6 1 rfl rfl)
theorem dX0_goAround_143 : decode cX0_goAround 143 = .ok (.ifCond .eq 7, 3) := dk_153 0 7 (dk_at dksX0_goAround_6 3 rfl rfl)
theorem dX0_goAround_146 : decode cX0_goAround 146 = .ok (.lconst 1, 1) := dk_10 (dk_at dksX0_goAround_6 6 rfl rfl)
theorem dX0_goAround_147 : decode cX0_goAround 147 = .ok (.goto 6, 3) := dk_167 0 6 (dk_at dksX0_goAround_6 7 rfl rfl)
theorem dX0_goAround_150 : decode cX0_goAround 150 = .ok (.ldc2_w 173, 3) := dk_20 0 173 (dk_at dksX0_goAround_6 10 rfl rfl)
theorem dX0_goAround_153 : decode cX0_goAround 153 = .ok (.ladd, 1) := dk_97 (dk_at dksX0_goAround_6 13 rfl rfl)
theorem dX0_goAround_154 : decode cX0_goAround 154 = .ok (.lastore, 1) := dk_80 (dk_at dksX0_goAround_6 14 rfl rfl)
theorem dX0_goAround_155 : decode cX0_goAround 155 = .ok (.aload 11, 2) := dk_25 11 (dk_at dksX0_goAround_6 15 rfl rfl)
theorem dX0_goAround_157 : decode cX0_goAround 157 = .ok (.getfield 175, 3) := dk_180 0 175 (dk_at dksX0_goAround_6 17 rfl rfl)
theorem dX0_goAround_160 : decode cX0_goAround 160 = .ok (.iload 9, 2) := dk_21 9 (dk_at dksX0_goAround_6 20 rfl rfl)
theorem dX0_goAround_162 : decode cX0_goAround 162 = .ok (.iaload, 1) := dk_46 (dk_at dksX0_goAround_6 22 rfl rfl)
theorem dX0_goAround_163 : decode cX0_goAround 163 = .ok (.istore 9, 2) := dk_54 9 (dk_at dksX0_goAround_7 0 rfl rfl)
theorem dX0_goAround_165 : decode cX0_goAround 165 = .ok (.aload 11, 2) := dk_25 11 (dk_at dksX0_goAround_7 2 rfl rfl)
theorem dX0_goAround_167 : decode cX0_goAround 167 = .ok (.getfield 175, 3) := dk_180 0 175 (dk_at dksX0_goAround_7 4 rfl rfl)
theorem dX0_goAround_170 : decode cX0_goAround 170 = .ok (.iload 10, 2) := dk_21 10 (dk_at dksX0_goAround_7 7 rfl rfl)
theorem dX0_goAround_172 : decode cX0_goAround 172 = .ok (.iaload, 1) := dk_46 (dk_at dksX0_goAround_7 9 rfl rfl)
theorem dX0_goAround_173 : decode cX0_goAround 173 = .ok (.istore 10, 2) := dk_54 10 (dk_at dksX0_goAround_7 10 rfl rfl)
theorem dX0_goAround_175 : decode cX0_goAround 175 = .ok (.aload 11, 2) := dk_25 11 (dk_at dksX0_goAround_7 12 rfl rfl)
theorem dX0_goAround_177 : decode cX0_goAround 177 = .ok (.getfield 116, 3) := dk_180 0 116 (dk_at dksX0_goAround_7 14 rfl rfl)
theorem dX0_goAround_180 : decode cX0_goAround 180 = .ok (.istore 8, 2) := dk_54 8 (dk_at dksX0_goAround_7 17 rfl rfl)
theorem dX0_goAround_182 : decode cX0_goAround 182 = .ok (.bipush 6, 2) := dk_16 6 (dk_at dksX0_goAround_7 19 rfl rfl)
theorem dX0_goAround_184 : decode cX0_goAround 184 = .ok (.iload 9, 2) := dk_21 9 (dk_at dksX0_goAround_7 21 rfl rfl)
theorem dX0_goAround_186 : decode cX0_goAround 186 = .ok (.isub, 1) := dk_100 (dk_at dksX0_goAround_7 23 rfl rfl)
theorem dX0_goAround_187 : decode cX0_goAround 187 = .ok (.iload 10, 2) := dk_21 10 (dk_at dksX0_goAround_8 0 rfl rfl)
theorem dX0_goAround_189 : decode cX0_goAround 189 = .ok (.isub, 1) := dk_100 (dk_at dksX0_goAround_8 2 rfl rfl)
theorem dX0_goAround_190 : decode cX0_goAround 190 = .ok (.aload 11, 2) := dk_25 11 (dk_at dksX0_goAround_8 3 rfl rfl)
theorem dX0_goAround_192 : decode cX0_goAround 192 = .ok (.getfield 119, 3) := dk_180 0 119 (dk_at dksX0_goAround_8 5 rfl rfl)
theorem dX0_goAround_195 : decode cX0_goAround 195 = .ok (.isub, 1) := dk_100 (dk_at dksX0_goAround_8 8 rfl rfl)
theorem dX0_goAround_196 : decode cX0_goAround 196 = .ok (.istore 7, 2) := dk_54 7 (dk_at dksX0_goAround_8 9 rfl rfl)
theorem dX0_goAround_198 : decode cX0_goAround 198 = .ok (.iload 8, 2) := dk_21 8 (dk_at dksX0_goAround_8 11 rfl rfl)
theorem dX0_goAround_200 : decode cX0_goAround 200 = .ok (.iload_n 3, 1) := dk_29 (dk_at dksX0_goAround_8 13 rfl rfl)
theorem dX0_goAround_201 : decode cX0_goAround 201 = .ok (.if_icmp .ne (-120), 3) := dk_160 255 136 (dk_at dksX0_goAround_8 14 rfl rfl)
theorem dX0_goAround_204 : decode cX0_goAround 204 = .ok (.iload 9, 2) := dk_21 9 (dk_at dksX0_goAround_8 17 rfl rfl)
theorem dX0_goAround_206 : decode cX0_goAround 206 = .ok (.iload 4, 2) := dk_21 4 (dk_at dksX0_goAround_8 19 rfl rfl)
theorem dX0_goAround_208 : decode cX0_goAround 208 = .ok (.if_icmp .ne (-127), 3) := dk_160 255 129 (dk_at dksX0_goAround_8 21 rfl rfl)
theorem dX0_goAround_211 : decode cX0_goAround 211 = .ok (.iload 10, 2) := dk_21 10 (dk_at dksX0_goAround_9 0 rfl rfl)
theorem dX0_goAround_213 : decode cX0_goAround 213 = .ok (.iload 5, 2) := dk_21 5 (dk_at dksX0_goAround_9 2 rfl rfl)
theorem dX0_goAround_215 : decode cX0_goAround 215 = .ok (.if_icmp .ne (-134), 3) := dk_160 255 122 (dk_at dksX0_goAround_9 4 rfl rfl)
theorem dX0_goAround_218 : decode cX0_goAround 218 = .ok (.iload 7, 2) := dk_21 7 (dk_at dksX0_goAround_9 7 rfl rfl)
theorem dX0_goAround_220 : decode cX0_goAround 220 = .ok (.iload 6, 2) := dk_21 6 (dk_at dksX0_goAround_9 9 rfl rfl)
theorem dX0_goAround_222 : decode cX0_goAround 222 = .ok (.if_icmp .ne (-141), 3) := dk_160 255 115 (dk_at dksX0_goAround_9 11 rfl rfl)
theorem dX0_goAround_225 : decode cX0_goAround 225 = .ok (.iconst 1, 1) := dk_4 (dk_at dksX0_goAround_9 14 rfl rfl)
theorem dX0_goAround_226 : decode cX0_goAround 226 = .ok (.ireturn, 1) := dk_172 (dk_at dksX0_goAround_9 15 rfl rfl)
abbrev cX0_pairOf : ByteArray := prog_1_method_23_code
def yX0_pairOf : MethodName := ⟨RX0, "pairOf", "(II)I"⟩
def dkwX0_pairOf_5 : List UInt8 := [3, 96, 62, 132, 4, 1, 167, 255, 137, 2, 172]
abbrev dktX0_pairOf_5 : List UInt8 := dkwX0_pairOf_5 ++ []
def dkwX0_pairOf_4 : List UInt8 := [160, 0, 14, 25, 5, 180, 0, 119, 28, 160, 0, 5, 29, 172, 29, 21, 6, 153, 0, 7, 4, 167, 0, 4]
abbrev dktX0_pairOf_4 : List UInt8 := dkwX0_pairOf_4 ++ dktX0_pairOf_5
def dkwX0_pairOf_3 : List UInt8 := [54, 6, 21, 6, 153, 0, 33, 21, 4, 27, 7, 104, 28, 96, 159, 0, 21, 25, 5, 180, 0, 116, 27]
abbrev dktX0_pairOf_3 : List UInt8 := dkwX0_pairOf_3 ++ dktX0_pairOf_4
def dkwX0_pairOf_2 : List UInt8 := [21, 4, 25, 5, 180, 0, 116, 7, 104, 25, 5, 180, 0, 119, 96, 162, 0, 7, 4, 167, 0, 4, 3]
abbrev dktX0_pairOf_2 : List UInt8 := dkwX0_pairOf_2 ++ dktX0_pairOf_3
def dkwX0_pairOf_1 : List UInt8 := [180, 0, 11, 21, 4, 7, 108, 50, 21, 4, 7, 112, 50, 167, 0, 4, 1, 58, 5, 25, 5, 198, 0, 25]
abbrev dktX0_pairOf_1 : List UInt8 := dkwX0_pairOf_1 ++ dktX0_pairOf_2
def dkwX0_pairOf_0 : List UInt8 := [3, 62, 3, 54, 4, 21, 4, 16, 12, 162, 0, 118, 21, 4, 7, 108, 42, 180, 0, 73, 162, 0, 20, 42]
abbrev dktX0_pairOf_0 : List UInt8 := dkwX0_pairOf_0 ++ dktX0_pairOf_1
theorem dksX0_pairOf_0 : cX0_pairOf.data.toList.drop 0 = dktX0_pairOf_0 := by decide +kernel
theorem dksX0_pairOf_1 : cX0_pairOf.data.toList.drop 24 = dktX0_pairOf_1 := dk_seg dksX0_pairOf_0 24 rfl rfl
theorem dksX0_pairOf_2 : cX0_pairOf.data.toList.drop 48 = dktX0_pairOf_2 := dk_seg dksX0_pairOf_1 24 rfl rfl
theorem dksX0_pairOf_3 : cX0_pairOf.data.toList.drop 71 = dktX0_pairOf_3 := dk_seg dksX0_pairOf_2 23 rfl rfl
theorem dksX0_pairOf_4 : cX0_pairOf.data.toList.drop 94 = dktX0_pairOf_4 := dk_seg dksX0_pairOf_3 23 rfl rfl
theorem dksX0_pairOf_5 : cX0_pairOf.data.toList.drop 118 = dktX0_pairOf_5 := dk_seg dksX0_pairOf_4 24 rfl rfl
theorem dX0_pairOf_0 : decode cX0_pairOf 0 = .ok (.iconst 0, 1) := dk_3 (dk_at dksX0_pairOf_0 0 rfl rfl)
theorem dX0_pairOf_1 : decode cX0_pairOf 1 = .ok (.istore_n 3, 1) := dk_62 (dk_at dksX0_pairOf_0 1 rfl rfl)
theorem dX0_pairOf_2 : decode cX0_pairOf 2 = .ok (.iconst 0, 1) := dk_3 (dk_at dksX0_pairOf_0 2 rfl rfl)
theorem dX0_pairOf_3 : decode cX0_pairOf 3 = .ok (.istore 4, 2) := dk_54 4 (dk_at dksX0_pairOf_0 3 rfl rfl)
theorem dX0_pairOf_5 : decode cX0_pairOf 5 = .ok (.iload 4, 2) := dk_21 4 (dk_at dksX0_pairOf_0 5 rfl rfl)
theorem dX0_pairOf_7 : decode cX0_pairOf 7 = .ok (.bipush 12, 2) := dk_16 12 (dk_at dksX0_pairOf_0 7 rfl rfl)
theorem dX0_pairOf_9 : decode cX0_pairOf 9 = .ok (.if_icmp .ge 118, 3) := dk_162 0 118 (dk_at dksX0_pairOf_0 9 rfl rfl)
theorem dX0_pairOf_12 : decode cX0_pairOf 12 = .ok (.iload 4, 2) := dk_21 4 (dk_at dksX0_pairOf_0 12 rfl rfl)
theorem dX0_pairOf_14 : decode cX0_pairOf 14 = .ok (.iconst 4, 1) := dk_7 (dk_at dksX0_pairOf_0 14 rfl rfl)
theorem dX0_pairOf_15 : decode cX0_pairOf 15 = .ok (.idiv, 1) := dk_108 (dk_at dksX0_pairOf_0 15 rfl rfl)
theorem dX0_pairOf_16 : decode cX0_pairOf 16 = .ok (.aload_n 0, 1) := dk_42 (dk_at dksX0_pairOf_0 16 rfl rfl)
theorem dX0_pairOf_17 : decode cX0_pairOf 17 = .ok (.getfield 73, 3) := dk_180 0 73 (dk_at dksX0_pairOf_0 17 rfl rfl)
theorem dX0_pairOf_20 : decode cX0_pairOf 20 = .ok (.if_icmp .ge 20, 3) := dk_162 0 20 (dk_at dksX0_pairOf_0 20 rfl rfl)
theorem dX0_pairOf_23 : decode cX0_pairOf 23 = .ok (.aload_n 0, 1) := dk_42 (dk_at dksX0_pairOf_0 23 rfl rfl)
theorem dX0_pairOf_24 : decode cX0_pairOf 24 = .ok (.getfield 11, 3) := dk_180 0 11 (dk_at dksX0_pairOf_1 0 rfl rfl)
theorem dX0_pairOf_27 : decode cX0_pairOf 27 = .ok (.iload 4, 2) := dk_21 4 (dk_at dksX0_pairOf_1 3 rfl rfl)
theorem dX0_pairOf_29 : decode cX0_pairOf 29 = .ok (.iconst 4, 1) := dk_7 (dk_at dksX0_pairOf_1 5 rfl rfl)
theorem dX0_pairOf_30 : decode cX0_pairOf 30 = .ok (.idiv, 1) := dk_108 (dk_at dksX0_pairOf_1 6 rfl rfl)
theorem dX0_pairOf_31 : decode cX0_pairOf 31 = .ok (.aaload, 1) := dk_50 (dk_at dksX0_pairOf_1 7 rfl rfl)
theorem dX0_pairOf_32 : decode cX0_pairOf 32 = .ok (.iload 4, 2) := dk_21 4 (dk_at dksX0_pairOf_1 8 rfl rfl)
theorem dX0_pairOf_34 : decode cX0_pairOf 34 = .ok (.iconst 4, 1) := dk_7 (dk_at dksX0_pairOf_1 10 rfl rfl)
theorem dX0_pairOf_35 : decode cX0_pairOf 35 = .ok (.irem, 1) := dk_112 (dk_at dksX0_pairOf_1 11 rfl rfl)
theorem dX0_pairOf_36 : decode cX0_pairOf 36 = .ok (.aaload, 1) := dk_50 (dk_at dksX0_pairOf_1 12 rfl rfl)
theorem dX0_pairOf_37 : decode cX0_pairOf 37 = .ok (.goto 4, 3) := dk_167 0 4 (dk_at dksX0_pairOf_1 13 rfl rfl)
theorem dX0_pairOf_40 : decode cX0_pairOf 40 = .ok (.aconst_null, 1) := dk_1 (dk_at dksX0_pairOf_1 16 rfl rfl)
theorem dX0_pairOf_41 : decode cX0_pairOf 41 = .ok (.astore 5, 2) := dk_58 5 (dk_at dksX0_pairOf_1 17 rfl rfl)
theorem dX0_pairOf_43 : decode cX0_pairOf 43 = .ok (.aload 5, 2) := dk_25 5 (dk_at dksX0_pairOf_1 19 rfl rfl)
theorem dX0_pairOf_45 : decode cX0_pairOf 45 = .ok (.ifnull 25, 3) := dk_198 0 25 (dk_at dksX0_pairOf_1 21 rfl rfl)
theorem dX0_pairOf_48 : decode cX0_pairOf 48 = .ok (.iload 4, 2) := dk_21 4 (dk_at dksX0_pairOf_2 0 rfl rfl)
theorem dX0_pairOf_50 : decode cX0_pairOf 50 = .ok (.aload 5, 2) := dk_25 5 (dk_at dksX0_pairOf_2 2 rfl rfl)
theorem dX0_pairOf_52 : decode cX0_pairOf 52 = .ok (.getfield 116, 3) := dk_180 0 116 (dk_at dksX0_pairOf_2 4 rfl rfl)
theorem dX0_pairOf_55 : decode cX0_pairOf 55 = .ok (.iconst 4, 1) := dk_7 (dk_at dksX0_pairOf_2 7 rfl rfl)
theorem dX0_pairOf_56 : decode cX0_pairOf 56 = .ok (.imul, 1) := dk_104 (dk_at dksX0_pairOf_2 8 rfl rfl)
theorem dX0_pairOf_57 : decode cX0_pairOf 57 = .ok (.aload 5, 2) := dk_25 5 (dk_at dksX0_pairOf_2 9 rfl rfl)
theorem dX0_pairOf_59 : decode cX0_pairOf 59 = .ok (.getfield 119, 3) := dk_180 0 119 (dk_at dksX0_pairOf_2 11 rfl rfl)
theorem dX0_pairOf_62 : decode cX0_pairOf 62 = .ok (.iadd, 1) := dk_96 (dk_at dksX0_pairOf_2 14 rfl rfl)
theorem dX0_pairOf_63 : decode cX0_pairOf 63 = .ok (.if_icmp .ge 7, 3) := dk_162 0 7 (dk_at dksX0_pairOf_2 15 rfl rfl)
theorem dX0_pairOf_66 : decode cX0_pairOf 66 = .ok (.iconst 1, 1) := dk_4 (dk_at dksX0_pairOf_2 18 rfl rfl)
theorem dX0_pairOf_67 : decode cX0_pairOf 67 = .ok (.goto 4, 3) := dk_167 0 4 (dk_at dksX0_pairOf_2 19 rfl rfl)
theorem dX0_pairOf_70 : decode cX0_pairOf 70 = .ok (.iconst 0, 1) := dk_3 (dk_at dksX0_pairOf_2 22 rfl rfl)
theorem dX0_pairOf_71 : decode cX0_pairOf 71 = .ok (.istore 6, 2) := dk_54 6 (dk_at dksX0_pairOf_3 0 rfl rfl)
theorem dX0_pairOf_73 : decode cX0_pairOf 73 = .ok (.iload 6, 2) := dk_21 6 (dk_at dksX0_pairOf_3 2 rfl rfl)
theorem dX0_pairOf_75 : decode cX0_pairOf 75 = .ok (.ifCond .eq 33, 3) := dk_153 0 33 (dk_at dksX0_pairOf_3 4 rfl rfl)
theorem dX0_pairOf_78 : decode cX0_pairOf 78 = .ok (.iload 4, 2) := dk_21 4 (dk_at dksX0_pairOf_3 7 rfl rfl)
theorem dX0_pairOf_80 : decode cX0_pairOf 80 = .ok (.iload_n 1, 1) := dk_27 (dk_at dksX0_pairOf_3 9 rfl rfl)
theorem dX0_pairOf_81 : decode cX0_pairOf 81 = .ok (.iconst 4, 1) := dk_7 (dk_at dksX0_pairOf_3 10 rfl rfl)
theorem dX0_pairOf_82 : decode cX0_pairOf 82 = .ok (.imul, 1) := dk_104 (dk_at dksX0_pairOf_3 11 rfl rfl)
theorem dX0_pairOf_83 : decode cX0_pairOf 83 = .ok (.iload_n 2, 1) := dk_28 (dk_at dksX0_pairOf_3 12 rfl rfl)
theorem dX0_pairOf_84 : decode cX0_pairOf 84 = .ok (.iadd, 1) := dk_96 (dk_at dksX0_pairOf_3 13 rfl rfl)
theorem dX0_pairOf_85 : decode cX0_pairOf 85 = .ok (.if_icmp .eq 21, 3) := dk_159 0 21 (dk_at dksX0_pairOf_3 14 rfl rfl)
theorem dX0_pairOf_88 : decode cX0_pairOf 88 = .ok (.aload 5, 2) := dk_25 5 (dk_at dksX0_pairOf_3 17 rfl rfl)
theorem dX0_pairOf_90 : decode cX0_pairOf 90 = .ok (.getfield 116, 3) := dk_180 0 116 (dk_at dksX0_pairOf_3 19 rfl rfl)
theorem dX0_pairOf_93 : decode cX0_pairOf 93 = .ok (.iload_n 1, 1) := dk_27 (dk_at dksX0_pairOf_3 22 rfl rfl)
theorem dX0_pairOf_94 : decode cX0_pairOf 94 = .ok (.if_icmp .ne 14, 3) := dk_160 0 14 (dk_at dksX0_pairOf_4 0 rfl rfl)
theorem dX0_pairOf_97 : decode cX0_pairOf 97 = .ok (.aload 5, 2) := dk_25 5 (dk_at dksX0_pairOf_4 3 rfl rfl)
theorem dX0_pairOf_99 : decode cX0_pairOf 99 = .ok (.getfield 119, 3) := dk_180 0 119 (dk_at dksX0_pairOf_4 5 rfl rfl)
theorem dX0_pairOf_102 : decode cX0_pairOf 102 = .ok (.iload_n 2, 1) := dk_28 (dk_at dksX0_pairOf_4 8 rfl rfl)
theorem dX0_pairOf_103 : decode cX0_pairOf 103 = .ok (.if_icmp .ne 5, 3) := dk_160 0 5 (dk_at dksX0_pairOf_4 9 rfl rfl)
theorem dX0_pairOf_106 : decode cX0_pairOf 106 = .ok (.iload_n 3, 1) := dk_29 (dk_at dksX0_pairOf_4 12 rfl rfl)
theorem dX0_pairOf_107 : decode cX0_pairOf 107 = .ok (.ireturn, 1) := dk_172 (dk_at dksX0_pairOf_4 13 rfl rfl)
theorem dX0_pairOf_108 : decode cX0_pairOf 108 = .ok (.iload_n 3, 1) := dk_29 (dk_at dksX0_pairOf_4 14 rfl rfl)
theorem dX0_pairOf_109 : decode cX0_pairOf 109 = .ok (.iload 6, 2) := dk_21 6 (dk_at dksX0_pairOf_4 15 rfl rfl)
theorem dX0_pairOf_111 : decode cX0_pairOf 111 = .ok (.ifCond .eq 7, 3) := dk_153 0 7 (dk_at dksX0_pairOf_4 17 rfl rfl)
theorem dX0_pairOf_114 : decode cX0_pairOf 114 = .ok (.iconst 1, 1) := dk_4 (dk_at dksX0_pairOf_4 20 rfl rfl)
theorem dX0_pairOf_115 : decode cX0_pairOf 115 = .ok (.goto 4, 3) := dk_167 0 4 (dk_at dksX0_pairOf_4 21 rfl rfl)
theorem dX0_pairOf_118 : decode cX0_pairOf 118 = .ok (.iconst 0, 1) := dk_3 (dk_at dksX0_pairOf_5 0 rfl rfl)
theorem dX0_pairOf_119 : decode cX0_pairOf 119 = .ok (.iadd, 1) := dk_96 (dk_at dksX0_pairOf_5 1 rfl rfl)
theorem dX0_pairOf_120 : decode cX0_pairOf 120 = .ok (.istore_n 3, 1) := dk_62 (dk_at dksX0_pairOf_5 2 rfl rfl)
theorem dX0_pairOf_121 : decode cX0_pairOf 121 = .ok (.iinc 4 1, 3) := dk_132 4 1 (dk_at dksX0_pairOf_5 3 rfl rfl)
theorem dX0_pairOf_124 : decode cX0_pairOf 124 = .ok (.goto (-119), 3) := dk_167 255 137 (dk_at dksX0_pairOf_5 6 rfl rfl)
theorem dX0_pairOf_127 : decode cX0_pairOf 127 = .ok (.iconst (-1), 1) := dk_2 (dk_at dksX0_pairOf_5 9 rfl rfl)
theorem dX0_pairOf_128 : decode cX0_pairOf 128 = .ok (.ireturn, 1) := dk_172 (dk_at dksX0_pairOf_5 10 rfl rfl)
abbrev cX0_diagonal : ByteArray := prog_1_method_26_code
def yX0_diagonal : MethodName := ⟨RX0, "diagonal", "(I)I"⟩
def dkwX0_diagonal_1 : List UInt8 := [180, 0, 42, 28, 42, 180, 0, 39, 28, 50, 28, 47, 184, 0, 186, 80, 132, 2, 1, 167, 255, 216, 28, 172]
abbrev dktX0_diagonal_1 : List UInt8 := dkwX0_diagonal_1 ++ []
def dkwX0_diagonal_0 : List UInt8 := [3, 61, 28, 16, 6, 162, 0, 40, 28, 27, 162, 0, 35, 42, 28, 27, 182, 0, 182, 153, 0, 26, 42]
abbrev dktX0_diagonal_0 : List UInt8 := dkwX0_diagonal_0 ++ dktX0_diagonal_1
theorem dksX0_diagonal_0 : cX0_diagonal.data.toList.drop 0 = dktX0_diagonal_0 := by decide +kernel
theorem dksX0_diagonal_1 : cX0_diagonal.data.toList.drop 23 = dktX0_diagonal_1 := dk_seg dksX0_diagonal_0 23 rfl rfl
theorem dX0_diagonal_0 : decode cX0_diagonal 0 = .ok (.iconst 0, 1) := dk_3 (dk_at dksX0_diagonal_0 0 rfl rfl)
theorem dX0_diagonal_1 : decode cX0_diagonal 1 = .ok (.istore_n 2, 1) := dk_61 (dk_at dksX0_diagonal_0 1 rfl rfl)
theorem dX0_diagonal_2 : decode cX0_diagonal 2 = .ok (.iload_n 2, 1) := dk_28 (dk_at dksX0_diagonal_0 2 rfl rfl)
theorem dX0_diagonal_3 : decode cX0_diagonal 3 = .ok (.bipush 6, 2) := dk_16 6 (dk_at dksX0_diagonal_0 3 rfl rfl)
theorem dX0_diagonal_5 : decode cX0_diagonal 5 = .ok (.if_icmp .ge 40, 3) := dk_162 0 40 (dk_at dksX0_diagonal_0 5 rfl rfl)
theorem dX0_diagonal_8 : decode cX0_diagonal 8 = .ok (.iload_n 2, 1) := dk_28 (dk_at dksX0_diagonal_0 8 rfl rfl)
theorem dX0_diagonal_9 : decode cX0_diagonal 9 = .ok (.iload_n 1, 1) := dk_27 (dk_at dksX0_diagonal_0 9 rfl rfl)
theorem dX0_diagonal_10 : decode cX0_diagonal 10 = .ok (.if_icmp .ge 35, 3) := dk_162 0 35 (dk_at dksX0_diagonal_0 10 rfl rfl)
theorem dX0_diagonal_13 : decode cX0_diagonal 13 = .ok (.aload_n 0, 1) := dk_42 (dk_at dksX0_diagonal_0 13 rfl rfl)
theorem dX0_diagonal_14 : decode cX0_diagonal 14 = .ok (.iload_n 2, 1) := dk_28 (dk_at dksX0_diagonal_0 14 rfl rfl)
theorem dX0_diagonal_15 : decode cX0_diagonal 15 = .ok (.iload_n 1, 1) := dk_27 (dk_at dksX0_diagonal_0 15 rfl rfl)
theorem dX0_diagonal_16 : decode cX0_diagonal 16 = .ok (.invokevirtual 182, 3) := dk_182 0 182 (dk_at dksX0_diagonal_0 16 rfl rfl)
theorem dX0_diagonal_19 : decode cX0_diagonal 19 = .ok (.ifCond .eq 26, 3) := dk_153 0 26 (dk_at dksX0_diagonal_0 19 rfl rfl)
theorem dX0_diagonal_22 : decode cX0_diagonal 22 = .ok (.aload_n 0, 1) := dk_42 (dk_at dksX0_diagonal_0 22 rfl rfl)
theorem dX0_diagonal_23 : decode cX0_diagonal 23 = .ok (.getfield 42, 3) := dk_180 0 42 (dk_at dksX0_diagonal_1 0 rfl rfl)
theorem dX0_diagonal_26 : decode cX0_diagonal 26 = .ok (.iload_n 2, 1) := dk_28 (dk_at dksX0_diagonal_1 3 rfl rfl)
theorem dX0_diagonal_27 : decode cX0_diagonal 27 = .ok (.aload_n 0, 1) := dk_42 (dk_at dksX0_diagonal_1 4 rfl rfl)
theorem dX0_diagonal_28 : decode cX0_diagonal 28 = .ok (.getfield 39, 3) := dk_180 0 39 (dk_at dksX0_diagonal_1 5 rfl rfl)
theorem dX0_diagonal_31 : decode cX0_diagonal 31 = .ok (.iload_n 2, 1) := dk_28 (dk_at dksX0_diagonal_1 8 rfl rfl)
theorem dX0_diagonal_32 : decode cX0_diagonal 32 = .ok (.aaload, 1) := dk_50 (dk_at dksX0_diagonal_1 9 rfl rfl)
theorem dX0_diagonal_33 : decode cX0_diagonal 33 = .ok (.iload_n 2, 1) := dk_28 (dk_at dksX0_diagonal_1 10 rfl rfl)
theorem dX0_diagonal_34 : decode cX0_diagonal 34 = .ok (.laload, 1) := dk_47 (dk_at dksX0_diagonal_1 11 rfl rfl)
theorem dX0_diagonal_35 : decode cX0_diagonal 35 = .ok (.invokestatic 186, 3) := dk_184 0 186 (dk_at dksX0_diagonal_1 12 rfl rfl)
theorem dX0_diagonal_38 : decode cX0_diagonal 38 = .ok (.lastore, 1) := dk_80 (dk_at dksX0_diagonal_1 15 rfl rfl)
theorem dX0_diagonal_39 : decode cX0_diagonal 39 = .ok (.iinc 2 1, 3) := dk_132 2 1 (dk_at dksX0_diagonal_1 16 rfl rfl)
theorem dX0_diagonal_42 : decode cX0_diagonal 42 = .ok (.goto (-40), 3) := dk_167 255 216 (dk_at dksX0_diagonal_1 19 rfl rfl)
theorem dX0_diagonal_45 : decode cX0_diagonal 45 = .ok (.iload_n 2, 1) := dk_28 (dk_at dksX0_diagonal_1 22 rfl rfl)
theorem dX0_diagonal_46 : decode cX0_diagonal 46 = .ok (.ireturn, 1) := dk_172 (dk_at dksX0_diagonal_1 23 rfl rfl)
abbrev cX0_clean : ByteArray := prog_1_method_27_code
def yX0_clean : MethodName := ⟨RX0, "clean", "(II)Z"⟩
def dkwX0_clean_9 : List UInt8 := [182, 0, 190, 153, 0, 5, 4, 172, 167, 255, 35]
abbrev dktX0_clean_9 : List UInt8 := dkwX0_clean_9 ++ []
def dkwX0_clean_8 : List UInt8 := [27, 47, 80, 42, 180, 0, 39, 21, 6, 50, 27, 22, 7, 80, 132, 6, 1, 167, 255, 205, 42, 27, 28]
abbrev dktX0_clean_8 : List UInt8 := dkwX0_clean_8 ++ dktX0_clean_9
def dkwX0_clean_7 : List UInt8 := [21, 6, 50, 21, 4, 47, 55, 7, 42, 180, 0, 39, 21, 6, 50, 21, 4, 42, 180, 0, 39, 21, 6, 50]
abbrev dktX0_clean_7 : List UInt8 := dkwX0_clean_7 ++ dktX0_clean_8
def dkwX0_clean_6 : List UInt8 := [27, 50, 83, 42, 180, 0, 39, 27, 25, 5, 83, 27, 54, 6, 21, 6, 28, 162, 0, 51, 42, 180, 0, 39]
abbrev dktX0_clean_6 : List UInt8 := dkwX0_clean_6 ++ dktX0_clean_7
def dkwX0_clean_5 : List UInt8 := [29, 2, 160, 0, 5, 3, 172, 42, 180, 0, 39, 29, 50, 58, 5, 42, 180, 0, 39, 29, 42, 180, 0, 39]
abbrev dktX0_clean_5 : List UInt8 := dkwX0_clean_5 ++ dktX0_clean_6
def dkwX0_clean_4 : List UInt8 := [153, 0, 8, 21, 6, 167, 0, 5, 21, 4, 54, 4, 132, 6, 1, 167, 255, 164, 132, 5, 1, 167, 255, 149]
abbrev dktX0_clean_4 : List UInt8 := dkwX0_clean_4 ++ dktX0_clean_5
def dkwX0_clean_3 : List UInt8 := [156, 0, 7, 4, 167, 0, 4, 3, 54, 7, 21, 7, 153, 0, 8, 21, 5, 167, 0, 4, 29, 62, 21, 7]
abbrev dktX0_clean_3 : List UInt8 := dkwX0_clean_3 ++ dktX0_clean_4
def dkwX0_clean_2 : List UInt8 := [21, 5, 50, 21, 6, 47, 184, 0, 186, 42, 180, 0, 39, 29, 50, 21, 4, 47, 184, 0, 186, 148]
abbrev dktX0_clean_2 : List UInt8 := dkwX0_clean_2 ++ dktX0_clean_3
def dkwX0_clean_1 : List UInt8 := [42, 180, 0, 39, 21, 5, 50, 21, 6, 47, 9, 148, 153, 0, 41, 29, 2, 159, 0, 32, 42, 180, 0, 39]
abbrev dktX0_clean_1 : List UInt8 := dkwX0_clean_1 ++ dktX0_clean_2
def dkwX0_clean_0 : List UInt8 := [2, 62, 2, 54, 4, 27, 54, 5, 21, 5, 28, 162, 0, 107, 27, 54, 6, 21, 6, 16, 6, 162, 0, 91]
abbrev dktX0_clean_0 : List UInt8 := dkwX0_clean_0 ++ dktX0_clean_1
theorem dksX0_clean_0 : cX0_clean.data.toList.drop 0 = dktX0_clean_0 := by decide +kernel
theorem dksX0_clean_1 : cX0_clean.data.toList.drop 24 = dktX0_clean_1 := dk_seg dksX0_clean_0 24 rfl rfl
theorem dksX0_clean_2 : cX0_clean.data.toList.drop 48 = dktX0_clean_2 := dk_seg dksX0_clean_1 24 rfl rfl
theorem dksX0_clean_3 : cX0_clean.data.toList.drop 70 = dktX0_clean_3 := dk_seg dksX0_clean_2 22 rfl rfl
theorem dksX0_clean_4 : cX0_clean.data.toList.drop 94 = dktX0_clean_4 := dk_seg dksX0_clean_3 24 rfl rfl
theorem dksX0_clean_5 : cX0_clean.data.toList.drop 118 = dktX0_clean_5 := dk_seg dksX0_clean_4 24 rfl rfl
theorem dksX0_clean_6 : cX0_clean.data.toList.drop 142 = dktX0_clean_6 := dk_seg dksX0_clean_5 24 rfl rfl
theorem dksX0_clean_7 : cX0_clean.data.toList.drop 166 = dktX0_clean_7 := dk_seg dksX0_clean_6 24 rfl rfl
theorem dksX0_clean_8 : cX0_clean.data.toList.drop 190 = dktX0_clean_8 := dk_seg dksX0_clean_7 24 rfl rfl
theorem dksX0_clean_9 : cX0_clean.data.toList.drop 213 = dktX0_clean_9 := dk_seg dksX0_clean_8 23 rfl rfl
theorem dX0_clean_0 : decode cX0_clean 0 = .ok (.iconst (-1), 1) := dk_2 (dk_at dksX0_clean_0 0 rfl rfl)
theorem dX0_clean_1 : decode cX0_clean 1 = .ok (.istore_n 3, 1) := dk_62 (dk_at dksX0_clean_0 1 rfl rfl)
theorem dX0_clean_2 : decode cX0_clean 2 = .ok (.iconst (-1), 1) := dk_2 (dk_at dksX0_clean_0 2 rfl rfl)
theorem dX0_clean_3 : decode cX0_clean 3 = .ok (.istore 4, 2) := dk_54 4 (dk_at dksX0_clean_0 3 rfl rfl)
theorem dX0_clean_5 : decode cX0_clean 5 = .ok (.iload_n 1, 1) := dk_27 (dk_at dksX0_clean_0 5 rfl rfl)
theorem dX0_clean_6 : decode cX0_clean 6 = .ok (.istore 5, 2) := dk_54 5 (dk_at dksX0_clean_0 6 rfl rfl)
theorem dX0_clean_8 : decode cX0_clean 8 = .ok (.iload 5, 2) := dk_21 5 (dk_at dksX0_clean_0 8 rfl rfl)
theorem dX0_clean_10 : decode cX0_clean 10 = .ok (.iload_n 2, 1) := dk_28 (dk_at dksX0_clean_0 10 rfl rfl)
theorem dX0_clean_11 : decode cX0_clean 11 = .ok (.if_icmp .ge 107, 3) := dk_162 0 107 (dk_at dksX0_clean_0 11 rfl rfl)
theorem dX0_clean_14 : decode cX0_clean 14 = .ok (.iload_n 1, 1) := dk_27 (dk_at dksX0_clean_0 14 rfl rfl)
theorem dX0_clean_15 : decode cX0_clean 15 = .ok (.istore 6, 2) := dk_54 6 (dk_at dksX0_clean_0 15 rfl rfl)
theorem dX0_clean_17 : decode cX0_clean 17 = .ok (.iload 6, 2) := dk_21 6 (dk_at dksX0_clean_0 17 rfl rfl)
theorem dX0_clean_19 : decode cX0_clean 19 = .ok (.bipush 6, 2) := dk_16 6 (dk_at dksX0_clean_0 19 rfl rfl)
theorem dX0_clean_21 : decode cX0_clean 21 = .ok (.if_icmp .ge 91, 3) := dk_162 0 91 (dk_at dksX0_clean_0 21 rfl rfl)
theorem dX0_clean_24 : decode cX0_clean 24 = .ok (.aload_n 0, 1) := dk_42 (dk_at dksX0_clean_1 0 rfl rfl)
theorem dX0_clean_25 : decode cX0_clean 25 = .ok (.getfield 39, 3) := dk_180 0 39 (dk_at dksX0_clean_1 1 rfl rfl)
theorem dX0_clean_28 : decode cX0_clean 28 = .ok (.iload 5, 2) := dk_21 5 (dk_at dksX0_clean_1 4 rfl rfl)
theorem dX0_clean_30 : decode cX0_clean 30 = .ok (.aaload, 1) := dk_50 (dk_at dksX0_clean_1 6 rfl rfl)
theorem dX0_clean_31 : decode cX0_clean 31 = .ok (.iload 6, 2) := dk_21 6 (dk_at dksX0_clean_1 7 rfl rfl)
theorem dX0_clean_33 : decode cX0_clean 33 = .ok (.laload, 1) := dk_47 (dk_at dksX0_clean_1 9 rfl rfl)
theorem dX0_clean_34 : decode cX0_clean 34 = .ok (.lconst 0, 1) := dk_9 (dk_at dksX0_clean_1 10 rfl rfl)
theorem dX0_clean_35 : decode cX0_clean 35 = .ok (.lcmp, 1) := dk_148 (dk_at dksX0_clean_1 11 rfl rfl)
theorem dX0_clean_36 : decode cX0_clean 36 = .ok (.ifCond .eq 41, 3) := dk_153 0 41 (dk_at dksX0_clean_1 12 rfl rfl)
theorem dX0_clean_39 : decode cX0_clean 39 = .ok (.iload_n 3, 1) := dk_29 (dk_at dksX0_clean_1 15 rfl rfl)
theorem dX0_clean_40 : decode cX0_clean 40 = .ok (.iconst (-1), 1) := dk_2 (dk_at dksX0_clean_1 16 rfl rfl)
theorem dX0_clean_41 : decode cX0_clean 41 = .ok (.if_icmp .eq 32, 3) := dk_159 0 32 (dk_at dksX0_clean_1 17 rfl rfl)
theorem dX0_clean_44 : decode cX0_clean 44 = .ok (.aload_n 0, 1) := dk_42 (dk_at dksX0_clean_1 20 rfl rfl)
theorem dX0_clean_45 : decode cX0_clean 45 = .ok (.getfield 39, 3) := dk_180 0 39 (dk_at dksX0_clean_1 21 rfl rfl)
theorem dX0_clean_48 : decode cX0_clean 48 = .ok (.iload 5, 2) := dk_21 5 (dk_at dksX0_clean_2 0 rfl rfl)
theorem dX0_clean_50 : decode cX0_clean 50 = .ok (.aaload, 1) := dk_50 (dk_at dksX0_clean_2 2 rfl rfl)
theorem dX0_clean_51 : decode cX0_clean 51 = .ok (.iload 6, 2) := dk_21 6 (dk_at dksX0_clean_2 3 rfl rfl)
theorem dX0_clean_53 : decode cX0_clean 53 = .ok (.laload, 1) := dk_47 (dk_at dksX0_clean_2 5 rfl rfl)
theorem dX0_clean_54 : decode cX0_clean 54 = .ok (.invokestatic 186, 3) := dk_184 0 186 (dk_at dksX0_clean_2 6 rfl rfl)
theorem dX0_clean_57 : decode cX0_clean 57 = .ok (.aload_n 0, 1) := dk_42 (dk_at dksX0_clean_2 9 rfl rfl)
theorem dX0_clean_58 : decode cX0_clean 58 = .ok (.getfield 39, 3) := dk_180 0 39 (dk_at dksX0_clean_2 10 rfl rfl)
theorem dX0_clean_61 : decode cX0_clean 61 = .ok (.iload_n 3, 1) := dk_29 (dk_at dksX0_clean_2 13 rfl rfl)
theorem dX0_clean_62 : decode cX0_clean 62 = .ok (.aaload, 1) := dk_50 (dk_at dksX0_clean_2 14 rfl rfl)
theorem dX0_clean_63 : decode cX0_clean 63 = .ok (.iload 4, 2) := dk_21 4 (dk_at dksX0_clean_2 15 rfl rfl)
theorem dX0_clean_65 : decode cX0_clean 65 = .ok (.laload, 1) := dk_47 (dk_at dksX0_clean_2 17 rfl rfl)
theorem dX0_clean_66 : decode cX0_clean 66 = .ok (.invokestatic 186, 3) := dk_184 0 186 (dk_at dksX0_clean_2 18 rfl rfl)
theorem dX0_clean_69 : decode cX0_clean 69 = .ok (.lcmp, 1) := dk_148 (dk_at dksX0_clean_2 21 rfl rfl)
theorem dX0_clean_70 : decode cX0_clean 70 = .ok (.ifCond .ge 7, 3) := dk_156 0 7 (dk_at dksX0_clean_3 0 rfl rfl)
theorem dX0_clean_73 : decode cX0_clean 73 = .ok (.iconst 1, 1) := dk_4 (dk_at dksX0_clean_3 3 rfl rfl)
theorem dX0_clean_74 : decode cX0_clean 74 = .ok (.goto 4, 3) := dk_167 0 4 (dk_at dksX0_clean_3 4 rfl rfl)
theorem dX0_clean_77 : decode cX0_clean 77 = .ok (.iconst 0, 1) := dk_3 (dk_at dksX0_clean_3 7 rfl rfl)
theorem dX0_clean_78 : decode cX0_clean 78 = .ok (.istore 7, 2) := dk_54 7 (dk_at dksX0_clean_3 8 rfl rfl)
theorem dX0_clean_80 : decode cX0_clean 80 = .ok (.iload 7, 2) := dk_21 7 (dk_at dksX0_clean_3 10 rfl rfl)
theorem dX0_clean_82 : decode cX0_clean 82 = .ok (.ifCond .eq 8, 3) := dk_153 0 8 (dk_at dksX0_clean_3 12 rfl rfl)
theorem dX0_clean_85 : decode cX0_clean 85 = .ok (.iload 5, 2) := dk_21 5 (dk_at dksX0_clean_3 15 rfl rfl)
theorem dX0_clean_87 : decode cX0_clean 87 = .ok (.goto 4, 3) := dk_167 0 4 (dk_at dksX0_clean_3 17 rfl rfl)
theorem dX0_clean_90 : decode cX0_clean 90 = .ok (.iload_n 3, 1) := dk_29 (dk_at dksX0_clean_3 20 rfl rfl)
theorem dX0_clean_91 : decode cX0_clean 91 = .ok (.istore_n 3, 1) := dk_62 (dk_at dksX0_clean_3 21 rfl rfl)
theorem dX0_clean_92 : decode cX0_clean 92 = .ok (.iload 7, 2) := dk_21 7 (dk_at dksX0_clean_3 22 rfl rfl)
theorem dX0_clean_94 : decode cX0_clean 94 = .ok (.ifCond .eq 8, 3) := dk_153 0 8 (dk_at dksX0_clean_4 0 rfl rfl)
theorem dX0_clean_97 : decode cX0_clean 97 = .ok (.iload 6, 2) := dk_21 6 (dk_at dksX0_clean_4 3 rfl rfl)
theorem dX0_clean_99 : decode cX0_clean 99 = .ok (.goto 5, 3) := dk_167 0 5 (dk_at dksX0_clean_4 5 rfl rfl)
theorem dX0_clean_102 : decode cX0_clean 102 = .ok (.iload 4, 2) := dk_21 4 (dk_at dksX0_clean_4 8 rfl rfl)
theorem dX0_clean_104 : decode cX0_clean 104 = .ok (.istore 4, 2) := dk_54 4 (dk_at dksX0_clean_4 10 rfl rfl)
theorem dX0_clean_106 : decode cX0_clean 106 = .ok (.iinc 6 1, 3) := dk_132 6 1 (dk_at dksX0_clean_4 12 rfl rfl)
theorem dX0_clean_109 : decode cX0_clean 109 = .ok (.goto (-92), 3) := dk_167 255 164 (dk_at dksX0_clean_4 15 rfl rfl)
theorem dX0_clean_112 : decode cX0_clean 112 = .ok (.iinc 5 1, 3) := dk_132 5 1 (dk_at dksX0_clean_4 18 rfl rfl)
theorem dX0_clean_115 : decode cX0_clean 115 = .ok (.goto (-107), 3) := dk_167 255 149 (dk_at dksX0_clean_4 21 rfl rfl)
theorem dX0_clean_118 : decode cX0_clean 118 = .ok (.iload_n 3, 1) := dk_29 (dk_at dksX0_clean_5 0 rfl rfl)
theorem dX0_clean_119 : decode cX0_clean 119 = .ok (.iconst (-1), 1) := dk_2 (dk_at dksX0_clean_5 1 rfl rfl)
theorem dX0_clean_120 : decode cX0_clean 120 = .ok (.if_icmp .ne 5, 3) := dk_160 0 5 (dk_at dksX0_clean_5 2 rfl rfl)
theorem dX0_clean_123 : decode cX0_clean 123 = .ok (.iconst 0, 1) := dk_3 (dk_at dksX0_clean_5 5 rfl rfl)
theorem dX0_clean_124 : decode cX0_clean 124 = .ok (.ireturn, 1) := dk_172 (dk_at dksX0_clean_5 6 rfl rfl)
theorem dX0_clean_125 : decode cX0_clean 125 = .ok (.aload_n 0, 1) := dk_42 (dk_at dksX0_clean_5 7 rfl rfl)
theorem dX0_clean_126 : decode cX0_clean 126 = .ok (.getfield 39, 3) := dk_180 0 39 (dk_at dksX0_clean_5 8 rfl rfl)
theorem dX0_clean_129 : decode cX0_clean 129 = .ok (.iload_n 3, 1) := dk_29 (dk_at dksX0_clean_5 11 rfl rfl)
theorem dX0_clean_130 : decode cX0_clean 130 = .ok (.aaload, 1) := dk_50 (dk_at dksX0_clean_5 12 rfl rfl)
theorem dX0_clean_131 : decode cX0_clean 131 = .ok (.astore 5, 2) := dk_58 5 (dk_at dksX0_clean_5 13 rfl rfl)
theorem dX0_clean_133 : decode cX0_clean 133 = .ok (.aload_n 0, 1) := dk_42 (dk_at dksX0_clean_5 15 rfl rfl)
theorem dX0_clean_134 : decode cX0_clean 134 = .ok (.getfield 39, 3) := dk_180 0 39 (dk_at dksX0_clean_5 16 rfl rfl)
theorem dX0_clean_137 : decode cX0_clean 137 = .ok (.iload_n 3, 1) := dk_29 (dk_at dksX0_clean_5 19 rfl rfl)
theorem dX0_clean_138 : decode cX0_clean 138 = .ok (.aload_n 0, 1) := dk_42 (dk_at dksX0_clean_5 20 rfl rfl)
theorem dX0_clean_139 : decode cX0_clean 139 = .ok (.getfield 39, 3) := dk_180 0 39 (dk_at dksX0_clean_5 21 rfl rfl)
theorem dX0_clean_142 : decode cX0_clean 142 = .ok (.iload_n 1, 1) := dk_27 (dk_at dksX0_clean_6 0 rfl rfl)
theorem dX0_clean_143 : decode cX0_clean 143 = .ok (.aaload, 1) := dk_50 (dk_at dksX0_clean_6 1 rfl rfl)
theorem dX0_clean_144 : decode cX0_clean 144 = .ok (.aastore, 1) := dk_83 (dk_at dksX0_clean_6 2 rfl rfl)
theorem dX0_clean_145 : decode cX0_clean 145 = .ok (.aload_n 0, 1) := dk_42 (dk_at dksX0_clean_6 3 rfl rfl)
theorem dX0_clean_146 : decode cX0_clean 146 = .ok (.getfield 39, 3) := dk_180 0 39 (dk_at dksX0_clean_6 4 rfl rfl)
theorem dX0_clean_149 : decode cX0_clean 149 = .ok (.iload_n 1, 1) := dk_27 (dk_at dksX0_clean_6 7 rfl rfl)
theorem dX0_clean_150 : decode cX0_clean 150 = .ok (.aload 5, 2) := dk_25 5 (dk_at dksX0_clean_6 8 rfl rfl)
theorem dX0_clean_152 : decode cX0_clean 152 = .ok (.aastore, 1) := dk_83 (dk_at dksX0_clean_6 10 rfl rfl)
theorem dX0_clean_153 : decode cX0_clean 153 = .ok (.iload_n 1, 1) := dk_27 (dk_at dksX0_clean_6 11 rfl rfl)
theorem dX0_clean_154 : decode cX0_clean 154 = .ok (.istore 6, 2) := dk_54 6 (dk_at dksX0_clean_6 12 rfl rfl)
theorem dX0_clean_156 : decode cX0_clean 156 = .ok (.iload 6, 2) := dk_21 6 (dk_at dksX0_clean_6 14 rfl rfl)
theorem dX0_clean_158 : decode cX0_clean 158 = .ok (.iload_n 2, 1) := dk_28 (dk_at dksX0_clean_6 16 rfl rfl)
theorem dX0_clean_159 : decode cX0_clean 159 = .ok (.if_icmp .ge 51, 3) := dk_162 0 51 (dk_at dksX0_clean_6 17 rfl rfl)
theorem dX0_clean_162 : decode cX0_clean 162 = .ok (.aload_n 0, 1) := dk_42 (dk_at dksX0_clean_6 20 rfl rfl)
theorem dX0_clean_163 : decode cX0_clean 163 = .ok (.getfield 39, 3) := dk_180 0 39 (dk_at dksX0_clean_6 21 rfl rfl)
theorem dX0_clean_166 : decode cX0_clean 166 = .ok (.iload 6, 2) := dk_21 6 (dk_at dksX0_clean_7 0 rfl rfl)
theorem dX0_clean_168 : decode cX0_clean 168 = .ok (.aaload, 1) := dk_50 (dk_at dksX0_clean_7 2 rfl rfl)
theorem dX0_clean_169 : decode cX0_clean 169 = .ok (.iload 4, 2) := dk_21 4 (dk_at dksX0_clean_7 3 rfl rfl)
theorem dX0_clean_171 : decode cX0_clean 171 = .ok (.laload, 1) := dk_47 (dk_at dksX0_clean_7 5 rfl rfl)
theorem dX0_clean_172 : decode cX0_clean 172 = .ok (.lstore 7, 2) := dk_55 7 (dk_at dksX0_clean_7 6 rfl rfl)
theorem dX0_clean_174 : decode cX0_clean 174 = .ok (.aload_n 0, 1) := dk_42 (dk_at dksX0_clean_7 8 rfl rfl)
theorem dX0_clean_175 : decode cX0_clean 175 = .ok (.getfield 39, 3) := dk_180 0 39 (dk_at dksX0_clean_7 9 rfl rfl)
theorem dX0_clean_178 : decode cX0_clean 178 = .ok (.iload 6, 2) := dk_21 6 (dk_at dksX0_clean_7 12 rfl rfl)
theorem dX0_clean_180 : decode cX0_clean 180 = .ok (.aaload, 1) := dk_50 (dk_at dksX0_clean_7 14 rfl rfl)
theorem dX0_clean_181 : decode cX0_clean 181 = .ok (.iload 4, 2) := dk_21 4 (dk_at dksX0_clean_7 15 rfl rfl)
theorem dX0_clean_183 : decode cX0_clean 183 = .ok (.aload_n 0, 1) := dk_42 (dk_at dksX0_clean_7 17 rfl rfl)
theorem dX0_clean_184 : decode cX0_clean 184 = .ok (.getfield 39, 3) := dk_180 0 39 (dk_at dksX0_clean_7 18 rfl rfl)
theorem dX0_clean_187 : decode cX0_clean 187 = .ok (.iload 6, 2) := dk_21 6 (dk_at dksX0_clean_7 21 rfl rfl)
theorem dX0_clean_189 : decode cX0_clean 189 = .ok (.aaload, 1) := dk_50 (dk_at dksX0_clean_7 23 rfl rfl)
theorem dX0_clean_190 : decode cX0_clean 190 = .ok (.iload_n 1, 1) := dk_27 (dk_at dksX0_clean_8 0 rfl rfl)
theorem dX0_clean_191 : decode cX0_clean 191 = .ok (.laload, 1) := dk_47 (dk_at dksX0_clean_8 1 rfl rfl)
theorem dX0_clean_192 : decode cX0_clean 192 = .ok (.lastore, 1) := dk_80 (dk_at dksX0_clean_8 2 rfl rfl)
theorem dX0_clean_193 : decode cX0_clean 193 = .ok (.aload_n 0, 1) := dk_42 (dk_at dksX0_clean_8 3 rfl rfl)
theorem dX0_clean_194 : decode cX0_clean 194 = .ok (.getfield 39, 3) := dk_180 0 39 (dk_at dksX0_clean_8 4 rfl rfl)
theorem dX0_clean_197 : decode cX0_clean 197 = .ok (.iload 6, 2) := dk_21 6 (dk_at dksX0_clean_8 7 rfl rfl)
theorem dX0_clean_199 : decode cX0_clean 199 = .ok (.aaload, 1) := dk_50 (dk_at dksX0_clean_8 9 rfl rfl)
theorem dX0_clean_200 : decode cX0_clean 200 = .ok (.iload_n 1, 1) := dk_27 (dk_at dksX0_clean_8 10 rfl rfl)
theorem dX0_clean_201 : decode cX0_clean 201 = .ok (.lload 7, 2) := dk_22 7 (dk_at dksX0_clean_8 11 rfl rfl)
theorem dX0_clean_203 : decode cX0_clean 203 = .ok (.lastore, 1) := dk_80 (dk_at dksX0_clean_8 13 rfl rfl)
theorem dX0_clean_204 : decode cX0_clean 204 = .ok (.iinc 6 1, 3) := dk_132 6 1 (dk_at dksX0_clean_8 14 rfl rfl)
theorem dX0_clean_207 : decode cX0_clean 207 = .ok (.goto (-51), 3) := dk_167 255 205 (dk_at dksX0_clean_8 17 rfl rfl)
theorem dX0_clean_210 : decode cX0_clean 210 = .ok (.aload_n 0, 1) := dk_42 (dk_at dksX0_clean_8 20 rfl rfl)
theorem dX0_clean_211 : decode cX0_clean 211 = .ok (.iload_n 1, 1) := dk_27 (dk_at dksX0_clean_8 21 rfl rfl)
theorem dX0_clean_212 : decode cX0_clean 212 = .ok (.iload_n 2, 1) := dk_28 (dk_at dksX0_clean_8 22 rfl rfl)
theorem dX0_clean_213 : decode cX0_clean 213 = .ok (.invokevirtual 190, 3) := dk_182 0 190 (dk_at dksX0_clean_9 0 rfl rfl)
theorem dX0_clean_216 : decode cX0_clean 216 = .ok (.ifCond .eq 5, 3) := dk_153 0 5 (dk_at dksX0_clean_9 3 rfl rfl)
theorem dX0_clean_219 : decode cX0_clean 219 = .ok (.iconst 1, 1) := dk_4 (dk_at dksX0_clean_9 6 rfl rfl)
theorem dX0_clean_220 : decode cX0_clean 220 = .ok (.ireturn, 1) := dk_172 (dk_at dksX0_clean_9 7 rfl rfl)
theorem dX0_clean_221 : decode cX0_clean 221 = .ok (.goto (-221), 3) := dk_167 255 35 (dk_at dksX0_clean_9 8 rfl rfl)
abbrev cX0_take : ByteArray := prog_1_method_28_code
def yX0_take : MethodName := ⟨RX0, "take", "(II)Z"⟩
def dkwX0_take_13 : List UInt8 := [167, 255, 161, 21, 5, 172]
abbrev dktX0_take_13 : List UInt8 := dkwX0_take_13 ++ []
def dkwX0_take_12 : List UInt8 := [21, 8, 47, 97, 80, 132, 8, 1, 167, 255, 224, 3, 54, 5, 132, 7, 1, 167, 255, 183, 132, 6, 1]
abbrev dktX0_take_12 : List UInt8 := dkwX0_take_12 ++ dktX0_take_13
def dkwX0_take_11 : List UInt8 := [21, 8, 16, 6, 162, 0, 31, 42, 180, 0, 39, 27, 50, 21, 8, 92, 47, 42, 180, 0, 39, 21, 6, 50]
abbrev dktX0_take_11 : List UInt8 := dkwX0_take_11 ++ dktX0_take_12
def dkwX0_take_10 : List UInt8 := [153, 0, 67, 42, 180, 0, 39, 21, 6, 50, 21, 7, 47, 33, 113, 9, 148, 153, 0, 44, 27, 54, 8]
abbrev dktX0_take_10 : List UInt8 := dkwX0_take_10 ++ dktX0_take_11
def dkwX0_take_9 : List UInt8 := [28, 162, 0, 95, 21, 5, 153, 0, 90, 27, 4, 96, 54, 7, 21, 7, 16, 6, 162, 0, 72, 21, 5]
abbrev dktX0_take_9 : List UInt8 := dkwX0_take_9 ++ dktX0_take_10
def dkwX0_take_8 : List UInt8 := [148, 154, 0, 7, 4, 167, 0, 4, 3, 54, 5, 132, 6, 1, 167, 255, 167, 27, 4, 96, 54, 6, 21, 6]
abbrev dktX0_take_8 : List UInt8 := dkwX0_take_8 ++ dktX0_take_9
def dkwX0_take_7 : List UInt8 := [21, 9, 50, 27, 47, 105, 101, 80, 132, 9, 1, 167, 255, 222, 42, 180, 0, 39, 27, 50, 21, 6, 47, 9]
abbrev dktX0_take_7 : List UInt8 := dkwX0_take_7 ++ dktX0_take_8
def dkwX0_take_6 : List UInt8 := [21, 9, 28, 162, 0, 34, 42, 180, 0, 39, 21, 9, 50, 21, 6, 92, 47, 22, 7, 42, 180, 0, 39]
abbrev dktX0_take_6 : List UInt8 := dkwX0_take_6 ++ dktX0_take_7
def dkwX0_take_5 : List UInt8 := [162, 0, 88, 21, 5, 153, 0, 83, 42, 180, 0, 39, 27, 50, 21, 6, 47, 33, 109, 55, 7, 27, 54, 9]
abbrev dktX0_take_5 : List UInt8 := dkwX0_take_5 ++ dktX0_take_6
def dkwX0_take_4 : List UInt8 := [167, 0, 4, 3, 126, 54, 5, 132, 6, 1, 167, 255, 169, 27, 4, 96, 54, 6, 21, 6, 16, 6]
abbrev dktX0_take_4 : List UInt8 := dkwX0_take_4 ++ dktX0_take_5
def dkwX0_take_3 : List UInt8 := [132, 9, 1, 167, 255, 221, 21, 5, 42, 180, 0, 39, 21, 6, 50, 27, 47, 9, 148, 154, 0, 7, 4]
abbrev dktX0_take_3 : List UInt8 := dkwX0_take_3 ++ dktX0_take_4
def dkwX0_take_2 : List UInt8 := [180, 0, 39, 21, 6, 50, 21, 9, 92, 47, 22, 7, 42, 180, 0, 39, 27, 50, 21, 9, 47, 105, 101, 80]
abbrev dktX0_take_2 : List UInt8 := dkwX0_take_2 ++ dktX0_take_3
def dkwX0_take_1 : List UInt8 := [180, 0, 39, 21, 6, 50, 27, 47, 33, 109, 55, 7, 27, 54, 9, 21, 9, 16, 6, 162, 0, 34, 42]
abbrev dktX0_take_1 : List UInt8 := dkwX0_take_1 ++ dktX0_take_2
def dkwX0_take_0 : List UInt8 := [42, 180, 0, 39, 27, 50, 27, 47, 66, 4, 54, 5, 27, 4, 96, 54, 6, 21, 6, 28, 162, 0, 87, 42]
abbrev dktX0_take_0 : List UInt8 := dkwX0_take_0 ++ dktX0_take_1
theorem dksX0_take_0 : cX0_take.data.toList.drop 0 = dktX0_take_0 := by decide +kernel
theorem dksX0_take_1 : cX0_take.data.toList.drop 24 = dktX0_take_1 := dk_seg dksX0_take_0 24 rfl rfl
theorem dksX0_take_2 : cX0_take.data.toList.drop 47 = dktX0_take_2 := dk_seg dksX0_take_1 23 rfl rfl
theorem dksX0_take_3 : cX0_take.data.toList.drop 71 = dktX0_take_3 := dk_seg dksX0_take_2 24 rfl rfl
theorem dksX0_take_4 : cX0_take.data.toList.drop 94 = dktX0_take_4 := dk_seg dksX0_take_3 23 rfl rfl
theorem dksX0_take_5 : cX0_take.data.toList.drop 116 = dktX0_take_5 := dk_seg dksX0_take_4 22 rfl rfl
theorem dksX0_take_6 : cX0_take.data.toList.drop 140 = dktX0_take_6 := dk_seg dksX0_take_5 24 rfl rfl
theorem dksX0_take_7 : cX0_take.data.toList.drop 163 = dktX0_take_7 := dk_seg dksX0_take_6 23 rfl rfl
theorem dksX0_take_8 : cX0_take.data.toList.drop 187 = dktX0_take_8 := dk_seg dksX0_take_7 24 rfl rfl
theorem dksX0_take_9 : cX0_take.data.toList.drop 211 = dktX0_take_9 := dk_seg dksX0_take_8 24 rfl rfl
theorem dksX0_take_10 : cX0_take.data.toList.drop 234 = dktX0_take_10 := dk_seg dksX0_take_9 23 rfl rfl
theorem dksX0_take_11 : cX0_take.data.toList.drop 257 = dktX0_take_11 := dk_seg dksX0_take_10 23 rfl rfl
theorem dksX0_take_12 : cX0_take.data.toList.drop 281 = dktX0_take_12 := dk_seg dksX0_take_11 24 rfl rfl
theorem dksX0_take_13 : cX0_take.data.toList.drop 304 = dktX0_take_13 := dk_seg dksX0_take_12 23 rfl rfl
theorem dX0_take_0 : decode cX0_take 0 = .ok (.aload_n 0, 1) := dk_42 (dk_at dksX0_take_0 0 rfl rfl)
theorem dX0_take_1 : decode cX0_take 1 = .ok (.getfield 39, 3) := dk_180 0 39 (dk_at dksX0_take_0 1 rfl rfl)
theorem dX0_take_4 : decode cX0_take 4 = .ok (.iload_n 1, 1) := dk_27 (dk_at dksX0_take_0 4 rfl rfl)
theorem dX0_take_5 : decode cX0_take 5 = .ok (.aaload, 1) := dk_50 (dk_at dksX0_take_0 5 rfl rfl)
theorem dX0_take_6 : decode cX0_take 6 = .ok (.iload_n 1, 1) := dk_27 (dk_at dksX0_take_0 6 rfl rfl)
theorem dX0_take_7 : decode cX0_take 7 = .ok (.laload, 1) := dk_47 (dk_at dksX0_take_0 7 rfl rfl)
theorem dX0_take_8 : decode cX0_take 8 = .ok (.lstore_n 3, 1) := dk_66 (dk_at dksX0_take_0 8 rfl rfl)
theorem dX0_take_9 : decode cX0_take 9 = .ok (.iconst 1, 1) := dk_4 (dk_at dksX0_take_0 9 rfl rfl)
theorem dX0_take_10 : decode cX0_take 10 = .ok (.istore 5, 2) := dk_54 5 (dk_at dksX0_take_0 10 rfl rfl)
theorem dX0_take_12 : decode cX0_take 12 = .ok (.iload_n 1, 1) := dk_27 (dk_at dksX0_take_0 12 rfl rfl)
theorem dX0_take_13 : decode cX0_take 13 = .ok (.iconst 1, 1) := dk_4 (dk_at dksX0_take_0 13 rfl rfl)
theorem dX0_take_14 : decode cX0_take 14 = .ok (.iadd, 1) := dk_96 (dk_at dksX0_take_0 14 rfl rfl)
theorem dX0_take_15 : decode cX0_take 15 = .ok (.istore 6, 2) := dk_54 6 (dk_at dksX0_take_0 15 rfl rfl)
theorem dX0_take_17 : decode cX0_take 17 = .ok (.iload 6, 2) := dk_21 6 (dk_at dksX0_take_0 17 rfl rfl)
theorem dX0_take_19 : decode cX0_take 19 = .ok (.iload_n 2, 1) := dk_28 (dk_at dksX0_take_0 19 rfl rfl)
theorem dX0_take_20 : decode cX0_take 20 = .ok (.if_icmp .ge 87, 3) := dk_162 0 87 (dk_at dksX0_take_0 20 rfl rfl)
theorem dX0_take_23 : decode cX0_take 23 = .ok (.aload_n 0, 1) := dk_42 (dk_at dksX0_take_0 23 rfl rfl)
theorem dX0_take_24 : decode cX0_take 24 = .ok (.getfield 39, 3) := dk_180 0 39 (dk_at dksX0_take_1 0 rfl rfl)
theorem dX0_take_27 : decode cX0_take 27 = .ok (.iload 6, 2) := dk_21 6 (dk_at dksX0_take_1 3 rfl rfl)
theorem dX0_take_29 : decode cX0_take 29 = .ok (.aaload, 1) := dk_50 (dk_at dksX0_take_1 5 rfl rfl)
theorem dX0_take_30 : decode cX0_take 30 = .ok (.iload_n 1, 1) := dk_27 (dk_at dksX0_take_1 6 rfl rfl)
theorem dX0_take_31 : decode cX0_take 31 = .ok (.laload, 1) := dk_47 (dk_at dksX0_take_1 7 rfl rfl)
theorem dX0_take_32 : decode cX0_take 32 = .ok (.lload_n 3, 1) := dk_33 (dk_at dksX0_take_1 8 rfl rfl)
theorem dX0_take_33 : decode cX0_take 33 = .ok (.ldiv, 1) := dk_109 (dk_at dksX0_take_1 9 rfl rfl)
theorem dX0_take_34 : decode cX0_take 34 = .ok (.lstore 7, 2) := dk_55 7 (dk_at dksX0_take_1 10 rfl rfl)
theorem dX0_take_36 : decode cX0_take 36 = .ok (.iload_n 1, 1) := dk_27 (dk_at dksX0_take_1 12 rfl rfl)
theorem dX0_take_37 : decode cX0_take 37 = .ok (.istore 9, 2) := dk_54 9 (dk_at dksX0_take_1 13 rfl rfl)
theorem dX0_take_39 : decode cX0_take 39 = .ok (.iload 9, 2) := dk_21 9 (dk_at dksX0_take_1 15 rfl rfl)
theorem dX0_take_41 : decode cX0_take 41 = .ok (.bipush 6, 2) := dk_16 6 (dk_at dksX0_take_1 17 rfl rfl)
theorem dX0_take_43 : decode cX0_take 43 = .ok (.if_icmp .ge 34, 3) := dk_162 0 34 (dk_at dksX0_take_1 19 rfl rfl)
theorem dX0_take_46 : decode cX0_take 46 = .ok (.aload_n 0, 1) := dk_42 (dk_at dksX0_take_1 22 rfl rfl)
theorem dX0_take_47 : decode cX0_take 47 = .ok (.getfield 39, 3) := dk_180 0 39 (dk_at dksX0_take_2 0 rfl rfl)
theorem dX0_take_50 : decode cX0_take 50 = .ok (.iload 6, 2) := dk_21 6 (dk_at dksX0_take_2 3 rfl rfl)
theorem dX0_take_52 : decode cX0_take 52 = .ok (.aaload, 1) := dk_50 (dk_at dksX0_take_2 5 rfl rfl)
theorem dX0_take_53 : decode cX0_take 53 = .ok (.iload 9, 2) := dk_21 9 (dk_at dksX0_take_2 6 rfl rfl)
theorem dX0_take_55 : decode cX0_take 55 = .ok (.dup2, 1) := dk_92 (dk_at dksX0_take_2 8 rfl rfl)
theorem dX0_take_56 : decode cX0_take 56 = .ok (.laload, 1) := dk_47 (dk_at dksX0_take_2 9 rfl rfl)
theorem dX0_take_57 : decode cX0_take 57 = .ok (.lload 7, 2) := dk_22 7 (dk_at dksX0_take_2 10 rfl rfl)
theorem dX0_take_59 : decode cX0_take 59 = .ok (.aload_n 0, 1) := dk_42 (dk_at dksX0_take_2 12 rfl rfl)
theorem dX0_take_60 : decode cX0_take 60 = .ok (.getfield 39, 3) := dk_180 0 39 (dk_at dksX0_take_2 13 rfl rfl)
theorem dX0_take_63 : decode cX0_take 63 = .ok (.iload_n 1, 1) := dk_27 (dk_at dksX0_take_2 16 rfl rfl)
theorem dX0_take_64 : decode cX0_take 64 = .ok (.aaload, 1) := dk_50 (dk_at dksX0_take_2 17 rfl rfl)
theorem dX0_take_65 : decode cX0_take 65 = .ok (.iload 9, 2) := dk_21 9 (dk_at dksX0_take_2 18 rfl rfl)
theorem dX0_take_67 : decode cX0_take 67 = .ok (.laload, 1) := dk_47 (dk_at dksX0_take_2 20 rfl rfl)
theorem dX0_take_68 : decode cX0_take 68 = .ok (.lmul, 1) := dk_105 (dk_at dksX0_take_2 21 rfl rfl)
theorem dX0_take_69 : decode cX0_take 69 = .ok (.lsub, 1) := dk_101 (dk_at dksX0_take_2 22 rfl rfl)
theorem dX0_take_70 : decode cX0_take 70 = .ok (.lastore, 1) := dk_80 (dk_at dksX0_take_2 23 rfl rfl)
theorem dX0_take_71 : decode cX0_take 71 = .ok (.iinc 9 1, 3) := dk_132 9 1 (dk_at dksX0_take_3 0 rfl rfl)
theorem dX0_take_74 : decode cX0_take 74 = .ok (.goto (-35), 3) := dk_167 255 221 (dk_at dksX0_take_3 3 rfl rfl)
theorem dX0_take_77 : decode cX0_take 77 = .ok (.iload 5, 2) := dk_21 5 (dk_at dksX0_take_3 6 rfl rfl)
theorem dX0_take_79 : decode cX0_take 79 = .ok (.aload_n 0, 1) := dk_42 (dk_at dksX0_take_3 8 rfl rfl)
theorem dX0_take_80 : decode cX0_take 80 = .ok (.getfield 39, 3) := dk_180 0 39 (dk_at dksX0_take_3 9 rfl rfl)
theorem dX0_take_83 : decode cX0_take 83 = .ok (.iload 6, 2) := dk_21 6 (dk_at dksX0_take_3 12 rfl rfl)
theorem dX0_take_85 : decode cX0_take 85 = .ok (.aaload, 1) := dk_50 (dk_at dksX0_take_3 14 rfl rfl)
theorem dX0_take_86 : decode cX0_take 86 = .ok (.iload_n 1, 1) := dk_27 (dk_at dksX0_take_3 15 rfl rfl)
theorem dX0_take_87 : decode cX0_take 87 = .ok (.laload, 1) := dk_47 (dk_at dksX0_take_3 16 rfl rfl)
theorem dX0_take_88 : decode cX0_take 88 = .ok (.lconst 0, 1) := dk_9 (dk_at dksX0_take_3 17 rfl rfl)
theorem dX0_take_89 : decode cX0_take 89 = .ok (.lcmp, 1) := dk_148 (dk_at dksX0_take_3 18 rfl rfl)
theorem dX0_take_90 : decode cX0_take 90 = .ok (.ifCond .ne 7, 3) := dk_154 0 7 (dk_at dksX0_take_3 19 rfl rfl)
theorem dX0_take_93 : decode cX0_take 93 = .ok (.iconst 1, 1) := dk_4 (dk_at dksX0_take_3 22 rfl rfl)
theorem dX0_take_94 : decode cX0_take 94 = .ok (.goto 4, 3) := dk_167 0 4 (dk_at dksX0_take_4 0 rfl rfl)
theorem dX0_take_97 : decode cX0_take 97 = .ok (.iconst 0, 1) := dk_3 (dk_at dksX0_take_4 3 rfl rfl)
theorem dX0_take_98 : decode cX0_take 98 = .ok (.iand, 1) := dk_126 (dk_at dksX0_take_4 4 rfl rfl)
theorem dX0_take_99 : decode cX0_take 99 = .ok (.istore 5, 2) := dk_54 5 (dk_at dksX0_take_4 5 rfl rfl)
theorem dX0_take_101 : decode cX0_take 101 = .ok (.iinc 6 1, 3) := dk_132 6 1 (dk_at dksX0_take_4 7 rfl rfl)
theorem dX0_take_104 : decode cX0_take 104 = .ok (.goto (-87), 3) := dk_167 255 169 (dk_at dksX0_take_4 10 rfl rfl)
theorem dX0_take_107 : decode cX0_take 107 = .ok (.iload_n 1, 1) := dk_27 (dk_at dksX0_take_4 13 rfl rfl)
theorem dX0_take_108 : decode cX0_take 108 = .ok (.iconst 1, 1) := dk_4 (dk_at dksX0_take_4 14 rfl rfl)
theorem dX0_take_109 : decode cX0_take 109 = .ok (.iadd, 1) := dk_96 (dk_at dksX0_take_4 15 rfl rfl)
theorem dX0_take_110 : decode cX0_take 110 = .ok (.istore 6, 2) := dk_54 6 (dk_at dksX0_take_4 16 rfl rfl)
theorem dX0_take_112 : decode cX0_take 112 = .ok (.iload 6, 2) := dk_21 6 (dk_at dksX0_take_4 18 rfl rfl)
theorem dX0_take_114 : decode cX0_take 114 = .ok (.bipush 6, 2) := dk_16 6 (dk_at dksX0_take_4 20 rfl rfl)
theorem dX0_take_116 : decode cX0_take 116 = .ok (.if_icmp .ge 88, 3) := dk_162 0 88 (dk_at dksX0_take_5 0 rfl rfl)
theorem dX0_take_119 : decode cX0_take 119 = .ok (.iload 5, 2) := dk_21 5 (dk_at dksX0_take_5 3 rfl rfl)
theorem dX0_take_121 : decode cX0_take 121 = .ok (.ifCond .eq 83, 3) := dk_153 0 83 (dk_at dksX0_take_5 5 rfl rfl)
theorem dX0_take_124 : decode cX0_take 124 = .ok (.aload_n 0, 1) := dk_42 (dk_at dksX0_take_5 8 rfl rfl)
theorem dX0_take_125 : decode cX0_take 125 = .ok (.getfield 39, 3) := dk_180 0 39 (dk_at dksX0_take_5 9 rfl rfl)
theorem dX0_take_128 : decode cX0_take 128 = .ok (.iload_n 1, 1) := dk_27 (dk_at dksX0_take_5 12 rfl rfl)
theorem dX0_take_129 : decode cX0_take 129 = .ok (.aaload, 1) := dk_50 (dk_at dksX0_take_5 13 rfl rfl)
theorem dX0_take_130 : decode cX0_take 130 = .ok (.iload 6, 2) := dk_21 6 (dk_at dksX0_take_5 14 rfl rfl)
theorem dX0_take_132 : decode cX0_take 132 = .ok (.laload, 1) := dk_47 (dk_at dksX0_take_5 16 rfl rfl)
theorem dX0_take_133 : decode cX0_take 133 = .ok (.lload_n 3, 1) := dk_33 (dk_at dksX0_take_5 17 rfl rfl)
theorem dX0_take_134 : decode cX0_take 134 = .ok (.ldiv, 1) := dk_109 (dk_at dksX0_take_5 18 rfl rfl)
theorem dX0_take_135 : decode cX0_take 135 = .ok (.lstore 7, 2) := dk_55 7 (dk_at dksX0_take_5 19 rfl rfl)
theorem dX0_take_137 : decode cX0_take 137 = .ok (.iload_n 1, 1) := dk_27 (dk_at dksX0_take_5 21 rfl rfl)
theorem dX0_take_138 : decode cX0_take 138 = .ok (.istore 9, 2) := dk_54 9 (dk_at dksX0_take_5 22 rfl rfl)
theorem dX0_take_140 : decode cX0_take 140 = .ok (.iload 9, 2) := dk_21 9 (dk_at dksX0_take_6 0 rfl rfl)
theorem dX0_take_142 : decode cX0_take 142 = .ok (.iload_n 2, 1) := dk_28 (dk_at dksX0_take_6 2 rfl rfl)
theorem dX0_take_143 : decode cX0_take 143 = .ok (.if_icmp .ge 34, 3) := dk_162 0 34 (dk_at dksX0_take_6 3 rfl rfl)
theorem dX0_take_146 : decode cX0_take 146 = .ok (.aload_n 0, 1) := dk_42 (dk_at dksX0_take_6 6 rfl rfl)
theorem dX0_take_147 : decode cX0_take 147 = .ok (.getfield 39, 3) := dk_180 0 39 (dk_at dksX0_take_6 7 rfl rfl)
theorem dX0_take_150 : decode cX0_take 150 = .ok (.iload 9, 2) := dk_21 9 (dk_at dksX0_take_6 10 rfl rfl)
theorem dX0_take_152 : decode cX0_take 152 = .ok (.aaload, 1) := dk_50 (dk_at dksX0_take_6 12 rfl rfl)
theorem dX0_take_153 : decode cX0_take 153 = .ok (.iload 6, 2) := dk_21 6 (dk_at dksX0_take_6 13 rfl rfl)
theorem dX0_take_155 : decode cX0_take 155 = .ok (.dup2, 1) := dk_92 (dk_at dksX0_take_6 15 rfl rfl)
theorem dX0_take_156 : decode cX0_take 156 = .ok (.laload, 1) := dk_47 (dk_at dksX0_take_6 16 rfl rfl)
theorem dX0_take_157 : decode cX0_take 157 = .ok (.lload 7, 2) := dk_22 7 (dk_at dksX0_take_6 17 rfl rfl)
theorem dX0_take_159 : decode cX0_take 159 = .ok (.aload_n 0, 1) := dk_42 (dk_at dksX0_take_6 19 rfl rfl)
theorem dX0_take_160 : decode cX0_take 160 = .ok (.getfield 39, 3) := dk_180 0 39 (dk_at dksX0_take_6 20 rfl rfl)
theorem dX0_take_163 : decode cX0_take 163 = .ok (.iload 9, 2) := dk_21 9 (dk_at dksX0_take_7 0 rfl rfl)
theorem dX0_take_165 : decode cX0_take 165 = .ok (.aaload, 1) := dk_50 (dk_at dksX0_take_7 2 rfl rfl)
theorem dX0_take_166 : decode cX0_take 166 = .ok (.iload_n 1, 1) := dk_27 (dk_at dksX0_take_7 3 rfl rfl)
theorem dX0_take_167 : decode cX0_take 167 = .ok (.laload, 1) := dk_47 (dk_at dksX0_take_7 4 rfl rfl)
theorem dX0_take_168 : decode cX0_take 168 = .ok (.lmul, 1) := dk_105 (dk_at dksX0_take_7 5 rfl rfl)
theorem dX0_take_169 : decode cX0_take 169 = .ok (.lsub, 1) := dk_101 (dk_at dksX0_take_7 6 rfl rfl)
theorem dX0_take_170 : decode cX0_take 170 = .ok (.lastore, 1) := dk_80 (dk_at dksX0_take_7 7 rfl rfl)
theorem dX0_take_171 : decode cX0_take 171 = .ok (.iinc 9 1, 3) := dk_132 9 1 (dk_at dksX0_take_7 8 rfl rfl)
theorem dX0_take_174 : decode cX0_take 174 = .ok (.goto (-34), 3) := dk_167 255 222 (dk_at dksX0_take_7 11 rfl rfl)
theorem dX0_take_177 : decode cX0_take 177 = .ok (.aload_n 0, 1) := dk_42 (dk_at dksX0_take_7 14 rfl rfl)
theorem dX0_take_178 : decode cX0_take 178 = .ok (.getfield 39, 3) := dk_180 0 39 (dk_at dksX0_take_7 15 rfl rfl)
theorem dX0_take_181 : decode cX0_take 181 = .ok (.iload_n 1, 1) := dk_27 (dk_at dksX0_take_7 18 rfl rfl)
theorem dX0_take_182 : decode cX0_take 182 = .ok (.aaload, 1) := dk_50 (dk_at dksX0_take_7 19 rfl rfl)
theorem dX0_take_183 : decode cX0_take 183 = .ok (.iload 6, 2) := dk_21 6 (dk_at dksX0_take_7 20 rfl rfl)
theorem dX0_take_185 : decode cX0_take 185 = .ok (.laload, 1) := dk_47 (dk_at dksX0_take_7 22 rfl rfl)
theorem dX0_take_186 : decode cX0_take 186 = .ok (.lconst 0, 1) := dk_9 (dk_at dksX0_take_7 23 rfl rfl)
theorem dX0_take_187 : decode cX0_take 187 = .ok (.lcmp, 1) := dk_148 (dk_at dksX0_take_8 0 rfl rfl)
theorem dX0_take_188 : decode cX0_take 188 = .ok (.ifCond .ne 7, 3) := dk_154 0 7 (dk_at dksX0_take_8 1 rfl rfl)
theorem dX0_take_191 : decode cX0_take 191 = .ok (.iconst 1, 1) := dk_4 (dk_at dksX0_take_8 4 rfl rfl)
theorem dX0_take_192 : decode cX0_take 192 = .ok (.goto 4, 3) := dk_167 0 4 (dk_at dksX0_take_8 5 rfl rfl)
theorem dX0_take_195 : decode cX0_take 195 = .ok (.iconst 0, 1) := dk_3 (dk_at dksX0_take_8 8 rfl rfl)
theorem dX0_take_196 : decode cX0_take 196 = .ok (.istore 5, 2) := dk_54 5 (dk_at dksX0_take_8 9 rfl rfl)
theorem dX0_take_198 : decode cX0_take 198 = .ok (.iinc 6 1, 3) := dk_132 6 1 (dk_at dksX0_take_8 11 rfl rfl)
theorem dX0_take_201 : decode cX0_take 201 = .ok (.goto (-89), 3) := dk_167 255 167 (dk_at dksX0_take_8 14 rfl rfl)
theorem dX0_take_204 : decode cX0_take 204 = .ok (.iload_n 1, 1) := dk_27 (dk_at dksX0_take_8 17 rfl rfl)
theorem dX0_take_205 : decode cX0_take 205 = .ok (.iconst 1, 1) := dk_4 (dk_at dksX0_take_8 18 rfl rfl)
theorem dX0_take_206 : decode cX0_take 206 = .ok (.iadd, 1) := dk_96 (dk_at dksX0_take_8 19 rfl rfl)
theorem dX0_take_207 : decode cX0_take 207 = .ok (.istore 6, 2) := dk_54 6 (dk_at dksX0_take_8 20 rfl rfl)
theorem dX0_take_209 : decode cX0_take 209 = .ok (.iload 6, 2) := dk_21 6 (dk_at dksX0_take_8 22 rfl rfl)
theorem dX0_take_211 : decode cX0_take 211 = .ok (.iload_n 2, 1) := dk_28 (dk_at dksX0_take_9 0 rfl rfl)
theorem dX0_take_212 : decode cX0_take 212 = .ok (.if_icmp .ge 95, 3) := dk_162 0 95 (dk_at dksX0_take_9 1 rfl rfl)
theorem dX0_take_215 : decode cX0_take 215 = .ok (.iload 5, 2) := dk_21 5 (dk_at dksX0_take_9 4 rfl rfl)
theorem dX0_take_217 : decode cX0_take 217 = .ok (.ifCond .eq 90, 3) := dk_153 0 90 (dk_at dksX0_take_9 6 rfl rfl)
theorem dX0_take_220 : decode cX0_take 220 = .ok (.iload_n 1, 1) := dk_27 (dk_at dksX0_take_9 9 rfl rfl)
theorem dX0_take_221 : decode cX0_take 221 = .ok (.iconst 1, 1) := dk_4 (dk_at dksX0_take_9 10 rfl rfl)
theorem dX0_take_222 : decode cX0_take 222 = .ok (.iadd, 1) := dk_96 (dk_at dksX0_take_9 11 rfl rfl)
theorem dX0_take_223 : decode cX0_take 223 = .ok (.istore 7, 2) := dk_54 7 (dk_at dksX0_take_9 12 rfl rfl)
theorem dX0_take_225 : decode cX0_take 225 = .ok (.iload 7, 2) := dk_21 7 (dk_at dksX0_take_9 14 rfl rfl)
theorem dX0_take_227 : decode cX0_take 227 = .ok (.bipush 6, 2) := dk_16 6 (dk_at dksX0_take_9 16 rfl rfl)
theorem dX0_take_229 : decode cX0_take 229 = .ok (.if_icmp .ge 72, 3) := dk_162 0 72 (dk_at dksX0_take_9 18 rfl rfl)
theorem dX0_take_232 : decode cX0_take 232 = .ok (.iload 5, 2) := dk_21 5 (dk_at dksX0_take_9 21 rfl rfl)
theorem dX0_take_234 : decode cX0_take 234 = .ok (.ifCond .eq 67, 3) := dk_153 0 67 (dk_at dksX0_take_10 0 rfl rfl)
theorem dX0_take_237 : decode cX0_take 237 = .ok (.aload_n 0, 1) := dk_42 (dk_at dksX0_take_10 3 rfl rfl)
theorem dX0_take_238 : decode cX0_take 238 = .ok (.getfield 39, 3) := dk_180 0 39 (dk_at dksX0_take_10 4 rfl rfl)
theorem dX0_take_241 : decode cX0_take 241 = .ok (.iload 6, 2) := dk_21 6 (dk_at dksX0_take_10 7 rfl rfl)
theorem dX0_take_243 : decode cX0_take 243 = .ok (.aaload, 1) := dk_50 (dk_at dksX0_take_10 9 rfl rfl)
theorem dX0_take_244 : decode cX0_take 244 = .ok (.iload 7, 2) := dk_21 7 (dk_at dksX0_take_10 10 rfl rfl)
theorem dX0_take_246 : decode cX0_take 246 = .ok (.laload, 1) := dk_47 (dk_at dksX0_take_10 12 rfl rfl)
theorem dX0_take_247 : decode cX0_take 247 = .ok (.lload_n 3, 1) := dk_33 (dk_at dksX0_take_10 13 rfl rfl)
theorem dX0_take_248 : decode cX0_take 248 = .ok (.lrem, 1) := dk_113 (dk_at dksX0_take_10 14 rfl rfl)
theorem dX0_take_249 : decode cX0_take 249 = .ok (.lconst 0, 1) := dk_9 (dk_at dksX0_take_10 15 rfl rfl)
theorem dX0_take_250 : decode cX0_take 250 = .ok (.lcmp, 1) := dk_148 (dk_at dksX0_take_10 16 rfl rfl)
theorem dX0_take_251 : decode cX0_take 251 = .ok (.ifCond .eq 44, 3) := dk_153 0 44 (dk_at dksX0_take_10 17 rfl rfl)
theorem dX0_take_254 : decode cX0_take 254 = .ok (.iload_n 1, 1) := dk_27 (dk_at dksX0_take_10 20 rfl rfl)
theorem dX0_take_255 : decode cX0_take 255 = .ok (.istore 8, 2) := dk_54 8 (dk_at dksX0_take_10 21 rfl rfl)
theorem dX0_take_257 : decode cX0_take 257 = .ok (.iload 8, 2) := dk_21 8 (dk_at dksX0_take_11 0 rfl rfl)
theorem dX0_take_259 : decode cX0_take 259 = .ok (.bipush 6, 2) := dk_16 6 (dk_at dksX0_take_11 2 rfl rfl)
theorem dX0_take_261 : decode cX0_take 261 = .ok (.if_icmp .ge 31, 3) := dk_162 0 31 (dk_at dksX0_take_11 4 rfl rfl)
theorem dX0_take_264 : decode cX0_take 264 = .ok (.aload_n 0, 1) := dk_42 (dk_at dksX0_take_11 7 rfl rfl)
theorem dX0_take_265 : decode cX0_take 265 = .ok (.getfield 39, 3) := dk_180 0 39 (dk_at dksX0_take_11 8 rfl rfl)
theorem dX0_take_268 : decode cX0_take 268 = .ok (.iload_n 1, 1) := dk_27 (dk_at dksX0_take_11 11 rfl rfl)
theorem dX0_take_269 : decode cX0_take 269 = .ok (.aaload, 1) := dk_50 (dk_at dksX0_take_11 12 rfl rfl)
theorem dX0_take_270 : decode cX0_take 270 = .ok (.iload 8, 2) := dk_21 8 (dk_at dksX0_take_11 13 rfl rfl)
theorem dX0_take_272 : decode cX0_take 272 = .ok (.dup2, 1) := dk_92 (dk_at dksX0_take_11 15 rfl rfl)
theorem dX0_take_273 : decode cX0_take 273 = .ok (.laload, 1) := dk_47 (dk_at dksX0_take_11 16 rfl rfl)
theorem dX0_take_274 : decode cX0_take 274 = .ok (.aload_n 0, 1) := dk_42 (dk_at dksX0_take_11 17 rfl rfl)
theorem dX0_take_275 : decode cX0_take 275 = .ok (.getfield 39, 3) := dk_180 0 39 (dk_at dksX0_take_11 18 rfl rfl)
theorem dX0_take_278 : decode cX0_take 278 = .ok (.iload 6, 2) := dk_21 6 (dk_at dksX0_take_11 21 rfl rfl)
theorem dX0_take_280 : decode cX0_take 280 = .ok (.aaload, 1) := dk_50 (dk_at dksX0_take_11 23 rfl rfl)
theorem dX0_take_281 : decode cX0_take 281 = .ok (.iload 8, 2) := dk_21 8 (dk_at dksX0_take_12 0 rfl rfl)
theorem dX0_take_283 : decode cX0_take 283 = .ok (.laload, 1) := dk_47 (dk_at dksX0_take_12 2 rfl rfl)
theorem dX0_take_284 : decode cX0_take 284 = .ok (.ladd, 1) := dk_97 (dk_at dksX0_take_12 3 rfl rfl)
theorem dX0_take_285 : decode cX0_take 285 = .ok (.lastore, 1) := dk_80 (dk_at dksX0_take_12 4 rfl rfl)
theorem dX0_take_286 : decode cX0_take 286 = .ok (.iinc 8 1, 3) := dk_132 8 1 (dk_at dksX0_take_12 5 rfl rfl)
theorem dX0_take_289 : decode cX0_take 289 = .ok (.goto (-32), 3) := dk_167 255 224 (dk_at dksX0_take_12 8 rfl rfl)
theorem dX0_take_292 : decode cX0_take 292 = .ok (.iconst 0, 1) := dk_3 (dk_at dksX0_take_12 11 rfl rfl)
theorem dX0_take_293 : decode cX0_take 293 = .ok (.istore 5, 2) := dk_54 5 (dk_at dksX0_take_12 12 rfl rfl)
theorem dX0_take_295 : decode cX0_take 295 = .ok (.iinc 7 1, 3) := dk_132 7 1 (dk_at dksX0_take_12 14 rfl rfl)
theorem dX0_take_298 : decode cX0_take 298 = .ok (.goto (-73), 3) := dk_167 255 183 (dk_at dksX0_take_12 17 rfl rfl)
theorem dX0_take_301 : decode cX0_take 301 = .ok (.iinc 6 1, 3) := dk_132 6 1 (dk_at dksX0_take_12 20 rfl rfl)
theorem dX0_take_304 : decode cX0_take 304 = .ok (.goto (-95), 3) := dk_167 255 161 (dk_at dksX0_take_13 0 rfl rfl)
theorem dX0_take_307 : decode cX0_take 307 = .ok (.iload 5, 2) := dk_21 5 (dk_at dksX0_take_13 3 rfl rfl)
theorem dX0_take_309 : decode cX0_take 309 = .ok (.ireturn, 1) := dk_172 (dk_at dksX0_take_13 5 rfl rfl)
abbrev cX0_least : ByteArray := prog_1_method_40_code
def yX0_least : MethodName := ⟨RX0, "least", "()I"⟩
def dkwX0_least_0 : List UInt8 := [42, 182, 0, 247, 42, 180, 0, 221, 172]
abbrev dktX0_least_0 : List UInt8 := dkwX0_least_0 ++ []
theorem dksX0_least_0 : cX0_least.data.toList.drop 0 = dktX0_least_0 := by decide +kernel
theorem dX0_least_0 : decode cX0_least 0 = .ok (.aload_n 0, 1) := dk_42 (dk_at dksX0_least_0 0 rfl rfl)
theorem dX0_least_1 : decode cX0_least 1 = .ok (.invokevirtual 247, 3) := dk_182 0 247 (dk_at dksX0_least_0 1 rfl rfl)
theorem dX0_least_4 : decode cX0_least 4 = .ok (.aload_n 0, 1) := dk_42 (dk_at dksX0_least_0 4 rfl rfl)
theorem dX0_least_5 : decode cX0_least 5 = .ok (.getfield 221, 3) := dk_180 0 221 (dk_at dksX0_least_0 5 rfl rfl)
theorem dX0_least_8 : decode cX0_least 8 = .ok (.ireturn, 1) := dk_172 (dk_at dksX0_least_0 8 rfl rfl)
abbrev cX0_findSheets : ByteArray := prog_1_method_39_code
def yX0_findSheets : MethodName := ⟨RX0, "findSheets", "()V"⟩
def dkwX0_findSheets_11 : List UInt8 := [167, 255, 184, 42, 4, 181, 0, 100, 177]
abbrev dktX0_findSheets_11 : List UInt8 := dkwX0_findSheets_11 ++ []
def dkwX0_findSheets_10 : List UInt8 := [21, 4, 4, 100, 50, 83, 132, 4, 255, 167, 255, 216, 42, 180, 0, 47, 21, 4, 45, 83, 132, 2, 1]
abbrev dktX0_findSheets_10 : List UInt8 := dkwX0_findSheets_10 ++ dktX0_findSheets_11
def dkwX0_findSheets_9 : List UInt8 := [180, 0, 47, 21, 4, 4, 100, 50, 184, 0, 243, 153, 0, 25, 42, 180, 0, 47, 21, 4, 42, 180, 0, 47]
abbrev dktX0_findSheets_9 : List UInt8 := dkwX0_findSheets_9 ++ dktX0_findSheets_10
def dkwX0_findSheets_8 : List UInt8 := [42, 180, 0, 221, 162, 0, 70, 42, 180, 0, 47, 28, 50, 78, 28, 54, 4, 21, 4, 158, 0, 41, 45, 42]
abbrev dktX0_findSheets_8 : List UInt8 := dkwX0_findSheets_8 ++ dktX0_findSheets_9
def dkwX0_findSheets_7 : List UInt8 := [182, 0, 239, 132, 6, 1, 167, 255, 228, 132, 3, 1, 167, 255, 171, 132, 2, 1, 167, 255, 155, 4, 61, 28]
abbrev dktX0_findSheets_7 : List UInt8 := dkwX0_findSheets_7 ++ dktX0_findSheets_8
def dkwX0_findSheets_6 : List UInt8 := [54, 6, 21, 6, 7, 162, 0, 28, 21, 5, 153, 0, 23, 21, 6, 29, 159, 0, 11, 42, 28, 29, 21, 6]
abbrev dktX0_findSheets_6 : List UInt8 := dkwX0_findSheets_6 ++ dktX0_findSheets_7
def dkwX0_findSheets_5 : List UInt8 := [25, 4, 180, 0, 116, 7, 104, 25, 4, 180, 0, 119, 96, 162, 0, 7, 4, 167, 0, 4, 3, 54, 5, 3]
abbrev dktX0_findSheets_5 : List UInt8 := dkwX0_findSheets_5 ++ dktX0_findSheets_6
def dkwX0_findSheets_4 : List UInt8 := [162, 0, 86, 42, 180, 0, 11, 28, 50, 29, 50, 58, 4, 25, 4, 198, 0, 28, 28, 7, 104, 29, 96]
abbrev dktX0_findSheets_4 : List UInt8 := dkwX0_findSheets_4 ++ dktX0_findSheets_5
def dkwX0_findSheets_3 : List UInt8 := [42, 42, 180, 0, 205, 181, 0, 221, 3, 61, 28, 42, 180, 0, 73, 162, 0, 99, 3, 62, 29, 7]
abbrev dktX0_findSheets_3 : List UInt8 := dkwX0_findSheets_3 ++ dktX0_findSheets_4
def dkwX0_findSheets_2 : List UInt8 := [132, 1, 1, 167, 255, 223, 42, 180, 0, 47, 76, 42, 42, 180, 0, 50, 181, 0, 47, 42, 43, 181, 0, 50]
abbrev dktX0_findSheets_2 : List UInt8 := dkwX0_findSheets_2 ++ dktX0_findSheets_3
def dkwX0_findSheets_1 : List UInt8 := [162, 0, 28, 16, 7, 42, 180, 0, 73, 104, 188, 11, 77, 44, 27, 10, 80, 42, 44, 182, 0, 228]
abbrev dktX0_findSheets_1 : List UInt8 := dkwX0_findSheets_1 ++ dktX0_findSheets_2
def dkwX0_findSheets_0 : List UInt8 := [42, 180, 0, 100, 153, 0, 4, 177, 42, 3, 181, 0, 205, 3, 60, 27, 16, 7, 42, 180, 0, 73, 104]
abbrev dktX0_findSheets_0 : List UInt8 := dkwX0_findSheets_0 ++ dktX0_findSheets_1
theorem dksX0_findSheets_0 : cX0_findSheets.data.toList.drop 0 = dktX0_findSheets_0 := by decide +kernel
theorem dksX0_findSheets_1 : cX0_findSheets.data.toList.drop 23 = dktX0_findSheets_1 := dk_seg dksX0_findSheets_0 23 rfl rfl
theorem dksX0_findSheets_2 : cX0_findSheets.data.toList.drop 45 = dktX0_findSheets_2 := dk_seg dksX0_findSheets_1 22 rfl rfl
theorem dksX0_findSheets_3 : cX0_findSheets.data.toList.drop 69 = dktX0_findSheets_3 := dk_seg dksX0_findSheets_2 24 rfl rfl
theorem dksX0_findSheets_4 : cX0_findSheets.data.toList.drop 91 = dktX0_findSheets_4 := dk_seg dksX0_findSheets_3 22 rfl rfl
theorem dksX0_findSheets_5 : cX0_findSheets.data.toList.drop 114 = dktX0_findSheets_5 := dk_seg dksX0_findSheets_4 23 rfl rfl
theorem dksX0_findSheets_6 : cX0_findSheets.data.toList.drop 138 = dktX0_findSheets_6 := dk_seg dksX0_findSheets_5 24 rfl rfl
theorem dksX0_findSheets_7 : cX0_findSheets.data.toList.drop 162 = dktX0_findSheets_7 := dk_seg dksX0_findSheets_6 24 rfl rfl
theorem dksX0_findSheets_8 : cX0_findSheets.data.toList.drop 186 = dktX0_findSheets_8 := dk_seg dksX0_findSheets_7 24 rfl rfl
theorem dksX0_findSheets_9 : cX0_findSheets.data.toList.drop 210 = dktX0_findSheets_9 := dk_seg dksX0_findSheets_8 24 rfl rfl
theorem dksX0_findSheets_10 : cX0_findSheets.data.toList.drop 234 = dktX0_findSheets_10 := dk_seg dksX0_findSheets_9 24 rfl rfl
theorem dksX0_findSheets_11 : cX0_findSheets.data.toList.drop 257 = dktX0_findSheets_11 := dk_seg dksX0_findSheets_10 23 rfl rfl
theorem dX0_findSheets_0 : decode cX0_findSheets 0 = .ok (.aload_n 0, 1) := dk_42 (dk_at dksX0_findSheets_0 0 rfl rfl)
theorem dX0_findSheets_1 : decode cX0_findSheets 1 = .ok (.getfield 100, 3) := dk_180 0 100 (dk_at dksX0_findSheets_0 1 rfl rfl)
theorem dX0_findSheets_4 : decode cX0_findSheets 4 = .ok (.ifCond .eq 4, 3) := dk_153 0 4 (dk_at dksX0_findSheets_0 4 rfl rfl)
theorem dX0_findSheets_7 : decode cX0_findSheets 7 = .ok (.return_, 1) := dk_177 (dk_at dksX0_findSheets_0 7 rfl rfl)
theorem dX0_findSheets_8 : decode cX0_findSheets 8 = .ok (.aload_n 0, 1) := dk_42 (dk_at dksX0_findSheets_0 8 rfl rfl)
theorem dX0_findSheets_9 : decode cX0_findSheets 9 = .ok (.iconst 0, 1) := dk_3 (dk_at dksX0_findSheets_0 9 rfl rfl)
theorem dX0_findSheets_10 : decode cX0_findSheets 10 = .ok (.putfield 205, 3) := dk_181 0 205 (dk_at dksX0_findSheets_0 10 rfl rfl)
theorem dX0_findSheets_13 : decode cX0_findSheets 13 = .ok (.iconst 0, 1) := dk_3 (dk_at dksX0_findSheets_0 13 rfl rfl)
theorem dX0_findSheets_14 : decode cX0_findSheets 14 = .ok (.istore_n 1, 1) := dk_60 (dk_at dksX0_findSheets_0 14 rfl rfl)
theorem dX0_findSheets_15 : decode cX0_findSheets 15 = .ok (.iload_n 1, 1) := dk_27 (dk_at dksX0_findSheets_0 15 rfl rfl)
theorem dX0_findSheets_16 : decode cX0_findSheets 16 = .ok (.bipush 7, 2) := dk_16 7 (dk_at dksX0_findSheets_0 16 rfl rfl)
theorem dX0_findSheets_18 : decode cX0_findSheets 18 = .ok (.aload_n 0, 1) := dk_42 (dk_at dksX0_findSheets_0 18 rfl rfl)
theorem dX0_findSheets_19 : decode cX0_findSheets 19 = .ok (.getfield 73, 3) := dk_180 0 73 (dk_at dksX0_findSheets_0 19 rfl rfl)
theorem dX0_findSheets_22 : decode cX0_findSheets 22 = .ok (.imul, 1) := dk_104 (dk_at dksX0_findSheets_0 22 rfl rfl)
theorem dX0_findSheets_23 : decode cX0_findSheets 23 = .ok (.if_icmp .ge 28, 3) := dk_162 0 28 (dk_at dksX0_findSheets_1 0 rfl rfl)
theorem dX0_findSheets_26 : decode cX0_findSheets 26 = .ok (.bipush 7, 2) := dk_16 7 (dk_at dksX0_findSheets_1 3 rfl rfl)
theorem dX0_findSheets_28 : decode cX0_findSheets 28 = .ok (.aload_n 0, 1) := dk_42 (dk_at dksX0_findSheets_1 5 rfl rfl)
theorem dX0_findSheets_29 : decode cX0_findSheets 29 = .ok (.getfield 73, 3) := dk_180 0 73 (dk_at dksX0_findSheets_1 6 rfl rfl)
theorem dX0_findSheets_32 : decode cX0_findSheets 32 = .ok (.imul, 1) := dk_104 (dk_at dksX0_findSheets_1 9 rfl rfl)
theorem dX0_findSheets_33 : decode cX0_findSheets 33 = .ok (.newarray .long, 2) := dk_188_11 (dk_at dksX0_findSheets_1 10 rfl rfl)
theorem dX0_findSheets_35 : decode cX0_findSheets 35 = .ok (.astore_n 2, 1) := dk_77 (dk_at dksX0_findSheets_1 12 rfl rfl)
theorem dX0_findSheets_36 : decode cX0_findSheets 36 = .ok (.aload_n 2, 1) := dk_44 (dk_at dksX0_findSheets_1 13 rfl rfl)
theorem dX0_findSheets_37 : decode cX0_findSheets 37 = .ok (.iload_n 1, 1) := dk_27 (dk_at dksX0_findSheets_1 14 rfl rfl)
theorem dX0_findSheets_38 : decode cX0_findSheets 38 = .ok (.lconst 1, 1) := dk_10 (dk_at dksX0_findSheets_1 15 rfl rfl)
theorem dX0_findSheets_39 : decode cX0_findSheets 39 = .ok (.lastore, 1) := dk_80 (dk_at dksX0_findSheets_1 16 rfl rfl)
theorem dX0_findSheets_40 : decode cX0_findSheets 40 = .ok (.aload_n 0, 1) := dk_42 (dk_at dksX0_findSheets_1 17 rfl rfl)
theorem dX0_findSheets_41 : decode cX0_findSheets 41 = .ok (.aload_n 2, 1) := dk_44 (dk_at dksX0_findSheets_1 18 rfl rfl)
theorem dX0_findSheets_42 : decode cX0_findSheets 42 = .ok (.invokevirtual 228, 3) := dk_182 0 228 (dk_at dksX0_findSheets_1 19 rfl rfl)
theorem dX0_findSheets_45 : decode cX0_findSheets 45 = .ok (.iinc 1 1, 3) := dk_132 1 1 (dk_at dksX0_findSheets_2 0 rfl rfl)
theorem dX0_findSheets_48 : decode cX0_findSheets 48 = .ok (.goto (-33), 3) := dk_167 255 223 (dk_at dksX0_findSheets_2 3 rfl rfl)
theorem dX0_findSheets_51 : decode cX0_findSheets 51 = .ok (.aload_n 0, 1) := dk_42 (dk_at dksX0_findSheets_2 6 rfl rfl)
theorem dX0_findSheets_52 : decode cX0_findSheets 52 = .ok (.getfield 47, 3) := dk_180 0 47 (dk_at dksX0_findSheets_2 7 rfl rfl)
theorem dX0_findSheets_55 : decode cX0_findSheets 55 = .ok (.astore_n 1, 1) := dk_76 (dk_at dksX0_findSheets_2 10 rfl rfl)
theorem dX0_findSheets_56 : decode cX0_findSheets 56 = .ok (.aload_n 0, 1) := dk_42 (dk_at dksX0_findSheets_2 11 rfl rfl)
theorem dX0_findSheets_57 : decode cX0_findSheets 57 = .ok (.aload_n 0, 1) := dk_42 (dk_at dksX0_findSheets_2 12 rfl rfl)
theorem dX0_findSheets_58 : decode cX0_findSheets 58 = .ok (.getfield 50, 3) := dk_180 0 50 (dk_at dksX0_findSheets_2 13 rfl rfl)
theorem dX0_findSheets_61 : decode cX0_findSheets 61 = .ok (.putfield 47, 3) := dk_181 0 47 (dk_at dksX0_findSheets_2 16 rfl rfl)
theorem dX0_findSheets_64 : decode cX0_findSheets 64 = .ok (.aload_n 0, 1) := dk_42 (dk_at dksX0_findSheets_2 19 rfl rfl)
theorem dX0_findSheets_65 : decode cX0_findSheets 65 = .ok (.aload_n 1, 1) := dk_43 (dk_at dksX0_findSheets_2 20 rfl rfl)
theorem dX0_findSheets_66 : decode cX0_findSheets 66 = .ok (.putfield 50, 3) := dk_181 0 50 (dk_at dksX0_findSheets_2 21 rfl rfl)
theorem dX0_findSheets_69 : decode cX0_findSheets 69 = .ok (.aload_n 0, 1) := dk_42 (dk_at dksX0_findSheets_3 0 rfl rfl)
theorem dX0_findSheets_70 : decode cX0_findSheets 70 = .ok (.aload_n 0, 1) := dk_42 (dk_at dksX0_findSheets_3 1 rfl rfl)
theorem dX0_findSheets_71 : decode cX0_findSheets 71 = .ok (.getfield 205, 3) := dk_180 0 205 (dk_at dksX0_findSheets_3 2 rfl rfl)
theorem dX0_findSheets_74 : decode cX0_findSheets 74 = .ok (.putfield 221, 3) := dk_181 0 221 (dk_at dksX0_findSheets_3 5 rfl rfl)
theorem dX0_findSheets_77 : decode cX0_findSheets 77 = .ok (.iconst 0, 1) := dk_3 (dk_at dksX0_findSheets_3 8 rfl rfl)
theorem dX0_findSheets_78 : decode cX0_findSheets 78 = .ok (.istore_n 2, 1) := dk_61 (dk_at dksX0_findSheets_3 9 rfl rfl)
theorem dX0_findSheets_79 : decode cX0_findSheets 79 = .ok (.iload_n 2, 1) := dk_28 (dk_at dksX0_findSheets_3 10 rfl rfl)
theorem dX0_findSheets_80 : decode cX0_findSheets 80 = .ok (.aload_n 0, 1) := dk_42 (dk_at dksX0_findSheets_3 11 rfl rfl)
theorem dX0_findSheets_81 : decode cX0_findSheets 81 = .ok (.getfield 73, 3) := dk_180 0 73 (dk_at dksX0_findSheets_3 12 rfl rfl)
theorem dX0_findSheets_84 : decode cX0_findSheets 84 = .ok (.if_icmp .ge 99, 3) := dk_162 0 99 (dk_at dksX0_findSheets_3 15 rfl rfl)
theorem dX0_findSheets_87 : decode cX0_findSheets 87 = .ok (.iconst 0, 1) := dk_3 (dk_at dksX0_findSheets_3 18 rfl rfl)
theorem dX0_findSheets_88 : decode cX0_findSheets 88 = .ok (.istore_n 3, 1) := dk_62 (dk_at dksX0_findSheets_3 19 rfl rfl)
theorem dX0_findSheets_89 : decode cX0_findSheets 89 = .ok (.iload_n 3, 1) := dk_29 (dk_at dksX0_findSheets_3 20 rfl rfl)
theorem dX0_findSheets_90 : decode cX0_findSheets 90 = .ok (.iconst 4, 1) := dk_7 (dk_at dksX0_findSheets_3 21 rfl rfl)
theorem dX0_findSheets_91 : decode cX0_findSheets 91 = .ok (.if_icmp .ge 86, 3) := dk_162 0 86 (dk_at dksX0_findSheets_4 0 rfl rfl)
theorem dX0_findSheets_94 : decode cX0_findSheets 94 = .ok (.aload_n 0, 1) := dk_42 (dk_at dksX0_findSheets_4 3 rfl rfl)
theorem dX0_findSheets_95 : decode cX0_findSheets 95 = .ok (.getfield 11, 3) := dk_180 0 11 (dk_at dksX0_findSheets_4 4 rfl rfl)
theorem dX0_findSheets_98 : decode cX0_findSheets 98 = .ok (.iload_n 2, 1) := dk_28 (dk_at dksX0_findSheets_4 7 rfl rfl)
theorem dX0_findSheets_99 : decode cX0_findSheets 99 = .ok (.aaload, 1) := dk_50 (dk_at dksX0_findSheets_4 8 rfl rfl)
theorem dX0_findSheets_100 : decode cX0_findSheets 100 = .ok (.iload_n 3, 1) := dk_29 (dk_at dksX0_findSheets_4 9 rfl rfl)
theorem dX0_findSheets_101 : decode cX0_findSheets 101 = .ok (.aaload, 1) := dk_50 (dk_at dksX0_findSheets_4 10 rfl rfl)
theorem dX0_findSheets_102 : decode cX0_findSheets 102 = .ok (.astore 4, 2) := dk_58 4 (dk_at dksX0_findSheets_4 11 rfl rfl)
theorem dX0_findSheets_104 : decode cX0_findSheets 104 = .ok (.aload 4, 2) := dk_25 4 (dk_at dksX0_findSheets_4 13 rfl rfl)
theorem dX0_findSheets_106 : decode cX0_findSheets 106 = .ok (.ifnull 28, 3) := dk_198 0 28 (dk_at dksX0_findSheets_4 15 rfl rfl)
theorem dX0_findSheets_109 : decode cX0_findSheets 109 = .ok (.iload_n 2, 1) := dk_28 (dk_at dksX0_findSheets_4 18 rfl rfl)
theorem dX0_findSheets_110 : decode cX0_findSheets 110 = .ok (.iconst 4, 1) := dk_7 (dk_at dksX0_findSheets_4 19 rfl rfl)
theorem dX0_findSheets_111 : decode cX0_findSheets 111 = .ok (.imul, 1) := dk_104 (dk_at dksX0_findSheets_4 20 rfl rfl)
theorem dX0_findSheets_112 : decode cX0_findSheets 112 = .ok (.iload_n 3, 1) := dk_29 (dk_at dksX0_findSheets_4 21 rfl rfl)
theorem dX0_findSheets_113 : decode cX0_findSheets 113 = .ok (.iadd, 1) := dk_96 (dk_at dksX0_findSheets_4 22 rfl rfl)
theorem dX0_findSheets_114 : decode cX0_findSheets 114 = .ok (.aload 4, 2) := dk_25 4 (dk_at dksX0_findSheets_5 0 rfl rfl)
theorem dX0_findSheets_116 : decode cX0_findSheets 116 = .ok (.getfield 116, 3) := dk_180 0 116 (dk_at dksX0_findSheets_5 2 rfl rfl)
theorem dX0_findSheets_119 : decode cX0_findSheets 119 = .ok (.iconst 4, 1) := dk_7 (dk_at dksX0_findSheets_5 5 rfl rfl)
theorem dX0_findSheets_120 : decode cX0_findSheets 120 = .ok (.imul, 1) := dk_104 (dk_at dksX0_findSheets_5 6 rfl rfl)
theorem dX0_findSheets_121 : decode cX0_findSheets 121 = .ok (.aload 4, 2) := dk_25 4 (dk_at dksX0_findSheets_5 7 rfl rfl)
theorem dX0_findSheets_123 : decode cX0_findSheets 123 = .ok (.getfield 119, 3) := dk_180 0 119 (dk_at dksX0_findSheets_5 9 rfl rfl)
theorem dX0_findSheets_126 : decode cX0_findSheets 126 = .ok (.iadd, 1) := dk_96 (dk_at dksX0_findSheets_5 12 rfl rfl)
theorem dX0_findSheets_127 : decode cX0_findSheets 127 = .ok (.if_icmp .ge 7, 3) := dk_162 0 7 (dk_at dksX0_findSheets_5 13 rfl rfl)
theorem dX0_findSheets_130 : decode cX0_findSheets 130 = .ok (.iconst 1, 1) := dk_4 (dk_at dksX0_findSheets_5 16 rfl rfl)
theorem dX0_findSheets_131 : decode cX0_findSheets 131 = .ok (.goto 4, 3) := dk_167 0 4 (dk_at dksX0_findSheets_5 17 rfl rfl)
theorem dX0_findSheets_134 : decode cX0_findSheets 134 = .ok (.iconst 0, 1) := dk_3 (dk_at dksX0_findSheets_5 20 rfl rfl)
theorem dX0_findSheets_135 : decode cX0_findSheets 135 = .ok (.istore 5, 2) := dk_54 5 (dk_at dksX0_findSheets_5 21 rfl rfl)
theorem dX0_findSheets_137 : decode cX0_findSheets 137 = .ok (.iconst 0, 1) := dk_3 (dk_at dksX0_findSheets_5 23 rfl rfl)
theorem dX0_findSheets_138 : decode cX0_findSheets 138 = .ok (.istore 6, 2) := dk_54 6 (dk_at dksX0_findSheets_6 0 rfl rfl)
theorem dX0_findSheets_140 : decode cX0_findSheets 140 = .ok (.iload 6, 2) := dk_21 6 (dk_at dksX0_findSheets_6 2 rfl rfl)
theorem dX0_findSheets_142 : decode cX0_findSheets 142 = .ok (.iconst 4, 1) := dk_7 (dk_at dksX0_findSheets_6 4 rfl rfl)
theorem dX0_findSheets_143 : decode cX0_findSheets 143 = .ok (.if_icmp .ge 28, 3) := dk_162 0 28 (dk_at dksX0_findSheets_6 5 rfl rfl)
theorem dX0_findSheets_146 : decode cX0_findSheets 146 = .ok (.iload 5, 2) := dk_21 5 (dk_at dksX0_findSheets_6 8 rfl rfl)
theorem dX0_findSheets_148 : decode cX0_findSheets 148 = .ok (.ifCond .eq 23, 3) := dk_153 0 23 (dk_at dksX0_findSheets_6 10 rfl rfl)
theorem dX0_findSheets_151 : decode cX0_findSheets 151 = .ok (.iload 6, 2) := dk_21 6 (dk_at dksX0_findSheets_6 13 rfl rfl)
theorem dX0_findSheets_153 : decode cX0_findSheets 153 = .ok (.iload_n 3, 1) := dk_29 (dk_at dksX0_findSheets_6 15 rfl rfl)
theorem dX0_findSheets_154 : decode cX0_findSheets 154 = .ok (.if_icmp .eq 11, 3) := dk_159 0 11 (dk_at dksX0_findSheets_6 16 rfl rfl)
theorem dX0_findSheets_157 : decode cX0_findSheets 157 = .ok (.aload_n 0, 1) := dk_42 (dk_at dksX0_findSheets_6 19 rfl rfl)
theorem dX0_findSheets_158 : decode cX0_findSheets 158 = .ok (.iload_n 2, 1) := dk_28 (dk_at dksX0_findSheets_6 20 rfl rfl)
theorem dX0_findSheets_159 : decode cX0_findSheets 159 = .ok (.iload_n 3, 1) := dk_29 (dk_at dksX0_findSheets_6 21 rfl rfl)
theorem dX0_findSheets_160 : decode cX0_findSheets 160 = .ok (.iload 6, 2) := dk_21 6 (dk_at dksX0_findSheets_6 22 rfl rfl)
theorem dX0_findSheets_162 : decode cX0_findSheets 162 = .ok (.invokevirtual 239, 3) := dk_182 0 239 (dk_at dksX0_findSheets_7 0 rfl rfl)
theorem dX0_findSheets_165 : decode cX0_findSheets 165 = .ok (.iinc 6 1, 3) := dk_132 6 1 (dk_at dksX0_findSheets_7 3 rfl rfl)
theorem dX0_findSheets_168 : decode cX0_findSheets 168 = .ok (.goto (-28), 3) := dk_167 255 228 (dk_at dksX0_findSheets_7 6 rfl rfl)
theorem dX0_findSheets_171 : decode cX0_findSheets 171 = .ok (.iinc 3 1, 3) := dk_132 3 1 (dk_at dksX0_findSheets_7 9 rfl rfl)
theorem dX0_findSheets_174 : decode cX0_findSheets 174 = .ok (.goto (-85), 3) := dk_167 255 171 (dk_at dksX0_findSheets_7 12 rfl rfl)
theorem dX0_findSheets_177 : decode cX0_findSheets 177 = .ok (.iinc 2 1, 3) := dk_132 2 1 (dk_at dksX0_findSheets_7 15 rfl rfl)
theorem dX0_findSheets_180 : decode cX0_findSheets 180 = .ok (.goto (-101), 3) := dk_167 255 155 (dk_at dksX0_findSheets_7 18 rfl rfl)
theorem dX0_findSheets_183 : decode cX0_findSheets 183 = .ok (.iconst 1, 1) := dk_4 (dk_at dksX0_findSheets_7 21 rfl rfl)
theorem dX0_findSheets_184 : decode cX0_findSheets 184 = .ok (.istore_n 2, 1) := dk_61 (dk_at dksX0_findSheets_7 22 rfl rfl)
theorem dX0_findSheets_185 : decode cX0_findSheets 185 = .ok (.iload_n 2, 1) := dk_28 (dk_at dksX0_findSheets_7 23 rfl rfl)
theorem dX0_findSheets_186 : decode cX0_findSheets 186 = .ok (.aload_n 0, 1) := dk_42 (dk_at dksX0_findSheets_8 0 rfl rfl)
theorem dX0_findSheets_187 : decode cX0_findSheets 187 = .ok (.getfield 221, 3) := dk_180 0 221 (dk_at dksX0_findSheets_8 1 rfl rfl)
theorem dX0_findSheets_190 : decode cX0_findSheets 190 = .ok (.if_icmp .ge 70, 3) := dk_162 0 70 (dk_at dksX0_findSheets_8 4 rfl rfl)
theorem dX0_findSheets_193 : decode cX0_findSheets 193 = .ok (.aload_n 0, 1) := dk_42 (dk_at dksX0_findSheets_8 7 rfl rfl)
theorem dX0_findSheets_194 : decode cX0_findSheets 194 = .ok (.getfield 47, 3) := dk_180 0 47 (dk_at dksX0_findSheets_8 8 rfl rfl)
theorem dX0_findSheets_197 : decode cX0_findSheets 197 = .ok (.iload_n 2, 1) := dk_28 (dk_at dksX0_findSheets_8 11 rfl rfl)
theorem dX0_findSheets_198 : decode cX0_findSheets 198 = .ok (.aaload, 1) := dk_50 (dk_at dksX0_findSheets_8 12 rfl rfl)
theorem dX0_findSheets_199 : decode cX0_findSheets 199 = .ok (.astore_n 3, 1) := dk_78 (dk_at dksX0_findSheets_8 13 rfl rfl)
theorem dX0_findSheets_200 : decode cX0_findSheets 200 = .ok (.iload_n 2, 1) := dk_28 (dk_at dksX0_findSheets_8 14 rfl rfl)
theorem dX0_findSheets_201 : decode cX0_findSheets 201 = .ok (.istore 4, 2) := dk_54 4 (dk_at dksX0_findSheets_8 15 rfl rfl)
theorem dX0_findSheets_203 : decode cX0_findSheets 203 = .ok (.iload 4, 2) := dk_21 4 (dk_at dksX0_findSheets_8 17 rfl rfl)
theorem dX0_findSheets_205 : decode cX0_findSheets 205 = .ok (.ifCond .le 41, 3) := dk_158 0 41 (dk_at dksX0_findSheets_8 19 rfl rfl)
theorem dX0_findSheets_208 : decode cX0_findSheets 208 = .ok (.aload_n 3, 1) := dk_45 (dk_at dksX0_findSheets_8 22 rfl rfl)
theorem dX0_findSheets_209 : decode cX0_findSheets 209 = .ok (.aload_n 0, 1) := dk_42 (dk_at dksX0_findSheets_8 23 rfl rfl)
theorem dX0_findSheets_210 : decode cX0_findSheets 210 = .ok (.getfield 47, 3) := dk_180 0 47 (dk_at dksX0_findSheets_9 0 rfl rfl)
theorem dX0_findSheets_213 : decode cX0_findSheets 213 = .ok (.iload 4, 2) := dk_21 4 (dk_at dksX0_findSheets_9 3 rfl rfl)
theorem dX0_findSheets_215 : decode cX0_findSheets 215 = .ok (.iconst 1, 1) := dk_4 (dk_at dksX0_findSheets_9 5 rfl rfl)
theorem dX0_findSheets_216 : decode cX0_findSheets 216 = .ok (.isub, 1) := dk_100 (dk_at dksX0_findSheets_9 6 rfl rfl)
theorem dX0_findSheets_217 : decode cX0_findSheets 217 = .ok (.aaload, 1) := dk_50 (dk_at dksX0_findSheets_9 7 rfl rfl)
theorem dX0_findSheets_218 : decode cX0_findSheets 218 = .ok (.invokestatic 243, 3) := dk_184 0 243 (dk_at dksX0_findSheets_9 8 rfl rfl)
theorem dX0_findSheets_221 : decode cX0_findSheets 221 = .ok (.ifCond .eq 25, 3) := dk_153 0 25 (dk_at dksX0_findSheets_9 11 rfl rfl)
theorem dX0_findSheets_224 : decode cX0_findSheets 224 = .ok (.aload_n 0, 1) := dk_42 (dk_at dksX0_findSheets_9 14 rfl rfl)
theorem dX0_findSheets_225 : decode cX0_findSheets 225 = .ok (.getfield 47, 3) := dk_180 0 47 (dk_at dksX0_findSheets_9 15 rfl rfl)
theorem dX0_findSheets_228 : decode cX0_findSheets 228 = .ok (.iload 4, 2) := dk_21 4 (dk_at dksX0_findSheets_9 18 rfl rfl)
theorem dX0_findSheets_230 : decode cX0_findSheets 230 = .ok (.aload_n 0, 1) := dk_42 (dk_at dksX0_findSheets_9 20 rfl rfl)
theorem dX0_findSheets_231 : decode cX0_findSheets 231 = .ok (.getfield 47, 3) := dk_180 0 47 (dk_at dksX0_findSheets_9 21 rfl rfl)
theorem dX0_findSheets_234 : decode cX0_findSheets 234 = .ok (.iload 4, 2) := dk_21 4 (dk_at dksX0_findSheets_10 0 rfl rfl)
theorem dX0_findSheets_236 : decode cX0_findSheets 236 = .ok (.iconst 1, 1) := dk_4 (dk_at dksX0_findSheets_10 2 rfl rfl)
theorem dX0_findSheets_237 : decode cX0_findSheets 237 = .ok (.isub, 1) := dk_100 (dk_at dksX0_findSheets_10 3 rfl rfl)
theorem dX0_findSheets_238 : decode cX0_findSheets 238 = .ok (.aaload, 1) := dk_50 (dk_at dksX0_findSheets_10 4 rfl rfl)
theorem dX0_findSheets_239 : decode cX0_findSheets 239 = .ok (.aastore, 1) := dk_83 (dk_at dksX0_findSheets_10 5 rfl rfl)
theorem dX0_findSheets_240 : decode cX0_findSheets 240 = .ok (.iinc 4 (-1), 3) := dk_132 4 255 (dk_at dksX0_findSheets_10 6 rfl rfl)
theorem dX0_findSheets_243 : decode cX0_findSheets 243 = .ok (.goto (-40), 3) := dk_167 255 216 (dk_at dksX0_findSheets_10 9 rfl rfl)
theorem dX0_findSheets_246 : decode cX0_findSheets 246 = .ok (.aload_n 0, 1) := dk_42 (dk_at dksX0_findSheets_10 12 rfl rfl)
theorem dX0_findSheets_247 : decode cX0_findSheets 247 = .ok (.getfield 47, 3) := dk_180 0 47 (dk_at dksX0_findSheets_10 13 rfl rfl)
theorem dX0_findSheets_250 : decode cX0_findSheets 250 = .ok (.iload 4, 2) := dk_21 4 (dk_at dksX0_findSheets_10 16 rfl rfl)
theorem dX0_findSheets_252 : decode cX0_findSheets 252 = .ok (.aload_n 3, 1) := dk_45 (dk_at dksX0_findSheets_10 18 rfl rfl)
theorem dX0_findSheets_253 : decode cX0_findSheets 253 = .ok (.aastore, 1) := dk_83 (dk_at dksX0_findSheets_10 19 rfl rfl)
theorem dX0_findSheets_254 : decode cX0_findSheets 254 = .ok (.iinc 2 1, 3) := dk_132 2 1 (dk_at dksX0_findSheets_10 20 rfl rfl)
theorem dX0_findSheets_257 : decode cX0_findSheets 257 = .ok (.goto (-72), 3) := dk_167 255 184 (dk_at dksX0_findSheets_11 0 rfl rfl)
theorem dX0_findSheets_260 : decode cX0_findSheets 260 = .ok (.aload_n 0, 1) := dk_42 (dk_at dksX0_findSheets_11 3 rfl rfl)
theorem dX0_findSheets_261 : decode cX0_findSheets 261 = .ok (.iconst 1, 1) := dk_4 (dk_at dksX0_findSheets_11 4 rfl rfl)
theorem dX0_findSheets_262 : decode cX0_findSheets 262 = .ok (.putfield 100, 3) := dk_181 0 100 (dk_at dksX0_findSheets_11 5 rfl rfl)
theorem dX0_findSheets_265 : decode cX0_findSheets 265 = .ok (.return_, 1) := dk_177 (dk_at dksX0_findSheets_11 8 rfl rfl)
abbrev cX0_keep : ByteArray := prog_1_method_35_code
def yX0_keep : MethodName := ⟨RX0, "keep", "([J)V"⟩
def dkwX0_keep_2 : List UInt8 := [180, 0, 205, 43, 83, 42, 89, 180, 0, 205, 4, 96, 181, 0, 205, 177]
abbrev dktX0_keep_2 : List UInt8 := dkwX0_keep_2 ++ []
def dkwX0_keep_1 : List UInt8 := [180, 0, 50, 3, 44, 3, 42, 180, 0, 205, 184, 0, 208, 42, 44, 181, 0, 50, 42, 180, 0, 50, 42]
abbrev dktX0_keep_1 : List UInt8 := dkwX0_keep_1 ++ dktX0_keep_2
def dkwX0_keep_0 : List UInt8 := [42, 180, 0, 205, 42, 180, 0, 50, 190, 160, 0, 32, 5, 42, 180, 0, 205, 104, 189, 0, 46, 77, 42]
abbrev dktX0_keep_0 : List UInt8 := dkwX0_keep_0 ++ dktX0_keep_1
theorem dksX0_keep_0 : cX0_keep.data.toList.drop 0 = dktX0_keep_0 := by decide +kernel
theorem dksX0_keep_1 : cX0_keep.data.toList.drop 23 = dktX0_keep_1 := dk_seg dksX0_keep_0 23 rfl rfl
theorem dksX0_keep_2 : cX0_keep.data.toList.drop 46 = dktX0_keep_2 := dk_seg dksX0_keep_1 23 rfl rfl
theorem dX0_keep_0 : decode cX0_keep 0 = .ok (.aload_n 0, 1) := dk_42 (dk_at dksX0_keep_0 0 rfl rfl)
theorem dX0_keep_1 : decode cX0_keep 1 = .ok (.getfield 205, 3) := dk_180 0 205 (dk_at dksX0_keep_0 1 rfl rfl)
theorem dX0_keep_4 : decode cX0_keep 4 = .ok (.aload_n 0, 1) := dk_42 (dk_at dksX0_keep_0 4 rfl rfl)
theorem dX0_keep_5 : decode cX0_keep 5 = .ok (.getfield 50, 3) := dk_180 0 50 (dk_at dksX0_keep_0 5 rfl rfl)
theorem dX0_keep_8 : decode cX0_keep 8 = .ok (.arraylength, 1) := dk_190 (dk_at dksX0_keep_0 8 rfl rfl)
theorem dX0_keep_9 : decode cX0_keep 9 = .ok (.if_icmp .ne 32, 3) := dk_160 0 32 (dk_at dksX0_keep_0 9 rfl rfl)
theorem dX0_keep_12 : decode cX0_keep 12 = .ok (.iconst 2, 1) := dk_5 (dk_at dksX0_keep_0 12 rfl rfl)
theorem dX0_keep_13 : decode cX0_keep 13 = .ok (.aload_n 0, 1) := dk_42 (dk_at dksX0_keep_0 13 rfl rfl)
theorem dX0_keep_14 : decode cX0_keep 14 = .ok (.getfield 205, 3) := dk_180 0 205 (dk_at dksX0_keep_0 14 rfl rfl)
theorem dX0_keep_17 : decode cX0_keep 17 = .ok (.imul, 1) := dk_104 (dk_at dksX0_keep_0 17 rfl rfl)
theorem dX0_keep_18 : decode cX0_keep 18 = .ok (.anewarray 46, 3) := dk_189 0 46 (dk_at dksX0_keep_0 18 rfl rfl)
theorem dX0_keep_21 : decode cX0_keep 21 = .ok (.astore_n 2, 1) := dk_77 (dk_at dksX0_keep_0 21 rfl rfl)
theorem dX0_keep_22 : decode cX0_keep 22 = .ok (.aload_n 0, 1) := dk_42 (dk_at dksX0_keep_0 22 rfl rfl)
theorem dX0_keep_23 : decode cX0_keep 23 = .ok (.getfield 50, 3) := dk_180 0 50 (dk_at dksX0_keep_1 0 rfl rfl)
theorem dX0_keep_26 : decode cX0_keep 26 = .ok (.iconst 0, 1) := dk_3 (dk_at dksX0_keep_1 3 rfl rfl)
theorem dX0_keep_27 : decode cX0_keep 27 = .ok (.aload_n 2, 1) := dk_44 (dk_at dksX0_keep_1 4 rfl rfl)
theorem dX0_keep_28 : decode cX0_keep 28 = .ok (.iconst 0, 1) := dk_3 (dk_at dksX0_keep_1 5 rfl rfl)
theorem dX0_keep_29 : decode cX0_keep 29 = .ok (.aload_n 0, 1) := dk_42 (dk_at dksX0_keep_1 6 rfl rfl)
theorem dX0_keep_30 : decode cX0_keep 30 = .ok (.getfield 205, 3) := dk_180 0 205 (dk_at dksX0_keep_1 7 rfl rfl)
theorem dX0_keep_33 : decode cX0_keep 33 = .ok (.invokestatic 208, 3) := dk_184 0 208 (dk_at dksX0_keep_1 10 rfl rfl)
theorem dX0_keep_36 : decode cX0_keep 36 = .ok (.aload_n 0, 1) := dk_42 (dk_at dksX0_keep_1 13 rfl rfl)
theorem dX0_keep_37 : decode cX0_keep 37 = .ok (.aload_n 2, 1) := dk_44 (dk_at dksX0_keep_1 14 rfl rfl)
theorem dX0_keep_38 : decode cX0_keep 38 = .ok (.putfield 50, 3) := dk_181 0 50 (dk_at dksX0_keep_1 15 rfl rfl)
theorem dX0_keep_41 : decode cX0_keep 41 = .ok (.aload_n 0, 1) := dk_42 (dk_at dksX0_keep_1 18 rfl rfl)
theorem dX0_keep_42 : decode cX0_keep 42 = .ok (.getfield 50, 3) := dk_180 0 50 (dk_at dksX0_keep_1 19 rfl rfl)
theorem dX0_keep_45 : decode cX0_keep 45 = .ok (.aload_n 0, 1) := dk_42 (dk_at dksX0_keep_1 22 rfl rfl)
theorem dX0_keep_46 : decode cX0_keep 46 = .ok (.getfield 205, 3) := dk_180 0 205 (dk_at dksX0_keep_2 0 rfl rfl)
theorem dX0_keep_49 : decode cX0_keep 49 = .ok (.aload_n 1, 1) := dk_43 (dk_at dksX0_keep_2 3 rfl rfl)
theorem dX0_keep_50 : decode cX0_keep 50 = .ok (.aastore, 1) := dk_83 (dk_at dksX0_keep_2 4 rfl rfl)
theorem dX0_keep_51 : decode cX0_keep 51 = .ok (.aload_n 0, 1) := dk_42 (dk_at dksX0_keep_2 5 rfl rfl)
theorem dX0_keep_52 : decode cX0_keep 52 = .ok (.dup, 1) := dk_89 (dk_at dksX0_keep_2 6 rfl rfl)
theorem dX0_keep_53 : decode cX0_keep 53 = .ok (.getfield 205, 3) := dk_180 0 205 (dk_at dksX0_keep_2 7 rfl rfl)
theorem dX0_keep_56 : decode cX0_keep 56 = .ok (.iconst 1, 1) := dk_4 (dk_at dksX0_keep_2 10 rfl rfl)
theorem dX0_keep_57 : decode cX0_keep 57 = .ok (.iadd, 1) := dk_96 (dk_at dksX0_keep_2 11 rfl rfl)
theorem dX0_keep_58 : decode cX0_keep 58 = .ok (.putfield 205, 3) := dk_181 0 205 (dk_at dksX0_keep_2 12 rfl rfl)
theorem dX0_keep_61 : decode cX0_keep 61 = .ok (.return_, 1) := dk_177 (dk_at dksX0_keep_2 15 rfl rfl)
abbrev cX0_match : ByteArray := prog_1_method_37_code
def yX0_match : MethodName := ⟨RX0, "match", "(III)V"⟩
def dkwX0_match_8 : List UInt8 := [25, 4, 181, 0, 50, 42, 42, 180, 0, 205, 181, 0, 221, 177]
abbrev dktX0_match_8 : List UInt8 := dkwX0_match_8 ++ []
def dkwX0_match_7 : List UInt8 := [167, 255, 177, 132, 4, 1, 167, 255, 143, 42, 180, 0, 47, 58, 4, 42, 42, 180, 0, 50, 181, 0, 47, 42]
abbrev dktX0_match_7 : List UInt8 := dkwX0_match_7 ++ dktX0_match_8
def dkwX0_match_6 : List UInt8 := [21, 4, 50, 22, 8, 117, 42, 180, 0, 47, 21, 7, 50, 22, 5, 184, 0, 235, 182, 0, 228, 132, 7, 1]
abbrev dktX0_match_6 : List UInt8 := dkwX0_match_6 ++ dktX0_match_7
def dkwX0_match_5 : List UInt8 := [22, 8, 9, 148, 156, 0, 40, 42, 21, 4, 21, 7, 182, 0, 232, 153, 0, 29, 42, 42, 180, 0, 47]
abbrev dktX0_match_5 : List UInt8 := dkwX0_match_5 ++ dktX0_match_6
def dkwX0_match_4 : List UInt8 := [22, 5, 9, 148, 158, 0, 69, 42, 42, 180, 0, 47, 21, 7, 50, 27, 28, 29, 182, 0, 224, 55, 8]
abbrev dktX0_match_4 : List UInt8 := dkwX0_match_4 ++ dktX0_match_5
def dkwX0_match_3 : List UInt8 := [21, 4, 50, 27, 28, 29, 182, 0, 224, 55, 5, 3, 54, 7, 21, 7, 42, 180, 0, 221, 162, 0, 76]
abbrev dktX0_match_3 : List UInt8 := dkwX0_match_3 ++ dktX0_match_4
def dkwX0_match_2 : List UInt8 := [132, 4, 1, 167, 255, 214, 3, 54, 4, 21, 4, 42, 180, 0, 221, 162, 0, 110, 42, 42, 180, 0, 47]
abbrev dktX0_match_2 : List UInt8 := dkwX0_match_2 ++ dktX0_match_3
def dkwX0_match_1 : List UInt8 := [50, 27, 28, 29, 182, 0, 224, 9, 148, 154, 0, 14, 42, 42, 180, 0, 47, 21, 4, 50, 182, 0, 228]
abbrev dktX0_match_1 : List UInt8 := dkwX0_match_1 ++ dktX0_match_2
def dkwX0_match_0 : List UInt8 := [42, 3, 181, 0, 205, 3, 54, 4, 21, 4, 42, 180, 0, 221, 162, 0, 39, 42, 42, 180, 0, 47, 21, 4]
abbrev dktX0_match_0 : List UInt8 := dkwX0_match_0 ++ dktX0_match_1
theorem dksX0_match_0 : cX0_match.data.toList.drop 0 = dktX0_match_0 := by decide +kernel
theorem dksX0_match_1 : cX0_match.data.toList.drop 24 = dktX0_match_1 := dk_seg dksX0_match_0 24 rfl rfl
theorem dksX0_match_2 : cX0_match.data.toList.drop 47 = dktX0_match_2 := dk_seg dksX0_match_1 23 rfl rfl
theorem dksX0_match_3 : cX0_match.data.toList.drop 70 = dktX0_match_3 := dk_seg dksX0_match_2 23 rfl rfl
theorem dksX0_match_4 : cX0_match.data.toList.drop 93 = dktX0_match_4 := dk_seg dksX0_match_3 23 rfl rfl
theorem dksX0_match_5 : cX0_match.data.toList.drop 116 = dktX0_match_5 := dk_seg dksX0_match_4 23 rfl rfl
theorem dksX0_match_6 : cX0_match.data.toList.drop 139 = dktX0_match_6 := dk_seg dksX0_match_5 23 rfl rfl
theorem dksX0_match_7 : cX0_match.data.toList.drop 163 = dktX0_match_7 := dk_seg dksX0_match_6 24 rfl rfl
theorem dksX0_match_8 : cX0_match.data.toList.drop 187 = dktX0_match_8 := dk_seg dksX0_match_7 24 rfl rfl
theorem dX0_match_0 : decode cX0_match 0 = .ok (.aload_n 0, 1) := dk_42 (dk_at dksX0_match_0 0 rfl rfl)
theorem dX0_match_1 : decode cX0_match 1 = .ok (.iconst 0, 1) := dk_3 (dk_at dksX0_match_0 1 rfl rfl)
theorem dX0_match_2 : decode cX0_match 2 = .ok (.putfield 205, 3) := dk_181 0 205 (dk_at dksX0_match_0 2 rfl rfl)
theorem dX0_match_5 : decode cX0_match 5 = .ok (.iconst 0, 1) := dk_3 (dk_at dksX0_match_0 5 rfl rfl)
theorem dX0_match_6 : decode cX0_match 6 = .ok (.istore 4, 2) := dk_54 4 (dk_at dksX0_match_0 6 rfl rfl)
theorem dX0_match_8 : decode cX0_match 8 = .ok (.iload 4, 2) := dk_21 4 (dk_at dksX0_match_0 8 rfl rfl)
theorem dX0_match_10 : decode cX0_match 10 = .ok (.aload_n 0, 1) := dk_42 (dk_at dksX0_match_0 10 rfl rfl)
theorem dX0_match_11 : decode cX0_match 11 = .ok (.getfield 221, 3) := dk_180 0 221 (dk_at dksX0_match_0 11 rfl rfl)
theorem dX0_match_14 : decode cX0_match 14 = .ok (.if_icmp .ge 39, 3) := dk_162 0 39 (dk_at dksX0_match_0 14 rfl rfl)
theorem dX0_match_17 : decode cX0_match 17 = .ok (.aload_n 0, 1) := dk_42 (dk_at dksX0_match_0 17 rfl rfl)
theorem dX0_match_18 : decode cX0_match 18 = .ok (.aload_n 0, 1) := dk_42 (dk_at dksX0_match_0 18 rfl rfl)
theorem dX0_match_19 : decode cX0_match 19 = .ok (.getfield 47, 3) := dk_180 0 47 (dk_at dksX0_match_0 19 rfl rfl)
theorem dX0_match_22 : decode cX0_match 22 = .ok (.iload 4, 2) := dk_21 4 (dk_at dksX0_match_0 22 rfl rfl)
theorem dX0_match_24 : decode cX0_match 24 = .ok (.aaload, 1) := dk_50 (dk_at dksX0_match_1 0 rfl rfl)
theorem dX0_match_25 : decode cX0_match 25 = .ok (.iload_n 1, 1) := dk_27 (dk_at dksX0_match_1 1 rfl rfl)
theorem dX0_match_26 : decode cX0_match 26 = .ok (.iload_n 2, 1) := dk_28 (dk_at dksX0_match_1 2 rfl rfl)
theorem dX0_match_27 : decode cX0_match 27 = .ok (.iload_n 3, 1) := dk_29 (dk_at dksX0_match_1 3 rfl rfl)
theorem dX0_match_28 : decode cX0_match 28 = .ok (.invokevirtual 224, 3) := dk_182 0 224 (dk_at dksX0_match_1 4 rfl rfl)
theorem dX0_match_31 : decode cX0_match 31 = .ok (.lconst 0, 1) := dk_9 (dk_at dksX0_match_1 7 rfl rfl)
theorem dX0_match_32 : decode cX0_match 32 = .ok (.lcmp, 1) := dk_148 (dk_at dksX0_match_1 8 rfl rfl)
theorem dX0_match_33 : decode cX0_match 33 = .ok (.ifCond .ne 14, 3) := dk_154 0 14 (dk_at dksX0_match_1 9 rfl rfl)
theorem dX0_match_36 : decode cX0_match 36 = .ok (.aload_n 0, 1) := dk_42 (dk_at dksX0_match_1 12 rfl rfl)
theorem dX0_match_37 : decode cX0_match 37 = .ok (.aload_n 0, 1) := dk_42 (dk_at dksX0_match_1 13 rfl rfl)
theorem dX0_match_38 : decode cX0_match 38 = .ok (.getfield 47, 3) := dk_180 0 47 (dk_at dksX0_match_1 14 rfl rfl)
theorem dX0_match_41 : decode cX0_match 41 = .ok (.iload 4, 2) := dk_21 4 (dk_at dksX0_match_1 17 rfl rfl)
theorem dX0_match_43 : decode cX0_match 43 = .ok (.aaload, 1) := dk_50 (dk_at dksX0_match_1 19 rfl rfl)
theorem dX0_match_44 : decode cX0_match 44 = .ok (.invokevirtual 228, 3) := dk_182 0 228 (dk_at dksX0_match_1 20 rfl rfl)
theorem dX0_match_47 : decode cX0_match 47 = .ok (.iinc 4 1, 3) := dk_132 4 1 (dk_at dksX0_match_2 0 rfl rfl)
theorem dX0_match_50 : decode cX0_match 50 = .ok (.goto (-42), 3) := dk_167 255 214 (dk_at dksX0_match_2 3 rfl rfl)
theorem dX0_match_53 : decode cX0_match 53 = .ok (.iconst 0, 1) := dk_3 (dk_at dksX0_match_2 6 rfl rfl)
theorem dX0_match_54 : decode cX0_match 54 = .ok (.istore 4, 2) := dk_54 4 (dk_at dksX0_match_2 7 rfl rfl)
theorem dX0_match_56 : decode cX0_match 56 = .ok (.iload 4, 2) := dk_21 4 (dk_at dksX0_match_2 9 rfl rfl)
theorem dX0_match_58 : decode cX0_match 58 = .ok (.aload_n 0, 1) := dk_42 (dk_at dksX0_match_2 11 rfl rfl)
theorem dX0_match_59 : decode cX0_match 59 = .ok (.getfield 221, 3) := dk_180 0 221 (dk_at dksX0_match_2 12 rfl rfl)
theorem dX0_match_62 : decode cX0_match 62 = .ok (.if_icmp .ge 110, 3) := dk_162 0 110 (dk_at dksX0_match_2 15 rfl rfl)
theorem dX0_match_65 : decode cX0_match 65 = .ok (.aload_n 0, 1) := dk_42 (dk_at dksX0_match_2 18 rfl rfl)
theorem dX0_match_66 : decode cX0_match 66 = .ok (.aload_n 0, 1) := dk_42 (dk_at dksX0_match_2 19 rfl rfl)
theorem dX0_match_67 : decode cX0_match 67 = .ok (.getfield 47, 3) := dk_180 0 47 (dk_at dksX0_match_2 20 rfl rfl)
theorem dX0_match_70 : decode cX0_match 70 = .ok (.iload 4, 2) := dk_21 4 (dk_at dksX0_match_3 0 rfl rfl)
theorem dX0_match_72 : decode cX0_match 72 = .ok (.aaload, 1) := dk_50 (dk_at dksX0_match_3 2 rfl rfl)
theorem dX0_match_73 : decode cX0_match 73 = .ok (.iload_n 1, 1) := dk_27 (dk_at dksX0_match_3 3 rfl rfl)
theorem dX0_match_74 : decode cX0_match 74 = .ok (.iload_n 2, 1) := dk_28 (dk_at dksX0_match_3 4 rfl rfl)
theorem dX0_match_75 : decode cX0_match 75 = .ok (.iload_n 3, 1) := dk_29 (dk_at dksX0_match_3 5 rfl rfl)
theorem dX0_match_76 : decode cX0_match 76 = .ok (.invokevirtual 224, 3) := dk_182 0 224 (dk_at dksX0_match_3 6 rfl rfl)
theorem dX0_match_79 : decode cX0_match 79 = .ok (.lstore 5, 2) := dk_55 5 (dk_at dksX0_match_3 9 rfl rfl)
theorem dX0_match_81 : decode cX0_match 81 = .ok (.iconst 0, 1) := dk_3 (dk_at dksX0_match_3 11 rfl rfl)
theorem dX0_match_82 : decode cX0_match 82 = .ok (.istore 7, 2) := dk_54 7 (dk_at dksX0_match_3 12 rfl rfl)
theorem dX0_match_84 : decode cX0_match 84 = .ok (.iload 7, 2) := dk_21 7 (dk_at dksX0_match_3 14 rfl rfl)
theorem dX0_match_86 : decode cX0_match 86 = .ok (.aload_n 0, 1) := dk_42 (dk_at dksX0_match_3 16 rfl rfl)
theorem dX0_match_87 : decode cX0_match 87 = .ok (.getfield 221, 3) := dk_180 0 221 (dk_at dksX0_match_3 17 rfl rfl)
theorem dX0_match_90 : decode cX0_match 90 = .ok (.if_icmp .ge 76, 3) := dk_162 0 76 (dk_at dksX0_match_3 20 rfl rfl)
theorem dX0_match_93 : decode cX0_match 93 = .ok (.lload 5, 2) := dk_22 5 (dk_at dksX0_match_4 0 rfl rfl)
theorem dX0_match_95 : decode cX0_match 95 = .ok (.lconst 0, 1) := dk_9 (dk_at dksX0_match_4 2 rfl rfl)
theorem dX0_match_96 : decode cX0_match 96 = .ok (.lcmp, 1) := dk_148 (dk_at dksX0_match_4 3 rfl rfl)
theorem dX0_match_97 : decode cX0_match 97 = .ok (.ifCond .le 69, 3) := dk_158 0 69 (dk_at dksX0_match_4 4 rfl rfl)
theorem dX0_match_100 : decode cX0_match 100 = .ok (.aload_n 0, 1) := dk_42 (dk_at dksX0_match_4 7 rfl rfl)
theorem dX0_match_101 : decode cX0_match 101 = .ok (.aload_n 0, 1) := dk_42 (dk_at dksX0_match_4 8 rfl rfl)
theorem dX0_match_102 : decode cX0_match 102 = .ok (.getfield 47, 3) := dk_180 0 47 (dk_at dksX0_match_4 9 rfl rfl)
theorem dX0_match_105 : decode cX0_match 105 = .ok (.iload 7, 2) := dk_21 7 (dk_at dksX0_match_4 12 rfl rfl)
theorem dX0_match_107 : decode cX0_match 107 = .ok (.aaload, 1) := dk_50 (dk_at dksX0_match_4 14 rfl rfl)
theorem dX0_match_108 : decode cX0_match 108 = .ok (.iload_n 1, 1) := dk_27 (dk_at dksX0_match_4 15 rfl rfl)
theorem dX0_match_109 : decode cX0_match 109 = .ok (.iload_n 2, 1) := dk_28 (dk_at dksX0_match_4 16 rfl rfl)
theorem dX0_match_110 : decode cX0_match 110 = .ok (.iload_n 3, 1) := dk_29 (dk_at dksX0_match_4 17 rfl rfl)
theorem dX0_match_111 : decode cX0_match 111 = .ok (.invokevirtual 224, 3) := dk_182 0 224 (dk_at dksX0_match_4 18 rfl rfl)
theorem dX0_match_114 : decode cX0_match 114 = .ok (.lstore 8, 2) := dk_55 8 (dk_at dksX0_match_4 21 rfl rfl)
theorem dX0_match_116 : decode cX0_match 116 = .ok (.lload 8, 2) := dk_22 8 (dk_at dksX0_match_5 0 rfl rfl)
theorem dX0_match_118 : decode cX0_match 118 = .ok (.lconst 0, 1) := dk_9 (dk_at dksX0_match_5 2 rfl rfl)
theorem dX0_match_119 : decode cX0_match 119 = .ok (.lcmp, 1) := dk_148 (dk_at dksX0_match_5 3 rfl rfl)
theorem dX0_match_120 : decode cX0_match 120 = .ok (.ifCond .ge 40, 3) := dk_156 0 40 (dk_at dksX0_match_5 4 rfl rfl)
theorem dX0_match_123 : decode cX0_match 123 = .ok (.aload_n 0, 1) := dk_42 (dk_at dksX0_match_5 7 rfl rfl)
theorem dX0_match_124 : decode cX0_match 124 = .ok (.iload 4, 2) := dk_21 4 (dk_at dksX0_match_5 8 rfl rfl)
theorem dX0_match_126 : decode cX0_match 126 = .ok (.iload 7, 2) := dk_21 7 (dk_at dksX0_match_5 10 rfl rfl)
theorem dX0_match_128 : decode cX0_match 128 = .ok (.invokevirtual 232, 3) := dk_182 0 232 (dk_at dksX0_match_5 12 rfl rfl)
theorem dX0_match_131 : decode cX0_match 131 = .ok (.ifCond .eq 29, 3) := dk_153 0 29 (dk_at dksX0_match_5 15 rfl rfl)
theorem dX0_match_134 : decode cX0_match 134 = .ok (.aload_n 0, 1) := dk_42 (dk_at dksX0_match_5 18 rfl rfl)
theorem dX0_match_135 : decode cX0_match 135 = .ok (.aload_n 0, 1) := dk_42 (dk_at dksX0_match_5 19 rfl rfl)
theorem dX0_match_136 : decode cX0_match 136 = .ok (.getfield 47, 3) := dk_180 0 47 (dk_at dksX0_match_5 20 rfl rfl)
theorem dX0_match_139 : decode cX0_match 139 = .ok (.iload 4, 2) := dk_21 4 (dk_at dksX0_match_6 0 rfl rfl)
theorem dX0_match_141 : decode cX0_match 141 = .ok (.aaload, 1) := dk_50 (dk_at dksX0_match_6 2 rfl rfl)
theorem dX0_match_142 : decode cX0_match 142 = .ok (.lload 8, 2) := dk_22 8 (dk_at dksX0_match_6 3 rfl rfl)
theorem dX0_match_144 : decode cX0_match 144 = .ok (.lneg, 1) := dk_117 (dk_at dksX0_match_6 5 rfl rfl)
theorem dX0_match_145 : decode cX0_match 145 = .ok (.aload_n 0, 1) := dk_42 (dk_at dksX0_match_6 6 rfl rfl)
theorem dX0_match_146 : decode cX0_match 146 = .ok (.getfield 47, 3) := dk_180 0 47 (dk_at dksX0_match_6 7 rfl rfl)
theorem dX0_match_149 : decode cX0_match 149 = .ok (.iload 7, 2) := dk_21 7 (dk_at dksX0_match_6 10 rfl rfl)
theorem dX0_match_151 : decode cX0_match 151 = .ok (.aaload, 1) := dk_50 (dk_at dksX0_match_6 12 rfl rfl)
theorem dX0_match_152 : decode cX0_match 152 = .ok (.lload 5, 2) := dk_22 5 (dk_at dksX0_match_6 13 rfl rfl)
theorem dX0_match_154 : decode cX0_match 154 = .ok (.invokestatic 235, 3) := dk_184 0 235 (dk_at dksX0_match_6 15 rfl rfl)
theorem dX0_match_157 : decode cX0_match 157 = .ok (.invokevirtual 228, 3) := dk_182 0 228 (dk_at dksX0_match_6 18 rfl rfl)
theorem dX0_match_160 : decode cX0_match 160 = .ok (.iinc 7 1, 3) := dk_132 7 1 (dk_at dksX0_match_6 21 rfl rfl)
theorem dX0_match_163 : decode cX0_match 163 = .ok (.goto (-79), 3) := dk_167 255 177 (dk_at dksX0_match_7 0 rfl rfl)
theorem dX0_match_166 : decode cX0_match 166 = .ok (.iinc 4 1, 3) := dk_132 4 1 (dk_at dksX0_match_7 3 rfl rfl)
theorem dX0_match_169 : decode cX0_match 169 = .ok (.goto (-113), 3) := dk_167 255 143 (dk_at dksX0_match_7 6 rfl rfl)
theorem dX0_match_172 : decode cX0_match 172 = .ok (.aload_n 0, 1) := dk_42 (dk_at dksX0_match_7 9 rfl rfl)
theorem dX0_match_173 : decode cX0_match 173 = .ok (.getfield 47, 3) := dk_180 0 47 (dk_at dksX0_match_7 10 rfl rfl)
theorem dX0_match_176 : decode cX0_match 176 = .ok (.astore 4, 2) := dk_58 4 (dk_at dksX0_match_7 13 rfl rfl)
theorem dX0_match_178 : decode cX0_match 178 = .ok (.aload_n 0, 1) := dk_42 (dk_at dksX0_match_7 15 rfl rfl)
theorem dX0_match_179 : decode cX0_match 179 = .ok (.aload_n 0, 1) := dk_42 (dk_at dksX0_match_7 16 rfl rfl)
theorem dX0_match_180 : decode cX0_match 180 = .ok (.getfield 50, 3) := dk_180 0 50 (dk_at dksX0_match_7 17 rfl rfl)
theorem dX0_match_183 : decode cX0_match 183 = .ok (.putfield 47, 3) := dk_181 0 47 (dk_at dksX0_match_7 20 rfl rfl)
theorem dX0_match_186 : decode cX0_match 186 = .ok (.aload_n 0, 1) := dk_42 (dk_at dksX0_match_7 23 rfl rfl)
theorem dX0_match_187 : decode cX0_match 187 = .ok (.aload 4, 2) := dk_25 4 (dk_at dksX0_match_8 0 rfl rfl)
theorem dX0_match_189 : decode cX0_match 189 = .ok (.putfield 50, 3) := dk_181 0 50 (dk_at dksX0_match_8 2 rfl rfl)
theorem dX0_match_192 : decode cX0_match 192 = .ok (.aload_n 0, 1) := dk_42 (dk_at dksX0_match_8 5 rfl rfl)
theorem dX0_match_193 : decode cX0_match 193 = .ok (.aload_n 0, 1) := dk_42 (dk_at dksX0_match_8 6 rfl rfl)
theorem dX0_match_194 : decode cX0_match 194 = .ok (.getfield 205, 3) := dk_180 0 205 (dk_at dksX0_match_8 7 rfl rfl)
theorem dX0_match_197 : decode cX0_match 197 = .ok (.putfield 221, 3) := dk_181 0 221 (dk_at dksX0_match_8 10 rfl rfl)
theorem dX0_match_200 : decode cX0_match 200 = .ok (.return_, 1) := dk_177 (dk_at dksX0_match_8 13 rfl rfl)
abbrev cX0_off : ByteArray := prog_1_method_34_code
def yX0_off : MethodName := ⟨RX0, "off", "([JIII)J"⟩
def dkwX0_off_3 : List UInt8 := [104, 7, 96, 21, 6, 25, 5, 180, 0, 119, 184, 0, 202, 96, 47, 101, 173]
abbrev dktX0_off_3 : List UInt8 := dkwX0_off_3 ++ []
def dkwX0_off_2 : List UInt8 := [22, 7, 43, 16, 7, 25, 5, 180, 0, 116, 104, 21, 6, 96, 47, 101, 43, 16, 7, 25, 5, 180, 0, 116]
abbrev dktX0_off_2 : List UInt8 := dkwX0_off_2 ++ dktX0_off_3
def dkwX0_off_1 : List UInt8 := [104, 21, 4, 96, 47, 43, 16, 7, 28, 104, 7, 96, 21, 4, 29, 184, 0, 202, 96, 47, 97, 55, 7]
abbrev dktX0_off_1 : List UInt8 := dkwX0_off_1 ++ dktX0_off_2
def dkwX0_off_0 : List UInt8 := [42, 180, 0, 11, 28, 50, 29, 50, 58, 5, 25, 5, 180, 0, 175, 21, 4, 46, 54, 6, 43, 16, 7, 28]
abbrev dktX0_off_0 : List UInt8 := dkwX0_off_0 ++ dktX0_off_1
theorem dksX0_off_0 : cX0_off.data.toList.drop 0 = dktX0_off_0 := by decide +kernel
theorem dksX0_off_1 : cX0_off.data.toList.drop 24 = dktX0_off_1 := dk_seg dksX0_off_0 24 rfl rfl
theorem dksX0_off_2 : cX0_off.data.toList.drop 47 = dktX0_off_2 := dk_seg dksX0_off_1 23 rfl rfl
theorem dksX0_off_3 : cX0_off.data.toList.drop 71 = dktX0_off_3 := dk_seg dksX0_off_2 24 rfl rfl
theorem dX0_off_0 : decode cX0_off 0 = .ok (.aload_n 0, 1) := dk_42 (dk_at dksX0_off_0 0 rfl rfl)
theorem dX0_off_1 : decode cX0_off 1 = .ok (.getfield 11, 3) := dk_180 0 11 (dk_at dksX0_off_0 1 rfl rfl)
theorem dX0_off_4 : decode cX0_off 4 = .ok (.iload_n 2, 1) := dk_28 (dk_at dksX0_off_0 4 rfl rfl)
theorem dX0_off_5 : decode cX0_off 5 = .ok (.aaload, 1) := dk_50 (dk_at dksX0_off_0 5 rfl rfl)
theorem dX0_off_6 : decode cX0_off 6 = .ok (.iload_n 3, 1) := dk_29 (dk_at dksX0_off_0 6 rfl rfl)
theorem dX0_off_7 : decode cX0_off 7 = .ok (.aaload, 1) := dk_50 (dk_at dksX0_off_0 7 rfl rfl)
theorem dX0_off_8 : decode cX0_off 8 = .ok (.astore 5, 2) := dk_58 5 (dk_at dksX0_off_0 8 rfl rfl)
theorem dX0_off_10 : decode cX0_off 10 = .ok (.aload 5, 2) := dk_25 5 (dk_at dksX0_off_0 10 rfl rfl)
theorem dX0_off_12 : decode cX0_off 12 = .ok (.getfield 175, 3) := dk_180 0 175 (dk_at dksX0_off_0 12 rfl rfl)
theorem dX0_off_15 : decode cX0_off 15 = .ok (.iload 4, 2) := dk_21 4 (dk_at dksX0_off_0 15 rfl rfl)
theorem dX0_off_17 : decode cX0_off 17 = .ok (.iaload, 1) := dk_46 (dk_at dksX0_off_0 17 rfl rfl)
theorem dX0_off_18 : decode cX0_off 18 = .ok (.istore 6, 2) := dk_54 6 (dk_at dksX0_off_0 18 rfl rfl)
theorem dX0_off_20 : decode cX0_off 20 = .ok (.aload_n 1, 1) := dk_43 (dk_at dksX0_off_0 20 rfl rfl)
theorem dX0_off_21 : decode cX0_off 21 = .ok (.bipush 7, 2) := dk_16 7 (dk_at dksX0_off_0 21 rfl rfl)
theorem dX0_off_23 : decode cX0_off 23 = .ok (.iload_n 2, 1) := dk_28 (dk_at dksX0_off_0 23 rfl rfl)
theorem dX0_off_24 : decode cX0_off 24 = .ok (.imul, 1) := dk_104 (dk_at dksX0_off_1 0 rfl rfl)
theorem dX0_off_25 : decode cX0_off 25 = .ok (.iload 4, 2) := dk_21 4 (dk_at dksX0_off_1 1 rfl rfl)
theorem dX0_off_27 : decode cX0_off 27 = .ok (.iadd, 1) := dk_96 (dk_at dksX0_off_1 3 rfl rfl)
theorem dX0_off_28 : decode cX0_off 28 = .ok (.laload, 1) := dk_47 (dk_at dksX0_off_1 4 rfl rfl)
theorem dX0_off_29 : decode cX0_off 29 = .ok (.aload_n 1, 1) := dk_43 (dk_at dksX0_off_1 5 rfl rfl)
theorem dX0_off_30 : decode cX0_off 30 = .ok (.bipush 7, 2) := dk_16 7 (dk_at dksX0_off_1 6 rfl rfl)
theorem dX0_off_32 : decode cX0_off 32 = .ok (.iload_n 2, 1) := dk_28 (dk_at dksX0_off_1 8 rfl rfl)
theorem dX0_off_33 : decode cX0_off 33 = .ok (.imul, 1) := dk_104 (dk_at dksX0_off_1 9 rfl rfl)
theorem dX0_off_34 : decode cX0_off 34 = .ok (.iconst 4, 1) := dk_7 (dk_at dksX0_off_1 10 rfl rfl)
theorem dX0_off_35 : decode cX0_off 35 = .ok (.iadd, 1) := dk_96 (dk_at dksX0_off_1 11 rfl rfl)
theorem dX0_off_36 : decode cX0_off 36 = .ok (.iload 4, 2) := dk_21 4 (dk_at dksX0_off_1 12 rfl rfl)
theorem dX0_off_38 : decode cX0_off 38 = .ok (.iload_n 3, 1) := dk_29 (dk_at dksX0_off_1 14 rfl rfl)
theorem dX0_off_39 : decode cX0_off 39 = .ok (.invokestatic 202, 3) := dk_184 0 202 (dk_at dksX0_off_1 15 rfl rfl)
theorem dX0_off_42 : decode cX0_off 42 = .ok (.iadd, 1) := dk_96 (dk_at dksX0_off_1 18 rfl rfl)
theorem dX0_off_43 : decode cX0_off 43 = .ok (.laload, 1) := dk_47 (dk_at dksX0_off_1 19 rfl rfl)
theorem dX0_off_44 : decode cX0_off 44 = .ok (.ladd, 1) := dk_97 (dk_at dksX0_off_1 20 rfl rfl)
theorem dX0_off_45 : decode cX0_off 45 = .ok (.lstore 7, 2) := dk_55 7 (dk_at dksX0_off_1 21 rfl rfl)
theorem dX0_off_47 : decode cX0_off 47 = .ok (.lload 7, 2) := dk_22 7 (dk_at dksX0_off_2 0 rfl rfl)
theorem dX0_off_49 : decode cX0_off 49 = .ok (.aload_n 1, 1) := dk_43 (dk_at dksX0_off_2 2 rfl rfl)
theorem dX0_off_50 : decode cX0_off 50 = .ok (.bipush 7, 2) := dk_16 7 (dk_at dksX0_off_2 3 rfl rfl)
theorem dX0_off_52 : decode cX0_off 52 = .ok (.aload 5, 2) := dk_25 5 (dk_at dksX0_off_2 5 rfl rfl)
theorem dX0_off_54 : decode cX0_off 54 = .ok (.getfield 116, 3) := dk_180 0 116 (dk_at dksX0_off_2 7 rfl rfl)
theorem dX0_off_57 : decode cX0_off 57 = .ok (.imul, 1) := dk_104 (dk_at dksX0_off_2 10 rfl rfl)
theorem dX0_off_58 : decode cX0_off 58 = .ok (.iload 6, 2) := dk_21 6 (dk_at dksX0_off_2 11 rfl rfl)
theorem dX0_off_60 : decode cX0_off 60 = .ok (.iadd, 1) := dk_96 (dk_at dksX0_off_2 13 rfl rfl)
theorem dX0_off_61 : decode cX0_off 61 = .ok (.laload, 1) := dk_47 (dk_at dksX0_off_2 14 rfl rfl)
theorem dX0_off_62 : decode cX0_off 62 = .ok (.lsub, 1) := dk_101 (dk_at dksX0_off_2 15 rfl rfl)
theorem dX0_off_63 : decode cX0_off 63 = .ok (.aload_n 1, 1) := dk_43 (dk_at dksX0_off_2 16 rfl rfl)
theorem dX0_off_64 : decode cX0_off 64 = .ok (.bipush 7, 2) := dk_16 7 (dk_at dksX0_off_2 17 rfl rfl)
theorem dX0_off_66 : decode cX0_off 66 = .ok (.aload 5, 2) := dk_25 5 (dk_at dksX0_off_2 19 rfl rfl)
theorem dX0_off_68 : decode cX0_off 68 = .ok (.getfield 116, 3) := dk_180 0 116 (dk_at dksX0_off_2 21 rfl rfl)
theorem dX0_off_71 : decode cX0_off 71 = .ok (.imul, 1) := dk_104 (dk_at dksX0_off_3 0 rfl rfl)
theorem dX0_off_72 : decode cX0_off 72 = .ok (.iconst 4, 1) := dk_7 (dk_at dksX0_off_3 1 rfl rfl)
theorem dX0_off_73 : decode cX0_off 73 = .ok (.iadd, 1) := dk_96 (dk_at dksX0_off_3 2 rfl rfl)
theorem dX0_off_74 : decode cX0_off 74 = .ok (.iload 6, 2) := dk_21 6 (dk_at dksX0_off_3 3 rfl rfl)
theorem dX0_off_76 : decode cX0_off 76 = .ok (.aload 5, 2) := dk_25 5 (dk_at dksX0_off_3 5 rfl rfl)
theorem dX0_off_78 : decode cX0_off 78 = .ok (.getfield 119, 3) := dk_180 0 119 (dk_at dksX0_off_3 7 rfl rfl)
theorem dX0_off_81 : decode cX0_off 81 = .ok (.invokestatic 202, 3) := dk_184 0 202 (dk_at dksX0_off_3 10 rfl rfl)
theorem dX0_off_84 : decode cX0_off 84 = .ok (.iadd, 1) := dk_96 (dk_at dksX0_off_3 13 rfl rfl)
theorem dX0_off_85 : decode cX0_off 85 = .ok (.laload, 1) := dk_47 (dk_at dksX0_off_3 14 rfl rfl)
theorem dX0_off_86 : decode cX0_off 86 = .ok (.lsub, 1) := dk_101 (dk_at dksX0_off_3 15 rfl rfl)
theorem dX0_off_87 : decode cX0_off 87 = .ok (.lreturn, 1) := dk_173 (dk_at dksX0_off_3 16 rfl rfl)
abbrev cX0_kindOf : ByteArray := prog_1_method_30_code
def yX0_kindOf : MethodName := ⟨RX0, "kindOf", "(II)I"⟩
def dkwX0_kindOf_0 : List UInt8 := [26, 153, 0, 7, 27, 154, 0, 11, 26, 27, 96, 4, 100, 167, 0, 8, 8, 26, 100, 27, 100, 172]
abbrev dktX0_kindOf_0 : List UInt8 := dkwX0_kindOf_0 ++ []
theorem dksX0_kindOf_0 : cX0_kindOf.data.toList.drop 0 = dktX0_kindOf_0 := by decide +kernel
theorem dX0_kindOf_0 : decode cX0_kindOf 0 = .ok (.iload_n 0, 1) := dk_26 (dk_at dksX0_kindOf_0 0 rfl rfl)
theorem dX0_kindOf_1 : decode cX0_kindOf 1 = .ok (.ifCond .eq 7, 3) := dk_153 0 7 (dk_at dksX0_kindOf_0 1 rfl rfl)
theorem dX0_kindOf_4 : decode cX0_kindOf 4 = .ok (.iload_n 1, 1) := dk_27 (dk_at dksX0_kindOf_0 4 rfl rfl)
theorem dX0_kindOf_5 : decode cX0_kindOf 5 = .ok (.ifCond .ne 11, 3) := dk_154 0 11 (dk_at dksX0_kindOf_0 5 rfl rfl)
theorem dX0_kindOf_8 : decode cX0_kindOf 8 = .ok (.iload_n 0, 1) := dk_26 (dk_at dksX0_kindOf_0 8 rfl rfl)
theorem dX0_kindOf_9 : decode cX0_kindOf 9 = .ok (.iload_n 1, 1) := dk_27 (dk_at dksX0_kindOf_0 9 rfl rfl)
theorem dX0_kindOf_10 : decode cX0_kindOf 10 = .ok (.iadd, 1) := dk_96 (dk_at dksX0_kindOf_0 10 rfl rfl)
theorem dX0_kindOf_11 : decode cX0_kindOf 11 = .ok (.iconst 1, 1) := dk_4 (dk_at dksX0_kindOf_0 11 rfl rfl)
theorem dX0_kindOf_12 : decode cX0_kindOf 12 = .ok (.isub, 1) := dk_100 (dk_at dksX0_kindOf_0 12 rfl rfl)
theorem dX0_kindOf_13 : decode cX0_kindOf 13 = .ok (.goto 8, 3) := dk_167 0 8 (dk_at dksX0_kindOf_0 13 rfl rfl)
theorem dX0_kindOf_16 : decode cX0_kindOf 16 = .ok (.iconst 5, 1) := dk_8 (dk_at dksX0_kindOf_0 16 rfl rfl)
theorem dX0_kindOf_17 : decode cX0_kindOf 17 = .ok (.iload_n 0, 1) := dk_26 (dk_at dksX0_kindOf_0 17 rfl rfl)
theorem dX0_kindOf_18 : decode cX0_kindOf 18 = .ok (.isub, 1) := dk_100 (dk_at dksX0_kindOf_0 18 rfl rfl)
theorem dX0_kindOf_19 : decode cX0_kindOf 19 = .ok (.iload_n 1, 1) := dk_27 (dk_at dksX0_kindOf_0 19 rfl rfl)
theorem dX0_kindOf_20 : decode cX0_kindOf 20 = .ok (.isub, 1) := dk_100 (dk_at dksX0_kindOf_0 20 rfl rfl)
theorem dX0_kindOf_21 : decode cX0_kindOf 21 = .ok (.ireturn, 1) := dk_172 (dk_at dksX0_kindOf_0 21 rfl rfl)
abbrev cX0_isBeside : ByteArray := prog_1_method_36_code
def yX0_isBeside : MethodName := ⟨RX0, "isBeside", "(II)Z"⟩
def dkwX0_isBeside_3 : List UInt8 := [153, 0, 7, 4, 167, 0, 4, 3, 54, 4, 132, 5, 1, 167, 255, 203, 21, 4, 172]
abbrev dktX0_isBeside_3 : List UInt8 := dkwX0_isBeside_3 ++ []
def dkwX0_isBeside_2 : List UInt8 := [27, 159, 0, 26, 21, 5, 28, 159, 0, 20, 42, 180, 0, 47, 21, 5, 50, 184, 0, 214, 29, 2, 130, 126]
abbrev dktX0_isBeside_2 : List UInt8 := dkwX0_isBeside_2 ++ dktX0_isBeside_3
def dkwX0_isBeside_1 : List UInt8 := [182, 0, 218, 54, 4, 3, 54, 5, 21, 5, 42, 180, 0, 221, 162, 0, 50, 21, 4, 153, 0, 45, 21, 5]
abbrev dktX0_isBeside_1 : List UInt8 := dkwX0_isBeside_1 ++ dktX0_isBeside_2
def dkwX0_isBeside_0 : List UInt8 := [42, 180, 0, 47, 27, 50, 184, 0, 214, 42, 180, 0, 47, 28, 50, 184, 0, 214, 128, 62, 42, 29]
abbrev dktX0_isBeside_0 : List UInt8 := dkwX0_isBeside_0 ++ dktX0_isBeside_1
theorem dksX0_isBeside_0 : cX0_isBeside.data.toList.drop 0 = dktX0_isBeside_0 := by decide +kernel
theorem dksX0_isBeside_1 : cX0_isBeside.data.toList.drop 22 = dktX0_isBeside_1 := dk_seg dksX0_isBeside_0 22 rfl rfl
theorem dksX0_isBeside_2 : cX0_isBeside.data.toList.drop 46 = dktX0_isBeside_2 := dk_seg dksX0_isBeside_1 24 rfl rfl
theorem dksX0_isBeside_3 : cX0_isBeside.data.toList.drop 70 = dktX0_isBeside_3 := dk_seg dksX0_isBeside_2 24 rfl rfl
theorem dX0_isBeside_0 : decode cX0_isBeside 0 = .ok (.aload_n 0, 1) := dk_42 (dk_at dksX0_isBeside_0 0 rfl rfl)
theorem dX0_isBeside_1 : decode cX0_isBeside 1 = .ok (.getfield 47, 3) := dk_180 0 47 (dk_at dksX0_isBeside_0 1 rfl rfl)
theorem dX0_isBeside_4 : decode cX0_isBeside 4 = .ok (.iload_n 1, 1) := dk_27 (dk_at dksX0_isBeside_0 4 rfl rfl)
theorem dX0_isBeside_5 : decode cX0_isBeside 5 = .ok (.aaload, 1) := dk_50 (dk_at dksX0_isBeside_0 5 rfl rfl)
theorem dX0_isBeside_6 : decode cX0_isBeside 6 = .ok (.invokestatic 214, 3) := dk_184 0 214 (dk_at dksX0_isBeside_0 6 rfl rfl)
theorem dX0_isBeside_9 : decode cX0_isBeside 9 = .ok (.aload_n 0, 1) := dk_42 (dk_at dksX0_isBeside_0 9 rfl rfl)
theorem dX0_isBeside_10 : decode cX0_isBeside 10 = .ok (.getfield 47, 3) := dk_180 0 47 (dk_at dksX0_isBeside_0 10 rfl rfl)
theorem dX0_isBeside_13 : decode cX0_isBeside 13 = .ok (.iload_n 2, 1) := dk_28 (dk_at dksX0_isBeside_0 13 rfl rfl)
theorem dX0_isBeside_14 : decode cX0_isBeside 14 = .ok (.aaload, 1) := dk_50 (dk_at dksX0_isBeside_0 14 rfl rfl)
theorem dX0_isBeside_15 : decode cX0_isBeside 15 = .ok (.invokestatic 214, 3) := dk_184 0 214 (dk_at dksX0_isBeside_0 15 rfl rfl)
theorem dX0_isBeside_18 : decode cX0_isBeside 18 = .ok (.ior, 1) := dk_128 (dk_at dksX0_isBeside_0 18 rfl rfl)
theorem dX0_isBeside_19 : decode cX0_isBeside 19 = .ok (.istore_n 3, 1) := dk_62 (dk_at dksX0_isBeside_0 19 rfl rfl)
theorem dX0_isBeside_20 : decode cX0_isBeside 20 = .ok (.aload_n 0, 1) := dk_42 (dk_at dksX0_isBeside_0 20 rfl rfl)
theorem dX0_isBeside_21 : decode cX0_isBeside 21 = .ok (.iload_n 3, 1) := dk_29 (dk_at dksX0_isBeside_0 21 rfl rfl)
theorem dX0_isBeside_22 : decode cX0_isBeside 22 = .ok (.invokevirtual 218, 3) := dk_182 0 218 (dk_at dksX0_isBeside_1 0 rfl rfl)
theorem dX0_isBeside_25 : decode cX0_isBeside 25 = .ok (.istore 4, 2) := dk_54 4 (dk_at dksX0_isBeside_1 3 rfl rfl)
theorem dX0_isBeside_27 : decode cX0_isBeside 27 = .ok (.iconst 0, 1) := dk_3 (dk_at dksX0_isBeside_1 5 rfl rfl)
theorem dX0_isBeside_28 : decode cX0_isBeside 28 = .ok (.istore 5, 2) := dk_54 5 (dk_at dksX0_isBeside_1 6 rfl rfl)
theorem dX0_isBeside_30 : decode cX0_isBeside 30 = .ok (.iload 5, 2) := dk_21 5 (dk_at dksX0_isBeside_1 8 rfl rfl)
theorem dX0_isBeside_32 : decode cX0_isBeside 32 = .ok (.aload_n 0, 1) := dk_42 (dk_at dksX0_isBeside_1 10 rfl rfl)
theorem dX0_isBeside_33 : decode cX0_isBeside 33 = .ok (.getfield 221, 3) := dk_180 0 221 (dk_at dksX0_isBeside_1 11 rfl rfl)
theorem dX0_isBeside_36 : decode cX0_isBeside 36 = .ok (.if_icmp .ge 50, 3) := dk_162 0 50 (dk_at dksX0_isBeside_1 14 rfl rfl)
theorem dX0_isBeside_39 : decode cX0_isBeside 39 = .ok (.iload 4, 2) := dk_21 4 (dk_at dksX0_isBeside_1 17 rfl rfl)
theorem dX0_isBeside_41 : decode cX0_isBeside 41 = .ok (.ifCond .eq 45, 3) := dk_153 0 45 (dk_at dksX0_isBeside_1 19 rfl rfl)
theorem dX0_isBeside_44 : decode cX0_isBeside 44 = .ok (.iload 5, 2) := dk_21 5 (dk_at dksX0_isBeside_1 22 rfl rfl)
theorem dX0_isBeside_46 : decode cX0_isBeside 46 = .ok (.iload_n 1, 1) := dk_27 (dk_at dksX0_isBeside_2 0 rfl rfl)
theorem dX0_isBeside_47 : decode cX0_isBeside 47 = .ok (.if_icmp .eq 26, 3) := dk_159 0 26 (dk_at dksX0_isBeside_2 1 rfl rfl)
theorem dX0_isBeside_50 : decode cX0_isBeside 50 = .ok (.iload 5, 2) := dk_21 5 (dk_at dksX0_isBeside_2 4 rfl rfl)
theorem dX0_isBeside_52 : decode cX0_isBeside 52 = .ok (.iload_n 2, 1) := dk_28 (dk_at dksX0_isBeside_2 6 rfl rfl)
theorem dX0_isBeside_53 : decode cX0_isBeside 53 = .ok (.if_icmp .eq 20, 3) := dk_159 0 20 (dk_at dksX0_isBeside_2 7 rfl rfl)
theorem dX0_isBeside_56 : decode cX0_isBeside 56 = .ok (.aload_n 0, 1) := dk_42 (dk_at dksX0_isBeside_2 10 rfl rfl)
theorem dX0_isBeside_57 : decode cX0_isBeside 57 = .ok (.getfield 47, 3) := dk_180 0 47 (dk_at dksX0_isBeside_2 11 rfl rfl)
theorem dX0_isBeside_60 : decode cX0_isBeside 60 = .ok (.iload 5, 2) := dk_21 5 (dk_at dksX0_isBeside_2 14 rfl rfl)
theorem dX0_isBeside_62 : decode cX0_isBeside 62 = .ok (.aaload, 1) := dk_50 (dk_at dksX0_isBeside_2 16 rfl rfl)
theorem dX0_isBeside_63 : decode cX0_isBeside 63 = .ok (.invokestatic 214, 3) := dk_184 0 214 (dk_at dksX0_isBeside_2 17 rfl rfl)
theorem dX0_isBeside_66 : decode cX0_isBeside 66 = .ok (.iload_n 3, 1) := dk_29 (dk_at dksX0_isBeside_2 20 rfl rfl)
theorem dX0_isBeside_67 : decode cX0_isBeside 67 = .ok (.iconst (-1), 1) := dk_2 (dk_at dksX0_isBeside_2 21 rfl rfl)
theorem dX0_isBeside_68 : decode cX0_isBeside 68 = .ok (.ixor, 1) := dk_130 (dk_at dksX0_isBeside_2 22 rfl rfl)
theorem dX0_isBeside_69 : decode cX0_isBeside 69 = .ok (.iand, 1) := dk_126 (dk_at dksX0_isBeside_2 23 rfl rfl)
theorem dX0_isBeside_70 : decode cX0_isBeside 70 = .ok (.ifCond .eq 7, 3) := dk_153 0 7 (dk_at dksX0_isBeside_3 0 rfl rfl)
theorem dX0_isBeside_73 : decode cX0_isBeside 73 = .ok (.iconst 1, 1) := dk_4 (dk_at dksX0_isBeside_3 3 rfl rfl)
theorem dX0_isBeside_74 : decode cX0_isBeside 74 = .ok (.goto 4, 3) := dk_167 0 4 (dk_at dksX0_isBeside_3 4 rfl rfl)
theorem dX0_isBeside_77 : decode cX0_isBeside 77 = .ok (.iconst 0, 1) := dk_3 (dk_at dksX0_isBeside_3 7 rfl rfl)
theorem dX0_isBeside_78 : decode cX0_isBeside 78 = .ok (.istore 4, 2) := dk_54 4 (dk_at dksX0_isBeside_3 8 rfl rfl)
theorem dX0_isBeside_80 : decode cX0_isBeside 80 = .ok (.iinc 5 1, 3) := dk_132 5 1 (dk_at dksX0_isBeside_3 10 rfl rfl)
theorem dX0_isBeside_83 : decode cX0_isBeside 83 = .ok (.goto (-53), 3) := dk_167 255 203 (dk_at dksX0_isBeside_3 13 rfl rfl)
theorem dX0_isBeside_86 : decode cX0_isBeside 86 = .ok (.iload 4, 2) := dk_21 4 (dk_at dksX0_isBeside_3 16 rfl rfl)
theorem dX0_isBeside_88 : decode cX0_isBeside 88 = .ok (.ireturn, 1) := dk_172 (dk_at dksX0_isBeside_3 18 rfl rfl)
abbrev cX0_bitsOf : ByteArray := prog_1_method_32_code
def yX0_bitsOf : MethodName := ⟨RX0, "bitsOf", "([J)I"⟩
def dkwX0_bitsOf_1 : List UInt8 := [167, 0, 4, 3, 128, 60, 132, 2, 1, 167, 255, 229, 27, 172]
abbrev dktX0_bitsOf_1 : List UInt8 := dkwX0_bitsOf_1 ++ []
def dkwX0_bitsOf_0 : List UInt8 := [3, 60, 3, 61, 28, 42, 190, 162, 0, 27, 27, 42, 28, 47, 9, 148, 153, 0, 9, 4, 28, 120]
abbrev dktX0_bitsOf_0 : List UInt8 := dkwX0_bitsOf_0 ++ dktX0_bitsOf_1
theorem dksX0_bitsOf_0 : cX0_bitsOf.data.toList.drop 0 = dktX0_bitsOf_0 := by decide +kernel
theorem dksX0_bitsOf_1 : cX0_bitsOf.data.toList.drop 22 = dktX0_bitsOf_1 := dk_seg dksX0_bitsOf_0 22 rfl rfl
theorem dX0_bitsOf_0 : decode cX0_bitsOf 0 = .ok (.iconst 0, 1) := dk_3 (dk_at dksX0_bitsOf_0 0 rfl rfl)
theorem dX0_bitsOf_1 : decode cX0_bitsOf 1 = .ok (.istore_n 1, 1) := dk_60 (dk_at dksX0_bitsOf_0 1 rfl rfl)
theorem dX0_bitsOf_2 : decode cX0_bitsOf 2 = .ok (.iconst 0, 1) := dk_3 (dk_at dksX0_bitsOf_0 2 rfl rfl)
theorem dX0_bitsOf_3 : decode cX0_bitsOf 3 = .ok (.istore_n 2, 1) := dk_61 (dk_at dksX0_bitsOf_0 3 rfl rfl)
theorem dX0_bitsOf_4 : decode cX0_bitsOf 4 = .ok (.iload_n 2, 1) := dk_28 (dk_at dksX0_bitsOf_0 4 rfl rfl)
theorem dX0_bitsOf_5 : decode cX0_bitsOf 5 = .ok (.aload_n 0, 1) := dk_42 (dk_at dksX0_bitsOf_0 5 rfl rfl)
theorem dX0_bitsOf_6 : decode cX0_bitsOf 6 = .ok (.arraylength, 1) := dk_190 (dk_at dksX0_bitsOf_0 6 rfl rfl)
theorem dX0_bitsOf_7 : decode cX0_bitsOf 7 = .ok (.if_icmp .ge 27, 3) := dk_162 0 27 (dk_at dksX0_bitsOf_0 7 rfl rfl)
theorem dX0_bitsOf_10 : decode cX0_bitsOf 10 = .ok (.iload_n 1, 1) := dk_27 (dk_at dksX0_bitsOf_0 10 rfl rfl)
theorem dX0_bitsOf_11 : decode cX0_bitsOf 11 = .ok (.aload_n 0, 1) := dk_42 (dk_at dksX0_bitsOf_0 11 rfl rfl)
theorem dX0_bitsOf_12 : decode cX0_bitsOf 12 = .ok (.iload_n 2, 1) := dk_28 (dk_at dksX0_bitsOf_0 12 rfl rfl)
theorem dX0_bitsOf_13 : decode cX0_bitsOf 13 = .ok (.laload, 1) := dk_47 (dk_at dksX0_bitsOf_0 13 rfl rfl)
theorem dX0_bitsOf_14 : decode cX0_bitsOf 14 = .ok (.lconst 0, 1) := dk_9 (dk_at dksX0_bitsOf_0 14 rfl rfl)
theorem dX0_bitsOf_15 : decode cX0_bitsOf 15 = .ok (.lcmp, 1) := dk_148 (dk_at dksX0_bitsOf_0 15 rfl rfl)
theorem dX0_bitsOf_16 : decode cX0_bitsOf 16 = .ok (.ifCond .eq 9, 3) := dk_153 0 9 (dk_at dksX0_bitsOf_0 16 rfl rfl)
theorem dX0_bitsOf_19 : decode cX0_bitsOf 19 = .ok (.iconst 1, 1) := dk_4 (dk_at dksX0_bitsOf_0 19 rfl rfl)
theorem dX0_bitsOf_20 : decode cX0_bitsOf 20 = .ok (.iload_n 2, 1) := dk_28 (dk_at dksX0_bitsOf_0 20 rfl rfl)
theorem dX0_bitsOf_21 : decode cX0_bitsOf 21 = .ok (.ishl, 1) := dk_120 (dk_at dksX0_bitsOf_0 21 rfl rfl)
theorem dX0_bitsOf_22 : decode cX0_bitsOf 22 = .ok (.goto 4, 3) := dk_167 0 4 (dk_at dksX0_bitsOf_1 0 rfl rfl)
theorem dX0_bitsOf_25 : decode cX0_bitsOf 25 = .ok (.iconst 0, 1) := dk_3 (dk_at dksX0_bitsOf_1 3 rfl rfl)
theorem dX0_bitsOf_26 : decode cX0_bitsOf 26 = .ok (.ior, 1) := dk_128 (dk_at dksX0_bitsOf_1 4 rfl rfl)
theorem dX0_bitsOf_27 : decode cX0_bitsOf 27 = .ok (.istore_n 1, 1) := dk_60 (dk_at dksX0_bitsOf_1 5 rfl rfl)
theorem dX0_bitsOf_28 : decode cX0_bitsOf 28 = .ok (.iinc 2 1, 3) := dk_132 2 1 (dk_at dksX0_bitsOf_1 6 rfl rfl)
theorem dX0_bitsOf_31 : decode cX0_bitsOf 31 = .ok (.goto (-27), 3) := dk_167 255 229 (dk_at dksX0_bitsOf_1 9 rfl rfl)
theorem dX0_bitsOf_34 : decode cX0_bitsOf 34 = .ok (.iload_n 1, 1) := dk_27 (dk_at dksX0_bitsOf_1 12 rfl rfl)
theorem dX0_bitsOf_35 : decode cX0_bitsOf 35 = .ok (.ireturn, 1) := dk_172 (dk_at dksX0_bitsOf_1 13 rfl rfl)
abbrev cX0_isAlone : ByteArray := prog_1_method_33_code
def yX0_isAlone : MethodName := ⟨RX0, "isAlone", "(I)Z"⟩
def dkwX0_isAlone_1 : List UInt8 := [184, 0, 199, 5, 162, 0, 7, 4, 167, 0, 4, 3, 126, 61, 132, 3, 1, 167, 255, 219, 28, 172]
abbrev dktX0_isAlone_1 : List UInt8 := dkwX0_isAlone_1 ++ []
def dkwX0_isAlone_0 : List UInt8 := [4, 61, 3, 62, 29, 42, 180, 0, 73, 162, 0, 35, 28, 27, 16, 7, 29, 104, 7, 96, 122, 16, 7, 126]
abbrev dktX0_isAlone_0 : List UInt8 := dkwX0_isAlone_0 ++ dktX0_isAlone_1
theorem dksX0_isAlone_0 : cX0_isAlone.data.toList.drop 0 = dktX0_isAlone_0 := by decide +kernel
theorem dksX0_isAlone_1 : cX0_isAlone.data.toList.drop 24 = dktX0_isAlone_1 := dk_seg dksX0_isAlone_0 24 rfl rfl
theorem dX0_isAlone_0 : decode cX0_isAlone 0 = .ok (.iconst 1, 1) := dk_4 (dk_at dksX0_isAlone_0 0 rfl rfl)
theorem dX0_isAlone_1 : decode cX0_isAlone 1 = .ok (.istore_n 2, 1) := dk_61 (dk_at dksX0_isAlone_0 1 rfl rfl)
theorem dX0_isAlone_2 : decode cX0_isAlone 2 = .ok (.iconst 0, 1) := dk_3 (dk_at dksX0_isAlone_0 2 rfl rfl)
theorem dX0_isAlone_3 : decode cX0_isAlone 3 = .ok (.istore_n 3, 1) := dk_62 (dk_at dksX0_isAlone_0 3 rfl rfl)
theorem dX0_isAlone_4 : decode cX0_isAlone 4 = .ok (.iload_n 3, 1) := dk_29 (dk_at dksX0_isAlone_0 4 rfl rfl)
theorem dX0_isAlone_5 : decode cX0_isAlone 5 = .ok (.aload_n 0, 1) := dk_42 (dk_at dksX0_isAlone_0 5 rfl rfl)
theorem dX0_isAlone_6 : decode cX0_isAlone 6 = .ok (.getfield 73, 3) := dk_180 0 73 (dk_at dksX0_isAlone_0 6 rfl rfl)
theorem dX0_isAlone_9 : decode cX0_isAlone 9 = .ok (.if_icmp .ge 35, 3) := dk_162 0 35 (dk_at dksX0_isAlone_0 9 rfl rfl)
theorem dX0_isAlone_12 : decode cX0_isAlone 12 = .ok (.iload_n 2, 1) := dk_28 (dk_at dksX0_isAlone_0 12 rfl rfl)
theorem dX0_isAlone_13 : decode cX0_isAlone 13 = .ok (.iload_n 1, 1) := dk_27 (dk_at dksX0_isAlone_0 13 rfl rfl)
theorem dX0_isAlone_14 : decode cX0_isAlone 14 = .ok (.bipush 7, 2) := dk_16 7 (dk_at dksX0_isAlone_0 14 rfl rfl)
theorem dX0_isAlone_16 : decode cX0_isAlone 16 = .ok (.iload_n 3, 1) := dk_29 (dk_at dksX0_isAlone_0 16 rfl rfl)
theorem dX0_isAlone_17 : decode cX0_isAlone 17 = .ok (.imul, 1) := dk_104 (dk_at dksX0_isAlone_0 17 rfl rfl)
theorem dX0_isAlone_18 : decode cX0_isAlone 18 = .ok (.iconst 4, 1) := dk_7 (dk_at dksX0_isAlone_0 18 rfl rfl)
theorem dX0_isAlone_19 : decode cX0_isAlone 19 = .ok (.iadd, 1) := dk_96 (dk_at dksX0_isAlone_0 19 rfl rfl)
theorem dX0_isAlone_20 : decode cX0_isAlone 20 = .ok (.ishr, 1) := dk_122 (dk_at dksX0_isAlone_0 20 rfl rfl)
theorem dX0_isAlone_21 : decode cX0_isAlone 21 = .ok (.bipush 7, 2) := dk_16 7 (dk_at dksX0_isAlone_0 21 rfl rfl)
theorem dX0_isAlone_23 : decode cX0_isAlone 23 = .ok (.iand, 1) := dk_126 (dk_at dksX0_isAlone_0 23 rfl rfl)
theorem dX0_isAlone_24 : decode cX0_isAlone 24 = .ok (.invokestatic 199, 3) := dk_184 0 199 (dk_at dksX0_isAlone_1 0 rfl rfl)
theorem dX0_isAlone_27 : decode cX0_isAlone 27 = .ok (.iconst 2, 1) := dk_5 (dk_at dksX0_isAlone_1 3 rfl rfl)
theorem dX0_isAlone_28 : decode cX0_isAlone 28 = .ok (.if_icmp .ge 7, 3) := dk_162 0 7 (dk_at dksX0_isAlone_1 4 rfl rfl)
theorem dX0_isAlone_31 : decode cX0_isAlone 31 = .ok (.iconst 1, 1) := dk_4 (dk_at dksX0_isAlone_1 7 rfl rfl)
theorem dX0_isAlone_32 : decode cX0_isAlone 32 = .ok (.goto 4, 3) := dk_167 0 4 (dk_at dksX0_isAlone_1 8 rfl rfl)
theorem dX0_isAlone_35 : decode cX0_isAlone 35 = .ok (.iconst 0, 1) := dk_3 (dk_at dksX0_isAlone_1 11 rfl rfl)
theorem dX0_isAlone_36 : decode cX0_isAlone 36 = .ok (.iand, 1) := dk_126 (dk_at dksX0_isAlone_1 12 rfl rfl)
theorem dX0_isAlone_37 : decode cX0_isAlone 37 = .ok (.istore_n 2, 1) := dk_61 (dk_at dksX0_isAlone_1 13 rfl rfl)
theorem dX0_isAlone_38 : decode cX0_isAlone 38 = .ok (.iinc 3 1, 3) := dk_132 3 1 (dk_at dksX0_isAlone_1 14 rfl rfl)
theorem dX0_isAlone_41 : decode cX0_isAlone 41 = .ok (.goto (-37), 3) := dk_167 255 219 (dk_at dksX0_isAlone_1 17 rfl rfl)
theorem dX0_isAlone_44 : decode cX0_isAlone 44 = .ok (.iload_n 2, 1) := dk_28 (dk_at dksX0_isAlone_1 20 rfl rfl)
theorem dX0_isAlone_45 : decode cX0_isAlone 45 = .ok (.ireturn, 1) := dk_172 (dk_at dksX0_isAlone_1 21 rfl rfl)
abbrev cX0_grown : ByteArray := prog_1_method_31_code
def yX0_grown : MethodName := ⟨RX0, "grown", "([JJ[JJ)[J"⟩
def dkwX0_grown_4 : List UInt8 := [22, 7, 109, 80, 132, 9, 1, 167, 255, 235, 25, 6, 176]
abbrev dktX0_grown_4 : List UInt8 := dkwX0_grown_4 ++ []
def dkwX0_grown_3 : List UInt8 := [132, 9, 1, 167, 255, 194, 3, 54, 9, 21, 9, 25, 6, 190, 162, 0, 19, 25, 6, 21, 9, 92, 47]
abbrev dktX0_grown_3 : List UInt8 := dkwX0_grown_3 ++ dktX0_grown_4
def dkwX0_grown_2 : List UInt8 := [9, 148, 153, 0, 21, 22, 7, 22, 10, 113, 55, 12, 22, 10, 55, 7, 22, 12, 55, 10, 167, 255, 234]
abbrev dktX0_grown_2 : List UInt8 := dkwX0_grown_2 ++ dktX0_grown_3
def dkwX0_grown_1 : List UInt8 := [42, 21, 9, 47, 31, 105, 45, 21, 9, 47, 22, 4, 105, 97, 80, 25, 6, 21, 9, 47, 55, 10, 22, 10]
abbrev dktX0_grown_1 : List UInt8 := dkwX0_grown_1 ++ dktX0_grown_2
def dkwX0_grown_0 : List UInt8 := [42, 190, 188, 11, 58, 6, 9, 55, 7, 3, 54, 9, 21, 9, 25, 6, 190, 162, 0, 60, 25, 6, 21, 9]
abbrev dktX0_grown_0 : List UInt8 := dkwX0_grown_0 ++ dktX0_grown_1
theorem dksX0_grown_0 : cX0_grown.data.toList.drop 0 = dktX0_grown_0 := by decide +kernel
theorem dksX0_grown_1 : cX0_grown.data.toList.drop 24 = dktX0_grown_1 := dk_seg dksX0_grown_0 24 rfl rfl
theorem dksX0_grown_2 : cX0_grown.data.toList.drop 48 = dktX0_grown_2 := dk_seg dksX0_grown_1 24 rfl rfl
theorem dksX0_grown_3 : cX0_grown.data.toList.drop 71 = dktX0_grown_3 := dk_seg dksX0_grown_2 23 rfl rfl
theorem dksX0_grown_4 : cX0_grown.data.toList.drop 94 = dktX0_grown_4 := dk_seg dksX0_grown_3 23 rfl rfl
theorem dX0_grown_0 : decode cX0_grown 0 = .ok (.aload_n 0, 1) := dk_42 (dk_at dksX0_grown_0 0 rfl rfl)
theorem dX0_grown_1 : decode cX0_grown 1 = .ok (.arraylength, 1) := dk_190 (dk_at dksX0_grown_0 1 rfl rfl)
theorem dX0_grown_2 : decode cX0_grown 2 = .ok (.newarray .long, 2) := dk_188_11 (dk_at dksX0_grown_0 2 rfl rfl)
theorem dX0_grown_4 : decode cX0_grown 4 = .ok (.astore 6, 2) := dk_58 6 (dk_at dksX0_grown_0 4 rfl rfl)
theorem dX0_grown_6 : decode cX0_grown 6 = .ok (.lconst 0, 1) := dk_9 (dk_at dksX0_grown_0 6 rfl rfl)
theorem dX0_grown_7 : decode cX0_grown 7 = .ok (.lstore 7, 2) := dk_55 7 (dk_at dksX0_grown_0 7 rfl rfl)
theorem dX0_grown_9 : decode cX0_grown 9 = .ok (.iconst 0, 1) := dk_3 (dk_at dksX0_grown_0 9 rfl rfl)
theorem dX0_grown_10 : decode cX0_grown 10 = .ok (.istore 9, 2) := dk_54 9 (dk_at dksX0_grown_0 10 rfl rfl)
theorem dX0_grown_12 : decode cX0_grown 12 = .ok (.iload 9, 2) := dk_21 9 (dk_at dksX0_grown_0 12 rfl rfl)
theorem dX0_grown_14 : decode cX0_grown 14 = .ok (.aload 6, 2) := dk_25 6 (dk_at dksX0_grown_0 14 rfl rfl)
theorem dX0_grown_16 : decode cX0_grown 16 = .ok (.arraylength, 1) := dk_190 (dk_at dksX0_grown_0 16 rfl rfl)
theorem dX0_grown_17 : decode cX0_grown 17 = .ok (.if_icmp .ge 60, 3) := dk_162 0 60 (dk_at dksX0_grown_0 17 rfl rfl)
theorem dX0_grown_20 : decode cX0_grown 20 = .ok (.aload 6, 2) := dk_25 6 (dk_at dksX0_grown_0 20 rfl rfl)
theorem dX0_grown_22 : decode cX0_grown 22 = .ok (.iload 9, 2) := dk_21 9 (dk_at dksX0_grown_0 22 rfl rfl)
theorem dX0_grown_24 : decode cX0_grown 24 = .ok (.aload_n 0, 1) := dk_42 (dk_at dksX0_grown_1 0 rfl rfl)
theorem dX0_grown_25 : decode cX0_grown 25 = .ok (.iload 9, 2) := dk_21 9 (dk_at dksX0_grown_1 1 rfl rfl)
theorem dX0_grown_27 : decode cX0_grown 27 = .ok (.laload, 1) := dk_47 (dk_at dksX0_grown_1 3 rfl rfl)
theorem dX0_grown_28 : decode cX0_grown 28 = .ok (.lload_n 1, 1) := dk_31 (dk_at dksX0_grown_1 4 rfl rfl)
theorem dX0_grown_29 : decode cX0_grown 29 = .ok (.lmul, 1) := dk_105 (dk_at dksX0_grown_1 5 rfl rfl)
theorem dX0_grown_30 : decode cX0_grown 30 = .ok (.aload_n 3, 1) := dk_45 (dk_at dksX0_grown_1 6 rfl rfl)
theorem dX0_grown_31 : decode cX0_grown 31 = .ok (.iload 9, 2) := dk_21 9 (dk_at dksX0_grown_1 7 rfl rfl)
theorem dX0_grown_33 : decode cX0_grown 33 = .ok (.laload, 1) := dk_47 (dk_at dksX0_grown_1 9 rfl rfl)
theorem dX0_grown_34 : decode cX0_grown 34 = .ok (.lload 4, 2) := dk_22 4 (dk_at dksX0_grown_1 10 rfl rfl)
theorem dX0_grown_36 : decode cX0_grown 36 = .ok (.lmul, 1) := dk_105 (dk_at dksX0_grown_1 12 rfl rfl)
theorem dX0_grown_37 : decode cX0_grown 37 = .ok (.ladd, 1) := dk_97 (dk_at dksX0_grown_1 13 rfl rfl)
theorem dX0_grown_38 : decode cX0_grown 38 = .ok (.lastore, 1) := dk_80 (dk_at dksX0_grown_1 14 rfl rfl)
theorem dX0_grown_39 : decode cX0_grown 39 = .ok (.aload 6, 2) := dk_25 6 (dk_at dksX0_grown_1 15 rfl rfl)
theorem dX0_grown_41 : decode cX0_grown 41 = .ok (.iload 9, 2) := dk_21 9 (dk_at dksX0_grown_1 17 rfl rfl)
theorem dX0_grown_43 : decode cX0_grown 43 = .ok (.laload, 1) := dk_47 (dk_at dksX0_grown_1 19 rfl rfl)
theorem dX0_grown_44 : decode cX0_grown 44 = .ok (.lstore 10, 2) := dk_55 10 (dk_at dksX0_grown_1 20 rfl rfl)
theorem dX0_grown_46 : decode cX0_grown 46 = .ok (.lload 10, 2) := dk_22 10 (dk_at dksX0_grown_1 22 rfl rfl)
theorem dX0_grown_48 : decode cX0_grown 48 = .ok (.lconst 0, 1) := dk_9 (dk_at dksX0_grown_2 0 rfl rfl)
theorem dX0_grown_49 : decode cX0_grown 49 = .ok (.lcmp, 1) := dk_148 (dk_at dksX0_grown_2 1 rfl rfl)
theorem dX0_grown_50 : decode cX0_grown 50 = .ok (.ifCond .eq 21, 3) := dk_153 0 21 (dk_at dksX0_grown_2 2 rfl rfl)
theorem dX0_grown_53 : decode cX0_grown 53 = .ok (.lload 7, 2) := dk_22 7 (dk_at dksX0_grown_2 5 rfl rfl)
theorem dX0_grown_55 : decode cX0_grown 55 = .ok (.lload 10, 2) := dk_22 10 (dk_at dksX0_grown_2 7 rfl rfl)
theorem dX0_grown_57 : decode cX0_grown 57 = .ok (.lrem, 1) := dk_113 (dk_at dksX0_grown_2 9 rfl rfl)
theorem dX0_grown_58 : decode cX0_grown 58 = .ok (.lstore 12, 2) := dk_55 12 (dk_at dksX0_grown_2 10 rfl rfl)
theorem dX0_grown_60 : decode cX0_grown 60 = .ok (.lload 10, 2) := dk_22 10 (dk_at dksX0_grown_2 12 rfl rfl)
theorem dX0_grown_62 : decode cX0_grown 62 = .ok (.lstore 7, 2) := dk_55 7 (dk_at dksX0_grown_2 14 rfl rfl)
theorem dX0_grown_64 : decode cX0_grown 64 = .ok (.lload 12, 2) := dk_22 12 (dk_at dksX0_grown_2 16 rfl rfl)
theorem dX0_grown_66 : decode cX0_grown 66 = .ok (.lstore 10, 2) := dk_55 10 (dk_at dksX0_grown_2 18 rfl rfl)
theorem dX0_grown_68 : decode cX0_grown 68 = .ok (.goto (-22), 3) := dk_167 255 234 (dk_at dksX0_grown_2 20 rfl rfl)
theorem dX0_grown_71 : decode cX0_grown 71 = .ok (.iinc 9 1, 3) := dk_132 9 1 (dk_at dksX0_grown_3 0 rfl rfl)
theorem dX0_grown_74 : decode cX0_grown 74 = .ok (.goto (-62), 3) := dk_167 255 194 (dk_at dksX0_grown_3 3 rfl rfl)
theorem dX0_grown_77 : decode cX0_grown 77 = .ok (.iconst 0, 1) := dk_3 (dk_at dksX0_grown_3 6 rfl rfl)
theorem dX0_grown_78 : decode cX0_grown 78 = .ok (.istore 9, 2) := dk_54 9 (dk_at dksX0_grown_3 7 rfl rfl)
theorem dX0_grown_80 : decode cX0_grown 80 = .ok (.iload 9, 2) := dk_21 9 (dk_at dksX0_grown_3 9 rfl rfl)
theorem dX0_grown_82 : decode cX0_grown 82 = .ok (.aload 6, 2) := dk_25 6 (dk_at dksX0_grown_3 11 rfl rfl)
theorem dX0_grown_84 : decode cX0_grown 84 = .ok (.arraylength, 1) := dk_190 (dk_at dksX0_grown_3 13 rfl rfl)
theorem dX0_grown_85 : decode cX0_grown 85 = .ok (.if_icmp .ge 19, 3) := dk_162 0 19 (dk_at dksX0_grown_3 14 rfl rfl)
theorem dX0_grown_88 : decode cX0_grown 88 = .ok (.aload 6, 2) := dk_25 6 (dk_at dksX0_grown_3 17 rfl rfl)
theorem dX0_grown_90 : decode cX0_grown 90 = .ok (.iload 9, 2) := dk_21 9 (dk_at dksX0_grown_3 19 rfl rfl)
theorem dX0_grown_92 : decode cX0_grown 92 = .ok (.dup2, 1) := dk_92 (dk_at dksX0_grown_3 21 rfl rfl)
theorem dX0_grown_93 : decode cX0_grown 93 = .ok (.laload, 1) := dk_47 (dk_at dksX0_grown_3 22 rfl rfl)
theorem dX0_grown_94 : decode cX0_grown 94 = .ok (.lload 7, 2) := dk_22 7 (dk_at dksX0_grown_4 0 rfl rfl)
theorem dX0_grown_96 : decode cX0_grown 96 = .ok (.ldiv, 1) := dk_109 (dk_at dksX0_grown_4 2 rfl rfl)
theorem dX0_grown_97 : decode cX0_grown 97 = .ok (.lastore, 1) := dk_80 (dk_at dksX0_grown_4 3 rfl rfl)
theorem dX0_grown_98 : decode cX0_grown 98 = .ok (.iinc 9 1, 3) := dk_132 9 1 (dk_at dksX0_grown_4 4 rfl rfl)
theorem dX0_grown_101 : decode cX0_grown 101 = .ok (.goto (-21), 3) := dk_167 255 235 (dk_at dksX0_grown_4 7 rfl rfl)
theorem dX0_grown_104 : decode cX0_grown 104 = .ok (.aload 6, 2) := dk_25 6 (dk_at dksX0_grown_4 10 rfl rfl)
theorem dX0_grown_106 : decode cX0_grown 106 = .ok (.areturn, 1) := dk_176 (dk_at dksX0_grown_4 12 rfl rfl)
abbrev cX0_isLess : ByteArray := prog_1_method_38_code
def yX0_isLess : MethodName := ⟨RX0, "isLess", "([J[J)Z"⟩
def dkwX0_isLess_1 : List UInt8 := [28, 42, 190, 162, 0, 17, 42, 28, 47, 43, 28, 47, 148, 156, 0, 7, 4, 167, 0, 4, 3, 172]
abbrev dktX0_isLess_1 : List UInt8 := dkwX0_isLess_1 ++ []
def dkwX0_isLess_0 : List UInt8 := [3, 61, 28, 42, 190, 162, 0, 19, 42, 28, 47, 43, 28, 47, 148, 154, 0, 9, 132, 2, 1, 167, 255, 237]
abbrev dktX0_isLess_0 : List UInt8 := dkwX0_isLess_0 ++ dktX0_isLess_1
theorem dksX0_isLess_0 : cX0_isLess.data.toList.drop 0 = dktX0_isLess_0 := by decide +kernel
theorem dksX0_isLess_1 : cX0_isLess.data.toList.drop 24 = dktX0_isLess_1 := dk_seg dksX0_isLess_0 24 rfl rfl
theorem dX0_isLess_0 : decode cX0_isLess 0 = .ok (.iconst 0, 1) := dk_3 (dk_at dksX0_isLess_0 0 rfl rfl)
theorem dX0_isLess_1 : decode cX0_isLess 1 = .ok (.istore_n 2, 1) := dk_61 (dk_at dksX0_isLess_0 1 rfl rfl)
theorem dX0_isLess_2 : decode cX0_isLess 2 = .ok (.iload_n 2, 1) := dk_28 (dk_at dksX0_isLess_0 2 rfl rfl)
theorem dX0_isLess_3 : decode cX0_isLess 3 = .ok (.aload_n 0, 1) := dk_42 (dk_at dksX0_isLess_0 3 rfl rfl)
theorem dX0_isLess_4 : decode cX0_isLess 4 = .ok (.arraylength, 1) := dk_190 (dk_at dksX0_isLess_0 4 rfl rfl)
theorem dX0_isLess_5 : decode cX0_isLess 5 = .ok (.if_icmp .ge 19, 3) := dk_162 0 19 (dk_at dksX0_isLess_0 5 rfl rfl)
theorem dX0_isLess_8 : decode cX0_isLess 8 = .ok (.aload_n 0, 1) := dk_42 (dk_at dksX0_isLess_0 8 rfl rfl)
theorem dX0_isLess_9 : decode cX0_isLess 9 = .ok (.iload_n 2, 1) := dk_28 (dk_at dksX0_isLess_0 9 rfl rfl)
theorem dX0_isLess_10 : decode cX0_isLess 10 = .ok (.laload, 1) := dk_47 (dk_at dksX0_isLess_0 10 rfl rfl)
theorem dX0_isLess_11 : decode cX0_isLess 11 = .ok (.aload_n 1, 1) := dk_43 (dk_at dksX0_isLess_0 11 rfl rfl)
theorem dX0_isLess_12 : decode cX0_isLess 12 = .ok (.iload_n 2, 1) := dk_28 (dk_at dksX0_isLess_0 12 rfl rfl)
theorem dX0_isLess_13 : decode cX0_isLess 13 = .ok (.laload, 1) := dk_47 (dk_at dksX0_isLess_0 13 rfl rfl)
theorem dX0_isLess_14 : decode cX0_isLess 14 = .ok (.lcmp, 1) := dk_148 (dk_at dksX0_isLess_0 14 rfl rfl)
theorem dX0_isLess_15 : decode cX0_isLess 15 = .ok (.ifCond .ne 9, 3) := dk_154 0 9 (dk_at dksX0_isLess_0 15 rfl rfl)
theorem dX0_isLess_18 : decode cX0_isLess 18 = .ok (.iinc 2 1, 3) := dk_132 2 1 (dk_at dksX0_isLess_0 18 rfl rfl)
theorem dX0_isLess_21 : decode cX0_isLess 21 = .ok (.goto (-19), 3) := dk_167 255 237 (dk_at dksX0_isLess_0 21 rfl rfl)
theorem dX0_isLess_24 : decode cX0_isLess 24 = .ok (.iload_n 2, 1) := dk_28 (dk_at dksX0_isLess_1 0 rfl rfl)
theorem dX0_isLess_25 : decode cX0_isLess 25 = .ok (.aload_n 0, 1) := dk_42 (dk_at dksX0_isLess_1 1 rfl rfl)
theorem dX0_isLess_26 : decode cX0_isLess 26 = .ok (.arraylength, 1) := dk_190 (dk_at dksX0_isLess_1 2 rfl rfl)
theorem dX0_isLess_27 : decode cX0_isLess 27 = .ok (.if_icmp .ge 17, 3) := dk_162 0 17 (dk_at dksX0_isLess_1 3 rfl rfl)
theorem dX0_isLess_30 : decode cX0_isLess 30 = .ok (.aload_n 0, 1) := dk_42 (dk_at dksX0_isLess_1 6 rfl rfl)
theorem dX0_isLess_31 : decode cX0_isLess 31 = .ok (.iload_n 2, 1) := dk_28 (dk_at dksX0_isLess_1 7 rfl rfl)
theorem dX0_isLess_32 : decode cX0_isLess 32 = .ok (.laload, 1) := dk_47 (dk_at dksX0_isLess_1 8 rfl rfl)
theorem dX0_isLess_33 : decode cX0_isLess 33 = .ok (.aload_n 1, 1) := dk_43 (dk_at dksX0_isLess_1 9 rfl rfl)
theorem dX0_isLess_34 : decode cX0_isLess 34 = .ok (.iload_n 2, 1) := dk_28 (dk_at dksX0_isLess_1 10 rfl rfl)
theorem dX0_isLess_35 : decode cX0_isLess 35 = .ok (.laload, 1) := dk_47 (dk_at dksX0_isLess_1 11 rfl rfl)
theorem dX0_isLess_36 : decode cX0_isLess 36 = .ok (.lcmp, 1) := dk_148 (dk_at dksX0_isLess_1 12 rfl rfl)
theorem dX0_isLess_37 : decode cX0_isLess 37 = .ok (.ifCond .ge 7, 3) := dk_156 0 7 (dk_at dksX0_isLess_1 13 rfl rfl)
theorem dX0_isLess_40 : decode cX0_isLess 40 = .ok (.iconst 1, 1) := dk_4 (dk_at dksX0_isLess_1 16 rfl rfl)
theorem dX0_isLess_41 : decode cX0_isLess 41 = .ok (.goto 4, 3) := dk_167 0 4 (dk_at dksX0_isLess_1 17 rfl rfl)
theorem dX0_isLess_44 : decode cX0_isLess 44 = .ok (.iconst 0, 1) := dk_3 (dk_at dksX0_isLess_1 20 rfl rfl)
theorem dX0_isLess_45 : decode cX0_isLess 45 = .ok (.ireturn, 1) := dk_172 (dk_at dksX0_isLess_1 21 rfl rfl)
abbrev cX0_number : ByteArray := prog_1_method_42_code
def yX0_number : MethodName := ⟨RX0, "number", "(II)I"⟩
def dkwX0_number_1 : List UInt8 := [180, 0, 47, 27, 50, 28, 47, 136, 167, 0, 5, 16, 254, 172]
abbrev dktX0_number_1 : List UInt8 := dkwX0_number_1 ++ []
def dkwX0_number_0 : List UInt8 := [27, 3, 42, 182, 0, 250, 4, 100, 184, 0, 77, 153, 0, 23, 42, 28, 182, 0, 253, 153, 0, 15, 42]
abbrev dktX0_number_0 : List UInt8 := dkwX0_number_0 ++ dktX0_number_1
theorem dksX0_number_0 : cX0_number.data.toList.drop 0 = dktX0_number_0 := by decide +kernel
theorem dksX0_number_1 : cX0_number.data.toList.drop 23 = dktX0_number_1 := dk_seg dksX0_number_0 23 rfl rfl
theorem dX0_number_0 : decode cX0_number 0 = .ok (.iload_n 1, 1) := dk_27 (dk_at dksX0_number_0 0 rfl rfl)
theorem dX0_number_1 : decode cX0_number 1 = .ok (.iconst 0, 1) := dk_3 (dk_at dksX0_number_0 1 rfl rfl)
theorem dX0_number_2 : decode cX0_number 2 = .ok (.aload_n 0, 1) := dk_42 (dk_at dksX0_number_0 2 rfl rfl)
theorem dX0_number_3 : decode cX0_number 3 = .ok (.invokevirtual 250, 3) := dk_182 0 250 (dk_at dksX0_number_0 3 rfl rfl)
theorem dX0_number_6 : decode cX0_number 6 = .ok (.iconst 1, 1) := dk_4 (dk_at dksX0_number_0 6 rfl rfl)
theorem dX0_number_7 : decode cX0_number 7 = .ok (.isub, 1) := dk_100 (dk_at dksX0_number_0 7 rfl rfl)
theorem dX0_number_8 : decode cX0_number 8 = .ok (.invokestatic 77, 3) := dk_184 0 77 (dk_at dksX0_number_0 8 rfl rfl)
theorem dX0_number_11 : decode cX0_number 11 = .ok (.ifCond .eq 23, 3) := dk_153 0 23 (dk_at dksX0_number_0 11 rfl rfl)
theorem dX0_number_14 : decode cX0_number 14 = .ok (.aload_n 0, 1) := dk_42 (dk_at dksX0_number_0 14 rfl rfl)
theorem dX0_number_15 : decode cX0_number 15 = .ok (.iload_n 2, 1) := dk_28 (dk_at dksX0_number_0 15 rfl rfl)
theorem dX0_number_16 : decode cX0_number 16 = .ok (.invokevirtual 253, 3) := dk_182 0 253 (dk_at dksX0_number_0 16 rfl rfl)
theorem dX0_number_19 : decode cX0_number 19 = .ok (.ifCond .eq 15, 3) := dk_153 0 15 (dk_at dksX0_number_0 19 rfl rfl)
theorem dX0_number_22 : decode cX0_number 22 = .ok (.aload_n 0, 1) := dk_42 (dk_at dksX0_number_0 22 rfl rfl)
theorem dX0_number_23 : decode cX0_number 23 = .ok (.getfield 47, 3) := dk_180 0 47 (dk_at dksX0_number_1 0 rfl rfl)
theorem dX0_number_26 : decode cX0_number 26 = .ok (.iload_n 1, 1) := dk_27 (dk_at dksX0_number_1 3 rfl rfl)
theorem dX0_number_27 : decode cX0_number 27 = .ok (.aaload, 1) := dk_50 (dk_at dksX0_number_1 4 rfl rfl)
theorem dX0_number_28 : decode cX0_number 28 = .ok (.iload_n 2, 1) := dk_28 (dk_at dksX0_number_1 5 rfl rfl)
theorem dX0_number_29 : decode cX0_number 29 = .ok (.laload, 1) := dk_47 (dk_at dksX0_number_1 6 rfl rfl)
theorem dX0_number_30 : decode cX0_number 30 = .ok (.l2i, 1) := dk_136 (dk_at dksX0_number_1 7 rfl rfl)
theorem dX0_number_31 : decode cX0_number 31 = .ok (.goto 5, 3) := dk_167 0 5 (dk_at dksX0_number_1 8 rfl rfl)
theorem dX0_number_34 : decode cX0_number 34 = .ok (.bipush (-2), 2) := dk_16 254 (dk_at dksX0_number_1 11 rfl rfl)
theorem dX0_number_36 : decode cX0_number 36 = .ok (.ireturn, 1) := dk_172 (dk_at dksX0_number_1 13 rfl rfl)
abbrev cX0_isNumber : ByteArray := prog_1_method_41_code
def yX0_isNumber : MethodName := ⟨RX0, "isNumber", "(I)Z"⟩
def dkwX0_isNumber_0 : List UInt8 := [27, 3, 16, 7, 42, 180, 0, 73, 104, 4, 100, 184, 0, 77, 172]
abbrev dktX0_isNumber_0 : List UInt8 := dkwX0_isNumber_0 ++ []
theorem dksX0_isNumber_0 : cX0_isNumber.data.toList.drop 0 = dktX0_isNumber_0 := by decide +kernel
theorem dX0_isNumber_0 : decode cX0_isNumber 0 = .ok (.iload_n 1, 1) := dk_27 (dk_at dksX0_isNumber_0 0 rfl rfl)
theorem dX0_isNumber_1 : decode cX0_isNumber 1 = .ok (.iconst 0, 1) := dk_3 (dk_at dksX0_isNumber_0 1 rfl rfl)
theorem dX0_isNumber_2 : decode cX0_isNumber 2 = .ok (.bipush 7, 2) := dk_16 7 (dk_at dksX0_isNumber_0 2 rfl rfl)
theorem dX0_isNumber_4 : decode cX0_isNumber 4 = .ok (.aload_n 0, 1) := dk_42 (dk_at dksX0_isNumber_0 4 rfl rfl)
theorem dX0_isNumber_5 : decode cX0_isNumber 5 = .ok (.getfield 73, 3) := dk_180 0 73 (dk_at dksX0_isNumber_0 5 rfl rfl)
theorem dX0_isNumber_8 : decode cX0_isNumber 8 = .ok (.imul, 1) := dk_104 (dk_at dksX0_isNumber_0 8 rfl rfl)
theorem dX0_isNumber_9 : decode cX0_isNumber 9 = .ok (.iconst 1, 1) := dk_4 (dk_at dksX0_isNumber_0 9 rfl rfl)
theorem dX0_isNumber_10 : decode cX0_isNumber 10 = .ok (.isub, 1) := dk_100 (dk_at dksX0_isNumber_0 10 rfl rfl)
theorem dX0_isNumber_11 : decode cX0_isNumber 11 = .ok (.invokestatic 77, 3) := dk_184 0 77 (dk_at dksX0_isNumber_0 11 rfl rfl)
theorem dX0_isNumber_14 : decode cX0_isNumber 14 = .ok (.ireturn, 1) := dk_172 (dk_at dksX0_isNumber_0 14 rfl rfl)
abbrev cX0_put : ByteArray := prog_1_method_43_code
def yX0_put : MethodName := ⟨RX0, "put", "(II)I"⟩
def dkwX0_put_1 : List UInt8 := [180, 0, 53, 27, 46, 62, 42, 180, 0, 53, 27, 28, 79, 29, 172]
abbrev dktX0_put_1 : List UInt8 := dkwX0_put_1 ++ []
def dkwX0_put_0 : List UInt8 := [42, 27, 182, 0, 253, 153, 0, 14, 28, 3, 17, 3, 232, 184, 0, 77, 154, 0, 6, 16, 254, 172, 42]
abbrev dktX0_put_0 : List UInt8 := dkwX0_put_0 ++ dktX0_put_1
theorem dksX0_put_0 : cX0_put.data.toList.drop 0 = dktX0_put_0 := by decide +kernel
theorem dksX0_put_1 : cX0_put.data.toList.drop 23 = dktX0_put_1 := dk_seg dksX0_put_0 23 rfl rfl
theorem dX0_put_0 : decode cX0_put 0 = .ok (.aload_n 0, 1) := dk_42 (dk_at dksX0_put_0 0 rfl rfl)
theorem dX0_put_1 : decode cX0_put 1 = .ok (.iload_n 1, 1) := dk_27 (dk_at dksX0_put_0 1 rfl rfl)
theorem dX0_put_2 : decode cX0_put 2 = .ok (.invokevirtual 253, 3) := dk_182 0 253 (dk_at dksX0_put_0 2 rfl rfl)
theorem dX0_put_5 : decode cX0_put 5 = .ok (.ifCond .eq 14, 3) := dk_153 0 14 (dk_at dksX0_put_0 5 rfl rfl)
theorem dX0_put_8 : decode cX0_put 8 = .ok (.iload_n 2, 1) := dk_28 (dk_at dksX0_put_0 8 rfl rfl)
theorem dX0_put_9 : decode cX0_put 9 = .ok (.iconst 0, 1) := dk_3 (dk_at dksX0_put_0 9 rfl rfl)
theorem dX0_put_10 : decode cX0_put 10 = .ok (.sipush 1000, 3) := dk_17 3 232 (dk_at dksX0_put_0 10 rfl rfl)
theorem dX0_put_13 : decode cX0_put 13 = .ok (.invokestatic 77, 3) := dk_184 0 77 (dk_at dksX0_put_0 13 rfl rfl)
theorem dX0_put_16 : decode cX0_put 16 = .ok (.ifCond .ne 6, 3) := dk_154 0 6 (dk_at dksX0_put_0 16 rfl rfl)
theorem dX0_put_19 : decode cX0_put 19 = .ok (.bipush (-2), 2) := dk_16 254 (dk_at dksX0_put_0 19 rfl rfl)
theorem dX0_put_21 : decode cX0_put 21 = .ok (.ireturn, 1) := dk_172 (dk_at dksX0_put_0 21 rfl rfl)
theorem dX0_put_22 : decode cX0_put 22 = .ok (.aload_n 0, 1) := dk_42 (dk_at dksX0_put_0 22 rfl rfl)
theorem dX0_put_23 : decode cX0_put 23 = .ok (.getfield 53, 3) := dk_180 0 53 (dk_at dksX0_put_1 0 rfl rfl)
theorem dX0_put_26 : decode cX0_put 26 = .ok (.iload_n 1, 1) := dk_27 (dk_at dksX0_put_1 3 rfl rfl)
theorem dX0_put_27 : decode cX0_put 27 = .ok (.iaload, 1) := dk_46 (dk_at dksX0_put_1 4 rfl rfl)
theorem dX0_put_28 : decode cX0_put 28 = .ok (.istore_n 3, 1) := dk_62 (dk_at dksX0_put_1 5 rfl rfl)
theorem dX0_put_29 : decode cX0_put 29 = .ok (.aload_n 0, 1) := dk_42 (dk_at dksX0_put_1 6 rfl rfl)
theorem dX0_put_30 : decode cX0_put 30 = .ok (.getfield 53, 3) := dk_180 0 53 (dk_at dksX0_put_1 7 rfl rfl)
theorem dX0_put_33 : decode cX0_put 33 = .ok (.iload_n 1, 1) := dk_27 (dk_at dksX0_put_1 10 rfl rfl)
theorem dX0_put_34 : decode cX0_put 34 = .ok (.iload_n 2, 1) := dk_28 (dk_at dksX0_put_1 11 rfl rfl)
theorem dX0_put_35 : decode cX0_put 35 = .ok (.iastore, 1) := dk_79 (dk_at dksX0_put_1 12 rfl rfl)
theorem dX0_put_36 : decode cX0_put 36 = .ok (.iload_n 3, 1) := dk_29 (dk_at dksX0_put_1 13 rfl rfl)
theorem dX0_put_37 : decode cX0_put 37 = .ok (.ireturn, 1) := dk_172 (dk_at dksX0_put_1 14 rfl rfl)
abbrev cX0_add : ByteArray := prog_1_method_44_code
def yX0_add : MethodName := ⟨RX0, "add", "(II)I"⟩
def dkwX0_add_4 : List UInt8 := [42, 180, 0, 47, 27, 50, 29, 47, 136, 104, 96, 79, 132, 3, 1, 167, 255, 222, 4, 172]
abbrev dktX0_add_4 : List UInt8 := dkwX0_add_4 ++ []
def dkwX0_add_3 : List UInt8 := [167, 255, 213, 3, 62, 29, 16, 7, 42, 180, 0, 73, 104, 162, 0, 29, 42, 180, 0, 53, 29, 92, 46, 28]
abbrev dktX0_add_3 : List UInt8 := dkwX0_add_3 ++ dktX0_add_4
def dkwX0_add_2 : List UInt8 := [133, 42, 180, 0, 47, 27, 50, 29, 47, 105, 97, 20, 1, 0, 148, 158, 0, 6, 16, 252, 172, 132, 3, 1]
abbrev dktX0_add_2 : List UInt8 := dkwX0_add_2 ++ dktX0_add_3
def dkwX0_add_1 : List UInt8 := [16, 254, 172, 3, 62, 29, 16, 7, 42, 180, 0, 73, 104, 162, 0, 38, 42, 180, 0, 53, 29, 46, 133, 28]
abbrev dktX0_add_1 : List UInt8 := dkwX0_add_1 ++ dktX0_add_2
def dkwX0_add_0 : List UInt8 := [27, 3, 42, 182, 0, 250, 4, 100, 184, 0, 77, 153, 0, 13, 28, 3, 16, 100, 184, 0, 77, 154, 0, 6]
abbrev dktX0_add_0 : List UInt8 := dkwX0_add_0 ++ dktX0_add_1
theorem dksX0_add_0 : cX0_add.data.toList.drop 0 = dktX0_add_0 := by decide +kernel
theorem dksX0_add_1 : cX0_add.data.toList.drop 24 = dktX0_add_1 := dk_seg dksX0_add_0 24 rfl rfl
theorem dksX0_add_2 : cX0_add.data.toList.drop 48 = dktX0_add_2 := dk_seg dksX0_add_1 24 rfl rfl
theorem dksX0_add_3 : cX0_add.data.toList.drop 72 = dktX0_add_3 := dk_seg dksX0_add_2 24 rfl rfl
theorem dksX0_add_4 : cX0_add.data.toList.drop 96 = dktX0_add_4 := dk_seg dksX0_add_3 24 rfl rfl
theorem dX0_add_0 : decode cX0_add 0 = .ok (.iload_n 1, 1) := dk_27 (dk_at dksX0_add_0 0 rfl rfl)
theorem dX0_add_1 : decode cX0_add 1 = .ok (.iconst 0, 1) := dk_3 (dk_at dksX0_add_0 1 rfl rfl)
theorem dX0_add_2 : decode cX0_add 2 = .ok (.aload_n 0, 1) := dk_42 (dk_at dksX0_add_0 2 rfl rfl)
theorem dX0_add_3 : decode cX0_add 3 = .ok (.invokevirtual 250, 3) := dk_182 0 250 (dk_at dksX0_add_0 3 rfl rfl)
theorem dX0_add_6 : decode cX0_add 6 = .ok (.iconst 1, 1) := dk_4 (dk_at dksX0_add_0 6 rfl rfl)
theorem dX0_add_7 : decode cX0_add 7 = .ok (.isub, 1) := dk_100 (dk_at dksX0_add_0 7 rfl rfl)
theorem dX0_add_8 : decode cX0_add 8 = .ok (.invokestatic 77, 3) := dk_184 0 77 (dk_at dksX0_add_0 8 rfl rfl)
theorem dX0_add_11 : decode cX0_add 11 = .ok (.ifCond .eq 13, 3) := dk_153 0 13 (dk_at dksX0_add_0 11 rfl rfl)
theorem dX0_add_14 : decode cX0_add 14 = .ok (.iload_n 2, 1) := dk_28 (dk_at dksX0_add_0 14 rfl rfl)
theorem dX0_add_15 : decode cX0_add 15 = .ok (.iconst 0, 1) := dk_3 (dk_at dksX0_add_0 15 rfl rfl)
theorem dX0_add_16 : decode cX0_add 16 = .ok (.bipush 100, 2) := dk_16 100 (dk_at dksX0_add_0 16 rfl rfl)
theorem dX0_add_18 : decode cX0_add 18 = .ok (.invokestatic 77, 3) := dk_184 0 77 (dk_at dksX0_add_0 18 rfl rfl)
theorem dX0_add_21 : decode cX0_add 21 = .ok (.ifCond .ne 6, 3) := dk_154 0 6 (dk_at dksX0_add_0 21 rfl rfl)
theorem dX0_add_24 : decode cX0_add 24 = .ok (.bipush (-2), 2) := dk_16 254 (dk_at dksX0_add_1 0 rfl rfl)
theorem dX0_add_26 : decode cX0_add 26 = .ok (.ireturn, 1) := dk_172 (dk_at dksX0_add_1 2 rfl rfl)
theorem dX0_add_27 : decode cX0_add 27 = .ok (.iconst 0, 1) := dk_3 (dk_at dksX0_add_1 3 rfl rfl)
theorem dX0_add_28 : decode cX0_add 28 = .ok (.istore_n 3, 1) := dk_62 (dk_at dksX0_add_1 4 rfl rfl)
theorem dX0_add_29 : decode cX0_add 29 = .ok (.iload_n 3, 1) := dk_29 (dk_at dksX0_add_1 5 rfl rfl)
theorem dX0_add_30 : decode cX0_add 30 = .ok (.bipush 7, 2) := dk_16 7 (dk_at dksX0_add_1 6 rfl rfl)
theorem dX0_add_32 : decode cX0_add 32 = .ok (.aload_n 0, 1) := dk_42 (dk_at dksX0_add_1 8 rfl rfl)
theorem dX0_add_33 : decode cX0_add 33 = .ok (.getfield 73, 3) := dk_180 0 73 (dk_at dksX0_add_1 9 rfl rfl)
theorem dX0_add_36 : decode cX0_add 36 = .ok (.imul, 1) := dk_104 (dk_at dksX0_add_1 12 rfl rfl)
theorem dX0_add_37 : decode cX0_add 37 = .ok (.if_icmp .ge 38, 3) := dk_162 0 38 (dk_at dksX0_add_1 13 rfl rfl)
theorem dX0_add_40 : decode cX0_add 40 = .ok (.aload_n 0, 1) := dk_42 (dk_at dksX0_add_1 16 rfl rfl)
theorem dX0_add_41 : decode cX0_add 41 = .ok (.getfield 53, 3) := dk_180 0 53 (dk_at dksX0_add_1 17 rfl rfl)
theorem dX0_add_44 : decode cX0_add 44 = .ok (.iload_n 3, 1) := dk_29 (dk_at dksX0_add_1 20 rfl rfl)
theorem dX0_add_45 : decode cX0_add 45 = .ok (.iaload, 1) := dk_46 (dk_at dksX0_add_1 21 rfl rfl)
theorem dX0_add_46 : decode cX0_add 46 = .ok (.i2l, 1) := dk_133 (dk_at dksX0_add_1 22 rfl rfl)
theorem dX0_add_47 : decode cX0_add 47 = .ok (.iload_n 2, 1) := dk_28 (dk_at dksX0_add_1 23 rfl rfl)
theorem dX0_add_48 : decode cX0_add 48 = .ok (.i2l, 1) := dk_133 (dk_at dksX0_add_2 0 rfl rfl)
theorem dX0_add_49 : decode cX0_add 49 = .ok (.aload_n 0, 1) := dk_42 (dk_at dksX0_add_2 1 rfl rfl)
theorem dX0_add_50 : decode cX0_add 50 = .ok (.getfield 47, 3) := dk_180 0 47 (dk_at dksX0_add_2 2 rfl rfl)
theorem dX0_add_53 : decode cX0_add 53 = .ok (.iload_n 1, 1) := dk_27 (dk_at dksX0_add_2 5 rfl rfl)
theorem dX0_add_54 : decode cX0_add 54 = .ok (.aaload, 1) := dk_50 (dk_at dksX0_add_2 6 rfl rfl)
theorem dX0_add_55 : decode cX0_add 55 = .ok (.iload_n 3, 1) := dk_29 (dk_at dksX0_add_2 7 rfl rfl)
theorem dX0_add_56 : decode cX0_add 56 = .ok (.laload, 1) := dk_47 (dk_at dksX0_add_2 8 rfl rfl)
theorem dX0_add_57 : decode cX0_add 57 = .ok (.lmul, 1) := dk_105 (dk_at dksX0_add_2 9 rfl rfl)
theorem dX0_add_58 : decode cX0_add 58 = .ok (.ladd, 1) := dk_97 (dk_at dksX0_add_2 10 rfl rfl)
theorem dX0_add_59 : decode cX0_add 59 = .ok (.ldc2_w 256, 3) := dk_20 1 0 (dk_at dksX0_add_2 11 rfl rfl)
theorem dX0_add_62 : decode cX0_add 62 = .ok (.lcmp, 1) := dk_148 (dk_at dksX0_add_2 14 rfl rfl)
theorem dX0_add_63 : decode cX0_add 63 = .ok (.ifCond .le 6, 3) := dk_158 0 6 (dk_at dksX0_add_2 15 rfl rfl)
theorem dX0_add_66 : decode cX0_add 66 = .ok (.bipush (-4), 2) := dk_16 252 (dk_at dksX0_add_2 18 rfl rfl)
theorem dX0_add_68 : decode cX0_add 68 = .ok (.ireturn, 1) := dk_172 (dk_at dksX0_add_2 20 rfl rfl)
theorem dX0_add_69 : decode cX0_add 69 = .ok (.iinc 3 1, 3) := dk_132 3 1 (dk_at dksX0_add_2 21 rfl rfl)
theorem dX0_add_72 : decode cX0_add 72 = .ok (.goto (-43), 3) := dk_167 255 213 (dk_at dksX0_add_3 0 rfl rfl)
theorem dX0_add_75 : decode cX0_add 75 = .ok (.iconst 0, 1) := dk_3 (dk_at dksX0_add_3 3 rfl rfl)
theorem dX0_add_76 : decode cX0_add 76 = .ok (.istore_n 3, 1) := dk_62 (dk_at dksX0_add_3 4 rfl rfl)
theorem dX0_add_77 : decode cX0_add 77 = .ok (.iload_n 3, 1) := dk_29 (dk_at dksX0_add_3 5 rfl rfl)
theorem dX0_add_78 : decode cX0_add 78 = .ok (.bipush 7, 2) := dk_16 7 (dk_at dksX0_add_3 6 rfl rfl)
theorem dX0_add_80 : decode cX0_add 80 = .ok (.aload_n 0, 1) := dk_42 (dk_at dksX0_add_3 8 rfl rfl)
theorem dX0_add_81 : decode cX0_add 81 = .ok (.getfield 73, 3) := dk_180 0 73 (dk_at dksX0_add_3 9 rfl rfl)
theorem dX0_add_84 : decode cX0_add 84 = .ok (.imul, 1) := dk_104 (dk_at dksX0_add_3 12 rfl rfl)
theorem dX0_add_85 : decode cX0_add 85 = .ok (.if_icmp .ge 29, 3) := dk_162 0 29 (dk_at dksX0_add_3 13 rfl rfl)
theorem dX0_add_88 : decode cX0_add 88 = .ok (.aload_n 0, 1) := dk_42 (dk_at dksX0_add_3 16 rfl rfl)
theorem dX0_add_89 : decode cX0_add 89 = .ok (.getfield 53, 3) := dk_180 0 53 (dk_at dksX0_add_3 17 rfl rfl)
theorem dX0_add_92 : decode cX0_add 92 = .ok (.iload_n 3, 1) := dk_29 (dk_at dksX0_add_3 20 rfl rfl)
theorem dX0_add_93 : decode cX0_add 93 = .ok (.dup2, 1) := dk_92 (dk_at dksX0_add_3 21 rfl rfl)
theorem dX0_add_94 : decode cX0_add 94 = .ok (.iaload, 1) := dk_46 (dk_at dksX0_add_3 22 rfl rfl)
theorem dX0_add_95 : decode cX0_add 95 = .ok (.iload_n 2, 1) := dk_28 (dk_at dksX0_add_3 23 rfl rfl)
theorem dX0_add_96 : decode cX0_add 96 = .ok (.aload_n 0, 1) := dk_42 (dk_at dksX0_add_4 0 rfl rfl)
theorem dX0_add_97 : decode cX0_add 97 = .ok (.getfield 47, 3) := dk_180 0 47 (dk_at dksX0_add_4 1 rfl rfl)
theorem dX0_add_100 : decode cX0_add 100 = .ok (.iload_n 1, 1) := dk_27 (dk_at dksX0_add_4 4 rfl rfl)
theorem dX0_add_101 : decode cX0_add 101 = .ok (.aaload, 1) := dk_50 (dk_at dksX0_add_4 5 rfl rfl)
theorem dX0_add_102 : decode cX0_add 102 = .ok (.iload_n 3, 1) := dk_29 (dk_at dksX0_add_4 6 rfl rfl)
theorem dX0_add_103 : decode cX0_add 103 = .ok (.laload, 1) := dk_47 (dk_at dksX0_add_4 7 rfl rfl)
theorem dX0_add_104 : decode cX0_add 104 = .ok (.l2i, 1) := dk_136 (dk_at dksX0_add_4 8 rfl rfl)
theorem dX0_add_105 : decode cX0_add 105 = .ok (.imul, 1) := dk_104 (dk_at dksX0_add_4 9 rfl rfl)
theorem dX0_add_106 : decode cX0_add 106 = .ok (.iadd, 1) := dk_96 (dk_at dksX0_add_4 10 rfl rfl)
theorem dX0_add_107 : decode cX0_add 107 = .ok (.iastore, 1) := dk_79 (dk_at dksX0_add_4 11 rfl rfl)
theorem dX0_add_108 : decode cX0_add 108 = .ok (.iinc 3 1, 3) := dk_132 3 1 (dk_at dksX0_add_4 12 rfl rfl)
theorem dX0_add_111 : decode cX0_add 111 = .ok (.goto (-34), 3) := dk_167 255 222 (dk_at dksX0_add_4 15 rfl rfl)
theorem dX0_add_114 : decode cX0_add 114 = .ok (.iconst 1, 1) := dk_4 (dk_at dksX0_add_4 18 rfl rfl)
theorem dX0_add_115 : decode cX0_add 115 = .ok (.ireturn, 1) := dk_172 (dk_at dksX0_add_4 19 rfl rfl)
abbrev cX0_legal : ByteArray := prog_1_method_49_code
def yX0_legal : MethodName := ⟨RX0, "legal", "()I"⟩
def dkwX0_legal_7 : List UInt8 := [4, 167, 0, 16, 42, 27, 182, 0, 218, 153, 0, 7, 3, 167, 0, 4, 5, 172]
abbrev dktX0_legal_7 : List UInt8 := dkwX0_legal_7 ++ []
def dkwX0_legal_6 : List UInt8 := [126, 61, 132, 6, 1, 167, 255, 193, 132, 4, 1, 167, 255, 167, 132, 3, 1, 167, 255, 103, 28, 154, 0, 7]
abbrev dktX0_legal_6 : List UInt8 := dkwX0_legal_6 ++ dktX0_legal_7
def dkwX0_legal_5 : List UInt8 := [25, 5, 180, 0, 119, 25, 5, 180, 0, 175, 21, 6, 46, 182, 1, 8, 160, 0, 7, 4, 167, 0, 4, 3]
abbrev dktX0_legal_5 : List UInt8 := dkwX0_legal_5 ++ dktX0_legal_6
def dkwX0_legal_4 : List UInt8 := [28, 21, 6, 21, 4, 159, 0, 37, 42, 29, 21, 4, 21, 6, 182, 1, 8, 42, 25, 5, 180, 0, 116]
abbrev dktX0_legal_4 : List UInt8 := dkwX0_legal_4 ++ dktX0_legal_5
def dkwX0_legal_3 : List UInt8 := [180, 0, 11, 29, 50, 21, 4, 50, 58, 5, 3, 54, 6, 21, 6, 7, 162, 0, 63, 25, 5, 198, 0, 58]
abbrev dktX0_legal_3 : List UInt8 := dkwX0_legal_3 ++ dktX0_legal_4
def dkwX0_legal_2 : List UInt8 := [120, 167, 0, 4, 3, 128, 60, 132, 4, 1, 167, 255, 215, 3, 54, 4, 21, 4, 7, 162, 0, 89, 42]
abbrev dktX0_legal_2 : List UInt8 := dkwX0_legal_2 ++ dktX0_legal_3
def dkwX0_legal_1 : List UInt8 := [27, 42, 180, 0, 53, 16, 7, 29, 104, 21, 4, 96, 46, 153, 0, 15, 4, 16, 7, 29, 104, 21, 4, 96]
abbrev dktX0_legal_1 : List UInt8 := dkwX0_legal_1 ++ dktX0_legal_2
def dkwX0_legal_0 : List UInt8 := [3, 60, 4, 61, 3, 62, 29, 42, 180, 0, 73, 162, 0, 151, 3, 54, 4, 21, 4, 16, 7, 162, 0, 40]
abbrev dktX0_legal_0 : List UInt8 := dkwX0_legal_0 ++ dktX0_legal_1
theorem dksX0_legal_0 : cX0_legal.data.toList.drop 0 = dktX0_legal_0 := by decide +kernel
theorem dksX0_legal_1 : cX0_legal.data.toList.drop 24 = dktX0_legal_1 := dk_seg dksX0_legal_0 24 rfl rfl
theorem dksX0_legal_2 : cX0_legal.data.toList.drop 48 = dktX0_legal_2 := dk_seg dksX0_legal_1 24 rfl rfl
theorem dksX0_legal_3 : cX0_legal.data.toList.drop 71 = dktX0_legal_3 := dk_seg dksX0_legal_2 23 rfl rfl
theorem dksX0_legal_4 : cX0_legal.data.toList.drop 95 = dktX0_legal_4 := dk_seg dksX0_legal_3 24 rfl rfl
theorem dksX0_legal_5 : cX0_legal.data.toList.drop 118 = dktX0_legal_5 := dk_seg dksX0_legal_4 23 rfl rfl
theorem dksX0_legal_6 : cX0_legal.data.toList.drop 142 = dktX0_legal_6 := dk_seg dksX0_legal_5 24 rfl rfl
theorem dksX0_legal_7 : cX0_legal.data.toList.drop 166 = dktX0_legal_7 := dk_seg dksX0_legal_6 24 rfl rfl
theorem dX0_legal_0 : decode cX0_legal 0 = .ok (.iconst 0, 1) := dk_3 (dk_at dksX0_legal_0 0 rfl rfl)
theorem dX0_legal_1 : decode cX0_legal 1 = .ok (.istore_n 1, 1) := dk_60 (dk_at dksX0_legal_0 1 rfl rfl)
theorem dX0_legal_2 : decode cX0_legal 2 = .ok (.iconst 1, 1) := dk_4 (dk_at dksX0_legal_0 2 rfl rfl)
theorem dX0_legal_3 : decode cX0_legal 3 = .ok (.istore_n 2, 1) := dk_61 (dk_at dksX0_legal_0 3 rfl rfl)
theorem dX0_legal_4 : decode cX0_legal 4 = .ok (.iconst 0, 1) := dk_3 (dk_at dksX0_legal_0 4 rfl rfl)
theorem dX0_legal_5 : decode cX0_legal 5 = .ok (.istore_n 3, 1) := dk_62 (dk_at dksX0_legal_0 5 rfl rfl)
theorem dX0_legal_6 : decode cX0_legal 6 = .ok (.iload_n 3, 1) := dk_29 (dk_at dksX0_legal_0 6 rfl rfl)
theorem dX0_legal_7 : decode cX0_legal 7 = .ok (.aload_n 0, 1) := dk_42 (dk_at dksX0_legal_0 7 rfl rfl)
theorem dX0_legal_8 : decode cX0_legal 8 = .ok (.getfield 73, 3) := dk_180 0 73 (dk_at dksX0_legal_0 8 rfl rfl)
theorem dX0_legal_11 : decode cX0_legal 11 = .ok (.if_icmp .ge 151, 3) := dk_162 0 151 (dk_at dksX0_legal_0 11 rfl rfl)
theorem dX0_legal_14 : decode cX0_legal 14 = .ok (.iconst 0, 1) := dk_3 (dk_at dksX0_legal_0 14 rfl rfl)
theorem dX0_legal_15 : decode cX0_legal 15 = .ok (.istore 4, 2) := dk_54 4 (dk_at dksX0_legal_0 15 rfl rfl)
theorem dX0_legal_17 : decode cX0_legal 17 = .ok (.iload 4, 2) := dk_21 4 (dk_at dksX0_legal_0 17 rfl rfl)
theorem dX0_legal_19 : decode cX0_legal 19 = .ok (.bipush 7, 2) := dk_16 7 (dk_at dksX0_legal_0 19 rfl rfl)
theorem dX0_legal_21 : decode cX0_legal 21 = .ok (.if_icmp .ge 40, 3) := dk_162 0 40 (dk_at dksX0_legal_0 21 rfl rfl)
theorem dX0_legal_24 : decode cX0_legal 24 = .ok (.iload_n 1, 1) := dk_27 (dk_at dksX0_legal_1 0 rfl rfl)
theorem dX0_legal_25 : decode cX0_legal 25 = .ok (.aload_n 0, 1) := dk_42 (dk_at dksX0_legal_1 1 rfl rfl)
theorem dX0_legal_26 : decode cX0_legal 26 = .ok (.getfield 53, 3) := dk_180 0 53 (dk_at dksX0_legal_1 2 rfl rfl)
theorem dX0_legal_29 : decode cX0_legal 29 = .ok (.bipush 7, 2) := dk_16 7 (dk_at dksX0_legal_1 5 rfl rfl)
theorem dX0_legal_31 : decode cX0_legal 31 = .ok (.iload_n 3, 1) := dk_29 (dk_at dksX0_legal_1 7 rfl rfl)
theorem dX0_legal_32 : decode cX0_legal 32 = .ok (.imul, 1) := dk_104 (dk_at dksX0_legal_1 8 rfl rfl)
theorem dX0_legal_33 : decode cX0_legal 33 = .ok (.iload 4, 2) := dk_21 4 (dk_at dksX0_legal_1 9 rfl rfl)
theorem dX0_legal_35 : decode cX0_legal 35 = .ok (.iadd, 1) := dk_96 (dk_at dksX0_legal_1 11 rfl rfl)
theorem dX0_legal_36 : decode cX0_legal 36 = .ok (.iaload, 1) := dk_46 (dk_at dksX0_legal_1 12 rfl rfl)
theorem dX0_legal_37 : decode cX0_legal 37 = .ok (.ifCond .eq 15, 3) := dk_153 0 15 (dk_at dksX0_legal_1 13 rfl rfl)
theorem dX0_legal_40 : decode cX0_legal 40 = .ok (.iconst 1, 1) := dk_4 (dk_at dksX0_legal_1 16 rfl rfl)
theorem dX0_legal_41 : decode cX0_legal 41 = .ok (.bipush 7, 2) := dk_16 7 (dk_at dksX0_legal_1 17 rfl rfl)
theorem dX0_legal_43 : decode cX0_legal 43 = .ok (.iload_n 3, 1) := dk_29 (dk_at dksX0_legal_1 19 rfl rfl)
theorem dX0_legal_44 : decode cX0_legal 44 = .ok (.imul, 1) := dk_104 (dk_at dksX0_legal_1 20 rfl rfl)
theorem dX0_legal_45 : decode cX0_legal 45 = .ok (.iload 4, 2) := dk_21 4 (dk_at dksX0_legal_1 21 rfl rfl)
theorem dX0_legal_47 : decode cX0_legal 47 = .ok (.iadd, 1) := dk_96 (dk_at dksX0_legal_1 23 rfl rfl)
theorem dX0_legal_48 : decode cX0_legal 48 = .ok (.ishl, 1) := dk_120 (dk_at dksX0_legal_2 0 rfl rfl)
theorem dX0_legal_49 : decode cX0_legal 49 = .ok (.goto 4, 3) := dk_167 0 4 (dk_at dksX0_legal_2 1 rfl rfl)
theorem dX0_legal_52 : decode cX0_legal 52 = .ok (.iconst 0, 1) := dk_3 (dk_at dksX0_legal_2 4 rfl rfl)
theorem dX0_legal_53 : decode cX0_legal 53 = .ok (.ior, 1) := dk_128 (dk_at dksX0_legal_2 5 rfl rfl)
theorem dX0_legal_54 : decode cX0_legal 54 = .ok (.istore_n 1, 1) := dk_60 (dk_at dksX0_legal_2 6 rfl rfl)
theorem dX0_legal_55 : decode cX0_legal 55 = .ok (.iinc 4 1, 3) := dk_132 4 1 (dk_at dksX0_legal_2 7 rfl rfl)
theorem dX0_legal_58 : decode cX0_legal 58 = .ok (.goto (-41), 3) := dk_167 255 215 (dk_at dksX0_legal_2 10 rfl rfl)
theorem dX0_legal_61 : decode cX0_legal 61 = .ok (.iconst 0, 1) := dk_3 (dk_at dksX0_legal_2 13 rfl rfl)
theorem dX0_legal_62 : decode cX0_legal 62 = .ok (.istore 4, 2) := dk_54 4 (dk_at dksX0_legal_2 14 rfl rfl)
theorem dX0_legal_64 : decode cX0_legal 64 = .ok (.iload 4, 2) := dk_21 4 (dk_at dksX0_legal_2 16 rfl rfl)
theorem dX0_legal_66 : decode cX0_legal 66 = .ok (.iconst 4, 1) := dk_7 (dk_at dksX0_legal_2 18 rfl rfl)
theorem dX0_legal_67 : decode cX0_legal 67 = .ok (.if_icmp .ge 89, 3) := dk_162 0 89 (dk_at dksX0_legal_2 19 rfl rfl)
theorem dX0_legal_70 : decode cX0_legal 70 = .ok (.aload_n 0, 1) := dk_42 (dk_at dksX0_legal_2 22 rfl rfl)
theorem dX0_legal_71 : decode cX0_legal 71 = .ok (.getfield 11, 3) := dk_180 0 11 (dk_at dksX0_legal_3 0 rfl rfl)
theorem dX0_legal_74 : decode cX0_legal 74 = .ok (.iload_n 3, 1) := dk_29 (dk_at dksX0_legal_3 3 rfl rfl)
theorem dX0_legal_75 : decode cX0_legal 75 = .ok (.aaload, 1) := dk_50 (dk_at dksX0_legal_3 4 rfl rfl)
theorem dX0_legal_76 : decode cX0_legal 76 = .ok (.iload 4, 2) := dk_21 4 (dk_at dksX0_legal_3 5 rfl rfl)
theorem dX0_legal_78 : decode cX0_legal 78 = .ok (.aaload, 1) := dk_50 (dk_at dksX0_legal_3 7 rfl rfl)
theorem dX0_legal_79 : decode cX0_legal 79 = .ok (.astore 5, 2) := dk_58 5 (dk_at dksX0_legal_3 8 rfl rfl)
theorem dX0_legal_81 : decode cX0_legal 81 = .ok (.iconst 0, 1) := dk_3 (dk_at dksX0_legal_3 10 rfl rfl)
theorem dX0_legal_82 : decode cX0_legal 82 = .ok (.istore 6, 2) := dk_54 6 (dk_at dksX0_legal_3 11 rfl rfl)
theorem dX0_legal_84 : decode cX0_legal 84 = .ok (.iload 6, 2) := dk_21 6 (dk_at dksX0_legal_3 13 rfl rfl)
theorem dX0_legal_86 : decode cX0_legal 86 = .ok (.iconst 4, 1) := dk_7 (dk_at dksX0_legal_3 15 rfl rfl)
theorem dX0_legal_87 : decode cX0_legal 87 = .ok (.if_icmp .ge 63, 3) := dk_162 0 63 (dk_at dksX0_legal_3 16 rfl rfl)
theorem dX0_legal_90 : decode cX0_legal 90 = .ok (.aload 5, 2) := dk_25 5 (dk_at dksX0_legal_3 19 rfl rfl)
theorem dX0_legal_92 : decode cX0_legal 92 = .ok (.ifnull 58, 3) := dk_198 0 58 (dk_at dksX0_legal_3 21 rfl rfl)
theorem dX0_legal_95 : decode cX0_legal 95 = .ok (.iload_n 2, 1) := dk_28 (dk_at dksX0_legal_4 0 rfl rfl)
theorem dX0_legal_96 : decode cX0_legal 96 = .ok (.iload 6, 2) := dk_21 6 (dk_at dksX0_legal_4 1 rfl rfl)
theorem dX0_legal_98 : decode cX0_legal 98 = .ok (.iload 4, 2) := dk_21 4 (dk_at dksX0_legal_4 3 rfl rfl)
theorem dX0_legal_100 : decode cX0_legal 100 = .ok (.if_icmp .eq 37, 3) := dk_159 0 37 (dk_at dksX0_legal_4 5 rfl rfl)
theorem dX0_legal_103 : decode cX0_legal 103 = .ok (.aload_n 0, 1) := dk_42 (dk_at dksX0_legal_4 8 rfl rfl)
theorem dX0_legal_104 : decode cX0_legal 104 = .ok (.iload_n 3, 1) := dk_29 (dk_at dksX0_legal_4 9 rfl rfl)
theorem dX0_legal_105 : decode cX0_legal 105 = .ok (.iload 4, 2) := dk_21 4 (dk_at dksX0_legal_4 10 rfl rfl)
theorem dX0_legal_107 : decode cX0_legal 107 = .ok (.iload 6, 2) := dk_21 6 (dk_at dksX0_legal_4 12 rfl rfl)
theorem dX0_legal_109 : decode cX0_legal 109 = .ok (.invokevirtual 264, 3) := dk_182 1 8 (dk_at dksX0_legal_4 14 rfl rfl)
theorem dX0_legal_112 : decode cX0_legal 112 = .ok (.aload_n 0, 1) := dk_42 (dk_at dksX0_legal_4 17 rfl rfl)
theorem dX0_legal_113 : decode cX0_legal 113 = .ok (.aload 5, 2) := dk_25 5 (dk_at dksX0_legal_4 18 rfl rfl)
theorem dX0_legal_115 : decode cX0_legal 115 = .ok (.getfield 116, 3) := dk_180 0 116 (dk_at dksX0_legal_4 20 rfl rfl)
theorem dX0_legal_118 : decode cX0_legal 118 = .ok (.aload 5, 2) := dk_25 5 (dk_at dksX0_legal_5 0 rfl rfl)
theorem dX0_legal_120 : decode cX0_legal 120 = .ok (.getfield 119, 3) := dk_180 0 119 (dk_at dksX0_legal_5 2 rfl rfl)
theorem dX0_legal_123 : decode cX0_legal 123 = .ok (.aload 5, 2) := dk_25 5 (dk_at dksX0_legal_5 5 rfl rfl)
theorem dX0_legal_125 : decode cX0_legal 125 = .ok (.getfield 175, 3) := dk_180 0 175 (dk_at dksX0_legal_5 7 rfl rfl)
theorem dX0_legal_128 : decode cX0_legal 128 = .ok (.iload 6, 2) := dk_21 6 (dk_at dksX0_legal_5 10 rfl rfl)
theorem dX0_legal_130 : decode cX0_legal 130 = .ok (.iaload, 1) := dk_46 (dk_at dksX0_legal_5 12 rfl rfl)
theorem dX0_legal_131 : decode cX0_legal 131 = .ok (.invokevirtual 264, 3) := dk_182 1 8 (dk_at dksX0_legal_5 13 rfl rfl)
theorem dX0_legal_134 : decode cX0_legal 134 = .ok (.if_icmp .ne 7, 3) := dk_160 0 7 (dk_at dksX0_legal_5 16 rfl rfl)
theorem dX0_legal_137 : decode cX0_legal 137 = .ok (.iconst 1, 1) := dk_4 (dk_at dksX0_legal_5 19 rfl rfl)
theorem dX0_legal_138 : decode cX0_legal 138 = .ok (.goto 4, 3) := dk_167 0 4 (dk_at dksX0_legal_5 20 rfl rfl)
theorem dX0_legal_141 : decode cX0_legal 141 = .ok (.iconst 0, 1) := dk_3 (dk_at dksX0_legal_5 23 rfl rfl)
theorem dX0_legal_142 : decode cX0_legal 142 = .ok (.iand, 1) := dk_126 (dk_at dksX0_legal_6 0 rfl rfl)
theorem dX0_legal_143 : decode cX0_legal 143 = .ok (.istore_n 2, 1) := dk_61 (dk_at dksX0_legal_6 1 rfl rfl)
theorem dX0_legal_144 : decode cX0_legal 144 = .ok (.iinc 6 1, 3) := dk_132 6 1 (dk_at dksX0_legal_6 2 rfl rfl)
theorem dX0_legal_147 : decode cX0_legal 147 = .ok (.goto (-63), 3) := dk_167 255 193 (dk_at dksX0_legal_6 5 rfl rfl)
theorem dX0_legal_150 : decode cX0_legal 150 = .ok (.iinc 4 1, 3) := dk_132 4 1 (dk_at dksX0_legal_6 8 rfl rfl)
theorem dX0_legal_153 : decode cX0_legal 153 = .ok (.goto (-89), 3) := dk_167 255 167 (dk_at dksX0_legal_6 11 rfl rfl)
theorem dX0_legal_156 : decode cX0_legal 156 = .ok (.iinc 3 1, 3) := dk_132 3 1 (dk_at dksX0_legal_6 14 rfl rfl)
theorem dX0_legal_159 : decode cX0_legal 159 = .ok (.goto (-153), 3) := dk_167 255 103 (dk_at dksX0_legal_6 17 rfl rfl)
theorem dX0_legal_162 : decode cX0_legal 162 = .ok (.iload_n 2, 1) := dk_28 (dk_at dksX0_legal_6 20 rfl rfl)
theorem dX0_legal_163 : decode cX0_legal 163 = .ok (.ifCond .ne 7, 3) := dk_154 0 7 (dk_at dksX0_legal_6 21 rfl rfl)
theorem dX0_legal_166 : decode cX0_legal 166 = .ok (.iconst 1, 1) := dk_4 (dk_at dksX0_legal_7 0 rfl rfl)
theorem dX0_legal_167 : decode cX0_legal 167 = .ok (.goto 16, 3) := dk_167 0 16 (dk_at dksX0_legal_7 1 rfl rfl)
theorem dX0_legal_170 : decode cX0_legal 170 = .ok (.aload_n 0, 1) := dk_42 (dk_at dksX0_legal_7 4 rfl rfl)
theorem dX0_legal_171 : decode cX0_legal 171 = .ok (.iload_n 1, 1) := dk_27 (dk_at dksX0_legal_7 5 rfl rfl)
theorem dX0_legal_172 : decode cX0_legal 172 = .ok (.invokevirtual 218, 3) := dk_182 0 218 (dk_at dksX0_legal_7 6 rfl rfl)
theorem dX0_legal_175 : decode cX0_legal 175 = .ok (.ifCond .eq 7, 3) := dk_153 0 7 (dk_at dksX0_legal_7 9 rfl rfl)
theorem dX0_legal_178 : decode cX0_legal 178 = .ok (.iconst 0, 1) := dk_3 (dk_at dksX0_legal_7 12 rfl rfl)
theorem dX0_legal_179 : decode cX0_legal 179 = .ok (.goto 4, 3) := dk_167 0 4 (dk_at dksX0_legal_7 13 rfl rfl)
theorem dX0_legal_182 : decode cX0_legal 182 = .ok (.iconst 2, 1) := dk_5 (dk_at dksX0_legal_7 16 rfl rfl)
theorem dX0_legal_183 : decode cX0_legal 183 = .ok (.ireturn, 1) := dk_172 (dk_at dksX0_legal_7 17 rfl rfl)
abbrev cX0_arcs : ByteArray := prog_1_method_48_code
def yX0_arcs : MethodName := ⟨RX0, "arcs", "(III)I"⟩
def dkwX0_arcs_0 : List UInt8 := [42, 27, 29, 182, 1, 2, 42, 27, 29, 28, 184, 0, 202, 182, 1, 5, 96, 172]
abbrev dktX0_arcs_0 : List UInt8 := dkwX0_arcs_0 ++ []
theorem dksX0_arcs_0 : cX0_arcs.data.toList.drop 0 = dktX0_arcs_0 := by decide +kernel
theorem dX0_arcs_0 : decode cX0_arcs 0 = .ok (.aload_n 0, 1) := dk_42 (dk_at dksX0_arcs_0 0 rfl rfl)
theorem dX0_arcs_1 : decode cX0_arcs 1 = .ok (.iload_n 1, 1) := dk_27 (dk_at dksX0_arcs_0 1 rfl rfl)
theorem dX0_arcs_2 : decode cX0_arcs 2 = .ok (.iload_n 3, 1) := dk_29 (dk_at dksX0_arcs_0 2 rfl rfl)
theorem dX0_arcs_3 : decode cX0_arcs 3 = .ok (.invokevirtual 258, 3) := dk_182 1 2 (dk_at dksX0_arcs_0 3 rfl rfl)
theorem dX0_arcs_6 : decode cX0_arcs 6 = .ok (.aload_n 0, 1) := dk_42 (dk_at dksX0_arcs_0 6 rfl rfl)
theorem dX0_arcs_7 : decode cX0_arcs 7 = .ok (.iload_n 1, 1) := dk_27 (dk_at dksX0_arcs_0 7 rfl rfl)
theorem dX0_arcs_8 : decode cX0_arcs 8 = .ok (.iload_n 3, 1) := dk_29 (dk_at dksX0_arcs_0 8 rfl rfl)
theorem dX0_arcs_9 : decode cX0_arcs 9 = .ok (.iload_n 2, 1) := dk_28 (dk_at dksX0_arcs_0 9 rfl rfl)
theorem dX0_arcs_10 : decode cX0_arcs 10 = .ok (.invokestatic 202, 3) := dk_184 0 202 (dk_at dksX0_arcs_0 10 rfl rfl)
theorem dX0_arcs_13 : decode cX0_arcs 13 = .ok (.invokevirtual 261, 3) := dk_182 1 5 (dk_at dksX0_arcs_0 13 rfl rfl)
theorem dX0_arcs_16 : decode cX0_arcs 16 = .ok (.iadd, 1) := dk_96 (dk_at dksX0_arcs_0 16 rfl rfl)
theorem dX0_arcs_17 : decode cX0_arcs 17 = .ok (.ireturn, 1) := dk_172 (dk_at dksX0_arcs_0 17 rfl rfl)
abbrev cX0_threes : ByteArray := prog_1_method_46_code
def yX0_threes : MethodName := ⟨RX0, "threes", "(II)I"⟩
def dkwX0_threes_0 : List UInt8 := [42, 180, 0, 53, 16, 7, 27, 104, 28, 96, 46, 172]
abbrev dktX0_threes_0 : List UInt8 := dkwX0_threes_0 ++ []
theorem dksX0_threes_0 : cX0_threes.data.toList.drop 0 = dktX0_threes_0 := by decide +kernel
theorem dX0_threes_0 : decode cX0_threes 0 = .ok (.aload_n 0, 1) := dk_42 (dk_at dksX0_threes_0 0 rfl rfl)
theorem dX0_threes_1 : decode cX0_threes 1 = .ok (.getfield 53, 3) := dk_180 0 53 (dk_at dksX0_threes_0 1 rfl rfl)
theorem dX0_threes_4 : decode cX0_threes 4 = .ok (.bipush 7, 2) := dk_16 7 (dk_at dksX0_threes_0 4 rfl rfl)
theorem dX0_threes_6 : decode cX0_threes 6 = .ok (.iload_n 1, 1) := dk_27 (dk_at dksX0_threes_0 6 rfl rfl)
theorem dX0_threes_7 : decode cX0_threes 7 = .ok (.imul, 1) := dk_104 (dk_at dksX0_threes_0 7 rfl rfl)
theorem dX0_threes_8 : decode cX0_threes 8 = .ok (.iload_n 2, 1) := dk_28 (dk_at dksX0_threes_0 8 rfl rfl)
theorem dX0_threes_9 : decode cX0_threes 9 = .ok (.iadd, 1) := dk_96 (dk_at dksX0_threes_0 9 rfl rfl)
theorem dX0_threes_10 : decode cX0_threes 10 = .ok (.iaload, 1) := dk_46 (dk_at dksX0_threes_0 10 rfl rfl)
theorem dX0_threes_11 : decode cX0_threes 11 = .ok (.ireturn, 1) := dk_172 (dk_at dksX0_threes_0 11 rfl rfl)
abbrev cX0_fours : ByteArray := prog_1_method_47_code
def yX0_fours : MethodName := ⟨RX0, "fours", "(II)I"⟩
def dkwX0_fours_0 : List UInt8 := [42, 180, 0, 53, 16, 7, 27, 104, 7, 96, 28, 96, 46, 172]
abbrev dktX0_fours_0 : List UInt8 := dkwX0_fours_0 ++ []
theorem dksX0_fours_0 : cX0_fours.data.toList.drop 0 = dktX0_fours_0 := by decide +kernel
theorem dX0_fours_0 : decode cX0_fours 0 = .ok (.aload_n 0, 1) := dk_42 (dk_at dksX0_fours_0 0 rfl rfl)
theorem dX0_fours_1 : decode cX0_fours 1 = .ok (.getfield 53, 3) := dk_180 0 53 (dk_at dksX0_fours_0 1 rfl rfl)
theorem dX0_fours_4 : decode cX0_fours 4 = .ok (.bipush 7, 2) := dk_16 7 (dk_at dksX0_fours_0 4 rfl rfl)
theorem dX0_fours_6 : decode cX0_fours 6 = .ok (.iload_n 1, 1) := dk_27 (dk_at dksX0_fours_0 6 rfl rfl)
theorem dX0_fours_7 : decode cX0_fours 7 = .ok (.imul, 1) := dk_104 (dk_at dksX0_fours_0 7 rfl rfl)
theorem dX0_fours_8 : decode cX0_fours 8 = .ok (.iconst 4, 1) := dk_7 (dk_at dksX0_fours_0 8 rfl rfl)
theorem dX0_fours_9 : decode cX0_fours 9 = .ok (.iadd, 1) := dk_96 (dk_at dksX0_fours_0 9 rfl rfl)
theorem dX0_fours_10 : decode cX0_fours 10 = .ok (.iload_n 2, 1) := dk_28 (dk_at dksX0_fours_0 10 rfl rfl)
theorem dX0_fours_11 : decode cX0_fours 11 = .ok (.iadd, 1) := dk_96 (dk_at dksX0_fours_0 11 rfl rfl)
theorem dX0_fours_12 : decode cX0_fours 12 = .ok (.iaload, 1) := dk_46 (dk_at dksX0_fours_0 12 rfl rfl)
theorem dX0_fours_13 : decode cX0_fours 13 = .ok (.ireturn, 1) := dk_172 (dk_at dksX0_fours_0 13 rfl rfl)
abbrev cX0_euler : ByteArray := prog_1_method_51_code
def yX0_euler : MethodName := ⟨RX0, "euler", "()I"⟩
def dkwX0_euler_11 : List UInt8 := [167, 255, 147, 27, 28, 100, 29, 96, 172]
abbrev dktX0_euler_11 : List UInt8 := dkwX0_euler_11 ++ []
def dkwX0_euler_10 : List UInt8 := [21, 6, 21, 7, 182, 1, 8, 96, 61, 132, 7, 1, 167, 255, 212, 132, 6, 1, 167, 255, 197, 132, 5, 1]
abbrev dktX0_euler_10 : List UInt8 := dkwX0_euler_10 ++ dktX0_euler_11
def dkwX0_euler_9 : List UInt8 := [21, 6, 182, 1, 15, 153, 0, 33, 28, 21, 7, 21, 6, 160, 0, 7, 3, 167, 0, 13, 42, 21, 5]
abbrev dktX0_euler_9 : List UInt8 := dkwX0_euler_9 ++ dktX0_euler_10
def dkwX0_euler_8 : List UInt8 := [167, 255, 230, 3, 54, 6, 21, 6, 7, 162, 0, 59, 3, 54, 7, 21, 7, 7, 162, 0, 44, 42, 21, 5]
abbrev dktX0_euler_8 : List UInt8 := dkwX0_euler_8 ++ dktX0_euler_9
def dkwX0_euler_7 : List UInt8 := [162, 0, 25, 29, 42, 180, 0, 53, 16, 7, 21, 5, 104, 21, 6, 96, 46, 96, 62, 132, 6, 1]
abbrev dktX0_euler_7 : List UInt8 := dkwX0_euler_7 ++ dktX0_euler_8
def dkwX0_euler_6 : List UInt8 := [167, 255, 144, 3, 54, 5, 21, 5, 42, 180, 0, 73, 162, 0, 106, 3, 54, 6, 21, 6, 16, 7]
abbrev dktX0_euler_6 : List UInt8 := dkwX0_euler_6 ++ dktX0_euler_7
def dkwX0_euler_5 : List UInt8 := [167, 0, 11, 42, 21, 9, 21, 10, 182, 1, 5, 96, 60, 132, 10, 1, 167, 255, 220, 132, 5, 1]
abbrev dktX0_euler_5 : List UInt8 := dkwX0_euler_5 ++ dktX0_euler_6
def dkwX0_euler_4 : List UInt8 := [60, 3, 54, 10, 21, 10, 6, 162, 0, 36, 27, 21, 10, 21, 7, 21, 8, 184, 0, 202, 160, 0, 7, 3]
abbrev dktX0_euler_4 : List UInt8 := dkwX0_euler_4 ++ dktX0_euler_5
def dkwX0_euler_3 : List UInt8 := [16, 6, 108, 54, 9, 27, 42, 21, 9, 21, 7, 182, 1, 2, 42, 21, 9, 21, 8, 182, 1, 2, 96, 96]
abbrev dktX0_euler_3 : List UInt8 := dkwX0_euler_3 ++ dktX0_euler_4
def dkwX0_euler_2 : List UInt8 := [178, 0, 87, 21, 6, 16, 6, 112, 46, 54, 7, 178, 0, 90, 21, 6, 16, 6, 112, 46, 54, 8, 21, 6]
abbrev dktX0_euler_2 : List UInt8 := dkwX0_euler_2 ++ dktX0_euler_3
def dkwX0_euler_1 : List UInt8 := [54, 4, 3, 54, 5, 21, 5, 21, 4, 162, 0, 111, 42, 180, 0, 26, 21, 5, 182, 0, 130, 54, 6]
abbrev dktX0_euler_1 : List UInt8 := dkwX0_euler_1 ++ dktX0_euler_2
def dkwX0_euler_0 : List UInt8 := [42, 182, 1, 12, 153, 0, 6, 18, 145, 172, 3, 60, 3, 61, 3, 62, 42, 180, 0, 26, 182, 0, 125]
abbrev dktX0_euler_0 : List UInt8 := dkwX0_euler_0 ++ dktX0_euler_1
theorem dksX0_euler_0 : cX0_euler.data.toList.drop 0 = dktX0_euler_0 := by decide +kernel
theorem dksX0_euler_1 : cX0_euler.data.toList.drop 23 = dktX0_euler_1 := dk_seg dksX0_euler_0 23 rfl rfl
theorem dksX0_euler_2 : cX0_euler.data.toList.drop 46 = dktX0_euler_2 := dk_seg dksX0_euler_1 23 rfl rfl
theorem dksX0_euler_3 : cX0_euler.data.toList.drop 70 = dktX0_euler_3 := dk_seg dksX0_euler_2 24 rfl rfl
theorem dksX0_euler_4 : cX0_euler.data.toList.drop 94 = dktX0_euler_4 := dk_seg dksX0_euler_3 24 rfl rfl
theorem dksX0_euler_5 : cX0_euler.data.toList.drop 118 = dktX0_euler_5 := dk_seg dksX0_euler_4 24 rfl rfl
theorem dksX0_euler_6 : cX0_euler.data.toList.drop 140 = dktX0_euler_6 := dk_seg dksX0_euler_5 22 rfl rfl
theorem dksX0_euler_7 : cX0_euler.data.toList.drop 162 = dktX0_euler_7 := dk_seg dksX0_euler_6 22 rfl rfl
theorem dksX0_euler_8 : cX0_euler.data.toList.drop 184 = dktX0_euler_8 := dk_seg dksX0_euler_7 22 rfl rfl
theorem dksX0_euler_9 : cX0_euler.data.toList.drop 208 = dktX0_euler_9 := dk_seg dksX0_euler_8 24 rfl rfl
theorem dksX0_euler_10 : cX0_euler.data.toList.drop 231 = dktX0_euler_10 := dk_seg dksX0_euler_9 23 rfl rfl
theorem dksX0_euler_11 : cX0_euler.data.toList.drop 255 = dktX0_euler_11 := dk_seg dksX0_euler_10 24 rfl rfl
theorem dX0_euler_0 : decode cX0_euler 0 = .ok (.aload_n 0, 1) := dk_42 (dk_at dksX0_euler_0 0 rfl rfl)
theorem dX0_euler_1 : decode cX0_euler 1 = .ok (.invokevirtual 268, 3) := dk_182 1 12 (dk_at dksX0_euler_0 1 rfl rfl)
theorem dX0_euler_4 : decode cX0_euler 4 = .ok (.ifCond .eq 6, 3) := dk_153 0 6 (dk_at dksX0_euler_0 4 rfl rfl)
theorem dX0_euler_7 : decode cX0_euler 7 = .ok (.ldc 145, 2) := dk_18 145 (dk_at dksX0_euler_0 7 rfl rfl)
theorem dX0_euler_9 : decode cX0_euler 9 = .ok (.ireturn, 1) := dk_172 (dk_at dksX0_euler_0 9 rfl rfl)
theorem dX0_euler_10 : decode cX0_euler 10 = .ok (.iconst 0, 1) := dk_3 (dk_at dksX0_euler_0 10 rfl rfl)
theorem dX0_euler_11 : decode cX0_euler 11 = .ok (.istore_n 1, 1) := dk_60 (dk_at dksX0_euler_0 11 rfl rfl)
theorem dX0_euler_12 : decode cX0_euler 12 = .ok (.iconst 0, 1) := dk_3 (dk_at dksX0_euler_0 12 rfl rfl)
theorem dX0_euler_13 : decode cX0_euler 13 = .ok (.istore_n 2, 1) := dk_61 (dk_at dksX0_euler_0 13 rfl rfl)
theorem dX0_euler_14 : decode cX0_euler 14 = .ok (.iconst 0, 1) := dk_3 (dk_at dksX0_euler_0 14 rfl rfl)
theorem dX0_euler_15 : decode cX0_euler 15 = .ok (.istore_n 3, 1) := dk_62 (dk_at dksX0_euler_0 15 rfl rfl)
theorem dX0_euler_16 : decode cX0_euler 16 = .ok (.aload_n 0, 1) := dk_42 (dk_at dksX0_euler_0 16 rfl rfl)
theorem dX0_euler_17 : decode cX0_euler 17 = .ok (.getfield 26, 3) := dk_180 0 26 (dk_at dksX0_euler_0 17 rfl rfl)
theorem dX0_euler_20 : decode cX0_euler 20 = .ok (.invokevirtual 125, 3) := dk_182 0 125 (dk_at dksX0_euler_0 20 rfl rfl)
theorem dX0_euler_23 : decode cX0_euler 23 = .ok (.istore 4, 2) := dk_54 4 (dk_at dksX0_euler_1 0 rfl rfl)
theorem dX0_euler_25 : decode cX0_euler 25 = .ok (.iconst 0, 1) := dk_3 (dk_at dksX0_euler_1 2 rfl rfl)
theorem dX0_euler_26 : decode cX0_euler 26 = .ok (.istore 5, 2) := dk_54 5 (dk_at dksX0_euler_1 3 rfl rfl)
theorem dX0_euler_28 : decode cX0_euler 28 = .ok (.iload 5, 2) := dk_21 5 (dk_at dksX0_euler_1 5 rfl rfl)
theorem dX0_euler_30 : decode cX0_euler 30 = .ok (.iload 4, 2) := dk_21 4 (dk_at dksX0_euler_1 7 rfl rfl)
theorem dX0_euler_32 : decode cX0_euler 32 = .ok (.if_icmp .ge 111, 3) := dk_162 0 111 (dk_at dksX0_euler_1 9 rfl rfl)
theorem dX0_euler_35 : decode cX0_euler 35 = .ok (.aload_n 0, 1) := dk_42 (dk_at dksX0_euler_1 12 rfl rfl)
theorem dX0_euler_36 : decode cX0_euler 36 = .ok (.getfield 26, 3) := dk_180 0 26 (dk_at dksX0_euler_1 13 rfl rfl)
theorem dX0_euler_39 : decode cX0_euler 39 = .ok (.iload 5, 2) := dk_21 5 (dk_at dksX0_euler_1 16 rfl rfl)
theorem dX0_euler_41 : decode cX0_euler 41 = .ok (.invokevirtual 130, 3) := dk_182 0 130 (dk_at dksX0_euler_1 18 rfl rfl)
theorem dX0_euler_44 : decode cX0_euler 44 = .ok (.istore 6, 2) := dk_54 6 (dk_at dksX0_euler_1 21 rfl rfl)
theorem dX0_euler_46 : decode cX0_euler 46 = .ok (.getstatic 87, 3) := dk_178 0 87 (dk_at dksX0_euler_2 0 rfl rfl)
theorem dX0_euler_49 : decode cX0_euler 49 = .ok (.iload 6, 2) := dk_21 6 (dk_at dksX0_euler_2 3 rfl rfl)
theorem dX0_euler_51 : decode cX0_euler 51 = .ok (.bipush 6, 2) := dk_16 6 (dk_at dksX0_euler_2 5 rfl rfl)
theorem dX0_euler_53 : decode cX0_euler 53 = .ok (.irem, 1) := dk_112 (dk_at dksX0_euler_2 7 rfl rfl)
theorem dX0_euler_54 : decode cX0_euler 54 = .ok (.iaload, 1) := dk_46 (dk_at dksX0_euler_2 8 rfl rfl)
theorem dX0_euler_55 : decode cX0_euler 55 = .ok (.istore 7, 2) := dk_54 7 (dk_at dksX0_euler_2 9 rfl rfl)
theorem dX0_euler_57 : decode cX0_euler 57 = .ok (.getstatic 90, 3) := dk_178 0 90 (dk_at dksX0_euler_2 11 rfl rfl)
theorem dX0_euler_60 : decode cX0_euler 60 = .ok (.iload 6, 2) := dk_21 6 (dk_at dksX0_euler_2 14 rfl rfl)
theorem dX0_euler_62 : decode cX0_euler 62 = .ok (.bipush 6, 2) := dk_16 6 (dk_at dksX0_euler_2 16 rfl rfl)
theorem dX0_euler_64 : decode cX0_euler 64 = .ok (.irem, 1) := dk_112 (dk_at dksX0_euler_2 18 rfl rfl)
theorem dX0_euler_65 : decode cX0_euler 65 = .ok (.iaload, 1) := dk_46 (dk_at dksX0_euler_2 19 rfl rfl)
theorem dX0_euler_66 : decode cX0_euler 66 = .ok (.istore 8, 2) := dk_54 8 (dk_at dksX0_euler_2 20 rfl rfl)
theorem dX0_euler_68 : decode cX0_euler 68 = .ok (.iload 6, 2) := dk_21 6 (dk_at dksX0_euler_2 22 rfl rfl)
theorem dX0_euler_70 : decode cX0_euler 70 = .ok (.bipush 6, 2) := dk_16 6 (dk_at dksX0_euler_3 0 rfl rfl)
theorem dX0_euler_72 : decode cX0_euler 72 = .ok (.idiv, 1) := dk_108 (dk_at dksX0_euler_3 2 rfl rfl)
theorem dX0_euler_73 : decode cX0_euler 73 = .ok (.istore 9, 2) := dk_54 9 (dk_at dksX0_euler_3 3 rfl rfl)
theorem dX0_euler_75 : decode cX0_euler 75 = .ok (.iload_n 1, 1) := dk_27 (dk_at dksX0_euler_3 5 rfl rfl)
theorem dX0_euler_76 : decode cX0_euler 76 = .ok (.aload_n 0, 1) := dk_42 (dk_at dksX0_euler_3 6 rfl rfl)
theorem dX0_euler_77 : decode cX0_euler 77 = .ok (.iload 9, 2) := dk_21 9 (dk_at dksX0_euler_3 7 rfl rfl)
theorem dX0_euler_79 : decode cX0_euler 79 = .ok (.iload 7, 2) := dk_21 7 (dk_at dksX0_euler_3 9 rfl rfl)
theorem dX0_euler_81 : decode cX0_euler 81 = .ok (.invokevirtual 258, 3) := dk_182 1 2 (dk_at dksX0_euler_3 11 rfl rfl)
theorem dX0_euler_84 : decode cX0_euler 84 = .ok (.aload_n 0, 1) := dk_42 (dk_at dksX0_euler_3 14 rfl rfl)
theorem dX0_euler_85 : decode cX0_euler 85 = .ok (.iload 9, 2) := dk_21 9 (dk_at dksX0_euler_3 15 rfl rfl)
theorem dX0_euler_87 : decode cX0_euler 87 = .ok (.iload 8, 2) := dk_21 8 (dk_at dksX0_euler_3 17 rfl rfl)
theorem dX0_euler_89 : decode cX0_euler 89 = .ok (.invokevirtual 258, 3) := dk_182 1 2 (dk_at dksX0_euler_3 19 rfl rfl)
theorem dX0_euler_92 : decode cX0_euler 92 = .ok (.iadd, 1) := dk_96 (dk_at dksX0_euler_3 22 rfl rfl)
theorem dX0_euler_93 : decode cX0_euler 93 = .ok (.iadd, 1) := dk_96 (dk_at dksX0_euler_3 23 rfl rfl)
theorem dX0_euler_94 : decode cX0_euler 94 = .ok (.istore_n 1, 1) := dk_60 (dk_at dksX0_euler_4 0 rfl rfl)
theorem dX0_euler_95 : decode cX0_euler 95 = .ok (.iconst 0, 1) := dk_3 (dk_at dksX0_euler_4 1 rfl rfl)
theorem dX0_euler_96 : decode cX0_euler 96 = .ok (.istore 10, 2) := dk_54 10 (dk_at dksX0_euler_4 2 rfl rfl)
theorem dX0_euler_98 : decode cX0_euler 98 = .ok (.iload 10, 2) := dk_21 10 (dk_at dksX0_euler_4 4 rfl rfl)
theorem dX0_euler_100 : decode cX0_euler 100 = .ok (.iconst 3, 1) := dk_6 (dk_at dksX0_euler_4 6 rfl rfl)
theorem dX0_euler_101 : decode cX0_euler 101 = .ok (.if_icmp .ge 36, 3) := dk_162 0 36 (dk_at dksX0_euler_4 7 rfl rfl)
theorem dX0_euler_104 : decode cX0_euler 104 = .ok (.iload_n 1, 1) := dk_27 (dk_at dksX0_euler_4 10 rfl rfl)
theorem dX0_euler_105 : decode cX0_euler 105 = .ok (.iload 10, 2) := dk_21 10 (dk_at dksX0_euler_4 11 rfl rfl)
theorem dX0_euler_107 : decode cX0_euler 107 = .ok (.iload 7, 2) := dk_21 7 (dk_at dksX0_euler_4 13 rfl rfl)
theorem dX0_euler_109 : decode cX0_euler 109 = .ok (.iload 8, 2) := dk_21 8 (dk_at dksX0_euler_4 15 rfl rfl)
theorem dX0_euler_111 : decode cX0_euler 111 = .ok (.invokestatic 202, 3) := dk_184 0 202 (dk_at dksX0_euler_4 17 rfl rfl)
theorem dX0_euler_114 : decode cX0_euler 114 = .ok (.if_icmp .ne 7, 3) := dk_160 0 7 (dk_at dksX0_euler_4 20 rfl rfl)
theorem dX0_euler_117 : decode cX0_euler 117 = .ok (.iconst 0, 1) := dk_3 (dk_at dksX0_euler_4 23 rfl rfl)
theorem dX0_euler_118 : decode cX0_euler 118 = .ok (.goto 11, 3) := dk_167 0 11 (dk_at dksX0_euler_5 0 rfl rfl)
theorem dX0_euler_121 : decode cX0_euler 121 = .ok (.aload_n 0, 1) := dk_42 (dk_at dksX0_euler_5 3 rfl rfl)
theorem dX0_euler_122 : decode cX0_euler 122 = .ok (.iload 9, 2) := dk_21 9 (dk_at dksX0_euler_5 4 rfl rfl)
theorem dX0_euler_124 : decode cX0_euler 124 = .ok (.iload 10, 2) := dk_21 10 (dk_at dksX0_euler_5 6 rfl rfl)
theorem dX0_euler_126 : decode cX0_euler 126 = .ok (.invokevirtual 261, 3) := dk_182 1 5 (dk_at dksX0_euler_5 8 rfl rfl)
theorem dX0_euler_129 : decode cX0_euler 129 = .ok (.iadd, 1) := dk_96 (dk_at dksX0_euler_5 11 rfl rfl)
theorem dX0_euler_130 : decode cX0_euler 130 = .ok (.istore_n 1, 1) := dk_60 (dk_at dksX0_euler_5 12 rfl rfl)
theorem dX0_euler_131 : decode cX0_euler 131 = .ok (.iinc 10 1, 3) := dk_132 10 1 (dk_at dksX0_euler_5 13 rfl rfl)
theorem dX0_euler_134 : decode cX0_euler 134 = .ok (.goto (-36), 3) := dk_167 255 220 (dk_at dksX0_euler_5 16 rfl rfl)
theorem dX0_euler_137 : decode cX0_euler 137 = .ok (.iinc 5 1, 3) := dk_132 5 1 (dk_at dksX0_euler_5 19 rfl rfl)
theorem dX0_euler_140 : decode cX0_euler 140 = .ok (.goto (-112), 3) := dk_167 255 144 (dk_at dksX0_euler_6 0 rfl rfl)
theorem dX0_euler_143 : decode cX0_euler 143 = .ok (.iconst 0, 1) := dk_3 (dk_at dksX0_euler_6 3 rfl rfl)
theorem dX0_euler_144 : decode cX0_euler 144 = .ok (.istore 5, 2) := dk_54 5 (dk_at dksX0_euler_6 4 rfl rfl)
theorem dX0_euler_146 : decode cX0_euler 146 = .ok (.iload 5, 2) := dk_21 5 (dk_at dksX0_euler_6 6 rfl rfl)
theorem dX0_euler_148 : decode cX0_euler 148 = .ok (.aload_n 0, 1) := dk_42 (dk_at dksX0_euler_6 8 rfl rfl)
theorem dX0_euler_149 : decode cX0_euler 149 = .ok (.getfield 73, 3) := dk_180 0 73 (dk_at dksX0_euler_6 9 rfl rfl)
theorem dX0_euler_152 : decode cX0_euler 152 = .ok (.if_icmp .ge 106, 3) := dk_162 0 106 (dk_at dksX0_euler_6 12 rfl rfl)
theorem dX0_euler_155 : decode cX0_euler 155 = .ok (.iconst 0, 1) := dk_3 (dk_at dksX0_euler_6 15 rfl rfl)
theorem dX0_euler_156 : decode cX0_euler 156 = .ok (.istore 6, 2) := dk_54 6 (dk_at dksX0_euler_6 16 rfl rfl)
theorem dX0_euler_158 : decode cX0_euler 158 = .ok (.iload 6, 2) := dk_21 6 (dk_at dksX0_euler_6 18 rfl rfl)
theorem dX0_euler_160 : decode cX0_euler 160 = .ok (.bipush 7, 2) := dk_16 7 (dk_at dksX0_euler_6 20 rfl rfl)
theorem dX0_euler_162 : decode cX0_euler 162 = .ok (.if_icmp .ge 25, 3) := dk_162 0 25 (dk_at dksX0_euler_7 0 rfl rfl)
theorem dX0_euler_165 : decode cX0_euler 165 = .ok (.iload_n 3, 1) := dk_29 (dk_at dksX0_euler_7 3 rfl rfl)
theorem dX0_euler_166 : decode cX0_euler 166 = .ok (.aload_n 0, 1) := dk_42 (dk_at dksX0_euler_7 4 rfl rfl)
theorem dX0_euler_167 : decode cX0_euler 167 = .ok (.getfield 53, 3) := dk_180 0 53 (dk_at dksX0_euler_7 5 rfl rfl)
theorem dX0_euler_170 : decode cX0_euler 170 = .ok (.bipush 7, 2) := dk_16 7 (dk_at dksX0_euler_7 8 rfl rfl)
theorem dX0_euler_172 : decode cX0_euler 172 = .ok (.iload 5, 2) := dk_21 5 (dk_at dksX0_euler_7 10 rfl rfl)
theorem dX0_euler_174 : decode cX0_euler 174 = .ok (.imul, 1) := dk_104 (dk_at dksX0_euler_7 12 rfl rfl)
theorem dX0_euler_175 : decode cX0_euler 175 = .ok (.iload 6, 2) := dk_21 6 (dk_at dksX0_euler_7 13 rfl rfl)
theorem dX0_euler_177 : decode cX0_euler 177 = .ok (.iadd, 1) := dk_96 (dk_at dksX0_euler_7 15 rfl rfl)
theorem dX0_euler_178 : decode cX0_euler 178 = .ok (.iaload, 1) := dk_46 (dk_at dksX0_euler_7 16 rfl rfl)
theorem dX0_euler_179 : decode cX0_euler 179 = .ok (.iadd, 1) := dk_96 (dk_at dksX0_euler_7 17 rfl rfl)
theorem dX0_euler_180 : decode cX0_euler 180 = .ok (.istore_n 3, 1) := dk_62 (dk_at dksX0_euler_7 18 rfl rfl)
theorem dX0_euler_181 : decode cX0_euler 181 = .ok (.iinc 6 1, 3) := dk_132 6 1 (dk_at dksX0_euler_7 19 rfl rfl)
theorem dX0_euler_184 : decode cX0_euler 184 = .ok (.goto (-26), 3) := dk_167 255 230 (dk_at dksX0_euler_8 0 rfl rfl)
theorem dX0_euler_187 : decode cX0_euler 187 = .ok (.iconst 0, 1) := dk_3 (dk_at dksX0_euler_8 3 rfl rfl)
theorem dX0_euler_188 : decode cX0_euler 188 = .ok (.istore 6, 2) := dk_54 6 (dk_at dksX0_euler_8 4 rfl rfl)
theorem dX0_euler_190 : decode cX0_euler 190 = .ok (.iload 6, 2) := dk_21 6 (dk_at dksX0_euler_8 6 rfl rfl)
theorem dX0_euler_192 : decode cX0_euler 192 = .ok (.iconst 4, 1) := dk_7 (dk_at dksX0_euler_8 8 rfl rfl)
theorem dX0_euler_193 : decode cX0_euler 193 = .ok (.if_icmp .ge 59, 3) := dk_162 0 59 (dk_at dksX0_euler_8 9 rfl rfl)
theorem dX0_euler_196 : decode cX0_euler 196 = .ok (.iconst 0, 1) := dk_3 (dk_at dksX0_euler_8 12 rfl rfl)
theorem dX0_euler_197 : decode cX0_euler 197 = .ok (.istore 7, 2) := dk_54 7 (dk_at dksX0_euler_8 13 rfl rfl)
theorem dX0_euler_199 : decode cX0_euler 199 = .ok (.iload 7, 2) := dk_21 7 (dk_at dksX0_euler_8 15 rfl rfl)
theorem dX0_euler_201 : decode cX0_euler 201 = .ok (.iconst 4, 1) := dk_7 (dk_at dksX0_euler_8 17 rfl rfl)
theorem dX0_euler_202 : decode cX0_euler 202 = .ok (.if_icmp .ge 44, 3) := dk_162 0 44 (dk_at dksX0_euler_8 18 rfl rfl)
theorem dX0_euler_205 : decode cX0_euler 205 = .ok (.aload_n 0, 1) := dk_42 (dk_at dksX0_euler_8 21 rfl rfl)
theorem dX0_euler_206 : decode cX0_euler 206 = .ok (.iload 5, 2) := dk_21 5 (dk_at dksX0_euler_8 22 rfl rfl)
theorem dX0_euler_208 : decode cX0_euler 208 = .ok (.iload 6, 2) := dk_21 6 (dk_at dksX0_euler_9 0 rfl rfl)
theorem dX0_euler_210 : decode cX0_euler 210 = .ok (.invokevirtual 271, 3) := dk_182 1 15 (dk_at dksX0_euler_9 2 rfl rfl)
theorem dX0_euler_213 : decode cX0_euler 213 = .ok (.ifCond .eq 33, 3) := dk_153 0 33 (dk_at dksX0_euler_9 5 rfl rfl)
theorem dX0_euler_216 : decode cX0_euler 216 = .ok (.iload_n 2, 1) := dk_28 (dk_at dksX0_euler_9 8 rfl rfl)
theorem dX0_euler_217 : decode cX0_euler 217 = .ok (.iload 7, 2) := dk_21 7 (dk_at dksX0_euler_9 9 rfl rfl)
theorem dX0_euler_219 : decode cX0_euler 219 = .ok (.iload 6, 2) := dk_21 6 (dk_at dksX0_euler_9 11 rfl rfl)
theorem dX0_euler_221 : decode cX0_euler 221 = .ok (.if_icmp .ne 7, 3) := dk_160 0 7 (dk_at dksX0_euler_9 13 rfl rfl)
theorem dX0_euler_224 : decode cX0_euler 224 = .ok (.iconst 0, 1) := dk_3 (dk_at dksX0_euler_9 16 rfl rfl)
theorem dX0_euler_225 : decode cX0_euler 225 = .ok (.goto 13, 3) := dk_167 0 13 (dk_at dksX0_euler_9 17 rfl rfl)
theorem dX0_euler_228 : decode cX0_euler 228 = .ok (.aload_n 0, 1) := dk_42 (dk_at dksX0_euler_9 20 rfl rfl)
theorem dX0_euler_229 : decode cX0_euler 229 = .ok (.iload 5, 2) := dk_21 5 (dk_at dksX0_euler_9 21 rfl rfl)
theorem dX0_euler_231 : decode cX0_euler 231 = .ok (.iload 6, 2) := dk_21 6 (dk_at dksX0_euler_10 0 rfl rfl)
theorem dX0_euler_233 : decode cX0_euler 233 = .ok (.iload 7, 2) := dk_21 7 (dk_at dksX0_euler_10 2 rfl rfl)
theorem dX0_euler_235 : decode cX0_euler 235 = .ok (.invokevirtual 264, 3) := dk_182 1 8 (dk_at dksX0_euler_10 4 rfl rfl)
theorem dX0_euler_238 : decode cX0_euler 238 = .ok (.iadd, 1) := dk_96 (dk_at dksX0_euler_10 7 rfl rfl)
theorem dX0_euler_239 : decode cX0_euler 239 = .ok (.istore_n 2, 1) := dk_61 (dk_at dksX0_euler_10 8 rfl rfl)
theorem dX0_euler_240 : decode cX0_euler 240 = .ok (.iinc 7 1, 3) := dk_132 7 1 (dk_at dksX0_euler_10 9 rfl rfl)
theorem dX0_euler_243 : decode cX0_euler 243 = .ok (.goto (-44), 3) := dk_167 255 212 (dk_at dksX0_euler_10 12 rfl rfl)
theorem dX0_euler_246 : decode cX0_euler 246 = .ok (.iinc 6 1, 3) := dk_132 6 1 (dk_at dksX0_euler_10 15 rfl rfl)
theorem dX0_euler_249 : decode cX0_euler 249 = .ok (.goto (-59), 3) := dk_167 255 197 (dk_at dksX0_euler_10 18 rfl rfl)
theorem dX0_euler_252 : decode cX0_euler 252 = .ok (.iinc 5 1, 3) := dk_132 5 1 (dk_at dksX0_euler_10 21 rfl rfl)
theorem dX0_euler_255 : decode cX0_euler 255 = .ok (.goto (-109), 3) := dk_167 255 147 (dk_at dksX0_euler_11 0 rfl rfl)
theorem dX0_euler_258 : decode cX0_euler 258 = .ok (.iload_n 1, 1) := dk_27 (dk_at dksX0_euler_11 3 rfl rfl)
theorem dX0_euler_259 : decode cX0_euler 259 = .ok (.iload_n 2, 1) := dk_28 (dk_at dksX0_euler_11 4 rfl rfl)
theorem dX0_euler_260 : decode cX0_euler 260 = .ok (.isub, 1) := dk_100 (dk_at dksX0_euler_11 5 rfl rfl)
theorem dX0_euler_261 : decode cX0_euler 261 = .ok (.iload_n 3, 1) := dk_29 (dk_at dksX0_euler_11 6 rfl rfl)
theorem dX0_euler_262 : decode cX0_euler 262 = .ok (.iadd, 1) := dk_96 (dk_at dksX0_euler_11 7 rfl rfl)
theorem dX0_euler_263 : decode cX0_euler 263 = .ok (.ireturn, 1) := dk_172 (dk_at dksX0_euler_11 8 rfl rfl)
abbrev cX0_isCounted : ByteArray := prog_1_method_50_code
def yX0_isCounted : MethodName := ⟨RX0, "isCounted", "(II)Z"⟩
def dkwX0_isCounted_1 : List UInt8 := [45, 180, 0, 119, 96, 162, 0, 7, 4, 167, 0, 4, 3, 172]
abbrev dktX0_isCounted_1 : List UInt8 := dkwX0_isCounted_1 ++ []
def dkwX0_isCounted_0 : List UInt8 := [42, 180, 0, 11, 27, 50, 28, 50, 78, 45, 198, 0, 22, 27, 7, 104, 28, 96, 45, 180, 0, 116, 7, 104]
abbrev dktX0_isCounted_0 : List UInt8 := dkwX0_isCounted_0 ++ dktX0_isCounted_1
theorem dksX0_isCounted_0 : cX0_isCounted.data.toList.drop 0 = dktX0_isCounted_0 := by decide +kernel
theorem dksX0_isCounted_1 : cX0_isCounted.data.toList.drop 24 = dktX0_isCounted_1 := dk_seg dksX0_isCounted_0 24 rfl rfl
theorem dX0_isCounted_0 : decode cX0_isCounted 0 = .ok (.aload_n 0, 1) := dk_42 (dk_at dksX0_isCounted_0 0 rfl rfl)
theorem dX0_isCounted_1 : decode cX0_isCounted 1 = .ok (.getfield 11, 3) := dk_180 0 11 (dk_at dksX0_isCounted_0 1 rfl rfl)
theorem dX0_isCounted_4 : decode cX0_isCounted 4 = .ok (.iload_n 1, 1) := dk_27 (dk_at dksX0_isCounted_0 4 rfl rfl)
theorem dX0_isCounted_5 : decode cX0_isCounted 5 = .ok (.aaload, 1) := dk_50 (dk_at dksX0_isCounted_0 5 rfl rfl)
theorem dX0_isCounted_6 : decode cX0_isCounted 6 = .ok (.iload_n 2, 1) := dk_28 (dk_at dksX0_isCounted_0 6 rfl rfl)
theorem dX0_isCounted_7 : decode cX0_isCounted 7 = .ok (.aaload, 1) := dk_50 (dk_at dksX0_isCounted_0 7 rfl rfl)
theorem dX0_isCounted_8 : decode cX0_isCounted 8 = .ok (.astore_n 3, 1) := dk_78 (dk_at dksX0_isCounted_0 8 rfl rfl)
theorem dX0_isCounted_9 : decode cX0_isCounted 9 = .ok (.aload_n 3, 1) := dk_45 (dk_at dksX0_isCounted_0 9 rfl rfl)
theorem dX0_isCounted_10 : decode cX0_isCounted 10 = .ok (.ifnull 22, 3) := dk_198 0 22 (dk_at dksX0_isCounted_0 10 rfl rfl)
theorem dX0_isCounted_13 : decode cX0_isCounted 13 = .ok (.iload_n 1, 1) := dk_27 (dk_at dksX0_isCounted_0 13 rfl rfl)
theorem dX0_isCounted_14 : decode cX0_isCounted 14 = .ok (.iconst 4, 1) := dk_7 (dk_at dksX0_isCounted_0 14 rfl rfl)
theorem dX0_isCounted_15 : decode cX0_isCounted 15 = .ok (.imul, 1) := dk_104 (dk_at dksX0_isCounted_0 15 rfl rfl)
theorem dX0_isCounted_16 : decode cX0_isCounted 16 = .ok (.iload_n 2, 1) := dk_28 (dk_at dksX0_isCounted_0 16 rfl rfl)
theorem dX0_isCounted_17 : decode cX0_isCounted 17 = .ok (.iadd, 1) := dk_96 (dk_at dksX0_isCounted_0 17 rfl rfl)
theorem dX0_isCounted_18 : decode cX0_isCounted 18 = .ok (.aload_n 3, 1) := dk_45 (dk_at dksX0_isCounted_0 18 rfl rfl)
theorem dX0_isCounted_19 : decode cX0_isCounted 19 = .ok (.getfield 116, 3) := dk_180 0 116 (dk_at dksX0_isCounted_0 19 rfl rfl)
theorem dX0_isCounted_22 : decode cX0_isCounted 22 = .ok (.iconst 4, 1) := dk_7 (dk_at dksX0_isCounted_0 22 rfl rfl)
theorem dX0_isCounted_23 : decode cX0_isCounted 23 = .ok (.imul, 1) := dk_104 (dk_at dksX0_isCounted_0 23 rfl rfl)
theorem dX0_isCounted_24 : decode cX0_isCounted 24 = .ok (.aload_n 3, 1) := dk_45 (dk_at dksX0_isCounted_1 0 rfl rfl)
theorem dX0_isCounted_25 : decode cX0_isCounted 25 = .ok (.getfield 119, 3) := dk_180 0 119 (dk_at dksX0_isCounted_1 1 rfl rfl)
theorem dX0_isCounted_28 : decode cX0_isCounted 28 = .ok (.iadd, 1) := dk_96 (dk_at dksX0_isCounted_1 4 rfl rfl)
theorem dX0_isCounted_29 : decode cX0_isCounted 29 = .ok (.if_icmp .ge 7, 3) := dk_162 0 7 (dk_at dksX0_isCounted_1 5 rfl rfl)
theorem dX0_isCounted_32 : decode cX0_isCounted 32 = .ok (.iconst 1, 1) := dk_4 (dk_at dksX0_isCounted_1 8 rfl rfl)
theorem dX0_isCounted_33 : decode cX0_isCounted 33 = .ok (.goto 4, 3) := dk_167 0 4 (dk_at dksX0_isCounted_1 9 rfl rfl)
theorem dX0_isCounted_36 : decode cX0_isCounted 36 = .ok (.iconst 0, 1) := dk_3 (dk_at dksX0_isCounted_1 12 rfl rfl)
theorem dX0_isCounted_37 : decode cX0_isCounted 37 = .ok (.ireturn, 1) := dk_172 (dk_at dksX0_isCounted_1 13 rfl rfl)
abbrev cX0_parts : ByteArray := prog_1_method_60_code
def yX0_parts : MethodName := ⟨RX0, "parts", "()I"⟩
def dkwX0_parts_1 : List UInt8 := [167, 0, 7, 42, 182, 1, 41, 172]
abbrev dktX0_parts_1 : List UInt8 := dkwX0_parts_1 ++ []
def dkwX0_parts_0 : List UInt8 := [42, 182, 1, 12, 153, 0, 6, 16, 253, 172, 42, 182, 1, 21, 17, 1, 144, 164, 0, 8, 16, 252]
abbrev dktX0_parts_0 : List UInt8 := dkwX0_parts_0 ++ dktX0_parts_1
theorem dksX0_parts_0 : cX0_parts.data.toList.drop 0 = dktX0_parts_0 := by decide +kernel
theorem dksX0_parts_1 : cX0_parts.data.toList.drop 22 = dktX0_parts_1 := dk_seg dksX0_parts_0 22 rfl rfl
theorem dX0_parts_0 : decode cX0_parts 0 = .ok (.aload_n 0, 1) := dk_42 (dk_at dksX0_parts_0 0 rfl rfl)
theorem dX0_parts_1 : decode cX0_parts 1 = .ok (.invokevirtual 268, 3) := dk_182 1 12 (dk_at dksX0_parts_0 1 rfl rfl)
theorem dX0_parts_4 : decode cX0_parts 4 = .ok (.ifCond .eq 6, 3) := dk_153 0 6 (dk_at dksX0_parts_0 4 rfl rfl)
theorem dX0_parts_7 : decode cX0_parts 7 = .ok (.bipush (-3), 2) := dk_16 253 (dk_at dksX0_parts_0 7 rfl rfl)
theorem dX0_parts_9 : decode cX0_parts 9 = .ok (.ireturn, 1) := dk_172 (dk_at dksX0_parts_0 9 rfl rfl)
theorem dX0_parts_10 : decode cX0_parts 10 = .ok (.aload_n 0, 1) := dk_42 (dk_at dksX0_parts_0 10 rfl rfl)
theorem dX0_parts_11 : decode cX0_parts 11 = .ok (.invokevirtual 277, 3) := dk_182 1 21 (dk_at dksX0_parts_0 11 rfl rfl)
theorem dX0_parts_14 : decode cX0_parts 14 = .ok (.sipush 400, 3) := dk_17 1 144 (dk_at dksX0_parts_0 14 rfl rfl)
theorem dX0_parts_17 : decode cX0_parts 17 = .ok (.if_icmp .le 8, 3) := dk_164 0 8 (dk_at dksX0_parts_0 17 rfl rfl)
theorem dX0_parts_20 : decode cX0_parts 20 = .ok (.bipush (-4), 2) := dk_16 252 (dk_at dksX0_parts_0 20 rfl rfl)
theorem dX0_parts_22 : decode cX0_parts 22 = .ok (.goto 7, 3) := dk_167 0 7 (dk_at dksX0_parts_1 0 rfl rfl)
theorem dX0_parts_25 : decode cX0_parts 25 = .ok (.aload_n 0, 1) := dk_42 (dk_at dksX0_parts_1 3 rfl rfl)
theorem dX0_parts_26 : decode cX0_parts 26 = .ok (.invokevirtual 297, 3) := dk_182 1 41 (dk_at dksX0_parts_1 4 rfl rfl)
theorem dX0_parts_29 : decode cX0_parts 29 = .ok (.ireturn, 1) := dk_172 (dk_at dksX0_parts_1 7 rfl rfl)
abbrev cX0_allCuts : ByteArray := prog_1_method_52_code
def yX0_allCuts : MethodName := ⟨RX0, "allCuts", "()I"⟩
def dkwX0_allCuts_2 : List UInt8 := [180, 0, 57, 16, 7, 42, 180, 0, 73, 104, 46, 172]
abbrev dktX0_allCuts_2 : List UInt8 := dkwX0_allCuts_2 ++ []
def dkwX0_allCuts_1 : List UInt8 := [27, 4, 96, 42, 180, 0, 57, 27, 46, 42, 180, 0, 53, 27, 46, 96, 79, 132, 1, 1, 167, 255, 221, 42]
abbrev dktX0_allCuts_1 : List UInt8 := dkwX0_allCuts_1 ++ dktX0_allCuts_2
def dkwX0_allCuts_0 : List UInt8 := [42, 180, 0, 57, 3, 3, 79, 3, 60, 27, 16, 7, 42, 180, 0, 73, 104, 162, 0, 30, 42, 180, 0, 57]
abbrev dktX0_allCuts_0 : List UInt8 := dkwX0_allCuts_0 ++ dktX0_allCuts_1
theorem dksX0_allCuts_0 : cX0_allCuts.data.toList.drop 0 = dktX0_allCuts_0 := by decide +kernel
theorem dksX0_allCuts_1 : cX0_allCuts.data.toList.drop 24 = dktX0_allCuts_1 := dk_seg dksX0_allCuts_0 24 rfl rfl
theorem dksX0_allCuts_2 : cX0_allCuts.data.toList.drop 48 = dktX0_allCuts_2 := dk_seg dksX0_allCuts_1 24 rfl rfl
theorem dX0_allCuts_0 : decode cX0_allCuts 0 = .ok (.aload_n 0, 1) := dk_42 (dk_at dksX0_allCuts_0 0 rfl rfl)
theorem dX0_allCuts_1 : decode cX0_allCuts 1 = .ok (.getfield 57, 3) := dk_180 0 57 (dk_at dksX0_allCuts_0 1 rfl rfl)
theorem dX0_allCuts_4 : decode cX0_allCuts 4 = .ok (.iconst 0, 1) := dk_3 (dk_at dksX0_allCuts_0 4 rfl rfl)
theorem dX0_allCuts_5 : decode cX0_allCuts 5 = .ok (.iconst 0, 1) := dk_3 (dk_at dksX0_allCuts_0 5 rfl rfl)
theorem dX0_allCuts_6 : decode cX0_allCuts 6 = .ok (.iastore, 1) := dk_79 (dk_at dksX0_allCuts_0 6 rfl rfl)
theorem dX0_allCuts_7 : decode cX0_allCuts 7 = .ok (.iconst 0, 1) := dk_3 (dk_at dksX0_allCuts_0 7 rfl rfl)
theorem dX0_allCuts_8 : decode cX0_allCuts 8 = .ok (.istore_n 1, 1) := dk_60 (dk_at dksX0_allCuts_0 8 rfl rfl)
theorem dX0_allCuts_9 : decode cX0_allCuts 9 = .ok (.iload_n 1, 1) := dk_27 (dk_at dksX0_allCuts_0 9 rfl rfl)
theorem dX0_allCuts_10 : decode cX0_allCuts 10 = .ok (.bipush 7, 2) := dk_16 7 (dk_at dksX0_allCuts_0 10 rfl rfl)
theorem dX0_allCuts_12 : decode cX0_allCuts 12 = .ok (.aload_n 0, 1) := dk_42 (dk_at dksX0_allCuts_0 12 rfl rfl)
theorem dX0_allCuts_13 : decode cX0_allCuts 13 = .ok (.getfield 73, 3) := dk_180 0 73 (dk_at dksX0_allCuts_0 13 rfl rfl)
theorem dX0_allCuts_16 : decode cX0_allCuts 16 = .ok (.imul, 1) := dk_104 (dk_at dksX0_allCuts_0 16 rfl rfl)
theorem dX0_allCuts_17 : decode cX0_allCuts 17 = .ok (.if_icmp .ge 30, 3) := dk_162 0 30 (dk_at dksX0_allCuts_0 17 rfl rfl)
theorem dX0_allCuts_20 : decode cX0_allCuts 20 = .ok (.aload_n 0, 1) := dk_42 (dk_at dksX0_allCuts_0 20 rfl rfl)
theorem dX0_allCuts_21 : decode cX0_allCuts 21 = .ok (.getfield 57, 3) := dk_180 0 57 (dk_at dksX0_allCuts_0 21 rfl rfl)
theorem dX0_allCuts_24 : decode cX0_allCuts 24 = .ok (.iload_n 1, 1) := dk_27 (dk_at dksX0_allCuts_1 0 rfl rfl)
theorem dX0_allCuts_25 : decode cX0_allCuts 25 = .ok (.iconst 1, 1) := dk_4 (dk_at dksX0_allCuts_1 1 rfl rfl)
theorem dX0_allCuts_26 : decode cX0_allCuts 26 = .ok (.iadd, 1) := dk_96 (dk_at dksX0_allCuts_1 2 rfl rfl)
theorem dX0_allCuts_27 : decode cX0_allCuts 27 = .ok (.aload_n 0, 1) := dk_42 (dk_at dksX0_allCuts_1 3 rfl rfl)
theorem dX0_allCuts_28 : decode cX0_allCuts 28 = .ok (.getfield 57, 3) := dk_180 0 57 (dk_at dksX0_allCuts_1 4 rfl rfl)
theorem dX0_allCuts_31 : decode cX0_allCuts 31 = .ok (.iload_n 1, 1) := dk_27 (dk_at dksX0_allCuts_1 7 rfl rfl)
theorem dX0_allCuts_32 : decode cX0_allCuts 32 = .ok (.iaload, 1) := dk_46 (dk_at dksX0_allCuts_1 8 rfl rfl)
theorem dX0_allCuts_33 : decode cX0_allCuts 33 = .ok (.aload_n 0, 1) := dk_42 (dk_at dksX0_allCuts_1 9 rfl rfl)
theorem dX0_allCuts_34 : decode cX0_allCuts 34 = .ok (.getfield 53, 3) := dk_180 0 53 (dk_at dksX0_allCuts_1 10 rfl rfl)
theorem dX0_allCuts_37 : decode cX0_allCuts 37 = .ok (.iload_n 1, 1) := dk_27 (dk_at dksX0_allCuts_1 13 rfl rfl)
theorem dX0_allCuts_38 : decode cX0_allCuts 38 = .ok (.iaload, 1) := dk_46 (dk_at dksX0_allCuts_1 14 rfl rfl)
theorem dX0_allCuts_39 : decode cX0_allCuts 39 = .ok (.iadd, 1) := dk_96 (dk_at dksX0_allCuts_1 15 rfl rfl)
theorem dX0_allCuts_40 : decode cX0_allCuts 40 = .ok (.iastore, 1) := dk_79 (dk_at dksX0_allCuts_1 16 rfl rfl)
theorem dX0_allCuts_41 : decode cX0_allCuts 41 = .ok (.iinc 1 1, 3) := dk_132 1 1 (dk_at dksX0_allCuts_1 17 rfl rfl)
theorem dX0_allCuts_44 : decode cX0_allCuts 44 = .ok (.goto (-35), 3) := dk_167 255 221 (dk_at dksX0_allCuts_1 20 rfl rfl)
theorem dX0_allCuts_47 : decode cX0_allCuts 47 = .ok (.aload_n 0, 1) := dk_42 (dk_at dksX0_allCuts_1 23 rfl rfl)
theorem dX0_allCuts_48 : decode cX0_allCuts 48 = .ok (.getfield 57, 3) := dk_180 0 57 (dk_at dksX0_allCuts_2 0 rfl rfl)
theorem dX0_allCuts_51 : decode cX0_allCuts 51 = .ok (.bipush 7, 2) := dk_16 7 (dk_at dksX0_allCuts_2 3 rfl rfl)
theorem dX0_allCuts_53 : decode cX0_allCuts 53 = .ok (.aload_n 0, 1) := dk_42 (dk_at dksX0_allCuts_2 5 rfl rfl)
theorem dX0_allCuts_54 : decode cX0_allCuts 54 = .ok (.getfield 73, 3) := dk_180 0 73 (dk_at dksX0_allCuts_2 6 rfl rfl)
theorem dX0_allCuts_57 : decode cX0_allCuts 57 = .ok (.imul, 1) := dk_104 (dk_at dksX0_allCuts_2 9 rfl rfl)
theorem dX0_allCuts_58 : decode cX0_allCuts 58 = .ok (.iaload, 1) := dk_46 (dk_at dksX0_allCuts_2 10 rfl rfl)
theorem dX0_allCuts_59 : decode cX0_allCuts 59 = .ok (.ireturn, 1) := dk_172 (dk_at dksX0_allCuts_2 11 rfl rfl)
abbrev cX0_findParts : ByteArray := prog_1_method_57_code
def yX0_findParts : MethodName := ⟨RX0, "findParts", "()I"⟩
def dkwX0_findParts_2 : List UInt8 := [180, 0, 69, 28, 3, 84, 42, 29, 28, 182, 1, 24, 132, 2, 1, 132, 3, 1, 167, 255, 222, 28, 172]
abbrev dktX0_findParts_2 : List UInt8 := dkwX0_findParts_2 ++ []
def dkwX0_findParts_1 : List UInt8 := [167, 255, 241, 3, 61, 3, 62, 29, 27, 162, 0, 35, 42, 180, 0, 60, 29, 46, 2, 160, 0, 19, 42]
abbrev dktX0_findParts_1 : List UInt8 := dkwX0_findParts_1 ++ dktX0_findParts_2
def dkwX0_findParts_0 : List UInt8 := [42, 182, 1, 21, 60, 3, 61, 28, 27, 162, 0, 16, 42, 180, 0, 60, 28, 2, 79, 132, 2, 1]
abbrev dktX0_findParts_0 : List UInt8 := dkwX0_findParts_0 ++ dktX0_findParts_1
theorem dksX0_findParts_0 : cX0_findParts.data.toList.drop 0 = dktX0_findParts_0 := by decide +kernel
theorem dksX0_findParts_1 : cX0_findParts.data.toList.drop 22 = dktX0_findParts_1 := dk_seg dksX0_findParts_0 22 rfl rfl
theorem dksX0_findParts_2 : cX0_findParts.data.toList.drop 45 = dktX0_findParts_2 := dk_seg dksX0_findParts_1 23 rfl rfl
theorem dX0_findParts_0 : decode cX0_findParts 0 = .ok (.aload_n 0, 1) := dk_42 (dk_at dksX0_findParts_0 0 rfl rfl)
theorem dX0_findParts_1 : decode cX0_findParts 1 = .ok (.invokevirtual 277, 3) := dk_182 1 21 (dk_at dksX0_findParts_0 1 rfl rfl)
theorem dX0_findParts_4 : decode cX0_findParts 4 = .ok (.istore_n 1, 1) := dk_60 (dk_at dksX0_findParts_0 4 rfl rfl)
theorem dX0_findParts_5 : decode cX0_findParts 5 = .ok (.iconst 0, 1) := dk_3 (dk_at dksX0_findParts_0 5 rfl rfl)
theorem dX0_findParts_6 : decode cX0_findParts 6 = .ok (.istore_n 2, 1) := dk_61 (dk_at dksX0_findParts_0 6 rfl rfl)
theorem dX0_findParts_7 : decode cX0_findParts 7 = .ok (.iload_n 2, 1) := dk_28 (dk_at dksX0_findParts_0 7 rfl rfl)
theorem dX0_findParts_8 : decode cX0_findParts 8 = .ok (.iload_n 1, 1) := dk_27 (dk_at dksX0_findParts_0 8 rfl rfl)
theorem dX0_findParts_9 : decode cX0_findParts 9 = .ok (.if_icmp .ge 16, 3) := dk_162 0 16 (dk_at dksX0_findParts_0 9 rfl rfl)
theorem dX0_findParts_12 : decode cX0_findParts 12 = .ok (.aload_n 0, 1) := dk_42 (dk_at dksX0_findParts_0 12 rfl rfl)
theorem dX0_findParts_13 : decode cX0_findParts 13 = .ok (.getfield 60, 3) := dk_180 0 60 (dk_at dksX0_findParts_0 13 rfl rfl)
theorem dX0_findParts_16 : decode cX0_findParts 16 = .ok (.iload_n 2, 1) := dk_28 (dk_at dksX0_findParts_0 16 rfl rfl)
theorem dX0_findParts_17 : decode cX0_findParts 17 = .ok (.iconst (-1), 1) := dk_2 (dk_at dksX0_findParts_0 17 rfl rfl)
theorem dX0_findParts_18 : decode cX0_findParts 18 = .ok (.iastore, 1) := dk_79 (dk_at dksX0_findParts_0 18 rfl rfl)
theorem dX0_findParts_19 : decode cX0_findParts 19 = .ok (.iinc 2 1, 3) := dk_132 2 1 (dk_at dksX0_findParts_0 19 rfl rfl)
theorem dX0_findParts_22 : decode cX0_findParts 22 = .ok (.goto (-15), 3) := dk_167 255 241 (dk_at dksX0_findParts_1 0 rfl rfl)
theorem dX0_findParts_25 : decode cX0_findParts 25 = .ok (.iconst 0, 1) := dk_3 (dk_at dksX0_findParts_1 3 rfl rfl)
theorem dX0_findParts_26 : decode cX0_findParts 26 = .ok (.istore_n 2, 1) := dk_61 (dk_at dksX0_findParts_1 4 rfl rfl)
theorem dX0_findParts_27 : decode cX0_findParts 27 = .ok (.iconst 0, 1) := dk_3 (dk_at dksX0_findParts_1 5 rfl rfl)
theorem dX0_findParts_28 : decode cX0_findParts 28 = .ok (.istore_n 3, 1) := dk_62 (dk_at dksX0_findParts_1 6 rfl rfl)
theorem dX0_findParts_29 : decode cX0_findParts 29 = .ok (.iload_n 3, 1) := dk_29 (dk_at dksX0_findParts_1 7 rfl rfl)
theorem dX0_findParts_30 : decode cX0_findParts 30 = .ok (.iload_n 1, 1) := dk_27 (dk_at dksX0_findParts_1 8 rfl rfl)
theorem dX0_findParts_31 : decode cX0_findParts 31 = .ok (.if_icmp .ge 35, 3) := dk_162 0 35 (dk_at dksX0_findParts_1 9 rfl rfl)
theorem dX0_findParts_34 : decode cX0_findParts 34 = .ok (.aload_n 0, 1) := dk_42 (dk_at dksX0_findParts_1 12 rfl rfl)
theorem dX0_findParts_35 : decode cX0_findParts 35 = .ok (.getfield 60, 3) := dk_180 0 60 (dk_at dksX0_findParts_1 13 rfl rfl)
theorem dX0_findParts_38 : decode cX0_findParts 38 = .ok (.iload_n 3, 1) := dk_29 (dk_at dksX0_findParts_1 16 rfl rfl)
theorem dX0_findParts_39 : decode cX0_findParts 39 = .ok (.iaload, 1) := dk_46 (dk_at dksX0_findParts_1 17 rfl rfl)
theorem dX0_findParts_40 : decode cX0_findParts 40 = .ok (.iconst (-1), 1) := dk_2 (dk_at dksX0_findParts_1 18 rfl rfl)
theorem dX0_findParts_41 : decode cX0_findParts 41 = .ok (.if_icmp .ne 19, 3) := dk_160 0 19 (dk_at dksX0_findParts_1 19 rfl rfl)
theorem dX0_findParts_44 : decode cX0_findParts 44 = .ok (.aload_n 0, 1) := dk_42 (dk_at dksX0_findParts_1 22 rfl rfl)
theorem dX0_findParts_45 : decode cX0_findParts 45 = .ok (.getfield 69, 3) := dk_180 0 69 (dk_at dksX0_findParts_2 0 rfl rfl)
theorem dX0_findParts_48 : decode cX0_findParts 48 = .ok (.iload_n 2, 1) := dk_28 (dk_at dksX0_findParts_2 3 rfl rfl)
theorem dX0_findParts_49 : decode cX0_findParts 49 = .ok (.iconst 0, 1) := dk_3 (dk_at dksX0_findParts_2 4 rfl rfl)
theorem dX0_findParts_50 : decode cX0_findParts 50 = .ok (.bastore, 1) := dk_84 (dk_at dksX0_findParts_2 5 rfl rfl)
theorem dX0_findParts_51 : decode cX0_findParts 51 = .ok (.aload_n 0, 1) := dk_42 (dk_at dksX0_findParts_2 6 rfl rfl)
theorem dX0_findParts_52 : decode cX0_findParts 52 = .ok (.iload_n 3, 1) := dk_29 (dk_at dksX0_findParts_2 7 rfl rfl)
theorem dX0_findParts_53 : decode cX0_findParts 53 = .ok (.iload_n 2, 1) := dk_28 (dk_at dksX0_findParts_2 8 rfl rfl)
theorem dX0_findParts_54 : decode cX0_findParts 54 = .ok (.invokevirtual 280, 3) := dk_182 1 24 (dk_at dksX0_findParts_2 9 rfl rfl)
theorem dX0_findParts_57 : decode cX0_findParts 57 = .ok (.iinc 2 1, 3) := dk_132 2 1 (dk_at dksX0_findParts_2 12 rfl rfl)
theorem dX0_findParts_60 : decode cX0_findParts 60 = .ok (.iinc 3 1, 3) := dk_132 3 1 (dk_at dksX0_findParts_2 15 rfl rfl)
theorem dX0_findParts_63 : decode cX0_findParts 63 = .ok (.goto (-34), 3) := dk_167 255 222 (dk_at dksX0_findParts_2 18 rfl rfl)
theorem dX0_findParts_66 : decode cX0_findParts 66 = .ok (.iload_n 2, 1) := dk_28 (dk_at dksX0_findParts_2 21 rfl rfl)
theorem dX0_findParts_67 : decode cX0_findParts 67 = .ok (.ireturn, 1) := dk_172 (dk_at dksX0_findParts_2 22 rfl rfl)
abbrev cX0_spread : ByteArray := prog_1_method_58_code
def yX0_spread : MethodName := ⟨RX0, "spread", "(II)V"⟩
def dkwX0_spread_10 : List UInt8 := [167, 255, 89, 132, 8, 1, 167, 255, 74, 132, 4, 1, 167, 255, 35, 177]
abbrev dktX0_spread_10 : List UInt8 := dkwX0_spread_10 ++ []
def dkwX0_spread_9 : List UInt8 := [92, 51, 42, 180, 0, 63, 21, 10, 46, 21, 11, 159, 0, 7, 4, 167, 0, 4, 3, 128, 84, 132, 9, 1]
abbrev dktX0_spread_9 : List UInt8 := dkwX0_spread_9 ++ dktX0_spread_10
def dkwX0_spread_8 : List UInt8 := [180, 0, 63, 21, 10, 21, 11, 79, 42, 180, 0, 66, 29, 21, 10, 79, 132, 3, 1, 42, 180, 0, 69, 28]
abbrev dktX0_spread_8 : List UInt8 := dkwX0_spread_8 ++ dktX0_spread_9
def dkwX0_spread_7 : List UInt8 := [54, 11, 42, 180, 0, 60, 21, 10, 46, 2, 160, 0, 31, 42, 180, 0, 60, 21, 10, 28, 79, 42]
abbrev dktX0_spread_7 : List UInt8 := dkwX0_spread_7 ++ dktX0_spread_8
def dkwX0_spread_6 : List UInt8 := [16, 7, 112, 42, 180, 0, 11, 21, 7, 50, 21, 8, 50, 180, 0, 175, 21, 9, 46, 184, 1, 35, 104]
abbrev dktX0_spread_6 : List UInt8 := dkwX0_spread_6 ++ dktX0_spread_7
def dkwX0_spread_5 : List UInt8 := [180, 0, 63, 21, 5, 46, 21, 6, 16, 7, 112, 21, 9, 184, 1, 35, 104, 42, 21, 10, 182, 1, 28]
abbrev dktX0_spread_5 : List UInt8 := dkwX0_spread_5 ++ dktX0_spread_6
def dkwX0_spread_4 : List UInt8 := [167, 0, 15, 42, 21, 5, 21, 7, 21, 8, 21, 9, 182, 1, 31, 54, 10, 21, 10, 2, 159, 0, 117, 42]
abbrev dktX0_spread_4 : List UInt8 := dkwX0_spread_4 ++ dktX0_spread_5
def dkwX0_spread_3 : List UInt8 := [162, 0, 167, 42, 180, 0, 11, 21, 7, 50, 21, 8, 50, 198, 0, 154, 21, 9, 21, 8, 160, 0, 7, 2]
abbrev dktX0_spread_3 : List UInt8 := dkwX0_spread_3 ++ dktX0_spread_4
def dkwX0_spread_2 : List UInt8 := [54, 6, 21, 6, 16, 7, 108, 54, 7, 3, 54, 8, 21, 8, 7, 162, 0, 182, 3, 54, 9, 21, 9, 7]
abbrev dktX0_spread_2 : List UInt8 := dkwX0_spread_2 ++ dktX0_spread_3
def dkwX0_spread_1 : List UInt8 := [54, 4, 21, 4, 29, 162, 0, 221, 42, 180, 0, 66, 21, 4, 46, 54, 5, 42, 21, 5, 182, 1, 28]
abbrev dktX0_spread_1 : List UInt8 := dkwX0_spread_1 ++ dktX0_spread_2
def dkwX0_spread_0 : List UInt8 := [4, 62, 42, 180, 0, 66, 3, 27, 79, 42, 180, 0, 60, 27, 28, 79, 42, 180, 0, 63, 27, 4, 79, 3]
abbrev dktX0_spread_0 : List UInt8 := dkwX0_spread_0 ++ dktX0_spread_1
theorem dksX0_spread_0 : cX0_spread.data.toList.drop 0 = dktX0_spread_0 := by decide +kernel
theorem dksX0_spread_1 : cX0_spread.data.toList.drop 24 = dktX0_spread_1 := dk_seg dksX0_spread_0 24 rfl rfl
theorem dksX0_spread_2 : cX0_spread.data.toList.drop 47 = dktX0_spread_2 := dk_seg dksX0_spread_1 23 rfl rfl
theorem dksX0_spread_3 : cX0_spread.data.toList.drop 71 = dktX0_spread_3 := dk_seg dksX0_spread_2 24 rfl rfl
theorem dksX0_spread_4 : cX0_spread.data.toList.drop 95 = dktX0_spread_4 := dk_seg dksX0_spread_3 24 rfl rfl
theorem dksX0_spread_5 : cX0_spread.data.toList.drop 119 = dktX0_spread_5 := dk_seg dksX0_spread_4 24 rfl rfl
theorem dksX0_spread_6 : cX0_spread.data.toList.drop 142 = dktX0_spread_6 := dk_seg dksX0_spread_5 23 rfl rfl
theorem dksX0_spread_7 : cX0_spread.data.toList.drop 165 = dktX0_spread_7 := dk_seg dksX0_spread_6 23 rfl rfl
theorem dksX0_spread_8 : cX0_spread.data.toList.drop 187 = dktX0_spread_8 := dk_seg dksX0_spread_7 22 rfl rfl
theorem dksX0_spread_9 : cX0_spread.data.toList.drop 211 = dktX0_spread_9 := dk_seg dksX0_spread_8 24 rfl rfl
theorem dksX0_spread_10 : cX0_spread.data.toList.drop 235 = dktX0_spread_10 := dk_seg dksX0_spread_9 24 rfl rfl
theorem dX0_spread_0 : decode cX0_spread 0 = .ok (.iconst 1, 1) := dk_4 (dk_at dksX0_spread_0 0 rfl rfl)
theorem dX0_spread_1 : decode cX0_spread 1 = .ok (.istore_n 3, 1) := dk_62 (dk_at dksX0_spread_0 1 rfl rfl)
theorem dX0_spread_2 : decode cX0_spread 2 = .ok (.aload_n 0, 1) := dk_42 (dk_at dksX0_spread_0 2 rfl rfl)
theorem dX0_spread_3 : decode cX0_spread 3 = .ok (.getfield 66, 3) := dk_180 0 66 (dk_at dksX0_spread_0 3 rfl rfl)
theorem dX0_spread_6 : decode cX0_spread 6 = .ok (.iconst 0, 1) := dk_3 (dk_at dksX0_spread_0 6 rfl rfl)
theorem dX0_spread_7 : decode cX0_spread 7 = .ok (.iload_n 1, 1) := dk_27 (dk_at dksX0_spread_0 7 rfl rfl)
theorem dX0_spread_8 : decode cX0_spread 8 = .ok (.iastore, 1) := dk_79 (dk_at dksX0_spread_0 8 rfl rfl)
theorem dX0_spread_9 : decode cX0_spread 9 = .ok (.aload_n 0, 1) := dk_42 (dk_at dksX0_spread_0 9 rfl rfl)
theorem dX0_spread_10 : decode cX0_spread 10 = .ok (.getfield 60, 3) := dk_180 0 60 (dk_at dksX0_spread_0 10 rfl rfl)
theorem dX0_spread_13 : decode cX0_spread 13 = .ok (.iload_n 1, 1) := dk_27 (dk_at dksX0_spread_0 13 rfl rfl)
theorem dX0_spread_14 : decode cX0_spread 14 = .ok (.iload_n 2, 1) := dk_28 (dk_at dksX0_spread_0 14 rfl rfl)
theorem dX0_spread_15 : decode cX0_spread 15 = .ok (.iastore, 1) := dk_79 (dk_at dksX0_spread_0 15 rfl rfl)
theorem dX0_spread_16 : decode cX0_spread 16 = .ok (.aload_n 0, 1) := dk_42 (dk_at dksX0_spread_0 16 rfl rfl)
theorem dX0_spread_17 : decode cX0_spread 17 = .ok (.getfield 63, 3) := dk_180 0 63 (dk_at dksX0_spread_0 17 rfl rfl)
theorem dX0_spread_20 : decode cX0_spread 20 = .ok (.iload_n 1, 1) := dk_27 (dk_at dksX0_spread_0 20 rfl rfl)
theorem dX0_spread_21 : decode cX0_spread 21 = .ok (.iconst 1, 1) := dk_4 (dk_at dksX0_spread_0 21 rfl rfl)
theorem dX0_spread_22 : decode cX0_spread 22 = .ok (.iastore, 1) := dk_79 (dk_at dksX0_spread_0 22 rfl rfl)
theorem dX0_spread_23 : decode cX0_spread 23 = .ok (.iconst 0, 1) := dk_3 (dk_at dksX0_spread_0 23 rfl rfl)
theorem dX0_spread_24 : decode cX0_spread 24 = .ok (.istore 4, 2) := dk_54 4 (dk_at dksX0_spread_1 0 rfl rfl)
theorem dX0_spread_26 : decode cX0_spread 26 = .ok (.iload 4, 2) := dk_21 4 (dk_at dksX0_spread_1 2 rfl rfl)
theorem dX0_spread_28 : decode cX0_spread 28 = .ok (.iload_n 3, 1) := dk_29 (dk_at dksX0_spread_1 4 rfl rfl)
theorem dX0_spread_29 : decode cX0_spread 29 = .ok (.if_icmp .ge 221, 3) := dk_162 0 221 (dk_at dksX0_spread_1 5 rfl rfl)
theorem dX0_spread_32 : decode cX0_spread 32 = .ok (.aload_n 0, 1) := dk_42 (dk_at dksX0_spread_1 8 rfl rfl)
theorem dX0_spread_33 : decode cX0_spread 33 = .ok (.getfield 66, 3) := dk_180 0 66 (dk_at dksX0_spread_1 9 rfl rfl)
theorem dX0_spread_36 : decode cX0_spread 36 = .ok (.iload 4, 2) := dk_21 4 (dk_at dksX0_spread_1 12 rfl rfl)
theorem dX0_spread_38 : decode cX0_spread 38 = .ok (.iaload, 1) := dk_46 (dk_at dksX0_spread_1 14 rfl rfl)
theorem dX0_spread_39 : decode cX0_spread 39 = .ok (.istore 5, 2) := dk_54 5 (dk_at dksX0_spread_1 15 rfl rfl)
theorem dX0_spread_41 : decode cX0_spread 41 = .ok (.aload_n 0, 1) := dk_42 (dk_at dksX0_spread_1 17 rfl rfl)
theorem dX0_spread_42 : decode cX0_spread 42 = .ok (.iload 5, 2) := dk_21 5 (dk_at dksX0_spread_1 18 rfl rfl)
theorem dX0_spread_44 : decode cX0_spread 44 = .ok (.invokevirtual 284, 3) := dk_182 1 28 (dk_at dksX0_spread_1 20 rfl rfl)
theorem dX0_spread_47 : decode cX0_spread 47 = .ok (.istore 6, 2) := dk_54 6 (dk_at dksX0_spread_2 0 rfl rfl)
theorem dX0_spread_49 : decode cX0_spread 49 = .ok (.iload 6, 2) := dk_21 6 (dk_at dksX0_spread_2 2 rfl rfl)
theorem dX0_spread_51 : decode cX0_spread 51 = .ok (.bipush 7, 2) := dk_16 7 (dk_at dksX0_spread_2 4 rfl rfl)
theorem dX0_spread_53 : decode cX0_spread 53 = .ok (.idiv, 1) := dk_108 (dk_at dksX0_spread_2 6 rfl rfl)
theorem dX0_spread_54 : decode cX0_spread 54 = .ok (.istore 7, 2) := dk_54 7 (dk_at dksX0_spread_2 7 rfl rfl)
theorem dX0_spread_56 : decode cX0_spread 56 = .ok (.iconst 0, 1) := dk_3 (dk_at dksX0_spread_2 9 rfl rfl)
theorem dX0_spread_57 : decode cX0_spread 57 = .ok (.istore 8, 2) := dk_54 8 (dk_at dksX0_spread_2 10 rfl rfl)
theorem dX0_spread_59 : decode cX0_spread 59 = .ok (.iload 8, 2) := dk_21 8 (dk_at dksX0_spread_2 12 rfl rfl)
theorem dX0_spread_61 : decode cX0_spread 61 = .ok (.iconst 4, 1) := dk_7 (dk_at dksX0_spread_2 14 rfl rfl)
theorem dX0_spread_62 : decode cX0_spread 62 = .ok (.if_icmp .ge 182, 3) := dk_162 0 182 (dk_at dksX0_spread_2 15 rfl rfl)
theorem dX0_spread_65 : decode cX0_spread 65 = .ok (.iconst 0, 1) := dk_3 (dk_at dksX0_spread_2 18 rfl rfl)
theorem dX0_spread_66 : decode cX0_spread 66 = .ok (.istore 9, 2) := dk_54 9 (dk_at dksX0_spread_2 19 rfl rfl)
theorem dX0_spread_68 : decode cX0_spread 68 = .ok (.iload 9, 2) := dk_21 9 (dk_at dksX0_spread_2 21 rfl rfl)
theorem dX0_spread_70 : decode cX0_spread 70 = .ok (.iconst 4, 1) := dk_7 (dk_at dksX0_spread_2 23 rfl rfl)
theorem dX0_spread_71 : decode cX0_spread 71 = .ok (.if_icmp .ge 167, 3) := dk_162 0 167 (dk_at dksX0_spread_3 0 rfl rfl)
theorem dX0_spread_74 : decode cX0_spread 74 = .ok (.aload_n 0, 1) := dk_42 (dk_at dksX0_spread_3 3 rfl rfl)
theorem dX0_spread_75 : decode cX0_spread 75 = .ok (.getfield 11, 3) := dk_180 0 11 (dk_at dksX0_spread_3 4 rfl rfl)
theorem dX0_spread_78 : decode cX0_spread 78 = .ok (.iload 7, 2) := dk_21 7 (dk_at dksX0_spread_3 7 rfl rfl)
theorem dX0_spread_80 : decode cX0_spread 80 = .ok (.aaload, 1) := dk_50 (dk_at dksX0_spread_3 9 rfl rfl)
theorem dX0_spread_81 : decode cX0_spread 81 = .ok (.iload 8, 2) := dk_21 8 (dk_at dksX0_spread_3 10 rfl rfl)
theorem dX0_spread_83 : decode cX0_spread 83 = .ok (.aaload, 1) := dk_50 (dk_at dksX0_spread_3 12 rfl rfl)
theorem dX0_spread_84 : decode cX0_spread 84 = .ok (.ifnull 154, 3) := dk_198 0 154 (dk_at dksX0_spread_3 13 rfl rfl)
theorem dX0_spread_87 : decode cX0_spread 87 = .ok (.iload 9, 2) := dk_21 9 (dk_at dksX0_spread_3 16 rfl rfl)
theorem dX0_spread_89 : decode cX0_spread 89 = .ok (.iload 8, 2) := dk_21 8 (dk_at dksX0_spread_3 18 rfl rfl)
theorem dX0_spread_91 : decode cX0_spread 91 = .ok (.if_icmp .ne 7, 3) := dk_160 0 7 (dk_at dksX0_spread_3 20 rfl rfl)
theorem dX0_spread_94 : decode cX0_spread 94 = .ok (.iconst (-1), 1) := dk_2 (dk_at dksX0_spread_3 23 rfl rfl)
theorem dX0_spread_95 : decode cX0_spread 95 = .ok (.goto 15, 3) := dk_167 0 15 (dk_at dksX0_spread_4 0 rfl rfl)
theorem dX0_spread_98 : decode cX0_spread 98 = .ok (.aload_n 0, 1) := dk_42 (dk_at dksX0_spread_4 3 rfl rfl)
theorem dX0_spread_99 : decode cX0_spread 99 = .ok (.iload 5, 2) := dk_21 5 (dk_at dksX0_spread_4 4 rfl rfl)
theorem dX0_spread_101 : decode cX0_spread 101 = .ok (.iload 7, 2) := dk_21 7 (dk_at dksX0_spread_4 6 rfl rfl)
theorem dX0_spread_103 : decode cX0_spread 103 = .ok (.iload 8, 2) := dk_21 8 (dk_at dksX0_spread_4 8 rfl rfl)
theorem dX0_spread_105 : decode cX0_spread 105 = .ok (.iload 9, 2) := dk_21 9 (dk_at dksX0_spread_4 10 rfl rfl)
theorem dX0_spread_107 : decode cX0_spread 107 = .ok (.invokevirtual 287, 3) := dk_182 1 31 (dk_at dksX0_spread_4 12 rfl rfl)
theorem dX0_spread_110 : decode cX0_spread 110 = .ok (.istore 10, 2) := dk_54 10 (dk_at dksX0_spread_4 15 rfl rfl)
theorem dX0_spread_112 : decode cX0_spread 112 = .ok (.iload 10, 2) := dk_21 10 (dk_at dksX0_spread_4 17 rfl rfl)
theorem dX0_spread_114 : decode cX0_spread 114 = .ok (.iconst (-1), 1) := dk_2 (dk_at dksX0_spread_4 19 rfl rfl)
theorem dX0_spread_115 : decode cX0_spread 115 = .ok (.if_icmp .eq 117, 3) := dk_159 0 117 (dk_at dksX0_spread_4 20 rfl rfl)
theorem dX0_spread_118 : decode cX0_spread 118 = .ok (.aload_n 0, 1) := dk_42 (dk_at dksX0_spread_4 23 rfl rfl)
theorem dX0_spread_119 : decode cX0_spread 119 = .ok (.getfield 63, 3) := dk_180 0 63 (dk_at dksX0_spread_5 0 rfl rfl)
theorem dX0_spread_122 : decode cX0_spread 122 = .ok (.iload 5, 2) := dk_21 5 (dk_at dksX0_spread_5 3 rfl rfl)
theorem dX0_spread_124 : decode cX0_spread 124 = .ok (.iaload, 1) := dk_46 (dk_at dksX0_spread_5 5 rfl rfl)
theorem dX0_spread_125 : decode cX0_spread 125 = .ok (.iload 6, 2) := dk_21 6 (dk_at dksX0_spread_5 6 rfl rfl)
theorem dX0_spread_127 : decode cX0_spread 127 = .ok (.bipush 7, 2) := dk_16 7 (dk_at dksX0_spread_5 8 rfl rfl)
theorem dX0_spread_129 : decode cX0_spread 129 = .ok (.irem, 1) := dk_112 (dk_at dksX0_spread_5 10 rfl rfl)
theorem dX0_spread_130 : decode cX0_spread 130 = .ok (.iload 9, 2) := dk_21 9 (dk_at dksX0_spread_5 11 rfl rfl)
theorem dX0_spread_132 : decode cX0_spread 132 = .ok (.invokestatic 291, 3) := dk_184 1 35 (dk_at dksX0_spread_5 13 rfl rfl)
theorem dX0_spread_135 : decode cX0_spread 135 = .ok (.imul, 1) := dk_104 (dk_at dksX0_spread_5 16 rfl rfl)
theorem dX0_spread_136 : decode cX0_spread 136 = .ok (.aload_n 0, 1) := dk_42 (dk_at dksX0_spread_5 17 rfl rfl)
theorem dX0_spread_137 : decode cX0_spread 137 = .ok (.iload 10, 2) := dk_21 10 (dk_at dksX0_spread_5 18 rfl rfl)
theorem dX0_spread_139 : decode cX0_spread 139 = .ok (.invokevirtual 284, 3) := dk_182 1 28 (dk_at dksX0_spread_5 20 rfl rfl)
theorem dX0_spread_142 : decode cX0_spread 142 = .ok (.bipush 7, 2) := dk_16 7 (dk_at dksX0_spread_6 0 rfl rfl)
theorem dX0_spread_144 : decode cX0_spread 144 = .ok (.irem, 1) := dk_112 (dk_at dksX0_spread_6 2 rfl rfl)
theorem dX0_spread_145 : decode cX0_spread 145 = .ok (.aload_n 0, 1) := dk_42 (dk_at dksX0_spread_6 3 rfl rfl)
theorem dX0_spread_146 : decode cX0_spread 146 = .ok (.getfield 11, 3) := dk_180 0 11 (dk_at dksX0_spread_6 4 rfl rfl)
theorem dX0_spread_149 : decode cX0_spread 149 = .ok (.iload 7, 2) := dk_21 7 (dk_at dksX0_spread_6 7 rfl rfl)
theorem dX0_spread_151 : decode cX0_spread 151 = .ok (.aaload, 1) := dk_50 (dk_at dksX0_spread_6 9 rfl rfl)
theorem dX0_spread_152 : decode cX0_spread 152 = .ok (.iload 8, 2) := dk_21 8 (dk_at dksX0_spread_6 10 rfl rfl)
theorem dX0_spread_154 : decode cX0_spread 154 = .ok (.aaload, 1) := dk_50 (dk_at dksX0_spread_6 12 rfl rfl)
theorem dX0_spread_155 : decode cX0_spread 155 = .ok (.getfield 175, 3) := dk_180 0 175 (dk_at dksX0_spread_6 13 rfl rfl)
theorem dX0_spread_158 : decode cX0_spread 158 = .ok (.iload 9, 2) := dk_21 9 (dk_at dksX0_spread_6 16 rfl rfl)
theorem dX0_spread_160 : decode cX0_spread 160 = .ok (.iaload, 1) := dk_46 (dk_at dksX0_spread_6 18 rfl rfl)
theorem dX0_spread_161 : decode cX0_spread 161 = .ok (.invokestatic 291, 3) := dk_184 1 35 (dk_at dksX0_spread_6 19 rfl rfl)
theorem dX0_spread_164 : decode cX0_spread 164 = .ok (.imul, 1) := dk_104 (dk_at dksX0_spread_6 22 rfl rfl)
theorem dX0_spread_165 : decode cX0_spread 165 = .ok (.istore 11, 2) := dk_54 11 (dk_at dksX0_spread_7 0 rfl rfl)
theorem dX0_spread_167 : decode cX0_spread 167 = .ok (.aload_n 0, 1) := dk_42 (dk_at dksX0_spread_7 2 rfl rfl)
theorem dX0_spread_168 : decode cX0_spread 168 = .ok (.getfield 60, 3) := dk_180 0 60 (dk_at dksX0_spread_7 3 rfl rfl)
theorem dX0_spread_171 : decode cX0_spread 171 = .ok (.iload 10, 2) := dk_21 10 (dk_at dksX0_spread_7 6 rfl rfl)
theorem dX0_spread_173 : decode cX0_spread 173 = .ok (.iaload, 1) := dk_46 (dk_at dksX0_spread_7 8 rfl rfl)
theorem dX0_spread_174 : decode cX0_spread 174 = .ok (.iconst (-1), 1) := dk_2 (dk_at dksX0_spread_7 9 rfl rfl)
theorem dX0_spread_175 : decode cX0_spread 175 = .ok (.if_icmp .ne 31, 3) := dk_160 0 31 (dk_at dksX0_spread_7 10 rfl rfl)
theorem dX0_spread_178 : decode cX0_spread 178 = .ok (.aload_n 0, 1) := dk_42 (dk_at dksX0_spread_7 13 rfl rfl)
theorem dX0_spread_179 : decode cX0_spread 179 = .ok (.getfield 60, 3) := dk_180 0 60 (dk_at dksX0_spread_7 14 rfl rfl)
theorem dX0_spread_182 : decode cX0_spread 182 = .ok (.iload 10, 2) := dk_21 10 (dk_at dksX0_spread_7 17 rfl rfl)
theorem dX0_spread_184 : decode cX0_spread 184 = .ok (.iload_n 2, 1) := dk_28 (dk_at dksX0_spread_7 19 rfl rfl)
theorem dX0_spread_185 : decode cX0_spread 185 = .ok (.iastore, 1) := dk_79 (dk_at dksX0_spread_7 20 rfl rfl)
theorem dX0_spread_186 : decode cX0_spread 186 = .ok (.aload_n 0, 1) := dk_42 (dk_at dksX0_spread_7 21 rfl rfl)
theorem dX0_spread_187 : decode cX0_spread 187 = .ok (.getfield 63, 3) := dk_180 0 63 (dk_at dksX0_spread_8 0 rfl rfl)
theorem dX0_spread_190 : decode cX0_spread 190 = .ok (.iload 10, 2) := dk_21 10 (dk_at dksX0_spread_8 3 rfl rfl)
theorem dX0_spread_192 : decode cX0_spread 192 = .ok (.iload 11, 2) := dk_21 11 (dk_at dksX0_spread_8 5 rfl rfl)
theorem dX0_spread_194 : decode cX0_spread 194 = .ok (.iastore, 1) := dk_79 (dk_at dksX0_spread_8 7 rfl rfl)
theorem dX0_spread_195 : decode cX0_spread 195 = .ok (.aload_n 0, 1) := dk_42 (dk_at dksX0_spread_8 8 rfl rfl)
theorem dX0_spread_196 : decode cX0_spread 196 = .ok (.getfield 66, 3) := dk_180 0 66 (dk_at dksX0_spread_8 9 rfl rfl)
theorem dX0_spread_199 : decode cX0_spread 199 = .ok (.iload_n 3, 1) := dk_29 (dk_at dksX0_spread_8 12 rfl rfl)
theorem dX0_spread_200 : decode cX0_spread 200 = .ok (.iload 10, 2) := dk_21 10 (dk_at dksX0_spread_8 13 rfl rfl)
theorem dX0_spread_202 : decode cX0_spread 202 = .ok (.iastore, 1) := dk_79 (dk_at dksX0_spread_8 15 rfl rfl)
theorem dX0_spread_203 : decode cX0_spread 203 = .ok (.iinc 3 1, 3) := dk_132 3 1 (dk_at dksX0_spread_8 16 rfl rfl)
theorem dX0_spread_206 : decode cX0_spread 206 = .ok (.aload_n 0, 1) := dk_42 (dk_at dksX0_spread_8 19 rfl rfl)
theorem dX0_spread_207 : decode cX0_spread 207 = .ok (.getfield 69, 3) := dk_180 0 69 (dk_at dksX0_spread_8 20 rfl rfl)
theorem dX0_spread_210 : decode cX0_spread 210 = .ok (.iload_n 2, 1) := dk_28 (dk_at dksX0_spread_8 23 rfl rfl)
theorem dX0_spread_211 : decode cX0_spread 211 = .ok (.dup2, 1) := dk_92 (dk_at dksX0_spread_9 0 rfl rfl)
theorem dX0_spread_212 : decode cX0_spread 212 = .ok (.baload, 1) := dk_51 (dk_at dksX0_spread_9 1 rfl rfl)
theorem dX0_spread_213 : decode cX0_spread 213 = .ok (.aload_n 0, 1) := dk_42 (dk_at dksX0_spread_9 2 rfl rfl)
theorem dX0_spread_214 : decode cX0_spread 214 = .ok (.getfield 63, 3) := dk_180 0 63 (dk_at dksX0_spread_9 3 rfl rfl)
theorem dX0_spread_217 : decode cX0_spread 217 = .ok (.iload 10, 2) := dk_21 10 (dk_at dksX0_spread_9 6 rfl rfl)
theorem dX0_spread_219 : decode cX0_spread 219 = .ok (.iaload, 1) := dk_46 (dk_at dksX0_spread_9 8 rfl rfl)
theorem dX0_spread_220 : decode cX0_spread 220 = .ok (.iload 11, 2) := dk_21 11 (dk_at dksX0_spread_9 9 rfl rfl)
theorem dX0_spread_222 : decode cX0_spread 222 = .ok (.if_icmp .eq 7, 3) := dk_159 0 7 (dk_at dksX0_spread_9 11 rfl rfl)
theorem dX0_spread_225 : decode cX0_spread 225 = .ok (.iconst 1, 1) := dk_4 (dk_at dksX0_spread_9 14 rfl rfl)
theorem dX0_spread_226 : decode cX0_spread 226 = .ok (.goto 4, 3) := dk_167 0 4 (dk_at dksX0_spread_9 15 rfl rfl)
theorem dX0_spread_229 : decode cX0_spread 229 = .ok (.iconst 0, 1) := dk_3 (dk_at dksX0_spread_9 18 rfl rfl)
theorem dX0_spread_230 : decode cX0_spread 230 = .ok (.ior, 1) := dk_128 (dk_at dksX0_spread_9 19 rfl rfl)
theorem dX0_spread_231 : decode cX0_spread 231 = .ok (.bastore, 1) := dk_84 (dk_at dksX0_spread_9 20 rfl rfl)
theorem dX0_spread_232 : decode cX0_spread 232 = .ok (.iinc 9 1, 3) := dk_132 9 1 (dk_at dksX0_spread_9 21 rfl rfl)
theorem dX0_spread_235 : decode cX0_spread 235 = .ok (.goto (-167), 3) := dk_167 255 89 (dk_at dksX0_spread_10 0 rfl rfl)
theorem dX0_spread_238 : decode cX0_spread 238 = .ok (.iinc 8 1, 3) := dk_132 8 1 (dk_at dksX0_spread_10 3 rfl rfl)
theorem dX0_spread_241 : decode cX0_spread 241 = .ok (.goto (-182), 3) := dk_167 255 74 (dk_at dksX0_spread_10 6 rfl rfl)
theorem dX0_spread_244 : decode cX0_spread 244 = .ok (.iinc 4 1, 3) := dk_132 4 1 (dk_at dksX0_spread_10 9 rfl rfl)
theorem dX0_spread_247 : decode cX0_spread 247 = .ok (.goto (-221), 3) := dk_167 255 35 (dk_at dksX0_spread_10 12 rfl rfl)
theorem dX0_spread_250 : decode cX0_spread 250 = .ok (.return_, 1) := dk_177 (dk_at dksX0_spread_10 15 rfl rfl)
abbrev cX0_kindOfCut : ByteArray := prog_1_method_56_code
def yX0_kindOfCut : MethodName := ⟨RX0, "kindOfCut", "(I)I"⟩
def dkwX0_kindOfCut_0 : List UInt8 := [3, 61, 42, 180, 0, 57, 28, 4, 96, 46, 27, 163, 0, 9, 132, 2, 1, 167, 255, 241, 28, 172]
abbrev dktX0_kindOfCut_0 : List UInt8 := dkwX0_kindOfCut_0 ++ []
theorem dksX0_kindOfCut_0 : cX0_kindOfCut.data.toList.drop 0 = dktX0_kindOfCut_0 := by decide +kernel
theorem dX0_kindOfCut_0 : decode cX0_kindOfCut 0 = .ok (.iconst 0, 1) := dk_3 (dk_at dksX0_kindOfCut_0 0 rfl rfl)
theorem dX0_kindOfCut_1 : decode cX0_kindOfCut 1 = .ok (.istore_n 2, 1) := dk_61 (dk_at dksX0_kindOfCut_0 1 rfl rfl)
theorem dX0_kindOfCut_2 : decode cX0_kindOfCut 2 = .ok (.aload_n 0, 1) := dk_42 (dk_at dksX0_kindOfCut_0 2 rfl rfl)
theorem dX0_kindOfCut_3 : decode cX0_kindOfCut 3 = .ok (.getfield 57, 3) := dk_180 0 57 (dk_at dksX0_kindOfCut_0 3 rfl rfl)
theorem dX0_kindOfCut_6 : decode cX0_kindOfCut 6 = .ok (.iload_n 2, 1) := dk_28 (dk_at dksX0_kindOfCut_0 6 rfl rfl)
theorem dX0_kindOfCut_7 : decode cX0_kindOfCut 7 = .ok (.iconst 1, 1) := dk_4 (dk_at dksX0_kindOfCut_0 7 rfl rfl)
theorem dX0_kindOfCut_8 : decode cX0_kindOfCut 8 = .ok (.iadd, 1) := dk_96 (dk_at dksX0_kindOfCut_0 8 rfl rfl)
theorem dX0_kindOfCut_9 : decode cX0_kindOfCut 9 = .ok (.iaload, 1) := dk_46 (dk_at dksX0_kindOfCut_0 9 rfl rfl)
theorem dX0_kindOfCut_10 : decode cX0_kindOfCut 10 = .ok (.iload_n 1, 1) := dk_27 (dk_at dksX0_kindOfCut_0 10 rfl rfl)
theorem dX0_kindOfCut_11 : decode cX0_kindOfCut 11 = .ok (.if_icmp .gt 9, 3) := dk_163 0 9 (dk_at dksX0_kindOfCut_0 11 rfl rfl)
theorem dX0_kindOfCut_14 : decode cX0_kindOfCut 14 = .ok (.iinc 2 1, 3) := dk_132 2 1 (dk_at dksX0_kindOfCut_0 14 rfl rfl)
theorem dX0_kindOfCut_17 : decode cX0_kindOfCut 17 = .ok (.goto (-15), 3) := dk_167 255 241 (dk_at dksX0_kindOfCut_0 17 rfl rfl)
theorem dX0_kindOfCut_20 : decode cX0_kindOfCut 20 = .ok (.iload_n 2, 1) := dk_28 (dk_at dksX0_kindOfCut_0 20 rfl rfl)
theorem dX0_kindOfCut_21 : decode cX0_kindOfCut 21 = .ok (.ireturn, 1) := dk_172 (dk_at dksX0_kindOfCut_0 21 rfl rfl)
abbrev cX0_beyond : ByteArray := prog_1_method_59_code
def yX0_beyond : MethodName := ⟨RX0, "beyond", "(IIII)I"⟩
def dkwX0_beyond_3 : List UInt8 := [21, 6, 182, 1, 38, 172, 132, 6, 1, 167, 255, 189, 2, 172]
abbrev dktX0_beyond_3 : List UInt8 := dkwX0_beyond_3 ++ []
def dkwX0_beyond_2 : List UInt8 := [180, 0, 11, 28, 50, 29, 50, 180, 0, 119, 42, 180, 0, 11, 28, 50, 29, 50, 180, 0, 175, 21, 4, 46]
abbrev dktX0_beyond_2 : List UInt8 := dkwX0_beyond_2 ++ dktX0_beyond_3
def dkwX0_beyond_1 : List UInt8 := [21, 4, 21, 6, 182, 1, 38, 27, 160, 0, 46, 42, 42, 180, 0, 11, 28, 50, 29, 50, 180, 0, 116, 42]
abbrev dktX0_beyond_1 : List UInt8 := dkwX0_beyond_1 ++ dktX0_beyond_2
def dkwX0_beyond_0 : List UInt8 := [42, 28, 29, 21, 4, 182, 1, 8, 54, 5, 3, 54, 6, 21, 6, 21, 5, 162, 0, 66, 42, 28, 29]
abbrev dktX0_beyond_0 : List UInt8 := dkwX0_beyond_0 ++ dktX0_beyond_1
theorem dksX0_beyond_0 : cX0_beyond.data.toList.drop 0 = dktX0_beyond_0 := by decide +kernel
theorem dksX0_beyond_1 : cX0_beyond.data.toList.drop 23 = dktX0_beyond_1 := dk_seg dksX0_beyond_0 23 rfl rfl
theorem dksX0_beyond_2 : cX0_beyond.data.toList.drop 47 = dktX0_beyond_2 := dk_seg dksX0_beyond_1 24 rfl rfl
theorem dksX0_beyond_3 : cX0_beyond.data.toList.drop 71 = dktX0_beyond_3 := dk_seg dksX0_beyond_2 24 rfl rfl
theorem dX0_beyond_0 : decode cX0_beyond 0 = .ok (.aload_n 0, 1) := dk_42 (dk_at dksX0_beyond_0 0 rfl rfl)
theorem dX0_beyond_1 : decode cX0_beyond 1 = .ok (.iload_n 2, 1) := dk_28 (dk_at dksX0_beyond_0 1 rfl rfl)
theorem dX0_beyond_2 : decode cX0_beyond 2 = .ok (.iload_n 3, 1) := dk_29 (dk_at dksX0_beyond_0 2 rfl rfl)
theorem dX0_beyond_3 : decode cX0_beyond 3 = .ok (.iload 4, 2) := dk_21 4 (dk_at dksX0_beyond_0 3 rfl rfl)
theorem dX0_beyond_5 : decode cX0_beyond 5 = .ok (.invokevirtual 264, 3) := dk_182 1 8 (dk_at dksX0_beyond_0 5 rfl rfl)
theorem dX0_beyond_8 : decode cX0_beyond 8 = .ok (.istore 5, 2) := dk_54 5 (dk_at dksX0_beyond_0 8 rfl rfl)
theorem dX0_beyond_10 : decode cX0_beyond 10 = .ok (.iconst 0, 1) := dk_3 (dk_at dksX0_beyond_0 10 rfl rfl)
theorem dX0_beyond_11 : decode cX0_beyond 11 = .ok (.istore 6, 2) := dk_54 6 (dk_at dksX0_beyond_0 11 rfl rfl)
theorem dX0_beyond_13 : decode cX0_beyond 13 = .ok (.iload 6, 2) := dk_21 6 (dk_at dksX0_beyond_0 13 rfl rfl)
theorem dX0_beyond_15 : decode cX0_beyond 15 = .ok (.iload 5, 2) := dk_21 5 (dk_at dksX0_beyond_0 15 rfl rfl)
theorem dX0_beyond_17 : decode cX0_beyond 17 = .ok (.if_icmp .ge 66, 3) := dk_162 0 66 (dk_at dksX0_beyond_0 17 rfl rfl)
theorem dX0_beyond_20 : decode cX0_beyond 20 = .ok (.aload_n 0, 1) := dk_42 (dk_at dksX0_beyond_0 20 rfl rfl)
theorem dX0_beyond_21 : decode cX0_beyond 21 = .ok (.iload_n 2, 1) := dk_28 (dk_at dksX0_beyond_0 21 rfl rfl)
theorem dX0_beyond_22 : decode cX0_beyond 22 = .ok (.iload_n 3, 1) := dk_29 (dk_at dksX0_beyond_0 22 rfl rfl)
theorem dX0_beyond_23 : decode cX0_beyond 23 = .ok (.iload 4, 2) := dk_21 4 (dk_at dksX0_beyond_1 0 rfl rfl)
theorem dX0_beyond_25 : decode cX0_beyond 25 = .ok (.iload 6, 2) := dk_21 6 (dk_at dksX0_beyond_1 2 rfl rfl)
theorem dX0_beyond_27 : decode cX0_beyond 27 = .ok (.invokevirtual 294, 3) := dk_182 1 38 (dk_at dksX0_beyond_1 4 rfl rfl)
theorem dX0_beyond_30 : decode cX0_beyond 30 = .ok (.iload_n 1, 1) := dk_27 (dk_at dksX0_beyond_1 7 rfl rfl)
theorem dX0_beyond_31 : decode cX0_beyond 31 = .ok (.if_icmp .ne 46, 3) := dk_160 0 46 (dk_at dksX0_beyond_1 8 rfl rfl)
theorem dX0_beyond_34 : decode cX0_beyond 34 = .ok (.aload_n 0, 1) := dk_42 (dk_at dksX0_beyond_1 11 rfl rfl)
theorem dX0_beyond_35 : decode cX0_beyond 35 = .ok (.aload_n 0, 1) := dk_42 (dk_at dksX0_beyond_1 12 rfl rfl)
theorem dX0_beyond_36 : decode cX0_beyond 36 = .ok (.getfield 11, 3) := dk_180 0 11 (dk_at dksX0_beyond_1 13 rfl rfl)
theorem dX0_beyond_39 : decode cX0_beyond 39 = .ok (.iload_n 2, 1) := dk_28 (dk_at dksX0_beyond_1 16 rfl rfl)
theorem dX0_beyond_40 : decode cX0_beyond 40 = .ok (.aaload, 1) := dk_50 (dk_at dksX0_beyond_1 17 rfl rfl)
theorem dX0_beyond_41 : decode cX0_beyond 41 = .ok (.iload_n 3, 1) := dk_29 (dk_at dksX0_beyond_1 18 rfl rfl)
theorem dX0_beyond_42 : decode cX0_beyond 42 = .ok (.aaload, 1) := dk_50 (dk_at dksX0_beyond_1 19 rfl rfl)
theorem dX0_beyond_43 : decode cX0_beyond 43 = .ok (.getfield 116, 3) := dk_180 0 116 (dk_at dksX0_beyond_1 20 rfl rfl)
theorem dX0_beyond_46 : decode cX0_beyond 46 = .ok (.aload_n 0, 1) := dk_42 (dk_at dksX0_beyond_1 23 rfl rfl)
theorem dX0_beyond_47 : decode cX0_beyond 47 = .ok (.getfield 11, 3) := dk_180 0 11 (dk_at dksX0_beyond_2 0 rfl rfl)
theorem dX0_beyond_50 : decode cX0_beyond 50 = .ok (.iload_n 2, 1) := dk_28 (dk_at dksX0_beyond_2 3 rfl rfl)
theorem dX0_beyond_51 : decode cX0_beyond 51 = .ok (.aaload, 1) := dk_50 (dk_at dksX0_beyond_2 4 rfl rfl)
theorem dX0_beyond_52 : decode cX0_beyond 52 = .ok (.iload_n 3, 1) := dk_29 (dk_at dksX0_beyond_2 5 rfl rfl)
theorem dX0_beyond_53 : decode cX0_beyond 53 = .ok (.aaload, 1) := dk_50 (dk_at dksX0_beyond_2 6 rfl rfl)
theorem dX0_beyond_54 : decode cX0_beyond 54 = .ok (.getfield 119, 3) := dk_180 0 119 (dk_at dksX0_beyond_2 7 rfl rfl)
theorem dX0_beyond_57 : decode cX0_beyond 57 = .ok (.aload_n 0, 1) := dk_42 (dk_at dksX0_beyond_2 10 rfl rfl)
theorem dX0_beyond_58 : decode cX0_beyond 58 = .ok (.getfield 11, 3) := dk_180 0 11 (dk_at dksX0_beyond_2 11 rfl rfl)
theorem dX0_beyond_61 : decode cX0_beyond 61 = .ok (.iload_n 2, 1) := dk_28 (dk_at dksX0_beyond_2 14 rfl rfl)
theorem dX0_beyond_62 : decode cX0_beyond 62 = .ok (.aaload, 1) := dk_50 (dk_at dksX0_beyond_2 15 rfl rfl)
theorem dX0_beyond_63 : decode cX0_beyond 63 = .ok (.iload_n 3, 1) := dk_29 (dk_at dksX0_beyond_2 16 rfl rfl)
theorem dX0_beyond_64 : decode cX0_beyond 64 = .ok (.aaload, 1) := dk_50 (dk_at dksX0_beyond_2 17 rfl rfl)
theorem dX0_beyond_65 : decode cX0_beyond 65 = .ok (.getfield 175, 3) := dk_180 0 175 (dk_at dksX0_beyond_2 18 rfl rfl)
theorem dX0_beyond_68 : decode cX0_beyond 68 = .ok (.iload 4, 2) := dk_21 4 (dk_at dksX0_beyond_2 21 rfl rfl)
theorem dX0_beyond_70 : decode cX0_beyond 70 = .ok (.iaload, 1) := dk_46 (dk_at dksX0_beyond_2 23 rfl rfl)
theorem dX0_beyond_71 : decode cX0_beyond 71 = .ok (.iload 6, 2) := dk_21 6 (dk_at dksX0_beyond_3 0 rfl rfl)
theorem dX0_beyond_73 : decode cX0_beyond 73 = .ok (.invokevirtual 294, 3) := dk_182 1 38 (dk_at dksX0_beyond_3 2 rfl rfl)
theorem dX0_beyond_76 : decode cX0_beyond 76 = .ok (.ireturn, 1) := dk_172 (dk_at dksX0_beyond_3 5 rfl rfl)
theorem dX0_beyond_77 : decode cX0_beyond 77 = .ok (.iinc 6 1, 3) := dk_132 6 1 (dk_at dksX0_beyond_3 6 rfl rfl)
theorem dX0_beyond_80 : decode cX0_beyond 80 = .ok (.goto (-67), 3) := dk_167 255 189 (dk_at dksX0_beyond_3 9 rfl rfl)
theorem dX0_beyond_83 : decode cX0_beyond 83 = .ok (.iconst (-1), 1) := dk_2 (dk_at dksX0_beyond_3 12 rfl rfl)
theorem dX0_beyond_84 : decode cX0_beyond 84 = .ok (.ireturn, 1) := dk_172 (dk_at dksX0_beyond_3 13 rfl rfl)
abbrev cX0_cutOf : ByteArray := prog_1_method_54_code
def yX0_cutOf : MethodName := ⟨RX0, "cutOf", "(IIII)I"⟩
def dkwX0_cutOf_3 : List UInt8 := [42, 27, 21, 5, 182, 1, 5, 4, 100, 21, 6, 100, 96, 172]
abbrev dktX0_cutOf_3 : List UInt8 := dkwX0_cutOf_3 ++ []
def dkwX0_cutOf_2 : List UInt8 := [16, 7, 27, 104, 7, 96, 21, 5, 96, 46, 21, 5, 29, 184, 1, 18, 153, 0, 8, 21, 6, 167, 0, 15]
abbrev dktX0_cutOf_2 : List UInt8 := dkwX0_cutOf_2 ++ dktX0_cutOf_3
def dkwX0_cutOf_1 : List UInt8 := [96, 172, 29, 28, 184, 0, 202, 54, 5, 21, 4, 42, 27, 29, 182, 1, 2, 100, 54, 6, 42, 180, 0, 57]
abbrev dktX0_cutOf_1 : List UInt8 := dkwX0_cutOf_1 ++ dktX0_cutOf_2
def dkwX0_cutOf_0 : List UInt8 := [21, 4, 42, 27, 29, 182, 1, 2, 162, 0, 18, 42, 180, 0, 57, 16, 7, 27, 104, 29, 96, 46, 21, 4]
abbrev dktX0_cutOf_0 : List UInt8 := dkwX0_cutOf_0 ++ dktX0_cutOf_1
theorem dksX0_cutOf_0 : cX0_cutOf.data.toList.drop 0 = dktX0_cutOf_0 := by decide +kernel
theorem dksX0_cutOf_1 : cX0_cutOf.data.toList.drop 24 = dktX0_cutOf_1 := dk_seg dksX0_cutOf_0 24 rfl rfl
theorem dksX0_cutOf_2 : cX0_cutOf.data.toList.drop 48 = dktX0_cutOf_2 := dk_seg dksX0_cutOf_1 24 rfl rfl
theorem dksX0_cutOf_3 : cX0_cutOf.data.toList.drop 72 = dktX0_cutOf_3 := dk_seg dksX0_cutOf_2 24 rfl rfl
theorem dX0_cutOf_0 : decode cX0_cutOf 0 = .ok (.iload 4, 2) := dk_21 4 (dk_at dksX0_cutOf_0 0 rfl rfl)
theorem dX0_cutOf_2 : decode cX0_cutOf 2 = .ok (.aload_n 0, 1) := dk_42 (dk_at dksX0_cutOf_0 2 rfl rfl)
theorem dX0_cutOf_3 : decode cX0_cutOf 3 = .ok (.iload_n 1, 1) := dk_27 (dk_at dksX0_cutOf_0 3 rfl rfl)
theorem dX0_cutOf_4 : decode cX0_cutOf 4 = .ok (.iload_n 3, 1) := dk_29 (dk_at dksX0_cutOf_0 4 rfl rfl)
theorem dX0_cutOf_5 : decode cX0_cutOf 5 = .ok (.invokevirtual 258, 3) := dk_182 1 2 (dk_at dksX0_cutOf_0 5 rfl rfl)
theorem dX0_cutOf_8 : decode cX0_cutOf 8 = .ok (.if_icmp .ge 18, 3) := dk_162 0 18 (dk_at dksX0_cutOf_0 8 rfl rfl)
theorem dX0_cutOf_11 : decode cX0_cutOf 11 = .ok (.aload_n 0, 1) := dk_42 (dk_at dksX0_cutOf_0 11 rfl rfl)
theorem dX0_cutOf_12 : decode cX0_cutOf 12 = .ok (.getfield 57, 3) := dk_180 0 57 (dk_at dksX0_cutOf_0 12 rfl rfl)
theorem dX0_cutOf_15 : decode cX0_cutOf 15 = .ok (.bipush 7, 2) := dk_16 7 (dk_at dksX0_cutOf_0 15 rfl rfl)
theorem dX0_cutOf_17 : decode cX0_cutOf 17 = .ok (.iload_n 1, 1) := dk_27 (dk_at dksX0_cutOf_0 17 rfl rfl)
theorem dX0_cutOf_18 : decode cX0_cutOf 18 = .ok (.imul, 1) := dk_104 (dk_at dksX0_cutOf_0 18 rfl rfl)
theorem dX0_cutOf_19 : decode cX0_cutOf 19 = .ok (.iload_n 3, 1) := dk_29 (dk_at dksX0_cutOf_0 19 rfl rfl)
theorem dX0_cutOf_20 : decode cX0_cutOf 20 = .ok (.iadd, 1) := dk_96 (dk_at dksX0_cutOf_0 20 rfl rfl)
theorem dX0_cutOf_21 : decode cX0_cutOf 21 = .ok (.iaload, 1) := dk_46 (dk_at dksX0_cutOf_0 21 rfl rfl)
theorem dX0_cutOf_22 : decode cX0_cutOf 22 = .ok (.iload 4, 2) := dk_21 4 (dk_at dksX0_cutOf_0 22 rfl rfl)
theorem dX0_cutOf_24 : decode cX0_cutOf 24 = .ok (.iadd, 1) := dk_96 (dk_at dksX0_cutOf_1 0 rfl rfl)
theorem dX0_cutOf_25 : decode cX0_cutOf 25 = .ok (.ireturn, 1) := dk_172 (dk_at dksX0_cutOf_1 1 rfl rfl)
theorem dX0_cutOf_26 : decode cX0_cutOf 26 = .ok (.iload_n 3, 1) := dk_29 (dk_at dksX0_cutOf_1 2 rfl rfl)
theorem dX0_cutOf_27 : decode cX0_cutOf 27 = .ok (.iload_n 2, 1) := dk_28 (dk_at dksX0_cutOf_1 3 rfl rfl)
theorem dX0_cutOf_28 : decode cX0_cutOf 28 = .ok (.invokestatic 202, 3) := dk_184 0 202 (dk_at dksX0_cutOf_1 4 rfl rfl)
theorem dX0_cutOf_31 : decode cX0_cutOf 31 = .ok (.istore 5, 2) := dk_54 5 (dk_at dksX0_cutOf_1 7 rfl rfl)
theorem dX0_cutOf_33 : decode cX0_cutOf 33 = .ok (.iload 4, 2) := dk_21 4 (dk_at dksX0_cutOf_1 9 rfl rfl)
theorem dX0_cutOf_35 : decode cX0_cutOf 35 = .ok (.aload_n 0, 1) := dk_42 (dk_at dksX0_cutOf_1 11 rfl rfl)
theorem dX0_cutOf_36 : decode cX0_cutOf 36 = .ok (.iload_n 1, 1) := dk_27 (dk_at dksX0_cutOf_1 12 rfl rfl)
theorem dX0_cutOf_37 : decode cX0_cutOf 37 = .ok (.iload_n 3, 1) := dk_29 (dk_at dksX0_cutOf_1 13 rfl rfl)
theorem dX0_cutOf_38 : decode cX0_cutOf 38 = .ok (.invokevirtual 258, 3) := dk_182 1 2 (dk_at dksX0_cutOf_1 14 rfl rfl)
theorem dX0_cutOf_41 : decode cX0_cutOf 41 = .ok (.isub, 1) := dk_100 (dk_at dksX0_cutOf_1 17 rfl rfl)
theorem dX0_cutOf_42 : decode cX0_cutOf 42 = .ok (.istore 6, 2) := dk_54 6 (dk_at dksX0_cutOf_1 18 rfl rfl)
theorem dX0_cutOf_44 : decode cX0_cutOf 44 = .ok (.aload_n 0, 1) := dk_42 (dk_at dksX0_cutOf_1 20 rfl rfl)
theorem dX0_cutOf_45 : decode cX0_cutOf 45 = .ok (.getfield 57, 3) := dk_180 0 57 (dk_at dksX0_cutOf_1 21 rfl rfl)
theorem dX0_cutOf_48 : decode cX0_cutOf 48 = .ok (.bipush 7, 2) := dk_16 7 (dk_at dksX0_cutOf_2 0 rfl rfl)
theorem dX0_cutOf_50 : decode cX0_cutOf 50 = .ok (.iload_n 1, 1) := dk_27 (dk_at dksX0_cutOf_2 2 rfl rfl)
theorem dX0_cutOf_51 : decode cX0_cutOf 51 = .ok (.imul, 1) := dk_104 (dk_at dksX0_cutOf_2 3 rfl rfl)
theorem dX0_cutOf_52 : decode cX0_cutOf 52 = .ok (.iconst 4, 1) := dk_7 (dk_at dksX0_cutOf_2 4 rfl rfl)
theorem dX0_cutOf_53 : decode cX0_cutOf 53 = .ok (.iadd, 1) := dk_96 (dk_at dksX0_cutOf_2 5 rfl rfl)
theorem dX0_cutOf_54 : decode cX0_cutOf 54 = .ok (.iload 5, 2) := dk_21 5 (dk_at dksX0_cutOf_2 6 rfl rfl)
theorem dX0_cutOf_56 : decode cX0_cutOf 56 = .ok (.iadd, 1) := dk_96 (dk_at dksX0_cutOf_2 8 rfl rfl)
theorem dX0_cutOf_57 : decode cX0_cutOf 57 = .ok (.iaload, 1) := dk_46 (dk_at dksX0_cutOf_2 9 rfl rfl)
theorem dX0_cutOf_58 : decode cX0_cutOf 58 = .ok (.iload 5, 2) := dk_21 5 (dk_at dksX0_cutOf_2 10 rfl rfl)
theorem dX0_cutOf_60 : decode cX0_cutOf 60 = .ok (.iload_n 3, 1) := dk_29 (dk_at dksX0_cutOf_2 12 rfl rfl)
theorem dX0_cutOf_61 : decode cX0_cutOf 61 = .ok (.invokestatic 274, 3) := dk_184 1 18 (dk_at dksX0_cutOf_2 13 rfl rfl)
theorem dX0_cutOf_64 : decode cX0_cutOf 64 = .ok (.ifCond .eq 8, 3) := dk_153 0 8 (dk_at dksX0_cutOf_2 16 rfl rfl)
theorem dX0_cutOf_67 : decode cX0_cutOf 67 = .ok (.iload 6, 2) := dk_21 6 (dk_at dksX0_cutOf_2 19 rfl rfl)
theorem dX0_cutOf_69 : decode cX0_cutOf 69 = .ok (.goto 15, 3) := dk_167 0 15 (dk_at dksX0_cutOf_2 21 rfl rfl)
theorem dX0_cutOf_72 : decode cX0_cutOf 72 = .ok (.aload_n 0, 1) := dk_42 (dk_at dksX0_cutOf_3 0 rfl rfl)
theorem dX0_cutOf_73 : decode cX0_cutOf 73 = .ok (.iload_n 1, 1) := dk_27 (dk_at dksX0_cutOf_3 1 rfl rfl)
theorem dX0_cutOf_74 : decode cX0_cutOf 74 = .ok (.iload 5, 2) := dk_21 5 (dk_at dksX0_cutOf_3 2 rfl rfl)
theorem dX0_cutOf_76 : decode cX0_cutOf 76 = .ok (.invokevirtual 261, 3) := dk_182 1 5 (dk_at dksX0_cutOf_3 4 rfl rfl)
theorem dX0_cutOf_79 : decode cX0_cutOf 79 = .ok (.iconst 1, 1) := dk_4 (dk_at dksX0_cutOf_3 7 rfl rfl)
theorem dX0_cutOf_80 : decode cX0_cutOf 80 = .ok (.isub, 1) := dk_100 (dk_at dksX0_cutOf_3 8 rfl rfl)
theorem dX0_cutOf_81 : decode cX0_cutOf 81 = .ok (.iload 6, 2) := dk_21 6 (dk_at dksX0_cutOf_3 9 rfl rfl)
theorem dX0_cutOf_83 : decode cX0_cutOf 83 = .ok (.isub, 1) := dk_100 (dk_at dksX0_cutOf_3 11 rfl rfl)
theorem dX0_cutOf_84 : decode cX0_cutOf 84 = .ok (.iadd, 1) := dk_96 (dk_at dksX0_cutOf_3 12 rfl rfl)
theorem dX0_cutOf_85 : decode cX0_cutOf 85 = .ok (.ireturn, 1) := dk_172 (dk_at dksX0_cutOf_3 13 rfl rfl)
abbrev cX0_isNear : ByteArray := prog_1_method_53_code
def yX0_isNear : MethodName := ⟨RX0, "isNear", "(II)Z"⟩
def dkwX0_isNear_0 : List UInt8 := [27, 153, 0, 10, 27, 26, 4, 96, 160, 0, 7, 4, 167, 0, 4, 3, 172]
abbrev dktX0_isNear_0 : List UInt8 := dkwX0_isNear_0 ++ []
theorem dksX0_isNear_0 : cX0_isNear.data.toList.drop 0 = dktX0_isNear_0 := by decide +kernel
theorem dX0_isNear_0 : decode cX0_isNear 0 = .ok (.iload_n 1, 1) := dk_27 (dk_at dksX0_isNear_0 0 rfl rfl)
theorem dX0_isNear_1 : decode cX0_isNear 1 = .ok (.ifCond .eq 10, 3) := dk_153 0 10 (dk_at dksX0_isNear_0 1 rfl rfl)
theorem dX0_isNear_4 : decode cX0_isNear 4 = .ok (.iload_n 1, 1) := dk_27 (dk_at dksX0_isNear_0 4 rfl rfl)
theorem dX0_isNear_5 : decode cX0_isNear 5 = .ok (.iload_n 0, 1) := dk_26 (dk_at dksX0_isNear_0 5 rfl rfl)
theorem dX0_isNear_6 : decode cX0_isNear 6 = .ok (.iconst 1, 1) := dk_4 (dk_at dksX0_isNear_0 6 rfl rfl)
theorem dX0_isNear_7 : decode cX0_isNear 7 = .ok (.iadd, 1) := dk_96 (dk_at dksX0_isNear_0 7 rfl rfl)
theorem dX0_isNear_8 : decode cX0_isNear 8 = .ok (.if_icmp .ne 7, 3) := dk_160 0 7 (dk_at dksX0_isNear_0 8 rfl rfl)
theorem dX0_isNear_11 : decode cX0_isNear 11 = .ok (.iconst 1, 1) := dk_4 (dk_at dksX0_isNear_0 11 rfl rfl)
theorem dX0_isNear_12 : decode cX0_isNear 12 = .ok (.goto 4, 3) := dk_167 0 4 (dk_at dksX0_isNear_0 12 rfl rfl)
theorem dX0_isNear_15 : decode cX0_isNear 15 = .ok (.iconst 0, 1) := dk_3 (dk_at dksX0_isNear_0 15 rfl rfl)
theorem dX0_isNear_16 : decode cX0_isNear 16 = .ok (.ireturn, 1) := dk_172 (dk_at dksX0_isNear_0 16 rfl rfl)
abbrev cX0_looks : ByteArray := prog_1_method_55_code
def yX0_looks : MethodName := ⟨RX0, "looks", "(II)I"⟩
def dkwX0_looks_0 : List UInt8 := [26, 7, 161, 0, 13, 26, 7, 100, 27, 184, 1, 18, 153, 0, 7, 4, 167, 0, 4, 2, 172]
abbrev dktX0_looks_0 : List UInt8 := dkwX0_looks_0 ++ []
theorem dksX0_looks_0 : cX0_looks.data.toList.drop 0 = dktX0_looks_0 := by decide +kernel
theorem dX0_looks_0 : decode cX0_looks 0 = .ok (.iload_n 0, 1) := dk_26 (dk_at dksX0_looks_0 0 rfl rfl)
theorem dX0_looks_1 : decode cX0_looks 1 = .ok (.iconst 4, 1) := dk_7 (dk_at dksX0_looks_0 1 rfl rfl)
theorem dX0_looks_2 : decode cX0_looks 2 = .ok (.if_icmp .lt 13, 3) := dk_161 0 13 (dk_at dksX0_looks_0 2 rfl rfl)
theorem dX0_looks_5 : decode cX0_looks 5 = .ok (.iload_n 0, 1) := dk_26 (dk_at dksX0_looks_0 5 rfl rfl)
theorem dX0_looks_6 : decode cX0_looks 6 = .ok (.iconst 4, 1) := dk_7 (dk_at dksX0_looks_0 6 rfl rfl)
theorem dX0_looks_7 : decode cX0_looks 7 = .ok (.isub, 1) := dk_100 (dk_at dksX0_looks_0 7 rfl rfl)
theorem dX0_looks_8 : decode cX0_looks 8 = .ok (.iload_n 1, 1) := dk_27 (dk_at dksX0_looks_0 8 rfl rfl)
theorem dX0_looks_9 : decode cX0_looks 9 = .ok (.invokestatic 274, 3) := dk_184 1 18 (dk_at dksX0_looks_0 9 rfl rfl)
theorem dX0_looks_12 : decode cX0_looks 12 = .ok (.ifCond .eq 7, 3) := dk_153 0 7 (dk_at dksX0_looks_0 12 rfl rfl)
theorem dX0_looks_15 : decode cX0_looks 15 = .ok (.iconst 1, 1) := dk_4 (dk_at dksX0_looks_0 15 rfl rfl)
theorem dX0_looks_16 : decode cX0_looks 16 = .ok (.goto 4, 3) := dk_167 0 4 (dk_at dksX0_looks_0 16 rfl rfl)
theorem dX0_looks_19 : decode cX0_looks 19 = .ok (.iconst (-1), 1) := dk_2 (dk_at dksX0_looks_0 19 rfl rfl)
theorem dX0_looks_20 : decode cX0_looks 20 = .ok (.ireturn, 1) := dk_172 (dk_at dksX0_looks_0 20 rfl rfl)
abbrev cX0_part : ByteArray := prog_1_method_63_code
def yX0_part : MethodName := ⟨RX0, "part", "(II)I"⟩
def dkwX0_part_5 : List UInt8 := [172]
abbrev dktX0_part_5 : List UInt8 := dkwX0_part_5 ++ []
def dkwX0_part_4 : List UInt8 := [182, 1, 50, 100, 21, 4, 96, 167, 0, 17, 42, 180, 0, 69, 27, 51, 153, 0, 7, 3, 167, 0, 4, 4]
abbrev dktX0_part_4 : List UInt8 := dkwX0_part_4 ++ dktX0_part_5
def dkwX0_part_3 : List UInt8 := [167, 255, 223, 28, 154, 0, 8, 21, 4, 167, 0, 39, 28, 4, 160, 0, 20, 42, 27, 182, 1, 47, 42, 27]
abbrev dktX0_part_3 : List UInt8 := dkwX0_part_3 ++ dktX0_part_4
def dkwX0_part_2 : List UInt8 := [21, 4, 42, 180, 0, 60, 21, 5, 46, 27, 160, 0, 7, 4, 167, 0, 4, 3, 96, 54, 4, 132, 5, 1]
abbrev dktX0_part_2 : List UInt8 := dkwX0_part_2 ++ dktX0_part_3
def dkwX0_part_1 : List UInt8 := [184, 0, 77, 154, 0, 6, 18, 145, 172, 3, 54, 4, 3, 54, 5, 21, 5, 42, 182, 1, 21, 162, 0, 30]
abbrev dktX0_part_1 : List UInt8 := dkwX0_part_1 ++ dktX0_part_2
def dkwX0_part_0 : List UInt8 := [42, 182, 1, 44, 62, 28, 3, 5, 184, 0, 77, 153, 0, 18, 29, 155, 0, 14, 27, 3, 29, 4, 100]
abbrev dktX0_part_0 : List UInt8 := dkwX0_part_0 ++ dktX0_part_1
theorem dksX0_part_0 : cX0_part.data.toList.drop 0 = dktX0_part_0 := by decide +kernel
theorem dksX0_part_1 : cX0_part.data.toList.drop 23 = dktX0_part_1 := dk_seg dksX0_part_0 23 rfl rfl
theorem dksX0_part_2 : cX0_part.data.toList.drop 47 = dktX0_part_2 := dk_seg dksX0_part_1 24 rfl rfl
theorem dksX0_part_3 : cX0_part.data.toList.drop 71 = dktX0_part_3 := dk_seg dksX0_part_2 24 rfl rfl
theorem dksX0_part_4 : cX0_part.data.toList.drop 95 = dktX0_part_4 := dk_seg dksX0_part_3 24 rfl rfl
theorem dksX0_part_5 : cX0_part.data.toList.drop 119 = dktX0_part_5 := dk_seg dksX0_part_4 24 rfl rfl
theorem dX0_part_0 : decode cX0_part 0 = .ok (.aload_n 0, 1) := dk_42 (dk_at dksX0_part_0 0 rfl rfl)
theorem dX0_part_1 : decode cX0_part 1 = .ok (.invokevirtual 300, 3) := dk_182 1 44 (dk_at dksX0_part_0 1 rfl rfl)
theorem dX0_part_4 : decode cX0_part 4 = .ok (.istore_n 3, 1) := dk_62 (dk_at dksX0_part_0 4 rfl rfl)
theorem dX0_part_5 : decode cX0_part 5 = .ok (.iload_n 2, 1) := dk_28 (dk_at dksX0_part_0 5 rfl rfl)
theorem dX0_part_6 : decode cX0_part 6 = .ok (.iconst 0, 1) := dk_3 (dk_at dksX0_part_0 6 rfl rfl)
theorem dX0_part_7 : decode cX0_part 7 = .ok (.iconst 2, 1) := dk_5 (dk_at dksX0_part_0 7 rfl rfl)
theorem dX0_part_8 : decode cX0_part 8 = .ok (.invokestatic 77, 3) := dk_184 0 77 (dk_at dksX0_part_0 8 rfl rfl)
theorem dX0_part_11 : decode cX0_part 11 = .ok (.ifCond .eq 18, 3) := dk_153 0 18 (dk_at dksX0_part_0 11 rfl rfl)
theorem dX0_part_14 : decode cX0_part 14 = .ok (.iload_n 3, 1) := dk_29 (dk_at dksX0_part_0 14 rfl rfl)
theorem dX0_part_15 : decode cX0_part 15 = .ok (.ifCond .lt 14, 3) := dk_155 0 14 (dk_at dksX0_part_0 15 rfl rfl)
theorem dX0_part_18 : decode cX0_part 18 = .ok (.iload_n 1, 1) := dk_27 (dk_at dksX0_part_0 18 rfl rfl)
theorem dX0_part_19 : decode cX0_part 19 = .ok (.iconst 0, 1) := dk_3 (dk_at dksX0_part_0 19 rfl rfl)
theorem dX0_part_20 : decode cX0_part 20 = .ok (.iload_n 3, 1) := dk_29 (dk_at dksX0_part_0 20 rfl rfl)
theorem dX0_part_21 : decode cX0_part 21 = .ok (.iconst 1, 1) := dk_4 (dk_at dksX0_part_0 21 rfl rfl)
theorem dX0_part_22 : decode cX0_part 22 = .ok (.isub, 1) := dk_100 (dk_at dksX0_part_0 22 rfl rfl)
theorem dX0_part_23 : decode cX0_part 23 = .ok (.invokestatic 77, 3) := dk_184 0 77 (dk_at dksX0_part_1 0 rfl rfl)
theorem dX0_part_26 : decode cX0_part 26 = .ok (.ifCond .ne 6, 3) := dk_154 0 6 (dk_at dksX0_part_1 3 rfl rfl)
theorem dX0_part_29 : decode cX0_part 29 = .ok (.ldc 145, 2) := dk_18 145 (dk_at dksX0_part_1 6 rfl rfl)
theorem dX0_part_31 : decode cX0_part 31 = .ok (.ireturn, 1) := dk_172 (dk_at dksX0_part_1 8 rfl rfl)
theorem dX0_part_32 : decode cX0_part 32 = .ok (.iconst 0, 1) := dk_3 (dk_at dksX0_part_1 9 rfl rfl)
theorem dX0_part_33 : decode cX0_part 33 = .ok (.istore 4, 2) := dk_54 4 (dk_at dksX0_part_1 10 rfl rfl)
theorem dX0_part_35 : decode cX0_part 35 = .ok (.iconst 0, 1) := dk_3 (dk_at dksX0_part_1 12 rfl rfl)
theorem dX0_part_36 : decode cX0_part 36 = .ok (.istore 5, 2) := dk_54 5 (dk_at dksX0_part_1 13 rfl rfl)
theorem dX0_part_38 : decode cX0_part 38 = .ok (.iload 5, 2) := dk_21 5 (dk_at dksX0_part_1 15 rfl rfl)
theorem dX0_part_40 : decode cX0_part 40 = .ok (.aload_n 0, 1) := dk_42 (dk_at dksX0_part_1 17 rfl rfl)
theorem dX0_part_41 : decode cX0_part 41 = .ok (.invokevirtual 277, 3) := dk_182 1 21 (dk_at dksX0_part_1 18 rfl rfl)
theorem dX0_part_44 : decode cX0_part 44 = .ok (.if_icmp .ge 30, 3) := dk_162 0 30 (dk_at dksX0_part_1 21 rfl rfl)
theorem dX0_part_47 : decode cX0_part 47 = .ok (.iload 4, 2) := dk_21 4 (dk_at dksX0_part_2 0 rfl rfl)
theorem dX0_part_49 : decode cX0_part 49 = .ok (.aload_n 0, 1) := dk_42 (dk_at dksX0_part_2 2 rfl rfl)
theorem dX0_part_50 : decode cX0_part 50 = .ok (.getfield 60, 3) := dk_180 0 60 (dk_at dksX0_part_2 3 rfl rfl)
theorem dX0_part_53 : decode cX0_part 53 = .ok (.iload 5, 2) := dk_21 5 (dk_at dksX0_part_2 6 rfl rfl)
theorem dX0_part_55 : decode cX0_part 55 = .ok (.iaload, 1) := dk_46 (dk_at dksX0_part_2 8 rfl rfl)
theorem dX0_part_56 : decode cX0_part 56 = .ok (.iload_n 1, 1) := dk_27 (dk_at dksX0_part_2 9 rfl rfl)
theorem dX0_part_57 : decode cX0_part 57 = .ok (.if_icmp .ne 7, 3) := dk_160 0 7 (dk_at dksX0_part_2 10 rfl rfl)
theorem dX0_part_60 : decode cX0_part 60 = .ok (.iconst 1, 1) := dk_4 (dk_at dksX0_part_2 13 rfl rfl)
theorem dX0_part_61 : decode cX0_part 61 = .ok (.goto 4, 3) := dk_167 0 4 (dk_at dksX0_part_2 14 rfl rfl)
theorem dX0_part_64 : decode cX0_part 64 = .ok (.iconst 0, 1) := dk_3 (dk_at dksX0_part_2 17 rfl rfl)
theorem dX0_part_65 : decode cX0_part 65 = .ok (.iadd, 1) := dk_96 (dk_at dksX0_part_2 18 rfl rfl)
theorem dX0_part_66 : decode cX0_part 66 = .ok (.istore 4, 2) := dk_54 4 (dk_at dksX0_part_2 19 rfl rfl)
theorem dX0_part_68 : decode cX0_part 68 = .ok (.iinc 5 1, 3) := dk_132 5 1 (dk_at dksX0_part_2 21 rfl rfl)
theorem dX0_part_71 : decode cX0_part 71 = .ok (.goto (-33), 3) := dk_167 255 223 (dk_at dksX0_part_3 0 rfl rfl)
theorem dX0_part_74 : decode cX0_part 74 = .ok (.iload_n 2, 1) := dk_28 (dk_at dksX0_part_3 3 rfl rfl)
theorem dX0_part_75 : decode cX0_part 75 = .ok (.ifCond .ne 8, 3) := dk_154 0 8 (dk_at dksX0_part_3 4 rfl rfl)
theorem dX0_part_78 : decode cX0_part 78 = .ok (.iload 4, 2) := dk_21 4 (dk_at dksX0_part_3 7 rfl rfl)
theorem dX0_part_80 : decode cX0_part 80 = .ok (.goto 39, 3) := dk_167 0 39 (dk_at dksX0_part_3 9 rfl rfl)
theorem dX0_part_83 : decode cX0_part 83 = .ok (.iload_n 2, 1) := dk_28 (dk_at dksX0_part_3 12 rfl rfl)
theorem dX0_part_84 : decode cX0_part 84 = .ok (.iconst 1, 1) := dk_4 (dk_at dksX0_part_3 13 rfl rfl)
theorem dX0_part_85 : decode cX0_part 85 = .ok (.if_icmp .ne 20, 3) := dk_160 0 20 (dk_at dksX0_part_3 14 rfl rfl)
theorem dX0_part_88 : decode cX0_part 88 = .ok (.aload_n 0, 1) := dk_42 (dk_at dksX0_part_3 17 rfl rfl)
theorem dX0_part_89 : decode cX0_part 89 = .ok (.iload_n 1, 1) := dk_27 (dk_at dksX0_part_3 18 rfl rfl)
theorem dX0_part_90 : decode cX0_part 90 = .ok (.invokevirtual 303, 3) := dk_182 1 47 (dk_at dksX0_part_3 19 rfl rfl)
theorem dX0_part_93 : decode cX0_part 93 = .ok (.aload_n 0, 1) := dk_42 (dk_at dksX0_part_3 22 rfl rfl)
theorem dX0_part_94 : decode cX0_part 94 = .ok (.iload_n 1, 1) := dk_27 (dk_at dksX0_part_3 23 rfl rfl)
theorem dX0_part_95 : decode cX0_part 95 = .ok (.invokevirtual 306, 3) := dk_182 1 50 (dk_at dksX0_part_4 0 rfl rfl)
theorem dX0_part_98 : decode cX0_part 98 = .ok (.isub, 1) := dk_100 (dk_at dksX0_part_4 3 rfl rfl)
theorem dX0_part_99 : decode cX0_part 99 = .ok (.iload 4, 2) := dk_21 4 (dk_at dksX0_part_4 4 rfl rfl)
theorem dX0_part_101 : decode cX0_part 101 = .ok (.iadd, 1) := dk_96 (dk_at dksX0_part_4 6 rfl rfl)
theorem dX0_part_102 : decode cX0_part 102 = .ok (.goto 17, 3) := dk_167 0 17 (dk_at dksX0_part_4 7 rfl rfl)
theorem dX0_part_105 : decode cX0_part 105 = .ok (.aload_n 0, 1) := dk_42 (dk_at dksX0_part_4 10 rfl rfl)
theorem dX0_part_106 : decode cX0_part 106 = .ok (.getfield 69, 3) := dk_180 0 69 (dk_at dksX0_part_4 11 rfl rfl)
theorem dX0_part_109 : decode cX0_part 109 = .ok (.iload_n 1, 1) := dk_27 (dk_at dksX0_part_4 14 rfl rfl)
theorem dX0_part_110 : decode cX0_part 110 = .ok (.baload, 1) := dk_51 (dk_at dksX0_part_4 15 rfl rfl)
theorem dX0_part_111 : decode cX0_part 111 = .ok (.ifCond .eq 7, 3) := dk_153 0 7 (dk_at dksX0_part_4 16 rfl rfl)
theorem dX0_part_114 : decode cX0_part 114 = .ok (.iconst 0, 1) := dk_3 (dk_at dksX0_part_4 19 rfl rfl)
theorem dX0_part_115 : decode cX0_part 115 = .ok (.goto 4, 3) := dk_167 0 4 (dk_at dksX0_part_4 20 rfl rfl)
theorem dX0_part_118 : decode cX0_part 118 = .ok (.iconst 1, 1) := dk_4 (dk_at dksX0_part_4 23 rfl rfl)
theorem dX0_part_119 : decode cX0_part 119 = .ok (.ireturn, 1) := dk_172 (dk_at dksX0_part_5 0 rfl rfl)
abbrev cX0_pointsOf : ByteArray := prog_1_method_61_code
def yX0_pointsOf : MethodName := ⟨RX0, "pointsOf", "(I)I"⟩
def dkwX0_pointsOf_8 : List UInt8 := [167, 255, 132, 132, 4, 1, 167, 255, 77, 28, 172]
abbrev dktX0_pointsOf_8 : List UInt8 := dkwX0_pointsOf_8 ++ []
def dkwX0_pointsOf_7 : List UInt8 := [21, 11, 46, 27, 160, 0, 7, 4, 167, 0, 4, 3, 96, 61, 132, 11, 1, 167, 255, 209, 132, 9, 1]
abbrev dktX0_pointsOf_7 : List UInt8 := dkwX0_pointsOf_7 ++ dktX0_pointsOf_8
def dkwX0_pointsOf_6 : List UInt8 := [16, 7, 21, 6, 104, 21, 9, 96, 4, 96, 46, 162, 0, 33, 21, 10, 153, 0, 28, 28, 42, 180, 0, 60]
abbrev dktX0_pointsOf_6 : List UInt8 := dkwX0_pointsOf_6 ++ dktX0_pointsOf_7
def dkwX0_pointsOf_5 : List UInt8 := [54, 10, 42, 180, 0, 57, 16, 7, 21, 6, 104, 21, 9, 96, 46, 54, 11, 21, 11, 42, 180, 0, 57]
abbrev dktX0_pointsOf_5 : List UInt8 := dkwX0_pointsOf_5 ++ dktX0_pointsOf_6
def dkwX0_pointsOf_4 : List UInt8 := [3, 167, 0, 22, 21, 9, 7, 100, 21, 7, 21, 8, 184, 0, 202, 159, 0, 7, 4, 167, 0, 4, 3]
abbrev dktX0_pointsOf_4 : List UInt8 := dkwX0_pointsOf_4 ++ dktX0_pointsOf_5
def dkwX0_pointsOf_3 : List UInt8 := [21, 9, 7, 162, 0, 25, 21, 9, 21, 7, 159, 0, 10, 21, 9, 21, 8, 160, 0, 7, 4, 167, 0, 26]
abbrev dktX0_pointsOf_3 : List UInt8 := dkwX0_pointsOf_3 ++ dktX0_pointsOf_4
def dkwX0_pointsOf_2 : List UInt8 := [54, 7, 178, 0, 90, 21, 5, 16, 6, 112, 46, 54, 8, 3, 54, 9, 21, 9, 16, 7, 162, 0, 123]
abbrev dktX0_pointsOf_2 : List UInt8 := dkwX0_pointsOf_2 ++ dktX0_pointsOf_3
def dkwX0_pointsOf_1 : List UInt8 := [21, 4, 182, 0, 130, 54, 5, 21, 5, 16, 6, 108, 54, 6, 178, 0, 87, 21, 5, 16, 6, 112, 46]
abbrev dktX0_pointsOf_1 : List UInt8 := dkwX0_pointsOf_1 ++ dktX0_pointsOf_2
def dkwX0_pointsOf_0 : List UInt8 := [3, 61, 42, 180, 0, 26, 182, 0, 125, 62, 3, 54, 4, 21, 4, 29, 162, 0, 179, 42, 180, 0, 26]
abbrev dktX0_pointsOf_0 : List UInt8 := dkwX0_pointsOf_0 ++ dktX0_pointsOf_1
theorem dksX0_pointsOf_0 : cX0_pointsOf.data.toList.drop 0 = dktX0_pointsOf_0 := by decide +kernel
theorem dksX0_pointsOf_1 : cX0_pointsOf.data.toList.drop 23 = dktX0_pointsOf_1 := dk_seg dksX0_pointsOf_0 23 rfl rfl
theorem dksX0_pointsOf_2 : cX0_pointsOf.data.toList.drop 46 = dktX0_pointsOf_2 := dk_seg dksX0_pointsOf_1 23 rfl rfl
theorem dksX0_pointsOf_3 : cX0_pointsOf.data.toList.drop 69 = dktX0_pointsOf_3 := dk_seg dksX0_pointsOf_2 23 rfl rfl
theorem dksX0_pointsOf_4 : cX0_pointsOf.data.toList.drop 93 = dktX0_pointsOf_4 := dk_seg dksX0_pointsOf_3 24 rfl rfl
theorem dksX0_pointsOf_5 : cX0_pointsOf.data.toList.drop 116 = dktX0_pointsOf_5 := dk_seg dksX0_pointsOf_4 23 rfl rfl
theorem dksX0_pointsOf_6 : cX0_pointsOf.data.toList.drop 139 = dktX0_pointsOf_6 := dk_seg dksX0_pointsOf_5 23 rfl rfl
theorem dksX0_pointsOf_7 : cX0_pointsOf.data.toList.drop 163 = dktX0_pointsOf_7 := dk_seg dksX0_pointsOf_6 24 rfl rfl
theorem dksX0_pointsOf_8 : cX0_pointsOf.data.toList.drop 186 = dktX0_pointsOf_8 := dk_seg dksX0_pointsOf_7 23 rfl rfl
theorem dX0_pointsOf_0 : decode cX0_pointsOf 0 = .ok (.iconst 0, 1) := dk_3 (dk_at dksX0_pointsOf_0 0 rfl rfl)
theorem dX0_pointsOf_1 : decode cX0_pointsOf 1 = .ok (.istore_n 2, 1) := dk_61 (dk_at dksX0_pointsOf_0 1 rfl rfl)
theorem dX0_pointsOf_2 : decode cX0_pointsOf 2 = .ok (.aload_n 0, 1) := dk_42 (dk_at dksX0_pointsOf_0 2 rfl rfl)
theorem dX0_pointsOf_3 : decode cX0_pointsOf 3 = .ok (.getfield 26, 3) := dk_180 0 26 (dk_at dksX0_pointsOf_0 3 rfl rfl)
theorem dX0_pointsOf_6 : decode cX0_pointsOf 6 = .ok (.invokevirtual 125, 3) := dk_182 0 125 (dk_at dksX0_pointsOf_0 6 rfl rfl)
theorem dX0_pointsOf_9 : decode cX0_pointsOf 9 = .ok (.istore_n 3, 1) := dk_62 (dk_at dksX0_pointsOf_0 9 rfl rfl)
theorem dX0_pointsOf_10 : decode cX0_pointsOf 10 = .ok (.iconst 0, 1) := dk_3 (dk_at dksX0_pointsOf_0 10 rfl rfl)
theorem dX0_pointsOf_11 : decode cX0_pointsOf 11 = .ok (.istore 4, 2) := dk_54 4 (dk_at dksX0_pointsOf_0 11 rfl rfl)
theorem dX0_pointsOf_13 : decode cX0_pointsOf 13 = .ok (.iload 4, 2) := dk_21 4 (dk_at dksX0_pointsOf_0 13 rfl rfl)
theorem dX0_pointsOf_15 : decode cX0_pointsOf 15 = .ok (.iload_n 3, 1) := dk_29 (dk_at dksX0_pointsOf_0 15 rfl rfl)
theorem dX0_pointsOf_16 : decode cX0_pointsOf 16 = .ok (.if_icmp .ge 179, 3) := dk_162 0 179 (dk_at dksX0_pointsOf_0 16 rfl rfl)
theorem dX0_pointsOf_19 : decode cX0_pointsOf 19 = .ok (.aload_n 0, 1) := dk_42 (dk_at dksX0_pointsOf_0 19 rfl rfl)
theorem dX0_pointsOf_20 : decode cX0_pointsOf 20 = .ok (.getfield 26, 3) := dk_180 0 26 (dk_at dksX0_pointsOf_0 20 rfl rfl)
theorem dX0_pointsOf_23 : decode cX0_pointsOf 23 = .ok (.iload 4, 2) := dk_21 4 (dk_at dksX0_pointsOf_1 0 rfl rfl)
theorem dX0_pointsOf_25 : decode cX0_pointsOf 25 = .ok (.invokevirtual 130, 3) := dk_182 0 130 (dk_at dksX0_pointsOf_1 2 rfl rfl)
theorem dX0_pointsOf_28 : decode cX0_pointsOf 28 = .ok (.istore 5, 2) := dk_54 5 (dk_at dksX0_pointsOf_1 5 rfl rfl)
theorem dX0_pointsOf_30 : decode cX0_pointsOf 30 = .ok (.iload 5, 2) := dk_21 5 (dk_at dksX0_pointsOf_1 7 rfl rfl)
theorem dX0_pointsOf_32 : decode cX0_pointsOf 32 = .ok (.bipush 6, 2) := dk_16 6 (dk_at dksX0_pointsOf_1 9 rfl rfl)
theorem dX0_pointsOf_34 : decode cX0_pointsOf 34 = .ok (.idiv, 1) := dk_108 (dk_at dksX0_pointsOf_1 11 rfl rfl)
theorem dX0_pointsOf_35 : decode cX0_pointsOf 35 = .ok (.istore 6, 2) := dk_54 6 (dk_at dksX0_pointsOf_1 12 rfl rfl)
theorem dX0_pointsOf_37 : decode cX0_pointsOf 37 = .ok (.getstatic 87, 3) := dk_178 0 87 (dk_at dksX0_pointsOf_1 14 rfl rfl)
theorem dX0_pointsOf_40 : decode cX0_pointsOf 40 = .ok (.iload 5, 2) := dk_21 5 (dk_at dksX0_pointsOf_1 17 rfl rfl)
theorem dX0_pointsOf_42 : decode cX0_pointsOf 42 = .ok (.bipush 6, 2) := dk_16 6 (dk_at dksX0_pointsOf_1 19 rfl rfl)
theorem dX0_pointsOf_44 : decode cX0_pointsOf 44 = .ok (.irem, 1) := dk_112 (dk_at dksX0_pointsOf_1 21 rfl rfl)
theorem dX0_pointsOf_45 : decode cX0_pointsOf 45 = .ok (.iaload, 1) := dk_46 (dk_at dksX0_pointsOf_1 22 rfl rfl)
theorem dX0_pointsOf_46 : decode cX0_pointsOf 46 = .ok (.istore 7, 2) := dk_54 7 (dk_at dksX0_pointsOf_2 0 rfl rfl)
theorem dX0_pointsOf_48 : decode cX0_pointsOf 48 = .ok (.getstatic 90, 3) := dk_178 0 90 (dk_at dksX0_pointsOf_2 2 rfl rfl)
theorem dX0_pointsOf_51 : decode cX0_pointsOf 51 = .ok (.iload 5, 2) := dk_21 5 (dk_at dksX0_pointsOf_2 5 rfl rfl)
theorem dX0_pointsOf_53 : decode cX0_pointsOf 53 = .ok (.bipush 6, 2) := dk_16 6 (dk_at dksX0_pointsOf_2 7 rfl rfl)
theorem dX0_pointsOf_55 : decode cX0_pointsOf 55 = .ok (.irem, 1) := dk_112 (dk_at dksX0_pointsOf_2 9 rfl rfl)
theorem dX0_pointsOf_56 : decode cX0_pointsOf 56 = .ok (.iaload, 1) := dk_46 (dk_at dksX0_pointsOf_2 10 rfl rfl)
theorem dX0_pointsOf_57 : decode cX0_pointsOf 57 = .ok (.istore 8, 2) := dk_54 8 (dk_at dksX0_pointsOf_2 11 rfl rfl)
theorem dX0_pointsOf_59 : decode cX0_pointsOf 59 = .ok (.iconst 0, 1) := dk_3 (dk_at dksX0_pointsOf_2 13 rfl rfl)
theorem dX0_pointsOf_60 : decode cX0_pointsOf 60 = .ok (.istore 9, 2) := dk_54 9 (dk_at dksX0_pointsOf_2 14 rfl rfl)
theorem dX0_pointsOf_62 : decode cX0_pointsOf 62 = .ok (.iload 9, 2) := dk_21 9 (dk_at dksX0_pointsOf_2 16 rfl rfl)
theorem dX0_pointsOf_64 : decode cX0_pointsOf 64 = .ok (.bipush 7, 2) := dk_16 7 (dk_at dksX0_pointsOf_2 18 rfl rfl)
theorem dX0_pointsOf_66 : decode cX0_pointsOf 66 = .ok (.if_icmp .ge 123, 3) := dk_162 0 123 (dk_at dksX0_pointsOf_2 20 rfl rfl)
theorem dX0_pointsOf_69 : decode cX0_pointsOf 69 = .ok (.iload 9, 2) := dk_21 9 (dk_at dksX0_pointsOf_3 0 rfl rfl)
theorem dX0_pointsOf_71 : decode cX0_pointsOf 71 = .ok (.iconst 4, 1) := dk_7 (dk_at dksX0_pointsOf_3 2 rfl rfl)
theorem dX0_pointsOf_72 : decode cX0_pointsOf 72 = .ok (.if_icmp .ge 25, 3) := dk_162 0 25 (dk_at dksX0_pointsOf_3 3 rfl rfl)
theorem dX0_pointsOf_75 : decode cX0_pointsOf 75 = .ok (.iload 9, 2) := dk_21 9 (dk_at dksX0_pointsOf_3 6 rfl rfl)
theorem dX0_pointsOf_77 : decode cX0_pointsOf 77 = .ok (.iload 7, 2) := dk_21 7 (dk_at dksX0_pointsOf_3 8 rfl rfl)
theorem dX0_pointsOf_79 : decode cX0_pointsOf 79 = .ok (.if_icmp .eq 10, 3) := dk_159 0 10 (dk_at dksX0_pointsOf_3 10 rfl rfl)
theorem dX0_pointsOf_82 : decode cX0_pointsOf 82 = .ok (.iload 9, 2) := dk_21 9 (dk_at dksX0_pointsOf_3 13 rfl rfl)
theorem dX0_pointsOf_84 : decode cX0_pointsOf 84 = .ok (.iload 8, 2) := dk_21 8 (dk_at dksX0_pointsOf_3 15 rfl rfl)
theorem dX0_pointsOf_86 : decode cX0_pointsOf 86 = .ok (.if_icmp .ne 7, 3) := dk_160 0 7 (dk_at dksX0_pointsOf_3 17 rfl rfl)
theorem dX0_pointsOf_89 : decode cX0_pointsOf 89 = .ok (.iconst 1, 1) := dk_4 (dk_at dksX0_pointsOf_3 20 rfl rfl)
theorem dX0_pointsOf_90 : decode cX0_pointsOf 90 = .ok (.goto 26, 3) := dk_167 0 26 (dk_at dksX0_pointsOf_3 21 rfl rfl)
theorem dX0_pointsOf_93 : decode cX0_pointsOf 93 = .ok (.iconst 0, 1) := dk_3 (dk_at dksX0_pointsOf_4 0 rfl rfl)
theorem dX0_pointsOf_94 : decode cX0_pointsOf 94 = .ok (.goto 22, 3) := dk_167 0 22 (dk_at dksX0_pointsOf_4 1 rfl rfl)
theorem dX0_pointsOf_97 : decode cX0_pointsOf 97 = .ok (.iload 9, 2) := dk_21 9 (dk_at dksX0_pointsOf_4 4 rfl rfl)
theorem dX0_pointsOf_99 : decode cX0_pointsOf 99 = .ok (.iconst 4, 1) := dk_7 (dk_at dksX0_pointsOf_4 6 rfl rfl)
theorem dX0_pointsOf_100 : decode cX0_pointsOf 100 = .ok (.isub, 1) := dk_100 (dk_at dksX0_pointsOf_4 7 rfl rfl)
theorem dX0_pointsOf_101 : decode cX0_pointsOf 101 = .ok (.iload 7, 2) := dk_21 7 (dk_at dksX0_pointsOf_4 8 rfl rfl)
theorem dX0_pointsOf_103 : decode cX0_pointsOf 103 = .ok (.iload 8, 2) := dk_21 8 (dk_at dksX0_pointsOf_4 10 rfl rfl)
theorem dX0_pointsOf_105 : decode cX0_pointsOf 105 = .ok (.invokestatic 202, 3) := dk_184 0 202 (dk_at dksX0_pointsOf_4 12 rfl rfl)
theorem dX0_pointsOf_108 : decode cX0_pointsOf 108 = .ok (.if_icmp .eq 7, 3) := dk_159 0 7 (dk_at dksX0_pointsOf_4 15 rfl rfl)
theorem dX0_pointsOf_111 : decode cX0_pointsOf 111 = .ok (.iconst 1, 1) := dk_4 (dk_at dksX0_pointsOf_4 18 rfl rfl)
theorem dX0_pointsOf_112 : decode cX0_pointsOf 112 = .ok (.goto 4, 3) := dk_167 0 4 (dk_at dksX0_pointsOf_4 19 rfl rfl)
theorem dX0_pointsOf_115 : decode cX0_pointsOf 115 = .ok (.iconst 0, 1) := dk_3 (dk_at dksX0_pointsOf_4 22 rfl rfl)
theorem dX0_pointsOf_116 : decode cX0_pointsOf 116 = .ok (.istore 10, 2) := dk_54 10 (dk_at dksX0_pointsOf_5 0 rfl rfl)
theorem dX0_pointsOf_118 : decode cX0_pointsOf 118 = .ok (.aload_n 0, 1) := dk_42 (dk_at dksX0_pointsOf_5 2 rfl rfl)
theorem dX0_pointsOf_119 : decode cX0_pointsOf 119 = .ok (.getfield 57, 3) := dk_180 0 57 (dk_at dksX0_pointsOf_5 3 rfl rfl)
theorem dX0_pointsOf_122 : decode cX0_pointsOf 122 = .ok (.bipush 7, 2) := dk_16 7 (dk_at dksX0_pointsOf_5 6 rfl rfl)
theorem dX0_pointsOf_124 : decode cX0_pointsOf 124 = .ok (.iload 6, 2) := dk_21 6 (dk_at dksX0_pointsOf_5 8 rfl rfl)
theorem dX0_pointsOf_126 : decode cX0_pointsOf 126 = .ok (.imul, 1) := dk_104 (dk_at dksX0_pointsOf_5 10 rfl rfl)
theorem dX0_pointsOf_127 : decode cX0_pointsOf 127 = .ok (.iload 9, 2) := dk_21 9 (dk_at dksX0_pointsOf_5 11 rfl rfl)
theorem dX0_pointsOf_129 : decode cX0_pointsOf 129 = .ok (.iadd, 1) := dk_96 (dk_at dksX0_pointsOf_5 13 rfl rfl)
theorem dX0_pointsOf_130 : decode cX0_pointsOf 130 = .ok (.iaload, 1) := dk_46 (dk_at dksX0_pointsOf_5 14 rfl rfl)
theorem dX0_pointsOf_131 : decode cX0_pointsOf 131 = .ok (.istore 11, 2) := dk_54 11 (dk_at dksX0_pointsOf_5 15 rfl rfl)
theorem dX0_pointsOf_133 : decode cX0_pointsOf 133 = .ok (.iload 11, 2) := dk_21 11 (dk_at dksX0_pointsOf_5 17 rfl rfl)
theorem dX0_pointsOf_135 : decode cX0_pointsOf 135 = .ok (.aload_n 0, 1) := dk_42 (dk_at dksX0_pointsOf_5 19 rfl rfl)
theorem dX0_pointsOf_136 : decode cX0_pointsOf 136 = .ok (.getfield 57, 3) := dk_180 0 57 (dk_at dksX0_pointsOf_5 20 rfl rfl)
theorem dX0_pointsOf_139 : decode cX0_pointsOf 139 = .ok (.bipush 7, 2) := dk_16 7 (dk_at dksX0_pointsOf_6 0 rfl rfl)
theorem dX0_pointsOf_141 : decode cX0_pointsOf 141 = .ok (.iload 6, 2) := dk_21 6 (dk_at dksX0_pointsOf_6 2 rfl rfl)
theorem dX0_pointsOf_143 : decode cX0_pointsOf 143 = .ok (.imul, 1) := dk_104 (dk_at dksX0_pointsOf_6 4 rfl rfl)
theorem dX0_pointsOf_144 : decode cX0_pointsOf 144 = .ok (.iload 9, 2) := dk_21 9 (dk_at dksX0_pointsOf_6 5 rfl rfl)
theorem dX0_pointsOf_146 : decode cX0_pointsOf 146 = .ok (.iadd, 1) := dk_96 (dk_at dksX0_pointsOf_6 7 rfl rfl)
theorem dX0_pointsOf_147 : decode cX0_pointsOf 147 = .ok (.iconst 1, 1) := dk_4 (dk_at dksX0_pointsOf_6 8 rfl rfl)
theorem dX0_pointsOf_148 : decode cX0_pointsOf 148 = .ok (.iadd, 1) := dk_96 (dk_at dksX0_pointsOf_6 9 rfl rfl)
theorem dX0_pointsOf_149 : decode cX0_pointsOf 149 = .ok (.iaload, 1) := dk_46 (dk_at dksX0_pointsOf_6 10 rfl rfl)
theorem dX0_pointsOf_150 : decode cX0_pointsOf 150 = .ok (.if_icmp .ge 33, 3) := dk_162 0 33 (dk_at dksX0_pointsOf_6 11 rfl rfl)
theorem dX0_pointsOf_153 : decode cX0_pointsOf 153 = .ok (.iload 10, 2) := dk_21 10 (dk_at dksX0_pointsOf_6 14 rfl rfl)
theorem dX0_pointsOf_155 : decode cX0_pointsOf 155 = .ok (.ifCond .eq 28, 3) := dk_153 0 28 (dk_at dksX0_pointsOf_6 16 rfl rfl)
theorem dX0_pointsOf_158 : decode cX0_pointsOf 158 = .ok (.iload_n 2, 1) := dk_28 (dk_at dksX0_pointsOf_6 19 rfl rfl)
theorem dX0_pointsOf_159 : decode cX0_pointsOf 159 = .ok (.aload_n 0, 1) := dk_42 (dk_at dksX0_pointsOf_6 20 rfl rfl)
theorem dX0_pointsOf_160 : decode cX0_pointsOf 160 = .ok (.getfield 60, 3) := dk_180 0 60 (dk_at dksX0_pointsOf_6 21 rfl rfl)
theorem dX0_pointsOf_163 : decode cX0_pointsOf 163 = .ok (.iload 11, 2) := dk_21 11 (dk_at dksX0_pointsOf_7 0 rfl rfl)
theorem dX0_pointsOf_165 : decode cX0_pointsOf 165 = .ok (.iaload, 1) := dk_46 (dk_at dksX0_pointsOf_7 2 rfl rfl)
theorem dX0_pointsOf_166 : decode cX0_pointsOf 166 = .ok (.iload_n 1, 1) := dk_27 (dk_at dksX0_pointsOf_7 3 rfl rfl)
theorem dX0_pointsOf_167 : decode cX0_pointsOf 167 = .ok (.if_icmp .ne 7, 3) := dk_160 0 7 (dk_at dksX0_pointsOf_7 4 rfl rfl)
theorem dX0_pointsOf_170 : decode cX0_pointsOf 170 = .ok (.iconst 1, 1) := dk_4 (dk_at dksX0_pointsOf_7 7 rfl rfl)
theorem dX0_pointsOf_171 : decode cX0_pointsOf 171 = .ok (.goto 4, 3) := dk_167 0 4 (dk_at dksX0_pointsOf_7 8 rfl rfl)
theorem dX0_pointsOf_174 : decode cX0_pointsOf 174 = .ok (.iconst 0, 1) := dk_3 (dk_at dksX0_pointsOf_7 11 rfl rfl)
theorem dX0_pointsOf_175 : decode cX0_pointsOf 175 = .ok (.iadd, 1) := dk_96 (dk_at dksX0_pointsOf_7 12 rfl rfl)
theorem dX0_pointsOf_176 : decode cX0_pointsOf 176 = .ok (.istore_n 2, 1) := dk_61 (dk_at dksX0_pointsOf_7 13 rfl rfl)
theorem dX0_pointsOf_177 : decode cX0_pointsOf 177 = .ok (.iinc 11 1, 3) := dk_132 11 1 (dk_at dksX0_pointsOf_7 14 rfl rfl)
theorem dX0_pointsOf_180 : decode cX0_pointsOf 180 = .ok (.goto (-47), 3) := dk_167 255 209 (dk_at dksX0_pointsOf_7 17 rfl rfl)
theorem dX0_pointsOf_183 : decode cX0_pointsOf 183 = .ok (.iinc 9 1, 3) := dk_132 9 1 (dk_at dksX0_pointsOf_7 20 rfl rfl)
theorem dX0_pointsOf_186 : decode cX0_pointsOf 186 = .ok (.goto (-124), 3) := dk_167 255 132 (dk_at dksX0_pointsOf_8 0 rfl rfl)
theorem dX0_pointsOf_189 : decode cX0_pointsOf 189 = .ok (.iinc 4 1, 3) := dk_132 4 1 (dk_at dksX0_pointsOf_8 3 rfl rfl)
theorem dX0_pointsOf_192 : decode cX0_pointsOf 192 = .ok (.goto (-179), 3) := dk_167 255 77 (dk_at dksX0_pointsOf_8 6 rfl rfl)
theorem dX0_pointsOf_195 : decode cX0_pointsOf 195 = .ok (.iload_n 2, 1) := dk_28 (dk_at dksX0_pointsOf_8 9 rfl rfl)
theorem dX0_pointsOf_196 : decode cX0_pointsOf 196 = .ok (.ireturn, 1) := dk_172 (dk_at dksX0_pointsOf_8 10 rfl rfl)
abbrev cX0_arcsOf : ByteArray := prog_1_method_62_code
def yX0_arcsOf : MethodName := ⟨RX0, "arcsOf", "(I)I"⟩
def dkwX0_arcsOf_5 : List UInt8 := [132, 3, 1, 167, 255, 139, 28, 172]
abbrev dktX0_arcsOf_5 : List UInt8 := dkwX0_arcsOf_5 ++ []
def dkwX0_arcsOf_4 : List UInt8 := [167, 0, 4, 3, 96, 61, 132, 7, 1, 167, 255, 218, 132, 5, 1, 167, 255, 171, 132, 4, 1, 167, 255, 156]
abbrev dktX0_arcsOf_4 : List UInt8 := dkwX0_arcsOf_4 ++ dktX0_arcsOf_5
def dkwX0_arcsOf_3 : List UInt8 := [28, 42, 180, 0, 60, 42, 29, 21, 4, 21, 5, 21, 7, 182, 1, 38, 46, 27, 160, 0, 7, 4]
abbrev dktX0_arcsOf_3 : List UInt8 := dkwX0_arcsOf_3 ++ dktX0_arcsOf_4
def dkwX0_arcsOf_2 : List UInt8 := [167, 0, 12, 42, 29, 21, 4, 21, 5, 182, 1, 8, 54, 6, 3, 54, 7, 21, 7, 21, 6, 162, 0, 37]
abbrev dktX0_arcsOf_2 : List UInt8 := dkwX0_arcsOf_2 ++ dktX0_arcsOf_3
def dkwX0_arcsOf_1 : List UInt8 := [21, 5, 7, 162, 0, 85, 42, 29, 21, 4, 182, 1, 15, 153, 0, 75, 21, 5, 21, 4, 160, 0, 7, 3]
abbrev dktX0_arcsOf_1 : List UInt8 := dkwX0_arcsOf_1 ++ dktX0_arcsOf_2
def dkwX0_arcsOf_0 : List UInt8 := [3, 61, 3, 62, 29, 42, 180, 0, 73, 162, 0, 115, 3, 54, 4, 21, 4, 7, 162, 0, 100, 3, 54, 5]
abbrev dktX0_arcsOf_0 : List UInt8 := dkwX0_arcsOf_0 ++ dktX0_arcsOf_1
theorem dksX0_arcsOf_0 : cX0_arcsOf.data.toList.drop 0 = dktX0_arcsOf_0 := by decide +kernel
theorem dksX0_arcsOf_1 : cX0_arcsOf.data.toList.drop 24 = dktX0_arcsOf_1 := dk_seg dksX0_arcsOf_0 24 rfl rfl
theorem dksX0_arcsOf_2 : cX0_arcsOf.data.toList.drop 48 = dktX0_arcsOf_2 := dk_seg dksX0_arcsOf_1 24 rfl rfl
theorem dksX0_arcsOf_3 : cX0_arcsOf.data.toList.drop 72 = dktX0_arcsOf_3 := dk_seg dksX0_arcsOf_2 24 rfl rfl
theorem dksX0_arcsOf_4 : cX0_arcsOf.data.toList.drop 94 = dktX0_arcsOf_4 := dk_seg dksX0_arcsOf_3 22 rfl rfl
theorem dksX0_arcsOf_5 : cX0_arcsOf.data.toList.drop 118 = dktX0_arcsOf_5 := dk_seg dksX0_arcsOf_4 24 rfl rfl
theorem dX0_arcsOf_0 : decode cX0_arcsOf 0 = .ok (.iconst 0, 1) := dk_3 (dk_at dksX0_arcsOf_0 0 rfl rfl)
theorem dX0_arcsOf_1 : decode cX0_arcsOf 1 = .ok (.istore_n 2, 1) := dk_61 (dk_at dksX0_arcsOf_0 1 rfl rfl)
theorem dX0_arcsOf_2 : decode cX0_arcsOf 2 = .ok (.iconst 0, 1) := dk_3 (dk_at dksX0_arcsOf_0 2 rfl rfl)
theorem dX0_arcsOf_3 : decode cX0_arcsOf 3 = .ok (.istore_n 3, 1) := dk_62 (dk_at dksX0_arcsOf_0 3 rfl rfl)
theorem dX0_arcsOf_4 : decode cX0_arcsOf 4 = .ok (.iload_n 3, 1) := dk_29 (dk_at dksX0_arcsOf_0 4 rfl rfl)
theorem dX0_arcsOf_5 : decode cX0_arcsOf 5 = .ok (.aload_n 0, 1) := dk_42 (dk_at dksX0_arcsOf_0 5 rfl rfl)
theorem dX0_arcsOf_6 : decode cX0_arcsOf 6 = .ok (.getfield 73, 3) := dk_180 0 73 (dk_at dksX0_arcsOf_0 6 rfl rfl)
theorem dX0_arcsOf_9 : decode cX0_arcsOf 9 = .ok (.if_icmp .ge 115, 3) := dk_162 0 115 (dk_at dksX0_arcsOf_0 9 rfl rfl)
theorem dX0_arcsOf_12 : decode cX0_arcsOf 12 = .ok (.iconst 0, 1) := dk_3 (dk_at dksX0_arcsOf_0 12 rfl rfl)
theorem dX0_arcsOf_13 : decode cX0_arcsOf 13 = .ok (.istore 4, 2) := dk_54 4 (dk_at dksX0_arcsOf_0 13 rfl rfl)
theorem dX0_arcsOf_15 : decode cX0_arcsOf 15 = .ok (.iload 4, 2) := dk_21 4 (dk_at dksX0_arcsOf_0 15 rfl rfl)
theorem dX0_arcsOf_17 : decode cX0_arcsOf 17 = .ok (.iconst 4, 1) := dk_7 (dk_at dksX0_arcsOf_0 17 rfl rfl)
theorem dX0_arcsOf_18 : decode cX0_arcsOf 18 = .ok (.if_icmp .ge 100, 3) := dk_162 0 100 (dk_at dksX0_arcsOf_0 18 rfl rfl)
theorem dX0_arcsOf_21 : decode cX0_arcsOf 21 = .ok (.iconst 0, 1) := dk_3 (dk_at dksX0_arcsOf_0 21 rfl rfl)
theorem dX0_arcsOf_22 : decode cX0_arcsOf 22 = .ok (.istore 5, 2) := dk_54 5 (dk_at dksX0_arcsOf_0 22 rfl rfl)
theorem dX0_arcsOf_24 : decode cX0_arcsOf 24 = .ok (.iload 5, 2) := dk_21 5 (dk_at dksX0_arcsOf_1 0 rfl rfl)
theorem dX0_arcsOf_26 : decode cX0_arcsOf 26 = .ok (.iconst 4, 1) := dk_7 (dk_at dksX0_arcsOf_1 2 rfl rfl)
theorem dX0_arcsOf_27 : decode cX0_arcsOf 27 = .ok (.if_icmp .ge 85, 3) := dk_162 0 85 (dk_at dksX0_arcsOf_1 3 rfl rfl)
theorem dX0_arcsOf_30 : decode cX0_arcsOf 30 = .ok (.aload_n 0, 1) := dk_42 (dk_at dksX0_arcsOf_1 6 rfl rfl)
theorem dX0_arcsOf_31 : decode cX0_arcsOf 31 = .ok (.iload_n 3, 1) := dk_29 (dk_at dksX0_arcsOf_1 7 rfl rfl)
theorem dX0_arcsOf_32 : decode cX0_arcsOf 32 = .ok (.iload 4, 2) := dk_21 4 (dk_at dksX0_arcsOf_1 8 rfl rfl)
theorem dX0_arcsOf_34 : decode cX0_arcsOf 34 = .ok (.invokevirtual 271, 3) := dk_182 1 15 (dk_at dksX0_arcsOf_1 10 rfl rfl)
theorem dX0_arcsOf_37 : decode cX0_arcsOf 37 = .ok (.ifCond .eq 75, 3) := dk_153 0 75 (dk_at dksX0_arcsOf_1 13 rfl rfl)
theorem dX0_arcsOf_40 : decode cX0_arcsOf 40 = .ok (.iload 5, 2) := dk_21 5 (dk_at dksX0_arcsOf_1 16 rfl rfl)
theorem dX0_arcsOf_42 : decode cX0_arcsOf 42 = .ok (.iload 4, 2) := dk_21 4 (dk_at dksX0_arcsOf_1 18 rfl rfl)
theorem dX0_arcsOf_44 : decode cX0_arcsOf 44 = .ok (.if_icmp .ne 7, 3) := dk_160 0 7 (dk_at dksX0_arcsOf_1 20 rfl rfl)
theorem dX0_arcsOf_47 : decode cX0_arcsOf 47 = .ok (.iconst 0, 1) := dk_3 (dk_at dksX0_arcsOf_1 23 rfl rfl)
theorem dX0_arcsOf_48 : decode cX0_arcsOf 48 = .ok (.goto 12, 3) := dk_167 0 12 (dk_at dksX0_arcsOf_2 0 rfl rfl)
theorem dX0_arcsOf_51 : decode cX0_arcsOf 51 = .ok (.aload_n 0, 1) := dk_42 (dk_at dksX0_arcsOf_2 3 rfl rfl)
theorem dX0_arcsOf_52 : decode cX0_arcsOf 52 = .ok (.iload_n 3, 1) := dk_29 (dk_at dksX0_arcsOf_2 4 rfl rfl)
theorem dX0_arcsOf_53 : decode cX0_arcsOf 53 = .ok (.iload 4, 2) := dk_21 4 (dk_at dksX0_arcsOf_2 5 rfl rfl)
theorem dX0_arcsOf_55 : decode cX0_arcsOf 55 = .ok (.iload 5, 2) := dk_21 5 (dk_at dksX0_arcsOf_2 7 rfl rfl)
theorem dX0_arcsOf_57 : decode cX0_arcsOf 57 = .ok (.invokevirtual 264, 3) := dk_182 1 8 (dk_at dksX0_arcsOf_2 9 rfl rfl)
theorem dX0_arcsOf_60 : decode cX0_arcsOf 60 = .ok (.istore 6, 2) := dk_54 6 (dk_at dksX0_arcsOf_2 12 rfl rfl)
theorem dX0_arcsOf_62 : decode cX0_arcsOf 62 = .ok (.iconst 0, 1) := dk_3 (dk_at dksX0_arcsOf_2 14 rfl rfl)
theorem dX0_arcsOf_63 : decode cX0_arcsOf 63 = .ok (.istore 7, 2) := dk_54 7 (dk_at dksX0_arcsOf_2 15 rfl rfl)
theorem dX0_arcsOf_65 : decode cX0_arcsOf 65 = .ok (.iload 7, 2) := dk_21 7 (dk_at dksX0_arcsOf_2 17 rfl rfl)
theorem dX0_arcsOf_67 : decode cX0_arcsOf 67 = .ok (.iload 6, 2) := dk_21 6 (dk_at dksX0_arcsOf_2 19 rfl rfl)
theorem dX0_arcsOf_69 : decode cX0_arcsOf 69 = .ok (.if_icmp .ge 37, 3) := dk_162 0 37 (dk_at dksX0_arcsOf_2 21 rfl rfl)
theorem dX0_arcsOf_72 : decode cX0_arcsOf 72 = .ok (.iload_n 2, 1) := dk_28 (dk_at dksX0_arcsOf_3 0 rfl rfl)
theorem dX0_arcsOf_73 : decode cX0_arcsOf 73 = .ok (.aload_n 0, 1) := dk_42 (dk_at dksX0_arcsOf_3 1 rfl rfl)
theorem dX0_arcsOf_74 : decode cX0_arcsOf 74 = .ok (.getfield 60, 3) := dk_180 0 60 (dk_at dksX0_arcsOf_3 2 rfl rfl)
theorem dX0_arcsOf_77 : decode cX0_arcsOf 77 = .ok (.aload_n 0, 1) := dk_42 (dk_at dksX0_arcsOf_3 5 rfl rfl)
theorem dX0_arcsOf_78 : decode cX0_arcsOf 78 = .ok (.iload_n 3, 1) := dk_29 (dk_at dksX0_arcsOf_3 6 rfl rfl)
theorem dX0_arcsOf_79 : decode cX0_arcsOf 79 = .ok (.iload 4, 2) := dk_21 4 (dk_at dksX0_arcsOf_3 7 rfl rfl)
theorem dX0_arcsOf_81 : decode cX0_arcsOf 81 = .ok (.iload 5, 2) := dk_21 5 (dk_at dksX0_arcsOf_3 9 rfl rfl)
theorem dX0_arcsOf_83 : decode cX0_arcsOf 83 = .ok (.iload 7, 2) := dk_21 7 (dk_at dksX0_arcsOf_3 11 rfl rfl)
theorem dX0_arcsOf_85 : decode cX0_arcsOf 85 = .ok (.invokevirtual 294, 3) := dk_182 1 38 (dk_at dksX0_arcsOf_3 13 rfl rfl)
theorem dX0_arcsOf_88 : decode cX0_arcsOf 88 = .ok (.iaload, 1) := dk_46 (dk_at dksX0_arcsOf_3 16 rfl rfl)
theorem dX0_arcsOf_89 : decode cX0_arcsOf 89 = .ok (.iload_n 1, 1) := dk_27 (dk_at dksX0_arcsOf_3 17 rfl rfl)
theorem dX0_arcsOf_90 : decode cX0_arcsOf 90 = .ok (.if_icmp .ne 7, 3) := dk_160 0 7 (dk_at dksX0_arcsOf_3 18 rfl rfl)
theorem dX0_arcsOf_93 : decode cX0_arcsOf 93 = .ok (.iconst 1, 1) := dk_4 (dk_at dksX0_arcsOf_3 21 rfl rfl)
theorem dX0_arcsOf_94 : decode cX0_arcsOf 94 = .ok (.goto 4, 3) := dk_167 0 4 (dk_at dksX0_arcsOf_4 0 rfl rfl)
theorem dX0_arcsOf_97 : decode cX0_arcsOf 97 = .ok (.iconst 0, 1) := dk_3 (dk_at dksX0_arcsOf_4 3 rfl rfl)
theorem dX0_arcsOf_98 : decode cX0_arcsOf 98 = .ok (.iadd, 1) := dk_96 (dk_at dksX0_arcsOf_4 4 rfl rfl)
theorem dX0_arcsOf_99 : decode cX0_arcsOf 99 = .ok (.istore_n 2, 1) := dk_61 (dk_at dksX0_arcsOf_4 5 rfl rfl)
theorem dX0_arcsOf_100 : decode cX0_arcsOf 100 = .ok (.iinc 7 1, 3) := dk_132 7 1 (dk_at dksX0_arcsOf_4 6 rfl rfl)
theorem dX0_arcsOf_103 : decode cX0_arcsOf 103 = .ok (.goto (-38), 3) := dk_167 255 218 (dk_at dksX0_arcsOf_4 9 rfl rfl)
theorem dX0_arcsOf_106 : decode cX0_arcsOf 106 = .ok (.iinc 5 1, 3) := dk_132 5 1 (dk_at dksX0_arcsOf_4 12 rfl rfl)
theorem dX0_arcsOf_109 : decode cX0_arcsOf 109 = .ok (.goto (-85), 3) := dk_167 255 171 (dk_at dksX0_arcsOf_4 15 rfl rfl)
theorem dX0_arcsOf_112 : decode cX0_arcsOf 112 = .ok (.iinc 4 1, 3) := dk_132 4 1 (dk_at dksX0_arcsOf_4 18 rfl rfl)
theorem dX0_arcsOf_115 : decode cX0_arcsOf 115 = .ok (.goto (-100), 3) := dk_167 255 156 (dk_at dksX0_arcsOf_4 21 rfl rfl)
theorem dX0_arcsOf_118 : decode cX0_arcsOf 118 = .ok (.iinc 3 1, 3) := dk_132 3 1 (dk_at dksX0_arcsOf_5 0 rfl rfl)
theorem dX0_arcsOf_121 : decode cX0_arcsOf 121 = .ok (.goto (-117), 3) := dk_167 255 139 (dk_at dksX0_arcsOf_5 3 rfl rfl)
theorem dX0_arcsOf_124 : decode cX0_arcsOf 124 = .ok (.iload_n 2, 1) := dk_28 (dk_at dksX0_arcsOf_5 6 rfl rfl)
theorem dX0_arcsOf_125 : decode cX0_arcsOf 125 = .ok (.ireturn, 1) := dk_172 (dk_at dksX0_arcsOf_5 7 rfl rfl)
theorem q82 : (Jvm.Cond.initialized "ThirdSheets") ∈ lw_all := lw_g (lw_at lw_m1 1 rfl) rfl
theorem q93 : (Jvm.Cond.instantiable "ThirdSheets" (19 : Nat)) ∈ lw_all := lw_g (lw_at lw_m1 12 rfl) rfl
theorem q95 : (Jvm.Cond.instanceMethod ({ cls := "ThirdSheets", name := "<init>", desc := "()V" } : Jvm.MethodName)) ∈ lw_all := lw_g (lw_at lw_m1 14 rfl) rfl
theorem q96 : (Jvm.Cond.code ({ cls := "ThirdSheets", name := "<init>", desc := "()V" } : Jvm.MethodName) prog_1_method_1_code (1 : Nat) (Option.none : Option Jvm.ClassFile.FieldType)) ∈ lw_all := lw_g (lw_at lw_m1 15 rfl) rfl
theorem q97 : (Jvm.Cond.methodLink "ThirdSheets" (3 : Nat) ({ cls := "java/lang/Object", name := "<init>", desc := "()V" } : Jvm.MethodName)) ∈ lw_all := lw_g (lw_at lw_m1 16 rfl) rfl
theorem q100 : (Jvm.Cond.classLink "ThirdSheets" (9 : Nat) "[[LThirdSheets$Glue;") ∈ lw_all := lw_g (lw_at lw_m1 19 rfl) rfl
theorem q103 : (Jvm.Cond.classLink "ThirdSheets" (14 : Nat) "ThirdSheets$Corners") ∈ lw_all := lw_g (lw_at lw_m1 22 rfl) rfl
theorem q105 : (Jvm.Cond.methodLink "ThirdSheets" (16 : Nat) ({ cls := "ThirdSheets$Corners", name := "<init>", desc := "(LThirdSheets;)V" } : Jvm.MethodName)) ∈ lw_all := lw_g (lw_at lw_m1 24 rfl) rfl
theorem q116 : (Jvm.Cond.fieldLink "ThirdSheets" (139 : Nat) "ThirdSheets$Ends" "many" "I") ∈ lw_all := lw_g (lw_at lw_m1 35 rfl) rfl
theorem q131 : (Jvm.Cond.classLink "ThirdSheets" (23 : Nat) "ThirdSheets$Edges") ∈ lw_all := lw_g (lw_at lw_m1 50 rfl) rfl
theorem q133 : (Jvm.Cond.methodLink "ThirdSheets" (25 : Nat) ({ cls := "ThirdSheets$Edges", name := "<init>", desc := "(LThirdSheets;)V" } : Jvm.MethodName)) ∈ lw_all := lw_g (lw_at lw_m1 52 rfl) rfl
theorem q145 : (Jvm.Cond.classLink "ThirdSheets" (30 : Nat) "ThirdSheets$Ends") ∈ lw_all := lw_g (lw_at lw_m1 64 rfl) rfl
theorem q147 : (Jvm.Cond.methodLink "ThirdSheets" (32 : Nat) ({ cls := "ThirdSheets$Ends", name := "<init>", desc := "(LThirdSheets;)V" } : Jvm.MethodName)) ∈ lw_all := lw_g (lw_at lw_m1 66 rfl) rfl
theorem q159 : (Jvm.Cond.classLink "ThirdSheets" (37 : Nat) "[[J") ∈ lw_all := lw_g (lw_at lw_m1 78 rfl) rfl
theorem q161 : (Jvm.Cond.classLink "ThirdSheets" (46 : Nat) "[J") ∈ lw_all := lw_g (lw_at lw_m1 80 rfl) rfl
theorem q162 : (Jvm.Cond.fieldLink "ThirdSheets" (11 : Nat) "ThirdSheets" "glues" "[[LThirdSheets$Glue;") ∈ lw_all := lw_g (lw_at lw_m1 81 rfl) rfl
theorem q164 : (Jvm.Cond.fieldLink "ThirdSheets" (73 : Nat) "ThirdSheets" "pieces" "I") ∈ lw_all := lw_g (lw_at lw_m1 83 rfl) rfl
theorem q166 : (Jvm.Cond.fieldLink "ThirdSheets" (19 : Nat) "ThirdSheets" "corners" "LThirdSheets$Corners;") ∈ lw_all := lw_g (lw_at lw_m1 85 rfl) rfl
theorem q167 : (Jvm.Cond.fieldLink "ThirdSheets" (26 : Nat) "ThirdSheets" "edges" "LThirdSheets$Edges;") ∈ lw_all := lw_g (lw_at lw_m1 86 rfl) rfl
theorem q168 : (Jvm.Cond.fieldLink "ThirdSheets" (33 : Nat) "ThirdSheets" "ends" "LThirdSheets$Ends;") ∈ lw_all := lw_g (lw_at lw_m1 87 rfl) rfl
theorem q169 : (Jvm.Cond.fieldLink "ThirdSheets" (156 : Nat) "ThirdSheets" "isEven" "Z") ∈ lw_all := lw_g (lw_at lw_m1 88 rfl) rfl
theorem q170 : (Jvm.Cond.fieldLink "ThirdSheets" (39 : Nat) "ThirdSheets" "rows" "[[J") ∈ lw_all := lw_g (lw_at lw_m1 89 rfl) rfl
theorem q171 : (Jvm.Cond.fieldLink "ThirdSheets" (42 : Nat) "ThirdSheets" "forms" "[J") ∈ lw_all := lw_g (lw_at lw_m1 90 rfl) rfl
theorem q172 : (Jvm.Cond.fieldLink "ThirdSheets" (47 : Nat) "ThirdSheets" "sheets" "[[J") ∈ lw_all := lw_g (lw_at lw_m1 91 rfl) rfl
theorem q173 : (Jvm.Cond.fieldLink "ThirdSheets" (221 : Nat) "ThirdSheets" "sheetCount" "I") ∈ lw_all := lw_g (lw_at lw_m1 92 rfl) rfl
theorem q174 : (Jvm.Cond.fieldLink "ThirdSheets" (100 : Nat) "ThirdSheets" "isKnown" "Z") ∈ lw_all := lw_g (lw_at lw_m1 93 rfl) rfl
theorem q175 : (Jvm.Cond.fieldLink "ThirdSheets" (50 : Nat) "ThirdSheets" "list" "[[J") ∈ lw_all := lw_g (lw_at lw_m1 94 rfl) rfl
theorem q176 : (Jvm.Cond.fieldLink "ThirdSheets" (205 : Nat) "ThirdSheets" "listCount" "I") ∈ lw_all := lw_g (lw_at lw_m1 95 rfl) rfl
theorem q177 : (Jvm.Cond.fieldLink "ThirdSheets" (53 : Nat) "ThirdSheets" "sheet" "[I") ∈ lw_all := lw_g (lw_at lw_m1 96 rfl) rfl
theorem q178 : (Jvm.Cond.fieldLink "ThirdSheets" (57 : Nat) "ThirdSheets" "begins" "[I") ∈ lw_all := lw_g (lw_at lw_m1 97 rfl) rfl
theorem q179 : (Jvm.Cond.fieldLink "ThirdSheets" (60 : Nat) "ThirdSheets" "part" "[I") ∈ lw_all := lw_g (lw_at lw_m1 98 rfl) rfl
theorem q180 : (Jvm.Cond.fieldLink "ThirdSheets" (63 : Nat) "ThirdSheets" "sign" "[I") ∈ lw_all := lw_g (lw_at lw_m1 99 rfl) rfl
theorem q181 : (Jvm.Cond.fieldLink "ThirdSheets" (66 : Nat) "ThirdSheets" "line" "[I") ∈ lw_all := lw_g (lw_at lw_m1 100 rfl) rfl
theorem q182 : (Jvm.Cond.fieldLink "ThirdSheets" (69 : Nat) "ThirdSheets" "isOneSided" "[Z") ∈ lw_all := lw_g (lw_at lw_m1 101 rfl) rfl
theorem q183 : (Jvm.Cond.laysFinal "ThirdSheets" "ThirdSheets" "glues" "[[LThirdSheets$Glue;") ∈ lw_all := lw_g (lw_at lw_m1 102 rfl) rfl
theorem q184 : (Jvm.Cond.soleField "ThirdSheets" "glues") ∈ lw_all := lw_g (lw_at lw_m1 103 rfl) rfl
theorem q185 : (Jvm.Cond.lays "ThirdSheets" "ThirdSheets" "pieces" "I") ∈ lw_all := lw_g (lw_at lw_m1 104 rfl) rfl
theorem q186 : (Jvm.Cond.soleField "ThirdSheets" "pieces") ∈ lw_all := lw_g (lw_at lw_m1 105 rfl) rfl
theorem q187 : (Jvm.Cond.laysFinal "ThirdSheets" "ThirdSheets" "corners" "LThirdSheets$Corners;") ∈ lw_all := lw_g (lw_at lw_m1 106 rfl) rfl
theorem q188 : (Jvm.Cond.soleField "ThirdSheets" "corners") ∈ lw_all := lw_g (lw_at lw_m1 107 rfl) rfl
theorem q189 : (Jvm.Cond.laysFinal "ThirdSheets" "ThirdSheets" "edges" "LThirdSheets$Edges;") ∈ lw_all := lw_g (lw_at lw_m1 108 rfl) rfl
theorem q190 : (Jvm.Cond.soleField "ThirdSheets" "edges") ∈ lw_all := lw_g (lw_at lw_m1 109 rfl) rfl
theorem q191 : (Jvm.Cond.laysFinal "ThirdSheets" "ThirdSheets" "ends" "LThirdSheets$Ends;") ∈ lw_all := lw_g (lw_at lw_m1 110 rfl) rfl
theorem q192 : (Jvm.Cond.soleField "ThirdSheets" "ends") ∈ lw_all := lw_g (lw_at lw_m1 111 rfl) rfl
theorem q193 : (Jvm.Cond.lays "ThirdSheets" "ThirdSheets" "isEven" "Z") ∈ lw_all := lw_g (lw_at lw_m1 112 rfl) rfl
theorem q194 : (Jvm.Cond.soleField "ThirdSheets" "isEven") ∈ lw_all := lw_g (lw_at lw_m1 113 rfl) rfl
theorem q195 : (Jvm.Cond.laysFinal "ThirdSheets" "ThirdSheets" "rows" "[[J") ∈ lw_all := lw_g (lw_at lw_m1 114 rfl) rfl
theorem q196 : (Jvm.Cond.soleField "ThirdSheets" "rows") ∈ lw_all := lw_g (lw_at lw_m1 115 rfl) rfl
theorem q197 : (Jvm.Cond.laysFinal "ThirdSheets" "ThirdSheets" "forms" "[J") ∈ lw_all := lw_g (lw_at lw_m1 116 rfl) rfl
theorem q198 : (Jvm.Cond.soleField "ThirdSheets" "forms") ∈ lw_all := lw_g (lw_at lw_m1 117 rfl) rfl
theorem q199 : (Jvm.Cond.lays "ThirdSheets" "ThirdSheets" "sheets" "[[J") ∈ lw_all := lw_g (lw_at lw_m1 118 rfl) rfl
theorem q200 : (Jvm.Cond.soleField "ThirdSheets" "sheets") ∈ lw_all := lw_g (lw_at lw_m1 119 rfl) rfl
theorem q201 : (Jvm.Cond.lays "ThirdSheets" "ThirdSheets" "sheetCount" "I") ∈ lw_all := lw_g (lw_at lw_m1 120 rfl) rfl
theorem q202 : (Jvm.Cond.soleField "ThirdSheets" "sheetCount") ∈ lw_all := lw_g (lw_at lw_m1 121 rfl) rfl
theorem q203 : (Jvm.Cond.lays "ThirdSheets" "ThirdSheets" "isKnown" "Z") ∈ lw_all := lw_g (lw_at lw_m1 122 rfl) rfl
theorem q204 : (Jvm.Cond.soleField "ThirdSheets" "isKnown") ∈ lw_all := lw_g (lw_at lw_m1 123 rfl) rfl
theorem q205 : (Jvm.Cond.lays "ThirdSheets" "ThirdSheets" "list" "[[J") ∈ lw_all := lw_g (lw_at lw_m1 124 rfl) rfl
theorem q206 : (Jvm.Cond.soleField "ThirdSheets" "list") ∈ lw_all := lw_g (lw_at lw_m1 125 rfl) rfl
theorem q207 : (Jvm.Cond.lays "ThirdSheets" "ThirdSheets" "listCount" "I") ∈ lw_all := lw_g (lw_at lw_m1 126 rfl) rfl
theorem q208 : (Jvm.Cond.soleField "ThirdSheets" "listCount") ∈ lw_all := lw_g (lw_at lw_m1 127 rfl) rfl
theorem q209 : (Jvm.Cond.laysFinal "ThirdSheets" "ThirdSheets" "sheet" "[I") ∈ lw_all := lw_g (lw_at lw_m1 128 rfl) rfl
theorem q210 : (Jvm.Cond.soleField "ThirdSheets" "sheet") ∈ lw_all := lw_g (lw_at lw_m1 129 rfl) rfl
theorem q211 : (Jvm.Cond.laysFinal "ThirdSheets" "ThirdSheets" "begins" "[I") ∈ lw_all := lw_g (lw_at lw_m1 130 rfl) rfl
theorem q212 : (Jvm.Cond.soleField "ThirdSheets" "begins") ∈ lw_all := lw_g (lw_at lw_m1 131 rfl) rfl
theorem q213 : (Jvm.Cond.laysFinal "ThirdSheets" "ThirdSheets" "part" "[I") ∈ lw_all := lw_g (lw_at lw_m1 132 rfl) rfl
theorem q214 : (Jvm.Cond.soleField "ThirdSheets" "part") ∈ lw_all := lw_g (lw_at lw_m1 133 rfl) rfl
theorem q215 : (Jvm.Cond.laysFinal "ThirdSheets" "ThirdSheets" "sign" "[I") ∈ lw_all := lw_g (lw_at lw_m1 134 rfl) rfl
theorem q216 : (Jvm.Cond.soleField "ThirdSheets" "sign") ∈ lw_all := lw_g (lw_at lw_m1 135 rfl) rfl
theorem q217 : (Jvm.Cond.laysFinal "ThirdSheets" "ThirdSheets" "line" "[I") ∈ lw_all := lw_g (lw_at lw_m1 136 rfl) rfl
theorem q218 : (Jvm.Cond.soleField "ThirdSheets" "line") ∈ lw_all := lw_g (lw_at lw_m1 137 rfl) rfl
theorem q219 : (Jvm.Cond.laysFinal "ThirdSheets" "ThirdSheets" "isOneSided" "[Z") ∈ lw_all := lw_g (lw_at lw_m1 138 rfl) rfl
theorem q220 : (Jvm.Cond.soleField "ThirdSheets" "isOneSided") ∈ lw_all := lw_g (lw_at lw_m1 139 rfl) rfl
theorem q221 : (Jvm.Cond.superclass "ThirdSheets" "java/lang/Object") ∈ lw_all := lw_g (lw_at lw_m1 140 rfl) rfl
theorem q225 : (Jvm.Cond.instanceMethod ({ cls := "ThirdSheets", name := "piece", desc := "()I" } : Jvm.MethodName)) ∈ lw_all := lw_g (lw_at lw_m1 144 rfl) rfl
theorem q226 : (Jvm.Cond.selects "ThirdSheets" ({ cls := "ThirdSheets", name := "piece", desc := "()I" } : Jvm.MethodName) ({ cls := "ThirdSheets", name := "piece", desc := "()I" } : Jvm.MethodName)) ∈ lw_all := lw_g (lw_at lw_m1 145 rfl) rfl
theorem q227 : (Jvm.Cond.code ({ cls := "ThirdSheets", name := "piece", desc := "()I" } : Jvm.MethodName) prog_1_method_6_code (2 : Nat) (Option.some Jvm.ClassFile.FieldType.int)) ∈ lw_all := lw_g (lw_at lw_m1 146 rfl) rfl
theorem q228 : (Jvm.Cond.methodLink "ThirdSheets" (93 : Nat) ({ cls := "ThirdSheets", name := "drop", desc := "()I" } : Jvm.MethodName)) ∈ lw_all := lw_g (lw_at lw_m1 147 rfl) rfl
theorem q229 : (Jvm.Cond.instanceMethod ({ cls := "ThirdSheets", name := "drop", desc := "()I" } : Jvm.MethodName)) ∈ lw_all := lw_g (lw_at lw_m1 148 rfl) rfl
theorem q230 : (Jvm.Cond.selects "ThirdSheets" ({ cls := "ThirdSheets", name := "drop", desc := "()I" } : Jvm.MethodName) ({ cls := "ThirdSheets", name := "drop", desc := "()I" } : Jvm.MethodName)) ∈ lw_all := lw_g (lw_at lw_m1 149 rfl) rfl
theorem q231 : (Jvm.Cond.code ({ cls := "ThirdSheets", name := "drop", desc := "()I" } : Jvm.MethodName) prog_1_method_45_code (3 : Nat) (Option.some Jvm.ClassFile.FieldType.int)) ∈ lw_all := lw_g (lw_at lw_m1 150 rfl) rfl
theorem q232 : (Jvm.Cond.methodLink "ThirdSheets" (97 : Nat) ({ cls := "ThirdSheets", name := "changed", desc := "()V" } : Jvm.MethodName)) ∈ lw_all := lw_g (lw_at lw_m1 151 rfl) rfl
theorem q233 : (Jvm.Cond.privateMethod ({ cls := "ThirdSheets", name := "changed", desc := "()V" } : Jvm.MethodName)) ∈ lw_tbl := lw_at lw_m1 152 rfl
theorem q234 : (Jvm.Cond.instanceMethod ({ cls := "ThirdSheets", name := "changed", desc := "()V" } : Jvm.MethodName)) ∈ lw_all := lw_g (lw_at lw_m1 153 rfl) rfl
theorem q235 : (Jvm.Cond.code ({ cls := "ThirdSheets", name := "changed", desc := "()V" } : Jvm.MethodName) prog_1_method_7_code (1 : Nat) (Option.none : Option Jvm.ClassFile.FieldType)) ∈ lw_all := lw_g (lw_at lw_m1 154 rfl) rfl
theorem q237 : (Jvm.Cond.instanceMethod ({ cls := "ThirdSheets", name := "glue", desc := "(IIIII)I" } : Jvm.MethodName)) ∈ lw_all := lw_g (lw_at lw_m1 156 rfl) rfl
theorem q238 : (Jvm.Cond.selects "ThirdSheets" ({ cls := "ThirdSheets", name := "glue", desc := "(IIIII)I" } : Jvm.MethodName) ({ cls := "ThirdSheets", name := "glue", desc := "(IIIII)I" } : Jvm.MethodName)) ∈ lw_all := lw_g (lw_at lw_m1 157 rfl) rfl
theorem q239 : (Jvm.Cond.code ({ cls := "ThirdSheets", name := "glue", desc := "(IIIII)I" } : Jvm.MethodName) prog_1_method_8_code (12 : Nat) (Option.some Jvm.ClassFile.FieldType.int)) ∈ lw_all := lw_g (lw_at lw_m1 158 rfl) rfl
theorem q240 : (Jvm.Cond.methodLink "ThirdSheets" (104 : Nat) ({ cls := "ThirdSheets", name := "isPiece", desc := "(I)Z" } : Jvm.MethodName)) ∈ lw_all := lw_g (lw_at lw_m1 159 rfl) rfl
theorem q241 : (Jvm.Cond.privateMethod ({ cls := "ThirdSheets", name := "isPiece", desc := "(I)Z" } : Jvm.MethodName)) ∈ lw_tbl := lw_at lw_m1 160 rfl
theorem q242 : (Jvm.Cond.instanceMethod ({ cls := "ThirdSheets", name := "isPiece", desc := "(I)Z" } : Jvm.MethodName)) ∈ lw_all := lw_g (lw_at lw_m1 161 rfl) rfl
theorem q243 : (Jvm.Cond.code ({ cls := "ThirdSheets", name := "isPiece", desc := "(I)Z" } : Jvm.MethodName) prog_1_method_3_code (2 : Nat) (Option.some Jvm.ClassFile.FieldType.boolean)) ∈ lw_all := lw_g (lw_at lw_m1 162 rfl) rfl
theorem q244 : (Jvm.Cond.methodLink "ThirdSheets" (77 : Nat) ({ cls := "ThirdSheets", name := "isIn", desc := "(III)Z" } : Jvm.MethodName)) ∈ lw_all := lw_g (lw_at lw_m1 163 rfl) rfl
theorem q245 : (Jvm.Cond.static ({ cls := "ThirdSheets", name := "isIn", desc := "(III)Z" } : Jvm.MethodName)) ∈ lw_all := lw_g (lw_at lw_m1 164 rfl) rfl
theorem q246 : (Jvm.Cond.code ({ cls := "ThirdSheets", name := "isIn", desc := "(III)Z" } : Jvm.MethodName) prog_1_method_2_code (3 : Nat) (Option.some Jvm.ClassFile.FieldType.boolean)) ∈ lw_all := lw_g (lw_at lw_m1 165 rfl) rfl
theorem q247 : (Jvm.Cond.methodLink "ThirdSheets" (108 : Nat) ({ cls := "ThirdSheets", name := "isCorner", desc := "(I)Z" } : Jvm.MethodName)) ∈ lw_all := lw_g (lw_at lw_m1 166 rfl) rfl
theorem q248 : (Jvm.Cond.static ({ cls := "ThirdSheets", name := "isCorner", desc := "(I)Z" } : Jvm.MethodName)) ∈ lw_all := lw_g (lw_at lw_m1 167 rfl) rfl
theorem q249 : (Jvm.Cond.code ({ cls := "ThirdSheets", name := "isCorner", desc := "(I)Z" } : Jvm.MethodName) prog_1_method_4_code (1 : Nat) (Option.some Jvm.ClassFile.FieldType.boolean)) ∈ lw_all := lw_g (lw_at lw_m1 168 rfl) rfl
theorem q250 : (Jvm.Cond.classLink "ThirdSheets" (111 : Nat) "ThirdSheets$Glue") ∈ lw_all := lw_g (lw_at lw_m1 169 rfl) rfl
theorem q252 : (Jvm.Cond.methodLink "ThirdSheets" (113 : Nat) ({ cls := "ThirdSheets$Glue", name := "<init>", desc := "(II[I)V" } : Jvm.MethodName)) ∈ lw_all := lw_g (lw_at lw_m1 171 rfl) rfl
theorem q258 : (Jvm.Cond.fieldLinkNest "ThirdSheets" (116 : Nat) "ThirdSheets$Glue" "piece" "I" "ThirdSheets") ∈ lw_tbl := lw_at lw_m1 177 rfl
theorem q260 : (Jvm.Cond.fieldLinkNest "ThirdSheets" (119 : Nat) "ThirdSheets$Glue" "side" "I" "ThirdSheets") ∈ lw_tbl := lw_at lw_m1 179 rfl
theorem q265 : (Jvm.Cond.fieldLinkNest "ThirdSheets" (175 : Nat) "ThirdSheets$Glue" "to" "[I" "ThirdSheets") ∈ lw_tbl := lw_at lw_m1 184 rfl
theorem q274 : (Jvm.Cond.instanceMethod ({ cls := "ThirdSheets", name := "open", desc := "(II)I" } : Jvm.MethodName)) ∈ lw_all := lw_g (lw_at lw_m1 193 rfl) rfl
theorem q275 : (Jvm.Cond.selects "ThirdSheets" ({ cls := "ThirdSheets", name := "open", desc := "(II)I" } : Jvm.MethodName) ({ cls := "ThirdSheets", name := "open", desc := "(II)I" } : Jvm.MethodName)) ∈ lw_all := lw_g (lw_at lw_m1 194 rfl) rfl
theorem q276 : (Jvm.Cond.code ({ cls := "ThirdSheets", name := "open", desc := "(II)I" } : Jvm.MethodName) prog_1_method_9_code (4 : Nat) (Option.some Jvm.ClassFile.FieldType.int)) ∈ lw_all := lw_g (lw_at lw_m1 195 rfl) rfl
theorem q278 : (Jvm.Cond.instanceMethod ({ cls := "ThirdSheets", name := "clear", desc := "()I" } : Jvm.MethodName)) ∈ lw_all := lw_g (lw_at lw_m1 197 rfl) rfl
theorem q279 : (Jvm.Cond.selects "ThirdSheets" ({ cls := "ThirdSheets", name := "clear", desc := "()I" } : Jvm.MethodName) ({ cls := "ThirdSheets", name := "clear", desc := "()I" } : Jvm.MethodName)) ∈ lw_all := lw_g (lw_at lw_m1 198 rfl) rfl
theorem q280 : (Jvm.Cond.code ({ cls := "ThirdSheets", name := "clear", desc := "()I" } : Jvm.MethodName) prog_1_method_10_code (3 : Nat) (Option.some Jvm.ClassFile.FieldType.int)) ∈ lw_all := lw_g (lw_at lw_m1 199 rfl) rfl
theorem q282 : (Jvm.Cond.instanceMethod ({ cls := "ThirdSheets", name := "across", desc := "(III)I" } : Jvm.MethodName)) ∈ lw_all := lw_g (lw_at lw_m1 201 rfl) rfl
theorem q283 : (Jvm.Cond.selects "ThirdSheets" ({ cls := "ThirdSheets", name := "across", desc := "(III)I" } : Jvm.MethodName) ({ cls := "ThirdSheets", name := "across", desc := "(III)I" } : Jvm.MethodName)) ∈ lw_all := lw_g (lw_at lw_m1 202 rfl) rfl
theorem q284 : (Jvm.Cond.code ({ cls := "ThirdSheets", name := "across", desc := "(III)I" } : Jvm.MethodName) prog_1_method_11_code (5 : Nat) (Option.some Jvm.ClassFile.FieldType.int)) ∈ lw_all := lw_g (lw_at lw_m1 203 rfl) rfl
theorem q286 : (Jvm.Cond.instanceMethod ({ cls := "ThirdSheets", name := "classOf", desc := "(III)I" } : Jvm.MethodName)) ∈ lw_all := lw_g (lw_at lw_m1 205 rfl) rfl
theorem q287 : (Jvm.Cond.selects "ThirdSheets" ({ cls := "ThirdSheets", name := "classOf", desc := "(III)I" } : Jvm.MethodName) ({ cls := "ThirdSheets", name := "classOf", desc := "(III)I" } : Jvm.MethodName)) ∈ lw_all := lw_g (lw_at lw_m1 206 rfl) rfl
theorem q288 : (Jvm.Cond.code ({ cls := "ThirdSheets", name := "classOf", desc := "(III)I" } : Jvm.MethodName) prog_1_method_12_code (5 : Nat) (Option.some Jvm.ClassFile.FieldType.int)) ∈ lw_all := lw_g (lw_at lw_m1 207 rfl) rfl
theorem q289 : (Jvm.Cond.methodLink "ThirdSheets" (122 : Nat) ({ cls := "ThirdSheets$Corners", name := "find", desc := "()I" } : Jvm.MethodName)) ∈ lw_all := lw_g (lw_at lw_m1 208 rfl) rfl
theorem q309 : (Jvm.Cond.laysStatic "ThirdSheets" "LOW" "[I") ∈ lw_tbl := lw_at lw_m1 228 rfl
theorem q311 : (Jvm.Cond.laysStatic "ThirdSheets" "HIGH" "[I") ∈ lw_tbl := lw_at lw_m1 230 rfl
theorem q313 : (Jvm.Cond.static ({ cls := "ThirdSheets", name := "edgeOf", desc := "(II)I" } : Jvm.MethodName)) ∈ lw_all := lw_g (lw_at lw_m1 232 rfl) rfl
theorem q314 : (Jvm.Cond.code ({ cls := "ThirdSheets", name := "edgeOf", desc := "(II)I" } : Jvm.MethodName) prog_1_method_5_code (4 : Nat) (Option.some Jvm.ClassFile.FieldType.int)) ∈ lw_all := lw_g (lw_at lw_m1 233 rfl) rfl
theorem q315 : (Jvm.Cond.methodLink "ThirdSheets" (81 : Nat) ({ cls := "java/lang/Math", name := "min", desc := "(II)I" } : Jvm.MethodName)) ∈ lw_all := lw_g (lw_at lw_m1 234 rfl) rfl
theorem q318 : (Jvm.Cond.fieldLink "ThirdSheets" (87 : Nat) "ThirdSheets" "LOW" "[I") ∈ lw_all := lw_g (lw_at lw_m1 237 rfl) rfl
theorem q319 : (Jvm.Cond.fieldLink "ThirdSheets" (90 : Nat) "ThirdSheets" "HIGH" "[I") ∈ lw_all := lw_g (lw_at lw_m1 238 rfl) rfl
theorem q326 : (Jvm.Cond.methodLink "ThirdSheets" (125 : Nat) ({ cls := "ThirdSheets$Edges", name := "find", desc := "()I" } : Jvm.MethodName)) ∈ lw_all := lw_g (lw_at lw_m2 5 rfl) rfl
theorem q329 : (Jvm.Cond.methodLink "ThirdSheets" (126 : Nat) ({ cls := "ThirdSheets$Corners", name := "of", desc := "(II)I" } : Jvm.MethodName)) ∈ lw_all := lw_g (lw_at lw_m2 8 rfl) rfl
theorem q335 : (Jvm.Cond.methodLink "ThirdSheets" (129 : Nat) ({ cls := "ThirdSheets$Edges", name := "of", desc := "(II)I" } : Jvm.MethodName)) ∈ lw_all := lw_g (lw_at lw_m2 14 rfl) rfl
theorem q339 : (Jvm.Cond.instanceMethod ({ cls := "ThirdSheets", name := "bent", desc := "(I)I" } : Jvm.MethodName)) ∈ lw_all := lw_g (lw_at lw_m2 18 rfl) rfl
theorem q340 : (Jvm.Cond.selects "ThirdSheets" ({ cls := "ThirdSheets", name := "bent", desc := "(I)I" } : Jvm.MethodName) ({ cls := "ThirdSheets", name := "bent", desc := "(I)I" } : Jvm.MethodName)) ∈ lw_all := lw_g (lw_at lw_m2 19 rfl) rfl
theorem q341 : (Jvm.Cond.code ({ cls := "ThirdSheets", name := "bent", desc := "(I)I" } : Jvm.MethodName) prog_1_method_14_code (2 : Nat) (Option.some Jvm.ClassFile.FieldType.int)) ∈ lw_all := lw_g (lw_at lw_m2 20 rfl) rfl
theorem q342 : (Jvm.Cond.methodLink "ThirdSheets" (135 : Nat) ({ cls := "ThirdSheets$Ends", name := "find", desc := "()I" } : Jvm.MethodName)) ∈ lw_all := lw_g (lw_at lw_m2 21 rfl) rfl
theorem q345 : (Jvm.Cond.methodLink "ThirdSheets" (136 : Nat) ({ cls := "ThirdSheets", name := "isBent", desc := "(I)Z" } : Jvm.MethodName)) ∈ lw_all := lw_g (lw_at lw_m2 24 rfl) rfl
theorem q346 : (Jvm.Cond.privateMethod ({ cls := "ThirdSheets", name := "isBent", desc := "(I)Z" } : Jvm.MethodName)) ∈ lw_tbl := lw_at lw_m2 25 rfl
theorem q347 : (Jvm.Cond.instanceMethod ({ cls := "ThirdSheets", name := "isBent", desc := "(I)Z" } : Jvm.MethodName)) ∈ lw_all := lw_g (lw_at lw_m2 26 rfl) rfl
theorem q348 : (Jvm.Cond.code ({ cls := "ThirdSheets", name := "isBent", desc := "(I)Z" } : Jvm.MethodName) prog_1_method_13_code (3 : Nat) (Option.some Jvm.ClassFile.FieldType.boolean)) ∈ lw_all := lw_g (lw_at lw_m2 27 rfl) rfl
theorem q349 : (Jvm.Cond.methodLink "ThirdSheets" (130 : Nat) ({ cls := "ThirdSheets$Edges", name := "first", desc := "(I)I" } : Jvm.MethodName)) ∈ lw_all := lw_g (lw_at lw_m2 28 rfl) rfl
theorem q355 : (Jvm.Cond.methodLink "ThirdSheets" (134 : Nat) ({ cls := "ThirdSheets$Ends", name := "of", desc := "(II)I" } : Jvm.MethodName)) ∈ lw_all := lw_g (lw_at lw_m2 34 rfl) rfl
theorem q359 : (Jvm.Cond.instanceMethod ({ cls := "ThirdSheets", name := "link", desc := "(I)I" } : Jvm.MethodName)) ∈ lw_all := lw_g (lw_at lw_m2 38 rfl) rfl
theorem q360 : (Jvm.Cond.selects "ThirdSheets" ({ cls := "ThirdSheets", name := "link", desc := "(I)I" } : Jvm.MethodName) ({ cls := "ThirdSheets", name := "link", desc := "(I)I" } : Jvm.MethodName)) ∈ lw_all := lw_g (lw_at lw_m2 39 rfl) rfl
theorem q361 : (Jvm.Cond.code ({ cls := "ThirdSheets", name := "link", desc := "(I)I" } : Jvm.MethodName) prog_1_method_16_code (2 : Nat) (Option.some Jvm.ClassFile.FieldType.int)) ∈ lw_all := lw_g (lw_at lw_m2 40 rfl) rfl
theorem q362 : (Jvm.Cond.constant "ThirdSheets" (145 : Nat) (-2147483648 : Int32)) ∈ lw_all := lw_g (lw_at lw_m2 41 rfl) rfl
theorem q363 : (Jvm.Cond.methodLink "ThirdSheets" (146 : Nat) ({ cls := "ThirdSheets", name := "linkOf", desc := "(I)I" } : Jvm.MethodName)) ∈ lw_all := lw_g (lw_at lw_m2 42 rfl) rfl
theorem q364 : (Jvm.Cond.privateMethod ({ cls := "ThirdSheets", name := "linkOf", desc := "(I)I" } : Jvm.MethodName)) ∈ lw_tbl := lw_at lw_m2 43 rfl
theorem q365 : (Jvm.Cond.instanceMethod ({ cls := "ThirdSheets", name := "linkOf", desc := "(I)I" } : Jvm.MethodName)) ∈ lw_all := lw_g (lw_at lw_m2 44 rfl) rfl
theorem q366 : (Jvm.Cond.code ({ cls := "ThirdSheets", name := "linkOf", desc := "(I)I" } : Jvm.MethodName) prog_1_method_15_code (9 : Nat) (Option.some Jvm.ClassFile.FieldType.int)) ∈ lw_all := lw_g (lw_at lw_m2 45 rfl) rfl
theorem q367 : (Jvm.Cond.methodLink "ThirdSheets" (142 : Nat) ({ cls := "ThirdSheets$Ends", name := "first", desc := "(I)I" } : Jvm.MethodName)) ∈ lw_all := lw_g (lw_at lw_m2 46 rfl) rfl
theorem q371 : (Jvm.Cond.instanceMethod ({ cls := "ThirdSheets", name := "count", desc := "(I)I" } : Jvm.MethodName)) ∈ lw_all := lw_g (lw_at lw_m2 50 rfl) rfl
theorem q372 : (Jvm.Cond.selects "ThirdSheets" ({ cls := "ThirdSheets", name := "count", desc := "(I)I" } : Jvm.MethodName) ({ cls := "ThirdSheets", name := "count", desc := "(I)I" } : Jvm.MethodName)) ∈ lw_all := lw_g (lw_at lw_m2 51 rfl) rfl
theorem q373 : (Jvm.Cond.code ({ cls := "ThirdSheets", name := "count", desc := "(I)I" } : Jvm.MethodName) prog_1_method_22_code (2 : Nat) (Option.some Jvm.ClassFile.FieldType.int)) ∈ lw_all := lw_g (lw_at lw_m2 52 rfl) rfl
theorem q374 : (Jvm.Cond.methodLink "ThirdSheets" (161 : Nat) ({ cls := "ThirdSheets", name := "pairs", desc := "()I" } : Jvm.MethodName)) ∈ lw_all := lw_g (lw_at lw_m2 53 rfl) rfl
theorem q375 : (Jvm.Cond.privateMethod ({ cls := "ThirdSheets", name := "pairs", desc := "()I" } : Jvm.MethodName)) ∈ lw_tbl := lw_at lw_m2 54 rfl
theorem q376 : (Jvm.Cond.instanceMethod ({ cls := "ThirdSheets", name := "pairs", desc := "()I" } : Jvm.MethodName)) ∈ lw_all := lw_g (lw_at lw_m2 55 rfl) rfl
theorem q377 : (Jvm.Cond.code ({ cls := "ThirdSheets", name := "pairs", desc := "()I" } : Jvm.MethodName) prog_1_method_18_code (1 : Nat) (Option.some Jvm.ClassFile.FieldType.int)) ∈ lw_all := lw_g (lw_at lw_m2 56 rfl) rfl
theorem q378 : (Jvm.Cond.methodLink "ThirdSheets" (149 : Nat) ({ cls := "ThirdSheets", name := "openOnes", desc := "()I" } : Jvm.MethodName)) ∈ lw_all := lw_g (lw_at lw_m2 57 rfl) rfl
theorem q379 : (Jvm.Cond.privateMethod ({ cls := "ThirdSheets", name := "openOnes", desc := "()I" } : Jvm.MethodName)) ∈ lw_tbl := lw_at lw_m2 58 rfl
theorem q380 : (Jvm.Cond.instanceMethod ({ cls := "ThirdSheets", name := "openOnes", desc := "()I" } : Jvm.MethodName)) ∈ lw_all := lw_g (lw_at lw_m2 59 rfl) rfl
theorem q381 : (Jvm.Cond.code ({ cls := "ThirdSheets", name := "openOnes", desc := "()I" } : Jvm.MethodName) prog_1_method_17_code (4 : Nat) (Option.some Jvm.ClassFile.FieldType.int)) ∈ lw_all := lw_g (lw_at lw_m2 60 rfl) rfl
theorem q382 : (Jvm.Cond.methodLink "ThirdSheets" (164 : Nat) ({ cls := "ThirdSheets", name := "isWhole", desc := "()Z" } : Jvm.MethodName)) ∈ lw_all := lw_g (lw_at lw_m2 61 rfl) rfl
theorem q383 : (Jvm.Cond.privateMethod ({ cls := "ThirdSheets", name := "isWhole", desc := "()Z" } : Jvm.MethodName)) ∈ lw_tbl := lw_at lw_m2 62 rfl
theorem q384 : (Jvm.Cond.instanceMethod ({ cls := "ThirdSheets", name := "isWhole", desc := "()Z" } : Jvm.MethodName)) ∈ lw_all := lw_g (lw_at lw_m2 63 rfl) rfl
theorem q385 : (Jvm.Cond.code ({ cls := "ThirdSheets", name := "isWhole", desc := "()Z" } : Jvm.MethodName) prog_1_method_20_code (4 : Nat) (Option.some Jvm.ClassFile.FieldType.boolean)) ∈ lw_all := lw_g (lw_at lw_m2 64 rfl) rfl
theorem q386 : (Jvm.Cond.methodLink "ThirdSheets" (152 : Nat) ({ cls := "ThirdSheets", name := "hasBent", desc := "()Z" } : Jvm.MethodName)) ∈ lw_all := lw_g (lw_at lw_m2 65 rfl) rfl
theorem q387 : (Jvm.Cond.privateMethod ({ cls := "ThirdSheets", name := "hasBent", desc := "()Z" } : Jvm.MethodName)) ∈ lw_tbl := lw_at lw_m2 66 rfl
theorem q388 : (Jvm.Cond.instanceMethod ({ cls := "ThirdSheets", name := "hasBent", desc := "()Z" } : Jvm.MethodName)) ∈ lw_all := lw_g (lw_at lw_m2 67 rfl) rfl
theorem q389 : (Jvm.Cond.code ({ cls := "ThirdSheets", name := "hasBent", desc := "()Z" } : Jvm.MethodName) prog_1_method_19_code (4 : Nat) (Option.some Jvm.ClassFile.FieldType.boolean)) ∈ lw_all := lw_g (lw_at lw_m2 68 rfl) rfl
theorem q390 : (Jvm.Cond.methodLink "ThirdSheets" (167 : Nat) ({ cls := "ThirdSheets", name := "sets", desc := "()I" } : Jvm.MethodName)) ∈ lw_all := lw_g (lw_at lw_m2 69 rfl) rfl
theorem q391 : (Jvm.Cond.privateMethod ({ cls := "ThirdSheets", name := "sets", desc := "()I" } : Jvm.MethodName)) ∈ lw_tbl := lw_at lw_m2 70 rfl
theorem q392 : (Jvm.Cond.instanceMethod ({ cls := "ThirdSheets", name := "sets", desc := "()I" } : Jvm.MethodName)) ∈ lw_all := lw_g (lw_at lw_m2 71 rfl) rfl
theorem q393 : (Jvm.Cond.code ({ cls := "ThirdSheets", name := "sets", desc := "()I" } : Jvm.MethodName) prog_1_method_21_code (10 : Nat) (Option.some Jvm.ClassFile.FieldType.int)) ∈ lw_all := lw_g (lw_at lw_m2 72 rfl) rfl
theorem q394 : (Jvm.Cond.methodLink "ThirdSheets" (159 : Nat) ({ cls := "ThirdSheets$Glue", name := "isEven", desc := "()Z" } : Jvm.MethodName)) ∈ lw_all := lw_g (lw_at lw_m2 73 rfl) rfl
theorem q399 : (Jvm.Cond.instanceMethod ({ cls := "ThirdSheets", name := "holes", desc := "(I)I" } : Jvm.MethodName)) ∈ lw_all := lw_g (lw_at lw_m2 78 rfl) rfl
theorem q400 : (Jvm.Cond.selects "ThirdSheets" ({ cls := "ThirdSheets", name := "holes", desc := "(I)I" } : Jvm.MethodName) ({ cls := "ThirdSheets", name := "holes", desc := "(I)I" } : Jvm.MethodName)) ∈ lw_all := lw_g (lw_at lw_m2 79 rfl) rfl
theorem q401 : (Jvm.Cond.code ({ cls := "ThirdSheets", name := "holes", desc := "(I)I" } : Jvm.MethodName) prog_1_method_29_code (5 : Nat) (Option.some Jvm.ClassFile.FieldType.int)) ∈ lw_all := lw_g (lw_at lw_m2 80 rfl) rfl
theorem q402 : (Jvm.Cond.methodLink "ThirdSheets" (193 : Nat) ({ cls := "ThirdSheets", name := "loops", desc := "()I" } : Jvm.MethodName)) ∈ lw_all := lw_g (lw_at lw_m2 81 rfl) rfl
theorem q403 : (Jvm.Cond.privateMethod ({ cls := "ThirdSheets", name := "loops", desc := "()I" } : Jvm.MethodName)) ∈ lw_tbl := lw_at lw_m2 82 rfl
theorem q404 : (Jvm.Cond.instanceMethod ({ cls := "ThirdSheets", name := "loops", desc := "()I" } : Jvm.MethodName)) ∈ lw_all := lw_g (lw_at lw_m2 83 rfl) rfl
theorem q405 : (Jvm.Cond.code ({ cls := "ThirdSheets", name := "loops", desc := "()I" } : Jvm.MethodName) prog_1_method_25_code (4 : Nat) (Option.some Jvm.ClassFile.FieldType.int)) ∈ lw_all := lw_g (lw_at lw_m2 84 rfl) rfl
theorem q406 : (Jvm.Cond.methodLink "ThirdSheets" (178 : Nat) ({ cls := "ThirdSheets", name := "goAround", desc := "(I[J)Z" } : Jvm.MethodName)) ∈ lw_all := lw_g (lw_at lw_m2 85 rfl) rfl
theorem q407 : (Jvm.Cond.privateMethod ({ cls := "ThirdSheets", name := "goAround", desc := "(I[J)Z" } : Jvm.MethodName)) ∈ lw_tbl := lw_at lw_m2 86 rfl
theorem q408 : (Jvm.Cond.instanceMethod ({ cls := "ThirdSheets", name := "goAround", desc := "(I[J)Z" } : Jvm.MethodName)) ∈ lw_all := lw_g (lw_at lw_m2 87 rfl) rfl
theorem q409 : (Jvm.Cond.code ({ cls := "ThirdSheets", name := "goAround", desc := "(I[J)Z" } : Jvm.MethodName) prog_1_method_24_code (13 : Nat) (Option.some Jvm.ClassFile.FieldType.boolean)) ∈ lw_all := lw_g (lw_at lw_m2 88 rfl) rfl
theorem q410 : (Jvm.Cond.methodLink "ThirdSheets" (170 : Nat) ({ cls := "ThirdSheets", name := "pairOf", desc := "(II)I" } : Jvm.MethodName)) ∈ lw_all := lw_g (lw_at lw_m2 89 rfl) rfl
theorem q411 : (Jvm.Cond.privateMethod ({ cls := "ThirdSheets", name := "pairOf", desc := "(II)I" } : Jvm.MethodName)) ∈ lw_tbl := lw_at lw_m2 90 rfl
theorem q412 : (Jvm.Cond.instanceMethod ({ cls := "ThirdSheets", name := "pairOf", desc := "(II)I" } : Jvm.MethodName)) ∈ lw_all := lw_g (lw_at lw_m2 91 rfl) rfl
theorem q413 : (Jvm.Cond.code ({ cls := "ThirdSheets", name := "pairOf", desc := "(II)I" } : Jvm.MethodName) prog_1_method_23_code (7 : Nat) (Option.some Jvm.ClassFile.FieldType.int)) ∈ lw_all := lw_g (lw_at lw_m2 92 rfl) rfl
theorem q414 : (Jvm.Cond.constantLong "ThirdSheets" (173 : Nat) (-1 : Int64)) ∈ lw_all := lw_g (lw_at lw_m2 93 rfl) rfl
theorem q415 : (Jvm.Cond.methodLink "ThirdSheets" (196 : Nat) ({ cls := "ThirdSheets", name := "diagonal", desc := "(I)I" } : Jvm.MethodName)) ∈ lw_all := lw_g (lw_at lw_m2 94 rfl) rfl
theorem q416 : (Jvm.Cond.privateMethod ({ cls := "ThirdSheets", name := "diagonal", desc := "(I)I" } : Jvm.MethodName)) ∈ lw_tbl := lw_at lw_m2 95 rfl
theorem q417 : (Jvm.Cond.instanceMethod ({ cls := "ThirdSheets", name := "diagonal", desc := "(I)I" } : Jvm.MethodName)) ∈ lw_all := lw_g (lw_at lw_m2 96 rfl) rfl
theorem q418 : (Jvm.Cond.code ({ cls := "ThirdSheets", name := "diagonal", desc := "(I)I" } : Jvm.MethodName) prog_1_method_26_code (3 : Nat) (Option.some Jvm.ClassFile.FieldType.int)) ∈ lw_all := lw_g (lw_at lw_m2 97 rfl) rfl
theorem q419 : (Jvm.Cond.methodLink "ThirdSheets" (182 : Nat) ({ cls := "ThirdSheets", name := "clean", desc := "(II)Z" } : Jvm.MethodName)) ∈ lw_all := lw_g (lw_at lw_m2 98 rfl) rfl
theorem q420 : (Jvm.Cond.privateMethod ({ cls := "ThirdSheets", name := "clean", desc := "(II)Z" } : Jvm.MethodName)) ∈ lw_tbl := lw_at lw_m2 99 rfl
theorem q421 : (Jvm.Cond.instanceMethod ({ cls := "ThirdSheets", name := "clean", desc := "(II)Z" } : Jvm.MethodName)) ∈ lw_all := lw_g (lw_at lw_m2 100 rfl) rfl
theorem q422 : (Jvm.Cond.code ({ cls := "ThirdSheets", name := "clean", desc := "(II)Z" } : Jvm.MethodName) prog_1_method_27_code (9 : Nat) (Option.some Jvm.ClassFile.FieldType.boolean)) ∈ lw_all := lw_g (lw_at lw_m2 101 rfl) rfl
theorem q423 : (Jvm.Cond.methodLink "ThirdSheets" (186 : Nat) ({ cls := "java/lang/Math", name := "abs", desc := "(J)J" } : Jvm.MethodName)) ∈ lw_all := lw_g (lw_at lw_m2 102 rfl) rfl
theorem q426 : (Jvm.Cond.methodLink "ThirdSheets" (190 : Nat) ({ cls := "ThirdSheets", name := "take", desc := "(II)Z" } : Jvm.MethodName)) ∈ lw_all := lw_g (lw_at lw_m2 105 rfl) rfl
theorem q427 : (Jvm.Cond.privateMethod ({ cls := "ThirdSheets", name := "take", desc := "(II)Z" } : Jvm.MethodName)) ∈ lw_tbl := lw_at lw_m2 106 rfl
theorem q428 : (Jvm.Cond.instanceMethod ({ cls := "ThirdSheets", name := "take", desc := "(II)Z" } : Jvm.MethodName)) ∈ lw_all := lw_g (lw_at lw_m2 107 rfl) rfl
theorem q429 : (Jvm.Cond.code ({ cls := "ThirdSheets", name := "take", desc := "(II)Z" } : Jvm.MethodName) prog_1_method_28_code (10 : Nat) (Option.some Jvm.ClassFile.FieldType.boolean)) ∈ lw_all := lw_g (lw_at lw_m2 108 rfl) rfl
theorem q431 : (Jvm.Cond.instanceMethod ({ cls := "ThirdSheets", name := "least", desc := "()I" } : Jvm.MethodName)) ∈ lw_all := lw_g (lw_at lw_m2 110 rfl) rfl
theorem q432 : (Jvm.Cond.selects "ThirdSheets" ({ cls := "ThirdSheets", name := "least", desc := "()I" } : Jvm.MethodName) ({ cls := "ThirdSheets", name := "least", desc := "()I" } : Jvm.MethodName)) ∈ lw_all := lw_g (lw_at lw_m2 111 rfl) rfl
theorem q433 : (Jvm.Cond.code ({ cls := "ThirdSheets", name := "least", desc := "()I" } : Jvm.MethodName) prog_1_method_40_code (1 : Nat) (Option.some Jvm.ClassFile.FieldType.int)) ∈ lw_all := lw_g (lw_at lw_m2 112 rfl) rfl
theorem q434 : (Jvm.Cond.methodLink "ThirdSheets" (247 : Nat) ({ cls := "ThirdSheets", name := "findSheets", desc := "()V" } : Jvm.MethodName)) ∈ lw_all := lw_g (lw_at lw_m2 113 rfl) rfl
theorem q435 : (Jvm.Cond.privateMethod ({ cls := "ThirdSheets", name := "findSheets", desc := "()V" } : Jvm.MethodName)) ∈ lw_tbl := lw_at lw_m2 114 rfl
theorem q436 : (Jvm.Cond.instanceMethod ({ cls := "ThirdSheets", name := "findSheets", desc := "()V" } : Jvm.MethodName)) ∈ lw_all := lw_g (lw_at lw_m2 115 rfl) rfl
theorem q437 : (Jvm.Cond.code ({ cls := "ThirdSheets", name := "findSheets", desc := "()V" } : Jvm.MethodName) prog_1_method_39_code (7 : Nat) (Option.none : Option Jvm.ClassFile.FieldType)) ∈ lw_all := lw_g (lw_at lw_m2 116 rfl) rfl
theorem q438 : (Jvm.Cond.methodLink "ThirdSheets" (228 : Nat) ({ cls := "ThirdSheets", name := "keep", desc := "([J)V" } : Jvm.MethodName)) ∈ lw_all := lw_g (lw_at lw_m2 117 rfl) rfl
theorem q439 : (Jvm.Cond.privateMethod ({ cls := "ThirdSheets", name := "keep", desc := "([J)V" } : Jvm.MethodName)) ∈ lw_tbl := lw_at lw_m2 118 rfl
theorem q440 : (Jvm.Cond.instanceMethod ({ cls := "ThirdSheets", name := "keep", desc := "([J)V" } : Jvm.MethodName)) ∈ lw_all := lw_g (lw_at lw_m2 119 rfl) rfl
theorem q441 : (Jvm.Cond.code ({ cls := "ThirdSheets", name := "keep", desc := "([J)V" } : Jvm.MethodName) prog_1_method_35_code (3 : Nat) (Option.none : Option Jvm.ClassFile.FieldType)) ∈ lw_all := lw_g (lw_at lw_m2 120 rfl) rfl
theorem q442 : (Jvm.Cond.methodLink "ThirdSheets" (208 : Nat) ({ cls := "java/lang/System", name := "arraycopy", desc := "(Ljava/lang/Object;ILjava/lang/Object;II)V" } : Jvm.MethodName)) ∈ lw_all := lw_g (lw_at lw_m2 121 rfl) rfl
theorem q445 : (Jvm.Cond.methodLink "ThirdSheets" (239 : Nat) ({ cls := "ThirdSheets", name := "match", desc := "(III)V" } : Jvm.MethodName)) ∈ lw_all := lw_g (lw_at lw_m2 124 rfl) rfl
theorem q446 : (Jvm.Cond.privateMethod ({ cls := "ThirdSheets", name := "match", desc := "(III)V" } : Jvm.MethodName)) ∈ lw_tbl := lw_at lw_m2 125 rfl
theorem q447 : (Jvm.Cond.instanceMethod ({ cls := "ThirdSheets", name := "match", desc := "(III)V" } : Jvm.MethodName)) ∈ lw_all := lw_g (lw_at lw_m2 126 rfl) rfl
theorem q448 : (Jvm.Cond.code ({ cls := "ThirdSheets", name := "match", desc := "(III)V" } : Jvm.MethodName) prog_1_method_37_code (10 : Nat) (Option.none : Option Jvm.ClassFile.FieldType)) ∈ lw_all := lw_g (lw_at lw_m2 127 rfl) rfl
theorem q449 : (Jvm.Cond.methodLink "ThirdSheets" (224 : Nat) ({ cls := "ThirdSheets", name := "off", desc := "([JIII)J" } : Jvm.MethodName)) ∈ lw_all := lw_g (lw_at lw_m2 128 rfl) rfl
theorem q450 : (Jvm.Cond.privateMethod ({ cls := "ThirdSheets", name := "off", desc := "([JIII)J" } : Jvm.MethodName)) ∈ lw_tbl := lw_at lw_m2 129 rfl
theorem q451 : (Jvm.Cond.instanceMethod ({ cls := "ThirdSheets", name := "off", desc := "([JIII)J" } : Jvm.MethodName)) ∈ lw_all := lw_g (lw_at lw_m2 130 rfl) rfl
theorem q452 : (Jvm.Cond.code ({ cls := "ThirdSheets", name := "off", desc := "([JIII)J" } : Jvm.MethodName) prog_1_method_34_code (9 : Nat) (Option.some Jvm.ClassFile.FieldType.long)) ∈ lw_all := lw_g (lw_at lw_m2 131 rfl) rfl
theorem q453 : (Jvm.Cond.methodLink "ThirdSheets" (202 : Nat) ({ cls := "ThirdSheets", name := "kindOf", desc := "(II)I" } : Jvm.MethodName)) ∈ lw_all := lw_g (lw_at lw_m2 132 rfl) rfl
theorem q454 : (Jvm.Cond.static ({ cls := "ThirdSheets", name := "kindOf", desc := "(II)I" } : Jvm.MethodName)) ∈ lw_all := lw_g (lw_at lw_m2 133 rfl) rfl
theorem q455 : (Jvm.Cond.code ({ cls := "ThirdSheets", name := "kindOf", desc := "(II)I" } : Jvm.MethodName) prog_1_method_30_code (2 : Nat) (Option.some Jvm.ClassFile.FieldType.int)) ∈ lw_all := lw_g (lw_at lw_m2 134 rfl) rfl
theorem q456 : (Jvm.Cond.methodLink "ThirdSheets" (232 : Nat) ({ cls := "ThirdSheets", name := "isBeside", desc := "(II)Z" } : Jvm.MethodName)) ∈ lw_all := lw_g (lw_at lw_m2 135 rfl) rfl
theorem q457 : (Jvm.Cond.privateMethod ({ cls := "ThirdSheets", name := "isBeside", desc := "(II)Z" } : Jvm.MethodName)) ∈ lw_tbl := lw_at lw_m2 136 rfl
theorem q458 : (Jvm.Cond.instanceMethod ({ cls := "ThirdSheets", name := "isBeside", desc := "(II)Z" } : Jvm.MethodName)) ∈ lw_all := lw_g (lw_at lw_m2 137 rfl) rfl
theorem q459 : (Jvm.Cond.code ({ cls := "ThirdSheets", name := "isBeside", desc := "(II)Z" } : Jvm.MethodName) prog_1_method_36_code (6 : Nat) (Option.some Jvm.ClassFile.FieldType.boolean)) ∈ lw_all := lw_g (lw_at lw_m2 138 rfl) rfl
theorem q460 : (Jvm.Cond.methodLink "ThirdSheets" (214 : Nat) ({ cls := "ThirdSheets", name := "bitsOf", desc := "([J)I" } : Jvm.MethodName)) ∈ lw_all := lw_g (lw_at lw_m2 139 rfl) rfl
theorem q461 : (Jvm.Cond.static ({ cls := "ThirdSheets", name := "bitsOf", desc := "([J)I" } : Jvm.MethodName)) ∈ lw_all := lw_g (lw_at lw_m2 140 rfl) rfl
theorem q462 : (Jvm.Cond.code ({ cls := "ThirdSheets", name := "bitsOf", desc := "([J)I" } : Jvm.MethodName) prog_1_method_32_code (3 : Nat) (Option.some Jvm.ClassFile.FieldType.int)) ∈ lw_all := lw_g (lw_at lw_m2 141 rfl) rfl
theorem q463 : (Jvm.Cond.methodLink "ThirdSheets" (218 : Nat) ({ cls := "ThirdSheets", name := "isAlone", desc := "(I)Z" } : Jvm.MethodName)) ∈ lw_all := lw_g (lw_at lw_m2 142 rfl) rfl
theorem q464 : (Jvm.Cond.privateMethod ({ cls := "ThirdSheets", name := "isAlone", desc := "(I)Z" } : Jvm.MethodName)) ∈ lw_tbl := lw_at lw_m2 143 rfl
theorem q465 : (Jvm.Cond.instanceMethod ({ cls := "ThirdSheets", name := "isAlone", desc := "(I)Z" } : Jvm.MethodName)) ∈ lw_all := lw_g (lw_at lw_m2 144 rfl) rfl
theorem q466 : (Jvm.Cond.code ({ cls := "ThirdSheets", name := "isAlone", desc := "(I)Z" } : Jvm.MethodName) prog_1_method_33_code (4 : Nat) (Option.some Jvm.ClassFile.FieldType.boolean)) ∈ lw_all := lw_g (lw_at lw_m2 145 rfl) rfl
theorem q467 : (Jvm.Cond.methodLink "ThirdSheets" (199 : Nat) ({ cls := "java/lang/Integer", name := "bitCount", desc := "(I)I" } : Jvm.MethodName)) ∈ lw_all := lw_g (lw_at lw_m2 146 rfl) rfl
theorem q473 : (Jvm.Cond.methodLink "ThirdSheets" (235 : Nat) ({ cls := "ThirdSheets", name := "grown", desc := "([JJ[JJ)[J" } : Jvm.MethodName)) ∈ lw_all := lw_g (lw_at lw_m2 152 rfl) rfl
theorem q474 : (Jvm.Cond.static ({ cls := "ThirdSheets", name := "grown", desc := "([JJ[JJ)[J" } : Jvm.MethodName)) ∈ lw_all := lw_g (lw_at lw_m2 153 rfl) rfl
theorem q475 : (Jvm.Cond.code ({ cls := "ThirdSheets", name := "grown", desc := "([JJ[JJ)[J" } : Jvm.MethodName) prog_1_method_31_code (14 : Nat) (Option.some (Jvm.ClassFile.FieldType.array Jvm.ClassFile.FieldType.long))) ∈ lw_all := lw_g (lw_at lw_m2 154 rfl) rfl
theorem q476 : (Jvm.Cond.methodLink "ThirdSheets" (243 : Nat) ({ cls := "ThirdSheets", name := "isLess", desc := "([J[J)Z" } : Jvm.MethodName)) ∈ lw_all := lw_g (lw_at lw_m2 155 rfl) rfl
theorem q477 : (Jvm.Cond.static ({ cls := "ThirdSheets", name := "isLess", desc := "([J[J)Z" } : Jvm.MethodName)) ∈ lw_all := lw_g (lw_at lw_m2 156 rfl) rfl
theorem q478 : (Jvm.Cond.code ({ cls := "ThirdSheets", name := "isLess", desc := "([J[J)Z" } : Jvm.MethodName) prog_1_method_38_code (3 : Nat) (Option.some Jvm.ClassFile.FieldType.boolean)) ∈ lw_all := lw_g (lw_at lw_m2 157 rfl) rfl
theorem q480 : (Jvm.Cond.instanceMethod ({ cls := "ThirdSheets", name := "number", desc := "(II)I" } : Jvm.MethodName)) ∈ lw_all := lw_g (lw_at lw_m2 159 rfl) rfl
theorem q481 : (Jvm.Cond.selects "ThirdSheets" ({ cls := "ThirdSheets", name := "number", desc := "(II)I" } : Jvm.MethodName) ({ cls := "ThirdSheets", name := "number", desc := "(II)I" } : Jvm.MethodName)) ∈ lw_all := lw_g (lw_at lw_m2 160 rfl) rfl
theorem q482 : (Jvm.Cond.code ({ cls := "ThirdSheets", name := "number", desc := "(II)I" } : Jvm.MethodName) prog_1_method_42_code (3 : Nat) (Option.some Jvm.ClassFile.FieldType.int)) ∈ lw_all := lw_g (lw_at lw_m2 161 rfl) rfl
theorem q483 : (Jvm.Cond.methodLink "ThirdSheets" (250 : Nat) ({ cls := "ThirdSheets", name := "least", desc := "()I" } : Jvm.MethodName)) ∈ lw_all := lw_g (lw_at lw_m2 162 rfl) rfl
theorem q484 : (Jvm.Cond.methodLink "ThirdSheets" (253 : Nat) ({ cls := "ThirdSheets", name := "isNumber", desc := "(I)Z" } : Jvm.MethodName)) ∈ lw_all := lw_g (lw_at lw_m2 163 rfl) rfl
theorem q485 : (Jvm.Cond.privateMethod ({ cls := "ThirdSheets", name := "isNumber", desc := "(I)Z" } : Jvm.MethodName)) ∈ lw_tbl := lw_at lw_m2 164 rfl
theorem q486 : (Jvm.Cond.instanceMethod ({ cls := "ThirdSheets", name := "isNumber", desc := "(I)Z" } : Jvm.MethodName)) ∈ lw_all := lw_g (lw_at lw_m2 165 rfl) rfl
theorem q487 : (Jvm.Cond.code ({ cls := "ThirdSheets", name := "isNumber", desc := "(I)Z" } : Jvm.MethodName) prog_1_method_41_code (2 : Nat) (Option.some Jvm.ClassFile.FieldType.boolean)) ∈ lw_all := lw_g (lw_at lw_m2 166 rfl) rfl
theorem q489 : (Jvm.Cond.instanceMethod ({ cls := "ThirdSheets", name := "put", desc := "(II)I" } : Jvm.MethodName)) ∈ lw_all := lw_g (lw_at lw_m2 168 rfl) rfl
theorem q490 : (Jvm.Cond.selects "ThirdSheets" ({ cls := "ThirdSheets", name := "put", desc := "(II)I" } : Jvm.MethodName) ({ cls := "ThirdSheets", name := "put", desc := "(II)I" } : Jvm.MethodName)) ∈ lw_all := lw_g (lw_at lw_m2 169 rfl) rfl
theorem q491 : (Jvm.Cond.code ({ cls := "ThirdSheets", name := "put", desc := "(II)I" } : Jvm.MethodName) prog_1_method_43_code (4 : Nat) (Option.some Jvm.ClassFile.FieldType.int)) ∈ lw_all := lw_g (lw_at lw_m2 170 rfl) rfl
theorem q493 : (Jvm.Cond.instanceMethod ({ cls := "ThirdSheets", name := "add", desc := "(II)I" } : Jvm.MethodName)) ∈ lw_all := lw_g (lw_at lw_m2 172 rfl) rfl
theorem q494 : (Jvm.Cond.selects "ThirdSheets" ({ cls := "ThirdSheets", name := "add", desc := "(II)I" } : Jvm.MethodName) ({ cls := "ThirdSheets", name := "add", desc := "(II)I" } : Jvm.MethodName)) ∈ lw_all := lw_g (lw_at lw_m2 173 rfl) rfl
theorem q495 : (Jvm.Cond.code ({ cls := "ThirdSheets", name := "add", desc := "(II)I" } : Jvm.MethodName) prog_1_method_44_code (4 : Nat) (Option.some Jvm.ClassFile.FieldType.int)) ∈ lw_all := lw_g (lw_at lw_m2 174 rfl) rfl
theorem q496 : (Jvm.Cond.constantLong "ThirdSheets" (256 : Nat) (1000 : Int64)) ∈ lw_all := lw_g (lw_at lw_m2 175 rfl) rfl
theorem q499 : (Jvm.Cond.instanceMethod ({ cls := "ThirdSheets", name := "legal", desc := "()I" } : Jvm.MethodName)) ∈ lw_all := lw_g (lw_at lw_m2 178 rfl) rfl
theorem q500 : (Jvm.Cond.selects "ThirdSheets" ({ cls := "ThirdSheets", name := "legal", desc := "()I" } : Jvm.MethodName) ({ cls := "ThirdSheets", name := "legal", desc := "()I" } : Jvm.MethodName)) ∈ lw_all := lw_g (lw_at lw_m2 179 rfl) rfl
theorem q501 : (Jvm.Cond.code ({ cls := "ThirdSheets", name := "legal", desc := "()I" } : Jvm.MethodName) prog_1_method_49_code (7 : Nat) (Option.some Jvm.ClassFile.FieldType.int)) ∈ lw_all := lw_g (lw_at lw_m2 180 rfl) rfl
theorem q502 : (Jvm.Cond.methodLink "ThirdSheets" (264 : Nat) ({ cls := "ThirdSheets", name := "arcs", desc := "(III)I" } : Jvm.MethodName)) ∈ lw_all := lw_g (lw_at lw_m2 181 rfl) rfl
theorem q503 : (Jvm.Cond.privateMethod ({ cls := "ThirdSheets", name := "arcs", desc := "(III)I" } : Jvm.MethodName)) ∈ lw_tbl := lw_at lw_m2 182 rfl
theorem q504 : (Jvm.Cond.instanceMethod ({ cls := "ThirdSheets", name := "arcs", desc := "(III)I" } : Jvm.MethodName)) ∈ lw_all := lw_g (lw_at lw_m2 183 rfl) rfl
theorem q505 : (Jvm.Cond.code ({ cls := "ThirdSheets", name := "arcs", desc := "(III)I" } : Jvm.MethodName) prog_1_method_48_code (4 : Nat) (Option.some Jvm.ClassFile.FieldType.int)) ∈ lw_all := lw_g (lw_at lw_m2 184 rfl) rfl
theorem q506 : (Jvm.Cond.methodLink "ThirdSheets" (258 : Nat) ({ cls := "ThirdSheets", name := "threes", desc := "(II)I" } : Jvm.MethodName)) ∈ lw_all := lw_g (lw_at lw_m2 185 rfl) rfl
theorem q507 : (Jvm.Cond.privateMethod ({ cls := "ThirdSheets", name := "threes", desc := "(II)I" } : Jvm.MethodName)) ∈ lw_tbl := lw_at lw_m2 186 rfl
theorem q508 : (Jvm.Cond.instanceMethod ({ cls := "ThirdSheets", name := "threes", desc := "(II)I" } : Jvm.MethodName)) ∈ lw_all := lw_g (lw_at lw_m2 187 rfl) rfl
theorem q509 : (Jvm.Cond.code ({ cls := "ThirdSheets", name := "threes", desc := "(II)I" } : Jvm.MethodName) prog_1_method_46_code (3 : Nat) (Option.some Jvm.ClassFile.FieldType.int)) ∈ lw_all := lw_g (lw_at lw_m2 188 rfl) rfl
theorem q510 : (Jvm.Cond.methodLink "ThirdSheets" (261 : Nat) ({ cls := "ThirdSheets", name := "fours", desc := "(II)I" } : Jvm.MethodName)) ∈ lw_all := lw_g (lw_at lw_m2 189 rfl) rfl
theorem q511 : (Jvm.Cond.privateMethod ({ cls := "ThirdSheets", name := "fours", desc := "(II)I" } : Jvm.MethodName)) ∈ lw_tbl := lw_at lw_m2 190 rfl
theorem q512 : (Jvm.Cond.instanceMethod ({ cls := "ThirdSheets", name := "fours", desc := "(II)I" } : Jvm.MethodName)) ∈ lw_all := lw_g (lw_at lw_m2 191 rfl) rfl
theorem q513 : (Jvm.Cond.code ({ cls := "ThirdSheets", name := "fours", desc := "(II)I" } : Jvm.MethodName) prog_1_method_47_code (3 : Nat) (Option.some Jvm.ClassFile.FieldType.int)) ∈ lw_all := lw_g (lw_at lw_m2 192 rfl) rfl
theorem q515 : (Jvm.Cond.instanceMethod ({ cls := "ThirdSheets", name := "euler", desc := "()I" } : Jvm.MethodName)) ∈ lw_all := lw_g (lw_at lw_m2 194 rfl) rfl
theorem q516 : (Jvm.Cond.selects "ThirdSheets" ({ cls := "ThirdSheets", name := "euler", desc := "()I" } : Jvm.MethodName) ({ cls := "ThirdSheets", name := "euler", desc := "()I" } : Jvm.MethodName)) ∈ lw_all := lw_g (lw_at lw_m2 195 rfl) rfl
theorem q517 : (Jvm.Cond.code ({ cls := "ThirdSheets", name := "euler", desc := "()I" } : Jvm.MethodName) prog_1_method_51_code (11 : Nat) (Option.some Jvm.ClassFile.FieldType.int)) ∈ lw_all := lw_g (lw_at lw_m2 196 rfl) rfl
theorem q518 : (Jvm.Cond.methodLink "ThirdSheets" (268 : Nat) ({ cls := "ThirdSheets", name := "legal", desc := "()I" } : Jvm.MethodName)) ∈ lw_all := lw_g (lw_at lw_m2 197 rfl) rfl
theorem q519 : (Jvm.Cond.methodLink "ThirdSheets" (271 : Nat) ({ cls := "ThirdSheets", name := "isCounted", desc := "(II)Z" } : Jvm.MethodName)) ∈ lw_all := lw_g (lw_at lw_m2 198 rfl) rfl
theorem q520 : (Jvm.Cond.privateMethod ({ cls := "ThirdSheets", name := "isCounted", desc := "(II)Z" } : Jvm.MethodName)) ∈ lw_tbl := lw_at lw_m2 199 rfl
theorem q521 : (Jvm.Cond.instanceMethod ({ cls := "ThirdSheets", name := "isCounted", desc := "(II)Z" } : Jvm.MethodName)) ∈ lw_all := lw_g (lw_at lw_m2 200 rfl) rfl
theorem q522 : (Jvm.Cond.code ({ cls := "ThirdSheets", name := "isCounted", desc := "(II)Z" } : Jvm.MethodName) prog_1_method_50_code (4 : Nat) (Option.some Jvm.ClassFile.FieldType.boolean)) ∈ lw_all := lw_g (lw_at lw_m2 201 rfl) rfl
theorem q524 : (Jvm.Cond.instanceMethod ({ cls := "ThirdSheets", name := "parts", desc := "()I" } : Jvm.MethodName)) ∈ lw_all := lw_g (lw_at lw_m2 203 rfl) rfl
theorem q525 : (Jvm.Cond.selects "ThirdSheets" ({ cls := "ThirdSheets", name := "parts", desc := "()I" } : Jvm.MethodName) ({ cls := "ThirdSheets", name := "parts", desc := "()I" } : Jvm.MethodName)) ∈ lw_all := lw_g (lw_at lw_m2 204 rfl) rfl
theorem q526 : (Jvm.Cond.code ({ cls := "ThirdSheets", name := "parts", desc := "()I" } : Jvm.MethodName) prog_1_method_60_code (1 : Nat) (Option.some Jvm.ClassFile.FieldType.int)) ∈ lw_all := lw_g (lw_at lw_m2 205 rfl) rfl
theorem q527 : (Jvm.Cond.methodLink "ThirdSheets" (277 : Nat) ({ cls := "ThirdSheets", name := "allCuts", desc := "()I" } : Jvm.MethodName)) ∈ lw_all := lw_g (lw_at lw_m2 206 rfl) rfl
theorem q528 : (Jvm.Cond.privateMethod ({ cls := "ThirdSheets", name := "allCuts", desc := "()I" } : Jvm.MethodName)) ∈ lw_tbl := lw_at lw_m2 207 rfl
theorem q529 : (Jvm.Cond.instanceMethod ({ cls := "ThirdSheets", name := "allCuts", desc := "()I" } : Jvm.MethodName)) ∈ lw_all := lw_g (lw_at lw_m2 208 rfl) rfl
theorem q530 : (Jvm.Cond.code ({ cls := "ThirdSheets", name := "allCuts", desc := "()I" } : Jvm.MethodName) prog_1_method_52_code (2 : Nat) (Option.some Jvm.ClassFile.FieldType.int)) ∈ lw_all := lw_g (lw_at lw_m2 209 rfl) rfl
theorem q531 : (Jvm.Cond.methodLink "ThirdSheets" (297 : Nat) ({ cls := "ThirdSheets", name := "findParts", desc := "()I" } : Jvm.MethodName)) ∈ lw_all := lw_g (lw_at lw_m2 210 rfl) rfl
theorem q532 : (Jvm.Cond.privateMethod ({ cls := "ThirdSheets", name := "findParts", desc := "()I" } : Jvm.MethodName)) ∈ lw_tbl := lw_at lw_m2 211 rfl
theorem q533 : (Jvm.Cond.instanceMethod ({ cls := "ThirdSheets", name := "findParts", desc := "()I" } : Jvm.MethodName)) ∈ lw_all := lw_g (lw_at lw_m2 212 rfl) rfl
theorem q534 : (Jvm.Cond.code ({ cls := "ThirdSheets", name := "findParts", desc := "()I" } : Jvm.MethodName) prog_1_method_57_code (4 : Nat) (Option.some Jvm.ClassFile.FieldType.int)) ∈ lw_all := lw_g (lw_at lw_m2 213 rfl) rfl
theorem q535 : (Jvm.Cond.methodLink "ThirdSheets" (280 : Nat) ({ cls := "ThirdSheets", name := "spread", desc := "(II)V" } : Jvm.MethodName)) ∈ lw_all := lw_g (lw_at lw_m2 214 rfl) rfl
theorem q536 : (Jvm.Cond.privateMethod ({ cls := "ThirdSheets", name := "spread", desc := "(II)V" } : Jvm.MethodName)) ∈ lw_tbl := lw_at lw_m2 215 rfl
theorem q537 : (Jvm.Cond.instanceMethod ({ cls := "ThirdSheets", name := "spread", desc := "(II)V" } : Jvm.MethodName)) ∈ lw_all := lw_g (lw_at lw_m2 216 rfl) rfl
theorem q538 : (Jvm.Cond.code ({ cls := "ThirdSheets", name := "spread", desc := "(II)V" } : Jvm.MethodName) prog_1_method_58_code (12 : Nat) (Option.none : Option Jvm.ClassFile.FieldType)) ∈ lw_all := lw_g (lw_at lw_m2 217 rfl) rfl
theorem q539 : (Jvm.Cond.methodLink "ThirdSheets" (284 : Nat) ({ cls := "ThirdSheets", name := "kindOfCut", desc := "(I)I" } : Jvm.MethodName)) ∈ lw_all := lw_g (lw_at lw_m2 218 rfl) rfl
theorem q540 : (Jvm.Cond.privateMethod ({ cls := "ThirdSheets", name := "kindOfCut", desc := "(I)I" } : Jvm.MethodName)) ∈ lw_tbl := lw_at lw_m2 219 rfl
theorem q541 : (Jvm.Cond.instanceMethod ({ cls := "ThirdSheets", name := "kindOfCut", desc := "(I)I" } : Jvm.MethodName)) ∈ lw_all := lw_g (lw_at lw_m2 220 rfl) rfl
theorem q542 : (Jvm.Cond.code ({ cls := "ThirdSheets", name := "kindOfCut", desc := "(I)I" } : Jvm.MethodName) prog_1_method_56_code (3 : Nat) (Option.some Jvm.ClassFile.FieldType.int)) ∈ lw_all := lw_g (lw_at lw_m2 221 rfl) rfl
theorem q543 : (Jvm.Cond.methodLink "ThirdSheets" (287 : Nat) ({ cls := "ThirdSheets", name := "beyond", desc := "(IIII)I" } : Jvm.MethodName)) ∈ lw_all := lw_g (lw_at lw_m2 222 rfl) rfl
theorem q544 : (Jvm.Cond.privateMethod ({ cls := "ThirdSheets", name := "beyond", desc := "(IIII)I" } : Jvm.MethodName)) ∈ lw_tbl := lw_at lw_m2 223 rfl
theorem q545 : (Jvm.Cond.instanceMethod ({ cls := "ThirdSheets", name := "beyond", desc := "(IIII)I" } : Jvm.MethodName)) ∈ lw_all := lw_g (lw_at lw_m2 224 rfl) rfl
theorem q546 : (Jvm.Cond.code ({ cls := "ThirdSheets", name := "beyond", desc := "(IIII)I" } : Jvm.MethodName) prog_1_method_59_code (7 : Nat) (Option.some Jvm.ClassFile.FieldType.int)) ∈ lw_all := lw_g (lw_at lw_m2 225 rfl) rfl
theorem q547 : (Jvm.Cond.methodLink "ThirdSheets" (294 : Nat) ({ cls := "ThirdSheets", name := "cutOf", desc := "(IIII)I" } : Jvm.MethodName)) ∈ lw_all := lw_g (lw_at lw_m2 226 rfl) rfl
theorem q548 : (Jvm.Cond.privateMethod ({ cls := "ThirdSheets", name := "cutOf", desc := "(IIII)I" } : Jvm.MethodName)) ∈ lw_tbl := lw_at lw_m2 227 rfl
theorem q549 : (Jvm.Cond.instanceMethod ({ cls := "ThirdSheets", name := "cutOf", desc := "(IIII)I" } : Jvm.MethodName)) ∈ lw_all := lw_g (lw_at lw_m2 228 rfl) rfl
theorem q550 : (Jvm.Cond.code ({ cls := "ThirdSheets", name := "cutOf", desc := "(IIII)I" } : Jvm.MethodName) prog_1_method_54_code (7 : Nat) (Option.some Jvm.ClassFile.FieldType.int)) ∈ lw_all := lw_g (lw_at lw_m2 229 rfl) rfl
theorem q551 : (Jvm.Cond.methodLink "ThirdSheets" (274 : Nat) ({ cls := "ThirdSheets", name := "isNear", desc := "(II)Z" } : Jvm.MethodName)) ∈ lw_all := lw_g (lw_at lw_m2 230 rfl) rfl
theorem q552 : (Jvm.Cond.static ({ cls := "ThirdSheets", name := "isNear", desc := "(II)Z" } : Jvm.MethodName)) ∈ lw_all := lw_g (lw_at lw_m2 231 rfl) rfl
theorem q553 : (Jvm.Cond.code ({ cls := "ThirdSheets", name := "isNear", desc := "(II)Z" } : Jvm.MethodName) prog_1_method_53_code (2 : Nat) (Option.some Jvm.ClassFile.FieldType.boolean)) ∈ lw_all := lw_g (lw_at lw_m2 232 rfl) rfl
theorem q554 : (Jvm.Cond.methodLink "ThirdSheets" (291 : Nat) ({ cls := "ThirdSheets", name := "looks", desc := "(II)I" } : Jvm.MethodName)) ∈ lw_all := lw_g (lw_at lw_m2 233 rfl) rfl
theorem q555 : (Jvm.Cond.static ({ cls := "ThirdSheets", name := "looks", desc := "(II)I" } : Jvm.MethodName)) ∈ lw_all := lw_g (lw_at lw_m2 234 rfl) rfl
theorem q556 : (Jvm.Cond.code ({ cls := "ThirdSheets", name := "looks", desc := "(II)I" } : Jvm.MethodName) prog_1_method_55_code (2 : Nat) (Option.some Jvm.ClassFile.FieldType.int)) ∈ lw_all := lw_g (lw_at lw_m2 235 rfl) rfl
theorem q558 : (Jvm.Cond.instanceMethod ({ cls := "ThirdSheets", name := "part", desc := "(II)I" } : Jvm.MethodName)) ∈ lw_all := lw_g (lw_at lw_m2 237 rfl) rfl
theorem q559 : (Jvm.Cond.selects "ThirdSheets" ({ cls := "ThirdSheets", name := "part", desc := "(II)I" } : Jvm.MethodName) ({ cls := "ThirdSheets", name := "part", desc := "(II)I" } : Jvm.MethodName)) ∈ lw_all := lw_g (lw_at lw_m2 238 rfl) rfl
theorem q560 : (Jvm.Cond.code ({ cls := "ThirdSheets", name := "part", desc := "(II)I" } : Jvm.MethodName) prog_1_method_63_code (6 : Nat) (Option.some Jvm.ClassFile.FieldType.int)) ∈ lw_all := lw_g (lw_at lw_m2 239 rfl) rfl
theorem q561 : (Jvm.Cond.methodLink "ThirdSheets" (300 : Nat) ({ cls := "ThirdSheets", name := "parts", desc := "()I" } : Jvm.MethodName)) ∈ lw_all := lw_g (lw_at lw_m3 0 rfl) rfl
theorem q562 : (Jvm.Cond.methodLink "ThirdSheets" (303 : Nat) ({ cls := "ThirdSheets", name := "pointsOf", desc := "(I)I" } : Jvm.MethodName)) ∈ lw_all := lw_g (lw_at lw_m3 1 rfl) rfl
theorem q563 : (Jvm.Cond.privateMethod ({ cls := "ThirdSheets", name := "pointsOf", desc := "(I)I" } : Jvm.MethodName)) ∈ lw_tbl := lw_at lw_m3 2 rfl
theorem q564 : (Jvm.Cond.instanceMethod ({ cls := "ThirdSheets", name := "pointsOf", desc := "(I)I" } : Jvm.MethodName)) ∈ lw_all := lw_g (lw_at lw_m3 3 rfl) rfl
theorem q565 : (Jvm.Cond.code ({ cls := "ThirdSheets", name := "pointsOf", desc := "(I)I" } : Jvm.MethodName) prog_1_method_61_code (12 : Nat) (Option.some Jvm.ClassFile.FieldType.int)) ∈ lw_all := lw_g (lw_at lw_m3 4 rfl) rfl
theorem q566 : (Jvm.Cond.methodLink "ThirdSheets" (306 : Nat) ({ cls := "ThirdSheets", name := "arcsOf", desc := "(I)I" } : Jvm.MethodName)) ∈ lw_all := lw_g (lw_at lw_m3 5 rfl) rfl
theorem q567 : (Jvm.Cond.privateMethod ({ cls := "ThirdSheets", name := "arcsOf", desc := "(I)I" } : Jvm.MethodName)) ∈ lw_tbl := lw_at lw_m3 6 rfl
theorem q568 : (Jvm.Cond.instanceMethod ({ cls := "ThirdSheets", name := "arcsOf", desc := "(I)I" } : Jvm.MethodName)) ∈ lw_all := lw_g (lw_at lw_m3 7 rfl) rfl
theorem q569 : (Jvm.Cond.code ({ cls := "ThirdSheets", name := "arcsOf", desc := "(I)I" } : Jvm.MethodName) prog_1_method_62_code (8 : Nat) (Option.some Jvm.ClassFile.FieldType.int)) ∈ lw_all := lw_g (lw_at lw_m3 8 rfl) rfl
theorem in_X0 : ∀ w ∈ wsX00, w ∈ lw_all := lw_in wsX00 [183, 185, 187, 189, 191, 193, 195, 197, 199, 201, 203, 205, 207, 209, 211, 213, 215, 217, 219] (by decide +kernel) (by decide +kernel)
