/-! ThirdSheetsModel -/
set_option maxRecDepth 100000
def RX5 : String := "ThirdSheetsModel"
def TX5 : u_T := fun k => match k with
  | 0 => ("ThirdSheetsModel", "pieces", "I", false)
  | 1 => ("ThirdSheetsModel", "glued", "[I", true)
  | 2 => ("ThirdSheetsModel", "goes", "[I", true)
  | 3 => ("ThirdSheetsModel", "sheet", "[I", true)
  | 4 => ("ThirdSheetsModel", "from", "[I", true)
  | 5 => ("ThirdSheetsModel", "to", "[I", true)
  | 6 => ("ThirdSheetsModel", "labels", "[I", true)
  | 7 => ("ThirdSheetsModel", "corners", "[I", true)
  | 8 => ("ThirdSheetsModel", "sets", "[I", true)
  | 9 => ("ThirdSheetsModel", "more", "Z", false)
  | 10 => ("ThirdSheetsModel", "table", "[J", true)
  | 11 => ("ThirdSheetsModel", "rows", "I", false)
  | 12 => ("ThirdSheetsModel", "columns", "I", false)
  | 13 => ("ThirdSheetsModel", "pairOf", "[I", true)
  | 14 => ("ThirdSheetsModel", "rays", "I", false)
  | 15 => ("ThirdSheetsModel", "ray", "[I", true)
  | 16 => ("ThirdSheetsModel", "next", "[I", true)
  | 17 => ("ThirdSheetsModel", "equation", "[I", true)
  | 18 => ("ThirdSheetsModel", "laid", "I", false)
  | 19 => ("ThirdSheetsModel", "cuts", "I", false)
  | 20 => ("ThirdSheetsModel", "cutFrom", "[I", true)
  | 21 => ("ThirdSheetsModel", "partOf", "[I", true)
  | 22 => ("ThirdSheetsModel", "sign", "[I", true)
  | 23 => ("ThirdSheetsModel", "queue", "[I", true)
  | 24 => ("ThirdSheetsModel", "isTwisted", "Z", false)
  | _ => ("ThirdSheetsModel", "twisted", "[Z", true)
def tyX5 : Nat → FieldType := fun k => match k with
  | 0 => .int
  | 1 => .array .int
  | 2 => .array .int
  | 3 => .array .int
  | 4 => .array .int
  | 5 => .array .int
  | 6 => .array .int
  | 7 => .array .int
  | 8 => .array .int
  | 9 => .boolean
  | 10 => .array .long
  | 11 => .int
  | 12 => .int
  | 13 => .array .int
  | 14 => .int
  | 15 => .array .int
  | 16 => .array .int
  | 17 => .array .int
  | 18 => .int
  | 19 => .int
  | 20 => .array .int
  | 21 => .array .int
  | 22 => .array .int
  | 23 => .array .int
  | 24 => .boolean
  | _ => .array .boolean
abbrev wsX50 : List Cond := u_ws RX5 TX5 26
set_option maxRecDepth 100000 in
theorem nmX5 : ∀ a, a < 26 → ∀ b, b < 26 → a ≠ b → (TX5 a).2.1 ≠ (TX5 b).2.1 := by decide +kernel
set_option maxRecDepth 100000 in
theorem tyX5_ok : ∀ k, k < 26 → parseFieldDescriptor (TX5 k).2.2.1 = some (tyX5 k) := by decide +kernel
abbrev cX5_init : ByteArray := prog_8_method_1_code
def yX5_init : MethodName := ⟨RX5, "<init>", "()V"⟩
def dkwX5_init_8 : List UInt8 := [181, 0, 60, 42, 17, 1, 144, 188, 4, 181, 0, 63, 177]
abbrev dktX5_init_8 : List UInt8 := dkwX5_init_8 ++ []
def dkwX5_init_7 : List UInt8 := [17, 1, 144, 188, 10, 181, 0, 54, 42, 17, 1, 144, 188, 10, 181, 0, 57, 42, 17, 1, 144, 188, 10]
abbrev dktX5_init_7 : List UInt8 := dkwX5_init_7 ++ dktX5_init_8
def dkwX5_init_6 : List UInt8 := [188, 10, 181, 0, 45, 42, 16, 21, 188, 10, 181, 0, 48, 42, 16, 22, 188, 10, 181, 0, 51, 42]
abbrev dktX5_init_6 : List UInt8 := dkwX5_init_6 ++ dktX5_init_7
def dkwX5_init_5 : List UInt8 := [188, 11, 181, 0, 34, 42, 16, 12, 188, 10, 181, 0, 38, 42, 18, 41, 188, 10, 181, 0, 42, 42, 18, 41]
abbrev dktX5_init_5 : List UInt8 := dkwX5_init_5 ++ dktX5_init_6
def dkwX5_init_4 : List UInt8 := [188, 10, 181, 0, 25, 42, 16, 12, 188, 10, 181, 0, 28, 42, 6, 188, 10, 181, 0, 31, 42, 16, 108]
abbrev dktX5_init_4 : List UInt8 := dkwX5_init_4 ++ dktX5_init_5
def dkwX5_init_3 : List UInt8 := [5, 79, 89, 5, 6, 79, 89, 6, 5, 79, 89, 7, 6, 79, 89, 8, 6, 79, 181, 0, 22, 42, 16, 36]
abbrev dktX5_init_3 : List UInt8 := dkwX5_init_3 ++ dktX5_init_4
def dkwX5_init_2 : List UInt8 := [4, 79, 89, 7, 4, 79, 89, 8, 5, 79, 181, 0, 19, 42, 16, 6, 188, 10, 89, 3, 4, 79, 89, 4]
abbrev dktX5_init_2 : List UInt8 := dkwX5_init_2 ++ dktX5_init_3
def dkwX5_init_1 : List UInt8 := [188, 10, 181, 0, 16, 42, 16, 6, 188, 10, 89, 3, 3, 79, 89, 4, 3, 79, 89, 5, 3, 79, 89, 6]
abbrev dktX5_init_1 : List UInt8 := dkwX5_init_1 ++ dktX5_init_2
def dkwX5_init_0 : List UInt8 := [42, 183, 0, 1, 42, 16, 12, 188, 10, 181, 0, 7, 42, 16, 48, 188, 10, 181, 0, 13, 42, 16, 21]
abbrev dktX5_init_0 : List UInt8 := dkwX5_init_0 ++ dktX5_init_1
theorem dksX5_init_0 : cX5_init.data.toList.drop 0 = dktX5_init_0 := by decide +kernel
theorem dksX5_init_1 : cX5_init.data.toList.drop 23 = dktX5_init_1 := dk_seg dksX5_init_0 23 rfl rfl
theorem dksX5_init_2 : cX5_init.data.toList.drop 47 = dktX5_init_2 := dk_seg dksX5_init_1 24 rfl rfl
theorem dksX5_init_3 : cX5_init.data.toList.drop 71 = dktX5_init_3 := dk_seg dksX5_init_2 24 rfl rfl
theorem dksX5_init_4 : cX5_init.data.toList.drop 95 = dktX5_init_4 := dk_seg dksX5_init_3 24 rfl rfl
theorem dksX5_init_5 : cX5_init.data.toList.drop 118 = dktX5_init_5 := dk_seg dksX5_init_4 23 rfl rfl
theorem dksX5_init_6 : cX5_init.data.toList.drop 142 = dktX5_init_6 := dk_seg dksX5_init_5 24 rfl rfl
theorem dksX5_init_7 : cX5_init.data.toList.drop 164 = dktX5_init_7 := dk_seg dksX5_init_6 22 rfl rfl
theorem dksX5_init_8 : cX5_init.data.toList.drop 187 = dktX5_init_8 := dk_seg dksX5_init_7 23 rfl rfl
theorem dX5_init_0 : decode cX5_init 0 = .ok (.aload_n 0, 1) := dk_42 (dk_at dksX5_init_0 0 rfl rfl)
theorem dX5_init_1 : decode cX5_init 1 = .ok (.invokespecial 1, 3) := dk_183 0 1 (dk_at dksX5_init_0 1 rfl rfl)
theorem dX5_init_4 : decode cX5_init 4 = .ok (.aload_n 0, 1) := dk_42 (dk_at dksX5_init_0 4 rfl rfl)
theorem dX5_init_5 : decode cX5_init 5 = .ok (.bipush 12, 2) := dk_16 12 (dk_at dksX5_init_0 5 rfl rfl)
theorem dX5_init_7 : decode cX5_init 7 = .ok (.newarray .int, 2) := dk_188_10 (dk_at dksX5_init_0 7 rfl rfl)
theorem dX5_init_9 : decode cX5_init 9 = .ok (.putfield 7, 3) := dk_181 0 7 (dk_at dksX5_init_0 9 rfl rfl)
theorem dX5_init_12 : decode cX5_init 12 = .ok (.aload_n 0, 1) := dk_42 (dk_at dksX5_init_0 12 rfl rfl)
theorem dX5_init_13 : decode cX5_init 13 = .ok (.bipush 48, 2) := dk_16 48 (dk_at dksX5_init_0 13 rfl rfl)
theorem dX5_init_15 : decode cX5_init 15 = .ok (.newarray .int, 2) := dk_188_10 (dk_at dksX5_init_0 15 rfl rfl)
theorem dX5_init_17 : decode cX5_init 17 = .ok (.putfield 13, 3) := dk_181 0 13 (dk_at dksX5_init_0 17 rfl rfl)
theorem dX5_init_20 : decode cX5_init 20 = .ok (.aload_n 0, 1) := dk_42 (dk_at dksX5_init_0 20 rfl rfl)
theorem dX5_init_21 : decode cX5_init 21 = .ok (.bipush 21, 2) := dk_16 21 (dk_at dksX5_init_0 21 rfl rfl)
theorem dX5_init_23 : decode cX5_init 23 = .ok (.newarray .int, 2) := dk_188_10 (dk_at dksX5_init_1 0 rfl rfl)
theorem dX5_init_25 : decode cX5_init 25 = .ok (.putfield 16, 3) := dk_181 0 16 (dk_at dksX5_init_1 2 rfl rfl)
theorem dX5_init_28 : decode cX5_init 28 = .ok (.aload_n 0, 1) := dk_42 (dk_at dksX5_init_1 5 rfl rfl)
theorem dX5_init_29 : decode cX5_init 29 = .ok (.bipush 6, 2) := dk_16 6 (dk_at dksX5_init_1 6 rfl rfl)
theorem dX5_init_31 : decode cX5_init 31 = .ok (.newarray .int, 2) := dk_188_10 (dk_at dksX5_init_1 8 rfl rfl)
theorem dX5_init_33 : decode cX5_init 33 = .ok (.dup, 1) := dk_89 (dk_at dksX5_init_1 10 rfl rfl)
theorem dX5_init_34 : decode cX5_init 34 = .ok (.iconst 0, 1) := dk_3 (dk_at dksX5_init_1 11 rfl rfl)
theorem dX5_init_35 : decode cX5_init 35 = .ok (.iconst 0, 1) := dk_3 (dk_at dksX5_init_1 12 rfl rfl)
theorem dX5_init_36 : decode cX5_init 36 = .ok (.iastore, 1) := dk_79 (dk_at dksX5_init_1 13 rfl rfl)
theorem dX5_init_37 : decode cX5_init 37 = .ok (.dup, 1) := dk_89 (dk_at dksX5_init_1 14 rfl rfl)
theorem dX5_init_38 : decode cX5_init 38 = .ok (.iconst 1, 1) := dk_4 (dk_at dksX5_init_1 15 rfl rfl)
theorem dX5_init_39 : decode cX5_init 39 = .ok (.iconst 0, 1) := dk_3 (dk_at dksX5_init_1 16 rfl rfl)
theorem dX5_init_40 : decode cX5_init 40 = .ok (.iastore, 1) := dk_79 (dk_at dksX5_init_1 17 rfl rfl)
theorem dX5_init_41 : decode cX5_init 41 = .ok (.dup, 1) := dk_89 (dk_at dksX5_init_1 18 rfl rfl)
theorem dX5_init_42 : decode cX5_init 42 = .ok (.iconst 2, 1) := dk_5 (dk_at dksX5_init_1 19 rfl rfl)
theorem dX5_init_43 : decode cX5_init 43 = .ok (.iconst 0, 1) := dk_3 (dk_at dksX5_init_1 20 rfl rfl)
theorem dX5_init_44 : decode cX5_init 44 = .ok (.iastore, 1) := dk_79 (dk_at dksX5_init_1 21 rfl rfl)
theorem dX5_init_45 : decode cX5_init 45 = .ok (.dup, 1) := dk_89 (dk_at dksX5_init_1 22 rfl rfl)
theorem dX5_init_46 : decode cX5_init 46 = .ok (.iconst 3, 1) := dk_6 (dk_at dksX5_init_1 23 rfl rfl)
theorem dX5_init_47 : decode cX5_init 47 = .ok (.iconst 1, 1) := dk_4 (dk_at dksX5_init_2 0 rfl rfl)
theorem dX5_init_48 : decode cX5_init 48 = .ok (.iastore, 1) := dk_79 (dk_at dksX5_init_2 1 rfl rfl)
theorem dX5_init_49 : decode cX5_init 49 = .ok (.dup, 1) := dk_89 (dk_at dksX5_init_2 2 rfl rfl)
theorem dX5_init_50 : decode cX5_init 50 = .ok (.iconst 4, 1) := dk_7 (dk_at dksX5_init_2 3 rfl rfl)
theorem dX5_init_51 : decode cX5_init 51 = .ok (.iconst 1, 1) := dk_4 (dk_at dksX5_init_2 4 rfl rfl)
theorem dX5_init_52 : decode cX5_init 52 = .ok (.iastore, 1) := dk_79 (dk_at dksX5_init_2 5 rfl rfl)
theorem dX5_init_53 : decode cX5_init 53 = .ok (.dup, 1) := dk_89 (dk_at dksX5_init_2 6 rfl rfl)
theorem dX5_init_54 : decode cX5_init 54 = .ok (.iconst 5, 1) := dk_8 (dk_at dksX5_init_2 7 rfl rfl)
theorem dX5_init_55 : decode cX5_init 55 = .ok (.iconst 2, 1) := dk_5 (dk_at dksX5_init_2 8 rfl rfl)
theorem dX5_init_56 : decode cX5_init 56 = .ok (.iastore, 1) := dk_79 (dk_at dksX5_init_2 9 rfl rfl)
theorem dX5_init_57 : decode cX5_init 57 = .ok (.putfield 19, 3) := dk_181 0 19 (dk_at dksX5_init_2 10 rfl rfl)
theorem dX5_init_60 : decode cX5_init 60 = .ok (.aload_n 0, 1) := dk_42 (dk_at dksX5_init_2 13 rfl rfl)
theorem dX5_init_61 : decode cX5_init 61 = .ok (.bipush 6, 2) := dk_16 6 (dk_at dksX5_init_2 14 rfl rfl)
theorem dX5_init_63 : decode cX5_init 63 = .ok (.newarray .int, 2) := dk_188_10 (dk_at dksX5_init_2 16 rfl rfl)
theorem dX5_init_65 : decode cX5_init 65 = .ok (.dup, 1) := dk_89 (dk_at dksX5_init_2 18 rfl rfl)
theorem dX5_init_66 : decode cX5_init 66 = .ok (.iconst 0, 1) := dk_3 (dk_at dksX5_init_2 19 rfl rfl)
theorem dX5_init_67 : decode cX5_init 67 = .ok (.iconst 1, 1) := dk_4 (dk_at dksX5_init_2 20 rfl rfl)
theorem dX5_init_68 : decode cX5_init 68 = .ok (.iastore, 1) := dk_79 (dk_at dksX5_init_2 21 rfl rfl)
theorem dX5_init_69 : decode cX5_init 69 = .ok (.dup, 1) := dk_89 (dk_at dksX5_init_2 22 rfl rfl)
theorem dX5_init_70 : decode cX5_init 70 = .ok (.iconst 1, 1) := dk_4 (dk_at dksX5_init_2 23 rfl rfl)
theorem dX5_init_71 : decode cX5_init 71 = .ok (.iconst 2, 1) := dk_5 (dk_at dksX5_init_3 0 rfl rfl)
theorem dX5_init_72 : decode cX5_init 72 = .ok (.iastore, 1) := dk_79 (dk_at dksX5_init_3 1 rfl rfl)
theorem dX5_init_73 : decode cX5_init 73 = .ok (.dup, 1) := dk_89 (dk_at dksX5_init_3 2 rfl rfl)
theorem dX5_init_74 : decode cX5_init 74 = .ok (.iconst 2, 1) := dk_5 (dk_at dksX5_init_3 3 rfl rfl)
theorem dX5_init_75 : decode cX5_init 75 = .ok (.iconst 3, 1) := dk_6 (dk_at dksX5_init_3 4 rfl rfl)
theorem dX5_init_76 : decode cX5_init 76 = .ok (.iastore, 1) := dk_79 (dk_at dksX5_init_3 5 rfl rfl)
theorem dX5_init_77 : decode cX5_init 77 = .ok (.dup, 1) := dk_89 (dk_at dksX5_init_3 6 rfl rfl)
theorem dX5_init_78 : decode cX5_init 78 = .ok (.iconst 3, 1) := dk_6 (dk_at dksX5_init_3 7 rfl rfl)
theorem dX5_init_79 : decode cX5_init 79 = .ok (.iconst 2, 1) := dk_5 (dk_at dksX5_init_3 8 rfl rfl)
theorem dX5_init_80 : decode cX5_init 80 = .ok (.iastore, 1) := dk_79 (dk_at dksX5_init_3 9 rfl rfl)
theorem dX5_init_81 : decode cX5_init 81 = .ok (.dup, 1) := dk_89 (dk_at dksX5_init_3 10 rfl rfl)
theorem dX5_init_82 : decode cX5_init 82 = .ok (.iconst 4, 1) := dk_7 (dk_at dksX5_init_3 11 rfl rfl)
theorem dX5_init_83 : decode cX5_init 83 = .ok (.iconst 3, 1) := dk_6 (dk_at dksX5_init_3 12 rfl rfl)
theorem dX5_init_84 : decode cX5_init 84 = .ok (.iastore, 1) := dk_79 (dk_at dksX5_init_3 13 rfl rfl)
theorem dX5_init_85 : decode cX5_init 85 = .ok (.dup, 1) := dk_89 (dk_at dksX5_init_3 14 rfl rfl)
theorem dX5_init_86 : decode cX5_init 86 = .ok (.iconst 5, 1) := dk_8 (dk_at dksX5_init_3 15 rfl rfl)
theorem dX5_init_87 : decode cX5_init 87 = .ok (.iconst 3, 1) := dk_6 (dk_at dksX5_init_3 16 rfl rfl)
theorem dX5_init_88 : decode cX5_init 88 = .ok (.iastore, 1) := dk_79 (dk_at dksX5_init_3 17 rfl rfl)
theorem dX5_init_89 : decode cX5_init 89 = .ok (.putfield 22, 3) := dk_181 0 22 (dk_at dksX5_init_3 18 rfl rfl)
theorem dX5_init_92 : decode cX5_init 92 = .ok (.aload_n 0, 1) := dk_42 (dk_at dksX5_init_3 21 rfl rfl)
theorem dX5_init_93 : decode cX5_init 93 = .ok (.bipush 36, 2) := dk_16 36 (dk_at dksX5_init_3 22 rfl rfl)
theorem dX5_init_95 : decode cX5_init 95 = .ok (.newarray .int, 2) := dk_188_10 (dk_at dksX5_init_4 0 rfl rfl)
theorem dX5_init_97 : decode cX5_init 97 = .ok (.putfield 25, 3) := dk_181 0 25 (dk_at dksX5_init_4 2 rfl rfl)
theorem dX5_init_100 : decode cX5_init 100 = .ok (.aload_n 0, 1) := dk_42 (dk_at dksX5_init_4 5 rfl rfl)
theorem dX5_init_101 : decode cX5_init 101 = .ok (.bipush 12, 2) := dk_16 12 (dk_at dksX5_init_4 6 rfl rfl)
theorem dX5_init_103 : decode cX5_init 103 = .ok (.newarray .int, 2) := dk_188_10 (dk_at dksX5_init_4 8 rfl rfl)
theorem dX5_init_105 : decode cX5_init 105 = .ok (.putfield 28, 3) := dk_181 0 28 (dk_at dksX5_init_4 10 rfl rfl)
theorem dX5_init_108 : decode cX5_init 108 = .ok (.aload_n 0, 1) := dk_42 (dk_at dksX5_init_4 13 rfl rfl)
theorem dX5_init_109 : decode cX5_init 109 = .ok (.iconst 3, 1) := dk_6 (dk_at dksX5_init_4 14 rfl rfl)
theorem dX5_init_110 : decode cX5_init 110 = .ok (.newarray .int, 2) := dk_188_10 (dk_at dksX5_init_4 15 rfl rfl)
theorem dX5_init_112 : decode cX5_init 112 = .ok (.putfield 31, 3) := dk_181 0 31 (dk_at dksX5_init_4 17 rfl rfl)
theorem dX5_init_115 : decode cX5_init 115 = .ok (.aload_n 0, 1) := dk_42 (dk_at dksX5_init_4 20 rfl rfl)
theorem dX5_init_116 : decode cX5_init 116 = .ok (.bipush 108, 2) := dk_16 108 (dk_at dksX5_init_4 21 rfl rfl)
theorem dX5_init_118 : decode cX5_init 118 = .ok (.newarray .long, 2) := dk_188_11 (dk_at dksX5_init_5 0 rfl rfl)
theorem dX5_init_120 : decode cX5_init 120 = .ok (.putfield 34, 3) := dk_181 0 34 (dk_at dksX5_init_5 2 rfl rfl)
theorem dX5_init_123 : decode cX5_init 123 = .ok (.aload_n 0, 1) := dk_42 (dk_at dksX5_init_5 5 rfl rfl)
theorem dX5_init_124 : decode cX5_init 124 = .ok (.bipush 12, 2) := dk_16 12 (dk_at dksX5_init_5 6 rfl rfl)
theorem dX5_init_126 : decode cX5_init 126 = .ok (.newarray .int, 2) := dk_188_10 (dk_at dksX5_init_5 8 rfl rfl)
theorem dX5_init_128 : decode cX5_init 128 = .ok (.putfield 38, 3) := dk_181 0 38 (dk_at dksX5_init_5 10 rfl rfl)
theorem dX5_init_131 : decode cX5_init 131 = .ok (.aload_n 0, 1) := dk_42 (dk_at dksX5_init_5 13 rfl rfl)
theorem dX5_init_132 : decode cX5_init 132 = .ok (.ldc 41, 2) := dk_18 41 (dk_at dksX5_init_5 14 rfl rfl)
theorem dX5_init_134 : decode cX5_init 134 = .ok (.newarray .int, 2) := dk_188_10 (dk_at dksX5_init_5 16 rfl rfl)
theorem dX5_init_136 : decode cX5_init 136 = .ok (.putfield 42, 3) := dk_181 0 42 (dk_at dksX5_init_5 18 rfl rfl)
theorem dX5_init_139 : decode cX5_init 139 = .ok (.aload_n 0, 1) := dk_42 (dk_at dksX5_init_5 21 rfl rfl)
theorem dX5_init_140 : decode cX5_init 140 = .ok (.ldc 41, 2) := dk_18 41 (dk_at dksX5_init_5 22 rfl rfl)
theorem dX5_init_142 : decode cX5_init 142 = .ok (.newarray .int, 2) := dk_188_10 (dk_at dksX5_init_6 0 rfl rfl)
theorem dX5_init_144 : decode cX5_init 144 = .ok (.putfield 45, 3) := dk_181 0 45 (dk_at dksX5_init_6 2 rfl rfl)
theorem dX5_init_147 : decode cX5_init 147 = .ok (.aload_n 0, 1) := dk_42 (dk_at dksX5_init_6 5 rfl rfl)
theorem dX5_init_148 : decode cX5_init 148 = .ok (.bipush 21, 2) := dk_16 21 (dk_at dksX5_init_6 6 rfl rfl)
theorem dX5_init_150 : decode cX5_init 150 = .ok (.newarray .int, 2) := dk_188_10 (dk_at dksX5_init_6 8 rfl rfl)
theorem dX5_init_152 : decode cX5_init 152 = .ok (.putfield 48, 3) := dk_181 0 48 (dk_at dksX5_init_6 10 rfl rfl)
theorem dX5_init_155 : decode cX5_init 155 = .ok (.aload_n 0, 1) := dk_42 (dk_at dksX5_init_6 13 rfl rfl)
theorem dX5_init_156 : decode cX5_init 156 = .ok (.bipush 22, 2) := dk_16 22 (dk_at dksX5_init_6 14 rfl rfl)
theorem dX5_init_158 : decode cX5_init 158 = .ok (.newarray .int, 2) := dk_188_10 (dk_at dksX5_init_6 16 rfl rfl)
theorem dX5_init_160 : decode cX5_init 160 = .ok (.putfield 51, 3) := dk_181 0 51 (dk_at dksX5_init_6 18 rfl rfl)
theorem dX5_init_163 : decode cX5_init 163 = .ok (.aload_n 0, 1) := dk_42 (dk_at dksX5_init_6 21 rfl rfl)
theorem dX5_init_164 : decode cX5_init 164 = .ok (.sipush 400, 3) := dk_17 1 144 (dk_at dksX5_init_7 0 rfl rfl)
theorem dX5_init_167 : decode cX5_init 167 = .ok (.newarray .int, 2) := dk_188_10 (dk_at dksX5_init_7 3 rfl rfl)
theorem dX5_init_169 : decode cX5_init 169 = .ok (.putfield 54, 3) := dk_181 0 54 (dk_at dksX5_init_7 5 rfl rfl)
theorem dX5_init_172 : decode cX5_init 172 = .ok (.aload_n 0, 1) := dk_42 (dk_at dksX5_init_7 8 rfl rfl)
theorem dX5_init_173 : decode cX5_init 173 = .ok (.sipush 400, 3) := dk_17 1 144 (dk_at dksX5_init_7 9 rfl rfl)
theorem dX5_init_176 : decode cX5_init 176 = .ok (.newarray .int, 2) := dk_188_10 (dk_at dksX5_init_7 12 rfl rfl)
theorem dX5_init_178 : decode cX5_init 178 = .ok (.putfield 57, 3) := dk_181 0 57 (dk_at dksX5_init_7 14 rfl rfl)
theorem dX5_init_181 : decode cX5_init 181 = .ok (.aload_n 0, 1) := dk_42 (dk_at dksX5_init_7 17 rfl rfl)
theorem dX5_init_182 : decode cX5_init 182 = .ok (.sipush 400, 3) := dk_17 1 144 (dk_at dksX5_init_7 18 rfl rfl)
theorem dX5_init_185 : decode cX5_init 185 = .ok (.newarray .int, 2) := dk_188_10 (dk_at dksX5_init_7 21 rfl rfl)
theorem dX5_init_187 : decode cX5_init 187 = .ok (.putfield 60, 3) := dk_181 0 60 (dk_at dksX5_init_8 0 rfl rfl)
theorem dX5_init_190 : decode cX5_init 190 = .ok (.aload_n 0, 1) := dk_42 (dk_at dksX5_init_8 3 rfl rfl)
theorem dX5_init_191 : decode cX5_init 191 = .ok (.sipush 400, 3) := dk_17 1 144 (dk_at dksX5_init_8 4 rfl rfl)
theorem dX5_init_194 : decode cX5_init 194 = .ok (.newarray .boolean, 2) := dk_188_4 (dk_at dksX5_init_8 7 rfl rfl)
theorem dX5_init_196 : decode cX5_init 196 = .ok (.putfield 63, 3) := dk_181 0 63 (dk_at dksX5_init_8 9 rfl rfl)
theorem dX5_init_199 : decode cX5_init 199 = .ok (.return_, 1) := dk_177 (dk_at dksX5_init_8 12 rfl rfl)
abbrev cX5_piece : ByteArray := prog_8_method_19_code
def yX5_piece : MethodName := ⟨RX5, "piece", "()I"⟩
def dkwX5_piece_2 : List UInt8 := [42, 182, 0, 111, 42, 180, 0, 67, 4, 100, 172]
abbrev dktX5_piece_2 : List UInt8 := dkwX5_piece_2 ++ []
def dkwX5_piece_1 : List UInt8 := [180, 0, 67, 104, 27, 96, 2, 79, 132, 1, 1, 167, 255, 234, 42, 89, 180, 0, 67, 4, 96, 181, 0, 67]
abbrev dktX5_piece_1 : List UInt8 := dkwX5_piece_1 ++ dktX5_piece_2
def dkwX5_piece_0 : List UInt8 := [42, 180, 0, 67, 6, 160, 0, 6, 16, 252, 172, 3, 60, 27, 7, 162, 0, 23, 42, 180, 0, 7, 7, 42]
abbrev dktX5_piece_0 : List UInt8 := dkwX5_piece_0 ++ dktX5_piece_1
theorem dksX5_piece_0 : cX5_piece.data.toList.drop 0 = dktX5_piece_0 := by decide +kernel
theorem dksX5_piece_1 : cX5_piece.data.toList.drop 24 = dktX5_piece_1 := dk_seg dksX5_piece_0 24 rfl rfl
theorem dksX5_piece_2 : cX5_piece.data.toList.drop 48 = dktX5_piece_2 := dk_seg dksX5_piece_1 24 rfl rfl
theorem dX5_piece_0 : decode cX5_piece 0 = .ok (.aload_n 0, 1) := dk_42 (dk_at dksX5_piece_0 0 rfl rfl)
theorem dX5_piece_1 : decode cX5_piece 1 = .ok (.getfield 67, 3) := dk_180 0 67 (dk_at dksX5_piece_0 1 rfl rfl)
theorem dX5_piece_4 : decode cX5_piece 4 = .ok (.iconst 3, 1) := dk_6 (dk_at dksX5_piece_0 4 rfl rfl)
theorem dX5_piece_5 : decode cX5_piece 5 = .ok (.if_icmp .ne 6, 3) := dk_160 0 6 (dk_at dksX5_piece_0 5 rfl rfl)
theorem dX5_piece_8 : decode cX5_piece 8 = .ok (.bipush (-4), 2) := dk_16 252 (dk_at dksX5_piece_0 8 rfl rfl)
theorem dX5_piece_10 : decode cX5_piece 10 = .ok (.ireturn, 1) := dk_172 (dk_at dksX5_piece_0 10 rfl rfl)
theorem dX5_piece_11 : decode cX5_piece 11 = .ok (.iconst 0, 1) := dk_3 (dk_at dksX5_piece_0 11 rfl rfl)
theorem dX5_piece_12 : decode cX5_piece 12 = .ok (.istore_n 1, 1) := dk_60 (dk_at dksX5_piece_0 12 rfl rfl)
theorem dX5_piece_13 : decode cX5_piece 13 = .ok (.iload_n 1, 1) := dk_27 (dk_at dksX5_piece_0 13 rfl rfl)
theorem dX5_piece_14 : decode cX5_piece 14 = .ok (.iconst 4, 1) := dk_7 (dk_at dksX5_piece_0 14 rfl rfl)
theorem dX5_piece_15 : decode cX5_piece 15 = .ok (.if_icmp .ge 23, 3) := dk_162 0 23 (dk_at dksX5_piece_0 15 rfl rfl)
theorem dX5_piece_18 : decode cX5_piece 18 = .ok (.aload_n 0, 1) := dk_42 (dk_at dksX5_piece_0 18 rfl rfl)
theorem dX5_piece_19 : decode cX5_piece 19 = .ok (.getfield 7, 3) := dk_180 0 7 (dk_at dksX5_piece_0 19 rfl rfl)
theorem dX5_piece_22 : decode cX5_piece 22 = .ok (.iconst 4, 1) := dk_7 (dk_at dksX5_piece_0 22 rfl rfl)
theorem dX5_piece_23 : decode cX5_piece 23 = .ok (.aload_n 0, 1) := dk_42 (dk_at dksX5_piece_0 23 rfl rfl)
theorem dX5_piece_24 : decode cX5_piece 24 = .ok (.getfield 67, 3) := dk_180 0 67 (dk_at dksX5_piece_1 0 rfl rfl)
theorem dX5_piece_27 : decode cX5_piece 27 = .ok (.imul, 1) := dk_104 (dk_at dksX5_piece_1 3 rfl rfl)
theorem dX5_piece_28 : decode cX5_piece 28 = .ok (.iload_n 1, 1) := dk_27 (dk_at dksX5_piece_1 4 rfl rfl)
theorem dX5_piece_29 : decode cX5_piece 29 = .ok (.iadd, 1) := dk_96 (dk_at dksX5_piece_1 5 rfl rfl)
theorem dX5_piece_30 : decode cX5_piece 30 = .ok (.iconst (-1), 1) := dk_2 (dk_at dksX5_piece_1 6 rfl rfl)
theorem dX5_piece_31 : decode cX5_piece 31 = .ok (.iastore, 1) := dk_79 (dk_at dksX5_piece_1 7 rfl rfl)
theorem dX5_piece_32 : decode cX5_piece 32 = .ok (.iinc 1 1, 3) := dk_132 1 1 (dk_at dksX5_piece_1 8 rfl rfl)
theorem dX5_piece_35 : decode cX5_piece 35 = .ok (.goto (-22), 3) := dk_167 255 234 (dk_at dksX5_piece_1 11 rfl rfl)
theorem dX5_piece_38 : decode cX5_piece 38 = .ok (.aload_n 0, 1) := dk_42 (dk_at dksX5_piece_1 14 rfl rfl)
theorem dX5_piece_39 : decode cX5_piece 39 = .ok (.dup, 1) := dk_89 (dk_at dksX5_piece_1 15 rfl rfl)
theorem dX5_piece_40 : decode cX5_piece 40 = .ok (.getfield 67, 3) := dk_180 0 67 (dk_at dksX5_piece_1 16 rfl rfl)
theorem dX5_piece_43 : decode cX5_piece 43 = .ok (.iconst 1, 1) := dk_4 (dk_at dksX5_piece_1 19 rfl rfl)
theorem dX5_piece_44 : decode cX5_piece 44 = .ok (.iadd, 1) := dk_96 (dk_at dksX5_piece_1 20 rfl rfl)
theorem dX5_piece_45 : decode cX5_piece 45 = .ok (.putfield 67, 3) := dk_181 0 67 (dk_at dksX5_piece_1 21 rfl rfl)
theorem dX5_piece_48 : decode cX5_piece 48 = .ok (.aload_n 0, 1) := dk_42 (dk_at dksX5_piece_2 0 rfl rfl)
theorem dX5_piece_49 : decode cX5_piece 49 = .ok (.invokevirtual 111, 3) := dk_182 0 111 (dk_at dksX5_piece_2 1 rfl rfl)
theorem dX5_piece_52 : decode cX5_piece 52 = .ok (.aload_n 0, 1) := dk_42 (dk_at dksX5_piece_2 4 rfl rfl)
theorem dX5_piece_53 : decode cX5_piece 53 = .ok (.getfield 67, 3) := dk_180 0 67 (dk_at dksX5_piece_2 5 rfl rfl)
theorem dX5_piece_56 : decode cX5_piece 56 = .ok (.iconst 1, 1) := dk_4 (dk_at dksX5_piece_2 8 rfl rfl)
theorem dX5_piece_57 : decode cX5_piece 57 = .ok (.isub, 1) := dk_100 (dk_at dksX5_piece_2 9 rfl rfl)
theorem dX5_piece_58 : decode cX5_piece 58 = .ok (.ireturn, 1) := dk_172 (dk_at dksX5_piece_2 10 rfl rfl)
abbrev cX5_empty : ByteArray := prog_8_method_20_code
def yX5_empty : MethodName := ⟨RX5, "empty", "()V"⟩
def dkwX5_empty_0 : List UInt8 := [3, 60, 27, 16, 21, 162, 0, 16, 42, 180, 0, 16, 27, 3, 79, 132, 1, 1, 167, 255, 240, 177]
abbrev dktX5_empty_0 : List UInt8 := dkwX5_empty_0 ++ []
theorem dksX5_empty_0 : cX5_empty.data.toList.drop 0 = dktX5_empty_0 := by decide +kernel
theorem dX5_empty_0 : decode cX5_empty 0 = .ok (.iconst 0, 1) := dk_3 (dk_at dksX5_empty_0 0 rfl rfl)
theorem dX5_empty_1 : decode cX5_empty 1 = .ok (.istore_n 1, 1) := dk_60 (dk_at dksX5_empty_0 1 rfl rfl)
theorem dX5_empty_2 : decode cX5_empty 2 = .ok (.iload_n 1, 1) := dk_27 (dk_at dksX5_empty_0 2 rfl rfl)
theorem dX5_empty_3 : decode cX5_empty 3 = .ok (.bipush 21, 2) := dk_16 21 (dk_at dksX5_empty_0 3 rfl rfl)
theorem dX5_empty_5 : decode cX5_empty 5 = .ok (.if_icmp .ge 16, 3) := dk_162 0 16 (dk_at dksX5_empty_0 5 rfl rfl)
theorem dX5_empty_8 : decode cX5_empty 8 = .ok (.aload_n 0, 1) := dk_42 (dk_at dksX5_empty_0 8 rfl rfl)
theorem dX5_empty_9 : decode cX5_empty 9 = .ok (.getfield 16, 3) := dk_180 0 16 (dk_at dksX5_empty_0 9 rfl rfl)
theorem dX5_empty_12 : decode cX5_empty 12 = .ok (.iload_n 1, 1) := dk_27 (dk_at dksX5_empty_0 12 rfl rfl)
theorem dX5_empty_13 : decode cX5_empty 13 = .ok (.iconst 0, 1) := dk_3 (dk_at dksX5_empty_0 13 rfl rfl)
theorem dX5_empty_14 : decode cX5_empty 14 = .ok (.iastore, 1) := dk_79 (dk_at dksX5_empty_0 14 rfl rfl)
theorem dX5_empty_15 : decode cX5_empty 15 = .ok (.iinc 1 1, 3) := dk_132 1 1 (dk_at dksX5_empty_0 15 rfl rfl)
theorem dX5_empty_18 : decode cX5_empty 18 = .ok (.goto (-16), 3) := dk_167 255 240 (dk_at dksX5_empty_0 18 rfl rfl)
theorem dX5_empty_21 : decode cX5_empty 21 = .ok (.return_, 1) := dk_177 (dk_at dksX5_empty_0 21 rfl rfl)
abbrev cX5_glue : ByteArray := prog_8_method_21_code
def yX5_glue : MethodName := ⟨RX5, "glue", "(IIIII)I"⟩
def dkwX5_glue_10 : List UInt8 := [180, 0, 13, 7, 21, 10, 104, 21, 13, 96, 21, 12, 79, 132, 12, 1, 167, 255, 181, 4, 172]
abbrev dktX5_glue_10 : List UInt8 := dkwX5_glue_10 ++ []
def dkwX5_glue_9 : List UInt8 := [21, 8, 54, 13, 132, 11, 1, 42, 180, 0, 13, 7, 21, 9, 104, 21, 12, 96, 21, 13, 79, 42]
abbrev dktX5_glue_9 : List UInt8 := dkwX5_glue_9 ++ dktX5_glue_10
def dkwX5_glue_8 : List UInt8 := [159, 0, 31, 21, 11, 154, 0, 8, 21, 6, 167, 0, 16, 21, 11, 4, 160, 0, 8, 21, 7, 167, 0, 5]
abbrev dktX5_glue_8 : List UInt8 := dkwX5_glue_8 ++ dktX5_glue_9
def dkwX5_glue_7 : List UInt8 := [21, 10, 21, 9, 79, 3, 54, 11, 3, 54, 12, 21, 12, 7, 162, 0, 75, 21, 4, 54, 13, 21, 12, 28]
abbrev dktX5_glue_7 : List UInt8 := dkwX5_glue_7 ++ dktX5_glue_8
def dkwX5_glue_6 : List UInt8 := [21, 10, 46, 2, 159, 0, 6, 16, 253, 172, 42, 180, 0, 7, 21, 9, 21, 10, 79, 42, 180, 0, 7]
abbrev dktX5_glue_6 : List UInt8 := dkwX5_glue_6 ++ dktX5_glue_7
def dkwX5_glue_5 : List UInt8 := [7, 29, 104, 21, 4, 96, 54, 10, 42, 180, 0, 7, 21, 9, 46, 2, 160, 0, 14, 42, 180, 0, 7]
abbrev dktX5_glue_5 : List UInt8 := dkwX5_glue_5 ++ dktX5_glue_6
def dkwX5_glue_4 : List UInt8 := [159, 0, 14, 27, 29, 160, 0, 12, 28, 21, 4, 160, 0, 6, 16, 254, 172, 7, 27, 104, 28, 96, 54, 9]
abbrev dktX5_glue_4 : List UInt8 := dkwX5_glue_4 ++ dktX5_glue_5
def dkwX5_glue_3 : List UInt8 := [21, 8, 159, 0, 35, 21, 6, 21, 4, 159, 0, 28, 21, 7, 21, 4, 159, 0, 21, 21, 8, 21, 4]
abbrev dktX5_glue_3 : List UInt8 := dkwX5_glue_3 ++ dktX5_glue_4
def dkwX5_glue_2 : List UInt8 := [21, 5, 16, 16, 108, 54, 8, 21, 6, 21, 7, 159, 0, 49, 21, 6, 21, 8, 159, 0, 42, 21, 7]
abbrev dktX5_glue_2 : List UInt8 := dkwX5_glue_2 ++ dktX5_glue_3
def dkwX5_glue_1 : List UInt8 := [184, 0, 71, 154, 0, 6, 16, 254, 172, 21, 5, 7, 112, 54, 6, 21, 5, 7, 108, 7, 112, 54, 7]
abbrev dktX5_glue_1 : List UInt8 := dkwX5_glue_1 ++ dktX5_glue_2
def dkwX5_glue_0 : List UInt8 := [42, 27, 28, 182, 0, 114, 153, 0, 24, 42, 29, 21, 4, 182, 0, 114, 153, 0, 14, 21, 5, 3, 16, 63]
abbrev dktX5_glue_0 : List UInt8 := dkwX5_glue_0 ++ dktX5_glue_1
theorem dksX5_glue_0 : cX5_glue.data.toList.drop 0 = dktX5_glue_0 := by decide +kernel
theorem dksX5_glue_1 : cX5_glue.data.toList.drop 24 = dktX5_glue_1 := dk_seg dksX5_glue_0 24 rfl rfl
theorem dksX5_glue_2 : cX5_glue.data.toList.drop 47 = dktX5_glue_2 := dk_seg dksX5_glue_1 23 rfl rfl
theorem dksX5_glue_3 : cX5_glue.data.toList.drop 70 = dktX5_glue_3 := dk_seg dksX5_glue_2 23 rfl rfl
theorem dksX5_glue_4 : cX5_glue.data.toList.drop 93 = dktX5_glue_4 := dk_seg dksX5_glue_3 23 rfl rfl
theorem dksX5_glue_5 : cX5_glue.data.toList.drop 117 = dktX5_glue_5 := dk_seg dksX5_glue_4 24 rfl rfl
theorem dksX5_glue_6 : cX5_glue.data.toList.drop 140 = dktX5_glue_6 := dk_seg dksX5_glue_5 23 rfl rfl
theorem dksX5_glue_7 : cX5_glue.data.toList.drop 163 = dktX5_glue_7 := dk_seg dksX5_glue_6 23 rfl rfl
theorem dksX5_glue_8 : cX5_glue.data.toList.drop 187 = dktX5_glue_8 := dk_seg dksX5_glue_7 24 rfl rfl
theorem dksX5_glue_9 : cX5_glue.data.toList.drop 211 = dktX5_glue_9 := dk_seg dksX5_glue_8 24 rfl rfl
theorem dksX5_glue_10 : cX5_glue.data.toList.drop 233 = dktX5_glue_10 := dk_seg dksX5_glue_9 22 rfl rfl
theorem dX5_glue_0 : decode cX5_glue 0 = .ok (.aload_n 0, 1) := dk_42 (dk_at dksX5_glue_0 0 rfl rfl)
theorem dX5_glue_1 : decode cX5_glue 1 = .ok (.iload_n 1, 1) := dk_27 (dk_at dksX5_glue_0 1 rfl rfl)
theorem dX5_glue_2 : decode cX5_glue 2 = .ok (.iload_n 2, 1) := dk_28 (dk_at dksX5_glue_0 2 rfl rfl)
theorem dX5_glue_3 : decode cX5_glue 3 = .ok (.invokevirtual 114, 3) := dk_182 0 114 (dk_at dksX5_glue_0 3 rfl rfl)
theorem dX5_glue_6 : decode cX5_glue 6 = .ok (.ifCond .eq 24, 3) := dk_153 0 24 (dk_at dksX5_glue_0 6 rfl rfl)
theorem dX5_glue_9 : decode cX5_glue 9 = .ok (.aload_n 0, 1) := dk_42 (dk_at dksX5_glue_0 9 rfl rfl)
theorem dX5_glue_10 : decode cX5_glue 10 = .ok (.iload_n 3, 1) := dk_29 (dk_at dksX5_glue_0 10 rfl rfl)
theorem dX5_glue_11 : decode cX5_glue 11 = .ok (.iload 4, 2) := dk_21 4 (dk_at dksX5_glue_0 11 rfl rfl)
theorem dX5_glue_13 : decode cX5_glue 13 = .ok (.invokevirtual 114, 3) := dk_182 0 114 (dk_at dksX5_glue_0 13 rfl rfl)
theorem dX5_glue_16 : decode cX5_glue 16 = .ok (.ifCond .eq 14, 3) := dk_153 0 14 (dk_at dksX5_glue_0 16 rfl rfl)
theorem dX5_glue_19 : decode cX5_glue 19 = .ok (.iload 5, 2) := dk_21 5 (dk_at dksX5_glue_0 19 rfl rfl)
theorem dX5_glue_21 : decode cX5_glue 21 = .ok (.iconst 0, 1) := dk_3 (dk_at dksX5_glue_0 21 rfl rfl)
theorem dX5_glue_22 : decode cX5_glue 22 = .ok (.bipush 63, 2) := dk_16 63 (dk_at dksX5_glue_0 22 rfl rfl)
theorem dX5_glue_24 : decode cX5_glue 24 = .ok (.invokestatic 71, 3) := dk_184 0 71 (dk_at dksX5_glue_1 0 rfl rfl)
theorem dX5_glue_27 : decode cX5_glue 27 = .ok (.ifCond .ne 6, 3) := dk_154 0 6 (dk_at dksX5_glue_1 3 rfl rfl)
theorem dX5_glue_30 : decode cX5_glue 30 = .ok (.bipush (-2), 2) := dk_16 254 (dk_at dksX5_glue_1 6 rfl rfl)
theorem dX5_glue_32 : decode cX5_glue 32 = .ok (.ireturn, 1) := dk_172 (dk_at dksX5_glue_1 8 rfl rfl)
theorem dX5_glue_33 : decode cX5_glue 33 = .ok (.iload 5, 2) := dk_21 5 (dk_at dksX5_glue_1 9 rfl rfl)
theorem dX5_glue_35 : decode cX5_glue 35 = .ok (.iconst 4, 1) := dk_7 (dk_at dksX5_glue_1 11 rfl rfl)
theorem dX5_glue_36 : decode cX5_glue 36 = .ok (.irem, 1) := dk_112 (dk_at dksX5_glue_1 12 rfl rfl)
theorem dX5_glue_37 : decode cX5_glue 37 = .ok (.istore 6, 2) := dk_54 6 (dk_at dksX5_glue_1 13 rfl rfl)
theorem dX5_glue_39 : decode cX5_glue 39 = .ok (.iload 5, 2) := dk_21 5 (dk_at dksX5_glue_1 15 rfl rfl)
theorem dX5_glue_41 : decode cX5_glue 41 = .ok (.iconst 4, 1) := dk_7 (dk_at dksX5_glue_1 17 rfl rfl)
theorem dX5_glue_42 : decode cX5_glue 42 = .ok (.idiv, 1) := dk_108 (dk_at dksX5_glue_1 18 rfl rfl)
theorem dX5_glue_43 : decode cX5_glue 43 = .ok (.iconst 4, 1) := dk_7 (dk_at dksX5_glue_1 19 rfl rfl)
theorem dX5_glue_44 : decode cX5_glue 44 = .ok (.irem, 1) := dk_112 (dk_at dksX5_glue_1 20 rfl rfl)
theorem dX5_glue_45 : decode cX5_glue 45 = .ok (.istore 7, 2) := dk_54 7 (dk_at dksX5_glue_1 21 rfl rfl)
theorem dX5_glue_47 : decode cX5_glue 47 = .ok (.iload 5, 2) := dk_21 5 (dk_at dksX5_glue_2 0 rfl rfl)
theorem dX5_glue_49 : decode cX5_glue 49 = .ok (.bipush 16, 2) := dk_16 16 (dk_at dksX5_glue_2 2 rfl rfl)
theorem dX5_glue_51 : decode cX5_glue 51 = .ok (.idiv, 1) := dk_108 (dk_at dksX5_glue_2 4 rfl rfl)
theorem dX5_glue_52 : decode cX5_glue 52 = .ok (.istore 8, 2) := dk_54 8 (dk_at dksX5_glue_2 5 rfl rfl)
theorem dX5_glue_54 : decode cX5_glue 54 = .ok (.iload 6, 2) := dk_21 6 (dk_at dksX5_glue_2 7 rfl rfl)
theorem dX5_glue_56 : decode cX5_glue 56 = .ok (.iload 7, 2) := dk_21 7 (dk_at dksX5_glue_2 9 rfl rfl)
theorem dX5_glue_58 : decode cX5_glue 58 = .ok (.if_icmp .eq 49, 3) := dk_159 0 49 (dk_at dksX5_glue_2 11 rfl rfl)
theorem dX5_glue_61 : decode cX5_glue 61 = .ok (.iload 6, 2) := dk_21 6 (dk_at dksX5_glue_2 14 rfl rfl)
theorem dX5_glue_63 : decode cX5_glue 63 = .ok (.iload 8, 2) := dk_21 8 (dk_at dksX5_glue_2 16 rfl rfl)
theorem dX5_glue_65 : decode cX5_glue 65 = .ok (.if_icmp .eq 42, 3) := dk_159 0 42 (dk_at dksX5_glue_2 18 rfl rfl)
theorem dX5_glue_68 : decode cX5_glue 68 = .ok (.iload 7, 2) := dk_21 7 (dk_at dksX5_glue_2 21 rfl rfl)
theorem dX5_glue_70 : decode cX5_glue 70 = .ok (.iload 8, 2) := dk_21 8 (dk_at dksX5_glue_3 0 rfl rfl)
theorem dX5_glue_72 : decode cX5_glue 72 = .ok (.if_icmp .eq 35, 3) := dk_159 0 35 (dk_at dksX5_glue_3 2 rfl rfl)
theorem dX5_glue_75 : decode cX5_glue 75 = .ok (.iload 6, 2) := dk_21 6 (dk_at dksX5_glue_3 5 rfl rfl)
theorem dX5_glue_77 : decode cX5_glue 77 = .ok (.iload 4, 2) := dk_21 4 (dk_at dksX5_glue_3 7 rfl rfl)
theorem dX5_glue_79 : decode cX5_glue 79 = .ok (.if_icmp .eq 28, 3) := dk_159 0 28 (dk_at dksX5_glue_3 9 rfl rfl)
theorem dX5_glue_82 : decode cX5_glue 82 = .ok (.iload 7, 2) := dk_21 7 (dk_at dksX5_glue_3 12 rfl rfl)
theorem dX5_glue_84 : decode cX5_glue 84 = .ok (.iload 4, 2) := dk_21 4 (dk_at dksX5_glue_3 14 rfl rfl)
theorem dX5_glue_86 : decode cX5_glue 86 = .ok (.if_icmp .eq 21, 3) := dk_159 0 21 (dk_at dksX5_glue_3 16 rfl rfl)
theorem dX5_glue_89 : decode cX5_glue 89 = .ok (.iload 8, 2) := dk_21 8 (dk_at dksX5_glue_3 19 rfl rfl)
theorem dX5_glue_91 : decode cX5_glue 91 = .ok (.iload 4, 2) := dk_21 4 (dk_at dksX5_glue_3 21 rfl rfl)
theorem dX5_glue_93 : decode cX5_glue 93 = .ok (.if_icmp .eq 14, 3) := dk_159 0 14 (dk_at dksX5_glue_4 0 rfl rfl)
theorem dX5_glue_96 : decode cX5_glue 96 = .ok (.iload_n 1, 1) := dk_27 (dk_at dksX5_glue_4 3 rfl rfl)
theorem dX5_glue_97 : decode cX5_glue 97 = .ok (.iload_n 3, 1) := dk_29 (dk_at dksX5_glue_4 4 rfl rfl)
theorem dX5_glue_98 : decode cX5_glue 98 = .ok (.if_icmp .ne 12, 3) := dk_160 0 12 (dk_at dksX5_glue_4 5 rfl rfl)
theorem dX5_glue_101 : decode cX5_glue 101 = .ok (.iload_n 2, 1) := dk_28 (dk_at dksX5_glue_4 8 rfl rfl)
theorem dX5_glue_102 : decode cX5_glue 102 = .ok (.iload 4, 2) := dk_21 4 (dk_at dksX5_glue_4 9 rfl rfl)
theorem dX5_glue_104 : decode cX5_glue 104 = .ok (.if_icmp .ne 6, 3) := dk_160 0 6 (dk_at dksX5_glue_4 11 rfl rfl)
theorem dX5_glue_107 : decode cX5_glue 107 = .ok (.bipush (-2), 2) := dk_16 254 (dk_at dksX5_glue_4 14 rfl rfl)
theorem dX5_glue_109 : decode cX5_glue 109 = .ok (.ireturn, 1) := dk_172 (dk_at dksX5_glue_4 16 rfl rfl)
theorem dX5_glue_110 : decode cX5_glue 110 = .ok (.iconst 4, 1) := dk_7 (dk_at dksX5_glue_4 17 rfl rfl)
theorem dX5_glue_111 : decode cX5_glue 111 = .ok (.iload_n 1, 1) := dk_27 (dk_at dksX5_glue_4 18 rfl rfl)
theorem dX5_glue_112 : decode cX5_glue 112 = .ok (.imul, 1) := dk_104 (dk_at dksX5_glue_4 19 rfl rfl)
theorem dX5_glue_113 : decode cX5_glue 113 = .ok (.iload_n 2, 1) := dk_28 (dk_at dksX5_glue_4 20 rfl rfl)
theorem dX5_glue_114 : decode cX5_glue 114 = .ok (.iadd, 1) := dk_96 (dk_at dksX5_glue_4 21 rfl rfl)
theorem dX5_glue_115 : decode cX5_glue 115 = .ok (.istore 9, 2) := dk_54 9 (dk_at dksX5_glue_4 22 rfl rfl)
theorem dX5_glue_117 : decode cX5_glue 117 = .ok (.iconst 4, 1) := dk_7 (dk_at dksX5_glue_5 0 rfl rfl)
theorem dX5_glue_118 : decode cX5_glue 118 = .ok (.iload_n 3, 1) := dk_29 (dk_at dksX5_glue_5 1 rfl rfl)
theorem dX5_glue_119 : decode cX5_glue 119 = .ok (.imul, 1) := dk_104 (dk_at dksX5_glue_5 2 rfl rfl)
theorem dX5_glue_120 : decode cX5_glue 120 = .ok (.iload 4, 2) := dk_21 4 (dk_at dksX5_glue_5 3 rfl rfl)
theorem dX5_glue_122 : decode cX5_glue 122 = .ok (.iadd, 1) := dk_96 (dk_at dksX5_glue_5 5 rfl rfl)
theorem dX5_glue_123 : decode cX5_glue 123 = .ok (.istore 10, 2) := dk_54 10 (dk_at dksX5_glue_5 6 rfl rfl)
theorem dX5_glue_125 : decode cX5_glue 125 = .ok (.aload_n 0, 1) := dk_42 (dk_at dksX5_glue_5 8 rfl rfl)
theorem dX5_glue_126 : decode cX5_glue 126 = .ok (.getfield 7, 3) := dk_180 0 7 (dk_at dksX5_glue_5 9 rfl rfl)
theorem dX5_glue_129 : decode cX5_glue 129 = .ok (.iload 9, 2) := dk_21 9 (dk_at dksX5_glue_5 12 rfl rfl)
theorem dX5_glue_131 : decode cX5_glue 131 = .ok (.iaload, 1) := dk_46 (dk_at dksX5_glue_5 14 rfl rfl)
theorem dX5_glue_132 : decode cX5_glue 132 = .ok (.iconst (-1), 1) := dk_2 (dk_at dksX5_glue_5 15 rfl rfl)
theorem dX5_glue_133 : decode cX5_glue 133 = .ok (.if_icmp .ne 14, 3) := dk_160 0 14 (dk_at dksX5_glue_5 16 rfl rfl)
theorem dX5_glue_136 : decode cX5_glue 136 = .ok (.aload_n 0, 1) := dk_42 (dk_at dksX5_glue_5 19 rfl rfl)
theorem dX5_glue_137 : decode cX5_glue 137 = .ok (.getfield 7, 3) := dk_180 0 7 (dk_at dksX5_glue_5 20 rfl rfl)
theorem dX5_glue_140 : decode cX5_glue 140 = .ok (.iload 10, 2) := dk_21 10 (dk_at dksX5_glue_6 0 rfl rfl)
theorem dX5_glue_142 : decode cX5_glue 142 = .ok (.iaload, 1) := dk_46 (dk_at dksX5_glue_6 2 rfl rfl)
theorem dX5_glue_143 : decode cX5_glue 143 = .ok (.iconst (-1), 1) := dk_2 (dk_at dksX5_glue_6 3 rfl rfl)
theorem dX5_glue_144 : decode cX5_glue 144 = .ok (.if_icmp .eq 6, 3) := dk_159 0 6 (dk_at dksX5_glue_6 4 rfl rfl)
theorem dX5_glue_147 : decode cX5_glue 147 = .ok (.bipush (-3), 2) := dk_16 253 (dk_at dksX5_glue_6 7 rfl rfl)
theorem dX5_glue_149 : decode cX5_glue 149 = .ok (.ireturn, 1) := dk_172 (dk_at dksX5_glue_6 9 rfl rfl)
theorem dX5_glue_150 : decode cX5_glue 150 = .ok (.aload_n 0, 1) := dk_42 (dk_at dksX5_glue_6 10 rfl rfl)
theorem dX5_glue_151 : decode cX5_glue 151 = .ok (.getfield 7, 3) := dk_180 0 7 (dk_at dksX5_glue_6 11 rfl rfl)
theorem dX5_glue_154 : decode cX5_glue 154 = .ok (.iload 9, 2) := dk_21 9 (dk_at dksX5_glue_6 14 rfl rfl)
theorem dX5_glue_156 : decode cX5_glue 156 = .ok (.iload 10, 2) := dk_21 10 (dk_at dksX5_glue_6 16 rfl rfl)
theorem dX5_glue_158 : decode cX5_glue 158 = .ok (.iastore, 1) := dk_79 (dk_at dksX5_glue_6 18 rfl rfl)
theorem dX5_glue_159 : decode cX5_glue 159 = .ok (.aload_n 0, 1) := dk_42 (dk_at dksX5_glue_6 19 rfl rfl)
theorem dX5_glue_160 : decode cX5_glue 160 = .ok (.getfield 7, 3) := dk_180 0 7 (dk_at dksX5_glue_6 20 rfl rfl)
theorem dX5_glue_163 : decode cX5_glue 163 = .ok (.iload 10, 2) := dk_21 10 (dk_at dksX5_glue_7 0 rfl rfl)
theorem dX5_glue_165 : decode cX5_glue 165 = .ok (.iload 9, 2) := dk_21 9 (dk_at dksX5_glue_7 2 rfl rfl)
theorem dX5_glue_167 : decode cX5_glue 167 = .ok (.iastore, 1) := dk_79 (dk_at dksX5_glue_7 4 rfl rfl)
theorem dX5_glue_168 : decode cX5_glue 168 = .ok (.iconst 0, 1) := dk_3 (dk_at dksX5_glue_7 5 rfl rfl)
theorem dX5_glue_169 : decode cX5_glue 169 = .ok (.istore 11, 2) := dk_54 11 (dk_at dksX5_glue_7 6 rfl rfl)
theorem dX5_glue_171 : decode cX5_glue 171 = .ok (.iconst 0, 1) := dk_3 (dk_at dksX5_glue_7 8 rfl rfl)
theorem dX5_glue_172 : decode cX5_glue 172 = .ok (.istore 12, 2) := dk_54 12 (dk_at dksX5_glue_7 9 rfl rfl)
theorem dX5_glue_174 : decode cX5_glue 174 = .ok (.iload 12, 2) := dk_21 12 (dk_at dksX5_glue_7 11 rfl rfl)
theorem dX5_glue_176 : decode cX5_glue 176 = .ok (.iconst 4, 1) := dk_7 (dk_at dksX5_glue_7 13 rfl rfl)
theorem dX5_glue_177 : decode cX5_glue 177 = .ok (.if_icmp .ge 75, 3) := dk_162 0 75 (dk_at dksX5_glue_7 14 rfl rfl)
theorem dX5_glue_180 : decode cX5_glue 180 = .ok (.iload 4, 2) := dk_21 4 (dk_at dksX5_glue_7 17 rfl rfl)
theorem dX5_glue_182 : decode cX5_glue 182 = .ok (.istore 13, 2) := dk_54 13 (dk_at dksX5_glue_7 19 rfl rfl)
theorem dX5_glue_184 : decode cX5_glue 184 = .ok (.iload 12, 2) := dk_21 12 (dk_at dksX5_glue_7 21 rfl rfl)
theorem dX5_glue_186 : decode cX5_glue 186 = .ok (.iload_n 2, 1) := dk_28 (dk_at dksX5_glue_7 23 rfl rfl)
theorem dX5_glue_187 : decode cX5_glue 187 = .ok (.if_icmp .eq 31, 3) := dk_159 0 31 (dk_at dksX5_glue_8 0 rfl rfl)
theorem dX5_glue_190 : decode cX5_glue 190 = .ok (.iload 11, 2) := dk_21 11 (dk_at dksX5_glue_8 3 rfl rfl)
theorem dX5_glue_192 : decode cX5_glue 192 = .ok (.ifCond .ne 8, 3) := dk_154 0 8 (dk_at dksX5_glue_8 5 rfl rfl)
theorem dX5_glue_195 : decode cX5_glue 195 = .ok (.iload 6, 2) := dk_21 6 (dk_at dksX5_glue_8 8 rfl rfl)
theorem dX5_glue_197 : decode cX5_glue 197 = .ok (.goto 16, 3) := dk_167 0 16 (dk_at dksX5_glue_8 10 rfl rfl)
theorem dX5_glue_200 : decode cX5_glue 200 = .ok (.iload 11, 2) := dk_21 11 (dk_at dksX5_glue_8 13 rfl rfl)
theorem dX5_glue_202 : decode cX5_glue 202 = .ok (.iconst 1, 1) := dk_4 (dk_at dksX5_glue_8 15 rfl rfl)
theorem dX5_glue_203 : decode cX5_glue 203 = .ok (.if_icmp .ne 8, 3) := dk_160 0 8 (dk_at dksX5_glue_8 16 rfl rfl)
theorem dX5_glue_206 : decode cX5_glue 206 = .ok (.iload 7, 2) := dk_21 7 (dk_at dksX5_glue_8 19 rfl rfl)
theorem dX5_glue_208 : decode cX5_glue 208 = .ok (.goto 5, 3) := dk_167 0 5 (dk_at dksX5_glue_8 21 rfl rfl)
theorem dX5_glue_211 : decode cX5_glue 211 = .ok (.iload 8, 2) := dk_21 8 (dk_at dksX5_glue_9 0 rfl rfl)
theorem dX5_glue_213 : decode cX5_glue 213 = .ok (.istore 13, 2) := dk_54 13 (dk_at dksX5_glue_9 2 rfl rfl)
theorem dX5_glue_215 : decode cX5_glue 215 = .ok (.iinc 11 1, 3) := dk_132 11 1 (dk_at dksX5_glue_9 4 rfl rfl)
theorem dX5_glue_218 : decode cX5_glue 218 = .ok (.aload_n 0, 1) := dk_42 (dk_at dksX5_glue_9 7 rfl rfl)
theorem dX5_glue_219 : decode cX5_glue 219 = .ok (.getfield 13, 3) := dk_180 0 13 (dk_at dksX5_glue_9 8 rfl rfl)
theorem dX5_glue_222 : decode cX5_glue 222 = .ok (.iconst 4, 1) := dk_7 (dk_at dksX5_glue_9 11 rfl rfl)
theorem dX5_glue_223 : decode cX5_glue 223 = .ok (.iload 9, 2) := dk_21 9 (dk_at dksX5_glue_9 12 rfl rfl)
theorem dX5_glue_225 : decode cX5_glue 225 = .ok (.imul, 1) := dk_104 (dk_at dksX5_glue_9 14 rfl rfl)
theorem dX5_glue_226 : decode cX5_glue 226 = .ok (.iload 12, 2) := dk_21 12 (dk_at dksX5_glue_9 15 rfl rfl)
theorem dX5_glue_228 : decode cX5_glue 228 = .ok (.iadd, 1) := dk_96 (dk_at dksX5_glue_9 17 rfl rfl)
theorem dX5_glue_229 : decode cX5_glue 229 = .ok (.iload 13, 2) := dk_21 13 (dk_at dksX5_glue_9 18 rfl rfl)
theorem dX5_glue_231 : decode cX5_glue 231 = .ok (.iastore, 1) := dk_79 (dk_at dksX5_glue_9 20 rfl rfl)
theorem dX5_glue_232 : decode cX5_glue 232 = .ok (.aload_n 0, 1) := dk_42 (dk_at dksX5_glue_9 21 rfl rfl)
theorem dX5_glue_233 : decode cX5_glue 233 = .ok (.getfield 13, 3) := dk_180 0 13 (dk_at dksX5_glue_10 0 rfl rfl)
theorem dX5_glue_236 : decode cX5_glue 236 = .ok (.iconst 4, 1) := dk_7 (dk_at dksX5_glue_10 3 rfl rfl)
theorem dX5_glue_237 : decode cX5_glue 237 = .ok (.iload 10, 2) := dk_21 10 (dk_at dksX5_glue_10 4 rfl rfl)
theorem dX5_glue_239 : decode cX5_glue 239 = .ok (.imul, 1) := dk_104 (dk_at dksX5_glue_10 6 rfl rfl)
theorem dX5_glue_240 : decode cX5_glue 240 = .ok (.iload 13, 2) := dk_21 13 (dk_at dksX5_glue_10 7 rfl rfl)
theorem dX5_glue_242 : decode cX5_glue 242 = .ok (.iadd, 1) := dk_96 (dk_at dksX5_glue_10 9 rfl rfl)
theorem dX5_glue_243 : decode cX5_glue 243 = .ok (.iload 12, 2) := dk_21 12 (dk_at dksX5_glue_10 10 rfl rfl)
theorem dX5_glue_245 : decode cX5_glue 245 = .ok (.iastore, 1) := dk_79 (dk_at dksX5_glue_10 12 rfl rfl)
theorem dX5_glue_246 : decode cX5_glue 246 = .ok (.iinc 12 1, 3) := dk_132 12 1 (dk_at dksX5_glue_10 13 rfl rfl)
theorem dX5_glue_249 : decode cX5_glue 249 = .ok (.goto (-75), 3) := dk_167 255 181 (dk_at dksX5_glue_10 16 rfl rfl)
theorem dX5_glue_252 : decode cX5_glue 252 = .ok (.iconst 1, 1) := dk_4 (dk_at dksX5_glue_10 19 rfl rfl)
theorem dX5_glue_253 : decode cX5_glue 253 = .ok (.ireturn, 1) := dk_172 (dk_at dksX5_glue_10 20 rfl rfl)
abbrev cX5_isSide : ByteArray := prog_8_method_4_code
def yX5_isSide : MethodName := ⟨RX5, "isSide", "(II)Z"⟩
def dkwX5_isSide_0 : List UInt8 := [42, 27, 182, 0, 75, 153, 0, 16, 28, 3, 6, 184, 0, 71, 153, 0, 7, 4, 167, 0, 4, 3, 172]
abbrev dktX5_isSide_0 : List UInt8 := dkwX5_isSide_0 ++ []
theorem dksX5_isSide_0 : cX5_isSide.data.toList.drop 0 = dktX5_isSide_0 := by decide +kernel
theorem dX5_isSide_0 : decode cX5_isSide 0 = .ok (.aload_n 0, 1) := dk_42 (dk_at dksX5_isSide_0 0 rfl rfl)
theorem dX5_isSide_1 : decode cX5_isSide 1 = .ok (.iload_n 1, 1) := dk_27 (dk_at dksX5_isSide_0 1 rfl rfl)
theorem dX5_isSide_2 : decode cX5_isSide 2 = .ok (.invokevirtual 75, 3) := dk_182 0 75 (dk_at dksX5_isSide_0 2 rfl rfl)
theorem dX5_isSide_5 : decode cX5_isSide 5 = .ok (.ifCond .eq 16, 3) := dk_153 0 16 (dk_at dksX5_isSide_0 5 rfl rfl)
theorem dX5_isSide_8 : decode cX5_isSide 8 = .ok (.iload_n 2, 1) := dk_28 (dk_at dksX5_isSide_0 8 rfl rfl)
theorem dX5_isSide_9 : decode cX5_isSide 9 = .ok (.iconst 0, 1) := dk_3 (dk_at dksX5_isSide_0 9 rfl rfl)
theorem dX5_isSide_10 : decode cX5_isSide 10 = .ok (.iconst 3, 1) := dk_6 (dk_at dksX5_isSide_0 10 rfl rfl)
theorem dX5_isSide_11 : decode cX5_isSide 11 = .ok (.invokestatic 71, 3) := dk_184 0 71 (dk_at dksX5_isSide_0 11 rfl rfl)
theorem dX5_isSide_14 : decode cX5_isSide 14 = .ok (.ifCond .eq 7, 3) := dk_153 0 7 (dk_at dksX5_isSide_0 14 rfl rfl)
theorem dX5_isSide_17 : decode cX5_isSide 17 = .ok (.iconst 1, 1) := dk_4 (dk_at dksX5_isSide_0 17 rfl rfl)
theorem dX5_isSide_18 : decode cX5_isSide 18 = .ok (.goto 4, 3) := dk_167 0 4 (dk_at dksX5_isSide_0 18 rfl rfl)
theorem dX5_isSide_21 : decode cX5_isSide 21 = .ok (.iconst 0, 1) := dk_3 (dk_at dksX5_isSide_0 21 rfl rfl)
theorem dX5_isSide_22 : decode cX5_isSide 22 = .ok (.ireturn, 1) := dk_172 (dk_at dksX5_isSide_0 22 rfl rfl)
abbrev cX5_isPiece : ByteArray := prog_8_method_3_code
def yX5_isPiece : MethodName := ⟨RX5, "isPiece", "(I)Z"⟩
def dkwX5_isPiece_0 : List UInt8 := [27, 3, 42, 180, 0, 67, 4, 100, 184, 0, 71, 172]
abbrev dktX5_isPiece_0 : List UInt8 := dkwX5_isPiece_0 ++ []
theorem dksX5_isPiece_0 : cX5_isPiece.data.toList.drop 0 = dktX5_isPiece_0 := by decide +kernel
theorem dX5_isPiece_0 : decode cX5_isPiece 0 = .ok (.iload_n 1, 1) := dk_27 (dk_at dksX5_isPiece_0 0 rfl rfl)
theorem dX5_isPiece_1 : decode cX5_isPiece 1 = .ok (.iconst 0, 1) := dk_3 (dk_at dksX5_isPiece_0 1 rfl rfl)
theorem dX5_isPiece_2 : decode cX5_isPiece 2 = .ok (.aload_n 0, 1) := dk_42 (dk_at dksX5_isPiece_0 2 rfl rfl)
theorem dX5_isPiece_3 : decode cX5_isPiece 3 = .ok (.getfield 67, 3) := dk_180 0 67 (dk_at dksX5_isPiece_0 3 rfl rfl)
theorem dX5_isPiece_6 : decode cX5_isPiece 6 = .ok (.iconst 1, 1) := dk_4 (dk_at dksX5_isPiece_0 6 rfl rfl)
theorem dX5_isPiece_7 : decode cX5_isPiece 7 = .ok (.isub, 1) := dk_100 (dk_at dksX5_isPiece_0 7 rfl rfl)
theorem dX5_isPiece_8 : decode cX5_isPiece 8 = .ok (.invokestatic 71, 3) := dk_184 0 71 (dk_at dksX5_isPiece_0 8 rfl rfl)
theorem dX5_isPiece_11 : decode cX5_isPiece 11 = .ok (.ireturn, 1) := dk_172 (dk_at dksX5_isPiece_0 11 rfl rfl)
abbrev cX5_in : ByteArray := prog_8_method_2_code
def yX5_in : MethodName := ⟨RX5, "in", "(III)Z"⟩
def dkwX5_in_0 : List UInt8 := [26, 27, 161, 0, 12, 26, 28, 163, 0, 7, 4, 167, 0, 4, 3, 172]
abbrev dktX5_in_0 : List UInt8 := dkwX5_in_0 ++ []
theorem dksX5_in_0 : cX5_in.data.toList.drop 0 = dktX5_in_0 := by decide +kernel
theorem dX5_in_0 : decode cX5_in 0 = .ok (.iload_n 0, 1) := dk_26 (dk_at dksX5_in_0 0 rfl rfl)
theorem dX5_in_1 : decode cX5_in 1 = .ok (.iload_n 1, 1) := dk_27 (dk_at dksX5_in_0 1 rfl rfl)
theorem dX5_in_2 : decode cX5_in 2 = .ok (.if_icmp .lt 12, 3) := dk_161 0 12 (dk_at dksX5_in_0 2 rfl rfl)
theorem dX5_in_5 : decode cX5_in 5 = .ok (.iload_n 0, 1) := dk_26 (dk_at dksX5_in_0 5 rfl rfl)
theorem dX5_in_6 : decode cX5_in 6 = .ok (.iload_n 2, 1) := dk_28 (dk_at dksX5_in_0 6 rfl rfl)
theorem dX5_in_7 : decode cX5_in 7 = .ok (.if_icmp .gt 7, 3) := dk_163 0 7 (dk_at dksX5_in_0 7 rfl rfl)
theorem dX5_in_10 : decode cX5_in 10 = .ok (.iconst 1, 1) := dk_4 (dk_at dksX5_in_0 10 rfl rfl)
theorem dX5_in_11 : decode cX5_in 11 = .ok (.goto 4, 3) := dk_167 0 4 (dk_at dksX5_in_0 11 rfl rfl)
theorem dX5_in_14 : decode cX5_in 14 = .ok (.iconst 0, 1) := dk_3 (dk_at dksX5_in_0 14 rfl rfl)
theorem dX5_in_15 : decode cX5_in 15 = .ok (.ireturn, 1) := dk_172 (dk_at dksX5_in_0 15 rfl rfl)
abbrev cX5_open : ByteArray := prog_8_method_22_code
def yX5_open : MethodName := ⟨RX5, "open", "(II)I"⟩
def dkwX5_open_2 : List UInt8 := [2, 79, 4, 172]
abbrev dktX5_open_2 : List UInt8 := dkwX5_open_2 ++ []
def dkwX5_open_1 : List UInt8 := [2, 160, 0, 6, 16, 253, 172, 42, 180, 0, 7, 42, 180, 0, 7, 29, 46, 2, 79, 42, 180, 0, 7, 29]
abbrev dktX5_open_1 : List UInt8 := dkwX5_open_1 ++ dktX5_open_2
def dkwX5_open_0 : List UInt8 := [42, 27, 28, 182, 0, 114, 154, 0, 6, 16, 254, 172, 7, 27, 104, 28, 96, 62, 42, 180, 0, 7, 29, 46]
abbrev dktX5_open_0 : List UInt8 := dkwX5_open_0 ++ dktX5_open_1
theorem dksX5_open_0 : cX5_open.data.toList.drop 0 = dktX5_open_0 := by decide +kernel
theorem dksX5_open_1 : cX5_open.data.toList.drop 24 = dktX5_open_1 := dk_seg dksX5_open_0 24 rfl rfl
theorem dksX5_open_2 : cX5_open.data.toList.drop 48 = dktX5_open_2 := dk_seg dksX5_open_1 24 rfl rfl
theorem dX5_open_0 : decode cX5_open 0 = .ok (.aload_n 0, 1) := dk_42 (dk_at dksX5_open_0 0 rfl rfl)
theorem dX5_open_1 : decode cX5_open 1 = .ok (.iload_n 1, 1) := dk_27 (dk_at dksX5_open_0 1 rfl rfl)
theorem dX5_open_2 : decode cX5_open 2 = .ok (.iload_n 2, 1) := dk_28 (dk_at dksX5_open_0 2 rfl rfl)
theorem dX5_open_3 : decode cX5_open 3 = .ok (.invokevirtual 114, 3) := dk_182 0 114 (dk_at dksX5_open_0 3 rfl rfl)
theorem dX5_open_6 : decode cX5_open 6 = .ok (.ifCond .ne 6, 3) := dk_154 0 6 (dk_at dksX5_open_0 6 rfl rfl)
theorem dX5_open_9 : decode cX5_open 9 = .ok (.bipush (-2), 2) := dk_16 254 (dk_at dksX5_open_0 9 rfl rfl)
theorem dX5_open_11 : decode cX5_open 11 = .ok (.ireturn, 1) := dk_172 (dk_at dksX5_open_0 11 rfl rfl)
theorem dX5_open_12 : decode cX5_open 12 = .ok (.iconst 4, 1) := dk_7 (dk_at dksX5_open_0 12 rfl rfl)
theorem dX5_open_13 : decode cX5_open 13 = .ok (.iload_n 1, 1) := dk_27 (dk_at dksX5_open_0 13 rfl rfl)
theorem dX5_open_14 : decode cX5_open 14 = .ok (.imul, 1) := dk_104 (dk_at dksX5_open_0 14 rfl rfl)
theorem dX5_open_15 : decode cX5_open 15 = .ok (.iload_n 2, 1) := dk_28 (dk_at dksX5_open_0 15 rfl rfl)
theorem dX5_open_16 : decode cX5_open 16 = .ok (.iadd, 1) := dk_96 (dk_at dksX5_open_0 16 rfl rfl)
theorem dX5_open_17 : decode cX5_open 17 = .ok (.istore_n 3, 1) := dk_62 (dk_at dksX5_open_0 17 rfl rfl)
theorem dX5_open_18 : decode cX5_open 18 = .ok (.aload_n 0, 1) := dk_42 (dk_at dksX5_open_0 18 rfl rfl)
theorem dX5_open_19 : decode cX5_open 19 = .ok (.getfield 7, 3) := dk_180 0 7 (dk_at dksX5_open_0 19 rfl rfl)
theorem dX5_open_22 : decode cX5_open 22 = .ok (.iload_n 3, 1) := dk_29 (dk_at dksX5_open_0 22 rfl rfl)
theorem dX5_open_23 : decode cX5_open 23 = .ok (.iaload, 1) := dk_46 (dk_at dksX5_open_0 23 rfl rfl)
theorem dX5_open_24 : decode cX5_open 24 = .ok (.iconst (-1), 1) := dk_2 (dk_at dksX5_open_1 0 rfl rfl)
theorem dX5_open_25 : decode cX5_open 25 = .ok (.if_icmp .ne 6, 3) := dk_160 0 6 (dk_at dksX5_open_1 1 rfl rfl)
theorem dX5_open_28 : decode cX5_open 28 = .ok (.bipush (-3), 2) := dk_16 253 (dk_at dksX5_open_1 4 rfl rfl)
theorem dX5_open_30 : decode cX5_open 30 = .ok (.ireturn, 1) := dk_172 (dk_at dksX5_open_1 6 rfl rfl)
theorem dX5_open_31 : decode cX5_open 31 = .ok (.aload_n 0, 1) := dk_42 (dk_at dksX5_open_1 7 rfl rfl)
theorem dX5_open_32 : decode cX5_open 32 = .ok (.getfield 7, 3) := dk_180 0 7 (dk_at dksX5_open_1 8 rfl rfl)
theorem dX5_open_35 : decode cX5_open 35 = .ok (.aload_n 0, 1) := dk_42 (dk_at dksX5_open_1 11 rfl rfl)
theorem dX5_open_36 : decode cX5_open 36 = .ok (.getfield 7, 3) := dk_180 0 7 (dk_at dksX5_open_1 12 rfl rfl)
theorem dX5_open_39 : decode cX5_open 39 = .ok (.iload_n 3, 1) := dk_29 (dk_at dksX5_open_1 15 rfl rfl)
theorem dX5_open_40 : decode cX5_open 40 = .ok (.iaload, 1) := dk_46 (dk_at dksX5_open_1 16 rfl rfl)
theorem dX5_open_41 : decode cX5_open 41 = .ok (.iconst (-1), 1) := dk_2 (dk_at dksX5_open_1 17 rfl rfl)
theorem dX5_open_42 : decode cX5_open 42 = .ok (.iastore, 1) := dk_79 (dk_at dksX5_open_1 18 rfl rfl)
theorem dX5_open_43 : decode cX5_open 43 = .ok (.aload_n 0, 1) := dk_42 (dk_at dksX5_open_1 19 rfl rfl)
theorem dX5_open_44 : decode cX5_open 44 = .ok (.getfield 7, 3) := dk_180 0 7 (dk_at dksX5_open_1 20 rfl rfl)
theorem dX5_open_47 : decode cX5_open 47 = .ok (.iload_n 3, 1) := dk_29 (dk_at dksX5_open_1 23 rfl rfl)
theorem dX5_open_48 : decode cX5_open 48 = .ok (.iconst (-1), 1) := dk_2 (dk_at dksX5_open_2 0 rfl rfl)
theorem dX5_open_49 : decode cX5_open 49 = .ok (.iastore, 1) := dk_79 (dk_at dksX5_open_2 1 rfl rfl)
theorem dX5_open_50 : decode cX5_open 50 = .ok (.iconst 1, 1) := dk_4 (dk_at dksX5_open_2 2 rfl rfl)
theorem dX5_open_51 : decode cX5_open 51 = .ok (.ireturn, 1) := dk_172 (dk_at dksX5_open_2 3 rfl rfl)
abbrev cX5_clear : ByteArray := prog_8_method_23_code
def yX5_clear : MethodName := ⟨RX5, "clear", "()I"⟩
def dkwX5_clear_0 : List UInt8 := [42, 180, 0, 67, 60, 42, 3, 181, 0, 67, 42, 182, 0, 111, 27, 172]
abbrev dktX5_clear_0 : List UInt8 := dkwX5_clear_0 ++ []
theorem dksX5_clear_0 : cX5_clear.data.toList.drop 0 = dktX5_clear_0 := by decide +kernel
theorem dX5_clear_0 : decode cX5_clear 0 = .ok (.aload_n 0, 1) := dk_42 (dk_at dksX5_clear_0 0 rfl rfl)
theorem dX5_clear_1 : decode cX5_clear 1 = .ok (.getfield 67, 3) := dk_180 0 67 (dk_at dksX5_clear_0 1 rfl rfl)
theorem dX5_clear_4 : decode cX5_clear 4 = .ok (.istore_n 1, 1) := dk_60 (dk_at dksX5_clear_0 4 rfl rfl)
theorem dX5_clear_5 : decode cX5_clear 5 = .ok (.aload_n 0, 1) := dk_42 (dk_at dksX5_clear_0 5 rfl rfl)
theorem dX5_clear_6 : decode cX5_clear 6 = .ok (.iconst 0, 1) := dk_3 (dk_at dksX5_clear_0 6 rfl rfl)
theorem dX5_clear_7 : decode cX5_clear 7 = .ok (.putfield 67, 3) := dk_181 0 67 (dk_at dksX5_clear_0 7 rfl rfl)
theorem dX5_clear_10 : decode cX5_clear 10 = .ok (.aload_n 0, 1) := dk_42 (dk_at dksX5_clear_0 10 rfl rfl)
theorem dX5_clear_11 : decode cX5_clear 11 = .ok (.invokevirtual 111, 3) := dk_182 0 111 (dk_at dksX5_clear_0 11 rfl rfl)
theorem dX5_clear_14 : decode cX5_clear 14 = .ok (.iload_n 1, 1) := dk_27 (dk_at dksX5_clear_0 14 rfl rfl)
theorem dX5_clear_15 : decode cX5_clear 15 = .ok (.ireturn, 1) := dk_172 (dk_at dksX5_clear_0 15 rfl rfl)
abbrev cX5_across : ByteArray := prog_8_method_24_code
def yX5_across : MethodName := ⟨RX5, "across", "(III)I"⟩
def dkwX5_across_2 : List UInt8 := [154, 0, 10, 21, 4, 7, 108, 167, 0, 7, 21, 4, 7, 112, 172]
abbrev dktX5_across_2 : List UInt8 := dkwX5_across_2 ++ []
def dkwX5_across_1 : List UInt8 := [180, 0, 7, 7, 27, 104, 28, 96, 46, 54, 4, 21, 4, 2, 160, 0, 7, 2, 167, 0, 18, 29]
abbrev dktX5_across_1 : List UInt8 := dkwX5_across_1 ++ dktX5_across_2
def dkwX5_across_0 : List UInt8 := [42, 27, 28, 182, 0, 114, 153, 0, 12, 29, 3, 4, 184, 0, 71, 154, 0, 6, 16, 254, 172, 42]
abbrev dktX5_across_0 : List UInt8 := dkwX5_across_0 ++ dktX5_across_1
theorem dksX5_across_0 : cX5_across.data.toList.drop 0 = dktX5_across_0 := by decide +kernel
theorem dksX5_across_1 : cX5_across.data.toList.drop 22 = dktX5_across_1 := dk_seg dksX5_across_0 22 rfl rfl
theorem dksX5_across_2 : cX5_across.data.toList.drop 44 = dktX5_across_2 := dk_seg dksX5_across_1 22 rfl rfl
theorem dX5_across_0 : decode cX5_across 0 = .ok (.aload_n 0, 1) := dk_42 (dk_at dksX5_across_0 0 rfl rfl)
theorem dX5_across_1 : decode cX5_across 1 = .ok (.iload_n 1, 1) := dk_27 (dk_at dksX5_across_0 1 rfl rfl)
theorem dX5_across_2 : decode cX5_across 2 = .ok (.iload_n 2, 1) := dk_28 (dk_at dksX5_across_0 2 rfl rfl)
theorem dX5_across_3 : decode cX5_across 3 = .ok (.invokevirtual 114, 3) := dk_182 0 114 (dk_at dksX5_across_0 3 rfl rfl)
theorem dX5_across_6 : decode cX5_across 6 = .ok (.ifCond .eq 12, 3) := dk_153 0 12 (dk_at dksX5_across_0 6 rfl rfl)
theorem dX5_across_9 : decode cX5_across 9 = .ok (.iload_n 3, 1) := dk_29 (dk_at dksX5_across_0 9 rfl rfl)
theorem dX5_across_10 : decode cX5_across 10 = .ok (.iconst 0, 1) := dk_3 (dk_at dksX5_across_0 10 rfl rfl)
theorem dX5_across_11 : decode cX5_across 11 = .ok (.iconst 1, 1) := dk_4 (dk_at dksX5_across_0 11 rfl rfl)
theorem dX5_across_12 : decode cX5_across 12 = .ok (.invokestatic 71, 3) := dk_184 0 71 (dk_at dksX5_across_0 12 rfl rfl)
theorem dX5_across_15 : decode cX5_across 15 = .ok (.ifCond .ne 6, 3) := dk_154 0 6 (dk_at dksX5_across_0 15 rfl rfl)
theorem dX5_across_18 : decode cX5_across 18 = .ok (.bipush (-2), 2) := dk_16 254 (dk_at dksX5_across_0 18 rfl rfl)
theorem dX5_across_20 : decode cX5_across 20 = .ok (.ireturn, 1) := dk_172 (dk_at dksX5_across_0 20 rfl rfl)
theorem dX5_across_21 : decode cX5_across 21 = .ok (.aload_n 0, 1) := dk_42 (dk_at dksX5_across_0 21 rfl rfl)
theorem dX5_across_22 : decode cX5_across 22 = .ok (.getfield 7, 3) := dk_180 0 7 (dk_at dksX5_across_1 0 rfl rfl)
theorem dX5_across_25 : decode cX5_across 25 = .ok (.iconst 4, 1) := dk_7 (dk_at dksX5_across_1 3 rfl rfl)
theorem dX5_across_26 : decode cX5_across 26 = .ok (.iload_n 1, 1) := dk_27 (dk_at dksX5_across_1 4 rfl rfl)
theorem dX5_across_27 : decode cX5_across 27 = .ok (.imul, 1) := dk_104 (dk_at dksX5_across_1 5 rfl rfl)
theorem dX5_across_28 : decode cX5_across 28 = .ok (.iload_n 2, 1) := dk_28 (dk_at dksX5_across_1 6 rfl rfl)
theorem dX5_across_29 : decode cX5_across 29 = .ok (.iadd, 1) := dk_96 (dk_at dksX5_across_1 7 rfl rfl)
theorem dX5_across_30 : decode cX5_across 30 = .ok (.iaload, 1) := dk_46 (dk_at dksX5_across_1 8 rfl rfl)
theorem dX5_across_31 : decode cX5_across 31 = .ok (.istore 4, 2) := dk_54 4 (dk_at dksX5_across_1 9 rfl rfl)
theorem dX5_across_33 : decode cX5_across 33 = .ok (.iload 4, 2) := dk_21 4 (dk_at dksX5_across_1 11 rfl rfl)
theorem dX5_across_35 : decode cX5_across 35 = .ok (.iconst (-1), 1) := dk_2 (dk_at dksX5_across_1 13 rfl rfl)
theorem dX5_across_36 : decode cX5_across 36 = .ok (.if_icmp .ne 7, 3) := dk_160 0 7 (dk_at dksX5_across_1 14 rfl rfl)
theorem dX5_across_39 : decode cX5_across 39 = .ok (.iconst (-1), 1) := dk_2 (dk_at dksX5_across_1 17 rfl rfl)
theorem dX5_across_40 : decode cX5_across 40 = .ok (.goto 18, 3) := dk_167 0 18 (dk_at dksX5_across_1 18 rfl rfl)
theorem dX5_across_43 : decode cX5_across 43 = .ok (.iload_n 3, 1) := dk_29 (dk_at dksX5_across_1 21 rfl rfl)
theorem dX5_across_44 : decode cX5_across 44 = .ok (.ifCond .ne 10, 3) := dk_154 0 10 (dk_at dksX5_across_2 0 rfl rfl)
theorem dX5_across_47 : decode cX5_across 47 = .ok (.iload 4, 2) := dk_21 4 (dk_at dksX5_across_2 3 rfl rfl)
theorem dX5_across_49 : decode cX5_across 49 = .ok (.iconst 4, 1) := dk_7 (dk_at dksX5_across_2 5 rfl rfl)
theorem dX5_across_50 : decode cX5_across 50 = .ok (.idiv, 1) := dk_108 (dk_at dksX5_across_2 6 rfl rfl)
theorem dX5_across_51 : decode cX5_across 51 = .ok (.goto 7, 3) := dk_167 0 7 (dk_at dksX5_across_2 7 rfl rfl)
theorem dX5_across_54 : decode cX5_across 54 = .ok (.iload 4, 2) := dk_21 4 (dk_at dksX5_across_2 10 rfl rfl)
theorem dX5_across_56 : decode cX5_across 56 = .ok (.iconst 4, 1) := dk_7 (dk_at dksX5_across_2 12 rfl rfl)
theorem dX5_across_57 : decode cX5_across 57 = .ok (.irem, 1) := dk_112 (dk_at dksX5_across_2 13 rfl rfl)
theorem dX5_across_58 : decode cX5_across 58 = .ok (.ireturn, 1) := dk_172 (dk_at dksX5_across_2 14 rfl rfl)
abbrev cX5_classOf : ByteArray := prog_8_method_25_code
def yX5_classOf : MethodName := ⟨RX5, "classOf", "(III)I"⟩
def dkwX5_classOf_5 : List UInt8 := [153, 0, 7, 4, 167, 0, 4, 3, 96, 54, 4, 132, 5, 1, 167, 255, 223, 21, 4, 172]
abbrev dktX5_classOf_5 : List UInt8 := dkwX5_classOf_5 ++ []
def dkwX5_classOf_4 : List UInt8 := [172, 3, 54, 5, 21, 5, 42, 28, 29, 182, 0, 102, 162, 0, 28, 21, 4, 42, 21, 5, 182, 0, 105]
abbrev dktX5_classOf_4 : List UInt8 := dkwX5_classOf_4 ++ dktX5_classOf_5
def dkwX5_classOf_3 : List UInt8 := [21, 5, 46, 21, 5, 160, 0, 7, 4, 167, 0, 4, 3, 96, 54, 4, 132, 5, 1, 167, 255, 216, 21, 4]
abbrev dktX5_classOf_3 : List UInt8 := dkwX5_classOf_3 ++ dktX5_classOf_4
def dkwX5_classOf_2 : List UInt8 := [3, 54, 5, 21, 5, 42, 180, 0, 28, 7, 28, 104, 29, 96, 46, 162, 0, 31, 21, 4, 42, 180, 0, 28]
abbrev dktX5_classOf_2 : List UInt8 := dkwX5_classOf_2 ++ dktX5_classOf_3
def dkwX5_classOf_1 : List UInt8 := [167, 0, 4, 8, 184, 0, 71, 154, 0, 6, 16, 254, 172, 42, 182, 0, 118, 3, 54, 4, 27, 154, 0, 52]
abbrev dktX5_classOf_1 : List UInt8 := dkwX5_classOf_1 ++ dktX5_classOf_2
def dkwX5_classOf_0 : List UInt8 := [27, 3, 4, 184, 0, 71, 153, 0, 28, 42, 28, 182, 0, 75, 153, 0, 20, 29, 3, 27, 154, 0, 7, 6]
abbrev dktX5_classOf_0 : List UInt8 := dkwX5_classOf_0 ++ dktX5_classOf_1
theorem dksX5_classOf_0 : cX5_classOf.data.toList.drop 0 = dktX5_classOf_0 := by decide +kernel
theorem dksX5_classOf_1 : cX5_classOf.data.toList.drop 24 = dktX5_classOf_1 := dk_seg dksX5_classOf_0 24 rfl rfl
theorem dksX5_classOf_2 : cX5_classOf.data.toList.drop 48 = dktX5_classOf_2 := dk_seg dksX5_classOf_1 24 rfl rfl
theorem dksX5_classOf_3 : cX5_classOf.data.toList.drop 72 = dktX5_classOf_3 := dk_seg dksX5_classOf_2 24 rfl rfl
theorem dksX5_classOf_4 : cX5_classOf.data.toList.drop 96 = dktX5_classOf_4 := dk_seg dksX5_classOf_3 24 rfl rfl
theorem dksX5_classOf_5 : cX5_classOf.data.toList.drop 119 = dktX5_classOf_5 := dk_seg dksX5_classOf_4 23 rfl rfl
theorem dX5_classOf_0 : decode cX5_classOf 0 = .ok (.iload_n 1, 1) := dk_27 (dk_at dksX5_classOf_0 0 rfl rfl)
theorem dX5_classOf_1 : decode cX5_classOf 1 = .ok (.iconst 0, 1) := dk_3 (dk_at dksX5_classOf_0 1 rfl rfl)
theorem dX5_classOf_2 : decode cX5_classOf 2 = .ok (.iconst 1, 1) := dk_4 (dk_at dksX5_classOf_0 2 rfl rfl)
theorem dX5_classOf_3 : decode cX5_classOf 3 = .ok (.invokestatic 71, 3) := dk_184 0 71 (dk_at dksX5_classOf_0 3 rfl rfl)
theorem dX5_classOf_6 : decode cX5_classOf 6 = .ok (.ifCond .eq 28, 3) := dk_153 0 28 (dk_at dksX5_classOf_0 6 rfl rfl)
theorem dX5_classOf_9 : decode cX5_classOf 9 = .ok (.aload_n 0, 1) := dk_42 (dk_at dksX5_classOf_0 9 rfl rfl)
theorem dX5_classOf_10 : decode cX5_classOf 10 = .ok (.iload_n 2, 1) := dk_28 (dk_at dksX5_classOf_0 10 rfl rfl)
theorem dX5_classOf_11 : decode cX5_classOf 11 = .ok (.invokevirtual 75, 3) := dk_182 0 75 (dk_at dksX5_classOf_0 11 rfl rfl)
theorem dX5_classOf_14 : decode cX5_classOf 14 = .ok (.ifCond .eq 20, 3) := dk_153 0 20 (dk_at dksX5_classOf_0 14 rfl rfl)
theorem dX5_classOf_17 : decode cX5_classOf 17 = .ok (.iload_n 3, 1) := dk_29 (dk_at dksX5_classOf_0 17 rfl rfl)
theorem dX5_classOf_18 : decode cX5_classOf 18 = .ok (.iconst 0, 1) := dk_3 (dk_at dksX5_classOf_0 18 rfl rfl)
theorem dX5_classOf_19 : decode cX5_classOf 19 = .ok (.iload_n 1, 1) := dk_27 (dk_at dksX5_classOf_0 19 rfl rfl)
theorem dX5_classOf_20 : decode cX5_classOf 20 = .ok (.ifCond .ne 7, 3) := dk_154 0 7 (dk_at dksX5_classOf_0 20 rfl rfl)
theorem dX5_classOf_23 : decode cX5_classOf 23 = .ok (.iconst 3, 1) := dk_6 (dk_at dksX5_classOf_0 23 rfl rfl)
theorem dX5_classOf_24 : decode cX5_classOf 24 = .ok (.goto 4, 3) := dk_167 0 4 (dk_at dksX5_classOf_1 0 rfl rfl)
theorem dX5_classOf_27 : decode cX5_classOf 27 = .ok (.iconst 5, 1) := dk_8 (dk_at dksX5_classOf_1 3 rfl rfl)
theorem dX5_classOf_28 : decode cX5_classOf 28 = .ok (.invokestatic 71, 3) := dk_184 0 71 (dk_at dksX5_classOf_1 4 rfl rfl)
theorem dX5_classOf_31 : decode cX5_classOf 31 = .ok (.ifCond .ne 6, 3) := dk_154 0 6 (dk_at dksX5_classOf_1 7 rfl rfl)
theorem dX5_classOf_34 : decode cX5_classOf 34 = .ok (.bipush (-2), 2) := dk_16 254 (dk_at dksX5_classOf_1 10 rfl rfl)
theorem dX5_classOf_36 : decode cX5_classOf 36 = .ok (.ireturn, 1) := dk_172 (dk_at dksX5_classOf_1 12 rfl rfl)
theorem dX5_classOf_37 : decode cX5_classOf 37 = .ok (.aload_n 0, 1) := dk_42 (dk_at dksX5_classOf_1 13 rfl rfl)
theorem dX5_classOf_38 : decode cX5_classOf 38 = .ok (.invokevirtual 118, 3) := dk_182 0 118 (dk_at dksX5_classOf_1 14 rfl rfl)
theorem dX5_classOf_41 : decode cX5_classOf 41 = .ok (.iconst 0, 1) := dk_3 (dk_at dksX5_classOf_1 17 rfl rfl)
theorem dX5_classOf_42 : decode cX5_classOf 42 = .ok (.istore 4, 2) := dk_54 4 (dk_at dksX5_classOf_1 18 rfl rfl)
theorem dX5_classOf_44 : decode cX5_classOf 44 = .ok (.iload_n 1, 1) := dk_27 (dk_at dksX5_classOf_1 20 rfl rfl)
theorem dX5_classOf_45 : decode cX5_classOf 45 = .ok (.ifCond .ne 52, 3) := dk_154 0 52 (dk_at dksX5_classOf_1 21 rfl rfl)
theorem dX5_classOf_48 : decode cX5_classOf 48 = .ok (.iconst 0, 1) := dk_3 (dk_at dksX5_classOf_2 0 rfl rfl)
theorem dX5_classOf_49 : decode cX5_classOf 49 = .ok (.istore 5, 2) := dk_54 5 (dk_at dksX5_classOf_2 1 rfl rfl)
theorem dX5_classOf_51 : decode cX5_classOf 51 = .ok (.iload 5, 2) := dk_21 5 (dk_at dksX5_classOf_2 3 rfl rfl)
theorem dX5_classOf_53 : decode cX5_classOf 53 = .ok (.aload_n 0, 1) := dk_42 (dk_at dksX5_classOf_2 5 rfl rfl)
theorem dX5_classOf_54 : decode cX5_classOf 54 = .ok (.getfield 28, 3) := dk_180 0 28 (dk_at dksX5_classOf_2 6 rfl rfl)
theorem dX5_classOf_57 : decode cX5_classOf 57 = .ok (.iconst 4, 1) := dk_7 (dk_at dksX5_classOf_2 9 rfl rfl)
theorem dX5_classOf_58 : decode cX5_classOf 58 = .ok (.iload_n 2, 1) := dk_28 (dk_at dksX5_classOf_2 10 rfl rfl)
theorem dX5_classOf_59 : decode cX5_classOf 59 = .ok (.imul, 1) := dk_104 (dk_at dksX5_classOf_2 11 rfl rfl)
theorem dX5_classOf_60 : decode cX5_classOf 60 = .ok (.iload_n 3, 1) := dk_29 (dk_at dksX5_classOf_2 12 rfl rfl)
theorem dX5_classOf_61 : decode cX5_classOf 61 = .ok (.iadd, 1) := dk_96 (dk_at dksX5_classOf_2 13 rfl rfl)
theorem dX5_classOf_62 : decode cX5_classOf 62 = .ok (.iaload, 1) := dk_46 (dk_at dksX5_classOf_2 14 rfl rfl)
theorem dX5_classOf_63 : decode cX5_classOf 63 = .ok (.if_icmp .ge 31, 3) := dk_162 0 31 (dk_at dksX5_classOf_2 15 rfl rfl)
theorem dX5_classOf_66 : decode cX5_classOf 66 = .ok (.iload 4, 2) := dk_21 4 (dk_at dksX5_classOf_2 18 rfl rfl)
theorem dX5_classOf_68 : decode cX5_classOf 68 = .ok (.aload_n 0, 1) := dk_42 (dk_at dksX5_classOf_2 20 rfl rfl)
theorem dX5_classOf_69 : decode cX5_classOf 69 = .ok (.getfield 28, 3) := dk_180 0 28 (dk_at dksX5_classOf_2 21 rfl rfl)
theorem dX5_classOf_72 : decode cX5_classOf 72 = .ok (.iload 5, 2) := dk_21 5 (dk_at dksX5_classOf_3 0 rfl rfl)
theorem dX5_classOf_74 : decode cX5_classOf 74 = .ok (.iaload, 1) := dk_46 (dk_at dksX5_classOf_3 2 rfl rfl)
theorem dX5_classOf_75 : decode cX5_classOf 75 = .ok (.iload 5, 2) := dk_21 5 (dk_at dksX5_classOf_3 3 rfl rfl)
theorem dX5_classOf_77 : decode cX5_classOf 77 = .ok (.if_icmp .ne 7, 3) := dk_160 0 7 (dk_at dksX5_classOf_3 5 rfl rfl)
theorem dX5_classOf_80 : decode cX5_classOf 80 = .ok (.iconst 1, 1) := dk_4 (dk_at dksX5_classOf_3 8 rfl rfl)
theorem dX5_classOf_81 : decode cX5_classOf 81 = .ok (.goto 4, 3) := dk_167 0 4 (dk_at dksX5_classOf_3 9 rfl rfl)
theorem dX5_classOf_84 : decode cX5_classOf 84 = .ok (.iconst 0, 1) := dk_3 (dk_at dksX5_classOf_3 12 rfl rfl)
theorem dX5_classOf_85 : decode cX5_classOf 85 = .ok (.iadd, 1) := dk_96 (dk_at dksX5_classOf_3 13 rfl rfl)
theorem dX5_classOf_86 : decode cX5_classOf 86 = .ok (.istore 4, 2) := dk_54 4 (dk_at dksX5_classOf_3 14 rfl rfl)
theorem dX5_classOf_88 : decode cX5_classOf 88 = .ok (.iinc 5 1, 3) := dk_132 5 1 (dk_at dksX5_classOf_3 16 rfl rfl)
theorem dX5_classOf_91 : decode cX5_classOf 91 = .ok (.goto (-40), 3) := dk_167 255 216 (dk_at dksX5_classOf_3 19 rfl rfl)
theorem dX5_classOf_94 : decode cX5_classOf 94 = .ok (.iload 4, 2) := dk_21 4 (dk_at dksX5_classOf_3 22 rfl rfl)
theorem dX5_classOf_96 : decode cX5_classOf 96 = .ok (.ireturn, 1) := dk_172 (dk_at dksX5_classOf_4 0 rfl rfl)
theorem dX5_classOf_97 : decode cX5_classOf 97 = .ok (.iconst 0, 1) := dk_3 (dk_at dksX5_classOf_4 1 rfl rfl)
theorem dX5_classOf_98 : decode cX5_classOf 98 = .ok (.istore 5, 2) := dk_54 5 (dk_at dksX5_classOf_4 2 rfl rfl)
theorem dX5_classOf_100 : decode cX5_classOf 100 = .ok (.iload 5, 2) := dk_21 5 (dk_at dksX5_classOf_4 4 rfl rfl)
theorem dX5_classOf_102 : decode cX5_classOf 102 = .ok (.aload_n 0, 1) := dk_42 (dk_at dksX5_classOf_4 6 rfl rfl)
theorem dX5_classOf_103 : decode cX5_classOf 103 = .ok (.iload_n 2, 1) := dk_28 (dk_at dksX5_classOf_4 7 rfl rfl)
theorem dX5_classOf_104 : decode cX5_classOf 104 = .ok (.iload_n 3, 1) := dk_29 (dk_at dksX5_classOf_4 8 rfl rfl)
theorem dX5_classOf_105 : decode cX5_classOf 105 = .ok (.invokevirtual 102, 3) := dk_182 0 102 (dk_at dksX5_classOf_4 9 rfl rfl)
theorem dX5_classOf_108 : decode cX5_classOf 108 = .ok (.if_icmp .ge 28, 3) := dk_162 0 28 (dk_at dksX5_classOf_4 12 rfl rfl)
theorem dX5_classOf_111 : decode cX5_classOf 111 = .ok (.iload 4, 2) := dk_21 4 (dk_at dksX5_classOf_4 15 rfl rfl)
theorem dX5_classOf_113 : decode cX5_classOf 113 = .ok (.aload_n 0, 1) := dk_42 (dk_at dksX5_classOf_4 17 rfl rfl)
theorem dX5_classOf_114 : decode cX5_classOf 114 = .ok (.iload 5, 2) := dk_21 5 (dk_at dksX5_classOf_4 18 rfl rfl)
theorem dX5_classOf_116 : decode cX5_classOf 116 = .ok (.invokevirtual 105, 3) := dk_182 0 105 (dk_at dksX5_classOf_4 20 rfl rfl)
theorem dX5_classOf_119 : decode cX5_classOf 119 = .ok (.ifCond .eq 7, 3) := dk_153 0 7 (dk_at dksX5_classOf_5 0 rfl rfl)
theorem dX5_classOf_122 : decode cX5_classOf 122 = .ok (.iconst 1, 1) := dk_4 (dk_at dksX5_classOf_5 3 rfl rfl)
theorem dX5_classOf_123 : decode cX5_classOf 123 = .ok (.goto 4, 3) := dk_167 0 4 (dk_at dksX5_classOf_5 4 rfl rfl)
theorem dX5_classOf_126 : decode cX5_classOf 126 = .ok (.iconst 0, 1) := dk_3 (dk_at dksX5_classOf_5 7 rfl rfl)
theorem dX5_classOf_127 : decode cX5_classOf 127 = .ok (.iadd, 1) := dk_96 (dk_at dksX5_classOf_5 8 rfl rfl)
theorem dX5_classOf_128 : decode cX5_classOf 128 = .ok (.istore 4, 2) := dk_54 4 (dk_at dksX5_classOf_5 9 rfl rfl)
theorem dX5_classOf_130 : decode cX5_classOf 130 = .ok (.iinc 5 1, 3) := dk_132 5 1 (dk_at dksX5_classOf_5 11 rfl rfl)
theorem dX5_classOf_133 : decode cX5_classOf 133 = .ok (.goto (-33), 3) := dk_167 255 223 (dk_at dksX5_classOf_5 14 rfl rfl)
theorem dX5_classOf_136 : decode cX5_classOf 136 = .ok (.iload 4, 2) := dk_21 4 (dk_at dksX5_classOf_5 17 rfl rfl)
theorem dX5_classOf_138 : decode cX5_classOf 138 = .ok (.ireturn, 1) := dk_172 (dk_at dksX5_classOf_5 19 rfl rfl)
abbrev cX5_label : ByteArray := prog_8_method_9_code
def yX5_label : MethodName := ⟨RX5, "label", "()V"⟩
def dkwX5_label_4 : List UInt8 := [180, 0, 7, 27, 46, 2, 159, 0, 8, 42, 27, 182, 0, 90, 132, 1, 1, 167, 255, 228, 167, 255, 211, 177]
abbrev dktX5_label_4 : List UInt8 := dkwX5_label_4 ++ []
def dkwX5_label_3 : List UInt8 := [180, 0, 86, 153, 0, 44, 42, 3, 181, 0, 86, 3, 60, 27, 7, 42, 180, 0, 67, 104, 162, 0, 24, 42]
abbrev dktX5_label_3 : List UInt8 := dkwX5_label_3 ++ dktX5_label_4
def dkwX5_label_2 : List UInt8 := [162, 0, 16, 42, 180, 0, 31, 27, 27, 79, 132, 1, 1, 167, 255, 241, 42, 4, 181, 0, 86, 42]
abbrev dktX5_label_2 : List UInt8 := dkwX5_label_2 ++ dktX5_label_3
def dkwX5_label_1 : List UInt8 := [16, 12, 162, 0, 16, 42, 180, 0, 28, 27, 27, 79, 132, 1, 1, 167, 255, 240, 3, 60, 27, 6]
abbrev dktX5_label_1 : List UInt8 := dkwX5_label_1 ++ dktX5_label_2
def dkwX5_label_0 : List UInt8 := [3, 60, 27, 16, 36, 162, 0, 16, 42, 180, 0, 25, 27, 27, 79, 132, 1, 1, 167, 255, 240, 3, 60, 27]
abbrev dktX5_label_0 : List UInt8 := dkwX5_label_0 ++ dktX5_label_1
theorem dksX5_label_0 : cX5_label.data.toList.drop 0 = dktX5_label_0 := by decide +kernel
theorem dksX5_label_1 : cX5_label.data.toList.drop 24 = dktX5_label_1 := dk_seg dksX5_label_0 24 rfl rfl
theorem dksX5_label_2 : cX5_label.data.toList.drop 46 = dktX5_label_2 := dk_seg dksX5_label_1 22 rfl rfl
theorem dksX5_label_3 : cX5_label.data.toList.drop 68 = dktX5_label_3 := dk_seg dksX5_label_2 22 rfl rfl
theorem dksX5_label_4 : cX5_label.data.toList.drop 92 = dktX5_label_4 := dk_seg dksX5_label_3 24 rfl rfl
theorem dX5_label_0 : decode cX5_label 0 = .ok (.iconst 0, 1) := dk_3 (dk_at dksX5_label_0 0 rfl rfl)
theorem dX5_label_1 : decode cX5_label 1 = .ok (.istore_n 1, 1) := dk_60 (dk_at dksX5_label_0 1 rfl rfl)
theorem dX5_label_2 : decode cX5_label 2 = .ok (.iload_n 1, 1) := dk_27 (dk_at dksX5_label_0 2 rfl rfl)
theorem dX5_label_3 : decode cX5_label 3 = .ok (.bipush 36, 2) := dk_16 36 (dk_at dksX5_label_0 3 rfl rfl)
theorem dX5_label_5 : decode cX5_label 5 = .ok (.if_icmp .ge 16, 3) := dk_162 0 16 (dk_at dksX5_label_0 5 rfl rfl)
theorem dX5_label_8 : decode cX5_label 8 = .ok (.aload_n 0, 1) := dk_42 (dk_at dksX5_label_0 8 rfl rfl)
theorem dX5_label_9 : decode cX5_label 9 = .ok (.getfield 25, 3) := dk_180 0 25 (dk_at dksX5_label_0 9 rfl rfl)
theorem dX5_label_12 : decode cX5_label 12 = .ok (.iload_n 1, 1) := dk_27 (dk_at dksX5_label_0 12 rfl rfl)
theorem dX5_label_13 : decode cX5_label 13 = .ok (.iload_n 1, 1) := dk_27 (dk_at dksX5_label_0 13 rfl rfl)
theorem dX5_label_14 : decode cX5_label 14 = .ok (.iastore, 1) := dk_79 (dk_at dksX5_label_0 14 rfl rfl)
theorem dX5_label_15 : decode cX5_label 15 = .ok (.iinc 1 1, 3) := dk_132 1 1 (dk_at dksX5_label_0 15 rfl rfl)
theorem dX5_label_18 : decode cX5_label 18 = .ok (.goto (-16), 3) := dk_167 255 240 (dk_at dksX5_label_0 18 rfl rfl)
theorem dX5_label_21 : decode cX5_label 21 = .ok (.iconst 0, 1) := dk_3 (dk_at dksX5_label_0 21 rfl rfl)
theorem dX5_label_22 : decode cX5_label 22 = .ok (.istore_n 1, 1) := dk_60 (dk_at dksX5_label_0 22 rfl rfl)
theorem dX5_label_23 : decode cX5_label 23 = .ok (.iload_n 1, 1) := dk_27 (dk_at dksX5_label_0 23 rfl rfl)
theorem dX5_label_24 : decode cX5_label 24 = .ok (.bipush 12, 2) := dk_16 12 (dk_at dksX5_label_1 0 rfl rfl)
theorem dX5_label_26 : decode cX5_label 26 = .ok (.if_icmp .ge 16, 3) := dk_162 0 16 (dk_at dksX5_label_1 2 rfl rfl)
theorem dX5_label_29 : decode cX5_label 29 = .ok (.aload_n 0, 1) := dk_42 (dk_at dksX5_label_1 5 rfl rfl)
theorem dX5_label_30 : decode cX5_label 30 = .ok (.getfield 28, 3) := dk_180 0 28 (dk_at dksX5_label_1 6 rfl rfl)
theorem dX5_label_33 : decode cX5_label 33 = .ok (.iload_n 1, 1) := dk_27 (dk_at dksX5_label_1 9 rfl rfl)
theorem dX5_label_34 : decode cX5_label 34 = .ok (.iload_n 1, 1) := dk_27 (dk_at dksX5_label_1 10 rfl rfl)
theorem dX5_label_35 : decode cX5_label 35 = .ok (.iastore, 1) := dk_79 (dk_at dksX5_label_1 11 rfl rfl)
theorem dX5_label_36 : decode cX5_label 36 = .ok (.iinc 1 1, 3) := dk_132 1 1 (dk_at dksX5_label_1 12 rfl rfl)
theorem dX5_label_39 : decode cX5_label 39 = .ok (.goto (-16), 3) := dk_167 255 240 (dk_at dksX5_label_1 15 rfl rfl)
theorem dX5_label_42 : decode cX5_label 42 = .ok (.iconst 0, 1) := dk_3 (dk_at dksX5_label_1 18 rfl rfl)
theorem dX5_label_43 : decode cX5_label 43 = .ok (.istore_n 1, 1) := dk_60 (dk_at dksX5_label_1 19 rfl rfl)
theorem dX5_label_44 : decode cX5_label 44 = .ok (.iload_n 1, 1) := dk_27 (dk_at dksX5_label_1 20 rfl rfl)
theorem dX5_label_45 : decode cX5_label 45 = .ok (.iconst 3, 1) := dk_6 (dk_at dksX5_label_1 21 rfl rfl)
theorem dX5_label_46 : decode cX5_label 46 = .ok (.if_icmp .ge 16, 3) := dk_162 0 16 (dk_at dksX5_label_2 0 rfl rfl)
theorem dX5_label_49 : decode cX5_label 49 = .ok (.aload_n 0, 1) := dk_42 (dk_at dksX5_label_2 3 rfl rfl)
theorem dX5_label_50 : decode cX5_label 50 = .ok (.getfield 31, 3) := dk_180 0 31 (dk_at dksX5_label_2 4 rfl rfl)
theorem dX5_label_53 : decode cX5_label 53 = .ok (.iload_n 1, 1) := dk_27 (dk_at dksX5_label_2 7 rfl rfl)
theorem dX5_label_54 : decode cX5_label 54 = .ok (.iload_n 1, 1) := dk_27 (dk_at dksX5_label_2 8 rfl rfl)
theorem dX5_label_55 : decode cX5_label 55 = .ok (.iastore, 1) := dk_79 (dk_at dksX5_label_2 9 rfl rfl)
theorem dX5_label_56 : decode cX5_label 56 = .ok (.iinc 1 1, 3) := dk_132 1 1 (dk_at dksX5_label_2 10 rfl rfl)
theorem dX5_label_59 : decode cX5_label 59 = .ok (.goto (-15), 3) := dk_167 255 241 (dk_at dksX5_label_2 13 rfl rfl)
theorem dX5_label_62 : decode cX5_label 62 = .ok (.aload_n 0, 1) := dk_42 (dk_at dksX5_label_2 16 rfl rfl)
theorem dX5_label_63 : decode cX5_label 63 = .ok (.iconst 1, 1) := dk_4 (dk_at dksX5_label_2 17 rfl rfl)
theorem dX5_label_64 : decode cX5_label 64 = .ok (.putfield 86, 3) := dk_181 0 86 (dk_at dksX5_label_2 18 rfl rfl)
theorem dX5_label_67 : decode cX5_label 67 = .ok (.aload_n 0, 1) := dk_42 (dk_at dksX5_label_2 21 rfl rfl)
theorem dX5_label_68 : decode cX5_label 68 = .ok (.getfield 86, 3) := dk_180 0 86 (dk_at dksX5_label_3 0 rfl rfl)
theorem dX5_label_71 : decode cX5_label 71 = .ok (.ifCond .eq 44, 3) := dk_153 0 44 (dk_at dksX5_label_3 3 rfl rfl)
theorem dX5_label_74 : decode cX5_label 74 = .ok (.aload_n 0, 1) := dk_42 (dk_at dksX5_label_3 6 rfl rfl)
theorem dX5_label_75 : decode cX5_label 75 = .ok (.iconst 0, 1) := dk_3 (dk_at dksX5_label_3 7 rfl rfl)
theorem dX5_label_76 : decode cX5_label 76 = .ok (.putfield 86, 3) := dk_181 0 86 (dk_at dksX5_label_3 8 rfl rfl)
theorem dX5_label_79 : decode cX5_label 79 = .ok (.iconst 0, 1) := dk_3 (dk_at dksX5_label_3 11 rfl rfl)
theorem dX5_label_80 : decode cX5_label 80 = .ok (.istore_n 1, 1) := dk_60 (dk_at dksX5_label_3 12 rfl rfl)
theorem dX5_label_81 : decode cX5_label 81 = .ok (.iload_n 1, 1) := dk_27 (dk_at dksX5_label_3 13 rfl rfl)
theorem dX5_label_82 : decode cX5_label 82 = .ok (.iconst 4, 1) := dk_7 (dk_at dksX5_label_3 14 rfl rfl)
theorem dX5_label_83 : decode cX5_label 83 = .ok (.aload_n 0, 1) := dk_42 (dk_at dksX5_label_3 15 rfl rfl)
theorem dX5_label_84 : decode cX5_label 84 = .ok (.getfield 67, 3) := dk_180 0 67 (dk_at dksX5_label_3 16 rfl rfl)
theorem dX5_label_87 : decode cX5_label 87 = .ok (.imul, 1) := dk_104 (dk_at dksX5_label_3 19 rfl rfl)
theorem dX5_label_88 : decode cX5_label 88 = .ok (.if_icmp .ge 24, 3) := dk_162 0 24 (dk_at dksX5_label_3 20 rfl rfl)
theorem dX5_label_91 : decode cX5_label 91 = .ok (.aload_n 0, 1) := dk_42 (dk_at dksX5_label_3 23 rfl rfl)
theorem dX5_label_92 : decode cX5_label 92 = .ok (.getfield 7, 3) := dk_180 0 7 (dk_at dksX5_label_4 0 rfl rfl)
theorem dX5_label_95 : decode cX5_label 95 = .ok (.iload_n 1, 1) := dk_27 (dk_at dksX5_label_4 3 rfl rfl)
theorem dX5_label_96 : decode cX5_label 96 = .ok (.iaload, 1) := dk_46 (dk_at dksX5_label_4 4 rfl rfl)
theorem dX5_label_97 : decode cX5_label 97 = .ok (.iconst (-1), 1) := dk_2 (dk_at dksX5_label_4 5 rfl rfl)
theorem dX5_label_98 : decode cX5_label 98 = .ok (.if_icmp .eq 8, 3) := dk_159 0 8 (dk_at dksX5_label_4 6 rfl rfl)
theorem dX5_label_101 : decode cX5_label 101 = .ok (.aload_n 0, 1) := dk_42 (dk_at dksX5_label_4 9 rfl rfl)
theorem dX5_label_102 : decode cX5_label 102 = .ok (.iload_n 1, 1) := dk_27 (dk_at dksX5_label_4 10 rfl rfl)
theorem dX5_label_103 : decode cX5_label 103 = .ok (.invokevirtual 90, 3) := dk_182 0 90 (dk_at dksX5_label_4 11 rfl rfl)
theorem dX5_label_106 : decode cX5_label 106 = .ok (.iinc 1 1, 3) := dk_132 1 1 (dk_at dksX5_label_4 14 rfl rfl)
theorem dX5_label_109 : decode cX5_label 109 = .ok (.goto (-28), 3) := dk_167 255 228 (dk_at dksX5_label_4 17 rfl rfl)
theorem dX5_label_112 : decode cX5_label 112 = .ok (.goto (-45), 3) := dk_167 255 211 (dk_at dksX5_label_4 20 rfl rfl)
theorem dX5_label_115 : decode cX5_label 115 = .ok (.return_, 1) := dk_177 (dk_at dksX5_label_4 23 rfl rfl)
abbrev cX5_joinSide : ByteArray := prog_8_method_10_code
def yX5_joinSide : MethodName := ⟨RX5, "joinSide", "(I)V"⟩
def dkwX5_joinSide_6 : List UInt8 := [167, 255, 188, 132, 4, 1, 167, 255, 133, 177]
abbrev dktX5_joinSide_6 : List UInt8 := dkwX5_joinSide_6 ++ []
def dkwX5_joinSide_5 : List UInt8 := [21, 4, 96, 46, 42, 180, 0, 13, 7, 27, 104, 21, 5, 96, 46, 182, 0, 98, 182, 0, 94, 132, 5, 1]
abbrev dktX5_joinSide_5 : List UInt8 := dkwX5_joinSide_5 ++ dktX5_joinSide_6
def dkwX5_joinSide_4 : List UInt8 := [42, 42, 180, 0, 25, 42, 28, 21, 4, 21, 5, 182, 0, 98, 42, 29, 42, 180, 0, 13, 7, 27, 104]
abbrev dktX5_joinSide_4 : List UInt8 := dkwX5_joinSide_4 ++ dktX5_joinSide_5
def dkwX5_joinSide_3 : List UInt8 := [3, 54, 5, 21, 5, 7, 162, 0, 68, 21, 5, 21, 4, 159, 0, 55, 21, 5, 27, 7, 112, 159, 0, 47]
abbrev dktX5_joinSide_3 : List UInt8 := dkwX5_joinSide_3 ++ dktX5_joinSide_4
def dkwX5_joinSide_2 : List UInt8 := [7, 28, 104, 21, 4, 96, 7, 29, 104, 42, 180, 0, 13, 7, 27, 104, 21, 4, 96, 46, 96, 182, 0, 94]
abbrev dktX5_joinSide_2 : List UInt8 := dkwX5_joinSide_2 ++ dktX5_joinSide_3
def dkwX5_joinSide_1 : List UInt8 := [54, 4, 21, 4, 7, 162, 0, 123, 21, 4, 27, 7, 112, 160, 0, 6, 167, 0, 106, 42, 42, 180, 0, 28]
abbrev dktX5_joinSide_1 : List UInt8 := dkwX5_joinSide_1 ++ dktX5_joinSide_2
def dkwX5_joinSide_0 : List UInt8 := [27, 7, 108, 61, 42, 180, 0, 7, 27, 46, 7, 108, 62, 42, 42, 180, 0, 31, 28, 29, 182, 0, 94, 3]
abbrev dktX5_joinSide_0 : List UInt8 := dkwX5_joinSide_0 ++ dktX5_joinSide_1
theorem dksX5_joinSide_0 : cX5_joinSide.data.toList.drop 0 = dktX5_joinSide_0 := by decide +kernel
theorem dksX5_joinSide_1 : cX5_joinSide.data.toList.drop 24 = dktX5_joinSide_1 := dk_seg dksX5_joinSide_0 24 rfl rfl
theorem dksX5_joinSide_2 : cX5_joinSide.data.toList.drop 48 = dktX5_joinSide_2 := dk_seg dksX5_joinSide_1 24 rfl rfl
theorem dksX5_joinSide_3 : cX5_joinSide.data.toList.drop 72 = dktX5_joinSide_3 := dk_seg dksX5_joinSide_2 24 rfl rfl
theorem dksX5_joinSide_4 : cX5_joinSide.data.toList.drop 96 = dktX5_joinSide_4 := dk_seg dksX5_joinSide_3 24 rfl rfl
theorem dksX5_joinSide_5 : cX5_joinSide.data.toList.drop 119 = dktX5_joinSide_5 := dk_seg dksX5_joinSide_4 23 rfl rfl
theorem dksX5_joinSide_6 : cX5_joinSide.data.toList.drop 143 = dktX5_joinSide_6 := dk_seg dksX5_joinSide_5 24 rfl rfl
theorem dX5_joinSide_0 : decode cX5_joinSide 0 = .ok (.iload_n 1, 1) := dk_27 (dk_at dksX5_joinSide_0 0 rfl rfl)
theorem dX5_joinSide_1 : decode cX5_joinSide 1 = .ok (.iconst 4, 1) := dk_7 (dk_at dksX5_joinSide_0 1 rfl rfl)
theorem dX5_joinSide_2 : decode cX5_joinSide 2 = .ok (.idiv, 1) := dk_108 (dk_at dksX5_joinSide_0 2 rfl rfl)
theorem dX5_joinSide_3 : decode cX5_joinSide 3 = .ok (.istore_n 2, 1) := dk_61 (dk_at dksX5_joinSide_0 3 rfl rfl)
theorem dX5_joinSide_4 : decode cX5_joinSide 4 = .ok (.aload_n 0, 1) := dk_42 (dk_at dksX5_joinSide_0 4 rfl rfl)
theorem dX5_joinSide_5 : decode cX5_joinSide 5 = .ok (.getfield 7, 3) := dk_180 0 7 (dk_at dksX5_joinSide_0 5 rfl rfl)
theorem dX5_joinSide_8 : decode cX5_joinSide 8 = .ok (.iload_n 1, 1) := dk_27 (dk_at dksX5_joinSide_0 8 rfl rfl)
theorem dX5_joinSide_9 : decode cX5_joinSide 9 = .ok (.iaload, 1) := dk_46 (dk_at dksX5_joinSide_0 9 rfl rfl)
theorem dX5_joinSide_10 : decode cX5_joinSide 10 = .ok (.iconst 4, 1) := dk_7 (dk_at dksX5_joinSide_0 10 rfl rfl)
theorem dX5_joinSide_11 : decode cX5_joinSide 11 = .ok (.idiv, 1) := dk_108 (dk_at dksX5_joinSide_0 11 rfl rfl)
theorem dX5_joinSide_12 : decode cX5_joinSide 12 = .ok (.istore_n 3, 1) := dk_62 (dk_at dksX5_joinSide_0 12 rfl rfl)
theorem dX5_joinSide_13 : decode cX5_joinSide 13 = .ok (.aload_n 0, 1) := dk_42 (dk_at dksX5_joinSide_0 13 rfl rfl)
theorem dX5_joinSide_14 : decode cX5_joinSide 14 = .ok (.aload_n 0, 1) := dk_42 (dk_at dksX5_joinSide_0 14 rfl rfl)
theorem dX5_joinSide_15 : decode cX5_joinSide 15 = .ok (.getfield 31, 3) := dk_180 0 31 (dk_at dksX5_joinSide_0 15 rfl rfl)
theorem dX5_joinSide_18 : decode cX5_joinSide 18 = .ok (.iload_n 2, 1) := dk_28 (dk_at dksX5_joinSide_0 18 rfl rfl)
theorem dX5_joinSide_19 : decode cX5_joinSide 19 = .ok (.iload_n 3, 1) := dk_29 (dk_at dksX5_joinSide_0 19 rfl rfl)
theorem dX5_joinSide_20 : decode cX5_joinSide 20 = .ok (.invokevirtual 94, 3) := dk_182 0 94 (dk_at dksX5_joinSide_0 20 rfl rfl)
theorem dX5_joinSide_23 : decode cX5_joinSide 23 = .ok (.iconst 0, 1) := dk_3 (dk_at dksX5_joinSide_0 23 rfl rfl)
theorem dX5_joinSide_24 : decode cX5_joinSide 24 = .ok (.istore 4, 2) := dk_54 4 (dk_at dksX5_joinSide_1 0 rfl rfl)
theorem dX5_joinSide_26 : decode cX5_joinSide 26 = .ok (.iload 4, 2) := dk_21 4 (dk_at dksX5_joinSide_1 2 rfl rfl)
theorem dX5_joinSide_28 : decode cX5_joinSide 28 = .ok (.iconst 4, 1) := dk_7 (dk_at dksX5_joinSide_1 4 rfl rfl)
theorem dX5_joinSide_29 : decode cX5_joinSide 29 = .ok (.if_icmp .ge 123, 3) := dk_162 0 123 (dk_at dksX5_joinSide_1 5 rfl rfl)
theorem dX5_joinSide_32 : decode cX5_joinSide 32 = .ok (.iload 4, 2) := dk_21 4 (dk_at dksX5_joinSide_1 8 rfl rfl)
theorem dX5_joinSide_34 : decode cX5_joinSide 34 = .ok (.iload_n 1, 1) := dk_27 (dk_at dksX5_joinSide_1 10 rfl rfl)
theorem dX5_joinSide_35 : decode cX5_joinSide 35 = .ok (.iconst 4, 1) := dk_7 (dk_at dksX5_joinSide_1 11 rfl rfl)
theorem dX5_joinSide_36 : decode cX5_joinSide 36 = .ok (.irem, 1) := dk_112 (dk_at dksX5_joinSide_1 12 rfl rfl)
theorem dX5_joinSide_37 : decode cX5_joinSide 37 = .ok (.if_icmp .ne 6, 3) := dk_160 0 6 (dk_at dksX5_joinSide_1 13 rfl rfl)
theorem dX5_joinSide_40 : decode cX5_joinSide 40 = .ok (.goto 106, 3) := dk_167 0 106 (dk_at dksX5_joinSide_1 16 rfl rfl)
theorem dX5_joinSide_43 : decode cX5_joinSide 43 = .ok (.aload_n 0, 1) := dk_42 (dk_at dksX5_joinSide_1 19 rfl rfl)
theorem dX5_joinSide_44 : decode cX5_joinSide 44 = .ok (.aload_n 0, 1) := dk_42 (dk_at dksX5_joinSide_1 20 rfl rfl)
theorem dX5_joinSide_45 : decode cX5_joinSide 45 = .ok (.getfield 28, 3) := dk_180 0 28 (dk_at dksX5_joinSide_1 21 rfl rfl)
theorem dX5_joinSide_48 : decode cX5_joinSide 48 = .ok (.iconst 4, 1) := dk_7 (dk_at dksX5_joinSide_2 0 rfl rfl)
theorem dX5_joinSide_49 : decode cX5_joinSide 49 = .ok (.iload_n 2, 1) := dk_28 (dk_at dksX5_joinSide_2 1 rfl rfl)
theorem dX5_joinSide_50 : decode cX5_joinSide 50 = .ok (.imul, 1) := dk_104 (dk_at dksX5_joinSide_2 2 rfl rfl)
theorem dX5_joinSide_51 : decode cX5_joinSide 51 = .ok (.iload 4, 2) := dk_21 4 (dk_at dksX5_joinSide_2 3 rfl rfl)
theorem dX5_joinSide_53 : decode cX5_joinSide 53 = .ok (.iadd, 1) := dk_96 (dk_at dksX5_joinSide_2 5 rfl rfl)
theorem dX5_joinSide_54 : decode cX5_joinSide 54 = .ok (.iconst 4, 1) := dk_7 (dk_at dksX5_joinSide_2 6 rfl rfl)
theorem dX5_joinSide_55 : decode cX5_joinSide 55 = .ok (.iload_n 3, 1) := dk_29 (dk_at dksX5_joinSide_2 7 rfl rfl)
theorem dX5_joinSide_56 : decode cX5_joinSide 56 = .ok (.imul, 1) := dk_104 (dk_at dksX5_joinSide_2 8 rfl rfl)
theorem dX5_joinSide_57 : decode cX5_joinSide 57 = .ok (.aload_n 0, 1) := dk_42 (dk_at dksX5_joinSide_2 9 rfl rfl)
theorem dX5_joinSide_58 : decode cX5_joinSide 58 = .ok (.getfield 13, 3) := dk_180 0 13 (dk_at dksX5_joinSide_2 10 rfl rfl)
theorem dX5_joinSide_61 : decode cX5_joinSide 61 = .ok (.iconst 4, 1) := dk_7 (dk_at dksX5_joinSide_2 13 rfl rfl)
theorem dX5_joinSide_62 : decode cX5_joinSide 62 = .ok (.iload_n 1, 1) := dk_27 (dk_at dksX5_joinSide_2 14 rfl rfl)
theorem dX5_joinSide_63 : decode cX5_joinSide 63 = .ok (.imul, 1) := dk_104 (dk_at dksX5_joinSide_2 15 rfl rfl)
theorem dX5_joinSide_64 : decode cX5_joinSide 64 = .ok (.iload 4, 2) := dk_21 4 (dk_at dksX5_joinSide_2 16 rfl rfl)
theorem dX5_joinSide_66 : decode cX5_joinSide 66 = .ok (.iadd, 1) := dk_96 (dk_at dksX5_joinSide_2 18 rfl rfl)
theorem dX5_joinSide_67 : decode cX5_joinSide 67 = .ok (.iaload, 1) := dk_46 (dk_at dksX5_joinSide_2 19 rfl rfl)
theorem dX5_joinSide_68 : decode cX5_joinSide 68 = .ok (.iadd, 1) := dk_96 (dk_at dksX5_joinSide_2 20 rfl rfl)
theorem dX5_joinSide_69 : decode cX5_joinSide 69 = .ok (.invokevirtual 94, 3) := dk_182 0 94 (dk_at dksX5_joinSide_2 21 rfl rfl)
theorem dX5_joinSide_72 : decode cX5_joinSide 72 = .ok (.iconst 0, 1) := dk_3 (dk_at dksX5_joinSide_3 0 rfl rfl)
theorem dX5_joinSide_73 : decode cX5_joinSide 73 = .ok (.istore 5, 2) := dk_54 5 (dk_at dksX5_joinSide_3 1 rfl rfl)
theorem dX5_joinSide_75 : decode cX5_joinSide 75 = .ok (.iload 5, 2) := dk_21 5 (dk_at dksX5_joinSide_3 3 rfl rfl)
theorem dX5_joinSide_77 : decode cX5_joinSide 77 = .ok (.iconst 4, 1) := dk_7 (dk_at dksX5_joinSide_3 5 rfl rfl)
theorem dX5_joinSide_78 : decode cX5_joinSide 78 = .ok (.if_icmp .ge 68, 3) := dk_162 0 68 (dk_at dksX5_joinSide_3 6 rfl rfl)
theorem dX5_joinSide_81 : decode cX5_joinSide 81 = .ok (.iload 5, 2) := dk_21 5 (dk_at dksX5_joinSide_3 9 rfl rfl)
theorem dX5_joinSide_83 : decode cX5_joinSide 83 = .ok (.iload 4, 2) := dk_21 4 (dk_at dksX5_joinSide_3 11 rfl rfl)
theorem dX5_joinSide_85 : decode cX5_joinSide 85 = .ok (.if_icmp .eq 55, 3) := dk_159 0 55 (dk_at dksX5_joinSide_3 13 rfl rfl)
theorem dX5_joinSide_88 : decode cX5_joinSide 88 = .ok (.iload 5, 2) := dk_21 5 (dk_at dksX5_joinSide_3 16 rfl rfl)
theorem dX5_joinSide_90 : decode cX5_joinSide 90 = .ok (.iload_n 1, 1) := dk_27 (dk_at dksX5_joinSide_3 18 rfl rfl)
theorem dX5_joinSide_91 : decode cX5_joinSide 91 = .ok (.iconst 4, 1) := dk_7 (dk_at dksX5_joinSide_3 19 rfl rfl)
theorem dX5_joinSide_92 : decode cX5_joinSide 92 = .ok (.irem, 1) := dk_112 (dk_at dksX5_joinSide_3 20 rfl rfl)
theorem dX5_joinSide_93 : decode cX5_joinSide 93 = .ok (.if_icmp .eq 47, 3) := dk_159 0 47 (dk_at dksX5_joinSide_3 21 rfl rfl)
theorem dX5_joinSide_96 : decode cX5_joinSide 96 = .ok (.aload_n 0, 1) := dk_42 (dk_at dksX5_joinSide_4 0 rfl rfl)
theorem dX5_joinSide_97 : decode cX5_joinSide 97 = .ok (.aload_n 0, 1) := dk_42 (dk_at dksX5_joinSide_4 1 rfl rfl)
theorem dX5_joinSide_98 : decode cX5_joinSide 98 = .ok (.getfield 25, 3) := dk_180 0 25 (dk_at dksX5_joinSide_4 2 rfl rfl)
theorem dX5_joinSide_101 : decode cX5_joinSide 101 = .ok (.aload_n 0, 1) := dk_42 (dk_at dksX5_joinSide_4 5 rfl rfl)
theorem dX5_joinSide_102 : decode cX5_joinSide 102 = .ok (.iload_n 2, 1) := dk_28 (dk_at dksX5_joinSide_4 6 rfl rfl)
theorem dX5_joinSide_103 : decode cX5_joinSide 103 = .ok (.iload 4, 2) := dk_21 4 (dk_at dksX5_joinSide_4 7 rfl rfl)
theorem dX5_joinSide_105 : decode cX5_joinSide 105 = .ok (.iload 5, 2) := dk_21 5 (dk_at dksX5_joinSide_4 9 rfl rfl)
theorem dX5_joinSide_107 : decode cX5_joinSide 107 = .ok (.invokevirtual 98, 3) := dk_182 0 98 (dk_at dksX5_joinSide_4 11 rfl rfl)
theorem dX5_joinSide_110 : decode cX5_joinSide 110 = .ok (.aload_n 0, 1) := dk_42 (dk_at dksX5_joinSide_4 14 rfl rfl)
theorem dX5_joinSide_111 : decode cX5_joinSide 111 = .ok (.iload_n 3, 1) := dk_29 (dk_at dksX5_joinSide_4 15 rfl rfl)
theorem dX5_joinSide_112 : decode cX5_joinSide 112 = .ok (.aload_n 0, 1) := dk_42 (dk_at dksX5_joinSide_4 16 rfl rfl)
theorem dX5_joinSide_113 : decode cX5_joinSide 113 = .ok (.getfield 13, 3) := dk_180 0 13 (dk_at dksX5_joinSide_4 17 rfl rfl)
theorem dX5_joinSide_116 : decode cX5_joinSide 116 = .ok (.iconst 4, 1) := dk_7 (dk_at dksX5_joinSide_4 20 rfl rfl)
theorem dX5_joinSide_117 : decode cX5_joinSide 117 = .ok (.iload_n 1, 1) := dk_27 (dk_at dksX5_joinSide_4 21 rfl rfl)
theorem dX5_joinSide_118 : decode cX5_joinSide 118 = .ok (.imul, 1) := dk_104 (dk_at dksX5_joinSide_4 22 rfl rfl)
theorem dX5_joinSide_119 : decode cX5_joinSide 119 = .ok (.iload 4, 2) := dk_21 4 (dk_at dksX5_joinSide_5 0 rfl rfl)
theorem dX5_joinSide_121 : decode cX5_joinSide 121 = .ok (.iadd, 1) := dk_96 (dk_at dksX5_joinSide_5 2 rfl rfl)
theorem dX5_joinSide_122 : decode cX5_joinSide 122 = .ok (.iaload, 1) := dk_46 (dk_at dksX5_joinSide_5 3 rfl rfl)
theorem dX5_joinSide_123 : decode cX5_joinSide 123 = .ok (.aload_n 0, 1) := dk_42 (dk_at dksX5_joinSide_5 4 rfl rfl)
theorem dX5_joinSide_124 : decode cX5_joinSide 124 = .ok (.getfield 13, 3) := dk_180 0 13 (dk_at dksX5_joinSide_5 5 rfl rfl)
theorem dX5_joinSide_127 : decode cX5_joinSide 127 = .ok (.iconst 4, 1) := dk_7 (dk_at dksX5_joinSide_5 8 rfl rfl)
theorem dX5_joinSide_128 : decode cX5_joinSide 128 = .ok (.iload_n 1, 1) := dk_27 (dk_at dksX5_joinSide_5 9 rfl rfl)
theorem dX5_joinSide_129 : decode cX5_joinSide 129 = .ok (.imul, 1) := dk_104 (dk_at dksX5_joinSide_5 10 rfl rfl)
theorem dX5_joinSide_130 : decode cX5_joinSide 130 = .ok (.iload 5, 2) := dk_21 5 (dk_at dksX5_joinSide_5 11 rfl rfl)
theorem dX5_joinSide_132 : decode cX5_joinSide 132 = .ok (.iadd, 1) := dk_96 (dk_at dksX5_joinSide_5 13 rfl rfl)
theorem dX5_joinSide_133 : decode cX5_joinSide 133 = .ok (.iaload, 1) := dk_46 (dk_at dksX5_joinSide_5 14 rfl rfl)
theorem dX5_joinSide_134 : decode cX5_joinSide 134 = .ok (.invokevirtual 98, 3) := dk_182 0 98 (dk_at dksX5_joinSide_5 15 rfl rfl)
theorem dX5_joinSide_137 : decode cX5_joinSide 137 = .ok (.invokevirtual 94, 3) := dk_182 0 94 (dk_at dksX5_joinSide_5 18 rfl rfl)
theorem dX5_joinSide_140 : decode cX5_joinSide 140 = .ok (.iinc 5 1, 3) := dk_132 5 1 (dk_at dksX5_joinSide_5 21 rfl rfl)
theorem dX5_joinSide_143 : decode cX5_joinSide 143 = .ok (.goto (-68), 3) := dk_167 255 188 (dk_at dksX5_joinSide_6 0 rfl rfl)
theorem dX5_joinSide_146 : decode cX5_joinSide 146 = .ok (.iinc 4 1, 3) := dk_132 4 1 (dk_at dksX5_joinSide_6 3 rfl rfl)
theorem dX5_joinSide_149 : decode cX5_joinSide 149 = .ok (.goto (-123), 3) := dk_167 255 133 (dk_at dksX5_joinSide_6 6 rfl rfl)
theorem dX5_joinSide_152 : decode cX5_joinSide 152 = .ok (.return_, 1) := dk_177 (dk_at dksX5_joinSide_6 9 rfl rfl)
abbrev cX5_join : ByteArray := prog_8_method_8_code
def yX5_join : MethodName := ⟨RX5, "join", "([III)V"⟩
def dkwX5_join_2 : List UInt8 := [43, 29, 21, 4, 79, 177]
abbrev dktX5_join_2 : List UInt8 := dkwX5_join_2 ++ []
def dkwX5_join_1 : List UInt8 := [160, 0, 11, 43, 29, 46, 21, 4, 159, 0, 7, 4, 167, 0, 4, 3, 181, 0, 86, 43, 28, 21, 4, 79]
abbrev dktX5_join_1 : List UInt8 := dkwX5_join_1 ++ dktX5_join_2
def dkwX5_join_0 : List UInt8 := [43, 28, 46, 43, 29, 46, 184, 0, 83, 54, 4, 42, 42, 180, 0, 86, 154, 0, 19, 43, 28, 46, 21, 4]
abbrev dktX5_join_0 : List UInt8 := dkwX5_join_0 ++ dktX5_join_1
theorem dksX5_join_0 : cX5_join.data.toList.drop 0 = dktX5_join_0 := by decide +kernel
theorem dksX5_join_1 : cX5_join.data.toList.drop 24 = dktX5_join_1 := dk_seg dksX5_join_0 24 rfl rfl
theorem dksX5_join_2 : cX5_join.data.toList.drop 48 = dktX5_join_2 := dk_seg dksX5_join_1 24 rfl rfl
theorem dX5_join_0 : decode cX5_join 0 = .ok (.aload_n 1, 1) := dk_43 (dk_at dksX5_join_0 0 rfl rfl)
theorem dX5_join_1 : decode cX5_join 1 = .ok (.iload_n 2, 1) := dk_28 (dk_at dksX5_join_0 1 rfl rfl)
theorem dX5_join_2 : decode cX5_join 2 = .ok (.iaload, 1) := dk_46 (dk_at dksX5_join_0 2 rfl rfl)
theorem dX5_join_3 : decode cX5_join 3 = .ok (.aload_n 1, 1) := dk_43 (dk_at dksX5_join_0 3 rfl rfl)
theorem dX5_join_4 : decode cX5_join 4 = .ok (.iload_n 3, 1) := dk_29 (dk_at dksX5_join_0 4 rfl rfl)
theorem dX5_join_5 : decode cX5_join 5 = .ok (.iaload, 1) := dk_46 (dk_at dksX5_join_0 5 rfl rfl)
theorem dX5_join_6 : decode cX5_join 6 = .ok (.invokestatic 83, 3) := dk_184 0 83 (dk_at dksX5_join_0 6 rfl rfl)
theorem dX5_join_9 : decode cX5_join 9 = .ok (.istore 4, 2) := dk_54 4 (dk_at dksX5_join_0 9 rfl rfl)
theorem dX5_join_11 : decode cX5_join 11 = .ok (.aload_n 0, 1) := dk_42 (dk_at dksX5_join_0 11 rfl rfl)
theorem dX5_join_12 : decode cX5_join 12 = .ok (.aload_n 0, 1) := dk_42 (dk_at dksX5_join_0 12 rfl rfl)
theorem dX5_join_13 : decode cX5_join 13 = .ok (.getfield 86, 3) := dk_180 0 86 (dk_at dksX5_join_0 13 rfl rfl)
theorem dX5_join_16 : decode cX5_join 16 = .ok (.ifCond .ne 19, 3) := dk_154 0 19 (dk_at dksX5_join_0 16 rfl rfl)
theorem dX5_join_19 : decode cX5_join 19 = .ok (.aload_n 1, 1) := dk_43 (dk_at dksX5_join_0 19 rfl rfl)
theorem dX5_join_20 : decode cX5_join 20 = .ok (.iload_n 2, 1) := dk_28 (dk_at dksX5_join_0 20 rfl rfl)
theorem dX5_join_21 : decode cX5_join 21 = .ok (.iaload, 1) := dk_46 (dk_at dksX5_join_0 21 rfl rfl)
theorem dX5_join_22 : decode cX5_join 22 = .ok (.iload 4, 2) := dk_21 4 (dk_at dksX5_join_0 22 rfl rfl)
theorem dX5_join_24 : decode cX5_join 24 = .ok (.if_icmp .ne 11, 3) := dk_160 0 11 (dk_at dksX5_join_1 0 rfl rfl)
theorem dX5_join_27 : decode cX5_join 27 = .ok (.aload_n 1, 1) := dk_43 (dk_at dksX5_join_1 3 rfl rfl)
theorem dX5_join_28 : decode cX5_join 28 = .ok (.iload_n 3, 1) := dk_29 (dk_at dksX5_join_1 4 rfl rfl)
theorem dX5_join_29 : decode cX5_join 29 = .ok (.iaload, 1) := dk_46 (dk_at dksX5_join_1 5 rfl rfl)
theorem dX5_join_30 : decode cX5_join 30 = .ok (.iload 4, 2) := dk_21 4 (dk_at dksX5_join_1 6 rfl rfl)
theorem dX5_join_32 : decode cX5_join 32 = .ok (.if_icmp .eq 7, 3) := dk_159 0 7 (dk_at dksX5_join_1 8 rfl rfl)
theorem dX5_join_35 : decode cX5_join 35 = .ok (.iconst 1, 1) := dk_4 (dk_at dksX5_join_1 11 rfl rfl)
theorem dX5_join_36 : decode cX5_join 36 = .ok (.goto 4, 3) := dk_167 0 4 (dk_at dksX5_join_1 12 rfl rfl)
theorem dX5_join_39 : decode cX5_join 39 = .ok (.iconst 0, 1) := dk_3 (dk_at dksX5_join_1 15 rfl rfl)
theorem dX5_join_40 : decode cX5_join 40 = .ok (.putfield 86, 3) := dk_181 0 86 (dk_at dksX5_join_1 16 rfl rfl)
theorem dX5_join_43 : decode cX5_join 43 = .ok (.aload_n 1, 1) := dk_43 (dk_at dksX5_join_1 19 rfl rfl)
theorem dX5_join_44 : decode cX5_join 44 = .ok (.iload_n 2, 1) := dk_28 (dk_at dksX5_join_1 20 rfl rfl)
theorem dX5_join_45 : decode cX5_join 45 = .ok (.iload 4, 2) := dk_21 4 (dk_at dksX5_join_1 21 rfl rfl)
theorem dX5_join_47 : decode cX5_join 47 = .ok (.iastore, 1) := dk_79 (dk_at dksX5_join_1 23 rfl rfl)
theorem dX5_join_48 : decode cX5_join 48 = .ok (.aload_n 1, 1) := dk_43 (dk_at dksX5_join_2 0 rfl rfl)
theorem dX5_join_49 : decode cX5_join 49 = .ok (.iload_n 3, 1) := dk_29 (dk_at dksX5_join_2 1 rfl rfl)
theorem dX5_join_50 : decode cX5_join 50 = .ok (.iload 4, 2) := dk_21 4 (dk_at dksX5_join_2 2 rfl rfl)
theorem dX5_join_52 : decode cX5_join 52 = .ok (.iastore, 1) := dk_79 (dk_at dksX5_join_2 4 rfl rfl)
theorem dX5_join_53 : decode cX5_join 53 = .ok (.return_, 1) := dk_177 (dk_at dksX5_join_2 5 rfl rfl)
abbrev cX5_lesser : ByteArray := prog_8_method_7_code
def yX5_lesser : MethodName := ⟨RX5, "lesser", "(II)I"⟩
def dkwX5_lesser_0 : List UInt8 := [26, 27, 162, 0, 7, 26, 167, 0, 4, 27, 172]
abbrev dktX5_lesser_0 : List UInt8 := dkwX5_lesser_0 ++ []
theorem dksX5_lesser_0 : cX5_lesser.data.toList.drop 0 = dktX5_lesser_0 := by decide +kernel
theorem dX5_lesser_0 : decode cX5_lesser 0 = .ok (.iload_n 0, 1) := dk_26 (dk_at dksX5_lesser_0 0 rfl rfl)
theorem dX5_lesser_1 : decode cX5_lesser 1 = .ok (.iload_n 1, 1) := dk_27 (dk_at dksX5_lesser_0 1 rfl rfl)
theorem dX5_lesser_2 : decode cX5_lesser 2 = .ok (.if_icmp .ge 7, 3) := dk_162 0 7 (dk_at dksX5_lesser_0 2 rfl rfl)
theorem dX5_lesser_5 : decode cX5_lesser 5 = .ok (.iload_n 0, 1) := dk_26 (dk_at dksX5_lesser_0 5 rfl rfl)
theorem dX5_lesser_6 : decode cX5_lesser 6 = .ok (.goto 4, 3) := dk_167 0 4 (dk_at dksX5_lesser_0 6 rfl rfl)
theorem dX5_lesser_9 : decode cX5_lesser 9 = .ok (.iload_n 1, 1) := dk_27 (dk_at dksX5_lesser_0 9 rfl rfl)
theorem dX5_lesser_10 : decode cX5_lesser 10 = .ok (.ireturn, 1) := dk_172 (dk_at dksX5_lesser_0 10 rfl rfl)
abbrev cX5_endOf : ByteArray := prog_8_method_6_code
def yX5_endOf : MethodName := ⟨RX5, "endOf", "(III)I"⟩
def dkwX5_endOf_1 : List UInt8 := [172]
abbrev dktX5_endOf_1 : List UInt8 := dkwX5_endOf_1 ++ []
def dkwX5_endOf_0 : List UInt8 := [16, 12, 27, 104, 5, 42, 28, 29, 182, 0, 79, 104, 96, 28, 29, 162, 0, 7, 3, 167, 0, 4, 4, 96]
abbrev dktX5_endOf_0 : List UInt8 := dkwX5_endOf_0 ++ dktX5_endOf_1
theorem dksX5_endOf_0 : cX5_endOf.data.toList.drop 0 = dktX5_endOf_0 := by decide +kernel
theorem dksX5_endOf_1 : cX5_endOf.data.toList.drop 24 = dktX5_endOf_1 := dk_seg dksX5_endOf_0 24 rfl rfl
theorem dX5_endOf_0 : decode cX5_endOf 0 = .ok (.bipush 12, 2) := dk_16 12 (dk_at dksX5_endOf_0 0 rfl rfl)
theorem dX5_endOf_2 : decode cX5_endOf 2 = .ok (.iload_n 1, 1) := dk_27 (dk_at dksX5_endOf_0 2 rfl rfl)
theorem dX5_endOf_3 : decode cX5_endOf 3 = .ok (.imul, 1) := dk_104 (dk_at dksX5_endOf_0 3 rfl rfl)
theorem dX5_endOf_4 : decode cX5_endOf 4 = .ok (.iconst 2, 1) := dk_5 (dk_at dksX5_endOf_0 4 rfl rfl)
theorem dX5_endOf_5 : decode cX5_endOf 5 = .ok (.aload_n 0, 1) := dk_42 (dk_at dksX5_endOf_0 5 rfl rfl)
theorem dX5_endOf_6 : decode cX5_endOf 6 = .ok (.iload_n 2, 1) := dk_28 (dk_at dksX5_endOf_0 6 rfl rfl)
theorem dX5_endOf_7 : decode cX5_endOf 7 = .ok (.iload_n 3, 1) := dk_29 (dk_at dksX5_endOf_0 7 rfl rfl)
theorem dX5_endOf_8 : decode cX5_endOf 8 = .ok (.invokevirtual 79, 3) := dk_182 0 79 (dk_at dksX5_endOf_0 8 rfl rfl)
theorem dX5_endOf_11 : decode cX5_endOf 11 = .ok (.imul, 1) := dk_104 (dk_at dksX5_endOf_0 11 rfl rfl)
theorem dX5_endOf_12 : decode cX5_endOf 12 = .ok (.iadd, 1) := dk_96 (dk_at dksX5_endOf_0 12 rfl rfl)
theorem dX5_endOf_13 : decode cX5_endOf 13 = .ok (.iload_n 2, 1) := dk_28 (dk_at dksX5_endOf_0 13 rfl rfl)
theorem dX5_endOf_14 : decode cX5_endOf 14 = .ok (.iload_n 3, 1) := dk_29 (dk_at dksX5_endOf_0 14 rfl rfl)
theorem dX5_endOf_15 : decode cX5_endOf 15 = .ok (.if_icmp .ge 7, 3) := dk_162 0 7 (dk_at dksX5_endOf_0 15 rfl rfl)
theorem dX5_endOf_18 : decode cX5_endOf 18 = .ok (.iconst 0, 1) := dk_3 (dk_at dksX5_endOf_0 18 rfl rfl)
theorem dX5_endOf_19 : decode cX5_endOf 19 = .ok (.goto 4, 3) := dk_167 0 4 (dk_at dksX5_endOf_0 19 rfl rfl)
theorem dX5_endOf_22 : decode cX5_endOf 22 = .ok (.iconst 1, 1) := dk_4 (dk_at dksX5_endOf_0 22 rfl rfl)
theorem dX5_endOf_23 : decode cX5_endOf 23 = .ok (.iadd, 1) := dk_96 (dk_at dksX5_endOf_0 23 rfl rfl)
theorem dX5_endOf_24 : decode cX5_endOf 24 = .ok (.ireturn, 1) := dk_172 (dk_at dksX5_endOf_1 0 rfl rfl)
abbrev cX5_edgeOf : ByteArray := prog_8_method_5_code
def yX5_edgeOf : MethodName := ⟨RX5, "edgeOf", "(II)I"⟩
def dkwX5_edgeOf_2 : List UInt8 := [167, 255, 213, 29, 172]
abbrev dktX5_edgeOf_2 : List UInt8 := dkwX5_edgeOf_2 ++ []
def dkwX5_edgeOf_1 : List UInt8 := [180, 0, 19, 29, 46, 28, 160, 0, 13, 42, 180, 0, 22, 29, 46, 27, 159, 0, 9, 132, 3, 1]
abbrev dktX5_edgeOf_1 : List UInt8 := dkwX5_edgeOf_1 ++ dktX5_edgeOf_2
def dkwX5_edgeOf_0 : List UInt8 := [3, 62, 42, 180, 0, 19, 29, 46, 27, 160, 0, 13, 42, 180, 0, 22, 29, 46, 28, 159, 0, 29, 42]
abbrev dktX5_edgeOf_0 : List UInt8 := dkwX5_edgeOf_0 ++ dktX5_edgeOf_1
theorem dksX5_edgeOf_0 : cX5_edgeOf.data.toList.drop 0 = dktX5_edgeOf_0 := by decide +kernel
theorem dksX5_edgeOf_1 : cX5_edgeOf.data.toList.drop 23 = dktX5_edgeOf_1 := dk_seg dksX5_edgeOf_0 23 rfl rfl
theorem dksX5_edgeOf_2 : cX5_edgeOf.data.toList.drop 45 = dktX5_edgeOf_2 := dk_seg dksX5_edgeOf_1 22 rfl rfl
theorem dX5_edgeOf_0 : decode cX5_edgeOf 0 = .ok (.iconst 0, 1) := dk_3 (dk_at dksX5_edgeOf_0 0 rfl rfl)
theorem dX5_edgeOf_1 : decode cX5_edgeOf 1 = .ok (.istore_n 3, 1) := dk_62 (dk_at dksX5_edgeOf_0 1 rfl rfl)
theorem dX5_edgeOf_2 : decode cX5_edgeOf 2 = .ok (.aload_n 0, 1) := dk_42 (dk_at dksX5_edgeOf_0 2 rfl rfl)
theorem dX5_edgeOf_3 : decode cX5_edgeOf 3 = .ok (.getfield 19, 3) := dk_180 0 19 (dk_at dksX5_edgeOf_0 3 rfl rfl)
theorem dX5_edgeOf_6 : decode cX5_edgeOf 6 = .ok (.iload_n 3, 1) := dk_29 (dk_at dksX5_edgeOf_0 6 rfl rfl)
theorem dX5_edgeOf_7 : decode cX5_edgeOf 7 = .ok (.iaload, 1) := dk_46 (dk_at dksX5_edgeOf_0 7 rfl rfl)
theorem dX5_edgeOf_8 : decode cX5_edgeOf 8 = .ok (.iload_n 1, 1) := dk_27 (dk_at dksX5_edgeOf_0 8 rfl rfl)
theorem dX5_edgeOf_9 : decode cX5_edgeOf 9 = .ok (.if_icmp .ne 13, 3) := dk_160 0 13 (dk_at dksX5_edgeOf_0 9 rfl rfl)
theorem dX5_edgeOf_12 : decode cX5_edgeOf 12 = .ok (.aload_n 0, 1) := dk_42 (dk_at dksX5_edgeOf_0 12 rfl rfl)
theorem dX5_edgeOf_13 : decode cX5_edgeOf 13 = .ok (.getfield 22, 3) := dk_180 0 22 (dk_at dksX5_edgeOf_0 13 rfl rfl)
theorem dX5_edgeOf_16 : decode cX5_edgeOf 16 = .ok (.iload_n 3, 1) := dk_29 (dk_at dksX5_edgeOf_0 16 rfl rfl)
theorem dX5_edgeOf_17 : decode cX5_edgeOf 17 = .ok (.iaload, 1) := dk_46 (dk_at dksX5_edgeOf_0 17 rfl rfl)
theorem dX5_edgeOf_18 : decode cX5_edgeOf 18 = .ok (.iload_n 2, 1) := dk_28 (dk_at dksX5_edgeOf_0 18 rfl rfl)
theorem dX5_edgeOf_19 : decode cX5_edgeOf 19 = .ok (.if_icmp .eq 29, 3) := dk_159 0 29 (dk_at dksX5_edgeOf_0 19 rfl rfl)
theorem dX5_edgeOf_22 : decode cX5_edgeOf 22 = .ok (.aload_n 0, 1) := dk_42 (dk_at dksX5_edgeOf_0 22 rfl rfl)
theorem dX5_edgeOf_23 : decode cX5_edgeOf 23 = .ok (.getfield 19, 3) := dk_180 0 19 (dk_at dksX5_edgeOf_1 0 rfl rfl)
theorem dX5_edgeOf_26 : decode cX5_edgeOf 26 = .ok (.iload_n 3, 1) := dk_29 (dk_at dksX5_edgeOf_1 3 rfl rfl)
theorem dX5_edgeOf_27 : decode cX5_edgeOf 27 = .ok (.iaload, 1) := dk_46 (dk_at dksX5_edgeOf_1 4 rfl rfl)
theorem dX5_edgeOf_28 : decode cX5_edgeOf 28 = .ok (.iload_n 2, 1) := dk_28 (dk_at dksX5_edgeOf_1 5 rfl rfl)
theorem dX5_edgeOf_29 : decode cX5_edgeOf 29 = .ok (.if_icmp .ne 13, 3) := dk_160 0 13 (dk_at dksX5_edgeOf_1 6 rfl rfl)
theorem dX5_edgeOf_32 : decode cX5_edgeOf 32 = .ok (.aload_n 0, 1) := dk_42 (dk_at dksX5_edgeOf_1 9 rfl rfl)
theorem dX5_edgeOf_33 : decode cX5_edgeOf 33 = .ok (.getfield 22, 3) := dk_180 0 22 (dk_at dksX5_edgeOf_1 10 rfl rfl)
theorem dX5_edgeOf_36 : decode cX5_edgeOf 36 = .ok (.iload_n 3, 1) := dk_29 (dk_at dksX5_edgeOf_1 13 rfl rfl)
theorem dX5_edgeOf_37 : decode cX5_edgeOf 37 = .ok (.iaload, 1) := dk_46 (dk_at dksX5_edgeOf_1 14 rfl rfl)
theorem dX5_edgeOf_38 : decode cX5_edgeOf 38 = .ok (.iload_n 1, 1) := dk_27 (dk_at dksX5_edgeOf_1 15 rfl rfl)
theorem dX5_edgeOf_39 : decode cX5_edgeOf 39 = .ok (.if_icmp .eq 9, 3) := dk_159 0 9 (dk_at dksX5_edgeOf_1 16 rfl rfl)
theorem dX5_edgeOf_42 : decode cX5_edgeOf 42 = .ok (.iinc 3 1, 3) := dk_132 3 1 (dk_at dksX5_edgeOf_1 19 rfl rfl)
theorem dX5_edgeOf_45 : decode cX5_edgeOf 45 = .ok (.goto (-43), 3) := dk_167 255 213 (dk_at dksX5_edgeOf_2 0 rfl rfl)
theorem dX5_edgeOf_48 : decode cX5_edgeOf 48 = .ok (.iload_n 3, 1) := dk_29 (dk_at dksX5_edgeOf_2 3 rfl rfl)
theorem dX5_edgeOf_49 : decode cX5_edgeOf 49 = .ok (.ireturn, 1) := dk_172 (dk_at dksX5_edgeOf_2 4 rfl rfl)
abbrev cX5_edgeLabel : ByteArray := prog_8_method_11_code
def yX5_edgeLabel : MethodName := ⟨RX5, "edgeLabel", "(II)I"⟩
def dkwX5_edgeLabel_1 : List UInt8 := [96, 4, 96, 46, 184, 0, 83, 5, 108, 172]
abbrev dktX5_edgeLabel_1 : List UInt8 := dkwX5_edgeLabel_1 ++ []
def dkwX5_edgeLabel_0 : List UInt8 := [42, 180, 0, 25, 16, 12, 27, 104, 5, 28, 104, 96, 46, 42, 180, 0, 25, 16, 12, 27, 104, 5, 28, 104]
abbrev dktX5_edgeLabel_0 : List UInt8 := dkwX5_edgeLabel_0 ++ dktX5_edgeLabel_1
theorem dksX5_edgeLabel_0 : cX5_edgeLabel.data.toList.drop 0 = dktX5_edgeLabel_0 := by decide +kernel
theorem dksX5_edgeLabel_1 : cX5_edgeLabel.data.toList.drop 24 = dktX5_edgeLabel_1 := dk_seg dksX5_edgeLabel_0 24 rfl rfl
theorem dX5_edgeLabel_0 : decode cX5_edgeLabel 0 = .ok (.aload_n 0, 1) := dk_42 (dk_at dksX5_edgeLabel_0 0 rfl rfl)
theorem dX5_edgeLabel_1 : decode cX5_edgeLabel 1 = .ok (.getfield 25, 3) := dk_180 0 25 (dk_at dksX5_edgeLabel_0 1 rfl rfl)
theorem dX5_edgeLabel_4 : decode cX5_edgeLabel 4 = .ok (.bipush 12, 2) := dk_16 12 (dk_at dksX5_edgeLabel_0 4 rfl rfl)
theorem dX5_edgeLabel_6 : decode cX5_edgeLabel 6 = .ok (.iload_n 1, 1) := dk_27 (dk_at dksX5_edgeLabel_0 6 rfl rfl)
theorem dX5_edgeLabel_7 : decode cX5_edgeLabel 7 = .ok (.imul, 1) := dk_104 (dk_at dksX5_edgeLabel_0 7 rfl rfl)
theorem dX5_edgeLabel_8 : decode cX5_edgeLabel 8 = .ok (.iconst 2, 1) := dk_5 (dk_at dksX5_edgeLabel_0 8 rfl rfl)
theorem dX5_edgeLabel_9 : decode cX5_edgeLabel 9 = .ok (.iload_n 2, 1) := dk_28 (dk_at dksX5_edgeLabel_0 9 rfl rfl)
theorem dX5_edgeLabel_10 : decode cX5_edgeLabel 10 = .ok (.imul, 1) := dk_104 (dk_at dksX5_edgeLabel_0 10 rfl rfl)
theorem dX5_edgeLabel_11 : decode cX5_edgeLabel 11 = .ok (.iadd, 1) := dk_96 (dk_at dksX5_edgeLabel_0 11 rfl rfl)
theorem dX5_edgeLabel_12 : decode cX5_edgeLabel 12 = .ok (.iaload, 1) := dk_46 (dk_at dksX5_edgeLabel_0 12 rfl rfl)
theorem dX5_edgeLabel_13 : decode cX5_edgeLabel 13 = .ok (.aload_n 0, 1) := dk_42 (dk_at dksX5_edgeLabel_0 13 rfl rfl)
theorem dX5_edgeLabel_14 : decode cX5_edgeLabel 14 = .ok (.getfield 25, 3) := dk_180 0 25 (dk_at dksX5_edgeLabel_0 14 rfl rfl)
theorem dX5_edgeLabel_17 : decode cX5_edgeLabel 17 = .ok (.bipush 12, 2) := dk_16 12 (dk_at dksX5_edgeLabel_0 17 rfl rfl)
theorem dX5_edgeLabel_19 : decode cX5_edgeLabel 19 = .ok (.iload_n 1, 1) := dk_27 (dk_at dksX5_edgeLabel_0 19 rfl rfl)
theorem dX5_edgeLabel_20 : decode cX5_edgeLabel 20 = .ok (.imul, 1) := dk_104 (dk_at dksX5_edgeLabel_0 20 rfl rfl)
theorem dX5_edgeLabel_21 : decode cX5_edgeLabel 21 = .ok (.iconst 2, 1) := dk_5 (dk_at dksX5_edgeLabel_0 21 rfl rfl)
theorem dX5_edgeLabel_22 : decode cX5_edgeLabel 22 = .ok (.iload_n 2, 1) := dk_28 (dk_at dksX5_edgeLabel_0 22 rfl rfl)
theorem dX5_edgeLabel_23 : decode cX5_edgeLabel 23 = .ok (.imul, 1) := dk_104 (dk_at dksX5_edgeLabel_0 23 rfl rfl)
theorem dX5_edgeLabel_24 : decode cX5_edgeLabel 24 = .ok (.iadd, 1) := dk_96 (dk_at dksX5_edgeLabel_1 0 rfl rfl)
theorem dX5_edgeLabel_25 : decode cX5_edgeLabel 25 = .ok (.iconst 1, 1) := dk_4 (dk_at dksX5_edgeLabel_1 1 rfl rfl)
theorem dX5_edgeLabel_26 : decode cX5_edgeLabel 26 = .ok (.iadd, 1) := dk_96 (dk_at dksX5_edgeLabel_1 2 rfl rfl)
theorem dX5_edgeLabel_27 : decode cX5_edgeLabel 27 = .ok (.iaload, 1) := dk_46 (dk_at dksX5_edgeLabel_1 3 rfl rfl)
theorem dX5_edgeLabel_28 : decode cX5_edgeLabel 28 = .ok (.invokestatic 83, 3) := dk_184 0 83 (dk_at dksX5_edgeLabel_1 4 rfl rfl)
theorem dX5_edgeLabel_31 : decode cX5_edgeLabel 31 = .ok (.iconst 2, 1) := dk_5 (dk_at dksX5_edgeLabel_1 7 rfl rfl)
theorem dX5_edgeLabel_32 : decode cX5_edgeLabel 32 = .ok (.idiv, 1) := dk_108 (dk_at dksX5_edgeLabel_1 8 rfl rfl)
theorem dX5_edgeLabel_33 : decode cX5_edgeLabel 33 = .ok (.ireturn, 1) := dk_172 (dk_at dksX5_edgeLabel_1 9 rfl rfl)
abbrev cX5_isFirstEdge : ByteArray := prog_8_method_12_code
def yX5_isFirstEdge : MethodName := ⟨RX5, "isFirstEdge", "(I)Z"⟩
def dkwX5_isFirstEdge_0 : List UInt8 := [42, 27, 16, 6, 108, 27, 16, 6, 112, 182, 0, 102, 27, 160, 0, 7, 4, 167, 0, 4, 3, 172]
abbrev dktX5_isFirstEdge_0 : List UInt8 := dkwX5_isFirstEdge_0 ++ []
theorem dksX5_isFirstEdge_0 : cX5_isFirstEdge.data.toList.drop 0 = dktX5_isFirstEdge_0 := by decide +kernel
theorem dX5_isFirstEdge_0 : decode cX5_isFirstEdge 0 = .ok (.aload_n 0, 1) := dk_42 (dk_at dksX5_isFirstEdge_0 0 rfl rfl)
theorem dX5_isFirstEdge_1 : decode cX5_isFirstEdge 1 = .ok (.iload_n 1, 1) := dk_27 (dk_at dksX5_isFirstEdge_0 1 rfl rfl)
theorem dX5_isFirstEdge_2 : decode cX5_isFirstEdge 2 = .ok (.bipush 6, 2) := dk_16 6 (dk_at dksX5_isFirstEdge_0 2 rfl rfl)
theorem dX5_isFirstEdge_4 : decode cX5_isFirstEdge 4 = .ok (.idiv, 1) := dk_108 (dk_at dksX5_isFirstEdge_0 4 rfl rfl)
theorem dX5_isFirstEdge_5 : decode cX5_isFirstEdge 5 = .ok (.iload_n 1, 1) := dk_27 (dk_at dksX5_isFirstEdge_0 5 rfl rfl)
theorem dX5_isFirstEdge_6 : decode cX5_isFirstEdge 6 = .ok (.bipush 6, 2) := dk_16 6 (dk_at dksX5_isFirstEdge_0 6 rfl rfl)
theorem dX5_isFirstEdge_8 : decode cX5_isFirstEdge 8 = .ok (.irem, 1) := dk_112 (dk_at dksX5_isFirstEdge_0 8 rfl rfl)
theorem dX5_isFirstEdge_9 : decode cX5_isFirstEdge 9 = .ok (.invokevirtual 102, 3) := dk_182 0 102 (dk_at dksX5_isFirstEdge_0 9 rfl rfl)
theorem dX5_isFirstEdge_12 : decode cX5_isFirstEdge 12 = .ok (.iload_n 1, 1) := dk_27 (dk_at dksX5_isFirstEdge_0 12 rfl rfl)
theorem dX5_isFirstEdge_13 : decode cX5_isFirstEdge 13 = .ok (.if_icmp .ne 7, 3) := dk_160 0 7 (dk_at dksX5_isFirstEdge_0 13 rfl rfl)
theorem dX5_isFirstEdge_16 : decode cX5_isFirstEdge 16 = .ok (.iconst 1, 1) := dk_4 (dk_at dksX5_isFirstEdge_0 16 rfl rfl)
theorem dX5_isFirstEdge_17 : decode cX5_isFirstEdge 17 = .ok (.goto 4, 3) := dk_167 0 4 (dk_at dksX5_isFirstEdge_0 17 rfl rfl)
theorem dX5_isFirstEdge_20 : decode cX5_isFirstEdge 20 = .ok (.iconst 0, 1) := dk_3 (dk_at dksX5_isFirstEdge_0 20 rfl rfl)
theorem dX5_isFirstEdge_21 : decode cX5_isFirstEdge 21 = .ok (.ireturn, 1) := dk_172 (dk_at dksX5_isFirstEdge_0 21 rfl rfl)
abbrev cX5_bent : ByteArray := prog_8_method_26_code
def yX5_bent : MethodName := ⟨RX5, "bent", "(I)I"⟩
def dkwX5_bent_1 : List UInt8 := [182, 0, 108, 153, 0, 7, 4, 167, 0, 4, 3, 172]
abbrev dktX5_bent_1 : List UInt8 := dkwX5_bent_1 ++ []
def dkwX5_bent_0 : List UInt8 := [42, 182, 0, 118, 42, 27, 182, 0, 121, 61, 28, 2, 160, 0, 8, 16, 254, 167, 0, 16, 42, 28]
abbrev dktX5_bent_0 : List UInt8 := dkwX5_bent_0 ++ dktX5_bent_1
theorem dksX5_bent_0 : cX5_bent.data.toList.drop 0 = dktX5_bent_0 := by decide +kernel
theorem dksX5_bent_1 : cX5_bent.data.toList.drop 22 = dktX5_bent_1 := dk_seg dksX5_bent_0 22 rfl rfl
theorem dX5_bent_0 : decode cX5_bent 0 = .ok (.aload_n 0, 1) := dk_42 (dk_at dksX5_bent_0 0 rfl rfl)
theorem dX5_bent_1 : decode cX5_bent 1 = .ok (.invokevirtual 118, 3) := dk_182 0 118 (dk_at dksX5_bent_0 1 rfl rfl)
theorem dX5_bent_4 : decode cX5_bent 4 = .ok (.aload_n 0, 1) := dk_42 (dk_at dksX5_bent_0 4 rfl rfl)
theorem dX5_bent_5 : decode cX5_bent 5 = .ok (.iload_n 1, 1) := dk_27 (dk_at dksX5_bent_0 5 rfl rfl)
theorem dX5_bent_6 : decode cX5_bent 6 = .ok (.invokevirtual 121, 3) := dk_182 0 121 (dk_at dksX5_bent_0 6 rfl rfl)
theorem dX5_bent_9 : decode cX5_bent 9 = .ok (.istore_n 2, 1) := dk_61 (dk_at dksX5_bent_0 9 rfl rfl)
theorem dX5_bent_10 : decode cX5_bent 10 = .ok (.iload_n 2, 1) := dk_28 (dk_at dksX5_bent_0 10 rfl rfl)
theorem dX5_bent_11 : decode cX5_bent 11 = .ok (.iconst (-1), 1) := dk_2 (dk_at dksX5_bent_0 11 rfl rfl)
theorem dX5_bent_12 : decode cX5_bent 12 = .ok (.if_icmp .ne 8, 3) := dk_160 0 8 (dk_at dksX5_bent_0 12 rfl rfl)
theorem dX5_bent_15 : decode cX5_bent 15 = .ok (.bipush (-2), 2) := dk_16 254 (dk_at dksX5_bent_0 15 rfl rfl)
theorem dX5_bent_17 : decode cX5_bent 17 = .ok (.goto 16, 3) := dk_167 0 16 (dk_at dksX5_bent_0 17 rfl rfl)
theorem dX5_bent_20 : decode cX5_bent 20 = .ok (.aload_n 0, 1) := dk_42 (dk_at dksX5_bent_0 20 rfl rfl)
theorem dX5_bent_21 : decode cX5_bent 21 = .ok (.iload_n 2, 1) := dk_28 (dk_at dksX5_bent_0 21 rfl rfl)
theorem dX5_bent_22 : decode cX5_bent 22 = .ok (.invokevirtual 108, 3) := dk_182 0 108 (dk_at dksX5_bent_1 0 rfl rfl)
theorem dX5_bent_25 : decode cX5_bent 25 = .ok (.ifCond .eq 7, 3) := dk_153 0 7 (dk_at dksX5_bent_1 3 rfl rfl)
theorem dX5_bent_28 : decode cX5_bent 28 = .ok (.iconst 1, 1) := dk_4 (dk_at dksX5_bent_1 6 rfl rfl)
theorem dX5_bent_29 : decode cX5_bent 29 = .ok (.goto 4, 3) := dk_167 0 4 (dk_at dksX5_bent_1 7 rfl rfl)
theorem dX5_bent_32 : decode cX5_bent 32 = .ok (.iconst 0, 1) := dk_3 (dk_at dksX5_bent_1 10 rfl rfl)
theorem dX5_bent_33 : decode cX5_bent 33 = .ok (.ireturn, 1) := dk_172 (dk_at dksX5_bent_1 11 rfl rfl)
abbrev cX5_edgeOfClass : ByteArray := prog_8_method_15_code
def yX5_edgeOfClass : MethodName := ⟨RX5, "edgeOfClass", "(I)I"⟩
def dkwX5_edgeOfClass_1 : List UInt8 := [153, 0, 12, 28, 154, 0, 5, 29, 172, 132, 2, 255, 132, 3, 1, 167, 255, 221, 2, 172]
abbrev dktX5_edgeOfClass_1 : List UInt8 := dkwX5_edgeOfClass_1 ++ []
def dkwX5_edgeOfClass_0 : List UInt8 := [27, 61, 3, 62, 29, 16, 6, 42, 180, 0, 67, 104, 162, 0, 30, 27, 155, 0, 26, 42, 29, 182, 0, 105]
abbrev dktX5_edgeOfClass_0 : List UInt8 := dkwX5_edgeOfClass_0 ++ dktX5_edgeOfClass_1
theorem dksX5_edgeOfClass_0 : cX5_edgeOfClass.data.toList.drop 0 = dktX5_edgeOfClass_0 := by decide +kernel
theorem dksX5_edgeOfClass_1 : cX5_edgeOfClass.data.toList.drop 24 = dktX5_edgeOfClass_1 := dk_seg dksX5_edgeOfClass_0 24 rfl rfl
theorem dX5_edgeOfClass_0 : decode cX5_edgeOfClass 0 = .ok (.iload_n 1, 1) := dk_27 (dk_at dksX5_edgeOfClass_0 0 rfl rfl)
theorem dX5_edgeOfClass_1 : decode cX5_edgeOfClass 1 = .ok (.istore_n 2, 1) := dk_61 (dk_at dksX5_edgeOfClass_0 1 rfl rfl)
theorem dX5_edgeOfClass_2 : decode cX5_edgeOfClass 2 = .ok (.iconst 0, 1) := dk_3 (dk_at dksX5_edgeOfClass_0 2 rfl rfl)
theorem dX5_edgeOfClass_3 : decode cX5_edgeOfClass 3 = .ok (.istore_n 3, 1) := dk_62 (dk_at dksX5_edgeOfClass_0 3 rfl rfl)
theorem dX5_edgeOfClass_4 : decode cX5_edgeOfClass 4 = .ok (.iload_n 3, 1) := dk_29 (dk_at dksX5_edgeOfClass_0 4 rfl rfl)
theorem dX5_edgeOfClass_5 : decode cX5_edgeOfClass 5 = .ok (.bipush 6, 2) := dk_16 6 (dk_at dksX5_edgeOfClass_0 5 rfl rfl)
theorem dX5_edgeOfClass_7 : decode cX5_edgeOfClass 7 = .ok (.aload_n 0, 1) := dk_42 (dk_at dksX5_edgeOfClass_0 7 rfl rfl)
theorem dX5_edgeOfClass_8 : decode cX5_edgeOfClass 8 = .ok (.getfield 67, 3) := dk_180 0 67 (dk_at dksX5_edgeOfClass_0 8 rfl rfl)
theorem dX5_edgeOfClass_11 : decode cX5_edgeOfClass 11 = .ok (.imul, 1) := dk_104 (dk_at dksX5_edgeOfClass_0 11 rfl rfl)
theorem dX5_edgeOfClass_12 : decode cX5_edgeOfClass 12 = .ok (.if_icmp .ge 30, 3) := dk_162 0 30 (dk_at dksX5_edgeOfClass_0 12 rfl rfl)
theorem dX5_edgeOfClass_15 : decode cX5_edgeOfClass 15 = .ok (.iload_n 1, 1) := dk_27 (dk_at dksX5_edgeOfClass_0 15 rfl rfl)
theorem dX5_edgeOfClass_16 : decode cX5_edgeOfClass 16 = .ok (.ifCond .lt 26, 3) := dk_155 0 26 (dk_at dksX5_edgeOfClass_0 16 rfl rfl)
theorem dX5_edgeOfClass_19 : decode cX5_edgeOfClass 19 = .ok (.aload_n 0, 1) := dk_42 (dk_at dksX5_edgeOfClass_0 19 rfl rfl)
theorem dX5_edgeOfClass_20 : decode cX5_edgeOfClass 20 = .ok (.iload_n 3, 1) := dk_29 (dk_at dksX5_edgeOfClass_0 20 rfl rfl)
theorem dX5_edgeOfClass_21 : decode cX5_edgeOfClass 21 = .ok (.invokevirtual 105, 3) := dk_182 0 105 (dk_at dksX5_edgeOfClass_0 21 rfl rfl)
theorem dX5_edgeOfClass_24 : decode cX5_edgeOfClass 24 = .ok (.ifCond .eq 12, 3) := dk_153 0 12 (dk_at dksX5_edgeOfClass_1 0 rfl rfl)
theorem dX5_edgeOfClass_27 : decode cX5_edgeOfClass 27 = .ok (.iload_n 2, 1) := dk_28 (dk_at dksX5_edgeOfClass_1 3 rfl rfl)
theorem dX5_edgeOfClass_28 : decode cX5_edgeOfClass 28 = .ok (.ifCond .ne 5, 3) := dk_154 0 5 (dk_at dksX5_edgeOfClass_1 4 rfl rfl)
theorem dX5_edgeOfClass_31 : decode cX5_edgeOfClass 31 = .ok (.iload_n 3, 1) := dk_29 (dk_at dksX5_edgeOfClass_1 7 rfl rfl)
theorem dX5_edgeOfClass_32 : decode cX5_edgeOfClass 32 = .ok (.ireturn, 1) := dk_172 (dk_at dksX5_edgeOfClass_1 8 rfl rfl)
theorem dX5_edgeOfClass_33 : decode cX5_edgeOfClass 33 = .ok (.iinc 2 (-1), 3) := dk_132 2 255 (dk_at dksX5_edgeOfClass_1 9 rfl rfl)
theorem dX5_edgeOfClass_36 : decode cX5_edgeOfClass 36 = .ok (.iinc 3 1, 3) := dk_132 3 1 (dk_at dksX5_edgeOfClass_1 12 rfl rfl)
theorem dX5_edgeOfClass_39 : decode cX5_edgeOfClass 39 = .ok (.goto (-35), 3) := dk_167 255 221 (dk_at dksX5_edgeOfClass_1 15 rfl rfl)
theorem dX5_edgeOfClass_42 : decode cX5_edgeOfClass 42 = .ok (.iconst (-1), 1) := dk_2 (dk_at dksX5_edgeOfClass_1 18 rfl rfl)
theorem dX5_edgeOfClass_43 : decode cX5_edgeOfClass 43 = .ok (.ireturn, 1) := dk_172 (dk_at dksX5_edgeOfClass_1 19 rfl rfl)
abbrev cX5_isBent : ByteArray := prog_8_method_17_code
def yX5_isBent : MethodName := ⟨RX5, "isBent", "(I)Z"⟩
def dkwX5_isBent_1 : List UInt8 := [167, 0, 4, 3, 172]
abbrev dktX5_isBent_1 : List UInt8 := dkwX5_isBent_1 ++ []
def dkwX5_isBent_0 : List UInt8 := [42, 180, 0, 25, 5, 27, 104, 46, 42, 180, 0, 25, 5, 27, 104, 4, 96, 46, 160, 0, 7, 4]
abbrev dktX5_isBent_0 : List UInt8 := dkwX5_isBent_0 ++ dktX5_isBent_1
theorem dksX5_isBent_0 : cX5_isBent.data.toList.drop 0 = dktX5_isBent_0 := by decide +kernel
theorem dksX5_isBent_1 : cX5_isBent.data.toList.drop 22 = dktX5_isBent_1 := dk_seg dksX5_isBent_0 22 rfl rfl
theorem dX5_isBent_0 : decode cX5_isBent 0 = .ok (.aload_n 0, 1) := dk_42 (dk_at dksX5_isBent_0 0 rfl rfl)
theorem dX5_isBent_1 : decode cX5_isBent 1 = .ok (.getfield 25, 3) := dk_180 0 25 (dk_at dksX5_isBent_0 1 rfl rfl)
theorem dX5_isBent_4 : decode cX5_isBent 4 = .ok (.iconst 2, 1) := dk_5 (dk_at dksX5_isBent_0 4 rfl rfl)
theorem dX5_isBent_5 : decode cX5_isBent 5 = .ok (.iload_n 1, 1) := dk_27 (dk_at dksX5_isBent_0 5 rfl rfl)
theorem dX5_isBent_6 : decode cX5_isBent 6 = .ok (.imul, 1) := dk_104 (dk_at dksX5_isBent_0 6 rfl rfl)
theorem dX5_isBent_7 : decode cX5_isBent 7 = .ok (.iaload, 1) := dk_46 (dk_at dksX5_isBent_0 7 rfl rfl)
theorem dX5_isBent_8 : decode cX5_isBent 8 = .ok (.aload_n 0, 1) := dk_42 (dk_at dksX5_isBent_0 8 rfl rfl)
theorem dX5_isBent_9 : decode cX5_isBent 9 = .ok (.getfield 25, 3) := dk_180 0 25 (dk_at dksX5_isBent_0 9 rfl rfl)
theorem dX5_isBent_12 : decode cX5_isBent 12 = .ok (.iconst 2, 1) := dk_5 (dk_at dksX5_isBent_0 12 rfl rfl)
theorem dX5_isBent_13 : decode cX5_isBent 13 = .ok (.iload_n 1, 1) := dk_27 (dk_at dksX5_isBent_0 13 rfl rfl)
theorem dX5_isBent_14 : decode cX5_isBent 14 = .ok (.imul, 1) := dk_104 (dk_at dksX5_isBent_0 14 rfl rfl)
theorem dX5_isBent_15 : decode cX5_isBent 15 = .ok (.iconst 1, 1) := dk_4 (dk_at dksX5_isBent_0 15 rfl rfl)
theorem dX5_isBent_16 : decode cX5_isBent 16 = .ok (.iadd, 1) := dk_96 (dk_at dksX5_isBent_0 16 rfl rfl)
theorem dX5_isBent_17 : decode cX5_isBent 17 = .ok (.iaload, 1) := dk_46 (dk_at dksX5_isBent_0 17 rfl rfl)
theorem dX5_isBent_18 : decode cX5_isBent 18 = .ok (.if_icmp .ne 7, 3) := dk_160 0 7 (dk_at dksX5_isBent_0 18 rfl rfl)
theorem dX5_isBent_21 : decode cX5_isBent 21 = .ok (.iconst 1, 1) := dk_4 (dk_at dksX5_isBent_0 21 rfl rfl)
theorem dX5_isBent_22 : decode cX5_isBent 22 = .ok (.goto 4, 3) := dk_167 0 4 (dk_at dksX5_isBent_1 0 rfl rfl)
theorem dX5_isBent_25 : decode cX5_isBent 25 = .ok (.iconst 0, 1) := dk_3 (dk_at dksX5_isBent_1 3 rfl rfl)
theorem dX5_isBent_26 : decode cX5_isBent 26 = .ok (.ireturn, 1) := dk_172 (dk_at dksX5_isBent_1 4 rfl rfl)
abbrev cX5_link : ByteArray := prog_8_method_28_code
def yX5_link : MethodName := ⟨RX5, "link", "(I)I"⟩
def dkwX5_link_1 : List UInt8 := [182, 0, 129, 172]
abbrev dktX5_link_1 : List UInt8 := dkwX5_link_1 ++ []
def dkwX5_link_0 : List UInt8 := [42, 182, 0, 118, 42, 27, 182, 0, 125, 61, 28, 2, 160, 0, 8, 18, 128, 167, 0, 8, 42, 28]
abbrev dktX5_link_0 : List UInt8 := dkwX5_link_0 ++ dktX5_link_1
theorem dksX5_link_0 : cX5_link.data.toList.drop 0 = dktX5_link_0 := by decide +kernel
theorem dksX5_link_1 : cX5_link.data.toList.drop 22 = dktX5_link_1 := dk_seg dksX5_link_0 22 rfl rfl
theorem dX5_link_0 : decode cX5_link 0 = .ok (.aload_n 0, 1) := dk_42 (dk_at dksX5_link_0 0 rfl rfl)
theorem dX5_link_1 : decode cX5_link 1 = .ok (.invokevirtual 118, 3) := dk_182 0 118 (dk_at dksX5_link_0 1 rfl rfl)
theorem dX5_link_4 : decode cX5_link 4 = .ok (.aload_n 0, 1) := dk_42 (dk_at dksX5_link_0 4 rfl rfl)
theorem dX5_link_5 : decode cX5_link 5 = .ok (.iload_n 1, 1) := dk_27 (dk_at dksX5_link_0 5 rfl rfl)
theorem dX5_link_6 : decode cX5_link 6 = .ok (.invokevirtual 125, 3) := dk_182 0 125 (dk_at dksX5_link_0 6 rfl rfl)
theorem dX5_link_9 : decode cX5_link 9 = .ok (.istore_n 2, 1) := dk_61 (dk_at dksX5_link_0 9 rfl rfl)
theorem dX5_link_10 : decode cX5_link 10 = .ok (.iload_n 2, 1) := dk_28 (dk_at dksX5_link_0 10 rfl rfl)
theorem dX5_link_11 : decode cX5_link 11 = .ok (.iconst (-1), 1) := dk_2 (dk_at dksX5_link_0 11 rfl rfl)
theorem dX5_link_12 : decode cX5_link 12 = .ok (.if_icmp .ne 8, 3) := dk_160 0 8 (dk_at dksX5_link_0 12 rfl rfl)
theorem dX5_link_15 : decode cX5_link 15 = .ok (.ldc 128, 2) := dk_18 128 (dk_at dksX5_link_0 15 rfl rfl)
theorem dX5_link_17 : decode cX5_link 17 = .ok (.goto 8, 3) := dk_167 0 8 (dk_at dksX5_link_0 17 rfl rfl)
theorem dX5_link_20 : decode cX5_link 20 = .ok (.aload_n 0, 1) := dk_42 (dk_at dksX5_link_0 20 rfl rfl)
theorem dX5_link_21 : decode cX5_link 21 = .ok (.iload_n 2, 1) := dk_28 (dk_at dksX5_link_0 21 rfl rfl)
theorem dX5_link_22 : decode cX5_link 22 = .ok (.invokevirtual 129, 3) := dk_182 0 129 (dk_at dksX5_link_1 0 rfl rfl)
theorem dX5_link_25 : decode cX5_link 25 = .ok (.ireturn, 1) := dk_172 (dk_at dksX5_link_1 3 rfl rfl)
abbrev cX5_cornerOfClass : ByteArray := prog_8_method_16_code
def yX5_cornerOfClass : MethodName := ⟨RX5, "cornerOfClass", "(I)I"⟩
def dkwX5_cornerOfClass_1 : List UInt8 := [29, 160, 0, 12, 28, 154, 0, 5, 29, 172, 132, 2, 255, 132, 3, 1, 167, 255, 220, 2, 172]
abbrev dktX5_cornerOfClass_1 : List UInt8 := dkwX5_cornerOfClass_1 ++ []
def dkwX5_cornerOfClass_0 : List UInt8 := [27, 61, 3, 62, 29, 7, 42, 180, 0, 67, 104, 162, 0, 32, 27, 155, 0, 28, 42, 180, 0, 28, 29, 46]
abbrev dktX5_cornerOfClass_0 : List UInt8 := dkwX5_cornerOfClass_0 ++ dktX5_cornerOfClass_1
theorem dksX5_cornerOfClass_0 : cX5_cornerOfClass.data.toList.drop 0 = dktX5_cornerOfClass_0 := by decide +kernel
theorem dksX5_cornerOfClass_1 : cX5_cornerOfClass.data.toList.drop 24 = dktX5_cornerOfClass_1 := dk_seg dksX5_cornerOfClass_0 24 rfl rfl
theorem dX5_cornerOfClass_0 : decode cX5_cornerOfClass 0 = .ok (.iload_n 1, 1) := dk_27 (dk_at dksX5_cornerOfClass_0 0 rfl rfl)
theorem dX5_cornerOfClass_1 : decode cX5_cornerOfClass 1 = .ok (.istore_n 2, 1) := dk_61 (dk_at dksX5_cornerOfClass_0 1 rfl rfl)
theorem dX5_cornerOfClass_2 : decode cX5_cornerOfClass 2 = .ok (.iconst 0, 1) := dk_3 (dk_at dksX5_cornerOfClass_0 2 rfl rfl)
theorem dX5_cornerOfClass_3 : decode cX5_cornerOfClass 3 = .ok (.istore_n 3, 1) := dk_62 (dk_at dksX5_cornerOfClass_0 3 rfl rfl)
theorem dX5_cornerOfClass_4 : decode cX5_cornerOfClass 4 = .ok (.iload_n 3, 1) := dk_29 (dk_at dksX5_cornerOfClass_0 4 rfl rfl)
theorem dX5_cornerOfClass_5 : decode cX5_cornerOfClass 5 = .ok (.iconst 4, 1) := dk_7 (dk_at dksX5_cornerOfClass_0 5 rfl rfl)
theorem dX5_cornerOfClass_6 : decode cX5_cornerOfClass 6 = .ok (.aload_n 0, 1) := dk_42 (dk_at dksX5_cornerOfClass_0 6 rfl rfl)
theorem dX5_cornerOfClass_7 : decode cX5_cornerOfClass 7 = .ok (.getfield 67, 3) := dk_180 0 67 (dk_at dksX5_cornerOfClass_0 7 rfl rfl)
theorem dX5_cornerOfClass_10 : decode cX5_cornerOfClass 10 = .ok (.imul, 1) := dk_104 (dk_at dksX5_cornerOfClass_0 10 rfl rfl)
theorem dX5_cornerOfClass_11 : decode cX5_cornerOfClass 11 = .ok (.if_icmp .ge 32, 3) := dk_162 0 32 (dk_at dksX5_cornerOfClass_0 11 rfl rfl)
theorem dX5_cornerOfClass_14 : decode cX5_cornerOfClass 14 = .ok (.iload_n 1, 1) := dk_27 (dk_at dksX5_cornerOfClass_0 14 rfl rfl)
theorem dX5_cornerOfClass_15 : decode cX5_cornerOfClass 15 = .ok (.ifCond .lt 28, 3) := dk_155 0 28 (dk_at dksX5_cornerOfClass_0 15 rfl rfl)
theorem dX5_cornerOfClass_18 : decode cX5_cornerOfClass 18 = .ok (.aload_n 0, 1) := dk_42 (dk_at dksX5_cornerOfClass_0 18 rfl rfl)
theorem dX5_cornerOfClass_19 : decode cX5_cornerOfClass 19 = .ok (.getfield 28, 3) := dk_180 0 28 (dk_at dksX5_cornerOfClass_0 19 rfl rfl)
theorem dX5_cornerOfClass_22 : decode cX5_cornerOfClass 22 = .ok (.iload_n 3, 1) := dk_29 (dk_at dksX5_cornerOfClass_0 22 rfl rfl)
theorem dX5_cornerOfClass_23 : decode cX5_cornerOfClass 23 = .ok (.iaload, 1) := dk_46 (dk_at dksX5_cornerOfClass_0 23 rfl rfl)
theorem dX5_cornerOfClass_24 : decode cX5_cornerOfClass 24 = .ok (.iload_n 3, 1) := dk_29 (dk_at dksX5_cornerOfClass_1 0 rfl rfl)
theorem dX5_cornerOfClass_25 : decode cX5_cornerOfClass 25 = .ok (.if_icmp .ne 12, 3) := dk_160 0 12 (dk_at dksX5_cornerOfClass_1 1 rfl rfl)
theorem dX5_cornerOfClass_28 : decode cX5_cornerOfClass 28 = .ok (.iload_n 2, 1) := dk_28 (dk_at dksX5_cornerOfClass_1 4 rfl rfl)
theorem dX5_cornerOfClass_29 : decode cX5_cornerOfClass 29 = .ok (.ifCond .ne 5, 3) := dk_154 0 5 (dk_at dksX5_cornerOfClass_1 5 rfl rfl)
theorem dX5_cornerOfClass_32 : decode cX5_cornerOfClass 32 = .ok (.iload_n 3, 1) := dk_29 (dk_at dksX5_cornerOfClass_1 8 rfl rfl)
theorem dX5_cornerOfClass_33 : decode cX5_cornerOfClass 33 = .ok (.ireturn, 1) := dk_172 (dk_at dksX5_cornerOfClass_1 9 rfl rfl)
theorem dX5_cornerOfClass_34 : decode cX5_cornerOfClass 34 = .ok (.iinc 2 (-1), 3) := dk_132 2 255 (dk_at dksX5_cornerOfClass_1 10 rfl rfl)
theorem dX5_cornerOfClass_37 : decode cX5_cornerOfClass 37 = .ok (.iinc 3 1, 3) := dk_132 3 1 (dk_at dksX5_cornerOfClass_1 13 rfl rfl)
theorem dX5_cornerOfClass_40 : decode cX5_cornerOfClass 40 = .ok (.goto (-36), 3) := dk_167 255 220 (dk_at dksX5_cornerOfClass_1 16 rfl rfl)
theorem dX5_cornerOfClass_43 : decode cX5_cornerOfClass 43 = .ok (.iconst (-1), 1) := dk_2 (dk_at dksX5_cornerOfClass_1 19 rfl rfl)
theorem dX5_cornerOfClass_44 : decode cX5_cornerOfClass 44 = .ok (.ireturn, 1) := dk_172 (dk_at dksX5_cornerOfClass_1 20 rfl rfl)
abbrev cX5_linkOf : ByteArray := prog_8_method_27_code
def yX5_linkOf : MethodName := ⟨RX5, "linkOf", "(I)I"⟩
def dkwX5_linkOf_6 : List UInt8 := [167, 255, 164, 132, 5, 1, 167, 255, 121, 28, 29, 100, 21, 4, 96, 172]
abbrev dktX5_linkOf_6 : List UInt8 := dkwX5_linkOf_6 ++ []
def dkwX5_linkOf_5 : List UInt8 := [21, 9, 42, 180, 0, 7, 21, 9, 46, 162, 0, 7, 4, 167, 0, 4, 3, 96, 62, 132, 7, 1]
abbrev dktX5_linkOf_5 : List UInt8 := dkwX5_linkOf_5 ++ dktX5_linkOf_6
def dkwX5_linkOf_4 : List UInt8 := [3, 96, 61, 7, 21, 6, 104, 21, 7, 96, 54, 9, 29, 42, 180, 0, 7, 21, 9, 46, 2, 159, 0, 15]
abbrev dktX5_linkOf_4 : List UInt8 := dkwX5_linkOf_4 ++ dktX5_linkOf_5
def dkwX5_linkOf_3 : List UInt8 := [21, 7, 182, 0, 98, 54, 8, 28, 42, 180, 0, 25, 21, 8, 46, 21, 8, 160, 0, 7, 4, 167, 0, 4]
abbrev dktX5_linkOf_3 : List UInt8 := dkwX5_linkOf_3 ++ dktX5_linkOf_4
def dkwX5_linkOf_2 : List UInt8 := [54, 7, 21, 7, 7, 162, 0, 92, 21, 7, 21, 5, 7, 112, 159, 0, 77, 42, 21, 6, 21, 5, 7, 112]
abbrev dktX5_linkOf_2 : List UInt8 := dkwX5_linkOf_2 ++ dktX5_linkOf_3
def dkwX5_linkOf_1 : List UInt8 := [180, 0, 28, 21, 5, 46, 27, 159, 0, 6, 167, 0, 110, 132, 4, 1, 21, 5, 7, 108, 54, 6, 3]
abbrev dktX5_linkOf_1 : List UInt8 := dkwX5_linkOf_1 ++ dktX5_linkOf_2
def dkwX5_linkOf_0 : List UInt8 := [3, 61, 3, 62, 3, 54, 4, 3, 54, 5, 21, 5, 7, 42, 180, 0, 67, 104, 162, 0, 130, 42]
abbrev dktX5_linkOf_0 : List UInt8 := dkwX5_linkOf_0 ++ dktX5_linkOf_1
theorem dksX5_linkOf_0 : cX5_linkOf.data.toList.drop 0 = dktX5_linkOf_0 := by decide +kernel
theorem dksX5_linkOf_1 : cX5_linkOf.data.toList.drop 22 = dktX5_linkOf_1 := dk_seg dksX5_linkOf_0 22 rfl rfl
theorem dksX5_linkOf_2 : cX5_linkOf.data.toList.drop 45 = dktX5_linkOf_2 := dk_seg dksX5_linkOf_1 23 rfl rfl
theorem dksX5_linkOf_3 : cX5_linkOf.data.toList.drop 69 = dktX5_linkOf_3 := dk_seg dksX5_linkOf_2 24 rfl rfl
theorem dksX5_linkOf_4 : cX5_linkOf.data.toList.drop 93 = dktX5_linkOf_4 := dk_seg dksX5_linkOf_3 24 rfl rfl
theorem dksX5_linkOf_5 : cX5_linkOf.data.toList.drop 117 = dktX5_linkOf_5 := dk_seg dksX5_linkOf_4 24 rfl rfl
theorem dksX5_linkOf_6 : cX5_linkOf.data.toList.drop 139 = dktX5_linkOf_6 := dk_seg dksX5_linkOf_5 22 rfl rfl
theorem dX5_linkOf_0 : decode cX5_linkOf 0 = .ok (.iconst 0, 1) := dk_3 (dk_at dksX5_linkOf_0 0 rfl rfl)
theorem dX5_linkOf_1 : decode cX5_linkOf 1 = .ok (.istore_n 2, 1) := dk_61 (dk_at dksX5_linkOf_0 1 rfl rfl)
theorem dX5_linkOf_2 : decode cX5_linkOf 2 = .ok (.iconst 0, 1) := dk_3 (dk_at dksX5_linkOf_0 2 rfl rfl)
theorem dX5_linkOf_3 : decode cX5_linkOf 3 = .ok (.istore_n 3, 1) := dk_62 (dk_at dksX5_linkOf_0 3 rfl rfl)
theorem dX5_linkOf_4 : decode cX5_linkOf 4 = .ok (.iconst 0, 1) := dk_3 (dk_at dksX5_linkOf_0 4 rfl rfl)
theorem dX5_linkOf_5 : decode cX5_linkOf 5 = .ok (.istore 4, 2) := dk_54 4 (dk_at dksX5_linkOf_0 5 rfl rfl)
theorem dX5_linkOf_7 : decode cX5_linkOf 7 = .ok (.iconst 0, 1) := dk_3 (dk_at dksX5_linkOf_0 7 rfl rfl)
theorem dX5_linkOf_8 : decode cX5_linkOf 8 = .ok (.istore 5, 2) := dk_54 5 (dk_at dksX5_linkOf_0 8 rfl rfl)
theorem dX5_linkOf_10 : decode cX5_linkOf 10 = .ok (.iload 5, 2) := dk_21 5 (dk_at dksX5_linkOf_0 10 rfl rfl)
theorem dX5_linkOf_12 : decode cX5_linkOf 12 = .ok (.iconst 4, 1) := dk_7 (dk_at dksX5_linkOf_0 12 rfl rfl)
theorem dX5_linkOf_13 : decode cX5_linkOf 13 = .ok (.aload_n 0, 1) := dk_42 (dk_at dksX5_linkOf_0 13 rfl rfl)
theorem dX5_linkOf_14 : decode cX5_linkOf 14 = .ok (.getfield 67, 3) := dk_180 0 67 (dk_at dksX5_linkOf_0 14 rfl rfl)
theorem dX5_linkOf_17 : decode cX5_linkOf 17 = .ok (.imul, 1) := dk_104 (dk_at dksX5_linkOf_0 17 rfl rfl)
theorem dX5_linkOf_18 : decode cX5_linkOf 18 = .ok (.if_icmp .ge 130, 3) := dk_162 0 130 (dk_at dksX5_linkOf_0 18 rfl rfl)
theorem dX5_linkOf_21 : decode cX5_linkOf 21 = .ok (.aload_n 0, 1) := dk_42 (dk_at dksX5_linkOf_0 21 rfl rfl)
theorem dX5_linkOf_22 : decode cX5_linkOf 22 = .ok (.getfield 28, 3) := dk_180 0 28 (dk_at dksX5_linkOf_1 0 rfl rfl)
theorem dX5_linkOf_25 : decode cX5_linkOf 25 = .ok (.iload 5, 2) := dk_21 5 (dk_at dksX5_linkOf_1 3 rfl rfl)
theorem dX5_linkOf_27 : decode cX5_linkOf 27 = .ok (.iaload, 1) := dk_46 (dk_at dksX5_linkOf_1 5 rfl rfl)
theorem dX5_linkOf_28 : decode cX5_linkOf 28 = .ok (.iload_n 1, 1) := dk_27 (dk_at dksX5_linkOf_1 6 rfl rfl)
theorem dX5_linkOf_29 : decode cX5_linkOf 29 = .ok (.if_icmp .eq 6, 3) := dk_159 0 6 (dk_at dksX5_linkOf_1 7 rfl rfl)
theorem dX5_linkOf_32 : decode cX5_linkOf 32 = .ok (.goto 110, 3) := dk_167 0 110 (dk_at dksX5_linkOf_1 10 rfl rfl)
theorem dX5_linkOf_35 : decode cX5_linkOf 35 = .ok (.iinc 4 1, 3) := dk_132 4 1 (dk_at dksX5_linkOf_1 13 rfl rfl)
theorem dX5_linkOf_38 : decode cX5_linkOf 38 = .ok (.iload 5, 2) := dk_21 5 (dk_at dksX5_linkOf_1 16 rfl rfl)
theorem dX5_linkOf_40 : decode cX5_linkOf 40 = .ok (.iconst 4, 1) := dk_7 (dk_at dksX5_linkOf_1 18 rfl rfl)
theorem dX5_linkOf_41 : decode cX5_linkOf 41 = .ok (.idiv, 1) := dk_108 (dk_at dksX5_linkOf_1 19 rfl rfl)
theorem dX5_linkOf_42 : decode cX5_linkOf 42 = .ok (.istore 6, 2) := dk_54 6 (dk_at dksX5_linkOf_1 20 rfl rfl)
theorem dX5_linkOf_44 : decode cX5_linkOf 44 = .ok (.iconst 0, 1) := dk_3 (dk_at dksX5_linkOf_1 22 rfl rfl)
theorem dX5_linkOf_45 : decode cX5_linkOf 45 = .ok (.istore 7, 2) := dk_54 7 (dk_at dksX5_linkOf_2 0 rfl rfl)
theorem dX5_linkOf_47 : decode cX5_linkOf 47 = .ok (.iload 7, 2) := dk_21 7 (dk_at dksX5_linkOf_2 2 rfl rfl)
theorem dX5_linkOf_49 : decode cX5_linkOf 49 = .ok (.iconst 4, 1) := dk_7 (dk_at dksX5_linkOf_2 4 rfl rfl)
theorem dX5_linkOf_50 : decode cX5_linkOf 50 = .ok (.if_icmp .ge 92, 3) := dk_162 0 92 (dk_at dksX5_linkOf_2 5 rfl rfl)
theorem dX5_linkOf_53 : decode cX5_linkOf 53 = .ok (.iload 7, 2) := dk_21 7 (dk_at dksX5_linkOf_2 8 rfl rfl)
theorem dX5_linkOf_55 : decode cX5_linkOf 55 = .ok (.iload 5, 2) := dk_21 5 (dk_at dksX5_linkOf_2 10 rfl rfl)
theorem dX5_linkOf_57 : decode cX5_linkOf 57 = .ok (.iconst 4, 1) := dk_7 (dk_at dksX5_linkOf_2 12 rfl rfl)
theorem dX5_linkOf_58 : decode cX5_linkOf 58 = .ok (.irem, 1) := dk_112 (dk_at dksX5_linkOf_2 13 rfl rfl)
theorem dX5_linkOf_59 : decode cX5_linkOf 59 = .ok (.if_icmp .eq 77, 3) := dk_159 0 77 (dk_at dksX5_linkOf_2 14 rfl rfl)
theorem dX5_linkOf_62 : decode cX5_linkOf 62 = .ok (.aload_n 0, 1) := dk_42 (dk_at dksX5_linkOf_2 17 rfl rfl)
theorem dX5_linkOf_63 : decode cX5_linkOf 63 = .ok (.iload 6, 2) := dk_21 6 (dk_at dksX5_linkOf_2 18 rfl rfl)
theorem dX5_linkOf_65 : decode cX5_linkOf 65 = .ok (.iload 5, 2) := dk_21 5 (dk_at dksX5_linkOf_2 20 rfl rfl)
theorem dX5_linkOf_67 : decode cX5_linkOf 67 = .ok (.iconst 4, 1) := dk_7 (dk_at dksX5_linkOf_2 22 rfl rfl)
theorem dX5_linkOf_68 : decode cX5_linkOf 68 = .ok (.irem, 1) := dk_112 (dk_at dksX5_linkOf_2 23 rfl rfl)
theorem dX5_linkOf_69 : decode cX5_linkOf 69 = .ok (.iload 7, 2) := dk_21 7 (dk_at dksX5_linkOf_3 0 rfl rfl)
theorem dX5_linkOf_71 : decode cX5_linkOf 71 = .ok (.invokevirtual 98, 3) := dk_182 0 98 (dk_at dksX5_linkOf_3 2 rfl rfl)
theorem dX5_linkOf_74 : decode cX5_linkOf 74 = .ok (.istore 8, 2) := dk_54 8 (dk_at dksX5_linkOf_3 5 rfl rfl)
theorem dX5_linkOf_76 : decode cX5_linkOf 76 = .ok (.iload_n 2, 1) := dk_28 (dk_at dksX5_linkOf_3 7 rfl rfl)
theorem dX5_linkOf_77 : decode cX5_linkOf 77 = .ok (.aload_n 0, 1) := dk_42 (dk_at dksX5_linkOf_3 8 rfl rfl)
theorem dX5_linkOf_78 : decode cX5_linkOf 78 = .ok (.getfield 25, 3) := dk_180 0 25 (dk_at dksX5_linkOf_3 9 rfl rfl)
theorem dX5_linkOf_81 : decode cX5_linkOf 81 = .ok (.iload 8, 2) := dk_21 8 (dk_at dksX5_linkOf_3 12 rfl rfl)
theorem dX5_linkOf_83 : decode cX5_linkOf 83 = .ok (.iaload, 1) := dk_46 (dk_at dksX5_linkOf_3 14 rfl rfl)
theorem dX5_linkOf_84 : decode cX5_linkOf 84 = .ok (.iload 8, 2) := dk_21 8 (dk_at dksX5_linkOf_3 15 rfl rfl)
theorem dX5_linkOf_86 : decode cX5_linkOf 86 = .ok (.if_icmp .ne 7, 3) := dk_160 0 7 (dk_at dksX5_linkOf_3 17 rfl rfl)
theorem dX5_linkOf_89 : decode cX5_linkOf 89 = .ok (.iconst 1, 1) := dk_4 (dk_at dksX5_linkOf_3 20 rfl rfl)
theorem dX5_linkOf_90 : decode cX5_linkOf 90 = .ok (.goto 4, 3) := dk_167 0 4 (dk_at dksX5_linkOf_3 21 rfl rfl)
theorem dX5_linkOf_93 : decode cX5_linkOf 93 = .ok (.iconst 0, 1) := dk_3 (dk_at dksX5_linkOf_4 0 rfl rfl)
theorem dX5_linkOf_94 : decode cX5_linkOf 94 = .ok (.iadd, 1) := dk_96 (dk_at dksX5_linkOf_4 1 rfl rfl)
theorem dX5_linkOf_95 : decode cX5_linkOf 95 = .ok (.istore_n 2, 1) := dk_61 (dk_at dksX5_linkOf_4 2 rfl rfl)
theorem dX5_linkOf_96 : decode cX5_linkOf 96 = .ok (.iconst 4, 1) := dk_7 (dk_at dksX5_linkOf_4 3 rfl rfl)
theorem dX5_linkOf_97 : decode cX5_linkOf 97 = .ok (.iload 6, 2) := dk_21 6 (dk_at dksX5_linkOf_4 4 rfl rfl)
theorem dX5_linkOf_99 : decode cX5_linkOf 99 = .ok (.imul, 1) := dk_104 (dk_at dksX5_linkOf_4 6 rfl rfl)
theorem dX5_linkOf_100 : decode cX5_linkOf 100 = .ok (.iload 7, 2) := dk_21 7 (dk_at dksX5_linkOf_4 7 rfl rfl)
theorem dX5_linkOf_102 : decode cX5_linkOf 102 = .ok (.iadd, 1) := dk_96 (dk_at dksX5_linkOf_4 9 rfl rfl)
theorem dX5_linkOf_103 : decode cX5_linkOf 103 = .ok (.istore 9, 2) := dk_54 9 (dk_at dksX5_linkOf_4 10 rfl rfl)
theorem dX5_linkOf_105 : decode cX5_linkOf 105 = .ok (.iload_n 3, 1) := dk_29 (dk_at dksX5_linkOf_4 12 rfl rfl)
theorem dX5_linkOf_106 : decode cX5_linkOf 106 = .ok (.aload_n 0, 1) := dk_42 (dk_at dksX5_linkOf_4 13 rfl rfl)
theorem dX5_linkOf_107 : decode cX5_linkOf 107 = .ok (.getfield 7, 3) := dk_180 0 7 (dk_at dksX5_linkOf_4 14 rfl rfl)
theorem dX5_linkOf_110 : decode cX5_linkOf 110 = .ok (.iload 9, 2) := dk_21 9 (dk_at dksX5_linkOf_4 17 rfl rfl)
theorem dX5_linkOf_112 : decode cX5_linkOf 112 = .ok (.iaload, 1) := dk_46 (dk_at dksX5_linkOf_4 19 rfl rfl)
theorem dX5_linkOf_113 : decode cX5_linkOf 113 = .ok (.iconst (-1), 1) := dk_2 (dk_at dksX5_linkOf_4 20 rfl rfl)
theorem dX5_linkOf_114 : decode cX5_linkOf 114 = .ok (.if_icmp .eq 15, 3) := dk_159 0 15 (dk_at dksX5_linkOf_4 21 rfl rfl)
theorem dX5_linkOf_117 : decode cX5_linkOf 117 = .ok (.iload 9, 2) := dk_21 9 (dk_at dksX5_linkOf_5 0 rfl rfl)
theorem dX5_linkOf_119 : decode cX5_linkOf 119 = .ok (.aload_n 0, 1) := dk_42 (dk_at dksX5_linkOf_5 2 rfl rfl)
theorem dX5_linkOf_120 : decode cX5_linkOf 120 = .ok (.getfield 7, 3) := dk_180 0 7 (dk_at dksX5_linkOf_5 3 rfl rfl)
theorem dX5_linkOf_123 : decode cX5_linkOf 123 = .ok (.iload 9, 2) := dk_21 9 (dk_at dksX5_linkOf_5 6 rfl rfl)
theorem dX5_linkOf_125 : decode cX5_linkOf 125 = .ok (.iaload, 1) := dk_46 (dk_at dksX5_linkOf_5 8 rfl rfl)
theorem dX5_linkOf_126 : decode cX5_linkOf 126 = .ok (.if_icmp .ge 7, 3) := dk_162 0 7 (dk_at dksX5_linkOf_5 9 rfl rfl)
theorem dX5_linkOf_129 : decode cX5_linkOf 129 = .ok (.iconst 1, 1) := dk_4 (dk_at dksX5_linkOf_5 12 rfl rfl)
theorem dX5_linkOf_130 : decode cX5_linkOf 130 = .ok (.goto 4, 3) := dk_167 0 4 (dk_at dksX5_linkOf_5 13 rfl rfl)
theorem dX5_linkOf_133 : decode cX5_linkOf 133 = .ok (.iconst 0, 1) := dk_3 (dk_at dksX5_linkOf_5 16 rfl rfl)
theorem dX5_linkOf_134 : decode cX5_linkOf 134 = .ok (.iadd, 1) := dk_96 (dk_at dksX5_linkOf_5 17 rfl rfl)
theorem dX5_linkOf_135 : decode cX5_linkOf 135 = .ok (.istore_n 3, 1) := dk_62 (dk_at dksX5_linkOf_5 18 rfl rfl)
theorem dX5_linkOf_136 : decode cX5_linkOf 136 = .ok (.iinc 7 1, 3) := dk_132 7 1 (dk_at dksX5_linkOf_5 19 rfl rfl)
theorem dX5_linkOf_139 : decode cX5_linkOf 139 = .ok (.goto (-92), 3) := dk_167 255 164 (dk_at dksX5_linkOf_6 0 rfl rfl)
theorem dX5_linkOf_142 : decode cX5_linkOf 142 = .ok (.iinc 5 1, 3) := dk_132 5 1 (dk_at dksX5_linkOf_6 3 rfl rfl)
theorem dX5_linkOf_145 : decode cX5_linkOf 145 = .ok (.goto (-135), 3) := dk_167 255 121 (dk_at dksX5_linkOf_6 6 rfl rfl)
theorem dX5_linkOf_148 : decode cX5_linkOf 148 = .ok (.iload_n 2, 1) := dk_28 (dk_at dksX5_linkOf_6 9 rfl rfl)
theorem dX5_linkOf_149 : decode cX5_linkOf 149 = .ok (.iload_n 3, 1) := dk_29 (dk_at dksX5_linkOf_6 10 rfl rfl)
theorem dX5_linkOf_150 : decode cX5_linkOf 150 = .ok (.isub, 1) := dk_100 (dk_at dksX5_linkOf_6 11 rfl rfl)
theorem dX5_linkOf_151 : decode cX5_linkOf 151 = .ok (.iload 4, 2) := dk_21 4 (dk_at dksX5_linkOf_6 12 rfl rfl)
theorem dX5_linkOf_153 : decode cX5_linkOf 153 = .ok (.iadd, 1) := dk_96 (dk_at dksX5_linkOf_6 14 rfl rfl)
theorem dX5_linkOf_154 : decode cX5_linkOf 154 = .ok (.ireturn, 1) := dk_172 (dk_at dksX5_linkOf_6 15 rfl rfl)
abbrev cX5_count : ByteArray := prog_8_method_34_code
def yX5_count : MethodName := ⟨RX5, "count", "(I)I"⟩
def dkwX5_count_5 : List UInt8 := [167, 0, 4, 3, 172, 42, 182, 0, 156, 172, 18, 128, 172]
abbrev dktX5_count_5 : List UInt8 := dkwX5_count_5 ++ []
def dkwX5_count_4 : List UInt8 := [172, 42, 182, 0, 150, 153, 0, 7, 4, 167, 0, 4, 3, 172, 42, 182, 0, 153, 153, 0, 7, 4]
abbrev dktX5_count_4 : List UInt8 := dkwX5_count_4 ++ dktX5_count_5
def dkwX5_count_3 : List UInt8 := [182, 0, 132, 172, 42, 182, 0, 143, 42, 182, 0, 147, 100, 42, 3, 182, 0, 132, 96, 42, 180, 0, 67, 100]
abbrev dktX5_count_3 : List UInt8 := dkwX5_count_3 ++ dktX5_count_4
def dkwX5_count_2 : List UInt8 := [42, 180, 0, 67, 172, 42, 182, 0, 143, 172, 42, 182, 0, 147, 172, 42, 3, 182, 0, 132, 172, 42, 4]
abbrev dktX5_count_2 : List UInt8 := dkwX5_count_2 ++ dktX5_count_3
def dkwX5_count_1 : List UInt8 := [170, 0, 0, 0, 0, 0, 130, 0, 0, 0, 0, 0, 0, 0, 8, 0, 0, 0, 51, 0, 0, 0, 56, 0, 0, 0, 61, 0, 0, 0, 66, 0, 0, 0, 72, 0, 0, 0, 78, 0, 0, 0, 99, 0, 0, 0, 112, 0, 0, 0, 125]
abbrev dktX5_count_1 : List UInt8 := dkwX5_count_1 ++ dktX5_count_2
def dkwX5_count_0 : List UInt8 := [42, 182, 0, 118, 27]
abbrev dktX5_count_0 : List UInt8 := dkwX5_count_0 ++ dktX5_count_1
theorem dksX5_count_0 : cX5_count.data.toList.drop 0 = dktX5_count_0 := by decide +kernel
theorem dksX5_count_1 : cX5_count.data.toList.drop 5 = dktX5_count_1 := dk_seg dksX5_count_0 5 rfl rfl
theorem dksX5_count_2 : cX5_count.data.toList.drop 56 = dktX5_count_2 := dk_seg dksX5_count_1 51 rfl rfl
theorem dksX5_count_3 : cX5_count.data.toList.drop 79 = dktX5_count_3 := dk_seg dksX5_count_2 23 rfl rfl
theorem dksX5_count_4 : cX5_count.data.toList.drop 103 = dktX5_count_4 := dk_seg dksX5_count_3 24 rfl rfl
theorem dksX5_count_5 : cX5_count.data.toList.drop 125 = dktX5_count_5 := dk_seg dksX5_count_4 22 rfl rfl
theorem dX5_count_0 : decode cX5_count 0 = .ok (.aload_n 0, 1) := dk_42 (dk_at dksX5_count_0 0 rfl rfl)
theorem dX5_count_1 : decode cX5_count 1 = .ok (.invokevirtual 118, 3) := dk_182 0 118 (dk_at dksX5_count_0 1 rfl rfl)
theorem dX5_count_4 : decode cX5_count 4 = .ok (.iload_n 1, 1) := dk_27 (dk_at dksX5_count_0 4 rfl rfl)
theorem dX5_count_5 : decode cX5_count 5 = .ok (.tableswitch 130 0 8 #[51, 56, 61, 66, 72, 78, 99, 112, 125], 51) := by decide +kernel
theorem dX5_count_56 : decode cX5_count 56 = .ok (.aload_n 0, 1) := dk_42 (dk_at dksX5_count_2 0 rfl rfl)
theorem dX5_count_57 : decode cX5_count 57 = .ok (.getfield 67, 3) := dk_180 0 67 (dk_at dksX5_count_2 1 rfl rfl)
theorem dX5_count_60 : decode cX5_count 60 = .ok (.ireturn, 1) := dk_172 (dk_at dksX5_count_2 4 rfl rfl)
theorem dX5_count_61 : decode cX5_count 61 = .ok (.aload_n 0, 1) := dk_42 (dk_at dksX5_count_2 5 rfl rfl)
theorem dX5_count_62 : decode cX5_count 62 = .ok (.invokevirtual 143, 3) := dk_182 0 143 (dk_at dksX5_count_2 6 rfl rfl)
theorem dX5_count_65 : decode cX5_count 65 = .ok (.ireturn, 1) := dk_172 (dk_at dksX5_count_2 9 rfl rfl)
theorem dX5_count_66 : decode cX5_count 66 = .ok (.aload_n 0, 1) := dk_42 (dk_at dksX5_count_2 10 rfl rfl)
theorem dX5_count_67 : decode cX5_count 67 = .ok (.invokevirtual 147, 3) := dk_182 0 147 (dk_at dksX5_count_2 11 rfl rfl)
theorem dX5_count_70 : decode cX5_count 70 = .ok (.ireturn, 1) := dk_172 (dk_at dksX5_count_2 14 rfl rfl)
theorem dX5_count_71 : decode cX5_count 71 = .ok (.aload_n 0, 1) := dk_42 (dk_at dksX5_count_2 15 rfl rfl)
theorem dX5_count_72 : decode cX5_count 72 = .ok (.iconst 0, 1) := dk_3 (dk_at dksX5_count_2 16 rfl rfl)
theorem dX5_count_73 : decode cX5_count 73 = .ok (.invokevirtual 132, 3) := dk_182 0 132 (dk_at dksX5_count_2 17 rfl rfl)
theorem dX5_count_76 : decode cX5_count 76 = .ok (.ireturn, 1) := dk_172 (dk_at dksX5_count_2 20 rfl rfl)
theorem dX5_count_77 : decode cX5_count 77 = .ok (.aload_n 0, 1) := dk_42 (dk_at dksX5_count_2 21 rfl rfl)
theorem dX5_count_78 : decode cX5_count 78 = .ok (.iconst 1, 1) := dk_4 (dk_at dksX5_count_2 22 rfl rfl)
theorem dX5_count_79 : decode cX5_count 79 = .ok (.invokevirtual 132, 3) := dk_182 0 132 (dk_at dksX5_count_3 0 rfl rfl)
theorem dX5_count_82 : decode cX5_count 82 = .ok (.ireturn, 1) := dk_172 (dk_at dksX5_count_3 3 rfl rfl)
theorem dX5_count_83 : decode cX5_count 83 = .ok (.aload_n 0, 1) := dk_42 (dk_at dksX5_count_3 4 rfl rfl)
theorem dX5_count_84 : decode cX5_count 84 = .ok (.invokevirtual 143, 3) := dk_182 0 143 (dk_at dksX5_count_3 5 rfl rfl)
theorem dX5_count_87 : decode cX5_count 87 = .ok (.aload_n 0, 1) := dk_42 (dk_at dksX5_count_3 8 rfl rfl)
theorem dX5_count_88 : decode cX5_count 88 = .ok (.invokevirtual 147, 3) := dk_182 0 147 (dk_at dksX5_count_3 9 rfl rfl)
theorem dX5_count_91 : decode cX5_count 91 = .ok (.isub, 1) := dk_100 (dk_at dksX5_count_3 12 rfl rfl)
theorem dX5_count_92 : decode cX5_count 92 = .ok (.aload_n 0, 1) := dk_42 (dk_at dksX5_count_3 13 rfl rfl)
theorem dX5_count_93 : decode cX5_count 93 = .ok (.iconst 0, 1) := dk_3 (dk_at dksX5_count_3 14 rfl rfl)
theorem dX5_count_94 : decode cX5_count 94 = .ok (.invokevirtual 132, 3) := dk_182 0 132 (dk_at dksX5_count_3 15 rfl rfl)
theorem dX5_count_97 : decode cX5_count 97 = .ok (.iadd, 1) := dk_96 (dk_at dksX5_count_3 18 rfl rfl)
theorem dX5_count_98 : decode cX5_count 98 = .ok (.aload_n 0, 1) := dk_42 (dk_at dksX5_count_3 19 rfl rfl)
theorem dX5_count_99 : decode cX5_count 99 = .ok (.getfield 67, 3) := dk_180 0 67 (dk_at dksX5_count_3 20 rfl rfl)
theorem dX5_count_102 : decode cX5_count 102 = .ok (.isub, 1) := dk_100 (dk_at dksX5_count_3 23 rfl rfl)
theorem dX5_count_103 : decode cX5_count 103 = .ok (.ireturn, 1) := dk_172 (dk_at dksX5_count_4 0 rfl rfl)
theorem dX5_count_104 : decode cX5_count 104 = .ok (.aload_n 0, 1) := dk_42 (dk_at dksX5_count_4 1 rfl rfl)
theorem dX5_count_105 : decode cX5_count 105 = .ok (.invokevirtual 150, 3) := dk_182 0 150 (dk_at dksX5_count_4 2 rfl rfl)
theorem dX5_count_108 : decode cX5_count 108 = .ok (.ifCond .eq 7, 3) := dk_153 0 7 (dk_at dksX5_count_4 5 rfl rfl)
theorem dX5_count_111 : decode cX5_count 111 = .ok (.iconst 1, 1) := dk_4 (dk_at dksX5_count_4 8 rfl rfl)
theorem dX5_count_112 : decode cX5_count 112 = .ok (.goto 4, 3) := dk_167 0 4 (dk_at dksX5_count_4 9 rfl rfl)
theorem dX5_count_115 : decode cX5_count 115 = .ok (.iconst 0, 1) := dk_3 (dk_at dksX5_count_4 12 rfl rfl)
theorem dX5_count_116 : decode cX5_count 116 = .ok (.ireturn, 1) := dk_172 (dk_at dksX5_count_4 13 rfl rfl)
theorem dX5_count_117 : decode cX5_count 117 = .ok (.aload_n 0, 1) := dk_42 (dk_at dksX5_count_4 14 rfl rfl)
theorem dX5_count_118 : decode cX5_count 118 = .ok (.invokevirtual 153, 3) := dk_182 0 153 (dk_at dksX5_count_4 15 rfl rfl)
theorem dX5_count_121 : decode cX5_count 121 = .ok (.ifCond .eq 7, 3) := dk_153 0 7 (dk_at dksX5_count_4 18 rfl rfl)
theorem dX5_count_124 : decode cX5_count 124 = .ok (.iconst 1, 1) := dk_4 (dk_at dksX5_count_4 21 rfl rfl)
theorem dX5_count_125 : decode cX5_count 125 = .ok (.goto 4, 3) := dk_167 0 4 (dk_at dksX5_count_5 0 rfl rfl)
theorem dX5_count_128 : decode cX5_count 128 = .ok (.iconst 0, 1) := dk_3 (dk_at dksX5_count_5 3 rfl rfl)
theorem dX5_count_129 : decode cX5_count 129 = .ok (.ireturn, 1) := dk_172 (dk_at dksX5_count_5 4 rfl rfl)
theorem dX5_count_130 : decode cX5_count 130 = .ok (.aload_n 0, 1) := dk_42 (dk_at dksX5_count_5 5 rfl rfl)
theorem dX5_count_131 : decode cX5_count 131 = .ok (.invokevirtual 156, 3) := dk_182 0 156 (dk_at dksX5_count_5 6 rfl rfl)
theorem dX5_count_134 : decode cX5_count 134 = .ok (.ireturn, 1) := dk_172 (dk_at dksX5_count_5 9 rfl rfl)
theorem dX5_count_135 : decode cX5_count 135 = .ok (.ldc 128, 2) := dk_18 128 (dk_at dksX5_count_5 10 rfl rfl)
theorem dX5_count_137 : decode cX5_count 137 = .ok (.ireturn, 1) := dk_172 (dk_at dksX5_count_5 12 rfl rfl)
abbrev cX5_cornerClasses : ByteArray := prog_8_method_14_code
def yX5_cornerClasses : MethodName := ⟨RX5, "cornerClasses", "()I"⟩
def dkwX5_cornerClasses_1 : List UInt8 := [160, 0, 7, 4, 167, 0, 4, 3, 96, 60, 132, 2, 1, 167, 255, 225, 27, 172]
abbrev dktX5_cornerClasses_1 : List UInt8 := dkwX5_cornerClasses_1 ++ []
def dkwX5_cornerClasses_0 : List UInt8 := [3, 60, 3, 61, 28, 7, 42, 180, 0, 67, 104, 162, 0, 27, 27, 42, 180, 0, 28, 28, 46, 28]
abbrev dktX5_cornerClasses_0 : List UInt8 := dkwX5_cornerClasses_0 ++ dktX5_cornerClasses_1
theorem dksX5_cornerClasses_0 : cX5_cornerClasses.data.toList.drop 0 = dktX5_cornerClasses_0 := by decide +kernel
theorem dksX5_cornerClasses_1 : cX5_cornerClasses.data.toList.drop 22 = dktX5_cornerClasses_1 := dk_seg dksX5_cornerClasses_0 22 rfl rfl
theorem dX5_cornerClasses_0 : decode cX5_cornerClasses 0 = .ok (.iconst 0, 1) := dk_3 (dk_at dksX5_cornerClasses_0 0 rfl rfl)
theorem dX5_cornerClasses_1 : decode cX5_cornerClasses 1 = .ok (.istore_n 1, 1) := dk_60 (dk_at dksX5_cornerClasses_0 1 rfl rfl)
theorem dX5_cornerClasses_2 : decode cX5_cornerClasses 2 = .ok (.iconst 0, 1) := dk_3 (dk_at dksX5_cornerClasses_0 2 rfl rfl)
theorem dX5_cornerClasses_3 : decode cX5_cornerClasses 3 = .ok (.istore_n 2, 1) := dk_61 (dk_at dksX5_cornerClasses_0 3 rfl rfl)
theorem dX5_cornerClasses_4 : decode cX5_cornerClasses 4 = .ok (.iload_n 2, 1) := dk_28 (dk_at dksX5_cornerClasses_0 4 rfl rfl)
theorem dX5_cornerClasses_5 : decode cX5_cornerClasses 5 = .ok (.iconst 4, 1) := dk_7 (dk_at dksX5_cornerClasses_0 5 rfl rfl)
theorem dX5_cornerClasses_6 : decode cX5_cornerClasses 6 = .ok (.aload_n 0, 1) := dk_42 (dk_at dksX5_cornerClasses_0 6 rfl rfl)
theorem dX5_cornerClasses_7 : decode cX5_cornerClasses 7 = .ok (.getfield 67, 3) := dk_180 0 67 (dk_at dksX5_cornerClasses_0 7 rfl rfl)
theorem dX5_cornerClasses_10 : decode cX5_cornerClasses 10 = .ok (.imul, 1) := dk_104 (dk_at dksX5_cornerClasses_0 10 rfl rfl)
theorem dX5_cornerClasses_11 : decode cX5_cornerClasses 11 = .ok (.if_icmp .ge 27, 3) := dk_162 0 27 (dk_at dksX5_cornerClasses_0 11 rfl rfl)
theorem dX5_cornerClasses_14 : decode cX5_cornerClasses 14 = .ok (.iload_n 1, 1) := dk_27 (dk_at dksX5_cornerClasses_0 14 rfl rfl)
theorem dX5_cornerClasses_15 : decode cX5_cornerClasses 15 = .ok (.aload_n 0, 1) := dk_42 (dk_at dksX5_cornerClasses_0 15 rfl rfl)
theorem dX5_cornerClasses_16 : decode cX5_cornerClasses 16 = .ok (.getfield 28, 3) := dk_180 0 28 (dk_at dksX5_cornerClasses_0 16 rfl rfl)
theorem dX5_cornerClasses_19 : decode cX5_cornerClasses 19 = .ok (.iload_n 2, 1) := dk_28 (dk_at dksX5_cornerClasses_0 19 rfl rfl)
theorem dX5_cornerClasses_20 : decode cX5_cornerClasses 20 = .ok (.iaload, 1) := dk_46 (dk_at dksX5_cornerClasses_0 20 rfl rfl)
theorem dX5_cornerClasses_21 : decode cX5_cornerClasses 21 = .ok (.iload_n 2, 1) := dk_28 (dk_at dksX5_cornerClasses_0 21 rfl rfl)
theorem dX5_cornerClasses_22 : decode cX5_cornerClasses 22 = .ok (.if_icmp .ne 7, 3) := dk_160 0 7 (dk_at dksX5_cornerClasses_1 0 rfl rfl)
theorem dX5_cornerClasses_25 : decode cX5_cornerClasses 25 = .ok (.iconst 1, 1) := dk_4 (dk_at dksX5_cornerClasses_1 3 rfl rfl)
theorem dX5_cornerClasses_26 : decode cX5_cornerClasses 26 = .ok (.goto 4, 3) := dk_167 0 4 (dk_at dksX5_cornerClasses_1 4 rfl rfl)
theorem dX5_cornerClasses_29 : decode cX5_cornerClasses 29 = .ok (.iconst 0, 1) := dk_3 (dk_at dksX5_cornerClasses_1 7 rfl rfl)
theorem dX5_cornerClasses_30 : decode cX5_cornerClasses 30 = .ok (.iadd, 1) := dk_96 (dk_at dksX5_cornerClasses_1 8 rfl rfl)
theorem dX5_cornerClasses_31 : decode cX5_cornerClasses 31 = .ok (.istore_n 1, 1) := dk_60 (dk_at dksX5_cornerClasses_1 9 rfl rfl)
theorem dX5_cornerClasses_32 : decode cX5_cornerClasses 32 = .ok (.iinc 2 1, 3) := dk_132 2 1 (dk_at dksX5_cornerClasses_1 10 rfl rfl)
theorem dX5_cornerClasses_35 : decode cX5_cornerClasses 35 = .ok (.goto (-31), 3) := dk_167 255 225 (dk_at dksX5_cornerClasses_1 13 rfl rfl)
theorem dX5_cornerClasses_38 : decode cX5_cornerClasses 38 = .ok (.iload_n 1, 1) := dk_27 (dk_at dksX5_cornerClasses_1 16 rfl rfl)
theorem dX5_cornerClasses_39 : decode cX5_cornerClasses 39 = .ok (.ireturn, 1) := dk_172 (dk_at dksX5_cornerClasses_1 17 rfl rfl)
abbrev cX5_edgeClasses : ByteArray := prog_8_method_13_code
def yX5_edgeClasses : MethodName := ⟨RX5, "edgeClasses", "()I"⟩
def dkwX5_edgeClasses_1 : List UInt8 := [4, 167, 0, 4, 3, 96, 60, 132, 2, 1, 167, 255, 226, 27, 172]
abbrev dktX5_edgeClasses_1 : List UInt8 := dkwX5_edgeClasses_1 ++ []
def dkwX5_edgeClasses_0 : List UInt8 := [3, 60, 3, 61, 28, 16, 6, 42, 180, 0, 67, 104, 162, 0, 25, 27, 42, 28, 182, 0, 105, 153, 0, 7]
abbrev dktX5_edgeClasses_0 : List UInt8 := dkwX5_edgeClasses_0 ++ dktX5_edgeClasses_1
theorem dksX5_edgeClasses_0 : cX5_edgeClasses.data.toList.drop 0 = dktX5_edgeClasses_0 := by decide +kernel
theorem dksX5_edgeClasses_1 : cX5_edgeClasses.data.toList.drop 24 = dktX5_edgeClasses_1 := dk_seg dksX5_edgeClasses_0 24 rfl rfl
theorem dX5_edgeClasses_0 : decode cX5_edgeClasses 0 = .ok (.iconst 0, 1) := dk_3 (dk_at dksX5_edgeClasses_0 0 rfl rfl)
theorem dX5_edgeClasses_1 : decode cX5_edgeClasses 1 = .ok (.istore_n 1, 1) := dk_60 (dk_at dksX5_edgeClasses_0 1 rfl rfl)
theorem dX5_edgeClasses_2 : decode cX5_edgeClasses 2 = .ok (.iconst 0, 1) := dk_3 (dk_at dksX5_edgeClasses_0 2 rfl rfl)
theorem dX5_edgeClasses_3 : decode cX5_edgeClasses 3 = .ok (.istore_n 2, 1) := dk_61 (dk_at dksX5_edgeClasses_0 3 rfl rfl)
theorem dX5_edgeClasses_4 : decode cX5_edgeClasses 4 = .ok (.iload_n 2, 1) := dk_28 (dk_at dksX5_edgeClasses_0 4 rfl rfl)
theorem dX5_edgeClasses_5 : decode cX5_edgeClasses 5 = .ok (.bipush 6, 2) := dk_16 6 (dk_at dksX5_edgeClasses_0 5 rfl rfl)
theorem dX5_edgeClasses_7 : decode cX5_edgeClasses 7 = .ok (.aload_n 0, 1) := dk_42 (dk_at dksX5_edgeClasses_0 7 rfl rfl)
theorem dX5_edgeClasses_8 : decode cX5_edgeClasses 8 = .ok (.getfield 67, 3) := dk_180 0 67 (dk_at dksX5_edgeClasses_0 8 rfl rfl)
theorem dX5_edgeClasses_11 : decode cX5_edgeClasses 11 = .ok (.imul, 1) := dk_104 (dk_at dksX5_edgeClasses_0 11 rfl rfl)
theorem dX5_edgeClasses_12 : decode cX5_edgeClasses 12 = .ok (.if_icmp .ge 25, 3) := dk_162 0 25 (dk_at dksX5_edgeClasses_0 12 rfl rfl)
theorem dX5_edgeClasses_15 : decode cX5_edgeClasses 15 = .ok (.iload_n 1, 1) := dk_27 (dk_at dksX5_edgeClasses_0 15 rfl rfl)
theorem dX5_edgeClasses_16 : decode cX5_edgeClasses 16 = .ok (.aload_n 0, 1) := dk_42 (dk_at dksX5_edgeClasses_0 16 rfl rfl)
theorem dX5_edgeClasses_17 : decode cX5_edgeClasses 17 = .ok (.iload_n 2, 1) := dk_28 (dk_at dksX5_edgeClasses_0 17 rfl rfl)
theorem dX5_edgeClasses_18 : decode cX5_edgeClasses 18 = .ok (.invokevirtual 105, 3) := dk_182 0 105 (dk_at dksX5_edgeClasses_0 18 rfl rfl)
theorem dX5_edgeClasses_21 : decode cX5_edgeClasses 21 = .ok (.ifCond .eq 7, 3) := dk_153 0 7 (dk_at dksX5_edgeClasses_0 21 rfl rfl)
theorem dX5_edgeClasses_24 : decode cX5_edgeClasses 24 = .ok (.iconst 1, 1) := dk_4 (dk_at dksX5_edgeClasses_1 0 rfl rfl)
theorem dX5_edgeClasses_25 : decode cX5_edgeClasses 25 = .ok (.goto 4, 3) := dk_167 0 4 (dk_at dksX5_edgeClasses_1 1 rfl rfl)
theorem dX5_edgeClasses_28 : decode cX5_edgeClasses 28 = .ok (.iconst 0, 1) := dk_3 (dk_at dksX5_edgeClasses_1 4 rfl rfl)
theorem dX5_edgeClasses_29 : decode cX5_edgeClasses 29 = .ok (.iadd, 1) := dk_96 (dk_at dksX5_edgeClasses_1 5 rfl rfl)
theorem dX5_edgeClasses_30 : decode cX5_edgeClasses 30 = .ok (.istore_n 1, 1) := dk_60 (dk_at dksX5_edgeClasses_1 6 rfl rfl)
theorem dX5_edgeClasses_31 : decode cX5_edgeClasses 31 = .ok (.iinc 2 1, 3) := dk_132 2 1 (dk_at dksX5_edgeClasses_1 7 rfl rfl)
theorem dX5_edgeClasses_34 : decode cX5_edgeClasses 34 = .ok (.goto (-30), 3) := dk_167 255 226 (dk_at dksX5_edgeClasses_1 10 rfl rfl)
theorem dX5_edgeClasses_37 : decode cX5_edgeClasses 37 = .ok (.iload_n 1, 1) := dk_27 (dk_at dksX5_edgeClasses_1 13 rfl rfl)
theorem dX5_edgeClasses_38 : decode cX5_edgeClasses 38 = .ok (.ireturn, 1) := dk_172 (dk_at dksX5_edgeClasses_1 14 rfl rfl)
abbrev cX5_sides : ByteArray := prog_8_method_29_code
def yX5_sides : MethodName := ⟨RX5, "sides", "(Z)I"⟩
def dkwX5_sides_2 : List UInt8 := [132, 3, 1, 167, 255, 211, 28, 172]
abbrev dktX5_sides_2 : List UInt8 := dkwX5_sides_2 ++ []
def dkwX5_sides_1 : List UInt8 := [159, 0, 17, 27, 154, 0, 17, 29, 42, 180, 0, 7, 29, 46, 162, 0, 7, 4, 167, 0, 4, 3, 96, 61]
abbrev dktX5_sides_1 : List UInt8 := dkwX5_sides_1 ++ dktX5_sides_2
def dkwX5_sides_0 : List UInt8 := [3, 61, 3, 62, 29, 7, 42, 180, 0, 67, 104, 162, 0, 41, 28, 42, 180, 0, 7, 29, 46, 2]
abbrev dktX5_sides_0 : List UInt8 := dkwX5_sides_0 ++ dktX5_sides_1
theorem dksX5_sides_0 : cX5_sides.data.toList.drop 0 = dktX5_sides_0 := by decide +kernel
theorem dksX5_sides_1 : cX5_sides.data.toList.drop 22 = dktX5_sides_1 := dk_seg dksX5_sides_0 22 rfl rfl
theorem dksX5_sides_2 : cX5_sides.data.toList.drop 46 = dktX5_sides_2 := dk_seg dksX5_sides_1 24 rfl rfl
theorem dX5_sides_0 : decode cX5_sides 0 = .ok (.iconst 0, 1) := dk_3 (dk_at dksX5_sides_0 0 rfl rfl)
theorem dX5_sides_1 : decode cX5_sides 1 = .ok (.istore_n 2, 1) := dk_61 (dk_at dksX5_sides_0 1 rfl rfl)
theorem dX5_sides_2 : decode cX5_sides 2 = .ok (.iconst 0, 1) := dk_3 (dk_at dksX5_sides_0 2 rfl rfl)
theorem dX5_sides_3 : decode cX5_sides 3 = .ok (.istore_n 3, 1) := dk_62 (dk_at dksX5_sides_0 3 rfl rfl)
theorem dX5_sides_4 : decode cX5_sides 4 = .ok (.iload_n 3, 1) := dk_29 (dk_at dksX5_sides_0 4 rfl rfl)
theorem dX5_sides_5 : decode cX5_sides 5 = .ok (.iconst 4, 1) := dk_7 (dk_at dksX5_sides_0 5 rfl rfl)
theorem dX5_sides_6 : decode cX5_sides 6 = .ok (.aload_n 0, 1) := dk_42 (dk_at dksX5_sides_0 6 rfl rfl)
theorem dX5_sides_7 : decode cX5_sides 7 = .ok (.getfield 67, 3) := dk_180 0 67 (dk_at dksX5_sides_0 7 rfl rfl)
theorem dX5_sides_10 : decode cX5_sides 10 = .ok (.imul, 1) := dk_104 (dk_at dksX5_sides_0 10 rfl rfl)
theorem dX5_sides_11 : decode cX5_sides 11 = .ok (.if_icmp .ge 41, 3) := dk_162 0 41 (dk_at dksX5_sides_0 11 rfl rfl)
theorem dX5_sides_14 : decode cX5_sides 14 = .ok (.iload_n 2, 1) := dk_28 (dk_at dksX5_sides_0 14 rfl rfl)
theorem dX5_sides_15 : decode cX5_sides 15 = .ok (.aload_n 0, 1) := dk_42 (dk_at dksX5_sides_0 15 rfl rfl)
theorem dX5_sides_16 : decode cX5_sides 16 = .ok (.getfield 7, 3) := dk_180 0 7 (dk_at dksX5_sides_0 16 rfl rfl)
theorem dX5_sides_19 : decode cX5_sides 19 = .ok (.iload_n 3, 1) := dk_29 (dk_at dksX5_sides_0 19 rfl rfl)
theorem dX5_sides_20 : decode cX5_sides 20 = .ok (.iaload, 1) := dk_46 (dk_at dksX5_sides_0 20 rfl rfl)
theorem dX5_sides_21 : decode cX5_sides 21 = .ok (.iconst (-1), 1) := dk_2 (dk_at dksX5_sides_0 21 rfl rfl)
theorem dX5_sides_22 : decode cX5_sides 22 = .ok (.if_icmp .eq 17, 3) := dk_159 0 17 (dk_at dksX5_sides_1 0 rfl rfl)
theorem dX5_sides_25 : decode cX5_sides 25 = .ok (.iload_n 1, 1) := dk_27 (dk_at dksX5_sides_1 3 rfl rfl)
theorem dX5_sides_26 : decode cX5_sides 26 = .ok (.ifCond .ne 17, 3) := dk_154 0 17 (dk_at dksX5_sides_1 4 rfl rfl)
theorem dX5_sides_29 : decode cX5_sides 29 = .ok (.iload_n 3, 1) := dk_29 (dk_at dksX5_sides_1 7 rfl rfl)
theorem dX5_sides_30 : decode cX5_sides 30 = .ok (.aload_n 0, 1) := dk_42 (dk_at dksX5_sides_1 8 rfl rfl)
theorem dX5_sides_31 : decode cX5_sides 31 = .ok (.getfield 7, 3) := dk_180 0 7 (dk_at dksX5_sides_1 9 rfl rfl)
theorem dX5_sides_34 : decode cX5_sides 34 = .ok (.iload_n 3, 1) := dk_29 (dk_at dksX5_sides_1 12 rfl rfl)
theorem dX5_sides_35 : decode cX5_sides 35 = .ok (.iaload, 1) := dk_46 (dk_at dksX5_sides_1 13 rfl rfl)
theorem dX5_sides_36 : decode cX5_sides 36 = .ok (.if_icmp .ge 7, 3) := dk_162 0 7 (dk_at dksX5_sides_1 14 rfl rfl)
theorem dX5_sides_39 : decode cX5_sides 39 = .ok (.iconst 1, 1) := dk_4 (dk_at dksX5_sides_1 17 rfl rfl)
theorem dX5_sides_40 : decode cX5_sides 40 = .ok (.goto 4, 3) := dk_167 0 4 (dk_at dksX5_sides_1 18 rfl rfl)
theorem dX5_sides_43 : decode cX5_sides 43 = .ok (.iconst 0, 1) := dk_3 (dk_at dksX5_sides_1 21 rfl rfl)
theorem dX5_sides_44 : decode cX5_sides 44 = .ok (.iadd, 1) := dk_96 (dk_at dksX5_sides_1 22 rfl rfl)
theorem dX5_sides_45 : decode cX5_sides 45 = .ok (.istore_n 2, 1) := dk_61 (dk_at dksX5_sides_1 23 rfl rfl)
theorem dX5_sides_46 : decode cX5_sides 46 = .ok (.iinc 3 1, 3) := dk_132 3 1 (dk_at dksX5_sides_2 0 rfl rfl)
theorem dX5_sides_49 : decode cX5_sides 49 = .ok (.goto (-45), 3) := dk_167 255 211 (dk_at dksX5_sides_2 3 rfl rfl)
theorem dX5_sides_52 : decode cX5_sides 52 = .ok (.iload_n 2, 1) := dk_28 (dk_at dksX5_sides_2 6 rfl rfl)
theorem dX5_sides_53 : decode cX5_sides 53 = .ok (.ireturn, 1) := dk_172 (dk_at dksX5_sides_2 7 rfl rfl)
abbrev cX5_isWhole : ByteArray := prog_8_method_30_code
def yX5_isWhole : MethodName := ⟨RX5, "isWhole", "()Z"⟩
def dkwX5_isWhole_3 : List UInt8 := [132, 2, 1, 167, 255, 214, 27, 172]
abbrev dktX5_isWhole_3 : List UInt8 := dkwX5_isWhole_3 ++ []
def dkwX5_isWhole_2 : List UInt8 := [180, 0, 28, 28, 46, 28, 160, 0, 12, 42, 28, 182, 0, 129, 5, 160, 0, 7, 4, 167, 0, 4, 3, 60]
abbrev dktX5_isWhole_2 : List UInt8 := dkwX5_isWhole_2 ++ dktX5_isWhole_3
def dkwX5_isWhole_1 : List UInt8 := [167, 0, 4, 3, 60, 3, 61, 28, 7, 42, 180, 0, 67, 104, 162, 0, 38, 27, 153, 0, 26, 42]
abbrev dktX5_isWhole_1 : List UInt8 := dkwX5_isWhole_1 ++ dktX5_isWhole_2
def dkwX5_isWhole_0 : List UInt8 := [42, 180, 0, 67, 158, 0, 22, 42, 4, 182, 0, 132, 154, 0, 14, 42, 182, 0, 136, 154, 0, 7, 4]
abbrev dktX5_isWhole_0 : List UInt8 := dkwX5_isWhole_0 ++ dktX5_isWhole_1
theorem dksX5_isWhole_0 : cX5_isWhole.data.toList.drop 0 = dktX5_isWhole_0 := by decide +kernel
theorem dksX5_isWhole_1 : cX5_isWhole.data.toList.drop 23 = dktX5_isWhole_1 := dk_seg dksX5_isWhole_0 23 rfl rfl
theorem dksX5_isWhole_2 : cX5_isWhole.data.toList.drop 45 = dktX5_isWhole_2 := dk_seg dksX5_isWhole_1 22 rfl rfl
theorem dksX5_isWhole_3 : cX5_isWhole.data.toList.drop 69 = dktX5_isWhole_3 := dk_seg dksX5_isWhole_2 24 rfl rfl
theorem dX5_isWhole_0 : decode cX5_isWhole 0 = .ok (.aload_n 0, 1) := dk_42 (dk_at dksX5_isWhole_0 0 rfl rfl)
theorem dX5_isWhole_1 : decode cX5_isWhole 1 = .ok (.getfield 67, 3) := dk_180 0 67 (dk_at dksX5_isWhole_0 1 rfl rfl)
theorem dX5_isWhole_4 : decode cX5_isWhole 4 = .ok (.ifCond .le 22, 3) := dk_158 0 22 (dk_at dksX5_isWhole_0 4 rfl rfl)
theorem dX5_isWhole_7 : decode cX5_isWhole 7 = .ok (.aload_n 0, 1) := dk_42 (dk_at dksX5_isWhole_0 7 rfl rfl)
theorem dX5_isWhole_8 : decode cX5_isWhole 8 = .ok (.iconst 1, 1) := dk_4 (dk_at dksX5_isWhole_0 8 rfl rfl)
theorem dX5_isWhole_9 : decode cX5_isWhole 9 = .ok (.invokevirtual 132, 3) := dk_182 0 132 (dk_at dksX5_isWhole_0 9 rfl rfl)
theorem dX5_isWhole_12 : decode cX5_isWhole 12 = .ok (.ifCond .ne 14, 3) := dk_154 0 14 (dk_at dksX5_isWhole_0 12 rfl rfl)
theorem dX5_isWhole_15 : decode cX5_isWhole 15 = .ok (.aload_n 0, 1) := dk_42 (dk_at dksX5_isWhole_0 15 rfl rfl)
theorem dX5_isWhole_16 : decode cX5_isWhole 16 = .ok (.invokevirtual 136, 3) := dk_182 0 136 (dk_at dksX5_isWhole_0 16 rfl rfl)
theorem dX5_isWhole_19 : decode cX5_isWhole 19 = .ok (.ifCond .ne 7, 3) := dk_154 0 7 (dk_at dksX5_isWhole_0 19 rfl rfl)
theorem dX5_isWhole_22 : decode cX5_isWhole 22 = .ok (.iconst 1, 1) := dk_4 (dk_at dksX5_isWhole_0 22 rfl rfl)
theorem dX5_isWhole_23 : decode cX5_isWhole 23 = .ok (.goto 4, 3) := dk_167 0 4 (dk_at dksX5_isWhole_1 0 rfl rfl)
theorem dX5_isWhole_26 : decode cX5_isWhole 26 = .ok (.iconst 0, 1) := dk_3 (dk_at dksX5_isWhole_1 3 rfl rfl)
theorem dX5_isWhole_27 : decode cX5_isWhole 27 = .ok (.istore_n 1, 1) := dk_60 (dk_at dksX5_isWhole_1 4 rfl rfl)
theorem dX5_isWhole_28 : decode cX5_isWhole 28 = .ok (.iconst 0, 1) := dk_3 (dk_at dksX5_isWhole_1 5 rfl rfl)
theorem dX5_isWhole_29 : decode cX5_isWhole 29 = .ok (.istore_n 2, 1) := dk_61 (dk_at dksX5_isWhole_1 6 rfl rfl)
theorem dX5_isWhole_30 : decode cX5_isWhole 30 = .ok (.iload_n 2, 1) := dk_28 (dk_at dksX5_isWhole_1 7 rfl rfl)
theorem dX5_isWhole_31 : decode cX5_isWhole 31 = .ok (.iconst 4, 1) := dk_7 (dk_at dksX5_isWhole_1 8 rfl rfl)
theorem dX5_isWhole_32 : decode cX5_isWhole 32 = .ok (.aload_n 0, 1) := dk_42 (dk_at dksX5_isWhole_1 9 rfl rfl)
theorem dX5_isWhole_33 : decode cX5_isWhole 33 = .ok (.getfield 67, 3) := dk_180 0 67 (dk_at dksX5_isWhole_1 10 rfl rfl)
theorem dX5_isWhole_36 : decode cX5_isWhole 36 = .ok (.imul, 1) := dk_104 (dk_at dksX5_isWhole_1 13 rfl rfl)
theorem dX5_isWhole_37 : decode cX5_isWhole 37 = .ok (.if_icmp .ge 38, 3) := dk_162 0 38 (dk_at dksX5_isWhole_1 14 rfl rfl)
theorem dX5_isWhole_40 : decode cX5_isWhole 40 = .ok (.iload_n 1, 1) := dk_27 (dk_at dksX5_isWhole_1 17 rfl rfl)
theorem dX5_isWhole_41 : decode cX5_isWhole 41 = .ok (.ifCond .eq 26, 3) := dk_153 0 26 (dk_at dksX5_isWhole_1 18 rfl rfl)
theorem dX5_isWhole_44 : decode cX5_isWhole 44 = .ok (.aload_n 0, 1) := dk_42 (dk_at dksX5_isWhole_1 21 rfl rfl)
theorem dX5_isWhole_45 : decode cX5_isWhole 45 = .ok (.getfield 28, 3) := dk_180 0 28 (dk_at dksX5_isWhole_2 0 rfl rfl)
theorem dX5_isWhole_48 : decode cX5_isWhole 48 = .ok (.iload_n 2, 1) := dk_28 (dk_at dksX5_isWhole_2 3 rfl rfl)
theorem dX5_isWhole_49 : decode cX5_isWhole 49 = .ok (.iaload, 1) := dk_46 (dk_at dksX5_isWhole_2 4 rfl rfl)
theorem dX5_isWhole_50 : decode cX5_isWhole 50 = .ok (.iload_n 2, 1) := dk_28 (dk_at dksX5_isWhole_2 5 rfl rfl)
theorem dX5_isWhole_51 : decode cX5_isWhole 51 = .ok (.if_icmp .ne 12, 3) := dk_160 0 12 (dk_at dksX5_isWhole_2 6 rfl rfl)
theorem dX5_isWhole_54 : decode cX5_isWhole 54 = .ok (.aload_n 0, 1) := dk_42 (dk_at dksX5_isWhole_2 9 rfl rfl)
theorem dX5_isWhole_55 : decode cX5_isWhole 55 = .ok (.iload_n 2, 1) := dk_28 (dk_at dksX5_isWhole_2 10 rfl rfl)
theorem dX5_isWhole_56 : decode cX5_isWhole 56 = .ok (.invokevirtual 129, 3) := dk_182 0 129 (dk_at dksX5_isWhole_2 11 rfl rfl)
theorem dX5_isWhole_59 : decode cX5_isWhole 59 = .ok (.iconst 2, 1) := dk_5 (dk_at dksX5_isWhole_2 14 rfl rfl)
theorem dX5_isWhole_60 : decode cX5_isWhole 60 = .ok (.if_icmp .ne 7, 3) := dk_160 0 7 (dk_at dksX5_isWhole_2 15 rfl rfl)
theorem dX5_isWhole_63 : decode cX5_isWhole 63 = .ok (.iconst 1, 1) := dk_4 (dk_at dksX5_isWhole_2 18 rfl rfl)
theorem dX5_isWhole_64 : decode cX5_isWhole 64 = .ok (.goto 4, 3) := dk_167 0 4 (dk_at dksX5_isWhole_2 19 rfl rfl)
theorem dX5_isWhole_67 : decode cX5_isWhole 67 = .ok (.iconst 0, 1) := dk_3 (dk_at dksX5_isWhole_2 22 rfl rfl)
theorem dX5_isWhole_68 : decode cX5_isWhole 68 = .ok (.istore_n 1, 1) := dk_60 (dk_at dksX5_isWhole_2 23 rfl rfl)
theorem dX5_isWhole_69 : decode cX5_isWhole 69 = .ok (.iinc 2 1, 3) := dk_132 2 1 (dk_at dksX5_isWhole_3 0 rfl rfl)
theorem dX5_isWhole_72 : decode cX5_isWhole 72 = .ok (.goto (-42), 3) := dk_167 255 214 (dk_at dksX5_isWhole_3 3 rfl rfl)
theorem dX5_isWhole_75 : decode cX5_isWhole 75 = .ok (.iload_n 1, 1) := dk_27 (dk_at dksX5_isWhole_3 6 rfl rfl)
theorem dX5_isWhole_76 : decode cX5_isWhole 76 = .ok (.ireturn, 1) := dk_172 (dk_at dksX5_isWhole_3 7 rfl rfl)
abbrev cX5_anyBent : ByteArray := prog_8_method_18_code
def yX5_anyBent : MethodName := ⟨RX5, "anyBent", "()Z"⟩
def dkwX5_anyBent_1 : List UInt8 := [153, 0, 7, 4, 167, 0, 4, 3, 60, 132, 2, 1, 167, 255, 224, 27, 172]
abbrev dktX5_anyBent_1 : List UInt8 := dkwX5_anyBent_1 ++ []
def dkwX5_anyBent_0 : List UInt8 := [3, 60, 3, 61, 28, 16, 6, 42, 180, 0, 67, 104, 162, 0, 27, 27, 154, 0, 11, 42, 28, 182, 0, 108]
abbrev dktX5_anyBent_0 : List UInt8 := dkwX5_anyBent_0 ++ dktX5_anyBent_1
theorem dksX5_anyBent_0 : cX5_anyBent.data.toList.drop 0 = dktX5_anyBent_0 := by decide +kernel
theorem dksX5_anyBent_1 : cX5_anyBent.data.toList.drop 24 = dktX5_anyBent_1 := dk_seg dksX5_anyBent_0 24 rfl rfl
theorem dX5_anyBent_0 : decode cX5_anyBent 0 = .ok (.iconst 0, 1) := dk_3 (dk_at dksX5_anyBent_0 0 rfl rfl)
theorem dX5_anyBent_1 : decode cX5_anyBent 1 = .ok (.istore_n 1, 1) := dk_60 (dk_at dksX5_anyBent_0 1 rfl rfl)
theorem dX5_anyBent_2 : decode cX5_anyBent 2 = .ok (.iconst 0, 1) := dk_3 (dk_at dksX5_anyBent_0 2 rfl rfl)
theorem dX5_anyBent_3 : decode cX5_anyBent 3 = .ok (.istore_n 2, 1) := dk_61 (dk_at dksX5_anyBent_0 3 rfl rfl)
theorem dX5_anyBent_4 : decode cX5_anyBent 4 = .ok (.iload_n 2, 1) := dk_28 (dk_at dksX5_anyBent_0 4 rfl rfl)
theorem dX5_anyBent_5 : decode cX5_anyBent 5 = .ok (.bipush 6, 2) := dk_16 6 (dk_at dksX5_anyBent_0 5 rfl rfl)
theorem dX5_anyBent_7 : decode cX5_anyBent 7 = .ok (.aload_n 0, 1) := dk_42 (dk_at dksX5_anyBent_0 7 rfl rfl)
theorem dX5_anyBent_8 : decode cX5_anyBent 8 = .ok (.getfield 67, 3) := dk_180 0 67 (dk_at dksX5_anyBent_0 8 rfl rfl)
theorem dX5_anyBent_11 : decode cX5_anyBent 11 = .ok (.imul, 1) := dk_104 (dk_at dksX5_anyBent_0 11 rfl rfl)
theorem dX5_anyBent_12 : decode cX5_anyBent 12 = .ok (.if_icmp .ge 27, 3) := dk_162 0 27 (dk_at dksX5_anyBent_0 12 rfl rfl)
theorem dX5_anyBent_15 : decode cX5_anyBent 15 = .ok (.iload_n 1, 1) := dk_27 (dk_at dksX5_anyBent_0 15 rfl rfl)
theorem dX5_anyBent_16 : decode cX5_anyBent 16 = .ok (.ifCond .ne 11, 3) := dk_154 0 11 (dk_at dksX5_anyBent_0 16 rfl rfl)
theorem dX5_anyBent_19 : decode cX5_anyBent 19 = .ok (.aload_n 0, 1) := dk_42 (dk_at dksX5_anyBent_0 19 rfl rfl)
theorem dX5_anyBent_20 : decode cX5_anyBent 20 = .ok (.iload_n 2, 1) := dk_28 (dk_at dksX5_anyBent_0 20 rfl rfl)
theorem dX5_anyBent_21 : decode cX5_anyBent 21 = .ok (.invokevirtual 108, 3) := dk_182 0 108 (dk_at dksX5_anyBent_0 21 rfl rfl)
theorem dX5_anyBent_24 : decode cX5_anyBent 24 = .ok (.ifCond .eq 7, 3) := dk_153 0 7 (dk_at dksX5_anyBent_1 0 rfl rfl)
theorem dX5_anyBent_27 : decode cX5_anyBent 27 = .ok (.iconst 1, 1) := dk_4 (dk_at dksX5_anyBent_1 3 rfl rfl)
theorem dX5_anyBent_28 : decode cX5_anyBent 28 = .ok (.goto 4, 3) := dk_167 0 4 (dk_at dksX5_anyBent_1 4 rfl rfl)
theorem dX5_anyBent_31 : decode cX5_anyBent 31 = .ok (.iconst 0, 1) := dk_3 (dk_at dksX5_anyBent_1 7 rfl rfl)
theorem dX5_anyBent_32 : decode cX5_anyBent 32 = .ok (.istore_n 1, 1) := dk_60 (dk_at dksX5_anyBent_1 8 rfl rfl)
theorem dX5_anyBent_33 : decode cX5_anyBent 33 = .ok (.iinc 2 1, 3) := dk_132 2 1 (dk_at dksX5_anyBent_1 9 rfl rfl)
theorem dX5_anyBent_36 : decode cX5_anyBent 36 = .ok (.goto (-32), 3) := dk_167 255 224 (dk_at dksX5_anyBent_1 12 rfl rfl)
theorem dX5_anyBent_39 : decode cX5_anyBent 39 = .ok (.iload_n 1, 1) := dk_27 (dk_at dksX5_anyBent_1 15 rfl rfl)
theorem dX5_anyBent_40 : decode cX5_anyBent 40 = .ok (.ireturn, 1) := dk_172 (dk_at dksX5_anyBent_1 16 rfl rfl)
abbrev cX5_isEven : ByteArray := prog_8_method_32_code
def yX5_isEven : MethodName := ⟨RX5, "isEven", "()Z"⟩
def dkwX5_isEven_4 : List UInt8 := [132, 1, 1, 167, 255, 162, 3, 172]
abbrev dktX5_isEven_4 : List UInt8 := dkwX5_isEven_4 ++ []
def dkwX5_isEven_3 : List UInt8 := [182, 0, 140, 160, 0, 7, 4, 167, 0, 4, 3, 61, 132, 3, 1, 167, 255, 184, 28, 153, 0, 5, 4, 172]
abbrev dktX5_isEven_3 : List UInt8 := dkwX5_isEven_3 ++ dktX5_isEven_4
def dkwX5_isEven_2 : List UInt8 := [108, 122, 4, 126, 159, 0, 7, 4, 167, 0, 4, 3, 54, 4, 28, 153, 0, 17, 21, 4, 42, 29]
abbrev dktX5_isEven_2 : List UInt8 := dkwX5_isEven_2 ++ dktX5_isEven_3
def dkwX5_isEven_1 : List UInt8 := [180, 0, 7, 29, 46, 2, 159, 0, 52, 27, 29, 7, 108, 122, 4, 126, 27, 42, 180, 0, 7, 29, 46, 7]
abbrev dktX5_isEven_1 : List UInt8 := dkwX5_isEven_1 ++ dktX5_isEven_2
def dkwX5_isEven_0 : List UInt8 := [3, 60, 27, 16, 8, 162, 0, 94, 4, 61, 3, 62, 29, 7, 42, 180, 0, 67, 104, 162, 0, 68, 42]
abbrev dktX5_isEven_0 : List UInt8 := dkwX5_isEven_0 ++ dktX5_isEven_1
theorem dksX5_isEven_0 : cX5_isEven.data.toList.drop 0 = dktX5_isEven_0 := by decide +kernel
theorem dksX5_isEven_1 : cX5_isEven.data.toList.drop 23 = dktX5_isEven_1 := dk_seg dksX5_isEven_0 23 rfl rfl
theorem dksX5_isEven_2 : cX5_isEven.data.toList.drop 47 = dktX5_isEven_2 := dk_seg dksX5_isEven_1 24 rfl rfl
theorem dksX5_isEven_3 : cX5_isEven.data.toList.drop 69 = dktX5_isEven_3 := dk_seg dksX5_isEven_2 22 rfl rfl
theorem dksX5_isEven_4 : cX5_isEven.data.toList.drop 93 = dktX5_isEven_4 := dk_seg dksX5_isEven_3 24 rfl rfl
theorem dX5_isEven_0 : decode cX5_isEven 0 = .ok (.iconst 0, 1) := dk_3 (dk_at dksX5_isEven_0 0 rfl rfl)
theorem dX5_isEven_1 : decode cX5_isEven 1 = .ok (.istore_n 1, 1) := dk_60 (dk_at dksX5_isEven_0 1 rfl rfl)
theorem dX5_isEven_2 : decode cX5_isEven 2 = .ok (.iload_n 1, 1) := dk_27 (dk_at dksX5_isEven_0 2 rfl rfl)
theorem dX5_isEven_3 : decode cX5_isEven 3 = .ok (.bipush 8, 2) := dk_16 8 (dk_at dksX5_isEven_0 3 rfl rfl)
theorem dX5_isEven_5 : decode cX5_isEven 5 = .ok (.if_icmp .ge 94, 3) := dk_162 0 94 (dk_at dksX5_isEven_0 5 rfl rfl)
theorem dX5_isEven_8 : decode cX5_isEven 8 = .ok (.iconst 1, 1) := dk_4 (dk_at dksX5_isEven_0 8 rfl rfl)
theorem dX5_isEven_9 : decode cX5_isEven 9 = .ok (.istore_n 2, 1) := dk_61 (dk_at dksX5_isEven_0 9 rfl rfl)
theorem dX5_isEven_10 : decode cX5_isEven 10 = .ok (.iconst 0, 1) := dk_3 (dk_at dksX5_isEven_0 10 rfl rfl)
theorem dX5_isEven_11 : decode cX5_isEven 11 = .ok (.istore_n 3, 1) := dk_62 (dk_at dksX5_isEven_0 11 rfl rfl)
theorem dX5_isEven_12 : decode cX5_isEven 12 = .ok (.iload_n 3, 1) := dk_29 (dk_at dksX5_isEven_0 12 rfl rfl)
theorem dX5_isEven_13 : decode cX5_isEven 13 = .ok (.iconst 4, 1) := dk_7 (dk_at dksX5_isEven_0 13 rfl rfl)
theorem dX5_isEven_14 : decode cX5_isEven 14 = .ok (.aload_n 0, 1) := dk_42 (dk_at dksX5_isEven_0 14 rfl rfl)
theorem dX5_isEven_15 : decode cX5_isEven 15 = .ok (.getfield 67, 3) := dk_180 0 67 (dk_at dksX5_isEven_0 15 rfl rfl)
theorem dX5_isEven_18 : decode cX5_isEven 18 = .ok (.imul, 1) := dk_104 (dk_at dksX5_isEven_0 18 rfl rfl)
theorem dX5_isEven_19 : decode cX5_isEven 19 = .ok (.if_icmp .ge 68, 3) := dk_162 0 68 (dk_at dksX5_isEven_0 19 rfl rfl)
theorem dX5_isEven_22 : decode cX5_isEven 22 = .ok (.aload_n 0, 1) := dk_42 (dk_at dksX5_isEven_0 22 rfl rfl)
theorem dX5_isEven_23 : decode cX5_isEven 23 = .ok (.getfield 7, 3) := dk_180 0 7 (dk_at dksX5_isEven_1 0 rfl rfl)
theorem dX5_isEven_26 : decode cX5_isEven 26 = .ok (.iload_n 3, 1) := dk_29 (dk_at dksX5_isEven_1 3 rfl rfl)
theorem dX5_isEven_27 : decode cX5_isEven 27 = .ok (.iaload, 1) := dk_46 (dk_at dksX5_isEven_1 4 rfl rfl)
theorem dX5_isEven_28 : decode cX5_isEven 28 = .ok (.iconst (-1), 1) := dk_2 (dk_at dksX5_isEven_1 5 rfl rfl)
theorem dX5_isEven_29 : decode cX5_isEven 29 = .ok (.if_icmp .eq 52, 3) := dk_159 0 52 (dk_at dksX5_isEven_1 6 rfl rfl)
theorem dX5_isEven_32 : decode cX5_isEven 32 = .ok (.iload_n 1, 1) := dk_27 (dk_at dksX5_isEven_1 9 rfl rfl)
theorem dX5_isEven_33 : decode cX5_isEven 33 = .ok (.iload_n 3, 1) := dk_29 (dk_at dksX5_isEven_1 10 rfl rfl)
theorem dX5_isEven_34 : decode cX5_isEven 34 = .ok (.iconst 4, 1) := dk_7 (dk_at dksX5_isEven_1 11 rfl rfl)
theorem dX5_isEven_35 : decode cX5_isEven 35 = .ok (.idiv, 1) := dk_108 (dk_at dksX5_isEven_1 12 rfl rfl)
theorem dX5_isEven_36 : decode cX5_isEven 36 = .ok (.ishr, 1) := dk_122 (dk_at dksX5_isEven_1 13 rfl rfl)
theorem dX5_isEven_37 : decode cX5_isEven 37 = .ok (.iconst 1, 1) := dk_4 (dk_at dksX5_isEven_1 14 rfl rfl)
theorem dX5_isEven_38 : decode cX5_isEven 38 = .ok (.iand, 1) := dk_126 (dk_at dksX5_isEven_1 15 rfl rfl)
theorem dX5_isEven_39 : decode cX5_isEven 39 = .ok (.iload_n 1, 1) := dk_27 (dk_at dksX5_isEven_1 16 rfl rfl)
theorem dX5_isEven_40 : decode cX5_isEven 40 = .ok (.aload_n 0, 1) := dk_42 (dk_at dksX5_isEven_1 17 rfl rfl)
theorem dX5_isEven_41 : decode cX5_isEven 41 = .ok (.getfield 7, 3) := dk_180 0 7 (dk_at dksX5_isEven_1 18 rfl rfl)
theorem dX5_isEven_44 : decode cX5_isEven 44 = .ok (.iload_n 3, 1) := dk_29 (dk_at dksX5_isEven_1 21 rfl rfl)
theorem dX5_isEven_45 : decode cX5_isEven 45 = .ok (.iaload, 1) := dk_46 (dk_at dksX5_isEven_1 22 rfl rfl)
theorem dX5_isEven_46 : decode cX5_isEven 46 = .ok (.iconst 4, 1) := dk_7 (dk_at dksX5_isEven_1 23 rfl rfl)
theorem dX5_isEven_47 : decode cX5_isEven 47 = .ok (.idiv, 1) := dk_108 (dk_at dksX5_isEven_2 0 rfl rfl)
theorem dX5_isEven_48 : decode cX5_isEven 48 = .ok (.ishr, 1) := dk_122 (dk_at dksX5_isEven_2 1 rfl rfl)
theorem dX5_isEven_49 : decode cX5_isEven 49 = .ok (.iconst 1, 1) := dk_4 (dk_at dksX5_isEven_2 2 rfl rfl)
theorem dX5_isEven_50 : decode cX5_isEven 50 = .ok (.iand, 1) := dk_126 (dk_at dksX5_isEven_2 3 rfl rfl)
theorem dX5_isEven_51 : decode cX5_isEven 51 = .ok (.if_icmp .eq 7, 3) := dk_159 0 7 (dk_at dksX5_isEven_2 4 rfl rfl)
theorem dX5_isEven_54 : decode cX5_isEven 54 = .ok (.iconst 1, 1) := dk_4 (dk_at dksX5_isEven_2 7 rfl rfl)
theorem dX5_isEven_55 : decode cX5_isEven 55 = .ok (.goto 4, 3) := dk_167 0 4 (dk_at dksX5_isEven_2 8 rfl rfl)
theorem dX5_isEven_58 : decode cX5_isEven 58 = .ok (.iconst 0, 1) := dk_3 (dk_at dksX5_isEven_2 11 rfl rfl)
theorem dX5_isEven_59 : decode cX5_isEven 59 = .ok (.istore 4, 2) := dk_54 4 (dk_at dksX5_isEven_2 12 rfl rfl)
theorem dX5_isEven_61 : decode cX5_isEven 61 = .ok (.iload_n 2, 1) := dk_28 (dk_at dksX5_isEven_2 14 rfl rfl)
theorem dX5_isEven_62 : decode cX5_isEven 62 = .ok (.ifCond .eq 17, 3) := dk_153 0 17 (dk_at dksX5_isEven_2 15 rfl rfl)
theorem dX5_isEven_65 : decode cX5_isEven 65 = .ok (.iload 4, 2) := dk_21 4 (dk_at dksX5_isEven_2 18 rfl rfl)
theorem dX5_isEven_67 : decode cX5_isEven 67 = .ok (.aload_n 0, 1) := dk_42 (dk_at dksX5_isEven_2 20 rfl rfl)
theorem dX5_isEven_68 : decode cX5_isEven 68 = .ok (.iload_n 3, 1) := dk_29 (dk_at dksX5_isEven_2 21 rfl rfl)
theorem dX5_isEven_69 : decode cX5_isEven 69 = .ok (.invokevirtual 140, 3) := dk_182 0 140 (dk_at dksX5_isEven_3 0 rfl rfl)
theorem dX5_isEven_72 : decode cX5_isEven 72 = .ok (.if_icmp .ne 7, 3) := dk_160 0 7 (dk_at dksX5_isEven_3 3 rfl rfl)
theorem dX5_isEven_75 : decode cX5_isEven 75 = .ok (.iconst 1, 1) := dk_4 (dk_at dksX5_isEven_3 6 rfl rfl)
theorem dX5_isEven_76 : decode cX5_isEven 76 = .ok (.goto 4, 3) := dk_167 0 4 (dk_at dksX5_isEven_3 7 rfl rfl)
theorem dX5_isEven_79 : decode cX5_isEven 79 = .ok (.iconst 0, 1) := dk_3 (dk_at dksX5_isEven_3 10 rfl rfl)
theorem dX5_isEven_80 : decode cX5_isEven 80 = .ok (.istore_n 2, 1) := dk_61 (dk_at dksX5_isEven_3 11 rfl rfl)
theorem dX5_isEven_81 : decode cX5_isEven 81 = .ok (.iinc 3 1, 3) := dk_132 3 1 (dk_at dksX5_isEven_3 12 rfl rfl)
theorem dX5_isEven_84 : decode cX5_isEven 84 = .ok (.goto (-72), 3) := dk_167 255 184 (dk_at dksX5_isEven_3 15 rfl rfl)
theorem dX5_isEven_87 : decode cX5_isEven 87 = .ok (.iload_n 2, 1) := dk_28 (dk_at dksX5_isEven_3 18 rfl rfl)
theorem dX5_isEven_88 : decode cX5_isEven 88 = .ok (.ifCond .eq 5, 3) := dk_153 0 5 (dk_at dksX5_isEven_3 19 rfl rfl)
theorem dX5_isEven_91 : decode cX5_isEven 91 = .ok (.iconst 1, 1) := dk_4 (dk_at dksX5_isEven_3 22 rfl rfl)
theorem dX5_isEven_92 : decode cX5_isEven 92 = .ok (.ireturn, 1) := dk_172 (dk_at dksX5_isEven_3 23 rfl rfl)
theorem dX5_isEven_93 : decode cX5_isEven 93 = .ok (.iinc 1 1, 3) := dk_132 1 1 (dk_at dksX5_isEven_4 0 rfl rfl)
theorem dX5_isEven_96 : decode cX5_isEven 96 = .ok (.goto (-94), 3) := dk_167 255 162 (dk_at dksX5_isEven_4 3 rfl rfl)
theorem dX5_isEven_99 : decode cX5_isEven 99 = .ok (.iconst 0, 1) := dk_3 (dk_at dksX5_isEven_4 6 rfl rfl)
theorem dX5_isEven_100 : decode cX5_isEven 100 = .ok (.ireturn, 1) := dk_172 (dk_at dksX5_isEven_4 7 rfl rfl)
abbrev cX5_isEvenChange : ByteArray := prog_8_method_31_code
def yX5_isEvenChange : MethodName := ⟨RX5, "isEvenChange", "(I)Z"⟩
def dkwX5_isEvenChange_3 : List UInt8 := [4, 167, 0, 4, 3, 172]
abbrev dktX5_isEvenChange_3 : List UInt8 := dkwX5_isEvenChange_3 ++ []
def dkwX5_isEvenChange_2 : List UInt8 := [167, 0, 4, 3, 96, 61, 132, 4, 1, 167, 255, 215, 132, 3, 1, 167, 255, 199, 28, 5, 112, 154, 0, 7]
abbrev dktX5_isEvenChange_2 : List UInt8 := dkwX5_isEvenChange_2 ++ dktX5_isEvenChange_3
def dkwX5_isEvenChange_1 : List UInt8 := [180, 0, 13, 7, 27, 104, 29, 96, 46, 42, 180, 0, 13, 7, 27, 104, 21, 4, 96, 46, 164, 0, 7, 4]
abbrev dktX5_isEvenChange_1 : List UInt8 := dkwX5_isEvenChange_1 ++ dktX5_isEvenChange_2
def dkwX5_isEvenChange_0 : List UInt8 := [3, 61, 3, 62, 29, 7, 162, 0, 58, 29, 4, 96, 54, 4, 21, 4, 7, 162, 0, 41, 28, 42]
abbrev dktX5_isEvenChange_0 : List UInt8 := dkwX5_isEvenChange_0 ++ dktX5_isEvenChange_1
theorem dksX5_isEvenChange_0 : cX5_isEvenChange.data.toList.drop 0 = dktX5_isEvenChange_0 := by decide +kernel
theorem dksX5_isEvenChange_1 : cX5_isEvenChange.data.toList.drop 22 = dktX5_isEvenChange_1 := dk_seg dksX5_isEvenChange_0 22 rfl rfl
theorem dksX5_isEvenChange_2 : cX5_isEvenChange.data.toList.drop 46 = dktX5_isEvenChange_2 := dk_seg dksX5_isEvenChange_1 24 rfl rfl
theorem dksX5_isEvenChange_3 : cX5_isEvenChange.data.toList.drop 70 = dktX5_isEvenChange_3 := dk_seg dksX5_isEvenChange_2 24 rfl rfl
theorem dX5_isEvenChange_0 : decode cX5_isEvenChange 0 = .ok (.iconst 0, 1) := dk_3 (dk_at dksX5_isEvenChange_0 0 rfl rfl)
theorem dX5_isEvenChange_1 : decode cX5_isEvenChange 1 = .ok (.istore_n 2, 1) := dk_61 (dk_at dksX5_isEvenChange_0 1 rfl rfl)
theorem dX5_isEvenChange_2 : decode cX5_isEvenChange 2 = .ok (.iconst 0, 1) := dk_3 (dk_at dksX5_isEvenChange_0 2 rfl rfl)
theorem dX5_isEvenChange_3 : decode cX5_isEvenChange 3 = .ok (.istore_n 3, 1) := dk_62 (dk_at dksX5_isEvenChange_0 3 rfl rfl)
theorem dX5_isEvenChange_4 : decode cX5_isEvenChange 4 = .ok (.iload_n 3, 1) := dk_29 (dk_at dksX5_isEvenChange_0 4 rfl rfl)
theorem dX5_isEvenChange_5 : decode cX5_isEvenChange 5 = .ok (.iconst 4, 1) := dk_7 (dk_at dksX5_isEvenChange_0 5 rfl rfl)
theorem dX5_isEvenChange_6 : decode cX5_isEvenChange 6 = .ok (.if_icmp .ge 58, 3) := dk_162 0 58 (dk_at dksX5_isEvenChange_0 6 rfl rfl)
theorem dX5_isEvenChange_9 : decode cX5_isEvenChange 9 = .ok (.iload_n 3, 1) := dk_29 (dk_at dksX5_isEvenChange_0 9 rfl rfl)
theorem dX5_isEvenChange_10 : decode cX5_isEvenChange 10 = .ok (.iconst 1, 1) := dk_4 (dk_at dksX5_isEvenChange_0 10 rfl rfl)
theorem dX5_isEvenChange_11 : decode cX5_isEvenChange 11 = .ok (.iadd, 1) := dk_96 (dk_at dksX5_isEvenChange_0 11 rfl rfl)
theorem dX5_isEvenChange_12 : decode cX5_isEvenChange 12 = .ok (.istore 4, 2) := dk_54 4 (dk_at dksX5_isEvenChange_0 12 rfl rfl)
theorem dX5_isEvenChange_14 : decode cX5_isEvenChange 14 = .ok (.iload 4, 2) := dk_21 4 (dk_at dksX5_isEvenChange_0 14 rfl rfl)
theorem dX5_isEvenChange_16 : decode cX5_isEvenChange 16 = .ok (.iconst 4, 1) := dk_7 (dk_at dksX5_isEvenChange_0 16 rfl rfl)
theorem dX5_isEvenChange_17 : decode cX5_isEvenChange 17 = .ok (.if_icmp .ge 41, 3) := dk_162 0 41 (dk_at dksX5_isEvenChange_0 17 rfl rfl)
theorem dX5_isEvenChange_20 : decode cX5_isEvenChange 20 = .ok (.iload_n 2, 1) := dk_28 (dk_at dksX5_isEvenChange_0 20 rfl rfl)
theorem dX5_isEvenChange_21 : decode cX5_isEvenChange 21 = .ok (.aload_n 0, 1) := dk_42 (dk_at dksX5_isEvenChange_0 21 rfl rfl)
theorem dX5_isEvenChange_22 : decode cX5_isEvenChange 22 = .ok (.getfield 13, 3) := dk_180 0 13 (dk_at dksX5_isEvenChange_1 0 rfl rfl)
theorem dX5_isEvenChange_25 : decode cX5_isEvenChange 25 = .ok (.iconst 4, 1) := dk_7 (dk_at dksX5_isEvenChange_1 3 rfl rfl)
theorem dX5_isEvenChange_26 : decode cX5_isEvenChange 26 = .ok (.iload_n 1, 1) := dk_27 (dk_at dksX5_isEvenChange_1 4 rfl rfl)
theorem dX5_isEvenChange_27 : decode cX5_isEvenChange 27 = .ok (.imul, 1) := dk_104 (dk_at dksX5_isEvenChange_1 5 rfl rfl)
theorem dX5_isEvenChange_28 : decode cX5_isEvenChange 28 = .ok (.iload_n 3, 1) := dk_29 (dk_at dksX5_isEvenChange_1 6 rfl rfl)
theorem dX5_isEvenChange_29 : decode cX5_isEvenChange 29 = .ok (.iadd, 1) := dk_96 (dk_at dksX5_isEvenChange_1 7 rfl rfl)
theorem dX5_isEvenChange_30 : decode cX5_isEvenChange 30 = .ok (.iaload, 1) := dk_46 (dk_at dksX5_isEvenChange_1 8 rfl rfl)
theorem dX5_isEvenChange_31 : decode cX5_isEvenChange 31 = .ok (.aload_n 0, 1) := dk_42 (dk_at dksX5_isEvenChange_1 9 rfl rfl)
theorem dX5_isEvenChange_32 : decode cX5_isEvenChange 32 = .ok (.getfield 13, 3) := dk_180 0 13 (dk_at dksX5_isEvenChange_1 10 rfl rfl)
theorem dX5_isEvenChange_35 : decode cX5_isEvenChange 35 = .ok (.iconst 4, 1) := dk_7 (dk_at dksX5_isEvenChange_1 13 rfl rfl)
theorem dX5_isEvenChange_36 : decode cX5_isEvenChange 36 = .ok (.iload_n 1, 1) := dk_27 (dk_at dksX5_isEvenChange_1 14 rfl rfl)
theorem dX5_isEvenChange_37 : decode cX5_isEvenChange 37 = .ok (.imul, 1) := dk_104 (dk_at dksX5_isEvenChange_1 15 rfl rfl)
theorem dX5_isEvenChange_38 : decode cX5_isEvenChange 38 = .ok (.iload 4, 2) := dk_21 4 (dk_at dksX5_isEvenChange_1 16 rfl rfl)
theorem dX5_isEvenChange_40 : decode cX5_isEvenChange 40 = .ok (.iadd, 1) := dk_96 (dk_at dksX5_isEvenChange_1 18 rfl rfl)
theorem dX5_isEvenChange_41 : decode cX5_isEvenChange 41 = .ok (.iaload, 1) := dk_46 (dk_at dksX5_isEvenChange_1 19 rfl rfl)
theorem dX5_isEvenChange_42 : decode cX5_isEvenChange 42 = .ok (.if_icmp .le 7, 3) := dk_164 0 7 (dk_at dksX5_isEvenChange_1 20 rfl rfl)
theorem dX5_isEvenChange_45 : decode cX5_isEvenChange 45 = .ok (.iconst 1, 1) := dk_4 (dk_at dksX5_isEvenChange_1 23 rfl rfl)
theorem dX5_isEvenChange_46 : decode cX5_isEvenChange 46 = .ok (.goto 4, 3) := dk_167 0 4 (dk_at dksX5_isEvenChange_2 0 rfl rfl)
theorem dX5_isEvenChange_49 : decode cX5_isEvenChange 49 = .ok (.iconst 0, 1) := dk_3 (dk_at dksX5_isEvenChange_2 3 rfl rfl)
theorem dX5_isEvenChange_50 : decode cX5_isEvenChange 50 = .ok (.iadd, 1) := dk_96 (dk_at dksX5_isEvenChange_2 4 rfl rfl)
theorem dX5_isEvenChange_51 : decode cX5_isEvenChange 51 = .ok (.istore_n 2, 1) := dk_61 (dk_at dksX5_isEvenChange_2 5 rfl rfl)
theorem dX5_isEvenChange_52 : decode cX5_isEvenChange 52 = .ok (.iinc 4 1, 3) := dk_132 4 1 (dk_at dksX5_isEvenChange_2 6 rfl rfl)
theorem dX5_isEvenChange_55 : decode cX5_isEvenChange 55 = .ok (.goto (-41), 3) := dk_167 255 215 (dk_at dksX5_isEvenChange_2 9 rfl rfl)
theorem dX5_isEvenChange_58 : decode cX5_isEvenChange 58 = .ok (.iinc 3 1, 3) := dk_132 3 1 (dk_at dksX5_isEvenChange_2 12 rfl rfl)
theorem dX5_isEvenChange_61 : decode cX5_isEvenChange 61 = .ok (.goto (-57), 3) := dk_167 255 199 (dk_at dksX5_isEvenChange_2 15 rfl rfl)
theorem dX5_isEvenChange_64 : decode cX5_isEvenChange 64 = .ok (.iload_n 2, 1) := dk_28 (dk_at dksX5_isEvenChange_2 18 rfl rfl)
theorem dX5_isEvenChange_65 : decode cX5_isEvenChange 65 = .ok (.iconst 2, 1) := dk_5 (dk_at dksX5_isEvenChange_2 19 rfl rfl)
theorem dX5_isEvenChange_66 : decode cX5_isEvenChange 66 = .ok (.irem, 1) := dk_112 (dk_at dksX5_isEvenChange_2 20 rfl rfl)
theorem dX5_isEvenChange_67 : decode cX5_isEvenChange 67 = .ok (.ifCond .ne 7, 3) := dk_154 0 7 (dk_at dksX5_isEvenChange_2 21 rfl rfl)
theorem dX5_isEvenChange_70 : decode cX5_isEvenChange 70 = .ok (.iconst 1, 1) := dk_4 (dk_at dksX5_isEvenChange_3 0 rfl rfl)
theorem dX5_isEvenChange_71 : decode cX5_isEvenChange 71 = .ok (.goto 4, 3) := dk_167 0 4 (dk_at dksX5_isEvenChange_3 1 rfl rfl)
theorem dX5_isEvenChange_74 : decode cX5_isEvenChange 74 = .ok (.iconst 0, 1) := dk_3 (dk_at dksX5_isEvenChange_3 4 rfl rfl)
theorem dX5_isEvenChange_75 : decode cX5_isEvenChange 75 = .ok (.ireturn, 1) := dk_172 (dk_at dksX5_isEvenChange_3 5 rfl rfl)
abbrev cX5_setMany : ByteArray := prog_8_method_33_code
def yX5_setMany : MethodName := ⟨RX5, "setMany", "()I"⟩
def dkwX5_setMany_1 : List UInt8 := [167, 0, 4, 3, 96, 60, 132, 2, 1, 167, 255, 227, 27, 172]
abbrev dktX5_setMany_1 : List UInt8 := dkwX5_setMany_1 ++ []
def dkwX5_setMany_0 : List UInt8 := [3, 60, 3, 61, 28, 42, 180, 0, 67, 162, 0, 27, 27, 42, 180, 0, 31, 28, 46, 28, 160, 0, 7, 4]
abbrev dktX5_setMany_0 : List UInt8 := dkwX5_setMany_0 ++ dktX5_setMany_1
theorem dksX5_setMany_0 : cX5_setMany.data.toList.drop 0 = dktX5_setMany_0 := by decide +kernel
theorem dksX5_setMany_1 : cX5_setMany.data.toList.drop 24 = dktX5_setMany_1 := dk_seg dksX5_setMany_0 24 rfl rfl
theorem dX5_setMany_0 : decode cX5_setMany 0 = .ok (.iconst 0, 1) := dk_3 (dk_at dksX5_setMany_0 0 rfl rfl)
theorem dX5_setMany_1 : decode cX5_setMany 1 = .ok (.istore_n 1, 1) := dk_60 (dk_at dksX5_setMany_0 1 rfl rfl)
theorem dX5_setMany_2 : decode cX5_setMany 2 = .ok (.iconst 0, 1) := dk_3 (dk_at dksX5_setMany_0 2 rfl rfl)
theorem dX5_setMany_3 : decode cX5_setMany 3 = .ok (.istore_n 2, 1) := dk_61 (dk_at dksX5_setMany_0 3 rfl rfl)
theorem dX5_setMany_4 : decode cX5_setMany 4 = .ok (.iload_n 2, 1) := dk_28 (dk_at dksX5_setMany_0 4 rfl rfl)
theorem dX5_setMany_5 : decode cX5_setMany 5 = .ok (.aload_n 0, 1) := dk_42 (dk_at dksX5_setMany_0 5 rfl rfl)
theorem dX5_setMany_6 : decode cX5_setMany 6 = .ok (.getfield 67, 3) := dk_180 0 67 (dk_at dksX5_setMany_0 6 rfl rfl)
theorem dX5_setMany_9 : decode cX5_setMany 9 = .ok (.if_icmp .ge 27, 3) := dk_162 0 27 (dk_at dksX5_setMany_0 9 rfl rfl)
theorem dX5_setMany_12 : decode cX5_setMany 12 = .ok (.iload_n 1, 1) := dk_27 (dk_at dksX5_setMany_0 12 rfl rfl)
theorem dX5_setMany_13 : decode cX5_setMany 13 = .ok (.aload_n 0, 1) := dk_42 (dk_at dksX5_setMany_0 13 rfl rfl)
theorem dX5_setMany_14 : decode cX5_setMany 14 = .ok (.getfield 31, 3) := dk_180 0 31 (dk_at dksX5_setMany_0 14 rfl rfl)
theorem dX5_setMany_17 : decode cX5_setMany 17 = .ok (.iload_n 2, 1) := dk_28 (dk_at dksX5_setMany_0 17 rfl rfl)
theorem dX5_setMany_18 : decode cX5_setMany 18 = .ok (.iaload, 1) := dk_46 (dk_at dksX5_setMany_0 18 rfl rfl)
theorem dX5_setMany_19 : decode cX5_setMany 19 = .ok (.iload_n 2, 1) := dk_28 (dk_at dksX5_setMany_0 19 rfl rfl)
theorem dX5_setMany_20 : decode cX5_setMany 20 = .ok (.if_icmp .ne 7, 3) := dk_160 0 7 (dk_at dksX5_setMany_0 20 rfl rfl)
theorem dX5_setMany_23 : decode cX5_setMany 23 = .ok (.iconst 1, 1) := dk_4 (dk_at dksX5_setMany_0 23 rfl rfl)
theorem dX5_setMany_24 : decode cX5_setMany 24 = .ok (.goto 4, 3) := dk_167 0 4 (dk_at dksX5_setMany_1 0 rfl rfl)
theorem dX5_setMany_27 : decode cX5_setMany 27 = .ok (.iconst 0, 1) := dk_3 (dk_at dksX5_setMany_1 3 rfl rfl)
theorem dX5_setMany_28 : decode cX5_setMany 28 = .ok (.iadd, 1) := dk_96 (dk_at dksX5_setMany_1 4 rfl rfl)
theorem dX5_setMany_29 : decode cX5_setMany 29 = .ok (.istore_n 1, 1) := dk_60 (dk_at dksX5_setMany_1 5 rfl rfl)
theorem dX5_setMany_30 : decode cX5_setMany 30 = .ok (.iinc 2 1, 3) := dk_132 2 1 (dk_at dksX5_setMany_1 6 rfl rfl)
theorem dX5_setMany_33 : decode cX5_setMany 33 = .ok (.goto (-29), 3) := dk_167 255 227 (dk_at dksX5_setMany_1 9 rfl rfl)
theorem dX5_setMany_36 : decode cX5_setMany 36 = .ok (.iload_n 1, 1) := dk_27 (dk_at dksX5_setMany_1 12 rfl rfl)
theorem dX5_setMany_37 : decode cX5_setMany 37 = .ok (.ireturn, 1) := dk_172 (dk_at dksX5_setMany_1 13 rfl rfl)
abbrev cX5_holes : ByteArray := prog_8_method_41_code
def yX5_holes : MethodName := ⟨RX5, "holes", "(I)I"⟩
def dkwX5_holes_7 : List UInt8 := [28, 100, 167, 0, 5, 21, 4, 172]
abbrev dktX5_holes_7 : List UInt8 := dkwX5_holes_7 ++ []
def dkwX5_holes_6 : List UInt8 := [132, 2, 1, 167, 255, 146, 27, 154, 0, 22, 42, 180, 0, 159, 42, 180, 0, 67, 100, 42, 182, 0, 156, 96]
abbrev dktX5_holes_6 : List UInt8 := dkwX5_holes_6 ++ dktX5_holes_7
def dkwX5_holes_5 : List UInt8 := [96, 62, 22, 5, 10, 148, 158, 0, 14, 29, 27, 160, 0, 9, 22, 5, 136, 167, 0, 5, 21, 4, 54, 4]
abbrev dktX5_holes_5 : List UInt8 := dkwX5_holes_5 ++ dktX5_holes_6
def dkwX5_holes_4 : List UInt8 := [167, 0, 9, 42, 28, 28, 182, 0, 173, 55, 5, 29, 22, 5, 10, 148, 158, 0, 7, 4, 167, 0, 4, 3]
abbrev dktX5_holes_4 : List UInt8 := dkwX5_holes_4 ++ dktX5_holes_5
def dkwX5_holes_3 : List UInt8 := [87, 167, 255, 242, 42, 28, 28, 182, 0, 173, 9, 148, 156, 0, 13, 42, 28, 28, 182, 0, 173, 117]
abbrev dktX5_holes_3 : List UInt8 := dkwX5_holes_3 ++ dktX5_holes_4
def dkwX5_holes_2 : List UInt8 := [162, 0, 100, 42, 28, 182, 0, 180, 153, 0, 92, 42, 28, 182, 0, 183, 154, 0, 12, 42, 28, 182, 0, 180]
abbrev dktX5_holes_2 : List UInt8 := dkwX5_holes_2 ++ dktX5_holes_3
def dkwX5_holes_1 : List UInt8 := [182, 0, 177, 3, 61, 3, 62, 2, 54, 4, 28, 42, 180, 0, 162, 162, 0, 108, 28, 42, 180, 0, 159]
abbrev dktX5_holes_1 : List UInt8 := dkwX5_holes_1 ++ dktX5_holes_2
def dkwX5_holes_0 : List UInt8 := [27, 156, 0, 6, 16, 254, 172, 42, 182, 0, 118, 42, 182, 0, 136, 153, 0, 6, 16, 253, 172, 42]
abbrev dktX5_holes_0 : List UInt8 := dkwX5_holes_0 ++ dktX5_holes_1
theorem dksX5_holes_0 : cX5_holes.data.toList.drop 0 = dktX5_holes_0 := by decide +kernel
theorem dksX5_holes_1 : cX5_holes.data.toList.drop 22 = dktX5_holes_1 := dk_seg dksX5_holes_0 22 rfl rfl
theorem dksX5_holes_2 : cX5_holes.data.toList.drop 45 = dktX5_holes_2 := dk_seg dksX5_holes_1 23 rfl rfl
theorem dksX5_holes_3 : cX5_holes.data.toList.drop 69 = dktX5_holes_3 := dk_seg dksX5_holes_2 24 rfl rfl
theorem dksX5_holes_4 : cX5_holes.data.toList.drop 91 = dktX5_holes_4 := dk_seg dksX5_holes_3 22 rfl rfl
theorem dksX5_holes_5 : cX5_holes.data.toList.drop 115 = dktX5_holes_5 := dk_seg dksX5_holes_4 24 rfl rfl
theorem dksX5_holes_6 : cX5_holes.data.toList.drop 139 = dktX5_holes_6 := dk_seg dksX5_holes_5 24 rfl rfl
theorem dksX5_holes_7 : cX5_holes.data.toList.drop 163 = dktX5_holes_7 := dk_seg dksX5_holes_6 24 rfl rfl
theorem dX5_holes_0 : decode cX5_holes 0 = .ok (.iload_n 1, 1) := dk_27 (dk_at dksX5_holes_0 0 rfl rfl)
theorem dX5_holes_1 : decode cX5_holes 1 = .ok (.ifCond .ge 6, 3) := dk_156 0 6 (dk_at dksX5_holes_0 1 rfl rfl)
theorem dX5_holes_4 : decode cX5_holes 4 = .ok (.bipush (-2), 2) := dk_16 254 (dk_at dksX5_holes_0 4 rfl rfl)
theorem dX5_holes_6 : decode cX5_holes 6 = .ok (.ireturn, 1) := dk_172 (dk_at dksX5_holes_0 6 rfl rfl)
theorem dX5_holes_7 : decode cX5_holes 7 = .ok (.aload_n 0, 1) := dk_42 (dk_at dksX5_holes_0 7 rfl rfl)
theorem dX5_holes_8 : decode cX5_holes 8 = .ok (.invokevirtual 118, 3) := dk_182 0 118 (dk_at dksX5_holes_0 8 rfl rfl)
theorem dX5_holes_11 : decode cX5_holes 11 = .ok (.aload_n 0, 1) := dk_42 (dk_at dksX5_holes_0 11 rfl rfl)
theorem dX5_holes_12 : decode cX5_holes 12 = .ok (.invokevirtual 136, 3) := dk_182 0 136 (dk_at dksX5_holes_0 12 rfl rfl)
theorem dX5_holes_15 : decode cX5_holes 15 = .ok (.ifCond .eq 6, 3) := dk_153 0 6 (dk_at dksX5_holes_0 15 rfl rfl)
theorem dX5_holes_18 : decode cX5_holes 18 = .ok (.bipush (-3), 2) := dk_16 253 (dk_at dksX5_holes_0 18 rfl rfl)
theorem dX5_holes_20 : decode cX5_holes 20 = .ok (.ireturn, 1) := dk_172 (dk_at dksX5_holes_0 20 rfl rfl)
theorem dX5_holes_21 : decode cX5_holes 21 = .ok (.aload_n 0, 1) := dk_42 (dk_at dksX5_holes_0 21 rfl rfl)
theorem dX5_holes_22 : decode cX5_holes 22 = .ok (.invokevirtual 177, 3) := dk_182 0 177 (dk_at dksX5_holes_1 0 rfl rfl)
theorem dX5_holes_25 : decode cX5_holes 25 = .ok (.iconst 0, 1) := dk_3 (dk_at dksX5_holes_1 3 rfl rfl)
theorem dX5_holes_26 : decode cX5_holes 26 = .ok (.istore_n 2, 1) := dk_61 (dk_at dksX5_holes_1 4 rfl rfl)
theorem dX5_holes_27 : decode cX5_holes 27 = .ok (.iconst 0, 1) := dk_3 (dk_at dksX5_holes_1 5 rfl rfl)
theorem dX5_holes_28 : decode cX5_holes 28 = .ok (.istore_n 3, 1) := dk_62 (dk_at dksX5_holes_1 6 rfl rfl)
theorem dX5_holes_29 : decode cX5_holes 29 = .ok (.iconst (-1), 1) := dk_2 (dk_at dksX5_holes_1 7 rfl rfl)
theorem dX5_holes_30 : decode cX5_holes 30 = .ok (.istore 4, 2) := dk_54 4 (dk_at dksX5_holes_1 8 rfl rfl)
theorem dX5_holes_32 : decode cX5_holes 32 = .ok (.iload_n 2, 1) := dk_28 (dk_at dksX5_holes_1 10 rfl rfl)
theorem dX5_holes_33 : decode cX5_holes 33 = .ok (.aload_n 0, 1) := dk_42 (dk_at dksX5_holes_1 11 rfl rfl)
theorem dX5_holes_34 : decode cX5_holes 34 = .ok (.getfield 162, 3) := dk_180 0 162 (dk_at dksX5_holes_1 12 rfl rfl)
theorem dX5_holes_37 : decode cX5_holes 37 = .ok (.if_icmp .ge 108, 3) := dk_162 0 108 (dk_at dksX5_holes_1 15 rfl rfl)
theorem dX5_holes_40 : decode cX5_holes 40 = .ok (.iload_n 2, 1) := dk_28 (dk_at dksX5_holes_1 18 rfl rfl)
theorem dX5_holes_41 : decode cX5_holes 41 = .ok (.aload_n 0, 1) := dk_42 (dk_at dksX5_holes_1 19 rfl rfl)
theorem dX5_holes_42 : decode cX5_holes 42 = .ok (.getfield 159, 3) := dk_180 0 159 (dk_at dksX5_holes_1 20 rfl rfl)
theorem dX5_holes_45 : decode cX5_holes 45 = .ok (.if_icmp .ge 100, 3) := dk_162 0 100 (dk_at dksX5_holes_2 0 rfl rfl)
theorem dX5_holes_48 : decode cX5_holes 48 = .ok (.aload_n 0, 1) := dk_42 (dk_at dksX5_holes_2 3 rfl rfl)
theorem dX5_holes_49 : decode cX5_holes 49 = .ok (.iload_n 2, 1) := dk_28 (dk_at dksX5_holes_2 4 rfl rfl)
theorem dX5_holes_50 : decode cX5_holes 50 = .ok (.invokevirtual 180, 3) := dk_182 0 180 (dk_at dksX5_holes_2 5 rfl rfl)
theorem dX5_holes_53 : decode cX5_holes 53 = .ok (.ifCond .eq 92, 3) := dk_153 0 92 (dk_at dksX5_holes_2 8 rfl rfl)
theorem dX5_holes_56 : decode cX5_holes 56 = .ok (.aload_n 0, 1) := dk_42 (dk_at dksX5_holes_2 11 rfl rfl)
theorem dX5_holes_57 : decode cX5_holes 57 = .ok (.iload_n 2, 1) := dk_28 (dk_at dksX5_holes_2 12 rfl rfl)
theorem dX5_holes_58 : decode cX5_holes 58 = .ok (.invokevirtual 183, 3) := dk_182 0 183 (dk_at dksX5_holes_2 13 rfl rfl)
theorem dX5_holes_61 : decode cX5_holes 61 = .ok (.ifCond .ne 12, 3) := dk_154 0 12 (dk_at dksX5_holes_2 16 rfl rfl)
theorem dX5_holes_64 : decode cX5_holes 64 = .ok (.aload_n 0, 1) := dk_42 (dk_at dksX5_holes_2 19 rfl rfl)
theorem dX5_holes_65 : decode cX5_holes 65 = .ok (.iload_n 2, 1) := dk_28 (dk_at dksX5_holes_2 20 rfl rfl)
theorem dX5_holes_66 : decode cX5_holes 66 = .ok (.invokevirtual 180, 3) := dk_182 0 180 (dk_at dksX5_holes_2 21 rfl rfl)
theorem dX5_holes_69 : decode cX5_holes 69 = .ok (.pop, 1) := dk_87 (dk_at dksX5_holes_3 0 rfl rfl)
theorem dX5_holes_70 : decode cX5_holes 70 = .ok (.goto (-14), 3) := dk_167 255 242 (dk_at dksX5_holes_3 1 rfl rfl)
theorem dX5_holes_73 : decode cX5_holes 73 = .ok (.aload_n 0, 1) := dk_42 (dk_at dksX5_holes_3 4 rfl rfl)
theorem dX5_holes_74 : decode cX5_holes 74 = .ok (.iload_n 2, 1) := dk_28 (dk_at dksX5_holes_3 5 rfl rfl)
theorem dX5_holes_75 : decode cX5_holes 75 = .ok (.iload_n 2, 1) := dk_28 (dk_at dksX5_holes_3 6 rfl rfl)
theorem dX5_holes_76 : decode cX5_holes 76 = .ok (.invokevirtual 173, 3) := dk_182 0 173 (dk_at dksX5_holes_3 7 rfl rfl)
theorem dX5_holes_79 : decode cX5_holes 79 = .ok (.lconst 0, 1) := dk_9 (dk_at dksX5_holes_3 10 rfl rfl)
theorem dX5_holes_80 : decode cX5_holes 80 = .ok (.lcmp, 1) := dk_148 (dk_at dksX5_holes_3 11 rfl rfl)
theorem dX5_holes_81 : decode cX5_holes 81 = .ok (.ifCond .ge 13, 3) := dk_156 0 13 (dk_at dksX5_holes_3 12 rfl rfl)
theorem dX5_holes_84 : decode cX5_holes 84 = .ok (.aload_n 0, 1) := dk_42 (dk_at dksX5_holes_3 15 rfl rfl)
theorem dX5_holes_85 : decode cX5_holes 85 = .ok (.iload_n 2, 1) := dk_28 (dk_at dksX5_holes_3 16 rfl rfl)
theorem dX5_holes_86 : decode cX5_holes 86 = .ok (.iload_n 2, 1) := dk_28 (dk_at dksX5_holes_3 17 rfl rfl)
theorem dX5_holes_87 : decode cX5_holes 87 = .ok (.invokevirtual 173, 3) := dk_182 0 173 (dk_at dksX5_holes_3 18 rfl rfl)
theorem dX5_holes_90 : decode cX5_holes 90 = .ok (.lneg, 1) := dk_117 (dk_at dksX5_holes_3 21 rfl rfl)
theorem dX5_holes_91 : decode cX5_holes 91 = .ok (.goto 9, 3) := dk_167 0 9 (dk_at dksX5_holes_4 0 rfl rfl)
theorem dX5_holes_94 : decode cX5_holes 94 = .ok (.aload_n 0, 1) := dk_42 (dk_at dksX5_holes_4 3 rfl rfl)
theorem dX5_holes_95 : decode cX5_holes 95 = .ok (.iload_n 2, 1) := dk_28 (dk_at dksX5_holes_4 4 rfl rfl)
theorem dX5_holes_96 : decode cX5_holes 96 = .ok (.iload_n 2, 1) := dk_28 (dk_at dksX5_holes_4 5 rfl rfl)
theorem dX5_holes_97 : decode cX5_holes 97 = .ok (.invokevirtual 173, 3) := dk_182 0 173 (dk_at dksX5_holes_4 6 rfl rfl)
theorem dX5_holes_100 : decode cX5_holes 100 = .ok (.lstore 5, 2) := dk_55 5 (dk_at dksX5_holes_4 9 rfl rfl)
theorem dX5_holes_102 : decode cX5_holes 102 = .ok (.iload_n 3, 1) := dk_29 (dk_at dksX5_holes_4 11 rfl rfl)
theorem dX5_holes_103 : decode cX5_holes 103 = .ok (.lload 5, 2) := dk_22 5 (dk_at dksX5_holes_4 12 rfl rfl)
theorem dX5_holes_105 : decode cX5_holes 105 = .ok (.lconst 1, 1) := dk_10 (dk_at dksX5_holes_4 14 rfl rfl)
theorem dX5_holes_106 : decode cX5_holes 106 = .ok (.lcmp, 1) := dk_148 (dk_at dksX5_holes_4 15 rfl rfl)
theorem dX5_holes_107 : decode cX5_holes 107 = .ok (.ifCond .le 7, 3) := dk_158 0 7 (dk_at dksX5_holes_4 16 rfl rfl)
theorem dX5_holes_110 : decode cX5_holes 110 = .ok (.iconst 1, 1) := dk_4 (dk_at dksX5_holes_4 19 rfl rfl)
theorem dX5_holes_111 : decode cX5_holes 111 = .ok (.goto 4, 3) := dk_167 0 4 (dk_at dksX5_holes_4 20 rfl rfl)
theorem dX5_holes_114 : decode cX5_holes 114 = .ok (.iconst 0, 1) := dk_3 (dk_at dksX5_holes_4 23 rfl rfl)
theorem dX5_holes_115 : decode cX5_holes 115 = .ok (.iadd, 1) := dk_96 (dk_at dksX5_holes_5 0 rfl rfl)
theorem dX5_holes_116 : decode cX5_holes 116 = .ok (.istore_n 3, 1) := dk_62 (dk_at dksX5_holes_5 1 rfl rfl)
theorem dX5_holes_117 : decode cX5_holes 117 = .ok (.lload 5, 2) := dk_22 5 (dk_at dksX5_holes_5 2 rfl rfl)
theorem dX5_holes_119 : decode cX5_holes 119 = .ok (.lconst 1, 1) := dk_10 (dk_at dksX5_holes_5 4 rfl rfl)
theorem dX5_holes_120 : decode cX5_holes 120 = .ok (.lcmp, 1) := dk_148 (dk_at dksX5_holes_5 5 rfl rfl)
theorem dX5_holes_121 : decode cX5_holes 121 = .ok (.ifCond .le 14, 3) := dk_158 0 14 (dk_at dksX5_holes_5 6 rfl rfl)
theorem dX5_holes_124 : decode cX5_holes 124 = .ok (.iload_n 3, 1) := dk_29 (dk_at dksX5_holes_5 9 rfl rfl)
theorem dX5_holes_125 : decode cX5_holes 125 = .ok (.iload_n 1, 1) := dk_27 (dk_at dksX5_holes_5 10 rfl rfl)
theorem dX5_holes_126 : decode cX5_holes 126 = .ok (.if_icmp .ne 9, 3) := dk_160 0 9 (dk_at dksX5_holes_5 11 rfl rfl)
theorem dX5_holes_129 : decode cX5_holes 129 = .ok (.lload 5, 2) := dk_22 5 (dk_at dksX5_holes_5 14 rfl rfl)
theorem dX5_holes_131 : decode cX5_holes 131 = .ok (.l2i, 1) := dk_136 (dk_at dksX5_holes_5 16 rfl rfl)
theorem dX5_holes_132 : decode cX5_holes 132 = .ok (.goto 5, 3) := dk_167 0 5 (dk_at dksX5_holes_5 17 rfl rfl)
theorem dX5_holes_135 : decode cX5_holes 135 = .ok (.iload 4, 2) := dk_21 4 (dk_at dksX5_holes_5 20 rfl rfl)
theorem dX5_holes_137 : decode cX5_holes 137 = .ok (.istore 4, 2) := dk_54 4 (dk_at dksX5_holes_5 22 rfl rfl)
theorem dX5_holes_139 : decode cX5_holes 139 = .ok (.iinc 2 1, 3) := dk_132 2 1 (dk_at dksX5_holes_6 0 rfl rfl)
theorem dX5_holes_142 : decode cX5_holes 142 = .ok (.goto (-110), 3) := dk_167 255 146 (dk_at dksX5_holes_6 3 rfl rfl)
theorem dX5_holes_145 : decode cX5_holes 145 = .ok (.iload_n 1, 1) := dk_27 (dk_at dksX5_holes_6 6 rfl rfl)
theorem dX5_holes_146 : decode cX5_holes 146 = .ok (.ifCond .ne 22, 3) := dk_154 0 22 (dk_at dksX5_holes_6 7 rfl rfl)
theorem dX5_holes_149 : decode cX5_holes 149 = .ok (.aload_n 0, 1) := dk_42 (dk_at dksX5_holes_6 10 rfl rfl)
theorem dX5_holes_150 : decode cX5_holes 150 = .ok (.getfield 159, 3) := dk_180 0 159 (dk_at dksX5_holes_6 11 rfl rfl)
theorem dX5_holes_153 : decode cX5_holes 153 = .ok (.aload_n 0, 1) := dk_42 (dk_at dksX5_holes_6 14 rfl rfl)
theorem dX5_holes_154 : decode cX5_holes 154 = .ok (.getfield 67, 3) := dk_180 0 67 (dk_at dksX5_holes_6 15 rfl rfl)
theorem dX5_holes_157 : decode cX5_holes 157 = .ok (.isub, 1) := dk_100 (dk_at dksX5_holes_6 18 rfl rfl)
theorem dX5_holes_158 : decode cX5_holes 158 = .ok (.aload_n 0, 1) := dk_42 (dk_at dksX5_holes_6 19 rfl rfl)
theorem dX5_holes_159 : decode cX5_holes 159 = .ok (.invokevirtual 156, 3) := dk_182 0 156 (dk_at dksX5_holes_6 20 rfl rfl)
theorem dX5_holes_162 : decode cX5_holes 162 = .ok (.iadd, 1) := dk_96 (dk_at dksX5_holes_6 23 rfl rfl)
theorem dX5_holes_163 : decode cX5_holes 163 = .ok (.iload_n 2, 1) := dk_28 (dk_at dksX5_holes_7 0 rfl rfl)
theorem dX5_holes_164 : decode cX5_holes 164 = .ok (.isub, 1) := dk_100 (dk_at dksX5_holes_7 1 rfl rfl)
theorem dX5_holes_165 : decode cX5_holes 165 = .ok (.goto 5, 3) := dk_167 0 5 (dk_at dksX5_holes_7 2 rfl rfl)
theorem dX5_holes_168 : decode cX5_holes 168 = .ok (.iload 4, 2) := dk_21 4 (dk_at dksX5_holes_7 5 rfl rfl)
theorem dX5_holes_170 : decode cX5_holes 170 = .ok (.ireturn, 1) := dk_172 (dk_at dksX5_holes_7 7 rfl rfl)
abbrev cX5_layLoops : ByteArray := prog_8_method_37_code
def yX5_layLoops : MethodName := ⟨RX5, "layLoops", "()V"⟩
def dkwX5_layLoops_2 : List UInt8 := [132, 1, 1, 167, 255, 216, 177]
abbrev dktX5_layLoops_2 : List UInt8 := dkwX5_layLoops_2 ++ []
def dkwX5_layLoops_1 : List UInt8 := [182, 0, 105, 153, 0, 21, 42, 27, 182, 0, 170, 153, 0, 13, 42, 89, 180, 0, 162, 4, 96, 181, 0, 162]
abbrev dktX5_layLoops_1 : List UInt8 := dkwX5_layLoops_1 ++ dktX5_layLoops_2
def dkwX5_layLoops_0 : List UInt8 := [42, 182, 0, 167, 42, 3, 181, 0, 162, 3, 60, 27, 16, 6, 42, 180, 0, 67, 104, 162, 0, 35, 42, 27]
abbrev dktX5_layLoops_0 : List UInt8 := dkwX5_layLoops_0 ++ dktX5_layLoops_1
theorem dksX5_layLoops_0 : cX5_layLoops.data.toList.drop 0 = dktX5_layLoops_0 := by decide +kernel
theorem dksX5_layLoops_1 : cX5_layLoops.data.toList.drop 24 = dktX5_layLoops_1 := dk_seg dksX5_layLoops_0 24 rfl rfl
theorem dksX5_layLoops_2 : cX5_layLoops.data.toList.drop 48 = dktX5_layLoops_2 := dk_seg dksX5_layLoops_1 24 rfl rfl
theorem dX5_layLoops_0 : decode cX5_layLoops 0 = .ok (.aload_n 0, 1) := dk_42 (dk_at dksX5_layLoops_0 0 rfl rfl)
theorem dX5_layLoops_1 : decode cX5_layLoops 1 = .ok (.invokevirtual 167, 3) := dk_182 0 167 (dk_at dksX5_layLoops_0 1 rfl rfl)
theorem dX5_layLoops_4 : decode cX5_layLoops 4 = .ok (.aload_n 0, 1) := dk_42 (dk_at dksX5_layLoops_0 4 rfl rfl)
theorem dX5_layLoops_5 : decode cX5_layLoops 5 = .ok (.iconst 0, 1) := dk_3 (dk_at dksX5_layLoops_0 5 rfl rfl)
theorem dX5_layLoops_6 : decode cX5_layLoops 6 = .ok (.putfield 162, 3) := dk_181 0 162 (dk_at dksX5_layLoops_0 6 rfl rfl)
theorem dX5_layLoops_9 : decode cX5_layLoops 9 = .ok (.iconst 0, 1) := dk_3 (dk_at dksX5_layLoops_0 9 rfl rfl)
theorem dX5_layLoops_10 : decode cX5_layLoops 10 = .ok (.istore_n 1, 1) := dk_60 (dk_at dksX5_layLoops_0 10 rfl rfl)
theorem dX5_layLoops_11 : decode cX5_layLoops 11 = .ok (.iload_n 1, 1) := dk_27 (dk_at dksX5_layLoops_0 11 rfl rfl)
theorem dX5_layLoops_12 : decode cX5_layLoops 12 = .ok (.bipush 6, 2) := dk_16 6 (dk_at dksX5_layLoops_0 12 rfl rfl)
theorem dX5_layLoops_14 : decode cX5_layLoops 14 = .ok (.aload_n 0, 1) := dk_42 (dk_at dksX5_layLoops_0 14 rfl rfl)
theorem dX5_layLoops_15 : decode cX5_layLoops 15 = .ok (.getfield 67, 3) := dk_180 0 67 (dk_at dksX5_layLoops_0 15 rfl rfl)
theorem dX5_layLoops_18 : decode cX5_layLoops 18 = .ok (.imul, 1) := dk_104 (dk_at dksX5_layLoops_0 18 rfl rfl)
theorem dX5_layLoops_19 : decode cX5_layLoops 19 = .ok (.if_icmp .ge 35, 3) := dk_162 0 35 (dk_at dksX5_layLoops_0 19 rfl rfl)
theorem dX5_layLoops_22 : decode cX5_layLoops 22 = .ok (.aload_n 0, 1) := dk_42 (dk_at dksX5_layLoops_0 22 rfl rfl)
theorem dX5_layLoops_23 : decode cX5_layLoops 23 = .ok (.iload_n 1, 1) := dk_27 (dk_at dksX5_layLoops_0 23 rfl rfl)
theorem dX5_layLoops_24 : decode cX5_layLoops 24 = .ok (.invokevirtual 105, 3) := dk_182 0 105 (dk_at dksX5_layLoops_1 0 rfl rfl)
theorem dX5_layLoops_27 : decode cX5_layLoops 27 = .ok (.ifCond .eq 21, 3) := dk_153 0 21 (dk_at dksX5_layLoops_1 3 rfl rfl)
theorem dX5_layLoops_30 : decode cX5_layLoops 30 = .ok (.aload_n 0, 1) := dk_42 (dk_at dksX5_layLoops_1 6 rfl rfl)
theorem dX5_layLoops_31 : decode cX5_layLoops 31 = .ok (.iload_n 1, 1) := dk_27 (dk_at dksX5_layLoops_1 7 rfl rfl)
theorem dX5_layLoops_32 : decode cX5_layLoops 32 = .ok (.invokevirtual 170, 3) := dk_182 0 170 (dk_at dksX5_layLoops_1 8 rfl rfl)
theorem dX5_layLoops_35 : decode cX5_layLoops 35 = .ok (.ifCond .eq 13, 3) := dk_153 0 13 (dk_at dksX5_layLoops_1 11 rfl rfl)
theorem dX5_layLoops_38 : decode cX5_layLoops 38 = .ok (.aload_n 0, 1) := dk_42 (dk_at dksX5_layLoops_1 14 rfl rfl)
theorem dX5_layLoops_39 : decode cX5_layLoops 39 = .ok (.dup, 1) := dk_89 (dk_at dksX5_layLoops_1 15 rfl rfl)
theorem dX5_layLoops_40 : decode cX5_layLoops 40 = .ok (.getfield 162, 3) := dk_180 0 162 (dk_at dksX5_layLoops_1 16 rfl rfl)
theorem dX5_layLoops_43 : decode cX5_layLoops 43 = .ok (.iconst 1, 1) := dk_4 (dk_at dksX5_layLoops_1 19 rfl rfl)
theorem dX5_layLoops_44 : decode cX5_layLoops 44 = .ok (.iadd, 1) := dk_96 (dk_at dksX5_layLoops_1 20 rfl rfl)
theorem dX5_layLoops_45 : decode cX5_layLoops 45 = .ok (.putfield 162, 3) := dk_181 0 162 (dk_at dksX5_layLoops_1 21 rfl rfl)
theorem dX5_layLoops_48 : decode cX5_layLoops 48 = .ok (.iinc 1 1, 3) := dk_132 1 1 (dk_at dksX5_layLoops_2 0 rfl rfl)
theorem dX5_layLoops_51 : decode cX5_layLoops 51 = .ok (.goto (-40), 3) := dk_167 255 216 (dk_at dksX5_layLoops_2 3 rfl rfl)
theorem dX5_layLoops_54 : decode cX5_layLoops 54 = .ok (.return_, 1) := dk_177 (dk_at dksX5_layLoops_2 6 rfl rfl)
abbrev cX5_findPairs : ByteArray := prog_8_method_35_code
def yX5_findPairs : MethodName := ⟨RX5, "findPairs", "()V"⟩
def dkwX5_findPairs_3 : List UInt8 := [132, 1, 1, 167, 255, 188, 177]
abbrev dktX5_findPairs_3 : List UInt8 := dkwX5_findPairs_3 ++ []
def dkwX5_findPairs_2 : List UInt8 := [180, 0, 38, 42, 180, 0, 7, 27, 46, 42, 180, 0, 159, 79, 42, 89, 180, 0, 159, 4, 96, 181, 0, 159]
abbrev dktX5_findPairs_2 : List UInt8 := dkwX5_findPairs_2 ++ dktX5_findPairs_3
def dkwX5_findPairs_1 : List UInt8 := [159, 0, 48, 27, 42, 180, 0, 7, 27, 46, 162, 0, 38, 42, 180, 0, 38, 27, 42, 180, 0, 159, 79, 42]
abbrev dktX5_findPairs_1 : List UInt8 := dkwX5_findPairs_1 ++ dktX5_findPairs_2
def dkwX5_findPairs_0 : List UInt8 := [42, 3, 181, 0, 159, 3, 60, 27, 7, 42, 180, 0, 67, 104, 162, 0, 64, 42, 180, 0, 7, 27, 46, 2]
abbrev dktX5_findPairs_0 : List UInt8 := dkwX5_findPairs_0 ++ dktX5_findPairs_1
theorem dksX5_findPairs_0 : cX5_findPairs.data.toList.drop 0 = dktX5_findPairs_0 := by decide +kernel
theorem dksX5_findPairs_1 : cX5_findPairs.data.toList.drop 24 = dktX5_findPairs_1 := dk_seg dksX5_findPairs_0 24 rfl rfl
theorem dksX5_findPairs_2 : cX5_findPairs.data.toList.drop 48 = dktX5_findPairs_2 := dk_seg dksX5_findPairs_1 24 rfl rfl
theorem dksX5_findPairs_3 : cX5_findPairs.data.toList.drop 72 = dktX5_findPairs_3 := dk_seg dksX5_findPairs_2 24 rfl rfl
theorem dX5_findPairs_0 : decode cX5_findPairs 0 = .ok (.aload_n 0, 1) := dk_42 (dk_at dksX5_findPairs_0 0 rfl rfl)
theorem dX5_findPairs_1 : decode cX5_findPairs 1 = .ok (.iconst 0, 1) := dk_3 (dk_at dksX5_findPairs_0 1 rfl rfl)
theorem dX5_findPairs_2 : decode cX5_findPairs 2 = .ok (.putfield 159, 3) := dk_181 0 159 (dk_at dksX5_findPairs_0 2 rfl rfl)
theorem dX5_findPairs_5 : decode cX5_findPairs 5 = .ok (.iconst 0, 1) := dk_3 (dk_at dksX5_findPairs_0 5 rfl rfl)
theorem dX5_findPairs_6 : decode cX5_findPairs 6 = .ok (.istore_n 1, 1) := dk_60 (dk_at dksX5_findPairs_0 6 rfl rfl)
theorem dX5_findPairs_7 : decode cX5_findPairs 7 = .ok (.iload_n 1, 1) := dk_27 (dk_at dksX5_findPairs_0 7 rfl rfl)
theorem dX5_findPairs_8 : decode cX5_findPairs 8 = .ok (.iconst 4, 1) := dk_7 (dk_at dksX5_findPairs_0 8 rfl rfl)
theorem dX5_findPairs_9 : decode cX5_findPairs 9 = .ok (.aload_n 0, 1) := dk_42 (dk_at dksX5_findPairs_0 9 rfl rfl)
theorem dX5_findPairs_10 : decode cX5_findPairs 10 = .ok (.getfield 67, 3) := dk_180 0 67 (dk_at dksX5_findPairs_0 10 rfl rfl)
theorem dX5_findPairs_13 : decode cX5_findPairs 13 = .ok (.imul, 1) := dk_104 (dk_at dksX5_findPairs_0 13 rfl rfl)
theorem dX5_findPairs_14 : decode cX5_findPairs 14 = .ok (.if_icmp .ge 64, 3) := dk_162 0 64 (dk_at dksX5_findPairs_0 14 rfl rfl)
theorem dX5_findPairs_17 : decode cX5_findPairs 17 = .ok (.aload_n 0, 1) := dk_42 (dk_at dksX5_findPairs_0 17 rfl rfl)
theorem dX5_findPairs_18 : decode cX5_findPairs 18 = .ok (.getfield 7, 3) := dk_180 0 7 (dk_at dksX5_findPairs_0 18 rfl rfl)
theorem dX5_findPairs_21 : decode cX5_findPairs 21 = .ok (.iload_n 1, 1) := dk_27 (dk_at dksX5_findPairs_0 21 rfl rfl)
theorem dX5_findPairs_22 : decode cX5_findPairs 22 = .ok (.iaload, 1) := dk_46 (dk_at dksX5_findPairs_0 22 rfl rfl)
theorem dX5_findPairs_23 : decode cX5_findPairs 23 = .ok (.iconst (-1), 1) := dk_2 (dk_at dksX5_findPairs_0 23 rfl rfl)
theorem dX5_findPairs_24 : decode cX5_findPairs 24 = .ok (.if_icmp .eq 48, 3) := dk_159 0 48 (dk_at dksX5_findPairs_1 0 rfl rfl)
theorem dX5_findPairs_27 : decode cX5_findPairs 27 = .ok (.iload_n 1, 1) := dk_27 (dk_at dksX5_findPairs_1 3 rfl rfl)
theorem dX5_findPairs_28 : decode cX5_findPairs 28 = .ok (.aload_n 0, 1) := dk_42 (dk_at dksX5_findPairs_1 4 rfl rfl)
theorem dX5_findPairs_29 : decode cX5_findPairs 29 = .ok (.getfield 7, 3) := dk_180 0 7 (dk_at dksX5_findPairs_1 5 rfl rfl)
theorem dX5_findPairs_32 : decode cX5_findPairs 32 = .ok (.iload_n 1, 1) := dk_27 (dk_at dksX5_findPairs_1 8 rfl rfl)
theorem dX5_findPairs_33 : decode cX5_findPairs 33 = .ok (.iaload, 1) := dk_46 (dk_at dksX5_findPairs_1 9 rfl rfl)
theorem dX5_findPairs_34 : decode cX5_findPairs 34 = .ok (.if_icmp .ge 38, 3) := dk_162 0 38 (dk_at dksX5_findPairs_1 10 rfl rfl)
theorem dX5_findPairs_37 : decode cX5_findPairs 37 = .ok (.aload_n 0, 1) := dk_42 (dk_at dksX5_findPairs_1 13 rfl rfl)
theorem dX5_findPairs_38 : decode cX5_findPairs 38 = .ok (.getfield 38, 3) := dk_180 0 38 (dk_at dksX5_findPairs_1 14 rfl rfl)
theorem dX5_findPairs_41 : decode cX5_findPairs 41 = .ok (.iload_n 1, 1) := dk_27 (dk_at dksX5_findPairs_1 17 rfl rfl)
theorem dX5_findPairs_42 : decode cX5_findPairs 42 = .ok (.aload_n 0, 1) := dk_42 (dk_at dksX5_findPairs_1 18 rfl rfl)
theorem dX5_findPairs_43 : decode cX5_findPairs 43 = .ok (.getfield 159, 3) := dk_180 0 159 (dk_at dksX5_findPairs_1 19 rfl rfl)
theorem dX5_findPairs_46 : decode cX5_findPairs 46 = .ok (.iastore, 1) := dk_79 (dk_at dksX5_findPairs_1 22 rfl rfl)
theorem dX5_findPairs_47 : decode cX5_findPairs 47 = .ok (.aload_n 0, 1) := dk_42 (dk_at dksX5_findPairs_1 23 rfl rfl)
theorem dX5_findPairs_48 : decode cX5_findPairs 48 = .ok (.getfield 38, 3) := dk_180 0 38 (dk_at dksX5_findPairs_2 0 rfl rfl)
theorem dX5_findPairs_51 : decode cX5_findPairs 51 = .ok (.aload_n 0, 1) := dk_42 (dk_at dksX5_findPairs_2 3 rfl rfl)
theorem dX5_findPairs_52 : decode cX5_findPairs 52 = .ok (.getfield 7, 3) := dk_180 0 7 (dk_at dksX5_findPairs_2 4 rfl rfl)
theorem dX5_findPairs_55 : decode cX5_findPairs 55 = .ok (.iload_n 1, 1) := dk_27 (dk_at dksX5_findPairs_2 7 rfl rfl)
theorem dX5_findPairs_56 : decode cX5_findPairs 56 = .ok (.iaload, 1) := dk_46 (dk_at dksX5_findPairs_2 8 rfl rfl)
theorem dX5_findPairs_57 : decode cX5_findPairs 57 = .ok (.aload_n 0, 1) := dk_42 (dk_at dksX5_findPairs_2 9 rfl rfl)
theorem dX5_findPairs_58 : decode cX5_findPairs 58 = .ok (.getfield 159, 3) := dk_180 0 159 (dk_at dksX5_findPairs_2 10 rfl rfl)
theorem dX5_findPairs_61 : decode cX5_findPairs 61 = .ok (.iastore, 1) := dk_79 (dk_at dksX5_findPairs_2 13 rfl rfl)
theorem dX5_findPairs_62 : decode cX5_findPairs 62 = .ok (.aload_n 0, 1) := dk_42 (dk_at dksX5_findPairs_2 14 rfl rfl)
theorem dX5_findPairs_63 : decode cX5_findPairs 63 = .ok (.dup, 1) := dk_89 (dk_at dksX5_findPairs_2 15 rfl rfl)
theorem dX5_findPairs_64 : decode cX5_findPairs 64 = .ok (.getfield 159, 3) := dk_180 0 159 (dk_at dksX5_findPairs_2 16 rfl rfl)
theorem dX5_findPairs_67 : decode cX5_findPairs 67 = .ok (.iconst 1, 1) := dk_4 (dk_at dksX5_findPairs_2 19 rfl rfl)
theorem dX5_findPairs_68 : decode cX5_findPairs 68 = .ok (.iadd, 1) := dk_96 (dk_at dksX5_findPairs_2 20 rfl rfl)
theorem dX5_findPairs_69 : decode cX5_findPairs 69 = .ok (.putfield 159, 3) := dk_181 0 159 (dk_at dksX5_findPairs_2 21 rfl rfl)
theorem dX5_findPairs_72 : decode cX5_findPairs 72 = .ok (.iinc 1 1, 3) := dk_132 1 1 (dk_at dksX5_findPairs_3 0 rfl rfl)
theorem dX5_findPairs_75 : decode cX5_findPairs 75 = .ok (.goto (-68), 3) := dk_167 255 188 (dk_at dksX5_findPairs_3 3 rfl rfl)
theorem dX5_findPairs_78 : decode cX5_findPairs 78 = .ok (.return_, 1) := dk_177 (dk_at dksX5_findPairs_3 6 rfl rfl)
abbrev cX5_goAround : ByteArray := prog_8_method_36_code
def yX5_goAround : MethodName := ⟨RX5, "goAround", "(I)Z"⟩
def dkwX5_goAround_11 : List UInt8 := [160, 0, 10, 21, 5, 21, 7, 159, 0, 7, 4, 167, 0, 4, 3, 54, 8, 167, 255, 86, 4, 172]
abbrev dktX5_goAround_11 : List UInt8 := dkwX5_goAround_11 ++ []
def dkwX5_goAround_10 : List UInt8 := [21, 10, 61, 21, 12, 62, 21, 13, 54, 4, 16, 16, 28, 104, 7, 29, 104, 96, 21, 4, 96, 21, 6]
abbrev dktX5_goAround_10 : List UInt8 := dkwX5_goAround_10 ++ dktX5_goAround_11
def dkwX5_goAround_9 : List UInt8 := [7, 21, 9, 104, 21, 4, 96, 46, 54, 13, 16, 6, 21, 12, 100, 21, 13, 100, 21, 11, 100, 54, 5]
abbrev dktX5_goAround_9 : List UInt8 := dkwX5_goAround_9 ++ dktX5_goAround_10
def dkwX5_goAround_8 : List UInt8 := [21, 9, 46, 7, 112, 54, 11, 42, 180, 0, 13, 7, 21, 9, 104, 29, 96, 46, 54, 12, 42, 180, 0, 13]
abbrev dktX5_goAround_8 : List UInt8 := dkwX5_goAround_8 ++ dktX5_goAround_9
def dkwX5_goAround_7 : List UInt8 := [167, 0, 6, 20, 0, 165, 97, 80, 42, 180, 0, 7, 21, 9, 46, 7, 108, 54, 10, 42, 180, 0, 7]
abbrev dktX5_goAround_7 : List UInt8 := dkwX5_goAround_7 ++ dktX5_goAround_8
def dkwX5_goAround_6 : List UInt8 := [180, 0, 38, 21, 9, 46, 96, 92, 47, 21, 9, 42, 180, 0, 7, 21, 9, 46, 162, 0, 7, 10]
abbrev dktX5_goAround_6 : List UInt8 := dkwX5_goAround_6 ++ dktX5_goAround_7
def dkwX5_goAround_5 : List UInt8 := [180, 0, 7, 21, 9, 46, 2, 160, 0, 5, 3, 172, 42, 180, 0, 34, 16, 6, 42, 180, 0, 162, 104, 42]
abbrev dktX5_goAround_5 : List UInt8 := dkwX5_goAround_5 ++ dktX5_goAround_6
def dkwX5_goAround_4 : List UInt8 := [132, 8, 1, 167, 255, 228, 4, 54, 8, 21, 8, 153, 0, 171, 7, 28, 104, 21, 5, 96, 54, 9, 42]
abbrev dktX5_goAround_4 : List UInt8 := dkwX5_goAround_4 ++ dktX5_goAround_5
def dkwX5_goAround_3 : List UInt8 := [180, 0, 159, 162, 0, 25, 42, 180, 0, 34, 16, 6, 42, 180, 0, 162, 104, 21, 8, 96, 9, 80]
abbrev dktX5_goAround_3 : List UInt8 := dkwX5_goAround_3 ++ dktX5_goAround_4
def dkwX5_goAround_2 : List UInt8 := [16, 16, 28, 104, 7, 29, 104, 96, 21, 4, 96, 54, 6, 21, 5, 54, 7, 3, 54, 8, 21, 8, 42]
abbrev dktX5_goAround_2 : List UInt8 := dkwX5_goAround_2 ++ dktX5_goAround_3
def dkwX5_goAround_1 : List UInt8 := [54, 4, 3, 54, 5, 21, 5, 29, 159, 0, 10, 21, 5, 21, 4, 160, 0, 9, 132, 5, 1, 167, 255, 240]
abbrev dktX5_goAround_1 : List UInt8 := dkwX5_goAround_1 ++ dktX5_goAround_2
def dkwX5_goAround_0 : List UInt8 := [27, 16, 6, 108, 61, 42, 180, 0, 19, 27, 16, 6, 112, 46, 62, 42, 180, 0, 22, 27, 16, 6, 112, 46]
abbrev dktX5_goAround_0 : List UInt8 := dkwX5_goAround_0 ++ dktX5_goAround_1
theorem dksX5_goAround_0 : cX5_goAround.data.toList.drop 0 = dktX5_goAround_0 := by decide +kernel
theorem dksX5_goAround_1 : cX5_goAround.data.toList.drop 24 = dktX5_goAround_1 := dk_seg dksX5_goAround_0 24 rfl rfl
theorem dksX5_goAround_2 : cX5_goAround.data.toList.drop 48 = dktX5_goAround_2 := dk_seg dksX5_goAround_1 24 rfl rfl
theorem dksX5_goAround_3 : cX5_goAround.data.toList.drop 71 = dktX5_goAround_3 := dk_seg dksX5_goAround_2 23 rfl rfl
theorem dksX5_goAround_4 : cX5_goAround.data.toList.drop 93 = dktX5_goAround_4 := dk_seg dksX5_goAround_3 22 rfl rfl
theorem dksX5_goAround_5 : cX5_goAround.data.toList.drop 116 = dktX5_goAround_5 := dk_seg dksX5_goAround_4 23 rfl rfl
theorem dksX5_goAround_6 : cX5_goAround.data.toList.drop 140 = dktX5_goAround_6 := dk_seg dksX5_goAround_5 24 rfl rfl
theorem dksX5_goAround_7 : cX5_goAround.data.toList.drop 162 = dktX5_goAround_7 := dk_seg dksX5_goAround_6 22 rfl rfl
theorem dksX5_goAround_8 : cX5_goAround.data.toList.drop 185 = dktX5_goAround_8 := dk_seg dksX5_goAround_7 23 rfl rfl
theorem dksX5_goAround_9 : cX5_goAround.data.toList.drop 209 = dktX5_goAround_9 := dk_seg dksX5_goAround_8 24 rfl rfl
theorem dksX5_goAround_10 : cX5_goAround.data.toList.drop 232 = dktX5_goAround_10 := dk_seg dksX5_goAround_9 23 rfl rfl
theorem dksX5_goAround_11 : cX5_goAround.data.toList.drop 255 = dktX5_goAround_11 := dk_seg dksX5_goAround_10 23 rfl rfl
theorem dX5_goAround_0 : decode cX5_goAround 0 = .ok (.iload_n 1, 1) := dk_27 (dk_at dksX5_goAround_0 0 rfl rfl)
theorem dX5_goAround_1 : decode cX5_goAround 1 = .ok (.bipush 6, 2) := dk_16 6 (dk_at dksX5_goAround_0 1 rfl rfl)
theorem dX5_goAround_3 : decode cX5_goAround 3 = .ok (.idiv, 1) := dk_108 (dk_at dksX5_goAround_0 3 rfl rfl)
theorem dX5_goAround_4 : decode cX5_goAround 4 = .ok (.istore_n 2, 1) := dk_61 (dk_at dksX5_goAround_0 4 rfl rfl)
theorem dX5_goAround_5 : decode cX5_goAround 5 = .ok (.aload_n 0, 1) := dk_42 (dk_at dksX5_goAround_0 5 rfl rfl)
theorem dX5_goAround_6 : decode cX5_goAround 6 = .ok (.getfield 19, 3) := dk_180 0 19 (dk_at dksX5_goAround_0 6 rfl rfl)
theorem dX5_goAround_9 : decode cX5_goAround 9 = .ok (.iload_n 1, 1) := dk_27 (dk_at dksX5_goAround_0 9 rfl rfl)
theorem dX5_goAround_10 : decode cX5_goAround 10 = .ok (.bipush 6, 2) := dk_16 6 (dk_at dksX5_goAround_0 10 rfl rfl)
theorem dX5_goAround_12 : decode cX5_goAround 12 = .ok (.irem, 1) := dk_112 (dk_at dksX5_goAround_0 12 rfl rfl)
theorem dX5_goAround_13 : decode cX5_goAround 13 = .ok (.iaload, 1) := dk_46 (dk_at dksX5_goAround_0 13 rfl rfl)
theorem dX5_goAround_14 : decode cX5_goAround 14 = .ok (.istore_n 3, 1) := dk_62 (dk_at dksX5_goAround_0 14 rfl rfl)
theorem dX5_goAround_15 : decode cX5_goAround 15 = .ok (.aload_n 0, 1) := dk_42 (dk_at dksX5_goAround_0 15 rfl rfl)
theorem dX5_goAround_16 : decode cX5_goAround 16 = .ok (.getfield 22, 3) := dk_180 0 22 (dk_at dksX5_goAround_0 16 rfl rfl)
theorem dX5_goAround_19 : decode cX5_goAround 19 = .ok (.iload_n 1, 1) := dk_27 (dk_at dksX5_goAround_0 19 rfl rfl)
theorem dX5_goAround_20 : decode cX5_goAround 20 = .ok (.bipush 6, 2) := dk_16 6 (dk_at dksX5_goAround_0 20 rfl rfl)
theorem dX5_goAround_22 : decode cX5_goAround 22 = .ok (.irem, 1) := dk_112 (dk_at dksX5_goAround_0 22 rfl rfl)
theorem dX5_goAround_23 : decode cX5_goAround 23 = .ok (.iaload, 1) := dk_46 (dk_at dksX5_goAround_0 23 rfl rfl)
theorem dX5_goAround_24 : decode cX5_goAround 24 = .ok (.istore 4, 2) := dk_54 4 (dk_at dksX5_goAround_1 0 rfl rfl)
theorem dX5_goAround_26 : decode cX5_goAround 26 = .ok (.iconst 0, 1) := dk_3 (dk_at dksX5_goAround_1 2 rfl rfl)
theorem dX5_goAround_27 : decode cX5_goAround 27 = .ok (.istore 5, 2) := dk_54 5 (dk_at dksX5_goAround_1 3 rfl rfl)
theorem dX5_goAround_29 : decode cX5_goAround 29 = .ok (.iload 5, 2) := dk_21 5 (dk_at dksX5_goAround_1 5 rfl rfl)
theorem dX5_goAround_31 : decode cX5_goAround 31 = .ok (.iload_n 3, 1) := dk_29 (dk_at dksX5_goAround_1 7 rfl rfl)
theorem dX5_goAround_32 : decode cX5_goAround 32 = .ok (.if_icmp .eq 10, 3) := dk_159 0 10 (dk_at dksX5_goAround_1 8 rfl rfl)
theorem dX5_goAround_35 : decode cX5_goAround 35 = .ok (.iload 5, 2) := dk_21 5 (dk_at dksX5_goAround_1 11 rfl rfl)
theorem dX5_goAround_37 : decode cX5_goAround 37 = .ok (.iload 4, 2) := dk_21 4 (dk_at dksX5_goAround_1 13 rfl rfl)
theorem dX5_goAround_39 : decode cX5_goAround 39 = .ok (.if_icmp .ne 9, 3) := dk_160 0 9 (dk_at dksX5_goAround_1 15 rfl rfl)
theorem dX5_goAround_42 : decode cX5_goAround 42 = .ok (.iinc 5 1, 3) := dk_132 5 1 (dk_at dksX5_goAround_1 18 rfl rfl)
theorem dX5_goAround_45 : decode cX5_goAround 45 = .ok (.goto (-16), 3) := dk_167 255 240 (dk_at dksX5_goAround_1 21 rfl rfl)
theorem dX5_goAround_48 : decode cX5_goAround 48 = .ok (.bipush 16, 2) := dk_16 16 (dk_at dksX5_goAround_2 0 rfl rfl)
theorem dX5_goAround_50 : decode cX5_goAround 50 = .ok (.iload_n 2, 1) := dk_28 (dk_at dksX5_goAround_2 2 rfl rfl)
theorem dX5_goAround_51 : decode cX5_goAround 51 = .ok (.imul, 1) := dk_104 (dk_at dksX5_goAround_2 3 rfl rfl)
theorem dX5_goAround_52 : decode cX5_goAround 52 = .ok (.iconst 4, 1) := dk_7 (dk_at dksX5_goAround_2 4 rfl rfl)
theorem dX5_goAround_53 : decode cX5_goAround 53 = .ok (.iload_n 3, 1) := dk_29 (dk_at dksX5_goAround_2 5 rfl rfl)
theorem dX5_goAround_54 : decode cX5_goAround 54 = .ok (.imul, 1) := dk_104 (dk_at dksX5_goAround_2 6 rfl rfl)
theorem dX5_goAround_55 : decode cX5_goAround 55 = .ok (.iadd, 1) := dk_96 (dk_at dksX5_goAround_2 7 rfl rfl)
theorem dX5_goAround_56 : decode cX5_goAround 56 = .ok (.iload 4, 2) := dk_21 4 (dk_at dksX5_goAround_2 8 rfl rfl)
theorem dX5_goAround_58 : decode cX5_goAround 58 = .ok (.iadd, 1) := dk_96 (dk_at dksX5_goAround_2 10 rfl rfl)
theorem dX5_goAround_59 : decode cX5_goAround 59 = .ok (.istore 6, 2) := dk_54 6 (dk_at dksX5_goAround_2 11 rfl rfl)
theorem dX5_goAround_61 : decode cX5_goAround 61 = .ok (.iload 5, 2) := dk_21 5 (dk_at dksX5_goAround_2 13 rfl rfl)
theorem dX5_goAround_63 : decode cX5_goAround 63 = .ok (.istore 7, 2) := dk_54 7 (dk_at dksX5_goAround_2 15 rfl rfl)
theorem dX5_goAround_65 : decode cX5_goAround 65 = .ok (.iconst 0, 1) := dk_3 (dk_at dksX5_goAround_2 17 rfl rfl)
theorem dX5_goAround_66 : decode cX5_goAround 66 = .ok (.istore 8, 2) := dk_54 8 (dk_at dksX5_goAround_2 18 rfl rfl)
theorem dX5_goAround_68 : decode cX5_goAround 68 = .ok (.iload 8, 2) := dk_21 8 (dk_at dksX5_goAround_2 20 rfl rfl)
theorem dX5_goAround_70 : decode cX5_goAround 70 = .ok (.aload_n 0, 1) := dk_42 (dk_at dksX5_goAround_2 22 rfl rfl)
theorem dX5_goAround_71 : decode cX5_goAround 71 = .ok (.getfield 159, 3) := dk_180 0 159 (dk_at dksX5_goAround_3 0 rfl rfl)
theorem dX5_goAround_74 : decode cX5_goAround 74 = .ok (.if_icmp .ge 25, 3) := dk_162 0 25 (dk_at dksX5_goAround_3 3 rfl rfl)
theorem dX5_goAround_77 : decode cX5_goAround 77 = .ok (.aload_n 0, 1) := dk_42 (dk_at dksX5_goAround_3 6 rfl rfl)
theorem dX5_goAround_78 : decode cX5_goAround 78 = .ok (.getfield 34, 3) := dk_180 0 34 (dk_at dksX5_goAround_3 7 rfl rfl)
theorem dX5_goAround_81 : decode cX5_goAround 81 = .ok (.bipush 6, 2) := dk_16 6 (dk_at dksX5_goAround_3 10 rfl rfl)
theorem dX5_goAround_83 : decode cX5_goAround 83 = .ok (.aload_n 0, 1) := dk_42 (dk_at dksX5_goAround_3 12 rfl rfl)
theorem dX5_goAround_84 : decode cX5_goAround 84 = .ok (.getfield 162, 3) := dk_180 0 162 (dk_at dksX5_goAround_3 13 rfl rfl)
theorem dX5_goAround_87 : decode cX5_goAround 87 = .ok (.imul, 1) := dk_104 (dk_at dksX5_goAround_3 16 rfl rfl)
theorem dX5_goAround_88 : decode cX5_goAround 88 = .ok (.iload 8, 2) := dk_21 8 (dk_at dksX5_goAround_3 17 rfl rfl)
theorem dX5_goAround_90 : decode cX5_goAround 90 = .ok (.iadd, 1) := dk_96 (dk_at dksX5_goAround_3 19 rfl rfl)
theorem dX5_goAround_91 : decode cX5_goAround 91 = .ok (.lconst 0, 1) := dk_9 (dk_at dksX5_goAround_3 20 rfl rfl)
theorem dX5_goAround_92 : decode cX5_goAround 92 = .ok (.lastore, 1) := dk_80 (dk_at dksX5_goAround_3 21 rfl rfl)
theorem dX5_goAround_93 : decode cX5_goAround 93 = .ok (.iinc 8 1, 3) := dk_132 8 1 (dk_at dksX5_goAround_4 0 rfl rfl)
theorem dX5_goAround_96 : decode cX5_goAround 96 = .ok (.goto (-28), 3) := dk_167 255 228 (dk_at dksX5_goAround_4 3 rfl rfl)
theorem dX5_goAround_99 : decode cX5_goAround 99 = .ok (.iconst 1, 1) := dk_4 (dk_at dksX5_goAround_4 6 rfl rfl)
theorem dX5_goAround_100 : decode cX5_goAround 100 = .ok (.istore 8, 2) := dk_54 8 (dk_at dksX5_goAround_4 7 rfl rfl)
theorem dX5_goAround_102 : decode cX5_goAround 102 = .ok (.iload 8, 2) := dk_21 8 (dk_at dksX5_goAround_4 9 rfl rfl)
theorem dX5_goAround_104 : decode cX5_goAround 104 = .ok (.ifCond .eq 171, 3) := dk_153 0 171 (dk_at dksX5_goAround_4 11 rfl rfl)
theorem dX5_goAround_107 : decode cX5_goAround 107 = .ok (.iconst 4, 1) := dk_7 (dk_at dksX5_goAround_4 14 rfl rfl)
theorem dX5_goAround_108 : decode cX5_goAround 108 = .ok (.iload_n 2, 1) := dk_28 (dk_at dksX5_goAround_4 15 rfl rfl)
theorem dX5_goAround_109 : decode cX5_goAround 109 = .ok (.imul, 1) := dk_104 (dk_at dksX5_goAround_4 16 rfl rfl)
theorem dX5_goAround_110 : decode cX5_goAround 110 = .ok (.iload 5, 2) := dk_21 5 (dk_at dksX5_goAround_4 17 rfl rfl)
theorem dX5_goAround_112 : decode cX5_goAround 112 = .ok (.iadd, 1) := dk_96 (dk_at dksX5_goAround_4 19 rfl rfl)
theorem dX5_goAround_113 : decode cX5_goAround 113 = .ok (.istore 9, 2) := dk_54 9 (dk_at dksX5_goAround_4 20 rfl rfl)
theorem dX5_goAround_115 : decode cX5_goAround 115 = .ok (.aload_n 0, 1) := dk_42 (dk_at dksX5_goAround_4 22 rfl rfl)
theorem dX5_goAround_116 : decode cX5_goAround 116 = .ok (.getfield 7, 3) := dk_180 0 7 (dk_at dksX5_goAround_5 0 rfl rfl)
theorem dX5_goAround_119 : decode cX5_goAround 119 = .ok (.iload 9, 2) := dk_21 9 (dk_at dksX5_goAround_5 3 rfl rfl)
theorem dX5_goAround_121 : decode cX5_goAround 121 = .ok (.iaload, 1) := dk_46 (dk_at dksX5_goAround_5 5 rfl rfl)
theorem dX5_goAround_122 : decode cX5_goAround 122 = .ok (.iconst (-1), 1) := dk_2 (dk_at dksX5_goAround_5 6 rfl rfl)
theorem dX5_goAround_123 : decode cX5_goAround 123 = .ok (.if_icmp .ne 5, 3) := dk_160 0 5 (dk_at dksX5_goAround_5 7 rfl rfl)
theorem dX5_goAround_126 : decode cX5_goAround 126 = .ok (.iconst 0, 1) := dk_3 (dk_at dksX5_goAround_5 10 rfl rfl)
theorem dX5_goAround_127 : decode cX5_goAround 127 = .ok (.ireturn, 1) := dk_172 (dk_at dksX5_goAround_5 11 rfl rfl)
theorem dX5_goAround_128 : decode cX5_goAround 128 = .ok (.aload_n 0, 1) := dk_42 (dk_at dksX5_goAround_5 12 rfl rfl)
theorem dX5_goAround_129 : decode cX5_goAround 129 = .ok (.getfield 34, 3) := dk_180 0 34 (dk_at dksX5_goAround_5 13 rfl rfl)
theorem dX5_goAround_132 : decode cX5_goAround 132 = .ok (.bipush 6, 2) := dk_16 6 (dk_at dksX5_goAround_5 16 rfl rfl)
theorem dX5_goAround_134 : decode cX5_goAround 134 = .ok (.aload_n 0, 1) := dk_42 (dk_at dksX5_goAround_5 18 rfl rfl)
theorem dX5_goAround_135 : decode cX5_goAround 135 = .ok (.getfield 162, 3) := dk_180 0 162 (dk_at dksX5_goAround_5 19 rfl rfl)
theorem dX5_goAround_138 : decode cX5_goAround 138 = .ok (.imul, 1) := dk_104 (dk_at dksX5_goAround_5 22 rfl rfl)
theorem dX5_goAround_139 : decode cX5_goAround 139 = .ok (.aload_n 0, 1) := dk_42 (dk_at dksX5_goAround_5 23 rfl rfl)
theorem dX5_goAround_140 : decode cX5_goAround 140 = .ok (.getfield 38, 3) := dk_180 0 38 (dk_at dksX5_goAround_6 0 rfl rfl)
theorem dX5_goAround_143 : decode cX5_goAround 143 = .ok (.iload 9, 2) := dk_21 9 (dk_at dksX5_goAround_6 3 rfl rfl)
theorem dX5_goAround_145 : decode cX5_goAround 145 = .ok (.iaload, 1) := dk_46 (dk_at dksX5_goAround_6 5 rfl rfl)
theorem dX5_goAround_146 : decode cX5_goAround 146 = .ok (.iadd, 1) := dk_96 (dk_at dksX5_goAround_6 6 rfl rfl)
theorem dX5_goAround_147 : decode cX5_goAround 147 = .ok (.dup2, 1) := dk_92 (dk_at dksX5_goAround_6 7 rfl rfl)
theorem dX5_goAround_148 : decode cX5_goAround 148 = .ok (.laload, 1) := dk_47 (dk_at dksX5_goAround_6 8 rfl rfl)
theorem dX5_goAround_149 : decode cX5_goAround 149 = .ok (.iload 9, 2) := dk_21 9 (dk_at dksX5_goAround_6 9 rfl rfl)
theorem dX5_goAround_151 : decode cX5_goAround 151 = .ok (.aload_n 0, 1) := dk_42 (dk_at dksX5_goAround_6 11 rfl rfl)
theorem dX5_goAround_152 : decode cX5_goAround 152 = .ok (.getfield 7, 3) := dk_180 0 7 (dk_at dksX5_goAround_6 12 rfl rfl)
theorem dX5_goAround_155 : decode cX5_goAround 155 = .ok (.iload 9, 2) := dk_21 9 (dk_at dksX5_goAround_6 15 rfl rfl)
theorem dX5_goAround_157 : decode cX5_goAround 157 = .ok (.iaload, 1) := dk_46 (dk_at dksX5_goAround_6 17 rfl rfl)
theorem dX5_goAround_158 : decode cX5_goAround 158 = .ok (.if_icmp .ge 7, 3) := dk_162 0 7 (dk_at dksX5_goAround_6 18 rfl rfl)
theorem dX5_goAround_161 : decode cX5_goAround 161 = .ok (.lconst 1, 1) := dk_10 (dk_at dksX5_goAround_6 21 rfl rfl)
theorem dX5_goAround_162 : decode cX5_goAround 162 = .ok (.goto 6, 3) := dk_167 0 6 (dk_at dksX5_goAround_7 0 rfl rfl)
theorem dX5_goAround_165 : decode cX5_goAround 165 = .ok (.ldc2_w 165, 3) := dk_20 0 165 (dk_at dksX5_goAround_7 3 rfl rfl)
theorem dX5_goAround_168 : decode cX5_goAround 168 = .ok (.ladd, 1) := dk_97 (dk_at dksX5_goAround_7 6 rfl rfl)
theorem dX5_goAround_169 : decode cX5_goAround 169 = .ok (.lastore, 1) := dk_80 (dk_at dksX5_goAround_7 7 rfl rfl)
theorem dX5_goAround_170 : decode cX5_goAround 170 = .ok (.aload_n 0, 1) := dk_42 (dk_at dksX5_goAround_7 8 rfl rfl)
theorem dX5_goAround_171 : decode cX5_goAround 171 = .ok (.getfield 7, 3) := dk_180 0 7 (dk_at dksX5_goAround_7 9 rfl rfl)
theorem dX5_goAround_174 : decode cX5_goAround 174 = .ok (.iload 9, 2) := dk_21 9 (dk_at dksX5_goAround_7 12 rfl rfl)
theorem dX5_goAround_176 : decode cX5_goAround 176 = .ok (.iaload, 1) := dk_46 (dk_at dksX5_goAround_7 14 rfl rfl)
theorem dX5_goAround_177 : decode cX5_goAround 177 = .ok (.iconst 4, 1) := dk_7 (dk_at dksX5_goAround_7 15 rfl rfl)
theorem dX5_goAround_178 : decode cX5_goAround 178 = .ok (.idiv, 1) := dk_108 (dk_at dksX5_goAround_7 16 rfl rfl)
theorem dX5_goAround_179 : decode cX5_goAround 179 = .ok (.istore 10, 2) := dk_54 10 (dk_at dksX5_goAround_7 17 rfl rfl)
theorem dX5_goAround_181 : decode cX5_goAround 181 = .ok (.aload_n 0, 1) := dk_42 (dk_at dksX5_goAround_7 19 rfl rfl)
theorem dX5_goAround_182 : decode cX5_goAround 182 = .ok (.getfield 7, 3) := dk_180 0 7 (dk_at dksX5_goAround_7 20 rfl rfl)
theorem dX5_goAround_185 : decode cX5_goAround 185 = .ok (.iload 9, 2) := dk_21 9 (dk_at dksX5_goAround_8 0 rfl rfl)
theorem dX5_goAround_187 : decode cX5_goAround 187 = .ok (.iaload, 1) := dk_46 (dk_at dksX5_goAround_8 2 rfl rfl)
theorem dX5_goAround_188 : decode cX5_goAround 188 = .ok (.iconst 4, 1) := dk_7 (dk_at dksX5_goAround_8 3 rfl rfl)
theorem dX5_goAround_189 : decode cX5_goAround 189 = .ok (.irem, 1) := dk_112 (dk_at dksX5_goAround_8 4 rfl rfl)
theorem dX5_goAround_190 : decode cX5_goAround 190 = .ok (.istore 11, 2) := dk_54 11 (dk_at dksX5_goAround_8 5 rfl rfl)
theorem dX5_goAround_192 : decode cX5_goAround 192 = .ok (.aload_n 0, 1) := dk_42 (dk_at dksX5_goAround_8 7 rfl rfl)
theorem dX5_goAround_193 : decode cX5_goAround 193 = .ok (.getfield 13, 3) := dk_180 0 13 (dk_at dksX5_goAround_8 8 rfl rfl)
theorem dX5_goAround_196 : decode cX5_goAround 196 = .ok (.iconst 4, 1) := dk_7 (dk_at dksX5_goAround_8 11 rfl rfl)
theorem dX5_goAround_197 : decode cX5_goAround 197 = .ok (.iload 9, 2) := dk_21 9 (dk_at dksX5_goAround_8 12 rfl rfl)
theorem dX5_goAround_199 : decode cX5_goAround 199 = .ok (.imul, 1) := dk_104 (dk_at dksX5_goAround_8 14 rfl rfl)
theorem dX5_goAround_200 : decode cX5_goAround 200 = .ok (.iload_n 3, 1) := dk_29 (dk_at dksX5_goAround_8 15 rfl rfl)
theorem dX5_goAround_201 : decode cX5_goAround 201 = .ok (.iadd, 1) := dk_96 (dk_at dksX5_goAround_8 16 rfl rfl)
theorem dX5_goAround_202 : decode cX5_goAround 202 = .ok (.iaload, 1) := dk_46 (dk_at dksX5_goAround_8 17 rfl rfl)
theorem dX5_goAround_203 : decode cX5_goAround 203 = .ok (.istore 12, 2) := dk_54 12 (dk_at dksX5_goAround_8 18 rfl rfl)
theorem dX5_goAround_205 : decode cX5_goAround 205 = .ok (.aload_n 0, 1) := dk_42 (dk_at dksX5_goAround_8 20 rfl rfl)
theorem dX5_goAround_206 : decode cX5_goAround 206 = .ok (.getfield 13, 3) := dk_180 0 13 (dk_at dksX5_goAround_8 21 rfl rfl)
theorem dX5_goAround_209 : decode cX5_goAround 209 = .ok (.iconst 4, 1) := dk_7 (dk_at dksX5_goAround_9 0 rfl rfl)
theorem dX5_goAround_210 : decode cX5_goAround 210 = .ok (.iload 9, 2) := dk_21 9 (dk_at dksX5_goAround_9 1 rfl rfl)
theorem dX5_goAround_212 : decode cX5_goAround 212 = .ok (.imul, 1) := dk_104 (dk_at dksX5_goAround_9 3 rfl rfl)
theorem dX5_goAround_213 : decode cX5_goAround 213 = .ok (.iload 4, 2) := dk_21 4 (dk_at dksX5_goAround_9 4 rfl rfl)
theorem dX5_goAround_215 : decode cX5_goAround 215 = .ok (.iadd, 1) := dk_96 (dk_at dksX5_goAround_9 6 rfl rfl)
theorem dX5_goAround_216 : decode cX5_goAround 216 = .ok (.iaload, 1) := dk_46 (dk_at dksX5_goAround_9 7 rfl rfl)
theorem dX5_goAround_217 : decode cX5_goAround 217 = .ok (.istore 13, 2) := dk_54 13 (dk_at dksX5_goAround_9 8 rfl rfl)
theorem dX5_goAround_219 : decode cX5_goAround 219 = .ok (.bipush 6, 2) := dk_16 6 (dk_at dksX5_goAround_9 10 rfl rfl)
theorem dX5_goAround_221 : decode cX5_goAround 221 = .ok (.iload 12, 2) := dk_21 12 (dk_at dksX5_goAround_9 12 rfl rfl)
theorem dX5_goAround_223 : decode cX5_goAround 223 = .ok (.isub, 1) := dk_100 (dk_at dksX5_goAround_9 14 rfl rfl)
theorem dX5_goAround_224 : decode cX5_goAround 224 = .ok (.iload 13, 2) := dk_21 13 (dk_at dksX5_goAround_9 15 rfl rfl)
theorem dX5_goAround_226 : decode cX5_goAround 226 = .ok (.isub, 1) := dk_100 (dk_at dksX5_goAround_9 17 rfl rfl)
theorem dX5_goAround_227 : decode cX5_goAround 227 = .ok (.iload 11, 2) := dk_21 11 (dk_at dksX5_goAround_9 18 rfl rfl)
theorem dX5_goAround_229 : decode cX5_goAround 229 = .ok (.isub, 1) := dk_100 (dk_at dksX5_goAround_9 20 rfl rfl)
theorem dX5_goAround_230 : decode cX5_goAround 230 = .ok (.istore 5, 2) := dk_54 5 (dk_at dksX5_goAround_9 21 rfl rfl)
theorem dX5_goAround_232 : decode cX5_goAround 232 = .ok (.iload 10, 2) := dk_21 10 (dk_at dksX5_goAround_10 0 rfl rfl)
theorem dX5_goAround_234 : decode cX5_goAround 234 = .ok (.istore_n 2, 1) := dk_61 (dk_at dksX5_goAround_10 2 rfl rfl)
theorem dX5_goAround_235 : decode cX5_goAround 235 = .ok (.iload 12, 2) := dk_21 12 (dk_at dksX5_goAround_10 3 rfl rfl)
theorem dX5_goAround_237 : decode cX5_goAround 237 = .ok (.istore_n 3, 1) := dk_62 (dk_at dksX5_goAround_10 5 rfl rfl)
theorem dX5_goAround_238 : decode cX5_goAround 238 = .ok (.iload 13, 2) := dk_21 13 (dk_at dksX5_goAround_10 6 rfl rfl)
theorem dX5_goAround_240 : decode cX5_goAround 240 = .ok (.istore 4, 2) := dk_54 4 (dk_at dksX5_goAround_10 8 rfl rfl)
theorem dX5_goAround_242 : decode cX5_goAround 242 = .ok (.bipush 16, 2) := dk_16 16 (dk_at dksX5_goAround_10 10 rfl rfl)
theorem dX5_goAround_244 : decode cX5_goAround 244 = .ok (.iload_n 2, 1) := dk_28 (dk_at dksX5_goAround_10 12 rfl rfl)
theorem dX5_goAround_245 : decode cX5_goAround 245 = .ok (.imul, 1) := dk_104 (dk_at dksX5_goAround_10 13 rfl rfl)
theorem dX5_goAround_246 : decode cX5_goAround 246 = .ok (.iconst 4, 1) := dk_7 (dk_at dksX5_goAround_10 14 rfl rfl)
theorem dX5_goAround_247 : decode cX5_goAround 247 = .ok (.iload_n 3, 1) := dk_29 (dk_at dksX5_goAround_10 15 rfl rfl)
theorem dX5_goAround_248 : decode cX5_goAround 248 = .ok (.imul, 1) := dk_104 (dk_at dksX5_goAround_10 16 rfl rfl)
theorem dX5_goAround_249 : decode cX5_goAround 249 = .ok (.iadd, 1) := dk_96 (dk_at dksX5_goAround_10 17 rfl rfl)
theorem dX5_goAround_250 : decode cX5_goAround 250 = .ok (.iload 4, 2) := dk_21 4 (dk_at dksX5_goAround_10 18 rfl rfl)
theorem dX5_goAround_252 : decode cX5_goAround 252 = .ok (.iadd, 1) := dk_96 (dk_at dksX5_goAround_10 20 rfl rfl)
theorem dX5_goAround_253 : decode cX5_goAround 253 = .ok (.iload 6, 2) := dk_21 6 (dk_at dksX5_goAround_10 21 rfl rfl)
theorem dX5_goAround_255 : decode cX5_goAround 255 = .ok (.if_icmp .ne 10, 3) := dk_160 0 10 (dk_at dksX5_goAround_11 0 rfl rfl)
theorem dX5_goAround_258 : decode cX5_goAround 258 = .ok (.iload 5, 2) := dk_21 5 (dk_at dksX5_goAround_11 3 rfl rfl)
theorem dX5_goAround_260 : decode cX5_goAround 260 = .ok (.iload 7, 2) := dk_21 7 (dk_at dksX5_goAround_11 5 rfl rfl)
theorem dX5_goAround_262 : decode cX5_goAround 262 = .ok (.if_icmp .eq 7, 3) := dk_159 0 7 (dk_at dksX5_goAround_11 7 rfl rfl)
theorem dX5_goAround_265 : decode cX5_goAround 265 = .ok (.iconst 1, 1) := dk_4 (dk_at dksX5_goAround_11 10 rfl rfl)
theorem dX5_goAround_266 : decode cX5_goAround 266 = .ok (.goto 4, 3) := dk_167 0 4 (dk_at dksX5_goAround_11 11 rfl rfl)
theorem dX5_goAround_269 : decode cX5_goAround 269 = .ok (.iconst 0, 1) := dk_3 (dk_at dksX5_goAround_11 14 rfl rfl)
theorem dX5_goAround_270 : decode cX5_goAround 270 = .ok (.istore 8, 2) := dk_54 8 (dk_at dksX5_goAround_11 15 rfl rfl)
theorem dX5_goAround_272 : decode cX5_goAround 272 = .ok (.goto (-170), 3) := dk_167 255 86 (dk_at dksX5_goAround_11 17 rfl rfl)
theorem dX5_goAround_275 : decode cX5_goAround 275 = .ok (.iconst 1, 1) := dk_4 (dk_at dksX5_goAround_11 20 rfl rfl)
theorem dX5_goAround_276 : decode cX5_goAround 276 = .ok (.ireturn, 1) := dk_172 (dk_at dksX5_goAround_11 21 rfl rfl)
abbrev cX5_bring : ByteArray := prog_8_method_39_code
def yX5_bring : MethodName := ⟨RX5, "bring", "(I)Z"⟩
def dkwX5_bring_10 : List UInt8 := [167, 255, 197, 28, 2, 159, 0, 7, 4, 167, 0, 4, 3, 172]
abbrev dktX5_bring_10 : List UInt8 := dkwX5_bring_10 ++ []
def dkwX5_bring_9 : List UInt8 := [21, 6, 27, 182, 0, 173, 80, 42, 180, 0, 34, 16, 6, 21, 6, 104, 27, 96, 22, 7, 80, 132, 6, 1]
abbrev dktX5_bring_9 : List UInt8 := dkwX5_bring_9 ++ dktX5_bring_10
def dkwX5_bring_8 : List UInt8 := [159, 0, 51, 42, 21, 6, 29, 182, 0, 173, 55, 7, 42, 180, 0, 34, 16, 6, 21, 6, 104, 29, 96, 42]
abbrev dktX5_bring_8 : List UInt8 := dkwX5_bring_8 ++ dktX5_bring_9
def dkwX5_bring_7 : List UInt8 := [22, 7, 80, 132, 6, 1, 167, 255, 197, 3, 54, 6, 21, 6, 42, 180, 0, 162, 162, 0, 56, 28, 2]
abbrev dktX5_bring_7 : List UInt8 := dkwX5_bring_7 ++ dktX5_bring_8
def dkwX5_bring_6 : List UInt8 := [104, 21, 6, 96, 42, 27, 21, 6, 182, 0, 173, 80, 42, 180, 0, 34, 16, 6, 27, 104, 21, 6, 96]
abbrev dktX5_bring_6 : List UInt8 := dkwX5_bring_6 ++ dktX5_bring_7
def dkwX5_bring_5 : List UInt8 := [162, 0, 56, 28, 2, 159, 0, 51, 42, 28, 21, 6, 182, 0, 173, 55, 7, 42, 180, 0, 34, 16, 6, 28]
abbrev dktX5_bring_5 : List UInt8 := dkwX5_bring_5 ++ dktX5_bring_6
def dkwX5_bring_4 : List UInt8 := [55, 4, 132, 7, 1, 167, 255, 179, 132, 6, 1, 167, 255, 161, 3, 54, 6, 21, 6, 42, 180, 0, 159]
abbrev dktX5_bring_4 : List UInt8 := dkwX5_bring_4 ++ dktX5_bring_5
def dkwX5_bring_3 : List UInt8 := [158, 0, 26, 28, 2, 159, 0, 11, 22, 8, 22, 4, 148, 156, 0, 13, 21, 6, 61, 21, 7, 62, 22, 8]
abbrev dktX5_bring_3 : List UInt8 := dkwX5_bring_3 ++ dktX5_bring_4
def dkwX5_bring_2 : List UInt8 := [21, 7, 182, 0, 173, 117, 167, 0, 11, 42, 21, 6, 21, 7, 182, 0, 173, 55, 8, 22, 8, 9, 148]
abbrev dktX5_bring_2 : List UInt8 := dkwX5_bring_2 ++ dktX5_bring_3
def dkwX5_bring_1 : List UInt8 := [42, 180, 0, 159, 162, 0, 74, 42, 21, 6, 21, 7, 182, 0, 173, 9, 148, 156, 0, 15, 42, 21, 6]
abbrev dktX5_bring_1 : List UInt8 := dkwX5_bring_1 ++ dktX5_bring_2
def dkwX5_bring_0 : List UInt8 := [2, 61, 2, 62, 9, 55, 4, 27, 54, 6, 21, 6, 42, 180, 0, 162, 162, 0, 92, 27, 54, 7, 21, 7]
abbrev dktX5_bring_0 : List UInt8 := dkwX5_bring_0 ++ dktX5_bring_1
theorem dksX5_bring_0 : cX5_bring.data.toList.drop 0 = dktX5_bring_0 := by decide +kernel
theorem dksX5_bring_1 : cX5_bring.data.toList.drop 24 = dktX5_bring_1 := dk_seg dksX5_bring_0 24 rfl rfl
theorem dksX5_bring_2 : cX5_bring.data.toList.drop 47 = dktX5_bring_2 := dk_seg dksX5_bring_1 23 rfl rfl
theorem dksX5_bring_3 : cX5_bring.data.toList.drop 70 = dktX5_bring_3 := dk_seg dksX5_bring_2 23 rfl rfl
theorem dksX5_bring_4 : cX5_bring.data.toList.drop 94 = dktX5_bring_4 := dk_seg dksX5_bring_3 24 rfl rfl
theorem dksX5_bring_5 : cX5_bring.data.toList.drop 117 = dktX5_bring_5 := dk_seg dksX5_bring_4 23 rfl rfl
theorem dksX5_bring_6 : cX5_bring.data.toList.drop 141 = dktX5_bring_6 := dk_seg dksX5_bring_5 24 rfl rfl
theorem dksX5_bring_7 : cX5_bring.data.toList.drop 164 = dktX5_bring_7 := dk_seg dksX5_bring_6 23 rfl rfl
theorem dksX5_bring_8 : cX5_bring.data.toList.drop 187 = dktX5_bring_8 := dk_seg dksX5_bring_7 23 rfl rfl
theorem dksX5_bring_9 : cX5_bring.data.toList.drop 211 = dktX5_bring_9 := dk_seg dksX5_bring_8 24 rfl rfl
theorem dksX5_bring_10 : cX5_bring.data.toList.drop 235 = dktX5_bring_10 := dk_seg dksX5_bring_9 24 rfl rfl
theorem dX5_bring_0 : decode cX5_bring 0 = .ok (.iconst (-1), 1) := dk_2 (dk_at dksX5_bring_0 0 rfl rfl)
theorem dX5_bring_1 : decode cX5_bring 1 = .ok (.istore_n 2, 1) := dk_61 (dk_at dksX5_bring_0 1 rfl rfl)
theorem dX5_bring_2 : decode cX5_bring 2 = .ok (.iconst (-1), 1) := dk_2 (dk_at dksX5_bring_0 2 rfl rfl)
theorem dX5_bring_3 : decode cX5_bring 3 = .ok (.istore_n 3, 1) := dk_62 (dk_at dksX5_bring_0 3 rfl rfl)
theorem dX5_bring_4 : decode cX5_bring 4 = .ok (.lconst 0, 1) := dk_9 (dk_at dksX5_bring_0 4 rfl rfl)
theorem dX5_bring_5 : decode cX5_bring 5 = .ok (.lstore 4, 2) := dk_55 4 (dk_at dksX5_bring_0 5 rfl rfl)
theorem dX5_bring_7 : decode cX5_bring 7 = .ok (.iload_n 1, 1) := dk_27 (dk_at dksX5_bring_0 7 rfl rfl)
theorem dX5_bring_8 : decode cX5_bring 8 = .ok (.istore 6, 2) := dk_54 6 (dk_at dksX5_bring_0 8 rfl rfl)
theorem dX5_bring_10 : decode cX5_bring 10 = .ok (.iload 6, 2) := dk_21 6 (dk_at dksX5_bring_0 10 rfl rfl)
theorem dX5_bring_12 : decode cX5_bring 12 = .ok (.aload_n 0, 1) := dk_42 (dk_at dksX5_bring_0 12 rfl rfl)
theorem dX5_bring_13 : decode cX5_bring 13 = .ok (.getfield 162, 3) := dk_180 0 162 (dk_at dksX5_bring_0 13 rfl rfl)
theorem dX5_bring_16 : decode cX5_bring 16 = .ok (.if_icmp .ge 92, 3) := dk_162 0 92 (dk_at dksX5_bring_0 16 rfl rfl)
theorem dX5_bring_19 : decode cX5_bring 19 = .ok (.iload_n 1, 1) := dk_27 (dk_at dksX5_bring_0 19 rfl rfl)
theorem dX5_bring_20 : decode cX5_bring 20 = .ok (.istore 7, 2) := dk_54 7 (dk_at dksX5_bring_0 20 rfl rfl)
theorem dX5_bring_22 : decode cX5_bring 22 = .ok (.iload 7, 2) := dk_21 7 (dk_at dksX5_bring_0 22 rfl rfl)
theorem dX5_bring_24 : decode cX5_bring 24 = .ok (.aload_n 0, 1) := dk_42 (dk_at dksX5_bring_1 0 rfl rfl)
theorem dX5_bring_25 : decode cX5_bring 25 = .ok (.getfield 159, 3) := dk_180 0 159 (dk_at dksX5_bring_1 1 rfl rfl)
theorem dX5_bring_28 : decode cX5_bring 28 = .ok (.if_icmp .ge 74, 3) := dk_162 0 74 (dk_at dksX5_bring_1 4 rfl rfl)
theorem dX5_bring_31 : decode cX5_bring 31 = .ok (.aload_n 0, 1) := dk_42 (dk_at dksX5_bring_1 7 rfl rfl)
theorem dX5_bring_32 : decode cX5_bring 32 = .ok (.iload 6, 2) := dk_21 6 (dk_at dksX5_bring_1 8 rfl rfl)
theorem dX5_bring_34 : decode cX5_bring 34 = .ok (.iload 7, 2) := dk_21 7 (dk_at dksX5_bring_1 10 rfl rfl)
theorem dX5_bring_36 : decode cX5_bring 36 = .ok (.invokevirtual 173, 3) := dk_182 0 173 (dk_at dksX5_bring_1 12 rfl rfl)
theorem dX5_bring_39 : decode cX5_bring 39 = .ok (.lconst 0, 1) := dk_9 (dk_at dksX5_bring_1 15 rfl rfl)
theorem dX5_bring_40 : decode cX5_bring 40 = .ok (.lcmp, 1) := dk_148 (dk_at dksX5_bring_1 16 rfl rfl)
theorem dX5_bring_41 : decode cX5_bring 41 = .ok (.ifCond .ge 15, 3) := dk_156 0 15 (dk_at dksX5_bring_1 17 rfl rfl)
theorem dX5_bring_44 : decode cX5_bring 44 = .ok (.aload_n 0, 1) := dk_42 (dk_at dksX5_bring_1 20 rfl rfl)
theorem dX5_bring_45 : decode cX5_bring 45 = .ok (.iload 6, 2) := dk_21 6 (dk_at dksX5_bring_1 21 rfl rfl)
theorem dX5_bring_47 : decode cX5_bring 47 = .ok (.iload 7, 2) := dk_21 7 (dk_at dksX5_bring_2 0 rfl rfl)
theorem dX5_bring_49 : decode cX5_bring 49 = .ok (.invokevirtual 173, 3) := dk_182 0 173 (dk_at dksX5_bring_2 2 rfl rfl)
theorem dX5_bring_52 : decode cX5_bring 52 = .ok (.lneg, 1) := dk_117 (dk_at dksX5_bring_2 5 rfl rfl)
theorem dX5_bring_53 : decode cX5_bring 53 = .ok (.goto 11, 3) := dk_167 0 11 (dk_at dksX5_bring_2 6 rfl rfl)
theorem dX5_bring_56 : decode cX5_bring 56 = .ok (.aload_n 0, 1) := dk_42 (dk_at dksX5_bring_2 9 rfl rfl)
theorem dX5_bring_57 : decode cX5_bring 57 = .ok (.iload 6, 2) := dk_21 6 (dk_at dksX5_bring_2 10 rfl rfl)
theorem dX5_bring_59 : decode cX5_bring 59 = .ok (.iload 7, 2) := dk_21 7 (dk_at dksX5_bring_2 12 rfl rfl)
theorem dX5_bring_61 : decode cX5_bring 61 = .ok (.invokevirtual 173, 3) := dk_182 0 173 (dk_at dksX5_bring_2 14 rfl rfl)
theorem dX5_bring_64 : decode cX5_bring 64 = .ok (.lstore 8, 2) := dk_55 8 (dk_at dksX5_bring_2 17 rfl rfl)
theorem dX5_bring_66 : decode cX5_bring 66 = .ok (.lload 8, 2) := dk_22 8 (dk_at dksX5_bring_2 19 rfl rfl)
theorem dX5_bring_68 : decode cX5_bring 68 = .ok (.lconst 0, 1) := dk_9 (dk_at dksX5_bring_2 21 rfl rfl)
theorem dX5_bring_69 : decode cX5_bring 69 = .ok (.lcmp, 1) := dk_148 (dk_at dksX5_bring_2 22 rfl rfl)
theorem dX5_bring_70 : decode cX5_bring 70 = .ok (.ifCond .le 26, 3) := dk_158 0 26 (dk_at dksX5_bring_3 0 rfl rfl)
theorem dX5_bring_73 : decode cX5_bring 73 = .ok (.iload_n 2, 1) := dk_28 (dk_at dksX5_bring_3 3 rfl rfl)
theorem dX5_bring_74 : decode cX5_bring 74 = .ok (.iconst (-1), 1) := dk_2 (dk_at dksX5_bring_3 4 rfl rfl)
theorem dX5_bring_75 : decode cX5_bring 75 = .ok (.if_icmp .eq 11, 3) := dk_159 0 11 (dk_at dksX5_bring_3 5 rfl rfl)
theorem dX5_bring_78 : decode cX5_bring 78 = .ok (.lload 8, 2) := dk_22 8 (dk_at dksX5_bring_3 8 rfl rfl)
theorem dX5_bring_80 : decode cX5_bring 80 = .ok (.lload 4, 2) := dk_22 4 (dk_at dksX5_bring_3 10 rfl rfl)
theorem dX5_bring_82 : decode cX5_bring 82 = .ok (.lcmp, 1) := dk_148 (dk_at dksX5_bring_3 12 rfl rfl)
theorem dX5_bring_83 : decode cX5_bring 83 = .ok (.ifCond .ge 13, 3) := dk_156 0 13 (dk_at dksX5_bring_3 13 rfl rfl)
theorem dX5_bring_86 : decode cX5_bring 86 = .ok (.iload 6, 2) := dk_21 6 (dk_at dksX5_bring_3 16 rfl rfl)
theorem dX5_bring_88 : decode cX5_bring 88 = .ok (.istore_n 2, 1) := dk_61 (dk_at dksX5_bring_3 18 rfl rfl)
theorem dX5_bring_89 : decode cX5_bring 89 = .ok (.iload 7, 2) := dk_21 7 (dk_at dksX5_bring_3 19 rfl rfl)
theorem dX5_bring_91 : decode cX5_bring 91 = .ok (.istore_n 3, 1) := dk_62 (dk_at dksX5_bring_3 21 rfl rfl)
theorem dX5_bring_92 : decode cX5_bring 92 = .ok (.lload 8, 2) := dk_22 8 (dk_at dksX5_bring_3 22 rfl rfl)
theorem dX5_bring_94 : decode cX5_bring 94 = .ok (.lstore 4, 2) := dk_55 4 (dk_at dksX5_bring_4 0 rfl rfl)
theorem dX5_bring_96 : decode cX5_bring 96 = .ok (.iinc 7 1, 3) := dk_132 7 1 (dk_at dksX5_bring_4 2 rfl rfl)
theorem dX5_bring_99 : decode cX5_bring 99 = .ok (.goto (-77), 3) := dk_167 255 179 (dk_at dksX5_bring_4 5 rfl rfl)
theorem dX5_bring_102 : decode cX5_bring 102 = .ok (.iinc 6 1, 3) := dk_132 6 1 (dk_at dksX5_bring_4 8 rfl rfl)
theorem dX5_bring_105 : decode cX5_bring 105 = .ok (.goto (-95), 3) := dk_167 255 161 (dk_at dksX5_bring_4 11 rfl rfl)
theorem dX5_bring_108 : decode cX5_bring 108 = .ok (.iconst 0, 1) := dk_3 (dk_at dksX5_bring_4 14 rfl rfl)
theorem dX5_bring_109 : decode cX5_bring 109 = .ok (.istore 6, 2) := dk_54 6 (dk_at dksX5_bring_4 15 rfl rfl)
theorem dX5_bring_111 : decode cX5_bring 111 = .ok (.iload 6, 2) := dk_21 6 (dk_at dksX5_bring_4 17 rfl rfl)
theorem dX5_bring_113 : decode cX5_bring 113 = .ok (.aload_n 0, 1) := dk_42 (dk_at dksX5_bring_4 19 rfl rfl)
theorem dX5_bring_114 : decode cX5_bring 114 = .ok (.getfield 159, 3) := dk_180 0 159 (dk_at dksX5_bring_4 20 rfl rfl)
theorem dX5_bring_117 : decode cX5_bring 117 = .ok (.if_icmp .ge 56, 3) := dk_162 0 56 (dk_at dksX5_bring_5 0 rfl rfl)
theorem dX5_bring_120 : decode cX5_bring 120 = .ok (.iload_n 2, 1) := dk_28 (dk_at dksX5_bring_5 3 rfl rfl)
theorem dX5_bring_121 : decode cX5_bring 121 = .ok (.iconst (-1), 1) := dk_2 (dk_at dksX5_bring_5 4 rfl rfl)
theorem dX5_bring_122 : decode cX5_bring 122 = .ok (.if_icmp .eq 51, 3) := dk_159 0 51 (dk_at dksX5_bring_5 5 rfl rfl)
theorem dX5_bring_125 : decode cX5_bring 125 = .ok (.aload_n 0, 1) := dk_42 (dk_at dksX5_bring_5 8 rfl rfl)
theorem dX5_bring_126 : decode cX5_bring 126 = .ok (.iload_n 2, 1) := dk_28 (dk_at dksX5_bring_5 9 rfl rfl)
theorem dX5_bring_127 : decode cX5_bring 127 = .ok (.iload 6, 2) := dk_21 6 (dk_at dksX5_bring_5 10 rfl rfl)
theorem dX5_bring_129 : decode cX5_bring 129 = .ok (.invokevirtual 173, 3) := dk_182 0 173 (dk_at dksX5_bring_5 12 rfl rfl)
theorem dX5_bring_132 : decode cX5_bring 132 = .ok (.lstore 7, 2) := dk_55 7 (dk_at dksX5_bring_5 15 rfl rfl)
theorem dX5_bring_134 : decode cX5_bring 134 = .ok (.aload_n 0, 1) := dk_42 (dk_at dksX5_bring_5 17 rfl rfl)
theorem dX5_bring_135 : decode cX5_bring 135 = .ok (.getfield 34, 3) := dk_180 0 34 (dk_at dksX5_bring_5 18 rfl rfl)
theorem dX5_bring_138 : decode cX5_bring 138 = .ok (.bipush 6, 2) := dk_16 6 (dk_at dksX5_bring_5 21 rfl rfl)
theorem dX5_bring_140 : decode cX5_bring 140 = .ok (.iload_n 2, 1) := dk_28 (dk_at dksX5_bring_5 23 rfl rfl)
theorem dX5_bring_141 : decode cX5_bring 141 = .ok (.imul, 1) := dk_104 (dk_at dksX5_bring_6 0 rfl rfl)
theorem dX5_bring_142 : decode cX5_bring 142 = .ok (.iload 6, 2) := dk_21 6 (dk_at dksX5_bring_6 1 rfl rfl)
theorem dX5_bring_144 : decode cX5_bring 144 = .ok (.iadd, 1) := dk_96 (dk_at dksX5_bring_6 3 rfl rfl)
theorem dX5_bring_145 : decode cX5_bring 145 = .ok (.aload_n 0, 1) := dk_42 (dk_at dksX5_bring_6 4 rfl rfl)
theorem dX5_bring_146 : decode cX5_bring 146 = .ok (.iload_n 1, 1) := dk_27 (dk_at dksX5_bring_6 5 rfl rfl)
theorem dX5_bring_147 : decode cX5_bring 147 = .ok (.iload 6, 2) := dk_21 6 (dk_at dksX5_bring_6 6 rfl rfl)
theorem dX5_bring_149 : decode cX5_bring 149 = .ok (.invokevirtual 173, 3) := dk_182 0 173 (dk_at dksX5_bring_6 8 rfl rfl)
theorem dX5_bring_152 : decode cX5_bring 152 = .ok (.lastore, 1) := dk_80 (dk_at dksX5_bring_6 11 rfl rfl)
theorem dX5_bring_153 : decode cX5_bring 153 = .ok (.aload_n 0, 1) := dk_42 (dk_at dksX5_bring_6 12 rfl rfl)
theorem dX5_bring_154 : decode cX5_bring 154 = .ok (.getfield 34, 3) := dk_180 0 34 (dk_at dksX5_bring_6 13 rfl rfl)
theorem dX5_bring_157 : decode cX5_bring 157 = .ok (.bipush 6, 2) := dk_16 6 (dk_at dksX5_bring_6 16 rfl rfl)
theorem dX5_bring_159 : decode cX5_bring 159 = .ok (.iload_n 1, 1) := dk_27 (dk_at dksX5_bring_6 18 rfl rfl)
theorem dX5_bring_160 : decode cX5_bring 160 = .ok (.imul, 1) := dk_104 (dk_at dksX5_bring_6 19 rfl rfl)
theorem dX5_bring_161 : decode cX5_bring 161 = .ok (.iload 6, 2) := dk_21 6 (dk_at dksX5_bring_6 20 rfl rfl)
theorem dX5_bring_163 : decode cX5_bring 163 = .ok (.iadd, 1) := dk_96 (dk_at dksX5_bring_6 22 rfl rfl)
theorem dX5_bring_164 : decode cX5_bring 164 = .ok (.lload 7, 2) := dk_22 7 (dk_at dksX5_bring_7 0 rfl rfl)
theorem dX5_bring_166 : decode cX5_bring 166 = .ok (.lastore, 1) := dk_80 (dk_at dksX5_bring_7 2 rfl rfl)
theorem dX5_bring_167 : decode cX5_bring 167 = .ok (.iinc 6 1, 3) := dk_132 6 1 (dk_at dksX5_bring_7 3 rfl rfl)
theorem dX5_bring_170 : decode cX5_bring 170 = .ok (.goto (-59), 3) := dk_167 255 197 (dk_at dksX5_bring_7 6 rfl rfl)
theorem dX5_bring_173 : decode cX5_bring 173 = .ok (.iconst 0, 1) := dk_3 (dk_at dksX5_bring_7 9 rfl rfl)
theorem dX5_bring_174 : decode cX5_bring 174 = .ok (.istore 6, 2) := dk_54 6 (dk_at dksX5_bring_7 10 rfl rfl)
theorem dX5_bring_176 : decode cX5_bring 176 = .ok (.iload 6, 2) := dk_21 6 (dk_at dksX5_bring_7 12 rfl rfl)
theorem dX5_bring_178 : decode cX5_bring 178 = .ok (.aload_n 0, 1) := dk_42 (dk_at dksX5_bring_7 14 rfl rfl)
theorem dX5_bring_179 : decode cX5_bring 179 = .ok (.getfield 162, 3) := dk_180 0 162 (dk_at dksX5_bring_7 15 rfl rfl)
theorem dX5_bring_182 : decode cX5_bring 182 = .ok (.if_icmp .ge 56, 3) := dk_162 0 56 (dk_at dksX5_bring_7 18 rfl rfl)
theorem dX5_bring_185 : decode cX5_bring 185 = .ok (.iload_n 2, 1) := dk_28 (dk_at dksX5_bring_7 21 rfl rfl)
theorem dX5_bring_186 : decode cX5_bring 186 = .ok (.iconst (-1), 1) := dk_2 (dk_at dksX5_bring_7 22 rfl rfl)
theorem dX5_bring_187 : decode cX5_bring 187 = .ok (.if_icmp .eq 51, 3) := dk_159 0 51 (dk_at dksX5_bring_8 0 rfl rfl)
theorem dX5_bring_190 : decode cX5_bring 190 = .ok (.aload_n 0, 1) := dk_42 (dk_at dksX5_bring_8 3 rfl rfl)
theorem dX5_bring_191 : decode cX5_bring 191 = .ok (.iload 6, 2) := dk_21 6 (dk_at dksX5_bring_8 4 rfl rfl)
theorem dX5_bring_193 : decode cX5_bring 193 = .ok (.iload_n 3, 1) := dk_29 (dk_at dksX5_bring_8 6 rfl rfl)
theorem dX5_bring_194 : decode cX5_bring 194 = .ok (.invokevirtual 173, 3) := dk_182 0 173 (dk_at dksX5_bring_8 7 rfl rfl)
theorem dX5_bring_197 : decode cX5_bring 197 = .ok (.lstore 7, 2) := dk_55 7 (dk_at dksX5_bring_8 10 rfl rfl)
theorem dX5_bring_199 : decode cX5_bring 199 = .ok (.aload_n 0, 1) := dk_42 (dk_at dksX5_bring_8 12 rfl rfl)
theorem dX5_bring_200 : decode cX5_bring 200 = .ok (.getfield 34, 3) := dk_180 0 34 (dk_at dksX5_bring_8 13 rfl rfl)
theorem dX5_bring_203 : decode cX5_bring 203 = .ok (.bipush 6, 2) := dk_16 6 (dk_at dksX5_bring_8 16 rfl rfl)
theorem dX5_bring_205 : decode cX5_bring 205 = .ok (.iload 6, 2) := dk_21 6 (dk_at dksX5_bring_8 18 rfl rfl)
theorem dX5_bring_207 : decode cX5_bring 207 = .ok (.imul, 1) := dk_104 (dk_at dksX5_bring_8 20 rfl rfl)
theorem dX5_bring_208 : decode cX5_bring 208 = .ok (.iload_n 3, 1) := dk_29 (dk_at dksX5_bring_8 21 rfl rfl)
theorem dX5_bring_209 : decode cX5_bring 209 = .ok (.iadd, 1) := dk_96 (dk_at dksX5_bring_8 22 rfl rfl)
theorem dX5_bring_210 : decode cX5_bring 210 = .ok (.aload_n 0, 1) := dk_42 (dk_at dksX5_bring_8 23 rfl rfl)
theorem dX5_bring_211 : decode cX5_bring 211 = .ok (.iload 6, 2) := dk_21 6 (dk_at dksX5_bring_9 0 rfl rfl)
theorem dX5_bring_213 : decode cX5_bring 213 = .ok (.iload_n 1, 1) := dk_27 (dk_at dksX5_bring_9 2 rfl rfl)
theorem dX5_bring_214 : decode cX5_bring 214 = .ok (.invokevirtual 173, 3) := dk_182 0 173 (dk_at dksX5_bring_9 3 rfl rfl)
theorem dX5_bring_217 : decode cX5_bring 217 = .ok (.lastore, 1) := dk_80 (dk_at dksX5_bring_9 6 rfl rfl)
theorem dX5_bring_218 : decode cX5_bring 218 = .ok (.aload_n 0, 1) := dk_42 (dk_at dksX5_bring_9 7 rfl rfl)
theorem dX5_bring_219 : decode cX5_bring 219 = .ok (.getfield 34, 3) := dk_180 0 34 (dk_at dksX5_bring_9 8 rfl rfl)
theorem dX5_bring_222 : decode cX5_bring 222 = .ok (.bipush 6, 2) := dk_16 6 (dk_at dksX5_bring_9 11 rfl rfl)
theorem dX5_bring_224 : decode cX5_bring 224 = .ok (.iload 6, 2) := dk_21 6 (dk_at dksX5_bring_9 13 rfl rfl)
theorem dX5_bring_226 : decode cX5_bring 226 = .ok (.imul, 1) := dk_104 (dk_at dksX5_bring_9 15 rfl rfl)
theorem dX5_bring_227 : decode cX5_bring 227 = .ok (.iload_n 1, 1) := dk_27 (dk_at dksX5_bring_9 16 rfl rfl)
theorem dX5_bring_228 : decode cX5_bring 228 = .ok (.iadd, 1) := dk_96 (dk_at dksX5_bring_9 17 rfl rfl)
theorem dX5_bring_229 : decode cX5_bring 229 = .ok (.lload 7, 2) := dk_22 7 (dk_at dksX5_bring_9 18 rfl rfl)
theorem dX5_bring_231 : decode cX5_bring 231 = .ok (.lastore, 1) := dk_80 (dk_at dksX5_bring_9 20 rfl rfl)
theorem dX5_bring_232 : decode cX5_bring 232 = .ok (.iinc 6 1, 3) := dk_132 6 1 (dk_at dksX5_bring_9 21 rfl rfl)
theorem dX5_bring_235 : decode cX5_bring 235 = .ok (.goto (-59), 3) := dk_167 255 197 (dk_at dksX5_bring_10 0 rfl rfl)
theorem dX5_bring_238 : decode cX5_bring 238 = .ok (.iload_n 2, 1) := dk_28 (dk_at dksX5_bring_10 3 rfl rfl)
theorem dX5_bring_239 : decode cX5_bring 239 = .ok (.iconst (-1), 1) := dk_2 (dk_at dksX5_bring_10 4 rfl rfl)
theorem dX5_bring_240 : decode cX5_bring 240 = .ok (.if_icmp .eq 7, 3) := dk_159 0 7 (dk_at dksX5_bring_10 5 rfl rfl)
theorem dX5_bring_243 : decode cX5_bring 243 = .ok (.iconst 1, 1) := dk_4 (dk_at dksX5_bring_10 8 rfl rfl)
theorem dX5_bring_244 : decode cX5_bring 244 = .ok (.goto 4, 3) := dk_167 0 4 (dk_at dksX5_bring_10 9 rfl rfl)
theorem dX5_bring_247 : decode cX5_bring 247 = .ok (.iconst 0, 1) := dk_3 (dk_at dksX5_bring_10 12 rfl rfl)
theorem dX5_bring_248 : decode cX5_bring 248 = .ok (.ireturn, 1) := dk_172 (dk_at dksX5_bring_10 13 rfl rfl)
abbrev cX5_cell : ByteArray := prog_8_method_38_code
def yX5_cell : MethodName := ⟨RX5, "cell", "(II)J"⟩
def dkwX5_cell_0 : List UInt8 := [42, 180, 0, 34, 16, 6, 27, 104, 28, 96, 47, 173]
abbrev dktX5_cell_0 : List UInt8 := dkwX5_cell_0 ++ []
theorem dksX5_cell_0 : cX5_cell.data.toList.drop 0 = dktX5_cell_0 := by decide +kernel
theorem dX5_cell_0 : decode cX5_cell 0 = .ok (.aload_n 0, 1) := dk_42 (dk_at dksX5_cell_0 0 rfl rfl)
theorem dX5_cell_1 : decode cX5_cell 1 = .ok (.getfield 34, 3) := dk_180 0 34 (dk_at dksX5_cell_0 1 rfl rfl)
theorem dX5_cell_4 : decode cX5_cell 4 = .ok (.bipush 6, 2) := dk_16 6 (dk_at dksX5_cell_0 4 rfl rfl)
theorem dX5_cell_6 : decode cX5_cell 6 = .ok (.iload_n 1, 1) := dk_27 (dk_at dksX5_cell_0 6 rfl rfl)
theorem dX5_cell_7 : decode cX5_cell 7 = .ok (.imul, 1) := dk_104 (dk_at dksX5_cell_0 7 rfl rfl)
theorem dX5_cell_8 : decode cX5_cell 8 = .ok (.iload_n 2, 1) := dk_28 (dk_at dksX5_cell_0 8 rfl rfl)
theorem dX5_cell_9 : decode cX5_cell 9 = .ok (.iadd, 1) := dk_96 (dk_at dksX5_cell_0 9 rfl rfl)
theorem dX5_cell_10 : decode cX5_cell 10 = .ok (.laload, 1) := dk_47 (dk_at dksX5_cell_0 10 rfl rfl)
theorem dX5_cell_11 : decode cX5_cell 11 = .ok (.lreturn, 1) := dk_173 (dk_at dksX5_cell_0 11 rfl rfl)
abbrev cX5_reduce : ByteArray := prog_8_method_40_code
def yX5_reduce : MethodName := ⟨RX5, "reduce", "(I)Z"⟩
def dkwX5_reduce_13 : List UInt8 := [167, 255, 156, 28, 172]
abbrev dktX5_reduce_13 : List UInt8 := dkwX5_reduce_13 ++ []
def dkwX5_reduce_12 : List UInt8 := [182, 0, 173, 97, 80, 132, 5, 1, 167, 255, 222, 3, 61, 132, 4, 1, 167, 255, 179, 132, 3, 1]
abbrev dktX5_reduce_12 : List UInt8 := dkwX5_reduce_12 ++ dktX5_reduce_13
def dkwX5_reduce_11 : List UInt8 := [180, 0, 159, 162, 0, 31, 42, 180, 0, 34, 16, 6, 27, 104, 21, 5, 96, 92, 47, 42, 29, 21, 5]
abbrev dktX5_reduce_11 : List UInt8 := dkwX5_reduce_11 ++ dktX5_reduce_12
def dkwX5_reduce_10 : List UInt8 := [21, 4, 182, 0, 173, 42, 27, 27, 182, 0, 173, 113, 9, 148, 153, 0, 45, 27, 54, 5, 21, 5, 42]
abbrev dktX5_reduce_10 : List UInt8 := dkwX5_reduce_10 ++ dktX5_reduce_11
def dkwX5_reduce_9 : List UInt8 := [153, 0, 94, 27, 4, 96, 54, 4, 21, 4, 42, 180, 0, 159, 162, 0, 74, 28, 153, 0, 70, 42, 29]
abbrev dktX5_reduce_9 : List UInt8 := dkwX5_reduce_9 ++ dktX5_reduce_10
def dkwX5_reduce_8 : List UInt8 := [167, 0, 4, 3, 61, 132, 3, 1, 167, 255, 166, 27, 4, 96, 62, 29, 42, 180, 0, 162, 162, 0, 98, 28]
abbrev dktX5_reduce_8 : List UInt8 := dkwX5_reduce_8 ++ dktX5_reduce_9
def dkwX5_reduce_7 : List UInt8 := [132, 6, 1, 167, 255, 219, 28, 153, 0, 18, 42, 27, 29, 182, 0, 173, 9, 148, 154, 0, 7, 4]
abbrev dktX5_reduce_7 : List UInt8 := dkwX5_reduce_7 ++ dktX5_reduce_8
def dkwX5_reduce_6 : List UInt8 := [180, 0, 34, 16, 6, 21, 6, 104, 29, 96, 92, 47, 22, 4, 42, 21, 6, 27, 182, 0, 173, 105, 101, 80]
abbrev dktX5_reduce_6 : List UInt8 := dkwX5_reduce_6 ++ dktX5_reduce_7
def dkwX5_reduce_5 : List UInt8 := [42, 27, 27, 182, 0, 173, 109, 55, 4, 27, 54, 6, 21, 6, 42, 180, 0, 162, 162, 0, 34, 42]
abbrev dktX5_reduce_5 : List UInt8 := dkwX5_reduce_5 ++ dktX5_reduce_6
def dkwX5_reduce_4 : List UInt8 := [132, 3, 1, 167, 255, 166, 27, 4, 96, 62, 29, 42, 180, 0, 159, 162, 0, 88, 42, 27, 29, 182, 0, 173]
abbrev dktX5_reduce_4 : List UInt8 := dkwX5_reduce_4 ++ dktX5_reduce_5
def dkwX5_reduce_3 : List UInt8 := [167, 255, 219, 28, 153, 0, 18, 42, 29, 27, 182, 0, 173, 9, 148, 154, 0, 7, 4, 167, 0, 4, 3, 61]
abbrev dktX5_reduce_3 : List UInt8 := dkwX5_reduce_3 ++ dktX5_reduce_4
def dkwX5_reduce_2 : List UInt8 := [29, 104, 21, 6, 96, 92, 47, 22, 4, 42, 27, 21, 6, 182, 0, 173, 105, 101, 80, 132, 6, 1]
abbrev dktX5_reduce_2 : List UInt8 := dkwX5_reduce_2 ++ dktX5_reduce_3
def dkwX5_reduce_1 : List UInt8 := [182, 0, 173, 109, 55, 4, 27, 54, 6, 21, 6, 42, 180, 0, 159, 162, 0, 34, 42, 180, 0, 34, 16, 6]
abbrev dktX5_reduce_1 : List UInt8 := dkwX5_reduce_1 ++ dktX5_reduce_2
def dkwX5_reduce_0 : List UInt8 := [4, 61, 27, 4, 96, 62, 29, 42, 180, 0, 162, 162, 0, 88, 42, 29, 27, 182, 0, 173, 42, 27, 27]
abbrev dktX5_reduce_0 : List UInt8 := dkwX5_reduce_0 ++ dktX5_reduce_1
theorem dksX5_reduce_0 : cX5_reduce.data.toList.drop 0 = dktX5_reduce_0 := by decide +kernel
theorem dksX5_reduce_1 : cX5_reduce.data.toList.drop 23 = dktX5_reduce_1 := dk_seg dksX5_reduce_0 23 rfl rfl
theorem dksX5_reduce_2 : cX5_reduce.data.toList.drop 47 = dktX5_reduce_2 := dk_seg dksX5_reduce_1 24 rfl rfl
theorem dksX5_reduce_3 : cX5_reduce.data.toList.drop 69 = dktX5_reduce_3 := dk_seg dksX5_reduce_2 22 rfl rfl
theorem dksX5_reduce_4 : cX5_reduce.data.toList.drop 93 = dktX5_reduce_4 := dk_seg dksX5_reduce_3 24 rfl rfl
theorem dksX5_reduce_5 : cX5_reduce.data.toList.drop 117 = dktX5_reduce_5 := dk_seg dksX5_reduce_4 24 rfl rfl
theorem dksX5_reduce_6 : cX5_reduce.data.toList.drop 139 = dktX5_reduce_6 := dk_seg dksX5_reduce_5 22 rfl rfl
theorem dksX5_reduce_7 : cX5_reduce.data.toList.drop 163 = dktX5_reduce_7 := dk_seg dksX5_reduce_6 24 rfl rfl
theorem dksX5_reduce_8 : cX5_reduce.data.toList.drop 185 = dktX5_reduce_8 := dk_seg dksX5_reduce_7 22 rfl rfl
theorem dksX5_reduce_9 : cX5_reduce.data.toList.drop 209 = dktX5_reduce_9 := dk_seg dksX5_reduce_8 24 rfl rfl
theorem dksX5_reduce_10 : cX5_reduce.data.toList.drop 232 = dktX5_reduce_10 := dk_seg dksX5_reduce_9 23 rfl rfl
theorem dksX5_reduce_11 : cX5_reduce.data.toList.drop 255 = dktX5_reduce_11 := dk_seg dksX5_reduce_10 23 rfl rfl
theorem dksX5_reduce_12 : cX5_reduce.data.toList.drop 278 = dktX5_reduce_12 := dk_seg dksX5_reduce_11 23 rfl rfl
theorem dksX5_reduce_13 : cX5_reduce.data.toList.drop 300 = dktX5_reduce_13 := dk_seg dksX5_reduce_12 22 rfl rfl
theorem dX5_reduce_0 : decode cX5_reduce 0 = .ok (.iconst 1, 1) := dk_4 (dk_at dksX5_reduce_0 0 rfl rfl)
theorem dX5_reduce_1 : decode cX5_reduce 1 = .ok (.istore_n 2, 1) := dk_61 (dk_at dksX5_reduce_0 1 rfl rfl)
theorem dX5_reduce_2 : decode cX5_reduce 2 = .ok (.iload_n 1, 1) := dk_27 (dk_at dksX5_reduce_0 2 rfl rfl)
theorem dX5_reduce_3 : decode cX5_reduce 3 = .ok (.iconst 1, 1) := dk_4 (dk_at dksX5_reduce_0 3 rfl rfl)
theorem dX5_reduce_4 : decode cX5_reduce 4 = .ok (.iadd, 1) := dk_96 (dk_at dksX5_reduce_0 4 rfl rfl)
theorem dX5_reduce_5 : decode cX5_reduce 5 = .ok (.istore_n 3, 1) := dk_62 (dk_at dksX5_reduce_0 5 rfl rfl)
theorem dX5_reduce_6 : decode cX5_reduce 6 = .ok (.iload_n 3, 1) := dk_29 (dk_at dksX5_reduce_0 6 rfl rfl)
theorem dX5_reduce_7 : decode cX5_reduce 7 = .ok (.aload_n 0, 1) := dk_42 (dk_at dksX5_reduce_0 7 rfl rfl)
theorem dX5_reduce_8 : decode cX5_reduce 8 = .ok (.getfield 162, 3) := dk_180 0 162 (dk_at dksX5_reduce_0 8 rfl rfl)
theorem dX5_reduce_11 : decode cX5_reduce 11 = .ok (.if_icmp .ge 88, 3) := dk_162 0 88 (dk_at dksX5_reduce_0 11 rfl rfl)
theorem dX5_reduce_14 : decode cX5_reduce 14 = .ok (.aload_n 0, 1) := dk_42 (dk_at dksX5_reduce_0 14 rfl rfl)
theorem dX5_reduce_15 : decode cX5_reduce 15 = .ok (.iload_n 3, 1) := dk_29 (dk_at dksX5_reduce_0 15 rfl rfl)
theorem dX5_reduce_16 : decode cX5_reduce 16 = .ok (.iload_n 1, 1) := dk_27 (dk_at dksX5_reduce_0 16 rfl rfl)
theorem dX5_reduce_17 : decode cX5_reduce 17 = .ok (.invokevirtual 173, 3) := dk_182 0 173 (dk_at dksX5_reduce_0 17 rfl rfl)
theorem dX5_reduce_20 : decode cX5_reduce 20 = .ok (.aload_n 0, 1) := dk_42 (dk_at dksX5_reduce_0 20 rfl rfl)
theorem dX5_reduce_21 : decode cX5_reduce 21 = .ok (.iload_n 1, 1) := dk_27 (dk_at dksX5_reduce_0 21 rfl rfl)
theorem dX5_reduce_22 : decode cX5_reduce 22 = .ok (.iload_n 1, 1) := dk_27 (dk_at dksX5_reduce_0 22 rfl rfl)
theorem dX5_reduce_23 : decode cX5_reduce 23 = .ok (.invokevirtual 173, 3) := dk_182 0 173 (dk_at dksX5_reduce_1 0 rfl rfl)
theorem dX5_reduce_26 : decode cX5_reduce 26 = .ok (.ldiv, 1) := dk_109 (dk_at dksX5_reduce_1 3 rfl rfl)
theorem dX5_reduce_27 : decode cX5_reduce 27 = .ok (.lstore 4, 2) := dk_55 4 (dk_at dksX5_reduce_1 4 rfl rfl)
theorem dX5_reduce_29 : decode cX5_reduce 29 = .ok (.iload_n 1, 1) := dk_27 (dk_at dksX5_reduce_1 6 rfl rfl)
theorem dX5_reduce_30 : decode cX5_reduce 30 = .ok (.istore 6, 2) := dk_54 6 (dk_at dksX5_reduce_1 7 rfl rfl)
theorem dX5_reduce_32 : decode cX5_reduce 32 = .ok (.iload 6, 2) := dk_21 6 (dk_at dksX5_reduce_1 9 rfl rfl)
theorem dX5_reduce_34 : decode cX5_reduce 34 = .ok (.aload_n 0, 1) := dk_42 (dk_at dksX5_reduce_1 11 rfl rfl)
theorem dX5_reduce_35 : decode cX5_reduce 35 = .ok (.getfield 159, 3) := dk_180 0 159 (dk_at dksX5_reduce_1 12 rfl rfl)
theorem dX5_reduce_38 : decode cX5_reduce 38 = .ok (.if_icmp .ge 34, 3) := dk_162 0 34 (dk_at dksX5_reduce_1 15 rfl rfl)
theorem dX5_reduce_41 : decode cX5_reduce 41 = .ok (.aload_n 0, 1) := dk_42 (dk_at dksX5_reduce_1 18 rfl rfl)
theorem dX5_reduce_42 : decode cX5_reduce 42 = .ok (.getfield 34, 3) := dk_180 0 34 (dk_at dksX5_reduce_1 19 rfl rfl)
theorem dX5_reduce_45 : decode cX5_reduce 45 = .ok (.bipush 6, 2) := dk_16 6 (dk_at dksX5_reduce_1 22 rfl rfl)
theorem dX5_reduce_47 : decode cX5_reduce 47 = .ok (.iload_n 3, 1) := dk_29 (dk_at dksX5_reduce_2 0 rfl rfl)
theorem dX5_reduce_48 : decode cX5_reduce 48 = .ok (.imul, 1) := dk_104 (dk_at dksX5_reduce_2 1 rfl rfl)
theorem dX5_reduce_49 : decode cX5_reduce 49 = .ok (.iload 6, 2) := dk_21 6 (dk_at dksX5_reduce_2 2 rfl rfl)
theorem dX5_reduce_51 : decode cX5_reduce 51 = .ok (.iadd, 1) := dk_96 (dk_at dksX5_reduce_2 4 rfl rfl)
theorem dX5_reduce_52 : decode cX5_reduce 52 = .ok (.dup2, 1) := dk_92 (dk_at dksX5_reduce_2 5 rfl rfl)
theorem dX5_reduce_53 : decode cX5_reduce 53 = .ok (.laload, 1) := dk_47 (dk_at dksX5_reduce_2 6 rfl rfl)
theorem dX5_reduce_54 : decode cX5_reduce 54 = .ok (.lload 4, 2) := dk_22 4 (dk_at dksX5_reduce_2 7 rfl rfl)
theorem dX5_reduce_56 : decode cX5_reduce 56 = .ok (.aload_n 0, 1) := dk_42 (dk_at dksX5_reduce_2 9 rfl rfl)
theorem dX5_reduce_57 : decode cX5_reduce 57 = .ok (.iload_n 1, 1) := dk_27 (dk_at dksX5_reduce_2 10 rfl rfl)
theorem dX5_reduce_58 : decode cX5_reduce 58 = .ok (.iload 6, 2) := dk_21 6 (dk_at dksX5_reduce_2 11 rfl rfl)
theorem dX5_reduce_60 : decode cX5_reduce 60 = .ok (.invokevirtual 173, 3) := dk_182 0 173 (dk_at dksX5_reduce_2 13 rfl rfl)
theorem dX5_reduce_63 : decode cX5_reduce 63 = .ok (.lmul, 1) := dk_105 (dk_at dksX5_reduce_2 16 rfl rfl)
theorem dX5_reduce_64 : decode cX5_reduce 64 = .ok (.lsub, 1) := dk_101 (dk_at dksX5_reduce_2 17 rfl rfl)
theorem dX5_reduce_65 : decode cX5_reduce 65 = .ok (.lastore, 1) := dk_80 (dk_at dksX5_reduce_2 18 rfl rfl)
theorem dX5_reduce_66 : decode cX5_reduce 66 = .ok (.iinc 6 1, 3) := dk_132 6 1 (dk_at dksX5_reduce_2 19 rfl rfl)
theorem dX5_reduce_69 : decode cX5_reduce 69 = .ok (.goto (-37), 3) := dk_167 255 219 (dk_at dksX5_reduce_3 0 rfl rfl)
theorem dX5_reduce_72 : decode cX5_reduce 72 = .ok (.iload_n 2, 1) := dk_28 (dk_at dksX5_reduce_3 3 rfl rfl)
theorem dX5_reduce_73 : decode cX5_reduce 73 = .ok (.ifCond .eq 18, 3) := dk_153 0 18 (dk_at dksX5_reduce_3 4 rfl rfl)
theorem dX5_reduce_76 : decode cX5_reduce 76 = .ok (.aload_n 0, 1) := dk_42 (dk_at dksX5_reduce_3 7 rfl rfl)
theorem dX5_reduce_77 : decode cX5_reduce 77 = .ok (.iload_n 3, 1) := dk_29 (dk_at dksX5_reduce_3 8 rfl rfl)
theorem dX5_reduce_78 : decode cX5_reduce 78 = .ok (.iload_n 1, 1) := dk_27 (dk_at dksX5_reduce_3 9 rfl rfl)
theorem dX5_reduce_79 : decode cX5_reduce 79 = .ok (.invokevirtual 173, 3) := dk_182 0 173 (dk_at dksX5_reduce_3 10 rfl rfl)
theorem dX5_reduce_82 : decode cX5_reduce 82 = .ok (.lconst 0, 1) := dk_9 (dk_at dksX5_reduce_3 13 rfl rfl)
theorem dX5_reduce_83 : decode cX5_reduce 83 = .ok (.lcmp, 1) := dk_148 (dk_at dksX5_reduce_3 14 rfl rfl)
theorem dX5_reduce_84 : decode cX5_reduce 84 = .ok (.ifCond .ne 7, 3) := dk_154 0 7 (dk_at dksX5_reduce_3 15 rfl rfl)
theorem dX5_reduce_87 : decode cX5_reduce 87 = .ok (.iconst 1, 1) := dk_4 (dk_at dksX5_reduce_3 18 rfl rfl)
theorem dX5_reduce_88 : decode cX5_reduce 88 = .ok (.goto 4, 3) := dk_167 0 4 (dk_at dksX5_reduce_3 19 rfl rfl)
theorem dX5_reduce_91 : decode cX5_reduce 91 = .ok (.iconst 0, 1) := dk_3 (dk_at dksX5_reduce_3 22 rfl rfl)
theorem dX5_reduce_92 : decode cX5_reduce 92 = .ok (.istore_n 2, 1) := dk_61 (dk_at dksX5_reduce_3 23 rfl rfl)
theorem dX5_reduce_93 : decode cX5_reduce 93 = .ok (.iinc 3 1, 3) := dk_132 3 1 (dk_at dksX5_reduce_4 0 rfl rfl)
theorem dX5_reduce_96 : decode cX5_reduce 96 = .ok (.goto (-90), 3) := dk_167 255 166 (dk_at dksX5_reduce_4 3 rfl rfl)
theorem dX5_reduce_99 : decode cX5_reduce 99 = .ok (.iload_n 1, 1) := dk_27 (dk_at dksX5_reduce_4 6 rfl rfl)
theorem dX5_reduce_100 : decode cX5_reduce 100 = .ok (.iconst 1, 1) := dk_4 (dk_at dksX5_reduce_4 7 rfl rfl)
theorem dX5_reduce_101 : decode cX5_reduce 101 = .ok (.iadd, 1) := dk_96 (dk_at dksX5_reduce_4 8 rfl rfl)
theorem dX5_reduce_102 : decode cX5_reduce 102 = .ok (.istore_n 3, 1) := dk_62 (dk_at dksX5_reduce_4 9 rfl rfl)
theorem dX5_reduce_103 : decode cX5_reduce 103 = .ok (.iload_n 3, 1) := dk_29 (dk_at dksX5_reduce_4 10 rfl rfl)
theorem dX5_reduce_104 : decode cX5_reduce 104 = .ok (.aload_n 0, 1) := dk_42 (dk_at dksX5_reduce_4 11 rfl rfl)
theorem dX5_reduce_105 : decode cX5_reduce 105 = .ok (.getfield 159, 3) := dk_180 0 159 (dk_at dksX5_reduce_4 12 rfl rfl)
theorem dX5_reduce_108 : decode cX5_reduce 108 = .ok (.if_icmp .ge 88, 3) := dk_162 0 88 (dk_at dksX5_reduce_4 15 rfl rfl)
theorem dX5_reduce_111 : decode cX5_reduce 111 = .ok (.aload_n 0, 1) := dk_42 (dk_at dksX5_reduce_4 18 rfl rfl)
theorem dX5_reduce_112 : decode cX5_reduce 112 = .ok (.iload_n 1, 1) := dk_27 (dk_at dksX5_reduce_4 19 rfl rfl)
theorem dX5_reduce_113 : decode cX5_reduce 113 = .ok (.iload_n 3, 1) := dk_29 (dk_at dksX5_reduce_4 20 rfl rfl)
theorem dX5_reduce_114 : decode cX5_reduce 114 = .ok (.invokevirtual 173, 3) := dk_182 0 173 (dk_at dksX5_reduce_4 21 rfl rfl)
theorem dX5_reduce_117 : decode cX5_reduce 117 = .ok (.aload_n 0, 1) := dk_42 (dk_at dksX5_reduce_5 0 rfl rfl)
theorem dX5_reduce_118 : decode cX5_reduce 118 = .ok (.iload_n 1, 1) := dk_27 (dk_at dksX5_reduce_5 1 rfl rfl)
theorem dX5_reduce_119 : decode cX5_reduce 119 = .ok (.iload_n 1, 1) := dk_27 (dk_at dksX5_reduce_5 2 rfl rfl)
theorem dX5_reduce_120 : decode cX5_reduce 120 = .ok (.invokevirtual 173, 3) := dk_182 0 173 (dk_at dksX5_reduce_5 3 rfl rfl)
theorem dX5_reduce_123 : decode cX5_reduce 123 = .ok (.ldiv, 1) := dk_109 (dk_at dksX5_reduce_5 6 rfl rfl)
theorem dX5_reduce_124 : decode cX5_reduce 124 = .ok (.lstore 4, 2) := dk_55 4 (dk_at dksX5_reduce_5 7 rfl rfl)
theorem dX5_reduce_126 : decode cX5_reduce 126 = .ok (.iload_n 1, 1) := dk_27 (dk_at dksX5_reduce_5 9 rfl rfl)
theorem dX5_reduce_127 : decode cX5_reduce 127 = .ok (.istore 6, 2) := dk_54 6 (dk_at dksX5_reduce_5 10 rfl rfl)
theorem dX5_reduce_129 : decode cX5_reduce 129 = .ok (.iload 6, 2) := dk_21 6 (dk_at dksX5_reduce_5 12 rfl rfl)
theorem dX5_reduce_131 : decode cX5_reduce 131 = .ok (.aload_n 0, 1) := dk_42 (dk_at dksX5_reduce_5 14 rfl rfl)
theorem dX5_reduce_132 : decode cX5_reduce 132 = .ok (.getfield 162, 3) := dk_180 0 162 (dk_at dksX5_reduce_5 15 rfl rfl)
theorem dX5_reduce_135 : decode cX5_reduce 135 = .ok (.if_icmp .ge 34, 3) := dk_162 0 34 (dk_at dksX5_reduce_5 18 rfl rfl)
theorem dX5_reduce_138 : decode cX5_reduce 138 = .ok (.aload_n 0, 1) := dk_42 (dk_at dksX5_reduce_5 21 rfl rfl)
theorem dX5_reduce_139 : decode cX5_reduce 139 = .ok (.getfield 34, 3) := dk_180 0 34 (dk_at dksX5_reduce_6 0 rfl rfl)
theorem dX5_reduce_142 : decode cX5_reduce 142 = .ok (.bipush 6, 2) := dk_16 6 (dk_at dksX5_reduce_6 3 rfl rfl)
theorem dX5_reduce_144 : decode cX5_reduce 144 = .ok (.iload 6, 2) := dk_21 6 (dk_at dksX5_reduce_6 5 rfl rfl)
theorem dX5_reduce_146 : decode cX5_reduce 146 = .ok (.imul, 1) := dk_104 (dk_at dksX5_reduce_6 7 rfl rfl)
theorem dX5_reduce_147 : decode cX5_reduce 147 = .ok (.iload_n 3, 1) := dk_29 (dk_at dksX5_reduce_6 8 rfl rfl)
theorem dX5_reduce_148 : decode cX5_reduce 148 = .ok (.iadd, 1) := dk_96 (dk_at dksX5_reduce_6 9 rfl rfl)
theorem dX5_reduce_149 : decode cX5_reduce 149 = .ok (.dup2, 1) := dk_92 (dk_at dksX5_reduce_6 10 rfl rfl)
theorem dX5_reduce_150 : decode cX5_reduce 150 = .ok (.laload, 1) := dk_47 (dk_at dksX5_reduce_6 11 rfl rfl)
theorem dX5_reduce_151 : decode cX5_reduce 151 = .ok (.lload 4, 2) := dk_22 4 (dk_at dksX5_reduce_6 12 rfl rfl)
theorem dX5_reduce_153 : decode cX5_reduce 153 = .ok (.aload_n 0, 1) := dk_42 (dk_at dksX5_reduce_6 14 rfl rfl)
theorem dX5_reduce_154 : decode cX5_reduce 154 = .ok (.iload 6, 2) := dk_21 6 (dk_at dksX5_reduce_6 15 rfl rfl)
theorem dX5_reduce_156 : decode cX5_reduce 156 = .ok (.iload_n 1, 1) := dk_27 (dk_at dksX5_reduce_6 17 rfl rfl)
theorem dX5_reduce_157 : decode cX5_reduce 157 = .ok (.invokevirtual 173, 3) := dk_182 0 173 (dk_at dksX5_reduce_6 18 rfl rfl)
theorem dX5_reduce_160 : decode cX5_reduce 160 = .ok (.lmul, 1) := dk_105 (dk_at dksX5_reduce_6 21 rfl rfl)
theorem dX5_reduce_161 : decode cX5_reduce 161 = .ok (.lsub, 1) := dk_101 (dk_at dksX5_reduce_6 22 rfl rfl)
theorem dX5_reduce_162 : decode cX5_reduce 162 = .ok (.lastore, 1) := dk_80 (dk_at dksX5_reduce_6 23 rfl rfl)
theorem dX5_reduce_163 : decode cX5_reduce 163 = .ok (.iinc 6 1, 3) := dk_132 6 1 (dk_at dksX5_reduce_7 0 rfl rfl)
theorem dX5_reduce_166 : decode cX5_reduce 166 = .ok (.goto (-37), 3) := dk_167 255 219 (dk_at dksX5_reduce_7 3 rfl rfl)
theorem dX5_reduce_169 : decode cX5_reduce 169 = .ok (.iload_n 2, 1) := dk_28 (dk_at dksX5_reduce_7 6 rfl rfl)
theorem dX5_reduce_170 : decode cX5_reduce 170 = .ok (.ifCond .eq 18, 3) := dk_153 0 18 (dk_at dksX5_reduce_7 7 rfl rfl)
theorem dX5_reduce_173 : decode cX5_reduce 173 = .ok (.aload_n 0, 1) := dk_42 (dk_at dksX5_reduce_7 10 rfl rfl)
theorem dX5_reduce_174 : decode cX5_reduce 174 = .ok (.iload_n 1, 1) := dk_27 (dk_at dksX5_reduce_7 11 rfl rfl)
theorem dX5_reduce_175 : decode cX5_reduce 175 = .ok (.iload_n 3, 1) := dk_29 (dk_at dksX5_reduce_7 12 rfl rfl)
theorem dX5_reduce_176 : decode cX5_reduce 176 = .ok (.invokevirtual 173, 3) := dk_182 0 173 (dk_at dksX5_reduce_7 13 rfl rfl)
theorem dX5_reduce_179 : decode cX5_reduce 179 = .ok (.lconst 0, 1) := dk_9 (dk_at dksX5_reduce_7 16 rfl rfl)
theorem dX5_reduce_180 : decode cX5_reduce 180 = .ok (.lcmp, 1) := dk_148 (dk_at dksX5_reduce_7 17 rfl rfl)
theorem dX5_reduce_181 : decode cX5_reduce 181 = .ok (.ifCond .ne 7, 3) := dk_154 0 7 (dk_at dksX5_reduce_7 18 rfl rfl)
theorem dX5_reduce_184 : decode cX5_reduce 184 = .ok (.iconst 1, 1) := dk_4 (dk_at dksX5_reduce_7 21 rfl rfl)
theorem dX5_reduce_185 : decode cX5_reduce 185 = .ok (.goto 4, 3) := dk_167 0 4 (dk_at dksX5_reduce_8 0 rfl rfl)
theorem dX5_reduce_188 : decode cX5_reduce 188 = .ok (.iconst 0, 1) := dk_3 (dk_at dksX5_reduce_8 3 rfl rfl)
theorem dX5_reduce_189 : decode cX5_reduce 189 = .ok (.istore_n 2, 1) := dk_61 (dk_at dksX5_reduce_8 4 rfl rfl)
theorem dX5_reduce_190 : decode cX5_reduce 190 = .ok (.iinc 3 1, 3) := dk_132 3 1 (dk_at dksX5_reduce_8 5 rfl rfl)
theorem dX5_reduce_193 : decode cX5_reduce 193 = .ok (.goto (-90), 3) := dk_167 255 166 (dk_at dksX5_reduce_8 8 rfl rfl)
theorem dX5_reduce_196 : decode cX5_reduce 196 = .ok (.iload_n 1, 1) := dk_27 (dk_at dksX5_reduce_8 11 rfl rfl)
theorem dX5_reduce_197 : decode cX5_reduce 197 = .ok (.iconst 1, 1) := dk_4 (dk_at dksX5_reduce_8 12 rfl rfl)
theorem dX5_reduce_198 : decode cX5_reduce 198 = .ok (.iadd, 1) := dk_96 (dk_at dksX5_reduce_8 13 rfl rfl)
theorem dX5_reduce_199 : decode cX5_reduce 199 = .ok (.istore_n 3, 1) := dk_62 (dk_at dksX5_reduce_8 14 rfl rfl)
theorem dX5_reduce_200 : decode cX5_reduce 200 = .ok (.iload_n 3, 1) := dk_29 (dk_at dksX5_reduce_8 15 rfl rfl)
theorem dX5_reduce_201 : decode cX5_reduce 201 = .ok (.aload_n 0, 1) := dk_42 (dk_at dksX5_reduce_8 16 rfl rfl)
theorem dX5_reduce_202 : decode cX5_reduce 202 = .ok (.getfield 162, 3) := dk_180 0 162 (dk_at dksX5_reduce_8 17 rfl rfl)
theorem dX5_reduce_205 : decode cX5_reduce 205 = .ok (.if_icmp .ge 98, 3) := dk_162 0 98 (dk_at dksX5_reduce_8 20 rfl rfl)
theorem dX5_reduce_208 : decode cX5_reduce 208 = .ok (.iload_n 2, 1) := dk_28 (dk_at dksX5_reduce_8 23 rfl rfl)
theorem dX5_reduce_209 : decode cX5_reduce 209 = .ok (.ifCond .eq 94, 3) := dk_153 0 94 (dk_at dksX5_reduce_9 0 rfl rfl)
theorem dX5_reduce_212 : decode cX5_reduce 212 = .ok (.iload_n 1, 1) := dk_27 (dk_at dksX5_reduce_9 3 rfl rfl)
theorem dX5_reduce_213 : decode cX5_reduce 213 = .ok (.iconst 1, 1) := dk_4 (dk_at dksX5_reduce_9 4 rfl rfl)
theorem dX5_reduce_214 : decode cX5_reduce 214 = .ok (.iadd, 1) := dk_96 (dk_at dksX5_reduce_9 5 rfl rfl)
theorem dX5_reduce_215 : decode cX5_reduce 215 = .ok (.istore 4, 2) := dk_54 4 (dk_at dksX5_reduce_9 6 rfl rfl)
theorem dX5_reduce_217 : decode cX5_reduce 217 = .ok (.iload 4, 2) := dk_21 4 (dk_at dksX5_reduce_9 8 rfl rfl)
theorem dX5_reduce_219 : decode cX5_reduce 219 = .ok (.aload_n 0, 1) := dk_42 (dk_at dksX5_reduce_9 10 rfl rfl)
theorem dX5_reduce_220 : decode cX5_reduce 220 = .ok (.getfield 159, 3) := dk_180 0 159 (dk_at dksX5_reduce_9 11 rfl rfl)
theorem dX5_reduce_223 : decode cX5_reduce 223 = .ok (.if_icmp .ge 74, 3) := dk_162 0 74 (dk_at dksX5_reduce_9 14 rfl rfl)
theorem dX5_reduce_226 : decode cX5_reduce 226 = .ok (.iload_n 2, 1) := dk_28 (dk_at dksX5_reduce_9 17 rfl rfl)
theorem dX5_reduce_227 : decode cX5_reduce 227 = .ok (.ifCond .eq 70, 3) := dk_153 0 70 (dk_at dksX5_reduce_9 18 rfl rfl)
theorem dX5_reduce_230 : decode cX5_reduce 230 = .ok (.aload_n 0, 1) := dk_42 (dk_at dksX5_reduce_9 21 rfl rfl)
theorem dX5_reduce_231 : decode cX5_reduce 231 = .ok (.iload_n 3, 1) := dk_29 (dk_at dksX5_reduce_9 22 rfl rfl)
theorem dX5_reduce_232 : decode cX5_reduce 232 = .ok (.iload 4, 2) := dk_21 4 (dk_at dksX5_reduce_10 0 rfl rfl)
theorem dX5_reduce_234 : decode cX5_reduce 234 = .ok (.invokevirtual 173, 3) := dk_182 0 173 (dk_at dksX5_reduce_10 2 rfl rfl)
theorem dX5_reduce_237 : decode cX5_reduce 237 = .ok (.aload_n 0, 1) := dk_42 (dk_at dksX5_reduce_10 5 rfl rfl)
theorem dX5_reduce_238 : decode cX5_reduce 238 = .ok (.iload_n 1, 1) := dk_27 (dk_at dksX5_reduce_10 6 rfl rfl)
theorem dX5_reduce_239 : decode cX5_reduce 239 = .ok (.iload_n 1, 1) := dk_27 (dk_at dksX5_reduce_10 7 rfl rfl)
theorem dX5_reduce_240 : decode cX5_reduce 240 = .ok (.invokevirtual 173, 3) := dk_182 0 173 (dk_at dksX5_reduce_10 8 rfl rfl)
theorem dX5_reduce_243 : decode cX5_reduce 243 = .ok (.lrem, 1) := dk_113 (dk_at dksX5_reduce_10 11 rfl rfl)
theorem dX5_reduce_244 : decode cX5_reduce 244 = .ok (.lconst 0, 1) := dk_9 (dk_at dksX5_reduce_10 12 rfl rfl)
theorem dX5_reduce_245 : decode cX5_reduce 245 = .ok (.lcmp, 1) := dk_148 (dk_at dksX5_reduce_10 13 rfl rfl)
theorem dX5_reduce_246 : decode cX5_reduce 246 = .ok (.ifCond .eq 45, 3) := dk_153 0 45 (dk_at dksX5_reduce_10 14 rfl rfl)
theorem dX5_reduce_249 : decode cX5_reduce 249 = .ok (.iload_n 1, 1) := dk_27 (dk_at dksX5_reduce_10 17 rfl rfl)
theorem dX5_reduce_250 : decode cX5_reduce 250 = .ok (.istore 5, 2) := dk_54 5 (dk_at dksX5_reduce_10 18 rfl rfl)
theorem dX5_reduce_252 : decode cX5_reduce 252 = .ok (.iload 5, 2) := dk_21 5 (dk_at dksX5_reduce_10 20 rfl rfl)
theorem dX5_reduce_254 : decode cX5_reduce 254 = .ok (.aload_n 0, 1) := dk_42 (dk_at dksX5_reduce_10 22 rfl rfl)
theorem dX5_reduce_255 : decode cX5_reduce 255 = .ok (.getfield 159, 3) := dk_180 0 159 (dk_at dksX5_reduce_11 0 rfl rfl)
theorem dX5_reduce_258 : decode cX5_reduce 258 = .ok (.if_icmp .ge 31, 3) := dk_162 0 31 (dk_at dksX5_reduce_11 3 rfl rfl)
theorem dX5_reduce_261 : decode cX5_reduce 261 = .ok (.aload_n 0, 1) := dk_42 (dk_at dksX5_reduce_11 6 rfl rfl)
theorem dX5_reduce_262 : decode cX5_reduce 262 = .ok (.getfield 34, 3) := dk_180 0 34 (dk_at dksX5_reduce_11 7 rfl rfl)
theorem dX5_reduce_265 : decode cX5_reduce 265 = .ok (.bipush 6, 2) := dk_16 6 (dk_at dksX5_reduce_11 10 rfl rfl)
theorem dX5_reduce_267 : decode cX5_reduce 267 = .ok (.iload_n 1, 1) := dk_27 (dk_at dksX5_reduce_11 12 rfl rfl)
theorem dX5_reduce_268 : decode cX5_reduce 268 = .ok (.imul, 1) := dk_104 (dk_at dksX5_reduce_11 13 rfl rfl)
theorem dX5_reduce_269 : decode cX5_reduce 269 = .ok (.iload 5, 2) := dk_21 5 (dk_at dksX5_reduce_11 14 rfl rfl)
theorem dX5_reduce_271 : decode cX5_reduce 271 = .ok (.iadd, 1) := dk_96 (dk_at dksX5_reduce_11 16 rfl rfl)
theorem dX5_reduce_272 : decode cX5_reduce 272 = .ok (.dup2, 1) := dk_92 (dk_at dksX5_reduce_11 17 rfl rfl)
theorem dX5_reduce_273 : decode cX5_reduce 273 = .ok (.laload, 1) := dk_47 (dk_at dksX5_reduce_11 18 rfl rfl)
theorem dX5_reduce_274 : decode cX5_reduce 274 = .ok (.aload_n 0, 1) := dk_42 (dk_at dksX5_reduce_11 19 rfl rfl)
theorem dX5_reduce_275 : decode cX5_reduce 275 = .ok (.iload_n 3, 1) := dk_29 (dk_at dksX5_reduce_11 20 rfl rfl)
theorem dX5_reduce_276 : decode cX5_reduce 276 = .ok (.iload 5, 2) := dk_21 5 (dk_at dksX5_reduce_11 21 rfl rfl)
theorem dX5_reduce_278 : decode cX5_reduce 278 = .ok (.invokevirtual 173, 3) := dk_182 0 173 (dk_at dksX5_reduce_12 0 rfl rfl)
theorem dX5_reduce_281 : decode cX5_reduce 281 = .ok (.ladd, 1) := dk_97 (dk_at dksX5_reduce_12 3 rfl rfl)
theorem dX5_reduce_282 : decode cX5_reduce 282 = .ok (.lastore, 1) := dk_80 (dk_at dksX5_reduce_12 4 rfl rfl)
theorem dX5_reduce_283 : decode cX5_reduce 283 = .ok (.iinc 5 1, 3) := dk_132 5 1 (dk_at dksX5_reduce_12 5 rfl rfl)
theorem dX5_reduce_286 : decode cX5_reduce 286 = .ok (.goto (-34), 3) := dk_167 255 222 (dk_at dksX5_reduce_12 8 rfl rfl)
theorem dX5_reduce_289 : decode cX5_reduce 289 = .ok (.iconst 0, 1) := dk_3 (dk_at dksX5_reduce_12 11 rfl rfl)
theorem dX5_reduce_290 : decode cX5_reduce 290 = .ok (.istore_n 2, 1) := dk_61 (dk_at dksX5_reduce_12 12 rfl rfl)
theorem dX5_reduce_291 : decode cX5_reduce 291 = .ok (.iinc 4 1, 3) := dk_132 4 1 (dk_at dksX5_reduce_12 13 rfl rfl)
theorem dX5_reduce_294 : decode cX5_reduce 294 = .ok (.goto (-77), 3) := dk_167 255 179 (dk_at dksX5_reduce_12 16 rfl rfl)
theorem dX5_reduce_297 : decode cX5_reduce 297 = .ok (.iinc 3 1, 3) := dk_132 3 1 (dk_at dksX5_reduce_12 19 rfl rfl)
theorem dX5_reduce_300 : decode cX5_reduce 300 = .ok (.goto (-100), 3) := dk_167 255 156 (dk_at dksX5_reduce_13 0 rfl rfl)
theorem dX5_reduce_303 : decode cX5_reduce 303 = .ok (.iload_n 2, 1) := dk_28 (dk_at dksX5_reduce_13 3 rfl rfl)
theorem dX5_reduce_304 : decode cX5_reduce 304 = .ok (.ireturn, 1) := dk_172 (dk_at dksX5_reduce_13 4 rfl rfl)
abbrev cX5_least : ByteArray := prog_8_method_54_code
def yX5_least : MethodName := ⟨RX5, "least", "()I"⟩
def dkwX5_least_0 : List UInt8 := [42, 182, 0, 227, 42, 180, 0, 189, 172]
abbrev dktX5_least_0 : List UInt8 := dkwX5_least_0 ++ []
theorem dksX5_least_0 : cX5_least.data.toList.drop 0 = dktX5_least_0 := by decide +kernel
theorem dX5_least_0 : decode cX5_least 0 = .ok (.aload_n 0, 1) := dk_42 (dk_at dksX5_least_0 0 rfl rfl)
theorem dX5_least_1 : decode cX5_least 1 = .ok (.invokevirtual 227, 3) := dk_182 0 227 (dk_at dksX5_least_0 1 rfl rfl)
theorem dX5_least_4 : decode cX5_least 4 = .ok (.aload_n 0, 1) := dk_42 (dk_at dksX5_least_0 4 rfl rfl)
theorem dX5_least_5 : decode cX5_least 5 = .ok (.getfield 189, 3) := dk_180 0 189 (dk_at dksX5_least_0 5 rfl rfl)
theorem dX5_least_8 : decode cX5_least 8 = .ok (.ireturn, 1) := dk_172 (dk_at dksX5_least_0 8 rfl rfl)
abbrev cX5_findLeast : ByteArray := prog_8_method_53_code
def yX5_findLeast : MethodName := ⟨RX5, "findLeast", "()V"⟩
def dkwX5_findLeast_7 : List UInt8 := [100, 182, 0, 224, 132, 2, 255, 167, 255, 230, 132, 1, 1, 167, 255, 214, 177]
abbrev dktX5_findLeast_7 : List UInt8 := dkwX5_findLeast_7 ++ []
def dkwX5_findLeast_6 : List UInt8 := [162, 0, 40, 27, 61, 28, 158, 0, 28, 42, 28, 28, 4, 100, 182, 0, 221, 153, 0, 17, 42, 28, 28, 4]
abbrev dktX5_findLeast_6 : List UInt8 := dkwX5_findLeast_6 ++ dktX5_findLeast_7
def dkwX5_findLeast_5 : List UInt8 := [182, 0, 218, 132, 2, 1, 167, 255, 211, 132, 1, 1, 167, 255, 193, 4, 60, 27, 42, 180, 0, 189]
abbrev dktX5_findLeast_5 : List UInt8 := dkwX5_findLeast_5 ++ dktX5_findLeast_6
def dkwX5_findLeast_4 : List UInt8 := [180, 0, 7, 27, 46, 162, 0, 26, 28, 27, 7, 112, 159, 0, 13, 42, 27, 28, 182, 0, 214, 42]
abbrev dktX5_findLeast_4 : List UInt8 := dkwX5_findLeast_4 ++ dktX5_findLeast_5
def dkwX5_findLeast_3 : List UInt8 := [162, 0, 59, 3, 61, 28, 7, 162, 0, 46, 42, 180, 0, 7, 27, 46, 2, 159, 0, 36, 27, 42]
abbrev dktX5_findLeast_3 : List UInt8 := dkwX5_findLeast_3 ++ dktX5_findLeast_4
def dkwX5_findLeast_2 : List UInt8 := [3, 79, 132, 2, 1, 167, 255, 226, 132, 1, 1, 167, 255, 210, 3, 60, 27, 7, 42, 180, 0, 67, 104]
abbrev dktX5_findLeast_2 : List UInt8 := dkwX5_findLeast_2 ++ dktX5_findLeast_3
def dkwX5_findLeast_1 : List UInt8 := [16, 21, 162, 0, 30, 42, 180, 0, 42, 16, 21, 27, 104, 28, 96, 28, 27, 160, 0, 7, 4, 167, 0, 4]
abbrev dktX5_findLeast_1 : List UInt8 := dkwX5_findLeast_1 ++ dktX5_findLeast_2
def dkwX5_findLeast_0 : List UInt8 := [42, 16, 7, 42, 180, 0, 67, 104, 181, 0, 189, 3, 60, 27, 42, 180, 0, 189, 162, 0, 44, 3, 61, 28]
abbrev dktX5_findLeast_0 : List UInt8 := dkwX5_findLeast_0 ++ dktX5_findLeast_1
theorem dksX5_findLeast_0 : cX5_findLeast.data.toList.drop 0 = dktX5_findLeast_0 := by decide +kernel
theorem dksX5_findLeast_1 : cX5_findLeast.data.toList.drop 24 = dktX5_findLeast_1 := dk_seg dksX5_findLeast_0 24 rfl rfl
theorem dksX5_findLeast_2 : cX5_findLeast.data.toList.drop 48 = dktX5_findLeast_2 := dk_seg dksX5_findLeast_1 24 rfl rfl
theorem dksX5_findLeast_3 : cX5_findLeast.data.toList.drop 71 = dktX5_findLeast_3 := dk_seg dksX5_findLeast_2 23 rfl rfl
theorem dksX5_findLeast_4 : cX5_findLeast.data.toList.drop 93 = dktX5_findLeast_4 := dk_seg dksX5_findLeast_3 22 rfl rfl
theorem dksX5_findLeast_5 : cX5_findLeast.data.toList.drop 115 = dktX5_findLeast_5 := dk_seg dksX5_findLeast_4 22 rfl rfl
theorem dksX5_findLeast_6 : cX5_findLeast.data.toList.drop 137 = dktX5_findLeast_6 := dk_seg dksX5_findLeast_5 22 rfl rfl
theorem dksX5_findLeast_7 : cX5_findLeast.data.toList.drop 161 = dktX5_findLeast_7 := dk_seg dksX5_findLeast_6 24 rfl rfl
theorem dX5_findLeast_0 : decode cX5_findLeast 0 = .ok (.aload_n 0, 1) := dk_42 (dk_at dksX5_findLeast_0 0 rfl rfl)
theorem dX5_findLeast_1 : decode cX5_findLeast 1 = .ok (.bipush 7, 2) := dk_16 7 (dk_at dksX5_findLeast_0 1 rfl rfl)
theorem dX5_findLeast_3 : decode cX5_findLeast 3 = .ok (.aload_n 0, 1) := dk_42 (dk_at dksX5_findLeast_0 3 rfl rfl)
theorem dX5_findLeast_4 : decode cX5_findLeast 4 = .ok (.getfield 67, 3) := dk_180 0 67 (dk_at dksX5_findLeast_0 4 rfl rfl)
theorem dX5_findLeast_7 : decode cX5_findLeast 7 = .ok (.imul, 1) := dk_104 (dk_at dksX5_findLeast_0 7 rfl rfl)
theorem dX5_findLeast_8 : decode cX5_findLeast 8 = .ok (.putfield 189, 3) := dk_181 0 189 (dk_at dksX5_findLeast_0 8 rfl rfl)
theorem dX5_findLeast_11 : decode cX5_findLeast 11 = .ok (.iconst 0, 1) := dk_3 (dk_at dksX5_findLeast_0 11 rfl rfl)
theorem dX5_findLeast_12 : decode cX5_findLeast 12 = .ok (.istore_n 1, 1) := dk_60 (dk_at dksX5_findLeast_0 12 rfl rfl)
theorem dX5_findLeast_13 : decode cX5_findLeast 13 = .ok (.iload_n 1, 1) := dk_27 (dk_at dksX5_findLeast_0 13 rfl rfl)
theorem dX5_findLeast_14 : decode cX5_findLeast 14 = .ok (.aload_n 0, 1) := dk_42 (dk_at dksX5_findLeast_0 14 rfl rfl)
theorem dX5_findLeast_15 : decode cX5_findLeast 15 = .ok (.getfield 189, 3) := dk_180 0 189 (dk_at dksX5_findLeast_0 15 rfl rfl)
theorem dX5_findLeast_18 : decode cX5_findLeast 18 = .ok (.if_icmp .ge 44, 3) := dk_162 0 44 (dk_at dksX5_findLeast_0 18 rfl rfl)
theorem dX5_findLeast_21 : decode cX5_findLeast 21 = .ok (.iconst 0, 1) := dk_3 (dk_at dksX5_findLeast_0 21 rfl rfl)
theorem dX5_findLeast_22 : decode cX5_findLeast 22 = .ok (.istore_n 2, 1) := dk_61 (dk_at dksX5_findLeast_0 22 rfl rfl)
theorem dX5_findLeast_23 : decode cX5_findLeast 23 = .ok (.iload_n 2, 1) := dk_28 (dk_at dksX5_findLeast_0 23 rfl rfl)
theorem dX5_findLeast_24 : decode cX5_findLeast 24 = .ok (.bipush 21, 2) := dk_16 21 (dk_at dksX5_findLeast_1 0 rfl rfl)
theorem dX5_findLeast_26 : decode cX5_findLeast 26 = .ok (.if_icmp .ge 30, 3) := dk_162 0 30 (dk_at dksX5_findLeast_1 2 rfl rfl)
theorem dX5_findLeast_29 : decode cX5_findLeast 29 = .ok (.aload_n 0, 1) := dk_42 (dk_at dksX5_findLeast_1 5 rfl rfl)
theorem dX5_findLeast_30 : decode cX5_findLeast 30 = .ok (.getfield 42, 3) := dk_180 0 42 (dk_at dksX5_findLeast_1 6 rfl rfl)
theorem dX5_findLeast_33 : decode cX5_findLeast 33 = .ok (.bipush 21, 2) := dk_16 21 (dk_at dksX5_findLeast_1 9 rfl rfl)
theorem dX5_findLeast_35 : decode cX5_findLeast 35 = .ok (.iload_n 1, 1) := dk_27 (dk_at dksX5_findLeast_1 11 rfl rfl)
theorem dX5_findLeast_36 : decode cX5_findLeast 36 = .ok (.imul, 1) := dk_104 (dk_at dksX5_findLeast_1 12 rfl rfl)
theorem dX5_findLeast_37 : decode cX5_findLeast 37 = .ok (.iload_n 2, 1) := dk_28 (dk_at dksX5_findLeast_1 13 rfl rfl)
theorem dX5_findLeast_38 : decode cX5_findLeast 38 = .ok (.iadd, 1) := dk_96 (dk_at dksX5_findLeast_1 14 rfl rfl)
theorem dX5_findLeast_39 : decode cX5_findLeast 39 = .ok (.iload_n 2, 1) := dk_28 (dk_at dksX5_findLeast_1 15 rfl rfl)
theorem dX5_findLeast_40 : decode cX5_findLeast 40 = .ok (.iload_n 1, 1) := dk_27 (dk_at dksX5_findLeast_1 16 rfl rfl)
theorem dX5_findLeast_41 : decode cX5_findLeast 41 = .ok (.if_icmp .ne 7, 3) := dk_160 0 7 (dk_at dksX5_findLeast_1 17 rfl rfl)
theorem dX5_findLeast_44 : decode cX5_findLeast 44 = .ok (.iconst 1, 1) := dk_4 (dk_at dksX5_findLeast_1 20 rfl rfl)
theorem dX5_findLeast_45 : decode cX5_findLeast 45 = .ok (.goto 4, 3) := dk_167 0 4 (dk_at dksX5_findLeast_1 21 rfl rfl)
theorem dX5_findLeast_48 : decode cX5_findLeast 48 = .ok (.iconst 0, 1) := dk_3 (dk_at dksX5_findLeast_2 0 rfl rfl)
theorem dX5_findLeast_49 : decode cX5_findLeast 49 = .ok (.iastore, 1) := dk_79 (dk_at dksX5_findLeast_2 1 rfl rfl)
theorem dX5_findLeast_50 : decode cX5_findLeast 50 = .ok (.iinc 2 1, 3) := dk_132 2 1 (dk_at dksX5_findLeast_2 2 rfl rfl)
theorem dX5_findLeast_53 : decode cX5_findLeast 53 = .ok (.goto (-30), 3) := dk_167 255 226 (dk_at dksX5_findLeast_2 5 rfl rfl)
theorem dX5_findLeast_56 : decode cX5_findLeast 56 = .ok (.iinc 1 1, 3) := dk_132 1 1 (dk_at dksX5_findLeast_2 8 rfl rfl)
theorem dX5_findLeast_59 : decode cX5_findLeast 59 = .ok (.goto (-46), 3) := dk_167 255 210 (dk_at dksX5_findLeast_2 11 rfl rfl)
theorem dX5_findLeast_62 : decode cX5_findLeast 62 = .ok (.iconst 0, 1) := dk_3 (dk_at dksX5_findLeast_2 14 rfl rfl)
theorem dX5_findLeast_63 : decode cX5_findLeast 63 = .ok (.istore_n 1, 1) := dk_60 (dk_at dksX5_findLeast_2 15 rfl rfl)
theorem dX5_findLeast_64 : decode cX5_findLeast 64 = .ok (.iload_n 1, 1) := dk_27 (dk_at dksX5_findLeast_2 16 rfl rfl)
theorem dX5_findLeast_65 : decode cX5_findLeast 65 = .ok (.iconst 4, 1) := dk_7 (dk_at dksX5_findLeast_2 17 rfl rfl)
theorem dX5_findLeast_66 : decode cX5_findLeast 66 = .ok (.aload_n 0, 1) := dk_42 (dk_at dksX5_findLeast_2 18 rfl rfl)
theorem dX5_findLeast_67 : decode cX5_findLeast 67 = .ok (.getfield 67, 3) := dk_180 0 67 (dk_at dksX5_findLeast_2 19 rfl rfl)
theorem dX5_findLeast_70 : decode cX5_findLeast 70 = .ok (.imul, 1) := dk_104 (dk_at dksX5_findLeast_2 22 rfl rfl)
theorem dX5_findLeast_71 : decode cX5_findLeast 71 = .ok (.if_icmp .ge 59, 3) := dk_162 0 59 (dk_at dksX5_findLeast_3 0 rfl rfl)
theorem dX5_findLeast_74 : decode cX5_findLeast 74 = .ok (.iconst 0, 1) := dk_3 (dk_at dksX5_findLeast_3 3 rfl rfl)
theorem dX5_findLeast_75 : decode cX5_findLeast 75 = .ok (.istore_n 2, 1) := dk_61 (dk_at dksX5_findLeast_3 4 rfl rfl)
theorem dX5_findLeast_76 : decode cX5_findLeast 76 = .ok (.iload_n 2, 1) := dk_28 (dk_at dksX5_findLeast_3 5 rfl rfl)
theorem dX5_findLeast_77 : decode cX5_findLeast 77 = .ok (.iconst 4, 1) := dk_7 (dk_at dksX5_findLeast_3 6 rfl rfl)
theorem dX5_findLeast_78 : decode cX5_findLeast 78 = .ok (.if_icmp .ge 46, 3) := dk_162 0 46 (dk_at dksX5_findLeast_3 7 rfl rfl)
theorem dX5_findLeast_81 : decode cX5_findLeast 81 = .ok (.aload_n 0, 1) := dk_42 (dk_at dksX5_findLeast_3 10 rfl rfl)
theorem dX5_findLeast_82 : decode cX5_findLeast 82 = .ok (.getfield 7, 3) := dk_180 0 7 (dk_at dksX5_findLeast_3 11 rfl rfl)
theorem dX5_findLeast_85 : decode cX5_findLeast 85 = .ok (.iload_n 1, 1) := dk_27 (dk_at dksX5_findLeast_3 14 rfl rfl)
theorem dX5_findLeast_86 : decode cX5_findLeast 86 = .ok (.iaload, 1) := dk_46 (dk_at dksX5_findLeast_3 15 rfl rfl)
theorem dX5_findLeast_87 : decode cX5_findLeast 87 = .ok (.iconst (-1), 1) := dk_2 (dk_at dksX5_findLeast_3 16 rfl rfl)
theorem dX5_findLeast_88 : decode cX5_findLeast 88 = .ok (.if_icmp .eq 36, 3) := dk_159 0 36 (dk_at dksX5_findLeast_3 17 rfl rfl)
theorem dX5_findLeast_91 : decode cX5_findLeast 91 = .ok (.iload_n 1, 1) := dk_27 (dk_at dksX5_findLeast_3 20 rfl rfl)
theorem dX5_findLeast_92 : decode cX5_findLeast 92 = .ok (.aload_n 0, 1) := dk_42 (dk_at dksX5_findLeast_3 21 rfl rfl)
theorem dX5_findLeast_93 : decode cX5_findLeast 93 = .ok (.getfield 7, 3) := dk_180 0 7 (dk_at dksX5_findLeast_4 0 rfl rfl)
theorem dX5_findLeast_96 : decode cX5_findLeast 96 = .ok (.iload_n 1, 1) := dk_27 (dk_at dksX5_findLeast_4 3 rfl rfl)
theorem dX5_findLeast_97 : decode cX5_findLeast 97 = .ok (.iaload, 1) := dk_46 (dk_at dksX5_findLeast_4 4 rfl rfl)
theorem dX5_findLeast_98 : decode cX5_findLeast 98 = .ok (.if_icmp .ge 26, 3) := dk_162 0 26 (dk_at dksX5_findLeast_4 5 rfl rfl)
theorem dX5_findLeast_101 : decode cX5_findLeast 101 = .ok (.iload_n 2, 1) := dk_28 (dk_at dksX5_findLeast_4 8 rfl rfl)
theorem dX5_findLeast_102 : decode cX5_findLeast 102 = .ok (.iload_n 1, 1) := dk_27 (dk_at dksX5_findLeast_4 9 rfl rfl)
theorem dX5_findLeast_103 : decode cX5_findLeast 103 = .ok (.iconst 4, 1) := dk_7 (dk_at dksX5_findLeast_4 10 rfl rfl)
theorem dX5_findLeast_104 : decode cX5_findLeast 104 = .ok (.irem, 1) := dk_112 (dk_at dksX5_findLeast_4 11 rfl rfl)
theorem dX5_findLeast_105 : decode cX5_findLeast 105 = .ok (.if_icmp .eq 13, 3) := dk_159 0 13 (dk_at dksX5_findLeast_4 12 rfl rfl)
theorem dX5_findLeast_108 : decode cX5_findLeast 108 = .ok (.aload_n 0, 1) := dk_42 (dk_at dksX5_findLeast_4 15 rfl rfl)
theorem dX5_findLeast_109 : decode cX5_findLeast 109 = .ok (.iload_n 1, 1) := dk_27 (dk_at dksX5_findLeast_4 16 rfl rfl)
theorem dX5_findLeast_110 : decode cX5_findLeast 110 = .ok (.iload_n 2, 1) := dk_28 (dk_at dksX5_findLeast_4 17 rfl rfl)
theorem dX5_findLeast_111 : decode cX5_findLeast 111 = .ok (.invokevirtual 214, 3) := dk_182 0 214 (dk_at dksX5_findLeast_4 18 rfl rfl)
theorem dX5_findLeast_114 : decode cX5_findLeast 114 = .ok (.aload_n 0, 1) := dk_42 (dk_at dksX5_findLeast_4 21 rfl rfl)
theorem dX5_findLeast_115 : decode cX5_findLeast 115 = .ok (.invokevirtual 218, 3) := dk_182 0 218 (dk_at dksX5_findLeast_5 0 rfl rfl)
theorem dX5_findLeast_118 : decode cX5_findLeast 118 = .ok (.iinc 2 1, 3) := dk_132 2 1 (dk_at dksX5_findLeast_5 3 rfl rfl)
theorem dX5_findLeast_121 : decode cX5_findLeast 121 = .ok (.goto (-45), 3) := dk_167 255 211 (dk_at dksX5_findLeast_5 6 rfl rfl)
theorem dX5_findLeast_124 : decode cX5_findLeast 124 = .ok (.iinc 1 1, 3) := dk_132 1 1 (dk_at dksX5_findLeast_5 9 rfl rfl)
theorem dX5_findLeast_127 : decode cX5_findLeast 127 = .ok (.goto (-63), 3) := dk_167 255 193 (dk_at dksX5_findLeast_5 12 rfl rfl)
theorem dX5_findLeast_130 : decode cX5_findLeast 130 = .ok (.iconst 1, 1) := dk_4 (dk_at dksX5_findLeast_5 15 rfl rfl)
theorem dX5_findLeast_131 : decode cX5_findLeast 131 = .ok (.istore_n 1, 1) := dk_60 (dk_at dksX5_findLeast_5 16 rfl rfl)
theorem dX5_findLeast_132 : decode cX5_findLeast 132 = .ok (.iload_n 1, 1) := dk_27 (dk_at dksX5_findLeast_5 17 rfl rfl)
theorem dX5_findLeast_133 : decode cX5_findLeast 133 = .ok (.aload_n 0, 1) := dk_42 (dk_at dksX5_findLeast_5 18 rfl rfl)
theorem dX5_findLeast_134 : decode cX5_findLeast 134 = .ok (.getfield 189, 3) := dk_180 0 189 (dk_at dksX5_findLeast_5 19 rfl rfl)
theorem dX5_findLeast_137 : decode cX5_findLeast 137 = .ok (.if_icmp .ge 40, 3) := dk_162 0 40 (dk_at dksX5_findLeast_6 0 rfl rfl)
theorem dX5_findLeast_140 : decode cX5_findLeast 140 = .ok (.iload_n 1, 1) := dk_27 (dk_at dksX5_findLeast_6 3 rfl rfl)
theorem dX5_findLeast_141 : decode cX5_findLeast 141 = .ok (.istore_n 2, 1) := dk_61 (dk_at dksX5_findLeast_6 4 rfl rfl)
theorem dX5_findLeast_142 : decode cX5_findLeast 142 = .ok (.iload_n 2, 1) := dk_28 (dk_at dksX5_findLeast_6 5 rfl rfl)
theorem dX5_findLeast_143 : decode cX5_findLeast 143 = .ok (.ifCond .le 28, 3) := dk_158 0 28 (dk_at dksX5_findLeast_6 6 rfl rfl)
theorem dX5_findLeast_146 : decode cX5_findLeast 146 = .ok (.aload_n 0, 1) := dk_42 (dk_at dksX5_findLeast_6 9 rfl rfl)
theorem dX5_findLeast_147 : decode cX5_findLeast 147 = .ok (.iload_n 2, 1) := dk_28 (dk_at dksX5_findLeast_6 10 rfl rfl)
theorem dX5_findLeast_148 : decode cX5_findLeast 148 = .ok (.iload_n 2, 1) := dk_28 (dk_at dksX5_findLeast_6 11 rfl rfl)
theorem dX5_findLeast_149 : decode cX5_findLeast 149 = .ok (.iconst 1, 1) := dk_4 (dk_at dksX5_findLeast_6 12 rfl rfl)
theorem dX5_findLeast_150 : decode cX5_findLeast 150 = .ok (.isub, 1) := dk_100 (dk_at dksX5_findLeast_6 13 rfl rfl)
theorem dX5_findLeast_151 : decode cX5_findLeast 151 = .ok (.invokevirtual 221, 3) := dk_182 0 221 (dk_at dksX5_findLeast_6 14 rfl rfl)
theorem dX5_findLeast_154 : decode cX5_findLeast 154 = .ok (.ifCond .eq 17, 3) := dk_153 0 17 (dk_at dksX5_findLeast_6 17 rfl rfl)
theorem dX5_findLeast_157 : decode cX5_findLeast 157 = .ok (.aload_n 0, 1) := dk_42 (dk_at dksX5_findLeast_6 20 rfl rfl)
theorem dX5_findLeast_158 : decode cX5_findLeast 158 = .ok (.iload_n 2, 1) := dk_28 (dk_at dksX5_findLeast_6 21 rfl rfl)
theorem dX5_findLeast_159 : decode cX5_findLeast 159 = .ok (.iload_n 2, 1) := dk_28 (dk_at dksX5_findLeast_6 22 rfl rfl)
theorem dX5_findLeast_160 : decode cX5_findLeast 160 = .ok (.iconst 1, 1) := dk_4 (dk_at dksX5_findLeast_6 23 rfl rfl)
theorem dX5_findLeast_161 : decode cX5_findLeast 161 = .ok (.isub, 1) := dk_100 (dk_at dksX5_findLeast_7 0 rfl rfl)
theorem dX5_findLeast_162 : decode cX5_findLeast 162 = .ok (.invokevirtual 224, 3) := dk_182 0 224 (dk_at dksX5_findLeast_7 1 rfl rfl)
theorem dX5_findLeast_165 : decode cX5_findLeast 165 = .ok (.iinc 2 (-1), 3) := dk_132 2 255 (dk_at dksX5_findLeast_7 4 rfl rfl)
theorem dX5_findLeast_168 : decode cX5_findLeast 168 = .ok (.goto (-26), 3) := dk_167 255 230 (dk_at dksX5_findLeast_7 7 rfl rfl)
theorem dX5_findLeast_171 : decode cX5_findLeast 171 = .ok (.iinc 1 1, 3) := dk_132 1 1 (dk_at dksX5_findLeast_7 10 rfl rfl)
theorem dX5_findLeast_174 : decode cX5_findLeast 174 = .ok (.goto (-42), 3) := dk_167 255 214 (dk_at dksX5_findLeast_7 13 rfl rfl)
theorem dX5_findLeast_177 : decode cX5_findLeast 177 = .ok (.return_, 1) := dk_177 (dk_at dksX5_findLeast_7 16 rfl rfl)
abbrev cX5_layEquation : ByteArray := prog_8_method_43_code
def yX5_layEquation : MethodName := ⟨RX5, "layEquation", "(II)V"⟩
def dkwX5_layEquation_5 : List UInt8 := [42, 180, 0, 7, 27, 46, 7, 112, 184, 0, 186, 96, 92, 46, 4, 100, 79, 177]
abbrev dktX5_layEquation_5 : List UInt8 := dkwX5_layEquation_5 ++ []
def dkwX5_layEquation_4 : List UInt8 := [21, 4, 104, 21, 5, 96, 92, 46, 4, 100, 79, 42, 180, 0, 48, 16, 7, 21, 4, 104, 7, 96, 21, 5]
abbrev dktX5_layEquation_4 : List UInt8 := dkwX5_layEquation_4 ++ dktX5_layEquation_5
def dkwX5_layEquation_3 : List UInt8 := [29, 104, 7, 96, 28, 27, 7, 112, 184, 0, 186, 96, 92, 46, 4, 96, 79, 42, 180, 0, 48, 16, 7]
abbrev dktX5_layEquation_3 : List UInt8 := dkwX5_layEquation_3 ++ dktX5_layEquation_4
def dkwX5_layEquation_2 : List UInt8 := [167, 255, 238, 42, 180, 0, 48, 16, 7, 29, 104, 28, 96, 92, 46, 4, 96, 79, 42, 180, 0, 48, 16, 7]
abbrev dktX5_layEquation_2 : List UInt8 := dkwX5_layEquation_2 ++ dktX5_layEquation_3
def dkwX5_layEquation_1 : List UInt8 := [54, 5, 3, 54, 6, 21, 6, 16, 21, 162, 0, 17, 42, 180, 0, 48, 21, 6, 3, 79, 132, 6, 1]
abbrev dktX5_layEquation_1 : List UInt8 := dkwX5_layEquation_1 ++ dktX5_layEquation_2
def dkwX5_layEquation_0 : List UInt8 := [27, 7, 108, 62, 42, 180, 0, 7, 27, 46, 7, 108, 54, 4, 42, 180, 0, 13, 7, 27, 104, 28, 96, 46]
abbrev dktX5_layEquation_0 : List UInt8 := dkwX5_layEquation_0 ++ dktX5_layEquation_1
theorem dksX5_layEquation_0 : cX5_layEquation.data.toList.drop 0 = dktX5_layEquation_0 := by decide +kernel
theorem dksX5_layEquation_1 : cX5_layEquation.data.toList.drop 24 = dktX5_layEquation_1 := dk_seg dksX5_layEquation_0 24 rfl rfl
theorem dksX5_layEquation_2 : cX5_layEquation.data.toList.drop 47 = dktX5_layEquation_2 := dk_seg dksX5_layEquation_1 23 rfl rfl
theorem dksX5_layEquation_3 : cX5_layEquation.data.toList.drop 71 = dktX5_layEquation_3 := dk_seg dksX5_layEquation_2 24 rfl rfl
theorem dksX5_layEquation_4 : cX5_layEquation.data.toList.drop 94 = dktX5_layEquation_4 := dk_seg dksX5_layEquation_3 23 rfl rfl
theorem dksX5_layEquation_5 : cX5_layEquation.data.toList.drop 118 = dktX5_layEquation_5 := dk_seg dksX5_layEquation_4 24 rfl rfl
theorem dX5_layEquation_0 : decode cX5_layEquation 0 = .ok (.iload_n 1, 1) := dk_27 (dk_at dksX5_layEquation_0 0 rfl rfl)
theorem dX5_layEquation_1 : decode cX5_layEquation 1 = .ok (.iconst 4, 1) := dk_7 (dk_at dksX5_layEquation_0 1 rfl rfl)
theorem dX5_layEquation_2 : decode cX5_layEquation 2 = .ok (.idiv, 1) := dk_108 (dk_at dksX5_layEquation_0 2 rfl rfl)
theorem dX5_layEquation_3 : decode cX5_layEquation 3 = .ok (.istore_n 3, 1) := dk_62 (dk_at dksX5_layEquation_0 3 rfl rfl)
theorem dX5_layEquation_4 : decode cX5_layEquation 4 = .ok (.aload_n 0, 1) := dk_42 (dk_at dksX5_layEquation_0 4 rfl rfl)
theorem dX5_layEquation_5 : decode cX5_layEquation 5 = .ok (.getfield 7, 3) := dk_180 0 7 (dk_at dksX5_layEquation_0 5 rfl rfl)
theorem dX5_layEquation_8 : decode cX5_layEquation 8 = .ok (.iload_n 1, 1) := dk_27 (dk_at dksX5_layEquation_0 8 rfl rfl)
theorem dX5_layEquation_9 : decode cX5_layEquation 9 = .ok (.iaload, 1) := dk_46 (dk_at dksX5_layEquation_0 9 rfl rfl)
theorem dX5_layEquation_10 : decode cX5_layEquation 10 = .ok (.iconst 4, 1) := dk_7 (dk_at dksX5_layEquation_0 10 rfl rfl)
theorem dX5_layEquation_11 : decode cX5_layEquation 11 = .ok (.idiv, 1) := dk_108 (dk_at dksX5_layEquation_0 11 rfl rfl)
theorem dX5_layEquation_12 : decode cX5_layEquation 12 = .ok (.istore 4, 2) := dk_54 4 (dk_at dksX5_layEquation_0 12 rfl rfl)
theorem dX5_layEquation_14 : decode cX5_layEquation 14 = .ok (.aload_n 0, 1) := dk_42 (dk_at dksX5_layEquation_0 14 rfl rfl)
theorem dX5_layEquation_15 : decode cX5_layEquation 15 = .ok (.getfield 13, 3) := dk_180 0 13 (dk_at dksX5_layEquation_0 15 rfl rfl)
theorem dX5_layEquation_18 : decode cX5_layEquation 18 = .ok (.iconst 4, 1) := dk_7 (dk_at dksX5_layEquation_0 18 rfl rfl)
theorem dX5_layEquation_19 : decode cX5_layEquation 19 = .ok (.iload_n 1, 1) := dk_27 (dk_at dksX5_layEquation_0 19 rfl rfl)
theorem dX5_layEquation_20 : decode cX5_layEquation 20 = .ok (.imul, 1) := dk_104 (dk_at dksX5_layEquation_0 20 rfl rfl)
theorem dX5_layEquation_21 : decode cX5_layEquation 21 = .ok (.iload_n 2, 1) := dk_28 (dk_at dksX5_layEquation_0 21 rfl rfl)
theorem dX5_layEquation_22 : decode cX5_layEquation 22 = .ok (.iadd, 1) := dk_96 (dk_at dksX5_layEquation_0 22 rfl rfl)
theorem dX5_layEquation_23 : decode cX5_layEquation 23 = .ok (.iaload, 1) := dk_46 (dk_at dksX5_layEquation_0 23 rfl rfl)
theorem dX5_layEquation_24 : decode cX5_layEquation 24 = .ok (.istore 5, 2) := dk_54 5 (dk_at dksX5_layEquation_1 0 rfl rfl)
theorem dX5_layEquation_26 : decode cX5_layEquation 26 = .ok (.iconst 0, 1) := dk_3 (dk_at dksX5_layEquation_1 2 rfl rfl)
theorem dX5_layEquation_27 : decode cX5_layEquation 27 = .ok (.istore 6, 2) := dk_54 6 (dk_at dksX5_layEquation_1 3 rfl rfl)
theorem dX5_layEquation_29 : decode cX5_layEquation 29 = .ok (.iload 6, 2) := dk_21 6 (dk_at dksX5_layEquation_1 5 rfl rfl)
theorem dX5_layEquation_31 : decode cX5_layEquation 31 = .ok (.bipush 21, 2) := dk_16 21 (dk_at dksX5_layEquation_1 7 rfl rfl)
theorem dX5_layEquation_33 : decode cX5_layEquation 33 = .ok (.if_icmp .ge 17, 3) := dk_162 0 17 (dk_at dksX5_layEquation_1 9 rfl rfl)
theorem dX5_layEquation_36 : decode cX5_layEquation 36 = .ok (.aload_n 0, 1) := dk_42 (dk_at dksX5_layEquation_1 12 rfl rfl)
theorem dX5_layEquation_37 : decode cX5_layEquation 37 = .ok (.getfield 48, 3) := dk_180 0 48 (dk_at dksX5_layEquation_1 13 rfl rfl)
theorem dX5_layEquation_40 : decode cX5_layEquation 40 = .ok (.iload 6, 2) := dk_21 6 (dk_at dksX5_layEquation_1 16 rfl rfl)
theorem dX5_layEquation_42 : decode cX5_layEquation 42 = .ok (.iconst 0, 1) := dk_3 (dk_at dksX5_layEquation_1 18 rfl rfl)
theorem dX5_layEquation_43 : decode cX5_layEquation 43 = .ok (.iastore, 1) := dk_79 (dk_at dksX5_layEquation_1 19 rfl rfl)
theorem dX5_layEquation_44 : decode cX5_layEquation 44 = .ok (.iinc 6 1, 3) := dk_132 6 1 (dk_at dksX5_layEquation_1 20 rfl rfl)
theorem dX5_layEquation_47 : decode cX5_layEquation 47 = .ok (.goto (-18), 3) := dk_167 255 238 (dk_at dksX5_layEquation_2 0 rfl rfl)
theorem dX5_layEquation_50 : decode cX5_layEquation 50 = .ok (.aload_n 0, 1) := dk_42 (dk_at dksX5_layEquation_2 3 rfl rfl)
theorem dX5_layEquation_51 : decode cX5_layEquation 51 = .ok (.getfield 48, 3) := dk_180 0 48 (dk_at dksX5_layEquation_2 4 rfl rfl)
theorem dX5_layEquation_54 : decode cX5_layEquation 54 = .ok (.bipush 7, 2) := dk_16 7 (dk_at dksX5_layEquation_2 7 rfl rfl)
theorem dX5_layEquation_56 : decode cX5_layEquation 56 = .ok (.iload_n 3, 1) := dk_29 (dk_at dksX5_layEquation_2 9 rfl rfl)
theorem dX5_layEquation_57 : decode cX5_layEquation 57 = .ok (.imul, 1) := dk_104 (dk_at dksX5_layEquation_2 10 rfl rfl)
theorem dX5_layEquation_58 : decode cX5_layEquation 58 = .ok (.iload_n 2, 1) := dk_28 (dk_at dksX5_layEquation_2 11 rfl rfl)
theorem dX5_layEquation_59 : decode cX5_layEquation 59 = .ok (.iadd, 1) := dk_96 (dk_at dksX5_layEquation_2 12 rfl rfl)
theorem dX5_layEquation_60 : decode cX5_layEquation 60 = .ok (.dup2, 1) := dk_92 (dk_at dksX5_layEquation_2 13 rfl rfl)
theorem dX5_layEquation_61 : decode cX5_layEquation 61 = .ok (.iaload, 1) := dk_46 (dk_at dksX5_layEquation_2 14 rfl rfl)
theorem dX5_layEquation_62 : decode cX5_layEquation 62 = .ok (.iconst 1, 1) := dk_4 (dk_at dksX5_layEquation_2 15 rfl rfl)
theorem dX5_layEquation_63 : decode cX5_layEquation 63 = .ok (.iadd, 1) := dk_96 (dk_at dksX5_layEquation_2 16 rfl rfl)
theorem dX5_layEquation_64 : decode cX5_layEquation 64 = .ok (.iastore, 1) := dk_79 (dk_at dksX5_layEquation_2 17 rfl rfl)
theorem dX5_layEquation_65 : decode cX5_layEquation 65 = .ok (.aload_n 0, 1) := dk_42 (dk_at dksX5_layEquation_2 18 rfl rfl)
theorem dX5_layEquation_66 : decode cX5_layEquation 66 = .ok (.getfield 48, 3) := dk_180 0 48 (dk_at dksX5_layEquation_2 19 rfl rfl)
theorem dX5_layEquation_69 : decode cX5_layEquation 69 = .ok (.bipush 7, 2) := dk_16 7 (dk_at dksX5_layEquation_2 22 rfl rfl)
theorem dX5_layEquation_71 : decode cX5_layEquation 71 = .ok (.iload_n 3, 1) := dk_29 (dk_at dksX5_layEquation_3 0 rfl rfl)
theorem dX5_layEquation_72 : decode cX5_layEquation 72 = .ok (.imul, 1) := dk_104 (dk_at dksX5_layEquation_3 1 rfl rfl)
theorem dX5_layEquation_73 : decode cX5_layEquation 73 = .ok (.iconst 4, 1) := dk_7 (dk_at dksX5_layEquation_3 2 rfl rfl)
theorem dX5_layEquation_74 : decode cX5_layEquation 74 = .ok (.iadd, 1) := dk_96 (dk_at dksX5_layEquation_3 3 rfl rfl)
theorem dX5_layEquation_75 : decode cX5_layEquation 75 = .ok (.iload_n 2, 1) := dk_28 (dk_at dksX5_layEquation_3 4 rfl rfl)
theorem dX5_layEquation_76 : decode cX5_layEquation 76 = .ok (.iload_n 1, 1) := dk_27 (dk_at dksX5_layEquation_3 5 rfl rfl)
theorem dX5_layEquation_77 : decode cX5_layEquation 77 = .ok (.iconst 4, 1) := dk_7 (dk_at dksX5_layEquation_3 6 rfl rfl)
theorem dX5_layEquation_78 : decode cX5_layEquation 78 = .ok (.irem, 1) := dk_112 (dk_at dksX5_layEquation_3 7 rfl rfl)
theorem dX5_layEquation_79 : decode cX5_layEquation 79 = .ok (.invokestatic 186, 3) := dk_184 0 186 (dk_at dksX5_layEquation_3 8 rfl rfl)
theorem dX5_layEquation_82 : decode cX5_layEquation 82 = .ok (.iadd, 1) := dk_96 (dk_at dksX5_layEquation_3 11 rfl rfl)
theorem dX5_layEquation_83 : decode cX5_layEquation 83 = .ok (.dup2, 1) := dk_92 (dk_at dksX5_layEquation_3 12 rfl rfl)
theorem dX5_layEquation_84 : decode cX5_layEquation 84 = .ok (.iaload, 1) := dk_46 (dk_at dksX5_layEquation_3 13 rfl rfl)
theorem dX5_layEquation_85 : decode cX5_layEquation 85 = .ok (.iconst 1, 1) := dk_4 (dk_at dksX5_layEquation_3 14 rfl rfl)
theorem dX5_layEquation_86 : decode cX5_layEquation 86 = .ok (.iadd, 1) := dk_96 (dk_at dksX5_layEquation_3 15 rfl rfl)
theorem dX5_layEquation_87 : decode cX5_layEquation 87 = .ok (.iastore, 1) := dk_79 (dk_at dksX5_layEquation_3 16 rfl rfl)
theorem dX5_layEquation_88 : decode cX5_layEquation 88 = .ok (.aload_n 0, 1) := dk_42 (dk_at dksX5_layEquation_3 17 rfl rfl)
theorem dX5_layEquation_89 : decode cX5_layEquation 89 = .ok (.getfield 48, 3) := dk_180 0 48 (dk_at dksX5_layEquation_3 18 rfl rfl)
theorem dX5_layEquation_92 : decode cX5_layEquation 92 = .ok (.bipush 7, 2) := dk_16 7 (dk_at dksX5_layEquation_3 21 rfl rfl)
theorem dX5_layEquation_94 : decode cX5_layEquation 94 = .ok (.iload 4, 2) := dk_21 4 (dk_at dksX5_layEquation_4 0 rfl rfl)
theorem dX5_layEquation_96 : decode cX5_layEquation 96 = .ok (.imul, 1) := dk_104 (dk_at dksX5_layEquation_4 2 rfl rfl)
theorem dX5_layEquation_97 : decode cX5_layEquation 97 = .ok (.iload 5, 2) := dk_21 5 (dk_at dksX5_layEquation_4 3 rfl rfl)
theorem dX5_layEquation_99 : decode cX5_layEquation 99 = .ok (.iadd, 1) := dk_96 (dk_at dksX5_layEquation_4 5 rfl rfl)
theorem dX5_layEquation_100 : decode cX5_layEquation 100 = .ok (.dup2, 1) := dk_92 (dk_at dksX5_layEquation_4 6 rfl rfl)
theorem dX5_layEquation_101 : decode cX5_layEquation 101 = .ok (.iaload, 1) := dk_46 (dk_at dksX5_layEquation_4 7 rfl rfl)
theorem dX5_layEquation_102 : decode cX5_layEquation 102 = .ok (.iconst 1, 1) := dk_4 (dk_at dksX5_layEquation_4 8 rfl rfl)
theorem dX5_layEquation_103 : decode cX5_layEquation 103 = .ok (.isub, 1) := dk_100 (dk_at dksX5_layEquation_4 9 rfl rfl)
theorem dX5_layEquation_104 : decode cX5_layEquation 104 = .ok (.iastore, 1) := dk_79 (dk_at dksX5_layEquation_4 10 rfl rfl)
theorem dX5_layEquation_105 : decode cX5_layEquation 105 = .ok (.aload_n 0, 1) := dk_42 (dk_at dksX5_layEquation_4 11 rfl rfl)
theorem dX5_layEquation_106 : decode cX5_layEquation 106 = .ok (.getfield 48, 3) := dk_180 0 48 (dk_at dksX5_layEquation_4 12 rfl rfl)
theorem dX5_layEquation_109 : decode cX5_layEquation 109 = .ok (.bipush 7, 2) := dk_16 7 (dk_at dksX5_layEquation_4 15 rfl rfl)
theorem dX5_layEquation_111 : decode cX5_layEquation 111 = .ok (.iload 4, 2) := dk_21 4 (dk_at dksX5_layEquation_4 17 rfl rfl)
theorem dX5_layEquation_113 : decode cX5_layEquation 113 = .ok (.imul, 1) := dk_104 (dk_at dksX5_layEquation_4 19 rfl rfl)
theorem dX5_layEquation_114 : decode cX5_layEquation 114 = .ok (.iconst 4, 1) := dk_7 (dk_at dksX5_layEquation_4 20 rfl rfl)
theorem dX5_layEquation_115 : decode cX5_layEquation 115 = .ok (.iadd, 1) := dk_96 (dk_at dksX5_layEquation_4 21 rfl rfl)
theorem dX5_layEquation_116 : decode cX5_layEquation 116 = .ok (.iload 5, 2) := dk_21 5 (dk_at dksX5_layEquation_4 22 rfl rfl)
theorem dX5_layEquation_118 : decode cX5_layEquation 118 = .ok (.aload_n 0, 1) := dk_42 (dk_at dksX5_layEquation_5 0 rfl rfl)
theorem dX5_layEquation_119 : decode cX5_layEquation 119 = .ok (.getfield 7, 3) := dk_180 0 7 (dk_at dksX5_layEquation_5 1 rfl rfl)
theorem dX5_layEquation_122 : decode cX5_layEquation 122 = .ok (.iload_n 1, 1) := dk_27 (dk_at dksX5_layEquation_5 4 rfl rfl)
theorem dX5_layEquation_123 : decode cX5_layEquation 123 = .ok (.iaload, 1) := dk_46 (dk_at dksX5_layEquation_5 5 rfl rfl)
theorem dX5_layEquation_124 : decode cX5_layEquation 124 = .ok (.iconst 4, 1) := dk_7 (dk_at dksX5_layEquation_5 6 rfl rfl)
theorem dX5_layEquation_125 : decode cX5_layEquation 125 = .ok (.irem, 1) := dk_112 (dk_at dksX5_layEquation_5 7 rfl rfl)
theorem dX5_layEquation_126 : decode cX5_layEquation 126 = .ok (.invokestatic 186, 3) := dk_184 0 186 (dk_at dksX5_layEquation_5 8 rfl rfl)
theorem dX5_layEquation_129 : decode cX5_layEquation 129 = .ok (.iadd, 1) := dk_96 (dk_at dksX5_layEquation_5 11 rfl rfl)
theorem dX5_layEquation_130 : decode cX5_layEquation 130 = .ok (.dup2, 1) := dk_92 (dk_at dksX5_layEquation_5 12 rfl rfl)
theorem dX5_layEquation_131 : decode cX5_layEquation 131 = .ok (.iaload, 1) := dk_46 (dk_at dksX5_layEquation_5 13 rfl rfl)
theorem dX5_layEquation_132 : decode cX5_layEquation 132 = .ok (.iconst 1, 1) := dk_4 (dk_at dksX5_layEquation_5 14 rfl rfl)
theorem dX5_layEquation_133 : decode cX5_layEquation 133 = .ok (.isub, 1) := dk_100 (dk_at dksX5_layEquation_5 15 rfl rfl)
theorem dX5_layEquation_134 : decode cX5_layEquation 134 = .ok (.iastore, 1) := dk_79 (dk_at dksX5_layEquation_5 16 rfl rfl)
theorem dX5_layEquation_135 : decode cX5_layEquation 135 = .ok (.return_, 1) := dk_177 (dk_at dksX5_layEquation_5 17 rfl rfl)
abbrev cX5_kindOf : ByteArray := prog_8_method_42_code
def yX5_kindOf : MethodName := ⟨RX5, "kindOf", "(II)I"⟩
def dkwX5_kindOf_0 : List UInt8 := [26, 27, 96, 61, 26, 153, 0, 7, 27, 154, 0, 9, 28, 4, 100, 167, 0, 6, 8, 28, 100, 172]
abbrev dktX5_kindOf_0 : List UInt8 := dkwX5_kindOf_0 ++ []
theorem dksX5_kindOf_0 : cX5_kindOf.data.toList.drop 0 = dktX5_kindOf_0 := by decide +kernel
theorem dX5_kindOf_0 : decode cX5_kindOf 0 = .ok (.iload_n 0, 1) := dk_26 (dk_at dksX5_kindOf_0 0 rfl rfl)
theorem dX5_kindOf_1 : decode cX5_kindOf 1 = .ok (.iload_n 1, 1) := dk_27 (dk_at dksX5_kindOf_0 1 rfl rfl)
theorem dX5_kindOf_2 : decode cX5_kindOf 2 = .ok (.iadd, 1) := dk_96 (dk_at dksX5_kindOf_0 2 rfl rfl)
theorem dX5_kindOf_3 : decode cX5_kindOf 3 = .ok (.istore_n 2, 1) := dk_61 (dk_at dksX5_kindOf_0 3 rfl rfl)
theorem dX5_kindOf_4 : decode cX5_kindOf 4 = .ok (.iload_n 0, 1) := dk_26 (dk_at dksX5_kindOf_0 4 rfl rfl)
theorem dX5_kindOf_5 : decode cX5_kindOf 5 = .ok (.ifCond .eq 7, 3) := dk_153 0 7 (dk_at dksX5_kindOf_0 5 rfl rfl)
theorem dX5_kindOf_8 : decode cX5_kindOf 8 = .ok (.iload_n 1, 1) := dk_27 (dk_at dksX5_kindOf_0 8 rfl rfl)
theorem dX5_kindOf_9 : decode cX5_kindOf 9 = .ok (.ifCond .ne 9, 3) := dk_154 0 9 (dk_at dksX5_kindOf_0 9 rfl rfl)
theorem dX5_kindOf_12 : decode cX5_kindOf 12 = .ok (.iload_n 2, 1) := dk_28 (dk_at dksX5_kindOf_0 12 rfl rfl)
theorem dX5_kindOf_13 : decode cX5_kindOf 13 = .ok (.iconst 1, 1) := dk_4 (dk_at dksX5_kindOf_0 13 rfl rfl)
theorem dX5_kindOf_14 : decode cX5_kindOf 14 = .ok (.isub, 1) := dk_100 (dk_at dksX5_kindOf_0 14 rfl rfl)
theorem dX5_kindOf_15 : decode cX5_kindOf 15 = .ok (.goto 6, 3) := dk_167 0 6 (dk_at dksX5_kindOf_0 15 rfl rfl)
theorem dX5_kindOf_18 : decode cX5_kindOf 18 = .ok (.iconst 5, 1) := dk_8 (dk_at dksX5_kindOf_0 18 rfl rfl)
theorem dX5_kindOf_19 : decode cX5_kindOf 19 = .ok (.iload_n 2, 1) := dk_28 (dk_at dksX5_kindOf_0 19 rfl rfl)
theorem dX5_kindOf_20 : decode cX5_kindOf 20 = .ok (.isub, 1) := dk_100 (dk_at dksX5_kindOf_0 20 rfl rfl)
theorem dX5_kindOf_21 : decode cX5_kindOf 21 = .ok (.ireturn, 1) := dk_172 (dk_at dksX5_kindOf_0 21 rfl rfl)
abbrev cX5_meet : ByteArray := prog_8_method_50_code
def yX5_meet : MethodName := ⟨RX5, "meet", "()V"⟩
def dkwX5_meet_6 : List UInt8 := [42, 180, 0, 42, 27, 42, 180, 0, 45, 27, 46, 79, 132, 1, 1, 167, 255, 230, 177]
abbrev dktX5_meet_6 : List UInt8 := dkwX5_meet_6 ++ []
def dkwX5_meet_5 : List UInt8 := [167, 255, 152, 42, 42, 180, 0, 195, 181, 0, 189, 3, 60, 27, 16, 21, 42, 180, 0, 189, 104, 162, 0, 21]
abbrev dktX5_meet_5 : List UInt8 := dkwX5_meet_5 ++ dktX5_meet_6
def dkwX5_meet_4 : List UInt8 := [153, 0, 13, 42, 27, 29, 21, 4, 116, 28, 182, 0, 204, 132, 3, 1, 167, 255, 186, 132, 1, 1]
abbrev dktX5_meet_4 : List UInt8 := dkwX5_meet_4 ++ dktX5_meet_5
def dkwX5_meet_3 : List UInt8 := [21, 4, 156, 0, 33, 42, 21, 5, 182, 0, 208, 153, 0, 24, 42, 27, 29, 21, 5, 182, 0, 211]
abbrev dktX5_meet_3 : List UInt8 := dkwX5_meet_3 ++ dktX5_meet_4
def dkwX5_meet_2 : List UInt8 := [158, 0, 64, 42, 29, 182, 0, 201, 54, 4, 42, 27, 182, 0, 192, 42, 29, 182, 0, 192, 128, 54, 5]
abbrev dktX5_meet_2 : List UInt8 := dkwX5_meet_2 ++ dktX5_meet_3
def dkwX5_meet_1 : List UInt8 := [154, 0, 11, 42, 27, 27, 4, 3, 182, 0, 204, 3, 62, 29, 42, 180, 0, 189, 162, 0, 68, 28]
abbrev dktX5_meet_1 : List UInt8 := dkwX5_meet_1 ++ dktX5_meet_2
def dkwX5_meet_0 : List UInt8 := [42, 3, 181, 0, 195, 3, 60, 27, 42, 180, 0, 189, 162, 0, 102, 42, 27, 182, 0, 201, 61, 28]
abbrev dktX5_meet_0 : List UInt8 := dkwX5_meet_0 ++ dktX5_meet_1
theorem dksX5_meet_0 : cX5_meet.data.toList.drop 0 = dktX5_meet_0 := by decide +kernel
theorem dksX5_meet_1 : cX5_meet.data.toList.drop 22 = dktX5_meet_1 := dk_seg dksX5_meet_0 22 rfl rfl
theorem dksX5_meet_2 : cX5_meet.data.toList.drop 44 = dktX5_meet_2 := dk_seg dksX5_meet_1 22 rfl rfl
theorem dksX5_meet_3 : cX5_meet.data.toList.drop 67 = dktX5_meet_3 := dk_seg dksX5_meet_2 23 rfl rfl
theorem dksX5_meet_4 : cX5_meet.data.toList.drop 89 = dktX5_meet_4 := dk_seg dksX5_meet_3 22 rfl rfl
theorem dksX5_meet_5 : cX5_meet.data.toList.drop 111 = dktX5_meet_5 := dk_seg dksX5_meet_4 22 rfl rfl
theorem dksX5_meet_6 : cX5_meet.data.toList.drop 135 = dktX5_meet_6 := dk_seg dksX5_meet_5 24 rfl rfl
theorem dX5_meet_0 : decode cX5_meet 0 = .ok (.aload_n 0, 1) := dk_42 (dk_at dksX5_meet_0 0 rfl rfl)
theorem dX5_meet_1 : decode cX5_meet 1 = .ok (.iconst 0, 1) := dk_3 (dk_at dksX5_meet_0 1 rfl rfl)
theorem dX5_meet_2 : decode cX5_meet 2 = .ok (.putfield 195, 3) := dk_181 0 195 (dk_at dksX5_meet_0 2 rfl rfl)
theorem dX5_meet_5 : decode cX5_meet 5 = .ok (.iconst 0, 1) := dk_3 (dk_at dksX5_meet_0 5 rfl rfl)
theorem dX5_meet_6 : decode cX5_meet 6 = .ok (.istore_n 1, 1) := dk_60 (dk_at dksX5_meet_0 6 rfl rfl)
theorem dX5_meet_7 : decode cX5_meet 7 = .ok (.iload_n 1, 1) := dk_27 (dk_at dksX5_meet_0 7 rfl rfl)
theorem dX5_meet_8 : decode cX5_meet 8 = .ok (.aload_n 0, 1) := dk_42 (dk_at dksX5_meet_0 8 rfl rfl)
theorem dX5_meet_9 : decode cX5_meet 9 = .ok (.getfield 189, 3) := dk_180 0 189 (dk_at dksX5_meet_0 9 rfl rfl)
theorem dX5_meet_12 : decode cX5_meet 12 = .ok (.if_icmp .ge 102, 3) := dk_162 0 102 (dk_at dksX5_meet_0 12 rfl rfl)
theorem dX5_meet_15 : decode cX5_meet 15 = .ok (.aload_n 0, 1) := dk_42 (dk_at dksX5_meet_0 15 rfl rfl)
theorem dX5_meet_16 : decode cX5_meet 16 = .ok (.iload_n 1, 1) := dk_27 (dk_at dksX5_meet_0 16 rfl rfl)
theorem dX5_meet_17 : decode cX5_meet 17 = .ok (.invokevirtual 201, 3) := dk_182 0 201 (dk_at dksX5_meet_0 17 rfl rfl)
theorem dX5_meet_20 : decode cX5_meet 20 = .ok (.istore_n 2, 1) := dk_61 (dk_at dksX5_meet_0 20 rfl rfl)
theorem dX5_meet_21 : decode cX5_meet 21 = .ok (.iload_n 2, 1) := dk_28 (dk_at dksX5_meet_0 21 rfl rfl)
theorem dX5_meet_22 : decode cX5_meet 22 = .ok (.ifCond .ne 11, 3) := dk_154 0 11 (dk_at dksX5_meet_1 0 rfl rfl)
theorem dX5_meet_25 : decode cX5_meet 25 = .ok (.aload_n 0, 1) := dk_42 (dk_at dksX5_meet_1 3 rfl rfl)
theorem dX5_meet_26 : decode cX5_meet 26 = .ok (.iload_n 1, 1) := dk_27 (dk_at dksX5_meet_1 4 rfl rfl)
theorem dX5_meet_27 : decode cX5_meet 27 = .ok (.iload_n 1, 1) := dk_27 (dk_at dksX5_meet_1 5 rfl rfl)
theorem dX5_meet_28 : decode cX5_meet 28 = .ok (.iconst 1, 1) := dk_4 (dk_at dksX5_meet_1 6 rfl rfl)
theorem dX5_meet_29 : decode cX5_meet 29 = .ok (.iconst 0, 1) := dk_3 (dk_at dksX5_meet_1 7 rfl rfl)
theorem dX5_meet_30 : decode cX5_meet 30 = .ok (.invokevirtual 204, 3) := dk_182 0 204 (dk_at dksX5_meet_1 8 rfl rfl)
theorem dX5_meet_33 : decode cX5_meet 33 = .ok (.iconst 0, 1) := dk_3 (dk_at dksX5_meet_1 11 rfl rfl)
theorem dX5_meet_34 : decode cX5_meet 34 = .ok (.istore_n 3, 1) := dk_62 (dk_at dksX5_meet_1 12 rfl rfl)
theorem dX5_meet_35 : decode cX5_meet 35 = .ok (.iload_n 3, 1) := dk_29 (dk_at dksX5_meet_1 13 rfl rfl)
theorem dX5_meet_36 : decode cX5_meet 36 = .ok (.aload_n 0, 1) := dk_42 (dk_at dksX5_meet_1 14 rfl rfl)
theorem dX5_meet_37 : decode cX5_meet 37 = .ok (.getfield 189, 3) := dk_180 0 189 (dk_at dksX5_meet_1 15 rfl rfl)
theorem dX5_meet_40 : decode cX5_meet 40 = .ok (.if_icmp .ge 68, 3) := dk_162 0 68 (dk_at dksX5_meet_1 18 rfl rfl)
theorem dX5_meet_43 : decode cX5_meet 43 = .ok (.iload_n 2, 1) := dk_28 (dk_at dksX5_meet_1 21 rfl rfl)
theorem dX5_meet_44 : decode cX5_meet 44 = .ok (.ifCond .le 64, 3) := dk_158 0 64 (dk_at dksX5_meet_2 0 rfl rfl)
theorem dX5_meet_47 : decode cX5_meet 47 = .ok (.aload_n 0, 1) := dk_42 (dk_at dksX5_meet_2 3 rfl rfl)
theorem dX5_meet_48 : decode cX5_meet 48 = .ok (.iload_n 3, 1) := dk_29 (dk_at dksX5_meet_2 4 rfl rfl)
theorem dX5_meet_49 : decode cX5_meet 49 = .ok (.invokevirtual 201, 3) := dk_182 0 201 (dk_at dksX5_meet_2 5 rfl rfl)
theorem dX5_meet_52 : decode cX5_meet 52 = .ok (.istore 4, 2) := dk_54 4 (dk_at dksX5_meet_2 8 rfl rfl)
theorem dX5_meet_54 : decode cX5_meet 54 = .ok (.aload_n 0, 1) := dk_42 (dk_at dksX5_meet_2 10 rfl rfl)
theorem dX5_meet_55 : decode cX5_meet 55 = .ok (.iload_n 1, 1) := dk_27 (dk_at dksX5_meet_2 11 rfl rfl)
theorem dX5_meet_56 : decode cX5_meet 56 = .ok (.invokevirtual 192, 3) := dk_182 0 192 (dk_at dksX5_meet_2 12 rfl rfl)
theorem dX5_meet_59 : decode cX5_meet 59 = .ok (.aload_n 0, 1) := dk_42 (dk_at dksX5_meet_2 15 rfl rfl)
theorem dX5_meet_60 : decode cX5_meet 60 = .ok (.iload_n 3, 1) := dk_29 (dk_at dksX5_meet_2 16 rfl rfl)
theorem dX5_meet_61 : decode cX5_meet 61 = .ok (.invokevirtual 192, 3) := dk_182 0 192 (dk_at dksX5_meet_2 17 rfl rfl)
theorem dX5_meet_64 : decode cX5_meet 64 = .ok (.ior, 1) := dk_128 (dk_at dksX5_meet_2 20 rfl rfl)
theorem dX5_meet_65 : decode cX5_meet 65 = .ok (.istore 5, 2) := dk_54 5 (dk_at dksX5_meet_2 21 rfl rfl)
theorem dX5_meet_67 : decode cX5_meet 67 = .ok (.iload 4, 2) := dk_21 4 (dk_at dksX5_meet_3 0 rfl rfl)
theorem dX5_meet_69 : decode cX5_meet 69 = .ok (.ifCond .ge 33, 3) := dk_156 0 33 (dk_at dksX5_meet_3 2 rfl rfl)
theorem dX5_meet_72 : decode cX5_meet 72 = .ok (.aload_n 0, 1) := dk_42 (dk_at dksX5_meet_3 5 rfl rfl)
theorem dX5_meet_73 : decode cX5_meet 73 = .ok (.iload 5, 2) := dk_21 5 (dk_at dksX5_meet_3 6 rfl rfl)
theorem dX5_meet_75 : decode cX5_meet 75 = .ok (.invokevirtual 208, 3) := dk_182 0 208 (dk_at dksX5_meet_3 8 rfl rfl)
theorem dX5_meet_78 : decode cX5_meet 78 = .ok (.ifCond .eq 24, 3) := dk_153 0 24 (dk_at dksX5_meet_3 11 rfl rfl)
theorem dX5_meet_81 : decode cX5_meet 81 = .ok (.aload_n 0, 1) := dk_42 (dk_at dksX5_meet_3 14 rfl rfl)
theorem dX5_meet_82 : decode cX5_meet 82 = .ok (.iload_n 1, 1) := dk_27 (dk_at dksX5_meet_3 15 rfl rfl)
theorem dX5_meet_83 : decode cX5_meet 83 = .ok (.iload_n 3, 1) := dk_29 (dk_at dksX5_meet_3 16 rfl rfl)
theorem dX5_meet_84 : decode cX5_meet 84 = .ok (.iload 5, 2) := dk_21 5 (dk_at dksX5_meet_3 17 rfl rfl)
theorem dX5_meet_86 : decode cX5_meet 86 = .ok (.invokevirtual 211, 3) := dk_182 0 211 (dk_at dksX5_meet_3 19 rfl rfl)
theorem dX5_meet_89 : decode cX5_meet 89 = .ok (.ifCond .eq 13, 3) := dk_153 0 13 (dk_at dksX5_meet_4 0 rfl rfl)
theorem dX5_meet_92 : decode cX5_meet 92 = .ok (.aload_n 0, 1) := dk_42 (dk_at dksX5_meet_4 3 rfl rfl)
theorem dX5_meet_93 : decode cX5_meet 93 = .ok (.iload_n 1, 1) := dk_27 (dk_at dksX5_meet_4 4 rfl rfl)
theorem dX5_meet_94 : decode cX5_meet 94 = .ok (.iload_n 3, 1) := dk_29 (dk_at dksX5_meet_4 5 rfl rfl)
theorem dX5_meet_95 : decode cX5_meet 95 = .ok (.iload 4, 2) := dk_21 4 (dk_at dksX5_meet_4 6 rfl rfl)
theorem dX5_meet_97 : decode cX5_meet 97 = .ok (.ineg, 1) := dk_116 (dk_at dksX5_meet_4 8 rfl rfl)
theorem dX5_meet_98 : decode cX5_meet 98 = .ok (.iload_n 2, 1) := dk_28 (dk_at dksX5_meet_4 9 rfl rfl)
theorem dX5_meet_99 : decode cX5_meet 99 = .ok (.invokevirtual 204, 3) := dk_182 0 204 (dk_at dksX5_meet_4 10 rfl rfl)
theorem dX5_meet_102 : decode cX5_meet 102 = .ok (.iinc 3 1, 3) := dk_132 3 1 (dk_at dksX5_meet_4 13 rfl rfl)
theorem dX5_meet_105 : decode cX5_meet 105 = .ok (.goto (-70), 3) := dk_167 255 186 (dk_at dksX5_meet_4 16 rfl rfl)
theorem dX5_meet_108 : decode cX5_meet 108 = .ok (.iinc 1 1, 3) := dk_132 1 1 (dk_at dksX5_meet_4 19 rfl rfl)
theorem dX5_meet_111 : decode cX5_meet 111 = .ok (.goto (-104), 3) := dk_167 255 152 (dk_at dksX5_meet_5 0 rfl rfl)
theorem dX5_meet_114 : decode cX5_meet 114 = .ok (.aload_n 0, 1) := dk_42 (dk_at dksX5_meet_5 3 rfl rfl)
theorem dX5_meet_115 : decode cX5_meet 115 = .ok (.aload_n 0, 1) := dk_42 (dk_at dksX5_meet_5 4 rfl rfl)
theorem dX5_meet_116 : decode cX5_meet 116 = .ok (.getfield 195, 3) := dk_180 0 195 (dk_at dksX5_meet_5 5 rfl rfl)
theorem dX5_meet_119 : decode cX5_meet 119 = .ok (.putfield 189, 3) := dk_181 0 189 (dk_at dksX5_meet_5 8 rfl rfl)
theorem dX5_meet_122 : decode cX5_meet 122 = .ok (.iconst 0, 1) := dk_3 (dk_at dksX5_meet_5 11 rfl rfl)
theorem dX5_meet_123 : decode cX5_meet 123 = .ok (.istore_n 1, 1) := dk_60 (dk_at dksX5_meet_5 12 rfl rfl)
theorem dX5_meet_124 : decode cX5_meet 124 = .ok (.iload_n 1, 1) := dk_27 (dk_at dksX5_meet_5 13 rfl rfl)
theorem dX5_meet_125 : decode cX5_meet 125 = .ok (.bipush 21, 2) := dk_16 21 (dk_at dksX5_meet_5 14 rfl rfl)
theorem dX5_meet_127 : decode cX5_meet 127 = .ok (.aload_n 0, 1) := dk_42 (dk_at dksX5_meet_5 16 rfl rfl)
theorem dX5_meet_128 : decode cX5_meet 128 = .ok (.getfield 189, 3) := dk_180 0 189 (dk_at dksX5_meet_5 17 rfl rfl)
theorem dX5_meet_131 : decode cX5_meet 131 = .ok (.imul, 1) := dk_104 (dk_at dksX5_meet_5 20 rfl rfl)
theorem dX5_meet_132 : decode cX5_meet 132 = .ok (.if_icmp .ge 21, 3) := dk_162 0 21 (dk_at dksX5_meet_5 21 rfl rfl)
theorem dX5_meet_135 : decode cX5_meet 135 = .ok (.aload_n 0, 1) := dk_42 (dk_at dksX5_meet_6 0 rfl rfl)
theorem dX5_meet_136 : decode cX5_meet 136 = .ok (.getfield 42, 3) := dk_180 0 42 (dk_at dksX5_meet_6 1 rfl rfl)
theorem dX5_meet_139 : decode cX5_meet 139 = .ok (.iload_n 1, 1) := dk_27 (dk_at dksX5_meet_6 4 rfl rfl)
theorem dX5_meet_140 : decode cX5_meet 140 = .ok (.aload_n 0, 1) := dk_42 (dk_at dksX5_meet_6 5 rfl rfl)
theorem dX5_meet_141 : decode cX5_meet 141 = .ok (.getfield 45, 3) := dk_180 0 45 (dk_at dksX5_meet_6 6 rfl rfl)
theorem dX5_meet_144 : decode cX5_meet 144 = .ok (.iload_n 1, 1) := dk_27 (dk_at dksX5_meet_6 9 rfl rfl)
theorem dX5_meet_145 : decode cX5_meet 145 = .ok (.iaload, 1) := dk_46 (dk_at dksX5_meet_6 10 rfl rfl)
theorem dX5_meet_146 : decode cX5_meet 146 = .ok (.iastore, 1) := dk_79 (dk_at dksX5_meet_6 11 rfl rfl)
theorem dX5_meet_147 : decode cX5_meet 147 = .ok (.iinc 1 1, 3) := dk_132 1 1 (dk_at dksX5_meet_6 12 rfl rfl)
theorem dX5_meet_150 : decode cX5_meet 150 = .ok (.goto (-26), 3) := dk_167 255 230 (dk_at dksX5_meet_6 15 rfl rfl)
theorem dX5_meet_153 : decode cX5_meet 153 = .ok (.return_, 1) := dk_177 (dk_at dksX5_meet_6 18 rfl rfl)
abbrev cX5_side : ByteArray := prog_8_method_44_code
def yX5_side : MethodName := ⟨RX5, "side", "(I)I"⟩
def dkwX5_side_1 : List UInt8 := [180, 0, 42, 16, 21, 27, 104, 29, 96, 46, 104, 96, 61, 132, 3, 1, 167, 255, 221, 28, 172]
abbrev dktX5_side_1 : List UInt8 := dkwX5_side_1 ++ []
def dkwX5_side_0 : List UInt8 := [3, 61, 3, 62, 29, 16, 7, 42, 180, 0, 67, 104, 162, 0, 30, 28, 42, 180, 0, 48, 29, 46, 42]
abbrev dktX5_side_0 : List UInt8 := dkwX5_side_0 ++ dktX5_side_1
theorem dksX5_side_0 : cX5_side.data.toList.drop 0 = dktX5_side_0 := by decide +kernel
theorem dksX5_side_1 : cX5_side.data.toList.drop 23 = dktX5_side_1 := dk_seg dksX5_side_0 23 rfl rfl
theorem dX5_side_0 : decode cX5_side 0 = .ok (.iconst 0, 1) := dk_3 (dk_at dksX5_side_0 0 rfl rfl)
theorem dX5_side_1 : decode cX5_side 1 = .ok (.istore_n 2, 1) := dk_61 (dk_at dksX5_side_0 1 rfl rfl)
theorem dX5_side_2 : decode cX5_side 2 = .ok (.iconst 0, 1) := dk_3 (dk_at dksX5_side_0 2 rfl rfl)
theorem dX5_side_3 : decode cX5_side 3 = .ok (.istore_n 3, 1) := dk_62 (dk_at dksX5_side_0 3 rfl rfl)
theorem dX5_side_4 : decode cX5_side 4 = .ok (.iload_n 3, 1) := dk_29 (dk_at dksX5_side_0 4 rfl rfl)
theorem dX5_side_5 : decode cX5_side 5 = .ok (.bipush 7, 2) := dk_16 7 (dk_at dksX5_side_0 5 rfl rfl)
theorem dX5_side_7 : decode cX5_side 7 = .ok (.aload_n 0, 1) := dk_42 (dk_at dksX5_side_0 7 rfl rfl)
theorem dX5_side_8 : decode cX5_side 8 = .ok (.getfield 67, 3) := dk_180 0 67 (dk_at dksX5_side_0 8 rfl rfl)
theorem dX5_side_11 : decode cX5_side 11 = .ok (.imul, 1) := dk_104 (dk_at dksX5_side_0 11 rfl rfl)
theorem dX5_side_12 : decode cX5_side 12 = .ok (.if_icmp .ge 30, 3) := dk_162 0 30 (dk_at dksX5_side_0 12 rfl rfl)
theorem dX5_side_15 : decode cX5_side 15 = .ok (.iload_n 2, 1) := dk_28 (dk_at dksX5_side_0 15 rfl rfl)
theorem dX5_side_16 : decode cX5_side 16 = .ok (.aload_n 0, 1) := dk_42 (dk_at dksX5_side_0 16 rfl rfl)
theorem dX5_side_17 : decode cX5_side 17 = .ok (.getfield 48, 3) := dk_180 0 48 (dk_at dksX5_side_0 17 rfl rfl)
theorem dX5_side_20 : decode cX5_side 20 = .ok (.iload_n 3, 1) := dk_29 (dk_at dksX5_side_0 20 rfl rfl)
theorem dX5_side_21 : decode cX5_side 21 = .ok (.iaload, 1) := dk_46 (dk_at dksX5_side_0 21 rfl rfl)
theorem dX5_side_22 : decode cX5_side 22 = .ok (.aload_n 0, 1) := dk_42 (dk_at dksX5_side_0 22 rfl rfl)
theorem dX5_side_23 : decode cX5_side 23 = .ok (.getfield 42, 3) := dk_180 0 42 (dk_at dksX5_side_1 0 rfl rfl)
theorem dX5_side_26 : decode cX5_side 26 = .ok (.bipush 21, 2) := dk_16 21 (dk_at dksX5_side_1 3 rfl rfl)
theorem dX5_side_28 : decode cX5_side 28 = .ok (.iload_n 1, 1) := dk_27 (dk_at dksX5_side_1 5 rfl rfl)
theorem dX5_side_29 : decode cX5_side 29 = .ok (.imul, 1) := dk_104 (dk_at dksX5_side_1 6 rfl rfl)
theorem dX5_side_30 : decode cX5_side 30 = .ok (.iload_n 3, 1) := dk_29 (dk_at dksX5_side_1 7 rfl rfl)
theorem dX5_side_31 : decode cX5_side 31 = .ok (.iadd, 1) := dk_96 (dk_at dksX5_side_1 8 rfl rfl)
theorem dX5_side_32 : decode cX5_side 32 = .ok (.iaload, 1) := dk_46 (dk_at dksX5_side_1 9 rfl rfl)
theorem dX5_side_33 : decode cX5_side 33 = .ok (.imul, 1) := dk_104 (dk_at dksX5_side_1 10 rfl rfl)
theorem dX5_side_34 : decode cX5_side 34 = .ok (.iadd, 1) := dk_96 (dk_at dksX5_side_1 11 rfl rfl)
theorem dX5_side_35 : decode cX5_side 35 = .ok (.istore_n 2, 1) := dk_61 (dk_at dksX5_side_1 12 rfl rfl)
theorem dX5_side_36 : decode cX5_side 36 = .ok (.iinc 3 1, 3) := dk_132 3 1 (dk_at dksX5_side_1 13 rfl rfl)
theorem dX5_side_39 : decode cX5_side 39 = .ok (.goto (-35), 3) := dk_167 255 221 (dk_at dksX5_side_1 16 rfl rfl)
theorem dX5_side_42 : decode cX5_side 42 = .ok (.iload_n 2, 1) := dk_28 (dk_at dksX5_side_1 19 rfl rfl)
theorem dX5_side_43 : decode cX5_side 43 = .ok (.ireturn, 1) := dk_172 (dk_at dksX5_side_1 20 rfl rfl)
abbrev cX5_layRay : ByteArray := prog_8_method_49_code
def yX5_layRay : MethodName := ⟨RX5, "layRay", "(IIII)V"⟩
def dkwX5_layRay_5 : List UInt8 := [132, 6, 1, 167, 255, 221, 42, 89, 180, 0, 195, 4, 96, 181, 0, 195, 177]
abbrev dktX5_layRay_5 : List UInt8 := dkwX5_layRay_5 ++ []
def dkwX5_layRay_4 : List UInt8 := [162, 0, 29, 42, 180, 0, 45, 16, 21, 42, 180, 0, 195, 104, 21, 6, 96, 92, 46, 21, 5, 108, 79]
abbrev dktX5_layRay_4 : List UInt8 := dkwX5_layRay_4 ++ dktX5_layRay_5
def dkwX5_layRay_3 : List UInt8 := [184, 0, 198, 54, 5, 132, 6, 1, 167, 255, 183, 3, 54, 6, 21, 6, 16, 7, 42, 180, 0, 67, 104]
abbrev dktX5_layRay_3 : List UInt8 := dkwX5_layRay_3 ++ dktX5_layRay_4
def dkwX5_layRay_2 : List UInt8 := [96, 54, 7, 42, 180, 0, 45, 16, 21, 42, 180, 0, 195, 104, 21, 6, 96, 21, 7, 79, 21, 5, 21, 7]
abbrev dktX5_layRay_2 : List UInt8 := dkwX5_layRay_2 ++ dktX5_layRay_3
def dkwX5_layRay_1 : List UInt8 := [16, 21, 27, 104, 21, 6, 96, 46, 104, 21, 4, 42, 180, 0, 42, 16, 21, 28, 104, 21, 6, 96, 46, 104]
abbrev dktX5_layRay_1 : List UInt8 := dkwX5_layRay_1 ++ dktX5_layRay_2
def dkwX5_layRay_0 : List UInt8 := [3, 54, 5, 3, 54, 6, 21, 6, 16, 7, 42, 180, 0, 67, 104, 162, 0, 67, 29, 42, 180, 0, 42]
abbrev dktX5_layRay_0 : List UInt8 := dkwX5_layRay_0 ++ dktX5_layRay_1
theorem dksX5_layRay_0 : cX5_layRay.data.toList.drop 0 = dktX5_layRay_0 := by decide +kernel
theorem dksX5_layRay_1 : cX5_layRay.data.toList.drop 23 = dktX5_layRay_1 := dk_seg dksX5_layRay_0 23 rfl rfl
theorem dksX5_layRay_2 : cX5_layRay.data.toList.drop 47 = dktX5_layRay_2 := dk_seg dksX5_layRay_1 24 rfl rfl
theorem dksX5_layRay_3 : cX5_layRay.data.toList.drop 71 = dktX5_layRay_3 := dk_seg dksX5_layRay_2 24 rfl rfl
theorem dksX5_layRay_4 : cX5_layRay.data.toList.drop 94 = dktX5_layRay_4 := dk_seg dksX5_layRay_3 23 rfl rfl
theorem dksX5_layRay_5 : cX5_layRay.data.toList.drop 117 = dktX5_layRay_5 := dk_seg dksX5_layRay_4 23 rfl rfl
theorem dX5_layRay_0 : decode cX5_layRay 0 = .ok (.iconst 0, 1) := dk_3 (dk_at dksX5_layRay_0 0 rfl rfl)
theorem dX5_layRay_1 : decode cX5_layRay 1 = .ok (.istore 5, 2) := dk_54 5 (dk_at dksX5_layRay_0 1 rfl rfl)
theorem dX5_layRay_3 : decode cX5_layRay 3 = .ok (.iconst 0, 1) := dk_3 (dk_at dksX5_layRay_0 3 rfl rfl)
theorem dX5_layRay_4 : decode cX5_layRay 4 = .ok (.istore 6, 2) := dk_54 6 (dk_at dksX5_layRay_0 4 rfl rfl)
theorem dX5_layRay_6 : decode cX5_layRay 6 = .ok (.iload 6, 2) := dk_21 6 (dk_at dksX5_layRay_0 6 rfl rfl)
theorem dX5_layRay_8 : decode cX5_layRay 8 = .ok (.bipush 7, 2) := dk_16 7 (dk_at dksX5_layRay_0 8 rfl rfl)
theorem dX5_layRay_10 : decode cX5_layRay 10 = .ok (.aload_n 0, 1) := dk_42 (dk_at dksX5_layRay_0 10 rfl rfl)
theorem dX5_layRay_11 : decode cX5_layRay 11 = .ok (.getfield 67, 3) := dk_180 0 67 (dk_at dksX5_layRay_0 11 rfl rfl)
theorem dX5_layRay_14 : decode cX5_layRay 14 = .ok (.imul, 1) := dk_104 (dk_at dksX5_layRay_0 14 rfl rfl)
theorem dX5_layRay_15 : decode cX5_layRay 15 = .ok (.if_icmp .ge 67, 3) := dk_162 0 67 (dk_at dksX5_layRay_0 15 rfl rfl)
theorem dX5_layRay_18 : decode cX5_layRay 18 = .ok (.iload_n 3, 1) := dk_29 (dk_at dksX5_layRay_0 18 rfl rfl)
theorem dX5_layRay_19 : decode cX5_layRay 19 = .ok (.aload_n 0, 1) := dk_42 (dk_at dksX5_layRay_0 19 rfl rfl)
theorem dX5_layRay_20 : decode cX5_layRay 20 = .ok (.getfield 42, 3) := dk_180 0 42 (dk_at dksX5_layRay_0 20 rfl rfl)
theorem dX5_layRay_23 : decode cX5_layRay 23 = .ok (.bipush 21, 2) := dk_16 21 (dk_at dksX5_layRay_1 0 rfl rfl)
theorem dX5_layRay_25 : decode cX5_layRay 25 = .ok (.iload_n 1, 1) := dk_27 (dk_at dksX5_layRay_1 2 rfl rfl)
theorem dX5_layRay_26 : decode cX5_layRay 26 = .ok (.imul, 1) := dk_104 (dk_at dksX5_layRay_1 3 rfl rfl)
theorem dX5_layRay_27 : decode cX5_layRay 27 = .ok (.iload 6, 2) := dk_21 6 (dk_at dksX5_layRay_1 4 rfl rfl)
theorem dX5_layRay_29 : decode cX5_layRay 29 = .ok (.iadd, 1) := dk_96 (dk_at dksX5_layRay_1 6 rfl rfl)
theorem dX5_layRay_30 : decode cX5_layRay 30 = .ok (.iaload, 1) := dk_46 (dk_at dksX5_layRay_1 7 rfl rfl)
theorem dX5_layRay_31 : decode cX5_layRay 31 = .ok (.imul, 1) := dk_104 (dk_at dksX5_layRay_1 8 rfl rfl)
theorem dX5_layRay_32 : decode cX5_layRay 32 = .ok (.iload 4, 2) := dk_21 4 (dk_at dksX5_layRay_1 9 rfl rfl)
theorem dX5_layRay_34 : decode cX5_layRay 34 = .ok (.aload_n 0, 1) := dk_42 (dk_at dksX5_layRay_1 11 rfl rfl)
theorem dX5_layRay_35 : decode cX5_layRay 35 = .ok (.getfield 42, 3) := dk_180 0 42 (dk_at dksX5_layRay_1 12 rfl rfl)
theorem dX5_layRay_38 : decode cX5_layRay 38 = .ok (.bipush 21, 2) := dk_16 21 (dk_at dksX5_layRay_1 15 rfl rfl)
theorem dX5_layRay_40 : decode cX5_layRay 40 = .ok (.iload_n 2, 1) := dk_28 (dk_at dksX5_layRay_1 17 rfl rfl)
theorem dX5_layRay_41 : decode cX5_layRay 41 = .ok (.imul, 1) := dk_104 (dk_at dksX5_layRay_1 18 rfl rfl)
theorem dX5_layRay_42 : decode cX5_layRay 42 = .ok (.iload 6, 2) := dk_21 6 (dk_at dksX5_layRay_1 19 rfl rfl)
theorem dX5_layRay_44 : decode cX5_layRay 44 = .ok (.iadd, 1) := dk_96 (dk_at dksX5_layRay_1 21 rfl rfl)
theorem dX5_layRay_45 : decode cX5_layRay 45 = .ok (.iaload, 1) := dk_46 (dk_at dksX5_layRay_1 22 rfl rfl)
theorem dX5_layRay_46 : decode cX5_layRay 46 = .ok (.imul, 1) := dk_104 (dk_at dksX5_layRay_1 23 rfl rfl)
theorem dX5_layRay_47 : decode cX5_layRay 47 = .ok (.iadd, 1) := dk_96 (dk_at dksX5_layRay_2 0 rfl rfl)
theorem dX5_layRay_48 : decode cX5_layRay 48 = .ok (.istore 7, 2) := dk_54 7 (dk_at dksX5_layRay_2 1 rfl rfl)
theorem dX5_layRay_50 : decode cX5_layRay 50 = .ok (.aload_n 0, 1) := dk_42 (dk_at dksX5_layRay_2 3 rfl rfl)
theorem dX5_layRay_51 : decode cX5_layRay 51 = .ok (.getfield 45, 3) := dk_180 0 45 (dk_at dksX5_layRay_2 4 rfl rfl)
theorem dX5_layRay_54 : decode cX5_layRay 54 = .ok (.bipush 21, 2) := dk_16 21 (dk_at dksX5_layRay_2 7 rfl rfl)
theorem dX5_layRay_56 : decode cX5_layRay 56 = .ok (.aload_n 0, 1) := dk_42 (dk_at dksX5_layRay_2 9 rfl rfl)
theorem dX5_layRay_57 : decode cX5_layRay 57 = .ok (.getfield 195, 3) := dk_180 0 195 (dk_at dksX5_layRay_2 10 rfl rfl)
theorem dX5_layRay_60 : decode cX5_layRay 60 = .ok (.imul, 1) := dk_104 (dk_at dksX5_layRay_2 13 rfl rfl)
theorem dX5_layRay_61 : decode cX5_layRay 61 = .ok (.iload 6, 2) := dk_21 6 (dk_at dksX5_layRay_2 14 rfl rfl)
theorem dX5_layRay_63 : decode cX5_layRay 63 = .ok (.iadd, 1) := dk_96 (dk_at dksX5_layRay_2 16 rfl rfl)
theorem dX5_layRay_64 : decode cX5_layRay 64 = .ok (.iload 7, 2) := dk_21 7 (dk_at dksX5_layRay_2 17 rfl rfl)
theorem dX5_layRay_66 : decode cX5_layRay 66 = .ok (.iastore, 1) := dk_79 (dk_at dksX5_layRay_2 19 rfl rfl)
theorem dX5_layRay_67 : decode cX5_layRay 67 = .ok (.iload 5, 2) := dk_21 5 (dk_at dksX5_layRay_2 20 rfl rfl)
theorem dX5_layRay_69 : decode cX5_layRay 69 = .ok (.iload 7, 2) := dk_21 7 (dk_at dksX5_layRay_2 22 rfl rfl)
theorem dX5_layRay_71 : decode cX5_layRay 71 = .ok (.invokestatic 198, 3) := dk_184 0 198 (dk_at dksX5_layRay_3 0 rfl rfl)
theorem dX5_layRay_74 : decode cX5_layRay 74 = .ok (.istore 5, 2) := dk_54 5 (dk_at dksX5_layRay_3 3 rfl rfl)
theorem dX5_layRay_76 : decode cX5_layRay 76 = .ok (.iinc 6 1, 3) := dk_132 6 1 (dk_at dksX5_layRay_3 5 rfl rfl)
theorem dX5_layRay_79 : decode cX5_layRay 79 = .ok (.goto (-73), 3) := dk_167 255 183 (dk_at dksX5_layRay_3 8 rfl rfl)
theorem dX5_layRay_82 : decode cX5_layRay 82 = .ok (.iconst 0, 1) := dk_3 (dk_at dksX5_layRay_3 11 rfl rfl)
theorem dX5_layRay_83 : decode cX5_layRay 83 = .ok (.istore 6, 2) := dk_54 6 (dk_at dksX5_layRay_3 12 rfl rfl)
theorem dX5_layRay_85 : decode cX5_layRay 85 = .ok (.iload 6, 2) := dk_21 6 (dk_at dksX5_layRay_3 14 rfl rfl)
theorem dX5_layRay_87 : decode cX5_layRay 87 = .ok (.bipush 7, 2) := dk_16 7 (dk_at dksX5_layRay_3 16 rfl rfl)
theorem dX5_layRay_89 : decode cX5_layRay 89 = .ok (.aload_n 0, 1) := dk_42 (dk_at dksX5_layRay_3 18 rfl rfl)
theorem dX5_layRay_90 : decode cX5_layRay 90 = .ok (.getfield 67, 3) := dk_180 0 67 (dk_at dksX5_layRay_3 19 rfl rfl)
theorem dX5_layRay_93 : decode cX5_layRay 93 = .ok (.imul, 1) := dk_104 (dk_at dksX5_layRay_3 22 rfl rfl)
theorem dX5_layRay_94 : decode cX5_layRay 94 = .ok (.if_icmp .ge 29, 3) := dk_162 0 29 (dk_at dksX5_layRay_4 0 rfl rfl)
theorem dX5_layRay_97 : decode cX5_layRay 97 = .ok (.aload_n 0, 1) := dk_42 (dk_at dksX5_layRay_4 3 rfl rfl)
theorem dX5_layRay_98 : decode cX5_layRay 98 = .ok (.getfield 45, 3) := dk_180 0 45 (dk_at dksX5_layRay_4 4 rfl rfl)
theorem dX5_layRay_101 : decode cX5_layRay 101 = .ok (.bipush 21, 2) := dk_16 21 (dk_at dksX5_layRay_4 7 rfl rfl)
theorem dX5_layRay_103 : decode cX5_layRay 103 = .ok (.aload_n 0, 1) := dk_42 (dk_at dksX5_layRay_4 9 rfl rfl)
theorem dX5_layRay_104 : decode cX5_layRay 104 = .ok (.getfield 195, 3) := dk_180 0 195 (dk_at dksX5_layRay_4 10 rfl rfl)
theorem dX5_layRay_107 : decode cX5_layRay 107 = .ok (.imul, 1) := dk_104 (dk_at dksX5_layRay_4 13 rfl rfl)
theorem dX5_layRay_108 : decode cX5_layRay 108 = .ok (.iload 6, 2) := dk_21 6 (dk_at dksX5_layRay_4 14 rfl rfl)
theorem dX5_layRay_110 : decode cX5_layRay 110 = .ok (.iadd, 1) := dk_96 (dk_at dksX5_layRay_4 16 rfl rfl)
theorem dX5_layRay_111 : decode cX5_layRay 111 = .ok (.dup2, 1) := dk_92 (dk_at dksX5_layRay_4 17 rfl rfl)
theorem dX5_layRay_112 : decode cX5_layRay 112 = .ok (.iaload, 1) := dk_46 (dk_at dksX5_layRay_4 18 rfl rfl)
theorem dX5_layRay_113 : decode cX5_layRay 113 = .ok (.iload 5, 2) := dk_21 5 (dk_at dksX5_layRay_4 19 rfl rfl)
theorem dX5_layRay_115 : decode cX5_layRay 115 = .ok (.idiv, 1) := dk_108 (dk_at dksX5_layRay_4 21 rfl rfl)
theorem dX5_layRay_116 : decode cX5_layRay 116 = .ok (.iastore, 1) := dk_79 (dk_at dksX5_layRay_4 22 rfl rfl)
theorem dX5_layRay_117 : decode cX5_layRay 117 = .ok (.iinc 6 1, 3) := dk_132 6 1 (dk_at dksX5_layRay_5 0 rfl rfl)
theorem dX5_layRay_120 : decode cX5_layRay 120 = .ok (.goto (-35), 3) := dk_167 255 221 (dk_at dksX5_layRay_5 3 rfl rfl)
theorem dX5_layRay_123 : decode cX5_layRay 123 = .ok (.aload_n 0, 1) := dk_42 (dk_at dksX5_layRay_5 6 rfl rfl)
theorem dX5_layRay_124 : decode cX5_layRay 124 = .ok (.dup, 1) := dk_89 (dk_at dksX5_layRay_5 7 rfl rfl)
theorem dX5_layRay_125 : decode cX5_layRay 125 = .ok (.getfield 195, 3) := dk_180 0 195 (dk_at dksX5_layRay_5 8 rfl rfl)
theorem dX5_layRay_128 : decode cX5_layRay 128 = .ok (.iconst 1, 1) := dk_4 (dk_at dksX5_layRay_5 11 rfl rfl)
theorem dX5_layRay_129 : decode cX5_layRay 129 = .ok (.iadd, 1) := dk_96 (dk_at dksX5_layRay_5 12 rfl rfl)
theorem dX5_layRay_130 : decode cX5_layRay 130 = .ok (.putfield 195, 3) := dk_181 0 195 (dk_at dksX5_layRay_5 13 rfl rfl)
theorem dX5_layRay_133 : decode cX5_layRay 133 = .ok (.return_, 1) := dk_177 (dk_at dksX5_layRay_5 16 rfl rfl)
abbrev cX5_divisor : ByteArray := prog_8_method_48_code
def yX5_divisor : MethodName := ⟨RX5, "divisor", "(II)I"⟩
def dkwX5_divisor_0 : List UInt8 := [26, 61, 27, 62, 29, 153, 0, 16, 28, 29, 112, 54, 4, 29, 61, 21, 4, 62, 167, 255, 242, 28, 172]
abbrev dktX5_divisor_0 : List UInt8 := dkwX5_divisor_0 ++ []
theorem dksX5_divisor_0 : cX5_divisor.data.toList.drop 0 = dktX5_divisor_0 := by decide +kernel
theorem dX5_divisor_0 : decode cX5_divisor 0 = .ok (.iload_n 0, 1) := dk_26 (dk_at dksX5_divisor_0 0 rfl rfl)
theorem dX5_divisor_1 : decode cX5_divisor 1 = .ok (.istore_n 2, 1) := dk_61 (dk_at dksX5_divisor_0 1 rfl rfl)
theorem dX5_divisor_2 : decode cX5_divisor 2 = .ok (.iload_n 1, 1) := dk_27 (dk_at dksX5_divisor_0 2 rfl rfl)
theorem dX5_divisor_3 : decode cX5_divisor 3 = .ok (.istore_n 3, 1) := dk_62 (dk_at dksX5_divisor_0 3 rfl rfl)
theorem dX5_divisor_4 : decode cX5_divisor 4 = .ok (.iload_n 3, 1) := dk_29 (dk_at dksX5_divisor_0 4 rfl rfl)
theorem dX5_divisor_5 : decode cX5_divisor 5 = .ok (.ifCond .eq 16, 3) := dk_153 0 16 (dk_at dksX5_divisor_0 5 rfl rfl)
theorem dX5_divisor_8 : decode cX5_divisor 8 = .ok (.iload_n 2, 1) := dk_28 (dk_at dksX5_divisor_0 8 rfl rfl)
theorem dX5_divisor_9 : decode cX5_divisor 9 = .ok (.iload_n 3, 1) := dk_29 (dk_at dksX5_divisor_0 9 rfl rfl)
theorem dX5_divisor_10 : decode cX5_divisor 10 = .ok (.irem, 1) := dk_112 (dk_at dksX5_divisor_0 10 rfl rfl)
theorem dX5_divisor_11 : decode cX5_divisor 11 = .ok (.istore 4, 2) := dk_54 4 (dk_at dksX5_divisor_0 11 rfl rfl)
theorem dX5_divisor_13 : decode cX5_divisor 13 = .ok (.iload_n 3, 1) := dk_29 (dk_at dksX5_divisor_0 13 rfl rfl)
theorem dX5_divisor_14 : decode cX5_divisor 14 = .ok (.istore_n 2, 1) := dk_61 (dk_at dksX5_divisor_0 14 rfl rfl)
theorem dX5_divisor_15 : decode cX5_divisor 15 = .ok (.iload 4, 2) := dk_21 4 (dk_at dksX5_divisor_0 15 rfl rfl)
theorem dX5_divisor_17 : decode cX5_divisor 17 = .ok (.istore_n 3, 1) := dk_62 (dk_at dksX5_divisor_0 17 rfl rfl)
theorem dX5_divisor_18 : decode cX5_divisor 18 = .ok (.goto (-14), 3) := dk_167 255 242 (dk_at dksX5_divisor_0 18 rfl rfl)
theorem dX5_divisor_21 : decode cX5_divisor 21 = .ok (.iload_n 2, 1) := dk_28 (dk_at dksX5_divisor_0 21 rfl rfl)
theorem dX5_divisor_22 : decode cX5_divisor 22 = .ok (.ireturn, 1) := dk_172 (dk_at dksX5_divisor_0 22 rfl rfl)
abbrev cX5_supportOf : ByteArray := prog_8_method_45_code
def yX5_supportOf : MethodName := ⟨RX5, "supportOf", "(I)I"⟩
def dkwX5_supportOf_1 : List UInt8 := [29, 96, 46, 153, 0, 9, 4, 29, 120, 167, 0, 4, 3, 128, 61, 132, 3, 1, 167, 255, 218, 28, 172]
abbrev dktX5_supportOf_1 : List UInt8 := dkwX5_supportOf_1 ++ []
def dkwX5_supportOf_0 : List UInt8 := [3, 61, 3, 62, 29, 16, 7, 42, 180, 0, 67, 104, 162, 0, 33, 28, 42, 180, 0, 42, 16, 21, 27, 104]
abbrev dktX5_supportOf_0 : List UInt8 := dkwX5_supportOf_0 ++ dktX5_supportOf_1
theorem dksX5_supportOf_0 : cX5_supportOf.data.toList.drop 0 = dktX5_supportOf_0 := by decide +kernel
theorem dksX5_supportOf_1 : cX5_supportOf.data.toList.drop 24 = dktX5_supportOf_1 := dk_seg dksX5_supportOf_0 24 rfl rfl
theorem dX5_supportOf_0 : decode cX5_supportOf 0 = .ok (.iconst 0, 1) := dk_3 (dk_at dksX5_supportOf_0 0 rfl rfl)
theorem dX5_supportOf_1 : decode cX5_supportOf 1 = .ok (.istore_n 2, 1) := dk_61 (dk_at dksX5_supportOf_0 1 rfl rfl)
theorem dX5_supportOf_2 : decode cX5_supportOf 2 = .ok (.iconst 0, 1) := dk_3 (dk_at dksX5_supportOf_0 2 rfl rfl)
theorem dX5_supportOf_3 : decode cX5_supportOf 3 = .ok (.istore_n 3, 1) := dk_62 (dk_at dksX5_supportOf_0 3 rfl rfl)
theorem dX5_supportOf_4 : decode cX5_supportOf 4 = .ok (.iload_n 3, 1) := dk_29 (dk_at dksX5_supportOf_0 4 rfl rfl)
theorem dX5_supportOf_5 : decode cX5_supportOf 5 = .ok (.bipush 7, 2) := dk_16 7 (dk_at dksX5_supportOf_0 5 rfl rfl)
theorem dX5_supportOf_7 : decode cX5_supportOf 7 = .ok (.aload_n 0, 1) := dk_42 (dk_at dksX5_supportOf_0 7 rfl rfl)
theorem dX5_supportOf_8 : decode cX5_supportOf 8 = .ok (.getfield 67, 3) := dk_180 0 67 (dk_at dksX5_supportOf_0 8 rfl rfl)
theorem dX5_supportOf_11 : decode cX5_supportOf 11 = .ok (.imul, 1) := dk_104 (dk_at dksX5_supportOf_0 11 rfl rfl)
theorem dX5_supportOf_12 : decode cX5_supportOf 12 = .ok (.if_icmp .ge 33, 3) := dk_162 0 33 (dk_at dksX5_supportOf_0 12 rfl rfl)
theorem dX5_supportOf_15 : decode cX5_supportOf 15 = .ok (.iload_n 2, 1) := dk_28 (dk_at dksX5_supportOf_0 15 rfl rfl)
theorem dX5_supportOf_16 : decode cX5_supportOf 16 = .ok (.aload_n 0, 1) := dk_42 (dk_at dksX5_supportOf_0 16 rfl rfl)
theorem dX5_supportOf_17 : decode cX5_supportOf 17 = .ok (.getfield 42, 3) := dk_180 0 42 (dk_at dksX5_supportOf_0 17 rfl rfl)
theorem dX5_supportOf_20 : decode cX5_supportOf 20 = .ok (.bipush 21, 2) := dk_16 21 (dk_at dksX5_supportOf_0 20 rfl rfl)
theorem dX5_supportOf_22 : decode cX5_supportOf 22 = .ok (.iload_n 1, 1) := dk_27 (dk_at dksX5_supportOf_0 22 rfl rfl)
theorem dX5_supportOf_23 : decode cX5_supportOf 23 = .ok (.imul, 1) := dk_104 (dk_at dksX5_supportOf_0 23 rfl rfl)
theorem dX5_supportOf_24 : decode cX5_supportOf 24 = .ok (.iload_n 3, 1) := dk_29 (dk_at dksX5_supportOf_1 0 rfl rfl)
theorem dX5_supportOf_25 : decode cX5_supportOf 25 = .ok (.iadd, 1) := dk_96 (dk_at dksX5_supportOf_1 1 rfl rfl)
theorem dX5_supportOf_26 : decode cX5_supportOf 26 = .ok (.iaload, 1) := dk_46 (dk_at dksX5_supportOf_1 2 rfl rfl)
theorem dX5_supportOf_27 : decode cX5_supportOf 27 = .ok (.ifCond .eq 9, 3) := dk_153 0 9 (dk_at dksX5_supportOf_1 3 rfl rfl)
theorem dX5_supportOf_30 : decode cX5_supportOf 30 = .ok (.iconst 1, 1) := dk_4 (dk_at dksX5_supportOf_1 6 rfl rfl)
theorem dX5_supportOf_31 : decode cX5_supportOf 31 = .ok (.iload_n 3, 1) := dk_29 (dk_at dksX5_supportOf_1 7 rfl rfl)
theorem dX5_supportOf_32 : decode cX5_supportOf 32 = .ok (.ishl, 1) := dk_120 (dk_at dksX5_supportOf_1 8 rfl rfl)
theorem dX5_supportOf_33 : decode cX5_supportOf 33 = .ok (.goto 4, 3) := dk_167 0 4 (dk_at dksX5_supportOf_1 9 rfl rfl)
theorem dX5_supportOf_36 : decode cX5_supportOf 36 = .ok (.iconst 0, 1) := dk_3 (dk_at dksX5_supportOf_1 12 rfl rfl)
theorem dX5_supportOf_37 : decode cX5_supportOf 37 = .ok (.ior, 1) := dk_128 (dk_at dksX5_supportOf_1 13 rfl rfl)
theorem dX5_supportOf_38 : decode cX5_supportOf 38 = .ok (.istore_n 2, 1) := dk_61 (dk_at dksX5_supportOf_1 14 rfl rfl)
theorem dX5_supportOf_39 : decode cX5_supportOf 39 = .ok (.iinc 3 1, 3) := dk_132 3 1 (dk_at dksX5_supportOf_1 15 rfl rfl)
theorem dX5_supportOf_42 : decode cX5_supportOf 42 = .ok (.goto (-38), 3) := dk_167 255 218 (dk_at dksX5_supportOf_1 18 rfl rfl)
theorem dX5_supportOf_45 : decode cX5_supportOf 45 = .ok (.iload_n 2, 1) := dk_28 (dk_at dksX5_supportOf_1 21 rfl rfl)
theorem dX5_supportOf_46 : decode cX5_supportOf 46 = .ok (.ireturn, 1) := dk_172 (dk_at dksX5_supportOf_1 22 rfl rfl)
abbrev cX5_hasOneKind : ByteArray := prog_8_method_46_code
def yX5_hasOneKind : MethodName := ⟨RX5, "hasOneKind", "(I)Z"⟩
def dkwX5_hasOneKind_2 : List UInt8 := [132, 3, 1, 167, 255, 212, 28, 172]
abbrev dktX5_hasOneKind_2 : List UInt8 := dkwX5_hasOneKind_2 ++ []
def dkwX5_hasOneKind_1 : List UInt8 := [54, 4, 28, 153, 0, 17, 21, 4, 21, 4, 4, 100, 126, 154, 0, 7, 4, 167, 0, 4, 3, 61]
abbrev dktX5_hasOneKind_1 : List UInt8 := dkwX5_hasOneKind_1 ++ dktX5_hasOneKind_2
def dkwX5_hasOneKind_0 : List UInt8 := [4, 61, 3, 62, 29, 42, 180, 0, 67, 162, 0, 42, 27, 16, 7, 29, 104, 7, 96, 122, 16, 7, 126]
abbrev dktX5_hasOneKind_0 : List UInt8 := dkwX5_hasOneKind_0 ++ dktX5_hasOneKind_1
theorem dksX5_hasOneKind_0 : cX5_hasOneKind.data.toList.drop 0 = dktX5_hasOneKind_0 := by decide +kernel
theorem dksX5_hasOneKind_1 : cX5_hasOneKind.data.toList.drop 23 = dktX5_hasOneKind_1 := dk_seg dksX5_hasOneKind_0 23 rfl rfl
theorem dksX5_hasOneKind_2 : cX5_hasOneKind.data.toList.drop 45 = dktX5_hasOneKind_2 := dk_seg dksX5_hasOneKind_1 22 rfl rfl
theorem dX5_hasOneKind_0 : decode cX5_hasOneKind 0 = .ok (.iconst 1, 1) := dk_4 (dk_at dksX5_hasOneKind_0 0 rfl rfl)
theorem dX5_hasOneKind_1 : decode cX5_hasOneKind 1 = .ok (.istore_n 2, 1) := dk_61 (dk_at dksX5_hasOneKind_0 1 rfl rfl)
theorem dX5_hasOneKind_2 : decode cX5_hasOneKind 2 = .ok (.iconst 0, 1) := dk_3 (dk_at dksX5_hasOneKind_0 2 rfl rfl)
theorem dX5_hasOneKind_3 : decode cX5_hasOneKind 3 = .ok (.istore_n 3, 1) := dk_62 (dk_at dksX5_hasOneKind_0 3 rfl rfl)
theorem dX5_hasOneKind_4 : decode cX5_hasOneKind 4 = .ok (.iload_n 3, 1) := dk_29 (dk_at dksX5_hasOneKind_0 4 rfl rfl)
theorem dX5_hasOneKind_5 : decode cX5_hasOneKind 5 = .ok (.aload_n 0, 1) := dk_42 (dk_at dksX5_hasOneKind_0 5 rfl rfl)
theorem dX5_hasOneKind_6 : decode cX5_hasOneKind 6 = .ok (.getfield 67, 3) := dk_180 0 67 (dk_at dksX5_hasOneKind_0 6 rfl rfl)
theorem dX5_hasOneKind_9 : decode cX5_hasOneKind 9 = .ok (.if_icmp .ge 42, 3) := dk_162 0 42 (dk_at dksX5_hasOneKind_0 9 rfl rfl)
theorem dX5_hasOneKind_12 : decode cX5_hasOneKind 12 = .ok (.iload_n 1, 1) := dk_27 (dk_at dksX5_hasOneKind_0 12 rfl rfl)
theorem dX5_hasOneKind_13 : decode cX5_hasOneKind 13 = .ok (.bipush 7, 2) := dk_16 7 (dk_at dksX5_hasOneKind_0 13 rfl rfl)
theorem dX5_hasOneKind_15 : decode cX5_hasOneKind 15 = .ok (.iload_n 3, 1) := dk_29 (dk_at dksX5_hasOneKind_0 15 rfl rfl)
theorem dX5_hasOneKind_16 : decode cX5_hasOneKind 16 = .ok (.imul, 1) := dk_104 (dk_at dksX5_hasOneKind_0 16 rfl rfl)
theorem dX5_hasOneKind_17 : decode cX5_hasOneKind 17 = .ok (.iconst 4, 1) := dk_7 (dk_at dksX5_hasOneKind_0 17 rfl rfl)
theorem dX5_hasOneKind_18 : decode cX5_hasOneKind 18 = .ok (.iadd, 1) := dk_96 (dk_at dksX5_hasOneKind_0 18 rfl rfl)
theorem dX5_hasOneKind_19 : decode cX5_hasOneKind 19 = .ok (.ishr, 1) := dk_122 (dk_at dksX5_hasOneKind_0 19 rfl rfl)
theorem dX5_hasOneKind_20 : decode cX5_hasOneKind 20 = .ok (.bipush 7, 2) := dk_16 7 (dk_at dksX5_hasOneKind_0 20 rfl rfl)
theorem dX5_hasOneKind_22 : decode cX5_hasOneKind 22 = .ok (.iand, 1) := dk_126 (dk_at dksX5_hasOneKind_0 22 rfl rfl)
theorem dX5_hasOneKind_23 : decode cX5_hasOneKind 23 = .ok (.istore 4, 2) := dk_54 4 (dk_at dksX5_hasOneKind_1 0 rfl rfl)
theorem dX5_hasOneKind_25 : decode cX5_hasOneKind 25 = .ok (.iload_n 2, 1) := dk_28 (dk_at dksX5_hasOneKind_1 2 rfl rfl)
theorem dX5_hasOneKind_26 : decode cX5_hasOneKind 26 = .ok (.ifCond .eq 17, 3) := dk_153 0 17 (dk_at dksX5_hasOneKind_1 3 rfl rfl)
theorem dX5_hasOneKind_29 : decode cX5_hasOneKind 29 = .ok (.iload 4, 2) := dk_21 4 (dk_at dksX5_hasOneKind_1 6 rfl rfl)
theorem dX5_hasOneKind_31 : decode cX5_hasOneKind 31 = .ok (.iload 4, 2) := dk_21 4 (dk_at dksX5_hasOneKind_1 8 rfl rfl)
theorem dX5_hasOneKind_33 : decode cX5_hasOneKind 33 = .ok (.iconst 1, 1) := dk_4 (dk_at dksX5_hasOneKind_1 10 rfl rfl)
theorem dX5_hasOneKind_34 : decode cX5_hasOneKind 34 = .ok (.isub, 1) := dk_100 (dk_at dksX5_hasOneKind_1 11 rfl rfl)
theorem dX5_hasOneKind_35 : decode cX5_hasOneKind 35 = .ok (.iand, 1) := dk_126 (dk_at dksX5_hasOneKind_1 12 rfl rfl)
theorem dX5_hasOneKind_36 : decode cX5_hasOneKind 36 = .ok (.ifCond .ne 7, 3) := dk_154 0 7 (dk_at dksX5_hasOneKind_1 13 rfl rfl)
theorem dX5_hasOneKind_39 : decode cX5_hasOneKind 39 = .ok (.iconst 1, 1) := dk_4 (dk_at dksX5_hasOneKind_1 16 rfl rfl)
theorem dX5_hasOneKind_40 : decode cX5_hasOneKind 40 = .ok (.goto 4, 3) := dk_167 0 4 (dk_at dksX5_hasOneKind_1 17 rfl rfl)
theorem dX5_hasOneKind_43 : decode cX5_hasOneKind 43 = .ok (.iconst 0, 1) := dk_3 (dk_at dksX5_hasOneKind_1 20 rfl rfl)
theorem dX5_hasOneKind_44 : decode cX5_hasOneKind 44 = .ok (.istore_n 2, 1) := dk_61 (dk_at dksX5_hasOneKind_1 21 rfl rfl)
theorem dX5_hasOneKind_45 : decode cX5_hasOneKind 45 = .ok (.iinc 3 1, 3) := dk_132 3 1 (dk_at dksX5_hasOneKind_2 0 rfl rfl)
theorem dX5_hasOneKind_48 : decode cX5_hasOneKind 48 = .ok (.goto (-44), 3) := dk_167 255 212 (dk_at dksX5_hasOneKind_2 3 rfl rfl)
theorem dX5_hasOneKind_51 : decode cX5_hasOneKind 51 = .ok (.iload_n 2, 1) := dk_28 (dk_at dksX5_hasOneKind_2 6 rfl rfl)
theorem dX5_hasOneKind_52 : decode cX5_hasOneKind 52 = .ok (.ireturn, 1) := dk_172 (dk_at dksX5_hasOneKind_2 7 rfl rfl)
abbrev cX5_areBeside : ByteArray := prog_8_method_47_code
def yX5_areBeside : MethodName := ⟨RX5, "areBeside", "(III)Z"⟩
def dkwX5_areBeside_2 : List UInt8 := [167, 0, 4, 3, 54, 4, 132, 5, 1, 167, 255, 207, 21, 4, 172]
abbrev dktX5_areBeside_2 : List UInt8 := dkwX5_areBeside_2 ++ []
def dkwX5_areBeside_1 : List UInt8 := [159, 0, 22, 21, 5, 28, 159, 0, 16, 42, 21, 5, 182, 0, 192, 29, 2, 130, 126, 153, 0, 7, 4]
abbrev dktX5_areBeside_1 : List UInt8 := dkwX5_areBeside_1 ++ dktX5_areBeside_2
def dkwX5_areBeside_0 : List UInt8 := [4, 54, 4, 3, 54, 5, 21, 5, 42, 180, 0, 189, 162, 0, 46, 21, 4, 153, 0, 41, 21, 5, 27]
abbrev dktX5_areBeside_0 : List UInt8 := dkwX5_areBeside_0 ++ dktX5_areBeside_1
theorem dksX5_areBeside_0 : cX5_areBeside.data.toList.drop 0 = dktX5_areBeside_0 := by decide +kernel
theorem dksX5_areBeside_1 : cX5_areBeside.data.toList.drop 23 = dktX5_areBeside_1 := dk_seg dksX5_areBeside_0 23 rfl rfl
theorem dksX5_areBeside_2 : cX5_areBeside.data.toList.drop 46 = dktX5_areBeside_2 := dk_seg dksX5_areBeside_1 23 rfl rfl
theorem dX5_areBeside_0 : decode cX5_areBeside 0 = .ok (.iconst 1, 1) := dk_4 (dk_at dksX5_areBeside_0 0 rfl rfl)
theorem dX5_areBeside_1 : decode cX5_areBeside 1 = .ok (.istore 4, 2) := dk_54 4 (dk_at dksX5_areBeside_0 1 rfl rfl)
theorem dX5_areBeside_3 : decode cX5_areBeside 3 = .ok (.iconst 0, 1) := dk_3 (dk_at dksX5_areBeside_0 3 rfl rfl)
theorem dX5_areBeside_4 : decode cX5_areBeside 4 = .ok (.istore 5, 2) := dk_54 5 (dk_at dksX5_areBeside_0 4 rfl rfl)
theorem dX5_areBeside_6 : decode cX5_areBeside 6 = .ok (.iload 5, 2) := dk_21 5 (dk_at dksX5_areBeside_0 6 rfl rfl)
theorem dX5_areBeside_8 : decode cX5_areBeside 8 = .ok (.aload_n 0, 1) := dk_42 (dk_at dksX5_areBeside_0 8 rfl rfl)
theorem dX5_areBeside_9 : decode cX5_areBeside 9 = .ok (.getfield 189, 3) := dk_180 0 189 (dk_at dksX5_areBeside_0 9 rfl rfl)
theorem dX5_areBeside_12 : decode cX5_areBeside 12 = .ok (.if_icmp .ge 46, 3) := dk_162 0 46 (dk_at dksX5_areBeside_0 12 rfl rfl)
theorem dX5_areBeside_15 : decode cX5_areBeside 15 = .ok (.iload 4, 2) := dk_21 4 (dk_at dksX5_areBeside_0 15 rfl rfl)
theorem dX5_areBeside_17 : decode cX5_areBeside 17 = .ok (.ifCond .eq 41, 3) := dk_153 0 41 (dk_at dksX5_areBeside_0 17 rfl rfl)
theorem dX5_areBeside_20 : decode cX5_areBeside 20 = .ok (.iload 5, 2) := dk_21 5 (dk_at dksX5_areBeside_0 20 rfl rfl)
theorem dX5_areBeside_22 : decode cX5_areBeside 22 = .ok (.iload_n 1, 1) := dk_27 (dk_at dksX5_areBeside_0 22 rfl rfl)
theorem dX5_areBeside_23 : decode cX5_areBeside 23 = .ok (.if_icmp .eq 22, 3) := dk_159 0 22 (dk_at dksX5_areBeside_1 0 rfl rfl)
theorem dX5_areBeside_26 : decode cX5_areBeside 26 = .ok (.iload 5, 2) := dk_21 5 (dk_at dksX5_areBeside_1 3 rfl rfl)
theorem dX5_areBeside_28 : decode cX5_areBeside 28 = .ok (.iload_n 2, 1) := dk_28 (dk_at dksX5_areBeside_1 5 rfl rfl)
theorem dX5_areBeside_29 : decode cX5_areBeside 29 = .ok (.if_icmp .eq 16, 3) := dk_159 0 16 (dk_at dksX5_areBeside_1 6 rfl rfl)
theorem dX5_areBeside_32 : decode cX5_areBeside 32 = .ok (.aload_n 0, 1) := dk_42 (dk_at dksX5_areBeside_1 9 rfl rfl)
theorem dX5_areBeside_33 : decode cX5_areBeside 33 = .ok (.iload 5, 2) := dk_21 5 (dk_at dksX5_areBeside_1 10 rfl rfl)
theorem dX5_areBeside_35 : decode cX5_areBeside 35 = .ok (.invokevirtual 192, 3) := dk_182 0 192 (dk_at dksX5_areBeside_1 12 rfl rfl)
theorem dX5_areBeside_38 : decode cX5_areBeside 38 = .ok (.iload_n 3, 1) := dk_29 (dk_at dksX5_areBeside_1 15 rfl rfl)
theorem dX5_areBeside_39 : decode cX5_areBeside 39 = .ok (.iconst (-1), 1) := dk_2 (dk_at dksX5_areBeside_1 16 rfl rfl)
theorem dX5_areBeside_40 : decode cX5_areBeside 40 = .ok (.ixor, 1) := dk_130 (dk_at dksX5_areBeside_1 17 rfl rfl)
theorem dX5_areBeside_41 : decode cX5_areBeside 41 = .ok (.iand, 1) := dk_126 (dk_at dksX5_areBeside_1 18 rfl rfl)
theorem dX5_areBeside_42 : decode cX5_areBeside 42 = .ok (.ifCond .eq 7, 3) := dk_153 0 7 (dk_at dksX5_areBeside_1 19 rfl rfl)
theorem dX5_areBeside_45 : decode cX5_areBeside 45 = .ok (.iconst 1, 1) := dk_4 (dk_at dksX5_areBeside_1 22 rfl rfl)
theorem dX5_areBeside_46 : decode cX5_areBeside 46 = .ok (.goto 4, 3) := dk_167 0 4 (dk_at dksX5_areBeside_2 0 rfl rfl)
theorem dX5_areBeside_49 : decode cX5_areBeside 49 = .ok (.iconst 0, 1) := dk_3 (dk_at dksX5_areBeside_2 3 rfl rfl)
theorem dX5_areBeside_50 : decode cX5_areBeside 50 = .ok (.istore 4, 2) := dk_54 4 (dk_at dksX5_areBeside_2 4 rfl rfl)
theorem dX5_areBeside_52 : decode cX5_areBeside 52 = .ok (.iinc 5 1, 3) := dk_132 5 1 (dk_at dksX5_areBeside_2 6 rfl rfl)
theorem dX5_areBeside_55 : decode cX5_areBeside 55 = .ok (.goto (-49), 3) := dk_167 255 207 (dk_at dksX5_areBeside_2 9 rfl rfl)
theorem dX5_areBeside_58 : decode cX5_areBeside 58 = .ok (.iload 4, 2) := dk_21 4 (dk_at dksX5_areBeside_2 12 rfl rfl)
theorem dX5_areBeside_60 : decode cX5_areBeside 60 = .ok (.ireturn, 1) := dk_172 (dk_at dksX5_areBeside_2 14 rfl rfl)
abbrev cX5_isBefore : ByteArray := prog_8_method_51_code
def yX5_isBefore : MethodName := ⟨RX5, "isBefore", "(II)Z"⟩
def dkwX5_isBefore_3 : List UInt8 := [4, 167, 0, 4, 3, 172]
abbrev dktX5_isBefore_3 : List UInt8 := dkwX5_isBefore_3 ++ []
def dkwX5_isBefore_2 : List UInt8 := [180, 0, 42, 16, 21, 27, 104, 29, 96, 46, 42, 180, 0, 42, 16, 21, 28, 104, 29, 96, 46, 162, 0, 7]
abbrev dktX5_isBefore_2 : List UInt8 := dkwX5_isBefore_2 ++ dktX5_isBefore_3
def dkwX5_isBefore_1 : List UInt8 := [96, 46, 42, 180, 0, 42, 16, 21, 28, 104, 29, 96, 46, 160, 0, 9, 132, 3, 1, 167, 255, 215, 42]
abbrev dktX5_isBefore_1 : List UInt8 := dkwX5_isBefore_1 ++ dktX5_isBefore_2
def dkwX5_isBefore_0 : List UInt8 := [3, 62, 29, 16, 7, 42, 180, 0, 67, 104, 4, 100, 162, 0, 34, 42, 180, 0, 42, 16, 21, 27, 104, 29]
abbrev dktX5_isBefore_0 : List UInt8 := dkwX5_isBefore_0 ++ dktX5_isBefore_1
theorem dksX5_isBefore_0 : cX5_isBefore.data.toList.drop 0 = dktX5_isBefore_0 := by decide +kernel
theorem dksX5_isBefore_1 : cX5_isBefore.data.toList.drop 24 = dktX5_isBefore_1 := dk_seg dksX5_isBefore_0 24 rfl rfl
theorem dksX5_isBefore_2 : cX5_isBefore.data.toList.drop 47 = dktX5_isBefore_2 := dk_seg dksX5_isBefore_1 23 rfl rfl
theorem dksX5_isBefore_3 : cX5_isBefore.data.toList.drop 71 = dktX5_isBefore_3 := dk_seg dksX5_isBefore_2 24 rfl rfl
theorem dX5_isBefore_0 : decode cX5_isBefore 0 = .ok (.iconst 0, 1) := dk_3 (dk_at dksX5_isBefore_0 0 rfl rfl)
theorem dX5_isBefore_1 : decode cX5_isBefore 1 = .ok (.istore_n 3, 1) := dk_62 (dk_at dksX5_isBefore_0 1 rfl rfl)
theorem dX5_isBefore_2 : decode cX5_isBefore 2 = .ok (.iload_n 3, 1) := dk_29 (dk_at dksX5_isBefore_0 2 rfl rfl)
theorem dX5_isBefore_3 : decode cX5_isBefore 3 = .ok (.bipush 7, 2) := dk_16 7 (dk_at dksX5_isBefore_0 3 rfl rfl)
theorem dX5_isBefore_5 : decode cX5_isBefore 5 = .ok (.aload_n 0, 1) := dk_42 (dk_at dksX5_isBefore_0 5 rfl rfl)
theorem dX5_isBefore_6 : decode cX5_isBefore 6 = .ok (.getfield 67, 3) := dk_180 0 67 (dk_at dksX5_isBefore_0 6 rfl rfl)
theorem dX5_isBefore_9 : decode cX5_isBefore 9 = .ok (.imul, 1) := dk_104 (dk_at dksX5_isBefore_0 9 rfl rfl)
theorem dX5_isBefore_10 : decode cX5_isBefore 10 = .ok (.iconst 1, 1) := dk_4 (dk_at dksX5_isBefore_0 10 rfl rfl)
theorem dX5_isBefore_11 : decode cX5_isBefore 11 = .ok (.isub, 1) := dk_100 (dk_at dksX5_isBefore_0 11 rfl rfl)
theorem dX5_isBefore_12 : decode cX5_isBefore 12 = .ok (.if_icmp .ge 34, 3) := dk_162 0 34 (dk_at dksX5_isBefore_0 12 rfl rfl)
theorem dX5_isBefore_15 : decode cX5_isBefore 15 = .ok (.aload_n 0, 1) := dk_42 (dk_at dksX5_isBefore_0 15 rfl rfl)
theorem dX5_isBefore_16 : decode cX5_isBefore 16 = .ok (.getfield 42, 3) := dk_180 0 42 (dk_at dksX5_isBefore_0 16 rfl rfl)
theorem dX5_isBefore_19 : decode cX5_isBefore 19 = .ok (.bipush 21, 2) := dk_16 21 (dk_at dksX5_isBefore_0 19 rfl rfl)
theorem dX5_isBefore_21 : decode cX5_isBefore 21 = .ok (.iload_n 1, 1) := dk_27 (dk_at dksX5_isBefore_0 21 rfl rfl)
theorem dX5_isBefore_22 : decode cX5_isBefore 22 = .ok (.imul, 1) := dk_104 (dk_at dksX5_isBefore_0 22 rfl rfl)
theorem dX5_isBefore_23 : decode cX5_isBefore 23 = .ok (.iload_n 3, 1) := dk_29 (dk_at dksX5_isBefore_0 23 rfl rfl)
theorem dX5_isBefore_24 : decode cX5_isBefore 24 = .ok (.iadd, 1) := dk_96 (dk_at dksX5_isBefore_1 0 rfl rfl)
theorem dX5_isBefore_25 : decode cX5_isBefore 25 = .ok (.iaload, 1) := dk_46 (dk_at dksX5_isBefore_1 1 rfl rfl)
theorem dX5_isBefore_26 : decode cX5_isBefore 26 = .ok (.aload_n 0, 1) := dk_42 (dk_at dksX5_isBefore_1 2 rfl rfl)
theorem dX5_isBefore_27 : decode cX5_isBefore 27 = .ok (.getfield 42, 3) := dk_180 0 42 (dk_at dksX5_isBefore_1 3 rfl rfl)
theorem dX5_isBefore_30 : decode cX5_isBefore 30 = .ok (.bipush 21, 2) := dk_16 21 (dk_at dksX5_isBefore_1 6 rfl rfl)
theorem dX5_isBefore_32 : decode cX5_isBefore 32 = .ok (.iload_n 2, 1) := dk_28 (dk_at dksX5_isBefore_1 8 rfl rfl)
theorem dX5_isBefore_33 : decode cX5_isBefore 33 = .ok (.imul, 1) := dk_104 (dk_at dksX5_isBefore_1 9 rfl rfl)
theorem dX5_isBefore_34 : decode cX5_isBefore 34 = .ok (.iload_n 3, 1) := dk_29 (dk_at dksX5_isBefore_1 10 rfl rfl)
theorem dX5_isBefore_35 : decode cX5_isBefore 35 = .ok (.iadd, 1) := dk_96 (dk_at dksX5_isBefore_1 11 rfl rfl)
theorem dX5_isBefore_36 : decode cX5_isBefore 36 = .ok (.iaload, 1) := dk_46 (dk_at dksX5_isBefore_1 12 rfl rfl)
theorem dX5_isBefore_37 : decode cX5_isBefore 37 = .ok (.if_icmp .ne 9, 3) := dk_160 0 9 (dk_at dksX5_isBefore_1 13 rfl rfl)
theorem dX5_isBefore_40 : decode cX5_isBefore 40 = .ok (.iinc 3 1, 3) := dk_132 3 1 (dk_at dksX5_isBefore_1 16 rfl rfl)
theorem dX5_isBefore_43 : decode cX5_isBefore 43 = .ok (.goto (-41), 3) := dk_167 255 215 (dk_at dksX5_isBefore_1 19 rfl rfl)
theorem dX5_isBefore_46 : decode cX5_isBefore 46 = .ok (.aload_n 0, 1) := dk_42 (dk_at dksX5_isBefore_1 22 rfl rfl)
theorem dX5_isBefore_47 : decode cX5_isBefore 47 = .ok (.getfield 42, 3) := dk_180 0 42 (dk_at dksX5_isBefore_2 0 rfl rfl)
theorem dX5_isBefore_50 : decode cX5_isBefore 50 = .ok (.bipush 21, 2) := dk_16 21 (dk_at dksX5_isBefore_2 3 rfl rfl)
theorem dX5_isBefore_52 : decode cX5_isBefore 52 = .ok (.iload_n 1, 1) := dk_27 (dk_at dksX5_isBefore_2 5 rfl rfl)
theorem dX5_isBefore_53 : decode cX5_isBefore 53 = .ok (.imul, 1) := dk_104 (dk_at dksX5_isBefore_2 6 rfl rfl)
theorem dX5_isBefore_54 : decode cX5_isBefore 54 = .ok (.iload_n 3, 1) := dk_29 (dk_at dksX5_isBefore_2 7 rfl rfl)
theorem dX5_isBefore_55 : decode cX5_isBefore 55 = .ok (.iadd, 1) := dk_96 (dk_at dksX5_isBefore_2 8 rfl rfl)
theorem dX5_isBefore_56 : decode cX5_isBefore 56 = .ok (.iaload, 1) := dk_46 (dk_at dksX5_isBefore_2 9 rfl rfl)
theorem dX5_isBefore_57 : decode cX5_isBefore 57 = .ok (.aload_n 0, 1) := dk_42 (dk_at dksX5_isBefore_2 10 rfl rfl)
theorem dX5_isBefore_58 : decode cX5_isBefore 58 = .ok (.getfield 42, 3) := dk_180 0 42 (dk_at dksX5_isBefore_2 11 rfl rfl)
theorem dX5_isBefore_61 : decode cX5_isBefore 61 = .ok (.bipush 21, 2) := dk_16 21 (dk_at dksX5_isBefore_2 14 rfl rfl)
theorem dX5_isBefore_63 : decode cX5_isBefore 63 = .ok (.iload_n 2, 1) := dk_28 (dk_at dksX5_isBefore_2 16 rfl rfl)
theorem dX5_isBefore_64 : decode cX5_isBefore 64 = .ok (.imul, 1) := dk_104 (dk_at dksX5_isBefore_2 17 rfl rfl)
theorem dX5_isBefore_65 : decode cX5_isBefore 65 = .ok (.iload_n 3, 1) := dk_29 (dk_at dksX5_isBefore_2 18 rfl rfl)
theorem dX5_isBefore_66 : decode cX5_isBefore 66 = .ok (.iadd, 1) := dk_96 (dk_at dksX5_isBefore_2 19 rfl rfl)
theorem dX5_isBefore_67 : decode cX5_isBefore 67 = .ok (.iaload, 1) := dk_46 (dk_at dksX5_isBefore_2 20 rfl rfl)
theorem dX5_isBefore_68 : decode cX5_isBefore 68 = .ok (.if_icmp .ge 7, 3) := dk_162 0 7 (dk_at dksX5_isBefore_2 21 rfl rfl)
theorem dX5_isBefore_71 : decode cX5_isBefore 71 = .ok (.iconst 1, 1) := dk_4 (dk_at dksX5_isBefore_3 0 rfl rfl)
theorem dX5_isBefore_72 : decode cX5_isBefore 72 = .ok (.goto 4, 3) := dk_167 0 4 (dk_at dksX5_isBefore_3 1 rfl rfl)
theorem dX5_isBefore_75 : decode cX5_isBefore 75 = .ok (.iconst 0, 1) := dk_3 (dk_at dksX5_isBefore_3 4 rfl rfl)
theorem dX5_isBefore_76 : decode cX5_isBefore 76 = .ok (.ireturn, 1) := dk_172 (dk_at dksX5_isBefore_3 5 rfl rfl)
abbrev cX5_swap : ByteArray := prog_8_method_52_code
def yX5_swap : MethodName := ⟨RX5, "swap", "(II)V"⟩
def dkwX5_swap_2 : List UInt8 := [42, 180, 0, 42, 16, 21, 28, 104, 29, 96, 21, 4, 79, 132, 3, 1, 167, 255, 194, 177]
abbrev dktX5_swap_2 : List UInt8 := dkwX5_swap_2 ++ []
def dkwX5_swap_1 : List UInt8 := [54, 4, 42, 180, 0, 42, 16, 21, 27, 104, 29, 96, 42, 180, 0, 42, 16, 21, 28, 104, 29, 96, 46, 79]
abbrev dktX5_swap_1 : List UInt8 := dkwX5_swap_1 ++ dktX5_swap_2
def dkwX5_swap_0 : List UInt8 := [3, 62, 29, 16, 7, 42, 180, 0, 67, 104, 162, 0, 57, 42, 180, 0, 42, 16, 21, 27, 104, 29, 96, 46]
abbrev dktX5_swap_0 : List UInt8 := dkwX5_swap_0 ++ dktX5_swap_1
theorem dksX5_swap_0 : cX5_swap.data.toList.drop 0 = dktX5_swap_0 := by decide +kernel
theorem dksX5_swap_1 : cX5_swap.data.toList.drop 24 = dktX5_swap_1 := dk_seg dksX5_swap_0 24 rfl rfl
theorem dksX5_swap_2 : cX5_swap.data.toList.drop 48 = dktX5_swap_2 := dk_seg dksX5_swap_1 24 rfl rfl
theorem dX5_swap_0 : decode cX5_swap 0 = .ok (.iconst 0, 1) := dk_3 (dk_at dksX5_swap_0 0 rfl rfl)
theorem dX5_swap_1 : decode cX5_swap 1 = .ok (.istore_n 3, 1) := dk_62 (dk_at dksX5_swap_0 1 rfl rfl)
theorem dX5_swap_2 : decode cX5_swap 2 = .ok (.iload_n 3, 1) := dk_29 (dk_at dksX5_swap_0 2 rfl rfl)
theorem dX5_swap_3 : decode cX5_swap 3 = .ok (.bipush 7, 2) := dk_16 7 (dk_at dksX5_swap_0 3 rfl rfl)
theorem dX5_swap_5 : decode cX5_swap 5 = .ok (.aload_n 0, 1) := dk_42 (dk_at dksX5_swap_0 5 rfl rfl)
theorem dX5_swap_6 : decode cX5_swap 6 = .ok (.getfield 67, 3) := dk_180 0 67 (dk_at dksX5_swap_0 6 rfl rfl)
theorem dX5_swap_9 : decode cX5_swap 9 = .ok (.imul, 1) := dk_104 (dk_at dksX5_swap_0 9 rfl rfl)
theorem dX5_swap_10 : decode cX5_swap 10 = .ok (.if_icmp .ge 57, 3) := dk_162 0 57 (dk_at dksX5_swap_0 10 rfl rfl)
theorem dX5_swap_13 : decode cX5_swap 13 = .ok (.aload_n 0, 1) := dk_42 (dk_at dksX5_swap_0 13 rfl rfl)
theorem dX5_swap_14 : decode cX5_swap 14 = .ok (.getfield 42, 3) := dk_180 0 42 (dk_at dksX5_swap_0 14 rfl rfl)
theorem dX5_swap_17 : decode cX5_swap 17 = .ok (.bipush 21, 2) := dk_16 21 (dk_at dksX5_swap_0 17 rfl rfl)
theorem dX5_swap_19 : decode cX5_swap 19 = .ok (.iload_n 1, 1) := dk_27 (dk_at dksX5_swap_0 19 rfl rfl)
theorem dX5_swap_20 : decode cX5_swap 20 = .ok (.imul, 1) := dk_104 (dk_at dksX5_swap_0 20 rfl rfl)
theorem dX5_swap_21 : decode cX5_swap 21 = .ok (.iload_n 3, 1) := dk_29 (dk_at dksX5_swap_0 21 rfl rfl)
theorem dX5_swap_22 : decode cX5_swap 22 = .ok (.iadd, 1) := dk_96 (dk_at dksX5_swap_0 22 rfl rfl)
theorem dX5_swap_23 : decode cX5_swap 23 = .ok (.iaload, 1) := dk_46 (dk_at dksX5_swap_0 23 rfl rfl)
theorem dX5_swap_24 : decode cX5_swap 24 = .ok (.istore 4, 2) := dk_54 4 (dk_at dksX5_swap_1 0 rfl rfl)
theorem dX5_swap_26 : decode cX5_swap 26 = .ok (.aload_n 0, 1) := dk_42 (dk_at dksX5_swap_1 2 rfl rfl)
theorem dX5_swap_27 : decode cX5_swap 27 = .ok (.getfield 42, 3) := dk_180 0 42 (dk_at dksX5_swap_1 3 rfl rfl)
theorem dX5_swap_30 : decode cX5_swap 30 = .ok (.bipush 21, 2) := dk_16 21 (dk_at dksX5_swap_1 6 rfl rfl)
theorem dX5_swap_32 : decode cX5_swap 32 = .ok (.iload_n 1, 1) := dk_27 (dk_at dksX5_swap_1 8 rfl rfl)
theorem dX5_swap_33 : decode cX5_swap 33 = .ok (.imul, 1) := dk_104 (dk_at dksX5_swap_1 9 rfl rfl)
theorem dX5_swap_34 : decode cX5_swap 34 = .ok (.iload_n 3, 1) := dk_29 (dk_at dksX5_swap_1 10 rfl rfl)
theorem dX5_swap_35 : decode cX5_swap 35 = .ok (.iadd, 1) := dk_96 (dk_at dksX5_swap_1 11 rfl rfl)
theorem dX5_swap_36 : decode cX5_swap 36 = .ok (.aload_n 0, 1) := dk_42 (dk_at dksX5_swap_1 12 rfl rfl)
theorem dX5_swap_37 : decode cX5_swap 37 = .ok (.getfield 42, 3) := dk_180 0 42 (dk_at dksX5_swap_1 13 rfl rfl)
theorem dX5_swap_40 : decode cX5_swap 40 = .ok (.bipush 21, 2) := dk_16 21 (dk_at dksX5_swap_1 16 rfl rfl)
theorem dX5_swap_42 : decode cX5_swap 42 = .ok (.iload_n 2, 1) := dk_28 (dk_at dksX5_swap_1 18 rfl rfl)
theorem dX5_swap_43 : decode cX5_swap 43 = .ok (.imul, 1) := dk_104 (dk_at dksX5_swap_1 19 rfl rfl)
theorem dX5_swap_44 : decode cX5_swap 44 = .ok (.iload_n 3, 1) := dk_29 (dk_at dksX5_swap_1 20 rfl rfl)
theorem dX5_swap_45 : decode cX5_swap 45 = .ok (.iadd, 1) := dk_96 (dk_at dksX5_swap_1 21 rfl rfl)
theorem dX5_swap_46 : decode cX5_swap 46 = .ok (.iaload, 1) := dk_46 (dk_at dksX5_swap_1 22 rfl rfl)
theorem dX5_swap_47 : decode cX5_swap 47 = .ok (.iastore, 1) := dk_79 (dk_at dksX5_swap_1 23 rfl rfl)
theorem dX5_swap_48 : decode cX5_swap 48 = .ok (.aload_n 0, 1) := dk_42 (dk_at dksX5_swap_2 0 rfl rfl)
theorem dX5_swap_49 : decode cX5_swap 49 = .ok (.getfield 42, 3) := dk_180 0 42 (dk_at dksX5_swap_2 1 rfl rfl)
theorem dX5_swap_52 : decode cX5_swap 52 = .ok (.bipush 21, 2) := dk_16 21 (dk_at dksX5_swap_2 4 rfl rfl)
theorem dX5_swap_54 : decode cX5_swap 54 = .ok (.iload_n 2, 1) := dk_28 (dk_at dksX5_swap_2 6 rfl rfl)
theorem dX5_swap_55 : decode cX5_swap 55 = .ok (.imul, 1) := dk_104 (dk_at dksX5_swap_2 7 rfl rfl)
theorem dX5_swap_56 : decode cX5_swap 56 = .ok (.iload_n 3, 1) := dk_29 (dk_at dksX5_swap_2 8 rfl rfl)
theorem dX5_swap_57 : decode cX5_swap 57 = .ok (.iadd, 1) := dk_96 (dk_at dksX5_swap_2 9 rfl rfl)
theorem dX5_swap_58 : decode cX5_swap 58 = .ok (.iload 4, 2) := dk_21 4 (dk_at dksX5_swap_2 10 rfl rfl)
theorem dX5_swap_60 : decode cX5_swap 60 = .ok (.iastore, 1) := dk_79 (dk_at dksX5_swap_2 12 rfl rfl)
theorem dX5_swap_61 : decode cX5_swap 61 = .ok (.iinc 3 1, 3) := dk_132 3 1 (dk_at dksX5_swap_2 13 rfl rfl)
theorem dX5_swap_64 : decode cX5_swap 64 = .ok (.goto (-62), 3) := dk_167 255 194 (dk_at dksX5_swap_2 16 rfl rfl)
theorem dX5_swap_67 : decode cX5_swap 67 = .ok (.return_, 1) := dk_177 (dk_at dksX5_swap_2 19 rfl rfl)
abbrev cX5_number : ByteArray := prog_8_method_55_code
def yX5_number : MethodName := ⟨RX5, "number", "(II)I"⟩
def dkwX5_number_2 : List UInt8 := [167, 0, 5, 16, 254, 172]
abbrev dktX5_number_2 : List UInt8 := dkwX5_number_2 ++ []
def dkwX5_number_1 : List UInt8 := [180, 0, 67, 104, 4, 100, 184, 0, 71, 153, 0, 17, 42, 180, 0, 42, 16, 21, 27, 104, 28, 96, 46]
abbrev dktX5_number_1 : List UInt8 := dkwX5_number_1 ++ dktX5_number_2
def dkwX5_number_0 : List UInt8 := [42, 182, 0, 227, 27, 3, 42, 180, 0, 189, 4, 100, 184, 0, 71, 153, 0, 34, 28, 3, 16, 7, 42]
abbrev dktX5_number_0 : List UInt8 := dkwX5_number_0 ++ dktX5_number_1
theorem dksX5_number_0 : cX5_number.data.toList.drop 0 = dktX5_number_0 := by decide +kernel
theorem dksX5_number_1 : cX5_number.data.toList.drop 23 = dktX5_number_1 := dk_seg dksX5_number_0 23 rfl rfl
theorem dksX5_number_2 : cX5_number.data.toList.drop 46 = dktX5_number_2 := dk_seg dksX5_number_1 23 rfl rfl
theorem dX5_number_0 : decode cX5_number 0 = .ok (.aload_n 0, 1) := dk_42 (dk_at dksX5_number_0 0 rfl rfl)
theorem dX5_number_1 : decode cX5_number 1 = .ok (.invokevirtual 227, 3) := dk_182 0 227 (dk_at dksX5_number_0 1 rfl rfl)
theorem dX5_number_4 : decode cX5_number 4 = .ok (.iload_n 1, 1) := dk_27 (dk_at dksX5_number_0 4 rfl rfl)
theorem dX5_number_5 : decode cX5_number 5 = .ok (.iconst 0, 1) := dk_3 (dk_at dksX5_number_0 5 rfl rfl)
theorem dX5_number_6 : decode cX5_number 6 = .ok (.aload_n 0, 1) := dk_42 (dk_at dksX5_number_0 6 rfl rfl)
theorem dX5_number_7 : decode cX5_number 7 = .ok (.getfield 189, 3) := dk_180 0 189 (dk_at dksX5_number_0 7 rfl rfl)
theorem dX5_number_10 : decode cX5_number 10 = .ok (.iconst 1, 1) := dk_4 (dk_at dksX5_number_0 10 rfl rfl)
theorem dX5_number_11 : decode cX5_number 11 = .ok (.isub, 1) := dk_100 (dk_at dksX5_number_0 11 rfl rfl)
theorem dX5_number_12 : decode cX5_number 12 = .ok (.invokestatic 71, 3) := dk_184 0 71 (dk_at dksX5_number_0 12 rfl rfl)
theorem dX5_number_15 : decode cX5_number 15 = .ok (.ifCond .eq 34, 3) := dk_153 0 34 (dk_at dksX5_number_0 15 rfl rfl)
theorem dX5_number_18 : decode cX5_number 18 = .ok (.iload_n 2, 1) := dk_28 (dk_at dksX5_number_0 18 rfl rfl)
theorem dX5_number_19 : decode cX5_number 19 = .ok (.iconst 0, 1) := dk_3 (dk_at dksX5_number_0 19 rfl rfl)
theorem dX5_number_20 : decode cX5_number 20 = .ok (.bipush 7, 2) := dk_16 7 (dk_at dksX5_number_0 20 rfl rfl)
theorem dX5_number_22 : decode cX5_number 22 = .ok (.aload_n 0, 1) := dk_42 (dk_at dksX5_number_0 22 rfl rfl)
theorem dX5_number_23 : decode cX5_number 23 = .ok (.getfield 67, 3) := dk_180 0 67 (dk_at dksX5_number_1 0 rfl rfl)
theorem dX5_number_26 : decode cX5_number 26 = .ok (.imul, 1) := dk_104 (dk_at dksX5_number_1 3 rfl rfl)
theorem dX5_number_27 : decode cX5_number 27 = .ok (.iconst 1, 1) := dk_4 (dk_at dksX5_number_1 4 rfl rfl)
theorem dX5_number_28 : decode cX5_number 28 = .ok (.isub, 1) := dk_100 (dk_at dksX5_number_1 5 rfl rfl)
theorem dX5_number_29 : decode cX5_number 29 = .ok (.invokestatic 71, 3) := dk_184 0 71 (dk_at dksX5_number_1 6 rfl rfl)
theorem dX5_number_32 : decode cX5_number 32 = .ok (.ifCond .eq 17, 3) := dk_153 0 17 (dk_at dksX5_number_1 9 rfl rfl)
theorem dX5_number_35 : decode cX5_number 35 = .ok (.aload_n 0, 1) := dk_42 (dk_at dksX5_number_1 12 rfl rfl)
theorem dX5_number_36 : decode cX5_number 36 = .ok (.getfield 42, 3) := dk_180 0 42 (dk_at dksX5_number_1 13 rfl rfl)
theorem dX5_number_39 : decode cX5_number 39 = .ok (.bipush 21, 2) := dk_16 21 (dk_at dksX5_number_1 16 rfl rfl)
theorem dX5_number_41 : decode cX5_number 41 = .ok (.iload_n 1, 1) := dk_27 (dk_at dksX5_number_1 18 rfl rfl)
theorem dX5_number_42 : decode cX5_number 42 = .ok (.imul, 1) := dk_104 (dk_at dksX5_number_1 19 rfl rfl)
theorem dX5_number_43 : decode cX5_number 43 = .ok (.iload_n 2, 1) := dk_28 (dk_at dksX5_number_1 20 rfl rfl)
theorem dX5_number_44 : decode cX5_number 44 = .ok (.iadd, 1) := dk_96 (dk_at dksX5_number_1 21 rfl rfl)
theorem dX5_number_45 : decode cX5_number 45 = .ok (.iaload, 1) := dk_46 (dk_at dksX5_number_1 22 rfl rfl)
theorem dX5_number_46 : decode cX5_number 46 = .ok (.goto 5, 3) := dk_167 0 5 (dk_at dksX5_number_2 0 rfl rfl)
theorem dX5_number_49 : decode cX5_number 49 = .ok (.bipush (-2), 2) := dk_16 254 (dk_at dksX5_number_2 3 rfl rfl)
theorem dX5_number_51 : decode cX5_number 51 = .ok (.ireturn, 1) := dk_172 (dk_at dksX5_number_2 5 rfl rfl)
abbrev cX5_put : ByteArray := prog_8_method_56_code
def yX5_put : MethodName := ⟨RX5, "put", "(II)I"⟩
def dkwX5_put_2 : List UInt8 := [172]
abbrev dktX5_put_2 : List UInt8 := dkwX5_put_2 ++ []
def dkwX5_put_1 : List UInt8 := [184, 0, 71, 154, 0, 6, 16, 254, 172, 42, 180, 0, 16, 27, 46, 62, 42, 180, 0, 16, 27, 28, 79, 29]
abbrev dktX5_put_1 : List UInt8 := dkwX5_put_1 ++ dktX5_put_2
def dkwX5_put_0 : List UInt8 := [27, 3, 16, 7, 42, 180, 0, 67, 104, 4, 100, 184, 0, 71, 153, 0, 14, 28, 3, 17, 3, 232]
abbrev dktX5_put_0 : List UInt8 := dkwX5_put_0 ++ dktX5_put_1
theorem dksX5_put_0 : cX5_put.data.toList.drop 0 = dktX5_put_0 := by decide +kernel
theorem dksX5_put_1 : cX5_put.data.toList.drop 22 = dktX5_put_1 := dk_seg dksX5_put_0 22 rfl rfl
theorem dksX5_put_2 : cX5_put.data.toList.drop 46 = dktX5_put_2 := dk_seg dksX5_put_1 24 rfl rfl
theorem dX5_put_0 : decode cX5_put 0 = .ok (.iload_n 1, 1) := dk_27 (dk_at dksX5_put_0 0 rfl rfl)
theorem dX5_put_1 : decode cX5_put 1 = .ok (.iconst 0, 1) := dk_3 (dk_at dksX5_put_0 1 rfl rfl)
theorem dX5_put_2 : decode cX5_put 2 = .ok (.bipush 7, 2) := dk_16 7 (dk_at dksX5_put_0 2 rfl rfl)
theorem dX5_put_4 : decode cX5_put 4 = .ok (.aload_n 0, 1) := dk_42 (dk_at dksX5_put_0 4 rfl rfl)
theorem dX5_put_5 : decode cX5_put 5 = .ok (.getfield 67, 3) := dk_180 0 67 (dk_at dksX5_put_0 5 rfl rfl)
theorem dX5_put_8 : decode cX5_put 8 = .ok (.imul, 1) := dk_104 (dk_at dksX5_put_0 8 rfl rfl)
theorem dX5_put_9 : decode cX5_put 9 = .ok (.iconst 1, 1) := dk_4 (dk_at dksX5_put_0 9 rfl rfl)
theorem dX5_put_10 : decode cX5_put 10 = .ok (.isub, 1) := dk_100 (dk_at dksX5_put_0 10 rfl rfl)
theorem dX5_put_11 : decode cX5_put 11 = .ok (.invokestatic 71, 3) := dk_184 0 71 (dk_at dksX5_put_0 11 rfl rfl)
theorem dX5_put_14 : decode cX5_put 14 = .ok (.ifCond .eq 14, 3) := dk_153 0 14 (dk_at dksX5_put_0 14 rfl rfl)
theorem dX5_put_17 : decode cX5_put 17 = .ok (.iload_n 2, 1) := dk_28 (dk_at dksX5_put_0 17 rfl rfl)
theorem dX5_put_18 : decode cX5_put 18 = .ok (.iconst 0, 1) := dk_3 (dk_at dksX5_put_0 18 rfl rfl)
theorem dX5_put_19 : decode cX5_put 19 = .ok (.sipush 1000, 3) := dk_17 3 232 (dk_at dksX5_put_0 19 rfl rfl)
theorem dX5_put_22 : decode cX5_put 22 = .ok (.invokestatic 71, 3) := dk_184 0 71 (dk_at dksX5_put_1 0 rfl rfl)
theorem dX5_put_25 : decode cX5_put 25 = .ok (.ifCond .ne 6, 3) := dk_154 0 6 (dk_at dksX5_put_1 3 rfl rfl)
theorem dX5_put_28 : decode cX5_put 28 = .ok (.bipush (-2), 2) := dk_16 254 (dk_at dksX5_put_1 6 rfl rfl)
theorem dX5_put_30 : decode cX5_put 30 = .ok (.ireturn, 1) := dk_172 (dk_at dksX5_put_1 8 rfl rfl)
theorem dX5_put_31 : decode cX5_put 31 = .ok (.aload_n 0, 1) := dk_42 (dk_at dksX5_put_1 9 rfl rfl)
theorem dX5_put_32 : decode cX5_put 32 = .ok (.getfield 16, 3) := dk_180 0 16 (dk_at dksX5_put_1 10 rfl rfl)
theorem dX5_put_35 : decode cX5_put 35 = .ok (.iload_n 1, 1) := dk_27 (dk_at dksX5_put_1 13 rfl rfl)
theorem dX5_put_36 : decode cX5_put 36 = .ok (.iaload, 1) := dk_46 (dk_at dksX5_put_1 14 rfl rfl)
theorem dX5_put_37 : decode cX5_put 37 = .ok (.istore_n 3, 1) := dk_62 (dk_at dksX5_put_1 15 rfl rfl)
theorem dX5_put_38 : decode cX5_put 38 = .ok (.aload_n 0, 1) := dk_42 (dk_at dksX5_put_1 16 rfl rfl)
theorem dX5_put_39 : decode cX5_put 39 = .ok (.getfield 16, 3) := dk_180 0 16 (dk_at dksX5_put_1 17 rfl rfl)
theorem dX5_put_42 : decode cX5_put 42 = .ok (.iload_n 1, 1) := dk_27 (dk_at dksX5_put_1 20 rfl rfl)
theorem dX5_put_43 : decode cX5_put 43 = .ok (.iload_n 2, 1) := dk_28 (dk_at dksX5_put_1 21 rfl rfl)
theorem dX5_put_44 : decode cX5_put 44 = .ok (.iastore, 1) := dk_79 (dk_at dksX5_put_1 22 rfl rfl)
theorem dX5_put_45 : decode cX5_put 45 = .ok (.iload_n 3, 1) := dk_29 (dk_at dksX5_put_1 23 rfl rfl)
theorem dX5_put_46 : decode cX5_put 46 = .ok (.ireturn, 1) := dk_172 (dk_at dksX5_put_2 0 rfl rfl)
abbrev cX5_add : ByteArray := prog_8_method_57_code
def yX5_add : MethodName := ⟨RX5, "add", "(II)I"⟩
def dkwX5_add_5 : List UInt8 := [79, 132, 3, 1, 167, 255, 220, 4, 172]
abbrev dktX5_add_5 : List UInt8 := dkwX5_add_5 ++ []
def dkwX5_add_4 : List UInt8 := [162, 0, 31, 42, 180, 0, 16, 29, 92, 46, 28, 42, 180, 0, 42, 16, 21, 27, 104, 29, 96, 46, 104, 96]
abbrev dktX5_add_4 : List UInt8 := dkwX5_add_4 ++ dktX5_add_5
def dkwX5_add_3 : List UInt8 := [164, 0, 6, 16, 252, 172, 132, 3, 1, 167, 255, 213, 3, 62, 29, 16, 7, 42, 180, 0, 67, 104]
abbrev dktX5_add_3 : List UInt8 := dkwX5_add_3 ++ dktX5_add_4
def dkwX5_add_2 : List UInt8 := [180, 0, 16, 29, 46, 28, 42, 180, 0, 42, 16, 21, 27, 104, 29, 96, 46, 104, 96, 17, 3, 232]
abbrev dktX5_add_2 : List UInt8 := dkwX5_add_2 ++ dktX5_add_3
def dkwX5_add_1 : List UInt8 := [184, 0, 71, 154, 0, 6, 16, 254, 172, 3, 62, 29, 16, 7, 42, 180, 0, 67, 104, 162, 0, 38, 42]
abbrev dktX5_add_1 : List UInt8 := dkwX5_add_1 ++ dktX5_add_2
def dkwX5_add_0 : List UInt8 := [42, 182, 0, 227, 27, 3, 42, 180, 0, 189, 4, 100, 184, 0, 71, 153, 0, 13, 28, 3, 16, 100]
abbrev dktX5_add_0 : List UInt8 := dkwX5_add_0 ++ dktX5_add_1
theorem dksX5_add_0 : cX5_add.data.toList.drop 0 = dktX5_add_0 := by decide +kernel
theorem dksX5_add_1 : cX5_add.data.toList.drop 22 = dktX5_add_1 := dk_seg dksX5_add_0 22 rfl rfl
theorem dksX5_add_2 : cX5_add.data.toList.drop 45 = dktX5_add_2 := dk_seg dksX5_add_1 23 rfl rfl
theorem dksX5_add_3 : cX5_add.data.toList.drop 67 = dktX5_add_3 := dk_seg dksX5_add_2 22 rfl rfl
theorem dksX5_add_4 : cX5_add.data.toList.drop 89 = dktX5_add_4 := dk_seg dksX5_add_3 22 rfl rfl
theorem dksX5_add_5 : cX5_add.data.toList.drop 113 = dktX5_add_5 := dk_seg dksX5_add_4 24 rfl rfl
theorem dX5_add_0 : decode cX5_add 0 = .ok (.aload_n 0, 1) := dk_42 (dk_at dksX5_add_0 0 rfl rfl)
theorem dX5_add_1 : decode cX5_add 1 = .ok (.invokevirtual 227, 3) := dk_182 0 227 (dk_at dksX5_add_0 1 rfl rfl)
theorem dX5_add_4 : decode cX5_add 4 = .ok (.iload_n 1, 1) := dk_27 (dk_at dksX5_add_0 4 rfl rfl)
theorem dX5_add_5 : decode cX5_add 5 = .ok (.iconst 0, 1) := dk_3 (dk_at dksX5_add_0 5 rfl rfl)
theorem dX5_add_6 : decode cX5_add 6 = .ok (.aload_n 0, 1) := dk_42 (dk_at dksX5_add_0 6 rfl rfl)
theorem dX5_add_7 : decode cX5_add 7 = .ok (.getfield 189, 3) := dk_180 0 189 (dk_at dksX5_add_0 7 rfl rfl)
theorem dX5_add_10 : decode cX5_add 10 = .ok (.iconst 1, 1) := dk_4 (dk_at dksX5_add_0 10 rfl rfl)
theorem dX5_add_11 : decode cX5_add 11 = .ok (.isub, 1) := dk_100 (dk_at dksX5_add_0 11 rfl rfl)
theorem dX5_add_12 : decode cX5_add 12 = .ok (.invokestatic 71, 3) := dk_184 0 71 (dk_at dksX5_add_0 12 rfl rfl)
theorem dX5_add_15 : decode cX5_add 15 = .ok (.ifCond .eq 13, 3) := dk_153 0 13 (dk_at dksX5_add_0 15 rfl rfl)
theorem dX5_add_18 : decode cX5_add 18 = .ok (.iload_n 2, 1) := dk_28 (dk_at dksX5_add_0 18 rfl rfl)
theorem dX5_add_19 : decode cX5_add 19 = .ok (.iconst 0, 1) := dk_3 (dk_at dksX5_add_0 19 rfl rfl)
theorem dX5_add_20 : decode cX5_add 20 = .ok (.bipush 100, 2) := dk_16 100 (dk_at dksX5_add_0 20 rfl rfl)
theorem dX5_add_22 : decode cX5_add 22 = .ok (.invokestatic 71, 3) := dk_184 0 71 (dk_at dksX5_add_1 0 rfl rfl)
theorem dX5_add_25 : decode cX5_add 25 = .ok (.ifCond .ne 6, 3) := dk_154 0 6 (dk_at dksX5_add_1 3 rfl rfl)
theorem dX5_add_28 : decode cX5_add 28 = .ok (.bipush (-2), 2) := dk_16 254 (dk_at dksX5_add_1 6 rfl rfl)
theorem dX5_add_30 : decode cX5_add 30 = .ok (.ireturn, 1) := dk_172 (dk_at dksX5_add_1 8 rfl rfl)
theorem dX5_add_31 : decode cX5_add 31 = .ok (.iconst 0, 1) := dk_3 (dk_at dksX5_add_1 9 rfl rfl)
theorem dX5_add_32 : decode cX5_add 32 = .ok (.istore_n 3, 1) := dk_62 (dk_at dksX5_add_1 10 rfl rfl)
theorem dX5_add_33 : decode cX5_add 33 = .ok (.iload_n 3, 1) := dk_29 (dk_at dksX5_add_1 11 rfl rfl)
theorem dX5_add_34 : decode cX5_add 34 = .ok (.bipush 7, 2) := dk_16 7 (dk_at dksX5_add_1 12 rfl rfl)
theorem dX5_add_36 : decode cX5_add 36 = .ok (.aload_n 0, 1) := dk_42 (dk_at dksX5_add_1 14 rfl rfl)
theorem dX5_add_37 : decode cX5_add 37 = .ok (.getfield 67, 3) := dk_180 0 67 (dk_at dksX5_add_1 15 rfl rfl)
theorem dX5_add_40 : decode cX5_add 40 = .ok (.imul, 1) := dk_104 (dk_at dksX5_add_1 18 rfl rfl)
theorem dX5_add_41 : decode cX5_add 41 = .ok (.if_icmp .ge 38, 3) := dk_162 0 38 (dk_at dksX5_add_1 19 rfl rfl)
theorem dX5_add_44 : decode cX5_add 44 = .ok (.aload_n 0, 1) := dk_42 (dk_at dksX5_add_1 22 rfl rfl)
theorem dX5_add_45 : decode cX5_add 45 = .ok (.getfield 16, 3) := dk_180 0 16 (dk_at dksX5_add_2 0 rfl rfl)
theorem dX5_add_48 : decode cX5_add 48 = .ok (.iload_n 3, 1) := dk_29 (dk_at dksX5_add_2 3 rfl rfl)
theorem dX5_add_49 : decode cX5_add 49 = .ok (.iaload, 1) := dk_46 (dk_at dksX5_add_2 4 rfl rfl)
theorem dX5_add_50 : decode cX5_add 50 = .ok (.iload_n 2, 1) := dk_28 (dk_at dksX5_add_2 5 rfl rfl)
theorem dX5_add_51 : decode cX5_add 51 = .ok (.aload_n 0, 1) := dk_42 (dk_at dksX5_add_2 6 rfl rfl)
theorem dX5_add_52 : decode cX5_add 52 = .ok (.getfield 42, 3) := dk_180 0 42 (dk_at dksX5_add_2 7 rfl rfl)
theorem dX5_add_55 : decode cX5_add 55 = .ok (.bipush 21, 2) := dk_16 21 (dk_at dksX5_add_2 10 rfl rfl)
theorem dX5_add_57 : decode cX5_add 57 = .ok (.iload_n 1, 1) := dk_27 (dk_at dksX5_add_2 12 rfl rfl)
theorem dX5_add_58 : decode cX5_add 58 = .ok (.imul, 1) := dk_104 (dk_at dksX5_add_2 13 rfl rfl)
theorem dX5_add_59 : decode cX5_add 59 = .ok (.iload_n 3, 1) := dk_29 (dk_at dksX5_add_2 14 rfl rfl)
theorem dX5_add_60 : decode cX5_add 60 = .ok (.iadd, 1) := dk_96 (dk_at dksX5_add_2 15 rfl rfl)
theorem dX5_add_61 : decode cX5_add 61 = .ok (.iaload, 1) := dk_46 (dk_at dksX5_add_2 16 rfl rfl)
theorem dX5_add_62 : decode cX5_add 62 = .ok (.imul, 1) := dk_104 (dk_at dksX5_add_2 17 rfl rfl)
theorem dX5_add_63 : decode cX5_add 63 = .ok (.iadd, 1) := dk_96 (dk_at dksX5_add_2 18 rfl rfl)
theorem dX5_add_64 : decode cX5_add 64 = .ok (.sipush 1000, 3) := dk_17 3 232 (dk_at dksX5_add_2 19 rfl rfl)
theorem dX5_add_67 : decode cX5_add 67 = .ok (.if_icmp .le 6, 3) := dk_164 0 6 (dk_at dksX5_add_3 0 rfl rfl)
theorem dX5_add_70 : decode cX5_add 70 = .ok (.bipush (-4), 2) := dk_16 252 (dk_at dksX5_add_3 3 rfl rfl)
theorem dX5_add_72 : decode cX5_add 72 = .ok (.ireturn, 1) := dk_172 (dk_at dksX5_add_3 5 rfl rfl)
theorem dX5_add_73 : decode cX5_add 73 = .ok (.iinc 3 1, 3) := dk_132 3 1 (dk_at dksX5_add_3 6 rfl rfl)
theorem dX5_add_76 : decode cX5_add 76 = .ok (.goto (-43), 3) := dk_167 255 213 (dk_at dksX5_add_3 9 rfl rfl)
theorem dX5_add_79 : decode cX5_add 79 = .ok (.iconst 0, 1) := dk_3 (dk_at dksX5_add_3 12 rfl rfl)
theorem dX5_add_80 : decode cX5_add 80 = .ok (.istore_n 3, 1) := dk_62 (dk_at dksX5_add_3 13 rfl rfl)
theorem dX5_add_81 : decode cX5_add 81 = .ok (.iload_n 3, 1) := dk_29 (dk_at dksX5_add_3 14 rfl rfl)
theorem dX5_add_82 : decode cX5_add 82 = .ok (.bipush 7, 2) := dk_16 7 (dk_at dksX5_add_3 15 rfl rfl)
theorem dX5_add_84 : decode cX5_add 84 = .ok (.aload_n 0, 1) := dk_42 (dk_at dksX5_add_3 17 rfl rfl)
theorem dX5_add_85 : decode cX5_add 85 = .ok (.getfield 67, 3) := dk_180 0 67 (dk_at dksX5_add_3 18 rfl rfl)
theorem dX5_add_88 : decode cX5_add 88 = .ok (.imul, 1) := dk_104 (dk_at dksX5_add_3 21 rfl rfl)
theorem dX5_add_89 : decode cX5_add 89 = .ok (.if_icmp .ge 31, 3) := dk_162 0 31 (dk_at dksX5_add_4 0 rfl rfl)
theorem dX5_add_92 : decode cX5_add 92 = .ok (.aload_n 0, 1) := dk_42 (dk_at dksX5_add_4 3 rfl rfl)
theorem dX5_add_93 : decode cX5_add 93 = .ok (.getfield 16, 3) := dk_180 0 16 (dk_at dksX5_add_4 4 rfl rfl)
theorem dX5_add_96 : decode cX5_add 96 = .ok (.iload_n 3, 1) := dk_29 (dk_at dksX5_add_4 7 rfl rfl)
theorem dX5_add_97 : decode cX5_add 97 = .ok (.dup2, 1) := dk_92 (dk_at dksX5_add_4 8 rfl rfl)
theorem dX5_add_98 : decode cX5_add 98 = .ok (.iaload, 1) := dk_46 (dk_at dksX5_add_4 9 rfl rfl)
theorem dX5_add_99 : decode cX5_add 99 = .ok (.iload_n 2, 1) := dk_28 (dk_at dksX5_add_4 10 rfl rfl)
theorem dX5_add_100 : decode cX5_add 100 = .ok (.aload_n 0, 1) := dk_42 (dk_at dksX5_add_4 11 rfl rfl)
theorem dX5_add_101 : decode cX5_add 101 = .ok (.getfield 42, 3) := dk_180 0 42 (dk_at dksX5_add_4 12 rfl rfl)
theorem dX5_add_104 : decode cX5_add 104 = .ok (.bipush 21, 2) := dk_16 21 (dk_at dksX5_add_4 15 rfl rfl)
theorem dX5_add_106 : decode cX5_add 106 = .ok (.iload_n 1, 1) := dk_27 (dk_at dksX5_add_4 17 rfl rfl)
theorem dX5_add_107 : decode cX5_add 107 = .ok (.imul, 1) := dk_104 (dk_at dksX5_add_4 18 rfl rfl)
theorem dX5_add_108 : decode cX5_add 108 = .ok (.iload_n 3, 1) := dk_29 (dk_at dksX5_add_4 19 rfl rfl)
theorem dX5_add_109 : decode cX5_add 109 = .ok (.iadd, 1) := dk_96 (dk_at dksX5_add_4 20 rfl rfl)
theorem dX5_add_110 : decode cX5_add 110 = .ok (.iaload, 1) := dk_46 (dk_at dksX5_add_4 21 rfl rfl)
theorem dX5_add_111 : decode cX5_add 111 = .ok (.imul, 1) := dk_104 (dk_at dksX5_add_4 22 rfl rfl)
theorem dX5_add_112 : decode cX5_add 112 = .ok (.iadd, 1) := dk_96 (dk_at dksX5_add_4 23 rfl rfl)
theorem dX5_add_113 : decode cX5_add 113 = .ok (.iastore, 1) := dk_79 (dk_at dksX5_add_5 0 rfl rfl)
theorem dX5_add_114 : decode cX5_add 114 = .ok (.iinc 3 1, 3) := dk_132 3 1 (dk_at dksX5_add_5 1 rfl rfl)
theorem dX5_add_117 : decode cX5_add 117 = .ok (.goto (-36), 3) := dk_167 255 220 (dk_at dksX5_add_5 4 rfl rfl)
theorem dX5_add_120 : decode cX5_add 120 = .ok (.iconst 1, 1) := dk_4 (dk_at dksX5_add_5 7 rfl rfl)
theorem dX5_add_121 : decode cX5_add 121 = .ok (.ireturn, 1) := dk_172 (dk_at dksX5_add_5 8 rfl rfl)
abbrev cX5_drop : ByteArray := prog_8_method_58_code
def yX5_drop : MethodName := ⟨RX5, "drop", "()I"⟩
def dkwX5_drop_1 : List UInt8 := [3, 96, 60, 132, 2, 1, 167, 255, 230, 42, 182, 0, 111, 27, 172]
abbrev dktX5_drop_1 : List UInt8 := dkwX5_drop_1 ++ []
def dkwX5_drop_0 : List UInt8 := [3, 60, 3, 61, 28, 16, 21, 162, 0, 26, 27, 42, 180, 0, 16, 28, 46, 153, 0, 7, 4, 167, 0, 4]
abbrev dktX5_drop_0 : List UInt8 := dkwX5_drop_0 ++ dktX5_drop_1
theorem dksX5_drop_0 : cX5_drop.data.toList.drop 0 = dktX5_drop_0 := by decide +kernel
theorem dksX5_drop_1 : cX5_drop.data.toList.drop 24 = dktX5_drop_1 := dk_seg dksX5_drop_0 24 rfl rfl
theorem dX5_drop_0 : decode cX5_drop 0 = .ok (.iconst 0, 1) := dk_3 (dk_at dksX5_drop_0 0 rfl rfl)
theorem dX5_drop_1 : decode cX5_drop 1 = .ok (.istore_n 1, 1) := dk_60 (dk_at dksX5_drop_0 1 rfl rfl)
theorem dX5_drop_2 : decode cX5_drop 2 = .ok (.iconst 0, 1) := dk_3 (dk_at dksX5_drop_0 2 rfl rfl)
theorem dX5_drop_3 : decode cX5_drop 3 = .ok (.istore_n 2, 1) := dk_61 (dk_at dksX5_drop_0 3 rfl rfl)
theorem dX5_drop_4 : decode cX5_drop 4 = .ok (.iload_n 2, 1) := dk_28 (dk_at dksX5_drop_0 4 rfl rfl)
theorem dX5_drop_5 : decode cX5_drop 5 = .ok (.bipush 21, 2) := dk_16 21 (dk_at dksX5_drop_0 5 rfl rfl)
theorem dX5_drop_7 : decode cX5_drop 7 = .ok (.if_icmp .ge 26, 3) := dk_162 0 26 (dk_at dksX5_drop_0 7 rfl rfl)
theorem dX5_drop_10 : decode cX5_drop 10 = .ok (.iload_n 1, 1) := dk_27 (dk_at dksX5_drop_0 10 rfl rfl)
theorem dX5_drop_11 : decode cX5_drop 11 = .ok (.aload_n 0, 1) := dk_42 (dk_at dksX5_drop_0 11 rfl rfl)
theorem dX5_drop_12 : decode cX5_drop 12 = .ok (.getfield 16, 3) := dk_180 0 16 (dk_at dksX5_drop_0 12 rfl rfl)
theorem dX5_drop_15 : decode cX5_drop 15 = .ok (.iload_n 2, 1) := dk_28 (dk_at dksX5_drop_0 15 rfl rfl)
theorem dX5_drop_16 : decode cX5_drop 16 = .ok (.iaload, 1) := dk_46 (dk_at dksX5_drop_0 16 rfl rfl)
theorem dX5_drop_17 : decode cX5_drop 17 = .ok (.ifCond .eq 7, 3) := dk_153 0 7 (dk_at dksX5_drop_0 17 rfl rfl)
theorem dX5_drop_20 : decode cX5_drop 20 = .ok (.iconst 1, 1) := dk_4 (dk_at dksX5_drop_0 20 rfl rfl)
theorem dX5_drop_21 : decode cX5_drop 21 = .ok (.goto 4, 3) := dk_167 0 4 (dk_at dksX5_drop_0 21 rfl rfl)
theorem dX5_drop_24 : decode cX5_drop 24 = .ok (.iconst 0, 1) := dk_3 (dk_at dksX5_drop_1 0 rfl rfl)
theorem dX5_drop_25 : decode cX5_drop 25 = .ok (.iadd, 1) := dk_96 (dk_at dksX5_drop_1 1 rfl rfl)
theorem dX5_drop_26 : decode cX5_drop 26 = .ok (.istore_n 1, 1) := dk_60 (dk_at dksX5_drop_1 2 rfl rfl)
theorem dX5_drop_27 : decode cX5_drop 27 = .ok (.iinc 2 1, 3) := dk_132 2 1 (dk_at dksX5_drop_1 3 rfl rfl)
theorem dX5_drop_30 : decode cX5_drop 30 = .ok (.goto (-26), 3) := dk_167 255 230 (dk_at dksX5_drop_1 6 rfl rfl)
theorem dX5_drop_33 : decode cX5_drop 33 = .ok (.aload_n 0, 1) := dk_42 (dk_at dksX5_drop_1 9 rfl rfl)
theorem dX5_drop_34 : decode cX5_drop 34 = .ok (.invokevirtual 111, 3) := dk_182 0 111 (dk_at dksX5_drop_1 10 rfl rfl)
theorem dX5_drop_37 : decode cX5_drop 37 = .ok (.iload_n 1, 1) := dk_27 (dk_at dksX5_drop_1 13 rfl rfl)
theorem dX5_drop_38 : decode cX5_drop 38 = .ok (.ireturn, 1) := dk_172 (dk_at dksX5_drop_1 14 rfl rfl)
abbrev cX5_legal : ByteArray := prog_8_method_60_code
def yX5_legal : MethodName := ⟨RX5, "legal", "()I"⟩
def dkwX5_legal_6 : List UInt8 := [167, 0, 4, 5, 172]
abbrev dktX5_legal_6 : List UInt8 := dkwX5_legal_6 ++ []
def dkwX5_legal_5 : List UInt8 := [28, 120, 167, 0, 4, 3, 128, 60, 132, 2, 1, 167, 255, 223, 42, 27, 182, 0, 208, 153, 0, 7, 3]
abbrev dktX5_legal_5 : List UInt8 := dkwX5_legal_5 ++ dktX5_legal_6
def dkwX5_legal_4 : List UInt8 := [3, 61, 28, 16, 7, 42, 180, 0, 67, 104, 162, 0, 28, 27, 42, 180, 0, 16, 28, 46, 153, 0, 9, 4]
abbrev dktX5_legal_4 : List UInt8 := dkwX5_legal_4 ++ dktX5_legal_5
def dkwX5_legal_3 : List UInt8 := [96, 46, 182, 0, 230, 159, 0, 5, 4, 172, 132, 2, 1, 167, 255, 185, 132, 1, 1, 167, 255, 167, 3, 60]
abbrev dktX5_legal_3 : List UInt8 := dkwX5_legal_3 ++ dktX5_legal_4
def dkwX5_legal_2 : List UInt8 := [42, 180, 0, 7, 27, 46, 7, 108, 42, 180, 0, 7, 27, 46, 7, 112, 42, 180, 0, 13, 7, 27, 104, 28]
abbrev dktX5_legal_2 : List UInt8 := dkwX5_legal_2 ++ dktX5_legal_3
def dkwX5_legal_1 : List UInt8 := [46, 2, 159, 0, 62, 28, 27, 7, 112, 159, 0, 49, 42, 27, 7, 108, 27, 7, 112, 28, 182, 0, 230, 42]
abbrev dktX5_legal_1 : List UInt8 := dkwX5_legal_1 ++ dktX5_legal_2
def dkwX5_legal_0 : List UInt8 := [3, 60, 27, 7, 42, 180, 0, 67, 104, 162, 0, 85, 3, 61, 28, 7, 162, 0, 72, 42, 180, 0, 7, 27]
abbrev dktX5_legal_0 : List UInt8 := dkwX5_legal_0 ++ dktX5_legal_1
theorem dksX5_legal_0 : cX5_legal.data.toList.drop 0 = dktX5_legal_0 := by decide +kernel
theorem dksX5_legal_1 : cX5_legal.data.toList.drop 24 = dktX5_legal_1 := dk_seg dksX5_legal_0 24 rfl rfl
theorem dksX5_legal_2 : cX5_legal.data.toList.drop 48 = dktX5_legal_2 := dk_seg dksX5_legal_1 24 rfl rfl
theorem dksX5_legal_3 : cX5_legal.data.toList.drop 72 = dktX5_legal_3 := dk_seg dksX5_legal_2 24 rfl rfl
theorem dksX5_legal_4 : cX5_legal.data.toList.drop 96 = dktX5_legal_4 := dk_seg dksX5_legal_3 24 rfl rfl
theorem dksX5_legal_5 : cX5_legal.data.toList.drop 120 = dktX5_legal_5 := dk_seg dksX5_legal_4 24 rfl rfl
theorem dksX5_legal_6 : cX5_legal.data.toList.drop 143 = dktX5_legal_6 := dk_seg dksX5_legal_5 23 rfl rfl
theorem dX5_legal_0 : decode cX5_legal 0 = .ok (.iconst 0, 1) := dk_3 (dk_at dksX5_legal_0 0 rfl rfl)
theorem dX5_legal_1 : decode cX5_legal 1 = .ok (.istore_n 1, 1) := dk_60 (dk_at dksX5_legal_0 1 rfl rfl)
theorem dX5_legal_2 : decode cX5_legal 2 = .ok (.iload_n 1, 1) := dk_27 (dk_at dksX5_legal_0 2 rfl rfl)
theorem dX5_legal_3 : decode cX5_legal 3 = .ok (.iconst 4, 1) := dk_7 (dk_at dksX5_legal_0 3 rfl rfl)
theorem dX5_legal_4 : decode cX5_legal 4 = .ok (.aload_n 0, 1) := dk_42 (dk_at dksX5_legal_0 4 rfl rfl)
theorem dX5_legal_5 : decode cX5_legal 5 = .ok (.getfield 67, 3) := dk_180 0 67 (dk_at dksX5_legal_0 5 rfl rfl)
theorem dX5_legal_8 : decode cX5_legal 8 = .ok (.imul, 1) := dk_104 (dk_at dksX5_legal_0 8 rfl rfl)
theorem dX5_legal_9 : decode cX5_legal 9 = .ok (.if_icmp .ge 85, 3) := dk_162 0 85 (dk_at dksX5_legal_0 9 rfl rfl)
theorem dX5_legal_12 : decode cX5_legal 12 = .ok (.iconst 0, 1) := dk_3 (dk_at dksX5_legal_0 12 rfl rfl)
theorem dX5_legal_13 : decode cX5_legal 13 = .ok (.istore_n 2, 1) := dk_61 (dk_at dksX5_legal_0 13 rfl rfl)
theorem dX5_legal_14 : decode cX5_legal 14 = .ok (.iload_n 2, 1) := dk_28 (dk_at dksX5_legal_0 14 rfl rfl)
theorem dX5_legal_15 : decode cX5_legal 15 = .ok (.iconst 4, 1) := dk_7 (dk_at dksX5_legal_0 15 rfl rfl)
theorem dX5_legal_16 : decode cX5_legal 16 = .ok (.if_icmp .ge 72, 3) := dk_162 0 72 (dk_at dksX5_legal_0 16 rfl rfl)
theorem dX5_legal_19 : decode cX5_legal 19 = .ok (.aload_n 0, 1) := dk_42 (dk_at dksX5_legal_0 19 rfl rfl)
theorem dX5_legal_20 : decode cX5_legal 20 = .ok (.getfield 7, 3) := dk_180 0 7 (dk_at dksX5_legal_0 20 rfl rfl)
theorem dX5_legal_23 : decode cX5_legal 23 = .ok (.iload_n 1, 1) := dk_27 (dk_at dksX5_legal_0 23 rfl rfl)
theorem dX5_legal_24 : decode cX5_legal 24 = .ok (.iaload, 1) := dk_46 (dk_at dksX5_legal_1 0 rfl rfl)
theorem dX5_legal_25 : decode cX5_legal 25 = .ok (.iconst (-1), 1) := dk_2 (dk_at dksX5_legal_1 1 rfl rfl)
theorem dX5_legal_26 : decode cX5_legal 26 = .ok (.if_icmp .eq 62, 3) := dk_159 0 62 (dk_at dksX5_legal_1 2 rfl rfl)
theorem dX5_legal_29 : decode cX5_legal 29 = .ok (.iload_n 2, 1) := dk_28 (dk_at dksX5_legal_1 5 rfl rfl)
theorem dX5_legal_30 : decode cX5_legal 30 = .ok (.iload_n 1, 1) := dk_27 (dk_at dksX5_legal_1 6 rfl rfl)
theorem dX5_legal_31 : decode cX5_legal 31 = .ok (.iconst 4, 1) := dk_7 (dk_at dksX5_legal_1 7 rfl rfl)
theorem dX5_legal_32 : decode cX5_legal 32 = .ok (.irem, 1) := dk_112 (dk_at dksX5_legal_1 8 rfl rfl)
theorem dX5_legal_33 : decode cX5_legal 33 = .ok (.if_icmp .eq 49, 3) := dk_159 0 49 (dk_at dksX5_legal_1 9 rfl rfl)
theorem dX5_legal_36 : decode cX5_legal 36 = .ok (.aload_n 0, 1) := dk_42 (dk_at dksX5_legal_1 12 rfl rfl)
theorem dX5_legal_37 : decode cX5_legal 37 = .ok (.iload_n 1, 1) := dk_27 (dk_at dksX5_legal_1 13 rfl rfl)
theorem dX5_legal_38 : decode cX5_legal 38 = .ok (.iconst 4, 1) := dk_7 (dk_at dksX5_legal_1 14 rfl rfl)
theorem dX5_legal_39 : decode cX5_legal 39 = .ok (.idiv, 1) := dk_108 (dk_at dksX5_legal_1 15 rfl rfl)
theorem dX5_legal_40 : decode cX5_legal 40 = .ok (.iload_n 1, 1) := dk_27 (dk_at dksX5_legal_1 16 rfl rfl)
theorem dX5_legal_41 : decode cX5_legal 41 = .ok (.iconst 4, 1) := dk_7 (dk_at dksX5_legal_1 17 rfl rfl)
theorem dX5_legal_42 : decode cX5_legal 42 = .ok (.irem, 1) := dk_112 (dk_at dksX5_legal_1 18 rfl rfl)
theorem dX5_legal_43 : decode cX5_legal 43 = .ok (.iload_n 2, 1) := dk_28 (dk_at dksX5_legal_1 19 rfl rfl)
theorem dX5_legal_44 : decode cX5_legal 44 = .ok (.invokevirtual 230, 3) := dk_182 0 230 (dk_at dksX5_legal_1 20 rfl rfl)
theorem dX5_legal_47 : decode cX5_legal 47 = .ok (.aload_n 0, 1) := dk_42 (dk_at dksX5_legal_1 23 rfl rfl)
theorem dX5_legal_48 : decode cX5_legal 48 = .ok (.aload_n 0, 1) := dk_42 (dk_at dksX5_legal_2 0 rfl rfl)
theorem dX5_legal_49 : decode cX5_legal 49 = .ok (.getfield 7, 3) := dk_180 0 7 (dk_at dksX5_legal_2 1 rfl rfl)
theorem dX5_legal_52 : decode cX5_legal 52 = .ok (.iload_n 1, 1) := dk_27 (dk_at dksX5_legal_2 4 rfl rfl)
theorem dX5_legal_53 : decode cX5_legal 53 = .ok (.iaload, 1) := dk_46 (dk_at dksX5_legal_2 5 rfl rfl)
theorem dX5_legal_54 : decode cX5_legal 54 = .ok (.iconst 4, 1) := dk_7 (dk_at dksX5_legal_2 6 rfl rfl)
theorem dX5_legal_55 : decode cX5_legal 55 = .ok (.idiv, 1) := dk_108 (dk_at dksX5_legal_2 7 rfl rfl)
theorem dX5_legal_56 : decode cX5_legal 56 = .ok (.aload_n 0, 1) := dk_42 (dk_at dksX5_legal_2 8 rfl rfl)
theorem dX5_legal_57 : decode cX5_legal 57 = .ok (.getfield 7, 3) := dk_180 0 7 (dk_at dksX5_legal_2 9 rfl rfl)
theorem dX5_legal_60 : decode cX5_legal 60 = .ok (.iload_n 1, 1) := dk_27 (dk_at dksX5_legal_2 12 rfl rfl)
theorem dX5_legal_61 : decode cX5_legal 61 = .ok (.iaload, 1) := dk_46 (dk_at dksX5_legal_2 13 rfl rfl)
theorem dX5_legal_62 : decode cX5_legal 62 = .ok (.iconst 4, 1) := dk_7 (dk_at dksX5_legal_2 14 rfl rfl)
theorem dX5_legal_63 : decode cX5_legal 63 = .ok (.irem, 1) := dk_112 (dk_at dksX5_legal_2 15 rfl rfl)
theorem dX5_legal_64 : decode cX5_legal 64 = .ok (.aload_n 0, 1) := dk_42 (dk_at dksX5_legal_2 16 rfl rfl)
theorem dX5_legal_65 : decode cX5_legal 65 = .ok (.getfield 13, 3) := dk_180 0 13 (dk_at dksX5_legal_2 17 rfl rfl)
theorem dX5_legal_68 : decode cX5_legal 68 = .ok (.iconst 4, 1) := dk_7 (dk_at dksX5_legal_2 20 rfl rfl)
theorem dX5_legal_69 : decode cX5_legal 69 = .ok (.iload_n 1, 1) := dk_27 (dk_at dksX5_legal_2 21 rfl rfl)
theorem dX5_legal_70 : decode cX5_legal 70 = .ok (.imul, 1) := dk_104 (dk_at dksX5_legal_2 22 rfl rfl)
theorem dX5_legal_71 : decode cX5_legal 71 = .ok (.iload_n 2, 1) := dk_28 (dk_at dksX5_legal_2 23 rfl rfl)
theorem dX5_legal_72 : decode cX5_legal 72 = .ok (.iadd, 1) := dk_96 (dk_at dksX5_legal_3 0 rfl rfl)
theorem dX5_legal_73 : decode cX5_legal 73 = .ok (.iaload, 1) := dk_46 (dk_at dksX5_legal_3 1 rfl rfl)
theorem dX5_legal_74 : decode cX5_legal 74 = .ok (.invokevirtual 230, 3) := dk_182 0 230 (dk_at dksX5_legal_3 2 rfl rfl)
theorem dX5_legal_77 : decode cX5_legal 77 = .ok (.if_icmp .eq 5, 3) := dk_159 0 5 (dk_at dksX5_legal_3 5 rfl rfl)
theorem dX5_legal_80 : decode cX5_legal 80 = .ok (.iconst 1, 1) := dk_4 (dk_at dksX5_legal_3 8 rfl rfl)
theorem dX5_legal_81 : decode cX5_legal 81 = .ok (.ireturn, 1) := dk_172 (dk_at dksX5_legal_3 9 rfl rfl)
theorem dX5_legal_82 : decode cX5_legal 82 = .ok (.iinc 2 1, 3) := dk_132 2 1 (dk_at dksX5_legal_3 10 rfl rfl)
theorem dX5_legal_85 : decode cX5_legal 85 = .ok (.goto (-71), 3) := dk_167 255 185 (dk_at dksX5_legal_3 13 rfl rfl)
theorem dX5_legal_88 : decode cX5_legal 88 = .ok (.iinc 1 1, 3) := dk_132 1 1 (dk_at dksX5_legal_3 16 rfl rfl)
theorem dX5_legal_91 : decode cX5_legal 91 = .ok (.goto (-89), 3) := dk_167 255 167 (dk_at dksX5_legal_3 19 rfl rfl)
theorem dX5_legal_94 : decode cX5_legal 94 = .ok (.iconst 0, 1) := dk_3 (dk_at dksX5_legal_3 22 rfl rfl)
theorem dX5_legal_95 : decode cX5_legal 95 = .ok (.istore_n 1, 1) := dk_60 (dk_at dksX5_legal_3 23 rfl rfl)
theorem dX5_legal_96 : decode cX5_legal 96 = .ok (.iconst 0, 1) := dk_3 (dk_at dksX5_legal_4 0 rfl rfl)
theorem dX5_legal_97 : decode cX5_legal 97 = .ok (.istore_n 2, 1) := dk_61 (dk_at dksX5_legal_4 1 rfl rfl)
theorem dX5_legal_98 : decode cX5_legal 98 = .ok (.iload_n 2, 1) := dk_28 (dk_at dksX5_legal_4 2 rfl rfl)
theorem dX5_legal_99 : decode cX5_legal 99 = .ok (.bipush 7, 2) := dk_16 7 (dk_at dksX5_legal_4 3 rfl rfl)
theorem dX5_legal_101 : decode cX5_legal 101 = .ok (.aload_n 0, 1) := dk_42 (dk_at dksX5_legal_4 5 rfl rfl)
theorem dX5_legal_102 : decode cX5_legal 102 = .ok (.getfield 67, 3) := dk_180 0 67 (dk_at dksX5_legal_4 6 rfl rfl)
theorem dX5_legal_105 : decode cX5_legal 105 = .ok (.imul, 1) := dk_104 (dk_at dksX5_legal_4 9 rfl rfl)
theorem dX5_legal_106 : decode cX5_legal 106 = .ok (.if_icmp .ge 28, 3) := dk_162 0 28 (dk_at dksX5_legal_4 10 rfl rfl)
theorem dX5_legal_109 : decode cX5_legal 109 = .ok (.iload_n 1, 1) := dk_27 (dk_at dksX5_legal_4 13 rfl rfl)
theorem dX5_legal_110 : decode cX5_legal 110 = .ok (.aload_n 0, 1) := dk_42 (dk_at dksX5_legal_4 14 rfl rfl)
theorem dX5_legal_111 : decode cX5_legal 111 = .ok (.getfield 16, 3) := dk_180 0 16 (dk_at dksX5_legal_4 15 rfl rfl)
theorem dX5_legal_114 : decode cX5_legal 114 = .ok (.iload_n 2, 1) := dk_28 (dk_at dksX5_legal_4 18 rfl rfl)
theorem dX5_legal_115 : decode cX5_legal 115 = .ok (.iaload, 1) := dk_46 (dk_at dksX5_legal_4 19 rfl rfl)
theorem dX5_legal_116 : decode cX5_legal 116 = .ok (.ifCond .eq 9, 3) := dk_153 0 9 (dk_at dksX5_legal_4 20 rfl rfl)
theorem dX5_legal_119 : decode cX5_legal 119 = .ok (.iconst 1, 1) := dk_4 (dk_at dksX5_legal_4 23 rfl rfl)
theorem dX5_legal_120 : decode cX5_legal 120 = .ok (.iload_n 2, 1) := dk_28 (dk_at dksX5_legal_5 0 rfl rfl)
theorem dX5_legal_121 : decode cX5_legal 121 = .ok (.ishl, 1) := dk_120 (dk_at dksX5_legal_5 1 rfl rfl)
theorem dX5_legal_122 : decode cX5_legal 122 = .ok (.goto 4, 3) := dk_167 0 4 (dk_at dksX5_legal_5 2 rfl rfl)
theorem dX5_legal_125 : decode cX5_legal 125 = .ok (.iconst 0, 1) := dk_3 (dk_at dksX5_legal_5 5 rfl rfl)
theorem dX5_legal_126 : decode cX5_legal 126 = .ok (.ior, 1) := dk_128 (dk_at dksX5_legal_5 6 rfl rfl)
theorem dX5_legal_127 : decode cX5_legal 127 = .ok (.istore_n 1, 1) := dk_60 (dk_at dksX5_legal_5 7 rfl rfl)
theorem dX5_legal_128 : decode cX5_legal 128 = .ok (.iinc 2 1, 3) := dk_132 2 1 (dk_at dksX5_legal_5 8 rfl rfl)
theorem dX5_legal_131 : decode cX5_legal 131 = .ok (.goto (-33), 3) := dk_167 255 223 (dk_at dksX5_legal_5 11 rfl rfl)
theorem dX5_legal_134 : decode cX5_legal 134 = .ok (.aload_n 0, 1) := dk_42 (dk_at dksX5_legal_5 14 rfl rfl)
theorem dX5_legal_135 : decode cX5_legal 135 = .ok (.iload_n 1, 1) := dk_27 (dk_at dksX5_legal_5 15 rfl rfl)
theorem dX5_legal_136 : decode cX5_legal 136 = .ok (.invokevirtual 208, 3) := dk_182 0 208 (dk_at dksX5_legal_5 16 rfl rfl)
theorem dX5_legal_139 : decode cX5_legal 139 = .ok (.ifCond .eq 7, 3) := dk_153 0 7 (dk_at dksX5_legal_5 19 rfl rfl)
theorem dX5_legal_142 : decode cX5_legal 142 = .ok (.iconst 0, 1) := dk_3 (dk_at dksX5_legal_5 22 rfl rfl)
theorem dX5_legal_143 : decode cX5_legal 143 = .ok (.goto 4, 3) := dk_167 0 4 (dk_at dksX5_legal_6 0 rfl rfl)
theorem dX5_legal_146 : decode cX5_legal 146 = .ok (.iconst 2, 1) := dk_5 (dk_at dksX5_legal_6 3 rfl rfl)
theorem dX5_legal_147 : decode cX5_legal 147 = .ok (.ireturn, 1) := dk_172 (dk_at dksX5_legal_6 4 rfl rfl)
abbrev cX5_arcs : ByteArray := prog_8_method_59_code
def yX5_arcs : MethodName := ⟨RX5, "arcs", "(III)I"⟩
def dkwX5_arcs_1 : List UInt8 := [184, 0, 186, 96, 46, 96, 172]
abbrev dktX5_arcs_1 : List UInt8 := dkwX5_arcs_1 ++ []
def dkwX5_arcs_0 : List UInt8 := [42, 180, 0, 16, 16, 7, 27, 104, 29, 96, 46, 42, 180, 0, 16, 16, 7, 27, 104, 7, 96, 29, 28]
abbrev dktX5_arcs_0 : List UInt8 := dkwX5_arcs_0 ++ dktX5_arcs_1
theorem dksX5_arcs_0 : cX5_arcs.data.toList.drop 0 = dktX5_arcs_0 := by decide +kernel
theorem dksX5_arcs_1 : cX5_arcs.data.toList.drop 23 = dktX5_arcs_1 := dk_seg dksX5_arcs_0 23 rfl rfl
theorem dX5_arcs_0 : decode cX5_arcs 0 = .ok (.aload_n 0, 1) := dk_42 (dk_at dksX5_arcs_0 0 rfl rfl)
theorem dX5_arcs_1 : decode cX5_arcs 1 = .ok (.getfield 16, 3) := dk_180 0 16 (dk_at dksX5_arcs_0 1 rfl rfl)
theorem dX5_arcs_4 : decode cX5_arcs 4 = .ok (.bipush 7, 2) := dk_16 7 (dk_at dksX5_arcs_0 4 rfl rfl)
theorem dX5_arcs_6 : decode cX5_arcs 6 = .ok (.iload_n 1, 1) := dk_27 (dk_at dksX5_arcs_0 6 rfl rfl)
theorem dX5_arcs_7 : decode cX5_arcs 7 = .ok (.imul, 1) := dk_104 (dk_at dksX5_arcs_0 7 rfl rfl)
theorem dX5_arcs_8 : decode cX5_arcs 8 = .ok (.iload_n 3, 1) := dk_29 (dk_at dksX5_arcs_0 8 rfl rfl)
theorem dX5_arcs_9 : decode cX5_arcs 9 = .ok (.iadd, 1) := dk_96 (dk_at dksX5_arcs_0 9 rfl rfl)
theorem dX5_arcs_10 : decode cX5_arcs 10 = .ok (.iaload, 1) := dk_46 (dk_at dksX5_arcs_0 10 rfl rfl)
theorem dX5_arcs_11 : decode cX5_arcs 11 = .ok (.aload_n 0, 1) := dk_42 (dk_at dksX5_arcs_0 11 rfl rfl)
theorem dX5_arcs_12 : decode cX5_arcs 12 = .ok (.getfield 16, 3) := dk_180 0 16 (dk_at dksX5_arcs_0 12 rfl rfl)
theorem dX5_arcs_15 : decode cX5_arcs 15 = .ok (.bipush 7, 2) := dk_16 7 (dk_at dksX5_arcs_0 15 rfl rfl)
theorem dX5_arcs_17 : decode cX5_arcs 17 = .ok (.iload_n 1, 1) := dk_27 (dk_at dksX5_arcs_0 17 rfl rfl)
theorem dX5_arcs_18 : decode cX5_arcs 18 = .ok (.imul, 1) := dk_104 (dk_at dksX5_arcs_0 18 rfl rfl)
theorem dX5_arcs_19 : decode cX5_arcs 19 = .ok (.iconst 4, 1) := dk_7 (dk_at dksX5_arcs_0 19 rfl rfl)
theorem dX5_arcs_20 : decode cX5_arcs 20 = .ok (.iadd, 1) := dk_96 (dk_at dksX5_arcs_0 20 rfl rfl)
theorem dX5_arcs_21 : decode cX5_arcs 21 = .ok (.iload_n 3, 1) := dk_29 (dk_at dksX5_arcs_0 21 rfl rfl)
theorem dX5_arcs_22 : decode cX5_arcs 22 = .ok (.iload_n 2, 1) := dk_28 (dk_at dksX5_arcs_0 22 rfl rfl)
theorem dX5_arcs_23 : decode cX5_arcs 23 = .ok (.invokestatic 186, 3) := dk_184 0 186 (dk_at dksX5_arcs_1 0 rfl rfl)
theorem dX5_arcs_26 : decode cX5_arcs 26 = .ok (.iadd, 1) := dk_96 (dk_at dksX5_arcs_1 3 rfl rfl)
theorem dX5_arcs_27 : decode cX5_arcs 27 = .ok (.iaload, 1) := dk_46 (dk_at dksX5_arcs_1 4 rfl rfl)
theorem dX5_arcs_28 : decode cX5_arcs 28 = .ok (.iadd, 1) := dk_96 (dk_at dksX5_arcs_1 5 rfl rfl)
theorem dX5_arcs_29 : decode cX5_arcs 29 = .ok (.ireturn, 1) := dk_172 (dk_at dksX5_arcs_1 6 rfl rfl)
abbrev cX5_euler : ByteArray := prog_8_method_62_code
def yX5_euler : MethodName := ⟨RX5, "euler", "()I"⟩
def dkwX5_euler_8 : List UInt8 := [132, 2, 1, 167, 255, 233, 27, 172]
abbrev dktX5_euler_8 : List UInt8 := dkwX5_euler_8 ++ []
def dkwX5_euler_7 : List UInt8 := [3, 61, 28, 16, 7, 42, 180, 0, 67, 104, 162, 0, 18, 27, 42, 180, 0, 16, 28, 46, 96, 60]
abbrev dktX5_euler_7 : List UInt8 := dkwX5_euler_7 ++ dktX5_euler_8
def dkwX5_euler_6 : List UInt8 := [7, 112, 29, 182, 0, 230, 167, 0, 4, 3, 100, 60, 132, 3, 1, 167, 255, 203, 132, 2, 1, 167, 255, 185]
abbrev dktX5_euler_6 : List UInt8 := dkwX5_euler_6 ++ dktX5_euler_7
def dkwX5_euler_5 : List UInt8 := [180, 0, 7, 28, 46, 2, 159, 0, 13, 28, 42, 180, 0, 7, 28, 46, 162, 0, 17, 42, 28, 7, 108, 28]
abbrev dktX5_euler_5 : List UInt8 := dkwX5_euler_5 ++ dktX5_euler_6
def dkwX5_euler_4 : List UInt8 := [42, 180, 0, 67, 104, 162, 0, 67, 3, 62, 29, 7, 162, 0, 54, 27, 29, 28, 7, 112, 159, 0, 37, 42]
abbrev dktX5_euler_4 : List UInt8 := dkwX5_euler_4 ++ dktX5_euler_5
def dkwX5_euler_3 : List UInt8 := [96, 46, 167, 0, 4, 3, 96, 60, 132, 3, 1, 167, 255, 206, 132, 2, 1, 167, 255, 187, 3, 61, 28, 7]
abbrev dktX5_euler_3 : List UInt8 := dkwX5_euler_3 ++ dktX5_euler_4
def dkwX5_euler_2 : List UInt8 := [42, 29, 28, 16, 6, 112, 182, 0, 236, 153, 0, 20, 42, 180, 0, 16, 16, 7, 28, 16, 6, 108, 104, 29]
abbrev dktX5_euler_2 : List UInt8 := dkwX5_euler_2 ++ dktX5_euler_3
def dkwX5_euler_1 : List UInt8 := [180, 0, 67, 104, 162, 0, 64, 3, 62, 29, 16, 7, 162, 0, 50, 42, 28, 182, 0, 105, 153, 0, 42, 27]
abbrev dktX5_euler_1 : List UInt8 := dkwX5_euler_1 ++ dktX5_euler_2
def dkwX5_euler_0 : List UInt8 := [42, 182, 0, 233, 153, 0, 6, 18, 128, 172, 42, 182, 0, 118, 3, 60, 3, 61, 28, 16, 6, 42]
abbrev dktX5_euler_0 : List UInt8 := dkwX5_euler_0 ++ dktX5_euler_1
theorem dksX5_euler_0 : cX5_euler.data.toList.drop 0 = dktX5_euler_0 := by decide +kernel
theorem dksX5_euler_1 : cX5_euler.data.toList.drop 22 = dktX5_euler_1 := dk_seg dksX5_euler_0 22 rfl rfl
theorem dksX5_euler_2 : cX5_euler.data.toList.drop 46 = dktX5_euler_2 := dk_seg dksX5_euler_1 24 rfl rfl
theorem dksX5_euler_3 : cX5_euler.data.toList.drop 70 = dktX5_euler_3 := dk_seg dksX5_euler_2 24 rfl rfl
theorem dksX5_euler_4 : cX5_euler.data.toList.drop 94 = dktX5_euler_4 := dk_seg dksX5_euler_3 24 rfl rfl
theorem dksX5_euler_5 : cX5_euler.data.toList.drop 118 = dktX5_euler_5 := dk_seg dksX5_euler_4 24 rfl rfl
theorem dksX5_euler_6 : cX5_euler.data.toList.drop 142 = dktX5_euler_6 := dk_seg dksX5_euler_5 24 rfl rfl
theorem dksX5_euler_7 : cX5_euler.data.toList.drop 166 = dktX5_euler_7 := dk_seg dksX5_euler_6 24 rfl rfl
theorem dksX5_euler_8 : cX5_euler.data.toList.drop 188 = dktX5_euler_8 := dk_seg dksX5_euler_7 22 rfl rfl
theorem dX5_euler_0 : decode cX5_euler 0 = .ok (.aload_n 0, 1) := dk_42 (dk_at dksX5_euler_0 0 rfl rfl)
theorem dX5_euler_1 : decode cX5_euler 1 = .ok (.invokevirtual 233, 3) := dk_182 0 233 (dk_at dksX5_euler_0 1 rfl rfl)
theorem dX5_euler_4 : decode cX5_euler 4 = .ok (.ifCond .eq 6, 3) := dk_153 0 6 (dk_at dksX5_euler_0 4 rfl rfl)
theorem dX5_euler_7 : decode cX5_euler 7 = .ok (.ldc 128, 2) := dk_18 128 (dk_at dksX5_euler_0 7 rfl rfl)
theorem dX5_euler_9 : decode cX5_euler 9 = .ok (.ireturn, 1) := dk_172 (dk_at dksX5_euler_0 9 rfl rfl)
theorem dX5_euler_10 : decode cX5_euler 10 = .ok (.aload_n 0, 1) := dk_42 (dk_at dksX5_euler_0 10 rfl rfl)
theorem dX5_euler_11 : decode cX5_euler 11 = .ok (.invokevirtual 118, 3) := dk_182 0 118 (dk_at dksX5_euler_0 11 rfl rfl)
theorem dX5_euler_14 : decode cX5_euler 14 = .ok (.iconst 0, 1) := dk_3 (dk_at dksX5_euler_0 14 rfl rfl)
theorem dX5_euler_15 : decode cX5_euler 15 = .ok (.istore_n 1, 1) := dk_60 (dk_at dksX5_euler_0 15 rfl rfl)
theorem dX5_euler_16 : decode cX5_euler 16 = .ok (.iconst 0, 1) := dk_3 (dk_at dksX5_euler_0 16 rfl rfl)
theorem dX5_euler_17 : decode cX5_euler 17 = .ok (.istore_n 2, 1) := dk_61 (dk_at dksX5_euler_0 17 rfl rfl)
theorem dX5_euler_18 : decode cX5_euler 18 = .ok (.iload_n 2, 1) := dk_28 (dk_at dksX5_euler_0 18 rfl rfl)
theorem dX5_euler_19 : decode cX5_euler 19 = .ok (.bipush 6, 2) := dk_16 6 (dk_at dksX5_euler_0 19 rfl rfl)
theorem dX5_euler_21 : decode cX5_euler 21 = .ok (.aload_n 0, 1) := dk_42 (dk_at dksX5_euler_0 21 rfl rfl)
theorem dX5_euler_22 : decode cX5_euler 22 = .ok (.getfield 67, 3) := dk_180 0 67 (dk_at dksX5_euler_1 0 rfl rfl)
theorem dX5_euler_25 : decode cX5_euler 25 = .ok (.imul, 1) := dk_104 (dk_at dksX5_euler_1 3 rfl rfl)
theorem dX5_euler_26 : decode cX5_euler 26 = .ok (.if_icmp .ge 64, 3) := dk_162 0 64 (dk_at dksX5_euler_1 4 rfl rfl)
theorem dX5_euler_29 : decode cX5_euler 29 = .ok (.iconst 0, 1) := dk_3 (dk_at dksX5_euler_1 7 rfl rfl)
theorem dX5_euler_30 : decode cX5_euler 30 = .ok (.istore_n 3, 1) := dk_62 (dk_at dksX5_euler_1 8 rfl rfl)
theorem dX5_euler_31 : decode cX5_euler 31 = .ok (.iload_n 3, 1) := dk_29 (dk_at dksX5_euler_1 9 rfl rfl)
theorem dX5_euler_32 : decode cX5_euler 32 = .ok (.bipush 7, 2) := dk_16 7 (dk_at dksX5_euler_1 10 rfl rfl)
theorem dX5_euler_34 : decode cX5_euler 34 = .ok (.if_icmp .ge 50, 3) := dk_162 0 50 (dk_at dksX5_euler_1 12 rfl rfl)
theorem dX5_euler_37 : decode cX5_euler 37 = .ok (.aload_n 0, 1) := dk_42 (dk_at dksX5_euler_1 15 rfl rfl)
theorem dX5_euler_38 : decode cX5_euler 38 = .ok (.iload_n 2, 1) := dk_28 (dk_at dksX5_euler_1 16 rfl rfl)
theorem dX5_euler_39 : decode cX5_euler 39 = .ok (.invokevirtual 105, 3) := dk_182 0 105 (dk_at dksX5_euler_1 17 rfl rfl)
theorem dX5_euler_42 : decode cX5_euler 42 = .ok (.ifCond .eq 42, 3) := dk_153 0 42 (dk_at dksX5_euler_1 20 rfl rfl)
theorem dX5_euler_45 : decode cX5_euler 45 = .ok (.iload_n 1, 1) := dk_27 (dk_at dksX5_euler_1 23 rfl rfl)
theorem dX5_euler_46 : decode cX5_euler 46 = .ok (.aload_n 0, 1) := dk_42 (dk_at dksX5_euler_2 0 rfl rfl)
theorem dX5_euler_47 : decode cX5_euler 47 = .ok (.iload_n 3, 1) := dk_29 (dk_at dksX5_euler_2 1 rfl rfl)
theorem dX5_euler_48 : decode cX5_euler 48 = .ok (.iload_n 2, 1) := dk_28 (dk_at dksX5_euler_2 2 rfl rfl)
theorem dX5_euler_49 : decode cX5_euler 49 = .ok (.bipush 6, 2) := dk_16 6 (dk_at dksX5_euler_2 3 rfl rfl)
theorem dX5_euler_51 : decode cX5_euler 51 = .ok (.irem, 1) := dk_112 (dk_at dksX5_euler_2 5 rfl rfl)
theorem dX5_euler_52 : decode cX5_euler 52 = .ok (.invokevirtual 236, 3) := dk_182 0 236 (dk_at dksX5_euler_2 6 rfl rfl)
theorem dX5_euler_55 : decode cX5_euler 55 = .ok (.ifCond .eq 20, 3) := dk_153 0 20 (dk_at dksX5_euler_2 9 rfl rfl)
theorem dX5_euler_58 : decode cX5_euler 58 = .ok (.aload_n 0, 1) := dk_42 (dk_at dksX5_euler_2 12 rfl rfl)
theorem dX5_euler_59 : decode cX5_euler 59 = .ok (.getfield 16, 3) := dk_180 0 16 (dk_at dksX5_euler_2 13 rfl rfl)
theorem dX5_euler_62 : decode cX5_euler 62 = .ok (.bipush 7, 2) := dk_16 7 (dk_at dksX5_euler_2 16 rfl rfl)
theorem dX5_euler_64 : decode cX5_euler 64 = .ok (.iload_n 2, 1) := dk_28 (dk_at dksX5_euler_2 18 rfl rfl)
theorem dX5_euler_65 : decode cX5_euler 65 = .ok (.bipush 6, 2) := dk_16 6 (dk_at dksX5_euler_2 19 rfl rfl)
theorem dX5_euler_67 : decode cX5_euler 67 = .ok (.idiv, 1) := dk_108 (dk_at dksX5_euler_2 21 rfl rfl)
theorem dX5_euler_68 : decode cX5_euler 68 = .ok (.imul, 1) := dk_104 (dk_at dksX5_euler_2 22 rfl rfl)
theorem dX5_euler_69 : decode cX5_euler 69 = .ok (.iload_n 3, 1) := dk_29 (dk_at dksX5_euler_2 23 rfl rfl)
theorem dX5_euler_70 : decode cX5_euler 70 = .ok (.iadd, 1) := dk_96 (dk_at dksX5_euler_3 0 rfl rfl)
theorem dX5_euler_71 : decode cX5_euler 71 = .ok (.iaload, 1) := dk_46 (dk_at dksX5_euler_3 1 rfl rfl)
theorem dX5_euler_72 : decode cX5_euler 72 = .ok (.goto 4, 3) := dk_167 0 4 (dk_at dksX5_euler_3 2 rfl rfl)
theorem dX5_euler_75 : decode cX5_euler 75 = .ok (.iconst 0, 1) := dk_3 (dk_at dksX5_euler_3 5 rfl rfl)
theorem dX5_euler_76 : decode cX5_euler 76 = .ok (.iadd, 1) := dk_96 (dk_at dksX5_euler_3 6 rfl rfl)
theorem dX5_euler_77 : decode cX5_euler 77 = .ok (.istore_n 1, 1) := dk_60 (dk_at dksX5_euler_3 7 rfl rfl)
theorem dX5_euler_78 : decode cX5_euler 78 = .ok (.iinc 3 1, 3) := dk_132 3 1 (dk_at dksX5_euler_3 8 rfl rfl)
theorem dX5_euler_81 : decode cX5_euler 81 = .ok (.goto (-50), 3) := dk_167 255 206 (dk_at dksX5_euler_3 11 rfl rfl)
theorem dX5_euler_84 : decode cX5_euler 84 = .ok (.iinc 2 1, 3) := dk_132 2 1 (dk_at dksX5_euler_3 14 rfl rfl)
theorem dX5_euler_87 : decode cX5_euler 87 = .ok (.goto (-69), 3) := dk_167 255 187 (dk_at dksX5_euler_3 17 rfl rfl)
theorem dX5_euler_90 : decode cX5_euler 90 = .ok (.iconst 0, 1) := dk_3 (dk_at dksX5_euler_3 20 rfl rfl)
theorem dX5_euler_91 : decode cX5_euler 91 = .ok (.istore_n 2, 1) := dk_61 (dk_at dksX5_euler_3 21 rfl rfl)
theorem dX5_euler_92 : decode cX5_euler 92 = .ok (.iload_n 2, 1) := dk_28 (dk_at dksX5_euler_3 22 rfl rfl)
theorem dX5_euler_93 : decode cX5_euler 93 = .ok (.iconst 4, 1) := dk_7 (dk_at dksX5_euler_3 23 rfl rfl)
theorem dX5_euler_94 : decode cX5_euler 94 = .ok (.aload_n 0, 1) := dk_42 (dk_at dksX5_euler_4 0 rfl rfl)
theorem dX5_euler_95 : decode cX5_euler 95 = .ok (.getfield 67, 3) := dk_180 0 67 (dk_at dksX5_euler_4 1 rfl rfl)
theorem dX5_euler_98 : decode cX5_euler 98 = .ok (.imul, 1) := dk_104 (dk_at dksX5_euler_4 4 rfl rfl)
theorem dX5_euler_99 : decode cX5_euler 99 = .ok (.if_icmp .ge 67, 3) := dk_162 0 67 (dk_at dksX5_euler_4 5 rfl rfl)
theorem dX5_euler_102 : decode cX5_euler 102 = .ok (.iconst 0, 1) := dk_3 (dk_at dksX5_euler_4 8 rfl rfl)
theorem dX5_euler_103 : decode cX5_euler 103 = .ok (.istore_n 3, 1) := dk_62 (dk_at dksX5_euler_4 9 rfl rfl)
theorem dX5_euler_104 : decode cX5_euler 104 = .ok (.iload_n 3, 1) := dk_29 (dk_at dksX5_euler_4 10 rfl rfl)
theorem dX5_euler_105 : decode cX5_euler 105 = .ok (.iconst 4, 1) := dk_7 (dk_at dksX5_euler_4 11 rfl rfl)
theorem dX5_euler_106 : decode cX5_euler 106 = .ok (.if_icmp .ge 54, 3) := dk_162 0 54 (dk_at dksX5_euler_4 12 rfl rfl)
theorem dX5_euler_109 : decode cX5_euler 109 = .ok (.iload_n 1, 1) := dk_27 (dk_at dksX5_euler_4 15 rfl rfl)
theorem dX5_euler_110 : decode cX5_euler 110 = .ok (.iload_n 3, 1) := dk_29 (dk_at dksX5_euler_4 16 rfl rfl)
theorem dX5_euler_111 : decode cX5_euler 111 = .ok (.iload_n 2, 1) := dk_28 (dk_at dksX5_euler_4 17 rfl rfl)
theorem dX5_euler_112 : decode cX5_euler 112 = .ok (.iconst 4, 1) := dk_7 (dk_at dksX5_euler_4 18 rfl rfl)
theorem dX5_euler_113 : decode cX5_euler 113 = .ok (.irem, 1) := dk_112 (dk_at dksX5_euler_4 19 rfl rfl)
theorem dX5_euler_114 : decode cX5_euler 114 = .ok (.if_icmp .eq 37, 3) := dk_159 0 37 (dk_at dksX5_euler_4 20 rfl rfl)
theorem dX5_euler_117 : decode cX5_euler 117 = .ok (.aload_n 0, 1) := dk_42 (dk_at dksX5_euler_4 23 rfl rfl)
theorem dX5_euler_118 : decode cX5_euler 118 = .ok (.getfield 7, 3) := dk_180 0 7 (dk_at dksX5_euler_5 0 rfl rfl)
theorem dX5_euler_121 : decode cX5_euler 121 = .ok (.iload_n 2, 1) := dk_28 (dk_at dksX5_euler_5 3 rfl rfl)
theorem dX5_euler_122 : decode cX5_euler 122 = .ok (.iaload, 1) := dk_46 (dk_at dksX5_euler_5 4 rfl rfl)
theorem dX5_euler_123 : decode cX5_euler 123 = .ok (.iconst (-1), 1) := dk_2 (dk_at dksX5_euler_5 5 rfl rfl)
theorem dX5_euler_124 : decode cX5_euler 124 = .ok (.if_icmp .eq 13, 3) := dk_159 0 13 (dk_at dksX5_euler_5 6 rfl rfl)
theorem dX5_euler_127 : decode cX5_euler 127 = .ok (.iload_n 2, 1) := dk_28 (dk_at dksX5_euler_5 9 rfl rfl)
theorem dX5_euler_128 : decode cX5_euler 128 = .ok (.aload_n 0, 1) := dk_42 (dk_at dksX5_euler_5 10 rfl rfl)
theorem dX5_euler_129 : decode cX5_euler 129 = .ok (.getfield 7, 3) := dk_180 0 7 (dk_at dksX5_euler_5 11 rfl rfl)
theorem dX5_euler_132 : decode cX5_euler 132 = .ok (.iload_n 2, 1) := dk_28 (dk_at dksX5_euler_5 14 rfl rfl)
theorem dX5_euler_133 : decode cX5_euler 133 = .ok (.iaload, 1) := dk_46 (dk_at dksX5_euler_5 15 rfl rfl)
theorem dX5_euler_134 : decode cX5_euler 134 = .ok (.if_icmp .ge 17, 3) := dk_162 0 17 (dk_at dksX5_euler_5 16 rfl rfl)
theorem dX5_euler_137 : decode cX5_euler 137 = .ok (.aload_n 0, 1) := dk_42 (dk_at dksX5_euler_5 19 rfl rfl)
theorem dX5_euler_138 : decode cX5_euler 138 = .ok (.iload_n 2, 1) := dk_28 (dk_at dksX5_euler_5 20 rfl rfl)
theorem dX5_euler_139 : decode cX5_euler 139 = .ok (.iconst 4, 1) := dk_7 (dk_at dksX5_euler_5 21 rfl rfl)
theorem dX5_euler_140 : decode cX5_euler 140 = .ok (.idiv, 1) := dk_108 (dk_at dksX5_euler_5 22 rfl rfl)
theorem dX5_euler_141 : decode cX5_euler 141 = .ok (.iload_n 2, 1) := dk_28 (dk_at dksX5_euler_5 23 rfl rfl)
theorem dX5_euler_142 : decode cX5_euler 142 = .ok (.iconst 4, 1) := dk_7 (dk_at dksX5_euler_6 0 rfl rfl)
theorem dX5_euler_143 : decode cX5_euler 143 = .ok (.irem, 1) := dk_112 (dk_at dksX5_euler_6 1 rfl rfl)
theorem dX5_euler_144 : decode cX5_euler 144 = .ok (.iload_n 3, 1) := dk_29 (dk_at dksX5_euler_6 2 rfl rfl)
theorem dX5_euler_145 : decode cX5_euler 145 = .ok (.invokevirtual 230, 3) := dk_182 0 230 (dk_at dksX5_euler_6 3 rfl rfl)
theorem dX5_euler_148 : decode cX5_euler 148 = .ok (.goto 4, 3) := dk_167 0 4 (dk_at dksX5_euler_6 6 rfl rfl)
theorem dX5_euler_151 : decode cX5_euler 151 = .ok (.iconst 0, 1) := dk_3 (dk_at dksX5_euler_6 9 rfl rfl)
theorem dX5_euler_152 : decode cX5_euler 152 = .ok (.isub, 1) := dk_100 (dk_at dksX5_euler_6 10 rfl rfl)
theorem dX5_euler_153 : decode cX5_euler 153 = .ok (.istore_n 1, 1) := dk_60 (dk_at dksX5_euler_6 11 rfl rfl)
theorem dX5_euler_154 : decode cX5_euler 154 = .ok (.iinc 3 1, 3) := dk_132 3 1 (dk_at dksX5_euler_6 12 rfl rfl)
theorem dX5_euler_157 : decode cX5_euler 157 = .ok (.goto (-53), 3) := dk_167 255 203 (dk_at dksX5_euler_6 15 rfl rfl)
theorem dX5_euler_160 : decode cX5_euler 160 = .ok (.iinc 2 1, 3) := dk_132 2 1 (dk_at dksX5_euler_6 18 rfl rfl)
theorem dX5_euler_163 : decode cX5_euler 163 = .ok (.goto (-71), 3) := dk_167 255 185 (dk_at dksX5_euler_6 21 rfl rfl)
theorem dX5_euler_166 : decode cX5_euler 166 = .ok (.iconst 0, 1) := dk_3 (dk_at dksX5_euler_7 0 rfl rfl)
theorem dX5_euler_167 : decode cX5_euler 167 = .ok (.istore_n 2, 1) := dk_61 (dk_at dksX5_euler_7 1 rfl rfl)
theorem dX5_euler_168 : decode cX5_euler 168 = .ok (.iload_n 2, 1) := dk_28 (dk_at dksX5_euler_7 2 rfl rfl)
theorem dX5_euler_169 : decode cX5_euler 169 = .ok (.bipush 7, 2) := dk_16 7 (dk_at dksX5_euler_7 3 rfl rfl)
theorem dX5_euler_171 : decode cX5_euler 171 = .ok (.aload_n 0, 1) := dk_42 (dk_at dksX5_euler_7 5 rfl rfl)
theorem dX5_euler_172 : decode cX5_euler 172 = .ok (.getfield 67, 3) := dk_180 0 67 (dk_at dksX5_euler_7 6 rfl rfl)
theorem dX5_euler_175 : decode cX5_euler 175 = .ok (.imul, 1) := dk_104 (dk_at dksX5_euler_7 9 rfl rfl)
theorem dX5_euler_176 : decode cX5_euler 176 = .ok (.if_icmp .ge 18, 3) := dk_162 0 18 (dk_at dksX5_euler_7 10 rfl rfl)
theorem dX5_euler_179 : decode cX5_euler 179 = .ok (.iload_n 1, 1) := dk_27 (dk_at dksX5_euler_7 13 rfl rfl)
theorem dX5_euler_180 : decode cX5_euler 180 = .ok (.aload_n 0, 1) := dk_42 (dk_at dksX5_euler_7 14 rfl rfl)
theorem dX5_euler_181 : decode cX5_euler 181 = .ok (.getfield 16, 3) := dk_180 0 16 (dk_at dksX5_euler_7 15 rfl rfl)
theorem dX5_euler_184 : decode cX5_euler 184 = .ok (.iload_n 2, 1) := dk_28 (dk_at dksX5_euler_7 18 rfl rfl)
theorem dX5_euler_185 : decode cX5_euler 185 = .ok (.iaload, 1) := dk_46 (dk_at dksX5_euler_7 19 rfl rfl)
theorem dX5_euler_186 : decode cX5_euler 186 = .ok (.iadd, 1) := dk_96 (dk_at dksX5_euler_7 20 rfl rfl)
theorem dX5_euler_187 : decode cX5_euler 187 = .ok (.istore_n 1, 1) := dk_60 (dk_at dksX5_euler_7 21 rfl rfl)
theorem dX5_euler_188 : decode cX5_euler 188 = .ok (.iinc 2 1, 3) := dk_132 2 1 (dk_at dksX5_euler_8 0 rfl rfl)
theorem dX5_euler_191 : decode cX5_euler 191 = .ok (.goto (-23), 3) := dk_167 255 233 (dk_at dksX5_euler_8 3 rfl rfl)
theorem dX5_euler_194 : decode cX5_euler 194 = .ok (.iload_n 1, 1) := dk_27 (dk_at dksX5_euler_8 6 rfl rfl)
theorem dX5_euler_195 : decode cX5_euler 195 = .ok (.ireturn, 1) := dk_172 (dk_at dksX5_euler_8 7 rfl rfl)
abbrev cX5_meets : ByteArray := prog_8_method_61_code
def yX5_meets : MethodName := ⟨RX5, "meets", "(II)Z"⟩
def dkwX5_meets_2 : List UInt8 := [184, 0, 186, 27, 7, 100, 159, 0, 7, 4, 167, 0, 4, 3, 172]
abbrev dktX5_meets_2 : List UInt8 := dkwX5_meets_2 ++ []
def dkwX5_meets_1 : List UInt8 := [160, 0, 7, 4, 167, 0, 33, 3, 167, 0, 29, 42, 180, 0, 19, 28, 46, 42, 180, 0, 22, 28, 46]
abbrev dktX5_meets_1 : List UInt8 := dkwX5_meets_1 ++ dktX5_meets_2
def dkwX5_meets_0 : List UInt8 := [27, 7, 162, 0, 31, 42, 180, 0, 19, 28, 46, 27, 159, 0, 13, 42, 180, 0, 22, 28, 46, 27]
abbrev dktX5_meets_0 : List UInt8 := dkwX5_meets_0 ++ dktX5_meets_1
theorem dksX5_meets_0 : cX5_meets.data.toList.drop 0 = dktX5_meets_0 := by decide +kernel
theorem dksX5_meets_1 : cX5_meets.data.toList.drop 22 = dktX5_meets_1 := dk_seg dksX5_meets_0 22 rfl rfl
theorem dksX5_meets_2 : cX5_meets.data.toList.drop 45 = dktX5_meets_2 := dk_seg dksX5_meets_1 23 rfl rfl
theorem dX5_meets_0 : decode cX5_meets 0 = .ok (.iload_n 1, 1) := dk_27 (dk_at dksX5_meets_0 0 rfl rfl)
theorem dX5_meets_1 : decode cX5_meets 1 = .ok (.iconst 4, 1) := dk_7 (dk_at dksX5_meets_0 1 rfl rfl)
theorem dX5_meets_2 : decode cX5_meets 2 = .ok (.if_icmp .ge 31, 3) := dk_162 0 31 (dk_at dksX5_meets_0 2 rfl rfl)
theorem dX5_meets_5 : decode cX5_meets 5 = .ok (.aload_n 0, 1) := dk_42 (dk_at dksX5_meets_0 5 rfl rfl)
theorem dX5_meets_6 : decode cX5_meets 6 = .ok (.getfield 19, 3) := dk_180 0 19 (dk_at dksX5_meets_0 6 rfl rfl)
theorem dX5_meets_9 : decode cX5_meets 9 = .ok (.iload_n 2, 1) := dk_28 (dk_at dksX5_meets_0 9 rfl rfl)
theorem dX5_meets_10 : decode cX5_meets 10 = .ok (.iaload, 1) := dk_46 (dk_at dksX5_meets_0 10 rfl rfl)
theorem dX5_meets_11 : decode cX5_meets 11 = .ok (.iload_n 1, 1) := dk_27 (dk_at dksX5_meets_0 11 rfl rfl)
theorem dX5_meets_12 : decode cX5_meets 12 = .ok (.if_icmp .eq 13, 3) := dk_159 0 13 (dk_at dksX5_meets_0 12 rfl rfl)
theorem dX5_meets_15 : decode cX5_meets 15 = .ok (.aload_n 0, 1) := dk_42 (dk_at dksX5_meets_0 15 rfl rfl)
theorem dX5_meets_16 : decode cX5_meets 16 = .ok (.getfield 22, 3) := dk_180 0 22 (dk_at dksX5_meets_0 16 rfl rfl)
theorem dX5_meets_19 : decode cX5_meets 19 = .ok (.iload_n 2, 1) := dk_28 (dk_at dksX5_meets_0 19 rfl rfl)
theorem dX5_meets_20 : decode cX5_meets 20 = .ok (.iaload, 1) := dk_46 (dk_at dksX5_meets_0 20 rfl rfl)
theorem dX5_meets_21 : decode cX5_meets 21 = .ok (.iload_n 1, 1) := dk_27 (dk_at dksX5_meets_0 21 rfl rfl)
theorem dX5_meets_22 : decode cX5_meets 22 = .ok (.if_icmp .ne 7, 3) := dk_160 0 7 (dk_at dksX5_meets_1 0 rfl rfl)
theorem dX5_meets_25 : decode cX5_meets 25 = .ok (.iconst 1, 1) := dk_4 (dk_at dksX5_meets_1 3 rfl rfl)
theorem dX5_meets_26 : decode cX5_meets 26 = .ok (.goto 33, 3) := dk_167 0 33 (dk_at dksX5_meets_1 4 rfl rfl)
theorem dX5_meets_29 : decode cX5_meets 29 = .ok (.iconst 0, 1) := dk_3 (dk_at dksX5_meets_1 7 rfl rfl)
theorem dX5_meets_30 : decode cX5_meets 30 = .ok (.goto 29, 3) := dk_167 0 29 (dk_at dksX5_meets_1 8 rfl rfl)
theorem dX5_meets_33 : decode cX5_meets 33 = .ok (.aload_n 0, 1) := dk_42 (dk_at dksX5_meets_1 11 rfl rfl)
theorem dX5_meets_34 : decode cX5_meets 34 = .ok (.getfield 19, 3) := dk_180 0 19 (dk_at dksX5_meets_1 12 rfl rfl)
theorem dX5_meets_37 : decode cX5_meets 37 = .ok (.iload_n 2, 1) := dk_28 (dk_at dksX5_meets_1 15 rfl rfl)
theorem dX5_meets_38 : decode cX5_meets 38 = .ok (.iaload, 1) := dk_46 (dk_at dksX5_meets_1 16 rfl rfl)
theorem dX5_meets_39 : decode cX5_meets 39 = .ok (.aload_n 0, 1) := dk_42 (dk_at dksX5_meets_1 17 rfl rfl)
theorem dX5_meets_40 : decode cX5_meets 40 = .ok (.getfield 22, 3) := dk_180 0 22 (dk_at dksX5_meets_1 18 rfl rfl)
theorem dX5_meets_43 : decode cX5_meets 43 = .ok (.iload_n 2, 1) := dk_28 (dk_at dksX5_meets_1 21 rfl rfl)
theorem dX5_meets_44 : decode cX5_meets 44 = .ok (.iaload, 1) := dk_46 (dk_at dksX5_meets_1 22 rfl rfl)
theorem dX5_meets_45 : decode cX5_meets 45 = .ok (.invokestatic 186, 3) := dk_184 0 186 (dk_at dksX5_meets_2 0 rfl rfl)
theorem dX5_meets_48 : decode cX5_meets 48 = .ok (.iload_n 1, 1) := dk_27 (dk_at dksX5_meets_2 3 rfl rfl)
theorem dX5_meets_49 : decode cX5_meets 49 = .ok (.iconst 4, 1) := dk_7 (dk_at dksX5_meets_2 4 rfl rfl)
theorem dX5_meets_50 : decode cX5_meets 50 = .ok (.isub, 1) := dk_100 (dk_at dksX5_meets_2 5 rfl rfl)
theorem dX5_meets_51 : decode cX5_meets 51 = .ok (.if_icmp .eq 7, 3) := dk_159 0 7 (dk_at dksX5_meets_2 6 rfl rfl)
theorem dX5_meets_54 : decode cX5_meets 54 = .ok (.iconst 1, 1) := dk_4 (dk_at dksX5_meets_2 9 rfl rfl)
theorem dX5_meets_55 : decode cX5_meets 55 = .ok (.goto 4, 3) := dk_167 0 4 (dk_at dksX5_meets_2 10 rfl rfl)
theorem dX5_meets_58 : decode cX5_meets 58 = .ok (.iconst 0, 1) := dk_3 (dk_at dksX5_meets_2 13 rfl rfl)
theorem dX5_meets_59 : decode cX5_meets 59 = .ok (.ireturn, 1) := dk_172 (dk_at dksX5_meets_2 14 rfl rfl)
abbrev cX5_parts : ByteArray := prog_8_method_68_code
def yX5_parts : MethodName := ⟨RX5, "parts", "()I"⟩
def dkwX5_parts_1 : List UInt8 := [164, 0, 8, 16, 252, 167, 0, 4, 27, 172]
abbrev dktX5_parts_1 : List UInt8 := dkwX5_parts_1 ++ []
def dkwX5_parts_0 : List UInt8 := [42, 182, 0, 233, 153, 0, 6, 16, 253, 172, 42, 182, 1, 1, 60, 42, 180, 0, 251, 17, 1, 144]
abbrev dktX5_parts_0 : List UInt8 := dkwX5_parts_0 ++ dktX5_parts_1
theorem dksX5_parts_0 : cX5_parts.data.toList.drop 0 = dktX5_parts_0 := by decide +kernel
theorem dksX5_parts_1 : cX5_parts.data.toList.drop 22 = dktX5_parts_1 := dk_seg dksX5_parts_0 22 rfl rfl
theorem dX5_parts_0 : decode cX5_parts 0 = .ok (.aload_n 0, 1) := dk_42 (dk_at dksX5_parts_0 0 rfl rfl)
theorem dX5_parts_1 : decode cX5_parts 1 = .ok (.invokevirtual 233, 3) := dk_182 0 233 (dk_at dksX5_parts_0 1 rfl rfl)
theorem dX5_parts_4 : decode cX5_parts 4 = .ok (.ifCond .eq 6, 3) := dk_153 0 6 (dk_at dksX5_parts_0 4 rfl rfl)
theorem dX5_parts_7 : decode cX5_parts 7 = .ok (.bipush (-3), 2) := dk_16 253 (dk_at dksX5_parts_0 7 rfl rfl)
theorem dX5_parts_9 : decode cX5_parts 9 = .ok (.ireturn, 1) := dk_172 (dk_at dksX5_parts_0 9 rfl rfl)
theorem dX5_parts_10 : decode cX5_parts 10 = .ok (.aload_n 0, 1) := dk_42 (dk_at dksX5_parts_0 10 rfl rfl)
theorem dX5_parts_11 : decode cX5_parts 11 = .ok (.invokevirtual 257, 3) := dk_182 1 1 (dk_at dksX5_parts_0 11 rfl rfl)
theorem dX5_parts_14 : decode cX5_parts 14 = .ok (.istore_n 1, 1) := dk_60 (dk_at dksX5_parts_0 14 rfl rfl)
theorem dX5_parts_15 : decode cX5_parts 15 = .ok (.aload_n 0, 1) := dk_42 (dk_at dksX5_parts_0 15 rfl rfl)
theorem dX5_parts_16 : decode cX5_parts 16 = .ok (.getfield 251, 3) := dk_180 0 251 (dk_at dksX5_parts_0 16 rfl rfl)
theorem dX5_parts_19 : decode cX5_parts 19 = .ok (.sipush 400, 3) := dk_17 1 144 (dk_at dksX5_parts_0 19 rfl rfl)
theorem dX5_parts_22 : decode cX5_parts 22 = .ok (.if_icmp .le 8, 3) := dk_164 0 8 (dk_at dksX5_parts_1 0 rfl rfl)
theorem dX5_parts_25 : decode cX5_parts 25 = .ok (.bipush (-4), 2) := dk_16 252 (dk_at dksX5_parts_1 3 rfl rfl)
theorem dX5_parts_27 : decode cX5_parts 27 = .ok (.goto 4, 3) := dk_167 0 4 (dk_at dksX5_parts_1 5 rfl rfl)
theorem dX5_parts_30 : decode cX5_parts 30 = .ok (.iload_n 1, 1) := dk_27 (dk_at dksX5_parts_1 8 rfl rfl)
theorem dX5_parts_31 : decode cX5_parts 31 = .ok (.ireturn, 1) := dk_172 (dk_at dksX5_parts_1 9 rfl rfl)
abbrev cX5_findParts : ByteArray := prog_8_method_67_code
def yX5_findParts : MethodName := ⟨RX5, "findParts", "()I"⟩
def dkwX5_findParts_8 : List UInt8 := [167, 255, 234, 42, 180, 0, 63, 27, 42, 180, 0, 248, 84, 132, 1, 1, 132, 2, 1, 167, 255, 156, 27, 172]
abbrev dktX5_findParts_8 : List UInt8 := dkwX5_findParts_8 ++ []
def dkwX5_findParts_7 : List UInt8 := [21, 4, 29, 162, 0, 22, 42, 42, 180, 0, 60, 21, 4, 46, 29, 182, 0, 254, 62, 132, 4, 1]
abbrev dktX5_findParts_7 : List UInt8 := dkwX5_findParts_7 ++ dktX5_findParts_8
def dkwX5_findParts_6 : List UInt8 := [180, 0, 57, 28, 4, 79, 42, 180, 0, 60, 3, 28, 79, 42, 3, 181, 0, 248, 4, 62, 3, 54, 4]
abbrev dktX5_findParts_6 : List UInt8 := dkwX5_findParts_6 ++ dktX5_findParts_7
def dkwX5_findParts_5 : List UInt8 := [17, 1, 144, 163, 0, 88, 42, 180, 0, 54, 28, 46, 2, 160, 0, 72, 42, 180, 0, 54, 28, 27, 79, 42]
abbrev dktX5_findParts_5 : List UInt8 := dkwX5_findParts_5 ++ dktX5_findParts_6
def dkwX5_findParts_4 : List UInt8 := [28, 2, 79, 132, 2, 1, 167, 255, 228, 3, 61, 28, 42, 180, 0, 251, 162, 0, 98, 42, 180, 0, 251]
abbrev dktX5_findParts_4 : List UInt8 := dkwX5_findParts_4 ++ dktX5_findParts_5
def dkwX5_findParts_3 : List UInt8 := [3, 61, 28, 42, 180, 0, 251, 162, 0, 26, 42, 180, 0, 251, 17, 1, 144, 163, 0, 16, 42, 180, 0, 54]
abbrev dktX5_findParts_3 : List UInt8 := dkwX5_findParts_3 ++ dktX5_findParts_4
def dkwX5_findParts_2 : List UInt8 := [132, 1, 1, 167, 255, 217, 42, 180, 0, 51, 16, 7, 42, 180, 0, 67, 104, 42, 180, 0, 251, 79, 3, 60]
abbrev dktX5_findParts_2 : List UInt8 := dkwX5_findParts_2 ++ dktX5_findParts_3
def dkwX5_findParts_1 : List UInt8 := [180, 0, 51, 27, 42, 180, 0, 251, 79, 42, 89, 180, 0, 251, 42, 180, 0, 16, 27, 46, 96, 181, 0, 251]
abbrev dktX5_findParts_1 : List UInt8 := dkwX5_findParts_1 ++ dktX5_findParts_2
def dkwX5_findParts_0 : List UInt8 := [42, 182, 0, 118, 42, 3, 181, 0, 251, 3, 60, 27, 16, 7, 42, 180, 0, 67, 104, 162, 0, 34, 42]
abbrev dktX5_findParts_0 : List UInt8 := dkwX5_findParts_0 ++ dktX5_findParts_1
theorem dksX5_findParts_0 : cX5_findParts.data.toList.drop 0 = dktX5_findParts_0 := by decide +kernel
theorem dksX5_findParts_1 : cX5_findParts.data.toList.drop 23 = dktX5_findParts_1 := dk_seg dksX5_findParts_0 23 rfl rfl
theorem dksX5_findParts_2 : cX5_findParts.data.toList.drop 47 = dktX5_findParts_2 := dk_seg dksX5_findParts_1 24 rfl rfl
theorem dksX5_findParts_3 : cX5_findParts.data.toList.drop 71 = dktX5_findParts_3 := dk_seg dksX5_findParts_2 24 rfl rfl
theorem dksX5_findParts_4 : cX5_findParts.data.toList.drop 95 = dktX5_findParts_4 := dk_seg dksX5_findParts_3 24 rfl rfl
theorem dksX5_findParts_5 : cX5_findParts.data.toList.drop 118 = dktX5_findParts_5 := dk_seg dksX5_findParts_4 23 rfl rfl
theorem dksX5_findParts_6 : cX5_findParts.data.toList.drop 142 = dktX5_findParts_6 := dk_seg dksX5_findParts_5 24 rfl rfl
theorem dksX5_findParts_7 : cX5_findParts.data.toList.drop 165 = dktX5_findParts_7 := dk_seg dksX5_findParts_6 23 rfl rfl
theorem dksX5_findParts_8 : cX5_findParts.data.toList.drop 187 = dktX5_findParts_8 := dk_seg dksX5_findParts_7 22 rfl rfl
theorem dX5_findParts_0 : decode cX5_findParts 0 = .ok (.aload_n 0, 1) := dk_42 (dk_at dksX5_findParts_0 0 rfl rfl)
theorem dX5_findParts_1 : decode cX5_findParts 1 = .ok (.invokevirtual 118, 3) := dk_182 0 118 (dk_at dksX5_findParts_0 1 rfl rfl)
theorem dX5_findParts_4 : decode cX5_findParts 4 = .ok (.aload_n 0, 1) := dk_42 (dk_at dksX5_findParts_0 4 rfl rfl)
theorem dX5_findParts_5 : decode cX5_findParts 5 = .ok (.iconst 0, 1) := dk_3 (dk_at dksX5_findParts_0 5 rfl rfl)
theorem dX5_findParts_6 : decode cX5_findParts 6 = .ok (.putfield 251, 3) := dk_181 0 251 (dk_at dksX5_findParts_0 6 rfl rfl)
theorem dX5_findParts_9 : decode cX5_findParts 9 = .ok (.iconst 0, 1) := dk_3 (dk_at dksX5_findParts_0 9 rfl rfl)
theorem dX5_findParts_10 : decode cX5_findParts 10 = .ok (.istore_n 1, 1) := dk_60 (dk_at dksX5_findParts_0 10 rfl rfl)
theorem dX5_findParts_11 : decode cX5_findParts 11 = .ok (.iload_n 1, 1) := dk_27 (dk_at dksX5_findParts_0 11 rfl rfl)
theorem dX5_findParts_12 : decode cX5_findParts 12 = .ok (.bipush 7, 2) := dk_16 7 (dk_at dksX5_findParts_0 12 rfl rfl)
theorem dX5_findParts_14 : decode cX5_findParts 14 = .ok (.aload_n 0, 1) := dk_42 (dk_at dksX5_findParts_0 14 rfl rfl)
theorem dX5_findParts_15 : decode cX5_findParts 15 = .ok (.getfield 67, 3) := dk_180 0 67 (dk_at dksX5_findParts_0 15 rfl rfl)
theorem dX5_findParts_18 : decode cX5_findParts 18 = .ok (.imul, 1) := dk_104 (dk_at dksX5_findParts_0 18 rfl rfl)
theorem dX5_findParts_19 : decode cX5_findParts 19 = .ok (.if_icmp .ge 34, 3) := dk_162 0 34 (dk_at dksX5_findParts_0 19 rfl rfl)
theorem dX5_findParts_22 : decode cX5_findParts 22 = .ok (.aload_n 0, 1) := dk_42 (dk_at dksX5_findParts_0 22 rfl rfl)
theorem dX5_findParts_23 : decode cX5_findParts 23 = .ok (.getfield 51, 3) := dk_180 0 51 (dk_at dksX5_findParts_1 0 rfl rfl)
theorem dX5_findParts_26 : decode cX5_findParts 26 = .ok (.iload_n 1, 1) := dk_27 (dk_at dksX5_findParts_1 3 rfl rfl)
theorem dX5_findParts_27 : decode cX5_findParts 27 = .ok (.aload_n 0, 1) := dk_42 (dk_at dksX5_findParts_1 4 rfl rfl)
theorem dX5_findParts_28 : decode cX5_findParts 28 = .ok (.getfield 251, 3) := dk_180 0 251 (dk_at dksX5_findParts_1 5 rfl rfl)
theorem dX5_findParts_31 : decode cX5_findParts 31 = .ok (.iastore, 1) := dk_79 (dk_at dksX5_findParts_1 8 rfl rfl)
theorem dX5_findParts_32 : decode cX5_findParts 32 = .ok (.aload_n 0, 1) := dk_42 (dk_at dksX5_findParts_1 9 rfl rfl)
theorem dX5_findParts_33 : decode cX5_findParts 33 = .ok (.dup, 1) := dk_89 (dk_at dksX5_findParts_1 10 rfl rfl)
theorem dX5_findParts_34 : decode cX5_findParts 34 = .ok (.getfield 251, 3) := dk_180 0 251 (dk_at dksX5_findParts_1 11 rfl rfl)
theorem dX5_findParts_37 : decode cX5_findParts 37 = .ok (.aload_n 0, 1) := dk_42 (dk_at dksX5_findParts_1 14 rfl rfl)
theorem dX5_findParts_38 : decode cX5_findParts 38 = .ok (.getfield 16, 3) := dk_180 0 16 (dk_at dksX5_findParts_1 15 rfl rfl)
theorem dX5_findParts_41 : decode cX5_findParts 41 = .ok (.iload_n 1, 1) := dk_27 (dk_at dksX5_findParts_1 18 rfl rfl)
theorem dX5_findParts_42 : decode cX5_findParts 42 = .ok (.iaload, 1) := dk_46 (dk_at dksX5_findParts_1 19 rfl rfl)
theorem dX5_findParts_43 : decode cX5_findParts 43 = .ok (.iadd, 1) := dk_96 (dk_at dksX5_findParts_1 20 rfl rfl)
theorem dX5_findParts_44 : decode cX5_findParts 44 = .ok (.putfield 251, 3) := dk_181 0 251 (dk_at dksX5_findParts_1 21 rfl rfl)
theorem dX5_findParts_47 : decode cX5_findParts 47 = .ok (.iinc 1 1, 3) := dk_132 1 1 (dk_at dksX5_findParts_2 0 rfl rfl)
theorem dX5_findParts_50 : decode cX5_findParts 50 = .ok (.goto (-39), 3) := dk_167 255 217 (dk_at dksX5_findParts_2 3 rfl rfl)
theorem dX5_findParts_53 : decode cX5_findParts 53 = .ok (.aload_n 0, 1) := dk_42 (dk_at dksX5_findParts_2 6 rfl rfl)
theorem dX5_findParts_54 : decode cX5_findParts 54 = .ok (.getfield 51, 3) := dk_180 0 51 (dk_at dksX5_findParts_2 7 rfl rfl)
theorem dX5_findParts_57 : decode cX5_findParts 57 = .ok (.bipush 7, 2) := dk_16 7 (dk_at dksX5_findParts_2 10 rfl rfl)
theorem dX5_findParts_59 : decode cX5_findParts 59 = .ok (.aload_n 0, 1) := dk_42 (dk_at dksX5_findParts_2 12 rfl rfl)
theorem dX5_findParts_60 : decode cX5_findParts 60 = .ok (.getfield 67, 3) := dk_180 0 67 (dk_at dksX5_findParts_2 13 rfl rfl)
theorem dX5_findParts_63 : decode cX5_findParts 63 = .ok (.imul, 1) := dk_104 (dk_at dksX5_findParts_2 16 rfl rfl)
theorem dX5_findParts_64 : decode cX5_findParts 64 = .ok (.aload_n 0, 1) := dk_42 (dk_at dksX5_findParts_2 17 rfl rfl)
theorem dX5_findParts_65 : decode cX5_findParts 65 = .ok (.getfield 251, 3) := dk_180 0 251 (dk_at dksX5_findParts_2 18 rfl rfl)
theorem dX5_findParts_68 : decode cX5_findParts 68 = .ok (.iastore, 1) := dk_79 (dk_at dksX5_findParts_2 21 rfl rfl)
theorem dX5_findParts_69 : decode cX5_findParts 69 = .ok (.iconst 0, 1) := dk_3 (dk_at dksX5_findParts_2 22 rfl rfl)
theorem dX5_findParts_70 : decode cX5_findParts 70 = .ok (.istore_n 1, 1) := dk_60 (dk_at dksX5_findParts_2 23 rfl rfl)
theorem dX5_findParts_71 : decode cX5_findParts 71 = .ok (.iconst 0, 1) := dk_3 (dk_at dksX5_findParts_3 0 rfl rfl)
theorem dX5_findParts_72 : decode cX5_findParts 72 = .ok (.istore_n 2, 1) := dk_61 (dk_at dksX5_findParts_3 1 rfl rfl)
theorem dX5_findParts_73 : decode cX5_findParts 73 = .ok (.iload_n 2, 1) := dk_28 (dk_at dksX5_findParts_3 2 rfl rfl)
theorem dX5_findParts_74 : decode cX5_findParts 74 = .ok (.aload_n 0, 1) := dk_42 (dk_at dksX5_findParts_3 3 rfl rfl)
theorem dX5_findParts_75 : decode cX5_findParts 75 = .ok (.getfield 251, 3) := dk_180 0 251 (dk_at dksX5_findParts_3 4 rfl rfl)
theorem dX5_findParts_78 : decode cX5_findParts 78 = .ok (.if_icmp .ge 26, 3) := dk_162 0 26 (dk_at dksX5_findParts_3 7 rfl rfl)
theorem dX5_findParts_81 : decode cX5_findParts 81 = .ok (.aload_n 0, 1) := dk_42 (dk_at dksX5_findParts_3 10 rfl rfl)
theorem dX5_findParts_82 : decode cX5_findParts 82 = .ok (.getfield 251, 3) := dk_180 0 251 (dk_at dksX5_findParts_3 11 rfl rfl)
theorem dX5_findParts_85 : decode cX5_findParts 85 = .ok (.sipush 400, 3) := dk_17 1 144 (dk_at dksX5_findParts_3 14 rfl rfl)
theorem dX5_findParts_88 : decode cX5_findParts 88 = .ok (.if_icmp .gt 16, 3) := dk_163 0 16 (dk_at dksX5_findParts_3 17 rfl rfl)
theorem dX5_findParts_91 : decode cX5_findParts 91 = .ok (.aload_n 0, 1) := dk_42 (dk_at dksX5_findParts_3 20 rfl rfl)
theorem dX5_findParts_92 : decode cX5_findParts 92 = .ok (.getfield 54, 3) := dk_180 0 54 (dk_at dksX5_findParts_3 21 rfl rfl)
theorem dX5_findParts_95 : decode cX5_findParts 95 = .ok (.iload_n 2, 1) := dk_28 (dk_at dksX5_findParts_4 0 rfl rfl)
theorem dX5_findParts_96 : decode cX5_findParts 96 = .ok (.iconst (-1), 1) := dk_2 (dk_at dksX5_findParts_4 1 rfl rfl)
theorem dX5_findParts_97 : decode cX5_findParts 97 = .ok (.iastore, 1) := dk_79 (dk_at dksX5_findParts_4 2 rfl rfl)
theorem dX5_findParts_98 : decode cX5_findParts 98 = .ok (.iinc 2 1, 3) := dk_132 2 1 (dk_at dksX5_findParts_4 3 rfl rfl)
theorem dX5_findParts_101 : decode cX5_findParts 101 = .ok (.goto (-28), 3) := dk_167 255 228 (dk_at dksX5_findParts_4 6 rfl rfl)
theorem dX5_findParts_104 : decode cX5_findParts 104 = .ok (.iconst 0, 1) := dk_3 (dk_at dksX5_findParts_4 9 rfl rfl)
theorem dX5_findParts_105 : decode cX5_findParts 105 = .ok (.istore_n 2, 1) := dk_61 (dk_at dksX5_findParts_4 10 rfl rfl)
theorem dX5_findParts_106 : decode cX5_findParts 106 = .ok (.iload_n 2, 1) := dk_28 (dk_at dksX5_findParts_4 11 rfl rfl)
theorem dX5_findParts_107 : decode cX5_findParts 107 = .ok (.aload_n 0, 1) := dk_42 (dk_at dksX5_findParts_4 12 rfl rfl)
theorem dX5_findParts_108 : decode cX5_findParts 108 = .ok (.getfield 251, 3) := dk_180 0 251 (dk_at dksX5_findParts_4 13 rfl rfl)
theorem dX5_findParts_111 : decode cX5_findParts 111 = .ok (.if_icmp .ge 98, 3) := dk_162 0 98 (dk_at dksX5_findParts_4 16 rfl rfl)
theorem dX5_findParts_114 : decode cX5_findParts 114 = .ok (.aload_n 0, 1) := dk_42 (dk_at dksX5_findParts_4 19 rfl rfl)
theorem dX5_findParts_115 : decode cX5_findParts 115 = .ok (.getfield 251, 3) := dk_180 0 251 (dk_at dksX5_findParts_4 20 rfl rfl)
theorem dX5_findParts_118 : decode cX5_findParts 118 = .ok (.sipush 400, 3) := dk_17 1 144 (dk_at dksX5_findParts_5 0 rfl rfl)
theorem dX5_findParts_121 : decode cX5_findParts 121 = .ok (.if_icmp .gt 88, 3) := dk_163 0 88 (dk_at dksX5_findParts_5 3 rfl rfl)
theorem dX5_findParts_124 : decode cX5_findParts 124 = .ok (.aload_n 0, 1) := dk_42 (dk_at dksX5_findParts_5 6 rfl rfl)
theorem dX5_findParts_125 : decode cX5_findParts 125 = .ok (.getfield 54, 3) := dk_180 0 54 (dk_at dksX5_findParts_5 7 rfl rfl)
theorem dX5_findParts_128 : decode cX5_findParts 128 = .ok (.iload_n 2, 1) := dk_28 (dk_at dksX5_findParts_5 10 rfl rfl)
theorem dX5_findParts_129 : decode cX5_findParts 129 = .ok (.iaload, 1) := dk_46 (dk_at dksX5_findParts_5 11 rfl rfl)
theorem dX5_findParts_130 : decode cX5_findParts 130 = .ok (.iconst (-1), 1) := dk_2 (dk_at dksX5_findParts_5 12 rfl rfl)
theorem dX5_findParts_131 : decode cX5_findParts 131 = .ok (.if_icmp .ne 72, 3) := dk_160 0 72 (dk_at dksX5_findParts_5 13 rfl rfl)
theorem dX5_findParts_134 : decode cX5_findParts 134 = .ok (.aload_n 0, 1) := dk_42 (dk_at dksX5_findParts_5 16 rfl rfl)
theorem dX5_findParts_135 : decode cX5_findParts 135 = .ok (.getfield 54, 3) := dk_180 0 54 (dk_at dksX5_findParts_5 17 rfl rfl)
theorem dX5_findParts_138 : decode cX5_findParts 138 = .ok (.iload_n 2, 1) := dk_28 (dk_at dksX5_findParts_5 20 rfl rfl)
theorem dX5_findParts_139 : decode cX5_findParts 139 = .ok (.iload_n 1, 1) := dk_27 (dk_at dksX5_findParts_5 21 rfl rfl)
theorem dX5_findParts_140 : decode cX5_findParts 140 = .ok (.iastore, 1) := dk_79 (dk_at dksX5_findParts_5 22 rfl rfl)
theorem dX5_findParts_141 : decode cX5_findParts 141 = .ok (.aload_n 0, 1) := dk_42 (dk_at dksX5_findParts_5 23 rfl rfl)
theorem dX5_findParts_142 : decode cX5_findParts 142 = .ok (.getfield 57, 3) := dk_180 0 57 (dk_at dksX5_findParts_6 0 rfl rfl)
theorem dX5_findParts_145 : decode cX5_findParts 145 = .ok (.iload_n 2, 1) := dk_28 (dk_at dksX5_findParts_6 3 rfl rfl)
theorem dX5_findParts_146 : decode cX5_findParts 146 = .ok (.iconst 1, 1) := dk_4 (dk_at dksX5_findParts_6 4 rfl rfl)
theorem dX5_findParts_147 : decode cX5_findParts 147 = .ok (.iastore, 1) := dk_79 (dk_at dksX5_findParts_6 5 rfl rfl)
theorem dX5_findParts_148 : decode cX5_findParts 148 = .ok (.aload_n 0, 1) := dk_42 (dk_at dksX5_findParts_6 6 rfl rfl)
theorem dX5_findParts_149 : decode cX5_findParts 149 = .ok (.getfield 60, 3) := dk_180 0 60 (dk_at dksX5_findParts_6 7 rfl rfl)
theorem dX5_findParts_152 : decode cX5_findParts 152 = .ok (.iconst 0, 1) := dk_3 (dk_at dksX5_findParts_6 10 rfl rfl)
theorem dX5_findParts_153 : decode cX5_findParts 153 = .ok (.iload_n 2, 1) := dk_28 (dk_at dksX5_findParts_6 11 rfl rfl)
theorem dX5_findParts_154 : decode cX5_findParts 154 = .ok (.iastore, 1) := dk_79 (dk_at dksX5_findParts_6 12 rfl rfl)
theorem dX5_findParts_155 : decode cX5_findParts 155 = .ok (.aload_n 0, 1) := dk_42 (dk_at dksX5_findParts_6 13 rfl rfl)
theorem dX5_findParts_156 : decode cX5_findParts 156 = .ok (.iconst 0, 1) := dk_3 (dk_at dksX5_findParts_6 14 rfl rfl)
theorem dX5_findParts_157 : decode cX5_findParts 157 = .ok (.putfield 248, 3) := dk_181 0 248 (dk_at dksX5_findParts_6 15 rfl rfl)
theorem dX5_findParts_160 : decode cX5_findParts 160 = .ok (.iconst 1, 1) := dk_4 (dk_at dksX5_findParts_6 18 rfl rfl)
theorem dX5_findParts_161 : decode cX5_findParts 161 = .ok (.istore_n 3, 1) := dk_62 (dk_at dksX5_findParts_6 19 rfl rfl)
theorem dX5_findParts_162 : decode cX5_findParts 162 = .ok (.iconst 0, 1) := dk_3 (dk_at dksX5_findParts_6 20 rfl rfl)
theorem dX5_findParts_163 : decode cX5_findParts 163 = .ok (.istore 4, 2) := dk_54 4 (dk_at dksX5_findParts_6 21 rfl rfl)
theorem dX5_findParts_165 : decode cX5_findParts 165 = .ok (.iload 4, 2) := dk_21 4 (dk_at dksX5_findParts_7 0 rfl rfl)
theorem dX5_findParts_167 : decode cX5_findParts 167 = .ok (.iload_n 3, 1) := dk_29 (dk_at dksX5_findParts_7 2 rfl rfl)
theorem dX5_findParts_168 : decode cX5_findParts 168 = .ok (.if_icmp .ge 22, 3) := dk_162 0 22 (dk_at dksX5_findParts_7 3 rfl rfl)
theorem dX5_findParts_171 : decode cX5_findParts 171 = .ok (.aload_n 0, 1) := dk_42 (dk_at dksX5_findParts_7 6 rfl rfl)
theorem dX5_findParts_172 : decode cX5_findParts 172 = .ok (.aload_n 0, 1) := dk_42 (dk_at dksX5_findParts_7 7 rfl rfl)
theorem dX5_findParts_173 : decode cX5_findParts 173 = .ok (.getfield 60, 3) := dk_180 0 60 (dk_at dksX5_findParts_7 8 rfl rfl)
theorem dX5_findParts_176 : decode cX5_findParts 176 = .ok (.iload 4, 2) := dk_21 4 (dk_at dksX5_findParts_7 11 rfl rfl)
theorem dX5_findParts_178 : decode cX5_findParts 178 = .ok (.iaload, 1) := dk_46 (dk_at dksX5_findParts_7 13 rfl rfl)
theorem dX5_findParts_179 : decode cX5_findParts 179 = .ok (.iload_n 3, 1) := dk_29 (dk_at dksX5_findParts_7 14 rfl rfl)
theorem dX5_findParts_180 : decode cX5_findParts 180 = .ok (.invokevirtual 254, 3) := dk_182 0 254 (dk_at dksX5_findParts_7 15 rfl rfl)
theorem dX5_findParts_183 : decode cX5_findParts 183 = .ok (.istore_n 3, 1) := dk_62 (dk_at dksX5_findParts_7 18 rfl rfl)
theorem dX5_findParts_184 : decode cX5_findParts 184 = .ok (.iinc 4 1, 3) := dk_132 4 1 (dk_at dksX5_findParts_7 19 rfl rfl)
theorem dX5_findParts_187 : decode cX5_findParts 187 = .ok (.goto (-22), 3) := dk_167 255 234 (dk_at dksX5_findParts_8 0 rfl rfl)
theorem dX5_findParts_190 : decode cX5_findParts 190 = .ok (.aload_n 0, 1) := dk_42 (dk_at dksX5_findParts_8 3 rfl rfl)
theorem dX5_findParts_191 : decode cX5_findParts 191 = .ok (.getfield 63, 3) := dk_180 0 63 (dk_at dksX5_findParts_8 4 rfl rfl)
theorem dX5_findParts_194 : decode cX5_findParts 194 = .ok (.iload_n 1, 1) := dk_27 (dk_at dksX5_findParts_8 7 rfl rfl)
theorem dX5_findParts_195 : decode cX5_findParts 195 = .ok (.aload_n 0, 1) := dk_42 (dk_at dksX5_findParts_8 8 rfl rfl)
theorem dX5_findParts_196 : decode cX5_findParts 196 = .ok (.getfield 248, 3) := dk_180 0 248 (dk_at dksX5_findParts_8 9 rfl rfl)
theorem dX5_findParts_199 : decode cX5_findParts 199 = .ok (.bastore, 1) := dk_84 (dk_at dksX5_findParts_8 12 rfl rfl)
theorem dX5_findParts_200 : decode cX5_findParts 200 = .ok (.iinc 1 1, 3) := dk_132 1 1 (dk_at dksX5_findParts_8 13 rfl rfl)
theorem dX5_findParts_203 : decode cX5_findParts 203 = .ok (.iinc 2 1, 3) := dk_132 2 1 (dk_at dksX5_findParts_8 16 rfl rfl)
theorem dX5_findParts_206 : decode cX5_findParts 206 = .ok (.goto (-100), 3) := dk_167 255 156 (dk_at dksX5_findParts_8 19 rfl rfl)
theorem dX5_findParts_209 : decode cX5_findParts 209 = .ok (.iload_n 1, 1) := dk_27 (dk_at dksX5_findParts_8 22 rfl rfl)
theorem dX5_findParts_210 : decode cX5_findParts 210 = .ok (.ireturn, 1) := dk_172 (dk_at dksX5_findParts_8 23 rfl rfl)
abbrev cX5_spread : ByteArray := prog_8_method_66_code
def yX5_spread : MethodName := ⟨RX5, "spread", "(II)I"⟩
def dkwX5_spread_11 : List UInt8 := [167, 255, 35, 132, 5, 1, 167, 255, 15, 29, 172]
abbrev dktX5_spread_11 : List UInt8 := dkwX5_spread_11 ++ []
def dkwX5_spread_10 : List UInt8 := [46, 21, 10, 159, 0, 7, 4, 167, 0, 4, 3, 181, 0, 248, 132, 7, 1, 167, 255, 61, 132, 6, 1]
abbrev dktX5_spread_10 : List UInt8 := dkwX5_spread_10 ++ dktX5_spread_11
def dkwX5_spread_9 : List UInt8 := [180, 0, 60, 29, 21, 9, 79, 132, 3, 1, 42, 42, 180, 0, 248, 154, 0, 15, 42, 180, 0, 57, 21, 9]
abbrev dktX5_spread_9 : List UInt8 := dkwX5_spread_9 ++ dktX5_spread_10
def dkwX5_spread_8 : List UInt8 := [180, 0, 54, 21, 9, 42, 180, 0, 54, 27, 46, 79, 42, 180, 0, 57, 21, 9, 21, 10, 79, 42]
abbrev dktX5_spread_8 : List UInt8 := dkwX5_spread_8 ++ dktX5_spread_9
def dkwX5_spread_7 : List UInt8 := [167, 0, 10, 42, 180, 0, 57, 27, 46, 116, 54, 10, 42, 180, 0, 54, 21, 9, 46, 2, 160, 0, 36, 42]
abbrev dktX5_spread_7 : List UInt8 := dkwX5_spread_7 ++ dktX5_spread_8
def dkwX5_spread_6 : List UInt8 := [180, 0, 7, 21, 5, 46, 21, 8, 21, 7, 182, 0, 245, 160, 0, 12, 42, 180, 0, 57, 27, 46]
abbrev dktX5_spread_6 : List UInt8 := dkwX5_spread_6 ++ dktX5_spread_7
def dkwX5_spread_5 : List UInt8 := [46, 21, 8, 21, 7, 182, 0, 242, 54, 9, 42, 21, 5, 21, 6, 21, 7, 182, 0, 245, 42, 42]
abbrev dktX5_spread_5 : List UInt8 := dkwX5_spread_5 ++ dktX5_spread_6
def dkwX5_spread_4 : List UInt8 := [167, 0, 152, 42, 180, 0, 13, 7, 21, 5, 104, 21, 6, 96, 46, 54, 8, 42, 42, 180, 0, 7, 21, 5]
abbrev dktX5_spread_4 : List UInt8 := dkwX5_spread_4 ++ dktX5_spread_5
def dkwX5_spread_3 : List UInt8 := [21, 6, 182, 0, 230, 162, 0, 175, 42, 21, 5, 21, 6, 21, 7, 182, 0, 242, 27, 159, 0, 6]
abbrev dktX5_spread_3 : List UInt8 := dkwX5_spread_3 ++ dktX5_spread_4
def dkwX5_spread_2 : List UInt8 := [159, 0, 210, 3, 54, 7, 21, 6, 21, 5, 7, 112, 159, 0, 192, 21, 7, 42, 21, 4, 21, 5, 7, 112]
abbrev dktX5_spread_2 : List UInt8 := dkwX5_spread_2 ++ dktX5_spread_3
def dkwX5_spread_1 : List UInt8 := [7, 96, 162, 0, 236, 3, 54, 6, 21, 6, 7, 162, 0, 221, 42, 180, 0, 7, 21, 5, 46, 2]
abbrev dktX5_spread_1 : List UInt8 := dkwX5_spread_1 ++ dktX5_spread_2
def dkwX5_spread_0 : List UInt8 := [28, 62, 42, 27, 182, 0, 239, 16, 7, 108, 54, 4, 7, 21, 4, 104, 54, 5, 21, 5, 7, 21, 4, 104]
abbrev dktX5_spread_0 : List UInt8 := dkwX5_spread_0 ++ dktX5_spread_1
theorem dksX5_spread_0 : cX5_spread.data.toList.drop 0 = dktX5_spread_0 := by decide +kernel
theorem dksX5_spread_1 : cX5_spread.data.toList.drop 24 = dktX5_spread_1 := dk_seg dksX5_spread_0 24 rfl rfl
theorem dksX5_spread_2 : cX5_spread.data.toList.drop 46 = dktX5_spread_2 := dk_seg dksX5_spread_1 22 rfl rfl
theorem dksX5_spread_3 : cX5_spread.data.toList.drop 70 = dktX5_spread_3 := dk_seg dksX5_spread_2 24 rfl rfl
theorem dksX5_spread_4 : cX5_spread.data.toList.drop 92 = dktX5_spread_4 := dk_seg dksX5_spread_3 22 rfl rfl
theorem dksX5_spread_5 : cX5_spread.data.toList.drop 116 = dktX5_spread_5 := dk_seg dksX5_spread_4 24 rfl rfl
theorem dksX5_spread_6 : cX5_spread.data.toList.drop 138 = dktX5_spread_6 := dk_seg dksX5_spread_5 22 rfl rfl
theorem dksX5_spread_7 : cX5_spread.data.toList.drop 160 = dktX5_spread_7 := dk_seg dksX5_spread_6 22 rfl rfl
theorem dksX5_spread_8 : cX5_spread.data.toList.drop 184 = dktX5_spread_8 := dk_seg dksX5_spread_7 24 rfl rfl
theorem dksX5_spread_9 : cX5_spread.data.toList.drop 206 = dktX5_spread_9 := dk_seg dksX5_spread_8 22 rfl rfl
theorem dksX5_spread_10 : cX5_spread.data.toList.drop 230 = dktX5_spread_10 := dk_seg dksX5_spread_9 24 rfl rfl
theorem dksX5_spread_11 : cX5_spread.data.toList.drop 253 = dktX5_spread_11 := dk_seg dksX5_spread_10 23 rfl rfl
theorem dX5_spread_0 : decode cX5_spread 0 = .ok (.iload_n 2, 1) := dk_28 (dk_at dksX5_spread_0 0 rfl rfl)
theorem dX5_spread_1 : decode cX5_spread 1 = .ok (.istore_n 3, 1) := dk_62 (dk_at dksX5_spread_0 1 rfl rfl)
theorem dX5_spread_2 : decode cX5_spread 2 = .ok (.aload_n 0, 1) := dk_42 (dk_at dksX5_spread_0 2 rfl rfl)
theorem dX5_spread_3 : decode cX5_spread 3 = .ok (.iload_n 1, 1) := dk_27 (dk_at dksX5_spread_0 3 rfl rfl)
theorem dX5_spread_4 : decode cX5_spread 4 = .ok (.invokevirtual 239, 3) := dk_182 0 239 (dk_at dksX5_spread_0 4 rfl rfl)
theorem dX5_spread_7 : decode cX5_spread 7 = .ok (.bipush 7, 2) := dk_16 7 (dk_at dksX5_spread_0 7 rfl rfl)
theorem dX5_spread_9 : decode cX5_spread 9 = .ok (.idiv, 1) := dk_108 (dk_at dksX5_spread_0 9 rfl rfl)
theorem dX5_spread_10 : decode cX5_spread 10 = .ok (.istore 4, 2) := dk_54 4 (dk_at dksX5_spread_0 10 rfl rfl)
theorem dX5_spread_12 : decode cX5_spread 12 = .ok (.iconst 4, 1) := dk_7 (dk_at dksX5_spread_0 12 rfl rfl)
theorem dX5_spread_13 : decode cX5_spread 13 = .ok (.iload 4, 2) := dk_21 4 (dk_at dksX5_spread_0 13 rfl rfl)
theorem dX5_spread_15 : decode cX5_spread 15 = .ok (.imul, 1) := dk_104 (dk_at dksX5_spread_0 15 rfl rfl)
theorem dX5_spread_16 : decode cX5_spread 16 = .ok (.istore 5, 2) := dk_54 5 (dk_at dksX5_spread_0 16 rfl rfl)
theorem dX5_spread_18 : decode cX5_spread 18 = .ok (.iload 5, 2) := dk_21 5 (dk_at dksX5_spread_0 18 rfl rfl)
theorem dX5_spread_20 : decode cX5_spread 20 = .ok (.iconst 4, 1) := dk_7 (dk_at dksX5_spread_0 20 rfl rfl)
theorem dX5_spread_21 : decode cX5_spread 21 = .ok (.iload 4, 2) := dk_21 4 (dk_at dksX5_spread_0 21 rfl rfl)
theorem dX5_spread_23 : decode cX5_spread 23 = .ok (.imul, 1) := dk_104 (dk_at dksX5_spread_0 23 rfl rfl)
theorem dX5_spread_24 : decode cX5_spread 24 = .ok (.iconst 4, 1) := dk_7 (dk_at dksX5_spread_1 0 rfl rfl)
theorem dX5_spread_25 : decode cX5_spread 25 = .ok (.iadd, 1) := dk_96 (dk_at dksX5_spread_1 1 rfl rfl)
theorem dX5_spread_26 : decode cX5_spread 26 = .ok (.if_icmp .ge 236, 3) := dk_162 0 236 (dk_at dksX5_spread_1 2 rfl rfl)
theorem dX5_spread_29 : decode cX5_spread 29 = .ok (.iconst 0, 1) := dk_3 (dk_at dksX5_spread_1 5 rfl rfl)
theorem dX5_spread_30 : decode cX5_spread 30 = .ok (.istore 6, 2) := dk_54 6 (dk_at dksX5_spread_1 6 rfl rfl)
theorem dX5_spread_32 : decode cX5_spread 32 = .ok (.iload 6, 2) := dk_21 6 (dk_at dksX5_spread_1 8 rfl rfl)
theorem dX5_spread_34 : decode cX5_spread 34 = .ok (.iconst 4, 1) := dk_7 (dk_at dksX5_spread_1 10 rfl rfl)
theorem dX5_spread_35 : decode cX5_spread 35 = .ok (.if_icmp .ge 221, 3) := dk_162 0 221 (dk_at dksX5_spread_1 11 rfl rfl)
theorem dX5_spread_38 : decode cX5_spread 38 = .ok (.aload_n 0, 1) := dk_42 (dk_at dksX5_spread_1 14 rfl rfl)
theorem dX5_spread_39 : decode cX5_spread 39 = .ok (.getfield 7, 3) := dk_180 0 7 (dk_at dksX5_spread_1 15 rfl rfl)
theorem dX5_spread_42 : decode cX5_spread 42 = .ok (.iload 5, 2) := dk_21 5 (dk_at dksX5_spread_1 18 rfl rfl)
theorem dX5_spread_44 : decode cX5_spread 44 = .ok (.iaload, 1) := dk_46 (dk_at dksX5_spread_1 20 rfl rfl)
theorem dX5_spread_45 : decode cX5_spread 45 = .ok (.iconst (-1), 1) := dk_2 (dk_at dksX5_spread_1 21 rfl rfl)
theorem dX5_spread_46 : decode cX5_spread 46 = .ok (.if_icmp .eq 210, 3) := dk_159 0 210 (dk_at dksX5_spread_2 0 rfl rfl)
theorem dX5_spread_49 : decode cX5_spread 49 = .ok (.iconst 0, 1) := dk_3 (dk_at dksX5_spread_2 3 rfl rfl)
theorem dX5_spread_50 : decode cX5_spread 50 = .ok (.istore 7, 2) := dk_54 7 (dk_at dksX5_spread_2 4 rfl rfl)
theorem dX5_spread_52 : decode cX5_spread 52 = .ok (.iload 6, 2) := dk_21 6 (dk_at dksX5_spread_2 6 rfl rfl)
theorem dX5_spread_54 : decode cX5_spread 54 = .ok (.iload 5, 2) := dk_21 5 (dk_at dksX5_spread_2 8 rfl rfl)
theorem dX5_spread_56 : decode cX5_spread 56 = .ok (.iconst 4, 1) := dk_7 (dk_at dksX5_spread_2 10 rfl rfl)
theorem dX5_spread_57 : decode cX5_spread 57 = .ok (.irem, 1) := dk_112 (dk_at dksX5_spread_2 11 rfl rfl)
theorem dX5_spread_58 : decode cX5_spread 58 = .ok (.if_icmp .eq 192, 3) := dk_159 0 192 (dk_at dksX5_spread_2 12 rfl rfl)
theorem dX5_spread_61 : decode cX5_spread 61 = .ok (.iload 7, 2) := dk_21 7 (dk_at dksX5_spread_2 15 rfl rfl)
theorem dX5_spread_63 : decode cX5_spread 63 = .ok (.aload_n 0, 1) := dk_42 (dk_at dksX5_spread_2 17 rfl rfl)
theorem dX5_spread_64 : decode cX5_spread 64 = .ok (.iload 4, 2) := dk_21 4 (dk_at dksX5_spread_2 18 rfl rfl)
theorem dX5_spread_66 : decode cX5_spread 66 = .ok (.iload 5, 2) := dk_21 5 (dk_at dksX5_spread_2 20 rfl rfl)
theorem dX5_spread_68 : decode cX5_spread 68 = .ok (.iconst 4, 1) := dk_7 (dk_at dksX5_spread_2 22 rfl rfl)
theorem dX5_spread_69 : decode cX5_spread 69 = .ok (.irem, 1) := dk_112 (dk_at dksX5_spread_2 23 rfl rfl)
theorem dX5_spread_70 : decode cX5_spread 70 = .ok (.iload 6, 2) := dk_21 6 (dk_at dksX5_spread_3 0 rfl rfl)
theorem dX5_spread_72 : decode cX5_spread 72 = .ok (.invokevirtual 230, 3) := dk_182 0 230 (dk_at dksX5_spread_3 2 rfl rfl)
theorem dX5_spread_75 : decode cX5_spread 75 = .ok (.if_icmp .ge 175, 3) := dk_162 0 175 (dk_at dksX5_spread_3 5 rfl rfl)
theorem dX5_spread_78 : decode cX5_spread 78 = .ok (.aload_n 0, 1) := dk_42 (dk_at dksX5_spread_3 8 rfl rfl)
theorem dX5_spread_79 : decode cX5_spread 79 = .ok (.iload 5, 2) := dk_21 5 (dk_at dksX5_spread_3 9 rfl rfl)
theorem dX5_spread_81 : decode cX5_spread 81 = .ok (.iload 6, 2) := dk_21 6 (dk_at dksX5_spread_3 11 rfl rfl)
theorem dX5_spread_83 : decode cX5_spread 83 = .ok (.iload 7, 2) := dk_21 7 (dk_at dksX5_spread_3 13 rfl rfl)
theorem dX5_spread_85 : decode cX5_spread 85 = .ok (.invokevirtual 242, 3) := dk_182 0 242 (dk_at dksX5_spread_3 15 rfl rfl)
theorem dX5_spread_88 : decode cX5_spread 88 = .ok (.iload_n 1, 1) := dk_27 (dk_at dksX5_spread_3 18 rfl rfl)
theorem dX5_spread_89 : decode cX5_spread 89 = .ok (.if_icmp .eq 6, 3) := dk_159 0 6 (dk_at dksX5_spread_3 19 rfl rfl)
theorem dX5_spread_92 : decode cX5_spread 92 = .ok (.goto 152, 3) := dk_167 0 152 (dk_at dksX5_spread_4 0 rfl rfl)
theorem dX5_spread_95 : decode cX5_spread 95 = .ok (.aload_n 0, 1) := dk_42 (dk_at dksX5_spread_4 3 rfl rfl)
theorem dX5_spread_96 : decode cX5_spread 96 = .ok (.getfield 13, 3) := dk_180 0 13 (dk_at dksX5_spread_4 4 rfl rfl)
theorem dX5_spread_99 : decode cX5_spread 99 = .ok (.iconst 4, 1) := dk_7 (dk_at dksX5_spread_4 7 rfl rfl)
theorem dX5_spread_100 : decode cX5_spread 100 = .ok (.iload 5, 2) := dk_21 5 (dk_at dksX5_spread_4 8 rfl rfl)
theorem dX5_spread_102 : decode cX5_spread 102 = .ok (.imul, 1) := dk_104 (dk_at dksX5_spread_4 10 rfl rfl)
theorem dX5_spread_103 : decode cX5_spread 103 = .ok (.iload 6, 2) := dk_21 6 (dk_at dksX5_spread_4 11 rfl rfl)
theorem dX5_spread_105 : decode cX5_spread 105 = .ok (.iadd, 1) := dk_96 (dk_at dksX5_spread_4 13 rfl rfl)
theorem dX5_spread_106 : decode cX5_spread 106 = .ok (.iaload, 1) := dk_46 (dk_at dksX5_spread_4 14 rfl rfl)
theorem dX5_spread_107 : decode cX5_spread 107 = .ok (.istore 8, 2) := dk_54 8 (dk_at dksX5_spread_4 15 rfl rfl)
theorem dX5_spread_109 : decode cX5_spread 109 = .ok (.aload_n 0, 1) := dk_42 (dk_at dksX5_spread_4 17 rfl rfl)
theorem dX5_spread_110 : decode cX5_spread 110 = .ok (.aload_n 0, 1) := dk_42 (dk_at dksX5_spread_4 18 rfl rfl)
theorem dX5_spread_111 : decode cX5_spread 111 = .ok (.getfield 7, 3) := dk_180 0 7 (dk_at dksX5_spread_4 19 rfl rfl)
theorem dX5_spread_114 : decode cX5_spread 114 = .ok (.iload 5, 2) := dk_21 5 (dk_at dksX5_spread_4 22 rfl rfl)
theorem dX5_spread_116 : decode cX5_spread 116 = .ok (.iaload, 1) := dk_46 (dk_at dksX5_spread_5 0 rfl rfl)
theorem dX5_spread_117 : decode cX5_spread 117 = .ok (.iload 8, 2) := dk_21 8 (dk_at dksX5_spread_5 1 rfl rfl)
theorem dX5_spread_119 : decode cX5_spread 119 = .ok (.iload 7, 2) := dk_21 7 (dk_at dksX5_spread_5 3 rfl rfl)
theorem dX5_spread_121 : decode cX5_spread 121 = .ok (.invokevirtual 242, 3) := dk_182 0 242 (dk_at dksX5_spread_5 5 rfl rfl)
theorem dX5_spread_124 : decode cX5_spread 124 = .ok (.istore 9, 2) := dk_54 9 (dk_at dksX5_spread_5 8 rfl rfl)
theorem dX5_spread_126 : decode cX5_spread 126 = .ok (.aload_n 0, 1) := dk_42 (dk_at dksX5_spread_5 10 rfl rfl)
theorem dX5_spread_127 : decode cX5_spread 127 = .ok (.iload 5, 2) := dk_21 5 (dk_at dksX5_spread_5 11 rfl rfl)
theorem dX5_spread_129 : decode cX5_spread 129 = .ok (.iload 6, 2) := dk_21 6 (dk_at dksX5_spread_5 13 rfl rfl)
theorem dX5_spread_131 : decode cX5_spread 131 = .ok (.iload 7, 2) := dk_21 7 (dk_at dksX5_spread_5 15 rfl rfl)
theorem dX5_spread_133 : decode cX5_spread 133 = .ok (.invokevirtual 245, 3) := dk_182 0 245 (dk_at dksX5_spread_5 17 rfl rfl)
theorem dX5_spread_136 : decode cX5_spread 136 = .ok (.aload_n 0, 1) := dk_42 (dk_at dksX5_spread_5 20 rfl rfl)
theorem dX5_spread_137 : decode cX5_spread 137 = .ok (.aload_n 0, 1) := dk_42 (dk_at dksX5_spread_5 21 rfl rfl)
theorem dX5_spread_138 : decode cX5_spread 138 = .ok (.getfield 7, 3) := dk_180 0 7 (dk_at dksX5_spread_6 0 rfl rfl)
theorem dX5_spread_141 : decode cX5_spread 141 = .ok (.iload 5, 2) := dk_21 5 (dk_at dksX5_spread_6 3 rfl rfl)
theorem dX5_spread_143 : decode cX5_spread 143 = .ok (.iaload, 1) := dk_46 (dk_at dksX5_spread_6 5 rfl rfl)
theorem dX5_spread_144 : decode cX5_spread 144 = .ok (.iload 8, 2) := dk_21 8 (dk_at dksX5_spread_6 6 rfl rfl)
theorem dX5_spread_146 : decode cX5_spread 146 = .ok (.iload 7, 2) := dk_21 7 (dk_at dksX5_spread_6 8 rfl rfl)
theorem dX5_spread_148 : decode cX5_spread 148 = .ok (.invokevirtual 245, 3) := dk_182 0 245 (dk_at dksX5_spread_6 10 rfl rfl)
theorem dX5_spread_151 : decode cX5_spread 151 = .ok (.if_icmp .ne 12, 3) := dk_160 0 12 (dk_at dksX5_spread_6 13 rfl rfl)
theorem dX5_spread_154 : decode cX5_spread 154 = .ok (.aload_n 0, 1) := dk_42 (dk_at dksX5_spread_6 16 rfl rfl)
theorem dX5_spread_155 : decode cX5_spread 155 = .ok (.getfield 57, 3) := dk_180 0 57 (dk_at dksX5_spread_6 17 rfl rfl)
theorem dX5_spread_158 : decode cX5_spread 158 = .ok (.iload_n 1, 1) := dk_27 (dk_at dksX5_spread_6 20 rfl rfl)
theorem dX5_spread_159 : decode cX5_spread 159 = .ok (.iaload, 1) := dk_46 (dk_at dksX5_spread_6 21 rfl rfl)
theorem dX5_spread_160 : decode cX5_spread 160 = .ok (.goto 10, 3) := dk_167 0 10 (dk_at dksX5_spread_7 0 rfl rfl)
theorem dX5_spread_163 : decode cX5_spread 163 = .ok (.aload_n 0, 1) := dk_42 (dk_at dksX5_spread_7 3 rfl rfl)
theorem dX5_spread_164 : decode cX5_spread 164 = .ok (.getfield 57, 3) := dk_180 0 57 (dk_at dksX5_spread_7 4 rfl rfl)
theorem dX5_spread_167 : decode cX5_spread 167 = .ok (.iload_n 1, 1) := dk_27 (dk_at dksX5_spread_7 7 rfl rfl)
theorem dX5_spread_168 : decode cX5_spread 168 = .ok (.iaload, 1) := dk_46 (dk_at dksX5_spread_7 8 rfl rfl)
theorem dX5_spread_169 : decode cX5_spread 169 = .ok (.ineg, 1) := dk_116 (dk_at dksX5_spread_7 9 rfl rfl)
theorem dX5_spread_170 : decode cX5_spread 170 = .ok (.istore 10, 2) := dk_54 10 (dk_at dksX5_spread_7 10 rfl rfl)
theorem dX5_spread_172 : decode cX5_spread 172 = .ok (.aload_n 0, 1) := dk_42 (dk_at dksX5_spread_7 12 rfl rfl)
theorem dX5_spread_173 : decode cX5_spread 173 = .ok (.getfield 54, 3) := dk_180 0 54 (dk_at dksX5_spread_7 13 rfl rfl)
theorem dX5_spread_176 : decode cX5_spread 176 = .ok (.iload 9, 2) := dk_21 9 (dk_at dksX5_spread_7 16 rfl rfl)
theorem dX5_spread_178 : decode cX5_spread 178 = .ok (.iaload, 1) := dk_46 (dk_at dksX5_spread_7 18 rfl rfl)
theorem dX5_spread_179 : decode cX5_spread 179 = .ok (.iconst (-1), 1) := dk_2 (dk_at dksX5_spread_7 19 rfl rfl)
theorem dX5_spread_180 : decode cX5_spread 180 = .ok (.if_icmp .ne 36, 3) := dk_160 0 36 (dk_at dksX5_spread_7 20 rfl rfl)
theorem dX5_spread_183 : decode cX5_spread 183 = .ok (.aload_n 0, 1) := dk_42 (dk_at dksX5_spread_7 23 rfl rfl)
theorem dX5_spread_184 : decode cX5_spread 184 = .ok (.getfield 54, 3) := dk_180 0 54 (dk_at dksX5_spread_8 0 rfl rfl)
theorem dX5_spread_187 : decode cX5_spread 187 = .ok (.iload 9, 2) := dk_21 9 (dk_at dksX5_spread_8 3 rfl rfl)
theorem dX5_spread_189 : decode cX5_spread 189 = .ok (.aload_n 0, 1) := dk_42 (dk_at dksX5_spread_8 5 rfl rfl)
theorem dX5_spread_190 : decode cX5_spread 190 = .ok (.getfield 54, 3) := dk_180 0 54 (dk_at dksX5_spread_8 6 rfl rfl)
theorem dX5_spread_193 : decode cX5_spread 193 = .ok (.iload_n 1, 1) := dk_27 (dk_at dksX5_spread_8 9 rfl rfl)
theorem dX5_spread_194 : decode cX5_spread 194 = .ok (.iaload, 1) := dk_46 (dk_at dksX5_spread_8 10 rfl rfl)
theorem dX5_spread_195 : decode cX5_spread 195 = .ok (.iastore, 1) := dk_79 (dk_at dksX5_spread_8 11 rfl rfl)
theorem dX5_spread_196 : decode cX5_spread 196 = .ok (.aload_n 0, 1) := dk_42 (dk_at dksX5_spread_8 12 rfl rfl)
theorem dX5_spread_197 : decode cX5_spread 197 = .ok (.getfield 57, 3) := dk_180 0 57 (dk_at dksX5_spread_8 13 rfl rfl)
theorem dX5_spread_200 : decode cX5_spread 200 = .ok (.iload 9, 2) := dk_21 9 (dk_at dksX5_spread_8 16 rfl rfl)
theorem dX5_spread_202 : decode cX5_spread 202 = .ok (.iload 10, 2) := dk_21 10 (dk_at dksX5_spread_8 18 rfl rfl)
theorem dX5_spread_204 : decode cX5_spread 204 = .ok (.iastore, 1) := dk_79 (dk_at dksX5_spread_8 20 rfl rfl)
theorem dX5_spread_205 : decode cX5_spread 205 = .ok (.aload_n 0, 1) := dk_42 (dk_at dksX5_spread_8 21 rfl rfl)
theorem dX5_spread_206 : decode cX5_spread 206 = .ok (.getfield 60, 3) := dk_180 0 60 (dk_at dksX5_spread_9 0 rfl rfl)
theorem dX5_spread_209 : decode cX5_spread 209 = .ok (.iload_n 3, 1) := dk_29 (dk_at dksX5_spread_9 3 rfl rfl)
theorem dX5_spread_210 : decode cX5_spread 210 = .ok (.iload 9, 2) := dk_21 9 (dk_at dksX5_spread_9 4 rfl rfl)
theorem dX5_spread_212 : decode cX5_spread 212 = .ok (.iastore, 1) := dk_79 (dk_at dksX5_spread_9 6 rfl rfl)
theorem dX5_spread_213 : decode cX5_spread 213 = .ok (.iinc 3 1, 3) := dk_132 3 1 (dk_at dksX5_spread_9 7 rfl rfl)
theorem dX5_spread_216 : decode cX5_spread 216 = .ok (.aload_n 0, 1) := dk_42 (dk_at dksX5_spread_9 10 rfl rfl)
theorem dX5_spread_217 : decode cX5_spread 217 = .ok (.aload_n 0, 1) := dk_42 (dk_at dksX5_spread_9 11 rfl rfl)
theorem dX5_spread_218 : decode cX5_spread 218 = .ok (.getfield 248, 3) := dk_180 0 248 (dk_at dksX5_spread_9 12 rfl rfl)
theorem dX5_spread_221 : decode cX5_spread 221 = .ok (.ifCond .ne 15, 3) := dk_154 0 15 (dk_at dksX5_spread_9 15 rfl rfl)
theorem dX5_spread_224 : decode cX5_spread 224 = .ok (.aload_n 0, 1) := dk_42 (dk_at dksX5_spread_9 18 rfl rfl)
theorem dX5_spread_225 : decode cX5_spread 225 = .ok (.getfield 57, 3) := dk_180 0 57 (dk_at dksX5_spread_9 19 rfl rfl)
theorem dX5_spread_228 : decode cX5_spread 228 = .ok (.iload 9, 2) := dk_21 9 (dk_at dksX5_spread_9 22 rfl rfl)
theorem dX5_spread_230 : decode cX5_spread 230 = .ok (.iaload, 1) := dk_46 (dk_at dksX5_spread_10 0 rfl rfl)
theorem dX5_spread_231 : decode cX5_spread 231 = .ok (.iload 10, 2) := dk_21 10 (dk_at dksX5_spread_10 1 rfl rfl)
theorem dX5_spread_233 : decode cX5_spread 233 = .ok (.if_icmp .eq 7, 3) := dk_159 0 7 (dk_at dksX5_spread_10 3 rfl rfl)
theorem dX5_spread_236 : decode cX5_spread 236 = .ok (.iconst 1, 1) := dk_4 (dk_at dksX5_spread_10 6 rfl rfl)
theorem dX5_spread_237 : decode cX5_spread 237 = .ok (.goto 4, 3) := dk_167 0 4 (dk_at dksX5_spread_10 7 rfl rfl)
theorem dX5_spread_240 : decode cX5_spread 240 = .ok (.iconst 0, 1) := dk_3 (dk_at dksX5_spread_10 10 rfl rfl)
theorem dX5_spread_241 : decode cX5_spread 241 = .ok (.putfield 248, 3) := dk_181 0 248 (dk_at dksX5_spread_10 11 rfl rfl)
theorem dX5_spread_244 : decode cX5_spread 244 = .ok (.iinc 7 1, 3) := dk_132 7 1 (dk_at dksX5_spread_10 14 rfl rfl)
theorem dX5_spread_247 : decode cX5_spread 247 = .ok (.goto (-195), 3) := dk_167 255 61 (dk_at dksX5_spread_10 17 rfl rfl)
theorem dX5_spread_250 : decode cX5_spread 250 = .ok (.iinc 6 1, 3) := dk_132 6 1 (dk_at dksX5_spread_10 20 rfl rfl)
theorem dX5_spread_253 : decode cX5_spread 253 = .ok (.goto (-221), 3) := dk_167 255 35 (dk_at dksX5_spread_11 0 rfl rfl)
theorem dX5_spread_256 : decode cX5_spread 256 = .ok (.iinc 5 1, 3) := dk_132 5 1 (dk_at dksX5_spread_11 3 rfl rfl)
theorem dX5_spread_259 : decode cX5_spread 259 = .ok (.goto (-241), 3) := dk_167 255 15 (dk_at dksX5_spread_11 6 rfl rfl)
theorem dX5_spread_262 : decode cX5_spread 262 = .ok (.iload_n 3, 1) := dk_29 (dk_at dksX5_spread_11 9 rfl rfl)
theorem dX5_spread_263 : decode cX5_spread 263 = .ok (.ireturn, 1) := dk_172 (dk_at dksX5_spread_11 10 rfl rfl)
abbrev cX5_sortOf : ByteArray := prog_8_method_65_code
def yX5_sortOf : MethodName := ⟨RX5, "sortOf", "(I)I"⟩
def dkwX5_sortOf_0 : List UInt8 := [3, 61, 42, 180, 0, 51, 28, 4, 96, 46, 27, 163, 0, 9, 132, 2, 1, 167, 255, 241, 28, 172]
abbrev dktX5_sortOf_0 : List UInt8 := dkwX5_sortOf_0 ++ []
theorem dksX5_sortOf_0 : cX5_sortOf.data.toList.drop 0 = dktX5_sortOf_0 := by decide +kernel
theorem dX5_sortOf_0 : decode cX5_sortOf 0 = .ok (.iconst 0, 1) := dk_3 (dk_at dksX5_sortOf_0 0 rfl rfl)
theorem dX5_sortOf_1 : decode cX5_sortOf 1 = .ok (.istore_n 2, 1) := dk_61 (dk_at dksX5_sortOf_0 1 rfl rfl)
theorem dX5_sortOf_2 : decode cX5_sortOf 2 = .ok (.aload_n 0, 1) := dk_42 (dk_at dksX5_sortOf_0 2 rfl rfl)
theorem dX5_sortOf_3 : decode cX5_sortOf 3 = .ok (.getfield 51, 3) := dk_180 0 51 (dk_at dksX5_sortOf_0 3 rfl rfl)
theorem dX5_sortOf_6 : decode cX5_sortOf 6 = .ok (.iload_n 2, 1) := dk_28 (dk_at dksX5_sortOf_0 6 rfl rfl)
theorem dX5_sortOf_7 : decode cX5_sortOf 7 = .ok (.iconst 1, 1) := dk_4 (dk_at dksX5_sortOf_0 7 rfl rfl)
theorem dX5_sortOf_8 : decode cX5_sortOf 8 = .ok (.iadd, 1) := dk_96 (dk_at dksX5_sortOf_0 8 rfl rfl)
theorem dX5_sortOf_9 : decode cX5_sortOf 9 = .ok (.iaload, 1) := dk_46 (dk_at dksX5_sortOf_0 9 rfl rfl)
theorem dX5_sortOf_10 : decode cX5_sortOf 10 = .ok (.iload_n 1, 1) := dk_27 (dk_at dksX5_sortOf_0 10 rfl rfl)
theorem dX5_sortOf_11 : decode cX5_sortOf 11 = .ok (.if_icmp .gt 9, 3) := dk_163 0 9 (dk_at dksX5_sortOf_0 11 rfl rfl)
theorem dX5_sortOf_14 : decode cX5_sortOf 14 = .ok (.iinc 2 1, 3) := dk_132 2 1 (dk_at dksX5_sortOf_0 14 rfl rfl)
theorem dX5_sortOf_17 : decode cX5_sortOf 17 = .ok (.goto (-15), 3) := dk_167 255 241 (dk_at dksX5_sortOf_0 17 rfl rfl)
theorem dX5_sortOf_20 : decode cX5_sortOf 20 = .ok (.iload_n 2, 1) := dk_28 (dk_at dksX5_sortOf_0 20 rfl rfl)
theorem dX5_sortOf_21 : decode cX5_sortOf 21 = .ok (.ireturn, 1) := dk_172 (dk_at dksX5_sortOf_0 21 rfl rfl)
abbrev cX5_cutAt : ByteArray := prog_8_method_63_code
def yX5_cutAt : MethodName := ⟨RX5, "cutAt", "(III)I"⟩
def dkwX5_cutAt_5 : List UInt8 := [100, 96, 172]
abbrev dktX5_cutAt_5 : List UInt8 := dkwX5_cutAt_5 ++ []
def dkwX5_cutAt_4 : List UInt8 := [21, 6, 96, 46, 21, 7, 153, 0, 10, 29, 21, 5, 100, 167, 0, 12, 21, 8, 4, 100, 29, 21, 5, 100]
abbrev dktX5_cutAt_4 : List UInt8 := dkwX5_cutAt_4 ++ dktX5_cutAt_5
def dkwX5_cutAt_3 : List UInt8 := [180, 0, 16, 16, 7, 21, 4, 104, 21, 6, 96, 46, 54, 8, 42, 180, 0, 51, 16, 7, 21, 4, 104]
abbrev dktX5_cutAt_3 : List UInt8 := dkwX5_cutAt_3 ++ dktX5_cutAt_4
def dkwX5_cutAt_2 : List UInt8 := [184, 0, 186, 96, 54, 6, 28, 153, 0, 9, 27, 7, 112, 154, 0, 7, 4, 167, 0, 4, 3, 54, 7, 42]
abbrev dktX5_cutAt_2 : List UInt8 := dkwX5_cutAt_2 ++ dktX5_cutAt_3
def dkwX5_cutAt_1 : List UInt8 := [162, 0, 18, 42, 180, 0, 51, 16, 7, 21, 4, 104, 28, 96, 46, 29, 96, 172, 7, 28, 27, 7, 112]
abbrev dktX5_cutAt_1 : List UInt8 := dkwX5_cutAt_1 ++ dktX5_cutAt_2
def dkwX5_cutAt_0 : List UInt8 := [27, 7, 108, 54, 4, 42, 180, 0, 16, 16, 7, 21, 4, 104, 28, 96, 46, 54, 5, 29, 21, 5]
abbrev dktX5_cutAt_0 : List UInt8 := dkwX5_cutAt_0 ++ dktX5_cutAt_1
theorem dksX5_cutAt_0 : cX5_cutAt.data.toList.drop 0 = dktX5_cutAt_0 := by decide +kernel
theorem dksX5_cutAt_1 : cX5_cutAt.data.toList.drop 22 = dktX5_cutAt_1 := dk_seg dksX5_cutAt_0 22 rfl rfl
theorem dksX5_cutAt_2 : cX5_cutAt.data.toList.drop 45 = dktX5_cutAt_2 := dk_seg dksX5_cutAt_1 23 rfl rfl
theorem dksX5_cutAt_3 : cX5_cutAt.data.toList.drop 69 = dktX5_cutAt_3 := dk_seg dksX5_cutAt_2 24 rfl rfl
theorem dksX5_cutAt_4 : cX5_cutAt.data.toList.drop 92 = dktX5_cutAt_4 := dk_seg dksX5_cutAt_3 23 rfl rfl
theorem dksX5_cutAt_5 : cX5_cutAt.data.toList.drop 116 = dktX5_cutAt_5 := dk_seg dksX5_cutAt_4 24 rfl rfl
theorem dX5_cutAt_0 : decode cX5_cutAt 0 = .ok (.iload_n 1, 1) := dk_27 (dk_at dksX5_cutAt_0 0 rfl rfl)
theorem dX5_cutAt_1 : decode cX5_cutAt 1 = .ok (.iconst 4, 1) := dk_7 (dk_at dksX5_cutAt_0 1 rfl rfl)
theorem dX5_cutAt_2 : decode cX5_cutAt 2 = .ok (.idiv, 1) := dk_108 (dk_at dksX5_cutAt_0 2 rfl rfl)
theorem dX5_cutAt_3 : decode cX5_cutAt 3 = .ok (.istore 4, 2) := dk_54 4 (dk_at dksX5_cutAt_0 3 rfl rfl)
theorem dX5_cutAt_5 : decode cX5_cutAt 5 = .ok (.aload_n 0, 1) := dk_42 (dk_at dksX5_cutAt_0 5 rfl rfl)
theorem dX5_cutAt_6 : decode cX5_cutAt 6 = .ok (.getfield 16, 3) := dk_180 0 16 (dk_at dksX5_cutAt_0 6 rfl rfl)
theorem dX5_cutAt_9 : decode cX5_cutAt 9 = .ok (.bipush 7, 2) := dk_16 7 (dk_at dksX5_cutAt_0 9 rfl rfl)
theorem dX5_cutAt_11 : decode cX5_cutAt 11 = .ok (.iload 4, 2) := dk_21 4 (dk_at dksX5_cutAt_0 11 rfl rfl)
theorem dX5_cutAt_13 : decode cX5_cutAt 13 = .ok (.imul, 1) := dk_104 (dk_at dksX5_cutAt_0 13 rfl rfl)
theorem dX5_cutAt_14 : decode cX5_cutAt 14 = .ok (.iload_n 2, 1) := dk_28 (dk_at dksX5_cutAt_0 14 rfl rfl)
theorem dX5_cutAt_15 : decode cX5_cutAt 15 = .ok (.iadd, 1) := dk_96 (dk_at dksX5_cutAt_0 15 rfl rfl)
theorem dX5_cutAt_16 : decode cX5_cutAt 16 = .ok (.iaload, 1) := dk_46 (dk_at dksX5_cutAt_0 16 rfl rfl)
theorem dX5_cutAt_17 : decode cX5_cutAt 17 = .ok (.istore 5, 2) := dk_54 5 (dk_at dksX5_cutAt_0 17 rfl rfl)
theorem dX5_cutAt_19 : decode cX5_cutAt 19 = .ok (.iload_n 3, 1) := dk_29 (dk_at dksX5_cutAt_0 19 rfl rfl)
theorem dX5_cutAt_20 : decode cX5_cutAt 20 = .ok (.iload 5, 2) := dk_21 5 (dk_at dksX5_cutAt_0 20 rfl rfl)
theorem dX5_cutAt_22 : decode cX5_cutAt 22 = .ok (.if_icmp .ge 18, 3) := dk_162 0 18 (dk_at dksX5_cutAt_1 0 rfl rfl)
theorem dX5_cutAt_25 : decode cX5_cutAt 25 = .ok (.aload_n 0, 1) := dk_42 (dk_at dksX5_cutAt_1 3 rfl rfl)
theorem dX5_cutAt_26 : decode cX5_cutAt 26 = .ok (.getfield 51, 3) := dk_180 0 51 (dk_at dksX5_cutAt_1 4 rfl rfl)
theorem dX5_cutAt_29 : decode cX5_cutAt 29 = .ok (.bipush 7, 2) := dk_16 7 (dk_at dksX5_cutAt_1 7 rfl rfl)
theorem dX5_cutAt_31 : decode cX5_cutAt 31 = .ok (.iload 4, 2) := dk_21 4 (dk_at dksX5_cutAt_1 9 rfl rfl)
theorem dX5_cutAt_33 : decode cX5_cutAt 33 = .ok (.imul, 1) := dk_104 (dk_at dksX5_cutAt_1 11 rfl rfl)
theorem dX5_cutAt_34 : decode cX5_cutAt 34 = .ok (.iload_n 2, 1) := dk_28 (dk_at dksX5_cutAt_1 12 rfl rfl)
theorem dX5_cutAt_35 : decode cX5_cutAt 35 = .ok (.iadd, 1) := dk_96 (dk_at dksX5_cutAt_1 13 rfl rfl)
theorem dX5_cutAt_36 : decode cX5_cutAt 36 = .ok (.iaload, 1) := dk_46 (dk_at dksX5_cutAt_1 14 rfl rfl)
theorem dX5_cutAt_37 : decode cX5_cutAt 37 = .ok (.iload_n 3, 1) := dk_29 (dk_at dksX5_cutAt_1 15 rfl rfl)
theorem dX5_cutAt_38 : decode cX5_cutAt 38 = .ok (.iadd, 1) := dk_96 (dk_at dksX5_cutAt_1 16 rfl rfl)
theorem dX5_cutAt_39 : decode cX5_cutAt 39 = .ok (.ireturn, 1) := dk_172 (dk_at dksX5_cutAt_1 17 rfl rfl)
theorem dX5_cutAt_40 : decode cX5_cutAt 40 = .ok (.iconst 4, 1) := dk_7 (dk_at dksX5_cutAt_1 18 rfl rfl)
theorem dX5_cutAt_41 : decode cX5_cutAt 41 = .ok (.iload_n 2, 1) := dk_28 (dk_at dksX5_cutAt_1 19 rfl rfl)
theorem dX5_cutAt_42 : decode cX5_cutAt 42 = .ok (.iload_n 1, 1) := dk_27 (dk_at dksX5_cutAt_1 20 rfl rfl)
theorem dX5_cutAt_43 : decode cX5_cutAt 43 = .ok (.iconst 4, 1) := dk_7 (dk_at dksX5_cutAt_1 21 rfl rfl)
theorem dX5_cutAt_44 : decode cX5_cutAt 44 = .ok (.irem, 1) := dk_112 (dk_at dksX5_cutAt_1 22 rfl rfl)
theorem dX5_cutAt_45 : decode cX5_cutAt 45 = .ok (.invokestatic 186, 3) := dk_184 0 186 (dk_at dksX5_cutAt_2 0 rfl rfl)
theorem dX5_cutAt_48 : decode cX5_cutAt 48 = .ok (.iadd, 1) := dk_96 (dk_at dksX5_cutAt_2 3 rfl rfl)
theorem dX5_cutAt_49 : decode cX5_cutAt 49 = .ok (.istore 6, 2) := dk_54 6 (dk_at dksX5_cutAt_2 4 rfl rfl)
theorem dX5_cutAt_51 : decode cX5_cutAt 51 = .ok (.iload_n 2, 1) := dk_28 (dk_at dksX5_cutAt_2 6 rfl rfl)
theorem dX5_cutAt_52 : decode cX5_cutAt 52 = .ok (.ifCond .eq 9, 3) := dk_153 0 9 (dk_at dksX5_cutAt_2 7 rfl rfl)
theorem dX5_cutAt_55 : decode cX5_cutAt 55 = .ok (.iload_n 1, 1) := dk_27 (dk_at dksX5_cutAt_2 10 rfl rfl)
theorem dX5_cutAt_56 : decode cX5_cutAt 56 = .ok (.iconst 4, 1) := dk_7 (dk_at dksX5_cutAt_2 11 rfl rfl)
theorem dX5_cutAt_57 : decode cX5_cutAt 57 = .ok (.irem, 1) := dk_112 (dk_at dksX5_cutAt_2 12 rfl rfl)
theorem dX5_cutAt_58 : decode cX5_cutAt 58 = .ok (.ifCond .ne 7, 3) := dk_154 0 7 (dk_at dksX5_cutAt_2 13 rfl rfl)
theorem dX5_cutAt_61 : decode cX5_cutAt 61 = .ok (.iconst 1, 1) := dk_4 (dk_at dksX5_cutAt_2 16 rfl rfl)
theorem dX5_cutAt_62 : decode cX5_cutAt 62 = .ok (.goto 4, 3) := dk_167 0 4 (dk_at dksX5_cutAt_2 17 rfl rfl)
theorem dX5_cutAt_65 : decode cX5_cutAt 65 = .ok (.iconst 0, 1) := dk_3 (dk_at dksX5_cutAt_2 20 rfl rfl)
theorem dX5_cutAt_66 : decode cX5_cutAt 66 = .ok (.istore 7, 2) := dk_54 7 (dk_at dksX5_cutAt_2 21 rfl rfl)
theorem dX5_cutAt_68 : decode cX5_cutAt 68 = .ok (.aload_n 0, 1) := dk_42 (dk_at dksX5_cutAt_2 23 rfl rfl)
theorem dX5_cutAt_69 : decode cX5_cutAt 69 = .ok (.getfield 16, 3) := dk_180 0 16 (dk_at dksX5_cutAt_3 0 rfl rfl)
theorem dX5_cutAt_72 : decode cX5_cutAt 72 = .ok (.bipush 7, 2) := dk_16 7 (dk_at dksX5_cutAt_3 3 rfl rfl)
theorem dX5_cutAt_74 : decode cX5_cutAt 74 = .ok (.iload 4, 2) := dk_21 4 (dk_at dksX5_cutAt_3 5 rfl rfl)
theorem dX5_cutAt_76 : decode cX5_cutAt 76 = .ok (.imul, 1) := dk_104 (dk_at dksX5_cutAt_3 7 rfl rfl)
theorem dX5_cutAt_77 : decode cX5_cutAt 77 = .ok (.iload 6, 2) := dk_21 6 (dk_at dksX5_cutAt_3 8 rfl rfl)
theorem dX5_cutAt_79 : decode cX5_cutAt 79 = .ok (.iadd, 1) := dk_96 (dk_at dksX5_cutAt_3 10 rfl rfl)
theorem dX5_cutAt_80 : decode cX5_cutAt 80 = .ok (.iaload, 1) := dk_46 (dk_at dksX5_cutAt_3 11 rfl rfl)
theorem dX5_cutAt_81 : decode cX5_cutAt 81 = .ok (.istore 8, 2) := dk_54 8 (dk_at dksX5_cutAt_3 12 rfl rfl)
theorem dX5_cutAt_83 : decode cX5_cutAt 83 = .ok (.aload_n 0, 1) := dk_42 (dk_at dksX5_cutAt_3 14 rfl rfl)
theorem dX5_cutAt_84 : decode cX5_cutAt 84 = .ok (.getfield 51, 3) := dk_180 0 51 (dk_at dksX5_cutAt_3 15 rfl rfl)
theorem dX5_cutAt_87 : decode cX5_cutAt 87 = .ok (.bipush 7, 2) := dk_16 7 (dk_at dksX5_cutAt_3 18 rfl rfl)
theorem dX5_cutAt_89 : decode cX5_cutAt 89 = .ok (.iload 4, 2) := dk_21 4 (dk_at dksX5_cutAt_3 20 rfl rfl)
theorem dX5_cutAt_91 : decode cX5_cutAt 91 = .ok (.imul, 1) := dk_104 (dk_at dksX5_cutAt_3 22 rfl rfl)
theorem dX5_cutAt_92 : decode cX5_cutAt 92 = .ok (.iload 6, 2) := dk_21 6 (dk_at dksX5_cutAt_4 0 rfl rfl)
theorem dX5_cutAt_94 : decode cX5_cutAt 94 = .ok (.iadd, 1) := dk_96 (dk_at dksX5_cutAt_4 2 rfl rfl)
theorem dX5_cutAt_95 : decode cX5_cutAt 95 = .ok (.iaload, 1) := dk_46 (dk_at dksX5_cutAt_4 3 rfl rfl)
theorem dX5_cutAt_96 : decode cX5_cutAt 96 = .ok (.iload 7, 2) := dk_21 7 (dk_at dksX5_cutAt_4 4 rfl rfl)
theorem dX5_cutAt_98 : decode cX5_cutAt 98 = .ok (.ifCond .eq 10, 3) := dk_153 0 10 (dk_at dksX5_cutAt_4 6 rfl rfl)
theorem dX5_cutAt_101 : decode cX5_cutAt 101 = .ok (.iload_n 3, 1) := dk_29 (dk_at dksX5_cutAt_4 9 rfl rfl)
theorem dX5_cutAt_102 : decode cX5_cutAt 102 = .ok (.iload 5, 2) := dk_21 5 (dk_at dksX5_cutAt_4 10 rfl rfl)
theorem dX5_cutAt_104 : decode cX5_cutAt 104 = .ok (.isub, 1) := dk_100 (dk_at dksX5_cutAt_4 12 rfl rfl)
theorem dX5_cutAt_105 : decode cX5_cutAt 105 = .ok (.goto 12, 3) := dk_167 0 12 (dk_at dksX5_cutAt_4 13 rfl rfl)
theorem dX5_cutAt_108 : decode cX5_cutAt 108 = .ok (.iload 8, 2) := dk_21 8 (dk_at dksX5_cutAt_4 16 rfl rfl)
theorem dX5_cutAt_110 : decode cX5_cutAt 110 = .ok (.iconst 1, 1) := dk_4 (dk_at dksX5_cutAt_4 18 rfl rfl)
theorem dX5_cutAt_111 : decode cX5_cutAt 111 = .ok (.isub, 1) := dk_100 (dk_at dksX5_cutAt_4 19 rfl rfl)
theorem dX5_cutAt_112 : decode cX5_cutAt 112 = .ok (.iload_n 3, 1) := dk_29 (dk_at dksX5_cutAt_4 20 rfl rfl)
theorem dX5_cutAt_113 : decode cX5_cutAt 113 = .ok (.iload 5, 2) := dk_21 5 (dk_at dksX5_cutAt_4 21 rfl rfl)
theorem dX5_cutAt_115 : decode cX5_cutAt 115 = .ok (.isub, 1) := dk_100 (dk_at dksX5_cutAt_4 23 rfl rfl)
theorem dX5_cutAt_116 : decode cX5_cutAt 116 = .ok (.isub, 1) := dk_100 (dk_at dksX5_cutAt_5 0 rfl rfl)
theorem dX5_cutAt_117 : decode cX5_cutAt 117 = .ok (.iadd, 1) := dk_96 (dk_at dksX5_cutAt_5 1 rfl rfl)
theorem dX5_cutAt_118 : decode cX5_cutAt 118 = .ok (.ireturn, 1) := dk_172 (dk_at dksX5_cutAt_5 2 rfl rfl)
abbrev cX5_looks : ByteArray := prog_8_method_64_code
def yX5_looks : MethodName := ⟨RX5, "looks", "(III)Z"⟩
def dkwX5_looks_1 : List UInt8 := [154, 0, 7, 4, 167, 0, 4, 3, 172]
abbrev dktX5_looks_1 : List UInt8 := dkwX5_looks_1 ++ []
def dkwX5_looks_0 : List UInt8 := [29, 42, 180, 0, 16, 16, 7, 27, 7, 108, 104, 28, 96, 46, 161, 0, 13, 28, 153, 0, 9, 27, 7, 112]
abbrev dktX5_looks_0 : List UInt8 := dkwX5_looks_0 ++ dktX5_looks_1
theorem dksX5_looks_0 : cX5_looks.data.toList.drop 0 = dktX5_looks_0 := by decide +kernel
theorem dksX5_looks_1 : cX5_looks.data.toList.drop 24 = dktX5_looks_1 := dk_seg dksX5_looks_0 24 rfl rfl
theorem dX5_looks_0 : decode cX5_looks 0 = .ok (.iload_n 3, 1) := dk_29 (dk_at dksX5_looks_0 0 rfl rfl)
theorem dX5_looks_1 : decode cX5_looks 1 = .ok (.aload_n 0, 1) := dk_42 (dk_at dksX5_looks_0 1 rfl rfl)
theorem dX5_looks_2 : decode cX5_looks 2 = .ok (.getfield 16, 3) := dk_180 0 16 (dk_at dksX5_looks_0 2 rfl rfl)
theorem dX5_looks_5 : decode cX5_looks 5 = .ok (.bipush 7, 2) := dk_16 7 (dk_at dksX5_looks_0 5 rfl rfl)
theorem dX5_looks_7 : decode cX5_looks 7 = .ok (.iload_n 1, 1) := dk_27 (dk_at dksX5_looks_0 7 rfl rfl)
theorem dX5_looks_8 : decode cX5_looks 8 = .ok (.iconst 4, 1) := dk_7 (dk_at dksX5_looks_0 8 rfl rfl)
theorem dX5_looks_9 : decode cX5_looks 9 = .ok (.idiv, 1) := dk_108 (dk_at dksX5_looks_0 9 rfl rfl)
theorem dX5_looks_10 : decode cX5_looks 10 = .ok (.imul, 1) := dk_104 (dk_at dksX5_looks_0 10 rfl rfl)
theorem dX5_looks_11 : decode cX5_looks 11 = .ok (.iload_n 2, 1) := dk_28 (dk_at dksX5_looks_0 11 rfl rfl)
theorem dX5_looks_12 : decode cX5_looks 12 = .ok (.iadd, 1) := dk_96 (dk_at dksX5_looks_0 12 rfl rfl)
theorem dX5_looks_13 : decode cX5_looks 13 = .ok (.iaload, 1) := dk_46 (dk_at dksX5_looks_0 13 rfl rfl)
theorem dX5_looks_14 : decode cX5_looks 14 = .ok (.if_icmp .lt 13, 3) := dk_161 0 13 (dk_at dksX5_looks_0 14 rfl rfl)
theorem dX5_looks_17 : decode cX5_looks 17 = .ok (.iload_n 2, 1) := dk_28 (dk_at dksX5_looks_0 17 rfl rfl)
theorem dX5_looks_18 : decode cX5_looks 18 = .ok (.ifCond .eq 9, 3) := dk_153 0 9 (dk_at dksX5_looks_0 18 rfl rfl)
theorem dX5_looks_21 : decode cX5_looks 21 = .ok (.iload_n 1, 1) := dk_27 (dk_at dksX5_looks_0 21 rfl rfl)
theorem dX5_looks_22 : decode cX5_looks 22 = .ok (.iconst 4, 1) := dk_7 (dk_at dksX5_looks_0 22 rfl rfl)
theorem dX5_looks_23 : decode cX5_looks 23 = .ok (.irem, 1) := dk_112 (dk_at dksX5_looks_0 23 rfl rfl)
theorem dX5_looks_24 : decode cX5_looks 24 = .ok (.ifCond .ne 7, 3) := dk_154 0 7 (dk_at dksX5_looks_1 0 rfl rfl)
theorem dX5_looks_27 : decode cX5_looks 27 = .ok (.iconst 1, 1) := dk_4 (dk_at dksX5_looks_1 3 rfl rfl)
theorem dX5_looks_28 : decode cX5_looks 28 = .ok (.goto 4, 3) := dk_167 0 4 (dk_at dksX5_looks_1 4 rfl rfl)
theorem dX5_looks_31 : decode cX5_looks 31 = .ok (.iconst 0, 1) := dk_3 (dk_at dksX5_looks_1 7 rfl rfl)
theorem dX5_looks_32 : decode cX5_looks 32 = .ok (.ireturn, 1) := dk_172 (dk_at dksX5_looks_1 8 rfl rfl)
abbrev cX5_part : ByteArray := prog_8_method_71_code
def yX5_part : MethodName := ⟨RX5, "part", "(II)I"⟩
def dkwX5_part_5 : List UInt8 := [132, 5, 1, 167, 255, 218, 21, 4, 172]
abbrev dktX5_part_5 : List UInt8 := dkwX5_part_5 ++ []
def dkwX5_part_4 : List UInt8 := [180, 0, 54, 21, 5, 46, 27, 160, 0, 12, 42, 21, 5, 182, 1, 7, 167, 0, 4, 3, 96, 54, 4]
abbrev dktX5_part_4 : List UInt8 := dkwX5_part_4 ++ dktX5_part_5
def dkwX5_part_3 : List UInt8 := [3, 167, 0, 4, 4, 172, 3, 54, 4, 3, 54, 5, 21, 5, 42, 180, 0, 251, 162, 0, 35, 21, 4, 42]
abbrev dktX5_part_3 : List UInt8 := dkwX5_part_3 ++ dktX5_part_4
def dkwX5_part_2 : List UInt8 := [28, 154, 0, 9, 42, 27, 182, 1, 4, 172, 28, 5, 160, 0, 18, 42, 180, 0, 63, 27, 51, 153, 0, 7]
abbrev dktX5_part_2 : List UInt8 := dkwX5_part_2 ++ dktX5_part_3
def dkwX5_part_1 : List UInt8 := [42, 180, 0, 251, 17, 1, 144, 163, 0, 14, 27, 3, 29, 4, 100, 184, 0, 71, 154, 0, 6, 18, 128, 172]
abbrev dktX5_part_1 : List UInt8 := dkwX5_part_1 ++ dktX5_part_2
def dkwX5_part_0 : List UInt8 := [28, 3, 5, 184, 0, 71, 153, 0, 10, 42, 182, 0, 233, 153, 0, 6, 18, 128, 172, 42, 182, 1, 1, 62]
abbrev dktX5_part_0 : List UInt8 := dkwX5_part_0 ++ dktX5_part_1
theorem dksX5_part_0 : cX5_part.data.toList.drop 0 = dktX5_part_0 := by decide +kernel
theorem dksX5_part_1 : cX5_part.data.toList.drop 24 = dktX5_part_1 := dk_seg dksX5_part_0 24 rfl rfl
theorem dksX5_part_2 : cX5_part.data.toList.drop 48 = dktX5_part_2 := dk_seg dksX5_part_1 24 rfl rfl
theorem dksX5_part_3 : cX5_part.data.toList.drop 72 = dktX5_part_3 := dk_seg dksX5_part_2 24 rfl rfl
theorem dksX5_part_4 : cX5_part.data.toList.drop 96 = dktX5_part_4 := dk_seg dksX5_part_3 24 rfl rfl
theorem dksX5_part_5 : cX5_part.data.toList.drop 119 = dktX5_part_5 := dk_seg dksX5_part_4 23 rfl rfl
theorem dX5_part_0 : decode cX5_part 0 = .ok (.iload_n 2, 1) := dk_28 (dk_at dksX5_part_0 0 rfl rfl)
theorem dX5_part_1 : decode cX5_part 1 = .ok (.iconst 0, 1) := dk_3 (dk_at dksX5_part_0 1 rfl rfl)
theorem dX5_part_2 : decode cX5_part 2 = .ok (.iconst 2, 1) := dk_5 (dk_at dksX5_part_0 2 rfl rfl)
theorem dX5_part_3 : decode cX5_part 3 = .ok (.invokestatic 71, 3) := dk_184 0 71 (dk_at dksX5_part_0 3 rfl rfl)
theorem dX5_part_6 : decode cX5_part 6 = .ok (.ifCond .eq 10, 3) := dk_153 0 10 (dk_at dksX5_part_0 6 rfl rfl)
theorem dX5_part_9 : decode cX5_part 9 = .ok (.aload_n 0, 1) := dk_42 (dk_at dksX5_part_0 9 rfl rfl)
theorem dX5_part_10 : decode cX5_part 10 = .ok (.invokevirtual 233, 3) := dk_182 0 233 (dk_at dksX5_part_0 10 rfl rfl)
theorem dX5_part_13 : decode cX5_part 13 = .ok (.ifCond .eq 6, 3) := dk_153 0 6 (dk_at dksX5_part_0 13 rfl rfl)
theorem dX5_part_16 : decode cX5_part 16 = .ok (.ldc 128, 2) := dk_18 128 (dk_at dksX5_part_0 16 rfl rfl)
theorem dX5_part_18 : decode cX5_part 18 = .ok (.ireturn, 1) := dk_172 (dk_at dksX5_part_0 18 rfl rfl)
theorem dX5_part_19 : decode cX5_part 19 = .ok (.aload_n 0, 1) := dk_42 (dk_at dksX5_part_0 19 rfl rfl)
theorem dX5_part_20 : decode cX5_part 20 = .ok (.invokevirtual 257, 3) := dk_182 1 1 (dk_at dksX5_part_0 20 rfl rfl)
theorem dX5_part_23 : decode cX5_part 23 = .ok (.istore_n 3, 1) := dk_62 (dk_at dksX5_part_0 23 rfl rfl)
theorem dX5_part_24 : decode cX5_part 24 = .ok (.aload_n 0, 1) := dk_42 (dk_at dksX5_part_1 0 rfl rfl)
theorem dX5_part_25 : decode cX5_part 25 = .ok (.getfield 251, 3) := dk_180 0 251 (dk_at dksX5_part_1 1 rfl rfl)
theorem dX5_part_28 : decode cX5_part 28 = .ok (.sipush 400, 3) := dk_17 1 144 (dk_at dksX5_part_1 4 rfl rfl)
theorem dX5_part_31 : decode cX5_part 31 = .ok (.if_icmp .gt 14, 3) := dk_163 0 14 (dk_at dksX5_part_1 7 rfl rfl)
theorem dX5_part_34 : decode cX5_part 34 = .ok (.iload_n 1, 1) := dk_27 (dk_at dksX5_part_1 10 rfl rfl)
theorem dX5_part_35 : decode cX5_part 35 = .ok (.iconst 0, 1) := dk_3 (dk_at dksX5_part_1 11 rfl rfl)
theorem dX5_part_36 : decode cX5_part 36 = .ok (.iload_n 3, 1) := dk_29 (dk_at dksX5_part_1 12 rfl rfl)
theorem dX5_part_37 : decode cX5_part 37 = .ok (.iconst 1, 1) := dk_4 (dk_at dksX5_part_1 13 rfl rfl)
theorem dX5_part_38 : decode cX5_part 38 = .ok (.isub, 1) := dk_100 (dk_at dksX5_part_1 14 rfl rfl)
theorem dX5_part_39 : decode cX5_part 39 = .ok (.invokestatic 71, 3) := dk_184 0 71 (dk_at dksX5_part_1 15 rfl rfl)
theorem dX5_part_42 : decode cX5_part 42 = .ok (.ifCond .ne 6, 3) := dk_154 0 6 (dk_at dksX5_part_1 18 rfl rfl)
theorem dX5_part_45 : decode cX5_part 45 = .ok (.ldc 128, 2) := dk_18 128 (dk_at dksX5_part_1 21 rfl rfl)
theorem dX5_part_47 : decode cX5_part 47 = .ok (.ireturn, 1) := dk_172 (dk_at dksX5_part_1 23 rfl rfl)
theorem dX5_part_48 : decode cX5_part 48 = .ok (.iload_n 2, 1) := dk_28 (dk_at dksX5_part_2 0 rfl rfl)
theorem dX5_part_49 : decode cX5_part 49 = .ok (.ifCond .ne 9, 3) := dk_154 0 9 (dk_at dksX5_part_2 1 rfl rfl)
theorem dX5_part_52 : decode cX5_part 52 = .ok (.aload_n 0, 1) := dk_42 (dk_at dksX5_part_2 4 rfl rfl)
theorem dX5_part_53 : decode cX5_part 53 = .ok (.iload_n 1, 1) := dk_27 (dk_at dksX5_part_2 5 rfl rfl)
theorem dX5_part_54 : decode cX5_part 54 = .ok (.invokevirtual 260, 3) := dk_182 1 4 (dk_at dksX5_part_2 6 rfl rfl)
theorem dX5_part_57 : decode cX5_part 57 = .ok (.ireturn, 1) := dk_172 (dk_at dksX5_part_2 9 rfl rfl)
theorem dX5_part_58 : decode cX5_part 58 = .ok (.iload_n 2, 1) := dk_28 (dk_at dksX5_part_2 10 rfl rfl)
theorem dX5_part_59 : decode cX5_part 59 = .ok (.iconst 2, 1) := dk_5 (dk_at dksX5_part_2 11 rfl rfl)
theorem dX5_part_60 : decode cX5_part 60 = .ok (.if_icmp .ne 18, 3) := dk_160 0 18 (dk_at dksX5_part_2 12 rfl rfl)
theorem dX5_part_63 : decode cX5_part 63 = .ok (.aload_n 0, 1) := dk_42 (dk_at dksX5_part_2 15 rfl rfl)
theorem dX5_part_64 : decode cX5_part 64 = .ok (.getfield 63, 3) := dk_180 0 63 (dk_at dksX5_part_2 16 rfl rfl)
theorem dX5_part_67 : decode cX5_part 67 = .ok (.iload_n 1, 1) := dk_27 (dk_at dksX5_part_2 19 rfl rfl)
theorem dX5_part_68 : decode cX5_part 68 = .ok (.baload, 1) := dk_51 (dk_at dksX5_part_2 20 rfl rfl)
theorem dX5_part_69 : decode cX5_part 69 = .ok (.ifCond .eq 7, 3) := dk_153 0 7 (dk_at dksX5_part_2 21 rfl rfl)
theorem dX5_part_72 : decode cX5_part 72 = .ok (.iconst 0, 1) := dk_3 (dk_at dksX5_part_3 0 rfl rfl)
theorem dX5_part_73 : decode cX5_part 73 = .ok (.goto 4, 3) := dk_167 0 4 (dk_at dksX5_part_3 1 rfl rfl)
theorem dX5_part_76 : decode cX5_part 76 = .ok (.iconst 1, 1) := dk_4 (dk_at dksX5_part_3 4 rfl rfl)
theorem dX5_part_77 : decode cX5_part 77 = .ok (.ireturn, 1) := dk_172 (dk_at dksX5_part_3 5 rfl rfl)
theorem dX5_part_78 : decode cX5_part 78 = .ok (.iconst 0, 1) := dk_3 (dk_at dksX5_part_3 6 rfl rfl)
theorem dX5_part_79 : decode cX5_part 79 = .ok (.istore 4, 2) := dk_54 4 (dk_at dksX5_part_3 7 rfl rfl)
theorem dX5_part_81 : decode cX5_part 81 = .ok (.iconst 0, 1) := dk_3 (dk_at dksX5_part_3 9 rfl rfl)
theorem dX5_part_82 : decode cX5_part 82 = .ok (.istore 5, 2) := dk_54 5 (dk_at dksX5_part_3 10 rfl rfl)
theorem dX5_part_84 : decode cX5_part 84 = .ok (.iload 5, 2) := dk_21 5 (dk_at dksX5_part_3 12 rfl rfl)
theorem dX5_part_86 : decode cX5_part 86 = .ok (.aload_n 0, 1) := dk_42 (dk_at dksX5_part_3 14 rfl rfl)
theorem dX5_part_87 : decode cX5_part 87 = .ok (.getfield 251, 3) := dk_180 0 251 (dk_at dksX5_part_3 15 rfl rfl)
theorem dX5_part_90 : decode cX5_part 90 = .ok (.if_icmp .ge 35, 3) := dk_162 0 35 (dk_at dksX5_part_3 18 rfl rfl)
theorem dX5_part_93 : decode cX5_part 93 = .ok (.iload 4, 2) := dk_21 4 (dk_at dksX5_part_3 21 rfl rfl)
theorem dX5_part_95 : decode cX5_part 95 = .ok (.aload_n 0, 1) := dk_42 (dk_at dksX5_part_3 23 rfl rfl)
theorem dX5_part_96 : decode cX5_part 96 = .ok (.getfield 54, 3) := dk_180 0 54 (dk_at dksX5_part_4 0 rfl rfl)
theorem dX5_part_99 : decode cX5_part 99 = .ok (.iload 5, 2) := dk_21 5 (dk_at dksX5_part_4 3 rfl rfl)
theorem dX5_part_101 : decode cX5_part 101 = .ok (.iaload, 1) := dk_46 (dk_at dksX5_part_4 5 rfl rfl)
theorem dX5_part_102 : decode cX5_part 102 = .ok (.iload_n 1, 1) := dk_27 (dk_at dksX5_part_4 6 rfl rfl)
theorem dX5_part_103 : decode cX5_part 103 = .ok (.if_icmp .ne 12, 3) := dk_160 0 12 (dk_at dksX5_part_4 7 rfl rfl)
theorem dX5_part_106 : decode cX5_part 106 = .ok (.aload_n 0, 1) := dk_42 (dk_at dksX5_part_4 10 rfl rfl)
theorem dX5_part_107 : decode cX5_part 107 = .ok (.iload 5, 2) := dk_21 5 (dk_at dksX5_part_4 11 rfl rfl)
theorem dX5_part_109 : decode cX5_part 109 = .ok (.invokevirtual 263, 3) := dk_182 1 7 (dk_at dksX5_part_4 13 rfl rfl)
theorem dX5_part_112 : decode cX5_part 112 = .ok (.goto 4, 3) := dk_167 0 4 (dk_at dksX5_part_4 16 rfl rfl)
theorem dX5_part_115 : decode cX5_part 115 = .ok (.iconst 0, 1) := dk_3 (dk_at dksX5_part_4 19 rfl rfl)
theorem dX5_part_116 : decode cX5_part 116 = .ok (.iadd, 1) := dk_96 (dk_at dksX5_part_4 20 rfl rfl)
theorem dX5_part_117 : decode cX5_part 117 = .ok (.istore 4, 2) := dk_54 4 (dk_at dksX5_part_4 21 rfl rfl)
theorem dX5_part_119 : decode cX5_part 119 = .ok (.iinc 5 1, 3) := dk_132 5 1 (dk_at dksX5_part_5 0 rfl rfl)
theorem dX5_part_122 : decode cX5_part 122 = .ok (.goto (-38), 3) := dk_167 255 218 (dk_at dksX5_part_5 3 rfl rfl)
theorem dX5_part_125 : decode cX5_part 125 = .ok (.iload 4, 2) := dk_21 4 (dk_at dksX5_part_5 6 rfl rfl)
theorem dX5_part_127 : decode cX5_part 127 = .ok (.ireturn, 1) := dk_172 (dk_at dksX5_part_5 8 rfl rfl)
abbrev cX5_cutsOf : ByteArray := prog_8_method_69_code
def yX5_cutsOf : MethodName := ⟨RX5, "cutsOf", "(I)I"⟩
def dkwX5_cutsOf_1 : List UInt8 := [167, 0, 4, 3, 96, 61, 132, 3, 1, 167, 255, 227, 28, 172]
abbrev dktX5_cutsOf_1 : List UInt8 := dkwX5_cutsOf_1 ++ []
def dkwX5_cutsOf_0 : List UInt8 := [3, 61, 3, 62, 29, 42, 180, 0, 251, 162, 0, 27, 28, 42, 180, 0, 54, 29, 46, 27, 160, 0, 7, 4]
abbrev dktX5_cutsOf_0 : List UInt8 := dkwX5_cutsOf_0 ++ dktX5_cutsOf_1
theorem dksX5_cutsOf_0 : cX5_cutsOf.data.toList.drop 0 = dktX5_cutsOf_0 := by decide +kernel
theorem dksX5_cutsOf_1 : cX5_cutsOf.data.toList.drop 24 = dktX5_cutsOf_1 := dk_seg dksX5_cutsOf_0 24 rfl rfl
theorem dX5_cutsOf_0 : decode cX5_cutsOf 0 = .ok (.iconst 0, 1) := dk_3 (dk_at dksX5_cutsOf_0 0 rfl rfl)
theorem dX5_cutsOf_1 : decode cX5_cutsOf 1 = .ok (.istore_n 2, 1) := dk_61 (dk_at dksX5_cutsOf_0 1 rfl rfl)
theorem dX5_cutsOf_2 : decode cX5_cutsOf 2 = .ok (.iconst 0, 1) := dk_3 (dk_at dksX5_cutsOf_0 2 rfl rfl)
theorem dX5_cutsOf_3 : decode cX5_cutsOf 3 = .ok (.istore_n 3, 1) := dk_62 (dk_at dksX5_cutsOf_0 3 rfl rfl)
theorem dX5_cutsOf_4 : decode cX5_cutsOf 4 = .ok (.iload_n 3, 1) := dk_29 (dk_at dksX5_cutsOf_0 4 rfl rfl)
theorem dX5_cutsOf_5 : decode cX5_cutsOf 5 = .ok (.aload_n 0, 1) := dk_42 (dk_at dksX5_cutsOf_0 5 rfl rfl)
theorem dX5_cutsOf_6 : decode cX5_cutsOf 6 = .ok (.getfield 251, 3) := dk_180 0 251 (dk_at dksX5_cutsOf_0 6 rfl rfl)
theorem dX5_cutsOf_9 : decode cX5_cutsOf 9 = .ok (.if_icmp .ge 27, 3) := dk_162 0 27 (dk_at dksX5_cutsOf_0 9 rfl rfl)
theorem dX5_cutsOf_12 : decode cX5_cutsOf 12 = .ok (.iload_n 2, 1) := dk_28 (dk_at dksX5_cutsOf_0 12 rfl rfl)
theorem dX5_cutsOf_13 : decode cX5_cutsOf 13 = .ok (.aload_n 0, 1) := dk_42 (dk_at dksX5_cutsOf_0 13 rfl rfl)
theorem dX5_cutsOf_14 : decode cX5_cutsOf 14 = .ok (.getfield 54, 3) := dk_180 0 54 (dk_at dksX5_cutsOf_0 14 rfl rfl)
theorem dX5_cutsOf_17 : decode cX5_cutsOf 17 = .ok (.iload_n 3, 1) := dk_29 (dk_at dksX5_cutsOf_0 17 rfl rfl)
theorem dX5_cutsOf_18 : decode cX5_cutsOf 18 = .ok (.iaload, 1) := dk_46 (dk_at dksX5_cutsOf_0 18 rfl rfl)
theorem dX5_cutsOf_19 : decode cX5_cutsOf 19 = .ok (.iload_n 1, 1) := dk_27 (dk_at dksX5_cutsOf_0 19 rfl rfl)
theorem dX5_cutsOf_20 : decode cX5_cutsOf 20 = .ok (.if_icmp .ne 7, 3) := dk_160 0 7 (dk_at dksX5_cutsOf_0 20 rfl rfl)
theorem dX5_cutsOf_23 : decode cX5_cutsOf 23 = .ok (.iconst 1, 1) := dk_4 (dk_at dksX5_cutsOf_0 23 rfl rfl)
theorem dX5_cutsOf_24 : decode cX5_cutsOf 24 = .ok (.goto 4, 3) := dk_167 0 4 (dk_at dksX5_cutsOf_1 0 rfl rfl)
theorem dX5_cutsOf_27 : decode cX5_cutsOf 27 = .ok (.iconst 0, 1) := dk_3 (dk_at dksX5_cutsOf_1 3 rfl rfl)
theorem dX5_cutsOf_28 : decode cX5_cutsOf 28 = .ok (.iadd, 1) := dk_96 (dk_at dksX5_cutsOf_1 4 rfl rfl)
theorem dX5_cutsOf_29 : decode cX5_cutsOf 29 = .ok (.istore_n 2, 1) := dk_61 (dk_at dksX5_cutsOf_1 5 rfl rfl)
theorem dX5_cutsOf_30 : decode cX5_cutsOf 30 = .ok (.iinc 3 1, 3) := dk_132 3 1 (dk_at dksX5_cutsOf_1 6 rfl rfl)
theorem dX5_cutsOf_33 : decode cX5_cutsOf 33 = .ok (.goto (-29), 3) := dk_167 255 227 (dk_at dksX5_cutsOf_1 9 rfl rfl)
theorem dX5_cutsOf_36 : decode cX5_cutsOf 36 = .ok (.iload_n 2, 1) := dk_28 (dk_at dksX5_cutsOf_1 12 rfl rfl)
theorem dX5_cutsOf_37 : decode cX5_cutsOf 37 = .ok (.ireturn, 1) := dk_172 (dk_at dksX5_cutsOf_1 13 rfl rfl)
abbrev cX5_worth : ByteArray := prog_8_method_70_code
def yX5_worth : MethodName := ⟨RX5, "worth", "(I)I"⟩
def dkwX5_worth_6 : List UInt8 := [167, 0, 4, 3, 100, 54, 4, 132, 5, 1, 167, 255, 179, 21, 4, 172]
abbrev dktX5_worth_6 : List UInt8 := dkwX5_worth_6 ++ []
def dkwX5_worth_5 : List UInt8 := [180, 0, 7, 21, 5, 46, 2, 159, 0, 15, 21, 5, 42, 180, 0, 7, 21, 5, 46, 162, 0, 7, 4]
abbrev dktX5_worth_5 : List UInt8 := dkwX5_worth_5 ++ dktX5_worth_6
def dkwX5_worth_4 : List UInt8 := [28, 16, 7, 112, 159, 0, 7, 4, 167, 0, 4, 3, 54, 6, 21, 4, 21, 6, 153, 0, 30, 42]
abbrev dktX5_worth_4 : List UInt8 := dkwX5_worth_4 ++ dktX5_worth_5
def dkwX5_worth_3 : List UInt8 := [54, 5, 21, 5, 7, 29, 104, 7, 96, 162, 0, 73, 28, 16, 7, 112, 6, 163, 0, 14, 21, 5, 7, 112]
abbrev dktX5_worth_3 : List UInt8 := dkwX5_worth_3 ++ dktX5_worth_4
def dkwX5_worth_2 : List UInt8 := [182, 0, 236, 153, 0, 7, 4, 167, 0, 4, 3, 96, 54, 4, 132, 5, 1, 167, 255, 209, 7, 29, 104]
abbrev dktX5_worth_2 : List UInt8 := dkwX5_worth_2 ++ dktX5_worth_3
def dkwX5_worth_1 : List UInt8 := [21, 4, 42, 16, 6, 29, 104, 21, 5, 96, 182, 0, 105, 153, 0, 20, 42, 28, 16, 7, 112, 21, 5]
abbrev dktX5_worth_1 : List UInt8 := dkwX5_worth_1 ++ dktX5_worth_2
def dkwX5_worth_0 : List UInt8 := [42, 27, 182, 0, 239, 61, 28, 16, 7, 108, 62, 4, 54, 4, 3, 54, 5, 21, 5, 16, 6, 162, 0, 46]
abbrev dktX5_worth_0 : List UInt8 := dkwX5_worth_0 ++ dktX5_worth_1
theorem dksX5_worth_0 : cX5_worth.data.toList.drop 0 = dktX5_worth_0 := by decide +kernel
theorem dksX5_worth_1 : cX5_worth.data.toList.drop 24 = dktX5_worth_1 := dk_seg dksX5_worth_0 24 rfl rfl
theorem dksX5_worth_2 : cX5_worth.data.toList.drop 47 = dktX5_worth_2 := dk_seg dksX5_worth_1 23 rfl rfl
theorem dksX5_worth_3 : cX5_worth.data.toList.drop 70 = dktX5_worth_3 := dk_seg dksX5_worth_2 23 rfl rfl
theorem dksX5_worth_4 : cX5_worth.data.toList.drop 94 = dktX5_worth_4 := dk_seg dksX5_worth_3 24 rfl rfl
theorem dksX5_worth_5 : cX5_worth.data.toList.drop 116 = dktX5_worth_5 := dk_seg dksX5_worth_4 22 rfl rfl
theorem dksX5_worth_6 : cX5_worth.data.toList.drop 139 = dktX5_worth_6 := dk_seg dksX5_worth_5 23 rfl rfl
theorem dX5_worth_0 : decode cX5_worth 0 = .ok (.aload_n 0, 1) := dk_42 (dk_at dksX5_worth_0 0 rfl rfl)
theorem dX5_worth_1 : decode cX5_worth 1 = .ok (.iload_n 1, 1) := dk_27 (dk_at dksX5_worth_0 1 rfl rfl)
theorem dX5_worth_2 : decode cX5_worth 2 = .ok (.invokevirtual 239, 3) := dk_182 0 239 (dk_at dksX5_worth_0 2 rfl rfl)
theorem dX5_worth_5 : decode cX5_worth 5 = .ok (.istore_n 2, 1) := dk_61 (dk_at dksX5_worth_0 5 rfl rfl)
theorem dX5_worth_6 : decode cX5_worth 6 = .ok (.iload_n 2, 1) := dk_28 (dk_at dksX5_worth_0 6 rfl rfl)
theorem dX5_worth_7 : decode cX5_worth 7 = .ok (.bipush 7, 2) := dk_16 7 (dk_at dksX5_worth_0 7 rfl rfl)
theorem dX5_worth_9 : decode cX5_worth 9 = .ok (.idiv, 1) := dk_108 (dk_at dksX5_worth_0 9 rfl rfl)
theorem dX5_worth_10 : decode cX5_worth 10 = .ok (.istore_n 3, 1) := dk_62 (dk_at dksX5_worth_0 10 rfl rfl)
theorem dX5_worth_11 : decode cX5_worth 11 = .ok (.iconst 1, 1) := dk_4 (dk_at dksX5_worth_0 11 rfl rfl)
theorem dX5_worth_12 : decode cX5_worth 12 = .ok (.istore 4, 2) := dk_54 4 (dk_at dksX5_worth_0 12 rfl rfl)
theorem dX5_worth_14 : decode cX5_worth 14 = .ok (.iconst 0, 1) := dk_3 (dk_at dksX5_worth_0 14 rfl rfl)
theorem dX5_worth_15 : decode cX5_worth 15 = .ok (.istore 5, 2) := dk_54 5 (dk_at dksX5_worth_0 15 rfl rfl)
theorem dX5_worth_17 : decode cX5_worth 17 = .ok (.iload 5, 2) := dk_21 5 (dk_at dksX5_worth_0 17 rfl rfl)
theorem dX5_worth_19 : decode cX5_worth 19 = .ok (.bipush 6, 2) := dk_16 6 (dk_at dksX5_worth_0 19 rfl rfl)
theorem dX5_worth_21 : decode cX5_worth 21 = .ok (.if_icmp .ge 46, 3) := dk_162 0 46 (dk_at dksX5_worth_0 21 rfl rfl)
theorem dX5_worth_24 : decode cX5_worth 24 = .ok (.iload 4, 2) := dk_21 4 (dk_at dksX5_worth_1 0 rfl rfl)
theorem dX5_worth_26 : decode cX5_worth 26 = .ok (.aload_n 0, 1) := dk_42 (dk_at dksX5_worth_1 2 rfl rfl)
theorem dX5_worth_27 : decode cX5_worth 27 = .ok (.bipush 6, 2) := dk_16 6 (dk_at dksX5_worth_1 3 rfl rfl)
theorem dX5_worth_29 : decode cX5_worth 29 = .ok (.iload_n 3, 1) := dk_29 (dk_at dksX5_worth_1 5 rfl rfl)
theorem dX5_worth_30 : decode cX5_worth 30 = .ok (.imul, 1) := dk_104 (dk_at dksX5_worth_1 6 rfl rfl)
theorem dX5_worth_31 : decode cX5_worth 31 = .ok (.iload 5, 2) := dk_21 5 (dk_at dksX5_worth_1 7 rfl rfl)
theorem dX5_worth_33 : decode cX5_worth 33 = .ok (.iadd, 1) := dk_96 (dk_at dksX5_worth_1 9 rfl rfl)
theorem dX5_worth_34 : decode cX5_worth 34 = .ok (.invokevirtual 105, 3) := dk_182 0 105 (dk_at dksX5_worth_1 10 rfl rfl)
theorem dX5_worth_37 : decode cX5_worth 37 = .ok (.ifCond .eq 20, 3) := dk_153 0 20 (dk_at dksX5_worth_1 13 rfl rfl)
theorem dX5_worth_40 : decode cX5_worth 40 = .ok (.aload_n 0, 1) := dk_42 (dk_at dksX5_worth_1 16 rfl rfl)
theorem dX5_worth_41 : decode cX5_worth 41 = .ok (.iload_n 2, 1) := dk_28 (dk_at dksX5_worth_1 17 rfl rfl)
theorem dX5_worth_42 : decode cX5_worth 42 = .ok (.bipush 7, 2) := dk_16 7 (dk_at dksX5_worth_1 18 rfl rfl)
theorem dX5_worth_44 : decode cX5_worth 44 = .ok (.irem, 1) := dk_112 (dk_at dksX5_worth_1 20 rfl rfl)
theorem dX5_worth_45 : decode cX5_worth 45 = .ok (.iload 5, 2) := dk_21 5 (dk_at dksX5_worth_1 21 rfl rfl)
theorem dX5_worth_47 : decode cX5_worth 47 = .ok (.invokevirtual 236, 3) := dk_182 0 236 (dk_at dksX5_worth_2 0 rfl rfl)
theorem dX5_worth_50 : decode cX5_worth 50 = .ok (.ifCond .eq 7, 3) := dk_153 0 7 (dk_at dksX5_worth_2 3 rfl rfl)
theorem dX5_worth_53 : decode cX5_worth 53 = .ok (.iconst 1, 1) := dk_4 (dk_at dksX5_worth_2 6 rfl rfl)
theorem dX5_worth_54 : decode cX5_worth 54 = .ok (.goto 4, 3) := dk_167 0 4 (dk_at dksX5_worth_2 7 rfl rfl)
theorem dX5_worth_57 : decode cX5_worth 57 = .ok (.iconst 0, 1) := dk_3 (dk_at dksX5_worth_2 10 rfl rfl)
theorem dX5_worth_58 : decode cX5_worth 58 = .ok (.iadd, 1) := dk_96 (dk_at dksX5_worth_2 11 rfl rfl)
theorem dX5_worth_59 : decode cX5_worth 59 = .ok (.istore 4, 2) := dk_54 4 (dk_at dksX5_worth_2 12 rfl rfl)
theorem dX5_worth_61 : decode cX5_worth 61 = .ok (.iinc 5 1, 3) := dk_132 5 1 (dk_at dksX5_worth_2 14 rfl rfl)
theorem dX5_worth_64 : decode cX5_worth 64 = .ok (.goto (-47), 3) := dk_167 255 209 (dk_at dksX5_worth_2 17 rfl rfl)
theorem dX5_worth_67 : decode cX5_worth 67 = .ok (.iconst 4, 1) := dk_7 (dk_at dksX5_worth_2 20 rfl rfl)
theorem dX5_worth_68 : decode cX5_worth 68 = .ok (.iload_n 3, 1) := dk_29 (dk_at dksX5_worth_2 21 rfl rfl)
theorem dX5_worth_69 : decode cX5_worth 69 = .ok (.imul, 1) := dk_104 (dk_at dksX5_worth_2 22 rfl rfl)
theorem dX5_worth_70 : decode cX5_worth 70 = .ok (.istore 5, 2) := dk_54 5 (dk_at dksX5_worth_3 0 rfl rfl)
theorem dX5_worth_72 : decode cX5_worth 72 = .ok (.iload 5, 2) := dk_21 5 (dk_at dksX5_worth_3 2 rfl rfl)
theorem dX5_worth_74 : decode cX5_worth 74 = .ok (.iconst 4, 1) := dk_7 (dk_at dksX5_worth_3 4 rfl rfl)
theorem dX5_worth_75 : decode cX5_worth 75 = .ok (.iload_n 3, 1) := dk_29 (dk_at dksX5_worth_3 5 rfl rfl)
theorem dX5_worth_76 : decode cX5_worth 76 = .ok (.imul, 1) := dk_104 (dk_at dksX5_worth_3 6 rfl rfl)
theorem dX5_worth_77 : decode cX5_worth 77 = .ok (.iconst 4, 1) := dk_7 (dk_at dksX5_worth_3 7 rfl rfl)
theorem dX5_worth_78 : decode cX5_worth 78 = .ok (.iadd, 1) := dk_96 (dk_at dksX5_worth_3 8 rfl rfl)
theorem dX5_worth_79 : decode cX5_worth 79 = .ok (.if_icmp .ge 73, 3) := dk_162 0 73 (dk_at dksX5_worth_3 9 rfl rfl)
theorem dX5_worth_82 : decode cX5_worth 82 = .ok (.iload_n 2, 1) := dk_28 (dk_at dksX5_worth_3 12 rfl rfl)
theorem dX5_worth_83 : decode cX5_worth 83 = .ok (.bipush 7, 2) := dk_16 7 (dk_at dksX5_worth_3 13 rfl rfl)
theorem dX5_worth_85 : decode cX5_worth 85 = .ok (.irem, 1) := dk_112 (dk_at dksX5_worth_3 15 rfl rfl)
theorem dX5_worth_86 : decode cX5_worth 86 = .ok (.iconst 3, 1) := dk_6 (dk_at dksX5_worth_3 16 rfl rfl)
theorem dX5_worth_87 : decode cX5_worth 87 = .ok (.if_icmp .gt 14, 3) := dk_163 0 14 (dk_at dksX5_worth_3 17 rfl rfl)
theorem dX5_worth_90 : decode cX5_worth 90 = .ok (.iload 5, 2) := dk_21 5 (dk_at dksX5_worth_3 20 rfl rfl)
theorem dX5_worth_92 : decode cX5_worth 92 = .ok (.iconst 4, 1) := dk_7 (dk_at dksX5_worth_3 22 rfl rfl)
theorem dX5_worth_93 : decode cX5_worth 93 = .ok (.irem, 1) := dk_112 (dk_at dksX5_worth_3 23 rfl rfl)
theorem dX5_worth_94 : decode cX5_worth 94 = .ok (.iload_n 2, 1) := dk_28 (dk_at dksX5_worth_4 0 rfl rfl)
theorem dX5_worth_95 : decode cX5_worth 95 = .ok (.bipush 7, 2) := dk_16 7 (dk_at dksX5_worth_4 1 rfl rfl)
theorem dX5_worth_97 : decode cX5_worth 97 = .ok (.irem, 1) := dk_112 (dk_at dksX5_worth_4 3 rfl rfl)
theorem dX5_worth_98 : decode cX5_worth 98 = .ok (.if_icmp .eq 7, 3) := dk_159 0 7 (dk_at dksX5_worth_4 4 rfl rfl)
theorem dX5_worth_101 : decode cX5_worth 101 = .ok (.iconst 1, 1) := dk_4 (dk_at dksX5_worth_4 7 rfl rfl)
theorem dX5_worth_102 : decode cX5_worth 102 = .ok (.goto 4, 3) := dk_167 0 4 (dk_at dksX5_worth_4 8 rfl rfl)
theorem dX5_worth_105 : decode cX5_worth 105 = .ok (.iconst 0, 1) := dk_3 (dk_at dksX5_worth_4 11 rfl rfl)
theorem dX5_worth_106 : decode cX5_worth 106 = .ok (.istore 6, 2) := dk_54 6 (dk_at dksX5_worth_4 12 rfl rfl)
theorem dX5_worth_108 : decode cX5_worth 108 = .ok (.iload 4, 2) := dk_21 4 (dk_at dksX5_worth_4 14 rfl rfl)
theorem dX5_worth_110 : decode cX5_worth 110 = .ok (.iload 6, 2) := dk_21 6 (dk_at dksX5_worth_4 16 rfl rfl)
theorem dX5_worth_112 : decode cX5_worth 112 = .ok (.ifCond .eq 30, 3) := dk_153 0 30 (dk_at dksX5_worth_4 18 rfl rfl)
theorem dX5_worth_115 : decode cX5_worth 115 = .ok (.aload_n 0, 1) := dk_42 (dk_at dksX5_worth_4 21 rfl rfl)
theorem dX5_worth_116 : decode cX5_worth 116 = .ok (.getfield 7, 3) := dk_180 0 7 (dk_at dksX5_worth_5 0 rfl rfl)
theorem dX5_worth_119 : decode cX5_worth 119 = .ok (.iload 5, 2) := dk_21 5 (dk_at dksX5_worth_5 3 rfl rfl)
theorem dX5_worth_121 : decode cX5_worth 121 = .ok (.iaload, 1) := dk_46 (dk_at dksX5_worth_5 5 rfl rfl)
theorem dX5_worth_122 : decode cX5_worth 122 = .ok (.iconst (-1), 1) := dk_2 (dk_at dksX5_worth_5 6 rfl rfl)
theorem dX5_worth_123 : decode cX5_worth 123 = .ok (.if_icmp .eq 15, 3) := dk_159 0 15 (dk_at dksX5_worth_5 7 rfl rfl)
theorem dX5_worth_126 : decode cX5_worth 126 = .ok (.iload 5, 2) := dk_21 5 (dk_at dksX5_worth_5 10 rfl rfl)
theorem dX5_worth_128 : decode cX5_worth 128 = .ok (.aload_n 0, 1) := dk_42 (dk_at dksX5_worth_5 12 rfl rfl)
theorem dX5_worth_129 : decode cX5_worth 129 = .ok (.getfield 7, 3) := dk_180 0 7 (dk_at dksX5_worth_5 13 rfl rfl)
theorem dX5_worth_132 : decode cX5_worth 132 = .ok (.iload 5, 2) := dk_21 5 (dk_at dksX5_worth_5 16 rfl rfl)
theorem dX5_worth_134 : decode cX5_worth 134 = .ok (.iaload, 1) := dk_46 (dk_at dksX5_worth_5 18 rfl rfl)
theorem dX5_worth_135 : decode cX5_worth 135 = .ok (.if_icmp .ge 7, 3) := dk_162 0 7 (dk_at dksX5_worth_5 19 rfl rfl)
theorem dX5_worth_138 : decode cX5_worth 138 = .ok (.iconst 1, 1) := dk_4 (dk_at dksX5_worth_5 22 rfl rfl)
theorem dX5_worth_139 : decode cX5_worth 139 = .ok (.goto 4, 3) := dk_167 0 4 (dk_at dksX5_worth_6 0 rfl rfl)
theorem dX5_worth_142 : decode cX5_worth 142 = .ok (.iconst 0, 1) := dk_3 (dk_at dksX5_worth_6 3 rfl rfl)
theorem dX5_worth_143 : decode cX5_worth 143 = .ok (.isub, 1) := dk_100 (dk_at dksX5_worth_6 4 rfl rfl)
theorem dX5_worth_144 : decode cX5_worth 144 = .ok (.istore 4, 2) := dk_54 4 (dk_at dksX5_worth_6 5 rfl rfl)
theorem dX5_worth_146 : decode cX5_worth 146 = .ok (.iinc 5 1, 3) := dk_132 5 1 (dk_at dksX5_worth_6 7 rfl rfl)
theorem dX5_worth_149 : decode cX5_worth 149 = .ok (.goto (-77), 3) := dk_167 255 179 (dk_at dksX5_worth_6 10 rfl rfl)
theorem dX5_worth_152 : decode cX5_worth 152 = .ok (.iload 4, 2) := dk_21 4 (dk_at dksX5_worth_6 13 rfl rfl)
theorem dX5_worth_154 : decode cX5_worth 154 = .ok (.ireturn, 1) := dk_172 (dk_at dksX5_worth_6 15 rfl rfl)
theorem q87 : (Jvm.Cond.initialized "ThirdSheetsModel") ∈ lw_all := lw_g (lw_at lw_m1 6 rfl) rfl
theorem q571 : (Jvm.Cond.instantiable "ThirdSheetsModel" (26 : Nat)) ∈ lw_all := lw_g (lw_at lw_m3 10 rfl) rfl
theorem q573 : (Jvm.Cond.instanceMethod ({ cls := "ThirdSheetsModel", name := "<init>", desc := "()V" } : Jvm.MethodName)) ∈ lw_all := lw_g (lw_at lw_m3 12 rfl) rfl
theorem q574 : (Jvm.Cond.code ({ cls := "ThirdSheetsModel", name := "<init>", desc := "()V" } : Jvm.MethodName) prog_8_method_1_code (1 : Nat) (Option.none : Option Jvm.ClassFile.FieldType)) ∈ lw_all := lw_g (lw_at lw_m3 13 rfl) rfl
theorem q575 : (Jvm.Cond.methodLink "ThirdSheetsModel" (1 : Nat) ({ cls := "java/lang/Object", name := "<init>", desc := "()V" } : Jvm.MethodName)) ∈ lw_all := lw_g (lw_at lw_m3 14 rfl) rfl
theorem q576 : (Jvm.Cond.constant "ThirdSheetsModel" (41 : Nat) (42000 : Int32)) ∈ lw_all := lw_g (lw_at lw_m3 15 rfl) rfl
theorem q577 : (Jvm.Cond.fieldLink "ThirdSheetsModel" (67 : Nat) "ThirdSheetsModel" "pieces" "I") ∈ lw_all := lw_g (lw_at lw_m3 16 rfl) rfl
theorem q578 : (Jvm.Cond.fieldLink "ThirdSheetsModel" (7 : Nat) "ThirdSheetsModel" "glued" "[I") ∈ lw_all := lw_g (lw_at lw_m3 17 rfl) rfl
theorem q579 : (Jvm.Cond.fieldLink "ThirdSheetsModel" (13 : Nat) "ThirdSheetsModel" "goes" "[I") ∈ lw_all := lw_g (lw_at lw_m3 18 rfl) rfl
theorem q580 : (Jvm.Cond.fieldLink "ThirdSheetsModel" (16 : Nat) "ThirdSheetsModel" "sheet" "[I") ∈ lw_all := lw_g (lw_at lw_m3 19 rfl) rfl
theorem q581 : (Jvm.Cond.fieldLink "ThirdSheetsModel" (19 : Nat) "ThirdSheetsModel" "from" "[I") ∈ lw_all := lw_g (lw_at lw_m3 20 rfl) rfl
theorem q582 : (Jvm.Cond.fieldLink "ThirdSheetsModel" (22 : Nat) "ThirdSheetsModel" "to" "[I") ∈ lw_all := lw_g (lw_at lw_m3 21 rfl) rfl
theorem q583 : (Jvm.Cond.fieldLink "ThirdSheetsModel" (25 : Nat) "ThirdSheetsModel" "labels" "[I") ∈ lw_all := lw_g (lw_at lw_m3 22 rfl) rfl
theorem q584 : (Jvm.Cond.fieldLink "ThirdSheetsModel" (28 : Nat) "ThirdSheetsModel" "corners" "[I") ∈ lw_all := lw_g (lw_at lw_m3 23 rfl) rfl
theorem q585 : (Jvm.Cond.fieldLink "ThirdSheetsModel" (31 : Nat) "ThirdSheetsModel" "sets" "[I") ∈ lw_all := lw_g (lw_at lw_m3 24 rfl) rfl
theorem q586 : (Jvm.Cond.fieldLink "ThirdSheetsModel" (86 : Nat) "ThirdSheetsModel" "more" "Z") ∈ lw_all := lw_g (lw_at lw_m3 25 rfl) rfl
theorem q587 : (Jvm.Cond.fieldLink "ThirdSheetsModel" (34 : Nat) "ThirdSheetsModel" "table" "[J") ∈ lw_all := lw_g (lw_at lw_m3 26 rfl) rfl
theorem q588 : (Jvm.Cond.fieldLink "ThirdSheetsModel" (162 : Nat) "ThirdSheetsModel" "rows" "I") ∈ lw_all := lw_g (lw_at lw_m3 27 rfl) rfl
theorem q589 : (Jvm.Cond.fieldLink "ThirdSheetsModel" (159 : Nat) "ThirdSheetsModel" "columns" "I") ∈ lw_all := lw_g (lw_at lw_m3 28 rfl) rfl
theorem q590 : (Jvm.Cond.fieldLink "ThirdSheetsModel" (38 : Nat) "ThirdSheetsModel" "pairOf" "[I") ∈ lw_all := lw_g (lw_at lw_m3 29 rfl) rfl
theorem q591 : (Jvm.Cond.fieldLink "ThirdSheetsModel" (189 : Nat) "ThirdSheetsModel" "rays" "I") ∈ lw_all := lw_g (lw_at lw_m3 30 rfl) rfl
theorem q592 : (Jvm.Cond.fieldLink "ThirdSheetsModel" (42 : Nat) "ThirdSheetsModel" "ray" "[I") ∈ lw_all := lw_g (lw_at lw_m3 31 rfl) rfl
theorem q593 : (Jvm.Cond.fieldLink "ThirdSheetsModel" (45 : Nat) "ThirdSheetsModel" "next" "[I") ∈ lw_all := lw_g (lw_at lw_m3 32 rfl) rfl
theorem q594 : (Jvm.Cond.fieldLink "ThirdSheetsModel" (48 : Nat) "ThirdSheetsModel" "equation" "[I") ∈ lw_all := lw_g (lw_at lw_m3 33 rfl) rfl
theorem q595 : (Jvm.Cond.fieldLink "ThirdSheetsModel" (195 : Nat) "ThirdSheetsModel" "laid" "I") ∈ lw_all := lw_g (lw_at lw_m3 34 rfl) rfl
theorem q596 : (Jvm.Cond.fieldLink "ThirdSheetsModel" (251 : Nat) "ThirdSheetsModel" "cuts" "I") ∈ lw_all := lw_g (lw_at lw_m3 35 rfl) rfl
theorem q597 : (Jvm.Cond.fieldLink "ThirdSheetsModel" (51 : Nat) "ThirdSheetsModel" "cutFrom" "[I") ∈ lw_all := lw_g (lw_at lw_m3 36 rfl) rfl
theorem q598 : (Jvm.Cond.fieldLink "ThirdSheetsModel" (54 : Nat) "ThirdSheetsModel" "partOf" "[I") ∈ lw_all := lw_g (lw_at lw_m3 37 rfl) rfl
theorem q599 : (Jvm.Cond.fieldLink "ThirdSheetsModel" (57 : Nat) "ThirdSheetsModel" "sign" "[I") ∈ lw_all := lw_g (lw_at lw_m3 38 rfl) rfl
theorem q600 : (Jvm.Cond.fieldLink "ThirdSheetsModel" (60 : Nat) "ThirdSheetsModel" "queue" "[I") ∈ lw_all := lw_g (lw_at lw_m3 39 rfl) rfl
theorem q601 : (Jvm.Cond.fieldLink "ThirdSheetsModel" (248 : Nat) "ThirdSheetsModel" "isTwisted" "Z") ∈ lw_all := lw_g (lw_at lw_m3 40 rfl) rfl
theorem q602 : (Jvm.Cond.fieldLink "ThirdSheetsModel" (63 : Nat) "ThirdSheetsModel" "twisted" "[Z") ∈ lw_all := lw_g (lw_at lw_m3 41 rfl) rfl
theorem q603 : (Jvm.Cond.lays "ThirdSheetsModel" "ThirdSheetsModel" "pieces" "I") ∈ lw_all := lw_g (lw_at lw_m3 42 rfl) rfl
theorem q604 : (Jvm.Cond.soleField "ThirdSheetsModel" "pieces") ∈ lw_all := lw_g (lw_at lw_m3 43 rfl) rfl
theorem q605 : (Jvm.Cond.laysFinal "ThirdSheetsModel" "ThirdSheetsModel" "glued" "[I") ∈ lw_all := lw_g (lw_at lw_m3 44 rfl) rfl
theorem q606 : (Jvm.Cond.soleField "ThirdSheetsModel" "glued") ∈ lw_all := lw_g (lw_at lw_m3 45 rfl) rfl
theorem q607 : (Jvm.Cond.laysFinal "ThirdSheetsModel" "ThirdSheetsModel" "goes" "[I") ∈ lw_all := lw_g (lw_at lw_m3 46 rfl) rfl
theorem q608 : (Jvm.Cond.soleField "ThirdSheetsModel" "goes") ∈ lw_all := lw_g (lw_at lw_m3 47 rfl) rfl
theorem q609 : (Jvm.Cond.laysFinal "ThirdSheetsModel" "ThirdSheetsModel" "sheet" "[I") ∈ lw_all := lw_g (lw_at lw_m3 48 rfl) rfl
theorem q610 : (Jvm.Cond.soleField "ThirdSheetsModel" "sheet") ∈ lw_all := lw_g (lw_at lw_m3 49 rfl) rfl
theorem q611 : (Jvm.Cond.laysFinal "ThirdSheetsModel" "ThirdSheetsModel" "from" "[I") ∈ lw_all := lw_g (lw_at lw_m3 50 rfl) rfl
theorem q612 : (Jvm.Cond.soleField "ThirdSheetsModel" "from") ∈ lw_all := lw_g (lw_at lw_m3 51 rfl) rfl
theorem q613 : (Jvm.Cond.laysFinal "ThirdSheetsModel" "ThirdSheetsModel" "to" "[I") ∈ lw_all := lw_g (lw_at lw_m3 52 rfl) rfl
theorem q614 : (Jvm.Cond.soleField "ThirdSheetsModel" "to") ∈ lw_all := lw_g (lw_at lw_m3 53 rfl) rfl
theorem q615 : (Jvm.Cond.laysFinal "ThirdSheetsModel" "ThirdSheetsModel" "labels" "[I") ∈ lw_all := lw_g (lw_at lw_m3 54 rfl) rfl
theorem q616 : (Jvm.Cond.soleField "ThirdSheetsModel" "labels") ∈ lw_all := lw_g (lw_at lw_m3 55 rfl) rfl
theorem q617 : (Jvm.Cond.laysFinal "ThirdSheetsModel" "ThirdSheetsModel" "corners" "[I") ∈ lw_all := lw_g (lw_at lw_m3 56 rfl) rfl
theorem q618 : (Jvm.Cond.soleField "ThirdSheetsModel" "corners") ∈ lw_all := lw_g (lw_at lw_m3 57 rfl) rfl
theorem q619 : (Jvm.Cond.laysFinal "ThirdSheetsModel" "ThirdSheetsModel" "sets" "[I") ∈ lw_all := lw_g (lw_at lw_m3 58 rfl) rfl
theorem q620 : (Jvm.Cond.soleField "ThirdSheetsModel" "sets") ∈ lw_all := lw_g (lw_at lw_m3 59 rfl) rfl
theorem q621 : (Jvm.Cond.lays "ThirdSheetsModel" "ThirdSheetsModel" "more" "Z") ∈ lw_all := lw_g (lw_at lw_m3 60 rfl) rfl
theorem q622 : (Jvm.Cond.soleField "ThirdSheetsModel" "more") ∈ lw_all := lw_g (lw_at lw_m3 61 rfl) rfl
theorem q623 : (Jvm.Cond.laysFinal "ThirdSheetsModel" "ThirdSheetsModel" "table" "[J") ∈ lw_all := lw_g (lw_at lw_m3 62 rfl) rfl
theorem q624 : (Jvm.Cond.soleField "ThirdSheetsModel" "table") ∈ lw_all := lw_g (lw_at lw_m3 63 rfl) rfl
theorem q625 : (Jvm.Cond.lays "ThirdSheetsModel" "ThirdSheetsModel" "rows" "I") ∈ lw_all := lw_g (lw_at lw_m3 64 rfl) rfl
theorem q626 : (Jvm.Cond.soleField "ThirdSheetsModel" "rows") ∈ lw_all := lw_g (lw_at lw_m3 65 rfl) rfl
theorem q627 : (Jvm.Cond.lays "ThirdSheetsModel" "ThirdSheetsModel" "columns" "I") ∈ lw_all := lw_g (lw_at lw_m3 66 rfl) rfl
theorem q628 : (Jvm.Cond.soleField "ThirdSheetsModel" "columns") ∈ lw_all := lw_g (lw_at lw_m3 67 rfl) rfl
theorem q629 : (Jvm.Cond.laysFinal "ThirdSheetsModel" "ThirdSheetsModel" "pairOf" "[I") ∈ lw_all := lw_g (lw_at lw_m3 68 rfl) rfl
theorem q630 : (Jvm.Cond.soleField "ThirdSheetsModel" "pairOf") ∈ lw_all := lw_g (lw_at lw_m3 69 rfl) rfl
theorem q631 : (Jvm.Cond.lays "ThirdSheetsModel" "ThirdSheetsModel" "rays" "I") ∈ lw_all := lw_g (lw_at lw_m3 70 rfl) rfl
theorem q632 : (Jvm.Cond.soleField "ThirdSheetsModel" "rays") ∈ lw_all := lw_g (lw_at lw_m3 71 rfl) rfl
theorem q633 : (Jvm.Cond.laysFinal "ThirdSheetsModel" "ThirdSheetsModel" "ray" "[I") ∈ lw_all := lw_g (lw_at lw_m3 72 rfl) rfl
theorem q634 : (Jvm.Cond.soleField "ThirdSheetsModel" "ray") ∈ lw_all := lw_g (lw_at lw_m3 73 rfl) rfl
theorem q635 : (Jvm.Cond.laysFinal "ThirdSheetsModel" "ThirdSheetsModel" "next" "[I") ∈ lw_all := lw_g (lw_at lw_m3 74 rfl) rfl
theorem q636 : (Jvm.Cond.soleField "ThirdSheetsModel" "next") ∈ lw_all := lw_g (lw_at lw_m3 75 rfl) rfl
theorem q637 : (Jvm.Cond.laysFinal "ThirdSheetsModel" "ThirdSheetsModel" "equation" "[I") ∈ lw_all := lw_g (lw_at lw_m3 76 rfl) rfl
theorem q638 : (Jvm.Cond.soleField "ThirdSheetsModel" "equation") ∈ lw_all := lw_g (lw_at lw_m3 77 rfl) rfl
theorem q639 : (Jvm.Cond.lays "ThirdSheetsModel" "ThirdSheetsModel" "laid" "I") ∈ lw_all := lw_g (lw_at lw_m3 78 rfl) rfl
theorem q640 : (Jvm.Cond.soleField "ThirdSheetsModel" "laid") ∈ lw_all := lw_g (lw_at lw_m3 79 rfl) rfl
theorem q641 : (Jvm.Cond.lays "ThirdSheetsModel" "ThirdSheetsModel" "cuts" "I") ∈ lw_all := lw_g (lw_at lw_m3 80 rfl) rfl
theorem q642 : (Jvm.Cond.soleField "ThirdSheetsModel" "cuts") ∈ lw_all := lw_g (lw_at lw_m3 81 rfl) rfl
theorem q643 : (Jvm.Cond.laysFinal "ThirdSheetsModel" "ThirdSheetsModel" "cutFrom" "[I") ∈ lw_all := lw_g (lw_at lw_m3 82 rfl) rfl
theorem q644 : (Jvm.Cond.soleField "ThirdSheetsModel" "cutFrom") ∈ lw_all := lw_g (lw_at lw_m3 83 rfl) rfl
theorem q645 : (Jvm.Cond.laysFinal "ThirdSheetsModel" "ThirdSheetsModel" "partOf" "[I") ∈ lw_all := lw_g (lw_at lw_m3 84 rfl) rfl
theorem q646 : (Jvm.Cond.soleField "ThirdSheetsModel" "partOf") ∈ lw_all := lw_g (lw_at lw_m3 85 rfl) rfl
theorem q647 : (Jvm.Cond.laysFinal "ThirdSheetsModel" "ThirdSheetsModel" "sign" "[I") ∈ lw_all := lw_g (lw_at lw_m3 86 rfl) rfl
theorem q648 : (Jvm.Cond.soleField "ThirdSheetsModel" "sign") ∈ lw_all := lw_g (lw_at lw_m3 87 rfl) rfl
theorem q649 : (Jvm.Cond.laysFinal "ThirdSheetsModel" "ThirdSheetsModel" "queue" "[I") ∈ lw_all := lw_g (lw_at lw_m3 88 rfl) rfl
theorem q650 : (Jvm.Cond.soleField "ThirdSheetsModel" "queue") ∈ lw_all := lw_g (lw_at lw_m3 89 rfl) rfl
theorem q651 : (Jvm.Cond.lays "ThirdSheetsModel" "ThirdSheetsModel" "isTwisted" "Z") ∈ lw_all := lw_g (lw_at lw_m3 90 rfl) rfl
theorem q652 : (Jvm.Cond.soleField "ThirdSheetsModel" "isTwisted") ∈ lw_all := lw_g (lw_at lw_m3 91 rfl) rfl
theorem q653 : (Jvm.Cond.laysFinal "ThirdSheetsModel" "ThirdSheetsModel" "twisted" "[Z") ∈ lw_all := lw_g (lw_at lw_m3 92 rfl) rfl
theorem q654 : (Jvm.Cond.soleField "ThirdSheetsModel" "twisted") ∈ lw_all := lw_g (lw_at lw_m3 93 rfl) rfl
theorem q655 : (Jvm.Cond.superclass "ThirdSheetsModel" "java/lang/Object") ∈ lw_all := lw_g (lw_at lw_m3 94 rfl) rfl
theorem q657 : (Jvm.Cond.instanceMethod ({ cls := "ThirdSheetsModel", name := "piece", desc := "()I" } : Jvm.MethodName)) ∈ lw_all := lw_g (lw_at lw_m3 96 rfl) rfl
theorem q658 : (Jvm.Cond.selects "ThirdSheetsModel" ({ cls := "ThirdSheetsModel", name := "piece", desc := "()I" } : Jvm.MethodName) ({ cls := "ThirdSheetsModel", name := "piece", desc := "()I" } : Jvm.MethodName)) ∈ lw_all := lw_g (lw_at lw_m3 97 rfl) rfl
theorem q659 : (Jvm.Cond.code ({ cls := "ThirdSheetsModel", name := "piece", desc := "()I" } : Jvm.MethodName) prog_8_method_19_code (2 : Nat) (Option.some Jvm.ClassFile.FieldType.int)) ∈ lw_all := lw_g (lw_at lw_m3 98 rfl) rfl
theorem q660 : (Jvm.Cond.methodLink "ThirdSheetsModel" (111 : Nat) ({ cls := "ThirdSheetsModel", name := "empty", desc := "()V" } : Jvm.MethodName)) ∈ lw_all := lw_g (lw_at lw_m3 99 rfl) rfl
theorem q661 : (Jvm.Cond.privateMethod ({ cls := "ThirdSheetsModel", name := "empty", desc := "()V" } : Jvm.MethodName)) ∈ lw_tbl := lw_at lw_m3 100 rfl
theorem q662 : (Jvm.Cond.instanceMethod ({ cls := "ThirdSheetsModel", name := "empty", desc := "()V" } : Jvm.MethodName)) ∈ lw_all := lw_g (lw_at lw_m3 101 rfl) rfl
theorem q663 : (Jvm.Cond.code ({ cls := "ThirdSheetsModel", name := "empty", desc := "()V" } : Jvm.MethodName) prog_8_method_20_code (2 : Nat) (Option.none : Option Jvm.ClassFile.FieldType)) ∈ lw_all := lw_g (lw_at lw_m3 102 rfl) rfl
theorem q665 : (Jvm.Cond.instanceMethod ({ cls := "ThirdSheetsModel", name := "glue", desc := "(IIIII)I" } : Jvm.MethodName)) ∈ lw_all := lw_g (lw_at lw_m3 104 rfl) rfl
theorem q666 : (Jvm.Cond.selects "ThirdSheetsModel" ({ cls := "ThirdSheetsModel", name := "glue", desc := "(IIIII)I" } : Jvm.MethodName) ({ cls := "ThirdSheetsModel", name := "glue", desc := "(IIIII)I" } : Jvm.MethodName)) ∈ lw_all := lw_g (lw_at lw_m3 105 rfl) rfl
theorem q667 : (Jvm.Cond.code ({ cls := "ThirdSheetsModel", name := "glue", desc := "(IIIII)I" } : Jvm.MethodName) prog_8_method_21_code (14 : Nat) (Option.some Jvm.ClassFile.FieldType.int)) ∈ lw_all := lw_g (lw_at lw_m3 106 rfl) rfl
theorem q668 : (Jvm.Cond.methodLink "ThirdSheetsModel" (114 : Nat) ({ cls := "ThirdSheetsModel", name := "isSide", desc := "(II)Z" } : Jvm.MethodName)) ∈ lw_all := lw_g (lw_at lw_m3 107 rfl) rfl
theorem q669 : (Jvm.Cond.privateMethod ({ cls := "ThirdSheetsModel", name := "isSide", desc := "(II)Z" } : Jvm.MethodName)) ∈ lw_tbl := lw_at lw_m3 108 rfl
theorem q670 : (Jvm.Cond.instanceMethod ({ cls := "ThirdSheetsModel", name := "isSide", desc := "(II)Z" } : Jvm.MethodName)) ∈ lw_all := lw_g (lw_at lw_m3 109 rfl) rfl
theorem q671 : (Jvm.Cond.code ({ cls := "ThirdSheetsModel", name := "isSide", desc := "(II)Z" } : Jvm.MethodName) prog_8_method_4_code (3 : Nat) (Option.some Jvm.ClassFile.FieldType.boolean)) ∈ lw_all := lw_g (lw_at lw_m3 110 rfl) rfl
theorem q672 : (Jvm.Cond.methodLink "ThirdSheetsModel" (75 : Nat) ({ cls := "ThirdSheetsModel", name := "isPiece", desc := "(I)Z" } : Jvm.MethodName)) ∈ lw_all := lw_g (lw_at lw_m3 111 rfl) rfl
theorem q673 : (Jvm.Cond.privateMethod ({ cls := "ThirdSheetsModel", name := "isPiece", desc := "(I)Z" } : Jvm.MethodName)) ∈ lw_tbl := lw_at lw_m3 112 rfl
theorem q674 : (Jvm.Cond.instanceMethod ({ cls := "ThirdSheetsModel", name := "isPiece", desc := "(I)Z" } : Jvm.MethodName)) ∈ lw_all := lw_g (lw_at lw_m3 113 rfl) rfl
theorem q675 : (Jvm.Cond.code ({ cls := "ThirdSheetsModel", name := "isPiece", desc := "(I)Z" } : Jvm.MethodName) prog_8_method_3_code (2 : Nat) (Option.some Jvm.ClassFile.FieldType.boolean)) ∈ lw_all := lw_g (lw_at lw_m3 114 rfl) rfl
theorem q676 : (Jvm.Cond.methodLink "ThirdSheetsModel" (71 : Nat) ({ cls := "ThirdSheetsModel", name := "in", desc := "(III)Z" } : Jvm.MethodName)) ∈ lw_all := lw_g (lw_at lw_m3 115 rfl) rfl
theorem q677 : (Jvm.Cond.static ({ cls := "ThirdSheetsModel", name := "in", desc := "(III)Z" } : Jvm.MethodName)) ∈ lw_all := lw_g (lw_at lw_m3 116 rfl) rfl
theorem q678 : (Jvm.Cond.code ({ cls := "ThirdSheetsModel", name := "in", desc := "(III)Z" } : Jvm.MethodName) prog_8_method_2_code (3 : Nat) (Option.some Jvm.ClassFile.FieldType.boolean)) ∈ lw_all := lw_g (lw_at lw_m3 117 rfl) rfl
theorem q680 : (Jvm.Cond.instanceMethod ({ cls := "ThirdSheetsModel", name := "open", desc := "(II)I" } : Jvm.MethodName)) ∈ lw_all := lw_g (lw_at lw_m3 119 rfl) rfl
theorem q681 : (Jvm.Cond.selects "ThirdSheetsModel" ({ cls := "ThirdSheetsModel", name := "open", desc := "(II)I" } : Jvm.MethodName) ({ cls := "ThirdSheetsModel", name := "open", desc := "(II)I" } : Jvm.MethodName)) ∈ lw_all := lw_g (lw_at lw_m3 120 rfl) rfl
theorem q682 : (Jvm.Cond.code ({ cls := "ThirdSheetsModel", name := "open", desc := "(II)I" } : Jvm.MethodName) prog_8_method_22_code (4 : Nat) (Option.some Jvm.ClassFile.FieldType.int)) ∈ lw_all := lw_g (lw_at lw_m3 121 rfl) rfl
theorem q684 : (Jvm.Cond.instanceMethod ({ cls := "ThirdSheetsModel", name := "clear", desc := "()I" } : Jvm.MethodName)) ∈ lw_all := lw_g (lw_at lw_m3 123 rfl) rfl
theorem q685 : (Jvm.Cond.selects "ThirdSheetsModel" ({ cls := "ThirdSheetsModel", name := "clear", desc := "()I" } : Jvm.MethodName) ({ cls := "ThirdSheetsModel", name := "clear", desc := "()I" } : Jvm.MethodName)) ∈ lw_all := lw_g (lw_at lw_m3 124 rfl) rfl
theorem q686 : (Jvm.Cond.code ({ cls := "ThirdSheetsModel", name := "clear", desc := "()I" } : Jvm.MethodName) prog_8_method_23_code (2 : Nat) (Option.some Jvm.ClassFile.FieldType.int)) ∈ lw_all := lw_g (lw_at lw_m3 125 rfl) rfl
theorem q688 : (Jvm.Cond.instanceMethod ({ cls := "ThirdSheetsModel", name := "across", desc := "(III)I" } : Jvm.MethodName)) ∈ lw_all := lw_g (lw_at lw_m3 127 rfl) rfl
theorem q689 : (Jvm.Cond.selects "ThirdSheetsModel" ({ cls := "ThirdSheetsModel", name := "across", desc := "(III)I" } : Jvm.MethodName) ({ cls := "ThirdSheetsModel", name := "across", desc := "(III)I" } : Jvm.MethodName)) ∈ lw_all := lw_g (lw_at lw_m3 128 rfl) rfl
theorem q690 : (Jvm.Cond.code ({ cls := "ThirdSheetsModel", name := "across", desc := "(III)I" } : Jvm.MethodName) prog_8_method_24_code (5 : Nat) (Option.some Jvm.ClassFile.FieldType.int)) ∈ lw_all := lw_g (lw_at lw_m3 129 rfl) rfl
theorem q692 : (Jvm.Cond.instanceMethod ({ cls := "ThirdSheetsModel", name := "classOf", desc := "(III)I" } : Jvm.MethodName)) ∈ lw_all := lw_g (lw_at lw_m3 131 rfl) rfl
theorem q693 : (Jvm.Cond.selects "ThirdSheetsModel" ({ cls := "ThirdSheetsModel", name := "classOf", desc := "(III)I" } : Jvm.MethodName) ({ cls := "ThirdSheetsModel", name := "classOf", desc := "(III)I" } : Jvm.MethodName)) ∈ lw_all := lw_g (lw_at lw_m3 132 rfl) rfl
theorem q694 : (Jvm.Cond.code ({ cls := "ThirdSheetsModel", name := "classOf", desc := "(III)I" } : Jvm.MethodName) prog_8_method_25_code (6 : Nat) (Option.some Jvm.ClassFile.FieldType.int)) ∈ lw_all := lw_g (lw_at lw_m3 133 rfl) rfl
theorem q695 : (Jvm.Cond.methodLink "ThirdSheetsModel" (118 : Nat) ({ cls := "ThirdSheetsModel", name := "label", desc := "()V" } : Jvm.MethodName)) ∈ lw_all := lw_g (lw_at lw_m3 134 rfl) rfl
theorem q696 : (Jvm.Cond.privateMethod ({ cls := "ThirdSheetsModel", name := "label", desc := "()V" } : Jvm.MethodName)) ∈ lw_tbl := lw_at lw_m3 135 rfl
theorem q697 : (Jvm.Cond.instanceMethod ({ cls := "ThirdSheetsModel", name := "label", desc := "()V" } : Jvm.MethodName)) ∈ lw_all := lw_g (lw_at lw_m3 136 rfl) rfl
theorem q698 : (Jvm.Cond.code ({ cls := "ThirdSheetsModel", name := "label", desc := "()V" } : Jvm.MethodName) prog_8_method_9_code (2 : Nat) (Option.none : Option Jvm.ClassFile.FieldType)) ∈ lw_all := lw_g (lw_at lw_m3 137 rfl) rfl
theorem q699 : (Jvm.Cond.methodLink "ThirdSheetsModel" (90 : Nat) ({ cls := "ThirdSheetsModel", name := "joinSide", desc := "(I)V" } : Jvm.MethodName)) ∈ lw_all := lw_g (lw_at lw_m3 138 rfl) rfl
theorem q700 : (Jvm.Cond.privateMethod ({ cls := "ThirdSheetsModel", name := "joinSide", desc := "(I)V" } : Jvm.MethodName)) ∈ lw_tbl := lw_at lw_m3 139 rfl
theorem q701 : (Jvm.Cond.instanceMethod ({ cls := "ThirdSheetsModel", name := "joinSide", desc := "(I)V" } : Jvm.MethodName)) ∈ lw_all := lw_g (lw_at lw_m3 140 rfl) rfl
theorem q702 : (Jvm.Cond.code ({ cls := "ThirdSheetsModel", name := "joinSide", desc := "(I)V" } : Jvm.MethodName) prog_8_method_10_code (6 : Nat) (Option.none : Option Jvm.ClassFile.FieldType)) ∈ lw_all := lw_g (lw_at lw_m3 141 rfl) rfl
theorem q703 : (Jvm.Cond.methodLink "ThirdSheetsModel" (94 : Nat) ({ cls := "ThirdSheetsModel", name := "join", desc := "([III)V" } : Jvm.MethodName)) ∈ lw_all := lw_g (lw_at lw_m3 142 rfl) rfl
theorem q704 : (Jvm.Cond.privateMethod ({ cls := "ThirdSheetsModel", name := "join", desc := "([III)V" } : Jvm.MethodName)) ∈ lw_tbl := lw_at lw_m3 143 rfl
theorem q705 : (Jvm.Cond.instanceMethod ({ cls := "ThirdSheetsModel", name := "join", desc := "([III)V" } : Jvm.MethodName)) ∈ lw_all := lw_g (lw_at lw_m3 144 rfl) rfl
theorem q706 : (Jvm.Cond.code ({ cls := "ThirdSheetsModel", name := "join", desc := "([III)V" } : Jvm.MethodName) prog_8_method_8_code (5 : Nat) (Option.none : Option Jvm.ClassFile.FieldType)) ∈ lw_all := lw_g (lw_at lw_m3 145 rfl) rfl
theorem q707 : (Jvm.Cond.methodLink "ThirdSheetsModel" (83 : Nat) ({ cls := "ThirdSheetsModel", name := "lesser", desc := "(II)I" } : Jvm.MethodName)) ∈ lw_all := lw_g (lw_at lw_m3 146 rfl) rfl
theorem q708 : (Jvm.Cond.static ({ cls := "ThirdSheetsModel", name := "lesser", desc := "(II)I" } : Jvm.MethodName)) ∈ lw_all := lw_g (lw_at lw_m3 147 rfl) rfl
theorem q709 : (Jvm.Cond.code ({ cls := "ThirdSheetsModel", name := "lesser", desc := "(II)I" } : Jvm.MethodName) prog_8_method_7_code (2 : Nat) (Option.some Jvm.ClassFile.FieldType.int)) ∈ lw_all := lw_g (lw_at lw_m3 148 rfl) rfl
theorem q710 : (Jvm.Cond.methodLink "ThirdSheetsModel" (98 : Nat) ({ cls := "ThirdSheetsModel", name := "endOf", desc := "(III)I" } : Jvm.MethodName)) ∈ lw_all := lw_g (lw_at lw_m3 149 rfl) rfl
theorem q711 : (Jvm.Cond.privateMethod ({ cls := "ThirdSheetsModel", name := "endOf", desc := "(III)I" } : Jvm.MethodName)) ∈ lw_tbl := lw_at lw_m3 150 rfl
theorem q712 : (Jvm.Cond.instanceMethod ({ cls := "ThirdSheetsModel", name := "endOf", desc := "(III)I" } : Jvm.MethodName)) ∈ lw_all := lw_g (lw_at lw_m3 151 rfl) rfl
theorem q713 : (Jvm.Cond.code ({ cls := "ThirdSheetsModel", name := "endOf", desc := "(III)I" } : Jvm.MethodName) prog_8_method_6_code (4 : Nat) (Option.some Jvm.ClassFile.FieldType.int)) ∈ lw_all := lw_g (lw_at lw_m3 152 rfl) rfl
theorem q714 : (Jvm.Cond.methodLink "ThirdSheetsModel" (79 : Nat) ({ cls := "ThirdSheetsModel", name := "edgeOf", desc := "(II)I" } : Jvm.MethodName)) ∈ lw_all := lw_g (lw_at lw_m3 153 rfl) rfl
theorem q715 : (Jvm.Cond.privateMethod ({ cls := "ThirdSheetsModel", name := "edgeOf", desc := "(II)I" } : Jvm.MethodName)) ∈ lw_tbl := lw_at lw_m3 154 rfl
theorem q716 : (Jvm.Cond.instanceMethod ({ cls := "ThirdSheetsModel", name := "edgeOf", desc := "(II)I" } : Jvm.MethodName)) ∈ lw_all := lw_g (lw_at lw_m3 155 rfl) rfl
theorem q717 : (Jvm.Cond.code ({ cls := "ThirdSheetsModel", name := "edgeOf", desc := "(II)I" } : Jvm.MethodName) prog_8_method_5_code (4 : Nat) (Option.some Jvm.ClassFile.FieldType.int)) ∈ lw_all := lw_g (lw_at lw_m3 156 rfl) rfl
theorem q718 : (Jvm.Cond.methodLink "ThirdSheetsModel" (102 : Nat) ({ cls := "ThirdSheetsModel", name := "edgeLabel", desc := "(II)I" } : Jvm.MethodName)) ∈ lw_all := lw_g (lw_at lw_m3 157 rfl) rfl
theorem q719 : (Jvm.Cond.privateMethod ({ cls := "ThirdSheetsModel", name := "edgeLabel", desc := "(II)I" } : Jvm.MethodName)) ∈ lw_tbl := lw_at lw_m3 158 rfl
theorem q720 : (Jvm.Cond.instanceMethod ({ cls := "ThirdSheetsModel", name := "edgeLabel", desc := "(II)I" } : Jvm.MethodName)) ∈ lw_all := lw_g (lw_at lw_m3 159 rfl) rfl
theorem q721 : (Jvm.Cond.code ({ cls := "ThirdSheetsModel", name := "edgeLabel", desc := "(II)I" } : Jvm.MethodName) prog_8_method_11_code (3 : Nat) (Option.some Jvm.ClassFile.FieldType.int)) ∈ lw_all := lw_g (lw_at lw_m3 160 rfl) rfl
theorem q722 : (Jvm.Cond.methodLink "ThirdSheetsModel" (105 : Nat) ({ cls := "ThirdSheetsModel", name := "isFirstEdge", desc := "(I)Z" } : Jvm.MethodName)) ∈ lw_all := lw_g (lw_at lw_m3 161 rfl) rfl
theorem q723 : (Jvm.Cond.privateMethod ({ cls := "ThirdSheetsModel", name := "isFirstEdge", desc := "(I)Z" } : Jvm.MethodName)) ∈ lw_tbl := lw_at lw_m3 162 rfl
theorem q724 : (Jvm.Cond.instanceMethod ({ cls := "ThirdSheetsModel", name := "isFirstEdge", desc := "(I)Z" } : Jvm.MethodName)) ∈ lw_all := lw_g (lw_at lw_m3 163 rfl) rfl
theorem q725 : (Jvm.Cond.code ({ cls := "ThirdSheetsModel", name := "isFirstEdge", desc := "(I)Z" } : Jvm.MethodName) prog_8_method_12_code (2 : Nat) (Option.some Jvm.ClassFile.FieldType.boolean)) ∈ lw_all := lw_g (lw_at lw_m3 164 rfl) rfl
theorem q727 : (Jvm.Cond.instanceMethod ({ cls := "ThirdSheetsModel", name := "bent", desc := "(I)I" } : Jvm.MethodName)) ∈ lw_all := lw_g (lw_at lw_m3 166 rfl) rfl
theorem q728 : (Jvm.Cond.selects "ThirdSheetsModel" ({ cls := "ThirdSheetsModel", name := "bent", desc := "(I)I" } : Jvm.MethodName) ({ cls := "ThirdSheetsModel", name := "bent", desc := "(I)I" } : Jvm.MethodName)) ∈ lw_all := lw_g (lw_at lw_m3 167 rfl) rfl
theorem q729 : (Jvm.Cond.code ({ cls := "ThirdSheetsModel", name := "bent", desc := "(I)I" } : Jvm.MethodName) prog_8_method_26_code (3 : Nat) (Option.some Jvm.ClassFile.FieldType.int)) ∈ lw_all := lw_g (lw_at lw_m3 168 rfl) rfl
theorem q730 : (Jvm.Cond.methodLink "ThirdSheetsModel" (121 : Nat) ({ cls := "ThirdSheetsModel", name := "edgeOfClass", desc := "(I)I" } : Jvm.MethodName)) ∈ lw_all := lw_g (lw_at lw_m3 169 rfl) rfl
theorem q731 : (Jvm.Cond.privateMethod ({ cls := "ThirdSheetsModel", name := "edgeOfClass", desc := "(I)I" } : Jvm.MethodName)) ∈ lw_tbl := lw_at lw_m3 170 rfl
theorem q732 : (Jvm.Cond.instanceMethod ({ cls := "ThirdSheetsModel", name := "edgeOfClass", desc := "(I)I" } : Jvm.MethodName)) ∈ lw_all := lw_g (lw_at lw_m3 171 rfl) rfl
theorem q733 : (Jvm.Cond.code ({ cls := "ThirdSheetsModel", name := "edgeOfClass", desc := "(I)I" } : Jvm.MethodName) prog_8_method_15_code (4 : Nat) (Option.some Jvm.ClassFile.FieldType.int)) ∈ lw_all := lw_g (lw_at lw_m3 172 rfl) rfl
theorem q734 : (Jvm.Cond.methodLink "ThirdSheetsModel" (108 : Nat) ({ cls := "ThirdSheetsModel", name := "isBent", desc := "(I)Z" } : Jvm.MethodName)) ∈ lw_all := lw_g (lw_at lw_m3 173 rfl) rfl
theorem q735 : (Jvm.Cond.privateMethod ({ cls := "ThirdSheetsModel", name := "isBent", desc := "(I)Z" } : Jvm.MethodName)) ∈ lw_tbl := lw_at lw_m3 174 rfl
theorem q736 : (Jvm.Cond.instanceMethod ({ cls := "ThirdSheetsModel", name := "isBent", desc := "(I)Z" } : Jvm.MethodName)) ∈ lw_all := lw_g (lw_at lw_m3 175 rfl) rfl
theorem q737 : (Jvm.Cond.code ({ cls := "ThirdSheetsModel", name := "isBent", desc := "(I)Z" } : Jvm.MethodName) prog_8_method_17_code (2 : Nat) (Option.some Jvm.ClassFile.FieldType.boolean)) ∈ lw_all := lw_g (lw_at lw_m3 176 rfl) rfl
theorem q739 : (Jvm.Cond.instanceMethod ({ cls := "ThirdSheetsModel", name := "link", desc := "(I)I" } : Jvm.MethodName)) ∈ lw_all := lw_g (lw_at lw_m3 178 rfl) rfl
theorem q740 : (Jvm.Cond.selects "ThirdSheetsModel" ({ cls := "ThirdSheetsModel", name := "link", desc := "(I)I" } : Jvm.MethodName) ({ cls := "ThirdSheetsModel", name := "link", desc := "(I)I" } : Jvm.MethodName)) ∈ lw_all := lw_g (lw_at lw_m3 179 rfl) rfl
theorem q741 : (Jvm.Cond.code ({ cls := "ThirdSheetsModel", name := "link", desc := "(I)I" } : Jvm.MethodName) prog_8_method_28_code (3 : Nat) (Option.some Jvm.ClassFile.FieldType.int)) ∈ lw_all := lw_g (lw_at lw_m3 180 rfl) rfl
theorem q742 : (Jvm.Cond.methodLink "ThirdSheetsModel" (125 : Nat) ({ cls := "ThirdSheetsModel", name := "cornerOfClass", desc := "(I)I" } : Jvm.MethodName)) ∈ lw_all := lw_g (lw_at lw_m3 181 rfl) rfl
theorem q743 : (Jvm.Cond.privateMethod ({ cls := "ThirdSheetsModel", name := "cornerOfClass", desc := "(I)I" } : Jvm.MethodName)) ∈ lw_tbl := lw_at lw_m3 182 rfl
theorem q744 : (Jvm.Cond.instanceMethod ({ cls := "ThirdSheetsModel", name := "cornerOfClass", desc := "(I)I" } : Jvm.MethodName)) ∈ lw_all := lw_g (lw_at lw_m3 183 rfl) rfl
theorem q745 : (Jvm.Cond.code ({ cls := "ThirdSheetsModel", name := "cornerOfClass", desc := "(I)I" } : Jvm.MethodName) prog_8_method_16_code (4 : Nat) (Option.some Jvm.ClassFile.FieldType.int)) ∈ lw_all := lw_g (lw_at lw_m3 184 rfl) rfl
theorem q746 : (Jvm.Cond.constant "ThirdSheetsModel" (128 : Nat) (-2147483648 : Int32)) ∈ lw_all := lw_g (lw_at lw_m3 185 rfl) rfl
theorem q747 : (Jvm.Cond.methodLink "ThirdSheetsModel" (129 : Nat) ({ cls := "ThirdSheetsModel", name := "linkOf", desc := "(I)I" } : Jvm.MethodName)) ∈ lw_all := lw_g (lw_at lw_m3 186 rfl) rfl
theorem q748 : (Jvm.Cond.privateMethod ({ cls := "ThirdSheetsModel", name := "linkOf", desc := "(I)I" } : Jvm.MethodName)) ∈ lw_tbl := lw_at lw_m3 187 rfl
theorem q749 : (Jvm.Cond.instanceMethod ({ cls := "ThirdSheetsModel", name := "linkOf", desc := "(I)I" } : Jvm.MethodName)) ∈ lw_all := lw_g (lw_at lw_m3 188 rfl) rfl
theorem q750 : (Jvm.Cond.code ({ cls := "ThirdSheetsModel", name := "linkOf", desc := "(I)I" } : Jvm.MethodName) prog_8_method_27_code (10 : Nat) (Option.some Jvm.ClassFile.FieldType.int)) ∈ lw_all := lw_g (lw_at lw_m3 189 rfl) rfl
theorem q752 : (Jvm.Cond.instanceMethod ({ cls := "ThirdSheetsModel", name := "count", desc := "(I)I" } : Jvm.MethodName)) ∈ lw_all := lw_g (lw_at lw_m3 191 rfl) rfl
theorem q753 : (Jvm.Cond.selects "ThirdSheetsModel" ({ cls := "ThirdSheetsModel", name := "count", desc := "(I)I" } : Jvm.MethodName) ({ cls := "ThirdSheetsModel", name := "count", desc := "(I)I" } : Jvm.MethodName)) ∈ lw_all := lw_g (lw_at lw_m3 192 rfl) rfl
theorem q754 : (Jvm.Cond.code ({ cls := "ThirdSheetsModel", name := "count", desc := "(I)I" } : Jvm.MethodName) prog_8_method_34_code (2 : Nat) (Option.some Jvm.ClassFile.FieldType.int)) ∈ lw_all := lw_g (lw_at lw_m3 193 rfl) rfl
theorem q755 : (Jvm.Cond.methodLink "ThirdSheetsModel" (143 : Nat) ({ cls := "ThirdSheetsModel", name := "cornerClasses", desc := "()I" } : Jvm.MethodName)) ∈ lw_all := lw_g (lw_at lw_m3 194 rfl) rfl
theorem q756 : (Jvm.Cond.privateMethod ({ cls := "ThirdSheetsModel", name := "cornerClasses", desc := "()I" } : Jvm.MethodName)) ∈ lw_tbl := lw_at lw_m3 195 rfl
theorem q757 : (Jvm.Cond.instanceMethod ({ cls := "ThirdSheetsModel", name := "cornerClasses", desc := "()I" } : Jvm.MethodName)) ∈ lw_all := lw_g (lw_at lw_m3 196 rfl) rfl
theorem q758 : (Jvm.Cond.code ({ cls := "ThirdSheetsModel", name := "cornerClasses", desc := "()I" } : Jvm.MethodName) prog_8_method_14_code (3 : Nat) (Option.some Jvm.ClassFile.FieldType.int)) ∈ lw_all := lw_g (lw_at lw_m3 197 rfl) rfl
theorem q759 : (Jvm.Cond.methodLink "ThirdSheetsModel" (147 : Nat) ({ cls := "ThirdSheetsModel", name := "edgeClasses", desc := "()I" } : Jvm.MethodName)) ∈ lw_all := lw_g (lw_at lw_m3 198 rfl) rfl
theorem q760 : (Jvm.Cond.privateMethod ({ cls := "ThirdSheetsModel", name := "edgeClasses", desc := "()I" } : Jvm.MethodName)) ∈ lw_tbl := lw_at lw_m3 199 rfl
theorem q761 : (Jvm.Cond.instanceMethod ({ cls := "ThirdSheetsModel", name := "edgeClasses", desc := "()I" } : Jvm.MethodName)) ∈ lw_all := lw_g (lw_at lw_m3 200 rfl) rfl
theorem q762 : (Jvm.Cond.code ({ cls := "ThirdSheetsModel", name := "edgeClasses", desc := "()I" } : Jvm.MethodName) prog_8_method_13_code (3 : Nat) (Option.some Jvm.ClassFile.FieldType.int)) ∈ lw_all := lw_g (lw_at lw_m3 201 rfl) rfl
theorem q763 : (Jvm.Cond.methodLink "ThirdSheetsModel" (132 : Nat) ({ cls := "ThirdSheetsModel", name := "sides", desc := "(Z)I" } : Jvm.MethodName)) ∈ lw_all := lw_g (lw_at lw_m3 202 rfl) rfl
theorem q764 : (Jvm.Cond.privateMethod ({ cls := "ThirdSheetsModel", name := "sides", desc := "(Z)I" } : Jvm.MethodName)) ∈ lw_tbl := lw_at lw_m3 203 rfl
theorem q765 : (Jvm.Cond.instanceMethod ({ cls := "ThirdSheetsModel", name := "sides", desc := "(Z)I" } : Jvm.MethodName)) ∈ lw_all := lw_g (lw_at lw_m3 204 rfl) rfl
theorem q766 : (Jvm.Cond.code ({ cls := "ThirdSheetsModel", name := "sides", desc := "(Z)I" } : Jvm.MethodName) prog_8_method_29_code (4 : Nat) (Option.some Jvm.ClassFile.FieldType.int)) ∈ lw_all := lw_g (lw_at lw_m3 205 rfl) rfl
theorem q767 : (Jvm.Cond.methodLink "ThirdSheetsModel" (150 : Nat) ({ cls := "ThirdSheetsModel", name := "isWhole", desc := "()Z" } : Jvm.MethodName)) ∈ lw_all := lw_g (lw_at lw_m3 206 rfl) rfl
theorem q768 : (Jvm.Cond.privateMethod ({ cls := "ThirdSheetsModel", name := "isWhole", desc := "()Z" } : Jvm.MethodName)) ∈ lw_tbl := lw_at lw_m3 207 rfl
theorem q769 : (Jvm.Cond.instanceMethod ({ cls := "ThirdSheetsModel", name := "isWhole", desc := "()Z" } : Jvm.MethodName)) ∈ lw_all := lw_g (lw_at lw_m3 208 rfl) rfl
theorem q770 : (Jvm.Cond.code ({ cls := "ThirdSheetsModel", name := "isWhole", desc := "()Z" } : Jvm.MethodName) prog_8_method_30_code (3 : Nat) (Option.some Jvm.ClassFile.FieldType.boolean)) ∈ lw_all := lw_g (lw_at lw_m3 209 rfl) rfl
theorem q771 : (Jvm.Cond.methodLink "ThirdSheetsModel" (136 : Nat) ({ cls := "ThirdSheetsModel", name := "anyBent", desc := "()Z" } : Jvm.MethodName)) ∈ lw_all := lw_g (lw_at lw_m3 210 rfl) rfl
theorem q772 : (Jvm.Cond.privateMethod ({ cls := "ThirdSheetsModel", name := "anyBent", desc := "()Z" } : Jvm.MethodName)) ∈ lw_tbl := lw_at lw_m3 211 rfl
theorem q773 : (Jvm.Cond.instanceMethod ({ cls := "ThirdSheetsModel", name := "anyBent", desc := "()Z" } : Jvm.MethodName)) ∈ lw_all := lw_g (lw_at lw_m3 212 rfl) rfl
theorem q774 : (Jvm.Cond.code ({ cls := "ThirdSheetsModel", name := "anyBent", desc := "()Z" } : Jvm.MethodName) prog_8_method_18_code (3 : Nat) (Option.some Jvm.ClassFile.FieldType.boolean)) ∈ lw_all := lw_g (lw_at lw_m3 213 rfl) rfl
theorem q775 : (Jvm.Cond.methodLink "ThirdSheetsModel" (153 : Nat) ({ cls := "ThirdSheetsModel", name := "isEven", desc := "()Z" } : Jvm.MethodName)) ∈ lw_all := lw_g (lw_at lw_m3 214 rfl) rfl
theorem q776 : (Jvm.Cond.privateMethod ({ cls := "ThirdSheetsModel", name := "isEven", desc := "()Z" } : Jvm.MethodName)) ∈ lw_tbl := lw_at lw_m3 215 rfl
theorem q777 : (Jvm.Cond.instanceMethod ({ cls := "ThirdSheetsModel", name := "isEven", desc := "()Z" } : Jvm.MethodName)) ∈ lw_all := lw_g (lw_at lw_m3 216 rfl) rfl
theorem q778 : (Jvm.Cond.code ({ cls := "ThirdSheetsModel", name := "isEven", desc := "()Z" } : Jvm.MethodName) prog_8_method_32_code (5 : Nat) (Option.some Jvm.ClassFile.FieldType.boolean)) ∈ lw_all := lw_g (lw_at lw_m3 217 rfl) rfl
theorem q779 : (Jvm.Cond.methodLink "ThirdSheetsModel" (140 : Nat) ({ cls := "ThirdSheetsModel", name := "isEvenChange", desc := "(I)Z" } : Jvm.MethodName)) ∈ lw_all := lw_g (lw_at lw_m3 218 rfl) rfl
theorem q780 : (Jvm.Cond.privateMethod ({ cls := "ThirdSheetsModel", name := "isEvenChange", desc := "(I)Z" } : Jvm.MethodName)) ∈ lw_tbl := lw_at lw_m3 219 rfl
theorem q781 : (Jvm.Cond.instanceMethod ({ cls := "ThirdSheetsModel", name := "isEvenChange", desc := "(I)Z" } : Jvm.MethodName)) ∈ lw_all := lw_g (lw_at lw_m3 220 rfl) rfl
theorem q782 : (Jvm.Cond.code ({ cls := "ThirdSheetsModel", name := "isEvenChange", desc := "(I)Z" } : Jvm.MethodName) prog_8_method_31_code (5 : Nat) (Option.some Jvm.ClassFile.FieldType.boolean)) ∈ lw_all := lw_g (lw_at lw_m3 221 rfl) rfl
theorem q783 : (Jvm.Cond.methodLink "ThirdSheetsModel" (156 : Nat) ({ cls := "ThirdSheetsModel", name := "setMany", desc := "()I" } : Jvm.MethodName)) ∈ lw_all := lw_g (lw_at lw_m3 222 rfl) rfl
theorem q784 : (Jvm.Cond.privateMethod ({ cls := "ThirdSheetsModel", name := "setMany", desc := "()I" } : Jvm.MethodName)) ∈ lw_tbl := lw_at lw_m3 223 rfl
theorem q785 : (Jvm.Cond.instanceMethod ({ cls := "ThirdSheetsModel", name := "setMany", desc := "()I" } : Jvm.MethodName)) ∈ lw_all := lw_g (lw_at lw_m3 224 rfl) rfl
theorem q786 : (Jvm.Cond.code ({ cls := "ThirdSheetsModel", name := "setMany", desc := "()I" } : Jvm.MethodName) prog_8_method_33_code (3 : Nat) (Option.some Jvm.ClassFile.FieldType.int)) ∈ lw_all := lw_g (lw_at lw_m3 225 rfl) rfl
theorem q788 : (Jvm.Cond.instanceMethod ({ cls := "ThirdSheetsModel", name := "holes", desc := "(I)I" } : Jvm.MethodName)) ∈ lw_all := lw_g (lw_at lw_m3 227 rfl) rfl
theorem q789 : (Jvm.Cond.selects "ThirdSheetsModel" ({ cls := "ThirdSheetsModel", name := "holes", desc := "(I)I" } : Jvm.MethodName) ({ cls := "ThirdSheetsModel", name := "holes", desc := "(I)I" } : Jvm.MethodName)) ∈ lw_all := lw_g (lw_at lw_m3 228 rfl) rfl
theorem q790 : (Jvm.Cond.code ({ cls := "ThirdSheetsModel", name := "holes", desc := "(I)I" } : Jvm.MethodName) prog_8_method_41_code (7 : Nat) (Option.some Jvm.ClassFile.FieldType.int)) ∈ lw_all := lw_g (lw_at lw_m3 229 rfl) rfl
theorem q791 : (Jvm.Cond.methodLink "ThirdSheetsModel" (177 : Nat) ({ cls := "ThirdSheetsModel", name := "layLoops", desc := "()V" } : Jvm.MethodName)) ∈ lw_all := lw_g (lw_at lw_m3 230 rfl) rfl
theorem q792 : (Jvm.Cond.privateMethod ({ cls := "ThirdSheetsModel", name := "layLoops", desc := "()V" } : Jvm.MethodName)) ∈ lw_tbl := lw_at lw_m3 231 rfl
theorem q793 : (Jvm.Cond.instanceMethod ({ cls := "ThirdSheetsModel", name := "layLoops", desc := "()V" } : Jvm.MethodName)) ∈ lw_all := lw_g (lw_at lw_m3 232 rfl) rfl
theorem q794 : (Jvm.Cond.code ({ cls := "ThirdSheetsModel", name := "layLoops", desc := "()V" } : Jvm.MethodName) prog_8_method_37_code (2 : Nat) (Option.none : Option Jvm.ClassFile.FieldType)) ∈ lw_all := lw_g (lw_at lw_m3 233 rfl) rfl
theorem q795 : (Jvm.Cond.methodLink "ThirdSheetsModel" (167 : Nat) ({ cls := "ThirdSheetsModel", name := "findPairs", desc := "()V" } : Jvm.MethodName)) ∈ lw_all := lw_g (lw_at lw_m3 234 rfl) rfl
theorem q796 : (Jvm.Cond.privateMethod ({ cls := "ThirdSheetsModel", name := "findPairs", desc := "()V" } : Jvm.MethodName)) ∈ lw_tbl := lw_at lw_m3 235 rfl
theorem q797 : (Jvm.Cond.instanceMethod ({ cls := "ThirdSheetsModel", name := "findPairs", desc := "()V" } : Jvm.MethodName)) ∈ lw_all := lw_g (lw_at lw_m3 236 rfl) rfl
theorem q798 : (Jvm.Cond.code ({ cls := "ThirdSheetsModel", name := "findPairs", desc := "()V" } : Jvm.MethodName) prog_8_method_35_code (2 : Nat) (Option.none : Option Jvm.ClassFile.FieldType)) ∈ lw_all := lw_g (lw_at lw_m3 237 rfl) rfl
theorem q799 : (Jvm.Cond.methodLink "ThirdSheetsModel" (170 : Nat) ({ cls := "ThirdSheetsModel", name := "goAround", desc := "(I)Z" } : Jvm.MethodName)) ∈ lw_all := lw_g (lw_at lw_m3 238 rfl) rfl
theorem q800 : (Jvm.Cond.privateMethod ({ cls := "ThirdSheetsModel", name := "goAround", desc := "(I)Z" } : Jvm.MethodName)) ∈ lw_tbl := lw_at lw_m3 239 rfl
theorem q801 : (Jvm.Cond.instanceMethod ({ cls := "ThirdSheetsModel", name := "goAround", desc := "(I)Z" } : Jvm.MethodName)) ∈ lw_all := lw_g (lw_at lw_m4 0 rfl) rfl
theorem q802 : (Jvm.Cond.code ({ cls := "ThirdSheetsModel", name := "goAround", desc := "(I)Z" } : Jvm.MethodName) prog_8_method_36_code (14 : Nat) (Option.some Jvm.ClassFile.FieldType.boolean)) ∈ lw_all := lw_g (lw_at lw_m4 1 rfl) rfl
theorem q803 : (Jvm.Cond.constantLong "ThirdSheetsModel" (165 : Nat) (-1 : Int64)) ∈ lw_all := lw_g (lw_at lw_m4 2 rfl) rfl
theorem q804 : (Jvm.Cond.methodLink "ThirdSheetsModel" (180 : Nat) ({ cls := "ThirdSheetsModel", name := "bring", desc := "(I)Z" } : Jvm.MethodName)) ∈ lw_all := lw_g (lw_at lw_m4 3 rfl) rfl
theorem q805 : (Jvm.Cond.privateMethod ({ cls := "ThirdSheetsModel", name := "bring", desc := "(I)Z" } : Jvm.MethodName)) ∈ lw_tbl := lw_at lw_m4 4 rfl
theorem q806 : (Jvm.Cond.instanceMethod ({ cls := "ThirdSheetsModel", name := "bring", desc := "(I)Z" } : Jvm.MethodName)) ∈ lw_all := lw_g (lw_at lw_m4 5 rfl) rfl
theorem q807 : (Jvm.Cond.code ({ cls := "ThirdSheetsModel", name := "bring", desc := "(I)Z" } : Jvm.MethodName) prog_8_method_39_code (10 : Nat) (Option.some Jvm.ClassFile.FieldType.boolean)) ∈ lw_all := lw_g (lw_at lw_m4 6 rfl) rfl
theorem q808 : (Jvm.Cond.methodLink "ThirdSheetsModel" (173 : Nat) ({ cls := "ThirdSheetsModel", name := "cell", desc := "(II)J" } : Jvm.MethodName)) ∈ lw_all := lw_g (lw_at lw_m4 7 rfl) rfl
theorem q809 : (Jvm.Cond.privateMethod ({ cls := "ThirdSheetsModel", name := "cell", desc := "(II)J" } : Jvm.MethodName)) ∈ lw_tbl := lw_at lw_m4 8 rfl
theorem q810 : (Jvm.Cond.instanceMethod ({ cls := "ThirdSheetsModel", name := "cell", desc := "(II)J" } : Jvm.MethodName)) ∈ lw_all := lw_g (lw_at lw_m4 9 rfl) rfl
theorem q811 : (Jvm.Cond.code ({ cls := "ThirdSheetsModel", name := "cell", desc := "(II)J" } : Jvm.MethodName) prog_8_method_38_code (3 : Nat) (Option.some Jvm.ClassFile.FieldType.long)) ∈ lw_all := lw_g (lw_at lw_m4 10 rfl) rfl
theorem q812 : (Jvm.Cond.methodLink "ThirdSheetsModel" (183 : Nat) ({ cls := "ThirdSheetsModel", name := "reduce", desc := "(I)Z" } : Jvm.MethodName)) ∈ lw_all := lw_g (lw_at lw_m4 11 rfl) rfl
theorem q813 : (Jvm.Cond.privateMethod ({ cls := "ThirdSheetsModel", name := "reduce", desc := "(I)Z" } : Jvm.MethodName)) ∈ lw_tbl := lw_at lw_m4 12 rfl
theorem q814 : (Jvm.Cond.instanceMethod ({ cls := "ThirdSheetsModel", name := "reduce", desc := "(I)Z" } : Jvm.MethodName)) ∈ lw_all := lw_g (lw_at lw_m4 13 rfl) rfl
theorem q815 : (Jvm.Cond.code ({ cls := "ThirdSheetsModel", name := "reduce", desc := "(I)Z" } : Jvm.MethodName) prog_8_method_40_code (7 : Nat) (Option.some Jvm.ClassFile.FieldType.boolean)) ∈ lw_all := lw_g (lw_at lw_m4 14 rfl) rfl
theorem q817 : (Jvm.Cond.instanceMethod ({ cls := "ThirdSheetsModel", name := "least", desc := "()I" } : Jvm.MethodName)) ∈ lw_all := lw_g (lw_at lw_m4 16 rfl) rfl
theorem q818 : (Jvm.Cond.selects "ThirdSheetsModel" ({ cls := "ThirdSheetsModel", name := "least", desc := "()I" } : Jvm.MethodName) ({ cls := "ThirdSheetsModel", name := "least", desc := "()I" } : Jvm.MethodName)) ∈ lw_all := lw_g (lw_at lw_m4 17 rfl) rfl
theorem q819 : (Jvm.Cond.code ({ cls := "ThirdSheetsModel", name := "least", desc := "()I" } : Jvm.MethodName) prog_8_method_54_code (1 : Nat) (Option.some Jvm.ClassFile.FieldType.int)) ∈ lw_all := lw_g (lw_at lw_m4 18 rfl) rfl
theorem q820 : (Jvm.Cond.methodLink "ThirdSheetsModel" (227 : Nat) ({ cls := "ThirdSheetsModel", name := "findLeast", desc := "()V" } : Jvm.MethodName)) ∈ lw_all := lw_g (lw_at lw_m4 19 rfl) rfl
theorem q821 : (Jvm.Cond.privateMethod ({ cls := "ThirdSheetsModel", name := "findLeast", desc := "()V" } : Jvm.MethodName)) ∈ lw_tbl := lw_at lw_m4 20 rfl
theorem q822 : (Jvm.Cond.instanceMethod ({ cls := "ThirdSheetsModel", name := "findLeast", desc := "()V" } : Jvm.MethodName)) ∈ lw_all := lw_g (lw_at lw_m4 21 rfl) rfl
theorem q823 : (Jvm.Cond.code ({ cls := "ThirdSheetsModel", name := "findLeast", desc := "()V" } : Jvm.MethodName) prog_8_method_53_code (3 : Nat) (Option.none : Option Jvm.ClassFile.FieldType)) ∈ lw_all := lw_g (lw_at lw_m4 22 rfl) rfl
theorem q824 : (Jvm.Cond.methodLink "ThirdSheetsModel" (214 : Nat) ({ cls := "ThirdSheetsModel", name := "layEquation", desc := "(II)V" } : Jvm.MethodName)) ∈ lw_all := lw_g (lw_at lw_m4 23 rfl) rfl
theorem q825 : (Jvm.Cond.privateMethod ({ cls := "ThirdSheetsModel", name := "layEquation", desc := "(II)V" } : Jvm.MethodName)) ∈ lw_tbl := lw_at lw_m4 24 rfl
theorem q826 : (Jvm.Cond.instanceMethod ({ cls := "ThirdSheetsModel", name := "layEquation", desc := "(II)V" } : Jvm.MethodName)) ∈ lw_all := lw_g (lw_at lw_m4 25 rfl) rfl
theorem q827 : (Jvm.Cond.code ({ cls := "ThirdSheetsModel", name := "layEquation", desc := "(II)V" } : Jvm.MethodName) prog_8_method_43_code (7 : Nat) (Option.none : Option Jvm.ClassFile.FieldType)) ∈ lw_all := lw_g (lw_at lw_m4 26 rfl) rfl
theorem q828 : (Jvm.Cond.methodLink "ThirdSheetsModel" (186 : Nat) ({ cls := "ThirdSheetsModel", name := "kindOf", desc := "(II)I" } : Jvm.MethodName)) ∈ lw_all := lw_g (lw_at lw_m4 27 rfl) rfl
theorem q829 : (Jvm.Cond.static ({ cls := "ThirdSheetsModel", name := "kindOf", desc := "(II)I" } : Jvm.MethodName)) ∈ lw_all := lw_g (lw_at lw_m4 28 rfl) rfl
theorem q830 : (Jvm.Cond.code ({ cls := "ThirdSheetsModel", name := "kindOf", desc := "(II)I" } : Jvm.MethodName) prog_8_method_42_code (3 : Nat) (Option.some Jvm.ClassFile.FieldType.int)) ∈ lw_all := lw_g (lw_at lw_m4 29 rfl) rfl
theorem q831 : (Jvm.Cond.methodLink "ThirdSheetsModel" (218 : Nat) ({ cls := "ThirdSheetsModel", name := "meet", desc := "()V" } : Jvm.MethodName)) ∈ lw_all := lw_g (lw_at lw_m4 30 rfl) rfl
theorem q832 : (Jvm.Cond.privateMethod ({ cls := "ThirdSheetsModel", name := "meet", desc := "()V" } : Jvm.MethodName)) ∈ lw_tbl := lw_at lw_m4 31 rfl
theorem q833 : (Jvm.Cond.instanceMethod ({ cls := "ThirdSheetsModel", name := "meet", desc := "()V" } : Jvm.MethodName)) ∈ lw_all := lw_g (lw_at lw_m4 32 rfl) rfl
theorem q834 : (Jvm.Cond.code ({ cls := "ThirdSheetsModel", name := "meet", desc := "()V" } : Jvm.MethodName) prog_8_method_50_code (6 : Nat) (Option.none : Option Jvm.ClassFile.FieldType)) ∈ lw_all := lw_g (lw_at lw_m4 33 rfl) rfl
theorem q835 : (Jvm.Cond.methodLink "ThirdSheetsModel" (201 : Nat) ({ cls := "ThirdSheetsModel", name := "side", desc := "(I)I" } : Jvm.MethodName)) ∈ lw_all := lw_g (lw_at lw_m4 34 rfl) rfl
theorem q836 : (Jvm.Cond.privateMethod ({ cls := "ThirdSheetsModel", name := "side", desc := "(I)I" } : Jvm.MethodName)) ∈ lw_tbl := lw_at lw_m4 35 rfl
theorem q837 : (Jvm.Cond.instanceMethod ({ cls := "ThirdSheetsModel", name := "side", desc := "(I)I" } : Jvm.MethodName)) ∈ lw_all := lw_g (lw_at lw_m4 36 rfl) rfl
theorem q838 : (Jvm.Cond.code ({ cls := "ThirdSheetsModel", name := "side", desc := "(I)I" } : Jvm.MethodName) prog_8_method_44_code (4 : Nat) (Option.some Jvm.ClassFile.FieldType.int)) ∈ lw_all := lw_g (lw_at lw_m4 37 rfl) rfl
theorem q839 : (Jvm.Cond.methodLink "ThirdSheetsModel" (204 : Nat) ({ cls := "ThirdSheetsModel", name := "layRay", desc := "(IIII)V" } : Jvm.MethodName)) ∈ lw_all := lw_g (lw_at lw_m4 38 rfl) rfl
theorem q840 : (Jvm.Cond.privateMethod ({ cls := "ThirdSheetsModel", name := "layRay", desc := "(IIII)V" } : Jvm.MethodName)) ∈ lw_tbl := lw_at lw_m4 39 rfl
theorem q841 : (Jvm.Cond.instanceMethod ({ cls := "ThirdSheetsModel", name := "layRay", desc := "(IIII)V" } : Jvm.MethodName)) ∈ lw_all := lw_g (lw_at lw_m4 40 rfl) rfl
theorem q842 : (Jvm.Cond.code ({ cls := "ThirdSheetsModel", name := "layRay", desc := "(IIII)V" } : Jvm.MethodName) prog_8_method_49_code (8 : Nat) (Option.none : Option Jvm.ClassFile.FieldType)) ∈ lw_all := lw_g (lw_at lw_m4 41 rfl) rfl
theorem q843 : (Jvm.Cond.methodLink "ThirdSheetsModel" (198 : Nat) ({ cls := "ThirdSheetsModel", name := "divisor", desc := "(II)I" } : Jvm.MethodName)) ∈ lw_all := lw_g (lw_at lw_m4 42 rfl) rfl
theorem q844 : (Jvm.Cond.static ({ cls := "ThirdSheetsModel", name := "divisor", desc := "(II)I" } : Jvm.MethodName)) ∈ lw_all := lw_g (lw_at lw_m4 43 rfl) rfl
theorem q845 : (Jvm.Cond.code ({ cls := "ThirdSheetsModel", name := "divisor", desc := "(II)I" } : Jvm.MethodName) prog_8_method_48_code (5 : Nat) (Option.some Jvm.ClassFile.FieldType.int)) ∈ lw_all := lw_g (lw_at lw_m4 44 rfl) rfl
theorem q846 : (Jvm.Cond.methodLink "ThirdSheetsModel" (192 : Nat) ({ cls := "ThirdSheetsModel", name := "supportOf", desc := "(I)I" } : Jvm.MethodName)) ∈ lw_all := lw_g (lw_at lw_m4 45 rfl) rfl
theorem q847 : (Jvm.Cond.privateMethod ({ cls := "ThirdSheetsModel", name := "supportOf", desc := "(I)I" } : Jvm.MethodName)) ∈ lw_tbl := lw_at lw_m4 46 rfl
theorem q848 : (Jvm.Cond.instanceMethod ({ cls := "ThirdSheetsModel", name := "supportOf", desc := "(I)I" } : Jvm.MethodName)) ∈ lw_all := lw_g (lw_at lw_m4 47 rfl) rfl
theorem q849 : (Jvm.Cond.code ({ cls := "ThirdSheetsModel", name := "supportOf", desc := "(I)I" } : Jvm.MethodName) prog_8_method_45_code (4 : Nat) (Option.some Jvm.ClassFile.FieldType.int)) ∈ lw_all := lw_g (lw_at lw_m4 48 rfl) rfl
theorem q850 : (Jvm.Cond.methodLink "ThirdSheetsModel" (208 : Nat) ({ cls := "ThirdSheetsModel", name := "hasOneKind", desc := "(I)Z" } : Jvm.MethodName)) ∈ lw_all := lw_g (lw_at lw_m4 49 rfl) rfl
theorem q851 : (Jvm.Cond.privateMethod ({ cls := "ThirdSheetsModel", name := "hasOneKind", desc := "(I)Z" } : Jvm.MethodName)) ∈ lw_tbl := lw_at lw_m4 50 rfl
theorem q852 : (Jvm.Cond.instanceMethod ({ cls := "ThirdSheetsModel", name := "hasOneKind", desc := "(I)Z" } : Jvm.MethodName)) ∈ lw_all := lw_g (lw_at lw_m4 51 rfl) rfl
theorem q853 : (Jvm.Cond.code ({ cls := "ThirdSheetsModel", name := "hasOneKind", desc := "(I)Z" } : Jvm.MethodName) prog_8_method_46_code (5 : Nat) (Option.some Jvm.ClassFile.FieldType.boolean)) ∈ lw_all := lw_g (lw_at lw_m4 52 rfl) rfl
theorem q854 : (Jvm.Cond.methodLink "ThirdSheetsModel" (211 : Nat) ({ cls := "ThirdSheetsModel", name := "areBeside", desc := "(III)Z" } : Jvm.MethodName)) ∈ lw_all := lw_g (lw_at lw_m4 53 rfl) rfl
theorem q855 : (Jvm.Cond.privateMethod ({ cls := "ThirdSheetsModel", name := "areBeside", desc := "(III)Z" } : Jvm.MethodName)) ∈ lw_tbl := lw_at lw_m4 54 rfl
theorem q856 : (Jvm.Cond.instanceMethod ({ cls := "ThirdSheetsModel", name := "areBeside", desc := "(III)Z" } : Jvm.MethodName)) ∈ lw_all := lw_g (lw_at lw_m4 55 rfl) rfl
theorem q857 : (Jvm.Cond.code ({ cls := "ThirdSheetsModel", name := "areBeside", desc := "(III)Z" } : Jvm.MethodName) prog_8_method_47_code (6 : Nat) (Option.some Jvm.ClassFile.FieldType.boolean)) ∈ lw_all := lw_g (lw_at lw_m4 56 rfl) rfl
theorem q858 : (Jvm.Cond.methodLink "ThirdSheetsModel" (221 : Nat) ({ cls := "ThirdSheetsModel", name := "isBefore", desc := "(II)Z" } : Jvm.MethodName)) ∈ lw_all := lw_g (lw_at lw_m4 57 rfl) rfl
theorem q859 : (Jvm.Cond.privateMethod ({ cls := "ThirdSheetsModel", name := "isBefore", desc := "(II)Z" } : Jvm.MethodName)) ∈ lw_tbl := lw_at lw_m4 58 rfl
theorem q860 : (Jvm.Cond.instanceMethod ({ cls := "ThirdSheetsModel", name := "isBefore", desc := "(II)Z" } : Jvm.MethodName)) ∈ lw_all := lw_g (lw_at lw_m4 59 rfl) rfl
theorem q861 : (Jvm.Cond.code ({ cls := "ThirdSheetsModel", name := "isBefore", desc := "(II)Z" } : Jvm.MethodName) prog_8_method_51_code (4 : Nat) (Option.some Jvm.ClassFile.FieldType.boolean)) ∈ lw_all := lw_g (lw_at lw_m4 60 rfl) rfl
theorem q862 : (Jvm.Cond.methodLink "ThirdSheetsModel" (224 : Nat) ({ cls := "ThirdSheetsModel", name := "swap", desc := "(II)V" } : Jvm.MethodName)) ∈ lw_all := lw_g (lw_at lw_m4 61 rfl) rfl
theorem q863 : (Jvm.Cond.privateMethod ({ cls := "ThirdSheetsModel", name := "swap", desc := "(II)V" } : Jvm.MethodName)) ∈ lw_tbl := lw_at lw_m4 62 rfl
theorem q864 : (Jvm.Cond.instanceMethod ({ cls := "ThirdSheetsModel", name := "swap", desc := "(II)V" } : Jvm.MethodName)) ∈ lw_all := lw_g (lw_at lw_m4 63 rfl) rfl
theorem q865 : (Jvm.Cond.code ({ cls := "ThirdSheetsModel", name := "swap", desc := "(II)V" } : Jvm.MethodName) prog_8_method_52_code (5 : Nat) (Option.none : Option Jvm.ClassFile.FieldType)) ∈ lw_all := lw_g (lw_at lw_m4 64 rfl) rfl
theorem q867 : (Jvm.Cond.instanceMethod ({ cls := "ThirdSheetsModel", name := "number", desc := "(II)I" } : Jvm.MethodName)) ∈ lw_all := lw_g (lw_at lw_m4 66 rfl) rfl
theorem q868 : (Jvm.Cond.selects "ThirdSheetsModel" ({ cls := "ThirdSheetsModel", name := "number", desc := "(II)I" } : Jvm.MethodName) ({ cls := "ThirdSheetsModel", name := "number", desc := "(II)I" } : Jvm.MethodName)) ∈ lw_all := lw_g (lw_at lw_m4 67 rfl) rfl
theorem q869 : (Jvm.Cond.code ({ cls := "ThirdSheetsModel", name := "number", desc := "(II)I" } : Jvm.MethodName) prog_8_method_55_code (3 : Nat) (Option.some Jvm.ClassFile.FieldType.int)) ∈ lw_all := lw_g (lw_at lw_m4 68 rfl) rfl
theorem q871 : (Jvm.Cond.instanceMethod ({ cls := "ThirdSheetsModel", name := "put", desc := "(II)I" } : Jvm.MethodName)) ∈ lw_all := lw_g (lw_at lw_m4 70 rfl) rfl
theorem q872 : (Jvm.Cond.selects "ThirdSheetsModel" ({ cls := "ThirdSheetsModel", name := "put", desc := "(II)I" } : Jvm.MethodName) ({ cls := "ThirdSheetsModel", name := "put", desc := "(II)I" } : Jvm.MethodName)) ∈ lw_all := lw_g (lw_at lw_m4 71 rfl) rfl
theorem q873 : (Jvm.Cond.code ({ cls := "ThirdSheetsModel", name := "put", desc := "(II)I" } : Jvm.MethodName) prog_8_method_56_code (4 : Nat) (Option.some Jvm.ClassFile.FieldType.int)) ∈ lw_all := lw_g (lw_at lw_m4 72 rfl) rfl
theorem q875 : (Jvm.Cond.instanceMethod ({ cls := "ThirdSheetsModel", name := "add", desc := "(II)I" } : Jvm.MethodName)) ∈ lw_all := lw_g (lw_at lw_m4 74 rfl) rfl
theorem q876 : (Jvm.Cond.selects "ThirdSheetsModel" ({ cls := "ThirdSheetsModel", name := "add", desc := "(II)I" } : Jvm.MethodName) ({ cls := "ThirdSheetsModel", name := "add", desc := "(II)I" } : Jvm.MethodName)) ∈ lw_all := lw_g (lw_at lw_m4 75 rfl) rfl
theorem q877 : (Jvm.Cond.code ({ cls := "ThirdSheetsModel", name := "add", desc := "(II)I" } : Jvm.MethodName) prog_8_method_57_code (4 : Nat) (Option.some Jvm.ClassFile.FieldType.int)) ∈ lw_all := lw_g (lw_at lw_m4 76 rfl) rfl
theorem q879 : (Jvm.Cond.instanceMethod ({ cls := "ThirdSheetsModel", name := "drop", desc := "()I" } : Jvm.MethodName)) ∈ lw_all := lw_g (lw_at lw_m4 78 rfl) rfl
theorem q880 : (Jvm.Cond.selects "ThirdSheetsModel" ({ cls := "ThirdSheetsModel", name := "drop", desc := "()I" } : Jvm.MethodName) ({ cls := "ThirdSheetsModel", name := "drop", desc := "()I" } : Jvm.MethodName)) ∈ lw_all := lw_g (lw_at lw_m4 79 rfl) rfl
theorem q881 : (Jvm.Cond.code ({ cls := "ThirdSheetsModel", name := "drop", desc := "()I" } : Jvm.MethodName) prog_8_method_58_code (3 : Nat) (Option.some Jvm.ClassFile.FieldType.int)) ∈ lw_all := lw_g (lw_at lw_m4 80 rfl) rfl
theorem q883 : (Jvm.Cond.instanceMethod ({ cls := "ThirdSheetsModel", name := "legal", desc := "()I" } : Jvm.MethodName)) ∈ lw_all := lw_g (lw_at lw_m4 82 rfl) rfl
theorem q884 : (Jvm.Cond.selects "ThirdSheetsModel" ({ cls := "ThirdSheetsModel", name := "legal", desc := "()I" } : Jvm.MethodName) ({ cls := "ThirdSheetsModel", name := "legal", desc := "()I" } : Jvm.MethodName)) ∈ lw_all := lw_g (lw_at lw_m4 83 rfl) rfl
theorem q885 : (Jvm.Cond.code ({ cls := "ThirdSheetsModel", name := "legal", desc := "()I" } : Jvm.MethodName) prog_8_method_60_code (3 : Nat) (Option.some Jvm.ClassFile.FieldType.int)) ∈ lw_all := lw_g (lw_at lw_m4 84 rfl) rfl
theorem q886 : (Jvm.Cond.methodLink "ThirdSheetsModel" (230 : Nat) ({ cls := "ThirdSheetsModel", name := "arcs", desc := "(III)I" } : Jvm.MethodName)) ∈ lw_all := lw_g (lw_at lw_m4 85 rfl) rfl
theorem q887 : (Jvm.Cond.privateMethod ({ cls := "ThirdSheetsModel", name := "arcs", desc := "(III)I" } : Jvm.MethodName)) ∈ lw_tbl := lw_at lw_m4 86 rfl
theorem q888 : (Jvm.Cond.instanceMethod ({ cls := "ThirdSheetsModel", name := "arcs", desc := "(III)I" } : Jvm.MethodName)) ∈ lw_all := lw_g (lw_at lw_m4 87 rfl) rfl
theorem q889 : (Jvm.Cond.code ({ cls := "ThirdSheetsModel", name := "arcs", desc := "(III)I" } : Jvm.MethodName) prog_8_method_59_code (4 : Nat) (Option.some Jvm.ClassFile.FieldType.int)) ∈ lw_all := lw_g (lw_at lw_m4 88 rfl) rfl
theorem q891 : (Jvm.Cond.instanceMethod ({ cls := "ThirdSheetsModel", name := "euler", desc := "()I" } : Jvm.MethodName)) ∈ lw_all := lw_g (lw_at lw_m4 90 rfl) rfl
theorem q892 : (Jvm.Cond.selects "ThirdSheetsModel" ({ cls := "ThirdSheetsModel", name := "euler", desc := "()I" } : Jvm.MethodName) ({ cls := "ThirdSheetsModel", name := "euler", desc := "()I" } : Jvm.MethodName)) ∈ lw_all := lw_g (lw_at lw_m4 91 rfl) rfl
theorem q893 : (Jvm.Cond.code ({ cls := "ThirdSheetsModel", name := "euler", desc := "()I" } : Jvm.MethodName) prog_8_method_62_code (4 : Nat) (Option.some Jvm.ClassFile.FieldType.int)) ∈ lw_all := lw_g (lw_at lw_m4 92 rfl) rfl
theorem q894 : (Jvm.Cond.methodLink "ThirdSheetsModel" (233 : Nat) ({ cls := "ThirdSheetsModel", name := "legal", desc := "()I" } : Jvm.MethodName)) ∈ lw_all := lw_g (lw_at lw_m4 93 rfl) rfl
theorem q895 : (Jvm.Cond.methodLink "ThirdSheetsModel" (236 : Nat) ({ cls := "ThirdSheetsModel", name := "meets", desc := "(II)Z" } : Jvm.MethodName)) ∈ lw_all := lw_g (lw_at lw_m4 94 rfl) rfl
theorem q896 : (Jvm.Cond.privateMethod ({ cls := "ThirdSheetsModel", name := "meets", desc := "(II)Z" } : Jvm.MethodName)) ∈ lw_tbl := lw_at lw_m4 95 rfl
theorem q897 : (Jvm.Cond.instanceMethod ({ cls := "ThirdSheetsModel", name := "meets", desc := "(II)Z" } : Jvm.MethodName)) ∈ lw_all := lw_g (lw_at lw_m4 96 rfl) rfl
theorem q898 : (Jvm.Cond.code ({ cls := "ThirdSheetsModel", name := "meets", desc := "(II)Z" } : Jvm.MethodName) prog_8_method_61_code (3 : Nat) (Option.some Jvm.ClassFile.FieldType.boolean)) ∈ lw_all := lw_g (lw_at lw_m4 97 rfl) rfl
theorem q900 : (Jvm.Cond.instanceMethod ({ cls := "ThirdSheetsModel", name := "parts", desc := "()I" } : Jvm.MethodName)) ∈ lw_all := lw_g (lw_at lw_m4 99 rfl) rfl
theorem q901 : (Jvm.Cond.selects "ThirdSheetsModel" ({ cls := "ThirdSheetsModel", name := "parts", desc := "()I" } : Jvm.MethodName) ({ cls := "ThirdSheetsModel", name := "parts", desc := "()I" } : Jvm.MethodName)) ∈ lw_all := lw_g (lw_at lw_m4 100 rfl) rfl
theorem q902 : (Jvm.Cond.code ({ cls := "ThirdSheetsModel", name := "parts", desc := "()I" } : Jvm.MethodName) prog_8_method_68_code (2 : Nat) (Option.some Jvm.ClassFile.FieldType.int)) ∈ lw_all := lw_g (lw_at lw_m4 101 rfl) rfl
theorem q903 : (Jvm.Cond.methodLink "ThirdSheetsModel" (257 : Nat) ({ cls := "ThirdSheetsModel", name := "findParts", desc := "()I" } : Jvm.MethodName)) ∈ lw_all := lw_g (lw_at lw_m4 102 rfl) rfl
theorem q904 : (Jvm.Cond.privateMethod ({ cls := "ThirdSheetsModel", name := "findParts", desc := "()I" } : Jvm.MethodName)) ∈ lw_tbl := lw_at lw_m4 103 rfl
theorem q905 : (Jvm.Cond.instanceMethod ({ cls := "ThirdSheetsModel", name := "findParts", desc := "()I" } : Jvm.MethodName)) ∈ lw_all := lw_g (lw_at lw_m4 104 rfl) rfl
theorem q906 : (Jvm.Cond.code ({ cls := "ThirdSheetsModel", name := "findParts", desc := "()I" } : Jvm.MethodName) prog_8_method_67_code (5 : Nat) (Option.some Jvm.ClassFile.FieldType.int)) ∈ lw_all := lw_g (lw_at lw_m4 105 rfl) rfl
theorem q907 : (Jvm.Cond.methodLink "ThirdSheetsModel" (254 : Nat) ({ cls := "ThirdSheetsModel", name := "spread", desc := "(II)I" } : Jvm.MethodName)) ∈ lw_all := lw_g (lw_at lw_m4 106 rfl) rfl
theorem q908 : (Jvm.Cond.privateMethod ({ cls := "ThirdSheetsModel", name := "spread", desc := "(II)I" } : Jvm.MethodName)) ∈ lw_tbl := lw_at lw_m4 107 rfl
theorem q909 : (Jvm.Cond.instanceMethod ({ cls := "ThirdSheetsModel", name := "spread", desc := "(II)I" } : Jvm.MethodName)) ∈ lw_all := lw_g (lw_at lw_m4 108 rfl) rfl
theorem q910 : (Jvm.Cond.code ({ cls := "ThirdSheetsModel", name := "spread", desc := "(II)I" } : Jvm.MethodName) prog_8_method_66_code (11 : Nat) (Option.some Jvm.ClassFile.FieldType.int)) ∈ lw_all := lw_g (lw_at lw_m4 109 rfl) rfl
theorem q911 : (Jvm.Cond.methodLink "ThirdSheetsModel" (239 : Nat) ({ cls := "ThirdSheetsModel", name := "sortOf", desc := "(I)I" } : Jvm.MethodName)) ∈ lw_all := lw_g (lw_at lw_m4 110 rfl) rfl
theorem q912 : (Jvm.Cond.privateMethod ({ cls := "ThirdSheetsModel", name := "sortOf", desc := "(I)I" } : Jvm.MethodName)) ∈ lw_tbl := lw_at lw_m4 111 rfl
theorem q913 : (Jvm.Cond.instanceMethod ({ cls := "ThirdSheetsModel", name := "sortOf", desc := "(I)I" } : Jvm.MethodName)) ∈ lw_all := lw_g (lw_at lw_m4 112 rfl) rfl
theorem q914 : (Jvm.Cond.code ({ cls := "ThirdSheetsModel", name := "sortOf", desc := "(I)I" } : Jvm.MethodName) prog_8_method_65_code (3 : Nat) (Option.some Jvm.ClassFile.FieldType.int)) ∈ lw_all := lw_g (lw_at lw_m4 113 rfl) rfl
theorem q915 : (Jvm.Cond.methodLink "ThirdSheetsModel" (242 : Nat) ({ cls := "ThirdSheetsModel", name := "cutAt", desc := "(III)I" } : Jvm.MethodName)) ∈ lw_all := lw_g (lw_at lw_m4 114 rfl) rfl
theorem q916 : (Jvm.Cond.privateMethod ({ cls := "ThirdSheetsModel", name := "cutAt", desc := "(III)I" } : Jvm.MethodName)) ∈ lw_tbl := lw_at lw_m4 115 rfl
theorem q917 : (Jvm.Cond.instanceMethod ({ cls := "ThirdSheetsModel", name := "cutAt", desc := "(III)I" } : Jvm.MethodName)) ∈ lw_all := lw_g (lw_at lw_m4 116 rfl) rfl
theorem q918 : (Jvm.Cond.code ({ cls := "ThirdSheetsModel", name := "cutAt", desc := "(III)I" } : Jvm.MethodName) prog_8_method_63_code (9 : Nat) (Option.some Jvm.ClassFile.FieldType.int)) ∈ lw_all := lw_g (lw_at lw_m4 117 rfl) rfl
theorem q919 : (Jvm.Cond.methodLink "ThirdSheetsModel" (245 : Nat) ({ cls := "ThirdSheetsModel", name := "looks", desc := "(III)Z" } : Jvm.MethodName)) ∈ lw_all := lw_g (lw_at lw_m4 118 rfl) rfl
theorem q920 : (Jvm.Cond.privateMethod ({ cls := "ThirdSheetsModel", name := "looks", desc := "(III)Z" } : Jvm.MethodName)) ∈ lw_tbl := lw_at lw_m4 119 rfl
theorem q921 : (Jvm.Cond.instanceMethod ({ cls := "ThirdSheetsModel", name := "looks", desc := "(III)Z" } : Jvm.MethodName)) ∈ lw_all := lw_g (lw_at lw_m4 120 rfl) rfl
theorem q922 : (Jvm.Cond.code ({ cls := "ThirdSheetsModel", name := "looks", desc := "(III)Z" } : Jvm.MethodName) prog_8_method_64_code (4 : Nat) (Option.some Jvm.ClassFile.FieldType.boolean)) ∈ lw_all := lw_g (lw_at lw_m4 121 rfl) rfl
theorem q924 : (Jvm.Cond.instanceMethod ({ cls := "ThirdSheetsModel", name := "part", desc := "(II)I" } : Jvm.MethodName)) ∈ lw_all := lw_g (lw_at lw_m4 123 rfl) rfl
theorem q925 : (Jvm.Cond.selects "ThirdSheetsModel" ({ cls := "ThirdSheetsModel", name := "part", desc := "(II)I" } : Jvm.MethodName) ({ cls := "ThirdSheetsModel", name := "part", desc := "(II)I" } : Jvm.MethodName)) ∈ lw_all := lw_g (lw_at lw_m4 124 rfl) rfl
theorem q926 : (Jvm.Cond.code ({ cls := "ThirdSheetsModel", name := "part", desc := "(II)I" } : Jvm.MethodName) prog_8_method_71_code (6 : Nat) (Option.some Jvm.ClassFile.FieldType.int)) ∈ lw_all := lw_g (lw_at lw_m4 125 rfl) rfl
theorem q927 : (Jvm.Cond.methodLink "ThirdSheetsModel" (260 : Nat) ({ cls := "ThirdSheetsModel", name := "cutsOf", desc := "(I)I" } : Jvm.MethodName)) ∈ lw_all := lw_g (lw_at lw_m4 126 rfl) rfl
theorem q928 : (Jvm.Cond.privateMethod ({ cls := "ThirdSheetsModel", name := "cutsOf", desc := "(I)I" } : Jvm.MethodName)) ∈ lw_tbl := lw_at lw_m4 127 rfl
theorem q929 : (Jvm.Cond.instanceMethod ({ cls := "ThirdSheetsModel", name := "cutsOf", desc := "(I)I" } : Jvm.MethodName)) ∈ lw_all := lw_g (lw_at lw_m4 128 rfl) rfl
theorem q930 : (Jvm.Cond.code ({ cls := "ThirdSheetsModel", name := "cutsOf", desc := "(I)I" } : Jvm.MethodName) prog_8_method_69_code (4 : Nat) (Option.some Jvm.ClassFile.FieldType.int)) ∈ lw_all := lw_g (lw_at lw_m4 129 rfl) rfl
theorem q931 : (Jvm.Cond.methodLink "ThirdSheetsModel" (263 : Nat) ({ cls := "ThirdSheetsModel", name := "worth", desc := "(I)I" } : Jvm.MethodName)) ∈ lw_all := lw_g (lw_at lw_m4 130 rfl) rfl
theorem q932 : (Jvm.Cond.privateMethod ({ cls := "ThirdSheetsModel", name := "worth", desc := "(I)I" } : Jvm.MethodName)) ∈ lw_tbl := lw_at lw_m4 131 rfl
theorem q933 : (Jvm.Cond.instanceMethod ({ cls := "ThirdSheetsModel", name := "worth", desc := "(I)I" } : Jvm.MethodName)) ∈ lw_all := lw_g (lw_at lw_m4 132 rfl) rfl
theorem q934 : (Jvm.Cond.code ({ cls := "ThirdSheetsModel", name := "worth", desc := "(I)I" } : Jvm.MethodName) prog_8_method_70_code (7 : Nat) (Option.some Jvm.ClassFile.FieldType.int)) ∈ lw_all := lw_g (lw_at lw_m4 133 rfl) rfl
theorem in_X5 : ∀ w ∈ wsX50, w ∈ lw_all := lw_in wsX50 [603, 605, 607, 609, 611, 613, 615, 617, 619, 621, 623, 625, 627, 629, 631, 633, 635, 637, 639, 641, 643, 645, 647, 649, 651, 653] (by decide +kernel) (by decide +kernel)
