/-! the component's methods: rooms, contracts -/
def rC_isIn : Room := { frames := 0, cells := 0, slots := 0, locals := 0 }
def C_isIn (x0 : Int32) (x1 : Int32) (x2 : Int32) (S : CS) (post : Int32 → CS → Prop) : Prop := oI yX0_isIn cX0_isIn 3 (Option.some Jvm.ClassFile.FieldType.boolean) (rC_isIn) (fun o => [.int x0, .int x1, .int x2]) S post
theorem C_isIn_d : yX0_isIn.cls ≠ "java/lang/invoke/MethodHandle" ∧ yX0_isIn.cls ≠ "java/lang/invoke/VarHandle" ∧ (parseMethodDescriptor yX0_isIn.desc).map (fun d => d.parameters.length) = some 3 := by decide +kernel
def rC_isPiece : Room := { frames := 1, cells := 0, slots := 0, locals := 22 }
def C_isPiece (x1 : Int32) (S : CS) (post : Int32 → CS → Prop) : Prop := oI yX0_isPiece cX0_isPiece 2 (Option.some Jvm.ClassFile.FieldType.boolean) (rC_isPiece) (fun o => [.ref (o 0), .int x1]) S post
theorem C_isPiece_d : yX0_isPiece.cls = RX0 ∧ yX0_isPiece.cls ≠ "java/lang/invoke/MethodHandle" ∧ yX0_isPiece.cls ≠ "java/lang/invoke/VarHandle" ∧ (parseMethodDescriptor yX0_isPiece.desc).map (fun d => d.parameters.length) = some 1 := by decide +kernel
def rC_isCorner : Room := { frames := 1, cells := 0, slots := 0, locals := 22 }
def C_isCorner (x0 : Int32) (S : CS) (post : Int32 → CS → Prop) : Prop := oI yX0_isCorner cX0_isCorner 1 (Option.some Jvm.ClassFile.FieldType.boolean) (rC_isCorner) (fun o => [.int x0]) S post
theorem C_isCorner_d : yX0_isCorner.cls ≠ "java/lang/invoke/MethodHandle" ∧ yX0_isCorner.cls ≠ "java/lang/invoke/VarHandle" ∧ (parseMethodDescriptor yX0_isCorner.desc).map (fun d => d.parameters.length) = some 1 := by decide +kernel
def rC_edgeOf : Room := { frames := 1, cells := 0, slots := 0, locals := 21 }
def C_edgeOf (x0 : Int32) (x1 : Int32) (S : CS) (post : Int32 → CS → Prop) : Prop := oI yX0_edgeOf cX0_edgeOf 4 (Option.some Jvm.ClassFile.FieldType.int) (rC_edgeOf) (fun o => [.int x0, .int x1]) S post
theorem C_edgeOf_d : yX0_edgeOf.cls ≠ "java/lang/invoke/MethodHandle" ∧ yX0_edgeOf.cls ≠ "java/lang/invoke/VarHandle" ∧ (parseMethodDescriptor yX0_edgeOf.desc).map (fun d => d.parameters.length) = some 2 := by decide +kernel
def rC_changed : Room := { frames := 0, cells := 0, slots := 0, locals := 0 }
def C_changed (S : CS) (post : CS → Prop) : Prop := oV yX0_changed cX0_changed 1 (Option.none : Option Jvm.ClassFile.FieldType) (rC_changed) (fun o => [.ref (o 0)]) S post
theorem C_changed_d : yX0_changed.cls = RX0 ∧ yX0_changed.cls ≠ "java/lang/invoke/MethodHandle" ∧ yX0_changed.cls ≠ "java/lang/invoke/VarHandle" ∧ (parseMethodDescriptor yX0_changed.desc).map (fun d => d.parameters.length) = some 0 := by decide +kernel
def rC_drop : Room := { frames := 0, cells := 0, slots := 0, locals := 0 }
def C_drop (S : CS) (post : Int32 → CS → Prop) : Prop := oI yX0_drop cX0_drop 3 (Option.some Jvm.ClassFile.FieldType.int) (rC_drop) (fun o => [.ref (o 0)]) S post
theorem C_drop_d : yX0_drop.cls = RX0 ∧ yX0_drop.cls ≠ "java/lang/invoke/MethodHandle" ∧ yX0_drop.cls ≠ "java/lang/invoke/VarHandle" ∧ (parseMethodDescriptor yX0_drop.desc).map (fun d => d.parameters.length) = some 0 := by decide +kernel
def rC_piece : Room := { frames := 1, cells := 0, slots := 0, locals := 22 }
def C_piece (S : CS) (post : Int32 → CS → Prop) : Prop := oI yX0_piece cX0_piece 2 (Option.some Jvm.ClassFile.FieldType.int) (rC_piece) (fun o => [.ref (o 0)]) S post
theorem C_piece_d : yX0_piece.cls = RX0 ∧ yX0_piece.cls ≠ "java/lang/invoke/MethodHandle" ∧ yX0_piece.cls ≠ "java/lang/invoke/VarHandle" ∧ (parseMethodDescriptor yX0_piece.desc).map (fun d => d.parameters.length) = some 0 := by decide +kernel
def rC_initG : Room := { frames := 1, cells := 0, slots := 0, locals := 12 }
def C_initG (a0 : Nat) (x1 : Int32) (x2 : Int32) (a3 : Nat) (S : CS) (post : CS → Prop) : Prop := oV yX6_init cX6_init 4 (Option.none : Option Jvm.ClassFile.FieldType) (rC_initG) (fun o => [.ref a0, .int x1, .int x2, .ref a3]) S post
theorem C_initG_d : yX6_init.cls ≠ "java/lang/invoke/MethodHandle" ∧ yX6_init.cls ≠ "java/lang/invoke/VarHandle" ∧ (parseMethodDescriptor yX6_init.desc).map (fun d => d.parameters.length) = some 3 := by decide +kernel
def rC_glue : Room := { frames := 2, cells := 4, slots := 14, locals := 43 }
def C_glue (x1 : Int32) (x2 : Int32) (x3 : Int32) (x4 : Int32) (x5 : Int32) (S : CS) (post : Int32 → CS → Prop) : Prop := oI yX0_glue cX0_glue 12 (Option.some Jvm.ClassFile.FieldType.int) (rC_glue) (fun o => [.ref (o 0), .int x1, .int x2, .int x3, .int x4, .int x5]) S post
theorem C_glue_d : yX0_glue.cls = RX0 ∧ yX0_glue.cls ≠ "java/lang/invoke/MethodHandle" ∧ yX0_glue.cls ≠ "java/lang/invoke/VarHandle" ∧ (parseMethodDescriptor yX0_glue.desc).map (fun d => d.parameters.length) = some 5 := by decide +kernel
def rC_open : Room := { frames := 2, cells := 0, slots := 0, locals := 43 }
def C_open (x1 : Int32) (x2 : Int32) (S : CS) (post : Int32 → CS → Prop) : Prop := oI yX0_open cX0_open 4 (Option.some Jvm.ClassFile.FieldType.int) (rC_open) (fun o => [.ref (o 0), .int x1, .int x2]) S post
theorem C_open_d : yX0_open.cls = RX0 ∧ yX0_open.cls ≠ "java/lang/invoke/MethodHandle" ∧ yX0_open.cls ≠ "java/lang/invoke/VarHandle" ∧ (parseMethodDescriptor yX0_open.desc).map (fun d => d.parameters.length) = some 2 := by decide +kernel
def rC_clear : Room := { frames := 1, cells := 0, slots := 0, locals := 22 }
def C_clear (S : CS) (post : Int32 → CS → Prop) : Prop := oI yX0_clear cX0_clear 3 (Option.some Jvm.ClassFile.FieldType.int) (rC_clear) (fun o => [.ref (o 0)]) S post
theorem C_clear_d : yX0_clear.cls = RX0 ∧ yX0_clear.cls ≠ "java/lang/invoke/MethodHandle" ∧ yX0_clear.cls ≠ "java/lang/invoke/VarHandle" ∧ (parseMethodDescriptor yX0_clear.desc).map (fun d => d.parameters.length) = some 0 := by decide +kernel
def rC_across : Room := { frames := 2, cells := 0, slots := 0, locals := 43 }
def C_across (x1 : Int32) (x2 : Int32) (x3 : Int32) (S : CS) (post : Int32 → CS → Prop) : Prop := oI yX0_across cX0_across 5 (Option.some Jvm.ClassFile.FieldType.int) (rC_across) (fun o => [.ref (o 0), .int x1, .int x2, .int x3]) S post
theorem C_across_d : yX0_across.cls = RX0 ∧ yX0_across.cls ≠ "java/lang/invoke/MethodHandle" ∧ yX0_across.cls ≠ "java/lang/invoke/VarHandle" ∧ (parseMethodDescriptor yX0_across.desc).map (fun d => d.parameters.length) = some 3 := by decide +kernel
def rC_acrossS2 : Room := { frames := 0, cells := 0, slots := 0, locals := 0 }
def C_acrossS2 (x1 : Int32) (x2 : Int32) (a3 : Nat) (S : CS) (post : Int32 → CS → Prop) : Prop := oI yX2_across cX2_across 4 (Option.some Jvm.ClassFile.FieldType.int) (rC_acrossS2) (fun o => [.ref (o 2), .int x1, .int x2, .ref a3]) S post
theorem C_acrossS2_d : yX2_across.cls = RX2 ∧ yX2_across.cls ≠ "java/lang/invoke/MethodHandle" ∧ yX2_across.cls ≠ "java/lang/invoke/VarHandle" ∧ (parseMethodDescriptor yX2_across.desc).map (fun d => d.parameters.length) = some 3 := by decide +kernel
def rC_spreadS2 (dd : Nat) : Room := { frames := 1 + dd, cells := 0, slots := 0, locals := 23 + 25 * dd }
def C_spreadS2 (dd : Nat) (x1 : Int32) (x2 : Int32) (S : CS) (post : CS → Prop) : Prop := oV yX1_spread cX1_spread 6 (Option.none : Option Jvm.ClassFile.FieldType) (rC_spreadS2 dd) (fun o => [.ref (o 2), .int x1, .int x2]) S post
theorem C_spreadS2_d : yX1_spread.cls = RX1 ∧ yX1_spread.cls ≠ "java/lang/invoke/MethodHandle" ∧ yX1_spread.cls ≠ "java/lang/invoke/VarHandle" ∧ (parseMethodDescriptor yX1_spread.desc).map (fun d => d.parameters.length) = some 2 := by decide +kernel
def rC_findS2 : Room := { frames := 38, cells := 0, slots := 0, locals := 948 }
def C_findS2 (S : CS) (post : Int32 → CS → Prop) : Prop := oI yX1_find cX1_find 2 (Option.some Jvm.ClassFile.FieldType.int) (rC_findS2) (fun o => [.ref (o 2)]) S post
theorem C_findS2_d : yX1_find.cls = RX1 ∧ yX1_find.cls ≠ "java/lang/invoke/MethodHandle" ∧ yX1_find.cls ≠ "java/lang/invoke/VarHandle" ∧ (parseMethodDescriptor yX1_find.desc).map (fun d => d.parameters.length) = some 0 := by decide +kernel
def rC_acrossS3 : Room := { frames := 2, cells := 0, slots := 0, locals := 44 }
def C_acrossS3 (x1 : Int32) (x2 : Int32) (a3 : Nat) (S : CS) (post : Int32 → CS → Prop) : Prop := oI yX3_across cX3_across 4 (Option.some Jvm.ClassFile.FieldType.int) (rC_acrossS3) (fun o => [.ref (o 3), .int x1, .int x2, .ref a3]) S post
theorem C_acrossS3_d : yX3_across.cls = RX3 ∧ yX3_across.cls ≠ "java/lang/invoke/MethodHandle" ∧ yX3_across.cls ≠ "java/lang/invoke/VarHandle" ∧ (parseMethodDescriptor yX3_across.desc).map (fun d => d.parameters.length) = some 3 := by decide +kernel
def rC_spreadS3 (dd : Nat) : Room := { frames := 3 + dd, cells := 0, slots := 0, locals := 67 + 25 * dd }
def C_spreadS3 (dd : Nat) (x1 : Int32) (x2 : Int32) (S : CS) (post : CS → Prop) : Prop := oV yX1_spread cX1_spread 6 (Option.none : Option Jvm.ClassFile.FieldType) (rC_spreadS3 dd) (fun o => [.ref (o 3), .int x1, .int x2]) S post
theorem C_spreadS3_d : yX1_spread.cls = RX1 ∧ yX1_spread.cls ≠ "java/lang/invoke/MethodHandle" ∧ yX1_spread.cls ≠ "java/lang/invoke/VarHandle" ∧ (parseMethodDescriptor yX1_spread.desc).map (fun d => d.parameters.length) = some 2 := by decide +kernel
def rC_findS3 : Room := { frames := 40, cells := 0, slots := 0, locals := 992 }
def C_findS3 (S : CS) (post : Int32 → CS → Prop) : Prop := oI yX1_find cX1_find 2 (Option.some Jvm.ClassFile.FieldType.int) (rC_findS3) (fun o => [.ref (o 3)]) S post
theorem C_findS3_d : yX1_find.cls = RX1 ∧ yX1_find.cls ≠ "java/lang/invoke/MethodHandle" ∧ yX1_find.cls ≠ "java/lang/invoke/VarHandle" ∧ (parseMethodDescriptor yX1_find.desc).map (fun d => d.parameters.length) = some 0 := by decide +kernel
def rC_ofS2 : Room := { frames := 0, cells := 0, slots := 0, locals := 0 }
def C_ofS2 (x1 : Int32) (x2 : Int32) (S : CS) (post : Int32 → CS → Prop) : Prop := oI yX1_of cX1_of 3 (Option.some Jvm.ClassFile.FieldType.int) (rC_ofS2) (fun o => [.ref (o 2), .int x1, .int x2]) S post
theorem C_ofS2_d : yX1_of.cls = RX1 ∧ yX1_of.cls ≠ "java/lang/invoke/MethodHandle" ∧ yX1_of.cls ≠ "java/lang/invoke/VarHandle" ∧ (parseMethodDescriptor yX1_of.desc).map (fun d => d.parameters.length) = some 2 := by decide +kernel
def rC_ofS3 : Room := { frames := 0, cells := 0, slots := 0, locals := 0 }
def C_ofS3 (x1 : Int32) (x2 : Int32) (S : CS) (post : Int32 → CS → Prop) : Prop := oI yX1_of cX1_of 3 (Option.some Jvm.ClassFile.FieldType.int) (rC_ofS3) (fun o => [.ref (o 3), .int x1, .int x2]) S post
theorem C_ofS3_d : yX1_of.cls = RX1 ∧ yX1_of.cls ≠ "java/lang/invoke/MethodHandle" ∧ yX1_of.cls ≠ "java/lang/invoke/VarHandle" ∧ (parseMethodDescriptor yX1_of.desc).map (fun d => d.parameters.length) = some 2 := by decide +kernel
def rC_classOf : Room := { frames := 41, cells := 0, slots := 0, locals := 1013 }
def C_classOf (x1 : Int32) (x2 : Int32) (x3 : Int32) (S : CS) (post : Int32 → CS → Prop) : Prop := oI yX0_classOf cX0_classOf 5 (Option.some Jvm.ClassFile.FieldType.int) (rC_classOf) (fun o => [.ref (o 0), .int x1, .int x2, .int x3]) S post
theorem C_classOf_d : yX0_classOf.cls = RX0 ∧ yX0_classOf.cls ≠ "java/lang/invoke/MethodHandle" ∧ yX0_classOf.cls ≠ "java/lang/invoke/VarHandle" ∧ (parseMethodDescriptor yX0_classOf.desc).map (fun d => d.parameters.length) = some 3 := by decide +kernel
def rC_firstS3 : Room := { frames := 0, cells := 0, slots := 0, locals := 0 }
def C_firstS3 (x1 : Int32) (S : CS) (post : Int32 → CS → Prop) : Prop := oI yX1_first cX1_first 3 (Option.some Jvm.ClassFile.FieldType.int) (rC_firstS3) (fun o => [.ref (o 3), .int x1]) S post
theorem C_firstS3_d : yX1_first.cls = RX1 ∧ yX1_first.cls ≠ "java/lang/invoke/MethodHandle" ∧ yX1_first.cls ≠ "java/lang/invoke/VarHandle" ∧ (parseMethodDescriptor yX1_first.desc).map (fun d => d.parameters.length) = some 1 := by decide +kernel
def rC_ofS4 : Room := { frames := 0, cells := 0, slots := 0, locals := 0 }
def C_ofS4 (x1 : Int32) (x2 : Int32) (S : CS) (post : Int32 → CS → Prop) : Prop := oI yX1_of cX1_of 3 (Option.some Jvm.ClassFile.FieldType.int) (rC_ofS4) (fun o => [.ref (o 4), .int x1, .int x2]) S post
theorem C_ofS4_d : yX1_of.cls = RX1 ∧ yX1_of.cls ≠ "java/lang/invoke/MethodHandle" ∧ yX1_of.cls ≠ "java/lang/invoke/VarHandle" ∧ (parseMethodDescriptor yX1_of.desc).map (fun d => d.parameters.length) = some 2 := by decide +kernel
def rC_isBent : Room := { frames := 1, cells := 0, slots := 0, locals := 22 }
def C_isBent (x1 : Int32) (S : CS) (post : Int32 → CS → Prop) : Prop := oI yX0_isBent cX0_isBent 3 (Option.some Jvm.ClassFile.FieldType.boolean) (rC_isBent) (fun o => [.ref (o 0), .int x1]) S post
theorem C_isBent_d : yX0_isBent.cls = RX0 ∧ yX0_isBent.cls ≠ "java/lang/invoke/MethodHandle" ∧ yX0_isBent.cls ≠ "java/lang/invoke/VarHandle" ∧ (parseMethodDescriptor yX0_isBent.desc).map (fun d => d.parameters.length) = some 1 := by decide +kernel
def rC_acrossS4 : Room := { frames := 2, cells := 0, slots := 0, locals := 44 }
def C_acrossS4 (x1 : Int32) (x2 : Int32) (a3 : Nat) (S : CS) (post : Int32 → CS → Prop) : Prop := oI yX4_across cX4_across 6 (Option.some Jvm.ClassFile.FieldType.int) (rC_acrossS4) (fun o => [.ref (o 4), .int x1, .int x2, .ref a3]) S post
theorem C_acrossS4_d : yX4_across.cls = RX4 ∧ yX4_across.cls ≠ "java/lang/invoke/MethodHandle" ∧ yX4_across.cls ≠ "java/lang/invoke/VarHandle" ∧ (parseMethodDescriptor yX4_across.desc).map (fun d => d.parameters.length) = some 3 := by decide +kernel
def rC_spreadS4 (dd : Nat) : Room := { frames := 3 + dd, cells := 0, slots := 0, locals := 69 + 25 * dd }
def C_spreadS4 (dd : Nat) (x1 : Int32) (x2 : Int32) (S : CS) (post : CS → Prop) : Prop := oV yX1_spread cX1_spread 6 (Option.none : Option Jvm.ClassFile.FieldType) (rC_spreadS4 dd) (fun o => [.ref (o 4), .int x1, .int x2]) S post
theorem C_spreadS4_d : yX1_spread.cls = RX1 ∧ yX1_spread.cls ≠ "java/lang/invoke/MethodHandle" ∧ yX1_spread.cls ≠ "java/lang/invoke/VarHandle" ∧ (parseMethodDescriptor yX1_spread.desc).map (fun d => d.parameters.length) = some 2 := by decide +kernel
def rC_findS4 : Room := { frames := 40, cells := 0, slots := 0, locals := 994 }
def C_findS4 (S : CS) (post : Int32 → CS → Prop) : Prop := oI yX1_find cX1_find 2 (Option.some Jvm.ClassFile.FieldType.int) (rC_findS4) (fun o => [.ref (o 4)]) S post
theorem C_findS4_d : yX1_find.cls = RX1 ∧ yX1_find.cls ≠ "java/lang/invoke/MethodHandle" ∧ yX1_find.cls ≠ "java/lang/invoke/VarHandle" ∧ (parseMethodDescriptor yX1_find.desc).map (fun d => d.parameters.length) = some 0 := by decide +kernel
def rC_bent : Room := { frames := 41, cells := 0, slots := 0, locals := 1015 }
def C_bent (x1 : Int32) (S : CS) (post : Int32 → CS → Prop) : Prop := oI yX0_bent cX0_bent 2 (Option.some Jvm.ClassFile.FieldType.int) (rC_bent) (fun o => [.ref (o 0), .int x1]) S post
theorem C_bent_d : yX0_bent.cls = RX0 ∧ yX0_bent.cls ≠ "java/lang/invoke/MethodHandle" ∧ yX0_bent.cls ≠ "java/lang/invoke/VarHandle" ∧ (parseMethodDescriptor yX0_bent.desc).map (fun d => d.parameters.length) = some 1 := by decide +kernel
def rC_firstS4 : Room := { frames := 0, cells := 0, slots := 0, locals := 0 }
def C_firstS4 (x1 : Int32) (S : CS) (post : Int32 → CS → Prop) : Prop := oI yX1_first cX1_first 3 (Option.some Jvm.ClassFile.FieldType.int) (rC_firstS4) (fun o => [.ref (o 4), .int x1]) S post
theorem C_firstS4_d : yX1_first.cls = RX1 ∧ yX1_first.cls ≠ "java/lang/invoke/MethodHandle" ∧ yX1_first.cls ≠ "java/lang/invoke/VarHandle" ∧ (parseMethodDescriptor yX1_first.desc).map (fun d => d.parameters.length) = some 1 := by decide +kernel
def rC_linkOf : Room := { frames := 1, cells := 0, slots := 0, locals := 22 }
def C_linkOf (x1 : Int32) (S : CS) (post : Int32 → CS → Prop) : Prop := oI yX0_linkOf cX0_linkOf 9 (Option.some Jvm.ClassFile.FieldType.int) (rC_linkOf) (fun o => [.ref (o 0), .int x1]) S post
theorem C_linkOf_d : yX0_linkOf.cls = RX0 ∧ yX0_linkOf.cls ≠ "java/lang/invoke/MethodHandle" ∧ yX0_linkOf.cls ≠ "java/lang/invoke/VarHandle" ∧ (parseMethodDescriptor yX0_linkOf.desc).map (fun d => d.parameters.length) = some 1 := by decide +kernel
def rC_link : Room := { frames := 41, cells := 0, slots := 0, locals := 1015 }
def C_link (x1 : Int32) (S : CS) (post : Int32 → CS → Prop) : Prop := oI yX0_link cX0_link 2 (Option.some Jvm.ClassFile.FieldType.int) (rC_link) (fun o => [.ref (o 0), .int x1]) S post
theorem C_link_d : yX0_link.cls = RX0 ∧ yX0_link.cls ≠ "java/lang/invoke/MethodHandle" ∧ yX0_link.cls ≠ "java/lang/invoke/VarHandle" ∧ (parseMethodDescriptor yX0_link.desc).map (fun d => d.parameters.length) = some 1 := by decide +kernel
def rC_openOnes : Room := { frames := 0, cells := 0, slots := 0, locals := 0 }
def C_openOnes (S : CS) (post : Int32 → CS → Prop) : Prop := oI yX0_openOnes cX0_openOnes 4 (Option.some Jvm.ClassFile.FieldType.int) (rC_openOnes) (fun o => [.ref (o 0)]) S post
theorem C_openOnes_d : yX0_openOnes.cls = RX0 ∧ yX0_openOnes.cls ≠ "java/lang/invoke/MethodHandle" ∧ yX0_openOnes.cls ≠ "java/lang/invoke/VarHandle" ∧ (parseMethodDescriptor yX0_openOnes.desc).map (fun d => d.parameters.length) = some 0 := by decide +kernel
def rC_pairs : Room := { frames := 1, cells := 0, slots := 0, locals := 23 }
def C_pairs (S : CS) (post : Int32 → CS → Prop) : Prop := oI yX0_pairs cX0_pairs 1 (Option.some Jvm.ClassFile.FieldType.int) (rC_pairs) (fun o => [.ref (o 0)]) S post
theorem C_pairs_d : yX0_pairs.cls = RX0 ∧ yX0_pairs.cls ≠ "java/lang/invoke/MethodHandle" ∧ yX0_pairs.cls ≠ "java/lang/invoke/VarHandle" ∧ (parseMethodDescriptor yX0_pairs.desc).map (fun d => d.parameters.length) = some 0 := by decide +kernel
def rC_hasBent : Room := { frames := 41, cells := 0, slots := 0, locals := 1015 }
def C_hasBent (S : CS) (post : Int32 → CS → Prop) : Prop := oI yX0_hasBent cX0_hasBent 4 (Option.some Jvm.ClassFile.FieldType.boolean) (rC_hasBent) (fun o => [.ref (o 0)]) S post
theorem C_hasBent_d : yX0_hasBent.cls = RX0 ∧ yX0_hasBent.cls ≠ "java/lang/invoke/MethodHandle" ∧ yX0_hasBent.cls ≠ "java/lang/invoke/VarHandle" ∧ (parseMethodDescriptor yX0_hasBent.desc).map (fun d => d.parameters.length) = some 0 := by decide +kernel
def rC_isWhole : Room := { frames := 42, cells := 0, slots := 0, locals := 1038 }
def C_isWhole (S : CS) (post : Int32 → CS → Prop) : Prop := oI yX0_isWhole cX0_isWhole 4 (Option.some Jvm.ClassFile.FieldType.boolean) (rC_isWhole) (fun o => [.ref (o 0)]) S post
theorem C_isWhole_d : yX0_isWhole.cls = RX0 ∧ yX0_isWhole.cls ≠ "java/lang/invoke/MethodHandle" ∧ yX0_isWhole.cls ≠ "java/lang/invoke/VarHandle" ∧ (parseMethodDescriptor yX0_isWhole.desc).map (fun d => d.parameters.length) = some 0 := by decide +kernel
def rC_isEvenG : Room := { frames := 0, cells := 0, slots := 0, locals := 0 }
def C_isEvenG (a0 : Nat) (S : CS) (post : Int32 → CS → Prop) : Prop := oI yX6_isEven cX6_isEven 4 (Option.some Jvm.ClassFile.FieldType.boolean) (rC_isEvenG) (fun o => [.ref a0]) S post
theorem C_isEvenG_d : yX6_isEven.cls = RX6 ∧ yX6_isEven.cls ≠ "java/lang/invoke/MethodHandle" ∧ yX6_isEven.cls ≠ "java/lang/invoke/VarHandle" ∧ (parseMethodDescriptor yX6_isEven.desc).map (fun d => d.parameters.length) = some 0 := by decide +kernel
def rC_sets : Room := { frames := 1, cells := 2, slots := 6, locals := 23 }
def C_sets (S : CS) (post : Int32 → CS → Prop) : Prop := oI yX0_sets cX0_sets 10 (Option.some Jvm.ClassFile.FieldType.int) (rC_sets) (fun o => [.ref (o 0)]) S post
theorem C_sets_d : yX0_sets.cls = RX0 ∧ yX0_sets.cls ≠ "java/lang/invoke/MethodHandle" ∧ yX0_sets.cls ≠ "java/lang/invoke/VarHandle" ∧ (parseMethodDescriptor yX0_sets.desc).map (fun d => d.parameters.length) = some 0 := by decide +kernel
def rC_count : Room := { frames := 43, cells := 2, slots := 6, locals := 1061 }
def C_count (x1 : Int32) (S : CS) (post : Int32 → CS → Prop) : Prop := oI yX0_count cX0_count 2 (Option.some Jvm.ClassFile.FieldType.int) (rC_count) (fun o => [.ref (o 0), .int x1]) S post
theorem C_count_d : yX0_count.cls = RX0 ∧ yX0_count.cls ≠ "java/lang/invoke/MethodHandle" ∧ yX0_count.cls ≠ "java/lang/invoke/VarHandle" ∧ (parseMethodDescriptor yX0_count.desc).map (fun d => d.parameters.length) = some 1 := by decide +kernel
def rC_pairOf : Room := { frames := 0, cells := 0, slots := 0, locals := 0 }
def C_pairOf (x1 : Int32) (x2 : Int32) (S : CS) (post : Int32 → CS → Prop) : Prop := oI yX0_pairOf cX0_pairOf 7 (Option.some Jvm.ClassFile.FieldType.int) (rC_pairOf) (fun o => [.ref (o 0), .int x1, .int x2]) S post
theorem C_pairOf_d : yX0_pairOf.cls = RX0 ∧ yX0_pairOf.cls ≠ "java/lang/invoke/MethodHandle" ∧ yX0_pairOf.cls ≠ "java/lang/invoke/VarHandle" ∧ (parseMethodDescriptor yX0_pairOf.desc).map (fun d => d.parameters.length) = some 2 := by decide +kernel
def rC_goAround : Room := { frames := 1, cells := 0, slots := 0, locals := 26 }
def C_goAround (x1 : Int32) (a2 : Nat) (S : CS) (post : Int32 → CS → Prop) : Prop := oI yX0_goAround cX0_goAround 13 (Option.some Jvm.ClassFile.FieldType.boolean) (rC_goAround) (fun o => [.ref (o 0), .int x1, .ref a2]) S post
theorem C_goAround_d : yX0_goAround.cls = RX0 ∧ yX0_goAround.cls ≠ "java/lang/invoke/MethodHandle" ∧ yX0_goAround.cls ≠ "java/lang/invoke/VarHandle" ∧ (parseMethodDescriptor yX0_goAround.desc).map (fun d => d.parameters.length) = some 2 := by decide +kernel
def rC_loops : Room := { frames := 41, cells := 0, slots := 0, locals := 1013 }
def C_loops (S : CS) (post : Int32 → CS → Prop) : Prop := oI yX0_loops cX0_loops 4 (Option.some Jvm.ClassFile.FieldType.int) (rC_loops) (fun o => [.ref (o 0)]) S post
theorem C_loops_d : yX0_loops.cls = RX0 ∧ yX0_loops.cls ≠ "java/lang/invoke/MethodHandle" ∧ yX0_loops.cls ≠ "java/lang/invoke/VarHandle" ∧ (parseMethodDescriptor yX0_loops.desc).map (fun d => d.parameters.length) = some 0 := by decide +kernel
def rC_take : Room := { frames := 0, cells := 0, slots := 0, locals := 0 }
def C_take (x1 : Int32) (x2 : Int32) (S : CS) (post : Int32 → CS → Prop) : Prop := oI yX0_take cX0_take 10 (Option.some Jvm.ClassFile.FieldType.boolean) (rC_take) (fun o => [.ref (o 0), .int x1, .int x2]) S post
theorem C_take_d : yX0_take.cls = RX0 ∧ yX0_take.cls ≠ "java/lang/invoke/MethodHandle" ∧ yX0_take.cls ≠ "java/lang/invoke/VarHandle" ∧ (parseMethodDescriptor yX0_take.desc).map (fun d => d.parameters.length) = some 2 := by decide +kernel
def rC_clean : Room := { frames := 1, cells := 0, slots := 0, locals := 29 }
def C_clean (x1 : Int32) (x2 : Int32) (S : CS) (post : Int32 → CS → Prop) : Prop := oI yX0_clean cX0_clean 9 (Option.some Jvm.ClassFile.FieldType.boolean) (rC_clean) (fun o => [.ref (o 0), .int x1, .int x2]) S post
theorem C_clean_d : yX0_clean.cls = RX0 ∧ yX0_clean.cls ≠ "java/lang/invoke/MethodHandle" ∧ yX0_clean.cls ≠ "java/lang/invoke/VarHandle" ∧ (parseMethodDescriptor yX0_clean.desc).map (fun d => d.parameters.length) = some 2 := by decide +kernel
def rC_diagonal : Room := { frames := 2, cells := 0, slots := 0, locals := 57 }
def C_diagonal (x1 : Int32) (S : CS) (post : Int32 → CS → Prop) : Prop := oI yX0_diagonal cX0_diagonal 3 (Option.some Jvm.ClassFile.FieldType.int) (rC_diagonal) (fun o => [.ref (o 0), .int x1]) S post
theorem C_diagonal_d : yX0_diagonal.cls = RX0 ∧ yX0_diagonal.cls ≠ "java/lang/invoke/MethodHandle" ∧ yX0_diagonal.cls ≠ "java/lang/invoke/VarHandle" ∧ (parseMethodDescriptor yX0_diagonal.desc).map (fun d => d.parameters.length) = some 1 := by decide +kernel
def rC_holes : Room := { frames := 42, cells := 2, slots := 6, locals := 1038 }
def C_holes (x1 : Int32) (S : CS) (post : Int32 → CS → Prop) : Prop := oI yX0_holes cX0_holes 5 (Option.some Jvm.ClassFile.FieldType.int) (rC_holes) (fun o => [.ref (o 0), .int x1]) S post
theorem C_holes_d : yX0_holes.cls = RX0 ∧ yX0_holes.cls ≠ "java/lang/invoke/MethodHandle" ∧ yX0_holes.cls ≠ "java/lang/invoke/VarHandle" ∧ (parseMethodDescriptor yX0_holes.desc).map (fun d => d.parameters.length) = some 1 := by decide +kernel
def rC_kindOf : Room := { frames := 0, cells := 0, slots := 0, locals := 0 }
def C_kindOf (x0 : Int32) (x1 : Int32) (S : CS) (post : Int32 → CS → Prop) : Prop := oI yX0_kindOf cX0_kindOf 2 (Option.some Jvm.ClassFile.FieldType.int) (rC_kindOf) (fun o => [.int x0, .int x1]) S post
theorem C_kindOf_d : yX0_kindOf.cls ≠ "java/lang/invoke/MethodHandle" ∧ yX0_kindOf.cls ≠ "java/lang/invoke/VarHandle" ∧ (parseMethodDescriptor yX0_kindOf.desc).map (fun d => d.parameters.length) = some 2 := by decide +kernel
def rC_grown : Room := { frames := 0, cells := 1, slots := 21, locals := 0 }
def C_grown (a0 : Nat) (x1 : Int64) (a3 : Nat) (x4 : Int64) (S : CS) (post : Nat → CS → Prop) : Prop := oR yX0_grown cX0_grown 14 (Option.some (Jvm.ClassFile.FieldType.array Jvm.ClassFile.FieldType.long)) (rC_grown) (fun o => [.ref a0, .long x1, .ref a3, .long x4]) S post
theorem C_grown_d : yX0_grown.cls ≠ "java/lang/invoke/MethodHandle" ∧ yX0_grown.cls ≠ "java/lang/invoke/VarHandle" ∧ (parseMethodDescriptor yX0_grown.desc).map (fun d => d.parameters.length) = some 4 := by decide +kernel
def rC_bitsOf : Room := { frames := 0, cells := 0, slots := 0, locals := 0 }
def C_bitsOf (a0 : Nat) (S : CS) (post : Int32 → CS → Prop) : Prop := oI yX0_bitsOf cX0_bitsOf 3 (Option.some Jvm.ClassFile.FieldType.int) (rC_bitsOf) (fun o => [.ref a0]) S post
theorem C_bitsOf_d : yX0_bitsOf.cls ≠ "java/lang/invoke/MethodHandle" ∧ yX0_bitsOf.cls ≠ "java/lang/invoke/VarHandle" ∧ (parseMethodDescriptor yX0_bitsOf.desc).map (fun d => d.parameters.length) = some 1 := by decide +kernel
def rC_bitCount : Room := { frames := 0, cells := 0, slots := 0, locals := 0 }
def C_bitCount (x0 : Int32) (S : CS) (post : Int32 → CS → Prop) : Prop := oI yJ1_bitCount cJ1_bitCount 1 (Option.some Jvm.ClassFile.FieldType.int) (rC_bitCount) (fun o => [.int x0]) S post
theorem C_bitCount_d : yJ1_bitCount.cls ≠ "java/lang/invoke/MethodHandle" ∧ yJ1_bitCount.cls ≠ "java/lang/invoke/VarHandle" ∧ (parseMethodDescriptor yJ1_bitCount.desc).map (fun d => d.parameters.length) = some 1 := by decide +kernel
def rC_isAlone : Room := { frames := 1, cells := 0, slots := 0, locals := 20 }
def C_isAlone (x1 : Int32) (S : CS) (post : Int32 → CS → Prop) : Prop := oI yX0_isAlone cX0_isAlone 4 (Option.some Jvm.ClassFile.FieldType.boolean) (rC_isAlone) (fun o => [.ref (o 0), .int x1]) S post
theorem C_isAlone_d : yX0_isAlone.cls = RX0 ∧ yX0_isAlone.cls ≠ "java/lang/invoke/MethodHandle" ∧ yX0_isAlone.cls ≠ "java/lang/invoke/VarHandle" ∧ (parseMethodDescriptor yX0_isAlone.desc).map (fun d => d.parameters.length) = some 1 := by decide +kernel
def rC_off : Room := { frames := 1, cells := 0, slots := 0, locals := 21 }
def C_off (a1 : Nat) (x2 : Int32) (x3 : Int32) (x4 : Int32) (S : CS) (post : Int64 → CS → Prop) : Prop := oL yX0_off cX0_off 9 (Option.some Jvm.ClassFile.FieldType.long) (rC_off) (fun o => [.ref (o 0), .ref a1, .int x2, .int x3, .int x4]) S post
theorem C_off_d : yX0_off.cls = RX0 ∧ yX0_off.cls ≠ "java/lang/invoke/MethodHandle" ∧ yX0_off.cls ≠ "java/lang/invoke/VarHandle" ∧ (parseMethodDescriptor yX0_off.desc).map (fun d => d.parameters.length) = some 4 := by decide +kernel
def rC_keep (mc ms : Nat) : Room := { frames := 1, cells := mc, slots := ms, locals := 80 }
def C_keep (mc ms : Nat) (a1 : Nat) (S : CS) (post : CS → Prop) : Prop := oV yX0_keep cX0_keep 3 (Option.none : Option Jvm.ClassFile.FieldType) (rC_keep mc ms) (fun o => [.ref (o 0), .ref a1]) S post
theorem C_keep_d : yX0_keep.cls = RX0 ∧ yX0_keep.cls ≠ "java/lang/invoke/MethodHandle" ∧ yX0_keep.cls ≠ "java/lang/invoke/VarHandle" ∧ (parseMethodDescriptor yX0_keep.desc).map (fun d => d.parameters.length) = some 1 := by decide +kernel
def rC_isBeside : Room := { frames := 2, cells := 0, slots := 0, locals := 43 }
def C_isBeside (x1 : Int32) (x2 : Int32) (S : CS) (post : Int32 → CS → Prop) : Prop := oI yX0_isBeside cX0_isBeside 6 (Option.some Jvm.ClassFile.FieldType.boolean) (rC_isBeside) (fun o => [.ref (o 0), .int x1, .int x2]) S post
theorem C_isBeside_d : yX0_isBeside.cls = RX0 ∧ yX0_isBeside.cls ≠ "java/lang/invoke/MethodHandle" ∧ yX0_isBeside.cls ≠ "java/lang/invoke/VarHandle" ∧ (parseMethodDescriptor yX0_isBeside.desc).map (fun d => d.parameters.length) = some 2 := by decide +kernel
def rC_match (mc ms : Nat) : Room := { frames := 3, cells := mc, slots := ms, locals := 102 }
def C_match (mc ms : Nat) (x1 : Int32) (x2 : Int32) (x3 : Int32) (S : CS) (post : CS → Prop) : Prop := oV yX0_match cX0_match 10 (Option.none : Option Jvm.ClassFile.FieldType) (rC_match mc ms) (fun o => [.ref (o 0), .int x1, .int x2, .int x3]) S post
theorem C_match_d : yX0_match.cls = RX0 ∧ yX0_match.cls ≠ "java/lang/invoke/MethodHandle" ∧ yX0_match.cls ≠ "java/lang/invoke/VarHandle" ∧ (parseMethodDescriptor yX0_match.desc).map (fun d => d.parameters.length) = some 3 := by decide +kernel
def rC_isLess : Room := { frames := 0, cells := 0, slots := 0, locals := 0 }
def C_isLess (a0 : Nat) (a1 : Nat) (S : CS) (post : Int32 → CS → Prop) : Prop := oI yX0_isLess cX0_isLess 3 (Option.some Jvm.ClassFile.FieldType.boolean) (rC_isLess) (fun o => [.ref a0, .ref a1]) S post
theorem C_isLess_d : yX0_isLess.cls ≠ "java/lang/invoke/MethodHandle" ∧ yX0_isLess.cls ≠ "java/lang/invoke/VarHandle" ∧ (parseMethodDescriptor yX0_isLess.desc).map (fun d => d.parameters.length) = some 2 := by decide +kernel
def rC_findSheets (mc ms : Nat) : Room := { frames := 4, cells := mc, slots := ms, locals := 131 }
def C_findSheets (mc ms : Nat) (S : CS) (post : CS → Prop) : Prop := oV yX0_findSheets cX0_findSheets 7 (Option.none : Option Jvm.ClassFile.FieldType) (rC_findSheets mc ms) (fun o => [.ref (o 0)]) S post
theorem C_findSheets_d : yX0_findSheets.cls = RX0 ∧ yX0_findSheets.cls ≠ "java/lang/invoke/MethodHandle" ∧ yX0_findSheets.cls ≠ "java/lang/invoke/VarHandle" ∧ (parseMethodDescriptor yX0_findSheets.desc).map (fun d => d.parameters.length) = some 0 := by decide +kernel
def rC_least (mc ms : Nat) : Room := { frames := 5, cells := mc, slots := ms, locals := 157 }
def C_least (mc ms : Nat) (S : CS) (post : Int32 → CS → Prop) : Prop := oI yX0_least cX0_least 1 (Option.some Jvm.ClassFile.FieldType.int) (rC_least mc ms) (fun o => [.ref (o 0)]) S post
theorem C_least_d : yX0_least.cls = RX0 ∧ yX0_least.cls ≠ "java/lang/invoke/MethodHandle" ∧ yX0_least.cls ≠ "java/lang/invoke/VarHandle" ∧ (parseMethodDescriptor yX0_least.desc).map (fun d => d.parameters.length) = some 0 := by decide +kernel
def rC_isNumber : Room := { frames := 1, cells := 0, slots := 0, locals := 22 }
def C_isNumber (x1 : Int32) (S : CS) (post : Int32 → CS → Prop) : Prop := oI yX0_isNumber cX0_isNumber 2 (Option.some Jvm.ClassFile.FieldType.boolean) (rC_isNumber) (fun o => [.ref (o 0), .int x1]) S post
theorem C_isNumber_d : yX0_isNumber.cls = RX0 ∧ yX0_isNumber.cls ≠ "java/lang/invoke/MethodHandle" ∧ yX0_isNumber.cls ≠ "java/lang/invoke/VarHandle" ∧ (parseMethodDescriptor yX0_isNumber.desc).map (fun d => d.parameters.length) = some 1 := by decide +kernel
def rC_number (mc ms : Nat) : Room := { frames := 6, cells := mc, slots := ms, locals := 177 }
def C_number (mc ms : Nat) (x1 : Int32) (x2 : Int32) (S : CS) (post : Int32 → CS → Prop) : Prop := oI yX0_number cX0_number 3 (Option.some Jvm.ClassFile.FieldType.int) (rC_number mc ms) (fun o => [.ref (o 0), .int x1, .int x2]) S post
theorem C_number_d : yX0_number.cls = RX0 ∧ yX0_number.cls ≠ "java/lang/invoke/MethodHandle" ∧ yX0_number.cls ≠ "java/lang/invoke/VarHandle" ∧ (parseMethodDescriptor yX0_number.desc).map (fun d => d.parameters.length) = some 2 := by decide +kernel
def rC_put : Room := { frames := 2, cells := 0, slots := 0, locals := 43 }
def C_put (x1 : Int32) (x2 : Int32) (S : CS) (post : Int32 → CS → Prop) : Prop := oI yX0_put cX0_put 4 (Option.some Jvm.ClassFile.FieldType.int) (rC_put) (fun o => [.ref (o 0), .int x1, .int x2]) S post
theorem C_put_d : yX0_put.cls = RX0 ∧ yX0_put.cls ≠ "java/lang/invoke/MethodHandle" ∧ yX0_put.cls ≠ "java/lang/invoke/VarHandle" ∧ (parseMethodDescriptor yX0_put.desc).map (fun d => d.parameters.length) = some 2 := by decide +kernel
def rC_add (mc ms : Nat) : Room := { frames := 6, cells := mc, slots := ms, locals := 177 }
def C_add (mc ms : Nat) (x1 : Int32) (x2 : Int32) (S : CS) (post : Int32 → CS → Prop) : Prop := oI yX0_add cX0_add 4 (Option.some Jvm.ClassFile.FieldType.int) (rC_add mc ms) (fun o => [.ref (o 0), .int x1, .int x2]) S post
theorem C_add_d : yX0_add.cls = RX0 ∧ yX0_add.cls ≠ "java/lang/invoke/MethodHandle" ∧ yX0_add.cls ≠ "java/lang/invoke/VarHandle" ∧ (parseMethodDescriptor yX0_add.desc).map (fun d => d.parameters.length) = some 2 := by decide +kernel
def rC_threes : Room := { frames := 0, cells := 0, slots := 0, locals := 0 }
def C_threes (x1 : Int32) (x2 : Int32) (S : CS) (post : Int32 → CS → Prop) : Prop := oI yX0_threes cX0_threes 3 (Option.some Jvm.ClassFile.FieldType.int) (rC_threes) (fun o => [.ref (o 0), .int x1, .int x2]) S post
theorem C_threes_d : yX0_threes.cls = RX0 ∧ yX0_threes.cls ≠ "java/lang/invoke/MethodHandle" ∧ yX0_threes.cls ≠ "java/lang/invoke/VarHandle" ∧ (parseMethodDescriptor yX0_threes.desc).map (fun d => d.parameters.length) = some 2 := by decide +kernel
def rC_fours : Room := { frames := 0, cells := 0, slots := 0, locals := 0 }
def C_fours (x1 : Int32) (x2 : Int32) (S : CS) (post : Int32 → CS → Prop) : Prop := oI yX0_fours cX0_fours 3 (Option.some Jvm.ClassFile.FieldType.int) (rC_fours) (fun o => [.ref (o 0), .int x1, .int x2]) S post
theorem C_fours_d : yX0_fours.cls = RX0 ∧ yX0_fours.cls ≠ "java/lang/invoke/MethodHandle" ∧ yX0_fours.cls ≠ "java/lang/invoke/VarHandle" ∧ (parseMethodDescriptor yX0_fours.desc).map (fun d => d.parameters.length) = some 2 := by decide +kernel
def rC_arcs : Room := { frames := 1, cells := 0, slots := 0, locals := 22 }
def C_arcs (x1 : Int32) (x2 : Int32) (x3 : Int32) (S : CS) (post : Int32 → CS → Prop) : Prop := oI yX0_arcs cX0_arcs 4 (Option.some Jvm.ClassFile.FieldType.int) (rC_arcs) (fun o => [.ref (o 0), .int x1, .int x2, .int x3]) S post
theorem C_arcs_d : yX0_arcs.cls = RX0 ∧ yX0_arcs.cls ≠ "java/lang/invoke/MethodHandle" ∧ yX0_arcs.cls ≠ "java/lang/invoke/VarHandle" ∧ (parseMethodDescriptor yX0_arcs.desc).map (fun d => d.parameters.length) = some 3 := by decide +kernel
def rC_legal : Room := { frames := 2, cells := 0, slots := 0, locals := 45 }
def C_legal (S : CS) (post : Int32 → CS → Prop) : Prop := oI yX0_legal cX0_legal 7 (Option.some Jvm.ClassFile.FieldType.int) (rC_legal) (fun o => [.ref (o 0)]) S post
theorem C_legal_d : yX0_legal.cls = RX0 ∧ yX0_legal.cls ≠ "java/lang/invoke/MethodHandle" ∧ yX0_legal.cls ≠ "java/lang/invoke/VarHandle" ∧ (parseMethodDescriptor yX0_legal.desc).map (fun d => d.parameters.length) = some 0 := by decide +kernel
def rC_isCounted : Room := { frames := 0, cells := 0, slots := 0, locals := 0 }
def C_isCounted (x1 : Int32) (x2 : Int32) (S : CS) (post : Int32 → CS → Prop) : Prop := oI yX0_isCounted cX0_isCounted 4 (Option.some Jvm.ClassFile.FieldType.boolean) (rC_isCounted) (fun o => [.ref (o 0), .int x1, .int x2]) S post
theorem C_isCounted_d : yX0_isCounted.cls = RX0 ∧ yX0_isCounted.cls ≠ "java/lang/invoke/MethodHandle" ∧ yX0_isCounted.cls ≠ "java/lang/invoke/VarHandle" ∧ (parseMethodDescriptor yX0_isCounted.desc).map (fun d => d.parameters.length) = some 2 := by decide +kernel
def rC_euler : Room := { frames := 41, cells := 0, slots := 0, locals := 1013 }
def C_euler (S : CS) (post : Int32 → CS → Prop) : Prop := oI yX0_euler cX0_euler 11 (Option.some Jvm.ClassFile.FieldType.int) (rC_euler) (fun o => [.ref (o 0)]) S post
theorem C_euler_d : yX0_euler.cls = RX0 ∧ yX0_euler.cls ≠ "java/lang/invoke/MethodHandle" ∧ yX0_euler.cls ≠ "java/lang/invoke/VarHandle" ∧ (parseMethodDescriptor yX0_euler.desc).map (fun d => d.parameters.length) = some 0 := by decide +kernel
def rC_allCuts : Room := { frames := 0, cells := 0, slots := 0, locals := 0 }
def C_allCuts (S : CS) (post : Int32 → CS → Prop) : Prop := oI yX0_allCuts cX0_allCuts 2 (Option.some Jvm.ClassFile.FieldType.int) (rC_allCuts) (fun o => [.ref (o 0)]) S post
theorem C_allCuts_d : yX0_allCuts.cls = RX0 ∧ yX0_allCuts.cls ≠ "java/lang/invoke/MethodHandle" ∧ yX0_allCuts.cls ≠ "java/lang/invoke/VarHandle" ∧ (parseMethodDescriptor yX0_allCuts.desc).map (fun d => d.parameters.length) = some 0 := by decide +kernel
def rC_isNear : Room := { frames := 0, cells := 0, slots := 0, locals := 0 }
def C_isNear (x0 : Int32) (x1 : Int32) (S : CS) (post : Int32 → CS → Prop) : Prop := oI yX0_isNear cX0_isNear 2 (Option.some Jvm.ClassFile.FieldType.boolean) (rC_isNear) (fun o => [.int x0, .int x1]) S post
theorem C_isNear_d : yX0_isNear.cls ≠ "java/lang/invoke/MethodHandle" ∧ yX0_isNear.cls ≠ "java/lang/invoke/VarHandle" ∧ (parseMethodDescriptor yX0_isNear.desc).map (fun d => d.parameters.length) = some 2 := by decide +kernel
def rC_cutOf : Room := { frames := 1, cells := 0, slots := 0, locals := 22 }
def C_cutOf (x1 : Int32) (x2 : Int32) (x3 : Int32) (x4 : Int32) (S : CS) (post : Int32 → CS → Prop) : Prop := oI yX0_cutOf cX0_cutOf 7 (Option.some Jvm.ClassFile.FieldType.int) (rC_cutOf) (fun o => [.ref (o 0), .int x1, .int x2, .int x3, .int x4]) S post
theorem C_cutOf_d : yX0_cutOf.cls = RX0 ∧ yX0_cutOf.cls ≠ "java/lang/invoke/MethodHandle" ∧ yX0_cutOf.cls ≠ "java/lang/invoke/VarHandle" ∧ (parseMethodDescriptor yX0_cutOf.desc).map (fun d => d.parameters.length) = some 4 := by decide +kernel
def rC_looks : Room := { frames := 1, cells := 0, slots := 0, locals := 21 }
def C_looks (x0 : Int32) (x1 : Int32) (S : CS) (post : Int32 → CS → Prop) : Prop := oI yX0_looks cX0_looks 2 (Option.some Jvm.ClassFile.FieldType.int) (rC_looks) (fun o => [.int x0, .int x1]) S post
theorem C_looks_d : yX0_looks.cls ≠ "java/lang/invoke/MethodHandle" ∧ yX0_looks.cls ≠ "java/lang/invoke/VarHandle" ∧ (parseMethodDescriptor yX0_looks.desc).map (fun d => d.parameters.length) = some 2 := by decide +kernel
def rC_kindOfCut : Room := { frames := 0, cells := 0, slots := 0, locals := 0 }
def C_kindOfCut (x1 : Int32) (S : CS) (post : Int32 → CS → Prop) : Prop := oI yX0_kindOfCut cX0_kindOfCut 3 (Option.some Jvm.ClassFile.FieldType.int) (rC_kindOfCut) (fun o => [.ref (o 0), .int x1]) S post
theorem C_kindOfCut_d : yX0_kindOfCut.cls = RX0 ∧ yX0_kindOfCut.cls ≠ "java/lang/invoke/MethodHandle" ∧ yX0_kindOfCut.cls ≠ "java/lang/invoke/VarHandle" ∧ (parseMethodDescriptor yX0_kindOfCut.desc).map (fun d => d.parameters.length) = some 1 := by decide +kernel
def rC_beyond : Room := { frames := 2, cells := 0, slots := 0, locals := 48 }
def C_beyond (x1 : Int32) (x2 : Int32) (x3 : Int32) (x4 : Int32) (S : CS) (post : Int32 → CS → Prop) : Prop := oI yX0_beyond cX0_beyond 7 (Option.some Jvm.ClassFile.FieldType.int) (rC_beyond) (fun o => [.ref (o 0), .int x1, .int x2, .int x3, .int x4]) S post
theorem C_beyond_d : yX0_beyond.cls = RX0 ∧ yX0_beyond.cls ≠ "java/lang/invoke/MethodHandle" ∧ yX0_beyond.cls ≠ "java/lang/invoke/VarHandle" ∧ (parseMethodDescriptor yX0_beyond.desc).map (fun d => d.parameters.length) = some 4 := by decide +kernel
def rC_spread : Room := { frames := 3, cells := 0, slots := 0, locals := 74 }
def C_spread (x1 : Int32) (x2 : Int32) (S : CS) (post : CS → Prop) : Prop := oV yX0_spread cX0_spread 12 (Option.none : Option Jvm.ClassFile.FieldType) (rC_spread) (fun o => [.ref (o 0), .int x1, .int x2]) S post
theorem C_spread_d : yX0_spread.cls = RX0 ∧ yX0_spread.cls ≠ "java/lang/invoke/MethodHandle" ∧ yX0_spread.cls ≠ "java/lang/invoke/VarHandle" ∧ (parseMethodDescriptor yX0_spread.desc).map (fun d => d.parameters.length) = some 2 := by decide +kernel
def rC_findParts : Room := { frames := 4, cells := 0, slots := 0, locals := 105 }
def C_findParts (S : CS) (post : Int32 → CS → Prop) : Prop := oI yX0_findParts cX0_findParts 4 (Option.some Jvm.ClassFile.FieldType.int) (rC_findParts) (fun o => [.ref (o 0)]) S post
theorem C_findParts_d : yX0_findParts.cls = RX0 ∧ yX0_findParts.cls ≠ "java/lang/invoke/MethodHandle" ∧ yX0_findParts.cls ≠ "java/lang/invoke/VarHandle" ∧ (parseMethodDescriptor yX0_findParts.desc).map (fun d => d.parameters.length) = some 0 := by decide +kernel
def rC_parts : Room := { frames := 5, cells := 0, slots := 0, locals := 128 }
def C_parts (S : CS) (post : Int32 → CS → Prop) : Prop := oI yX0_parts cX0_parts 1 (Option.some Jvm.ClassFile.FieldType.int) (rC_parts) (fun o => [.ref (o 0)]) S post
theorem C_parts_d : yX0_parts.cls = RX0 ∧ yX0_parts.cls ≠ "java/lang/invoke/MethodHandle" ∧ yX0_parts.cls ≠ "java/lang/invoke/VarHandle" ∧ (parseMethodDescriptor yX0_parts.desc).map (fun d => d.parameters.length) = some 0 := by decide +kernel
def rC_pointsOf : Room := { frames := 41, cells := 0, slots := 0, locals := 1013 }
def C_pointsOf (x1 : Int32) (S : CS) (post : Int32 → CS → Prop) : Prop := oI yX0_pointsOf cX0_pointsOf 12 (Option.some Jvm.ClassFile.FieldType.int) (rC_pointsOf) (fun o => [.ref (o 0), .int x1]) S post
theorem C_pointsOf_d : yX0_pointsOf.cls = RX0 ∧ yX0_pointsOf.cls ≠ "java/lang/invoke/MethodHandle" ∧ yX0_pointsOf.cls ≠ "java/lang/invoke/VarHandle" ∧ (parseMethodDescriptor yX0_pointsOf.desc).map (fun d => d.parameters.length) = some 1 := by decide +kernel
def rC_arcsOf : Room := { frames := 2, cells := 0, slots := 0, locals := 48 }
def C_arcsOf (x1 : Int32) (S : CS) (post : Int32 → CS → Prop) : Prop := oI yX0_arcsOf cX0_arcsOf 8 (Option.some Jvm.ClassFile.FieldType.int) (rC_arcsOf) (fun o => [.ref (o 0), .int x1]) S post
theorem C_arcsOf_d : yX0_arcsOf.cls = RX0 ∧ yX0_arcsOf.cls ≠ "java/lang/invoke/MethodHandle" ∧ yX0_arcsOf.cls ≠ "java/lang/invoke/VarHandle" ∧ (parseMethodDescriptor yX0_arcsOf.desc).map (fun d => d.parameters.length) = some 1 := by decide +kernel
def rC_part : Room := { frames := 42, cells := 0, slots := 0, locals := 1044 }
def C_part (x1 : Int32) (x2 : Int32) (S : CS) (post : Int32 → CS → Prop) : Prop := oI yX0_part cX0_part 6 (Option.some Jvm.ClassFile.FieldType.int) (rC_part) (fun o => [.ref (o 0), .int x1, .int x2]) S post
theorem C_part_d : yX0_part.cls = RX0 ∧ yX0_part.cls ≠ "java/lang/invoke/MethodHandle" ∧ yX0_part.cls ≠ "java/lang/invoke/VarHandle" ∧ (parseMethodDescriptor yX0_part.desc).map (fun d => d.parameters.length) = some 2 := by decide +kernel
def rC_firstS2 : Room := { frames := 0, cells := 0, slots := 0, locals := 0 }
def C_firstS2 (x1 : Int32) (S : CS) (post : Int32 → CS → Prop) : Prop := oI yX1_first cX1_first 3 (Option.some Jvm.ClassFile.FieldType.int) (rC_firstS2) (fun o => [.ref (o 2), .int x1]) S post
theorem C_firstS2_d : yX1_first.cls = RX1 ∧ yX1_first.cls ≠ "java/lang/invoke/MethodHandle" ∧ yX1_first.cls ≠ "java/lang/invoke/VarHandle" ∧ (parseMethodDescriptor yX1_first.desc).map (fun d => d.parameters.length) = some 1 := by decide +kernel
theorem CWs_13 {dA : Nat → ClassId} {o : Nat → Nat} {S : CS} {j : Nat} {x : Int32} : (CW dA o S).set 8 (o 13, .inl (dA 0, 21, .inl (upd (S.2.1 13) j x))) = CW dA o (tI S 13 j x) := rfl
theorem CWs_14 {dA : Nat → ClassId} {o : Nat → Nat} {S : CS} {j : Nat} {x : Int32} : (CW dA o S).set 9 (o 14, .inl (dA 0, 22, .inl (upd (S.2.1 14) j x))) = CW dA o (tI S 14 j x) := rfl
theorem CWs_15 {dA : Nat → ClassId} {o : Nat → Nat} {S : CS} {j : Nat} {x : Int32} : (CW dA o S).set 10 (o 15, .inl (dA 0, 400, .inl (upd (S.2.1 15) j x))) = CW dA o (tI S 15 j x) := rfl
theorem CWs_16 {dA : Nat → ClassId} {o : Nat → Nat} {S : CS} {j : Nat} {x : Int32} : (CW dA o S).set 11 (o 16, .inl (dA 0, 400, .inl (upd (S.2.1 16) j x))) = CW dA o (tI S 16 j x) := rfl
theorem CWs_17 {dA : Nat → ClassId} {o : Nat → Nat} {S : CS} {j : Nat} {x : Int32} : (CW dA o S).set 12 (o 17, .inl (dA 0, 400, .inl (upd (S.2.1 17) j x))) = CW dA o (tI S 17 j x) := rfl
theorem CWs_32 {dA : Nat → ClassId} {o : Nat → Nat} {S : CS} {j : Nat} {x : Int32} : (CW dA o S).set 14 (o 32, .inl (dA 0, 12, .inl (upd (S.2.1 32) j x))) = CW dA o (tI S 32 j x) := rfl
theorem CWs_33 {dA : Nat → ClassId} {o : Nat → Nat} {S : CS} {j : Nat} {x : Int32} : (CW dA o S).set 15 (o 33, .inl (dA 0, 18, .inl (upd (S.2.1 33) j x))) = CW dA o (tI S 33 j x) := rfl
theorem CWs_34 {dA : Nat → ClassId} {o : Nat → Nat} {S : CS} {j : Nat} {x : Int32} : (CW dA o S).set 16 (o 34, .inl (dA 0, 36, .inl (upd (S.2.1 34) j x))) = CW dA o (tI S 34 j x) := rfl
theorem CWf_1 {dA : Nat → ClassId} {o : Nat → Nat} {S : CS} {x : Int32} : (CW dA o S).set 0 (o 0, .inr (1, (cFs o S).set 1 (.int x))) = CW dA o (tF S 1 x) := rfl
theorem CWf_5 {dA : Nat → ClassId} {o : Nat → Nat} {S : CS} {x : Int32} : (CW dA o S).set 0 (o 0, .inr (1, (cFs o S).set 5 (.int x))) = CW dA o (tF S 5 x) := rfl
theorem CWf_9 {dA : Nat → ClassId} {o : Nat → Nat} {S : CS} {x : Int32} : (CW dA o S).set 0 (o 0, .inr (1, (cFs o S).set 9 (.int x))) = CW dA o (tF S 9 x) := rfl
theorem CWf_10 {dA : Nat → ClassId} {o : Nat → Nat} {S : CS} {x : Int32} : (CW dA o S).set 0 (o 0, .inr (1, (cFs o S).set 10 (.int x))) = CW dA o (tF S 10 x) := rfl
theorem CWf_12 {dA : Nat → ClassId} {o : Nat → Nat} {S : CS} {x : Int32} : (CW dA o S).set 0 (o 0, .inr (1, (cFs o S).set 12 (.int x))) = CW dA o (tF S 12 x) := rfl
theorem CWa_8 {dA : Nat → ClassId} {o : Nat → Nat} {S : CS} {x : Nat} : (CW dA o S).set 0 (o 0, .inr (1, (cFs o S).set 8 (.ref x))) = CW dA o (tA S 8 x) := rfl
theorem CWa_11 {dA : Nat → ClassId} {o : Nat → Nat} {S : CS} {x : Nat} : (CW dA o S).set 0 (o 0, .inr (1, (cFs o S).set 11 (.ref x))) = CW dA o (tA S 11 x) := rfl
theorem CWm_2 {dA : Nat → ClassId} {o : Nat → Nat} {S : CS} {x : Int32} : (CW dA o S).set 1 (o 2, .inr (2, ([.int 4, .ref (o 32), .int (S.1 42), .ref (o 0)] : List Value).set 2 (.int x))) = CW dA o (tF S 42 x) := rfl
theorem CWm_3 {dA : Nat → ClassId} {o : Nat → Nat} {S : CS} {x : Int32} : (CW dA o S).set 2 (o 3, .inr (3, ([.int 6, .ref (o 33), .int (S.1 43), .ref (o 0)] : List Value).set 2 (.int x))) = CW dA o (tF S 43 x) := rfl
theorem CWm_4 {dA : Nat → ClassId} {o : Nat → Nat} {S : CS} {x : Int32} : (CW dA o S).set 3 (o 4, .inr (4, ([.int 12, .ref (o 34), .int (S.1 44), .ref (o 0)] : List Value).set 2 (.int x))) = CW dA o (tF S 44 x) := rfl
theorem nwF_RX0_116 : (Cond.fieldLinkNest RX0 116 RX6 "piece" "I" RX0) ∈ nestW := by simp [nestW]
theorem nwF_RX0_119 : (Cond.fieldLinkNest RX0 119 RX6 "side" "I" RX0) ∈ nestW := by simp [nestW]
theorem nwF_RX0_175 : (Cond.fieldLinkNest RX0 175 RX6 "to" "[I" RX0) ∈ nestW := by simp [nestW]
theorem nwF_RX1_33 : (Cond.fieldLinkNest RX1 33 RX0 "glues" "[[LThirdSheets$Glue;" RX0) ∈ nestW := by simp [nestW]
theorem nwF_RX1_26 : (Cond.fieldLinkNest RX1 26 RX0 "pieces" "I" RX0) ∈ nestW := by simp [nestW]
theorem nwF_RX1_41 : (Cond.fieldLinkNest RX1 41 RX6 "piece" "I" RX0) ∈ nestW := by simp [nestW]
theorem nwF_RX2_15 : (Cond.fieldLinkNest RX2 15 RX6 "to" "[I" RX0) ∈ nestW := by simp [nestW]
theorem nwF_RX3_22 : (Cond.fieldLinkNest RX3 22 RX6 "to" "[I" RX0) ∈ nestW := by simp [nestW]
theorem nwF_RX3_15 : (Cond.fieldLinkNest RX3 15 RX0 "LOW" "[I" RX0) ∈ nestW := by simp [nestW]
theorem nwF_RX3_19 : (Cond.fieldLinkNest RX3 19 RX0 "HIGH" "[I" RX0) ∈ nestW := by simp [nestW]
theorem nwF_RX4_22 : (Cond.fieldLinkNest RX4 22 RX6 "to" "[I" RX0) ∈ nestW := by simp [nestW]
theorem nwF_RX4_15 : (Cond.fieldLinkNest RX4 15 RX0 "LOW" "[I" RX0) ∈ nestW := by simp [nestW]
theorem nwF_RX4_19 : (Cond.fieldLinkNest RX4 19 RX0 "HIGH" "[I" RX0) ∈ nestW := by simp [nestW]
theorem nwM_RX3_27 : (Cond.methodLinkNest RX3 27 ⟨RX0, "edgeOf", "(II)I"⟩ RX0) ∈ nestW := by simp [nestW]
theorem nwM_RX4_27 : (Cond.methodLinkNest RX4 27 ⟨RX0, "edgeOf", "(II)I"⟩ RX0) ∈ nestW := by simp [nestW]
theorem nwD : (Cond.declares ⟨RX1, "across", "(IILThirdSheets$Glue;)I"⟩) ∈ nestW := by simp [nestW]
theorem nwS_2 : selSpread RX2 ∈ nestW := by simp [nestW]
theorem nwS_3 : selSpread RX3 ∈ nestW := by simp [nestW]
theorem nwS_4 : selSpread RX4 ∈ nestW := by simp [nestW]
theorem vp_lt {i : Int32} {n : Nat} (h : vp_in i n) : i.toNatClampNeg < n := Nat.not_le.mp fun q => h (Or.inr q)
theorem q317m : Cond.code Lib.Math.min.name Lib.Math.min.code 2 (some .int) ∈ lw_all := by
  have h := q317
  have e : prog_10_method_69_code = Lib.Math.min.code := by decide +kernel
  rw [e] at h
  exact h
theorem q425m : Cond.code Lib.MathLoose.abs_long.x Lib.MathLoose.abs_long.code 2 (some .long) ∈ lw_all := by
  have h := q425
  have e : prog_10_method_61_code = Lib.MathLoose.abs_long.code := by decide +kernel
  rw [e] at h
  exact h
theorem lw_U {own : String} {idx : Nat} {C owner : String} {x y : MethodName} {b : ByteArray} {L : Nat} {r : Option FieldType} (h1 : Cond.methodLink own idx x ∈ lw_all) (h2 : Cond.sameMethod x.cls owner x.name x.desc ∈ lw_all) (h3 : Cond.selects C x y ∈ lw_all) (h4 : Cond.instanceMethod y ∈ lw_all) (h5 : Cond.initialized y.cls ∈ lw_all) (h6 : Cond.code y b L r ∈ lw_all) : GoodIn lw_all (va_wsU own idx C owner x y (ws_ y b L r)) := by
  refine lw_app ?_ (lw_meth h6)
  intro w hw
  simp only [List.mem_cons, List.not_mem_nil, or_false] at hw
  rcases hw with e | e | e | e | e
  · rw [e]; exact h1
  · rw [e]; exact h2
  · rw [e]; exact h3
  · rw [e]; exact h4
  · rw [e]; exact h5
theorem cr_opt {p : Program} {l : Launch} {e : Env} {R : Room} {s : State} {m : MethodId} {args : Array Value} {below : List Frame} {meth : Method} {c : Code} {H : Heap} {locs : List Loc} {cells slots pc : Nat} {Q : State → Prop} {ls : Array Slot} {rest : List Value} {x : Option Nat} {g : Nat} (hg : x = some g) (kk : W p l e R s m args below meth c H locs cells slots Q (F0 m pc ls (.ref g :: rest))) : W p l e R s m args below meth c H locs cells slots Q (F0 m pc ls (va_rf x :: rest)) := by
  subst hg
  exact kk
