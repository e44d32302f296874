/-! the methods' rooms, and what it means that a call of one goes well -/
def rM_in : Room := { frames := 0, cells := 0, slots := 0, locals := 0 }
def M_in (x0 : Int32) (x1 : Int32) (x2 : Int32) (S : MS) (post : Int32 → MS → Prop) : Prop := okI yX5_in cX5_in 3 (Option.some Jvm.ClassFile.FieldType.boolean) rM_in (fun o => [.int x0, .int x1, .int x2]) S post
theorem M_in_d : yX5_in.cls ≠ "java/lang/invoke/MethodHandle" ∧ yX5_in.cls ≠ "java/lang/invoke/VarHandle" ∧ (parseMethodDescriptor yX5_in.desc).map (fun d => d.parameters.length) = some 3 := by decide +kernel
def rM_isPiece : Room := { frames := 1, cells := 0, slots := 0, locals := 22 }
def M_isPiece (x1 : Int32) (S : MS) (post : Int32 → MS → Prop) : Prop := okI yX5_isPiece cX5_isPiece 2 (Option.some Jvm.ClassFile.FieldType.boolean) rM_isPiece (fun o => [.ref (o 0), .int x1]) S post
theorem M_isPiece_d : yX5_isPiece.cls = RX5 ∧ yX5_isPiece.cls ≠ "java/lang/invoke/MethodHandle" ∧ yX5_isPiece.cls ≠ "java/lang/invoke/VarHandle" ∧ (parseMethodDescriptor yX5_isPiece.desc).map (fun d => d.parameters.length) = some 1 := by decide +kernel
def rM_isSide : Room := { frames := 2, cells := 0, slots := 0, locals := 43 }
def M_isSide (x1 : Int32) (x2 : Int32) (S : MS) (post : Int32 → MS → Prop) : Prop := okI yX5_isSide cX5_isSide 3 (Option.some Jvm.ClassFile.FieldType.boolean) rM_isSide (fun o => [.ref (o 0), .int x1, .int x2]) S post
theorem M_isSide_d : yX5_isSide.cls = RX5 ∧ yX5_isSide.cls ≠ "java/lang/invoke/MethodHandle" ∧ yX5_isSide.cls ≠ "java/lang/invoke/VarHandle" ∧ (parseMethodDescriptor yX5_isSide.desc).map (fun d => d.parameters.length) = some 2 := by decide +kernel
def rM_edgeOf : Room := { frames := 0, cells := 0, slots := 0, locals := 0 }
def M_edgeOf (x1 : Int32) (x2 : Int32) (S : MS) (post : Int32 → MS → Prop) : Prop := okI yX5_edgeOf cX5_edgeOf 4 (Option.some Jvm.ClassFile.FieldType.int) rM_edgeOf (fun o => [.ref (o 0), .int x1, .int x2]) S post
theorem M_edgeOf_d : yX5_edgeOf.cls = RX5 ∧ yX5_edgeOf.cls ≠ "java/lang/invoke/MethodHandle" ∧ yX5_edgeOf.cls ≠ "java/lang/invoke/VarHandle" ∧ (parseMethodDescriptor yX5_edgeOf.desc).map (fun d => d.parameters.length) = some 2 := by decide +kernel
def rM_endOf : Room := { frames := 1, cells := 0, slots := 0, locals := 23 }
def M_endOf (x1 : Int32) (x2 : Int32) (x3 : Int32) (S : MS) (post : Int32 → MS → Prop) : Prop := okI yX5_endOf cX5_endOf 4 (Option.some Jvm.ClassFile.FieldType.int) rM_endOf (fun o => [.ref (o 0), .int x1, .int x2, .int x3]) S post
theorem M_endOf_d : yX5_endOf.cls = RX5 ∧ yX5_endOf.cls ≠ "java/lang/invoke/MethodHandle" ∧ yX5_endOf.cls ≠ "java/lang/invoke/VarHandle" ∧ (parseMethodDescriptor yX5_endOf.desc).map (fun d => d.parameters.length) = some 3 := by decide +kernel
def rM_lesser : Room := { frames := 0, cells := 0, slots := 0, locals := 0 }
def M_lesser (x0 : Int32) (x1 : Int32) (S : MS) (post : Int32 → MS → Prop) : Prop := okI yX5_lesser cX5_lesser 2 (Option.some Jvm.ClassFile.FieldType.int) rM_lesser (fun o => [.int x0, .int x1]) S post
theorem M_lesser_d : yX5_lesser.cls ≠ "java/lang/invoke/MethodHandle" ∧ yX5_lesser.cls ≠ "java/lang/invoke/VarHandle" ∧ (parseMethodDescriptor yX5_lesser.desc).map (fun d => d.parameters.length) = some 2 := by decide +kernel
def rM_join6 : Room := { frames := 1, cells := 0, slots := 0, locals := 21 }
def M_join6 (x2 : Int32) (x3 : Int32) (S : MS) (post : MS → Prop) : Prop := okV yX5_join cX5_join 5 (Option.none : Option Jvm.ClassFile.FieldType) rM_join6 (fun o => [.ref (o 0), .ref (o 6), .int x2, .int x3]) S post
theorem M_join6_d : yX5_join.cls = RX5 ∧ yX5_join.cls ≠ "java/lang/invoke/MethodHandle" ∧ yX5_join.cls ≠ "java/lang/invoke/VarHandle" ∧ (parseMethodDescriptor yX5_join.desc).map (fun d => d.parameters.length) = some 3 := by decide +kernel
def rM_join7 : Room := { frames := 1, cells := 0, slots := 0, locals := 21 }
def M_join7 (x2 : Int32) (x3 : Int32) (S : MS) (post : MS → Prop) : Prop := okV yX5_join cX5_join 5 (Option.none : Option Jvm.ClassFile.FieldType) rM_join7 (fun o => [.ref (o 0), .ref (o 7), .int x2, .int x3]) S post
theorem M_join7_d : yX5_join.cls = RX5 ∧ yX5_join.cls ≠ "java/lang/invoke/MethodHandle" ∧ yX5_join.cls ≠ "java/lang/invoke/VarHandle" ∧ (parseMethodDescriptor yX5_join.desc).map (fun d => d.parameters.length) = some 3 := by decide +kernel
def rM_join8 : Room := { frames := 1, cells := 0, slots := 0, locals := 21 }
def M_join8 (x2 : Int32) (x3 : Int32) (S : MS) (post : MS → Prop) : Prop := okV yX5_join cX5_join 5 (Option.none : Option Jvm.ClassFile.FieldType) rM_join8 (fun o => [.ref (o 0), .ref (o 8), .int x2, .int x3]) S post
theorem M_join8_d : yX5_join.cls = RX5 ∧ yX5_join.cls ≠ "java/lang/invoke/MethodHandle" ∧ yX5_join.cls ≠ "java/lang/invoke/VarHandle" ∧ (parseMethodDescriptor yX5_join.desc).map (fun d => d.parameters.length) = some 3 := by decide +kernel
def rM_joinSide : Room := { frames := 2, cells := 0, slots := 0, locals := 46 }
def M_joinSide (x1 : Int32) (S : MS) (post : MS → Prop) : Prop := okV yX5_joinSide cX5_joinSide 6 (Option.none : Option Jvm.ClassFile.FieldType) rM_joinSide (fun o => [.ref (o 0), .int x1]) S post
theorem M_joinSide_d : yX5_joinSide.cls = RX5 ∧ yX5_joinSide.cls ≠ "java/lang/invoke/MethodHandle" ∧ yX5_joinSide.cls ≠ "java/lang/invoke/VarHandle" ∧ (parseMethodDescriptor yX5_joinSide.desc).map (fun d => d.parameters.length) = some 1 := by decide +kernel
def rM_label : Room := { frames := 3, cells := 0, slots := 0, locals := 71 }
def M_label (S : MS) (post : MS → Prop) : Prop := okV yX5_label cX5_label 2 (Option.none : Option Jvm.ClassFile.FieldType) rM_label (fun o => [.ref (o 0)]) S post
theorem M_label_d : yX5_label.cls = RX5 ∧ yX5_label.cls ≠ "java/lang/invoke/MethodHandle" ∧ yX5_label.cls ≠ "java/lang/invoke/VarHandle" ∧ (parseMethodDescriptor yX5_label.desc).map (fun d => d.parameters.length) = some 0 := by decide +kernel
def rM_edgeLabel : Room := { frames := 1, cells := 0, slots := 0, locals := 21 }
def M_edgeLabel (x1 : Int32) (x2 : Int32) (S : MS) (post : Int32 → MS → Prop) : Prop := okI yX5_edgeLabel cX5_edgeLabel 3 (Option.some Jvm.ClassFile.FieldType.int) rM_edgeLabel (fun o => [.ref (o 0), .int x1, .int x2]) S post
theorem M_edgeLabel_d : yX5_edgeLabel.cls = RX5 ∧ yX5_edgeLabel.cls ≠ "java/lang/invoke/MethodHandle" ∧ yX5_edgeLabel.cls ≠ "java/lang/invoke/VarHandle" ∧ (parseMethodDescriptor yX5_edgeLabel.desc).map (fun d => d.parameters.length) = some 2 := by decide +kernel
def rM_isFirstEdge : Room := { frames := 2, cells := 0, slots := 0, locals := 43 }
def M_isFirstEdge (x1 : Int32) (S : MS) (post : Int32 → MS → Prop) : Prop := okI yX5_isFirstEdge cX5_isFirstEdge 2 (Option.some Jvm.ClassFile.FieldType.boolean) rM_isFirstEdge (fun o => [.ref (o 0), .int x1]) S post
theorem M_isFirstEdge_d : yX5_isFirstEdge.cls = RX5 ∧ yX5_isFirstEdge.cls ≠ "java/lang/invoke/MethodHandle" ∧ yX5_isFirstEdge.cls ≠ "java/lang/invoke/VarHandle" ∧ (parseMethodDescriptor yX5_isFirstEdge.desc).map (fun d => d.parameters.length) = some 1 := by decide +kernel
def rM_edgeClasses : Room := { frames := 3, cells := 0, slots := 0, locals := 64 }
def M_edgeClasses (S : MS) (post : Int32 → MS → Prop) : Prop := okI yX5_edgeClasses cX5_edgeClasses 3 (Option.some Jvm.ClassFile.FieldType.int) rM_edgeClasses (fun o => [.ref (o 0)]) S post
theorem M_edgeClasses_d : yX5_edgeClasses.cls = RX5 ∧ yX5_edgeClasses.cls ≠ "java/lang/invoke/MethodHandle" ∧ yX5_edgeClasses.cls ≠ "java/lang/invoke/VarHandle" ∧ (parseMethodDescriptor yX5_edgeClasses.desc).map (fun d => d.parameters.length) = some 0 := by decide +kernel
def rM_cornerClasses : Room := { frames := 0, cells := 0, slots := 0, locals := 0 }
def M_cornerClasses (S : MS) (post : Int32 → MS → Prop) : Prop := okI yX5_cornerClasses cX5_cornerClasses 3 (Option.some Jvm.ClassFile.FieldType.int) rM_cornerClasses (fun o => [.ref (o 0)]) S post
theorem M_cornerClasses_d : yX5_cornerClasses.cls = RX5 ∧ yX5_cornerClasses.cls ≠ "java/lang/invoke/MethodHandle" ∧ yX5_cornerClasses.cls ≠ "java/lang/invoke/VarHandle" ∧ (parseMethodDescriptor yX5_cornerClasses.desc).map (fun d => d.parameters.length) = some 0 := by decide +kernel
def rM_edgeOfClass : Room := { frames := 3, cells := 0, slots := 0, locals := 64 }
def M_edgeOfClass (x1 : Int32) (S : MS) (post : Int32 → MS → Prop) : Prop := okI yX5_edgeOfClass cX5_edgeOfClass 4 (Option.some Jvm.ClassFile.FieldType.int) rM_edgeOfClass (fun o => [.ref (o 0), .int x1]) S post
theorem M_edgeOfClass_d : yX5_edgeOfClass.cls = RX5 ∧ yX5_edgeOfClass.cls ≠ "java/lang/invoke/MethodHandle" ∧ yX5_edgeOfClass.cls ≠ "java/lang/invoke/VarHandle" ∧ (parseMethodDescriptor yX5_edgeOfClass.desc).map (fun d => d.parameters.length) = some 1 := by decide +kernel
def rM_cornerOfClass : Room := { frames := 0, cells := 0, slots := 0, locals := 0 }
def M_cornerOfClass (x1 : Int32) (S : MS) (post : Int32 → MS → Prop) : Prop := okI yX5_cornerOfClass cX5_cornerOfClass 4 (Option.some Jvm.ClassFile.FieldType.int) rM_cornerOfClass (fun o => [.ref (o 0), .int x1]) S post
theorem M_cornerOfClass_d : yX5_cornerOfClass.cls = RX5 ∧ yX5_cornerOfClass.cls ≠ "java/lang/invoke/MethodHandle" ∧ yX5_cornerOfClass.cls ≠ "java/lang/invoke/VarHandle" ∧ (parseMethodDescriptor yX5_cornerOfClass.desc).map (fun d => d.parameters.length) = some 1 := by decide +kernel
def rM_isBent : Room := { frames := 0, cells := 0, slots := 0, locals := 0 }
def M_isBent (x1 : Int32) (S : MS) (post : Int32 → MS → Prop) : Prop := okI yX5_isBent cX5_isBent 2 (Option.some Jvm.ClassFile.FieldType.boolean) rM_isBent (fun o => [.ref (o 0), .int x1]) S post
theorem M_isBent_d : yX5_isBent.cls = RX5 ∧ yX5_isBent.cls ≠ "java/lang/invoke/MethodHandle" ∧ yX5_isBent.cls ≠ "java/lang/invoke/VarHandle" ∧ (parseMethodDescriptor yX5_isBent.desc).map (fun d => d.parameters.length) = some 1 := by decide +kernel
def rM_anyBent : Room := { frames := 1, cells := 0, slots := 0, locals := 21 }
def M_anyBent (S : MS) (post : Int32 → MS → Prop) : Prop := okI yX5_anyBent cX5_anyBent 3 (Option.some Jvm.ClassFile.FieldType.boolean) rM_anyBent (fun o => [.ref (o 0)]) S post
theorem M_anyBent_d : yX5_anyBent.cls = RX5 ∧ yX5_anyBent.cls ≠ "java/lang/invoke/MethodHandle" ∧ yX5_anyBent.cls ≠ "java/lang/invoke/VarHandle" ∧ (parseMethodDescriptor yX5_anyBent.desc).map (fun d => d.parameters.length) = some 0 := by decide +kernel
def rM_empty : Room := { frames := 0, cells := 0, slots := 0, locals := 0 }
def M_empty (S : MS) (post : MS → Prop) : Prop := okV yX5_empty cX5_empty 2 (Option.none : Option Jvm.ClassFile.FieldType) rM_empty (fun o => [.ref (o 0)]) S post
theorem M_empty_d : yX5_empty.cls = RX5 ∧ yX5_empty.cls ≠ "java/lang/invoke/MethodHandle" ∧ yX5_empty.cls ≠ "java/lang/invoke/VarHandle" ∧ (parseMethodDescriptor yX5_empty.desc).map (fun d => d.parameters.length) = some 0 := by decide +kernel
def rM_piece : Room := { frames := 1, cells := 0, slots := 0, locals := 21 }
def M_piece (S : MS) (post : Int32 → MS → Prop) : Prop := okI yX5_piece cX5_piece 2 (Option.some Jvm.ClassFile.FieldType.int) rM_piece (fun o => [.ref (o 0)]) S post
theorem M_piece_d : yX5_piece.cls = RX5 ∧ yX5_piece.cls ≠ "java/lang/invoke/MethodHandle" ∧ yX5_piece.cls ≠ "java/lang/invoke/VarHandle" ∧ (parseMethodDescriptor yX5_piece.desc).map (fun d => d.parameters.length) = some 0 := by decide +kernel
def rM_glue : Room := { frames := 3, cells := 0, slots := 0, locals := 65 }
def M_glue (x1 : Int32) (x2 : Int32) (x3 : Int32) (x4 : Int32) (x5 : Int32) (S : MS) (post : Int32 → MS → Prop) : Prop := okI yX5_glue cX5_glue 14 (Option.some Jvm.ClassFile.FieldType.int) rM_glue (fun o => [.ref (o 0), .int x1, .int x2, .int x3, .int x4, .int x5]) S post
theorem M_glue_d : yX5_glue.cls = RX5 ∧ yX5_glue.cls ≠ "java/lang/invoke/MethodHandle" ∧ yX5_glue.cls ≠ "java/lang/invoke/VarHandle" ∧ (parseMethodDescriptor yX5_glue.desc).map (fun d => d.parameters.length) = some 5 := by decide +kernel
def rM_open : Room := { frames := 3, cells := 0, slots := 0, locals := 65 }
def M_open (x1 : Int32) (x2 : Int32) (S : MS) (post : Int32 → MS → Prop) : Prop := okI yX5_open cX5_open 4 (Option.some Jvm.ClassFile.FieldType.int) rM_open (fun o => [.ref (o 0), .int x1, .int x2]) S post
theorem M_open_d : yX5_open.cls = RX5 ∧ yX5_open.cls ≠ "java/lang/invoke/MethodHandle" ∧ yX5_open.cls ≠ "java/lang/invoke/VarHandle" ∧ (parseMethodDescriptor yX5_open.desc).map (fun d => d.parameters.length) = some 2 := by decide +kernel
def rM_clear : Room := { frames := 1, cells := 0, slots := 0, locals := 21 }
def M_clear (S : MS) (post : Int32 → MS → Prop) : Prop := okI yX5_clear cX5_clear 2 (Option.some Jvm.ClassFile.FieldType.int) rM_clear (fun o => [.ref (o 0)]) S post
theorem M_clear_d : yX5_clear.cls = RX5 ∧ yX5_clear.cls ≠ "java/lang/invoke/MethodHandle" ∧ yX5_clear.cls ≠ "java/lang/invoke/VarHandle" ∧ (parseMethodDescriptor yX5_clear.desc).map (fun d => d.parameters.length) = some 0 := by decide +kernel
def rM_across : Room := { frames := 3, cells := 0, slots := 0, locals := 65 }
def M_across (x1 : Int32) (x2 : Int32) (x3 : Int32) (S : MS) (post : Int32 → MS → Prop) : Prop := okI yX5_across cX5_across 5 (Option.some Jvm.ClassFile.FieldType.int) rM_across (fun o => [.ref (o 0), .int x1, .int x2, .int x3]) S post
theorem M_across_d : yX5_across.cls = RX5 ∧ yX5_across.cls ≠ "java/lang/invoke/MethodHandle" ∧ yX5_across.cls ≠ "java/lang/invoke/VarHandle" ∧ (parseMethodDescriptor yX5_across.desc).map (fun d => d.parameters.length) = some 3 := by decide +kernel
def rM_classOf : Room := { frames := 4, cells := 0, slots := 0, locals := 92 }
def M_classOf (x1 : Int32) (x2 : Int32) (x3 : Int32) (S : MS) (post : Int32 → MS → Prop) : Prop := okI yX5_classOf cX5_classOf 6 (Option.some Jvm.ClassFile.FieldType.int) rM_classOf (fun o => [.ref (o 0), .int x1, .int x2, .int x3]) S post
theorem M_classOf_d : yX5_classOf.cls = RX5 ∧ yX5_classOf.cls ≠ "java/lang/invoke/MethodHandle" ∧ yX5_classOf.cls ≠ "java/lang/invoke/VarHandle" ∧ (parseMethodDescriptor yX5_classOf.desc).map (fun d => d.parameters.length) = some 3 := by decide +kernel
def rM_bent : Room := { frames := 4, cells := 0, slots := 0, locals := 92 }
def M_bent (x1 : Int32) (S : MS) (post : Int32 → MS → Prop) : Prop := okI yX5_bent cX5_bent 3 (Option.some Jvm.ClassFile.FieldType.int) rM_bent (fun o => [.ref (o 0), .int x1]) S post
theorem M_bent_d : yX5_bent.cls = RX5 ∧ yX5_bent.cls ≠ "java/lang/invoke/MethodHandle" ∧ yX5_bent.cls ≠ "java/lang/invoke/VarHandle" ∧ (parseMethodDescriptor yX5_bent.desc).map (fun d => d.parameters.length) = some 1 := by decide +kernel
def rM_linkOf : Room := { frames := 2, cells := 0, slots := 0, locals := 46 }
def M_linkOf (x1 : Int32) (S : MS) (post : Int32 → MS → Prop) : Prop := okI yX5_linkOf cX5_linkOf 10 (Option.some Jvm.ClassFile.FieldType.int) rM_linkOf (fun o => [.ref (o 0), .int x1]) S post
theorem M_linkOf_d : yX5_linkOf.cls = RX5 ∧ yX5_linkOf.cls ≠ "java/lang/invoke/MethodHandle" ∧ yX5_linkOf.cls ≠ "java/lang/invoke/VarHandle" ∧ (parseMethodDescriptor yX5_linkOf.desc).map (fun d => d.parameters.length) = some 1 := by decide +kernel
def rM_link : Room := { frames := 4, cells := 0, slots := 0, locals := 92 }
def M_link (x1 : Int32) (S : MS) (post : Int32 → MS → Prop) : Prop := okI yX5_link cX5_link 3 (Option.some Jvm.ClassFile.FieldType.int) rM_link (fun o => [.ref (o 0), .int x1]) S post
theorem M_link_d : yX5_link.cls = RX5 ∧ yX5_link.cls ≠ "java/lang/invoke/MethodHandle" ∧ yX5_link.cls ≠ "java/lang/invoke/VarHandle" ∧ (parseMethodDescriptor yX5_link.desc).map (fun d => d.parameters.length) = some 1 := by decide +kernel
def rM_sides : Room := { frames := 0, cells := 0, slots := 0, locals := 0 }
def M_sides (x1 : Int32) (S : MS) (post : Int32 → MS → Prop) : Prop := okI yX5_sides cX5_sides 4 (Option.some Jvm.ClassFile.FieldType.int) rM_sides (fun o => [.ref (o 0), .int x1]) S post
theorem M_sides_d : yX5_sides.cls = RX5 ∧ yX5_sides.cls ≠ "java/lang/invoke/MethodHandle" ∧ yX5_sides.cls ≠ "java/lang/invoke/VarHandle" ∧ (parseMethodDescriptor yX5_sides.desc).map (fun d => d.parameters.length) = some 1 := by decide +kernel
def rM_isWhole : Room := { frames := 3, cells := 0, slots := 0, locals := 75 }
def M_isWhole (S : MS) (post : Int32 → MS → Prop) : Prop := okI yX5_isWhole cX5_isWhole 3 (Option.some Jvm.ClassFile.FieldType.boolean) rM_isWhole (fun o => [.ref (o 0)]) S post
theorem M_isWhole_d : yX5_isWhole.cls = RX5 ∧ yX5_isWhole.cls ≠ "java/lang/invoke/MethodHandle" ∧ yX5_isWhole.cls ≠ "java/lang/invoke/VarHandle" ∧ (parseMethodDescriptor yX5_isWhole.desc).map (fun d => d.parameters.length) = some 0 := by decide +kernel
def rM_isEvenChange : Room := { frames := 0, cells := 0, slots := 0, locals := 0 }
def M_isEvenChange (x1 : Int32) (S : MS) (post : Int32 → MS → Prop) : Prop := okI yX5_isEvenChange cX5_isEvenChange 5 (Option.some Jvm.ClassFile.FieldType.boolean) rM_isEvenChange (fun o => [.ref (o 0), .int x1]) S post
theorem M_isEvenChange_d : yX5_isEvenChange.cls = RX5 ∧ yX5_isEvenChange.cls ≠ "java/lang/invoke/MethodHandle" ∧ yX5_isEvenChange.cls ≠ "java/lang/invoke/VarHandle" ∧ (parseMethodDescriptor yX5_isEvenChange.desc).map (fun d => d.parameters.length) = some 1 := by decide +kernel
def rM_isEven : Room := { frames := 1, cells := 0, slots := 0, locals := 24 }
def M_isEven (S : MS) (post : Int32 → MS → Prop) : Prop := okI yX5_isEven cX5_isEven 5 (Option.some Jvm.ClassFile.FieldType.boolean) rM_isEven (fun o => [.ref (o 0)]) S post
theorem M_isEven_d : yX5_isEven.cls = RX5 ∧ yX5_isEven.cls ≠ "java/lang/invoke/MethodHandle" ∧ yX5_isEven.cls ≠ "java/lang/invoke/VarHandle" ∧ (parseMethodDescriptor yX5_isEven.desc).map (fun d => d.parameters.length) = some 0 := by decide +kernel
def rM_setMany : Room := { frames := 0, cells := 0, slots := 0, locals := 0 }
def M_setMany (S : MS) (post : Int32 → MS → Prop) : Prop := okI yX5_setMany cX5_setMany 3 (Option.some Jvm.ClassFile.FieldType.int) rM_setMany (fun o => [.ref (o 0)]) S post
theorem M_setMany_d : yX5_setMany.cls = RX5 ∧ yX5_setMany.cls ≠ "java/lang/invoke/MethodHandle" ∧ yX5_setMany.cls ≠ "java/lang/invoke/VarHandle" ∧ (parseMethodDescriptor yX5_setMany.desc).map (fun d => d.parameters.length) = some 0 := by decide +kernel
def rM_count : Room := { frames := 4, cells := 0, slots := 0, locals := 97 }
def M_count (x1 : Int32) (S : MS) (post : Int32 → MS → Prop) : Prop := okI yX5_count cX5_count 2 (Option.some Jvm.ClassFile.FieldType.int) rM_count (fun o => [.ref (o 0), .int x1]) S post
theorem M_count_d : yX5_count.cls = RX5 ∧ yX5_count.cls ≠ "java/lang/invoke/MethodHandle" ∧ yX5_count.cls ≠ "java/lang/invoke/VarHandle" ∧ (parseMethodDescriptor yX5_count.desc).map (fun d => d.parameters.length) = some 1 := by decide +kernel
def rM_findPairs : Room := { frames := 0, cells := 0, slots := 0, locals := 0 }
def M_findPairs (S : MS) (post : MS → Prop) : Prop := okV yX5_findPairs cX5_findPairs 2 (Option.none : Option Jvm.ClassFile.FieldType) rM_findPairs (fun o => [.ref (o 0)]) S post
theorem M_findPairs_d : yX5_findPairs.cls = RX5 ∧ yX5_findPairs.cls ≠ "java/lang/invoke/MethodHandle" ∧ yX5_findPairs.cls ≠ "java/lang/invoke/VarHandle" ∧ (parseMethodDescriptor yX5_findPairs.desc).map (fun d => d.parameters.length) = some 0 := by decide +kernel
def rM_goAround : Room := { frames := 0, cells := 0, slots := 0, locals := 0 }
def M_goAround (x1 : Int32) (S : MS) (post : Int32 → MS → Prop) : Prop := okI yX5_goAround cX5_goAround 14 (Option.some Jvm.ClassFile.FieldType.boolean) rM_goAround (fun o => [.ref (o 0), .int x1]) S post
theorem M_goAround_d : yX5_goAround.cls = RX5 ∧ yX5_goAround.cls ≠ "java/lang/invoke/MethodHandle" ∧ yX5_goAround.cls ≠ "java/lang/invoke/VarHandle" ∧ (parseMethodDescriptor yX5_goAround.desc).map (fun d => d.parameters.length) = some 1 := by decide +kernel
def rM_layLoops : Room := { frames := 3, cells := 0, slots := 0, locals := 64 }
def M_layLoops (S : MS) (post : MS → Prop) : Prop := okV yX5_layLoops cX5_layLoops 2 (Option.none : Option Jvm.ClassFile.FieldType) rM_layLoops (fun o => [.ref (o 0)]) S post
theorem M_layLoops_d : yX5_layLoops.cls = RX5 ∧ yX5_layLoops.cls ≠ "java/lang/invoke/MethodHandle" ∧ yX5_layLoops.cls ≠ "java/lang/invoke/VarHandle" ∧ (parseMethodDescriptor yX5_layLoops.desc).map (fun d => d.parameters.length) = some 0 := by decide +kernel
def rM_cell : Room := { frames := 0, cells := 0, slots := 0, locals := 0 }
def M_cell (x1 : Int32) (x2 : Int32) (S : MS) (post : Int64 → MS → Prop) : Prop := okL yX5_cell cX5_cell 3 (Option.some Jvm.ClassFile.FieldType.long) rM_cell (fun o => [.ref (o 0), .int x1, .int x2]) S post
theorem M_cell_d : yX5_cell.cls = RX5 ∧ yX5_cell.cls ≠ "java/lang/invoke/MethodHandle" ∧ yX5_cell.cls ≠ "java/lang/invoke/VarHandle" ∧ (parseMethodDescriptor yX5_cell.desc).map (fun d => d.parameters.length) = some 2 := by decide +kernel
def rM_bring : Room := { frames := 1, cells := 0, slots := 0, locals := 22 }
def M_bring (x1 : Int32) (S : MS) (post : Int32 → MS → Prop) : Prop := okI yX5_bring cX5_bring 10 (Option.some Jvm.ClassFile.FieldType.boolean) rM_bring (fun o => [.ref (o 0), .int x1]) S post
theorem M_bring_d : yX5_bring.cls = RX5 ∧ yX5_bring.cls ≠ "java/lang/invoke/MethodHandle" ∧ yX5_bring.cls ≠ "java/lang/invoke/VarHandle" ∧ (parseMethodDescriptor yX5_bring.desc).map (fun d => d.parameters.length) = some 1 := by decide +kernel
def rM_reduce : Room := { frames := 1, cells := 0, slots := 0, locals := 22 }
def M_reduce (x1 : Int32) (S : MS) (post : Int32 → MS → Prop) : Prop := okI yX5_reduce cX5_reduce 7 (Option.some Jvm.ClassFile.FieldType.boolean) rM_reduce (fun o => [.ref (o 0), .int x1]) S post
theorem M_reduce_d : yX5_reduce.cls = RX5 ∧ yX5_reduce.cls ≠ "java/lang/invoke/MethodHandle" ∧ yX5_reduce.cls ≠ "java/lang/invoke/VarHandle" ∧ (parseMethodDescriptor yX5_reduce.desc).map (fun d => d.parameters.length) = some 1 := by decide +kernel
def rM_holes : Room := { frames := 4, cells := 0, slots := 0, locals := 92 }
def M_holes (x1 : Int32) (S : MS) (post : Int32 → MS → Prop) : Prop := okI yX5_holes cX5_holes 7 (Option.some Jvm.ClassFile.FieldType.int) rM_holes (fun o => [.ref (o 0), .int x1]) S post
theorem M_holes_d : yX5_holes.cls = RX5 ∧ yX5_holes.cls ≠ "java/lang/invoke/MethodHandle" ∧ yX5_holes.cls ≠ "java/lang/invoke/VarHandle" ∧ (parseMethodDescriptor yX5_holes.desc).map (fun d => d.parameters.length) = some 1 := by decide +kernel
def rM_kindOf : Room := { frames := 0, cells := 0, slots := 0, locals := 0 }
def M_kindOf (x0 : Int32) (x1 : Int32) (S : MS) (post : Int32 → MS → Prop) : Prop := okI yX5_kindOf cX5_kindOf 3 (Option.some Jvm.ClassFile.FieldType.int) rM_kindOf (fun o => [.int x0, .int x1]) S post
theorem M_kindOf_d : yX5_kindOf.cls ≠ "java/lang/invoke/MethodHandle" ∧ yX5_kindOf.cls ≠ "java/lang/invoke/VarHandle" ∧ (parseMethodDescriptor yX5_kindOf.desc).map (fun d => d.parameters.length) = some 2 := by decide +kernel
def rM_layEquation : Room := { frames := 1, cells := 0, slots := 0, locals := 22 }
def M_layEquation (x1 : Int32) (x2 : Int32) (S : MS) (post : MS → Prop) : Prop := okV yX5_layEquation cX5_layEquation 7 (Option.none : Option Jvm.ClassFile.FieldType) rM_layEquation (fun o => [.ref (o 0), .int x1, .int x2]) S post
theorem M_layEquation_d : yX5_layEquation.cls = RX5 ∧ yX5_layEquation.cls ≠ "java/lang/invoke/MethodHandle" ∧ yX5_layEquation.cls ≠ "java/lang/invoke/VarHandle" ∧ (parseMethodDescriptor yX5_layEquation.desc).map (fun d => d.parameters.length) = some 2 := by decide +kernel
def rM_side : Room := { frames := 0, cells := 0, slots := 0, locals := 0 }
def M_side (x1 : Int32) (S : MS) (post : Int32 → MS → Prop) : Prop := okI yX5_side cX5_side 4 (Option.some Jvm.ClassFile.FieldType.int) rM_side (fun o => [.ref (o 0), .int x1]) S post
theorem M_side_d : yX5_side.cls = RX5 ∧ yX5_side.cls ≠ "java/lang/invoke/MethodHandle" ∧ yX5_side.cls ≠ "java/lang/invoke/VarHandle" ∧ (parseMethodDescriptor yX5_side.desc).map (fun d => d.parameters.length) = some 1 := by decide +kernel
def rM_supportOf : Room := { frames := 0, cells := 0, slots := 0, locals := 0 }
def M_supportOf (x1 : Int32) (S : MS) (post : Int32 → MS → Prop) : Prop := okI yX5_supportOf cX5_supportOf 4 (Option.some Jvm.ClassFile.FieldType.int) rM_supportOf (fun o => [.ref (o 0), .int x1]) S post
theorem M_supportOf_d : yX5_supportOf.cls = RX5 ∧ yX5_supportOf.cls ≠ "java/lang/invoke/MethodHandle" ∧ yX5_supportOf.cls ≠ "java/lang/invoke/VarHandle" ∧ (parseMethodDescriptor yX5_supportOf.desc).map (fun d => d.parameters.length) = some 1 := by decide +kernel
def rM_hasOneKind : Room := { frames := 0, cells := 0, slots := 0, locals := 0 }
def M_hasOneKind (x1 : Int32) (S : MS) (post : Int32 → MS → Prop) : Prop := okI yX5_hasOneKind cX5_hasOneKind 5 (Option.some Jvm.ClassFile.FieldType.boolean) rM_hasOneKind (fun o => [.ref (o 0), .int x1]) S post
theorem M_hasOneKind_d : yX5_hasOneKind.cls = RX5 ∧ yX5_hasOneKind.cls ≠ "java/lang/invoke/MethodHandle" ∧ yX5_hasOneKind.cls ≠ "java/lang/invoke/VarHandle" ∧ (parseMethodDescriptor yX5_hasOneKind.desc).map (fun d => d.parameters.length) = some 1 := by decide +kernel
def rM_areBeside : Room := { frames := 1, cells := 0, slots := 0, locals := 23 }
def M_areBeside (x1 : Int32) (x2 : Int32) (x3 : Int32) (S : MS) (post : Int32 → MS → Prop) : Prop := okI yX5_areBeside cX5_areBeside 6 (Option.some Jvm.ClassFile.FieldType.boolean) rM_areBeside (fun o => [.ref (o 0), .int x1, .int x2, .int x3]) S post
theorem M_areBeside_d : yX5_areBeside.cls = RX5 ∧ yX5_areBeside.cls ≠ "java/lang/invoke/MethodHandle" ∧ yX5_areBeside.cls ≠ "java/lang/invoke/VarHandle" ∧ (parseMethodDescriptor yX5_areBeside.desc).map (fun d => d.parameters.length) = some 3 := by decide +kernel
def rM_divisor : Room := { frames := 0, cells := 0, slots := 0, locals := 0 }
def M_divisor (x0 : Int32) (x1 : Int32) (S : MS) (post : Int32 → MS → Prop) : Prop := okI yX5_divisor cX5_divisor 5 (Option.some Jvm.ClassFile.FieldType.int) rM_divisor (fun o => [.int x0, .int x1]) S post
theorem M_divisor_d : yX5_divisor.cls ≠ "java/lang/invoke/MethodHandle" ∧ yX5_divisor.cls ≠ "java/lang/invoke/VarHandle" ∧ (parseMethodDescriptor yX5_divisor.desc).map (fun d => d.parameters.length) = some 2 := by decide +kernel
def rM_layRay : Room := { frames := 1, cells := 0, slots := 0, locals := 24 }
def M_layRay (x1 : Int32) (x2 : Int32) (x3 : Int32) (x4 : Int32) (S : MS) (post : MS → Prop) : Prop := okV yX5_layRay cX5_layRay 8 (Option.none : Option Jvm.ClassFile.FieldType) rM_layRay (fun o => [.ref (o 0), .int x1, .int x2, .int x3, .int x4]) S post
theorem M_layRay_d : yX5_layRay.cls = RX5 ∧ yX5_layRay.cls ≠ "java/lang/invoke/MethodHandle" ∧ yX5_layRay.cls ≠ "java/lang/invoke/VarHandle" ∧ (parseMethodDescriptor yX5_layRay.desc).map (fun d => d.parameters.length) = some 4 := by decide +kernel
def rM_meet : Room := { frames := 2, cells := 0, slots := 0, locals := 51 }
def M_meet (S : MS) (post : MS → Prop) : Prop := okV yX5_meet cX5_meet 6 (Option.none : Option Jvm.ClassFile.FieldType) rM_meet (fun o => [.ref (o 0)]) S post
theorem M_meet_d : yX5_meet.cls = RX5 ∧ yX5_meet.cls ≠ "java/lang/invoke/MethodHandle" ∧ yX5_meet.cls ≠ "java/lang/invoke/VarHandle" ∧ (parseMethodDescriptor yX5_meet.desc).map (fun d => d.parameters.length) = some 0 := by decide +kernel
def rM_isBefore : Room := { frames := 0, cells := 0, slots := 0, locals := 0 }
def M_isBefore (x1 : Int32) (x2 : Int32) (S : MS) (post : Int32 → MS → Prop) : Prop := okI yX5_isBefore cX5_isBefore 4 (Option.some Jvm.ClassFile.FieldType.boolean) rM_isBefore (fun o => [.ref (o 0), .int x1, .int x2]) S post
theorem M_isBefore_d : yX5_isBefore.cls = RX5 ∧ yX5_isBefore.cls ≠ "java/lang/invoke/MethodHandle" ∧ yX5_isBefore.cls ≠ "java/lang/invoke/VarHandle" ∧ (parseMethodDescriptor yX5_isBefore.desc).map (fun d => d.parameters.length) = some 2 := by decide +kernel
def rM_swap : Room := { frames := 0, cells := 0, slots := 0, locals := 0 }
def M_swap (x1 : Int32) (x2 : Int32) (S : MS) (post : MS → Prop) : Prop := okV yX5_swap cX5_swap 5 (Option.none : Option Jvm.ClassFile.FieldType) rM_swap (fun o => [.ref (o 0), .int x1, .int x2]) S post
theorem M_swap_d : yX5_swap.cls = RX5 ∧ yX5_swap.cls ≠ "java/lang/invoke/MethodHandle" ∧ yX5_swap.cls ≠ "java/lang/invoke/VarHandle" ∧ (parseMethodDescriptor yX5_swap.desc).map (fun d => d.parameters.length) = some 2 := by decide +kernel
def rM_findLeast : Room := { frames := 3, cells := 0, slots := 0, locals := 76 }
def M_findLeast (S : MS) (post : MS → Prop) : Prop := okV yX5_findLeast cX5_findLeast 3 (Option.none : Option Jvm.ClassFile.FieldType) rM_findLeast (fun o => [.ref (o 0)]) S post
theorem M_findLeast_d : yX5_findLeast.cls = RX5 ∧ yX5_findLeast.cls ≠ "java/lang/invoke/MethodHandle" ∧ yX5_findLeast.cls ≠ "java/lang/invoke/VarHandle" ∧ (parseMethodDescriptor yX5_findLeast.desc).map (fun d => d.parameters.length) = some 0 := by decide +kernel
def rM_least : Room := { frames := 4, cells := 0, slots := 0, locals := 98 }
def M_least (S : MS) (post : Int32 → MS → Prop) : Prop := okI yX5_least cX5_least 1 (Option.some Jvm.ClassFile.FieldType.int) rM_least (fun o => [.ref (o 0)]) S post
theorem M_least_d : yX5_least.cls = RX5 ∧ yX5_least.cls ≠ "java/lang/invoke/MethodHandle" ∧ yX5_least.cls ≠ "java/lang/invoke/VarHandle" ∧ (parseMethodDescriptor yX5_least.desc).map (fun d => d.parameters.length) = some 0 := by decide +kernel
def rM_number : Room := { frames := 4, cells := 0, slots := 0, locals := 98 }
def M_number (x1 : Int32) (x2 : Int32) (S : MS) (post : Int32 → MS → Prop) : Prop := okI yX5_number cX5_number 3 (Option.some Jvm.ClassFile.FieldType.int) rM_number (fun o => [.ref (o 0), .int x1, .int x2]) S post
theorem M_number_d : yX5_number.cls = RX5 ∧ yX5_number.cls ≠ "java/lang/invoke/MethodHandle" ∧ yX5_number.cls ≠ "java/lang/invoke/VarHandle" ∧ (parseMethodDescriptor yX5_number.desc).map (fun d => d.parameters.length) = some 2 := by decide +kernel
def rM_put : Room := { frames := 1, cells := 0, slots := 0, locals := 22 }
def M_put (x1 : Int32) (x2 : Int32) (S : MS) (post : Int32 → MS → Prop) : Prop := okI yX5_put cX5_put 4 (Option.some Jvm.ClassFile.FieldType.int) rM_put (fun o => [.ref (o 0), .int x1, .int x2]) S post
theorem M_put_d : yX5_put.cls = RX5 ∧ yX5_put.cls ≠ "java/lang/invoke/MethodHandle" ∧ yX5_put.cls ≠ "java/lang/invoke/VarHandle" ∧ (parseMethodDescriptor yX5_put.desc).map (fun d => d.parameters.length) = some 2 := by decide +kernel
def rM_add : Room := { frames := 4, cells := 0, slots := 0, locals := 98 }
def M_add (x1 : Int32) (x2 : Int32) (S : MS) (post : Int32 → MS → Prop) : Prop := okI yX5_add cX5_add 4 (Option.some Jvm.ClassFile.FieldType.int) rM_add (fun o => [.ref (o 0), .int x1, .int x2]) S post
theorem M_add_d : yX5_add.cls = RX5 ∧ yX5_add.cls ≠ "java/lang/invoke/MethodHandle" ∧ yX5_add.cls ≠ "java/lang/invoke/VarHandle" ∧ (parseMethodDescriptor yX5_add.desc).map (fun d => d.parameters.length) = some 2 := by decide +kernel
def rM_drop : Room := { frames := 1, cells := 0, slots := 0, locals := 21 }
def M_drop (S : MS) (post : Int32 → MS → Prop) : Prop := okI yX5_drop cX5_drop 3 (Option.some Jvm.ClassFile.FieldType.int) rM_drop (fun o => [.ref (o 0)]) S post
theorem M_drop_d : yX5_drop.cls = RX5 ∧ yX5_drop.cls ≠ "java/lang/invoke/MethodHandle" ∧ yX5_drop.cls ≠ "java/lang/invoke/VarHandle" ∧ (parseMethodDescriptor yX5_drop.desc).map (fun d => d.parameters.length) = some 0 := by decide +kernel
def rM_arcs : Room := { frames := 1, cells := 0, slots := 0, locals := 22 }
def M_arcs (x1 : Int32) (x2 : Int32) (x3 : Int32) (S : MS) (post : Int32 → MS → Prop) : Prop := okI yX5_arcs cX5_arcs 4 (Option.some Jvm.ClassFile.FieldType.int) rM_arcs (fun o => [.ref (o 0), .int x1, .int x2, .int x3]) S post
theorem M_arcs_d : yX5_arcs.cls = RX5 ∧ yX5_arcs.cls ≠ "java/lang/invoke/MethodHandle" ∧ yX5_arcs.cls ≠ "java/lang/invoke/VarHandle" ∧ (parseMethodDescriptor yX5_arcs.desc).map (fun d => d.parameters.length) = some 3 := by decide +kernel
def rM_legal : Room := { frames := 2, cells := 0, slots := 0, locals := 45 }
def M_legal (S : MS) (post : Int32 → MS → Prop) : Prop := okI yX5_legal cX5_legal 3 (Option.some Jvm.ClassFile.FieldType.int) rM_legal (fun o => [.ref (o 0)]) S post
theorem M_legal_d : yX5_legal.cls = RX5 ∧ yX5_legal.cls ≠ "java/lang/invoke/MethodHandle" ∧ yX5_legal.cls ≠ "java/lang/invoke/VarHandle" ∧ (parseMethodDescriptor yX5_legal.desc).map (fun d => d.parameters.length) = some 0 := by decide +kernel
def rM_meets : Room := { frames := 1, cells := 0, slots := 0, locals := 22 }
def M_meets (x1 : Int32) (x2 : Int32) (S : MS) (post : Int32 → MS → Prop) : Prop := okI yX5_meets cX5_meets 3 (Option.some Jvm.ClassFile.FieldType.boolean) rM_meets (fun o => [.ref (o 0), .int x1, .int x2]) S post
theorem M_meets_d : yX5_meets.cls = RX5 ∧ yX5_meets.cls ≠ "java/lang/invoke/MethodHandle" ∧ yX5_meets.cls ≠ "java/lang/invoke/VarHandle" ∧ (parseMethodDescriptor yX5_meets.desc).map (fun d => d.parameters.length) = some 2 := by decide +kernel
def rM_euler : Room := { frames := 4, cells := 0, slots := 0, locals := 92 }
def M_euler (S : MS) (post : Int32 → MS → Prop) : Prop := okI yX5_euler cX5_euler 4 (Option.some Jvm.ClassFile.FieldType.int) rM_euler (fun o => [.ref (o 0)]) S post
theorem M_euler_d : yX5_euler.cls = RX5 ∧ yX5_euler.cls ≠ "java/lang/invoke/MethodHandle" ∧ yX5_euler.cls ≠ "java/lang/invoke/VarHandle" ∧ (parseMethodDescriptor yX5_euler.desc).map (fun d => d.parameters.length) = some 0 := by decide +kernel
def rM_cutAt : Room := { frames := 1, cells := 0, slots := 0, locals := 22 }
def M_cutAt (x1 : Int32) (x2 : Int32) (x3 : Int32) (S : MS) (post : Int32 → MS → Prop) : Prop := okI yX5_cutAt cX5_cutAt 9 (Option.some Jvm.ClassFile.FieldType.int) rM_cutAt (fun o => [.ref (o 0), .int x1, .int x2, .int x3]) S post
theorem M_cutAt_d : yX5_cutAt.cls = RX5 ∧ yX5_cutAt.cls ≠ "java/lang/invoke/MethodHandle" ∧ yX5_cutAt.cls ≠ "java/lang/invoke/VarHandle" ∧ (parseMethodDescriptor yX5_cutAt.desc).map (fun d => d.parameters.length) = some 3 := by decide +kernel
def rM_looks : Room := { frames := 0, cells := 0, slots := 0, locals := 0 }
def M_looks (x1 : Int32) (x2 : Int32) (x3 : Int32) (S : MS) (post : Int32 → MS → Prop) : Prop := okI yX5_looks cX5_looks 4 (Option.some Jvm.ClassFile.FieldType.boolean) rM_looks (fun o => [.ref (o 0), .int x1, .int x2, .int x3]) S post
theorem M_looks_d : yX5_looks.cls = RX5 ∧ yX5_looks.cls ≠ "java/lang/invoke/MethodHandle" ∧ yX5_looks.cls ≠ "java/lang/invoke/VarHandle" ∧ (parseMethodDescriptor yX5_looks.desc).map (fun d => d.parameters.length) = some 3 := by decide +kernel
def rM_sortOf : Room := { frames := 0, cells := 0, slots := 0, locals := 0 }
def M_sortOf (x1 : Int32) (S : MS) (post : Int32 → MS → Prop) : Prop := okI yX5_sortOf cX5_sortOf 3 (Option.some Jvm.ClassFile.FieldType.int) rM_sortOf (fun o => [.ref (o 0), .int x1]) S post
theorem M_sortOf_d : yX5_sortOf.cls = RX5 ∧ yX5_sortOf.cls ≠ "java/lang/invoke/MethodHandle" ∧ yX5_sortOf.cls ≠ "java/lang/invoke/VarHandle" ∧ (parseMethodDescriptor yX5_sortOf.desc).map (fun d => d.parameters.length) = some 1 := by decide +kernel
def rM_spread : Room := { frames := 2, cells := 0, slots := 0, locals := 50 }
def M_spread (x1 : Int32) (x2 : Int32) (S : MS) (post : Int32 → MS → Prop) : Prop := okI yX5_spread cX5_spread 11 (Option.some Jvm.ClassFile.FieldType.int) rM_spread (fun o => [.ref (o 0), .int x1, .int x2]) S post
theorem M_spread_d : yX5_spread.cls = RX5 ∧ yX5_spread.cls ≠ "java/lang/invoke/MethodHandle" ∧ yX5_spread.cls ≠ "java/lang/invoke/VarHandle" ∧ (parseMethodDescriptor yX5_spread.desc).map (fun d => d.parameters.length) = some 2 := by decide +kernel
def rM_findParts : Room := { frames := 4, cells := 0, slots := 0, locals := 92 }
def M_findParts (S : MS) (post : Int32 → MS → Prop) : Prop := okI yX5_findParts cX5_findParts 5 (Option.some Jvm.ClassFile.FieldType.int) rM_findParts (fun o => [.ref (o 0)]) S post
theorem M_findParts_d : yX5_findParts.cls = RX5 ∧ yX5_findParts.cls ≠ "java/lang/invoke/MethodHandle" ∧ yX5_findParts.cls ≠ "java/lang/invoke/VarHandle" ∧ (parseMethodDescriptor yX5_findParts.desc).map (fun d => d.parameters.length) = some 0 := by decide +kernel
def rM_parts : Room := { frames := 5, cells := 0, slots := 0, locals := 116 }
def M_parts (S : MS) (post : Int32 → MS → Prop) : Prop := okI yX5_parts cX5_parts 2 (Option.some Jvm.ClassFile.FieldType.int) rM_parts (fun o => [.ref (o 0)]) S post
theorem M_parts_d : yX5_parts.cls = RX5 ∧ yX5_parts.cls ≠ "java/lang/invoke/MethodHandle" ∧ yX5_parts.cls ≠ "java/lang/invoke/VarHandle" ∧ (parseMethodDescriptor yX5_parts.desc).map (fun d => d.parameters.length) = some 0 := by decide +kernel
def rM_cutsOf : Room := { frames := 0, cells := 0, slots := 0, locals := 0 }
def M_cutsOf (x1 : Int32) (S : MS) (post : Int32 → MS → Prop) : Prop := okI yX5_cutsOf cX5_cutsOf 4 (Option.some Jvm.ClassFile.FieldType.int) rM_cutsOf (fun o => [.ref (o 0), .int x1]) S post
theorem M_cutsOf_d : yX5_cutsOf.cls = RX5 ∧ yX5_cutsOf.cls ≠ "java/lang/invoke/MethodHandle" ∧ yX5_cutsOf.cls ≠ "java/lang/invoke/VarHandle" ∧ (parseMethodDescriptor yX5_cutsOf.desc).map (fun d => d.parameters.length) = some 1 := by decide +kernel
def rM_worth : Room := { frames := 3, cells := 0, slots := 0, locals := 64 }
def M_worth (x1 : Int32) (S : MS) (post : Int32 → MS → Prop) : Prop := okI yX5_worth cX5_worth 7 (Option.some Jvm.ClassFile.FieldType.int) rM_worth (fun o => [.ref (o 0), .int x1]) S post
theorem M_worth_d : yX5_worth.cls = RX5 ∧ yX5_worth.cls ≠ "java/lang/invoke/MethodHandle" ∧ yX5_worth.cls ≠ "java/lang/invoke/VarHandle" ∧ (parseMethodDescriptor yX5_worth.desc).map (fun d => d.parameters.length) = some 1 := by decide +kernel
def rM_part : Room := { frames := 5, cells := 0, slots := 0, locals := 116 }
def M_part (x1 : Int32) (x2 : Int32) (S : MS) (post : Int32 → MS → Prop) : Prop := okI yX5_part cX5_part 6 (Option.some Jvm.ClassFile.FieldType.int) rM_part (fun o => [.ref (o 0), .int x1, .int x2]) S post
theorem M_part_d : yX5_part.cls = RX5 ∧ yX5_part.cls ≠ "java/lang/invoke/MethodHandle" ∧ yX5_part.cls ≠ "java/lang/invoke/VarHandle" ∧ (parseMethodDescriptor yX5_part.desc).map (fun d => d.parameters.length) = some 2 := by decide +kernel
theorem MWs_1 {dA : Nat → ClassId} {o : Nat → Nat} {S : MS} {j : Nat} {x : Int32} : (MW dA o S).set 1 (o 1, .inl (dA 1, 12, .inl (upd (S.2.1 1) j x))) = MW dA o (sI S 1 j x) := rfl
theorem MWs_2 {dA : Nat → ClassId} {o : Nat → Nat} {S : MS} {j : Nat} {x : Int32} : (MW dA o S).set 2 (o 2, .inl (dA 2, 48, .inl (upd (S.2.1 2) j x))) = MW dA o (sI S 2 j x) := rfl
theorem MWs_3 {dA : Nat → ClassId} {o : Nat → Nat} {S : MS} {j : Nat} {x : Int32} : (MW dA o S).set 3 (o 3, .inl (dA 3, 21, .inl (upd (S.2.1 3) j x))) = MW dA o (sI S 3 j x) := rfl
theorem MWs_4 {dA : Nat → ClassId} {o : Nat → Nat} {S : MS} {j : Nat} {x : Int32} : (MW dA o S).set 4 (o 4, .inl (dA 4, 6, .inl (upd (S.2.1 4) j x))) = MW dA o (sI S 4 j x) := rfl
theorem MWs_5 {dA : Nat → ClassId} {o : Nat → Nat} {S : MS} {j : Nat} {x : Int32} : (MW dA o S).set 5 (o 5, .inl (dA 5, 6, .inl (upd (S.2.1 5) j x))) = MW dA o (sI S 5 j x) := rfl
theorem MWs_6 {dA : Nat → ClassId} {o : Nat → Nat} {S : MS} {j : Nat} {x : Int32} : (MW dA o S).set 6 (o 6, .inl (dA 6, 36, .inl (upd (S.2.1 6) j x))) = MW dA o (sI S 6 j x) := rfl
theorem MWs_7 {dA : Nat → ClassId} {o : Nat → Nat} {S : MS} {j : Nat} {x : Int32} : (MW dA o S).set 7 (o 7, .inl (dA 7, 12, .inl (upd (S.2.1 7) j x))) = MW dA o (sI S 7 j x) := rfl
theorem MWs_8 {dA : Nat → ClassId} {o : Nat → Nat} {S : MS} {j : Nat} {x : Int32} : (MW dA o S).set 8 (o 8, .inl (dA 8, 3, .inl (upd (S.2.1 8) j x))) = MW dA o (sI S 8 j x) := rfl
theorem MWs_13 {dA : Nat → ClassId} {o : Nat → Nat} {S : MS} {j : Nat} {x : Int32} : (MW dA o S).set 10 (o 13, .inl (dA 13, 12, .inl (upd (S.2.1 13) j x))) = MW dA o (sI S 13 j x) := rfl
theorem MWs_15 {dA : Nat → ClassId} {o : Nat → Nat} {S : MS} {j : Nat} {x : Int32} : (MW dA o S).set 11 (o 15, .inl (dA 15, 42000, .inl (upd (S.2.1 15) j x))) = MW dA o (sI S 15 j x) := rfl
theorem MWs_16 {dA : Nat → ClassId} {o : Nat → Nat} {S : MS} {j : Nat} {x : Int32} : (MW dA o S).set 12 (o 16, .inl (dA 16, 42000, .inl (upd (S.2.1 16) j x))) = MW dA o (sI S 16 j x) := rfl
theorem MWs_17 {dA : Nat → ClassId} {o : Nat → Nat} {S : MS} {j : Nat} {x : Int32} : (MW dA o S).set 13 (o 17, .inl (dA 17, 21, .inl (upd (S.2.1 17) j x))) = MW dA o (sI S 17 j x) := rfl
theorem MWs_20 {dA : Nat → ClassId} {o : Nat → Nat} {S : MS} {j : Nat} {x : Int32} : (MW dA o S).set 14 (o 20, .inl (dA 20, 22, .inl (upd (S.2.1 20) j x))) = MW dA o (sI S 20 j x) := rfl
theorem MWs_21 {dA : Nat → ClassId} {o : Nat → Nat} {S : MS} {j : Nat} {x : Int32} : (MW dA o S).set 15 (o 21, .inl (dA 21, 400, .inl (upd (S.2.1 21) j x))) = MW dA o (sI S 21 j x) := rfl
theorem MWs_22 {dA : Nat → ClassId} {o : Nat → Nat} {S : MS} {j : Nat} {x : Int32} : (MW dA o S).set 16 (o 22, .inl (dA 22, 400, .inl (upd (S.2.1 22) j x))) = MW dA o (sI S 22 j x) := rfl
theorem MWs_23 {dA : Nat → ClassId} {o : Nat → Nat} {S : MS} {j : Nat} {x : Int32} : (MW dA o S).set 17 (o 23, .inl (dA 23, 400, .inl (upd (S.2.1 23) j x))) = MW dA o (sI S 23 j x) := rfl
theorem MWf_0 {dA : Nat → ClassId} {o : Nat → Nat} {S : MS} {x : Int32} : (MW dA o S).set 0 (o 0, .inr (0, (mFs o S).set 0 (.int x))) = MW dA o (sF S 0 x) := rfl
theorem MWf_9 {dA : Nat → ClassId} {o : Nat → Nat} {S : MS} {x : Int32} : (MW dA o S).set 0 (o 0, .inr (0, (mFs o S).set 9 (.int x))) = MW dA o (sF S 9 x) := rfl
theorem MWf_11 {dA : Nat → ClassId} {o : Nat → Nat} {S : MS} {x : Int32} : (MW dA o S).set 0 (o 0, .inr (0, (mFs o S).set 11 (.int x))) = MW dA o (sF S 11 x) := rfl
theorem MWf_12 {dA : Nat → ClassId} {o : Nat → Nat} {S : MS} {x : Int32} : (MW dA o S).set 0 (o 0, .inr (0, (mFs o S).set 12 (.int x))) = MW dA o (sF S 12 x) := rfl
theorem MWf_14 {dA : Nat → ClassId} {o : Nat → Nat} {S : MS} {x : Int32} : (MW dA o S).set 0 (o 0, .inr (0, (mFs o S).set 14 (.int x))) = MW dA o (sF S 14 x) := rfl
theorem MWf_18 {dA : Nat → ClassId} {o : Nat → Nat} {S : MS} {x : Int32} : (MW dA o S).set 0 (o 0, .inr (0, (mFs o S).set 18 (.int x))) = MW dA o (sF S 18 x) := rfl
theorem MWf_19 {dA : Nat → ClassId} {o : Nat → Nat} {S : MS} {x : Int32} : (MW dA o S).set 0 (o 0, .inr (0, (mFs o S).set 19 (.int x))) = MW dA o (sF S 19 x) := rfl
theorem MWf_24 {dA : Nat → ClassId} {o : Nat → Nat} {S : MS} {x : Int32} : (MW dA o S).set 0 (o 0, .inr (0, (mFs o S).set 24 (.int x))) = MW dA o (sF S 24 x) := rfl
/-- a truth value -/
def zok (v : Int32) : Prop := v = 0 ∨ v = 1
theorem zok0 : zok 0 := Or.inl rfl
theorem zok1 : zok 1 := Or.inr rfl
theorem zok_n {v : Int32} (h : zok v) : narrow .boolean (.int v) = .int v := by rcases h with h | h <;> subst h <;> rfl
theorem zok_f {v : Int32} (h : zok v) : fits .boolean (.int v) = true := by rcases h with h | h <;> subst h <;> rfl
theorem zok_v {v : Int32} (h : zok v) : vp_nar .boolean v = v := by rcases h with h | h <;> subst h <;> rfl
