-- ===== PART A: goes FIRST, ahead of the names: the tables' words, and 'selects' of the private methods out of them =====
/-- a private method of a class that the tables say can be made, by its rows of tables_1 -/
def lw_okq (q : MethodName × Nat) : Prop := (q.1.cls ≠ "java/lang/invoke/MethodHandle" ∧ q.1.cls ≠ "java/lang/invoke/VarHandle") ∧ Cond.instantiable q.1.cls q.2 ∈ tables_1 ∧ Cond.privateMethod q.1 ∈ tables_1 ∧ Cond.instanceMethod q.1 ∈ tables_1
set_option maxRecDepth 100000
theorem lw_t1 {w : Cond} (h : w ∈ tables_1_1) : w ∈ tables_1 := List.mem_append_left _ h
theorem lw_t2 {w : Cond} (h : w ∈ tables_1_2) : w ∈ tables_1 := List.mem_append_right _ (List.mem_append_left _ h)
theorem lw_t3 {w : Cond} (h : w ∈ tables_1_3) : w ∈ tables_1 := List.mem_append_right _ (List.mem_append_right _ (List.mem_append_left _ h))
theorem lw_t4 {w : Cond} (h : w ∈ tables_1_4) : w ∈ tables_1 := List.mem_append_right _ (List.mem_append_right _ (List.mem_append_right _ h))
theorem lw_p0 : lw_okq (⟨"ThirdSheets", "changed", "()V"⟩, 19) := ⟨⟨by decide +kernel, by decide +kernel⟩, lw_t1 (List.mem_of_getElem? (i := 12) rfl), lw_t1 (List.mem_of_getElem? (i := 152) rfl), lw_t1 (List.mem_of_getElem? (i := 153) rfl)⟩
theorem lw_p1 : lw_okq (⟨"ThirdSheets", "isPiece", "(I)Z"⟩, 19) := ⟨⟨by decide +kernel, by decide +kernel⟩, lw_t1 (List.mem_of_getElem? (i := 12) rfl), lw_t1 (List.mem_of_getElem? (i := 160) rfl), lw_t1 (List.mem_of_getElem? (i := 161) rfl)⟩
theorem lw_p2 : lw_okq (⟨"ThirdSheets", "isBent", "(I)Z"⟩, 19) := ⟨⟨by decide +kernel, by decide +kernel⟩, lw_t1 (List.mem_of_getElem? (i := 12) rfl), lw_t2 (List.mem_of_getElem? (i := 25) rfl), lw_t2 (List.mem_of_getElem? (i := 26) rfl)⟩
theorem lw_p3 : lw_okq (⟨"ThirdSheets", "linkOf", "(I)I"⟩, 19) := ⟨⟨by decide +kernel, by decide +kernel⟩, lw_t1 (List.mem_of_getElem? (i := 12) rfl), lw_t2 (List.mem_of_getElem? (i := 43) rfl), lw_t2 (List.mem_of_getElem? (i := 44) rfl)⟩
theorem lw_p4 : lw_okq (⟨"ThirdSheets", "pairs", "()I"⟩, 19) := ⟨⟨by decide +kernel, by decide +kernel⟩, lw_t1 (List.mem_of_getElem? (i := 12) rfl), lw_t2 (List.mem_of_getElem? (i := 54) rfl), lw_t2 (List.mem_of_getElem? (i := 55) rfl)⟩
theorem lw_p5 : lw_okq (⟨"ThirdSheets", "openOnes", "()I"⟩, 19) := ⟨⟨by decide +kernel, by decide +kernel⟩, lw_t1 (List.mem_of_getElem? (i := 12) rfl), lw_t2 (List.mem_of_getElem? (i := 58) rfl), lw_t2 (List.mem_of_getElem? (i := 59) rfl)⟩
theorem lw_p6 : lw_okq (⟨"ThirdSheets", "isWhole", "()Z"⟩, 19) := ⟨⟨by decide +kernel, by decide +kernel⟩, lw_t1 (List.mem_of_getElem? (i := 12) rfl), lw_t2 (List.mem_of_getElem? (i := 62) rfl), lw_t2 (List.mem_of_getElem? (i := 63) rfl)⟩
theorem lw_p7 : lw_okq (⟨"ThirdSheets", "hasBent", "()Z"⟩, 19) := ⟨⟨by decide +kernel, by decide +kernel⟩, lw_t1 (List.mem_of_getElem? (i := 12) rfl), lw_t2 (List.mem_of_getElem? (i := 66) rfl), lw_t2 (List.mem_of_getElem? (i := 67) rfl)⟩
theorem lw_p8 : lw_okq (⟨"ThirdSheets", "sets", "()I"⟩, 19) := ⟨⟨by decide +kernel, by decide +kernel⟩, lw_t1 (List.mem_of_getElem? (i := 12) rfl), lw_t2 (List.mem_of_getElem? (i := 70) rfl), lw_t2 (List.mem_of_getElem? (i := 71) rfl)⟩
theorem lw_p9 : lw_okq (⟨"ThirdSheets", "loops", "()I"⟩, 19) := ⟨⟨by decide +kernel, by decide +kernel⟩, lw_t1 (List.mem_of_getElem? (i := 12) rfl), lw_t2 (List.mem_of_getElem? (i := 82) rfl), lw_t2 (List.mem_of_getElem? (i := 83) rfl)⟩
theorem lw_p10 : lw_okq (⟨"ThirdSheets", "goAround", "(I[J)Z"⟩, 19) := ⟨⟨by decide +kernel, by decide +kernel⟩, lw_t1 (List.mem_of_getElem? (i := 12) rfl), lw_t2 (List.mem_of_getElem? (i := 86) rfl), lw_t2 (List.mem_of_getElem? (i := 87) rfl)⟩
theorem lw_p11 : lw_okq (⟨"ThirdSheets", "pairOf", "(II)I"⟩, 19) := ⟨⟨by decide +kernel, by decide +kernel⟩, lw_t1 (List.mem_of_getElem? (i := 12) rfl), lw_t2 (List.mem_of_getElem? (i := 90) rfl), lw_t2 (List.mem_of_getElem? (i := 91) rfl)⟩
theorem lw_p12 : lw_okq (⟨"ThirdSheets", "diagonal", "(I)I"⟩, 19) := ⟨⟨by decide +kernel, by decide +kernel⟩, lw_t1 (List.mem_of_getElem? (i := 12) rfl), lw_t2 (List.mem_of_getElem? (i := 95) rfl), lw_t2 (List.mem_of_getElem? (i := 96) rfl)⟩
theorem lw_p13 : lw_okq (⟨"ThirdSheets", "clean", "(II)Z"⟩, 19) := ⟨⟨by decide +kernel, by decide +kernel⟩, lw_t1 (List.mem_of_getElem? (i := 12) rfl), lw_t2 (List.mem_of_getElem? (i := 99) rfl), lw_t2 (List.mem_of_getElem? (i := 100) rfl)⟩
theorem lw_p14 : lw_okq (⟨"ThirdSheets", "take", "(II)Z"⟩, 19) := ⟨⟨by decide +kernel, by decide +kernel⟩, lw_t1 (List.mem_of_getElem? (i := 12) rfl), lw_t2 (List.mem_of_getElem? (i := 106) rfl), lw_t2 (List.mem_of_getElem? (i := 107) rfl)⟩
theorem lw_p15 : lw_okq (⟨"ThirdSheets", "findSheets", "()V"⟩, 19) := ⟨⟨by decide +kernel, by decide +kernel⟩, lw_t1 (List.mem_of_getElem? (i := 12) rfl), lw_t2 (List.mem_of_getElem? (i := 114) rfl), lw_t2 (List.mem_of_getElem? (i := 115) rfl)⟩
def lw_privs_1 : List (MethodName × Nat) := [(⟨"ThirdSheets", "changed", "()V"⟩, 19), (⟨"ThirdSheets", "isPiece", "(I)Z"⟩, 19), (⟨"ThirdSheets", "isBent", "(I)Z"⟩, 19), (⟨"ThirdSheets", "linkOf", "(I)I"⟩, 19), (⟨"ThirdSheets", "pairs", "()I"⟩, 19), (⟨"ThirdSheets", "openOnes", "()I"⟩, 19), (⟨"ThirdSheets", "isWhole", "()Z"⟩, 19), (⟨"ThirdSheets", "hasBent", "()Z"⟩, 19), (⟨"ThirdSheets", "sets", "()I"⟩, 19), (⟨"ThirdSheets", "loops", "()I"⟩, 19), (⟨"ThirdSheets", "goAround", "(I[J)Z"⟩, 19), (⟨"ThirdSheets", "pairOf", "(II)I"⟩, 19), (⟨"ThirdSheets", "diagonal", "(I)I"⟩, 19), (⟨"ThirdSheets", "clean", "(II)Z"⟩, 19), (⟨"ThirdSheets", "take", "(II)Z"⟩, 19), (⟨"ThirdSheets", "findSheets", "()V"⟩, 19)]
theorem lw_r1 : ∀ q ∈ lw_privs_1, lw_okq q := List.forall_mem_cons.mpr ⟨lw_p0, List.forall_mem_cons.mpr ⟨lw_p1, List.forall_mem_cons.mpr ⟨lw_p2, List.forall_mem_cons.mpr ⟨lw_p3, List.forall_mem_cons.mpr ⟨lw_p4, List.forall_mem_cons.mpr ⟨lw_p5, List.forall_mem_cons.mpr ⟨lw_p6, List.forall_mem_cons.mpr ⟨lw_p7, List.forall_mem_cons.mpr ⟨lw_p8, List.forall_mem_cons.mpr ⟨lw_p9, List.forall_mem_cons.mpr ⟨lw_p10, List.forall_mem_cons.mpr ⟨lw_p11, List.forall_mem_cons.mpr ⟨lw_p12, List.forall_mem_cons.mpr ⟨lw_p13, List.forall_mem_cons.mpr ⟨lw_p14, List.forall_mem_cons.mpr ⟨lw_p15, fun _ h => absurd h List.not_mem_nil⟩⟩⟩⟩⟩⟩⟩⟩⟩⟩⟩⟩⟩⟩⟩⟩
theorem lw_p16 : lw_okq (⟨"ThirdSheets", "keep", "([J)V"⟩, 19) := ⟨⟨by decide +kernel, by decide +kernel⟩, lw_t1 (List.mem_of_getElem? (i := 12) rfl), lw_t2 (List.mem_of_getElem? (i := 118) rfl), lw_t2 (List.mem_of_getElem? (i := 119) rfl)⟩
theorem lw_p17 : lw_okq (⟨"ThirdSheets", "match", "(III)V"⟩, 19) := ⟨⟨by decide +kernel, by decide +kernel⟩, lw_t1 (List.mem_of_getElem? (i := 12) rfl), lw_t2 (List.mem_of_getElem? (i := 125) rfl), lw_t2 (List.mem_of_getElem? (i := 126) rfl)⟩
theorem lw_p18 : lw_okq (⟨"ThirdSheets", "off", "([JIII)J"⟩, 19) := ⟨⟨by decide +kernel, by decide +kernel⟩, lw_t1 (List.mem_of_getElem? (i := 12) rfl), lw_t2 (List.mem_of_getElem? (i := 129) rfl), lw_t2 (List.mem_of_getElem? (i := 130) rfl)⟩
theorem lw_p19 : lw_okq (⟨"ThirdSheets", "isBeside", "(II)Z"⟩, 19) := ⟨⟨by decide +kernel, by decide +kernel⟩, lw_t1 (List.mem_of_getElem? (i := 12) rfl), lw_t2 (List.mem_of_getElem? (i := 136) rfl), lw_t2 (List.mem_of_getElem? (i := 137) rfl)⟩
theorem lw_p20 : lw_okq (⟨"ThirdSheets", "isAlone", "(I)Z"⟩, 19) := ⟨⟨by decide +kernel, by decide +kernel⟩, lw_t1 (List.mem_of_getElem? (i := 12) rfl), lw_t2 (List.mem_of_getElem? (i := 143) rfl), lw_t2 (List.mem_of_getElem? (i := 144) rfl)⟩
theorem lw_p21 : lw_okq (⟨"ThirdSheets", "isNumber", "(I)Z"⟩, 19) := ⟨⟨by decide +kernel, by decide +kernel⟩, lw_t1 (List.mem_of_getElem? (i := 12) rfl), lw_t2 (List.mem_of_getElem? (i := 164) rfl), lw_t2 (List.mem_of_getElem? (i := 165) rfl)⟩
theorem lw_p22 : lw_okq (⟨"ThirdSheets", "arcs", "(III)I"⟩, 19) := ⟨⟨by decide +kernel, by decide +kernel⟩, lw_t1 (List.mem_of_getElem? (i := 12) rfl), lw_t2 (List.mem_of_getElem? (i := 182) rfl), lw_t2 (List.mem_of_getElem? (i := 183) rfl)⟩
theorem lw_p23 : lw_okq (⟨"ThirdSheets", "threes", "(II)I"⟩, 19) := ⟨⟨by decide +kernel, by decide +kernel⟩, lw_t1 (List.mem_of_getElem? (i := 12) rfl), lw_t2 (List.mem_of_getElem? (i := 186) rfl), lw_t2 (List.mem_of_getElem? (i := 187) rfl)⟩
theorem lw_p24 : lw_okq (⟨"ThirdSheets", "fours", "(II)I"⟩, 19) := ⟨⟨by decide +kernel, by decide +kernel⟩, lw_t1 (List.mem_of_getElem? (i := 12) rfl), lw_t2 (List.mem_of_getElem? (i := 190) rfl), lw_t2 (List.mem_of_getElem? (i := 191) rfl)⟩
theorem lw_p25 : lw_okq (⟨"ThirdSheets", "isCounted", "(II)Z"⟩, 19) := ⟨⟨by decide +kernel, by decide +kernel⟩, lw_t1 (List.mem_of_getElem? (i := 12) rfl), lw_t2 (List.mem_of_getElem? (i := 199) rfl), lw_t2 (List.mem_of_getElem? (i := 200) rfl)⟩
theorem lw_p26 : lw_okq (⟨"ThirdSheets", "allCuts", "()I"⟩, 19) := ⟨⟨by decide +kernel, by decide +kernel⟩, lw_t1 (List.mem_of_getElem? (i := 12) rfl), lw_t2 (List.mem_of_getElem? (i := 207) rfl), lw_t2 (List.mem_of_getElem? (i := 208) rfl)⟩
theorem lw_p27 : lw_okq (⟨"ThirdSheets", "findParts", "()I"⟩, 19) := ⟨⟨by decide +kernel, by decide +kernel⟩, lw_t1 (List.mem_of_getElem? (i := 12) rfl), lw_t2 (List.mem_of_getElem? (i := 211) rfl), lw_t2 (List.mem_of_getElem? (i := 212) rfl)⟩
theorem lw_p28 : lw_okq (⟨"ThirdSheets", "spread", "(II)V"⟩, 19) := ⟨⟨by decide +kernel, by decide +kernel⟩, lw_t1 (List.mem_of_getElem? (i := 12) rfl), lw_t2 (List.mem_of_getElem? (i := 215) rfl), lw_t2 (List.mem_of_getElem? (i := 216) rfl)⟩
theorem lw_p29 : lw_okq (⟨"ThirdSheets", "kindOfCut", "(I)I"⟩, 19) := ⟨⟨by decide +kernel, by decide +kernel⟩, lw_t1 (List.mem_of_getElem? (i := 12) rfl), lw_t2 (List.mem_of_getElem? (i := 219) rfl), lw_t2 (List.mem_of_getElem? (i := 220) rfl)⟩
theorem lw_p30 : lw_okq (⟨"ThirdSheets", "beyond", "(IIII)I"⟩, 19) := ⟨⟨by decide +kernel, by decide +kernel⟩, lw_t1 (List.mem_of_getElem? (i := 12) rfl), lw_t2 (List.mem_of_getElem? (i := 223) rfl), lw_t2 (List.mem_of_getElem? (i := 224) rfl)⟩
theorem lw_p31 : lw_okq (⟨"ThirdSheets", "cutOf", "(IIII)I"⟩, 19) := ⟨⟨by decide +kernel, by decide +kernel⟩, lw_t1 (List.mem_of_getElem? (i := 12) rfl), lw_t2 (List.mem_of_getElem? (i := 227) rfl), lw_t2 (List.mem_of_getElem? (i := 228) rfl)⟩
def lw_privs_2 : List (MethodName × Nat) := [(⟨"ThirdSheets", "keep", "([J)V"⟩, 19), (⟨"ThirdSheets", "match", "(III)V"⟩, 19), (⟨"ThirdSheets", "off", "([JIII)J"⟩, 19), (⟨"ThirdSheets", "isBeside", "(II)Z"⟩, 19), (⟨"ThirdSheets", "isAlone", "(I)Z"⟩, 19), (⟨"ThirdSheets", "isNumber", "(I)Z"⟩, 19), (⟨"ThirdSheets", "arcs", "(III)I"⟩, 19), (⟨"ThirdSheets", "threes", "(II)I"⟩, 19), (⟨"ThirdSheets", "fours", "(II)I"⟩, 19), (⟨"ThirdSheets", "isCounted", "(II)Z"⟩, 19), (⟨"ThirdSheets", "allCuts", "()I"⟩, 19), (⟨"ThirdSheets", "findParts", "()I"⟩, 19), (⟨"ThirdSheets", "spread", "(II)V"⟩, 19), (⟨"ThirdSheets", "kindOfCut", "(I)I"⟩, 19), (⟨"ThirdSheets", "beyond", "(IIII)I"⟩, 19), (⟨"ThirdSheets", "cutOf", "(IIII)I"⟩, 19)]
theorem lw_r2 : ∀ q ∈ lw_privs_2, lw_okq q := List.forall_mem_cons.mpr ⟨lw_p16, List.forall_mem_cons.mpr ⟨lw_p17, List.forall_mem_cons.mpr ⟨lw_p18, List.forall_mem_cons.mpr ⟨lw_p19, List.forall_mem_cons.mpr ⟨lw_p20, List.forall_mem_cons.mpr ⟨lw_p21, List.forall_mem_cons.mpr ⟨lw_p22, List.forall_mem_cons.mpr ⟨lw_p23, List.forall_mem_cons.mpr ⟨lw_p24, List.forall_mem_cons.mpr ⟨lw_p25, List.forall_mem_cons.mpr ⟨lw_p26, List.forall_mem_cons.mpr ⟨lw_p27, List.forall_mem_cons.mpr ⟨lw_p28, List.forall_mem_cons.mpr ⟨lw_p29, List.forall_mem_cons.mpr ⟨lw_p30, List.forall_mem_cons.mpr ⟨lw_p31, fun _ h => absurd h List.not_mem_nil⟩⟩⟩⟩⟩⟩⟩⟩⟩⟩⟩⟩⟩⟩⟩⟩
theorem lw_p32 : lw_okq (⟨"ThirdSheets", "pointsOf", "(I)I"⟩, 19) := ⟨⟨by decide +kernel, by decide +kernel⟩, lw_t1 (List.mem_of_getElem? (i := 12) rfl), lw_t3 (List.mem_of_getElem? (i := 2) rfl), lw_t3 (List.mem_of_getElem? (i := 3) rfl)⟩
theorem lw_p33 : lw_okq (⟨"ThirdSheets", "arcsOf", "(I)I"⟩, 19) := ⟨⟨by decide +kernel, by decide +kernel⟩, lw_t1 (List.mem_of_getElem? (i := 12) rfl), lw_t3 (List.mem_of_getElem? (i := 6) rfl), lw_t3 (List.mem_of_getElem? (i := 7) rfl)⟩
theorem lw_p34 : lw_okq (⟨"ThirdSheetsModel", "empty", "()V"⟩, 26) := ⟨⟨by decide +kernel, by decide +kernel⟩, lw_t3 (List.mem_of_getElem? (i := 10) rfl), lw_t3 (List.mem_of_getElem? (i := 100) rfl), lw_t3 (List.mem_of_getElem? (i := 101) rfl)⟩
theorem lw_p35 : lw_okq (⟨"ThirdSheetsModel", "isSide", "(II)Z"⟩, 26) := ⟨⟨by decide +kernel, by decide +kernel⟩, lw_t3 (List.mem_of_getElem? (i := 10) rfl), lw_t3 (List.mem_of_getElem? (i := 108) rfl), lw_t3 (List.mem_of_getElem? (i := 109) rfl)⟩
theorem lw_p36 : lw_okq (⟨"ThirdSheetsModel", "isPiece", "(I)Z"⟩, 26) := ⟨⟨by decide +kernel, by decide +kernel⟩, lw_t3 (List.mem_of_getElem? (i := 10) rfl), lw_t3 (List.mem_of_getElem? (i := 112) rfl), lw_t3 (List.mem_of_getElem? (i := 113) rfl)⟩
theorem lw_p37 : lw_okq (⟨"ThirdSheetsModel", "label", "()V"⟩, 26) := ⟨⟨by decide +kernel, by decide +kernel⟩, lw_t3 (List.mem_of_getElem? (i := 10) rfl), lw_t3 (List.mem_of_getElem? (i := 135) rfl), lw_t3 (List.mem_of_getElem? (i := 136) rfl)⟩
theorem lw_p38 : lw_okq (⟨"ThirdSheetsModel", "joinSide", "(I)V"⟩, 26) := ⟨⟨by decide +kernel, by decide +kernel⟩, lw_t3 (List.mem_of_getElem? (i := 10) rfl), lw_t3 (List.mem_of_getElem? (i := 139) rfl), lw_t3 (List.mem_of_getElem? (i := 140) rfl)⟩
theorem lw_p39 : lw_okq (⟨"ThirdSheetsModel", "join", "([III)V"⟩, 26) := ⟨⟨by decide +kernel, by decide +kernel⟩, lw_t3 (List.mem_of_getElem? (i := 10) rfl), lw_t3 (List.mem_of_getElem? (i := 143) rfl), lw_t3 (List.mem_of_getElem? (i := 144) rfl)⟩
theorem lw_p40 : lw_okq (⟨"ThirdSheetsModel", "endOf", "(III)I"⟩, 26) := ⟨⟨by decide +kernel, by decide +kernel⟩, lw_t3 (List.mem_of_getElem? (i := 10) rfl), lw_t3 (List.mem_of_getElem? (i := 150) rfl), lw_t3 (List.mem_of_getElem? (i := 151) rfl)⟩
theorem lw_p41 : lw_okq (⟨"ThirdSheetsModel", "edgeOf", "(II)I"⟩, 26) := ⟨⟨by decide +kernel, by decide +kernel⟩, lw_t3 (List.mem_of_getElem? (i := 10) rfl), lw_t3 (List.mem_of_getElem? (i := 154) rfl), lw_t3 (List.mem_of_getElem? (i := 155) rfl)⟩
theorem lw_p42 : lw_okq (⟨"ThirdSheetsModel", "edgeLabel", "(II)I"⟩, 26) := ⟨⟨by decide +kernel, by decide +kernel⟩, lw_t3 (List.mem_of_getElem? (i := 10) rfl), lw_t3 (List.mem_of_getElem? (i := 158) rfl), lw_t3 (List.mem_of_getElem? (i := 159) rfl)⟩
theorem lw_p43 : lw_okq (⟨"ThirdSheetsModel", "isFirstEdge", "(I)Z"⟩, 26) := ⟨⟨by decide +kernel, by decide +kernel⟩, lw_t3 (List.mem_of_getElem? (i := 10) rfl), lw_t3 (List.mem_of_getElem? (i := 162) rfl), lw_t3 (List.mem_of_getElem? (i := 163) rfl)⟩
theorem lw_p44 : lw_okq (⟨"ThirdSheetsModel", "edgeOfClass", "(I)I"⟩, 26) := ⟨⟨by decide +kernel, by decide +kernel⟩, lw_t3 (List.mem_of_getElem? (i := 10) rfl), lw_t3 (List.mem_of_getElem? (i := 170) rfl), lw_t3 (List.mem_of_getElem? (i := 171) rfl)⟩
theorem lw_p45 : lw_okq (⟨"ThirdSheetsModel", "isBent", "(I)Z"⟩, 26) := ⟨⟨by decide +kernel, by decide +kernel⟩, lw_t3 (List.mem_of_getElem? (i := 10) rfl), lw_t3 (List.mem_of_getElem? (i := 174) rfl), lw_t3 (List.mem_of_getElem? (i := 175) rfl)⟩
theorem lw_p46 : lw_okq (⟨"ThirdSheetsModel", "cornerOfClass", "(I)I"⟩, 26) := ⟨⟨by decide +kernel, by decide +kernel⟩, lw_t3 (List.mem_of_getElem? (i := 10) rfl), lw_t3 (List.mem_of_getElem? (i := 182) rfl), lw_t3 (List.mem_of_getElem? (i := 183) rfl)⟩
theorem lw_p47 : lw_okq (⟨"ThirdSheetsModel", "linkOf", "(I)I"⟩, 26) := ⟨⟨by decide +kernel, by decide +kernel⟩, lw_t3 (List.mem_of_getElem? (i := 10) rfl), lw_t3 (List.mem_of_getElem? (i := 187) rfl), lw_t3 (List.mem_of_getElem? (i := 188) rfl)⟩
def lw_privs_3 : List (MethodName × Nat) := [(⟨"ThirdSheets", "pointsOf", "(I)I"⟩, 19), (⟨"ThirdSheets", "arcsOf", "(I)I"⟩, 19), (⟨"ThirdSheetsModel", "empty", "()V"⟩, 26), (⟨"ThirdSheetsModel", "isSide", "(II)Z"⟩, 26), (⟨"ThirdSheetsModel", "isPiece", "(I)Z"⟩, 26), (⟨"ThirdSheetsModel", "label", "()V"⟩, 26), (⟨"ThirdSheetsModel", "joinSide", "(I)V"⟩, 26), (⟨"ThirdSheetsModel", "join", "([III)V"⟩, 26), (⟨"ThirdSheetsModel", "endOf", "(III)I"⟩, 26), (⟨"ThirdSheetsModel", "edgeOf", "(II)I"⟩, 26), (⟨"ThirdSheetsModel", "edgeLabel", "(II)I"⟩, 26), (⟨"ThirdSheetsModel", "isFirstEdge", "(I)Z"⟩, 26), (⟨"ThirdSheetsModel", "edgeOfClass", "(I)I"⟩, 26), (⟨"ThirdSheetsModel", "isBent", "(I)Z"⟩, 26), (⟨"ThirdSheetsModel", "cornerOfClass", "(I)I"⟩, 26), (⟨"ThirdSheetsModel", "linkOf", "(I)I"⟩, 26)]
theorem lw_r3 : ∀ q ∈ lw_privs_3, lw_okq q := List.forall_mem_cons.mpr ⟨lw_p32, List.forall_mem_cons.mpr ⟨lw_p33, List.forall_mem_cons.mpr ⟨lw_p34, List.forall_mem_cons.mpr ⟨lw_p35, List.forall_mem_cons.mpr ⟨lw_p36, List.forall_mem_cons.mpr ⟨lw_p37, List.forall_mem_cons.mpr ⟨lw_p38, List.forall_mem_cons.mpr ⟨lw_p39, List.forall_mem_cons.mpr ⟨lw_p40, List.forall_mem_cons.mpr ⟨lw_p41, List.forall_mem_cons.mpr ⟨lw_p42, List.forall_mem_cons.mpr ⟨lw_p43, List.forall_mem_cons.mpr ⟨lw_p44, List.forall_mem_cons.mpr ⟨lw_p45, List.forall_mem_cons.mpr ⟨lw_p46, List.forall_mem_cons.mpr ⟨lw_p47, fun _ h => absurd h List.not_mem_nil⟩⟩⟩⟩⟩⟩⟩⟩⟩⟩⟩⟩⟩⟩⟩⟩
theorem lw_p48 : lw_okq (⟨"ThirdSheetsModel", "cornerClasses", "()I"⟩, 26) := ⟨⟨by decide +kernel, by decide +kernel⟩, lw_t3 (List.mem_of_getElem? (i := 10) rfl), lw_t3 (List.mem_of_getElem? (i := 195) rfl), lw_t3 (List.mem_of_getElem? (i := 196) rfl)⟩
theorem lw_p49 : lw_okq (⟨"ThirdSheetsModel", "edgeClasses", "()I"⟩, 26) := ⟨⟨by decide +kernel, by decide +kernel⟩, lw_t3 (List.mem_of_getElem? (i := 10) rfl), lw_t3 (List.mem_of_getElem? (i := 199) rfl), lw_t3 (List.mem_of_getElem? (i := 200) rfl)⟩
theorem lw_p50 : lw_okq (⟨"ThirdSheetsModel", "sides", "(Z)I"⟩, 26) := ⟨⟨by decide +kernel, by decide +kernel⟩, lw_t3 (List.mem_of_getElem? (i := 10) rfl), lw_t3 (List.mem_of_getElem? (i := 203) rfl), lw_t3 (List.mem_of_getElem? (i := 204) rfl)⟩
theorem lw_p51 : lw_okq (⟨"ThirdSheetsModel", "isWhole", "()Z"⟩, 26) := ⟨⟨by decide +kernel, by decide +kernel⟩, lw_t3 (List.mem_of_getElem? (i := 10) rfl), lw_t3 (List.mem_of_getElem? (i := 207) rfl), lw_t3 (List.mem_of_getElem? (i := 208) rfl)⟩
theorem lw_p52 : lw_okq (⟨"ThirdSheetsModel", "anyBent", "()Z"⟩, 26) := ⟨⟨by decide +kernel, by decide +kernel⟩, lw_t3 (List.mem_of_getElem? (i := 10) rfl), lw_t3 (List.mem_of_getElem? (i := 211) rfl), lw_t3 (List.mem_of_getElem? (i := 212) rfl)⟩
theorem lw_p53 : lw_okq (⟨"ThirdSheetsModel", "isEven", "()Z"⟩, 26) := ⟨⟨by decide +kernel, by decide +kernel⟩, lw_t3 (List.mem_of_getElem? (i := 10) rfl), lw_t3 (List.mem_of_getElem? (i := 215) rfl), lw_t3 (List.mem_of_getElem? (i := 216) rfl)⟩
theorem lw_p54 : lw_okq (⟨"ThirdSheetsModel", "isEvenChange", "(I)Z"⟩, 26) := ⟨⟨by decide +kernel, by decide +kernel⟩, lw_t3 (List.mem_of_getElem? (i := 10) rfl), lw_t3 (List.mem_of_getElem? (i := 219) rfl), lw_t3 (List.mem_of_getElem? (i := 220) rfl)⟩
theorem lw_p55 : lw_okq (⟨"ThirdSheetsModel", "setMany", "()I"⟩, 26) := ⟨⟨by decide +kernel, by decide +kernel⟩, lw_t3 (List.mem_of_getElem? (i := 10) rfl), lw_t3 (List.mem_of_getElem? (i := 223) rfl), lw_t3 (List.mem_of_getElem? (i := 224) rfl)⟩
theorem lw_p56 : lw_okq (⟨"ThirdSheetsModel", "layLoops", "()V"⟩, 26) := ⟨⟨by decide +kernel, by decide +kernel⟩, lw_t3 (List.mem_of_getElem? (i := 10) rfl), lw_t3 (List.mem_of_getElem? (i := 231) rfl), lw_t3 (List.mem_of_getElem? (i := 232) rfl)⟩
theorem lw_p57 : lw_okq (⟨"ThirdSheetsModel", "findPairs", "()V"⟩, 26) := ⟨⟨by decide +kernel, by decide +kernel⟩, lw_t3 (List.mem_of_getElem? (i := 10) rfl), lw_t3 (List.mem_of_getElem? (i := 235) rfl), lw_t3 (List.mem_of_getElem? (i := 236) rfl)⟩
theorem lw_p58 : lw_okq (⟨"ThirdSheetsModel", "goAround", "(I)Z"⟩, 26) := ⟨⟨by decide +kernel, by decide +kernel⟩, lw_t3 (List.mem_of_getElem? (i := 10) rfl), lw_t3 (List.mem_of_getElem? (i := 239) rfl), lw_t4 (List.mem_of_getElem? (i := 0) rfl)⟩
theorem lw_p59 : lw_okq (⟨"ThirdSheetsModel", "bring", "(I)Z"⟩, 26) := ⟨⟨by decide +kernel, by decide +kernel⟩, lw_t3 (List.mem_of_getElem? (i := 10) rfl), lw_t4 (List.mem_of_getElem? (i := 4) rfl), lw_t4 (List.mem_of_getElem? (i := 5) rfl)⟩
theorem lw_p60 : lw_okq (⟨"ThirdSheetsModel", "cell", "(II)J"⟩, 26) := ⟨⟨by decide +kernel, by decide +kernel⟩, lw_t3 (List.mem_of_getElem? (i := 10) rfl), lw_t4 (List.mem_of_getElem? (i := 8) rfl), lw_t4 (List.mem_of_getElem? (i := 9) rfl)⟩
theorem lw_p61 : lw_okq (⟨"ThirdSheetsModel", "reduce", "(I)Z"⟩, 26) := ⟨⟨by decide +kernel, by decide +kernel⟩, lw_t3 (List.mem_of_getElem? (i := 10) rfl), lw_t4 (List.mem_of_getElem? (i := 12) rfl), lw_t4 (List.mem_of_getElem? (i := 13) rfl)⟩
theorem lw_p62 : lw_okq (⟨"ThirdSheetsModel", "findLeast", "()V"⟩, 26) := ⟨⟨by decide +kernel, by decide +kernel⟩, lw_t3 (List.mem_of_getElem? (i := 10) rfl), lw_t4 (List.mem_of_getElem? (i := 20) rfl), lw_t4 (List.mem_of_getElem? (i := 21) rfl)⟩
theorem lw_p63 : lw_okq (⟨"ThirdSheetsModel", "layEquation", "(II)V"⟩, 26) := ⟨⟨by decide +kernel, by decide +kernel⟩, lw_t3 (List.mem_of_getElem? (i := 10) rfl), lw_t4 (List.mem_of_getElem? (i := 24) rfl), lw_t4 (List.mem_of_getElem? (i := 25) rfl)⟩
def lw_privs_4 : List (MethodName × Nat) := [(⟨"ThirdSheetsModel", "cornerClasses", "()I"⟩, 26), (⟨"ThirdSheetsModel", "edgeClasses", "()I"⟩, 26), (⟨"ThirdSheetsModel", "sides", "(Z)I"⟩, 26), (⟨"ThirdSheetsModel", "isWhole", "()Z"⟩, 26), (⟨"ThirdSheetsModel", "anyBent", "()Z"⟩, 26), (⟨"ThirdSheetsModel", "isEven", "()Z"⟩, 26), (⟨"ThirdSheetsModel", "isEvenChange", "(I)Z"⟩, 26), (⟨"ThirdSheetsModel", "setMany", "()I"⟩, 26), (⟨"ThirdSheetsModel", "layLoops", "()V"⟩, 26), (⟨"ThirdSheetsModel", "findPairs", "()V"⟩, 26), (⟨"ThirdSheetsModel", "goAround", "(I)Z"⟩, 26), (⟨"ThirdSheetsModel", "bring", "(I)Z"⟩, 26), (⟨"ThirdSheetsModel", "cell", "(II)J"⟩, 26), (⟨"ThirdSheetsModel", "reduce", "(I)Z"⟩, 26), (⟨"ThirdSheetsModel", "findLeast", "()V"⟩, 26), (⟨"ThirdSheetsModel", "layEquation", "(II)V"⟩, 26)]
theorem lw_r4 : ∀ q ∈ lw_privs_4, lw_okq q := List.forall_mem_cons.mpr ⟨lw_p48, List.forall_mem_cons.mpr ⟨lw_p49, List.forall_mem_cons.mpr ⟨lw_p50, List.forall_mem_cons.mpr ⟨lw_p51, List.forall_mem_cons.mpr ⟨lw_p52, List.forall_mem_cons.mpr ⟨lw_p53, List.forall_mem_cons.mpr ⟨lw_p54, List.forall_mem_cons.mpr ⟨lw_p55, List.forall_mem_cons.mpr ⟨lw_p56, List.forall_mem_cons.mpr ⟨lw_p57, List.forall_mem_cons.mpr ⟨lw_p58, List.forall_mem_cons.mpr ⟨lw_p59, List.forall_mem_cons.mpr ⟨lw_p60, List.forall_mem_cons.mpr ⟨lw_p61, List.forall_mem_cons.mpr ⟨lw_p62, List.forall_mem_cons.mpr ⟨lw_p63, fun _ h => absurd h List.not_mem_nil⟩⟩⟩⟩⟩⟩⟩⟩⟩⟩⟩⟩⟩⟩⟩⟩
theorem lw_p64 : lw_okq (⟨"ThirdSheetsModel", "meet", "()V"⟩, 26) := ⟨⟨by decide +kernel, by decide +kernel⟩, lw_t3 (List.mem_of_getElem? (i := 10) rfl), lw_t4 (List.mem_of_getElem? (i := 31) rfl), lw_t4 (List.mem_of_getElem? (i := 32) rfl)⟩
theorem lw_p65 : lw_okq (⟨"ThirdSheetsModel", "side", "(I)I"⟩, 26) := ⟨⟨by decide +kernel, by decide +kernel⟩, lw_t3 (List.mem_of_getElem? (i := 10) rfl), lw_t4 (List.mem_of_getElem? (i := 35) rfl), lw_t4 (List.mem_of_getElem? (i := 36) rfl)⟩
theorem lw_p66 : lw_okq (⟨"ThirdSheetsModel", "layRay", "(IIII)V"⟩, 26) := ⟨⟨by decide +kernel, by decide +kernel⟩, lw_t3 (List.mem_of_getElem? (i := 10) rfl), lw_t4 (List.mem_of_getElem? (i := 39) rfl), lw_t4 (List.mem_of_getElem? (i := 40) rfl)⟩
theorem lw_p67 : lw_okq (⟨"ThirdSheetsModel", "supportOf", "(I)I"⟩, 26) := ⟨⟨by decide +kernel, by decide +kernel⟩, lw_t3 (List.mem_of_getElem? (i := 10) rfl), lw_t4 (List.mem_of_getElem? (i := 46) rfl), lw_t4 (List.mem_of_getElem? (i := 47) rfl)⟩
theorem lw_p68 : lw_okq (⟨"ThirdSheetsModel", "hasOneKind", "(I)Z"⟩, 26) := ⟨⟨by decide +kernel, by decide +kernel⟩, lw_t3 (List.mem_of_getElem? (i := 10) rfl), lw_t4 (List.mem_of_getElem? (i := 50) rfl), lw_t4 (List.mem_of_getElem? (i := 51) rfl)⟩
theorem lw_p69 : lw_okq (⟨"ThirdSheetsModel", "areBeside", "(III)Z"⟩, 26) := ⟨⟨by decide +kernel, by decide +kernel⟩, lw_t3 (List.mem_of_getElem? (i := 10) rfl), lw_t4 (List.mem_of_getElem? (i := 54) rfl), lw_t4 (List.mem_of_getElem? (i := 55) rfl)⟩
theorem lw_p70 : lw_okq (⟨"ThirdSheetsModel", "isBefore", "(II)Z"⟩, 26) := ⟨⟨by decide +kernel, by decide +kernel⟩, lw_t3 (List.mem_of_getElem? (i := 10) rfl), lw_t4 (List.mem_of_getElem? (i := 58) rfl), lw_t4 (List.mem_of_getElem? (i := 59) rfl)⟩
theorem lw_p71 : lw_okq (⟨"ThirdSheetsModel", "swap", "(II)V"⟩, 26) := ⟨⟨by decide +kernel, by decide +kernel⟩, lw_t3 (List.mem_of_getElem? (i := 10) rfl), lw_t4 (List.mem_of_getElem? (i := 62) rfl), lw_t4 (List.mem_of_getElem? (i := 63) rfl)⟩
theorem lw_p72 : lw_okq (⟨"ThirdSheetsModel", "arcs", "(III)I"⟩, 26) := ⟨⟨by decide +kernel, by decide +kernel⟩, lw_t3 (List.mem_of_getElem? (i := 10) rfl), lw_t4 (List.mem_of_getElem? (i := 86) rfl), lw_t4 (List.mem_of_getElem? (i := 87) rfl)⟩
theorem lw_p73 : lw_okq (⟨"ThirdSheetsModel", "meets", "(II)Z"⟩, 26) := ⟨⟨by decide +kernel, by decide +kernel⟩, lw_t3 (List.mem_of_getElem? (i := 10) rfl), lw_t4 (List.mem_of_getElem? (i := 95) rfl), lw_t4 (List.mem_of_getElem? (i := 96) rfl)⟩
theorem lw_p74 : lw_okq (⟨"ThirdSheetsModel", "findParts", "()I"⟩, 26) := ⟨⟨by decide +kernel, by decide +kernel⟩, lw_t3 (List.mem_of_getElem? (i := 10) rfl), lw_t4 (List.mem_of_getElem? (i := 103) rfl), lw_t4 (List.mem_of_getElem? (i := 104) rfl)⟩
theorem lw_p75 : lw_okq (⟨"ThirdSheetsModel", "spread", "(II)I"⟩, 26) := ⟨⟨by decide +kernel, by decide +kernel⟩, lw_t3 (List.mem_of_getElem? (i := 10) rfl), lw_t4 (List.mem_of_getElem? (i := 107) rfl), lw_t4 (List.mem_of_getElem? (i := 108) rfl)⟩
theorem lw_p76 : lw_okq (⟨"ThirdSheetsModel", "sortOf", "(I)I"⟩, 26) := ⟨⟨by decide +kernel, by decide +kernel⟩, lw_t3 (List.mem_of_getElem? (i := 10) rfl), lw_t4 (List.mem_of_getElem? (i := 111) rfl), lw_t4 (List.mem_of_getElem? (i := 112) rfl)⟩
theorem lw_p77 : lw_okq (⟨"ThirdSheetsModel", "cutAt", "(III)I"⟩, 26) := ⟨⟨by decide +kernel, by decide +kernel⟩, lw_t3 (List.mem_of_getElem? (i := 10) rfl), lw_t4 (List.mem_of_getElem? (i := 115) rfl), lw_t4 (List.mem_of_getElem? (i := 116) rfl)⟩
theorem lw_p78 : lw_okq (⟨"ThirdSheetsModel", "looks", "(III)Z"⟩, 26) := ⟨⟨by decide +kernel, by decide +kernel⟩, lw_t3 (List.mem_of_getElem? (i := 10) rfl), lw_t4 (List.mem_of_getElem? (i := 119) rfl), lw_t4 (List.mem_of_getElem? (i := 120) rfl)⟩
theorem lw_p79 : lw_okq (⟨"ThirdSheetsModel", "cutsOf", "(I)I"⟩, 26) := ⟨⟨by decide +kernel, by decide +kernel⟩, lw_t3 (List.mem_of_getElem? (i := 10) rfl), lw_t4 (List.mem_of_getElem? (i := 127) rfl), lw_t4 (List.mem_of_getElem? (i := 128) rfl)⟩
def lw_privs_5 : List (MethodName × Nat) := [(⟨"ThirdSheetsModel", "meet", "()V"⟩, 26), (⟨"ThirdSheetsModel", "side", "(I)I"⟩, 26), (⟨"ThirdSheetsModel", "layRay", "(IIII)V"⟩, 26), (⟨"ThirdSheetsModel", "supportOf", "(I)I"⟩, 26), (⟨"ThirdSheetsModel", "hasOneKind", "(I)Z"⟩, 26), (⟨"ThirdSheetsModel", "areBeside", "(III)Z"⟩, 26), (⟨"ThirdSheetsModel", "isBefore", "(II)Z"⟩, 26), (⟨"ThirdSheetsModel", "swap", "(II)V"⟩, 26), (⟨"ThirdSheetsModel", "arcs", "(III)I"⟩, 26), (⟨"ThirdSheetsModel", "meets", "(II)Z"⟩, 26), (⟨"ThirdSheetsModel", "findParts", "()I"⟩, 26), (⟨"ThirdSheetsModel", "spread", "(II)I"⟩, 26), (⟨"ThirdSheetsModel", "sortOf", "(I)I"⟩, 26), (⟨"ThirdSheetsModel", "cutAt", "(III)I"⟩, 26), (⟨"ThirdSheetsModel", "looks", "(III)Z"⟩, 26), (⟨"ThirdSheetsModel", "cutsOf", "(I)I"⟩, 26)]
theorem lw_r5 : ∀ q ∈ lw_privs_5, lw_okq q := List.forall_mem_cons.mpr ⟨lw_p64, List.forall_mem_cons.mpr ⟨lw_p65, List.forall_mem_cons.mpr ⟨lw_p66, List.forall_mem_cons.mpr ⟨lw_p67, List.forall_mem_cons.mpr ⟨lw_p68, List.forall_mem_cons.mpr ⟨lw_p69, List.forall_mem_cons.mpr ⟨lw_p70, List.forall_mem_cons.mpr ⟨lw_p71, List.forall_mem_cons.mpr ⟨lw_p72, List.forall_mem_cons.mpr ⟨lw_p73, List.forall_mem_cons.mpr ⟨lw_p74, List.forall_mem_cons.mpr ⟨lw_p75, List.forall_mem_cons.mpr ⟨lw_p76, List.forall_mem_cons.mpr ⟨lw_p77, List.forall_mem_cons.mpr ⟨lw_p78, List.forall_mem_cons.mpr ⟨lw_p79, fun _ h => absurd h List.not_mem_nil⟩⟩⟩⟩⟩⟩⟩⟩⟩⟩⟩⟩⟩⟩⟩⟩
theorem lw_p80 : lw_okq (⟨"ThirdSheetsModel", "worth", "(I)I"⟩, 26) := ⟨⟨by decide +kernel, by decide +kernel⟩, lw_t3 (List.mem_of_getElem? (i := 10) rfl), lw_t4 (List.mem_of_getElem? (i := 131) rfl), lw_t4 (List.mem_of_getElem? (i := 132) rfl)⟩
def lw_privs_6 : List (MethodName × Nat) := [(⟨"ThirdSheetsModel", "worth", "(I)I"⟩, 26)]
theorem lw_r6 : ∀ q ∈ lw_privs_6, lw_okq q := List.forall_mem_cons.mpr ⟨lw_p80, fun _ h => absurd h List.not_mem_nil⟩
def lw_privs : List (MethodName × Nat) := lw_privs_1 ++ (lw_privs_2 ++ (lw_privs_3 ++ (lw_privs_4 ++ (lw_privs_5 ++ (lw_privs_6)))))
def lw_tbl : List Cond := k2_sels lw_privs ++ tables_1
theorem lw_privs_ok : ∀ q ∈ lw_privs, lw_okq q := by
  show ∀ q ∈ lw_privs_1 ++ (lw_privs_2 ++ (lw_privs_3 ++ (lw_privs_4 ++ (lw_privs_5 ++ (lw_privs_6))))), lw_okq q
  exact List.forall_mem_append.mpr ⟨lw_r1, List.forall_mem_append.mpr ⟨lw_r2, List.forall_mem_append.mpr ⟨lw_r3, List.forall_mem_append.mpr ⟨lw_r4, List.forall_mem_append.mpr ⟨lw_r5, lw_r6⟩⟩⟩⟩⟩
-- ===== ONE list of words for every method: the tables' words that hold all through a run =====
def lw_all : List Cond := lw_tbl.filter goodWord
/-- a word of the tables by its place: claim/WORDS.tsv -/
theorem lw_w {w : Cond} (i : Nat) (h : lw_tbl[i]? = some w) (g : goodWord w = true) : w ∈ lw_all := List.mem_filter.mpr ⟨List.mem_of_getElem? h, g⟩
theorem lw_all_tbl {w : Cond} (h : w ∈ lw_all) : w ∈ lw_tbl := (List.mem_filter.mp h).1
theorem lw_self : GoodIn lw_all lw_all := fun w h => ⟨h, good_of_word (List.mem_filter.mp h).2⟩
/-- a class's field words, by their places -/
theorem lw_in (ws : List Cond) (ps : List Nat) (hp : ws = ps.filterMap (fun i => lw_tbl[i]?)) (hg : ws.all goodWord = true) : ∀ w ∈ ws, w ∈ lw_all := by
  intro w h
  have h1 := List.all_eq_true.mp hg w h
  rw [hp] at h
  obtain ⟨i, -, hi⟩ := List.mem_filterMap.mp h
  exact lw_w i hi h1
/-- the words of a contract for the method y with code b, L locals, answer r -/
abbrev ws_ (y : MethodName) (b : ByteArray) (L : Nat) (r : Option FieldType) : List Cond := Cond.code y b L r :: lw_all
theorem lw_meth {y : MethodName} {b : ByteArray} {L : Nat} {r : Option FieldType} (h : Cond.code y b L r ∈ lw_all) : GoodIn lw_all (ws_ y b L r) := by
  intro w hw
  rcases List.mem_cons.mp hw with e | e
  · rw [e]
    exact lw_self _ h
  · exact lw_self _ e
theorem lw_app {a c : List Cond} (ha : ∀ w ∈ a, w ∈ lw_all) (hc : GoodIn lw_all c) : GoodIn lw_all (a ++ c) := by
  intro w hw
  rcases List.mem_append.mp hw with e | e
  · exact lw_self w (ha w e)
  · exact hc w e
/-- what a call through an object asks: cwV n hts (lw_V ..) -/
theorem lw_V {own : String} {idx : Nat} {C : String} {y : MethodName} {b : ByteArray} {L : Nat} {r : Option FieldType} (h1 : Cond.methodLink own idx y ∈ lw_all) (h2 : Cond.instanceMethod y ∈ lw_all) (h3 : Cond.selects C y y ∈ lw_all) (h4 : Cond.initialized C ∈ lw_all) (h5 : Cond.code y b L r ∈ lw_all) : GoodIn lw_all (wsV own idx C y (ws_ y b L r)) := by
  refine lw_app ?_ (lw_meth h5)
  intro w hw
  simp only [List.mem_cons, List.not_mem_nil, or_false] at hw
  rcases hw with e | e | e | e
  · rw [e]; exact h1
  · rw [e]; exact h2
  · rw [e]; exact h3
  · rw [e]; exact h4
/-- what a static call asks: va_cwS n hts (lw_S ..) -/
theorem lw_S {own : String} {idx : Nat} {y : MethodName} {b : ByteArray} {L : Nat} {r : Option FieldType} (h1 : Cond.methodLink own idx y ∈ lw_all) (h2 : Cond.static y ∈ lw_all) (h3 : Cond.initialized y.cls ∈ lw_all) (h4 : Cond.code y b L r ∈ lw_all) : GoodIn lw_all (va_wsS own idx y (ws_ y b L r)) := by
  refine lw_app ?_ (lw_meth h4)
  intro w hw
  simp only [List.mem_cons, List.not_mem_nil, or_false] at hw
  rcases hw with e | e | e
  · rw [e]; exact h1
  · rw [e]; exact h2
  · rw [e]; exact h3
/-- the words of a contract for a method WITH HANDLERS (hh: its table) -/
abbrev wsW_ (y : MethodName) (b : ByteArray) (L : Nat) (r : Option FieldType) (hh : List (Nat × Nat × Nat × Nat)) : List Cond := Cond.codeWith y b L r hh :: lw_all
theorem lw_methW {y : MethodName} {b : ByteArray} {L : Nat} {r : Option FieldType} {hh : List (Nat × Nat × Nat × Nat)} (h : Cond.codeWith y b L r hh ∈ lw_all) : GoodIn lw_all (wsW_ y b L r hh) := by
  intro w hw
  rcases List.mem_cons.mp hw with e | e
  · rw [e]
    exact lw_self _ h
  · exact lw_self _ e
/-- any list of words by their places (lw_in), good -/
theorem lw_good {ws : List Cond} (h : ∀ w ∈ ws, w ∈ lw_all) : GoodIn lw_all ws := fun w hw => lw_self w (h w hw)
/-- what a call of a method with handlers asks: vx_cwVW n hts (lw_VW ..), vx_cwSW n hts (lw_SW ..) -/
theorem lw_VW {own : String} {idx : Nat} {C : String} {y : MethodName} {b : ByteArray} {L : Nat} {r : Option FieldType} {hh : List (Nat × Nat × Nat × Nat)} (h1 : Cond.methodLink own idx y ∈ lw_all) (h2 : Cond.instanceMethod y ∈ lw_all) (h3 : Cond.selects C y y ∈ lw_all) (h4 : Cond.initialized C ∈ lw_all) (h5 : Cond.codeWith y b L r hh ∈ lw_all) : GoodIn lw_all (wsV own idx C y (wsW_ y b L r hh)) := by
  refine lw_app ?_ (lw_methW h5)
  intro w hw
  simp only [List.mem_cons, List.not_mem_nil, or_false] at hw
  rcases hw with e | e | e | e
  · rw [e]; exact h1
  · rw [e]; exact h2
  · rw [e]; exact h3
  · rw [e]; exact h4
theorem lw_SW {own : String} {idx : Nat} {y : MethodName} {b : ByteArray} {L : Nat} {r : Option FieldType} {hh : List (Nat × Nat × Nat × Nat)} (h1 : Cond.methodLink own idx y ∈ lw_all) (h2 : Cond.static y ∈ lw_all) (h3 : Cond.initialized y.cls ∈ lw_all) (h4 : Cond.codeWith y b L r hh ∈ lw_all) : GoodIn lw_all (va_wsS own idx y (wsW_ y b L r hh)) := by
  refine lw_app ?_ (lw_methW h4)
  intro w hw
  simp only [List.mem_cons, List.not_mem_nil, or_false] at hw
  rcases hw with e | e | e
  · rw [e]; exact h1
  · rw [e]; exact h2
  · rw [e]; exact h3
/-- a word by its place in its run of the tables -/
theorem lw_at {r : List Cond} (hr : ∀ w ∈ r, w ∈ lw_tbl) {w : Cond} (i : Nat) (h : r[i]? = some w) : w ∈ lw_tbl := hr w (List.mem_of_getElem? h)
theorem lw_g {w : Cond} (h : w ∈ lw_tbl) (g : goodWord w = true) : w ∈ lw_all := List.mem_filter.mpr ⟨h, g⟩
theorem lw_ms : ∀ w ∈ k2_sels lw_privs, w ∈ lw_tbl := fun w h => show w ∈ k2_sels lw_privs ++ tables_1 from List.mem_append_left _ h
theorem lw_m1 : ∀ w ∈ tables_1_1, w ∈ lw_tbl := fun w h => show w ∈ k2_sels lw_privs ++ tables_1 from List.mem_append_right (k2_sels lw_privs) (show w ∈ tables_1 from List.mem_append_left _ h)
theorem lw_m2 : ∀ w ∈ tables_1_2, w ∈ lw_tbl := fun w h => show w ∈ k2_sels lw_privs ++ tables_1 from List.mem_append_right (k2_sels lw_privs) (show w ∈ tables_1 from List.mem_append_right _ (List.mem_append_left _ h))
theorem lw_m3 : ∀ w ∈ tables_1_3, w ∈ lw_tbl := fun w h => show w ∈ k2_sels lw_privs ++ tables_1 from List.mem_append_right (k2_sels lw_privs) (show w ∈ tables_1 from List.mem_append_right _ (List.mem_append_right _ (List.mem_append_left _ h)))
theorem lw_m4 : ∀ w ∈ tables_1_4, w ∈ lw_tbl := fun w h => show w ∈ k2_sels lw_privs ++ tables_1 from List.mem_append_right (k2_sels lw_privs) (show w ∈ tables_1 from List.mem_append_right _ (List.mem_append_right _ (List.mem_append_right _ h)))
theorem qs0 : (Cond.selects "ThirdSheets" ⟨"ThirdSheets", "changed", "()V"⟩ ⟨"ThirdSheets", "changed", "()V"⟩) ∈ lw_all := lw_g (lw_at lw_ms 0 rfl) rfl
theorem qs1 : (Cond.selects "ThirdSheets" ⟨"ThirdSheets", "isPiece", "(I)Z"⟩ ⟨"ThirdSheets", "isPiece", "(I)Z"⟩) ∈ lw_all := lw_g (lw_at lw_ms 1 rfl) rfl
theorem qs2 : (Cond.selects "ThirdSheets" ⟨"ThirdSheets", "isBent", "(I)Z"⟩ ⟨"ThirdSheets", "isBent", "(I)Z"⟩) ∈ lw_all := lw_g (lw_at lw_ms 2 rfl) rfl
theorem qs3 : (Cond.selects "ThirdSheets" ⟨"ThirdSheets", "linkOf", "(I)I"⟩ ⟨"ThirdSheets", "linkOf", "(I)I"⟩) ∈ lw_all := lw_g (lw_at lw_ms 3 rfl) rfl
theorem qs4 : (Cond.selects "ThirdSheets" ⟨"ThirdSheets", "pairs", "()I"⟩ ⟨"ThirdSheets", "pairs", "()I"⟩) ∈ lw_all := lw_g (lw_at lw_ms 4 rfl) rfl
theorem qs5 : (Cond.selects "ThirdSheets" ⟨"ThirdSheets", "openOnes", "()I"⟩ ⟨"ThirdSheets", "openOnes", "()I"⟩) ∈ lw_all := lw_g (lw_at lw_ms 5 rfl) rfl
theorem qs6 : (Cond.selects "ThirdSheets" ⟨"ThirdSheets", "isWhole", "()Z"⟩ ⟨"ThirdSheets", "isWhole", "()Z"⟩) ∈ lw_all := lw_g (lw_at lw_ms 6 rfl) rfl
theorem qs7 : (Cond.selects "ThirdSheets" ⟨"ThirdSheets", "hasBent", "()Z"⟩ ⟨"ThirdSheets", "hasBent", "()Z"⟩) ∈ lw_all := lw_g (lw_at lw_ms 7 rfl) rfl
theorem qs8 : (Cond.selects "ThirdSheets" ⟨"ThirdSheets", "sets", "()I"⟩ ⟨"ThirdSheets", "sets", "()I"⟩) ∈ lw_all := lw_g (lw_at lw_ms 8 rfl) rfl
theorem qs9 : (Cond.selects "ThirdSheets" ⟨"ThirdSheets", "loops", "()I"⟩ ⟨"ThirdSheets", "loops", "()I"⟩) ∈ lw_all := lw_g (lw_at lw_ms 9 rfl) rfl
theorem qs10 : (Cond.selects "ThirdSheets" ⟨"ThirdSheets", "goAround", "(I[J)Z"⟩ ⟨"ThirdSheets", "goAround", "(I[J)Z"⟩) ∈ lw_all := lw_g (lw_at lw_ms 10 rfl) rfl
theorem qs11 : (Cond.selects "ThirdSheets" ⟨"ThirdSheets", "pairOf", "(II)I"⟩ ⟨"ThirdSheets", "pairOf", "(II)I"⟩) ∈ lw_all := lw_g (lw_at lw_ms 11 rfl) rfl
theorem qs12 : (Cond.selects "ThirdSheets" ⟨"ThirdSheets", "diagonal", "(I)I"⟩ ⟨"ThirdSheets", "diagonal", "(I)I"⟩) ∈ lw_all := lw_g (lw_at lw_ms 12 rfl) rfl
theorem qs13 : (Cond.selects "ThirdSheets" ⟨"ThirdSheets", "clean", "(II)Z"⟩ ⟨"ThirdSheets", "clean", "(II)Z"⟩) ∈ lw_all := lw_g (lw_at lw_ms 13 rfl) rfl
theorem qs14 : (Cond.selects "ThirdSheets" ⟨"ThirdSheets", "take", "(II)Z"⟩ ⟨"ThirdSheets", "take", "(II)Z"⟩) ∈ lw_all := lw_g (lw_at lw_ms 14 rfl) rfl
theorem qs15 : (Cond.selects "ThirdSheets" ⟨"ThirdSheets", "findSheets", "()V"⟩ ⟨"ThirdSheets", "findSheets", "()V"⟩) ∈ lw_all := lw_g (lw_at lw_ms 15 rfl) rfl
theorem qs16 : (Cond.selects "ThirdSheets" ⟨"ThirdSheets", "keep", "([J)V"⟩ ⟨"ThirdSheets", "keep", "([J)V"⟩) ∈ lw_all := lw_g (lw_at lw_ms 16 rfl) rfl
theorem qs17 : (Cond.selects "ThirdSheets" ⟨"ThirdSheets", "match", "(III)V"⟩ ⟨"ThirdSheets", "match", "(III)V"⟩) ∈ lw_all := lw_g (lw_at lw_ms 17 rfl) rfl
theorem qs18 : (Cond.selects "ThirdSheets" ⟨"ThirdSheets", "off", "([JIII)J"⟩ ⟨"ThirdSheets", "off", "([JIII)J"⟩) ∈ lw_all := lw_g (lw_at lw_ms 18 rfl) rfl
theorem qs19 : (Cond.selects "ThirdSheets" ⟨"ThirdSheets", "isBeside", "(II)Z"⟩ ⟨"ThirdSheets", "isBeside", "(II)Z"⟩) ∈ lw_all := lw_g (lw_at lw_ms 19 rfl) rfl
theorem qs20 : (Cond.selects "ThirdSheets" ⟨"ThirdSheets", "isAlone", "(I)Z"⟩ ⟨"ThirdSheets", "isAlone", "(I)Z"⟩) ∈ lw_all := lw_g (lw_at lw_ms 20 rfl) rfl
theorem qs21 : (Cond.selects "ThirdSheets" ⟨"ThirdSheets", "isNumber", "(I)Z"⟩ ⟨"ThirdSheets", "isNumber", "(I)Z"⟩) ∈ lw_all := lw_g (lw_at lw_ms 21 rfl) rfl
theorem qs22 : (Cond.selects "ThirdSheets" ⟨"ThirdSheets", "arcs", "(III)I"⟩ ⟨"ThirdSheets", "arcs", "(III)I"⟩) ∈ lw_all := lw_g (lw_at lw_ms 22 rfl) rfl
theorem qs23 : (Cond.selects "ThirdSheets" ⟨"ThirdSheets", "threes", "(II)I"⟩ ⟨"ThirdSheets", "threes", "(II)I"⟩) ∈ lw_all := lw_g (lw_at lw_ms 23 rfl) rfl
theorem qs24 : (Cond.selects "ThirdSheets" ⟨"ThirdSheets", "fours", "(II)I"⟩ ⟨"ThirdSheets", "fours", "(II)I"⟩) ∈ lw_all := lw_g (lw_at lw_ms 24 rfl) rfl
theorem qs25 : (Cond.selects "ThirdSheets" ⟨"ThirdSheets", "isCounted", "(II)Z"⟩ ⟨"ThirdSheets", "isCounted", "(II)Z"⟩) ∈ lw_all := lw_g (lw_at lw_ms 25 rfl) rfl
theorem qs26 : (Cond.selects "ThirdSheets" ⟨"ThirdSheets", "allCuts", "()I"⟩ ⟨"ThirdSheets", "allCuts", "()I"⟩) ∈ lw_all := lw_g (lw_at lw_ms 26 rfl) rfl
theorem qs27 : (Cond.selects "ThirdSheets" ⟨"ThirdSheets", "findParts", "()I"⟩ ⟨"ThirdSheets", "findParts", "()I"⟩) ∈ lw_all := lw_g (lw_at lw_ms 27 rfl) rfl
theorem qs28 : (Cond.selects "ThirdSheets" ⟨"ThirdSheets", "spread", "(II)V"⟩ ⟨"ThirdSheets", "spread", "(II)V"⟩) ∈ lw_all := lw_g (lw_at lw_ms 28 rfl) rfl
theorem qs29 : (Cond.selects "ThirdSheets" ⟨"ThirdSheets", "kindOfCut", "(I)I"⟩ ⟨"ThirdSheets", "kindOfCut", "(I)I"⟩) ∈ lw_all := lw_g (lw_at lw_ms 29 rfl) rfl
theorem qs30 : (Cond.selects "ThirdSheets" ⟨"ThirdSheets", "beyond", "(IIII)I"⟩ ⟨"ThirdSheets", "beyond", "(IIII)I"⟩) ∈ lw_all := lw_g (lw_at lw_ms 30 rfl) rfl
theorem qs31 : (Cond.selects "ThirdSheets" ⟨"ThirdSheets", "cutOf", "(IIII)I"⟩ ⟨"ThirdSheets", "cutOf", "(IIII)I"⟩) ∈ lw_all := lw_g (lw_at lw_ms 31 rfl) rfl
theorem qs32 : (Cond.selects "ThirdSheets" ⟨"ThirdSheets", "pointsOf", "(I)I"⟩ ⟨"ThirdSheets", "pointsOf", "(I)I"⟩) ∈ lw_all := lw_g (lw_at lw_ms 32 rfl) rfl
theorem qs33 : (Cond.selects "ThirdSheets" ⟨"ThirdSheets", "arcsOf", "(I)I"⟩ ⟨"ThirdSheets", "arcsOf", "(I)I"⟩) ∈ lw_all := lw_g (lw_at lw_ms 33 rfl) rfl
theorem qs34 : (Cond.selects "ThirdSheetsModel" ⟨"ThirdSheetsModel", "empty", "()V"⟩ ⟨"ThirdSheetsModel", "empty", "()V"⟩) ∈ lw_all := lw_g (lw_at lw_ms 34 rfl) rfl
theorem qs35 : (Cond.selects "ThirdSheetsModel" ⟨"ThirdSheetsModel", "isSide", "(II)Z"⟩ ⟨"ThirdSheetsModel", "isSide", "(II)Z"⟩) ∈ lw_all := lw_g (lw_at lw_ms 35 rfl) rfl
theorem qs36 : (Cond.selects "ThirdSheetsModel" ⟨"ThirdSheetsModel", "isPiece", "(I)Z"⟩ ⟨"ThirdSheetsModel", "isPiece", "(I)Z"⟩) ∈ lw_all := lw_g (lw_at lw_ms 36 rfl) rfl
theorem qs37 : (Cond.selects "ThirdSheetsModel" ⟨"ThirdSheetsModel", "label", "()V"⟩ ⟨"ThirdSheetsModel", "label", "()V"⟩) ∈ lw_all := lw_g (lw_at lw_ms 37 rfl) rfl
theorem qs38 : (Cond.selects "ThirdSheetsModel" ⟨"ThirdSheetsModel", "joinSide", "(I)V"⟩ ⟨"ThirdSheetsModel", "joinSide", "(I)V"⟩) ∈ lw_all := lw_g (lw_at lw_ms 38 rfl) rfl
theorem qs39 : (Cond.selects "ThirdSheetsModel" ⟨"ThirdSheetsModel", "join", "([III)V"⟩ ⟨"ThirdSheetsModel", "join", "([III)V"⟩) ∈ lw_all := lw_g (lw_at lw_ms 39 rfl) rfl
theorem qs40 : (Cond.selects "ThirdSheetsModel" ⟨"ThirdSheetsModel", "endOf", "(III)I"⟩ ⟨"ThirdSheetsModel", "endOf", "(III)I"⟩) ∈ lw_all := lw_g (lw_at lw_ms 40 rfl) rfl
theorem qs41 : (Cond.selects "ThirdSheetsModel" ⟨"ThirdSheetsModel", "edgeOf", "(II)I"⟩ ⟨"ThirdSheetsModel", "edgeOf", "(II)I"⟩) ∈ lw_all := lw_g (lw_at lw_ms 41 rfl) rfl
theorem qs42 : (Cond.selects "ThirdSheetsModel" ⟨"ThirdSheetsModel", "edgeLabel", "(II)I"⟩ ⟨"ThirdSheetsModel", "edgeLabel", "(II)I"⟩) ∈ lw_all := lw_g (lw_at lw_ms 42 rfl) rfl
theorem qs43 : (Cond.selects "ThirdSheetsModel" ⟨"ThirdSheetsModel", "isFirstEdge", "(I)Z"⟩ ⟨"ThirdSheetsModel", "isFirstEdge", "(I)Z"⟩) ∈ lw_all := lw_g (lw_at lw_ms 43 rfl) rfl
theorem qs44 : (Cond.selects "ThirdSheetsModel" ⟨"ThirdSheetsModel", "edgeOfClass", "(I)I"⟩ ⟨"ThirdSheetsModel", "edgeOfClass", "(I)I"⟩) ∈ lw_all := lw_g (lw_at lw_ms 44 rfl) rfl
theorem qs45 : (Cond.selects "ThirdSheetsModel" ⟨"ThirdSheetsModel", "isBent", "(I)Z"⟩ ⟨"ThirdSheetsModel", "isBent", "(I)Z"⟩) ∈ lw_all := lw_g (lw_at lw_ms 45 rfl) rfl
theorem qs46 : (Cond.selects "ThirdSheetsModel" ⟨"ThirdSheetsModel", "cornerOfClass", "(I)I"⟩ ⟨"ThirdSheetsModel", "cornerOfClass", "(I)I"⟩) ∈ lw_all := lw_g (lw_at lw_ms 46 rfl) rfl
theorem qs47 : (Cond.selects "ThirdSheetsModel" ⟨"ThirdSheetsModel", "linkOf", "(I)I"⟩ ⟨"ThirdSheetsModel", "linkOf", "(I)I"⟩) ∈ lw_all := lw_g (lw_at lw_ms 47 rfl) rfl
theorem qs48 : (Cond.selects "ThirdSheetsModel" ⟨"ThirdSheetsModel", "cornerClasses", "()I"⟩ ⟨"ThirdSheetsModel", "cornerClasses", "()I"⟩) ∈ lw_all := lw_g (lw_at lw_ms 48 rfl) rfl
theorem qs49 : (Cond.selects "ThirdSheetsModel" ⟨"ThirdSheetsModel", "edgeClasses", "()I"⟩ ⟨"ThirdSheetsModel", "edgeClasses", "()I"⟩) ∈ lw_all := lw_g (lw_at lw_ms 49 rfl) rfl
theorem qs50 : (Cond.selects "ThirdSheetsModel" ⟨"ThirdSheetsModel", "sides", "(Z)I"⟩ ⟨"ThirdSheetsModel", "sides", "(Z)I"⟩) ∈ lw_all := lw_g (lw_at lw_ms 50 rfl) rfl
theorem qs51 : (Cond.selects "ThirdSheetsModel" ⟨"ThirdSheetsModel", "isWhole", "()Z"⟩ ⟨"ThirdSheetsModel", "isWhole", "()Z"⟩) ∈ lw_all := lw_g (lw_at lw_ms 51 rfl) rfl
theorem qs52 : (Cond.selects "ThirdSheetsModel" ⟨"ThirdSheetsModel", "anyBent", "()Z"⟩ ⟨"ThirdSheetsModel", "anyBent", "()Z"⟩) ∈ lw_all := lw_g (lw_at lw_ms 52 rfl) rfl
theorem qs53 : (Cond.selects "ThirdSheetsModel" ⟨"ThirdSheetsModel", "isEven", "()Z"⟩ ⟨"ThirdSheetsModel", "isEven", "()Z"⟩) ∈ lw_all := lw_g (lw_at lw_ms 53 rfl) rfl
theorem qs54 : (Cond.selects "ThirdSheetsModel" ⟨"ThirdSheetsModel", "isEvenChange", "(I)Z"⟩ ⟨"ThirdSheetsModel", "isEvenChange", "(I)Z"⟩) ∈ lw_all := lw_g (lw_at lw_ms 54 rfl) rfl
theorem qs55 : (Cond.selects "ThirdSheetsModel" ⟨"ThirdSheetsModel", "setMany", "()I"⟩ ⟨"ThirdSheetsModel", "setMany", "()I"⟩) ∈ lw_all := lw_g (lw_at lw_ms 55 rfl) rfl
theorem qs56 : (Cond.selects "ThirdSheetsModel" ⟨"ThirdSheetsModel", "layLoops", "()V"⟩ ⟨"ThirdSheetsModel", "layLoops", "()V"⟩) ∈ lw_all := lw_g (lw_at lw_ms 56 rfl) rfl
theorem qs57 : (Cond.selects "ThirdSheetsModel" ⟨"ThirdSheetsModel", "findPairs", "()V"⟩ ⟨"ThirdSheetsModel", "findPairs", "()V"⟩) ∈ lw_all := lw_g (lw_at lw_ms 57 rfl) rfl
theorem qs58 : (Cond.selects "ThirdSheetsModel" ⟨"ThirdSheetsModel", "goAround", "(I)Z"⟩ ⟨"ThirdSheetsModel", "goAround", "(I)Z"⟩) ∈ lw_all := lw_g (lw_at lw_ms 58 rfl) rfl
theorem qs59 : (Cond.selects "ThirdSheetsModel" ⟨"ThirdSheetsModel", "bring", "(I)Z"⟩ ⟨"ThirdSheetsModel", "bring", "(I)Z"⟩) ∈ lw_all := lw_g (lw_at lw_ms 59 rfl) rfl
theorem qs60 : (Cond.selects "ThirdSheetsModel" ⟨"ThirdSheetsModel", "cell", "(II)J"⟩ ⟨"ThirdSheetsModel", "cell", "(II)J"⟩) ∈ lw_all := lw_g (lw_at lw_ms 60 rfl) rfl
theorem qs61 : (Cond.selects "ThirdSheetsModel" ⟨"ThirdSheetsModel", "reduce", "(I)Z"⟩ ⟨"ThirdSheetsModel", "reduce", "(I)Z"⟩) ∈ lw_all := lw_g (lw_at lw_ms 61 rfl) rfl
theorem qs62 : (Cond.selects "ThirdSheetsModel" ⟨"ThirdSheetsModel", "findLeast", "()V"⟩ ⟨"ThirdSheetsModel", "findLeast", "()V"⟩) ∈ lw_all := lw_g (lw_at lw_ms 62 rfl) rfl
theorem qs63 : (Cond.selects "ThirdSheetsModel" ⟨"ThirdSheetsModel", "layEquation", "(II)V"⟩ ⟨"ThirdSheetsModel", "layEquation", "(II)V"⟩) ∈ lw_all := lw_g (lw_at lw_ms 63 rfl) rfl
theorem qs64 : (Cond.selects "ThirdSheetsModel" ⟨"ThirdSheetsModel", "meet", "()V"⟩ ⟨"ThirdSheetsModel", "meet", "()V"⟩) ∈ lw_all := lw_g (lw_at lw_ms 64 rfl) rfl
theorem qs65 : (Cond.selects "ThirdSheetsModel" ⟨"ThirdSheetsModel", "side", "(I)I"⟩ ⟨"ThirdSheetsModel", "side", "(I)I"⟩) ∈ lw_all := lw_g (lw_at lw_ms 65 rfl) rfl
theorem qs66 : (Cond.selects "ThirdSheetsModel" ⟨"ThirdSheetsModel", "layRay", "(IIII)V"⟩ ⟨"ThirdSheetsModel", "layRay", "(IIII)V"⟩) ∈ lw_all := lw_g (lw_at lw_ms 66 rfl) rfl
theorem qs67 : (Cond.selects "ThirdSheetsModel" ⟨"ThirdSheetsModel", "supportOf", "(I)I"⟩ ⟨"ThirdSheetsModel", "supportOf", "(I)I"⟩) ∈ lw_all := lw_g (lw_at lw_ms 67 rfl) rfl
theorem qs68 : (Cond.selects "ThirdSheetsModel" ⟨"ThirdSheetsModel", "hasOneKind", "(I)Z"⟩ ⟨"ThirdSheetsModel", "hasOneKind", "(I)Z"⟩) ∈ lw_all := lw_g (lw_at lw_ms 68 rfl) rfl
theorem qs69 : (Cond.selects "ThirdSheetsModel" ⟨"ThirdSheetsModel", "areBeside", "(III)Z"⟩ ⟨"ThirdSheetsModel", "areBeside", "(III)Z"⟩) ∈ lw_all := lw_g (lw_at lw_ms 69 rfl) rfl
theorem qs70 : (Cond.selects "ThirdSheetsModel" ⟨"ThirdSheetsModel", "isBefore", "(II)Z"⟩ ⟨"ThirdSheetsModel", "isBefore", "(II)Z"⟩) ∈ lw_all := lw_g (lw_at lw_ms 70 rfl) rfl
theorem qs71 : (Cond.selects "ThirdSheetsModel" ⟨"ThirdSheetsModel", "swap", "(II)V"⟩ ⟨"ThirdSheetsModel", "swap", "(II)V"⟩) ∈ lw_all := lw_g (lw_at lw_ms 71 rfl) rfl
theorem qs72 : (Cond.selects "ThirdSheetsModel" ⟨"ThirdSheetsModel", "arcs", "(III)I"⟩ ⟨"ThirdSheetsModel", "arcs", "(III)I"⟩) ∈ lw_all := lw_g (lw_at lw_ms 72 rfl) rfl
theorem qs73 : (Cond.selects "ThirdSheetsModel" ⟨"ThirdSheetsModel", "meets", "(II)Z"⟩ ⟨"ThirdSheetsModel", "meets", "(II)Z"⟩) ∈ lw_all := lw_g (lw_at lw_ms 73 rfl) rfl
theorem qs74 : (Cond.selects "ThirdSheetsModel" ⟨"ThirdSheetsModel", "findParts", "()I"⟩ ⟨"ThirdSheetsModel", "findParts", "()I"⟩) ∈ lw_all := lw_g (lw_at lw_ms 74 rfl) rfl
theorem qs75 : (Cond.selects "ThirdSheetsModel" ⟨"ThirdSheetsModel", "spread", "(II)I"⟩ ⟨"ThirdSheetsModel", "spread", "(II)I"⟩) ∈ lw_all := lw_g (lw_at lw_ms 75 rfl) rfl
theorem qs76 : (Cond.selects "ThirdSheetsModel" ⟨"ThirdSheetsModel", "sortOf", "(I)I"⟩ ⟨"ThirdSheetsModel", "sortOf", "(I)I"⟩) ∈ lw_all := lw_g (lw_at lw_ms 76 rfl) rfl
theorem qs77 : (Cond.selects "ThirdSheetsModel" ⟨"ThirdSheetsModel", "cutAt", "(III)I"⟩ ⟨"ThirdSheetsModel", "cutAt", "(III)I"⟩) ∈ lw_all := lw_g (lw_at lw_ms 77 rfl) rfl
theorem qs78 : (Cond.selects "ThirdSheetsModel" ⟨"ThirdSheetsModel", "looks", "(III)Z"⟩ ⟨"ThirdSheetsModel", "looks", "(III)Z"⟩) ∈ lw_all := lw_g (lw_at lw_ms 78 rfl) rfl
theorem qs79 : (Cond.selects "ThirdSheetsModel" ⟨"ThirdSheetsModel", "cutsOf", "(I)I"⟩ ⟨"ThirdSheetsModel", "cutsOf", "(I)I"⟩) ∈ lw_all := lw_g (lw_at lw_ms 79 rfl) rfl
theorem qs80 : (Cond.selects "ThirdSheetsModel" ⟨"ThirdSheetsModel", "worth", "(I)I"⟩ ⟨"ThirdSheetsModel", "worth", "(I)I"⟩) ∈ lw_all := lw_g (lw_at lw_ms 80 rfl) rfl
