-- ===== PART A: goes FIRST, ahead of the names: the tables' words, and 'selects' of the private methods out of them =====
/-- a private method of a class that the tables say can be made, by its rows of tables_1 -/
def lw_okq (q : MethodName × Nat) : Prop := (q.1.cls ≠ "java/lang/invoke/MethodHandle" ∧ q.1.cls ≠ "java/lang/invoke/VarHandle") ∧ Cond.instantiable q.1.cls q.2 ∈ tables_1 ∧ Cond.privateMethod q.1 ∈ tables_1 ∧ Cond.instanceMethod q.1 ∈ tables_1
set_option maxRecDepth 100000
theorem lw_t1 {w : Cond} (h : w ∈ tables_1_1) : w ∈ tables_1 := List.mem_append_left _ h
theorem lw_t2 {w : Cond} (h : w ∈ tables_1_2) : w ∈ tables_1 := List.mem_append_right _ (List.mem_append_left _ h)
theorem lw_t3 {w : Cond} (h : w ∈ tables_1_3) : w ∈ tables_1 := List.mem_append_right _ (List.mem_append_right _ (List.mem_append_left _ h))
theorem lw_t4 {w : Cond} (h : w ∈ tables_1_4) : w ∈ tables_1 := List.mem_append_right _ (List.mem_append_right _ (List.mem_append_right _ (List.mem_append_left _ h)))
theorem lw_t5 {w : Cond} (h : w ∈ tables_1_5) : w ∈ tables_1 := List.mem_append_right _ (List.mem_append_right _ (List.mem_append_right _ (List.mem_append_right _ h)))
theorem lw_p0 : lw_okq (⟨"ShapeRelator$Relator", "take", "()V"⟩, 14) := ⟨⟨by decide +kernel, by decide +kernel⟩, lw_t1 (List.mem_of_getElem? (i := 31) rfl), lw_t2 (List.mem_of_getElem? (i := 61) rfl), lw_t2 (List.mem_of_getElem? (i := 62) rfl)⟩
theorem lw_p1 : lw_okq (⟨"ShapeRelator$Segments", "addAll", "(LShapeRelator$Outline;)V"⟩, 6) := ⟨⟨by decide +kernel, by decide +kernel⟩, lw_t1 (List.mem_of_getElem? (i := 76) rfl), lw_t2 (List.mem_of_getElem? (i := 69) rfl), lw_t2 (List.mem_of_getElem? (i := 70) rfl)⟩
theorem lw_p2 : lw_okq (⟨"ShapeRelator$Segments", "add", "(LShapeRelator$Outline;II)V"⟩, 6) := ⟨⟨by decide +kernel, by decide +kernel⟩, lw_t1 (List.mem_of_getElem? (i := 76) rfl), lw_t2 (List.mem_of_getElem? (i := 77) rfl), lw_t2 (List.mem_of_getElem? (i := 78) rfl)⟩
theorem lw_p3 : lw_okq (⟨"ShapeRelator$Tree", "sort", "(LShapeRelator$Bounds;IIZ)V"⟩, 11) := ⟨⟨by decide +kernel, by decide +kernel⟩, lw_t1 (List.mem_of_getElem? (i := 130) rfl), lw_t2 (List.mem_of_getElem? (i := 115) rfl), lw_t2 (List.mem_of_getElem? (i := 116) rfl)⟩
theorem lw_p4 : lw_okq (⟨"ShapeRelator$Sorter", "before", "(II)Z"⟩, 3) := ⟨⟨by decide +kernel, by decide +kernel⟩, lw_t1 (List.mem_of_getElem? (i := 136) rfl), lw_t2 (List.mem_of_getElem? (i := 135) rfl), lw_t2 (List.mem_of_getElem? (i := 136) rfl)⟩
theorem lw_p5 : lw_okq (⟨"ShapeRelator$Sorter", "swap", "(II)V"⟩, 3) := ⟨⟨by decide +kernel, by decide +kernel⟩, lw_t1 (List.mem_of_getElem? (i := 136) rfl), lw_t2 (List.mem_of_getElem? (i := 139) rfl), lw_t2 (List.mem_of_getElem? (i := 140) rfl)⟩
theorem lw_p6 : lw_okq (⟨"ShapeRelator$Sorter", "least", "(I)I"⟩, 3) := ⟨⟨by decide +kernel, by decide +kernel⟩, lw_t1 (List.mem_of_getElem? (i := 136) rfl), lw_t2 (List.mem_of_getElem? (i := 147) rfl), lw_t2 (List.mem_of_getElem? (i := 148) rfl)⟩
theorem lw_p7 : lw_okq (⟨"ShapeRelator$Tree", "node", "(LShapeRelator$Bounds;IIZ)V"⟩, 11) := ⟨⟨by decide +kernel, by decide +kernel⟩, lw_t1 (List.mem_of_getElem? (i := 130) rfl), lw_t2 (List.mem_of_getElem? (i := 152) rfl), lw_t2 (List.mem_of_getElem? (i := 153) rfl)⟩
theorem lw_p8 : lw_okq (⟨"ShapeRelator$Relator", "walk", "(I)V"⟩, 14) := ⟨⟨by decide +kernel, by decide +kernel⟩, lw_t1 (List.mem_of_getElem? (i := 31) rfl), lw_t2 (List.mem_of_getElem? (i := 171) rfl), lw_t2 (List.mem_of_getElem? (i := 172) rfl)⟩
theorem lw_p9 : lw_okq (⟨"ShapeRelator$Relator", "gather", "(I)V"⟩, 14) := ⟨⟨by decide +kernel, by decide +kernel⟩, lw_t1 (List.mem_of_getElem? (i := 31) rfl), lw_t2 (List.mem_of_getElem? (i := 175) rfl), lw_t2 (List.mem_of_getElem? (i := 176) rfl)⟩
theorem lw_p10 : lw_okq (⟨"ShapeRelator$Relator", "meet", "(II)V"⟩, 14) := ⟨⟨by decide +kernel, by decide +kernel⟩, lw_t1 (List.mem_of_getElem? (i := 31) rfl), lw_t2 (List.mem_of_getElem? (i := 201) rfl), lw_t2 (List.mem_of_getElem? (i := 202) rfl)⟩
theorem lw_p11 : lw_okq (⟨"ShapeRelator$Events", "grow", "()V"⟩, 7) := ⟨⟨by decide +kernel, by decide +kernel⟩, lw_t1 (List.mem_of_getElem? (i := 184) rfl), lw_t2 (List.mem_of_getElem? (i := 232) rfl), lw_t2 (List.mem_of_getElem? (i := 233) rfl)⟩
theorem lw_p12 : lw_okq (⟨"ShapeRelator$Relator", "meetPlace", "(III)V"⟩, 14) := ⟨⟨by decide +kernel, by decide +kernel⟩, lw_t1 (List.mem_of_getElem? (i := 31) rfl), lw_t3 (List.mem_of_getElem? (i := 1) rfl), lw_t3 (List.mem_of_getElem? (i := 2) rfl)⟩
theorem lw_p13 : lw_okq (⟨"ShapeRelator$Events", "sink", "(II)V"⟩, 7) := ⟨⟨by decide +kernel, by decide +kernel⟩, lw_t1 (List.mem_of_getElem? (i := 184) rfl), lw_t3 (List.mem_of_getElem? (i := 18) rfl), lw_t3 (List.mem_of_getElem? (i := 19) rfl)⟩
theorem lw_p14 : lw_okq (⟨"ShapeRelator$Events", "isBehind", "(II)Z"⟩, 7) := ⟨⟨by decide +kernel, by decide +kernel⟩, lw_t1 (List.mem_of_getElem? (i := 184) rfl), lw_t3 (List.mem_of_getElem? (i := 22) rfl), lw_t3 (List.mem_of_getElem? (i := 23) rfl)⟩
theorem lw_p15 : lw_okq (⟨"ShapeRelator$Relator", "notePlace", "(II)V"⟩, 14) := ⟨⟨by decide +kernel, by decide +kernel⟩, lw_t1 (List.mem_of_getElem? (i := 31) rfl), lw_t3 (List.mem_of_getElem? (i := 38) rfl), lw_t3 (List.mem_of_getElem? (i := 39) rfl)⟩
def lw_privs_1 : List (MethodName × Nat) := [(⟨"ShapeRelator$Relator", "take", "()V"⟩, 14), (⟨"ShapeRelator$Segments", "addAll", "(LShapeRelator$Outline;)V"⟩, 6), (⟨"ShapeRelator$Segments", "add", "(LShapeRelator$Outline;II)V"⟩, 6), (⟨"ShapeRelator$Tree", "sort", "(LShapeRelator$Bounds;IIZ)V"⟩, 11), (⟨"ShapeRelator$Sorter", "before", "(II)Z"⟩, 3), (⟨"ShapeRelator$Sorter", "swap", "(II)V"⟩, 3), (⟨"ShapeRelator$Sorter", "least", "(I)I"⟩, 3), (⟨"ShapeRelator$Tree", "node", "(LShapeRelator$Bounds;IIZ)V"⟩, 11), (⟨"ShapeRelator$Relator", "walk", "(I)V"⟩, 14), (⟨"ShapeRelator$Relator", "gather", "(I)V"⟩, 14), (⟨"ShapeRelator$Relator", "meet", "(II)V"⟩, 14), (⟨"ShapeRelator$Events", "grow", "()V"⟩, 7), (⟨"ShapeRelator$Relator", "meetPlace", "(III)V"⟩, 14), (⟨"ShapeRelator$Events", "sink", "(II)V"⟩, 7), (⟨"ShapeRelator$Events", "isBehind", "(II)Z"⟩, 7), (⟨"ShapeRelator$Relator", "notePlace", "(II)V"⟩, 14)]
theorem lw_r1 : ∀ q ∈ lw_privs_1, lw_okq q := List.forall_mem_cons.mpr ⟨lw_p0, List.forall_mem_cons.mpr ⟨lw_p1, List.forall_mem_cons.mpr ⟨lw_p2, List.forall_mem_cons.mpr ⟨lw_p3, List.forall_mem_cons.mpr ⟨lw_p4, List.forall_mem_cons.mpr ⟨lw_p5, List.forall_mem_cons.mpr ⟨lw_p6, List.forall_mem_cons.mpr ⟨lw_p7, List.forall_mem_cons.mpr ⟨lw_p8, List.forall_mem_cons.mpr ⟨lw_p9, List.forall_mem_cons.mpr ⟨lw_p10, List.forall_mem_cons.mpr ⟨lw_p11, List.forall_mem_cons.mpr ⟨lw_p12, List.forall_mem_cons.mpr ⟨lw_p13, List.forall_mem_cons.mpr ⟨lw_p14, List.forall_mem_cons.mpr ⟨lw_p15, fun _ h => absurd h List.not_mem_nil⟩⟩⟩⟩⟩⟩⟩⟩⟩⟩⟩⟩⟩⟩⟩⟩
theorem lw_p16 : lw_okq (⟨"ShapeRelator$Relator", "placeOf", "(III)I"⟩, 14) := ⟨⟨by decide +kernel, by decide +kernel⟩, lw_t1 (List.mem_of_getElem? (i := 31) rfl), lw_t3 (List.mem_of_getElem? (i := 42) rfl), lw_t3 (List.mem_of_getElem? (i := 43) rfl)⟩
theorem lw_p17 : lw_okq (⟨"ShapeRelator$Relator", "isPoint", "(LShapeRelator$Outline;II)Z"⟩, 14) := ⟨⟨by decide +kernel, by decide +kernel⟩, lw_t1 (List.mem_of_getElem? (i := 31) rfl), lw_t3 (List.mem_of_getElem? (i := 46) rfl), lw_t3 (List.mem_of_getElem? (i := 47) rfl)⟩
theorem lw_p18 : lw_okq (⟨"ShapeRelator$Relator", "note", "(III)V"⟩, 14) := ⟨⟨by decide +kernel, by decide +kernel⟩, lw_t1 (List.mem_of_getElem? (i := 31) rfl), lw_t3 (List.mem_of_getElem? (i := 89) rfl), lw_t3 (List.mem_of_getElem? (i := 90) rfl)⟩
theorem lw_p19 : lw_okq (⟨"ShapeRelator$Relator", "look", "(III)V"⟩, 14) := ⟨⟨by decide +kernel, by decide +kernel⟩, lw_t1 (List.mem_of_getElem? (i := 31) rfl), lw_t3 (List.mem_of_getElem? (i := 93) rfl), lw_t3 (List.mem_of_getElem? (i := 94) rfl)⟩
theorem lw_p20 : lw_okq (⟨"ShapeRelator$Segments", "goesAlong", "(ILShapeRelator$Step;)Z"⟩, 6) := ⟨⟨by decide +kernel, by decide +kernel⟩, lw_t1 (List.mem_of_getElem? (i := 76) rfl), lw_t3 (List.mem_of_getElem? (i := 101) rfl), lw_t3 (List.mem_of_getElem? (i := 102) rfl)⟩
theorem lw_p21 : lw_okq (⟨"ShapeRelator$Relator", "notePiece", "()V"⟩, 14) := ⟨⟨by decide +kernel, by decide +kernel⟩, lw_t1 (List.mem_of_getElem? (i := 31) rfl), lw_t3 (List.mem_of_getElem? (i := 112) rfl), lw_t3 (List.mem_of_getElem? (i := 113) rfl)⟩
theorem lw_p22 : lw_okq (⟨"ShapeRelator$Relator", "noteCrossing", "(ZZ)V"⟩, 14) := ⟨⟨by decide +kernel, by decide +kernel⟩, lw_t1 (List.mem_of_getElem? (i := 31) rfl), lw_t3 (List.mem_of_getElem? (i := 120) rfl), lw_t3 (List.mem_of_getElem? (i := 121) rfl)⟩
theorem lw_p23 : lw_okq (⟨"ShapeRelator$Relator", "crossed", "(IZ)I"⟩, 14) := ⟨⟨by decide +kernel, by decide +kernel⟩, lw_t1 (List.mem_of_getElem? (i := 31) rfl), lw_t3 (List.mem_of_getElem? (i := 124) rfl), lw_t3 (List.mem_of_getElem? (i := 125) rfl)⟩
theorem lw_p24 : lw_okq (⟨"ShapeRelator$Relator", "turn", "(IZZ)V"⟩, 14) := ⟨⟨by decide +kernel, by decide +kernel⟩, lw_t1 (List.mem_of_getElem? (i := 31) rfl), lw_t3 (List.mem_of_getElem? (i := 128) rfl), lw_t3 (List.mem_of_getElem? (i := 129) rfl)⟩
theorem lw_p25 : lw_okq (⟨"ShapeRelator$Relator", "turnOne", "(IZ)V"⟩, 14) := ⟨⟨by decide +kernel, by decide +kernel⟩, lw_t1 (List.mem_of_getElem? (i := 31) rfl), lw_t3 (List.mem_of_getElem? (i := 132) rfl), lw_t3 (List.mem_of_getElem? (i := 133) rfl)⟩
theorem lw_p26 : lw_okq (⟨"ShapeRelator$Relator", "noteEnds", "(LShapeRelator$Outline;)V"⟩, 14) := ⟨⟨by decide +kernel, by decide +kernel⟩, lw_t1 (List.mem_of_getElem? (i := 31) rfl), lw_t3 (List.mem_of_getElem? (i := 136) rfl), lw_t3 (List.mem_of_getElem? (i := 137) rfl)⟩
theorem lw_p27 : lw_okq (⟨"java/lang/Throwable", "fillInStackTrace", "(I)Ljava/lang/Throwable;"⟩, 6) := ⟨⟨by decide +kernel, by decide +kernel⟩, lw_t3 (List.mem_of_getElem? (i := 178) rfl), lw_t3 (List.mem_of_getElem? (i := 176) rfl), lw_t3 (List.mem_of_getElem? (i := 177) rfl)⟩
theorem lw_p28 : lw_okq (⟨"ShapeRelator", "known", "(I)LShapeRelator$Outline;"⟩, 1) := ⟨⟨by decide +kernel, by decide +kernel⟩, lw_t1 (List.mem_of_getElem? (i := 23) rfl), lw_t3 (List.mem_of_getElem? (i := 229) rfl), lw_t3 (List.mem_of_getElem? (i := 230) rfl)⟩
theorem lw_p29 : lw_okq (⟨"ShapeRelatorModel", "fail", "(I)I"⟩, 21) := ⟨⟨by decide +kernel, by decide +kernel⟩, lw_t4 (List.mem_of_getElem? (i := 174) rfl), lw_t5 (List.mem_of_getElem? (i := 18) rfl), lw_t5 (List.mem_of_getElem? (i := 19) rfl)⟩
theorem lw_p30 : lw_okq (⟨"ShapeRelatorModel", "gather", "()V"⟩, 21) := ⟨⟨by decide +kernel, by decide +kernel⟩, lw_t4 (List.mem_of_getElem? (i := 174) rfl), lw_t5 (List.mem_of_getElem? (i := 39) rfl), lw_t5 (List.mem_of_getElem? (i := 40) rfl)⟩
theorem lw_p31 : lw_okq (⟨"ShapeRelatorModel", "first", "(II)I"⟩, 21) := ⟨⟨by decide +kernel, by decide +kernel⟩, lw_t4 (List.mem_of_getElem? (i := 174) rfl), lw_t5 (List.mem_of_getElem? (i := 43) rfl), lw_t5 (List.mem_of_getElem? (i := 44) rfl)⟩
def lw_privs_2 : List (MethodName × Nat) := [(⟨"ShapeRelator$Relator", "placeOf", "(III)I"⟩, 14), (⟨"ShapeRelator$Relator", "isPoint", "(LShapeRelator$Outline;II)Z"⟩, 14), (⟨"ShapeRelator$Relator", "note", "(III)V"⟩, 14), (⟨"ShapeRelator$Relator", "look", "(III)V"⟩, 14), (⟨"ShapeRelator$Segments", "goesAlong", "(ILShapeRelator$Step;)Z"⟩, 6), (⟨"ShapeRelator$Relator", "notePiece", "()V"⟩, 14), (⟨"ShapeRelator$Relator", "noteCrossing", "(ZZ)V"⟩, 14), (⟨"ShapeRelator$Relator", "crossed", "(IZ)I"⟩, 14), (⟨"ShapeRelator$Relator", "turn", "(IZZ)V"⟩, 14), (⟨"ShapeRelator$Relator", "turnOne", "(IZ)V"⟩, 14), (⟨"ShapeRelator$Relator", "noteEnds", "(LShapeRelator$Outline;)V"⟩, 14), (⟨"java/lang/Throwable", "fillInStackTrace", "(I)Ljava/lang/Throwable;"⟩, 6), (⟨"ShapeRelator", "known", "(I)LShapeRelator$Outline;"⟩, 1), (⟨"ShapeRelatorModel", "fail", "(I)I"⟩, 21), (⟨"ShapeRelatorModel", "gather", "()V"⟩, 21), (⟨"ShapeRelatorModel", "first", "(II)I"⟩, 21)]
theorem lw_r2 : ∀ q ∈ lw_privs_2, lw_okq q := List.forall_mem_cons.mpr ⟨lw_p16, List.forall_mem_cons.mpr ⟨lw_p17, List.forall_mem_cons.mpr ⟨lw_p18, List.forall_mem_cons.mpr ⟨lw_p19, List.forall_mem_cons.mpr ⟨lw_p20, List.forall_mem_cons.mpr ⟨lw_p21, List.forall_mem_cons.mpr ⟨lw_p22, List.forall_mem_cons.mpr ⟨lw_p23, List.forall_mem_cons.mpr ⟨lw_p24, List.forall_mem_cons.mpr ⟨lw_p25, List.forall_mem_cons.mpr ⟨lw_p26, List.forall_mem_cons.mpr ⟨lw_p27, List.forall_mem_cons.mpr ⟨lw_p28, List.forall_mem_cons.mpr ⟨lw_p29, List.forall_mem_cons.mpr ⟨lw_p30, List.forall_mem_cons.mpr ⟨lw_p31, fun _ h => absurd h List.not_mem_nil⟩⟩⟩⟩⟩⟩⟩⟩⟩⟩⟩⟩⟩⟩⟩⟩
theorem lw_p32 : lw_okq (⟨"ShapeRelatorModel", "end", "(II)I"⟩, 21) := ⟨⟨by decide +kernel, by decide +kernel⟩, lw_t4 (List.mem_of_getElem? (i := 174) rfl), lw_t5 (List.mem_of_getElem? (i := 47) rfl), lw_t5 (List.mem_of_getElem? (i := 48) rfl)⟩
theorem lw_p33 : lw_okq (⟨"ShapeRelatorModel", "join", "(III)V"⟩, 21) := ⟨⟨by decide +kernel, by decide +kernel⟩, lw_t4 (List.mem_of_getElem? (i := 174) rfl), lw_t5 (List.mem_of_getElem? (i := 51) rfl), lw_t5 (List.mem_of_getElem? (i := 52) rfl)⟩
theorem lw_p34 : lw_okq (⟨"ShapeRelatorModel", "alike", "(II)Z"⟩, 21) := ⟨⟨by decide +kernel, by decide +kernel⟩, lw_t4 (List.mem_of_getElem? (i := 174) rfl), lw_t5 (List.mem_of_getElem? (i := 55) rfl), lw_t5 (List.mem_of_getElem? (i := 56) rfl)⟩
theorem lw_p35 : lw_okq (⟨"ShapeRelatorModel", "stand", "(JJJJ)V"⟩, 21) := ⟨⟨by decide +kernel, by decide +kernel⟩, lw_t4 (List.mem_of_getElem? (i := 174) rfl), lw_t5 (List.mem_of_getElem? (i := 59) rfl), lw_t5 (List.mem_of_getElem? (i := 60) rfl)⟩
theorem lw_p36 : lw_okq (⟨"ShapeRelatorModel", "at", "(JJ)V"⟩, 21) := ⟨⟨by decide +kernel, by decide +kernel⟩, lw_t4 (List.mem_of_getElem? (i := 174) rfl), lw_t5 (List.mem_of_getElem? (i := 63) rfl), lw_t5 (List.mem_of_getElem? (i := 64) rfl)⟩
theorem lw_p37 : lw_okq (⟨"ShapeRelatorModel", "set", "(IJ)V"⟩, 21) := ⟨⟨by decide +kernel, by decide +kernel⟩, lw_t4 (List.mem_of_getElem? (i := 174) rfl), lw_t5 (List.mem_of_getElem? (i := 67) rfl), lw_t5 (List.mem_of_getElem? (i := 68) rfl)⟩
theorem lw_p38 : lw_okq (⟨"ShapeRelatorModel", "clear", "(I)V"⟩, 21) := ⟨⟨by decide +kernel, by decide +kernel⟩, lw_t4 (List.mem_of_getElem? (i := 174) rfl), lw_t5 (List.mem_of_getElem? (i := 71) rfl), lw_t5 (List.mem_of_getElem? (i := 72) rfl)⟩
theorem lw_p39 : lw_okq (⟨"ShapeRelatorModel", "settle", "(I)V"⟩, 21) := ⟨⟨by decide +kernel, by decide +kernel⟩, lw_t4 (List.mem_of_getElem? (i := 174) rfl), lw_t5 (List.mem_of_getElem? (i := 76) rfl), lw_t5 (List.mem_of_getElem? (i := 77) rfl)⟩
theorem lw_p40 : lw_okq (⟨"ShapeRelatorModel", "where", "(I)I"⟩, 21) := ⟨⟨by decide +kernel, by decide +kernel⟩, lw_t4 (List.mem_of_getElem? (i := 174) rfl), lw_t5 (List.mem_of_getElem? (i := 81) rfl), lw_t5 (List.mem_of_getElem? (i := 82) rfl)⟩
theorem lw_p41 : lw_okq (⟨"ShapeRelatorModel", "hasPoint", "(I)Z"⟩, 21) := ⟨⟨by decide +kernel, by decide +kernel⟩, lw_t4 (List.mem_of_getElem? (i := 174) rfl), lw_t5 (List.mem_of_getElem? (i := 85) rfl), lw_t5 (List.mem_of_getElem? (i := 86) rfl)⟩
theorem lw_p42 : lw_okq (⟨"ShapeRelatorModel", "isPoint", "(I)Z"⟩, 21) := ⟨⟨by decide +kernel, by decide +kernel⟩, lw_t4 (List.mem_of_getElem? (i := 174) rfl), lw_t5 (List.mem_of_getElem? (i := 89) rfl), lw_t5 (List.mem_of_getElem? (i := 90) rfl)⟩
theorem lw_p43 : lw_okq (⟨"ShapeRelatorModel", "overX", "(J)I"⟩, 21) := ⟨⟨by decide +kernel, by decide +kernel⟩, lw_t4 (List.mem_of_getElem? (i := 174) rfl), lw_t5 (List.mem_of_getElem? (i := 93) rfl), lw_t5 (List.mem_of_getElem? (i := 94) rfl)⟩
theorem lw_p44 : lw_okq (⟨"ShapeRelatorModel", "sgn", "(JJ)I"⟩, 21) := ⟨⟨by decide +kernel, by decide +kernel⟩, lw_t4 (List.mem_of_getElem? (i := 174) rfl), lw_t5 (List.mem_of_getElem? (i := 97) rfl), lw_t5 (List.mem_of_getElem? (i := 98) rfl)⟩
theorem lw_p45 : lw_okq (⟨"ShapeRelatorModel", "product", "(III)V"⟩, 21) := ⟨⟨by decide +kernel, by decide +kernel⟩, lw_t4 (List.mem_of_getElem? (i := 174) rfl), lw_t5 (List.mem_of_getElem? (i := 101) rfl), lw_t5 (List.mem_of_getElem? (i := 102) rfl)⟩
theorem lw_p46 : lw_okq (⟨"ShapeRelatorModel", "signOf", "(I)I"⟩, 21) := ⟨⟨by decide +kernel, by decide +kernel⟩, lw_t4 (List.mem_of_getElem? (i := 174) rfl), lw_t5 (List.mem_of_getElem? (i := 105) rfl), lw_t5 (List.mem_of_getElem? (i := 106) rfl)⟩
theorem lw_p47 : lw_okq (⟨"ShapeRelatorModel", "overY", "(J)I"⟩, 21) := ⟨⟨by decide +kernel, by decide +kernel⟩, lw_t4 (List.mem_of_getElem? (i := 174) rfl), lw_t5 (List.mem_of_getElem? (i := 109) rfl), lw_t5 (List.mem_of_getElem? (i := 110) rfl)⟩
def lw_privs_3 : List (MethodName × Nat) := [(⟨"ShapeRelatorModel", "end", "(II)I"⟩, 21), (⟨"ShapeRelatorModel", "join", "(III)V"⟩, 21), (⟨"ShapeRelatorModel", "alike", "(II)Z"⟩, 21), (⟨"ShapeRelatorModel", "stand", "(JJJJ)V"⟩, 21), (⟨"ShapeRelatorModel", "at", "(JJ)V"⟩, 21), (⟨"ShapeRelatorModel", "set", "(IJ)V"⟩, 21), (⟨"ShapeRelatorModel", "clear", "(I)V"⟩, 21), (⟨"ShapeRelatorModel", "settle", "(I)V"⟩, 21), (⟨"ShapeRelatorModel", "where", "(I)I"⟩, 21), (⟨"ShapeRelatorModel", "hasPoint", "(I)Z"⟩, 21), (⟨"ShapeRelatorModel", "isPoint", "(I)Z"⟩, 21), (⟨"ShapeRelatorModel", "overX", "(J)I"⟩, 21), (⟨"ShapeRelatorModel", "sgn", "(JJ)I"⟩, 21), (⟨"ShapeRelatorModel", "product", "(III)V"⟩, 21), (⟨"ShapeRelatorModel", "signOf", "(I)I"⟩, 21), (⟨"ShapeRelatorModel", "overY", "(J)I"⟩, 21)]
theorem lw_r3 : ∀ q ∈ lw_privs_3, lw_okq q := List.forall_mem_cons.mpr ⟨lw_p32, List.forall_mem_cons.mpr ⟨lw_p33, List.forall_mem_cons.mpr ⟨lw_p34, List.forall_mem_cons.mpr ⟨lw_p35, List.forall_mem_cons.mpr ⟨lw_p36, List.forall_mem_cons.mpr ⟨lw_p37, List.forall_mem_cons.mpr ⟨lw_p38, List.forall_mem_cons.mpr ⟨lw_p39, List.forall_mem_cons.mpr ⟨lw_p40, List.forall_mem_cons.mpr ⟨lw_p41, List.forall_mem_cons.mpr ⟨lw_p42, List.forall_mem_cons.mpr ⟨lw_p43, List.forall_mem_cons.mpr ⟨lw_p44, List.forall_mem_cons.mpr ⟨lw_p45, List.forall_mem_cons.mpr ⟨lw_p46, List.forall_mem_cons.mpr ⟨lw_p47, fun _ h => absurd h List.not_mem_nil⟩⟩⟩⟩⟩⟩⟩⟩⟩⟩⟩⟩⟩⟩⟩⟩
theorem lw_p48 : lw_okq (⟨"ShapeRelatorModel", "having", "(I)I"⟩, 21) := ⟨⟨by decide +kernel, by decide +kernel⟩, lw_t4 (List.mem_of_getElem? (i := 174) rfl), lw_t5 (List.mem_of_getElem? (i := 113) rfl), lw_t5 (List.mem_of_getElem? (i := 114) rfl)⟩
theorem lw_p49 : lw_okq (⟨"ShapeRelatorModel", "isOn", "(I)Z"⟩, 21) := ⟨⟨by decide +kernel, by decide +kernel⟩, lw_t4 (List.mem_of_getElem? (i := 174) rfl), lw_t5 (List.mem_of_getElem? (i := 117) rfl), lw_t5 (List.mem_of_getElem? (i := 118) rfl)⟩
theorem lw_p50 : lw_okq (⟨"ShapeRelatorModel", "side", "(II)I"⟩, 21) := ⟨⟨by decide +kernel, by decide +kernel⟩, lw_t4 (List.mem_of_getElem? (i := 174) rfl), lw_t5 (List.mem_of_getElem? (i := 121) rfl), lw_t5 (List.mem_of_getElem? (i := 122) rfl)⟩
theorem lw_p51 : lw_okq (⟨"ShapeRelatorModel", "isEnd", "(I)Z"⟩, 21) := ⟨⟨by decide +kernel, by decide +kernel⟩, lw_t4 (List.mem_of_getElem? (i := 174) rfl), lw_t5 (List.mem_of_getElem? (i := 125) rfl), lw_t5 (List.mem_of_getElem? (i := 126) rfl)⟩
theorem lw_p52 : lw_okq (⟨"ShapeRelatorModel", "crossed", "(I)I"⟩, 21) := ⟨⟨by decide +kernel, by decide +kernel⟩, lw_t4 (List.mem_of_getElem? (i := 174) rfl), lw_t5 (List.mem_of_getElem? (i := 129) rfl), lw_t5 (List.mem_of_getElem? (i := 130) rfl)⟩
theorem lw_p53 : lw_okq (⟨"ShapeRelatorModel", "crosses", "(I)Z"⟩, 21) := ⟨⟨by decide +kernel, by decide +kernel⟩, lw_t4 (List.mem_of_getElem? (i := 174) rfl), lw_t5 (List.mem_of_getElem? (i := 133) rfl), lw_t5 (List.mem_of_getElem? (i := 134) rfl)⟩
theorem lw_p54 : lw_okq (⟨"ShapeRelatorModel", "look", "()V"⟩, 21) := ⟨⟨by decide +kernel, by decide +kernel⟩, lw_t4 (List.mem_of_getElem? (i := 174) rfl), lw_t5 (List.mem_of_getElem? (i := 141) rfl), lw_t5 (List.mem_of_getElem? (i := 142) rfl)⟩
theorem lw_p55 : lw_okq (⟨"ShapeRelatorModel", "cutAt", "(I)V"⟩, 21) := ⟨⟨by decide +kernel, by decide +kernel⟩, lw_t4 (List.mem_of_getElem? (i := 174) rfl), lw_t5 (List.mem_of_getElem? (i := 145) rfl), lw_t5 (List.mem_of_getElem? (i := 146) rfl)⟩
theorem lw_p56 : lw_okq (⟨"ShapeRelatorModel", "mark", "(III)V"⟩, 21) := ⟨⟨by decide +kernel, by decide +kernel⟩, lw_t4 (List.mem_of_getElem? (i := 174) rfl), lw_t5 (List.mem_of_getElem? (i := 149) rfl), lw_t5 (List.mem_of_getElem? (i := 150) rfl)⟩
theorem lw_p57 : lw_okq (⟨"ShapeRelatorModel", "cutAll", "(I)V"⟩, 21) := ⟨⟨by decide +kernel, by decide +kernel⟩, lw_t4 (List.mem_of_getElem? (i := 174) rfl), lw_t5 (List.mem_of_getElem? (i := 153) rfl), lw_t5 (List.mem_of_getElem? (i := 154) rfl)⟩
theorem lw_p58 : lw_okq (⟨"ShapeRelatorModel", "cut", "(JJ)V"⟩, 21) := ⟨⟨by decide +kernel, by decide +kernel⟩, lw_t4 (List.mem_of_getElem? (i := 174) rfl), lw_t5 (List.mem_of_getElem? (i := 157) rfl), lw_t5 (List.mem_of_getElem? (i := 158) rfl)⟩
theorem lw_p59 : lw_okq (⟨"ShapeRelatorModel", "cutByPoint", "(II)V"⟩, 21) := ⟨⟨by decide +kernel, by decide +kernel⟩, lw_t4 (List.mem_of_getElem? (i := 174) rfl), lw_t5 (List.mem_of_getElem? (i := 164) rfl), lw_t5 (List.mem_of_getElem? (i := 165) rfl)⟩
theorem lw_p60 : lw_okq (⟨"ShapeRelatorModel", "cutBySegment", "(II)V"⟩, 21) := ⟨⟨by decide +kernel, by decide +kernel⟩, lw_t4 (List.mem_of_getElem? (i := 174) rfl), lw_t5 (List.mem_of_getElem? (i := 168) rfl), lw_t5 (List.mem_of_getElem? (i := 169) rfl)⟩
theorem lw_p61 : lw_okq (⟨"ShapeRelatorModel", "piece", "(II)V"⟩, 21) := ⟨⟨by decide +kernel, by decide +kernel⟩, lw_t4 (List.mem_of_getElem? (i := 174) rfl), lw_t5 (List.mem_of_getElem? (i := 172) rfl), lw_t5 (List.mem_of_getElem? (i := 173) rfl)⟩
theorem lw_p62 : lw_okq (⟨"ShapeRelatorModel", "between", "(JJJJ)V"⟩, 21) := ⟨⟨by decide +kernel, by decide +kernel⟩, lw_t4 (List.mem_of_getElem? (i := 174) rfl), lw_t5 (List.mem_of_getElem? (i := 176) rfl), lw_t5 (List.mem_of_getElem? (i := 177) rfl)⟩
theorem lw_p63 : lw_okq (⟨"ShapeRelatorModel", "beside", "(IZ)I"⟩, 21) := ⟨⟨by decide +kernel, by decide +kernel⟩, lw_t4 (List.mem_of_getElem? (i := 174) rfl), lw_t5 (List.mem_of_getElem? (i := 180) rfl), lw_t5 (List.mem_of_getElem? (i := 181) rfl)⟩
def lw_privs_4 : List (MethodName × Nat) := [(⟨"ShapeRelatorModel", "having", "(I)I"⟩, 21), (⟨"ShapeRelatorModel", "isOn", "(I)Z"⟩, 21), (⟨"ShapeRelatorModel", "side", "(II)I"⟩, 21), (⟨"ShapeRelatorModel", "isEnd", "(I)Z"⟩, 21), (⟨"ShapeRelatorModel", "crossed", "(I)I"⟩, 21), (⟨"ShapeRelatorModel", "crosses", "(I)Z"⟩, 21), (⟨"ShapeRelatorModel", "look", "()V"⟩, 21), (⟨"ShapeRelatorModel", "cutAt", "(I)V"⟩, 21), (⟨"ShapeRelatorModel", "mark", "(III)V"⟩, 21), (⟨"ShapeRelatorModel", "cutAll", "(I)V"⟩, 21), (⟨"ShapeRelatorModel", "cut", "(JJ)V"⟩, 21), (⟨"ShapeRelatorModel", "cutByPoint", "(II)V"⟩, 21), (⟨"ShapeRelatorModel", "cutBySegment", "(II)V"⟩, 21), (⟨"ShapeRelatorModel", "piece", "(II)V"⟩, 21), (⟨"ShapeRelatorModel", "between", "(JJJJ)V"⟩, 21), (⟨"ShapeRelatorModel", "beside", "(IZ)I"⟩, 21)]
theorem lw_r4 : ∀ q ∈ lw_privs_4, lw_okq q := List.forall_mem_cons.mpr ⟨lw_p48, List.forall_mem_cons.mpr ⟨lw_p49, List.forall_mem_cons.mpr ⟨lw_p50, List.forall_mem_cons.mpr ⟨lw_p51, List.forall_mem_cons.mpr ⟨lw_p52, List.forall_mem_cons.mpr ⟨lw_p53, List.forall_mem_cons.mpr ⟨lw_p54, List.forall_mem_cons.mpr ⟨lw_p55, List.forall_mem_cons.mpr ⟨lw_p56, List.forall_mem_cons.mpr ⟨lw_p57, List.forall_mem_cons.mpr ⟨lw_p58, List.forall_mem_cons.mpr ⟨lw_p59, List.forall_mem_cons.mpr ⟨lw_p60, List.forall_mem_cons.mpr ⟨lw_p61, List.forall_mem_cons.mpr ⟨lw_p62, List.forall_mem_cons.mpr ⟨lw_p63, fun _ h => absurd h List.not_mem_nil⟩⟩⟩⟩⟩⟩⟩⟩⟩⟩⟩⟩⟩⟩⟩⟩
theorem lw_p64 : lw_okq (⟨"ShapeRelatorModel", "insideOf", "(I)I"⟩, 21) := ⟨⟨by decide +kernel, by decide +kernel⟩, lw_t4 (List.mem_of_getElem? (i := 174) rfl), lw_t5 (List.mem_of_getElem? (i := 192) rfl), lw_t5 (List.mem_of_getElem? (i := 193) rfl)⟩
theorem lw_p65 : lw_okq (⟨"ShapeRelatorModel", "hasSegments", "(I)Z"⟩, 21) := ⟨⟨by decide +kernel, by decide +kernel⟩, lw_t4 (List.mem_of_getElem? (i := 174) rfl), lw_t5 (List.mem_of_getElem? (i := 196) rfl), lw_t5 (List.mem_of_getElem? (i := 197) rfl)⟩
theorem lw_p66 : lw_okq (⟨"ShapeRelatorModel", "there", "(II)Z"⟩, 21) := ⟨⟨by decide +kernel, by decide +kernel⟩, lw_t4 (List.mem_of_getElem? (i := 174) rfl), lw_t5 (List.mem_of_getElem? (i := 200) rfl), lw_t5 (List.mem_of_getElem? (i := 201) rfl)⟩
theorem lw_p67 : lw_okq (⟨"ShapeRelatorModel", "none", "(II)Z"⟩, 21) := ⟨⟨by decide +kernel, by decide +kernel⟩, lw_t4 (List.mem_of_getElem? (i := 174) rfl), lw_t5 (List.mem_of_getElem? (i := 204) rfl), lw_t5 (List.mem_of_getElem? (i := 205) rfl)⟩
theorem lw_p68 : lw_okq (⟨"ShapeRelatorModel", "meet", "()Z"⟩, 21) := ⟨⟨by decide +kernel, by decide +kernel⟩, lw_t4 (List.mem_of_getElem? (i := 174) rfl), lw_t5 (List.mem_of_getElem? (i := 208) rfl), lw_t5 (List.mem_of_getElem? (i := 209) rfl)⟩
theorem lw_p69 : lw_okq (⟨"ShapeRelatorModel", "crossing", "(II)Z"⟩, 21) := ⟨⟨by decide +kernel, by decide +kernel⟩, lw_t4 (List.mem_of_getElem? (i := 174) rfl), lw_t5 (List.mem_of_getElem? (i := 212) rfl), lw_t5 (List.mem_of_getElem? (i := 213) rfl)⟩
def lw_privs_5 : List (MethodName × Nat) := [(⟨"ShapeRelatorModel", "insideOf", "(I)I"⟩, 21), (⟨"ShapeRelatorModel", "hasSegments", "(I)Z"⟩, 21), (⟨"ShapeRelatorModel", "there", "(II)Z"⟩, 21), (⟨"ShapeRelatorModel", "none", "(II)Z"⟩, 21), (⟨"ShapeRelatorModel", "meet", "()Z"⟩, 21), (⟨"ShapeRelatorModel", "crossing", "(II)Z"⟩, 21)]
theorem lw_r5 : ∀ q ∈ lw_privs_5, lw_okq q := List.forall_mem_cons.mpr ⟨lw_p64, List.forall_mem_cons.mpr ⟨lw_p65, List.forall_mem_cons.mpr ⟨lw_p66, List.forall_mem_cons.mpr ⟨lw_p67, List.forall_mem_cons.mpr ⟨lw_p68, List.forall_mem_cons.mpr ⟨lw_p69, fun _ h => absurd h List.not_mem_nil⟩⟩⟩⟩⟩⟩
def lw_privs : List (MethodName × Nat) := lw_privs_1 ++ (lw_privs_2 ++ (lw_privs_3 ++ (lw_privs_4 ++ (lw_privs_5))))
def lw_tbl : List Cond := k2_sels lw_privs ++ tables_1
theorem lw_privs_ok : ∀ q ∈ lw_privs, lw_okq q := by
  show ∀ q ∈ lw_privs_1 ++ (lw_privs_2 ++ (lw_privs_3 ++ (lw_privs_4 ++ (lw_privs_5)))), lw_okq q
  exact List.forall_mem_append.mpr ⟨lw_r1, List.forall_mem_append.mpr ⟨lw_r2, List.forall_mem_append.mpr ⟨lw_r3, List.forall_mem_append.mpr ⟨lw_r4, lw_r5⟩⟩⟩⟩
-- ===== ONE list of words for every method: the tables' words that hold all through a run =====
def lw_all : List Cond := lw_tbl.filter goodWord
/-- a word of the tables by its place: claim/WORDS.tsv -/
theorem lw_w {w : Cond} (i : Nat) (h : lw_tbl[i]? = some w) (g : goodWord w = true) : w ∈ lw_all := List.mem_filter.mpr ⟨List.mem_of_getElem? h, g⟩
theorem lw_all_tbl {w : Cond} (h : w ∈ lw_all) : w ∈ lw_tbl := (List.mem_filter.mp h).1
theorem lw_self : GoodIn lw_all lw_all := fun w h => ⟨h, good_of_word (List.mem_filter.mp h).2⟩
/-- a class's field words, by their places -/
theorem lw_in (ws : List Cond) (ps : List Nat) (hp : ws = ps.filterMap (fun i => lw_tbl[i]?)) (hg : ws.all goodWord = true) : ∀ w ∈ ws, w ∈ lw_all := by
  intro w h
  have h1 := List.all_eq_true.mp hg w h
  rw [hp] at h
  obtain ⟨i, -, hi⟩ := List.mem_filterMap.mp h
  exact lw_w i hi h1
/-- the words of a contract for the method y with code b, L locals, answer r -/
abbrev ws_ (y : MethodName) (b : ByteArray) (L : Nat) (r : Option FieldType) : List Cond := Cond.code y b L r :: lw_all
theorem lw_meth {y : MethodName} {b : ByteArray} {L : Nat} {r : Option FieldType} (h : Cond.code y b L r ∈ lw_all) : GoodIn lw_all (ws_ y b L r) := by
  intro w hw
  rcases List.mem_cons.mp hw with e | e
  · rw [e]
    exact lw_self _ h
  · exact lw_self _ e
theorem lw_app {a c : List Cond} (ha : ∀ w ∈ a, w ∈ lw_all) (hc : GoodIn lw_all c) : GoodIn lw_all (a ++ c) := by
  intro w hw
  rcases List.mem_append.mp hw with e | e
  · exact lw_self w (ha w e)
  · exact hc w e
/-- what a call through an object asks: cwV n hts (lw_V ..) -/
theorem lw_V {own : String} {idx : Nat} {C : String} {y : MethodName} {b : ByteArray} {L : Nat} {r : Option FieldType} (h1 : Cond.methodLink own idx y ∈ lw_all) (h2 : Cond.instanceMethod y ∈ lw_all) (h3 : Cond.selects C y y ∈ lw_all) (h4 : Cond.initialized C ∈ lw_all) (h5 : Cond.code y b L r ∈ lw_all) : GoodIn lw_all (wsV own idx C y (ws_ y b L r)) := by
  refine lw_app ?_ (lw_meth h5)
  intro w hw
  simp only [List.mem_cons, List.not_mem_nil, or_false] at hw
  rcases hw with e | e | e | e
  · rw [e]; exact h1
  · rw [e]; exact h2
  · rw [e]; exact h3
  · rw [e]; exact h4
/-- what a static call asks: va_cwS n hts (lw_S ..) -/
theorem lw_S {own : String} {idx : Nat} {y : MethodName} {b : ByteArray} {L : Nat} {r : Option FieldType} (h1 : Cond.methodLink own idx y ∈ lw_all) (h2 : Cond.static y ∈ lw_all) (h3 : Cond.initialized y.cls ∈ lw_all) (h4 : Cond.code y b L r ∈ lw_all) : GoodIn lw_all (va_wsS own idx y (ws_ y b L r)) := by
  refine lw_app ?_ (lw_meth h4)
  intro w hw
  simp only [List.mem_cons, List.not_mem_nil, or_false] at hw
  rcases hw with e | e | e
  · rw [e]; exact h1
  · rw [e]; exact h2
  · rw [e]; exact h3
/-- the words of a contract for a method WITH HANDLERS (hh: its table) -/
abbrev wsW_ (y : MethodName) (b : ByteArray) (L : Nat) (r : Option FieldType) (hh : List (Nat × Nat × Nat × Nat)) : List Cond := Cond.codeWith y b L r hh :: lw_all
theorem lw_methW {y : MethodName} {b : ByteArray} {L : Nat} {r : Option FieldType} {hh : List (Nat × Nat × Nat × Nat)} (h : Cond.codeWith y b L r hh ∈ lw_all) : GoodIn lw_all (wsW_ y b L r hh) := by
  intro w hw
  rcases List.mem_cons.mp hw with e | e
  · rw [e]
    exact lw_self _ h
  · exact lw_self _ e
/-- any list of words by their places (lw_in), good -/
theorem lw_good {ws : List Cond} (h : ∀ w ∈ ws, w ∈ lw_all) : GoodIn lw_all ws := fun w hw => lw_self w (h w hw)
/-- what a call of a method with handlers asks: vx_cwVW n hts (lw_VW ..), vx_cwSW n hts (lw_SW ..) -/
theorem lw_VW {own : String} {idx : Nat} {C : String} {y : MethodName} {b : ByteArray} {L : Nat} {r : Option FieldType} {hh : List (Nat × Nat × Nat × Nat)} (h1 : Cond.methodLink own idx y ∈ lw_all) (h2 : Cond.instanceMethod y ∈ lw_all) (h3 : Cond.selects C y y ∈ lw_all) (h4 : Cond.initialized C ∈ lw_all) (h5 : Cond.codeWith y b L r hh ∈ lw_all) : GoodIn lw_all (wsV own idx C y (wsW_ y b L r hh)) := by
  refine lw_app ?_ (lw_methW h5)
  intro w hw
  simp only [List.mem_cons, List.not_mem_nil, or_false] at hw
  rcases hw with e | e | e | e
  · rw [e]; exact h1
  · rw [e]; exact h2
  · rw [e]; exact h3
  · rw [e]; exact h4
theorem lw_SW {own : String} {idx : Nat} {y : MethodName} {b : ByteArray} {L : Nat} {r : Option FieldType} {hh : List (Nat × Nat × Nat × Nat)} (h1 : Cond.methodLink own idx y ∈ lw_all) (h2 : Cond.static y ∈ lw_all) (h3 : Cond.initialized y.cls ∈ lw_all) (h4 : Cond.codeWith y b L r hh ∈ lw_all) : GoodIn lw_all (va_wsS own idx y (wsW_ y b L r hh)) := by
  refine lw_app ?_ (lw_methW h4)
  intro w hw
  simp only [List.mem_cons, List.not_mem_nil, or_false] at hw
  rcases hw with e | e | e
  · rw [e]; exact h1
  · rw [e]; exact h2
  · rw [e]; exact h3
/-- a word by its place in its run of the tables -/
theorem lw_at {r : List Cond} (hr : ∀ w ∈ r, w ∈ lw_tbl) {w : Cond} (i : Nat) (h : r[i]? = some w) : w ∈ lw_tbl := hr w (List.mem_of_getElem? h)
theorem lw_g {w : Cond} (h : w ∈ lw_tbl) (g : goodWord w = true) : w ∈ lw_all := List.mem_filter.mpr ⟨h, g⟩
theorem lw_ms : ∀ w ∈ k2_sels lw_privs, w ∈ lw_tbl := fun w h => show w ∈ k2_sels lw_privs ++ tables_1 from List.mem_append_left _ h
theorem lw_m1 : ∀ w ∈ tables_1_1, w ∈ lw_tbl := fun w h => show w ∈ k2_sels lw_privs ++ tables_1 from List.mem_append_right (k2_sels lw_privs) (show w ∈ tables_1 from List.mem_append_left _ h)
theorem lw_m2 : ∀ w ∈ tables_1_2, w ∈ lw_tbl := fun w h => show w ∈ k2_sels lw_privs ++ tables_1 from List.mem_append_right (k2_sels lw_privs) (show w ∈ tables_1 from List.mem_append_right _ (List.mem_append_left _ h))
theorem lw_m3 : ∀ w ∈ tables_1_3, w ∈ lw_tbl := fun w h => show w ∈ k2_sels lw_privs ++ tables_1 from List.mem_append_right (k2_sels lw_privs) (show w ∈ tables_1 from List.mem_append_right _ (List.mem_append_right _ (List.mem_append_left _ h)))
theorem lw_m4 : ∀ w ∈ tables_1_4, w ∈ lw_tbl := fun w h => show w ∈ k2_sels lw_privs ++ tables_1 from List.mem_append_right (k2_sels lw_privs) (show w ∈ tables_1 from List.mem_append_right _ (List.mem_append_right _ (List.mem_append_right _ (List.mem_append_left _ h))))
theorem lw_m5 : ∀ w ∈ tables_1_5, w ∈ lw_tbl := fun w h => show w ∈ k2_sels lw_privs ++ tables_1 from List.mem_append_right (k2_sels lw_privs) (show w ∈ tables_1 from List.mem_append_right _ (List.mem_append_right _ (List.mem_append_right _ (List.mem_append_right _ h))))
theorem qs0 : (Cond.selects "ShapeRelator$Relator" ⟨"ShapeRelator$Relator", "take", "()V"⟩ ⟨"ShapeRelator$Relator", "take", "()V"⟩) ∈ lw_all := lw_g (lw_at lw_ms 0 rfl) rfl
theorem qs1 : (Cond.selects "ShapeRelator$Segments" ⟨"ShapeRelator$Segments", "addAll", "(LShapeRelator$Outline;)V"⟩ ⟨"ShapeRelator$Segments", "addAll", "(LShapeRelator$Outline;)V"⟩) ∈ lw_all := lw_g (lw_at lw_ms 1 rfl) rfl
theorem qs2 : (Cond.selects "ShapeRelator$Segments" ⟨"ShapeRelator$Segments", "add", "(LShapeRelator$Outline;II)V"⟩ ⟨"ShapeRelator$Segments", "add", "(LShapeRelator$Outline;II)V"⟩) ∈ lw_all := lw_g (lw_at lw_ms 2 rfl) rfl
theorem qs3 : (Cond.selects "ShapeRelator$Tree" ⟨"ShapeRelator$Tree", "sort", "(LShapeRelator$Bounds;IIZ)V"⟩ ⟨"ShapeRelator$Tree", "sort", "(LShapeRelator$Bounds;IIZ)V"⟩) ∈ lw_all := lw_g (lw_at lw_ms 3 rfl) rfl
theorem qs4 : (Cond.selects "ShapeRelator$Sorter" ⟨"ShapeRelator$Sorter", "before", "(II)Z"⟩ ⟨"ShapeRelator$Sorter", "before", "(II)Z"⟩) ∈ lw_all := lw_g (lw_at lw_ms 4 rfl) rfl
theorem qs5 : (Cond.selects "ShapeRelator$Sorter" ⟨"ShapeRelator$Sorter", "swap", "(II)V"⟩ ⟨"ShapeRelator$Sorter", "swap", "(II)V"⟩) ∈ lw_all := lw_g (lw_at lw_ms 5 rfl) rfl
theorem qs6 : (Cond.selects "ShapeRelator$Sorter" ⟨"ShapeRelator$Sorter", "least", "(I)I"⟩ ⟨"ShapeRelator$Sorter", "least", "(I)I"⟩) ∈ lw_all := lw_g (lw_at lw_ms 6 rfl) rfl
theorem qs7 : (Cond.selects "ShapeRelator$Tree" ⟨"ShapeRelator$Tree", "node", "(LShapeRelator$Bounds;IIZ)V"⟩ ⟨"ShapeRelator$Tree", "node", "(LShapeRelator$Bounds;IIZ)V"⟩) ∈ lw_all := lw_g (lw_at lw_ms 7 rfl) rfl
theorem qs8 : (Cond.selects "ShapeRelator$Relator" ⟨"ShapeRelator$Relator", "walk", "(I)V"⟩ ⟨"ShapeRelator$Relator", "walk", "(I)V"⟩) ∈ lw_all := lw_g (lw_at lw_ms 8 rfl) rfl
theorem qs9 : (Cond.selects "ShapeRelator$Relator" ⟨"ShapeRelator$Relator", "gather", "(I)V"⟩ ⟨"ShapeRelator$Relator", "gather", "(I)V"⟩) ∈ lw_all := lw_g (lw_at lw_ms 9 rfl) rfl
theorem qs10 : (Cond.selects "ShapeRelator$Relator" ⟨"ShapeRelator$Relator", "meet", "(II)V"⟩ ⟨"ShapeRelator$Relator", "meet", "(II)V"⟩) ∈ lw_all := lw_g (lw_at lw_ms 10 rfl) rfl
theorem qs11 : (Cond.selects "ShapeRelator$Events" ⟨"ShapeRelator$Events", "grow", "()V"⟩ ⟨"ShapeRelator$Events", "grow", "()V"⟩) ∈ lw_all := lw_g (lw_at lw_ms 11 rfl) rfl
theorem qs12 : (Cond.selects "ShapeRelator$Relator" ⟨"ShapeRelator$Relator", "meetPlace", "(III)V"⟩ ⟨"ShapeRelator$Relator", "meetPlace", "(III)V"⟩) ∈ lw_all := lw_g (lw_at lw_ms 12 rfl) rfl
theorem qs13 : (Cond.selects "ShapeRelator$Events" ⟨"ShapeRelator$Events", "sink", "(II)V"⟩ ⟨"ShapeRelator$Events", "sink", "(II)V"⟩) ∈ lw_all := lw_g (lw_at lw_ms 13 rfl) rfl
theorem qs14 : (Cond.selects "ShapeRelator$Events" ⟨"ShapeRelator$Events", "isBehind", "(II)Z"⟩ ⟨"ShapeRelator$Events", "isBehind", "(II)Z"⟩) ∈ lw_all := lw_g (lw_at lw_ms 14 rfl) rfl
theorem qs15 : (Cond.selects "ShapeRelator$Relator" ⟨"ShapeRelator$Relator", "notePlace", "(II)V"⟩ ⟨"ShapeRelator$Relator", "notePlace", "(II)V"⟩) ∈ lw_all := lw_g (lw_at lw_ms 15 rfl) rfl
theorem qs16 : (Cond.selects "ShapeRelator$Relator" ⟨"ShapeRelator$Relator", "placeOf", "(III)I"⟩ ⟨"ShapeRelator$Relator", "placeOf", "(III)I"⟩) ∈ lw_all := lw_g (lw_at lw_ms 16 rfl) rfl
theorem qs17 : (Cond.selects "ShapeRelator$Relator" ⟨"ShapeRelator$Relator", "isPoint", "(LShapeRelator$Outline;II)Z"⟩ ⟨"ShapeRelator$Relator", "isPoint", "(LShapeRelator$Outline;II)Z"⟩) ∈ lw_all := lw_g (lw_at lw_ms 17 rfl) rfl
theorem qs18 : (Cond.selects "ShapeRelator$Relator" ⟨"ShapeRelator$Relator", "note", "(III)V"⟩ ⟨"ShapeRelator$Relator", "note", "(III)V"⟩) ∈ lw_all := lw_g (lw_at lw_ms 18 rfl) rfl
theorem qs19 : (Cond.selects "ShapeRelator$Relator" ⟨"ShapeRelator$Relator", "look", "(III)V"⟩ ⟨"ShapeRelator$Relator", "look", "(III)V"⟩) ∈ lw_all := lw_g (lw_at lw_ms 19 rfl) rfl
theorem qs20 : (Cond.selects "ShapeRelator$Segments" ⟨"ShapeRelator$Segments", "goesAlong", "(ILShapeRelator$Step;)Z"⟩ ⟨"ShapeRelator$Segments", "goesAlong", "(ILShapeRelator$Step;)Z"⟩) ∈ lw_all := lw_g (lw_at lw_ms 20 rfl) rfl
theorem qs21 : (Cond.selects "ShapeRelator$Relator" ⟨"ShapeRelator$Relator", "notePiece", "()V"⟩ ⟨"ShapeRelator$Relator", "notePiece", "()V"⟩) ∈ lw_all := lw_g (lw_at lw_ms 21 rfl) rfl
theorem qs22 : (Cond.selects "ShapeRelator$Relator" ⟨"ShapeRelator$Relator", "noteCrossing", "(ZZ)V"⟩ ⟨"ShapeRelator$Relator", "noteCrossing", "(ZZ)V"⟩) ∈ lw_all := lw_g (lw_at lw_ms 22 rfl) rfl
theorem qs23 : (Cond.selects "ShapeRelator$Relator" ⟨"ShapeRelator$Relator", "crossed", "(IZ)I"⟩ ⟨"ShapeRelator$Relator", "crossed", "(IZ)I"⟩) ∈ lw_all := lw_g (lw_at lw_ms 23 rfl) rfl
theorem qs24 : (Cond.selects "ShapeRelator$Relator" ⟨"ShapeRelator$Relator", "turn", "(IZZ)V"⟩ ⟨"ShapeRelator$Relator", "turn", "(IZZ)V"⟩) ∈ lw_all := lw_g (lw_at lw_ms 24 rfl) rfl
theorem qs25 : (Cond.selects "ShapeRelator$Relator" ⟨"ShapeRelator$Relator", "turnOne", "(IZ)V"⟩ ⟨"ShapeRelator$Relator", "turnOne", "(IZ)V"⟩) ∈ lw_all := lw_g (lw_at lw_ms 25 rfl) rfl
theorem qs26 : (Cond.selects "ShapeRelator$Relator" ⟨"ShapeRelator$Relator", "noteEnds", "(LShapeRelator$Outline;)V"⟩ ⟨"ShapeRelator$Relator", "noteEnds", "(LShapeRelator$Outline;)V"⟩) ∈ lw_all := lw_g (lw_at lw_ms 26 rfl) rfl
theorem qs27 : (Cond.selects "java/lang/Throwable" ⟨"java/lang/Throwable", "fillInStackTrace", "(I)Ljava/lang/Throwable;"⟩ ⟨"java/lang/Throwable", "fillInStackTrace", "(I)Ljava/lang/Throwable;"⟩) ∈ lw_all := lw_g (lw_at lw_ms 27 rfl) rfl
theorem qs28 : (Cond.selects "ShapeRelator" ⟨"ShapeRelator", "known", "(I)LShapeRelator$Outline;"⟩ ⟨"ShapeRelator", "known", "(I)LShapeRelator$Outline;"⟩) ∈ lw_all := lw_g (lw_at lw_ms 28 rfl) rfl
theorem qs29 : (Cond.selects "ShapeRelatorModel" ⟨"ShapeRelatorModel", "fail", "(I)I"⟩ ⟨"ShapeRelatorModel", "fail", "(I)I"⟩) ∈ lw_all := lw_g (lw_at lw_ms 29 rfl) rfl
theorem qs30 : (Cond.selects "ShapeRelatorModel" ⟨"ShapeRelatorModel", "gather", "()V"⟩ ⟨"ShapeRelatorModel", "gather", "()V"⟩) ∈ lw_all := lw_g (lw_at lw_ms 30 rfl) rfl
theorem qs31 : (Cond.selects "ShapeRelatorModel" ⟨"ShapeRelatorModel", "first", "(II)I"⟩ ⟨"ShapeRelatorModel", "first", "(II)I"⟩) ∈ lw_all := lw_g (lw_at lw_ms 31 rfl) rfl
theorem qs32 : (Cond.selects "ShapeRelatorModel" ⟨"ShapeRelatorModel", "end", "(II)I"⟩ ⟨"ShapeRelatorModel", "end", "(II)I"⟩) ∈ lw_all := lw_g (lw_at lw_ms 32 rfl) rfl
theorem qs33 : (Cond.selects "ShapeRelatorModel" ⟨"ShapeRelatorModel", "join", "(III)V"⟩ ⟨"ShapeRelatorModel", "join", "(III)V"⟩) ∈ lw_all := lw_g (lw_at lw_ms 33 rfl) rfl
theorem qs34 : (Cond.selects "ShapeRelatorModel" ⟨"ShapeRelatorModel", "alike", "(II)Z"⟩ ⟨"ShapeRelatorModel", "alike", "(II)Z"⟩) ∈ lw_all := lw_g (lw_at lw_ms 34 rfl) rfl
theorem qs35 : (Cond.selects "ShapeRelatorModel" ⟨"ShapeRelatorModel", "stand", "(JJJJ)V"⟩ ⟨"ShapeRelatorModel", "stand", "(JJJJ)V"⟩) ∈ lw_all := lw_g (lw_at lw_ms 35 rfl) rfl
theorem qs36 : (Cond.selects "ShapeRelatorModel" ⟨"ShapeRelatorModel", "at", "(JJ)V"⟩ ⟨"ShapeRelatorModel", "at", "(JJ)V"⟩) ∈ lw_all := lw_g (lw_at lw_ms 36 rfl) rfl
theorem qs37 : (Cond.selects "ShapeRelatorModel" ⟨"ShapeRelatorModel", "set", "(IJ)V"⟩ ⟨"ShapeRelatorModel", "set", "(IJ)V"⟩) ∈ lw_all := lw_g (lw_at lw_ms 37 rfl) rfl
theorem qs38 : (Cond.selects "ShapeRelatorModel" ⟨"ShapeRelatorModel", "clear", "(I)V"⟩ ⟨"ShapeRelatorModel", "clear", "(I)V"⟩) ∈ lw_all := lw_g (lw_at lw_ms 38 rfl) rfl
theorem qs39 : (Cond.selects "ShapeRelatorModel" ⟨"ShapeRelatorModel", "settle", "(I)V"⟩ ⟨"ShapeRelatorModel", "settle", "(I)V"⟩) ∈ lw_all := lw_g (lw_at lw_ms 39 rfl) rfl
theorem qs40 : (Cond.selects "ShapeRelatorModel" ⟨"ShapeRelatorModel", "where", "(I)I"⟩ ⟨"ShapeRelatorModel", "where", "(I)I"⟩) ∈ lw_all := lw_g (lw_at lw_ms 40 rfl) rfl
theorem qs41 : (Cond.selects "ShapeRelatorModel" ⟨"ShapeRelatorModel", "hasPoint", "(I)Z"⟩ ⟨"ShapeRelatorModel", "hasPoint", "(I)Z"⟩) ∈ lw_all := lw_g (lw_at lw_ms 41 rfl) rfl
theorem qs42 : (Cond.selects "ShapeRelatorModel" ⟨"ShapeRelatorModel", "isPoint", "(I)Z"⟩ ⟨"ShapeRelatorModel", "isPoint", "(I)Z"⟩) ∈ lw_all := lw_g (lw_at lw_ms 42 rfl) rfl
theorem qs43 : (Cond.selects "ShapeRelatorModel" ⟨"ShapeRelatorModel", "overX", "(J)I"⟩ ⟨"ShapeRelatorModel", "overX", "(J)I"⟩) ∈ lw_all := lw_g (lw_at lw_ms 43 rfl) rfl
theorem qs44 : (Cond.selects "ShapeRelatorModel" ⟨"ShapeRelatorModel", "sgn", "(JJ)I"⟩ ⟨"ShapeRelatorModel", "sgn", "(JJ)I"⟩) ∈ lw_all := lw_g (lw_at lw_ms 44 rfl) rfl
theorem qs45 : (Cond.selects "ShapeRelatorModel" ⟨"ShapeRelatorModel", "product", "(III)V"⟩ ⟨"ShapeRelatorModel", "product", "(III)V"⟩) ∈ lw_all := lw_g (lw_at lw_ms 45 rfl) rfl
theorem qs46 : (Cond.selects "ShapeRelatorModel" ⟨"ShapeRelatorModel", "signOf", "(I)I"⟩ ⟨"ShapeRelatorModel", "signOf", "(I)I"⟩) ∈ lw_all := lw_g (lw_at lw_ms 46 rfl) rfl
theorem qs47 : (Cond.selects "ShapeRelatorModel" ⟨"ShapeRelatorModel", "overY", "(J)I"⟩ ⟨"ShapeRelatorModel", "overY", "(J)I"⟩) ∈ lw_all := lw_g (lw_at lw_ms 47 rfl) rfl
theorem qs48 : (Cond.selects "ShapeRelatorModel" ⟨"ShapeRelatorModel", "having", "(I)I"⟩ ⟨"ShapeRelatorModel", "having", "(I)I"⟩) ∈ lw_all := lw_g (lw_at lw_ms 48 rfl) rfl
theorem qs49 : (Cond.selects "ShapeRelatorModel" ⟨"ShapeRelatorModel", "isOn", "(I)Z"⟩ ⟨"ShapeRelatorModel", "isOn", "(I)Z"⟩) ∈ lw_all := lw_g (lw_at lw_ms 49 rfl) rfl
theorem qs50 : (Cond.selects "ShapeRelatorModel" ⟨"ShapeRelatorModel", "side", "(II)I"⟩ ⟨"ShapeRelatorModel", "side", "(II)I"⟩) ∈ lw_all := lw_g (lw_at lw_ms 50 rfl) rfl
theorem qs51 : (Cond.selects "ShapeRelatorModel" ⟨"ShapeRelatorModel", "isEnd", "(I)Z"⟩ ⟨"ShapeRelatorModel", "isEnd", "(I)Z"⟩) ∈ lw_all := lw_g (lw_at lw_ms 51 rfl) rfl
theorem qs52 : (Cond.selects "ShapeRelatorModel" ⟨"ShapeRelatorModel", "crossed", "(I)I"⟩ ⟨"ShapeRelatorModel", "crossed", "(I)I"⟩) ∈ lw_all := lw_g (lw_at lw_ms 52 rfl) rfl
theorem qs53 : (Cond.selects "ShapeRelatorModel" ⟨"ShapeRelatorModel", "crosses", "(I)Z"⟩ ⟨"ShapeRelatorModel", "crosses", "(I)Z"⟩) ∈ lw_all := lw_g (lw_at lw_ms 53 rfl) rfl
theorem qs54 : (Cond.selects "ShapeRelatorModel" ⟨"ShapeRelatorModel", "look", "()V"⟩ ⟨"ShapeRelatorModel", "look", "()V"⟩) ∈ lw_all := lw_g (lw_at lw_ms 54 rfl) rfl
theorem qs55 : (Cond.selects "ShapeRelatorModel" ⟨"ShapeRelatorModel", "cutAt", "(I)V"⟩ ⟨"ShapeRelatorModel", "cutAt", "(I)V"⟩) ∈ lw_all := lw_g (lw_at lw_ms 55 rfl) rfl
theorem qs56 : (Cond.selects "ShapeRelatorModel" ⟨"ShapeRelatorModel", "mark", "(III)V"⟩ ⟨"ShapeRelatorModel", "mark", "(III)V"⟩) ∈ lw_all := lw_g (lw_at lw_ms 56 rfl) rfl
theorem qs57 : (Cond.selects "ShapeRelatorModel" ⟨"ShapeRelatorModel", "cutAll", "(I)V"⟩ ⟨"ShapeRelatorModel", "cutAll", "(I)V"⟩) ∈ lw_all := lw_g (lw_at lw_ms 57 rfl) rfl
theorem qs58 : (Cond.selects "ShapeRelatorModel" ⟨"ShapeRelatorModel", "cut", "(JJ)V"⟩ ⟨"ShapeRelatorModel", "cut", "(JJ)V"⟩) ∈ lw_all := lw_g (lw_at lw_ms 58 rfl) rfl
theorem qs59 : (Cond.selects "ShapeRelatorModel" ⟨"ShapeRelatorModel", "cutByPoint", "(II)V"⟩ ⟨"ShapeRelatorModel", "cutByPoint", "(II)V"⟩) ∈ lw_all := lw_g (lw_at lw_ms 59 rfl) rfl
theorem qs60 : (Cond.selects "ShapeRelatorModel" ⟨"ShapeRelatorModel", "cutBySegment", "(II)V"⟩ ⟨"ShapeRelatorModel", "cutBySegment", "(II)V"⟩) ∈ lw_all := lw_g (lw_at lw_ms 60 rfl) rfl
theorem qs61 : (Cond.selects "ShapeRelatorModel" ⟨"ShapeRelatorModel", "piece", "(II)V"⟩ ⟨"ShapeRelatorModel", "piece", "(II)V"⟩) ∈ lw_all := lw_g (lw_at lw_ms 61 rfl) rfl
theorem qs62 : (Cond.selects "ShapeRelatorModel" ⟨"ShapeRelatorModel", "between", "(JJJJ)V"⟩ ⟨"ShapeRelatorModel", "between", "(JJJJ)V"⟩) ∈ lw_all := lw_g (lw_at lw_ms 62 rfl) rfl
theorem qs63 : (Cond.selects "ShapeRelatorModel" ⟨"ShapeRelatorModel", "beside", "(IZ)I"⟩ ⟨"ShapeRelatorModel", "beside", "(IZ)I"⟩) ∈ lw_all := lw_g (lw_at lw_ms 63 rfl) rfl
theorem qs64 : (Cond.selects "ShapeRelatorModel" ⟨"ShapeRelatorModel", "insideOf", "(I)I"⟩ ⟨"ShapeRelatorModel", "insideOf", "(I)I"⟩) ∈ lw_all := lw_g (lw_at lw_ms 64 rfl) rfl
theorem qs65 : (Cond.selects "ShapeRelatorModel" ⟨"ShapeRelatorModel", "hasSegments", "(I)Z"⟩ ⟨"ShapeRelatorModel", "hasSegments", "(I)Z"⟩) ∈ lw_all := lw_g (lw_at lw_ms 65 rfl) rfl
theorem qs66 : (Cond.selects "ShapeRelatorModel" ⟨"ShapeRelatorModel", "there", "(II)Z"⟩ ⟨"ShapeRelatorModel", "there", "(II)Z"⟩) ∈ lw_all := lw_g (lw_at lw_ms 66 rfl) rfl
theorem qs67 : (Cond.selects "ShapeRelatorModel" ⟨"ShapeRelatorModel", "none", "(II)Z"⟩ ⟨"ShapeRelatorModel", "none", "(II)Z"⟩) ∈ lw_all := lw_g (lw_at lw_ms 67 rfl) rfl
theorem qs68 : (Cond.selects "ShapeRelatorModel" ⟨"ShapeRelatorModel", "meet", "()Z"⟩ ⟨"ShapeRelatorModel", "meet", "()Z"⟩) ∈ lw_all := lw_g (lw_at lw_ms 68 rfl) rfl
theorem qs69 : (Cond.selects "ShapeRelatorModel" ⟨"ShapeRelatorModel", "crossing", "(II)Z"⟩ ⟨"ShapeRelatorModel", "crossing", "(II)Z"⟩) ∈ lw_all := lw_g (lw_at lw_ms 69 rfl) rfl
