/-! ShapeRelatorLaw -/
set_option maxRecDepth 100000
def RX0 : String := "ShapeRelatorLaw"
abbrev cX0_shape : ByteArray := method_3_code
def yX0_shape : MethodName := ⟨RX0, "shape", "(LShapeRelator;II[J)I"⟩
theorem dX0_shape_0 : decode cX0_shape 0 = .ok (.aload_n 3, 1) := by decide +kernel
theorem dX0_shape_1 : decode cX0_shape 1 = .ok (.iconst 0, 1) := by decide +kernel
theorem dX0_shape_2 : decode cX0_shape 2 = .ok (.aload_n 0, 1) := by decide +kernel
theorem dX0_shape_3 : decode cX0_shape 3 = .ok (.iload_n 1, 1) := by decide +kernel
theorem dX0_shape_4 : decode cX0_shape 4 = .ok (.iload_n 2, 1) := by decide +kernel
theorem dX0_shape_5 : decode cX0_shape 5 = .ok (.invokevirtual 7, 3) := by decide +kernel
theorem dX0_shape_8 : decode cX0_shape 8 = .ok (.i2l, 1) := by decide +kernel
theorem dX0_shape_9 : decode cX0_shape 9 = .ok (.lastore, 1) := by decide +kernel
theorem dX0_shape_10 : decode cX0_shape 10 = .ok (.goto 11, 3) := by decide +kernel
theorem dX0_shape_13 : decode cX0_shape 13 = .ok (.astore 4, 2) := by decide +kernel
theorem dX0_shape_15 : decode cX0_shape 15 = .ok (.iconst 1, 1) := by decide +kernel
theorem dX0_shape_16 : decode cX0_shape 16 = .ok (.ireturn, 1) := by decide +kernel
theorem dX0_shape_17 : decode cX0_shape 17 = .ok (.astore 4, 2) := by decide +kernel
theorem dX0_shape_19 : decode cX0_shape 19 = .ok (.iconst 2, 1) := by decide +kernel
theorem dX0_shape_20 : decode cX0_shape 20 = .ok (.ireturn, 1) := by decide +kernel
theorem dX0_shape_21 : decode cX0_shape 21 = .ok (.iconst 0, 1) := by decide +kernel
theorem dX0_shape_22 : decode cX0_shape 22 = .ok (.ireturn, 1) := by decide +kernel
abbrev cX0_part : ByteArray := method_4_code
def yX0_part : MethodName := ⟨RX0, "part", "(LShapeRelator;I[J)I"⟩
theorem dX0_part_0 : decode cX0_part 0 = .ok (.aload_n 2, 1) := by decide +kernel
theorem dX0_part_1 : decode cX0_part 1 = .ok (.iconst 0, 1) := by decide +kernel
theorem dX0_part_2 : decode cX0_part 2 = .ok (.aload_n 0, 1) := by decide +kernel
theorem dX0_part_3 : decode cX0_part 3 = .ok (.iload_n 1, 1) := by decide +kernel
theorem dX0_part_4 : decode cX0_part 4 = .ok (.invokevirtual 17, 3) := by decide +kernel
theorem dX0_part_7 : decode cX0_part 7 = .ok (.i2l, 1) := by decide +kernel
theorem dX0_part_8 : decode cX0_part 8 = .ok (.lastore, 1) := by decide +kernel
theorem dX0_part_9 : decode cX0_part 9 = .ok (.goto 9, 3) := by decide +kernel
theorem dX0_part_12 : decode cX0_part 12 = .ok (.astore_n 3, 1) := by decide +kernel
theorem dX0_part_13 : decode cX0_part 13 = .ok (.iconst 1, 1) := by decide +kernel
theorem dX0_part_14 : decode cX0_part 14 = .ok (.ireturn, 1) := by decide +kernel
theorem dX0_part_15 : decode cX0_part 15 = .ok (.astore_n 3, 1) := by decide +kernel
theorem dX0_part_16 : decode cX0_part 16 = .ok (.iconst 2, 1) := by decide +kernel
theorem dX0_part_17 : decode cX0_part 17 = .ok (.ireturn, 1) := by decide +kernel
theorem dX0_part_18 : decode cX0_part 18 = .ok (.iconst 0, 1) := by decide +kernel
theorem dX0_part_19 : decode cX0_part 19 = .ok (.ireturn, 1) := by decide +kernel
abbrev cX0_point : ByteArray := method_5_code
def yX0_point : MethodName := ⟨RX0, "point", "(LShapeRelator;III[J)I"⟩
theorem dX0_point_0 : decode cX0_point 0 = .ok (.aload 4, 2) := by decide +kernel
theorem dX0_point_2 : decode cX0_point 2 = .ok (.iconst 0, 1) := by decide +kernel
theorem dX0_point_3 : decode cX0_point 3 = .ok (.aload_n 0, 1) := by decide +kernel
theorem dX0_point_4 : decode cX0_point 4 = .ok (.iload_n 1, 1) := by decide +kernel
theorem dX0_point_5 : decode cX0_point 5 = .ok (.iload_n 2, 1) := by decide +kernel
theorem dX0_point_6 : decode cX0_point 6 = .ok (.iload_n 3, 1) := by decide +kernel
theorem dX0_point_7 : decode cX0_point 7 = .ok (.invokevirtual 23, 3) := by decide +kernel
theorem dX0_point_10 : decode cX0_point 10 = .ok (.i2l, 1) := by decide +kernel
theorem dX0_point_11 : decode cX0_point 11 = .ok (.lastore, 1) := by decide +kernel
theorem dX0_point_12 : decode cX0_point 12 = .ok (.goto 15, 3) := by decide +kernel
theorem dX0_point_15 : decode cX0_point 15 = .ok (.astore 5, 2) := by decide +kernel
theorem dX0_point_17 : decode cX0_point 17 = .ok (.iconst 1, 1) := by decide +kernel
theorem dX0_point_18 : decode cX0_point 18 = .ok (.ireturn, 1) := by decide +kernel
theorem dX0_point_19 : decode cX0_point 19 = .ok (.astore 5, 2) := by decide +kernel
theorem dX0_point_21 : decode cX0_point 21 = .ok (.iconst 2, 1) := by decide +kernel
theorem dX0_point_22 : decode cX0_point 22 = .ok (.ireturn, 1) := by decide +kernel
theorem dX0_point_23 : decode cX0_point 23 = .ok (.astore 5, 2) := by decide +kernel
theorem dX0_point_25 : decode cX0_point 25 = .ok (.iconst 3, 1) := by decide +kernel
theorem dX0_point_26 : decode cX0_point 26 = .ok (.ireturn, 1) := by decide +kernel
theorem dX0_point_27 : decode cX0_point 27 = .ok (.iconst 0, 1) := by decide +kernel
theorem dX0_point_28 : decode cX0_point 28 = .ok (.ireturn, 1) := by decide +kernel
abbrev cX0_locate : ByteArray := method_6_code
def yX0_locate : MethodName := ⟨RX0, "locate", "(LShapeRelator;III[J)I"⟩
theorem dX0_locate_0 : decode cX0_locate 0 = .ok (.aload 4, 2) := by decide +kernel
theorem dX0_locate_2 : decode cX0_locate 2 = .ok (.iconst 0, 1) := by decide +kernel
theorem dX0_locate_3 : decode cX0_locate 3 = .ok (.aload_n 0, 1) := by decide +kernel
theorem dX0_locate_4 : decode cX0_locate 4 = .ok (.iload_n 1, 1) := by decide +kernel
theorem dX0_locate_5 : decode cX0_locate 5 = .ok (.iload_n 2, 1) := by decide +kernel
theorem dX0_locate_6 : decode cX0_locate 6 = .ok (.iload_n 3, 1) := by decide +kernel
theorem dX0_locate_7 : decode cX0_locate 7 = .ok (.invokevirtual 27, 3) := by decide +kernel
theorem dX0_locate_10 : decode cX0_locate 10 = .ok (.i2l, 1) := by decide +kernel
theorem dX0_locate_11 : decode cX0_locate 11 = .ok (.lastore, 1) := by decide +kernel
theorem dX0_locate_12 : decode cX0_locate 12 = .ok (.goto 11, 3) := by decide +kernel
theorem dX0_locate_15 : decode cX0_locate 15 = .ok (.astore 5, 2) := by decide +kernel
theorem dX0_locate_17 : decode cX0_locate 17 = .ok (.iconst 1, 1) := by decide +kernel
theorem dX0_locate_18 : decode cX0_locate 18 = .ok (.ireturn, 1) := by decide +kernel
theorem dX0_locate_19 : decode cX0_locate 19 = .ok (.astore 5, 2) := by decide +kernel
theorem dX0_locate_21 : decode cX0_locate 21 = .ok (.iconst 2, 1) := by decide +kernel
theorem dX0_locate_22 : decode cX0_locate 22 = .ok (.ireturn, 1) := by decide +kernel
theorem dX0_locate_23 : decode cX0_locate 23 = .ok (.iconst 0, 1) := by decide +kernel
theorem dX0_locate_24 : decode cX0_locate 24 = .ok (.ireturn, 1) := by decide +kernel
abbrev cX0_entry : ByteArray := method_7_code
def yX0_entry : MethodName := ⟨RX0, "entry", "(LShapeRelator;II[J)I"⟩
theorem dX0_entry_0 : decode cX0_entry 0 = .ok (.aload_n 3, 1) := by decide +kernel
theorem dX0_entry_1 : decode cX0_entry 1 = .ok (.iconst 0, 1) := by decide +kernel
theorem dX0_entry_2 : decode cX0_entry 2 = .ok (.aload_n 0, 1) := by decide +kernel
theorem dX0_entry_3 : decode cX0_entry 3 = .ok (.iload_n 1, 1) := by decide +kernel
theorem dX0_entry_4 : decode cX0_entry 4 = .ok (.iload_n 2, 1) := by decide +kernel
theorem dX0_entry_5 : decode cX0_entry 5 = .ok (.invokevirtual 30, 3) := by decide +kernel
theorem dX0_entry_8 : decode cX0_entry 8 = .ok (.i2l, 1) := by decide +kernel
theorem dX0_entry_9 : decode cX0_entry 9 = .ok (.lastore, 1) := by decide +kernel
theorem dX0_entry_10 : decode cX0_entry 10 = .ok (.goto 7, 3) := by decide +kernel
theorem dX0_entry_13 : decode cX0_entry 13 = .ok (.astore 4, 2) := by decide +kernel
theorem dX0_entry_15 : decode cX0_entry 15 = .ok (.iconst 1, 1) := by decide +kernel
theorem dX0_entry_16 : decode cX0_entry 16 = .ok (.ireturn, 1) := by decide +kernel
theorem dX0_entry_17 : decode cX0_entry 17 = .ok (.iconst 0, 1) := by decide +kernel
theorem dX0_entry_18 : decode cX0_entry 18 = .ok (.ireturn, 1) := by decide +kernel
abbrev cX0_is : ByteArray := method_8_code
def yX0_is : MethodName := ⟨RX0, "is", "(LShapeRelator;I[J)I"⟩
theorem dX0_is_0 : decode cX0_is 0 = .ok (.aload_n 2, 1) := by decide +kernel
theorem dX0_is_1 : decode cX0_is 1 = .ok (.iconst 0, 1) := by decide +kernel
theorem dX0_is_2 : decode cX0_is 2 = .ok (.aload_n 0, 1) := by decide +kernel
theorem dX0_is_3 : decode cX0_is 3 = .ok (.iload_n 1, 1) := by decide +kernel
theorem dX0_is_4 : decode cX0_is 4 = .ok (.invokevirtual 33, 3) := by decide +kernel
theorem dX0_is_7 : decode cX0_is 7 = .ok (.ifCond .eq 7, 3) := by decide +kernel
theorem dX0_is_10 : decode cX0_is 10 = .ok (.lconst 1, 1) := by decide +kernel
theorem dX0_is_11 : decode cX0_is 11 = .ok (.goto 4, 3) := by decide +kernel
theorem dX0_is_14 : decode cX0_is 14 = .ok (.lconst 0, 1) := by decide +kernel
theorem dX0_is_15 : decode cX0_is 15 = .ok (.lastore, 1) := by decide +kernel
theorem dX0_is_16 : decode cX0_is 16 = .ok (.goto 6, 3) := by decide +kernel
theorem dX0_is_19 : decode cX0_is 19 = .ok (.astore_n 3, 1) := by decide +kernel
theorem dX0_is_20 : decode cX0_is 20 = .ok (.iconst 1, 1) := by decide +kernel
theorem dX0_is_21 : decode cX0_is 21 = .ok (.ireturn, 1) := by decide +kernel
theorem dX0_is_22 : decode cX0_is 22 = .ok (.iconst 0, 1) := by decide +kernel
theorem dX0_is_23 : decode cX0_is 23 = .ok (.ireturn, 1) := by decide +kernel
abbrev cX0_dimension : ByteArray := method_9_code
def yX0_dimension : MethodName := ⟨RX0, "dimension", "(LShapeRelator;I[J)I"⟩
theorem dX0_dimension_0 : decode cX0_dimension 0 = .ok (.aload_n 2, 1) := by decide +kernel
theorem dX0_dimension_1 : decode cX0_dimension 1 = .ok (.iconst 0, 1) := by decide +kernel
theorem dX0_dimension_2 : decode cX0_dimension 2 = .ok (.aload_n 0, 1) := by decide +kernel
theorem dX0_dimension_3 : decode cX0_dimension 3 = .ok (.iload_n 1, 1) := by decide +kernel
theorem dX0_dimension_4 : decode cX0_dimension 4 = .ok (.invokevirtual 37, 3) := by decide +kernel
theorem dX0_dimension_7 : decode cX0_dimension 7 = .ok (.i2l, 1) := by decide +kernel
theorem dX0_dimension_8 : decode cX0_dimension 8 = .ok (.lastore, 1) := by decide +kernel
theorem dX0_dimension_9 : decode cX0_dimension 9 = .ok (.goto 6, 3) := by decide +kernel
theorem dX0_dimension_12 : decode cX0_dimension 12 = .ok (.astore_n 3, 1) := by decide +kernel
theorem dX0_dimension_13 : decode cX0_dimension 13 = .ok (.iconst 1, 1) := by decide +kernel
theorem dX0_dimension_14 : decode cX0_dimension 14 = .ok (.ireturn, 1) := by decide +kernel
theorem dX0_dimension_15 : decode cX0_dimension 15 = .ok (.iconst 0, 1) := by decide +kernel
theorem dX0_dimension_16 : decode cX0_dimension 16 = .ok (.ireturn, 1) := by decide +kernel
abbrev cX0_count : ByteArray := method_10_code
def yX0_count : MethodName := ⟨RX0, "count", "(LShapeRelator;II[J)I"⟩
theorem dX0_count_0 : decode cX0_count 0 = .ok (.aload_n 3, 1) := by decide +kernel
theorem dX0_count_1 : decode cX0_count 1 = .ok (.iconst 0, 1) := by decide +kernel
theorem dX0_count_2 : decode cX0_count 2 = .ok (.aload_n 0, 1) := by decide +kernel
theorem dX0_count_3 : decode cX0_count 3 = .ok (.iload_n 1, 1) := by decide +kernel
theorem dX0_count_4 : decode cX0_count 4 = .ok (.iload_n 2, 1) := by decide +kernel
theorem dX0_count_5 : decode cX0_count 5 = .ok (.invokevirtual 40, 3) := by decide +kernel
theorem dX0_count_8 : decode cX0_count 8 = .ok (.i2l, 1) := by decide +kernel
theorem dX0_count_9 : decode cX0_count 9 = .ok (.lastore, 1) := by decide +kernel
theorem dX0_count_10 : decode cX0_count 10 = .ok (.goto 7, 3) := by decide +kernel
theorem dX0_count_13 : decode cX0_count 13 = .ok (.astore 4, 2) := by decide +kernel
theorem dX0_count_15 : decode cX0_count 15 = .ok (.iconst 1, 1) := by decide +kernel
theorem dX0_count_16 : decode cX0_count 16 = .ok (.ireturn, 1) := by decide +kernel
theorem dX0_count_17 : decode cX0_count 17 = .ok (.iconst 0, 1) := by decide +kernel
theorem dX0_count_18 : decode cX0_count 18 = .ok (.ireturn, 1) := by decide +kernel
theorem q70 : (Jvm.Cond.initialized "ShapeRelatorLaw") ∈ lw_all := lw_g (lw_at lw_m1 0 rfl) rfl
theorem q92 : (Jvm.Cond.classLink "ShapeRelatorLaw" (8 : Nat) "ShapeRelator") ∈ lw_all := lw_g (lw_at lw_m1 22 rfl) rfl
theorem q94 : (Jvm.Cond.methodLink "ShapeRelatorLaw" (43 : Nat) ({ cls := "ShapeRelator", name := "<init>", desc := "()V" } : Jvm.MethodName)) ∈ lw_all := lw_g (lw_at lw_m1 24 rfl) rfl
theorem q362 : (Jvm.Cond.methodLink "ShapeRelatorLaw" (68 : Nat) ({ cls := "ShapeRelator", name := "relate", desc := "()I" } : Jvm.MethodName)) ∈ lw_all := lw_g (lw_at lw_m2 52 rfl) rfl
theorem q693 : (Jvm.Cond.methodLink "ShapeRelatorLaw" (47 : Nat) ({ cls := "ShapeRelatorLaw", name := "shape", desc := "(LShapeRelator;II[J)I" } : Jvm.MethodName)) ∈ lw_all := lw_g (lw_at lw_m3 143 rfl) rfl
theorem q694 : (Jvm.Cond.static ({ cls := "ShapeRelatorLaw", name := "shape", desc := "(LShapeRelator;II[J)I" } : Jvm.MethodName)) ∈ lw_all := lw_g (lw_at lw_m3 144 rfl) rfl
theorem q695 : (Jvm.Cond.codeWith ({ cls := "ShapeRelatorLaw", name := "shape", desc := "(LShapeRelator;II[J)I" } : Jvm.MethodName) method_3_code (5 : Nat) (Option.some Jvm.ClassFile.FieldType.int) [((0 : Nat), (10 : Nat), (13 : Nat), (13 : Nat)), ((0 : Nat), (10 : Nat), (17 : Nat), (15 : Nat))]) ∈ lw_all := lw_g (lw_at lw_m3 145 rfl) rfl
theorem q696 : (Jvm.Cond.classLink "ShapeRelatorLaw" (13 : Nat) "java/lang/IndexOutOfBoundsException") ∈ lw_all := lw_g (lw_at lw_m3 146 rfl) rfl
theorem q773 : (Jvm.Cond.classLink "ShapeRelatorLaw" (15 : Nat) "java/lang/IllegalArgumentException") ∈ lw_all := lw_g (lw_at lw_m3 223 rfl) rfl
theorem q774 : (Jvm.Cond.methodLink "ShapeRelatorLaw" (7 : Nat) ({ cls := "ShapeRelator", name := "shape", desc := "(II)I" } : Jvm.MethodName)) ∈ lw_all := lw_g (lw_at lw_m3 224 rfl) rfl
theorem q836 : (Jvm.Cond.methodLink "ShapeRelatorLaw" (57 : Nat) ({ cls := "ShapeRelatorLaw", name := "part", desc := "(LShapeRelator;I[J)I" } : Jvm.MethodName)) ∈ lw_all := lw_g (lw_at lw_m4 46 rfl) rfl
theorem q837 : (Jvm.Cond.static ({ cls := "ShapeRelatorLaw", name := "part", desc := "(LShapeRelator;I[J)I" } : Jvm.MethodName)) ∈ lw_all := lw_g (lw_at lw_m4 47 rfl) rfl
theorem q838 : (Jvm.Cond.codeWith ({ cls := "ShapeRelatorLaw", name := "part", desc := "(LShapeRelator;I[J)I" } : Jvm.MethodName) method_4_code (4 : Nat) (Option.some Jvm.ClassFile.FieldType.int) [((0 : Nat), (9 : Nat), (12 : Nat), (13 : Nat)), ((0 : Nat), (9 : Nat), (15 : Nat), (21 : Nat))]) ∈ lw_all := lw_g (lw_at lw_m4 48 rfl) rfl
theorem q839 : (Jvm.Cond.classLink "ShapeRelatorLaw" (21 : Nat) "java/lang/IllegalStateException") ∈ lw_all := lw_g (lw_at lw_m4 49 rfl) rfl
theorem q840 : (Jvm.Cond.methodLink "ShapeRelatorLaw" (17 : Nat) ({ cls := "ShapeRelator", name := "part", desc := "(I)I" } : Jvm.MethodName)) ∈ lw_all := lw_g (lw_at lw_m4 50 rfl) rfl
theorem q867 : (Jvm.Cond.methodLink "ShapeRelatorLaw" (61 : Nat) ({ cls := "ShapeRelatorLaw", name := "point", desc := "(LShapeRelator;III[J)I" } : Jvm.MethodName)) ∈ lw_all := lw_g (lw_at lw_m4 77 rfl) rfl
theorem q868 : (Jvm.Cond.static ({ cls := "ShapeRelatorLaw", name := "point", desc := "(LShapeRelator;III[J)I" } : Jvm.MethodName)) ∈ lw_all := lw_g (lw_at lw_m4 78 rfl) rfl
theorem q869 : (Jvm.Cond.codeWith ({ cls := "ShapeRelatorLaw", name := "point", desc := "(LShapeRelator;III[J)I" } : Jvm.MethodName) method_5_code (6 : Nat) (Option.some Jvm.ClassFile.FieldType.int) [((0 : Nat), (12 : Nat), (15 : Nat), (13 : Nat)), ((0 : Nat), (12 : Nat), (19 : Nat), (15 : Nat)), ((0 : Nat), (12 : Nat), (23 : Nat), (21 : Nat))]) ∈ lw_all := lw_g (lw_at lw_m4 79 rfl) rfl
theorem q870 : (Jvm.Cond.methodLink "ShapeRelatorLaw" (23 : Nat) ({ cls := "ShapeRelator", name := "point", desc := "(III)I" } : Jvm.MethodName)) ∈ lw_all := lw_g (lw_at lw_m4 80 rfl) rfl
theorem q883 : (Jvm.Cond.methodLink "ShapeRelatorLaw" (65 : Nat) ({ cls := "ShapeRelatorLaw", name := "locate", desc := "(LShapeRelator;III[J)I" } : Jvm.MethodName)) ∈ lw_all := lw_g (lw_at lw_m4 93 rfl) rfl
theorem q884 : (Jvm.Cond.static ({ cls := "ShapeRelatorLaw", name := "locate", desc := "(LShapeRelator;III[J)I" } : Jvm.MethodName)) ∈ lw_all := lw_g (lw_at lw_m4 94 rfl) rfl
theorem q885 : (Jvm.Cond.codeWith ({ cls := "ShapeRelatorLaw", name := "locate", desc := "(LShapeRelator;III[J)I" } : Jvm.MethodName) method_6_code (6 : Nat) (Option.some Jvm.ClassFile.FieldType.int) [((0 : Nat), (12 : Nat), (15 : Nat), (13 : Nat)), ((0 : Nat), (12 : Nat), (19 : Nat), (15 : Nat))]) ∈ lw_all := lw_g (lw_at lw_m4 95 rfl) rfl
theorem q886 : (Jvm.Cond.methodLink "ShapeRelatorLaw" (27 : Nat) ({ cls := "ShapeRelator", name := "locate", desc := "(III)I" } : Jvm.MethodName)) ∈ lw_all := lw_g (lw_at lw_m4 96 rfl) rfl
theorem q894 : (Jvm.Cond.methodLink "ShapeRelatorLaw" (72 : Nat) ({ cls := "ShapeRelatorLaw", name := "entry", desc := "(LShapeRelator;II[J)I" } : Jvm.MethodName)) ∈ lw_all := lw_g (lw_at lw_m4 104 rfl) rfl
theorem q895 : (Jvm.Cond.static ({ cls := "ShapeRelatorLaw", name := "entry", desc := "(LShapeRelator;II[J)I" } : Jvm.MethodName)) ∈ lw_all := lw_g (lw_at lw_m4 105 rfl) rfl
theorem q896 : (Jvm.Cond.codeWith ({ cls := "ShapeRelatorLaw", name := "entry", desc := "(LShapeRelator;II[J)I" } : Jvm.MethodName) method_7_code (5 : Nat) (Option.some Jvm.ClassFile.FieldType.int) [((0 : Nat), (10 : Nat), (13 : Nat), (13 : Nat))]) ∈ lw_all := lw_g (lw_at lw_m4 106 rfl) rfl
theorem q897 : (Jvm.Cond.methodLink "ShapeRelatorLaw" (30 : Nat) ({ cls := "ShapeRelator", name := "entry", desc := "(II)I" } : Jvm.MethodName)) ∈ lw_all := lw_g (lw_at lw_m4 107 rfl) rfl
theorem q901 : (Jvm.Cond.methodLink "ShapeRelatorLaw" (75 : Nat) ({ cls := "ShapeRelatorLaw", name := "is", desc := "(LShapeRelator;I[J)I" } : Jvm.MethodName)) ∈ lw_all := lw_g (lw_at lw_m4 111 rfl) rfl
theorem q902 : (Jvm.Cond.static ({ cls := "ShapeRelatorLaw", name := "is", desc := "(LShapeRelator;I[J)I" } : Jvm.MethodName)) ∈ lw_all := lw_g (lw_at lw_m4 112 rfl) rfl
theorem q903 : (Jvm.Cond.codeWith ({ cls := "ShapeRelatorLaw", name := "is", desc := "(LShapeRelator;I[J)I" } : Jvm.MethodName) method_8_code (4 : Nat) (Option.some Jvm.ClassFile.FieldType.int) [((0 : Nat), (16 : Nat), (19 : Nat), (13 : Nat))]) ∈ lw_all := lw_g (lw_at lw_m4 113 rfl) rfl
theorem q904 : (Jvm.Cond.methodLink "ShapeRelatorLaw" (33 : Nat) ({ cls := "ShapeRelator", name := "is", desc := "(I)Z" } : Jvm.MethodName)) ∈ lw_all := lw_g (lw_at lw_m4 114 rfl) rfl
theorem q944 : (Jvm.Cond.methodLink "ShapeRelatorLaw" (78 : Nat) ({ cls := "ShapeRelatorLaw", name := "dimension", desc := "(LShapeRelator;I[J)I" } : Jvm.MethodName)) ∈ lw_all := lw_g (lw_at lw_m4 154 rfl) rfl
theorem q945 : (Jvm.Cond.static ({ cls := "ShapeRelatorLaw", name := "dimension", desc := "(LShapeRelator;I[J)I" } : Jvm.MethodName)) ∈ lw_all := lw_g (lw_at lw_m4 155 rfl) rfl
theorem q946 : (Jvm.Cond.codeWith ({ cls := "ShapeRelatorLaw", name := "dimension", desc := "(LShapeRelator;I[J)I" } : Jvm.MethodName) method_9_code (4 : Nat) (Option.some Jvm.ClassFile.FieldType.int) [((0 : Nat), (9 : Nat), (12 : Nat), (13 : Nat))]) ∈ lw_all := lw_g (lw_at lw_m4 156 rfl) rfl
theorem q947 : (Jvm.Cond.methodLink "ShapeRelatorLaw" (37 : Nat) ({ cls := "ShapeRelator", name := "dimension", desc := "(I)I" } : Jvm.MethodName)) ∈ lw_all := lw_g (lw_at lw_m4 157 rfl) rfl
theorem q956 : (Jvm.Cond.methodLink "ShapeRelatorLaw" (81 : Nat) ({ cls := "ShapeRelatorLaw", name := "count", desc := "(LShapeRelator;II[J)I" } : Jvm.MethodName)) ∈ lw_all := lw_g (lw_at lw_m4 166 rfl) rfl
theorem q957 : (Jvm.Cond.static ({ cls := "ShapeRelatorLaw", name := "count", desc := "(LShapeRelator;II[J)I" } : Jvm.MethodName)) ∈ lw_all := lw_g (lw_at lw_m4 167 rfl) rfl
theorem q958 : (Jvm.Cond.codeWith ({ cls := "ShapeRelatorLaw", name := "count", desc := "(LShapeRelator;II[J)I" } : Jvm.MethodName) method_10_code (5 : Nat) (Option.some Jvm.ClassFile.FieldType.int) [((0 : Nat), (10 : Nat), (13 : Nat), (13 : Nat))]) ∈ lw_all := lw_g (lw_at lw_m4 168 rfl) rfl
theorem q959 : (Jvm.Cond.methodLink "ShapeRelatorLaw" (40 : Nat) ({ cls := "ShapeRelator", name := "count", desc := "(II)I" } : Jvm.MethodName)) ∈ lw_all := lw_g (lw_at lw_m4 169 rfl) rfl
theorem q963 : (Jvm.Cond.classLink "ShapeRelatorLaw" (44 : Nat) "ShapeRelatorModel") ∈ lw_all := lw_g (lw_at lw_m4 173 rfl) rfl
theorem q965 : (Jvm.Cond.methodLink "ShapeRelatorLaw" (46 : Nat) ({ cls := "ShapeRelatorModel", name := "<init>", desc := "()V" } : Jvm.MethodName)) ∈ lw_all := lw_g (lw_at lw_m4 175 rfl) rfl
theorem q1033 : (Jvm.Cond.methodLink "ShapeRelatorLaw" (53 : Nat) ({ cls := "ShapeRelatorModel", name := "thrown", desc := "()I" } : Jvm.MethodName)) ∈ lw_all := lw_g (lw_at lw_m5 3 rfl) rfl
theorem q1037 : (Jvm.Cond.methodLink "ShapeRelatorLaw" (52 : Nat) ({ cls := "ShapeRelatorModel", name := "shape", desc := "(II)I" } : Jvm.MethodName)) ∈ lw_all := lw_g (lw_at lw_m5 7 rfl) rfl
theorem q1051 : (Jvm.Cond.methodLink "ShapeRelatorLaw" (60 : Nat) ({ cls := "ShapeRelatorModel", name := "part", desc := "(I)I" } : Jvm.MethodName)) ∈ lw_all := lw_g (lw_at lw_m5 21 rfl) rfl
theorem q1055 : (Jvm.Cond.methodLink "ShapeRelatorLaw" (64 : Nat) ({ cls := "ShapeRelatorModel", name := "point", desc := "(III)I" } : Jvm.MethodName)) ∈ lw_all := lw_g (lw_at lw_m5 25 rfl) rfl
theorem q1064 : (Jvm.Cond.methodLink "ShapeRelatorLaw" (67 : Nat) ({ cls := "ShapeRelatorModel", name := "locate", desc := "(III)I" } : Jvm.MethodName)) ∈ lw_all := lw_g (lw_at lw_m5 34 rfl) rfl
theorem q1166 : (Jvm.Cond.methodLink "ShapeRelatorLaw" (71 : Nat) ({ cls := "ShapeRelatorModel", name := "relate", desc := "()I" } : Jvm.MethodName)) ∈ lw_all := lw_g (lw_at lw_m5 136 rfl) rfl
theorem q1213 : (Jvm.Cond.methodLink "ShapeRelatorLaw" (74 : Nat) ({ cls := "ShapeRelatorModel", name := "entry", desc := "(II)I" } : Jvm.MethodName)) ∈ lw_all := lw_g (lw_at lw_m5 183 rfl) rfl
theorem q1217 : (Jvm.Cond.methodLink "ShapeRelatorLaw" (77 : Nat) ({ cls := "ShapeRelatorModel", name := "is", desc := "(I)Z" } : Jvm.MethodName)) ∈ lw_all := lw_g (lw_at lw_m5 187 rfl) rfl
theorem q1245 : (Jvm.Cond.methodLink "ShapeRelatorLaw" (80 : Nat) ({ cls := "ShapeRelatorModel", name := "dimension", desc := "(I)I" } : Jvm.MethodName)) ∈ lw_all := lw_g (lw_at lw_m5 215 rfl) rfl
theorem q1249 : (Jvm.Cond.methodLink "ShapeRelatorLaw" (83 : Nat) ({ cls := "ShapeRelatorModel", name := "count", desc := "(II)I" } : Jvm.MethodName)) ∈ lw_all := lw_g (lw_at lw_m5 219 rfl) rfl
/-! the law's own entry -/
set_option maxRecDepth 100000
abbrev cL_law : ByteArray := code
theorem dL_law_0 : decode cL_law 0 = .ok (.new 8, 3) := by decide +kernel
theorem dL_law_3 : decode cL_law 3 = .ok (.dup, 1) := by decide +kernel
theorem dL_law_4 : decode cL_law 4 = .ok (.invokespecial 43, 3) := by decide +kernel
theorem dL_law_7 : decode cL_law 7 = .ok (.astore_n 1, 1) := by decide +kernel
theorem dL_law_8 : decode cL_law 8 = .ok (.new 44, 3) := by decide +kernel
theorem dL_law_11 : decode cL_law 11 = .ok (.dup, 1) := by decide +kernel
theorem dL_law_12 : decode cL_law 12 = .ok (.invokespecial 46, 3) := by decide +kernel
theorem dL_law_15 : decode cL_law 15 = .ok (.astore_n 2, 1) := by decide +kernel
theorem dL_law_16 : decode cL_law 16 = .ok (.iconst 1, 1) := by decide +kernel
theorem dL_law_17 : decode cL_law 17 = .ok (.newarray .long, 2) := by decide +kernel
theorem dL_law_19 : decode cL_law 19 = .ok (.astore_n 3, 1) := by decide +kernel
theorem dL_law_20 : decode cL_law 20 = .ok (.iconst 0, 1) := by decide +kernel
theorem dL_law_21 : decode cL_law 21 = .ok (.istore 4, 2) := by decide +kernel
theorem dL_law_23 : decode cL_law 23 = .ok (.iload 4, 2) := by decide +kernel
theorem dL_law_25 : decode cL_law 25 = .ok (.aload_n 0, 1) := by decide +kernel
theorem dL_law_26 : decode cL_law 26 = .ok (.arraylength, 1) := by decide +kernel
theorem dL_law_27 : decode cL_law 27 = .ok (.iconst 4, 1) := by decide +kernel
theorem dL_law_28 : decode cL_law 28 = .ok (.isub, 1) := by decide +kernel
theorem dL_law_29 : decode cL_law 29 = .ok (.if_icmp .gt 617, 3) := by decide +kernel
theorem dL_law_32 : decode cL_law 32 = .ok (.aload_n 0, 1) := by decide +kernel
theorem dL_law_33 : decode cL_law 33 = .ok (.iload 4, 2) := by decide +kernel
theorem dL_law_35 : decode cL_law 35 = .ok (.iaload, 1) := by decide +kernel
theorem dL_law_36 : decode cL_law 36 = .ok (.bipush 15, 2) := by decide +kernel
theorem dL_law_38 : decode cL_law 38 = .ok (.iand, 1) := by decide +kernel
theorem dL_law_39 : decode cL_law 39 = .ok (.tableswitch 601 0 8 #[49, 117, 173, 253, 333, 346, 414, 477, 533], 49) := by decide +kernel
theorem dL_law_88 : decode cL_law 88 = .ok (.aload_n 1, 1) := by decide +kernel
theorem dL_law_89 : decode cL_law 89 = .ok (.aload_n 0, 1) := by decide +kernel
theorem dL_law_90 : decode cL_law 90 = .ok (.iload 4, 2) := by decide +kernel
theorem dL_law_92 : decode cL_law 92 = .ok (.iconst 1, 1) := by decide +kernel
theorem dL_law_93 : decode cL_law 93 = .ok (.iadd, 1) := by decide +kernel
theorem dL_law_94 : decode cL_law 94 = .ok (.iaload, 1) := by decide +kernel
theorem dL_law_95 : decode cL_law 95 = .ok (.aload_n 0, 1) := by decide +kernel
theorem dL_law_96 : decode cL_law 96 = .ok (.iload 4, 2) := by decide +kernel
theorem dL_law_98 : decode cL_law 98 = .ok (.iconst 2, 1) := by decide +kernel
theorem dL_law_99 : decode cL_law 99 = .ok (.iadd, 1) := by decide +kernel
theorem dL_law_100 : decode cL_law 100 = .ok (.iaload, 1) := by decide +kernel
theorem dL_law_101 : decode cL_law 101 = .ok (.aload_n 3, 1) := by decide +kernel
theorem dL_law_102 : decode cL_law 102 = .ok (.invokestatic 47, 3) := by decide +kernel
theorem dL_law_105 : decode cL_law 105 = .ok (.istore 5, 2) := by decide +kernel
theorem dL_law_107 : decode cL_law 107 = .ok (.aload_n 2, 1) := by decide +kernel
theorem dL_law_108 : decode cL_law 108 = .ok (.aload_n 0, 1) := by decide +kernel
theorem dL_law_109 : decode cL_law 109 = .ok (.iload 4, 2) := by decide +kernel
theorem dL_law_111 : decode cL_law 111 = .ok (.iconst 1, 1) := by decide +kernel
theorem dL_law_112 : decode cL_law 112 = .ok (.iadd, 1) := by decide +kernel
theorem dL_law_113 : decode cL_law 113 = .ok (.iaload, 1) := by decide +kernel
theorem dL_law_114 : decode cL_law 114 = .ok (.aload_n 0, 1) := by decide +kernel
theorem dL_law_115 : decode cL_law 115 = .ok (.iload 4, 2) := by decide +kernel
theorem dL_law_117 : decode cL_law 117 = .ok (.iconst 2, 1) := by decide +kernel
theorem dL_law_118 : decode cL_law 118 = .ok (.iadd, 1) := by decide +kernel
theorem dL_law_119 : decode cL_law 119 = .ok (.iaload, 1) := by decide +kernel
theorem dL_law_120 : decode cL_law 120 = .ok (.invokevirtual 52, 3) := by decide +kernel
theorem dL_law_123 : decode cL_law 123 = .ok (.istore 6, 2) := by decide +kernel
theorem dL_law_125 : decode cL_law 125 = .ok (.aload_n 2, 1) := by decide +kernel
theorem dL_law_126 : decode cL_law 126 = .ok (.invokevirtual 53, 3) := by decide +kernel
theorem dL_law_129 : decode cL_law 129 = .ok (.iload 5, 2) := by decide +kernel
theorem dL_law_131 : decode cL_law 131 = .ok (.if_icmp .eq 5, 3) := by decide +kernel
theorem dL_law_134 : decode cL_law 134 = .ok (.iconst 0, 1) := by decide +kernel
theorem dL_law_135 : decode cL_law 135 = .ok (.ireturn, 1) := by decide +kernel
theorem dL_law_136 : decode cL_law 136 = .ok (.iload 5, 2) := by decide +kernel
theorem dL_law_138 : decode cL_law 138 = .ok (.ifCond .ne 15, 3) := by decide +kernel
theorem dL_law_141 : decode cL_law 141 = .ok (.aload_n 3, 1) := by decide +kernel
theorem dL_law_142 : decode cL_law 142 = .ok (.iconst 0, 1) := by decide +kernel
theorem dL_law_143 : decode cL_law 143 = .ok (.laload, 1) := by decide +kernel
theorem dL_law_144 : decode cL_law 144 = .ok (.iload 6, 2) := by decide +kernel
theorem dL_law_146 : decode cL_law 146 = .ok (.i2l, 1) := by decide +kernel
theorem dL_law_147 : decode cL_law 147 = .ok (.lcmp, 1) := by decide +kernel
theorem dL_law_148 : decode cL_law 148 = .ok (.ifCond .eq 5, 3) := by decide +kernel
theorem dL_law_151 : decode cL_law 151 = .ok (.iconst 0, 1) := by decide +kernel
theorem dL_law_152 : decode cL_law 152 = .ok (.ireturn, 1) := by decide +kernel
theorem dL_law_153 : decode cL_law 153 = .ok (.goto 487, 3) := by decide +kernel
theorem dL_law_156 : decode cL_law 156 = .ok (.aload_n 1, 1) := by decide +kernel
theorem dL_law_157 : decode cL_law 157 = .ok (.aload_n 0, 1) := by decide +kernel
theorem dL_law_158 : decode cL_law 158 = .ok (.iload 4, 2) := by decide +kernel
theorem dL_law_160 : decode cL_law 160 = .ok (.iconst 1, 1) := by decide +kernel
theorem dL_law_161 : decode cL_law 161 = .ok (.iadd, 1) := by decide +kernel
theorem dL_law_162 : decode cL_law 162 = .ok (.iaload, 1) := by decide +kernel
theorem dL_law_163 : decode cL_law 163 = .ok (.aload_n 3, 1) := by decide +kernel
theorem dL_law_164 : decode cL_law 164 = .ok (.invokestatic 57, 3) := by decide +kernel
theorem dL_law_167 : decode cL_law 167 = .ok (.istore 5, 2) := by decide +kernel
theorem dL_law_169 : decode cL_law 169 = .ok (.aload_n 2, 1) := by decide +kernel
theorem dL_law_170 : decode cL_law 170 = .ok (.aload_n 0, 1) := by decide +kernel
theorem dL_law_171 : decode cL_law 171 = .ok (.iload 4, 2) := by decide +kernel
theorem dL_law_173 : decode cL_law 173 = .ok (.iconst 1, 1) := by decide +kernel
theorem dL_law_174 : decode cL_law 174 = .ok (.iadd, 1) := by decide +kernel
theorem dL_law_175 : decode cL_law 175 = .ok (.iaload, 1) := by decide +kernel
theorem dL_law_176 : decode cL_law 176 = .ok (.invokevirtual 60, 3) := by decide +kernel
theorem dL_law_179 : decode cL_law 179 = .ok (.istore 6, 2) := by decide +kernel
theorem dL_law_181 : decode cL_law 181 = .ok (.aload_n 2, 1) := by decide +kernel
theorem dL_law_182 : decode cL_law 182 = .ok (.invokevirtual 53, 3) := by decide +kernel
theorem dL_law_185 : decode cL_law 185 = .ok (.iload 5, 2) := by decide +kernel
theorem dL_law_187 : decode cL_law 187 = .ok (.if_icmp .eq 5, 3) := by decide +kernel
theorem dL_law_190 : decode cL_law 190 = .ok (.iconst 0, 1) := by decide +kernel
theorem dL_law_191 : decode cL_law 191 = .ok (.ireturn, 1) := by decide +kernel
theorem dL_law_192 : decode cL_law 192 = .ok (.iload 5, 2) := by decide +kernel
theorem dL_law_194 : decode cL_law 194 = .ok (.ifCond .ne 15, 3) := by decide +kernel
theorem dL_law_197 : decode cL_law 197 = .ok (.aload_n 3, 1) := by decide +kernel
theorem dL_law_198 : decode cL_law 198 = .ok (.iconst 0, 1) := by decide +kernel
theorem dL_law_199 : decode cL_law 199 = .ok (.laload, 1) := by decide +kernel
theorem dL_law_200 : decode cL_law 200 = .ok (.iload 6, 2) := by decide +kernel
theorem dL_law_202 : decode cL_law 202 = .ok (.i2l, 1) := by decide +kernel
theorem dL_law_203 : decode cL_law 203 = .ok (.lcmp, 1) := by decide +kernel
theorem dL_law_204 : decode cL_law 204 = .ok (.ifCond .eq 5, 3) := by decide +kernel
theorem dL_law_207 : decode cL_law 207 = .ok (.iconst 0, 1) := by decide +kernel
theorem dL_law_208 : decode cL_law 208 = .ok (.ireturn, 1) := by decide +kernel
theorem dL_law_209 : decode cL_law 209 = .ok (.goto 431, 3) := by decide +kernel
theorem dL_law_212 : decode cL_law 212 = .ok (.aload_n 1, 1) := by decide +kernel
theorem dL_law_213 : decode cL_law 213 = .ok (.aload_n 0, 1) := by decide +kernel
theorem dL_law_214 : decode cL_law 214 = .ok (.iload 4, 2) := by decide +kernel
theorem dL_law_216 : decode cL_law 216 = .ok (.iconst 1, 1) := by decide +kernel
theorem dL_law_217 : decode cL_law 217 = .ok (.iadd, 1) := by decide +kernel
theorem dL_law_218 : decode cL_law 218 = .ok (.iaload, 1) := by decide +kernel
theorem dL_law_219 : decode cL_law 219 = .ok (.aload_n 0, 1) := by decide +kernel
theorem dL_law_220 : decode cL_law 220 = .ok (.iload 4, 2) := by decide +kernel
theorem dL_law_222 : decode cL_law 222 = .ok (.iconst 2, 1) := by decide +kernel
theorem dL_law_223 : decode cL_law 223 = .ok (.iadd, 1) := by decide +kernel
theorem dL_law_224 : decode cL_law 224 = .ok (.iaload, 1) := by decide +kernel
theorem dL_law_225 : decode cL_law 225 = .ok (.aload_n 0, 1) := by decide +kernel
theorem dL_law_226 : decode cL_law 226 = .ok (.iload 4, 2) := by decide +kernel
theorem dL_law_228 : decode cL_law 228 = .ok (.iconst 3, 1) := by decide +kernel
theorem dL_law_229 : decode cL_law 229 = .ok (.iadd, 1) := by decide +kernel
theorem dL_law_230 : decode cL_law 230 = .ok (.iaload, 1) := by decide +kernel
theorem dL_law_231 : decode cL_law 231 = .ok (.aload_n 3, 1) := by decide +kernel
theorem dL_law_232 : decode cL_law 232 = .ok (.invokestatic 61, 3) := by decide +kernel
theorem dL_law_235 : decode cL_law 235 = .ok (.istore 5, 2) := by decide +kernel
theorem dL_law_237 : decode cL_law 237 = .ok (.aload_n 2, 1) := by decide +kernel
theorem dL_law_238 : decode cL_law 238 = .ok (.aload_n 0, 1) := by decide +kernel
theorem dL_law_239 : decode cL_law 239 = .ok (.iload 4, 2) := by decide +kernel
theorem dL_law_241 : decode cL_law 241 = .ok (.iconst 1, 1) := by decide +kernel
theorem dL_law_242 : decode cL_law 242 = .ok (.iadd, 1) := by decide +kernel
theorem dL_law_243 : decode cL_law 243 = .ok (.iaload, 1) := by decide +kernel
theorem dL_law_244 : decode cL_law 244 = .ok (.aload_n 0, 1) := by decide +kernel
theorem dL_law_245 : decode cL_law 245 = .ok (.iload 4, 2) := by decide +kernel
theorem dL_law_247 : decode cL_law 247 = .ok (.iconst 2, 1) := by decide +kernel
theorem dL_law_248 : decode cL_law 248 = .ok (.iadd, 1) := by decide +kernel
theorem dL_law_249 : decode cL_law 249 = .ok (.iaload, 1) := by decide +kernel
theorem dL_law_250 : decode cL_law 250 = .ok (.aload_n 0, 1) := by decide +kernel
theorem dL_law_251 : decode cL_law 251 = .ok (.iload 4, 2) := by decide +kernel
theorem dL_law_253 : decode cL_law 253 = .ok (.iconst 3, 1) := by decide +kernel
theorem dL_law_254 : decode cL_law 254 = .ok (.iadd, 1) := by decide +kernel
theorem dL_law_255 : decode cL_law 255 = .ok (.iaload, 1) := by decide +kernel
theorem dL_law_256 : decode cL_law 256 = .ok (.invokevirtual 64, 3) := by decide +kernel
theorem dL_law_259 : decode cL_law 259 = .ok (.istore 6, 2) := by decide +kernel
theorem dL_law_261 : decode cL_law 261 = .ok (.aload_n 2, 1) := by decide +kernel
theorem dL_law_262 : decode cL_law 262 = .ok (.invokevirtual 53, 3) := by decide +kernel
theorem dL_law_265 : decode cL_law 265 = .ok (.iload 5, 2) := by decide +kernel
theorem dL_law_267 : decode cL_law 267 = .ok (.if_icmp .eq 5, 3) := by decide +kernel
theorem dL_law_270 : decode cL_law 270 = .ok (.iconst 0, 1) := by decide +kernel
theorem dL_law_271 : decode cL_law 271 = .ok (.ireturn, 1) := by decide +kernel
theorem dL_law_272 : decode cL_law 272 = .ok (.iload 5, 2) := by decide +kernel
theorem dL_law_274 : decode cL_law 274 = .ok (.ifCond .ne 15, 3) := by decide +kernel
theorem dL_law_277 : decode cL_law 277 = .ok (.aload_n 3, 1) := by decide +kernel
theorem dL_law_278 : decode cL_law 278 = .ok (.iconst 0, 1) := by decide +kernel
theorem dL_law_279 : decode cL_law 279 = .ok (.laload, 1) := by decide +kernel
theorem dL_law_280 : decode cL_law 280 = .ok (.iload 6, 2) := by decide +kernel
theorem dL_law_282 : decode cL_law 282 = .ok (.i2l, 1) := by decide +kernel
theorem dL_law_283 : decode cL_law 283 = .ok (.lcmp, 1) := by decide +kernel
theorem dL_law_284 : decode cL_law 284 = .ok (.ifCond .eq 5, 3) := by decide +kernel
theorem dL_law_287 : decode cL_law 287 = .ok (.iconst 0, 1) := by decide +kernel
theorem dL_law_288 : decode cL_law 288 = .ok (.ireturn, 1) := by decide +kernel
theorem dL_law_289 : decode cL_law 289 = .ok (.goto 351, 3) := by decide +kernel
theorem dL_law_292 : decode cL_law 292 = .ok (.aload_n 1, 1) := by decide +kernel
theorem dL_law_293 : decode cL_law 293 = .ok (.aload_n 0, 1) := by decide +kernel
theorem dL_law_294 : decode cL_law 294 = .ok (.iload 4, 2) := by decide +kernel
theorem dL_law_296 : decode cL_law 296 = .ok (.iconst 1, 1) := by decide +kernel
theorem dL_law_297 : decode cL_law 297 = .ok (.iadd, 1) := by decide +kernel
theorem dL_law_298 : decode cL_law 298 = .ok (.iaload, 1) := by decide +kernel
theorem dL_law_299 : decode cL_law 299 = .ok (.aload_n 0, 1) := by decide +kernel
theorem dL_law_300 : decode cL_law 300 = .ok (.iload 4, 2) := by decide +kernel
theorem dL_law_302 : decode cL_law 302 = .ok (.iconst 2, 1) := by decide +kernel
theorem dL_law_303 : decode cL_law 303 = .ok (.iadd, 1) := by decide +kernel
theorem dL_law_304 : decode cL_law 304 = .ok (.iaload, 1) := by decide +kernel
theorem dL_law_305 : decode cL_law 305 = .ok (.aload_n 0, 1) := by decide +kernel
theorem dL_law_306 : decode cL_law 306 = .ok (.iload 4, 2) := by decide +kernel
theorem dL_law_308 : decode cL_law 308 = .ok (.iconst 3, 1) := by decide +kernel
theorem dL_law_309 : decode cL_law 309 = .ok (.iadd, 1) := by decide +kernel
theorem dL_law_310 : decode cL_law 310 = .ok (.iaload, 1) := by decide +kernel
theorem dL_law_311 : decode cL_law 311 = .ok (.aload_n 3, 1) := by decide +kernel
theorem dL_law_312 : decode cL_law 312 = .ok (.invokestatic 65, 3) := by decide +kernel
theorem dL_law_315 : decode cL_law 315 = .ok (.istore 5, 2) := by decide +kernel
theorem dL_law_317 : decode cL_law 317 = .ok (.aload_n 2, 1) := by decide +kernel
theorem dL_law_318 : decode cL_law 318 = .ok (.aload_n 0, 1) := by decide +kernel
theorem dL_law_319 : decode cL_law 319 = .ok (.iload 4, 2) := by decide +kernel
theorem dL_law_321 : decode cL_law 321 = .ok (.iconst 1, 1) := by decide +kernel
theorem dL_law_322 : decode cL_law 322 = .ok (.iadd, 1) := by decide +kernel
theorem dL_law_323 : decode cL_law 323 = .ok (.iaload, 1) := by decide +kernel
theorem dL_law_324 : decode cL_law 324 = .ok (.aload_n 0, 1) := by decide +kernel
theorem dL_law_325 : decode cL_law 325 = .ok (.iload 4, 2) := by decide +kernel
theorem dL_law_327 : decode cL_law 327 = .ok (.iconst 2, 1) := by decide +kernel
theorem dL_law_328 : decode cL_law 328 = .ok (.iadd, 1) := by decide +kernel
theorem dL_law_329 : decode cL_law 329 = .ok (.iaload, 1) := by decide +kernel
theorem dL_law_330 : decode cL_law 330 = .ok (.aload_n 0, 1) := by decide +kernel
theorem dL_law_331 : decode cL_law 331 = .ok (.iload 4, 2) := by decide +kernel
theorem dL_law_333 : decode cL_law 333 = .ok (.iconst 3, 1) := by decide +kernel
theorem dL_law_334 : decode cL_law 334 = .ok (.iadd, 1) := by decide +kernel
theorem dL_law_335 : decode cL_law 335 = .ok (.iaload, 1) := by decide +kernel
theorem dL_law_336 : decode cL_law 336 = .ok (.invokevirtual 67, 3) := by decide +kernel
theorem dL_law_339 : decode cL_law 339 = .ok (.istore 6, 2) := by decide +kernel
theorem dL_law_341 : decode cL_law 341 = .ok (.aload_n 2, 1) := by decide +kernel
theorem dL_law_342 : decode cL_law 342 = .ok (.invokevirtual 53, 3) := by decide +kernel
theorem dL_law_345 : decode cL_law 345 = .ok (.iload 5, 2) := by decide +kernel
theorem dL_law_347 : decode cL_law 347 = .ok (.if_icmp .eq 5, 3) := by decide +kernel
theorem dL_law_350 : decode cL_law 350 = .ok (.iconst 0, 1) := by decide +kernel
theorem dL_law_351 : decode cL_law 351 = .ok (.ireturn, 1) := by decide +kernel
theorem dL_law_352 : decode cL_law 352 = .ok (.iload 5, 2) := by decide +kernel
theorem dL_law_354 : decode cL_law 354 = .ok (.ifCond .ne 15, 3) := by decide +kernel
theorem dL_law_357 : decode cL_law 357 = .ok (.aload_n 3, 1) := by decide +kernel
theorem dL_law_358 : decode cL_law 358 = .ok (.iconst 0, 1) := by decide +kernel
theorem dL_law_359 : decode cL_law 359 = .ok (.laload, 1) := by decide +kernel
theorem dL_law_360 : decode cL_law 360 = .ok (.iload 6, 2) := by decide +kernel
theorem dL_law_362 : decode cL_law 362 = .ok (.i2l, 1) := by decide +kernel
theorem dL_law_363 : decode cL_law 363 = .ok (.lcmp, 1) := by decide +kernel
theorem dL_law_364 : decode cL_law 364 = .ok (.ifCond .eq 5, 3) := by decide +kernel
theorem dL_law_367 : decode cL_law 367 = .ok (.iconst 0, 1) := by decide +kernel
theorem dL_law_368 : decode cL_law 368 = .ok (.ireturn, 1) := by decide +kernel
theorem dL_law_369 : decode cL_law 369 = .ok (.goto 271, 3) := by decide +kernel
theorem dL_law_372 : decode cL_law 372 = .ok (.aload_n 1, 1) := by decide +kernel
theorem dL_law_373 : decode cL_law 373 = .ok (.invokevirtual 68, 3) := by decide +kernel
theorem dL_law_376 : decode cL_law 376 = .ok (.aload_n 2, 1) := by decide +kernel
theorem dL_law_377 : decode cL_law 377 = .ok (.invokevirtual 71, 3) := by decide +kernel
theorem dL_law_380 : decode cL_law 380 = .ok (.if_icmp .eq 260, 3) := by decide +kernel
theorem dL_law_383 : decode cL_law 383 = .ok (.iconst 0, 1) := by decide +kernel
theorem dL_law_384 : decode cL_law 384 = .ok (.ireturn, 1) := by decide +kernel
theorem dL_law_385 : decode cL_law 385 = .ok (.aload_n 1, 1) := by decide +kernel
theorem dL_law_386 : decode cL_law 386 = .ok (.aload_n 0, 1) := by decide +kernel
theorem dL_law_387 : decode cL_law 387 = .ok (.iload 4, 2) := by decide +kernel
theorem dL_law_389 : decode cL_law 389 = .ok (.iconst 1, 1) := by decide +kernel
theorem dL_law_390 : decode cL_law 390 = .ok (.iadd, 1) := by decide +kernel
theorem dL_law_391 : decode cL_law 391 = .ok (.iaload, 1) := by decide +kernel
theorem dL_law_392 : decode cL_law 392 = .ok (.aload_n 0, 1) := by decide +kernel
theorem dL_law_393 : decode cL_law 393 = .ok (.iload 4, 2) := by decide +kernel
theorem dL_law_395 : decode cL_law 395 = .ok (.iconst 2, 1) := by decide +kernel
theorem dL_law_396 : decode cL_law 396 = .ok (.iadd, 1) := by decide +kernel
theorem dL_law_397 : decode cL_law 397 = .ok (.iaload, 1) := by decide +kernel
theorem dL_law_398 : decode cL_law 398 = .ok (.aload_n 3, 1) := by decide +kernel
theorem dL_law_399 : decode cL_law 399 = .ok (.invokestatic 72, 3) := by decide +kernel
theorem dL_law_402 : decode cL_law 402 = .ok (.istore 5, 2) := by decide +kernel
theorem dL_law_404 : decode cL_law 404 = .ok (.aload_n 2, 1) := by decide +kernel
theorem dL_law_405 : decode cL_law 405 = .ok (.aload_n 0, 1) := by decide +kernel
theorem dL_law_406 : decode cL_law 406 = .ok (.iload 4, 2) := by decide +kernel
theorem dL_law_408 : decode cL_law 408 = .ok (.iconst 1, 1) := by decide +kernel
theorem dL_law_409 : decode cL_law 409 = .ok (.iadd, 1) := by decide +kernel
theorem dL_law_410 : decode cL_law 410 = .ok (.iaload, 1) := by decide +kernel
theorem dL_law_411 : decode cL_law 411 = .ok (.aload_n 0, 1) := by decide +kernel
theorem dL_law_412 : decode cL_law 412 = .ok (.iload 4, 2) := by decide +kernel
theorem dL_law_414 : decode cL_law 414 = .ok (.iconst 2, 1) := by decide +kernel
theorem dL_law_415 : decode cL_law 415 = .ok (.iadd, 1) := by decide +kernel
theorem dL_law_416 : decode cL_law 416 = .ok (.iaload, 1) := by decide +kernel
theorem dL_law_417 : decode cL_law 417 = .ok (.invokevirtual 74, 3) := by decide +kernel
theorem dL_law_420 : decode cL_law 420 = .ok (.istore 6, 2) := by decide +kernel
theorem dL_law_422 : decode cL_law 422 = .ok (.aload_n 2, 1) := by decide +kernel
theorem dL_law_423 : decode cL_law 423 = .ok (.invokevirtual 53, 3) := by decide +kernel
theorem dL_law_426 : decode cL_law 426 = .ok (.iload 5, 2) := by decide +kernel
theorem dL_law_428 : decode cL_law 428 = .ok (.if_icmp .eq 5, 3) := by decide +kernel
theorem dL_law_431 : decode cL_law 431 = .ok (.iconst 0, 1) := by decide +kernel
theorem dL_law_432 : decode cL_law 432 = .ok (.ireturn, 1) := by decide +kernel
theorem dL_law_433 : decode cL_law 433 = .ok (.iload 5, 2) := by decide +kernel
theorem dL_law_435 : decode cL_law 435 = .ok (.ifCond .ne 15, 3) := by decide +kernel
theorem dL_law_438 : decode cL_law 438 = .ok (.aload_n 3, 1) := by decide +kernel
theorem dL_law_439 : decode cL_law 439 = .ok (.iconst 0, 1) := by decide +kernel
theorem dL_law_440 : decode cL_law 440 = .ok (.laload, 1) := by decide +kernel
theorem dL_law_441 : decode cL_law 441 = .ok (.iload 6, 2) := by decide +kernel
theorem dL_law_443 : decode cL_law 443 = .ok (.i2l, 1) := by decide +kernel
theorem dL_law_444 : decode cL_law 444 = .ok (.lcmp, 1) := by decide +kernel
theorem dL_law_445 : decode cL_law 445 = .ok (.ifCond .eq 5, 3) := by decide +kernel
theorem dL_law_448 : decode cL_law 448 = .ok (.iconst 0, 1) := by decide +kernel
theorem dL_law_449 : decode cL_law 449 = .ok (.ireturn, 1) := by decide +kernel
theorem dL_law_450 : decode cL_law 450 = .ok (.goto 190, 3) := by decide +kernel
theorem dL_law_453 : decode cL_law 453 = .ok (.aload_n 1, 1) := by decide +kernel
theorem dL_law_454 : decode cL_law 454 = .ok (.aload_n 0, 1) := by decide +kernel
theorem dL_law_455 : decode cL_law 455 = .ok (.iload 4, 2) := by decide +kernel
theorem dL_law_457 : decode cL_law 457 = .ok (.iconst 1, 1) := by decide +kernel
theorem dL_law_458 : decode cL_law 458 = .ok (.iadd, 1) := by decide +kernel
theorem dL_law_459 : decode cL_law 459 = .ok (.iaload, 1) := by decide +kernel
theorem dL_law_460 : decode cL_law 460 = .ok (.aload_n 3, 1) := by decide +kernel
theorem dL_law_461 : decode cL_law 461 = .ok (.invokestatic 75, 3) := by decide +kernel
theorem dL_law_464 : decode cL_law 464 = .ok (.istore 5, 2) := by decide +kernel
theorem dL_law_466 : decode cL_law 466 = .ok (.aload_n 2, 1) := by decide +kernel
theorem dL_law_467 : decode cL_law 467 = .ok (.aload_n 0, 1) := by decide +kernel
theorem dL_law_468 : decode cL_law 468 = .ok (.iload 4, 2) := by decide +kernel
theorem dL_law_470 : decode cL_law 470 = .ok (.iconst 1, 1) := by decide +kernel
theorem dL_law_471 : decode cL_law 471 = .ok (.iadd, 1) := by decide +kernel
theorem dL_law_472 : decode cL_law 472 = .ok (.iaload, 1) := by decide +kernel
theorem dL_law_473 : decode cL_law 473 = .ok (.invokevirtual 77, 3) := by decide +kernel
theorem dL_law_476 : decode cL_law 476 = .ok (.istore 6, 2) := by decide +kernel
theorem dL_law_478 : decode cL_law 478 = .ok (.aload_n 2, 1) := by decide +kernel
theorem dL_law_479 : decode cL_law 479 = .ok (.invokevirtual 53, 3) := by decide +kernel
theorem dL_law_482 : decode cL_law 482 = .ok (.iload 5, 2) := by decide +kernel
theorem dL_law_484 : decode cL_law 484 = .ok (.if_icmp .eq 5, 3) := by decide +kernel
theorem dL_law_487 : decode cL_law 487 = .ok (.iconst 0, 1) := by decide +kernel
theorem dL_law_488 : decode cL_law 488 = .ok (.ireturn, 1) := by decide +kernel
theorem dL_law_489 : decode cL_law 489 = .ok (.iload 5, 2) := by decide +kernel
theorem dL_law_491 : decode cL_law 491 = .ok (.ifCond .ne 22, 3) := by decide +kernel
theorem dL_law_494 : decode cL_law 494 = .ok (.aload_n 3, 1) := by decide +kernel
theorem dL_law_495 : decode cL_law 495 = .ok (.iconst 0, 1) := by decide +kernel
theorem dL_law_496 : decode cL_law 496 = .ok (.laload, 1) := by decide +kernel
theorem dL_law_497 : decode cL_law 497 = .ok (.iload 6, 2) := by decide +kernel
theorem dL_law_499 : decode cL_law 499 = .ok (.ifCond .eq 7, 3) := by decide +kernel
theorem dL_law_502 : decode cL_law 502 = .ok (.lconst 1, 1) := by decide +kernel
theorem dL_law_503 : decode cL_law 503 = .ok (.goto 4, 3) := by decide +kernel
theorem dL_law_506 : decode cL_law 506 = .ok (.lconst 0, 1) := by decide +kernel
theorem dL_law_507 : decode cL_law 507 = .ok (.lcmp, 1) := by decide +kernel
theorem dL_law_508 : decode cL_law 508 = .ok (.ifCond .eq 5, 3) := by decide +kernel
theorem dL_law_511 : decode cL_law 511 = .ok (.iconst 0, 1) := by decide +kernel
theorem dL_law_512 : decode cL_law 512 = .ok (.ireturn, 1) := by decide +kernel
theorem dL_law_513 : decode cL_law 513 = .ok (.goto 127, 3) := by decide +kernel
theorem dL_law_516 : decode cL_law 516 = .ok (.aload_n 1, 1) := by decide +kernel
theorem dL_law_517 : decode cL_law 517 = .ok (.aload_n 0, 1) := by decide +kernel
theorem dL_law_518 : decode cL_law 518 = .ok (.iload 4, 2) := by decide +kernel
theorem dL_law_520 : decode cL_law 520 = .ok (.iconst 1, 1) := by decide +kernel
theorem dL_law_521 : decode cL_law 521 = .ok (.iadd, 1) := by decide +kernel
theorem dL_law_522 : decode cL_law 522 = .ok (.iaload, 1) := by decide +kernel
theorem dL_law_523 : decode cL_law 523 = .ok (.aload_n 3, 1) := by decide +kernel
theorem dL_law_524 : decode cL_law 524 = .ok (.invokestatic 78, 3) := by decide +kernel
theorem dL_law_527 : decode cL_law 527 = .ok (.istore 5, 2) := by decide +kernel
theorem dL_law_529 : decode cL_law 529 = .ok (.aload_n 2, 1) := by decide +kernel
theorem dL_law_530 : decode cL_law 530 = .ok (.aload_n 0, 1) := by decide +kernel
theorem dL_law_531 : decode cL_law 531 = .ok (.iload 4, 2) := by decide +kernel
theorem dL_law_533 : decode cL_law 533 = .ok (.iconst 1, 1) := by decide +kernel
theorem dL_law_534 : decode cL_law 534 = .ok (.iadd, 1) := by decide +kernel
theorem dL_law_535 : decode cL_law 535 = .ok (.iaload, 1) := by decide +kernel
theorem dL_law_536 : decode cL_law 536 = .ok (.invokevirtual 80, 3) := by decide +kernel
theorem dL_law_539 : decode cL_law 539 = .ok (.istore 6, 2) := by decide +kernel
theorem dL_law_541 : decode cL_law 541 = .ok (.aload_n 2, 1) := by decide +kernel
theorem dL_law_542 : decode cL_law 542 = .ok (.invokevirtual 53, 3) := by decide +kernel
theorem dL_law_545 : decode cL_law 545 = .ok (.iload 5, 2) := by decide +kernel
theorem dL_law_547 : decode cL_law 547 = .ok (.if_icmp .eq 5, 3) := by decide +kernel
theorem dL_law_550 : decode cL_law 550 = .ok (.iconst 0, 1) := by decide +kernel
theorem dL_law_551 : decode cL_law 551 = .ok (.ireturn, 1) := by decide +kernel
theorem dL_law_552 : decode cL_law 552 = .ok (.iload 5, 2) := by decide +kernel
theorem dL_law_554 : decode cL_law 554 = .ok (.ifCond .ne 15, 3) := by decide +kernel
theorem dL_law_557 : decode cL_law 557 = .ok (.aload_n 3, 1) := by decide +kernel
theorem dL_law_558 : decode cL_law 558 = .ok (.iconst 0, 1) := by decide +kernel
theorem dL_law_559 : decode cL_law 559 = .ok (.laload, 1) := by decide +kernel
theorem dL_law_560 : decode cL_law 560 = .ok (.iload 6, 2) := by decide +kernel
theorem dL_law_562 : decode cL_law 562 = .ok (.i2l, 1) := by decide +kernel
theorem dL_law_563 : decode cL_law 563 = .ok (.lcmp, 1) := by decide +kernel
theorem dL_law_564 : decode cL_law 564 = .ok (.ifCond .eq 5, 3) := by decide +kernel
theorem dL_law_567 : decode cL_law 567 = .ok (.iconst 0, 1) := by decide +kernel
theorem dL_law_568 : decode cL_law 568 = .ok (.ireturn, 1) := by decide +kernel
theorem dL_law_569 : decode cL_law 569 = .ok (.goto 71, 3) := by decide +kernel
theorem dL_law_572 : decode cL_law 572 = .ok (.aload_n 1, 1) := by decide +kernel
theorem dL_law_573 : decode cL_law 573 = .ok (.aload_n 0, 1) := by decide +kernel
theorem dL_law_574 : decode cL_law 574 = .ok (.iload 4, 2) := by decide +kernel
theorem dL_law_576 : decode cL_law 576 = .ok (.iconst 1, 1) := by decide +kernel
theorem dL_law_577 : decode cL_law 577 = .ok (.iadd, 1) := by decide +kernel
theorem dL_law_578 : decode cL_law 578 = .ok (.iaload, 1) := by decide +kernel
theorem dL_law_579 : decode cL_law 579 = .ok (.aload_n 0, 1) := by decide +kernel
theorem dL_law_580 : decode cL_law 580 = .ok (.iload 4, 2) := by decide +kernel
theorem dL_law_582 : decode cL_law 582 = .ok (.iconst 2, 1) := by decide +kernel
theorem dL_law_583 : decode cL_law 583 = .ok (.iadd, 1) := by decide +kernel
theorem dL_law_584 : decode cL_law 584 = .ok (.iaload, 1) := by decide +kernel
theorem dL_law_585 : decode cL_law 585 = .ok (.aload_n 3, 1) := by decide +kernel
theorem dL_law_586 : decode cL_law 586 = .ok (.invokestatic 81, 3) := by decide +kernel
theorem dL_law_589 : decode cL_law 589 = .ok (.istore 5, 2) := by decide +kernel
theorem dL_law_591 : decode cL_law 591 = .ok (.aload_n 2, 1) := by decide +kernel
theorem dL_law_592 : decode cL_law 592 = .ok (.aload_n 0, 1) := by decide +kernel
theorem dL_law_593 : decode cL_law 593 = .ok (.iload 4, 2) := by decide +kernel
theorem dL_law_595 : decode cL_law 595 = .ok (.iconst 1, 1) := by decide +kernel
theorem dL_law_596 : decode cL_law 596 = .ok (.iadd, 1) := by decide +kernel
theorem dL_law_597 : decode cL_law 597 = .ok (.iaload, 1) := by decide +kernel
theorem dL_law_598 : decode cL_law 598 = .ok (.aload_n 0, 1) := by decide +kernel
theorem dL_law_599 : decode cL_law 599 = .ok (.iload 4, 2) := by decide +kernel
theorem dL_law_601 : decode cL_law 601 = .ok (.iconst 2, 1) := by decide +kernel
theorem dL_law_602 : decode cL_law 602 = .ok (.iadd, 1) := by decide +kernel
theorem dL_law_603 : decode cL_law 603 = .ok (.iaload, 1) := by decide +kernel
theorem dL_law_604 : decode cL_law 604 = .ok (.invokevirtual 83, 3) := by decide +kernel
theorem dL_law_607 : decode cL_law 607 = .ok (.istore 6, 2) := by decide +kernel
theorem dL_law_609 : decode cL_law 609 = .ok (.aload_n 2, 1) := by decide +kernel
theorem dL_law_610 : decode cL_law 610 = .ok (.invokevirtual 53, 3) := by decide +kernel
theorem dL_law_613 : decode cL_law 613 = .ok (.iload 5, 2) := by decide +kernel
theorem dL_law_615 : decode cL_law 615 = .ok (.if_icmp .eq 5, 3) := by decide +kernel
theorem dL_law_618 : decode cL_law 618 = .ok (.iconst 0, 1) := by decide +kernel
theorem dL_law_619 : decode cL_law 619 = .ok (.ireturn, 1) := by decide +kernel
theorem dL_law_620 : decode cL_law 620 = .ok (.iload 5, 2) := by decide +kernel
theorem dL_law_622 : decode cL_law 622 = .ok (.ifCond .ne 15, 3) := by decide +kernel
theorem dL_law_625 : decode cL_law 625 = .ok (.aload_n 3, 1) := by decide +kernel
theorem dL_law_626 : decode cL_law 626 = .ok (.iconst 0, 1) := by decide +kernel
theorem dL_law_627 : decode cL_law 627 = .ok (.laload, 1) := by decide +kernel
theorem dL_law_628 : decode cL_law 628 = .ok (.iload 6, 2) := by decide +kernel
theorem dL_law_630 : decode cL_law 630 = .ok (.i2l, 1) := by decide +kernel
theorem dL_law_631 : decode cL_law 631 = .ok (.lcmp, 1) := by decide +kernel
theorem dL_law_632 : decode cL_law 632 = .ok (.ifCond .eq 5, 3) := by decide +kernel
theorem dL_law_635 : decode cL_law 635 = .ok (.iconst 0, 1) := by decide +kernel
theorem dL_law_636 : decode cL_law 636 = .ok (.ireturn, 1) := by decide +kernel
theorem dL_law_637 : decode cL_law 637 = .ok (.goto 3, 3) := by decide +kernel
theorem dL_law_640 : decode cL_law 640 = .ok (.iinc 4 4, 3) := by decide +kernel
theorem dL_law_643 : decode cL_law 643 = .ok (.goto (-620), 3) := by decide +kernel
theorem dL_law_646 : decode cL_law 646 = .ok (.iconst 1, 1) := by decide +kernel
theorem dL_law_647 : decode cL_law 647 = .ok (.ireturn, 1) := by decide +kernel
/-! java/lang/Throwable -/
set_option maxRecDepth 100000
def RJ0 : String := "java/lang/Throwable"
def TJ0 : u_T := fun k => match k with
  | 0 => ("java/lang/Throwable", "cause", "Ljava/lang/Throwable;", false)
  | 1 => ("java/lang/Throwable", "stackTrace", "[Ljava/lang/StackTraceElement;", false)
  | 2 => ("java/lang/Throwable", "suppressedExceptions", "Ljava/util/List;", false)
  | 3 => ("java/lang/Throwable", "detailMessage", "Ljava/lang/String;", false)
  | _ => ("java/lang/Throwable", "backtrace", "Ljava/lang/Object;", false)
def tyJ0 : Nat → FieldType := fun k => match k with
  | 0 => .object "java/lang/Throwable"
  | 1 => .array (.object "java/lang/StackTraceElement")
  | 2 => .object "java/util/List"
  | 3 => .object "java/lang/String"
  | _ => .object "java/lang/Object"
abbrev wsJ00 : List Cond := u_ws RJ0 TJ0 5
theorem nmJ0 : ∀ a, a < 5 → ∀ b, b < 5 → a ≠ b → (TJ0 a).2.1 ≠ (TJ0 b).2.1 := by decide +kernel
theorem tyJ0_ok : ∀ k, k < 5 → parseFieldDescriptor (TJ0 k).2.2.1 = some (tyJ0 k) := by decide +kernel
abbrev cJ0_init : ByteArray := prog_22_method_2_code
def yJ0_init : MethodName := ⟨RJ0, "<init>", "(Ljava/lang/String;)V"⟩
theorem dJ0_init_0 : decode cJ0_init 0 = .ok (.aload_n 0, 1) := by decide +kernel
theorem dJ0_init_1 : decode cJ0_init 1 = .ok (.invokespecial 1, 3) := by decide +kernel
theorem dJ0_init_4 : decode cJ0_init 4 = .ok (.aload_n 0, 1) := by decide +kernel
theorem dJ0_init_5 : decode cJ0_init 5 = .ok (.aload_n 0, 1) := by decide +kernel
theorem dJ0_init_6 : decode cJ0_init 6 = .ok (.putfield 7, 3) := by decide +kernel
theorem dJ0_init_9 : decode cJ0_init 9 = .ok (.aload_n 0, 1) := by decide +kernel
theorem dJ0_init_10 : decode cJ0_init 10 = .ok (.getstatic 13, 3) := by decide +kernel
theorem dJ0_init_13 : decode cJ0_init 13 = .ok (.putfield 17, 3) := by decide +kernel
theorem dJ0_init_16 : decode cJ0_init 16 = .ok (.aload_n 0, 1) := by decide +kernel
theorem dJ0_init_17 : decode cJ0_init 17 = .ok (.getstatic 20, 3) := by decide +kernel
theorem dJ0_init_20 : decode cJ0_init 20 = .ok (.putfield 24, 3) := by decide +kernel
theorem dJ0_init_23 : decode cJ0_init 23 = .ok (.aload_n 0, 1) := by decide +kernel
theorem dJ0_init_24 : decode cJ0_init 24 = .ok (.invokevirtual 27, 3) := by decide +kernel
theorem dJ0_init_27 : decode cJ0_init 27 = .ok (.pop, 1) := by decide +kernel
theorem dJ0_init_28 : decode cJ0_init 28 = .ok (.aload_n 0, 1) := by decide +kernel
theorem dJ0_init_29 : decode cJ0_init 29 = .ok (.aload_n 1, 1) := by decide +kernel
theorem dJ0_init_30 : decode cJ0_init 30 = .ok (.putfield 31, 3) := by decide +kernel
theorem dJ0_init_33 : decode cJ0_init 33 = .ok (.return_, 1) := by decide +kernel
abbrev cJ0_init_2 : ByteArray := prog_22_method_1_code
def yJ0_init_2 : MethodName := ⟨RJ0, "<init>", "()V"⟩
theorem dJ0_init_2_0 : decode cJ0_init_2 0 = .ok (.aload_n 0, 1) := by decide +kernel
theorem dJ0_init_2_1 : decode cJ0_init_2 1 = .ok (.invokespecial 1, 3) := by decide +kernel
theorem dJ0_init_2_4 : decode cJ0_init_2 4 = .ok (.aload_n 0, 1) := by decide +kernel
theorem dJ0_init_2_5 : decode cJ0_init_2 5 = .ok (.aload_n 0, 1) := by decide +kernel
theorem dJ0_init_2_6 : decode cJ0_init_2 6 = .ok (.putfield 7, 3) := by decide +kernel
theorem dJ0_init_2_9 : decode cJ0_init_2 9 = .ok (.aload_n 0, 1) := by decide +kernel
theorem dJ0_init_2_10 : decode cJ0_init_2 10 = .ok (.getstatic 13, 3) := by decide +kernel
theorem dJ0_init_2_13 : decode cJ0_init_2 13 = .ok (.putfield 17, 3) := by decide +kernel
theorem dJ0_init_2_16 : decode cJ0_init_2 16 = .ok (.aload_n 0, 1) := by decide +kernel
theorem dJ0_init_2_17 : decode cJ0_init_2 17 = .ok (.getstatic 20, 3) := by decide +kernel
theorem dJ0_init_2_20 : decode cJ0_init_2 20 = .ok (.putfield 24, 3) := by decide +kernel
theorem dJ0_init_2_23 : decode cJ0_init_2 23 = .ok (.aload_n 0, 1) := by decide +kernel
theorem dJ0_init_2_24 : decode cJ0_init_2 24 = .ok (.invokevirtual 27, 3) := by decide +kernel
theorem dJ0_init_2_27 : decode cJ0_init_2 27 = .ok (.pop, 1) := by decide +kernel
theorem dJ0_init_2_28 : decode cJ0_init_2 28 = .ok (.return_, 1) := by decide +kernel
theorem q81 : (Jvm.Cond.initialized "java/lang/Throwable") ∈ lw_all := lw_g (lw_at lw_m1 11 rfl) rfl
theorem q710 : (Jvm.Cond.instanceMethod ({ cls := "java/lang/Throwable", name := "<init>", desc := "(Ljava/lang/String;)V" } : Jvm.MethodName)) ∈ lw_all := lw_g (lw_at lw_m3 160 rfl) rfl
theorem q711 : (Jvm.Cond.code ({ cls := "java/lang/Throwable", name := "<init>", desc := "(Ljava/lang/String;)V" } : Jvm.MethodName) prog_22_method_2_code (2 : Nat) (Option.none : Option Jvm.ClassFile.FieldType)) ∈ lw_all := lw_g (lw_at lw_m3 161 rfl) rfl
theorem q712 : (Jvm.Cond.methodLink "java/lang/Throwable" (1 : Nat) ({ cls := "java/lang/Object", name := "<init>", desc := "()V" } : Jvm.MethodName)) ∈ lw_all := lw_g (lw_at lw_m3 162 rfl) rfl
theorem q713 : (Jvm.Cond.fieldLink "java/lang/Throwable" (13 : Nat) "java/lang/Throwable" "UNASSIGNED_STACK" "[Ljava/lang/StackTraceElement;") ∈ lw_all := lw_g (lw_at lw_m3 163 rfl) rfl
theorem q714 : (Jvm.Cond.laysStatic "java/lang/Throwable" "UNASSIGNED_STACK" "[Ljava/lang/StackTraceElement;") ∈ lw_tbl := lw_at lw_m3 164 rfl
theorem q715 : (Jvm.Cond.fieldLink "java/lang/Throwable" (20 : Nat) "java/lang/Throwable" "SUPPRESSED_SENTINEL" "Ljava/util/List;") ∈ lw_all := lw_g (lw_at lw_m3 165 rfl) rfl
theorem q716 : (Jvm.Cond.laysStatic "java/lang/Throwable" "SUPPRESSED_SENTINEL" "Ljava/util/List;") ∈ lw_tbl := lw_at lw_m3 166 rfl
theorem q717 : (Jvm.Cond.methodLink "java/lang/Throwable" (27 : Nat) ({ cls := "java/lang/Throwable", name := "fillInStackTrace", desc := "()Ljava/lang/Throwable;" } : Jvm.MethodName)) ∈ lw_all := lw_g (lw_at lw_m3 167 rfl) rfl
theorem q718 : (Jvm.Cond.instanceMethod ({ cls := "java/lang/Throwable", name := "fillInStackTrace", desc := "()Ljava/lang/Throwable;" } : Jvm.MethodName)) ∈ lw_all := lw_g (lw_at lw_m3 168 rfl) rfl
theorem q719 : (Jvm.Cond.sameMethod "java/lang/Throwable" "java/lang/Throwable" "fillInStackTrace" "()Ljava/lang/Throwable;") ∈ lw_all := lw_g (lw_at lw_m3 169 rfl) rfl
theorem q724 : (Jvm.Cond.codeSync ({ cls := "java/lang/Throwable", name := "fillInStackTrace", desc := "()Ljava/lang/Throwable;" } : Jvm.MethodName) prog_22_method_18_code (1 : Nat) (Option.some (Jvm.ClassFile.FieldType.object "java/lang/Throwable"))) ∈ lw_all := lw_g (lw_at lw_m3 174 rfl) rfl
theorem q725 : (Jvm.Cond.methodLink "java/lang/Throwable" (202 : Nat) ({ cls := "java/lang/Throwable", name := "fillInStackTrace", desc := "(I)Ljava/lang/Throwable;" } : Jvm.MethodName)) ∈ lw_all := lw_g (lw_at lw_m3 175 rfl) rfl
theorem q726 : (Jvm.Cond.privateMethod ({ cls := "java/lang/Throwable", name := "fillInStackTrace", desc := "(I)Ljava/lang/Throwable;" } : Jvm.MethodName)) ∈ lw_tbl := lw_at lw_m3 176 rfl
theorem q727 : (Jvm.Cond.instanceMethod ({ cls := "java/lang/Throwable", name := "fillInStackTrace", desc := "(I)Ljava/lang/Throwable;" } : Jvm.MethodName)) ∈ lw_all := lw_g (lw_at lw_m3 177 rfl) rfl
theorem q728 : (Jvm.Cond.instantiable "java/lang/Throwable" (6 : Nat)) ∈ lw_all := lw_g (lw_at lw_m3 178 rfl) rfl
theorem q729 : (Jvm.Cond.native ({ cls := "java/lang/Throwable", name := "fillInStackTrace", desc := "(I)Ljava/lang/Throwable;" } : Jvm.MethodName)) ∈ lw_all := lw_g (lw_at lw_m3 179 rfl) rfl
theorem q730 : (Jvm.Cond.fieldLink "java/lang/Throwable" (198 : Nat) "java/lang/Throwable" "backtrace" "Ljava/lang/Object;") ∈ lw_all := lw_g (lw_at lw_m3 180 rfl) rfl
theorem q731 : (Jvm.Cond.fieldLink "java/lang/Throwable" (31 : Nat) "java/lang/Throwable" "detailMessage" "Ljava/lang/String;") ∈ lw_all := lw_g (lw_at lw_m3 181 rfl) rfl
theorem q732 : (Jvm.Cond.fieldLink "java/lang/Throwable" (7 : Nat) "java/lang/Throwable" "cause" "Ljava/lang/Throwable;") ∈ lw_all := lw_g (lw_at lw_m3 182 rfl) rfl
theorem q733 : (Jvm.Cond.fieldLink "java/lang/Throwable" (17 : Nat) "java/lang/Throwable" "stackTrace" "[Ljava/lang/StackTraceElement;") ∈ lw_all := lw_g (lw_at lw_m3 183 rfl) rfl
theorem q734 : (Jvm.Cond.fieldLink "java/lang/Throwable" (24 : Nat) "java/lang/Throwable" "suppressedExceptions" "Ljava/util/List;") ∈ lw_all := lw_g (lw_at lw_m3 184 rfl) rfl
theorem q736 : (Jvm.Cond.soleField "java/lang/Throwable" "backtrace") ∈ lw_all := lw_g (lw_at lw_m3 186 rfl) rfl
theorem q738 : (Jvm.Cond.soleField "java/lang/Throwable" "detailMessage") ∈ lw_all := lw_g (lw_at lw_m3 188 rfl) rfl
theorem q740 : (Jvm.Cond.soleField "java/lang/Throwable" "cause") ∈ lw_all := lw_g (lw_at lw_m3 190 rfl) rfl
theorem q742 : (Jvm.Cond.soleField "java/lang/Throwable" "stackTrace") ∈ lw_all := lw_g (lw_at lw_m3 192 rfl) rfl
theorem q744 : (Jvm.Cond.soleField "java/lang/Throwable" "depth") ∈ lw_all := lw_g (lw_at lw_m3 194 rfl) rfl
theorem q746 : (Jvm.Cond.soleField "java/lang/Throwable" "suppressedExceptions") ∈ lw_all := lw_g (lw_at lw_m3 196 rfl) rfl
theorem q755 : (Jvm.Cond.declares ({ cls := "java/lang/Throwable", name := "<init>", desc := "()V" } : Jvm.MethodName)) ∈ lw_tbl := lw_at lw_m3 205 rfl
theorem q756 : (Jvm.Cond.declares ({ cls := "java/lang/Throwable", name := "<init>", desc := "(Ljava/lang/String;)V" } : Jvm.MethodName)) ∈ lw_tbl := lw_at lw_m3 206 rfl
theorem q758 : (Jvm.Cond.lays "java/lang/Throwable" "java/lang/Throwable" "cause" "Ljava/lang/Throwable;") ∈ lw_all := lw_g (lw_at lw_m3 208 rfl) rfl
theorem q759 : (Jvm.Cond.lays "java/lang/Throwable" "java/lang/Throwable" "stackTrace" "[Ljava/lang/StackTraceElement;") ∈ lw_all := lw_g (lw_at lw_m3 209 rfl) rfl
theorem q760 : (Jvm.Cond.lays "java/lang/Throwable" "java/lang/Throwable" "suppressedExceptions" "Ljava/util/List;") ∈ lw_all := lw_g (lw_at lw_m3 210 rfl) rfl
theorem q761 : (Jvm.Cond.lays "java/lang/Throwable" "java/lang/Throwable" "detailMessage" "Ljava/lang/String;") ∈ lw_all := lw_g (lw_at lw_m3 211 rfl) rfl
theorem q762 : (Jvm.Cond.lays "java/lang/Throwable" "java/lang/Throwable" "backtrace" "Ljava/lang/Object;") ∈ lw_all := lw_g (lw_at lw_m3 212 rfl) rfl
theorem q763 : (Jvm.Cond.fieldLink "java/lang/Throwable" (198 : Nat) "java/lang/Throwable" "backtrace" "Ljava/lang/Object;") ∈ lw_all := lw_g (lw_at lw_m3 213 rfl) rfl
theorem q764 : (Jvm.Cond.superclass "java/lang/Throwable" "java/lang/Object") ∈ lw_all := lw_g (lw_at lw_m3 214 rfl) rfl
theorem q765 : (Jvm.Cond.instanceMethod ({ cls := "java/lang/Throwable", name := "<init>", desc := "()V" } : Jvm.MethodName)) ∈ lw_all := lw_g (lw_at lw_m3 215 rfl) rfl
theorem q766 : (Jvm.Cond.code ({ cls := "java/lang/Throwable", name := "<init>", desc := "()V" } : Jvm.MethodName) prog_22_method_1_code (1 : Nat) (Option.none : Option Jvm.ClassFile.FieldType)) ∈ lw_all := lw_g (lw_at lw_m3 216 rfl) rfl
theorem q1253 : (Jvm.Cond.sameMethod "java/lang/Throwable" "java/lang/Throwable" "fillInStackTrace" "(I)Ljava/lang/Throwable;") ∈ lw_all := lw_g (lw_at lw_m5 223 rfl) rfl
theorem in_J0 : ∀ w ∈ wsJ00, w ∈ lw_all := lw_in wsJ00 [758, 759, 760, 761, 762] (by decide +kernel) (by decide +kernel)
/-! java/lang/Exception -/
set_option maxRecDepth 100000
def RJ1 : String := "java/lang/Exception"
abbrev cJ1_init : ByteArray := prog_14_method_2_code
def yJ1_init : MethodName := ⟨RJ1, "<init>", "(Ljava/lang/String;)V"⟩
theorem dJ1_init_0 : decode cJ1_init 0 = .ok (.aload_n 0, 1) := by decide +kernel
theorem dJ1_init_1 : decode cJ1_init 1 = .ok (.aload_n 1, 1) := by decide +kernel
theorem dJ1_init_2 : decode cJ1_init 2 = .ok (.invokespecial 7, 3) := by decide +kernel
theorem dJ1_init_5 : decode cJ1_init 5 = .ok (.return_, 1) := by decide +kernel
abbrev cJ1_init_2 : ByteArray := prog_14_method_1_code
def yJ1_init_2 : MethodName := ⟨RJ1, "<init>", "()V"⟩
theorem dJ1_init_2_0 : decode cJ1_init_2 0 = .ok (.aload_n 0, 1) := by decide +kernel
theorem dJ1_init_2_1 : decode cJ1_init_2 1 = .ok (.invokespecial 1, 3) := by decide +kernel
theorem dJ1_init_2_4 : decode cJ1_init_2 4 = .ok (.return_, 1) := by decide +kernel
theorem q82 : (Jvm.Cond.initialized "java/lang/Exception") ∈ lw_all := lw_g (lw_at lw_m1 12 rfl) rfl
theorem q707 : (Jvm.Cond.instanceMethod ({ cls := "java/lang/Exception", name := "<init>", desc := "(Ljava/lang/String;)V" } : Jvm.MethodName)) ∈ lw_all := lw_g (lw_at lw_m3 157 rfl) rfl
theorem q708 : (Jvm.Cond.code ({ cls := "java/lang/Exception", name := "<init>", desc := "(Ljava/lang/String;)V" } : Jvm.MethodName) prog_14_method_2_code (2 : Nat) (Option.none : Option Jvm.ClassFile.FieldType)) ∈ lw_all := lw_g (lw_at lw_m3 158 rfl) rfl
theorem q709 : (Jvm.Cond.methodLink "java/lang/Exception" (7 : Nat) ({ cls := "java/lang/Throwable", name := "<init>", desc := "(Ljava/lang/String;)V" } : Jvm.MethodName)) ∈ lw_all := lw_g (lw_at lw_m3 159 rfl) rfl
theorem q753 : (Jvm.Cond.declares ({ cls := "java/lang/Exception", name := "<init>", desc := "()V" } : Jvm.MethodName)) ∈ lw_tbl := lw_at lw_m3 203 rfl
theorem q754 : (Jvm.Cond.declares ({ cls := "java/lang/Exception", name := "<init>", desc := "(Ljava/lang/String;)V" } : Jvm.MethodName)) ∈ lw_tbl := lw_at lw_m3 204 rfl
theorem q801 : (Jvm.Cond.instanceMethod ({ cls := "java/lang/Exception", name := "<init>", desc := "()V" } : Jvm.MethodName)) ∈ lw_all := lw_g (lw_at lw_m4 11 rfl) rfl
theorem q802 : (Jvm.Cond.code ({ cls := "java/lang/Exception", name := "<init>", desc := "()V" } : Jvm.MethodName) prog_14_method_1_code (1 : Nat) (Option.none : Option Jvm.ClassFile.FieldType)) ∈ lw_all := lw_g (lw_at lw_m4 12 rfl) rfl
theorem q803 : (Jvm.Cond.methodLink "java/lang/Exception" (1 : Nat) ({ cls := "java/lang/Throwable", name := "<init>", desc := "()V" } : Jvm.MethodName)) ∈ lw_all := lw_g (lw_at lw_m4 13 rfl) rfl
/-! java/lang/RuntimeException -/
set_option maxRecDepth 100000
def RJ2 : String := "java/lang/RuntimeException"
abbrev cJ2_init : ByteArray := prog_19_method_2_code
def yJ2_init : MethodName := ⟨RJ2, "<init>", "(Ljava/lang/String;)V"⟩
theorem dJ2_init_0 : decode cJ2_init 0 = .ok (.aload_n 0, 1) := by decide +kernel
theorem dJ2_init_1 : decode cJ2_init 1 = .ok (.aload_n 1, 1) := by decide +kernel
theorem dJ2_init_2 : decode cJ2_init 2 = .ok (.invokespecial 7, 3) := by decide +kernel
theorem dJ2_init_5 : decode cJ2_init 5 = .ok (.return_, 1) := by decide +kernel
abbrev cJ2_init_2 : ByteArray := prog_19_method_1_code
def yJ2_init_2 : MethodName := ⟨RJ2, "<init>", "()V"⟩
theorem dJ2_init_2_0 : decode cJ2_init_2 0 = .ok (.aload_n 0, 1) := by decide +kernel
theorem dJ2_init_2_1 : decode cJ2_init_2 1 = .ok (.invokespecial 1, 3) := by decide +kernel
theorem dJ2_init_2_4 : decode cJ2_init_2 4 = .ok (.return_, 1) := by decide +kernel
theorem q83 : (Jvm.Cond.initialized "java/lang/RuntimeException") ∈ lw_all := lw_g (lw_at lw_m1 13 rfl) rfl
theorem q704 : (Jvm.Cond.instanceMethod ({ cls := "java/lang/RuntimeException", name := "<init>", desc := "(Ljava/lang/String;)V" } : Jvm.MethodName)) ∈ lw_all := lw_g (lw_at lw_m3 154 rfl) rfl
theorem q705 : (Jvm.Cond.code ({ cls := "java/lang/RuntimeException", name := "<init>", desc := "(Ljava/lang/String;)V" } : Jvm.MethodName) prog_19_method_2_code (2 : Nat) (Option.none : Option Jvm.ClassFile.FieldType)) ∈ lw_all := lw_g (lw_at lw_m3 155 rfl) rfl
theorem q706 : (Jvm.Cond.methodLink "java/lang/RuntimeException" (7 : Nat) ({ cls := "java/lang/Exception", name := "<init>", desc := "(Ljava/lang/String;)V" } : Jvm.MethodName)) ∈ lw_all := lw_g (lw_at lw_m3 156 rfl) rfl
theorem q751 : (Jvm.Cond.declares ({ cls := "java/lang/RuntimeException", name := "<init>", desc := "()V" } : Jvm.MethodName)) ∈ lw_tbl := lw_at lw_m3 201 rfl
theorem q752 : (Jvm.Cond.declares ({ cls := "java/lang/RuntimeException", name := "<init>", desc := "(Ljava/lang/String;)V" } : Jvm.MethodName)) ∈ lw_tbl := lw_at lw_m3 202 rfl
theorem q798 : (Jvm.Cond.instanceMethod ({ cls := "java/lang/RuntimeException", name := "<init>", desc := "()V" } : Jvm.MethodName)) ∈ lw_all := lw_g (lw_at lw_m4 8 rfl) rfl
theorem q799 : (Jvm.Cond.code ({ cls := "java/lang/RuntimeException", name := "<init>", desc := "()V" } : Jvm.MethodName) prog_19_method_1_code (1 : Nat) (Option.none : Option Jvm.ClassFile.FieldType)) ∈ lw_all := lw_g (lw_at lw_m4 9 rfl) rfl
theorem q800 : (Jvm.Cond.methodLink "java/lang/RuntimeException" (1 : Nat) ({ cls := "java/lang/Exception", name := "<init>", desc := "()V" } : Jvm.MethodName)) ∈ lw_all := lw_g (lw_at lw_m4 10 rfl) rfl
/-! java/lang/IndexOutOfBoundsException -/
set_option maxRecDepth 100000
def RJ3 : String := "java/lang/IndexOutOfBoundsException"
def TJ3 : u_T := fun k => match k with
  | 0 => ("java/lang/Throwable", "cause", "Ljava/lang/Throwable;", false)
  | 1 => ("java/lang/Throwable", "stackTrace", "[Ljava/lang/StackTraceElement;", false)
  | 2 => ("java/lang/Throwable", "suppressedExceptions", "Ljava/util/List;", false)
  | 3 => ("java/lang/Throwable", "detailMessage", "Ljava/lang/String;", false)
  | 4 => ("java/lang/Throwable", "backtrace", "Ljava/lang/Object;", false)
  | _ => ("java/lang/Throwable", "depth", "I", false)
def tyJ3 : Nat → FieldType := fun k => match k with
  | 0 => .object "java/lang/Throwable"
  | 1 => .array (.object "java/lang/StackTraceElement")
  | 2 => .object "java/util/List"
  | 3 => .object "java/lang/String"
  | 4 => .object "java/lang/Object"
  | _ => .int
abbrev wsJ30 : List Cond := u_ws RJ3 TJ3 6
theorem nmJ3 : ∀ a, a < 6 → ∀ b, b < 6 → a ≠ b → (TJ3 a).2.1 ≠ (TJ3 b).2.1 := by decide +kernel
theorem tyJ3_ok : ∀ k, k < 6 → parseFieldDescriptor (TJ3 k).2.2.1 = some (tyJ3 k) := by decide +kernel
abbrev cJ3_init : ByteArray := prog_17_method_2_code
def yJ3_init : MethodName := ⟨RJ3, "<init>", "(Ljava/lang/String;)V"⟩
theorem dJ3_init_0 : decode cJ3_init 0 = .ok (.aload_n 0, 1) := by decide +kernel
theorem dJ3_init_1 : decode cJ3_init 1 = .ok (.aload_n 1, 1) := by decide +kernel
theorem dJ3_init_2 : decode cJ3_init 2 = .ok (.invokespecial 7, 3) := by decide +kernel
theorem dJ3_init_5 : decode cJ3_init 5 = .ok (.return_, 1) := by decide +kernel
abbrev cJ3_init_2 : ByteArray := prog_17_method_1_code
def yJ3_init_2 : MethodName := ⟨RJ3, "<init>", "()V"⟩
theorem dJ3_init_2_0 : decode cJ3_init_2 0 = .ok (.aload_n 0, 1) := by decide +kernel
theorem dJ3_init_2_1 : decode cJ3_init_2 1 = .ok (.invokespecial 1, 3) := by decide +kernel
theorem dJ3_init_2_4 : decode cJ3_init_2 4 = .ok (.return_, 1) := by decide +kernel
theorem q84 : (Jvm.Cond.initialized "java/lang/IndexOutOfBoundsException") ∈ lw_all := lw_g (lw_at lw_m1 14 rfl) rfl
theorem q701 : (Jvm.Cond.instanceMethod ({ cls := "java/lang/IndexOutOfBoundsException", name := "<init>", desc := "(Ljava/lang/String;)V" } : Jvm.MethodName)) ∈ lw_all := lw_g (lw_at lw_m3 151 rfl) rfl
theorem q702 : (Jvm.Cond.code ({ cls := "java/lang/IndexOutOfBoundsException", name := "<init>", desc := "(Ljava/lang/String;)V" } : Jvm.MethodName) prog_17_method_2_code (2 : Nat) (Option.none : Option Jvm.ClassFile.FieldType)) ∈ lw_all := lw_g (lw_at lw_m3 152 rfl) rfl
theorem q703 : (Jvm.Cond.methodLink "java/lang/IndexOutOfBoundsException" (7 : Nat) ({ cls := "java/lang/RuntimeException", name := "<init>", desc := "(Ljava/lang/String;)V" } : Jvm.MethodName)) ∈ lw_all := lw_g (lw_at lw_m3 153 rfl) rfl
theorem q723 : (Jvm.Cond.selects "java/lang/IndexOutOfBoundsException" ({ cls := "java/lang/Throwable", name := "fillInStackTrace", desc := "()Ljava/lang/Throwable;" } : Jvm.MethodName) ({ cls := "java/lang/Throwable", name := "fillInStackTrace", desc := "()Ljava/lang/Throwable;" } : Jvm.MethodName)) ∈ lw_all := lw_g (lw_at lw_m3 173 rfl) rfl
theorem q749 : (Jvm.Cond.declares ({ cls := "java/lang/IndexOutOfBoundsException", name := "<init>", desc := "()V" } : Jvm.MethodName)) ∈ lw_tbl := lw_at lw_m3 199 rfl
theorem q750 : (Jvm.Cond.declares ({ cls := "java/lang/IndexOutOfBoundsException", name := "<init>", desc := "(Ljava/lang/String;)V" } : Jvm.MethodName)) ∈ lw_tbl := lw_at lw_m3 200 rfl
theorem q786 : (Jvm.Cond.instantiable "java/lang/IndexOutOfBoundsException" (6 : Nat)) ∈ lw_all := lw_g (lw_at lw_m3 236 rfl) rfl
theorem q787 : (Jvm.Cond.castable "java/lang/IndexOutOfBoundsException" "java/lang/IndexOutOfBoundsException") ∈ lw_tbl := lw_at lw_m3 237 rfl
theorem q788 : (Jvm.Cond.selects "java/lang/IndexOutOfBoundsException" ({ cls := "java/lang/Throwable", name := "fillInStackTrace", desc := "(I)Ljava/lang/Throwable;" } : Jvm.MethodName) ({ cls := "java/lang/Throwable", name := "fillInStackTrace", desc := "(I)Ljava/lang/Throwable;" } : Jvm.MethodName)) ∈ lw_all := lw_g (lw_at lw_m3 238 rfl) rfl
theorem q789 : (Jvm.Cond.lays "java/lang/IndexOutOfBoundsException" "java/lang/Throwable" "cause" "Ljava/lang/Throwable;") ∈ lw_all := lw_g (lw_at lw_m3 239 rfl) rfl
theorem q790 : (Jvm.Cond.lays "java/lang/IndexOutOfBoundsException" "java/lang/Throwable" "stackTrace" "[Ljava/lang/StackTraceElement;") ∈ lw_all := lw_g (lw_at lw_m4 0 rfl) rfl
theorem q791 : (Jvm.Cond.lays "java/lang/IndexOutOfBoundsException" "java/lang/Throwable" "suppressedExceptions" "Ljava/util/List;") ∈ lw_all := lw_g (lw_at lw_m4 1 rfl) rfl
theorem q792 : (Jvm.Cond.lays "java/lang/IndexOutOfBoundsException" "java/lang/Throwable" "detailMessage" "Ljava/lang/String;") ∈ lw_all := lw_g (lw_at lw_m4 2 rfl) rfl
theorem q793 : (Jvm.Cond.lays "java/lang/IndexOutOfBoundsException" "java/lang/Throwable" "backtrace" "Ljava/lang/Object;") ∈ lw_all := lw_g (lw_at lw_m4 3 rfl) rfl
theorem q795 : (Jvm.Cond.instanceMethod ({ cls := "java/lang/IndexOutOfBoundsException", name := "<init>", desc := "()V" } : Jvm.MethodName)) ∈ lw_all := lw_g (lw_at lw_m4 5 rfl) rfl
theorem q796 : (Jvm.Cond.code ({ cls := "java/lang/IndexOutOfBoundsException", name := "<init>", desc := "()V" } : Jvm.MethodName) prog_17_method_1_code (1 : Nat) (Option.none : Option Jvm.ClassFile.FieldType)) ∈ lw_all := lw_g (lw_at lw_m4 6 rfl) rfl
theorem q797 : (Jvm.Cond.methodLink "java/lang/IndexOutOfBoundsException" (1 : Nat) ({ cls := "java/lang/RuntimeException", name := "<init>", desc := "()V" } : Jvm.MethodName)) ∈ lw_all := lw_g (lw_at lw_m4 7 rfl) rfl
theorem q804 : (Jvm.Cond.lays "java/lang/IndexOutOfBoundsException" "java/lang/Throwable" "depth" "I") ∈ lw_all := lw_g (lw_at lw_m4 14 rfl) rfl
theorem q805 : (Jvm.Cond.superclass "java/lang/IndexOutOfBoundsException" "java/lang/RuntimeException") ∈ lw_all := lw_g (lw_at lw_m4 15 rfl) rfl
theorem in_J3 : ∀ w ∈ wsJ30, w ∈ lw_all := lw_in wsJ30 [789, 790, 791, 792, 793, 804] (by decide +kernel) (by decide +kernel)
/-! java/lang/ArrayIndexOutOfBoundsException -/
set_option maxRecDepth 100000
def RJ4 : String := "java/lang/ArrayIndexOutOfBoundsException"
def TJ4 : u_T := fun k => match k with
  | 0 => ("java/lang/Throwable", "backtrace", "Ljava/lang/Object;", false)
  | 1 => ("java/lang/Throwable", "detailMessage", "Ljava/lang/String;", false)
  | 2 => ("java/lang/Throwable", "cause", "Ljava/lang/Throwable;", false)
  | 3 => ("java/lang/Throwable", "stackTrace", "[Ljava/lang/StackTraceElement;", false)
  | 4 => ("java/lang/Throwable", "depth", "I", false)
  | _ => ("java/lang/Throwable", "suppressedExceptions", "Ljava/util/List;", false)
def tyJ4 : Nat → FieldType := fun k => match k with
  | 0 => .object "java/lang/Object"
  | 1 => .object "java/lang/String"
  | 2 => .object "java/lang/Throwable"
  | 3 => .array (.object "java/lang/StackTraceElement")
  | 4 => .int
  | _ => .object "java/util/List"
abbrev wsJ40 : List Cond := u_ws RJ4 TJ4 6
theorem nmJ4 : ∀ a, a < 6 → ∀ b, b < 6 → a ≠ b → (TJ4 a).2.1 ≠ (TJ4 b).2.1 := by decide +kernel
theorem tyJ4_ok : ∀ k, k < 6 → parseFieldDescriptor (TJ4 k).2.2.1 = some (tyJ4 k) := by decide +kernel
abbrev cJ4_init : ByteArray := prog_13_method_2_code
def yJ4_init : MethodName := ⟨RJ4, "<init>", "(Ljava/lang/String;)V"⟩
theorem dJ4_init_0 : decode cJ4_init 0 = .ok (.aload_n 0, 1) := by decide +kernel
theorem dJ4_init_1 : decode cJ4_init 1 = .ok (.aload_n 1, 1) := by decide +kernel
theorem dJ4_init_2 : decode cJ4_init 2 = .ok (.invokespecial 7, 3) := by decide +kernel
theorem dJ4_init_5 : decode cJ4_init 5 = .ok (.return_, 1) := by decide +kernel
theorem q85 : (Jvm.Cond.initialized "java/lang/ArrayIndexOutOfBoundsException") ∈ lw_all := lw_g (lw_at lw_m1 15 rfl) rfl
theorem q697 : (Jvm.Cond.instantiable "java/lang/ArrayIndexOutOfBoundsException" (6 : Nat)) ∈ lw_all := lw_g (lw_at lw_m3 147 rfl) rfl
theorem q698 : (Jvm.Cond.instanceMethod ({ cls := "java/lang/ArrayIndexOutOfBoundsException", name := "<init>", desc := "(Ljava/lang/String;)V" } : Jvm.MethodName)) ∈ lw_all := lw_g (lw_at lw_m3 148 rfl) rfl
theorem q699 : (Jvm.Cond.code ({ cls := "java/lang/ArrayIndexOutOfBoundsException", name := "<init>", desc := "(Ljava/lang/String;)V" } : Jvm.MethodName) prog_13_method_2_code (2 : Nat) (Option.none : Option Jvm.ClassFile.FieldType)) ∈ lw_all := lw_g (lw_at lw_m3 149 rfl) rfl
theorem q700 : (Jvm.Cond.methodLink "java/lang/ArrayIndexOutOfBoundsException" (7 : Nat) ({ cls := "java/lang/IndexOutOfBoundsException", name := "<init>", desc := "(Ljava/lang/String;)V" } : Jvm.MethodName)) ∈ lw_all := lw_g (lw_at lw_m3 150 rfl) rfl
theorem q720 : (Jvm.Cond.selects "java/lang/ArrayIndexOutOfBoundsException" ({ cls := "java/lang/Throwable", name := "fillInStackTrace", desc := "()Ljava/lang/Throwable;" } : Jvm.MethodName) ({ cls := "java/lang/Throwable", name := "fillInStackTrace", desc := "()Ljava/lang/Throwable;" } : Jvm.MethodName)) ∈ lw_all := lw_g (lw_at lw_m3 170 rfl) rfl
theorem q735 : (Jvm.Cond.lays "java/lang/ArrayIndexOutOfBoundsException" "java/lang/Throwable" "backtrace" "Ljava/lang/Object;") ∈ lw_all := lw_g (lw_at lw_m3 185 rfl) rfl
theorem q737 : (Jvm.Cond.lays "java/lang/ArrayIndexOutOfBoundsException" "java/lang/Throwable" "detailMessage" "Ljava/lang/String;") ∈ lw_all := lw_g (lw_at lw_m3 187 rfl) rfl
theorem q739 : (Jvm.Cond.lays "java/lang/ArrayIndexOutOfBoundsException" "java/lang/Throwable" "cause" "Ljava/lang/Throwable;") ∈ lw_all := lw_g (lw_at lw_m3 189 rfl) rfl
theorem q741 : (Jvm.Cond.lays "java/lang/ArrayIndexOutOfBoundsException" "java/lang/Throwable" "stackTrace" "[Ljava/lang/StackTraceElement;") ∈ lw_all := lw_g (lw_at lw_m3 191 rfl) rfl
theorem q743 : (Jvm.Cond.lays "java/lang/ArrayIndexOutOfBoundsException" "java/lang/Throwable" "depth" "I") ∈ lw_all := lw_g (lw_at lw_m3 193 rfl) rfl
theorem q745 : (Jvm.Cond.lays "java/lang/ArrayIndexOutOfBoundsException" "java/lang/Throwable" "suppressedExceptions" "Ljava/util/List;") ∈ lw_all := lw_g (lw_at lw_m3 195 rfl) rfl
theorem q747 : (Jvm.Cond.superclass "java/lang/ArrayIndexOutOfBoundsException" "java/lang/IndexOutOfBoundsException") ∈ lw_all := lw_g (lw_at lw_m3 197 rfl) rfl
theorem q748 : (Jvm.Cond.castable "java/lang/ArrayIndexOutOfBoundsException" "java/lang/ArrayIndexOutOfBoundsException") ∈ lw_tbl := lw_at lw_m3 198 rfl
theorem q757 : (Jvm.Cond.selects "java/lang/ArrayIndexOutOfBoundsException" ({ cls := "java/lang/Throwable", name := "fillInStackTrace", desc := "(I)Ljava/lang/Throwable;" } : Jvm.MethodName) ({ cls := "java/lang/Throwable", name := "fillInStackTrace", desc := "(I)Ljava/lang/Throwable;" } : Jvm.MethodName)) ∈ lw_all := lw_g (lw_at lw_m3 207 rfl) rfl
theorem q1254 : (Jvm.Cond.castable "java/lang/ArrayIndexOutOfBoundsException" "java/lang/IndexOutOfBoundsException") ∈ lw_tbl := lw_at lw_m5 224 rfl
theorem in_J4 : ∀ w ∈ wsJ40, w ∈ lw_all := lw_in wsJ40 [735, 737, 739, 741, 743, 745] (by decide +kernel) (by decide +kernel)
/-! java/lang/String -/
set_option maxRecDepth 100000
def RJ5 : String := "java/lang/String"
def TJ5 : u_T := fun k => match k with
  | 0 => ("java/lang/String", "value", "[B", true)
  | _ => ("java/lang/String", "coder", "B", true)
def tyJ5 : Nat → FieldType := fun k => match k with
  | 0 => .array .byte
  | _ => .byte
abbrev wsJ50 : List Cond := u_ws RJ5 TJ5 2
theorem nmJ5 : ∀ a, a < 2 → ∀ b, b < 2 → a ≠ b → (TJ5 a).2.1 ≠ (TJ5 b).2.1 := by decide +kernel
theorem tyJ5_ok : ∀ k, k < 2 → parseFieldDescriptor (TJ5 k).2.2.1 = some (tyJ5 k) := by decide +kernel
theorem q86 : (Jvm.Cond.initialized "java/lang/String") ∈ lw_all := lw_g (lw_at lw_m1 16 rfl) rfl
theorem q767 : (Jvm.Cond.instantiable "java/lang/String" (4 : Nat)) ∈ lw_all := lw_g (lw_at lw_m3 217 rfl) rfl
theorem q769 : (Jvm.Cond.laysFinal "java/lang/String" "java/lang/String" "value" "[B") ∈ lw_all := lw_g (lw_at lw_m3 219 rfl) rfl
theorem q770 : (Jvm.Cond.soleField "java/lang/String" "value") ∈ lw_all := lw_g (lw_at lw_m3 220 rfl) rfl
theorem q771 : (Jvm.Cond.laysFinal "java/lang/String" "java/lang/String" "coder" "B") ∈ lw_all := lw_g (lw_at lw_m3 221 rfl) rfl
theorem q772 : (Jvm.Cond.soleField "java/lang/String" "coder") ∈ lw_all := lw_g (lw_at lw_m3 222 rfl) rfl
theorem in_J5 : ∀ w ∈ wsJ50, w ∈ lw_all := lw_in wsJ50 [769, 771] (by decide +kernel) (by decide +kernel)
/-! java/lang/IllegalArgumentException -/
set_option maxRecDepth 100000
def RJ6 : String := "java/lang/IllegalArgumentException"
def TJ6 : u_T := fun k => match k with
  | 0 => ("java/lang/Throwable", "cause", "Ljava/lang/Throwable;", false)
  | 1 => ("java/lang/Throwable", "stackTrace", "[Ljava/lang/StackTraceElement;", false)
  | 2 => ("java/lang/Throwable", "suppressedExceptions", "Ljava/util/List;", false)
  | 3 => ("java/lang/Throwable", "detailMessage", "Ljava/lang/String;", false)
  | 4 => ("java/lang/Throwable", "backtrace", "Ljava/lang/Object;", false)
  | _ => ("java/lang/Throwable", "depth", "I", false)
def tyJ6 : Nat → FieldType := fun k => match k with
  | 0 => .object "java/lang/Throwable"
  | 1 => .array (.object "java/lang/StackTraceElement")
  | 2 => .object "java/util/List"
  | 3 => .object "java/lang/String"
  | 4 => .object "java/lang/Object"
  | _ => .int
abbrev wsJ60 : List Cond := u_ws RJ6 TJ6 6
theorem nmJ6 : ∀ a, a < 6 → ∀ b, b < 6 → a ≠ b → (TJ6 a).2.1 ≠ (TJ6 b).2.1 := by decide +kernel
theorem tyJ6_ok : ∀ k, k < 6 → parseFieldDescriptor (TJ6 k).2.2.1 = some (tyJ6 k) := by decide +kernel
abbrev cJ6_init : ByteArray := prog_15_method_1_code
def yJ6_init : MethodName := ⟨RJ6, "<init>", "()V"⟩
theorem dJ6_init_0 : decode cJ6_init 0 = .ok (.aload_n 0, 1) := by decide +kernel
theorem dJ6_init_1 : decode cJ6_init 1 = .ok (.invokespecial 1, 3) := by decide +kernel
theorem dJ6_init_4 : decode cJ6_init 4 = .ok (.return_, 1) := by decide +kernel
theorem q87 : (Jvm.Cond.initialized "java/lang/IllegalArgumentException") ∈ lw_all := lw_g (lw_at lw_m1 17 rfl) rfl
theorem q721 : (Jvm.Cond.selects "java/lang/IllegalArgumentException" ({ cls := "java/lang/Throwable", name := "fillInStackTrace", desc := "()Ljava/lang/Throwable;" } : Jvm.MethodName) ({ cls := "java/lang/Throwable", name := "fillInStackTrace", desc := "()Ljava/lang/Throwable;" } : Jvm.MethodName)) ∈ lw_all := lw_g (lw_at lw_m3 171 rfl) rfl
theorem q814 : (Jvm.Cond.instantiable "java/lang/IllegalArgumentException" (6 : Nat)) ∈ lw_all := lw_g (lw_at lw_m4 24 rfl) rfl
theorem q815 : (Jvm.Cond.castable "java/lang/IllegalArgumentException" "java/lang/IllegalArgumentException") ∈ lw_tbl := lw_at lw_m4 25 rfl
theorem q816 : (Jvm.Cond.selects "java/lang/IllegalArgumentException" ({ cls := "java/lang/Throwable", name := "fillInStackTrace", desc := "(I)Ljava/lang/Throwable;" } : Jvm.MethodName) ({ cls := "java/lang/Throwable", name := "fillInStackTrace", desc := "(I)Ljava/lang/Throwable;" } : Jvm.MethodName)) ∈ lw_all := lw_g (lw_at lw_m4 26 rfl) rfl
theorem q817 : (Jvm.Cond.lays "java/lang/IllegalArgumentException" "java/lang/Throwable" "cause" "Ljava/lang/Throwable;") ∈ lw_all := lw_g (lw_at lw_m4 27 rfl) rfl
theorem q818 : (Jvm.Cond.lays "java/lang/IllegalArgumentException" "java/lang/Throwable" "stackTrace" "[Ljava/lang/StackTraceElement;") ∈ lw_all := lw_g (lw_at lw_m4 28 rfl) rfl
theorem q819 : (Jvm.Cond.lays "java/lang/IllegalArgumentException" "java/lang/Throwable" "suppressedExceptions" "Ljava/util/List;") ∈ lw_all := lw_g (lw_at lw_m4 29 rfl) rfl
theorem q820 : (Jvm.Cond.lays "java/lang/IllegalArgumentException" "java/lang/Throwable" "detailMessage" "Ljava/lang/String;") ∈ lw_all := lw_g (lw_at lw_m4 30 rfl) rfl
theorem q821 : (Jvm.Cond.lays "java/lang/IllegalArgumentException" "java/lang/Throwable" "backtrace" "Ljava/lang/Object;") ∈ lw_all := lw_g (lw_at lw_m4 31 rfl) rfl
theorem q823 : (Jvm.Cond.instanceMethod ({ cls := "java/lang/IllegalArgumentException", name := "<init>", desc := "()V" } : Jvm.MethodName)) ∈ lw_all := lw_g (lw_at lw_m4 33 rfl) rfl
theorem q824 : (Jvm.Cond.code ({ cls := "java/lang/IllegalArgumentException", name := "<init>", desc := "()V" } : Jvm.MethodName) prog_15_method_1_code (1 : Nat) (Option.none : Option Jvm.ClassFile.FieldType)) ∈ lw_all := lw_g (lw_at lw_m4 34 rfl) rfl
theorem q825 : (Jvm.Cond.methodLink "java/lang/IllegalArgumentException" (1 : Nat) ({ cls := "java/lang/RuntimeException", name := "<init>", desc := "()V" } : Jvm.MethodName)) ∈ lw_all := lw_g (lw_at lw_m4 35 rfl) rfl
theorem q826 : (Jvm.Cond.lays "java/lang/IllegalArgumentException" "java/lang/Throwable" "depth" "I") ∈ lw_all := lw_g (lw_at lw_m4 36 rfl) rfl
theorem q827 : (Jvm.Cond.superclass "java/lang/IllegalArgumentException" "java/lang/RuntimeException") ∈ lw_all := lw_g (lw_at lw_m4 37 rfl) rfl
theorem in_J6 : ∀ w ∈ wsJ60, w ∈ lw_all := lw_in wsJ60 [817, 818, 819, 820, 821, 826] (by decide +kernel) (by decide +kernel)
/-! java/lang/IllegalStateException -/
set_option maxRecDepth 100000
def RJ7 : String := "java/lang/IllegalStateException"
def TJ7 : u_T := fun k => match k with
  | 0 => ("java/lang/Throwable", "cause", "Ljava/lang/Throwable;", false)
  | 1 => ("java/lang/Throwable", "stackTrace", "[Ljava/lang/StackTraceElement;", false)
  | 2 => ("java/lang/Throwable", "suppressedExceptions", "Ljava/util/List;", false)
  | 3 => ("java/lang/Throwable", "detailMessage", "Ljava/lang/String;", false)
  | 4 => ("java/lang/Throwable", "backtrace", "Ljava/lang/Object;", false)
  | _ => ("java/lang/Throwable", "depth", "I", false)
def tyJ7 : Nat → FieldType := fun k => match k with
  | 0 => .object "java/lang/Throwable"
  | 1 => .array (.object "java/lang/StackTraceElement")
  | 2 => .object "java/util/List"
  | 3 => .object "java/lang/String"
  | 4 => .object "java/lang/Object"
  | _ => .int
abbrev wsJ70 : List Cond := u_ws RJ7 TJ7 6
theorem nmJ7 : ∀ a, a < 6 → ∀ b, b < 6 → a ≠ b → (TJ7 a).2.1 ≠ (TJ7 b).2.1 := by decide +kernel
theorem tyJ7_ok : ∀ k, k < 6 → parseFieldDescriptor (TJ7 k).2.2.1 = some (tyJ7 k) := by decide +kernel
abbrev cJ7_init : ByteArray := prog_16_method_1_code
def yJ7_init : MethodName := ⟨RJ7, "<init>", "()V"⟩
theorem dJ7_init_0 : decode cJ7_init 0 = .ok (.aload_n 0, 1) := by decide +kernel
theorem dJ7_init_1 : decode cJ7_init 1 = .ok (.invokespecial 1, 3) := by decide +kernel
theorem dJ7_init_4 : decode cJ7_init 4 = .ok (.return_, 1) := by decide +kernel
theorem q88 : (Jvm.Cond.initialized "java/lang/IllegalStateException") ∈ lw_all := lw_g (lw_at lw_m1 18 rfl) rfl
theorem q722 : (Jvm.Cond.selects "java/lang/IllegalStateException" ({ cls := "java/lang/Throwable", name := "fillInStackTrace", desc := "()Ljava/lang/Throwable;" } : Jvm.MethodName) ({ cls := "java/lang/Throwable", name := "fillInStackTrace", desc := "()Ljava/lang/Throwable;" } : Jvm.MethodName)) ∈ lw_all := lw_g (lw_at lw_m3 172 rfl) rfl
theorem q848 : (Jvm.Cond.instantiable "java/lang/IllegalStateException" (6 : Nat)) ∈ lw_all := lw_g (lw_at lw_m4 58 rfl) rfl
theorem q849 : (Jvm.Cond.castable "java/lang/IllegalStateException" "java/lang/IllegalStateException") ∈ lw_tbl := lw_at lw_m4 59 rfl
theorem q850 : (Jvm.Cond.selects "java/lang/IllegalStateException" ({ cls := "java/lang/Throwable", name := "fillInStackTrace", desc := "(I)Ljava/lang/Throwable;" } : Jvm.MethodName) ({ cls := "java/lang/Throwable", name := "fillInStackTrace", desc := "(I)Ljava/lang/Throwable;" } : Jvm.MethodName)) ∈ lw_all := lw_g (lw_at lw_m4 60 rfl) rfl
theorem q851 : (Jvm.Cond.lays "java/lang/IllegalStateException" "java/lang/Throwable" "cause" "Ljava/lang/Throwable;") ∈ lw_all := lw_g (lw_at lw_m4 61 rfl) rfl
theorem q852 : (Jvm.Cond.lays "java/lang/IllegalStateException" "java/lang/Throwable" "stackTrace" "[Ljava/lang/StackTraceElement;") ∈ lw_all := lw_g (lw_at lw_m4 62 rfl) rfl
theorem q853 : (Jvm.Cond.lays "java/lang/IllegalStateException" "java/lang/Throwable" "suppressedExceptions" "Ljava/util/List;") ∈ lw_all := lw_g (lw_at lw_m4 63 rfl) rfl
theorem q854 : (Jvm.Cond.lays "java/lang/IllegalStateException" "java/lang/Throwable" "detailMessage" "Ljava/lang/String;") ∈ lw_all := lw_g (lw_at lw_m4 64 rfl) rfl
theorem q855 : (Jvm.Cond.lays "java/lang/IllegalStateException" "java/lang/Throwable" "backtrace" "Ljava/lang/Object;") ∈ lw_all := lw_g (lw_at lw_m4 65 rfl) rfl
theorem q857 : (Jvm.Cond.instanceMethod ({ cls := "java/lang/IllegalStateException", name := "<init>", desc := "()V" } : Jvm.MethodName)) ∈ lw_all := lw_g (lw_at lw_m4 67 rfl) rfl
theorem q858 : (Jvm.Cond.code ({ cls := "java/lang/IllegalStateException", name := "<init>", desc := "()V" } : Jvm.MethodName) prog_16_method_1_code (1 : Nat) (Option.none : Option Jvm.ClassFile.FieldType)) ∈ lw_all := lw_g (lw_at lw_m4 68 rfl) rfl
theorem q859 : (Jvm.Cond.methodLink "java/lang/IllegalStateException" (1 : Nat) ({ cls := "java/lang/RuntimeException", name := "<init>", desc := "()V" } : Jvm.MethodName)) ∈ lw_all := lw_g (lw_at lw_m4 69 rfl) rfl
theorem q860 : (Jvm.Cond.lays "java/lang/IllegalStateException" "java/lang/Throwable" "depth" "I") ∈ lw_all := lw_g (lw_at lw_m4 70 rfl) rfl
theorem q861 : (Jvm.Cond.superclass "java/lang/IllegalStateException" "java/lang/RuntimeException") ∈ lw_all := lw_g (lw_at lw_m4 71 rfl) rfl
theorem in_J7 : ∀ w ∈ wsJ70, w ∈ lw_all := lw_in wsJ70 [851, 852, 853, 854, 855, 860] (by decide +kernel) (by decide +kernel)
