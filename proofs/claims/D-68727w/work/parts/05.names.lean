/-! ShapeRelatorModel -/
set_option maxRecDepth 100000
def RX10 : String := "ShapeRelatorModel"
def TX10 : u_T := fun k => match k with
  | 0 => ("ShapeRelatorModel", "thrown", "I", false)
  | 1 => ("ShapeRelatorModel", "kinds", "[I", true)
  | 2 => ("ShapeRelatorModel", "points", "[I", true)
  | 3 => ("ShapeRelatorModel", "parts", "[I", true)
  | 4 => ("ShapeRelatorModel", "begins", "[I", true)
  | 5 => ("ShapeRelatorModel", "xs", "[I", true)
  | 6 => ("ShapeRelatorModel", "ys", "[I", true)
  | 7 => ("ShapeRelatorModel", "segments", "I", false)
  | 8 => ("ShapeRelatorModel", "from", "[I", true)
  | 9 => ("ShapeRelatorModel", "to", "[I", true)
  | 10 => ("ShapeRelatorModel", "whose", "[I", true)
  | 11 => ("ShapeRelatorModel", "matrix", "[I", true)
  | 12 => ("ShapeRelatorModel", "hasArea", "[Z", true)
  | 13 => ("ShapeRelatorModel", "x0", "J", false)
  | 14 => ("ShapeRelatorModel", "y0", "J", false)
  | 15 => ("ShapeRelatorModel", "dx", "J", false)
  | 16 => ("ShapeRelatorModel", "dy", "J", false)
  | 17 => ("ShapeRelatorModel", "z", "[J", true)
  | 18 => ("ShapeRelatorModel", "cuts", "I", false)
  | 19 => ("ShapeRelatorModel", "overs", "[J", true)
  | _ => ("ShapeRelatorModel", "unders", "[J", true)
def tyX10 : Nat → FieldType := fun k => match k with
  | 0 => .int
  | 1 => .array .int
  | 2 => .array .int
  | 3 => .array .int
  | 4 => .array .int
  | 5 => .array .int
  | 6 => .array .int
  | 7 => .int
  | 8 => .array .int
  | 9 => .array .int
  | 10 => .array .int
  | 11 => .array .int
  | 12 => .array .boolean
  | 13 => .long
  | 14 => .long
  | 15 => .long
  | 16 => .long
  | 17 => .array .long
  | 18 => .int
  | 19 => .array .long
  | _ => .array .long
abbrev wsX100 : List Cond := u_ws RX10 TX10 21
set_option maxRecDepth 100000 in
theorem nmX10 : ∀ a, a < 21 → ∀ b, b < 21 → a ≠ b → (TX10 a).2.1 ≠ (TX10 b).2.1 := by decide +kernel
set_option maxRecDepth 100000 in
theorem tyX10_ok : ∀ k, k < 21 → parseFieldDescriptor (TX10 k).2.2.1 = some (tyX10 k) := by decide +kernel
abbrev cX10_init : ByteArray := prog_12_method_1_code
def yX10_init : MethodName := ⟨RX10, "<init>", "()V"⟩
theorem dX10_init_0 : decode cX10_init 0 = .ok (.aload_n 0, 1) := by decide +kernel
theorem dX10_init_1 : decode cX10_init 1 = .ok (.invokespecial 1, 3) := by decide +kernel
theorem dX10_init_4 : decode cX10_init 4 = .ok (.aload_n 0, 1) := by decide +kernel
theorem dX10_init_5 : decode cX10_init 5 = .ok (.iconst 2, 1) := by decide +kernel
theorem dX10_init_6 : decode cX10_init 6 = .ok (.newarray .int, 2) := by decide +kernel
theorem dX10_init_8 : decode cX10_init 8 = .ok (.dup, 1) := by decide +kernel
theorem dX10_init_9 : decode cX10_init 9 = .ok (.iconst 0, 1) := by decide +kernel
theorem dX10_init_10 : decode cX10_init 10 = .ok (.iconst 1, 1) := by decide +kernel
theorem dX10_init_11 : decode cX10_init 11 = .ok (.iastore, 1) := by decide +kernel
theorem dX10_init_12 : decode cX10_init 12 = .ok (.dup, 1) := by decide +kernel
theorem dX10_init_13 : decode cX10_init 13 = .ok (.iconst 1, 1) := by decide +kernel
theorem dX10_init_14 : decode cX10_init 14 = .ok (.iconst 1, 1) := by decide +kernel
theorem dX10_init_15 : decode cX10_init 15 = .ok (.iastore, 1) := by decide +kernel
theorem dX10_init_16 : decode cX10_init 16 = .ok (.putfield 7, 3) := by decide +kernel
theorem dX10_init_19 : decode cX10_init 19 = .ok (.aload_n 0, 1) := by decide +kernel
theorem dX10_init_20 : decode cX10_init 20 = .ok (.iconst 2, 1) := by decide +kernel
theorem dX10_init_21 : decode cX10_init 21 = .ok (.newarray .int, 2) := by decide +kernel
theorem dX10_init_23 : decode cX10_init 23 = .ok (.putfield 13, 3) := by decide +kernel
theorem dX10_init_26 : decode cX10_init 26 = .ok (.aload_n 0, 1) := by decide +kernel
theorem dX10_init_27 : decode cX10_init 27 = .ok (.iconst 2, 1) := by decide +kernel
theorem dX10_init_28 : decode cX10_init 28 = .ok (.newarray .int, 2) := by decide +kernel
theorem dX10_init_30 : decode cX10_init 30 = .ok (.putfield 16, 3) := by decide +kernel
theorem dX10_init_33 : decode cX10_init 33 = .ok (.aload_n 0, 1) := by decide +kernel
theorem dX10_init_34 : decode cX10_init 34 = .ok (.sipush 2050, 3) := by decide +kernel
theorem dX10_init_37 : decode cX10_init 37 = .ok (.newarray .int, 2) := by decide +kernel
theorem dX10_init_39 : decode cX10_init 39 = .ok (.putfield 19, 3) := by decide +kernel
theorem dX10_init_42 : decode cX10_init 42 = .ok (.aload_n 0, 1) := by decide +kernel
theorem dX10_init_43 : decode cX10_init 43 = .ok (.sipush 4096, 3) := by decide +kernel
theorem dX10_init_46 : decode cX10_init 46 = .ok (.newarray .int, 2) := by decide +kernel
theorem dX10_init_48 : decode cX10_init 48 = .ok (.putfield 22, 3) := by decide +kernel
theorem dX10_init_51 : decode cX10_init 51 = .ok (.aload_n 0, 1) := by decide +kernel
theorem dX10_init_52 : decode cX10_init 52 = .ok (.sipush 4096, 3) := by decide +kernel
theorem dX10_init_55 : decode cX10_init 55 = .ok (.newarray .int, 2) := by decide +kernel
theorem dX10_init_57 : decode cX10_init 57 = .ok (.putfield 25, 3) := by decide +kernel
theorem dX10_init_60 : decode cX10_init 60 = .ok (.aload_n 0, 1) := by decide +kernel
theorem dX10_init_61 : decode cX10_init 61 = .ok (.sipush 4096, 3) := by decide +kernel
theorem dX10_init_64 : decode cX10_init 64 = .ok (.newarray .int, 2) := by decide +kernel
theorem dX10_init_66 : decode cX10_init 66 = .ok (.putfield 28, 3) := by decide +kernel
theorem dX10_init_69 : decode cX10_init 69 = .ok (.aload_n 0, 1) := by decide +kernel
theorem dX10_init_70 : decode cX10_init 70 = .ok (.sipush 4096, 3) := by decide +kernel
theorem dX10_init_73 : decode cX10_init 73 = .ok (.newarray .int, 2) := by decide +kernel
theorem dX10_init_75 : decode cX10_init 75 = .ok (.putfield 31, 3) := by decide +kernel
theorem dX10_init_78 : decode cX10_init 78 = .ok (.aload_n 0, 1) := by decide +kernel
theorem dX10_init_79 : decode cX10_init 79 = .ok (.sipush 4096, 3) := by decide +kernel
theorem dX10_init_82 : decode cX10_init 82 = .ok (.newarray .int, 2) := by decide +kernel
theorem dX10_init_84 : decode cX10_init 84 = .ok (.putfield 34, 3) := by decide +kernel
theorem dX10_init_87 : decode cX10_init 87 = .ok (.aload_n 0, 1) := by decide +kernel
theorem dX10_init_88 : decode cX10_init 88 = .ok (.bipush 9, 2) := by decide +kernel
theorem dX10_init_90 : decode cX10_init 90 = .ok (.newarray .int, 2) := by decide +kernel
theorem dX10_init_92 : decode cX10_init 92 = .ok (.putfield 37, 3) := by decide +kernel
theorem dX10_init_95 : decode cX10_init 95 = .ok (.aload_n 0, 1) := by decide +kernel
theorem dX10_init_96 : decode cX10_init 96 = .ok (.iconst 2, 1) := by decide +kernel
theorem dX10_init_97 : decode cX10_init 97 = .ok (.newarray .boolean, 2) := by decide +kernel
theorem dX10_init_99 : decode cX10_init 99 = .ok (.putfield 40, 3) := by decide +kernel
theorem dX10_init_102 : decode cX10_init 102 = .ok (.aload_n 0, 1) := by decide +kernel
theorem dX10_init_103 : decode cX10_init 103 = .ok (.sipush 192, 3) := by decide +kernel
theorem dX10_init_106 : decode cX10_init 106 = .ok (.newarray .long, 2) := by decide +kernel
theorem dX10_init_108 : decode cX10_init 108 = .ok (.putfield 44, 3) := by decide +kernel
theorem dX10_init_111 : decode cX10_init 111 = .ok (.aload_n 0, 1) := by decide +kernel
theorem dX10_init_112 : decode cX10_init 112 = .ok (.sipush 12400, 3) := by decide +kernel
theorem dX10_init_115 : decode cX10_init 115 = .ok (.newarray .long, 2) := by decide +kernel
theorem dX10_init_117 : decode cX10_init 117 = .ok (.putfield 48, 3) := by decide +kernel
theorem dX10_init_120 : decode cX10_init 120 = .ok (.aload_n 0, 1) := by decide +kernel
theorem dX10_init_121 : decode cX10_init 121 = .ok (.sipush 12400, 3) := by decide +kernel
theorem dX10_init_124 : decode cX10_init 124 = .ok (.newarray .long, 2) := by decide +kernel
theorem dX10_init_126 : decode cX10_init 126 = .ok (.putfield 51, 3) := by decide +kernel
theorem dX10_init_129 : decode cX10_init 129 = .ok (.return_, 1) := by decide +kernel
abbrev cX10_thrown : ByteArray := prog_12_method_2_code
def yX10_thrown : MethodName := ⟨RX10, "thrown", "()I"⟩
theorem dX10_thrown_0 : decode cX10_thrown 0 = .ok (.aload_n 0, 1) := by decide +kernel
theorem dX10_thrown_1 : decode cX10_thrown 1 = .ok (.getfield 54, 3) := by decide +kernel
theorem dX10_thrown_4 : decode cX10_thrown 4 = .ok (.ireturn, 1) := by decide +kernel
abbrev cX10_shape : ByteArray := prog_12_method_7_code
def yX10_shape : MethodName := ⟨RX10, "shape", "(II)I"⟩
theorem dX10_shape_0 : decode cX10_shape 0 = .ok (.aload_n 0, 1) := by decide +kernel
theorem dX10_shape_1 : decode cX10_shape 1 = .ok (.iconst 0, 1) := by decide +kernel
theorem dX10_shape_2 : decode cX10_shape 2 = .ok (.putfield 54, 3) := by decide +kernel
theorem dX10_shape_5 : decode cX10_shape 5 = .ok (.iload_n 1, 1) := by decide +kernel
theorem dX10_shape_6 : decode cX10_shape 6 = .ok (.invokestatic 64, 3) := by decide +kernel
theorem dX10_shape_9 : decode cX10_shape 9 = .ok (.ifCond .ne 9, 3) := by decide +kernel
theorem dX10_shape_12 : decode cX10_shape 12 = .ok (.aload_n 0, 1) := by decide +kernel
theorem dX10_shape_13 : decode cX10_shape 13 = .ok (.iconst 1, 1) := by decide +kernel
theorem dX10_shape_14 : decode cX10_shape 14 = .ok (.invokevirtual 68, 3) := by decide +kernel
theorem dX10_shape_17 : decode cX10_shape 17 = .ok (.ireturn, 1) := by decide +kernel
theorem dX10_shape_18 : decode cX10_shape 18 = .ok (.iload_n 2, 1) := by decide +kernel
theorem dX10_shape_19 : decode cX10_shape 19 = .ok (.iconst 1, 1) := by decide +kernel
theorem dX10_shape_20 : decode cX10_shape 20 = .ok (.iconst 3, 1) := by decide +kernel
theorem dX10_shape_21 : decode cX10_shape 21 = .ok (.invokestatic 60, 3) := by decide +kernel
theorem dX10_shape_24 : decode cX10_shape 24 = .ok (.ifCond .ne 9, 3) := by decide +kernel
theorem dX10_shape_27 : decode cX10_shape 27 = .ok (.aload_n 0, 1) := by decide +kernel
theorem dX10_shape_28 : decode cX10_shape 28 = .ok (.iconst 2, 1) := by decide +kernel
theorem dX10_shape_29 : decode cX10_shape 29 = .ok (.invokevirtual 68, 3) := by decide +kernel
theorem dX10_shape_32 : decode cX10_shape 32 = .ok (.ireturn, 1) := by decide +kernel
theorem dX10_shape_33 : decode cX10_shape 33 = .ok (.aload_n 0, 1) := by decide +kernel
theorem dX10_shape_34 : decode cX10_shape 34 = .ok (.getfield 13, 3) := by decide +kernel
theorem dX10_shape_37 : decode cX10_shape 37 = .ok (.iload_n 1, 1) := by decide +kernel
theorem dX10_shape_38 : decode cX10_shape 38 = .ok (.iaload, 1) := by decide +kernel
theorem dX10_shape_39 : decode cX10_shape 39 = .ok (.istore_n 3, 1) := by decide +kernel
theorem dX10_shape_40 : decode cX10_shape 40 = .ok (.aload_n 0, 1) := by decide +kernel
theorem dX10_shape_41 : decode cX10_shape 41 = .ok (.getfield 7, 3) := by decide +kernel
theorem dX10_shape_44 : decode cX10_shape 44 = .ok (.iload_n 1, 1) := by decide +kernel
theorem dX10_shape_45 : decode cX10_shape 45 = .ok (.iload_n 2, 1) := by decide +kernel
theorem dX10_shape_46 : decode cX10_shape 46 = .ok (.iastore, 1) := by decide +kernel
theorem dX10_shape_47 : decode cX10_shape 47 = .ok (.aload_n 0, 1) := by decide +kernel
theorem dX10_shape_48 : decode cX10_shape 48 = .ok (.getfield 13, 3) := by decide +kernel
theorem dX10_shape_51 : decode cX10_shape 51 = .ok (.iload_n 1, 1) := by decide +kernel
theorem dX10_shape_52 : decode cX10_shape 52 = .ok (.iconst 0, 1) := by decide +kernel
theorem dX10_shape_53 : decode cX10_shape 53 = .ok (.iastore, 1) := by decide +kernel
theorem dX10_shape_54 : decode cX10_shape 54 = .ok (.aload_n 0, 1) := by decide +kernel
theorem dX10_shape_55 : decode cX10_shape 55 = .ok (.getfield 16, 3) := by decide +kernel
theorem dX10_shape_58 : decode cX10_shape 58 = .ok (.iload_n 1, 1) := by decide +kernel
theorem dX10_shape_59 : decode cX10_shape 59 = .ok (.iconst 0, 1) := by decide +kernel
theorem dX10_shape_60 : decode cX10_shape 60 = .ok (.iastore, 1) := by decide +kernel
theorem dX10_shape_61 : decode cX10_shape 61 = .ok (.iload_n 3, 1) := by decide +kernel
theorem dX10_shape_62 : decode cX10_shape 62 = .ok (.ireturn, 1) := by decide +kernel
abbrev cX10_isShape : ByteArray := prog_12_method_6_code
def yX10_isShape : MethodName := ⟨RX10, "isShape", "(I)Z"⟩
theorem dX10_isShape_0 : decode cX10_isShape 0 = .ok (.iload_n 0, 1) := by decide +kernel
theorem dX10_isShape_1 : decode cX10_isShape 1 = .ok (.iconst 0, 1) := by decide +kernel
theorem dX10_isShape_2 : decode cX10_isShape 2 = .ok (.iconst 1, 1) := by decide +kernel
theorem dX10_isShape_3 : decode cX10_isShape 3 = .ok (.invokestatic 60, 3) := by decide +kernel
theorem dX10_isShape_6 : decode cX10_isShape 6 = .ok (.ireturn, 1) := by decide +kernel
abbrev cX10_within : ByteArray := prog_12_method_4_code
def yX10_within : MethodName := ⟨RX10, "within", "(III)Z"⟩
theorem dX10_within_0 : decode cX10_within 0 = .ok (.iload_n 0, 1) := by decide +kernel
theorem dX10_within_1 : decode cX10_within 1 = .ok (.iload_n 1, 1) := by decide +kernel
theorem dX10_within_2 : decode cX10_within 2 = .ok (.if_icmp .lt 12, 3) := by decide +kernel
theorem dX10_within_5 : decode cX10_within 5 = .ok (.iload_n 0, 1) := by decide +kernel
theorem dX10_within_6 : decode cX10_within 6 = .ok (.iload_n 2, 1) := by decide +kernel
theorem dX10_within_7 : decode cX10_within 7 = .ok (.if_icmp .gt 7, 3) := by decide +kernel
theorem dX10_within_10 : decode cX10_within 10 = .ok (.iconst 1, 1) := by decide +kernel
theorem dX10_within_11 : decode cX10_within 11 = .ok (.goto 4, 3) := by decide +kernel
theorem dX10_within_14 : decode cX10_within 14 = .ok (.iconst 0, 1) := by decide +kernel
theorem dX10_within_15 : decode cX10_within 15 = .ok (.ireturn, 1) := by decide +kernel
abbrev cX10_fail : ByteArray := prog_12_method_3_code
def yX10_fail : MethodName := ⟨RX10, "fail", "(I)I"⟩
theorem dX10_fail_0 : decode cX10_fail 0 = .ok (.aload_n 0, 1) := by decide +kernel
theorem dX10_fail_1 : decode cX10_fail 1 = .ok (.iload_n 1, 1) := by decide +kernel
theorem dX10_fail_2 : decode cX10_fail 2 = .ok (.putfield 54, 3) := by decide +kernel
theorem dX10_fail_5 : decode cX10_fail 5 = .ok (.iconst 0, 1) := by decide +kernel
theorem dX10_fail_6 : decode cX10_fail 6 = .ok (.ireturn, 1) := by decide +kernel
abbrev cX10_part : ByteArray := prog_12_method_8_code
def yX10_part : MethodName := ⟨RX10, "part", "(I)I"⟩
theorem dX10_part_0 : decode cX10_part 0 = .ok (.aload_n 0, 1) := by decide +kernel
theorem dX10_part_1 : decode cX10_part 1 = .ok (.iconst 0, 1) := by decide +kernel
theorem dX10_part_2 : decode cX10_part 2 = .ok (.putfield 54, 3) := by decide +kernel
theorem dX10_part_5 : decode cX10_part 5 = .ok (.iload_n 1, 1) := by decide +kernel
theorem dX10_part_6 : decode cX10_part 6 = .ok (.invokestatic 64, 3) := by decide +kernel
theorem dX10_part_9 : decode cX10_part 9 = .ok (.ifCond .ne 9, 3) := by decide +kernel
theorem dX10_part_12 : decode cX10_part 12 = .ok (.aload_n 0, 1) := by decide +kernel
theorem dX10_part_13 : decode cX10_part 13 = .ok (.iconst 1, 1) := by decide +kernel
theorem dX10_part_14 : decode cX10_part 14 = .ok (.invokevirtual 68, 3) := by decide +kernel
theorem dX10_part_17 : decode cX10_part 17 = .ok (.ireturn, 1) := by decide +kernel
theorem dX10_part_18 : decode cX10_part 18 = .ok (.aload_n 0, 1) := by decide +kernel
theorem dX10_part_19 : decode cX10_part 19 = .ok (.getfield 16, 3) := by decide +kernel
theorem dX10_part_22 : decode cX10_part 22 = .ok (.iload_n 1, 1) := by decide +kernel
theorem dX10_part_23 : decode cX10_part 23 = .ok (.iaload, 1) := by decide +kernel
theorem dX10_part_24 : decode cX10_part 24 = .ok (.sipush 1024, 3) := by decide +kernel
theorem dX10_part_27 : decode cX10_part 27 = .ok (.if_icmp .ne 9, 3) := by decide +kernel
theorem dX10_part_30 : decode cX10_part 30 = .ok (.aload_n 0, 1) := by decide +kernel
theorem dX10_part_31 : decode cX10_part 31 = .ok (.iconst 2, 1) := by decide +kernel
theorem dX10_part_32 : decode cX10_part 32 = .ok (.invokevirtual 68, 3) := by decide +kernel
theorem dX10_part_35 : decode cX10_part 35 = .ok (.ireturn, 1) := by decide +kernel
theorem dX10_part_36 : decode cX10_part 36 = .ok (.aload_n 0, 1) := by decide +kernel
theorem dX10_part_37 : decode cX10_part 37 = .ok (.getfield 19, 3) := by decide +kernel
theorem dX10_part_40 : decode cX10_part 40 = .ok (.sipush 1025, 3) := by decide +kernel
theorem dX10_part_43 : decode cX10_part 43 = .ok (.iload_n 1, 1) := by decide +kernel
theorem dX10_part_44 : decode cX10_part 44 = .ok (.imul, 1) := by decide +kernel
theorem dX10_part_45 : decode cX10_part 45 = .ok (.aload_n 0, 1) := by decide +kernel
theorem dX10_part_46 : decode cX10_part 46 = .ok (.getfield 16, 3) := by decide +kernel
theorem dX10_part_49 : decode cX10_part 49 = .ok (.iload_n 1, 1) := by decide +kernel
theorem dX10_part_50 : decode cX10_part 50 = .ok (.iaload, 1) := by decide +kernel
theorem dX10_part_51 : decode cX10_part 51 = .ok (.iadd, 1) := by decide +kernel
theorem dX10_part_52 : decode cX10_part 52 = .ok (.aload_n 0, 1) := by decide +kernel
theorem dX10_part_53 : decode cX10_part 53 = .ok (.getfield 13, 3) := by decide +kernel
theorem dX10_part_56 : decode cX10_part 56 = .ok (.iload_n 1, 1) := by decide +kernel
theorem dX10_part_57 : decode cX10_part 57 = .ok (.iaload, 1) := by decide +kernel
theorem dX10_part_58 : decode cX10_part 58 = .ok (.iastore, 1) := by decide +kernel
theorem dX10_part_59 : decode cX10_part 59 = .ok (.aload_n 0, 1) := by decide +kernel
theorem dX10_part_60 : decode cX10_part 60 = .ok (.getfield 16, 3) := by decide +kernel
theorem dX10_part_63 : decode cX10_part 63 = .ok (.iload_n 1, 1) := by decide +kernel
theorem dX10_part_64 : decode cX10_part 64 = .ok (.dup2, 1) := by decide +kernel
theorem dX10_part_65 : decode cX10_part 65 = .ok (.iaload, 1) := by decide +kernel
theorem dX10_part_66 : decode cX10_part 66 = .ok (.iconst 1, 1) := by decide +kernel
theorem dX10_part_67 : decode cX10_part 67 = .ok (.iadd, 1) := by decide +kernel
theorem dX10_part_68 : decode cX10_part 68 = .ok (.iastore, 1) := by decide +kernel
theorem dX10_part_69 : decode cX10_part 69 = .ok (.aload_n 0, 1) := by decide +kernel
theorem dX10_part_70 : decode cX10_part 70 = .ok (.getfield 16, 3) := by decide +kernel
theorem dX10_part_73 : decode cX10_part 73 = .ok (.iload_n 1, 1) := by decide +kernel
theorem dX10_part_74 : decode cX10_part 74 = .ok (.iaload, 1) := by decide +kernel
theorem dX10_part_75 : decode cX10_part 75 = .ok (.ireturn, 1) := by decide +kernel
abbrev cX10_point : ByteArray := prog_12_method_9_code
def yX10_point : MethodName := ⟨RX10, "point", "(III)I"⟩
theorem dX10_point_0 : decode cX10_point 0 = .ok (.aload_n 0, 1) := by decide +kernel
theorem dX10_point_1 : decode cX10_point 1 = .ok (.iconst 0, 1) := by decide +kernel
theorem dX10_point_2 : decode cX10_point 2 = .ok (.putfield 54, 3) := by decide +kernel
theorem dX10_point_5 : decode cX10_point 5 = .ok (.iload_n 1, 1) := by decide +kernel
theorem dX10_point_6 : decode cX10_point 6 = .ok (.invokestatic 64, 3) := by decide +kernel
theorem dX10_point_9 : decode cX10_point 9 = .ok (.ifCond .ne 9, 3) := by decide +kernel
theorem dX10_point_12 : decode cX10_point 12 = .ok (.aload_n 0, 1) := by decide +kernel
theorem dX10_point_13 : decode cX10_point 13 = .ok (.iconst 1, 1) := by decide +kernel
theorem dX10_point_14 : decode cX10_point 14 = .ok (.invokevirtual 68, 3) := by decide +kernel
theorem dX10_point_17 : decode cX10_point 17 = .ok (.ireturn, 1) := by decide +kernel
theorem dX10_point_18 : decode cX10_point 18 = .ok (.iload_n 2, 1) := by decide +kernel
theorem dX10_point_19 : decode cX10_point 19 = .ok (.invokestatic 72, 3) := by decide +kernel
theorem dX10_point_22 : decode cX10_point 22 = .ok (.ifCond .ne 10, 3) := by decide +kernel
theorem dX10_point_25 : decode cX10_point 25 = .ok (.iload_n 3, 1) := by decide +kernel
theorem dX10_point_26 : decode cX10_point 26 = .ok (.invokestatic 72, 3) := by decide +kernel
theorem dX10_point_29 : decode cX10_point 29 = .ok (.ifCond .eq 9, 3) := by decide +kernel
theorem dX10_point_32 : decode cX10_point 32 = .ok (.aload_n 0, 1) := by decide +kernel
theorem dX10_point_33 : decode cX10_point 33 = .ok (.iconst 2, 1) := by decide +kernel
theorem dX10_point_34 : decode cX10_point 34 = .ok (.invokevirtual 68, 3) := by decide +kernel
theorem dX10_point_37 : decode cX10_point 37 = .ok (.ireturn, 1) := by decide +kernel
theorem dX10_point_38 : decode cX10_point 38 = .ok (.aload_n 0, 1) := by decide +kernel
theorem dX10_point_39 : decode cX10_point 39 = .ok (.getfield 16, 3) := by decide +kernel
theorem dX10_point_42 : decode cX10_point 42 = .ok (.iload_n 1, 1) := by decide +kernel
theorem dX10_point_43 : decode cX10_point 43 = .ok (.iaload, 1) := by decide +kernel
theorem dX10_point_44 : decode cX10_point 44 = .ok (.ifCond .eq 15, 3) := by decide +kernel
theorem dX10_point_47 : decode cX10_point 47 = .ok (.aload_n 0, 1) := by decide +kernel
theorem dX10_point_48 : decode cX10_point 48 = .ok (.getfield 13, 3) := by decide +kernel
theorem dX10_point_51 : decode cX10_point 51 = .ok (.iload_n 1, 1) := by decide +kernel
theorem dX10_point_52 : decode cX10_point 52 = .ok (.iaload, 1) := by decide +kernel
theorem dX10_point_53 : decode cX10_point 53 = .ok (.sipush 2048, 3) := by decide +kernel
theorem dX10_point_56 : decode cX10_point 56 = .ok (.if_icmp .ne 9, 3) := by decide +kernel
theorem dX10_point_59 : decode cX10_point 59 = .ok (.aload_n 0, 1) := by decide +kernel
theorem dX10_point_60 : decode cX10_point 60 = .ok (.iconst 3, 1) := by decide +kernel
theorem dX10_point_61 : decode cX10_point 61 = .ok (.invokevirtual 68, 3) := by decide +kernel
theorem dX10_point_64 : decode cX10_point 64 = .ok (.ireturn, 1) := by decide +kernel
theorem dX10_point_65 : decode cX10_point 65 = .ok (.aload_n 0, 1) := by decide +kernel
theorem dX10_point_66 : decode cX10_point 66 = .ok (.getfield 22, 3) := by decide +kernel
theorem dX10_point_69 : decode cX10_point 69 = .ok (.sipush 2048, 3) := by decide +kernel
theorem dX10_point_72 : decode cX10_point 72 = .ok (.iload_n 1, 1) := by decide +kernel
theorem dX10_point_73 : decode cX10_point 73 = .ok (.imul, 1) := by decide +kernel
theorem dX10_point_74 : decode cX10_point 74 = .ok (.aload_n 0, 1) := by decide +kernel
theorem dX10_point_75 : decode cX10_point 75 = .ok (.getfield 13, 3) := by decide +kernel
theorem dX10_point_78 : decode cX10_point 78 = .ok (.iload_n 1, 1) := by decide +kernel
theorem dX10_point_79 : decode cX10_point 79 = .ok (.iaload, 1) := by decide +kernel
theorem dX10_point_80 : decode cX10_point 80 = .ok (.iadd, 1) := by decide +kernel
theorem dX10_point_81 : decode cX10_point 81 = .ok (.iload_n 2, 1) := by decide +kernel
theorem dX10_point_82 : decode cX10_point 82 = .ok (.iastore, 1) := by decide +kernel
theorem dX10_point_83 : decode cX10_point 83 = .ok (.aload_n 0, 1) := by decide +kernel
theorem dX10_point_84 : decode cX10_point 84 = .ok (.getfield 25, 3) := by decide +kernel
theorem dX10_point_87 : decode cX10_point 87 = .ok (.sipush 2048, 3) := by decide +kernel
theorem dX10_point_90 : decode cX10_point 90 = .ok (.iload_n 1, 1) := by decide +kernel
theorem dX10_point_91 : decode cX10_point 91 = .ok (.imul, 1) := by decide +kernel
theorem dX10_point_92 : decode cX10_point 92 = .ok (.aload_n 0, 1) := by decide +kernel
theorem dX10_point_93 : decode cX10_point 93 = .ok (.getfield 13, 3) := by decide +kernel
theorem dX10_point_96 : decode cX10_point 96 = .ok (.iload_n 1, 1) := by decide +kernel
theorem dX10_point_97 : decode cX10_point 97 = .ok (.iaload, 1) := by decide +kernel
theorem dX10_point_98 : decode cX10_point 98 = .ok (.iadd, 1) := by decide +kernel
theorem dX10_point_99 : decode cX10_point 99 = .ok (.iload_n 3, 1) := by decide +kernel
theorem dX10_point_100 : decode cX10_point 100 = .ok (.iastore, 1) := by decide +kernel
theorem dX10_point_101 : decode cX10_point 101 = .ok (.aload_n 0, 1) := by decide +kernel
theorem dX10_point_102 : decode cX10_point 102 = .ok (.getfield 13, 3) := by decide +kernel
theorem dX10_point_105 : decode cX10_point 105 = .ok (.iload_n 1, 1) := by decide +kernel
theorem dX10_point_106 : decode cX10_point 106 = .ok (.dup2, 1) := by decide +kernel
theorem dX10_point_107 : decode cX10_point 107 = .ok (.iaload, 1) := by decide +kernel
theorem dX10_point_108 : decode cX10_point 108 = .ok (.iconst 1, 1) := by decide +kernel
theorem dX10_point_109 : decode cX10_point 109 = .ok (.iadd, 1) := by decide +kernel
theorem dX10_point_110 : decode cX10_point 110 = .ok (.iastore, 1) := by decide +kernel
theorem dX10_point_111 : decode cX10_point 111 = .ok (.aload_n 0, 1) := by decide +kernel
theorem dX10_point_112 : decode cX10_point 112 = .ok (.getfield 13, 3) := by decide +kernel
theorem dX10_point_115 : decode cX10_point 115 = .ok (.iload_n 1, 1) := by decide +kernel
theorem dX10_point_116 : decode cX10_point 116 = .ok (.iaload, 1) := by decide +kernel
theorem dX10_point_117 : decode cX10_point 117 = .ok (.ireturn, 1) := by decide +kernel
abbrev cX10_isFar : ByteArray := prog_12_method_5_code
def yX10_isFar : MethodName := ⟨RX10, "isFar", "(I)Z"⟩
theorem dX10_isFar_0 : decode cX10_isFar 0 = .ok (.iload_n 0, 1) := by decide +kernel
theorem dX10_isFar_1 : decode cX10_isFar 1 = .ok (.ldc 58, 2) := by decide +kernel
theorem dX10_isFar_3 : decode cX10_isFar 3 = .ok (.ldc 59, 2) := by decide +kernel
theorem dX10_isFar_5 : decode cX10_isFar 5 = .ok (.invokestatic 60, 3) := by decide +kernel
theorem dX10_isFar_8 : decode cX10_isFar 8 = .ok (.ifCond .ne 7, 3) := by decide +kernel
theorem dX10_isFar_11 : decode cX10_isFar 11 = .ok (.iconst 1, 1) := by decide +kernel
theorem dX10_isFar_12 : decode cX10_isFar 12 = .ok (.goto 4, 3) := by decide +kernel
theorem dX10_isFar_15 : decode cX10_isFar 15 = .ok (.iconst 0, 1) := by decide +kernel
theorem dX10_isFar_16 : decode cX10_isFar 16 = .ok (.ireturn, 1) := by decide +kernel
abbrev cX10_locate : ByteArray := prog_12_method_35_code
def yX10_locate : MethodName := ⟨RX10, "locate", "(III)I"⟩
theorem dX10_locate_0 : decode cX10_locate 0 = .ok (.aload_n 0, 1) := by decide +kernel
theorem dX10_locate_1 : decode cX10_locate 1 = .ok (.iconst 0, 1) := by decide +kernel
theorem dX10_locate_2 : decode cX10_locate 2 = .ok (.putfield 54, 3) := by decide +kernel
theorem dX10_locate_5 : decode cX10_locate 5 = .ok (.iload_n 1, 1) := by decide +kernel
theorem dX10_locate_6 : decode cX10_locate 6 = .ok (.invokestatic 64, 3) := by decide +kernel
theorem dX10_locate_9 : decode cX10_locate 9 = .ok (.ifCond .ne 9, 3) := by decide +kernel
theorem dX10_locate_12 : decode cX10_locate 12 = .ok (.aload_n 0, 1) := by decide +kernel
theorem dX10_locate_13 : decode cX10_locate 13 = .ok (.iconst 1, 1) := by decide +kernel
theorem dX10_locate_14 : decode cX10_locate 14 = .ok (.invokevirtual 68, 3) := by decide +kernel
theorem dX10_locate_17 : decode cX10_locate 17 = .ok (.ireturn, 1) := by decide +kernel
theorem dX10_locate_18 : decode cX10_locate 18 = .ok (.iload_n 2, 1) := by decide +kernel
theorem dX10_locate_19 : decode cX10_locate 19 = .ok (.invokestatic 72, 3) := by decide +kernel
theorem dX10_locate_22 : decode cX10_locate 22 = .ok (.ifCond .ne 10, 3) := by decide +kernel
theorem dX10_locate_25 : decode cX10_locate 25 = .ok (.iload_n 3, 1) := by decide +kernel
theorem dX10_locate_26 : decode cX10_locate 26 = .ok (.invokestatic 72, 3) := by decide +kernel
theorem dX10_locate_29 : decode cX10_locate 29 = .ok (.ifCond .eq 9, 3) := by decide +kernel
theorem dX10_locate_32 : decode cX10_locate 32 = .ok (.aload_n 0, 1) := by decide +kernel
theorem dX10_locate_33 : decode cX10_locate 33 = .ok (.iconst 2, 1) := by decide +kernel
theorem dX10_locate_34 : decode cX10_locate 34 = .ok (.invokevirtual 68, 3) := by decide +kernel
theorem dX10_locate_37 : decode cX10_locate 37 = .ok (.ireturn, 1) := by decide +kernel
theorem dX10_locate_38 : decode cX10_locate 38 = .ok (.aload_n 0, 1) := by decide +kernel
theorem dX10_locate_39 : decode cX10_locate 39 = .ok (.invokevirtual 162, 3) := by decide +kernel
theorem dX10_locate_42 : decode cX10_locate 42 = .ok (.aload_n 0, 1) := by decide +kernel
theorem dX10_locate_43 : decode cX10_locate 43 = .ok (.iload_n 2, 1) := by decide +kernel
theorem dX10_locate_44 : decode cX10_locate 44 = .ok (.i2l, 1) := by decide +kernel
theorem dX10_locate_45 : decode cX10_locate 45 = .ok (.iload_n 3, 1) := by decide +kernel
theorem dX10_locate_46 : decode cX10_locate 46 = .ok (.i2l, 1) := by decide +kernel
theorem dX10_locate_47 : decode cX10_locate 47 = .ok (.lconst 0, 1) := by decide +kernel
theorem dX10_locate_48 : decode cX10_locate 48 = .ok (.lconst 0, 1) := by decide +kernel
theorem dX10_locate_49 : decode cX10_locate 49 = .ok (.invokevirtual 165, 3) := by decide +kernel
theorem dX10_locate_52 : decode cX10_locate 52 = .ok (.aload_n 0, 1) := by decide +kernel
theorem dX10_locate_53 : decode cX10_locate 53 = .ok (.lconst 0, 1) := by decide +kernel
theorem dX10_locate_54 : decode cX10_locate 54 = .ok (.lconst 1, 1) := by decide +kernel
theorem dX10_locate_55 : decode cX10_locate 55 = .ok (.invokevirtual 169, 3) := by decide +kernel
theorem dX10_locate_58 : decode cX10_locate 58 = .ok (.aload_n 0, 1) := by decide +kernel
theorem dX10_locate_59 : decode cX10_locate 59 = .ok (.iload_n 1, 1) := by decide +kernel
theorem dX10_locate_60 : decode cX10_locate 60 = .ok (.invokevirtual 173, 3) := by decide +kernel
theorem dX10_locate_63 : decode cX10_locate 63 = .ok (.ireturn, 1) := by decide +kernel
abbrev cX10_gather : ByteArray := prog_12_method_14_code
def yX10_gather : MethodName := ⟨RX10, "gather", "()V"⟩
theorem dX10_gather_0 : decode cX10_gather 0 = .ok (.aload_n 0, 1) := by decide +kernel
theorem dX10_gather_1 : decode cX10_gather 1 = .ok (.iconst 0, 1) := by decide +kernel
theorem dX10_gather_2 : decode cX10_gather 2 = .ok (.putfield 79, 3) := by decide +kernel
theorem dX10_gather_5 : decode cX10_gather 5 = .ok (.iconst 0, 1) := by decide +kernel
theorem dX10_gather_6 : decode cX10_gather 6 = .ok (.istore_n 1, 1) := by decide +kernel
theorem dX10_gather_7 : decode cX10_gather 7 = .ok (.iload_n 1, 1) := by decide +kernel
theorem dX10_gather_8 : decode cX10_gather 8 = .ok (.iconst 2, 1) := by decide +kernel
theorem dX10_gather_9 : decode cX10_gather 9 = .ok (.if_icmp .ge 107, 3) := by decide +kernel
theorem dX10_gather_12 : decode cX10_gather 12 = .ok (.iconst 0, 1) := by decide +kernel
theorem dX10_gather_13 : decode cX10_gather 13 = .ok (.istore_n 2, 1) := by decide +kernel
theorem dX10_gather_14 : decode cX10_gather 14 = .ok (.iload_n 2, 1) := by decide +kernel
theorem dX10_gather_15 : decode cX10_gather 15 = .ok (.aload_n 0, 1) := by decide +kernel
theorem dX10_gather_16 : decode cX10_gather 16 = .ok (.getfield 16, 3) := by decide +kernel
theorem dX10_gather_19 : decode cX10_gather 19 = .ok (.iload_n 1, 1) := by decide +kernel
theorem dX10_gather_20 : decode cX10_gather 20 = .ok (.iaload, 1) := by decide +kernel
theorem dX10_gather_21 : decode cX10_gather 21 = .ok (.if_icmp .ge 89, 3) := by decide +kernel
theorem dX10_gather_24 : decode cX10_gather 24 = .ok (.aload_n 0, 1) := by decide +kernel
theorem dX10_gather_25 : decode cX10_gather 25 = .ok (.iload_n 1, 1) := by decide +kernel
theorem dX10_gather_26 : decode cX10_gather 26 = .ok (.iload_n 2, 1) := by decide +kernel
theorem dX10_gather_27 : decode cX10_gather 27 = .ok (.invokevirtual 82, 3) := by decide +kernel
theorem dX10_gather_30 : decode cX10_gather 30 = .ok (.istore_n 3, 1) := by decide +kernel
theorem dX10_gather_31 : decode cX10_gather 31 = .ok (.aload_n 0, 1) := by decide +kernel
theorem dX10_gather_32 : decode cX10_gather 32 = .ok (.iload_n 1, 1) := by decide +kernel
theorem dX10_gather_33 : decode cX10_gather 33 = .ok (.iload_n 2, 1) := by decide +kernel
theorem dX10_gather_34 : decode cX10_gather 34 = .ok (.invokevirtual 86, 3) := by decide +kernel
theorem dX10_gather_37 : decode cX10_gather 37 = .ok (.istore 4, 2) := by decide +kernel
theorem dX10_gather_39 : decode cX10_gather 39 = .ok (.iload_n 3, 1) := by decide +kernel
theorem dX10_gather_40 : decode cX10_gather 40 = .ok (.istore 5, 2) := by decide +kernel
theorem dX10_gather_42 : decode cX10_gather 42 = .ok (.iload 5, 2) := by decide +kernel
theorem dX10_gather_44 : decode cX10_gather 44 = .ok (.iconst 1, 1) := by decide +kernel
theorem dX10_gather_45 : decode cX10_gather 45 = .ok (.iadd, 1) := by decide +kernel
theorem dX10_gather_46 : decode cX10_gather 46 = .ok (.iload 4, 2) := by decide +kernel
theorem dX10_gather_48 : decode cX10_gather 48 = .ok (.if_icmp .ge 30, 3) := by decide +kernel
theorem dX10_gather_51 : decode cX10_gather 51 = .ok (.aload_n 0, 1) := by decide +kernel
theorem dX10_gather_52 : decode cX10_gather 52 = .ok (.getfield 7, 3) := by decide +kernel
theorem dX10_gather_55 : decode cX10_gather 55 = .ok (.iload_n 1, 1) := by decide +kernel
theorem dX10_gather_56 : decode cX10_gather 56 = .ok (.iaload, 1) := by decide +kernel
theorem dX10_gather_57 : decode cX10_gather 57 = .ok (.iconst 1, 1) := by decide +kernel
theorem dX10_gather_58 : decode cX10_gather 58 = .ok (.if_icmp .le 20, 3) := by decide +kernel
theorem dX10_gather_61 : decode cX10_gather 61 = .ok (.aload_n 0, 1) := by decide +kernel
theorem dX10_gather_62 : decode cX10_gather 62 = .ok (.iload_n 1, 1) := by decide +kernel
theorem dX10_gather_63 : decode cX10_gather 63 = .ok (.iload 5, 2) := by decide +kernel
theorem dX10_gather_65 : decode cX10_gather 65 = .ok (.iload 5, 2) := by decide +kernel
theorem dX10_gather_67 : decode cX10_gather 67 = .ok (.iconst 1, 1) := by decide +kernel
theorem dX10_gather_68 : decode cX10_gather 68 = .ok (.iadd, 1) := by decide +kernel
theorem dX10_gather_69 : decode cX10_gather 69 = .ok (.invokevirtual 89, 3) := by decide +kernel
theorem dX10_gather_72 : decode cX10_gather 72 = .ok (.iinc 5 1, 3) := by decide +kernel
theorem dX10_gather_75 : decode cX10_gather 75 = .ok (.goto (-33), 3) := by decide +kernel
theorem dX10_gather_78 : decode cX10_gather 78 = .ok (.aload_n 0, 1) := by decide +kernel
theorem dX10_gather_79 : decode cX10_gather 79 = .ok (.getfield 7, 3) := by decide +kernel
theorem dX10_gather_82 : decode cX10_gather 82 = .ok (.iload_n 1, 1) := by decide +kernel
theorem dX10_gather_83 : decode cX10_gather 83 = .ok (.iaload, 1) := by decide +kernel
theorem dX10_gather_84 : decode cX10_gather 84 = .ok (.iconst 3, 1) := by decide +kernel
theorem dX10_gather_85 : decode cX10_gather 85 = .ok (.if_icmp .ne 19, 3) := by decide +kernel
theorem dX10_gather_88 : decode cX10_gather 88 = .ok (.iload 4, 2) := by decide +kernel
theorem dX10_gather_90 : decode cX10_gather 90 = .ok (.iload_n 3, 1) := by decide +kernel
theorem dX10_gather_91 : decode cX10_gather 91 = .ok (.if_icmp .le 13, 3) := by decide +kernel
theorem dX10_gather_94 : decode cX10_gather 94 = .ok (.aload_n 0, 1) := by decide +kernel
theorem dX10_gather_95 : decode cX10_gather 95 = .ok (.iload_n 1, 1) := by decide +kernel
theorem dX10_gather_96 : decode cX10_gather 96 = .ok (.iload 4, 2) := by decide +kernel
theorem dX10_gather_98 : decode cX10_gather 98 = .ok (.iconst 1, 1) := by decide +kernel
theorem dX10_gather_99 : decode cX10_gather 99 = .ok (.isub, 1) := by decide +kernel
theorem dX10_gather_100 : decode cX10_gather 100 = .ok (.iload_n 3, 1) := by decide +kernel
theorem dX10_gather_101 : decode cX10_gather 101 = .ok (.invokevirtual 89, 3) := by decide +kernel
theorem dX10_gather_104 : decode cX10_gather 104 = .ok (.iinc 2 1, 3) := by decide +kernel
theorem dX10_gather_107 : decode cX10_gather 107 = .ok (.goto (-93), 3) := by decide +kernel
theorem dX10_gather_110 : decode cX10_gather 110 = .ok (.iinc 1 1, 3) := by decide +kernel
theorem dX10_gather_113 : decode cX10_gather 113 = .ok (.goto (-106), 3) := by decide +kernel
theorem dX10_gather_116 : decode cX10_gather 116 = .ok (.return_, 1) := by decide +kernel
abbrev cX10_first : ByteArray := prog_12_method_10_code
def yX10_first : MethodName := ⟨RX10, "first", "(II)I"⟩
theorem dX10_first_0 : decode cX10_first 0 = .ok (.sipush 2048, 3) := by decide +kernel
theorem dX10_first_3 : decode cX10_first 3 = .ok (.iload_n 1, 1) := by decide +kernel
theorem dX10_first_4 : decode cX10_first 4 = .ok (.imul, 1) := by decide +kernel
theorem dX10_first_5 : decode cX10_first 5 = .ok (.aload_n 0, 1) := by decide +kernel
theorem dX10_first_6 : decode cX10_first 6 = .ok (.getfield 19, 3) := by decide +kernel
theorem dX10_first_9 : decode cX10_first 9 = .ok (.sipush 1025, 3) := by decide +kernel
theorem dX10_first_12 : decode cX10_first 12 = .ok (.iload_n 1, 1) := by decide +kernel
theorem dX10_first_13 : decode cX10_first 13 = .ok (.imul, 1) := by decide +kernel
theorem dX10_first_14 : decode cX10_first 14 = .ok (.iload_n 2, 1) := by decide +kernel
theorem dX10_first_15 : decode cX10_first 15 = .ok (.iadd, 1) := by decide +kernel
theorem dX10_first_16 : decode cX10_first 16 = .ok (.iaload, 1) := by decide +kernel
theorem dX10_first_17 : decode cX10_first 17 = .ok (.iadd, 1) := by decide +kernel
theorem dX10_first_18 : decode cX10_first 18 = .ok (.ireturn, 1) := by decide +kernel
abbrev cX10_end : ByteArray := prog_12_method_11_code
def yX10_end : MethodName := ⟨RX10, "end", "(II)I"⟩
theorem dX10_end_0 : decode cX10_end 0 = .ok (.sipush 2048, 3) := by decide +kernel
theorem dX10_end_3 : decode cX10_end 3 = .ok (.iload_n 1, 1) := by decide +kernel
theorem dX10_end_4 : decode cX10_end 4 = .ok (.imul, 1) := by decide +kernel
theorem dX10_end_5 : decode cX10_end 5 = .ok (.iload_n 2, 1) := by decide +kernel
theorem dX10_end_6 : decode cX10_end 6 = .ok (.iconst 1, 1) := by decide +kernel
theorem dX10_end_7 : decode cX10_end 7 = .ok (.iadd, 1) := by decide +kernel
theorem dX10_end_8 : decode cX10_end 8 = .ok (.aload_n 0, 1) := by decide +kernel
theorem dX10_end_9 : decode cX10_end 9 = .ok (.getfield 16, 3) := by decide +kernel
theorem dX10_end_12 : decode cX10_end 12 = .ok (.iload_n 1, 1) := by decide +kernel
theorem dX10_end_13 : decode cX10_end 13 = .ok (.iaload, 1) := by decide +kernel
theorem dX10_end_14 : decode cX10_end 14 = .ok (.if_icmp .ge 20, 3) := by decide +kernel
theorem dX10_end_17 : decode cX10_end 17 = .ok (.aload_n 0, 1) := by decide +kernel
theorem dX10_end_18 : decode cX10_end 18 = .ok (.getfield 19, 3) := by decide +kernel
theorem dX10_end_21 : decode cX10_end 21 = .ok (.sipush 1025, 3) := by decide +kernel
theorem dX10_end_24 : decode cX10_end 24 = .ok (.iload_n 1, 1) := by decide +kernel
theorem dX10_end_25 : decode cX10_end 25 = .ok (.imul, 1) := by decide +kernel
theorem dX10_end_26 : decode cX10_end 26 = .ok (.iload_n 2, 1) := by decide +kernel
theorem dX10_end_27 : decode cX10_end 27 = .ok (.iadd, 1) := by decide +kernel
theorem dX10_end_28 : decode cX10_end 28 = .ok (.iconst 1, 1) := by decide +kernel
theorem dX10_end_29 : decode cX10_end 29 = .ok (.iadd, 1) := by decide +kernel
theorem dX10_end_30 : decode cX10_end 30 = .ok (.iaload, 1) := by decide +kernel
theorem dX10_end_31 : decode cX10_end 31 = .ok (.goto 9, 3) := by decide +kernel
theorem dX10_end_34 : decode cX10_end 34 = .ok (.aload_n 0, 1) := by decide +kernel
theorem dX10_end_35 : decode cX10_end 35 = .ok (.getfield 13, 3) := by decide +kernel
theorem dX10_end_38 : decode cX10_end 38 = .ok (.iload_n 1, 1) := by decide +kernel
theorem dX10_end_39 : decode cX10_end 39 = .ok (.iaload, 1) := by decide +kernel
theorem dX10_end_40 : decode cX10_end 40 = .ok (.iadd, 1) := by decide +kernel
theorem dX10_end_41 : decode cX10_end 41 = .ok (.ireturn, 1) := by decide +kernel
abbrev cX10_join : ByteArray := prog_12_method_13_code
def yX10_join : MethodName := ⟨RX10, "join", "(III)V"⟩
theorem dX10_join_0 : decode cX10_join 0 = .ok (.aload_n 0, 1) := by decide +kernel
theorem dX10_join_1 : decode cX10_join 1 = .ok (.iload_n 2, 1) := by decide +kernel
theorem dX10_join_2 : decode cX10_join 2 = .ok (.iload_n 3, 1) := by decide +kernel
theorem dX10_join_3 : decode cX10_join 3 = .ok (.invokevirtual 75, 3) := by decide +kernel
theorem dX10_join_6 : decode cX10_join 6 = .ok (.ifCond .eq 4, 3) := by decide +kernel
theorem dX10_join_9 : decode cX10_join 9 = .ok (.return_, 1) := by decide +kernel
theorem dX10_join_10 : decode cX10_join 10 = .ok (.aload_n 0, 1) := by decide +kernel
theorem dX10_join_11 : decode cX10_join 11 = .ok (.getfield 28, 3) := by decide +kernel
theorem dX10_join_14 : decode cX10_join 14 = .ok (.aload_n 0, 1) := by decide +kernel
theorem dX10_join_15 : decode cX10_join 15 = .ok (.getfield 79, 3) := by decide +kernel
theorem dX10_join_18 : decode cX10_join 18 = .ok (.iload_n 2, 1) := by decide +kernel
theorem dX10_join_19 : decode cX10_join 19 = .ok (.iastore, 1) := by decide +kernel
theorem dX10_join_20 : decode cX10_join 20 = .ok (.aload_n 0, 1) := by decide +kernel
theorem dX10_join_21 : decode cX10_join 21 = .ok (.getfield 31, 3) := by decide +kernel
theorem dX10_join_24 : decode cX10_join 24 = .ok (.aload_n 0, 1) := by decide +kernel
theorem dX10_join_25 : decode cX10_join 25 = .ok (.getfield 79, 3) := by decide +kernel
theorem dX10_join_28 : decode cX10_join 28 = .ok (.iload_n 3, 1) := by decide +kernel
theorem dX10_join_29 : decode cX10_join 29 = .ok (.iastore, 1) := by decide +kernel
theorem dX10_join_30 : decode cX10_join 30 = .ok (.aload_n 0, 1) := by decide +kernel
theorem dX10_join_31 : decode cX10_join 31 = .ok (.getfield 34, 3) := by decide +kernel
theorem dX10_join_34 : decode cX10_join 34 = .ok (.aload_n 0, 1) := by decide +kernel
theorem dX10_join_35 : decode cX10_join 35 = .ok (.getfield 79, 3) := by decide +kernel
theorem dX10_join_38 : decode cX10_join 38 = .ok (.iload_n 1, 1) := by decide +kernel
theorem dX10_join_39 : decode cX10_join 39 = .ok (.iastore, 1) := by decide +kernel
theorem dX10_join_40 : decode cX10_join 40 = .ok (.aload_n 0, 1) := by decide +kernel
theorem dX10_join_41 : decode cX10_join 41 = .ok (.dup, 1) := by decide +kernel
theorem dX10_join_42 : decode cX10_join 42 = .ok (.getfield 79, 3) := by decide +kernel
theorem dX10_join_45 : decode cX10_join 45 = .ok (.iconst 1, 1) := by decide +kernel
theorem dX10_join_46 : decode cX10_join 46 = .ok (.iadd, 1) := by decide +kernel
theorem dX10_join_47 : decode cX10_join 47 = .ok (.putfield 79, 3) := by decide +kernel
theorem dX10_join_50 : decode cX10_join 50 = .ok (.return_, 1) := by decide +kernel
abbrev cX10_alike : ByteArray := prog_12_method_12_code
def yX10_alike : MethodName := ⟨RX10, "alike", "(II)Z"⟩
theorem dX10_alike_0 : decode cX10_alike 0 = .ok (.aload_n 0, 1) := by decide +kernel
theorem dX10_alike_1 : decode cX10_alike 1 = .ok (.getfield 22, 3) := by decide +kernel
theorem dX10_alike_4 : decode cX10_alike 4 = .ok (.iload_n 1, 1) := by decide +kernel
theorem dX10_alike_5 : decode cX10_alike 5 = .ok (.iaload, 1) := by decide +kernel
theorem dX10_alike_6 : decode cX10_alike 6 = .ok (.aload_n 0, 1) := by decide +kernel
theorem dX10_alike_7 : decode cX10_alike 7 = .ok (.getfield 22, 3) := by decide +kernel
theorem dX10_alike_10 : decode cX10_alike 10 = .ok (.iload_n 2, 1) := by decide +kernel
theorem dX10_alike_11 : decode cX10_alike 11 = .ok (.iaload, 1) := by decide +kernel
theorem dX10_alike_12 : decode cX10_alike 12 = .ok (.if_icmp .ne 22, 3) := by decide +kernel
theorem dX10_alike_15 : decode cX10_alike 15 = .ok (.aload_n 0, 1) := by decide +kernel
theorem dX10_alike_16 : decode cX10_alike 16 = .ok (.getfield 25, 3) := by decide +kernel
theorem dX10_alike_19 : decode cX10_alike 19 = .ok (.iload_n 1, 1) := by decide +kernel
theorem dX10_alike_20 : decode cX10_alike 20 = .ok (.iaload, 1) := by decide +kernel
theorem dX10_alike_21 : decode cX10_alike 21 = .ok (.aload_n 0, 1) := by decide +kernel
theorem dX10_alike_22 : decode cX10_alike 22 = .ok (.getfield 25, 3) := by decide +kernel
theorem dX10_alike_25 : decode cX10_alike 25 = .ok (.iload_n 2, 1) := by decide +kernel
theorem dX10_alike_26 : decode cX10_alike 26 = .ok (.iaload, 1) := by decide +kernel
theorem dX10_alike_27 : decode cX10_alike 27 = .ok (.if_icmp .ne 7, 3) := by decide +kernel
theorem dX10_alike_30 : decode cX10_alike 30 = .ok (.iconst 1, 1) := by decide +kernel
theorem dX10_alike_31 : decode cX10_alike 31 = .ok (.goto 4, 3) := by decide +kernel
theorem dX10_alike_34 : decode cX10_alike 34 = .ok (.iconst 0, 1) := by decide +kernel
theorem dX10_alike_35 : decode cX10_alike 35 = .ok (.ireturn, 1) := by decide +kernel
abbrev cX10_stand : ByteArray := prog_12_method_20_code
def yX10_stand : MethodName := ⟨RX10, "stand", "(JJJJ)V"⟩
theorem dX10_stand_0 : decode cX10_stand 0 = .ok (.aload_n 0, 1) := by decide +kernel
theorem dX10_stand_1 : decode cX10_stand 1 = .ok (.lload_n 1, 1) := by decide +kernel
theorem dX10_stand_2 : decode cX10_stand 2 = .ok (.putfield 104, 3) := by decide +kernel
theorem dX10_stand_5 : decode cX10_stand 5 = .ok (.aload_n 0, 1) := by decide +kernel
theorem dX10_stand_6 : decode cX10_stand 6 = .ok (.lload_n 3, 1) := by decide +kernel
theorem dX10_stand_7 : decode cX10_stand 7 = .ok (.putfield 108, 3) := by decide +kernel
theorem dX10_stand_10 : decode cX10_stand 10 = .ok (.aload_n 0, 1) := by decide +kernel
theorem dX10_stand_11 : decode cX10_stand 11 = .ok (.lload 5, 2) := by decide +kernel
theorem dX10_stand_13 : decode cX10_stand 13 = .ok (.putfield 111, 3) := by decide +kernel
theorem dX10_stand_16 : decode cX10_stand 16 = .ok (.aload_n 0, 1) := by decide +kernel
theorem dX10_stand_17 : decode cX10_stand 17 = .ok (.lload 7, 2) := by decide +kernel
theorem dX10_stand_19 : decode cX10_stand 19 = .ok (.putfield 114, 3) := by decide +kernel
theorem dX10_stand_22 : decode cX10_stand 22 = .ok (.return_, 1) := by decide +kernel
abbrev cX10_at : ByteArray := prog_12_method_21_code
def yX10_at : MethodName := ⟨RX10, "at", "(JJ)V"⟩
theorem dX10_at_0 : decode cX10_at 0 = .ok (.aload_n 0, 1) := by decide +kernel
theorem dX10_at_1 : decode cX10_at 1 = .ok (.iconst 0, 1) := by decide +kernel
theorem dX10_at_2 : decode cX10_at 2 = .ok (.lload_n 1, 1) := by decide +kernel
theorem dX10_at_3 : decode cX10_at 3 = .ok (.invokevirtual 117, 3) := by decide +kernel
theorem dX10_at_6 : decode cX10_at 6 = .ok (.aload_n 0, 1) := by decide +kernel
theorem dX10_at_7 : decode cX10_at 7 = .ok (.iconst 1, 1) := by decide +kernel
theorem dX10_at_8 : decode cX10_at 8 = .ok (.lload_n 3, 1) := by decide +kernel
theorem dX10_at_9 : decode cX10_at 9 = .ok (.invokevirtual 117, 3) := by decide +kernel
theorem dX10_at_12 : decode cX10_at 12 = .ok (.return_, 1) := by decide +kernel
abbrev cX10_set : ByteArray := prog_12_method_17_code
def yX10_set : MethodName := ⟨RX10, "set", "(IJ)V"⟩
theorem dX10_set_0 : decode cX10_set 0 = .ok (.aload_n 0, 1) := by decide +kernel
theorem dX10_set_1 : decode cX10_set 1 = .ok (.iload_n 1, 1) := by decide +kernel
theorem dX10_set_2 : decode cX10_set 2 = .ok (.invokevirtual 97, 3) := by decide +kernel
theorem dX10_set_5 : decode cX10_set 5 = .ok (.aload_n 0, 1) := by decide +kernel
theorem dX10_set_6 : decode cX10_set 6 = .ok (.getfield 44, 3) := by decide +kernel
theorem dX10_set_9 : decode cX10_set 9 = .ok (.bipush 16, 2) := by decide +kernel
theorem dX10_set_11 : decode cX10_set 11 = .ok (.iload_n 1, 1) := by decide +kernel
theorem dX10_set_12 : decode cX10_set 12 = .ok (.imul, 1) := by decide +kernel
theorem dX10_set_13 : decode cX10_set 13 = .ok (.lload_n 2, 1) := by decide +kernel
theorem dX10_set_14 : decode cX10_set 14 = .ok (.ldc2_w 95, 3) := by decide +kernel
theorem dX10_set_17 : decode cX10_set 17 = .ok (.land, 1) := by decide +kernel
theorem dX10_set_18 : decode cX10_set 18 = .ok (.lastore, 1) := by decide +kernel
theorem dX10_set_19 : decode cX10_set 19 = .ok (.aload_n 0, 1) := by decide +kernel
theorem dX10_set_20 : decode cX10_set 20 = .ok (.getfield 44, 3) := by decide +kernel
theorem dX10_set_23 : decode cX10_set 23 = .ok (.bipush 16, 2) := by decide +kernel
theorem dX10_set_25 : decode cX10_set 25 = .ok (.iload_n 1, 1) := by decide +kernel
theorem dX10_set_26 : decode cX10_set 26 = .ok (.imul, 1) := by decide +kernel
theorem dX10_set_27 : decode cX10_set 27 = .ok (.iconst 1, 1) := by decide +kernel
theorem dX10_set_28 : decode cX10_set 28 = .ok (.iadd, 1) := by decide +kernel
theorem dX10_set_29 : decode cX10_set 29 = .ok (.lload_n 2, 1) := by decide +kernel
theorem dX10_set_30 : decode cX10_set 30 = .ok (.bipush 24, 2) := by decide +kernel
theorem dX10_set_32 : decode cX10_set 32 = .ok (.lshr, 1) := by decide +kernel
theorem dX10_set_33 : decode cX10_set 33 = .ok (.ldc2_w 95, 3) := by decide +kernel
theorem dX10_set_36 : decode cX10_set 36 = .ok (.land, 1) := by decide +kernel
theorem dX10_set_37 : decode cX10_set 37 = .ok (.lastore, 1) := by decide +kernel
theorem dX10_set_38 : decode cX10_set 38 = .ok (.aload_n 0, 1) := by decide +kernel
theorem dX10_set_39 : decode cX10_set 39 = .ok (.getfield 44, 3) := by decide +kernel
theorem dX10_set_42 : decode cX10_set 42 = .ok (.bipush 16, 2) := by decide +kernel
theorem dX10_set_44 : decode cX10_set 44 = .ok (.iload_n 1, 1) := by decide +kernel
theorem dX10_set_45 : decode cX10_set 45 = .ok (.imul, 1) := by decide +kernel
theorem dX10_set_46 : decode cX10_set 46 = .ok (.iconst 2, 1) := by decide +kernel
theorem dX10_set_47 : decode cX10_set 47 = .ok (.iadd, 1) := by decide +kernel
theorem dX10_set_48 : decode cX10_set 48 = .ok (.lload_n 2, 1) := by decide +kernel
theorem dX10_set_49 : decode cX10_set 49 = .ok (.bipush 48, 2) := by decide +kernel
theorem dX10_set_51 : decode cX10_set 51 = .ok (.lshr, 1) := by decide +kernel
theorem dX10_set_52 : decode cX10_set 52 = .ok (.lastore, 1) := by decide +kernel
theorem dX10_set_53 : decode cX10_set 53 = .ok (.aload_n 0, 1) := by decide +kernel
theorem dX10_set_54 : decode cX10_set 54 = .ok (.iload_n 1, 1) := by decide +kernel
theorem dX10_set_55 : decode cX10_set 55 = .ok (.invokevirtual 101, 3) := by decide +kernel
theorem dX10_set_58 : decode cX10_set 58 = .ok (.return_, 1) := by decide +kernel
abbrev cX10_clear : ByteArray := prog_12_method_15_code
def yX10_clear : MethodName := ⟨RX10, "clear", "(I)V"⟩
theorem dX10_clear_0 : decode cX10_clear 0 = .ok (.iconst 0, 1) := by decide +kernel
theorem dX10_clear_1 : decode cX10_clear 1 = .ok (.istore_n 2, 1) := by decide +kernel
theorem dX10_clear_2 : decode cX10_clear 2 = .ok (.iload_n 2, 1) := by decide +kernel
theorem dX10_clear_3 : decode cX10_clear 3 = .ok (.bipush 16, 2) := by decide +kernel
theorem dX10_clear_5 : decode cX10_clear 5 = .ok (.if_icmp .ge 21, 3) := by decide +kernel
theorem dX10_clear_8 : decode cX10_clear 8 = .ok (.aload_n 0, 1) := by decide +kernel
theorem dX10_clear_9 : decode cX10_clear 9 = .ok (.getfield 44, 3) := by decide +kernel
theorem dX10_clear_12 : decode cX10_clear 12 = .ok (.bipush 16, 2) := by decide +kernel
theorem dX10_clear_14 : decode cX10_clear 14 = .ok (.iload_n 1, 1) := by decide +kernel
theorem dX10_clear_15 : decode cX10_clear 15 = .ok (.imul, 1) := by decide +kernel
theorem dX10_clear_16 : decode cX10_clear 16 = .ok (.iload_n 2, 1) := by decide +kernel
theorem dX10_clear_17 : decode cX10_clear 17 = .ok (.iadd, 1) := by decide +kernel
theorem dX10_clear_18 : decode cX10_clear 18 = .ok (.lconst 0, 1) := by decide +kernel
theorem dX10_clear_19 : decode cX10_clear 19 = .ok (.lastore, 1) := by decide +kernel
theorem dX10_clear_20 : decode cX10_clear 20 = .ok (.iinc 2 1, 3) := by decide +kernel
theorem dX10_clear_23 : decode cX10_clear 23 = .ok (.goto (-21), 3) := by decide +kernel
theorem dX10_clear_26 : decode cX10_clear 26 = .ok (.return_, 1) := by decide +kernel
abbrev cX10_settle : ByteArray := prog_12_method_16_code
def yX10_settle : MethodName := ⟨RX10, "settle", "(I)V"⟩
theorem dX10_settle_0 : decode cX10_settle 0 = .ok (.lconst 0, 1) := by decide +kernel
theorem dX10_settle_1 : decode cX10_settle 1 = .ok (.lstore_n 2, 1) := by decide +kernel
theorem dX10_settle_2 : decode cX10_settle 2 = .ok (.bipush 16, 2) := by decide +kernel
theorem dX10_settle_4 : decode cX10_settle 4 = .ok (.iload_n 1, 1) := by decide +kernel
theorem dX10_settle_5 : decode cX10_settle 5 = .ok (.imul, 1) := by decide +kernel
theorem dX10_settle_6 : decode cX10_settle 6 = .ok (.istore 4, 2) := by decide +kernel
theorem dX10_settle_8 : decode cX10_settle 8 = .ok (.iload 4, 2) := by decide +kernel
theorem dX10_settle_10 : decode cX10_settle 10 = .ok (.bipush 16, 2) := by decide +kernel
theorem dX10_settle_12 : decode cX10_settle 12 = .ok (.iload_n 1, 1) := by decide +kernel
theorem dX10_settle_13 : decode cX10_settle 13 = .ok (.imul, 1) := by decide +kernel
theorem dX10_settle_14 : decode cX10_settle 14 = .ok (.bipush 16, 2) := by decide +kernel
theorem dX10_settle_16 : decode cX10_settle 16 = .ok (.iadd, 1) := by decide +kernel
theorem dX10_settle_17 : decode cX10_settle 17 = .ok (.if_icmp .ge 54, 3) := by decide +kernel
theorem dX10_settle_20 : decode cX10_settle 20 = .ok (.aload_n 0, 1) := by decide +kernel
theorem dX10_settle_21 : decode cX10_settle 21 = .ok (.getfield 44, 3) := by decide +kernel
theorem dX10_settle_24 : decode cX10_settle 24 = .ok (.iload 4, 2) := by decide +kernel
theorem dX10_settle_26 : decode cX10_settle 26 = .ok (.laload, 1) := by decide +kernel
theorem dX10_settle_27 : decode cX10_settle 27 = .ok (.lload_n 2, 1) := by decide +kernel
theorem dX10_settle_28 : decode cX10_settle 28 = .ok (.ladd, 1) := by decide +kernel
theorem dX10_settle_29 : decode cX10_settle 29 = .ok (.lstore 5, 2) := by decide +kernel
theorem dX10_settle_31 : decode cX10_settle 31 = .ok (.lload 5, 2) := by decide +kernel
theorem dX10_settle_33 : decode cX10_settle 33 = .ok (.ldc2_w 93, 3) := by decide +kernel
theorem dX10_settle_36 : decode cX10_settle 36 = .ok (.ladd, 1) := by decide +kernel
theorem dX10_settle_37 : decode cX10_settle 37 = .ok (.ldc2_w 95, 3) := by decide +kernel
theorem dX10_settle_40 : decode cX10_settle 40 = .ok (.land, 1) := by decide +kernel
theorem dX10_settle_41 : decode cX10_settle 41 = .ok (.ldc2_w 93, 3) := by decide +kernel
theorem dX10_settle_44 : decode cX10_settle 44 = .ok (.lsub, 1) := by decide +kernel
theorem dX10_settle_45 : decode cX10_settle 45 = .ok (.lstore 7, 2) := by decide +kernel
theorem dX10_settle_47 : decode cX10_settle 47 = .ok (.aload_n 0, 1) := by decide +kernel
theorem dX10_settle_48 : decode cX10_settle 48 = .ok (.getfield 44, 3) := by decide +kernel
theorem dX10_settle_51 : decode cX10_settle 51 = .ok (.iload 4, 2) := by decide +kernel
theorem dX10_settle_53 : decode cX10_settle 53 = .ok (.lload 7, 2) := by decide +kernel
theorem dX10_settle_55 : decode cX10_settle 55 = .ok (.lastore, 1) := by decide +kernel
theorem dX10_settle_56 : decode cX10_settle 56 = .ok (.lload 5, 2) := by decide +kernel
theorem dX10_settle_58 : decode cX10_settle 58 = .ok (.lload 7, 2) := by decide +kernel
theorem dX10_settle_60 : decode cX10_settle 60 = .ok (.lsub, 1) := by decide +kernel
theorem dX10_settle_61 : decode cX10_settle 61 = .ok (.bipush 24, 2) := by decide +kernel
theorem dX10_settle_63 : decode cX10_settle 63 = .ok (.lshr, 1) := by decide +kernel
theorem dX10_settle_64 : decode cX10_settle 64 = .ok (.lstore_n 2, 1) := by decide +kernel
theorem dX10_settle_65 : decode cX10_settle 65 = .ok (.iinc 4 1, 3) := by decide +kernel
theorem dX10_settle_68 : decode cX10_settle 68 = .ok (.goto (-60), 3) := by decide +kernel
theorem dX10_settle_71 : decode cX10_settle 71 = .ok (.return_, 1) := by decide +kernel
abbrev cX10_where : ByteArray := prog_12_method_34_code
def yX10_where : MethodName := ⟨RX10, "where", "(I)I"⟩
theorem dX10_where_0 : decode cX10_where 0 = .ok (.aload_n 0, 1) := by decide +kernel
theorem dX10_where_1 : decode cX10_where 1 = .ok (.getfield 7, 3) := by decide +kernel
theorem dX10_where_4 : decode cX10_where 4 = .ok (.iload_n 1, 1) := by decide +kernel
theorem dX10_where_5 : decode cX10_where 5 = .ok (.iaload, 1) := by decide +kernel
theorem dX10_where_6 : decode cX10_where 6 = .ok (.iconst 1, 1) := by decide +kernel
theorem dX10_where_7 : decode cX10_where 7 = .ok (.if_icmp .ne 17, 3) := by decide +kernel
theorem dX10_where_10 : decode cX10_where 10 = .ok (.aload_n 0, 1) := by decide +kernel
theorem dX10_where_11 : decode cX10_where 11 = .ok (.iload_n 1, 1) := by decide +kernel
theorem dX10_where_12 : decode cX10_where 12 = .ok (.invokevirtual 150, 3) := by decide +kernel
theorem dX10_where_15 : decode cX10_where 15 = .ok (.ifCond .eq 7, 3) := by decide +kernel
theorem dX10_where_18 : decode cX10_where 18 = .ok (.iconst 0, 1) := by decide +kernel
theorem dX10_where_19 : decode cX10_where 19 = .ok (.goto 4, 3) := by decide +kernel
theorem dX10_where_22 : decode cX10_where 22 = .ok (.iconst 2, 1) := by decide +kernel
theorem dX10_where_23 : decode cX10_where 23 = .ok (.ireturn, 1) := by decide +kernel
theorem dX10_where_24 : decode cX10_where 24 = .ok (.aload_n 0, 1) := by decide +kernel
theorem dX10_where_25 : decode cX10_where 25 = .ok (.iload_n 1, 1) := by decide +kernel
theorem dX10_where_26 : decode cX10_where 26 = .ok (.invokevirtual 153, 3) := by decide +kernel
theorem dX10_where_29 : decode cX10_where 29 = .ok (.ifCond .le 7, 3) := by decide +kernel
theorem dX10_where_32 : decode cX10_where 32 = .ok (.iconst 1, 1) := by decide +kernel
theorem dX10_where_33 : decode cX10_where 33 = .ok (.goto 4, 3) := by decide +kernel
theorem dX10_where_36 : decode cX10_where 36 = .ok (.iconst 0, 1) := by decide +kernel
theorem dX10_where_37 : decode cX10_where 37 = .ok (.istore_n 2, 1) := by decide +kernel
theorem dX10_where_38 : decode cX10_where 38 = .ok (.aload_n 0, 1) := by decide +kernel
theorem dX10_where_39 : decode cX10_where 39 = .ok (.getfield 7, 3) := by decide +kernel
theorem dX10_where_42 : decode cX10_where 42 = .ok (.iload_n 1, 1) := by decide +kernel
theorem dX10_where_43 : decode cX10_where 43 = .ok (.iaload, 1) := by decide +kernel
theorem dX10_where_44 : decode cX10_where 44 = .ok (.iconst 2, 1) := by decide +kernel
theorem dX10_where_45 : decode cX10_where 45 = .ok (.if_icmp .ne 25, 3) := by decide +kernel
theorem dX10_where_48 : decode cX10_where 48 = .ok (.aload_n 0, 1) := by decide +kernel
theorem dX10_where_49 : decode cX10_where 49 = .ok (.iload_n 1, 1) := by decide +kernel
theorem dX10_where_50 : decode cX10_where 50 = .ok (.invokevirtual 156, 3) := by decide +kernel
theorem dX10_where_53 : decode cX10_where 53 = .ok (.ifCond .eq 7, 3) := by decide +kernel
theorem dX10_where_56 : decode cX10_where 56 = .ok (.iconst 1, 1) := by decide +kernel
theorem dX10_where_57 : decode cX10_where 57 = .ok (.goto 12, 3) := by decide +kernel
theorem dX10_where_60 : decode cX10_where 60 = .ok (.iload_n 2, 1) := by decide +kernel
theorem dX10_where_61 : decode cX10_where 61 = .ok (.ifCond .eq 7, 3) := by decide +kernel
theorem dX10_where_64 : decode cX10_where 64 = .ok (.iconst 0, 1) := by decide +kernel
theorem dX10_where_65 : decode cX10_where 65 = .ok (.goto 4, 3) := by decide +kernel
theorem dX10_where_68 : decode cX10_where 68 = .ok (.iconst 2, 1) := by decide +kernel
theorem dX10_where_69 : decode cX10_where 69 = .ok (.ireturn, 1) := by decide +kernel
theorem dX10_where_70 : decode cX10_where 70 = .ok (.iload_n 2, 1) := by decide +kernel
theorem dX10_where_71 : decode cX10_where 71 = .ok (.ifCond .eq 7, 3) := by decide +kernel
theorem dX10_where_74 : decode cX10_where 74 = .ok (.iconst 1, 1) := by decide +kernel
theorem dX10_where_75 : decode cX10_where 75 = .ok (.goto 17, 3) := by decide +kernel
theorem dX10_where_78 : decode cX10_where 78 = .ok (.aload_n 0, 1) := by decide +kernel
theorem dX10_where_79 : decode cX10_where 79 = .ok (.iload_n 1, 1) := by decide +kernel
theorem dX10_where_80 : decode cX10_where 80 = .ok (.invokevirtual 159, 3) := by decide +kernel
theorem dX10_where_83 : decode cX10_where 83 = .ok (.iconst 1, 1) := by decide +kernel
theorem dX10_where_84 : decode cX10_where 84 = .ok (.if_icmp .ne 7, 3) := by decide +kernel
theorem dX10_where_87 : decode cX10_where 87 = .ok (.iconst 0, 1) := by decide +kernel
theorem dX10_where_88 : decode cX10_where 88 = .ok (.goto 4, 3) := by decide +kernel
theorem dX10_where_91 : decode cX10_where 91 = .ok (.iconst 2, 1) := by decide +kernel
theorem dX10_where_92 : decode cX10_where 92 = .ok (.ireturn, 1) := by decide +kernel
abbrev cX10_hasPoint : ByteArray := prog_12_method_32_code
def yX10_hasPoint : MethodName := ⟨RX10, "hasPoint", "(I)Z"⟩
theorem dX10_hasPoint_0 : decode cX10_hasPoint 0 = .ok (.iconst 0, 1) := by decide +kernel
theorem dX10_hasPoint_1 : decode cX10_hasPoint 1 = .ok (.istore_n 2, 1) := by decide +kernel
theorem dX10_hasPoint_2 : decode cX10_hasPoint 2 = .ok (.sipush 2048, 3) := by decide +kernel
theorem dX10_hasPoint_5 : decode cX10_hasPoint 5 = .ok (.iload_n 1, 1) := by decide +kernel
theorem dX10_hasPoint_6 : decode cX10_hasPoint 6 = .ok (.imul, 1) := by decide +kernel
theorem dX10_hasPoint_7 : decode cX10_hasPoint 7 = .ok (.istore_n 3, 1) := by decide +kernel
theorem dX10_hasPoint_8 : decode cX10_hasPoint 8 = .ok (.iload_n 3, 1) := by decide +kernel
theorem dX10_hasPoint_9 : decode cX10_hasPoint 9 = .ok (.sipush 2048, 3) := by decide +kernel
theorem dX10_hasPoint_12 : decode cX10_hasPoint 12 = .ok (.iload_n 1, 1) := by decide +kernel
theorem dX10_hasPoint_13 : decode cX10_hasPoint 13 = .ok (.imul, 1) := by decide +kernel
theorem dX10_hasPoint_14 : decode cX10_hasPoint 14 = .ok (.aload_n 0, 1) := by decide +kernel
theorem dX10_hasPoint_15 : decode cX10_hasPoint 15 = .ok (.getfield 13, 3) := by decide +kernel
theorem dX10_hasPoint_18 : decode cX10_hasPoint 18 = .ok (.iload_n 1, 1) := by decide +kernel
theorem dX10_hasPoint_19 : decode cX10_hasPoint 19 = .ok (.iaload, 1) := by decide +kernel
theorem dX10_hasPoint_20 : decode cX10_hasPoint 20 = .ok (.iadd, 1) := by decide +kernel
theorem dX10_hasPoint_21 : decode cX10_hasPoint 21 = .ok (.if_icmp .ge 19, 3) := by decide +kernel
theorem dX10_hasPoint_24 : decode cX10_hasPoint 24 = .ok (.iload_n 2, 1) := by decide +kernel
theorem dX10_hasPoint_25 : decode cX10_hasPoint 25 = .ok (.ifCond .ne 15, 3) := by decide +kernel
theorem dX10_hasPoint_28 : decode cX10_hasPoint 28 = .ok (.aload_n 0, 1) := by decide +kernel
theorem dX10_hasPoint_29 : decode cX10_hasPoint 29 = .ok (.iload_n 3, 1) := by decide +kernel
theorem dX10_hasPoint_30 : decode cX10_hasPoint 30 = .ok (.invokevirtual 147, 3) := by decide +kernel
theorem dX10_hasPoint_33 : decode cX10_hasPoint 33 = .ok (.istore_n 2, 1) := by decide +kernel
theorem dX10_hasPoint_34 : decode cX10_hasPoint 34 = .ok (.iinc 3 1, 3) := by decide +kernel
theorem dX10_hasPoint_37 : decode cX10_hasPoint 37 = .ok (.goto (-29), 3) := by decide +kernel
theorem dX10_hasPoint_40 : decode cX10_hasPoint 40 = .ok (.iload_n 2, 1) := by decide +kernel
theorem dX10_hasPoint_41 : decode cX10_hasPoint 41 = .ok (.ireturn, 1) := by decide +kernel
abbrev cX10_isPoint : ByteArray := prog_12_method_27_code
def yX10_isPoint : MethodName := ⟨RX10, "isPoint", "(I)Z"⟩
theorem dX10_isPoint_0 : decode cX10_isPoint 0 = .ok (.aload_n 0, 1) := by decide +kernel
theorem dX10_isPoint_1 : decode cX10_isPoint 1 = .ok (.aload_n 0, 1) := by decide +kernel
theorem dX10_isPoint_2 : decode cX10_isPoint 2 = .ok (.getfield 22, 3) := by decide +kernel
theorem dX10_isPoint_5 : decode cX10_isPoint 5 = .ok (.iload_n 1, 1) := by decide +kernel
theorem dX10_isPoint_6 : decode cX10_isPoint 6 = .ok (.iaload, 1) := by decide +kernel
theorem dX10_isPoint_7 : decode cX10_isPoint 7 = .ok (.i2l, 1) := by decide +kernel
theorem dX10_isPoint_8 : decode cX10_isPoint 8 = .ok (.invokevirtual 131, 3) := by decide +kernel
theorem dX10_isPoint_11 : decode cX10_isPoint 11 = .ok (.ifCond .ne 21, 3) := by decide +kernel
theorem dX10_isPoint_14 : decode cX10_isPoint 14 = .ok (.aload_n 0, 1) := by decide +kernel
theorem dX10_isPoint_15 : decode cX10_isPoint 15 = .ok (.aload_n 0, 1) := by decide +kernel
theorem dX10_isPoint_16 : decode cX10_isPoint 16 = .ok (.getfield 25, 3) := by decide +kernel
theorem dX10_isPoint_19 : decode cX10_isPoint 19 = .ok (.iload_n 1, 1) := by decide +kernel
theorem dX10_isPoint_20 : decode cX10_isPoint 20 = .ok (.iaload, 1) := by decide +kernel
theorem dX10_isPoint_21 : decode cX10_isPoint 21 = .ok (.i2l, 1) := by decide +kernel
theorem dX10_isPoint_22 : decode cX10_isPoint 22 = .ok (.invokevirtual 135, 3) := by decide +kernel
theorem dX10_isPoint_25 : decode cX10_isPoint 25 = .ok (.ifCond .ne 7, 3) := by decide +kernel
theorem dX10_isPoint_28 : decode cX10_isPoint 28 = .ok (.iconst 1, 1) := by decide +kernel
theorem dX10_isPoint_29 : decode cX10_isPoint 29 = .ok (.goto 4, 3) := by decide +kernel
theorem dX10_isPoint_32 : decode cX10_isPoint 32 = .ok (.iconst 0, 1) := by decide +kernel
theorem dX10_isPoint_33 : decode cX10_isPoint 33 = .ok (.ireturn, 1) := by decide +kernel
abbrev cX10_overX : ByteArray := prog_12_method_24_code
def yX10_overX : MethodName := ⟨RX10, "overX", "(J)I"⟩
theorem dX10_overX_0 : decode cX10_overX 0 = .ok (.aload_n 0, 1) := by decide +kernel
theorem dX10_overX_1 : decode cX10_overX 1 = .ok (.aload_n 0, 1) := by decide +kernel
theorem dX10_overX_2 : decode cX10_overX 2 = .ok (.getfield 104, 3) := by decide +kernel
theorem dX10_overX_5 : decode cX10_overX 5 = .ok (.lload_n 1, 1) := by decide +kernel
theorem dX10_overX_6 : decode cX10_overX 6 = .ok (.lsub, 1) := by decide +kernel
theorem dX10_overX_7 : decode cX10_overX 7 = .ok (.aload_n 0, 1) := by decide +kernel
theorem dX10_overX_8 : decode cX10_overX 8 = .ok (.getfield 111, 3) := by decide +kernel
theorem dX10_overX_11 : decode cX10_overX 11 = .ok (.invokevirtual 127, 3) := by decide +kernel
theorem dX10_overX_14 : decode cX10_overX 14 = .ok (.ireturn, 1) := by decide +kernel
abbrev cX10_sgn : ByteArray := prog_12_method_23_code
def yX10_sgn : MethodName := ⟨RX10, "sgn", "(JJ)I"⟩
theorem dX10_sgn_0 : decode cX10_sgn 0 = .ok (.aload_n 0, 1) := by decide +kernel
theorem dX10_sgn_1 : decode cX10_sgn 1 = .ok (.bipush 6, 2) := by decide +kernel
theorem dX10_sgn_3 : decode cX10_sgn 3 = .ok (.lload_n 1, 1) := by decide +kernel
theorem dX10_sgn_4 : decode cX10_sgn 4 = .ok (.invokevirtual 117, 3) := by decide +kernel
theorem dX10_sgn_7 : decode cX10_sgn 7 = .ok (.aload_n 0, 1) := by decide +kernel
theorem dX10_sgn_8 : decode cX10_sgn 8 = .ok (.bipush 7, 2) := by decide +kernel
theorem dX10_sgn_10 : decode cX10_sgn 10 = .ok (.lload_n 3, 1) := by decide +kernel
theorem dX10_sgn_11 : decode cX10_sgn 11 = .ok (.invokevirtual 117, 3) := by decide +kernel
theorem dX10_sgn_14 : decode cX10_sgn 14 = .ok (.aload_n 0, 1) := by decide +kernel
theorem dX10_sgn_15 : decode cX10_sgn 15 = .ok (.bipush 8, 2) := by decide +kernel
theorem dX10_sgn_17 : decode cX10_sgn 17 = .ok (.invokevirtual 97, 3) := by decide +kernel
theorem dX10_sgn_20 : decode cX10_sgn 20 = .ok (.aload_n 0, 1) := by decide +kernel
theorem dX10_sgn_21 : decode cX10_sgn 21 = .ok (.bipush 8, 2) := by decide +kernel
theorem dX10_sgn_23 : decode cX10_sgn 23 = .ok (.bipush 6, 2) := by decide +kernel
theorem dX10_sgn_25 : decode cX10_sgn 25 = .ok (.iconst 1, 1) := by decide +kernel
theorem dX10_sgn_26 : decode cX10_sgn 26 = .ok (.invokevirtual 121, 3) := by decide +kernel
theorem dX10_sgn_29 : decode cX10_sgn 29 = .ok (.aload_n 0, 1) := by decide +kernel
theorem dX10_sgn_30 : decode cX10_sgn 30 = .ok (.bipush 8, 2) := by decide +kernel
theorem dX10_sgn_32 : decode cX10_sgn 32 = .ok (.bipush 7, 2) := by decide +kernel
theorem dX10_sgn_34 : decode cX10_sgn 34 = .ok (.iconst 0, 1) := by decide +kernel
theorem dX10_sgn_35 : decode cX10_sgn 35 = .ok (.invokevirtual 121, 3) := by decide +kernel
theorem dX10_sgn_38 : decode cX10_sgn 38 = .ok (.aload_n 0, 1) := by decide +kernel
theorem dX10_sgn_39 : decode cX10_sgn 39 = .ok (.bipush 8, 2) := by decide +kernel
theorem dX10_sgn_41 : decode cX10_sgn 41 = .ok (.invokevirtual 101, 3) := by decide +kernel
theorem dX10_sgn_44 : decode cX10_sgn 44 = .ok (.aload_n 0, 1) := by decide +kernel
theorem dX10_sgn_45 : decode cX10_sgn 45 = .ok (.bipush 8, 2) := by decide +kernel
theorem dX10_sgn_47 : decode cX10_sgn 47 = .ok (.invokevirtual 124, 3) := by decide +kernel
theorem dX10_sgn_50 : decode cX10_sgn 50 = .ok (.ireturn, 1) := by decide +kernel
abbrev cX10_product : ByteArray := prog_12_method_18_code
def yX10_product : MethodName := ⟨RX10, "product", "(III)V"⟩
theorem dX10_product_0 : decode cX10_product 0 = .ok (.iconst 0, 1) := by decide +kernel
theorem dX10_product_1 : decode cX10_product 1 = .ok (.istore 4, 2) := by decide +kernel
theorem dX10_product_3 : decode cX10_product 3 = .ok (.iload 4, 2) := by decide +kernel
theorem dX10_product_5 : decode cX10_product 5 = .ok (.bipush 16, 2) := by decide +kernel
theorem dX10_product_7 : decode cX10_product 7 = .ok (.if_icmp .ge 82, 3) := by decide +kernel
theorem dX10_product_10 : decode cX10_product 10 = .ok (.aload_n 0, 1) := by decide +kernel
theorem dX10_product_11 : decode cX10_product 11 = .ok (.getfield 44, 3) := by decide +kernel
theorem dX10_product_14 : decode cX10_product 14 = .ok (.bipush 16, 2) := by decide +kernel
theorem dX10_product_16 : decode cX10_product 16 = .ok (.iload_n 2, 1) := by decide +kernel
theorem dX10_product_17 : decode cX10_product 17 = .ok (.imul, 1) := by decide +kernel
theorem dX10_product_18 : decode cX10_product 18 = .ok (.iload 4, 2) := by decide +kernel
theorem dX10_product_20 : decode cX10_product 20 = .ok (.iadd, 1) := by decide +kernel
theorem dX10_product_21 : decode cX10_product 21 = .ok (.laload, 1) := by decide +kernel
theorem dX10_product_22 : decode cX10_product 22 = .ok (.lstore 5, 2) := by decide +kernel
theorem dX10_product_24 : decode cX10_product 24 = .ok (.iconst 0, 1) := by decide +kernel
theorem dX10_product_25 : decode cX10_product 25 = .ok (.istore 7, 2) := by decide +kernel
theorem dX10_product_27 : decode cX10_product 27 = .ok (.iload 7, 2) := by decide +kernel
theorem dX10_product_29 : decode cX10_product 29 = .ok (.iload 4, 2) := by decide +kernel
theorem dX10_product_31 : decode cX10_product 31 = .ok (.iadd, 1) := by decide +kernel
theorem dX10_product_32 : decode cX10_product 32 = .ok (.bipush 16, 2) := by decide +kernel
theorem dX10_product_34 : decode cX10_product 34 = .ok (.if_icmp .ge 49, 3) := by decide +kernel
theorem dX10_product_37 : decode cX10_product 37 = .ok (.lload 5, 2) := by decide +kernel
theorem dX10_product_39 : decode cX10_product 39 = .ok (.lconst 0, 1) := by decide +kernel
theorem dX10_product_40 : decode cX10_product 40 = .ok (.lcmp, 1) := by decide +kernel
theorem dX10_product_41 : decode cX10_product 41 = .ok (.ifCond .eq 42, 3) := by decide +kernel
theorem dX10_product_44 : decode cX10_product 44 = .ok (.aload_n 0, 1) := by decide +kernel
theorem dX10_product_45 : decode cX10_product 45 = .ok (.getfield 44, 3) := by decide +kernel
theorem dX10_product_48 : decode cX10_product 48 = .ok (.bipush 16, 2) := by decide +kernel
theorem dX10_product_50 : decode cX10_product 50 = .ok (.iload_n 1, 1) := by decide +kernel
theorem dX10_product_51 : decode cX10_product 51 = .ok (.imul, 1) := by decide +kernel
theorem dX10_product_52 : decode cX10_product 52 = .ok (.iload 4, 2) := by decide +kernel
theorem dX10_product_54 : decode cX10_product 54 = .ok (.iadd, 1) := by decide +kernel
theorem dX10_product_55 : decode cX10_product 55 = .ok (.iload 7, 2) := by decide +kernel
theorem dX10_product_57 : decode cX10_product 57 = .ok (.iadd, 1) := by decide +kernel
theorem dX10_product_58 : decode cX10_product 58 = .ok (.dup2, 1) := by decide +kernel
theorem dX10_product_59 : decode cX10_product 59 = .ok (.laload, 1) := by decide +kernel
theorem dX10_product_60 : decode cX10_product 60 = .ok (.lload 5, 2) := by decide +kernel
theorem dX10_product_62 : decode cX10_product 62 = .ok (.aload_n 0, 1) := by decide +kernel
theorem dX10_product_63 : decode cX10_product 63 = .ok (.getfield 44, 3) := by decide +kernel
theorem dX10_product_66 : decode cX10_product 66 = .ok (.bipush 16, 2) := by decide +kernel
theorem dX10_product_68 : decode cX10_product 68 = .ok (.iload_n 3, 1) := by decide +kernel
theorem dX10_product_69 : decode cX10_product 69 = .ok (.imul, 1) := by decide +kernel
theorem dX10_product_70 : decode cX10_product 70 = .ok (.iload 7, 2) := by decide +kernel
theorem dX10_product_72 : decode cX10_product 72 = .ok (.iadd, 1) := by decide +kernel
theorem dX10_product_73 : decode cX10_product 73 = .ok (.laload, 1) := by decide +kernel
theorem dX10_product_74 : decode cX10_product 74 = .ok (.lmul, 1) := by decide +kernel
theorem dX10_product_75 : decode cX10_product 75 = .ok (.ladd, 1) := by decide +kernel
theorem dX10_product_76 : decode cX10_product 76 = .ok (.lastore, 1) := by decide +kernel
theorem dX10_product_77 : decode cX10_product 77 = .ok (.iinc 7 1, 3) := by decide +kernel
theorem dX10_product_80 : decode cX10_product 80 = .ok (.goto (-53), 3) := by decide +kernel
theorem dX10_product_83 : decode cX10_product 83 = .ok (.iinc 4 1, 3) := by decide +kernel
theorem dX10_product_86 : decode cX10_product 86 = .ok (.goto (-83), 3) := by decide +kernel
theorem dX10_product_89 : decode cX10_product 89 = .ok (.return_, 1) := by decide +kernel
abbrev cX10_signOf : ByteArray := prog_12_method_19_code
def yX10_signOf : MethodName := ⟨RX10, "signOf", "(I)I"⟩
theorem dX10_signOf_0 : decode cX10_signOf 0 = .ok (.bipush 15, 2) := by decide +kernel
theorem dX10_signOf_2 : decode cX10_signOf 2 = .ok (.istore_n 2, 1) := by decide +kernel
theorem dX10_signOf_3 : decode cX10_signOf 3 = .ok (.iload_n 2, 1) := by decide +kernel
theorem dX10_signOf_4 : decode cX10_signOf 4 = .ok (.ifCond .le 25, 3) := by decide +kernel
theorem dX10_signOf_7 : decode cX10_signOf 7 = .ok (.aload_n 0, 1) := by decide +kernel
theorem dX10_signOf_8 : decode cX10_signOf 8 = .ok (.getfield 44, 3) := by decide +kernel
theorem dX10_signOf_11 : decode cX10_signOf 11 = .ok (.bipush 16, 2) := by decide +kernel
theorem dX10_signOf_13 : decode cX10_signOf 13 = .ok (.iload_n 1, 1) := by decide +kernel
theorem dX10_signOf_14 : decode cX10_signOf 14 = .ok (.imul, 1) := by decide +kernel
theorem dX10_signOf_15 : decode cX10_signOf 15 = .ok (.iload_n 2, 1) := by decide +kernel
theorem dX10_signOf_16 : decode cX10_signOf 16 = .ok (.iadd, 1) := by decide +kernel
theorem dX10_signOf_17 : decode cX10_signOf 17 = .ok (.laload, 1) := by decide +kernel
theorem dX10_signOf_18 : decode cX10_signOf 18 = .ok (.lconst 0, 1) := by decide +kernel
theorem dX10_signOf_19 : decode cX10_signOf 19 = .ok (.lcmp, 1) := by decide +kernel
theorem dX10_signOf_20 : decode cX10_signOf 20 = .ok (.ifCond .ne 9, 3) := by decide +kernel
theorem dX10_signOf_23 : decode cX10_signOf 23 = .ok (.iinc 2 (-1), 3) := by decide +kernel
theorem dX10_signOf_26 : decode cX10_signOf 26 = .ok (.goto (-23), 3) := by decide +kernel
theorem dX10_signOf_29 : decode cX10_signOf 29 = .ok (.aload_n 0, 1) := by decide +kernel
theorem dX10_signOf_30 : decode cX10_signOf 30 = .ok (.getfield 44, 3) := by decide +kernel
theorem dX10_signOf_33 : decode cX10_signOf 33 = .ok (.bipush 16, 2) := by decide +kernel
theorem dX10_signOf_35 : decode cX10_signOf 35 = .ok (.iload_n 1, 1) := by decide +kernel
theorem dX10_signOf_36 : decode cX10_signOf 36 = .ok (.imul, 1) := by decide +kernel
theorem dX10_signOf_37 : decode cX10_signOf 37 = .ok (.iload_n 2, 1) := by decide +kernel
theorem dX10_signOf_38 : decode cX10_signOf 38 = .ok (.iadd, 1) := by decide +kernel
theorem dX10_signOf_39 : decode cX10_signOf 39 = .ok (.laload, 1) := by decide +kernel
theorem dX10_signOf_40 : decode cX10_signOf 40 = .ok (.lstore_n 3, 1) := by decide +kernel
theorem dX10_signOf_41 : decode cX10_signOf 41 = .ok (.lload_n 3, 1) := by decide +kernel
theorem dX10_signOf_42 : decode cX10_signOf 42 = .ok (.lconst 0, 1) := by decide +kernel
theorem dX10_signOf_43 : decode cX10_signOf 43 = .ok (.lcmp, 1) := by decide +kernel
theorem dX10_signOf_44 : decode cX10_signOf 44 = .ok (.ifCond .le 7, 3) := by decide +kernel
theorem dX10_signOf_47 : decode cX10_signOf 47 = .ok (.iconst 1, 1) := by decide +kernel
theorem dX10_signOf_48 : decode cX10_signOf 48 = .ok (.goto 14, 3) := by decide +kernel
theorem dX10_signOf_51 : decode cX10_signOf 51 = .ok (.lload_n 3, 1) := by decide +kernel
theorem dX10_signOf_52 : decode cX10_signOf 52 = .ok (.lconst 0, 1) := by decide +kernel
theorem dX10_signOf_53 : decode cX10_signOf 53 = .ok (.lcmp, 1) := by decide +kernel
theorem dX10_signOf_54 : decode cX10_signOf 54 = .ok (.ifCond .ge 7, 3) := by decide +kernel
theorem dX10_signOf_57 : decode cX10_signOf 57 = .ok (.iconst (-1), 1) := by decide +kernel
theorem dX10_signOf_58 : decode cX10_signOf 58 = .ok (.goto 4, 3) := by decide +kernel
theorem dX10_signOf_61 : decode cX10_signOf 61 = .ok (.iconst 0, 1) := by decide +kernel
theorem dX10_signOf_62 : decode cX10_signOf 62 = .ok (.ireturn, 1) := by decide +kernel
abbrev cX10_overY : ByteArray := prog_12_method_25_code
def yX10_overY : MethodName := ⟨RX10, "overY", "(J)I"⟩
theorem dX10_overY_0 : decode cX10_overY 0 = .ok (.aload_n 0, 1) := by decide +kernel
theorem dX10_overY_1 : decode cX10_overY 1 = .ok (.aload_n 0, 1) := by decide +kernel
theorem dX10_overY_2 : decode cX10_overY 2 = .ok (.getfield 108, 3) := by decide +kernel
theorem dX10_overY_5 : decode cX10_overY 5 = .ok (.lload_n 1, 1) := by decide +kernel
theorem dX10_overY_6 : decode cX10_overY 6 = .ok (.lsub, 1) := by decide +kernel
theorem dX10_overY_7 : decode cX10_overY 7 = .ok (.aload_n 0, 1) := by decide +kernel
theorem dX10_overY_8 : decode cX10_overY 8 = .ok (.getfield 114, 3) := by decide +kernel
theorem dX10_overY_11 : decode cX10_overY 11 = .ok (.invokevirtual 127, 3) := by decide +kernel
theorem dX10_overY_14 : decode cX10_overY 14 = .ok (.ireturn, 1) := by decide +kernel
abbrev cX10_having : ByteArray := prog_12_method_31_code
def yX10_having : MethodName := ⟨RX10, "having", "(I)I"⟩
theorem dX10_having_0 : decode cX10_having 0 = .ok (.iconst 0, 1) := by decide +kernel
theorem dX10_having_1 : decode cX10_having 1 = .ok (.istore_n 2, 1) := by decide +kernel
theorem dX10_having_2 : decode cX10_having 2 = .ok (.iconst 0, 1) := by decide +kernel
theorem dX10_having_3 : decode cX10_having 3 = .ok (.istore_n 3, 1) := by decide +kernel
theorem dX10_having_4 : decode cX10_having 4 = .ok (.iload_n 3, 1) := by decide +kernel
theorem dX10_having_5 : decode cX10_having 5 = .ok (.aload_n 0, 1) := by decide +kernel
theorem dX10_having_6 : decode cX10_having 6 = .ok (.getfield 79, 3) := by decide +kernel
theorem dX10_having_9 : decode cX10_having 9 = .ok (.if_icmp .ge 35, 3) := by decide +kernel
theorem dX10_having_12 : decode cX10_having 12 = .ok (.iload_n 2, 1) := by decide +kernel
theorem dX10_having_13 : decode cX10_having 13 = .ok (.aload_n 0, 1) := by decide +kernel
theorem dX10_having_14 : decode cX10_having 14 = .ok (.getfield 34, 3) := by decide +kernel
theorem dX10_having_17 : decode cX10_having 17 = .ok (.iload_n 3, 1) := by decide +kernel
theorem dX10_having_18 : decode cX10_having 18 = .ok (.iaload, 1) := by decide +kernel
theorem dX10_having_19 : decode cX10_having 19 = .ok (.iload_n 1, 1) := by decide +kernel
theorem dX10_having_20 : decode cX10_having 20 = .ok (.if_icmp .ne 15, 3) := by decide +kernel
theorem dX10_having_23 : decode cX10_having 23 = .ok (.aload_n 0, 1) := by decide +kernel
theorem dX10_having_24 : decode cX10_having 24 = .ok (.iload_n 3, 1) := by decide +kernel
theorem dX10_having_25 : decode cX10_having 25 = .ok (.invokevirtual 141, 3) := by decide +kernel
theorem dX10_having_28 : decode cX10_having 28 = .ok (.ifCond .eq 7, 3) := by decide +kernel
theorem dX10_having_31 : decode cX10_having 31 = .ok (.iconst 1, 1) := by decide +kernel
theorem dX10_having_32 : decode cX10_having 32 = .ok (.goto 4, 3) := by decide +kernel
theorem dX10_having_35 : decode cX10_having 35 = .ok (.iconst 0, 1) := by decide +kernel
theorem dX10_having_36 : decode cX10_having 36 = .ok (.iadd, 1) := by decide +kernel
theorem dX10_having_37 : decode cX10_having 37 = .ok (.istore_n 2, 1) := by decide +kernel
theorem dX10_having_38 : decode cX10_having 38 = .ok (.iinc 3 1, 3) := by decide +kernel
theorem dX10_having_41 : decode cX10_having 41 = .ok (.goto (-37), 3) := by decide +kernel
theorem dX10_having_44 : decode cX10_having 44 = .ok (.iload_n 2, 1) := by decide +kernel
theorem dX10_having_45 : decode cX10_having 45 = .ok (.ireturn, 1) := by decide +kernel
abbrev cX10_isOn : ByteArray := prog_12_method_28_code
def yX10_isOn : MethodName := ⟨RX10, "isOn", "(I)Z"⟩
theorem dX10_isOn_0 : decode cX10_isOn 0 = .ok (.aload_n 0, 1) := by decide +kernel
theorem dX10_isOn_1 : decode cX10_isOn 1 = .ok (.getfield 28, 3) := by decide +kernel
theorem dX10_isOn_4 : decode cX10_isOn 4 = .ok (.iload_n 1, 1) := by decide +kernel
theorem dX10_isOn_5 : decode cX10_isOn 5 = .ok (.iaload, 1) := by decide +kernel
theorem dX10_isOn_6 : decode cX10_isOn 6 = .ok (.istore_n 2, 1) := by decide +kernel
theorem dX10_isOn_7 : decode cX10_isOn 7 = .ok (.aload_n 0, 1) := by decide +kernel
theorem dX10_isOn_8 : decode cX10_isOn 8 = .ok (.getfield 31, 3) := by decide +kernel
theorem dX10_isOn_11 : decode cX10_isOn 11 = .ok (.iload_n 1, 1) := by decide +kernel
theorem dX10_isOn_12 : decode cX10_isOn 12 = .ok (.iaload, 1) := by decide +kernel
theorem dX10_isOn_13 : decode cX10_isOn 13 = .ok (.istore_n 3, 1) := by decide +kernel
theorem dX10_isOn_14 : decode cX10_isOn 14 = .ok (.aload_n 0, 1) := by decide +kernel
theorem dX10_isOn_15 : decode cX10_isOn 15 = .ok (.aload_n 0, 1) := by decide +kernel
theorem dX10_isOn_16 : decode cX10_isOn 16 = .ok (.getfield 22, 3) := by decide +kernel
theorem dX10_isOn_19 : decode cX10_isOn 19 = .ok (.iload_n 2, 1) := by decide +kernel
theorem dX10_isOn_20 : decode cX10_isOn 20 = .ok (.iaload, 1) := by decide +kernel
theorem dX10_isOn_21 : decode cX10_isOn 21 = .ok (.i2l, 1) := by decide +kernel
theorem dX10_isOn_22 : decode cX10_isOn 22 = .ok (.invokevirtual 131, 3) := by decide +kernel
theorem dX10_isOn_25 : decode cX10_isOn 25 = .ok (.aload_n 0, 1) := by decide +kernel
theorem dX10_isOn_26 : decode cX10_isOn 26 = .ok (.aload_n 0, 1) := by decide +kernel
theorem dX10_isOn_27 : decode cX10_isOn 27 = .ok (.getfield 22, 3) := by decide +kernel
theorem dX10_isOn_30 : decode cX10_isOn 30 = .ok (.iload_n 3, 1) := by decide +kernel
theorem dX10_isOn_31 : decode cX10_isOn 31 = .ok (.iaload, 1) := by decide +kernel
theorem dX10_isOn_32 : decode cX10_isOn 32 = .ok (.i2l, 1) := by decide +kernel
theorem dX10_isOn_33 : decode cX10_isOn 33 = .ok (.invokevirtual 131, 3) := by decide +kernel
theorem dX10_isOn_36 : decode cX10_isOn 36 = .ok (.imul, 1) := by decide +kernel
theorem dX10_isOn_37 : decode cX10_isOn 37 = .ok (.ifCond .gt 42, 3) := by decide +kernel
theorem dX10_isOn_40 : decode cX10_isOn 40 = .ok (.aload_n 0, 1) := by decide +kernel
theorem dX10_isOn_41 : decode cX10_isOn 41 = .ok (.aload_n 0, 1) := by decide +kernel
theorem dX10_isOn_42 : decode cX10_isOn 42 = .ok (.getfield 25, 3) := by decide +kernel
theorem dX10_isOn_45 : decode cX10_isOn 45 = .ok (.iload_n 2, 1) := by decide +kernel
theorem dX10_isOn_46 : decode cX10_isOn 46 = .ok (.iaload, 1) := by decide +kernel
theorem dX10_isOn_47 : decode cX10_isOn 47 = .ok (.i2l, 1) := by decide +kernel
theorem dX10_isOn_48 : decode cX10_isOn 48 = .ok (.invokevirtual 135, 3) := by decide +kernel
theorem dX10_isOn_51 : decode cX10_isOn 51 = .ok (.aload_n 0, 1) := by decide +kernel
theorem dX10_isOn_52 : decode cX10_isOn 52 = .ok (.aload_n 0, 1) := by decide +kernel
theorem dX10_isOn_53 : decode cX10_isOn 53 = .ok (.getfield 25, 3) := by decide +kernel
theorem dX10_isOn_56 : decode cX10_isOn 56 = .ok (.iload_n 3, 1) := by decide +kernel
theorem dX10_isOn_57 : decode cX10_isOn 57 = .ok (.iaload, 1) := by decide +kernel
theorem dX10_isOn_58 : decode cX10_isOn 58 = .ok (.i2l, 1) := by decide +kernel
theorem dX10_isOn_59 : decode cX10_isOn 59 = .ok (.invokevirtual 135, 3) := by decide +kernel
theorem dX10_isOn_62 : decode cX10_isOn 62 = .ok (.imul, 1) := by decide +kernel
theorem dX10_isOn_63 : decode cX10_isOn 63 = .ok (.ifCond .gt 16, 3) := by decide +kernel
theorem dX10_isOn_66 : decode cX10_isOn 66 = .ok (.aload_n 0, 1) := by decide +kernel
theorem dX10_isOn_67 : decode cX10_isOn 67 = .ok (.iload_n 2, 1) := by decide +kernel
theorem dX10_isOn_68 : decode cX10_isOn 68 = .ok (.iload_n 3, 1) := by decide +kernel
theorem dX10_isOn_69 : decode cX10_isOn 69 = .ok (.invokevirtual 138, 3) := by decide +kernel
theorem dX10_isOn_72 : decode cX10_isOn 72 = .ok (.ifCond .ne 7, 3) := by decide +kernel
theorem dX10_isOn_75 : decode cX10_isOn 75 = .ok (.iconst 1, 1) := by decide +kernel
theorem dX10_isOn_76 : decode cX10_isOn 76 = .ok (.goto 4, 3) := by decide +kernel
theorem dX10_isOn_79 : decode cX10_isOn 79 = .ok (.iconst 0, 1) := by decide +kernel
theorem dX10_isOn_80 : decode cX10_isOn 80 = .ok (.ireturn, 1) := by decide +kernel
abbrev cX10_side : ByteArray := prog_12_method_26_code
def yX10_side : MethodName := ⟨RX10, "side", "(II)I"⟩
theorem dX10_side_0 : decode cX10_side 0 = .ok (.aload_n 0, 1) := by decide +kernel
theorem dX10_side_1 : decode cX10_side 1 = .ok (.getfield 22, 3) := by decide +kernel
theorem dX10_side_4 : decode cX10_side 4 = .ok (.iload_n 2, 1) := by decide +kernel
theorem dX10_side_5 : decode cX10_side 5 = .ok (.iaload, 1) := by decide +kernel
theorem dX10_side_6 : decode cX10_side 6 = .ok (.i2l, 1) := by decide +kernel
theorem dX10_side_7 : decode cX10_side 7 = .ok (.aload_n 0, 1) := by decide +kernel
theorem dX10_side_8 : decode cX10_side 8 = .ok (.getfield 22, 3) := by decide +kernel
theorem dX10_side_11 : decode cX10_side 11 = .ok (.iload_n 1, 1) := by decide +kernel
theorem dX10_side_12 : decode cX10_side 12 = .ok (.iaload, 1) := by decide +kernel
theorem dX10_side_13 : decode cX10_side 13 = .ok (.i2l, 1) := by decide +kernel
theorem dX10_side_14 : decode cX10_side 14 = .ok (.lsub, 1) := by decide +kernel
theorem dX10_side_15 : decode cX10_side 15 = .ok (.lstore_n 3, 1) := by decide +kernel
theorem dX10_side_16 : decode cX10_side 16 = .ok (.aload_n 0, 1) := by decide +kernel
theorem dX10_side_17 : decode cX10_side 17 = .ok (.getfield 25, 3) := by decide +kernel
theorem dX10_side_20 : decode cX10_side 20 = .ok (.iload_n 2, 1) := by decide +kernel
theorem dX10_side_21 : decode cX10_side 21 = .ok (.iaload, 1) := by decide +kernel
theorem dX10_side_22 : decode cX10_side 22 = .ok (.i2l, 1) := by decide +kernel
theorem dX10_side_23 : decode cX10_side 23 = .ok (.aload_n 0, 1) := by decide +kernel
theorem dX10_side_24 : decode cX10_side 24 = .ok (.getfield 25, 3) := by decide +kernel
theorem dX10_side_27 : decode cX10_side 27 = .ok (.iload_n 1, 1) := by decide +kernel
theorem dX10_side_28 : decode cX10_side 28 = .ok (.iaload, 1) := by decide +kernel
theorem dX10_side_29 : decode cX10_side 29 = .ok (.i2l, 1) := by decide +kernel
theorem dX10_side_30 : decode cX10_side 30 = .ok (.lsub, 1) := by decide +kernel
theorem dX10_side_31 : decode cX10_side 31 = .ok (.lstore 5, 2) := by decide +kernel
theorem dX10_side_33 : decode cX10_side 33 = .ok (.aload_n 0, 1) := by decide +kernel
theorem dX10_side_34 : decode cX10_side 34 = .ok (.lload_n 3, 1) := by decide +kernel
theorem dX10_side_35 : decode cX10_side 35 = .ok (.aload_n 0, 1) := by decide +kernel
theorem dX10_side_36 : decode cX10_side 36 = .ok (.getfield 108, 3) := by decide +kernel
theorem dX10_side_39 : decode cX10_side 39 = .ok (.aload_n 0, 1) := by decide +kernel
theorem dX10_side_40 : decode cX10_side 40 = .ok (.getfield 25, 3) := by decide +kernel
theorem dX10_side_43 : decode cX10_side 43 = .ok (.iload_n 1, 1) := by decide +kernel
theorem dX10_side_44 : decode cX10_side 44 = .ok (.iaload, 1) := by decide +kernel
theorem dX10_side_45 : decode cX10_side 45 = .ok (.i2l, 1) := by decide +kernel
theorem dX10_side_46 : decode cX10_side 46 = .ok (.lsub, 1) := by decide +kernel
theorem dX10_side_47 : decode cX10_side 47 = .ok (.lmul, 1) := by decide +kernel
theorem dX10_side_48 : decode cX10_side 48 = .ok (.lload 5, 2) := by decide +kernel
theorem dX10_side_50 : decode cX10_side 50 = .ok (.aload_n 0, 1) := by decide +kernel
theorem dX10_side_51 : decode cX10_side 51 = .ok (.getfield 104, 3) := by decide +kernel
theorem dX10_side_54 : decode cX10_side 54 = .ok (.aload_n 0, 1) := by decide +kernel
theorem dX10_side_55 : decode cX10_side 55 = .ok (.getfield 22, 3) := by decide +kernel
theorem dX10_side_58 : decode cX10_side 58 = .ok (.iload_n 1, 1) := by decide +kernel
theorem dX10_side_59 : decode cX10_side 59 = .ok (.iaload, 1) := by decide +kernel
theorem dX10_side_60 : decode cX10_side 60 = .ok (.i2l, 1) := by decide +kernel
theorem dX10_side_61 : decode cX10_side 61 = .ok (.lsub, 1) := by decide +kernel
theorem dX10_side_62 : decode cX10_side 62 = .ok (.lmul, 1) := by decide +kernel
theorem dX10_side_63 : decode cX10_side 63 = .ok (.lsub, 1) := by decide +kernel
theorem dX10_side_64 : decode cX10_side 64 = .ok (.lload_n 3, 1) := by decide +kernel
theorem dX10_side_65 : decode cX10_side 65 = .ok (.aload_n 0, 1) := by decide +kernel
theorem dX10_side_66 : decode cX10_side 66 = .ok (.getfield 114, 3) := by decide +kernel
theorem dX10_side_69 : decode cX10_side 69 = .ok (.lmul, 1) := by decide +kernel
theorem dX10_side_70 : decode cX10_side 70 = .ok (.lload 5, 2) := by decide +kernel
theorem dX10_side_72 : decode cX10_side 72 = .ok (.aload_n 0, 1) := by decide +kernel
theorem dX10_side_73 : decode cX10_side 73 = .ok (.getfield 111, 3) := by decide +kernel
theorem dX10_side_76 : decode cX10_side 76 = .ok (.lmul, 1) := by decide +kernel
theorem dX10_side_77 : decode cX10_side 77 = .ok (.lsub, 1) := by decide +kernel
theorem dX10_side_78 : decode cX10_side 78 = .ok (.invokevirtual 127, 3) := by decide +kernel
theorem dX10_side_81 : decode cX10_side 81 = .ok (.ireturn, 1) := by decide +kernel
abbrev cX10_isEnd : ByteArray := prog_12_method_33_code
def yX10_isEnd : MethodName := ⟨RX10, "isEnd", "(I)Z"⟩
theorem dX10_isEnd_0 : decode cX10_isEnd 0 = .ok (.iconst 0, 1) := by decide +kernel
theorem dX10_isEnd_1 : decode cX10_isEnd 1 = .ok (.istore_n 2, 1) := by decide +kernel
theorem dX10_isEnd_2 : decode cX10_isEnd 2 = .ok (.iconst 0, 1) := by decide +kernel
theorem dX10_isEnd_3 : decode cX10_isEnd 3 = .ok (.istore_n 3, 1) := by decide +kernel
theorem dX10_isEnd_4 : decode cX10_isEnd 4 = .ok (.iload_n 3, 1) := by decide +kernel
theorem dX10_isEnd_5 : decode cX10_isEnd 5 = .ok (.aload_n 0, 1) := by decide +kernel
theorem dX10_isEnd_6 : decode cX10_isEnd 6 = .ok (.getfield 16, 3) := by decide +kernel
theorem dX10_isEnd_9 : decode cX10_isEnd 9 = .ok (.iload_n 1, 1) := by decide +kernel
theorem dX10_isEnd_10 : decode cX10_isEnd 10 = .ok (.iaload, 1) := by decide +kernel
theorem dX10_isEnd_11 : decode cX10_isEnd 11 = .ok (.if_icmp .ge 66, 3) := by decide +kernel
theorem dX10_isEnd_14 : decode cX10_isEnd 14 = .ok (.aload_n 0, 1) := by decide +kernel
theorem dX10_isEnd_15 : decode cX10_isEnd 15 = .ok (.iload_n 1, 1) := by decide +kernel
theorem dX10_isEnd_16 : decode cX10_isEnd 16 = .ok (.iload_n 3, 1) := by decide +kernel
theorem dX10_isEnd_17 : decode cX10_isEnd 17 = .ok (.invokevirtual 82, 3) := by decide +kernel
theorem dX10_isEnd_20 : decode cX10_isEnd 20 = .ok (.istore 4, 2) := by decide +kernel
theorem dX10_isEnd_22 : decode cX10_isEnd 22 = .ok (.aload_n 0, 1) := by decide +kernel
theorem dX10_isEnd_23 : decode cX10_isEnd 23 = .ok (.iload_n 1, 1) := by decide +kernel
theorem dX10_isEnd_24 : decode cX10_isEnd 24 = .ok (.iload_n 3, 1) := by decide +kernel
theorem dX10_isEnd_25 : decode cX10_isEnd 25 = .ok (.invokevirtual 86, 3) := by decide +kernel
theorem dX10_isEnd_28 : decode cX10_isEnd 28 = .ok (.istore 5, 2) := by decide +kernel
theorem dX10_isEnd_30 : decode cX10_isEnd 30 = .ok (.iload 5, 2) := by decide +kernel
theorem dX10_isEnd_32 : decode cX10_isEnd 32 = .ok (.iload 4, 2) := by decide +kernel
theorem dX10_isEnd_34 : decode cX10_isEnd 34 = .ok (.if_icmp .le 37, 3) := by decide +kernel
theorem dX10_isEnd_37 : decode cX10_isEnd 37 = .ok (.iload_n 2, 1) := by decide +kernel
theorem dX10_isEnd_38 : decode cX10_isEnd 38 = .ok (.aload_n 0, 1) := by decide +kernel
theorem dX10_isEnd_39 : decode cX10_isEnd 39 = .ok (.iload 4, 2) := by decide +kernel
theorem dX10_isEnd_41 : decode cX10_isEnd 41 = .ok (.invokevirtual 147, 3) := by decide +kernel
theorem dX10_isEnd_44 : decode cX10_isEnd 44 = .ok (.ifCond .eq 7, 3) := by decide +kernel
theorem dX10_isEnd_47 : decode cX10_isEnd 47 = .ok (.iconst 1, 1) := by decide +kernel
theorem dX10_isEnd_48 : decode cX10_isEnd 48 = .ok (.goto 4, 3) := by decide +kernel
theorem dX10_isEnd_51 : decode cX10_isEnd 51 = .ok (.iconst 0, 1) := by decide +kernel
theorem dX10_isEnd_52 : decode cX10_isEnd 52 = .ok (.aload_n 0, 1) := by decide +kernel
theorem dX10_isEnd_53 : decode cX10_isEnd 53 = .ok (.iload 5, 2) := by decide +kernel
theorem dX10_isEnd_55 : decode cX10_isEnd 55 = .ok (.iconst 1, 1) := by decide +kernel
theorem dX10_isEnd_56 : decode cX10_isEnd 56 = .ok (.isub, 1) := by decide +kernel
theorem dX10_isEnd_57 : decode cX10_isEnd 57 = .ok (.invokevirtual 147, 3) := by decide +kernel
theorem dX10_isEnd_60 : decode cX10_isEnd 60 = .ok (.ifCond .eq 7, 3) := by decide +kernel
theorem dX10_isEnd_63 : decode cX10_isEnd 63 = .ok (.iconst 1, 1) := by decide +kernel
theorem dX10_isEnd_64 : decode cX10_isEnd 64 = .ok (.goto 4, 3) := by decide +kernel
theorem dX10_isEnd_67 : decode cX10_isEnd 67 = .ok (.iconst 0, 1) := by decide +kernel
theorem dX10_isEnd_68 : decode cX10_isEnd 68 = .ok (.iadd, 1) := by decide +kernel
theorem dX10_isEnd_69 : decode cX10_isEnd 69 = .ok (.iadd, 1) := by decide +kernel
theorem dX10_isEnd_70 : decode cX10_isEnd 70 = .ok (.istore_n 2, 1) := by decide +kernel
theorem dX10_isEnd_71 : decode cX10_isEnd 71 = .ok (.iinc 3 1, 3) := by decide +kernel
theorem dX10_isEnd_74 : decode cX10_isEnd 74 = .ok (.goto (-70), 3) := by decide +kernel
theorem dX10_isEnd_77 : decode cX10_isEnd 77 = .ok (.iload_n 2, 1) := by decide +kernel
theorem dX10_isEnd_78 : decode cX10_isEnd 78 = .ok (.iconst 2, 1) := by decide +kernel
theorem dX10_isEnd_79 : decode cX10_isEnd 79 = .ok (.irem, 1) := by decide +kernel
theorem dX10_isEnd_80 : decode cX10_isEnd 80 = .ok (.iconst 1, 1) := by decide +kernel
theorem dX10_isEnd_81 : decode cX10_isEnd 81 = .ok (.if_icmp .ne 7, 3) := by decide +kernel
theorem dX10_isEnd_84 : decode cX10_isEnd 84 = .ok (.iconst 1, 1) := by decide +kernel
theorem dX10_isEnd_85 : decode cX10_isEnd 85 = .ok (.goto 4, 3) := by decide +kernel
theorem dX10_isEnd_88 : decode cX10_isEnd 88 = .ok (.iconst 0, 1) := by decide +kernel
theorem dX10_isEnd_89 : decode cX10_isEnd 89 = .ok (.ireturn, 1) := by decide +kernel
abbrev cX10_crossed : ByteArray := prog_12_method_30_code
def yX10_crossed : MethodName := ⟨RX10, "crossed", "(I)I"⟩
theorem dX10_crossed_0 : decode cX10_crossed 0 = .ok (.iconst 0, 1) := by decide +kernel
theorem dX10_crossed_1 : decode cX10_crossed 1 = .ok (.istore_n 2, 1) := by decide +kernel
theorem dX10_crossed_2 : decode cX10_crossed 2 = .ok (.iconst 0, 1) := by decide +kernel
theorem dX10_crossed_3 : decode cX10_crossed 3 = .ok (.istore_n 3, 1) := by decide +kernel
theorem dX10_crossed_4 : decode cX10_crossed 4 = .ok (.iload_n 3, 1) := by decide +kernel
theorem dX10_crossed_5 : decode cX10_crossed 5 = .ok (.aload_n 0, 1) := by decide +kernel
theorem dX10_crossed_6 : decode cX10_crossed 6 = .ok (.getfield 79, 3) := by decide +kernel
theorem dX10_crossed_9 : decode cX10_crossed 9 = .ok (.if_icmp .ge 43, 3) := by decide +kernel
theorem dX10_crossed_12 : decode cX10_crossed 12 = .ok (.iload_n 2, 1) := by decide +kernel
theorem dX10_crossed_13 : decode cX10_crossed 13 = .ok (.aload_n 0, 1) := by decide +kernel
theorem dX10_crossed_14 : decode cX10_crossed 14 = .ok (.getfield 34, 3) := by decide +kernel
theorem dX10_crossed_17 : decode cX10_crossed 17 = .ok (.iload_n 3, 1) := by decide +kernel
theorem dX10_crossed_18 : decode cX10_crossed 18 = .ok (.iaload, 1) := by decide +kernel
theorem dX10_crossed_19 : decode cX10_crossed 19 = .ok (.iload_n 1, 1) := by decide +kernel
theorem dX10_crossed_20 : decode cX10_crossed 20 = .ok (.if_icmp .ne 23, 3) := by decide +kernel
theorem dX10_crossed_23 : decode cX10_crossed 23 = .ok (.aload_n 0, 1) := by decide +kernel
theorem dX10_crossed_24 : decode cX10_crossed 24 = .ok (.iload_n 3, 1) := by decide +kernel
theorem dX10_crossed_25 : decode cX10_crossed 25 = .ok (.invokevirtual 141, 3) := by decide +kernel
theorem dX10_crossed_28 : decode cX10_crossed 28 = .ok (.ifCond .ne 15, 3) := by decide +kernel
theorem dX10_crossed_31 : decode cX10_crossed 31 = .ok (.aload_n 0, 1) := by decide +kernel
theorem dX10_crossed_32 : decode cX10_crossed 32 = .ok (.iload_n 3, 1) := by decide +kernel
theorem dX10_crossed_33 : decode cX10_crossed 33 = .ok (.invokevirtual 144, 3) := by decide +kernel
theorem dX10_crossed_36 : decode cX10_crossed 36 = .ok (.ifCond .eq 7, 3) := by decide +kernel
theorem dX10_crossed_39 : decode cX10_crossed 39 = .ok (.iconst 1, 1) := by decide +kernel
theorem dX10_crossed_40 : decode cX10_crossed 40 = .ok (.goto 4, 3) := by decide +kernel
theorem dX10_crossed_43 : decode cX10_crossed 43 = .ok (.iconst 0, 1) := by decide +kernel
theorem dX10_crossed_44 : decode cX10_crossed 44 = .ok (.iadd, 1) := by decide +kernel
theorem dX10_crossed_45 : decode cX10_crossed 45 = .ok (.istore_n 2, 1) := by decide +kernel
theorem dX10_crossed_46 : decode cX10_crossed 46 = .ok (.iinc 3 1, 3) := by decide +kernel
theorem dX10_crossed_49 : decode cX10_crossed 49 = .ok (.goto (-45), 3) := by decide +kernel
theorem dX10_crossed_52 : decode cX10_crossed 52 = .ok (.iload_n 2, 1) := by decide +kernel
theorem dX10_crossed_53 : decode cX10_crossed 53 = .ok (.iconst 2, 1) := by decide +kernel
theorem dX10_crossed_54 : decode cX10_crossed 54 = .ok (.irem, 1) := by decide +kernel
theorem dX10_crossed_55 : decode cX10_crossed 55 = .ok (.ireturn, 1) := by decide +kernel
abbrev cX10_crosses : ByteArray := prog_12_method_29_code
def yX10_crosses : MethodName := ⟨RX10, "crosses", "(I)Z"⟩
theorem dX10_crosses_0 : decode cX10_crosses 0 = .ok (.aload_n 0, 1) := by decide +kernel
theorem dX10_crosses_1 : decode cX10_crosses 1 = .ok (.aload_n 0, 1) := by decide +kernel
theorem dX10_crosses_2 : decode cX10_crosses 2 = .ok (.getfield 25, 3) := by decide +kernel
theorem dX10_crosses_5 : decode cX10_crosses 5 = .ok (.aload_n 0, 1) := by decide +kernel
theorem dX10_crosses_6 : decode cX10_crosses 6 = .ok (.getfield 28, 3) := by decide +kernel
theorem dX10_crosses_9 : decode cX10_crosses 9 = .ok (.iload_n 1, 1) := by decide +kernel
theorem dX10_crosses_10 : decode cX10_crosses 10 = .ok (.iaload, 1) := by decide +kernel
theorem dX10_crosses_11 : decode cX10_crosses 11 = .ok (.iaload, 1) := by decide +kernel
theorem dX10_crosses_12 : decode cX10_crosses 12 = .ok (.i2l, 1) := by decide +kernel
theorem dX10_crosses_13 : decode cX10_crosses 13 = .ok (.invokevirtual 135, 3) := by decide +kernel
theorem dX10_crosses_16 : decode cX10_crosses 16 = .ok (.ifCond .ge 7, 3) := by decide +kernel
theorem dX10_crosses_19 : decode cX10_crosses 19 = .ok (.iconst 1, 1) := by decide +kernel
theorem dX10_crosses_20 : decode cX10_crosses 20 = .ok (.goto 4, 3) := by decide +kernel
theorem dX10_crosses_23 : decode cX10_crosses 23 = .ok (.iconst 0, 1) := by decide +kernel
theorem dX10_crosses_24 : decode cX10_crosses 24 = .ok (.istore_n 2, 1) := by decide +kernel
theorem dX10_crosses_25 : decode cX10_crosses 25 = .ok (.aload_n 0, 1) := by decide +kernel
theorem dX10_crosses_26 : decode cX10_crosses 26 = .ok (.aload_n 0, 1) := by decide +kernel
theorem dX10_crosses_27 : decode cX10_crosses 27 = .ok (.getfield 25, 3) := by decide +kernel
theorem dX10_crosses_30 : decode cX10_crosses 30 = .ok (.aload_n 0, 1) := by decide +kernel
theorem dX10_crosses_31 : decode cX10_crosses 31 = .ok (.getfield 31, 3) := by decide +kernel
theorem dX10_crosses_34 : decode cX10_crosses 34 = .ok (.iload_n 1, 1) := by decide +kernel
theorem dX10_crosses_35 : decode cX10_crosses 35 = .ok (.iaload, 1) := by decide +kernel
theorem dX10_crosses_36 : decode cX10_crosses 36 = .ok (.iaload, 1) := by decide +kernel
theorem dX10_crosses_37 : decode cX10_crosses 37 = .ok (.i2l, 1) := by decide +kernel
theorem dX10_crosses_38 : decode cX10_crosses 38 = .ok (.invokevirtual 135, 3) := by decide +kernel
theorem dX10_crosses_41 : decode cX10_crosses 41 = .ok (.ifCond .ge 7, 3) := by decide +kernel
theorem dX10_crosses_44 : decode cX10_crosses 44 = .ok (.iconst 1, 1) := by decide +kernel
theorem dX10_crosses_45 : decode cX10_crosses 45 = .ok (.goto 4, 3) := by decide +kernel
theorem dX10_crosses_48 : decode cX10_crosses 48 = .ok (.iconst 0, 1) := by decide +kernel
theorem dX10_crosses_49 : decode cX10_crosses 49 = .ok (.istore_n 3, 1) := by decide +kernel
theorem dX10_crosses_50 : decode cX10_crosses 50 = .ok (.iload_n 2, 1) := by decide +kernel
theorem dX10_crosses_51 : decode cX10_crosses 51 = .ok (.iload_n 3, 1) := by decide +kernel
theorem dX10_crosses_52 : decode cX10_crosses 52 = .ok (.if_icmp .ne 5, 3) := by decide +kernel
theorem dX10_crosses_55 : decode cX10_crosses 55 = .ok (.iconst 0, 1) := by decide +kernel
theorem dX10_crosses_56 : decode cX10_crosses 56 = .ok (.ireturn, 1) := by decide +kernel
theorem dX10_crosses_57 : decode cX10_crosses 57 = .ok (.iload_n 2, 1) := by decide +kernel
theorem dX10_crosses_58 : decode cX10_crosses 58 = .ok (.ifCond .eq 30, 3) := by decide +kernel
theorem dX10_crosses_61 : decode cX10_crosses 61 = .ok (.aload_n 0, 1) := by decide +kernel
theorem dX10_crosses_62 : decode cX10_crosses 62 = .ok (.aload_n 0, 1) := by decide +kernel
theorem dX10_crosses_63 : decode cX10_crosses 63 = .ok (.getfield 31, 3) := by decide +kernel
theorem dX10_crosses_66 : decode cX10_crosses 66 = .ok (.iload_n 1, 1) := by decide +kernel
theorem dX10_crosses_67 : decode cX10_crosses 67 = .ok (.iaload, 1) := by decide +kernel
theorem dX10_crosses_68 : decode cX10_crosses 68 = .ok (.aload_n 0, 1) := by decide +kernel
theorem dX10_crosses_69 : decode cX10_crosses 69 = .ok (.getfield 28, 3) := by decide +kernel
theorem dX10_crosses_72 : decode cX10_crosses 72 = .ok (.iload_n 1, 1) := by decide +kernel
theorem dX10_crosses_73 : decode cX10_crosses 73 = .ok (.iaload, 1) := by decide +kernel
theorem dX10_crosses_74 : decode cX10_crosses 74 = .ok (.invokevirtual 138, 3) := by decide +kernel
theorem dX10_crosses_77 : decode cX10_crosses 77 = .ok (.ifCond .le 7, 3) := by decide +kernel
theorem dX10_crosses_80 : decode cX10_crosses 80 = .ok (.iconst 1, 1) := by decide +kernel
theorem dX10_crosses_81 : decode cX10_crosses 81 = .ok (.goto 31, 3) := by decide +kernel
theorem dX10_crosses_84 : decode cX10_crosses 84 = .ok (.iconst 0, 1) := by decide +kernel
theorem dX10_crosses_85 : decode cX10_crosses 85 = .ok (.goto 27, 3) := by decide +kernel
theorem dX10_crosses_88 : decode cX10_crosses 88 = .ok (.aload_n 0, 1) := by decide +kernel
theorem dX10_crosses_89 : decode cX10_crosses 89 = .ok (.aload_n 0, 1) := by decide +kernel
theorem dX10_crosses_90 : decode cX10_crosses 90 = .ok (.getfield 28, 3) := by decide +kernel
theorem dX10_crosses_93 : decode cX10_crosses 93 = .ok (.iload_n 1, 1) := by decide +kernel
theorem dX10_crosses_94 : decode cX10_crosses 94 = .ok (.iaload, 1) := by decide +kernel
theorem dX10_crosses_95 : decode cX10_crosses 95 = .ok (.aload_n 0, 1) := by decide +kernel
theorem dX10_crosses_96 : decode cX10_crosses 96 = .ok (.getfield 31, 3) := by decide +kernel
theorem dX10_crosses_99 : decode cX10_crosses 99 = .ok (.iload_n 1, 1) := by decide +kernel
theorem dX10_crosses_100 : decode cX10_crosses 100 = .ok (.iaload, 1) := by decide +kernel
theorem dX10_crosses_101 : decode cX10_crosses 101 = .ok (.invokevirtual 138, 3) := by decide +kernel
theorem dX10_crosses_104 : decode cX10_crosses 104 = .ok (.ifCond .le 7, 3) := by decide +kernel
theorem dX10_crosses_107 : decode cX10_crosses 107 = .ok (.iconst 1, 1) := by decide +kernel
theorem dX10_crosses_108 : decode cX10_crosses 108 = .ok (.goto 4, 3) := by decide +kernel
theorem dX10_crosses_111 : decode cX10_crosses 111 = .ok (.iconst 0, 1) := by decide +kernel
theorem dX10_crosses_112 : decode cX10_crosses 112 = .ok (.ireturn, 1) := by decide +kernel
abbrev cX10_relate : ByteArray := prog_12_method_46_code
def yX10_relate : MethodName := ⟨RX10, "relate", "()I"⟩
theorem dX10_relate_0 : decode cX10_relate 0 = .ok (.aload_n 0, 1) := by decide +kernel
theorem dX10_relate_1 : decode cX10_relate 1 = .ok (.iconst 0, 1) := by decide +kernel
theorem dX10_relate_2 : decode cX10_relate 2 = .ok (.putfield 54, 3) := by decide +kernel
theorem dX10_relate_5 : decode cX10_relate 5 = .ok (.aload_n 0, 1) := by decide +kernel
theorem dX10_relate_6 : decode cX10_relate 6 = .ok (.invokevirtual 212, 3) := by decide +kernel
theorem dX10_relate_9 : decode cX10_relate 9 = .ok (.iconst 0, 1) := by decide +kernel
theorem dX10_relate_10 : decode cX10_relate 10 = .ok (.istore_n 1, 1) := by decide +kernel
theorem dX10_relate_11 : decode cX10_relate 11 = .ok (.iconst 0, 1) := by decide +kernel
theorem dX10_relate_12 : decode cX10_relate 12 = .ok (.istore_n 2, 1) := by decide +kernel
theorem dX10_relate_13 : decode cX10_relate 13 = .ok (.iload_n 2, 1) := by decide +kernel
theorem dX10_relate_14 : decode cX10_relate 14 = .ok (.bipush 9, 2) := by decide +kernel
theorem dX10_relate_16 : decode cX10_relate 16 = .ok (.if_icmp .ge 22, 3) := by decide +kernel
theorem dX10_relate_19 : decode cX10_relate 19 = .ok (.iconst 4, 1) := by decide +kernel
theorem dX10_relate_20 : decode cX10_relate 20 = .ok (.iload_n 1, 1) := by decide +kernel
theorem dX10_relate_21 : decode cX10_relate 21 = .ok (.imul, 1) := by decide +kernel
theorem dX10_relate_22 : decode cX10_relate 22 = .ok (.aload_n 0, 1) := by decide +kernel
theorem dX10_relate_23 : decode cX10_relate 23 = .ok (.getfield 37, 3) := by decide +kernel
theorem dX10_relate_26 : decode cX10_relate 26 = .ok (.iload_n 2, 1) := by decide +kernel
theorem dX10_relate_27 : decode cX10_relate 27 = .ok (.iaload, 1) := by decide +kernel
theorem dX10_relate_28 : decode cX10_relate 28 = .ok (.iadd, 1) := by decide +kernel
theorem dX10_relate_29 : decode cX10_relate 29 = .ok (.iconst 1, 1) := by decide +kernel
theorem dX10_relate_30 : decode cX10_relate 30 = .ok (.iadd, 1) := by decide +kernel
theorem dX10_relate_31 : decode cX10_relate 31 = .ok (.istore_n 1, 1) := by decide +kernel
theorem dX10_relate_32 : decode cX10_relate 32 = .ok (.iinc 2 1, 3) := by decide +kernel
theorem dX10_relate_35 : decode cX10_relate 35 = .ok (.goto (-22), 3) := by decide +kernel
theorem dX10_relate_38 : decode cX10_relate 38 = .ok (.iload_n 1, 1) := by decide +kernel
theorem dX10_relate_39 : decode cX10_relate 39 = .ok (.ireturn, 1) := by decide +kernel
abbrev cX10_look : ByteArray := prog_12_method_45_code
def yX10_look : MethodName := ⟨RX10, "look", "()V"⟩
theorem dX10_look_0 : decode cX10_look 0 = .ok (.aload_n 0, 1) := by decide +kernel
theorem dX10_look_1 : decode cX10_look 1 = .ok (.invokevirtual 162, 3) := by decide +kernel
theorem dX10_look_4 : decode cX10_look 4 = .ok (.iconst 0, 1) := by decide +kernel
theorem dX10_look_5 : decode cX10_look 5 = .ok (.istore_n 1, 1) := by decide +kernel
theorem dX10_look_6 : decode cX10_look 6 = .ok (.iload_n 1, 1) := by decide +kernel
theorem dX10_look_7 : decode cX10_look 7 = .ok (.bipush 9, 2) := by decide +kernel
theorem dX10_look_9 : decode cX10_look 9 = .ok (.if_icmp .ge 16, 3) := by decide +kernel
theorem dX10_look_12 : decode cX10_look 12 = .ok (.aload_n 0, 1) := by decide +kernel
theorem dX10_look_13 : decode cX10_look 13 = .ok (.getfield 37, 3) := by decide +kernel
theorem dX10_look_16 : decode cX10_look 16 = .ok (.iload_n 1, 1) := by decide +kernel
theorem dX10_look_17 : decode cX10_look 17 = .ok (.iconst (-1), 1) := by decide +kernel
theorem dX10_look_18 : decode cX10_look 18 = .ok (.iastore, 1) := by decide +kernel
theorem dX10_look_19 : decode cX10_look 19 = .ok (.iinc 1 1, 3) := by decide +kernel
theorem dX10_look_22 : decode cX10_look 22 = .ok (.goto (-16), 3) := by decide +kernel
theorem dX10_look_25 : decode cX10_look 25 = .ok (.aload_n 0, 1) := by decide +kernel
theorem dX10_look_26 : decode cX10_look 26 = .ok (.getfield 37, 3) := by decide +kernel
theorem dX10_look_29 : decode cX10_look 29 = .ok (.bipush 8, 2) := by decide +kernel
theorem dX10_look_31 : decode cX10_look 31 = .ok (.iconst 2, 1) := by decide +kernel
theorem dX10_look_32 : decode cX10_look 32 = .ok (.iastore, 1) := by decide +kernel
theorem dX10_look_33 : decode cX10_look 33 = .ok (.aload_n 0, 1) := by decide +kernel
theorem dX10_look_34 : decode cX10_look 34 = .ok (.getfield 40, 3) := by decide +kernel
theorem dX10_look_37 : decode cX10_look 37 = .ok (.iconst 0, 1) := by decide +kernel
theorem dX10_look_38 : decode cX10_look 38 = .ok (.iconst 0, 1) := by decide +kernel
theorem dX10_look_39 : decode cX10_look 39 = .ok (.bastore, 1) := by decide +kernel
theorem dX10_look_40 : decode cX10_look 40 = .ok (.aload_n 0, 1) := by decide +kernel
theorem dX10_look_41 : decode cX10_look 41 = .ok (.getfield 40, 3) := by decide +kernel
theorem dX10_look_44 : decode cX10_look 44 = .ok (.iconst 1, 1) := by decide +kernel
theorem dX10_look_45 : decode cX10_look 45 = .ok (.iconst 0, 1) := by decide +kernel
theorem dX10_look_46 : decode cX10_look 46 = .ok (.bastore, 1) := by decide +kernel
theorem dX10_look_47 : decode cX10_look 47 = .ok (.iconst 0, 1) := by decide +kernel
theorem dX10_look_48 : decode cX10_look 48 = .ok (.istore_n 1, 1) := by decide +kernel
theorem dX10_look_49 : decode cX10_look 49 = .ok (.iload_n 1, 1) := by decide +kernel
theorem dX10_look_50 : decode cX10_look 50 = .ok (.iconst 2, 1) := by decide +kernel
theorem dX10_look_51 : decode cX10_look 51 = .ok (.if_icmp .ge 57, 3) := by decide +kernel
theorem dX10_look_54 : decode cX10_look 54 = .ok (.sipush 2048, 3) := by decide +kernel
theorem dX10_look_57 : decode cX10_look 57 = .ok (.iload_n 1, 1) := by decide +kernel
theorem dX10_look_58 : decode cX10_look 58 = .ok (.imul, 1) := by decide +kernel
theorem dX10_look_59 : decode cX10_look 59 = .ok (.istore_n 2, 1) := by decide +kernel
theorem dX10_look_60 : decode cX10_look 60 = .ok (.iload_n 2, 1) := by decide +kernel
theorem dX10_look_61 : decode cX10_look 61 = .ok (.sipush 2048, 3) := by decide +kernel
theorem dX10_look_64 : decode cX10_look 64 = .ok (.iload_n 1, 1) := by decide +kernel
theorem dX10_look_65 : decode cX10_look 65 = .ok (.imul, 1) := by decide +kernel
theorem dX10_look_66 : decode cX10_look 66 = .ok (.aload_n 0, 1) := by decide +kernel
theorem dX10_look_67 : decode cX10_look 67 = .ok (.getfield 13, 3) := by decide +kernel
theorem dX10_look_70 : decode cX10_look 70 = .ok (.iload_n 1, 1) := by decide +kernel
theorem dX10_look_71 : decode cX10_look 71 = .ok (.iaload, 1) := by decide +kernel
theorem dX10_look_72 : decode cX10_look 72 = .ok (.iadd, 1) := by decide +kernel
theorem dX10_look_73 : decode cX10_look 73 = .ok (.if_icmp .ge 29, 3) := by decide +kernel
theorem dX10_look_76 : decode cX10_look 76 = .ok (.aload_n 0, 1) := by decide +kernel
theorem dX10_look_77 : decode cX10_look 77 = .ok (.iload_n 2, 1) := by decide +kernel
theorem dX10_look_78 : decode cX10_look 78 = .ok (.invokevirtual 186, 3) := by decide +kernel
theorem dX10_look_81 : decode cX10_look 81 = .ok (.aload_n 0, 1) := by decide +kernel
theorem dX10_look_82 : decode cX10_look 82 = .ok (.aload_n 0, 1) := by decide +kernel
theorem dX10_look_83 : decode cX10_look 83 = .ok (.iconst 0, 1) := by decide +kernel
theorem dX10_look_84 : decode cX10_look 84 = .ok (.invokevirtual 173, 3) := by decide +kernel
theorem dX10_look_87 : decode cX10_look 87 = .ok (.aload_n 0, 1) := by decide +kernel
theorem dX10_look_88 : decode cX10_look 88 = .ok (.iconst 1, 1) := by decide +kernel
theorem dX10_look_89 : decode cX10_look 89 = .ok (.invokevirtual 173, 3) := by decide +kernel
theorem dX10_look_92 : decode cX10_look 92 = .ok (.iconst 0, 1) := by decide +kernel
theorem dX10_look_93 : decode cX10_look 93 = .ok (.invokevirtual 199, 3) := by decide +kernel
theorem dX10_look_96 : decode cX10_look 96 = .ok (.iinc 2 1, 3) := by decide +kernel
theorem dX10_look_99 : decode cX10_look 99 = .ok (.goto (-39), 3) := by decide +kernel
theorem dX10_look_102 : decode cX10_look 102 = .ok (.iinc 1 1, 3) := by decide +kernel
theorem dX10_look_105 : decode cX10_look 105 = .ok (.goto (-56), 3) := by decide +kernel
theorem dX10_look_108 : decode cX10_look 108 = .ok (.iconst 0, 1) := by decide +kernel
theorem dX10_look_109 : decode cX10_look 109 = .ok (.istore_n 1, 1) := by decide +kernel
theorem dX10_look_110 : decode cX10_look 110 = .ok (.iload_n 1, 1) := by decide +kernel
theorem dX10_look_111 : decode cX10_look 111 = .ok (.aload_n 0, 1) := by decide +kernel
theorem dX10_look_112 : decode cX10_look 112 = .ok (.getfield 79, 3) := by decide +kernel
theorem dX10_look_115 : decode cX10_look 115 = .ok (.if_icmp .ge 155, 3) := by decide +kernel
theorem dX10_look_118 : decode cX10_look 118 = .ok (.aload_n 0, 1) := by decide +kernel
theorem dX10_look_119 : decode cX10_look 119 = .ok (.iload_n 1, 1) := by decide +kernel
theorem dX10_look_120 : decode cX10_look 120 = .ok (.invokevirtual 206, 3) := by decide +kernel
theorem dX10_look_123 : decode cX10_look 123 = .ok (.aload_n 0, 1) := by decide +kernel
theorem dX10_look_124 : decode cX10_look 124 = .ok (.aload_n 0, 1) := by decide +kernel
theorem dX10_look_125 : decode cX10_look 125 = .ok (.getfield 22, 3) := by decide +kernel
theorem dX10_look_128 : decode cX10_look 128 = .ok (.aload_n 0, 1) := by decide +kernel
theorem dX10_look_129 : decode cX10_look 129 = .ok (.getfield 28, 3) := by decide +kernel
theorem dX10_look_132 : decode cX10_look 132 = .ok (.iload_n 1, 1) := by decide +kernel
theorem dX10_look_133 : decode cX10_look 133 = .ok (.iaload, 1) := by decide +kernel
theorem dX10_look_134 : decode cX10_look 134 = .ok (.iaload, 1) := by decide +kernel
theorem dX10_look_135 : decode cX10_look 135 = .ok (.i2l, 1) := by decide +kernel
theorem dX10_look_136 : decode cX10_look 136 = .ok (.aload_n 0, 1) := by decide +kernel
theorem dX10_look_137 : decode cX10_look 137 = .ok (.getfield 25, 3) := by decide +kernel
theorem dX10_look_140 : decode cX10_look 140 = .ok (.aload_n 0, 1) := by decide +kernel
theorem dX10_look_141 : decode cX10_look 141 = .ok (.getfield 28, 3) := by decide +kernel
theorem dX10_look_144 : decode cX10_look 144 = .ok (.iload_n 1, 1) := by decide +kernel
theorem dX10_look_145 : decode cX10_look 145 = .ok (.iaload, 1) := by decide +kernel
theorem dX10_look_146 : decode cX10_look 146 = .ok (.iaload, 1) := by decide +kernel
theorem dX10_look_147 : decode cX10_look 147 = .ok (.i2l, 1) := by decide +kernel
theorem dX10_look_148 : decode cX10_look 148 = .ok (.aload_n 0, 1) := by decide +kernel
theorem dX10_look_149 : decode cX10_look 149 = .ok (.getfield 22, 3) := by decide +kernel
theorem dX10_look_152 : decode cX10_look 152 = .ok (.aload_n 0, 1) := by decide +kernel
theorem dX10_look_153 : decode cX10_look 153 = .ok (.getfield 31, 3) := by decide +kernel
theorem dX10_look_156 : decode cX10_look 156 = .ok (.iload_n 1, 1) := by decide +kernel
theorem dX10_look_157 : decode cX10_look 157 = .ok (.iaload, 1) := by decide +kernel
theorem dX10_look_158 : decode cX10_look 158 = .ok (.iaload, 1) := by decide +kernel
theorem dX10_look_159 : decode cX10_look 159 = .ok (.i2l, 1) := by decide +kernel
theorem dX10_look_160 : decode cX10_look 160 = .ok (.aload_n 0, 1) := by decide +kernel
theorem dX10_look_161 : decode cX10_look 161 = .ok (.getfield 22, 3) := by decide +kernel
theorem dX10_look_164 : decode cX10_look 164 = .ok (.aload_n 0, 1) := by decide +kernel
theorem dX10_look_165 : decode cX10_look 165 = .ok (.getfield 28, 3) := by decide +kernel
theorem dX10_look_168 : decode cX10_look 168 = .ok (.iload_n 1, 1) := by decide +kernel
theorem dX10_look_169 : decode cX10_look 169 = .ok (.iaload, 1) := by decide +kernel
theorem dX10_look_170 : decode cX10_look 170 = .ok (.iaload, 1) := by decide +kernel
theorem dX10_look_171 : decode cX10_look 171 = .ok (.i2l, 1) := by decide +kernel
theorem dX10_look_172 : decode cX10_look 172 = .ok (.lsub, 1) := by decide +kernel
theorem dX10_look_173 : decode cX10_look 173 = .ok (.aload_n 0, 1) := by decide +kernel
theorem dX10_look_174 : decode cX10_look 174 = .ok (.getfield 25, 3) := by decide +kernel
theorem dX10_look_177 : decode cX10_look 177 = .ok (.aload_n 0, 1) := by decide +kernel
theorem dX10_look_178 : decode cX10_look 178 = .ok (.getfield 31, 3) := by decide +kernel
theorem dX10_look_181 : decode cX10_look 181 = .ok (.iload_n 1, 1) := by decide +kernel
theorem dX10_look_182 : decode cX10_look 182 = .ok (.iaload, 1) := by decide +kernel
theorem dX10_look_183 : decode cX10_look 183 = .ok (.iaload, 1) := by decide +kernel
theorem dX10_look_184 : decode cX10_look 184 = .ok (.i2l, 1) := by decide +kernel
theorem dX10_look_185 : decode cX10_look 185 = .ok (.aload_n 0, 1) := by decide +kernel
theorem dX10_look_186 : decode cX10_look 186 = .ok (.getfield 25, 3) := by decide +kernel
theorem dX10_look_189 : decode cX10_look 189 = .ok (.aload_n 0, 1) := by decide +kernel
theorem dX10_look_190 : decode cX10_look 190 = .ok (.getfield 28, 3) := by decide +kernel
theorem dX10_look_193 : decode cX10_look 193 = .ok (.iload_n 1, 1) := by decide +kernel
theorem dX10_look_194 : decode cX10_look 194 = .ok (.iaload, 1) := by decide +kernel
theorem dX10_look_195 : decode cX10_look 195 = .ok (.iaload, 1) := by decide +kernel
theorem dX10_look_196 : decode cX10_look 196 = .ok (.i2l, 1) := by decide +kernel
theorem dX10_look_197 : decode cX10_look 197 = .ok (.lsub, 1) := by decide +kernel
theorem dX10_look_198 : decode cX10_look 198 = .ok (.invokevirtual 165, 3) := by decide +kernel
theorem dX10_look_201 : decode cX10_look 201 = .ok (.iconst 0, 1) := by decide +kernel
theorem dX10_look_202 : decode cX10_look 202 = .ok (.istore_n 2, 1) := by decide +kernel
theorem dX10_look_203 : decode cX10_look 203 = .ok (.iload_n 2, 1) := by decide +kernel
theorem dX10_look_204 : decode cX10_look 204 = .ok (.aload_n 0, 1) := by decide +kernel
theorem dX10_look_205 : decode cX10_look 205 = .ok (.getfield 176, 3) := by decide +kernel
theorem dX10_look_208 : decode cX10_look 208 = .ok (.if_icmp .ge 56, 3) := by decide +kernel
theorem dX10_look_211 : decode cX10_look 211 = .ok (.aload_n 0, 1) := by decide +kernel
theorem dX10_look_212 : decode cX10_look 212 = .ok (.aload_n 0, 1) := by decide +kernel
theorem dX10_look_213 : decode cX10_look 213 = .ok (.getfield 48, 3) := by decide +kernel
theorem dX10_look_216 : decode cX10_look 216 = .ok (.iload_n 2, 1) := by decide +kernel
theorem dX10_look_217 : decode cX10_look 217 = .ok (.laload, 1) := by decide +kernel
theorem dX10_look_218 : decode cX10_look 218 = .ok (.aload_n 0, 1) := by decide +kernel
theorem dX10_look_219 : decode cX10_look 219 = .ok (.getfield 51, 3) := by decide +kernel
theorem dX10_look_222 : decode cX10_look 222 = .ok (.iload_n 2, 1) := by decide +kernel
theorem dX10_look_223 : decode cX10_look 223 = .ok (.laload, 1) := by decide +kernel
theorem dX10_look_224 : decode cX10_look 224 = .ok (.invokevirtual 169, 3) := by decide +kernel
theorem dX10_look_227 : decode cX10_look 227 = .ok (.aload_n 0, 1) := by decide +kernel
theorem dX10_look_228 : decode cX10_look 228 = .ok (.aload_n 0, 1) := by decide +kernel
theorem dX10_look_229 : decode cX10_look 229 = .ok (.iconst 0, 1) := by decide +kernel
theorem dX10_look_230 : decode cX10_look 230 = .ok (.invokevirtual 173, 3) := by decide +kernel
theorem dX10_look_233 : decode cX10_look 233 = .ok (.aload_n 0, 1) := by decide +kernel
theorem dX10_look_234 : decode cX10_look 234 = .ok (.iconst 1, 1) := by decide +kernel
theorem dX10_look_235 : decode cX10_look 235 = .ok (.invokevirtual 173, 3) := by decide +kernel
theorem dX10_look_238 : decode cX10_look 238 = .ok (.iconst 0, 1) := by decide +kernel
theorem dX10_look_239 : decode cX10_look 239 = .ok (.invokevirtual 199, 3) := by decide +kernel
theorem dX10_look_242 : decode cX10_look 242 = .ok (.iload_n 2, 1) := by decide +kernel
theorem dX10_look_243 : decode cX10_look 243 = .ok (.iconst 1, 1) := by decide +kernel
theorem dX10_look_244 : decode cX10_look 244 = .ok (.iadd, 1) := by decide +kernel
theorem dX10_look_245 : decode cX10_look 245 = .ok (.aload_n 0, 1) := by decide +kernel
theorem dX10_look_246 : decode cX10_look 246 = .ok (.getfield 176, 3) := by decide +kernel
theorem dX10_look_249 : decode cX10_look 249 = .ok (.if_icmp .ge 9, 3) := by decide +kernel
theorem dX10_look_252 : decode cX10_look 252 = .ok (.aload_n 0, 1) := by decide +kernel
theorem dX10_look_253 : decode cX10_look 253 = .ok (.iload_n 1, 1) := by decide +kernel
theorem dX10_look_254 : decode cX10_look 254 = .ok (.iload_n 2, 1) := by decide +kernel
theorem dX10_look_255 : decode cX10_look 255 = .ok (.invokevirtual 209, 3) := by decide +kernel
theorem dX10_look_258 : decode cX10_look 258 = .ok (.iinc 2 1, 3) := by decide +kernel
theorem dX10_look_261 : decode cX10_look 261 = .ok (.goto (-58), 3) := by decide +kernel
theorem dX10_look_264 : decode cX10_look 264 = .ok (.iinc 1 1, 3) := by decide +kernel
theorem dX10_look_267 : decode cX10_look 267 = .ok (.goto (-157), 3) := by decide +kernel
theorem dX10_look_270 : decode cX10_look 270 = .ok (.return_, 1) := by decide +kernel
abbrev cX10_cutAt : ByteArray := prog_12_method_38_code
def yX10_cutAt : MethodName := ⟨RX10, "cutAt", "(I)V"⟩
theorem dX10_cutAt_0 : decode cX10_cutAt 0 = .ok (.aload_n 0, 1) := by decide +kernel
theorem dX10_cutAt_1 : decode cX10_cutAt 1 = .ok (.aload_n 0, 1) := by decide +kernel
theorem dX10_cutAt_2 : decode cX10_cutAt 2 = .ok (.getfield 22, 3) := by decide +kernel
theorem dX10_cutAt_5 : decode cX10_cutAt 5 = .ok (.iload_n 1, 1) := by decide +kernel
theorem dX10_cutAt_6 : decode cX10_cutAt 6 = .ok (.iaload, 1) := by decide +kernel
theorem dX10_cutAt_7 : decode cX10_cutAt 7 = .ok (.i2l, 1) := by decide +kernel
theorem dX10_cutAt_8 : decode cX10_cutAt 8 = .ok (.aload_n 0, 1) := by decide +kernel
theorem dX10_cutAt_9 : decode cX10_cutAt 9 = .ok (.getfield 25, 3) := by decide +kernel
theorem dX10_cutAt_12 : decode cX10_cutAt 12 = .ok (.iload_n 1, 1) := by decide +kernel
theorem dX10_cutAt_13 : decode cX10_cutAt 13 = .ok (.iaload, 1) := by decide +kernel
theorem dX10_cutAt_14 : decode cX10_cutAt 14 = .ok (.i2l, 1) := by decide +kernel
theorem dX10_cutAt_15 : decode cX10_cutAt 15 = .ok (.lconst 0, 1) := by decide +kernel
theorem dX10_cutAt_16 : decode cX10_cutAt 16 = .ok (.lconst 0, 1) := by decide +kernel
theorem dX10_cutAt_17 : decode cX10_cutAt 17 = .ok (.invokevirtual 165, 3) := by decide +kernel
theorem dX10_cutAt_20 : decode cX10_cutAt 20 = .ok (.aload_n 0, 1) := by decide +kernel
theorem dX10_cutAt_21 : decode cX10_cutAt 21 = .ok (.lconst 0, 1) := by decide +kernel
theorem dX10_cutAt_22 : decode cX10_cutAt 22 = .ok (.lconst 1, 1) := by decide +kernel
theorem dX10_cutAt_23 : decode cX10_cutAt 23 = .ok (.invokevirtual 169, 3) := by decide +kernel
theorem dX10_cutAt_26 : decode cX10_cutAt 26 = .ok (.return_, 1) := by decide +kernel
abbrev cX10_mark : ByteArray := prog_12_method_42_code
def yX10_mark : MethodName := ⟨RX10, "mark", "(III)V"⟩
theorem dX10_mark_0 : decode cX10_mark 0 = .ok (.iconst 3, 1) := by decide +kernel
theorem dX10_mark_1 : decode cX10_mark 1 = .ok (.iload_n 1, 1) := by decide +kernel
theorem dX10_mark_2 : decode cX10_mark 2 = .ok (.imul, 1) := by decide +kernel
theorem dX10_mark_3 : decode cX10_mark 3 = .ok (.iload_n 2, 1) := by decide +kernel
theorem dX10_mark_4 : decode cX10_mark 4 = .ok (.iadd, 1) := by decide +kernel
theorem dX10_mark_5 : decode cX10_mark 5 = .ok (.istore 4, 2) := by decide +kernel
theorem dX10_mark_7 : decode cX10_mark 7 = .ok (.aload_n 0, 1) := by decide +kernel
theorem dX10_mark_8 : decode cX10_mark 8 = .ok (.getfield 37, 3) := by decide +kernel
theorem dX10_mark_11 : decode cX10_mark 11 = .ok (.iload 4, 2) := by decide +kernel
theorem dX10_mark_13 : decode cX10_mark 13 = .ok (.aload_n 0, 1) := by decide +kernel
theorem dX10_mark_14 : decode cX10_mark 14 = .ok (.getfield 37, 3) := by decide +kernel
theorem dX10_mark_17 : decode cX10_mark 17 = .ok (.iload 4, 2) := by decide +kernel
theorem dX10_mark_19 : decode cX10_mark 19 = .ok (.iaload, 1) := by decide +kernel
theorem dX10_mark_20 : decode cX10_mark 20 = .ok (.iload_n 3, 1) := by decide +kernel
theorem dX10_mark_21 : decode cX10_mark 21 = .ok (.if_icmp .le 13, 3) := by decide +kernel
theorem dX10_mark_24 : decode cX10_mark 24 = .ok (.aload_n 0, 1) := by decide +kernel
theorem dX10_mark_25 : decode cX10_mark 25 = .ok (.getfield 37, 3) := by decide +kernel
theorem dX10_mark_28 : decode cX10_mark 28 = .ok (.iload 4, 2) := by decide +kernel
theorem dX10_mark_30 : decode cX10_mark 30 = .ok (.iaload, 1) := by decide +kernel
theorem dX10_mark_31 : decode cX10_mark 31 = .ok (.goto 4, 3) := by decide +kernel
theorem dX10_mark_34 : decode cX10_mark 34 = .ok (.iload_n 3, 1) := by decide +kernel
theorem dX10_mark_35 : decode cX10_mark 35 = .ok (.iastore, 1) := by decide +kernel
theorem dX10_mark_36 : decode cX10_mark 36 = .ok (.return_, 1) := by decide +kernel
abbrev cX10_cutAll : ByteArray := prog_12_method_41_code
def yX10_cutAll : MethodName := ⟨RX10, "cutAll", "(I)V"⟩
theorem dX10_cutAll_0 : decode cX10_cutAll 0 = .ok (.aload_n 0, 1) := by decide +kernel
theorem dX10_cutAll_1 : decode cX10_cutAll 1 = .ok (.iconst 0, 1) := by decide +kernel
theorem dX10_cutAll_2 : decode cX10_cutAll 2 = .ok (.putfield 176, 3) := by decide +kernel
theorem dX10_cutAll_5 : decode cX10_cutAll 5 = .ok (.aload_n 0, 1) := by decide +kernel
theorem dX10_cutAll_6 : decode cX10_cutAll 6 = .ok (.lconst 0, 1) := by decide +kernel
theorem dX10_cutAll_7 : decode cX10_cutAll 7 = .ok (.lconst 1, 1) := by decide +kernel
theorem dX10_cutAll_8 : decode cX10_cutAll 8 = .ok (.invokevirtual 183, 3) := by decide +kernel
theorem dX10_cutAll_11 : decode cX10_cutAll 11 = .ok (.aload_n 0, 1) := by decide +kernel
theorem dX10_cutAll_12 : decode cX10_cutAll 12 = .ok (.lconst 1, 1) := by decide +kernel
theorem dX10_cutAll_13 : decode cX10_cutAll 13 = .ok (.lconst 1, 1) := by decide +kernel
theorem dX10_cutAll_14 : decode cX10_cutAll 14 = .ok (.invokevirtual 183, 3) := by decide +kernel
theorem dX10_cutAll_17 : decode cX10_cutAll 17 = .ok (.iconst 0, 1) := by decide +kernel
theorem dX10_cutAll_18 : decode cX10_cutAll 18 = .ok (.istore_n 2, 1) := by decide +kernel
theorem dX10_cutAll_19 : decode cX10_cutAll 19 = .ok (.iload_n 2, 1) := by decide +kernel
theorem dX10_cutAll_20 : decode cX10_cutAll 20 = .ok (.iconst 2, 1) := by decide +kernel
theorem dX10_cutAll_21 : decode cX10_cutAll 21 = .ok (.if_icmp .ge 56, 3) := by decide +kernel
theorem dX10_cutAll_24 : decode cX10_cutAll 24 = .ok (.sipush 2048, 3) := by decide +kernel
theorem dX10_cutAll_27 : decode cX10_cutAll 27 = .ok (.iload_n 2, 1) := by decide +kernel
theorem dX10_cutAll_28 : decode cX10_cutAll 28 = .ok (.imul, 1) := by decide +kernel
theorem dX10_cutAll_29 : decode cX10_cutAll 29 = .ok (.istore_n 3, 1) := by decide +kernel
theorem dX10_cutAll_30 : decode cX10_cutAll 30 = .ok (.iload_n 3, 1) := by decide +kernel
theorem dX10_cutAll_31 : decode cX10_cutAll 31 = .ok (.sipush 2048, 3) := by decide +kernel
theorem dX10_cutAll_34 : decode cX10_cutAll 34 = .ok (.iload_n 2, 1) := by decide +kernel
theorem dX10_cutAll_35 : decode cX10_cutAll 35 = .ok (.imul, 1) := by decide +kernel
theorem dX10_cutAll_36 : decode cX10_cutAll 36 = .ok (.aload_n 0, 1) := by decide +kernel
theorem dX10_cutAll_37 : decode cX10_cutAll 37 = .ok (.getfield 13, 3) := by decide +kernel
theorem dX10_cutAll_40 : decode cX10_cutAll 40 = .ok (.iload_n 2, 1) := by decide +kernel
theorem dX10_cutAll_41 : decode cX10_cutAll 41 = .ok (.iaload, 1) := by decide +kernel
theorem dX10_cutAll_42 : decode cX10_cutAll 42 = .ok (.iadd, 1) := by decide +kernel
theorem dX10_cutAll_43 : decode cX10_cutAll 43 = .ok (.if_icmp .ge 28, 3) := by decide +kernel
theorem dX10_cutAll_46 : decode cX10_cutAll 46 = .ok (.aload_n 0, 1) := by decide +kernel
theorem dX10_cutAll_47 : decode cX10_cutAll 47 = .ok (.iload_n 3, 1) := by decide +kernel
theorem dX10_cutAll_48 : decode cX10_cutAll 48 = .ok (.invokevirtual 186, 3) := by decide +kernel
theorem dX10_cutAll_51 : decode cX10_cutAll 51 = .ok (.aload_n 0, 1) := by decide +kernel
theorem dX10_cutAll_52 : decode cX10_cutAll 52 = .ok (.iload_n 1, 1) := by decide +kernel
theorem dX10_cutAll_53 : decode cX10_cutAll 53 = .ok (.invokevirtual 141, 3) := by decide +kernel
theorem dX10_cutAll_56 : decode cX10_cutAll 56 = .ok (.ifCond .eq 9, 3) := by decide +kernel
theorem dX10_cutAll_59 : decode cX10_cutAll 59 = .ok (.aload_n 0, 1) := by decide +kernel
theorem dX10_cutAll_60 : decode cX10_cutAll 60 = .ok (.iload_n 1, 1) := by decide +kernel
theorem dX10_cutAll_61 : decode cX10_cutAll 61 = .ok (.iload_n 3, 1) := by decide +kernel
theorem dX10_cutAll_62 : decode cX10_cutAll 62 = .ok (.invokevirtual 189, 3) := by decide +kernel
theorem dX10_cutAll_65 : decode cX10_cutAll 65 = .ok (.iinc 3 1, 3) := by decide +kernel
theorem dX10_cutAll_68 : decode cX10_cutAll 68 = .ok (.goto (-38), 3) := by decide +kernel
theorem dX10_cutAll_71 : decode cX10_cutAll 71 = .ok (.iinc 2 1, 3) := by decide +kernel
theorem dX10_cutAll_74 : decode cX10_cutAll 74 = .ok (.goto (-55), 3) := by decide +kernel
theorem dX10_cutAll_77 : decode cX10_cutAll 77 = .ok (.iconst 0, 1) := by decide +kernel
theorem dX10_cutAll_78 : decode cX10_cutAll 78 = .ok (.istore_n 2, 1) := by decide +kernel
theorem dX10_cutAll_79 : decode cX10_cutAll 79 = .ok (.iload_n 2, 1) := by decide +kernel
theorem dX10_cutAll_80 : decode cX10_cutAll 80 = .ok (.aload_n 0, 1) := by decide +kernel
theorem dX10_cutAll_81 : decode cX10_cutAll 81 = .ok (.getfield 79, 3) := by decide +kernel
theorem dX10_cutAll_84 : decode cX10_cutAll 84 = .ok (.if_icmp .ge 15, 3) := by decide +kernel
theorem dX10_cutAll_87 : decode cX10_cutAll 87 = .ok (.aload_n 0, 1) := by decide +kernel
theorem dX10_cutAll_88 : decode cX10_cutAll 88 = .ok (.iload_n 1, 1) := by decide +kernel
theorem dX10_cutAll_89 : decode cX10_cutAll 89 = .ok (.iload_n 2, 1) := by decide +kernel
theorem dX10_cutAll_90 : decode cX10_cutAll 90 = .ok (.invokevirtual 193, 3) := by decide +kernel
theorem dX10_cutAll_93 : decode cX10_cutAll 93 = .ok (.iinc 2 1, 3) := by decide +kernel
theorem dX10_cutAll_96 : decode cX10_cutAll 96 = .ok (.goto (-17), 3) := by decide +kernel
theorem dX10_cutAll_99 : decode cX10_cutAll 99 = .ok (.return_, 1) := by decide +kernel
abbrev cX10_cut : ByteArray := prog_12_method_37_code
def yX10_cut : MethodName := ⟨RX10, "cut", "(JJ)V"⟩
theorem dX10_cut_0 : decode cX10_cut 0 = .ok (.aload_n 0, 1) := by decide +kernel
theorem dX10_cut_1 : decode cX10_cut 1 = .ok (.getfield 176, 3) := by decide +kernel
theorem dX10_cut_4 : decode cX10_cut 4 = .ok (.istore 5, 2) := by decide +kernel
theorem dX10_cut_6 : decode cX10_cut 6 = .ok (.iconst 1, 1) := by decide +kernel
theorem dX10_cut_7 : decode cX10_cut 7 = .ok (.istore 6, 2) := by decide +kernel
theorem dX10_cut_9 : decode cX10_cut 9 = .ok (.iload 5, 2) := by decide +kernel
theorem dX10_cut_11 : decode cX10_cut 11 = .ok (.ifCond .le 62, 3) := by decide +kernel
theorem dX10_cut_14 : decode cX10_cut 14 = .ok (.iload 6, 2) := by decide +kernel
theorem dX10_cut_16 : decode cX10_cut 16 = .ok (.ifCond .eq 57, 3) := by decide +kernel
theorem dX10_cut_19 : decode cX10_cut 19 = .ok (.lload_n 1, 1) := by decide +kernel
theorem dX10_cut_20 : decode cX10_cut 20 = .ok (.lload_n 3, 1) := by decide +kernel
theorem dX10_cut_21 : decode cX10_cut 21 = .ok (.aload_n 0, 1) := by decide +kernel
theorem dX10_cut_22 : decode cX10_cut 22 = .ok (.getfield 48, 3) := by decide +kernel
theorem dX10_cut_25 : decode cX10_cut 25 = .ok (.iload 5, 2) := by decide +kernel
theorem dX10_cut_27 : decode cX10_cut 27 = .ok (.iconst 1, 1) := by decide +kernel
theorem dX10_cut_28 : decode cX10_cut 28 = .ok (.isub, 1) := by decide +kernel
theorem dX10_cut_29 : decode cX10_cut 29 = .ok (.laload, 1) := by decide +kernel
theorem dX10_cut_30 : decode cX10_cut 30 = .ok (.aload_n 0, 1) := by decide +kernel
theorem dX10_cut_31 : decode cX10_cut 31 = .ok (.getfield 51, 3) := by decide +kernel
theorem dX10_cut_34 : decode cX10_cut 34 = .ok (.iload 5, 2) := by decide +kernel
theorem dX10_cut_36 : decode cX10_cut 36 = .ok (.iconst 1, 1) := by decide +kernel
theorem dX10_cut_37 : decode cX10_cut 37 = .ok (.isub, 1) := by decide +kernel
theorem dX10_cut_38 : decode cX10_cut 38 = .ok (.laload, 1) := by decide +kernel
theorem dX10_cut_39 : decode cX10_cut 39 = .ok (.invokestatic 179, 3) := by decide +kernel
theorem dX10_cut_42 : decode cX10_cut 42 = .ok (.istore 7, 2) := by decide +kernel
theorem dX10_cut_44 : decode cX10_cut 44 = .ok (.iload 7, 2) := by decide +kernel
theorem dX10_cut_46 : decode cX10_cut 46 = .ok (.ifCond .ne 4, 3) := by decide +kernel
theorem dX10_cut_49 : decode cX10_cut 49 = .ok (.return_, 1) := by decide +kernel
theorem dX10_cut_50 : decode cX10_cut 50 = .ok (.iload 7, 2) := by decide +kernel
theorem dX10_cut_52 : decode cX10_cut 52 = .ok (.ifCond .ge 7, 3) := by decide +kernel
theorem dX10_cut_55 : decode cX10_cut 55 = .ok (.iconst 1, 1) := by decide +kernel
theorem dX10_cut_56 : decode cX10_cut 56 = .ok (.goto 4, 3) := by decide +kernel
theorem dX10_cut_59 : decode cX10_cut 59 = .ok (.iconst 0, 1) := by decide +kernel
theorem dX10_cut_60 : decode cX10_cut 60 = .ok (.istore 6, 2) := by decide +kernel
theorem dX10_cut_62 : decode cX10_cut 62 = .ok (.iload 6, 2) := by decide +kernel
theorem dX10_cut_64 : decode cX10_cut 64 = .ok (.ifCond .eq 6, 3) := by decide +kernel
theorem dX10_cut_67 : decode cX10_cut 67 = .ok (.iinc 5 (-1), 3) := by decide +kernel
theorem dX10_cut_70 : decode cX10_cut 70 = .ok (.goto (-61), 3) := by decide +kernel
theorem dX10_cut_73 : decode cX10_cut 73 = .ok (.aload_n 0, 1) := by decide +kernel
theorem dX10_cut_74 : decode cX10_cut 74 = .ok (.getfield 176, 3) := by decide +kernel
theorem dX10_cut_77 : decode cX10_cut 77 = .ok (.istore 7, 2) := by decide +kernel
theorem dX10_cut_79 : decode cX10_cut 79 = .ok (.iload 7, 2) := by decide +kernel
theorem dX10_cut_81 : decode cX10_cut 81 = .ok (.iload 5, 2) := by decide +kernel
theorem dX10_cut_83 : decode cX10_cut 83 = .ok (.if_icmp .le 41, 3) := by decide +kernel
theorem dX10_cut_86 : decode cX10_cut 86 = .ok (.aload_n 0, 1) := by decide +kernel
theorem dX10_cut_87 : decode cX10_cut 87 = .ok (.getfield 48, 3) := by decide +kernel
theorem dX10_cut_90 : decode cX10_cut 90 = .ok (.iload 7, 2) := by decide +kernel
theorem dX10_cut_92 : decode cX10_cut 92 = .ok (.aload_n 0, 1) := by decide +kernel
theorem dX10_cut_93 : decode cX10_cut 93 = .ok (.getfield 48, 3) := by decide +kernel
theorem dX10_cut_96 : decode cX10_cut 96 = .ok (.iload 7, 2) := by decide +kernel
theorem dX10_cut_98 : decode cX10_cut 98 = .ok (.iconst 1, 1) := by decide +kernel
theorem dX10_cut_99 : decode cX10_cut 99 = .ok (.isub, 1) := by decide +kernel
theorem dX10_cut_100 : decode cX10_cut 100 = .ok (.laload, 1) := by decide +kernel
theorem dX10_cut_101 : decode cX10_cut 101 = .ok (.lastore, 1) := by decide +kernel
theorem dX10_cut_102 : decode cX10_cut 102 = .ok (.aload_n 0, 1) := by decide +kernel
theorem dX10_cut_103 : decode cX10_cut 103 = .ok (.getfield 51, 3) := by decide +kernel
theorem dX10_cut_106 : decode cX10_cut 106 = .ok (.iload 7, 2) := by decide +kernel
theorem dX10_cut_108 : decode cX10_cut 108 = .ok (.aload_n 0, 1) := by decide +kernel
theorem dX10_cut_109 : decode cX10_cut 109 = .ok (.getfield 51, 3) := by decide +kernel
theorem dX10_cut_112 : decode cX10_cut 112 = .ok (.iload 7, 2) := by decide +kernel
theorem dX10_cut_114 : decode cX10_cut 114 = .ok (.iconst 1, 1) := by decide +kernel
theorem dX10_cut_115 : decode cX10_cut 115 = .ok (.isub, 1) := by decide +kernel
theorem dX10_cut_116 : decode cX10_cut 116 = .ok (.laload, 1) := by decide +kernel
theorem dX10_cut_117 : decode cX10_cut 117 = .ok (.lastore, 1) := by decide +kernel
theorem dX10_cut_118 : decode cX10_cut 118 = .ok (.iinc 7 (-1), 3) := by decide +kernel
theorem dX10_cut_121 : decode cX10_cut 121 = .ok (.goto (-42), 3) := by decide +kernel
theorem dX10_cut_124 : decode cX10_cut 124 = .ok (.aload_n 0, 1) := by decide +kernel
theorem dX10_cut_125 : decode cX10_cut 125 = .ok (.getfield 48, 3) := by decide +kernel
theorem dX10_cut_128 : decode cX10_cut 128 = .ok (.iload 5, 2) := by decide +kernel
theorem dX10_cut_130 : decode cX10_cut 130 = .ok (.lload_n 1, 1) := by decide +kernel
theorem dX10_cut_131 : decode cX10_cut 131 = .ok (.lastore, 1) := by decide +kernel
theorem dX10_cut_132 : decode cX10_cut 132 = .ok (.aload_n 0, 1) := by decide +kernel
theorem dX10_cut_133 : decode cX10_cut 133 = .ok (.getfield 51, 3) := by decide +kernel
theorem dX10_cut_136 : decode cX10_cut 136 = .ok (.iload 5, 2) := by decide +kernel
theorem dX10_cut_138 : decode cX10_cut 138 = .ok (.lload_n 3, 1) := by decide +kernel
theorem dX10_cut_139 : decode cX10_cut 139 = .ok (.lastore, 1) := by decide +kernel
theorem dX10_cut_140 : decode cX10_cut 140 = .ok (.aload_n 0, 1) := by decide +kernel
theorem dX10_cut_141 : decode cX10_cut 141 = .ok (.dup, 1) := by decide +kernel
theorem dX10_cut_142 : decode cX10_cut 142 = .ok (.getfield 176, 3) := by decide +kernel
theorem dX10_cut_145 : decode cX10_cut 145 = .ok (.iconst 1, 1) := by decide +kernel
theorem dX10_cut_146 : decode cX10_cut 146 = .ok (.iadd, 1) := by decide +kernel
theorem dX10_cut_147 : decode cX10_cut 147 = .ok (.putfield 176, 3) := by decide +kernel
theorem dX10_cut_150 : decode cX10_cut 150 = .ok (.return_, 1) := by decide +kernel
abbrev cX10_compare : ByteArray := prog_12_method_36_code
def yX10_compare : MethodName := ⟨RX10, "compare", "(JJJJ)I"⟩
theorem dX10_compare_0 : decode cX10_compare 0 = .ok (.lload_n 0, 1) := by decide +kernel
theorem dX10_compare_1 : decode cX10_compare 1 = .ok (.lstore 8, 2) := by decide +kernel
theorem dX10_compare_3 : decode cX10_compare 3 = .ok (.lload_n 2, 1) := by decide +kernel
theorem dX10_compare_4 : decode cX10_compare 4 = .ok (.lstore 10, 2) := by decide +kernel
theorem dX10_compare_6 : decode cX10_compare 6 = .ok (.lload 4, 2) := by decide +kernel
theorem dX10_compare_8 : decode cX10_compare 8 = .ok (.lstore 12, 2) := by decide +kernel
theorem dX10_compare_10 : decode cX10_compare 10 = .ok (.lload 6, 2) := by decide +kernel
theorem dX10_compare_12 : decode cX10_compare 12 = .ok (.lstore 14, 2) := by decide +kernel
theorem dX10_compare_14 : decode cX10_compare 14 = .ok (.iconst 1, 1) := by decide +kernel
theorem dX10_compare_15 : decode cX10_compare 15 = .ok (.istore 16, 2) := by decide +kernel
theorem dX10_compare_17 : decode cX10_compare 17 = .ok (.iconst 1, 1) := by decide +kernel
theorem dX10_compare_18 : decode cX10_compare 18 = .ok (.istore 17, 2) := by decide +kernel
theorem dX10_compare_20 : decode cX10_compare 20 = .ok (.iconst 0, 1) := by decide +kernel
theorem dX10_compare_21 : decode cX10_compare 21 = .ok (.istore 18, 2) := by decide +kernel
theorem dX10_compare_23 : decode cX10_compare 23 = .ok (.iload 17, 2) := by decide +kernel
theorem dX10_compare_25 : decode cX10_compare 25 = .ok (.ifCond .eq 143, 3) := by decide +kernel
theorem dX10_compare_28 : decode cX10_compare 28 = .ok (.lload 8, 2) := by decide +kernel
theorem dX10_compare_30 : decode cX10_compare 30 = .ok (.lload 10, 2) := by decide +kernel
theorem dX10_compare_32 : decode cX10_compare 32 = .ok (.ldiv, 1) := by decide +kernel
theorem dX10_compare_33 : decode cX10_compare 33 = .ok (.lstore 19, 2) := by decide +kernel
theorem dX10_compare_35 : decode cX10_compare 35 = .ok (.lload 12, 2) := by decide +kernel
theorem dX10_compare_37 : decode cX10_compare 37 = .ok (.lload 14, 2) := by decide +kernel
theorem dX10_compare_39 : decode cX10_compare 39 = .ok (.ldiv, 1) := by decide +kernel
theorem dX10_compare_40 : decode cX10_compare 40 = .ok (.lstore 21, 2) := by decide +kernel
theorem dX10_compare_42 : decode cX10_compare 42 = .ok (.lload 19, 2) := by decide +kernel
theorem dX10_compare_44 : decode cX10_compare 44 = .ok (.lload 21, 2) := by decide +kernel
theorem dX10_compare_46 : decode cX10_compare 46 = .ok (.lcmp, 1) := by decide +kernel
theorem dX10_compare_47 : decode cX10_compare 47 = .ok (.ifCond .eq 20, 3) := by decide +kernel
theorem dX10_compare_50 : decode cX10_compare 50 = .ok (.lload 19, 2) := by decide +kernel
theorem dX10_compare_52 : decode cX10_compare 52 = .ok (.lload 21, 2) := by decide +kernel
theorem dX10_compare_54 : decode cX10_compare 54 = .ok (.lcmp, 1) := by decide +kernel
theorem dX10_compare_55 : decode cX10_compare 55 = .ok (.ifCond .ge 9, 3) := by decide +kernel
theorem dX10_compare_58 : decode cX10_compare 58 = .ok (.iload 16, 2) := by decide +kernel
theorem dX10_compare_60 : decode cX10_compare 60 = .ok (.ineg, 1) := by decide +kernel
theorem dX10_compare_61 : decode cX10_compare 61 = .ok (.goto 5, 3) := by decide +kernel
theorem dX10_compare_64 : decode cX10_compare 64 = .ok (.iload 16, 2) := by decide +kernel
theorem dX10_compare_66 : decode cX10_compare 66 = .ok (.ireturn, 1) := by decide +kernel
theorem dX10_compare_67 : decode cX10_compare 67 = .ok (.lload 8, 2) := by decide +kernel
theorem dX10_compare_69 : decode cX10_compare 69 = .ok (.lload 10, 2) := by decide +kernel
theorem dX10_compare_71 : decode cX10_compare 71 = .ok (.lrem, 1) := by decide +kernel
theorem dX10_compare_72 : decode cX10_compare 72 = .ok (.lstore 8, 2) := by decide +kernel
theorem dX10_compare_74 : decode cX10_compare 74 = .ok (.lload 12, 2) := by decide +kernel
theorem dX10_compare_76 : decode cX10_compare 76 = .ok (.lload 14, 2) := by decide +kernel
theorem dX10_compare_78 : decode cX10_compare 78 = .ok (.lrem, 1) := by decide +kernel
theorem dX10_compare_79 : decode cX10_compare 79 = .ok (.lstore 12, 2) := by decide +kernel
theorem dX10_compare_81 : decode cX10_compare 81 = .ok (.lload 8, 2) := by decide +kernel
theorem dX10_compare_83 : decode cX10_compare 83 = .ok (.lconst 0, 1) := by decide +kernel
theorem dX10_compare_84 : decode cX10_compare 84 = .ok (.lcmp, 1) := by decide +kernel
theorem dX10_compare_85 : decode cX10_compare 85 = .ok (.ifCond .eq 14, 3) := by decide +kernel
theorem dX10_compare_88 : decode cX10_compare 88 = .ok (.lload 12, 2) := by decide +kernel
theorem dX10_compare_90 : decode cX10_compare 90 = .ok (.lconst 0, 1) := by decide +kernel
theorem dX10_compare_91 : decode cX10_compare 91 = .ok (.lcmp, 1) := by decide +kernel
theorem dX10_compare_92 : decode cX10_compare 92 = .ok (.ifCond .eq 7, 3) := by decide +kernel
theorem dX10_compare_95 : decode cX10_compare 95 = .ok (.iconst 1, 1) := by decide +kernel
theorem dX10_compare_96 : decode cX10_compare 96 = .ok (.goto 4, 3) := by decide +kernel
theorem dX10_compare_99 : decode cX10_compare 99 = .ok (.iconst 0, 1) := by decide +kernel
theorem dX10_compare_100 : decode cX10_compare 100 = .ok (.istore 17, 2) := by decide +kernel
theorem dX10_compare_102 : decode cX10_compare 102 = .ok (.iload 17, 2) := by decide +kernel
theorem dX10_compare_104 : decode cX10_compare 104 = .ok (.ifCond .ne 32, 3) := by decide +kernel
theorem dX10_compare_107 : decode cX10_compare 107 = .ok (.lload 8, 2) := by decide +kernel
theorem dX10_compare_109 : decode cX10_compare 109 = .ok (.lload 12, 2) := by decide +kernel
theorem dX10_compare_111 : decode cX10_compare 111 = .ok (.lcmp, 1) := by decide +kernel
theorem dX10_compare_112 : decode cX10_compare 112 = .ok (.ifCond .ne 7, 3) := by decide +kernel
theorem dX10_compare_115 : decode cX10_compare 115 = .ok (.iconst 0, 1) := by decide +kernel
theorem dX10_compare_116 : decode cX10_compare 116 = .ok (.goto 18, 3) := by decide +kernel
theorem dX10_compare_119 : decode cX10_compare 119 = .ok (.lload 8, 2) := by decide +kernel
theorem dX10_compare_121 : decode cX10_compare 121 = .ok (.lconst 0, 1) := by decide +kernel
theorem dX10_compare_122 : decode cX10_compare 122 = .ok (.lcmp, 1) := by decide +kernel
theorem dX10_compare_123 : decode cX10_compare 123 = .ok (.ifCond .ne 9, 3) := by decide +kernel
theorem dX10_compare_126 : decode cX10_compare 126 = .ok (.iload 16, 2) := by decide +kernel
theorem dX10_compare_128 : decode cX10_compare 128 = .ok (.ineg, 1) := by decide +kernel
theorem dX10_compare_129 : decode cX10_compare 129 = .ok (.goto 5, 3) := by decide +kernel
theorem dX10_compare_132 : decode cX10_compare 132 = .ok (.iload 16, 2) := by decide +kernel
theorem dX10_compare_134 : decode cX10_compare 134 = .ok (.istore 18, 2) := by decide +kernel
theorem dX10_compare_136 : decode cX10_compare 136 = .ok (.lload 8, 2) := by decide +kernel
theorem dX10_compare_138 : decode cX10_compare 138 = .ok (.lstore 23, 2) := by decide +kernel
theorem dX10_compare_140 : decode cX10_compare 140 = .ok (.lload 10, 2) := by decide +kernel
theorem dX10_compare_142 : decode cX10_compare 142 = .ok (.lstore 8, 2) := by decide +kernel
theorem dX10_compare_144 : decode cX10_compare 144 = .ok (.lload 23, 2) := by decide +kernel
theorem dX10_compare_146 : decode cX10_compare 146 = .ok (.lstore 10, 2) := by decide +kernel
theorem dX10_compare_148 : decode cX10_compare 148 = .ok (.lload 12, 2) := by decide +kernel
theorem dX10_compare_150 : decode cX10_compare 150 = .ok (.lstore 23, 2) := by decide +kernel
theorem dX10_compare_152 : decode cX10_compare 152 = .ok (.lload 14, 2) := by decide +kernel
theorem dX10_compare_154 : decode cX10_compare 154 = .ok (.lstore 12, 2) := by decide +kernel
theorem dX10_compare_156 : decode cX10_compare 156 = .ok (.lload 23, 2) := by decide +kernel
theorem dX10_compare_158 : decode cX10_compare 158 = .ok (.lstore 14, 2) := by decide +kernel
theorem dX10_compare_160 : decode cX10_compare 160 = .ok (.iload 16, 2) := by decide +kernel
theorem dX10_compare_162 : decode cX10_compare 162 = .ok (.ineg, 1) := by decide +kernel
theorem dX10_compare_163 : decode cX10_compare 163 = .ok (.istore 16, 2) := by decide +kernel
theorem dX10_compare_165 : decode cX10_compare 165 = .ok (.goto (-142), 3) := by decide +kernel
theorem dX10_compare_168 : decode cX10_compare 168 = .ok (.iload 18, 2) := by decide +kernel
theorem dX10_compare_170 : decode cX10_compare 170 = .ok (.ireturn, 1) := by decide +kernel
abbrev cX10_cutByPoint : ByteArray := prog_12_method_39_code
def yX10_cutByPoint : MethodName := ⟨RX10, "cutByPoint", "(II)V"⟩
theorem dX10_cutByPoint_0 : decode cX10_cutByPoint 0 = .ok (.aload_n 0, 1) := by decide +kernel
theorem dX10_cutByPoint_1 : decode cX10_cutByPoint 1 = .ok (.getfield 22, 3) := by decide +kernel
theorem dX10_cutByPoint_4 : decode cX10_cutByPoint 4 = .ok (.aload_n 0, 1) := by decide +kernel
theorem dX10_cutByPoint_5 : decode cX10_cutByPoint 5 = .ok (.getfield 31, 3) := by decide +kernel
theorem dX10_cutByPoint_8 : decode cX10_cutByPoint 8 = .ok (.iload_n 1, 1) := by decide +kernel
theorem dX10_cutByPoint_9 : decode cX10_cutByPoint 9 = .ok (.iaload, 1) := by decide +kernel
theorem dX10_cutByPoint_10 : decode cX10_cutByPoint 10 = .ok (.iaload, 1) := by decide +kernel
theorem dX10_cutByPoint_11 : decode cX10_cutByPoint 11 = .ok (.i2l, 1) := by decide +kernel
theorem dX10_cutByPoint_12 : decode cX10_cutByPoint 12 = .ok (.aload_n 0, 1) := by decide +kernel
theorem dX10_cutByPoint_13 : decode cX10_cutByPoint 13 = .ok (.getfield 22, 3) := by decide +kernel
theorem dX10_cutByPoint_16 : decode cX10_cutByPoint 16 = .ok (.aload_n 0, 1) := by decide +kernel
theorem dX10_cutByPoint_17 : decode cX10_cutByPoint 17 = .ok (.getfield 28, 3) := by decide +kernel
theorem dX10_cutByPoint_20 : decode cX10_cutByPoint 20 = .ok (.iload_n 1, 1) := by decide +kernel
theorem dX10_cutByPoint_21 : decode cX10_cutByPoint 21 = .ok (.iaload, 1) := by decide +kernel
theorem dX10_cutByPoint_22 : decode cX10_cutByPoint 22 = .ok (.iaload, 1) := by decide +kernel
theorem dX10_cutByPoint_23 : decode cX10_cutByPoint 23 = .ok (.i2l, 1) := by decide +kernel
theorem dX10_cutByPoint_24 : decode cX10_cutByPoint 24 = .ok (.lsub, 1) := by decide +kernel
theorem dX10_cutByPoint_25 : decode cX10_cutByPoint 25 = .ok (.lstore_n 3, 1) := by decide +kernel
theorem dX10_cutByPoint_26 : decode cX10_cutByPoint 26 = .ok (.aload_n 0, 1) := by decide +kernel
theorem dX10_cutByPoint_27 : decode cX10_cutByPoint 27 = .ok (.getfield 25, 3) := by decide +kernel
theorem dX10_cutByPoint_30 : decode cX10_cutByPoint 30 = .ok (.aload_n 0, 1) := by decide +kernel
theorem dX10_cutByPoint_31 : decode cX10_cutByPoint 31 = .ok (.getfield 31, 3) := by decide +kernel
theorem dX10_cutByPoint_34 : decode cX10_cutByPoint 34 = .ok (.iload_n 1, 1) := by decide +kernel
theorem dX10_cutByPoint_35 : decode cX10_cutByPoint 35 = .ok (.iaload, 1) := by decide +kernel
theorem dX10_cutByPoint_36 : decode cX10_cutByPoint 36 = .ok (.iaload, 1) := by decide +kernel
theorem dX10_cutByPoint_37 : decode cX10_cutByPoint 37 = .ok (.i2l, 1) := by decide +kernel
theorem dX10_cutByPoint_38 : decode cX10_cutByPoint 38 = .ok (.aload_n 0, 1) := by decide +kernel
theorem dX10_cutByPoint_39 : decode cX10_cutByPoint 39 = .ok (.getfield 25, 3) := by decide +kernel
theorem dX10_cutByPoint_42 : decode cX10_cutByPoint 42 = .ok (.aload_n 0, 1) := by decide +kernel
theorem dX10_cutByPoint_43 : decode cX10_cutByPoint 43 = .ok (.getfield 28, 3) := by decide +kernel
theorem dX10_cutByPoint_46 : decode cX10_cutByPoint 46 = .ok (.iload_n 1, 1) := by decide +kernel
theorem dX10_cutByPoint_47 : decode cX10_cutByPoint 47 = .ok (.iaload, 1) := by decide +kernel
theorem dX10_cutByPoint_48 : decode cX10_cutByPoint 48 = .ok (.iaload, 1) := by decide +kernel
theorem dX10_cutByPoint_49 : decode cX10_cutByPoint 49 = .ok (.i2l, 1) := by decide +kernel
theorem dX10_cutByPoint_50 : decode cX10_cutByPoint 50 = .ok (.lsub, 1) := by decide +kernel
theorem dX10_cutByPoint_51 : decode cX10_cutByPoint 51 = .ok (.lstore 5, 2) := by decide +kernel
theorem dX10_cutByPoint_53 : decode cX10_cutByPoint 53 = .ok (.lload_n 3, 1) := by decide +kernel
theorem dX10_cutByPoint_54 : decode cX10_cutByPoint 54 = .ok (.lconst 0, 1) := by decide +kernel
theorem dX10_cutByPoint_55 : decode cX10_cutByPoint 55 = .ok (.lcmp, 1) := by decide +kernel
theorem dX10_cutByPoint_56 : decode cX10_cutByPoint 56 = .ok (.ifCond .eq 26, 3) := by decide +kernel
theorem dX10_cutByPoint_59 : decode cX10_cutByPoint 59 = .ok (.aload_n 0, 1) := by decide +kernel
theorem dX10_cutByPoint_60 : decode cX10_cutByPoint 60 = .ok (.getfield 22, 3) := by decide +kernel
theorem dX10_cutByPoint_63 : decode cX10_cutByPoint 63 = .ok (.iload_n 2, 1) := by decide +kernel
theorem dX10_cutByPoint_64 : decode cX10_cutByPoint 64 = .ok (.iaload, 1) := by decide +kernel
theorem dX10_cutByPoint_65 : decode cX10_cutByPoint 65 = .ok (.i2l, 1) := by decide +kernel
theorem dX10_cutByPoint_66 : decode cX10_cutByPoint 66 = .ok (.aload_n 0, 1) := by decide +kernel
theorem dX10_cutByPoint_67 : decode cX10_cutByPoint 67 = .ok (.getfield 22, 3) := by decide +kernel
theorem dX10_cutByPoint_70 : decode cX10_cutByPoint 70 = .ok (.aload_n 0, 1) := by decide +kernel
theorem dX10_cutByPoint_71 : decode cX10_cutByPoint 71 = .ok (.getfield 28, 3) := by decide +kernel
theorem dX10_cutByPoint_74 : decode cX10_cutByPoint 74 = .ok (.iload_n 1, 1) := by decide +kernel
theorem dX10_cutByPoint_75 : decode cX10_cutByPoint 75 = .ok (.iaload, 1) := by decide +kernel
theorem dX10_cutByPoint_76 : decode cX10_cutByPoint 76 = .ok (.iaload, 1) := by decide +kernel
theorem dX10_cutByPoint_77 : decode cX10_cutByPoint 77 = .ok (.i2l, 1) := by decide +kernel
theorem dX10_cutByPoint_78 : decode cX10_cutByPoint 78 = .ok (.lsub, 1) := by decide +kernel
theorem dX10_cutByPoint_79 : decode cX10_cutByPoint 79 = .ok (.goto 23, 3) := by decide +kernel
theorem dX10_cutByPoint_82 : decode cX10_cutByPoint 82 = .ok (.aload_n 0, 1) := by decide +kernel
theorem dX10_cutByPoint_83 : decode cX10_cutByPoint 83 = .ok (.getfield 25, 3) := by decide +kernel
theorem dX10_cutByPoint_86 : decode cX10_cutByPoint 86 = .ok (.iload_n 2, 1) := by decide +kernel
theorem dX10_cutByPoint_87 : decode cX10_cutByPoint 87 = .ok (.iaload, 1) := by decide +kernel
theorem dX10_cutByPoint_88 : decode cX10_cutByPoint 88 = .ok (.i2l, 1) := by decide +kernel
theorem dX10_cutByPoint_89 : decode cX10_cutByPoint 89 = .ok (.aload_n 0, 1) := by decide +kernel
theorem dX10_cutByPoint_90 : decode cX10_cutByPoint 90 = .ok (.getfield 25, 3) := by decide +kernel
theorem dX10_cutByPoint_93 : decode cX10_cutByPoint 93 = .ok (.aload_n 0, 1) := by decide +kernel
theorem dX10_cutByPoint_94 : decode cX10_cutByPoint 94 = .ok (.getfield 28, 3) := by decide +kernel
theorem dX10_cutByPoint_97 : decode cX10_cutByPoint 97 = .ok (.iload_n 1, 1) := by decide +kernel
theorem dX10_cutByPoint_98 : decode cX10_cutByPoint 98 = .ok (.iaload, 1) := by decide +kernel
theorem dX10_cutByPoint_99 : decode cX10_cutByPoint 99 = .ok (.iaload, 1) := by decide +kernel
theorem dX10_cutByPoint_100 : decode cX10_cutByPoint 100 = .ok (.i2l, 1) := by decide +kernel
theorem dX10_cutByPoint_101 : decode cX10_cutByPoint 101 = .ok (.lsub, 1) := by decide +kernel
theorem dX10_cutByPoint_102 : decode cX10_cutByPoint 102 = .ok (.lstore 7, 2) := by decide +kernel
theorem dX10_cutByPoint_104 : decode cX10_cutByPoint 104 = .ok (.lload_n 3, 1) := by decide +kernel
theorem dX10_cutByPoint_105 : decode cX10_cutByPoint 105 = .ok (.lconst 0, 1) := by decide +kernel
theorem dX10_cutByPoint_106 : decode cX10_cutByPoint 106 = .ok (.lcmp, 1) := by decide +kernel
theorem dX10_cutByPoint_107 : decode cX10_cutByPoint 107 = .ok (.ifCond .eq 7, 3) := by decide +kernel
theorem dX10_cutByPoint_110 : decode cX10_cutByPoint 110 = .ok (.lload_n 3, 1) := by decide +kernel
theorem dX10_cutByPoint_111 : decode cX10_cutByPoint 111 = .ok (.goto 5, 3) := by decide +kernel
theorem dX10_cutByPoint_114 : decode cX10_cutByPoint 114 = .ok (.lload 5, 2) := by decide +kernel
theorem dX10_cutByPoint_116 : decode cX10_cutByPoint 116 = .ok (.lstore 9, 2) := by decide +kernel
theorem dX10_cutByPoint_118 : decode cX10_cutByPoint 118 = .ok (.aload_n 0, 1) := by decide +kernel
theorem dX10_cutByPoint_119 : decode cX10_cutByPoint 119 = .ok (.lload 9, 2) := by decide +kernel
theorem dX10_cutByPoint_121 : decode cX10_cutByPoint 121 = .ok (.lconst 0, 1) := by decide +kernel
theorem dX10_cutByPoint_122 : decode cX10_cutByPoint 122 = .ok (.lcmp, 1) := by decide +kernel
theorem dX10_cutByPoint_123 : decode cX10_cutByPoint 123 = .ok (.ifCond .ge 9, 3) := by decide +kernel
theorem dX10_cutByPoint_126 : decode cX10_cutByPoint 126 = .ok (.lload 7, 2) := by decide +kernel
theorem dX10_cutByPoint_128 : decode cX10_cutByPoint 128 = .ok (.lneg, 1) := by decide +kernel
theorem dX10_cutByPoint_129 : decode cX10_cutByPoint 129 = .ok (.goto 5, 3) := by decide +kernel
theorem dX10_cutByPoint_132 : decode cX10_cutByPoint 132 = .ok (.lload 7, 2) := by decide +kernel
theorem dX10_cutByPoint_134 : decode cX10_cutByPoint 134 = .ok (.lload 9, 2) := by decide +kernel
theorem dX10_cutByPoint_136 : decode cX10_cutByPoint 136 = .ok (.lconst 0, 1) := by decide +kernel
theorem dX10_cutByPoint_137 : decode cX10_cutByPoint 137 = .ok (.lcmp, 1) := by decide +kernel
theorem dX10_cutByPoint_138 : decode cX10_cutByPoint 138 = .ok (.ifCond .ge 9, 3) := by decide +kernel
theorem dX10_cutByPoint_141 : decode cX10_cutByPoint 141 = .ok (.lload 9, 2) := by decide +kernel
theorem dX10_cutByPoint_143 : decode cX10_cutByPoint 143 = .ok (.lneg, 1) := by decide +kernel
theorem dX10_cutByPoint_144 : decode cX10_cutByPoint 144 = .ok (.goto 5, 3) := by decide +kernel
theorem dX10_cutByPoint_147 : decode cX10_cutByPoint 147 = .ok (.lload 9, 2) := by decide +kernel
theorem dX10_cutByPoint_149 : decode cX10_cutByPoint 149 = .ok (.invokevirtual 183, 3) := by decide +kernel
theorem dX10_cutByPoint_152 : decode cX10_cutByPoint 152 = .ok (.return_, 1) := by decide +kernel
abbrev cX10_cutBySegment : ByteArray := prog_12_method_40_code
def yX10_cutBySegment : MethodName := ⟨RX10, "cutBySegment", "(II)V"⟩
theorem dX10_cutBySegment_0 : decode cX10_cutBySegment 0 = .ok (.aload_n 0, 1) := by decide +kernel
theorem dX10_cutBySegment_1 : decode cX10_cutBySegment 1 = .ok (.getfield 22, 3) := by decide +kernel
theorem dX10_cutBySegment_4 : decode cX10_cutBySegment 4 = .ok (.aload_n 0, 1) := by decide +kernel
theorem dX10_cutBySegment_5 : decode cX10_cutBySegment 5 = .ok (.getfield 31, 3) := by decide +kernel
theorem dX10_cutBySegment_8 : decode cX10_cutBySegment 8 = .ok (.iload_n 1, 1) := by decide +kernel
theorem dX10_cutBySegment_9 : decode cX10_cutBySegment 9 = .ok (.iaload, 1) := by decide +kernel
theorem dX10_cutBySegment_10 : decode cX10_cutBySegment 10 = .ok (.iaload, 1) := by decide +kernel
theorem dX10_cutBySegment_11 : decode cX10_cutBySegment 11 = .ok (.i2l, 1) := by decide +kernel
theorem dX10_cutBySegment_12 : decode cX10_cutBySegment 12 = .ok (.aload_n 0, 1) := by decide +kernel
theorem dX10_cutBySegment_13 : decode cX10_cutBySegment 13 = .ok (.getfield 22, 3) := by decide +kernel
theorem dX10_cutBySegment_16 : decode cX10_cutBySegment 16 = .ok (.aload_n 0, 1) := by decide +kernel
theorem dX10_cutBySegment_17 : decode cX10_cutBySegment 17 = .ok (.getfield 28, 3) := by decide +kernel
theorem dX10_cutBySegment_20 : decode cX10_cutBySegment 20 = .ok (.iload_n 1, 1) := by decide +kernel
theorem dX10_cutBySegment_21 : decode cX10_cutBySegment 21 = .ok (.iaload, 1) := by decide +kernel
theorem dX10_cutBySegment_22 : decode cX10_cutBySegment 22 = .ok (.iaload, 1) := by decide +kernel
theorem dX10_cutBySegment_23 : decode cX10_cutBySegment 23 = .ok (.i2l, 1) := by decide +kernel
theorem dX10_cutBySegment_24 : decode cX10_cutBySegment 24 = .ok (.lsub, 1) := by decide +kernel
theorem dX10_cutBySegment_25 : decode cX10_cutBySegment 25 = .ok (.lstore_n 3, 1) := by decide +kernel
theorem dX10_cutBySegment_26 : decode cX10_cutBySegment 26 = .ok (.aload_n 0, 1) := by decide +kernel
theorem dX10_cutBySegment_27 : decode cX10_cutBySegment 27 = .ok (.getfield 25, 3) := by decide +kernel
theorem dX10_cutBySegment_30 : decode cX10_cutBySegment 30 = .ok (.aload_n 0, 1) := by decide +kernel
theorem dX10_cutBySegment_31 : decode cX10_cutBySegment 31 = .ok (.getfield 31, 3) := by decide +kernel
theorem dX10_cutBySegment_34 : decode cX10_cutBySegment 34 = .ok (.iload_n 1, 1) := by decide +kernel
theorem dX10_cutBySegment_35 : decode cX10_cutBySegment 35 = .ok (.iaload, 1) := by decide +kernel
theorem dX10_cutBySegment_36 : decode cX10_cutBySegment 36 = .ok (.iaload, 1) := by decide +kernel
theorem dX10_cutBySegment_37 : decode cX10_cutBySegment 37 = .ok (.i2l, 1) := by decide +kernel
theorem dX10_cutBySegment_38 : decode cX10_cutBySegment 38 = .ok (.aload_n 0, 1) := by decide +kernel
theorem dX10_cutBySegment_39 : decode cX10_cutBySegment 39 = .ok (.getfield 25, 3) := by decide +kernel
theorem dX10_cutBySegment_42 : decode cX10_cutBySegment 42 = .ok (.aload_n 0, 1) := by decide +kernel
theorem dX10_cutBySegment_43 : decode cX10_cutBySegment 43 = .ok (.getfield 28, 3) := by decide +kernel
theorem dX10_cutBySegment_46 : decode cX10_cutBySegment 46 = .ok (.iload_n 1, 1) := by decide +kernel
theorem dX10_cutBySegment_47 : decode cX10_cutBySegment 47 = .ok (.iaload, 1) := by decide +kernel
theorem dX10_cutBySegment_48 : decode cX10_cutBySegment 48 = .ok (.iaload, 1) := by decide +kernel
theorem dX10_cutBySegment_49 : decode cX10_cutBySegment 49 = .ok (.i2l, 1) := by decide +kernel
theorem dX10_cutBySegment_50 : decode cX10_cutBySegment 50 = .ok (.lsub, 1) := by decide +kernel
theorem dX10_cutBySegment_51 : decode cX10_cutBySegment 51 = .ok (.lstore 5, 2) := by decide +kernel
theorem dX10_cutBySegment_53 : decode cX10_cutBySegment 53 = .ok (.aload_n 0, 1) := by decide +kernel
theorem dX10_cutBySegment_54 : decode cX10_cutBySegment 54 = .ok (.getfield 22, 3) := by decide +kernel
theorem dX10_cutBySegment_57 : decode cX10_cutBySegment 57 = .ok (.aload_n 0, 1) := by decide +kernel
theorem dX10_cutBySegment_58 : decode cX10_cutBySegment 58 = .ok (.getfield 31, 3) := by decide +kernel
theorem dX10_cutBySegment_61 : decode cX10_cutBySegment 61 = .ok (.iload_n 2, 1) := by decide +kernel
theorem dX10_cutBySegment_62 : decode cX10_cutBySegment 62 = .ok (.iaload, 1) := by decide +kernel
theorem dX10_cutBySegment_63 : decode cX10_cutBySegment 63 = .ok (.iaload, 1) := by decide +kernel
theorem dX10_cutBySegment_64 : decode cX10_cutBySegment 64 = .ok (.i2l, 1) := by decide +kernel
theorem dX10_cutBySegment_65 : decode cX10_cutBySegment 65 = .ok (.aload_n 0, 1) := by decide +kernel
theorem dX10_cutBySegment_66 : decode cX10_cutBySegment 66 = .ok (.getfield 22, 3) := by decide +kernel
theorem dX10_cutBySegment_69 : decode cX10_cutBySegment 69 = .ok (.aload_n 0, 1) := by decide +kernel
theorem dX10_cutBySegment_70 : decode cX10_cutBySegment 70 = .ok (.getfield 28, 3) := by decide +kernel
theorem dX10_cutBySegment_73 : decode cX10_cutBySegment 73 = .ok (.iload_n 2, 1) := by decide +kernel
theorem dX10_cutBySegment_74 : decode cX10_cutBySegment 74 = .ok (.iaload, 1) := by decide +kernel
theorem dX10_cutBySegment_75 : decode cX10_cutBySegment 75 = .ok (.iaload, 1) := by decide +kernel
theorem dX10_cutBySegment_76 : decode cX10_cutBySegment 76 = .ok (.i2l, 1) := by decide +kernel
theorem dX10_cutBySegment_77 : decode cX10_cutBySegment 77 = .ok (.lsub, 1) := by decide +kernel
theorem dX10_cutBySegment_78 : decode cX10_cutBySegment 78 = .ok (.lstore 7, 2) := by decide +kernel
theorem dX10_cutBySegment_80 : decode cX10_cutBySegment 80 = .ok (.aload_n 0, 1) := by decide +kernel
theorem dX10_cutBySegment_81 : decode cX10_cutBySegment 81 = .ok (.getfield 25, 3) := by decide +kernel
theorem dX10_cutBySegment_84 : decode cX10_cutBySegment 84 = .ok (.aload_n 0, 1) := by decide +kernel
theorem dX10_cutBySegment_85 : decode cX10_cutBySegment 85 = .ok (.getfield 31, 3) := by decide +kernel
theorem dX10_cutBySegment_88 : decode cX10_cutBySegment 88 = .ok (.iload_n 2, 1) := by decide +kernel
theorem dX10_cutBySegment_89 : decode cX10_cutBySegment 89 = .ok (.iaload, 1) := by decide +kernel
theorem dX10_cutBySegment_90 : decode cX10_cutBySegment 90 = .ok (.iaload, 1) := by decide +kernel
theorem dX10_cutBySegment_91 : decode cX10_cutBySegment 91 = .ok (.i2l, 1) := by decide +kernel
theorem dX10_cutBySegment_92 : decode cX10_cutBySegment 92 = .ok (.aload_n 0, 1) := by decide +kernel
theorem dX10_cutBySegment_93 : decode cX10_cutBySegment 93 = .ok (.getfield 25, 3) := by decide +kernel
theorem dX10_cutBySegment_96 : decode cX10_cutBySegment 96 = .ok (.aload_n 0, 1) := by decide +kernel
theorem dX10_cutBySegment_97 : decode cX10_cutBySegment 97 = .ok (.getfield 28, 3) := by decide +kernel
theorem dX10_cutBySegment_100 : decode cX10_cutBySegment 100 = .ok (.iload_n 2, 1) := by decide +kernel
theorem dX10_cutBySegment_101 : decode cX10_cutBySegment 101 = .ok (.iaload, 1) := by decide +kernel
theorem dX10_cutBySegment_102 : decode cX10_cutBySegment 102 = .ok (.iaload, 1) := by decide +kernel
theorem dX10_cutBySegment_103 : decode cX10_cutBySegment 103 = .ok (.i2l, 1) := by decide +kernel
theorem dX10_cutBySegment_104 : decode cX10_cutBySegment 104 = .ok (.lsub, 1) := by decide +kernel
theorem dX10_cutBySegment_105 : decode cX10_cutBySegment 105 = .ok (.lstore 9, 2) := by decide +kernel
theorem dX10_cutBySegment_107 : decode cX10_cutBySegment 107 = .ok (.aload_n 0, 1) := by decide +kernel
theorem dX10_cutBySegment_108 : decode cX10_cutBySegment 108 = .ok (.getfield 22, 3) := by decide +kernel
theorem dX10_cutBySegment_111 : decode cX10_cutBySegment 111 = .ok (.aload_n 0, 1) := by decide +kernel
theorem dX10_cutBySegment_112 : decode cX10_cutBySegment 112 = .ok (.getfield 28, 3) := by decide +kernel
theorem dX10_cutBySegment_115 : decode cX10_cutBySegment 115 = .ok (.iload_n 2, 1) := by decide +kernel
theorem dX10_cutBySegment_116 : decode cX10_cutBySegment 116 = .ok (.iaload, 1) := by decide +kernel
theorem dX10_cutBySegment_117 : decode cX10_cutBySegment 117 = .ok (.iaload, 1) := by decide +kernel
theorem dX10_cutBySegment_118 : decode cX10_cutBySegment 118 = .ok (.i2l, 1) := by decide +kernel
theorem dX10_cutBySegment_119 : decode cX10_cutBySegment 119 = .ok (.aload_n 0, 1) := by decide +kernel
theorem dX10_cutBySegment_120 : decode cX10_cutBySegment 120 = .ok (.getfield 22, 3) := by decide +kernel
theorem dX10_cutBySegment_123 : decode cX10_cutBySegment 123 = .ok (.aload_n 0, 1) := by decide +kernel
theorem dX10_cutBySegment_124 : decode cX10_cutBySegment 124 = .ok (.getfield 28, 3) := by decide +kernel
theorem dX10_cutBySegment_127 : decode cX10_cutBySegment 127 = .ok (.iload_n 1, 1) := by decide +kernel
theorem dX10_cutBySegment_128 : decode cX10_cutBySegment 128 = .ok (.iaload, 1) := by decide +kernel
theorem dX10_cutBySegment_129 : decode cX10_cutBySegment 129 = .ok (.iaload, 1) := by decide +kernel
theorem dX10_cutBySegment_130 : decode cX10_cutBySegment 130 = .ok (.i2l, 1) := by decide +kernel
theorem dX10_cutBySegment_131 : decode cX10_cutBySegment 131 = .ok (.lsub, 1) := by decide +kernel
theorem dX10_cutBySegment_132 : decode cX10_cutBySegment 132 = .ok (.lstore 11, 2) := by decide +kernel
theorem dX10_cutBySegment_134 : decode cX10_cutBySegment 134 = .ok (.aload_n 0, 1) := by decide +kernel
theorem dX10_cutBySegment_135 : decode cX10_cutBySegment 135 = .ok (.getfield 25, 3) := by decide +kernel
theorem dX10_cutBySegment_138 : decode cX10_cutBySegment 138 = .ok (.aload_n 0, 1) := by decide +kernel
theorem dX10_cutBySegment_139 : decode cX10_cutBySegment 139 = .ok (.getfield 28, 3) := by decide +kernel
theorem dX10_cutBySegment_142 : decode cX10_cutBySegment 142 = .ok (.iload_n 2, 1) := by decide +kernel
theorem dX10_cutBySegment_143 : decode cX10_cutBySegment 143 = .ok (.iaload, 1) := by decide +kernel
theorem dX10_cutBySegment_144 : decode cX10_cutBySegment 144 = .ok (.iaload, 1) := by decide +kernel
theorem dX10_cutBySegment_145 : decode cX10_cutBySegment 145 = .ok (.i2l, 1) := by decide +kernel
theorem dX10_cutBySegment_146 : decode cX10_cutBySegment 146 = .ok (.aload_n 0, 1) := by decide +kernel
theorem dX10_cutBySegment_147 : decode cX10_cutBySegment 147 = .ok (.getfield 25, 3) := by decide +kernel
theorem dX10_cutBySegment_150 : decode cX10_cutBySegment 150 = .ok (.aload_n 0, 1) := by decide +kernel
theorem dX10_cutBySegment_151 : decode cX10_cutBySegment 151 = .ok (.getfield 28, 3) := by decide +kernel
theorem dX10_cutBySegment_154 : decode cX10_cutBySegment 154 = .ok (.iload_n 1, 1) := by decide +kernel
theorem dX10_cutBySegment_155 : decode cX10_cutBySegment 155 = .ok (.iaload, 1) := by decide +kernel
theorem dX10_cutBySegment_156 : decode cX10_cutBySegment 156 = .ok (.iaload, 1) := by decide +kernel
theorem dX10_cutBySegment_157 : decode cX10_cutBySegment 157 = .ok (.i2l, 1) := by decide +kernel
theorem dX10_cutBySegment_158 : decode cX10_cutBySegment 158 = .ok (.lsub, 1) := by decide +kernel
theorem dX10_cutBySegment_159 : decode cX10_cutBySegment 159 = .ok (.lstore 13, 2) := by decide +kernel
theorem dX10_cutBySegment_161 : decode cX10_cutBySegment 161 = .ok (.lload_n 3, 1) := by decide +kernel
theorem dX10_cutBySegment_162 : decode cX10_cutBySegment 162 = .ok (.lload 9, 2) := by decide +kernel
theorem dX10_cutBySegment_164 : decode cX10_cutBySegment 164 = .ok (.lmul, 1) := by decide +kernel
theorem dX10_cutBySegment_165 : decode cX10_cutBySegment 165 = .ok (.lload 5, 2) := by decide +kernel
theorem dX10_cutBySegment_167 : decode cX10_cutBySegment 167 = .ok (.lload 7, 2) := by decide +kernel
theorem dX10_cutBySegment_169 : decode cX10_cutBySegment 169 = .ok (.lmul, 1) := by decide +kernel
theorem dX10_cutBySegment_170 : decode cX10_cutBySegment 170 = .ok (.lsub, 1) := by decide +kernel
theorem dX10_cutBySegment_171 : decode cX10_cutBySegment 171 = .ok (.lstore 15, 2) := by decide +kernel
theorem dX10_cutBySegment_173 : decode cX10_cutBySegment 173 = .ok (.lload 11, 2) := by decide +kernel
theorem dX10_cutBySegment_175 : decode cX10_cutBySegment 175 = .ok (.lload 9, 2) := by decide +kernel
theorem dX10_cutBySegment_177 : decode cX10_cutBySegment 177 = .ok (.lmul, 1) := by decide +kernel
theorem dX10_cutBySegment_178 : decode cX10_cutBySegment 178 = .ok (.lload 13, 2) := by decide +kernel
theorem dX10_cutBySegment_180 : decode cX10_cutBySegment 180 = .ok (.lload 7, 2) := by decide +kernel
theorem dX10_cutBySegment_182 : decode cX10_cutBySegment 182 = .ok (.lmul, 1) := by decide +kernel
theorem dX10_cutBySegment_183 : decode cX10_cutBySegment 183 = .ok (.lsub, 1) := by decide +kernel
theorem dX10_cutBySegment_184 : decode cX10_cutBySegment 184 = .ok (.lstore 17, 2) := by decide +kernel
theorem dX10_cutBySegment_186 : decode cX10_cutBySegment 186 = .ok (.lload 11, 2) := by decide +kernel
theorem dX10_cutBySegment_188 : decode cX10_cutBySegment 188 = .ok (.lload 5, 2) := by decide +kernel
theorem dX10_cutBySegment_190 : decode cX10_cutBySegment 190 = .ok (.lmul, 1) := by decide +kernel
theorem dX10_cutBySegment_191 : decode cX10_cutBySegment 191 = .ok (.lload 13, 2) := by decide +kernel
theorem dX10_cutBySegment_193 : decode cX10_cutBySegment 193 = .ok (.lload_n 3, 1) := by decide +kernel
theorem dX10_cutBySegment_194 : decode cX10_cutBySegment 194 = .ok (.lmul, 1) := by decide +kernel
theorem dX10_cutBySegment_195 : decode cX10_cutBySegment 195 = .ok (.lsub, 1) := by decide +kernel
theorem dX10_cutBySegment_196 : decode cX10_cutBySegment 196 = .ok (.lstore 19, 2) := by decide +kernel
theorem dX10_cutBySegment_198 : decode cX10_cutBySegment 198 = .ok (.lload 15, 2) := by decide +kernel
theorem dX10_cutBySegment_200 : decode cX10_cutBySegment 200 = .ok (.lconst 0, 1) := by decide +kernel
theorem dX10_cutBySegment_201 : decode cX10_cutBySegment 201 = .ok (.lcmp, 1) := by decide +kernel
theorem dX10_cutBySegment_202 : decode cX10_cutBySegment 202 = .ok (.ifCond .ge 18, 3) := by decide +kernel
theorem dX10_cutBySegment_205 : decode cX10_cutBySegment 205 = .ok (.lload 15, 2) := by decide +kernel
theorem dX10_cutBySegment_207 : decode cX10_cutBySegment 207 = .ok (.lneg, 1) := by decide +kernel
theorem dX10_cutBySegment_208 : decode cX10_cutBySegment 208 = .ok (.lstore 15, 2) := by decide +kernel
theorem dX10_cutBySegment_210 : decode cX10_cutBySegment 210 = .ok (.lload 17, 2) := by decide +kernel
theorem dX10_cutBySegment_212 : decode cX10_cutBySegment 212 = .ok (.lneg, 1) := by decide +kernel
theorem dX10_cutBySegment_213 : decode cX10_cutBySegment 213 = .ok (.lstore 17, 2) := by decide +kernel
theorem dX10_cutBySegment_215 : decode cX10_cutBySegment 215 = .ok (.lload 19, 2) := by decide +kernel
theorem dX10_cutBySegment_217 : decode cX10_cutBySegment 217 = .ok (.lneg, 1) := by decide +kernel
theorem dX10_cutBySegment_218 : decode cX10_cutBySegment 218 = .ok (.lstore 19, 2) := by decide +kernel
theorem dX10_cutBySegment_220 : decode cX10_cutBySegment 220 = .ok (.lload 17, 2) := by decide +kernel
theorem dX10_cutBySegment_222 : decode cX10_cutBySegment 222 = .ok (.lconst 0, 1) := by decide +kernel
theorem dX10_cutBySegment_223 : decode cX10_cutBySegment 223 = .ok (.lcmp, 1) := by decide +kernel
theorem dX10_cutBySegment_224 : decode cX10_cutBySegment 224 = .ok (.ifCond .le 34, 3) := by decide +kernel
theorem dX10_cutBySegment_227 : decode cX10_cutBySegment 227 = .ok (.lload 17, 2) := by decide +kernel
theorem dX10_cutBySegment_229 : decode cX10_cutBySegment 229 = .ok (.lload 15, 2) := by decide +kernel
theorem dX10_cutBySegment_231 : decode cX10_cutBySegment 231 = .ok (.lcmp, 1) := by decide +kernel
theorem dX10_cutBySegment_232 : decode cX10_cutBySegment 232 = .ok (.ifCond .ge 26, 3) := by decide +kernel
theorem dX10_cutBySegment_235 : decode cX10_cutBySegment 235 = .ok (.lload 19, 2) := by decide +kernel
theorem dX10_cutBySegment_237 : decode cX10_cutBySegment 237 = .ok (.lconst 0, 1) := by decide +kernel
theorem dX10_cutBySegment_238 : decode cX10_cutBySegment 238 = .ok (.lcmp, 1) := by decide +kernel
theorem dX10_cutBySegment_239 : decode cX10_cutBySegment 239 = .ok (.ifCond .le 19, 3) := by decide +kernel
theorem dX10_cutBySegment_242 : decode cX10_cutBySegment 242 = .ok (.lload 19, 2) := by decide +kernel
theorem dX10_cutBySegment_244 : decode cX10_cutBySegment 244 = .ok (.lload 15, 2) := by decide +kernel
theorem dX10_cutBySegment_246 : decode cX10_cutBySegment 246 = .ok (.lcmp, 1) := by decide +kernel
theorem dX10_cutBySegment_247 : decode cX10_cutBySegment 247 = .ok (.ifCond .ge 11, 3) := by decide +kernel
theorem dX10_cutBySegment_250 : decode cX10_cutBySegment 250 = .ok (.aload_n 0, 1) := by decide +kernel
theorem dX10_cutBySegment_251 : decode cX10_cutBySegment 251 = .ok (.lload 17, 2) := by decide +kernel
theorem dX10_cutBySegment_253 : decode cX10_cutBySegment 253 = .ok (.lload 15, 2) := by decide +kernel
theorem dX10_cutBySegment_255 : decode cX10_cutBySegment 255 = .ok (.invokevirtual 183, 3) := by decide +kernel
theorem dX10_cutBySegment_258 : decode cX10_cutBySegment 258 = .ok (.return_, 1) := by decide +kernel
abbrev cX10_piece : ByteArray := prog_12_method_44_code
def yX10_piece : MethodName := ⟨RX10, "piece", "(II)V"⟩
theorem dX10_piece_0 : decode cX10_piece 0 = .ok (.aload_n 0, 1) := by decide +kernel
theorem dX10_piece_1 : decode cX10_piece 1 = .ok (.aload_n 0, 1) := by decide +kernel
theorem dX10_piece_2 : decode cX10_piece 2 = .ok (.getfield 48, 3) := by decide +kernel
theorem dX10_piece_5 : decode cX10_piece 5 = .ok (.iload_n 2, 1) := by decide +kernel
theorem dX10_piece_6 : decode cX10_piece 6 = .ok (.laload, 1) := by decide +kernel
theorem dX10_piece_7 : decode cX10_piece 7 = .ok (.aload_n 0, 1) := by decide +kernel
theorem dX10_piece_8 : decode cX10_piece 8 = .ok (.getfield 51, 3) := by decide +kernel
theorem dX10_piece_11 : decode cX10_piece 11 = .ok (.iload_n 2, 1) := by decide +kernel
theorem dX10_piece_12 : decode cX10_piece 12 = .ok (.laload, 1) := by decide +kernel
theorem dX10_piece_13 : decode cX10_piece 13 = .ok (.aload_n 0, 1) := by decide +kernel
theorem dX10_piece_14 : decode cX10_piece 14 = .ok (.getfield 48, 3) := by decide +kernel
theorem dX10_piece_17 : decode cX10_piece 17 = .ok (.iload_n 2, 1) := by decide +kernel
theorem dX10_piece_18 : decode cX10_piece 18 = .ok (.iconst 1, 1) := by decide +kernel
theorem dX10_piece_19 : decode cX10_piece 19 = .ok (.iadd, 1) := by decide +kernel
theorem dX10_piece_20 : decode cX10_piece 20 = .ok (.laload, 1) := by decide +kernel
theorem dX10_piece_21 : decode cX10_piece 21 = .ok (.aload_n 0, 1) := by decide +kernel
theorem dX10_piece_22 : decode cX10_piece 22 = .ok (.getfield 51, 3) := by decide +kernel
theorem dX10_piece_25 : decode cX10_piece 25 = .ok (.iload_n 2, 1) := by decide +kernel
theorem dX10_piece_26 : decode cX10_piece 26 = .ok (.iconst 1, 1) := by decide +kernel
theorem dX10_piece_27 : decode cX10_piece 27 = .ok (.iadd, 1) := by decide +kernel
theorem dX10_piece_28 : decode cX10_piece 28 = .ok (.laload, 1) := by decide +kernel
theorem dX10_piece_29 : decode cX10_piece 29 = .ok (.invokevirtual 196, 3) := by decide +kernel
theorem dX10_piece_32 : decode cX10_piece 32 = .ok (.aload_n 0, 1) := by decide +kernel
theorem dX10_piece_33 : decode cX10_piece 33 = .ok (.aload_n 0, 1) := by decide +kernel
theorem dX10_piece_34 : decode cX10_piece 34 = .ok (.iconst 0, 1) := by decide +kernel
theorem dX10_piece_35 : decode cX10_piece 35 = .ok (.invokevirtual 173, 3) := by decide +kernel
theorem dX10_piece_38 : decode cX10_piece 38 = .ok (.aload_n 0, 1) := by decide +kernel
theorem dX10_piece_39 : decode cX10_piece 39 = .ok (.iconst 1, 1) := by decide +kernel
theorem dX10_piece_40 : decode cX10_piece 40 = .ok (.invokevirtual 173, 3) := by decide +kernel
theorem dX10_piece_43 : decode cX10_piece 43 = .ok (.iconst 1, 1) := by decide +kernel
theorem dX10_piece_44 : decode cX10_piece 44 = .ok (.invokevirtual 199, 3) := by decide +kernel
theorem dX10_piece_47 : decode cX10_piece 47 = .ok (.aload_n 0, 1) := by decide +kernel
theorem dX10_piece_48 : decode cX10_piece 48 = .ok (.aload_n 0, 1) := by decide +kernel
theorem dX10_piece_49 : decode cX10_piece 49 = .ok (.iconst 0, 1) := by decide +kernel
theorem dX10_piece_50 : decode cX10_piece 50 = .ok (.iconst 0, 1) := by decide +kernel
theorem dX10_piece_51 : decode cX10_piece 51 = .ok (.invokevirtual 202, 3) := by decide +kernel
theorem dX10_piece_54 : decode cX10_piece 54 = .ok (.aload_n 0, 1) := by decide +kernel
theorem dX10_piece_55 : decode cX10_piece 55 = .ok (.iconst 1, 1) := by decide +kernel
theorem dX10_piece_56 : decode cX10_piece 56 = .ok (.iconst 0, 1) := by decide +kernel
theorem dX10_piece_57 : decode cX10_piece 57 = .ok (.invokevirtual 202, 3) := by decide +kernel
theorem dX10_piece_60 : decode cX10_piece 60 = .ok (.iconst 2, 1) := by decide +kernel
theorem dX10_piece_61 : decode cX10_piece 61 = .ok (.invokevirtual 199, 3) := by decide +kernel
theorem dX10_piece_64 : decode cX10_piece 64 = .ok (.aload_n 0, 1) := by decide +kernel
theorem dX10_piece_65 : decode cX10_piece 65 = .ok (.aload_n 0, 1) := by decide +kernel
theorem dX10_piece_66 : decode cX10_piece 66 = .ok (.iconst 0, 1) := by decide +kernel
theorem dX10_piece_67 : decode cX10_piece 67 = .ok (.iconst 1, 1) := by decide +kernel
theorem dX10_piece_68 : decode cX10_piece 68 = .ok (.invokevirtual 202, 3) := by decide +kernel
theorem dX10_piece_71 : decode cX10_piece 71 = .ok (.aload_n 0, 1) := by decide +kernel
theorem dX10_piece_72 : decode cX10_piece 72 = .ok (.iconst 1, 1) := by decide +kernel
theorem dX10_piece_73 : decode cX10_piece 73 = .ok (.iconst 1, 1) := by decide +kernel
theorem dX10_piece_74 : decode cX10_piece 74 = .ok (.invokevirtual 202, 3) := by decide +kernel
theorem dX10_piece_77 : decode cX10_piece 77 = .ok (.iconst 2, 1) := by decide +kernel
theorem dX10_piece_78 : decode cX10_piece 78 = .ok (.invokevirtual 199, 3) := by decide +kernel
theorem dX10_piece_81 : decode cX10_piece 81 = .ok (.return_, 1) := by decide +kernel
abbrev cX10_between : ByteArray := prog_12_method_22_code
def yX10_between : MethodName := ⟨RX10, "between", "(JJJJ)V"⟩
theorem dX10_between_0 : decode cX10_between 0 = .ok (.aload_n 0, 1) := by decide +kernel
theorem dX10_between_1 : decode cX10_between 1 = .ok (.iconst 2, 1) := by decide +kernel
theorem dX10_between_2 : decode cX10_between 2 = .ok (.lload_n 1, 1) := by decide +kernel
theorem dX10_between_3 : decode cX10_between 3 = .ok (.invokevirtual 117, 3) := by decide +kernel
theorem dX10_between_6 : decode cX10_between 6 = .ok (.aload_n 0, 1) := by decide +kernel
theorem dX10_between_7 : decode cX10_between 7 = .ok (.iconst 3, 1) := by decide +kernel
theorem dX10_between_8 : decode cX10_between 8 = .ok (.lload_n 3, 1) := by decide +kernel
theorem dX10_between_9 : decode cX10_between 9 = .ok (.invokevirtual 117, 3) := by decide +kernel
theorem dX10_between_12 : decode cX10_between 12 = .ok (.aload_n 0, 1) := by decide +kernel
theorem dX10_between_13 : decode cX10_between 13 = .ok (.iconst 4, 1) := by decide +kernel
theorem dX10_between_14 : decode cX10_between 14 = .ok (.lload 5, 2) := by decide +kernel
theorem dX10_between_16 : decode cX10_between 16 = .ok (.invokevirtual 117, 3) := by decide +kernel
theorem dX10_between_19 : decode cX10_between 19 = .ok (.aload_n 0, 1) := by decide +kernel
theorem dX10_between_20 : decode cX10_between 20 = .ok (.iconst 5, 1) := by decide +kernel
theorem dX10_between_21 : decode cX10_between 21 = .ok (.lload 7, 2) := by decide +kernel
theorem dX10_between_23 : decode cX10_between 23 = .ok (.invokevirtual 117, 3) := by decide +kernel
theorem dX10_between_26 : decode cX10_between 26 = .ok (.aload_n 0, 1) := by decide +kernel
theorem dX10_between_27 : decode cX10_between 27 = .ok (.iconst 0, 1) := by decide +kernel
theorem dX10_between_28 : decode cX10_between 28 = .ok (.invokevirtual 97, 3) := by decide +kernel
theorem dX10_between_31 : decode cX10_between 31 = .ok (.aload_n 0, 1) := by decide +kernel
theorem dX10_between_32 : decode cX10_between 32 = .ok (.iconst 0, 1) := by decide +kernel
theorem dX10_between_33 : decode cX10_between 33 = .ok (.iconst 2, 1) := by decide +kernel
theorem dX10_between_34 : decode cX10_between 34 = .ok (.iconst 5, 1) := by decide +kernel
theorem dX10_between_35 : decode cX10_between 35 = .ok (.invokevirtual 121, 3) := by decide +kernel
theorem dX10_between_38 : decode cX10_between 38 = .ok (.aload_n 0, 1) := by decide +kernel
theorem dX10_between_39 : decode cX10_between 39 = .ok (.iconst 0, 1) := by decide +kernel
theorem dX10_between_40 : decode cX10_between 40 = .ok (.iconst 4, 1) := by decide +kernel
theorem dX10_between_41 : decode cX10_between 41 = .ok (.iconst 3, 1) := by decide +kernel
theorem dX10_between_42 : decode cX10_between 42 = .ok (.invokevirtual 121, 3) := by decide +kernel
theorem dX10_between_45 : decode cX10_between 45 = .ok (.aload_n 0, 1) := by decide +kernel
theorem dX10_between_46 : decode cX10_between 46 = .ok (.iconst 0, 1) := by decide +kernel
theorem dX10_between_47 : decode cX10_between 47 = .ok (.invokevirtual 101, 3) := by decide +kernel
theorem dX10_between_50 : decode cX10_between 50 = .ok (.aload_n 0, 1) := by decide +kernel
theorem dX10_between_51 : decode cX10_between 51 = .ok (.iconst 1, 1) := by decide +kernel
theorem dX10_between_52 : decode cX10_between 52 = .ok (.invokevirtual 97, 3) := by decide +kernel
theorem dX10_between_55 : decode cX10_between 55 = .ok (.aload_n 0, 1) := by decide +kernel
theorem dX10_between_56 : decode cX10_between 56 = .ok (.iconst 1, 1) := by decide +kernel
theorem dX10_between_57 : decode cX10_between 57 = .ok (.iconst 3, 1) := by decide +kernel
theorem dX10_between_58 : decode cX10_between 58 = .ok (.iconst 5, 1) := by decide +kernel
theorem dX10_between_59 : decode cX10_between 59 = .ok (.invokevirtual 121, 3) := by decide +kernel
theorem dX10_between_62 : decode cX10_between 62 = .ok (.aload_n 0, 1) := by decide +kernel
theorem dX10_between_63 : decode cX10_between 63 = .ok (.iconst 1, 1) := by decide +kernel
theorem dX10_between_64 : decode cX10_between 64 = .ok (.iconst 3, 1) := by decide +kernel
theorem dX10_between_65 : decode cX10_between 65 = .ok (.iconst 5, 1) := by decide +kernel
theorem dX10_between_66 : decode cX10_between 66 = .ok (.invokevirtual 121, 3) := by decide +kernel
theorem dX10_between_69 : decode cX10_between 69 = .ok (.aload_n 0, 1) := by decide +kernel
theorem dX10_between_70 : decode cX10_between 70 = .ok (.iconst 1, 1) := by decide +kernel
theorem dX10_between_71 : decode cX10_between 71 = .ok (.invokevirtual 101, 3) := by decide +kernel
theorem dX10_between_74 : decode cX10_between 74 = .ok (.return_, 1) := by decide +kernel
abbrev cX10_beside : ByteArray := prog_12_method_43_code
def yX10_beside : MethodName := ⟨RX10, "beside", "(IZ)I"⟩
theorem dX10_beside_0 : decode cX10_beside 0 = .ok (.aload_n 0, 1) := by decide +kernel
theorem dX10_beside_1 : decode cX10_beside 1 = .ok (.getfield 7, 3) := by decide +kernel
theorem dX10_beside_4 : decode cX10_beside 4 = .ok (.iload_n 1, 1) := by decide +kernel
theorem dX10_beside_5 : decode cX10_beside 5 = .ok (.iaload, 1) := by decide +kernel
theorem dX10_beside_6 : decode cX10_beside 6 = .ok (.iconst 3, 1) := by decide +kernel
theorem dX10_beside_7 : decode cX10_beside 7 = .ok (.if_icmp .ge 5, 3) := by decide +kernel
theorem dX10_beside_10 : decode cX10_beside 10 = .ok (.iconst 2, 1) := by decide +kernel
theorem dX10_beside_11 : decode cX10_beside 11 = .ok (.ireturn, 1) := by decide +kernel
theorem dX10_beside_12 : decode cX10_beside 12 = .ok (.aload_n 0, 1) := by decide +kernel
theorem dX10_beside_13 : decode cX10_beside 13 = .ok (.iload_n 1, 1) := by decide +kernel
theorem dX10_beside_14 : decode cX10_beside 14 = .ok (.invokevirtual 159, 3) := by decide +kernel
theorem dX10_beside_17 : decode cX10_beside 17 = .ok (.iload_n 2, 1) := by decide +kernel
theorem dX10_beside_18 : decode cX10_beside 18 = .ok (.ifCond .eq 11, 3) := by decide +kernel
theorem dX10_beside_21 : decode cX10_beside 21 = .ok (.aload_n 0, 1) := by decide +kernel
theorem dX10_beside_22 : decode cX10_beside 22 = .ok (.iload_n 1, 1) := by decide +kernel
theorem dX10_beside_23 : decode cX10_beside 23 = .ok (.invokevirtual 153, 3) := by decide +kernel
theorem dX10_beside_26 : decode cX10_beside 26 = .ok (.goto 4, 3) := by decide +kernel
theorem dX10_beside_29 : decode cX10_beside 29 = .ok (.iconst 0, 1) := by decide +kernel
theorem dX10_beside_30 : decode cX10_beside 30 = .ok (.iadd, 1) := by decide +kernel
theorem dX10_beside_31 : decode cX10_beside 31 = .ok (.istore_n 3, 1) := by decide +kernel
theorem dX10_beside_32 : decode cX10_beside 32 = .ok (.iload_n 3, 1) := by decide +kernel
theorem dX10_beside_33 : decode cX10_beside 33 = .ok (.iconst 2, 1) := by decide +kernel
theorem dX10_beside_34 : decode cX10_beside 34 = .ok (.irem, 1) := by decide +kernel
theorem dX10_beside_35 : decode cX10_beside 35 = .ok (.iconst 1, 1) := by decide +kernel
theorem dX10_beside_36 : decode cX10_beside 36 = .ok (.if_icmp .ne 10, 3) := by decide +kernel
theorem dX10_beside_39 : decode cX10_beside 39 = .ok (.aload_n 0, 1) := by decide +kernel
theorem dX10_beside_40 : decode cX10_beside 40 = .ok (.getfield 40, 3) := by decide +kernel
theorem dX10_beside_43 : decode cX10_beside 43 = .ok (.iload_n 1, 1) := by decide +kernel
theorem dX10_beside_44 : decode cX10_beside 44 = .ok (.iconst 1, 1) := by decide +kernel
theorem dX10_beside_45 : decode cX10_beside 45 = .ok (.bastore, 1) := by decide +kernel
theorem dX10_beside_46 : decode cX10_beside 46 = .ok (.iload_n 3, 1) := by decide +kernel
theorem dX10_beside_47 : decode cX10_beside 47 = .ok (.iconst 2, 1) := by decide +kernel
theorem dX10_beside_48 : decode cX10_beside 48 = .ok (.irem, 1) := by decide +kernel
theorem dX10_beside_49 : decode cX10_beside 49 = .ok (.iconst 1, 1) := by decide +kernel
theorem dX10_beside_50 : decode cX10_beside 50 = .ok (.if_icmp .ne 7, 3) := by decide +kernel
theorem dX10_beside_53 : decode cX10_beside 53 = .ok (.iconst 0, 1) := by decide +kernel
theorem dX10_beside_54 : decode cX10_beside 54 = .ok (.goto 4, 3) := by decide +kernel
theorem dX10_beside_57 : decode cX10_beside 57 = .ok (.iconst 2, 1) := by decide +kernel
theorem dX10_beside_58 : decode cX10_beside 58 = .ok (.ireturn, 1) := by decide +kernel
abbrev cX10_entry : ByteArray := prog_12_method_47_code
def yX10_entry : MethodName := ⟨RX10, "entry", "(II)I"⟩
theorem dX10_entry_0 : decode cX10_entry 0 = .ok (.aload_n 0, 1) := by decide +kernel
theorem dX10_entry_1 : decode cX10_entry 1 = .ok (.iconst 0, 1) := by decide +kernel
theorem dX10_entry_2 : decode cX10_entry 2 = .ok (.putfield 54, 3) := by decide +kernel
theorem dX10_entry_5 : decode cX10_entry 5 = .ok (.iload_n 1, 1) := by decide +kernel
theorem dX10_entry_6 : decode cX10_entry 6 = .ok (.iconst 0, 1) := by decide +kernel
theorem dX10_entry_7 : decode cX10_entry 7 = .ok (.iconst 2, 1) := by decide +kernel
theorem dX10_entry_8 : decode cX10_entry 8 = .ok (.invokestatic 60, 3) := by decide +kernel
theorem dX10_entry_11 : decode cX10_entry 11 = .ok (.ifCond .eq 12, 3) := by decide +kernel
theorem dX10_entry_14 : decode cX10_entry 14 = .ok (.iload_n 2, 1) := by decide +kernel
theorem dX10_entry_15 : decode cX10_entry 15 = .ok (.iconst 0, 1) := by decide +kernel
theorem dX10_entry_16 : decode cX10_entry 16 = .ok (.iconst 2, 1) := by decide +kernel
theorem dX10_entry_17 : decode cX10_entry 17 = .ok (.invokestatic 60, 3) := by decide +kernel
theorem dX10_entry_20 : decode cX10_entry 20 = .ok (.ifCond .ne 9, 3) := by decide +kernel
theorem dX10_entry_23 : decode cX10_entry 23 = .ok (.aload_n 0, 1) := by decide +kernel
theorem dX10_entry_24 : decode cX10_entry 24 = .ok (.iconst 1, 1) := by decide +kernel
theorem dX10_entry_25 : decode cX10_entry 25 = .ok (.invokevirtual 68, 3) := by decide +kernel
theorem dX10_entry_28 : decode cX10_entry 28 = .ok (.ireturn, 1) := by decide +kernel
theorem dX10_entry_29 : decode cX10_entry 29 = .ok (.aload_n 0, 1) := by decide +kernel
theorem dX10_entry_30 : decode cX10_entry 30 = .ok (.invokevirtual 212, 3) := by decide +kernel
theorem dX10_entry_33 : decode cX10_entry 33 = .ok (.aload_n 0, 1) := by decide +kernel
theorem dX10_entry_34 : decode cX10_entry 34 = .ok (.getfield 37, 3) := by decide +kernel
theorem dX10_entry_37 : decode cX10_entry 37 = .ok (.iconst 3, 1) := by decide +kernel
theorem dX10_entry_38 : decode cX10_entry 38 = .ok (.iload_n 1, 1) := by decide +kernel
theorem dX10_entry_39 : decode cX10_entry 39 = .ok (.imul, 1) := by decide +kernel
theorem dX10_entry_40 : decode cX10_entry 40 = .ok (.iload_n 2, 1) := by decide +kernel
theorem dX10_entry_41 : decode cX10_entry 41 = .ok (.iadd, 1) := by decide +kernel
theorem dX10_entry_42 : decode cX10_entry 42 = .ok (.iaload, 1) := by decide +kernel
theorem dX10_entry_43 : decode cX10_entry 43 = .ok (.ireturn, 1) := by decide +kernel
abbrev cX10_is : ByteArray := prog_12_method_54_code
def yX10_is : MethodName := ⟨RX10, "is", "(I)Z"⟩
theorem dX10_is_0 : decode cX10_is 0 = .ok (.aload_n 0, 1) := by decide +kernel
theorem dX10_is_1 : decode cX10_is 1 = .ok (.iconst 0, 1) := by decide +kernel
theorem dX10_is_2 : decode cX10_is 2 = .ok (.putfield 54, 3) := by decide +kernel
theorem dX10_is_5 : decode cX10_is 5 = .ok (.iload_n 1, 1) := by decide +kernel
theorem dX10_is_6 : decode cX10_is 6 = .ok (.iconst 0, 1) := by decide +kernel
theorem dX10_is_7 : decode cX10_is 7 = .ok (.bipush 8, 2) := by decide +kernel
theorem dX10_is_9 : decode cX10_is 9 = .ok (.invokestatic 60, 3) := by decide +kernel
theorem dX10_is_12 : decode cX10_is 12 = .ok (.ifCond .ne 17, 3) := by decide +kernel
theorem dX10_is_15 : decode cX10_is 15 = .ok (.aload_n 0, 1) := by decide +kernel
theorem dX10_is_16 : decode cX10_is 16 = .ok (.iconst 1, 1) := by decide +kernel
theorem dX10_is_17 : decode cX10_is 17 = .ok (.invokevirtual 68, 3) := by decide +kernel
theorem dX10_is_20 : decode cX10_is 20 = .ok (.ifCond .le 7, 3) := by decide +kernel
theorem dX10_is_23 : decode cX10_is 23 = .ok (.iconst 1, 1) := by decide +kernel
theorem dX10_is_24 : decode cX10_is 24 = .ok (.goto 4, 3) := by decide +kernel
theorem dX10_is_27 : decode cX10_is 27 = .ok (.iconst 0, 1) := by decide +kernel
theorem dX10_is_28 : decode cX10_is 28 = .ok (.ireturn, 1) := by decide +kernel
theorem dX10_is_29 : decode cX10_is 29 = .ok (.aload_n 0, 1) := by decide +kernel
theorem dX10_is_30 : decode cX10_is 30 = .ok (.invokevirtual 212, 3) := by decide +kernel
theorem dX10_is_33 : decode cX10_is 33 = .ok (.aload_n 0, 1) := by decide +kernel
theorem dX10_is_34 : decode cX10_is 34 = .ok (.iconst 0, 1) := by decide +kernel
theorem dX10_is_35 : decode cX10_is 35 = .ok (.invokevirtual 221, 3) := by decide +kernel
theorem dX10_is_38 : decode cX10_is 38 = .ok (.istore_n 2, 1) := by decide +kernel
theorem dX10_is_39 : decode cX10_is 39 = .ok (.aload_n 0, 1) := by decide +kernel
theorem dX10_is_40 : decode cX10_is 40 = .ok (.iconst 1, 1) := by decide +kernel
theorem dX10_is_41 : decode cX10_is 41 = .ok (.invokevirtual 221, 3) := by decide +kernel
theorem dX10_is_44 : decode cX10_is 44 = .ok (.istore_n 3, 1) := by decide +kernel
theorem dX10_is_45 : decode cX10_is 45 = .ok (.iload_n 1, 1) := by decide +kernel
theorem dX10_is_46 : decode cX10_is 46 = .ok (.ifCond .ne 46, 3) := by decide +kernel
theorem dX10_is_49 : decode cX10_is 49 = .ok (.iload_n 2, 1) := by decide +kernel
theorem dX10_is_50 : decode cX10_is 50 = .ok (.ifCond .ge 7, 3) := by decide +kernel
theorem dX10_is_53 : decode cX10_is 53 = .ok (.iload_n 3, 1) := by decide +kernel
theorem dX10_is_54 : decode cX10_is 54 = .ok (.ifCond .lt 32, 3) := by decide +kernel
theorem dX10_is_57 : decode cX10_is 57 = .ok (.aload_n 0, 1) := by decide +kernel
theorem dX10_is_58 : decode cX10_is 58 = .ok (.iconst 0, 1) := by decide +kernel
theorem dX10_is_59 : decode cX10_is 59 = .ok (.iconst 0, 1) := by decide +kernel
theorem dX10_is_60 : decode cX10_is 60 = .ok (.invokevirtual 218, 3) := by decide +kernel
theorem dX10_is_63 : decode cX10_is 63 = .ok (.ifCond .eq 27, 3) := by decide +kernel
theorem dX10_is_66 : decode cX10_is 66 = .ok (.aload_n 0, 1) := by decide +kernel
theorem dX10_is_67 : decode cX10_is 67 = .ok (.iconst 2, 1) := by decide +kernel
theorem dX10_is_68 : decode cX10_is 68 = .ok (.iconst 5, 1) := by decide +kernel
theorem dX10_is_69 : decode cX10_is 69 = .ok (.invokevirtual 224, 3) := by decide +kernel
theorem dX10_is_72 : decode cX10_is 72 = .ok (.ifCond .eq 18, 3) := by decide +kernel
theorem dX10_is_75 : decode cX10_is 75 = .ok (.aload_n 0, 1) := by decide +kernel
theorem dX10_is_76 : decode cX10_is 76 = .ok (.bipush 6, 2) := by decide +kernel
theorem dX10_is_78 : decode cX10_is 78 = .ok (.bipush 7, 2) := by decide +kernel
theorem dX10_is_80 : decode cX10_is 80 = .ok (.invokevirtual 224, 3) := by decide +kernel
theorem dX10_is_83 : decode cX10_is 83 = .ok (.ifCond .eq 7, 3) := by decide +kernel
theorem dX10_is_86 : decode cX10_is 86 = .ok (.iconst 1, 1) := by decide +kernel
theorem dX10_is_87 : decode cX10_is 87 = .ok (.goto 4, 3) := by decide +kernel
theorem dX10_is_90 : decode cX10_is 90 = .ok (.iconst 0, 1) := by decide +kernel
theorem dX10_is_91 : decode cX10_is 91 = .ok (.ireturn, 1) := by decide +kernel
theorem dX10_is_92 : decode cX10_is 92 = .ok (.iload_n 1, 1) := by decide +kernel
theorem dX10_is_93 : decode cX10_is 93 = .ok (.iconst 1, 1) := by decide +kernel
theorem dX10_is_94 : decode cX10_is 94 = .ok (.if_icmp .ne 16, 3) := by decide +kernel
theorem dX10_is_97 : decode cX10_is 97 = .ok (.aload_n 0, 1) := by decide +kernel
theorem dX10_is_98 : decode cX10_is 98 = .ok (.invokevirtual 227, 3) := by decide +kernel
theorem dX10_is_101 : decode cX10_is 101 = .ok (.ifCond .ne 7, 3) := by decide +kernel
theorem dX10_is_104 : decode cX10_is 104 = .ok (.iconst 1, 1) := by decide +kernel
theorem dX10_is_105 : decode cX10_is 105 = .ok (.goto 4, 3) := by decide +kernel
theorem dX10_is_108 : decode cX10_is 108 = .ok (.iconst 0, 1) := by decide +kernel
theorem dX10_is_109 : decode cX10_is 109 = .ok (.ireturn, 1) := by decide +kernel
theorem dX10_is_110 : decode cX10_is 110 = .ok (.iload_n 1, 1) := by decide +kernel
theorem dX10_is_111 : decode cX10_is 111 = .ok (.iconst 2, 1) := by decide +kernel
theorem dX10_is_112 : decode cX10_is 112 = .ok (.if_icmp .ne 25, 3) := by decide +kernel
theorem dX10_is_115 : decode cX10_is 115 = .ok (.aload_n 0, 1) := by decide +kernel
theorem dX10_is_116 : decode cX10_is 116 = .ok (.iconst 0, 1) := by decide +kernel
theorem dX10_is_117 : decode cX10_is 117 = .ok (.iconst 0, 1) := by decide +kernel
theorem dX10_is_118 : decode cX10_is 118 = .ok (.invokevirtual 218, 3) := by decide +kernel
theorem dX10_is_121 : decode cX10_is 121 = .ok (.ifCond .ne 14, 3) := by decide +kernel
theorem dX10_is_124 : decode cX10_is 124 = .ok (.aload_n 0, 1) := by decide +kernel
theorem dX10_is_125 : decode cX10_is 125 = .ok (.invokevirtual 227, 3) := by decide +kernel
theorem dX10_is_128 : decode cX10_is 128 = .ok (.ifCond .eq 7, 3) := by decide +kernel
theorem dX10_is_131 : decode cX10_is 131 = .ok (.iconst 1, 1) := by decide +kernel
theorem dX10_is_132 : decode cX10_is 132 = .ok (.goto 4, 3) := by decide +kernel
theorem dX10_is_135 : decode cX10_is 135 = .ok (.iconst 0, 1) := by decide +kernel
theorem dX10_is_136 : decode cX10_is 136 = .ok (.ireturn, 1) := by decide +kernel
theorem dX10_is_137 : decode cX10_is 137 = .ok (.iload_n 1, 1) := by decide +kernel
theorem dX10_is_138 : decode cX10_is 138 = .ok (.iconst 3, 1) := by decide +kernel
theorem dX10_is_139 : decode cX10_is 139 = .ok (.if_icmp .ne 10, 3) := by decide +kernel
theorem dX10_is_142 : decode cX10_is 142 = .ok (.aload_n 0, 1) := by decide +kernel
theorem dX10_is_143 : decode cX10_is 143 = .ok (.iload_n 2, 1) := by decide +kernel
theorem dX10_is_144 : decode cX10_is 144 = .ok (.iload_n 3, 1) := by decide +kernel
theorem dX10_is_145 : decode cX10_is 145 = .ok (.invokevirtual 231, 3) := by decide +kernel
theorem dX10_is_148 : decode cX10_is 148 = .ok (.ireturn, 1) := by decide +kernel
theorem dX10_is_149 : decode cX10_is 149 = .ok (.iload_n 1, 1) := by decide +kernel
theorem dX10_is_150 : decode cX10_is 150 = .ok (.iconst 4, 1) := by decide +kernel
theorem dX10_is_151 : decode cX10_is 151 = .ok (.if_icmp .ne 27, 3) := by decide +kernel
theorem dX10_is_154 : decode cX10_is 154 = .ok (.aload_n 0, 1) := by decide +kernel
theorem dX10_is_155 : decode cX10_is 155 = .ok (.iconst 0, 1) := by decide +kernel
theorem dX10_is_156 : decode cX10_is 156 = .ok (.iconst 0, 1) := by decide +kernel
theorem dX10_is_157 : decode cX10_is 157 = .ok (.invokevirtual 218, 3) := by decide +kernel
theorem dX10_is_160 : decode cX10_is 160 = .ok (.ifCond .eq 16, 3) := by decide +kernel
theorem dX10_is_163 : decode cX10_is 163 = .ok (.aload_n 0, 1) := by decide +kernel
theorem dX10_is_164 : decode cX10_is 164 = .ok (.iconst 2, 1) := by decide +kernel
theorem dX10_is_165 : decode cX10_is 165 = .ok (.iconst 5, 1) := by decide +kernel
theorem dX10_is_166 : decode cX10_is 166 = .ok (.invokevirtual 224, 3) := by decide +kernel
theorem dX10_is_169 : decode cX10_is 169 = .ok (.ifCond .eq 7, 3) := by decide +kernel
theorem dX10_is_172 : decode cX10_is 172 = .ok (.iconst 1, 1) := by decide +kernel
theorem dX10_is_173 : decode cX10_is 173 = .ok (.goto 4, 3) := by decide +kernel
theorem dX10_is_176 : decode cX10_is 176 = .ok (.iconst 0, 1) := by decide +kernel
theorem dX10_is_177 : decode cX10_is 177 = .ok (.ireturn, 1) := by decide +kernel
theorem dX10_is_178 : decode cX10_is 178 = .ok (.iload_n 1, 1) := by decide +kernel
theorem dX10_is_179 : decode cX10_is 179 = .ok (.iconst 5, 1) := by decide +kernel
theorem dX10_is_180 : decode cX10_is 180 = .ok (.if_icmp .ne 29, 3) := by decide +kernel
theorem dX10_is_183 : decode cX10_is 183 = .ok (.aload_n 0, 1) := by decide +kernel
theorem dX10_is_184 : decode cX10_is 184 = .ok (.iconst 0, 1) := by decide +kernel
theorem dX10_is_185 : decode cX10_is 185 = .ok (.iconst 0, 1) := by decide +kernel
theorem dX10_is_186 : decode cX10_is 186 = .ok (.invokevirtual 218, 3) := by decide +kernel
theorem dX10_is_189 : decode cX10_is 189 = .ok (.ifCond .eq 18, 3) := by decide +kernel
theorem dX10_is_192 : decode cX10_is 192 = .ok (.aload_n 0, 1) := by decide +kernel
theorem dX10_is_193 : decode cX10_is 193 = .ok (.bipush 6, 2) := by decide +kernel
theorem dX10_is_195 : decode cX10_is 195 = .ok (.bipush 7, 2) := by decide +kernel
theorem dX10_is_197 : decode cX10_is 197 = .ok (.invokevirtual 224, 3) := by decide +kernel
theorem dX10_is_200 : decode cX10_is 200 = .ok (.ifCond .eq 7, 3) := by decide +kernel
theorem dX10_is_203 : decode cX10_is 203 = .ok (.iconst 1, 1) := by decide +kernel
theorem dX10_is_204 : decode cX10_is 204 = .ok (.goto 4, 3) := by decide +kernel
theorem dX10_is_207 : decode cX10_is 207 = .ok (.iconst 0, 1) := by decide +kernel
theorem dX10_is_208 : decode cX10_is 208 = .ok (.ireturn, 1) := by decide +kernel
theorem dX10_is_209 : decode cX10_is 209 = .ok (.iload_n 1, 1) := by decide +kernel
theorem dX10_is_210 : decode cX10_is 210 = .ok (.bipush 6, 2) := by decide +kernel
theorem dX10_is_212 : decode cX10_is 212 = .ok (.if_icmp .ne 46, 3) := by decide +kernel
theorem dX10_is_215 : decode cX10_is 215 = .ok (.iload_n 2, 1) := by decide +kernel
theorem dX10_is_216 : decode cX10_is 216 = .ok (.iload_n 3, 1) := by decide +kernel
theorem dX10_is_217 : decode cX10_is 217 = .ok (.if_icmp .ne 39, 3) := by decide +kernel
theorem dX10_is_220 : decode cX10_is 220 = .ok (.iload_n 2, 1) := by decide +kernel
theorem dX10_is_221 : decode cX10_is 221 = .ok (.ifCond .lt 35, 3) := by decide +kernel
theorem dX10_is_224 : decode cX10_is 224 = .ok (.aload_n 0, 1) := by decide +kernel
theorem dX10_is_225 : decode cX10_is 225 = .ok (.getfield 37, 3) := by decide +kernel
theorem dX10_is_228 : decode cX10_is 228 = .ok (.iconst 0, 1) := by decide +kernel
theorem dX10_is_229 : decode cX10_is 229 = .ok (.iaload, 1) := by decide +kernel
theorem dX10_is_230 : decode cX10_is 230 = .ok (.iload_n 2, 1) := by decide +kernel
theorem dX10_is_231 : decode cX10_is 231 = .ok (.if_icmp .ne 25, 3) := by decide +kernel
theorem dX10_is_234 : decode cX10_is 234 = .ok (.aload_n 0, 1) := by decide +kernel
theorem dX10_is_235 : decode cX10_is 235 = .ok (.iconst 0, 1) := by decide +kernel
theorem dX10_is_236 : decode cX10_is 236 = .ok (.iconst 2, 1) := by decide +kernel
theorem dX10_is_237 : decode cX10_is 237 = .ok (.invokevirtual 218, 3) := by decide +kernel
theorem dX10_is_240 : decode cX10_is 240 = .ok (.ifCond .eq 16, 3) := by decide +kernel
theorem dX10_is_243 : decode cX10_is 243 = .ok (.aload_n 0, 1) := by decide +kernel
theorem dX10_is_244 : decode cX10_is 244 = .ok (.iconst 2, 1) := by decide +kernel
theorem dX10_is_245 : decode cX10_is 245 = .ok (.iconst 0, 1) := by decide +kernel
theorem dX10_is_246 : decode cX10_is 246 = .ok (.invokevirtual 218, 3) := by decide +kernel
theorem dX10_is_249 : decode cX10_is 249 = .ok (.ifCond .eq 7, 3) := by decide +kernel
theorem dX10_is_252 : decode cX10_is 252 = .ok (.iconst 1, 1) := by decide +kernel
theorem dX10_is_253 : decode cX10_is 253 = .ok (.goto 4, 3) := by decide +kernel
theorem dX10_is_256 : decode cX10_is 256 = .ok (.iconst 0, 1) := by decide +kernel
theorem dX10_is_257 : decode cX10_is 257 = .ok (.ireturn, 1) := by decide +kernel
theorem dX10_is_258 : decode cX10_is 258 = .ok (.aload_n 0, 1) := by decide +kernel
theorem dX10_is_259 : decode cX10_is 259 = .ok (.invokevirtual 227, 3) := by decide +kernel
theorem dX10_is_262 : decode cX10_is 262 = .ok (.ifCond .eq 36, 3) := by decide +kernel
theorem dX10_is_265 : decode cX10_is 265 = .ok (.iload_n 1, 1) := by decide +kernel
theorem dX10_is_266 : decode cX10_is 266 = .ok (.bipush 7, 2) := by decide +kernel
theorem dX10_is_268 : decode cX10_is 268 = .ok (.if_icmp .ne 15, 3) := by decide +kernel
theorem dX10_is_271 : decode cX10_is 271 = .ok (.aload_n 0, 1) := by decide +kernel
theorem dX10_is_272 : decode cX10_is 272 = .ok (.iconst 2, 1) := by decide +kernel
theorem dX10_is_273 : decode cX10_is 273 = .ok (.iconst 5, 1) := by decide +kernel
theorem dX10_is_274 : decode cX10_is 274 = .ok (.invokevirtual 224, 3) := by decide +kernel
theorem dX10_is_277 : decode cX10_is 277 = .ok (.ifCond .eq 21, 3) := by decide +kernel
theorem dX10_is_280 : decode cX10_is 280 = .ok (.goto 14, 3) := by decide +kernel
theorem dX10_is_283 : decode cX10_is 283 = .ok (.aload_n 0, 1) := by decide +kernel
theorem dX10_is_284 : decode cX10_is 284 = .ok (.bipush 6, 2) := by decide +kernel
theorem dX10_is_286 : decode cX10_is 286 = .ok (.bipush 7, 2) := by decide +kernel
theorem dX10_is_288 : decode cX10_is 288 = .ok (.invokevirtual 224, 3) := by decide +kernel
theorem dX10_is_291 : decode cX10_is 291 = .ok (.ifCond .eq 7, 3) := by decide +kernel
theorem dX10_is_294 : decode cX10_is 294 = .ok (.iconst 1, 1) := by decide +kernel
theorem dX10_is_295 : decode cX10_is 295 = .ok (.goto 4, 3) := by decide +kernel
theorem dX10_is_298 : decode cX10_is 298 = .ok (.iconst 0, 1) := by decide +kernel
theorem dX10_is_299 : decode cX10_is 299 = .ok (.ireturn, 1) := by decide +kernel
abbrev cX10_insideOf : ByteArray := prog_12_method_49_code
def yX10_insideOf : MethodName := ⟨RX10, "insideOf", "(I)I"⟩
theorem dX10_insideOf_0 : decode cX10_insideOf 0 = .ok (.aload_n 0, 1) := by decide +kernel
theorem dX10_insideOf_1 : decode cX10_insideOf 1 = .ok (.getfield 7, 3) := by decide +kernel
theorem dX10_insideOf_4 : decode cX10_insideOf 4 = .ok (.iload_n 1, 1) := by decide +kernel
theorem dX10_insideOf_5 : decode cX10_insideOf 5 = .ok (.iaload, 1) := by decide +kernel
theorem dX10_insideOf_6 : decode cX10_insideOf 6 = .ok (.iconst 1, 1) := by decide +kernel
theorem dX10_insideOf_7 : decode cX10_insideOf 7 = .ok (.if_icmp .ne 20, 3) := by decide +kernel
theorem dX10_insideOf_10 : decode cX10_insideOf 10 = .ok (.aload_n 0, 1) := by decide +kernel
theorem dX10_insideOf_11 : decode cX10_insideOf 11 = .ok (.getfield 13, 3) := by decide +kernel
theorem dX10_insideOf_14 : decode cX10_insideOf 14 = .ok (.iload_n 1, 1) := by decide +kernel
theorem dX10_insideOf_15 : decode cX10_insideOf 15 = .ok (.iaload, 1) := by decide +kernel
theorem dX10_insideOf_16 : decode cX10_insideOf 16 = .ok (.ifCond .le 7, 3) := by decide +kernel
theorem dX10_insideOf_19 : decode cX10_insideOf 19 = .ok (.iconst 0, 1) := by decide +kernel
theorem dX10_insideOf_20 : decode cX10_insideOf 20 = .ok (.goto 47, 3) := by decide +kernel
theorem dX10_insideOf_23 : decode cX10_insideOf 23 = .ok (.iconst (-1), 1) := by decide +kernel
theorem dX10_insideOf_24 : decode cX10_insideOf 24 = .ok (.goto 43, 3) := by decide +kernel
theorem dX10_insideOf_27 : decode cX10_insideOf 27 = .ok (.aload_n 0, 1) := by decide +kernel
theorem dX10_insideOf_28 : decode cX10_insideOf 28 = .ok (.getfield 7, 3) := by decide +kernel
theorem dX10_insideOf_31 : decode cX10_insideOf 31 = .ok (.iload_n 1, 1) := by decide +kernel
theorem dX10_insideOf_32 : decode cX10_insideOf 32 = .ok (.iaload, 1) := by decide +kernel
theorem dX10_insideOf_33 : decode cX10_insideOf 33 = .ok (.iconst 2, 1) := by decide +kernel
theorem dX10_insideOf_34 : decode cX10_insideOf 34 = .ok (.if_icmp .ne 19, 3) := by decide +kernel
theorem dX10_insideOf_37 : decode cX10_insideOf 37 = .ok (.aload_n 0, 1) := by decide +kernel
theorem dX10_insideOf_38 : decode cX10_insideOf 38 = .ok (.iload_n 1, 1) := by decide +kernel
theorem dX10_insideOf_39 : decode cX10_insideOf 39 = .ok (.invokevirtual 215, 3) := by decide +kernel
theorem dX10_insideOf_42 : decode cX10_insideOf 42 = .ok (.ifCond .eq 7, 3) := by decide +kernel
theorem dX10_insideOf_45 : decode cX10_insideOf 45 = .ok (.iconst 1, 1) := by decide +kernel
theorem dX10_insideOf_46 : decode cX10_insideOf 46 = .ok (.goto 21, 3) := by decide +kernel
theorem dX10_insideOf_49 : decode cX10_insideOf 49 = .ok (.iconst (-1), 1) := by decide +kernel
theorem dX10_insideOf_50 : decode cX10_insideOf 50 = .ok (.goto 17, 3) := by decide +kernel
theorem dX10_insideOf_53 : decode cX10_insideOf 53 = .ok (.aload_n 0, 1) := by decide +kernel
theorem dX10_insideOf_54 : decode cX10_insideOf 54 = .ok (.getfield 40, 3) := by decide +kernel
theorem dX10_insideOf_57 : decode cX10_insideOf 57 = .ok (.iload_n 1, 1) := by decide +kernel
theorem dX10_insideOf_58 : decode cX10_insideOf 58 = .ok (.baload, 1) := by decide +kernel
theorem dX10_insideOf_59 : decode cX10_insideOf 59 = .ok (.ifCond .eq 7, 3) := by decide +kernel
theorem dX10_insideOf_62 : decode cX10_insideOf 62 = .ok (.iconst 2, 1) := by decide +kernel
theorem dX10_insideOf_63 : decode cX10_insideOf 63 = .ok (.goto 4, 3) := by decide +kernel
theorem dX10_insideOf_66 : decode cX10_insideOf 66 = .ok (.iconst (-1), 1) := by decide +kernel
theorem dX10_insideOf_67 : decode cX10_insideOf 67 = .ok (.ireturn, 1) := by decide +kernel
abbrev cX10_hasSegments : ByteArray := prog_12_method_48_code
def yX10_hasSegments : MethodName := ⟨RX10, "hasSegments", "(I)Z"⟩
theorem dX10_hasSegments_0 : decode cX10_hasSegments 0 = .ok (.iconst 0, 1) := by decide +kernel
theorem dX10_hasSegments_1 : decode cX10_hasSegments 1 = .ok (.istore_n 2, 1) := by decide +kernel
theorem dX10_hasSegments_2 : decode cX10_hasSegments 2 = .ok (.iconst 0, 1) := by decide +kernel
theorem dX10_hasSegments_3 : decode cX10_hasSegments 3 = .ok (.istore_n 3, 1) := by decide +kernel
theorem dX10_hasSegments_4 : decode cX10_hasSegments 4 = .ok (.iload_n 3, 1) := by decide +kernel
theorem dX10_hasSegments_5 : decode cX10_hasSegments 5 = .ok (.aload_n 0, 1) := by decide +kernel
theorem dX10_hasSegments_6 : decode cX10_hasSegments 6 = .ok (.getfield 79, 3) := by decide +kernel
theorem dX10_hasSegments_9 : decode cX10_hasSegments 9 = .ok (.if_icmp .ge 29, 3) := by decide +kernel
theorem dX10_hasSegments_12 : decode cX10_hasSegments 12 = .ok (.iload_n 2, 1) := by decide +kernel
theorem dX10_hasSegments_13 : decode cX10_hasSegments 13 = .ok (.ifCond .ne 13, 3) := by decide +kernel
theorem dX10_hasSegments_16 : decode cX10_hasSegments 16 = .ok (.aload_n 0, 1) := by decide +kernel
theorem dX10_hasSegments_17 : decode cX10_hasSegments 17 = .ok (.getfield 34, 3) := by decide +kernel
theorem dX10_hasSegments_20 : decode cX10_hasSegments 20 = .ok (.iload_n 3, 1) := by decide +kernel
theorem dX10_hasSegments_21 : decode cX10_hasSegments 21 = .ok (.iaload, 1) := by decide +kernel
theorem dX10_hasSegments_22 : decode cX10_hasSegments 22 = .ok (.iload_n 1, 1) := by decide +kernel
theorem dX10_hasSegments_23 : decode cX10_hasSegments 23 = .ok (.if_icmp .ne 7, 3) := by decide +kernel
theorem dX10_hasSegments_26 : decode cX10_hasSegments 26 = .ok (.iconst 1, 1) := by decide +kernel
theorem dX10_hasSegments_27 : decode cX10_hasSegments 27 = .ok (.goto 4, 3) := by decide +kernel
theorem dX10_hasSegments_30 : decode cX10_hasSegments 30 = .ok (.iconst 0, 1) := by decide +kernel
theorem dX10_hasSegments_31 : decode cX10_hasSegments 31 = .ok (.istore_n 2, 1) := by decide +kernel
theorem dX10_hasSegments_32 : decode cX10_hasSegments 32 = .ok (.iinc 3 1, 3) := by decide +kernel
theorem dX10_hasSegments_35 : decode cX10_hasSegments 35 = .ok (.goto (-31), 3) := by decide +kernel
theorem dX10_hasSegments_38 : decode cX10_hasSegments 38 = .ok (.iload_n 2, 1) := by decide +kernel
theorem dX10_hasSegments_39 : decode cX10_hasSegments 39 = .ok (.ireturn, 1) := by decide +kernel
abbrev cX10_there : ByteArray := prog_12_method_50_code
def yX10_there : MethodName := ⟨RX10, "there", "(II)Z"⟩
theorem dX10_there_0 : decode cX10_there 0 = .ok (.aload_n 0, 1) := by decide +kernel
theorem dX10_there_1 : decode cX10_there 1 = .ok (.getfield 37, 3) := by decide +kernel
theorem dX10_there_4 : decode cX10_there 4 = .ok (.iconst 3, 1) := by decide +kernel
theorem dX10_there_5 : decode cX10_there 5 = .ok (.iload_n 1, 1) := by decide +kernel
theorem dX10_there_6 : decode cX10_there 6 = .ok (.imul, 1) := by decide +kernel
theorem dX10_there_7 : decode cX10_there 7 = .ok (.iload_n 2, 1) := by decide +kernel
theorem dX10_there_8 : decode cX10_there 8 = .ok (.iadd, 1) := by decide +kernel
theorem dX10_there_9 : decode cX10_there 9 = .ok (.iaload, 1) := by decide +kernel
theorem dX10_there_10 : decode cX10_there 10 = .ok (.ifCond .lt 7, 3) := by decide +kernel
theorem dX10_there_13 : decode cX10_there 13 = .ok (.iconst 1, 1) := by decide +kernel
theorem dX10_there_14 : decode cX10_there 14 = .ok (.goto 4, 3) := by decide +kernel
theorem dX10_there_17 : decode cX10_there 17 = .ok (.iconst 0, 1) := by decide +kernel
theorem dX10_there_18 : decode cX10_there 18 = .ok (.ireturn, 1) := by decide +kernel
abbrev cX10_none : ByteArray := prog_12_method_52_code
def yX10_none : MethodName := ⟨RX10, "none", "(II)Z"⟩
theorem dX10_none_0 : decode cX10_none 0 = .ok (.aload_n 0, 1) := by decide +kernel
theorem dX10_none_1 : decode cX10_none 1 = .ok (.getfield 37, 3) := by decide +kernel
theorem dX10_none_4 : decode cX10_none 4 = .ok (.iload_n 1, 1) := by decide +kernel
theorem dX10_none_5 : decode cX10_none 5 = .ok (.iaload, 1) := by decide +kernel
theorem dX10_none_6 : decode cX10_none 6 = .ok (.ifCond .ge 16, 3) := by decide +kernel
theorem dX10_none_9 : decode cX10_none 9 = .ok (.aload_n 0, 1) := by decide +kernel
theorem dX10_none_10 : decode cX10_none 10 = .ok (.getfield 37, 3) := by decide +kernel
theorem dX10_none_13 : decode cX10_none 13 = .ok (.iload_n 2, 1) := by decide +kernel
theorem dX10_none_14 : decode cX10_none 14 = .ok (.iaload, 1) := by decide +kernel
theorem dX10_none_15 : decode cX10_none 15 = .ok (.ifCond .ge 7, 3) := by decide +kernel
theorem dX10_none_18 : decode cX10_none 18 = .ok (.iconst 1, 1) := by decide +kernel
theorem dX10_none_19 : decode cX10_none 19 = .ok (.goto 4, 3) := by decide +kernel
theorem dX10_none_22 : decode cX10_none 22 = .ok (.iconst 0, 1) := by decide +kernel
theorem dX10_none_23 : decode cX10_none 23 = .ok (.ireturn, 1) := by decide +kernel
abbrev cX10_meet : ByteArray := prog_12_method_51_code
def yX10_meet : MethodName := ⟨RX10, "meet", "()Z"⟩
theorem dX10_meet_0 : decode cX10_meet 0 = .ok (.aload_n 0, 1) := by decide +kernel
theorem dX10_meet_1 : decode cX10_meet 1 = .ok (.iconst 0, 1) := by decide +kernel
theorem dX10_meet_2 : decode cX10_meet 2 = .ok (.iconst 0, 1) := by decide +kernel
theorem dX10_meet_3 : decode cX10_meet 3 = .ok (.invokevirtual 218, 3) := by decide +kernel
theorem dX10_meet_6 : decode cX10_meet 6 = .ok (.ifCond .ne 30, 3) := by decide +kernel
theorem dX10_meet_9 : decode cX10_meet 9 = .ok (.aload_n 0, 1) := by decide +kernel
theorem dX10_meet_10 : decode cX10_meet 10 = .ok (.iconst 0, 1) := by decide +kernel
theorem dX10_meet_11 : decode cX10_meet 11 = .ok (.iconst 1, 1) := by decide +kernel
theorem dX10_meet_12 : decode cX10_meet 12 = .ok (.invokevirtual 218, 3) := by decide +kernel
theorem dX10_meet_15 : decode cX10_meet 15 = .ok (.ifCond .ne 21, 3) := by decide +kernel
theorem dX10_meet_18 : decode cX10_meet 18 = .ok (.aload_n 0, 1) := by decide +kernel
theorem dX10_meet_19 : decode cX10_meet 19 = .ok (.iconst 1, 1) := by decide +kernel
theorem dX10_meet_20 : decode cX10_meet 20 = .ok (.iconst 0, 1) := by decide +kernel
theorem dX10_meet_21 : decode cX10_meet 21 = .ok (.invokevirtual 218, 3) := by decide +kernel
theorem dX10_meet_24 : decode cX10_meet 24 = .ok (.ifCond .ne 12, 3) := by decide +kernel
theorem dX10_meet_27 : decode cX10_meet 27 = .ok (.aload_n 0, 1) := by decide +kernel
theorem dX10_meet_28 : decode cX10_meet 28 = .ok (.iconst 1, 1) := by decide +kernel
theorem dX10_meet_29 : decode cX10_meet 29 = .ok (.iconst 1, 1) := by decide +kernel
theorem dX10_meet_30 : decode cX10_meet 30 = .ok (.invokevirtual 218, 3) := by decide +kernel
theorem dX10_meet_33 : decode cX10_meet 33 = .ok (.ifCond .eq 7, 3) := by decide +kernel
theorem dX10_meet_36 : decode cX10_meet 36 = .ok (.iconst 1, 1) := by decide +kernel
theorem dX10_meet_37 : decode cX10_meet 37 = .ok (.goto 4, 3) := by decide +kernel
theorem dX10_meet_40 : decode cX10_meet 40 = .ok (.iconst 0, 1) := by decide +kernel
theorem dX10_meet_41 : decode cX10_meet 41 = .ok (.ireturn, 1) := by decide +kernel
abbrev cX10_crossing : ByteArray := prog_12_method_53_code
def yX10_crossing : MethodName := ⟨RX10, "crossing", "(II)Z"⟩
theorem dX10_crossing_0 : decode cX10_crossing 0 = .ok (.iload_n 1, 1) := by decide +kernel
theorem dX10_crossing_1 : decode cX10_crossing 1 = .ok (.iload_n 2, 1) := by decide +kernel
theorem dX10_crossing_2 : decode cX10_crossing 2 = .ok (.if_icmp .ge 27, 3) := by decide +kernel
theorem dX10_crossing_5 : decode cX10_crossing 5 = .ok (.aload_n 0, 1) := by decide +kernel
theorem dX10_crossing_6 : decode cX10_crossing 6 = .ok (.iconst 0, 1) := by decide +kernel
theorem dX10_crossing_7 : decode cX10_crossing 7 = .ok (.iconst 0, 1) := by decide +kernel
theorem dX10_crossing_8 : decode cX10_crossing 8 = .ok (.invokevirtual 218, 3) := by decide +kernel
theorem dX10_crossing_11 : decode cX10_crossing 11 = .ok (.ifCond .eq 16, 3) := by decide +kernel
theorem dX10_crossing_14 : decode cX10_crossing 14 = .ok (.aload_n 0, 1) := by decide +kernel
theorem dX10_crossing_15 : decode cX10_crossing 15 = .ok (.iconst 0, 1) := by decide +kernel
theorem dX10_crossing_16 : decode cX10_crossing 16 = .ok (.iconst 2, 1) := by decide +kernel
theorem dX10_crossing_17 : decode cX10_crossing 17 = .ok (.invokevirtual 218, 3) := by decide +kernel
theorem dX10_crossing_20 : decode cX10_crossing 20 = .ok (.ifCond .eq 7, 3) := by decide +kernel
theorem dX10_crossing_23 : decode cX10_crossing 23 = .ok (.iconst 1, 1) := by decide +kernel
theorem dX10_crossing_24 : decode cX10_crossing 24 = .ok (.goto 4, 3) := by decide +kernel
theorem dX10_crossing_27 : decode cX10_crossing 27 = .ok (.iconst 0, 1) := by decide +kernel
theorem dX10_crossing_28 : decode cX10_crossing 28 = .ok (.ireturn, 1) := by decide +kernel
theorem dX10_crossing_29 : decode cX10_crossing 29 = .ok (.iload_n 1, 1) := by decide +kernel
theorem dX10_crossing_30 : decode cX10_crossing 30 = .ok (.iload_n 2, 1) := by decide +kernel
theorem dX10_crossing_31 : decode cX10_crossing 31 = .ok (.if_icmp .le 27, 3) := by decide +kernel
theorem dX10_crossing_34 : decode cX10_crossing 34 = .ok (.aload_n 0, 1) := by decide +kernel
theorem dX10_crossing_35 : decode cX10_crossing 35 = .ok (.iconst 0, 1) := by decide +kernel
theorem dX10_crossing_36 : decode cX10_crossing 36 = .ok (.iconst 0, 1) := by decide +kernel
theorem dX10_crossing_37 : decode cX10_crossing 37 = .ok (.invokevirtual 218, 3) := by decide +kernel
theorem dX10_crossing_40 : decode cX10_crossing 40 = .ok (.ifCond .eq 16, 3) := by decide +kernel
theorem dX10_crossing_43 : decode cX10_crossing 43 = .ok (.aload_n 0, 1) := by decide +kernel
theorem dX10_crossing_44 : decode cX10_crossing 44 = .ok (.iconst 2, 1) := by decide +kernel
theorem dX10_crossing_45 : decode cX10_crossing 45 = .ok (.iconst 0, 1) := by decide +kernel
theorem dX10_crossing_46 : decode cX10_crossing 46 = .ok (.invokevirtual 218, 3) := by decide +kernel
theorem dX10_crossing_49 : decode cX10_crossing 49 = .ok (.ifCond .eq 7, 3) := by decide +kernel
theorem dX10_crossing_52 : decode cX10_crossing 52 = .ok (.iconst 1, 1) := by decide +kernel
theorem dX10_crossing_53 : decode cX10_crossing 53 = .ok (.goto 4, 3) := by decide +kernel
theorem dX10_crossing_56 : decode cX10_crossing 56 = .ok (.iconst 0, 1) := by decide +kernel
theorem dX10_crossing_57 : decode cX10_crossing 57 = .ok (.ireturn, 1) := by decide +kernel
theorem dX10_crossing_58 : decode cX10_crossing 58 = .ok (.iload_n 1, 1) := by decide +kernel
theorem dX10_crossing_59 : decode cX10_crossing 59 = .ok (.iconst 1, 1) := by decide +kernel
theorem dX10_crossing_60 : decode cX10_crossing 60 = .ok (.if_icmp .ne 16, 3) := by decide +kernel
theorem dX10_crossing_63 : decode cX10_crossing 63 = .ok (.aload_n 0, 1) := by decide +kernel
theorem dX10_crossing_64 : decode cX10_crossing 64 = .ok (.getfield 37, 3) := by decide +kernel
theorem dX10_crossing_67 : decode cX10_crossing 67 = .ok (.iconst 0, 1) := by decide +kernel
theorem dX10_crossing_68 : decode cX10_crossing 68 = .ok (.iaload, 1) := by decide +kernel
theorem dX10_crossing_69 : decode cX10_crossing 69 = .ok (.ifCond .ne 7, 3) := by decide +kernel
theorem dX10_crossing_72 : decode cX10_crossing 72 = .ok (.iconst 1, 1) := by decide +kernel
theorem dX10_crossing_73 : decode cX10_crossing 73 = .ok (.goto 4, 3) := by decide +kernel
theorem dX10_crossing_76 : decode cX10_crossing 76 = .ok (.iconst 0, 1) := by decide +kernel
theorem dX10_crossing_77 : decode cX10_crossing 77 = .ok (.ireturn, 1) := by decide +kernel
abbrev cX10_dimension : ByteArray := prog_12_method_55_code
def yX10_dimension : MethodName := ⟨RX10, "dimension", "(I)I"⟩
theorem dX10_dimension_0 : decode cX10_dimension 0 = .ok (.aload_n 0, 1) := by decide +kernel
theorem dX10_dimension_1 : decode cX10_dimension 1 = .ok (.iconst 0, 1) := by decide +kernel
theorem dX10_dimension_2 : decode cX10_dimension 2 = .ok (.putfield 54, 3) := by decide +kernel
theorem dX10_dimension_5 : decode cX10_dimension 5 = .ok (.iload_n 1, 1) := by decide +kernel
theorem dX10_dimension_6 : decode cX10_dimension 6 = .ok (.invokestatic 64, 3) := by decide +kernel
theorem dX10_dimension_9 : decode cX10_dimension 9 = .ok (.ifCond .ne 9, 3) := by decide +kernel
theorem dX10_dimension_12 : decode cX10_dimension 12 = .ok (.aload_n 0, 1) := by decide +kernel
theorem dX10_dimension_13 : decode cX10_dimension 13 = .ok (.iconst 1, 1) := by decide +kernel
theorem dX10_dimension_14 : decode cX10_dimension 14 = .ok (.invokevirtual 68, 3) := by decide +kernel
theorem dX10_dimension_17 : decode cX10_dimension 17 = .ok (.ireturn, 1) := by decide +kernel
theorem dX10_dimension_18 : decode cX10_dimension 18 = .ok (.aload_n 0, 1) := by decide +kernel
theorem dX10_dimension_19 : decode cX10_dimension 19 = .ok (.invokevirtual 212, 3) := by decide +kernel
theorem dX10_dimension_22 : decode cX10_dimension 22 = .ok (.aload_n 0, 1) := by decide +kernel
theorem dX10_dimension_23 : decode cX10_dimension 23 = .ok (.iload_n 1, 1) := by decide +kernel
theorem dX10_dimension_24 : decode cX10_dimension 24 = .ok (.invokevirtual 221, 3) := by decide +kernel
theorem dX10_dimension_27 : decode cX10_dimension 27 = .ok (.istore_n 2, 1) := by decide +kernel
theorem dX10_dimension_28 : decode cX10_dimension 28 = .ok (.iload_n 2, 1) := by decide +kernel
theorem dX10_dimension_29 : decode cX10_dimension 29 = .ok (.ifCond .ge 15, 3) := by decide +kernel
theorem dX10_dimension_32 : decode cX10_dimension 32 = .ok (.aload_n 0, 1) := by decide +kernel
theorem dX10_dimension_33 : decode cX10_dimension 33 = .ok (.iload_n 1, 1) := by decide +kernel
theorem dX10_dimension_34 : decode cX10_dimension 34 = .ok (.invokevirtual 215, 3) := by decide +kernel
theorem dX10_dimension_37 : decode cX10_dimension 37 = .ok (.ifCond .eq 7, 3) := by decide +kernel
theorem dX10_dimension_40 : decode cX10_dimension 40 = .ok (.iconst 1, 1) := by decide +kernel
theorem dX10_dimension_41 : decode cX10_dimension 41 = .ok (.goto 4, 3) := by decide +kernel
theorem dX10_dimension_44 : decode cX10_dimension 44 = .ok (.iload_n 2, 1) := by decide +kernel
theorem dX10_dimension_45 : decode cX10_dimension 45 = .ok (.ireturn, 1) := by decide +kernel
abbrev cX10_count : ByteArray := prog_12_method_56_code
def yX10_count : MethodName := ⟨RX10, "count", "(II)I"⟩
theorem dX10_count_0 : decode cX10_count 0 = .ok (.aload_n 0, 1) := by decide +kernel
theorem dX10_count_1 : decode cX10_count 1 = .ok (.iconst 0, 1) := by decide +kernel
theorem dX10_count_2 : decode cX10_count 2 = .ok (.putfield 54, 3) := by decide +kernel
theorem dX10_count_5 : decode cX10_count 5 = .ok (.iload_n 1, 1) := by decide +kernel
theorem dX10_count_6 : decode cX10_count 6 = .ok (.invokestatic 64, 3) := by decide +kernel
theorem dX10_count_9 : decode cX10_count 9 = .ok (.ifCond .eq 12, 3) := by decide +kernel
theorem dX10_count_12 : decode cX10_count 12 = .ok (.iload_n 2, 1) := by decide +kernel
theorem dX10_count_13 : decode cX10_count 13 = .ok (.iconst 0, 1) := by decide +kernel
theorem dX10_count_14 : decode cX10_count 14 = .ok (.iconst 2, 1) := by decide +kernel
theorem dX10_count_15 : decode cX10_count 15 = .ok (.invokestatic 60, 3) := by decide +kernel
theorem dX10_count_18 : decode cX10_count 18 = .ok (.ifCond .ne 9, 3) := by decide +kernel
theorem dX10_count_21 : decode cX10_count 21 = .ok (.aload_n 0, 1) := by decide +kernel
theorem dX10_count_22 : decode cX10_count 22 = .ok (.iconst 1, 1) := by decide +kernel
theorem dX10_count_23 : decode cX10_count 23 = .ok (.invokevirtual 68, 3) := by decide +kernel
theorem dX10_count_26 : decode cX10_count 26 = .ok (.ireturn, 1) := by decide +kernel
theorem dX10_count_27 : decode cX10_count 27 = .ok (.iload_n 2, 1) := by decide +kernel
theorem dX10_count_28 : decode cX10_count 28 = .ok (.ifCond .ne 12, 3) := by decide +kernel
theorem dX10_count_31 : decode cX10_count 31 = .ok (.aload_n 0, 1) := by decide +kernel
theorem dX10_count_32 : decode cX10_count 32 = .ok (.getfield 7, 3) := by decide +kernel
theorem dX10_count_35 : decode cX10_count 35 = .ok (.iload_n 1, 1) := by decide +kernel
theorem dX10_count_36 : decode cX10_count 36 = .ok (.iaload, 1) := by decide +kernel
theorem dX10_count_37 : decode cX10_count 37 = .ok (.goto 23, 3) := by decide +kernel
theorem dX10_count_40 : decode cX10_count 40 = .ok (.iload_n 2, 1) := by decide +kernel
theorem dX10_count_41 : decode cX10_count 41 = .ok (.iconst 1, 1) := by decide +kernel
theorem dX10_count_42 : decode cX10_count 42 = .ok (.if_icmp .ne 12, 3) := by decide +kernel
theorem dX10_count_45 : decode cX10_count 45 = .ok (.aload_n 0, 1) := by decide +kernel
theorem dX10_count_46 : decode cX10_count 46 = .ok (.getfield 16, 3) := by decide +kernel
theorem dX10_count_49 : decode cX10_count 49 = .ok (.iload_n 1, 1) := by decide +kernel
theorem dX10_count_50 : decode cX10_count 50 = .ok (.iaload, 1) := by decide +kernel
theorem dX10_count_51 : decode cX10_count 51 = .ok (.goto 9, 3) := by decide +kernel
theorem dX10_count_54 : decode cX10_count 54 = .ok (.aload_n 0, 1) := by decide +kernel
theorem dX10_count_55 : decode cX10_count 55 = .ok (.getfield 13, 3) := by decide +kernel
theorem dX10_count_58 : decode cX10_count 58 = .ok (.iload_n 1, 1) := by decide +kernel
theorem dX10_count_59 : decode cX10_count 59 = .ok (.iaload, 1) := by decide +kernel
theorem dX10_count_60 : decode cX10_count 60 = .ok (.ireturn, 1) := by decide +kernel
theorem q80 : (Jvm.Cond.initialized "ShapeRelatorModel") ∈ lw_all := lw_g (lw_at lw_m1 10 rfl) rfl
theorem q964 : (Jvm.Cond.instantiable "ShapeRelatorModel" (21 : Nat)) ∈ lw_all := lw_g (lw_at lw_m4 174 rfl) rfl
theorem q966 : (Jvm.Cond.instanceMethod ({ cls := "ShapeRelatorModel", name := "<init>", desc := "()V" } : Jvm.MethodName)) ∈ lw_all := lw_g (lw_at lw_m4 176 rfl) rfl
theorem q967 : (Jvm.Cond.code ({ cls := "ShapeRelatorModel", name := "<init>", desc := "()V" } : Jvm.MethodName) prog_12_method_1_code (1 : Nat) (Option.none : Option Jvm.ClassFile.FieldType)) ∈ lw_all := lw_g (lw_at lw_m4 177 rfl) rfl
theorem q968 : (Jvm.Cond.methodLink "ShapeRelatorModel" (1 : Nat) ({ cls := "java/lang/Object", name := "<init>", desc := "()V" } : Jvm.MethodName)) ∈ lw_all := lw_g (lw_at lw_m4 178 rfl) rfl
theorem q969 : (Jvm.Cond.fieldLink "ShapeRelatorModel" (54 : Nat) "ShapeRelatorModel" "thrown" "I") ∈ lw_all := lw_g (lw_at lw_m4 179 rfl) rfl
theorem q970 : (Jvm.Cond.fieldLink "ShapeRelatorModel" (7 : Nat) "ShapeRelatorModel" "kinds" "[I") ∈ lw_all := lw_g (lw_at lw_m4 180 rfl) rfl
theorem q971 : (Jvm.Cond.fieldLink "ShapeRelatorModel" (13 : Nat) "ShapeRelatorModel" "points" "[I") ∈ lw_all := lw_g (lw_at lw_m4 181 rfl) rfl
theorem q972 : (Jvm.Cond.fieldLink "ShapeRelatorModel" (16 : Nat) "ShapeRelatorModel" "parts" "[I") ∈ lw_all := lw_g (lw_at lw_m4 182 rfl) rfl
theorem q973 : (Jvm.Cond.fieldLink "ShapeRelatorModel" (19 : Nat) "ShapeRelatorModel" "begins" "[I") ∈ lw_all := lw_g (lw_at lw_m4 183 rfl) rfl
theorem q974 : (Jvm.Cond.fieldLink "ShapeRelatorModel" (22 : Nat) "ShapeRelatorModel" "xs" "[I") ∈ lw_all := lw_g (lw_at lw_m4 184 rfl) rfl
theorem q975 : (Jvm.Cond.fieldLink "ShapeRelatorModel" (25 : Nat) "ShapeRelatorModel" "ys" "[I") ∈ lw_all := lw_g (lw_at lw_m4 185 rfl) rfl
theorem q976 : (Jvm.Cond.fieldLink "ShapeRelatorModel" (79 : Nat) "ShapeRelatorModel" "segments" "I") ∈ lw_all := lw_g (lw_at lw_m4 186 rfl) rfl
theorem q977 : (Jvm.Cond.fieldLink "ShapeRelatorModel" (28 : Nat) "ShapeRelatorModel" "from" "[I") ∈ lw_all := lw_g (lw_at lw_m4 187 rfl) rfl
theorem q978 : (Jvm.Cond.fieldLink "ShapeRelatorModel" (31 : Nat) "ShapeRelatorModel" "to" "[I") ∈ lw_all := lw_g (lw_at lw_m4 188 rfl) rfl
theorem q979 : (Jvm.Cond.fieldLink "ShapeRelatorModel" (34 : Nat) "ShapeRelatorModel" "whose" "[I") ∈ lw_all := lw_g (lw_at lw_m4 189 rfl) rfl
theorem q980 : (Jvm.Cond.fieldLink "ShapeRelatorModel" (37 : Nat) "ShapeRelatorModel" "matrix" "[I") ∈ lw_all := lw_g (lw_at lw_m4 190 rfl) rfl
theorem q981 : (Jvm.Cond.fieldLink "ShapeRelatorModel" (40 : Nat) "ShapeRelatorModel" "hasArea" "[Z") ∈ lw_all := lw_g (lw_at lw_m4 191 rfl) rfl
theorem q982 : (Jvm.Cond.fieldLink "ShapeRelatorModel" (104 : Nat) "ShapeRelatorModel" "x0" "J") ∈ lw_all := lw_g (lw_at lw_m4 192 rfl) rfl
theorem q983 : (Jvm.Cond.fieldLink "ShapeRelatorModel" (108 : Nat) "ShapeRelatorModel" "y0" "J") ∈ lw_all := lw_g (lw_at lw_m4 193 rfl) rfl
theorem q984 : (Jvm.Cond.fieldLink "ShapeRelatorModel" (111 : Nat) "ShapeRelatorModel" "dx" "J") ∈ lw_all := lw_g (lw_at lw_m4 194 rfl) rfl
theorem q985 : (Jvm.Cond.fieldLink "ShapeRelatorModel" (114 : Nat) "ShapeRelatorModel" "dy" "J") ∈ lw_all := lw_g (lw_at lw_m4 195 rfl) rfl
theorem q986 : (Jvm.Cond.fieldLink "ShapeRelatorModel" (44 : Nat) "ShapeRelatorModel" "z" "[J") ∈ lw_all := lw_g (lw_at lw_m4 196 rfl) rfl
theorem q987 : (Jvm.Cond.fieldLink "ShapeRelatorModel" (176 : Nat) "ShapeRelatorModel" "cuts" "I") ∈ lw_all := lw_g (lw_at lw_m4 197 rfl) rfl
theorem q988 : (Jvm.Cond.fieldLink "ShapeRelatorModel" (48 : Nat) "ShapeRelatorModel" "overs" "[J") ∈ lw_all := lw_g (lw_at lw_m4 198 rfl) rfl
theorem q989 : (Jvm.Cond.fieldLink "ShapeRelatorModel" (51 : Nat) "ShapeRelatorModel" "unders" "[J") ∈ lw_all := lw_g (lw_at lw_m4 199 rfl) rfl
theorem q990 : (Jvm.Cond.lays "ShapeRelatorModel" "ShapeRelatorModel" "thrown" "I") ∈ lw_all := lw_g (lw_at lw_m4 200 rfl) rfl
theorem q991 : (Jvm.Cond.soleField "ShapeRelatorModel" "thrown") ∈ lw_all := lw_g (lw_at lw_m4 201 rfl) rfl
theorem q992 : (Jvm.Cond.laysFinal "ShapeRelatorModel" "ShapeRelatorModel" "kinds" "[I") ∈ lw_all := lw_g (lw_at lw_m4 202 rfl) rfl
theorem q993 : (Jvm.Cond.soleField "ShapeRelatorModel" "kinds") ∈ lw_all := lw_g (lw_at lw_m4 203 rfl) rfl
theorem q994 : (Jvm.Cond.laysFinal "ShapeRelatorModel" "ShapeRelatorModel" "points" "[I") ∈ lw_all := lw_g (lw_at lw_m4 204 rfl) rfl
theorem q995 : (Jvm.Cond.soleField "ShapeRelatorModel" "points") ∈ lw_all := lw_g (lw_at lw_m4 205 rfl) rfl
theorem q996 : (Jvm.Cond.laysFinal "ShapeRelatorModel" "ShapeRelatorModel" "parts" "[I") ∈ lw_all := lw_g (lw_at lw_m4 206 rfl) rfl
theorem q997 : (Jvm.Cond.soleField "ShapeRelatorModel" "parts") ∈ lw_all := lw_g (lw_at lw_m4 207 rfl) rfl
theorem q998 : (Jvm.Cond.laysFinal "ShapeRelatorModel" "ShapeRelatorModel" "begins" "[I") ∈ lw_all := lw_g (lw_at lw_m4 208 rfl) rfl
theorem q999 : (Jvm.Cond.soleField "ShapeRelatorModel" "begins") ∈ lw_all := lw_g (lw_at lw_m4 209 rfl) rfl
theorem q1000 : (Jvm.Cond.laysFinal "ShapeRelatorModel" "ShapeRelatorModel" "xs" "[I") ∈ lw_all := lw_g (lw_at lw_m4 210 rfl) rfl
theorem q1001 : (Jvm.Cond.soleField "ShapeRelatorModel" "xs") ∈ lw_all := lw_g (lw_at lw_m4 211 rfl) rfl
theorem q1002 : (Jvm.Cond.laysFinal "ShapeRelatorModel" "ShapeRelatorModel" "ys" "[I") ∈ lw_all := lw_g (lw_at lw_m4 212 rfl) rfl
theorem q1003 : (Jvm.Cond.soleField "ShapeRelatorModel" "ys") ∈ lw_all := lw_g (lw_at lw_m4 213 rfl) rfl
theorem q1004 : (Jvm.Cond.lays "ShapeRelatorModel" "ShapeRelatorModel" "segments" "I") ∈ lw_all := lw_g (lw_at lw_m4 214 rfl) rfl
theorem q1005 : (Jvm.Cond.soleField "ShapeRelatorModel" "segments") ∈ lw_all := lw_g (lw_at lw_m4 215 rfl) rfl
theorem q1006 : (Jvm.Cond.laysFinal "ShapeRelatorModel" "ShapeRelatorModel" "from" "[I") ∈ lw_all := lw_g (lw_at lw_m4 216 rfl) rfl
theorem q1007 : (Jvm.Cond.soleField "ShapeRelatorModel" "from") ∈ lw_all := lw_g (lw_at lw_m4 217 rfl) rfl
theorem q1008 : (Jvm.Cond.laysFinal "ShapeRelatorModel" "ShapeRelatorModel" "to" "[I") ∈ lw_all := lw_g (lw_at lw_m4 218 rfl) rfl
theorem q1009 : (Jvm.Cond.soleField "ShapeRelatorModel" "to") ∈ lw_all := lw_g (lw_at lw_m4 219 rfl) rfl
theorem q1010 : (Jvm.Cond.laysFinal "ShapeRelatorModel" "ShapeRelatorModel" "whose" "[I") ∈ lw_all := lw_g (lw_at lw_m4 220 rfl) rfl
theorem q1011 : (Jvm.Cond.soleField "ShapeRelatorModel" "whose") ∈ lw_all := lw_g (lw_at lw_m4 221 rfl) rfl
theorem q1012 : (Jvm.Cond.laysFinal "ShapeRelatorModel" "ShapeRelatorModel" "matrix" "[I") ∈ lw_all := lw_g (lw_at lw_m4 222 rfl) rfl
theorem q1013 : (Jvm.Cond.soleField "ShapeRelatorModel" "matrix") ∈ lw_all := lw_g (lw_at lw_m4 223 rfl) rfl
theorem q1014 : (Jvm.Cond.laysFinal "ShapeRelatorModel" "ShapeRelatorModel" "hasArea" "[Z") ∈ lw_all := lw_g (lw_at lw_m4 224 rfl) rfl
theorem q1015 : (Jvm.Cond.soleField "ShapeRelatorModel" "hasArea") ∈ lw_all := lw_g (lw_at lw_m4 225 rfl) rfl
theorem q1016 : (Jvm.Cond.lays "ShapeRelatorModel" "ShapeRelatorModel" "x0" "J") ∈ lw_all := lw_g (lw_at lw_m4 226 rfl) rfl
theorem q1017 : (Jvm.Cond.soleField "ShapeRelatorModel" "x0") ∈ lw_all := lw_g (lw_at lw_m4 227 rfl) rfl
theorem q1018 : (Jvm.Cond.lays "ShapeRelatorModel" "ShapeRelatorModel" "y0" "J") ∈ lw_all := lw_g (lw_at lw_m4 228 rfl) rfl
theorem q1019 : (Jvm.Cond.soleField "ShapeRelatorModel" "y0") ∈ lw_all := lw_g (lw_at lw_m4 229 rfl) rfl
theorem q1020 : (Jvm.Cond.lays "ShapeRelatorModel" "ShapeRelatorModel" "dx" "J") ∈ lw_all := lw_g (lw_at lw_m4 230 rfl) rfl
theorem q1021 : (Jvm.Cond.soleField "ShapeRelatorModel" "dx") ∈ lw_all := lw_g (lw_at lw_m4 231 rfl) rfl
theorem q1022 : (Jvm.Cond.lays "ShapeRelatorModel" "ShapeRelatorModel" "dy" "J") ∈ lw_all := lw_g (lw_at lw_m4 232 rfl) rfl
theorem q1023 : (Jvm.Cond.soleField "ShapeRelatorModel" "dy") ∈ lw_all := lw_g (lw_at lw_m4 233 rfl) rfl
theorem q1024 : (Jvm.Cond.laysFinal "ShapeRelatorModel" "ShapeRelatorModel" "z" "[J") ∈ lw_all := lw_g (lw_at lw_m4 234 rfl) rfl
theorem q1025 : (Jvm.Cond.soleField "ShapeRelatorModel" "z") ∈ lw_all := lw_g (lw_at lw_m4 235 rfl) rfl
theorem q1026 : (Jvm.Cond.lays "ShapeRelatorModel" "ShapeRelatorModel" "cuts" "I") ∈ lw_all := lw_g (lw_at lw_m4 236 rfl) rfl
theorem q1027 : (Jvm.Cond.soleField "ShapeRelatorModel" "cuts") ∈ lw_all := lw_g (lw_at lw_m4 237 rfl) rfl
theorem q1028 : (Jvm.Cond.laysFinal "ShapeRelatorModel" "ShapeRelatorModel" "overs" "[J") ∈ lw_all := lw_g (lw_at lw_m4 238 rfl) rfl
theorem q1029 : (Jvm.Cond.soleField "ShapeRelatorModel" "overs") ∈ lw_all := lw_g (lw_at lw_m4 239 rfl) rfl
theorem q1030 : (Jvm.Cond.laysFinal "ShapeRelatorModel" "ShapeRelatorModel" "unders" "[J") ∈ lw_all := lw_g (lw_at lw_m5 0 rfl) rfl
theorem q1031 : (Jvm.Cond.soleField "ShapeRelatorModel" "unders") ∈ lw_all := lw_g (lw_at lw_m5 1 rfl) rfl
theorem q1032 : (Jvm.Cond.superclass "ShapeRelatorModel" "java/lang/Object") ∈ lw_all := lw_g (lw_at lw_m5 2 rfl) rfl
theorem q1034 : (Jvm.Cond.instanceMethod ({ cls := "ShapeRelatorModel", name := "thrown", desc := "()I" } : Jvm.MethodName)) ∈ lw_all := lw_g (lw_at lw_m5 4 rfl) rfl
theorem q1035 : (Jvm.Cond.selects "ShapeRelatorModel" ({ cls := "ShapeRelatorModel", name := "thrown", desc := "()I" } : Jvm.MethodName) ({ cls := "ShapeRelatorModel", name := "thrown", desc := "()I" } : Jvm.MethodName)) ∈ lw_all := lw_g (lw_at lw_m5 5 rfl) rfl
theorem q1036 : (Jvm.Cond.code ({ cls := "ShapeRelatorModel", name := "thrown", desc := "()I" } : Jvm.MethodName) prog_12_method_2_code (1 : Nat) (Option.some Jvm.ClassFile.FieldType.int)) ∈ lw_all := lw_g (lw_at lw_m5 6 rfl) rfl
theorem q1038 : (Jvm.Cond.instanceMethod ({ cls := "ShapeRelatorModel", name := "shape", desc := "(II)I" } : Jvm.MethodName)) ∈ lw_all := lw_g (lw_at lw_m5 8 rfl) rfl
theorem q1039 : (Jvm.Cond.selects "ShapeRelatorModel" ({ cls := "ShapeRelatorModel", name := "shape", desc := "(II)I" } : Jvm.MethodName) ({ cls := "ShapeRelatorModel", name := "shape", desc := "(II)I" } : Jvm.MethodName)) ∈ lw_all := lw_g (lw_at lw_m5 9 rfl) rfl
theorem q1040 : (Jvm.Cond.code ({ cls := "ShapeRelatorModel", name := "shape", desc := "(II)I" } : Jvm.MethodName) prog_12_method_7_code (4 : Nat) (Option.some Jvm.ClassFile.FieldType.int)) ∈ lw_all := lw_g (lw_at lw_m5 10 rfl) rfl
theorem q1041 : (Jvm.Cond.methodLink "ShapeRelatorModel" (64 : Nat) ({ cls := "ShapeRelatorModel", name := "isShape", desc := "(I)Z" } : Jvm.MethodName)) ∈ lw_all := lw_g (lw_at lw_m5 11 rfl) rfl
theorem q1042 : (Jvm.Cond.static ({ cls := "ShapeRelatorModel", name := "isShape", desc := "(I)Z" } : Jvm.MethodName)) ∈ lw_all := lw_g (lw_at lw_m5 12 rfl) rfl
theorem q1043 : (Jvm.Cond.code ({ cls := "ShapeRelatorModel", name := "isShape", desc := "(I)Z" } : Jvm.MethodName) prog_12_method_6_code (1 : Nat) (Option.some Jvm.ClassFile.FieldType.boolean)) ∈ lw_all := lw_g (lw_at lw_m5 13 rfl) rfl
theorem q1044 : (Jvm.Cond.methodLink "ShapeRelatorModel" (60 : Nat) ({ cls := "ShapeRelatorModel", name := "within", desc := "(III)Z" } : Jvm.MethodName)) ∈ lw_all := lw_g (lw_at lw_m5 14 rfl) rfl
theorem q1045 : (Jvm.Cond.static ({ cls := "ShapeRelatorModel", name := "within", desc := "(III)Z" } : Jvm.MethodName)) ∈ lw_all := lw_g (lw_at lw_m5 15 rfl) rfl
theorem q1046 : (Jvm.Cond.code ({ cls := "ShapeRelatorModel", name := "within", desc := "(III)Z" } : Jvm.MethodName) prog_12_method_4_code (3 : Nat) (Option.some Jvm.ClassFile.FieldType.boolean)) ∈ lw_all := lw_g (lw_at lw_m5 16 rfl) rfl
theorem q1047 : (Jvm.Cond.methodLink "ShapeRelatorModel" (68 : Nat) ({ cls := "ShapeRelatorModel", name := "fail", desc := "(I)I" } : Jvm.MethodName)) ∈ lw_all := lw_g (lw_at lw_m5 17 rfl) rfl
theorem q1048 : (Jvm.Cond.privateMethod ({ cls := "ShapeRelatorModel", name := "fail", desc := "(I)I" } : Jvm.MethodName)) ∈ lw_tbl := lw_at lw_m5 18 rfl
theorem q1049 : (Jvm.Cond.instanceMethod ({ cls := "ShapeRelatorModel", name := "fail", desc := "(I)I" } : Jvm.MethodName)) ∈ lw_all := lw_g (lw_at lw_m5 19 rfl) rfl
theorem q1050 : (Jvm.Cond.code ({ cls := "ShapeRelatorModel", name := "fail", desc := "(I)I" } : Jvm.MethodName) prog_12_method_3_code (2 : Nat) (Option.some Jvm.ClassFile.FieldType.int)) ∈ lw_all := lw_g (lw_at lw_m5 20 rfl) rfl
theorem q1052 : (Jvm.Cond.instanceMethod ({ cls := "ShapeRelatorModel", name := "part", desc := "(I)I" } : Jvm.MethodName)) ∈ lw_all := lw_g (lw_at lw_m5 22 rfl) rfl
theorem q1053 : (Jvm.Cond.selects "ShapeRelatorModel" ({ cls := "ShapeRelatorModel", name := "part", desc := "(I)I" } : Jvm.MethodName) ({ cls := "ShapeRelatorModel", name := "part", desc := "(I)I" } : Jvm.MethodName)) ∈ lw_all := lw_g (lw_at lw_m5 23 rfl) rfl
theorem q1054 : (Jvm.Cond.code ({ cls := "ShapeRelatorModel", name := "part", desc := "(I)I" } : Jvm.MethodName) prog_12_method_8_code (2 : Nat) (Option.some Jvm.ClassFile.FieldType.int)) ∈ lw_all := lw_g (lw_at lw_m5 24 rfl) rfl
theorem q1056 : (Jvm.Cond.instanceMethod ({ cls := "ShapeRelatorModel", name := "point", desc := "(III)I" } : Jvm.MethodName)) ∈ lw_all := lw_g (lw_at lw_m5 26 rfl) rfl
theorem q1057 : (Jvm.Cond.selects "ShapeRelatorModel" ({ cls := "ShapeRelatorModel", name := "point", desc := "(III)I" } : Jvm.MethodName) ({ cls := "ShapeRelatorModel", name := "point", desc := "(III)I" } : Jvm.MethodName)) ∈ lw_all := lw_g (lw_at lw_m5 27 rfl) rfl
theorem q1058 : (Jvm.Cond.code ({ cls := "ShapeRelatorModel", name := "point", desc := "(III)I" } : Jvm.MethodName) prog_12_method_9_code (4 : Nat) (Option.some Jvm.ClassFile.FieldType.int)) ∈ lw_all := lw_g (lw_at lw_m5 28 rfl) rfl
theorem q1059 : (Jvm.Cond.methodLink "ShapeRelatorModel" (72 : Nat) ({ cls := "ShapeRelatorModel", name := "isFar", desc := "(I)Z" } : Jvm.MethodName)) ∈ lw_all := lw_g (lw_at lw_m5 29 rfl) rfl
theorem q1060 : (Jvm.Cond.static ({ cls := "ShapeRelatorModel", name := "isFar", desc := "(I)Z" } : Jvm.MethodName)) ∈ lw_all := lw_g (lw_at lw_m5 30 rfl) rfl
theorem q1061 : (Jvm.Cond.code ({ cls := "ShapeRelatorModel", name := "isFar", desc := "(I)Z" } : Jvm.MethodName) prog_12_method_5_code (1 : Nat) (Option.some Jvm.ClassFile.FieldType.boolean)) ∈ lw_all := lw_g (lw_at lw_m5 31 rfl) rfl
theorem q1062 : (Jvm.Cond.constant "ShapeRelatorModel" (58 : Nat) (-500000000 : Int32)) ∈ lw_all := lw_g (lw_at lw_m5 32 rfl) rfl
theorem q1063 : (Jvm.Cond.constant "ShapeRelatorModel" (59 : Nat) (500000000 : Int32)) ∈ lw_all := lw_g (lw_at lw_m5 33 rfl) rfl
theorem q1065 : (Jvm.Cond.instanceMethod ({ cls := "ShapeRelatorModel", name := "locate", desc := "(III)I" } : Jvm.MethodName)) ∈ lw_all := lw_g (lw_at lw_m5 35 rfl) rfl
theorem q1066 : (Jvm.Cond.selects "ShapeRelatorModel" ({ cls := "ShapeRelatorModel", name := "locate", desc := "(III)I" } : Jvm.MethodName) ({ cls := "ShapeRelatorModel", name := "locate", desc := "(III)I" } : Jvm.MethodName)) ∈ lw_all := lw_g (lw_at lw_m5 36 rfl) rfl
theorem q1067 : (Jvm.Cond.code ({ cls := "ShapeRelatorModel", name := "locate", desc := "(III)I" } : Jvm.MethodName) prog_12_method_35_code (4 : Nat) (Option.some Jvm.ClassFile.FieldType.int)) ∈ lw_all := lw_g (lw_at lw_m5 37 rfl) rfl
theorem q1068 : (Jvm.Cond.methodLink "ShapeRelatorModel" (162 : Nat) ({ cls := "ShapeRelatorModel", name := "gather", desc := "()V" } : Jvm.MethodName)) ∈ lw_all := lw_g (lw_at lw_m5 38 rfl) rfl
theorem q1069 : (Jvm.Cond.privateMethod ({ cls := "ShapeRelatorModel", name := "gather", desc := "()V" } : Jvm.MethodName)) ∈ lw_tbl := lw_at lw_m5 39 rfl
theorem q1070 : (Jvm.Cond.instanceMethod ({ cls := "ShapeRelatorModel", name := "gather", desc := "()V" } : Jvm.MethodName)) ∈ lw_all := lw_g (lw_at lw_m5 40 rfl) rfl
theorem q1071 : (Jvm.Cond.code ({ cls := "ShapeRelatorModel", name := "gather", desc := "()V" } : Jvm.MethodName) prog_12_method_14_code (6 : Nat) (Option.none : Option Jvm.ClassFile.FieldType)) ∈ lw_all := lw_g (lw_at lw_m5 41 rfl) rfl
theorem q1072 : (Jvm.Cond.methodLink "ShapeRelatorModel" (82 : Nat) ({ cls := "ShapeRelatorModel", name := "first", desc := "(II)I" } : Jvm.MethodName)) ∈ lw_all := lw_g (lw_at lw_m5 42 rfl) rfl
theorem q1073 : (Jvm.Cond.privateMethod ({ cls := "ShapeRelatorModel", name := "first", desc := "(II)I" } : Jvm.MethodName)) ∈ lw_tbl := lw_at lw_m5 43 rfl
theorem q1074 : (Jvm.Cond.instanceMethod ({ cls := "ShapeRelatorModel", name := "first", desc := "(II)I" } : Jvm.MethodName)) ∈ lw_all := lw_g (lw_at lw_m5 44 rfl) rfl
theorem q1075 : (Jvm.Cond.code ({ cls := "ShapeRelatorModel", name := "first", desc := "(II)I" } : Jvm.MethodName) prog_12_method_10_code (3 : Nat) (Option.some Jvm.ClassFile.FieldType.int)) ∈ lw_all := lw_g (lw_at lw_m5 45 rfl) rfl
theorem q1076 : (Jvm.Cond.methodLink "ShapeRelatorModel" (86 : Nat) ({ cls := "ShapeRelatorModel", name := "end", desc := "(II)I" } : Jvm.MethodName)) ∈ lw_all := lw_g (lw_at lw_m5 46 rfl) rfl
theorem q1077 : (Jvm.Cond.privateMethod ({ cls := "ShapeRelatorModel", name := "end", desc := "(II)I" } : Jvm.MethodName)) ∈ lw_tbl := lw_at lw_m5 47 rfl
theorem q1078 : (Jvm.Cond.instanceMethod ({ cls := "ShapeRelatorModel", name := "end", desc := "(II)I" } : Jvm.MethodName)) ∈ lw_all := lw_g (lw_at lw_m5 48 rfl) rfl
theorem q1079 : (Jvm.Cond.code ({ cls := "ShapeRelatorModel", name := "end", desc := "(II)I" } : Jvm.MethodName) prog_12_method_11_code (3 : Nat) (Option.some Jvm.ClassFile.FieldType.int)) ∈ lw_all := lw_g (lw_at lw_m5 49 rfl) rfl
theorem q1080 : (Jvm.Cond.methodLink "ShapeRelatorModel" (89 : Nat) ({ cls := "ShapeRelatorModel", name := "join", desc := "(III)V" } : Jvm.MethodName)) ∈ lw_all := lw_g (lw_at lw_m5 50 rfl) rfl
theorem q1081 : (Jvm.Cond.privateMethod ({ cls := "ShapeRelatorModel", name := "join", desc := "(III)V" } : Jvm.MethodName)) ∈ lw_tbl := lw_at lw_m5 51 rfl
theorem q1082 : (Jvm.Cond.instanceMethod ({ cls := "ShapeRelatorModel", name := "join", desc := "(III)V" } : Jvm.MethodName)) ∈ lw_all := lw_g (lw_at lw_m5 52 rfl) rfl
theorem q1083 : (Jvm.Cond.code ({ cls := "ShapeRelatorModel", name := "join", desc := "(III)V" } : Jvm.MethodName) prog_12_method_13_code (4 : Nat) (Option.none : Option Jvm.ClassFile.FieldType)) ∈ lw_all := lw_g (lw_at lw_m5 53 rfl) rfl
theorem q1084 : (Jvm.Cond.methodLink "ShapeRelatorModel" (75 : Nat) ({ cls := "ShapeRelatorModel", name := "alike", desc := "(II)Z" } : Jvm.MethodName)) ∈ lw_all := lw_g (lw_at lw_m5 54 rfl) rfl
theorem q1085 : (Jvm.Cond.privateMethod ({ cls := "ShapeRelatorModel", name := "alike", desc := "(II)Z" } : Jvm.MethodName)) ∈ lw_tbl := lw_at lw_m5 55 rfl
theorem q1086 : (Jvm.Cond.instanceMethod ({ cls := "ShapeRelatorModel", name := "alike", desc := "(II)Z" } : Jvm.MethodName)) ∈ lw_all := lw_g (lw_at lw_m5 56 rfl) rfl
theorem q1087 : (Jvm.Cond.code ({ cls := "ShapeRelatorModel", name := "alike", desc := "(II)Z" } : Jvm.MethodName) prog_12_method_12_code (3 : Nat) (Option.some Jvm.ClassFile.FieldType.boolean)) ∈ lw_all := lw_g (lw_at lw_m5 57 rfl) rfl
theorem q1088 : (Jvm.Cond.methodLink "ShapeRelatorModel" (165 : Nat) ({ cls := "ShapeRelatorModel", name := "stand", desc := "(JJJJ)V" } : Jvm.MethodName)) ∈ lw_all := lw_g (lw_at lw_m5 58 rfl) rfl
theorem q1089 : (Jvm.Cond.privateMethod ({ cls := "ShapeRelatorModel", name := "stand", desc := "(JJJJ)V" } : Jvm.MethodName)) ∈ lw_tbl := lw_at lw_m5 59 rfl
theorem q1090 : (Jvm.Cond.instanceMethod ({ cls := "ShapeRelatorModel", name := "stand", desc := "(JJJJ)V" } : Jvm.MethodName)) ∈ lw_all := lw_g (lw_at lw_m5 60 rfl) rfl
theorem q1091 : (Jvm.Cond.code ({ cls := "ShapeRelatorModel", name := "stand", desc := "(JJJJ)V" } : Jvm.MethodName) prog_12_method_20_code (9 : Nat) (Option.none : Option Jvm.ClassFile.FieldType)) ∈ lw_all := lw_g (lw_at lw_m5 61 rfl) rfl
theorem q1092 : (Jvm.Cond.methodLink "ShapeRelatorModel" (169 : Nat) ({ cls := "ShapeRelatorModel", name := "at", desc := "(JJ)V" } : Jvm.MethodName)) ∈ lw_all := lw_g (lw_at lw_m5 62 rfl) rfl
theorem q1093 : (Jvm.Cond.privateMethod ({ cls := "ShapeRelatorModel", name := "at", desc := "(JJ)V" } : Jvm.MethodName)) ∈ lw_tbl := lw_at lw_m5 63 rfl
theorem q1094 : (Jvm.Cond.instanceMethod ({ cls := "ShapeRelatorModel", name := "at", desc := "(JJ)V" } : Jvm.MethodName)) ∈ lw_all := lw_g (lw_at lw_m5 64 rfl) rfl
theorem q1095 : (Jvm.Cond.code ({ cls := "ShapeRelatorModel", name := "at", desc := "(JJ)V" } : Jvm.MethodName) prog_12_method_21_code (5 : Nat) (Option.none : Option Jvm.ClassFile.FieldType)) ∈ lw_all := lw_g (lw_at lw_m5 65 rfl) rfl
theorem q1096 : (Jvm.Cond.methodLink "ShapeRelatorModel" (117 : Nat) ({ cls := "ShapeRelatorModel", name := "set", desc := "(IJ)V" } : Jvm.MethodName)) ∈ lw_all := lw_g (lw_at lw_m5 66 rfl) rfl
theorem q1097 : (Jvm.Cond.privateMethod ({ cls := "ShapeRelatorModel", name := "set", desc := "(IJ)V" } : Jvm.MethodName)) ∈ lw_tbl := lw_at lw_m5 67 rfl
theorem q1098 : (Jvm.Cond.instanceMethod ({ cls := "ShapeRelatorModel", name := "set", desc := "(IJ)V" } : Jvm.MethodName)) ∈ lw_all := lw_g (lw_at lw_m5 68 rfl) rfl
theorem q1099 : (Jvm.Cond.code ({ cls := "ShapeRelatorModel", name := "set", desc := "(IJ)V" } : Jvm.MethodName) prog_12_method_17_code (4 : Nat) (Option.none : Option Jvm.ClassFile.FieldType)) ∈ lw_all := lw_g (lw_at lw_m5 69 rfl) rfl
theorem q1100 : (Jvm.Cond.methodLink "ShapeRelatorModel" (97 : Nat) ({ cls := "ShapeRelatorModel", name := "clear", desc := "(I)V" } : Jvm.MethodName)) ∈ lw_all := lw_g (lw_at lw_m5 70 rfl) rfl
theorem q1101 : (Jvm.Cond.privateMethod ({ cls := "ShapeRelatorModel", name := "clear", desc := "(I)V" } : Jvm.MethodName)) ∈ lw_tbl := lw_at lw_m5 71 rfl
theorem q1102 : (Jvm.Cond.instanceMethod ({ cls := "ShapeRelatorModel", name := "clear", desc := "(I)V" } : Jvm.MethodName)) ∈ lw_all := lw_g (lw_at lw_m5 72 rfl) rfl
theorem q1103 : (Jvm.Cond.code ({ cls := "ShapeRelatorModel", name := "clear", desc := "(I)V" } : Jvm.MethodName) prog_12_method_15_code (3 : Nat) (Option.none : Option Jvm.ClassFile.FieldType)) ∈ lw_all := lw_g (lw_at lw_m5 73 rfl) rfl
theorem q1104 : (Jvm.Cond.constantLong "ShapeRelatorModel" (95 : Nat) (16777215 : Int64)) ∈ lw_all := lw_g (lw_at lw_m5 74 rfl) rfl
theorem q1105 : (Jvm.Cond.methodLink "ShapeRelatorModel" (101 : Nat) ({ cls := "ShapeRelatorModel", name := "settle", desc := "(I)V" } : Jvm.MethodName)) ∈ lw_all := lw_g (lw_at lw_m5 75 rfl) rfl
theorem q1106 : (Jvm.Cond.privateMethod ({ cls := "ShapeRelatorModel", name := "settle", desc := "(I)V" } : Jvm.MethodName)) ∈ lw_tbl := lw_at lw_m5 76 rfl
theorem q1107 : (Jvm.Cond.instanceMethod ({ cls := "ShapeRelatorModel", name := "settle", desc := "(I)V" } : Jvm.MethodName)) ∈ lw_all := lw_g (lw_at lw_m5 77 rfl) rfl
theorem q1108 : (Jvm.Cond.code ({ cls := "ShapeRelatorModel", name := "settle", desc := "(I)V" } : Jvm.MethodName) prog_12_method_16_code (9 : Nat) (Option.none : Option Jvm.ClassFile.FieldType)) ∈ lw_all := lw_g (lw_at lw_m5 78 rfl) rfl
theorem q1109 : (Jvm.Cond.constantLong "ShapeRelatorModel" (93 : Nat) (8388608 : Int64)) ∈ lw_all := lw_g (lw_at lw_m5 79 rfl) rfl
theorem q1110 : (Jvm.Cond.methodLink "ShapeRelatorModel" (173 : Nat) ({ cls := "ShapeRelatorModel", name := "where", desc := "(I)I" } : Jvm.MethodName)) ∈ lw_all := lw_g (lw_at lw_m5 80 rfl) rfl
theorem q1111 : (Jvm.Cond.privateMethod ({ cls := "ShapeRelatorModel", name := "where", desc := "(I)I" } : Jvm.MethodName)) ∈ lw_tbl := lw_at lw_m5 81 rfl
theorem q1112 : (Jvm.Cond.instanceMethod ({ cls := "ShapeRelatorModel", name := "where", desc := "(I)I" } : Jvm.MethodName)) ∈ lw_all := lw_g (lw_at lw_m5 82 rfl) rfl
theorem q1113 : (Jvm.Cond.code ({ cls := "ShapeRelatorModel", name := "where", desc := "(I)I" } : Jvm.MethodName) prog_12_method_34_code (3 : Nat) (Option.some Jvm.ClassFile.FieldType.int)) ∈ lw_all := lw_g (lw_at lw_m5 83 rfl) rfl
theorem q1114 : (Jvm.Cond.methodLink "ShapeRelatorModel" (150 : Nat) ({ cls := "ShapeRelatorModel", name := "hasPoint", desc := "(I)Z" } : Jvm.MethodName)) ∈ lw_all := lw_g (lw_at lw_m5 84 rfl) rfl
theorem q1115 : (Jvm.Cond.privateMethod ({ cls := "ShapeRelatorModel", name := "hasPoint", desc := "(I)Z" } : Jvm.MethodName)) ∈ lw_tbl := lw_at lw_m5 85 rfl
theorem q1116 : (Jvm.Cond.instanceMethod ({ cls := "ShapeRelatorModel", name := "hasPoint", desc := "(I)Z" } : Jvm.MethodName)) ∈ lw_all := lw_g (lw_at lw_m5 86 rfl) rfl
theorem q1117 : (Jvm.Cond.code ({ cls := "ShapeRelatorModel", name := "hasPoint", desc := "(I)Z" } : Jvm.MethodName) prog_12_method_32_code (4 : Nat) (Option.some Jvm.ClassFile.FieldType.boolean)) ∈ lw_all := lw_g (lw_at lw_m5 87 rfl) rfl
theorem q1118 : (Jvm.Cond.methodLink "ShapeRelatorModel" (147 : Nat) ({ cls := "ShapeRelatorModel", name := "isPoint", desc := "(I)Z" } : Jvm.MethodName)) ∈ lw_all := lw_g (lw_at lw_m5 88 rfl) rfl
theorem q1119 : (Jvm.Cond.privateMethod ({ cls := "ShapeRelatorModel", name := "isPoint", desc := "(I)Z" } : Jvm.MethodName)) ∈ lw_tbl := lw_at lw_m5 89 rfl
theorem q1120 : (Jvm.Cond.instanceMethod ({ cls := "ShapeRelatorModel", name := "isPoint", desc := "(I)Z" } : Jvm.MethodName)) ∈ lw_all := lw_g (lw_at lw_m5 90 rfl) rfl
theorem q1121 : (Jvm.Cond.code ({ cls := "ShapeRelatorModel", name := "isPoint", desc := "(I)Z" } : Jvm.MethodName) prog_12_method_27_code (2 : Nat) (Option.some Jvm.ClassFile.FieldType.boolean)) ∈ lw_all := lw_g (lw_at lw_m5 91 rfl) rfl
theorem q1122 : (Jvm.Cond.methodLink "ShapeRelatorModel" (131 : Nat) ({ cls := "ShapeRelatorModel", name := "overX", desc := "(J)I" } : Jvm.MethodName)) ∈ lw_all := lw_g (lw_at lw_m5 92 rfl) rfl
theorem q1123 : (Jvm.Cond.privateMethod ({ cls := "ShapeRelatorModel", name := "overX", desc := "(J)I" } : Jvm.MethodName)) ∈ lw_tbl := lw_at lw_m5 93 rfl
theorem q1124 : (Jvm.Cond.instanceMethod ({ cls := "ShapeRelatorModel", name := "overX", desc := "(J)I" } : Jvm.MethodName)) ∈ lw_all := lw_g (lw_at lw_m5 94 rfl) rfl
theorem q1125 : (Jvm.Cond.code ({ cls := "ShapeRelatorModel", name := "overX", desc := "(J)I" } : Jvm.MethodName) prog_12_method_24_code (3 : Nat) (Option.some Jvm.ClassFile.FieldType.int)) ∈ lw_all := lw_g (lw_at lw_m5 95 rfl) rfl
theorem q1126 : (Jvm.Cond.methodLink "ShapeRelatorModel" (127 : Nat) ({ cls := "ShapeRelatorModel", name := "sgn", desc := "(JJ)I" } : Jvm.MethodName)) ∈ lw_all := lw_g (lw_at lw_m5 96 rfl) rfl
theorem q1127 : (Jvm.Cond.privateMethod ({ cls := "ShapeRelatorModel", name := "sgn", desc := "(JJ)I" } : Jvm.MethodName)) ∈ lw_tbl := lw_at lw_m5 97 rfl
theorem q1128 : (Jvm.Cond.instanceMethod ({ cls := "ShapeRelatorModel", name := "sgn", desc := "(JJ)I" } : Jvm.MethodName)) ∈ lw_all := lw_g (lw_at lw_m5 98 rfl) rfl
theorem q1129 : (Jvm.Cond.code ({ cls := "ShapeRelatorModel", name := "sgn", desc := "(JJ)I" } : Jvm.MethodName) prog_12_method_23_code (5 : Nat) (Option.some Jvm.ClassFile.FieldType.int)) ∈ lw_all := lw_g (lw_at lw_m5 99 rfl) rfl
theorem q1130 : (Jvm.Cond.methodLink "ShapeRelatorModel" (121 : Nat) ({ cls := "ShapeRelatorModel", name := "product", desc := "(III)V" } : Jvm.MethodName)) ∈ lw_all := lw_g (lw_at lw_m5 100 rfl) rfl
theorem q1131 : (Jvm.Cond.privateMethod ({ cls := "ShapeRelatorModel", name := "product", desc := "(III)V" } : Jvm.MethodName)) ∈ lw_tbl := lw_at lw_m5 101 rfl
theorem q1132 : (Jvm.Cond.instanceMethod ({ cls := "ShapeRelatorModel", name := "product", desc := "(III)V" } : Jvm.MethodName)) ∈ lw_all := lw_g (lw_at lw_m5 102 rfl) rfl
theorem q1133 : (Jvm.Cond.code ({ cls := "ShapeRelatorModel", name := "product", desc := "(III)V" } : Jvm.MethodName) prog_12_method_18_code (8 : Nat) (Option.none : Option Jvm.ClassFile.FieldType)) ∈ lw_all := lw_g (lw_at lw_m5 103 rfl) rfl
theorem q1134 : (Jvm.Cond.methodLink "ShapeRelatorModel" (124 : Nat) ({ cls := "ShapeRelatorModel", name := "signOf", desc := "(I)I" } : Jvm.MethodName)) ∈ lw_all := lw_g (lw_at lw_m5 104 rfl) rfl
theorem q1135 : (Jvm.Cond.privateMethod ({ cls := "ShapeRelatorModel", name := "signOf", desc := "(I)I" } : Jvm.MethodName)) ∈ lw_tbl := lw_at lw_m5 105 rfl
theorem q1136 : (Jvm.Cond.instanceMethod ({ cls := "ShapeRelatorModel", name := "signOf", desc := "(I)I" } : Jvm.MethodName)) ∈ lw_all := lw_g (lw_at lw_m5 106 rfl) rfl
theorem q1137 : (Jvm.Cond.code ({ cls := "ShapeRelatorModel", name := "signOf", desc := "(I)I" } : Jvm.MethodName) prog_12_method_19_code (5 : Nat) (Option.some Jvm.ClassFile.FieldType.int)) ∈ lw_all := lw_g (lw_at lw_m5 107 rfl) rfl
theorem q1138 : (Jvm.Cond.methodLink "ShapeRelatorModel" (135 : Nat) ({ cls := "ShapeRelatorModel", name := "overY", desc := "(J)I" } : Jvm.MethodName)) ∈ lw_all := lw_g (lw_at lw_m5 108 rfl) rfl
theorem q1139 : (Jvm.Cond.privateMethod ({ cls := "ShapeRelatorModel", name := "overY", desc := "(J)I" } : Jvm.MethodName)) ∈ lw_tbl := lw_at lw_m5 109 rfl
theorem q1140 : (Jvm.Cond.instanceMethod ({ cls := "ShapeRelatorModel", name := "overY", desc := "(J)I" } : Jvm.MethodName)) ∈ lw_all := lw_g (lw_at lw_m5 110 rfl) rfl
theorem q1141 : (Jvm.Cond.code ({ cls := "ShapeRelatorModel", name := "overY", desc := "(J)I" } : Jvm.MethodName) prog_12_method_25_code (3 : Nat) (Option.some Jvm.ClassFile.FieldType.int)) ∈ lw_all := lw_g (lw_at lw_m5 111 rfl) rfl
theorem q1142 : (Jvm.Cond.methodLink "ShapeRelatorModel" (153 : Nat) ({ cls := "ShapeRelatorModel", name := "having", desc := "(I)I" } : Jvm.MethodName)) ∈ lw_all := lw_g (lw_at lw_m5 112 rfl) rfl
theorem q1143 : (Jvm.Cond.privateMethod ({ cls := "ShapeRelatorModel", name := "having", desc := "(I)I" } : Jvm.MethodName)) ∈ lw_tbl := lw_at lw_m5 113 rfl
theorem q1144 : (Jvm.Cond.instanceMethod ({ cls := "ShapeRelatorModel", name := "having", desc := "(I)I" } : Jvm.MethodName)) ∈ lw_all := lw_g (lw_at lw_m5 114 rfl) rfl
theorem q1145 : (Jvm.Cond.code ({ cls := "ShapeRelatorModel", name := "having", desc := "(I)I" } : Jvm.MethodName) prog_12_method_31_code (4 : Nat) (Option.some Jvm.ClassFile.FieldType.int)) ∈ lw_all := lw_g (lw_at lw_m5 115 rfl) rfl
theorem q1146 : (Jvm.Cond.methodLink "ShapeRelatorModel" (141 : Nat) ({ cls := "ShapeRelatorModel", name := "isOn", desc := "(I)Z" } : Jvm.MethodName)) ∈ lw_all := lw_g (lw_at lw_m5 116 rfl) rfl
theorem q1147 : (Jvm.Cond.privateMethod ({ cls := "ShapeRelatorModel", name := "isOn", desc := "(I)Z" } : Jvm.MethodName)) ∈ lw_tbl := lw_at lw_m5 117 rfl
theorem q1148 : (Jvm.Cond.instanceMethod ({ cls := "ShapeRelatorModel", name := "isOn", desc := "(I)Z" } : Jvm.MethodName)) ∈ lw_all := lw_g (lw_at lw_m5 118 rfl) rfl
theorem q1149 : (Jvm.Cond.code ({ cls := "ShapeRelatorModel", name := "isOn", desc := "(I)Z" } : Jvm.MethodName) prog_12_method_28_code (4 : Nat) (Option.some Jvm.ClassFile.FieldType.boolean)) ∈ lw_all := lw_g (lw_at lw_m5 119 rfl) rfl
theorem q1150 : (Jvm.Cond.methodLink "ShapeRelatorModel" (138 : Nat) ({ cls := "ShapeRelatorModel", name := "side", desc := "(II)I" } : Jvm.MethodName)) ∈ lw_all := lw_g (lw_at lw_m5 120 rfl) rfl
theorem q1151 : (Jvm.Cond.privateMethod ({ cls := "ShapeRelatorModel", name := "side", desc := "(II)I" } : Jvm.MethodName)) ∈ lw_tbl := lw_at lw_m5 121 rfl
theorem q1152 : (Jvm.Cond.instanceMethod ({ cls := "ShapeRelatorModel", name := "side", desc := "(II)I" } : Jvm.MethodName)) ∈ lw_all := lw_g (lw_at lw_m5 122 rfl) rfl
theorem q1153 : (Jvm.Cond.code ({ cls := "ShapeRelatorModel", name := "side", desc := "(II)I" } : Jvm.MethodName) prog_12_method_26_code (7 : Nat) (Option.some Jvm.ClassFile.FieldType.int)) ∈ lw_all := lw_g (lw_at lw_m5 123 rfl) rfl
theorem q1154 : (Jvm.Cond.methodLink "ShapeRelatorModel" (156 : Nat) ({ cls := "ShapeRelatorModel", name := "isEnd", desc := "(I)Z" } : Jvm.MethodName)) ∈ lw_all := lw_g (lw_at lw_m5 124 rfl) rfl
theorem q1155 : (Jvm.Cond.privateMethod ({ cls := "ShapeRelatorModel", name := "isEnd", desc := "(I)Z" } : Jvm.MethodName)) ∈ lw_tbl := lw_at lw_m5 125 rfl
theorem q1156 : (Jvm.Cond.instanceMethod ({ cls := "ShapeRelatorModel", name := "isEnd", desc := "(I)Z" } : Jvm.MethodName)) ∈ lw_all := lw_g (lw_at lw_m5 126 rfl) rfl
theorem q1157 : (Jvm.Cond.code ({ cls := "ShapeRelatorModel", name := "isEnd", desc := "(I)Z" } : Jvm.MethodName) prog_12_method_33_code (6 : Nat) (Option.some Jvm.ClassFile.FieldType.boolean)) ∈ lw_all := lw_g (lw_at lw_m5 127 rfl) rfl
theorem q1158 : (Jvm.Cond.methodLink "ShapeRelatorModel" (159 : Nat) ({ cls := "ShapeRelatorModel", name := "crossed", desc := "(I)I" } : Jvm.MethodName)) ∈ lw_all := lw_g (lw_at lw_m5 128 rfl) rfl
theorem q1159 : (Jvm.Cond.privateMethod ({ cls := "ShapeRelatorModel", name := "crossed", desc := "(I)I" } : Jvm.MethodName)) ∈ lw_tbl := lw_at lw_m5 129 rfl
theorem q1160 : (Jvm.Cond.instanceMethod ({ cls := "ShapeRelatorModel", name := "crossed", desc := "(I)I" } : Jvm.MethodName)) ∈ lw_all := lw_g (lw_at lw_m5 130 rfl) rfl
theorem q1161 : (Jvm.Cond.code ({ cls := "ShapeRelatorModel", name := "crossed", desc := "(I)I" } : Jvm.MethodName) prog_12_method_30_code (4 : Nat) (Option.some Jvm.ClassFile.FieldType.int)) ∈ lw_all := lw_g (lw_at lw_m5 131 rfl) rfl
theorem q1162 : (Jvm.Cond.methodLink "ShapeRelatorModel" (144 : Nat) ({ cls := "ShapeRelatorModel", name := "crosses", desc := "(I)Z" } : Jvm.MethodName)) ∈ lw_all := lw_g (lw_at lw_m5 132 rfl) rfl
theorem q1163 : (Jvm.Cond.privateMethod ({ cls := "ShapeRelatorModel", name := "crosses", desc := "(I)Z" } : Jvm.MethodName)) ∈ lw_tbl := lw_at lw_m5 133 rfl
theorem q1164 : (Jvm.Cond.instanceMethod ({ cls := "ShapeRelatorModel", name := "crosses", desc := "(I)Z" } : Jvm.MethodName)) ∈ lw_all := lw_g (lw_at lw_m5 134 rfl) rfl
theorem q1165 : (Jvm.Cond.code ({ cls := "ShapeRelatorModel", name := "crosses", desc := "(I)Z" } : Jvm.MethodName) prog_12_method_29_code (4 : Nat) (Option.some Jvm.ClassFile.FieldType.boolean)) ∈ lw_all := lw_g (lw_at lw_m5 135 rfl) rfl
theorem q1167 : (Jvm.Cond.instanceMethod ({ cls := "ShapeRelatorModel", name := "relate", desc := "()I" } : Jvm.MethodName)) ∈ lw_all := lw_g (lw_at lw_m5 137 rfl) rfl
theorem q1168 : (Jvm.Cond.selects "ShapeRelatorModel" ({ cls := "ShapeRelatorModel", name := "relate", desc := "()I" } : Jvm.MethodName) ({ cls := "ShapeRelatorModel", name := "relate", desc := "()I" } : Jvm.MethodName)) ∈ lw_all := lw_g (lw_at lw_m5 138 rfl) rfl
theorem q1169 : (Jvm.Cond.code ({ cls := "ShapeRelatorModel", name := "relate", desc := "()I" } : Jvm.MethodName) prog_12_method_46_code (3 : Nat) (Option.some Jvm.ClassFile.FieldType.int)) ∈ lw_all := lw_g (lw_at lw_m5 139 rfl) rfl
theorem q1170 : (Jvm.Cond.methodLink "ShapeRelatorModel" (212 : Nat) ({ cls := "ShapeRelatorModel", name := "look", desc := "()V" } : Jvm.MethodName)) ∈ lw_all := lw_g (lw_at lw_m5 140 rfl) rfl
theorem q1171 : (Jvm.Cond.privateMethod ({ cls := "ShapeRelatorModel", name := "look", desc := "()V" } : Jvm.MethodName)) ∈ lw_tbl := lw_at lw_m5 141 rfl
theorem q1172 : (Jvm.Cond.instanceMethod ({ cls := "ShapeRelatorModel", name := "look", desc := "()V" } : Jvm.MethodName)) ∈ lw_all := lw_g (lw_at lw_m5 142 rfl) rfl
theorem q1173 : (Jvm.Cond.code ({ cls := "ShapeRelatorModel", name := "look", desc := "()V" } : Jvm.MethodName) prog_12_method_45_code (3 : Nat) (Option.none : Option Jvm.ClassFile.FieldType)) ∈ lw_all := lw_g (lw_at lw_m5 143 rfl) rfl
theorem q1174 : (Jvm.Cond.methodLink "ShapeRelatorModel" (186 : Nat) ({ cls := "ShapeRelatorModel", name := "cutAt", desc := "(I)V" } : Jvm.MethodName)) ∈ lw_all := lw_g (lw_at lw_m5 144 rfl) rfl
theorem q1175 : (Jvm.Cond.privateMethod ({ cls := "ShapeRelatorModel", name := "cutAt", desc := "(I)V" } : Jvm.MethodName)) ∈ lw_tbl := lw_at lw_m5 145 rfl
theorem q1176 : (Jvm.Cond.instanceMethod ({ cls := "ShapeRelatorModel", name := "cutAt", desc := "(I)V" } : Jvm.MethodName)) ∈ lw_all := lw_g (lw_at lw_m5 146 rfl) rfl
theorem q1177 : (Jvm.Cond.code ({ cls := "ShapeRelatorModel", name := "cutAt", desc := "(I)V" } : Jvm.MethodName) prog_12_method_38_code (2 : Nat) (Option.none : Option Jvm.ClassFile.FieldType)) ∈ lw_all := lw_g (lw_at lw_m5 147 rfl) rfl
theorem q1178 : (Jvm.Cond.methodLink "ShapeRelatorModel" (199 : Nat) ({ cls := "ShapeRelatorModel", name := "mark", desc := "(III)V" } : Jvm.MethodName)) ∈ lw_all := lw_g (lw_at lw_m5 148 rfl) rfl
theorem q1179 : (Jvm.Cond.privateMethod ({ cls := "ShapeRelatorModel", name := "mark", desc := "(III)V" } : Jvm.MethodName)) ∈ lw_tbl := lw_at lw_m5 149 rfl
theorem q1180 : (Jvm.Cond.instanceMethod ({ cls := "ShapeRelatorModel", name := "mark", desc := "(III)V" } : Jvm.MethodName)) ∈ lw_all := lw_g (lw_at lw_m5 150 rfl) rfl
theorem q1181 : (Jvm.Cond.code ({ cls := "ShapeRelatorModel", name := "mark", desc := "(III)V" } : Jvm.MethodName) prog_12_method_42_code (5 : Nat) (Option.none : Option Jvm.ClassFile.FieldType)) ∈ lw_all := lw_g (lw_at lw_m5 151 rfl) rfl
theorem q1182 : (Jvm.Cond.methodLink "ShapeRelatorModel" (206 : Nat) ({ cls := "ShapeRelatorModel", name := "cutAll", desc := "(I)V" } : Jvm.MethodName)) ∈ lw_all := lw_g (lw_at lw_m5 152 rfl) rfl
theorem q1183 : (Jvm.Cond.privateMethod ({ cls := "ShapeRelatorModel", name := "cutAll", desc := "(I)V" } : Jvm.MethodName)) ∈ lw_tbl := lw_at lw_m5 153 rfl
theorem q1184 : (Jvm.Cond.instanceMethod ({ cls := "ShapeRelatorModel", name := "cutAll", desc := "(I)V" } : Jvm.MethodName)) ∈ lw_all := lw_g (lw_at lw_m5 154 rfl) rfl
theorem q1185 : (Jvm.Cond.code ({ cls := "ShapeRelatorModel", name := "cutAll", desc := "(I)V" } : Jvm.MethodName) prog_12_method_41_code (4 : Nat) (Option.none : Option Jvm.ClassFile.FieldType)) ∈ lw_all := lw_g (lw_at lw_m5 155 rfl) rfl
theorem q1186 : (Jvm.Cond.methodLink "ShapeRelatorModel" (183 : Nat) ({ cls := "ShapeRelatorModel", name := "cut", desc := "(JJ)V" } : Jvm.MethodName)) ∈ lw_all := lw_g (lw_at lw_m5 156 rfl) rfl
theorem q1187 : (Jvm.Cond.privateMethod ({ cls := "ShapeRelatorModel", name := "cut", desc := "(JJ)V" } : Jvm.MethodName)) ∈ lw_tbl := lw_at lw_m5 157 rfl
theorem q1188 : (Jvm.Cond.instanceMethod ({ cls := "ShapeRelatorModel", name := "cut", desc := "(JJ)V" } : Jvm.MethodName)) ∈ lw_all := lw_g (lw_at lw_m5 158 rfl) rfl
theorem q1189 : (Jvm.Cond.code ({ cls := "ShapeRelatorModel", name := "cut", desc := "(JJ)V" } : Jvm.MethodName) prog_12_method_37_code (8 : Nat) (Option.none : Option Jvm.ClassFile.FieldType)) ∈ lw_all := lw_g (lw_at lw_m5 159 rfl) rfl
theorem q1190 : (Jvm.Cond.methodLink "ShapeRelatorModel" (179 : Nat) ({ cls := "ShapeRelatorModel", name := "compare", desc := "(JJJJ)I" } : Jvm.MethodName)) ∈ lw_all := lw_g (lw_at lw_m5 160 rfl) rfl
theorem q1191 : (Jvm.Cond.static ({ cls := "ShapeRelatorModel", name := "compare", desc := "(JJJJ)I" } : Jvm.MethodName)) ∈ lw_all := lw_g (lw_at lw_m5 161 rfl) rfl
theorem q1192 : (Jvm.Cond.code ({ cls := "ShapeRelatorModel", name := "compare", desc := "(JJJJ)I" } : Jvm.MethodName) prog_12_method_36_code (25 : Nat) (Option.some Jvm.ClassFile.FieldType.int)) ∈ lw_all := lw_g (lw_at lw_m5 162 rfl) rfl
theorem q1193 : (Jvm.Cond.methodLink "ShapeRelatorModel" (189 : Nat) ({ cls := "ShapeRelatorModel", name := "cutByPoint", desc := "(II)V" } : Jvm.MethodName)) ∈ lw_all := lw_g (lw_at lw_m5 163 rfl) rfl
theorem q1194 : (Jvm.Cond.privateMethod ({ cls := "ShapeRelatorModel", name := "cutByPoint", desc := "(II)V" } : Jvm.MethodName)) ∈ lw_tbl := lw_at lw_m5 164 rfl
theorem q1195 : (Jvm.Cond.instanceMethod ({ cls := "ShapeRelatorModel", name := "cutByPoint", desc := "(II)V" } : Jvm.MethodName)) ∈ lw_all := lw_g (lw_at lw_m5 165 rfl) rfl
theorem q1196 : (Jvm.Cond.code ({ cls := "ShapeRelatorModel", name := "cutByPoint", desc := "(II)V" } : Jvm.MethodName) prog_12_method_39_code (11 : Nat) (Option.none : Option Jvm.ClassFile.FieldType)) ∈ lw_all := lw_g (lw_at lw_m5 166 rfl) rfl
theorem q1197 : (Jvm.Cond.methodLink "ShapeRelatorModel" (193 : Nat) ({ cls := "ShapeRelatorModel", name := "cutBySegment", desc := "(II)V" } : Jvm.MethodName)) ∈ lw_all := lw_g (lw_at lw_m5 167 rfl) rfl
theorem q1198 : (Jvm.Cond.privateMethod ({ cls := "ShapeRelatorModel", name := "cutBySegment", desc := "(II)V" } : Jvm.MethodName)) ∈ lw_tbl := lw_at lw_m5 168 rfl
theorem q1199 : (Jvm.Cond.instanceMethod ({ cls := "ShapeRelatorModel", name := "cutBySegment", desc := "(II)V" } : Jvm.MethodName)) ∈ lw_all := lw_g (lw_at lw_m5 169 rfl) rfl
theorem q1200 : (Jvm.Cond.code ({ cls := "ShapeRelatorModel", name := "cutBySegment", desc := "(II)V" } : Jvm.MethodName) prog_12_method_40_code (21 : Nat) (Option.none : Option Jvm.ClassFile.FieldType)) ∈ lw_all := lw_g (lw_at lw_m5 170 rfl) rfl
theorem q1201 : (Jvm.Cond.methodLink "ShapeRelatorModel" (209 : Nat) ({ cls := "ShapeRelatorModel", name := "piece", desc := "(II)V" } : Jvm.MethodName)) ∈ lw_all := lw_g (lw_at lw_m5 171 rfl) rfl
theorem q1202 : (Jvm.Cond.privateMethod ({ cls := "ShapeRelatorModel", name := "piece", desc := "(II)V" } : Jvm.MethodName)) ∈ lw_tbl := lw_at lw_m5 172 rfl
theorem q1203 : (Jvm.Cond.instanceMethod ({ cls := "ShapeRelatorModel", name := "piece", desc := "(II)V" } : Jvm.MethodName)) ∈ lw_all := lw_g (lw_at lw_m5 173 rfl) rfl
theorem q1204 : (Jvm.Cond.code ({ cls := "ShapeRelatorModel", name := "piece", desc := "(II)V" } : Jvm.MethodName) prog_12_method_44_code (3 : Nat) (Option.none : Option Jvm.ClassFile.FieldType)) ∈ lw_all := lw_g (lw_at lw_m5 174 rfl) rfl
theorem q1205 : (Jvm.Cond.methodLink "ShapeRelatorModel" (196 : Nat) ({ cls := "ShapeRelatorModel", name := "between", desc := "(JJJJ)V" } : Jvm.MethodName)) ∈ lw_all := lw_g (lw_at lw_m5 175 rfl) rfl
theorem q1206 : (Jvm.Cond.privateMethod ({ cls := "ShapeRelatorModel", name := "between", desc := "(JJJJ)V" } : Jvm.MethodName)) ∈ lw_tbl := lw_at lw_m5 176 rfl
theorem q1207 : (Jvm.Cond.instanceMethod ({ cls := "ShapeRelatorModel", name := "between", desc := "(JJJJ)V" } : Jvm.MethodName)) ∈ lw_all := lw_g (lw_at lw_m5 177 rfl) rfl
theorem q1208 : (Jvm.Cond.code ({ cls := "ShapeRelatorModel", name := "between", desc := "(JJJJ)V" } : Jvm.MethodName) prog_12_method_22_code (9 : Nat) (Option.none : Option Jvm.ClassFile.FieldType)) ∈ lw_all := lw_g (lw_at lw_m5 178 rfl) rfl
theorem q1209 : (Jvm.Cond.methodLink "ShapeRelatorModel" (202 : Nat) ({ cls := "ShapeRelatorModel", name := "beside", desc := "(IZ)I" } : Jvm.MethodName)) ∈ lw_all := lw_g (lw_at lw_m5 179 rfl) rfl
theorem q1210 : (Jvm.Cond.privateMethod ({ cls := "ShapeRelatorModel", name := "beside", desc := "(IZ)I" } : Jvm.MethodName)) ∈ lw_tbl := lw_at lw_m5 180 rfl
theorem q1211 : (Jvm.Cond.instanceMethod ({ cls := "ShapeRelatorModel", name := "beside", desc := "(IZ)I" } : Jvm.MethodName)) ∈ lw_all := lw_g (lw_at lw_m5 181 rfl) rfl
theorem q1212 : (Jvm.Cond.code ({ cls := "ShapeRelatorModel", name := "beside", desc := "(IZ)I" } : Jvm.MethodName) prog_12_method_43_code (4 : Nat) (Option.some Jvm.ClassFile.FieldType.int)) ∈ lw_all := lw_g (lw_at lw_m5 182 rfl) rfl
theorem q1214 : (Jvm.Cond.instanceMethod ({ cls := "ShapeRelatorModel", name := "entry", desc := "(II)I" } : Jvm.MethodName)) ∈ lw_all := lw_g (lw_at lw_m5 184 rfl) rfl
theorem q1215 : (Jvm.Cond.selects "ShapeRelatorModel" ({ cls := "ShapeRelatorModel", name := "entry", desc := "(II)I" } : Jvm.MethodName) ({ cls := "ShapeRelatorModel", name := "entry", desc := "(II)I" } : Jvm.MethodName)) ∈ lw_all := lw_g (lw_at lw_m5 185 rfl) rfl
theorem q1216 : (Jvm.Cond.code ({ cls := "ShapeRelatorModel", name := "entry", desc := "(II)I" } : Jvm.MethodName) prog_12_method_47_code (3 : Nat) (Option.some Jvm.ClassFile.FieldType.int)) ∈ lw_all := lw_g (lw_at lw_m5 186 rfl) rfl
theorem q1218 : (Jvm.Cond.instanceMethod ({ cls := "ShapeRelatorModel", name := "is", desc := "(I)Z" } : Jvm.MethodName)) ∈ lw_all := lw_g (lw_at lw_m5 188 rfl) rfl
theorem q1219 : (Jvm.Cond.selects "ShapeRelatorModel" ({ cls := "ShapeRelatorModel", name := "is", desc := "(I)Z" } : Jvm.MethodName) ({ cls := "ShapeRelatorModel", name := "is", desc := "(I)Z" } : Jvm.MethodName)) ∈ lw_all := lw_g (lw_at lw_m5 189 rfl) rfl
theorem q1220 : (Jvm.Cond.code ({ cls := "ShapeRelatorModel", name := "is", desc := "(I)Z" } : Jvm.MethodName) prog_12_method_54_code (4 : Nat) (Option.some Jvm.ClassFile.FieldType.boolean)) ∈ lw_all := lw_g (lw_at lw_m5 190 rfl) rfl
theorem q1221 : (Jvm.Cond.methodLink "ShapeRelatorModel" (221 : Nat) ({ cls := "ShapeRelatorModel", name := "insideOf", desc := "(I)I" } : Jvm.MethodName)) ∈ lw_all := lw_g (lw_at lw_m5 191 rfl) rfl
theorem q1222 : (Jvm.Cond.privateMethod ({ cls := "ShapeRelatorModel", name := "insideOf", desc := "(I)I" } : Jvm.MethodName)) ∈ lw_tbl := lw_at lw_m5 192 rfl
theorem q1223 : (Jvm.Cond.instanceMethod ({ cls := "ShapeRelatorModel", name := "insideOf", desc := "(I)I" } : Jvm.MethodName)) ∈ lw_all := lw_g (lw_at lw_m5 193 rfl) rfl
theorem q1224 : (Jvm.Cond.code ({ cls := "ShapeRelatorModel", name := "insideOf", desc := "(I)I" } : Jvm.MethodName) prog_12_method_49_code (2 : Nat) (Option.some Jvm.ClassFile.FieldType.int)) ∈ lw_all := lw_g (lw_at lw_m5 194 rfl) rfl
theorem q1225 : (Jvm.Cond.methodLink "ShapeRelatorModel" (215 : Nat) ({ cls := "ShapeRelatorModel", name := "hasSegments", desc := "(I)Z" } : Jvm.MethodName)) ∈ lw_all := lw_g (lw_at lw_m5 195 rfl) rfl
theorem q1226 : (Jvm.Cond.privateMethod ({ cls := "ShapeRelatorModel", name := "hasSegments", desc := "(I)Z" } : Jvm.MethodName)) ∈ lw_tbl := lw_at lw_m5 196 rfl
theorem q1227 : (Jvm.Cond.instanceMethod ({ cls := "ShapeRelatorModel", name := "hasSegments", desc := "(I)Z" } : Jvm.MethodName)) ∈ lw_all := lw_g (lw_at lw_m5 197 rfl) rfl
theorem q1228 : (Jvm.Cond.code ({ cls := "ShapeRelatorModel", name := "hasSegments", desc := "(I)Z" } : Jvm.MethodName) prog_12_method_48_code (4 : Nat) (Option.some Jvm.ClassFile.FieldType.boolean)) ∈ lw_all := lw_g (lw_at lw_m5 198 rfl) rfl
theorem q1229 : (Jvm.Cond.methodLink "ShapeRelatorModel" (218 : Nat) ({ cls := "ShapeRelatorModel", name := "there", desc := "(II)Z" } : Jvm.MethodName)) ∈ lw_all := lw_g (lw_at lw_m5 199 rfl) rfl
theorem q1230 : (Jvm.Cond.privateMethod ({ cls := "ShapeRelatorModel", name := "there", desc := "(II)Z" } : Jvm.MethodName)) ∈ lw_tbl := lw_at lw_m5 200 rfl
theorem q1231 : (Jvm.Cond.instanceMethod ({ cls := "ShapeRelatorModel", name := "there", desc := "(II)Z" } : Jvm.MethodName)) ∈ lw_all := lw_g (lw_at lw_m5 201 rfl) rfl
theorem q1232 : (Jvm.Cond.code ({ cls := "ShapeRelatorModel", name := "there", desc := "(II)Z" } : Jvm.MethodName) prog_12_method_50_code (3 : Nat) (Option.some Jvm.ClassFile.FieldType.boolean)) ∈ lw_all := lw_g (lw_at lw_m5 202 rfl) rfl
theorem q1233 : (Jvm.Cond.methodLink "ShapeRelatorModel" (224 : Nat) ({ cls := "ShapeRelatorModel", name := "none", desc := "(II)Z" } : Jvm.MethodName)) ∈ lw_all := lw_g (lw_at lw_m5 203 rfl) rfl
theorem q1234 : (Jvm.Cond.privateMethod ({ cls := "ShapeRelatorModel", name := "none", desc := "(II)Z" } : Jvm.MethodName)) ∈ lw_tbl := lw_at lw_m5 204 rfl
theorem q1235 : (Jvm.Cond.instanceMethod ({ cls := "ShapeRelatorModel", name := "none", desc := "(II)Z" } : Jvm.MethodName)) ∈ lw_all := lw_g (lw_at lw_m5 205 rfl) rfl
theorem q1236 : (Jvm.Cond.code ({ cls := "ShapeRelatorModel", name := "none", desc := "(II)Z" } : Jvm.MethodName) prog_12_method_52_code (3 : Nat) (Option.some Jvm.ClassFile.FieldType.boolean)) ∈ lw_all := lw_g (lw_at lw_m5 206 rfl) rfl
theorem q1237 : (Jvm.Cond.methodLink "ShapeRelatorModel" (227 : Nat) ({ cls := "ShapeRelatorModel", name := "meet", desc := "()Z" } : Jvm.MethodName)) ∈ lw_all := lw_g (lw_at lw_m5 207 rfl) rfl
theorem q1238 : (Jvm.Cond.privateMethod ({ cls := "ShapeRelatorModel", name := "meet", desc := "()Z" } : Jvm.MethodName)) ∈ lw_tbl := lw_at lw_m5 208 rfl
theorem q1239 : (Jvm.Cond.instanceMethod ({ cls := "ShapeRelatorModel", name := "meet", desc := "()Z" } : Jvm.MethodName)) ∈ lw_all := lw_g (lw_at lw_m5 209 rfl) rfl
theorem q1240 : (Jvm.Cond.code ({ cls := "ShapeRelatorModel", name := "meet", desc := "()Z" } : Jvm.MethodName) prog_12_method_51_code (1 : Nat) (Option.some Jvm.ClassFile.FieldType.boolean)) ∈ lw_all := lw_g (lw_at lw_m5 210 rfl) rfl
theorem q1241 : (Jvm.Cond.methodLink "ShapeRelatorModel" (231 : Nat) ({ cls := "ShapeRelatorModel", name := "crossing", desc := "(II)Z" } : Jvm.MethodName)) ∈ lw_all := lw_g (lw_at lw_m5 211 rfl) rfl
theorem q1242 : (Jvm.Cond.privateMethod ({ cls := "ShapeRelatorModel", name := "crossing", desc := "(II)Z" } : Jvm.MethodName)) ∈ lw_tbl := lw_at lw_m5 212 rfl
theorem q1243 : (Jvm.Cond.instanceMethod ({ cls := "ShapeRelatorModel", name := "crossing", desc := "(II)Z" } : Jvm.MethodName)) ∈ lw_all := lw_g (lw_at lw_m5 213 rfl) rfl
theorem q1244 : (Jvm.Cond.code ({ cls := "ShapeRelatorModel", name := "crossing", desc := "(II)Z" } : Jvm.MethodName) prog_12_method_53_code (3 : Nat) (Option.some Jvm.ClassFile.FieldType.boolean)) ∈ lw_all := lw_g (lw_at lw_m5 214 rfl) rfl
theorem q1246 : (Jvm.Cond.instanceMethod ({ cls := "ShapeRelatorModel", name := "dimension", desc := "(I)I" } : Jvm.MethodName)) ∈ lw_all := lw_g (lw_at lw_m5 216 rfl) rfl
theorem q1247 : (Jvm.Cond.selects "ShapeRelatorModel" ({ cls := "ShapeRelatorModel", name := "dimension", desc := "(I)I" } : Jvm.MethodName) ({ cls := "ShapeRelatorModel", name := "dimension", desc := "(I)I" } : Jvm.MethodName)) ∈ lw_all := lw_g (lw_at lw_m5 217 rfl) rfl
theorem q1248 : (Jvm.Cond.code ({ cls := "ShapeRelatorModel", name := "dimension", desc := "(I)I" } : Jvm.MethodName) prog_12_method_55_code (3 : Nat) (Option.some Jvm.ClassFile.FieldType.int)) ∈ lw_all := lw_g (lw_at lw_m5 218 rfl) rfl
theorem q1250 : (Jvm.Cond.instanceMethod ({ cls := "ShapeRelatorModel", name := "count", desc := "(II)I" } : Jvm.MethodName)) ∈ lw_all := lw_g (lw_at lw_m5 220 rfl) rfl
theorem q1251 : (Jvm.Cond.selects "ShapeRelatorModel" ({ cls := "ShapeRelatorModel", name := "count", desc := "(II)I" } : Jvm.MethodName) ({ cls := "ShapeRelatorModel", name := "count", desc := "(II)I" } : Jvm.MethodName)) ∈ lw_all := lw_g (lw_at lw_m5 221 rfl) rfl
theorem q1252 : (Jvm.Cond.code ({ cls := "ShapeRelatorModel", name := "count", desc := "(II)I" } : Jvm.MethodName) prog_12_method_56_code (3 : Nat) (Option.some Jvm.ClassFile.FieldType.int)) ∈ lw_all := lw_g (lw_at lw_m5 222 rfl) rfl
theorem in_X10 : ∀ w ∈ wsX100, w ∈ lw_all := lw_in wsX100 [990, 992, 994, 996, 998, 1000, 1002, 1004, 1006, 1008, 1010, 1012, 1014, 1016, 1018, 1020, 1022, 1024, 1026, 1028, 1030] (by decide +kernel) (by decide +kernel)
